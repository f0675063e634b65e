set_option maxRecDepth 100000
/-! java/util/AbstractCollection.<init>()V -/
def f_J0_init_J1 (G : Nat → Nat) (l0 : Nat) (s0 : zS) : Option (Unit × zS) :=
some ((), s0)
set_option maxHeartbeats 4000000 in
theorem m_J0_init_J1 (Γ : zG) (l0 : Nat) (s0 s1 : zS) (r : Unit) (hf : f_J0_init_J1 Γ.1 l0 s0 = some (r, s1)) : ZM Γ yJ0_init (ws_ yJ0_init cJ0_init 1 none) 1 12 [zr (some l0)] s0 (.inl none, s1) := by
  refine ZM.of (own := RJ0) (by decide) rfl (Nat.le_of_ble_eq_true rfl) ?_
  intro X hg hC hL hno hQ hin
  subst hg
  unfold f_J0_init_J1 at hf
  refine z_aload_n hC (pc := 0) dJ0_init_0 rfl 0 rfl ?_
  refine z_objInit hC (pc := 1) q173 q163 q164 (Nat.le_of_ble_eq_true rfl) (Nat.le_of_ble_eq_true rfl) dJ0_init_1 ?_
  exact z_return hC (pc := 4) hQ dJ0_init_4 hf
/-! java/util/AbstractCollection.<init>()V -/
def f_J0_init_J33 (G : Nat → Nat) (l0 : Nat) (s0 : zS) : Option (Unit × zS) :=
some ((), s0)
set_option maxHeartbeats 4000000 in
theorem m_J0_init_J33 (Γ : zG) (l0 : Nat) (s0 s1 : zS) (r : Unit) (hf : f_J0_init_J33 Γ.1 l0 s0 = some (r, s1)) : ZM Γ yJ0_init (ws_ yJ0_init cJ0_init 1 none) 1 12 [zr (some l0)] s0 (.inl none, s1) := by
  refine ZM.of (own := RJ0) (by decide) rfl (Nat.le_of_ble_eq_true rfl) ?_
  intro X hg hC hL hno hQ hin
  subst hg
  unfold f_J0_init_J33 at hf
  refine z_aload_n hC (pc := 0) dJ0_init_0 rfl 0 rfl ?_
  refine z_objInit hC (pc := 1) q173 q163 q164 (Nat.le_of_ble_eq_true rfl) (Nat.le_of_ble_eq_true rfl) dJ0_init_1 ?_
  exact z_return hC (pc := 4) hQ dJ0_init_4 hf
/-! java/util/AbstractCollection.<init>()V -/
def f_J0_init_J38 (G : Nat → Nat) (l0 : Nat) (s0 : zS) : Option (Unit × zS) :=
some ((), s0)
set_option maxHeartbeats 4000000 in
theorem m_J0_init_J38 (Γ : zG) (l0 : Nat) (s0 s1 : zS) (r : Unit) (hf : f_J0_init_J38 Γ.1 l0 s0 = some (r, s1)) : ZM Γ yJ0_init (ws_ yJ0_init cJ0_init 1 none) 1 12 [zr (some l0)] s0 (.inl none, s1) := by
  refine ZM.of (own := RJ0) (by decide) rfl (Nat.le_of_ble_eq_true rfl) ?_
  intro X hg hC hL hno hQ hin
  subst hg
  unfold f_J0_init_J38 at hf
  refine z_aload_n hC (pc := 0) dJ0_init_0 rfl 0 rfl ?_
  refine z_objInit hC (pc := 1) q173 q163 q164 (Nat.le_of_ble_eq_true rfl) (Nat.le_of_ble_eq_true rfl) dJ0_init_1 ?_
  exact z_return hC (pc := 4) hQ dJ0_init_4 hf
/-! java/util/AbstractCollection.<init>()V -/
def f_J0_init_J5 (G : Nat → Nat) (l0 : Nat) (s0 : zS) : Option (Unit × zS) :=
some ((), s0)
set_option maxHeartbeats 4000000 in
theorem m_J0_init_J5 (Γ : zG) (l0 : Nat) (s0 s1 : zS) (r : Unit) (hf : f_J0_init_J5 Γ.1 l0 s0 = some (r, s1)) : ZM Γ yJ0_init (ws_ yJ0_init cJ0_init 1 none) 1 12 [zr (some l0)] s0 (.inl none, s1) := by
  refine ZM.of (own := RJ0) (by decide) rfl (Nat.le_of_ble_eq_true rfl) ?_
  intro X hg hC hL hno hQ hin
  subst hg
  unfold f_J0_init_J5 at hf
  refine z_aload_n hC (pc := 0) dJ0_init_0 rfl 0 rfl ?_
  refine z_objInit hC (pc := 1) q173 q163 q164 (Nat.le_of_ble_eq_true rfl) (Nat.le_of_ble_eq_true rfl) dJ0_init_1 ?_
  exact z_return hC (pc := 4) hQ dJ0_init_4 hf
/-! jdk/internal/util/ArraysSupport.newLength(III)I -/
def f_J14_newLength_b21 (G : Nat → Nat) (l0 : Int32) (l1 : Int32) (s0 : zS) : Option (Int32 × zS) :=
none
set_option maxHeartbeats 4000000 in
theorem w_J14_newLength_b21 {X : zX} (hC : ZC X RJ14 cJ14_newLength (some .int) 1 17) (hL : X.nL = 4) (hno : ∀ x ∈ X.c.exceptionTable.toList, False) {r : Int32} {sF : zS} (hQ : ZQ X (.inl (some (zi r)), sF)) (l0 : Int32) (l1 : Int32) (s0 : zS) (hf : f_J14_newLength_b21 X.g.1 l0 l1 s0 = some (r, sF)) : ZW X s0 21 [(0, zi l0), (1, zi l1)] [] := by
  unfold f_J14_newLength_b21 at hf
  refine z_iload_n hC (pc := 21) dJ14_newLength_21 rfl 0 rfl ?_
  refine z_iload_n hC (pc := 22) dJ14_newLength_22 rfl 1 rfl ?_
  cases hf
def f_J14_newLength (G : Nat → Nat) (l0 : Int32) (l1 : Int32) (l2 : Int32) (s0 : zS) : Option (Int32 × zS) :=
if (l0 + (if l1 < l2 then l2 else l1)) ≤ 0 then (f_J14_newLength_b21 G l0 l1 s0)
else (if 2147483639 < (l0 + (if l1 < l2 then l2 else l1)) then (f_J14_newLength_b21 G l0 l1 s0)
else (some ((l0 + (if l1 < l2 then l2 else l1)), s0)))
set_option maxHeartbeats 4000000 in
theorem m_J14_newLength (Γ : zG) (l0 : Int32) (l1 : Int32) (l2 : Int32) (s0 s1 : zS) (r : Int32) (hf : f_J14_newLength Γ.1 l0 l1 l2 s0 = some (r, s1)) : ZM Γ yJ14_newLength (ws_ yJ14_newLength cJ14_newLength 4 (some .int)) 1 17 [zi l0, zi l1, zi l2] s0 (.inl (some (zi r)), s1) := by
  refine ZM.of (own := RJ14) (by decide) rfl (Nat.le_of_ble_eq_true rfl) ?_
  intro X hg hC hL hno hQ hin
  subst hg
  unfold f_J14_newLength at hf
  refine z_iload_n hC (pc := 0) dJ14_newLength_0 rfl 0 rfl ?_
  refine z_iload_n hC (pc := 1) dJ14_newLength_1 rfl 1 rfl ?_
  refine z_iload_n hC (pc := 2) dJ14_newLength_2 rfl 2 rfl ?_
  refine z_mmax hC (pc := 3) q602 q603 q119 q604 (Nat.le_of_ble_eq_true rfl) (Nat.le_of_ble_eq_true rfl) dJ14_newLength_3 ?_
  refine z_iadd hC (pc := 6) dJ14_newLength_6 ?_
  refine z_istore_n (lv' := [(3, zi (l0 + (if l1 < l2 then l2 else l1))), (0, zi l0), (1, zi l1), (2, zi l2)]) hC (pc := 7) hL dJ14_newLength_7 rfl (Nat.le_of_ble_eq_true rfl) rfl ?_
  refine z_iconst (v := 0) hC (pc := 8) dJ14_newLength_8 zki_0 ?_
  refine z_iload_n hC (pc := 9) dJ14_newLength_9 rfl 0 rfl ?_
  refine z_icmp_ge hC (pc := 10) (tgt := 21) dJ14_newLength_10 rfl (fun c1 => ?_) (fun c1 => ?_)
  · have hf := zif_t hf c1
    refine ZW.perm (lv' := [(0, zi l0), (1, zi l1)]) [1, 2] rfl ?_
    exact w_J14_newLength_b21 hC hL hno hQ l0 l1 s0 hf
  · have hf := zif_f hf c1
    refine z_iload_n hC (pc := 13) dJ14_newLength_13 rfl 0 rfl ?_
    refine z_ldc (v := 2147483639) hC (pc := 14) q605 dJ14_newLength_14 ?_
    refine z_icmp_gt hC (pc := 16) (tgt := 21) dJ14_newLength_16 rfl (fun c2 => ?_) (fun c2 => ?_)
    · have hf := zif_t hf c2
      refine ZW.perm (lv' := [(0, zi l0), (1, zi l1)]) [1, 2] rfl ?_
      exact w_J14_newLength_b21 hC hL hno hQ l0 l1 s0 hf
    · have hf := zif_f hf c2
      refine z_iload_n hC (pc := 19) dJ14_newLength_19 rfl 0 rfl ?_
      exact z_ireturn hC (pc := 20) hQ dJ14_newLength_20 hf
/-! java/lang/AbstractStringBuilder.newCapacity(I)I -/
def f_J10_newCapacity_J11 (G : Nat → Nat) (l0 : Nat) (l1 : Int32) (s0 : zS) : Option (Int32 × zS) :=
zo (zgR s0 (some l0) 16 0) fun v1 =>
zo (zlen s0 v1) fun v2 =>
zo (zgI s0 (some l0) 16 1) fun v3 =>
zo (zgI s0 (some l0) 16 1) fun v4 =>
zb (f_J14_newLength G v2 ((l1 <<< ((v3 : Int32) &&& 31)) - v2) (v2 + (2 <<< ((v4 : Int32) &&& 31))) s0) fun v5 s6 =>
if v5 = 2147483647 then (none)
else (zo (zgI s6 (some l0) 16 1) fun v8 =>
some ((v5 >>> ((v8 : Int32) &&& 31)), s6))
set_option maxHeartbeats 4000000 in
theorem m_J10_newCapacity_J11 (Γ : zG) (l0 : Nat) (l1 : Int32) (s0 s1 : zS) (r : Int32) (hf : f_J10_newCapacity_J11 Γ.1 l0 l1 s0 = some (r, s1)) : ZM Γ yJ10_newCapacity (ws_ yJ10_newCapacity cJ10_newCapacity 6 (some .int)) 2 40 [zr (some l0), zi l1] s0 (.inl (some (zi r)), s1) := by
  refine ZM.of (own := RJ10) (by decide) rfl (Nat.le_of_ble_eq_true rfl) ?_
  intro X hg hC hL hno hQ hin
  subst hg
  unfold f_J10_newCapacity_J11 at hf
  refine z_aload_n hC (pc := 0) dJ10_newCapacity_0 rfl 0 rfl ?_
  refine z_getR hC (pc := 1) in_J11 zcJ11 0 (Nat.le_of_ble_eq_true rfl) (zLk.o hC q566) zsm dJ10_newCapacity_1 hf (fun v1 hf => ?_)
  refine z_alen hC (pc := 4) dJ10_newCapacity_4 hf (fun v2 hf => ?_)
  refine z_istore_n (lv' := [(2, zi v2), (0, zr (some l0)), (1, zi l1)]) hC (pc := 5) hL dJ10_newCapacity_5 rfl (Nat.le_of_ble_eq_true rfl) rfl ?_
  refine z_iload_n hC (pc := 6) dJ10_newCapacity_6 rfl 2 rfl ?_
  refine z_aload_n hC (pc := 7) dJ10_newCapacity_7 rfl 1 rfl ?_
  refine z_getI hC (pc := 8) in_J11 zcJ11 1 (Nat.le_of_ble_eq_true rfl) (zLk.o hC q567) zsm dJ10_newCapacity_8 hf (fun v3 hf => ?_)
  refine z_ishl hC (pc := 11) dJ10_newCapacity_11 ?_
  refine z_istore_n (lv' := [(3, zi (l1 <<< ((v3 : Int32) &&& 31))), (2, zi v2), (0, zr (some l0)), (1, zi l1)]) hC (pc := 12) hL dJ10_newCapacity_12 rfl (Nat.le_of_ble_eq_true rfl) rfl ?_
  refine z_iload_n hC (pc := 13) dJ10_newCapacity_13 rfl 0 rfl ?_
  refine z_iload_n hC (pc := 14) dJ10_newCapacity_14 rfl 1 rfl ?_
  refine z_isub hC (pc := 15) dJ10_newCapacity_15 ?_
  refine z_istore (lv' := [(4, zi ((l1 <<< ((v3 : Int32) &&& 31)) - v2)), (3, zi (l1 <<< ((v3 : Int32) &&& 31))), (2, zi v2), (0, zr (some l0)), (1, zi l1)]) hC (pc := 16) hL dJ10_newCapacity_16 (Nat.le_of_ble_eq_true rfl) rfl ?_
  refine z_iload_n hC (pc := 18) dJ10_newCapacity_18 rfl 2 rfl ?_
  refine z_iload hC (pc := 19) dJ10_newCapacity_19 0 rfl ?_
  refine z_iload_n hC (pc := 21) dJ10_newCapacity_21 rfl 2 rfl ?_
  refine z_iconst (v := 2) hC (pc := 22) dJ10_newCapacity_22 zki_2 ?_
  refine z_aload_n hC (pc := 23) dJ10_newCapacity_23 rfl 3 rfl ?_
  refine z_getI hC (pc := 24) in_J11 zcJ11 1 (Nat.le_of_ble_eq_true rfl) (zLk.o hC q567) zsm dJ10_newCapacity_24 hf (fun v4 hf => ?_)
  refine z_ishl hC (pc := 27) dJ10_newCapacity_27 ?_
  refine z_iadd hC (pc := 28) dJ10_newCapacity_28 ?_
  refine z_cI (rest := []) hf (fun v5 s6 hcall => z_runS hC (pc := 29) 3 (m_J14_newLength X.g v2 ((l1 <<< ((v3 : Int32) &&& 31)) - v2) (v2 + (2 <<< ((v4 : Int32) &&& 31))) s0 s6 v5 hcall) (lw_S q599 q600 q118 q601) hd_J14_newLength ⟨(Nat.le_of_ble_eq_true rfl), (Nat.le_of_ble_eq_true rfl)⟩ rfl (Nat.le_of_ble_eq_true rfl) dJ10_newCapacity_29 rfl) (fun v5 s6 hf => ?_)
  refine z_istore (lv' := [(5, zi v5), (4, zi ((l1 <<< ((v3 : Int32) &&& 31)) - v2)), (3, zi (l1 <<< ((v3 : Int32) &&& 31))), (2, zi v2), (0, zr (some l0)), (1, zi l1)]) hC (pc := 32) hL dJ10_newCapacity_32 (Nat.le_of_ble_eq_true rfl) rfl ?_
  refine z_iload hC (pc := 34) dJ10_newCapacity_34 0 rfl ?_
  refine z_ldc (v := 2147483647) hC (pc := 36) q609 dJ10_newCapacity_36 ?_
  refine z_icmp_ne hC (pc := 38) (tgt := 51) dJ10_newCapacity_38 rfl (fun c7 => ?_) (fun c7 => ?_)
  · have hf := zif_f hf c7
    refine z_iload hC (pc := 51) dJ10_newCapacity_51 0 rfl ?_
    refine z_aload_n hC (pc := 53) dJ10_newCapacity_53 rfl 4 rfl ?_
    refine z_getI hC (pc := 54) in_J11 zcJ11 1 (Nat.le_of_ble_eq_true rfl) (zLk.o hC q567) zsm dJ10_newCapacity_54 hf (fun v8 hf => ?_)
    refine z_ishr hC (pc := 57) dJ10_newCapacity_57 ?_
    exact z_ireturn hC (pc := 58) hQ dJ10_newCapacity_58 hf
  · have hf := zif_t hf c7
    cases hf
/-! java/util/Arrays.copyOf([BI)[B -/
def f_J16_copyOf (G : Nat → Nat) (l0 : Option Nat) (l1 : Int32) (s0 : zS) : Option ((Option Nat) × zS) :=
zo (zlen s0 l0) fun v1 =>
if l1 = v1 then (zb (zclB G s0 l0) fun a7 s8 =>
zo (zcsA s8 (some a7) 2) fun _ =>
some ((some a7), s8))
else (zb (znewA G s0 2 l1 (.inl fun _ => 0)) fun a3 s4 =>
zo (zlen s4 l0) fun v5 =>
zo (zcpI G s4 l0 0 (some a3) 0 (if l1 < v5 then l1 else v5)) fun s6 =>
some ((some a3), s6))
set_option maxHeartbeats 4000000 in
theorem m_J16_copyOf (Γ : zG) (l0 : Option Nat) (l1 : Int32) (s0 s1 : zS) (r : (Option Nat)) (hf : f_J16_copyOf Γ.1 l0 l1 s0 = some (r, s1)) : ZM Γ yJ16_copyOf (ws_ yJ16_copyOf cJ16_copyOf 3 (some (.array .byte))) 1 60 [zr l0, zi l1] s0 (.inl (some (zr r)), s1) := by
  refine ZM.of (own := RJ16) (by decide) rfl (Nat.le_of_ble_eq_true rfl) ?_
  intro X hg hC hL hno hQ hin
  subst hg
  unfold f_J16_copyOf at hf
  refine z_iload_n hC (pc := 0) dJ16_copyOf_0 rfl 1 rfl ?_
  refine z_aload_n hC (pc := 1) dJ16_copyOf_1 rfl 0 rfl ?_
  refine z_alen hC (pc := 2) dJ16_copyOf_2 hf (fun v1 hf => ?_)
  refine z_icmp_ne hC (pc := 3) (tgt := 14) dJ16_copyOf_3 rfl (fun c2 => ?_) (fun c2 => ?_)
  · have hf := zif_f hf c2
    refine z_iload_n hC (pc := 14) dJ16_copyOf_14 rfl 1 rfl ?_
    refine z_newa (t := 2) (ty := .byte) hC (pc := 15) rfl rfl q186 (.inl fun _ => 0) (fun _ => rfl) (by decide) dJ16_copyOf_15 hf (fun a3 s4 hf => ?_)
    refine z_astore_n (lv' := [(2, zr (some a3)), (0, zr l0), (1, zi l1)]) hC (pc := 17) hL dJ16_copyOf_17 rfl (Nat.le_of_ble_eq_true rfl) rfl ?_
    refine z_aload_n hC (pc := 18) dJ16_copyOf_18 rfl 1 rfl ?_
    refine z_iconst (v := 0) hC (pc := 19) dJ16_copyOf_19 zki_0 ?_
    refine z_aload_n hC (pc := 20) dJ16_copyOf_20 rfl 0 rfl ?_
    refine z_iconst (v := 0) hC (pc := 21) dJ16_copyOf_21 zki_0 ?_
    refine z_aload_n hC (pc := 22) dJ16_copyOf_22 rfl 1 rfl ?_
    refine z_alen hC (pc := 23) dJ16_copyOf_23 hf (fun v5 hf => ?_)
    refine z_iload_n hC (pc := 24) dJ16_copyOf_24 rfl 2 rfl ?_
    refine z_mmin hC (pc := 25) q620 q621 q119 q622 (Nat.le_of_ble_eq_true rfl) (Nat.le_of_ble_eq_true rfl) dJ16_copyOf_25 ?_
    refine z_copyI hC (pc := 28) q623 q625 q624 q121 (Nat.le_of_ble_eq_true rfl) (Nat.le_of_ble_eq_true rfl) dJ16_copyOf_28 hf (fun s6 hf => ?_)
    refine z_aload_n hC (pc := 31) dJ16_copyOf_31 rfl 0 rfl ?_
    exact z_areturn hC (pc := 32) (Or.inr ⟨_, rfl⟩) hQ dJ16_copyOf_32 hf
  · have hf := zif_t hf c2
    refine z_aload_n hC (pc := 6) dJ16_copyOf_6 rfl 0 rfl ?_
    refine z_cloneB hC (pc := 7) q613 q614 q615 q616 q617 q618 (Nat.le_of_ble_eq_true rfl) (Nat.le_of_ble_eq_true rfl) dJ16_copyOf_7 hf (fun a7 s8 hf => ?_)
    refine z_castA (t := 2) hC (pc := 10) rfl (by simp) rfl q619 dJ16_copyOf_10 hf (fun hf => ?_)
    exact z_areturn hC (pc := 13) (Or.inr ⟨_, rfl⟩) hQ dJ16_copyOf_13 hf
/-! java/lang/AbstractStringBuilder.ensureCapacityInternal(I)V -/
def f_J10_ensureCapacityInternal_J11 (G : Nat → Nat) (l0 : Nat) (l1 : Int32) (s0 : zS) : Option (Unit × zS) :=
zo (zgR s0 (some l0) 16 0) fun v1 =>
zo (zlen s0 v1) fun v2 =>
zo (zgI s0 (some l0) 16 1) fun v3 =>
if (l1 - (v2 >>> ((v3 : Int32) &&& 31))) ≤ 0 then (some ((), s0))
else (zo (zgR s0 (some l0) 16 0) fun v5 =>
zo (zrc s0 (some l0) 16) fun _ =>
zb (f_J10_newCapacity_J11 G l0 l1 s0) fun v8 s9 =>
zo (zgI s9 (some l0) 16 1) fun v10 =>
zb (f_J16_copyOf G v5 (v8 <<< ((v10 : Int32) &&& 31)) s9) fun v11 s12 =>
zo (zput G s12 (some l0) 16 0 (va_rf v11)) fun s13 =>
some ((), s13))
set_option maxHeartbeats 4000000 in
theorem m_J10_ensureCapacityInternal_J11 (Γ : zG) (l0 : Nat) (l1 : Int32) (s0 s1 : zS) (r : Unit) (hf : f_J10_ensureCapacityInternal_J11 Γ.1 l0 l1 s0 = some (r, s1)) : ZM Γ yJ10_ensureCapacityInternal (ws_ yJ10_ensureCapacityInternal cJ10_ensureCapacityInternal 3 none) 3 82 [zr (some l0), zi l1] s0 (.inl none, s1) := by
  refine ZM.of (own := RJ10) (by decide) rfl (Nat.le_of_ble_eq_true rfl) ?_
  intro X hg hC hL hno hQ hin
  subst hg
  unfold f_J10_ensureCapacityInternal_J11 at hf
  refine z_aload_n hC (pc := 0) dJ10_ensureCapacityInternal_0 rfl 0 rfl ?_
  refine z_getR hC (pc := 1) in_J11 zcJ11 0 (Nat.le_of_ble_eq_true rfl) (zLk.o hC q566) zsm dJ10_ensureCapacityInternal_1 hf (fun v1 hf => ?_)
  refine z_alen hC (pc := 4) dJ10_ensureCapacityInternal_4 hf (fun v2 hf => ?_)
  refine z_aload_n hC (pc := 5) dJ10_ensureCapacityInternal_5 rfl 0 rfl ?_
  refine z_getI hC (pc := 6) in_J11 zcJ11 1 (Nat.le_of_ble_eq_true rfl) (zLk.o hC q567) zsm dJ10_ensureCapacityInternal_6 hf (fun v3 hf => ?_)
  refine z_ishr hC (pc := 9) dJ10_ensureCapacityInternal_9 ?_
  refine z_istore_n (lv' := [(2, zi (v2 >>> ((v3 : Int32) &&& 31))), (0, zr (some l0)), (1, zi l1)]) hC (pc := 10) hL dJ10_ensureCapacityInternal_10 rfl (Nat.le_of_ble_eq_true rfl) rfl ?_
  refine z_iload_n hC (pc := 11) dJ10_ensureCapacityInternal_11 rfl 2 rfl ?_
  refine z_iload_n hC (pc := 12) dJ10_ensureCapacityInternal_12 rfl 0 rfl ?_
  refine z_isub hC (pc := 13) dJ10_ensureCapacityInternal_13 ?_
  refine z_if_le hC (pc := 14) (tgt := 38) dJ10_ensureCapacityInternal_14 rfl (fun c4 => ?_) (fun c4 => ?_)
  · have hf := zif_t hf c4
    exact z_return hC (pc := 38) hQ dJ10_ensureCapacityInternal_38 hf
  · have hf := zif_f hf c4
    refine z_aload_n hC (pc := 17) dJ10_ensureCapacityInternal_17 rfl 1 rfl ?_
    refine z_aload_n hC (pc := 18) dJ10_ensureCapacityInternal_18 rfl 1 rfl ?_
    refine z_getR hC (pc := 19) in_J11 zcJ11 0 (Nat.le_of_ble_eq_true rfl) (zLk.o hC q566) zsm dJ10_ensureCapacityInternal_19 hf (fun v5 hf => ?_)
    refine z_aload_n hC (pc := 22) dJ10_ensureCapacityInternal_22 rfl 1 rfl ?_
    refine z_iload_n hC (pc := 23) dJ10_ensureCapacityInternal_23 rfl 2 rfl ?_
    obtain ⟨fs6, ha7, hf⟩ := z_rcN hf
    refine z_cI (rest := [zr v5, zr (some l0)]) hf (fun v8 s9 hcall => z_runUP hC (pc := 24) zcJ11 1 ha7 (m_J10_newCapacity_J11 X.g l0 l1 s0 s9 v8 hcall) q595 q3123 q597 q114 q598 q629 rfl q596 hd_J10_newCapacity ⟨(Nat.le_of_ble_eq_true rfl), (Nat.le_of_ble_eq_true rfl)⟩ rfl (Nat.le_of_ble_eq_true rfl) dJ10_ensureCapacityInternal_24 rfl) (fun v8 s9 hf => ?_)
    refine z_aload_n hC (pc := 27) dJ10_ensureCapacityInternal_27 rfl 1 rfl ?_
    refine z_getI hC (pc := 28) in_J11 zcJ11 1 (Nat.le_of_ble_eq_true rfl) (zLk.o hC q567) zsm dJ10_ensureCapacityInternal_28 hf (fun v10 hf => ?_)
    refine z_ishl hC (pc := 31) dJ10_ensureCapacityInternal_31 ?_
    refine z_cR (rest := [zr (some l0)]) hf (fun v11 s12 hcall => z_runS hC (pc := 32) 2 (m_J16_copyOf X.g v5 (v8 <<< ((v10 : Int32) &&& 31)) s9 s12 v11 hcall) (lw_S q610 q611 q120 q612) hd_J16_copyOf ⟨(Nat.le_of_ble_eq_true rfl), (Nat.le_of_ble_eq_true rfl)⟩ rfl (Nat.le_of_ble_eq_true rfl) dJ10_ensureCapacityInternal_32 rfl) (fun v11 s12 hf => ?_)
    refine z_putV (v := zr v11) hC (pc := 35) in_J11 tyJ11 tyJ11_ok nmJ11 zcJ11 0 (Nat.le_of_ble_eq_true rfl) (zLk.o hC q566) zsm (Or.inl rfl) rfl (zfa v11) dJ10_ensureCapacityInternal_35 hf (fun s13 hf => ?_)
    exact z_return hC (pc := 38) hQ dJ10_ensureCapacityInternal_38 hf
/-! java/lang/AbstractStringBuilder.isLatin1()Z -/
def f_J10_isLatin1_J11 (G : Nat → Nat) (l0 : Nat) (s0 : zS) : Option (Int32 × zS) :=
if (1 : Int32) = 0 then (zrn .boolean 0 s0)
else (zo (zgI s0 (some l0) 16 1) fun v2 =>
if v2 = 0 then (zrn .boolean 1 s0)
else (zrn .boolean 0 s0))
set_option maxHeartbeats 4000000 in
theorem m_J10_isLatin1_J11 (Γ : zG) (l0 : Nat) (s0 s1 : zS) (r : Int32) (hf : f_J10_isLatin1_J11 Γ.1 l0 s0 = some (r, s1)) : ZM Γ yJ10_isLatin1 (ws_ yJ10_isLatin1 cJ10_isLatin1 1 (some .boolean)) 1 0 [zr (some l0)] s0 (.inl (some (zi r)), s1) := by
  refine ZM.of (own := RJ10) (by decide) rfl (Nat.le_of_ble_eq_true rfl) ?_
  intro X hg hC hL hno hQ hin
  subst hg
  unfold f_J10_isLatin1_J11 at hf
  refine z_gets (v := zi 1) hC (pc := 0) (List.mem_of_getElem? (i := 0) rfl) q557 dJ10_isLatin1_0 ?_
  refine z_if_eq hC (pc := 3) (tgt := 17) dJ10_isLatin1_3 rfl (fun c1 => ?_) (fun c1 => ?_)
  · have hf := zif_t hf c1
    refine z_iconst (v := 0) hC (pc := 17) dJ10_isLatin1_17 zki_0 ?_
    exact z_zreturn hC (pc := 18) hQ dJ10_isLatin1_18 hf
  · have hf := zif_f hf c1
    refine z_aload_n hC (pc := 6) dJ10_isLatin1_6 rfl 0 rfl ?_
    refine z_getI hC (pc := 7) in_J11 zcJ11 1 (Nat.le_of_ble_eq_true rfl) (zLk.o hC q567) zsm dJ10_isLatin1_7 hf (fun v2 hf => ?_)
    refine z_if_ne hC (pc := 10) (tgt := 17) dJ10_isLatin1_10 rfl (fun c3 => ?_) (fun c3 => ?_)
    · have hf := zif_f hf c3
      refine z_iconst (v := 0) hC (pc := 17) dJ10_isLatin1_17 zki_0 ?_
      exact z_zreturn hC (pc := 18) hQ dJ10_isLatin1_18 hf
    · have hf := zif_t hf c3
      refine z_iconst (v := 1) hC (pc := 13) dJ10_isLatin1_13 zki_1 ?_
      refine z_goto hC (pc := 14) (tgt := 18) dJ10_isLatin1_14 rfl ?_
      exact z_zreturn hC (pc := 18) hQ dJ10_isLatin1_18 hf
/-! java/lang/StringLatin1.canEncode(C)Z -/
def f_J17_canEncode (G : Nat → Nat) (l0 : Int32) (s0 : zS) : Option (Int32 × zS) :=
if 255 < l0 then (zrn .boolean 0 s0)
else (zrn .boolean 1 s0)
set_option maxHeartbeats 4000000 in
theorem m_J17_canEncode (Γ : zG) (l0 : Int32) (s0 s1 : zS) (r : Int32) (hf : f_J17_canEncode Γ.1 l0 s0 = some (r, s1)) : ZM Γ yJ17_canEncode (ws_ yJ17_canEncode cJ17_canEncode 1 (some .boolean)) 1 0 [zi l0] s0 (.inl (some (zi r)), s1) := by
  refine ZM.of (own := RJ17) (by decide) rfl (Nat.le_of_ble_eq_true rfl) ?_
  intro X hg hC hL hno hQ hin
  subst hg
  unfold f_J17_canEncode at hf
  refine z_iload_n hC (pc := 0) dJ17_canEncode_0 rfl 0 rfl ?_
  refine z_sipush (v := 255) hC (pc := 1) dJ17_canEncode_1 zks_255 ?_
  refine z_icmp_gt hC (pc := 4) (tgt := 11) dJ17_canEncode_4 rfl (fun c1 => ?_) (fun c1 => ?_)
  · have hf := zif_t hf c1
    refine z_iconst (v := 0) hC (pc := 11) dJ17_canEncode_11 zki_0 ?_
    exact z_zreturn hC (pc := 12) hQ dJ17_canEncode_12 hf
  · have hf := zif_f hf c1
    refine z_iconst (v := 1) hC (pc := 7) dJ17_canEncode_7 zki_1 ?_
    refine z_goto hC (pc := 8) (tgt := 12) dJ17_canEncode_8 rfl ?_
    exact z_zreturn hC (pc := 12) hQ dJ17_canEncode_12 hf
/-! java/lang/AbstractStringBuilder.append(C)Ljava/lang/AbstractStringBuilder; -/
def f_J10_append_3_J11_b56 (G : Nat → Nat) (l0 : Nat) (l1 : Int32) (s0 : zS) : Option ((Option Nat) × zS) :=
zo (zgR s0 (some l0) 16 0) fun v1 =>
zo (zgI s0 (some l0) 16 3) fun v2 =>
zo (zput G s0 (some l0) 16 3 (.int (v2 + 1))) fun s3 =>
none
set_option maxHeartbeats 4000000 in
theorem w_J10_append_3_J11_b56 {X : zX} (hC : ZC X RJ10 cJ10_append_3 (some (.object "java/lang/AbstractStringBuilder")) 4 104) (hL : X.nL = 2) (hno : ∀ x ∈ X.c.exceptionTable.toList, False) {r : (Option Nat)} {sF : zS} (hQ : ZQ X (.inl (some (zr r)), sF)) (l0 : Nat) (l1 : Int32) (s0 : zS) (hf : f_J10_append_3_J11_b56 X.g.1 l0 l1 s0 = some (r, sF)) : ZW X s0 56 [(0, zr (some l0)), (1, zi l1)] [] := by
  unfold f_J10_append_3_J11_b56 at hf
  refine z_aload_n hC (pc := 56) dJ10_append_3_56 rfl 0 rfl ?_
  refine z_getR hC (pc := 57) in_J11 zcJ11 0 (Nat.le_of_ble_eq_true rfl) (zLk.o hC q566) zsm dJ10_append_3_57 hf (fun v1 hf => ?_)
  refine z_aload_n hC (pc := 60) dJ10_append_3_60 rfl 0 rfl ?_
  refine z_dup hC (pc := 61) dJ10_append_3_61 rfl ?_
  refine z_getI hC (pc := 62) in_J11 zcJ11 3 (Nat.le_of_ble_eq_true rfl) (zLk.o hC q569) zsm dJ10_append_3_62 hf (fun v2 hf => ?_)
  refine z_dup_x1 hC (pc := 65) dJ10_append_3_65 rfl rfl ?_
  refine z_iconst (v := 1) hC (pc := 66) dJ10_append_3_66 zki_1 ?_
  refine z_iadd hC (pc := 67) dJ10_append_3_67 ?_
  refine z_putV (v := zi (v2 + 1)) hC (pc := 68) in_J11 tyJ11 tyJ11_ok nmJ11 zcJ11 3 (Nat.le_of_ble_eq_true rfl) (zLk.o hC q569) zsm (Or.inl rfl) rfl rfl dJ10_append_3_68 hf (fun s3 hf => ?_)
  refine z_iload_n hC (pc := 71) dJ10_append_3_71 rfl 1 rfl ?_
  cases hf
def f_J10_append_3_J11_b45 (G : Nat → Nat) (l0 : Nat) (l1 : Int32) (s0 : zS) : Option ((Option Nat) × zS) :=
zo (zrc s0 (some l0) 16) fun _ =>
zb (f_J10_isLatin1_J11 G l0 s0) fun v3 s4 =>
if v3 = 0 then (f_J10_append_3_J11_b56 G l0 l1 s4)
else (none)
set_option maxHeartbeats 4000000 in
theorem w_J10_append_3_J11_b45 {X : zX} (hC : ZC X RJ10 cJ10_append_3 (some (.object "java/lang/AbstractStringBuilder")) 4 104) (hL : X.nL = 2) (hno : ∀ x ∈ X.c.exceptionTable.toList, False) {r : (Option Nat)} {sF : zS} (hQ : ZQ X (.inl (some (zr r)), sF)) (l0 : Nat) (l1 : Int32) (s0 : zS) (hf : f_J10_append_3_J11_b45 X.g.1 l0 l1 s0 = some (r, sF)) : ZW X s0 45 [(0, zr (some l0)), (1, zi l1)] [] := by
  unfold f_J10_append_3_J11_b45 at hf
  refine z_aload_n hC (pc := 45) dJ10_append_3_45 rfl 0 rfl ?_
  obtain ⟨fs1, ha2, hf⟩ := z_rcN hf
  refine z_cI (rest := []) hf (fun v3 s4 hcall => z_runU (owner := "java/lang/AbstractStringBuilder") (x := ⟨"java/lang/AbstractStringBuilder", "isLatin1", "()Z"⟩) hC (pc := 46) zcJ11 0 ha2 (m_J10_isLatin1_J11 X.g l0 s0 s4 v3 hcall) (lw_app (zm5 q626 q628 q629 q627 q114) (lw_meth q630)) rfl (by decide +kernel) ⟨(Nat.le_of_ble_eq_true rfl), (Nat.le_of_ble_eq_true rfl)⟩ rfl (Nat.le_of_ble_eq_true rfl) dJ10_append_3_46 rfl) (fun v3 s4 hf => ?_)
  refine z_if_eq hC (pc := 49) (tgt := 56) dJ10_append_3_49 rfl (fun c5 => ?_) (fun c5 => ?_)
  · have hf := zif_t hf c5
    exact w_J10_append_3_J11_b56 hC hL hno hQ l0 l1 s4 hf
  · have hf := zif_f hf c5
    refine z_aload_n hC (pc := 52) dJ10_append_3_52 rfl 0 rfl ?_
    cases hf
def f_J10_append_3_J11 (G : Nat → Nat) (l0 : Nat) (l1 : Int32) (s0 : zS) : Option ((Option Nat) × zS) :=
zo (zgI s0 (some l0) 16 3) fun v1 =>
zo (zrc s0 (some l0) 16) fun _ =>
zb (f_J10_ensureCapacityInternal_J11 G l0 (v1 + 1) s0) fun _ s5 =>
zo (zrc s5 (some l0) 16) fun _ =>
zb (f_J10_isLatin1_J11 G l0 s5) fun v8 s9 =>
if v8 = 0 then (f_J10_append_3_J11_b45 G l0 l1 s9)
else (zb (f_J17_canEncode G l1 s9) fun v11 s12 =>
if v11 = 0 then (f_J10_append_3_J11_b45 G l0 l1 s12)
else (zo (zgR s12 (some l0) 16 0) fun v14 =>
zo (zgI s12 (some l0) 16 3) fun v15 =>
zo (zput G s12 (some l0) 16 3 (.int (v15 + 1))) fun s16 =>
zo (zsI G s16 v14 2 v15 (l1.toInt8.toInt32)) fun s17 =>
some ((some l0), s17)))
set_option maxHeartbeats 4000000 in
theorem m_J10_append_3_J11 (Γ : zG) (l0 : Nat) (l1 : Int32) (s0 s1 : zS) (r : (Option Nat)) (hf : f_J10_append_3_J11 Γ.1 l0 l1 s0 = some (r, s1)) : ZM Γ yJ10_append_3 (ws_ yJ10_append_3 cJ10_append_3 2 (some (.object "java/lang/AbstractStringBuilder"))) 4 104 [zr (some l0), zi l1] s0 (.inl (some (zr r)), s1) := by
  refine ZM.of (own := RJ10) (by decide) rfl (Nat.le_of_ble_eq_true rfl) ?_
  intro X hg hC hL hno hQ hin
  subst hg
  unfold f_J10_append_3_J11 at hf
  refine z_aload_n hC (pc := 0) dJ10_append_3_0 rfl 0 rfl ?_
  refine z_aload_n hC (pc := 1) dJ10_append_3_1 rfl 0 rfl ?_
  refine z_getI hC (pc := 2) in_J11 zcJ11 3 (Nat.le_of_ble_eq_true rfl) (zLk.o hC q569) zsm dJ10_append_3_2 hf (fun v1 hf => ?_)
  refine z_iconst (v := 1) hC (pc := 5) dJ10_append_3_5 zki_1 ?_
  refine z_iadd hC (pc := 6) dJ10_append_3_6 ?_
  obtain ⟨fs2, ha3, hf⟩ := z_rcN hf
  refine z_cU (rest := []) hf (fun v4 s5 hcall => z_runUP hC (pc := 7) zcJ11 1 ha3 (m_J10_ensureCapacityInternal_J11 X.g l0 (v1 + 1) s0 s5 v4 hcall) q591 q3122 q593 q114 q594 q629 rfl q592 hd_J10_ensureCapacityInternal ⟨(Nat.le_of_ble_eq_true rfl), (Nat.le_of_ble_eq_true rfl)⟩ rfl (Nat.le_of_ble_eq_true rfl) dJ10_append_3_7 rfl) (fun _ s5 hf => ?_)
  refine z_aload_n hC (pc := 10) dJ10_append_3_10 rfl 0 rfl ?_
  obtain ⟨fs6, ha7, hf⟩ := z_rcN hf
  refine z_cI (rest := []) hf (fun v8 s9 hcall => z_runU (owner := "java/lang/AbstractStringBuilder") (x := ⟨"java/lang/AbstractStringBuilder", "isLatin1", "()Z"⟩) hC (pc := 11) zcJ11 0 ha7 (m_J10_isLatin1_J11 X.g l0 s5 s9 v8 hcall) (lw_app (zm5 q626 q628 q629 q627 q114) (lw_meth q630)) rfl (by decide +kernel) ⟨(Nat.le_of_ble_eq_true rfl), (Nat.le_of_ble_eq_true rfl)⟩ rfl (Nat.le_of_ble_eq_true rfl) dJ10_append_3_11 rfl) (fun v8 s9 hf => ?_)
  refine z_if_eq hC (pc := 14) (tgt := 45) dJ10_append_3_14 rfl (fun c10 => ?_) (fun c10 => ?_)
  · have hf := zif_t hf c10
    exact w_J10_append_3_J11_b45 hC hL hno hQ l0 l1 s9 hf
  · have hf := zif_f hf c10
    refine z_iload_n hC (pc := 17) dJ10_append_3_17 rfl 1 rfl ?_
    refine z_cI (rest := []) hf (fun v11 s12 hcall => z_runS hC (pc := 18) 1 (m_J17_canEncode X.g l1 s9 s12 v11 hcall) (lw_S q2083 q2084 q122 q2085) hd_J17_canEncode ⟨(Nat.le_of_ble_eq_true rfl), (Nat.le_of_ble_eq_true rfl)⟩ rfl (Nat.le_of_ble_eq_true rfl) dJ10_append_3_18 rfl) (fun v11 s12 hf => ?_)
    refine z_if_eq hC (pc := 21) (tgt := 45) dJ10_append_3_21 rfl (fun c13 => ?_) (fun c13 => ?_)
    · have hf := zif_t hf c13
      exact w_J10_append_3_J11_b45 hC hL hno hQ l0 l1 s12 hf
    · have hf := zif_f hf c13
      refine z_aload_n hC (pc := 24) dJ10_append_3_24 rfl 0 rfl ?_
      refine z_getR hC (pc := 25) in_J11 zcJ11 0 (Nat.le_of_ble_eq_true rfl) (zLk.o hC q566) zsm dJ10_append_3_25 hf (fun v14 hf => ?_)
      refine z_aload_n hC (pc := 28) dJ10_append_3_28 rfl 0 rfl ?_
      refine z_dup hC (pc := 29) dJ10_append_3_29 rfl ?_
      refine z_getI hC (pc := 30) in_J11 zcJ11 3 (Nat.le_of_ble_eq_true rfl) (zLk.o hC q569) zsm dJ10_append_3_30 hf (fun v15 hf => ?_)
      refine z_dup_x1 hC (pc := 33) dJ10_append_3_33 rfl rfl ?_
      refine z_iconst (v := 1) hC (pc := 34) dJ10_append_3_34 zki_1 ?_
      refine z_iadd hC (pc := 35) dJ10_append_3_35 ?_
      refine z_putV (v := zi (v15 + 1)) hC (pc := 36) in_J11 tyJ11 tyJ11_ok nmJ11 zcJ11 3 (Nat.le_of_ble_eq_true rfl) (zLk.o hC q569) zsm (Or.inl rfl) rfl rfl dJ10_append_3_36 hf (fun s16 hf => ?_)
      refine z_iload_n hC (pc := 39) dJ10_append_3_39 rfl 1 rfl ?_
      refine z_i2b hC (pc := 40) dJ10_append_3_40 ?_
      refine z_bast hC (pc := 41) dJ10_append_3_41 hf (fun s17 hf => ?_)
      refine z_goto hC (pc := 42) (tgt := 75) dJ10_append_3_42 rfl ?_
      refine z_aload_n hC (pc := 75) dJ10_append_3_75 rfl 0 rfl ?_
      exact z_areturn hC (pc := 76) (Or.inl ⟨_, rfl⟩) hQ dJ10_append_3_76 hf
/-! java/lang/AbstractStringBuilder.getValue()[B -/
def f_J10_getValue_J11 (G : Nat → Nat) (l0 : Nat) (s0 : zS) : Option ((Option Nat) × zS) :=
zo (zgR s0 (some l0) 16 0) fun v1 =>
some (v1, s0)
set_option maxHeartbeats 4000000 in
theorem m_J10_getValue_J11 (Γ : zG) (l0 : Nat) (s0 s1 : zS) (r : (Option Nat)) (hf : f_J10_getValue_J11 Γ.1 l0 s0 = some (r, s1)) : ZM Γ yJ10_getValue (ws_ yJ10_getValue cJ10_getValue 1 (some (.array .byte))) 1 0 [zr (some l0)] s0 (.inl (some (zr r)), s1) := by
  refine ZM.of (own := RJ10) (by decide) rfl (Nat.le_of_ble_eq_true rfl) ?_
  intro X hg hC hL hno hQ hin
  subst hg
  unfold f_J10_getValue_J11 at hf
  refine z_aload_n hC (pc := 0) dJ10_getValue_0 rfl 0 rfl ?_
  refine z_getR hC (pc := 1) in_J11 zcJ11 0 (Nat.le_of_ble_eq_true rfl) (zLk.o hC q566) zsm dJ10_getValue_1 hf (fun v1 hf => ?_)
  exact z_areturn hC (pc := 4) (Or.inr ⟨_, rfl⟩) hQ dJ10_getValue_4 hf
/-! java/lang/AbstractStringBuilder.<init>(I)V -/
def f_J10_init_J11 (G : Nat → Nat) (l0 : Nat) (l1 : Int32) (s0 : zS) : Option (Unit × zS) :=
if (1 : Int32) = 0 then (none)
else (zb (znewA G s0 2 l1 (.inl fun _ => 0)) fun a2 s3 =>
zo (zput G s3 (some l0) 16 0 (va_rf (some a2))) fun s4 =>
zo (zputN G s4 (some l0) 16 1 .byte 0) fun s5 =>
some ((), s5))
set_option maxHeartbeats 4000000 in
theorem m_J10_init_J11 (Γ : zG) (l0 : Nat) (l1 : Int32) (s0 s1 : zS) (r : Unit) (hf : f_J10_init_J11 Γ.1 l0 l1 s0 = some (r, s1)) : ZM Γ yJ10_init (ws_ yJ10_init cJ10_init 2 none) 1 12 [zr (some l0), zi l1] s0 (.inl none, s1) := by
  refine ZM.of (own := RJ10) (by decide) rfl (Nat.le_of_ble_eq_true rfl) ?_
  intro X hg hC hL hno hQ hin
  subst hg
  unfold f_J10_init_J11 at hf
  refine z_aload_n hC (pc := 0) dJ10_init_0 rfl 0 rfl ?_
  refine z_objInit hC (pc := 1) q556 q163 q164 (Nat.le_of_ble_eq_true rfl) (Nat.le_of_ble_eq_true rfl) dJ10_init_1 ?_
  refine z_gets (v := zi 1) hC (pc := 4) (List.mem_of_getElem? (i := 0) rfl) q557 dJ10_init_4 ?_
  refine z_if_eq hC (pc := 7) (tgt := 25) dJ10_init_7 rfl (fun c1 => ?_) (fun c1 => ?_)
  · have hf := zif_t hf c1
    refine z_aload_n hC (pc := 25) dJ10_init_25 rfl 0 rfl ?_
    refine z_iload_n hC (pc := 26) dJ10_init_26 rfl 1 rfl ?_
    cases hf
  · have hf := zif_f hf c1
    refine z_aload_n hC (pc := 10) dJ10_init_10 rfl 0 rfl ?_
    refine z_iload_n hC (pc := 11) dJ10_init_11 rfl 1 rfl ?_
    refine z_newa (t := 2) (ty := .byte) hC (pc := 12) rfl rfl q186 (.inl fun _ => 0) (fun _ => rfl) (by decide) dJ10_init_12 hf (fun a2 s3 hf => ?_)
    refine z_putV (v := zr (some a2)) hC (pc := 14) in_J11 tyJ11 tyJ11_ok nmJ11 zcJ11 0 (Nat.le_of_ble_eq_true rfl) (zLk.o hC q566) zsm (Or.inl rfl) rfl (zfa (some a2)) dJ10_init_14 hf (fun s4 hf => ?_)
    refine z_aload_n hC (pc := 17) dJ10_init_17 rfl 0 rfl ?_
    refine z_iconst (v := 0) hC (pc := 18) dJ10_init_18 zki_0 ?_
    refine z_putN hC (pc := 19) in_J11 tyJ11 tyJ11_ok nmJ11 zcJ11 1 (Nat.le_of_ble_eq_true rfl) (zLk.o hC q567) zsm (Or.inl rfl) (Or.inr (Or.inl rfl)) dJ10_init_19 hf (fun s5 hf => ?_)
    refine z_goto hC (pc := 22) (tgt := 38) dJ10_init_22 rfl ?_
    exact z_return hC (pc := 38) hQ dJ10_init_38 hf
/-! java/lang/AbstractStringBuilder.length()I -/
def f_J10_length_J11 (G : Nat → Nat) (l0 : Nat) (s0 : zS) : Option (Int32 × zS) :=
zo (zgI s0 (some l0) 16 3) fun v1 =>
some (v1, s0)
set_option maxHeartbeats 4000000 in
theorem m_J10_length_J11 (Γ : zG) (l0 : Nat) (s0 s1 : zS) (r : Int32) (hf : f_J10_length_J11 Γ.1 l0 s0 = some (r, s1)) : ZM Γ yJ10_length (ws_ yJ10_length cJ10_length 1 (some .int)) 1 0 [zr (some l0)] s0 (.inl (some (zi r)), s1) := by
  refine ZM.of (own := RJ10) (by decide) rfl (Nat.le_of_ble_eq_true rfl) ?_
  intro X hg hC hL hno hQ hin
  subst hg
  unfold f_J10_length_J11 at hf
  refine z_aload_n hC (pc := 0) dJ10_length_0 rfl 0 rfl ?_
  refine z_getI hC (pc := 1) in_J11 zcJ11 3 (Nat.le_of_ble_eq_true rfl) (zLk.o hC q569) zsm dJ10_length_1 hf (fun v1 hf => ?_)
  exact z_ireturn hC (pc := 4) hQ dJ10_length_4 hf
/-! java/lang/StringBuilder.append(C)Ljava/lang/StringBuilder; -/
def f_J11_append_3 (G : Nat → Nat) (l0 : Nat) (l1 : Int32) (s0 : zS) : Option ((Option Nat) × zS) :=
zo (zrc s0 (some l0) 16) fun _ =>
zb (f_J10_append_3_J11 G l0 l1 s0) fun v3 s4 =>
some ((some l0), s4)
set_option maxHeartbeats 4000000 in
theorem m_J11_append_3 (Γ : zG) (l0 : Nat) (l1 : Int32) (s0 s1 : zS) (r : (Option Nat)) (hf : f_J11_append_3 Γ.1 l0 l1 s0 = some (r, s1)) : ZM Γ yJ11_append_3 (ws_ yJ11_append_3 cJ11_append_3 2 (some (.object "java/lang/StringBuilder"))) 5 125 [zr (some l0), zi l1] s0 (.inl (some (zr r)), s1) := by
  refine ZM.of (own := RJ11) (by decide) rfl (Nat.le_of_ble_eq_true rfl) ?_
  intro X hg hC hL hno hQ hin
  subst hg
  unfold f_J11_append_3 at hf
  refine z_aload_n hC (pc := 0) dJ11_append_3_0 rfl 0 rfl ?_
  refine z_iload_n hC (pc := 1) dJ11_append_3_1 rfl 1 rfl ?_
  obtain ⟨fs1, ha2, hf⟩ := z_rcN hf
  refine z_cR (rest := []) hf (fun v3 s4 hcall => z_runSU hC (pc := 2) zcJ11 1 ha2 (m_J10_append_3_J11 X.g l0 l1 s0 s4 v3 hcall) (lw_app (zm5 q2080 q3132 q578 q2081 q114) (lw_meth q2082)) (by decide +kernel) ⟨(Nat.le_of_ble_eq_true rfl), (Nat.le_of_ble_eq_true rfl)⟩ rfl (Nat.le_of_ble_eq_true rfl) dJ11_append_3_2 rfl) (fun v3 s4 hf => ?_)
  refine z_pop hC (pc := 5) dJ11_append_3_5 rfl ?_
  refine z_aload_n hC (pc := 6) dJ11_append_3_6 rfl 0 rfl ?_
  exact z_areturn hC (pc := 7) (Or.inl ⟨_, rfl⟩) hQ dJ11_append_3_7 hf
/-! java/lang/StringBuilder.<init>()V -/
def f_J11_init (G : Nat → Nat) (l0 : Nat) (s0 : zS) : Option (Unit × zS) :=
zb (f_J10_init_J11 G l0 16 s0) fun _ s2 =>
some ((), s2)
set_option maxHeartbeats 4000000 in
theorem m_J11_init (Γ : zG) (l0 : Nat) (s0 s1 : zS) (r : Unit) (hf : f_J11_init Γ.1 l0 s0 = some (r, s1)) : ZM Γ yJ11_init (ws_ yJ11_init cJ11_init 1 none) 2 33 [zr (some l0)] s0 (.inl none, s1) := by
  refine ZM.of (own := RJ11) (by decide) rfl (Nat.le_of_ble_eq_true rfl) ?_
  intro X hg hC hL hno hQ hin
  subst hg
  unfold f_J11_init at hf
  refine z_aload_n hC (pc := 0) dJ11_init_0 rfl 0 rfl ?_
  refine z_bipush (v := 16) hC (pc := 1) dJ11_init_1 zkb_16 ?_
  refine z_cU (rest := []) hf (fun v1 s2 hcall => z_runI hC (pc := 3) 1 (m_J10_init_J11 X.g l0 16 s0 s2 v1 hcall) q555 rfl q114 q553 q554 hd_J10_init ⟨(Nat.le_of_ble_eq_true rfl), (Nat.le_of_ble_eq_true rfl)⟩ rfl (Nat.le_of_ble_eq_true rfl) dJ11_init_3 rfl) (fun _ s2 hf => ?_)
  exact z_return hC (pc := 6) hQ dJ11_init_6 hf
/-! java/lang/StringBuilder.length()I -/
def f_J11_length (G : Nat → Nat) (l0 : Nat) (s0 : zS) : Option (Int32 × zS) :=
zo (zrc s0 (some l0) 16) fun _ =>
zb (f_J10_length_J11 G l0 s0) fun v3 s4 =>
some (v3, s4)
set_option maxHeartbeats 4000000 in
theorem m_J11_length (Γ : zG) (l0 : Nat) (s0 s1 : zS) (r : Int32) (hf : f_J11_length Γ.1 l0 s0 = some (r, s1)) : ZM Γ yJ11_length (ws_ yJ11_length cJ11_length 1 (some .int)) 2 20 [zr (some l0)] s0 (.inl (some (zi r)), s1) := by
  refine ZM.of (own := RJ11) (by decide) rfl (Nat.le_of_ble_eq_true rfl) ?_
  intro X hg hC hL hno hQ hin
  subst hg
  unfold f_J11_length at hf
  refine z_aload_n hC (pc := 0) dJ11_length_0 rfl 0 rfl ?_
  obtain ⟨fs1, ha2, hf⟩ := z_rcN hf
  refine z_cI (rest := []) hf (fun v3 s4 hcall => z_runSU hC (pc := 1) zcJ11 0 ha2 (m_J10_length_J11 X.g l0 s0 s4 v3 hcall) (lw_app (zm5 q755 q751 q578 q750 q114) (lw_meth q756)) (by decide +kernel) ⟨(Nat.le_of_ble_eq_true rfl), (Nat.le_of_ble_eq_true rfl)⟩ rfl (Nat.le_of_ble_eq_true rfl) dJ11_length_1 rfl) (fun v3 s4 hf => ?_)
  exact z_ireturn hC (pc := 4) hQ dJ11_length_4 hf
/-! java/util/Arrays.checkLength(II)V -/
def f_J16_checkLength (G : Nat → Nat) (l0 : Int32) (l1 : Int32) (s0 : zS) : Option (Unit × zS) :=
if l0 ≤ l1 then (some ((), s0))
else (none)
set_option maxHeartbeats 4000000 in
theorem m_J16_checkLength (Γ : zG) (l0 : Int32) (l1 : Int32) (s0 s1 : zS) (r : Unit) (hf : f_J16_checkLength Γ.1 l0 l1 s0 = some (r, s1)) : ZM Γ yJ16_checkLength (ws_ yJ16_checkLength cJ16_checkLength 2 none) 1 0 [zi l0, zi l1] s0 (.inl none, s1) := by
  refine ZM.of (own := RJ16) (by decide) rfl (Nat.le_of_ble_eq_true rfl) ?_
  intro X hg hC hL hno hQ hin
  subst hg
  unfold f_J16_checkLength at hf
  refine z_iload_n hC (pc := 0) dJ16_checkLength_0 rfl 1 rfl ?_
  refine z_iload_n hC (pc := 1) dJ16_checkLength_1 rfl 0 rfl ?_
  refine z_icmp_ge hC (pc := 2) (tgt := 37) dJ16_checkLength_2 rfl (fun c1 => ?_) (fun c1 => ?_)
  · have hf := zif_t hf c1
    exact z_return hC (pc := 37) hQ dJ16_checkLength_37 hf
  · have hf := zif_f hf c1
    cases hf
/-! java/util/Arrays.copyOfRangeByte([BII)[B -/
def f_J16_copyOfRangeByte (G : Nat → Nat) (l0 : Option Nat) (l1 : Int32) (l2 : Int32) (s0 : zS) : Option ((Option Nat) × zS) :=
zb (f_J16_checkLength G l1 l2 s0) fun _ s2 =>
zb (znewA G s2 2 (l2 - l1) (.inl fun _ => 0)) fun a3 s4 =>
zo (zlen s4 l0) fun v5 =>
zo (zcpI G s4 l0 l1 (some a3) 0 (if (l2 - l1) < (v5 - l1) then (l2 - l1) else (v5 - l1))) fun s6 =>
some ((some a3), s6)
set_option maxHeartbeats 4000000 in
theorem m_J16_copyOfRangeByte (Γ : zG) (l0 : Option Nat) (l1 : Int32) (l2 : Int32) (s0 s1 : zS) (r : (Option Nat)) (hf : f_J16_copyOfRangeByte Γ.1 l0 l1 l2 s0 = some (r, s1)) : ZM Γ yJ16_copyOfRangeByte (ws_ yJ16_copyOfRangeByte cJ16_copyOfRangeByte 5 (some (.array .byte))) 2 60 [zr l0, zi l1, zi l2] s0 (.inl (some (zr r)), s1) := by
  refine ZM.of (own := RJ16) (by decide) rfl (Nat.le_of_ble_eq_true rfl) ?_
  intro X hg hC hL hno hQ hin
  subst hg
  unfold f_J16_copyOfRangeByte at hf
  refine z_iload_n hC (pc := 0) dJ16_copyOfRangeByte_0 rfl 1 rfl ?_
  refine z_iload_n hC (pc := 1) dJ16_copyOfRangeByte_1 rfl 2 rfl ?_
  refine z_cU (rest := []) hf (fun v1 s2 hcall => z_runS hC (pc := 2) 2 (m_J16_checkLength X.g l1 l2 s0 s2 v1 hcall) (lw_S q764 q765 q120 q766) hd_J16_checkLength ⟨(Nat.le_of_ble_eq_true rfl), (Nat.le_of_ble_eq_true rfl)⟩ rfl (Nat.le_of_ble_eq_true rfl) dJ16_copyOfRangeByte_2 rfl) (fun _ s2 hf => ?_)
  refine z_iload_n hC (pc := 5) dJ16_copyOfRangeByte_5 rfl 2 rfl ?_
  refine z_iload_n hC (pc := 6) dJ16_copyOfRangeByte_6 rfl 1 rfl ?_
  refine z_isub hC (pc := 7) dJ16_copyOfRangeByte_7 ?_
  refine z_istore_n (lv' := [(3, zi (l2 - l1)), (0, zr l0), (1, zi l1), (2, zi l2)]) hC (pc := 8) hL dJ16_copyOfRangeByte_8 rfl (Nat.le_of_ble_eq_true rfl) rfl ?_
  refine z_iload_n hC (pc := 9) dJ16_copyOfRangeByte_9 rfl 0 rfl ?_
  refine z_newa (t := 2) (ty := .byte) hC (pc := 10) rfl rfl q186 (.inl fun _ => 0) (fun _ => rfl) (by decide) dJ16_copyOfRangeByte_10 hf (fun a3 s4 hf => ?_)
  refine z_astore (lv' := [(4, zr (some a3)), (3, zi (l2 - l1)), (0, zr l0), (1, zi l1), (2, zi l2)]) hC (pc := 12) hL dJ16_copyOfRangeByte_12 (Nat.le_of_ble_eq_true rfl) rfl ?_
  refine z_aload_n hC (pc := 14) dJ16_copyOfRangeByte_14 rfl 2 rfl ?_
  refine z_iload_n hC (pc := 15) dJ16_copyOfRangeByte_15 rfl 3 rfl ?_
  refine z_aload hC (pc := 16) dJ16_copyOfRangeByte_16 0 rfl ?_
  refine z_iconst (v := 0) hC (pc := 18) dJ16_copyOfRangeByte_18 zki_0 ?_
  refine z_aload_n hC (pc := 19) dJ16_copyOfRangeByte_19 rfl 2 rfl ?_
  refine z_alen hC (pc := 20) dJ16_copyOfRangeByte_20 hf (fun v5 hf => ?_)
  refine z_iload_n hC (pc := 21) dJ16_copyOfRangeByte_21 rfl 3 rfl ?_
  refine z_isub hC (pc := 22) dJ16_copyOfRangeByte_22 ?_
  refine z_iload_n hC (pc := 23) dJ16_copyOfRangeByte_23 rfl 1 rfl ?_
  refine z_mmin hC (pc := 24) q620 q621 q119 q622 (Nat.le_of_ble_eq_true rfl) (Nat.le_of_ble_eq_true rfl) dJ16_copyOfRangeByte_24 ?_
  refine z_copyI hC (pc := 27) q623 q625 q624 q121 (Nat.le_of_ble_eq_true rfl) (Nat.le_of_ble_eq_true rfl) dJ16_copyOfRangeByte_27 hf (fun s6 hf => ?_)
  refine z_aload hC (pc := 30) dJ16_copyOfRangeByte_30 0 rfl ?_
  exact z_areturn hC (pc := 32) (Or.inr ⟨_, rfl⟩) hQ dJ16_copyOfRangeByte_32 hf
/-! java/util/Arrays.copyOfRange([BII)[B -/
def f_J16_copyOfRange_b10 (G : Nat → Nat) (l0 : Option Nat) (l1 : Int32) (l2 : Int32) (s0 : zS) : Option ((Option Nat) × zS) :=
zb (f_J16_copyOfRangeByte G l0 l1 l2 s0) fun v1 s2 =>
some (v1, s2)
set_option maxHeartbeats 4000000 in
theorem w_J16_copyOfRange_b10 {X : zX} (hC : ZC X RJ16 cJ16_copyOfRange (some (.array .byte)) 3 84) (hL : X.nL = 3) (hno : ∀ x ∈ X.c.exceptionTable.toList, False) {r : (Option Nat)} {sF : zS} (hQ : ZQ X (.inl (some (zr r)), sF)) (l0 : Option Nat) (l1 : Int32) (l2 : Int32) (s0 : zS) (hf : f_J16_copyOfRange_b10 X.g.1 l0 l1 l2 s0 = some (r, sF)) : ZW X s0 10 [(0, zr l0), (1, zi l1), (2, zi l2)] [] := by
  unfold f_J16_copyOfRange_b10 at hf
  refine z_aload_n hC (pc := 10) dJ16_copyOfRange_10 rfl 0 rfl ?_
  refine z_iload_n hC (pc := 11) dJ16_copyOfRange_11 rfl 1 rfl ?_
  refine z_iload_n hC (pc := 12) dJ16_copyOfRange_12 rfl 2 rfl ?_
  refine z_cR (rest := []) hf (fun v1 s2 hcall => z_runS hC (pc := 13) 3 (m_J16_copyOfRangeByte X.g l0 l1 l2 s0 s2 v1 hcall) (lw_S q761 q762 q120 q763) hd_J16_copyOfRangeByte ⟨(Nat.le_of_ble_eq_true rfl), (Nat.le_of_ble_eq_true rfl)⟩ rfl (Nat.le_of_ble_eq_true rfl) dJ16_copyOfRange_13 rfl) (fun v1 s2 hf => ?_)
  exact z_areturn hC (pc := 16) (Or.inr ⟨_, rfl⟩) hQ dJ16_copyOfRange_16 hf
def f_J16_copyOfRange (G : Nat → Nat) (l0 : Option Nat) (l1 : Int32) (l2 : Int32) (s0 : zS) : Option ((Option Nat) × zS) :=
if l1 = 0 then (zo (zlen s0 l0) fun v2 =>
if l2 = v2 then (zb (zclB G s0 l0) fun a4 s5 =>
zo (zcsA s5 (some a4) 2) fun _ =>
some ((some a4), s5))
else (f_J16_copyOfRange_b10 G l0 l1 l2 s0))
else (f_J16_copyOfRange_b10 G l0 l1 l2 s0)
set_option maxHeartbeats 4000000 in
theorem m_J16_copyOfRange (Γ : zG) (l0 : Option Nat) (l1 : Int32) (l2 : Int32) (s0 s1 : zS) (r : (Option Nat)) (hf : f_J16_copyOfRange Γ.1 l0 l1 l2 s0 = some (r, s1)) : ZM Γ yJ16_copyOfRange (ws_ yJ16_copyOfRange cJ16_copyOfRange 3 (some (.array .byte))) 3 84 [zr l0, zi l1, zi l2] s0 (.inl (some (zr r)), s1) := by
  refine ZM.of (own := RJ16) (by decide) rfl (Nat.le_of_ble_eq_true rfl) ?_
  intro X hg hC hL hno hQ hin
  subst hg
  unfold f_J16_copyOfRange at hf
  refine z_iload_n hC (pc := 0) dJ16_copyOfRange_0 rfl 1 rfl ?_
  refine z_if_ne hC (pc := 1) (tgt := 10) dJ16_copyOfRange_1 rfl (fun c1 => ?_) (fun c1 => ?_)
  · have hf := zif_f hf c1
    exact w_J16_copyOfRange_b10 hC hL hno hQ l0 l1 l2 s0 hf
  · have hf := zif_t hf c1
    refine z_iload_n hC (pc := 4) dJ16_copyOfRange_4 rfl 2 rfl ?_
    refine z_aload_n hC (pc := 5) dJ16_copyOfRange_5 rfl 0 rfl ?_
    refine z_alen hC (pc := 6) dJ16_copyOfRange_6 hf (fun v2 hf => ?_)
    refine z_icmp_eq hC (pc := 7) (tgt := 17) dJ16_copyOfRange_7 rfl (fun c3 => ?_) (fun c3 => ?_)
    · have hf := zif_t hf c3
      refine z_aload_n hC (pc := 17) dJ16_copyOfRange_17 rfl 0 rfl ?_
      refine z_cloneB hC (pc := 18) q613 q614 q615 q616 q617 q618 (Nat.le_of_ble_eq_true rfl) (Nat.le_of_ble_eq_true rfl) dJ16_copyOfRange_18 hf (fun a4 s5 hf => ?_)
      refine z_castA (t := 2) hC (pc := 21) rfl (by simp) rfl q619 dJ16_copyOfRange_21 hf (fun hf => ?_)
      exact z_areturn hC (pc := 24) (Or.inr ⟨_, rfl⟩) hQ dJ16_copyOfRange_24 hf
    · have hf := zif_f hf c3
      exact w_J16_copyOfRange_b10 hC hL hno hQ l0 l1 l2 s0 hf
/-! java/lang/String.<init>(Ljava/lang/AbstractStringBuilder;Ljava/lang/Void;)V -/
def f_J12_init_2_b79 (G : Nat → Nat) (l0 : Nat) (l3 : Option Nat) (l4 : Int32) (s0 : zS) : Option (Unit × zS) :=
zo (zputN G s0 (some l0) 17 1 .byte 1) fun s1 =>
zb (f_J16_copyOfRange G l3 0 (l4 <<< ((1 : Int32) &&& 31)) s1) fun v2 s3 =>
zo (zput G s3 (some l0) 17 0 (va_rf v2)) fun s4 =>
some ((), s4)
set_option maxHeartbeats 4000000 in
theorem w_J12_init_2_b79 {X : zX} (hC : ZC X RJ12 cJ12_init_2 none 4 106) (hL : X.nL = 5) (hno : ∀ x ∈ X.c.exceptionTable.toList, False) (hin : X.meth.name = "<init>") {r : Unit} {sF : zS} (hQ : ZQ X (.inl none, sF)) (l0 : Nat) (l3 : Option Nat) (l4 : Int32) (s0 : zS) (hf : f_J12_init_2_b79 X.g.1 l0 l3 l4 s0 = some (r, sF)) : ZW X s0 79 [(0, zr (some l0)), (3, zr l3), (4, zi l4)] [] := by
  unfold f_J12_init_2_b79 at hf
  refine z_aload_n hC (pc := 79) dJ12_init_2_79 rfl 0 rfl ?_
  refine z_iconst (v := 1) hC (pc := 80) dJ12_init_2_80 zki_1 ?_
  refine z_putN hC (pc := 81) in_J12 tyJ12 tyJ12_ok nmJ12 zcJ12 1 (Nat.le_of_ble_eq_true rfl) (zLk.o hC q821) zsm (Or.inr ⟨rfl, hin, rfl, rfl⟩) (Or.inr (Or.inl rfl)) dJ12_init_2_81 hf (fun s1 hf => ?_)
  refine z_aload_n hC (pc := 84) dJ12_init_2_84 rfl 0 rfl ?_
  refine z_aload_n hC (pc := 85) dJ12_init_2_85 rfl 1 rfl ?_
  refine z_iconst (v := 0) hC (pc := 86) dJ12_init_2_86 zki_0 ?_
  refine z_iload hC (pc := 87) dJ12_init_2_87 2 rfl ?_
  refine z_iconst (v := 1) hC (pc := 89) dJ12_init_2_89 zki_1 ?_
  refine z_ishl hC (pc := 90) dJ12_init_2_90 ?_
  refine z_cR (rest := [zr (some l0)]) hf (fun v2 s3 hcall => z_runS hC (pc := 91) 3 (m_J16_copyOfRange X.g l3 0 (l4 <<< ((1 : Int32) &&& 31)) s1 s3 v2 hcall) (lw_S q758 q759 q120 q760) hd_J16_copyOfRange ⟨(Nat.le_of_ble_eq_true rfl), (Nat.le_of_ble_eq_true rfl)⟩ rfl (Nat.le_of_ble_eq_true rfl) dJ12_init_2_91 rfl) (fun v2 s3 hf => ?_)
  refine z_putV (v := zr v2) hC (pc := 94) in_J12 tyJ12 tyJ12_ok nmJ12 zcJ12 0 (Nat.le_of_ble_eq_true rfl) (zLk.o hC q820) zsm (Or.inr ⟨rfl, hin, rfl, rfl⟩) rfl (zfa v2) dJ12_init_2_94 hf (fun s4 hf => ?_)
  exact z_return hC (pc := 97) hQ dJ12_init_2_97 hf
def f_J12_init_2 (G : Nat → Nat) (l0 : Nat) (l1 : Option Nat) (l2 : Option Nat) (s0 : zS) : Option (Unit × zS) :=
zo (zrc s0 l1 16) fun a3 =>
zb (f_J10_getValue_J11 G a3 s0) fun v4 s5 =>
zo (zrc s5 (some a3) 16) fun _ =>
zb (f_J11_length G a3 s5) fun v8 s9 =>
zo (zrc s9 (some a3) 16) fun _ =>
zb (f_J10_isLatin1_J11 G a3 s9) fun v12 s13 =>
if v12 = 0 then (if (1 : Int32) = 0 then (f_J12_init_2_b79 G l0 v4 v8 s13)
else (zo (zgI s13 (some a3) 16 2) fun v16 =>
if v16 = 0 then (f_J12_init_2_b79 G l0 v4 v8 s13)
else (none)))
else (zo (zputN G s13 (some l0) 17 1 .byte 0) fun s18 =>
zb (f_J16_copyOfRange G v4 0 v8 s18) fun v19 s20 =>
zo (zput G s20 (some l0) 17 0 (va_rf v19)) fun s21 =>
some ((), s21))
set_option maxHeartbeats 4000000 in
theorem m_J12_init_2 (Γ : zG) (l0 : Nat) (l1 : Option Nat) (l2 : Option Nat) (s0 s1 : zS) (r : Unit) (hf : f_J12_init_2 Γ.1 l0 l1 l2 s0 = some (r, s1)) : ZM Γ yJ12_init_2 (ws_ yJ12_init_2 cJ12_init_2 5 none) 4 106 [zr (some l0), zr l1, zr l2] s0 (.inl none, s1) := by
  refine ZM.of (own := RJ12) (by decide) rfl (Nat.le_of_ble_eq_true rfl) ?_
  intro X hg hC hL hno hQ hin
  subst hg
  unfold f_J12_init_2 at hf
  refine ZW.perm (lv' := [(0, zr (some l0)), (1, zr l1)]) [0, 1] rfl ?_
  refine z_aload_n hC (pc := 0) dJ12_init_2_0 rfl 0 rfl ?_
  refine z_objInit hC (pc := 1) q743 q163 q164 (Nat.le_of_ble_eq_true rfl) (Nat.le_of_ble_eq_true rfl) dJ12_init_2_1 ?_
  refine z_aload_n hC (pc := 4) dJ12_init_2_4 rfl 1 rfl ?_
  obtain ⟨a3, fs1, rfl, ha2, hf⟩ := z_rcO hf
  refine z_cR (rest := []) hf (fun v4 s5 hcall => z_runU (owner := "java/lang/AbstractStringBuilder") (x := ⟨"java/lang/AbstractStringBuilder", "getValue", "()[B"⟩) hC (pc := 5) zcJ11 0 ha2 (m_J10_getValue_J11 X.g a3 s0 s5 v4 hcall) (lw_app (zm5 q744 q746 q747 q745 q114) (lw_meth q748)) rfl (by decide +kernel) ⟨(Nat.le_of_ble_eq_true rfl), (Nat.le_of_ble_eq_true rfl)⟩ rfl (Nat.le_of_ble_eq_true rfl) dJ12_init_2_5 rfl) (fun v4 s5 hf => ?_)
  refine z_astore_n (lv' := [(3, zr v4), (0, zr (some l0)), (1, zr (some a3))]) hC (pc := 8) hL dJ12_init_2_8 rfl (Nat.le_of_ble_eq_true rfl) rfl ?_
  refine z_aload_n hC (pc := 9) dJ12_init_2_9 rfl 2 rfl ?_
  obtain ⟨fs6, ha7, hf⟩ := z_rcN hf
  refine z_cI (rest := []) hf (fun v8 s9 hcall => z_runO (owner := "java/lang/AbstractStringBuilder") (x := ⟨"java/lang/AbstractStringBuilder", "length", "()I"⟩) hC (pc := 10) zcJ11 0 ha7 (m_J11_length X.g a3 s5 s9 v8 hcall) (lw_app (zm6 q749 q751 q750 q752 q753 q115) (lw_meth q754)) q756 (by decide +kernel) ⟨(Nat.le_of_ble_eq_true rfl), (Nat.le_of_ble_eq_true rfl)⟩ rfl (Nat.le_of_ble_eq_true rfl) dJ12_init_2_10 rfl) (fun v8 s9 hf => ?_)
  refine z_istore (lv' := [(4, zi v8), (3, zr v4), (0, zr (some l0)), (1, zr (some a3))]) hC (pc := 13) hL dJ12_init_2_13 (Nat.le_of_ble_eq_true rfl) rfl ?_
  refine z_aload_n hC (pc := 15) dJ12_init_2_15 rfl 3 rfl ?_
  obtain ⟨fs10, ha11, hf⟩ := z_rcN hf
  refine z_cI (rest := []) hf (fun v12 s13 hcall => z_runU (owner := "java/lang/AbstractStringBuilder") (x := ⟨"java/lang/AbstractStringBuilder", "isLatin1", "()Z"⟩) hC (pc := 16) zcJ11 0 ha11 (m_J10_isLatin1_J11 X.g a3 s9 s13 v12 hcall) (lw_app (zm5 q757 q628 q629 q627 q114) (lw_meth q630)) rfl (by decide +kernel) ⟨(Nat.le_of_ble_eq_true rfl), (Nat.le_of_ble_eq_true rfl)⟩ rfl (Nat.le_of_ble_eq_true rfl) dJ12_init_2_16 rfl) (fun v12 s13 hf => ?_)
  refine z_if_eq hC (pc := 19) (tgt := 41) dJ12_init_2_19 rfl (fun c14 => ?_) (fun c14 => ?_)
  · have hf := zif_t hf c14
    refine z_gets (v := zi 1) hC (pc := 41) (List.mem_of_getElem? (i := 0) rfl) q665 dJ12_init_2_41 ?_
    refine z_if_eq hC (pc := 44) (tgt := 79) dJ12_init_2_44 rfl (fun c15 => ?_) (fun c15 => ?_)
    · have hf := zif_t hf c15
      refine ZW.perm (lv' := [(0, zr (some l0)), (3, zr v4), (4, zi v8)]) [2, 1, 0] rfl ?_
      exact w_J12_init_2_b79 hC hL hno hin hQ l0 v4 v8 s13 hf
    · have hf := zif_f hf c15
      refine z_aload_n hC (pc := 47) dJ12_init_2_47 rfl 3 rfl ?_
      refine z_getI hC (pc := 48) in_J11 zcJ11 2 (Nat.le_of_ble_eq_true rfl) (zLk.o hC q568) zsm dJ12_init_2_48 hf (fun v16 hf => ?_)
      refine z_if_eq hC (pc := 51) (tgt := 79) dJ12_init_2_51 rfl (fun c17 => ?_) (fun c17 => ?_)
      · have hf := zif_t hf c17
        refine ZW.perm (lv' := [(0, zr (some l0)), (3, zr v4), (4, zi v8)]) [2, 1, 0] rfl ?_
        exact w_J12_init_2_b79 hC hL hno hin hQ l0 v4 v8 s13 hf
      · have hf := zif_f hf c17
        refine z_aload_n hC (pc := 54) dJ12_init_2_54 rfl 2 rfl ?_
        refine z_aload_n hC (pc := 55) dJ12_init_2_55 rfl 1 rfl ?_
        refine z_iconst (v := 0) hC (pc := 56) dJ12_init_2_56 zki_0 ?_
        refine z_iload hC (pc := 57) dJ12_init_2_57 0 rfl ?_
        cases hf
  · have hf := zif_f hf c14
    refine z_aload_n hC (pc := 22) dJ12_init_2_22 rfl 2 rfl ?_
    refine z_iconst (v := 0) hC (pc := 23) dJ12_init_2_23 zki_0 ?_
    refine z_putN hC (pc := 24) in_J12 tyJ12 tyJ12_ok nmJ12 zcJ12 1 (Nat.le_of_ble_eq_true rfl) (zLk.o hC q821) zsm (Or.inr ⟨rfl, hin, rfl, rfl⟩) (Or.inr (Or.inl rfl)) dJ12_init_2_24 hf (fun s18 hf => ?_)
    refine z_aload_n hC (pc := 27) dJ12_init_2_27 rfl 2 rfl ?_
    refine z_aload_n hC (pc := 28) dJ12_init_2_28 rfl 1 rfl ?_
    refine z_iconst (v := 0) hC (pc := 29) dJ12_init_2_29 zki_0 ?_
    refine z_iload hC (pc := 30) dJ12_init_2_30 0 rfl ?_
    refine z_cR (rest := [zr (some l0)]) hf (fun v19 s20 hcall => z_runS hC (pc := 32) 3 (m_J16_copyOfRange X.g v4 0 v8 s18 s20 v19 hcall) (lw_S q758 q759 q120 q760) hd_J16_copyOfRange ⟨(Nat.le_of_ble_eq_true rfl), (Nat.le_of_ble_eq_true rfl)⟩ rfl (Nat.le_of_ble_eq_true rfl) dJ12_init_2_32 rfl) (fun v19 s20 hf => ?_)
    refine z_putV (v := zr v19) hC (pc := 35) in_J12 tyJ12 tyJ12_ok nmJ12 zcJ12 0 (Nat.le_of_ble_eq_true rfl) (zLk.o hC q820) zsm (Or.inr ⟨rfl, hin, rfl, rfl⟩) rfl (zfa v19) dJ12_init_2_35 hf (fun s21 hf => ?_)
    refine z_goto hC (pc := 38) (tgt := 97) dJ12_init_2_38 rfl ?_
    exact z_return hC (pc := 97) hQ dJ12_init_2_97 hf
/-! java/lang/String.<init>(Ljava/lang/StringBuilder;)V -/
def f_J12_init (G : Nat → Nat) (l0 : Nat) (l1 : Option Nat) (s0 : zS) : Option (Unit × zS) :=
zb (f_J12_init_2 G l0 l1 none s0) fun _ s2 =>
some ((), s2)
set_option maxHeartbeats 4000000 in
theorem m_J12_init (Γ : zG) (l0 : Nat) (l1 : Option Nat) (s0 s1 : zS) (r : Unit) (hf : f_J12_init Γ.1 l0 l1 s0 = some (r, s1)) : ZM Γ yJ12_init (ws_ yJ12_init cJ12_init 2 none) 5 130 [zr (some l0), zr l1] s0 (.inl none, s1) := by
  refine ZM.of (own := RJ12) (by decide) rfl (Nat.le_of_ble_eq_true rfl) ?_
  intro X hg hC hL hno hQ hin
  subst hg
  unfold f_J12_init at hf
  refine z_aload_n hC (pc := 0) dJ12_init_0 rfl 0 rfl ?_
  refine z_aload_n hC (pc := 1) dJ12_init_1 rfl 1 rfl ?_
  refine z_null hC (pc := 2) dJ12_init_2 ?_
  refine z_cU (rest := []) hf (fun v1 s2 hcall => z_runI hC (pc := 3) 2 (m_J12_init_2 X.g l0 l1 none s0 s2 v1 hcall) q742 rfl q116 q740 q741 hd_J12_init_2 ⟨(Nat.le_of_ble_eq_true rfl), (Nat.le_of_ble_eq_true rfl)⟩ rfl (Nat.le_of_ble_eq_true rfl) dJ12_init_3 rfl) (fun _ s2 hf => ?_)
  exact z_return hC (pc := 6) hQ dJ12_init_6 hf
/-! java/lang/StringBuilder.toString()Ljava/lang/String; -/
def f_J11_toString (G : Nat → Nat) (l0 : Nat) (s0 : zS) : Option ((Option Nat) × zS) :=
zb (znewO G s0 17 4 [.null, .int 0, .int 0, .int 0]) fun a1 s2 =>
zb (f_J12_init G a1 (some l0) s2) fun _ s4 =>
some ((some a1), s4)
set_option maxHeartbeats 4000000 in
theorem m_J11_toString (Γ : zG) (l0 : Nat) (s0 s1 : zS) (r : (Option Nat)) (hf : f_J11_toString Γ.1 l0 s0 = some (r, s1)) : ZM Γ yJ11_toString (ws_ yJ11_toString cJ11_toString 1 (some (.object "java/lang/String"))) 6 151 [zr (some l0)] s0 (.inl (some (zr r)), s1) := by
  refine ZM.of (own := RJ11) (by decide) rfl (Nat.le_of_ble_eq_true rfl) ?_
  intro X hg hC hL hno hQ hin
  subst hg
  unfold f_J11_toString at hf
  refine z_new hC (pc := 0) in_J12 tyJ12 tyJ12_ok zcJ12 q735 q736 q116 rfl zdJ12 dJ11_toString_0 hf (fun a1 s2 hf => ?_)
  refine z_dup hC (pc := 3) dJ11_toString_3 rfl ?_
  refine z_aload_n hC (pc := 4) dJ11_toString_4 rfl 0 rfl ?_
  refine z_cU (rest := [zr (some a1)]) hf (fun v3 s4 hcall => z_runI hC (pc := 5) 1 (m_J12_init X.g a1 (some l0) s2 s4 v3 hcall) q739 rfl q116 q737 q738 hd_J12_init ⟨(Nat.le_of_ble_eq_true rfl), (Nat.le_of_ble_eq_true rfl)⟩ rfl (Nat.le_of_ble_eq_true rfl) dJ11_toString_5 rfl) (fun _ s4 hf => ?_)
  exact z_areturn hC (pc := 8) (Or.inl ⟨_, rfl⟩) hQ dJ11_toString_8 hf
/-! java/lang/String.isLatin1()Z -/
def f_J12_isLatin1 (G : Nat → Nat) (l0 : Nat) (s0 : zS) : Option (Int32 × zS) :=
if (1 : Int32) = 0 then (zrn .boolean 0 s0)
else (zo (zgI s0 (some l0) 17 1) fun v2 =>
if v2 = 0 then (zrn .boolean 1 s0)
else (zrn .boolean 0 s0))
set_option maxHeartbeats 4000000 in
theorem m_J12_isLatin1 (Γ : zG) (l0 : Nat) (s0 s1 : zS) (r : Int32) (hf : f_J12_isLatin1 Γ.1 l0 s0 = some (r, s1)) : ZM Γ yJ12_isLatin1 (ws_ yJ12_isLatin1 cJ12_isLatin1 1 (some .boolean)) 1 0 [zr (some l0)] s0 (.inl (some (zi r)), s1) := by
  refine ZM.of (own := RJ12) (by decide) rfl (Nat.le_of_ble_eq_true rfl) ?_
  intro X hg hC hL hno hQ hin
  subst hg
  unfold f_J12_isLatin1 at hf
  refine z_gets (v := zi 1) hC (pc := 0) (List.mem_of_getElem? (i := 0) rfl) q665 dJ12_isLatin1_0 ?_
  refine z_if_eq hC (pc := 3) (tgt := 17) dJ12_isLatin1_3 rfl (fun c1 => ?_) (fun c1 => ?_)
  · have hf := zif_t hf c1
    refine z_iconst (v := 0) hC (pc := 17) dJ12_isLatin1_17 zki_0 ?_
    exact z_zreturn hC (pc := 18) hQ dJ12_isLatin1_18 hf
  · have hf := zif_f hf c1
    refine z_aload_n hC (pc := 6) dJ12_isLatin1_6 rfl 0 rfl ?_
    refine z_getI hC (pc := 7) in_J12 zcJ12 1 (Nat.le_of_ble_eq_true rfl) (zLk.o hC q821) zsm dJ12_isLatin1_7 hf (fun v2 hf => ?_)
    refine z_if_ne hC (pc := 10) (tgt := 17) dJ12_isLatin1_10 rfl (fun c3 => ?_) (fun c3 => ?_)
    · have hf := zif_f hf c3
      refine z_iconst (v := 0) hC (pc := 17) dJ12_isLatin1_17 zki_0 ?_
      exact z_zreturn hC (pc := 18) hQ dJ12_isLatin1_18 hf
    · have hf := zif_t hf c3
      refine z_iconst (v := 1) hC (pc := 13) dJ12_isLatin1_13 zki_1 ?_
      refine z_goto hC (pc := 14) (tgt := 18) dJ12_isLatin1_14 rfl ?_
      exact z_zreturn hC (pc := 18) hQ dJ12_isLatin1_18 hf
/-! jdk/internal/util/Preconditions.checkIndex(IILjava/util/function/BiFunction;)I -/
def f_J18_checkIndex_b9 (G : Nat → Nat) (l0 : Int32) (l1 : Int32) (l2 : Option Nat) (s0 : zS) : Option (Int32 × zS) :=
none
set_option maxHeartbeats 4000000 in
theorem w_J18_checkIndex_b9 {X : zX} (hC : ZC X RJ18 cJ18_checkIndex (some .int) 1 0) (hL : X.nL = 3) (hno : ∀ x ∈ X.c.exceptionTable.toList, False) {r : Int32} {sF : zS} (hQ : ZQ X (.inl (some (zi r)), sF)) (l0 : Int32) (l1 : Int32) (l2 : Option Nat) (s0 : zS) (hf : f_J18_checkIndex_b9 X.g.1 l0 l1 l2 s0 = some (r, sF)) : ZW X s0 9 [(0, zi l0), (1, zi l1), (2, zr l2)] [] := by
  unfold f_J18_checkIndex_b9 at hf
  refine z_aload_n hC (pc := 9) dJ18_checkIndex_9 rfl 2 rfl ?_
  refine z_iload_n hC (pc := 10) dJ18_checkIndex_10 rfl 0 rfl ?_
  refine z_iload_n hC (pc := 11) dJ18_checkIndex_11 rfl 1 rfl ?_
  cases hf
def f_J18_checkIndex (G : Nat → Nat) (l0 : Int32) (l1 : Int32) (l2 : Option Nat) (s0 : zS) : Option (Int32 × zS) :=
if l0 < 0 then (f_J18_checkIndex_b9 G l0 l1 l2 s0)
else (if l0 < l1 then (some (l0, s0))
else (f_J18_checkIndex_b9 G l0 l1 l2 s0))
set_option maxHeartbeats 4000000 in
theorem m_J18_checkIndex (Γ : zG) (l0 : Int32) (l1 : Int32) (l2 : Option Nat) (s0 s1 : zS) (r : Int32) (hf : f_J18_checkIndex Γ.1 l0 l1 l2 s0 = some (r, s1)) : ZM Γ yJ18_checkIndex (ws_ yJ18_checkIndex cJ18_checkIndex 3 (some .int)) 1 0 [zi l0, zi l1, zr l2] s0 (.inl (some (zi r)), s1) := by
  refine ZM.of (own := RJ18) (by decide) rfl (Nat.le_of_ble_eq_true rfl) ?_
  intro X hg hC hL hno hQ hin
  subst hg
  unfold f_J18_checkIndex at hf
  refine z_iload_n hC (pc := 0) dJ18_checkIndex_0 rfl 0 rfl ?_
  refine z_if_lt hC (pc := 1) (tgt := 9) dJ18_checkIndex_1 rfl (fun c1 => ?_) (fun c1 => ?_)
  · have hf := zif_t hf c1
    exact w_J18_checkIndex_b9 hC hL hno hQ l0 l1 l2 s0 hf
  · have hf := zif_f hf c1
    refine z_iload_n hC (pc := 4) dJ18_checkIndex_4 rfl 0 rfl ?_
    refine z_iload_n hC (pc := 5) dJ18_checkIndex_5 rfl 1 rfl ?_
    refine z_icmp_lt hC (pc := 6) (tgt := 16) dJ18_checkIndex_6 rfl (fun c2 => ?_) (fun c2 => ?_)
    · have hf := zif_t hf c2
      refine z_iload_n hC (pc := 16) dJ18_checkIndex_16 rfl 0 rfl ?_
      exact z_ireturn hC (pc := 17) hQ dJ18_checkIndex_17 hf
    · have hf := zif_f hf c2
      exact w_J18_checkIndex_b9 hC hL hno hQ l0 l1 l2 s0 hf
/-! java/lang/String.checkIndex(II)V -/
def f_J12_checkIndex (G : Nat → Nat) (l0 : Int32) (l1 : Int32) (s0 : zS) : Option (Unit × zS) :=
zb (f_J18_checkIndex G l0 l1 ((zgo (G 8))) s0) fun v1 s2 =>
some ((), s2)
set_option maxHeartbeats 4000000 in
theorem m_J12_checkIndex (Γ : zG) (l0 : Int32) (l1 : Int32) (s0 s1 : zS) (r : Unit) (hf : f_J12_checkIndex Γ.1 l0 l1 s0 = some (r, s1)) : ZM Γ yJ12_checkIndex (ws_ yJ12_checkIndex cJ12_checkIndex 2 none) 2 22 [zi l0, zi l1] s0 (.inl none, s1) := by
  refine ZM.of (own := RJ12) (by decide) rfl (Nat.le_of_ble_eq_true rfl) ?_
  intro X hg hC hL hno hQ hin
  subst hg
  unfold f_J12_checkIndex at hf
  refine z_iload_n hC (pc := 0) dJ12_checkIndex_0 rfl 0 rfl ?_
  refine z_iload_n hC (pc := 1) dJ12_checkIndex_1 rfl 1 rfl ?_
  refine z_gets (v := zr ((zgo (X.g.1 8)))) hC (pc := 2) (List.mem_of_getElem? (i := 8) rfl) q643 dJ12_checkIndex_2 ?_
  refine z_cI (rest := []) hf (fun v1 s2 hcall => z_runS hC (pc := 5) 3 (m_J18_checkIndex X.g l0 l1 ((zgo (X.g.1 8))) s0 s2 v1 hcall) (lw_S q2095 q487 q123 q488) hd_J18_checkIndex ⟨(Nat.le_of_ble_eq_true rfl), (Nat.le_of_ble_eq_true rfl)⟩ rfl (Nat.le_of_ble_eq_true rfl) dJ12_checkIndex_5 rfl) (fun v1 s2 hf => ?_)
  refine z_pop hC (pc := 8) dJ12_checkIndex_8 rfl ?_
  exact z_return hC (pc := 9) hQ dJ12_checkIndex_9 hf
/-! java/lang/StringLatin1.charAt([BI)C -/
def f_J17_charAt (G : Nat → Nat) (l0 : Option Nat) (l1 : Int32) (s0 : zS) : Option (Int32 × zS) :=
zo (zlen s0 l0) fun v1 =>
zb (f_J12_checkIndex G l1 v1 s0) fun _ s3 =>
zo (zaI s3 l0 2 l1) fun v4 =>
zrn .char (((v4 &&& 255 : Int32).toUInt32 % 65536).toInt32) s3
set_option maxHeartbeats 4000000 in
theorem m_J17_charAt (Γ : zG) (l0 : Option Nat) (l1 : Int32) (s0 s1 : zS) (r : Int32) (hf : f_J17_charAt Γ.1 l0 l1 s0 = some (r, s1)) : ZM Γ yJ17_charAt (ws_ yJ17_charAt cJ17_charAt 2 (some .char)) 3 43 [zr l0, zi l1] s0 (.inl (some (zi r)), s1) := by
  refine ZM.of (own := RJ17) (by decide) rfl (Nat.le_of_ble_eq_true rfl) ?_
  intro X hg hC hL hno hQ hin
  subst hg
  unfold f_J17_charAt at hf
  refine z_iload_n hC (pc := 0) dJ17_charAt_0 rfl 1 rfl ?_
  refine z_aload_n hC (pc := 1) dJ17_charAt_1 rfl 0 rfl ?_
  refine z_alen hC (pc := 2) dJ17_charAt_2 hf (fun v1 hf => ?_)
  refine z_cU (rest := []) hf (fun v2 s3 hcall => z_runS hC (pc := 3) 2 (m_J12_checkIndex X.g l1 v1 s0 s3 v2 hcall) (lw_S q2794 q2093 q116 q2094) hd_J12_checkIndex ⟨(Nat.le_of_ble_eq_true rfl), (Nat.le_of_ble_eq_true rfl)⟩ rfl (Nat.le_of_ble_eq_true rfl) dJ17_charAt_3 rfl) (fun _ s3 hf => ?_)
  refine z_aload_n hC (pc := 6) dJ17_charAt_6 rfl 0 rfl ?_
  refine z_iload_n hC (pc := 7) dJ17_charAt_7 rfl 1 rfl ?_
  refine z_bald hC (pc := 8) dJ17_charAt_8 hf (fun v4 hf => ?_)
  refine z_sipush (v := 255) hC (pc := 9) dJ17_charAt_9 zks_255 ?_
  refine z_iand hC (pc := 12) dJ17_charAt_12 ?_
  refine z_i2c hC (pc := 13) dJ17_charAt_13 ?_
  exact z_zreturn hC (pc := 14) hQ dJ17_charAt_14 hf
/-! java/lang/String.charAt(I)C -/
def f_J12_charAt (G : Nat → Nat) (l0 : Nat) (l1 : Int32) (s0 : zS) : Option (Int32 × zS) :=
zo (zrc s0 (some l0) 17) fun _ =>
zb (f_J12_isLatin1 G l0 s0) fun v3 s4 =>
if v3 = 0 then (zo (zgR s4 (some l0) 17 0) fun v6 =>
none)
else (zo (zgR s4 (some l0) 17 0) fun v7 =>
zb (f_J17_charAt G v7 l1 s4) fun v8 s9 =>
zrn .char v8 s9)
set_option maxHeartbeats 4000000 in
theorem m_J12_charAt (Γ : zG) (l0 : Nat) (l1 : Int32) (s0 s1 : zS) (r : Int32) (hf : f_J12_charAt Γ.1 l0 l1 s0 = some (r, s1)) : ZM Γ yJ12_charAt (ws_ yJ12_charAt cJ12_charAt 2 (some .char)) 4 64 [zr (some l0), zi l1] s0 (.inl (some (zi r)), s1) := by
  refine ZM.of (own := RJ12) (by decide) rfl (Nat.le_of_ble_eq_true rfl) ?_
  intro X hg hC hL hno hQ hin
  subst hg
  unfold f_J12_charAt at hf
  refine z_aload_n hC (pc := 0) dJ12_charAt_0 rfl 0 rfl ?_
  obtain ⟨fs1, ha2, hf⟩ := z_rcN hf
  refine z_cI (rest := []) hf (fun v3 s4 hcall => z_runV hC (pc := 1) zcJ12 0 ha2 (m_J12_isLatin1 X.g l0 s0 s4 v3 hcall) (lw_V q909 q910 q911 q116 q912) hdV_J12_isLatin1 ⟨(Nat.le_of_ble_eq_true rfl), (Nat.le_of_ble_eq_true rfl)⟩ rfl (Nat.le_of_ble_eq_true rfl) dJ12_charAt_1 rfl) (fun v3 s4 hf => ?_)
  refine z_if_eq hC (pc := 4) (tgt := 16) dJ12_charAt_4 rfl (fun c5 => ?_) (fun c5 => ?_)
  · have hf := zif_t hf c5
    refine z_aload_n hC (pc := 16) dJ12_charAt_16 rfl 0 rfl ?_
    refine z_getR hC (pc := 17) in_J12 zcJ12 0 (Nat.le_of_ble_eq_true rfl) (zLk.o hC q820) zsm dJ12_charAt_17 hf (fun v6 hf => ?_)
    refine z_iload_n hC (pc := 20) dJ12_charAt_20 rfl 1 rfl ?_
    cases hf
  · have hf := zif_f hf c5
    refine z_aload_n hC (pc := 7) dJ12_charAt_7 rfl 0 rfl ?_
    refine z_getR hC (pc := 8) in_J12 zcJ12 0 (Nat.le_of_ble_eq_true rfl) (zLk.o hC q820) zsm dJ12_charAt_8 hf (fun v7 hf => ?_)
    refine z_iload_n hC (pc := 11) dJ12_charAt_11 rfl 1 rfl ?_
    refine z_cI (rest := []) hf (fun v8 s9 hcall => z_runS hC (pc := 12) 2 (m_J17_charAt X.g v7 l1 s4 s9 v8 hcall) (lw_S q2791 q2792 q122 q2793) hd_J17_charAt ⟨(Nat.le_of_ble_eq_true rfl), (Nat.le_of_ble_eq_true rfl)⟩ rfl (Nat.le_of_ble_eq_true rfl) dJ12_charAt_12 rfl) (fun v8 s9 hf => ?_)
    exact z_zreturn hC (pc := 15) hQ dJ12_charAt_15 hf
/-! java/lang/String.coder()B -/
def f_J12_coder (G : Nat → Nat) (l0 : Nat) (s0 : zS) : Option (Int32 × zS) :=
if (1 : Int32) = 0 then (zrn .byte 1 s0)
else (zo (zgI s0 (some l0) 17 1) fun v2 =>
zrn .byte v2 s0)
set_option maxHeartbeats 4000000 in
theorem m_J12_coder (Γ : zG) (l0 : Nat) (s0 s1 : zS) (r : Int32) (hf : f_J12_coder Γ.1 l0 s0 = some (r, s1)) : ZM Γ yJ12_coder (ws_ yJ12_coder cJ12_coder 1 (some .byte)) 1 0 [zr (some l0)] s0 (.inl (some (zi r)), s1) := by
  refine ZM.of (own := RJ12) (by decide) rfl (Nat.le_of_ble_eq_true rfl) ?_
  intro X hg hC hL hno hQ hin
  subst hg
  unfold f_J12_coder at hf
  refine z_gets (v := zi 1) hC (pc := 0) (List.mem_of_getElem? (i := 0) rfl) q665 dJ12_coder_0 ?_
  refine z_if_eq hC (pc := 3) (tgt := 13) dJ12_coder_3 rfl (fun c1 => ?_) (fun c1 => ?_)
  · have hf := zif_t hf c1
    refine z_iconst (v := 1) hC (pc := 13) dJ12_coder_13 zki_1 ?_
    exact z_zreturn hC (pc := 14) hQ dJ12_coder_14 hf
  · have hf := zif_f hf c1
    refine z_aload_n hC (pc := 6) dJ12_coder_6 rfl 0 rfl ?_
    refine z_getI hC (pc := 7) in_J12 zcJ12 1 (Nat.le_of_ble_eq_true rfl) (zLk.o hC q821) zsm dJ12_coder_7 hf (fun v2 hf => ?_)
    refine z_goto hC (pc := 10) (tgt := 14) dJ12_coder_10 rfl ?_
    exact z_zreturn hC (pc := 14) hQ dJ12_coder_14 hf
/-! java/lang/StringLatin1.equals([B[B)Z -/
def f_J17_equals_b9 (G : Nat → Nat) (k9 : Option Nat → Option Nat → Int32 → zS → Option (Int32 × zS)) (l0 : Option Nat) (l1 : Option Nat) (l2 : Int32) (s0 : zS) : Option (Int32 × zS) :=
zo (zlen s0 l0) fun v1 =>
if v1 ≤ l2 then (zrn .boolean 1 s0)
else (zo (zaI s0 l0 2 l2) fun v3 =>
zo (zaI s0 l1 2 l2) fun v4 =>
if v3 = v4 then (k9 l0 l1 (l2 + 1) s0)
else (zrn .boolean 0 s0))
set_option maxHeartbeats 4000000 in
theorem w_J17_equals_b9 {X : zX} (hC : ZC X RJ17 cJ17_equals (some .boolean) 1 0) (hL : X.nL = 3) (hno : ∀ x ∈ X.c.exceptionTable.toList, False) {r : Int32} {sF : zS} (hQ : ZQ X (.inl (some (zi r)), sF)) (k9 : Option Nat → Option Nat → Int32 → zS → Option (Int32 × zS)) (hk9 : ∀ (l0 : Option Nat) (l1 : Option Nat) (l2 : Int32) (s0 : zS), k9 l0 l1 l2 s0 = some (r, sF) → ZW X s0 9 [(0, zr l0), (1, zr l1), (2, zi l2)] []) (l0 : Option Nat) (l1 : Option Nat) (l2 : Int32) (s0 : zS) (hf : f_J17_equals_b9 X.g.1 k9 l0 l1 l2 s0 = some (r, sF)) : ZW X s0 9 [(0, zr l0), (1, zr l1), (2, zi l2)] [] := by
  unfold f_J17_equals_b9 at hf
  refine z_iload_n hC (pc := 9) dJ17_equals_9 rfl 2 rfl ?_
  refine z_aload_n hC (pc := 10) dJ17_equals_10 rfl 0 rfl ?_
  refine z_alen hC (pc := 11) dJ17_equals_11 hf (fun v1 hf => ?_)
  refine z_icmp_ge hC (pc := 12) (tgt := 32) dJ17_equals_12 rfl (fun c2 => ?_) (fun c2 => ?_)
  · have hf := zif_t hf c2
    refine z_iconst (v := 1) hC (pc := 32) dJ17_equals_32 zki_1 ?_
    exact z_zreturn hC (pc := 33) hQ dJ17_equals_33 hf
  · have hf := zif_f hf c2
    refine z_aload_n hC (pc := 15) dJ17_equals_15 rfl 0 rfl ?_
    refine z_iload_n hC (pc := 16) dJ17_equals_16 rfl 2 rfl ?_
    refine z_bald hC (pc := 17) dJ17_equals_17 hf (fun v3 hf => ?_)
    refine z_aload_n hC (pc := 18) dJ17_equals_18 rfl 1 rfl ?_
    refine z_iload_n hC (pc := 19) dJ17_equals_19 rfl 2 rfl ?_
    refine z_bald hC (pc := 20) dJ17_equals_20 hf (fun v4 hf => ?_)
    refine z_icmp_eq hC (pc := 21) (tgt := 26) dJ17_equals_21 rfl (fun c5 => ?_) (fun c5 => ?_)
    · have hf := zif_t hf c5
      refine z_iinc (v := 1) (lv' := [(2, zi (l2 + 1)), (0, zr l0), (1, zr l1)]) hC (pc := 26) hL dJ17_equals_26 2 rfl zki_1 (Nat.le_of_ble_eq_true rfl) rfl ?_
      refine z_goto hC (pc := 29) (tgt := 9) dJ17_equals_29 rfl ?_
      refine ZW.perm (lv' := [(0, zr l0), (1, zr l1), (2, zi (l2 + 1))]) [1, 2, 0] rfl ?_
      exact hk9 l0 l1 (l2 + 1) s0 hf
    · have hf := zif_f hf c5
      refine z_iconst (v := 0) hC (pc := 24) dJ17_equals_24 zki_0 ?_
      exact z_zreturn hC (pc := 25) hQ dJ17_equals_25 hf
def f_J17_equals_l9 (G : Nat → Nat) : Nat → Option Nat → Option Nat → Int32 → zS → Option (Int32 × zS)
  | 0 => fun _ _ _ _ => none
  | n + 1 => f_J17_equals_b9 G (f_J17_equals_l9 G n)
theorem w_J17_equals_l9 {X : zX} (hC : ZC X RJ17 cJ17_equals (some .boolean) 1 0) (hL : X.nL = 3) (hno : ∀ x ∈ X.c.exceptionTable.toList, False) {r : Int32} {sF : zS} (hQ : ZQ X (.inl (some (zi r)), sF)) : ∀ (n : Nat) (l0 : Option Nat) (l1 : Option Nat) (l2 : Int32) (s0 : zS) (_ : f_J17_equals_l9 X.g.1 n l0 l1 l2 s0 = some (r, sF)), ZW X s0 9 [(0, zr l0), (1, zr l1), (2, zi l2)] [] := by
  intro n
  induction n with
  | zero => intro l0 l1 l2 s0 hf; exact absurd (show (none : Option (Int32 × zS)) = some (r, sF) from hf) (fun z => nomatch z)
  | succ n ih => intro l0 l1 l2 s0 hf; exact w_J17_equals_b9 hC hL hno hQ (f_J17_equals_l9 X.g.1 n) ih l0 l1 l2 s0 hf
def f_J17_equals (G : Nat → Nat) (l0 : Option Nat) (l1 : Option Nat) (s0 : zS) : Option (Int32 × zS) :=
zo (zlen s0 l0) fun v1 =>
zo (zlen s0 l1) fun v2 =>
if v1 = v2 then (f_J17_equals_l9 G 2000 l0 l1 0 s0)
else (zrn .boolean 0 s0)
set_option maxHeartbeats 4000000 in
theorem m_J17_equals (Γ : zG) (l0 : Option Nat) (l1 : Option Nat) (s0 s1 : zS) (r : Int32) (hf : f_J17_equals Γ.1 l0 l1 s0 = some (r, s1)) : ZM Γ yJ17_equals (ws_ yJ17_equals cJ17_equals 3 (some .boolean)) 1 0 [zr l0, zr l1] s0 (.inl (some (zi r)), s1) := by
  refine ZM.of (own := RJ17) (by decide) rfl (Nat.le_of_ble_eq_true rfl) ?_
  intro X hg hC hL hno hQ hin
  subst hg
  unfold f_J17_equals at hf
  refine z_aload_n hC (pc := 0) dJ17_equals_0 rfl 0 rfl ?_
  refine z_alen hC (pc := 1) dJ17_equals_1 hf (fun v1 hf => ?_)
  refine z_aload_n hC (pc := 2) dJ17_equals_2 rfl 1 rfl ?_
  refine z_alen hC (pc := 3) dJ17_equals_3 hf (fun v2 hf => ?_)
  refine z_icmp_ne hC (pc := 4) (tgt := 34) dJ17_equals_4 rfl (fun c3 => ?_) (fun c3 => ?_)
  · have hf := zif_f hf c3
    refine z_iconst (v := 0) hC (pc := 34) dJ17_equals_34 zki_0 ?_
    exact z_zreturn hC (pc := 35) hQ dJ17_equals_35 hf
  · have hf := zif_t hf c3
    refine z_iconst (v := 0) hC (pc := 7) dJ17_equals_7 zki_0 ?_
    refine z_istore_n (lv' := [(2, zi 0), (0, zr l0), (1, zr l1)]) hC (pc := 8) hL dJ17_equals_8 rfl (Nat.le_of_ble_eq_true rfl) rfl ?_
    refine ZW.perm (lv' := [(0, zr l0), (1, zr l1), (2, zi 0)]) [1, 2, 0] rfl ?_
    exact w_J17_equals_l9 hC hL hno hQ 2000 l0 l1 0 s0 hf
/-! java/lang/String.equals(Ljava/lang/Object;)Z -/
def f_J12_equals_b36 (G : Nat → Nat) (l0 : Nat) (l2 : Option Nat) (s0 : zS) : Option (Int32 × zS) :=
zo (zgR s0 (some l0) 17 0) fun v1 =>
zo (zgR s0 l2 17 0) fun v2 =>
zb (f_J17_equals G v1 v2 s0) fun v3 s4 =>
if v3 = 0 then (zrn .boolean 0 s4)
else (zrn .boolean 1 s4)
set_option maxHeartbeats 4000000 in
theorem w_J12_equals_b36 {X : zX} (hC : ZC X RJ12 cJ12_equals (some .boolean) 2 22) (hL : X.nL = 3) (hno : ∀ x ∈ X.c.exceptionTable.toList, False) {r : Int32} {sF : zS} (hQ : ZQ X (.inl (some (zi r)), sF)) (l0 : Nat) (l2 : Option Nat) (s0 : zS) (hf : f_J12_equals_b36 X.g.1 l0 l2 s0 = some (r, sF)) : ZW X s0 36 [(0, zr (some l0)), (2, zr l2)] [] := by
  unfold f_J12_equals_b36 at hf
  refine z_aload_n hC (pc := 36) dJ12_equals_36 rfl 0 rfl ?_
  refine z_getR hC (pc := 37) in_J12 zcJ12 0 (Nat.le_of_ble_eq_true rfl) (zLk.o hC q820) zsm dJ12_equals_37 hf (fun v1 hf => ?_)
  refine z_aload_n hC (pc := 40) dJ12_equals_40 rfl 1 rfl ?_
  refine z_getR hC (pc := 41) in_J12 zcJ12 0 (Nat.le_of_ble_eq_true rfl) (zLk.o hC q820) zsm dJ12_equals_41 hf (fun v2 hf => ?_)
  refine z_cI (rest := []) hf (fun v3 s4 hcall => z_runS hC (pc := 44) 2 (m_J17_equals X.g v1 v2 s0 s4 v3 hcall) (lw_S q972 q973 q122 q974) hd_J17_equals ⟨(Nat.le_of_ble_eq_true rfl), (Nat.le_of_ble_eq_true rfl)⟩ rfl (Nat.le_of_ble_eq_true rfl) dJ12_equals_44 rfl) (fun v3 s4 hf => ?_)
  refine z_if_eq hC (pc := 47) (tgt := 54) dJ12_equals_47 rfl (fun c5 => ?_) (fun c5 => ?_)
  · have hf := zif_t hf c5
    refine z_iconst (v := 0) hC (pc := 54) dJ12_equals_54 zki_0 ?_
    exact z_zreturn hC (pc := 55) hQ dJ12_equals_55 hf
  · have hf := zif_f hf c5
    refine z_iconst (v := 1) hC (pc := 50) dJ12_equals_50 zki_1 ?_
    refine z_goto hC (pc := 51) (tgt := 55) dJ12_equals_51 rfl ?_
    exact z_zreturn hC (pc := 55) hQ dJ12_equals_55 hf
def f_J12_equals (G : Nat → Nat) (l0 : Nat) (l1 : Option Nat) (s0 : zS) : Option (Int32 × zS) :=
if (some l0) = l1 then (zrn .boolean 1 s0)
else (zo (zrc s0 l1 17) fun _ =>
if (1 : Int32) = 0 then (zrn .boolean 0 s0)
else (zo (zcst s0 l1 17) fun _ =>
if (1 : Int32) = 0 then (f_J12_equals_b36 G l0 l1 s0)
else (zo (zgI s0 (some l0) 17 1) fun v4 =>
zo (zgI s0 l1 17 1) fun v5 =>
if v4 = v5 then (f_J12_equals_b36 G l0 l1 s0)
else (zrn .boolean 0 s0))))
set_option maxHeartbeats 4000000 in
theorem m_J12_equals (Γ : zG) (l0 : Nat) (l1 : Option Nat) (s0 s1 : zS) (r : Int32) (hf : f_J12_equals Γ.1 l0 l1 s0 = some (r, s1)) : ZM Γ yJ12_equals (ws_ yJ12_equals cJ12_equals 3 (some .boolean)) 2 22 [zr (some l0), zr l1] s0 (.inl (some (zi r)), s1) := by
  refine ZM.of (own := RJ12) (by decide) rfl (Nat.le_of_ble_eq_true rfl) ?_
  intro X hg hC hL hno hQ hin
  subst hg
  unfold f_J12_equals at hf
  refine z_aload_n hC (pc := 0) dJ12_equals_0 rfl 0 rfl ?_
  refine z_aload_n hC (pc := 1) dJ12_equals_1 rfl 1 rfl ?_
  refine z_acmp_ne hC (pc := 2) (tgt := 7) dJ12_equals_2 rfl (fun c1 => ?_) (fun c1 => ?_)
  · have hf := zif_f hf c1
    refine z_aload_n hC (pc := 7) dJ12_equals_7 rfl 1 rfl ?_
    refine z_inst hC (pc := 8) zcJ12 q971 (Or.inl rfl) dJ12_equals_8 hf (fun _ hf => ?_)
    refine z_if_eq hC (pc := 11) (tgt := 54) dJ12_equals_11 rfl (fun c2 => ?_) (fun c2 => ?_)
    · have hf := zif_t hf c2
      refine z_iconst (v := 0) hC (pc := 54) dJ12_equals_54 zki_0 ?_
      exact z_zreturn hC (pc := 55) hQ dJ12_equals_55 hf
    · have hf := zif_f hf c2
      refine z_aload_n hC (pc := 14) dJ12_equals_14 rfl 1 rfl ?_
      refine z_cast hC (pc := 15) zcJ12 q971 (Or.inl rfl) dJ12_equals_15 hf (fun hf => ?_)
      refine z_astore_n (lv' := [(2, zr l1), (0, zr (some l0)), (1, zr l1)]) hC (pc := 18) hL dJ12_equals_18 rfl (Nat.le_of_ble_eq_true rfl) rfl ?_
      refine z_gets (v := zi 1) hC (pc := 19) (List.mem_of_getElem? (i := 0) rfl) q665 dJ12_equals_19 ?_
      refine z_if_eq hC (pc := 22) (tgt := 36) dJ12_equals_22 rfl (fun c3 => ?_) (fun c3 => ?_)
      · have hf := zif_t hf c3
        refine ZW.perm (lv' := [(0, zr (some l0)), (2, zr l1)]) [1, 0] rfl ?_
        exact w_J12_equals_b36 hC hL hno hQ l0 l1 s0 hf
      · have hf := zif_f hf c3
        refine z_aload_n hC (pc := 25) dJ12_equals_25 rfl 1 rfl ?_
        refine z_getI hC (pc := 26) in_J12 zcJ12 1 (Nat.le_of_ble_eq_true rfl) (zLk.o hC q821) zsm dJ12_equals_26 hf (fun v4 hf => ?_)
        refine z_aload_n hC (pc := 29) dJ12_equals_29 rfl 0 rfl ?_
        refine z_getI hC (pc := 30) in_J12 zcJ12 1 (Nat.le_of_ble_eq_true rfl) (zLk.o hC q821) zsm dJ12_equals_30 hf (fun v5 hf => ?_)
        refine z_icmp_ne hC (pc := 33) (tgt := 54) dJ12_equals_33 rfl (fun c6 => ?_) (fun c6 => ?_)
        · have hf := zif_f hf c6
          refine z_iconst (v := 0) hC (pc := 54) dJ12_equals_54 zki_0 ?_
          exact z_zreturn hC (pc := 55) hQ dJ12_equals_55 hf
        · have hf := zif_t hf c6
          refine ZW.perm (lv' := [(0, zr (some l0)), (2, zr l1)]) [1, 0] rfl ?_
          exact w_J12_equals_b36 hC hL hno hQ l0 l1 s0 hf
  · have hf := zif_t hf c1
    refine z_iconst (v := 1) hC (pc := 5) dJ12_equals_5 zki_1 ?_
    exact z_zreturn hC (pc := 6) hQ dJ12_equals_6 hf
/-! jdk/internal/util/ArraysSupport.hashCode(I[BII)I -/
def f_J14_hashCode_2_b8 (G : Nat → Nat) (k8 : Int32 → Option Nat → Int32 → Int32 → zS → Option (Int32 × zS)) (l0 : Int32) (l1 : Option Nat) (l4 : Int32) (l5 : Int32) (s0 : zS) : Option (Int32 × zS) :=
if l4 ≤ l5 then (some (l0, s0))
else (zo (zaI s0 l1 2 l5) fun v2 =>
k8 ((31 * l0) + v2) l1 l4 (l5 + 1) s0)
set_option maxHeartbeats 4000000 in
theorem w_J14_hashCode_2_b8 {X : zX} (hC : ZC X RJ14 cJ14_hashCode_2 (some .int) 1 0) (hL : X.nL = 6) (hno : ∀ x ∈ X.c.exceptionTable.toList, False) {r : Int32} {sF : zS} (hQ : ZQ X (.inl (some (zi r)), sF)) (k8 : Int32 → Option Nat → Int32 → Int32 → zS → Option (Int32 × zS)) (hk8 : ∀ (l0 : Int32) (l1 : Option Nat) (l4 : Int32) (l5 : Int32) (s0 : zS), k8 l0 l1 l4 l5 s0 = some (r, sF) → ZW X s0 8 [(0, zi l0), (1, zr l1), (4, zi l4), (5, zi l5)] []) (l0 : Int32) (l1 : Option Nat) (l4 : Int32) (l5 : Int32) (s0 : zS) (hf : f_J14_hashCode_2_b8 X.g.1 k8 l0 l1 l4 l5 s0 = some (r, sF)) : ZW X s0 8 [(0, zi l0), (1, zr l1), (4, zi l4), (5, zi l5)] [] := by
  unfold f_J14_hashCode_2_b8 at hf
  refine z_iload hC (pc := 8) dJ14_hashCode_2_8 3 rfl ?_
  refine z_iload hC (pc := 10) dJ14_hashCode_2_10 2 rfl ?_
  refine z_icmp_ge hC (pc := 12) (tgt := 31) dJ14_hashCode_2_12 rfl (fun c1 => ?_) (fun c1 => ?_)
  · have hf := zif_t hf c1
    refine z_iload_n hC (pc := 31) dJ14_hashCode_2_31 rfl 0 rfl ?_
    exact z_ireturn hC (pc := 32) hQ dJ14_hashCode_2_32 hf
  · have hf := zif_f hf c1
    refine z_bipush (v := 31) hC (pc := 15) dJ14_hashCode_2_15 zkb_31 ?_
    refine z_iload_n hC (pc := 17) dJ14_hashCode_2_17 rfl 0 rfl ?_
    refine z_imul hC (pc := 18) dJ14_hashCode_2_18 ?_
    refine z_aload_n hC (pc := 19) dJ14_hashCode_2_19 rfl 1 rfl ?_
    refine z_iload hC (pc := 20) dJ14_hashCode_2_20 3 rfl ?_
    refine z_bald hC (pc := 22) dJ14_hashCode_2_22 hf (fun v2 hf => ?_)
    refine z_iadd hC (pc := 23) dJ14_hashCode_2_23 ?_
    refine z_istore_n (lv' := [(0, zi ((31 * l0) + v2)), (1, zr l1), (4, zi l4), (5, zi l5)]) hC (pc := 24) hL dJ14_hashCode_2_24 rfl (Nat.le_of_ble_eq_true rfl) rfl ?_
    refine z_iinc (v := 1) (lv' := [(5, zi (l5 + 1)), (0, zi ((31 * l0) + v2)), (1, zr l1), (4, zi l4)]) hC (pc := 25) hL dJ14_hashCode_2_25 3 rfl zki_1 (Nat.le_of_ble_eq_true rfl) rfl ?_
    refine z_goto hC (pc := 28) (tgt := 8) dJ14_hashCode_2_28 rfl ?_
    refine ZW.perm (lv' := [(0, zi ((31 * l0) + v2)), (1, zr l1), (4, zi l4), (5, zi (l5 + 1))]) [1, 2, 3, 0] rfl ?_
    exact hk8 ((31 * l0) + v2) l1 l4 (l5 + 1) s0 hf
def f_J14_hashCode_2_l8 (G : Nat → Nat) : Nat → Int32 → Option Nat → Int32 → Int32 → zS → Option (Int32 × zS)
  | 0 => fun _ _ _ _ _ => none
  | n + 1 => f_J14_hashCode_2_b8 G (f_J14_hashCode_2_l8 G n)
theorem w_J14_hashCode_2_l8 {X : zX} (hC : ZC X RJ14 cJ14_hashCode_2 (some .int) 1 0) (hL : X.nL = 6) (hno : ∀ x ∈ X.c.exceptionTable.toList, False) {r : Int32} {sF : zS} (hQ : ZQ X (.inl (some (zi r)), sF)) : ∀ (n : Nat) (l0 : Int32) (l1 : Option Nat) (l4 : Int32) (l5 : Int32) (s0 : zS) (_ : f_J14_hashCode_2_l8 X.g.1 n l0 l1 l4 l5 s0 = some (r, sF)), ZW X s0 8 [(0, zi l0), (1, zr l1), (4, zi l4), (5, zi l5)] [] := by
  intro n
  induction n with
  | zero => intro l0 l1 l4 l5 s0 hf; exact absurd (show (none : Option (Int32 × zS)) = some (r, sF) from hf) (fun z => nomatch z)
  | succ n ih => intro l0 l1 l4 l5 s0 hf; exact w_J14_hashCode_2_b8 hC hL hno hQ (f_J14_hashCode_2_l8 X.g.1 n) ih l0 l1 l4 l5 s0 hf
def f_J14_hashCode_2 (G : Nat → Nat) (l0 : Int32) (l1 : Option Nat) (l2 : Int32) (l3 : Int32) (s0 : zS) : Option (Int32 × zS) :=
f_J14_hashCode_2_l8 G 2000 l0 l1 (l2 + l3) l2 s0
set_option maxHeartbeats 4000000 in
theorem m_J14_hashCode_2 (Γ : zG) (l0 : Int32) (l1 : Option Nat) (l2 : Int32) (l3 : Int32) (s0 s1 : zS) (r : Int32) (hf : f_J14_hashCode_2 Γ.1 l0 l1 l2 l3 s0 = some (r, s1)) : ZM Γ yJ14_hashCode_2 (ws_ yJ14_hashCode_2 cJ14_hashCode_2 6 (some .int)) 1 0 [zi l0, zr l1, zi l2, zi l3] s0 (.inl (some (zi r)), s1) := by
  refine ZM.of (own := RJ14) (by decide) rfl (Nat.le_of_ble_eq_true rfl) ?_
  intro X hg hC hL hno hQ hin
  subst hg
  unfold f_J14_hashCode_2 at hf
  refine z_iload_n hC (pc := 0) dJ14_hashCode_2_0 rfl 2 rfl ?_
  refine z_iload_n hC (pc := 1) dJ14_hashCode_2_1 rfl 3 rfl ?_
  refine z_iadd hC (pc := 2) dJ14_hashCode_2_2 ?_
  refine z_istore (lv' := [(4, zi (l2 + l3)), (0, zi l0), (1, zr l1), (2, zi l2), (3, zi l3)]) hC (pc := 3) hL dJ14_hashCode_2_3 (Nat.le_of_ble_eq_true rfl) rfl ?_
  refine z_iload_n hC (pc := 5) dJ14_hashCode_2_5 rfl 3 rfl ?_
  refine z_istore (lv' := [(5, zi l2), (4, zi (l2 + l3)), (0, zi l0), (1, zr l1), (2, zi l2), (3, zi l3)]) hC (pc := 6) hL dJ14_hashCode_2_6 (Nat.le_of_ble_eq_true rfl) rfl ?_
  refine ZW.perm (lv' := [(0, zi l0), (1, zr l1), (4, zi (l2 + l3)), (5, zi l2)]) [2, 3, 1, 0] rfl ?_
  exact w_J14_hashCode_2_l8 hC hL hno hQ 2000 l0 l1 (l2 + l3) l2 s0 hf
/-! jdk/internal/util/ArraysSupport.hashCode(I[III)I -/
def f_J14_hashCode_4_b8 (G : Nat → Nat) (k8 : Int32 → Option Nat → Int32 → Int32 → zS → Option (Int32 × zS)) (l0 : Int32) (l1 : Option Nat) (l4 : Int32) (l5 : Int32) (s0 : zS) : Option (Int32 × zS) :=
if l4 ≤ l5 then (some (l0, s0))
else (zo (zaI s0 l1 0 l5) fun v2 =>
k8 ((31 * l0) + v2) l1 l4 (l5 + 1) s0)
set_option maxHeartbeats 4000000 in
theorem w_J14_hashCode_4_b8 {X : zX} (hC : ZC X RJ14 cJ14_hashCode_4 (some .int) 1 0) (hL : X.nL = 6) (hno : ∀ x ∈ X.c.exceptionTable.toList, False) {r : Int32} {sF : zS} (hQ : ZQ X (.inl (some (zi r)), sF)) (k8 : Int32 → Option Nat → Int32 → Int32 → zS → Option (Int32 × zS)) (hk8 : ∀ (l0 : Int32) (l1 : Option Nat) (l4 : Int32) (l5 : Int32) (s0 : zS), k8 l0 l1 l4 l5 s0 = some (r, sF) → ZW X s0 8 [(0, zi l0), (1, zr l1), (4, zi l4), (5, zi l5)] []) (l0 : Int32) (l1 : Option Nat) (l4 : Int32) (l5 : Int32) (s0 : zS) (hf : f_J14_hashCode_4_b8 X.g.1 k8 l0 l1 l4 l5 s0 = some (r, sF)) : ZW X s0 8 [(0, zi l0), (1, zr l1), (4, zi l4), (5, zi l5)] [] := by
  unfold f_J14_hashCode_4_b8 at hf
  refine z_iload hC (pc := 8) dJ14_hashCode_4_8 3 rfl ?_
  refine z_iload hC (pc := 10) dJ14_hashCode_4_10 2 rfl ?_
  refine z_icmp_ge hC (pc := 12) (tgt := 31) dJ14_hashCode_4_12 rfl (fun c1 => ?_) (fun c1 => ?_)
  · have hf := zif_t hf c1
    refine z_iload_n hC (pc := 31) dJ14_hashCode_4_31 rfl 0 rfl ?_
    exact z_ireturn hC (pc := 32) hQ dJ14_hashCode_4_32 hf
  · have hf := zif_f hf c1
    refine z_bipush (v := 31) hC (pc := 15) dJ14_hashCode_4_15 zkb_31 ?_
    refine z_iload_n hC (pc := 17) dJ14_hashCode_4_17 rfl 0 rfl ?_
    refine z_imul hC (pc := 18) dJ14_hashCode_4_18 ?_
    refine z_aload_n hC (pc := 19) dJ14_hashCode_4_19 rfl 1 rfl ?_
    refine z_iload hC (pc := 20) dJ14_hashCode_4_20 3 rfl ?_
    refine z_iald hC (pc := 22) dJ14_hashCode_4_22 hf (fun v2 hf => ?_)
    refine z_iadd hC (pc := 23) dJ14_hashCode_4_23 ?_
    refine z_istore_n (lv' := [(0, zi ((31 * l0) + v2)), (1, zr l1), (4, zi l4), (5, zi l5)]) hC (pc := 24) hL dJ14_hashCode_4_24 rfl (Nat.le_of_ble_eq_true rfl) rfl ?_
    refine z_iinc (v := 1) (lv' := [(5, zi (l5 + 1)), (0, zi ((31 * l0) + v2)), (1, zr l1), (4, zi l4)]) hC (pc := 25) hL dJ14_hashCode_4_25 3 rfl zki_1 (Nat.le_of_ble_eq_true rfl) rfl ?_
    refine z_goto hC (pc := 28) (tgt := 8) dJ14_hashCode_4_28 rfl ?_
    refine ZW.perm (lv' := [(0, zi ((31 * l0) + v2)), (1, zr l1), (4, zi l4), (5, zi (l5 + 1))]) [1, 2, 3, 0] rfl ?_
    exact hk8 ((31 * l0) + v2) l1 l4 (l5 + 1) s0 hf
def f_J14_hashCode_4_l8 (G : Nat → Nat) : Nat → Int32 → Option Nat → Int32 → Int32 → zS → Option (Int32 × zS)
  | 0 => fun _ _ _ _ _ => none
  | n + 1 => f_J14_hashCode_4_b8 G (f_J14_hashCode_4_l8 G n)
theorem w_J14_hashCode_4_l8 {X : zX} (hC : ZC X RJ14 cJ14_hashCode_4 (some .int) 1 0) (hL : X.nL = 6) (hno : ∀ x ∈ X.c.exceptionTable.toList, False) {r : Int32} {sF : zS} (hQ : ZQ X (.inl (some (zi r)), sF)) : ∀ (n : Nat) (l0 : Int32) (l1 : Option Nat) (l4 : Int32) (l5 : Int32) (s0 : zS) (_ : f_J14_hashCode_4_l8 X.g.1 n l0 l1 l4 l5 s0 = some (r, sF)), ZW X s0 8 [(0, zi l0), (1, zr l1), (4, zi l4), (5, zi l5)] [] := by
  intro n
  induction n with
  | zero => intro l0 l1 l4 l5 s0 hf; exact absurd (show (none : Option (Int32 × zS)) = some (r, sF) from hf) (fun z => nomatch z)
  | succ n ih => intro l0 l1 l4 l5 s0 hf; exact w_J14_hashCode_4_b8 hC hL hno hQ (f_J14_hashCode_4_l8 X.g.1 n) ih l0 l1 l4 l5 s0 hf
def f_J14_hashCode_4 (G : Nat → Nat) (l0 : Int32) (l1 : Option Nat) (l2 : Int32) (l3 : Int32) (s0 : zS) : Option (Int32 × zS) :=
f_J14_hashCode_4_l8 G 2000 l0 l1 (l2 + l3) l2 s0
set_option maxHeartbeats 4000000 in
theorem m_J14_hashCode_4 (Γ : zG) (l0 : Int32) (l1 : Option Nat) (l2 : Int32) (l3 : Int32) (s0 s1 : zS) (r : Int32) (hf : f_J14_hashCode_4 Γ.1 l0 l1 l2 l3 s0 = some (r, s1)) : ZM Γ yJ14_hashCode_4 (ws_ yJ14_hashCode_4 cJ14_hashCode_4 6 (some .int)) 1 0 [zi l0, zr l1, zi l2, zi l3] s0 (.inl (some (zi r)), s1) := by
  refine ZM.of (own := RJ14) (by decide) rfl (Nat.le_of_ble_eq_true rfl) ?_
  intro X hg hC hL hno hQ hin
  subst hg
  unfold f_J14_hashCode_4 at hf
  refine z_iload_n hC (pc := 0) dJ14_hashCode_4_0 rfl 2 rfl ?_
  refine z_iload_n hC (pc := 1) dJ14_hashCode_4_1 rfl 3 rfl ?_
  refine z_iadd hC (pc := 2) dJ14_hashCode_4_2 ?_
  refine z_istore (lv' := [(4, zi (l2 + l3)), (0, zi l0), (1, zr l1), (2, zi l2), (3, zi l3)]) hC (pc := 3) hL dJ14_hashCode_4_3 (Nat.le_of_ble_eq_true rfl) rfl ?_
  refine z_iload_n hC (pc := 5) dJ14_hashCode_4_5 rfl 3 rfl ?_
  refine z_istore (lv' := [(5, zi l2), (4, zi (l2 + l3)), (0, zi l0), (1, zr l1), (2, zi l2), (3, zi l3)]) hC (pc := 6) hL dJ14_hashCode_4_6 (Nat.le_of_ble_eq_true rfl) rfl ?_
  refine ZW.perm (lv' := [(0, zi l0), (1, zr l1), (4, zi (l2 + l3)), (5, zi l2)]) [2, 3, 1, 0] rfl ?_
  exact w_J14_hashCode_4_l8 hC hL hno hQ 2000 l0 l1 (l2 + l3) l2 s0 hf
/-! jdk/internal/util/ArraysSupport.signedHashCode(I[BII)I -/
def f_J14_signedHashCode_b8 (G : Nat → Nat) (k8 : Int32 → Option Nat → Int32 → Int32 → zS → Option (Int32 × zS)) (l0 : Int32) (l1 : Option Nat) (l4 : Int32) (l5 : Int32) (s0 : zS) : Option (Int32 × zS) :=
if l4 ≤ l5 then (some (l0, s0))
else (zo (zaI s0 l1 2 l5) fun v2 =>
k8 ((31 * l0) + (v2 &&& 255)) l1 l4 (l5 + 1) s0)
set_option maxHeartbeats 4000000 in
theorem w_J14_signedHashCode_b8 {X : zX} (hC : ZC X RJ14 cJ14_signedHashCode (some .int) 1 0) (hL : X.nL = 6) (hno : ∀ x ∈ X.c.exceptionTable.toList, False) {r : Int32} {sF : zS} (hQ : ZQ X (.inl (some (zi r)), sF)) (k8 : Int32 → Option Nat → Int32 → Int32 → zS → Option (Int32 × zS)) (hk8 : ∀ (l0 : Int32) (l1 : Option Nat) (l4 : Int32) (l5 : Int32) (s0 : zS), k8 l0 l1 l4 l5 s0 = some (r, sF) → ZW X s0 8 [(0, zi l0), (1, zr l1), (4, zi l4), (5, zi l5)] []) (l0 : Int32) (l1 : Option Nat) (l4 : Int32) (l5 : Int32) (s0 : zS) (hf : f_J14_signedHashCode_b8 X.g.1 k8 l0 l1 l4 l5 s0 = some (r, sF)) : ZW X s0 8 [(0, zi l0), (1, zr l1), (4, zi l4), (5, zi l5)] [] := by
  unfold f_J14_signedHashCode_b8 at hf
  refine z_iload hC (pc := 8) dJ14_signedHashCode_8 3 rfl ?_
  refine z_iload hC (pc := 10) dJ14_signedHashCode_10 2 rfl ?_
  refine z_icmp_ge hC (pc := 12) (tgt := 35) dJ14_signedHashCode_12 rfl (fun c1 => ?_) (fun c1 => ?_)
  · have hf := zif_t hf c1
    refine z_iload_n hC (pc := 35) dJ14_signedHashCode_35 rfl 0 rfl ?_
    exact z_ireturn hC (pc := 36) hQ dJ14_signedHashCode_36 hf
  · have hf := zif_f hf c1
    refine z_bipush (v := 31) hC (pc := 15) dJ14_signedHashCode_15 zkb_31 ?_
    refine z_iload_n hC (pc := 17) dJ14_signedHashCode_17 rfl 0 rfl ?_
    refine z_imul hC (pc := 18) dJ14_signedHashCode_18 ?_
    refine z_aload_n hC (pc := 19) dJ14_signedHashCode_19 rfl 1 rfl ?_
    refine z_iload hC (pc := 20) dJ14_signedHashCode_20 3 rfl ?_
    refine z_bald hC (pc := 22) dJ14_signedHashCode_22 hf (fun v2 hf => ?_)
    refine z_sipush (v := 255) hC (pc := 23) dJ14_signedHashCode_23 zks_255 ?_
    refine z_iand hC (pc := 26) dJ14_signedHashCode_26 ?_
    refine z_iadd hC (pc := 27) dJ14_signedHashCode_27 ?_
    refine z_istore_n (lv' := [(0, zi ((31 * l0) + (v2 &&& 255))), (1, zr l1), (4, zi l4), (5, zi l5)]) hC (pc := 28) hL dJ14_signedHashCode_28 rfl (Nat.le_of_ble_eq_true rfl) rfl ?_
    refine z_iinc (v := 1) (lv' := [(5, zi (l5 + 1)), (0, zi ((31 * l0) + (v2 &&& 255))), (1, zr l1), (4, zi l4)]) hC (pc := 29) hL dJ14_signedHashCode_29 3 rfl zki_1 (Nat.le_of_ble_eq_true rfl) rfl ?_
    refine z_goto hC (pc := 32) (tgt := 8) dJ14_signedHashCode_32 rfl ?_
    refine ZW.perm (lv' := [(0, zi ((31 * l0) + (v2 &&& 255))), (1, zr l1), (4, zi l4), (5, zi (l5 + 1))]) [1, 2, 3, 0] rfl ?_
    exact hk8 ((31 * l0) + (v2 &&& 255)) l1 l4 (l5 + 1) s0 hf
def f_J14_signedHashCode_l8 (G : Nat → Nat) : Nat → Int32 → Option Nat → Int32 → Int32 → zS → Option (Int32 × zS)
  | 0 => fun _ _ _ _ _ => none
  | n + 1 => f_J14_signedHashCode_b8 G (f_J14_signedHashCode_l8 G n)
theorem w_J14_signedHashCode_l8 {X : zX} (hC : ZC X RJ14 cJ14_signedHashCode (some .int) 1 0) (hL : X.nL = 6) (hno : ∀ x ∈ X.c.exceptionTable.toList, False) {r : Int32} {sF : zS} (hQ : ZQ X (.inl (some (zi r)), sF)) : ∀ (n : Nat) (l0 : Int32) (l1 : Option Nat) (l4 : Int32) (l5 : Int32) (s0 : zS) (_ : f_J14_signedHashCode_l8 X.g.1 n l0 l1 l4 l5 s0 = some (r, sF)), ZW X s0 8 [(0, zi l0), (1, zr l1), (4, zi l4), (5, zi l5)] [] := by
  intro n
  induction n with
  | zero => intro l0 l1 l4 l5 s0 hf; exact absurd (show (none : Option (Int32 × zS)) = some (r, sF) from hf) (fun z => nomatch z)
  | succ n ih => intro l0 l1 l4 l5 s0 hf; exact w_J14_signedHashCode_b8 hC hL hno hQ (f_J14_signedHashCode_l8 X.g.1 n) ih l0 l1 l4 l5 s0 hf
def f_J14_signedHashCode (G : Nat → Nat) (l0 : Int32) (l1 : Option Nat) (l2 : Int32) (l3 : Int32) (s0 : zS) : Option (Int32 × zS) :=
f_J14_signedHashCode_l8 G 2000 l0 l1 (l2 + l3) l2 s0
set_option maxHeartbeats 4000000 in
theorem m_J14_signedHashCode (Γ : zG) (l0 : Int32) (l1 : Option Nat) (l2 : Int32) (l3 : Int32) (s0 s1 : zS) (r : Int32) (hf : f_J14_signedHashCode Γ.1 l0 l1 l2 l3 s0 = some (r, s1)) : ZM Γ yJ14_signedHashCode (ws_ yJ14_signedHashCode cJ14_signedHashCode 6 (some .int)) 1 0 [zi l0, zr l1, zi l2, zi l3] s0 (.inl (some (zi r)), s1) := by
  refine ZM.of (own := RJ14) (by decide) rfl (Nat.le_of_ble_eq_true rfl) ?_
  intro X hg hC hL hno hQ hin
  subst hg
  unfold f_J14_signedHashCode at hf
  refine z_iload_n hC (pc := 0) dJ14_signedHashCode_0 rfl 2 rfl ?_
  refine z_iload_n hC (pc := 1) dJ14_signedHashCode_1 rfl 3 rfl ?_
  refine z_iadd hC (pc := 2) dJ14_signedHashCode_2 ?_
  refine z_istore (lv' := [(4, zi (l2 + l3)), (0, zi l0), (1, zr l1), (2, zi l2), (3, zi l3)]) hC (pc := 3) hL dJ14_signedHashCode_3 (Nat.le_of_ble_eq_true rfl) rfl ?_
  refine z_iload_n hC (pc := 5) dJ14_signedHashCode_5 rfl 3 rfl ?_
  refine z_istore (lv' := [(5, zi l2), (4, zi (l2 + l3)), (0, zi l0), (1, zr l1), (2, zi l2), (3, zi l3)]) hC (pc := 6) hL dJ14_signedHashCode_6 (Nat.le_of_ble_eq_true rfl) rfl ?_
  refine ZW.perm (lv' := [(0, zi l0), (1, zr l1), (4, zi (l2 + l3)), (5, zi l2)]) [2, 3, 1, 0] rfl ?_
  exact w_J14_signedHashCode_l8 hC hL hno hQ 2000 l0 l1 (l2 + l3) l2 s0 hf
/-! jdk/internal/util/ArraysSupport.vectorizedHashCode(Ljava/lang/Object;IIII)I -/
def f_J14_vectorizedHashCode_b129 (G : Nat → Nat) (l4 : Int32) (s0 : zS) : Option (Int32 × zS) :=
none
set_option maxHeartbeats 4000000 in
theorem w_J14_vectorizedHashCode_b129 {X : zX} (hC : ZC X RJ14 cJ14_vectorizedHashCode (some .int) 2 25) (hL : X.nL = 5) (hno : ∀ x ∈ X.c.exceptionTable.toList, False) {r : Int32} {sF : zS} (hQ : ZQ X (.inl (some (zi r)), sF)) (l4 : Int32) (s0 : zS) (hf : f_J14_vectorizedHashCode_b129 X.g.1 l4 s0 = some (r, sF)) : ZW X s0 129 [(4, zi l4)] [] := by
  unfold f_J14_vectorizedHashCode_b129 at hf
  cases hf
def f_J14_vectorizedHashCode (G : Nat → Nat) (l0 : Option Nat) (l1 : Int32) (l2 : Int32) (l3 : Int32) (l4 : Int32) (s0 : zS) : Option (Int32 × zS) :=
if l4 = 4 then (zo (zcsA s0 l0 2) fun _ =>
zb (f_J14_signedHashCode G l3 l0 l1 l2 s0) fun v2 s3 =>
some (v2, s3)) else
if l4 = 5 then (none) else
if l4 = 6 then (f_J14_vectorizedHashCode_b129 G l4 s0) else
if l4 = 7 then (f_J14_vectorizedHashCode_b129 G l4 s0) else
if l4 = 8 then (zo (zcsA s0 l0 2) fun _ =>
zb (f_J14_hashCode_2 G l3 l0 l1 l2 s0) fun v8 s9 =>
some (v8, s9)) else
if l4 = 9 then (none) else
if l4 = 10 then (zo (zcsA s0 l0 0) fun _ =>
zb (f_J14_hashCode_4 G l3 l0 l1 l2 s0) fun v12 s13 =>
some (v12, s13)) else
(f_J14_vectorizedHashCode_b129 G l4 s0)
set_option maxHeartbeats 4000000 in
theorem m_J14_vectorizedHashCode (Γ : zG) (l0 : Option Nat) (l1 : Int32) (l2 : Int32) (l3 : Int32) (l4 : Int32) (s0 s1 : zS) (r : Int32) (hf : f_J14_vectorizedHashCode Γ.1 l0 l1 l2 l3 l4 s0 = some (r, s1)) : ZM Γ yJ14_vectorizedHashCode (ws_ yJ14_vectorizedHashCode cJ14_vectorizedHashCode 5 (some .int)) 2 25 [zr l0, zi l1, zi l2, zi l3, zi l4] s0 (.inl (some (zi r)), s1) := by
  refine ZM.of (own := RJ14) (by decide) rfl (Nat.le_of_ble_eq_true rfl) ?_
  intro X hg hC hL hno hQ hin
  subst hg
  unfold f_J14_vectorizedHashCode at hf
  refine z_iload hC (pc := 0) dJ14_vectorizedHashCode_0 4 rfl ?_
  by_cases c1 : l4 = 4
  · have hf := zif_t hf c1
    refine z_table hC (pc := 2) (tgt := 44) dJ14_vectorizedHashCode_2 c1 (by decide) (by decide) rfl rfl ?_
    refine z_iload_n hC (pc := 44) dJ14_vectorizedHashCode_44 rfl 3 rfl ?_
    refine z_aload_n hC (pc := 45) dJ14_vectorizedHashCode_45 rfl 0 rfl ?_
    refine z_castA (t := 2) hC (pc := 46) rfl (by simp) rfl q919 dJ14_vectorizedHashCode_46 hf (fun hf => ?_)
    refine z_iload_n hC (pc := 49) dJ14_vectorizedHashCode_49 rfl 1 rfl ?_
    refine z_iload_n hC (pc := 50) dJ14_vectorizedHashCode_50 rfl 2 rfl ?_
    refine z_cI (rest := []) hf (fun v2 s3 hcall => z_runS hC (pc := 51) 4 (m_J14_signedHashCode X.g l3 l0 l1 l2 s0 s3 v2 hcall) (lw_S q920 q921 q118 q922) hd_J14_signedHashCode ⟨(Nat.le_of_ble_eq_true rfl), (Nat.le_of_ble_eq_true rfl)⟩ rfl (Nat.le_of_ble_eq_true rfl) dJ14_vectorizedHashCode_51 rfl) (fun v2 s3 hf => ?_)
    refine z_goto hC (pc := 54) (tgt := 157) dJ14_vectorizedHashCode_54 rfl ?_
    exact z_ireturn hC (pc := 157) hQ dJ14_vectorizedHashCode_157 hf
  · have hf := zif_f hf c1
    by_cases c4 : l4 = 5
    · have hf := zif_t hf c4
      refine z_table hC (pc := 2) (tgt := 57) dJ14_vectorizedHashCode_2 c4 (by decide) (by decide) rfl rfl ?_
      refine z_aload_n hC (pc := 57) dJ14_vectorizedHashCode_57 rfl 0 rfl ?_
      cases hf
    · have hf := zif_f hf c4
      by_cases c5 : l4 = 6
      · have hf := zif_t hf c5
        refine z_table hC (pc := 2) (tgt := 129) dJ14_vectorizedHashCode_2 c5 (by decide) (by decide) rfl rfl ?_
        refine ZW.perm (lv' := [(4, zi l4)]) [4] rfl ?_
        exact w_J14_vectorizedHashCode_b129 hC hL hno hQ l4 s0 hf
      · have hf := zif_f hf c5
        by_cases c6 : l4 = 7
        · have hf := zif_t hf c6
          refine z_table hC (pc := 2) (tgt := 129) dJ14_vectorizedHashCode_2 c6 (by decide) (by decide) rfl rfl ?_
          refine ZW.perm (lv' := [(4, zi l4)]) [4] rfl ?_
          exact w_J14_vectorizedHashCode_b129 hC hL hno hQ l4 s0 hf
        · have hf := zif_f hf c6
          by_cases c7 : l4 = 8
          · have hf := zif_t hf c7
            refine z_table hC (pc := 2) (tgt := 90) dJ14_vectorizedHashCode_2 c7 (by decide) (by decide) rfl rfl ?_
            refine z_iload_n hC (pc := 90) dJ14_vectorizedHashCode_90 rfl 3 rfl ?_
            refine z_aload_n hC (pc := 91) dJ14_vectorizedHashCode_91 rfl 0 rfl ?_
            refine z_castA (t := 2) hC (pc := 92) rfl (by simp) rfl q919 dJ14_vectorizedHashCode_92 hf (fun hf => ?_)
            refine z_iload_n hC (pc := 95) dJ14_vectorizedHashCode_95 rfl 1 rfl ?_
            refine z_iload_n hC (pc := 96) dJ14_vectorizedHashCode_96 rfl 2 rfl ?_
            refine z_cI (rest := []) hf (fun v8 s9 hcall => z_runS hC (pc := 97) 4 (m_J14_hashCode_2 X.g l3 l0 l1 l2 s0 s9 v8 hcall) (lw_S q943 q944 q118 q945) hd_J14_hashCode_2 ⟨(Nat.le_of_ble_eq_true rfl), (Nat.le_of_ble_eq_true rfl)⟩ rfl (Nat.le_of_ble_eq_true rfl) dJ14_vectorizedHashCode_97 rfl) (fun v8 s9 hf => ?_)
            refine z_goto hC (pc := 100) (tgt := 157) dJ14_vectorizedHashCode_100 rfl ?_
            exact z_ireturn hC (pc := 157) hQ dJ14_vectorizedHashCode_157 hf
          · have hf := zif_f hf c7
            by_cases c10 : l4 = 9
            · have hf := zif_t hf c10
              refine z_table hC (pc := 2) (tgt := 103) dJ14_vectorizedHashCode_2 c10 (by decide) (by decide) rfl rfl ?_
              refine z_iload_n hC (pc := 103) dJ14_vectorizedHashCode_103 rfl 3 rfl ?_
              refine z_aload_n hC (pc := 104) dJ14_vectorizedHashCode_104 rfl 0 rfl ?_
              cases hf
            · have hf := zif_f hf c10
              by_cases c11 : l4 = 10
              · have hf := zif_t hf c11
                refine z_table hC (pc := 2) (tgt := 116) dJ14_vectorizedHashCode_2 c11 (by decide) (by decide) rfl rfl ?_
                refine z_iload_n hC (pc := 116) dJ14_vectorizedHashCode_116 rfl 3 rfl ?_
                refine z_aload_n hC (pc := 117) dJ14_vectorizedHashCode_117 rfl 0 rfl ?_
                refine z_castA (t := 0) hC (pc := 118) rfl (by simp) rfl q950 dJ14_vectorizedHashCode_118 hf (fun hf => ?_)
                refine z_iload_n hC (pc := 121) dJ14_vectorizedHashCode_121 rfl 1 rfl ?_
                refine z_iload_n hC (pc := 122) dJ14_vectorizedHashCode_122 rfl 2 rfl ?_
                refine z_cI (rest := []) hf (fun v12 s13 hcall => z_runS hC (pc := 123) 4 (m_J14_hashCode_4 X.g l3 l0 l1 l2 s0 s13 v12 hcall) (lw_S q951 q952 q118 q953) hd_J14_hashCode_4 ⟨(Nat.le_of_ble_eq_true rfl), (Nat.le_of_ble_eq_true rfl)⟩ rfl (Nat.le_of_ble_eq_true rfl) dJ14_vectorizedHashCode_123 rfl) (fun v12 s13 hf => ?_)
                refine z_goto hC (pc := 126) (tgt := 157) dJ14_vectorizedHashCode_126 rfl ?_
                exact z_ireturn hC (pc := 157) hQ dJ14_vectorizedHashCode_157 hf
              · have hf := zif_f hf c11
                have ec1 : (l4 : Int32).toInt ≠ (4 : Int) := fun z => c1 (Int32.toInt_inj.mp (z.trans (by decide)))
                have ec4 : (l4 : Int32).toInt ≠ (5 : Int) := fun z => c4 (Int32.toInt_inj.mp (z.trans (by decide)))
                have ec5 : (l4 : Int32).toInt ≠ (6 : Int) := fun z => c5 (Int32.toInt_inj.mp (z.trans (by decide)))
                have ec6 : (l4 : Int32).toInt ≠ (7 : Int) := fun z => c6 (Int32.toInt_inj.mp (z.trans (by decide)))
                have ec7 : (l4 : Int32).toInt ≠ (8 : Int) := fun z => c7 (Int32.toInt_inj.mp (z.trans (by decide)))
                have ec10 : (l4 : Int32).toInt ≠ (9 : Int) := fun z => c10 (Int32.toInt_inj.mp (z.trans (by decide)))
                have ec11 : (l4 : Int32).toInt ≠ (10 : Int) := fun z => c11 (Int32.toInt_inj.mp (z.trans (by decide)))
                refine z_tableD hC (pc := 2) (tgt := 129) dJ14_vectorizedHashCode_2 (by omega) rfl ?_
                refine ZW.perm (lv' := [(4, zi l4)]) [4] rfl ?_
                exact w_J14_vectorizedHashCode_b129 hC hL hno hQ l4 s0 hf
/-! java/lang/StringLatin1.hashCode([B)I -/
def f_J17_hashCode (G : Nat → Nat) (l0 : Option Nat) (s0 : zS) : Option (Int32 × zS) :=
zo (zlen s0 l0) fun v1 =>
if v1 = 0 then (some (0, s0)) else
if v1 = 1 then (zo (zaI s0 l0 2 0) fun v4 =>
some ((v4 &&& 255), s0)) else
(zo (zlen s0 l0) fun v5 =>
zb (f_J14_vectorizedHashCode G l0 0 v5 0 4 s0) fun v6 s7 =>
some (v6, s7))
set_option maxHeartbeats 4000000 in
theorem m_J17_hashCode (Γ : zG) (l0 : Option Nat) (s0 s1 : zS) (r : Int32) (hf : f_J17_hashCode Γ.1 l0 s0 = some (r, s1)) : ZM Γ yJ17_hashCode (ws_ yJ17_hashCode cJ17_hashCode 1 (some .int)) 3 49 [zr l0] s0 (.inl (some (zi r)), s1) := by
  refine ZM.of (own := RJ17) (by decide) rfl (Nat.le_of_ble_eq_true rfl) ?_
  intro X hg hC hL hno hQ hin
  subst hg
  unfold f_J17_hashCode at hf
  refine z_aload_n hC (pc := 0) dJ17_hashCode_0 rfl 0 rfl ?_
  refine z_alen hC (pc := 1) dJ17_hashCode_1 hf (fun v1 hf => ?_)
  by_cases c2 : v1 = 0
  · have hf := zif_t hf c2
    refine z_look hC (pc := 2) (tgt := 28) dJ17_hashCode_2 c2 (by decide) rfl rfl ?_
    refine z_iconst (v := 0) hC (pc := 28) dJ17_hashCode_28 zki_0 ?_
    refine z_goto hC (pc := 29) (tgt := 51) dJ17_hashCode_29 rfl ?_
    exact z_ireturn hC (pc := 51) hQ dJ17_hashCode_51 hf
  · have hf := zif_f hf c2
    by_cases c3 : v1 = 1
    · have hf := zif_t hf c3
      refine z_look hC (pc := 2) (tgt := 32) dJ17_hashCode_2 c3 (by decide) rfl rfl ?_
      refine z_aload_n hC (pc := 32) dJ17_hashCode_32 rfl 0 rfl ?_
      refine z_iconst (v := 0) hC (pc := 33) dJ17_hashCode_33 zki_0 ?_
      refine z_bald hC (pc := 34) dJ17_hashCode_34 hf (fun v4 hf => ?_)
      refine z_sipush (v := 255) hC (pc := 35) dJ17_hashCode_35 zks_255 ?_
      refine z_iand hC (pc := 38) dJ17_hashCode_38 ?_
      refine z_goto hC (pc := 39) (tgt := 51) dJ17_hashCode_39 rfl ?_
      exact z_ireturn hC (pc := 51) hQ dJ17_hashCode_51 hf
    · have hf := zif_f hf c3
      have ec2 : (v1 : Int32).toInt ≠ (0 : Int) := fun z => c2 (Int32.toInt_inj.mp (z.trans (by decide)))
      have ec3 : (v1 : Int32).toInt ≠ (1 : Int) := fun z => c3 (Int32.toInt_inj.mp (z.trans (by decide)))
      have hz : Op.lookupswitch.offset [(0, 26), (1, 30)] (40) (v1 : Int32).toInt = (40) := by rw [Op.lookupswitch.offset_cons, if_neg (Ne.symm ec2), Op.lookupswitch.offset_cons, if_neg (Ne.symm ec3)]; rfl
      refine z_lookD hC (pc := 2) (tgt := 42) dJ17_hashCode_2 (by decide) hz rfl ?_
      refine z_aload_n hC (pc := 42) dJ17_hashCode_42 rfl 0 rfl ?_
      refine z_iconst (v := 0) hC (pc := 43) dJ17_hashCode_43 zki_0 ?_
      refine z_aload_n hC (pc := 44) dJ17_hashCode_44 rfl 0 rfl ?_
      refine z_alen hC (pc := 45) dJ17_hashCode_45 hf (fun v5 hf => ?_)
      refine z_iconst (v := 0) hC (pc := 46) dJ17_hashCode_46 zki_0 ?_
      refine z_iconst (v := 4) hC (pc := 47) dJ17_hashCode_47 zki_4 ?_
      refine z_cI (rest := []) hf (fun v6 s7 hcall => z_runS hC (pc := 48) 5 (m_J14_vectorizedHashCode X.g l0 0 v5 0 4 s0 s7 v6 hcall) (lw_S q916 q917 q118 q918) hd_J14_vectorizedHashCode ⟨(Nat.le_of_ble_eq_true rfl), (Nat.le_of_ble_eq_true rfl)⟩ rfl (Nat.le_of_ble_eq_true rfl) dJ17_hashCode_48 rfl) (fun v6 s7 hf => ?_)
      exact z_ireturn hC (pc := 51) hQ dJ17_hashCode_51 hf
/-! java/lang/String.hashCode()I -/
def f_J12_hashCode_b40 (G : Nat → Nat) (l0 : Nat) (t0 : Int32) (s0 : zS) : Option (Int32 × zS) :=
if t0 = 0 then (zo (zputN G s0 (some l0) 17 3 .boolean 1) fun s3 =>
some (t0, s3))
else (zo (zput G s0 (some l0) 17 2 (.int t0)) fun s2 =>
some (t0, s2))
set_option maxHeartbeats 4000000 in
theorem w_J12_hashCode_b40 {X : zX} (hC : ZC X RJ12 cJ12_hashCode (some .int) 4 69) (hL : X.nL = 2) (hno : ∀ x ∈ X.c.exceptionTable.toList, False) {r : Int32} {sF : zS} (hQ : ZQ X (.inl (some (zi r)), sF)) (l0 : Nat) (t0 : Int32) (s0 : zS) (hf : f_J12_hashCode_b40 X.g.1 l0 t0 s0 = some (r, sF)) : ZW X s0 40 [(0, zr (some l0))] [zi t0] := by
  unfold f_J12_hashCode_b40 at hf
  refine z_istore_n (lv' := [(1, zi t0), (0, zr (some l0))]) hC (pc := 40) hL dJ12_hashCode_40 rfl (Nat.le_of_ble_eq_true rfl) rfl ?_
  refine z_iload_n hC (pc := 41) dJ12_hashCode_41 rfl 0 rfl ?_
  refine z_if_ne hC (pc := 42) (tgt := 53) dJ12_hashCode_42 rfl (fun c1 => ?_) (fun c1 => ?_)
  · have hf := zif_f hf c1
    refine z_aload_n hC (pc := 53) dJ12_hashCode_53 rfl 1 rfl ?_
    refine z_iload_n hC (pc := 54) dJ12_hashCode_54 rfl 0 rfl ?_
    refine z_putV (v := zi t0) hC (pc := 55) in_J12 tyJ12 tyJ12_ok nmJ12 zcJ12 2 (Nat.le_of_ble_eq_true rfl) (zLk.o hC q822) zsm (Or.inl rfl) rfl rfl dJ12_hashCode_55 hf (fun s2 hf => ?_)
    refine z_iload_n hC (pc := 58) dJ12_hashCode_58 rfl 0 rfl ?_
    exact z_ireturn hC (pc := 59) hQ dJ12_hashCode_59 hf
  · have hf := zif_t hf c1
    refine z_aload_n hC (pc := 45) dJ12_hashCode_45 rfl 1 rfl ?_
    refine z_iconst (v := 1) hC (pc := 46) dJ12_hashCode_46 zki_1 ?_
    refine z_putN hC (pc := 47) in_J12 tyJ12 tyJ12_ok nmJ12 zcJ12 3 (Nat.le_of_ble_eq_true rfl) (zLk.o hC q823) zsm (Or.inl rfl) (Or.inl rfl) dJ12_hashCode_47 hf (fun s3 hf => ?_)
    refine z_goto hC (pc := 50) (tgt := 58) dJ12_hashCode_50 rfl ?_
    refine z_iload_n hC (pc := 58) dJ12_hashCode_58 rfl 0 rfl ?_
    exact z_ireturn hC (pc := 59) hQ dJ12_hashCode_59 hf
def f_J12_hashCode (G : Nat → Nat) (l0 : Nat) (s0 : zS) : Option (Int32 × zS) :=
zo (zgI s0 (some l0) 17 2) fun v1 =>
if v1 = 0 then (zo (zgI s0 (some l0) 17 3) fun v3 =>
if v3 = 0 then (zo (zrc s0 (some l0) 17) fun _ =>
zb (f_J12_isLatin1 G l0 s0) fun v7 s8 =>
if v7 = 0 then (zo (zgR s8 (some l0) 17 0) fun v10 =>
none)
else (zo (zgR s8 (some l0) 17 0) fun v11 =>
zb (f_J17_hashCode G v11 s8) fun v12 s13 =>
f_J12_hashCode_b40 G l0 v12 s13))
else (some (v1, s0)))
else (some (v1, s0))
set_option maxHeartbeats 4000000 in
theorem m_J12_hashCode (Γ : zG) (l0 : Nat) (s0 s1 : zS) (r : Int32) (hf : f_J12_hashCode Γ.1 l0 s0 = some (r, s1)) : ZM Γ yJ12_hashCode (ws_ yJ12_hashCode cJ12_hashCode 2 (some .int)) 4 69 [zr (some l0)] s0 (.inl (some (zi r)), s1) := by
  refine ZM.of (own := RJ12) (by decide) rfl (Nat.le_of_ble_eq_true rfl) ?_
  intro X hg hC hL hno hQ hin
  subst hg
  unfold f_J12_hashCode at hf
  refine z_aload_n hC (pc := 0) dJ12_hashCode_0 rfl 0 rfl ?_
  refine z_getI hC (pc := 1) in_J12 zcJ12 2 (Nat.le_of_ble_eq_true rfl) (zLk.o hC q822) zsm dJ12_hashCode_1 hf (fun v1 hf => ?_)
  refine z_istore_n (lv' := [(1, zi v1), (0, zr (some l0))]) hC (pc := 4) hL dJ12_hashCode_4 rfl (Nat.le_of_ble_eq_true rfl) rfl ?_
  refine z_iload_n hC (pc := 5) dJ12_hashCode_5 rfl 0 rfl ?_
  refine z_if_ne hC (pc := 6) (tgt := 58) dJ12_hashCode_6 rfl (fun c2 => ?_) (fun c2 => ?_)
  · have hf := zif_f hf c2
    refine z_iload_n hC (pc := 58) dJ12_hashCode_58 rfl 0 rfl ?_
    exact z_ireturn hC (pc := 59) hQ dJ12_hashCode_59 hf
  · have hf := zif_t hf c2
    refine z_aload_n hC (pc := 9) dJ12_hashCode_9 rfl 1 rfl ?_
    refine z_getI hC (pc := 10) in_J12 zcJ12 3 (Nat.le_of_ble_eq_true rfl) (zLk.o hC q823) zsm dJ12_hashCode_10 hf (fun v3 hf => ?_)
    refine z_if_ne hC (pc := 13) (tgt := 58) dJ12_hashCode_13 rfl (fun c4 => ?_) (fun c4 => ?_)
    · have hf := zif_f hf c4
      refine z_iload_n hC (pc := 58) dJ12_hashCode_58 rfl 0 rfl ?_
      exact z_ireturn hC (pc := 59) hQ dJ12_hashCode_59 hf
    · have hf := zif_t hf c4
      refine z_aload_n hC (pc := 16) dJ12_hashCode_16 rfl 1 rfl ?_
      obtain ⟨fs5, ha6, hf⟩ := z_rcN hf
      refine z_cI (rest := []) hf (fun v7 s8 hcall => z_runV hC (pc := 17) zcJ12 0 ha6 (m_J12_isLatin1 X.g l0 s0 s8 v7 hcall) (lw_V q909 q910 q911 q116 q912) hdV_J12_isLatin1 ⟨(Nat.le_of_ble_eq_true rfl), (Nat.le_of_ble_eq_true rfl)⟩ rfl (Nat.le_of_ble_eq_true rfl) dJ12_hashCode_17 rfl) (fun v7 s8 hf => ?_)
      refine z_if_eq hC (pc := 20) (tgt := 33) dJ12_hashCode_20 rfl (fun c9 => ?_) (fun c9 => ?_)
      · have hf := zif_t hf c9
        refine z_aload_n hC (pc := 33) dJ12_hashCode_33 rfl 1 rfl ?_
        refine z_getR hC (pc := 34) in_J12 zcJ12 0 (Nat.le_of_ble_eq_true rfl) (zLk.o hC q820) zsm dJ12_hashCode_34 hf (fun v10 hf => ?_)
        cases hf
      · have hf := zif_f hf c9
        refine z_aload_n hC (pc := 23) dJ12_hashCode_23 rfl 1 rfl ?_
        refine z_getR hC (pc := 24) in_J12 zcJ12 0 (Nat.le_of_ble_eq_true rfl) (zLk.o hC q820) zsm dJ12_hashCode_24 hf (fun v11 hf => ?_)
        refine z_cI (rest := []) hf (fun v12 s13 hcall => z_runS hC (pc := 27) 1 (m_J17_hashCode X.g v11 s8 s13 v12 hcall) (lw_S q913 q914 q122 q915) hd_J17_hashCode ⟨(Nat.le_of_ble_eq_true rfl), (Nat.le_of_ble_eq_true rfl)⟩ rfl (Nat.le_of_ble_eq_true rfl) dJ12_hashCode_27 rfl) (fun v12 s13 hf => ?_)
        refine z_goto hC (pc := 30) (tgt := 40) dJ12_hashCode_30 rfl ?_
        refine ZW.perm (lv' := [(0, zr (some l0))]) [1] rfl ?_
        exact w_J12_hashCode_b40 hC hL hno hQ l0 v12 s13 hf
/-! java/lang/String.length()I -/
def f_J12_length (G : Nat → Nat) (l0 : Nat) (s0 : zS) : Option (Int32 × zS) :=
zo (zgR s0 (some l0) 17 0) fun v1 =>
zo (zlen s0 v1) fun v2 =>
zo (zrc s0 (some l0) 17) fun _ =>
zb (f_J12_coder G l0 s0) fun v5 s6 =>
some ((v2 >>> ((v5 : Int32) &&& 31)), s6)
set_option maxHeartbeats 4000000 in
theorem m_J12_length (Γ : zG) (l0 : Nat) (s0 s1 : zS) (r : Int32) (hf : f_J12_length Γ.1 l0 s0 = some (r, s1)) : ZM Γ yJ12_length (ws_ yJ12_length cJ12_length 1 (some .int)) 2 20 [zr (some l0)] s0 (.inl (some (zi r)), s1) := by
  refine ZM.of (own := RJ12) (by decide) rfl (Nat.le_of_ble_eq_true rfl) ?_
  intro X hg hC hL hno hQ hin
  subst hg
  unfold f_J12_length at hf
  refine z_aload_n hC (pc := 0) dJ12_length_0 rfl 0 rfl ?_
  refine z_getR hC (pc := 1) in_J12 zcJ12 0 (Nat.le_of_ble_eq_true rfl) (zLk.o hC q820) zsm dJ12_length_1 hf (fun v1 hf => ?_)
  refine z_alen hC (pc := 4) dJ12_length_4 hf (fun v2 hf => ?_)
  refine z_aload_n hC (pc := 5) dJ12_length_5 rfl 0 rfl ?_
  obtain ⟨fs3, ha4, hf⟩ := z_rcN hf
  refine z_cI (rest := [zi v2]) hf (fun v5 s6 hcall => z_runV hC (pc := 6) zcJ12 0 ha4 (m_J12_coder X.g l0 s0 s6 v5 hcall) (lw_V q661 q662 q663 q116 q664) hdV_J12_coder ⟨(Nat.le_of_ble_eq_true rfl), (Nat.le_of_ble_eq_true rfl)⟩ rfl (Nat.le_of_ble_eq_true rfl) dJ12_length_6 rfl) (fun v5 s6 hf => ?_)
  refine z_ishr hC (pc := 9) dJ12_length_9 ?_
  exact z_ireturn hC (pc := 10) hQ dJ12_length_10 hf
/-! java/util/Arrays.copyOf([JI)[J -/
def f_J16_copyOf_2 (G : Nat → Nat) (l0 : Option Nat) (l1 : Int32) (s0 : zS) : Option ((Option Nat) × zS) :=
zo (zlen s0 l0) fun v1 =>
if l1 = v1 then (none)
else (zb (znewA G s0 1 l1 (.inr (.inl fun _ => 0))) fun a3 s4 =>
zo (zlen s4 l0) fun v5 =>
zo (zcpR G s4 l0 0 (some a3) 0 (if l1 < v5 then l1 else v5) zok) fun s6 =>
some ((some a3), s6))
set_option maxHeartbeats 4000000 in
theorem m_J16_copyOf_2 (Γ : zG) (l0 : Option Nat) (l1 : Int32) (s0 s1 : zS) (r : (Option Nat)) (hf : f_J16_copyOf_2 Γ.1 l0 l1 s0 = some (r, s1)) : ZM Γ yJ16_copyOf_2 (ws_ yJ16_copyOf_2 cJ16_copyOf_2 3 (some (.array .long))) 1 60 [zr l0, zi l1] s0 (.inl (some (zr r)), s1) := by
  refine ZM.of (own := RJ16) (by decide) rfl (Nat.le_of_ble_eq_true rfl) ?_
  intro X hg hC hL hno hQ hin
  subst hg
  unfold f_J16_copyOf_2 at hf
  refine z_iload_n hC (pc := 0) dJ16_copyOf_2_0 rfl 1 rfl ?_
  refine z_aload_n hC (pc := 1) dJ16_copyOf_2_1 rfl 0 rfl ?_
  refine z_alen hC (pc := 2) dJ16_copyOf_2_2 hf (fun v1 hf => ?_)
  refine z_icmp_ne hC (pc := 3) (tgt := 14) dJ16_copyOf_2_3 rfl (fun c2 => ?_) (fun c2 => ?_)
  · have hf := zif_f hf c2
    refine z_iload_n hC (pc := 14) dJ16_copyOf_2_14 rfl 1 rfl ?_
    refine z_newa (t := 1) (ty := .long) hC (pc := 15) rfl rfl q1047 (.inr (.inl fun _ => 0)) (fun _ => rfl) (by decide) dJ16_copyOf_2_15 hf (fun a3 s4 hf => ?_)
    refine z_astore_n (lv' := [(2, zr (some a3)), (0, zr l0), (1, zi l1)]) hC (pc := 17) hL dJ16_copyOf_2_17 rfl (Nat.le_of_ble_eq_true rfl) rfl ?_
    refine z_aload_n hC (pc := 18) dJ16_copyOf_2_18 rfl 1 rfl ?_
    refine z_iconst (v := 0) hC (pc := 19) dJ16_copyOf_2_19 zki_0 ?_
    refine z_aload_n hC (pc := 20) dJ16_copyOf_2_20 rfl 0 rfl ?_
    refine z_iconst (v := 0) hC (pc := 21) dJ16_copyOf_2_21 zki_0 ?_
    refine z_aload_n hC (pc := 22) dJ16_copyOf_2_22 rfl 1 rfl ?_
    refine z_alen hC (pc := 23) dJ16_copyOf_2_23 hf (fun v5 hf => ?_)
    refine z_iload_n hC (pc := 24) dJ16_copyOf_2_24 rfl 2 rfl ?_
    refine z_mmin hC (pc := 25) q620 q621 q119 q622 (Nat.le_of_ble_eq_true rfl) (Nat.le_of_ble_eq_true rfl) dJ16_copyOf_2_25 ?_
    refine z_copyR hC (pc := 28) zok_obs q623 q625 q624 q121 (Nat.le_of_ble_eq_true rfl) (Nat.le_of_ble_eq_true rfl) dJ16_copyOf_2_28 hf (fun s6 hf => ?_)
    refine z_aload_n hC (pc := 31) dJ16_copyOf_2_31 rfl 0 rfl ?_
    exact z_areturn hC (pc := 32) (Or.inr ⟨_, rfl⟩) hQ dJ16_copyOf_2_32 hf
  · have hf := zif_t hf c2
    refine z_aload_n hC (pc := 6) dJ16_copyOf_2_6 rfl 0 rfl ?_
    cases hf
/-! java/util/Arrays.copyOf([Ljava/lang/Object;ILjava/lang/Class;)[Ljava/lang/Object; -/
def f_J16_copyOf_4_b24 (G : Nat → Nat) (l0 : Option Nat) (l1 : Int32) (t0 : Option Nat) (s0 : zS) : Option ((Option Nat) × zS) :=
zo (zlen s0 l0) fun v1 =>
zo (zcpR G s0 l0 0 t0 0 (if l1 < v1 then l1 else v1) zok) fun s2 =>
some (t0, s2)
set_option maxHeartbeats 4000000 in
theorem w_J16_copyOf_4_b24 {X : zX} (hC : ZC X RJ16 cJ16_copyOf_4 (some (.array (.object "java/lang/Object"))) 1 60) (hL : X.nL = 4) (hno : ∀ x ∈ X.c.exceptionTable.toList, False) {r : (Option Nat)} {sF : zS} (hQ : ZQ X (.inl (some (zr r)), sF)) (l0 : Option Nat) (l1 : Int32) (t0 : Option Nat) (s0 : zS) (hf : f_J16_copyOf_4_b24 X.g.1 l0 l1 t0 s0 = some (r, sF)) : ZW X s0 24 [(0, zr l0), (1, zi l1)] [zr t0] := by
  unfold f_J16_copyOf_4_b24 at hf
  refine z_astore_n (lv' := [(3, zr t0), (0, zr l0), (1, zi l1)]) hC (pc := 24) hL dJ16_copyOf_4_24 rfl (Nat.le_of_ble_eq_true rfl) rfl ?_
  refine z_aload_n hC (pc := 25) dJ16_copyOf_4_25 rfl 1 rfl ?_
  refine z_iconst (v := 0) hC (pc := 26) dJ16_copyOf_4_26 zki_0 ?_
  refine z_aload_n hC (pc := 27) dJ16_copyOf_4_27 rfl 0 rfl ?_
  refine z_iconst (v := 0) hC (pc := 28) dJ16_copyOf_4_28 zki_0 ?_
  refine z_aload_n hC (pc := 29) dJ16_copyOf_4_29 rfl 1 rfl ?_
  refine z_alen hC (pc := 30) dJ16_copyOf_4_30 hf (fun v1 hf => ?_)
  refine z_iload_n hC (pc := 31) dJ16_copyOf_4_31 rfl 2 rfl ?_
  refine z_mmin hC (pc := 32) q620 q621 q119 q622 (Nat.le_of_ble_eq_true rfl) (Nat.le_of_ble_eq_true rfl) dJ16_copyOf_4_32 ?_
  refine z_copyR hC (pc := 35) zok_obs q623 q625 q624 q121 (Nat.le_of_ble_eq_true rfl) (Nat.le_of_ble_eq_true rfl) dJ16_copyOf_4_35 hf (fun s2 hf => ?_)
  refine z_aload_n hC (pc := 38) dJ16_copyOf_4_38 rfl 0 rfl ?_
  exact z_areturn hC (pc := 39) (Or.inr ⟨_, rfl⟩) hQ dJ16_copyOf_4_39 hf
def f_J16_copyOf_4 (G : Nat → Nat) (l0 : Option Nat) (l1 : Int32) (l2 : Option Nat) (s0 : zS) : Option ((Option Nat) × zS) :=
if l2 = (some (G 5)) then (zb (znewA G s0 5 l1 (.inr (.inr fun _ => none))) fun a2 s3 =>
f_J16_copyOf_4_b24 G l0 l1 (some a2) s3)
else (none)
set_option maxHeartbeats 4000000 in
theorem m_J16_copyOf_4 (Γ : zG) (l0 : Option Nat) (l1 : Int32) (l2 : Option Nat) (s0 s1 : zS) (r : (Option Nat)) (hf : f_J16_copyOf_4 Γ.1 l0 l1 l2 s0 = some (r, s1)) : ZM Γ yJ16_copyOf_4 (ws_ yJ16_copyOf_4 cJ16_copyOf_4 4 (some (.array (.object "java/lang/Object")))) 1 60 [zr l0, zi l1, zr l2] s0 (.inl (some (zr r)), s1) := by
  refine ZM.of (own := RJ16) (by decide) rfl (Nat.le_of_ble_eq_true rfl) ?_
  intro X hg hC hL hno hQ hin
  subst hg
  unfold f_J16_copyOf_4 at hf
  refine z_aload_n hC (pc := 0) dJ16_copyOf_4_0 rfl 2 rfl ?_
  refine z_mir (k := 5) hC (pc := 1) (List.mem_of_getElem? (i := 0) rfl) q1676 dJ16_copyOf_4_1 ?_
  refine z_acmp_ne hC (pc := 3) (tgt := 13) dJ16_copyOf_4_3 rfl (fun c1 => ?_) (fun c1 => ?_)
  · have hf := zif_f hf c1
    refine z_aload_n hC (pc := 13) dJ16_copyOf_4_13 rfl 2 rfl ?_
    cases hf
  · have hf := zif_t hf c1
    refine z_iload_n hC (pc := 6) dJ16_copyOf_4_6 rfl 1 rfl ?_
    refine z_anew hC (pc := 7) q1677 dJ16_copyOf_4_7 hf (fun a2 s3 hf => ?_)
    refine z_goto hC (pc := 10) (tgt := 24) dJ16_copyOf_4_10 rfl ?_
    refine ZW.perm (lv' := [(0, zr l0), (1, zi l1)]) [0, 1] rfl ?_
    exact w_J16_copyOf_4_b24 hC hL hno hQ l0 l1 (some a2) s3 hf
/-! java/util/Arrays.copyOf([Ljava/lang/Object;I)[Ljava/lang/Object; -/
def f_J16_copyOf_3 (G : Nat → Nat) (l0 : Option Nat) (l1 : Int32) (s0 : zS) : Option ((Option Nat) × zS) :=
zo (zcsA s0 l0 5) fun _ =>
zb (f_J16_copyOf_4 G l0 l1 (some (G 5)) s0) fun v1 s2 =>
some (v1, s2)
set_option maxHeartbeats 4000000 in
theorem m_J16_copyOf_3 (Γ : zG) (l0 : Option Nat) (l1 : Int32) (s0 s1 : zS) (r : (Option Nat)) (hf : f_J16_copyOf_3 Γ.1 l0 l1 s0 = some (r, s1)) : ZM Γ yJ16_copyOf_3 (ws_ yJ16_copyOf_3 cJ16_copyOf_3 2 (some (.array (.object "java/lang/Object")))) 2 83 [zr l0, zi l1] s0 (.inl (some (zr r)), s1) := by
  refine ZM.of (own := RJ16) (by decide) rfl (Nat.le_of_ble_eq_true rfl) ?_
  intro X hg hC hL hno hQ hin
  subst hg
  unfold f_J16_copyOf_3 at hf
  refine z_aload_n hC (pc := 0) dJ16_copyOf_3_0 rfl 0 rfl ?_
  refine z_iload_n hC (pc := 1) dJ16_copyOf_3_1 rfl 1 rfl ?_
  refine z_aload_n hC (pc := 2) dJ16_copyOf_3_2 rfl 0 rfl ?_
  refine z_getC (k := 5) hC (pc := 3) (List.mem_of_getElem? (i := 0) rfl) q1672 q3183 q3182 q1479 q1518 (Nat.le_of_ble_eq_true rfl) (Nat.le_of_ble_eq_true rfl) dJ16_copyOf_3_3 hf (fun hf => ?_)
  refine z_cR (rest := []) hf (fun v1 s2 hcall => z_runS hC (pc := 6) 3 (m_J16_copyOf_4 X.g l0 l1 (some (X.g.1 5)) s0 s2 v1 hcall) (lw_S q1673 q1674 q120 q1675) hd_J16_copyOf_4 ⟨(Nat.le_of_ble_eq_true rfl), (Nat.le_of_ble_eq_true rfl)⟩ rfl (Nat.le_of_ble_eq_true rfl) dJ16_copyOf_3_6 rfl) (fun v1 s2 hf => ?_)
  exact z_areturn hC (pc := 9) (Or.inr ⟨_, rfl⟩) hQ dJ16_copyOf_3_9 hf
/-! java/lang/Number.<init>()V -/
def f_J19_init_J20 (G : Nat → Nat) (l0 : Nat) (s0 : zS) : Option (Unit × zS) :=
some ((), s0)
set_option maxHeartbeats 4000000 in
theorem m_J19_init_J20 (Γ : zG) (l0 : Nat) (s0 s1 : zS) (r : Unit) (hf : f_J19_init_J20 Γ.1 l0 s0 = some (r, s1)) : ZM Γ yJ19_init (ws_ yJ19_init cJ19_init 1 none) 1 12 [zr (some l0)] s0 (.inl none, s1) := by
  refine ZM.of (own := RJ19) (by decide) rfl (Nat.le_of_ble_eq_true rfl) ?_
  intro X hg hC hL hno hQ hin
  subst hg
  unfold f_J19_init_J20 at hf
  refine z_aload_n hC (pc := 0) dJ19_init_0 rfl 0 rfl ?_
  refine z_objInit hC (pc := 1) q1212 q163 q164 (Nat.le_of_ble_eq_true rfl) (Nat.le_of_ble_eq_true rfl) dJ19_init_1 ?_
  exact z_return hC (pc := 4) hQ dJ19_init_4 hf
/-! java/util/ArrayDeque.inc(II)I -/
def f_J1_inc (G : Nat → Nat) (l0 : Int32) (l1 : Int32) (s0 : zS) : Option (Int32 × zS) :=
if (l0 + 1) < l1 then (some ((l0 + 1), s0))
else (some (0, s0))
set_option maxHeartbeats 4000000 in
theorem m_J1_inc (Γ : zG) (l0 : Int32) (l1 : Int32) (s0 s1 : zS) (r : Int32) (hf : f_J1_inc Γ.1 l0 l1 s0 = some (r, s1)) : ZM Γ yJ1_inc (ws_ yJ1_inc cJ1_inc 2 (some .int)) 1 0 [zi l0, zi l1] s0 (.inl (some (zi r)), s1) := by
  refine ZM.of (own := RJ1) (by decide) rfl (Nat.le_of_ble_eq_true rfl) ?_
  intro X hg hC hL hno hQ hin
  subst hg
  unfold f_J1_inc at hf
  refine z_iinc (v := 1) (lv' := [(0, zi (l0 + 1)), (1, zi l1)]) hC (pc := 0) hL dJ1_inc_0 0 rfl zki_1 (Nat.le_of_ble_eq_true rfl) rfl ?_
  refine z_iload_n hC (pc := 3) dJ1_inc_3 rfl 0 rfl ?_
  refine z_iload_n hC (pc := 4) dJ1_inc_4 rfl 1 rfl ?_
  refine z_icmp_lt hC (pc := 5) (tgt := 10) dJ1_inc_5 rfl (fun c1 => ?_) (fun c1 => ?_)
  · have hf := zif_t hf c1
    refine z_iload_n hC (pc := 10) dJ1_inc_10 rfl 0 rfl ?_
    exact z_ireturn hC (pc := 11) hQ dJ1_inc_11 hf
  · have hf := zif_f hf c1
    refine z_iconst (v := 0) hC (pc := 8) dJ1_inc_8 zki_0 ?_
    refine z_istore_n (lv' := [(0, zi 0), (1, zi l1)]) hC (pc := 9) hL dJ1_inc_9 rfl (Nat.le_of_ble_eq_true rfl) rfl ?_
    refine z_iload_n hC (pc := 10) dJ1_inc_10 rfl 0 rfl ?_
    exact z_ireturn hC (pc := 11) hQ dJ1_inc_11 hf
/-! java/util/ArrayDeque.addLast(Ljava/lang/Object;)V -/
def f_J1_addLast (G : Nat → Nat) (l0 : Nat) (l1 : Option Nat) (s0 : zS) : Option (Unit × zS) :=
if l1 = none then (none)
else (zo (zgR s0 (some l0) 13 0) fun v2 =>
zo (zgI s0 (some l0) 13 2) fun v3 =>
zo (zsR G s0 v2 v3 l1 zok) fun s4 =>
zo (zgI s4 (some l0) 13 1) fun v5 =>
zo (zgI s4 (some l0) 13 2) fun v6 =>
zo (zlen s4 v2) fun v7 =>
zb (f_J1_inc G v6 v7 s4) fun v8 s9 =>
zo (zput G s9 (some l0) 13 2 (.int v8)) fun s10 =>
if v5 = v8 then (none)
else (some ((), s10)))
set_option maxHeartbeats 4000000 in
theorem m_J1_addLast (Γ : zG) (l0 : Nat) (l1 : Option Nat) (s0 s1 : zS) (r : Unit) (hf : f_J1_addLast Γ.1 l0 l1 s0 = some (r, s1)) : ZM Γ yJ1_addLast (ws_ yJ1_addLast cJ1_addLast 3 none) 2 21 [zr (some l0), zr l1] s0 (.inl none, s1) := by
  refine ZM.of (own := RJ1) (by decide) rfl (Nat.le_of_ble_eq_true rfl) ?_
  intro X hg hC hL hno hQ hin
  subst hg
  unfold f_J1_addLast at hf
  refine z_aload_n hC (pc := 0) dJ1_addLast_0 rfl 1 rfl ?_
  refine z_ifnonnull hC (pc := 1) (tgt := 12) dJ1_addLast_1 rfl (fun c1 => ?_) (fun c1 => ?_)
  · have hf := zif_f hf c1
    refine z_aload_n hC (pc := 12) dJ1_addLast_12 rfl 0 rfl ?_
    refine z_getR hC (pc := 13) in_J1 zcJ1 0 (Nat.le_of_ble_eq_true rfl) (zLk.o hC q176) zsm dJ1_addLast_13 hf (fun v2 hf => ?_)
    refine z_astore_n (lv' := [(2, zr v2), (0, zr (some l0)), (1, zr l1)]) hC (pc := 16) hL dJ1_addLast_16 rfl (Nat.le_of_ble_eq_true rfl) rfl ?_
    refine z_aload_n hC (pc := 17) dJ1_addLast_17 rfl 0 rfl ?_
    refine z_aload_n hC (pc := 18) dJ1_addLast_18 rfl 1 rfl ?_
    refine z_getI hC (pc := 19) in_J1 zcJ1 2 (Nat.le_of_ble_eq_true rfl) (zLk.o hC q178) zsm dJ1_addLast_19 hf (fun v3 hf => ?_)
    refine z_aload_n hC (pc := 22) dJ1_addLast_22 rfl 2 rfl ?_
    refine z_aast hC (pc := 23) zok_obs dJ1_addLast_23 hf (fun s4 hf => ?_)
    refine z_aload_n hC (pc := 24) dJ1_addLast_24 rfl 1 rfl ?_
    refine z_getI hC (pc := 25) in_J1 zcJ1 1 (Nat.le_of_ble_eq_true rfl) (zLk.o hC q177) zsm dJ1_addLast_25 hf (fun v5 hf => ?_)
    refine z_aload_n hC (pc := 28) dJ1_addLast_28 rfl 1 rfl ?_
    refine z_aload_n hC (pc := 29) dJ1_addLast_29 rfl 1 rfl ?_
    refine z_getI hC (pc := 30) in_J1 zcJ1 2 (Nat.le_of_ble_eq_true rfl) (zLk.o hC q178) zsm dJ1_addLast_30 hf (fun v6 hf => ?_)
    refine z_aload_n hC (pc := 33) dJ1_addLast_33 rfl 0 rfl ?_
    refine z_alen hC (pc := 34) dJ1_addLast_34 hf (fun v7 hf => ?_)
    refine z_cI (rest := [zr (some l0), zi v5]) hf (fun v8 s9 hcall => z_runS hC (pc := 35) 2 (m_J1_inc X.g v6 v7 s4 s9 v8 hcall) (lw_S q1936 q1937 q97 q1938) hd_J1_inc ⟨(Nat.le_of_ble_eq_true rfl), (Nat.le_of_ble_eq_true rfl)⟩ rfl (Nat.le_of_ble_eq_true rfl) dJ1_addLast_35 rfl) (fun v8 s9 hf => ?_)
    refine z_dup_x1 hC (pc := 38) dJ1_addLast_38 rfl rfl ?_
    refine z_putV (v := zi v8) hC (pc := 39) in_J1 tyJ1 tyJ1_ok nmJ1 zcJ1 2 (Nat.le_of_ble_eq_true rfl) (zLk.o hC q178) zsm (Or.inl rfl) rfl rfl dJ1_addLast_39 hf (fun s10 hf => ?_)
    refine z_icmp_ne hC (pc := 42) (tgt := 50) dJ1_addLast_42 rfl (fun c11 => ?_) (fun c11 => ?_)
    · have hf := zif_f hf c11
      exact z_return hC (pc := 50) hQ dJ1_addLast_50 hf
    · have hf := zif_t hf c11
      refine z_aload_n hC (pc := 45) dJ1_addLast_45 rfl 1 rfl ?_
      refine z_iconst (v := 1) hC (pc := 46) dJ1_addLast_46 zki_1 ?_
      cases hf
  · have hf := zif_t hf c1
    cases hf
/-! java/util/ArrayDeque.dec(II)I -/
def f_J1_dec (G : Nat → Nat) (l0 : Int32) (l1 : Int32) (s0 : zS) : Option (Int32 × zS) :=
if 0 ≤ (l0 + (-1)) then (some ((l0 + (-1)), s0))
else (some ((l1 - 1), s0))
set_option maxHeartbeats 4000000 in
theorem m_J1_dec (Γ : zG) (l0 : Int32) (l1 : Int32) (s0 s1 : zS) (r : Int32) (hf : f_J1_dec Γ.1 l0 l1 s0 = some (r, s1)) : ZM Γ yJ1_dec (ws_ yJ1_dec cJ1_dec 2 (some .int)) 1 0 [zi l0, zi l1] s0 (.inl (some (zi r)), s1) := by
  refine ZM.of (own := RJ1) (by decide) rfl (Nat.le_of_ble_eq_true rfl) ?_
  intro X hg hC hL hno hQ hin
  subst hg
  unfold f_J1_dec at hf
  refine z_iinc (v := (-1)) (lv' := [(0, zi (l0 + (-1))), (1, zi l1)]) hC (pc := 0) hL dJ1_dec_0 0 rfl zki_m1 (Nat.le_of_ble_eq_true rfl) rfl ?_
  refine z_iload_n hC (pc := 3) dJ1_dec_3 rfl 0 rfl ?_
  refine z_if_ge hC (pc := 4) (tgt := 11) dJ1_dec_4 rfl (fun c1 => ?_) (fun c1 => ?_)
  · have hf := zif_t hf c1
    refine z_iload_n hC (pc := 11) dJ1_dec_11 rfl 0 rfl ?_
    exact z_ireturn hC (pc := 12) hQ dJ1_dec_12 hf
  · have hf := zif_f hf c1
    refine z_iload_n hC (pc := 7) dJ1_dec_7 rfl 1 rfl ?_
    refine z_iconst (v := 1) hC (pc := 8) dJ1_dec_8 zki_1 ?_
    refine z_isub hC (pc := 9) dJ1_dec_9 ?_
    refine z_istore_n (lv' := [(0, zi (l1 - 1)), (1, zi l1)]) hC (pc := 10) hL dJ1_dec_10 rfl (Nat.le_of_ble_eq_true rfl) rfl ?_
    refine z_iload_n hC (pc := 11) dJ1_dec_11 rfl 0 rfl ?_
    exact z_ireturn hC (pc := 12) hQ dJ1_dec_12 hf
/-! java/util/ArrayDeque.elementAt([Ljava/lang/Object;I)Ljava/lang/Object; -/
def f_J1_elementAt (G : Nat → Nat) (l0 : Option Nat) (l1 : Int32) (s0 : zS) : Option ((Option Nat) × zS) :=
zo (zaR s0 l0 l1) fun v1 =>
some (v1, s0)
set_option maxHeartbeats 4000000 in
theorem m_J1_elementAt (Γ : zG) (l0 : Option Nat) (l1 : Int32) (s0 s1 : zS) (r : (Option Nat)) (hf : f_J1_elementAt Γ.1 l0 l1 s0 = some (r, s1)) : ZM Γ yJ1_elementAt (ws_ yJ1_elementAt cJ1_elementAt 2 (some (.object "java/lang/Object"))) 1 0 [zr l0, zi l1] s0 (.inl (some (zr r)), s1) := by
  refine ZM.of (own := RJ1) (by decide) rfl (Nat.le_of_ble_eq_true rfl) ?_
  intro X hg hC hL hno hQ hin
  subst hg
  unfold f_J1_elementAt at hf
  refine z_aload_n hC (pc := 0) dJ1_elementAt_0 rfl 0 rfl ?_
  refine z_iload_n hC (pc := 1) dJ1_elementAt_1 rfl 1 rfl ?_
  refine z_aald hC (pc := 2) dJ1_elementAt_2 hf (fun v1 hf => ?_)
  exact z_areturn hC (pc := 3) (Or.inl ⟨_, rfl⟩) hQ dJ1_elementAt_3 hf
/-! java/util/ArrayDeque.<init>()V -/
def f_J1_init (G : Nat → Nat) (l0 : Nat) (s0 : zS) : Option (Unit × zS) :=
zb (f_J0_init_J1 G l0 s0) fun _ s2 =>
zb (znewA G s2 5 17 (.inr (.inr fun _ => none))) fun a3 s4 =>
zo (zput G s4 (some l0) 13 0 (va_rf (some a3))) fun s5 =>
some ((), s5)
set_option maxHeartbeats 4000000 in
theorem m_J1_init (Γ : zG) (l0 : Nat) (s0 s1 : zS) (r : Unit) (hf : f_J1_init Γ.1 l0 s0 = some (r, s1)) : ZM Γ yJ1_init (ws_ yJ1_init cJ1_init 1 none) 2 32 [zr (some l0)] s0 (.inl none, s1) := by
  refine ZM.of (own := RJ1) (by decide) rfl (Nat.le_of_ble_eq_true rfl) ?_
  intro X hg hC hL hno hQ hin
  subst hg
  unfold f_J1_init at hf
  refine z_aload_n hC (pc := 0) dJ1_init_0 rfl 0 rfl ?_
  refine z_cU (rest := []) hf (fun v1 s2 hcall => z_runI hC (pc := 1) 0 (m_J0_init_J1 X.g l0 s0 s2 v1 hcall) q172 rfl q96 q170 q171 hd_J0_init ⟨(Nat.le_of_ble_eq_true rfl), (Nat.le_of_ble_eq_true rfl)⟩ rfl (Nat.le_of_ble_eq_true rfl) dJ1_init_1 rfl) (fun _ s2 hf => ?_)
  refine z_aload_n hC (pc := 4) dJ1_init_4 rfl 0 rfl ?_
  refine z_bipush (v := 17) hC (pc := 5) dJ1_init_5 zkb_17 ?_
  refine z_anew hC (pc := 7) q174 dJ1_init_7 hf (fun a3 s4 hf => ?_)
  refine z_putV (v := zr (some a3)) hC (pc := 10) in_J1 tyJ1 tyJ1_ok nmJ1 zcJ1 0 (Nat.le_of_ble_eq_true rfl) (zLk.o hC q176) zsm (Or.inl rfl) rfl (zfa (some a3)) dJ1_init_10 hf (fun s5 hf => ?_)
  exact z_return hC (pc := 13) hQ dJ1_init_13 hf
/-! java/util/ArrayDeque.isEmpty()Z -/
def f_J1_isEmpty (G : Nat → Nat) (l0 : Nat) (s0 : zS) : Option (Int32 × zS) :=
zo (zgI s0 (some l0) 13 1) fun v1 =>
zo (zgI s0 (some l0) 13 2) fun v2 =>
if v1 = v2 then (zrn .boolean 1 s0)
else (zrn .boolean 0 s0)
set_option maxHeartbeats 4000000 in
theorem m_J1_isEmpty (Γ : zG) (l0 : Nat) (s0 s1 : zS) (r : Int32) (hf : f_J1_isEmpty Γ.1 l0 s0 = some (r, s1)) : ZM Γ yJ1_isEmpty (ws_ yJ1_isEmpty cJ1_isEmpty 1 (some .boolean)) 1 0 [zr (some l0)] s0 (.inl (some (zi r)), s1) := by
  refine ZM.of (own := RJ1) (by decide) rfl (Nat.le_of_ble_eq_true rfl) ?_
  intro X hg hC hL hno hQ hin
  subst hg
  unfold f_J1_isEmpty at hf
  refine z_aload_n hC (pc := 0) dJ1_isEmpty_0 rfl 0 rfl ?_
  refine z_getI hC (pc := 1) in_J1 zcJ1 1 (Nat.le_of_ble_eq_true rfl) (zLk.o hC q177) zsm dJ1_isEmpty_1 hf (fun v1 hf => ?_)
  refine z_aload_n hC (pc := 4) dJ1_isEmpty_4 rfl 0 rfl ?_
  refine z_getI hC (pc := 5) in_J1 zcJ1 2 (Nat.le_of_ble_eq_true rfl) (zLk.o hC q178) zsm dJ1_isEmpty_5 hf (fun v2 hf => ?_)
  refine z_icmp_ne hC (pc := 8) (tgt := 15) dJ1_isEmpty_8 rfl (fun c3 => ?_) (fun c3 => ?_)
  · have hf := zif_f hf c3
    refine z_iconst (v := 0) hC (pc := 15) dJ1_isEmpty_15 zki_0 ?_
    exact z_zreturn hC (pc := 16) hQ dJ1_isEmpty_16 hf
  · have hf := zif_t hf c3
    refine z_iconst (v := 1) hC (pc := 11) dJ1_isEmpty_11 zki_1 ?_
    refine z_goto hC (pc := 12) (tgt := 16) dJ1_isEmpty_12 rfl ?_
    exact z_zreturn hC (pc := 16) hQ dJ1_isEmpty_16 hf
/-! java/util/ArrayDeque.pollFirst()Ljava/lang/Object; -/
def f_J1_pollFirst (G : Nat → Nat) (l0 : Nat) (s0 : zS) : Option ((Option Nat) × zS) :=
zo (zgR s0 (some l0) 13 0) fun v1 =>
zo (zgI s0 (some l0) 13 1) fun v2 =>
zb (f_J1_elementAt G v1 v2 s0) fun v3 s4 =>
if v3 = none then (some (v3, s4))
else (zo (zsR G s4 v1 v2 none zok) fun s6 =>
zo (zlen s6 v1) fun v7 =>
zb (f_J1_inc G v2 v7 s6) fun v8 s9 =>
zo (zput G s9 (some l0) 13 1 (.int v8)) fun s10 =>
some (v3, s10))
set_option maxHeartbeats 4000000 in
theorem m_J1_pollFirst (Γ : zG) (l0 : Nat) (s0 s1 : zS) (r : (Option Nat)) (hf : f_J1_pollFirst Γ.1 l0 s0 = some (r, s1)) : ZM Γ yJ1_pollFirst (ws_ yJ1_pollFirst cJ1_pollFirst 4 (some (.object "java/lang/Object"))) 2 21 [zr (some l0)] s0 (.inl (some (zr r)), s1) := by
  refine ZM.of (own := RJ1) (by decide) rfl (Nat.le_of_ble_eq_true rfl) ?_
  intro X hg hC hL hno hQ hin
  subst hg
  unfold f_J1_pollFirst at hf
  refine z_aload_n hC (pc := 0) dJ1_pollFirst_0 rfl 0 rfl ?_
  refine z_getR hC (pc := 1) in_J1 zcJ1 0 (Nat.le_of_ble_eq_true rfl) (zLk.o hC q176) zsm dJ1_pollFirst_1 hf (fun v1 hf => ?_)
  refine z_dup hC (pc := 4) dJ1_pollFirst_4 rfl ?_
  refine z_astore_n (lv' := [(1, zr v1), (0, zr (some l0))]) hC (pc := 5) hL dJ1_pollFirst_5 rfl (Nat.le_of_ble_eq_true rfl) rfl ?_
  refine z_aload_n hC (pc := 6) dJ1_pollFirst_6 rfl 1 rfl ?_
  refine z_getI hC (pc := 7) in_J1 zcJ1 1 (Nat.le_of_ble_eq_true rfl) (zLk.o hC q177) zsm dJ1_pollFirst_7 hf (fun v2 hf => ?_)
  refine z_dup hC (pc := 10) dJ1_pollFirst_10 rfl ?_
  refine z_istore_n (lv' := [(2, zi v2), (1, zr v1), (0, zr (some l0))]) hC (pc := 11) hL dJ1_pollFirst_11 rfl (Nat.le_of_ble_eq_true rfl) rfl ?_
  refine z_cR (rest := []) hf (fun v3 s4 hcall => z_runS hC (pc := 12) 2 (m_J1_elementAt X.g v1 v2 s0 s4 v3 hcall) (lw_S q1933 q1934 q97 q1935) hd_J1_elementAt ⟨(Nat.le_of_ble_eq_true rfl), (Nat.le_of_ble_eq_true rfl)⟩ rfl (Nat.le_of_ble_eq_true rfl) dJ1_pollFirst_12 rfl) (fun v3 s4 hf => ?_)
  refine z_astore_n (lv' := [(3, zr v3), (2, zi v2), (1, zr v1), (0, zr (some l0))]) hC (pc := 15) hL dJ1_pollFirst_15 rfl (Nat.le_of_ble_eq_true rfl) rfl ?_
  refine z_aload_n hC (pc := 16) dJ1_pollFirst_16 rfl 0 rfl ?_
  refine z_ifnull hC (pc := 17) (tgt := 34) dJ1_pollFirst_17 rfl (fun c5 => ?_) (fun c5 => ?_)
  · have hf := zif_t hf c5
    refine z_aload_n hC (pc := 34) dJ1_pollFirst_34 rfl 0 rfl ?_
    exact z_areturn hC (pc := 35) (Or.inl ⟨_, rfl⟩) hQ dJ1_pollFirst_35 hf
  · have hf := zif_f hf c5
    refine z_aload_n hC (pc := 20) dJ1_pollFirst_20 rfl 2 rfl ?_
    refine z_iload_n hC (pc := 21) dJ1_pollFirst_21 rfl 1 rfl ?_
    refine z_null hC (pc := 22) dJ1_pollFirst_22 ?_
    refine z_aast hC (pc := 23) zok_obs dJ1_pollFirst_23 hf (fun s6 hf => ?_)
    refine z_aload_n hC (pc := 24) dJ1_pollFirst_24 rfl 3 rfl ?_
    refine z_iload_n hC (pc := 25) dJ1_pollFirst_25 rfl 1 rfl ?_
    refine z_aload_n hC (pc := 26) dJ1_pollFirst_26 rfl 2 rfl ?_
    refine z_alen hC (pc := 27) dJ1_pollFirst_27 hf (fun v7 hf => ?_)
    refine z_cI (rest := [zr (some l0)]) hf (fun v8 s9 hcall => z_runS hC (pc := 28) 2 (m_J1_inc X.g v2 v7 s6 s9 v8 hcall) (lw_S q1936 q1937 q97 q1938) hd_J1_inc ⟨(Nat.le_of_ble_eq_true rfl), (Nat.le_of_ble_eq_true rfl)⟩ rfl (Nat.le_of_ble_eq_true rfl) dJ1_pollFirst_28 rfl) (fun v8 s9 hf => ?_)
    refine z_putV (v := zi v8) hC (pc := 31) in_J1 tyJ1 tyJ1_ok nmJ1 zcJ1 1 (Nat.le_of_ble_eq_true rfl) (zLk.o hC q177) zsm (Or.inl rfl) rfl rfl dJ1_pollFirst_31 hf (fun s10 hf => ?_)
    refine z_aload_n hC (pc := 34) dJ1_pollFirst_34 rfl 0 rfl ?_
    exact z_areturn hC (pc := 35) (Or.inl ⟨_, rfl⟩) hQ dJ1_pollFirst_35 hf
/-! java/util/ArrayDeque.pollLast()Ljava/lang/Object; -/
def f_J1_pollLast (G : Nat → Nat) (l0 : Nat) (s0 : zS) : Option ((Option Nat) × zS) :=
zo (zgR s0 (some l0) 13 0) fun v1 =>
zo (zgI s0 (some l0) 13 2) fun v2 =>
zo (zlen s0 v1) fun v3 =>
zb (f_J1_dec G v2 v3 s0) fun v4 s5 =>
zb (f_J1_elementAt G v1 v4 s5) fun v6 s7 =>
if v6 = none then (some (v6, s7))
else (zo (zput G s7 (some l0) 13 2 (.int v4)) fun s9 =>
zo (zsR G s9 v1 v4 none zok) fun s10 =>
some (v6, s10))
set_option maxHeartbeats 4000000 in
theorem m_J1_pollLast (Γ : zG) (l0 : Nat) (s0 s1 : zS) (r : (Option Nat)) (hf : f_J1_pollLast Γ.1 l0 s0 = some (r, s1)) : ZM Γ yJ1_pollLast (ws_ yJ1_pollLast cJ1_pollLast 4 (some (.object "java/lang/Object"))) 2 21 [zr (some l0)] s0 (.inl (some (zr r)), s1) := by
  refine ZM.of (own := RJ1) (by decide) rfl (Nat.le_of_ble_eq_true rfl) ?_
  intro X hg hC hL hno hQ hin
  subst hg
  unfold f_J1_pollLast at hf
  refine z_aload_n hC (pc := 0) dJ1_pollLast_0 rfl 0 rfl ?_
  refine z_getR hC (pc := 1) in_J1 zcJ1 0 (Nat.le_of_ble_eq_true rfl) (zLk.o hC q176) zsm dJ1_pollLast_1 hf (fun v1 hf => ?_)
  refine z_dup hC (pc := 4) dJ1_pollLast_4 rfl ?_
  refine z_astore_n (lv' := [(1, zr v1), (0, zr (some l0))]) hC (pc := 5) hL dJ1_pollLast_5 rfl (Nat.le_of_ble_eq_true rfl) rfl ?_
  refine z_aload_n hC (pc := 6) dJ1_pollLast_6 rfl 1 rfl ?_
  refine z_getI hC (pc := 7) in_J1 zcJ1 2 (Nat.le_of_ble_eq_true rfl) (zLk.o hC q178) zsm dJ1_pollLast_7 hf (fun v2 hf => ?_)
  refine z_aload_n hC (pc := 10) dJ1_pollLast_10 rfl 0 rfl ?_
  refine z_alen hC (pc := 11) dJ1_pollLast_11 hf (fun v3 hf => ?_)
  refine z_cI (rest := [zr v1]) hf (fun v4 s5 hcall => z_runS hC (pc := 12) 2 (m_J1_dec X.g v2 v3 s0 s5 v4 hcall) (lw_S q1989 q1990 q97 q1991) hd_J1_dec ⟨(Nat.le_of_ble_eq_true rfl), (Nat.le_of_ble_eq_true rfl)⟩ rfl (Nat.le_of_ble_eq_true rfl) dJ1_pollLast_12 rfl) (fun v4 s5 hf => ?_)
  refine z_dup hC (pc := 15) dJ1_pollLast_15 rfl ?_
  refine z_istore_n (lv' := [(2, zi v4), (1, zr v1), (0, zr (some l0))]) hC (pc := 16) hL dJ1_pollLast_16 rfl (Nat.le_of_ble_eq_true rfl) rfl ?_
  refine z_cR (rest := []) hf (fun v6 s7 hcall => z_runS hC (pc := 17) 2 (m_J1_elementAt X.g v1 v4 s5 s7 v6 hcall) (lw_S q1933 q1934 q97 q1935) hd_J1_elementAt ⟨(Nat.le_of_ble_eq_true rfl), (Nat.le_of_ble_eq_true rfl)⟩ rfl (Nat.le_of_ble_eq_true rfl) dJ1_pollLast_17 rfl) (fun v6 s7 hf => ?_)
  refine z_astore_n (lv' := [(3, zr v6), (2, zi v4), (1, zr v1), (0, zr (some l0))]) hC (pc := 20) hL dJ1_pollLast_20 rfl (Nat.le_of_ble_eq_true rfl) rfl ?_
  refine z_aload_n hC (pc := 21) dJ1_pollLast_21 rfl 0 rfl ?_
  refine z_ifnull hC (pc := 22) (tgt := 34) dJ1_pollLast_22 rfl (fun c8 => ?_) (fun c8 => ?_)
  · have hf := zif_t hf c8
    refine z_aload_n hC (pc := 34) dJ1_pollLast_34 rfl 0 rfl ?_
    exact z_areturn hC (pc := 35) (Or.inl ⟨_, rfl⟩) hQ dJ1_pollLast_35 hf
  · have hf := zif_f hf c8
    refine z_aload_n hC (pc := 25) dJ1_pollLast_25 rfl 2 rfl ?_
    refine z_aload_n hC (pc := 26) dJ1_pollLast_26 rfl 3 rfl ?_
    refine z_iload_n hC (pc := 27) dJ1_pollLast_27 rfl 1 rfl ?_
    refine z_dup_x1 hC (pc := 28) dJ1_pollLast_28 rfl rfl ?_
    refine z_putV (v := zi v4) hC (pc := 29) in_J1 tyJ1 tyJ1_ok nmJ1 zcJ1 2 (Nat.le_of_ble_eq_true rfl) (zLk.o hC q178) zsm (Or.inl rfl) rfl rfl dJ1_pollLast_29 hf (fun s9 hf => ?_)
    refine z_null hC (pc := 32) dJ1_pollLast_32 ?_
    refine z_aast hC (pc := 33) zok_obs dJ1_pollLast_33 hf (fun s10 hf => ?_)
    refine z_aload_n hC (pc := 34) dJ1_pollLast_34 rfl 0 rfl ?_
    exact z_areturn hC (pc := 35) (Or.inl ⟨_, rfl⟩) hQ dJ1_pollLast_35 hf
/-! java/util/ArrayDeque.removeFirst()Ljava/lang/Object; -/
def f_J1_removeFirst (G : Nat → Nat) (l0 : Nat) (s0 : zS) : Option ((Option Nat) × zS) :=
zo (zrc s0 (some l0) 13) fun _ =>
zb (f_J1_pollFirst G l0 s0) fun v3 s4 =>
if v3 = none then (none)
else (some (v3, s4))
set_option maxHeartbeats 4000000 in
theorem m_J1_removeFirst (Γ : zG) (l0 : Nat) (s0 s1 : zS) (r : (Option Nat)) (hf : f_J1_removeFirst Γ.1 l0 s0 = some (r, s1)) : ZM Γ yJ1_removeFirst (ws_ yJ1_removeFirst cJ1_removeFirst 2 (some (.object "java/lang/Object"))) 3 44 [zr (some l0)] s0 (.inl (some (zr r)), s1) := by
  refine ZM.of (own := RJ1) (by decide) rfl (Nat.le_of_ble_eq_true rfl) ?_
  intro X hg hC hL hno hQ hin
  subst hg
  unfold f_J1_removeFirst at hf
  refine z_aload_n hC (pc := 0) dJ1_removeFirst_0 rfl 0 rfl ?_
  obtain ⟨fs1, ha2, hf⟩ := z_rcN hf
  refine z_cR (rest := []) hf (fun v3 s4 hcall => z_runV hC (pc := 1) zcJ1 0 ha2 (m_J1_pollFirst X.g l0 s0 s4 v3 hcall) (lw_V q1929 q1930 q1931 q97 q1932) hdV_J1_pollFirst ⟨(Nat.le_of_ble_eq_true rfl), (Nat.le_of_ble_eq_true rfl)⟩ rfl (Nat.le_of_ble_eq_true rfl) dJ1_removeFirst_1 rfl) (fun v3 s4 hf => ?_)
  refine z_astore_n (lv' := [(1, zr v3), (0, zr (some l0))]) hC (pc := 4) hL dJ1_removeFirst_4 rfl (Nat.le_of_ble_eq_true rfl) rfl ?_
  refine z_aload_n hC (pc := 5) dJ1_removeFirst_5 rfl 0 rfl ?_
  refine z_ifnonnull hC (pc := 6) (tgt := 17) dJ1_removeFirst_6 rfl (fun c5 => ?_) (fun c5 => ?_)
  · have hf := zif_f hf c5
    refine z_aload_n hC (pc := 17) dJ1_removeFirst_17 rfl 0 rfl ?_
    exact z_areturn hC (pc := 18) (Or.inl ⟨_, rfl⟩) hQ dJ1_removeFirst_18 hf
  · have hf := zif_t hf c5
    cases hf
/-! java/util/ArrayDeque.removeLast()Ljava/lang/Object; -/
def f_J1_removeLast (G : Nat → Nat) (l0 : Nat) (s0 : zS) : Option ((Option Nat) × zS) :=
zo (zrc s0 (some l0) 13) fun _ =>
zb (f_J1_pollLast G l0 s0) fun v3 s4 =>
if v3 = none then (none)
else (some (v3, s4))
set_option maxHeartbeats 4000000 in
theorem m_J1_removeLast (Γ : zG) (l0 : Nat) (s0 s1 : zS) (r : (Option Nat)) (hf : f_J1_removeLast Γ.1 l0 s0 = some (r, s1)) : ZM Γ yJ1_removeLast (ws_ yJ1_removeLast cJ1_removeLast 2 (some (.object "java/lang/Object"))) 3 44 [zr (some l0)] s0 (.inl (some (zr r)), s1) := by
  refine ZM.of (own := RJ1) (by decide) rfl (Nat.le_of_ble_eq_true rfl) ?_
  intro X hg hC hL hno hQ hin
  subst hg
  unfold f_J1_removeLast at hf
  refine z_aload_n hC (pc := 0) dJ1_removeLast_0 rfl 0 rfl ?_
  obtain ⟨fs1, ha2, hf⟩ := z_rcN hf
  refine z_cR (rest := []) hf (fun v3 s4 hcall => z_runV hC (pc := 1) zcJ1 0 ha2 (m_J1_pollLast X.g l0 s0 s4 v3 hcall) (lw_V q1985 q1986 q1987 q97 q1988) hdV_J1_pollLast ⟨(Nat.le_of_ble_eq_true rfl), (Nat.le_of_ble_eq_true rfl)⟩ rfl (Nat.le_of_ble_eq_true rfl) dJ1_removeLast_1 rfl) (fun v3 s4 hf => ?_)
  refine z_astore_n (lv' := [(1, zr v3), (0, zr (some l0))]) hC (pc := 4) hL dJ1_removeLast_4 rfl (Nat.le_of_ble_eq_true rfl) rfl ?_
  refine z_aload_n hC (pc := 5) dJ1_removeLast_5 rfl 0 rfl ?_
  refine z_ifnonnull hC (pc := 6) (tgt := 17) dJ1_removeLast_6 rfl (fun c5 => ?_) (fun c5 => ?_)
  · have hf := zif_f hf c5
    refine z_aload_n hC (pc := 17) dJ1_removeLast_17 rfl 0 rfl ?_
    exact z_areturn hC (pc := 18) (Or.inl ⟨_, rfl⟩) hQ dJ1_removeLast_18 hf
  · have hf := zif_t hf c5
    cases hf
/-! java/util/ArrayDeque.sub(III)I -/
def f_J1_sub (G : Nat → Nat) (l0 : Int32) (l1 : Int32) (l2 : Int32) (s0 : zS) : Option (Int32 × zS) :=
if 0 ≤ (l0 - l1) then (some ((l0 - l1), s0))
else (some (((l0 - l1) + l2), s0))
set_option maxHeartbeats 4000000 in
theorem m_J1_sub (Γ : zG) (l0 : Int32) (l1 : Int32) (l2 : Int32) (s0 s1 : zS) (r : Int32) (hf : f_J1_sub Γ.1 l0 l1 l2 s0 = some (r, s1)) : ZM Γ yJ1_sub (ws_ yJ1_sub cJ1_sub 3 (some .int)) 1 0 [zi l0, zi l1, zi l2] s0 (.inl (some (zi r)), s1) := by
  refine ZM.of (own := RJ1) (by decide) rfl (Nat.le_of_ble_eq_true rfl) ?_
  intro X hg hC hL hno hQ hin
  subst hg
  unfold f_J1_sub at hf
  refine z_iload_n hC (pc := 0) dJ1_sub_0 rfl 0 rfl ?_
  refine z_iload_n hC (pc := 1) dJ1_sub_1 rfl 1 rfl ?_
  refine z_isub hC (pc := 2) dJ1_sub_2 ?_
  refine z_dup hC (pc := 3) dJ1_sub_3 rfl ?_
  refine z_istore_n (lv' := [(0, zi (l0 - l1)), (1, zi l1), (2, zi l2)]) hC (pc := 4) hL dJ1_sub_4 rfl (Nat.le_of_ble_eq_true rfl) rfl ?_
  refine z_if_ge hC (pc := 5) (tgt := 12) dJ1_sub_5 rfl (fun c1 => ?_) (fun c1 => ?_)
  · have hf := zif_t hf c1
    refine z_iload_n hC (pc := 12) dJ1_sub_12 rfl 0 rfl ?_
    exact z_ireturn hC (pc := 13) hQ dJ1_sub_13 hf
  · have hf := zif_f hf c1
    refine z_iload_n hC (pc := 8) dJ1_sub_8 rfl 0 rfl ?_
    refine z_iload_n hC (pc := 9) dJ1_sub_9 rfl 2 rfl ?_
    refine z_iadd hC (pc := 10) dJ1_sub_10 ?_
    refine z_istore_n (lv' := [(0, zi ((l0 - l1) + l2)), (1, zi l1), (2, zi l2)]) hC (pc := 11) hL dJ1_sub_11 rfl (Nat.le_of_ble_eq_true rfl) rfl ?_
    refine z_iload_n hC (pc := 12) dJ1_sub_12 rfl 0 rfl ?_
    exact z_ireturn hC (pc := 13) hQ dJ1_sub_13 hf
/-! java/util/ArrayDeque.size()I -/
def f_J1_size (G : Nat → Nat) (l0 : Nat) (s0 : zS) : Option (Int32 × zS) :=
zo (zgI s0 (some l0) 13 2) fun v1 =>
zo (zgI s0 (some l0) 13 1) fun v2 =>
zo (zgR s0 (some l0) 13 0) fun v3 =>
zo (zlen s0 v3) fun v4 =>
zb (f_J1_sub G v1 v2 v4 s0) fun v5 s6 =>
some (v5, s6)
set_option maxHeartbeats 4000000 in
theorem m_J1_size (Γ : zG) (l0 : Nat) (s0 s1 : zS) (r : Int32) (hf : f_J1_size Γ.1 l0 s0 = some (r, s1)) : ZM Γ yJ1_size (ws_ yJ1_size cJ1_size 1 (some .int)) 2 22 [zr (some l0)] s0 (.inl (some (zi r)), s1) := by
  refine ZM.of (own := RJ1) (by decide) rfl (Nat.le_of_ble_eq_true rfl) ?_
  intro X hg hC hL hno hQ hin
  subst hg
  unfold f_J1_size at hf
  refine z_aload_n hC (pc := 0) dJ1_size_0 rfl 0 rfl ?_
  refine z_getI hC (pc := 1) in_J1 zcJ1 2 (Nat.le_of_ble_eq_true rfl) (zLk.o hC q178) zsm dJ1_size_1 hf (fun v1 hf => ?_)
  refine z_aload_n hC (pc := 4) dJ1_size_4 rfl 0 rfl ?_
  refine z_getI hC (pc := 5) in_J1 zcJ1 1 (Nat.le_of_ble_eq_true rfl) (zLk.o hC q177) zsm dJ1_size_5 hf (fun v2 hf => ?_)
  refine z_aload_n hC (pc := 8) dJ1_size_8 rfl 0 rfl ?_
  refine z_getR hC (pc := 9) in_J1 zcJ1 0 (Nat.le_of_ble_eq_true rfl) (zLk.o hC q176) zsm dJ1_size_9 hf (fun v3 hf => ?_)
  refine z_alen hC (pc := 12) dJ1_size_12 hf (fun v4 hf => ?_)
  refine z_cI (rest := []) hf (fun v5 s6 hcall => z_runS hC (pc := 13) 3 (m_J1_sub X.g v1 v2 v4 s0 s6 v5 hcall) (lw_S q1922 q1923 q97 q1924) hd_J1_sub ⟨(Nat.le_of_ble_eq_true rfl), (Nat.le_of_ble_eq_true rfl)⟩ rfl (Nat.le_of_ble_eq_true rfl) dJ1_size_13 rfl) (fun v5 s6 hf => ?_)
  exact z_ireturn hC (pc := 16) hQ dJ1_size_16 hf
/-! java/lang/Integer.compare(II)I -/
def f_J20_compare (G : Nat → Nat) (l0 : Int32) (l1 : Int32) (s0 : zS) : Option (Int32 × zS) :=
if l1 ≤ l0 then (if l0 = l1 then (some (0, s0))
else (some (1, s0)))
else (some ((-1), s0))
set_option maxHeartbeats 4000000 in
theorem m_J20_compare (Γ : zG) (l0 : Int32) (l1 : Int32) (s0 s1 : zS) (r : Int32) (hf : f_J20_compare Γ.1 l0 l1 s0 = some (r, s1)) : ZM Γ yJ20_compare (ws_ yJ20_compare cJ20_compare 2 (some .int)) 1 0 [zi l0, zi l1] s0 (.inl (some (zi r)), s1) := by
  refine ZM.of (own := RJ20) (by decide) rfl (Nat.le_of_ble_eq_true rfl) ?_
  intro X hg hC hL hno hQ hin
  subst hg
  unfold f_J20_compare at hf
  refine z_iload_n hC (pc := 0) dJ20_compare_0 rfl 0 rfl ?_
  refine z_iload_n hC (pc := 1) dJ20_compare_1 rfl 1 rfl ?_
  refine z_icmp_ge hC (pc := 2) (tgt := 9) dJ20_compare_2 rfl (fun c1 => ?_) (fun c1 => ?_)
  · have hf := zif_t hf c1
    refine z_iload_n hC (pc := 9) dJ20_compare_9 rfl 0 rfl ?_
    refine z_iload_n hC (pc := 10) dJ20_compare_10 rfl 1 rfl ?_
    refine z_icmp_ne hC (pc := 11) (tgt := 18) dJ20_compare_11 rfl (fun c2 => ?_) (fun c2 => ?_)
    · have hf := zif_f hf c2
      refine z_iconst (v := 1) hC (pc := 18) dJ20_compare_18 zki_1 ?_
      exact z_ireturn hC (pc := 19) hQ dJ20_compare_19 hf
    · have hf := zif_t hf c2
      refine z_iconst (v := 0) hC (pc := 14) dJ20_compare_14 zki_0 ?_
      refine z_goto hC (pc := 15) (tgt := 19) dJ20_compare_15 rfl ?_
      exact z_ireturn hC (pc := 19) hQ dJ20_compare_19 hf
  · have hf := zif_f hf c1
    refine z_iconst (v := (-1)) hC (pc := 5) dJ20_compare_5 zki_m1 ?_
    refine z_goto hC (pc := 6) (tgt := 19) dJ20_compare_6 rfl ?_
    exact z_ireturn hC (pc := 19) hQ dJ20_compare_19 hf
/-! java/lang/Integer.compareTo(Ljava/lang/Integer;)I -/
def f_J20_compareTo_2 (G : Nat → Nat) (l0 : Nat) (l1 : Option Nat) (s0 : zS) : Option (Int32 × zS) :=
zo (zgI s0 (some l0) 18 0) fun v1 =>
zo (zgI s0 l1 18 0) fun v2 =>
zb (f_J20_compare G v1 v2 s0) fun v3 s4 =>
some (v3, s4)
set_option maxHeartbeats 4000000 in
theorem m_J20_compareTo_2 (Γ : zG) (l0 : Nat) (l1 : Option Nat) (s0 s1 : zS) (r : Int32) (hf : f_J20_compareTo_2 Γ.1 l0 l1 s0 = some (r, s1)) : ZM Γ yJ20_compareTo_2 (ws_ yJ20_compareTo_2 cJ20_compareTo_2 2 (some .int)) 2 21 [zr (some l0), zr l1] s0 (.inl (some (zi r)), s1) := by
  refine ZM.of (own := RJ20) (by decide) rfl (Nat.le_of_ble_eq_true rfl) ?_
  intro X hg hC hL hno hQ hin
  subst hg
  unfold f_J20_compareTo_2 at hf
  refine z_aload_n hC (pc := 0) dJ20_compareTo_2_0 rfl 0 rfl ?_
  refine z_getI hC (pc := 1) in_J20 zcJ20 0 (Nat.le_of_ble_eq_true rfl) (zLk.o hC q1213) zsm dJ20_compareTo_2_1 hf (fun v1 hf => ?_)
  refine z_aload_n hC (pc := 4) dJ20_compareTo_2_4 rfl 1 rfl ?_
  refine z_getI hC (pc := 5) in_J20 zcJ20 0 (Nat.le_of_ble_eq_true rfl) (zLk.o hC q1213) zsm dJ20_compareTo_2_5 hf (fun v2 hf => ?_)
  refine z_cI (rest := []) hf (fun v3 s4 hcall => z_runS hC (pc := 8) 2 (m_J20_compare X.g v1 v2 s0 s4 v3 hcall) (lw_S q1251 q1252 q125 q1253) hd_J20_compare ⟨(Nat.le_of_ble_eq_true rfl), (Nat.le_of_ble_eq_true rfl)⟩ rfl (Nat.le_of_ble_eq_true rfl) dJ20_compareTo_2_8 rfl) (fun v3 s4 hf => ?_)
  exact z_ireturn hC (pc := 11) hQ dJ20_compareTo_2_11 hf
/-! java/lang/Integer.compareTo(Ljava/lang/Object;)I -/
def f_J20_compareTo (G : Nat → Nat) (l0 : Nat) (l1 : Option Nat) (s0 : zS) : Option (Int32 × zS) :=
zo (zcst s0 l1 18) fun _ =>
zo (zrc s0 (some l0) 18) fun _ =>
zb (f_J20_compareTo_2 G l0 l1 s0) fun v3 s4 =>
some (v3, s4)
set_option maxHeartbeats 4000000 in
theorem m_J20_compareTo (Γ : zG) (l0 : Nat) (l1 : Option Nat) (s0 s1 : zS) (r : Int32) (hf : f_J20_compareTo Γ.1 l0 l1 s0 = some (r, s1)) : ZM Γ yJ20_compareTo (ws_ yJ20_compareTo cJ20_compareTo 2 (some .int)) 3 42 [zr (some l0), zr l1] s0 (.inl (some (zi r)), s1) := by
  refine ZM.of (own := RJ20) (by decide) rfl (Nat.le_of_ble_eq_true rfl) ?_
  intro X hg hC hL hno hQ hin
  subst hg
  unfold f_J20_compareTo at hf
  refine z_aload_n hC (pc := 0) dJ20_compareTo_0 rfl 0 rfl ?_
  refine z_aload_n hC (pc := 1) dJ20_compareTo_1 rfl 1 rfl ?_
  refine z_cast hC (pc := 2) zcJ20 q1204 (Or.inl rfl) dJ20_compareTo_2 hf (fun hf => ?_)
  obtain ⟨fs1, ha2, hf⟩ := z_rcN hf
  refine z_cI (rest := []) hf (fun v3 s4 hcall => z_runV hC (pc := 5) zcJ20 1 ha2 (m_J20_compareTo_2 X.g l0 l1 s0 s4 v3 hcall) (lw_V q1247 q1248 q1249 q125 q1250) hdV_J20_compareTo_2 ⟨(Nat.le_of_ble_eq_true rfl), (Nat.le_of_ble_eq_true rfl)⟩ rfl (Nat.le_of_ble_eq_true rfl) dJ20_compareTo_5 rfl) (fun v3 s4 hf => ?_)
  exact z_ireturn hC (pc := 8) hQ dJ20_compareTo_8 hf
/-! java/lang/Integer.<init>(I)V -/
def f_J20_init (G : Nat → Nat) (l0 : Nat) (l1 : Int32) (s0 : zS) : Option (Unit × zS) :=
zb (f_J19_init_J20 G l0 s0) fun _ s2 =>
zo (zput G s2 (some l0) 18 0 (.int l1)) fun s3 =>
some ((), s3)
set_option maxHeartbeats 4000000 in
theorem m_J20_init (Γ : zG) (l0 : Nat) (l1 : Int32) (s0 s1 : zS) (r : Unit) (hf : f_J20_init Γ.1 l0 l1 s0 = some (r, s1)) : ZM Γ yJ20_init (ws_ yJ20_init cJ20_init 2 none) 2 32 [zr (some l0), zi l1] s0 (.inl none, s1) := by
  refine ZM.of (own := RJ20) (by decide) rfl (Nat.le_of_ble_eq_true rfl) ?_
  intro X hg hC hL hno hQ hin
  subst hg
  unfold f_J20_init at hf
  refine z_aload_n hC (pc := 0) dJ20_init_0 rfl 0 rfl ?_
  refine z_cU (rest := []) hf (fun v1 s2 hcall => z_runI hC (pc := 1) 0 (m_J19_init_J20 X.g l0 s0 s2 v1 hcall) q1211 rfl q124 q1209 q1210 hd_J19_init ⟨(Nat.le_of_ble_eq_true rfl), (Nat.le_of_ble_eq_true rfl)⟩ rfl (Nat.le_of_ble_eq_true rfl) dJ20_init_1 rfl) (fun _ s2 hf => ?_)
  refine z_aload_n hC (pc := 4) dJ20_init_4 rfl 0 rfl ?_
  refine z_iload_n hC (pc := 5) dJ20_init_5 rfl 1 rfl ?_
  refine z_putV (v := zi l1) hC (pc := 6) in_J20 tyJ20 tyJ20_ok nmJ20 zcJ20 0 (Nat.le_of_ble_eq_true rfl) (zLk.o hC q1213) zsm (Or.inr ⟨rfl, hin, rfl, rfl⟩) rfl rfl dJ20_init_6 hf (fun s3 hf => ?_)
  exact z_return hC (pc := 9) hQ dJ20_init_9 hf
/-! java/lang/Integer.intValue()I -/
def f_J20_intValue (G : Nat → Nat) (l0 : Nat) (s0 : zS) : Option (Int32 × zS) :=
zo (zgI s0 (some l0) 18 0) fun v1 =>
some (v1, s0)
set_option maxHeartbeats 4000000 in
theorem m_J20_intValue (Γ : zG) (l0 : Nat) (s0 s1 : zS) (r : Int32) (hf : f_J20_intValue Γ.1 l0 s0 = some (r, s1)) : ZM Γ yJ20_intValue (ws_ yJ20_intValue cJ20_intValue 1 (some .int)) 1 0 [zr (some l0)] s0 (.inl (some (zi r)), s1) := by
  refine ZM.of (own := RJ20) (by decide) rfl (Nat.le_of_ble_eq_true rfl) ?_
  intro X hg hC hL hno hQ hin
  subst hg
  unfold f_J20_intValue at hf
  refine z_aload_n hC (pc := 0) dJ20_intValue_0 rfl 0 rfl ?_
  refine z_getI hC (pc := 1) in_J20 zcJ20 0 (Nat.le_of_ble_eq_true rfl) (zLk.o hC q1213) zsm dJ20_intValue_1 hf (fun v1 hf => ?_)
  exact z_ireturn hC (pc := 4) hQ dJ20_intValue_4 hf
/-! java/lang/Integer.valueOf(I)Ljava/lang/Integer; -/
def f_J20_valueOf_b23 (G : Nat → Nat) (l0 : Int32) (s0 : zS) : Option ((Option Nat) × zS) :=
zb (znewO G s0 18 1 [.int 0]) fun a1 s2 =>
zb (f_J20_init G a1 l0 s2) fun _ s4 =>
some ((some a1), s4)
set_option maxHeartbeats 4000000 in
theorem w_J20_valueOf_b23 {X : zX} (hC : ZC X RJ20 cJ20_valueOf (some (.object "java/lang/Integer")) 3 53) (hL : X.nL = 1) (hno : ∀ x ∈ X.c.exceptionTable.toList, False) {r : (Option Nat)} {sF : zS} (hQ : ZQ X (.inl (some (zr r)), sF)) (l0 : Int32) (s0 : zS) (hf : f_J20_valueOf_b23 X.g.1 l0 s0 = some (r, sF)) : ZW X s0 23 [(0, zi l0)] [] := by
  unfold f_J20_valueOf_b23 at hf
  refine z_new hC (pc := 23) in_J20 tyJ20 tyJ20_ok zcJ20 q1204 q1205 q125 rfl zdJ20 dJ20_valueOf_23 hf (fun a1 s2 hf => ?_)
  refine z_dup hC (pc := 26) dJ20_valueOf_26 rfl ?_
  refine z_iload_n hC (pc := 27) dJ20_valueOf_27 rfl 0 rfl ?_
  refine z_cU (rest := [zr (some a1)]) hf (fun v3 s4 hcall => z_runI hC (pc := 28) 1 (m_J20_init X.g a1 l0 s2 s4 v3 hcall) q1208 rfl q125 q1206 q1207 hd_J20_init ⟨(Nat.le_of_ble_eq_true rfl), (Nat.le_of_ble_eq_true rfl)⟩ rfl (Nat.le_of_ble_eq_true rfl) dJ20_valueOf_28 rfl) (fun _ s4 hf => ?_)
  exact z_areturn hC (pc := 31) (Or.inl ⟨_, rfl⟩) hQ dJ20_valueOf_31 hf
def f_J20_valueOf (G : Nat → Nat) (l0 : Int32) (s0 : zS) : Option ((Option Nat) × zS) :=
if l0 < (-128) then (f_J20_valueOf_b23 G l0 s0)
else (if 127 < l0 then (f_J20_valueOf_b23 G l0 s0)
else (zo (zaR s0 (some (G 4)) (l0 + 128)) fun v3 =>
some (v3, s0)))
set_option maxHeartbeats 4000000 in
theorem m_J20_valueOf (Γ : zG) (l0 : Int32) (s0 s1 : zS) (r : (Option Nat)) (hf : f_J20_valueOf Γ.1 l0 s0 = some (r, s1)) : ZM Γ yJ20_valueOf (ws_ yJ20_valueOf cJ20_valueOf 1 (some (.object "java/lang/Integer"))) 3 53 [zi l0] s0 (.inl (some (zr r)), s1) := by
  refine ZM.of (own := RJ20) (by decide) rfl (Nat.le_of_ble_eq_true rfl) ?_
  intro X hg hC hL hno hQ hin
  subst hg
  unfold f_J20_valueOf at hf
  refine z_iload_n hC (pc := 0) dJ20_valueOf_0 rfl 0 rfl ?_
  refine z_bipush (v := (-128)) hC (pc := 1) dJ20_valueOf_1 zkb_m128 ?_
  refine z_icmp_lt hC (pc := 3) (tgt := 23) dJ20_valueOf_3 rfl (fun c1 => ?_) (fun c1 => ?_)
  · have hf := zif_t hf c1
    exact w_J20_valueOf_b23 hC hL hno hQ l0 s0 hf
  · have hf := zif_f hf c1
    refine z_iload_n hC (pc := 6) dJ20_valueOf_6 rfl 0 rfl ?_
    refine z_gets (v := zi 127) hC (pc := 7) (List.mem_of_getElem? (i := 1) rfl) q1200 dJ20_valueOf_7 ?_
    refine z_icmp_gt hC (pc := 10) (tgt := 23) dJ20_valueOf_10 rfl (fun c2 => ?_) (fun c2 => ?_)
    · have hf := zif_t hf c2
      exact w_J20_valueOf_b23 hC hL hno hQ l0 s0 hf
    · have hf := zif_f hf c2
      refine z_gets (v := zr (some (X.g.1 4))) hC (pc := 13) (List.mem_of_getElem? (i := 2) rfl) q1202 dJ20_valueOf_13 ?_
      refine z_iload_n hC (pc := 16) dJ20_valueOf_16 rfl 0 rfl ?_
      refine z_sipush (v := 128) hC (pc := 17) dJ20_valueOf_17 zks_128 ?_
      refine z_iadd hC (pc := 20) dJ20_valueOf_20 ?_
      refine z_aald hC (pc := 21) dJ20_valueOf_21 hf (fun v3 hf => ?_)
      exact z_areturn hC (pc := 22) (Or.inl ⟨_, rfl⟩) hQ dJ20_valueOf_22 hf
/-! java/util/ImmutableCollections$AbstractImmutableCollection.<init>()V -/
def f_J30_init_J33 (G : Nat → Nat) (l0 : Nat) (s0 : zS) : Option (Unit × zS) :=
zb (f_J0_init_J33 G l0 s0) fun _ s2 =>
some ((), s2)
set_option maxHeartbeats 4000000 in
theorem m_J30_init_J33 (Γ : zG) (l0 : Nat) (s0 s1 : zS) (r : Unit) (hf : f_J30_init_J33 Γ.1 l0 s0 = some (r, s1)) : ZM Γ yJ30_init (ws_ yJ30_init cJ30_init 1 none) 2 32 [zr (some l0)] s0 (.inl none, s1) := by
  refine ZM.of (own := RJ30) (by decide) rfl (Nat.le_of_ble_eq_true rfl) ?_
  intro X hg hC hL hno hQ hin
  subst hg
  unfold f_J30_init_J33 at hf
  refine z_aload_n hC (pc := 0) dJ30_init_0 rfl 0 rfl ?_
  refine z_cU (rest := []) hf (fun v1 s2 hcall => z_runI hC (pc := 1) 0 (m_J0_init_J33 X.g l0 s0 s2 v1 hcall) q172 rfl q96 q2328 q171 hd_J0_init ⟨(Nat.le_of_ble_eq_true rfl), (Nat.le_of_ble_eq_true rfl)⟩ rfl (Nat.le_of_ble_eq_true rfl) dJ30_init_1 rfl) (fun _ s2 hf => ?_)
  exact z_return hC (pc := 4) hQ dJ30_init_4 hf
/-! java/util/ImmutableCollections$AbstractImmutableList.<init>()V -/
def f_J31_init_J33 (G : Nat → Nat) (l0 : Nat) (s0 : zS) : Option (Unit × zS) :=
zb (f_J30_init_J33 G l0 s0) fun _ s2 =>
some ((), s2)
set_option maxHeartbeats 4000000 in
theorem m_J31_init_J33 (Γ : zG) (l0 : Nat) (s0 s1 : zS) (r : Unit) (hf : f_J31_init_J33 Γ.1 l0 s0 = some (r, s1)) : ZM Γ yJ31_init (ws_ yJ31_init cJ31_init 1 none) 3 52 [zr (some l0)] s0 (.inl none, s1) := by
  refine ZM.of (own := RJ31) (by decide) rfl (Nat.le_of_ble_eq_true rfl) ?_
  intro X hg hC hL hno hQ hin
  subst hg
  unfold f_J31_init_J33 at hf
  refine z_aload_n hC (pc := 0) dJ31_init_0 rfl 0 rfl ?_
  refine z_cU (rest := []) hf (fun v1 s2 hcall => z_runI hC (pc := 1) 0 (m_J30_init_J33 X.g l0 s0 s2 v1 hcall) q2327 rfl q140 q2325 q2326 hd_J30_init ⟨(Nat.le_of_ble_eq_true rfl), (Nat.le_of_ble_eq_true rfl)⟩ rfl (Nat.le_of_ble_eq_true rfl) dJ31_init_1 rfl) (fun _ s2 hf => ?_)
  exact z_return hC (pc := 4) hQ dJ31_init_4 hf
/-! java/util/ImmutableCollections$ListN.<init>([Ljava/lang/Object;Z)V -/
def f_J33_init (G : Nat → Nat) (l0 : Nat) (l1 : Option Nat) (l2 : Int32) (s0 : zS) : Option (Unit × zS) :=
zb (f_J31_init_J33 G l0 s0) fun _ s2 =>
zo (zput G s2 (some l0) 22 0 (va_rf l1)) fun s3 =>
zo (zputN G s3 (some l0) 22 1 .boolean l2) fun s4 =>
some ((), s4)
set_option maxHeartbeats 4000000 in
theorem m_J33_init (Γ : zG) (l0 : Nat) (l1 : Option Nat) (l2 : Int32) (s0 s1 : zS) (r : Unit) (hf : f_J33_init Γ.1 l0 l1 l2 s0 = some (r, s1)) : ZM Γ yJ33_init (ws_ yJ33_init cJ33_init 3 none) 4 72 [zr (some l0), zr l1, zi l2] s0 (.inl none, s1) := by
  refine ZM.of (own := RJ33) (by decide) rfl (Nat.le_of_ble_eq_true rfl) ?_
  intro X hg hC hL hno hQ hin
  subst hg
  unfold f_J33_init at hf
  refine z_aload_n hC (pc := 0) dJ33_init_0 rfl 0 rfl ?_
  refine z_cU (rest := []) hf (fun v1 s2 hcall => z_runI hC (pc := 1) 0 (m_J31_init_J33 X.g l0 s0 s2 v1 hcall) q2324 rfl q141 q2345 q2323 hd_J31_init ⟨(Nat.le_of_ble_eq_true rfl), (Nat.le_of_ble_eq_true rfl)⟩ rfl (Nat.le_of_ble_eq_true rfl) dJ33_init_1 rfl) (fun _ s2 hf => ?_)
  refine z_aload_n hC (pc := 4) dJ33_init_4 rfl 0 rfl ?_
  refine z_aload_n hC (pc := 5) dJ33_init_5 rfl 1 rfl ?_
  refine z_putV (v := zr l1) hC (pc := 6) in_J33 tyJ33 tyJ33_ok nmJ33 zcJ33 0 (Nat.le_of_ble_eq_true rfl) (zLk.o hC q2346) zsm (Or.inr ⟨rfl, hin, rfl, rfl⟩) rfl (zfa l1) dJ33_init_6 hf (fun s3 hf => ?_)
  refine z_aload_n hC (pc := 9) dJ33_init_9 rfl 0 rfl ?_
  refine z_iload_n hC (pc := 10) dJ33_init_10 rfl 2 rfl ?_
  refine z_putN hC (pc := 11) in_J33 tyJ33 tyJ33_ok nmJ33 zcJ33 1 (Nat.le_of_ble_eq_true rfl) (zLk.o hC q2347) zsm (Or.inr ⟨rfl, hin, rfl, rfl⟩) (Or.inl rfl) dJ33_init_11 hf (fun s4 hf => ?_)
  exact z_return hC (pc := 14) hQ dJ33_init_14 hf
/-! java/util/Objects.requireNonNull(Ljava/lang/Object;)Ljava/lang/Object; -/
def f_J28_requireNonNull (G : Nat → Nat) (l0 : Option Nat) (s0 : zS) : Option ((Option Nat) × zS) :=
if l0 = none then (none)
else (some (l0, s0))
set_option maxHeartbeats 4000000 in
theorem m_J28_requireNonNull (Γ : zG) (l0 : Option Nat) (s0 s1 : zS) (r : (Option Nat)) (hf : f_J28_requireNonNull Γ.1 l0 s0 = some (r, s1)) : ZM Γ yJ28_requireNonNull (ws_ yJ28_requireNonNull cJ28_requireNonNull 1 (some (.object "java/lang/Object"))) 1 0 [zr l0] s0 (.inl (some (zr r)), s1) := by
  refine ZM.of (own := RJ28) (by decide) rfl (Nat.le_of_ble_eq_true rfl) ?_
  intro X hg hC hL hno hQ hin
  subst hg
  unfold f_J28_requireNonNull at hf
  refine z_aload_n hC (pc := 0) dJ28_requireNonNull_0 rfl 0 rfl ?_
  refine z_ifnonnull hC (pc := 1) (tgt := 12) dJ28_requireNonNull_1 rfl (fun c1 => ?_) (fun c1 => ?_)
  · have hf := zif_f hf c1
    refine z_aload_n hC (pc := 12) dJ28_requireNonNull_12 rfl 0 rfl ?_
    exact z_areturn hC (pc := 13) (Or.inl ⟨_, rfl⟩) hQ dJ28_requireNonNull_13 hf
  · have hf := zif_t hf c1
    cases hf
