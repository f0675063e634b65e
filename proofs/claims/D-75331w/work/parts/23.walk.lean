set_option maxRecDepth 100000
/-! java/util/TreeMap.compare(Ljava/lang/Object;Ljava/lang/Object;)I -/
def f_J3_compare (G : Nat → Nat) (l0 : Nat) (l1 : Option Nat) (l2 : Option Nat) (s0 : zS) : Option (Int32 × zS) :=
zo (zgR s0 (some l0) 14 2) fun v1 =>
if v1 = none then (zo (zcst s0 l1 18) fun _ =>
zo (zrc s0 l1 18) fun a6 =>
zb (f_J20_compareTo G a6 l2 s0) fun v7 s8 =>
some (v7, s8))
else (zo (zgR s0 (some l0) 14 2) fun v3 =>
none)
set_option maxHeartbeats 4000000 in
theorem m_J3_compare (Γ : zG) (l0 : Nat) (l1 : Option Nat) (l2 : Option Nat) (s0 s1 : zS) (r : Int32) (hf : f_J3_compare Γ.1 l0 l1 l2 s0 = some (r, s1)) : ZM Γ yJ3_compare (ws_ yJ3_compare cJ3_compare 3 (some .int)) 4 63 [zr (some l0), zr l1, zr l2] s0 (.inl (some (zi r)), s1) := by
  refine ZM.of (own := RJ3) (by decide) rfl (Nat.le_of_ble_eq_true rfl) ?_
  intro X hg hC hL hno hQ hin
  subst hg
  unfold f_J3_compare at hf
  refine z_aload_n hC (pc := 0) dJ3_compare_0 rfl 0 rfl ?_
  refine z_getR hC (pc := 1) in_J3 zcJ3 2 (Nat.le_of_ble_eq_true rfl) (zLk.o hC q240) zsm dJ3_compare_1 hf (fun v1 hf => ?_)
  refine z_ifnonnull hC (pc := 4) (tgt := 20) dJ3_compare_4 rfl (fun c2 => ?_) (fun c2 => ?_)
  · have hf := zif_f hf c2
    refine z_aload_n hC (pc := 20) dJ3_compare_20 rfl 0 rfl ?_
    refine z_getR hC (pc := 21) in_J3 zcJ3 2 (Nat.le_of_ble_eq_true rfl) (zLk.o hC q240) zsm dJ3_compare_21 hf (fun v3 hf => ?_)
    refine z_aload_n hC (pc := 24) dJ3_compare_24 rfl 1 rfl ?_
    refine z_aload_n hC (pc := 25) dJ3_compare_25 rfl 2 rfl ?_
    cases hf
  · have hf := zif_t hf c2
    refine z_aload_n hC (pc := 7) dJ3_compare_7 rfl 1 rfl ?_
    refine z_cast hC (pc := 8) zcJ20 q1236 (Or.inr q1241) dJ3_compare_8 hf (fun hf => ?_)
    refine z_aload_n hC (pc := 11) dJ3_compare_11 rfl 2 rfl ?_
    obtain ⟨a6, fs4, rfl, ha5, hf⟩ := z_rcO hf
    refine z_cI5 (rest := []) hf (fun v7 s8 hcall => z_runF hC (pc := 12) zcJ20 1 ha5 (m_J20_compareTo X.g a6 l2 s0 s8 v7 hcall) (lw_app (zm4 q1238 q1242 q1244 q125) (lw_meth q1246)) q1240 q1239 q1245 q1243 q1241 (by decide +kernel) ⟨(Nat.le_of_ble_eq_true rfl), (Nat.le_of_ble_eq_true rfl)⟩ rfl (Nat.le_of_ble_eq_true rfl) dJ3_compare_12 rfl) (fun v7 s8 hf => ?_)
    refine z_goto hC (pc := 17) (tgt := 31) dJ3_compare_17 rfl ?_
    exact z_ireturn hC (pc := 31) hQ dJ3_compare_31 hf
/-! java/util/TreeMap.addEntryToEmptyMap(Ljava/lang/Object;Ljava/lang/Object;)V -/
def f_J3_addEntryToEmptyMap (G : Nat → Nat) (l0 : Nat) (l1 : Option Nat) (l2 : Option Nat) (s0 : zS) : Option (Unit × zS) :=
zo (zrc s0 (some l0) 14) fun _ =>
zb (f_J3_compare G l0 l1 l1 s0) fun v3 s4 =>
zb (znewO G s4 21 6 [.null, .null, .null, .null, .null, .int 0]) fun a5 s6 =>
zb (f_J27_init G a5 l1 l2 none s6) fun _ s8 =>
zo (zput G s8 (some l0) 14 3 (va_rf (some a5))) fun s9 =>
zo (zput G s9 (some l0) 14 4 (.int 1)) fun s10 =>
zo (zgI s10 (some l0) 14 5) fun v11 =>
zo (zput G s10 (some l0) 14 5 (.int (v11 + 1))) fun s12 =>
some ((), s12)
set_option maxHeartbeats 4000000 in
theorem m_J3_addEntryToEmptyMap (Γ : zG) (l0 : Nat) (l1 : Option Nat) (l2 : Option Nat) (s0 s1 : zS) (r : Unit) (hf : f_J3_addEntryToEmptyMap Γ.1 l0 l1 l2 s0 = some (r, s1)) : ZM Γ yJ3_addEntryToEmptyMap (ws_ yJ3_addEntryToEmptyMap cJ3_addEntryToEmptyMap 3 none) 5 85 [zr (some l0), zr l1, zr l2] s0 (.inl none, s1) := by
  refine ZM.of (own := RJ3) (by decide) rfl (Nat.le_of_ble_eq_true rfl) ?_
  intro X hg hC hL hno hQ hin
  subst hg
  unfold f_J3_addEntryToEmptyMap at hf
  refine z_aload_n hC (pc := 0) dJ3_addEntryToEmptyMap_0 rfl 0 rfl ?_
  refine z_aload_n hC (pc := 1) dJ3_addEntryToEmptyMap_1 rfl 1 rfl ?_
  refine z_aload_n hC (pc := 2) dJ3_addEntryToEmptyMap_2 rfl 1 rfl ?_
  obtain ⟨fs1, ha2, hf⟩ := z_rcN hf
  refine z_cI (rest := []) hf (fun v3 s4 hcall => z_runV hC (pc := 3) zcJ3 2 ha2 (m_J3_compare X.g l0 l1 l1 s0 s4 v3 hcall) (lw_V q2213 q2214 q2215 q102 q2216) hdV_J3_compare ⟨(Nat.le_of_ble_eq_true rfl), (Nat.le_of_ble_eq_true rfl)⟩ rfl (Nat.le_of_ble_eq_true rfl) dJ3_addEntryToEmptyMap_3 rfl) (fun v3 s4 hf => ?_)
  refine z_pop hC (pc := 6) dJ3_addEntryToEmptyMap_6 rfl ?_
  refine z_aload_n hC (pc := 7) dJ3_addEntryToEmptyMap_7 rfl 0 rfl ?_
  refine z_new hC (pc := 8) in_J27 tyJ27 tyJ27_ok zcJ27 q2217 q2218 q136 rfl zdJ27 dJ3_addEntryToEmptyMap_8 hf (fun a5 s6 hf => ?_)
  refine z_dup hC (pc := 11) dJ3_addEntryToEmptyMap_11 rfl ?_
  refine z_aload_n hC (pc := 12) dJ3_addEntryToEmptyMap_12 rfl 1 rfl ?_
  refine z_aload_n hC (pc := 13) dJ3_addEntryToEmptyMap_13 rfl 2 rfl ?_
  refine z_null hC (pc := 14) dJ3_addEntryToEmptyMap_14 ?_
  refine z_cU (rest := [zr (some a5), zr (some l0)]) hf (fun v7 s8 hcall => z_runI hC (pc := 15) 3 (m_J27_init X.g a5 l1 l2 none s6 s8 v7 hcall) q2221 rfl q136 q2219 q2220 hd_J27_init ⟨(Nat.le_of_ble_eq_true rfl), (Nat.le_of_ble_eq_true rfl)⟩ rfl (Nat.le_of_ble_eq_true rfl) dJ3_addEntryToEmptyMap_15 rfl) (fun _ s8 hf => ?_)
  refine z_putV (v := zr (some a5)) hC (pc := 18) in_J3 tyJ3 tyJ3_ok nmJ3 zcJ3 3 (Nat.le_of_ble_eq_true rfl) (zLk.o hC q241) zsm (Or.inl rfl) rfl (zfr (some a5)) dJ3_addEntryToEmptyMap_18 hf (fun s9 hf => ?_)
  refine z_aload_n hC (pc := 21) dJ3_addEntryToEmptyMap_21 rfl 0 rfl ?_
  refine z_iconst (v := 1) hC (pc := 22) dJ3_addEntryToEmptyMap_22 zki_1 ?_
  refine z_putV (v := zi 1) hC (pc := 23) in_J3 tyJ3 tyJ3_ok nmJ3 zcJ3 4 (Nat.le_of_ble_eq_true rfl) (zLk.o hC q242) zsm (Or.inl rfl) rfl rfl dJ3_addEntryToEmptyMap_23 hf (fun s10 hf => ?_)
  refine z_aload_n hC (pc := 26) dJ3_addEntryToEmptyMap_26 rfl 0 rfl ?_
  refine z_dup hC (pc := 27) dJ3_addEntryToEmptyMap_27 rfl ?_
  refine z_getI hC (pc := 28) in_J3 zcJ3 5 (Nat.le_of_ble_eq_true rfl) (zLk.o hC q243) zsm dJ3_addEntryToEmptyMap_28 hf (fun v11 hf => ?_)
  refine z_iconst (v := 1) hC (pc := 31) dJ3_addEntryToEmptyMap_31 zki_1 ?_
  refine z_iadd hC (pc := 32) dJ3_addEntryToEmptyMap_32 ?_
  refine z_putV (v := zi (v11 + 1)) hC (pc := 33) in_J3 tyJ3 tyJ3_ok nmJ3 zcJ3 5 (Nat.le_of_ble_eq_true rfl) (zLk.o hC q243) zsm (Or.inl rfl) rfl rfl dJ3_addEntryToEmptyMap_33 hf (fun s12 hf => ?_)
  exact z_return hC (pc := 36) hQ dJ3_addEntryToEmptyMap_36 hf
/-! java/util/TreeMap.getEntry(Ljava/lang/Object;)Ljava/util/TreeMap$Entry; -/
def f_J3_getEntry_b72 (G : Nat → Nat) (k28 : Option Nat → Option Nat → zS → Option ((Option Nat) × zS)) (l2 : Option Nat) (l3 : Option Nat) (s0 : zS) : Option ((Option Nat) × zS) :=
k28 l2 l3 s0
set_option maxHeartbeats 4000000 in
theorem w_J3_getEntry_b72 {X : zX} (hC : ZC X RJ3 cJ3_getEntry (some (.object "java/util/TreeMap$Entry")) 4 63) (hL : X.nL = 5) (hno : ∀ x ∈ X.c.exceptionTable.toList, False) {r : (Option Nat)} {sF : zS} (hQ : ZQ X (.inl (some (zr r)), sF)) (k28 : Option Nat → Option Nat → zS → Option ((Option Nat) × zS)) (hk28 : ∀ (l2 : Option Nat) (l3 : Option Nat) (s0 : zS), k28 l2 l3 s0 = some (r, sF) → ZW X s0 28 [(2, zr l2), (3, zr l3)] []) (l2 : Option Nat) (l3 : Option Nat) (s0 : zS) (hf : f_J3_getEntry_b72 X.g.1 k28 l2 l3 s0 = some (r, sF)) : ZW X s0 72 [(2, zr l2), (3, zr l3)] [] := by
  unfold f_J3_getEntry_b72 at hf
  refine z_goto hC (pc := 72) (tgt := 28) dJ3_getEntry_72 rfl ?_
  exact hk28 l2 l3 s0 hf
def f_J3_getEntry_b28 (G : Nat → Nat) (k28 : Option Nat → Option Nat → zS → Option ((Option Nat) × zS)) (l2 : Option Nat) (l3 : Option Nat) (s0 : zS) : Option ((Option Nat) × zS) :=
if l3 = none then (some (none, s0))
else (zo (zgR s0 l3 21 0) fun v2 =>
zo (zrc s0 l2 18) fun a5 =>
zb (f_J20_compareTo G a5 v2 s0) fun v6 s7 =>
if 0 ≤ v6 then (if v6 ≤ 0 then (some (l3, s7))
else (zo (zgR s7 l3 21 3) fun v10 =>
f_J3_getEntry_b72 G k28 (some a5) v10 s7))
else (zo (zgR s7 l3 21 2) fun v11 =>
f_J3_getEntry_b72 G k28 (some a5) v11 s7))
set_option maxHeartbeats 4000000 in
theorem w_J3_getEntry_b28 {X : zX} (hC : ZC X RJ3 cJ3_getEntry (some (.object "java/util/TreeMap$Entry")) 4 63) (hL : X.nL = 5) (hno : ∀ x ∈ X.c.exceptionTable.toList, False) {r : (Option Nat)} {sF : zS} (hQ : ZQ X (.inl (some (zr r)), sF)) (k28 : Option Nat → Option Nat → zS → Option ((Option Nat) × zS)) (hk28 : ∀ (l2 : Option Nat) (l3 : Option Nat) (s0 : zS), k28 l2 l3 s0 = some (r, sF) → ZW X s0 28 [(2, zr l2), (3, zr l3)] []) (l2 : Option Nat) (l3 : Option Nat) (s0 : zS) (hf : f_J3_getEntry_b28 X.g.1 k28 l2 l3 s0 = some (r, sF)) : ZW X s0 28 [(2, zr l2), (3, zr l3)] [] := by
  unfold f_J3_getEntry_b28 at hf
  refine z_aload_n hC (pc := 28) dJ3_getEntry_28 rfl 1 rfl ?_
  refine z_ifnull hC (pc := 29) (tgt := 75) dJ3_getEntry_29 rfl (fun c1 => ?_) (fun c1 => ?_)
  · have hf := zif_t hf c1
    refine z_null hC (pc := 75) dJ3_getEntry_75 ?_
    exact z_areturn hC (pc := 76) (Or.inl ⟨_, rfl⟩) hQ dJ3_getEntry_76 hf
  · have hf := zif_f hf c1
    refine z_aload_n hC (pc := 32) dJ3_getEntry_32 rfl 0 rfl ?_
    refine z_aload_n hC (pc := 33) dJ3_getEntry_33 rfl 1 rfl ?_
    refine z_getR hC (pc := 34) in_J27 zcJ27 0 (Nat.le_of_ble_eq_true rfl) (zLk.o hC q2224) zsm dJ3_getEntry_34 hf (fun v2 hf => ?_)
    obtain ⟨a5, fs3, rfl, ha4, hf⟩ := z_rcO hf
    refine z_cI5 (rest := []) hf (fun v6 s7 hcall => z_runF hC (pc := 37) zcJ20 1 ha4 (m_J20_compareTo X.g a5 v2 s0 s7 v6 hcall) (lw_app (zm4 q1238 q1242 q1244 q125) (lw_meth q1246)) q1240 q1239 q1245 q1243 q1241 (by decide +kernel) ⟨(Nat.le_of_ble_eq_true rfl), (Nat.le_of_ble_eq_true rfl)⟩ rfl (Nat.le_of_ble_eq_true rfl) dJ3_getEntry_37 rfl) (fun v6 s7 hf => ?_)
    refine z_istore (lv' := [(4, zi v6), (2, zr (some a5)), (3, zr l3)]) hC (pc := 42) hL dJ3_getEntry_42 (Nat.le_of_ble_eq_true rfl) rfl ?_
    refine z_iload hC (pc := 44) dJ3_getEntry_44 0 rfl ?_
    refine z_if_ge hC (pc := 46) (tgt := 57) dJ3_getEntry_46 rfl (fun c8 => ?_) (fun c8 => ?_)
    · have hf := zif_t hf c8
      refine z_iload hC (pc := 57) dJ3_getEntry_57 0 rfl ?_
      refine z_if_le hC (pc := 59) (tgt := 70) dJ3_getEntry_59 rfl (fun c9 => ?_) (fun c9 => ?_)
      · have hf := zif_t hf c9
        refine z_aload_n hC (pc := 70) dJ3_getEntry_70 rfl 2 rfl ?_
        exact z_areturn hC (pc := 71) (Or.inl ⟨_, rfl⟩) hQ dJ3_getEntry_71 hf
      · have hf := zif_f hf c9
        refine z_aload_n hC (pc := 62) dJ3_getEntry_62 rfl 2 rfl ?_
        refine z_getR hC (pc := 63) in_J27 zcJ27 3 (Nat.le_of_ble_eq_true rfl) (zLk.o hC q2228) zsm dJ3_getEntry_63 hf (fun v10 hf => ?_)
        refine z_astore_n (lv' := [(3, zr v10), (4, zi v6), (2, zr (some a5))]) hC (pc := 66) hL dJ3_getEntry_66 rfl (Nat.le_of_ble_eq_true rfl) rfl ?_
        refine z_goto hC (pc := 67) (tgt := 72) dJ3_getEntry_67 rfl ?_
        refine ZW.perm (lv' := [(2, zr (some a5)), (3, zr v10)]) [2, 0] rfl ?_
        exact w_J3_getEntry_b72 hC hL hno hQ k28 hk28 (some a5) v10 s7 hf
    · have hf := zif_f hf c8
      refine z_aload_n hC (pc := 49) dJ3_getEntry_49 rfl 2 rfl ?_
      refine z_getR hC (pc := 50) in_J27 zcJ27 2 (Nat.le_of_ble_eq_true rfl) (zLk.o hC q2227) zsm dJ3_getEntry_50 hf (fun v11 hf => ?_)
      refine z_astore_n (lv' := [(3, zr v11), (4, zi v6), (2, zr (some a5))]) hC (pc := 53) hL dJ3_getEntry_53 rfl (Nat.le_of_ble_eq_true rfl) rfl ?_
      refine z_goto hC (pc := 54) (tgt := 72) dJ3_getEntry_54 rfl ?_
      refine ZW.perm (lv' := [(2, zr (some a5)), (3, zr v11)]) [2, 0] rfl ?_
      exact w_J3_getEntry_b72 hC hL hno hQ k28 hk28 (some a5) v11 s7 hf
def f_J3_getEntry_l28 (G : Nat → Nat) : Nat → Option Nat → Option Nat → zS → Option ((Option Nat) × zS)
  | 0 => fun _ _ _ => none
  | n + 1 => f_J3_getEntry_b28 G (f_J3_getEntry_l28 G n)
theorem w_J3_getEntry_l28 {X : zX} (hC : ZC X RJ3 cJ3_getEntry (some (.object "java/util/TreeMap$Entry")) 4 63) (hL : X.nL = 5) (hno : ∀ x ∈ X.c.exceptionTable.toList, False) {r : (Option Nat)} {sF : zS} (hQ : ZQ X (.inl (some (zr r)), sF)) : ∀ (n : Nat) (l2 : Option Nat) (l3 : Option Nat) (s0 : zS) (_ : f_J3_getEntry_l28 X.g.1 n l2 l3 s0 = some (r, sF)), ZW X s0 28 [(2, zr l2), (3, zr l3)] [] := by
  intro n
  induction n with
  | zero => intro l2 l3 s0 hf; exact absurd (show (none : Option ((Option Nat) × zS)) = some (r, sF) from hf) (fun z => nomatch z)
  | succ n ih => intro l2 l3 s0 hf; exact w_J3_getEntry_b28 hC hL hno hQ (f_J3_getEntry_l28 X.g.1 n) ih l2 l3 s0 hf
def f_J3_getEntry (G : Nat → Nat) (l0 : Nat) (l1 : Option Nat) (s0 : zS) : Option ((Option Nat) × zS) :=
zo (zgR s0 (some l0) 14 2) fun v1 =>
if v1 = none then (zb (f_J28_requireNonNull G l1 s0) fun v3 s4 =>
zo (zcst s4 l1 18) fun _ =>
zo (zgR s4 (some l0) 14 3) fun v5 =>
f_J3_getEntry_l28 G 2000 l1 v5 s4)
else (none)
set_option maxHeartbeats 4000000 in
theorem m_J3_getEntry (Γ : zG) (l0 : Nat) (l1 : Option Nat) (s0 s1 : zS) (r : (Option Nat)) (hf : f_J3_getEntry Γ.1 l0 l1 s0 = some (r, s1)) : ZM Γ yJ3_getEntry (ws_ yJ3_getEntry cJ3_getEntry 5 (some (.object "java/util/TreeMap$Entry"))) 4 63 [zr (some l0), zr l1] s0 (.inl (some (zr r)), s1) := by
  refine ZM.of (own := RJ3) (by decide) rfl (Nat.le_of_ble_eq_true rfl) ?_
  intro X hg hC hL hno hQ hin
  subst hg
  unfold f_J3_getEntry at hf
  refine z_aload_n hC (pc := 0) dJ3_getEntry_0 rfl 0 rfl ?_
  refine z_getR hC (pc := 1) in_J3 zcJ3 2 (Nat.le_of_ble_eq_true rfl) (zLk.o hC q240) zsm dJ3_getEntry_1 hf (fun v1 hf => ?_)
  refine z_ifnull hC (pc := 4) (tgt := 13) dJ3_getEntry_4 rfl (fun c2 => ?_) (fun c2 => ?_)
  · have hf := zif_t hf c2
    refine z_aload_n hC (pc := 13) dJ3_getEntry_13 rfl 1 rfl ?_
    refine z_cR (rest := []) hf (fun v3 s4 hcall => z_runS hC (pc := 14) 1 (m_J28_requireNonNull X.g l1 s0 s4 v3 hcall) (lw_S q1233 q1234 q137 q1235) hd_J28_requireNonNull ⟨(Nat.le_of_ble_eq_true rfl), (Nat.le_of_ble_eq_true rfl)⟩ rfl (Nat.le_of_ble_eq_true rfl) dJ3_getEntry_14 rfl) (fun v3 s4 hf => ?_)
    refine z_pop hC (pc := 17) dJ3_getEntry_17 rfl ?_
    refine z_aload_n hC (pc := 18) dJ3_getEntry_18 rfl 1 rfl ?_
    refine z_cast hC (pc := 19) zcJ20 q1236 (Or.inr q1241) dJ3_getEntry_19 hf (fun hf => ?_)
    refine z_astore_n (lv' := [(2, zr l1), (0, zr (some l0)), (1, zr l1)]) hC (pc := 22) hL dJ3_getEntry_22 rfl (Nat.le_of_ble_eq_true rfl) rfl ?_
    refine z_aload_n hC (pc := 23) dJ3_getEntry_23 rfl 1 rfl ?_
    refine z_getR hC (pc := 24) in_J3 zcJ3 3 (Nat.le_of_ble_eq_true rfl) (zLk.o hC q241) zsm dJ3_getEntry_24 hf (fun v5 hf => ?_)
    refine z_astore_n (lv' := [(3, zr v5), (2, zr l1), (0, zr (some l0)), (1, zr l1)]) hC (pc := 27) hL dJ3_getEntry_27 rfl (Nat.le_of_ble_eq_true rfl) rfl ?_
    refine ZW.perm (lv' := [(2, zr l1), (3, zr v5)]) [1, 0] rfl ?_
    exact w_J3_getEntry_l28 hC hL hno hQ 2000 l1 v5 s4 hf
  · have hf := zif_f hf c2
    refine z_aload_n hC (pc := 7) dJ3_getEntry_7 rfl 0 rfl ?_
    refine z_aload_n hC (pc := 8) dJ3_getEntry_8 rfl 1 rfl ?_
    cases hf
/-! java/util/TreeMap.get(Ljava/lang/Object;)Ljava/lang/Object; -/
def f_J3_get (G : Nat → Nat) (l0 : Nat) (l1 : Option Nat) (s0 : zS) : Option ((Option Nat) × zS) :=
zo (zrc s0 (some l0) 14) fun _ =>
zb (f_J3_getEntry G l0 l1 s0) fun v3 s4 =>
if v3 = none then (some (none, s4))
else (zo (zgR s4 v3 21 1) fun v6 =>
some (v6, s4))
set_option maxHeartbeats 4000000 in
theorem m_J3_get (Γ : zG) (l0 : Nat) (l1 : Option Nat) (s0 s1 : zS) (r : (Option Nat)) (hf : f_J3_get Γ.1 l0 l1 s0 = some (r, s1)) : ZM Γ yJ3_get (ws_ yJ3_get cJ3_get 3 (some (.object "java/lang/Object"))) 5 87 [zr (some l0), zr l1] s0 (.inl (some (zr r)), s1) := by
  refine ZM.of (own := RJ3) (by decide) rfl (Nat.le_of_ble_eq_true rfl) ?_
  intro X hg hC hL hno hQ hin
  subst hg
  unfold f_J3_get at hf
  refine z_aload_n hC (pc := 0) dJ3_get_0 rfl 0 rfl ?_
  refine z_aload_n hC (pc := 1) dJ3_get_1 rfl 1 rfl ?_
  obtain ⟨fs1, ha2, hf⟩ := z_rcN hf
  refine z_cR (rest := []) hf (fun v3 s4 hcall => z_runV hC (pc := 2) zcJ3 1 ha2 (m_J3_getEntry X.g l0 l1 s0 s4 v3 hcall) (lw_V q1221 q1222 q1223 q102 q1224) hdV_J3_getEntry ⟨(Nat.le_of_ble_eq_true rfl), (Nat.le_of_ble_eq_true rfl)⟩ rfl (Nat.le_of_ble_eq_true rfl) dJ3_get_2 rfl) (fun v3 s4 hf => ?_)
  refine z_astore_n (lv' := [(2, zr v3), (0, zr (some l0)), (1, zr l1)]) hC (pc := 5) hL dJ3_get_5 rfl (Nat.le_of_ble_eq_true rfl) rfl ?_
  refine z_aload_n hC (pc := 6) dJ3_get_6 rfl 0 rfl ?_
  refine z_ifnonnull hC (pc := 7) (tgt := 14) dJ3_get_7 rfl (fun c5 => ?_) (fun c5 => ?_)
  · have hf := zif_f hf c5
    refine z_aload_n hC (pc := 14) dJ3_get_14 rfl 0 rfl ?_
    refine z_getR hC (pc := 15) in_J27 zcJ27 1 (Nat.le_of_ble_eq_true rfl) (zLk.o hC q2226) zsm dJ3_get_15 hf (fun v6 hf => ?_)
    exact z_areturn hC (pc := 18) (Or.inl ⟨_, rfl⟩) hQ dJ3_get_18 hf
  · have hf := zif_t hf c5
    refine z_null hC (pc := 10) dJ3_get_10 ?_
    refine z_goto hC (pc := 11) (tgt := 18) dJ3_get_11 rfl ?_
    exact z_areturn hC (pc := 18) (Or.inl ⟨_, rfl⟩) hQ dJ3_get_18 hf
/-! java/util/TreeMap.<init>()V -/
def f_J3_init (G : Nat → Nat) (l0 : Nat) (s0 : zS) : Option (Unit × zS) :=
zb (f_J2_init_J3 G l0 s0) fun _ s2 =>
zo (zput G s2 (some l0) 14 4 (.int 0)) fun s3 =>
zo (zput G s3 (some l0) 14 5 (.int 0)) fun s4 =>
zo (zput G s4 (some l0) 14 2 (va_rf none)) fun s5 =>
some ((), s5)
set_option maxHeartbeats 4000000 in
theorem m_J3_init (Γ : zG) (l0 : Nat) (s0 s1 : zS) (r : Unit) (hf : f_J3_init Γ.1 l0 s0 = some (r, s1)) : ZM Γ yJ3_init (ws_ yJ3_init cJ3_init 1 none) 2 32 [zr (some l0)] s0 (.inl none, s1) := by
  refine ZM.of (own := RJ3) (by decide) rfl (Nat.le_of_ble_eq_true rfl) ?_
  intro X hg hC hL hno hQ hin
  subst hg
  unfold f_J3_init at hf
  refine z_aload_n hC (pc := 0) dJ3_init_0 rfl 0 rfl ?_
  refine z_cU (rest := []) hf (fun v1 s2 hcall => z_runI hC (pc := 1) 0 (m_J2_init_J3 X.g l0 s0 s2 v1 hcall) q238 rfl q101 q236 q237 hd_J2_init ⟨(Nat.le_of_ble_eq_true rfl), (Nat.le_of_ble_eq_true rfl)⟩ rfl (Nat.le_of_ble_eq_true rfl) dJ3_init_1 rfl) (fun _ s2 hf => ?_)
  refine z_aload_n hC (pc := 4) dJ3_init_4 rfl 0 rfl ?_
  refine z_iconst (v := 0) hC (pc := 5) dJ3_init_5 zki_0 ?_
  refine z_putV (v := zi 0) hC (pc := 6) in_J3 tyJ3 tyJ3_ok nmJ3 zcJ3 4 (Nat.le_of_ble_eq_true rfl) (zLk.o hC q242) zsm (Or.inl rfl) rfl rfl dJ3_init_6 hf (fun s3 hf => ?_)
  refine z_aload_n hC (pc := 9) dJ3_init_9 rfl 0 rfl ?_
  refine z_iconst (v := 0) hC (pc := 10) dJ3_init_10 zki_0 ?_
  refine z_putV (v := zi 0) hC (pc := 11) in_J3 tyJ3 tyJ3_ok nmJ3 zcJ3 5 (Nat.le_of_ble_eq_true rfl) (zLk.o hC q243) zsm (Or.inl rfl) rfl rfl dJ3_init_11 hf (fun s4 hf => ?_)
  refine z_aload_n hC (pc := 14) dJ3_init_14 rfl 0 rfl ?_
  refine z_null hC (pc := 15) dJ3_init_15 ?_
  refine z_putV (v := zr none) hC (pc := 16) in_J3 tyJ3 tyJ3_ok nmJ3 zcJ3 2 (Nat.le_of_ble_eq_true rfl) (zLk.o hC q240) zsm (Or.inr ⟨rfl, hin, rfl, rfl⟩) rfl (zfr none) dJ3_init_16 hf (fun s5 hf => ?_)
  exact z_return hC (pc := 19) hQ dJ3_init_19 hf
/-! java/util/TreeMap.put(Ljava/lang/Object;Ljava/lang/Object;Z)Ljava/lang/Object; -/
def f_J3_put_2_b30 (G : Nat → Nat) (l0 : Nat) (l1 : Option Nat) (l2 : Option Nat) (l3 : Int32) (l4 : Option Nat) (l7 : Option Nat) (s0 : zS) : Option ((Option Nat) × zS) :=
zo (zgR s0 l4 21 0) fun v1 =>
none
set_option maxHeartbeats 4000000 in
theorem w_J3_put_2_b30 {X : zX} (hC : ZC X RJ3 cJ3_put_2 (some (.object "java/lang/Object")) 6 107) (hL : X.nL = 10) (hno : ∀ x ∈ X.c.exceptionTable.toList, False) {r : (Option Nat)} {sF : zS} (hQ : ZQ X (.inl (some (zr r)), sF)) (l0 : Nat) (l1 : Option Nat) (l2 : Option Nat) (l3 : Int32) (l4 : Option Nat) (l7 : Option Nat) (s0 : zS) (hf : f_J3_put_2_b30 X.g.1 l0 l1 l2 l3 l4 l7 s0 = some (r, sF)) : ZW X s0 30 [(0, zr (some l0)), (1, zr l1), (2, zr l2), (3, zi l3), (4, zr l4), (7, zr l7)] [] := by
  unfold f_J3_put_2_b30 at hf
  refine z_aload hC (pc := 30) dJ3_put_2_30 4 rfl ?_
  refine z_astore (lv' := [(6, zr l4), (0, zr (some l0)), (1, zr l1), (2, zr l2), (3, zi l3), (4, zr l4), (7, zr l7)]) hC (pc := 32) hL dJ3_put_2_32 (Nat.le_of_ble_eq_true rfl) rfl ?_
  refine z_aload hC (pc := 34) dJ3_put_2_34 6 rfl ?_
  refine z_aload_n hC (pc := 36) dJ3_put_2_36 rfl 2 rfl ?_
  refine z_aload hC (pc := 37) dJ3_put_2_37 5 rfl ?_
  refine z_getR hC (pc := 39) in_J27 zcJ27 0 (Nat.le_of_ble_eq_true rfl) (zLk.o hC q2224) zsm dJ3_put_2_39 hf (fun v1 hf => ?_)
  cases hf
def f_J3_put_2_l30 (G : Nat → Nat) : Nat → Nat → Option Nat → Option Nat → Int32 → Option Nat → Option Nat → zS → Option ((Option Nat) × zS)
  | 0 => fun _ _ _ _ _ _ _ => none
  | n + 1 => f_J3_put_2_b30 G
theorem w_J3_put_2_l30 {X : zX} (hC : ZC X RJ3 cJ3_put_2 (some (.object "java/lang/Object")) 6 107) (hL : X.nL = 10) (hno : ∀ x ∈ X.c.exceptionTable.toList, False) {r : (Option Nat)} {sF : zS} (hQ : ZQ X (.inl (some (zr r)), sF)) : ∀ (n : Nat) (l0 : Nat) (l1 : Option Nat) (l2 : Option Nat) (l3 : Int32) (l4 : Option Nat) (l7 : Option Nat) (s0 : zS) (_ : f_J3_put_2_l30 X.g.1 n l0 l1 l2 l3 l4 l7 s0 = some (r, sF)), ZW X s0 30 [(0, zr (some l0)), (1, zr l1), (2, zr l2), (3, zi l3), (4, zr l4), (7, zr l7)] [] := by
  intro n
  induction n with
  | zero => intro l0 l1 l2 l3 l4 l7 s0 hf; exact absurd (show (none : Option ((Option Nat) × zS)) = some (r, sF) from hf) (fun z => nomatch z)
  | succ n ih => intro l0 l1 l2 l3 l4 l7 s0 hf; exact w_J3_put_2_b30 hC hL hno hQ l0 l1 l2 l3 l4 l7 s0 hf
def f_J3_put_2_b193 (G : Nat → Nat) (l9 : Option Nat) (s0 : zS) : Option ((Option Nat) × zS) :=
some (l9, s0)
set_option maxHeartbeats 4000000 in
theorem w_J3_put_2_b193 {X : zX} (hC : ZC X RJ3 cJ3_put_2 (some (.object "java/lang/Object")) 6 107) (hL : X.nL = 10) (hno : ∀ x ∈ X.c.exceptionTable.toList, False) {r : (Option Nat)} {sF : zS} (hQ : ZQ X (.inl (some (zr r)), sF)) (l9 : Option Nat) (s0 : zS) (hf : f_J3_put_2_b193 X.g.1 l9 s0 = some (r, sF)) : ZW X s0 193 [(9, zr l9)] [] := by
  unfold f_J3_put_2_b193 at hf
  refine z_aload hC (pc := 193) dJ3_put_2_193 0 rfl ?_
  exact z_areturn hC (pc := 195) (Or.inl ⟨_, rfl⟩) hQ dJ3_put_2_195 hf
def f_J3_put_2_b187 (G : Nat → Nat) (l2 : Option Nat) (l4 : Option Nat) (l9 : Option Nat) (s0 : zS) : Option ((Option Nat) × zS) :=
zo (zput G s0 l4 21 1 (va_rf l2)) fun s1 =>
f_J3_put_2_b193 G l9 s1
set_option maxHeartbeats 4000000 in
theorem w_J3_put_2_b187 {X : zX} (hC : ZC X RJ3 cJ3_put_2 (some (.object "java/lang/Object")) 6 107) (hL : X.nL = 10) (hno : ∀ x ∈ X.c.exceptionTable.toList, False) {r : (Option Nat)} {sF : zS} (hQ : ZQ X (.inl (some (zr r)), sF)) (l2 : Option Nat) (l4 : Option Nat) (l9 : Option Nat) (s0 : zS) (hf : f_J3_put_2_b187 X.g.1 l2 l4 l9 s0 = some (r, sF)) : ZW X s0 187 [(2, zr l2), (4, zr l4), (9, zr l9)] [] := by
  unfold f_J3_put_2_b187 at hf
  refine z_aload hC (pc := 187) dJ3_put_2_187 1 rfl ?_
  refine z_aload_n hC (pc := 189) dJ3_put_2_189 rfl 0 rfl ?_
  refine z_putV (v := zr l2) hC (pc := 190) in_J27 tyJ27 tyJ27_ok nmJ27 zcJ27 1 (Nat.le_of_ble_eq_true rfl) (zLk.o hC q2226) zsm (Or.inl rfl) rfl (zfr l2) dJ3_put_2_190 hf (fun s1 hf => ?_)
  refine ZW.perm (lv' := [(9, zr l9)]) [2] rfl ?_
  exact w_J3_put_2_b193 hC hL hno hQ l9 s1 hf
def f_J3_put_2_b216 (G : Nat → Nat) (t0 : Int32) (t1 : Option Nat) (t2 : Option Nat) (t3 : Option Nat) (t4 : Option Nat) (s0 : zS) : Option ((Option Nat) × zS) :=
zo (zrc s0 t4 14) fun a3 =>
zb (f_J3_addEntry G a3 t3 t2 t1 t0 s0) fun _ s5 =>
some (none, s5)
set_option maxHeartbeats 4000000 in
theorem w_J3_put_2_b216 {X : zX} (hC : ZC X RJ3 cJ3_put_2 (some (.object "java/lang/Object")) 6 107) (hL : X.nL = 10) (hno : ∀ x ∈ X.c.exceptionTable.toList, False) {r : (Option Nat)} {sF : zS} (hQ : ZQ X (.inl (some (zr r)), sF)) (t0 : Int32) (t1 : Option Nat) (t2 : Option Nat) (t3 : Option Nat) (t4 : Option Nat) (s0 : zS) (hf : f_J3_put_2_b216 X.g.1 t0 t1 t2 t3 t4 s0 = some (r, sF)) : ZW X s0 216 [] [zi t0, zr t1, zr t2, zr t3, zr t4] := by
  unfold f_J3_put_2_b216 at hf
  obtain ⟨a3, fs1, rfl, ha2, hf⟩ := z_rcO hf
  refine z_cU (rest := []) hf (fun v4 s5 hcall => z_runV hC (pc := 216) zcJ3 4 ha2 (m_J3_addEntry X.g a3 t3 t2 t1 t0 s0 s5 v4 hcall) (lw_V q2246 q2248 qs36 q102 q2249) hdV_J3_addEntry ⟨(Nat.le_of_ble_eq_true rfl), (Nat.le_of_ble_eq_true rfl)⟩ rfl (Nat.le_of_ble_eq_true rfl) dJ3_put_2_216 rfl) (fun _ s5 hf => ?_)
  refine z_null hC (pc := 219) dJ3_put_2_219 ?_
  exact z_areturn hC (pc := 220) (Or.inl ⟨_, rfl⟩) hQ dJ3_put_2_220 hf
def f_J3_put_2_b201 (G : Nat → Nat) (l0 : Nat) (l1 : Option Nat) (l2 : Option Nat) (l5 : Int32) (l6 : Option Nat) (s0 : zS) : Option ((Option Nat) × zS) :=
if 0 ≤ l5 then (f_J3_put_2_b216 G 0 l6 l2 l1 (some l0) s0)
else (f_J3_put_2_b216 G 1 l6 l2 l1 (some l0) s0)
set_option maxHeartbeats 4000000 in
theorem w_J3_put_2_b201 {X : zX} (hC : ZC X RJ3 cJ3_put_2 (some (.object "java/lang/Object")) 6 107) (hL : X.nL = 10) (hno : ∀ x ∈ X.c.exceptionTable.toList, False) {r : (Option Nat)} {sF : zS} (hQ : ZQ X (.inl (some (zr r)), sF)) (l0 : Nat) (l1 : Option Nat) (l2 : Option Nat) (l5 : Int32) (l6 : Option Nat) (s0 : zS) (hf : f_J3_put_2_b201 X.g.1 l0 l1 l2 l5 l6 s0 = some (r, sF)) : ZW X s0 201 [(0, zr (some l0)), (1, zr l1), (2, zr l2), (5, zi l5), (6, zr l6)] [] := by
  unfold f_J3_put_2_b201 at hf
  refine z_aload_n hC (pc := 201) dJ3_put_2_201 rfl 0 rfl ?_
  refine z_aload_n hC (pc := 202) dJ3_put_2_202 rfl 1 rfl ?_
  refine z_aload_n hC (pc := 203) dJ3_put_2_203 rfl 2 rfl ?_
  refine z_aload hC (pc := 204) dJ3_put_2_204 4 rfl ?_
  refine z_iload hC (pc := 206) dJ3_put_2_206 3 rfl ?_
  refine z_if_ge hC (pc := 208) (tgt := 215) dJ3_put_2_208 rfl (fun c1 => ?_) (fun c1 => ?_)
  · have hf := zif_t hf c1
    refine z_iconst (v := 0) hC (pc := 215) dJ3_put_2_215 zki_0 ?_
    refine ZW.perm (lv' := []) [] rfl ?_
    exact w_J3_put_2_b216 hC hL hno hQ 0 l6 l2 l1 (some l0) s0 hf
  · have hf := zif_f hf c1
    refine z_iconst (v := 1) hC (pc := 211) dJ3_put_2_211 zki_1 ?_
    refine z_goto hC (pc := 212) (tgt := 216) dJ3_put_2_212 rfl ?_
    refine ZW.perm (lv' := []) [] rfl ?_
    exact w_J3_put_2_b216 hC hL hno hQ 1 l6 l2 l1 (some l0) s0 hf
def f_J3_put_2_b196 (G : Nat → Nat) (k123 : Nat → Option Nat → Option Nat → Int32 → Option Nat → Option Nat → zS → Option ((Option Nat) × zS)) (l0 : Nat) (l1 : Option Nat) (l2 : Option Nat) (l3 : Int32) (l4 : Option Nat) (l5 : Int32) (l6 : Option Nat) (l8 : Option Nat) (s0 : zS) : Option ((Option Nat) × zS) :=
if l4 = none then (f_J3_put_2_b201 G l0 l1 l2 l5 l6 s0)
else (k123 l0 l1 l2 l3 l4 l8 s0)
set_option maxHeartbeats 4000000 in
theorem w_J3_put_2_b196 {X : zX} (hC : ZC X RJ3 cJ3_put_2 (some (.object "java/lang/Object")) 6 107) (hL : X.nL = 10) (hno : ∀ x ∈ X.c.exceptionTable.toList, False) {r : (Option Nat)} {sF : zS} (hQ : ZQ X (.inl (some (zr r)), sF)) (k123 : Nat → Option Nat → Option Nat → Int32 → Option Nat → Option Nat → zS → Option ((Option Nat) × zS)) (hk123 : ∀ (l0 : Nat) (l1 : Option Nat) (l2 : Option Nat) (l3 : Int32) (l4 : Option Nat) (l8 : Option Nat) (s0 : zS), k123 l0 l1 l2 l3 l4 l8 s0 = some (r, sF) → ZW X s0 123 [(0, zr (some l0)), (1, zr l1), (2, zr l2), (3, zi l3), (4, zr l4), (8, zr l8)] []) (l0 : Nat) (l1 : Option Nat) (l2 : Option Nat) (l3 : Int32) (l4 : Option Nat) (l5 : Int32) (l6 : Option Nat) (l8 : Option Nat) (s0 : zS) (hf : f_J3_put_2_b196 X.g.1 k123 l0 l1 l2 l3 l4 l5 l6 l8 s0 = some (r, sF)) : ZW X s0 196 [(0, zr (some l0)), (1, zr l1), (2, zr l2), (3, zi l3), (4, zr l4), (5, zi l5), (6, zr l6), (8, zr l8)] [] := by
  unfold f_J3_put_2_b196 at hf
  refine z_aload hC (pc := 196) dJ3_put_2_196 4 rfl ?_
  refine z_ifnonnull hC (pc := 198) (tgt := 123) dJ3_put_2_198 rfl (fun c1 => ?_) (fun c1 => ?_)
  · have hf := zif_f hf c1
    refine ZW.perm (lv' := [(0, zr (some l0)), (1, zr l1), (2, zr l2), (3, zi l3), (4, zr l4), (8, zr l8)]) [0, 1, 2, 3, 4, 7] rfl ?_
    exact hk123 l0 l1 l2 l3 l4 l8 s0 hf
  · have hf := zif_t hf c1
    refine ZW.perm (lv' := [(0, zr (some l0)), (1, zr l1), (2, zr l2), (5, zi l5), (6, zr l6)]) [0, 1, 2, 5, 6] rfl ?_
    exact w_J3_put_2_b201 hC hL hno hQ l0 l1 l2 l5 l6 s0 hf
def f_J3_put_2_b123 (G : Nat → Nat) (k123 : Nat → Option Nat → Option Nat → Int32 → Option Nat → Option Nat → zS → Option ((Option Nat) × zS)) (l0 : Nat) (l1 : Option Nat) (l2 : Option Nat) (l3 : Int32) (l4 : Option Nat) (l8 : Option Nat) (s0 : zS) : Option ((Option Nat) × zS) :=
zo (zgR s0 l4 21 0) fun v1 =>
zo (zrc s0 l8 18) fun a4 =>
zb (f_J20_compareTo G a4 v1 s0) fun v5 s6 =>
if 0 ≤ v5 then (if v5 ≤ 0 then (zo (zgR s6 l4 21 1) fun v9 =>
if l3 = 0 then (if v9 = none then (f_J3_put_2_b187 G l2 l4 v9 s6)
else (f_J3_put_2_b193 G v9 s6))
else (f_J3_put_2_b187 G l2 l4 v9 s6))
else (zo (zgR s6 l4 21 3) fun v12 =>
f_J3_put_2_b196 G k123 l0 l1 l2 l3 v12 v5 l4 (some a4) s6))
else (zo (zgR s6 l4 21 2) fun v13 =>
f_J3_put_2_b196 G k123 l0 l1 l2 l3 v13 v5 l4 (some a4) s6)
set_option maxHeartbeats 4000000 in
theorem w_J3_put_2_b123 {X : zX} (hC : ZC X RJ3 cJ3_put_2 (some (.object "java/lang/Object")) 6 107) (hL : X.nL = 10) (hno : ∀ x ∈ X.c.exceptionTable.toList, False) {r : (Option Nat)} {sF : zS} (hQ : ZQ X (.inl (some (zr r)), sF)) (k123 : Nat → Option Nat → Option Nat → Int32 → Option Nat → Option Nat → zS → Option ((Option Nat) × zS)) (hk123 : ∀ (l0 : Nat) (l1 : Option Nat) (l2 : Option Nat) (l3 : Int32) (l4 : Option Nat) (l8 : Option Nat) (s0 : zS), k123 l0 l1 l2 l3 l4 l8 s0 = some (r, sF) → ZW X s0 123 [(0, zr (some l0)), (1, zr l1), (2, zr l2), (3, zi l3), (4, zr l4), (8, zr l8)] []) (l0 : Nat) (l1 : Option Nat) (l2 : Option Nat) (l3 : Int32) (l4 : Option Nat) (l8 : Option Nat) (s0 : zS) (hf : f_J3_put_2_b123 X.g.1 k123 l0 l1 l2 l3 l4 l8 s0 = some (r, sF)) : ZW X s0 123 [(0, zr (some l0)), (1, zr l1), (2, zr l2), (3, zi l3), (4, zr l4), (8, zr l8)] [] := by
  unfold f_J3_put_2_b123 at hf
  refine z_aload hC (pc := 123) dJ3_put_2_123 4 rfl ?_
  refine z_astore (lv' := [(6, zr l4), (0, zr (some l0)), (1, zr l1), (2, zr l2), (3, zi l3), (4, zr l4), (8, zr l8)]) hC (pc := 125) hL dJ3_put_2_125 (Nat.le_of_ble_eq_true rfl) rfl ?_
  refine z_aload hC (pc := 127) dJ3_put_2_127 6 rfl ?_
  refine z_aload hC (pc := 129) dJ3_put_2_129 5 rfl ?_
  refine z_getR hC (pc := 131) in_J27 zcJ27 0 (Nat.le_of_ble_eq_true rfl) (zLk.o hC q2224) zsm dJ3_put_2_131 hf (fun v1 hf => ?_)
  obtain ⟨a4, fs2, rfl, ha3, hf⟩ := z_rcO hf
  refine z_cI5 (rest := []) hf (fun v5 s6 hcall => z_runF hC (pc := 134) zcJ20 1 ha3 (m_J20_compareTo X.g a4 v1 s0 s6 v5 hcall) (lw_app (zm4 q1238 q1242 q1244 q125) (lw_meth q1246)) q1240 q1239 q1245 q1243 q1241 (by decide +kernel) ⟨(Nat.le_of_ble_eq_true rfl), (Nat.le_of_ble_eq_true rfl)⟩ rfl (Nat.le_of_ble_eq_true rfl) dJ3_put_2_134 rfl) (fun v5 s6 hf => ?_)
  refine z_istore (lv' := [(5, zi v5), (6, zr l4), (0, zr (some l0)), (1, zr l1), (2, zr l2), (3, zi l3), (4, zr l4), (8, zr (some a4))]) hC (pc := 139) hL dJ3_put_2_139 (Nat.le_of_ble_eq_true rfl) rfl ?_
  refine z_iload hC (pc := 141) dJ3_put_2_141 0 rfl ?_
  refine z_if_ge hC (pc := 143) (tgt := 156) dJ3_put_2_143 rfl (fun c7 => ?_) (fun c7 => ?_)
  · have hf := zif_t hf c7
    refine z_iload hC (pc := 156) dJ3_put_2_156 0 rfl ?_
    refine z_if_le hC (pc := 158) (tgt := 171) dJ3_put_2_158 rfl (fun c8 => ?_) (fun c8 => ?_)
    · have hf := zif_t hf c8
      refine z_aload hC (pc := 171) dJ3_put_2_171 6 rfl ?_
      refine z_getR hC (pc := 173) in_J27 zcJ27 1 (Nat.le_of_ble_eq_true rfl) (zLk.o hC q2226) zsm dJ3_put_2_173 hf (fun v9 hf => ?_)
      refine z_astore (lv' := [(9, zr v9), (5, zi v5), (6, zr l4), (0, zr (some l0)), (1, zr l1), (2, zr l2), (3, zi l3), (4, zr l4), (8, zr (some a4))]) hC (pc := 176) hL dJ3_put_2_176 (Nat.le_of_ble_eq_true rfl) rfl ?_
      refine z_iload_n hC (pc := 178) dJ3_put_2_178 rfl 6 rfl ?_
      refine z_if_ne hC (pc := 179) (tgt := 187) dJ3_put_2_179 rfl (fun c10 => ?_) (fun c10 => ?_)
      · have hf := zif_f hf c10
        refine ZW.perm (lv' := [(2, zr l2), (4, zr l4), (9, zr v9)]) [5, 7, 0] rfl ?_
        exact w_J3_put_2_b187 hC hL hno hQ l2 l4 v9 s6 hf
      · have hf := zif_t hf c10
        refine z_aload hC (pc := 182) dJ3_put_2_182 0 rfl ?_
        refine z_ifnonnull hC (pc := 184) (tgt := 193) dJ3_put_2_184 rfl (fun c11 => ?_) (fun c11 => ?_)
        · have hf := zif_f hf c11
          refine ZW.perm (lv' := [(9, zr v9)]) [0] rfl ?_
          exact w_J3_put_2_b193 hC hL hno hQ v9 s6 hf
        · have hf := zif_t hf c11
          refine ZW.perm (lv' := [(2, zr l2), (4, zr l4), (9, zr v9)]) [5, 7, 0] rfl ?_
          exact w_J3_put_2_b187 hC hL hno hQ l2 l4 v9 s6 hf
    · have hf := zif_f hf c8
      refine z_aload hC (pc := 161) dJ3_put_2_161 6 rfl ?_
      refine z_getR hC (pc := 163) in_J27 zcJ27 3 (Nat.le_of_ble_eq_true rfl) (zLk.o hC q2228) zsm dJ3_put_2_163 hf (fun v12 hf => ?_)
      refine z_astore (lv' := [(4, zr v12), (5, zi v5), (6, zr l4), (0, zr (some l0)), (1, zr l1), (2, zr l2), (3, zi l3), (8, zr (some a4))]) hC (pc := 166) hL dJ3_put_2_166 (Nat.le_of_ble_eq_true rfl) rfl ?_
      refine z_goto hC (pc := 168) (tgt := 196) dJ3_put_2_168 rfl ?_
      refine ZW.perm (lv' := [(0, zr (some l0)), (1, zr l1), (2, zr l2), (3, zi l3), (4, zr v12), (5, zi v5), (6, zr l4), (8, zr (some a4))]) [3, 4, 5, 6, 0, 1, 2, 7] rfl ?_
      exact w_J3_put_2_b196 hC hL hno hQ k123 hk123 l0 l1 l2 l3 v12 v5 l4 (some a4) s6 hf
  · have hf := zif_f hf c7
    refine z_aload hC (pc := 146) dJ3_put_2_146 6 rfl ?_
    refine z_getR hC (pc := 148) in_J27 zcJ27 2 (Nat.le_of_ble_eq_true rfl) (zLk.o hC q2227) zsm dJ3_put_2_148 hf (fun v13 hf => ?_)
    refine z_astore (lv' := [(4, zr v13), (5, zi v5), (6, zr l4), (0, zr (some l0)), (1, zr l1), (2, zr l2), (3, zi l3), (8, zr (some a4))]) hC (pc := 151) hL dJ3_put_2_151 (Nat.le_of_ble_eq_true rfl) rfl ?_
    refine z_goto hC (pc := 153) (tgt := 196) dJ3_put_2_153 rfl ?_
    refine ZW.perm (lv' := [(0, zr (some l0)), (1, zr l1), (2, zr l2), (3, zi l3), (4, zr v13), (5, zi v5), (6, zr l4), (8, zr (some a4))]) [3, 4, 5, 6, 0, 1, 2, 7] rfl ?_
    exact w_J3_put_2_b196 hC hL hno hQ k123 hk123 l0 l1 l2 l3 v13 v5 l4 (some a4) s6 hf
def f_J3_put_2_l123 (G : Nat → Nat) : Nat → Nat → Option Nat → Option Nat → Int32 → Option Nat → Option Nat → zS → Option ((Option Nat) × zS)
  | 0 => fun _ _ _ _ _ _ _ => none
  | n + 1 => f_J3_put_2_b123 G (f_J3_put_2_l123 G n)
theorem w_J3_put_2_l123 {X : zX} (hC : ZC X RJ3 cJ3_put_2 (some (.object "java/lang/Object")) 6 107) (hL : X.nL = 10) (hno : ∀ x ∈ X.c.exceptionTable.toList, False) {r : (Option Nat)} {sF : zS} (hQ : ZQ X (.inl (some (zr r)), sF)) : ∀ (n : Nat) (l0 : Nat) (l1 : Option Nat) (l2 : Option Nat) (l3 : Int32) (l4 : Option Nat) (l8 : Option Nat) (s0 : zS) (_ : f_J3_put_2_l123 X.g.1 n l0 l1 l2 l3 l4 l8 s0 = some (r, sF)), ZW X s0 123 [(0, zr (some l0)), (1, zr l1), (2, zr l2), (3, zi l3), (4, zr l4), (8, zr l8)] [] := by
  intro n
  induction n with
  | zero => intro l0 l1 l2 l3 l4 l8 s0 hf; exact absurd (show (none : Option ((Option Nat) × zS)) = some (r, sF) from hf) (fun z => nomatch z)
  | succ n ih => intro l0 l1 l2 l3 l4 l8 s0 hf; exact w_J3_put_2_b123 hC hL hno hQ (f_J3_put_2_l123 X.g.1 n) ih l0 l1 l2 l3 l4 l8 s0 hf
def f_J3_put_2 (G : Nat → Nat) (l0 : Nat) (l1 : Option Nat) (l2 : Option Nat) (l3 : Int32) (s0 : zS) : Option ((Option Nat) × zS) :=
zo (zgR s0 (some l0) 14 3) fun v1 =>
if v1 = none then (zo (zrc s0 (some l0) 14) fun _ =>
zb (f_J3_addEntryToEmptyMap G l0 l1 l2 s0) fun _ s10 =>
some (none, s10))
else (zo (zgR s0 (some l0) 14 2) fun v3 =>
if v3 = none then (zb (f_J28_requireNonNull G l1 s0) fun v5 s6 =>
zo (zcst s6 l1 18) fun _ =>
f_J3_put_2_l123 G 2000 l0 l1 l2 l3 v1 l1 s6)
else (f_J3_put_2_l30 G 2000 l0 l1 l2 l3 v1 v3 s0))
set_option maxHeartbeats 4000000 in
theorem m_J3_put_2 (Γ : zG) (l0 : Nat) (l1 : Option Nat) (l2 : Option Nat) (l3 : Int32) (s0 s1 : zS) (r : (Option Nat)) (hf : f_J3_put_2 Γ.1 l0 l1 l2 l3 s0 = some (r, s1)) : ZM Γ yJ3_put_2 (ws_ yJ3_put_2 cJ3_put_2 10 (some (.object "java/lang/Object"))) 6 107 [zr (some l0), zr l1, zr l2, zi l3] s0 (.inl (some (zr r)), s1) := by
  refine ZM.of (own := RJ3) (by decide) rfl (Nat.le_of_ble_eq_true rfl) ?_
  intro X hg hC hL hno hQ hin
  subst hg
  unfold f_J3_put_2 at hf
  refine z_aload_n hC (pc := 0) dJ3_put_2_0 rfl 0 rfl ?_
  refine z_getR hC (pc := 1) in_J3 zcJ3 3 (Nat.le_of_ble_eq_true rfl) (zLk.o hC q241) zsm dJ3_put_2_1 hf (fun v1 hf => ?_)
  refine z_astore (lv' := [(4, zr v1), (0, zr (some l0)), (1, zr l1), (2, zr l2), (3, zi l3)]) hC (pc := 4) hL dJ3_put_2_4 (Nat.le_of_ble_eq_true rfl) rfl ?_
  refine z_aload hC (pc := 6) dJ3_put_2_6 0 rfl ?_
  refine z_ifnonnull hC (pc := 8) (tgt := 19) dJ3_put_2_8 rfl (fun c2 => ?_) (fun c2 => ?_)
  · have hf := zif_f hf c2
    refine z_aload_n hC (pc := 19) dJ3_put_2_19 rfl 1 rfl ?_
    refine z_getR hC (pc := 20) in_J3 zcJ3 2 (Nat.le_of_ble_eq_true rfl) (zLk.o hC q240) zsm dJ3_put_2_20 hf (fun v3 hf => ?_)
    refine z_astore (lv' := [(7, zr v3), (4, zr v1), (0, zr (some l0)), (1, zr l1), (2, zr l2), (3, zi l3)]) hC (pc := 23) hL dJ3_put_2_23 (Nat.le_of_ble_eq_true rfl) rfl ?_
    refine z_aload hC (pc := 25) dJ3_put_2_25 0 rfl ?_
    refine z_ifnull hC (pc := 27) (tgt := 112) dJ3_put_2_27 rfl (fun c4 => ?_) (fun c4 => ?_)
    · have hf := zif_t hf c4
      refine z_aload_n hC (pc := 112) dJ3_put_2_112 rfl 3 rfl ?_
      refine z_cR (rest := []) hf (fun v5 s6 hcall => z_runS hC (pc := 113) 1 (m_J28_requireNonNull X.g l1 s0 s6 v5 hcall) (lw_S q1233 q1234 q137 q1235) hd_J28_requireNonNull ⟨(Nat.le_of_ble_eq_true rfl), (Nat.le_of_ble_eq_true rfl)⟩ rfl (Nat.le_of_ble_eq_true rfl) dJ3_put_2_113 rfl) (fun v5 s6 hf => ?_)
      refine z_pop hC (pc := 116) dJ3_put_2_116 rfl ?_
      refine z_aload_n hC (pc := 117) dJ3_put_2_117 rfl 3 rfl ?_
      refine z_cast hC (pc := 118) zcJ20 q1236 (Or.inr q1241) dJ3_put_2_118 hf (fun hf => ?_)
      refine z_astore (lv' := [(8, zr l1), (7, zr v3), (4, zr v1), (0, zr (some l0)), (1, zr l1), (2, zr l2), (3, zi l3)]) hC (pc := 121) hL dJ3_put_2_121 (Nat.le_of_ble_eq_true rfl) rfl ?_
      refine ZW.perm (lv' := [(0, zr (some l0)), (1, zr l1), (2, zr l2), (3, zi l3), (4, zr v1), (8, zr l1)]) [3, 4, 5, 6, 2, 0] rfl ?_
      exact w_J3_put_2_l123 hC hL hno hQ 2000 l0 l1 l2 l3 v1 l1 s6 hf
    · have hf := zif_f hf c4
      refine ZW.perm (lv' := [(0, zr (some l0)), (1, zr l1), (2, zr l2), (3, zi l3), (4, zr v1), (7, zr v3)]) [2, 3, 4, 5, 1, 0] rfl ?_
      exact w_J3_put_2_l30 hC hL hno hQ 2000 l0 l1 l2 l3 v1 v3 s0 hf
  · have hf := zif_t hf c2
    refine z_aload_n hC (pc := 11) dJ3_put_2_11 rfl 1 rfl ?_
    refine z_aload_n hC (pc := 12) dJ3_put_2_12 rfl 2 rfl ?_
    refine z_aload_n hC (pc := 13) dJ3_put_2_13 rfl 3 rfl ?_
    obtain ⟨fs7, ha8, hf⟩ := z_rcN hf
    refine z_cU (rest := []) hf (fun v9 s10 hcall => z_runV hC (pc := 14) zcJ3 2 ha8 (m_J3_addEntryToEmptyMap X.g l0 l1 l2 s0 s10 v9 hcall) (lw_V q2209 q2211 qs35 q102 q2212) hdV_J3_addEntryToEmptyMap ⟨(Nat.le_of_ble_eq_true rfl), (Nat.le_of_ble_eq_true rfl)⟩ rfl (Nat.le_of_ble_eq_true rfl) dJ3_put_2_14 rfl) (fun _ s10 hf => ?_)
    refine z_null hC (pc := 17) dJ3_put_2_17 ?_
    exact z_areturn hC (pc := 18) (Or.inl ⟨_, rfl⟩) hQ dJ3_put_2_18 hf
/-! java/util/TreeMap.put(Ljava/lang/Object;Ljava/lang/Object;)Ljava/lang/Object; -/
def f_J3_put (G : Nat → Nat) (l0 : Nat) (l1 : Option Nat) (l2 : Option Nat) (s0 : zS) : Option ((Option Nat) × zS) :=
zo (zrc s0 (some l0) 14) fun _ =>
zb (f_J3_put_2 G l0 l1 l2 1 s0) fun v3 s4 =>
some (v3, s4)
set_option maxHeartbeats 4000000 in
theorem m_J3_put (Γ : zG) (l0 : Nat) (l1 : Option Nat) (l2 : Option Nat) (s0 s1 : zS) (r : (Option Nat)) (hf : f_J3_put Γ.1 l0 l1 l2 s0 = some (r, s1)) : ZM Γ yJ3_put (ws_ yJ3_put cJ3_put 3 (some (.object "java/lang/Object"))) 7 136 [zr (some l0), zr l1, zr l2] s0 (.inl (some (zr r)), s1) := by
  refine ZM.of (own := RJ3) (by decide) rfl (Nat.le_of_ble_eq_true rfl) ?_
  intro X hg hC hL hno hQ hin
  subst hg
  unfold f_J3_put at hf
  refine z_aload_n hC (pc := 0) dJ3_put_0 rfl 0 rfl ?_
  refine z_aload_n hC (pc := 1) dJ3_put_1 rfl 1 rfl ?_
  refine z_aload_n hC (pc := 2) dJ3_put_2 rfl 2 rfl ?_
  refine z_iconst (v := 1) hC (pc := 3) dJ3_put_3 zki_1 ?_
  obtain ⟨fs1, ha2, hf⟩ := z_rcN hf
  refine z_cR (rest := []) hf (fun v3 s4 hcall => z_runV hC (pc := 4) zcJ3 3 ha2 (m_J3_put_2 X.g l0 l1 l2 1 s0 s4 v3 hcall) (lw_V q2205 q2207 qs34 q102 q2208) hdV_J3_put_2 ⟨(Nat.le_of_ble_eq_true rfl), (Nat.le_of_ble_eq_true rfl)⟩ rfl (Nat.le_of_ble_eq_true rfl) dJ3_put_4 rfl) (fun v3 s4 hf => ?_)
  exact z_areturn hC (pc := 7) (Or.inl ⟨_, rfl⟩) hQ dJ3_put_7 hf
/-! java/util/AbstractList.<init>()V -/
def f_J4_init_J5 (G : Nat → Nat) (l0 : Nat) (s0 : zS) : Option (Unit × zS) :=
zb (f_J0_init_J5 G l0 s0) fun _ s2 =>
zo (zput G s2 (some l0) 15 0 (.int 0)) fun s3 =>
some ((), s3)
set_option maxHeartbeats 4000000 in
theorem m_J4_init_J5 (Γ : zG) (l0 : Nat) (s0 s1 : zS) (r : Unit) (hf : f_J4_init_J5 Γ.1 l0 s0 = some (r, s1)) : ZM Γ yJ4_init (ws_ yJ4_init cJ4_init 1 none) 2 32 [zr (some l0)] s0 (.inl none, s1) := by
  refine ZM.of (own := RJ4) (by decide) rfl (Nat.le_of_ble_eq_true rfl) ?_
  intro X hg hC hL hno hQ hin
  subst hg
  unfold f_J4_init_J5 at hf
  refine z_aload_n hC (pc := 0) dJ4_init_0 rfl 0 rfl ?_
  refine z_cU (rest := []) hf (fun v1 s2 hcall => z_runI hC (pc := 1) 0 (m_J0_init_J5 X.g l0 s0 s2 v1 hcall) q172 rfl q96 q271 q171 hd_J0_init ⟨(Nat.le_of_ble_eq_true rfl), (Nat.le_of_ble_eq_true rfl)⟩ rfl (Nat.le_of_ble_eq_true rfl) dJ4_init_1 rfl) (fun _ s2 hf => ?_)
  refine z_aload_n hC (pc := 4) dJ4_init_4 rfl 0 rfl ?_
  refine z_iconst (v := 0) hC (pc := 5) dJ4_init_5 zki_0 ?_
  refine z_putV (v := zi 0) hC (pc := 6) in_J5 tyJ5 tyJ5_ok nmJ5 zcJ5 0 (Nat.le_of_ble_eq_true rfl) (zLk.o hC q278) zsm (Or.inl rfl) rfl rfl dJ4_init_6 hf (fun s3 hf => ?_)
  exact z_return hC (pc := 9) hQ dJ4_init_9 hf
/-! java/util/ArrayList.grow(I)[Ljava/lang/Object; -/
def f_J5_grow_2_b20 (G : Nat → Nat) (l0 : Nat) (l1 : Int32) (l2 : Int32) (s0 : zS) : Option ((Option Nat) × zS) :=
zb (f_J14_newLength G l2 (l1 - l2) (l2 >>> ((1 : Int32) &&& 31)) s0) fun v1 s2 =>
zo (zgR s2 (some l0) 15 1) fun v3 =>
zb (f_J16_copyOf_3 G v3 v1 s2) fun v4 s5 =>
zo (zput G s5 (some l0) 15 1 (va_rf v4)) fun s6 =>
some (v4, s6)
set_option maxHeartbeats 4000000 in
theorem w_J5_grow_2_b20 {X : zX} (hC : ZC X RJ5 cJ5_grow_2 (some (.array (.object "java/lang/Object"))) 3 104) (hL : X.nL = 4) (hno : ∀ x ∈ X.c.exceptionTable.toList, False) {r : (Option Nat)} {sF : zS} (hQ : ZQ X (.inl (some (zr r)), sF)) (l0 : Nat) (l1 : Int32) (l2 : Int32) (s0 : zS) (hf : f_J5_grow_2_b20 X.g.1 l0 l1 l2 s0 = some (r, sF)) : ZW X s0 20 [(0, zr (some l0)), (1, zi l1), (2, zi l2)] [] := by
  unfold f_J5_grow_2_b20 at hf
  refine z_iload_n hC (pc := 20) dJ5_grow_2_20 rfl 2 rfl ?_
  refine z_iload_n hC (pc := 21) dJ5_grow_2_21 rfl 1 rfl ?_
  refine z_iload_n hC (pc := 22) dJ5_grow_2_22 rfl 2 rfl ?_
  refine z_isub hC (pc := 23) dJ5_grow_2_23 ?_
  refine z_iload_n hC (pc := 24) dJ5_grow_2_24 rfl 2 rfl ?_
  refine z_iconst (v := 1) hC (pc := 25) dJ5_grow_2_25 zki_1 ?_
  refine z_ishr hC (pc := 26) dJ5_grow_2_26 ?_
  refine z_cI (rest := []) hf (fun v1 s2 hcall => z_runS hC (pc := 27) 3 (m_J14_newLength X.g l2 (l1 - l2) (l2 >>> ((1 : Int32) &&& 31)) s0 s2 v1 hcall) (lw_S q1668 q600 q118 q601) hd_J14_newLength ⟨(Nat.le_of_ble_eq_true rfl), (Nat.le_of_ble_eq_true rfl)⟩ rfl (Nat.le_of_ble_eq_true rfl) dJ5_grow_2_27 rfl) (fun v1 s2 hf => ?_)
  refine z_istore_n (lv' := [(3, zi v1), (0, zr (some l0)), (1, zi l1), (2, zi l2)]) hC (pc := 30) hL dJ5_grow_2_30 rfl (Nat.le_of_ble_eq_true rfl) rfl ?_
  refine z_aload_n hC (pc := 31) dJ5_grow_2_31 rfl 1 rfl ?_
  refine z_aload_n hC (pc := 32) dJ5_grow_2_32 rfl 1 rfl ?_
  refine z_getR hC (pc := 33) in_J5 zcJ5 1 (Nat.le_of_ble_eq_true rfl) (zLk.o hC q274) zsm dJ5_grow_2_33 hf (fun v3 hf => ?_)
  refine z_iload_n hC (pc := 36) dJ5_grow_2_36 rfl 0 rfl ?_
  refine z_cR (rest := [zr (some l0)]) hf (fun v4 s5 hcall => z_runS hC (pc := 37) 2 (m_J16_copyOf_3 X.g v3 v1 s2 s5 v4 hcall) (lw_S q1669 q1670 q120 q1671) hd_J16_copyOf_3 ⟨(Nat.le_of_ble_eq_true rfl), (Nat.le_of_ble_eq_true rfl)⟩ rfl (Nat.le_of_ble_eq_true rfl) dJ5_grow_2_37 rfl) (fun v4 s5 hf => ?_)
  refine z_dup_x1 hC (pc := 40) dJ5_grow_2_40 rfl rfl ?_
  refine z_putV (v := zr v4) hC (pc := 41) in_J5 tyJ5 tyJ5_ok nmJ5 zcJ5 1 (Nat.le_of_ble_eq_true rfl) (zLk.o hC q274) zsm (Or.inl rfl) rfl (zfa v4) dJ5_grow_2_41 hf (fun s6 hf => ?_)
  exact z_areturn hC (pc := 44) (Or.inr ⟨_, rfl⟩) hQ dJ5_grow_2_44 hf
def f_J5_grow_2 (G : Nat → Nat) (l0 : Nat) (l1 : Int32) (s0 : zS) : Option ((Option Nat) × zS) :=
zo (zgR s0 (some l0) 15 1) fun v1 =>
zo (zlen s0 v1) fun v2 =>
if 0 < v2 then (f_J5_grow_2_b20 G l0 l1 v2 s0)
else (zo (zgR s0 (some l0) 15 1) fun v4 =>
if v4 = (some (G 3)) then (zb (znewA G s0 5 (if 10 < l1 then l1 else 10) (.inr (.inr fun _ => none))) fun a6 s7 =>
zo (zput G s7 (some l0) 15 1 (va_rf (some a6))) fun s8 =>
some ((some a6), s8))
else (f_J5_grow_2_b20 G l0 l1 v2 s0))
set_option maxHeartbeats 4000000 in
theorem m_J5_grow_2 (Γ : zG) (l0 : Nat) (l1 : Int32) (s0 s1 : zS) (r : (Option Nat)) (hf : f_J5_grow_2 Γ.1 l0 l1 s0 = some (r, s1)) : ZM Γ yJ5_grow_2 (ws_ yJ5_grow_2 cJ5_grow_2 4 (some (.array (.object "java/lang/Object")))) 3 104 [zr (some l0), zi l1] s0 (.inl (some (zr r)), s1) := by
  refine ZM.of (own := RJ5) (by decide) rfl (Nat.le_of_ble_eq_true rfl) ?_
  intro X hg hC hL hno hQ hin
  subst hg
  unfold f_J5_grow_2 at hf
  refine z_aload_n hC (pc := 0) dJ5_grow_2_0 rfl 0 rfl ?_
  refine z_getR hC (pc := 1) in_J5 zcJ5 1 (Nat.le_of_ble_eq_true rfl) (zLk.o hC q274) zsm dJ5_grow_2_1 hf (fun v1 hf => ?_)
  refine z_alen hC (pc := 4) dJ5_grow_2_4 hf (fun v2 hf => ?_)
  refine z_istore_n (lv' := [(2, zi v2), (0, zr (some l0)), (1, zi l1)]) hC (pc := 5) hL dJ5_grow_2_5 rfl (Nat.le_of_ble_eq_true rfl) rfl ?_
  refine z_iload_n hC (pc := 6) dJ5_grow_2_6 rfl 0 rfl ?_
  refine z_if_gt hC (pc := 7) (tgt := 20) dJ5_grow_2_7 rfl (fun c3 => ?_) (fun c3 => ?_)
  · have hf := zif_t hf c3
    refine ZW.perm (lv' := [(0, zr (some l0)), (1, zi l1), (2, zi v2)]) [1, 2, 0] rfl ?_
    exact w_J5_grow_2_b20 hC hL hno hQ l0 l1 v2 s0 hf
  · have hf := zif_f hf c3
    refine z_aload_n hC (pc := 10) dJ5_grow_2_10 rfl 1 rfl ?_
    refine z_getR hC (pc := 11) in_J5 zcJ5 1 (Nat.le_of_ble_eq_true rfl) (zLk.o hC q274) zsm dJ5_grow_2_11 hf (fun v4 hf => ?_)
    refine z_gets (v := zr (some (X.g.1 3))) hC (pc := 14) (List.mem_of_getElem? (i := 3) rfl) q272 dJ5_grow_2_14 ?_
    refine z_acmp_eq hC (pc := 17) (tgt := 45) dJ5_grow_2_17 rfl (fun c5 => ?_) (fun c5 => ?_)
    · have hf := zif_t hf c5
      refine z_aload_n hC (pc := 45) dJ5_grow_2_45 rfl 1 rfl ?_
      refine z_bipush (v := 10) hC (pc := 46) dJ5_grow_2_46 zkb_10 ?_
      refine z_iload_n hC (pc := 48) dJ5_grow_2_48 rfl 2 rfl ?_
      refine z_mmax hC (pc := 49) q1678 q603 q119 q604 (Nat.le_of_ble_eq_true rfl) (Nat.le_of_ble_eq_true rfl) dJ5_grow_2_49 ?_
      refine z_anew hC (pc := 52) q1679 dJ5_grow_2_52 hf (fun a6 s7 hf => ?_)
      refine z_dup_x1 hC (pc := 55) dJ5_grow_2_55 rfl rfl ?_
      refine z_putV (v := zr (some a6)) hC (pc := 56) in_J5 tyJ5 tyJ5_ok nmJ5 zcJ5 1 (Nat.le_of_ble_eq_true rfl) (zLk.o hC q274) zsm (Or.inl rfl) rfl (zfa (some a6)) dJ5_grow_2_56 hf (fun s8 hf => ?_)
      exact z_areturn hC (pc := 59) (Or.inr ⟨_, rfl⟩) hQ dJ5_grow_2_59 hf
    · have hf := zif_f hf c5
      refine ZW.perm (lv' := [(0, zr (some l0)), (1, zi l1), (2, zi v2)]) [1, 2, 0] rfl ?_
      exact w_J5_grow_2_b20 hC hL hno hQ l0 l1 v2 s0 hf
/-! java/util/ArrayList.grow()[Ljava/lang/Object; -/
def f_J5_grow (G : Nat → Nat) (l0 : Nat) (s0 : zS) : Option ((Option Nat) × zS) :=
zo (zgI s0 (some l0) 15 2) fun v1 =>
zo (zrc s0 (some l0) 15) fun _ =>
zb (f_J5_grow_2 G l0 (v1 + 1) s0) fun v4 s5 =>
some (v4, s5)
set_option maxHeartbeats 4000000 in
theorem m_J5_grow (Γ : zG) (l0 : Nat) (s0 s1 : zS) (r : (Option Nat)) (hf : f_J5_grow Γ.1 l0 s0 = some (r, s1)) : ZM Γ yJ5_grow (ws_ yJ5_grow cJ5_grow 1 (some (.array (.object "java/lang/Object")))) 4 127 [zr (some l0)] s0 (.inl (some (zr r)), s1) := by
  refine ZM.of (own := RJ5) (by decide) rfl (Nat.le_of_ble_eq_true rfl) ?_
  intro X hg hC hL hno hQ hin
  subst hg
  unfold f_J5_grow at hf
  refine z_aload_n hC (pc := 0) dJ5_grow_0 rfl 0 rfl ?_
  refine z_aload_n hC (pc := 1) dJ5_grow_1 rfl 0 rfl ?_
  refine z_getI hC (pc := 2) in_J5 zcJ5 2 (Nat.le_of_ble_eq_true rfl) (zLk.o hC q277) zsm dJ5_grow_2 hf (fun v1 hf => ?_)
  refine z_iconst (v := 1) hC (pc := 5) dJ5_grow_5 zki_1 ?_
  refine z_iadd hC (pc := 6) dJ5_grow_6 ?_
  obtain ⟨fs2, ha3, hf⟩ := z_rcN hf
  refine z_cR (rest := []) hf (fun v4 s5 hcall => z_runV hC (pc := 7) zcJ5 1 ha3 (m_J5_grow_2 X.g l0 (v1 + 1) s0 s5 v4 hcall) (lw_V q1664 q1666 qs13 q104 q1667) hdV_J5_grow_2 ⟨(Nat.le_of_ble_eq_true rfl), (Nat.le_of_ble_eq_true rfl)⟩ rfl (Nat.le_of_ble_eq_true rfl) dJ5_grow_7 rfl) (fun v4 s5 hf => ?_)
  exact z_areturn hC (pc := 10) (Or.inr ⟨_, rfl⟩) hQ dJ5_grow_10 hf
/-! java/util/ArrayList.add(Ljava/lang/Object;[Ljava/lang/Object;I)V -/
def f_J5_add_2_b11 (G : Nat → Nat) (l0 : Nat) (l1 : Option Nat) (l2 : Option Nat) (l3 : Int32) (s0 : zS) : Option (Unit × zS) :=
zo (zsR G s0 l2 l3 l1 zok) fun s1 =>
zo (zput G s1 (some l0) 15 2 (.int (l3 + 1))) fun s2 =>
some ((), s2)
set_option maxHeartbeats 4000000 in
theorem w_J5_add_2_b11 {X : zX} (hC : ZC X RJ5 cJ5_add_2 none 5 147) (hL : X.nL = 4) (hno : ∀ x ∈ X.c.exceptionTable.toList, False) {r : Unit} {sF : zS} (hQ : ZQ X (.inl none, sF)) (l0 : Nat) (l1 : Option Nat) (l2 : Option Nat) (l3 : Int32) (s0 : zS) (hf : f_J5_add_2_b11 X.g.1 l0 l1 l2 l3 s0 = some (r, sF)) : ZW X s0 11 [(0, zr (some l0)), (1, zr l1), (2, zr l2), (3, zi l3)] [] := by
  unfold f_J5_add_2_b11 at hf
  refine z_aload_n hC (pc := 11) dJ5_add_2_11 rfl 2 rfl ?_
  refine z_iload_n hC (pc := 12) dJ5_add_2_12 rfl 3 rfl ?_
  refine z_aload_n hC (pc := 13) dJ5_add_2_13 rfl 1 rfl ?_
  refine z_aast hC (pc := 14) zok_obs dJ5_add_2_14 hf (fun s1 hf => ?_)
  refine z_aload_n hC (pc := 15) dJ5_add_2_15 rfl 0 rfl ?_
  refine z_iload_n hC (pc := 16) dJ5_add_2_16 rfl 3 rfl ?_
  refine z_iconst (v := 1) hC (pc := 17) dJ5_add_2_17 zki_1 ?_
  refine z_iadd hC (pc := 18) dJ5_add_2_18 ?_
  refine z_putV (v := zi (l3 + 1)) hC (pc := 19) in_J5 tyJ5 tyJ5_ok nmJ5 zcJ5 2 (Nat.le_of_ble_eq_true rfl) (zLk.o hC q277) zsm (Or.inl rfl) rfl rfl dJ5_add_2_19 hf (fun s2 hf => ?_)
  exact z_return hC (pc := 22) hQ dJ5_add_2_22 hf
def f_J5_add_2 (G : Nat → Nat) (l0 : Nat) (l1 : Option Nat) (l2 : Option Nat) (l3 : Int32) (s0 : zS) : Option (Unit × zS) :=
zo (zlen s0 l2) fun v1 =>
if l3 = v1 then (zo (zrc s0 (some l0) 15) fun _ =>
zb (f_J5_grow G l0 s0) fun v5 s6 =>
f_J5_add_2_b11 G l0 l1 v5 l3 s6)
else (f_J5_add_2_b11 G l0 l1 l2 l3 s0)
set_option maxHeartbeats 4000000 in
theorem m_J5_add_2 (Γ : zG) (l0 : Nat) (l1 : Option Nat) (l2 : Option Nat) (l3 : Int32) (s0 s1 : zS) (r : Unit) (hf : f_J5_add_2 Γ.1 l0 l1 l2 l3 s0 = some (r, s1)) : ZM Γ yJ5_add_2 (ws_ yJ5_add_2 cJ5_add_2 4 none) 5 147 [zr (some l0), zr l1, zr l2, zi l3] s0 (.inl none, s1) := by
  refine ZM.of (own := RJ5) (by decide) rfl (Nat.le_of_ble_eq_true rfl) ?_
  intro X hg hC hL hno hQ hin
  subst hg
  unfold f_J5_add_2 at hf
  refine z_iload_n hC (pc := 0) dJ5_add_2_0 rfl 3 rfl ?_
  refine z_aload_n hC (pc := 1) dJ5_add_2_1 rfl 2 rfl ?_
  refine z_alen hC (pc := 2) dJ5_add_2_2 hf (fun v1 hf => ?_)
  refine z_icmp_ne hC (pc := 3) (tgt := 11) dJ5_add_2_3 rfl (fun c2 => ?_) (fun c2 => ?_)
  · have hf := zif_f hf c2
    exact w_J5_add_2_b11 hC hL hno hQ l0 l1 l2 l3 s0 hf
  · have hf := zif_t hf c2
    refine z_aload_n hC (pc := 6) dJ5_add_2_6 rfl 0 rfl ?_
    obtain ⟨fs3, ha4, hf⟩ := z_rcN hf
    refine z_cR (rest := []) hf (fun v5 s6 hcall => z_runV hC (pc := 7) zcJ5 0 ha4 (m_J5_grow X.g l0 s0 s6 v5 hcall) (lw_V q1660 q1662 qs12 q104 q1663) hdV_J5_grow ⟨(Nat.le_of_ble_eq_true rfl), (Nat.le_of_ble_eq_true rfl)⟩ rfl (Nat.le_of_ble_eq_true rfl) dJ5_add_2_7 rfl) (fun v5 s6 hf => ?_)
    refine z_astore_n (lv' := [(2, zr v5), (0, zr (some l0)), (1, zr l1), (3, zi l3)]) hC (pc := 10) hL dJ5_add_2_10 rfl (Nat.le_of_ble_eq_true rfl) rfl ?_
    refine ZW.perm (lv' := [(0, zr (some l0)), (1, zr l1), (2, zr v5), (3, zi l3)]) [1, 2, 0, 3] rfl ?_
    exact w_J5_add_2_b11 hC hL hno hQ l0 l1 v5 l3 s6 hf
/-! java/util/ArrayList.add(Ljava/lang/Object;)Z -/
def f_J5_add (G : Nat → Nat) (l0 : Nat) (l1 : Option Nat) (s0 : zS) : Option (Int32 × zS) :=
zo (zgI s0 (some l0) 15 0) fun v1 =>
zo (zput G s0 (some l0) 15 0 (.int (v1 + 1))) fun s2 =>
zo (zgR s2 (some l0) 15 1) fun v3 =>
zo (zgI s2 (some l0) 15 2) fun v4 =>
zo (zrc s2 (some l0) 15) fun _ =>
zb (f_J5_add_2 G l0 l1 v3 v4 s2) fun _ s8 =>
zrn .boolean 1 s8
set_option maxHeartbeats 4000000 in
theorem m_J5_add (Γ : zG) (l0 : Nat) (l1 : Option Nat) (s0 s1 : zS) (r : Int32) (hf : f_J5_add Γ.1 l0 l1 s0 = some (r, s1)) : ZM Γ yJ5_add (ws_ yJ5_add cJ5_add 2 (some .boolean)) 6 170 [zr (some l0), zr l1] s0 (.inl (some (zi r)), s1) := by
  refine ZM.of (own := RJ5) (by decide) rfl (Nat.le_of_ble_eq_true rfl) ?_
  intro X hg hC hL hno hQ hin
  subst hg
  unfold f_J5_add at hf
  refine z_aload_n hC (pc := 0) dJ5_add_0 rfl 0 rfl ?_
  refine z_dup hC (pc := 1) dJ5_add_1 rfl ?_
  refine z_getI hC (pc := 2) in_J5 zcJ5 0 (Nat.le_of_ble_eq_true rfl) (zLk.o hC q285) (fun x hx => u_same (hC.ts _ q282) x hx) dJ5_add_2 hf (fun v1 hf => ?_)
  refine z_iconst (v := 1) hC (pc := 5) dJ5_add_5 zki_1 ?_
  refine z_iadd hC (pc := 6) dJ5_add_6 ?_
  refine z_putV (v := zi (v1 + 1)) hC (pc := 7) in_J5 tyJ5 tyJ5_ok nmJ5 zcJ5 0 (Nat.le_of_ble_eq_true rfl) (zLk.o hC q285) (fun x hx => u_same (hC.ts _ q282) x hx) (Or.inl rfl) rfl rfl dJ5_add_7 hf (fun s2 hf => ?_)
  refine z_aload_n hC (pc := 10) dJ5_add_10 rfl 0 rfl ?_
  refine z_aload_n hC (pc := 11) dJ5_add_11 rfl 1 rfl ?_
  refine z_aload_n hC (pc := 12) dJ5_add_12 rfl 0 rfl ?_
  refine z_getR hC (pc := 13) in_J5 zcJ5 1 (Nat.le_of_ble_eq_true rfl) (zLk.o hC q274) zsm dJ5_add_13 hf (fun v3 hf => ?_)
  refine z_aload_n hC (pc := 16) dJ5_add_16 rfl 0 rfl ?_
  refine z_getI hC (pc := 17) in_J5 zcJ5 2 (Nat.le_of_ble_eq_true rfl) (zLk.o hC q277) zsm dJ5_add_17 hf (fun v4 hf => ?_)
  obtain ⟨fs5, ha6, hf⟩ := z_rcN hf
  refine z_cU (rest := []) hf (fun v7 s8 hcall => z_runV hC (pc := 20) zcJ5 3 ha6 (m_J5_add_2 X.g l0 l1 v3 v4 s2 s8 v7 hcall) (lw_V q1656 q1658 qs11 q104 q1659) hdV_J5_add_2 ⟨(Nat.le_of_ble_eq_true rfl), (Nat.le_of_ble_eq_true rfl)⟩ rfl (Nat.le_of_ble_eq_true rfl) dJ5_add_20 rfl) (fun _ s8 hf => ?_)
  refine z_iconst (v := 1) hC (pc := 23) dJ5_add_23 zki_1 ?_
  exact z_zreturn hC (pc := 24) hQ dJ5_add_24 hf
/-! java/util/ArrayList.elementData(I)Ljava/lang/Object; -/
def f_J5_elementData (G : Nat → Nat) (l0 : Nat) (l1 : Int32) (s0 : zS) : Option ((Option Nat) × zS) :=
zo (zgR s0 (some l0) 15 1) fun v1 =>
zo (zaR s0 v1 l1) fun v2 =>
some (v2, s0)
set_option maxHeartbeats 4000000 in
theorem m_J5_elementData (Γ : zG) (l0 : Nat) (l1 : Int32) (s0 s1 : zS) (r : (Option Nat)) (hf : f_J5_elementData Γ.1 l0 l1 s0 = some (r, s1)) : ZM Γ yJ5_elementData (ws_ yJ5_elementData cJ5_elementData 2 (some (.object "java/lang/Object"))) 1 0 [zr (some l0), zi l1] s0 (.inl (some (zr r)), s1) := by
  refine ZM.of (own := RJ5) (by decide) rfl (Nat.le_of_ble_eq_true rfl) ?_
  intro X hg hC hL hno hQ hin
  subst hg
  unfold f_J5_elementData at hf
  refine z_aload_n hC (pc := 0) dJ5_elementData_0 rfl 0 rfl ?_
  refine z_getR hC (pc := 1) in_J5 zcJ5 1 (Nat.le_of_ble_eq_true rfl) (zLk.o hC q274) zsm dJ5_elementData_1 hf (fun v1 hf => ?_)
  refine z_iload_n hC (pc := 4) dJ5_elementData_4 rfl 1 rfl ?_
  refine z_aald hC (pc := 5) dJ5_elementData_5 hf (fun v2 hf => ?_)
  exact z_areturn hC (pc := 6) (Or.inl ⟨_, rfl⟩) hQ dJ5_elementData_6 hf
/-! java/util/ArrayList.get(I)Ljava/lang/Object; -/
def f_J5_get (G : Nat → Nat) (l0 : Nat) (l1 : Int32) (s0 : zS) : Option ((Option Nat) × zS) :=
zo (zgI s0 (some l0) 15 2) fun v1 =>
zb (f_J28_checkIndex G l1 v1 s0) fun v2 s3 =>
zo (zrc s3 (some l0) 15) fun _ =>
zb (f_J5_elementData G l0 l1 s3) fun v6 s7 =>
some (v6, s7)
set_option maxHeartbeats 4000000 in
theorem m_J5_get (Γ : zG) (l0 : Nat) (l1 : Int32) (s0 s1 : zS) (r : (Option Nat)) (hf : f_J5_get Γ.1 l0 l1 s0 = some (r, s1)) : ZM Γ yJ5_get (ws_ yJ5_get cJ5_get 2 (some (.object "java/lang/Object"))) 3 43 [zr (some l0), zi l1] s0 (.inl (some (zr r)), s1) := by
  refine ZM.of (own := RJ5) (by decide) rfl (Nat.le_of_ble_eq_true rfl) ?_
  intro X hg hC hL hno hQ hin
  subst hg
  unfold f_J5_get at hf
  refine z_iload_n hC (pc := 0) dJ5_get_0 rfl 1 rfl ?_
  refine z_aload_n hC (pc := 1) dJ5_get_1 rfl 0 rfl ?_
  refine z_getI hC (pc := 2) in_J5 zcJ5 2 (Nat.le_of_ble_eq_true rfl) (zLk.o hC q277) zsm dJ5_get_2 hf (fun v1 hf => ?_)
  refine z_cI (rest := []) hf (fun v2 s3 hcall => z_runS hC (pc := 5) 2 (m_J28_checkIndex X.g l1 v1 s0 s3 v2 hcall) (lw_S q483 q484 q137 q485) hd_J28_checkIndex ⟨(Nat.le_of_ble_eq_true rfl), (Nat.le_of_ble_eq_true rfl)⟩ rfl (Nat.le_of_ble_eq_true rfl) dJ5_get_5 rfl) (fun v2 s3 hf => ?_)
  refine z_pop hC (pc := 8) dJ5_get_8 rfl ?_
  refine z_aload_n hC (pc := 9) dJ5_get_9 rfl 0 rfl ?_
  refine z_iload_n hC (pc := 10) dJ5_get_10 rfl 1 rfl ?_
  obtain ⟨fs4, ha5, hf⟩ := z_rcN hf
  refine z_cR (rest := []) hf (fun v6 s7 hcall => z_runV hC (pc := 11) zcJ5 1 ha5 (m_J5_elementData X.g l0 l1 s3 s7 v6 hcall) (lw_V q489 q490 q491 q104 q492) hdV_J5_elementData ⟨(Nat.le_of_ble_eq_true rfl), (Nat.le_of_ble_eq_true rfl)⟩ rfl (Nat.le_of_ble_eq_true rfl) dJ5_get_11 rfl) (fun v6 s7 hf => ?_)
  exact z_areturn hC (pc := 14) (Or.inl ⟨_, rfl⟩) hQ dJ5_get_14 hf
/-! java/util/ArrayList.<init>()V -/
def f_J5_init (G : Nat → Nat) (l0 : Nat) (s0 : zS) : Option (Unit × zS) :=
zb (f_J4_init_J5 G l0 s0) fun _ s2 =>
zo (zput G s2 (some l0) 15 1 (va_rf (some (G 3)))) fun s3 =>
some ((), s3)
set_option maxHeartbeats 4000000 in
theorem m_J5_init (Γ : zG) (l0 : Nat) (s0 s1 : zS) (r : Unit) (hf : f_J5_init Γ.1 l0 s0 = some (r, s1)) : ZM Γ yJ5_init (ws_ yJ5_init cJ5_init 1 none) 3 52 [zr (some l0)] s0 (.inl none, s1) := by
  refine ZM.of (own := RJ5) (by decide) rfl (Nat.le_of_ble_eq_true rfl) ?_
  intro X hg hC hL hno hQ hin
  subst hg
  unfold f_J5_init at hf
  refine z_aload_n hC (pc := 0) dJ5_init_0 rfl 0 rfl ?_
  refine z_cU (rest := []) hf (fun v1 s2 hcall => z_runI hC (pc := 1) 0 (m_J4_init_J5 X.g l0 s0 s2 v1 hcall) q270 rfl q103 q268 q269 hd_J4_init ⟨(Nat.le_of_ble_eq_true rfl), (Nat.le_of_ble_eq_true rfl)⟩ rfl (Nat.le_of_ble_eq_true rfl) dJ5_init_1 rfl) (fun _ s2 hf => ?_)
  refine z_aload_n hC (pc := 4) dJ5_init_4 rfl 0 rfl ?_
  refine z_gets (v := zr (some (X.g.1 3))) hC (pc := 5) (List.mem_of_getElem? (i := 3) rfl) q272 dJ5_init_5 ?_
  refine z_putV (v := zr (some (X.g.1 3))) hC (pc := 8) in_J5 tyJ5 tyJ5_ok nmJ5 zcJ5 1 (Nat.le_of_ble_eq_true rfl) (zLk.o hC q274) zsm (Or.inl rfl) rfl (zfa (some (X.g.1 3))) dJ5_init_8 hf (fun s3 hf => ?_)
  exact z_return hC (pc := 11) hQ dJ5_init_11 hf
/-! java/util/ArrayList.isEmpty()Z -/
def f_J5_isEmpty (G : Nat → Nat) (l0 : Nat) (s0 : zS) : Option (Int32 × zS) :=
zo (zgI s0 (some l0) 15 2) fun v1 =>
if v1 = 0 then (zrn .boolean 1 s0)
else (zrn .boolean 0 s0)
set_option maxHeartbeats 4000000 in
theorem m_J5_isEmpty (Γ : zG) (l0 : Nat) (s0 s1 : zS) (r : Int32) (hf : f_J5_isEmpty Γ.1 l0 s0 = some (r, s1)) : ZM Γ yJ5_isEmpty (ws_ yJ5_isEmpty cJ5_isEmpty 1 (some .boolean)) 1 0 [zr (some l0)] s0 (.inl (some (zi r)), s1) := by
  refine ZM.of (own := RJ5) (by decide) rfl (Nat.le_of_ble_eq_true rfl) ?_
  intro X hg hC hL hno hQ hin
  subst hg
  unfold f_J5_isEmpty at hf
  refine z_aload_n hC (pc := 0) dJ5_isEmpty_0 rfl 0 rfl ?_
  refine z_getI hC (pc := 1) in_J5 zcJ5 2 (Nat.le_of_ble_eq_true rfl) (zLk.o hC q277) zsm dJ5_isEmpty_1 hf (fun v1 hf => ?_)
  refine z_if_ne hC (pc := 4) (tgt := 11) dJ5_isEmpty_4 rfl (fun c2 => ?_) (fun c2 => ?_)
  · have hf := zif_f hf c2
    refine z_iconst (v := 0) hC (pc := 11) dJ5_isEmpty_11 zki_0 ?_
    exact z_zreturn hC (pc := 12) hQ dJ5_isEmpty_12 hf
  · have hf := zif_t hf c2
    refine z_iconst (v := 1) hC (pc := 7) dJ5_isEmpty_7 zki_1 ?_
    refine z_goto hC (pc := 8) (tgt := 12) dJ5_isEmpty_8 rfl ?_
    exact z_zreturn hC (pc := 12) hQ dJ5_isEmpty_12 hf
/-! java/util/ArrayList.iterator()Ljava/util/Iterator; -/
def f_J5_iterator (G : Nat → Nat) (l0 : Nat) (s0 : zS) : Option ((Option Nat) × zS) :=
zb (znewO G s0 24 4 [.int 0, .int 0, .int 0, .null]) fun a1 s2 =>
zb (f_J39_init G a1 (some l0) s2) fun _ s4 =>
some ((some a1), s4)
set_option maxHeartbeats 4000000 in
theorem m_J5_iterator (Γ : zG) (l0 : Nat) (s0 s1 : zS) (r : (Option Nat)) (hf : f_J5_iterator Γ.1 l0 s0 = some (r, s1)) : ZM Γ yJ5_iterator (ws_ yJ5_iterator cJ5_iterator 1 (some (.object "java/util/Iterator"))) 2 33 [zr (some l0)] s0 (.inl (some (zr r)), s1) := by
  refine ZM.of (own := RJ5) (by decide) rfl (Nat.le_of_ble_eq_true rfl) ?_
  intro X hg hC hL hno hQ hin
  subst hg
  unfold f_J5_iterator at hf
  refine z_new hC (pc := 0) in_J39 tyJ39 tyJ39_ok zcJ39 q1705 q1706 q151 rfl zdJ39 dJ5_iterator_0 hf (fun a1 s2 hf => ?_)
  refine z_dup hC (pc := 3) dJ5_iterator_3 rfl ?_
  refine z_aload_n hC (pc := 4) dJ5_iterator_4 rfl 0 rfl ?_
  refine z_cU (rest := [zr (some a1)]) hf (fun v3 s4 hcall => z_runI hC (pc := 5) 1 (m_J39_init X.g a1 (some l0) s2 s4 v3 hcall) q1709 rfl q151 q1707 q1708 hd_J39_init ⟨(Nat.le_of_ble_eq_true rfl), (Nat.le_of_ble_eq_true rfl)⟩ rfl (Nat.le_of_ble_eq_true rfl) dJ5_iterator_5 rfl) (fun _ s4 hf => ?_)
  exact z_areturn hC (pc := 8) (Or.inl ⟨_, rfl⟩) hQ dJ5_iterator_8 hf
/-! java/util/ArrayList.set(ILjava/lang/Object;)Ljava/lang/Object; -/
def f_J5_set (G : Nat → Nat) (l0 : Nat) (l1 : Int32) (l2 : Option Nat) (s0 : zS) : Option ((Option Nat) × zS) :=
zo (zgI s0 (some l0) 15 2) fun v1 =>
zb (f_J28_checkIndex G l1 v1 s0) fun v2 s3 =>
zo (zrc s3 (some l0) 15) fun _ =>
zb (f_J5_elementData G l0 l1 s3) fun v6 s7 =>
zo (zgR s7 (some l0) 15 1) fun v8 =>
zo (zsR G s7 v8 l1 l2 zok) fun s9 =>
some (v6, s9)
set_option maxHeartbeats 4000000 in
theorem m_J5_set (Γ : zG) (l0 : Nat) (l1 : Int32) (l2 : Option Nat) (s0 s1 : zS) (r : (Option Nat)) (hf : f_J5_set Γ.1 l0 l1 l2 s0 = some (r, s1)) : ZM Γ yJ5_set (ws_ yJ5_set cJ5_set 4 (some (.object "java/lang/Object"))) 3 43 [zr (some l0), zi l1, zr l2] s0 (.inl (some (zr r)), s1) := by
  refine ZM.of (own := RJ5) (by decide) rfl (Nat.le_of_ble_eq_true rfl) ?_
  intro X hg hC hL hno hQ hin
  subst hg
  unfold f_J5_set at hf
  refine z_iload_n hC (pc := 0) dJ5_set_0 rfl 1 rfl ?_
  refine z_aload_n hC (pc := 1) dJ5_set_1 rfl 0 rfl ?_
  refine z_getI hC (pc := 2) in_J5 zcJ5 2 (Nat.le_of_ble_eq_true rfl) (zLk.o hC q277) zsm dJ5_set_2 hf (fun v1 hf => ?_)
  refine z_cI (rest := []) hf (fun v2 s3 hcall => z_runS hC (pc := 5) 2 (m_J28_checkIndex X.g l1 v1 s0 s3 v2 hcall) (lw_S q483 q484 q137 q485) hd_J28_checkIndex ⟨(Nat.le_of_ble_eq_true rfl), (Nat.le_of_ble_eq_true rfl)⟩ rfl (Nat.le_of_ble_eq_true rfl) dJ5_set_5 rfl) (fun v2 s3 hf => ?_)
  refine z_pop hC (pc := 8) dJ5_set_8 rfl ?_
  refine z_aload_n hC (pc := 9) dJ5_set_9 rfl 0 rfl ?_
  refine z_iload_n hC (pc := 10) dJ5_set_10 rfl 1 rfl ?_
  obtain ⟨fs4, ha5, hf⟩ := z_rcN hf
  refine z_cR (rest := []) hf (fun v6 s7 hcall => z_runV hC (pc := 11) zcJ5 1 ha5 (m_J5_elementData X.g l0 l1 s3 s7 v6 hcall) (lw_V q489 q490 q491 q104 q492) hdV_J5_elementData ⟨(Nat.le_of_ble_eq_true rfl), (Nat.le_of_ble_eq_true rfl)⟩ rfl (Nat.le_of_ble_eq_true rfl) dJ5_set_11 rfl) (fun v6 s7 hf => ?_)
  refine z_astore_n (lv' := [(3, zr v6), (0, zr (some l0)), (1, zi l1), (2, zr l2)]) hC (pc := 14) hL dJ5_set_14 rfl (Nat.le_of_ble_eq_true rfl) rfl ?_
  refine z_aload_n hC (pc := 15) dJ5_set_15 rfl 1 rfl ?_
  refine z_getR hC (pc := 16) in_J5 zcJ5 1 (Nat.le_of_ble_eq_true rfl) (zLk.o hC q274) zsm dJ5_set_16 hf (fun v8 hf => ?_)
  refine z_iload_n hC (pc := 19) dJ5_set_19 rfl 2 rfl ?_
  refine z_aload_n hC (pc := 20) dJ5_set_20 rfl 3 rfl ?_
  refine z_aast hC (pc := 21) zok_obs dJ5_set_21 hf (fun s9 hf => ?_)
  refine z_aload_n hC (pc := 22) dJ5_set_22 rfl 0 rfl ?_
  exact z_areturn hC (pc := 23) (Or.inl ⟨_, rfl⟩) hQ dJ5_set_23 hf
/-! java/util/ArrayList.size()I -/
def f_J5_size (G : Nat → Nat) (l0 : Nat) (s0 : zS) : Option (Int32 × zS) :=
zo (zgI s0 (some l0) 15 2) fun v1 =>
some (v1, s0)
set_option maxHeartbeats 4000000 in
theorem m_J5_size (Γ : zG) (l0 : Nat) (s0 s1 : zS) (r : Int32) (hf : f_J5_size Γ.1 l0 s0 = some (r, s1)) : ZM Γ yJ5_size (ws_ yJ5_size cJ5_size 1 (some .int)) 1 0 [zr (some l0)] s0 (.inl (some (zi r)), s1) := by
  refine ZM.of (own := RJ5) (by decide) rfl (Nat.le_of_ble_eq_true rfl) ?_
  intro X hg hC hL hno hQ hin
  subst hg
  unfold f_J5_size at hf
  refine z_aload_n hC (pc := 0) dJ5_size_0 rfl 0 rfl ?_
  refine z_getI hC (pc := 1) in_J5 zcJ5 2 (Nat.le_of_ble_eq_true rfl) (zLk.o hC q277) zsm dJ5_size_1 hf (fun v1 hf => ?_)
  exact z_ireturn hC (pc := 4) hQ dJ5_size_4 hf
/-! java/lang/Throwable.<init>(Ljava/lang/String;Ljava/lang/Throwable;ZZ)V -/
def f_J6_init_4_X10_b41 (G : Nat → Nat) (l0 : Nat) (l1 : Option Nat) (l2 : Option Nat) (l3 : Int32) (s0 : zS) : Option (Unit × zS) :=
zo (zput G s0 (some l0) 8 3 (va_rf l1)) fun s1 =>
zo (zput G s1 (some l0) 8 0 (va_rf l2)) fun s2 =>
if l3 = 0 then (zo (zput G s2 (some l0) 8 2 (va_rf none)) fun s4 =>
some ((), s4))
else (some ((), s2))
set_option maxHeartbeats 4000000 in
theorem w_J6_init_4_X10_b41 {X : zX} (hC : ZC X RJ6 cJ6_init_4 none 1 12) (hL : X.nL = 5) (hno : ∀ x ∈ X.c.exceptionTable.toList, False) (hin : X.meth.name = "<init>") {r : Unit} {sF : zS} (hQ : ZQ X (.inl none, sF)) (l0 : Nat) (l1 : Option Nat) (l2 : Option Nat) (l3 : Int32) (s0 : zS) (hf : f_J6_init_4_X10_b41 X.g.1 l0 l1 l2 l3 s0 = some (r, sF)) : ZW X s0 41 [(0, zr (some l0)), (1, zr l1), (2, zr l2), (3, zi l3)] [] := by
  unfold f_J6_init_4_X10_b41 at hf
  refine z_aload_n hC (pc := 41) dJ6_init_4_41 rfl 0 rfl ?_
  refine z_aload_n hC (pc := 42) dJ6_init_4_42 rfl 1 rfl ?_
  refine z_putV (v := zr l1) hC (pc := 43) in_X10 tyX10 tyX10_ok nmX10 zcX10 3 (Nat.le_of_ble_eq_true rfl) (zLk.o hC q795) zsm (Or.inl rfl) rfl (zfr l1) dJ6_init_4_43 hf (fun s1 hf => ?_)
  refine z_aload_n hC (pc := 46) dJ6_init_4_46 rfl 0 rfl ?_
  refine z_aload_n hC (pc := 47) dJ6_init_4_47 rfl 2 rfl ?_
  refine z_putV (v := zr l2) hC (pc := 48) in_X10 tyX10 tyX10_ok nmX10 zcX10 0 (Nat.le_of_ble_eq_true rfl) (zLk.o hC q796) zsm (Or.inl rfl) rfl (zfr l2) dJ6_init_4_48 hf (fun s2 hf => ?_)
  refine z_iload_n hC (pc := 51) dJ6_init_4_51 rfl 3 rfl ?_
  refine z_if_ne hC (pc := 52) (tgt := 60) dJ6_init_4_52 rfl (fun c3 => ?_) (fun c3 => ?_)
  · have hf := zif_f hf c3
    exact z_return hC (pc := 60) hQ dJ6_init_4_60 hf
  · have hf := zif_t hf c3
    refine z_aload_n hC (pc := 55) dJ6_init_4_55 rfl 0 rfl ?_
    refine z_null hC (pc := 56) dJ6_init_4_56 ?_
    refine z_putV (v := zr none) hC (pc := 57) in_X10 tyX10 tyX10_ok nmX10 zcX10 2 (Nat.le_of_ble_eq_true rfl) (zLk.o hC q798) zsm (Or.inl rfl) rfl (zfr none) dJ6_init_4_57 hf (fun s4 hf => ?_)
    exact z_return hC (pc := 60) hQ dJ6_init_4_60 hf
def f_J6_init_4_X10 (G : Nat → Nat) (l0 : Nat) (l1 : Option Nat) (l2 : Option Nat) (l3 : Int32) (l4 : Int32) (s0 : zS) : Option (Unit × zS) :=
zo (zput G s0 (some l0) 8 0 (va_rf (some l0))) fun s1 =>
zo (zput G s1 (some l0) 8 1 (va_rf ((zgo (G 6))))) fun s2 =>
zo (zput G s2 (some l0) 8 2 (va_rf ((zgo (G 7))))) fun s3 =>
if l4 = 0 then (zo (zput G s3 (some l0) 8 1 (va_rf none)) fun s5 =>
f_J6_init_4_X10_b41 G l0 l1 l2 l3 s5)
else (none)
set_option maxHeartbeats 4000000 in
theorem m_J6_init_4_X10 (Γ : zG) (l0 : Nat) (l1 : Option Nat) (l2 : Option Nat) (l3 : Int32) (l4 : Int32) (s0 s1 : zS) (r : Unit) (hf : f_J6_init_4_X10 Γ.1 l0 l1 l2 l3 l4 s0 = some (r, s1)) : ZM Γ yJ6_init_4 (ws_ yJ6_init_4 cJ6_init_4 5 none) 1 12 [zr (some l0), zr l1, zr l2, zi l3, zi l4] s0 (.inl none, s1) := by
  refine ZM.of (own := RJ6) (by decide) rfl (Nat.le_of_ble_eq_true rfl) ?_
  intro X hg hC hL hno hQ hin
  subst hg
  unfold f_J6_init_4_X10 at hf
  refine z_aload_n hC (pc := 0) dJ6_init_4_0 rfl 0 rfl ?_
  refine z_objInit hC (pc := 1) q529 q163 q164 (Nat.le_of_ble_eq_true rfl) (Nat.le_of_ble_eq_true rfl) dJ6_init_4_1 ?_
  refine z_aload_n hC (pc := 4) dJ6_init_4_4 rfl 0 rfl ?_
  refine z_aload_n hC (pc := 5) dJ6_init_4_5 rfl 0 rfl ?_
  refine z_putV (v := zr (some l0)) hC (pc := 6) in_X10 tyX10 tyX10_ok nmX10 zcX10 0 (Nat.le_of_ble_eq_true rfl) (zLk.o hC q796) zsm (Or.inl rfl) rfl (zfr (some l0)) dJ6_init_4_6 hf (fun s1 hf => ?_)
  refine z_aload_n hC (pc := 9) dJ6_init_4_9 rfl 0 rfl ?_
  refine z_gets (v := zr ((zgo (X.g.1 6)))) hC (pc := 10) (List.mem_of_getElem? (i := 6) rfl) q530 dJ6_init_4_10 ?_
  refine z_putV (v := zr ((zgo (X.g.1 6)))) hC (pc := 13) in_X10 tyX10 tyX10_ok nmX10 zcX10 1 (Nat.le_of_ble_eq_true rfl) (zLk.o hC q797) zsm (Or.inl rfl) rfl (zfa ((zgo (X.g.1 6)))) dJ6_init_4_13 hf (fun s2 hf => ?_)
  refine z_aload_n hC (pc := 16) dJ6_init_4_16 rfl 0 rfl ?_
  refine z_gets (v := zr ((zgo (X.g.1 7)))) hC (pc := 17) (List.mem_of_getElem? (i := 7) rfl) q532 dJ6_init_4_17 ?_
  refine z_putV (v := zr ((zgo (X.g.1 7)))) hC (pc := 20) in_X10 tyX10 tyX10_ok nmX10 zcX10 2 (Nat.le_of_ble_eq_true rfl) (zLk.o hC q798) zsm (Or.inl rfl) rfl (zfr ((zgo (X.g.1 7)))) dJ6_init_4_20 hf (fun s3 hf => ?_)
  refine z_iload hC (pc := 23) dJ6_init_4_23 4 rfl ?_
  refine z_if_eq hC (pc := 25) (tgt := 36) dJ6_init_4_25 rfl (fun c4 => ?_) (fun c4 => ?_)
  · have hf := zif_t hf c4
    refine z_aload_n hC (pc := 36) dJ6_init_4_36 rfl 0 rfl ?_
    refine z_null hC (pc := 37) dJ6_init_4_37 ?_
    refine z_putV (v := zr none) hC (pc := 38) in_X10 tyX10 tyX10_ok nmX10 zcX10 1 (Nat.le_of_ble_eq_true rfl) (zLk.o hC q797) zsm (Or.inl rfl) rfl (zfa none) dJ6_init_4_38 hf (fun s5 hf => ?_)
    refine ZW.perm (lv' := [(0, zr (some l0)), (1, zr l1), (2, zr l2), (3, zi l3)]) [0, 1, 2, 3] rfl ?_
    exact w_J6_init_4_X10_b41 hC hL hno hin hQ l0 l1 l2 l3 s5 hf
  · have hf := zif_f hf c4
    refine z_aload_n hC (pc := 28) dJ6_init_4_28 rfl 0 rfl ?_
    cases hf
/-! java/lang/Exception.<init>(Ljava/lang/String;Ljava/lang/Throwable;ZZ)V -/
def f_J7_init_4_X10 (G : Nat → Nat) (l0 : Nat) (l1 : Option Nat) (l2 : Option Nat) (l3 : Int32) (l4 : Int32) (s0 : zS) : Option (Unit × zS) :=
zb (f_J6_init_4_X10 G l0 l1 l2 l3 l4 s0) fun _ s2 =>
some ((), s2)
set_option maxHeartbeats 4000000 in
theorem m_J7_init_4_X10 (Γ : zG) (l0 : Nat) (l1 : Option Nat) (l2 : Option Nat) (l3 : Int32) (l4 : Int32) (s0 s1 : zS) (r : Unit) (hf : f_J7_init_4_X10 Γ.1 l0 l1 l2 l3 l4 s0 = some (r, s1)) : ZM Γ yJ7_init_4 (ws_ yJ7_init_4 cJ7_init_4 5 none) 2 36 [zr (some l0), zr l1, zr l2, zi l3, zi l4] s0 (.inl none, s1) := by
  refine ZM.of (own := RJ7) (by decide) rfl (Nat.le_of_ble_eq_true rfl) ?_
  intro X hg hC hL hno hQ hin
  subst hg
  unfold f_J7_init_4_X10 at hf
  refine z_aload_n hC (pc := 0) dJ7_init_4_0 rfl 0 rfl ?_
  refine z_aload_n hC (pc := 1) dJ7_init_4_1 rfl 1 rfl ?_
  refine z_aload_n hC (pc := 2) dJ7_init_4_2 rfl 2 rfl ?_
  refine z_iload_n hC (pc := 3) dJ7_init_4_3 rfl 3 rfl ?_
  refine z_iload hC (pc := 4) dJ7_init_4_4 4 rfl ?_
  refine z_cU (rest := []) hf (fun v1 s2 hcall => z_runI hC (pc := 6) 4 (m_J6_init_4_X10 X.g l0 l1 l2 l3 l4 s0 s2 v1 hcall) q2120 rfl q109 q2118 q2119 hd_J6_init_4 ⟨(Nat.le_of_ble_eq_true rfl), (Nat.le_of_ble_eq_true rfl)⟩ rfl (Nat.le_of_ble_eq_true rfl) dJ7_init_4_6 rfl) (fun _ s2 hf => ?_)
  exact z_return hC (pc := 9) hQ dJ7_init_4_9 hf
/-! BlockingShop$Plan.end(I)I -/
def f_X3_end (G : Nat → Nat) (l0 : Nat) (l1 : Int32) (s0 : zS) : Option (Int32 × zS) :=
zo (zgR s0 (some l0) 2 3) fun v1 =>
zo (zaI s0 v1 0 l1) fun v2 =>
zo (zgR s0 (some l0) 2 1) fun v3 =>
zo (zaI s0 v3 0 l1) fun v4 =>
some ((v2 + v4), s0)
set_option maxHeartbeats 4000000 in
theorem m_X3_end (Γ : zG) (l0 : Nat) (l1 : Int32) (s0 s1 : zS) (r : Int32) (hf : f_X3_end Γ.1 l0 l1 s0 = some (r, s1)) : ZM Γ yX3_end (ws_ yX3_end cX3_end 2 (some .int)) 1 0 [zr (some l0), zi l1] s0 (.inl (some (zi r)), s1) := by
  refine ZM.of (own := RX3) (by decide) rfl (Nat.le_of_ble_eq_true rfl) ?_
  intro X hg hC hL hno hQ hin
  subst hg
  unfold f_X3_end at hf
  refine z_aload_n hC (pc := 0) dX3_end_0 rfl 0 rfl ?_
  refine z_getR hC (pc := 1) in_X3 zcX3 3 (Nat.le_of_ble_eq_true rfl) (zLk.o hC q374) zsm dX3_end_1 hf (fun v1 hf => ?_)
  refine z_iload_n hC (pc := 4) dX3_end_4 rfl 1 rfl ?_
  refine z_iald hC (pc := 5) dX3_end_5 hf (fun v2 hf => ?_)
  refine z_aload_n hC (pc := 6) dX3_end_6 rfl 0 rfl ?_
  refine z_getR hC (pc := 7) in_X3 zcX3 1 (Nat.le_of_ble_eq_true rfl) (zLk.o hC q367) zsm dX3_end_7 hf (fun v3 hf => ?_)
  refine z_iload_n hC (pc := 10) dX3_end_10 rfl 1 rfl ?_
  refine z_iald hC (pc := 11) dX3_end_11 hf (fun v4 hf => ?_)
  refine z_iadd hC (pc := 12) dX3_end_12 ?_
  exact z_ireturn hC (pc := 13) hQ dX3_end_13 hf
/-! BlockingShop$Layout.isLast(I)Z -/
def f_X4_isLast (G : Nat → Nat) (l0 : Nat) (l1 : Int32) (s0 : zS) : Option (Int32 × zS) :=
zo (zgR s0 (some l0) 3 3) fun v1 =>
zo (zrc s0 v1 15) fun a4 =>
zb (f_J5_get G a4 (l1 / 6) s0) fun v5 s6 =>
zo (zcst s6 v5 9) fun _ =>
zo (zgI s6 v5 9 3) fun v7 =>
if (l1 - l1 / 6 * 6) = (v7 - 1) then (zrn .boolean 1 s6)
else (zrn .boolean 0 s6)
set_option maxHeartbeats 4000000 in
theorem m_X4_isLast (Γ : zG) (l0 : Nat) (l1 : Int32) (s0 s1 : zS) (r : Int32) (hf : f_X4_isLast Γ.1 l0 l1 s0 = some (r, s1)) : ZM Γ yX4_isLast (ws_ yX4_isLast cX4_isLast 2 (some .boolean)) 4 64 [zr (some l0), zi l1] s0 (.inl (some (zi r)), s1) := by
  refine ZM.of (own := RX4) (by decide) rfl (Nat.le_of_ble_eq_true rfl) ?_
  intro X hg hC hL hno hQ hin
  subst hg
  unfold f_X4_isLast at hf
  refine z_iload_n hC (pc := 0) dX4_isLast_0 rfl 1 rfl ?_
  refine z_bipush (v := 6) hC (pc := 1) dX4_isLast_1 zkb_6 ?_
  refine z_irem hC (pc := 3) dX4_isLast_3 (by decide) ?_
  refine z_aload_n hC (pc := 4) dX4_isLast_4 rfl 0 rfl ?_
  refine z_getR hC (pc := 5) in_X4 zcX4 3 (Nat.le_of_ble_eq_true rfl) (zLk.o hC q330) zsm dX4_isLast_5 hf (fun v1 hf => ?_)
  refine z_iload_n hC (pc := 8) dX4_isLast_8 rfl 1 rfl ?_
  refine z_bipush (v := 6) hC (pc := 9) dX4_isLast_9 zkb_6 ?_
  refine z_idiv hC (pc := 11) dX4_isLast_11 (by decide) ?_
  obtain ⟨a4, fs2, rfl, ha3, hf⟩ := z_rcO hf
  refine z_cR5 (rest := [zi (l1 - l1 / 6 * 6)]) hf (fun v5 s6 hcall => z_runF hC (pc := 12) zcJ5 1 ha3 (m_J5_get X.g a4 (l1 / 6) s0 s6 v5 hcall) (lw_app (zm4 q1437 q478 q480 q104) (lw_meth q482)) q477 q476 q481 q479 q434 (by decide +kernel) ⟨(Nat.le_of_ble_eq_true rfl), (Nat.le_of_ble_eq_true rfl)⟩ rfl (Nat.le_of_ble_eq_true rfl) dX4_isLast_12 rfl) (fun v5 s6 hf => ?_)
  refine z_cast hC (pc := 17) zcX11 q1438 (Or.inl rfl) dX4_isLast_17 hf (fun hf => ?_)
  refine z_getI hC (pc := 20) in_X11 zcX11 3 (Nat.le_of_ble_eq_true rfl) (zLk.n hC q2174) zsm dX4_isLast_20 hf (fun v7 hf => ?_)
  refine z_iconst (v := 1) hC (pc := 23) dX4_isLast_23 zki_1 ?_
  refine z_isub hC (pc := 24) dX4_isLast_24 ?_
  refine z_icmp_ne hC (pc := 25) (tgt := 32) dX4_isLast_25 rfl (fun c8 => ?_) (fun c8 => ?_)
  · have hf := zif_f hf c8
    refine z_iconst (v := 0) hC (pc := 32) dX4_isLast_32 zki_0 ?_
    exact z_zreturn hC (pc := 33) hQ dX4_isLast_33 hf
  · have hf := zif_t hf c8
    refine z_iconst (v := 1) hC (pc := 28) dX4_isLast_28 zki_1 ?_
    refine z_goto hC (pc := 29) (tgt := 33) dX4_isLast_29 rfl ?_
    exact z_zreturn hC (pc := 33) hQ dX4_isLast_33 hf
/-! BlockingShop$Layout.machine(I)LBlockingShop$Machine; -/
def f_X4_machine (G : Nat → Nat) (l0 : Nat) (l1 : Int32) (s0 : zS) : Option ((Option Nat) × zS) :=
zo (zgR s0 (some l0) 3 2) fun v1 =>
zb (f_J20_valueOf G l1 s0) fun v2 s3 =>
zo (zrc s3 v1 14) fun a6 =>
zb (f_J3_get G a6 v2 s3) fun v7 s8 =>
zo (zcst s8 v7 5) fun _ =>
if v7 = none then (zo (zgR s8 (some l0) 3 6) fun v10 =>
some (v10, s8))
else (some (v7, s8))
set_option maxHeartbeats 4000000 in
theorem m_X4_machine (Γ : zG) (l0 : Nat) (l1 : Int32) (s0 s1 : zS) (r : (Option Nat)) (hf : f_X4_machine Γ.1 l0 l1 s0 = some (r, s1)) : ZM Γ yX4_machine (ws_ yX4_machine cX4_machine 3 (some (.object "BlockingShop$Machine"))) 6 109 [zr (some l0), zi l1] s0 (.inl (some (zr r)), s1) := by
  refine ZM.of (own := RX4) (by decide) rfl (Nat.le_of_ble_eq_true rfl) ?_
  intro X hg hC hL hno hQ hin
  subst hg
  unfold f_X4_machine at hf
  refine z_aload_n hC (pc := 0) dX4_machine_0 rfl 0 rfl ?_
  refine z_getR hC (pc := 1) in_X4 zcX4 2 (Nat.le_of_ble_eq_true rfl) (zLk.o hC q328) zsm dX4_machine_1 hf (fun v1 hf => ?_)
  refine z_iload_n hC (pc := 4) dX4_machine_4 rfl 1 rfl ?_
  refine z_cR (rest := [zr v1]) hf (fun v2 s3 hcall => z_runS hC (pc := 5) 1 (m_J20_valueOf X.g l1 s0 s3 v2 hcall) (lw_S q1197 q1198 q125 q1199) hd_J20_valueOf ⟨(Nat.le_of_ble_eq_true rfl), (Nat.le_of_ble_eq_true rfl)⟩ rfl (Nat.le_of_ble_eq_true rfl) dX4_machine_5 rfl) (fun v2 s3 hf => ?_)
  obtain ⟨a6, fs4, rfl, ha5, hf⟩ := z_rcO hf
  refine z_cR (rest := []) hf (fun v7 s8 hcall => z_runV hC (pc := 8) zcJ3 1 ha5 (m_J3_get X.g a6 v2 s3 s8 v7 hcall) (lw_V q1217 q1218 q1219 q102 q1220) hdV_J3_get ⟨(Nat.le_of_ble_eq_true rfl), (Nat.le_of_ble_eq_true rfl)⟩ rfl (Nat.le_of_ble_eq_true rfl) dX4_machine_8 rfl) (fun v7 s8 hf => ?_)
  refine z_cast hC (pc := 11) zcX7 q307 (Or.inl rfl) dX4_machine_11 hf (fun hf => ?_)
  refine z_astore_n (lv' := [(2, zr v7), (0, zr (some l0)), (1, zi l1)]) hC (pc := 14) hL dX4_machine_14 rfl (Nat.le_of_ble_eq_true rfl) rfl ?_
  refine z_aload_n hC (pc := 15) dX4_machine_15 rfl 0 rfl ?_
  refine z_ifnonnull hC (pc := 16) (tgt := 26) dX4_machine_16 rfl (fun c9 => ?_) (fun c9 => ?_)
  · have hf := zif_f hf c9
    refine z_aload_n hC (pc := 26) dX4_machine_26 rfl 0 rfl ?_
    exact z_areturn hC (pc := 27) (Or.inl ⟨_, rfl⟩) hQ dX4_machine_27 hf
  · have hf := zif_t hf c9
    refine z_aload_n hC (pc := 19) dX4_machine_19 rfl 1 rfl ?_
    refine z_getR hC (pc := 20) in_X4 zcX4 6 (Nat.le_of_ble_eq_true rfl) (zLk.o hC q342) zsm dX4_machine_20 hf (fun v10 hf => ?_)
    refine z_goto hC (pc := 23) (tgt := 27) dX4_machine_23 rfl ?_
    exact z_areturn hC (pc := 27) (Or.inl ⟨_, rfl⟩) hQ dX4_machine_27 hf
/-! BlockingShop$Layout.isBlocked(I)Z -/
def f_X4_isBlocked (G : Nat → Nat) (l0 : Nat) (l1 : Int32) (s0 : zS) : Option (Int32 × zS) :=
zo (zgR s0 (some l0) 3 4) fun v1 =>
zo (zaI s0 v1 0 l1) fun v2 =>
zo (zrc s0 (some l0) 3) fun _ =>
zb (f_X4_machine G l0 v2 s0) fun v5 s6 =>
zo (zgI s6 v5 5 0) fun v7 =>
if v7 = 0 then (zrn .boolean 0 s6)
else (zo (zrc s6 (some l0) 3) fun _ =>
zb (f_X4_isLast G l0 l1 s6) fun v11 s12 =>
if v11 = 0 then (zrn .boolean 1 s12)
else (zrn .boolean 0 s12))
set_option maxHeartbeats 4000000 in
theorem m_X4_isBlocked (Γ : zG) (l0 : Nat) (l1 : Int32) (s0 s1 : zS) (r : Int32) (hf : f_X4_isBlocked Γ.1 l0 l1 s0 = some (r, s1)) : ZM Γ yX4_isBlocked (ws_ yX4_isBlocked cX4_isBlocked 2 (some .boolean)) 7 131 [zr (some l0), zi l1] s0 (.inl (some (zi r)), s1) := by
  refine ZM.of (own := RX4) (by decide) rfl (Nat.le_of_ble_eq_true rfl) ?_
  intro X hg hC hL hno hQ hin
  subst hg
  unfold f_X4_isBlocked at hf
  refine z_aload_n hC (pc := 0) dX4_isBlocked_0 rfl 0 rfl ?_
  refine z_aload_n hC (pc := 1) dX4_isBlocked_1 rfl 0 rfl ?_
  refine z_getR hC (pc := 2) in_X4 zcX4 4 (Nat.le_of_ble_eq_true rfl) (zLk.o hC q335) zsm dX4_isBlocked_2 hf (fun v1 hf => ?_)
  refine z_iload_n hC (pc := 5) dX4_isBlocked_5 rfl 1 rfl ?_
  refine z_iald hC (pc := 6) dX4_isBlocked_6 hf (fun v2 hf => ?_)
  obtain ⟨fs3, ha4, hf⟩ := z_rcN hf
  refine z_cR (rest := []) hf (fun v5 s6 hcall => z_runV hC (pc := 7) zcX4 1 ha4 (m_X4_machine X.g l0 v2 s0 s6 v5 hcall) (lw_V q1193 q1194 q1195 q100 q1196) hdV_X4_machine ⟨(Nat.le_of_ble_eq_true rfl), (Nat.le_of_ble_eq_true rfl)⟩ rfl (Nat.le_of_ble_eq_true rfl) dX4_isBlocked_7 rfl) (fun v5 s6 hf => ?_)
  refine z_getI hC (pc := 10) in_X7 zcX7 0 (Nat.le_of_ble_eq_true rfl) (zLk.n hC q314) zsm dX4_isBlocked_10 hf (fun v7 hf => ?_)
  refine z_if_eq hC (pc := 13) (tgt := 28) dX4_isBlocked_13 rfl (fun c8 => ?_) (fun c8 => ?_)
  · have hf := zif_t hf c8
    refine z_iconst (v := 0) hC (pc := 28) dX4_isBlocked_28 zki_0 ?_
    exact z_zreturn hC (pc := 29) hQ dX4_isBlocked_29 hf
  · have hf := zif_f hf c8
    refine z_aload_n hC (pc := 16) dX4_isBlocked_16 rfl 0 rfl ?_
    refine z_iload_n hC (pc := 17) dX4_isBlocked_17 rfl 1 rfl ?_
    obtain ⟨fs9, ha10, hf⟩ := z_rcN hf
    refine z_cI (rest := []) hf (fun v11 s12 hcall => z_runV hC (pc := 18) zcX4 1 ha10 (m_X4_isLast X.g l0 l1 s6 s12 v11 hcall) (lw_V q1432 q1433 q1434 q100 q1435) hdV_X4_isLast ⟨(Nat.le_of_ble_eq_true rfl), (Nat.le_of_ble_eq_true rfl)⟩ rfl (Nat.le_of_ble_eq_true rfl) dX4_isBlocked_18 rfl) (fun v11 s12 hf => ?_)
    refine z_if_ne hC (pc := 21) (tgt := 28) dX4_isBlocked_21 rfl (fun c13 => ?_) (fun c13 => ?_)
    · have hf := zif_f hf c13
      refine z_iconst (v := 0) hC (pc := 28) dX4_isBlocked_28 zki_0 ?_
      exact z_zreturn hC (pc := 29) hQ dX4_isBlocked_29 hf
    · have hf := zif_t hf c13
      refine z_iconst (v := 1) hC (pc := 24) dX4_isBlocked_24 zki_1 ?_
      refine z_goto hC (pc := 25) (tgt := 29) dX4_isBlocked_25 rfl ?_
      exact z_zreturn hC (pc := 29) hQ dX4_isBlocked_29 hf
/-! BlockingShop$Plan.leave(I)I -/
def f_X3_leave (G : Nat → Nat) (l0 : Nat) (l1 : Int32) (s0 : zS) : Option (Int32 × zS) :=
zo (zgR s0 (some l0) 2 0) fun v1 =>
zo (zrc s0 v1 3) fun a4 =>
zb (f_X4_isBlocked G a4 l1 s0) fun v5 s6 =>
if v5 = 0 then (zo (zrc s6 (some l0) 2) fun _ =>
zb (f_X3_end G l0 l1 s6) fun v10 s11 =>
some (v10, s11))
else (zo (zgR s6 (some l0) 2 3) fun v12 =>
zo (zaI s6 v12 0 (l1 + 1)) fun v13 =>
some (v13, s6))
set_option maxHeartbeats 4000000 in
theorem m_X3_leave (Γ : zG) (l0 : Nat) (l1 : Int32) (s0 s1 : zS) (r : Int32) (hf : f_X3_leave Γ.1 l0 l1 s0 = some (r, s1)) : ZM Γ yX3_leave (ws_ yX3_leave cX3_leave 2 (some .int)) 8 152 [zr (some l0), zi l1] s0 (.inl (some (zi r)), s1) := by
  refine ZM.of (own := RX3) (by decide) rfl (Nat.le_of_ble_eq_true rfl) ?_
  intro X hg hC hL hno hQ hin
  subst hg
  unfold f_X3_leave at hf
  refine z_aload_n hC (pc := 0) dX3_leave_0 rfl 0 rfl ?_
  refine z_getR hC (pc := 1) in_X3 zcX3 0 (Nat.le_of_ble_eq_true rfl) (zLk.o hC q364) zsm dX3_leave_1 hf (fun v1 hf => ?_)
  refine z_iload_n hC (pc := 4) dX3_leave_4 rfl 1 rfl ?_
  obtain ⟨a4, fs2, rfl, ha3, hf⟩ := z_rcO hf
  refine z_cI (rest := []) hf (fun v5 s6 hcall => z_runV hC (pc := 5) zcX4 1 ha3 (m_X4_isBlocked X.g a4 l1 s0 s6 v5 hcall) (lw_V q1189 q1190 q1191 q100 q1192) hdV_X4_isBlocked ⟨(Nat.le_of_ble_eq_true rfl), (Nat.le_of_ble_eq_true rfl)⟩ rfl (Nat.le_of_ble_eq_true rfl) dX3_leave_5 rfl) (fun v5 s6 hf => ?_)
  refine z_if_eq hC (pc := 8) (tgt := 22) dX3_leave_8 rfl (fun c7 => ?_) (fun c7 => ?_)
  · have hf := zif_t hf c7
    refine z_aload_n hC (pc := 22) dX3_leave_22 rfl 0 rfl ?_
    refine z_iload_n hC (pc := 23) dX3_leave_23 rfl 1 rfl ?_
    obtain ⟨fs8, ha9, hf⟩ := z_rcN hf
    refine z_cI (rest := []) hf (fun v10 s11 hcall => z_runV hC (pc := 24) zcX3 1 ha9 (m_X3_end X.g l0 l1 s6 s11 v10 hcall) (lw_V q876 q877 q878 q99 q879) hdV_X3_end ⟨(Nat.le_of_ble_eq_true rfl), (Nat.le_of_ble_eq_true rfl)⟩ rfl (Nat.le_of_ble_eq_true rfl) dX3_leave_24 rfl) (fun v10 s11 hf => ?_)
    exact z_ireturn hC (pc := 27) hQ dX3_leave_27 hf
  · have hf := zif_f hf c7
    refine z_aload_n hC (pc := 11) dX3_leave_11 rfl 0 rfl ?_
    refine z_getR hC (pc := 12) in_X3 zcX3 3 (Nat.le_of_ble_eq_true rfl) (zLk.o hC q374) zsm dX3_leave_12 hf (fun v12 hf => ?_)
    refine z_iload_n hC (pc := 15) dX3_leave_15 rfl 1 rfl ?_
    refine z_iconst (v := 1) hC (pc := 16) dX3_leave_16 zki_1 ?_
    refine z_iadd hC (pc := 17) dX3_leave_17 ?_
    refine z_iald hC (pc := 18) dX3_leave_18 hf (fun v13 hf => ?_)
    refine z_goto hC (pc := 19) (tgt := 27) dX3_leave_19 rfl ?_
    exact z_ireturn hC (pc := 27) hQ dX3_leave_27 hf
/-! BlockingShop.isBetween(JJJ)Z -/
def f_X1_isBetween (G : Nat → Nat) (l0 : Int64) (l2 : Int64) (l4 : Int64) (s0 : zS) : Option (Int32 × zS) :=
if (lg_cmp l0 l2) < 0 then (zrn .boolean 0 s0)
else (if 0 < (lg_cmp l0 l4) then (zrn .boolean 0 s0)
else (zrn .boolean 1 s0))
set_option maxHeartbeats 4000000 in
theorem m_X1_isBetween (Γ : zG) (l0 : Int64) (l2 : Int64) (l4 : Int64) (s0 s1 : zS) (r : Int32) (hf : f_X1_isBetween Γ.1 l0 l2 l4 s0 = some (r, s1)) : ZM Γ yX1_isBetween (ws_ yX1_isBetween cX1_isBetween 6 (some .boolean)) 1 0 [zj l0, zj l2, zj l4] s0 (.inl (some (zi r)), s1) := by
  refine ZM.of (own := RX1) (by decide) rfl (Nat.le_of_ble_eq_true rfl) ?_
  intro X hg hC hL hno hQ hin
  subst hg
  unfold f_X1_isBetween at hf
  refine z_lload_n hC (pc := 0) dX1_isBetween_0 rfl 0 rfl ?_
  refine z_lload_n hC (pc := 1) dX1_isBetween_1 rfl 1 rfl ?_
  refine z_lcmp hC (pc := 2) dX1_isBetween_2 ?_
  refine z_if_lt hC (pc := 3) (tgt := 17) dX1_isBetween_3 rfl (fun c1 => ?_) (fun c1 => ?_)
  · have hf := zif_t hf c1
    refine z_iconst (v := 0) hC (pc := 17) dX1_isBetween_17 zki_0 ?_
    exact z_zreturn hC (pc := 18) hQ dX1_isBetween_18 hf
  · have hf := zif_f hf c1
    refine z_lload_n hC (pc := 6) dX1_isBetween_6 rfl 0 rfl ?_
    refine z_lload hC (pc := 7) dX1_isBetween_7 2 rfl ?_
    refine z_lcmp hC (pc := 9) dX1_isBetween_9 ?_
    refine z_if_gt hC (pc := 10) (tgt := 17) dX1_isBetween_10 rfl (fun c2 => ?_) (fun c2 => ?_)
    · have hf := zif_t hf c2
      refine z_iconst (v := 0) hC (pc := 17) dX1_isBetween_17 zki_0 ?_
      exact z_zreturn hC (pc := 18) hQ dX1_isBetween_18 hf
    · have hf := zif_f hf c2
      refine z_iconst (v := 1) hC (pc := 13) dX1_isBetween_13 zki_1 ?_
      refine z_goto hC (pc := 14) (tgt := 18) dX1_isBetween_14 rfl ?_
      exact z_zreturn hC (pc := 18) hQ dX1_isBetween_18 hf
/-! BlockingShop.requireIndex(II)V -/
def f_X1_requireIndex (G : Nat → Nat) (l0 : Int32) (l1 : Int32) (s0 : zS) : Option ((Unit ⊕ (Nat × Nat)) × zS) :=
zb (f_X1_isBetween G (l0.toInt64) 0 ((l1 - 1 : Int32).toInt64) s0) fun v1 s2 =>
if v1 = 0 then (zb (znewO G s2 25 6 []) fun a4 s5 =>
zo (zthr G s5 (some a4)) fun e => some (.inr e, s5))
else (some (.inl (), s2))
set_option maxHeartbeats 4000000 in
theorem m_X1_requireIndex (Γ : zG) (l0 : Int32) (l1 : Int32) (s0 s1 : zS) (r : (Unit ⊕ (Nat × Nat))) (hf : f_X1_requireIndex Γ.1 l0 l1 s0 = some (r, s1)) : ZM Γ yX1_requireIndex (ws_ yX1_requireIndex cX1_requireIndex 2 none) 8 200 [zi l0, zi l1] s0 (zoU r, s1) := by
  refine ZM.of (own := RX1) (by decide) rfl (Nat.le_of_ble_eq_true rfl) ?_
  intro X hg hC hL hno hQ hin
  subst hg
  unfold f_X1_requireIndex at hf
  refine z_iload_n hC (pc := 0) dX1_requireIndex_0 rfl 0 rfl ?_
  refine z_i2l hC (pc := 1) dX1_requireIndex_1 ?_
  refine z_lconst (v := 0) hC (pc := 2) dX1_requireIndex_2 (by decide) ?_
  refine z_iload_n hC (pc := 3) dX1_requireIndex_3 rfl 1 rfl ?_
  refine z_iconst (v := 1) hC (pc := 4) dX1_requireIndex_4 zki_1 ?_
  refine z_isub hC (pc := 5) dX1_requireIndex_5 ?_
  refine z_i2l hC (pc := 6) dX1_requireIndex_6 ?_
  refine z_cI (rest := []) hf (fun v1 s2 hcall => z_runS hC (pc := 7) 3 (m_X1_isBetween X.g (l0.toInt64) 0 ((l1 - 1 : Int32).toInt64) s0 s2 v1 hcall) (lw_S q2013 q2014 q95 q2015) hd_X1_isBetween ⟨(Nat.le_of_ble_eq_true rfl), (Nat.le_of_ble_eq_true rfl)⟩ rfl (Nat.le_of_ble_eq_true rfl) dX1_requireIndex_7 rfl) (fun v1 s2 hf => ?_)
  refine z_if_ne hC (pc := 10) (tgt := 21) dX1_requireIndex_10 rfl (fun c3 => ?_) (fun c3 => ?_)
  · have hf := zif_f hf c3
    exact z_returnX hC (pc := 21) hQ dX1_requireIndex_21 hf
  · have hf := zif_t hf c3
    refine z_mk25 hC (pc := 13) dX1_requireIndex_13 dX1_requireIndex_16 dX1_requireIndex_17 (Nat.le_of_ble_eq_true rfl) (Nat.le_of_ble_eq_true rfl) hf (fun a4 s5 hf => ?_)
    exact z_athrow hC (pc := 20) dX1_requireIndex_20 hf (fun e hf => z_outU hC hQ hno hf)
/-! BlockingShop.requireMachine(I)V -/
def f_X1_requireMachine (G : Nat → Nat) (l0 : Nat) (l1 : Int32) (s0 : zS) : Option ((Unit ⊕ (Nat × Nat)) × zS) :=
zo (zgR s0 (some l0) 0 3) fun v1 =>
zo (zgR s0 v1 2 0) fun v2 =>
zo (zgI s0 v2 3 0) fun v3 =>
zx (f_X1_requireIndex G l1 v3 s0) (fun e s => some (.inr e, s)) fun _ s5 =>
some (.inl (), s5)
set_option maxHeartbeats 4000000 in
theorem m_X1_requireMachine (Γ : zG) (l0 : Nat) (l1 : Int32) (s0 s1 : zS) (r : (Unit ⊕ (Nat × Nat))) (hf : f_X1_requireMachine Γ.1 l0 l1 s0 = some (r, s1)) : ZM Γ yX1_requireMachine (ws_ yX1_requireMachine cX1_requireMachine 2 none) 9 221 [zr (some l0), zi l1] s0 (zoU r, s1) := by
  refine ZM.of (own := RX1) (by decide) rfl (Nat.le_of_ble_eq_true rfl) ?_
  intro X hg hC hL hno hQ hin
  subst hg
  unfold f_X1_requireMachine at hf
  refine z_iload_n hC (pc := 0) dX1_requireMachine_0 rfl 1 rfl ?_
  refine z_aload_n hC (pc := 1) dX1_requireMachine_1 rfl 0 rfl ?_
  refine z_getR hC (pc := 2) in_X1 zcX1 3 (Nat.le_of_ble_eq_true rfl) (zLk.o hC q394) zsm dX1_requireMachine_2 hf (fun v1 hf => ?_)
  refine z_getR hC (pc := 5) in_X3 zcX3 0 (Nat.le_of_ble_eq_true rfl) (zLk.n hC q366) zsm dX1_requireMachine_5 hf (fun v2 hf => ?_)
  refine z_getI hC (pc := 8) in_X4 zcX4 0 (Nat.le_of_ble_eq_true rfl) (zLk.n hC q324) zsm dX1_requireMachine_8 hf (fun v3 hf => ?_)
  refine z_cXU (rest := []) hf (fun v4 s5 hcall => z_runS hC (pc := 11) 2 (m_X1_requireIndex X.g l1 v3 s0 s5 v4 hcall) (lw_S q2504 q2505 q95 q2506) hd_X1_requireIndex ⟨(Nat.le_of_ble_eq_true rfl), (Nat.le_of_ble_eq_true rfl)⟩ rfl (Nat.le_of_ble_eq_true rfl) dX1_requireMachine_11 rfl) (fun _ s5 hf => ?_) (fun e s hf => z_outU hC hQ hno hf)
  exact z_returnX hC (pc := 14) hQ dX1_requireMachine_14 hf
/-! BlockingShop.blockedTime(I)I -/
def f_X1_blockedTime_b9 (G : Nat → Nat) (k9 : Nat → Int32 → Int32 → Int32 → zS → Option ((Int32 ⊕ (Nat × Nat)) × zS)) (l0 : Nat) (l1 : Int32) (l2 : Int32) (l3 : Int32) (s0 : zS) : Option ((Int32 ⊕ (Nat × Nat)) × zS) :=
zo (zgR s0 (some l0) 0 3) fun v1 =>
zo (zgR s0 v1 2 2) fun v2 =>
zo (zaI s0 v2 0 l1) fun v3 =>
if v3 ≤ l3 then (some (.inl l2, s0))
else (zo (zgR s0 (some l0) 0 3) fun v5 =>
zo (zgR s0 (some l0) 0 3) fun v6 =>
zo (zgR s0 v6 2 4) fun v7 =>
zo (zaR s0 v7 l1) fun v8 =>
zo (zaI s0 v8 0 l3) fun v9 =>
zo (zrc s0 v5 2) fun a12 =>
zb (f_X3_leave G a12 v9 s0) fun v13 s14 =>
zo (zgR s14 (some l0) 0 3) fun v15 =>
zo (zgR s14 (some l0) 0 3) fun v16 =>
zo (zgR s14 v16 2 4) fun v17 =>
zo (zaR s14 v17 l1) fun v18 =>
zo (zaI s14 v18 0 l3) fun v19 =>
zo (zrc s14 v15 2) fun a22 =>
zb (f_X3_end G a22 v19 s14) fun v23 s24 =>
k9 l0 l1 (l2 + (v13 - v23)) (l3 + 1) s24)
set_option maxHeartbeats 4000000 in
theorem w_X1_blockedTime_b9 {X : zX} (hC : ZC X RX1 cX1_blockedTime (some .int) 10 242) (hL : X.nL = 4) (hno : ∀ x ∈ X.c.exceptionTable.toList, False) {r : (Int32 ⊕ (Nat × Nat))} {sF : zS} (hQ : ZQ X (zoI r, sF)) (k9 : Nat → Int32 → Int32 → Int32 → zS → Option ((Int32 ⊕ (Nat × Nat)) × zS)) (hk9 : ∀ (l0 : Nat) (l1 : Int32) (l2 : Int32) (l3 : Int32) (s0 : zS), k9 l0 l1 l2 l3 s0 = some (r, sF) → ZW X s0 9 [(0, zr (some l0)), (1, zi l1), (2, zi l2), (3, zi l3)] []) (l0 : Nat) (l1 : Int32) (l2 : Int32) (l3 : Int32) (s0 : zS) (hf : f_X1_blockedTime_b9 X.g.1 k9 l0 l1 l2 l3 s0 = some (r, sF)) : ZW X s0 9 [(0, zr (some l0)), (1, zi l1), (2, zi l2), (3, zi l3)] [] := by
  unfold f_X1_blockedTime_b9 at hf
  refine z_iload_n hC (pc := 9) dX1_blockedTime_9 rfl 3 rfl ?_
  refine z_aload_n hC (pc := 10) dX1_blockedTime_10 rfl 0 rfl ?_
  refine z_getR hC (pc := 11) in_X1 zcX1 3 (Nat.le_of_ble_eq_true rfl) (zLk.o hC q394) zsm dX1_blockedTime_11 hf (fun v1 hf => ?_)
  refine z_getR hC (pc := 14) in_X3 zcX3 2 (Nat.le_of_ble_eq_true rfl) (zLk.n hC q373) zsm dX1_blockedTime_14 hf (fun v2 hf => ?_)
  refine z_iload_n hC (pc := 17) dX1_blockedTime_17 rfl 1 rfl ?_
  refine z_iald hC (pc := 18) dX1_blockedTime_18 hf (fun v3 hf => ?_)
  refine z_icmp_ge hC (pc := 19) (tgt := 68) dX1_blockedTime_19 rfl (fun c4 => ?_) (fun c4 => ?_)
  · have hf := zif_t hf c4
    refine z_iload_n hC (pc := 68) dX1_blockedTime_68 rfl 2 rfl ?_
    exact z_ireturnX hC (pc := 69) hQ dX1_blockedTime_69 hf
  · have hf := zif_f hf c4
    refine z_iload_n hC (pc := 22) dX1_blockedTime_22 rfl 2 rfl ?_
    refine z_aload_n hC (pc := 23) dX1_blockedTime_23 rfl 0 rfl ?_
    refine z_getR hC (pc := 24) in_X1 zcX1 3 (Nat.le_of_ble_eq_true rfl) (zLk.o hC q394) zsm dX1_blockedTime_24 hf (fun v5 hf => ?_)
    refine z_aload_n hC (pc := 27) dX1_blockedTime_27 rfl 0 rfl ?_
    refine z_getR hC (pc := 28) in_X1 zcX1 3 (Nat.le_of_ble_eq_true rfl) (zLk.o hC q394) zsm dX1_blockedTime_28 hf (fun v6 hf => ?_)
    refine z_getR hC (pc := 31) in_X3 zcX3 4 (Nat.le_of_ble_eq_true rfl) (zLk.n hC q378) zsm dX1_blockedTime_31 hf (fun v7 hf => ?_)
    refine z_iload_n hC (pc := 34) dX1_blockedTime_34 rfl 1 rfl ?_
    refine z_aald hC (pc := 35) dX1_blockedTime_35 hf (fun v8 hf => ?_)
    refine z_iload_n hC (pc := 36) dX1_blockedTime_36 rfl 3 rfl ?_
    refine z_iald hC (pc := 37) dX1_blockedTime_37 hf (fun v9 hf => ?_)
    obtain ⟨a12, fs10, rfl, ha11, hf⟩ := z_rcO hf
    refine z_cI (rest := [zi l2]) hf (fun v13 s14 hcall => z_runV hC (pc := 38) zcX3 1 ha11 (m_X3_leave X.g a12 v9 s0 s14 v13 hcall) (lw_V q2560 q2561 q2562 q99 q2563) hdV_X3_leave ⟨(Nat.le_of_ble_eq_true rfl), (Nat.le_of_ble_eq_true rfl)⟩ rfl (Nat.le_of_ble_eq_true rfl) dX1_blockedTime_38 rfl) (fun v13 s14 hf => ?_)
    refine z_aload_n hC (pc := 41) dX1_blockedTime_41 rfl 0 rfl ?_
    refine z_getR hC (pc := 42) in_X1 zcX1 3 (Nat.le_of_ble_eq_true rfl) (zLk.o hC q394) zsm dX1_blockedTime_42 hf (fun v15 hf => ?_)
    refine z_aload_n hC (pc := 45) dX1_blockedTime_45 rfl 0 rfl ?_
    refine z_getR hC (pc := 46) in_X1 zcX1 3 (Nat.le_of_ble_eq_true rfl) (zLk.o hC q394) zsm dX1_blockedTime_46 hf (fun v16 hf => ?_)
    refine z_getR hC (pc := 49) in_X3 zcX3 4 (Nat.le_of_ble_eq_true rfl) (zLk.n hC q378) zsm dX1_blockedTime_49 hf (fun v17 hf => ?_)
    refine z_iload_n hC (pc := 52) dX1_blockedTime_52 rfl 1 rfl ?_
    refine z_aald hC (pc := 53) dX1_blockedTime_53 hf (fun v18 hf => ?_)
    refine z_iload_n hC (pc := 54) dX1_blockedTime_54 rfl 3 rfl ?_
    refine z_iald hC (pc := 55) dX1_blockedTime_55 hf (fun v19 hf => ?_)
    obtain ⟨a22, fs20, rfl, ha21, hf⟩ := z_rcO hf
    refine z_cI (rest := [zi v13, zi l2]) hf (fun v23 s24 hcall => z_runV hC (pc := 56) zcX3 1 ha21 (m_X3_end X.g a22 v19 s14 s24 v23 hcall) (lw_V q2587 q877 q878 q99 q879) hdV_X3_end ⟨(Nat.le_of_ble_eq_true rfl), (Nat.le_of_ble_eq_true rfl)⟩ rfl (Nat.le_of_ble_eq_true rfl) dX1_blockedTime_56 rfl) (fun v23 s24 hf => ?_)
    refine z_isub hC (pc := 59) dX1_blockedTime_59 ?_
    refine z_iadd hC (pc := 60) dX1_blockedTime_60 ?_
    refine z_istore_n (lv' := [(2, zi (l2 + (v13 - v23))), (0, zr (some l0)), (1, zi l1), (3, zi l3)]) hC (pc := 61) hL dX1_blockedTime_61 rfl (Nat.le_of_ble_eq_true rfl) rfl ?_
    refine z_iinc (v := 1) (lv' := [(3, zi (l3 + 1)), (2, zi (l2 + (v13 - v23))), (0, zr (some l0)), (1, zi l1)]) hC (pc := 62) hL dX1_blockedTime_62 3 rfl zki_1 (Nat.le_of_ble_eq_true rfl) rfl ?_
    refine z_goto hC (pc := 65) (tgt := 9) dX1_blockedTime_65 rfl ?_
    refine ZW.perm (lv' := [(0, zr (some l0)), (1, zi l1), (2, zi (l2 + (v13 - v23))), (3, zi (l3 + 1))]) [2, 3, 1, 0] rfl ?_
    exact hk9 l0 l1 (l2 + (v13 - v23)) (l3 + 1) s24 hf
def f_X1_blockedTime_l9 (G : Nat → Nat) : Nat → Nat → Int32 → Int32 → Int32 → zS → Option ((Int32 ⊕ (Nat × Nat)) × zS)
  | 0 => fun _ _ _ _ _ => none
  | n + 1 => f_X1_blockedTime_b9 G (f_X1_blockedTime_l9 G n)
theorem w_X1_blockedTime_l9 {X : zX} (hC : ZC X RX1 cX1_blockedTime (some .int) 10 242) (hL : X.nL = 4) (hno : ∀ x ∈ X.c.exceptionTable.toList, False) {r : (Int32 ⊕ (Nat × Nat))} {sF : zS} (hQ : ZQ X (zoI r, sF)) : ∀ (n : Nat) (l0 : Nat) (l1 : Int32) (l2 : Int32) (l3 : Int32) (s0 : zS) (_ : f_X1_blockedTime_l9 X.g.1 n l0 l1 l2 l3 s0 = some (r, sF)), ZW X s0 9 [(0, zr (some l0)), (1, zi l1), (2, zi l2), (3, zi l3)] [] := by
  intro n
  induction n with
  | zero => intro l0 l1 l2 l3 s0 hf; exact absurd (show (none : Option ((Int32 ⊕ (Nat × Nat)) × zS)) = some (r, sF) from hf) (fun z => nomatch z)
  | succ n ih => intro l0 l1 l2 l3 s0 hf; exact w_X1_blockedTime_b9 hC hL hno hQ (f_X1_blockedTime_l9 X.g.1 n) ih l0 l1 l2 l3 s0 hf
def f_X1_blockedTime (G : Nat → Nat) (l0 : Nat) (l1 : Int32) (s0 : zS) : Option ((Int32 ⊕ (Nat × Nat)) × zS) :=
zo (zrc s0 (some l0) 0) fun _ =>
zx (f_X1_requireMachine G l0 l1 s0) (fun e s => some (.inr e, s)) fun _ s4 =>
f_X1_blockedTime_l9 G 2000 l0 l1 0 0 s4
set_option maxHeartbeats 4000000 in
theorem m_X1_blockedTime (Γ : zG) (l0 : Nat) (l1 : Int32) (s0 s1 : zS) (r : (Int32 ⊕ (Nat × Nat))) (hf : f_X1_blockedTime Γ.1 l0 l1 s0 = some (r, s1)) : ZM Γ yX1_blockedTime (ws_ yX1_blockedTime cX1_blockedTime 4 (some .int)) 10 242 [zr (some l0), zi l1] s0 (zoI r, s1) := by
  refine ZM.of (own := RX1) (by decide) rfl (Nat.le_of_ble_eq_true rfl) ?_
  intro X hg hC hL hno hQ hin
  subst hg
  unfold f_X1_blockedTime at hf
  refine z_aload_n hC (pc := 0) dX1_blockedTime_0 rfl 0 rfl ?_
  refine z_iload_n hC (pc := 1) dX1_blockedTime_1 rfl 1 rfl ?_
  obtain ⟨fs1, ha2, hf⟩ := z_rcN hf
  refine z_cXU (rest := []) hf (fun v3 s4 hcall => z_runV hC (pc := 2) zcX1 1 ha2 (m_X1_requireMachine X.g l0 l1 s0 s4 v3 hcall) (lw_V q2535 q2537 qs45 q95 q2538) hdV_X1_requireMachine ⟨(Nat.le_of_ble_eq_true rfl), (Nat.le_of_ble_eq_true rfl)⟩ rfl (Nat.le_of_ble_eq_true rfl) dX1_blockedTime_2 rfl) (fun _ s4 hf => ?_) (fun e s hf => z_outI hC hQ hno hf)
  refine z_iconst (v := 0) hC (pc := 5) dX1_blockedTime_5 zki_0 ?_
  refine z_istore_n (lv' := [(2, zi 0), (0, zr (some l0)), (1, zi l1)]) hC (pc := 6) hL dX1_blockedTime_6 rfl (Nat.le_of_ble_eq_true rfl) rfl ?_
  refine z_iconst (v := 0) hC (pc := 7) dX1_blockedTime_7 zki_0 ?_
  refine z_istore_n (lv' := [(3, zi 0), (2, zi 0), (0, zr (some l0)), (1, zi l1)]) hC (pc := 8) hL dX1_blockedTime_8 rfl (Nat.le_of_ble_eq_true rfl) rfl ?_
  refine ZW.perm (lv' := [(0, zr (some l0)), (1, zi l1), (2, zi 0), (3, zi 0)]) [2, 3, 1, 0] rfl ?_
  exact w_X1_blockedTime_l9 hC hL hno hQ 2000 l0 l1 0 0 s4 hf
/-! BlockingShopLaw.blockedTime(LBlockingShop;I[J)I -/
def f_X0_blockedTime (G : Nat → Nat) (l0 : Option Nat) (l1 : Int32) (l2 : Option Nat) (s0 : zS) : Option (Int32 × zS) :=
zo (zrc s0 l0 0) fun a3 =>
zx (f_X1_blockedTime G a3 l1 s0) (fun e s5 => if e.1 = 25 then (some (1, s5)) else none) fun v4 s5 =>
zo (zsL G s5 l2 0 (v4.toInt64)) fun s6 =>
some (0, s6)
set_option maxHeartbeats 4000000 in
theorem m_X0_blockedTime (Γ : zG) (l0 : Option Nat) (l1 : Int32) (l2 : Option Nat) (s0 s1 : zS) (r : Int32) (hf : f_X0_blockedTime Γ.1 l0 l1 l2 s0 = some (r, s1)) : ZM Γ yX0_blockedTime (wsW_ yX0_blockedTime cX0_blockedTime 4 (some .int) [(0, 9, 12, 18)]) 11 265 [zr l0, zi l1, zr l2] s0 (.inl (some (zi r)), s1) := by
  refine ZM.ofH (own := RX0) (by decide) rfl (Nat.le_of_ble_eq_true rfl) ?_
  intro X hg hC hL hno hQ hin
  subst hg
  unfold f_X0_blockedTime at hf
  refine z_aload_n hC (pc := 0) dX0_blockedTime_0 rfl 2 rfl ?_
  refine z_iconst (v := 0) hC (pc := 1) dX0_blockedTime_1 zki_0 ?_
  refine z_aload_n hC (pc := 2) dX0_blockedTime_2 rfl 0 rfl ?_
  refine z_iload_n hC (pc := 3) dX0_blockedTime_3 rfl 1 rfl ?_
  obtain ⟨a3, fs1, rfl, ha2, hf⟩ := z_rcO hf
  refine z_cXI (rest := [zi 0, zr l2]) hf (fun v4 s5 hcall => z_runV hC (pc := 4) zcX1 1 ha2 (m_X1_blockedTime X.g a3 l1 s0 s5 v4 hcall) (lw_V q2583 q2584 q2585 q95 q2586) hdV_X1_blockedTime ⟨(Nat.le_of_ble_eq_true rfl), (Nat.le_of_ble_eq_true rfl)⟩ rfl (Nat.le_of_ble_eq_true rfl) dX0_blockedTime_4 rfl) (fun v4 s5 hf => ?_) (fun e s5 hf => ?_)
  · skip
    refine z_i2l hC (pc := 7) dX0_blockedTime_7 ?_
    refine z_last hC (pc := 8) dX0_blockedTime_8 hf (fun s6 hf => ?_)
    refine z_goto hC (pc := 9) (tgt := 15) dX0_blockedTime_9 rfl ?_
    refine z_iconst (v := 0) hC (pc := 15) dX0_blockedTime_15 zki_0 ?_
    exact z_ireturn hC (pc := 16) hQ dX0_blockedTime_16 hf
  · skip
    by_cases c7 : e.1 = 25
    · have hf := zif_t hf c7
      rw [c7]
      refine z_catch hC zcE25 [] ⟨0, 9, 12, 18⟩ [] (hno.trans rfl) (fun z hz => nomatch hz) rfl (by decide) q2480 q506 ?_
      refine z_astore_n (lv' := [(3, zr (some (e.2))), (0, zr (some a3)), (1, zi l1), (2, zr l2)]) hC (pc := 12) hL dX0_blockedTime_12 rfl (Nat.le_of_ble_eq_true rfl) rfl ?_
      refine z_iconst (v := 1) hC (pc := 13) dX0_blockedTime_13 zki_1 ?_
      exact z_ireturn hC (pc := 14) hQ dX0_blockedTime_14 hf
    · have hf := zif_f hf c7
      cases hf
/-! BlockingShop$Plan.completion(I)I -/
def f_X3_completion (G : Nat → Nat) (l0 : Nat) (l1 : Int32) (s0 : zS) : Option (Int32 × zS) :=
zo (zgR s0 (some l0) 2 0) fun v1 =>
zo (zgR s0 v1 3 3) fun v2 =>
zo (zrc s0 v2 15) fun a5 =>
zb (f_J5_get G a5 l1 s0) fun v6 s7 =>
zo (zcst s7 v6 9) fun _ =>
zo (zgI s7 v6 9 3) fun v8 =>
zo (zrc s7 (some l0) 2) fun _ =>
zb (f_X3_end G l0 (((6 * l1) + v8) - 1) s7) fun v11 s12 =>
some (v11, s12)
set_option maxHeartbeats 4000000 in
theorem m_X3_completion (Γ : zG) (l0 : Nat) (l1 : Int32) (s0 s1 : zS) (r : Int32) (hf : f_X3_completion Γ.1 l0 l1 s0 = some (r, s1)) : ZM Γ yX3_completion (ws_ yX3_completion cX3_completion 2 (some .int)) 4 64 [zr (some l0), zi l1] s0 (.inl (some (zi r)), s1) := by
  refine ZM.of (own := RX3) (by decide) rfl (Nat.le_of_ble_eq_true rfl) ?_
  intro X hg hC hL hno hQ hin
  subst hg
  unfold f_X3_completion at hf
  refine z_aload_n hC (pc := 0) dX3_completion_0 rfl 0 rfl ?_
  refine z_bipush (v := 6) hC (pc := 1) dX3_completion_1 zkb_6 ?_
  refine z_iload_n hC (pc := 3) dX3_completion_3 rfl 1 rfl ?_
  refine z_imul hC (pc := 4) dX3_completion_4 ?_
  refine z_aload_n hC (pc := 5) dX3_completion_5 rfl 0 rfl ?_
  refine z_getR hC (pc := 6) in_X3 zcX3 0 (Nat.le_of_ble_eq_true rfl) (zLk.o hC q364) zsm dX3_completion_6 hf (fun v1 hf => ?_)
  refine z_getR hC (pc := 9) in_X4 zcX4 3 (Nat.le_of_ble_eq_true rfl) (zLk.n hC q333) zsm dX3_completion_9 hf (fun v2 hf => ?_)
  refine z_iload_n hC (pc := 12) dX3_completion_12 rfl 1 rfl ?_
  obtain ⟨a5, fs3, rfl, ha4, hf⟩ := z_rcO hf
  refine z_cR5 (rest := [zi (6 * l1), zr (some l0)]) hf (fun v6 s7 hcall => z_runF hC (pc := 13) zcJ5 1 ha4 (m_J5_get X.g a5 l1 s0 s7 v6 hcall) (lw_app (zm4 q475 q478 q480 q104) (lw_meth q482)) q477 q476 q481 q479 q434 (by decide +kernel) ⟨(Nat.le_of_ble_eq_true rfl), (Nat.le_of_ble_eq_true rfl)⟩ rfl (Nat.le_of_ble_eq_true rfl) dX3_completion_13 rfl) (fun v6 s7 hf => ?_)
  refine z_cast hC (pc := 18) zcX11 q875 (Or.inl rfl) dX3_completion_18 hf (fun hf => ?_)
  refine z_getI hC (pc := 21) in_X11 zcX11 3 (Nat.le_of_ble_eq_true rfl) (zLk.n hC q2176) zsm dX3_completion_21 hf (fun v8 hf => ?_)
  refine z_iadd hC (pc := 24) dX3_completion_24 ?_
  refine z_iconst (v := 1) hC (pc := 25) dX3_completion_25 zki_1 ?_
  refine z_isub hC (pc := 26) dX3_completion_26 ?_
  obtain ⟨fs9, ha10, hf⟩ := z_rcN hf
  refine z_cI (rest := []) hf (fun v11 s12 hcall => z_runV hC (pc := 27) zcX3 1 ha10 (m_X3_end X.g l0 (((6 * l1) + v8) - 1) s7 s12 v11 hcall) (lw_V q876 q877 q878 q99 q879) hdV_X3_end ⟨(Nat.le_of_ble_eq_true rfl), (Nat.le_of_ble_eq_true rfl)⟩ rfl (Nat.le_of_ble_eq_true rfl) dX3_completion_27 rfl) (fun v11 s12 hf => ?_)
  exact z_ireturn hC (pc := 30) hQ dX3_completion_30 hf
/-! BlockingShop.requireJob(I)V -/
def f_X1_requireJob (G : Nat → Nat) (l0 : Nat) (l1 : Int32) (s0 : zS) : Option ((Unit ⊕ (Nat × Nat)) × zS) :=
zo (zgR s0 (some l0) 0 3) fun v1 =>
zo (zgR s0 v1 2 0) fun v2 =>
zo (zgR s0 v2 3 3) fun v3 =>
zo (zrc s0 v3 15) fun a6 =>
zb (f_J5_size G a6 s0) fun v7 s8 =>
zx (f_X1_requireIndex G l1 v7 s8) (fun e s => some (.inr e, s)) fun _ s10 =>
some (.inl (), s10)
set_option maxHeartbeats 4000000 in
theorem m_X1_requireJob (Γ : zG) (l0 : Nat) (l1 : Int32) (s0 s1 : zS) (r : (Unit ⊕ (Nat × Nat))) (hf : f_X1_requireJob Γ.1 l0 l1 s0 = some (r, s1)) : ZM Γ yX1_requireJob (ws_ yX1_requireJob cX1_requireJob 2 none) 9 221 [zr (some l0), zi l1] s0 (zoU r, s1) := by
  refine ZM.of (own := RX1) (by decide) rfl (Nat.le_of_ble_eq_true rfl) ?_
  intro X hg hC hL hno hQ hin
  subst hg
  unfold f_X1_requireJob at hf
  refine z_iload_n hC (pc := 0) dX1_requireJob_0 rfl 1 rfl ?_
  refine z_aload_n hC (pc := 1) dX1_requireJob_1 rfl 0 rfl ?_
  refine z_getR hC (pc := 2) in_X1 zcX1 3 (Nat.le_of_ble_eq_true rfl) (zLk.o hC q394) zsm dX1_requireJob_2 hf (fun v1 hf => ?_)
  refine z_getR hC (pc := 5) in_X3 zcX3 0 (Nat.le_of_ble_eq_true rfl) (zLk.n hC q366) zsm dX1_requireJob_5 hf (fun v2 hf => ?_)
  refine z_getR hC (pc := 8) in_X4 zcX4 3 (Nat.le_of_ble_eq_true rfl) (zLk.n hC q332) zsm dX1_requireJob_8 hf (fun v3 hf => ?_)
  obtain ⟨a6, fs4, rfl, ha5, hf⟩ := z_rcO hf
  refine z_cI5 (rest := [zi l1]) hf (fun v7 s8 hcall => z_runF hC (pc := 11) zcJ5 0 ha5 (m_J5_size X.g a6 s0 s8 v7 hcall) (lw_app (zm4 q431 q435 q437 q104) (lw_meth q439)) q433 q432 q438 q436 q434 (by decide +kernel) ⟨(Nat.le_of_ble_eq_true rfl), (Nat.le_of_ble_eq_true rfl)⟩ rfl (Nat.le_of_ble_eq_true rfl) dX1_requireJob_11 rfl) (fun v7 s8 hf => ?_)
  refine z_cXU (rest := []) hf (fun v9 s10 hcall => z_runS hC (pc := 16) 2 (m_X1_requireIndex X.g l1 v7 s8 s10 v9 hcall) (lw_S q2504 q2505 q95 q2506) hd_X1_requireIndex ⟨(Nat.le_of_ble_eq_true rfl), (Nat.le_of_ble_eq_true rfl)⟩ rfl (Nat.le_of_ble_eq_true rfl) dX1_requireJob_16 rfl) (fun _ s10 hf => ?_) (fun e s hf => z_outU hC hQ hno hf)
  exact z_returnX hC (pc := 19) hQ dX1_requireJob_19 hf
/-! BlockingShop.completion(I)I -/
def f_X1_completion (G : Nat → Nat) (l0 : Nat) (l1 : Int32) (s0 : zS) : Option ((Int32 ⊕ (Nat × Nat)) × zS) :=
zo (zrc s0 (some l0) 0) fun _ =>
zx (f_X1_requireJob G l0 l1 s0) (fun e s => some (.inr e, s)) fun _ s4 =>
zo (zgR s4 (some l0) 0 3) fun v5 =>
zo (zrc s4 v5 2) fun a8 =>
zb (f_X3_completion G a8 l1 s4) fun v9 s10 =>
some (.inl v9, s10)
set_option maxHeartbeats 4000000 in
theorem m_X1_completion (Γ : zG) (l0 : Nat) (l1 : Int32) (s0 s1 : zS) (r : (Int32 ⊕ (Nat × Nat))) (hf : f_X1_completion Γ.1 l0 l1 s0 = some (r, s1)) : ZM Γ yX1_completion (ws_ yX1_completion cX1_completion 2 (some .int)) 10 242 [zr (some l0), zi l1] s0 (zoI r, s1) := by
  refine ZM.of (own := RX1) (by decide) rfl (Nat.le_of_ble_eq_true rfl) ?_
  intro X hg hC hL hno hQ hin
  subst hg
  unfold f_X1_completion at hf
  refine z_aload_n hC (pc := 0) dX1_completion_0 rfl 0 rfl ?_
  refine z_iload_n hC (pc := 1) dX1_completion_1 rfl 1 rfl ?_
  obtain ⟨fs1, ha2, hf⟩ := z_rcN hf
  refine z_cXU (rest := []) hf (fun v3 s4 hcall => z_runV hC (pc := 2) zcX1 1 ha2 (m_X1_requireJob X.g l0 l1 s0 s4 v3 hcall) (lw_V q2500 q2502 qs43 q95 q2503) hdV_X1_requireJob ⟨(Nat.le_of_ble_eq_true rfl), (Nat.le_of_ble_eq_true rfl)⟩ rfl (Nat.le_of_ble_eq_true rfl) dX1_completion_2 rfl) (fun _ s4 hf => ?_) (fun e s hf => z_outI hC hQ hno hf)
  refine z_aload_n hC (pc := 5) dX1_completion_5 rfl 0 rfl ?_
  refine z_getR hC (pc := 6) in_X1 zcX1 3 (Nat.le_of_ble_eq_true rfl) (zLk.o hC q394) zsm dX1_completion_6 hf (fun v5 hf => ?_)
  refine z_iload_n hC (pc := 9) dX1_completion_9 rfl 1 rfl ?_
  obtain ⟨a8, fs6, rfl, ha7, hf⟩ := z_rcO hf
  refine z_cI (rest := []) hf (fun v9 s10 hcall => z_runV hC (pc := 10) zcX3 1 ha7 (m_X3_completion X.g a8 l1 s4 s10 v9 hcall) (lw_V q2571 q471 q472 q99 q473) hdV_X3_completion ⟨(Nat.le_of_ble_eq_true rfl), (Nat.le_of_ble_eq_true rfl)⟩ rfl (Nat.le_of_ble_eq_true rfl) dX1_completion_10 rfl) (fun v9 s10 hf => ?_)
  exact z_ireturnX hC (pc := 13) hQ dX1_completion_13 hf
/-! BlockingShopLaw.completion(LBlockingShop;I[J)I -/
def f_X0_completion (G : Nat → Nat) (l0 : Option Nat) (l1 : Int32) (l2 : Option Nat) (s0 : zS) : Option (Int32 × zS) :=
zo (zrc s0 l0 0) fun a3 =>
zx (f_X1_completion G a3 l1 s0) (fun e s5 => if e.1 = 25 then (some (1, s5)) else none) fun v4 s5 =>
zo (zsL G s5 l2 0 (v4.toInt64)) fun s6 =>
some (0, s6)
set_option maxHeartbeats 4000000 in
theorem m_X0_completion (Γ : zG) (l0 : Option Nat) (l1 : Int32) (l2 : Option Nat) (s0 s1 : zS) (r : Int32) (hf : f_X0_completion Γ.1 l0 l1 l2 s0 = some (r, s1)) : ZM Γ yX0_completion (wsW_ yX0_completion cX0_completion 4 (some .int) [(0, 9, 12, 18)]) 11 263 [zr l0, zi l1, zr l2] s0 (.inl (some (zi r)), s1) := by
  refine ZM.ofH (own := RX0) (by decide) rfl (Nat.le_of_ble_eq_true rfl) ?_
  intro X hg hC hL hno hQ hin
  subst hg
  unfold f_X0_completion at hf
  refine z_aload_n hC (pc := 0) dX0_completion_0 rfl 2 rfl ?_
  refine z_iconst (v := 0) hC (pc := 1) dX0_completion_1 zki_0 ?_
  refine z_aload_n hC (pc := 2) dX0_completion_2 rfl 0 rfl ?_
  refine z_iload_n hC (pc := 3) dX0_completion_3 rfl 1 rfl ?_
  obtain ⟨a3, fs1, rfl, ha2, hf⟩ := z_rcO hf
  refine z_cXI (rest := [zi 0, zr l2]) hf (fun v4 s5 hcall => z_runV hC (pc := 4) zcX1 1 ha2 (m_X1_completion X.g a3 l1 s0 s5 v4 hcall) (lw_V q2567 q2568 q2569 q95 q2570) hdV_X1_completion ⟨(Nat.le_of_ble_eq_true rfl), (Nat.le_of_ble_eq_true rfl)⟩ rfl (Nat.le_of_ble_eq_true rfl) dX0_completion_4 rfl) (fun v4 s5 hf => ?_) (fun e s5 hf => ?_)
  · skip
    refine z_i2l hC (pc := 7) dX0_completion_7 ?_
    refine z_last hC (pc := 8) dX0_completion_8 hf (fun s6 hf => ?_)
    refine z_goto hC (pc := 9) (tgt := 15) dX0_completion_9 rfl ?_
    refine z_iconst (v := 0) hC (pc := 15) dX0_completion_15 zki_0 ?_
    exact z_ireturn hC (pc := 16) hQ dX0_completion_16 hf
  · skip
    by_cases c7 : e.1 = 25
    · have hf := zif_t hf c7
      rw [c7]
      refine z_catch hC zcE25 [] ⟨0, 9, 12, 18⟩ [] (hno.trans rfl) (fun z hz => nomatch hz) rfl (by decide) q2480 q506 ?_
      refine z_astore_n (lv' := [(3, zr (some (e.2))), (0, zr (some a3)), (1, zi l1), (2, zr l2)]) hC (pc := 12) hL dX0_completion_12 rfl (Nat.le_of_ble_eq_true rfl) rfl ?_
      refine z_iconst (v := 1) hC (pc := 13) dX0_completion_13 zki_1 ?_
      exact z_ireturn hC (pc := 14) hQ dX0_completion_14 hf
    · have hf := zif_f hf c7
      cases hf
/-! BlockingShop$Plan$1.hasNext()Z -/
def f_X14_hasNext (G : Nat → Nat) (l0 : Nat) (s0 : zS) : Option (Int32 × zS) :=
zo (zgI s0 (some l0) 12 1) fun v1 =>
if v1 = (-1) then (zrn .boolean 0 s0)
else (zo (zgR s0 (some l0) 12 0) fun v3 =>
zo (zgI s0 (some l0) 12 1) fun v4 =>
zo (zrc s0 v3 19) fun a7 =>
zb (f_J22_get G a7 v4 s0) fun v8 s9 =>
if v8 = 0 then (zrn .boolean 1 s9)
else (zrn .boolean 0 s9))
set_option maxHeartbeats 4000000 in
theorem m_X14_hasNext (Γ : zG) (l0 : Nat) (s0 s1 : zS) (r : Int32) (hf : f_X14_hasNext Γ.1 l0 s0 = some (r, s1)) : ZM Γ yX14_hasNext (ws_ yX14_hasNext cX14_hasNext 1 (some .boolean)) 3 42 [zr (some l0)] s0 (.inl (some (zi r)), s1) := by
  refine ZM.of (own := RX14) (by decide) rfl (Nat.le_of_ble_eq_true rfl) ?_
  intro X hg hC hL hno hQ hin
  subst hg
  unfold f_X14_hasNext at hf
  refine z_aload_n hC (pc := 0) dX14_hasNext_0 rfl 0 rfl ?_
  refine z_getI hC (pc := 1) in_X14 zcX14 1 (Nat.le_of_ble_eq_true rfl) (zLk.o hC q1053) zsm dX14_hasNext_1 hf (fun v1 hf => ?_)
  refine z_iconst (v := (-1)) hC (pc := 4) dX14_hasNext_4 zki_m1 ?_
  refine z_icmp_eq hC (pc := 5) (tgt := 26) dX14_hasNext_5 rfl (fun c2 => ?_) (fun c2 => ?_)
  · have hf := zif_t hf c2
    refine z_iconst (v := 0) hC (pc := 26) dX14_hasNext_26 zki_0 ?_
    exact z_zreturn hC (pc := 27) hQ dX14_hasNext_27 hf
  · have hf := zif_f hf c2
    refine z_aload_n hC (pc := 8) dX14_hasNext_8 rfl 0 rfl ?_
    refine z_getR hC (pc := 9) in_X14 zcX14 0 (Nat.le_of_ble_eq_true rfl) (zLk.o hC q1052) zsm dX14_hasNext_9 hf (fun v3 hf => ?_)
    refine z_aload_n hC (pc := 12) dX14_hasNext_12 rfl 0 rfl ?_
    refine z_getI hC (pc := 13) in_X14 zcX14 1 (Nat.le_of_ble_eq_true rfl) (zLk.o hC q1053) zsm dX14_hasNext_13 hf (fun v4 hf => ?_)
    obtain ⟨a7, fs5, rfl, ha6, hf⟩ := z_rcO hf
    refine z_cI (rest := []) hf (fun v8 s9 hcall => z_runV hC (pc := 16) zcJ22 1 ha6 (m_J22_get X.g a7 v4 s0 s9 v8 hcall) (lw_V q1072 q1073 q1074 q129 q1075) hdV_J22_get ⟨(Nat.le_of_ble_eq_true rfl), (Nat.le_of_ble_eq_true rfl)⟩ rfl (Nat.le_of_ble_eq_true rfl) dX14_hasNext_16 rfl) (fun v8 s9 hf => ?_)
    refine z_if_ne hC (pc := 19) (tgt := 26) dX14_hasNext_19 rfl (fun c10 => ?_) (fun c10 => ?_)
    · have hf := zif_f hf c10
      refine z_iconst (v := 0) hC (pc := 26) dX14_hasNext_26 zki_0 ?_
      exact z_zreturn hC (pc := 27) hQ dX14_hasNext_27 hf
    · have hf := zif_t hf c10
      refine z_iconst (v := 1) hC (pc := 22) dX14_hasNext_22 zki_1 ?_
      refine z_goto hC (pc := 23) (tgt := 27) dX14_hasNext_23 rfl ?_
      exact z_zreturn hC (pc := 27) hQ dX14_hasNext_27 hf
/-! BlockingShop$Layout.isFirst(I)Z -/
def f_X4_isFirst (G : Nat → Nat) (l0 : Nat) (l1 : Int32) (s0 : zS) : Option (Int32 × zS) :=
if (l1 - l1 / 6 * 6) = 0 then (zrn .boolean 1 s0)
else (zrn .boolean 0 s0)
set_option maxHeartbeats 4000000 in
theorem m_X4_isFirst (Γ : zG) (l0 : Nat) (l1 : Int32) (s0 s1 : zS) (r : Int32) (hf : f_X4_isFirst Γ.1 l0 l1 s0 = some (r, s1)) : ZM Γ yX4_isFirst (ws_ yX4_isFirst cX4_isFirst 2 (some .boolean)) 1 0 [zr (some l0), zi l1] s0 (.inl (some (zi r)), s1) := by
  refine ZM.of (own := RX4) (by decide) rfl (Nat.le_of_ble_eq_true rfl) ?_
  intro X hg hC hL hno hQ hin
  subst hg
  unfold f_X4_isFirst at hf
  refine ZW.perm (lv' := [(1, zi l1)]) [1] rfl ?_
  refine z_iload_n hC (pc := 0) dX4_isFirst_0 rfl 0 rfl ?_
  refine z_bipush (v := 6) hC (pc := 1) dX4_isFirst_1 zkb_6 ?_
  refine z_irem hC (pc := 3) dX4_isFirst_3 (by decide) ?_
  refine z_if_ne hC (pc := 4) (tgt := 11) dX4_isFirst_4 rfl (fun c1 => ?_) (fun c1 => ?_)
  · have hf := zif_f hf c1
    refine z_iconst (v := 0) hC (pc := 11) dX4_isFirst_11 zki_0 ?_
    exact z_zreturn hC (pc := 12) hQ dX4_isFirst_12 hf
  · have hf := zif_t hf c1
    refine z_iconst (v := 1) hC (pc := 7) dX4_isFirst_7 zki_1 ?_
    refine z_goto hC (pc := 8) (tgt := 12) dX4_isFirst_8 rfl ?_
    exact z_zreturn hC (pc := 12) hQ dX4_isFirst_12 hf
/-! BlockingShop$Plan.position(I)I -/
def f_X3_position_b2 (G : Nat → Nat) (k2 : Nat → Int32 → Int32 → zS → Option (Int32 × zS)) (l0 : Nat) (l1 : Int32) (l2 : Int32) (s0 : zS) : Option (Int32 × zS) :=
zo (zgR s0 (some l0) 2 4) fun v1 =>
zo (zgR s0 (some l0) 2 0) fun v2 =>
zo (zgR s0 v2 3 4) fun v3 =>
zo (zaI s0 v3 0 l1) fun v4 =>
zo (zaR s0 v1 v4) fun v5 =>
zo (zaI s0 v5 0 l2) fun v6 =>
if v6 = l1 then (some (l2, s0))
else (k2 l0 l1 (l2 + 1) s0)
set_option maxHeartbeats 4000000 in
theorem w_X3_position_b2 {X : zX} (hC : ZC X RX3 cX3_position (some .int) 1 0) (hL : X.nL = 3) (hno : ∀ x ∈ X.c.exceptionTable.toList, False) {r : Int32} {sF : zS} (hQ : ZQ X (.inl (some (zi r)), sF)) (k2 : Nat → Int32 → Int32 → zS → Option (Int32 × zS)) (hk2 : ∀ (l0 : Nat) (l1 : Int32) (l2 : Int32) (s0 : zS), k2 l0 l1 l2 s0 = some (r, sF) → ZW X s0 2 [(0, zr (some l0)), (1, zi l1), (2, zi l2)] []) (l0 : Nat) (l1 : Int32) (l2 : Int32) (s0 : zS) (hf : f_X3_position_b2 X.g.1 k2 l0 l1 l2 s0 = some (r, sF)) : ZW X s0 2 [(0, zr (some l0)), (1, zi l1), (2, zi l2)] [] := by
  unfold f_X3_position_b2 at hf
  refine z_aload_n hC (pc := 2) dX3_position_2 rfl 0 rfl ?_
  refine z_getR hC (pc := 3) in_X3 zcX3 4 (Nat.le_of_ble_eq_true rfl) (zLk.o hC q376) zsm dX3_position_3 hf (fun v1 hf => ?_)
  refine z_aload_n hC (pc := 6) dX3_position_6 rfl 0 rfl ?_
  refine z_getR hC (pc := 7) in_X3 zcX3 0 (Nat.le_of_ble_eq_true rfl) (zLk.o hC q364) zsm dX3_position_7 hf (fun v2 hf => ?_)
  refine z_getR hC (pc := 10) in_X4 zcX4 4 (Nat.le_of_ble_eq_true rfl) (zLk.n hC q336) zsm dX3_position_10 hf (fun v3 hf => ?_)
  refine z_iload_n hC (pc := 13) dX3_position_13 rfl 1 rfl ?_
  refine z_iald hC (pc := 14) dX3_position_14 hf (fun v4 hf => ?_)
  refine z_aald hC (pc := 15) dX3_position_15 hf (fun v5 hf => ?_)
  refine z_iload_n hC (pc := 16) dX3_position_16 rfl 2 rfl ?_
  refine z_iald hC (pc := 17) dX3_position_17 hf (fun v6 hf => ?_)
  refine z_iload_n hC (pc := 18) dX3_position_18 rfl 1 rfl ?_
  refine z_icmp_eq hC (pc := 19) (tgt := 28) dX3_position_19 rfl (fun c7 => ?_) (fun c7 => ?_)
  · have hf := zif_t hf c7
    refine z_iload_n hC (pc := 28) dX3_position_28 rfl 2 rfl ?_
    exact z_ireturn hC (pc := 29) hQ dX3_position_29 hf
  · have hf := zif_f hf c7
    refine z_iinc (v := 1) (lv' := [(2, zi (l2 + 1)), (0, zr (some l0)), (1, zi l1)]) hC (pc := 22) hL dX3_position_22 2 rfl zki_1 (Nat.le_of_ble_eq_true rfl) rfl ?_
    refine z_goto hC (pc := 25) (tgt := 2) dX3_position_25 rfl ?_
    refine ZW.perm (lv' := [(0, zr (some l0)), (1, zi l1), (2, zi (l2 + 1))]) [1, 2, 0] rfl ?_
    exact hk2 l0 l1 (l2 + 1) s0 hf
def f_X3_position_l2 (G : Nat → Nat) : Nat → Nat → Int32 → Int32 → zS → Option (Int32 × zS)
  | 0 => fun _ _ _ _ => none
  | n + 1 => f_X3_position_b2 G (f_X3_position_l2 G n)
theorem w_X3_position_l2 {X : zX} (hC : ZC X RX3 cX3_position (some .int) 1 0) (hL : X.nL = 3) (hno : ∀ x ∈ X.c.exceptionTable.toList, False) {r : Int32} {sF : zS} (hQ : ZQ X (.inl (some (zi r)), sF)) : ∀ (n : Nat) (l0 : Nat) (l1 : Int32) (l2 : Int32) (s0 : zS) (_ : f_X3_position_l2 X.g.1 n l0 l1 l2 s0 = some (r, sF)), ZW X s0 2 [(0, zr (some l0)), (1, zi l1), (2, zi l2)] [] := by
  intro n
  induction n with
  | zero => intro l0 l1 l2 s0 hf; exact absurd (show (none : Option (Int32 × zS)) = some (r, sF) from hf) (fun z => nomatch z)
  | succ n ih => intro l0 l1 l2 s0 hf; exact w_X3_position_b2 hC hL hno hQ (f_X3_position_l2 X.g.1 n) ih l0 l1 l2 s0 hf
def f_X3_position (G : Nat → Nat) (l0 : Nat) (l1 : Int32) (s0 : zS) : Option (Int32 × zS) :=
f_X3_position_l2 G 2000 l0 l1 0 s0
set_option maxHeartbeats 4000000 in
theorem m_X3_position (Γ : zG) (l0 : Nat) (l1 : Int32) (s0 s1 : zS) (r : Int32) (hf : f_X3_position Γ.1 l0 l1 s0 = some (r, s1)) : ZM Γ yX3_position (ws_ yX3_position cX3_position 3 (some .int)) 1 0 [zr (some l0), zi l1] s0 (.inl (some (zi r)), s1) := by
  refine ZM.of (own := RX3) (by decide) rfl (Nat.le_of_ble_eq_true rfl) ?_
  intro X hg hC hL hno hQ hin
  subst hg
  unfold f_X3_position at hf
  refine z_iconst (v := 0) hC (pc := 0) dX3_position_0 zki_0 ?_
  refine z_istore_n (lv' := [(2, zi 0), (0, zr (some l0)), (1, zi l1)]) hC (pc := 1) hL dX3_position_1 rfl (Nat.le_of_ble_eq_true rfl) rfl ?_
  refine ZW.perm (lv' := [(0, zr (some l0)), (1, zi l1), (2, zi 0)]) [1, 2, 0] rfl ?_
  exact w_X3_position_l2 hC hL hno hQ 2000 l0 l1 0 s0 hf
/-! BlockingShop$Plan.before(I)I -/
def f_X3_before_b70 (G : Nat → Nat) (l0 : Nat) (l1 : Int32) (s0 : zS) : Option (Int32 × zS) :=
zo (zgR s0 (some l0) 2 4) fun v1 =>
zo (zgR s0 (some l0) 2 0) fun v2 =>
zo (zgR s0 v2 3 4) fun v3 =>
zo (zaI s0 v3 0 l1) fun v4 =>
zo (zaR s0 v1 v4) fun v5 =>
zo (zrc s0 (some l0) 2) fun _ =>
zb (f_X3_position G l0 l1 s0) fun v8 s9 =>
zo (zaI s9 v5 0 (v8 - 1)) fun v10 =>
zo (zgR s9 (some l0) 2 0) fun v11 =>
zo (zrc s9 v11 3) fun a14 =>
zb (f_X4_isBlocked G a14 v10 s9) fun v15 s16 =>
if v15 = 0 then (some (v10, s16))
else (some ((v10 + 1), s16))
set_option maxHeartbeats 4000000 in
theorem w_X3_before_b70 {X : zX} (hC : ZC X RX3 cX3_before (some .int) 8 152) (hL : X.nL = 4) (hno : ∀ x ∈ X.c.exceptionTable.toList, False) {r : Int32} {sF : zS} (hQ : ZQ X (.inl (some (zi r)), sF)) (l0 : Nat) (l1 : Int32) (s0 : zS) (hf : f_X3_before_b70 X.g.1 l0 l1 s0 = some (r, sF)) : ZW X s0 70 [(0, zr (some l0)), (1, zi l1)] [] := by
  unfold f_X3_before_b70 at hf
  refine z_aload_n hC (pc := 70) dX3_before_70 rfl 0 rfl ?_
  refine z_getR hC (pc := 71) in_X3 zcX3 4 (Nat.le_of_ble_eq_true rfl) (zLk.o hC q376) zsm dX3_before_71 hf (fun v1 hf => ?_)
  refine z_aload_n hC (pc := 74) dX3_before_74 rfl 0 rfl ?_
  refine z_getR hC (pc := 75) in_X3 zcX3 0 (Nat.le_of_ble_eq_true rfl) (zLk.o hC q364) zsm dX3_before_75 hf (fun v2 hf => ?_)
  refine z_getR hC (pc := 78) in_X4 zcX4 4 (Nat.le_of_ble_eq_true rfl) (zLk.n hC q336) zsm dX3_before_78 hf (fun v3 hf => ?_)
  refine z_iload_n hC (pc := 81) dX3_before_81 rfl 1 rfl ?_
  refine z_iald hC (pc := 82) dX3_before_82 hf (fun v4 hf => ?_)
  refine z_aald hC (pc := 83) dX3_before_83 hf (fun v5 hf => ?_)
  refine z_aload_n hC (pc := 84) dX3_before_84 rfl 0 rfl ?_
  refine z_iload_n hC (pc := 85) dX3_before_85 rfl 1 rfl ?_
  obtain ⟨fs6, ha7, hf⟩ := z_rcN hf
  refine z_cI (rest := [zr v5]) hf (fun v8 s9 hcall => z_runV hC (pc := 86) zcX3 1 ha7 (m_X3_position X.g l0 l1 s0 s9 v8 hcall) (lw_V q1185 q1186 q1187 q99 q1188) hdV_X3_position ⟨(Nat.le_of_ble_eq_true rfl), (Nat.le_of_ble_eq_true rfl)⟩ rfl (Nat.le_of_ble_eq_true rfl) dX3_before_86 rfl) (fun v8 s9 hf => ?_)
  refine z_iconst (v := 1) hC (pc := 89) dX3_before_89 zki_1 ?_
  refine z_isub hC (pc := 90) dX3_before_90 ?_
  refine z_iald hC (pc := 91) dX3_before_91 hf (fun v10 hf => ?_)
  refine z_istore_n (lv' := [(3, zi v10), (0, zr (some l0)), (1, zi l1)]) hC (pc := 92) hL dX3_before_92 rfl (Nat.le_of_ble_eq_true rfl) rfl ?_
  refine z_aload_n hC (pc := 93) dX3_before_93 rfl 1 rfl ?_
  refine z_getR hC (pc := 94) in_X3 zcX3 0 (Nat.le_of_ble_eq_true rfl) (zLk.o hC q364) zsm dX3_before_94 hf (fun v11 hf => ?_)
  refine z_iload_n hC (pc := 97) dX3_before_97 rfl 0 rfl ?_
  obtain ⟨a14, fs12, rfl, ha13, hf⟩ := z_rcO hf
  refine z_cI (rest := []) hf (fun v15 s16 hcall => z_runV hC (pc := 98) zcX4 1 ha13 (m_X4_isBlocked X.g a14 v10 s9 s16 v15 hcall) (lw_V q1189 q1190 q1191 q100 q1192) hdV_X4_isBlocked ⟨(Nat.le_of_ble_eq_true rfl), (Nat.le_of_ble_eq_true rfl)⟩ rfl (Nat.le_of_ble_eq_true rfl) dX3_before_98 rfl) (fun v15 s16 hf => ?_)
  refine z_if_eq hC (pc := 101) (tgt := 110) dX3_before_101 rfl (fun c17 => ?_) (fun c17 => ?_)
  · have hf := zif_t hf c17
    refine z_iload_n hC (pc := 110) dX3_before_110 rfl 0 rfl ?_
    exact z_ireturn hC (pc := 111) hQ dX3_before_111 hf
  · have hf := zif_f hf c17
    refine z_iload_n hC (pc := 104) dX3_before_104 rfl 0 rfl ?_
    refine z_iconst (v := 1) hC (pc := 105) dX3_before_105 zki_1 ?_
    refine z_iadd hC (pc := 106) dX3_before_106 ?_
    refine z_goto hC (pc := 107) (tgt := 111) dX3_before_107 rfl ?_
    exact z_ireturn hC (pc := 111) hQ dX3_before_111 hf
def f_X3_before_b46 (G : Nat → Nat) (l0 : Nat) (l1 : Int32) (l2 : Int32) (s0 : zS) : Option (Int32 × zS) :=
if l2 = 0 then (zo (zrc s0 (some l0) 2) fun _ =>
zb (f_X3_end G l0 (l1 - 1) s0) fun v4 s5 =>
zo (zgR s5 (some l0) 2 3) fun v6 =>
zo (zaI s5 v6 0 l1) fun v7 =>
if v4 = v7 then (some ((l1 - 1), s5))
else (f_X3_before_b70 G l0 l1 s5))
else (f_X3_before_b70 G l0 l1 s0)
set_option maxHeartbeats 4000000 in
theorem w_X3_before_b46 {X : zX} (hC : ZC X RX3 cX3_before (some .int) 8 152) (hL : X.nL = 4) (hno : ∀ x ∈ X.c.exceptionTable.toList, False) {r : Int32} {sF : zS} (hQ : ZQ X (.inl (some (zi r)), sF)) (l0 : Nat) (l1 : Int32) (l2 : Int32) (s0 : zS) (hf : f_X3_before_b46 X.g.1 l0 l1 l2 s0 = some (r, sF)) : ZW X s0 46 [(0, zr (some l0)), (1, zi l1), (2, zi l2)] [] := by
  unfold f_X3_before_b46 at hf
  refine z_iload_n hC (pc := 46) dX3_before_46 rfl 2 rfl ?_
  refine z_if_ne hC (pc := 47) (tgt := 70) dX3_before_47 rfl (fun c1 => ?_) (fun c1 => ?_)
  · have hf := zif_f hf c1
    refine ZW.perm (lv' := [(0, zr (some l0)), (1, zi l1)]) [0, 1] rfl ?_
    exact w_X3_before_b70 hC hL hno hQ l0 l1 s0 hf
  · have hf := zif_t hf c1
    refine z_aload_n hC (pc := 50) dX3_before_50 rfl 0 rfl ?_
    refine z_iload_n hC (pc := 51) dX3_before_51 rfl 1 rfl ?_
    refine z_iconst (v := 1) hC (pc := 52) dX3_before_52 zki_1 ?_
    refine z_isub hC (pc := 53) dX3_before_53 ?_
    obtain ⟨fs2, ha3, hf⟩ := z_rcN hf
    refine z_cI (rest := []) hf (fun v4 s5 hcall => z_runV hC (pc := 54) zcX3 1 ha3 (m_X3_end X.g l0 (l1 - 1) s0 s5 v4 hcall) (lw_V q876 q877 q878 q99 q879) hdV_X3_end ⟨(Nat.le_of_ble_eq_true rfl), (Nat.le_of_ble_eq_true rfl)⟩ rfl (Nat.le_of_ble_eq_true rfl) dX3_before_54 rfl) (fun v4 s5 hf => ?_)
    refine z_aload_n hC (pc := 57) dX3_before_57 rfl 0 rfl ?_
    refine z_getR hC (pc := 58) in_X3 zcX3 3 (Nat.le_of_ble_eq_true rfl) (zLk.o hC q374) zsm dX3_before_58 hf (fun v6 hf => ?_)
    refine z_iload_n hC (pc := 61) dX3_before_61 rfl 1 rfl ?_
    refine z_iald hC (pc := 62) dX3_before_62 hf (fun v7 hf => ?_)
    refine z_icmp_ne hC (pc := 63) (tgt := 70) dX3_before_63 rfl (fun c8 => ?_) (fun c8 => ?_)
    · have hf := zif_f hf c8
      refine ZW.perm (lv' := [(0, zr (some l0)), (1, zi l1)]) [0, 1] rfl ?_
      exact w_X3_before_b70 hC hL hno hQ l0 l1 s5 hf
    · have hf := zif_t hf c8
      refine z_iload_n hC (pc := 66) dX3_before_66 rfl 1 rfl ?_
      refine z_iconst (v := 1) hC (pc := 67) dX3_before_67 zki_1 ?_
      refine z_isub hC (pc := 68) dX3_before_68 ?_
      exact z_ireturn hC (pc := 69) hQ dX3_before_69 hf
def f_X3_before (G : Nat → Nat) (l0 : Nat) (l1 : Int32) (s0 : zS) : Option (Int32 × zS) :=
zo (zgR s0 (some l0) 2 0) fun v1 =>
zo (zrc s0 v1 3) fun a4 =>
zb (f_X4_isFirst G a4 l1 s0) fun v5 s6 =>
if v5 = 0 then (f_X3_before_b46 G l0 l1 v5 s6)
else (zo (zgR s6 (some l0) 2 3) fun v8 =>
zo (zaI s6 v8 0 l1) fun v9 =>
zo (zgR s6 (some l0) 2 0) fun v10 =>
zo (zgR s6 v10 3 3) fun v11 =>
zo (zrc s6 v11 15) fun a14 =>
zb (f_J5_get G a14 (l1 / 6) s6) fun v15 s16 =>
zo (zcst s16 v15 9) fun _ =>
zo (zgI s16 v15 9 0) fun v17 =>
if v9 = v17 then (some ((-1), s16))
else (f_X3_before_b46 G l0 l1 v5 s16))
set_option maxHeartbeats 4000000 in
theorem m_X3_before (Γ : zG) (l0 : Nat) (l1 : Int32) (s0 s1 : zS) (r : Int32) (hf : f_X3_before Γ.1 l0 l1 s0 = some (r, s1)) : ZM Γ yX3_before (ws_ yX3_before cX3_before 4 (some .int)) 8 152 [zr (some l0), zi l1] s0 (.inl (some (zi r)), s1) := by
  refine ZM.of (own := RX3) (by decide) rfl (Nat.le_of_ble_eq_true rfl) ?_
  intro X hg hC hL hno hQ hin
  subst hg
  unfold f_X3_before at hf
  refine z_aload_n hC (pc := 0) dX3_before_0 rfl 0 rfl ?_
  refine z_getR hC (pc := 1) in_X3 zcX3 0 (Nat.le_of_ble_eq_true rfl) (zLk.o hC q364) zsm dX3_before_1 hf (fun v1 hf => ?_)
  refine z_iload_n hC (pc := 4) dX3_before_4 rfl 1 rfl ?_
  obtain ⟨a4, fs2, rfl, ha3, hf⟩ := z_rcO hf
  refine z_cI (rest := []) hf (fun v5 s6 hcall => z_runV hC (pc := 5) zcX4 1 ha3 (m_X4_isFirst X.g a4 l1 s0 s6 v5 hcall) (lw_V q1181 q1182 q1183 q100 q1184) hdV_X4_isFirst ⟨(Nat.le_of_ble_eq_true rfl), (Nat.le_of_ble_eq_true rfl)⟩ rfl (Nat.le_of_ble_eq_true rfl) dX3_before_5 rfl) (fun v5 s6 hf => ?_)
  refine z_istore_n (lv' := [(2, zi v5), (0, zr (some l0)), (1, zi l1)]) hC (pc := 8) hL dX3_before_8 rfl (Nat.le_of_ble_eq_true rfl) rfl ?_
  refine z_iload_n hC (pc := 9) dX3_before_9 rfl 0 rfl ?_
  refine z_if_eq hC (pc := 10) (tgt := 46) dX3_before_10 rfl (fun c7 => ?_) (fun c7 => ?_)
  · have hf := zif_t hf c7
    refine ZW.perm (lv' := [(0, zr (some l0)), (1, zi l1), (2, zi v5)]) [1, 2, 0] rfl ?_
    exact w_X3_before_b46 hC hL hno hQ l0 l1 v5 s6 hf
  · have hf := zif_f hf c7
    refine z_aload_n hC (pc := 13) dX3_before_13 rfl 1 rfl ?_
    refine z_getR hC (pc := 14) in_X3 zcX3 3 (Nat.le_of_ble_eq_true rfl) (zLk.o hC q374) zsm dX3_before_14 hf (fun v8 hf => ?_)
    refine z_iload_n hC (pc := 17) dX3_before_17 rfl 2 rfl ?_
    refine z_iald hC (pc := 18) dX3_before_18 hf (fun v9 hf => ?_)
    refine z_aload_n hC (pc := 19) dX3_before_19 rfl 1 rfl ?_
    refine z_getR hC (pc := 20) in_X3 zcX3 0 (Nat.le_of_ble_eq_true rfl) (zLk.o hC q364) zsm dX3_before_20 hf (fun v10 hf => ?_)
    refine z_getR hC (pc := 23) in_X4 zcX4 3 (Nat.le_of_ble_eq_true rfl) (zLk.n hC q333) zsm dX3_before_23 hf (fun v11 hf => ?_)
    refine z_iload_n hC (pc := 26) dX3_before_26 rfl 2 rfl ?_
    refine z_bipush (v := 6) hC (pc := 27) dX3_before_27 zkb_6 ?_
    refine z_idiv hC (pc := 29) dX3_before_29 (by decide) ?_
    obtain ⟨a14, fs12, rfl, ha13, hf⟩ := z_rcO hf
    refine z_cR5 (rest := [zi v9]) hf (fun v15 s16 hcall => z_runF hC (pc := 30) zcJ5 1 ha13 (m_J5_get X.g a14 (l1 / 6) s6 s16 v15 hcall) (lw_app (zm4 q475 q478 q480 q104) (lw_meth q482)) q477 q476 q481 q479 q434 (by decide +kernel) ⟨(Nat.le_of_ble_eq_true rfl), (Nat.le_of_ble_eq_true rfl)⟩ rfl (Nat.le_of_ble_eq_true rfl) dX3_before_30 rfl) (fun v15 s16 hf => ?_)
    refine z_cast hC (pc := 35) zcX11 q875 (Or.inl rfl) dX3_before_35 hf (fun hf => ?_)
    refine z_getI hC (pc := 38) in_X11 zcX11 0 (Nat.le_of_ble_eq_true rfl) (zLk.n hC q2169) zsm dX3_before_38 hf (fun v17 hf => ?_)
    refine z_icmp_ne hC (pc := 41) (tgt := 46) dX3_before_41 rfl (fun c18 => ?_) (fun c18 => ?_)
    · have hf := zif_f hf c18
      refine ZW.perm (lv' := [(0, zr (some l0)), (1, zi l1), (2, zi v5)]) [1, 2, 0] rfl ?_
      exact w_X3_before_b46 hC hL hno hQ l0 l1 v5 s16 hf
    · have hf := zif_t hf c18
      refine z_iconst (v := (-1)) hC (pc := 44) dX3_before_44 zki_m1 ?_
      exact z_ireturn hC (pc := 45) hQ dX3_before_45 hf
/-! BlockingShop$Plan$1.next()Ljava/lang/Integer; -/
def f_X14_next_2 (G : Nat → Nat) (l0 : Nat) (s0 : zS) : Option ((Option Nat) × zS) :=
zo (zrc s0 (some l0) 12) fun _ =>
zb (f_X14_hasNext G l0 s0) fun v3 s4 =>
if v3 = 0 then (none)
else (zo (zgI s4 (some l0) 12 1) fun v6 =>
zo (zgR s4 (some l0) 12 0) fun v7 =>
zo (zrc s4 v7 19) fun a10 =>
zb (f_J22_set G a10 v6 s4) fun _ s12 =>
zo (zgR s12 (some l0) 12 2) fun v13 =>
zo (zrc s12 v13 2) fun a16 =>
zb (f_X3_before G a16 v6 s12) fun v17 s18 =>
zo (zput G s18 (some l0) 12 1 (.int v17)) fun s19 =>
zb (f_J20_valueOf G v6 s19) fun v20 s21 =>
some (v20, s21))
set_option maxHeartbeats 4000000 in
theorem m_X14_next_2 (Γ : zG) (l0 : Nat) (s0 s1 : zS) (r : (Option Nat)) (hf : f_X14_next_2 Γ.1 l0 s0 = some (r, s1)) : ZM Γ yX14_next_2 (ws_ yX14_next_2 cX14_next_2 2 (some (.object "java/lang/Integer"))) 9 175 [zr (some l0)] s0 (.inl (some (zr r)), s1) := by
  refine ZM.of (own := RX14) (by decide) rfl (Nat.le_of_ble_eq_true rfl) ?_
  intro X hg hC hL hno hQ hin
  subst hg
  unfold f_X14_next_2 at hf
  refine z_aload_n hC (pc := 0) dX14_next_2_0 rfl 0 rfl ?_
  obtain ⟨fs1, ha2, hf⟩ := z_rcN hf
  refine z_cI (rest := []) hf (fun v3 s4 hcall => z_runV hC (pc := 1) zcX14 0 ha2 (m_X14_hasNext X.g l0 s0 s4 v3 hcall) (lw_V q1134 q1069 q3128 q150 q1071) hdV_X14_hasNext ⟨(Nat.le_of_ble_eq_true rfl), (Nat.le_of_ble_eq_true rfl)⟩ rfl (Nat.le_of_ble_eq_true rfl) dX14_next_2_1 rfl) (fun v3 s4 hf => ?_)
  refine z_if_ne hC (pc := 4) (tgt := 15) dX14_next_2_4 rfl (fun c5 => ?_) (fun c5 => ?_)
  · have hf := zif_f hf c5
    refine z_aload_n hC (pc := 15) dX14_next_2_15 rfl 0 rfl ?_
    refine z_getI hC (pc := 16) in_X14 zcX14 1 (Nat.le_of_ble_eq_true rfl) (zLk.o hC q1053) zsm dX14_next_2_16 hf (fun v6 hf => ?_)
    refine z_istore_n (lv' := [(1, zi v6), (0, zr (some l0))]) hC (pc := 19) hL dX14_next_2_19 rfl (Nat.le_of_ble_eq_true rfl) rfl ?_
    refine z_aload_n hC (pc := 20) dX14_next_2_20 rfl 1 rfl ?_
    refine z_getR hC (pc := 21) in_X14 zcX14 0 (Nat.le_of_ble_eq_true rfl) (zLk.o hC q1052) zsm dX14_next_2_21 hf (fun v7 hf => ?_)
    refine z_iload_n hC (pc := 24) dX14_next_2_24 rfl 0 rfl ?_
    obtain ⟨a10, fs8, rfl, ha9, hf⟩ := z_rcO hf
    refine z_cU (rest := []) hf (fun v11 s12 hcall => z_runV hC (pc := 25) zcJ22 1 ha9 (m_J22_set X.g a10 v6 s4 s12 v11 hcall) (lw_V q1156 q1157 q1158 q129 q1159) hdV_J22_set ⟨(Nat.le_of_ble_eq_true rfl), (Nat.le_of_ble_eq_true rfl)⟩ rfl (Nat.le_of_ble_eq_true rfl) dX14_next_2_25 rfl) (fun _ s12 hf => ?_)
    refine z_aload_n hC (pc := 28) dX14_next_2_28 rfl 1 rfl ?_
    refine z_aload_n hC (pc := 29) dX14_next_2_29 rfl 1 rfl ?_
    refine z_getR hC (pc := 30) in_X14 zcX14 2 (Nat.le_of_ble_eq_true rfl) (zLk.o hC q1054) zsm dX14_next_2_30 hf (fun v13 hf => ?_)
    refine z_iload_n hC (pc := 33) dX14_next_2_33 rfl 0 rfl ?_
    obtain ⟨a16, fs14, rfl, ha15, hf⟩ := z_rcO hf
    refine z_cI (rest := [zr (some l0)]) hf (fun v17 s18 hcall => z_runVN hC (pc := 34) zcX3 1 ha15 (m_X3_before X.g a16 v6 s12 s18 v17 hcall) q1177 q1180 q99 q1179 qs10 hd_X3_before ⟨(Nat.le_of_ble_eq_true rfl), (Nat.le_of_ble_eq_true rfl)⟩ rfl (Nat.le_of_ble_eq_true rfl) dX14_next_2_34 rfl) (fun v17 s18 hf => ?_)
    refine z_putV (v := zi v17) hC (pc := 37) in_X14 tyX14 tyX14_ok nmX14 zcX14 1 (Nat.le_of_ble_eq_true rfl) (zLk.o hC q1053) zsm (Or.inl rfl) rfl rfl dX14_next_2_37 hf (fun s19 hf => ?_)
    refine z_iload_n hC (pc := 40) dX14_next_2_40 rfl 0 rfl ?_
    refine z_cR (rest := []) hf (fun v20 s21 hcall => z_runS hC (pc := 41) 1 (m_J20_valueOf X.g v6 s19 s21 v20 hcall) (lw_S q1439 q1198 q125 q1199) hd_J20_valueOf ⟨(Nat.le_of_ble_eq_true rfl), (Nat.le_of_ble_eq_true rfl)⟩ rfl (Nat.le_of_ble_eq_true rfl) dX14_next_2_41 rfl) (fun v20 s21 hf => ?_)
    exact z_areturn hC (pc := 44) (Or.inl ⟨_, rfl⟩) hQ dX14_next_2_44 hf
  · have hf := zif_t hf c5
    cases hf
/-! BlockingShop$Plan$1.next()Ljava/lang/Object; -/
def f_X14_next (G : Nat → Nat) (l0 : Nat) (s0 : zS) : Option ((Option Nat) × zS) :=
zo (zrc s0 (some l0) 12) fun _ =>
zb (f_X14_next_2 G l0 s0) fun v3 s4 =>
some (v3, s4)
set_option maxHeartbeats 4000000 in
theorem m_X14_next (Γ : zG) (l0 : Nat) (s0 s1 : zS) (r : (Option Nat)) (hf : f_X14_next Γ.1 l0 s0 = some (r, s1)) : ZM Γ yX14_next (ws_ yX14_next cX14_next 1 (some (.object "java/lang/Object"))) 10 196 [zr (some l0)] s0 (.inl (some (zr r)), s1) := by
  refine ZM.of (own := RX14) (by decide) rfl (Nat.le_of_ble_eq_true rfl) ?_
  intro X hg hC hL hno hQ hin
  subst hg
  unfold f_X14_next at hf
  refine z_aload_n hC (pc := 0) dX14_next_0 rfl 0 rfl ?_
  obtain ⟨fs1, ha2, hf⟩ := z_rcN hf
  refine z_cR (rest := []) hf (fun v3 s4 hcall => z_runV hC (pc := 1) zcX14 0 ha2 (m_X14_next_2 X.g l0 s0 s4 v3 hcall) (lw_V q1130 q1131 q1132 q150 q1133) hdV_X14_next_2 ⟨(Nat.le_of_ble_eq_true rfl), (Nat.le_of_ble_eq_true rfl)⟩ rfl (Nat.le_of_ble_eq_true rfl) dX14_next_1 rfl) (fun v3 s4 hf => ?_)
  exact z_areturn hC (pc := 4) (Or.inl ⟨_, rfl⟩) hQ dX14_next_4 hf
/-! BlockingShop$Plan.last()I -/
def f_X3_last_b40 (G : Nat → Nat) (k4 : Nat → Int32 → Int32 → zS → Option (Int32 × zS)) (l0 : Nat) (l1 : Int32) (l2 : Int32) (s0 : zS) : Option (Int32 × zS) :=
k4 l0 l1 (l2 + 1) s0
set_option maxHeartbeats 4000000 in
theorem w_X3_last_b40 {X : zX} (hC : ZC X RX3 cX3_last (some .int) 5 85) (hL : X.nL = 3) (hno : ∀ x ∈ X.c.exceptionTable.toList, False) {r : Int32} {sF : zS} (hQ : ZQ X (.inl (some (zi r)), sF)) (k4 : Nat → Int32 → Int32 → zS → Option (Int32 × zS)) (hk4 : ∀ (l0 : Nat) (l1 : Int32) (l2 : Int32) (s0 : zS), k4 l0 l1 l2 s0 = some (r, sF) → ZW X s0 4 [(0, zr (some l0)), (1, zi l1), (2, zi l2)] []) (l0 : Nat) (l1 : Int32) (l2 : Int32) (s0 : zS) (hf : f_X3_last_b40 X.g.1 k4 l0 l1 l2 s0 = some (r, sF)) : ZW X s0 40 [(0, zr (some l0)), (1, zi l1), (2, zi l2)] [] := by
  unfold f_X3_last_b40 at hf
  refine z_iinc (v := 1) (lv' := [(2, zi (l2 + 1)), (0, zr (some l0)), (1, zi l1)]) hC (pc := 40) hL dX3_last_40 2 rfl zki_1 (Nat.le_of_ble_eq_true rfl) rfl ?_
  refine z_goto hC (pc := 43) (tgt := 4) dX3_last_43 rfl ?_
  refine ZW.perm (lv' := [(0, zr (some l0)), (1, zi l1), (2, zi (l2 + 1))]) [1, 2, 0] rfl ?_
  exact hk4 l0 l1 (l2 + 1) s0 hf
def f_X3_last_b38 (G : Nat → Nat) (k4 : Nat → Int32 → Int32 → zS → Option (Int32 × zS)) (l0 : Nat) (l2 : Int32) (s0 : zS) : Option (Int32 × zS) :=
f_X3_last_b40 G k4 l0 l2 l2 s0
set_option maxHeartbeats 4000000 in
theorem w_X3_last_b38 {X : zX} (hC : ZC X RX3 cX3_last (some .int) 5 85) (hL : X.nL = 3) (hno : ∀ x ∈ X.c.exceptionTable.toList, False) {r : Int32} {sF : zS} (hQ : ZQ X (.inl (some (zi r)), sF)) (k4 : Nat → Int32 → Int32 → zS → Option (Int32 × zS)) (hk4 : ∀ (l0 : Nat) (l1 : Int32) (l2 : Int32) (s0 : zS), k4 l0 l1 l2 s0 = some (r, sF) → ZW X s0 4 [(0, zr (some l0)), (1, zi l1), (2, zi l2)] []) (l0 : Nat) (l2 : Int32) (s0 : zS) (hf : f_X3_last_b38 X.g.1 k4 l0 l2 s0 = some (r, sF)) : ZW X s0 38 [(0, zr (some l0)), (2, zi l2)] [] := by
  unfold f_X3_last_b38 at hf
  refine z_iload_n hC (pc := 38) dX3_last_38 rfl 1 rfl ?_
  refine z_istore_n (lv' := [(1, zi l2), (0, zr (some l0)), (2, zi l2)]) hC (pc := 39) hL dX3_last_39 rfl (Nat.le_of_ble_eq_true rfl) rfl ?_
  refine ZW.perm (lv' := [(0, zr (some l0)), (1, zi l2), (2, zi l2)]) [1, 0, 2] rfl ?_
  exact w_X3_last_b40 hC hL hno hQ k4 hk4 l0 l2 l2 s0 hf
def f_X3_last_b4 (G : Nat → Nat) (k4 : Nat → Int32 → Int32 → zS → Option (Int32 × zS)) (l0 : Nat) (l1 : Int32) (l2 : Int32) (s0 : zS) : Option (Int32 × zS) :=
zo (zgR s0 (some l0) 2 0) fun v1 =>
zo (zgR s0 v1 3 3) fun v2 =>
zo (zrc s0 v2 15) fun a5 =>
zb (f_J5_size G a5 s0) fun v6 s7 =>
if v6 ≤ l2 then (if l1 = (-1) then (some ((-1), s7))
else (zo (zgR s7 (some l0) 2 0) fun v10 =>
zo (zgR s7 v10 3 3) fun v11 =>
zo (zrc s7 v11 15) fun a14 =>
zb (f_J5_get G a14 l1 s7) fun v15 s16 =>
zo (zcst s16 v15 9) fun _ =>
zo (zgI s16 v15 9 3) fun v17 =>
some ((((6 * l1) + v17) - 1), s16)))
else (if l1 = (-1) then (f_X3_last_b38 G k4 l0 l2 s7)
else (zo (zrc s7 (some l0) 2) fun _ =>
zb (f_X3_completion G l0 l2 s7) fun v21 s22 =>
zo (zrc s22 (some l0) 2) fun _ =>
zb (f_X3_completion G l0 l1 s22) fun v25 s26 =>
if v21 ≤ v25 then (f_X3_last_b40 G k4 l0 l1 l2 s26)
else (f_X3_last_b38 G k4 l0 l2 s26)))
set_option maxHeartbeats 4000000 in
theorem w_X3_last_b4 {X : zX} (hC : ZC X RX3 cX3_last (some .int) 5 85) (hL : X.nL = 3) (hno : ∀ x ∈ X.c.exceptionTable.toList, False) {r : Int32} {sF : zS} (hQ : ZQ X (.inl (some (zi r)), sF)) (k4 : Nat → Int32 → Int32 → zS → Option (Int32 × zS)) (hk4 : ∀ (l0 : Nat) (l1 : Int32) (l2 : Int32) (s0 : zS), k4 l0 l1 l2 s0 = some (r, sF) → ZW X s0 4 [(0, zr (some l0)), (1, zi l1), (2, zi l2)] []) (l0 : Nat) (l1 : Int32) (l2 : Int32) (s0 : zS) (hf : f_X3_last_b4 X.g.1 k4 l0 l1 l2 s0 = some (r, sF)) : ZW X s0 4 [(0, zr (some l0)), (1, zi l1), (2, zi l2)] [] := by
  unfold f_X3_last_b4 at hf
  refine z_iload_n hC (pc := 4) dX3_last_4 rfl 2 rfl ?_
  refine z_aload_n hC (pc := 5) dX3_last_5 rfl 0 rfl ?_
  refine z_getR hC (pc := 6) in_X3 zcX3 0 (Nat.le_of_ble_eq_true rfl) (zLk.o hC q364) zsm dX3_last_6 hf (fun v1 hf => ?_)
  refine z_getR hC (pc := 9) in_X4 zcX4 3 (Nat.le_of_ble_eq_true rfl) (zLk.n hC q333) zsm dX3_last_9 hf (fun v2 hf => ?_)
  obtain ⟨a5, fs3, rfl, ha4, hf⟩ := z_rcO hf
  refine z_cI5 (rest := [zi l2]) hf (fun v6 s7 hcall => z_runF hC (pc := 12) zcJ5 0 ha4 (m_J5_size X.g a5 s0 s7 v6 hcall) (lw_app (zm4 q469 q435 q437 q104) (lw_meth q439)) q433 q432 q438 q436 q434 (by decide +kernel) ⟨(Nat.le_of_ble_eq_true rfl), (Nat.le_of_ble_eq_true rfl)⟩ rfl (Nat.le_of_ble_eq_true rfl) dX3_last_12 rfl) (fun v6 s7 hf => ?_)
  refine z_icmp_ge hC (pc := 17) (tgt := 46) dX3_last_17 rfl (fun c8 => ?_) (fun c8 => ?_)
  · have hf := zif_t hf c8
    refine z_iload_n hC (pc := 46) dX3_last_46 rfl 1 rfl ?_
    refine z_iconst (v := (-1)) hC (pc := 47) dX3_last_47 zki_m1 ?_
    refine z_icmp_ne hC (pc := 48) (tgt := 55) dX3_last_48 rfl (fun c9 => ?_) (fun c9 => ?_)
    · have hf := zif_f hf c9
      refine z_bipush (v := 6) hC (pc := 55) dX3_last_55 zkb_6 ?_
      refine z_iload_n hC (pc := 57) dX3_last_57 rfl 1 rfl ?_
      refine z_imul hC (pc := 58) dX3_last_58 ?_
      refine z_aload_n hC (pc := 59) dX3_last_59 rfl 0 rfl ?_
      refine z_getR hC (pc := 60) in_X3 zcX3 0 (Nat.le_of_ble_eq_true rfl) (zLk.o hC q364) zsm dX3_last_60 hf (fun v10 hf => ?_)
      refine z_getR hC (pc := 63) in_X4 zcX4 3 (Nat.le_of_ble_eq_true rfl) (zLk.n hC q333) zsm dX3_last_63 hf (fun v11 hf => ?_)
      refine z_iload_n hC (pc := 66) dX3_last_66 rfl 1 rfl ?_
      obtain ⟨a14, fs12, rfl, ha13, hf⟩ := z_rcO hf
      refine z_cR5 (rest := [zi (6 * l1)]) hf (fun v15 s16 hcall => z_runF hC (pc := 67) zcJ5 1 ha13 (m_J5_get X.g a14 l1 s7 s16 v15 hcall) (lw_app (zm4 q475 q478 q480 q104) (lw_meth q482)) q477 q476 q481 q479 q434 (by decide +kernel) ⟨(Nat.le_of_ble_eq_true rfl), (Nat.le_of_ble_eq_true rfl)⟩ rfl (Nat.le_of_ble_eq_true rfl) dX3_last_67 rfl) (fun v15 s16 hf => ?_)
      refine z_cast hC (pc := 72) zcX11 q875 (Or.inl rfl) dX3_last_72 hf (fun hf => ?_)
      refine z_getI hC (pc := 75) in_X11 zcX11 3 (Nat.le_of_ble_eq_true rfl) (zLk.n hC q2176) zsm dX3_last_75 hf (fun v17 hf => ?_)
      refine z_iadd hC (pc := 78) dX3_last_78 ?_
      refine z_iconst (v := 1) hC (pc := 79) dX3_last_79 zki_1 ?_
      refine z_isub hC (pc := 80) dX3_last_80 ?_
      exact z_ireturn hC (pc := 81) hQ dX3_last_81 hf
    · have hf := zif_t hf c9
      refine z_iconst (v := (-1)) hC (pc := 51) dX3_last_51 zki_m1 ?_
      refine z_goto hC (pc := 52) (tgt := 81) dX3_last_52 rfl ?_
      exact z_ireturn hC (pc := 81) hQ dX3_last_81 hf
  · have hf := zif_f hf c8
    refine z_iload_n hC (pc := 20) dX3_last_20 rfl 1 rfl ?_
    refine z_iconst (v := (-1)) hC (pc := 21) dX3_last_21 zki_m1 ?_
    refine z_icmp_eq hC (pc := 22) (tgt := 38) dX3_last_22 rfl (fun c18 => ?_) (fun c18 => ?_)
    · have hf := zif_t hf c18
      refine ZW.perm (lv' := [(0, zr (some l0)), (2, zi l2)]) [0, 2] rfl ?_
      exact w_X3_last_b38 hC hL hno hQ k4 hk4 l0 l2 s7 hf
    · have hf := zif_f hf c18
      refine z_aload_n hC (pc := 25) dX3_last_25 rfl 0 rfl ?_
      refine z_iload_n hC (pc := 26) dX3_last_26 rfl 2 rfl ?_
      obtain ⟨fs19, ha20, hf⟩ := z_rcN hf
      refine z_cI (rest := []) hf (fun v21 s22 hcall => z_runV hC (pc := 27) zcX3 1 ha20 (m_X3_completion X.g l0 l2 s7 s22 v21 hcall) (lw_V q470 q471 q472 q99 q473) hdV_X3_completion ⟨(Nat.le_of_ble_eq_true rfl), (Nat.le_of_ble_eq_true rfl)⟩ rfl (Nat.le_of_ble_eq_true rfl) dX3_last_27 rfl) (fun v21 s22 hf => ?_)
      refine z_aload_n hC (pc := 30) dX3_last_30 rfl 0 rfl ?_
      refine z_iload_n hC (pc := 31) dX3_last_31 rfl 1 rfl ?_
      obtain ⟨fs23, ha24, hf⟩ := z_rcN hf
      refine z_cI (rest := [zi v21]) hf (fun v25 s26 hcall => z_runV hC (pc := 32) zcX3 1 ha24 (m_X3_completion X.g l0 l1 s22 s26 v25 hcall) (lw_V q470 q471 q472 q99 q473) hdV_X3_completion ⟨(Nat.le_of_ble_eq_true rfl), (Nat.le_of_ble_eq_true rfl)⟩ rfl (Nat.le_of_ble_eq_true rfl) dX3_last_32 rfl) (fun v25 s26 hf => ?_)
      refine z_icmp_le hC (pc := 35) (tgt := 40) dX3_last_35 rfl (fun c27 => ?_) (fun c27 => ?_)
      · have hf := zif_t hf c27
        exact w_X3_last_b40 hC hL hno hQ k4 hk4 l0 l1 l2 s26 hf
      · have hf := zif_f hf c27
        refine ZW.perm (lv' := [(0, zr (some l0)), (2, zi l2)]) [0, 2] rfl ?_
        exact w_X3_last_b38 hC hL hno hQ k4 hk4 l0 l2 s26 hf
def f_X3_last_l4 (G : Nat → Nat) : Nat → Nat → Int32 → Int32 → zS → Option (Int32 × zS)
  | 0 => fun _ _ _ _ => none
  | n + 1 => f_X3_last_b4 G (f_X3_last_l4 G n)
theorem w_X3_last_l4 {X : zX} (hC : ZC X RX3 cX3_last (some .int) 5 85) (hL : X.nL = 3) (hno : ∀ x ∈ X.c.exceptionTable.toList, False) {r : Int32} {sF : zS} (hQ : ZQ X (.inl (some (zi r)), sF)) : ∀ (n : Nat) (l0 : Nat) (l1 : Int32) (l2 : Int32) (s0 : zS) (_ : f_X3_last_l4 X.g.1 n l0 l1 l2 s0 = some (r, sF)), ZW X s0 4 [(0, zr (some l0)), (1, zi l1), (2, zi l2)] [] := by
  intro n
  induction n with
  | zero => intro l0 l1 l2 s0 hf; exact absurd (show (none : Option (Int32 × zS)) = some (r, sF) from hf) (fun z => nomatch z)
  | succ n ih => intro l0 l1 l2 s0 hf; exact w_X3_last_b4 hC hL hno hQ (f_X3_last_l4 X.g.1 n) ih l0 l1 l2 s0 hf
def f_X3_last (G : Nat → Nat) (l0 : Nat) (s0 : zS) : Option (Int32 × zS) :=
f_X3_last_l4 G 2000 l0 (-1) 0 s0
set_option maxHeartbeats 4000000 in
theorem m_X3_last (Γ : zG) (l0 : Nat) (s0 s1 : zS) (r : Int32) (hf : f_X3_last Γ.1 l0 s0 = some (r, s1)) : ZM Γ yX3_last (ws_ yX3_last cX3_last 3 (some .int)) 5 85 [zr (some l0)] s0 (.inl (some (zi r)), s1) := by
  refine ZM.of (own := RX3) (by decide) rfl (Nat.le_of_ble_eq_true rfl) ?_
  intro X hg hC hL hno hQ hin
  subst hg
  unfold f_X3_last at hf
  refine z_iconst (v := (-1)) hC (pc := 0) dX3_last_0 zki_m1 ?_
  refine z_istore_n (lv' := [(1, zi (-1)), (0, zr (some l0))]) hC (pc := 1) hL dX3_last_1 rfl (Nat.le_of_ble_eq_true rfl) rfl ?_
  refine z_iconst (v := 0) hC (pc := 2) dX3_last_2 zki_0 ?_
  refine z_istore_n (lv' := [(2, zi 0), (1, zi (-1)), (0, zr (some l0))]) hC (pc := 3) hL dX3_last_3 rfl (Nat.le_of_ble_eq_true rfl) rfl ?_
  refine ZW.perm (lv' := [(0, zr (some l0)), (1, zi (-1)), (2, zi 0)]) [2, 1, 0] rfl ?_
  exact w_X3_last_l4 hC hL hno hQ 2000 l0 (-1) 0 s0 hf
/-! BlockingShop$Plan$1.<init>(LBlockingShop$Plan;)V -/
def f_X14_init (G : Nat → Nat) (l0 : Nat) (l1 : Option Nat) (s0 : zS) : Option (Unit × zS) :=
zo (zput G s0 (some l0) 12 2 (va_rf l1)) fun s1 =>
zb (znewO G s1 19 3 [.null, .int 0, .int 0]) fun a2 s3 =>
zb (f_J22_init G a2 s3) fun _ s5 =>
zo (zput G s5 (some l0) 12 0 (va_rf (some a2))) fun s6 =>
zo (zgR s6 (some l0) 12 2) fun v7 =>
zo (zrc s6 v7 2) fun a10 =>
zb (f_X3_last G a10 s6) fun v11 s12 =>
zo (zput G s12 (some l0) 12 1 (.int v11)) fun s13 =>
some ((), s13)
set_option maxHeartbeats 4000000 in
theorem m_X14_init (Γ : zG) (l0 : Nat) (l1 : Option Nat) (s0 s1 : zS) (r : Unit) (hf : f_X14_init Γ.1 l0 l1 s0 = some (r, s1)) : ZM Γ yX14_init (ws_ yX14_init cX14_init 2 none) 6 107 [zr (some l0), zr l1] s0 (.inl none, s1) := by
  refine ZM.of (own := RX14) (by decide) rfl (Nat.le_of_ble_eq_true rfl) ?_
  intro X hg hC hL hno hQ hin
  subst hg
  unfold f_X14_init at hf
  refine z_aload_n hC (pc := 0) dX14_init_0 rfl 0 rfl ?_
  refine z_aload_n hC (pc := 1) dX14_init_1 rfl 1 rfl ?_
  refine z_putV (v := zr l1) hC (pc := 2) in_X14 tyX14 tyX14_ok nmX14 zcX14 2 (Nat.le_of_ble_eq_true rfl) (zLk.o hC q1054) zsm (Or.inr ⟨rfl, hin, rfl, rfl⟩) rfl (zfr l1) dX14_init_2 hf (fun s1 hf => ?_)
  refine z_aload_n hC (pc := 5) dX14_init_5 rfl 0 rfl ?_
  refine z_objInit hC (pc := 6) q1023 q163 q164 (Nat.le_of_ble_eq_true rfl) (Nat.le_of_ble_eq_true rfl) dX14_init_6 ?_
  refine z_aload_n hC (pc := 9) dX14_init_9 rfl 0 rfl ?_
  refine z_new hC (pc := 10) in_J22 tyJ22 tyJ22_ok zcJ22 q1024 q1025 q129 rfl zdJ22 dX14_init_10 hf (fun a2 s3 hf => ?_)
  refine z_dup hC (pc := 13) dX14_init_13 rfl ?_
  refine z_cU (rest := [zr (some a2), zr (some l0)]) hf (fun v4 s5 hcall => z_runI hC (pc := 14) 0 (m_J22_init X.g a2 s3 s5 v4 hcall) q1028 rfl q129 q1026 q1027 hd_J22_init ⟨(Nat.le_of_ble_eq_true rfl), (Nat.le_of_ble_eq_true rfl)⟩ rfl (Nat.le_of_ble_eq_true rfl) dX14_init_14 rfl) (fun _ s5 hf => ?_)
  refine z_putV (v := zr (some a2)) hC (pc := 17) in_X14 tyX14 tyX14_ok nmX14 zcX14 0 (Nat.le_of_ble_eq_true rfl) (zLk.o hC q1052) zsm (Or.inr ⟨rfl, hin, rfl, rfl⟩) rfl (zfr (some a2)) dX14_init_17 hf (fun s6 hf => ?_)
  refine z_aload_n hC (pc := 20) dX14_init_20 rfl 0 rfl ?_
  refine z_aload_n hC (pc := 21) dX14_init_21 rfl 0 rfl ?_
  refine z_getR hC (pc := 22) in_X14 zcX14 2 (Nat.le_of_ble_eq_true rfl) (zLk.o hC q1054) zsm dX14_init_22 hf (fun v7 hf => ?_)
  obtain ⟨a10, fs8, rfl, ha9, hf⟩ := z_rcO hf
  refine z_cI (rest := [zr (some l0)]) hf (fun v11 s12 hcall => z_runVN hC (pc := 25) zcX3 0 ha9 (m_X3_last X.g a10 s6 s12 v11 hcall) q1048 q1051 q99 q1050 qs6 hd_X3_last ⟨(Nat.le_of_ble_eq_true rfl), (Nat.le_of_ble_eq_true rfl)⟩ rfl (Nat.le_of_ble_eq_true rfl) dX14_init_25 rfl) (fun v11 s12 hf => ?_)
  refine z_putV (v := zi v11) hC (pc := 28) in_X14 tyX14 tyX14_ok nmX14 zcX14 1 (Nat.le_of_ble_eq_true rfl) (zLk.o hC q1053) zsm (Or.inl rfl) rfl rfl dX14_init_28 hf (fun s13 hf => ?_)
  exact z_return hC (pc := 31) hQ dX14_init_31 hf
/-! BlockingShop$Plan.path()Ljava/util/Iterator; -/
def f_X3_path (G : Nat → Nat) (l0 : Nat) (s0 : zS) : Option ((Option Nat) × zS) :=
zb (znewO G s0 12 3 [.null, .int 0, .null]) fun a1 s2 =>
zb (f_X14_init G a1 (some l0) s2) fun _ s4 =>
some ((some a1), s4)
set_option maxHeartbeats 4000000 in
theorem m_X3_path (Γ : zG) (l0 : Nat) (s0 s1 : zS) (r : (Option Nat)) (hf : f_X3_path Γ.1 l0 s0 = some (r, s1)) : ZM Γ yX3_path (ws_ yX3_path cX3_path 1 (some (.object "java/util/Iterator"))) 7 128 [zr (some l0)] s0 (.inl (some (zr r)), s1) := by
  refine ZM.of (own := RX3) (by decide) rfl (Nat.le_of_ble_eq_true rfl) ?_
  intro X hg hC hL hno hQ hin
  subst hg
  unfold f_X3_path at hf
  refine z_new hC (pc := 0) in_X14 tyX14 tyX14_ok zcX14 q1018 q1019 q150 rfl zdX14 dX3_path_0 hf (fun a1 s2 hf => ?_)
  refine z_dup hC (pc := 3) dX3_path_3 rfl ?_
  refine z_aload_n hC (pc := 4) dX3_path_4 rfl 0 rfl ?_
  refine z_cU (rest := [zr (some a1)]) hf (fun v3 s4 hcall => z_runI hC (pc := 5) 1 (m_X14_init X.g a1 (some l0) s2 s4 v3 hcall) q1022 rfl q150 q1020 q1021 hd_X14_init ⟨(Nat.le_of_ble_eq_true rfl), (Nat.le_of_ble_eq_true rfl)⟩ rfl (Nat.le_of_ble_eq_true rfl) dX3_path_5 rfl) (fun _ s4 hf => ?_)
  exact z_areturn hC (pc := 8) (Or.inl ⟨_, rfl⟩) hQ dX3_path_8 hf
/-! BlockingShop$Plan.critical()Ljava/util/LinkedList; -/
def f_X3_critical_b13 (G : Nat → Nat) (k13 : Option Nat → Option Nat → zS → Option ((Option Nat) × zS)) (l1 : Option Nat) (l2 : Option Nat) (s0 : zS) : Option ((Option Nat) × zS) :=
zo (zrc s0 l2 12) fun a3 =>
zb (f_X14_hasNext G a3 s0) fun v4 s5 =>
if v4 = 0 then (some (l1, s5))
else (zo (zrc s5 (some a3) 12) fun _ =>
zb (f_X14_next G a3 s5) fun v9 s10 =>
zo (zcst s10 v9 18) fun _ =>
zo (zrc s10 l1 23) fun a13 =>
zb (f_J38_addLast G a13 v9 s10) fun _ s15 =>
k13 (some a13) (some a3) s15)
set_option maxHeartbeats 4000000 in
theorem w_X3_critical_b13 {X : zX} (hC : ZC X RX3 cX3_critical (some (.object "java/util/LinkedList")) 11 216) (hL : X.nL = 3) (hno : ∀ x ∈ X.c.exceptionTable.toList, False) {r : (Option Nat)} {sF : zS} (hQ : ZQ X (.inl (some (zr r)), sF)) (k13 : Option Nat → Option Nat → zS → Option ((Option Nat) × zS)) (hk13 : ∀ (l1 : Option Nat) (l2 : Option Nat) (s0 : zS), k13 l1 l2 s0 = some (r, sF) → ZW X s0 13 [(1, zr l1), (2, zr l2)] []) (l1 : Option Nat) (l2 : Option Nat) (s0 : zS) (hf : f_X3_critical_b13 X.g.1 k13 l1 l2 s0 = some (r, sF)) : ZW X s0 13 [(1, zr l1), (2, zr l2)] [] := by
  unfold f_X3_critical_b13 at hf
  refine z_aload_n hC (pc := 13) dX3_critical_13 rfl 1 rfl ?_
  obtain ⟨a3, fs1, rfl, ha2, hf⟩ := z_rcO hf
  refine z_cI5 (rest := []) hf (fun v4 s5 hcall => z_runF hC (pc := 14) zcX14 0 ha2 (m_X14_hasNext X.g a3 s0 s5 v4 hcall) (lw_app (zm4 q1063 q1067 q1069 q150) (lw_meth q1071)) q1065 q1064 q1070 q1068 q1066 (by decide +kernel) ⟨(Nat.le_of_ble_eq_true rfl), (Nat.le_of_ble_eq_true rfl)⟩ rfl (Nat.le_of_ble_eq_true rfl) dX3_critical_14 rfl) (fun v4 s5 hf => ?_)
  refine z_if_eq hC (pc := 19) (tgt := 38) dX3_critical_19 rfl (fun c6 => ?_) (fun c6 => ?_)
  · have hf := zif_t hf c6
    refine z_aload_n hC (pc := 38) dX3_critical_38 rfl 0 rfl ?_
    exact z_areturn hC (pc := 39) (Or.inl ⟨_, rfl⟩) hQ dX3_critical_39 hf
  · have hf := zif_f hf c6
    refine z_aload_n hC (pc := 22) dX3_critical_22 rfl 0 rfl ?_
    refine z_aload_n hC (pc := 23) dX3_critical_23 rfl 1 rfl ?_
    obtain ⟨fs7, ha8, hf⟩ := z_rcN hf
    refine z_cR5 (rest := [zr l1]) hf (fun v9 s10 hcall => z_runF hC (pc := 24) zcX14 0 ha8 (m_X14_next X.g a3 s5 s10 v9 hcall) (lw_app (zm4 q1122 q1125 q1127 q150) (lw_meth q1129)) q1124 q1123 q1128 q1126 q1066 (by decide +kernel) ⟨(Nat.le_of_ble_eq_true rfl), (Nat.le_of_ble_eq_true rfl)⟩ rfl (Nat.le_of_ble_eq_true rfl) dX3_critical_24 rfl) (fun v9 s10 hf => ?_)
    refine z_cast hC (pc := 29) zcJ20 q1580 (Or.inl rfl) dX3_critical_29 hf (fun hf => ?_)
    obtain ⟨a13, fs11, rfl, ha12, hf⟩ := z_rcO hf
    refine z_cU (rest := []) hf (fun v14 s15 hcall => z_runV hC (pc := 32) zcJ38 1 ha12 (m_J38_addLast X.g a13 v9 s10 s15 v14 hcall) (lw_V q1581 q1582 q1583 q149 q1584) hdV_J38_addLast ⟨(Nat.le_of_ble_eq_true rfl), (Nat.le_of_ble_eq_true rfl)⟩ rfl (Nat.le_of_ble_eq_true rfl) dX3_critical_32 rfl) (fun _ s15 hf => ?_)
    refine z_goto hC (pc := 35) (tgt := 13) dX3_critical_35 rfl ?_
    exact hk13 (some a13) (some a3) s15 hf
def f_X3_critical_l13 (G : Nat → Nat) : Nat → Option Nat → Option Nat → zS → Option ((Option Nat) × zS)
  | 0 => fun _ _ _ => none
  | n + 1 => f_X3_critical_b13 G (f_X3_critical_l13 G n)
theorem w_X3_critical_l13 {X : zX} (hC : ZC X RX3 cX3_critical (some (.object "java/util/LinkedList")) 11 216) (hL : X.nL = 3) (hno : ∀ x ∈ X.c.exceptionTable.toList, False) {r : (Option Nat)} {sF : zS} (hQ : ZQ X (.inl (some (zr r)), sF)) : ∀ (n : Nat) (l1 : Option Nat) (l2 : Option Nat) (s0 : zS) (_ : f_X3_critical_l13 X.g.1 n l1 l2 s0 = some (r, sF)), ZW X s0 13 [(1, zr l1), (2, zr l2)] [] := by
  intro n
  induction n with
  | zero => intro l1 l2 s0 hf; exact absurd (show (none : Option ((Option Nat) × zS)) = some (r, sF) from hf) (fun z => nomatch z)
  | succ n ih => intro l1 l2 s0 hf; exact w_X3_critical_b13 hC hL hno hQ (f_X3_critical_l13 X.g.1 n) ih l1 l2 s0 hf
def f_X3_critical (G : Nat → Nat) (l0 : Nat) (s0 : zS) : Option ((Option Nat) × zS) :=
zb (znewO G s0 23 4 [.int 0, .int 0, .null, .null]) fun a1 s2 =>
zb (f_J38_init G a1 s2) fun _ s4 =>
zo (zrc s4 (some l0) 2) fun _ =>
zb (f_X3_path G l0 s4) fun v7 s8 =>
f_X3_critical_l13 G 2000 (some a1) v7 s8
set_option maxHeartbeats 4000000 in
theorem m_X3_critical (Γ : zG) (l0 : Nat) (s0 s1 : zS) (r : (Option Nat)) (hf : f_X3_critical Γ.1 l0 s0 = some (r, s1)) : ZM Γ yX3_critical (ws_ yX3_critical cX3_critical 3 (some (.object "java/util/LinkedList"))) 11 216 [zr (some l0)] s0 (.inl (some (zr r)), s1) := by
  refine ZM.of (own := RX3) (by decide) rfl (Nat.le_of_ble_eq_true rfl) ?_
  intro X hg hC hL hno hQ hin
  subst hg
  unfold f_X3_critical at hf
  refine z_new hC (pc := 0) in_J38 tyJ38 tyJ38_ok zcJ38 q994 q852 q149 rfl zdJ38 dX3_critical_0 hf (fun a1 s2 hf => ?_)
  refine z_dup hC (pc := 3) dX3_critical_3 rfl ?_
  refine z_cU (rest := [zr (some a1)]) hf (fun v3 s4 hcall => z_runI hC (pc := 4) 0 (m_J38_init X.g a1 s2 s4 v3 hcall) q997 rfl q149 q995 q996 hd_J38_init ⟨(Nat.le_of_ble_eq_true rfl), (Nat.le_of_ble_eq_true rfl)⟩ rfl (Nat.le_of_ble_eq_true rfl) dX3_critical_4 rfl) (fun _ s4 hf => ?_)
  refine z_astore_n (lv' := [(1, zr (some a1)), (0, zr (some l0))]) hC (pc := 7) hL dX3_critical_7 rfl (Nat.le_of_ble_eq_true rfl) rfl ?_
  refine z_aload_n hC (pc := 8) dX3_critical_8 rfl 1 rfl ?_
  obtain ⟨fs5, ha6, hf⟩ := z_rcN hf
  refine z_cR (rest := []) hf (fun v7 s8 hcall => z_runV hC (pc := 9) zcX3 0 ha6 (m_X3_path X.g l0 s4 s8 v7 hcall) (lw_V q1014 q1015 q1016 q99 q1017) hdV_X3_path ⟨(Nat.le_of_ble_eq_true rfl), (Nat.le_of_ble_eq_true rfl)⟩ rfl (Nat.le_of_ble_eq_true rfl) dX3_critical_9 rfl) (fun v7 s8 hf => ?_)
  refine z_astore_n (lv' := [(2, zr v7), (1, zr (some a1)), (0, zr (some l0))]) hC (pc := 12) hL dX3_critical_12 rfl (Nat.le_of_ble_eq_true rfl) rfl ?_
  refine ZW.perm (lv' := [(1, zr (some a1)), (2, zr v7)]) [1, 0] rfl ?_
  exact w_X3_critical_l13 hC hL hno hQ 2000 (some a1) v7 s8 hf
