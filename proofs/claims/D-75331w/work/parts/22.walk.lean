set_option maxRecDepth 100000
/-! java/util/ImmutableCollections.listFromTrustedArray([Ljava/lang/Object;)Ljava/util/List; -/
def f_J21_listFromTrustedArray_b30 (G : Nat → Nat) (k30 : Option Nat → Option Nat → Int32 → Int32 → zS → Option ((Option Nat) × zS)) (l0 : Option Nat) (l1 : Option Nat) (l2 : Int32) (l3 : Int32) (s0 : zS) : Option ((Option Nat) × zS) :=
if l2 ≤ l3 then (zo (zlen s0 l0) fun v2 =>
if v2 = 0 then (none) else
if v2 = 1 then (none) else
if v2 = 2 then (none) else
(zb (znewO G s0 22 2 [.null, .int 0]) fun a6 s7 =>
zb (f_J33_init G a6 l0 0 s7) fun _ s9 =>
some ((some a6), s9)))
else (zo (zaR s0 l1 l3) fun v10 =>
zb (f_J28_requireNonNull G v10 s0) fun v11 s12 =>
k30 l0 l1 l2 (l3 + 1) s12)
set_option maxHeartbeats 4000000 in
theorem w_J21_listFromTrustedArray_b30 {X : zX} (hC : ZC X RJ21 cJ21_listFromTrustedArray (some (.object "java/util/List")) 5 94) (hL : X.nL = 5) (hno : ∀ x ∈ X.c.exceptionTable.toList, False) {r : (Option Nat)} {sF : zS} (hQ : ZQ X (.inl (some (zr r)), sF)) (k30 : Option Nat → Option Nat → Int32 → Int32 → zS → Option ((Option Nat) × zS)) (hk30 : ∀ (l0 : Option Nat) (l1 : Option Nat) (l2 : Int32) (l3 : Int32) (s0 : zS), k30 l0 l1 l2 l3 s0 = some (r, sF) → ZW X s0 30 [(0, zr l0), (1, zr l1), (2, zi l2), (3, zi l3)] []) (l0 : Option Nat) (l1 : Option Nat) (l2 : Int32) (l3 : Int32) (s0 : zS) (hf : f_J21_listFromTrustedArray_b30 X.g.1 k30 l0 l1 l2 l3 s0 = some (r, sF)) : ZW X s0 30 [(0, zr l0), (1, zr l1), (2, zi l2), (3, zi l3)] [] := by
  unfold f_J21_listFromTrustedArray_b30 at hf
  refine z_iload_n hC (pc := 30) dJ21_listFromTrustedArray_30 rfl 3 rfl ?_
  refine z_iload_n hC (pc := 31) dJ21_listFromTrustedArray_31 rfl 2 rfl ?_
  refine z_icmp_ge hC (pc := 32) (tgt := 52) dJ21_listFromTrustedArray_32 rfl (fun c1 => ?_) (fun c1 => ?_)
  · have hf := zif_t hf c1
    refine z_aload_n hC (pc := 52) dJ21_listFromTrustedArray_52 rfl 0 rfl ?_
    refine z_alen hC (pc := 53) dJ21_listFromTrustedArray_53 hf (fun v2 hf => ?_)
    by_cases c3 : v2 = 0
    · have hf := zif_t hf c3
      refine z_table hC (pc := 54) (tgt := 80) dJ21_listFromTrustedArray_54 c3 (by decide) (by decide) rfl rfl ?_
      cases hf
    · have hf := zif_f hf c3
      by_cases c4 : v2 = 1
      · have hf := zif_t hf c4
        refine z_table hC (pc := 54) (tgt := 86) dJ21_listFromTrustedArray_54 c4 (by decide) (by decide) rfl rfl ?_
        cases hf
      · have hf := zif_f hf c4
        by_cases c5 : v2 = 2
        · have hf := zif_t hf c5
          refine z_table hC (pc := 54) (tgt := 99) dJ21_listFromTrustedArray_54 c5 (by decide) (by decide) rfl rfl ?_
          cases hf
        · have hf := zif_f hf c5
          have ec3 : (v2 : Int32).toInt ≠ (0 : Int) := fun z => c3 (Int32.toInt_inj.mp (z.trans (by decide)))
          have ec4 : (v2 : Int32).toInt ≠ (1 : Int) := fun z => c4 (Int32.toInt_inj.mp (z.trans (by decide)))
          have ec5 : (v2 : Int32).toInt ≠ (2 : Int) := fun z => c5 (Int32.toInt_inj.mp (z.trans (by decide)))
          refine z_tableD hC (pc := 54) (tgt := 115) dJ21_listFromTrustedArray_54 (by omega) rfl ?_
          refine z_new hC (pc := 115) in_J33 tyJ33 tyJ33_ok zcJ33 q2340 q2341 q143 rfl zdJ33 dJ21_listFromTrustedArray_115 hf (fun a6 s7 hf => ?_)
          refine z_dup hC (pc := 118) dJ21_listFromTrustedArray_118 rfl ?_
          refine z_aload_n hC (pc := 119) dJ21_listFromTrustedArray_119 rfl 0 rfl ?_
          refine z_iconst (v := 0) hC (pc := 120) dJ21_listFromTrustedArray_120 zki_0 ?_
          refine z_cU (rest := [zr (some a6)]) hf (fun v8 s9 hcall => z_runIN hC (pc := 121) 2 (m_J33_init X.g a6 l0 0 s7 s9 v8 hcall) q2344 rfl q143 q2342 q2343 hd_J33_init ⟨(Nat.le_of_ble_eq_true rfl), (Nat.le_of_ble_eq_true rfl)⟩ rfl (Nat.le_of_ble_eq_true rfl) dJ21_listFromTrustedArray_121 rfl) (fun _ s9 hf => ?_)
          exact z_areturn hC (pc := 124) (Or.inl ⟨_, rfl⟩) hQ dJ21_listFromTrustedArray_124 hf
  · have hf := zif_f hf c1
    refine z_aload_n hC (pc := 35) dJ21_listFromTrustedArray_35 rfl 1 rfl ?_
    refine z_iload_n hC (pc := 36) dJ21_listFromTrustedArray_36 rfl 3 rfl ?_
    refine z_aald hC (pc := 37) dJ21_listFromTrustedArray_37 hf (fun v10 hf => ?_)
    refine z_astore (lv' := [(4, zr v10), (0, zr l0), (1, zr l1), (2, zi l2), (3, zi l3)]) hC (pc := 38) hL dJ21_listFromTrustedArray_38 (Nat.le_of_ble_eq_true rfl) rfl ?_
    refine z_aload hC (pc := 40) dJ21_listFromTrustedArray_40 0 rfl ?_
    refine z_cR (rest := []) hf (fun v11 s12 hcall => z_runS hC (pc := 42) 1 (m_J28_requireNonNull X.g v10 s0 s12 v11 hcall) (lw_S q2314 q1234 q137 q1235) hd_J28_requireNonNull ⟨(Nat.le_of_ble_eq_true rfl), (Nat.le_of_ble_eq_true rfl)⟩ rfl (Nat.le_of_ble_eq_true rfl) dJ21_listFromTrustedArray_42 rfl) (fun v11 s12 hf => ?_)
    refine z_pop hC (pc := 45) dJ21_listFromTrustedArray_45 rfl ?_
    refine z_iinc (v := 1) (lv' := [(3, zi (l3 + 1)), (4, zr v10), (0, zr l0), (1, zr l1), (2, zi l2)]) hC (pc := 46) hL dJ21_listFromTrustedArray_46 4 rfl zki_1 (Nat.le_of_ble_eq_true rfl) rfl ?_
    refine z_goto hC (pc := 49) (tgt := 30) dJ21_listFromTrustedArray_49 rfl ?_
    refine ZW.perm (lv' := [(0, zr l0), (1, zr l1), (2, zi l2), (3, zi (l3 + 1))]) [2, 3, 4, 0] rfl ?_
    exact hk30 l0 l1 l2 (l3 + 1) s12 hf
def f_J21_listFromTrustedArray_l30 (G : Nat → Nat) : Nat → Option Nat → Option Nat → Int32 → Int32 → zS → Option ((Option Nat) × zS)
  | 0 => fun _ _ _ _ _ => none
  | n + 1 => f_J21_listFromTrustedArray_b30 G (f_J21_listFromTrustedArray_l30 G n)
theorem w_J21_listFromTrustedArray_l30 {X : zX} (hC : ZC X RJ21 cJ21_listFromTrustedArray (some (.object "java/util/List")) 5 94) (hL : X.nL = 5) (hno : ∀ x ∈ X.c.exceptionTable.toList, False) {r : (Option Nat)} {sF : zS} (hQ : ZQ X (.inl (some (zr r)), sF)) : ∀ (n : Nat) (l0 : Option Nat) (l1 : Option Nat) (l2 : Int32) (l3 : Int32) (s0 : zS) (_ : f_J21_listFromTrustedArray_l30 X.g.1 n l0 l1 l2 l3 s0 = some (r, sF)), ZW X s0 30 [(0, zr l0), (1, zr l1), (2, zi l2), (3, zi l3)] [] := by
  intro n
  induction n with
  | zero => intro l0 l1 l2 l3 s0 hf; exact absurd (show (none : Option ((Option Nat) × zS)) = some (r, sF) from hf) (fun z => nomatch z)
  | succ n ih => intro l0 l1 l2 l3 s0 hf; exact w_J21_listFromTrustedArray_b30 hC hL hno hQ (f_J21_listFromTrustedArray_l30 X.g.1 n) ih l0 l1 l2 l3 s0 hf
def f_J21_listFromTrustedArray_b23 (G : Nat → Nat) (l0 : Option Nat) (s0 : zS) : Option ((Option Nat) × zS) :=
zo (zlen s0 l0) fun v1 =>
f_J21_listFromTrustedArray_l30 G 2000 l0 l0 v1 0 s0
set_option maxHeartbeats 4000000 in
theorem w_J21_listFromTrustedArray_b23 {X : zX} (hC : ZC X RJ21 cJ21_listFromTrustedArray (some (.object "java/util/List")) 5 94) (hL : X.nL = 5) (hno : ∀ x ∈ X.c.exceptionTable.toList, False) {r : (Option Nat)} {sF : zS} (hQ : ZQ X (.inl (some (zr r)), sF)) (l0 : Option Nat) (s0 : zS) (hf : f_J21_listFromTrustedArray_b23 X.g.1 l0 s0 = some (r, sF)) : ZW X s0 23 [(0, zr l0)] [] := by
  unfold f_J21_listFromTrustedArray_b23 at hf
  refine z_aload_n hC (pc := 23) dJ21_listFromTrustedArray_23 rfl 0 rfl ?_
  refine z_astore_n (lv' := [(1, zr l0), (0, zr l0)]) hC (pc := 24) hL dJ21_listFromTrustedArray_24 rfl (Nat.le_of_ble_eq_true rfl) rfl ?_
  refine z_aload_n hC (pc := 25) dJ21_listFromTrustedArray_25 rfl 0 rfl ?_
  refine z_alen hC (pc := 26) dJ21_listFromTrustedArray_26 hf (fun v1 hf => ?_)
  refine z_istore_n (lv' := [(2, zi v1), (1, zr l0), (0, zr l0)]) hC (pc := 27) hL dJ21_listFromTrustedArray_27 rfl (Nat.le_of_ble_eq_true rfl) rfl ?_
  refine z_iconst (v := 0) hC (pc := 28) dJ21_listFromTrustedArray_28 zki_0 ?_
  refine z_istore_n (lv' := [(3, zi 0), (2, zi v1), (1, zr l0), (0, zr l0)]) hC (pc := 29) hL dJ21_listFromTrustedArray_29 rfl (Nat.le_of_ble_eq_true rfl) rfl ?_
  refine ZW.perm (lv' := [(0, zr l0), (1, zr l0), (2, zi v1), (3, zi 0)]) [3, 2, 1, 0] rfl ?_
  exact w_J21_listFromTrustedArray_l30 hC hL hno hQ 2000 l0 l0 v1 0 s0 hf
def f_J21_listFromTrustedArray (G : Nat → Nat) (l0 : Option Nat) (s0 : zS) : Option ((Option Nat) × zS) :=
if (1 : Int32) = 0 then (zo (zcsA s0 l0 5) fun _ =>
if (some (G 5)) = (some (G 5)) then (f_J21_listFromTrustedArray_b23 G l0 s0)
else (none))
else (f_J21_listFromTrustedArray_b23 G l0 s0)
set_option maxHeartbeats 4000000 in
theorem m_J21_listFromTrustedArray (Γ : zG) (l0 : Option Nat) (s0 s1 : zS) (r : (Option Nat)) (hf : f_J21_listFromTrustedArray Γ.1 l0 s0 = some (r, s1)) : ZM Γ yJ21_listFromTrustedArray (ws_ yJ21_listFromTrustedArray cJ21_listFromTrustedArray 5 (some (.object "java/util/List"))) 5 94 [zr l0] s0 (.inl (some (zr r)), s1) := by
  refine ZM.of (own := RJ21) (by decide) rfl (Nat.le_of_ble_eq_true rfl) ?_
  intro X hg hC hL hno hQ hin
  subst hg
  unfold f_J21_listFromTrustedArray at hf
  refine z_gets (v := zi 1) hC (pc := 0) (List.mem_of_getElem? (i := 5) rfl) q2310 dJ21_listFromTrustedArray_0 ?_
  refine z_if_ne hC (pc := 3) (tgt := 23) dJ21_listFromTrustedArray_3 rfl (fun c1 => ?_) (fun c1 => ?_)
  · have hf := zif_f hf c1
    exact w_J21_listFromTrustedArray_b23 hC hL hno hQ l0 s0 hf
  · have hf := zif_t hf c1
    refine z_aload_n hC (pc := 6) dJ21_listFromTrustedArray_6 rfl 0 rfl ?_
    refine z_getC (k := 5) hC (pc := 7) (List.mem_of_getElem? (i := 0) rfl) q2312 q3183 q3182 q1479 q1518 (Nat.le_of_ble_eq_true rfl) (Nat.le_of_ble_eq_true rfl) dJ21_listFromTrustedArray_7 hf (fun hf => ?_)
    refine z_mir (k := 5) hC (pc := 10) (List.mem_of_getElem? (i := 0) rfl) q2313 dJ21_listFromTrustedArray_10 ?_
    refine z_acmp_eq hC (pc := 12) (tgt := 23) dJ21_listFromTrustedArray_12 rfl (fun c2 => ?_) (fun c2 => ?_)
    · have hf := zif_t hf c2
      exact w_J21_listFromTrustedArray_b23 hC hL hno hQ l0 s0 hf
    · have hf := zif_f hf c2
      cases hf
/-! java/util/BitSet.checkInvariants()V -/
def f_J22_checkInvariants_b62 (G : Nat → Nat) (s0 : zS) : Option (Unit × zS) :=
none
set_option maxHeartbeats 4000000 in
theorem w_J22_checkInvariants_b62 {X : zX} (hC : ZC X RJ22 cJ22_checkInvariants none 1 0) (hL : X.nL = 1) (hno : ∀ x ∈ X.c.exceptionTable.toList, False) {r : Unit} {sF : zS} (hQ : ZQ X (.inl none, sF)) (s0 : zS) (hf : f_J22_checkInvariants_b62 X.g.1 s0 = some (r, sF)) : ZW X s0 62 [] [] := by
  unfold f_J22_checkInvariants_b62 at hf
  cases hf
def f_J22_checkInvariants_b70 (G : Nat → Nat) (l0 : Nat) (s0 : zS) : Option (Unit × zS) :=
if (1 : Int32) = 0 then (zo (zgI s0 (some l0) 19 1) fun v2 =>
zo (zgR s0 (some l0) 19 0) fun v3 =>
zo (zlen s0 v3) fun v4 =>
if v2 = v4 then (some ((), s0))
else (zo (zgR s0 (some l0) 19 0) fun v6 =>
zo (zgI s0 (some l0) 19 1) fun v7 =>
zo (zaL s0 v6 v7) fun v8 =>
if (lg_cmp v8 0) = 0 then (some ((), s0))
else (none)))
else (some ((), s0))
set_option maxHeartbeats 4000000 in
theorem w_J22_checkInvariants_b70 {X : zX} (hC : ZC X RJ22 cJ22_checkInvariants none 1 0) (hL : X.nL = 1) (hno : ∀ x ∈ X.c.exceptionTable.toList, False) {r : Unit} {sF : zS} (hQ : ZQ X (.inl none, sF)) (l0 : Nat) (s0 : zS) (hf : f_J22_checkInvariants_b70 X.g.1 l0 s0 = some (r, sF)) : ZW X s0 70 [(0, zr (some l0))] [] := by
  unfold f_J22_checkInvariants_b70 at hf
  refine z_gets (v := zi 1) hC (pc := 70) (List.mem_of_getElem? (i := 4) rfl) q1088 dJ22_checkInvariants_70 ?_
  refine z_if_ne hC (pc := 73) (tgt := 110) dJ22_checkInvariants_73 rfl (fun c1 => ?_) (fun c1 => ?_)
  · have hf := zif_f hf c1
    exact z_return hC (pc := 110) hQ dJ22_checkInvariants_110 hf
  · have hf := zif_t hf c1
    refine z_aload_n hC (pc := 76) dJ22_checkInvariants_76 rfl 0 rfl ?_
    refine z_getI hC (pc := 77) in_J22 zcJ22 1 (Nat.le_of_ble_eq_true rfl) (zLk.o hC q1038) zsm dJ22_checkInvariants_77 hf (fun v2 hf => ?_)
    refine z_aload_n hC (pc := 80) dJ22_checkInvariants_80 rfl 0 rfl ?_
    refine z_getR hC (pc := 81) in_J22 zcJ22 0 (Nat.le_of_ble_eq_true rfl) (zLk.o hC q1037) zsm dJ22_checkInvariants_81 hf (fun v3 hf => ?_)
    refine z_alen hC (pc := 84) dJ22_checkInvariants_84 hf (fun v4 hf => ?_)
    refine z_icmp_eq hC (pc := 85) (tgt := 110) dJ22_checkInvariants_85 rfl (fun c5 => ?_) (fun c5 => ?_)
    · have hf := zif_t hf c5
      exact z_return hC (pc := 110) hQ dJ22_checkInvariants_110 hf
    · have hf := zif_f hf c5
      refine z_aload_n hC (pc := 88) dJ22_checkInvariants_88 rfl 0 rfl ?_
      refine z_getR hC (pc := 89) in_J22 zcJ22 0 (Nat.le_of_ble_eq_true rfl) (zLk.o hC q1037) zsm dJ22_checkInvariants_89 hf (fun v6 hf => ?_)
      refine z_aload_n hC (pc := 92) dJ22_checkInvariants_92 rfl 0 rfl ?_
      refine z_getI hC (pc := 93) in_J22 zcJ22 1 (Nat.le_of_ble_eq_true rfl) (zLk.o hC q1038) zsm dJ22_checkInvariants_93 hf (fun v7 hf => ?_)
      refine z_lald hC (pc := 96) dJ22_checkInvariants_96 hf (fun v8 hf => ?_)
      refine z_lconst (v := 0) hC (pc := 97) dJ22_checkInvariants_97 (by decide) ?_
      refine z_lcmp hC (pc := 98) dJ22_checkInvariants_98 ?_
      refine z_if_eq hC (pc := 99) (tgt := 110) dJ22_checkInvariants_99 rfl (fun c9 => ?_) (fun c9 => ?_)
      · have hf := zif_t hf c9
        exact z_return hC (pc := 110) hQ dJ22_checkInvariants_110 hf
      · have hf := zif_f hf c9
        cases hf
def f_J22_checkInvariants_b37 (G : Nat → Nat) (l0 : Nat) (s0 : zS) : Option (Unit × zS) :=
if (1 : Int32) = 0 then (zo (zgI s0 (some l0) 19 1) fun v2 =>
if v2 < 0 then (f_J22_checkInvariants_b62 G  s0)
else (zo (zgI s0 (some l0) 19 1) fun v4 =>
zo (zgR s0 (some l0) 19 0) fun v5 =>
zo (zlen s0 v5) fun v6 =>
if v4 ≤ v6 then (f_J22_checkInvariants_b70 G l0 s0)
else (f_J22_checkInvariants_b62 G  s0)))
else (f_J22_checkInvariants_b70 G l0 s0)
set_option maxHeartbeats 4000000 in
theorem w_J22_checkInvariants_b37 {X : zX} (hC : ZC X RJ22 cJ22_checkInvariants none 1 0) (hL : X.nL = 1) (hno : ∀ x ∈ X.c.exceptionTable.toList, False) {r : Unit} {sF : zS} (hQ : ZQ X (.inl none, sF)) (l0 : Nat) (s0 : zS) (hf : f_J22_checkInvariants_b37 X.g.1 l0 s0 = some (r, sF)) : ZW X s0 37 [(0, zr (some l0))] [] := by
  unfold f_J22_checkInvariants_b37 at hf
  refine z_gets (v := zi 1) hC (pc := 37) (List.mem_of_getElem? (i := 4) rfl) q1088 dJ22_checkInvariants_37 ?_
  refine z_if_ne hC (pc := 40) (tgt := 70) dJ22_checkInvariants_40 rfl (fun c1 => ?_) (fun c1 => ?_)
  · have hf := zif_f hf c1
    exact w_J22_checkInvariants_b70 hC hL hno hQ l0 s0 hf
  · have hf := zif_t hf c1
    refine z_aload_n hC (pc := 43) dJ22_checkInvariants_43 rfl 0 rfl ?_
    refine z_getI hC (pc := 44) in_J22 zcJ22 1 (Nat.le_of_ble_eq_true rfl) (zLk.o hC q1038) zsm dJ22_checkInvariants_44 hf (fun v2 hf => ?_)
    refine z_if_lt hC (pc := 47) (tgt := 62) dJ22_checkInvariants_47 rfl (fun c3 => ?_) (fun c3 => ?_)
    · have hf := zif_t hf c3
      refine ZW.perm (lv' := []) [] rfl ?_
      exact w_J22_checkInvariants_b62 hC hL hno hQ  s0 hf
    · have hf := zif_f hf c3
      refine z_aload_n hC (pc := 50) dJ22_checkInvariants_50 rfl 0 rfl ?_
      refine z_getI hC (pc := 51) in_J22 zcJ22 1 (Nat.le_of_ble_eq_true rfl) (zLk.o hC q1038) zsm dJ22_checkInvariants_51 hf (fun v4 hf => ?_)
      refine z_aload_n hC (pc := 54) dJ22_checkInvariants_54 rfl 0 rfl ?_
      refine z_getR hC (pc := 55) in_J22 zcJ22 0 (Nat.le_of_ble_eq_true rfl) (zLk.o hC q1037) zsm dJ22_checkInvariants_55 hf (fun v5 hf => ?_)
      refine z_alen hC (pc := 58) dJ22_checkInvariants_58 hf (fun v6 hf => ?_)
      refine z_icmp_le hC (pc := 59) (tgt := 70) dJ22_checkInvariants_59 rfl (fun c7 => ?_) (fun c7 => ?_)
      · have hf := zif_t hf c7
        exact w_J22_checkInvariants_b70 hC hL hno hQ l0 s0 hf
      · have hf := zif_f hf c7
        refine ZW.perm (lv' := []) [] rfl ?_
        exact w_J22_checkInvariants_b62 hC hL hno hQ  s0 hf
def f_J22_checkInvariants (G : Nat → Nat) (l0 : Nat) (s0 : zS) : Option (Unit × zS) :=
if (1 : Int32) = 0 then (zo (zgI s0 (some l0) 19 1) fun v2 =>
if v2 = 0 then (f_J22_checkInvariants_b37 G l0 s0)
else (zo (zgR s0 (some l0) 19 0) fun v4 =>
zo (zgI s0 (some l0) 19 1) fun v5 =>
zo (zaL s0 v4 (v5 - 1)) fun v6 =>
if (lg_cmp v6 0) = 0 then (none)
else (f_J22_checkInvariants_b37 G l0 s0)))
else (f_J22_checkInvariants_b37 G l0 s0)
set_option maxHeartbeats 4000000 in
theorem m_J22_checkInvariants (Γ : zG) (l0 : Nat) (s0 s1 : zS) (r : Unit) (hf : f_J22_checkInvariants Γ.1 l0 s0 = some (r, s1)) : ZM Γ yJ22_checkInvariants (ws_ yJ22_checkInvariants cJ22_checkInvariants 1 none) 1 0 [zr (some l0)] s0 (.inl none, s1) := by
  refine ZM.of (own := RJ22) (by decide) rfl (Nat.le_of_ble_eq_true rfl) ?_
  intro X hg hC hL hno hQ hin
  subst hg
  unfold f_J22_checkInvariants at hf
  refine z_gets (v := zi 1) hC (pc := 0) (List.mem_of_getElem? (i := 4) rfl) q1088 dJ22_checkInvariants_0 ?_
  refine z_if_ne hC (pc := 3) (tgt := 37) dJ22_checkInvariants_3 rfl (fun c1 => ?_) (fun c1 => ?_)
  · have hf := zif_f hf c1
    exact w_J22_checkInvariants_b37 hC hL hno hQ l0 s0 hf
  · have hf := zif_t hf c1
    refine z_aload_n hC (pc := 6) dJ22_checkInvariants_6 rfl 0 rfl ?_
    refine z_getI hC (pc := 7) in_J22 zcJ22 1 (Nat.le_of_ble_eq_true rfl) (zLk.o hC q1038) zsm dJ22_checkInvariants_7 hf (fun v2 hf => ?_)
    refine z_if_eq hC (pc := 10) (tgt := 37) dJ22_checkInvariants_10 rfl (fun c3 => ?_) (fun c3 => ?_)
    · have hf := zif_t hf c3
      exact w_J22_checkInvariants_b37 hC hL hno hQ l0 s0 hf
    · have hf := zif_f hf c3
      refine z_aload_n hC (pc := 13) dJ22_checkInvariants_13 rfl 0 rfl ?_
      refine z_getR hC (pc := 14) in_J22 zcJ22 0 (Nat.le_of_ble_eq_true rfl) (zLk.o hC q1037) zsm dJ22_checkInvariants_14 hf (fun v4 hf => ?_)
      refine z_aload_n hC (pc := 17) dJ22_checkInvariants_17 rfl 0 rfl ?_
      refine z_getI hC (pc := 18) in_J22 zcJ22 1 (Nat.le_of_ble_eq_true rfl) (zLk.o hC q1038) zsm dJ22_checkInvariants_18 hf (fun v5 hf => ?_)
      refine z_iconst (v := 1) hC (pc := 21) dJ22_checkInvariants_21 zki_1 ?_
      refine z_isub hC (pc := 22) dJ22_checkInvariants_22 ?_
      refine z_lald hC (pc := 23) dJ22_checkInvariants_23 hf (fun v6 hf => ?_)
      refine z_lconst (v := 0) hC (pc := 24) dJ22_checkInvariants_24 (by decide) ?_
      refine z_lcmp hC (pc := 25) dJ22_checkInvariants_25 ?_
      refine z_if_ne hC (pc := 26) (tgt := 37) dJ22_checkInvariants_26 rfl (fun c7 => ?_) (fun c7 => ?_)
      · have hf := zif_f hf c7
        exact w_J22_checkInvariants_b37 hC hL hno hQ l0 s0 hf
      · have hf := zif_t hf c7
        cases hf
/-! java/util/BitSet.ensureCapacity(I)V -/
def f_J22_ensureCapacity (G : Nat → Nat) (l0 : Nat) (l1 : Int32) (s0 : zS) : Option (Unit × zS) :=
zo (zgR s0 (some l0) 19 0) fun v1 =>
zo (zlen s0 v1) fun v2 =>
if l1 ≤ v2 then (some ((), s0))
else (zo (zgR s0 (some l0) 19 0) fun v4 =>
zo (zlen s0 v4) fun v5 =>
zo (zgR s0 (some l0) 19 0) fun v6 =>
zb (f_J16_copyOf_2 G v6 (if (2 * v5) < l1 then l1 else (2 * v5)) s0) fun v7 s8 =>
zo (zput G s8 (some l0) 19 0 (va_rf v7)) fun s9 =>
zo (zputN G s9 (some l0) 19 2 .boolean 0) fun s10 =>
some ((), s10))
set_option maxHeartbeats 4000000 in
theorem m_J22_ensureCapacity (Γ : zG) (l0 : Nat) (l1 : Int32) (s0 s1 : zS) (r : Unit) (hf : f_J22_ensureCapacity Γ.1 l0 l1 s0 = some (r, s1)) : ZM Γ yJ22_ensureCapacity (ws_ yJ22_ensureCapacity cJ22_ensureCapacity 3 none) 2 82 [zr (some l0), zi l1] s0 (.inl none, s1) := by
  refine ZM.of (own := RJ22) (by decide) rfl (Nat.le_of_ble_eq_true rfl) ?_
  intro X hg hC hL hno hQ hin
  subst hg
  unfold f_J22_ensureCapacity at hf
  refine z_aload_n hC (pc := 0) dJ22_ensureCapacity_0 rfl 0 rfl ?_
  refine z_getR hC (pc := 1) in_J22 zcJ22 0 (Nat.le_of_ble_eq_true rfl) (zLk.o hC q1037) zsm dJ22_ensureCapacity_1 hf (fun v1 hf => ?_)
  refine z_alen hC (pc := 4) dJ22_ensureCapacity_4 hf (fun v2 hf => ?_)
  refine z_iload_n hC (pc := 5) dJ22_ensureCapacity_5 rfl 1 rfl ?_
  refine z_icmp_ge hC (pc := 6) (tgt := 38) dJ22_ensureCapacity_6 rfl (fun c3 => ?_) (fun c3 => ?_)
  · have hf := zif_t hf c3
    exact z_return hC (pc := 38) hQ dJ22_ensureCapacity_38 hf
  · have hf := zif_f hf c3
    refine z_iconst (v := 2) hC (pc := 9) dJ22_ensureCapacity_9 zki_2 ?_
    refine z_aload_n hC (pc := 10) dJ22_ensureCapacity_10 rfl 0 rfl ?_
    refine z_getR hC (pc := 11) in_J22 zcJ22 0 (Nat.le_of_ble_eq_true rfl) (zLk.o hC q1037) zsm dJ22_ensureCapacity_11 hf (fun v4 hf => ?_)
    refine z_alen hC (pc := 14) dJ22_ensureCapacity_14 hf (fun v5 hf => ?_)
    refine z_imul hC (pc := 15) dJ22_ensureCapacity_15 ?_
    refine z_iload_n hC (pc := 16) dJ22_ensureCapacity_16 rfl 1 rfl ?_
    refine z_mmax hC (pc := 17) q1168 q603 q119 q604 (Nat.le_of_ble_eq_true rfl) (Nat.le_of_ble_eq_true rfl) dJ22_ensureCapacity_17 ?_
    refine z_istore_n (lv' := [(2, zi (if (2 * v5) < l1 then l1 else (2 * v5))), (0, zr (some l0)), (1, zi l1)]) hC (pc := 20) hL dJ22_ensureCapacity_20 rfl (Nat.le_of_ble_eq_true rfl) rfl ?_
    refine z_aload_n hC (pc := 21) dJ22_ensureCapacity_21 rfl 1 rfl ?_
    refine z_aload_n hC (pc := 22) dJ22_ensureCapacity_22 rfl 1 rfl ?_
    refine z_getR hC (pc := 23) in_J22 zcJ22 0 (Nat.le_of_ble_eq_true rfl) (zLk.o hC q1037) zsm dJ22_ensureCapacity_23 hf (fun v6 hf => ?_)
    refine z_iload_n hC (pc := 26) dJ22_ensureCapacity_26 rfl 0 rfl ?_
    refine z_cR (rest := [zr (some l0)]) hf (fun v7 s8 hcall => z_runS hC (pc := 27) 2 (m_J16_copyOf_2 X.g v6 (if (2 * v5) < l1 then l1 else (2 * v5)) s0 s8 v7 hcall) (lw_S q1169 q1170 q120 q1171) hd_J16_copyOf_2 ⟨(Nat.le_of_ble_eq_true rfl), (Nat.le_of_ble_eq_true rfl)⟩ rfl (Nat.le_of_ble_eq_true rfl) dJ22_ensureCapacity_27 rfl) (fun v7 s8 hf => ?_)
    refine z_putV (v := zr v7) hC (pc := 30) in_J22 tyJ22 tyJ22_ok nmJ22 zcJ22 0 (Nat.le_of_ble_eq_true rfl) (zLk.o hC q1037) zsm (Or.inl rfl) rfl (zfa v7) dJ22_ensureCapacity_30 hf (fun s9 hf => ?_)
    refine z_aload_n hC (pc := 33) dJ22_ensureCapacity_33 rfl 1 rfl ?_
    refine z_iconst (v := 0) hC (pc := 34) dJ22_ensureCapacity_34 zki_0 ?_
    refine z_putN hC (pc := 35) in_J22 tyJ22 tyJ22_ok nmJ22 zcJ22 2 (Nat.le_of_ble_eq_true rfl) (zLk.o hC q1039) zsm (Or.inl rfl) (Or.inl rfl) dJ22_ensureCapacity_35 hf (fun s10 hf => ?_)
    exact z_return hC (pc := 38) hQ dJ22_ensureCapacity_38 hf
/-! java/util/BitSet.expandTo(I)V -/
def f_J22_expandTo (G : Nat → Nat) (l0 : Nat) (l1 : Int32) (s0 : zS) : Option (Unit × zS) :=
zo (zgI s0 (some l0) 19 1) fun v1 =>
if (l1 + 1) ≤ v1 then (some ((), s0))
else (zo (zrc s0 (some l0) 19) fun _ =>
zb (f_J22_ensureCapacity G l0 (l1 + 1) s0) fun _ s6 =>
zo (zput G s6 (some l0) 19 1 (.int (l1 + 1))) fun s7 =>
some ((), s7))
set_option maxHeartbeats 4000000 in
theorem m_J22_expandTo (Γ : zG) (l0 : Nat) (l1 : Int32) (s0 s1 : zS) (r : Unit) (hf : f_J22_expandTo Γ.1 l0 l1 s0 = some (r, s1)) : ZM Γ yJ22_expandTo (ws_ yJ22_expandTo cJ22_expandTo 3 none) 3 104 [zr (some l0), zi l1] s0 (.inl none, s1) := by
  refine ZM.of (own := RJ22) (by decide) rfl (Nat.le_of_ble_eq_true rfl) ?_
  intro X hg hC hL hno hQ hin
  subst hg
  unfold f_J22_expandTo at hf
  refine z_iload_n hC (pc := 0) dJ22_expandTo_0 rfl 1 rfl ?_
  refine z_iconst (v := 1) hC (pc := 1) dJ22_expandTo_1 zki_1 ?_
  refine z_iadd hC (pc := 2) dJ22_expandTo_2 ?_
  refine z_istore_n (lv' := [(2, zi (l1 + 1)), (0, zr (some l0)), (1, zi l1)]) hC (pc := 3) hL dJ22_expandTo_3 rfl (Nat.le_of_ble_eq_true rfl) rfl ?_
  refine z_aload_n hC (pc := 4) dJ22_expandTo_4 rfl 1 rfl ?_
  refine z_getI hC (pc := 5) in_J22 zcJ22 1 (Nat.le_of_ble_eq_true rfl) (zLk.o hC q1038) zsm dJ22_expandTo_5 hf (fun v1 hf => ?_)
  refine z_iload_n hC (pc := 8) dJ22_expandTo_8 rfl 0 rfl ?_
  refine z_icmp_ge hC (pc := 9) (tgt := 22) dJ22_expandTo_9 rfl (fun c2 => ?_) (fun c2 => ?_)
  · have hf := zif_t hf c2
    exact z_return hC (pc := 22) hQ dJ22_expandTo_22 hf
  · have hf := zif_f hf c2
    refine z_aload_n hC (pc := 12) dJ22_expandTo_12 rfl 1 rfl ?_
    refine z_iload_n hC (pc := 13) dJ22_expandTo_13 rfl 0 rfl ?_
    obtain ⟨fs3, ha4, hf⟩ := z_rcN hf
    refine z_cU (rest := []) hf (fun v5 s6 hcall => z_runV hC (pc := 14) zcJ22 1 ha4 (m_J22_ensureCapacity X.g l0 (l1 + 1) s0 s6 v5 hcall) (lw_V q1164 q1166 qs9 q129 q1167) hdV_J22_ensureCapacity ⟨(Nat.le_of_ble_eq_true rfl), (Nat.le_of_ble_eq_true rfl)⟩ rfl (Nat.le_of_ble_eq_true rfl) dJ22_expandTo_14 rfl) (fun _ s6 hf => ?_)
    refine z_aload_n hC (pc := 17) dJ22_expandTo_17 rfl 1 rfl ?_
    refine z_iload_n hC (pc := 18) dJ22_expandTo_18 rfl 0 rfl ?_
    refine z_putV (v := zi (l1 + 1)) hC (pc := 19) in_J22 tyJ22 tyJ22_ok nmJ22 zcJ22 1 (Nat.le_of_ble_eq_true rfl) (zLk.o hC q1038) zsm (Or.inl rfl) rfl rfl dJ22_expandTo_19 hf (fun s7 hf => ?_)
    exact z_return hC (pc := 22) hQ dJ22_expandTo_22 hf
/-! java/util/BitSet.wordIndex(I)I -/
def f_J22_wordIndex (G : Nat → Nat) (l0 : Int32) (s0 : zS) : Option (Int32 × zS) :=
some ((l0 >>> ((6 : Int32) &&& 31)), s0)
set_option maxHeartbeats 4000000 in
theorem m_J22_wordIndex (Γ : zG) (l0 : Int32) (s0 s1 : zS) (r : Int32) (hf : f_J22_wordIndex Γ.1 l0 s0 = some (r, s1)) : ZM Γ yJ22_wordIndex (ws_ yJ22_wordIndex cJ22_wordIndex 1 (some .int)) 1 0 [zi l0] s0 (.inl (some (zi r)), s1) := by
  refine ZM.of (own := RJ22) (by decide) rfl (Nat.le_of_ble_eq_true rfl) ?_
  intro X hg hC hL hno hQ hin
  subst hg
  unfold f_J22_wordIndex at hf
  refine z_iload_n hC (pc := 0) dJ22_wordIndex_0 rfl 0 rfl ?_
  refine z_bipush (v := 6) hC (pc := 1) dJ22_wordIndex_1 zkb_6 ?_
  refine z_ishr hC (pc := 3) dJ22_wordIndex_3 ?_
  exact z_ireturn hC (pc := 4) hQ dJ22_wordIndex_4 hf
/-! java/util/BitSet.get(I)Z -/
def f_J22_get (G : Nat → Nat) (l0 : Nat) (l1 : Int32) (s0 : zS) : Option (Int32 × zS) :=
if 0 ≤ l1 then (zo (zrc s0 (some l0) 19) fun _ =>
zb (f_J22_checkInvariants G l0 s0) fun _ s5 =>
zb (f_J22_wordIndex G l1 s5) fun v6 s7 =>
zo (zgI s7 (some l0) 19 1) fun v8 =>
if v8 ≤ v6 then (zrn .boolean 0 s7)
else (zo (zgR s7 (some l0) 19 0) fun v10 =>
zo (zaL s7 v10 v6) fun v11 =>
if (lg_cmp (v11 &&& ((1 : Int64) <<< (l1.toInt64 &&& 63))) 0) = 0 then (zrn .boolean 0 s7)
else (zrn .boolean 1 s7)))
else (none)
set_option maxHeartbeats 4000000 in
theorem m_J22_get (Γ : zG) (l0 : Nat) (l1 : Int32) (s0 s1 : zS) (r : Int32) (hf : f_J22_get Γ.1 l0 l1 s0 = some (r, s1)) : ZM Γ yJ22_get (ws_ yJ22_get cJ22_get 3 (some .boolean)) 2 20 [zr (some l0), zi l1] s0 (.inl (some (zi r)), s1) := by
  refine ZM.of (own := RJ22) (by decide) rfl (Nat.le_of_ble_eq_true rfl) ?_
  intro X hg hC hL hno hQ hin
  subst hg
  unfold f_J22_get at hf
  refine z_iload_n hC (pc := 0) dJ22_get_0 rfl 1 rfl ?_
  refine z_if_ge hC (pc := 1) (tgt := 31) dJ22_get_1 rfl (fun c1 => ?_) (fun c1 => ?_)
  · have hf := zif_t hf c1
    refine z_aload_n hC (pc := 31) dJ22_get_31 rfl 0 rfl ?_
    obtain ⟨fs2, ha3, hf⟩ := z_rcN hf
    refine z_cU (rest := []) hf (fun v4 s5 hcall => z_runV hC (pc := 32) zcJ22 0 ha3 (m_J22_checkInvariants X.g l0 s0 s5 v4 hcall) (lw_V q1084 q1086 qs7 q129 q1087) hdV_J22_checkInvariants ⟨(Nat.le_of_ble_eq_true rfl), (Nat.le_of_ble_eq_true rfl)⟩ rfl (Nat.le_of_ble_eq_true rfl) dJ22_get_32 rfl) (fun _ s5 hf => ?_)
    refine z_iload_n hC (pc := 35) dJ22_get_35 rfl 1 rfl ?_
    refine z_cI (rest := []) hf (fun v6 s7 hcall => z_runS hC (pc := 36) 1 (m_J22_wordIndex X.g l1 s5 s7 v6 hcall) (lw_S q1034 q1035 q129 q1036) hd_J22_wordIndex ⟨(Nat.le_of_ble_eq_true rfl), (Nat.le_of_ble_eq_true rfl)⟩ rfl (Nat.le_of_ble_eq_true rfl) dJ22_get_36 rfl) (fun v6 s7 hf => ?_)
    refine z_istore_n (lv' := [(2, zi v6), (0, zr (some l0)), (1, zi l1)]) hC (pc := 39) hL dJ22_get_39 rfl (Nat.le_of_ble_eq_true rfl) rfl ?_
    refine z_iload_n hC (pc := 40) dJ22_get_40 rfl 0 rfl ?_
    refine z_aload_n hC (pc := 41) dJ22_get_41 rfl 1 rfl ?_
    refine z_getI hC (pc := 42) in_J22 zcJ22 1 (Nat.le_of_ble_eq_true rfl) (zLk.o hC q1038) zsm dJ22_get_42 hf (fun v8 hf => ?_)
    refine z_icmp_ge hC (pc := 45) (tgt := 67) dJ22_get_45 rfl (fun c9 => ?_) (fun c9 => ?_)
    · have hf := zif_t hf c9
      refine z_iconst (v := 0) hC (pc := 67) dJ22_get_67 zki_0 ?_
      exact z_zreturn hC (pc := 68) hQ dJ22_get_68 hf
    · have hf := zif_f hf c9
      refine z_aload_n hC (pc := 48) dJ22_get_48 rfl 1 rfl ?_
      refine z_getR hC (pc := 49) in_J22 zcJ22 0 (Nat.le_of_ble_eq_true rfl) (zLk.o hC q1037) zsm dJ22_get_49 hf (fun v10 hf => ?_)
      refine z_iload_n hC (pc := 52) dJ22_get_52 rfl 0 rfl ?_
      refine z_lald hC (pc := 53) dJ22_get_53 hf (fun v11 hf => ?_)
      refine z_lconst (v := 1) hC (pc := 54) dJ22_get_54 (by decide) ?_
      refine z_iload_n hC (pc := 55) dJ22_get_55 rfl 2 rfl ?_
      refine z_lshl hC (pc := 56) dJ22_get_56 ?_
      refine z_land hC (pc := 57) dJ22_get_57 ?_
      refine z_lconst (v := 0) hC (pc := 58) dJ22_get_58 (by decide) ?_
      refine z_lcmp hC (pc := 59) dJ22_get_59 ?_
      refine z_if_eq hC (pc := 60) (tgt := 67) dJ22_get_60 rfl (fun c12 => ?_) (fun c12 => ?_)
      · have hf := zif_t hf c12
        refine z_iconst (v := 0) hC (pc := 67) dJ22_get_67 zki_0 ?_
        exact z_zreturn hC (pc := 68) hQ dJ22_get_68 hf
      · have hf := zif_f hf c12
        refine z_iconst (v := 1) hC (pc := 63) dJ22_get_63 zki_1 ?_
        refine z_goto hC (pc := 64) (tgt := 68) dJ22_get_64 rfl ?_
        exact z_zreturn hC (pc := 68) hQ dJ22_get_68 hf
  · have hf := zif_f hf c1
    cases hf
/-! java/util/BitSet.initWords(I)V -/
def f_J22_initWords (G : Nat → Nat) (l0 : Nat) (l1 : Int32) (s0 : zS) : Option (Unit × zS) :=
zb (f_J22_wordIndex G (l1 - 1) s0) fun v1 s2 =>
zb (znewA G s2 1 (v1 + 1) (.inr (.inl fun _ => 0))) fun a3 s4 =>
zo (zput G s4 (some l0) 19 0 (va_rf (some a3))) fun s5 =>
some ((), s5)
set_option maxHeartbeats 4000000 in
theorem m_J22_initWords (Γ : zG) (l0 : Nat) (l1 : Int32) (s0 s1 : zS) (r : Unit) (hf : f_J22_initWords Γ.1 l0 l1 s0 = some (r, s1)) : ZM Γ yJ22_initWords (ws_ yJ22_initWords cJ22_initWords 2 none) 2 20 [zr (some l0), zi l1] s0 (.inl none, s1) := by
  refine ZM.of (own := RJ22) (by decide) rfl (Nat.le_of_ble_eq_true rfl) ?_
  intro X hg hC hL hno hQ hin
  subst hg
  unfold f_J22_initWords at hf
  refine z_aload_n hC (pc := 0) dJ22_initWords_0 rfl 0 rfl ?_
  refine z_iload_n hC (pc := 1) dJ22_initWords_1 rfl 1 rfl ?_
  refine z_iconst (v := 1) hC (pc := 2) dJ22_initWords_2 zki_1 ?_
  refine z_isub hC (pc := 3) dJ22_initWords_3 ?_
  refine z_cI (rest := [zr (some l0)]) hf (fun v1 s2 hcall => z_runS hC (pc := 4) 1 (m_J22_wordIndex X.g (l1 - 1) s0 s2 v1 hcall) (lw_S q1034 q1035 q129 q1036) hd_J22_wordIndex ⟨(Nat.le_of_ble_eq_true rfl), (Nat.le_of_ble_eq_true rfl)⟩ rfl (Nat.le_of_ble_eq_true rfl) dJ22_initWords_4 rfl) (fun v1 s2 hf => ?_)
  refine z_iconst (v := 1) hC (pc := 7) dJ22_initWords_7 zki_1 ?_
  refine z_iadd hC (pc := 8) dJ22_initWords_8 ?_
  refine z_newa (t := 1) (ty := .long) hC (pc := 9) rfl rfl q1047 (.inr (.inl fun _ => 0)) (fun _ => rfl) (by decide) dJ22_initWords_9 hf (fun a3 s4 hf => ?_)
  refine z_putV (v := zr (some a3)) hC (pc := 11) in_J22 tyJ22 tyJ22_ok nmJ22 zcJ22 0 (Nat.le_of_ble_eq_true rfl) (zLk.o hC q1037) zsm (Or.inl rfl) rfl (zfa (some a3)) dJ22_initWords_11 hf (fun s5 hf => ?_)
  exact z_return hC (pc := 14) hQ dJ22_initWords_14 hf
/-! java/util/BitSet.<init>()V -/
def f_J22_init (G : Nat → Nat) (l0 : Nat) (s0 : zS) : Option (Unit × zS) :=
zo (zput G s0 (some l0) 19 1 (.int 0)) fun s1 =>
zo (zputN G s1 (some l0) 19 2 .boolean 0) fun s2 =>
zo (zrc s2 (some l0) 19) fun _ =>
zb (f_J22_initWords G l0 64 s2) fun _ s6 =>
zo (zputN G s6 (some l0) 19 2 .boolean 0) fun s7 =>
some ((), s7)
set_option maxHeartbeats 4000000 in
theorem m_J22_init (Γ : zG) (l0 : Nat) (s0 s1 : zS) (r : Unit) (hf : f_J22_init Γ.1 l0 s0 = some (r, s1)) : ZM Γ yJ22_init (ws_ yJ22_init cJ22_init 1 none) 3 41 [zr (some l0)] s0 (.inl none, s1) := by
  refine ZM.of (own := RJ22) (by decide) rfl (Nat.le_of_ble_eq_true rfl) ?_
  intro X hg hC hL hno hQ hin
  subst hg
  unfold f_J22_init at hf
  refine z_aload_n hC (pc := 0) dJ22_init_0 rfl 0 rfl ?_
  refine z_objInit hC (pc := 1) q1029 q163 q164 (Nat.le_of_ble_eq_true rfl) (Nat.le_of_ble_eq_true rfl) dJ22_init_1 ?_
  refine z_aload_n hC (pc := 4) dJ22_init_4 rfl 0 rfl ?_
  refine z_iconst (v := 0) hC (pc := 5) dJ22_init_5 zki_0 ?_
  refine z_putV (v := zi 0) hC (pc := 6) in_J22 tyJ22 tyJ22_ok nmJ22 zcJ22 1 (Nat.le_of_ble_eq_true rfl) (zLk.o hC q1038) zsm (Or.inl rfl) rfl rfl dJ22_init_6 hf (fun s1 hf => ?_)
  refine z_aload_n hC (pc := 9) dJ22_init_9 rfl 0 rfl ?_
  refine z_iconst (v := 0) hC (pc := 10) dJ22_init_10 zki_0 ?_
  refine z_putN hC (pc := 11) in_J22 tyJ22 tyJ22_ok nmJ22 zcJ22 2 (Nat.le_of_ble_eq_true rfl) (zLk.o hC q1039) zsm (Or.inl rfl) (Or.inl rfl) dJ22_init_11 hf (fun s2 hf => ?_)
  refine z_aload_n hC (pc := 14) dJ22_init_14 rfl 0 rfl ?_
  refine z_bipush (v := 64) hC (pc := 15) dJ22_init_15 zkb_64 ?_
  obtain ⟨fs3, ha4, hf⟩ := z_rcN hf
  refine z_cU (rest := []) hf (fun v5 s6 hcall => z_runV hC (pc := 17) zcJ22 1 ha4 (m_J22_initWords X.g l0 64 s2 s6 v5 hcall) (lw_V q1030 q1032 qs5 q129 q1033) hdV_J22_initWords ⟨(Nat.le_of_ble_eq_true rfl), (Nat.le_of_ble_eq_true rfl)⟩ rfl (Nat.le_of_ble_eq_true rfl) dJ22_init_17 rfl) (fun _ s6 hf => ?_)
  refine z_aload_n hC (pc := 20) dJ22_init_20 rfl 0 rfl ?_
  refine z_iconst (v := 0) hC (pc := 21) dJ22_init_21 zki_0 ?_
  refine z_putN hC (pc := 22) in_J22 tyJ22 tyJ22_ok nmJ22 zcJ22 2 (Nat.le_of_ble_eq_true rfl) (zLk.o hC q1039) zsm (Or.inl rfl) (Or.inl rfl) dJ22_init_22 hf (fun s7 hf => ?_)
  exact z_return hC (pc := 25) hQ dJ22_init_25 hf
/-! java/util/BitSet.set(I)V -/
def f_J22_set (G : Nat → Nat) (l0 : Nat) (l1 : Int32) (s0 : zS) : Option (Unit × zS) :=
if 0 ≤ l1 then (zb (f_J22_wordIndex G l1 s0) fun v2 s3 =>
zo (zrc s3 (some l0) 19) fun _ =>
zb (f_J22_expandTo G l0 v2 s3) fun _ s7 =>
zo (zgR s7 (some l0) 19 0) fun v8 =>
zo (zaL s7 v8 v2) fun v9 =>
zo (zsL G s7 v8 v2 (v9 ||| ((1 : Int64) <<< (l1.toInt64 &&& 63)))) fun s10 =>
zo (zrc s10 (some l0) 19) fun _ =>
zb (f_J22_checkInvariants G l0 s10) fun _ s14 =>
some ((), s14))
else (none)
set_option maxHeartbeats 4000000 in
theorem m_J22_set (Γ : zG) (l0 : Nat) (l1 : Int32) (s0 s1 : zS) (r : Unit) (hf : f_J22_set Γ.1 l0 l1 s0 = some (r, s1)) : ZM Γ yJ22_set (ws_ yJ22_set cJ22_set 3 none) 4 126 [zr (some l0), zi l1] s0 (.inl none, s1) := by
  refine ZM.of (own := RJ22) (by decide) rfl (Nat.le_of_ble_eq_true rfl) ?_
  intro X hg hC hL hno hQ hin
  subst hg
  unfold f_J22_set at hf
  refine z_iload_n hC (pc := 0) dJ22_set_0 rfl 1 rfl ?_
  refine z_if_ge hC (pc := 1) (tgt := 31) dJ22_set_1 rfl (fun c1 => ?_) (fun c1 => ?_)
  · have hf := zif_t hf c1
    refine z_iload_n hC (pc := 31) dJ22_set_31 rfl 1 rfl ?_
    refine z_cI (rest := []) hf (fun v2 s3 hcall => z_runS hC (pc := 32) 1 (m_J22_wordIndex X.g l1 s0 s3 v2 hcall) (lw_S q1034 q1035 q129 q1036) hd_J22_wordIndex ⟨(Nat.le_of_ble_eq_true rfl), (Nat.le_of_ble_eq_true rfl)⟩ rfl (Nat.le_of_ble_eq_true rfl) dJ22_set_32 rfl) (fun v2 s3 hf => ?_)
    refine z_istore_n (lv' := [(2, zi v2), (0, zr (some l0)), (1, zi l1)]) hC (pc := 35) hL dJ22_set_35 rfl (Nat.le_of_ble_eq_true rfl) rfl ?_
    refine z_aload_n hC (pc := 36) dJ22_set_36 rfl 1 rfl ?_
    refine z_iload_n hC (pc := 37) dJ22_set_37 rfl 0 rfl ?_
    obtain ⟨fs4, ha5, hf⟩ := z_rcN hf
    refine z_cU (rest := []) hf (fun v6 s7 hcall => z_runV hC (pc := 38) zcJ22 1 ha5 (m_J22_expandTo X.g l0 v2 s3 s7 v6 hcall) (lw_V q1160 q1162 qs8 q129 q1163) hdV_J22_expandTo ⟨(Nat.le_of_ble_eq_true rfl), (Nat.le_of_ble_eq_true rfl)⟩ rfl (Nat.le_of_ble_eq_true rfl) dJ22_set_38 rfl) (fun _ s7 hf => ?_)
    refine z_aload_n hC (pc := 41) dJ22_set_41 rfl 1 rfl ?_
    refine z_getR hC (pc := 42) in_J22 zcJ22 0 (Nat.le_of_ble_eq_true rfl) (zLk.o hC q1037) zsm dJ22_set_42 hf (fun v8 hf => ?_)
    refine z_iload_n hC (pc := 45) dJ22_set_45 rfl 0 rfl ?_
    refine z_dup2 hC (pc := 46) dJ22_set_46 rfl rfl ?_
    refine z_lald hC (pc := 47) dJ22_set_47 hf (fun v9 hf => ?_)
    refine z_lconst (v := 1) hC (pc := 48) dJ22_set_48 (by decide) ?_
    refine z_iload_n hC (pc := 49) dJ22_set_49 rfl 2 rfl ?_
    refine z_lshl hC (pc := 50) dJ22_set_50 ?_
    refine z_lor hC (pc := 51) dJ22_set_51 ?_
    refine z_last hC (pc := 52) dJ22_set_52 hf (fun s10 hf => ?_)
    refine z_aload_n hC (pc := 53) dJ22_set_53 rfl 1 rfl ?_
    obtain ⟨fs11, ha12, hf⟩ := z_rcN hf
    refine z_cU (rest := []) hf (fun v13 s14 hcall => z_runV hC (pc := 54) zcJ22 0 ha12 (m_J22_checkInvariants X.g l0 s10 s14 v13 hcall) (lw_V q1084 q1086 qs7 q129 q1087) hdV_J22_checkInvariants ⟨(Nat.le_of_ble_eq_true rfl), (Nat.le_of_ble_eq_true rfl)⟩ rfl (Nat.le_of_ble_eq_true rfl) dJ22_set_54 rfl) (fun _ s14 hf => ?_)
    exact z_return hC (pc := 57) hQ dJ22_set_57 hf
  · have hf := zif_f hf c1
    cases hf
/-! java/util/LinkedList$Node.<init>(Ljava/util/LinkedList$Node;Ljava/lang/Object;Ljava/util/LinkedList$Node;)V -/
def f_J24_init (G : Nat → Nat) (l0 : Nat) (l1 : Option Nat) (l2 : Option Nat) (l3 : Option Nat) (s0 : zS) : Option (Unit × zS) :=
zo (zput G s0 (some l0) 20 0 (va_rf l2)) fun s1 =>
zo (zput G s1 (some l0) 20 1 (va_rf l3)) fun s2 =>
zo (zput G s2 (some l0) 20 2 (va_rf l1)) fun s3 =>
some ((), s3)
set_option maxHeartbeats 4000000 in
theorem m_J24_init (Γ : zG) (l0 : Nat) (l1 : Option Nat) (l2 : Option Nat) (l3 : Option Nat) (s0 s1 : zS) (r : Unit) (hf : f_J24_init Γ.1 l0 l1 l2 l3 s0 = some (r, s1)) : ZM Γ yJ24_init (ws_ yJ24_init cJ24_init 4 none) 1 12 [zr (some l0), zr l1, zr l2, zr l3] s0 (.inl none, s1) := by
  refine ZM.of (own := RJ24) (by decide) rfl (Nat.le_of_ble_eq_true rfl) ?_
  intro X hg hC hL hno hQ hin
  subst hg
  unfold f_J24_init at hf
  refine z_aload_n hC (pc := 0) dJ24_init_0 rfl 0 rfl ?_
  refine z_objInit hC (pc := 1) q1594 q163 q164 (Nat.le_of_ble_eq_true rfl) (Nat.le_of_ble_eq_true rfl) dJ24_init_1 ?_
  refine z_aload_n hC (pc := 4) dJ24_init_4 rfl 0 rfl ?_
  refine z_aload_n hC (pc := 5) dJ24_init_5 rfl 2 rfl ?_
  refine z_putV (v := zr l2) hC (pc := 6) in_J24 tyJ24 tyJ24_ok nmJ24 zcJ24 0 (Nat.le_of_ble_eq_true rfl) (zLk.o hC q1595) zsm (Or.inl rfl) rfl (zfr l2) dJ24_init_6 hf (fun s1 hf => ?_)
  refine z_aload_n hC (pc := 9) dJ24_init_9 rfl 0 rfl ?_
  refine z_aload_n hC (pc := 10) dJ24_init_10 rfl 3 rfl ?_
  refine z_putV (v := zr l3) hC (pc := 11) in_J24 tyJ24 tyJ24_ok nmJ24 zcJ24 1 (Nat.le_of_ble_eq_true rfl) (zLk.o hC q1598) zsm (Or.inl rfl) rfl (zfr l3) dJ24_init_11 hf (fun s2 hf => ?_)
  refine z_aload_n hC (pc := 14) dJ24_init_14 rfl 0 rfl ?_
  refine z_aload_n hC (pc := 15) dJ24_init_15 rfl 1 rfl ?_
  refine z_putV (v := zr l1) hC (pc := 16) in_J24 tyJ24 tyJ24_ok nmJ24 zcJ24 2 (Nat.le_of_ble_eq_true rfl) (zLk.o hC q1601) zsm (Or.inl rfl) rfl (zfr l1) dJ24_init_16 hf (fun s3 hf => ?_)
  exact z_return hC (pc := 19) hQ dJ24_init_19 hf
/-! java/util/TreeMap$Entry.<init>(Ljava/lang/Object;Ljava/lang/Object;Ljava/util/TreeMap$Entry;)V -/
def f_J27_init (G : Nat → Nat) (l0 : Nat) (l1 : Option Nat) (l2 : Option Nat) (l3 : Option Nat) (s0 : zS) : Option (Unit × zS) :=
zo (zputN G s0 (some l0) 21 5 .boolean 1) fun s1 =>
zo (zput G s1 (some l0) 21 0 (va_rf l1)) fun s2 =>
zo (zput G s2 (some l0) 21 1 (va_rf l2)) fun s3 =>
zo (zput G s3 (some l0) 21 4 (va_rf l3)) fun s4 =>
some ((), s4)
set_option maxHeartbeats 4000000 in
theorem m_J27_init (Γ : zG) (l0 : Nat) (l1 : Option Nat) (l2 : Option Nat) (l3 : Option Nat) (s0 s1 : zS) (r : Unit) (hf : f_J27_init Γ.1 l0 l1 l2 l3 s0 = some (r, s1)) : ZM Γ yJ27_init (ws_ yJ27_init cJ27_init 4 none) 1 12 [zr (some l0), zr l1, zr l2, zr l3] s0 (.inl none, s1) := by
  refine ZM.of (own := RJ27) (by decide) rfl (Nat.le_of_ble_eq_true rfl) ?_
  intro X hg hC hL hno hQ hin
  subst hg
  unfold f_J27_init at hf
  refine z_aload_n hC (pc := 0) dJ27_init_0 rfl 0 rfl ?_
  refine z_objInit hC (pc := 1) q2222 q163 q164 (Nat.le_of_ble_eq_true rfl) (Nat.le_of_ble_eq_true rfl) dJ27_init_1 ?_
  refine z_aload_n hC (pc := 4) dJ27_init_4 rfl 0 rfl ?_
  refine z_iconst (v := 1) hC (pc := 5) dJ27_init_5 zki_1 ?_
  refine z_putN hC (pc := 6) in_J27 tyJ27 tyJ27_ok nmJ27 zcJ27 5 (Nat.le_of_ble_eq_true rfl) (zLk.o hC q2231) zsm (Or.inl rfl) (Or.inl rfl) dJ27_init_6 hf (fun s1 hf => ?_)
  refine z_aload_n hC (pc := 9) dJ27_init_9 rfl 0 rfl ?_
  refine z_aload_n hC (pc := 10) dJ27_init_10 rfl 1 rfl ?_
  refine z_putV (v := zr l1) hC (pc := 11) in_J27 tyJ27 tyJ27_ok nmJ27 zcJ27 0 (Nat.le_of_ble_eq_true rfl) (zLk.o hC q2223) zsm (Or.inl rfl) rfl (zfr l1) dJ27_init_11 hf (fun s2 hf => ?_)
  refine z_aload_n hC (pc := 14) dJ27_init_14 rfl 0 rfl ?_
  refine z_aload_n hC (pc := 15) dJ27_init_15 rfl 2 rfl ?_
  refine z_putV (v := zr l2) hC (pc := 16) in_J27 tyJ27 tyJ27_ok nmJ27 zcJ27 1 (Nat.le_of_ble_eq_true rfl) (zLk.o hC q2225) zsm (Or.inl rfl) rfl (zfr l2) dJ27_init_16 hf (fun s3 hf => ?_)
  refine z_aload_n hC (pc := 19) dJ27_init_19 rfl 0 rfl ?_
  refine z_aload_n hC (pc := 20) dJ27_init_20 rfl 3 rfl ?_
  refine z_putV (v := zr l3) hC (pc := 21) in_J27 tyJ27 tyJ27_ok nmJ27 zcJ27 4 (Nat.le_of_ble_eq_true rfl) (zLk.o hC q2229) zsm (Or.inl rfl) rfl (zfr l3) dJ27_init_21 hf (fun s4 hf => ?_)
  exact z_return hC (pc := 24) hQ dJ27_init_24 hf
/-! java/util/Objects.checkIndex(II)I -/
def f_J28_checkIndex (G : Nat → Nat) (l0 : Int32) (l1 : Int32) (s0 : zS) : Option (Int32 × zS) :=
zb (f_J18_checkIndex G l0 l1 none s0) fun v1 s2 =>
some (v1, s2)
set_option maxHeartbeats 4000000 in
theorem m_J28_checkIndex (Γ : zG) (l0 : Int32) (l1 : Int32) (s0 s1 : zS) (r : Int32) (hf : f_J28_checkIndex Γ.1 l0 l1 s0 = some (r, s1)) : ZM Γ yJ28_checkIndex (ws_ yJ28_checkIndex cJ28_checkIndex 2 (some .int)) 2 22 [zi l0, zi l1] s0 (.inl (some (zi r)), s1) := by
  refine ZM.of (own := RJ28) (by decide) rfl (Nat.le_of_ble_eq_true rfl) ?_
  intro X hg hC hL hno hQ hin
  subst hg
  unfold f_J28_checkIndex at hf
  refine z_iload_n hC (pc := 0) dJ28_checkIndex_0 rfl 0 rfl ?_
  refine z_iload_n hC (pc := 1) dJ28_checkIndex_1 rfl 1 rfl ?_
  refine z_null hC (pc := 2) dJ28_checkIndex_2 ?_
  refine z_cI (rest := []) hf (fun v1 s2 hcall => z_runS hC (pc := 3) 3 (m_J18_checkIndex X.g l0 l1 none s0 s2 v1 hcall) (lw_S q486 q487 q123 q488) hd_J18_checkIndex ⟨(Nat.le_of_ble_eq_true rfl), (Nat.le_of_ble_eq_true rfl)⟩ rfl (Nat.le_of_ble_eq_true rfl) dJ28_checkIndex_3 rfl) (fun v1 s2 hf => ?_)
  exact z_ireturn hC (pc := 6) hQ dJ28_checkIndex_6 hf
/-! java/util/Objects.equals(Ljava/lang/Object;Ljava/lang/Object;)Z -/
def f_J28_equals (G : Nat → Nat) (l0 : Option Nat) (l1 : Option Nat) (s0 : zS) : Option (Int32 × zS) :=
if l0 = l1 then (zrn .boolean 1 s0)
else (if l0 = none then (zrn .boolean 0 s0)
else (zo (zrc s0 l0 17) fun a5 =>
zb (f_J12_equals G a5 l1 s0) fun v6 s7 =>
if v6 = 0 then (zrn .boolean 0 s7)
else (zrn .boolean 1 s7)))
set_option maxHeartbeats 4000000 in
theorem m_J28_equals (Γ : zG) (l0 : Option Nat) (l1 : Option Nat) (s0 s1 : zS) (r : Int32) (hf : f_J28_equals Γ.1 l0 l1 s0 = some (r, s1)) : ZM Γ yJ28_equals (ws_ yJ28_equals cJ28_equals 2 (some .boolean)) 3 44 [zr l0, zr l1] s0 (.inl (some (zi r)), s1) := by
  refine ZM.of (own := RJ28) (by decide) rfl (Nat.le_of_ble_eq_true rfl) ?_
  intro X hg hC hL hno hQ hin
  subst hg
  unfold f_J28_equals at hf
  refine z_aload_n hC (pc := 0) dJ28_equals_0 rfl 0 rfl ?_
  refine z_aload_n hC (pc := 1) dJ28_equals_1 rfl 1 rfl ?_
  refine z_acmp_eq hC (pc := 2) (tgt := 17) dJ28_equals_2 rfl (fun c1 => ?_) (fun c1 => ?_)
  · have hf := zif_t hf c1
    refine z_iconst (v := 1) hC (pc := 17) dJ28_equals_17 zki_1 ?_
    refine z_goto hC (pc := 18) (tgt := 22) dJ28_equals_18 rfl ?_
    exact z_zreturn hC (pc := 22) hQ dJ28_equals_22 hf
  · have hf := zif_f hf c1
    refine z_aload_n hC (pc := 5) dJ28_equals_5 rfl 0 rfl ?_
    refine z_ifnull hC (pc := 6) (tgt := 21) dJ28_equals_6 rfl (fun c2 => ?_) (fun c2 => ?_)
    · have hf := zif_t hf c2
      refine z_iconst (v := 0) hC (pc := 21) dJ28_equals_21 zki_0 ?_
      exact z_zreturn hC (pc := 22) hQ dJ28_equals_22 hf
    · have hf := zif_f hf c2
      refine z_aload_n hC (pc := 9) dJ28_equals_9 rfl 0 rfl ?_
      refine z_aload_n hC (pc := 10) dJ28_equals_10 rfl 1 rfl ?_
      obtain ⟨a5, fs3, rfl, ha4, hf⟩ := z_rcO hf
      refine z_cI (rest := []) hf (fun v6 s7 hcall => z_runO (owner := "java/lang/Object") (x := ⟨"java/lang/Object", "equals", "(Ljava/lang/Object;)Z"⟩) hC (pc := 11) zcJ12 1 ha4 (m_J12_equals X.g a5 l1 s0 s7 v6 hcall) (lw_app (zm6 q2417 q2373 q2372 q2395 q968 q116) (lw_meth q970)) q2399 (by decide +kernel) ⟨(Nat.le_of_ble_eq_true rfl), (Nat.le_of_ble_eq_true rfl)⟩ rfl (Nat.le_of_ble_eq_true rfl) dJ28_equals_11 rfl) (fun v6 s7 hf => ?_)
      refine z_if_eq hC (pc := 14) (tgt := 21) dJ28_equals_14 rfl (fun c8 => ?_) (fun c8 => ?_)
      · have hf := zif_t hf c8
        refine z_iconst (v := 0) hC (pc := 21) dJ28_equals_21 zki_0 ?_
        exact z_zreturn hC (pc := 22) hQ dJ28_equals_22 hf
      · have hf := zif_f hf c8
        refine z_iconst (v := 1) hC (pc := 17) dJ28_equals_17 zki_1 ?_
        refine z_goto hC (pc := 18) (tgt := 22) dJ28_equals_18 rfl ?_
        exact z_zreturn hC (pc := 22) hQ dJ28_equals_22 hf
/-! java/util/List.of(Ljava/lang/Object;Ljava/lang/Object;Ljava/lang/Object;Ljava/lang/Object;)Ljava/util/List; -/
def f_J29_of (G : Nat → Nat) (l0 : Option Nat) (l1 : Option Nat) (l2 : Option Nat) (l3 : Option Nat) (s0 : zS) : Option ((Option Nat) × zS) :=
zb (znewA G s0 5 4 (.inr (.inr fun _ => none))) fun a1 s2 =>
zo (zsR G s2 (some a1) 0 l0 zok) fun s3 =>
zo (zsR G s3 (some a1) 1 l1 zok) fun s4 =>
zo (zsR G s4 (some a1) 2 l2 zok) fun s5 =>
zo (zsR G s5 (some a1) 3 l3 zok) fun s6 =>
zb (f_J21_listFromTrustedArray G (some a1) s6) fun v7 s8 =>
some (v7, s8)
set_option maxHeartbeats 4000000 in
theorem m_J29_of (Γ : zG) (l0 : Option Nat) (l1 : Option Nat) (l2 : Option Nat) (l3 : Option Nat) (s0 s1 : zS) (r : (Option Nat)) (hf : f_J29_of Γ.1 l0 l1 l2 l3 s0 = some (r, s1)) : ZM Γ yJ29_of (ws_ yJ29_of cJ29_of 4 (some (.object "java/util/List"))) 6 118 [zr l0, zr l1, zr l2, zr l3] s0 (.inl (some (zr r)), s1) := by
  refine ZM.of (own := RJ29) (by decide) rfl (Nat.le_of_ble_eq_true rfl) ?_
  intro X hg hC hL hno hQ hin
  subst hg
  unfold f_J29_of at hf
  refine z_iconst (v := 4) hC (pc := 0) dJ29_of_0 zki_4 ?_
  refine z_anew hC (pc := 1) q2306 dJ29_of_1 hf (fun a1 s2 hf => ?_)
  refine z_dup hC (pc := 4) dJ29_of_4 rfl ?_
  refine z_iconst (v := 0) hC (pc := 5) dJ29_of_5 zki_0 ?_
  refine z_aload_n hC (pc := 6) dJ29_of_6 rfl 0 rfl ?_
  refine z_aast hC (pc := 7) zok_obs dJ29_of_7 hf (fun s3 hf => ?_)
  refine z_dup hC (pc := 8) dJ29_of_8 rfl ?_
  refine z_iconst (v := 1) hC (pc := 9) dJ29_of_9 zki_1 ?_
  refine z_aload_n hC (pc := 10) dJ29_of_10 rfl 1 rfl ?_
  refine z_aast hC (pc := 11) zok_obs dJ29_of_11 hf (fun s4 hf => ?_)
  refine z_dup hC (pc := 12) dJ29_of_12 rfl ?_
  refine z_iconst (v := 2) hC (pc := 13) dJ29_of_13 zki_2 ?_
  refine z_aload_n hC (pc := 14) dJ29_of_14 rfl 2 rfl ?_
  refine z_aast hC (pc := 15) zok_obs dJ29_of_15 hf (fun s5 hf => ?_)
  refine z_dup hC (pc := 16) dJ29_of_16 rfl ?_
  refine z_iconst (v := 3) hC (pc := 17) dJ29_of_17 zki_3 ?_
  refine z_aload_n hC (pc := 18) dJ29_of_18 rfl 3 rfl ?_
  refine z_aast hC (pc := 19) zok_obs dJ29_of_19 hf (fun s6 hf => ?_)
  refine z_cR (rest := []) hf (fun v7 s8 hcall => z_runS hC (pc := 20) 1 (m_J21_listFromTrustedArray X.g (some a1) s6 s8 v7 hcall) (lw_S q2307 q2308 q127 q2309) hd_J21_listFromTrustedArray ⟨(Nat.le_of_ble_eq_true rfl), (Nat.le_of_ble_eq_true rfl)⟩ rfl (Nat.le_of_ble_eq_true rfl) dJ29_of_20 rfl) (fun v7 s8 hf => ?_)
  exact z_areturn hC (pc := 23) (Or.inl ⟨_, rfl⟩) hQ dJ29_of_23 hf
/-! java/util/AbstractMap.<init>()V -/
def f_J2_init_J3 (G : Nat → Nat) (l0 : Nat) (s0 : zS) : Option (Unit × zS) :=
some ((), s0)
set_option maxHeartbeats 4000000 in
theorem m_J2_init_J3 (Γ : zG) (l0 : Nat) (s0 s1 : zS) (r : Unit) (hf : f_J2_init_J3 Γ.1 l0 s0 = some (r, s1)) : ZM Γ yJ2_init (ws_ yJ2_init cJ2_init 1 none) 1 12 [zr (some l0)] s0 (.inl none, s1) := by
  refine ZM.of (own := RJ2) (by decide) rfl (Nat.le_of_ble_eq_true rfl) ?_
  intro X hg hC hL hno hQ hin
  subst hg
  unfold f_J2_init_J3 at hf
  refine z_aload_n hC (pc := 0) dJ2_init_0 rfl 0 rfl ?_
  refine z_objInit hC (pc := 1) q239 q163 q164 (Nat.le_of_ble_eq_true rfl) (Nat.le_of_ble_eq_true rfl) dJ2_init_1 ?_
  exact z_return hC (pc := 4) hQ dJ2_init_4 hf
/-! java/util/ImmutableCollections$ListN.indexOf(Ljava/lang/Object;)I -/
def f_J33_indexOf_b26 (G : Nat → Nat) (k26 : Option Nat → Option Nat → Int32 → zS → Option (Int32 × zS)) (l1 : Option Nat) (l2 : Option Nat) (l3 : Int32) (s0 : zS) : Option (Int32 × zS) :=
zo (zlen s0 l2) fun v1 =>
if v1 ≤ l3 then (some ((-1), s0))
else (zo (zaR s0 l2 l3) fun v3 =>
zb (f_J28_equals G l1 v3 s0) fun v4 s5 =>
if v4 = 0 then (k26 l1 l2 (l3 + 1) s5)
else (some (l3, s5)))
set_option maxHeartbeats 4000000 in
theorem w_J33_indexOf_b26 {X : zX} (hC : ZC X RJ33 cJ33_indexOf (some .int) 4 65) (hL : X.nL = 4) (hno : ∀ x ∈ X.c.exceptionTable.toList, False) {r : Int32} {sF : zS} (hQ : ZQ X (.inl (some (zi r)), sF)) (k26 : Option Nat → Option Nat → Int32 → zS → Option (Int32 × zS)) (hk26 : ∀ (l1 : Option Nat) (l2 : Option Nat) (l3 : Int32) (s0 : zS), k26 l1 l2 l3 s0 = some (r, sF) → ZW X s0 26 [(1, zr l1), (2, zr l2), (3, zi l3)] []) (l1 : Option Nat) (l2 : Option Nat) (l3 : Int32) (s0 : zS) (hf : f_J33_indexOf_b26 X.g.1 k26 l1 l2 l3 s0 = some (r, sF)) : ZW X s0 26 [(1, zr l1), (2, zr l2), (3, zi l3)] [] := by
  unfold f_J33_indexOf_b26 at hf
  refine z_iload_n hC (pc := 26) dJ33_indexOf_26 rfl 2 rfl ?_
  refine z_aload_n hC (pc := 27) dJ33_indexOf_27 rfl 1 rfl ?_
  refine z_alen hC (pc := 28) dJ33_indexOf_28 hf (fun v1 hf => ?_)
  refine z_icmp_ge hC (pc := 29) (tgt := 50) dJ33_indexOf_29 rfl (fun c2 => ?_) (fun c2 => ?_)
  · have hf := zif_t hf c2
    refine z_iconst (v := (-1)) hC (pc := 50) dJ33_indexOf_50 zki_m1 ?_
    exact z_ireturn hC (pc := 51) hQ dJ33_indexOf_51 hf
  · have hf := zif_f hf c2
    refine z_aload_n hC (pc := 32) dJ33_indexOf_32 rfl 0 rfl ?_
    refine z_aload_n hC (pc := 33) dJ33_indexOf_33 rfl 1 rfl ?_
    refine z_iload_n hC (pc := 34) dJ33_indexOf_34 rfl 2 rfl ?_
    refine z_aald hC (pc := 35) dJ33_indexOf_35 hf (fun v3 hf => ?_)
    refine z_cI (rest := []) hf (fun v4 s5 hcall => z_runS hC (pc := 36) 2 (m_J28_equals X.g l1 v3 s0 s5 v4 hcall) (lw_S q2414 q2415 q137 q2416) hd_J28_equals ⟨(Nat.le_of_ble_eq_true rfl), (Nat.le_of_ble_eq_true rfl)⟩ rfl (Nat.le_of_ble_eq_true rfl) dJ33_indexOf_36 rfl) (fun v4 s5 hf => ?_)
    refine z_if_eq hC (pc := 39) (tgt := 44) dJ33_indexOf_39 rfl (fun c6 => ?_) (fun c6 => ?_)
    · have hf := zif_t hf c6
      refine z_iinc (v := 1) (lv' := [(3, zi (l3 + 1)), (1, zr l1), (2, zr l2)]) hC (pc := 44) hL dJ33_indexOf_44 2 rfl zki_1 (Nat.le_of_ble_eq_true rfl) rfl ?_
      refine z_goto hC (pc := 47) (tgt := 26) dJ33_indexOf_47 rfl ?_
      refine ZW.perm (lv' := [(1, zr l1), (2, zr l2), (3, zi (l3 + 1))]) [1, 2, 0] rfl ?_
      exact hk26 l1 l2 (l3 + 1) s5 hf
    · have hf := zif_f hf c6
      refine z_iload_n hC (pc := 42) dJ33_indexOf_42 rfl 2 rfl ?_
      exact z_ireturn hC (pc := 43) hQ dJ33_indexOf_43 hf
def f_J33_indexOf_l26 (G : Nat → Nat) : Nat → Option Nat → Option Nat → Int32 → zS → Option (Int32 × zS)
  | 0 => fun _ _ _ _ => none
  | n + 1 => f_J33_indexOf_b26 G (f_J33_indexOf_l26 G n)
theorem w_J33_indexOf_l26 {X : zX} (hC : ZC X RJ33 cJ33_indexOf (some .int) 4 65) (hL : X.nL = 4) (hno : ∀ x ∈ X.c.exceptionTable.toList, False) {r : Int32} {sF : zS} (hQ : ZQ X (.inl (some (zi r)), sF)) : ∀ (n : Nat) (l1 : Option Nat) (l2 : Option Nat) (l3 : Int32) (s0 : zS) (_ : f_J33_indexOf_l26 X.g.1 n l1 l2 l3 s0 = some (r, sF)), ZW X s0 26 [(1, zr l1), (2, zr l2), (3, zi l3)] [] := by
  intro n
  induction n with
  | zero => intro l1 l2 l3 s0 hf; exact absurd (show (none : Option (Int32 × zS)) = some (r, sF) from hf) (fun z => nomatch z)
  | succ n ih => intro l1 l2 l3 s0 hf; exact w_J33_indexOf_b26 hC hL hno hQ (f_J33_indexOf_l26 X.g.1 n) ih l1 l2 l3 s0 hf
def f_J33_indexOf_b19 (G : Nat → Nat) (l0 : Nat) (l1 : Option Nat) (s0 : zS) : Option (Int32 × zS) :=
zo (zgR s0 (some l0) 22 0) fun v1 =>
f_J33_indexOf_l26 G 2000 l1 v1 0 s0
set_option maxHeartbeats 4000000 in
theorem w_J33_indexOf_b19 {X : zX} (hC : ZC X RJ33 cJ33_indexOf (some .int) 4 65) (hL : X.nL = 4) (hno : ∀ x ∈ X.c.exceptionTable.toList, False) {r : Int32} {sF : zS} (hQ : ZQ X (.inl (some (zi r)), sF)) (l0 : Nat) (l1 : Option Nat) (s0 : zS) (hf : f_J33_indexOf_b19 X.g.1 l0 l1 s0 = some (r, sF)) : ZW X s0 19 [(0, zr (some l0)), (1, zr l1)] [] := by
  unfold f_J33_indexOf_b19 at hf
  refine z_aload_n hC (pc := 19) dJ33_indexOf_19 rfl 0 rfl ?_
  refine z_getR hC (pc := 20) in_J33 zcJ33 0 (Nat.le_of_ble_eq_true rfl) (zLk.o hC q2346) zsm dJ33_indexOf_20 hf (fun v1 hf => ?_)
  refine z_astore_n (lv' := [(2, zr v1), (0, zr (some l0)), (1, zr l1)]) hC (pc := 23) hL dJ33_indexOf_23 rfl (Nat.le_of_ble_eq_true rfl) rfl ?_
  refine z_iconst (v := 0) hC (pc := 24) dJ33_indexOf_24 zki_0 ?_
  refine z_istore_n (lv' := [(3, zi 0), (2, zr v1), (0, zr (some l0)), (1, zr l1)]) hC (pc := 25) hL dJ33_indexOf_25 rfl (Nat.le_of_ble_eq_true rfl) rfl ?_
  refine ZW.perm (lv' := [(1, zr l1), (2, zr v1), (3, zi 0)]) [3, 1, 0] rfl ?_
  exact w_J33_indexOf_l26 hC hL hno hQ 2000 l1 v1 0 s0 hf
def f_J33_indexOf (G : Nat → Nat) (l0 : Nat) (l1 : Option Nat) (s0 : zS) : Option (Int32 × zS) :=
zo (zgI s0 (some l0) 22 1) fun v1 =>
if v1 = 0 then (if l1 = none then (none)
else (f_J33_indexOf_b19 G l0 l1 s0))
else (f_J33_indexOf_b19 G l0 l1 s0)
set_option maxHeartbeats 4000000 in
theorem m_J33_indexOf (Γ : zG) (l0 : Nat) (l1 : Option Nat) (s0 s1 : zS) (r : Int32) (hf : f_J33_indexOf Γ.1 l0 l1 s0 = some (r, s1)) : ZM Γ yJ33_indexOf (ws_ yJ33_indexOf cJ33_indexOf 4 (some .int)) 4 65 [zr (some l0), zr l1] s0 (.inl (some (zi r)), s1) := by
  refine ZM.of (own := RJ33) (by decide) rfl (Nat.le_of_ble_eq_true rfl) ?_
  intro X hg hC hL hno hQ hin
  subst hg
  unfold f_J33_indexOf at hf
  refine z_aload_n hC (pc := 0) dJ33_indexOf_0 rfl 0 rfl ?_
  refine z_getI hC (pc := 1) in_J33 zcJ33 1 (Nat.le_of_ble_eq_true rfl) (zLk.o hC q2347) zsm dJ33_indexOf_1 hf (fun v1 hf => ?_)
  refine z_if_ne hC (pc := 4) (tgt := 19) dJ33_indexOf_4 rfl (fun c2 => ?_) (fun c2 => ?_)
  · have hf := zif_f hf c2
    exact w_J33_indexOf_b19 hC hL hno hQ l0 l1 s0 hf
  · have hf := zif_t hf c2
    refine z_aload_n hC (pc := 7) dJ33_indexOf_7 rfl 1 rfl ?_
    refine z_ifnonnull hC (pc := 8) (tgt := 19) dJ33_indexOf_8 rfl (fun c3 => ?_) (fun c3 => ?_)
    · have hf := zif_f hf c3
      exact w_J33_indexOf_b19 hC hL hno hQ l0 l1 s0 hf
    · have hf := zif_t hf c3
      cases hf
/-! java/util/ImmutableCollections$AbstractImmutableList.contains(Ljava/lang/Object;)Z -/
def f_J31_contains_J33 (G : Nat → Nat) (l0 : Nat) (l1 : Option Nat) (s0 : zS) : Option (Int32 × zS) :=
zo (zrc s0 (some l0) 22) fun _ =>
zb (f_J33_indexOf G l0 l1 s0) fun v3 s4 =>
if v3 < 0 then (zrn .boolean 0 s4)
else (zrn .boolean 1 s4)
set_option maxHeartbeats 4000000 in
theorem m_J31_contains_J33 (Γ : zG) (l0 : Nat) (l1 : Option Nat) (s0 s1 : zS) (r : Int32) (hf : f_J31_contains_J33 Γ.1 l0 l1 s0 = some (r, s1)) : ZM Γ yJ31_contains (ws_ yJ31_contains cJ31_contains 2 (some .boolean)) 5 88 [zr (some l0), zr l1] s0 (.inl (some (zi r)), s1) := by
  refine ZM.of (own := RJ31) (by decide) rfl (Nat.le_of_ble_eq_true rfl) ?_
  intro X hg hC hL hno hQ hin
  subst hg
  unfold f_J31_contains_J33 at hf
  refine z_aload_n hC (pc := 0) dJ31_contains_0 rfl 0 rfl ?_
  refine z_aload_n hC (pc := 1) dJ31_contains_1 rfl 1 rfl ?_
  obtain ⟨fs1, ha2, hf⟩ := z_rcN hf
  refine z_cI (rest := []) hf (fun v3 s4 hcall => z_runB (owner := "java/util/List") (x := ⟨"java/util/ImmutableCollections$AbstractImmutableList", "indexOf", "(Ljava/lang/Object;)I"⟩) hC (pc := 2) zcJ33 1 ha2 (m_J33_indexOf X.g l0 l1 s0 s4 v3 hcall) (List.mem_of_getElem? (i := 2) rfl) (List.mem_of_getElem? (i := 3) rfl) q2411 q2412 q143 q2413 q2406 (by decide +kernel) ⟨(Nat.le_of_ble_eq_true rfl), (Nat.le_of_ble_eq_true rfl)⟩ rfl (Nat.le_of_ble_eq_true rfl) dJ31_contains_2 rfl) (fun v3 s4 hf => ?_)
  refine z_if_lt hC (pc := 5) (tgt := 12) dJ31_contains_5 rfl (fun c5 => ?_) (fun c5 => ?_)
  · have hf := zif_t hf c5
    refine z_iconst (v := 0) hC (pc := 12) dJ31_contains_12 zki_0 ?_
    exact z_zreturn hC (pc := 13) hQ dJ31_contains_13 hf
  · have hf := zif_f hf c5
    refine z_iconst (v := 1) hC (pc := 8) dJ31_contains_8 zki_1 ?_
    refine z_goto hC (pc := 9) (tgt := 13) dJ31_contains_9 rfl ?_
    exact z_zreturn hC (pc := 13) hQ dJ31_contains_13 hf
/-! java/util/AbstractList.<init>()V -/
def f_J4_init_J38 (G : Nat → Nat) (l0 : Nat) (s0 : zS) : Option (Unit × zS) :=
zb (f_J0_init_J38 G l0 s0) fun _ s2 =>
zo (zput G s2 (some l0) 23 0 (.int 0)) fun s3 =>
some ((), s3)
set_option maxHeartbeats 4000000 in
theorem m_J4_init_J38 (Γ : zG) (l0 : Nat) (s0 s1 : zS) (r : Unit) (hf : f_J4_init_J38 Γ.1 l0 s0 = some (r, s1)) : ZM Γ yJ4_init (ws_ yJ4_init cJ4_init 1 none) 2 32 [zr (some l0)] s0 (.inl none, s1) := by
  refine ZM.of (own := RJ4) (by decide) rfl (Nat.le_of_ble_eq_true rfl) ?_
  intro X hg hC hL hno hQ hin
  subst hg
  unfold f_J4_init_J38 at hf
  refine z_aload_n hC (pc := 0) dJ4_init_0 rfl 0 rfl ?_
  refine z_cU (rest := []) hf (fun v1 s2 hcall => z_runI hC (pc := 1) 0 (m_J0_init_J38 X.g l0 s0 s2 v1 hcall) q172 rfl q96 q271 q171 hd_J0_init ⟨(Nat.le_of_ble_eq_true rfl), (Nat.le_of_ble_eq_true rfl)⟩ rfl (Nat.le_of_ble_eq_true rfl) dJ4_init_1 rfl) (fun _ s2 hf => ?_)
  refine z_aload_n hC (pc := 4) dJ4_init_4 rfl 0 rfl ?_
  refine z_iconst (v := 0) hC (pc := 5) dJ4_init_5 zki_0 ?_
  refine z_putV (v := zi 0) hC (pc := 6) in_J38 tyJ38 tyJ38_ok nmJ38 zcJ38 0 (Nat.le_of_ble_eq_true rfl) (zLk.o hC q278) zsm (Or.inl rfl) rfl rfl dJ4_init_6 hf (fun s3 hf => ?_)
  exact z_return hC (pc := 9) hQ dJ4_init_9 hf
/-! java/util/AbstractSequentialList.<init>()V -/
def f_J37_init_J38 (G : Nat → Nat) (l0 : Nat) (s0 : zS) : Option (Unit × zS) :=
zb (f_J4_init_J38 G l0 s0) fun _ s2 =>
some ((), s2)
set_option maxHeartbeats 4000000 in
theorem m_J37_init_J38 (Γ : zG) (l0 : Nat) (s0 s1 : zS) (r : Unit) (hf : f_J37_init_J38 Γ.1 l0 s0 = some (r, s1)) : ZM Γ yJ37_init (ws_ yJ37_init cJ37_init 1 none) 3 52 [zr (some l0)] s0 (.inl none, s1) := by
  refine ZM.of (own := RJ37) (by decide) rfl (Nat.le_of_ble_eq_true rfl) ?_
  intro X hg hC hL hno hQ hin
  subst hg
  unfold f_J37_init_J38 at hf
  refine z_aload_n hC (pc := 0) dJ37_init_0 rfl 0 rfl ?_
  refine z_cU (rest := []) hf (fun v1 s2 hcall => z_runI hC (pc := 1) 0 (m_J4_init_J38 X.g l0 s0 s2 v1 hcall) q270 rfl q103 q1001 q269 hd_J4_init ⟨(Nat.le_of_ble_eq_true rfl), (Nat.le_of_ble_eq_true rfl)⟩ rfl (Nat.le_of_ble_eq_true rfl) dJ37_init_1 rfl) (fun _ s2 hf => ?_)
  exact z_return hC (pc := 4) hQ dJ37_init_4 hf
/-! java/util/LinkedList.linkLast(Ljava/lang/Object;)V -/
def f_J38_linkLast_b38 (G : Nat → Nat) (l0 : Nat) (s0 : zS) : Option (Unit × zS) :=
zo (zgI s0 (some l0) 23 1) fun v1 =>
zo (zput G s0 (some l0) 23 1 (.int (v1 + 1))) fun s2 =>
zo (zgI s2 (some l0) 23 0) fun v3 =>
zo (zput G s2 (some l0) 23 0 (.int (v3 + 1))) fun s4 =>
some ((), s4)
set_option maxHeartbeats 4000000 in
theorem w_J38_linkLast_b38 {X : zX} (hC : ZC X RJ38 cJ38_linkLast none 2 35) (hL : X.nL = 4) (hno : ∀ x ∈ X.c.exceptionTable.toList, False) {r : Unit} {sF : zS} (hQ : ZQ X (.inl none, sF)) (l0 : Nat) (s0 : zS) (hf : f_J38_linkLast_b38 X.g.1 l0 s0 = some (r, sF)) : ZW X s0 38 [(0, zr (some l0))] [] := by
  unfold f_J38_linkLast_b38 at hf
  refine z_aload_n hC (pc := 38) dJ38_linkLast_38 rfl 0 rfl ?_
  refine z_dup hC (pc := 39) dJ38_linkLast_39 rfl ?_
  refine z_getI hC (pc := 40) in_J38 zcJ38 1 (Nat.le_of_ble_eq_true rfl) (zLk.o hC q1002) zsm dJ38_linkLast_40 hf (fun v1 hf => ?_)
  refine z_iconst (v := 1) hC (pc := 43) dJ38_linkLast_43 zki_1 ?_
  refine z_iadd hC (pc := 44) dJ38_linkLast_44 ?_
  refine z_putV (v := zi (v1 + 1)) hC (pc := 45) in_J38 tyJ38 tyJ38_ok nmJ38 zcJ38 1 (Nat.le_of_ble_eq_true rfl) (zLk.o hC q1002) zsm (Or.inl rfl) rfl rfl dJ38_linkLast_45 hf (fun s2 hf => ?_)
  refine z_aload_n hC (pc := 48) dJ38_linkLast_48 rfl 0 rfl ?_
  refine z_dup hC (pc := 49) dJ38_linkLast_49 rfl ?_
  refine z_getI hC (pc := 50) in_J38 zcJ38 0 (Nat.le_of_ble_eq_true rfl) (zLk.o hC q284) (fun x hx => u_same (hC.ts _ q280) x hx) dJ38_linkLast_50 hf (fun v3 hf => ?_)
  refine z_iconst (v := 1) hC (pc := 53) dJ38_linkLast_53 zki_1 ?_
  refine z_iadd hC (pc := 54) dJ38_linkLast_54 ?_
  refine z_putV (v := zi (v3 + 1)) hC (pc := 55) in_J38 tyJ38 tyJ38_ok nmJ38 zcJ38 0 (Nat.le_of_ble_eq_true rfl) (zLk.o hC q284) (fun x hx => u_same (hC.ts _ q280) x hx) (Or.inl rfl) rfl rfl dJ38_linkLast_55 hf (fun s4 hf => ?_)
  exact z_return hC (pc := 58) hQ dJ38_linkLast_58 hf
def f_J38_linkLast (G : Nat → Nat) (l0 : Nat) (l1 : Option Nat) (s0 : zS) : Option (Unit × zS) :=
zo (zgR s0 (some l0) 23 3) fun v1 =>
zb (znewO G s0 20 3 [.null, .null, .null]) fun a2 s3 =>
zb (f_J24_init G a2 v1 l1 none s3) fun _ s5 =>
zo (zput G s5 (some l0) 23 3 (va_rf (some a2))) fun s6 =>
if v1 = none then (zo (zput G s6 (some l0) 23 2 (va_rf (some a2))) fun s9 =>
f_J38_linkLast_b38 G l0 s9)
else (zo (zput G s6 v1 20 1 (va_rf (some a2))) fun s8 =>
f_J38_linkLast_b38 G l0 s8)
set_option maxHeartbeats 4000000 in
theorem m_J38_linkLast (Γ : zG) (l0 : Nat) (l1 : Option Nat) (s0 s1 : zS) (r : Unit) (hf : f_J38_linkLast Γ.1 l0 l1 s0 = some (r, s1)) : ZM Γ yJ38_linkLast (ws_ yJ38_linkLast cJ38_linkLast 4 none) 2 35 [zr (some l0), zr l1] s0 (.inl none, s1) := by
  refine ZM.of (own := RJ38) (by decide) rfl (Nat.le_of_ble_eq_true rfl) ?_
  intro X hg hC hL hno hQ hin
  subst hg
  unfold f_J38_linkLast at hf
  refine z_aload_n hC (pc := 0) dJ38_linkLast_0 rfl 0 rfl ?_
  refine z_getR hC (pc := 1) in_J38 zcJ38 3 (Nat.le_of_ble_eq_true rfl) (zLk.o hC q1005) zsm dJ38_linkLast_1 hf (fun v1 hf => ?_)
  refine z_astore_n (lv' := [(2, zr v1), (0, zr (some l0)), (1, zr l1)]) hC (pc := 4) hL dJ38_linkLast_4 rfl (Nat.le_of_ble_eq_true rfl) rfl ?_
  refine z_new hC (pc := 5) in_J24 tyJ24 tyJ24_ok zcJ24 q1589 q1590 q131 rfl zdJ24 dJ38_linkLast_5 hf (fun a2 s3 hf => ?_)
  refine z_dup hC (pc := 8) dJ38_linkLast_8 rfl ?_
  refine z_aload_n hC (pc := 9) dJ38_linkLast_9 rfl 0 rfl ?_
  refine z_aload_n hC (pc := 10) dJ38_linkLast_10 rfl 2 rfl ?_
  refine z_null hC (pc := 11) dJ38_linkLast_11 ?_
  refine z_cU (rest := [zr (some a2)]) hf (fun v4 s5 hcall => z_runI hC (pc := 12) 3 (m_J24_init X.g a2 v1 l1 none s3 s5 v4 hcall) q1593 rfl q131 q1591 q1592 hd_J24_init ⟨(Nat.le_of_ble_eq_true rfl), (Nat.le_of_ble_eq_true rfl)⟩ rfl (Nat.le_of_ble_eq_true rfl) dJ38_linkLast_12 rfl) (fun _ s5 hf => ?_)
  refine z_astore_n (lv' := [(3, zr (some a2)), (2, zr v1), (0, zr (some l0)), (1, zr l1)]) hC (pc := 15) hL dJ38_linkLast_15 rfl (Nat.le_of_ble_eq_true rfl) rfl ?_
  refine z_aload_n hC (pc := 16) dJ38_linkLast_16 rfl 2 rfl ?_
  refine z_aload_n hC (pc := 17) dJ38_linkLast_17 rfl 0 rfl ?_
  refine z_putV (v := zr (some a2)) hC (pc := 18) in_J38 tyJ38 tyJ38_ok nmJ38 zcJ38 3 (Nat.le_of_ble_eq_true rfl) (zLk.o hC q1005) zsm (Or.inl rfl) rfl (zfr (some a2)) dJ38_linkLast_18 hf (fun s6 hf => ?_)
  refine z_aload_n hC (pc := 21) dJ38_linkLast_21 rfl 1 rfl ?_
  refine z_ifnonnull hC (pc := 22) (tgt := 33) dJ38_linkLast_22 rfl (fun c7 => ?_) (fun c7 => ?_)
  · have hf := zif_f hf c7
    refine z_aload_n hC (pc := 33) dJ38_linkLast_33 rfl 1 rfl ?_
    refine z_aload_n hC (pc := 34) dJ38_linkLast_34 rfl 0 rfl ?_
    refine z_putV (v := zr (some a2)) hC (pc := 35) in_J24 tyJ24 tyJ24_ok nmJ24 zcJ24 1 (Nat.le_of_ble_eq_true rfl) (zLk.o hC q1600) zsm (Or.inl rfl) rfl (zfr (some a2)) dJ38_linkLast_35 hf (fun s8 hf => ?_)
    refine ZW.perm (lv' := [(0, zr (some l0))]) [2] rfl ?_
    exact w_J38_linkLast_b38 hC hL hno hQ l0 s8 hf
  · have hf := zif_t hf c7
    refine z_aload_n hC (pc := 25) dJ38_linkLast_25 rfl 2 rfl ?_
    refine z_aload_n hC (pc := 26) dJ38_linkLast_26 rfl 0 rfl ?_
    refine z_putV (v := zr (some a2)) hC (pc := 27) in_J38 tyJ38 tyJ38_ok nmJ38 zcJ38 2 (Nat.le_of_ble_eq_true rfl) (zLk.o hC q1004) zsm (Or.inl rfl) rfl (zfr (some a2)) dJ38_linkLast_27 hf (fun s9 hf => ?_)
    refine z_goto hC (pc := 30) (tgt := 38) dJ38_linkLast_30 rfl ?_
    refine ZW.perm (lv' := [(0, zr (some l0))]) [2] rfl ?_
    exact w_J38_linkLast_b38 hC hL hno hQ l0 s9 hf
/-! java/util/LinkedList.addLast(Ljava/lang/Object;)V -/
def f_J38_addLast (G : Nat → Nat) (l0 : Nat) (l1 : Option Nat) (s0 : zS) : Option (Unit × zS) :=
zo (zrc s0 (some l0) 23) fun _ =>
zb (f_J38_linkLast G l0 l1 s0) fun _ s4 =>
some ((), s4)
set_option maxHeartbeats 4000000 in
theorem m_J38_addLast (Γ : zG) (l0 : Nat) (l1 : Option Nat) (s0 s1 : zS) (r : Unit) (hf : f_J38_addLast Γ.1 l0 l1 s0 = some (r, s1)) : ZM Γ yJ38_addLast (ws_ yJ38_addLast cJ38_addLast 2 none) 3 58 [zr (some l0), zr l1] s0 (.inl none, s1) := by
  refine ZM.of (own := RJ38) (by decide) rfl (Nat.le_of_ble_eq_true rfl) ?_
  intro X hg hC hL hno hQ hin
  subst hg
  unfold f_J38_addLast at hf
  refine z_aload_n hC (pc := 0) dJ38_addLast_0 rfl 0 rfl ?_
  refine z_aload_n hC (pc := 1) dJ38_addLast_1 rfl 1 rfl ?_
  obtain ⟨fs1, ha2, hf⟩ := z_rcN hf
  refine z_cU (rest := []) hf (fun v3 s4 hcall => z_runV hC (pc := 2) zcJ38 1 ha2 (m_J38_linkLast X.g l0 l1 s0 s4 v3 hcall) (lw_V q1585 q1586 q1587 q149 q1588) hdV_J38_linkLast ⟨(Nat.le_of_ble_eq_true rfl), (Nat.le_of_ble_eq_true rfl)⟩ rfl (Nat.le_of_ble_eq_true rfl) dJ38_addLast_2 rfl) (fun _ s4 hf => ?_)
  exact z_return hC (pc := 5) hQ dJ38_addLast_5 hf
/-! java/util/LinkedList.isElementIndex(I)Z -/
def f_J38_isElementIndex (G : Nat → Nat) (l0 : Nat) (l1 : Int32) (s0 : zS) : Option (Int32 × zS) :=
if l1 < 0 then (zrn .boolean 0 s0)
else (zo (zgI s0 (some l0) 23 1) fun v2 =>
if v2 ≤ l1 then (zrn .boolean 0 s0)
else (zrn .boolean 1 s0))
set_option maxHeartbeats 4000000 in
theorem m_J38_isElementIndex (Γ : zG) (l0 : Nat) (l1 : Int32) (s0 s1 : zS) (r : Int32) (hf : f_J38_isElementIndex Γ.1 l0 l1 s0 = some (r, s1)) : ZM Γ yJ38_isElementIndex (ws_ yJ38_isElementIndex cJ38_isElementIndex 2 (some .boolean)) 1 0 [zr (some l0), zi l1] s0 (.inl (some (zi r)), s1) := by
  refine ZM.of (own := RJ38) (by decide) rfl (Nat.le_of_ble_eq_true rfl) ?_
  intro X hg hC hL hno hQ hin
  subst hg
  unfold f_J38_isElementIndex at hf
  refine z_iload_n hC (pc := 0) dJ38_isElementIndex_0 rfl 1 rfl ?_
  refine z_if_lt hC (pc := 1) (tgt := 16) dJ38_isElementIndex_1 rfl (fun c1 => ?_) (fun c1 => ?_)
  · have hf := zif_t hf c1
    refine z_iconst (v := 0) hC (pc := 16) dJ38_isElementIndex_16 zki_0 ?_
    exact z_zreturn hC (pc := 17) hQ dJ38_isElementIndex_17 hf
  · have hf := zif_f hf c1
    refine z_iload_n hC (pc := 4) dJ38_isElementIndex_4 rfl 1 rfl ?_
    refine z_aload_n hC (pc := 5) dJ38_isElementIndex_5 rfl 0 rfl ?_
    refine z_getI hC (pc := 6) in_J38 zcJ38 1 (Nat.le_of_ble_eq_true rfl) (zLk.o hC q1002) zsm dJ38_isElementIndex_6 hf (fun v2 hf => ?_)
    refine z_icmp_ge hC (pc := 9) (tgt := 16) dJ38_isElementIndex_9 rfl (fun c3 => ?_) (fun c3 => ?_)
    · have hf := zif_t hf c3
      refine z_iconst (v := 0) hC (pc := 16) dJ38_isElementIndex_16 zki_0 ?_
      exact z_zreturn hC (pc := 17) hQ dJ38_isElementIndex_17 hf
    · have hf := zif_f hf c3
      refine z_iconst (v := 1) hC (pc := 12) dJ38_isElementIndex_12 zki_1 ?_
      refine z_goto hC (pc := 13) (tgt := 17) dJ38_isElementIndex_13 rfl ?_
      exact z_zreturn hC (pc := 17) hQ dJ38_isElementIndex_17 hf
/-! java/util/LinkedList.checkElementIndex(I)V -/
def f_J38_checkElementIndex (G : Nat → Nat) (l0 : Nat) (l1 : Int32) (s0 : zS) : Option (Unit × zS) :=
zo (zrc s0 (some l0) 23) fun _ =>
zb (f_J38_isElementIndex G l0 l1 s0) fun v3 s4 =>
if v3 = 0 then (none)
else (some ((), s4))
set_option maxHeartbeats 4000000 in
theorem m_J38_checkElementIndex (Γ : zG) (l0 : Nat) (l1 : Int32) (s0 s1 : zS) (r : Unit) (hf : f_J38_checkElementIndex Γ.1 l0 l1 s0 = some (r, s1)) : ZM Γ yJ38_checkElementIndex (ws_ yJ38_checkElementIndex cJ38_checkElementIndex 2 none) 2 21 [zr (some l0), zi l1] s0 (.inl none, s1) := by
  refine ZM.of (own := RJ38) (by decide) rfl (Nat.le_of_ble_eq_true rfl) ?_
  intro X hg hC hL hno hQ hin
  subst hg
  unfold f_J38_checkElementIndex at hf
  refine z_aload_n hC (pc := 0) dJ38_checkElementIndex_0 rfl 0 rfl ?_
  refine z_iload_n hC (pc := 1) dJ38_checkElementIndex_1 rfl 1 rfl ?_
  obtain ⟨fs1, ha2, hf⟩ := z_rcN hf
  refine z_cI (rest := []) hf (fun v3 s4 hcall => z_runV hC (pc := 2) zcJ38 1 ha2 (m_J38_isElementIndex X.g l0 l1 s0 s4 v3 hcall) (lw_V q854 q856 qs3 q149 q857) hdV_J38_isElementIndex ⟨(Nat.le_of_ble_eq_true rfl), (Nat.le_of_ble_eq_true rfl)⟩ rfl (Nat.le_of_ble_eq_true rfl) dJ38_checkElementIndex_2 rfl) (fun v3 s4 hf => ?_)
  refine z_if_ne hC (pc := 5) (tgt := 21) dJ38_checkElementIndex_5 rfl (fun c5 => ?_) (fun c5 => ?_)
  · have hf := zif_f hf c5
    exact z_return hC (pc := 21) hQ dJ38_checkElementIndex_21 hf
  · have hf := zif_t hf c5
    cases hf
/-! java/util/LinkedList.node(I)Ljava/util/LinkedList$Node; -/
def f_J38_node_b17 (G : Nat → Nat) (k17 : Int32 → Option Nat → Int32 → zS → Option ((Option Nat) × zS)) (l1 : Int32) (l2 : Option Nat) (l3 : Int32) (s0 : zS) : Option ((Option Nat) × zS) :=
if l1 ≤ l3 then (some (l2, s0))
else (zo (zgR s0 l2 20 1) fun v2 =>
k17 l1 v2 (l3 + 1) s0)
set_option maxHeartbeats 4000000 in
theorem w_J38_node_b17 {X : zX} (hC : ZC X RJ38 cJ38_node (some (.object "java/util/LinkedList$Node")) 1 0) (hL : X.nL = 4) (hno : ∀ x ∈ X.c.exceptionTable.toList, False) {r : (Option Nat)} {sF : zS} (hQ : ZQ X (.inl (some (zr r)), sF)) (k17 : Int32 → Option Nat → Int32 → zS → Option ((Option Nat) × zS)) (hk17 : ∀ (l1 : Int32) (l2 : Option Nat) (l3 : Int32) (s0 : zS), k17 l1 l2 l3 s0 = some (r, sF) → ZW X s0 17 [(1, zi l1), (2, zr l2), (3, zi l3)] []) (l1 : Int32) (l2 : Option Nat) (l3 : Int32) (s0 : zS) (hf : f_J38_node_b17 X.g.1 k17 l1 l2 l3 s0 = some (r, sF)) : ZW X s0 17 [(1, zi l1), (2, zr l2), (3, zi l3)] [] := by
  unfold f_J38_node_b17 at hf
  refine z_iload_n hC (pc := 17) dJ38_node_17 rfl 2 rfl ?_
  refine z_iload_n hC (pc := 18) dJ38_node_18 rfl 0 rfl ?_
  refine z_icmp_ge hC (pc := 19) (tgt := 33) dJ38_node_19 rfl (fun c1 => ?_) (fun c1 => ?_)
  · have hf := zif_t hf c1
    refine z_aload_n hC (pc := 33) dJ38_node_33 rfl 1 rfl ?_
    exact z_areturn hC (pc := 34) (Or.inl ⟨_, rfl⟩) hQ dJ38_node_34 hf
  · have hf := zif_f hf c1
    refine z_aload_n hC (pc := 22) dJ38_node_22 rfl 1 rfl ?_
    refine z_getR hC (pc := 23) in_J24 zcJ24 1 (Nat.le_of_ble_eq_true rfl) (zLk.o hC q1600) zsm dJ38_node_23 hf (fun v2 hf => ?_)
    refine z_astore_n (lv' := [(2, zr v2), (1, zi l1), (3, zi l3)]) hC (pc := 26) hL dJ38_node_26 rfl (Nat.le_of_ble_eq_true rfl) rfl ?_
    refine z_iinc (v := 1) (lv' := [(3, zi (l3 + 1)), (2, zr v2), (1, zi l1)]) hC (pc := 27) hL dJ38_node_27 2 rfl zki_1 (Nat.le_of_ble_eq_true rfl) rfl ?_
    refine z_goto hC (pc := 30) (tgt := 17) dJ38_node_30 rfl ?_
    refine ZW.perm (lv' := [(1, zi l1), (2, zr v2), (3, zi (l3 + 1))]) [2, 1, 0] rfl ?_
    exact hk17 l1 v2 (l3 + 1) s0 hf
def f_J38_node_l17 (G : Nat → Nat) : Nat → Int32 → Option Nat → Int32 → zS → Option ((Option Nat) × zS)
  | 0 => fun _ _ _ _ => none
  | n + 1 => f_J38_node_b17 G (f_J38_node_l17 G n)
theorem w_J38_node_l17 {X : zX} (hC : ZC X RJ38 cJ38_node (some (.object "java/util/LinkedList$Node")) 1 0) (hL : X.nL = 4) (hno : ∀ x ∈ X.c.exceptionTable.toList, False) {r : (Option Nat)} {sF : zS} (hQ : ZQ X (.inl (some (zr r)), sF)) : ∀ (n : Nat) (l1 : Int32) (l2 : Option Nat) (l3 : Int32) (s0 : zS) (_ : f_J38_node_l17 X.g.1 n l1 l2 l3 s0 = some (r, sF)), ZW X s0 17 [(1, zi l1), (2, zr l2), (3, zi l3)] [] := by
  intro n
  induction n with
  | zero => intro l1 l2 l3 s0 hf; exact absurd (show (none : Option ((Option Nat) × zS)) = some (r, sF) from hf) (fun z => nomatch z)
  | succ n ih => intro l1 l2 l3 s0 hf; exact w_J38_node_b17 hC hL hno hQ (f_J38_node_l17 X.g.1 n) ih l1 l2 l3 s0 hf
def f_J38_node_b47 (G : Nat → Nat) (k47 : Int32 → Option Nat → Int32 → zS → Option ((Option Nat) × zS)) (l1 : Int32) (l2 : Option Nat) (l3 : Int32) (s0 : zS) : Option ((Option Nat) × zS) :=
if l3 ≤ l1 then (some (l2, s0))
else (zo (zgR s0 l2 20 2) fun v2 =>
k47 l1 v2 (l3 + (-1)) s0)
set_option maxHeartbeats 4000000 in
theorem w_J38_node_b47 {X : zX} (hC : ZC X RJ38 cJ38_node (some (.object "java/util/LinkedList$Node")) 1 0) (hL : X.nL = 4) (hno : ∀ x ∈ X.c.exceptionTable.toList, False) {r : (Option Nat)} {sF : zS} (hQ : ZQ X (.inl (some (zr r)), sF)) (k47 : Int32 → Option Nat → Int32 → zS → Option ((Option Nat) × zS)) (hk47 : ∀ (l1 : Int32) (l2 : Option Nat) (l3 : Int32) (s0 : zS), k47 l1 l2 l3 s0 = some (r, sF) → ZW X s0 47 [(1, zi l1), (2, zr l2), (3, zi l3)] []) (l1 : Int32) (l2 : Option Nat) (l3 : Int32) (s0 : zS) (hf : f_J38_node_b47 X.g.1 k47 l1 l2 l3 s0 = some (r, sF)) : ZW X s0 47 [(1, zi l1), (2, zr l2), (3, zi l3)] [] := by
  unfold f_J38_node_b47 at hf
  refine z_iload_n hC (pc := 47) dJ38_node_47 rfl 2 rfl ?_
  refine z_iload_n hC (pc := 48) dJ38_node_48 rfl 0 rfl ?_
  refine z_icmp_le hC (pc := 49) (tgt := 63) dJ38_node_49 rfl (fun c1 => ?_) (fun c1 => ?_)
  · have hf := zif_t hf c1
    refine z_aload_n hC (pc := 63) dJ38_node_63 rfl 1 rfl ?_
    exact z_areturn hC (pc := 64) (Or.inl ⟨_, rfl⟩) hQ dJ38_node_64 hf
  · have hf := zif_f hf c1
    refine z_aload_n hC (pc := 52) dJ38_node_52 rfl 1 rfl ?_
    refine z_getR hC (pc := 53) in_J24 zcJ24 2 (Nat.le_of_ble_eq_true rfl) (zLk.o hC q1602) zsm dJ38_node_53 hf (fun v2 hf => ?_)
    refine z_astore_n (lv' := [(2, zr v2), (1, zi l1), (3, zi l3)]) hC (pc := 56) hL dJ38_node_56 rfl (Nat.le_of_ble_eq_true rfl) rfl ?_
    refine z_iinc (v := (-1)) (lv' := [(3, zi (l3 + (-1))), (2, zr v2), (1, zi l1)]) hC (pc := 57) hL dJ38_node_57 2 rfl zki_m1 (Nat.le_of_ble_eq_true rfl) rfl ?_
    refine z_goto hC (pc := 60) (tgt := 47) dJ38_node_60 rfl ?_
    refine ZW.perm (lv' := [(1, zi l1), (2, zr v2), (3, zi (l3 + (-1)))]) [2, 1, 0] rfl ?_
    exact hk47 l1 v2 (l3 + (-1)) s0 hf
def f_J38_node_l47 (G : Nat → Nat) : Nat → Int32 → Option Nat → Int32 → zS → Option ((Option Nat) × zS)
  | 0 => fun _ _ _ _ => none
  | n + 1 => f_J38_node_b47 G (f_J38_node_l47 G n)
theorem w_J38_node_l47 {X : zX} (hC : ZC X RJ38 cJ38_node (some (.object "java/util/LinkedList$Node")) 1 0) (hL : X.nL = 4) (hno : ∀ x ∈ X.c.exceptionTable.toList, False) {r : (Option Nat)} {sF : zS} (hQ : ZQ X (.inl (some (zr r)), sF)) : ∀ (n : Nat) (l1 : Int32) (l2 : Option Nat) (l3 : Int32) (s0 : zS) (_ : f_J38_node_l47 X.g.1 n l1 l2 l3 s0 = some (r, sF)), ZW X s0 47 [(1, zi l1), (2, zr l2), (3, zi l3)] [] := by
  intro n
  induction n with
  | zero => intro l1 l2 l3 s0 hf; exact absurd (show (none : Option ((Option Nat) × zS)) = some (r, sF) from hf) (fun z => nomatch z)
  | succ n ih => intro l1 l2 l3 s0 hf; exact w_J38_node_b47 hC hL hno hQ (f_J38_node_l47 X.g.1 n) ih l1 l2 l3 s0 hf
def f_J38_node (G : Nat → Nat) (l0 : Nat) (l1 : Int32) (s0 : zS) : Option ((Option Nat) × zS) :=
zo (zgI s0 (some l0) 23 1) fun v1 =>
if (v1 >>> ((1 : Int32) &&& 31)) ≤ l1 then (zo (zgR s0 (some l0) 23 3) fun v3 =>
zo (zgI s0 (some l0) 23 1) fun v4 =>
f_J38_node_l47 G 2000 l1 v3 (v4 - 1) s0)
else (zo (zgR s0 (some l0) 23 2) fun v5 =>
f_J38_node_l17 G 2000 l1 v5 0 s0)
set_option maxHeartbeats 4000000 in
theorem m_J38_node (Γ : zG) (l0 : Nat) (l1 : Int32) (s0 s1 : zS) (r : (Option Nat)) (hf : f_J38_node Γ.1 l0 l1 s0 = some (r, s1)) : ZM Γ yJ38_node (ws_ yJ38_node cJ38_node 4 (some (.object "java/util/LinkedList$Node"))) 1 0 [zr (some l0), zi l1] s0 (.inl (some (zr r)), s1) := by
  refine ZM.of (own := RJ38) (by decide) rfl (Nat.le_of_ble_eq_true rfl) ?_
  intro X hg hC hL hno hQ hin
  subst hg
  unfold f_J38_node at hf
  refine z_iload_n hC (pc := 0) dJ38_node_0 rfl 1 rfl ?_
  refine z_aload_n hC (pc := 1) dJ38_node_1 rfl 0 rfl ?_
  refine z_getI hC (pc := 2) in_J38 zcJ38 1 (Nat.le_of_ble_eq_true rfl) (zLk.o hC q1002) zsm dJ38_node_2 hf (fun v1 hf => ?_)
  refine z_iconst (v := 1) hC (pc := 5) dJ38_node_5 zki_1 ?_
  refine z_ishr hC (pc := 6) dJ38_node_6 ?_
  refine z_icmp_ge hC (pc := 7) (tgt := 35) dJ38_node_7 rfl (fun c2 => ?_) (fun c2 => ?_)
  · have hf := zif_t hf c2
    refine z_aload_n hC (pc := 35) dJ38_node_35 rfl 0 rfl ?_
    refine z_getR hC (pc := 36) in_J38 zcJ38 3 (Nat.le_of_ble_eq_true rfl) (zLk.o hC q1005) zsm dJ38_node_36 hf (fun v3 hf => ?_)
    refine z_astore_n (lv' := [(2, zr v3), (0, zr (some l0)), (1, zi l1)]) hC (pc := 39) hL dJ38_node_39 rfl (Nat.le_of_ble_eq_true rfl) rfl ?_
    refine z_aload_n hC (pc := 40) dJ38_node_40 rfl 1 rfl ?_
    refine z_getI hC (pc := 41) in_J38 zcJ38 1 (Nat.le_of_ble_eq_true rfl) (zLk.o hC q1002) zsm dJ38_node_41 hf (fun v4 hf => ?_)
    refine z_iconst (v := 1) hC (pc := 44) dJ38_node_44 zki_1 ?_
    refine z_isub hC (pc := 45) dJ38_node_45 ?_
    refine z_istore_n (lv' := [(3, zi (v4 - 1)), (2, zr v3), (0, zr (some l0)), (1, zi l1)]) hC (pc := 46) hL dJ38_node_46 rfl (Nat.le_of_ble_eq_true rfl) rfl ?_
    refine ZW.perm (lv' := [(1, zi l1), (2, zr v3), (3, zi (v4 - 1))]) [3, 1, 0] rfl ?_
    exact w_J38_node_l47 hC hL hno hQ 2000 l1 v3 (v4 - 1) s0 hf
  · have hf := zif_f hf c2
    refine z_aload_n hC (pc := 10) dJ38_node_10 rfl 0 rfl ?_
    refine z_getR hC (pc := 11) in_J38 zcJ38 2 (Nat.le_of_ble_eq_true rfl) (zLk.o hC q1004) zsm dJ38_node_11 hf (fun v5 hf => ?_)
    refine z_astore_n (lv' := [(2, zr v5), (0, zr (some l0)), (1, zi l1)]) hC (pc := 14) hL dJ38_node_14 rfl (Nat.le_of_ble_eq_true rfl) rfl ?_
    refine z_iconst (v := 0) hC (pc := 15) dJ38_node_15 zki_0 ?_
    refine z_istore_n (lv' := [(3, zi 0), (2, zr v5), (0, zr (some l0)), (1, zi l1)]) hC (pc := 16) hL dJ38_node_16 rfl (Nat.le_of_ble_eq_true rfl) rfl ?_
    refine ZW.perm (lv' := [(1, zi l1), (2, zr v5), (3, zi 0)]) [3, 1, 0] rfl ?_
    exact w_J38_node_l17 hC hL hno hQ 2000 l1 v5 0 s0 hf
/-! java/util/LinkedList.get(I)Ljava/lang/Object; -/
def f_J38_get (G : Nat → Nat) (l0 : Nat) (l1 : Int32) (s0 : zS) : Option ((Option Nat) × zS) :=
zo (zrc s0 (some l0) 23) fun _ =>
zb (f_J38_checkElementIndex G l0 l1 s0) fun _ s4 =>
zo (zrc s4 (some l0) 23) fun _ =>
zb (f_J38_node G l0 l1 s4) fun v7 s8 =>
zo (zgR s8 v7 20 0) fun v9 =>
some (v9, s8)
set_option maxHeartbeats 4000000 in
theorem m_J38_get (Γ : zG) (l0 : Nat) (l1 : Int32) (s0 s1 : zS) (r : (Option Nat)) (hf : f_J38_get Γ.1 l0 l1 s0 = some (r, s1)) : ZM Γ yJ38_get (ws_ yJ38_get cJ38_get 2 (some (.object "java/lang/Object"))) 3 42 [zr (some l0), zi l1] s0 (.inl (some (zr r)), s1) := by
  refine ZM.of (own := RJ38) (by decide) rfl (Nat.le_of_ble_eq_true rfl) ?_
  intro X hg hC hL hno hQ hin
  subst hg
  unfold f_J38_get at hf
  refine z_aload_n hC (pc := 0) dJ38_get_0 rfl 0 rfl ?_
  refine z_iload_n hC (pc := 1) dJ38_get_1 rfl 1 rfl ?_
  obtain ⟨fs1, ha2, hf⟩ := z_rcN hf
  refine z_cU (rest := []) hf (fun v3 s4 hcall => z_runV hC (pc := 2) zcJ38 1 ha2 (m_J38_checkElementIndex X.g l0 l1 s0 s4 v3 hcall) (lw_V q849 q851 qs2 q149 q853) hdV_J38_checkElementIndex ⟨(Nat.le_of_ble_eq_true rfl), (Nat.le_of_ble_eq_true rfl)⟩ rfl (Nat.le_of_ble_eq_true rfl) dJ38_get_2 rfl) (fun _ s4 hf => ?_)
  refine z_aload_n hC (pc := 5) dJ38_get_5 rfl 0 rfl ?_
  refine z_iload_n hC (pc := 6) dJ38_get_6 rfl 1 rfl ?_
  obtain ⟨fs5, ha6, hf⟩ := z_rcN hf
  refine z_cR (rest := []) hf (fun v7 s8 hcall => z_runV hC (pc := 7) zcJ38 1 ha6 (m_J38_node X.g l0 l1 s4 s8 v7 hcall) (lw_V q871 q872 q873 q149 q874) hdV_J38_node ⟨(Nat.le_of_ble_eq_true rfl), (Nat.le_of_ble_eq_true rfl)⟩ rfl (Nat.le_of_ble_eq_true rfl) dJ38_get_7 rfl) (fun v7 s8 hf => ?_)
  refine z_getR hC (pc := 10) in_J24 zcJ24 0 (Nat.le_of_ble_eq_true rfl) (zLk.o hC q1597) zsm dJ38_get_10 hf (fun v9 hf => ?_)
  exact z_areturn hC (pc := 13) (Or.inl ⟨_, rfl⟩) hQ dJ38_get_13 hf
/-! java/util/LinkedList.<init>()V -/
def f_J38_init (G : Nat → Nat) (l0 : Nat) (s0 : zS) : Option (Unit × zS) :=
zb (f_J37_init_J38 G l0 s0) fun _ s2 =>
zo (zput G s2 (some l0) 23 1 (.int 0)) fun s3 =>
some ((), s3)
set_option maxHeartbeats 4000000 in
theorem m_J38_init (Γ : zG) (l0 : Nat) (s0 s1 : zS) (r : Unit) (hf : f_J38_init Γ.1 l0 s0 = some (r, s1)) : ZM Γ yJ38_init (ws_ yJ38_init cJ38_init 1 none) 4 72 [zr (some l0)] s0 (.inl none, s1) := by
  refine ZM.of (own := RJ38) (by decide) rfl (Nat.le_of_ble_eq_true rfl) ?_
  intro X hg hC hL hno hQ hin
  subst hg
  unfold f_J38_init at hf
  refine z_aload_n hC (pc := 0) dJ38_init_0 rfl 0 rfl ?_
  refine z_cU (rest := []) hf (fun v1 s2 hcall => z_runI hC (pc := 1) 0 (m_J37_init_J38 X.g l0 s0 s2 v1 hcall) q1000 rfl q148 q998 q999 hd_J37_init ⟨(Nat.le_of_ble_eq_true rfl), (Nat.le_of_ble_eq_true rfl)⟩ rfl (Nat.le_of_ble_eq_true rfl) dJ38_init_1 rfl) (fun _ s2 hf => ?_)
  refine z_aload_n hC (pc := 4) dJ38_init_4 rfl 0 rfl ?_
  refine z_iconst (v := 0) hC (pc := 5) dJ38_init_5 zki_0 ?_
  refine z_putV (v := zi 0) hC (pc := 6) in_J38 tyJ38 tyJ38_ok nmJ38 zcJ38 1 (Nat.le_of_ble_eq_true rfl) (zLk.o hC q1002) zsm (Or.inl rfl) rfl rfl dJ38_init_6 hf (fun s3 hf => ?_)
  exact z_return hC (pc := 9) hQ dJ38_init_9 hf
/-! java/util/LinkedList.size()I -/
def f_J38_size (G : Nat → Nat) (l0 : Nat) (s0 : zS) : Option (Int32 × zS) :=
zo (zgI s0 (some l0) 23 1) fun v1 =>
some (v1, s0)
set_option maxHeartbeats 4000000 in
theorem m_J38_size (Γ : zG) (l0 : Nat) (s0 s1 : zS) (r : Int32) (hf : f_J38_size Γ.1 l0 s0 = some (r, s1)) : ZM Γ yJ38_size (ws_ yJ38_size cJ38_size 1 (some .int)) 1 0 [zr (some l0)] s0 (.inl (some (zi r)), s1) := by
  refine ZM.of (own := RJ38) (by decide) rfl (Nat.le_of_ble_eq_true rfl) ?_
  intro X hg hC hL hno hQ hin
  subst hg
  unfold f_J38_size at hf
  refine z_aload_n hC (pc := 0) dJ38_size_0 rfl 0 rfl ?_
  refine z_getI hC (pc := 1) in_J38 zcJ38 1 (Nat.le_of_ble_eq_true rfl) (zLk.o hC q1002) zsm dJ38_size_1 hf (fun v1 hf => ?_)
  exact z_ireturn hC (pc := 4) hQ dJ38_size_4 hf
/-! java/util/ArrayList$Itr.checkForComodification()V -/
def f_J39_checkForComodification (G : Nat → Nat) (l0 : Nat) (s0 : zS) : Option (Unit × zS) :=
zo (zgR s0 (some l0) 24 3) fun v1 =>
zo (zgI s0 v1 15 0) fun v2 =>
zo (zgI s0 (some l0) 24 2) fun v3 =>
if v2 = v3 then (some ((), s0))
else (none)
set_option maxHeartbeats 4000000 in
theorem m_J39_checkForComodification (Γ : zG) (l0 : Nat) (s0 s1 : zS) (r : Unit) (hf : f_J39_checkForComodification Γ.1 l0 s0 = some (r, s1)) : ZM Γ yJ39_checkForComodification (ws_ yJ39_checkForComodification cJ39_checkForComodification 1 none) 1 0 [zr (some l0)] s0 (.inl none, s1) := by
  refine ZM.of (own := RJ39) (by decide) rfl (Nat.le_of_ble_eq_true rfl) ?_
  intro X hg hC hL hno hQ hin
  subst hg
  unfold f_J39_checkForComodification at hf
  refine z_aload_n hC (pc := 0) dJ39_checkForComodification_0 rfl 0 rfl ?_
  refine z_getR hC (pc := 1) in_J39 zcJ39 3 (Nat.le_of_ble_eq_true rfl) (zLk.o hC q1716) zsm dJ39_checkForComodification_1 hf (fun v1 hf => ?_)
  refine z_getI hC (pc := 4) in_J5 zcJ5 0 (Nat.le_of_ble_eq_true rfl) (zLk.o hC q281) (fun x hx => u_same (hC.ts _ q282) x hx) dJ39_checkForComodification_4 hf (fun v2 hf => ?_)
  refine z_aload_n hC (pc := 7) dJ39_checkForComodification_7 rfl 0 rfl ?_
  refine z_getI hC (pc := 8) in_J39 zcJ39 2 (Nat.le_of_ble_eq_true rfl) (zLk.o hC q1715) zsm dJ39_checkForComodification_8 hf (fun v3 hf => ?_)
  refine z_icmp_eq hC (pc := 11) (tgt := 22) dJ39_checkForComodification_11 rfl (fun c4 => ?_) (fun c4 => ?_)
  · have hf := zif_t hf c4
    exact z_return hC (pc := 22) hQ dJ39_checkForComodification_22 hf
  · have hf := zif_f hf c4
    cases hf
/-! java/util/ArrayList$Itr.hasNext()Z -/
def f_J39_hasNext (G : Nat → Nat) (l0 : Nat) (s0 : zS) : Option (Int32 × zS) :=
zo (zgI s0 (some l0) 24 0) fun v1 =>
zo (zgR s0 (some l0) 24 3) fun v2 =>
zo (zgI s0 v2 15 2) fun v3 =>
if v1 = v3 then (zrn .boolean 0 s0)
else (zrn .boolean 1 s0)
set_option maxHeartbeats 4000000 in
theorem m_J39_hasNext (Γ : zG) (l0 : Nat) (s0 s1 : zS) (r : Int32) (hf : f_J39_hasNext Γ.1 l0 s0 = some (r, s1)) : ZM Γ yJ39_hasNext (ws_ yJ39_hasNext cJ39_hasNext 1 (some .boolean)) 1 0 [zr (some l0)] s0 (.inl (some (zi r)), s1) := by
  refine ZM.of (own := RJ39) (by decide) rfl (Nat.le_of_ble_eq_true rfl) ?_
  intro X hg hC hL hno hQ hin
  subst hg
  unfold f_J39_hasNext at hf
  refine z_aload_n hC (pc := 0) dJ39_hasNext_0 rfl 0 rfl ?_
  refine z_getI hC (pc := 1) in_J39 zcJ39 0 (Nat.le_of_ble_eq_true rfl) (zLk.o hC q1713) zsm dJ39_hasNext_1 hf (fun v1 hf => ?_)
  refine z_aload_n hC (pc := 4) dJ39_hasNext_4 rfl 0 rfl ?_
  refine z_getR hC (pc := 5) in_J39 zcJ39 3 (Nat.le_of_ble_eq_true rfl) (zLk.o hC q1716) zsm dJ39_hasNext_5 hf (fun v2 hf => ?_)
  refine z_getI hC (pc := 8) in_J5 zcJ5 2 (Nat.le_of_ble_eq_true rfl) (zLk.n hC q276) zsm dJ39_hasNext_8 hf (fun v3 hf => ?_)
  refine z_icmp_eq hC (pc := 11) (tgt := 18) dJ39_hasNext_11 rfl (fun c4 => ?_) (fun c4 => ?_)
  · have hf := zif_t hf c4
    refine z_iconst (v := 0) hC (pc := 18) dJ39_hasNext_18 zki_0 ?_
    exact z_zreturn hC (pc := 19) hQ dJ39_hasNext_19 hf
  · have hf := zif_f hf c4
    refine z_iconst (v := 1) hC (pc := 14) dJ39_hasNext_14 zki_1 ?_
    refine z_goto hC (pc := 15) (tgt := 19) dJ39_hasNext_15 rfl ?_
    exact z_zreturn hC (pc := 19) hQ dJ39_hasNext_19 hf
/-! java/util/ArrayList$Itr.<init>(Ljava/util/ArrayList;)V -/
def f_J39_init (G : Nat → Nat) (l0 : Nat) (l1 : Option Nat) (s0 : zS) : Option (Unit × zS) :=
zo (zput G s0 (some l0) 24 3 (va_rf l1)) fun s1 =>
zo (zput G s1 (some l0) 24 1 (.int (-1))) fun s2 =>
zo (zgR s2 (some l0) 24 3) fun v3 =>
zo (zgI s2 v3 15 0) fun v4 =>
zo (zput G s2 (some l0) 24 2 (.int v4)) fun s5 =>
some ((), s5)
set_option maxHeartbeats 4000000 in
theorem m_J39_init (Γ : zG) (l0 : Nat) (l1 : Option Nat) (s0 s1 : zS) (r : Unit) (hf : f_J39_init Γ.1 l0 l1 s0 = some (r, s1)) : ZM Γ yJ39_init (ws_ yJ39_init cJ39_init 2 none) 1 12 [zr (some l0), zr l1] s0 (.inl none, s1) := by
  refine ZM.of (own := RJ39) (by decide) rfl (Nat.le_of_ble_eq_true rfl) ?_
  intro X hg hC hL hno hQ hin
  subst hg
  unfold f_J39_init at hf
  refine z_aload_n hC (pc := 0) dJ39_init_0 rfl 0 rfl ?_
  refine z_aload_n hC (pc := 1) dJ39_init_1 rfl 1 rfl ?_
  refine z_putV (v := zr l1) hC (pc := 2) in_J39 tyJ39 tyJ39_ok nmJ39 zcJ39 3 (Nat.le_of_ble_eq_true rfl) (zLk.o hC q1716) zsm (Or.inr ⟨rfl, hin, rfl, rfl⟩) rfl (zfr l1) dJ39_init_2 hf (fun s1 hf => ?_)
  refine z_aload_n hC (pc := 5) dJ39_init_5 rfl 0 rfl ?_
  refine z_objInit hC (pc := 6) q1710 q163 q164 (Nat.le_of_ble_eq_true rfl) (Nat.le_of_ble_eq_true rfl) dJ39_init_6 ?_
  refine z_aload_n hC (pc := 9) dJ39_init_9 rfl 0 rfl ?_
  refine z_iconst (v := (-1)) hC (pc := 10) dJ39_init_10 zki_m1 ?_
  refine z_putV (v := zi (-1)) hC (pc := 11) in_J39 tyJ39 tyJ39_ok nmJ39 zcJ39 1 (Nat.le_of_ble_eq_true rfl) (zLk.o hC q1714) zsm (Or.inl rfl) rfl rfl dJ39_init_11 hf (fun s2 hf => ?_)
  refine z_aload_n hC (pc := 14) dJ39_init_14 rfl 0 rfl ?_
  refine z_aload_n hC (pc := 15) dJ39_init_15 rfl 0 rfl ?_
  refine z_getR hC (pc := 16) in_J39 zcJ39 3 (Nat.le_of_ble_eq_true rfl) (zLk.o hC q1716) zsm dJ39_init_16 hf (fun v3 hf => ?_)
  refine z_getI hC (pc := 19) in_J5 zcJ5 0 (Nat.le_of_ble_eq_true rfl) (zLk.o hC q281) (fun x hx => u_same (hC.ts _ q282) x hx) dJ39_init_19 hf (fun v4 hf => ?_)
  refine z_putV (v := zi v4) hC (pc := 22) in_J39 tyJ39 tyJ39_ok nmJ39 zcJ39 2 (Nat.le_of_ble_eq_true rfl) (zLk.o hC q1715) zsm (Or.inl rfl) rfl rfl dJ39_init_22 hf (fun s5 hf => ?_)
  exact z_return hC (pc := 25) hQ dJ39_init_25 hf
/-! java/util/ArrayList$Itr.next()Ljava/lang/Object; -/
def f_J39_next (G : Nat → Nat) (l0 : Nat) (s0 : zS) : Option ((Option Nat) × zS) :=
zo (zrc s0 (some l0) 24) fun _ =>
zb (f_J39_checkForComodification G l0 s0) fun _ s4 =>
zo (zgI s4 (some l0) 24 0) fun v5 =>
zo (zgR s4 (some l0) 24 3) fun v6 =>
zo (zgI s4 v6 15 2) fun v7 =>
if v5 < v7 then (zo (zgR s4 (some l0) 24 3) fun v9 =>
zo (zgR s4 v9 15 1) fun v10 =>
zo (zlen s4 v10) fun v11 =>
if v5 < v11 then (zo (zput G s4 (some l0) 24 0 (.int (v5 + 1))) fun s13 =>
zo (zput G s13 (some l0) 24 1 (.int v5)) fun s14 =>
zo (zaR s14 v10 v5) fun v15 =>
some (v15, s14))
else (none))
else (none)
set_option maxHeartbeats 4000000 in
theorem m_J39_next (Γ : zG) (l0 : Nat) (s0 s1 : zS) (r : (Option Nat)) (hf : f_J39_next Γ.1 l0 s0 = some (r, s1)) : ZM Γ yJ39_next (ws_ yJ39_next cJ39_next 3 (some (.object "java/lang/Object"))) 2 20 [zr (some l0)] s0 (.inl (some (zr r)), s1) := by
  refine ZM.of (own := RJ39) (by decide) rfl (Nat.le_of_ble_eq_true rfl) ?_
  intro X hg hC hL hno hQ hin
  subst hg
  unfold f_J39_next at hf
  refine z_aload_n hC (pc := 0) dJ39_next_0 rfl 0 rfl ?_
  obtain ⟨fs1, ha2, hf⟩ := z_rcN hf
  refine z_cU (rest := []) hf (fun v3 s4 hcall => z_runV hC (pc := 1) zcJ39 0 ha2 (m_J39_checkForComodification X.g l0 s0 s4 v3 hcall) (lw_V q1549 q1550 q1551 q151 q1554) hdV_J39_checkForComodification ⟨(Nat.le_of_ble_eq_true rfl), (Nat.le_of_ble_eq_true rfl)⟩ rfl (Nat.le_of_ble_eq_true rfl) dJ39_next_1 rfl) (fun _ s4 hf => ?_)
  refine z_aload_n hC (pc := 4) dJ39_next_4 rfl 0 rfl ?_
  refine z_getI hC (pc := 5) in_J39 zcJ39 0 (Nat.le_of_ble_eq_true rfl) (zLk.o hC q1713) zsm dJ39_next_5 hf (fun v5 hf => ?_)
  refine z_istore_n (lv' := [(1, zi v5), (0, zr (some l0))]) hC (pc := 8) hL dJ39_next_8 rfl (Nat.le_of_ble_eq_true rfl) rfl ?_
  refine z_iload_n hC (pc := 9) dJ39_next_9 rfl 0 rfl ?_
  refine z_aload_n hC (pc := 10) dJ39_next_10 rfl 1 rfl ?_
  refine z_getR hC (pc := 11) in_J39 zcJ39 3 (Nat.le_of_ble_eq_true rfl) (zLk.o hC q1716) zsm dJ39_next_11 hf (fun v6 hf => ?_)
  refine z_getI hC (pc := 14) in_J5 zcJ5 2 (Nat.le_of_ble_eq_true rfl) (zLk.n hC q276) zsm dJ39_next_14 hf (fun v7 hf => ?_)
  refine z_icmp_lt hC (pc := 17) (tgt := 28) dJ39_next_17 rfl (fun c8 => ?_) (fun c8 => ?_)
  · have hf := zif_t hf c8
    refine z_aload_n hC (pc := 28) dJ39_next_28 rfl 1 rfl ?_
    refine z_getR hC (pc := 29) in_J39 zcJ39 3 (Nat.le_of_ble_eq_true rfl) (zLk.o hC q1716) zsm dJ39_next_29 hf (fun v9 hf => ?_)
    refine z_getR hC (pc := 32) in_J5 zcJ5 1 (Nat.le_of_ble_eq_true rfl) (zLk.o hC q275) zsm dJ39_next_32 hf (fun v10 hf => ?_)
    refine z_astore_n (lv' := [(2, zr v10), (1, zi v5), (0, zr (some l0))]) hC (pc := 35) hL dJ39_next_35 rfl (Nat.le_of_ble_eq_true rfl) rfl ?_
    refine z_iload_n hC (pc := 36) dJ39_next_36 rfl 1 rfl ?_
    refine z_aload_n hC (pc := 37) dJ39_next_37 rfl 0 rfl ?_
    refine z_alen hC (pc := 38) dJ39_next_38 hf (fun v11 hf => ?_)
    refine z_icmp_lt hC (pc := 39) (tgt := 50) dJ39_next_39 rfl (fun c12 => ?_) (fun c12 => ?_)
    · have hf := zif_t hf c12
      refine z_aload_n hC (pc := 50) dJ39_next_50 rfl 2 rfl ?_
      refine z_iload_n hC (pc := 51) dJ39_next_51 rfl 1 rfl ?_
      refine z_iconst (v := 1) hC (pc := 52) dJ39_next_52 zki_1 ?_
      refine z_iadd hC (pc := 53) dJ39_next_53 ?_
      refine z_putV (v := zi (v5 + 1)) hC (pc := 54) in_J39 tyJ39 tyJ39_ok nmJ39 zcJ39 0 (Nat.le_of_ble_eq_true rfl) (zLk.o hC q1713) zsm (Or.inl rfl) rfl rfl dJ39_next_54 hf (fun s13 hf => ?_)
      refine z_aload_n hC (pc := 57) dJ39_next_57 rfl 0 rfl ?_
      refine z_aload_n hC (pc := 58) dJ39_next_58 rfl 2 rfl ?_
      refine z_iload_n hC (pc := 59) dJ39_next_59 rfl 1 rfl ?_
      refine z_dup_x1 hC (pc := 60) dJ39_next_60 rfl rfl ?_
      refine z_putV (v := zi v5) hC (pc := 61) in_J39 tyJ39 tyJ39_ok nmJ39 zcJ39 1 (Nat.le_of_ble_eq_true rfl) (zLk.o hC q1714) zsm (Or.inl rfl) rfl rfl dJ39_next_61 hf (fun s14 hf => ?_)
      refine z_aald hC (pc := 64) dJ39_next_64 hf (fun v15 hf => ?_)
      exact z_areturn hC (pc := 65) (Or.inl ⟨_, rfl⟩) hQ dJ39_next_65 hf
    · have hf := zif_f hf c12
      cases hf
  · have hf := zif_f hf c8
    cases hf
/-! java/util/TreeMap.colorOf(Ljava/util/TreeMap$Entry;)Z -/
def f_J3_colorOf (G : Nat → Nat) (l0 : Option Nat) (s0 : zS) : Option (Int32 × zS) :=
if l0 = none then (zrn .boolean 1 s0)
else (zo (zgI s0 l0 21 5) fun v2 =>
zrn .boolean v2 s0)
set_option maxHeartbeats 4000000 in
theorem m_J3_colorOf (Γ : zG) (l0 : Option Nat) (s0 s1 : zS) (r : Int32) (hf : f_J3_colorOf Γ.1 l0 s0 = some (r, s1)) : ZM Γ yJ3_colorOf (ws_ yJ3_colorOf cJ3_colorOf 1 (some .boolean)) 1 0 [zr l0] s0 (.inl (some (zi r)), s1) := by
  refine ZM.of (own := RJ3) (by decide) rfl (Nat.le_of_ble_eq_true rfl) ?_
  intro X hg hC hL hno hQ hin
  subst hg
  unfold f_J3_colorOf at hf
  refine z_aload_n hC (pc := 0) dJ3_colorOf_0 rfl 0 rfl ?_
  refine z_ifnonnull hC (pc := 1) (tgt := 8) dJ3_colorOf_1 rfl (fun c1 => ?_) (fun c1 => ?_)
  · have hf := zif_f hf c1
    refine z_aload_n hC (pc := 8) dJ3_colorOf_8 rfl 0 rfl ?_
    refine z_getI hC (pc := 9) in_J27 zcJ27 5 (Nat.le_of_ble_eq_true rfl) (zLk.o hC q2232) zsm dJ3_colorOf_9 hf (fun v2 hf => ?_)
    exact z_zreturn hC (pc := 12) hQ dJ3_colorOf_12 hf
  · have hf := zif_t hf c1
    refine z_iconst (v := 1) hC (pc := 4) dJ3_colorOf_4 zki_1 ?_
    refine z_goto hC (pc := 5) (tgt := 12) dJ3_colorOf_5 rfl ?_
    exact z_zreturn hC (pc := 12) hQ dJ3_colorOf_12 hf
/-! java/util/TreeMap.leftOf(Ljava/util/TreeMap$Entry;)Ljava/util/TreeMap$Entry; -/
def f_J3_leftOf (G : Nat → Nat) (l0 : Option Nat) (s0 : zS) : Option ((Option Nat) × zS) :=
if l0 = none then (some (none, s0))
else (zo (zgR s0 l0 21 2) fun v2 =>
some (v2, s0))
set_option maxHeartbeats 4000000 in
theorem m_J3_leftOf (Γ : zG) (l0 : Option Nat) (s0 s1 : zS) (r : (Option Nat)) (hf : f_J3_leftOf Γ.1 l0 s0 = some (r, s1)) : ZM Γ yJ3_leftOf (ws_ yJ3_leftOf cJ3_leftOf 1 (some (.object "java/util/TreeMap$Entry"))) 1 0 [zr l0] s0 (.inl (some (zr r)), s1) := by
  refine ZM.of (own := RJ3) (by decide) rfl (Nat.le_of_ble_eq_true rfl) ?_
  intro X hg hC hL hno hQ hin
  subst hg
  unfold f_J3_leftOf at hf
  refine z_aload_n hC (pc := 0) dJ3_leftOf_0 rfl 0 rfl ?_
  refine z_ifnonnull hC (pc := 1) (tgt := 8) dJ3_leftOf_1 rfl (fun c1 => ?_) (fun c1 => ?_)
  · have hf := zif_f hf c1
    refine z_aload_n hC (pc := 8) dJ3_leftOf_8 rfl 0 rfl ?_
    refine z_getR hC (pc := 9) in_J27 zcJ27 2 (Nat.le_of_ble_eq_true rfl) (zLk.o hC q2227) zsm dJ3_leftOf_9 hf (fun v2 hf => ?_)
    exact z_areturn hC (pc := 12) (Or.inl ⟨_, rfl⟩) hQ dJ3_leftOf_12 hf
  · have hf := zif_t hf c1
    refine z_null hC (pc := 4) dJ3_leftOf_4 ?_
    refine z_goto hC (pc := 5) (tgt := 12) dJ3_leftOf_5 rfl ?_
    exact z_areturn hC (pc := 12) (Or.inl ⟨_, rfl⟩) hQ dJ3_leftOf_12 hf
/-! java/util/TreeMap.parentOf(Ljava/util/TreeMap$Entry;)Ljava/util/TreeMap$Entry; -/
def f_J3_parentOf (G : Nat → Nat) (l0 : Option Nat) (s0 : zS) : Option ((Option Nat) × zS) :=
if l0 = none then (some (none, s0))
else (zo (zgR s0 l0 21 4) fun v2 =>
some (v2, s0))
set_option maxHeartbeats 4000000 in
theorem m_J3_parentOf (Γ : zG) (l0 : Option Nat) (s0 s1 : zS) (r : (Option Nat)) (hf : f_J3_parentOf Γ.1 l0 s0 = some (r, s1)) : ZM Γ yJ3_parentOf (ws_ yJ3_parentOf cJ3_parentOf 1 (some (.object "java/util/TreeMap$Entry"))) 1 0 [zr l0] s0 (.inl (some (zr r)), s1) := by
  refine ZM.of (own := RJ3) (by decide) rfl (Nat.le_of_ble_eq_true rfl) ?_
  intro X hg hC hL hno hQ hin
  subst hg
  unfold f_J3_parentOf at hf
  refine z_aload_n hC (pc := 0) dJ3_parentOf_0 rfl 0 rfl ?_
  refine z_ifnonnull hC (pc := 1) (tgt := 8) dJ3_parentOf_1 rfl (fun c1 => ?_) (fun c1 => ?_)
  · have hf := zif_f hf c1
    refine z_aload_n hC (pc := 8) dJ3_parentOf_8 rfl 0 rfl ?_
    refine z_getR hC (pc := 9) in_J27 zcJ27 4 (Nat.le_of_ble_eq_true rfl) (zLk.o hC q2230) zsm dJ3_parentOf_9 hf (fun v2 hf => ?_)
    exact z_areturn hC (pc := 12) (Or.inl ⟨_, rfl⟩) hQ dJ3_parentOf_12 hf
  · have hf := zif_t hf c1
    refine z_null hC (pc := 4) dJ3_parentOf_4 ?_
    refine z_goto hC (pc := 5) (tgt := 12) dJ3_parentOf_5 rfl ?_
    exact z_areturn hC (pc := 12) (Or.inl ⟨_, rfl⟩) hQ dJ3_parentOf_12 hf
/-! java/util/TreeMap.rightOf(Ljava/util/TreeMap$Entry;)Ljava/util/TreeMap$Entry; -/
def f_J3_rightOf (G : Nat → Nat) (l0 : Option Nat) (s0 : zS) : Option ((Option Nat) × zS) :=
if l0 = none then (some (none, s0))
else (zo (zgR s0 l0 21 3) fun v2 =>
some (v2, s0))
set_option maxHeartbeats 4000000 in
theorem m_J3_rightOf (Γ : zG) (l0 : Option Nat) (s0 s1 : zS) (r : (Option Nat)) (hf : f_J3_rightOf Γ.1 l0 s0 = some (r, s1)) : ZM Γ yJ3_rightOf (ws_ yJ3_rightOf cJ3_rightOf 1 (some (.object "java/util/TreeMap$Entry"))) 1 0 [zr l0] s0 (.inl (some (zr r)), s1) := by
  refine ZM.of (own := RJ3) (by decide) rfl (Nat.le_of_ble_eq_true rfl) ?_
  intro X hg hC hL hno hQ hin
  subst hg
  unfold f_J3_rightOf at hf
  refine z_aload_n hC (pc := 0) dJ3_rightOf_0 rfl 0 rfl ?_
  refine z_ifnonnull hC (pc := 1) (tgt := 8) dJ3_rightOf_1 rfl (fun c1 => ?_) (fun c1 => ?_)
  · have hf := zif_f hf c1
    refine z_aload_n hC (pc := 8) dJ3_rightOf_8 rfl 0 rfl ?_
    refine z_getR hC (pc := 9) in_J27 zcJ27 3 (Nat.le_of_ble_eq_true rfl) (zLk.o hC q2228) zsm dJ3_rightOf_9 hf (fun v2 hf => ?_)
    exact z_areturn hC (pc := 12) (Or.inl ⟨_, rfl⟩) hQ dJ3_rightOf_12 hf
  · have hf := zif_t hf c1
    refine z_null hC (pc := 4) dJ3_rightOf_4 ?_
    refine z_goto hC (pc := 5) (tgt := 12) dJ3_rightOf_5 rfl ?_
    exact z_areturn hC (pc := 12) (Or.inl ⟨_, rfl⟩) hQ dJ3_rightOf_12 hf
/-! java/util/TreeMap.rotateLeft(Ljava/util/TreeMap$Entry;)V -/
def f_J3_rotateLeft_b85 (G : Nat → Nat) (l1 : Option Nat) (l2 : Option Nat) (s0 : zS) : Option (Unit × zS) :=
zo (zput G s0 l2 21 2 (va_rf l1)) fun s1 =>
zo (zput G s1 l1 21 4 (va_rf l2)) fun s2 =>
some ((), s2)
set_option maxHeartbeats 4000000 in
theorem w_J3_rotateLeft_b85 {X : zX} (hC : ZC X RJ3 cJ3_rotateLeft none 1 0) (hL : X.nL = 3) (hno : ∀ x ∈ X.c.exceptionTable.toList, False) {r : Unit} {sF : zS} (hQ : ZQ X (.inl none, sF)) (l1 : Option Nat) (l2 : Option Nat) (s0 : zS) (hf : f_J3_rotateLeft_b85 X.g.1 l1 l2 s0 = some (r, sF)) : ZW X s0 85 [(1, zr l1), (2, zr l2)] [] := by
  unfold f_J3_rotateLeft_b85 at hf
  refine z_aload_n hC (pc := 85) dJ3_rotateLeft_85 rfl 1 rfl ?_
  refine z_aload_n hC (pc := 86) dJ3_rotateLeft_86 rfl 0 rfl ?_
  refine z_putV (v := zr l1) hC (pc := 87) in_J27 tyJ27 tyJ27_ok nmJ27 zcJ27 2 (Nat.le_of_ble_eq_true rfl) (zLk.o hC q2227) zsm (Or.inl rfl) rfl (zfr l1) dJ3_rotateLeft_87 hf (fun s1 hf => ?_)
  refine z_aload_n hC (pc := 90) dJ3_rotateLeft_90 rfl 0 rfl ?_
  refine z_aload_n hC (pc := 91) dJ3_rotateLeft_91 rfl 1 rfl ?_
  refine z_putV (v := zr l2) hC (pc := 92) in_J27 tyJ27 tyJ27_ok nmJ27 zcJ27 4 (Nat.le_of_ble_eq_true rfl) (zLk.o hC q2230) zsm (Or.inl rfl) rfl (zfr l2) dJ3_rotateLeft_92 hf (fun s2 hf => ?_)
  exact z_return hC (pc := 95) hQ dJ3_rotateLeft_95 hf
def f_J3_rotateLeft_b32 (G : Nat → Nat) (l0 : Nat) (l1 : Option Nat) (l2 : Option Nat) (s0 : zS) : Option (Unit × zS) :=
zo (zgR s0 l1 21 4) fun v1 =>
zo (zput G s0 l2 21 4 (va_rf v1)) fun s2 =>
zo (zgR s2 l1 21 4) fun v3 =>
if v3 = none then (zo (zput G s2 (some l0) 14 3 (va_rf l2)) fun s12 =>
f_J3_rotateLeft_b85 G l1 l2 s12)
else (zo (zgR s2 l1 21 4) fun v5 =>
zo (zgR s2 v5 21 2) fun v6 =>
if v6 = l1 then (zo (zgR s2 l1 21 4) fun v10 =>
zo (zput G s2 v10 21 2 (va_rf l2)) fun s11 =>
f_J3_rotateLeft_b85 G l1 l2 s11)
else (zo (zgR s2 l1 21 4) fun v8 =>
zo (zput G s2 v8 21 3 (va_rf l2)) fun s9 =>
f_J3_rotateLeft_b85 G l1 l2 s9))
set_option maxHeartbeats 4000000 in
theorem w_J3_rotateLeft_b32 {X : zX} (hC : ZC X RJ3 cJ3_rotateLeft none 1 0) (hL : X.nL = 3) (hno : ∀ x ∈ X.c.exceptionTable.toList, False) {r : Unit} {sF : zS} (hQ : ZQ X (.inl none, sF)) (l0 : Nat) (l1 : Option Nat) (l2 : Option Nat) (s0 : zS) (hf : f_J3_rotateLeft_b32 X.g.1 l0 l1 l2 s0 = some (r, sF)) : ZW X s0 32 [(0, zr (some l0)), (1, zr l1), (2, zr l2)] [] := by
  unfold f_J3_rotateLeft_b32 at hf
  refine z_aload_n hC (pc := 32) dJ3_rotateLeft_32 rfl 2 rfl ?_
  refine z_aload_n hC (pc := 33) dJ3_rotateLeft_33 rfl 1 rfl ?_
  refine z_getR hC (pc := 34) in_J27 zcJ27 4 (Nat.le_of_ble_eq_true rfl) (zLk.o hC q2230) zsm dJ3_rotateLeft_34 hf (fun v1 hf => ?_)
  refine z_putV (v := zr v1) hC (pc := 37) in_J27 tyJ27 tyJ27_ok nmJ27 zcJ27 4 (Nat.le_of_ble_eq_true rfl) (zLk.o hC q2230) zsm (Or.inl rfl) rfl (zfr v1) dJ3_rotateLeft_37 hf (fun s2 hf => ?_)
  refine z_aload_n hC (pc := 40) dJ3_rotateLeft_40 rfl 1 rfl ?_
  refine z_getR hC (pc := 41) in_J27 zcJ27 4 (Nat.le_of_ble_eq_true rfl) (zLk.o hC q2230) zsm dJ3_rotateLeft_41 hf (fun v3 hf => ?_)
  refine z_ifnonnull hC (pc := 44) (tgt := 55) dJ3_rotateLeft_44 rfl (fun c4 => ?_) (fun c4 => ?_)
  · have hf := zif_f hf c4
    refine z_aload_n hC (pc := 55) dJ3_rotateLeft_55 rfl 1 rfl ?_
    refine z_getR hC (pc := 56) in_J27 zcJ27 4 (Nat.le_of_ble_eq_true rfl) (zLk.o hC q2230) zsm dJ3_rotateLeft_56 hf (fun v5 hf => ?_)
    refine z_getR hC (pc := 59) in_J27 zcJ27 2 (Nat.le_of_ble_eq_true rfl) (zLk.o hC q2227) zsm dJ3_rotateLeft_59 hf (fun v6 hf => ?_)
    refine z_aload_n hC (pc := 62) dJ3_rotateLeft_62 rfl 1 rfl ?_
    refine z_acmp_ne hC (pc := 63) (tgt := 77) dJ3_rotateLeft_63 rfl (fun c7 => ?_) (fun c7 => ?_)
    · have hf := zif_f hf c7
      refine z_aload_n hC (pc := 77) dJ3_rotateLeft_77 rfl 1 rfl ?_
      refine z_getR hC (pc := 78) in_J27 zcJ27 4 (Nat.le_of_ble_eq_true rfl) (zLk.o hC q2230) zsm dJ3_rotateLeft_78 hf (fun v8 hf => ?_)
      refine z_aload_n hC (pc := 81) dJ3_rotateLeft_81 rfl 2 rfl ?_
      refine z_putV (v := zr l2) hC (pc := 82) in_J27 tyJ27 tyJ27_ok nmJ27 zcJ27 3 (Nat.le_of_ble_eq_true rfl) (zLk.o hC q2228) zsm (Or.inl rfl) rfl (zfr l2) dJ3_rotateLeft_82 hf (fun s9 hf => ?_)
      refine ZW.perm (lv' := [(1, zr l1), (2, zr l2)]) [1, 2] rfl ?_
      exact w_J3_rotateLeft_b85 hC hL hno hQ l1 l2 s9 hf
    · have hf := zif_t hf c7
      refine z_aload_n hC (pc := 66) dJ3_rotateLeft_66 rfl 1 rfl ?_
      refine z_getR hC (pc := 67) in_J27 zcJ27 4 (Nat.le_of_ble_eq_true rfl) (zLk.o hC q2230) zsm dJ3_rotateLeft_67 hf (fun v10 hf => ?_)
      refine z_aload_n hC (pc := 70) dJ3_rotateLeft_70 rfl 2 rfl ?_
      refine z_putV (v := zr l2) hC (pc := 71) in_J27 tyJ27 tyJ27_ok nmJ27 zcJ27 2 (Nat.le_of_ble_eq_true rfl) (zLk.o hC q2227) zsm (Or.inl rfl) rfl (zfr l2) dJ3_rotateLeft_71 hf (fun s11 hf => ?_)
      refine z_goto hC (pc := 74) (tgt := 85) dJ3_rotateLeft_74 rfl ?_
      refine ZW.perm (lv' := [(1, zr l1), (2, zr l2)]) [1, 2] rfl ?_
      exact w_J3_rotateLeft_b85 hC hL hno hQ l1 l2 s11 hf
  · have hf := zif_t hf c4
    refine z_aload_n hC (pc := 47) dJ3_rotateLeft_47 rfl 0 rfl ?_
    refine z_aload_n hC (pc := 48) dJ3_rotateLeft_48 rfl 2 rfl ?_
    refine z_putV (v := zr l2) hC (pc := 49) in_J3 tyJ3 tyJ3_ok nmJ3 zcJ3 3 (Nat.le_of_ble_eq_true rfl) (zLk.o hC q241) zsm (Or.inl rfl) rfl (zfr l2) dJ3_rotateLeft_49 hf (fun s12 hf => ?_)
    refine z_goto hC (pc := 52) (tgt := 85) dJ3_rotateLeft_52 rfl ?_
    refine ZW.perm (lv' := [(1, zr l1), (2, zr l2)]) [1, 2] rfl ?_
    exact w_J3_rotateLeft_b85 hC hL hno hQ l1 l2 s12 hf
def f_J3_rotateLeft (G : Nat → Nat) (l0 : Nat) (l1 : Option Nat) (s0 : zS) : Option (Unit × zS) :=
if l1 = none then (some ((), s0))
else (zo (zgR s0 l1 21 3) fun v2 =>
zo (zgR s0 v2 21 2) fun v3 =>
zo (zput G s0 l1 21 3 (va_rf v3)) fun s4 =>
zo (zgR s4 v2 21 2) fun v5 =>
if v5 = none then (f_J3_rotateLeft_b32 G l0 l1 v2 s4)
else (zo (zgR s4 v2 21 2) fun v7 =>
zo (zput G s4 v7 21 4 (va_rf l1)) fun s8 =>
f_J3_rotateLeft_b32 G l0 l1 v2 s8))
set_option maxHeartbeats 4000000 in
theorem m_J3_rotateLeft (Γ : zG) (l0 : Nat) (l1 : Option Nat) (s0 s1 : zS) (r : Unit) (hf : f_J3_rotateLeft Γ.1 l0 l1 s0 = some (r, s1)) : ZM Γ yJ3_rotateLeft (ws_ yJ3_rotateLeft cJ3_rotateLeft 3 none) 1 0 [zr (some l0), zr l1] s0 (.inl none, s1) := by
  refine ZM.of (own := RJ3) (by decide) rfl (Nat.le_of_ble_eq_true rfl) ?_
  intro X hg hC hL hno hQ hin
  subst hg
  unfold f_J3_rotateLeft at hf
  refine z_aload_n hC (pc := 0) dJ3_rotateLeft_0 rfl 1 rfl ?_
  refine z_ifnull hC (pc := 1) (tgt := 95) dJ3_rotateLeft_1 rfl (fun c1 => ?_) (fun c1 => ?_)
  · have hf := zif_t hf c1
    exact z_return hC (pc := 95) hQ dJ3_rotateLeft_95 hf
  · have hf := zif_f hf c1
    refine z_aload_n hC (pc := 4) dJ3_rotateLeft_4 rfl 1 rfl ?_
    refine z_getR hC (pc := 5) in_J27 zcJ27 3 (Nat.le_of_ble_eq_true rfl) (zLk.o hC q2228) zsm dJ3_rotateLeft_5 hf (fun v2 hf => ?_)
    refine z_astore_n (lv' := [(2, zr v2), (0, zr (some l0)), (1, zr l1)]) hC (pc := 8) hL dJ3_rotateLeft_8 rfl (Nat.le_of_ble_eq_true rfl) rfl ?_
    refine z_aload_n hC (pc := 9) dJ3_rotateLeft_9 rfl 2 rfl ?_
    refine z_aload_n hC (pc := 10) dJ3_rotateLeft_10 rfl 0 rfl ?_
    refine z_getR hC (pc := 11) in_J27 zcJ27 2 (Nat.le_of_ble_eq_true rfl) (zLk.o hC q2227) zsm dJ3_rotateLeft_11 hf (fun v3 hf => ?_)
    refine z_putV (v := zr v3) hC (pc := 14) in_J27 tyJ27 tyJ27_ok nmJ27 zcJ27 3 (Nat.le_of_ble_eq_true rfl) (zLk.o hC q2228) zsm (Or.inl rfl) rfl (zfr v3) dJ3_rotateLeft_14 hf (fun s4 hf => ?_)
    refine z_aload_n hC (pc := 17) dJ3_rotateLeft_17 rfl 0 rfl ?_
    refine z_getR hC (pc := 18) in_J27 zcJ27 2 (Nat.le_of_ble_eq_true rfl) (zLk.o hC q2227) zsm dJ3_rotateLeft_18 hf (fun v5 hf => ?_)
    refine z_ifnull hC (pc := 21) (tgt := 32) dJ3_rotateLeft_21 rfl (fun c6 => ?_) (fun c6 => ?_)
    · have hf := zif_t hf c6
      refine ZW.perm (lv' := [(0, zr (some l0)), (1, zr l1), (2, zr v2)]) [1, 2, 0] rfl ?_
      exact w_J3_rotateLeft_b32 hC hL hno hQ l0 l1 v2 s4 hf
    · have hf := zif_f hf c6
      refine z_aload_n hC (pc := 24) dJ3_rotateLeft_24 rfl 0 rfl ?_
      refine z_getR hC (pc := 25) in_J27 zcJ27 2 (Nat.le_of_ble_eq_true rfl) (zLk.o hC q2227) zsm dJ3_rotateLeft_25 hf (fun v7 hf => ?_)
      refine z_aload_n hC (pc := 28) dJ3_rotateLeft_28 rfl 2 rfl ?_
      refine z_putV (v := zr l1) hC (pc := 29) in_J27 tyJ27 tyJ27_ok nmJ27 zcJ27 4 (Nat.le_of_ble_eq_true rfl) (zLk.o hC q2230) zsm (Or.inl rfl) rfl (zfr l1) dJ3_rotateLeft_29 hf (fun s8 hf => ?_)
      refine ZW.perm (lv' := [(0, zr (some l0)), (1, zr l1), (2, zr v2)]) [1, 2, 0] rfl ?_
      exact w_J3_rotateLeft_b32 hC hL hno hQ l0 l1 v2 s8 hf
/-! java/util/TreeMap.rotateRight(Ljava/util/TreeMap$Entry;)V -/
def f_J3_rotateRight_b85 (G : Nat → Nat) (l1 : Option Nat) (l2 : Option Nat) (s0 : zS) : Option (Unit × zS) :=
zo (zput G s0 l2 21 3 (va_rf l1)) fun s1 =>
zo (zput G s1 l1 21 4 (va_rf l2)) fun s2 =>
some ((), s2)
set_option maxHeartbeats 4000000 in
theorem w_J3_rotateRight_b85 {X : zX} (hC : ZC X RJ3 cJ3_rotateRight none 1 0) (hL : X.nL = 3) (hno : ∀ x ∈ X.c.exceptionTable.toList, False) {r : Unit} {sF : zS} (hQ : ZQ X (.inl none, sF)) (l1 : Option Nat) (l2 : Option Nat) (s0 : zS) (hf : f_J3_rotateRight_b85 X.g.1 l1 l2 s0 = some (r, sF)) : ZW X s0 85 [(1, zr l1), (2, zr l2)] [] := by
  unfold f_J3_rotateRight_b85 at hf
  refine z_aload_n hC (pc := 85) dJ3_rotateRight_85 rfl 1 rfl ?_
  refine z_aload_n hC (pc := 86) dJ3_rotateRight_86 rfl 0 rfl ?_
  refine z_putV (v := zr l1) hC (pc := 87) in_J27 tyJ27 tyJ27_ok nmJ27 zcJ27 3 (Nat.le_of_ble_eq_true rfl) (zLk.o hC q2228) zsm (Or.inl rfl) rfl (zfr l1) dJ3_rotateRight_87 hf (fun s1 hf => ?_)
  refine z_aload_n hC (pc := 90) dJ3_rotateRight_90 rfl 0 rfl ?_
  refine z_aload_n hC (pc := 91) dJ3_rotateRight_91 rfl 1 rfl ?_
  refine z_putV (v := zr l2) hC (pc := 92) in_J27 tyJ27 tyJ27_ok nmJ27 zcJ27 4 (Nat.le_of_ble_eq_true rfl) (zLk.o hC q2230) zsm (Or.inl rfl) rfl (zfr l2) dJ3_rotateRight_92 hf (fun s2 hf => ?_)
  exact z_return hC (pc := 95) hQ dJ3_rotateRight_95 hf
def f_J3_rotateRight_b32 (G : Nat → Nat) (l0 : Nat) (l1 : Option Nat) (l2 : Option Nat) (s0 : zS) : Option (Unit × zS) :=
zo (zgR s0 l1 21 4) fun v1 =>
zo (zput G s0 l2 21 4 (va_rf v1)) fun s2 =>
zo (zgR s2 l1 21 4) fun v3 =>
if v3 = none then (zo (zput G s2 (some l0) 14 3 (va_rf l2)) fun s12 =>
f_J3_rotateRight_b85 G l1 l2 s12)
else (zo (zgR s2 l1 21 4) fun v5 =>
zo (zgR s2 v5 21 3) fun v6 =>
if v6 = l1 then (zo (zgR s2 l1 21 4) fun v10 =>
zo (zput G s2 v10 21 3 (va_rf l2)) fun s11 =>
f_J3_rotateRight_b85 G l1 l2 s11)
else (zo (zgR s2 l1 21 4) fun v8 =>
zo (zput G s2 v8 21 2 (va_rf l2)) fun s9 =>
f_J3_rotateRight_b85 G l1 l2 s9))
set_option maxHeartbeats 4000000 in
theorem w_J3_rotateRight_b32 {X : zX} (hC : ZC X RJ3 cJ3_rotateRight none 1 0) (hL : X.nL = 3) (hno : ∀ x ∈ X.c.exceptionTable.toList, False) {r : Unit} {sF : zS} (hQ : ZQ X (.inl none, sF)) (l0 : Nat) (l1 : Option Nat) (l2 : Option Nat) (s0 : zS) (hf : f_J3_rotateRight_b32 X.g.1 l0 l1 l2 s0 = some (r, sF)) : ZW X s0 32 [(0, zr (some l0)), (1, zr l1), (2, zr l2)] [] := by
  unfold f_J3_rotateRight_b32 at hf
  refine z_aload_n hC (pc := 32) dJ3_rotateRight_32 rfl 2 rfl ?_
  refine z_aload_n hC (pc := 33) dJ3_rotateRight_33 rfl 1 rfl ?_
  refine z_getR hC (pc := 34) in_J27 zcJ27 4 (Nat.le_of_ble_eq_true rfl) (zLk.o hC q2230) zsm dJ3_rotateRight_34 hf (fun v1 hf => ?_)
  refine z_putV (v := zr v1) hC (pc := 37) in_J27 tyJ27 tyJ27_ok nmJ27 zcJ27 4 (Nat.le_of_ble_eq_true rfl) (zLk.o hC q2230) zsm (Or.inl rfl) rfl (zfr v1) dJ3_rotateRight_37 hf (fun s2 hf => ?_)
  refine z_aload_n hC (pc := 40) dJ3_rotateRight_40 rfl 1 rfl ?_
  refine z_getR hC (pc := 41) in_J27 zcJ27 4 (Nat.le_of_ble_eq_true rfl) (zLk.o hC q2230) zsm dJ3_rotateRight_41 hf (fun v3 hf => ?_)
  refine z_ifnonnull hC (pc := 44) (tgt := 55) dJ3_rotateRight_44 rfl (fun c4 => ?_) (fun c4 => ?_)
  · have hf := zif_f hf c4
    refine z_aload_n hC (pc := 55) dJ3_rotateRight_55 rfl 1 rfl ?_
    refine z_getR hC (pc := 56) in_J27 zcJ27 4 (Nat.le_of_ble_eq_true rfl) (zLk.o hC q2230) zsm dJ3_rotateRight_56 hf (fun v5 hf => ?_)
    refine z_getR hC (pc := 59) in_J27 zcJ27 3 (Nat.le_of_ble_eq_true rfl) (zLk.o hC q2228) zsm dJ3_rotateRight_59 hf (fun v6 hf => ?_)
    refine z_aload_n hC (pc := 62) dJ3_rotateRight_62 rfl 1 rfl ?_
    refine z_acmp_ne hC (pc := 63) (tgt := 77) dJ3_rotateRight_63 rfl (fun c7 => ?_) (fun c7 => ?_)
    · have hf := zif_f hf c7
      refine z_aload_n hC (pc := 77) dJ3_rotateRight_77 rfl 1 rfl ?_
      refine z_getR hC (pc := 78) in_J27 zcJ27 4 (Nat.le_of_ble_eq_true rfl) (zLk.o hC q2230) zsm dJ3_rotateRight_78 hf (fun v8 hf => ?_)
      refine z_aload_n hC (pc := 81) dJ3_rotateRight_81 rfl 2 rfl ?_
      refine z_putV (v := zr l2) hC (pc := 82) in_J27 tyJ27 tyJ27_ok nmJ27 zcJ27 2 (Nat.le_of_ble_eq_true rfl) (zLk.o hC q2227) zsm (Or.inl rfl) rfl (zfr l2) dJ3_rotateRight_82 hf (fun s9 hf => ?_)
      refine ZW.perm (lv' := [(1, zr l1), (2, zr l2)]) [1, 2] rfl ?_
      exact w_J3_rotateRight_b85 hC hL hno hQ l1 l2 s9 hf
    · have hf := zif_t hf c7
      refine z_aload_n hC (pc := 66) dJ3_rotateRight_66 rfl 1 rfl ?_
      refine z_getR hC (pc := 67) in_J27 zcJ27 4 (Nat.le_of_ble_eq_true rfl) (zLk.o hC q2230) zsm dJ3_rotateRight_67 hf (fun v10 hf => ?_)
      refine z_aload_n hC (pc := 70) dJ3_rotateRight_70 rfl 2 rfl ?_
      refine z_putV (v := zr l2) hC (pc := 71) in_J27 tyJ27 tyJ27_ok nmJ27 zcJ27 3 (Nat.le_of_ble_eq_true rfl) (zLk.o hC q2228) zsm (Or.inl rfl) rfl (zfr l2) dJ3_rotateRight_71 hf (fun s11 hf => ?_)
      refine z_goto hC (pc := 74) (tgt := 85) dJ3_rotateRight_74 rfl ?_
      refine ZW.perm (lv' := [(1, zr l1), (2, zr l2)]) [1, 2] rfl ?_
      exact w_J3_rotateRight_b85 hC hL hno hQ l1 l2 s11 hf
  · have hf := zif_t hf c4
    refine z_aload_n hC (pc := 47) dJ3_rotateRight_47 rfl 0 rfl ?_
    refine z_aload_n hC (pc := 48) dJ3_rotateRight_48 rfl 2 rfl ?_
    refine z_putV (v := zr l2) hC (pc := 49) in_J3 tyJ3 tyJ3_ok nmJ3 zcJ3 3 (Nat.le_of_ble_eq_true rfl) (zLk.o hC q241) zsm (Or.inl rfl) rfl (zfr l2) dJ3_rotateRight_49 hf (fun s12 hf => ?_)
    refine z_goto hC (pc := 52) (tgt := 85) dJ3_rotateRight_52 rfl ?_
    refine ZW.perm (lv' := [(1, zr l1), (2, zr l2)]) [1, 2] rfl ?_
    exact w_J3_rotateRight_b85 hC hL hno hQ l1 l2 s12 hf
def f_J3_rotateRight (G : Nat → Nat) (l0 : Nat) (l1 : Option Nat) (s0 : zS) : Option (Unit × zS) :=
if l1 = none then (some ((), s0))
else (zo (zgR s0 l1 21 2) fun v2 =>
zo (zgR s0 v2 21 3) fun v3 =>
zo (zput G s0 l1 21 2 (va_rf v3)) fun s4 =>
zo (zgR s4 v2 21 3) fun v5 =>
if v5 = none then (f_J3_rotateRight_b32 G l0 l1 v2 s4)
else (zo (zgR s4 v2 21 3) fun v7 =>
zo (zput G s4 v7 21 4 (va_rf l1)) fun s8 =>
f_J3_rotateRight_b32 G l0 l1 v2 s8))
set_option maxHeartbeats 4000000 in
theorem m_J3_rotateRight (Γ : zG) (l0 : Nat) (l1 : Option Nat) (s0 s1 : zS) (r : Unit) (hf : f_J3_rotateRight Γ.1 l0 l1 s0 = some (r, s1)) : ZM Γ yJ3_rotateRight (ws_ yJ3_rotateRight cJ3_rotateRight 3 none) 1 0 [zr (some l0), zr l1] s0 (.inl none, s1) := by
  refine ZM.of (own := RJ3) (by decide) rfl (Nat.le_of_ble_eq_true rfl) ?_
  intro X hg hC hL hno hQ hin
  subst hg
  unfold f_J3_rotateRight at hf
  refine z_aload_n hC (pc := 0) dJ3_rotateRight_0 rfl 1 rfl ?_
  refine z_ifnull hC (pc := 1) (tgt := 95) dJ3_rotateRight_1 rfl (fun c1 => ?_) (fun c1 => ?_)
  · have hf := zif_t hf c1
    exact z_return hC (pc := 95) hQ dJ3_rotateRight_95 hf
  · have hf := zif_f hf c1
    refine z_aload_n hC (pc := 4) dJ3_rotateRight_4 rfl 1 rfl ?_
    refine z_getR hC (pc := 5) in_J27 zcJ27 2 (Nat.le_of_ble_eq_true rfl) (zLk.o hC q2227) zsm dJ3_rotateRight_5 hf (fun v2 hf => ?_)
    refine z_astore_n (lv' := [(2, zr v2), (0, zr (some l0)), (1, zr l1)]) hC (pc := 8) hL dJ3_rotateRight_8 rfl (Nat.le_of_ble_eq_true rfl) rfl ?_
    refine z_aload_n hC (pc := 9) dJ3_rotateRight_9 rfl 2 rfl ?_
    refine z_aload_n hC (pc := 10) dJ3_rotateRight_10 rfl 0 rfl ?_
    refine z_getR hC (pc := 11) in_J27 zcJ27 3 (Nat.le_of_ble_eq_true rfl) (zLk.o hC q2228) zsm dJ3_rotateRight_11 hf (fun v3 hf => ?_)
    refine z_putV (v := zr v3) hC (pc := 14) in_J27 tyJ27 tyJ27_ok nmJ27 zcJ27 2 (Nat.le_of_ble_eq_true rfl) (zLk.o hC q2227) zsm (Or.inl rfl) rfl (zfr v3) dJ3_rotateRight_14 hf (fun s4 hf => ?_)
    refine z_aload_n hC (pc := 17) dJ3_rotateRight_17 rfl 0 rfl ?_
    refine z_getR hC (pc := 18) in_J27 zcJ27 3 (Nat.le_of_ble_eq_true rfl) (zLk.o hC q2228) zsm dJ3_rotateRight_18 hf (fun v5 hf => ?_)
    refine z_ifnull hC (pc := 21) (tgt := 32) dJ3_rotateRight_21 rfl (fun c6 => ?_) (fun c6 => ?_)
    · have hf := zif_t hf c6
      refine ZW.perm (lv' := [(0, zr (some l0)), (1, zr l1), (2, zr v2)]) [1, 2, 0] rfl ?_
      exact w_J3_rotateRight_b32 hC hL hno hQ l0 l1 v2 s4 hf
    · have hf := zif_f hf c6
      refine z_aload_n hC (pc := 24) dJ3_rotateRight_24 rfl 0 rfl ?_
      refine z_getR hC (pc := 25) in_J27 zcJ27 3 (Nat.le_of_ble_eq_true rfl) (zLk.o hC q2228) zsm dJ3_rotateRight_25 hf (fun v7 hf => ?_)
      refine z_aload_n hC (pc := 28) dJ3_rotateRight_28 rfl 2 rfl ?_
      refine z_putV (v := zr l1) hC (pc := 29) in_J27 tyJ27 tyJ27_ok nmJ27 zcJ27 4 (Nat.le_of_ble_eq_true rfl) (zLk.o hC q2230) zsm (Or.inl rfl) rfl (zfr l1) dJ3_rotateRight_29 hf (fun s8 hf => ?_)
      refine ZW.perm (lv' := [(0, zr (some l0)), (1, zr l1), (2, zr v2)]) [1, 2, 0] rfl ?_
      exact w_J3_rotateRight_b32 hC hL hno hQ l0 l1 v2 s8 hf
/-! java/util/TreeMap.setColor(Ljava/util/TreeMap$Entry;Z)V -/
def f_J3_setColor (G : Nat → Nat) (l0 : Option Nat) (l1 : Int32) (s0 : zS) : Option (Unit × zS) :=
if l0 = none then (some ((), s0))
else (zo (zputN G s0 l0 21 5 .boolean l1) fun s2 =>
some ((), s2))
set_option maxHeartbeats 4000000 in
theorem m_J3_setColor (Γ : zG) (l0 : Option Nat) (l1 : Int32) (s0 s1 : zS) (r : Unit) (hf : f_J3_setColor Γ.1 l0 l1 s0 = some (r, s1)) : ZM Γ yJ3_setColor (ws_ yJ3_setColor cJ3_setColor 2 none) 1 0 [zr l0, zi l1] s0 (.inl none, s1) := by
  refine ZM.of (own := RJ3) (by decide) rfl (Nat.le_of_ble_eq_true rfl) ?_
  intro X hg hC hL hno hQ hin
  subst hg
  unfold f_J3_setColor at hf
  refine z_aload_n hC (pc := 0) dJ3_setColor_0 rfl 0 rfl ?_
  refine z_ifnull hC (pc := 1) (tgt := 9) dJ3_setColor_1 rfl (fun c1 => ?_) (fun c1 => ?_)
  · have hf := zif_t hf c1
    exact z_return hC (pc := 9) hQ dJ3_setColor_9 hf
  · have hf := zif_f hf c1
    refine z_aload_n hC (pc := 4) dJ3_setColor_4 rfl 0 rfl ?_
    refine z_iload_n hC (pc := 5) dJ3_setColor_5 rfl 1 rfl ?_
    refine z_putN hC (pc := 6) in_J27 tyJ27 tyJ27_ok nmJ27 zcJ27 5 (Nat.le_of_ble_eq_true rfl) (zLk.o hC q2232) zsm (Or.inl rfl) (Or.inl rfl) dJ3_setColor_6 hf (fun s2 hf => ?_)
    exact z_return hC (pc := 9) hQ dJ3_setColor_9 hf
/-! java/util/TreeMap.fixAfterInsertion(Ljava/util/TreeMap$Entry;)V -/
def f_J3_fixAfterInsertion_b148 (G : Nat → Nat) (k5 : Nat → Option Nat → zS → Option (Unit × zS)) (l0 : Nat) (l1 : Option Nat) (s0 : zS) : Option (Unit × zS) :=
k5 l0 l1 s0
set_option maxHeartbeats 4000000 in
theorem w_J3_fixAfterInsertion_b148 {X : zX} (hC : ZC X RJ3 cJ3_fixAfterInsertion none 2 22) (hL : X.nL = 3) (hno : ∀ x ∈ X.c.exceptionTable.toList, False) {r : Unit} {sF : zS} (hQ : ZQ X (.inl none, sF)) (k5 : Nat → Option Nat → zS → Option (Unit × zS)) (hk5 : ∀ (l0 : Nat) (l1 : Option Nat) (s0 : zS), k5 l0 l1 s0 = some (r, sF) → ZW X s0 5 [(0, zr (some l0)), (1, zr l1)] []) (l0 : Nat) (l1 : Option Nat) (s0 : zS) (hf : f_J3_fixAfterInsertion_b148 X.g.1 k5 l0 l1 s0 = some (r, sF)) : ZW X s0 148 [(0, zr (some l0)), (1, zr l1)] [] := by
  unfold f_J3_fixAfterInsertion_b148 at hf
  refine z_goto hC (pc := 148) (tgt := 5) dJ3_fixAfterInsertion_148 rfl ?_
  exact hk5 l0 l1 s0 hf
def f_J3_fixAfterInsertion_b118 (G : Nat → Nat) (k5 : Nat → Option Nat → zS → Option (Unit × zS)) (l0 : Nat) (l1 : Option Nat) (s0 : zS) : Option (Unit × zS) :=
zb (f_J3_parentOf G l1 s0) fun v1 s2 =>
zb (f_J3_setColor G v1 1 s2) fun _ s4 =>
zb (f_J3_parentOf G l1 s4) fun v5 s6 =>
zb (f_J3_parentOf G v5 s6) fun v7 s8 =>
zb (f_J3_setColor G v7 0 s8) fun _ s10 =>
zb (f_J3_parentOf G l1 s10) fun v11 s12 =>
zb (f_J3_parentOf G v11 s12) fun v13 s14 =>
zo (zrc s14 (some l0) 14) fun _ =>
zb (f_J3_rotateRight G l0 v13 s14) fun _ s18 =>
f_J3_fixAfterInsertion_b148 G k5 l0 l1 s18
set_option maxHeartbeats 4000000 in
theorem w_J3_fixAfterInsertion_b118 {X : zX} (hC : ZC X RJ3 cJ3_fixAfterInsertion none 2 22) (hL : X.nL = 3) (hno : ∀ x ∈ X.c.exceptionTable.toList, False) {r : Unit} {sF : zS} (hQ : ZQ X (.inl none, sF)) (k5 : Nat → Option Nat → zS → Option (Unit × zS)) (hk5 : ∀ (l0 : Nat) (l1 : Option Nat) (s0 : zS), k5 l0 l1 s0 = some (r, sF) → ZW X s0 5 [(0, zr (some l0)), (1, zr l1)] []) (l0 : Nat) (l1 : Option Nat) (s0 : zS) (hf : f_J3_fixAfterInsertion_b118 X.g.1 k5 l0 l1 s0 = some (r, sF)) : ZW X s0 118 [(0, zr (some l0)), (1, zr l1)] [] := by
  unfold f_J3_fixAfterInsertion_b118 at hf
  refine z_aload_n hC (pc := 118) dJ3_fixAfterInsertion_118 rfl 1 rfl ?_
  refine z_cR (rest := []) hf (fun v1 s2 hcall => z_runS hC (pc := 119) 1 (m_J3_parentOf X.g l1 s0 s2 v1 hcall) (lw_S q2254 q2255 q102 q2256) hd_J3_parentOf ⟨(Nat.le_of_ble_eq_true rfl), (Nat.le_of_ble_eq_true rfl)⟩ rfl (Nat.le_of_ble_eq_true rfl) dJ3_fixAfterInsertion_119 rfl) (fun v1 s2 hf => ?_)
  refine z_iconst (v := 1) hC (pc := 122) dJ3_fixAfterInsertion_122 zki_1 ?_
  refine z_cU (rest := []) hf (fun v3 s4 hcall => z_runS hC (pc := 123) 2 (m_J3_setColor X.g v1 1 s2 s4 v3 hcall) (lw_S q2266 q2267 q102 q2268) hd_J3_setColor ⟨(Nat.le_of_ble_eq_true rfl), (Nat.le_of_ble_eq_true rfl)⟩ rfl (Nat.le_of_ble_eq_true rfl) dJ3_fixAfterInsertion_123 rfl) (fun _ s4 hf => ?_)
  refine z_aload_n hC (pc := 126) dJ3_fixAfterInsertion_126 rfl 1 rfl ?_
  refine z_cR (rest := []) hf (fun v5 s6 hcall => z_runS hC (pc := 127) 1 (m_J3_parentOf X.g l1 s4 s6 v5 hcall) (lw_S q2254 q2255 q102 q2256) hd_J3_parentOf ⟨(Nat.le_of_ble_eq_true rfl), (Nat.le_of_ble_eq_true rfl)⟩ rfl (Nat.le_of_ble_eq_true rfl) dJ3_fixAfterInsertion_127 rfl) (fun v5 s6 hf => ?_)
  refine z_cR (rest := []) hf (fun v7 s8 hcall => z_runS hC (pc := 130) 1 (m_J3_parentOf X.g v5 s6 s8 v7 hcall) (lw_S q2254 q2255 q102 q2256) hd_J3_parentOf ⟨(Nat.le_of_ble_eq_true rfl), (Nat.le_of_ble_eq_true rfl)⟩ rfl (Nat.le_of_ble_eq_true rfl) dJ3_fixAfterInsertion_130 rfl) (fun v7 s8 hf => ?_)
  refine z_iconst (v := 0) hC (pc := 133) dJ3_fixAfterInsertion_133 zki_0 ?_
  refine z_cU (rest := []) hf (fun v9 s10 hcall => z_runS hC (pc := 134) 2 (m_J3_setColor X.g v7 0 s8 s10 v9 hcall) (lw_S q2266 q2267 q102 q2268) hd_J3_setColor ⟨(Nat.le_of_ble_eq_true rfl), (Nat.le_of_ble_eq_true rfl)⟩ rfl (Nat.le_of_ble_eq_true rfl) dJ3_fixAfterInsertion_134 rfl) (fun _ s10 hf => ?_)
  refine z_aload_n hC (pc := 137) dJ3_fixAfterInsertion_137 rfl 0 rfl ?_
  refine z_aload_n hC (pc := 138) dJ3_fixAfterInsertion_138 rfl 1 rfl ?_
  refine z_cR (rest := [zr (some l0)]) hf (fun v11 s12 hcall => z_runS hC (pc := 139) 1 (m_J3_parentOf X.g l1 s10 s12 v11 hcall) (lw_S q2254 q2255 q102 q2256) hd_J3_parentOf ⟨(Nat.le_of_ble_eq_true rfl), (Nat.le_of_ble_eq_true rfl)⟩ rfl (Nat.le_of_ble_eq_true rfl) dJ3_fixAfterInsertion_139 rfl) (fun v11 s12 hf => ?_)
  refine z_cR (rest := [zr (some l0)]) hf (fun v13 s14 hcall => z_runS hC (pc := 142) 1 (m_J3_parentOf X.g v11 s12 s14 v13 hcall) (lw_S q2254 q2255 q102 q2256) hd_J3_parentOf ⟨(Nat.le_of_ble_eq_true rfl), (Nat.le_of_ble_eq_true rfl)⟩ rfl (Nat.le_of_ble_eq_true rfl) dJ3_fixAfterInsertion_142 rfl) (fun v13 s14 hf => ?_)
  obtain ⟨fs15, ha16, hf⟩ := z_rcN hf
  refine z_cU (rest := []) hf (fun v17 s18 hcall => z_runV hC (pc := 145) zcJ3 1 ha16 (m_J3_rotateRight X.g l0 v13 s14 s18 v17 hcall) (lw_V q2273 q2275 qs39 q102 q2276) hdV_J3_rotateRight ⟨(Nat.le_of_ble_eq_true rfl), (Nat.le_of_ble_eq_true rfl)⟩ rfl (Nat.le_of_ble_eq_true rfl) dJ3_fixAfterInsertion_145 rfl) (fun _ s18 hf => ?_)
  exact w_J3_fixAfterInsertion_b148 hC hL hno hQ k5 hk5 l0 l1 s18 hf
def f_J3_fixAfterInsertion_b255 (G : Nat → Nat) (k5 : Nat → Option Nat → zS → Option (Unit × zS)) (l0 : Nat) (l1 : Option Nat) (s0 : zS) : Option (Unit × zS) :=
k5 l0 l1 s0
set_option maxHeartbeats 4000000 in
theorem w_J3_fixAfterInsertion_b255 {X : zX} (hC : ZC X RJ3 cJ3_fixAfterInsertion none 2 22) (hL : X.nL = 3) (hno : ∀ x ∈ X.c.exceptionTable.toList, False) {r : Unit} {sF : zS} (hQ : ZQ X (.inl none, sF)) (k5 : Nat → Option Nat → zS → Option (Unit × zS)) (hk5 : ∀ (l0 : Nat) (l1 : Option Nat) (s0 : zS), k5 l0 l1 s0 = some (r, sF) → ZW X s0 5 [(0, zr (some l0)), (1, zr l1)] []) (l0 : Nat) (l1 : Option Nat) (s0 : zS) (hf : f_J3_fixAfterInsertion_b255 X.g.1 k5 l0 l1 s0 = some (r, sF)) : ZW X s0 255 [(0, zr (some l0)), (1, zr l1)] [] := by
  unfold f_J3_fixAfterInsertion_b255 at hf
  refine z_goto hC (pc := 255) (tgt := 5) dJ3_fixAfterInsertion_255 rfl ?_
  exact hk5 l0 l1 s0 hf
def f_J3_fixAfterInsertion_b225 (G : Nat → Nat) (k5 : Nat → Option Nat → zS → Option (Unit × zS)) (l0 : Nat) (l1 : Option Nat) (s0 : zS) : Option (Unit × zS) :=
zb (f_J3_parentOf G l1 s0) fun v1 s2 =>
zb (f_J3_setColor G v1 1 s2) fun _ s4 =>
zb (f_J3_parentOf G l1 s4) fun v5 s6 =>
zb (f_J3_parentOf G v5 s6) fun v7 s8 =>
zb (f_J3_setColor G v7 0 s8) fun _ s10 =>
zb (f_J3_parentOf G l1 s10) fun v11 s12 =>
zb (f_J3_parentOf G v11 s12) fun v13 s14 =>
zo (zrc s14 (some l0) 14) fun _ =>
zb (f_J3_rotateLeft G l0 v13 s14) fun _ s18 =>
f_J3_fixAfterInsertion_b255 G k5 l0 l1 s18
set_option maxHeartbeats 4000000 in
theorem w_J3_fixAfterInsertion_b225 {X : zX} (hC : ZC X RJ3 cJ3_fixAfterInsertion none 2 22) (hL : X.nL = 3) (hno : ∀ x ∈ X.c.exceptionTable.toList, False) {r : Unit} {sF : zS} (hQ : ZQ X (.inl none, sF)) (k5 : Nat → Option Nat → zS → Option (Unit × zS)) (hk5 : ∀ (l0 : Nat) (l1 : Option Nat) (s0 : zS), k5 l0 l1 s0 = some (r, sF) → ZW X s0 5 [(0, zr (some l0)), (1, zr l1)] []) (l0 : Nat) (l1 : Option Nat) (s0 : zS) (hf : f_J3_fixAfterInsertion_b225 X.g.1 k5 l0 l1 s0 = some (r, sF)) : ZW X s0 225 [(0, zr (some l0)), (1, zr l1)] [] := by
  unfold f_J3_fixAfterInsertion_b225 at hf
  refine z_aload_n hC (pc := 225) dJ3_fixAfterInsertion_225 rfl 1 rfl ?_
  refine z_cR (rest := []) hf (fun v1 s2 hcall => z_runS hC (pc := 226) 1 (m_J3_parentOf X.g l1 s0 s2 v1 hcall) (lw_S q2254 q2255 q102 q2256) hd_J3_parentOf ⟨(Nat.le_of_ble_eq_true rfl), (Nat.le_of_ble_eq_true rfl)⟩ rfl (Nat.le_of_ble_eq_true rfl) dJ3_fixAfterInsertion_226 rfl) (fun v1 s2 hf => ?_)
  refine z_iconst (v := 1) hC (pc := 229) dJ3_fixAfterInsertion_229 zki_1 ?_
  refine z_cU (rest := []) hf (fun v3 s4 hcall => z_runS hC (pc := 230) 2 (m_J3_setColor X.g v1 1 s2 s4 v3 hcall) (lw_S q2266 q2267 q102 q2268) hd_J3_setColor ⟨(Nat.le_of_ble_eq_true rfl), (Nat.le_of_ble_eq_true rfl)⟩ rfl (Nat.le_of_ble_eq_true rfl) dJ3_fixAfterInsertion_230 rfl) (fun _ s4 hf => ?_)
  refine z_aload_n hC (pc := 233) dJ3_fixAfterInsertion_233 rfl 1 rfl ?_
  refine z_cR (rest := []) hf (fun v5 s6 hcall => z_runS hC (pc := 234) 1 (m_J3_parentOf X.g l1 s4 s6 v5 hcall) (lw_S q2254 q2255 q102 q2256) hd_J3_parentOf ⟨(Nat.le_of_ble_eq_true rfl), (Nat.le_of_ble_eq_true rfl)⟩ rfl (Nat.le_of_ble_eq_true rfl) dJ3_fixAfterInsertion_234 rfl) (fun v5 s6 hf => ?_)
  refine z_cR (rest := []) hf (fun v7 s8 hcall => z_runS hC (pc := 237) 1 (m_J3_parentOf X.g v5 s6 s8 v7 hcall) (lw_S q2254 q2255 q102 q2256) hd_J3_parentOf ⟨(Nat.le_of_ble_eq_true rfl), (Nat.le_of_ble_eq_true rfl)⟩ rfl (Nat.le_of_ble_eq_true rfl) dJ3_fixAfterInsertion_237 rfl) (fun v7 s8 hf => ?_)
  refine z_iconst (v := 0) hC (pc := 240) dJ3_fixAfterInsertion_240 zki_0 ?_
  refine z_cU (rest := []) hf (fun v9 s10 hcall => z_runS hC (pc := 241) 2 (m_J3_setColor X.g v7 0 s8 s10 v9 hcall) (lw_S q2266 q2267 q102 q2268) hd_J3_setColor ⟨(Nat.le_of_ble_eq_true rfl), (Nat.le_of_ble_eq_true rfl)⟩ rfl (Nat.le_of_ble_eq_true rfl) dJ3_fixAfterInsertion_241 rfl) (fun _ s10 hf => ?_)
  refine z_aload_n hC (pc := 244) dJ3_fixAfterInsertion_244 rfl 0 rfl ?_
  refine z_aload_n hC (pc := 245) dJ3_fixAfterInsertion_245 rfl 1 rfl ?_
  refine z_cR (rest := [zr (some l0)]) hf (fun v11 s12 hcall => z_runS hC (pc := 246) 1 (m_J3_parentOf X.g l1 s10 s12 v11 hcall) (lw_S q2254 q2255 q102 q2256) hd_J3_parentOf ⟨(Nat.le_of_ble_eq_true rfl), (Nat.le_of_ble_eq_true rfl)⟩ rfl (Nat.le_of_ble_eq_true rfl) dJ3_fixAfterInsertion_246 rfl) (fun v11 s12 hf => ?_)
  refine z_cR (rest := [zr (some l0)]) hf (fun v13 s14 hcall => z_runS hC (pc := 249) 1 (m_J3_parentOf X.g v11 s12 s14 v13 hcall) (lw_S q2254 q2255 q102 q2256) hd_J3_parentOf ⟨(Nat.le_of_ble_eq_true rfl), (Nat.le_of_ble_eq_true rfl)⟩ rfl (Nat.le_of_ble_eq_true rfl) dJ3_fixAfterInsertion_249 rfl) (fun v13 s14 hf => ?_)
  obtain ⟨fs15, ha16, hf⟩ := z_rcN hf
  refine z_cU (rest := []) hf (fun v17 s18 hcall => z_runV hC (pc := 252) zcJ3 1 ha16 (m_J3_rotateLeft X.g l0 v13 s14 s18 v17 hcall) (lw_V q2269 q2271 qs38 q102 q2272) hdV_J3_rotateLeft ⟨(Nat.le_of_ble_eq_true rfl), (Nat.le_of_ble_eq_true rfl)⟩ rfl (Nat.le_of_ble_eq_true rfl) dJ3_fixAfterInsertion_252 rfl) (fun _ s18 hf => ?_)
  exact w_J3_fixAfterInsertion_b255 hC hL hno hQ k5 hk5 l0 l1 s18 hf
def f_J3_fixAfterInsertion_b258 (G : Nat → Nat) (l0 : Nat) (s0 : zS) : Option (Unit × zS) :=
zo (zgR s0 (some l0) 14 3) fun v1 =>
zo (zputN G s0 v1 21 5 .boolean 1) fun s2 =>
some ((), s2)
set_option maxHeartbeats 4000000 in
theorem w_J3_fixAfterInsertion_b258 {X : zX} (hC : ZC X RJ3 cJ3_fixAfterInsertion none 2 22) (hL : X.nL = 3) (hno : ∀ x ∈ X.c.exceptionTable.toList, False) {r : Unit} {sF : zS} (hQ : ZQ X (.inl none, sF)) (l0 : Nat) (s0 : zS) (hf : f_J3_fixAfterInsertion_b258 X.g.1 l0 s0 = some (r, sF)) : ZW X s0 258 [(0, zr (some l0))] [] := by
  unfold f_J3_fixAfterInsertion_b258 at hf
  refine z_aload_n hC (pc := 258) dJ3_fixAfterInsertion_258 rfl 0 rfl ?_
  refine z_getR hC (pc := 259) in_J3 zcJ3 3 (Nat.le_of_ble_eq_true rfl) (zLk.o hC q241) zsm dJ3_fixAfterInsertion_259 hf (fun v1 hf => ?_)
  refine z_iconst (v := 1) hC (pc := 262) dJ3_fixAfterInsertion_262 zki_1 ?_
  refine z_putN hC (pc := 263) in_J27 tyJ27 tyJ27_ok nmJ27 zcJ27 5 (Nat.le_of_ble_eq_true rfl) (zLk.o hC q2232) zsm (Or.inl rfl) (Or.inl rfl) dJ3_fixAfterInsertion_263 hf (fun s2 hf => ?_)
  exact z_return hC (pc := 266) hQ dJ3_fixAfterInsertion_266 hf
def f_J3_fixAfterInsertion_b5 (G : Nat → Nat) (k5 : Nat → Option Nat → zS → Option (Unit × zS)) (l0 : Nat) (l1 : Option Nat) (s0 : zS) : Option (Unit × zS) :=
if l1 = none then (f_J3_fixAfterInsertion_b258 G l0 s0)
else (zo (zgR s0 (some l0) 14 3) fun v2 =>
if l1 = v2 then (f_J3_fixAfterInsertion_b258 G l0 s0)
else (zo (zgR s0 l1 21 4) fun v4 =>
zo (zgI s0 v4 21 5) fun v5 =>
if v5 = 0 then (zb (f_J3_parentOf G l1 s0) fun v7 s8 =>
zb (f_J3_parentOf G l1 s8) fun v9 s10 =>
zb (f_J3_parentOf G v9 s10) fun v11 s12 =>
zb (f_J3_leftOf G v11 s12) fun v13 s14 =>
if v7 = v13 then (zb (f_J3_parentOf G l1 s14) fun v52 s53 =>
zb (f_J3_parentOf G v52 s53) fun v54 s55 =>
zb (f_J3_rightOf G v54 s55) fun v56 s57 =>
zb (f_J3_colorOf G v56 s57) fun v58 s59 =>
if v58 = 0 then (zb (f_J3_parentOf G l1 s59) fun v72 s73 =>
zb (f_J3_setColor G v72 1 s73) fun _ s75 =>
zb (f_J3_setColor G v56 1 s75) fun _ s77 =>
zb (f_J3_parentOf G l1 s77) fun v78 s79 =>
zb (f_J3_parentOf G v78 s79) fun v80 s81 =>
zb (f_J3_setColor G v80 0 s81) fun _ s83 =>
zb (f_J3_parentOf G l1 s83) fun v84 s85 =>
zb (f_J3_parentOf G v84 s85) fun v86 s87 =>
f_J3_fixAfterInsertion_b148 G k5 l0 v86 s87)
else (zb (f_J3_parentOf G l1 s59) fun v61 s62 =>
zb (f_J3_rightOf G v61 s62) fun v63 s64 =>
if l1 = v63 then (zb (f_J3_parentOf G l1 s64) fun v66 s67 =>
zo (zrc s67 (some l0) 14) fun _ =>
zb (f_J3_rotateLeft G l0 v66 s67) fun _ s71 =>
f_J3_fixAfterInsertion_b118 G k5 l0 v66 s71)
else (f_J3_fixAfterInsertion_b118 G k5 l0 l1 s64)))
else (zb (f_J3_parentOf G l1 s14) fun v16 s17 =>
zb (f_J3_parentOf G v16 s17) fun v18 s19 =>
zb (f_J3_leftOf G v18 s19) fun v20 s21 =>
zb (f_J3_colorOf G v20 s21) fun v22 s23 =>
if v22 = 0 then (zb (f_J3_parentOf G l1 s23) fun v36 s37 =>
zb (f_J3_setColor G v36 1 s37) fun _ s39 =>
zb (f_J3_setColor G v20 1 s39) fun _ s41 =>
zb (f_J3_parentOf G l1 s41) fun v42 s43 =>
zb (f_J3_parentOf G v42 s43) fun v44 s45 =>
zb (f_J3_setColor G v44 0 s45) fun _ s47 =>
zb (f_J3_parentOf G l1 s47) fun v48 s49 =>
zb (f_J3_parentOf G v48 s49) fun v50 s51 =>
f_J3_fixAfterInsertion_b255 G k5 l0 v50 s51)
else (zb (f_J3_parentOf G l1 s23) fun v25 s26 =>
zb (f_J3_leftOf G v25 s26) fun v27 s28 =>
if l1 = v27 then (zb (f_J3_parentOf G l1 s28) fun v30 s31 =>
zo (zrc s31 (some l0) 14) fun _ =>
zb (f_J3_rotateRight G l0 v30 s31) fun _ s35 =>
f_J3_fixAfterInsertion_b225 G k5 l0 v30 s35)
else (f_J3_fixAfterInsertion_b225 G k5 l0 l1 s28))))
else (f_J3_fixAfterInsertion_b258 G l0 s0)))
set_option maxHeartbeats 4000000 in
theorem w_J3_fixAfterInsertion_b5 {X : zX} (hC : ZC X RJ3 cJ3_fixAfterInsertion none 2 22) (hL : X.nL = 3) (hno : ∀ x ∈ X.c.exceptionTable.toList, False) {r : Unit} {sF : zS} (hQ : ZQ X (.inl none, sF)) (k5 : Nat → Option Nat → zS → Option (Unit × zS)) (hk5 : ∀ (l0 : Nat) (l1 : Option Nat) (s0 : zS), k5 l0 l1 s0 = some (r, sF) → ZW X s0 5 [(0, zr (some l0)), (1, zr l1)] []) (l0 : Nat) (l1 : Option Nat) (s0 : zS) (hf : f_J3_fixAfterInsertion_b5 X.g.1 k5 l0 l1 s0 = some (r, sF)) : ZW X s0 5 [(0, zr (some l0)), (1, zr l1)] [] := by
  unfold f_J3_fixAfterInsertion_b5 at hf
  refine z_aload_n hC (pc := 5) dJ3_fixAfterInsertion_5 rfl 1 rfl ?_
  refine z_ifnull hC (pc := 6) (tgt := 258) dJ3_fixAfterInsertion_6 rfl (fun c1 => ?_) (fun c1 => ?_)
  · have hf := zif_t hf c1
    refine ZW.perm (lv' := [(0, zr (some l0))]) [0] rfl ?_
    exact w_J3_fixAfterInsertion_b258 hC hL hno hQ l0 s0 hf
  · have hf := zif_f hf c1
    refine z_aload_n hC (pc := 9) dJ3_fixAfterInsertion_9 rfl 1 rfl ?_
    refine z_aload_n hC (pc := 10) dJ3_fixAfterInsertion_10 rfl 0 rfl ?_
    refine z_getR hC (pc := 11) in_J3 zcJ3 3 (Nat.le_of_ble_eq_true rfl) (zLk.o hC q241) zsm dJ3_fixAfterInsertion_11 hf (fun v2 hf => ?_)
    refine z_acmp_eq hC (pc := 14) (tgt := 258) dJ3_fixAfterInsertion_14 rfl (fun c3 => ?_) (fun c3 => ?_)
    · have hf := zif_t hf c3
      refine ZW.perm (lv' := [(0, zr (some l0))]) [0] rfl ?_
      exact w_J3_fixAfterInsertion_b258 hC hL hno hQ l0 s0 hf
    · have hf := zif_f hf c3
      refine z_aload_n hC (pc := 17) dJ3_fixAfterInsertion_17 rfl 1 rfl ?_
      refine z_getR hC (pc := 18) in_J27 zcJ27 4 (Nat.le_of_ble_eq_true rfl) (zLk.o hC q2230) zsm dJ3_fixAfterInsertion_18 hf (fun v4 hf => ?_)
      refine z_getI hC (pc := 21) in_J27 zcJ27 5 (Nat.le_of_ble_eq_true rfl) (zLk.o hC q2232) zsm dJ3_fixAfterInsertion_21 hf (fun v5 hf => ?_)
      refine z_if_ne hC (pc := 24) (tgt := 258) dJ3_fixAfterInsertion_24 rfl (fun c6 => ?_) (fun c6 => ?_)
      · have hf := zif_f hf c6
        refine ZW.perm (lv' := [(0, zr (some l0))]) [0] rfl ?_
        exact w_J3_fixAfterInsertion_b258 hC hL hno hQ l0 s0 hf
      · have hf := zif_t hf c6
        refine z_aload_n hC (pc := 27) dJ3_fixAfterInsertion_27 rfl 1 rfl ?_
        refine z_cR (rest := []) hf (fun v7 s8 hcall => z_runS hC (pc := 28) 1 (m_J3_parentOf X.g l1 s0 s8 v7 hcall) (lw_S q2254 q2255 q102 q2256) hd_J3_parentOf ⟨(Nat.le_of_ble_eq_true rfl), (Nat.le_of_ble_eq_true rfl)⟩ rfl (Nat.le_of_ble_eq_true rfl) dJ3_fixAfterInsertion_28 rfl) (fun v7 s8 hf => ?_)
        refine z_aload_n hC (pc := 31) dJ3_fixAfterInsertion_31 rfl 1 rfl ?_
        refine z_cR (rest := [zr v7]) hf (fun v9 s10 hcall => z_runS hC (pc := 32) 1 (m_J3_parentOf X.g l1 s8 s10 v9 hcall) (lw_S q2254 q2255 q102 q2256) hd_J3_parentOf ⟨(Nat.le_of_ble_eq_true rfl), (Nat.le_of_ble_eq_true rfl)⟩ rfl (Nat.le_of_ble_eq_true rfl) dJ3_fixAfterInsertion_32 rfl) (fun v9 s10 hf => ?_)
        refine z_cR (rest := [zr v7]) hf (fun v11 s12 hcall => z_runS hC (pc := 35) 1 (m_J3_parentOf X.g v9 s10 s12 v11 hcall) (lw_S q2254 q2255 q102 q2256) hd_J3_parentOf ⟨(Nat.le_of_ble_eq_true rfl), (Nat.le_of_ble_eq_true rfl)⟩ rfl (Nat.le_of_ble_eq_true rfl) dJ3_fixAfterInsertion_35 rfl) (fun v11 s12 hf => ?_)
        refine z_cR (rest := [zr v7]) hf (fun v13 s14 hcall => z_runS hC (pc := 38) 1 (m_J3_leftOf X.g v11 s12 s14 v13 hcall) (lw_S q2257 q2258 q102 q2259) hd_J3_leftOf ⟨(Nat.le_of_ble_eq_true rfl), (Nat.le_of_ble_eq_true rfl)⟩ rfl (Nat.le_of_ble_eq_true rfl) dJ3_fixAfterInsertion_38 rfl) (fun v13 s14 hf => ?_)
        refine z_acmp_ne hC (pc := 41) (tgt := 151) dJ3_fixAfterInsertion_41 rfl (fun c15 => ?_) (fun c15 => ?_)
        · have hf := zif_f hf c15
          refine z_aload_n hC (pc := 151) dJ3_fixAfterInsertion_151 rfl 1 rfl ?_
          refine z_cR (rest := []) hf (fun v16 s17 hcall => z_runS hC (pc := 152) 1 (m_J3_parentOf X.g l1 s14 s17 v16 hcall) (lw_S q2254 q2255 q102 q2256) hd_J3_parentOf ⟨(Nat.le_of_ble_eq_true rfl), (Nat.le_of_ble_eq_true rfl)⟩ rfl (Nat.le_of_ble_eq_true rfl) dJ3_fixAfterInsertion_152 rfl) (fun v16 s17 hf => ?_)
          refine z_cR (rest := []) hf (fun v18 s19 hcall => z_runS hC (pc := 155) 1 (m_J3_parentOf X.g v16 s17 s19 v18 hcall) (lw_S q2254 q2255 q102 q2256) hd_J3_parentOf ⟨(Nat.le_of_ble_eq_true rfl), (Nat.le_of_ble_eq_true rfl)⟩ rfl (Nat.le_of_ble_eq_true rfl) dJ3_fixAfterInsertion_155 rfl) (fun v18 s19 hf => ?_)
          refine z_cR (rest := []) hf (fun v20 s21 hcall => z_runS hC (pc := 158) 1 (m_J3_leftOf X.g v18 s19 s21 v20 hcall) (lw_S q2257 q2258 q102 q2259) hd_J3_leftOf ⟨(Nat.le_of_ble_eq_true rfl), (Nat.le_of_ble_eq_true rfl)⟩ rfl (Nat.le_of_ble_eq_true rfl) dJ3_fixAfterInsertion_158 rfl) (fun v20 s21 hf => ?_)
          refine z_astore_n (lv' := [(2, zr v20), (0, zr (some l0)), (1, zr l1)]) hC (pc := 161) hL dJ3_fixAfterInsertion_161 rfl (Nat.le_of_ble_eq_true rfl) rfl ?_
          refine z_aload_n hC (pc := 162) dJ3_fixAfterInsertion_162 rfl 0 rfl ?_
          refine z_cI (rest := []) hf (fun v22 s23 hcall => z_runS hC (pc := 163) 1 (m_J3_colorOf X.g v20 s21 s23 v22 hcall) (lw_S q2263 q2264 q102 q2265) hd_J3_colorOf ⟨(Nat.le_of_ble_eq_true rfl), (Nat.le_of_ble_eq_true rfl)⟩ rfl (Nat.le_of_ble_eq_true rfl) dJ3_fixAfterInsertion_163 rfl) (fun v22 s23 hf => ?_)
          refine z_if_ne hC (pc := 166) (tgt := 204) dJ3_fixAfterInsertion_166 rfl (fun c24 => ?_) (fun c24 => ?_)
          · have hf := zif_f hf c24
            refine z_aload_n hC (pc := 204) dJ3_fixAfterInsertion_204 rfl 2 rfl ?_
            refine z_aload_n hC (pc := 205) dJ3_fixAfterInsertion_205 rfl 2 rfl ?_
            refine z_cR (rest := [zr l1]) hf (fun v25 s26 hcall => z_runS hC (pc := 206) 1 (m_J3_parentOf X.g l1 s23 s26 v25 hcall) (lw_S q2254 q2255 q102 q2256) hd_J3_parentOf ⟨(Nat.le_of_ble_eq_true rfl), (Nat.le_of_ble_eq_true rfl)⟩ rfl (Nat.le_of_ble_eq_true rfl) dJ3_fixAfterInsertion_206 rfl) (fun v25 s26 hf => ?_)
            refine z_cR (rest := [zr l1]) hf (fun v27 s28 hcall => z_runS hC (pc := 209) 1 (m_J3_leftOf X.g v25 s26 s28 v27 hcall) (lw_S q2257 q2258 q102 q2259) hd_J3_leftOf ⟨(Nat.le_of_ble_eq_true rfl), (Nat.le_of_ble_eq_true rfl)⟩ rfl (Nat.le_of_ble_eq_true rfl) dJ3_fixAfterInsertion_209 rfl) (fun v27 s28 hf => ?_)
            refine z_acmp_ne hC (pc := 212) (tgt := 225) dJ3_fixAfterInsertion_212 rfl (fun c29 => ?_) (fun c29 => ?_)
            · have hf := zif_f hf c29
              refine ZW.perm (lv' := [(0, zr (some l0)), (1, zr l1)]) [1, 2] rfl ?_
              exact w_J3_fixAfterInsertion_b225 hC hL hno hQ k5 hk5 l0 l1 s28 hf
            · have hf := zif_t hf c29
              refine z_aload_n hC (pc := 215) dJ3_fixAfterInsertion_215 rfl 2 rfl ?_
              refine z_cR (rest := []) hf (fun v30 s31 hcall => z_runS hC (pc := 216) 1 (m_J3_parentOf X.g l1 s28 s31 v30 hcall) (lw_S q2254 q2255 q102 q2256) hd_J3_parentOf ⟨(Nat.le_of_ble_eq_true rfl), (Nat.le_of_ble_eq_true rfl)⟩ rfl (Nat.le_of_ble_eq_true rfl) dJ3_fixAfterInsertion_216 rfl) (fun v30 s31 hf => ?_)
              refine z_astore_n (lv' := [(1, zr v30), (2, zr v20), (0, zr (some l0))]) hC (pc := 219) hL dJ3_fixAfterInsertion_219 rfl (Nat.le_of_ble_eq_true rfl) rfl ?_
              refine z_aload_n hC (pc := 220) dJ3_fixAfterInsertion_220 rfl 2 rfl ?_
              refine z_aload_n hC (pc := 221) dJ3_fixAfterInsertion_221 rfl 0 rfl ?_
              obtain ⟨fs32, ha33, hf⟩ := z_rcN hf
              refine z_cU (rest := []) hf (fun v34 s35 hcall => z_runV hC (pc := 222) zcJ3 1 ha33 (m_J3_rotateRight X.g l0 v30 s31 s35 v34 hcall) (lw_V q2273 q2275 qs39 q102 q2276) hdV_J3_rotateRight ⟨(Nat.le_of_ble_eq_true rfl), (Nat.le_of_ble_eq_true rfl)⟩ rfl (Nat.le_of_ble_eq_true rfl) dJ3_fixAfterInsertion_222 rfl) (fun _ s35 hf => ?_)
              refine ZW.perm (lv' := [(0, zr (some l0)), (1, zr v30)]) [2, 0] rfl ?_
              exact w_J3_fixAfterInsertion_b225 hC hL hno hQ k5 hk5 l0 v30 s35 hf
          · have hf := zif_t hf c24
            refine z_aload_n hC (pc := 169) dJ3_fixAfterInsertion_169 rfl 2 rfl ?_
            refine z_cR (rest := []) hf (fun v36 s37 hcall => z_runS hC (pc := 170) 1 (m_J3_parentOf X.g l1 s23 s37 v36 hcall) (lw_S q2254 q2255 q102 q2256) hd_J3_parentOf ⟨(Nat.le_of_ble_eq_true rfl), (Nat.le_of_ble_eq_true rfl)⟩ rfl (Nat.le_of_ble_eq_true rfl) dJ3_fixAfterInsertion_170 rfl) (fun v36 s37 hf => ?_)
            refine z_iconst (v := 1) hC (pc := 173) dJ3_fixAfterInsertion_173 zki_1 ?_
            refine z_cU (rest := []) hf (fun v38 s39 hcall => z_runS hC (pc := 174) 2 (m_J3_setColor X.g v36 1 s37 s39 v38 hcall) (lw_S q2266 q2267 q102 q2268) hd_J3_setColor ⟨(Nat.le_of_ble_eq_true rfl), (Nat.le_of_ble_eq_true rfl)⟩ rfl (Nat.le_of_ble_eq_true rfl) dJ3_fixAfterInsertion_174 rfl) (fun _ s39 hf => ?_)
            refine z_aload_n hC (pc := 177) dJ3_fixAfterInsertion_177 rfl 0 rfl ?_
            refine z_iconst (v := 1) hC (pc := 178) dJ3_fixAfterInsertion_178 zki_1 ?_
            refine z_cU (rest := []) hf (fun v40 s41 hcall => z_runS hC (pc := 179) 2 (m_J3_setColor X.g v20 1 s39 s41 v40 hcall) (lw_S q2266 q2267 q102 q2268) hd_J3_setColor ⟨(Nat.le_of_ble_eq_true rfl), (Nat.le_of_ble_eq_true rfl)⟩ rfl (Nat.le_of_ble_eq_true rfl) dJ3_fixAfterInsertion_179 rfl) (fun _ s41 hf => ?_)
            refine z_aload_n hC (pc := 182) dJ3_fixAfterInsertion_182 rfl 2 rfl ?_
            refine z_cR (rest := []) hf (fun v42 s43 hcall => z_runS hC (pc := 183) 1 (m_J3_parentOf X.g l1 s41 s43 v42 hcall) (lw_S q2254 q2255 q102 q2256) hd_J3_parentOf ⟨(Nat.le_of_ble_eq_true rfl), (Nat.le_of_ble_eq_true rfl)⟩ rfl (Nat.le_of_ble_eq_true rfl) dJ3_fixAfterInsertion_183 rfl) (fun v42 s43 hf => ?_)
            refine z_cR (rest := []) hf (fun v44 s45 hcall => z_runS hC (pc := 186) 1 (m_J3_parentOf X.g v42 s43 s45 v44 hcall) (lw_S q2254 q2255 q102 q2256) hd_J3_parentOf ⟨(Nat.le_of_ble_eq_true rfl), (Nat.le_of_ble_eq_true rfl)⟩ rfl (Nat.le_of_ble_eq_true rfl) dJ3_fixAfterInsertion_186 rfl) (fun v44 s45 hf => ?_)
            refine z_iconst (v := 0) hC (pc := 189) dJ3_fixAfterInsertion_189 zki_0 ?_
            refine z_cU (rest := []) hf (fun v46 s47 hcall => z_runS hC (pc := 190) 2 (m_J3_setColor X.g v44 0 s45 s47 v46 hcall) (lw_S q2266 q2267 q102 q2268) hd_J3_setColor ⟨(Nat.le_of_ble_eq_true rfl), (Nat.le_of_ble_eq_true rfl)⟩ rfl (Nat.le_of_ble_eq_true rfl) dJ3_fixAfterInsertion_190 rfl) (fun _ s47 hf => ?_)
            refine z_aload_n hC (pc := 193) dJ3_fixAfterInsertion_193 rfl 2 rfl ?_
            refine z_cR (rest := []) hf (fun v48 s49 hcall => z_runS hC (pc := 194) 1 (m_J3_parentOf X.g l1 s47 s49 v48 hcall) (lw_S q2254 q2255 q102 q2256) hd_J3_parentOf ⟨(Nat.le_of_ble_eq_true rfl), (Nat.le_of_ble_eq_true rfl)⟩ rfl (Nat.le_of_ble_eq_true rfl) dJ3_fixAfterInsertion_194 rfl) (fun v48 s49 hf => ?_)
            refine z_cR (rest := []) hf (fun v50 s51 hcall => z_runS hC (pc := 197) 1 (m_J3_parentOf X.g v48 s49 s51 v50 hcall) (lw_S q2254 q2255 q102 q2256) hd_J3_parentOf ⟨(Nat.le_of_ble_eq_true rfl), (Nat.le_of_ble_eq_true rfl)⟩ rfl (Nat.le_of_ble_eq_true rfl) dJ3_fixAfterInsertion_197 rfl) (fun v50 s51 hf => ?_)
            refine z_astore_n (lv' := [(1, zr v50), (2, zr v20), (0, zr (some l0))]) hC (pc := 200) hL dJ3_fixAfterInsertion_200 rfl (Nat.le_of_ble_eq_true rfl) rfl ?_
            refine z_goto hC (pc := 201) (tgt := 255) dJ3_fixAfterInsertion_201 rfl ?_
            refine ZW.perm (lv' := [(0, zr (some l0)), (1, zr v50)]) [2, 0] rfl ?_
            exact w_J3_fixAfterInsertion_b255 hC hL hno hQ k5 hk5 l0 v50 s51 hf
        · have hf := zif_t hf c15
          refine z_aload_n hC (pc := 44) dJ3_fixAfterInsertion_44 rfl 1 rfl ?_
          refine z_cR (rest := []) hf (fun v52 s53 hcall => z_runS hC (pc := 45) 1 (m_J3_parentOf X.g l1 s14 s53 v52 hcall) (lw_S q2254 q2255 q102 q2256) hd_J3_parentOf ⟨(Nat.le_of_ble_eq_true rfl), (Nat.le_of_ble_eq_true rfl)⟩ rfl (Nat.le_of_ble_eq_true rfl) dJ3_fixAfterInsertion_45 rfl) (fun v52 s53 hf => ?_)
          refine z_cR (rest := []) hf (fun v54 s55 hcall => z_runS hC (pc := 48) 1 (m_J3_parentOf X.g v52 s53 s55 v54 hcall) (lw_S q2254 q2255 q102 q2256) hd_J3_parentOf ⟨(Nat.le_of_ble_eq_true rfl), (Nat.le_of_ble_eq_true rfl)⟩ rfl (Nat.le_of_ble_eq_true rfl) dJ3_fixAfterInsertion_48 rfl) (fun v54 s55 hf => ?_)
          refine z_cR (rest := []) hf (fun v56 s57 hcall => z_runS hC (pc := 51) 1 (m_J3_rightOf X.g v54 s55 s57 v56 hcall) (lw_S q2260 q2261 q102 q2262) hd_J3_rightOf ⟨(Nat.le_of_ble_eq_true rfl), (Nat.le_of_ble_eq_true rfl)⟩ rfl (Nat.le_of_ble_eq_true rfl) dJ3_fixAfterInsertion_51 rfl) (fun v56 s57 hf => ?_)
          refine z_astore_n (lv' := [(2, zr v56), (0, zr (some l0)), (1, zr l1)]) hC (pc := 54) hL dJ3_fixAfterInsertion_54 rfl (Nat.le_of_ble_eq_true rfl) rfl ?_
          refine z_aload_n hC (pc := 55) dJ3_fixAfterInsertion_55 rfl 0 rfl ?_
          refine z_cI (rest := []) hf (fun v58 s59 hcall => z_runS hC (pc := 56) 1 (m_J3_colorOf X.g v56 s57 s59 v58 hcall) (lw_S q2263 q2264 q102 q2265) hd_J3_colorOf ⟨(Nat.le_of_ble_eq_true rfl), (Nat.le_of_ble_eq_true rfl)⟩ rfl (Nat.le_of_ble_eq_true rfl) dJ3_fixAfterInsertion_56 rfl) (fun v58 s59 hf => ?_)
          refine z_if_ne hC (pc := 59) (tgt := 97) dJ3_fixAfterInsertion_59 rfl (fun c60 => ?_) (fun c60 => ?_)
          · have hf := zif_f hf c60
            refine z_aload_n hC (pc := 97) dJ3_fixAfterInsertion_97 rfl 2 rfl ?_
            refine z_aload_n hC (pc := 98) dJ3_fixAfterInsertion_98 rfl 2 rfl ?_
            refine z_cR (rest := [zr l1]) hf (fun v61 s62 hcall => z_runS hC (pc := 99) 1 (m_J3_parentOf X.g l1 s59 s62 v61 hcall) (lw_S q2254 q2255 q102 q2256) hd_J3_parentOf ⟨(Nat.le_of_ble_eq_true rfl), (Nat.le_of_ble_eq_true rfl)⟩ rfl (Nat.le_of_ble_eq_true rfl) dJ3_fixAfterInsertion_99 rfl) (fun v61 s62 hf => ?_)
            refine z_cR (rest := [zr l1]) hf (fun v63 s64 hcall => z_runS hC (pc := 102) 1 (m_J3_rightOf X.g v61 s62 s64 v63 hcall) (lw_S q2260 q2261 q102 q2262) hd_J3_rightOf ⟨(Nat.le_of_ble_eq_true rfl), (Nat.le_of_ble_eq_true rfl)⟩ rfl (Nat.le_of_ble_eq_true rfl) dJ3_fixAfterInsertion_102 rfl) (fun v63 s64 hf => ?_)
            refine z_acmp_ne hC (pc := 105) (tgt := 118) dJ3_fixAfterInsertion_105 rfl (fun c65 => ?_) (fun c65 => ?_)
            · have hf := zif_f hf c65
              refine ZW.perm (lv' := [(0, zr (some l0)), (1, zr l1)]) [1, 2] rfl ?_
              exact w_J3_fixAfterInsertion_b118 hC hL hno hQ k5 hk5 l0 l1 s64 hf
            · have hf := zif_t hf c65
              refine z_aload_n hC (pc := 108) dJ3_fixAfterInsertion_108 rfl 2 rfl ?_
              refine z_cR (rest := []) hf (fun v66 s67 hcall => z_runS hC (pc := 109) 1 (m_J3_parentOf X.g l1 s64 s67 v66 hcall) (lw_S q2254 q2255 q102 q2256) hd_J3_parentOf ⟨(Nat.le_of_ble_eq_true rfl), (Nat.le_of_ble_eq_true rfl)⟩ rfl (Nat.le_of_ble_eq_true rfl) dJ3_fixAfterInsertion_109 rfl) (fun v66 s67 hf => ?_)
              refine z_astore_n (lv' := [(1, zr v66), (2, zr v56), (0, zr (some l0))]) hC (pc := 112) hL dJ3_fixAfterInsertion_112 rfl (Nat.le_of_ble_eq_true rfl) rfl ?_
              refine z_aload_n hC (pc := 113) dJ3_fixAfterInsertion_113 rfl 2 rfl ?_
              refine z_aload_n hC (pc := 114) dJ3_fixAfterInsertion_114 rfl 0 rfl ?_
              obtain ⟨fs68, ha69, hf⟩ := z_rcN hf
              refine z_cU (rest := []) hf (fun v70 s71 hcall => z_runV hC (pc := 115) zcJ3 1 ha69 (m_J3_rotateLeft X.g l0 v66 s67 s71 v70 hcall) (lw_V q2269 q2271 qs38 q102 q2272) hdV_J3_rotateLeft ⟨(Nat.le_of_ble_eq_true rfl), (Nat.le_of_ble_eq_true rfl)⟩ rfl (Nat.le_of_ble_eq_true rfl) dJ3_fixAfterInsertion_115 rfl) (fun _ s71 hf => ?_)
              refine ZW.perm (lv' := [(0, zr (some l0)), (1, zr v66)]) [2, 0] rfl ?_
              exact w_J3_fixAfterInsertion_b118 hC hL hno hQ k5 hk5 l0 v66 s71 hf
          · have hf := zif_t hf c60
            refine z_aload_n hC (pc := 62) dJ3_fixAfterInsertion_62 rfl 2 rfl ?_
            refine z_cR (rest := []) hf (fun v72 s73 hcall => z_runS hC (pc := 63) 1 (m_J3_parentOf X.g l1 s59 s73 v72 hcall) (lw_S q2254 q2255 q102 q2256) hd_J3_parentOf ⟨(Nat.le_of_ble_eq_true rfl), (Nat.le_of_ble_eq_true rfl)⟩ rfl (Nat.le_of_ble_eq_true rfl) dJ3_fixAfterInsertion_63 rfl) (fun v72 s73 hf => ?_)
            refine z_iconst (v := 1) hC (pc := 66) dJ3_fixAfterInsertion_66 zki_1 ?_
            refine z_cU (rest := []) hf (fun v74 s75 hcall => z_runS hC (pc := 67) 2 (m_J3_setColor X.g v72 1 s73 s75 v74 hcall) (lw_S q2266 q2267 q102 q2268) hd_J3_setColor ⟨(Nat.le_of_ble_eq_true rfl), (Nat.le_of_ble_eq_true rfl)⟩ rfl (Nat.le_of_ble_eq_true rfl) dJ3_fixAfterInsertion_67 rfl) (fun _ s75 hf => ?_)
            refine z_aload_n hC (pc := 70) dJ3_fixAfterInsertion_70 rfl 0 rfl ?_
            refine z_iconst (v := 1) hC (pc := 71) dJ3_fixAfterInsertion_71 zki_1 ?_
            refine z_cU (rest := []) hf (fun v76 s77 hcall => z_runS hC (pc := 72) 2 (m_J3_setColor X.g v56 1 s75 s77 v76 hcall) (lw_S q2266 q2267 q102 q2268) hd_J3_setColor ⟨(Nat.le_of_ble_eq_true rfl), (Nat.le_of_ble_eq_true rfl)⟩ rfl (Nat.le_of_ble_eq_true rfl) dJ3_fixAfterInsertion_72 rfl) (fun _ s77 hf => ?_)
            refine z_aload_n hC (pc := 75) dJ3_fixAfterInsertion_75 rfl 2 rfl ?_
            refine z_cR (rest := []) hf (fun v78 s79 hcall => z_runS hC (pc := 76) 1 (m_J3_parentOf X.g l1 s77 s79 v78 hcall) (lw_S q2254 q2255 q102 q2256) hd_J3_parentOf ⟨(Nat.le_of_ble_eq_true rfl), (Nat.le_of_ble_eq_true rfl)⟩ rfl (Nat.le_of_ble_eq_true rfl) dJ3_fixAfterInsertion_76 rfl) (fun v78 s79 hf => ?_)
            refine z_cR (rest := []) hf (fun v80 s81 hcall => z_runS hC (pc := 79) 1 (m_J3_parentOf X.g v78 s79 s81 v80 hcall) (lw_S q2254 q2255 q102 q2256) hd_J3_parentOf ⟨(Nat.le_of_ble_eq_true rfl), (Nat.le_of_ble_eq_true rfl)⟩ rfl (Nat.le_of_ble_eq_true rfl) dJ3_fixAfterInsertion_79 rfl) (fun v80 s81 hf => ?_)
            refine z_iconst (v := 0) hC (pc := 82) dJ3_fixAfterInsertion_82 zki_0 ?_
            refine z_cU (rest := []) hf (fun v82 s83 hcall => z_runS hC (pc := 83) 2 (m_J3_setColor X.g v80 0 s81 s83 v82 hcall) (lw_S q2266 q2267 q102 q2268) hd_J3_setColor ⟨(Nat.le_of_ble_eq_true rfl), (Nat.le_of_ble_eq_true rfl)⟩ rfl (Nat.le_of_ble_eq_true rfl) dJ3_fixAfterInsertion_83 rfl) (fun _ s83 hf => ?_)
            refine z_aload_n hC (pc := 86) dJ3_fixAfterInsertion_86 rfl 2 rfl ?_
            refine z_cR (rest := []) hf (fun v84 s85 hcall => z_runS hC (pc := 87) 1 (m_J3_parentOf X.g l1 s83 s85 v84 hcall) (lw_S q2254 q2255 q102 q2256) hd_J3_parentOf ⟨(Nat.le_of_ble_eq_true rfl), (Nat.le_of_ble_eq_true rfl)⟩ rfl (Nat.le_of_ble_eq_true rfl) dJ3_fixAfterInsertion_87 rfl) (fun v84 s85 hf => ?_)
            refine z_cR (rest := []) hf (fun v86 s87 hcall => z_runS hC (pc := 90) 1 (m_J3_parentOf X.g v84 s85 s87 v86 hcall) (lw_S q2254 q2255 q102 q2256) hd_J3_parentOf ⟨(Nat.le_of_ble_eq_true rfl), (Nat.le_of_ble_eq_true rfl)⟩ rfl (Nat.le_of_ble_eq_true rfl) dJ3_fixAfterInsertion_90 rfl) (fun v86 s87 hf => ?_)
            refine z_astore_n (lv' := [(1, zr v86), (2, zr v56), (0, zr (some l0))]) hC (pc := 93) hL dJ3_fixAfterInsertion_93 rfl (Nat.le_of_ble_eq_true rfl) rfl ?_
            refine z_goto hC (pc := 94) (tgt := 148) dJ3_fixAfterInsertion_94 rfl ?_
            refine ZW.perm (lv' := [(0, zr (some l0)), (1, zr v86)]) [2, 0] rfl ?_
            exact w_J3_fixAfterInsertion_b148 hC hL hno hQ k5 hk5 l0 v86 s87 hf
def f_J3_fixAfterInsertion_l5 (G : Nat → Nat) : Nat → Nat → Option Nat → zS → Option (Unit × zS)
  | 0 => fun _ _ _ => none
  | n + 1 => f_J3_fixAfterInsertion_b5 G (f_J3_fixAfterInsertion_l5 G n)
theorem w_J3_fixAfterInsertion_l5 {X : zX} (hC : ZC X RJ3 cJ3_fixAfterInsertion none 2 22) (hL : X.nL = 3) (hno : ∀ x ∈ X.c.exceptionTable.toList, False) {r : Unit} {sF : zS} (hQ : ZQ X (.inl none, sF)) : ∀ (n : Nat) (l0 : Nat) (l1 : Option Nat) (s0 : zS) (_ : f_J3_fixAfterInsertion_l5 X.g.1 n l0 l1 s0 = some (r, sF)), ZW X s0 5 [(0, zr (some l0)), (1, zr l1)] [] := by
  intro n
  induction n with
  | zero => intro l0 l1 s0 hf; exact absurd (show (none : Option (Unit × zS)) = some (r, sF) from hf) (fun z => nomatch z)
  | succ n ih => intro l0 l1 s0 hf; exact w_J3_fixAfterInsertion_b5 hC hL hno hQ (f_J3_fixAfterInsertion_l5 X.g.1 n) ih l0 l1 s0 hf
def f_J3_fixAfterInsertion (G : Nat → Nat) (l0 : Nat) (l1 : Option Nat) (s0 : zS) : Option (Unit × zS) :=
zo (zputN G s0 l1 21 5 .boolean 0) fun s1 =>
f_J3_fixAfterInsertion_l5 G 2000 l0 l1 s1
set_option maxHeartbeats 4000000 in
theorem m_J3_fixAfterInsertion (Γ : zG) (l0 : Nat) (l1 : Option Nat) (s0 s1 : zS) (r : Unit) (hf : f_J3_fixAfterInsertion Γ.1 l0 l1 s0 = some (r, s1)) : ZM Γ yJ3_fixAfterInsertion (ws_ yJ3_fixAfterInsertion cJ3_fixAfterInsertion 3 none) 2 22 [zr (some l0), zr l1] s0 (.inl none, s1) := by
  refine ZM.of (own := RJ3) (by decide) rfl (Nat.le_of_ble_eq_true rfl) ?_
  intro X hg hC hL hno hQ hin
  subst hg
  unfold f_J3_fixAfterInsertion at hf
  refine z_aload_n hC (pc := 0) dJ3_fixAfterInsertion_0 rfl 1 rfl ?_
  refine z_iconst (v := 0) hC (pc := 1) dJ3_fixAfterInsertion_1 zki_0 ?_
  refine z_putN hC (pc := 2) in_J27 tyJ27 tyJ27_ok nmJ27 zcJ27 5 (Nat.le_of_ble_eq_true rfl) (zLk.o hC q2232) zsm (Or.inl rfl) (Or.inl rfl) dJ3_fixAfterInsertion_2 hf (fun s1 hf => ?_)
  exact w_J3_fixAfterInsertion_l5 hC hL hno hQ 2000 l0 l1 s1 hf
/-! java/util/TreeMap.addEntry(Ljava/lang/Object;Ljava/lang/Object;Ljava/util/TreeMap$Entry;Z)V -/
def f_J3_addEntry_b32 (G : Nat → Nat) (l0 : Nat) (l5 : Option Nat) (s0 : zS) : Option (Unit × zS) :=
zo (zrc s0 (some l0) 14) fun _ =>
zb (f_J3_fixAfterInsertion G l0 l5 s0) fun _ s4 =>
zo (zgI s4 (some l0) 14 4) fun v5 =>
zo (zput G s4 (some l0) 14 4 (.int (v5 + 1))) fun s6 =>
zo (zgI s6 (some l0) 14 5) fun v7 =>
zo (zput G s6 (some l0) 14 5 (.int (v7 + 1))) fun s8 =>
some ((), s8)
set_option maxHeartbeats 4000000 in
theorem w_J3_addEntry_b32 {X : zX} (hC : ZC X RJ3 cJ3_addEntry none 3 44) (hL : X.nL = 6) (hno : ∀ x ∈ X.c.exceptionTable.toList, False) {r : Unit} {sF : zS} (hQ : ZQ X (.inl none, sF)) (l0 : Nat) (l5 : Option Nat) (s0 : zS) (hf : f_J3_addEntry_b32 X.g.1 l0 l5 s0 = some (r, sF)) : ZW X s0 32 [(0, zr (some l0)), (5, zr l5)] [] := by
  unfold f_J3_addEntry_b32 at hf
  refine z_aload_n hC (pc := 32) dJ3_addEntry_32 rfl 0 rfl ?_
  refine z_aload hC (pc := 33) dJ3_addEntry_33 1 rfl ?_
  obtain ⟨fs1, ha2, hf⟩ := z_rcN hf
  refine z_cU (rest := []) hf (fun v3 s4 hcall => z_runV hC (pc := 35) zcJ3 1 ha2 (m_J3_fixAfterInsertion X.g l0 l5 s0 s4 v3 hcall) (lw_V q2250 q2252 qs37 q102 q2253) hdV_J3_fixAfterInsertion ⟨(Nat.le_of_ble_eq_true rfl), (Nat.le_of_ble_eq_true rfl)⟩ rfl (Nat.le_of_ble_eq_true rfl) dJ3_addEntry_35 rfl) (fun _ s4 hf => ?_)
  refine z_aload_n hC (pc := 38) dJ3_addEntry_38 rfl 0 rfl ?_
  refine z_dup hC (pc := 39) dJ3_addEntry_39 rfl ?_
  refine z_getI hC (pc := 40) in_J3 zcJ3 4 (Nat.le_of_ble_eq_true rfl) (zLk.o hC q242) zsm dJ3_addEntry_40 hf (fun v5 hf => ?_)
  refine z_iconst (v := 1) hC (pc := 43) dJ3_addEntry_43 zki_1 ?_
  refine z_iadd hC (pc := 44) dJ3_addEntry_44 ?_
  refine z_putV (v := zi (v5 + 1)) hC (pc := 45) in_J3 tyJ3 tyJ3_ok nmJ3 zcJ3 4 (Nat.le_of_ble_eq_true rfl) (zLk.o hC q242) zsm (Or.inl rfl) rfl rfl dJ3_addEntry_45 hf (fun s6 hf => ?_)
  refine z_aload_n hC (pc := 48) dJ3_addEntry_48 rfl 0 rfl ?_
  refine z_dup hC (pc := 49) dJ3_addEntry_49 rfl ?_
  refine z_getI hC (pc := 50) in_J3 zcJ3 5 (Nat.le_of_ble_eq_true rfl) (zLk.o hC q243) zsm dJ3_addEntry_50 hf (fun v7 hf => ?_)
  refine z_iconst (v := 1) hC (pc := 53) dJ3_addEntry_53 zki_1 ?_
  refine z_iadd hC (pc := 54) dJ3_addEntry_54 ?_
  refine z_putV (v := zi (v7 + 1)) hC (pc := 55) in_J3 tyJ3 tyJ3_ok nmJ3 zcJ3 5 (Nat.le_of_ble_eq_true rfl) (zLk.o hC q243) zsm (Or.inl rfl) rfl rfl dJ3_addEntry_55 hf (fun s8 hf => ?_)
  exact z_return hC (pc := 58) hQ dJ3_addEntry_58 hf
def f_J3_addEntry (G : Nat → Nat) (l0 : Nat) (l1 : Option Nat) (l2 : Option Nat) (l3 : Option Nat) (l4 : Int32) (s0 : zS) : Option (Unit × zS) :=
zb (znewO G s0 21 6 [.null, .null, .null, .null, .null, .int 0]) fun a1 s2 =>
zb (f_J27_init G a1 l1 l2 l3 s2) fun _ s4 =>
if l4 = 0 then (zo (zput G s4 l3 21 3 (va_rf (some a1))) fun s6 =>
f_J3_addEntry_b32 G l0 (some a1) s6)
else (zo (zput G s4 l3 21 2 (va_rf (some a1))) fun s7 =>
f_J3_addEntry_b32 G l0 (some a1) s7)
set_option maxHeartbeats 4000000 in
theorem m_J3_addEntry (Γ : zG) (l0 : Nat) (l1 : Option Nat) (l2 : Option Nat) (l3 : Option Nat) (l4 : Int32) (s0 s1 : zS) (r : Unit) (hf : f_J3_addEntry Γ.1 l0 l1 l2 l3 l4 s0 = some (r, s1)) : ZM Γ yJ3_addEntry (ws_ yJ3_addEntry cJ3_addEntry 6 none) 3 44 [zr (some l0), zr l1, zr l2, zr l3, zi l4] s0 (.inl none, s1) := by
  refine ZM.of (own := RJ3) (by decide) rfl (Nat.le_of_ble_eq_true rfl) ?_
  intro X hg hC hL hno hQ hin
  subst hg
  unfold f_J3_addEntry at hf
  refine z_new hC (pc := 0) in_J27 tyJ27 tyJ27_ok zcJ27 q2217 q2218 q136 rfl zdJ27 dJ3_addEntry_0 hf (fun a1 s2 hf => ?_)
  refine z_dup hC (pc := 3) dJ3_addEntry_3 rfl ?_
  refine z_aload_n hC (pc := 4) dJ3_addEntry_4 rfl 1 rfl ?_
  refine z_aload_n hC (pc := 5) dJ3_addEntry_5 rfl 2 rfl ?_
  refine z_aload_n hC (pc := 6) dJ3_addEntry_6 rfl 3 rfl ?_
  refine z_cU (rest := [zr (some a1)]) hf (fun v3 s4 hcall => z_runI hC (pc := 7) 3 (m_J27_init X.g a1 l1 l2 l3 s2 s4 v3 hcall) q2221 rfl q136 q2219 q2220 hd_J27_init ⟨(Nat.le_of_ble_eq_true rfl), (Nat.le_of_ble_eq_true rfl)⟩ rfl (Nat.le_of_ble_eq_true rfl) dJ3_addEntry_7 rfl) (fun _ s4 hf => ?_)
  refine z_astore (lv' := [(5, zr (some a1)), (0, zr (some l0)), (1, zr l1), (2, zr l2), (3, zr l3), (4, zi l4)]) hC (pc := 10) hL dJ3_addEntry_10 (Nat.le_of_ble_eq_true rfl) rfl ?_
  refine z_iload hC (pc := 12) dJ3_addEntry_12 5 rfl ?_
  refine z_if_eq hC (pc := 14) (tgt := 26) dJ3_addEntry_14 rfl (fun c5 => ?_) (fun c5 => ?_)
  · have hf := zif_t hf c5
    refine z_aload_n hC (pc := 26) dJ3_addEntry_26 rfl 4 rfl ?_
    refine z_aload hC (pc := 27) dJ3_addEntry_27 0 rfl ?_
    refine z_putV (v := zr (some a1)) hC (pc := 29) in_J27 tyJ27 tyJ27_ok nmJ27 zcJ27 3 (Nat.le_of_ble_eq_true rfl) (zLk.o hC q2228) zsm (Or.inl rfl) rfl (zfr (some a1)) dJ3_addEntry_29 hf (fun s6 hf => ?_)
    refine ZW.perm (lv' := [(0, zr (some l0)), (5, zr (some a1))]) [1, 0] rfl ?_
    exact w_J3_addEntry_b32 hC hL hno hQ l0 (some a1) s6 hf
  · have hf := zif_f hf c5
    refine z_aload_n hC (pc := 17) dJ3_addEntry_17 rfl 4 rfl ?_
    refine z_aload hC (pc := 18) dJ3_addEntry_18 0 rfl ?_
    refine z_putV (v := zr (some a1)) hC (pc := 20) in_J27 tyJ27 tyJ27_ok nmJ27 zcJ27 2 (Nat.le_of_ble_eq_true rfl) (zLk.o hC q2227) zsm (Or.inl rfl) rfl (zfr (some a1)) dJ3_addEntry_20 hf (fun s7 hf => ?_)
    refine z_goto hC (pc := 23) (tgt := 32) dJ3_addEntry_23 rfl ?_
    refine ZW.perm (lv' := [(0, zr (some l0)), (5, zr (some a1))]) [1, 0] rfl ?_
    exact w_J3_addEntry_b32 hC hL hno hQ l0 (some a1) s7 hf
