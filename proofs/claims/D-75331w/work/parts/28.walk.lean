set_option maxRecDepth 100000
/-! BlockingShopModel.findStarts()Z -/
def f_X8_findStarts_b61 (G : Nat → Nat) (k37 : Nat → Int32 → Int32 → Int32 → zS → Option (Int32 × zS)) (l0 : Nat) (l1 : Int32) (l2 : Int32) (l3 : Int32) (s0 : zS) : Option (Int32 × zS) :=
k37 l0 l1 l2 (l3 + 1) s0
set_option maxHeartbeats 4000000 in
theorem w_X8_findStarts_b61 {X : zX} (hC : ZC X RX8 cX8_findStarts (some .boolean) 5 87) (hL : X.nL = 4) (hno : ∀ x ∈ X.c.exceptionTable.toList, False) {r : Int32} {sF : zS} (hQ : ZQ X (.inl (some (zi r)), sF)) (k37 : Nat → Int32 → Int32 → Int32 → zS → Option (Int32 × zS)) (hk37 : ∀ (l0 : Nat) (l1 : Int32) (l2 : Int32) (l3 : Int32) (s0 : zS), k37 l0 l1 l2 l3 s0 = some (r, sF) → ZW X s0 37 [(0, zr (some l0)), (1, zi l1), (2, zi l2), (3, zi l3)] []) (l0 : Nat) (l1 : Int32) (l2 : Int32) (l3 : Int32) (s0 : zS) (hf : f_X8_findStarts_b61 X.g.1 k37 l0 l1 l2 l3 s0 = some (r, sF)) : ZW X s0 61 [(0, zr (some l0)), (1, zi l1), (2, zi l2), (3, zi l3)] [] := by
  unfold f_X8_findStarts_b61 at hf
  refine z_iinc (v := 1) (lv' := [(3, zi (l3 + 1)), (0, zr (some l0)), (1, zi l1), (2, zi l2)]) hC (pc := 61) hL dX8_findStarts_61 3 rfl zki_1 (Nat.le_of_ble_eq_true rfl) rfl ?_
  refine z_goto hC (pc := 64) (tgt := 37) dX8_findStarts_64 rfl ?_
  refine ZW.perm (lv' := [(0, zr (some l0)), (1, zi l1), (2, zi l2), (3, zi (l3 + 1))]) [1, 2, 3, 0] rfl ?_
  exact hk37 l0 l1 l2 (l3 + 1) s0 hf
def f_X8_findStarts_b37 (G : Nat → Nat) (k27 : Nat → Int32 → zS → Option (Int32 × zS)) (k37 : Nat → Int32 → Int32 → Int32 → zS → Option (Int32 × zS)) (l0 : Nat) (l1 : Int32) (l2 : Int32) (l3 : Int32) (s0 : zS) : Option (Int32 × zS) :=
if 36 ≤ l3 then (if l2 = 0 then (zrn .boolean 1 s0)
else (k27 l0 (l1 + 1) s0))
else (zo (zrc s0 (some l0) 6) fun _ =>
zb (f_X8_isThere G l0 l3 s0) fun v5 s6 =>
if v5 = 0 then (f_X8_findStarts_b61 G k37 l0 l1 l2 l3 s6)
else (zo (zrc s6 (some l0) 6) fun _ =>
zb (f_X8_raises G l0 l3 s6) fun v10 s11 =>
if v10 = 0 then (f_X8_findStarts_b61 G k37 l0 l1 l2 l3 s11)
else (f_X8_findStarts_b61 G k37 l0 l1 1 l3 s11)))
set_option maxHeartbeats 4000000 in
theorem w_X8_findStarts_b37 {X : zX} (hC : ZC X RX8 cX8_findStarts (some .boolean) 5 87) (hL : X.nL = 4) (hno : ∀ x ∈ X.c.exceptionTable.toList, False) {r : Int32} {sF : zS} (hQ : ZQ X (.inl (some (zi r)), sF)) (k27 : Nat → Int32 → zS → Option (Int32 × zS)) (hk27 : ∀ (l0 : Nat) (l1 : Int32) (s0 : zS), k27 l0 l1 s0 = some (r, sF) → ZW X s0 27 [(0, zr (some l0)), (1, zi l1)] []) (k37 : Nat → Int32 → Int32 → Int32 → zS → Option (Int32 × zS)) (hk37 : ∀ (l0 : Nat) (l1 : Int32) (l2 : Int32) (l3 : Int32) (s0 : zS), k37 l0 l1 l2 l3 s0 = some (r, sF) → ZW X s0 37 [(0, zr (some l0)), (1, zi l1), (2, zi l2), (3, zi l3)] []) (l0 : Nat) (l1 : Int32) (l2 : Int32) (l3 : Int32) (s0 : zS) (hf : f_X8_findStarts_b37 X.g.1 k27 k37 l0 l1 l2 l3 s0 = some (r, sF)) : ZW X s0 37 [(0, zr (some l0)), (1, zi l1), (2, zi l2), (3, zi l3)] [] := by
  unfold f_X8_findStarts_b37 at hf
  refine z_iload_n hC (pc := 37) dX8_findStarts_37 rfl 3 rfl ?_
  refine z_bipush (v := 36) hC (pc := 38) dX8_findStarts_38 zkb_36 ?_
  refine z_icmp_ge hC (pc := 40) (tgt := 67) dX8_findStarts_40 rfl (fun c1 => ?_) (fun c1 => ?_)
  · have hf := zif_t hf c1
    refine z_iload_n hC (pc := 67) dX8_findStarts_67 rfl 2 rfl ?_
    refine z_if_ne hC (pc := 68) (tgt := 73) dX8_findStarts_68 rfl (fun c2 => ?_) (fun c2 => ?_)
    · have hf := zif_f hf c2
      refine z_iinc (v := 1) (lv' := [(1, zi (l1 + 1)), (0, zr (some l0)), (2, zi l2), (3, zi l3)]) hC (pc := 73) hL dX8_findStarts_73 1 rfl zki_1 (Nat.le_of_ble_eq_true rfl) rfl ?_
      refine z_goto hC (pc := 76) (tgt := 27) dX8_findStarts_76 rfl ?_
      refine ZW.perm (lv' := [(0, zr (some l0)), (1, zi (l1 + 1))]) [1, 0] rfl ?_
      exact hk27 l0 (l1 + 1) s0 hf
    · have hf := zif_t hf c2
      refine z_iconst (v := 1) hC (pc := 71) dX8_findStarts_71 zki_1 ?_
      exact z_zreturn hC (pc := 72) hQ dX8_findStarts_72 hf
  · have hf := zif_f hf c1
    refine z_aload_n hC (pc := 43) dX8_findStarts_43 rfl 0 rfl ?_
    refine z_iload_n hC (pc := 44) dX8_findStarts_44 rfl 3 rfl ?_
    obtain ⟨fs3, ha4, hf⟩ := z_rcN hf
    refine z_cI (rest := []) hf (fun v5 s6 hcall => z_runV hC (pc := 45) zcX8 1 ha4 (m_X8_isThere X.g l0 l3 s0 s6 v5 hcall) (lw_V q2956 q2958 qs77 q108 q2959) hdV_X8_isThere ⟨(Nat.le_of_ble_eq_true rfl), (Nat.le_of_ble_eq_true rfl)⟩ rfl (Nat.le_of_ble_eq_true rfl) dX8_findStarts_45 rfl) (fun v5 s6 hf => ?_)
    refine z_if_eq hC (pc := 48) (tgt := 61) dX8_findStarts_48 rfl (fun c7 => ?_) (fun c7 => ?_)
    · have hf := zif_t hf c7
      exact w_X8_findStarts_b61 hC hL hno hQ k37 hk37 l0 l1 l2 l3 s6 hf
    · have hf := zif_f hf c7
      refine z_aload_n hC (pc := 51) dX8_findStarts_51 rfl 0 rfl ?_
      refine z_iload_n hC (pc := 52) dX8_findStarts_52 rfl 3 rfl ?_
      obtain ⟨fs8, ha9, hf⟩ := z_rcN hf
      refine z_cI (rest := []) hf (fun v10 s11 hcall => z_runV hC (pc := 53) zcX8 1 ha9 (m_X8_raises X.g l0 l3 s6 s11 v10 hcall) (lw_V q2960 q2962 qs78 q108 q2963) hdV_X8_raises ⟨(Nat.le_of_ble_eq_true rfl), (Nat.le_of_ble_eq_true rfl)⟩ rfl (Nat.le_of_ble_eq_true rfl) dX8_findStarts_53 rfl) (fun v10 s11 hf => ?_)
      refine z_if_eq hC (pc := 56) (tgt := 61) dX8_findStarts_56 rfl (fun c12 => ?_) (fun c12 => ?_)
      · have hf := zif_t hf c12
        exact w_X8_findStarts_b61 hC hL hno hQ k37 hk37 l0 l1 l2 l3 s11 hf
      · have hf := zif_f hf c12
        refine z_iconst (v := 1) hC (pc := 59) dX8_findStarts_59 zki_1 ?_
        refine z_istore_n (lv' := [(2, zi 1), (0, zr (some l0)), (1, zi l1), (3, zi l3)]) hC (pc := 60) hL dX8_findStarts_60 rfl (Nat.le_of_ble_eq_true rfl) rfl ?_
        refine ZW.perm (lv' := [(0, zr (some l0)), (1, zi l1), (2, zi 1), (3, zi l3)]) [1, 2, 0, 3] rfl ?_
        exact w_X8_findStarts_b61 hC hL hno hQ k37 hk37 l0 l1 1 l3 s11 hf
def f_X8_findStarts_l37 (G : Nat → Nat) (k27 : Nat → Int32 → zS → Option (Int32 × zS)) : Nat → Nat → Int32 → Int32 → Int32 → zS → Option (Int32 × zS)
  | 0 => fun _ _ _ _ _ => none
  | n + 1 => f_X8_findStarts_b37 G k27 (f_X8_findStarts_l37 G k27 n)
theorem w_X8_findStarts_l37 {X : zX} (hC : ZC X RX8 cX8_findStarts (some .boolean) 5 87) (hL : X.nL = 4) (hno : ∀ x ∈ X.c.exceptionTable.toList, False) {r : Int32} {sF : zS} (hQ : ZQ X (.inl (some (zi r)), sF)) (k27 : Nat → Int32 → zS → Option (Int32 × zS)) (hk27 : ∀ (l0 : Nat) (l1 : Int32) (s0 : zS), k27 l0 l1 s0 = some (r, sF) → ZW X s0 27 [(0, zr (some l0)), (1, zi l1)] []) : ∀ (n : Nat) (l0 : Nat) (l1 : Int32) (l2 : Int32) (l3 : Int32) (s0 : zS) (_ : f_X8_findStarts_l37 X.g.1 k27 n l0 l1 l2 l3 s0 = some (r, sF)), ZW X s0 37 [(0, zr (some l0)), (1, zi l1), (2, zi l2), (3, zi l3)] [] := by
  intro n
  induction n with
  | zero => intro l0 l1 l2 l3 s0 hf; exact absurd (show (none : Option (Int32 × zS)) = some (r, sF) from hf) (fun z => nomatch z)
  | succ n ih => intro l0 l1 l2 l3 s0 hf; exact w_X8_findStarts_b37 hC hL hno hQ k27 hk27 (f_X8_findStarts_l37 X.g.1 k27 n) ih l0 l1 l2 l3 s0 hf
def f_X8_findStarts_b27 (G : Nat → Nat) (k27 : Nat → Int32 → zS → Option (Int32 × zS)) (l0 : Nat) (l1 : Int32) (s0 : zS) : Option (Int32 × zS) :=
if 36 < l1 then (zrn .boolean 0 s0)
else (f_X8_findStarts_l37 G k27 2000 l0 l1 0 0 s0)
set_option maxHeartbeats 4000000 in
theorem w_X8_findStarts_b27 {X : zX} (hC : ZC X RX8 cX8_findStarts (some .boolean) 5 87) (hL : X.nL = 4) (hno : ∀ x ∈ X.c.exceptionTable.toList, False) {r : Int32} {sF : zS} (hQ : ZQ X (.inl (some (zi r)), sF)) (k27 : Nat → Int32 → zS → Option (Int32 × zS)) (hk27 : ∀ (l0 : Nat) (l1 : Int32) (s0 : zS), k27 l0 l1 s0 = some (r, sF) → ZW X s0 27 [(0, zr (some l0)), (1, zi l1)] []) (l0 : Nat) (l1 : Int32) (s0 : zS) (hf : f_X8_findStarts_b27 X.g.1 k27 l0 l1 s0 = some (r, sF)) : ZW X s0 27 [(0, zr (some l0)), (1, zi l1)] [] := by
  unfold f_X8_findStarts_b27 at hf
  refine z_iload_n hC (pc := 27) dX8_findStarts_27 rfl 1 rfl ?_
  refine z_bipush (v := 36) hC (pc := 28) dX8_findStarts_28 zkb_36 ?_
  refine z_icmp_gt hC (pc := 30) (tgt := 79) dX8_findStarts_30 rfl (fun c1 => ?_) (fun c1 => ?_)
  · have hf := zif_t hf c1
    refine z_iconst (v := 0) hC (pc := 79) dX8_findStarts_79 zki_0 ?_
    exact z_zreturn hC (pc := 80) hQ dX8_findStarts_80 hf
  · have hf := zif_f hf c1
    refine z_iconst (v := 0) hC (pc := 33) dX8_findStarts_33 zki_0 ?_
    refine z_istore_n (lv' := [(2, zi 0), (0, zr (some l0)), (1, zi l1)]) hC (pc := 34) hL dX8_findStarts_34 rfl (Nat.le_of_ble_eq_true rfl) rfl ?_
    refine z_iconst (v := 0) hC (pc := 35) dX8_findStarts_35 zki_0 ?_
    refine z_istore_n (lv' := [(3, zi 0), (2, zi 0), (0, zr (some l0)), (1, zi l1)]) hC (pc := 36) hL dX8_findStarts_36 rfl (Nat.le_of_ble_eq_true rfl) rfl ?_
    refine ZW.perm (lv' := [(0, zr (some l0)), (1, zi l1), (2, zi 0), (3, zi 0)]) [2, 3, 1, 0] rfl ?_
    exact w_X8_findStarts_l37 hC hL hno hQ k27 hk27 2000 l0 l1 0 0 s0 hf
def f_X8_findStarts_l27 (G : Nat → Nat) : Nat → Nat → Int32 → zS → Option (Int32 × zS)
  | 0 => fun _ _ _ => none
  | n + 1 => f_X8_findStarts_b27 G (f_X8_findStarts_l27 G n)
theorem w_X8_findStarts_l27 {X : zX} (hC : ZC X RX8 cX8_findStarts (some .boolean) 5 87) (hL : X.nL = 4) (hno : ∀ x ∈ X.c.exceptionTable.toList, False) {r : Int32} {sF : zS} (hQ : ZQ X (.inl (some (zi r)), sF)) : ∀ (n : Nat) (l0 : Nat) (l1 : Int32) (s0 : zS) (_ : f_X8_findStarts_l27 X.g.1 n l0 l1 s0 = some (r, sF)), ZW X s0 27 [(0, zr (some l0)), (1, zi l1)] [] := by
  intro n
  induction n with
  | zero => intro l0 l1 s0 hf; exact absurd (show (none : Option (Int32 × zS)) = some (r, sF) from hf) (fun z => nomatch z)
  | succ n ih => intro l0 l1 s0 hf; exact w_X8_findStarts_b27 hC hL hno hQ (f_X8_findStarts_l27 X.g.1 n) ih l0 l1 s0 hf
def f_X8_findStarts_b6 (G : Nat → Nat) (k6 : Nat → Int32 → zS → Option (Int32 × zS)) (l0 : Nat) (l1 : Int32) (s0 : zS) : Option (Int32 × zS) :=
if 36 ≤ l1 then (f_X8_findStarts_l27 G 2000 l0 0 s0)
else (zo (zgR s0 (some l0) 6 18) fun v2 =>
zo (zsI G s0 v2 0 l1 0) fun s3 =>
k6 l0 (l1 + 1) s3)
set_option maxHeartbeats 4000000 in
theorem w_X8_findStarts_b6 {X : zX} (hC : ZC X RX8 cX8_findStarts (some .boolean) 5 87) (hL : X.nL = 4) (hno : ∀ x ∈ X.c.exceptionTable.toList, False) {r : Int32} {sF : zS} (hQ : ZQ X (.inl (some (zi r)), sF)) (k6 : Nat → Int32 → zS → Option (Int32 × zS)) (hk6 : ∀ (l0 : Nat) (l1 : Int32) (s0 : zS), k6 l0 l1 s0 = some (r, sF) → ZW X s0 6 [(0, zr (some l0)), (1, zi l1)] []) (l0 : Nat) (l1 : Int32) (s0 : zS) (hf : f_X8_findStarts_b6 X.g.1 k6 l0 l1 s0 = some (r, sF)) : ZW X s0 6 [(0, zr (some l0)), (1, zi l1)] [] := by
  unfold f_X8_findStarts_b6 at hf
  refine z_iload_n hC (pc := 6) dX8_findStarts_6 rfl 1 rfl ?_
  refine z_bipush (v := 36) hC (pc := 7) dX8_findStarts_7 zkb_36 ?_
  refine z_icmp_ge hC (pc := 9) (tgt := 25) dX8_findStarts_9 rfl (fun c1 => ?_) (fun c1 => ?_)
  · have hf := zif_t hf c1
    refine z_iconst (v := 0) hC (pc := 25) dX8_findStarts_25 zki_0 ?_
    refine z_istore_n (lv' := [(1, zi 0), (0, zr (some l0))]) hC (pc := 26) hL dX8_findStarts_26 rfl (Nat.le_of_ble_eq_true rfl) rfl ?_
    refine ZW.perm (lv' := [(0, zr (some l0)), (1, zi 0)]) [1, 0] rfl ?_
    exact w_X8_findStarts_l27 hC hL hno hQ 2000 l0 0 s0 hf
  · have hf := zif_f hf c1
    refine z_aload_n hC (pc := 12) dX8_findStarts_12 rfl 0 rfl ?_
    refine z_getR hC (pc := 13) in_X8 zcX8 18 (Nat.le_of_ble_eq_true rfl) (zLk.o hC q2691) zsm dX8_findStarts_13 hf (fun v2 hf => ?_)
    refine z_iload_n hC (pc := 16) dX8_findStarts_16 rfl 1 rfl ?_
    refine z_iconst (v := 0) hC (pc := 17) dX8_findStarts_17 zki_0 ?_
    refine z_iast hC (pc := 18) dX8_findStarts_18 hf (fun s3 hf => ?_)
    refine z_iinc (v := 1) (lv' := [(1, zi (l1 + 1)), (0, zr (some l0))]) hC (pc := 19) hL dX8_findStarts_19 1 rfl zki_1 (Nat.le_of_ble_eq_true rfl) rfl ?_
    refine z_goto hC (pc := 22) (tgt := 6) dX8_findStarts_22 rfl ?_
    refine ZW.perm (lv' := [(0, zr (some l0)), (1, zi (l1 + 1))]) [1, 0] rfl ?_
    exact hk6 l0 (l1 + 1) s3 hf
def f_X8_findStarts_l6 (G : Nat → Nat) : Nat → Nat → Int32 → zS → Option (Int32 × zS)
  | 0 => fun _ _ _ => none
  | n + 1 => f_X8_findStarts_b6 G (f_X8_findStarts_l6 G n)
theorem w_X8_findStarts_l6 {X : zX} (hC : ZC X RX8 cX8_findStarts (some .boolean) 5 87) (hL : X.nL = 4) (hno : ∀ x ∈ X.c.exceptionTable.toList, False) {r : Int32} {sF : zS} (hQ : ZQ X (.inl (some (zi r)), sF)) : ∀ (n : Nat) (l0 : Nat) (l1 : Int32) (s0 : zS) (_ : f_X8_findStarts_l6 X.g.1 n l0 l1 s0 = some (r, sF)), ZW X s0 6 [(0, zr (some l0)), (1, zi l1)] [] := by
  intro n
  induction n with
  | zero => intro l0 l1 s0 hf; exact absurd (show (none : Option (Int32 × zS)) = some (r, sF) from hf) (fun z => nomatch z)
  | succ n ih => intro l0 l1 s0 hf; exact w_X8_findStarts_b6 hC hL hno hQ (f_X8_findStarts_l6 X.g.1 n) ih l0 l1 s0 hf
def f_X8_findStarts (G : Nat → Nat) (l0 : Nat) (s0 : zS) : Option (Int32 × zS) :=
zo (zrc s0 (some l0) 6) fun _ =>
zb (f_X8_layArcs G l0 s0) fun _ s4 =>
f_X8_findStarts_l6 G 2000 l0 0 s4
set_option maxHeartbeats 4000000 in
theorem m_X8_findStarts (Γ : zG) (l0 : Nat) (s0 s1 : zS) (r : Int32) (hf : f_X8_findStarts Γ.1 l0 s0 = some (r, s1)) : ZM Γ yX8_findStarts (ws_ yX8_findStarts cX8_findStarts 4 (some .boolean)) 5 87 [zr (some l0)] s0 (.inl (some (zi r)), s1) := by
  refine ZM.of (own := RX8) (by decide) rfl (Nat.le_of_ble_eq_true rfl) ?_
  intro X hg hC hL hno hQ hin
  subst hg
  unfold f_X8_findStarts at hf
  refine z_aload_n hC (pc := 0) dX8_findStarts_0 rfl 0 rfl ?_
  obtain ⟨fs1, ha2, hf⟩ := z_rcN hf
  refine z_cU (rest := []) hf (fun v3 s4 hcall => z_runV hC (pc := 1) zcX8 0 ha2 (m_X8_layArcs X.g l0 s0 s4 v3 hcall) (lw_V q2940 q2942 qs73 q108 q2943) hdV_X8_layArcs ⟨(Nat.le_of_ble_eq_true rfl), (Nat.le_of_ble_eq_true rfl)⟩ rfl (Nat.le_of_ble_eq_true rfl) dX8_findStarts_1 rfl) (fun _ s4 hf => ?_)
  refine z_iconst (v := 0) hC (pc := 4) dX8_findStarts_4 zki_0 ?_
  refine z_istore_n (lv' := [(1, zi 0), (0, zr (some l0))]) hC (pc := 5) hL dX8_findStarts_5 rfl (Nat.le_of_ble_eq_true rfl) rfl ?_
  refine ZW.perm (lv' := [(0, zr (some l0)), (1, zi 0)]) [1, 0] rfl ?_
  exact w_X8_findStarts_l6 hC hL hno hQ 2000 l0 0 s4 hf
/-! BlockingShopModel.hasCycle()Z -/
def f_X8_hasCycle_b31 (G : Nat → Nat) (k4 : Nat → Int32 → Int32 → zS → Option (Int32 × zS)) (l0 : Nat) (l2 : Int32) (t0 : Int32) (t1 : Int32) (s0 : zS) : Option (Int32 × zS) :=
k4 l0 (t1 + t0) (l2 + 1) s0
set_option maxHeartbeats 4000000 in
theorem w_X8_hasCycle_b31 {X : zX} (hC : ZC X RX8 cX8_hasCycle (some .boolean) 3 41) (hL : X.nL = 4) (hno : ∀ x ∈ X.c.exceptionTable.toList, False) {r : Int32} {sF : zS} (hQ : ZQ X (.inl (some (zi r)), sF)) (k4 : Nat → Int32 → Int32 → zS → Option (Int32 × zS)) (hk4 : ∀ (l0 : Nat) (l1 : Int32) (l2 : Int32) (s0 : zS), k4 l0 l1 l2 s0 = some (r, sF) → ZW X s0 4 [(0, zr (some l0)), (1, zi l1), (2, zi l2)] []) (l0 : Nat) (l2 : Int32) (t0 : Int32) (t1 : Int32) (s0 : zS) (hf : f_X8_hasCycle_b31 X.g.1 k4 l0 l2 t0 t1 s0 = some (r, sF)) : ZW X s0 31 [(0, zr (some l0)), (2, zi l2)] [zi t0, zi t1] := by
  unfold f_X8_hasCycle_b31 at hf
  refine z_iadd hC (pc := 31) dX8_hasCycle_31 ?_
  refine z_istore_n (lv' := [(1, zi (t1 + t0)), (0, zr (some l0)), (2, zi l2)]) hC (pc := 32) hL dX8_hasCycle_32 rfl (Nat.le_of_ble_eq_true rfl) rfl ?_
  refine z_iinc (v := 1) (lv' := [(2, zi (l2 + 1)), (1, zi (t1 + t0)), (0, zr (some l0))]) hC (pc := 33) hL dX8_hasCycle_33 2 rfl zki_1 (Nat.le_of_ble_eq_true rfl) rfl ?_
  refine z_goto hC (pc := 36) (tgt := 4) dX8_hasCycle_36 rfl ?_
  refine ZW.perm (lv' := [(0, zr (some l0)), (1, zi (t1 + t0)), (2, zi (l2 + 1))]) [2, 1, 0] rfl ?_
  exact hk4 l0 (t1 + t0) (l2 + 1) s0 hf
def f_X8_hasCycle_b129 (G : Nat → Nat) (k49 : Nat → Int32 → Int32 → Int32 → zS → Option (Int32 × zS)) (l0 : Nat) (l1 : Int32) (l2 : Int32) (l3 : Int32) (s0 : zS) : Option (Int32 × zS) :=
k49 l0 l1 l2 (l3 + 1) s0
set_option maxHeartbeats 4000000 in
theorem w_X8_hasCycle_b129 {X : zX} (hC : ZC X RX8 cX8_hasCycle (some .boolean) 3 41) (hL : X.nL = 4) (hno : ∀ x ∈ X.c.exceptionTable.toList, False) {r : Int32} {sF : zS} (hQ : ZQ X (.inl (some (zi r)), sF)) (k49 : Nat → Int32 → Int32 → Int32 → zS → Option (Int32 × zS)) (hk49 : ∀ (l0 : Nat) (l1 : Int32) (l2 : Int32) (l3 : Int32) (s0 : zS), k49 l0 l1 l2 l3 s0 = some (r, sF) → ZW X s0 49 [(0, zr (some l0)), (1, zi l1), (2, zi l2), (3, zi l3)] []) (l0 : Nat) (l1 : Int32) (l2 : Int32) (l3 : Int32) (s0 : zS) (hf : f_X8_hasCycle_b129 X.g.1 k49 l0 l1 l2 l3 s0 = some (r, sF)) : ZW X s0 129 [(0, zr (some l0)), (1, zi l1), (2, zi l2), (3, zi l3)] [] := by
  unfold f_X8_hasCycle_b129 at hf
  refine z_iinc (v := 1) (lv' := [(3, zi (l3 + 1)), (0, zr (some l0)), (1, zi l1), (2, zi l2)]) hC (pc := 129) hL dX8_hasCycle_129 3 rfl zki_1 (Nat.le_of_ble_eq_true rfl) rfl ?_
  refine z_goto hC (pc := 132) (tgt := 49) dX8_hasCycle_132 rfl ?_
  refine ZW.perm (lv' := [(0, zr (some l0)), (1, zi l1), (2, zi l2), (3, zi (l3 + 1))]) [1, 2, 3, 0] rfl ?_
  exact hk49 l0 l1 l2 (l3 + 1) s0 hf
def f_X8_hasCycle_b117 (G : Nat → Nat) (k49 : Nat → Int32 → Int32 → Int32 → zS → Option (Int32 × zS)) (l0 : Nat) (l1 : Int32) (l3 : Int32) (s0 : zS) : Option (Int32 × zS) :=
zo (zgR s0 (some l0) 6 19) fun v1 =>
zo (zsI G s0 v1 3 l3 1) fun s2 =>
f_X8_hasCycle_b129 G k49 l0 (l1 + (-1)) 1 l3 s2
set_option maxHeartbeats 4000000 in
theorem w_X8_hasCycle_b117 {X : zX} (hC : ZC X RX8 cX8_hasCycle (some .boolean) 3 41) (hL : X.nL = 4) (hno : ∀ x ∈ X.c.exceptionTable.toList, False) {r : Int32} {sF : zS} (hQ : ZQ X (.inl (some (zi r)), sF)) (k49 : Nat → Int32 → Int32 → Int32 → zS → Option (Int32 × zS)) (hk49 : ∀ (l0 : Nat) (l1 : Int32) (l2 : Int32) (l3 : Int32) (s0 : zS), k49 l0 l1 l2 l3 s0 = some (r, sF) → ZW X s0 49 [(0, zr (some l0)), (1, zi l1), (2, zi l2), (3, zi l3)] []) (l0 : Nat) (l1 : Int32) (l3 : Int32) (s0 : zS) (hf : f_X8_hasCycle_b117 X.g.1 k49 l0 l1 l3 s0 = some (r, sF)) : ZW X s0 117 [(0, zr (some l0)), (1, zi l1), (3, zi l3)] [] := by
  unfold f_X8_hasCycle_b117 at hf
  refine z_aload_n hC (pc := 117) dX8_hasCycle_117 rfl 0 rfl ?_
  refine z_getR hC (pc := 118) in_X8 zcX8 19 (Nat.le_of_ble_eq_true rfl) (zLk.o hC q2692) zsm dX8_hasCycle_118 hf (fun v1 hf => ?_)
  refine z_iload_n hC (pc := 121) dX8_hasCycle_121 rfl 2 rfl ?_
  refine z_iconst (v := 1) hC (pc := 122) dX8_hasCycle_122 zki_1 ?_
  refine z_zast hC (pc := 123) dX8_hasCycle_123 hf (fun s2 hf => ?_)
  refine z_iconst (v := 1) hC (pc := 124) dX8_hasCycle_124 zki_1 ?_
  refine z_istore_n (lv' := [(2, zi 1), (0, zr (some l0)), (1, zi l1), (3, zi l3)]) hC (pc := 125) hL dX8_hasCycle_125 rfl (Nat.le_of_ble_eq_true rfl) rfl ?_
  refine z_iinc (v := (-1)) (lv' := [(1, zi (l1 + (-1))), (2, zi 1), (0, zr (some l0)), (3, zi l3)]) hC (pc := 126) hL dX8_hasCycle_126 2 rfl zki_m1 (Nat.le_of_ble_eq_true rfl) rfl ?_
  refine ZW.perm (lv' := [(0, zr (some l0)), (1, zi (l1 + (-1))), (2, zi 1), (3, zi l3)]) [2, 0, 1, 3] rfl ?_
  exact w_X8_hasCycle_b129 hC hL hno hQ k49 hk49 l0 (l1 + (-1)) 1 l3 s2 hf
def f_X8_hasCycle_b90 (G : Nat → Nat) (k49 : Nat → Int32 → Int32 → Int32 → zS → Option (Int32 × zS)) (l0 : Nat) (l1 : Int32) (l2 : Int32) (l3 : Int32) (s0 : zS) : Option (Int32 × zS) :=
zo (zgR s0 (some l0) 6 16) fun v1 =>
zo (zaI s0 v1 0 l3) fun v2 =>
if v2 = (-1) then (f_X8_hasCycle_b117 G k49 l0 l1 l3 s0)
else (zo (zgR s0 (some l0) 6 19) fun v4 =>
zo (zgR s0 (some l0) 6 16) fun v5 =>
zo (zaI s0 v5 0 l3) fun v6 =>
zo (zaI s0 v4 3 v6) fun v7 =>
if v7 = 0 then (f_X8_hasCycle_b129 G k49 l0 l1 l2 l3 s0)
else (f_X8_hasCycle_b117 G k49 l0 l1 l3 s0))
set_option maxHeartbeats 4000000 in
theorem w_X8_hasCycle_b90 {X : zX} (hC : ZC X RX8 cX8_hasCycle (some .boolean) 3 41) (hL : X.nL = 4) (hno : ∀ x ∈ X.c.exceptionTable.toList, False) {r : Int32} {sF : zS} (hQ : ZQ X (.inl (some (zi r)), sF)) (k49 : Nat → Int32 → Int32 → Int32 → zS → Option (Int32 × zS)) (hk49 : ∀ (l0 : Nat) (l1 : Int32) (l2 : Int32) (l3 : Int32) (s0 : zS), k49 l0 l1 l2 l3 s0 = some (r, sF) → ZW X s0 49 [(0, zr (some l0)), (1, zi l1), (2, zi l2), (3, zi l3)] []) (l0 : Nat) (l1 : Int32) (l2 : Int32) (l3 : Int32) (s0 : zS) (hf : f_X8_hasCycle_b90 X.g.1 k49 l0 l1 l2 l3 s0 = some (r, sF)) : ZW X s0 90 [(0, zr (some l0)), (1, zi l1), (2, zi l2), (3, zi l3)] [] := by
  unfold f_X8_hasCycle_b90 at hf
  refine z_aload_n hC (pc := 90) dX8_hasCycle_90 rfl 0 rfl ?_
  refine z_getR hC (pc := 91) in_X8 zcX8 16 (Nat.le_of_ble_eq_true rfl) (zLk.o hC q2689) zsm dX8_hasCycle_91 hf (fun v1 hf => ?_)
  refine z_iload_n hC (pc := 94) dX8_hasCycle_94 rfl 3 rfl ?_
  refine z_iald hC (pc := 95) dX8_hasCycle_95 hf (fun v2 hf => ?_)
  refine z_iconst (v := (-1)) hC (pc := 96) dX8_hasCycle_96 zki_m1 ?_
  refine z_icmp_eq hC (pc := 97) (tgt := 117) dX8_hasCycle_97 rfl (fun c3 => ?_) (fun c3 => ?_)
  · have hf := zif_t hf c3
    refine ZW.perm (lv' := [(0, zr (some l0)), (1, zi l1), (3, zi l3)]) [0, 1, 3] rfl ?_
    exact w_X8_hasCycle_b117 hC hL hno hQ k49 hk49 l0 l1 l3 s0 hf
  · have hf := zif_f hf c3
    refine z_aload_n hC (pc := 100) dX8_hasCycle_100 rfl 0 rfl ?_
    refine z_getR hC (pc := 101) in_X8 zcX8 19 (Nat.le_of_ble_eq_true rfl) (zLk.o hC q2692) zsm dX8_hasCycle_101 hf (fun v4 hf => ?_)
    refine z_aload_n hC (pc := 104) dX8_hasCycle_104 rfl 0 rfl ?_
    refine z_getR hC (pc := 105) in_X8 zcX8 16 (Nat.le_of_ble_eq_true rfl) (zLk.o hC q2689) zsm dX8_hasCycle_105 hf (fun v5 hf => ?_)
    refine z_iload_n hC (pc := 108) dX8_hasCycle_108 rfl 3 rfl ?_
    refine z_iald hC (pc := 109) dX8_hasCycle_109 hf (fun v6 hf => ?_)
    refine z_zald hC (pc := 110) dX8_hasCycle_110 hf (fun v7 hf => ?_)
    refine z_if_ne hC (pc := 111) (tgt := 117) dX8_hasCycle_111 rfl (fun c8 => ?_) (fun c8 => ?_)
    · have hf := zif_f hf c8
      refine ZW.perm (lv' := [(0, zr (some l0)), (1, zi l1), (3, zi l3)]) [0, 1, 3] rfl ?_
      exact w_X8_hasCycle_b117 hC hL hno hQ k49 hk49 l0 l1 l3 s0 hf
    · have hf := zif_t hf c8
      refine z_goto hC (pc := 114) (tgt := 129) dX8_hasCycle_114 rfl ?_
      exact w_X8_hasCycle_b129 hC hL hno hQ k49 hk49 l0 l1 l2 l3 s0 hf
def f_X8_hasCycle_b49 (G : Nat → Nat) (k41 : Nat → Int32 → Int32 → zS → Option (Int32 × zS)) (k49 : Nat → Int32 → Int32 → Int32 → zS → Option (Int32 × zS)) (l0 : Nat) (l1 : Int32) (l2 : Int32) (l3 : Int32) (s0 : zS) : Option (Int32 × zS) :=
if 36 ≤ l3 then (k41 l0 l1 l2 s0)
else (zo (zrc s0 (some l0) 6) fun _ =>
zb (f_X8_isThere G l0 l3 s0) fun v4 s5 =>
if v4 = 0 then (f_X8_hasCycle_b129 G k49 l0 l1 l2 l3 s5)
else (zo (zgR s5 (some l0) 6 19) fun v7 =>
zo (zaI s5 v7 3 l3) fun v8 =>
if v8 = 0 then (if (l3 - l3 / 6 * 6) ≤ 0 then (f_X8_hasCycle_b90 G k49 l0 l1 l2 l3 s5)
else (zo (zgR s5 (some l0) 6 19) fun v11 =>
zo (zaI s5 v11 3 (l3 - 1)) fun v12 =>
if v12 = 0 then (f_X8_hasCycle_b129 G k49 l0 l1 l2 l3 s5)
else (f_X8_hasCycle_b90 G k49 l0 l1 l2 l3 s5)))
else (f_X8_hasCycle_b129 G k49 l0 l1 l2 l3 s5)))
set_option maxHeartbeats 4000000 in
theorem w_X8_hasCycle_b49 {X : zX} (hC : ZC X RX8 cX8_hasCycle (some .boolean) 3 41) (hL : X.nL = 4) (hno : ∀ x ∈ X.c.exceptionTable.toList, False) {r : Int32} {sF : zS} (hQ : ZQ X (.inl (some (zi r)), sF)) (k41 : Nat → Int32 → Int32 → zS → Option (Int32 × zS)) (hk41 : ∀ (l0 : Nat) (l1 : Int32) (l2 : Int32) (s0 : zS), k41 l0 l1 l2 s0 = some (r, sF) → ZW X s0 41 [(0, zr (some l0)), (1, zi l1), (2, zi l2)] []) (k49 : Nat → Int32 → Int32 → Int32 → zS → Option (Int32 × zS)) (hk49 : ∀ (l0 : Nat) (l1 : Int32) (l2 : Int32) (l3 : Int32) (s0 : zS), k49 l0 l1 l2 l3 s0 = some (r, sF) → ZW X s0 49 [(0, zr (some l0)), (1, zi l1), (2, zi l2), (3, zi l3)] []) (l0 : Nat) (l1 : Int32) (l2 : Int32) (l3 : Int32) (s0 : zS) (hf : f_X8_hasCycle_b49 X.g.1 k41 k49 l0 l1 l2 l3 s0 = some (r, sF)) : ZW X s0 49 [(0, zr (some l0)), (1, zi l1), (2, zi l2), (3, zi l3)] [] := by
  unfold f_X8_hasCycle_b49 at hf
  refine z_iload_n hC (pc := 49) dX8_hasCycle_49 rfl 3 rfl ?_
  refine z_bipush (v := 36) hC (pc := 50) dX8_hasCycle_50 zkb_36 ?_
  refine z_icmp_ge hC (pc := 52) (tgt := 135) dX8_hasCycle_52 rfl (fun c1 => ?_) (fun c1 => ?_)
  · have hf := zif_t hf c1
    refine z_goto hC (pc := 135) (tgt := 41) dX8_hasCycle_135 rfl ?_
    refine ZW.perm (lv' := [(0, zr (some l0)), (1, zi l1), (2, zi l2)]) [0, 1, 2] rfl ?_
    exact hk41 l0 l1 l2 s0 hf
  · have hf := zif_f hf c1
    refine z_aload_n hC (pc := 55) dX8_hasCycle_55 rfl 0 rfl ?_
    refine z_iload_n hC (pc := 56) dX8_hasCycle_56 rfl 3 rfl ?_
    obtain ⟨fs2, ha3, hf⟩ := z_rcN hf
    refine z_cI (rest := []) hf (fun v4 s5 hcall => z_runV hC (pc := 57) zcX8 1 ha3 (m_X8_isThere X.g l0 l3 s0 s5 v4 hcall) (lw_V q2956 q2958 qs77 q108 q2959) hdV_X8_isThere ⟨(Nat.le_of_ble_eq_true rfl), (Nat.le_of_ble_eq_true rfl)⟩ rfl (Nat.le_of_ble_eq_true rfl) dX8_hasCycle_57 rfl) (fun v4 s5 hf => ?_)
    refine z_if_eq hC (pc := 60) (tgt := 129) dX8_hasCycle_60 rfl (fun c6 => ?_) (fun c6 => ?_)
    · have hf := zif_t hf c6
      exact w_X8_hasCycle_b129 hC hL hno hQ k49 hk49 l0 l1 l2 l3 s5 hf
    · have hf := zif_f hf c6
      refine z_aload_n hC (pc := 63) dX8_hasCycle_63 rfl 0 rfl ?_
      refine z_getR hC (pc := 64) in_X8 zcX8 19 (Nat.le_of_ble_eq_true rfl) (zLk.o hC q2692) zsm dX8_hasCycle_64 hf (fun v7 hf => ?_)
      refine z_iload_n hC (pc := 67) dX8_hasCycle_67 rfl 3 rfl ?_
      refine z_zald hC (pc := 68) dX8_hasCycle_68 hf (fun v8 hf => ?_)
      refine z_if_ne hC (pc := 69) (tgt := 129) dX8_hasCycle_69 rfl (fun c9 => ?_) (fun c9 => ?_)
      · have hf := zif_f hf c9
        exact w_X8_hasCycle_b129 hC hL hno hQ k49 hk49 l0 l1 l2 l3 s5 hf
      · have hf := zif_t hf c9
        refine z_iload_n hC (pc := 72) dX8_hasCycle_72 rfl 3 rfl ?_
        refine z_bipush (v := 6) hC (pc := 73) dX8_hasCycle_73 zkb_6 ?_
        refine z_irem hC (pc := 75) dX8_hasCycle_75 (by decide) ?_
        refine z_if_le hC (pc := 76) (tgt := 90) dX8_hasCycle_76 rfl (fun c10 => ?_) (fun c10 => ?_)
        · have hf := zif_t hf c10
          exact w_X8_hasCycle_b90 hC hL hno hQ k49 hk49 l0 l1 l2 l3 s5 hf
        · have hf := zif_f hf c10
          refine z_aload_n hC (pc := 79) dX8_hasCycle_79 rfl 0 rfl ?_
          refine z_getR hC (pc := 80) in_X8 zcX8 19 (Nat.le_of_ble_eq_true rfl) (zLk.o hC q2692) zsm dX8_hasCycle_80 hf (fun v11 hf => ?_)
          refine z_iload_n hC (pc := 83) dX8_hasCycle_83 rfl 3 rfl ?_
          refine z_iconst (v := 1) hC (pc := 84) dX8_hasCycle_84 zki_1 ?_
          refine z_isub hC (pc := 85) dX8_hasCycle_85 ?_
          refine z_zald hC (pc := 86) dX8_hasCycle_86 hf (fun v12 hf => ?_)
          refine z_if_eq hC (pc := 87) (tgt := 129) dX8_hasCycle_87 rfl (fun c13 => ?_) (fun c13 => ?_)
          · have hf := zif_t hf c13
            exact w_X8_hasCycle_b129 hC hL hno hQ k49 hk49 l0 l1 l2 l3 s5 hf
          · have hf := zif_f hf c13
            exact w_X8_hasCycle_b90 hC hL hno hQ k49 hk49 l0 l1 l2 l3 s5 hf
def f_X8_hasCycle_l49 (G : Nat → Nat) (k41 : Nat → Int32 → Int32 → zS → Option (Int32 × zS)) : Nat → Nat → Int32 → Int32 → Int32 → zS → Option (Int32 × zS)
  | 0 => fun _ _ _ _ _ => none
  | n + 1 => f_X8_hasCycle_b49 G k41 (f_X8_hasCycle_l49 G k41 n)
theorem w_X8_hasCycle_l49 {X : zX} (hC : ZC X RX8 cX8_hasCycle (some .boolean) 3 41) (hL : X.nL = 4) (hno : ∀ x ∈ X.c.exceptionTable.toList, False) {r : Int32} {sF : zS} (hQ : ZQ X (.inl (some (zi r)), sF)) (k41 : Nat → Int32 → Int32 → zS → Option (Int32 × zS)) (hk41 : ∀ (l0 : Nat) (l1 : Int32) (l2 : Int32) (s0 : zS), k41 l0 l1 l2 s0 = some (r, sF) → ZW X s0 41 [(0, zr (some l0)), (1, zi l1), (2, zi l2)] []) : ∀ (n : Nat) (l0 : Nat) (l1 : Int32) (l2 : Int32) (l3 : Int32) (s0 : zS) (_ : f_X8_hasCycle_l49 X.g.1 k41 n l0 l1 l2 l3 s0 = some (r, sF)), ZW X s0 49 [(0, zr (some l0)), (1, zi l1), (2, zi l2), (3, zi l3)] [] := by
  intro n
  induction n with
  | zero => intro l0 l1 l2 l3 s0 hf; exact absurd (show (none : Option (Int32 × zS)) = some (r, sF) from hf) (fun z => nomatch z)
  | succ n ih => intro l0 l1 l2 l3 s0 hf; exact w_X8_hasCycle_b49 hC hL hno hQ k41 hk41 (f_X8_hasCycle_l49 X.g.1 k41 n) ih l0 l1 l2 l3 s0 hf
def f_X8_hasCycle_b41 (G : Nat → Nat) (k41 : Nat → Int32 → Int32 → zS → Option (Int32 × zS)) (l0 : Nat) (l1 : Int32) (l2 : Int32) (s0 : zS) : Option (Int32 × zS) :=
if l2 = 0 then (if l1 ≤ 0 then (zrn .boolean 0 s0)
else (zrn .boolean 1 s0))
else (f_X8_hasCycle_l49 G k41 2000 l0 l1 0 0 s0)
set_option maxHeartbeats 4000000 in
theorem w_X8_hasCycle_b41 {X : zX} (hC : ZC X RX8 cX8_hasCycle (some .boolean) 3 41) (hL : X.nL = 4) (hno : ∀ x ∈ X.c.exceptionTable.toList, False) {r : Int32} {sF : zS} (hQ : ZQ X (.inl (some (zi r)), sF)) (k41 : Nat → Int32 → Int32 → zS → Option (Int32 × zS)) (hk41 : ∀ (l0 : Nat) (l1 : Int32) (l2 : Int32) (s0 : zS), k41 l0 l1 l2 s0 = some (r, sF) → ZW X s0 41 [(0, zr (some l0)), (1, zi l1), (2, zi l2)] []) (l0 : Nat) (l1 : Int32) (l2 : Int32) (s0 : zS) (hf : f_X8_hasCycle_b41 X.g.1 k41 l0 l1 l2 s0 = some (r, sF)) : ZW X s0 41 [(0, zr (some l0)), (1, zi l1), (2, zi l2)] [] := by
  unfold f_X8_hasCycle_b41 at hf
  refine z_iload_n hC (pc := 41) dX8_hasCycle_41 rfl 2 rfl ?_
  refine z_if_eq hC (pc := 42) (tgt := 138) dX8_hasCycle_42 rfl (fun c1 => ?_) (fun c1 => ?_)
  · have hf := zif_t hf c1
    refine z_iload_n hC (pc := 138) dX8_hasCycle_138 rfl 1 rfl ?_
    refine z_if_le hC (pc := 139) (tgt := 146) dX8_hasCycle_139 rfl (fun c2 => ?_) (fun c2 => ?_)
    · have hf := zif_t hf c2
      refine z_iconst (v := 0) hC (pc := 146) dX8_hasCycle_146 zki_0 ?_
      exact z_zreturn hC (pc := 147) hQ dX8_hasCycle_147 hf
    · have hf := zif_f hf c2
      refine z_iconst (v := 1) hC (pc := 142) dX8_hasCycle_142 zki_1 ?_
      refine z_goto hC (pc := 143) (tgt := 147) dX8_hasCycle_143 rfl ?_
      exact z_zreturn hC (pc := 147) hQ dX8_hasCycle_147 hf
  · have hf := zif_f hf c1
    refine z_iconst (v := 0) hC (pc := 45) dX8_hasCycle_45 zki_0 ?_
    refine z_istore_n (lv' := [(2, zi 0), (0, zr (some l0)), (1, zi l1)]) hC (pc := 46) hL dX8_hasCycle_46 rfl (Nat.le_of_ble_eq_true rfl) rfl ?_
    refine z_iconst (v := 0) hC (pc := 47) dX8_hasCycle_47 zki_0 ?_
    refine z_istore_n (lv' := [(3, zi 0), (2, zi 0), (0, zr (some l0)), (1, zi l1)]) hC (pc := 48) hL dX8_hasCycle_48 rfl (Nat.le_of_ble_eq_true rfl) rfl ?_
    refine ZW.perm (lv' := [(0, zr (some l0)), (1, zi l1), (2, zi 0), (3, zi 0)]) [2, 3, 1, 0] rfl ?_
    exact w_X8_hasCycle_l49 hC hL hno hQ k41 hk41 2000 l0 l1 0 0 s0 hf
def f_X8_hasCycle_l41 (G : Nat → Nat) : Nat → Nat → Int32 → Int32 → zS → Option (Int32 × zS)
  | 0 => fun _ _ _ _ => none
  | n + 1 => f_X8_hasCycle_b41 G (f_X8_hasCycle_l41 G n)
theorem w_X8_hasCycle_l41 {X : zX} (hC : ZC X RX8 cX8_hasCycle (some .boolean) 3 41) (hL : X.nL = 4) (hno : ∀ x ∈ X.c.exceptionTable.toList, False) {r : Int32} {sF : zS} (hQ : ZQ X (.inl (some (zi r)), sF)) : ∀ (n : Nat) (l0 : Nat) (l1 : Int32) (l2 : Int32) (s0 : zS) (_ : f_X8_hasCycle_l41 X.g.1 n l0 l1 l2 s0 = some (r, sF)), ZW X s0 41 [(0, zr (some l0)), (1, zi l1), (2, zi l2)] [] := by
  intro n
  induction n with
  | zero => intro l0 l1 l2 s0 hf; exact absurd (show (none : Option (Int32 × zS)) = some (r, sF) from hf) (fun z => nomatch z)
  | succ n ih => intro l0 l1 l2 s0 hf; exact w_X8_hasCycle_b41 hC hL hno hQ (f_X8_hasCycle_l41 X.g.1 n) ih l0 l1 l2 s0 hf
def f_X8_hasCycle_b4 (G : Nat → Nat) (k4 : Nat → Int32 → Int32 → zS → Option (Int32 × zS)) (l0 : Nat) (l1 : Int32) (l2 : Int32) (s0 : zS) : Option (Int32 × zS) :=
if 36 ≤ l2 then (f_X8_hasCycle_l41 G 2000 l0 l1 1 s0)
else (zo (zgR s0 (some l0) 6 19) fun v2 =>
zo (zsI G s0 v2 3 l2 0) fun s3 =>
zo (zrc s3 (some l0) 6) fun _ =>
zb (f_X8_isThere G l0 l2 s3) fun v6 s7 =>
if v6 = 0 then (f_X8_hasCycle_b31 G k4 l0 l2 0 l1 s7)
else (f_X8_hasCycle_b31 G k4 l0 l2 1 l1 s7))
set_option maxHeartbeats 4000000 in
theorem w_X8_hasCycle_b4 {X : zX} (hC : ZC X RX8 cX8_hasCycle (some .boolean) 3 41) (hL : X.nL = 4) (hno : ∀ x ∈ X.c.exceptionTable.toList, False) {r : Int32} {sF : zS} (hQ : ZQ X (.inl (some (zi r)), sF)) (k4 : Nat → Int32 → Int32 → zS → Option (Int32 × zS)) (hk4 : ∀ (l0 : Nat) (l1 : Int32) (l2 : Int32) (s0 : zS), k4 l0 l1 l2 s0 = some (r, sF) → ZW X s0 4 [(0, zr (some l0)), (1, zi l1), (2, zi l2)] []) (l0 : Nat) (l1 : Int32) (l2 : Int32) (s0 : zS) (hf : f_X8_hasCycle_b4 X.g.1 k4 l0 l1 l2 s0 = some (r, sF)) : ZW X s0 4 [(0, zr (some l0)), (1, zi l1), (2, zi l2)] [] := by
  unfold f_X8_hasCycle_b4 at hf
  refine z_iload_n hC (pc := 4) dX8_hasCycle_4 rfl 2 rfl ?_
  refine z_bipush (v := 36) hC (pc := 5) dX8_hasCycle_5 zkb_36 ?_
  refine z_icmp_ge hC (pc := 7) (tgt := 39) dX8_hasCycle_7 rfl (fun c1 => ?_) (fun c1 => ?_)
  · have hf := zif_t hf c1
    refine z_iconst (v := 1) hC (pc := 39) dX8_hasCycle_39 zki_1 ?_
    refine z_istore_n (lv' := [(2, zi 1), (0, zr (some l0)), (1, zi l1)]) hC (pc := 40) hL dX8_hasCycle_40 rfl (Nat.le_of_ble_eq_true rfl) rfl ?_
    refine ZW.perm (lv' := [(0, zr (some l0)), (1, zi l1), (2, zi 1)]) [1, 2, 0] rfl ?_
    exact w_X8_hasCycle_l41 hC hL hno hQ 2000 l0 l1 1 s0 hf
  · have hf := zif_f hf c1
    refine z_aload_n hC (pc := 10) dX8_hasCycle_10 rfl 0 rfl ?_
    refine z_getR hC (pc := 11) in_X8 zcX8 19 (Nat.le_of_ble_eq_true rfl) (zLk.o hC q2692) zsm dX8_hasCycle_11 hf (fun v2 hf => ?_)
    refine z_iload_n hC (pc := 14) dX8_hasCycle_14 rfl 2 rfl ?_
    refine z_iconst (v := 0) hC (pc := 15) dX8_hasCycle_15 zki_0 ?_
    refine z_zast hC (pc := 16) dX8_hasCycle_16 hf (fun s3 hf => ?_)
    refine z_iload_n hC (pc := 17) dX8_hasCycle_17 rfl 1 rfl ?_
    refine z_aload_n hC (pc := 18) dX8_hasCycle_18 rfl 0 rfl ?_
    refine z_iload_n hC (pc := 19) dX8_hasCycle_19 rfl 2 rfl ?_
    obtain ⟨fs4, ha5, hf⟩ := z_rcN hf
    refine z_cI (rest := [zi l1]) hf (fun v6 s7 hcall => z_runV hC (pc := 20) zcX8 1 ha5 (m_X8_isThere X.g l0 l2 s3 s7 v6 hcall) (lw_V q2956 q2958 qs77 q108 q2959) hdV_X8_isThere ⟨(Nat.le_of_ble_eq_true rfl), (Nat.le_of_ble_eq_true rfl)⟩ rfl (Nat.le_of_ble_eq_true rfl) dX8_hasCycle_20 rfl) (fun v6 s7 hf => ?_)
    refine z_if_eq hC (pc := 23) (tgt := 30) dX8_hasCycle_23 rfl (fun c8 => ?_) (fun c8 => ?_)
    · have hf := zif_t hf c8
      refine z_iconst (v := 0) hC (pc := 30) dX8_hasCycle_30 zki_0 ?_
      refine ZW.perm (lv' := [(0, zr (some l0)), (2, zi l2)]) [0, 2] rfl ?_
      exact w_X8_hasCycle_b31 hC hL hno hQ k4 hk4 l0 l2 0 l1 s7 hf
    · have hf := zif_f hf c8
      refine z_iconst (v := 1) hC (pc := 26) dX8_hasCycle_26 zki_1 ?_
      refine z_goto hC (pc := 27) (tgt := 31) dX8_hasCycle_27 rfl ?_
      refine ZW.perm (lv' := [(0, zr (some l0)), (2, zi l2)]) [0, 2] rfl ?_
      exact w_X8_hasCycle_b31 hC hL hno hQ k4 hk4 l0 l2 1 l1 s7 hf
def f_X8_hasCycle_l4 (G : Nat → Nat) : Nat → Nat → Int32 → Int32 → zS → Option (Int32 × zS)
  | 0 => fun _ _ _ _ => none
  | n + 1 => f_X8_hasCycle_b4 G (f_X8_hasCycle_l4 G n)
theorem w_X8_hasCycle_l4 {X : zX} (hC : ZC X RX8 cX8_hasCycle (some .boolean) 3 41) (hL : X.nL = 4) (hno : ∀ x ∈ X.c.exceptionTable.toList, False) {r : Int32} {sF : zS} (hQ : ZQ X (.inl (some (zi r)), sF)) : ∀ (n : Nat) (l0 : Nat) (l1 : Int32) (l2 : Int32) (s0 : zS) (_ : f_X8_hasCycle_l4 X.g.1 n l0 l1 l2 s0 = some (r, sF)), ZW X s0 4 [(0, zr (some l0)), (1, zi l1), (2, zi l2)] [] := by
  intro n
  induction n with
  | zero => intro l0 l1 l2 s0 hf; exact absurd (show (none : Option (Int32 × zS)) = some (r, sF) from hf) (fun z => nomatch z)
  | succ n ih => intro l0 l1 l2 s0 hf; exact w_X8_hasCycle_b4 hC hL hno hQ (f_X8_hasCycle_l4 X.g.1 n) ih l0 l1 l2 s0 hf
def f_X8_hasCycle (G : Nat → Nat) (l0 : Nat) (s0 : zS) : Option (Int32 × zS) :=
f_X8_hasCycle_l4 G 2000 l0 0 0 s0
set_option maxHeartbeats 4000000 in
theorem m_X8_hasCycle (Γ : zG) (l0 : Nat) (s0 s1 : zS) (r : Int32) (hf : f_X8_hasCycle Γ.1 l0 s0 = some (r, s1)) : ZM Γ yX8_hasCycle (ws_ yX8_hasCycle cX8_hasCycle 4 (some .boolean)) 3 41 [zr (some l0)] s0 (.inl (some (zi r)), s1) := by
  refine ZM.of (own := RX8) (by decide) rfl (Nat.le_of_ble_eq_true rfl) ?_
  intro X hg hC hL hno hQ hin
  subst hg
  unfold f_X8_hasCycle at hf
  refine z_iconst (v := 0) hC (pc := 0) dX8_hasCycle_0 zki_0 ?_
  refine z_istore_n (lv' := [(1, zi 0), (0, zr (some l0))]) hC (pc := 1) hL dX8_hasCycle_1 rfl (Nat.le_of_ble_eq_true rfl) rfl ?_
  refine z_iconst (v := 0) hC (pc := 2) dX8_hasCycle_2 zki_0 ?_
  refine z_istore_n (lv' := [(2, zi 0), (1, zi 0), (0, zr (some l0))]) hC (pc := 3) hL dX8_hasCycle_3 rfl (Nat.le_of_ble_eq_true rfl) rfl ?_
  refine ZW.perm (lv' := [(0, zr (some l0)), (1, zi 0), (2, zi 0)]) [2, 1, 0] rfl ?_
  exact w_X8_hasCycle_l4 hC hL hno hQ 2000 l0 0 0 s0 hf
/-! BlockingShopModel.isDeadlocked()Z -/
def f_X8_isDeadlocked (G : Nat → Nat) (l0 : Nat) (s0 : zS) : Option (Int32 × zS) :=
zo (zrc s0 (some l0) 6) fun _ =>
zb (f_X8_findStarts G l0 s0) fun v3 s4 =>
if v3 = 0 then (zrn .boolean 1 s4)
else (zo (zgR s4 (some l0) 6 8) fun v6 =>
zo (zaI s4 v6 0 1) fun v7 =>
if v7 = 0 then (zo (zrc s4 (some l0) 6) fun _ =>
zb (f_X8_hasCycle G l0 s4) fun v11 s12 =>
if v11 = 0 then (zrn .boolean 0 s12)
else (zrn .boolean 1 s12))
else (zrn .boolean 0 s4))
set_option maxHeartbeats 4000000 in
theorem m_X8_isDeadlocked (Γ : zG) (l0 : Nat) (s0 s1 : zS) (r : Int32) (hf : f_X8_isDeadlocked Γ.1 l0 s0 = some (r, s1)) : ZM Γ yX8_isDeadlocked (ws_ yX8_isDeadlocked cX8_isDeadlocked 1 (some .boolean)) 6 110 [zr (some l0)] s0 (.inl (some (zi r)), s1) := by
  refine ZM.of (own := RX8) (by decide) rfl (Nat.le_of_ble_eq_true rfl) ?_
  intro X hg hC hL hno hQ hin
  subst hg
  unfold f_X8_isDeadlocked at hf
  refine z_aload_n hC (pc := 0) dX8_isDeadlocked_0 rfl 0 rfl ?_
  obtain ⟨fs1, ha2, hf⟩ := z_rcN hf
  refine z_cI (rest := []) hf (fun v3 s4 hcall => z_runV hC (pc := 1) zcX8 0 ha2 (m_X8_findStarts X.g l0 s0 s4 v3 hcall) (lw_V q2936 q2938 qs72 q108 q2939) hdV_X8_findStarts ⟨(Nat.le_of_ble_eq_true rfl), (Nat.le_of_ble_eq_true rfl)⟩ rfl (Nat.le_of_ble_eq_true rfl) dX8_isDeadlocked_1 rfl) (fun v3 s4 hf => ?_)
  refine z_if_eq hC (pc := 4) (tgt := 23) dX8_isDeadlocked_4 rfl (fun c5 => ?_) (fun c5 => ?_)
  · have hf := zif_t hf c5
    refine z_iconst (v := 1) hC (pc := 23) dX8_isDeadlocked_23 zki_1 ?_
    refine z_goto hC (pc := 24) (tgt := 28) dX8_isDeadlocked_24 rfl ?_
    exact z_zreturn hC (pc := 28) hQ dX8_isDeadlocked_28 hf
  · have hf := zif_f hf c5
    refine z_aload_n hC (pc := 7) dX8_isDeadlocked_7 rfl 0 rfl ?_
    refine z_getR hC (pc := 8) in_X8 zcX8 8 (Nat.le_of_ble_eq_true rfl) (zLk.o hC q2681) zsm dX8_isDeadlocked_8 hf (fun v6 hf => ?_)
    refine z_iconst (v := 1) hC (pc := 11) dX8_isDeadlocked_11 zki_1 ?_
    refine z_iald hC (pc := 12) dX8_isDeadlocked_12 hf (fun v7 hf => ?_)
    refine z_if_ne hC (pc := 13) (tgt := 27) dX8_isDeadlocked_13 rfl (fun c8 => ?_) (fun c8 => ?_)
    · have hf := zif_f hf c8
      refine z_iconst (v := 0) hC (pc := 27) dX8_isDeadlocked_27 zki_0 ?_
      exact z_zreturn hC (pc := 28) hQ dX8_isDeadlocked_28 hf
    · have hf := zif_t hf c8
      refine z_aload_n hC (pc := 16) dX8_isDeadlocked_16 rfl 0 rfl ?_
      obtain ⟨fs9, ha10, hf⟩ := z_rcN hf
      refine z_cI (rest := []) hf (fun v11 s12 hcall => z_runV hC (pc := 17) zcX8 0 ha10 (m_X8_hasCycle X.g l0 s4 s12 v11 hcall) (lw_V q3067 q3069 qs91 q108 q3070) hdV_X8_hasCycle ⟨(Nat.le_of_ble_eq_true rfl), (Nat.le_of_ble_eq_true rfl)⟩ rfl (Nat.le_of_ble_eq_true rfl) dX8_isDeadlocked_17 rfl) (fun v11 s12 hf => ?_)
      refine z_if_eq hC (pc := 20) (tgt := 27) dX8_isDeadlocked_20 rfl (fun c13 => ?_) (fun c13 => ?_)
      · have hf := zif_t hf c13
        refine z_iconst (v := 0) hC (pc := 27) dX8_isDeadlocked_27 zki_0 ?_
        exact z_zreturn hC (pc := 28) hQ dX8_isDeadlocked_28 hf
      · have hf := zif_f hf c13
        refine z_iconst (v := 1) hC (pc := 23) dX8_isDeadlocked_23 zki_1 ?_
        refine z_goto hC (pc := 24) (tgt := 28) dX8_isDeadlocked_24 rfl ?_
        exact z_zreturn hC (pc := 28) hQ dX8_isDeadlocked_28 hf
/-! BlockingShopModel.makespanOf()I -/
def f_X8_makespanOf_b4 (G : Nat → Nat) (k4 : Nat → Int32 → Int32 → zS → Option (Int32 × zS)) (l0 : Nat) (l1 : Int32) (l2 : Int32) (s0 : zS) : Option (Int32 × zS) :=
zo (zgR s0 (some l0) 6 8) fun v1 =>
zo (zaI s0 v1 0 2) fun v2 =>
if v2 ≤ l2 then (some (l1, s0))
else (zo (zrc s0 (some l0) 6) fun _ =>
zb (f_X8_completionOf G l0 l2 s0) fun v6 s7 =>
zb (f_X8_max G l1 v6 s7) fun v8 s9 =>
k4 l0 v8 (l2 + 1) s9)
set_option maxHeartbeats 4000000 in
theorem w_X8_makespanOf_b4 {X : zX} (hC : ZC X RX8 cX8_makespanOf (some .int) 4 63) (hL : X.nL = 3) (hno : ∀ x ∈ X.c.exceptionTable.toList, False) {r : Int32} {sF : zS} (hQ : ZQ X (.inl (some (zi r)), sF)) (k4 : Nat → Int32 → Int32 → zS → Option (Int32 × zS)) (hk4 : ∀ (l0 : Nat) (l1 : Int32) (l2 : Int32) (s0 : zS), k4 l0 l1 l2 s0 = some (r, sF) → ZW X s0 4 [(0, zr (some l0)), (1, zi l1), (2, zi l2)] []) (l0 : Nat) (l1 : Int32) (l2 : Int32) (s0 : zS) (hf : f_X8_makespanOf_b4 X.g.1 k4 l0 l1 l2 s0 = some (r, sF)) : ZW X s0 4 [(0, zr (some l0)), (1, zi l1), (2, zi l2)] [] := by
  unfold f_X8_makespanOf_b4 at hf
  refine z_iload_n hC (pc := 4) dX8_makespanOf_4 rfl 2 rfl ?_
  refine z_aload_n hC (pc := 5) dX8_makespanOf_5 rfl 0 rfl ?_
  refine z_getR hC (pc := 6) in_X8 zcX8 8 (Nat.le_of_ble_eq_true rfl) (zLk.o hC q2681) zsm dX8_makespanOf_6 hf (fun v1 hf => ?_)
  refine z_iconst (v := 2) hC (pc := 9) dX8_makespanOf_9 zki_2 ?_
  refine z_iald hC (pc := 10) dX8_makespanOf_10 hf (fun v2 hf => ?_)
  refine z_icmp_ge hC (pc := 11) (tgt := 30) dX8_makespanOf_11 rfl (fun c3 => ?_) (fun c3 => ?_)
  · have hf := zif_t hf c3
    refine z_iload_n hC (pc := 30) dX8_makespanOf_30 rfl 1 rfl ?_
    exact z_ireturn hC (pc := 31) hQ dX8_makespanOf_31 hf
  · have hf := zif_f hf c3
    refine z_iload_n hC (pc := 14) dX8_makespanOf_14 rfl 1 rfl ?_
    refine z_aload_n hC (pc := 15) dX8_makespanOf_15 rfl 0 rfl ?_
    refine z_iload_n hC (pc := 16) dX8_makespanOf_16 rfl 2 rfl ?_
    obtain ⟨fs4, ha5, hf⟩ := z_rcN hf
    refine z_cI (rest := [zi l1]) hf (fun v6 s7 hcall => z_runV hC (pc := 17) zcX8 1 ha5 (m_X8_completionOf X.g l0 l2 s0 s7 v6 hcall) (lw_V q2979 q2981 qs80 q108 q2982) hdV_X8_completionOf ⟨(Nat.le_of_ble_eq_true rfl), (Nat.le_of_ble_eq_true rfl)⟩ rfl (Nat.le_of_ble_eq_true rfl) dX8_makespanOf_17 rfl) (fun v6 s7 hf => ?_)
    refine z_cI (rest := []) hf (fun v8 s9 hcall => z_runS hC (pc := 20) 2 (m_X8_max X.g l1 v6 s7 s9 v8 hcall) (lw_S q2964 q2965 q108 q2966) hd_X8_max ⟨(Nat.le_of_ble_eq_true rfl), (Nat.le_of_ble_eq_true rfl)⟩ rfl (Nat.le_of_ble_eq_true rfl) dX8_makespanOf_20 rfl) (fun v8 s9 hf => ?_)
    refine z_istore_n (lv' := [(1, zi v8), (0, zr (some l0)), (2, zi l2)]) hC (pc := 23) hL dX8_makespanOf_23 rfl (Nat.le_of_ble_eq_true rfl) rfl ?_
    refine z_iinc (v := 1) (lv' := [(2, zi (l2 + 1)), (1, zi v8), (0, zr (some l0))]) hC (pc := 24) hL dX8_makespanOf_24 2 rfl zki_1 (Nat.le_of_ble_eq_true rfl) rfl ?_
    refine z_goto hC (pc := 27) (tgt := 4) dX8_makespanOf_27 rfl ?_
    refine ZW.perm (lv' := [(0, zr (some l0)), (1, zi v8), (2, zi (l2 + 1))]) [2, 1, 0] rfl ?_
    exact hk4 l0 v8 (l2 + 1) s9 hf
def f_X8_makespanOf_l4 (G : Nat → Nat) : Nat → Nat → Int32 → Int32 → zS → Option (Int32 × zS)
  | 0 => fun _ _ _ _ => none
  | n + 1 => f_X8_makespanOf_b4 G (f_X8_makespanOf_l4 G n)
theorem w_X8_makespanOf_l4 {X : zX} (hC : ZC X RX8 cX8_makespanOf (some .int) 4 63) (hL : X.nL = 3) (hno : ∀ x ∈ X.c.exceptionTable.toList, False) {r : Int32} {sF : zS} (hQ : ZQ X (.inl (some (zi r)), sF)) : ∀ (n : Nat) (l0 : Nat) (l1 : Int32) (l2 : Int32) (s0 : zS) (_ : f_X8_makespanOf_l4 X.g.1 n l0 l1 l2 s0 = some (r, sF)), ZW X s0 4 [(0, zr (some l0)), (1, zi l1), (2, zi l2)] [] := by
  intro n
  induction n with
  | zero => intro l0 l1 l2 s0 hf; exact absurd (show (none : Option (Int32 × zS)) = some (r, sF) from hf) (fun z => nomatch z)
  | succ n ih => intro l0 l1 l2 s0 hf; exact w_X8_makespanOf_b4 hC hL hno hQ (f_X8_makespanOf_l4 X.g.1 n) ih l0 l1 l2 s0 hf
def f_X8_makespanOf (G : Nat → Nat) (l0 : Nat) (s0 : zS) : Option (Int32 × zS) :=
f_X8_makespanOf_l4 G 2000 l0 0 0 s0
set_option maxHeartbeats 4000000 in
theorem m_X8_makespanOf (Γ : zG) (l0 : Nat) (s0 s1 : zS) (r : Int32) (hf : f_X8_makespanOf Γ.1 l0 s0 = some (r, s1)) : ZM Γ yX8_makespanOf (ws_ yX8_makespanOf cX8_makespanOf 3 (some .int)) 4 63 [zr (some l0)] s0 (.inl (some (zi r)), s1) := by
  refine ZM.of (own := RX8) (by decide) rfl (Nat.le_of_ble_eq_true rfl) ?_
  intro X hg hC hL hno hQ hin
  subst hg
  unfold f_X8_makespanOf at hf
  refine z_iconst (v := 0) hC (pc := 0) dX8_makespanOf_0 zki_0 ?_
  refine z_istore_n (lv' := [(1, zi 0), (0, zr (some l0))]) hC (pc := 1) hL dX8_makespanOf_1 rfl (Nat.le_of_ble_eq_true rfl) rfl ?_
  refine z_iconst (v := 0) hC (pc := 2) dX8_makespanOf_2 zki_0 ?_
  refine z_istore_n (lv' := [(2, zi 0), (1, zi 0), (0, zr (some l0))]) hC (pc := 3) hL dX8_makespanOf_3 rfl (Nat.le_of_ble_eq_true rfl) rfl ?_
  refine ZW.perm (lv' := [(0, zr (some l0)), (1, zi 0), (2, zi 0)]) [2, 1, 0] rfl ?_
  exact w_X8_makespanOf_l4 hC hL hno hQ 2000 l0 0 0 s0 hf
/-! BlockingShopModel.findBest()I -/
def f_X8_findBest_b100 (G : Nat → Nat) (k16 : Nat → Int32 → Int32 → Int32 → zS → Option (Int32 × zS)) (l0 : Nat) (l1 : Int32) (l2 : Int32) (l3 : Int32) (s0 : zS) : Option (Int32 × zS) :=
zo (zrc s0 (some l0) 6) fun _ =>
zb (f_X8_exchange G l0 l2 l3 s0) fun _ s4 =>
k16 l0 l1 l2 (l3 + 1) s4
set_option maxHeartbeats 4000000 in
theorem w_X8_findBest_b100 {X : zX} (hC : ZC X RX8 cX8_findBest (some .int) 7 130) (hL : X.nL = 6) (hno : ∀ x ∈ X.c.exceptionTable.toList, False) {r : Int32} {sF : zS} (hQ : ZQ X (.inl (some (zi r)), sF)) (k16 : Nat → Int32 → Int32 → Int32 → zS → Option (Int32 × zS)) (hk16 : ∀ (l0 : Nat) (l1 : Int32) (l2 : Int32) (l3 : Int32) (s0 : zS), k16 l0 l1 l2 l3 s0 = some (r, sF) → ZW X s0 16 [(0, zr (some l0)), (1, zi l1), (2, zi l2), (3, zi l3)] []) (l0 : Nat) (l1 : Int32) (l2 : Int32) (l3 : Int32) (s0 : zS) (hf : f_X8_findBest_b100 X.g.1 k16 l0 l1 l2 l3 s0 = some (r, sF)) : ZW X s0 100 [(0, zr (some l0)), (1, zi l1), (2, zi l2), (3, zi l3)] [] := by
  unfold f_X8_findBest_b100 at hf
  refine z_aload_n hC (pc := 100) dX8_findBest_100 rfl 0 rfl ?_
  refine z_iload_n hC (pc := 101) dX8_findBest_101 rfl 2 rfl ?_
  refine z_iload_n hC (pc := 102) dX8_findBest_102 rfl 3 rfl ?_
  obtain ⟨fs1, ha2, hf⟩ := z_rcN hf
  refine z_cU (rest := []) hf (fun v3 s4 hcall => z_runV hC (pc := 103) zcX8 2 ha2 (m_X8_exchange X.g l0 l2 l3 s0 s4 v3 hcall) (lw_V q3059 q3061 qs89 q108 q3062) hdV_X8_exchange ⟨(Nat.le_of_ble_eq_true rfl), (Nat.le_of_ble_eq_true rfl)⟩ rfl (Nat.le_of_ble_eq_true rfl) dX8_findBest_103 rfl) (fun _ s4 hf => ?_)
  refine z_iinc (v := 1) (lv' := [(3, zi (l3 + 1)), (0, zr (some l0)), (1, zi l1), (2, zi l2)]) hC (pc := 106) hL dX8_findBest_106 3 rfl zki_1 (Nat.le_of_ble_eq_true rfl) rfl ?_
  refine z_goto hC (pc := 109) (tgt := 16) dX8_findBest_109 rfl ?_
  refine ZW.perm (lv' := [(0, zr (some l0)), (1, zi l1), (2, zi l2), (3, zi (l3 + 1))]) [1, 2, 3, 0] rfl ?_
  exact hk16 l0 l1 l2 (l3 + 1) s4 hf
def f_X8_findBest_b81 (G : Nat → Nat) (k16 : Nat → Int32 → Int32 → Int32 → zS → Option (Int32 × zS)) (l0 : Nat) (l2 : Int32) (l3 : Int32) (l4 : Int32) (l5 : Int32) (s0 : zS) : Option (Int32 × zS) :=
zo (zput G s0 (some l0) 6 21 (.int l4)) fun s1 =>
zo (zput G s1 (some l0) 6 22 (.int l5)) fun s2 =>
f_X8_findBest_b100 G k16 l0 ((100 * l2) + l3) l2 l3 s2
set_option maxHeartbeats 4000000 in
theorem w_X8_findBest_b81 {X : zX} (hC : ZC X RX8 cX8_findBest (some .int) 7 130) (hL : X.nL = 6) (hno : ∀ x ∈ X.c.exceptionTable.toList, False) {r : Int32} {sF : zS} (hQ : ZQ X (.inl (some (zi r)), sF)) (k16 : Nat → Int32 → Int32 → Int32 → zS → Option (Int32 × zS)) (hk16 : ∀ (l0 : Nat) (l1 : Int32) (l2 : Int32) (l3 : Int32) (s0 : zS), k16 l0 l1 l2 l3 s0 = some (r, sF) → ZW X s0 16 [(0, zr (some l0)), (1, zi l1), (2, zi l2), (3, zi l3)] []) (l0 : Nat) (l2 : Int32) (l3 : Int32) (l4 : Int32) (l5 : Int32) (s0 : zS) (hf : f_X8_findBest_b81 X.g.1 k16 l0 l2 l3 l4 l5 s0 = some (r, sF)) : ZW X s0 81 [(0, zr (some l0)), (2, zi l2), (3, zi l3), (4, zi l4), (5, zi l5)] [] := by
  unfold f_X8_findBest_b81 at hf
  refine z_bipush (v := 100) hC (pc := 81) dX8_findBest_81 zkb_100 ?_
  refine z_iload_n hC (pc := 83) dX8_findBest_83 rfl 1 rfl ?_
  refine z_imul hC (pc := 84) dX8_findBest_84 ?_
  refine z_iload_n hC (pc := 85) dX8_findBest_85 rfl 2 rfl ?_
  refine z_iadd hC (pc := 86) dX8_findBest_86 ?_
  refine z_istore_n (lv' := [(1, zi ((100 * l2) + l3)), (0, zr (some l0)), (2, zi l2), (3, zi l3), (4, zi l4), (5, zi l5)]) hC (pc := 87) hL dX8_findBest_87 rfl (Nat.le_of_ble_eq_true rfl) rfl ?_
  refine z_aload_n hC (pc := 88) dX8_findBest_88 rfl 1 rfl ?_
  refine z_iload hC (pc := 89) dX8_findBest_89 4 rfl ?_
  refine z_putV (v := zi l4) hC (pc := 91) in_X8 tyX8 tyX8_ok nmX8 zcX8 21 (Nat.le_of_ble_eq_true rfl) (zLk.o hC q2694) zsm (Or.inl rfl) rfl rfl dX8_findBest_91 hf (fun s1 hf => ?_)
  refine z_aload_n hC (pc := 94) dX8_findBest_94 rfl 1 rfl ?_
  refine z_iload hC (pc := 95) dX8_findBest_95 5 rfl ?_
  refine z_putV (v := zi l5) hC (pc := 97) in_X8 tyX8 tyX8_ok nmX8 zcX8 22 (Nat.le_of_ble_eq_true rfl) (zLk.o hC q2695) zsm (Or.inl rfl) rfl rfl dX8_findBest_97 hf (fun s2 hf => ?_)
  refine ZW.perm (lv' := [(0, zr (some l0)), (1, zi ((100 * l2) + l3)), (2, zi l2), (3, zi l3)]) [1, 0, 2, 3] rfl ?_
  exact w_X8_findBest_b100 hC hL hno hQ k16 hk16 l0 ((100 * l2) + l3) l2 l3 s2 hf
def f_X8_findBest_b16 (G : Nat → Nat) (k4 : Nat → Int32 → Int32 → zS → Option (Int32 × zS)) (k16 : Nat → Int32 → Int32 → Int32 → zS → Option (Int32 × zS)) (l0 : Nat) (l1 : Int32) (l2 : Int32) (l3 : Int32) (s0 : zS) : Option (Int32 × zS) :=
zo (zgR s0 (some l0) 6 8) fun v1 =>
zb (f_X8_machine G l2 s0) fun v2 s3 =>
zo (zaI s3 v1 0 (v2 + 2)) fun v4 =>
if v4 ≤ (l3 + 1) then (k4 l0 l1 (l2 + 1) s3)
else (zo (zrc s3 (some l0) 6) fun _ =>
zb (f_X8_exchange G l0 l2 l3 s3) fun _ s9 =>
zo (zrc s9 (some l0) 6) fun _ =>
zb (f_X8_isDeadlocked G l0 s9) fun v12 s13 =>
if v12 = 0 then (zo (zrc s13 (some l0) 6) fun _ =>
zb (f_X8_makespanOf G l0 s13) fun v17 s18 =>
zo (zrc s18 (some l0) 6) fun _ =>
zb (f_X8_costOfPlan G l0 s18) fun v21 s22 =>
if l1 = (-1) then (f_X8_findBest_b81 G k16 l0 l2 l3 v17 v21 s22)
else (zo (zgI s22 (some l0) 6 21) fun v24 =>
zo (zgI s22 (some l0) 6 22) fun v25 =>
zb (f_X8_isBetter G v17 v21 v24 v25 s22) fun v26 s27 =>
if v26 = 0 then (f_X8_findBest_b100 G k16 l0 l1 l2 l3 s27)
else (f_X8_findBest_b81 G k16 l0 l2 l3 v17 v21 s27)))
else (f_X8_findBest_b100 G k16 l0 l1 l2 l3 s13))
set_option maxHeartbeats 4000000 in
theorem w_X8_findBest_b16 {X : zX} (hC : ZC X RX8 cX8_findBest (some .int) 7 130) (hL : X.nL = 6) (hno : ∀ x ∈ X.c.exceptionTable.toList, False) {r : Int32} {sF : zS} (hQ : ZQ X (.inl (some (zi r)), sF)) (k4 : Nat → Int32 → Int32 → zS → Option (Int32 × zS)) (hk4 : ∀ (l0 : Nat) (l1 : Int32) (l2 : Int32) (s0 : zS), k4 l0 l1 l2 s0 = some (r, sF) → ZW X s0 4 [(0, zr (some l0)), (1, zi l1), (2, zi l2)] []) (k16 : Nat → Int32 → Int32 → Int32 → zS → Option (Int32 × zS)) (hk16 : ∀ (l0 : Nat) (l1 : Int32) (l2 : Int32) (l3 : Int32) (s0 : zS), k16 l0 l1 l2 l3 s0 = some (r, sF) → ZW X s0 16 [(0, zr (some l0)), (1, zi l1), (2, zi l2), (3, zi l3)] []) (l0 : Nat) (l1 : Int32) (l2 : Int32) (l3 : Int32) (s0 : zS) (hf : f_X8_findBest_b16 X.g.1 k4 k16 l0 l1 l2 l3 s0 = some (r, sF)) : ZW X s0 16 [(0, zr (some l0)), (1, zi l1), (2, zi l2), (3, zi l3)] [] := by
  unfold f_X8_findBest_b16 at hf
  refine z_iload_n hC (pc := 16) dX8_findBest_16 rfl 3 rfl ?_
  refine z_iconst (v := 1) hC (pc := 17) dX8_findBest_17 zki_1 ?_
  refine z_iadd hC (pc := 18) dX8_findBest_18 ?_
  refine z_aload_n hC (pc := 19) dX8_findBest_19 rfl 0 rfl ?_
  refine z_getR hC (pc := 20) in_X8 zcX8 8 (Nat.le_of_ble_eq_true rfl) (zLk.o hC q2681) zsm dX8_findBest_20 hf (fun v1 hf => ?_)
  refine z_iload_n hC (pc := 23) dX8_findBest_23 rfl 2 rfl ?_
  refine z_cI (rest := [zr v1, zi (l3 + 1)]) hf (fun v2 s3 hcall => z_runS hC (pc := 24) 1 (m_X8_machine X.g l2 s0 s3 v2 hcall) (lw_S q2842 q2843 q108 q2844) hd_X8_machine ⟨(Nat.le_of_ble_eq_true rfl), (Nat.le_of_ble_eq_true rfl)⟩ rfl (Nat.le_of_ble_eq_true rfl) dX8_findBest_24 rfl) (fun v2 s3 hf => ?_)
  refine z_iconst (v := 2) hC (pc := 27) dX8_findBest_27 zki_2 ?_
  refine z_iadd hC (pc := 28) dX8_findBest_28 ?_
  refine z_iald hC (pc := 29) dX8_findBest_29 hf (fun v4 hf => ?_)
  refine z_icmp_ge hC (pc := 30) (tgt := 112) dX8_findBest_30 rfl (fun c5 => ?_) (fun c5 => ?_)
  · have hf := zif_t hf c5
    refine z_iinc (v := 1) (lv' := [(2, zi (l2 + 1)), (0, zr (some l0)), (1, zi l1), (3, zi l3)]) hC (pc := 112) hL dX8_findBest_112 2 rfl zki_1 (Nat.le_of_ble_eq_true rfl) rfl ?_
    refine z_goto hC (pc := 115) (tgt := 4) dX8_findBest_115 rfl ?_
    refine ZW.perm (lv' := [(0, zr (some l0)), (1, zi l1), (2, zi (l2 + 1))]) [1, 2, 0] rfl ?_
    exact hk4 l0 l1 (l2 + 1) s3 hf
  · have hf := zif_f hf c5
    refine z_aload_n hC (pc := 33) dX8_findBest_33 rfl 0 rfl ?_
    refine z_iload_n hC (pc := 34) dX8_findBest_34 rfl 2 rfl ?_
    refine z_iload_n hC (pc := 35) dX8_findBest_35 rfl 3 rfl ?_
    obtain ⟨fs6, ha7, hf⟩ := z_rcN hf
    refine z_cU (rest := []) hf (fun v8 s9 hcall => z_runV hC (pc := 36) zcX8 2 ha7 (m_X8_exchange X.g l0 l2 l3 s3 s9 v8 hcall) (lw_V q3059 q3061 qs89 q108 q3062) hdV_X8_exchange ⟨(Nat.le_of_ble_eq_true rfl), (Nat.le_of_ble_eq_true rfl)⟩ rfl (Nat.le_of_ble_eq_true rfl) dX8_findBest_36 rfl) (fun _ s9 hf => ?_)
    refine z_aload_n hC (pc := 39) dX8_findBest_39 rfl 0 rfl ?_
    obtain ⟨fs10, ha11, hf⟩ := z_rcN hf
    refine z_cI (rest := []) hf (fun v12 s13 hcall => z_runV hC (pc := 40) zcX8 0 ha11 (m_X8_isDeadlocked X.g l0 s9 s13 v12 hcall) (lw_V q3063 q3065 qs90 q108 q3066) hdV_X8_isDeadlocked ⟨(Nat.le_of_ble_eq_true rfl), (Nat.le_of_ble_eq_true rfl)⟩ rfl (Nat.le_of_ble_eq_true rfl) dX8_findBest_40 rfl) (fun v12 s13 hf => ?_)
    refine z_if_ne hC (pc := 43) (tgt := 100) dX8_findBest_43 rfl (fun c14 => ?_) (fun c14 => ?_)
    · have hf := zif_f hf c14
      exact w_X8_findBest_b100 hC hL hno hQ k16 hk16 l0 l1 l2 l3 s13 hf
    · have hf := zif_t hf c14
      refine z_aload_n hC (pc := 46) dX8_findBest_46 rfl 0 rfl ?_
      obtain ⟨fs15, ha16, hf⟩ := z_rcN hf
      refine z_cI (rest := []) hf (fun v17 s18 hcall => z_runV hC (pc := 47) zcX8 0 ha16 (m_X8_makespanOf X.g l0 s13 s18 v17 hcall) (lw_V q2991 q2993 qs82 q108 q2994) hdV_X8_makespanOf ⟨(Nat.le_of_ble_eq_true rfl), (Nat.le_of_ble_eq_true rfl)⟩ rfl (Nat.le_of_ble_eq_true rfl) dX8_findBest_47 rfl) (fun v17 s18 hf => ?_)
      refine z_istore (lv' := [(4, zi v17), (0, zr (some l0)), (1, zi l1), (2, zi l2), (3, zi l3)]) hC (pc := 50) hL dX8_findBest_50 (Nat.le_of_ble_eq_true rfl) rfl ?_
      refine z_aload_n hC (pc := 52) dX8_findBest_52 rfl 1 rfl ?_
      obtain ⟨fs19, ha20, hf⟩ := z_rcN hf
      refine z_cI (rest := []) hf (fun v21 s22 hcall => z_runV hC (pc := 53) zcX8 0 ha20 (m_X8_costOfPlan X.g l0 s18 s22 v21 hcall) (lw_V q3015 q3017 qs84 q108 q3018) hdV_X8_costOfPlan ⟨(Nat.le_of_ble_eq_true rfl), (Nat.le_of_ble_eq_true rfl)⟩ rfl (Nat.le_of_ble_eq_true rfl) dX8_findBest_53 rfl) (fun v21 s22 hf => ?_)
      refine z_istore (lv' := [(5, zi v21), (4, zi v17), (0, zr (some l0)), (1, zi l1), (2, zi l2), (3, zi l3)]) hC (pc := 56) hL dX8_findBest_56 (Nat.le_of_ble_eq_true rfl) rfl ?_
      refine z_iload_n hC (pc := 58) dX8_findBest_58 rfl 3 rfl ?_
      refine z_iconst (v := (-1)) hC (pc := 59) dX8_findBest_59 zki_m1 ?_
      refine z_icmp_eq hC (pc := 60) (tgt := 81) dX8_findBest_60 rfl (fun c23 => ?_) (fun c23 => ?_)
      · have hf := zif_t hf c23
        refine ZW.perm (lv' := [(0, zr (some l0)), (2, zi l2), (3, zi l3), (4, zi v17), (5, zi v21)]) [2, 4, 5, 1, 0] rfl ?_
        exact w_X8_findBest_b81 hC hL hno hQ k16 hk16 l0 l2 l3 v17 v21 s22 hf
      · have hf := zif_f hf c23
        refine z_iload hC (pc := 63) dX8_findBest_63 1 rfl ?_
        refine z_iload hC (pc := 65) dX8_findBest_65 0 rfl ?_
        refine z_aload_n hC (pc := 67) dX8_findBest_67 rfl 2 rfl ?_
        refine z_getI hC (pc := 68) in_X8 zcX8 21 (Nat.le_of_ble_eq_true rfl) (zLk.o hC q2694) zsm dX8_findBest_68 hf (fun v24 hf => ?_)
        refine z_aload_n hC (pc := 71) dX8_findBest_71 rfl 2 rfl ?_
        refine z_getI hC (pc := 72) in_X8 zcX8 22 (Nat.le_of_ble_eq_true rfl) (zLk.o hC q2695) zsm dX8_findBest_72 hf (fun v25 hf => ?_)
        refine z_cI (rest := []) hf (fun v26 s27 hcall => z_runS hC (pc := 75) 4 (m_X8_isBetter X.g v17 v21 v24 v25 s22 s27 v26 hcall) (lw_S q3083 q3084 q108 q3085) hd_X8_isBetter ⟨(Nat.le_of_ble_eq_true rfl), (Nat.le_of_ble_eq_true rfl)⟩ rfl (Nat.le_of_ble_eq_true rfl) dX8_findBest_75 rfl) (fun v26 s27 hf => ?_)
        refine z_if_eq hC (pc := 78) (tgt := 100) dX8_findBest_78 rfl (fun c28 => ?_) (fun c28 => ?_)
        · have hf := zif_t hf c28
          refine ZW.perm (lv' := [(0, zr (some l0)), (1, zi l1), (2, zi l2), (3, zi l3)]) [2, 3, 4, 5] rfl ?_
          exact w_X8_findBest_b100 hC hL hno hQ k16 hk16 l0 l1 l2 l3 s27 hf
        · have hf := zif_f hf c28
          refine ZW.perm (lv' := [(0, zr (some l0)), (2, zi l2), (3, zi l3), (4, zi v17), (5, zi v21)]) [2, 4, 5, 1, 0] rfl ?_
          exact w_X8_findBest_b81 hC hL hno hQ k16 hk16 l0 l2 l3 v17 v21 s27 hf
def f_X8_findBest_l16 (G : Nat → Nat) (k4 : Nat → Int32 → Int32 → zS → Option (Int32 × zS)) : Nat → Nat → Int32 → Int32 → Int32 → zS → Option (Int32 × zS)
  | 0 => fun _ _ _ _ _ => none
  | n + 1 => f_X8_findBest_b16 G k4 (f_X8_findBest_l16 G k4 n)
theorem w_X8_findBest_l16 {X : zX} (hC : ZC X RX8 cX8_findBest (some .int) 7 130) (hL : X.nL = 6) (hno : ∀ x ∈ X.c.exceptionTable.toList, False) {r : Int32} {sF : zS} (hQ : ZQ X (.inl (some (zi r)), sF)) (k4 : Nat → Int32 → Int32 → zS → Option (Int32 × zS)) (hk4 : ∀ (l0 : Nat) (l1 : Int32) (l2 : Int32) (s0 : zS), k4 l0 l1 l2 s0 = some (r, sF) → ZW X s0 4 [(0, zr (some l0)), (1, zi l1), (2, zi l2)] []) : ∀ (n : Nat) (l0 : Nat) (l1 : Int32) (l2 : Int32) (l3 : Int32) (s0 : zS) (_ : f_X8_findBest_l16 X.g.1 k4 n l0 l1 l2 l3 s0 = some (r, sF)), ZW X s0 16 [(0, zr (some l0)), (1, zi l1), (2, zi l2), (3, zi l3)] [] := by
  intro n
  induction n with
  | zero => intro l0 l1 l2 l3 s0 hf; exact absurd (show (none : Option (Int32 × zS)) = some (r, sF) from hf) (fun z => nomatch z)
  | succ n ih => intro l0 l1 l2 l3 s0 hf; exact w_X8_findBest_b16 hC hL hno hQ k4 hk4 (f_X8_findBest_l16 X.g.1 k4 n) ih l0 l1 l2 l3 s0 hf
def f_X8_findBest_b4 (G : Nat → Nat) (k4 : Nat → Int32 → Int32 → zS → Option (Int32 × zS)) (l0 : Nat) (l1 : Int32) (l2 : Int32) (s0 : zS) : Option (Int32 × zS) :=
zo (zgR s0 (some l0) 6 8) fun v1 =>
zo (zaI s0 v1 0 0) fun v2 =>
if v2 ≤ l2 then (some (l1, s0))
else (f_X8_findBest_l16 G k4 2000 l0 l1 l2 0 s0)
set_option maxHeartbeats 4000000 in
theorem w_X8_findBest_b4 {X : zX} (hC : ZC X RX8 cX8_findBest (some .int) 7 130) (hL : X.nL = 6) (hno : ∀ x ∈ X.c.exceptionTable.toList, False) {r : Int32} {sF : zS} (hQ : ZQ X (.inl (some (zi r)), sF)) (k4 : Nat → Int32 → Int32 → zS → Option (Int32 × zS)) (hk4 : ∀ (l0 : Nat) (l1 : Int32) (l2 : Int32) (s0 : zS), k4 l0 l1 l2 s0 = some (r, sF) → ZW X s0 4 [(0, zr (some l0)), (1, zi l1), (2, zi l2)] []) (l0 : Nat) (l1 : Int32) (l2 : Int32) (s0 : zS) (hf : f_X8_findBest_b4 X.g.1 k4 l0 l1 l2 s0 = some (r, sF)) : ZW X s0 4 [(0, zr (some l0)), (1, zi l1), (2, zi l2)] [] := by
  unfold f_X8_findBest_b4 at hf
  refine z_iload_n hC (pc := 4) dX8_findBest_4 rfl 2 rfl ?_
  refine z_aload_n hC (pc := 5) dX8_findBest_5 rfl 0 rfl ?_
  refine z_getR hC (pc := 6) in_X8 zcX8 8 (Nat.le_of_ble_eq_true rfl) (zLk.o hC q2681) zsm dX8_findBest_6 hf (fun v1 hf => ?_)
  refine z_iconst (v := 0) hC (pc := 9) dX8_findBest_9 zki_0 ?_
  refine z_iald hC (pc := 10) dX8_findBest_10 hf (fun v2 hf => ?_)
  refine z_icmp_ge hC (pc := 11) (tgt := 118) dX8_findBest_11 rfl (fun c3 => ?_) (fun c3 => ?_)
  · have hf := zif_t hf c3
    refine z_iload_n hC (pc := 118) dX8_findBest_118 rfl 1 rfl ?_
    exact z_ireturn hC (pc := 119) hQ dX8_findBest_119 hf
  · have hf := zif_f hf c3
    refine z_iconst (v := 0) hC (pc := 14) dX8_findBest_14 zki_0 ?_
    refine z_istore_n (lv' := [(3, zi 0), (0, zr (some l0)), (1, zi l1), (2, zi l2)]) hC (pc := 15) hL dX8_findBest_15 rfl (Nat.le_of_ble_eq_true rfl) rfl ?_
    refine ZW.perm (lv' := [(0, zr (some l0)), (1, zi l1), (2, zi l2), (3, zi 0)]) [1, 2, 3, 0] rfl ?_
    exact w_X8_findBest_l16 hC hL hno hQ k4 hk4 2000 l0 l1 l2 0 s0 hf
def f_X8_findBest_l4 (G : Nat → Nat) : Nat → Nat → Int32 → Int32 → zS → Option (Int32 × zS)
  | 0 => fun _ _ _ _ => none
  | n + 1 => f_X8_findBest_b4 G (f_X8_findBest_l4 G n)
theorem w_X8_findBest_l4 {X : zX} (hC : ZC X RX8 cX8_findBest (some .int) 7 130) (hL : X.nL = 6) (hno : ∀ x ∈ X.c.exceptionTable.toList, False) {r : Int32} {sF : zS} (hQ : ZQ X (.inl (some (zi r)), sF)) : ∀ (n : Nat) (l0 : Nat) (l1 : Int32) (l2 : Int32) (s0 : zS) (_ : f_X8_findBest_l4 X.g.1 n l0 l1 l2 s0 = some (r, sF)), ZW X s0 4 [(0, zr (some l0)), (1, zi l1), (2, zi l2)] [] := by
  intro n
  induction n with
  | zero => intro l0 l1 l2 s0 hf; exact absurd (show (none : Option (Int32 × zS)) = some (r, sF) from hf) (fun z => nomatch z)
  | succ n ih => intro l0 l1 l2 s0 hf; exact w_X8_findBest_b4 hC hL hno hQ (f_X8_findBest_l4 X.g.1 n) ih l0 l1 l2 s0 hf
def f_X8_findBest (G : Nat → Nat) (l0 : Nat) (s0 : zS) : Option (Int32 × zS) :=
f_X8_findBest_l4 G 2000 l0 (-1) 0 s0
set_option maxHeartbeats 4000000 in
theorem m_X8_findBest (Γ : zG) (l0 : Nat) (s0 s1 : zS) (r : Int32) (hf : f_X8_findBest Γ.1 l0 s0 = some (r, s1)) : ZM Γ yX8_findBest (ws_ yX8_findBest cX8_findBest 6 (some .int)) 7 130 [zr (some l0)] s0 (.inl (some (zi r)), s1) := by
  refine ZM.of (own := RX8) (by decide) rfl (Nat.le_of_ble_eq_true rfl) ?_
  intro X hg hC hL hno hQ hin
  subst hg
  unfold f_X8_findBest at hf
  refine z_iconst (v := (-1)) hC (pc := 0) dX8_findBest_0 zki_m1 ?_
  refine z_istore_n (lv' := [(1, zi (-1)), (0, zr (some l0))]) hC (pc := 1) hL dX8_findBest_1 rfl (Nat.le_of_ble_eq_true rfl) rfl ?_
  refine z_iconst (v := 0) hC (pc := 2) dX8_findBest_2 zki_0 ?_
  refine z_istore_n (lv' := [(2, zi 0), (1, zi (-1)), (0, zr (some l0))]) hC (pc := 3) hL dX8_findBest_3 rfl (Nat.le_of_ble_eq_true rfl) rfl ?_
  refine ZW.perm (lv' := [(0, zr (some l0)), (1, zi (-1)), (2, zi 0)]) [2, 1, 0] rfl ?_
  exact w_X8_findBest_l4 hC hL hno hQ 2000 l0 (-1) 0 s0 hf
/-! BlockingShopModel.bestSwap()I -/
def f_X8_bestSwap (G : Nat → Nat) (l0 : Nat) (s0 : zS) : Option (Int32 × zS) :=
zo (zput G s0 (some l0) 6 0 (.int 0)) fun s1 =>
zo (zrc s1 (some l0) 6) fun _ =>
zb (f_X8_findBest G l0 s1) fun v4 s5 =>
some (v4, s5)
set_option maxHeartbeats 4000000 in
theorem m_X8_bestSwap (Γ : zG) (l0 : Nat) (s0 s1 : zS) (r : Int32) (hf : f_X8_bestSwap Γ.1 l0 s0 = some (r, s1)) : ZM Γ yX8_bestSwap (ws_ yX8_bestSwap cX8_bestSwap 1 (some .int)) 8 155 [zr (some l0)] s0 (.inl (some (zi r)), s1) := by
  refine ZM.of (own := RX8) (by decide) rfl (Nat.le_of_ble_eq_true rfl) ?_
  intro X hg hC hL hno hQ hin
  subst hg
  unfold f_X8_bestSwap at hf
  refine z_aload_n hC (pc := 0) dX8_bestSwap_0 rfl 0 rfl ?_
  refine z_iconst (v := 0) hC (pc := 1) dX8_bestSwap_1 zki_0 ?_
  refine z_putV (v := zi 0) hC (pc := 2) in_X8 tyX8 tyX8_ok nmX8 zcX8 0 (Nat.le_of_ble_eq_true rfl) (zLk.o hC q2673) zsm (Or.inl rfl) rfl rfl dX8_bestSwap_2 hf (fun s1 hf => ?_)
  refine z_aload_n hC (pc := 5) dX8_bestSwap_5 rfl 0 rfl ?_
  obtain ⟨fs2, ha3, hf⟩ := z_rcN hf
  refine z_cI (rest := []) hf (fun v4 s5 hcall => z_runV hC (pc := 6) zcX8 0 ha3 (m_X8_findBest X.g l0 s1 s5 v4 hcall) (lw_V q3079 q3081 qs92 q108 q3082) hdV_X8_findBest ⟨(Nat.le_of_ble_eq_true rfl), (Nat.le_of_ble_eq_true rfl)⟩ rfl (Nat.le_of_ble_eq_true rfl) dX8_bestSwap_6 rfl) (fun v4 s5 hf => ?_)
  exact z_ireturn hC (pc := 9) hQ dX8_bestSwap_9 hf
/-! BlockingShopModel.isOnPath(I)Z -/
def f_X8_isOnPath_b2 (G : Nat → Nat) (k2 : Nat → Int32 → Int32 → zS → Option (Int32 × zS)) (l0 : Nat) (l1 : Int32) (l2 : Int32) (s0 : zS) : Option (Int32 × zS) :=
zo (zgI s0 (some l0) 6 24) fun v1 =>
if v1 ≤ l2 then (zrn .boolean 0 s0)
else (zo (zgR s0 (some l0) 6 23) fun v3 =>
zo (zaI s0 v3 0 l2) fun v4 =>
if v4 = l1 then (zrn .boolean 1 s0)
else (k2 l0 l1 (l2 + 1) s0))
set_option maxHeartbeats 4000000 in
theorem w_X8_isOnPath_b2 {X : zX} (hC : ZC X RX8 cX8_isOnPath (some .boolean) 1 0) (hL : X.nL = 3) (hno : ∀ x ∈ X.c.exceptionTable.toList, False) {r : Int32} {sF : zS} (hQ : ZQ X (.inl (some (zi r)), sF)) (k2 : Nat → Int32 → Int32 → zS → Option (Int32 × zS)) (hk2 : ∀ (l0 : Nat) (l1 : Int32) (l2 : Int32) (s0 : zS), k2 l0 l1 l2 s0 = some (r, sF) → ZW X s0 2 [(0, zr (some l0)), (1, zi l1), (2, zi l2)] []) (l0 : Nat) (l1 : Int32) (l2 : Int32) (s0 : zS) (hf : f_X8_isOnPath_b2 X.g.1 k2 l0 l1 l2 s0 = some (r, sF)) : ZW X s0 2 [(0, zr (some l0)), (1, zi l1), (2, zi l2)] [] := by
  unfold f_X8_isOnPath_b2 at hf
  refine z_iload_n hC (pc := 2) dX8_isOnPath_2 rfl 2 rfl ?_
  refine z_aload_n hC (pc := 3) dX8_isOnPath_3 rfl 0 rfl ?_
  refine z_getI hC (pc := 4) in_X8 zcX8 24 (Nat.le_of_ble_eq_true rfl) (zLk.o hC q2697) zsm dX8_isOnPath_4 hf (fun v1 hf => ?_)
  refine z_icmp_ge hC (pc := 7) (tgt := 28) dX8_isOnPath_7 rfl (fun c2 => ?_) (fun c2 => ?_)
  · have hf := zif_t hf c2
    refine z_iconst (v := 0) hC (pc := 28) dX8_isOnPath_28 zki_0 ?_
    exact z_zreturn hC (pc := 29) hQ dX8_isOnPath_29 hf
  · have hf := zif_f hf c2
    refine z_aload_n hC (pc := 10) dX8_isOnPath_10 rfl 0 rfl ?_
    refine z_getR hC (pc := 11) in_X8 zcX8 23 (Nat.le_of_ble_eq_true rfl) (zLk.o hC q2696) zsm dX8_isOnPath_11 hf (fun v3 hf => ?_)
    refine z_iload_n hC (pc := 14) dX8_isOnPath_14 rfl 2 rfl ?_
    refine z_iald hC (pc := 15) dX8_isOnPath_15 hf (fun v4 hf => ?_)
    refine z_iload_n hC (pc := 16) dX8_isOnPath_16 rfl 1 rfl ?_
    refine z_icmp_ne hC (pc := 17) (tgt := 22) dX8_isOnPath_17 rfl (fun c5 => ?_) (fun c5 => ?_)
    · have hf := zif_f hf c5
      refine z_iinc (v := 1) (lv' := [(2, zi (l2 + 1)), (0, zr (some l0)), (1, zi l1)]) hC (pc := 22) hL dX8_isOnPath_22 2 rfl zki_1 (Nat.le_of_ble_eq_true rfl) rfl ?_
      refine z_goto hC (pc := 25) (tgt := 2) dX8_isOnPath_25 rfl ?_
      refine ZW.perm (lv' := [(0, zr (some l0)), (1, zi l1), (2, zi (l2 + 1))]) [1, 2, 0] rfl ?_
      exact hk2 l0 l1 (l2 + 1) s0 hf
    · have hf := zif_t hf c5
      refine z_iconst (v := 1) hC (pc := 20) dX8_isOnPath_20 zki_1 ?_
      exact z_zreturn hC (pc := 21) hQ dX8_isOnPath_21 hf
def f_X8_isOnPath_l2 (G : Nat → Nat) : Nat → Nat → Int32 → Int32 → zS → Option (Int32 × zS)
  | 0 => fun _ _ _ _ => none
  | n + 1 => f_X8_isOnPath_b2 G (f_X8_isOnPath_l2 G n)
theorem w_X8_isOnPath_l2 {X : zX} (hC : ZC X RX8 cX8_isOnPath (some .boolean) 1 0) (hL : X.nL = 3) (hno : ∀ x ∈ X.c.exceptionTable.toList, False) {r : Int32} {sF : zS} (hQ : ZQ X (.inl (some (zi r)), sF)) : ∀ (n : Nat) (l0 : Nat) (l1 : Int32) (l2 : Int32) (s0 : zS) (_ : f_X8_isOnPath_l2 X.g.1 n l0 l1 l2 s0 = some (r, sF)), ZW X s0 2 [(0, zr (some l0)), (1, zi l1), (2, zi l2)] [] := by
  intro n
  induction n with
  | zero => intro l0 l1 l2 s0 hf; exact absurd (show (none : Option (Int32 × zS)) = some (r, sF) from hf) (fun z => nomatch z)
  | succ n ih => intro l0 l1 l2 s0 hf; exact w_X8_isOnPath_b2 hC hL hno hQ (f_X8_isOnPath_l2 X.g.1 n) ih l0 l1 l2 s0 hf
def f_X8_isOnPath (G : Nat → Nat) (l0 : Nat) (l1 : Int32) (s0 : zS) : Option (Int32 × zS) :=
f_X8_isOnPath_l2 G 2000 l0 l1 0 s0
set_option maxHeartbeats 4000000 in
theorem m_X8_isOnPath (Γ : zG) (l0 : Nat) (l1 : Int32) (s0 s1 : zS) (r : Int32) (hf : f_X8_isOnPath Γ.1 l0 l1 s0 = some (r, s1)) : ZM Γ yX8_isOnPath (ws_ yX8_isOnPath cX8_isOnPath 3 (some .boolean)) 1 0 [zr (some l0), zi l1] s0 (.inl (some (zi r)), s1) := by
  refine ZM.of (own := RX8) (by decide) rfl (Nat.le_of_ble_eq_true rfl) ?_
  intro X hg hC hL hno hQ hin
  subst hg
  unfold f_X8_isOnPath at hf
  refine z_iconst (v := 0) hC (pc := 0) dX8_isOnPath_0 zki_0 ?_
  refine z_istore_n (lv' := [(2, zi 0), (0, zr (some l0)), (1, zi l1)]) hC (pc := 1) hL dX8_isOnPath_1 rfl (Nat.le_of_ble_eq_true rfl) rfl ?_
  refine ZW.perm (lv' := [(0, zr (some l0)), (1, zi l1), (2, zi 0)]) [1, 2, 0] rfl ?_
  exact w_X8_isOnPath_l2 hC hL hno hQ 2000 l0 l1 0 s0 hf
/-! BlockingShopModel.findPath()V -/
def f_X8_findPath_b56 (G : Nat → Nat) (k21 : Nat → Int32 → Int32 → Int32 → zS → Option (Unit × zS)) (l0 : Nat) (l1 : Int32) (l2 : Int32) (l3 : Int32) (s0 : zS) : Option (Unit × zS) :=
k21 l0 l1 l2 (l3 + (-1)) s0
set_option maxHeartbeats 4000000 in
theorem w_X8_findPath_b56 {X : zX} (hC : ZC X RX8 cX8_findPath none 6 110) (hL : X.nL = 4) (hno : ∀ x ∈ X.c.exceptionTable.toList, False) {r : Unit} {sF : zS} (hQ : ZQ X (.inl none, sF)) (k21 : Nat → Int32 → Int32 → Int32 → zS → Option (Unit × zS)) (hk21 : ∀ (l0 : Nat) (l1 : Int32) (l2 : Int32) (l3 : Int32) (s0 : zS), k21 l0 l1 l2 l3 s0 = some (r, sF) → ZW X s0 21 [(0, zr (some l0)), (1, zi l1), (2, zi l2), (3, zi l3)] []) (l0 : Nat) (l1 : Int32) (l2 : Int32) (l3 : Int32) (s0 : zS) (hf : f_X8_findPath_b56 X.g.1 k21 l0 l1 l2 l3 s0 = some (r, sF)) : ZW X s0 56 [(0, zr (some l0)), (1, zi l1), (2, zi l2), (3, zi l3)] [] := by
  unfold f_X8_findPath_b56 at hf
  refine z_iinc (v := (-1)) (lv' := [(3, zi (l3 + (-1))), (0, zr (some l0)), (1, zi l1), (2, zi l2)]) hC (pc := 56) hL dX8_findPath_56 3 rfl zki_m1 (Nat.le_of_ble_eq_true rfl) rfl ?_
  refine z_goto hC (pc := 59) (tgt := 21) dX8_findPath_59 rfl ?_
  refine ZW.perm (lv' := [(0, zr (some l0)), (1, zi l1), (2, zi l2), (3, zi (l3 + (-1)))]) [1, 2, 3, 0] rfl ?_
  exact hk21 l0 l1 l2 (l3 + (-1)) s0 hf
def f_X8_findPath_b179 (G : Nat → Nat) (k62 : Nat → Int32 → Int32 → zS → Option (Unit × zS)) (l0 : Nat) (l1 : Int32) (t0 : Int32) (s0 : zS) : Option (Unit × zS) :=
k62 l0 l1 t0 s0
set_option maxHeartbeats 4000000 in
theorem w_X8_findPath_b179 {X : zX} (hC : ZC X RX8 cX8_findPath none 6 110) (hL : X.nL = 4) (hno : ∀ x ∈ X.c.exceptionTable.toList, False) {r : Unit} {sF : zS} (hQ : ZQ X (.inl none, sF)) (k62 : Nat → Int32 → Int32 → zS → Option (Unit × zS)) (hk62 : ∀ (l0 : Nat) (l1 : Int32) (l2 : Int32) (s0 : zS), k62 l0 l1 l2 s0 = some (r, sF) → ZW X s0 62 [(0, zr (some l0)), (1, zi l1), (2, zi l2)] []) (l0 : Nat) (l1 : Int32) (t0 : Int32) (s0 : zS) (hf : f_X8_findPath_b179 X.g.1 k62 l0 l1 t0 s0 = some (r, sF)) : ZW X s0 179 [(0, zr (some l0)), (1, zi l1)] [zi t0] := by
  unfold f_X8_findPath_b179 at hf
  refine z_istore_n (lv' := [(2, zi t0), (0, zr (some l0)), (1, zi l1)]) hC (pc := 179) hL dX8_findPath_179 rfl (Nat.le_of_ble_eq_true rfl) rfl ?_
  refine z_goto hC (pc := 180) (tgt := 62) dX8_findPath_180 rfl ?_
  refine ZW.perm (lv' := [(0, zr (some l0)), (1, zi l1), (2, zi t0)]) [1, 2, 0] rfl ?_
  exact hk62 l0 l1 t0 s0 hf
def f_X8_findPath_b173 (G : Nat → Nat) (k62 : Nat → Int32 → Int32 → zS → Option (Unit × zS)) (l0 : Nat) (l1 : Int32) (l2 : Int32) (s0 : zS) : Option (Unit × zS) :=
zo (zgR s0 (some l0) 6 16) fun v1 =>
zo (zaI s0 v1 0 l2) fun v2 =>
f_X8_findPath_b179 G k62 l0 l1 v2 s0
set_option maxHeartbeats 4000000 in
theorem w_X8_findPath_b173 {X : zX} (hC : ZC X RX8 cX8_findPath none 6 110) (hL : X.nL = 4) (hno : ∀ x ∈ X.c.exceptionTable.toList, False) {r : Unit} {sF : zS} (hQ : ZQ X (.inl none, sF)) (k62 : Nat → Int32 → Int32 → zS → Option (Unit × zS)) (hk62 : ∀ (l0 : Nat) (l1 : Int32) (l2 : Int32) (s0 : zS), k62 l0 l1 l2 s0 = some (r, sF) → ZW X s0 62 [(0, zr (some l0)), (1, zi l1), (2, zi l2)] []) (l0 : Nat) (l1 : Int32) (l2 : Int32) (s0 : zS) (hf : f_X8_findPath_b173 X.g.1 k62 l0 l1 l2 s0 = some (r, sF)) : ZW X s0 173 [(0, zr (some l0)), (1, zi l1), (2, zi l2)] [] := by
  unfold f_X8_findPath_b173 at hf
  refine z_aload_n hC (pc := 173) dX8_findPath_173 rfl 0 rfl ?_
  refine z_getR hC (pc := 174) in_X8 zcX8 16 (Nat.le_of_ble_eq_true rfl) (zLk.o hC q2689) zsm dX8_findPath_174 hf (fun v1 hf => ?_)
  refine z_iload_n hC (pc := 177) dX8_findPath_177 rfl 2 rfl ?_
  refine z_iald hC (pc := 178) dX8_findPath_178 hf (fun v2 hf => ?_)
  refine ZW.perm (lv' := [(0, zr (some l0)), (1, zi l1)]) [0, 1] rfl ?_
  exact w_X8_findPath_b179 hC hL hno hQ k62 hk62 l0 l1 v2 s0 hf
def f_X8_findPath_b138 (G : Nat → Nat) (k62 : Nat → Int32 → Int32 → zS → Option (Unit × zS)) (l0 : Nat) (l1 : Int32) (l2 : Int32) (l3 : Int32) (s0 : zS) : Option (Unit × zS) :=
if l3 = 0 then (zo (zgR s0 (some l0) 6 18) fun v2 =>
zo (zaI s0 v2 0 (l2 - 1)) fun v3 =>
zo (zrc s0 (some l0) 6) fun _ =>
zb (f_X8_durationOf G l0 (l2 - 1) s0) fun v6 s7 =>
zo (zgR s7 (some l0) 6 18) fun v8 =>
zo (zaI s7 v8 0 l2) fun v9 =>
if (v3 + v6) = v9 then (f_X8_findPath_b179 G k62 l0 l1 (l2 - 1) s7)
else (f_X8_findPath_b173 G k62 l0 l1 l2 s7))
else (f_X8_findPath_b173 G k62 l0 l1 l2 s0)
set_option maxHeartbeats 4000000 in
theorem w_X8_findPath_b138 {X : zX} (hC : ZC X RX8 cX8_findPath none 6 110) (hL : X.nL = 4) (hno : ∀ x ∈ X.c.exceptionTable.toList, False) {r : Unit} {sF : zS} (hQ : ZQ X (.inl none, sF)) (k62 : Nat → Int32 → Int32 → zS → Option (Unit × zS)) (hk62 : ∀ (l0 : Nat) (l1 : Int32) (l2 : Int32) (s0 : zS), k62 l0 l1 l2 s0 = some (r, sF) → ZW X s0 62 [(0, zr (some l0)), (1, zi l1), (2, zi l2)] []) (l0 : Nat) (l1 : Int32) (l2 : Int32) (l3 : Int32) (s0 : zS) (hf : f_X8_findPath_b138 X.g.1 k62 l0 l1 l2 l3 s0 = some (r, sF)) : ZW X s0 138 [(0, zr (some l0)), (1, zi l1), (2, zi l2), (3, zi l3)] [] := by
  unfold f_X8_findPath_b138 at hf
  refine z_iload_n hC (pc := 138) dX8_findPath_138 rfl 3 rfl ?_
  refine z_if_ne hC (pc := 139) (tgt := 173) dX8_findPath_139 rfl (fun c1 => ?_) (fun c1 => ?_)
  · have hf := zif_f hf c1
    refine ZW.perm (lv' := [(0, zr (some l0)), (1, zi l1), (2, zi l2)]) [0, 1, 2] rfl ?_
    exact w_X8_findPath_b173 hC hL hno hQ k62 hk62 l0 l1 l2 s0 hf
  · have hf := zif_t hf c1
    refine z_aload_n hC (pc := 142) dX8_findPath_142 rfl 0 rfl ?_
    refine z_getR hC (pc := 143) in_X8 zcX8 18 (Nat.le_of_ble_eq_true rfl) (zLk.o hC q2691) zsm dX8_findPath_143 hf (fun v2 hf => ?_)
    refine z_iload_n hC (pc := 146) dX8_findPath_146 rfl 2 rfl ?_
    refine z_iconst (v := 1) hC (pc := 147) dX8_findPath_147 zki_1 ?_
    refine z_isub hC (pc := 148) dX8_findPath_148 ?_
    refine z_iald hC (pc := 149) dX8_findPath_149 hf (fun v3 hf => ?_)
    refine z_aload_n hC (pc := 150) dX8_findPath_150 rfl 0 rfl ?_
    refine z_iload_n hC (pc := 151) dX8_findPath_151 rfl 2 rfl ?_
    refine z_iconst (v := 1) hC (pc := 152) dX8_findPath_152 zki_1 ?_
    refine z_isub hC (pc := 153) dX8_findPath_153 ?_
    obtain ⟨fs4, ha5, hf⟩ := z_rcN hf
    refine z_cI (rest := [zi v3]) hf (fun v6 s7 hcall => z_runV hC (pc := 154) zcX8 1 ha5 (m_X8_durationOf X.g l0 (l2 - 1) s0 s7 v6 hcall) (lw_V q2952 q2954 qs76 q108 q2955) hdV_X8_durationOf ⟨(Nat.le_of_ble_eq_true rfl), (Nat.le_of_ble_eq_true rfl)⟩ rfl (Nat.le_of_ble_eq_true rfl) dX8_findPath_154 rfl) (fun v6 s7 hf => ?_)
    refine z_iadd hC (pc := 157) dX8_findPath_157 ?_
    refine z_aload_n hC (pc := 158) dX8_findPath_158 rfl 0 rfl ?_
    refine z_getR hC (pc := 159) in_X8 zcX8 18 (Nat.le_of_ble_eq_true rfl) (zLk.o hC q2691) zsm dX8_findPath_159 hf (fun v8 hf => ?_)
    refine z_iload_n hC (pc := 162) dX8_findPath_162 rfl 2 rfl ?_
    refine z_iald hC (pc := 163) dX8_findPath_163 hf (fun v9 hf => ?_)
    refine z_icmp_ne hC (pc := 164) (tgt := 173) dX8_findPath_164 rfl (fun c10 => ?_) (fun c10 => ?_)
    · have hf := zif_f hf c10
      refine ZW.perm (lv' := [(0, zr (some l0)), (1, zi l1), (2, zi l2)]) [0, 1, 2] rfl ?_
      exact w_X8_findPath_b173 hC hL hno hQ k62 hk62 l0 l1 l2 s7 hf
    · have hf := zif_t hf c10
      refine z_iload_n hC (pc := 167) dX8_findPath_167 rfl 2 rfl ?_
      refine z_iconst (v := 1) hC (pc := 168) dX8_findPath_168 zki_1 ?_
      refine z_isub hC (pc := 169) dX8_findPath_169 ?_
      refine z_goto hC (pc := 170) (tgt := 179) dX8_findPath_170 rfl ?_
      refine ZW.perm (lv' := [(0, zr (some l0)), (1, zi l1)]) [0, 1] rfl ?_
      exact w_X8_findPath_b179 hC hL hno hQ k62 hk62 l0 l1 (l2 - 1) s7 hf
def f_X8_findPath_b111 (G : Nat → Nat) (k62 : Nat → Int32 → Int32 → zS → Option (Unit × zS)) (l0 : Nat) (l1 : Int32) (l2 : Int32) (t0 : Int32) (s0 : zS) : Option (Unit × zS) :=
if t0 = 0 then (f_X8_findPath_b138 G k62 l0 l1 l2 t0 s0)
else (zo (zgR s0 (some l0) 6 18) fun v2 =>
zo (zaI s0 v2 0 l2) fun v3 =>
zo (zgR s0 (some l0) 6 8) fun v4 =>
zb (f_X8_job G (l2 / 6) s0) fun v5 s6 =>
zo (zaI s6 v4 0 v5) fun v7 =>
if v3 = v7 then (some ((), s6))
else (f_X8_findPath_b138 G k62 l0 l1 l2 t0 s6))
set_option maxHeartbeats 4000000 in
theorem w_X8_findPath_b111 {X : zX} (hC : ZC X RX8 cX8_findPath none 6 110) (hL : X.nL = 4) (hno : ∀ x ∈ X.c.exceptionTable.toList, False) {r : Unit} {sF : zS} (hQ : ZQ X (.inl none, sF)) (k62 : Nat → Int32 → Int32 → zS → Option (Unit × zS)) (hk62 : ∀ (l0 : Nat) (l1 : Int32) (l2 : Int32) (s0 : zS), k62 l0 l1 l2 s0 = some (r, sF) → ZW X s0 62 [(0, zr (some l0)), (1, zi l1), (2, zi l2)] []) (l0 : Nat) (l1 : Int32) (l2 : Int32) (t0 : Int32) (s0 : zS) (hf : f_X8_findPath_b111 X.g.1 k62 l0 l1 l2 t0 s0 = some (r, sF)) : ZW X s0 111 [(0, zr (some l0)), (1, zi l1), (2, zi l2)] [zi t0] := by
  unfold f_X8_findPath_b111 at hf
  refine z_istore_n (lv' := [(3, zi t0), (0, zr (some l0)), (1, zi l1), (2, zi l2)]) hC (pc := 111) hL dX8_findPath_111 rfl (Nat.le_of_ble_eq_true rfl) rfl ?_
  refine z_iload_n hC (pc := 112) dX8_findPath_112 rfl 0 rfl ?_
  refine z_if_eq hC (pc := 113) (tgt := 138) dX8_findPath_113 rfl (fun c1 => ?_) (fun c1 => ?_)
  · have hf := zif_t hf c1
    refine ZW.perm (lv' := [(0, zr (some l0)), (1, zi l1), (2, zi l2), (3, zi t0)]) [1, 2, 3, 0] rfl ?_
    exact w_X8_findPath_b138 hC hL hno hQ k62 hk62 l0 l1 l2 t0 s0 hf
  · have hf := zif_f hf c1
    refine z_aload_n hC (pc := 116) dX8_findPath_116 rfl 1 rfl ?_
    refine z_getR hC (pc := 117) in_X8 zcX8 18 (Nat.le_of_ble_eq_true rfl) (zLk.o hC q2691) zsm dX8_findPath_117 hf (fun v2 hf => ?_)
    refine z_iload_n hC (pc := 120) dX8_findPath_120 rfl 3 rfl ?_
    refine z_iald hC (pc := 121) dX8_findPath_121 hf (fun v3 hf => ?_)
    refine z_aload_n hC (pc := 122) dX8_findPath_122 rfl 1 rfl ?_
    refine z_getR hC (pc := 123) in_X8 zcX8 8 (Nat.le_of_ble_eq_true rfl) (zLk.o hC q2681) zsm dX8_findPath_123 hf (fun v4 hf => ?_)
    refine z_iload_n hC (pc := 126) dX8_findPath_126 rfl 3 rfl ?_
    refine z_bipush (v := 6) hC (pc := 127) dX8_findPath_127 zkb_6 ?_
    refine z_idiv hC (pc := 129) dX8_findPath_129 (by decide) ?_
    refine z_cI (rest := [zr v4, zi v3]) hf (fun v5 s6 hcall => z_runS hC (pc := 130) 1 (m_X8_job X.g (l2 / 6) s0 s6 v5 hcall) (lw_S q2826 q2827 q108 q2828) hd_X8_job ⟨(Nat.le_of_ble_eq_true rfl), (Nat.le_of_ble_eq_true rfl)⟩ rfl (Nat.le_of_ble_eq_true rfl) dX8_findPath_130 rfl) (fun v5 s6 hf => ?_)
    refine z_iald hC (pc := 133) dX8_findPath_133 hf (fun v7 hf => ?_)
    refine z_icmp_ne hC (pc := 134) (tgt := 138) dX8_findPath_134 rfl (fun c8 => ?_) (fun c8 => ?_)
    · have hf := zif_f hf c8
      refine ZW.perm (lv' := [(0, zr (some l0)), (1, zi l1), (2, zi l2), (3, zi t0)]) [1, 2, 3, 0] rfl ?_
      exact w_X8_findPath_b138 hC hL hno hQ k62 hk62 l0 l1 l2 t0 s6 hf
    · have hf := zif_t hf c8
      exact z_return hC (pc := 137) hQ dX8_findPath_137 hf
def f_X8_findPath_b62 (G : Nat → Nat) (k62 : Nat → Int32 → Int32 → zS → Option (Unit × zS)) (l0 : Nat) (l1 : Int32) (l2 : Int32) (s0 : zS) : Option (Unit × zS) :=
if l1 = 0 then (some ((), s0))
else (if l2 = (-1) then (some ((), s0))
else (zo (zrc s0 (some l0) 6) fun _ =>
zb (f_X8_isOnPath G l0 l2 s0) fun v5 s6 =>
if v5 = 0 then (zo (zgR s6 (some l0) 6 23) fun v8 =>
zo (zgI s6 (some l0) 6 24) fun v9 =>
zo (zsI G s6 v8 0 v9 l2) fun s10 =>
zo (zgI s10 (some l0) 6 24) fun v11 =>
zo (zput G s10 (some l0) 6 24 (.int (v11 + 1))) fun s12 =>
if (l2 - l2 / 6 * 6) = 0 then (f_X8_findPath_b111 G k62 l0 l1 l2 1 s12)
else (f_X8_findPath_b111 G k62 l0 l1 l2 0 s12))
else (some ((), s6))))
set_option maxHeartbeats 4000000 in
theorem w_X8_findPath_b62 {X : zX} (hC : ZC X RX8 cX8_findPath none 6 110) (hL : X.nL = 4) (hno : ∀ x ∈ X.c.exceptionTable.toList, False) {r : Unit} {sF : zS} (hQ : ZQ X (.inl none, sF)) (k62 : Nat → Int32 → Int32 → zS → Option (Unit × zS)) (hk62 : ∀ (l0 : Nat) (l1 : Int32) (l2 : Int32) (s0 : zS), k62 l0 l1 l2 s0 = some (r, sF) → ZW X s0 62 [(0, zr (some l0)), (1, zi l1), (2, zi l2)] []) (l0 : Nat) (l1 : Int32) (l2 : Int32) (s0 : zS) (hf : f_X8_findPath_b62 X.g.1 k62 l0 l1 l2 s0 = some (r, sF)) : ZW X s0 62 [(0, zr (some l0)), (1, zi l1), (2, zi l2)] [] := by
  unfold f_X8_findPath_b62 at hf
  refine z_iload_n hC (pc := 62) dX8_findPath_62 rfl 1 rfl ?_
  refine z_if_eq hC (pc := 63) (tgt := 183) dX8_findPath_63 rfl (fun c1 => ?_) (fun c1 => ?_)
  · have hf := zif_t hf c1
    exact z_return hC (pc := 183) hQ dX8_findPath_183 hf
  · have hf := zif_f hf c1
    refine z_iload_n hC (pc := 66) dX8_findPath_66 rfl 2 rfl ?_
    refine z_iconst (v := (-1)) hC (pc := 67) dX8_findPath_67 zki_m1 ?_
    refine z_icmp_eq hC (pc := 68) (tgt := 183) dX8_findPath_68 rfl (fun c2 => ?_) (fun c2 => ?_)
    · have hf := zif_t hf c2
      exact z_return hC (pc := 183) hQ dX8_findPath_183 hf
    · have hf := zif_f hf c2
      refine z_aload_n hC (pc := 71) dX8_findPath_71 rfl 0 rfl ?_
      refine z_iload_n hC (pc := 72) dX8_findPath_72 rfl 2 rfl ?_
      obtain ⟨fs3, ha4, hf⟩ := z_rcN hf
      refine z_cI (rest := []) hf (fun v5 s6 hcall => z_runV hC (pc := 73) zcX8 1 ha4 (m_X8_isOnPath X.g l0 l2 s0 s6 v5 hcall) (lw_V q3031 q3033 qs86 q108 q3034) hdV_X8_isOnPath ⟨(Nat.le_of_ble_eq_true rfl), (Nat.le_of_ble_eq_true rfl)⟩ rfl (Nat.le_of_ble_eq_true rfl) dX8_findPath_73 rfl) (fun v5 s6 hf => ?_)
      refine z_if_ne hC (pc := 76) (tgt := 183) dX8_findPath_76 rfl (fun c7 => ?_) (fun c7 => ?_)
      · have hf := zif_f hf c7
        exact z_return hC (pc := 183) hQ dX8_findPath_183 hf
      · have hf := zif_t hf c7
        refine z_aload_n hC (pc := 79) dX8_findPath_79 rfl 0 rfl ?_
        refine z_getR hC (pc := 80) in_X8 zcX8 23 (Nat.le_of_ble_eq_true rfl) (zLk.o hC q2696) zsm dX8_findPath_80 hf (fun v8 hf => ?_)
        refine z_aload_n hC (pc := 83) dX8_findPath_83 rfl 0 rfl ?_
        refine z_getI hC (pc := 84) in_X8 zcX8 24 (Nat.le_of_ble_eq_true rfl) (zLk.o hC q2697) zsm dX8_findPath_84 hf (fun v9 hf => ?_)
        refine z_iload_n hC (pc := 87) dX8_findPath_87 rfl 2 rfl ?_
        refine z_iast hC (pc := 88) dX8_findPath_88 hf (fun s10 hf => ?_)
        refine z_aload_n hC (pc := 89) dX8_findPath_89 rfl 0 rfl ?_
        refine z_dup hC (pc := 90) dX8_findPath_90 rfl ?_
        refine z_getI hC (pc := 91) in_X8 zcX8 24 (Nat.le_of_ble_eq_true rfl) (zLk.o hC q2697) zsm dX8_findPath_91 hf (fun v11 hf => ?_)
        refine z_iconst (v := 1) hC (pc := 94) dX8_findPath_94 zki_1 ?_
        refine z_iadd hC (pc := 95) dX8_findPath_95 ?_
        refine z_putV (v := zi (v11 + 1)) hC (pc := 96) in_X8 tyX8 tyX8_ok nmX8 zcX8 24 (Nat.le_of_ble_eq_true rfl) (zLk.o hC q2697) zsm (Or.inl rfl) rfl rfl dX8_findPath_96 hf (fun s12 hf => ?_)
        refine z_iload_n hC (pc := 99) dX8_findPath_99 rfl 2 rfl ?_
        refine z_bipush (v := 6) hC (pc := 100) dX8_findPath_100 zkb_6 ?_
        refine z_irem hC (pc := 102) dX8_findPath_102 (by decide) ?_
        refine z_if_ne hC (pc := 103) (tgt := 110) dX8_findPath_103 rfl (fun c13 => ?_) (fun c13 => ?_)
        · have hf := zif_f hf c13
          refine z_iconst (v := 0) hC (pc := 110) dX8_findPath_110 zki_0 ?_
          exact w_X8_findPath_b111 hC hL hno hQ k62 hk62 l0 l1 l2 0 s12 hf
        · have hf := zif_t hf c13
          refine z_iconst (v := 1) hC (pc := 106) dX8_findPath_106 zki_1 ?_
          refine z_goto hC (pc := 107) (tgt := 111) dX8_findPath_107 rfl ?_
          exact w_X8_findPath_b111 hC hL hno hQ k62 hk62 l0 l1 l2 1 s12 hf
def f_X8_findPath_l62 (G : Nat → Nat) : Nat → Nat → Int32 → Int32 → zS → Option (Unit × zS)
  | 0 => fun _ _ _ _ => none
  | n + 1 => f_X8_findPath_b62 G (f_X8_findPath_l62 G n)
theorem w_X8_findPath_l62 {X : zX} (hC : ZC X RX8 cX8_findPath none 6 110) (hL : X.nL = 4) (hno : ∀ x ∈ X.c.exceptionTable.toList, False) {r : Unit} {sF : zS} (hQ : ZQ X (.inl none, sF)) : ∀ (n : Nat) (l0 : Nat) (l1 : Int32) (l2 : Int32) (s0 : zS) (_ : f_X8_findPath_l62 X.g.1 n l0 l1 l2 s0 = some (r, sF)), ZW X s0 62 [(0, zr (some l0)), (1, zi l1), (2, zi l2)] [] := by
  intro n
  induction n with
  | zero => intro l0 l1 l2 s0 hf; exact absurd (show (none : Option (Unit × zS)) = some (r, sF) from hf) (fun z => nomatch z)
  | succ n ih => intro l0 l1 l2 s0 hf; exact w_X8_findPath_b62 hC hL hno hQ (f_X8_findPath_l62 X.g.1 n) ih l0 l1 l2 s0 hf
def f_X8_findPath_b21 (G : Nat → Nat) (k21 : Nat → Int32 → Int32 → Int32 → zS → Option (Unit × zS)) (l0 : Nat) (l1 : Int32) (l2 : Int32) (l3 : Int32) (s0 : zS) : Option (Unit × zS) :=
if l3 < 0 then (f_X8_findPath_l62 G 2000 l0 l1 l2 s0)
else (zo (zrc s0 (some l0) 6) fun _ =>
zb (f_X8_completionOf G l0 l3 s0) fun v4 s5 =>
zo (zrc s5 (some l0) 6) fun _ =>
zb (f_X8_makespanOf G l0 s5) fun v8 s9 =>
if v4 = v8 then (zo (zgR s9 (some l0) 6 8) fun v11 =>
zb (f_X8_job G l3 s9) fun v12 s13 =>
zo (zaI s13 v11 0 (v12 + 3)) fun v14 =>
f_X8_findPath_b56 G k21 l0 l1 (((6 * l3) + v14) - 1) l3 s13)
else (f_X8_findPath_b56 G k21 l0 l1 l2 l3 s9))
set_option maxHeartbeats 4000000 in
theorem w_X8_findPath_b21 {X : zX} (hC : ZC X RX8 cX8_findPath none 6 110) (hL : X.nL = 4) (hno : ∀ x ∈ X.c.exceptionTable.toList, False) {r : Unit} {sF : zS} (hQ : ZQ X (.inl none, sF)) (k21 : Nat → Int32 → Int32 → Int32 → zS → Option (Unit × zS)) (hk21 : ∀ (l0 : Nat) (l1 : Int32) (l2 : Int32) (l3 : Int32) (s0 : zS), k21 l0 l1 l2 l3 s0 = some (r, sF) → ZW X s0 21 [(0, zr (some l0)), (1, zi l1), (2, zi l2), (3, zi l3)] []) (l0 : Nat) (l1 : Int32) (l2 : Int32) (l3 : Int32) (s0 : zS) (hf : f_X8_findPath_b21 X.g.1 k21 l0 l1 l2 l3 s0 = some (r, sF)) : ZW X s0 21 [(0, zr (some l0)), (1, zi l1), (2, zi l2), (3, zi l3)] [] := by
  unfold f_X8_findPath_b21 at hf
  refine z_iload_n hC (pc := 21) dX8_findPath_21 rfl 3 rfl ?_
  refine z_if_lt hC (pc := 22) (tgt := 62) dX8_findPath_22 rfl (fun c1 => ?_) (fun c1 => ?_)
  · have hf := zif_t hf c1
    refine ZW.perm (lv' := [(0, zr (some l0)), (1, zi l1), (2, zi l2)]) [0, 1, 2] rfl ?_
    exact w_X8_findPath_l62 hC hL hno hQ 2000 l0 l1 l2 s0 hf
  · have hf := zif_f hf c1
    refine z_aload_n hC (pc := 25) dX8_findPath_25 rfl 0 rfl ?_
    refine z_iload_n hC (pc := 26) dX8_findPath_26 rfl 3 rfl ?_
    obtain ⟨fs2, ha3, hf⟩ := z_rcN hf
    refine z_cI (rest := []) hf (fun v4 s5 hcall => z_runV hC (pc := 27) zcX8 1 ha3 (m_X8_completionOf X.g l0 l3 s0 s5 v4 hcall) (lw_V q2979 q2981 qs80 q108 q2982) hdV_X8_completionOf ⟨(Nat.le_of_ble_eq_true rfl), (Nat.le_of_ble_eq_true rfl)⟩ rfl (Nat.le_of_ble_eq_true rfl) dX8_findPath_27 rfl) (fun v4 s5 hf => ?_)
    refine z_aload_n hC (pc := 30) dX8_findPath_30 rfl 0 rfl ?_
    obtain ⟨fs6, ha7, hf⟩ := z_rcN hf
    refine z_cI (rest := [zi v4]) hf (fun v8 s9 hcall => z_runV hC (pc := 31) zcX8 0 ha7 (m_X8_makespanOf X.g l0 s5 s9 v8 hcall) (lw_V q2991 q2993 qs82 q108 q2994) hdV_X8_makespanOf ⟨(Nat.le_of_ble_eq_true rfl), (Nat.le_of_ble_eq_true rfl)⟩ rfl (Nat.le_of_ble_eq_true rfl) dX8_findPath_31 rfl) (fun v8 s9 hf => ?_)
    refine z_icmp_ne hC (pc := 34) (tgt := 56) dX8_findPath_34 rfl (fun c10 => ?_) (fun c10 => ?_)
    · have hf := zif_f hf c10
      exact w_X8_findPath_b56 hC hL hno hQ k21 hk21 l0 l1 l2 l3 s9 hf
    · have hf := zif_t hf c10
      refine z_bipush (v := 6) hC (pc := 37) dX8_findPath_37 zkb_6 ?_
      refine z_iload_n hC (pc := 39) dX8_findPath_39 rfl 3 rfl ?_
      refine z_imul hC (pc := 40) dX8_findPath_40 ?_
      refine z_aload_n hC (pc := 41) dX8_findPath_41 rfl 0 rfl ?_
      refine z_getR hC (pc := 42) in_X8 zcX8 8 (Nat.le_of_ble_eq_true rfl) (zLk.o hC q2681) zsm dX8_findPath_42 hf (fun v11 hf => ?_)
      refine z_iload_n hC (pc := 45) dX8_findPath_45 rfl 3 rfl ?_
      refine z_cI (rest := [zr v11, zi (6 * l3)]) hf (fun v12 s13 hcall => z_runS hC (pc := 46) 1 (m_X8_job X.g l3 s9 s13 v12 hcall) (lw_S q2826 q2827 q108 q2828) hd_X8_job ⟨(Nat.le_of_ble_eq_true rfl), (Nat.le_of_ble_eq_true rfl)⟩ rfl (Nat.le_of_ble_eq_true rfl) dX8_findPath_46 rfl) (fun v12 s13 hf => ?_)
      refine z_iconst (v := 3) hC (pc := 49) dX8_findPath_49 zki_3 ?_
      refine z_iadd hC (pc := 50) dX8_findPath_50 ?_
      refine z_iald hC (pc := 51) dX8_findPath_51 hf (fun v14 hf => ?_)
      refine z_iadd hC (pc := 52) dX8_findPath_52 ?_
      refine z_iconst (v := 1) hC (pc := 53) dX8_findPath_53 zki_1 ?_
      refine z_isub hC (pc := 54) dX8_findPath_54 ?_
      refine z_istore_n (lv' := [(2, zi (((6 * l3) + v14) - 1)), (0, zr (some l0)), (1, zi l1), (3, zi l3)]) hC (pc := 55) hL dX8_findPath_55 rfl (Nat.le_of_ble_eq_true rfl) rfl ?_
      refine ZW.perm (lv' := [(0, zr (some l0)), (1, zi l1), (2, zi (((6 * l3) + v14) - 1)), (3, zi l3)]) [1, 2, 0, 3] rfl ?_
      exact w_X8_findPath_b56 hC hL hno hQ k21 hk21 l0 l1 (((6 * l3) + v14) - 1) l3 s13 hf
def f_X8_findPath_l21 (G : Nat → Nat) : Nat → Nat → Int32 → Int32 → Int32 → zS → Option (Unit × zS)
  | 0 => fun _ _ _ _ _ => none
  | n + 1 => f_X8_findPath_b21 G (f_X8_findPath_l21 G n)
theorem w_X8_findPath_l21 {X : zX} (hC : ZC X RX8 cX8_findPath none 6 110) (hL : X.nL = 4) (hno : ∀ x ∈ X.c.exceptionTable.toList, False) {r : Unit} {sF : zS} (hQ : ZQ X (.inl none, sF)) : ∀ (n : Nat) (l0 : Nat) (l1 : Int32) (l2 : Int32) (l3 : Int32) (s0 : zS) (_ : f_X8_findPath_l21 X.g.1 n l0 l1 l2 l3 s0 = some (r, sF)), ZW X s0 21 [(0, zr (some l0)), (1, zi l1), (2, zi l2), (3, zi l3)] [] := by
  intro n
  induction n with
  | zero => intro l0 l1 l2 l3 s0 hf; exact absurd (show (none : Option (Unit × zS)) = some (r, sF) from hf) (fun z => nomatch z)
  | succ n ih => intro l0 l1 l2 l3 s0 hf; exact w_X8_findPath_b21 hC hL hno hQ (f_X8_findPath_l21 X.g.1 n) ih l0 l1 l2 l3 s0 hf
def f_X8_findPath (G : Nat → Nat) (l0 : Nat) (s0 : zS) : Option (Unit × zS) :=
zo (zrc s0 (some l0) 6) fun _ =>
zb (f_X8_findStarts G l0 s0) fun v3 s4 =>
zo (zput G s4 (some l0) 6 24 (.int 0)) fun s5 =>
zo (zgR s5 (some l0) 6 8) fun v6 =>
zo (zaI s5 v6 0 2) fun v7 =>
f_X8_findPath_l21 G 2000 l0 v3 (-1) (v7 - 1) s5
set_option maxHeartbeats 4000000 in
theorem m_X8_findPath (Γ : zG) (l0 : Nat) (s0 s1 : zS) (r : Unit) (hf : f_X8_findPath Γ.1 l0 s0 = some (r, s1)) : ZM Γ yX8_findPath (ws_ yX8_findPath cX8_findPath 4 none) 6 110 [zr (some l0)] s0 (.inl none, s1) := by
  refine ZM.of (own := RX8) (by decide) rfl (Nat.le_of_ble_eq_true rfl) ?_
  intro X hg hC hL hno hQ hin
  subst hg
  unfold f_X8_findPath at hf
  refine z_aload_n hC (pc := 0) dX8_findPath_0 rfl 0 rfl ?_
  obtain ⟨fs1, ha2, hf⟩ := z_rcN hf
  refine z_cI (rest := []) hf (fun v3 s4 hcall => z_runV hC (pc := 1) zcX8 0 ha2 (m_X8_findStarts X.g l0 s0 s4 v3 hcall) (lw_V q2936 q2938 qs72 q108 q2939) hdV_X8_findStarts ⟨(Nat.le_of_ble_eq_true rfl), (Nat.le_of_ble_eq_true rfl)⟩ rfl (Nat.le_of_ble_eq_true rfl) dX8_findPath_1 rfl) (fun v3 s4 hf => ?_)
  refine z_istore_n (lv' := [(1, zi v3), (0, zr (some l0))]) hC (pc := 4) hL dX8_findPath_4 rfl (Nat.le_of_ble_eq_true rfl) rfl ?_
  refine z_aload_n hC (pc := 5) dX8_findPath_5 rfl 1 rfl ?_
  refine z_iconst (v := 0) hC (pc := 6) dX8_findPath_6 zki_0 ?_
  refine z_putV (v := zi 0) hC (pc := 7) in_X8 tyX8 tyX8_ok nmX8 zcX8 24 (Nat.le_of_ble_eq_true rfl) (zLk.o hC q2697) zsm (Or.inl rfl) rfl rfl dX8_findPath_7 hf (fun s5 hf => ?_)
  refine z_iconst (v := (-1)) hC (pc := 10) dX8_findPath_10 zki_m1 ?_
  refine z_istore_n (lv' := [(2, zi (-1)), (1, zi v3), (0, zr (some l0))]) hC (pc := 11) hL dX8_findPath_11 rfl (Nat.le_of_ble_eq_true rfl) rfl ?_
  refine z_aload_n hC (pc := 12) dX8_findPath_12 rfl 2 rfl ?_
  refine z_getR hC (pc := 13) in_X8 zcX8 8 (Nat.le_of_ble_eq_true rfl) (zLk.o hC q2681) zsm dX8_findPath_13 hf (fun v6 hf => ?_)
  refine z_iconst (v := 2) hC (pc := 16) dX8_findPath_16 zki_2 ?_
  refine z_iald hC (pc := 17) dX8_findPath_17 hf (fun v7 hf => ?_)
  refine z_iconst (v := 1) hC (pc := 18) dX8_findPath_18 zki_1 ?_
  refine z_isub hC (pc := 19) dX8_findPath_19 ?_
  refine z_istore_n (lv' := [(3, zi (v7 - 1)), (2, zi (-1)), (1, zi v3), (0, zr (some l0))]) hC (pc := 20) hL dX8_findPath_20 rfl (Nat.le_of_ble_eq_true rfl) rfl ?_
  refine ZW.perm (lv' := [(0, zr (some l0)), (1, zi v3), (2, zi (-1)), (3, zi (v7 - 1))]) [3, 2, 1, 0] rfl ?_
  exact w_X8_findPath_l21 hC hL hno hQ 2000 l0 v3 (-1) (v7 - 1) s5 hf
/-! BlockingShopModel.blockCount()I -/
def f_X8_blockCount_b56 (G : Nat → Nat) (k13 : Nat → Int32 → Int32 → zS → Option (Int32 × zS)) (l0 : Nat) (l2 : Int32) (t0 : Int32) (t1 : Int32) (s0 : zS) : Option (Int32 × zS) :=
k13 l0 (t1 + t0) (l2 + 1) s0
set_option maxHeartbeats 4000000 in
theorem w_X8_blockCount_b56 {X : zX} (hC : ZC X RX8 cX8_blockCount (some .int) 7 133) (hL : X.nL = 3) (hno : ∀ x ∈ X.c.exceptionTable.toList, False) {r : Int32} {sF : zS} (hQ : ZQ X (.inl (some (zi r)), sF)) (k13 : Nat → Int32 → Int32 → zS → Option (Int32 × zS)) (hk13 : ∀ (l0 : Nat) (l1 : Int32) (l2 : Int32) (s0 : zS), k13 l0 l1 l2 s0 = some (r, sF) → ZW X s0 13 [(0, zr (some l0)), (1, zi l1), (2, zi l2)] []) (l0 : Nat) (l2 : Int32) (t0 : Int32) (t1 : Int32) (s0 : zS) (hf : f_X8_blockCount_b56 X.g.1 k13 l0 l2 t0 t1 s0 = some (r, sF)) : ZW X s0 56 [(0, zr (some l0)), (2, zi l2)] [zi t0, zi t1] := by
  unfold f_X8_blockCount_b56 at hf
  refine z_iadd hC (pc := 56) dX8_blockCount_56 ?_
  refine z_istore_n (lv' := [(1, zi (t1 + t0)), (0, zr (some l0)), (2, zi l2)]) hC (pc := 57) hL dX8_blockCount_57 rfl (Nat.le_of_ble_eq_true rfl) rfl ?_
  refine z_iinc (v := 1) (lv' := [(2, zi (l2 + 1)), (1, zi (t1 + t0)), (0, zr (some l0))]) hC (pc := 58) hL dX8_blockCount_58 2 rfl zki_1 (Nat.le_of_ble_eq_true rfl) rfl ?_
  refine z_goto hC (pc := 61) (tgt := 13) dX8_blockCount_61 rfl ?_
  refine ZW.perm (lv' := [(0, zr (some l0)), (1, zi (t1 + t0)), (2, zi (l2 + 1))]) [2, 1, 0] rfl ?_
  exact hk13 l0 (t1 + t0) (l2 + 1) s0 hf
def f_X8_blockCount_b51 (G : Nat → Nat) (k13 : Nat → Int32 → Int32 → zS → Option (Int32 × zS)) (l0 : Nat) (l2 : Int32) (t0 : Int32) (s0 : zS) : Option (Int32 × zS) :=
f_X8_blockCount_b56 G k13 l0 l2 1 t0 s0
set_option maxHeartbeats 4000000 in
theorem w_X8_blockCount_b51 {X : zX} (hC : ZC X RX8 cX8_blockCount (some .int) 7 133) (hL : X.nL = 3) (hno : ∀ x ∈ X.c.exceptionTable.toList, False) {r : Int32} {sF : zS} (hQ : ZQ X (.inl (some (zi r)), sF)) (k13 : Nat → Int32 → Int32 → zS → Option (Int32 × zS)) (hk13 : ∀ (l0 : Nat) (l1 : Int32) (l2 : Int32) (s0 : zS), k13 l0 l1 l2 s0 = some (r, sF) → ZW X s0 13 [(0, zr (some l0)), (1, zi l1), (2, zi l2)] []) (l0 : Nat) (l2 : Int32) (t0 : Int32) (s0 : zS) (hf : f_X8_blockCount_b51 X.g.1 k13 l0 l2 t0 s0 = some (r, sF)) : ZW X s0 51 [(0, zr (some l0)), (2, zi l2)] [zi t0] := by
  unfold f_X8_blockCount_b51 at hf
  refine z_iconst (v := 1) hC (pc := 51) dX8_blockCount_51 zki_1 ?_
  refine z_goto hC (pc := 52) (tgt := 56) dX8_blockCount_52 rfl ?_
  exact w_X8_blockCount_b56 hC hL hno hQ k13 hk13 l0 l2 1 t0 s0 hf
def f_X8_blockCount_b13 (G : Nat → Nat) (k13 : Nat → Int32 → Int32 → zS → Option (Int32 × zS)) (l0 : Nat) (l1 : Int32) (l2 : Int32) (s0 : zS) : Option (Int32 × zS) :=
zo (zgI s0 (some l0) 6 24) fun v1 =>
if v1 ≤ l2 then (some (l1, s0))
else (if l2 = 0 then (f_X8_blockCount_b51 G k13 l0 l2 l1 s0)
else (zo (zgR s0 (some l0) 6 23) fun v4 =>
zo (zaI s0 v4 0 l2) fun v5 =>
zo (zrc s0 (some l0) 6) fun _ =>
zb (f_X8_machineOf G l0 v5 s0) fun v8 s9 =>
zo (zgR s9 (some l0) 6 23) fun v10 =>
zo (zaI s9 v10 0 (l2 - 1)) fun v11 =>
zo (zrc s9 (some l0) 6) fun _ =>
zb (f_X8_machineOf G l0 v11 s9) fun v14 s15 =>
if v8 = v14 then (f_X8_blockCount_b56 G k13 l0 l2 0 l1 s15)
else (f_X8_blockCount_b51 G k13 l0 l2 l1 s15)))
set_option maxHeartbeats 4000000 in
theorem w_X8_blockCount_b13 {X : zX} (hC : ZC X RX8 cX8_blockCount (some .int) 7 133) (hL : X.nL = 3) (hno : ∀ x ∈ X.c.exceptionTable.toList, False) {r : Int32} {sF : zS} (hQ : ZQ X (.inl (some (zi r)), sF)) (k13 : Nat → Int32 → Int32 → zS → Option (Int32 × zS)) (hk13 : ∀ (l0 : Nat) (l1 : Int32) (l2 : Int32) (s0 : zS), k13 l0 l1 l2 s0 = some (r, sF) → ZW X s0 13 [(0, zr (some l0)), (1, zi l1), (2, zi l2)] []) (l0 : Nat) (l1 : Int32) (l2 : Int32) (s0 : zS) (hf : f_X8_blockCount_b13 X.g.1 k13 l0 l1 l2 s0 = some (r, sF)) : ZW X s0 13 [(0, zr (some l0)), (1, zi l1), (2, zi l2)] [] := by
  unfold f_X8_blockCount_b13 at hf
  refine z_iload_n hC (pc := 13) dX8_blockCount_13 rfl 2 rfl ?_
  refine z_aload_n hC (pc := 14) dX8_blockCount_14 rfl 0 rfl ?_
  refine z_getI hC (pc := 15) in_X8 zcX8 24 (Nat.le_of_ble_eq_true rfl) (zLk.o hC q2697) zsm dX8_blockCount_15 hf (fun v1 hf => ?_)
  refine z_icmp_ge hC (pc := 18) (tgt := 64) dX8_blockCount_18 rfl (fun c2 => ?_) (fun c2 => ?_)
  · have hf := zif_t hf c2
    refine z_iload_n hC (pc := 64) dX8_blockCount_64 rfl 1 rfl ?_
    exact z_ireturn hC (pc := 65) hQ dX8_blockCount_65 hf
  · have hf := zif_f hf c2
    refine z_iload_n hC (pc := 21) dX8_blockCount_21 rfl 1 rfl ?_
    refine z_iload_n hC (pc := 22) dX8_blockCount_22 rfl 2 rfl ?_
    refine z_if_eq hC (pc := 23) (tgt := 51) dX8_blockCount_23 rfl (fun c3 => ?_) (fun c3 => ?_)
    · have hf := zif_t hf c3
      refine ZW.perm (lv' := [(0, zr (some l0)), (2, zi l2)]) [0, 2] rfl ?_
      exact w_X8_blockCount_b51 hC hL hno hQ k13 hk13 l0 l2 l1 s0 hf
    · have hf := zif_f hf c3
      refine z_aload_n hC (pc := 26) dX8_blockCount_26 rfl 0 rfl ?_
      refine z_aload_n hC (pc := 27) dX8_blockCount_27 rfl 0 rfl ?_
      refine z_getR hC (pc := 28) in_X8 zcX8 23 (Nat.le_of_ble_eq_true rfl) (zLk.o hC q2696) zsm dX8_blockCount_28 hf (fun v4 hf => ?_)
      refine z_iload_n hC (pc := 31) dX8_blockCount_31 rfl 2 rfl ?_
      refine z_iald hC (pc := 32) dX8_blockCount_32 hf (fun v5 hf => ?_)
      obtain ⟨fs6, ha7, hf⟩ := z_rcN hf
      refine z_cI (rest := [zi l1]) hf (fun v8 s9 hcall => z_runV hC (pc := 33) zcX8 1 ha7 (m_X8_machineOf X.g l0 v5 s0 s9 v8 hcall) (lw_V q2913 q2915 qs70 q108 q2916) hdV_X8_machineOf ⟨(Nat.le_of_ble_eq_true rfl), (Nat.le_of_ble_eq_true rfl)⟩ rfl (Nat.le_of_ble_eq_true rfl) dX8_blockCount_33 rfl) (fun v8 s9 hf => ?_)
      refine z_aload_n hC (pc := 36) dX8_blockCount_36 rfl 0 rfl ?_
      refine z_aload_n hC (pc := 37) dX8_blockCount_37 rfl 0 rfl ?_
      refine z_getR hC (pc := 38) in_X8 zcX8 23 (Nat.le_of_ble_eq_true rfl) (zLk.o hC q2696) zsm dX8_blockCount_38 hf (fun v10 hf => ?_)
      refine z_iload_n hC (pc := 41) dX8_blockCount_41 rfl 2 rfl ?_
      refine z_iconst (v := 1) hC (pc := 42) dX8_blockCount_42 zki_1 ?_
      refine z_isub hC (pc := 43) dX8_blockCount_43 ?_
      refine z_iald hC (pc := 44) dX8_blockCount_44 hf (fun v11 hf => ?_)
      obtain ⟨fs12, ha13, hf⟩ := z_rcN hf
      refine z_cI (rest := [zi v8, zi l1]) hf (fun v14 s15 hcall => z_runV hC (pc := 45) zcX8 1 ha13 (m_X8_machineOf X.g l0 v11 s9 s15 v14 hcall) (lw_V q2913 q2915 qs70 q108 q2916) hdV_X8_machineOf ⟨(Nat.le_of_ble_eq_true rfl), (Nat.le_of_ble_eq_true rfl)⟩ rfl (Nat.le_of_ble_eq_true rfl) dX8_blockCount_45 rfl) (fun v14 s15 hf => ?_)
      refine z_icmp_eq hC (pc := 48) (tgt := 55) dX8_blockCount_48 rfl (fun c16 => ?_) (fun c16 => ?_)
      · have hf := zif_t hf c16
        refine z_iconst (v := 0) hC (pc := 55) dX8_blockCount_55 zki_0 ?_
        refine ZW.perm (lv' := [(0, zr (some l0)), (2, zi l2)]) [0, 2] rfl ?_
        exact w_X8_blockCount_b56 hC hL hno hQ k13 hk13 l0 l2 0 l1 s15 hf
      · have hf := zif_f hf c16
        refine ZW.perm (lv' := [(0, zr (some l0)), (2, zi l2)]) [0, 2] rfl ?_
        exact w_X8_blockCount_b51 hC hL hno hQ k13 hk13 l0 l2 l1 s15 hf
def f_X8_blockCount_l13 (G : Nat → Nat) : Nat → Nat → Int32 → Int32 → zS → Option (Int32 × zS)
  | 0 => fun _ _ _ _ => none
  | n + 1 => f_X8_blockCount_b13 G (f_X8_blockCount_l13 G n)
theorem w_X8_blockCount_l13 {X : zX} (hC : ZC X RX8 cX8_blockCount (some .int) 7 133) (hL : X.nL = 3) (hno : ∀ x ∈ X.c.exceptionTable.toList, False) {r : Int32} {sF : zS} (hQ : ZQ X (.inl (some (zi r)), sF)) : ∀ (n : Nat) (l0 : Nat) (l1 : Int32) (l2 : Int32) (s0 : zS) (_ : f_X8_blockCount_l13 X.g.1 n l0 l1 l2 s0 = some (r, sF)), ZW X s0 13 [(0, zr (some l0)), (1, zi l1), (2, zi l2)] [] := by
  intro n
  induction n with
  | zero => intro l0 l1 l2 s0 hf; exact absurd (show (none : Option (Int32 × zS)) = some (r, sF) from hf) (fun z => nomatch z)
  | succ n ih => intro l0 l1 l2 s0 hf; exact w_X8_blockCount_b13 hC hL hno hQ (f_X8_blockCount_l13 X.g.1 n) ih l0 l1 l2 s0 hf
def f_X8_blockCount (G : Nat → Nat) (l0 : Nat) (s0 : zS) : Option (Int32 × zS) :=
zo (zput G s0 (some l0) 6 0 (.int 0)) fun s1 =>
zo (zrc s1 (some l0) 6) fun _ =>
zb (f_X8_findPath G l0 s1) fun _ s5 =>
f_X8_blockCount_l13 G 2000 l0 0 0 s5
set_option maxHeartbeats 4000000 in
theorem m_X8_blockCount (Γ : zG) (l0 : Nat) (s0 s1 : zS) (r : Int32) (hf : f_X8_blockCount Γ.1 l0 s0 = some (r, s1)) : ZM Γ yX8_blockCount (ws_ yX8_blockCount cX8_blockCount 3 (some .int)) 7 133 [zr (some l0)] s0 (.inl (some (zi r)), s1) := by
  refine ZM.of (own := RX8) (by decide) rfl (Nat.le_of_ble_eq_true rfl) ?_
  intro X hg hC hL hno hQ hin
  subst hg
  unfold f_X8_blockCount at hf
  refine z_aload_n hC (pc := 0) dX8_blockCount_0 rfl 0 rfl ?_
  refine z_iconst (v := 0) hC (pc := 1) dX8_blockCount_1 zki_0 ?_
  refine z_putV (v := zi 0) hC (pc := 2) in_X8 tyX8 tyX8_ok nmX8 zcX8 0 (Nat.le_of_ble_eq_true rfl) (zLk.o hC q2673) zsm (Or.inl rfl) rfl rfl dX8_blockCount_2 hf (fun s1 hf => ?_)
  refine z_aload_n hC (pc := 5) dX8_blockCount_5 rfl 0 rfl ?_
  obtain ⟨fs2, ha3, hf⟩ := z_rcN hf
  refine z_cU (rest := []) hf (fun v4 s5 hcall => z_runV hC (pc := 6) zcX8 0 ha3 (m_X8_findPath X.g l0 s1 s5 v4 hcall) (lw_V q3027 q3029 qs85 q108 q3030) hdV_X8_findPath ⟨(Nat.le_of_ble_eq_true rfl), (Nat.le_of_ble_eq_true rfl)⟩ rfl (Nat.le_of_ble_eq_true rfl) dX8_blockCount_6 rfl) (fun _ s5 hf => ?_)
  refine z_iconst (v := 0) hC (pc := 9) dX8_blockCount_9 zki_0 ?_
  refine z_istore_n (lv' := [(1, zi 0), (0, zr (some l0))]) hC (pc := 10) hL dX8_blockCount_10 rfl (Nat.le_of_ble_eq_true rfl) rfl ?_
  refine z_iconst (v := 0) hC (pc := 11) dX8_blockCount_11 zki_0 ?_
  refine z_istore_n (lv' := [(2, zi 0), (1, zi 0), (0, zr (some l0))]) hC (pc := 12) hL dX8_blockCount_12 rfl (Nat.le_of_ble_eq_true rfl) rfl ?_
  refine ZW.perm (lv' := [(0, zr (some l0)), (1, zi 0), (2, zi 0)]) [2, 1, 0] rfl ?_
  exact w_X8_blockCount_l13 hC hL hno hQ 2000 l0 0 0 s5 hf
/-! BlockingShopModel.leaveOf(I)I -/
def f_X8_leaveOf (G : Nat → Nat) (l0 : Nat) (l1 : Int32) (s0 : zS) : Option (Int32 × zS) :=
zo (zrc s0 (some l0) 6) fun _ =>
zb (f_X8_isBlocking G l0 l1 s0) fun v3 s4 =>
if v3 = 0 then (zo (zgR s4 (some l0) 6 18) fun v6 =>
zo (zaI s4 v6 0 l1) fun v7 =>
zo (zrc s4 (some l0) 6) fun _ =>
zb (f_X8_durationOf G l0 l1 s4) fun v10 s11 =>
some ((v7 + v10), s11))
else (zo (zgR s4 (some l0) 6 18) fun v12 =>
zo (zaI s4 v12 0 (l1 + 1)) fun v13 =>
some (v13, s4))
set_option maxHeartbeats 4000000 in
theorem m_X8_leaveOf (Γ : zG) (l0 : Nat) (l1 : Int32) (s0 s1 : zS) (r : Int32) (hf : f_X8_leaveOf Γ.1 l0 l1 s0 = some (r, s1)) : ZM Γ yX8_leaveOf (ws_ yX8_leaveOf cX8_leaveOf 2 (some .int)) 4 62 [zr (some l0), zi l1] s0 (.inl (some (zi r)), s1) := by
  refine ZM.of (own := RX8) (by decide) rfl (Nat.le_of_ble_eq_true rfl) ?_
  intro X hg hC hL hno hQ hin
  subst hg
  unfold f_X8_leaveOf at hf
  refine z_aload_n hC (pc := 0) dX8_leaveOf_0 rfl 0 rfl ?_
  refine z_iload_n hC (pc := 1) dX8_leaveOf_1 rfl 1 rfl ?_
  obtain ⟨fs1, ha2, hf⟩ := z_rcN hf
  refine z_cI (rest := []) hf (fun v3 s4 hcall => z_runV hC (pc := 2) zcX8 1 ha2 (m_X8_isBlocking X.g l0 l1 s0 s4 v3 hcall) (lw_V q2944 q2946 qs74 q108 q2947) hdV_X8_isBlocking ⟨(Nat.le_of_ble_eq_true rfl), (Nat.le_of_ble_eq_true rfl)⟩ rfl (Nat.le_of_ble_eq_true rfl) dX8_leaveOf_2 rfl) (fun v3 s4 hf => ?_)
  refine z_if_eq hC (pc := 5) (tgt := 19) dX8_leaveOf_5 rfl (fun c5 => ?_) (fun c5 => ?_)
  · have hf := zif_t hf c5
    refine z_aload_n hC (pc := 19) dX8_leaveOf_19 rfl 0 rfl ?_
    refine z_getR hC (pc := 20) in_X8 zcX8 18 (Nat.le_of_ble_eq_true rfl) (zLk.o hC q2691) zsm dX8_leaveOf_20 hf (fun v6 hf => ?_)
    refine z_iload_n hC (pc := 23) dX8_leaveOf_23 rfl 1 rfl ?_
    refine z_iald hC (pc := 24) dX8_leaveOf_24 hf (fun v7 hf => ?_)
    refine z_aload_n hC (pc := 25) dX8_leaveOf_25 rfl 0 rfl ?_
    refine z_iload_n hC (pc := 26) dX8_leaveOf_26 rfl 1 rfl ?_
    obtain ⟨fs8, ha9, hf⟩ := z_rcN hf
    refine z_cI (rest := [zi v7]) hf (fun v10 s11 hcall => z_runV hC (pc := 27) zcX8 1 ha9 (m_X8_durationOf X.g l0 l1 s4 s11 v10 hcall) (lw_V q2952 q2954 qs76 q108 q2955) hdV_X8_durationOf ⟨(Nat.le_of_ble_eq_true rfl), (Nat.le_of_ble_eq_true rfl)⟩ rfl (Nat.le_of_ble_eq_true rfl) dX8_leaveOf_27 rfl) (fun v10 s11 hf => ?_)
    refine z_iadd hC (pc := 30) dX8_leaveOf_30 ?_
    exact z_ireturn hC (pc := 31) hQ dX8_leaveOf_31 hf
  · have hf := zif_f hf c5
    refine z_aload_n hC (pc := 8) dX8_leaveOf_8 rfl 0 rfl ?_
    refine z_getR hC (pc := 9) in_X8 zcX8 18 (Nat.le_of_ble_eq_true rfl) (zLk.o hC q2691) zsm dX8_leaveOf_9 hf (fun v12 hf => ?_)
    refine z_iload_n hC (pc := 12) dX8_leaveOf_12 rfl 1 rfl ?_
    refine z_iconst (v := 1) hC (pc := 13) dX8_leaveOf_13 zki_1 ?_
    refine z_iadd hC (pc := 14) dX8_leaveOf_14 ?_
    refine z_iald hC (pc := 15) dX8_leaveOf_15 hf (fun v13 hf => ?_)
    refine z_goto hC (pc := 16) (tgt := 31) dX8_leaveOf_16 rfl ?_
    exact z_ireturn hC (pc := 31) hQ dX8_leaveOf_31 hf
/-! BlockingShopModel.fails(ZI)Z -/
def f_X8_fails_b16 (G : Nat → Nat) (l0 : Nat) (s0 : zS) : Option (Int32 × zS) :=
zo (zgI s0 (some l0) 6 0) fun v1 =>
if v1 = 0 then (zrn .boolean 0 s0)
else (zrn .boolean 1 s0)
set_option maxHeartbeats 4000000 in
theorem w_X8_fails_b16 {X : zX} (hC : ZC X RX8 cX8_fails (some .boolean) 1 0) (hL : X.nL = 3) (hno : ∀ x ∈ X.c.exceptionTable.toList, False) {r : Int32} {sF : zS} (hQ : ZQ X (.inl (some (zi r)), sF)) (l0 : Nat) (s0 : zS) (hf : f_X8_fails_b16 X.g.1 l0 s0 = some (r, sF)) : ZW X s0 16 [(0, zr (some l0))] [] := by
  unfold f_X8_fails_b16 at hf
  refine z_aload_n hC (pc := 16) dX8_fails_16 rfl 0 rfl ?_
  refine z_getI hC (pc := 17) in_X8 zcX8 0 (Nat.le_of_ble_eq_true rfl) (zLk.o hC q2673) zsm dX8_fails_17 hf (fun v1 hf => ?_)
  refine z_if_eq hC (pc := 20) (tgt := 27) dX8_fails_20 rfl (fun c2 => ?_) (fun c2 => ?_)
  · have hf := zif_t hf c2
    refine z_iconst (v := 0) hC (pc := 27) dX8_fails_27 zki_0 ?_
    exact z_zreturn hC (pc := 28) hQ dX8_fails_28 hf
  · have hf := zif_f hf c2
    refine z_iconst (v := 1) hC (pc := 23) dX8_fails_23 zki_1 ?_
    refine z_goto hC (pc := 24) (tgt := 28) dX8_fails_24 rfl ?_
    exact z_zreturn hC (pc := 28) hQ dX8_fails_28 hf
def f_X8_fails (G : Nat → Nat) (l0 : Nat) (l1 : Int32) (l2 : Int32) (s0 : zS) : Option (Int32 × zS) :=
if l1 = 0 then (f_X8_fails_b16 G l0 s0)
else (zo (zgI s0 (some l0) 6 0) fun v2 =>
if v2 = 0 then (zo (zput G s0 (some l0) 6 0 (.int l2)) fun s4 =>
f_X8_fails_b16 G l0 s4)
else (f_X8_fails_b16 G l0 s0))
set_option maxHeartbeats 4000000 in
theorem m_X8_fails (Γ : zG) (l0 : Nat) (l1 : Int32) (l2 : Int32) (s0 s1 : zS) (r : Int32) (hf : f_X8_fails Γ.1 l0 l1 l2 s0 = some (r, s1)) : ZM Γ yX8_fails (ws_ yX8_fails cX8_fails 3 (some .boolean)) 1 0 [zr (some l0), zi l1, zi l2] s0 (.inl (some (zi r)), s1) := by
  refine ZM.of (own := RX8) (by decide) rfl (Nat.le_of_ble_eq_true rfl) ?_
  intro X hg hC hL hno hQ hin
  subst hg
  unfold f_X8_fails at hf
  refine z_iload_n hC (pc := 0) dX8_fails_0 rfl 1 rfl ?_
  refine z_if_eq hC (pc := 1) (tgt := 16) dX8_fails_1 rfl (fun c1 => ?_) (fun c1 => ?_)
  · have hf := zif_t hf c1
    refine ZW.perm (lv' := [(0, zr (some l0))]) [0] rfl ?_
    exact w_X8_fails_b16 hC hL hno hQ l0 s0 hf
  · have hf := zif_f hf c1
    refine z_aload_n hC (pc := 4) dX8_fails_4 rfl 0 rfl ?_
    refine z_getI hC (pc := 5) in_X8 zcX8 0 (Nat.le_of_ble_eq_true rfl) (zLk.o hC q2673) zsm dX8_fails_5 hf (fun v2 hf => ?_)
    refine z_if_ne hC (pc := 8) (tgt := 16) dX8_fails_8 rfl (fun c3 => ?_) (fun c3 => ?_)
    · have hf := zif_f hf c3
      refine ZW.perm (lv' := [(0, zr (some l0))]) [0] rfl ?_
      exact w_X8_fails_b16 hC hL hno hQ l0 s0 hf
    · have hf := zif_t hf c3
      refine z_aload_n hC (pc := 11) dX8_fails_11 rfl 0 rfl ?_
      refine z_iload_n hC (pc := 12) dX8_fails_12 rfl 2 rfl ?_
      refine z_putV (v := zi l2) hC (pc := 13) in_X8 tyX8 tyX8_ok nmX8 zcX8 0 (Nat.le_of_ble_eq_true rfl) (zLk.o hC q2673) zsm (Or.inl rfl) rfl rfl dX8_fails_13 hf (fun s4 hf => ?_)
      refine ZW.perm (lv' := [(0, zr (some l0))]) [0] rfl ?_
      exact w_X8_fails_b16 hC hL hno hQ l0 s4 hf
/-! BlockingShopModel.in(III)Z -/
def f_X8_in (G : Nat → Nat) (l0 : Int32) (l1 : Int32) (l2 : Int32) (s0 : zS) : Option (Int32 × zS) :=
if l0 < l1 then (zrn .boolean 0 s0)
else (if l2 < l0 then (zrn .boolean 0 s0)
else (zrn .boolean 1 s0))
set_option maxHeartbeats 4000000 in
theorem m_X8_in (Γ : zG) (l0 : Int32) (l1 : Int32) (l2 : Int32) (s0 s1 : zS) (r : Int32) (hf : f_X8_in Γ.1 l0 l1 l2 s0 = some (r, s1)) : ZM Γ yX8_in (ws_ yX8_in cX8_in 3 (some .boolean)) 1 0 [zi l0, zi l1, zi l2] s0 (.inl (some (zi r)), s1) := by
  refine ZM.of (own := RX8) (by decide) rfl (Nat.le_of_ble_eq_true rfl) ?_
  intro X hg hC hL hno hQ hin
  subst hg
  unfold f_X8_in at hf
  refine z_iload_n hC (pc := 0) dX8_in_0 rfl 0 rfl ?_
  refine z_iload_n hC (pc := 1) dX8_in_1 rfl 1 rfl ?_
  refine z_icmp_lt hC (pc := 2) (tgt := 14) dX8_in_2 rfl (fun c1 => ?_) (fun c1 => ?_)
  · have hf := zif_t hf c1
    refine z_iconst (v := 0) hC (pc := 14) dX8_in_14 zki_0 ?_
    exact z_zreturn hC (pc := 15) hQ dX8_in_15 hf
  · have hf := zif_f hf c1
    refine z_iload_n hC (pc := 5) dX8_in_5 rfl 0 rfl ?_
    refine z_iload_n hC (pc := 6) dX8_in_6 rfl 2 rfl ?_
    refine z_icmp_gt hC (pc := 7) (tgt := 14) dX8_in_7 rfl (fun c2 => ?_) (fun c2 => ?_)
    · have hf := zif_t hf c2
      refine z_iconst (v := 0) hC (pc := 14) dX8_in_14 zki_0 ?_
      exact z_zreturn hC (pc := 15) hQ dX8_in_15 hf
    · have hf := zif_f hf c2
      refine z_iconst (v := 1) hC (pc := 10) dX8_in_10 zki_1 ?_
      refine z_goto hC (pc := 11) (tgt := 15) dX8_in_11 rfl ?_
      exact z_zreturn hC (pc := 15) hQ dX8_in_15 hf
/-! BlockingShopModel.noMachine(I)Z -/
def f_X8_noMachine_b22 (G : Nat → Nat) (t0 : Int32) (t1 : Option Nat) (s0 : zS) : Option (Int32 × zS) :=
zo (zrc s0 t1 6) fun a3 =>
zb (f_X8_fails G a3 t0 1 s0) fun v4 s5 =>
zrn .boolean v4 s5
set_option maxHeartbeats 4000000 in
theorem w_X8_noMachine_b22 {X : zX} (hC : ZC X RX8 cX8_noMachine (some .boolean) 2 22) (hL : X.nL = 2) (hno : ∀ x ∈ X.c.exceptionTable.toList, False) {r : Int32} {sF : zS} (hQ : ZQ X (.inl (some (zi r)), sF)) (t0 : Int32) (t1 : Option Nat) (s0 : zS) (hf : f_X8_noMachine_b22 X.g.1 t0 t1 s0 = some (r, sF)) : ZW X s0 22 [] [zi t0, zr t1] := by
  unfold f_X8_noMachine_b22 at hf
  refine z_iconst (v := 1) hC (pc := 22) dX8_noMachine_22 zki_1 ?_
  obtain ⟨a3, fs1, rfl, ha2, hf⟩ := z_rcO hf
  refine z_cI (rest := []) hf (fun v4 s5 hcall => z_runV hC (pc := 23) zcX8 2 ha2 (m_X8_fails X.g a3 t0 1 s0 s5 v4 hcall) (lw_V q2765 q2767 qs48 q108 q2768) hdV_X8_fails ⟨(Nat.le_of_ble_eq_true rfl), (Nat.le_of_ble_eq_true rfl)⟩ rfl (Nat.le_of_ble_eq_true rfl) dX8_noMachine_23 rfl) (fun v4 s5 hf => ?_)
  exact z_zreturn hC (pc := 26) hQ dX8_noMachine_26 hf
def f_X8_noMachine (G : Nat → Nat) (l0 : Nat) (l1 : Int32) (s0 : zS) : Option (Int32 × zS) :=
zo (zgR s0 (some l0) 6 8) fun v1 =>
zo (zaI s0 v1 0 0) fun v2 =>
zb (f_X8_in G l1 0 (v2 - 1) s0) fun v3 s4 =>
if v3 = 0 then (f_X8_noMachine_b22 G 1 (some l0) s4)
else (f_X8_noMachine_b22 G 0 (some l0) s4)
set_option maxHeartbeats 4000000 in
theorem m_X8_noMachine (Γ : zG) (l0 : Nat) (l1 : Int32) (s0 s1 : zS) (r : Int32) (hf : f_X8_noMachine Γ.1 l0 l1 s0 = some (r, s1)) : ZM Γ yX8_noMachine (ws_ yX8_noMachine cX8_noMachine 2 (some .boolean)) 2 22 [zr (some l0), zi l1] s0 (.inl (some (zi r)), s1) := by
  refine ZM.of (own := RX8) (by decide) rfl (Nat.le_of_ble_eq_true rfl) ?_
  intro X hg hC hL hno hQ hin
  subst hg
  unfold f_X8_noMachine at hf
  refine z_aload_n hC (pc := 0) dX8_noMachine_0 rfl 0 rfl ?_
  refine z_iload_n hC (pc := 1) dX8_noMachine_1 rfl 1 rfl ?_
  refine z_iconst (v := 0) hC (pc := 2) dX8_noMachine_2 zki_0 ?_
  refine z_aload_n hC (pc := 3) dX8_noMachine_3 rfl 0 rfl ?_
  refine z_getR hC (pc := 4) in_X8 zcX8 8 (Nat.le_of_ble_eq_true rfl) (zLk.o hC q2681) zsm dX8_noMachine_4 hf (fun v1 hf => ?_)
  refine z_iconst (v := 0) hC (pc := 7) dX8_noMachine_7 zki_0 ?_
  refine z_iald hC (pc := 8) dX8_noMachine_8 hf (fun v2 hf => ?_)
  refine z_iconst (v := 1) hC (pc := 9) dX8_noMachine_9 zki_1 ?_
  refine z_isub hC (pc := 10) dX8_noMachine_10 ?_
  refine z_cI (rest := [zr (some l0)]) hf (fun v3 s4 hcall => z_runS hC (pc := 11) 3 (m_X8_in X.g l1 0 (v2 - 1) s0 s4 v3 hcall) (lw_S q2762 q2763 q108 q2764) hd_X8_in ⟨(Nat.le_of_ble_eq_true rfl), (Nat.le_of_ble_eq_true rfl)⟩ rfl (Nat.le_of_ble_eq_true rfl) dX8_noMachine_11 rfl) (fun v3 s4 hf => ?_)
  refine z_if_ne hC (pc := 14) (tgt := 21) dX8_noMachine_14 rfl (fun c5 => ?_) (fun c5 => ?_)
  · have hf := zif_f hf c5
    refine z_iconst (v := 0) hC (pc := 21) dX8_noMachine_21 zki_0 ?_
    refine ZW.perm (lv' := []) [] rfl ?_
    exact w_X8_noMachine_b22 hC hL hno hQ 0 (some l0) s4 hf
  · have hf := zif_t hf c5
    refine z_iconst (v := 1) hC (pc := 17) dX8_noMachine_17 zki_1 ?_
    refine z_goto hC (pc := 18) (tgt := 22) dX8_noMachine_18 rfl ?_
    refine ZW.perm (lv' := []) [] rfl ?_
    exact w_X8_noMachine_b22 hC hL hno hQ 1 (some l0) s4 hf
/-! BlockingShopModel.blockedTime(I)I -/
def f_X8_blockedTime_b26 (G : Nat → Nat) (k26 : Nat → Int32 → Int32 → Int32 → zS → Option (Int32 × zS)) (l0 : Nat) (l1 : Int32) (l2 : Int32) (l3 : Int32) (s0 : zS) : Option (Int32 × zS) :=
zo (zgR s0 (some l0) 6 8) fun v1 =>
zb (f_X8_machine G l1 s0) fun v2 s3 =>
zo (zaI s3 v1 0 (v2 + 2)) fun v4 =>
if v4 ≤ l3 then (some (l2, s3))
else (zo (zgR s3 (some l0) 6 8) fun v6 =>
zb (f_X8_machine G l1 s3) fun v7 s8 =>
zo (zaI s8 v6 0 ((v7 + 3) + l3)) fun v9 =>
zo (zrc s8 (some l0) 6) fun _ =>
zb (f_X8_leaveOf G l0 v9 s8) fun v12 s13 =>
zo (zgR s13 (some l0) 6 18) fun v14 =>
zo (zaI s13 v14 0 v9) fun v15 =>
zo (zrc s13 (some l0) 6) fun _ =>
zb (f_X8_durationOf G l0 v9 s13) fun v18 s19 =>
k26 l0 l1 (l2 + ((v12 - v15) - v18)) (l3 + 1) s19)
set_option maxHeartbeats 4000000 in
theorem w_X8_blockedTime_b26 {X : zX} (hC : ZC X RX8 cX8_blockedTime (some .int) 6 110) (hL : X.nL = 5) (hno : ∀ x ∈ X.c.exceptionTable.toList, False) {r : Int32} {sF : zS} (hQ : ZQ X (.inl (some (zi r)), sF)) (k26 : Nat → Int32 → Int32 → Int32 → zS → Option (Int32 × zS)) (hk26 : ∀ (l0 : Nat) (l1 : Int32) (l2 : Int32) (l3 : Int32) (s0 : zS), k26 l0 l1 l2 l3 s0 = some (r, sF) → ZW X s0 26 [(0, zr (some l0)), (1, zi l1), (2, zi l2), (3, zi l3)] []) (l0 : Nat) (l1 : Int32) (l2 : Int32) (l3 : Int32) (s0 : zS) (hf : f_X8_blockedTime_b26 X.g.1 k26 l0 l1 l2 l3 s0 = some (r, sF)) : ZW X s0 26 [(0, zr (some l0)), (1, zi l1), (2, zi l2), (3, zi l3)] [] := by
  unfold f_X8_blockedTime_b26 at hf
  refine z_iload_n hC (pc := 26) dX8_blockedTime_26 rfl 3 rfl ?_
  refine z_aload_n hC (pc := 27) dX8_blockedTime_27 rfl 0 rfl ?_
  refine z_getR hC (pc := 28) in_X8 zcX8 8 (Nat.le_of_ble_eq_true rfl) (zLk.o hC q2681) zsm dX8_blockedTime_28 hf (fun v1 hf => ?_)
  refine z_iload_n hC (pc := 31) dX8_blockedTime_31 rfl 1 rfl ?_
  refine z_cI (rest := [zr v1, zi l3]) hf (fun v2 s3 hcall => z_runS hC (pc := 32) 1 (m_X8_machine X.g l1 s0 s3 v2 hcall) (lw_S q2842 q2843 q108 q2844) hd_X8_machine ⟨(Nat.le_of_ble_eq_true rfl), (Nat.le_of_ble_eq_true rfl)⟩ rfl (Nat.le_of_ble_eq_true rfl) dX8_blockedTime_32 rfl) (fun v2 s3 hf => ?_)
  refine z_iconst (v := 2) hC (pc := 35) dX8_blockedTime_35 zki_2 ?_
  refine z_iadd hC (pc := 36) dX8_blockedTime_36 ?_
  refine z_iald hC (pc := 37) dX8_blockedTime_37 hf (fun v4 hf => ?_)
  refine z_icmp_ge hC (pc := 38) (tgt := 86) dX8_blockedTime_38 rfl (fun c5 => ?_) (fun c5 => ?_)
  · have hf := zif_t hf c5
    refine z_iload_n hC (pc := 86) dX8_blockedTime_86 rfl 2 rfl ?_
    exact z_ireturn hC (pc := 87) hQ dX8_blockedTime_87 hf
  · have hf := zif_f hf c5
    refine z_aload_n hC (pc := 41) dX8_blockedTime_41 rfl 0 rfl ?_
    refine z_getR hC (pc := 42) in_X8 zcX8 8 (Nat.le_of_ble_eq_true rfl) (zLk.o hC q2681) zsm dX8_blockedTime_42 hf (fun v6 hf => ?_)
    refine z_iload_n hC (pc := 45) dX8_blockedTime_45 rfl 1 rfl ?_
    refine z_cI (rest := [zr v6]) hf (fun v7 s8 hcall => z_runS hC (pc := 46) 1 (m_X8_machine X.g l1 s3 s8 v7 hcall) (lw_S q2842 q2843 q108 q2844) hd_X8_machine ⟨(Nat.le_of_ble_eq_true rfl), (Nat.le_of_ble_eq_true rfl)⟩ rfl (Nat.le_of_ble_eq_true rfl) dX8_blockedTime_46 rfl) (fun v7 s8 hf => ?_)
    refine z_iconst (v := 3) hC (pc := 49) dX8_blockedTime_49 zki_3 ?_
    refine z_iadd hC (pc := 50) dX8_blockedTime_50 ?_
    refine z_iload_n hC (pc := 51) dX8_blockedTime_51 rfl 3 rfl ?_
    refine z_iadd hC (pc := 52) dX8_blockedTime_52 ?_
    refine z_iald hC (pc := 53) dX8_blockedTime_53 hf (fun v9 hf => ?_)
    refine z_istore (lv' := [(4, zi v9), (0, zr (some l0)), (1, zi l1), (2, zi l2), (3, zi l3)]) hC (pc := 54) hL dX8_blockedTime_54 (Nat.le_of_ble_eq_true rfl) rfl ?_
    refine z_iload_n hC (pc := 56) dX8_blockedTime_56 rfl 3 rfl ?_
    refine z_aload_n hC (pc := 57) dX8_blockedTime_57 rfl 1 rfl ?_
    refine z_iload hC (pc := 58) dX8_blockedTime_58 0 rfl ?_
    obtain ⟨fs10, ha11, hf⟩ := z_rcN hf
    refine z_cI (rest := [zi l2]) hf (fun v12 s13 hcall => z_runV hC (pc := 60) zcX8 1 ha11 (m_X8_leaveOf X.g l0 v9 s8 s13 v12 hcall) (lw_V q2971 q2973 qs79 q108 q2974) hdV_X8_leaveOf ⟨(Nat.le_of_ble_eq_true rfl), (Nat.le_of_ble_eq_true rfl)⟩ rfl (Nat.le_of_ble_eq_true rfl) dX8_blockedTime_60 rfl) (fun v12 s13 hf => ?_)
    refine z_aload_n hC (pc := 63) dX8_blockedTime_63 rfl 1 rfl ?_
    refine z_getR hC (pc := 64) in_X8 zcX8 18 (Nat.le_of_ble_eq_true rfl) (zLk.o hC q2691) zsm dX8_blockedTime_64 hf (fun v14 hf => ?_)
    refine z_iload hC (pc := 67) dX8_blockedTime_67 0 rfl ?_
    refine z_iald hC (pc := 69) dX8_blockedTime_69 hf (fun v15 hf => ?_)
    refine z_isub hC (pc := 70) dX8_blockedTime_70 ?_
    refine z_aload_n hC (pc := 71) dX8_blockedTime_71 rfl 1 rfl ?_
    refine z_iload hC (pc := 72) dX8_blockedTime_72 0 rfl ?_
    obtain ⟨fs16, ha17, hf⟩ := z_rcN hf
    refine z_cI (rest := [zi (v12 - v15), zi l2]) hf (fun v18 s19 hcall => z_runV hC (pc := 74) zcX8 1 ha17 (m_X8_durationOf X.g l0 v9 s13 s19 v18 hcall) (lw_V q2952 q2954 qs76 q108 q2955) hdV_X8_durationOf ⟨(Nat.le_of_ble_eq_true rfl), (Nat.le_of_ble_eq_true rfl)⟩ rfl (Nat.le_of_ble_eq_true rfl) dX8_blockedTime_74 rfl) (fun v18 s19 hf => ?_)
    refine z_isub hC (pc := 77) dX8_blockedTime_77 ?_
    refine z_iadd hC (pc := 78) dX8_blockedTime_78 ?_
    refine z_istore_n (lv' := [(2, zi (l2 + ((v12 - v15) - v18))), (4, zi v9), (0, zr (some l0)), (1, zi l1), (3, zi l3)]) hC (pc := 79) hL dX8_blockedTime_79 rfl (Nat.le_of_ble_eq_true rfl) rfl ?_
    refine z_iinc (v := 1) (lv' := [(3, zi (l3 + 1)), (2, zi (l2 + ((v12 - v15) - v18))), (4, zi v9), (0, zr (some l0)), (1, zi l1)]) hC (pc := 80) hL dX8_blockedTime_80 4 rfl zki_1 (Nat.le_of_ble_eq_true rfl) rfl ?_
    refine z_goto hC (pc := 83) (tgt := 26) dX8_blockedTime_83 rfl ?_
    refine ZW.perm (lv' := [(0, zr (some l0)), (1, zi l1), (2, zi (l2 + ((v12 - v15) - v18))), (3, zi (l3 + 1))]) [3, 4, 1, 0] rfl ?_
    exact hk26 l0 l1 (l2 + ((v12 - v15) - v18)) (l3 + 1) s19 hf
def f_X8_blockedTime_l26 (G : Nat → Nat) : Nat → Nat → Int32 → Int32 → Int32 → zS → Option (Int32 × zS)
  | 0 => fun _ _ _ _ _ => none
  | n + 1 => f_X8_blockedTime_b26 G (f_X8_blockedTime_l26 G n)
theorem w_X8_blockedTime_l26 {X : zX} (hC : ZC X RX8 cX8_blockedTime (some .int) 6 110) (hL : X.nL = 5) (hno : ∀ x ∈ X.c.exceptionTable.toList, False) {r : Int32} {sF : zS} (hQ : ZQ X (.inl (some (zi r)), sF)) : ∀ (n : Nat) (l0 : Nat) (l1 : Int32) (l2 : Int32) (l3 : Int32) (s0 : zS) (_ : f_X8_blockedTime_l26 X.g.1 n l0 l1 l2 l3 s0 = some (r, sF)), ZW X s0 26 [(0, zr (some l0)), (1, zi l1), (2, zi l2), (3, zi l3)] [] := by
  intro n
  induction n with
  | zero => intro l0 l1 l2 l3 s0 hf; exact absurd (show (none : Option (Int32 × zS)) = some (r, sF) from hf) (fun z => nomatch z)
  | succ n ih => intro l0 l1 l2 l3 s0 hf; exact w_X8_blockedTime_b26 hC hL hno hQ (f_X8_blockedTime_l26 X.g.1 n) ih l0 l1 l2 l3 s0 hf
def f_X8_blockedTime (G : Nat → Nat) (l0 : Nat) (l1 : Int32) (s0 : zS) : Option (Int32 × zS) :=
zo (zput G s0 (some l0) 6 0 (.int 0)) fun s1 =>
zo (zrc s1 (some l0) 6) fun _ =>
zb (f_X8_noMachine G l0 l1 s1) fun v4 s5 =>
if v4 = 0 then (zo (zrc s5 (some l0) 6) fun _ =>
zb (f_X8_findStarts G l0 s5) fun v9 s10 =>
if v9 = 0 then (some (0, s10))
else (f_X8_blockedTime_l26 G 2000 l0 l1 0 0 s10))
else (some (0, s5))
set_option maxHeartbeats 4000000 in
theorem m_X8_blockedTime (Γ : zG) (l0 : Nat) (l1 : Int32) (s0 s1 : zS) (r : Int32) (hf : f_X8_blockedTime Γ.1 l0 l1 s0 = some (r, s1)) : ZM Γ yX8_blockedTime (ws_ yX8_blockedTime cX8_blockedTime 5 (some .int)) 6 110 [zr (some l0), zi l1] s0 (.inl (some (zi r)), s1) := by
  refine ZM.of (own := RX8) (by decide) rfl (Nat.le_of_ble_eq_true rfl) ?_
  intro X hg hC hL hno hQ hin
  subst hg
  unfold f_X8_blockedTime at hf
  refine z_aload_n hC (pc := 0) dX8_blockedTime_0 rfl 0 rfl ?_
  refine z_iconst (v := 0) hC (pc := 1) dX8_blockedTime_1 zki_0 ?_
  refine z_putV (v := zi 0) hC (pc := 2) in_X8 tyX8 tyX8_ok nmX8 zcX8 0 (Nat.le_of_ble_eq_true rfl) (zLk.o hC q2673) zsm (Or.inl rfl) rfl rfl dX8_blockedTime_2 hf (fun s1 hf => ?_)
  refine z_aload_n hC (pc := 5) dX8_blockedTime_5 rfl 0 rfl ?_
  refine z_iload_n hC (pc := 6) dX8_blockedTime_6 rfl 1 rfl ?_
  obtain ⟨fs2, ha3, hf⟩ := z_rcN hf
  refine z_cI (rest := []) hf (fun v4 s5 hcall => z_runV hC (pc := 7) zcX8 1 ha3 (m_X8_noMachine X.g l0 l1 s1 s5 v4 hcall) (lw_V q2921 q2923 qs71 q108 q2924) hdV_X8_noMachine ⟨(Nat.le_of_ble_eq_true rfl), (Nat.le_of_ble_eq_true rfl)⟩ rfl (Nat.le_of_ble_eq_true rfl) dX8_blockedTime_7 rfl) (fun v4 s5 hf => ?_)
  refine z_if_ne hC (pc := 10) (tgt := 20) dX8_blockedTime_10 rfl (fun c6 => ?_) (fun c6 => ?_)
  · have hf := zif_f hf c6
    refine z_iconst (v := 0) hC (pc := 20) dX8_blockedTime_20 zki_0 ?_
    exact z_ireturn hC (pc := 21) hQ dX8_blockedTime_21 hf
  · have hf := zif_t hf c6
    refine z_aload_n hC (pc := 13) dX8_blockedTime_13 rfl 0 rfl ?_
    obtain ⟨fs7, ha8, hf⟩ := z_rcN hf
    refine z_cI (rest := []) hf (fun v9 s10 hcall => z_runV hC (pc := 14) zcX8 0 ha8 (m_X8_findStarts X.g l0 s5 s10 v9 hcall) (lw_V q2936 q2938 qs72 q108 q2939) hdV_X8_findStarts ⟨(Nat.le_of_ble_eq_true rfl), (Nat.le_of_ble_eq_true rfl)⟩ rfl (Nat.le_of_ble_eq_true rfl) dX8_blockedTime_14 rfl) (fun v9 s10 hf => ?_)
    refine z_if_ne hC (pc := 17) (tgt := 22) dX8_blockedTime_17 rfl (fun c11 => ?_) (fun c11 => ?_)
    · have hf := zif_f hf c11
      refine z_iconst (v := 0) hC (pc := 22) dX8_blockedTime_22 zki_0 ?_
      refine z_istore_n (lv' := [(2, zi 0), (0, zr (some l0)), (1, zi l1)]) hC (pc := 23) hL dX8_blockedTime_23 rfl (Nat.le_of_ble_eq_true rfl) rfl ?_
      refine z_iconst (v := 0) hC (pc := 24) dX8_blockedTime_24 zki_0 ?_
      refine z_istore_n (lv' := [(3, zi 0), (2, zi 0), (0, zr (some l0)), (1, zi l1)]) hC (pc := 25) hL dX8_blockedTime_25 rfl (Nat.le_of_ble_eq_true rfl) rfl ?_
      refine ZW.perm (lv' := [(0, zr (some l0)), (1, zi l1), (2, zi 0), (3, zi 0)]) [2, 3, 1, 0] rfl ?_
      exact w_X8_blockedTime_l26 hC hL hno hQ 2000 l0 l1 0 0 s10 hf
    · have hf := zif_t hf c11
      refine z_iconst (v := 0) hC (pc := 20) dX8_blockedTime_20 zki_0 ?_
      exact z_ireturn hC (pc := 21) hQ dX8_blockedTime_21 hf
/-! BlockingShopModel.placeOf(I)I -/
def f_X8_placeOf_b13 (G : Nat → Nat) (k13 : Nat → Int32 → Int32 → Int32 → zS → Option (Int32 × zS)) (l0 : Nat) (l1 : Int32) (l2 : Int32) (l3 : Int32) (s0 : zS) : Option (Int32 × zS) :=
zo (zgR s0 (some l0) 6 8) fun v1 =>
zo (zaI s0 v1 0 (l2 + l3)) fun v2 =>
if v2 = l1 then (some (l3, s0))
else (k13 l0 l1 l2 (l3 + 1) s0)
set_option maxHeartbeats 4000000 in
theorem w_X8_placeOf_b13 {X : zX} (hC : ZC X RX8 cX8_placeOf (some .int) 3 41) (hL : X.nL = 4) (hno : ∀ x ∈ X.c.exceptionTable.toList, False) {r : Int32} {sF : zS} (hQ : ZQ X (.inl (some (zi r)), sF)) (k13 : Nat → Int32 → Int32 → Int32 → zS → Option (Int32 × zS)) (hk13 : ∀ (l0 : Nat) (l1 : Int32) (l2 : Int32) (l3 : Int32) (s0 : zS), k13 l0 l1 l2 l3 s0 = some (r, sF) → ZW X s0 13 [(0, zr (some l0)), (1, zi l1), (2, zi l2), (3, zi l3)] []) (l0 : Nat) (l1 : Int32) (l2 : Int32) (l3 : Int32) (s0 : zS) (hf : f_X8_placeOf_b13 X.g.1 k13 l0 l1 l2 l3 s0 = some (r, sF)) : ZW X s0 13 [(0, zr (some l0)), (1, zi l1), (2, zi l2), (3, zi l3)] [] := by
  unfold f_X8_placeOf_b13 at hf
  refine z_aload_n hC (pc := 13) dX8_placeOf_13 rfl 0 rfl ?_
  refine z_getR hC (pc := 14) in_X8 zcX8 8 (Nat.le_of_ble_eq_true rfl) (zLk.o hC q2681) zsm dX8_placeOf_14 hf (fun v1 hf => ?_)
  refine z_iload_n hC (pc := 17) dX8_placeOf_17 rfl 2 rfl ?_
  refine z_iload_n hC (pc := 18) dX8_placeOf_18 rfl 3 rfl ?_
  refine z_iadd hC (pc := 19) dX8_placeOf_19 ?_
  refine z_iald hC (pc := 20) dX8_placeOf_20 hf (fun v2 hf => ?_)
  refine z_iload_n hC (pc := 21) dX8_placeOf_21 rfl 1 rfl ?_
  refine z_icmp_eq hC (pc := 22) (tgt := 31) dX8_placeOf_22 rfl (fun c3 => ?_) (fun c3 => ?_)
  · have hf := zif_t hf c3
    refine z_iload_n hC (pc := 31) dX8_placeOf_31 rfl 3 rfl ?_
    exact z_ireturn hC (pc := 32) hQ dX8_placeOf_32 hf
  · have hf := zif_f hf c3
    refine z_iinc (v := 1) (lv' := [(3, zi (l3 + 1)), (0, zr (some l0)), (1, zi l1), (2, zi l2)]) hC (pc := 25) hL dX8_placeOf_25 3 rfl zki_1 (Nat.le_of_ble_eq_true rfl) rfl ?_
    refine z_goto hC (pc := 28) (tgt := 13) dX8_placeOf_28 rfl ?_
    refine ZW.perm (lv' := [(0, zr (some l0)), (1, zi l1), (2, zi l2), (3, zi (l3 + 1))]) [1, 2, 3, 0] rfl ?_
    exact hk13 l0 l1 l2 (l3 + 1) s0 hf
def f_X8_placeOf_l13 (G : Nat → Nat) : Nat → Nat → Int32 → Int32 → Int32 → zS → Option (Int32 × zS)
  | 0 => fun _ _ _ _ _ => none
  | n + 1 => f_X8_placeOf_b13 G (f_X8_placeOf_l13 G n)
theorem w_X8_placeOf_l13 {X : zX} (hC : ZC X RX8 cX8_placeOf (some .int) 3 41) (hL : X.nL = 4) (hno : ∀ x ∈ X.c.exceptionTable.toList, False) {r : Int32} {sF : zS} (hQ : ZQ X (.inl (some (zi r)), sF)) : ∀ (n : Nat) (l0 : Nat) (l1 : Int32) (l2 : Int32) (l3 : Int32) (s0 : zS) (_ : f_X8_placeOf_l13 X.g.1 n l0 l1 l2 l3 s0 = some (r, sF)), ZW X s0 13 [(0, zr (some l0)), (1, zi l1), (2, zi l2), (3, zi l3)] [] := by
  intro n
  induction n with
  | zero => intro l0 l1 l2 l3 s0 hf; exact absurd (show (none : Option (Int32 × zS)) = some (r, sF) from hf) (fun z => nomatch z)
  | succ n ih => intro l0 l1 l2 l3 s0 hf; exact w_X8_placeOf_b13 hC hL hno hQ (f_X8_placeOf_l13 X.g.1 n) ih l0 l1 l2 l3 s0 hf
def f_X8_placeOf (G : Nat → Nat) (l0 : Nat) (l1 : Int32) (s0 : zS) : Option (Int32 × zS) :=
zo (zrc s0 (some l0) 6) fun _ =>
zb (f_X8_machineOf G l0 l1 s0) fun v3 s4 =>
zb (f_X8_machine G v3 s4) fun v5 s6 =>
f_X8_placeOf_l13 G 2000 l0 l1 (v5 + 3) 0 s6
set_option maxHeartbeats 4000000 in
theorem m_X8_placeOf (Γ : zG) (l0 : Nat) (l1 : Int32) (s0 s1 : zS) (r : Int32) (hf : f_X8_placeOf Γ.1 l0 l1 s0 = some (r, s1)) : ZM Γ yX8_placeOf (ws_ yX8_placeOf cX8_placeOf 4 (some .int)) 3 41 [zr (some l0), zi l1] s0 (.inl (some (zi r)), s1) := by
  refine ZM.of (own := RX8) (by decide) rfl (Nat.le_of_ble_eq_true rfl) ?_
  intro X hg hC hL hno hQ hin
  subst hg
  unfold f_X8_placeOf at hf
  refine z_aload_n hC (pc := 0) dX8_placeOf_0 rfl 0 rfl ?_
  refine z_iload_n hC (pc := 1) dX8_placeOf_1 rfl 1 rfl ?_
  obtain ⟨fs1, ha2, hf⟩ := z_rcN hf
  refine z_cI (rest := []) hf (fun v3 s4 hcall => z_runV hC (pc := 2) zcX8 1 ha2 (m_X8_machineOf X.g l0 l1 s0 s4 v3 hcall) (lw_V q2913 q2915 qs70 q108 q2916) hdV_X8_machineOf ⟨(Nat.le_of_ble_eq_true rfl), (Nat.le_of_ble_eq_true rfl)⟩ rfl (Nat.le_of_ble_eq_true rfl) dX8_placeOf_2 rfl) (fun v3 s4 hf => ?_)
  refine z_cI (rest := []) hf (fun v5 s6 hcall => z_runS hC (pc := 5) 1 (m_X8_machine X.g v3 s4 s6 v5 hcall) (lw_S q2842 q2843 q108 q2844) hd_X8_machine ⟨(Nat.le_of_ble_eq_true rfl), (Nat.le_of_ble_eq_true rfl)⟩ rfl (Nat.le_of_ble_eq_true rfl) dX8_placeOf_5 rfl) (fun v5 s6 hf => ?_)
  refine z_iconst (v := 3) hC (pc := 8) dX8_placeOf_8 zki_3 ?_
  refine z_iadd hC (pc := 9) dX8_placeOf_9 ?_
  refine z_istore_n (lv' := [(2, zi (v5 + 3)), (0, zr (some l0)), (1, zi l1)]) hC (pc := 10) hL dX8_placeOf_10 rfl (Nat.le_of_ble_eq_true rfl) rfl ?_
  refine z_iconst (v := 0) hC (pc := 11) dX8_placeOf_11 zki_0 ?_
  refine z_istore_n (lv' := [(3, zi 0), (2, zi (v5 + 3)), (0, zr (some l0)), (1, zi l1)]) hC (pc := 12) hL dX8_placeOf_12 rfl (Nat.le_of_ble_eq_true rfl) rfl ?_
  refine ZW.perm (lv' := [(0, zr (some l0)), (1, zi l1), (2, zi (v5 + 3)), (3, zi 0)]) [2, 3, 1, 0] rfl ?_
  exact w_X8_placeOf_l13 hC hL hno hQ 2000 l0 l1 (v5 + 3) 0 s6 hf
/-! BlockingShopModel.bring(II)V -/
def f_X8_bring_b32 (G : Nat → Nat) (k32 : Nat → Int32 → Int32 → Int32 → zS → Option (Unit × zS)) (l0 : Nat) (l2 : Int32) (l3 : Int32) (l4 : Int32) (s0 : zS) : Option (Unit × zS) :=
if l4 ≤ l2 then (some ((), s0))
else (zo (zrc s0 (some l0) 6) fun _ =>
zb (f_X8_exchange G l0 l3 (l4 - 1) s0) fun _ s5 =>
k32 l0 l2 l3 (l4 + (-1)) s5)
set_option maxHeartbeats 4000000 in
theorem w_X8_bring_b32 {X : zX} (hC : ZC X RX8 cX8_bring none 4 64) (hL : X.nL = 5) (hno : ∀ x ∈ X.c.exceptionTable.toList, False) {r : Unit} {sF : zS} (hQ : ZQ X (.inl none, sF)) (k32 : Nat → Int32 → Int32 → Int32 → zS → Option (Unit × zS)) (hk32 : ∀ (l0 : Nat) (l2 : Int32) (l3 : Int32) (l4 : Int32) (s0 : zS), k32 l0 l2 l3 l4 s0 = some (r, sF) → ZW X s0 32 [(0, zr (some l0)), (2, zi l2), (3, zi l3), (4, zi l4)] []) (l0 : Nat) (l2 : Int32) (l3 : Int32) (l4 : Int32) (s0 : zS) (hf : f_X8_bring_b32 X.g.1 k32 l0 l2 l3 l4 s0 = some (r, sF)) : ZW X s0 32 [(0, zr (some l0)), (2, zi l2), (3, zi l3), (4, zi l4)] [] := by
  unfold f_X8_bring_b32 at hf
  refine z_iload hC (pc := 32) dX8_bring_32 3 rfl ?_
  refine z_iload_n hC (pc := 34) dX8_bring_34 rfl 1 rfl ?_
  refine z_icmp_le hC (pc := 35) (tgt := 53) dX8_bring_35 rfl (fun c1 => ?_) (fun c1 => ?_)
  · have hf := zif_t hf c1
    exact z_return hC (pc := 53) hQ dX8_bring_53 hf
  · have hf := zif_f hf c1
    refine z_aload_n hC (pc := 38) dX8_bring_38 rfl 0 rfl ?_
    refine z_iload_n hC (pc := 39) dX8_bring_39 rfl 2 rfl ?_
    refine z_iload hC (pc := 40) dX8_bring_40 3 rfl ?_
    refine z_iconst (v := 1) hC (pc := 42) dX8_bring_42 zki_1 ?_
    refine z_isub hC (pc := 43) dX8_bring_43 ?_
    obtain ⟨fs2, ha3, hf⟩ := z_rcN hf
    refine z_cU (rest := []) hf (fun v4 s5 hcall => z_runV hC (pc := 44) zcX8 2 ha3 (m_X8_exchange X.g l0 l3 (l4 - 1) s0 s5 v4 hcall) (lw_V q3059 q3061 qs89 q108 q3062) hdV_X8_exchange ⟨(Nat.le_of_ble_eq_true rfl), (Nat.le_of_ble_eq_true rfl)⟩ rfl (Nat.le_of_ble_eq_true rfl) dX8_bring_44 rfl) (fun _ s5 hf => ?_)
    refine z_iinc (v := (-1)) (lv' := [(4, zi (l4 + (-1))), (0, zr (some l0)), (2, zi l2), (3, zi l3)]) hC (pc := 47) hL dX8_bring_47 3 rfl zki_m1 (Nat.le_of_ble_eq_true rfl) rfl ?_
    refine z_goto hC (pc := 50) (tgt := 32) dX8_bring_50 rfl ?_
    refine ZW.perm (lv' := [(0, zr (some l0)), (2, zi l2), (3, zi l3), (4, zi (l4 + (-1)))]) [1, 2, 3, 0] rfl ?_
    exact hk32 l0 l2 l3 (l4 + (-1)) s5 hf
def f_X8_bring_l32 (G : Nat → Nat) : Nat → Nat → Int32 → Int32 → Int32 → zS → Option (Unit × zS)
  | 0 => fun _ _ _ _ _ => none
  | n + 1 => f_X8_bring_b32 G (f_X8_bring_l32 G n)
theorem w_X8_bring_l32 {X : zX} (hC : ZC X RX8 cX8_bring none 4 64) (hL : X.nL = 5) (hno : ∀ x ∈ X.c.exceptionTable.toList, False) {r : Unit} {sF : zS} (hQ : ZQ X (.inl none, sF)) : ∀ (n : Nat) (l0 : Nat) (l2 : Int32) (l3 : Int32) (l4 : Int32) (s0 : zS) (_ : f_X8_bring_l32 X.g.1 n l0 l2 l3 l4 s0 = some (r, sF)), ZW X s0 32 [(0, zr (some l0)), (2, zi l2), (3, zi l3), (4, zi l4)] [] := by
  intro n
  induction n with
  | zero => intro l0 l2 l3 l4 s0 hf; exact absurd (show (none : Option (Unit × zS)) = some (r, sF) from hf) (fun z => nomatch z)
  | succ n ih => intro l0 l2 l3 l4 s0 hf; exact w_X8_bring_b32 hC hL hno hQ (f_X8_bring_l32 X.g.1 n) ih l0 l2 l3 l4 s0 hf
def f_X8_bring_b13 (G : Nat → Nat) (k13 : Nat → Int32 → Int32 → Int32 → zS → Option (Unit × zS)) (l0 : Nat) (l2 : Int32) (l3 : Int32) (l4 : Int32) (s0 : zS) : Option (Unit × zS) :=
if l2 ≤ l4 then (f_X8_bring_l32 G 2000 l0 l2 l3 l4 s0)
else (zo (zrc s0 (some l0) 6) fun _ =>
zb (f_X8_exchange G l0 l3 l4 s0) fun _ s5 =>
k13 l0 l2 l3 (l4 + 1) s5)
set_option maxHeartbeats 4000000 in
theorem w_X8_bring_b13 {X : zX} (hC : ZC X RX8 cX8_bring none 4 64) (hL : X.nL = 5) (hno : ∀ x ∈ X.c.exceptionTable.toList, False) {r : Unit} {sF : zS} (hQ : ZQ X (.inl none, sF)) (k13 : Nat → Int32 → Int32 → Int32 → zS → Option (Unit × zS)) (hk13 : ∀ (l0 : Nat) (l2 : Int32) (l3 : Int32) (l4 : Int32) (s0 : zS), k13 l0 l2 l3 l4 s0 = some (r, sF) → ZW X s0 13 [(0, zr (some l0)), (2, zi l2), (3, zi l3), (4, zi l4)] []) (l0 : Nat) (l2 : Int32) (l3 : Int32) (l4 : Int32) (s0 : zS) (hf : f_X8_bring_b13 X.g.1 k13 l0 l2 l3 l4 s0 = some (r, sF)) : ZW X s0 13 [(0, zr (some l0)), (2, zi l2), (3, zi l3), (4, zi l4)] [] := by
  unfold f_X8_bring_b13 at hf
  refine z_iload hC (pc := 13) dX8_bring_13 3 rfl ?_
  refine z_iload_n hC (pc := 15) dX8_bring_15 rfl 1 rfl ?_
  refine z_icmp_ge hC (pc := 16) (tgt := 32) dX8_bring_16 rfl (fun c1 => ?_) (fun c1 => ?_)
  · have hf := zif_t hf c1
    exact w_X8_bring_l32 hC hL hno hQ 2000 l0 l2 l3 l4 s0 hf
  · have hf := zif_f hf c1
    refine z_aload_n hC (pc := 19) dX8_bring_19 rfl 0 rfl ?_
    refine z_iload_n hC (pc := 20) dX8_bring_20 rfl 2 rfl ?_
    refine z_iload hC (pc := 21) dX8_bring_21 3 rfl ?_
    obtain ⟨fs2, ha3, hf⟩ := z_rcN hf
    refine z_cU (rest := []) hf (fun v4 s5 hcall => z_runV hC (pc := 23) zcX8 2 ha3 (m_X8_exchange X.g l0 l3 l4 s0 s5 v4 hcall) (lw_V q3059 q3061 qs89 q108 q3062) hdV_X8_exchange ⟨(Nat.le_of_ble_eq_true rfl), (Nat.le_of_ble_eq_true rfl)⟩ rfl (Nat.le_of_ble_eq_true rfl) dX8_bring_23 rfl) (fun _ s5 hf => ?_)
    refine z_iinc (v := 1) (lv' := [(4, zi (l4 + 1)), (0, zr (some l0)), (2, zi l2), (3, zi l3)]) hC (pc := 26) hL dX8_bring_26 3 rfl zki_1 (Nat.le_of_ble_eq_true rfl) rfl ?_
    refine z_goto hC (pc := 29) (tgt := 13) dX8_bring_29 rfl ?_
    refine ZW.perm (lv' := [(0, zr (some l0)), (2, zi l2), (3, zi l3), (4, zi (l4 + 1))]) [1, 2, 3, 0] rfl ?_
    exact hk13 l0 l2 l3 (l4 + 1) s5 hf
def f_X8_bring_l13 (G : Nat → Nat) : Nat → Nat → Int32 → Int32 → Int32 → zS → Option (Unit × zS)
  | 0 => fun _ _ _ _ _ => none
  | n + 1 => f_X8_bring_b13 G (f_X8_bring_l13 G n)
theorem w_X8_bring_l13 {X : zX} (hC : ZC X RX8 cX8_bring none 4 64) (hL : X.nL = 5) (hno : ∀ x ∈ X.c.exceptionTable.toList, False) {r : Unit} {sF : zS} (hQ : ZQ X (.inl none, sF)) : ∀ (n : Nat) (l0 : Nat) (l2 : Int32) (l3 : Int32) (l4 : Int32) (s0 : zS) (_ : f_X8_bring_l13 X.g.1 n l0 l2 l3 l4 s0 = some (r, sF)), ZW X s0 13 [(0, zr (some l0)), (2, zi l2), (3, zi l3), (4, zi l4)] [] := by
  intro n
  induction n with
  | zero => intro l0 l2 l3 l4 s0 hf; exact absurd (show (none : Option (Unit × zS)) = some (r, sF) from hf) (fun z => nomatch z)
  | succ n ih => intro l0 l2 l3 l4 s0 hf; exact w_X8_bring_b13 hC hL hno hQ (f_X8_bring_l13 X.g.1 n) ih l0 l2 l3 l4 s0 hf
def f_X8_bring (G : Nat → Nat) (l0 : Nat) (l1 : Int32) (l2 : Int32) (s0 : zS) : Option (Unit × zS) :=
zo (zrc s0 (some l0) 6) fun _ =>
zb (f_X8_machineOf G l0 l1 s0) fun v3 s4 =>
zo (zrc s4 (some l0) 6) fun _ =>
zb (f_X8_placeOf G l0 l1 s4) fun v7 s8 =>
f_X8_bring_l13 G 2000 l0 l2 v3 v7 s8
set_option maxHeartbeats 4000000 in
theorem m_X8_bring (Γ : zG) (l0 : Nat) (l1 : Int32) (l2 : Int32) (s0 s1 : zS) (r : Unit) (hf : f_X8_bring Γ.1 l0 l1 l2 s0 = some (r, s1)) : ZM Γ yX8_bring (ws_ yX8_bring cX8_bring 5 none) 4 64 [zr (some l0), zi l1, zi l2] s0 (.inl none, s1) := by
  refine ZM.of (own := RX8) (by decide) rfl (Nat.le_of_ble_eq_true rfl) ?_
  intro X hg hC hL hno hQ hin
  subst hg
  unfold f_X8_bring at hf
  refine z_aload_n hC (pc := 0) dX8_bring_0 rfl 0 rfl ?_
  refine z_iload_n hC (pc := 1) dX8_bring_1 rfl 1 rfl ?_
  obtain ⟨fs1, ha2, hf⟩ := z_rcN hf
  refine z_cI (rest := []) hf (fun v3 s4 hcall => z_runV hC (pc := 2) zcX8 1 ha2 (m_X8_machineOf X.g l0 l1 s0 s4 v3 hcall) (lw_V q2913 q2915 qs70 q108 q2916) hdV_X8_machineOf ⟨(Nat.le_of_ble_eq_true rfl), (Nat.le_of_ble_eq_true rfl)⟩ rfl (Nat.le_of_ble_eq_true rfl) dX8_bring_2 rfl) (fun v3 s4 hf => ?_)
  refine z_istore_n (lv' := [(3, zi v3), (0, zr (some l0)), (1, zi l1), (2, zi l2)]) hC (pc := 5) hL dX8_bring_5 rfl (Nat.le_of_ble_eq_true rfl) rfl ?_
  refine z_aload_n hC (pc := 6) dX8_bring_6 rfl 1 rfl ?_
  refine z_iload_n hC (pc := 7) dX8_bring_7 rfl 2 rfl ?_
  obtain ⟨fs5, ha6, hf⟩ := z_rcN hf
  refine z_cI (rest := []) hf (fun v7 s8 hcall => z_runV hC (pc := 8) zcX8 1 ha6 (m_X8_placeOf X.g l0 l1 s4 s8 v7 hcall) (lw_V q2909 q2911 qs69 q108 q2912) hdV_X8_placeOf ⟨(Nat.le_of_ble_eq_true rfl), (Nat.le_of_ble_eq_true rfl)⟩ rfl (Nat.le_of_ble_eq_true rfl) dX8_bring_8 rfl) (fun v7 s8 hf => ?_)
  refine z_istore (lv' := [(4, zi v7), (3, zi v3), (0, zr (some l0)), (1, zi l1), (2, zi l2)]) hC (pc := 11) hL dX8_bring_11 (Nat.le_of_ble_eq_true rfl) rfl ?_
  refine ZW.perm (lv' := [(0, zr (some l0)), (2, zi l2), (3, zi v3), (4, zi v7)]) [2, 4, 1, 0] rfl ?_
  exact w_X8_bring_l13 hC hL hno hQ 2000 l0 l2 v3 v7 s8 hf
/-! BlockingShopModel.byteAt(I)I -/
def f_X8_byteAt (G : Nat → Nat) (l0 : Nat) (l1 : Int32) (s0 : zS) : Option (Int32 × zS) :=
zo (zgI s0 (some l0) 6 3) fun v1 =>
if v1 ≤ l1 then (some ((-1), s0))
else (zo (zgR s0 (some l0) 6 1) fun v3 =>
zo (zaI s0 v3 0 l1) fun v4 =>
some (v4, s0))
set_option maxHeartbeats 4000000 in
theorem m_X8_byteAt (Γ : zG) (l0 : Nat) (l1 : Int32) (s0 s1 : zS) (r : Int32) (hf : f_X8_byteAt Γ.1 l0 l1 s0 = some (r, s1)) : ZM Γ yX8_byteAt (ws_ yX8_byteAt cX8_byteAt 2 (some .int)) 1 0 [zr (some l0), zi l1] s0 (.inl (some (zi r)), s1) := by
  refine ZM.of (own := RX8) (by decide) rfl (Nat.le_of_ble_eq_true rfl) ?_
  intro X hg hC hL hno hQ hin
  subst hg
  unfold f_X8_byteAt at hf
  refine z_iload_n hC (pc := 0) dX8_byteAt_0 rfl 1 rfl ?_
  refine z_aload_n hC (pc := 1) dX8_byteAt_1 rfl 0 rfl ?_
  refine z_getI hC (pc := 2) in_X8 zcX8 3 (Nat.le_of_ble_eq_true rfl) (zLk.o hC q2676) zsm dX8_byteAt_2 hf (fun v1 hf => ?_)
  refine z_icmp_ge hC (pc := 5) (tgt := 17) dX8_byteAt_5 rfl (fun c2 => ?_) (fun c2 => ?_)
  · have hf := zif_t hf c2
    refine z_iconst (v := (-1)) hC (pc := 17) dX8_byteAt_17 zki_m1 ?_
    exact z_ireturn hC (pc := 18) hQ dX8_byteAt_18 hf
  · have hf := zif_f hf c2
    refine z_aload_n hC (pc := 8) dX8_byteAt_8 rfl 0 rfl ?_
    refine z_getR hC (pc := 9) in_X8 zcX8 1 (Nat.le_of_ble_eq_true rfl) (zLk.o hC q2674) zsm dX8_byteAt_9 hf (fun v3 hf => ?_)
    refine z_iload_n hC (pc := 12) dX8_byteAt_12 rfl 1 rfl ?_
    refine z_iald hC (pc := 13) dX8_byteAt_13 hf (fun v4 hf => ?_)
    refine z_goto hC (pc := 14) (tgt := 18) dX8_byteAt_14 rfl ?_
    exact z_ireturn hC (pc := 18) hQ dX8_byteAt_18 hf
/-! BlockingShopModel.spanNow()I -/
def f_X8_spanNow (G : Nat → Nat) (l0 : Nat) (s0 : zS) : Option (Int32 × zS) :=
zo (zrc s0 (some l0) 6) fun _ =>
zb (f_X8_findStarts G l0 s0) fun v3 s4 =>
if v3 = 0 then (some (0, s4))
else (zo (zrc s4 (some l0) 6) fun _ =>
zb (f_X8_makespanOf G l0 s4) fun v8 s9 =>
some (v8, s9))
set_option maxHeartbeats 4000000 in
theorem m_X8_spanNow (Γ : zG) (l0 : Nat) (s0 s1 : zS) (r : Int32) (hf : f_X8_spanNow Γ.1 l0 s0 = some (r, s1)) : ZM Γ yX8_spanNow (ws_ yX8_spanNow cX8_spanNow 1 (some .int)) 6 110 [zr (some l0)] s0 (.inl (some (zi r)), s1) := by
  refine ZM.of (own := RX8) (by decide) rfl (Nat.le_of_ble_eq_true rfl) ?_
  intro X hg hC hL hno hQ hin
  subst hg
  unfold f_X8_spanNow at hf
  refine z_aload_n hC (pc := 0) dX8_spanNow_0 rfl 0 rfl ?_
  obtain ⟨fs1, ha2, hf⟩ := z_rcN hf
  refine z_cI (rest := []) hf (fun v3 s4 hcall => z_runV hC (pc := 1) zcX8 0 ha2 (m_X8_findStarts X.g l0 s0 s4 v3 hcall) (lw_V q2936 q2938 qs72 q108 q2939) hdV_X8_findStarts ⟨(Nat.le_of_ble_eq_true rfl), (Nat.le_of_ble_eq_true rfl)⟩ rfl (Nat.le_of_ble_eq_true rfl) dX8_spanNow_1 rfl) (fun v3 s4 hf => ?_)
  refine z_if_eq hC (pc := 4) (tgt := 14) dX8_spanNow_4 rfl (fun c5 => ?_) (fun c5 => ?_)
  · have hf := zif_t hf c5
    refine z_iconst (v := 0) hC (pc := 14) dX8_spanNow_14 zki_0 ?_
    exact z_ireturn hC (pc := 15) hQ dX8_spanNow_15 hf
  · have hf := zif_f hf c5
    refine z_aload_n hC (pc := 7) dX8_spanNow_7 rfl 0 rfl ?_
    obtain ⟨fs6, ha7, hf⟩ := z_rcN hf
    refine z_cI (rest := []) hf (fun v8 s9 hcall => z_runV hC (pc := 8) zcX8 0 ha7 (m_X8_makespanOf X.g l0 s4 s9 v8 hcall) (lw_V q2991 q2993 qs82 q108 q2994) hdV_X8_makespanOf ⟨(Nat.le_of_ble_eq_true rfl), (Nat.le_of_ble_eq_true rfl)⟩ rfl (Nat.le_of_ble_eq_true rfl) dX8_spanNow_8 rfl) (fun v8 s9 hf => ?_)
    refine z_goto hC (pc := 11) (tgt := 15) dX8_spanNow_11 rfl ?_
    exact z_ireturn hC (pc := 15) hQ dX8_spanNow_15 hf
/-! BlockingShopModel.told(I)I -/
def f_X8_told (G : Nat → Nat) (l0 : Int32) (s0 : zS) : Option (Int32 × zS) :=
some (((10 * (l0 / 6)) + (l0 - l0 / 6 * 6)), s0)
set_option maxHeartbeats 4000000 in
theorem m_X8_told (Γ : zG) (l0 : Int32) (s0 s1 : zS) (r : Int32) (hf : f_X8_told Γ.1 l0 s0 = some (r, s1)) : ZM Γ yX8_told (ws_ yX8_told cX8_told 1 (some .int)) 1 0 [zi l0] s0 (.inl (some (zi r)), s1) := by
  refine ZM.of (own := RX8) (by decide) rfl (Nat.le_of_ble_eq_true rfl) ?_
  intro X hg hC hL hno hQ hin
  subst hg
  unfold f_X8_told at hf
  refine z_bipush (v := 10) hC (pc := 0) dX8_told_0 zkb_10 ?_
  refine z_iload_n hC (pc := 2) dX8_told_2 rfl 0 rfl ?_
  refine z_bipush (v := 6) hC (pc := 3) dX8_told_3 zkb_6 ?_
  refine z_idiv hC (pc := 5) dX8_told_5 (by decide) ?_
  refine z_imul hC (pc := 6) dX8_told_6 ?_
  refine z_iload_n hC (pc := 7) dX8_told_7 rfl 0 rfl ?_
  refine z_bipush (v := 6) hC (pc := 8) dX8_told_8 zkb_6 ?_
  refine z_irem hC (pc := 10) dX8_told_10 (by decide) ?_
  refine z_iadd hC (pc := 11) dX8_told_11 ?_
  exact z_ireturn hC (pc := 12) hQ dX8_told_12 hf
/-! BlockingShopModel.checksum()J -/
def f_X8_checksum_b38 (G : Nat → Nat) (k25 : Nat → Int64 → Int32 → zS → Option (Int64 × zS)) (k38 : Nat → Int64 → Int32 → Int32 → zS → Option (Int64 × zS)) (l0 : Nat) (l1 : Int64) (l3 : Int32) (l4 : Int32) (s0 : zS) : Option (Int64 × zS) :=
zo (zgR s0 (some l0) 6 8) fun v1 =>
zb (f_X8_machine G l3 s0) fun v2 s3 =>
zo (zaI s3 v1 0 (v2 + 2)) fun v4 =>
if v4 ≤ l4 then (k25 l0 l1 (l3 + 1) s3)
else (zo (zgR s3 (some l0) 6 8) fun v6 =>
zb (f_X8_machine G l3 s3) fun v7 s8 =>
zo (zaI s8 v6 0 ((v7 + 3) + l4)) fun v9 =>
zb (f_X8_told G v9 s8) fun v10 s11 =>
k38 l0 ((31 * l1) + (v10.toInt64)) l3 (l4 + 1) s11)
set_option maxHeartbeats 4000000 in
theorem w_X8_checksum_b38 {X : zX} (hC : ZC X RX8 cX8_checksum (some .long) 7 130) (hL : X.nL = 5) (hno : ∀ x ∈ X.c.exceptionTable.toList, False) {r : Int64} {sF : zS} (hQ : ZQ X (.inl (some (zj r)), sF)) (k25 : Nat → Int64 → Int32 → zS → Option (Int64 × zS)) (hk25 : ∀ (l0 : Nat) (l1 : Int64) (l3 : Int32) (s0 : zS), k25 l0 l1 l3 s0 = some (r, sF) → ZW X s0 25 [(0, zr (some l0)), (1, zj l1), (3, zi l3)] []) (k38 : Nat → Int64 → Int32 → Int32 → zS → Option (Int64 × zS)) (hk38 : ∀ (l0 : Nat) (l1 : Int64) (l3 : Int32) (l4 : Int32) (s0 : zS), k38 l0 l1 l3 l4 s0 = some (r, sF) → ZW X s0 38 [(0, zr (some l0)), (1, zj l1), (3, zi l3), (4, zi l4)] []) (l0 : Nat) (l1 : Int64) (l3 : Int32) (l4 : Int32) (s0 : zS) (hf : f_X8_checksum_b38 X.g.1 k25 k38 l0 l1 l3 l4 s0 = some (r, sF)) : ZW X s0 38 [(0, zr (some l0)), (1, zj l1), (3, zi l3), (4, zi l4)] [] := by
  unfold f_X8_checksum_b38 at hf
  refine z_iload hC (pc := 38) dX8_checksum_38 3 rfl ?_
  refine z_aload_n hC (pc := 40) dX8_checksum_40 rfl 0 rfl ?_
  refine z_getR hC (pc := 41) in_X8 zcX8 8 (Nat.le_of_ble_eq_true rfl) (zLk.o hC q2681) zsm dX8_checksum_41 hf (fun v1 hf => ?_)
  refine z_iload_n hC (pc := 44) dX8_checksum_44 rfl 2 rfl ?_
  refine z_cI (rest := [zr v1, zi l4]) hf (fun v2 s3 hcall => z_runS hC (pc := 45) 1 (m_X8_machine X.g l3 s0 s3 v2 hcall) (lw_S q2842 q2843 q108 q2844) hd_X8_machine ⟨(Nat.le_of_ble_eq_true rfl), (Nat.le_of_ble_eq_true rfl)⟩ rfl (Nat.le_of_ble_eq_true rfl) dX8_checksum_45 rfl) (fun v2 s3 hf => ?_)
  refine z_iconst (v := 2) hC (pc := 48) dX8_checksum_48 zki_2 ?_
  refine z_iadd hC (pc := 49) dX8_checksum_49 ?_
  refine z_iald hC (pc := 50) dX8_checksum_50 hf (fun v4 hf => ?_)
  refine z_icmp_ge hC (pc := 51) (tgt := 85) dX8_checksum_51 rfl (fun c5 => ?_) (fun c5 => ?_)
  · have hf := zif_t hf c5
    refine z_iinc (v := 1) (lv' := [(3, zi (l3 + 1)), (0, zr (some l0)), (1, zj l1), (4, zi l4)]) hC (pc := 85) hL dX8_checksum_85 2 rfl zki_1 (Nat.le_of_ble_eq_true rfl) rfl ?_
    refine z_goto hC (pc := 88) (tgt := 25) dX8_checksum_88 rfl ?_
    refine ZW.perm (lv' := [(0, zr (some l0)), (1, zj l1), (3, zi (l3 + 1))]) [1, 2, 0] rfl ?_
    exact hk25 l0 l1 (l3 + 1) s3 hf
  · have hf := zif_f hf c5
    refine z_ldc2 (v := 31) hC (pc := 54) q3118 dX8_checksum_54 ?_
    refine z_lload_n hC (pc := 57) dX8_checksum_57 rfl 1 rfl ?_
    refine z_lmul hC (pc := 58) dX8_checksum_58 ?_
    refine z_aload_n hC (pc := 59) dX8_checksum_59 rfl 0 rfl ?_
    refine z_getR hC (pc := 60) in_X8 zcX8 8 (Nat.le_of_ble_eq_true rfl) (zLk.o hC q2681) zsm dX8_checksum_60 hf (fun v6 hf => ?_)
    refine z_iload_n hC (pc := 63) dX8_checksum_63 rfl 2 rfl ?_
    refine z_cI (rest := [zr v6, zj (31 * l1)]) hf (fun v7 s8 hcall => z_runS hC (pc := 64) 1 (m_X8_machine X.g l3 s3 s8 v7 hcall) (lw_S q2842 q2843 q108 q2844) hd_X8_machine ⟨(Nat.le_of_ble_eq_true rfl), (Nat.le_of_ble_eq_true rfl)⟩ rfl (Nat.le_of_ble_eq_true rfl) dX8_checksum_64 rfl) (fun v7 s8 hf => ?_)
    refine z_iconst (v := 3) hC (pc := 67) dX8_checksum_67 zki_3 ?_
    refine z_iadd hC (pc := 68) dX8_checksum_68 ?_
    refine z_iload hC (pc := 69) dX8_checksum_69 3 rfl ?_
    refine z_iadd hC (pc := 71) dX8_checksum_71 ?_
    refine z_iald hC (pc := 72) dX8_checksum_72 hf (fun v9 hf => ?_)
    refine z_cI (rest := [zj (31 * l1)]) hf (fun v10 s11 hcall => z_runS hC (pc := 73) 1 (m_X8_told X.g v9 s8 s11 v10 hcall) (lw_S q2929 q2930 q108 q2931) hd_X8_told ⟨(Nat.le_of_ble_eq_true rfl), (Nat.le_of_ble_eq_true rfl)⟩ rfl (Nat.le_of_ble_eq_true rfl) dX8_checksum_73 rfl) (fun v10 s11 hf => ?_)
    refine z_i2l hC (pc := 76) dX8_checksum_76 ?_
    refine z_ladd hC (pc := 77) dX8_checksum_77 ?_
    refine z_lstore_n (lv' := [(1, zj ((31 * l1) + (v10.toInt64))), (0, zr (some l0)), (3, zi l3), (4, zi l4)]) hC (pc := 78) hL dX8_checksum_78 rfl (Nat.le_of_ble_eq_true rfl) rfl ?_
    refine z_iinc (v := 1) (lv' := [(4, zi (l4 + 1)), (1, zj ((31 * l1) + (v10.toInt64))), (0, zr (some l0)), (3, zi l3)]) hC (pc := 79) hL dX8_checksum_79 3 rfl zki_1 (Nat.le_of_ble_eq_true rfl) rfl ?_
    refine z_goto hC (pc := 82) (tgt := 38) dX8_checksum_82 rfl ?_
    refine ZW.perm (lv' := [(0, zr (some l0)), (1, zj ((31 * l1) + (v10.toInt64))), (3, zi l3), (4, zi (l4 + 1))]) [2, 1, 3, 0] rfl ?_
    exact hk38 l0 ((31 * l1) + (v10.toInt64)) l3 (l4 + 1) s11 hf
def f_X8_checksum_l38 (G : Nat → Nat) (k25 : Nat → Int64 → Int32 → zS → Option (Int64 × zS)) : Nat → Nat → Int64 → Int32 → Int32 → zS → Option (Int64 × zS)
  | 0 => fun _ _ _ _ _ => none
  | n + 1 => f_X8_checksum_b38 G k25 (f_X8_checksum_l38 G k25 n)
theorem w_X8_checksum_l38 {X : zX} (hC : ZC X RX8 cX8_checksum (some .long) 7 130) (hL : X.nL = 5) (hno : ∀ x ∈ X.c.exceptionTable.toList, False) {r : Int64} {sF : zS} (hQ : ZQ X (.inl (some (zj r)), sF)) (k25 : Nat → Int64 → Int32 → zS → Option (Int64 × zS)) (hk25 : ∀ (l0 : Nat) (l1 : Int64) (l3 : Int32) (s0 : zS), k25 l0 l1 l3 s0 = some (r, sF) → ZW X s0 25 [(0, zr (some l0)), (1, zj l1), (3, zi l3)] []) : ∀ (n : Nat) (l0 : Nat) (l1 : Int64) (l3 : Int32) (l4 : Int32) (s0 : zS) (_ : f_X8_checksum_l38 X.g.1 k25 n l0 l1 l3 l4 s0 = some (r, sF)), ZW X s0 38 [(0, zr (some l0)), (1, zj l1), (3, zi l3), (4, zi l4)] [] := by
  intro n
  induction n with
  | zero => intro l0 l1 l3 l4 s0 hf; exact absurd (show (none : Option (Int64 × zS)) = some (r, sF) from hf) (fun z => nomatch z)
  | succ n ih => intro l0 l1 l3 l4 s0 hf; exact w_X8_checksum_b38 hC hL hno hQ k25 hk25 (f_X8_checksum_l38 X.g.1 k25 n) ih l0 l1 l3 l4 s0 hf
def f_X8_checksum_b121 (G : Nat → Nat) (k93 : Nat → Int64 → Int32 → zS → Option (Int64 × zS)) (l0 : Nat) (l1 : Int64) (l3 : Int32) (s0 : zS) : Option (Int64 × zS) :=
k93 l0 l1 (l3 + 1) s0
set_option maxHeartbeats 4000000 in
theorem w_X8_checksum_b121 {X : zX} (hC : ZC X RX8 cX8_checksum (some .long) 7 130) (hL : X.nL = 5) (hno : ∀ x ∈ X.c.exceptionTable.toList, False) {r : Int64} {sF : zS} (hQ : ZQ X (.inl (some (zj r)), sF)) (k93 : Nat → Int64 → Int32 → zS → Option (Int64 × zS)) (hk93 : ∀ (l0 : Nat) (l1 : Int64) (l3 : Int32) (s0 : zS), k93 l0 l1 l3 s0 = some (r, sF) → ZW X s0 93 [(0, zr (some l0)), (1, zj l1), (3, zi l3)] []) (l0 : Nat) (l1 : Int64) (l3 : Int32) (s0 : zS) (hf : f_X8_checksum_b121 X.g.1 k93 l0 l1 l3 s0 = some (r, sF)) : ZW X s0 121 [(0, zr (some l0)), (1, zj l1), (3, zi l3)] [] := by
  unfold f_X8_checksum_b121 at hf
  refine z_iinc (v := 1) (lv' := [(3, zi (l3 + 1)), (0, zr (some l0)), (1, zj l1)]) hC (pc := 121) hL dX8_checksum_121 2 rfl zki_1 (Nat.le_of_ble_eq_true rfl) rfl ?_
  refine z_goto hC (pc := 124) (tgt := 93) dX8_checksum_124 rfl ?_
  refine ZW.perm (lv' := [(0, zr (some l0)), (1, zj l1), (3, zi (l3 + 1))]) [1, 2, 0] rfl ?_
  exact hk93 l0 l1 (l3 + 1) s0 hf
def f_X8_checksum_b93 (G : Nat → Nat) (k93 : Nat → Int64 → Int32 → zS → Option (Int64 × zS)) (l0 : Nat) (l1 : Int64) (l3 : Int32) (s0 : zS) : Option (Int64 × zS) :=
if 36 ≤ l3 then (some (l1, s0))
else (zo (zrc s0 (some l0) 6) fun _ =>
zb (f_X8_isThere G l0 l3 s0) fun v4 s5 =>
if v4 = 0 then (f_X8_checksum_b121 G k93 l0 l1 l3 s5)
else (zo (zgR s5 (some l0) 6 18) fun v7 =>
zo (zaI s5 v7 0 l3) fun v8 =>
f_X8_checksum_b121 G k93 l0 ((31 * l1) + (v8.toInt64)) l3 s5))
set_option maxHeartbeats 4000000 in
theorem w_X8_checksum_b93 {X : zX} (hC : ZC X RX8 cX8_checksum (some .long) 7 130) (hL : X.nL = 5) (hno : ∀ x ∈ X.c.exceptionTable.toList, False) {r : Int64} {sF : zS} (hQ : ZQ X (.inl (some (zj r)), sF)) (k93 : Nat → Int64 → Int32 → zS → Option (Int64 × zS)) (hk93 : ∀ (l0 : Nat) (l1 : Int64) (l3 : Int32) (s0 : zS), k93 l0 l1 l3 s0 = some (r, sF) → ZW X s0 93 [(0, zr (some l0)), (1, zj l1), (3, zi l3)] []) (l0 : Nat) (l1 : Int64) (l3 : Int32) (s0 : zS) (hf : f_X8_checksum_b93 X.g.1 k93 l0 l1 l3 s0 = some (r, sF)) : ZW X s0 93 [(0, zr (some l0)), (1, zj l1), (3, zi l3)] [] := by
  unfold f_X8_checksum_b93 at hf
  refine z_iload_n hC (pc := 93) dX8_checksum_93 rfl 2 rfl ?_
  refine z_bipush (v := 36) hC (pc := 94) dX8_checksum_94 zkb_36 ?_
  refine z_icmp_ge hC (pc := 96) (tgt := 127) dX8_checksum_96 rfl (fun c1 => ?_) (fun c1 => ?_)
  · have hf := zif_t hf c1
    refine z_lload_n hC (pc := 127) dX8_checksum_127 rfl 1 rfl ?_
    exact z_lreturn hC (pc := 128) hQ dX8_checksum_128 hf
  · have hf := zif_f hf c1
    refine z_aload_n hC (pc := 99) dX8_checksum_99 rfl 0 rfl ?_
    refine z_iload_n hC (pc := 100) dX8_checksum_100 rfl 2 rfl ?_
    obtain ⟨fs2, ha3, hf⟩ := z_rcN hf
    refine z_cI (rest := []) hf (fun v4 s5 hcall => z_runV hC (pc := 101) zcX8 1 ha3 (m_X8_isThere X.g l0 l3 s0 s5 v4 hcall) (lw_V q2956 q2958 qs77 q108 q2959) hdV_X8_isThere ⟨(Nat.le_of_ble_eq_true rfl), (Nat.le_of_ble_eq_true rfl)⟩ rfl (Nat.le_of_ble_eq_true rfl) dX8_checksum_101 rfl) (fun v4 s5 hf => ?_)
    refine z_if_eq hC (pc := 104) (tgt := 121) dX8_checksum_104 rfl (fun c6 => ?_) (fun c6 => ?_)
    · have hf := zif_t hf c6
      exact w_X8_checksum_b121 hC hL hno hQ k93 hk93 l0 l1 l3 s5 hf
    · have hf := zif_f hf c6
      refine z_ldc2 (v := 31) hC (pc := 107) q3118 dX8_checksum_107 ?_
      refine z_lload_n hC (pc := 110) dX8_checksum_110 rfl 1 rfl ?_
      refine z_lmul hC (pc := 111) dX8_checksum_111 ?_
      refine z_aload_n hC (pc := 112) dX8_checksum_112 rfl 0 rfl ?_
      refine z_getR hC (pc := 113) in_X8 zcX8 18 (Nat.le_of_ble_eq_true rfl) (zLk.o hC q2691) zsm dX8_checksum_113 hf (fun v7 hf => ?_)
      refine z_iload_n hC (pc := 116) dX8_checksum_116 rfl 2 rfl ?_
      refine z_iald hC (pc := 117) dX8_checksum_117 hf (fun v8 hf => ?_)
      refine z_i2l hC (pc := 118) dX8_checksum_118 ?_
      refine z_ladd hC (pc := 119) dX8_checksum_119 ?_
      refine z_lstore_n (lv' := [(1, zj ((31 * l1) + (v8.toInt64))), (0, zr (some l0)), (3, zi l3)]) hC (pc := 120) hL dX8_checksum_120 rfl (Nat.le_of_ble_eq_true rfl) rfl ?_
      refine ZW.perm (lv' := [(0, zr (some l0)), (1, zj ((31 * l1) + (v8.toInt64))), (3, zi l3)]) [1, 0, 2] rfl ?_
      exact w_X8_checksum_b121 hC hL hno hQ k93 hk93 l0 ((31 * l1) + (v8.toInt64)) l3 s5 hf
def f_X8_checksum_l93 (G : Nat → Nat) : Nat → Nat → Int64 → Int32 → zS → Option (Int64 × zS)
  | 0 => fun _ _ _ _ => none
  | n + 1 => f_X8_checksum_b93 G (f_X8_checksum_l93 G n)
theorem w_X8_checksum_l93 {X : zX} (hC : ZC X RX8 cX8_checksum (some .long) 7 130) (hL : X.nL = 5) (hno : ∀ x ∈ X.c.exceptionTable.toList, False) {r : Int64} {sF : zS} (hQ : ZQ X (.inl (some (zj r)), sF)) : ∀ (n : Nat) (l0 : Nat) (l1 : Int64) (l3 : Int32) (s0 : zS) (_ : f_X8_checksum_l93 X.g.1 n l0 l1 l3 s0 = some (r, sF)), ZW X s0 93 [(0, zr (some l0)), (1, zj l1), (3, zi l3)] [] := by
  intro n
  induction n with
  | zero => intro l0 l1 l3 s0 hf; exact absurd (show (none : Option (Int64 × zS)) = some (r, sF) from hf) (fun z => nomatch z)
  | succ n ih => intro l0 l1 l3 s0 hf; exact w_X8_checksum_b93 hC hL hno hQ (f_X8_checksum_l93 X.g.1 n) ih l0 l1 l3 s0 hf
def f_X8_checksum_b25 (G : Nat → Nat) (k25 : Nat → Int64 → Int32 → zS → Option (Int64 × zS)) (l0 : Nat) (l1 : Int64) (l3 : Int32) (s0 : zS) : Option (Int64 × zS) :=
zo (zgR s0 (some l0) 6 8) fun v1 =>
zo (zaI s0 v1 0 0) fun v2 =>
if v2 ≤ l3 then (f_X8_checksum_l93 G 2000 l0 l1 0 s0)
else (f_X8_checksum_l38 G k25 2000 l0 l1 l3 0 s0)
set_option maxHeartbeats 4000000 in
theorem w_X8_checksum_b25 {X : zX} (hC : ZC X RX8 cX8_checksum (some .long) 7 130) (hL : X.nL = 5) (hno : ∀ x ∈ X.c.exceptionTable.toList, False) {r : Int64} {sF : zS} (hQ : ZQ X (.inl (some (zj r)), sF)) (k25 : Nat → Int64 → Int32 → zS → Option (Int64 × zS)) (hk25 : ∀ (l0 : Nat) (l1 : Int64) (l3 : Int32) (s0 : zS), k25 l0 l1 l3 s0 = some (r, sF) → ZW X s0 25 [(0, zr (some l0)), (1, zj l1), (3, zi l3)] []) (l0 : Nat) (l1 : Int64) (l3 : Int32) (s0 : zS) (hf : f_X8_checksum_b25 X.g.1 k25 l0 l1 l3 s0 = some (r, sF)) : ZW X s0 25 [(0, zr (some l0)), (1, zj l1), (3, zi l3)] [] := by
  unfold f_X8_checksum_b25 at hf
  refine z_iload_n hC (pc := 25) dX8_checksum_25 rfl 2 rfl ?_
  refine z_aload_n hC (pc := 26) dX8_checksum_26 rfl 0 rfl ?_
  refine z_getR hC (pc := 27) in_X8 zcX8 8 (Nat.le_of_ble_eq_true rfl) (zLk.o hC q2681) zsm dX8_checksum_27 hf (fun v1 hf => ?_)
  refine z_iconst (v := 0) hC (pc := 30) dX8_checksum_30 zki_0 ?_
  refine z_iald hC (pc := 31) dX8_checksum_31 hf (fun v2 hf => ?_)
  refine z_icmp_ge hC (pc := 32) (tgt := 91) dX8_checksum_32 rfl (fun c3 => ?_) (fun c3 => ?_)
  · have hf := zif_t hf c3
    refine z_iconst (v := 0) hC (pc := 91) dX8_checksum_91 zki_0 ?_
    refine z_istore_n (lv' := [(3, zi 0), (0, zr (some l0)), (1, zj l1)]) hC (pc := 92) hL dX8_checksum_92 rfl (Nat.le_of_ble_eq_true rfl) rfl ?_
    refine ZW.perm (lv' := [(0, zr (some l0)), (1, zj l1), (3, zi 0)]) [1, 2, 0] rfl ?_
    exact w_X8_checksum_l93 hC hL hno hQ 2000 l0 l1 0 s0 hf
  · have hf := zif_f hf c3
    refine z_iconst (v := 0) hC (pc := 35) dX8_checksum_35 zki_0 ?_
    refine z_istore (lv' := [(4, zi 0), (0, zr (some l0)), (1, zj l1), (3, zi l3)]) hC (pc := 36) hL dX8_checksum_36 (Nat.le_of_ble_eq_true rfl) rfl ?_
    refine ZW.perm (lv' := [(0, zr (some l0)), (1, zj l1), (3, zi l3), (4, zi 0)]) [1, 2, 3, 0] rfl ?_
    exact w_X8_checksum_l38 hC hL hno hQ k25 hk25 2000 l0 l1 l3 0 s0 hf
def f_X8_checksum_l25 (G : Nat → Nat) : Nat → Nat → Int64 → Int32 → zS → Option (Int64 × zS)
  | 0 => fun _ _ _ _ => none
  | n + 1 => f_X8_checksum_b25 G (f_X8_checksum_l25 G n)
theorem w_X8_checksum_l25 {X : zX} (hC : ZC X RX8 cX8_checksum (some .long) 7 130) (hL : X.nL = 5) (hno : ∀ x ∈ X.c.exceptionTable.toList, False) {r : Int64} {sF : zS} (hQ : ZQ X (.inl (some (zj r)), sF)) : ∀ (n : Nat) (l0 : Nat) (l1 : Int64) (l3 : Int32) (s0 : zS) (_ : f_X8_checksum_l25 X.g.1 n l0 l1 l3 s0 = some (r, sF)), ZW X s0 25 [(0, zr (some l0)), (1, zj l1), (3, zi l3)] [] := by
  intro n
  induction n with
  | zero => intro l0 l1 l3 s0 hf; exact absurd (show (none : Option (Int64 × zS)) = some (r, sF) from hf) (fun z => nomatch z)
  | succ n ih => intro l0 l1 l3 s0 hf; exact w_X8_checksum_b25 hC hL hno hQ (f_X8_checksum_l25 X.g.1 n) ih l0 l1 l3 s0 hf
def f_X8_checksum (G : Nat → Nat) (l0 : Nat) (s0 : zS) : Option (Int64 × zS) :=
zo (zput G s0 (some l0) 6 0 (.int 0)) fun s1 =>
zo (zrc s1 (some l0) 6) fun _ =>
zb (f_X8_spanNow G l0 s1) fun v4 s5 =>
zo (zrc s5 (some l0) 6) fun _ =>
zb (f_X8_costOfPlan G l0 s5) fun v8 s9 =>
f_X8_checksum_l25 G 2000 l0 ((31 * (v4.toInt64)) + (v8.toInt64)) 0 s9
set_option maxHeartbeats 4000000 in
theorem m_X8_checksum (Γ : zG) (l0 : Nat) (s0 s1 : zS) (r : Int64) (hf : f_X8_checksum Γ.1 l0 s0 = some (r, s1)) : ZM Γ yX8_checksum (ws_ yX8_checksum cX8_checksum 5 (some .long)) 7 130 [zr (some l0)] s0 (.inl (some (zj r)), s1) := by
  refine ZM.of (own := RX8) (by decide) rfl (Nat.le_of_ble_eq_true rfl) ?_
  intro X hg hC hL hno hQ hin
  subst hg
  unfold f_X8_checksum at hf
  refine z_aload_n hC (pc := 0) dX8_checksum_0 rfl 0 rfl ?_
  refine z_iconst (v := 0) hC (pc := 1) dX8_checksum_1 zki_0 ?_
  refine z_putV (v := zi 0) hC (pc := 2) in_X8 tyX8 tyX8_ok nmX8 zcX8 0 (Nat.le_of_ble_eq_true rfl) (zLk.o hC q2673) zsm (Or.inl rfl) rfl rfl dX8_checksum_2 hf (fun s1 hf => ?_)
  refine z_aload_n hC (pc := 5) dX8_checksum_5 rfl 0 rfl ?_
  obtain ⟨fs2, ha3, hf⟩ := z_rcN hf
  refine z_cI (rest := []) hf (fun v4 s5 hcall => z_runV hC (pc := 6) zcX8 0 ha3 (m_X8_spanNow X.g l0 s1 s5 v4 hcall) (lw_V q2987 q2989 qs81 q108 q2990) hdV_X8_spanNow ⟨(Nat.le_of_ble_eq_true rfl), (Nat.le_of_ble_eq_true rfl)⟩ rfl (Nat.le_of_ble_eq_true rfl) dX8_checksum_6 rfl) (fun v4 s5 hf => ?_)
  refine z_i2l hC (pc := 9) dX8_checksum_9 ?_
  refine z_lstore_n (lv' := [(1, zj (v4.toInt64)), (0, zr (some l0))]) hC (pc := 10) hL dX8_checksum_10 rfl (Nat.le_of_ble_eq_true rfl) rfl ?_
  refine z_ldc2 (v := 31) hC (pc := 11) q3118 dX8_checksum_11 ?_
  refine z_lload_n hC (pc := 14) dX8_checksum_14 rfl 0 rfl ?_
  refine z_lmul hC (pc := 15) dX8_checksum_15 ?_
  refine z_aload_n hC (pc := 16) dX8_checksum_16 rfl 1 rfl ?_
  obtain ⟨fs6, ha7, hf⟩ := z_rcN hf
  refine z_cI (rest := [zj (31 * (v4.toInt64))]) hf (fun v8 s9 hcall => z_runV hC (pc := 17) zcX8 0 ha7 (m_X8_costOfPlan X.g l0 s5 s9 v8 hcall) (lw_V q3015 q3017 qs84 q108 q3018) hdV_X8_costOfPlan ⟨(Nat.le_of_ble_eq_true rfl), (Nat.le_of_ble_eq_true rfl)⟩ rfl (Nat.le_of_ble_eq_true rfl) dX8_checksum_17 rfl) (fun v8 s9 hf => ?_)
  refine z_i2l hC (pc := 20) dX8_checksum_20 ?_
  refine z_ladd hC (pc := 21) dX8_checksum_21 ?_
  refine z_lstore_n (lv' := [(1, zj ((31 * (v4.toInt64)) + (v8.toInt64))), (0, zr (some l0))]) hC (pc := 22) hL dX8_checksum_22 rfl (Nat.le_of_ble_eq_true rfl) rfl ?_
  refine z_iconst (v := 0) hC (pc := 23) dX8_checksum_23 zki_0 ?_
  refine z_istore_n (lv' := [(3, zi 0), (1, zj ((31 * (v4.toInt64)) + (v8.toInt64))), (0, zr (some l0))]) hC (pc := 24) hL dX8_checksum_24 rfl (Nat.le_of_ble_eq_true rfl) rfl ?_
  refine ZW.perm (lv' := [(0, zr (some l0)), (1, zj ((31 * (v4.toInt64)) + (v8.toInt64))), (3, zi 0)]) [2, 1, 0] rfl ?_
  exact w_X8_checksum_l25 hC hL hno hQ 2000 l0 ((31 * (v4.toInt64)) + (v8.toInt64)) 0 s9 hf
