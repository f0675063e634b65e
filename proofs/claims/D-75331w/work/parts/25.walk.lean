set_option maxRecDepth 100000
/-! BlockingShop$Plan.isBetter(LBlockingShop$Plan;)Z -/
def f_X3_isBetter (G : Nat → Nat) (l0 : Nat) (l1 : Option Nat) (s0 : zS) : Option (Int32 × zS) :=
zo (zrc s0 (some l0) 2) fun _ =>
zb (f_X3_makespan G l0 s0) fun v3 s4 =>
zo (zrc s4 l1 2) fun a7 =>
zb (f_X3_makespan G a7 s4) fun v8 s9 =>
if v3 < v8 then (zrn .boolean 1 s9)
else (zo (zrc s9 (some l0) 2) fun _ =>
zb (f_X3_makespan G l0 s9) fun v13 s14 =>
zo (zrc s14 (some a7) 2) fun _ =>
zb (f_X3_makespan G a7 s14) fun v17 s18 =>
if v13 = v17 then (zo (zrc s18 (some l0) 2) fun _ =>
zb (f_X3_cost G l0 s18) fun v22 s23 =>
zo (zrc s23 (some a7) 2) fun _ =>
zb (f_X3_cost G a7 s23) fun v26 s27 =>
if v26 ≤ v22 then (zrn .boolean 0 s27)
else (zrn .boolean 1 s27))
else (zrn .boolean 0 s18))
set_option maxHeartbeats 4000000 in
theorem m_X3_isBetter (Γ : zG) (l0 : Nat) (l1 : Option Nat) (s0 s1 : zS) (r : Int32) (hf : f_X3_isBetter Γ.1 l0 l1 s0 = some (r, s1)) : ZM Γ yX3_isBetter (ws_ yX3_isBetter cX3_isBetter 2 (some .boolean)) 3013 60174 [zr (some l0), zr l1] s0 (.inl (some (zi r)), s1) := by
  refine ZM.of (own := RX3) (by decide) rfl (Nat.le_of_ble_eq_true rfl) ?_
  intro X hg hC hL hno hQ hin
  subst hg
  unfold f_X3_isBetter at hf
  refine z_aload_n hC (pc := 0) dX3_isBetter_0 rfl 0 rfl ?_
  obtain ⟨fs1, ha2, hf⟩ := z_rcN hf
  refine z_cI (rest := []) hf (fun v3 s4 hcall => z_runV hC (pc := 1) zcX3 0 ha2 (m_X3_makespan X.g l0 s0 s4 v3 hcall) (lw_V q1896 q465 q466 q99 q467) hdV_X3_makespan ⟨(Nat.le_of_ble_eq_true rfl), (Nat.le_of_ble_eq_true rfl)⟩ rfl (Nat.le_of_ble_eq_true rfl) dX3_isBetter_1 rfl) (fun v3 s4 hf => ?_)
  refine z_aload_n hC (pc := 4) dX3_isBetter_4 rfl 1 rfl ?_
  obtain ⟨a7, fs5, rfl, ha6, hf⟩ := z_rcO hf
  refine z_cI (rest := [zi v3]) hf (fun v8 s9 hcall => z_runV hC (pc := 5) zcX3 0 ha6 (m_X3_makespan X.g a7 s4 s9 v8 hcall) (lw_V q1896 q465 q466 q99 q467) hdV_X3_makespan ⟨(Nat.le_of_ble_eq_true rfl), (Nat.le_of_ble_eq_true rfl)⟩ rfl (Nat.le_of_ble_eq_true rfl) dX3_isBetter_5 rfl) (fun v8 s9 hf => ?_)
  refine z_icmp_lt hC (pc := 8) (tgt := 33) dX3_isBetter_8 rfl (fun c10 => ?_) (fun c10 => ?_)
  · have hf := zif_t hf c10
    refine z_iconst (v := 1) hC (pc := 33) dX3_isBetter_33 zki_1 ?_
    refine z_goto hC (pc := 34) (tgt := 38) dX3_isBetter_34 rfl ?_
    exact z_zreturn hC (pc := 38) hQ dX3_isBetter_38 hf
  · have hf := zif_f hf c10
    refine z_aload_n hC (pc := 11) dX3_isBetter_11 rfl 0 rfl ?_
    obtain ⟨fs11, ha12, hf⟩ := z_rcN hf
    refine z_cI (rest := []) hf (fun v13 s14 hcall => z_runV hC (pc := 12) zcX3 0 ha12 (m_X3_makespan X.g l0 s9 s14 v13 hcall) (lw_V q1896 q465 q466 q99 q467) hdV_X3_makespan ⟨(Nat.le_of_ble_eq_true rfl), (Nat.le_of_ble_eq_true rfl)⟩ rfl (Nat.le_of_ble_eq_true rfl) dX3_isBetter_12 rfl) (fun v13 s14 hf => ?_)
    refine z_aload_n hC (pc := 15) dX3_isBetter_15 rfl 1 rfl ?_
    obtain ⟨fs15, ha16, hf⟩ := z_rcN hf
    refine z_cI (rest := [zi v13]) hf (fun v17 s18 hcall => z_runV hC (pc := 16) zcX3 0 ha16 (m_X3_makespan X.g a7 s14 s18 v17 hcall) (lw_V q1896 q465 q466 q99 q467) hdV_X3_makespan ⟨(Nat.le_of_ble_eq_true rfl), (Nat.le_of_ble_eq_true rfl)⟩ rfl (Nat.le_of_ble_eq_true rfl) dX3_isBetter_16 rfl) (fun v17 s18 hf => ?_)
    refine z_icmp_ne hC (pc := 19) (tgt := 37) dX3_isBetter_19 rfl (fun c19 => ?_) (fun c19 => ?_)
    · have hf := zif_f hf c19
      refine z_iconst (v := 0) hC (pc := 37) dX3_isBetter_37 zki_0 ?_
      exact z_zreturn hC (pc := 38) hQ dX3_isBetter_38 hf
    · have hf := zif_t hf c19
      refine z_aload_n hC (pc := 22) dX3_isBetter_22 rfl 0 rfl ?_
      obtain ⟨fs20, ha21, hf⟩ := z_rcN hf
      refine z_cI (rest := []) hf (fun v22 s23 hcall => z_runV hC (pc := 23) zcX3 0 ha21 (m_X3_cost X.g l0 s18 s23 v22 hcall) (lw_V q1897 q886 q887 q99 q888) hdV_X3_cost ⟨(Nat.le_of_ble_eq_true rfl), (Nat.le_of_ble_eq_true rfl)⟩ rfl (Nat.le_of_ble_eq_true rfl) dX3_isBetter_23 rfl) (fun v22 s23 hf => ?_)
      refine z_aload_n hC (pc := 26) dX3_isBetter_26 rfl 1 rfl ?_
      obtain ⟨fs24, ha25, hf⟩ := z_rcN hf
      refine z_cI (rest := [zi v22]) hf (fun v26 s27 hcall => z_runV hC (pc := 27) zcX3 0 ha25 (m_X3_cost X.g a7 s23 s27 v26 hcall) (lw_V q1897 q886 q887 q99 q888) hdV_X3_cost ⟨(Nat.le_of_ble_eq_true rfl), (Nat.le_of_ble_eq_true rfl)⟩ rfl (Nat.le_of_ble_eq_true rfl) dX3_isBetter_27 rfl) (fun v26 s27 hf => ?_)
      refine z_icmp_ge hC (pc := 30) (tgt := 37) dX3_isBetter_30 rfl (fun c28 => ?_) (fun c28 => ?_)
      · have hf := zif_t hf c28
        refine z_iconst (v := 0) hC (pc := 37) dX3_isBetter_37 zki_0 ?_
        exact z_zreturn hC (pc := 38) hQ dX3_isBetter_38 hf
      · have hf := zif_f hf c28
        refine z_iconst (v := 1) hC (pc := 33) dX3_isBetter_33 zki_1 ?_
        refine z_goto hC (pc := 34) (tgt := 38) dX3_isBetter_34 rfl ?_
        exact z_zreturn hC (pc := 38) hQ dX3_isBetter_38 hf
/-! BlockingShop.bestOf(LBlockingShop$Plan;LBlockingShop$Plan;LBlockingShop$Plan;)I -/
def f_X1_bestOf_b91 (G : Nat → Nat) (k21 : Nat → Option Nat → Option Nat → Option Nat → Int32 → Int32 → Int32 → zS → Option (Int32 × zS)) (l0 : Nat) (l1 : Option Nat) (l2 : Option Nat) (l3 : Option Nat) (l4 : Int32) (l5 : Int32) (l6 : Int32) (s0 : zS) : Option (Int32 × zS) :=
k21 l0 l1 l2 l3 l4 l5 (l6 + 1) s0
set_option maxHeartbeats 4000000 in
theorem w_X1_bestOf_b91 {X : zX} (hC : ZC X RX1 cX1_bestOf (some .int) 3014 60195) (hL : X.nL = 7) (hno : ∀ x ∈ X.c.exceptionTable.toList, False) {r : Int32} {sF : zS} (hQ : ZQ X (.inl (some (zi r)), sF)) (k21 : Nat → Option Nat → Option Nat → Option Nat → Int32 → Int32 → Int32 → zS → Option (Int32 × zS)) (hk21 : ∀ (l0 : Nat) (l1 : Option Nat) (l2 : Option Nat) (l3 : Option Nat) (l4 : Int32) (l5 : Int32) (l6 : Int32) (s0 : zS), k21 l0 l1 l2 l3 l4 l5 l6 s0 = some (r, sF) → ZW X s0 21 [(0, zr (some l0)), (1, zr l1), (2, zr l2), (3, zr l3), (4, zi l4), (5, zi l5), (6, zi l6)] []) (l0 : Nat) (l1 : Option Nat) (l2 : Option Nat) (l3 : Option Nat) (l4 : Int32) (l5 : Int32) (l6 : Int32) (s0 : zS) (hf : f_X1_bestOf_b91 X.g.1 k21 l0 l1 l2 l3 l4 l5 l6 s0 = some (r, sF)) : ZW X s0 91 [(0, zr (some l0)), (1, zr l1), (2, zr l2), (3, zr l3), (4, zi l4), (5, zi l5), (6, zi l6)] [] := by
  unfold f_X1_bestOf_b91 at hf
  refine z_iinc (v := 1) (lv' := [(6, zi (l6 + 1)), (0, zr (some l0)), (1, zr l1), (2, zr l2), (3, zr l3), (4, zi l4), (5, zi l5)]) hC (pc := 91) hL dX1_bestOf_91 6 rfl zki_1 (Nat.le_of_ble_eq_true rfl) rfl ?_
  refine z_goto hC (pc := 94) (tgt := 21) dX1_bestOf_94 rfl ?_
  refine ZW.perm (lv' := [(0, zr (some l0)), (1, zr l1), (2, zr l2), (3, zr l3), (4, zi l4), (5, zi l5), (6, zi (l6 + 1))]) [1, 2, 3, 4, 5, 6, 0] rfl ?_
  exact hk21 l0 l1 l2 l3 l4 l5 (l6 + 1) s0 hf
def f_X1_bestOf_b76 (G : Nat → Nat) (k21 : Nat → Option Nat → Option Nat → Option Nat → Int32 → Int32 → Int32 → zS → Option (Int32 × zS)) (l0 : Nat) (l1 : Option Nat) (l2 : Option Nat) (l3 : Option Nat) (l5 : Int32) (l6 : Int32) (s0 : zS) : Option (Int32 × zS) :=
zo (zrc s0 l3 2) fun a3 =>
zb (f_X3_become G a3 l2 s0) fun _ s5 =>
f_X1_bestOf_b91 G k21 l0 l1 l2 (some a3) ((100 * l5) + l6) l5 l6 s5
set_option maxHeartbeats 4000000 in
theorem w_X1_bestOf_b76 {X : zX} (hC : ZC X RX1 cX1_bestOf (some .int) 3014 60195) (hL : X.nL = 7) (hno : ∀ x ∈ X.c.exceptionTable.toList, False) {r : Int32} {sF : zS} (hQ : ZQ X (.inl (some (zi r)), sF)) (k21 : Nat → Option Nat → Option Nat → Option Nat → Int32 → Int32 → Int32 → zS → Option (Int32 × zS)) (hk21 : ∀ (l0 : Nat) (l1 : Option Nat) (l2 : Option Nat) (l3 : Option Nat) (l4 : Int32) (l5 : Int32) (l6 : Int32) (s0 : zS), k21 l0 l1 l2 l3 l4 l5 l6 s0 = some (r, sF) → ZW X s0 21 [(0, zr (some l0)), (1, zr l1), (2, zr l2), (3, zr l3), (4, zi l4), (5, zi l5), (6, zi l6)] []) (l0 : Nat) (l1 : Option Nat) (l2 : Option Nat) (l3 : Option Nat) (l5 : Int32) (l6 : Int32) (s0 : zS) (hf : f_X1_bestOf_b76 X.g.1 k21 l0 l1 l2 l3 l5 l6 s0 = some (r, sF)) : ZW X s0 76 [(0, zr (some l0)), (1, zr l1), (2, zr l2), (3, zr l3), (5, zi l5), (6, zi l6)] [] := by
  unfold f_X1_bestOf_b76 at hf
  refine z_bipush (v := 100) hC (pc := 76) dX1_bestOf_76 zkb_100 ?_
  refine z_iload hC (pc := 78) dX1_bestOf_78 4 rfl ?_
  refine z_imul hC (pc := 80) dX1_bestOf_80 ?_
  refine z_iload hC (pc := 81) dX1_bestOf_81 5 rfl ?_
  refine z_iadd hC (pc := 83) dX1_bestOf_83 ?_
  refine z_istore (lv' := [(4, zi ((100 * l5) + l6)), (0, zr (some l0)), (1, zr l1), (2, zr l2), (3, zr l3), (5, zi l5), (6, zi l6)]) hC (pc := 84) hL dX1_bestOf_84 (Nat.le_of_ble_eq_true rfl) rfl ?_
  refine z_aload_n hC (pc := 86) dX1_bestOf_86 rfl 4 rfl ?_
  refine z_aload_n hC (pc := 87) dX1_bestOf_87 rfl 3 rfl ?_
  obtain ⟨a3, fs1, rfl, ha2, hf⟩ := z_rcO hf
  refine z_cU (rest := []) hf (fun v4 s5 hcall => z_runV hC (pc := 88) zcX3 1 ha2 (m_X3_become X.g a3 l2 s0 s5 v4 hcall) (lw_V q1850 q1851 q1852 q99 q1853) hdV_X3_become ⟨(Nat.le_of_ble_eq_true rfl), (Nat.le_of_ble_eq_true rfl)⟩ rfl (Nat.le_of_ble_eq_true rfl) dX1_bestOf_88 rfl) (fun _ s5 hf => ?_)
  refine ZW.perm (lv' := [(0, zr (some l0)), (1, zr l1), (2, zr l2), (3, zr (some a3)), (4, zi ((100 * l5) + l6)), (5, zi l5), (6, zi l6)]) [1, 2, 3, 4, 0, 5, 6] rfl ?_
  exact w_X1_bestOf_b91 hC hL hno hQ k21 hk21 l0 l1 l2 (some a3) ((100 * l5) + l6) l5 l6 s5 hf
def f_X1_bestOf_b21 (G : Nat → Nat) (k6 : Nat → Option Nat → Option Nat → Option Nat → Int32 → Int32 → zS → Option (Int32 × zS)) (k21 : Nat → Option Nat → Option Nat → Option Nat → Int32 → Int32 → Int32 → zS → Option (Int32 × zS)) (l0 : Nat) (l1 : Option Nat) (l2 : Option Nat) (l3 : Option Nat) (l4 : Int32) (l5 : Int32) (l6 : Int32) (s0 : zS) : Option (Int32 × zS) :=
zo (zgR s0 l1 2 2) fun v1 =>
zo (zaI s0 v1 0 l5) fun v2 =>
if (v2 - 1) ≤ l6 then (k6 l0 l1 l2 l3 l4 (l5 + 1) s0)
else (zo (zrc s0 l2 2) fun a6 =>
zb (f_X3_become G a6 l1 s0) fun _ s8 =>
zo (zrc s8 (some a6) 2) fun _ =>
zb (f_X3_swap G a6 l5 l6 s8) fun _ s12 =>
zo (zgR s12 (some l0) 0 2) fun v13 =>
zo (zrc s12 (some a6) 2) fun _ =>
zb (f_X3_times G a6 v13 s12) fun v16 s17 =>
if v16 = 0 then (f_X1_bestOf_b91 G k21 l0 l1 (some a6) l3 l4 l5 l6 s17)
else (if l4 = (-1) then (f_X1_bestOf_b76 G k21 l0 l1 (some a6) l3 l5 l6 s17)
else (zo (zrc s17 (some a6) 2) fun _ =>
zb (f_X3_isBetter G a6 l3 s17) fun v22 s23 =>
if v22 = 0 then (f_X1_bestOf_b91 G k21 l0 l1 (some a6) l3 l4 l5 l6 s23)
else (f_X1_bestOf_b76 G k21 l0 l1 (some a6) l3 l5 l6 s23))))
set_option maxHeartbeats 4000000 in
theorem w_X1_bestOf_b21 {X : zX} (hC : ZC X RX1 cX1_bestOf (some .int) 3014 60195) (hL : X.nL = 7) (hno : ∀ x ∈ X.c.exceptionTable.toList, False) {r : Int32} {sF : zS} (hQ : ZQ X (.inl (some (zi r)), sF)) (k6 : Nat → Option Nat → Option Nat → Option Nat → Int32 → Int32 → zS → Option (Int32 × zS)) (hk6 : ∀ (l0 : Nat) (l1 : Option Nat) (l2 : Option Nat) (l3 : Option Nat) (l4 : Int32) (l5 : Int32) (s0 : zS), k6 l0 l1 l2 l3 l4 l5 s0 = some (r, sF) → ZW X s0 6 [(0, zr (some l0)), (1, zr l1), (2, zr l2), (3, zr l3), (4, zi l4), (5, zi l5)] []) (k21 : Nat → Option Nat → Option Nat → Option Nat → Int32 → Int32 → Int32 → zS → Option (Int32 × zS)) (hk21 : ∀ (l0 : Nat) (l1 : Option Nat) (l2 : Option Nat) (l3 : Option Nat) (l4 : Int32) (l5 : Int32) (l6 : Int32) (s0 : zS), k21 l0 l1 l2 l3 l4 l5 l6 s0 = some (r, sF) → ZW X s0 21 [(0, zr (some l0)), (1, zr l1), (2, zr l2), (3, zr l3), (4, zi l4), (5, zi l5), (6, zi l6)] []) (l0 : Nat) (l1 : Option Nat) (l2 : Option Nat) (l3 : Option Nat) (l4 : Int32) (l5 : Int32) (l6 : Int32) (s0 : zS) (hf : f_X1_bestOf_b21 X.g.1 k6 k21 l0 l1 l2 l3 l4 l5 l6 s0 = some (r, sF)) : ZW X s0 21 [(0, zr (some l0)), (1, zr l1), (2, zr l2), (3, zr l3), (4, zi l4), (5, zi l5), (6, zi l6)] [] := by
  unfold f_X1_bestOf_b21 at hf
  refine z_iload hC (pc := 21) dX1_bestOf_21 6 rfl ?_
  refine z_aload_n hC (pc := 23) dX1_bestOf_23 rfl 1 rfl ?_
  refine z_getR hC (pc := 24) in_X3 zcX3 2 (Nat.le_of_ble_eq_true rfl) (zLk.n hC q373) zsm dX1_bestOf_24 hf (fun v1 hf => ?_)
  refine z_iload hC (pc := 27) dX1_bestOf_27 5 rfl ?_
  refine z_iald hC (pc := 29) dX1_bestOf_29 hf (fun v2 hf => ?_)
  refine z_iconst (v := 1) hC (pc := 30) dX1_bestOf_30 zki_1 ?_
  refine z_isub hC (pc := 31) dX1_bestOf_31 ?_
  refine z_icmp_ge hC (pc := 32) (tgt := 97) dX1_bestOf_32 rfl (fun c3 => ?_) (fun c3 => ?_)
  · have hf := zif_t hf c3
    refine z_iinc (v := 1) (lv' := [(5, zi (l5 + 1)), (0, zr (some l0)), (1, zr l1), (2, zr l2), (3, zr l3), (4, zi l4), (6, zi l6)]) hC (pc := 97) hL dX1_bestOf_97 5 rfl zki_1 (Nat.le_of_ble_eq_true rfl) rfl ?_
    refine z_goto hC (pc := 100) (tgt := 6) dX1_bestOf_100 rfl ?_
    refine ZW.perm (lv' := [(0, zr (some l0)), (1, zr l1), (2, zr l2), (3, zr l3), (4, zi l4), (5, zi (l5 + 1))]) [1, 2, 3, 4, 5, 0] rfl ?_
    exact hk6 l0 l1 l2 l3 l4 (l5 + 1) s0 hf
  · have hf := zif_f hf c3
    refine z_aload_n hC (pc := 35) dX1_bestOf_35 rfl 2 rfl ?_
    refine z_aload_n hC (pc := 36) dX1_bestOf_36 rfl 1 rfl ?_
    obtain ⟨a6, fs4, rfl, ha5, hf⟩ := z_rcO hf
    refine z_cU (rest := []) hf (fun v7 s8 hcall => z_runV hC (pc := 37) zcX3 1 ha5 (m_X3_become X.g a6 l1 s0 s8 v7 hcall) (lw_V q1850 q1851 q1852 q99 q1853) hdV_X3_become ⟨(Nat.le_of_ble_eq_true rfl), (Nat.le_of_ble_eq_true rfl)⟩ rfl (Nat.le_of_ble_eq_true rfl) dX1_bestOf_37 rfl) (fun _ s8 hf => ?_)
    refine z_aload_n hC (pc := 40) dX1_bestOf_40 rfl 2 rfl ?_
    refine z_iload hC (pc := 41) dX1_bestOf_41 5 rfl ?_
    refine z_iload hC (pc := 43) dX1_bestOf_43 6 rfl ?_
    obtain ⟨fs9, ha10, hf⟩ := z_rcN hf
    refine z_cU (rest := []) hf (fun v11 s12 hcall => z_runV hC (pc := 45) zcX3 2 ha10 (m_X3_swap X.g a6 l5 l6 s8 s12 v11 hcall) (lw_V q1855 q1856 q1857 q99 q1858) hdV_X3_swap ⟨(Nat.le_of_ble_eq_true rfl), (Nat.le_of_ble_eq_true rfl)⟩ rfl (Nat.le_of_ble_eq_true rfl) dX1_bestOf_45 rfl) (fun _ s12 hf => ?_)
    refine z_aload_n hC (pc := 48) dX1_bestOf_48 rfl 2 rfl ?_
    refine z_aload_n hC (pc := 49) dX1_bestOf_49 rfl 0 rfl ?_
    refine z_getR hC (pc := 50) in_X1 zcX1 2 (Nat.le_of_ble_eq_true rfl) (zLk.o hC q393) zsm dX1_bestOf_50 hf (fun v13 hf => ?_)
    obtain ⟨fs14, ha15, hf⟩ := z_rcN hf
    refine z_cI (rest := []) hf (fun v16 s17 hcall => z_runV hC (pc := 53) zcX3 1 ha15 (m_X3_times X.g a6 v13 s12 s17 v16 hcall) (lw_V q1859 q1860 q1861 q99 q1862) hdV_X3_times ⟨(Nat.le_of_ble_eq_true rfl), (Nat.le_of_ble_eq_true rfl)⟩ rfl (Nat.le_of_ble_eq_true rfl) dX1_bestOf_53 rfl) (fun v16 s17 hf => ?_)
    refine z_if_eq hC (pc := 56) (tgt := 91) dX1_bestOf_56 rfl (fun c18 => ?_) (fun c18 => ?_)
    · have hf := zif_t hf c18
      exact w_X1_bestOf_b91 hC hL hno hQ k21 hk21 l0 l1 (some a6) l3 l4 l5 l6 s17 hf
    · have hf := zif_f hf c18
      refine z_iload hC (pc := 59) dX1_bestOf_59 4 rfl ?_
      refine z_iconst (v := (-1)) hC (pc := 61) dX1_bestOf_61 zki_m1 ?_
      refine z_icmp_eq hC (pc := 62) (tgt := 76) dX1_bestOf_62 rfl (fun c19 => ?_) (fun c19 => ?_)
      · have hf := zif_t hf c19
        refine ZW.perm (lv' := [(0, zr (some l0)), (1, zr l1), (2, zr (some a6)), (3, zr l3), (5, zi l5), (6, zi l6)]) [0, 1, 2, 3, 5, 6] rfl ?_
        exact w_X1_bestOf_b76 hC hL hno hQ k21 hk21 l0 l1 (some a6) l3 l5 l6 s17 hf
      · have hf := zif_f hf c19
        refine z_aload_n hC (pc := 65) dX1_bestOf_65 rfl 2 rfl ?_
        refine z_aload_n hC (pc := 66) dX1_bestOf_66 rfl 3 rfl ?_
        obtain ⟨fs20, ha21, hf⟩ := z_rcN hf
        refine z_cI (rest := []) hf (fun v22 s23 hcall => z_runV hC (pc := 67) zcX3 1 ha21 (m_X3_isBetter X.g a6 l3 s17 s23 v22 hcall) (lw_V q1892 q1893 q1894 q99 q1895) hdV_X3_isBetter ⟨(Nat.le_of_ble_eq_true rfl), (Nat.le_of_ble_eq_true rfl)⟩ rfl (Nat.le_of_ble_eq_true rfl) dX1_bestOf_67 rfl) (fun v22 s23 hf => ?_)
        refine z_if_ne hC (pc := 70) (tgt := 76) dX1_bestOf_70 rfl (fun c24 => ?_) (fun c24 => ?_)
        · have hf := zif_f hf c24
          refine ZW.perm (lv' := [(0, zr (some l0)), (1, zr l1), (2, zr (some a6)), (3, zr l3), (5, zi l5), (6, zi l6)]) [0, 1, 2, 3, 5, 6] rfl ?_
          exact w_X1_bestOf_b76 hC hL hno hQ k21 hk21 l0 l1 (some a6) l3 l5 l6 s23 hf
        · have hf := zif_t hf c24
          refine z_goto hC (pc := 73) (tgt := 91) dX1_bestOf_73 rfl ?_
          exact w_X1_bestOf_b91 hC hL hno hQ k21 hk21 l0 l1 (some a6) l3 l4 l5 l6 s23 hf
def f_X1_bestOf_l21 (G : Nat → Nat) (k6 : Nat → Option Nat → Option Nat → Option Nat → Int32 → Int32 → zS → Option (Int32 × zS)) : Nat → Nat → Option Nat → Option Nat → Option Nat → Int32 → Int32 → Int32 → zS → Option (Int32 × zS)
  | 0 => fun _ _ _ _ _ _ _ _ => none
  | n + 1 => f_X1_bestOf_b21 G k6 (f_X1_bestOf_l21 G k6 n)
theorem w_X1_bestOf_l21 {X : zX} (hC : ZC X RX1 cX1_bestOf (some .int) 3014 60195) (hL : X.nL = 7) (hno : ∀ x ∈ X.c.exceptionTable.toList, False) {r : Int32} {sF : zS} (hQ : ZQ X (.inl (some (zi r)), sF)) (k6 : Nat → Option Nat → Option Nat → Option Nat → Int32 → Int32 → zS → Option (Int32 × zS)) (hk6 : ∀ (l0 : Nat) (l1 : Option Nat) (l2 : Option Nat) (l3 : Option Nat) (l4 : Int32) (l5 : Int32) (s0 : zS), k6 l0 l1 l2 l3 l4 l5 s0 = some (r, sF) → ZW X s0 6 [(0, zr (some l0)), (1, zr l1), (2, zr l2), (3, zr l3), (4, zi l4), (5, zi l5)] []) : ∀ (n : Nat) (l0 : Nat) (l1 : Option Nat) (l2 : Option Nat) (l3 : Option Nat) (l4 : Int32) (l5 : Int32) (l6 : Int32) (s0 : zS) (_ : f_X1_bestOf_l21 X.g.1 k6 n l0 l1 l2 l3 l4 l5 l6 s0 = some (r, sF)), ZW X s0 21 [(0, zr (some l0)), (1, zr l1), (2, zr l2), (3, zr l3), (4, zi l4), (5, zi l5), (6, zi l6)] [] := by
  intro n
  induction n with
  | zero => intro l0 l1 l2 l3 l4 l5 l6 s0 hf; exact absurd (show (none : Option (Int32 × zS)) = some (r, sF) from hf) (fun z => nomatch z)
  | succ n ih => intro l0 l1 l2 l3 l4 l5 l6 s0 hf; exact w_X1_bestOf_b21 hC hL hno hQ k6 hk6 (f_X1_bestOf_l21 X.g.1 k6 n) ih l0 l1 l2 l3 l4 l5 l6 s0 hf
def f_X1_bestOf_b6 (G : Nat → Nat) (k6 : Nat → Option Nat → Option Nat → Option Nat → Int32 → Int32 → zS → Option (Int32 × zS)) (l0 : Nat) (l1 : Option Nat) (l2 : Option Nat) (l3 : Option Nat) (l4 : Int32) (l5 : Int32) (s0 : zS) : Option (Int32 × zS) :=
zo (zgR s0 l1 2 0) fun v1 =>
zo (zgI s0 v1 3 0) fun v2 =>
if v2 ≤ l5 then (some (l4, s0))
else (f_X1_bestOf_l21 G k6 2000 l0 l1 l2 l3 l4 l5 0 s0)
set_option maxHeartbeats 4000000 in
theorem w_X1_bestOf_b6 {X : zX} (hC : ZC X RX1 cX1_bestOf (some .int) 3014 60195) (hL : X.nL = 7) (hno : ∀ x ∈ X.c.exceptionTable.toList, False) {r : Int32} {sF : zS} (hQ : ZQ X (.inl (some (zi r)), sF)) (k6 : Nat → Option Nat → Option Nat → Option Nat → Int32 → Int32 → zS → Option (Int32 × zS)) (hk6 : ∀ (l0 : Nat) (l1 : Option Nat) (l2 : Option Nat) (l3 : Option Nat) (l4 : Int32) (l5 : Int32) (s0 : zS), k6 l0 l1 l2 l3 l4 l5 s0 = some (r, sF) → ZW X s0 6 [(0, zr (some l0)), (1, zr l1), (2, zr l2), (3, zr l3), (4, zi l4), (5, zi l5)] []) (l0 : Nat) (l1 : Option Nat) (l2 : Option Nat) (l3 : Option Nat) (l4 : Int32) (l5 : Int32) (s0 : zS) (hf : f_X1_bestOf_b6 X.g.1 k6 l0 l1 l2 l3 l4 l5 s0 = some (r, sF)) : ZW X s0 6 [(0, zr (some l0)), (1, zr l1), (2, zr l2), (3, zr l3), (4, zi l4), (5, zi l5)] [] := by
  unfold f_X1_bestOf_b6 at hf
  refine z_iload hC (pc := 6) dX1_bestOf_6 5 rfl ?_
  refine z_aload_n hC (pc := 8) dX1_bestOf_8 rfl 1 rfl ?_
  refine z_getR hC (pc := 9) in_X3 zcX3 0 (Nat.le_of_ble_eq_true rfl) (zLk.n hC q366) zsm dX1_bestOf_9 hf (fun v1 hf => ?_)
  refine z_getI hC (pc := 12) in_X4 zcX4 0 (Nat.le_of_ble_eq_true rfl) (zLk.n hC q324) zsm dX1_bestOf_12 hf (fun v2 hf => ?_)
  refine z_icmp_ge hC (pc := 15) (tgt := 103) dX1_bestOf_15 rfl (fun c3 => ?_) (fun c3 => ?_)
  · have hf := zif_t hf c3
    refine z_iload hC (pc := 103) dX1_bestOf_103 4 rfl ?_
    exact z_ireturn hC (pc := 105) hQ dX1_bestOf_105 hf
  · have hf := zif_f hf c3
    refine z_iconst (v := 0) hC (pc := 18) dX1_bestOf_18 zki_0 ?_
    refine z_istore (lv' := [(6, zi 0), (0, zr (some l0)), (1, zr l1), (2, zr l2), (3, zr l3), (4, zi l4), (5, zi l5)]) hC (pc := 19) hL dX1_bestOf_19 (Nat.le_of_ble_eq_true rfl) rfl ?_
    refine ZW.perm (lv' := [(0, zr (some l0)), (1, zr l1), (2, zr l2), (3, zr l3), (4, zi l4), (5, zi l5), (6, zi 0)]) [1, 2, 3, 4, 5, 6, 0] rfl ?_
    exact w_X1_bestOf_l21 hC hL hno hQ k6 hk6 2000 l0 l1 l2 l3 l4 l5 0 s0 hf
def f_X1_bestOf_l6 (G : Nat → Nat) : Nat → Nat → Option Nat → Option Nat → Option Nat → Int32 → Int32 → zS → Option (Int32 × zS)
  | 0 => fun _ _ _ _ _ _ _ => none
  | n + 1 => f_X1_bestOf_b6 G (f_X1_bestOf_l6 G n)
theorem w_X1_bestOf_l6 {X : zX} (hC : ZC X RX1 cX1_bestOf (some .int) 3014 60195) (hL : X.nL = 7) (hno : ∀ x ∈ X.c.exceptionTable.toList, False) {r : Int32} {sF : zS} (hQ : ZQ X (.inl (some (zi r)), sF)) : ∀ (n : Nat) (l0 : Nat) (l1 : Option Nat) (l2 : Option Nat) (l3 : Option Nat) (l4 : Int32) (l5 : Int32) (s0 : zS) (_ : f_X1_bestOf_l6 X.g.1 n l0 l1 l2 l3 l4 l5 s0 = some (r, sF)), ZW X s0 6 [(0, zr (some l0)), (1, zr l1), (2, zr l2), (3, zr l3), (4, zi l4), (5, zi l5)] [] := by
  intro n
  induction n with
  | zero => intro l0 l1 l2 l3 l4 l5 s0 hf; exact absurd (show (none : Option (Int32 × zS)) = some (r, sF) from hf) (fun z => nomatch z)
  | succ n ih => intro l0 l1 l2 l3 l4 l5 s0 hf; exact w_X1_bestOf_b6 hC hL hno hQ (f_X1_bestOf_l6 X.g.1 n) ih l0 l1 l2 l3 l4 l5 s0 hf
def f_X1_bestOf (G : Nat → Nat) (l0 : Nat) (l1 : Option Nat) (l2 : Option Nat) (l3 : Option Nat) (s0 : zS) : Option (Int32 × zS) :=
f_X1_bestOf_l6 G 2000 l0 l1 l2 l3 (-1) 0 s0
set_option maxHeartbeats 4000000 in
theorem m_X1_bestOf (Γ : zG) (l0 : Nat) (l1 : Option Nat) (l2 : Option Nat) (l3 : Option Nat) (s0 s1 : zS) (r : Int32) (hf : f_X1_bestOf Γ.1 l0 l1 l2 l3 s0 = some (r, s1)) : ZM Γ yX1_bestOf (ws_ yX1_bestOf cX1_bestOf 7 (some .int)) 3014 60195 [zr (some l0), zr l1, zr l2, zr l3] s0 (.inl (some (zi r)), s1) := by
  refine ZM.of (own := RX1) (by decide) rfl (Nat.le_of_ble_eq_true rfl) ?_
  intro X hg hC hL hno hQ hin
  subst hg
  unfold f_X1_bestOf at hf
  refine z_iconst (v := (-1)) hC (pc := 0) dX1_bestOf_0 zki_m1 ?_
  refine z_istore (lv' := [(4, zi (-1)), (0, zr (some l0)), (1, zr l1), (2, zr l2), (3, zr l3)]) hC (pc := 1) hL dX1_bestOf_1 (Nat.le_of_ble_eq_true rfl) rfl ?_
  refine z_iconst (v := 0) hC (pc := 3) dX1_bestOf_3 zki_0 ?_
  refine z_istore (lv' := [(5, zi 0), (4, zi (-1)), (0, zr (some l0)), (1, zr l1), (2, zr l2), (3, zr l3)]) hC (pc := 4) hL dX1_bestOf_4 (Nat.le_of_ble_eq_true rfl) rfl ?_
  refine ZW.perm (lv' := [(0, zr (some l0)), (1, zr l1), (2, zr l2), (3, zr l3), (4, zi (-1)), (5, zi 0)]) [2, 3, 4, 5, 1, 0] rfl ?_
  exact w_X1_bestOf_l6 hC hL hno hQ 2000 l0 l1 l2 l3 (-1) 0 s0 hf
/-! BlockingShop.replace(LBlockingShop$Plan;)V -/
def f_X1_replace_b20 (G : Nat → Nat) (l0 : Nat) (l1 : Option Nat) (s0 : zS) : Option (Unit × zS) :=
zo (zgR s0 (some l0) 0 1) fun v1 =>
zo (zgR s0 (some l0) 0 3) fun v2 =>
zo (zrc s0 v1 13) fun a5 =>
zb (f_J1_addLast G a5 v2 s0) fun _ s7 =>
zo (zput G s7 (some l0) 0 3 (va_rf l1)) fun s8 =>
some ((), s8)
set_option maxHeartbeats 4000000 in
theorem w_X1_replace_b20 {X : zX} (hC : ZC X RX1 cX1_replace none 4 65) (hL : X.nL = 2) (hno : ∀ x ∈ X.c.exceptionTable.toList, False) {r : Unit} {sF : zS} (hQ : ZQ X (.inl none, sF)) (l0 : Nat) (l1 : Option Nat) (s0 : zS) (hf : f_X1_replace_b20 X.g.1 l0 l1 s0 = some (r, sF)) : ZW X s0 20 [(0, zr (some l0)), (1, zr l1)] [] := by
  unfold f_X1_replace_b20 at hf
  refine z_aload_n hC (pc := 20) dX1_replace_20 rfl 0 rfl ?_
  refine z_getR hC (pc := 21) in_X1 zcX1 1 (Nat.le_of_ble_eq_true rfl) (zLk.o hC q392) zsm dX1_replace_21 hf (fun v1 hf => ?_)
  refine z_aload_n hC (pc := 24) dX1_replace_24 rfl 0 rfl ?_
  refine z_getR hC (pc := 25) in_X1 zcX1 3 (Nat.le_of_ble_eq_true rfl) (zLk.o hC q394) zsm dX1_replace_25 hf (fun v2 hf => ?_)
  obtain ⟨a5, fs3, rfl, ha4, hf⟩ := z_rcO hf
  refine z_cU (rest := []) hf (fun v6 s7 hcall => z_runV hC (pc := 28) zcJ1 1 ha4 (m_J1_addLast X.g a5 v2 s0 s7 v6 hcall) (lw_V q1941 q1942 q1943 q97 q1944) hdV_J1_addLast ⟨(Nat.le_of_ble_eq_true rfl), (Nat.le_of_ble_eq_true rfl)⟩ rfl (Nat.le_of_ble_eq_true rfl) dX1_replace_28 rfl) (fun _ s7 hf => ?_)
  refine z_aload_n hC (pc := 31) dX1_replace_31 rfl 0 rfl ?_
  refine z_aload_n hC (pc := 32) dX1_replace_32 rfl 1 rfl ?_
  refine z_putV (v := zr l1) hC (pc := 33) in_X1 tyX1 tyX1_ok nmX1 zcX1 3 (Nat.le_of_ble_eq_true rfl) (zLk.o hC q394) zsm (Or.inl rfl) rfl (zfr l1) dX1_replace_33 hf (fun s8 hf => ?_)
  exact z_return hC (pc := 36) hQ dX1_replace_36 hf
def f_X1_replace (G : Nat → Nat) (l0 : Nat) (l1 : Option Nat) (s0 : zS) : Option (Unit × zS) :=
zo (zgR s0 (some l0) 0 1) fun v1 =>
zo (zrc s0 v1 13) fun a4 =>
zb (f_J1_size G a4 s0) fun v5 s6 =>
if v5 = 8 then (zo (zgR s6 (some l0) 0 1) fun v8 =>
zo (zrc s6 v8 13) fun a11 =>
zb (f_J1_removeFirst G a11 s6) fun v12 s13 =>
f_X1_replace_b20 G l0 l1 s13)
else (f_X1_replace_b20 G l0 l1 s6)
set_option maxHeartbeats 4000000 in
theorem m_X1_replace (Γ : zG) (l0 : Nat) (l1 : Option Nat) (s0 s1 : zS) (r : Unit) (hf : f_X1_replace Γ.1 l0 l1 s0 = some (r, s1)) : ZM Γ yX1_replace (ws_ yX1_replace cX1_replace 2 none) 4 65 [zr (some l0), zr l1] s0 (.inl none, s1) := by
  refine ZM.of (own := RX1) (by decide) rfl (Nat.le_of_ble_eq_true rfl) ?_
  intro X hg hC hL hno hQ hin
  subst hg
  unfold f_X1_replace at hf
  refine z_aload_n hC (pc := 0) dX1_replace_0 rfl 0 rfl ?_
  refine z_getR hC (pc := 1) in_X1 zcX1 1 (Nat.le_of_ble_eq_true rfl) (zLk.o hC q392) zsm dX1_replace_1 hf (fun v1 hf => ?_)
  obtain ⟨a4, fs2, rfl, ha3, hf⟩ := z_rcO hf
  refine z_cI (rest := []) hf (fun v5 s6 hcall => z_runV hC (pc := 4) zcJ1 0 ha3 (m_J1_size X.g a4 s0 s6 v5 hcall) (lw_V q1918 q1919 q1920 q97 q1921) hdV_J1_size ⟨(Nat.le_of_ble_eq_true rfl), (Nat.le_of_ble_eq_true rfl)⟩ rfl (Nat.le_of_ble_eq_true rfl) dX1_replace_4 rfl) (fun v5 s6 hf => ?_)
  refine z_bipush (v := 8) hC (pc := 7) dX1_replace_7 zkb_8 ?_
  refine z_icmp_ne hC (pc := 9) (tgt := 20) dX1_replace_9 rfl (fun c7 => ?_) (fun c7 => ?_)
  · have hf := zif_f hf c7
    exact w_X1_replace_b20 hC hL hno hQ l0 l1 s6 hf
  · have hf := zif_t hf c7
    refine z_aload_n hC (pc := 12) dX1_replace_12 rfl 0 rfl ?_
    refine z_getR hC (pc := 13) in_X1 zcX1 1 (Nat.le_of_ble_eq_true rfl) (zLk.o hC q392) zsm dX1_replace_13 hf (fun v8 hf => ?_)
    obtain ⟨a11, fs9, rfl, ha10, hf⟩ := z_rcO hf
    refine z_cR (rest := []) hf (fun v12 s13 hcall => z_runV hC (pc := 16) zcJ1 0 ha10 (m_J1_removeFirst X.g a11 s6 s13 v12 hcall) (lw_V q1925 q1926 q1927 q97 q1928) hdV_J1_removeFirst ⟨(Nat.le_of_ble_eq_true rfl), (Nat.le_of_ble_eq_true rfl)⟩ rfl (Nat.le_of_ble_eq_true rfl) dX1_replace_16 rfl) (fun v12 s13 hf => ?_)
    refine z_pop hC (pc := 19) dX1_replace_19 rfl ?_
    exact w_X1_replace_b20 hC hL hno hQ l0 l1 s13 hf
/-! BlockingShop.requireArgument(Z)V -/
def f_X1_requireArgument (G : Nat → Nat) (l0 : Int32) (s0 : zS) : Option ((Unit ⊕ (Nat × Nat)) × zS) :=
if l0 = 0 then (zb (znewO G s0 26 6 []) fun a2 s3 =>
zo (zthr G s3 (some a2)) fun e => some (.inr e, s3))
else (some (.inl (), s0))
set_option maxHeartbeats 4000000 in
theorem m_X1_requireArgument (Γ : zG) (l0 : Int32) (s0 s1 : zS) (r : (Unit ⊕ (Nat × Nat))) (hf : f_X1_requireArgument Γ.1 l0 s0 = some (r, s1)) : ZM Γ yX1_requireArgument (ws_ yX1_requireArgument cX1_requireArgument 1 none) 8 200 [zi l0] s0 (zoU r, s1) := by
  refine ZM.of (own := RX1) (by decide) rfl (Nat.le_of_ble_eq_true rfl) ?_
  intro X hg hC hL hno hQ hin
  subst hg
  unfold f_X1_requireArgument at hf
  refine z_iload_n hC (pc := 0) dX1_requireArgument_0 rfl 0 rfl ?_
  refine z_if_ne hC (pc := 1) (tgt := 12) dX1_requireArgument_1 rfl (fun c1 => ?_) (fun c1 => ?_)
  · have hf := zif_f hf c1
    exact z_returnX hC (pc := 12) hQ dX1_requireArgument_12 hf
  · have hf := zif_t hf c1
    refine z_mk26 hC (pc := 4) dX1_requireArgument_4 dX1_requireArgument_7 dX1_requireArgument_8 (Nat.le_of_ble_eq_true rfl) (Nat.le_of_ble_eq_true rfl) hf (fun a2 s3 hf => ?_)
    exact z_athrow hC (pc := 11) dX1_requireArgument_11 hf (fun e hf => z_outU hC hQ hno hf)
/-! BlockingShop.improve(I)I -/
def f_X1_improve_b87 (G : Nat → Nat) (l0 : Nat) (l2 : Option Nat) (l5 : Int32) (s0 : zS) : Option ((Int32 ⊕ (Nat × Nat)) × zS) :=
zo (zrc s0 (some l0) 0) fun _ =>
zb (f_X1_replace G l0 l2 s0) fun _ s4 =>
some (.inl l5, s4)
set_option maxHeartbeats 4000000 in
theorem w_X1_improve_b87 {X : zX} (hC : ZC X RX1 cX1_improve (some .int) 3015 60221) (hL : X.nL = 6) (hno : ∀ x ∈ X.c.exceptionTable.toList, False) {r : (Int32 ⊕ (Nat × Nat))} {sF : zS} (hQ : ZQ X (zoI r, sF)) (l0 : Nat) (l2 : Option Nat) (l5 : Int32) (s0 : zS) (hf : f_X1_improve_b87 X.g.1 l0 l2 l5 s0 = some (r, sF)) : ZW X s0 87 [(0, zr (some l0)), (2, zr l2), (5, zi l5)] [] := by
  unfold f_X1_improve_b87 at hf
  refine z_aload_n hC (pc := 87) dX1_improve_87 rfl 0 rfl ?_
  refine z_aload_n hC (pc := 88) dX1_improve_88 rfl 1 rfl ?_
  obtain ⟨fs1, ha2, hf⟩ := z_rcN hf
  refine z_cU (rest := []) hf (fun v3 s4 hcall => z_runV hC (pc := 89) zcX1 1 ha2 (m_X1_replace X.g l0 l2 s0 s4 v3 hcall) (lw_V q1914 q1916 qs22 q95 q1917) hdV_X1_replace ⟨(Nat.le_of_ble_eq_true rfl), (Nat.le_of_ble_eq_true rfl)⟩ rfl (Nat.le_of_ble_eq_true rfl) dX1_improve_89 rfl) (fun _ s4 hf => ?_)
  refine z_iload hC (pc := 92) dX1_improve_92 2 rfl ?_
  exact z_ireturnX hC (pc := 94) hQ dX1_improve_94 hf
def f_X1_improve_b48 (G : Nat → Nat) (k48 : Nat → Int32 → Option Nat → Option Nat → Option Nat → Int32 → zS → Option ((Int32 ⊕ (Nat × Nat)) × zS)) (l0 : Nat) (l1 : Int32) (l2 : Option Nat) (l3 : Option Nat) (l4 : Option Nat) (l5 : Int32) (s0 : zS) : Option ((Int32 ⊕ (Nat × Nat)) × zS) :=
if l1 ≤ l5 then (f_X1_improve_b87 G l0 l2 l5 s0)
else (zo (zrc s0 (some l0) 0) fun _ =>
zb (f_X1_bestOf G l0 l2 l3 l4 s0) fun v4 s5 =>
if v4 = (-1) then (f_X1_improve_b87 G l0 l2 l5 s5)
else (zo (zrc s5 l4 2) fun a9 =>
zb (f_X3_isBetter G a9 l2 s5) fun v10 s11 =>
if v10 = 0 then (f_X1_improve_b87 G l0 l2 l5 s11)
else (zo (zrc s11 l2 2) fun a15 =>
zb (f_X3_become G a15 (some a9) s11) fun _ s17 =>
k48 l0 l1 (some a15) l3 (some a9) (l5 + 1) s17)))
set_option maxHeartbeats 4000000 in
theorem w_X1_improve_b48 {X : zX} (hC : ZC X RX1 cX1_improve (some .int) 3015 60221) (hL : X.nL = 6) (hno : ∀ x ∈ X.c.exceptionTable.toList, False) {r : (Int32 ⊕ (Nat × Nat))} {sF : zS} (hQ : ZQ X (zoI r, sF)) (k48 : Nat → Int32 → Option Nat → Option Nat → Option Nat → Int32 → zS → Option ((Int32 ⊕ (Nat × Nat)) × zS)) (hk48 : ∀ (l0 : Nat) (l1 : Int32) (l2 : Option Nat) (l3 : Option Nat) (l4 : Option Nat) (l5 : Int32) (s0 : zS), k48 l0 l1 l2 l3 l4 l5 s0 = some (r, sF) → ZW X s0 48 [(0, zr (some l0)), (1, zi l1), (2, zr l2), (3, zr l3), (4, zr l4), (5, zi l5)] []) (l0 : Nat) (l1 : Int32) (l2 : Option Nat) (l3 : Option Nat) (l4 : Option Nat) (l5 : Int32) (s0 : zS) (hf : f_X1_improve_b48 X.g.1 k48 l0 l1 l2 l3 l4 l5 s0 = some (r, sF)) : ZW X s0 48 [(0, zr (some l0)), (1, zi l1), (2, zr l2), (3, zr l3), (4, zr l4), (5, zi l5)] [] := by
  unfold f_X1_improve_b48 at hf
  refine z_iload hC (pc := 48) dX1_improve_48 5 rfl ?_
  refine z_iload_n hC (pc := 50) dX1_improve_50 rfl 1 rfl ?_
  refine z_icmp_ge hC (pc := 51) (tgt := 87) dX1_improve_51 rfl (fun c1 => ?_) (fun c1 => ?_)
  · have hf := zif_t hf c1
    refine ZW.perm (lv' := [(0, zr (some l0)), (2, zr l2), (5, zi l5)]) [0, 2, 5] rfl ?_
    exact w_X1_improve_b87 hC hL hno hQ l0 l2 l5 s0 hf
  · have hf := zif_f hf c1
    refine z_aload_n hC (pc := 54) dX1_improve_54 rfl 0 rfl ?_
    refine z_aload_n hC (pc := 55) dX1_improve_55 rfl 2 rfl ?_
    refine z_aload_n hC (pc := 56) dX1_improve_56 rfl 3 rfl ?_
    refine z_aload hC (pc := 57) dX1_improve_57 4 rfl ?_
    obtain ⟨fs2, ha3, hf⟩ := z_rcN hf
    refine z_cI (rest := []) hf (fun v4 s5 hcall => z_runV hC (pc := 59) zcX1 3 ha3 (m_X1_bestOf X.g l0 l2 l3 l4 s0 s5 v4 hcall) (lw_V q1846 q1848 qs18 q95 q1849) hdV_X1_bestOf ⟨(Nat.le_of_ble_eq_true rfl), (Nat.le_of_ble_eq_true rfl)⟩ rfl (Nat.le_of_ble_eq_true rfl) dX1_improve_59 rfl) (fun v4 s5 hf => ?_)
    refine z_iconst (v := (-1)) hC (pc := 62) dX1_improve_62 zki_m1 ?_
    refine z_icmp_eq hC (pc := 63) (tgt := 87) dX1_improve_63 rfl (fun c6 => ?_) (fun c6 => ?_)
    · have hf := zif_t hf c6
      refine ZW.perm (lv' := [(0, zr (some l0)), (2, zr l2), (5, zi l5)]) [0, 2, 5] rfl ?_
      exact w_X1_improve_b87 hC hL hno hQ l0 l2 l5 s5 hf
    · have hf := zif_f hf c6
      refine z_aload hC (pc := 66) dX1_improve_66 4 rfl ?_
      refine z_aload_n hC (pc := 68) dX1_improve_68 rfl 2 rfl ?_
      obtain ⟨a9, fs7, rfl, ha8, hf⟩ := z_rcO hf
      refine z_cI (rest := []) hf (fun v10 s11 hcall => z_runV hC (pc := 69) zcX3 1 ha8 (m_X3_isBetter X.g a9 l2 s5 s11 v10 hcall) (lw_V q1892 q1893 q1894 q99 q1895) hdV_X3_isBetter ⟨(Nat.le_of_ble_eq_true rfl), (Nat.le_of_ble_eq_true rfl)⟩ rfl (Nat.le_of_ble_eq_true rfl) dX1_improve_69 rfl) (fun v10 s11 hf => ?_)
      refine z_if_eq hC (pc := 72) (tgt := 87) dX1_improve_72 rfl (fun c12 => ?_) (fun c12 => ?_)
      · have hf := zif_t hf c12
        refine ZW.perm (lv' := [(0, zr (some l0)), (2, zr l2), (5, zi l5)]) [0, 2, 5] rfl ?_
        exact w_X1_improve_b87 hC hL hno hQ l0 l2 l5 s11 hf
      · have hf := zif_f hf c12
        refine z_aload_n hC (pc := 75) dX1_improve_75 rfl 2 rfl ?_
        refine z_aload hC (pc := 76) dX1_improve_76 4 rfl ?_
        obtain ⟨a15, fs13, rfl, ha14, hf⟩ := z_rcO hf
        refine z_cU (rest := []) hf (fun v16 s17 hcall => z_runV hC (pc := 78) zcX3 1 ha14 (m_X3_become X.g a15 (some a9) s11 s17 v16 hcall) (lw_V q1850 q1851 q1852 q99 q1853) hdV_X3_become ⟨(Nat.le_of_ble_eq_true rfl), (Nat.le_of_ble_eq_true rfl)⟩ rfl (Nat.le_of_ble_eq_true rfl) dX1_improve_78 rfl) (fun _ s17 hf => ?_)
        refine z_iinc (v := 1) (lv' := [(5, zi (l5 + 1)), (0, zr (some l0)), (1, zi l1), (2, zr (some a15)), (3, zr l3), (4, zr (some a9))]) hC (pc := 81) hL dX1_improve_81 5 rfl zki_1 (Nat.le_of_ble_eq_true rfl) rfl ?_
        refine z_goto hC (pc := 84) (tgt := 48) dX1_improve_84 rfl ?_
        refine ZW.perm (lv' := [(0, zr (some l0)), (1, zi l1), (2, zr (some a15)), (3, zr l3), (4, zr (some a9)), (5, zi (l5 + 1))]) [1, 2, 3, 4, 5, 0] rfl ?_
        exact hk48 l0 l1 (some a15) l3 (some a9) (l5 + 1) s17 hf
def f_X1_improve_l48 (G : Nat → Nat) : Nat → Nat → Int32 → Option Nat → Option Nat → Option Nat → Int32 → zS → Option ((Int32 ⊕ (Nat × Nat)) × zS)
  | 0 => fun _ _ _ _ _ _ _ => none
  | n + 1 => f_X1_improve_b48 G (f_X1_improve_l48 G n)
theorem w_X1_improve_l48 {X : zX} (hC : ZC X RX1 cX1_improve (some .int) 3015 60221) (hL : X.nL = 6) (hno : ∀ x ∈ X.c.exceptionTable.toList, False) {r : (Int32 ⊕ (Nat × Nat))} {sF : zS} (hQ : ZQ X (zoI r, sF)) : ∀ (n : Nat) (l0 : Nat) (l1 : Int32) (l2 : Option Nat) (l3 : Option Nat) (l4 : Option Nat) (l5 : Int32) (s0 : zS) (_ : f_X1_improve_l48 X.g.1 n l0 l1 l2 l3 l4 l5 s0 = some (r, sF)), ZW X s0 48 [(0, zr (some l0)), (1, zi l1), (2, zr l2), (3, zr l3), (4, zr l4), (5, zi l5)] [] := by
  intro n
  induction n with
  | zero => intro l0 l1 l2 l3 l4 l5 s0 hf; exact absurd (show (none : Option ((Int32 ⊕ (Nat × Nat)) × zS)) = some (r, sF) from hf) (fun z => nomatch z)
  | succ n ih => intro l0 l1 l2 l3 l4 l5 s0 hf; exact w_X1_improve_b48 hC hL hno hQ (f_X1_improve_l48 X.g.1 n) ih l0 l1 l2 l3 l4 l5 s0 hf
def f_X1_improve (G : Nat → Nat) (l0 : Nat) (l1 : Int32) (s0 : zS) : Option ((Int32 ⊕ (Nat × Nat)) × zS) :=
zb (f_X1_isBetween G (l1.toInt64) 1 20 s0) fun v1 s2 =>
zx (f_X1_requireArgument G v1 s2) (fun e s => some (.inr e, s)) fun _ s4 =>
zo (zgR s4 (some l0) 0 3) fun v5 =>
zo (zrc s4 v5 2) fun a8 =>
zb (f_X3_copy G a8 s4) fun v9 s10 =>
zb (znewO G s10 2 5 [.null, .null, .null, .null, .null]) fun a11 s12 =>
zo (zgR s12 v9 2 0) fun v13 =>
zb (f_X3_init G a11 v13 s12) fun _ s15 =>
zb (znewO G s15 2 5 [.null, .null, .null, .null, .null]) fun a16 s17 =>
zo (zgR s17 v9 2 0) fun v18 =>
zb (f_X3_init G a16 v18 s17) fun _ s20 =>
f_X1_improve_l48 G 2000 l0 l1 v9 (some a11) (some a16) 0 s20
set_option maxHeartbeats 4000000 in
theorem m_X1_improve (Γ : zG) (l0 : Nat) (l1 : Int32) (s0 s1 : zS) (r : (Int32 ⊕ (Nat × Nat))) (hf : f_X1_improve Γ.1 l0 l1 s0 = some (r, s1)) : ZM Γ yX1_improve (ws_ yX1_improve cX1_improve 6 (some .int)) 3015 60221 [zr (some l0), zi l1] s0 (zoI r, s1) := by
  refine ZM.of (own := RX1) (by decide) rfl (Nat.le_of_ble_eq_true rfl) ?_
  intro X hg hC hL hno hQ hin
  subst hg
  unfold f_X1_improve at hf
  refine z_iload_n hC (pc := 0) dX1_improve_0 rfl 1 rfl ?_
  refine z_i2l hC (pc := 1) dX1_improve_1 ?_
  refine z_lconst (v := 1) hC (pc := 2) dX1_improve_2 (by decide) ?_
  refine z_ldc2 (v := 20) hC (pc := 3) q2645 dX1_improve_3 ?_
  refine z_cI (rest := []) hf (fun v1 s2 hcall => z_runS hC (pc := 6) 3 (m_X1_isBetween X.g (l1.toInt64) 1 20 s0 s2 v1 hcall) (lw_S q2013 q2014 q95 q2015) hd_X1_isBetween ⟨(Nat.le_of_ble_eq_true rfl), (Nat.le_of_ble_eq_true rfl)⟩ rfl (Nat.le_of_ble_eq_true rfl) dX1_improve_6 rfl) (fun v1 s2 hf => ?_)
  refine z_cXU (rest := []) hf (fun v3 s4 hcall => z_runS hC (pc := 9) 1 (m_X1_requireArgument X.g v1 s2 s4 v3 hcall) (lw_S q2016 q2017 q95 q2018) hd_X1_requireArgument ⟨(Nat.le_of_ble_eq_true rfl), (Nat.le_of_ble_eq_true rfl)⟩ rfl (Nat.le_of_ble_eq_true rfl) dX1_improve_9 rfl) (fun _ s4 hf => ?_) (fun e s hf => z_outI hC hQ hno hf)
  refine z_aload_n hC (pc := 12) dX1_improve_12 rfl 0 rfl ?_
  refine z_getR hC (pc := 13) in_X1 zcX1 3 (Nat.le_of_ble_eq_true rfl) (zLk.o hC q394) zsm dX1_improve_13 hf (fun v5 hf => ?_)
  obtain ⟨a8, fs6, rfl, ha7, hf⟩ := z_rcO hf
  refine z_cR (rest := []) hf (fun v9 s10 hcall => z_runV hC (pc := 16) zcX3 0 ha7 (m_X3_copy X.g a8 s4 s10 v9 hcall) (lw_V q1902 q1903 q1904 q99 q1905) hdV_X3_copy ⟨(Nat.le_of_ble_eq_true rfl), (Nat.le_of_ble_eq_true rfl)⟩ rfl (Nat.le_of_ble_eq_true rfl) dX1_improve_16 rfl) (fun v9 s10 hf => ?_)
  refine z_astore_n (lv' := [(2, zr v9), (0, zr (some l0)), (1, zi l1)]) hC (pc := 19) hL dX1_improve_19 rfl (Nat.le_of_ble_eq_true rfl) rfl ?_
  refine z_new hC (pc := 20) in_X3 tyX3 tyX3_ok zcX3 q223 q224 q99 rfl zdX3 dX1_improve_20 hf (fun a11 s12 hf => ?_)
  refine z_dup hC (pc := 23) dX1_improve_23 rfl ?_
  refine z_aload_n hC (pc := 24) dX1_improve_24 rfl 0 rfl ?_
  refine z_getR hC (pc := 25) in_X3 zcX3 0 (Nat.le_of_ble_eq_true rfl) (zLk.n hC q366) zsm dX1_improve_25 hf (fun v13 hf => ?_)
  refine z_cU (rest := [zr (some a11)]) hf (fun v14 s15 hcall => z_runI hC (pc := 28) 1 (m_X3_init X.g a11 v13 s12 s15 v14 hcall) q360 rfl q99 q358 q359 hd_X3_init ⟨(Nat.le_of_ble_eq_true rfl), (Nat.le_of_ble_eq_true rfl)⟩ rfl (Nat.le_of_ble_eq_true rfl) dX1_improve_28 rfl) (fun _ s15 hf => ?_)
  refine z_astore_n (lv' := [(3, zr (some a11)), (2, zr v9), (0, zr (some l0)), (1, zi l1)]) hC (pc := 31) hL dX1_improve_31 rfl (Nat.le_of_ble_eq_true rfl) rfl ?_
  refine z_new hC (pc := 32) in_X3 tyX3 tyX3_ok zcX3 q223 q224 q99 rfl zdX3 dX1_improve_32 hf (fun a16 s17 hf => ?_)
  refine z_dup hC (pc := 35) dX1_improve_35 rfl ?_
  refine z_aload_n hC (pc := 36) dX1_improve_36 rfl 1 rfl ?_
  refine z_getR hC (pc := 37) in_X3 zcX3 0 (Nat.le_of_ble_eq_true rfl) (zLk.n hC q366) zsm dX1_improve_37 hf (fun v18 hf => ?_)
  refine z_cU (rest := [zr (some a16)]) hf (fun v19 s20 hcall => z_runI hC (pc := 40) 1 (m_X3_init X.g a16 v18 s17 s20 v19 hcall) q360 rfl q99 q358 q359 hd_X3_init ⟨(Nat.le_of_ble_eq_true rfl), (Nat.le_of_ble_eq_true rfl)⟩ rfl (Nat.le_of_ble_eq_true rfl) dX1_improve_40 rfl) (fun _ s20 hf => ?_)
  refine z_astore (lv' := [(4, zr (some a16)), (3, zr (some a11)), (2, zr v9), (0, zr (some l0)), (1, zi l1)]) hC (pc := 43) hL dX1_improve_43 (Nat.le_of_ble_eq_true rfl) rfl ?_
  refine z_iconst (v := 0) hC (pc := 45) dX1_improve_45 zki_0 ?_
  refine z_istore (lv' := [(5, zi 0), (4, zr (some a16)), (3, zr (some a11)), (2, zr v9), (0, zr (some l0)), (1, zi l1)]) hC (pc := 46) hL dX1_improve_46 (Nat.le_of_ble_eq_true rfl) rfl ?_
  refine ZW.perm (lv' := [(0, zr (some l0)), (1, zi l1), (2, zr v9), (3, zr (some a11)), (4, zr (some a16)), (5, zi 0)]) [4, 5, 3, 2, 1, 0] rfl ?_
  exact w_X1_improve_l48 hC hL hno hQ 2000 l0 l1 v9 (some a11) (some a16) 0 s20 hf
/-! BlockingShopLaw.improve(LBlockingShop;I[J)I -/
def f_X0_improve (G : Nat → Nat) (l0 : Option Nat) (l1 : Int32) (l2 : Option Nat) (s0 : zS) : Option (Int32 × zS) :=
zo (zrc s0 l0 0) fun a3 =>
zx (f_X1_improve G a3 l1 s0) (fun e s5 => if e.1 = 26 then (some (1, s5)) else none) fun v4 s5 =>
zo (zsL G s5 l2 0 (v4.toInt64)) fun s6 =>
some (0, s6)
set_option maxHeartbeats 4000000 in
theorem m_X0_improve (Γ : zG) (l0 : Option Nat) (l1 : Int32) (l2 : Option Nat) (s0 s1 : zS) (r : Int32) (hf : f_X0_improve Γ.1 l0 l1 l2 s0 = some (r, s1)) : ZM Γ yX0_improve (wsW_ yX0_improve cX0_improve 4 (some .int) [(0, 9, 12, 13)]) 3016 60246 [zr l0, zi l1, zr l2] s0 (.inl (some (zi r)), s1) := by
  refine ZM.ofH (own := RX0) (by decide) rfl (Nat.le_of_ble_eq_true rfl) ?_
  intro X hg hC hL hno hQ hin
  subst hg
  unfold f_X0_improve at hf
  refine z_aload_n hC (pc := 0) dX0_improve_0 rfl 2 rfl ?_
  refine z_iconst (v := 0) hC (pc := 1) dX0_improve_1 zki_0 ?_
  refine z_aload_n hC (pc := 2) dX0_improve_2 rfl 0 rfl ?_
  refine z_iload_n hC (pc := 3) dX0_improve_3 rfl 1 rfl ?_
  obtain ⟨a3, fs1, rfl, ha2, hf⟩ := z_rcO hf
  refine z_cXI (rest := [zi 0, zr l2]) hf (fun v4 s5 hcall => z_runV hC (pc := 4) zcX1 1 ha2 (m_X1_improve X.g a3 l1 s0 s5 v4 hcall) (lw_V q2641 q2642 q2643 q95 q2644) hdV_X1_improve ⟨(Nat.le_of_ble_eq_true rfl), (Nat.le_of_ble_eq_true rfl)⟩ rfl (Nat.le_of_ble_eq_true rfl) dX0_improve_4 rfl) (fun v4 s5 hf => ?_) (fun e s5 hf => ?_)
  · skip
    refine z_i2l hC (pc := 7) dX0_improve_7 ?_
    refine z_last hC (pc := 8) dX0_improve_8 hf (fun s6 hf => ?_)
    refine z_goto hC (pc := 9) (tgt := 15) dX0_improve_9 rfl ?_
    refine z_iconst (v := 0) hC (pc := 15) dX0_improve_15 zki_0 ?_
    exact z_ireturn hC (pc := 16) hQ dX0_improve_16 hf
  · skip
    by_cases c7 : e.1 = 26
    · have hf := zif_t hf c7
      rw [c7]
      refine z_catch hC zcE26 [] ⟨0, 9, 12, 13⟩ [] (hno.trans rfl) (fun z hz => nomatch hz) rfl (by decide) q2007 q769 ?_
      refine z_astore_n (lv' := [(3, zr (some (e.2))), (0, zr (some a3)), (1, zi l1), (2, zr l2)]) hC (pc := 12) hL dX0_improve_12 rfl (Nat.le_of_ble_eq_true rfl) rfl ?_
      refine z_iconst (v := 1) hC (pc := 13) dX0_improve_13 zki_1 ?_
      exact z_ireturn hC (pc := 14) hQ dX0_improve_14 hf
    · have hf := zif_f hf c7
      cases hf
/-! BlockingShop.jobCost(I)I -/
def f_X1_jobCost (G : Nat → Nat) (l0 : Nat) (l1 : Int32) (s0 : zS) : Option ((Int32 ⊕ (Nat × Nat)) × zS) :=
zo (zrc s0 (some l0) 0) fun _ =>
zx (f_X1_requireJob G l0 l1 s0) (fun e s => some (.inr e, s)) fun _ s4 =>
zo (zgR s4 (some l0) 0 3) fun v5 =>
zo (zrc s4 v5 2) fun a8 =>
zb (f_X3_jobCost G a8 l1 s4) fun v9 s10 =>
some (.inl v9, s10)
set_option maxHeartbeats 4000000 in
theorem m_X1_jobCost (Γ : zG) (l0 : Nat) (l1 : Int32) (s0 s1 : zS) (r : (Int32 ⊕ (Nat × Nat))) (hf : f_X1_jobCost Γ.1 l0 l1 s0 = some (r, s1)) : ZM Γ yX1_jobCost (ws_ yX1_jobCost cX1_jobCost 2 (some .int)) 3012 60152 [zr (some l0), zi l1] s0 (zoI r, s1) := by
  refine ZM.of (own := RX1) (by decide) rfl (Nat.le_of_ble_eq_true rfl) ?_
  intro X hg hC hL hno hQ hin
  subst hg
  unfold f_X1_jobCost at hf
  refine z_aload_n hC (pc := 0) dX1_jobCost_0 rfl 0 rfl ?_
  refine z_iload_n hC (pc := 1) dX1_jobCost_1 rfl 1 rfl ?_
  obtain ⟨fs1, ha2, hf⟩ := z_rcN hf
  refine z_cXU (rest := []) hf (fun v3 s4 hcall => z_runV hC (pc := 2) zcX1 1 ha2 (m_X1_requireJob X.g l0 l1 s0 s4 v3 hcall) (lw_V q2500 q2502 qs43 q95 q2503) hdV_X1_requireJob ⟨(Nat.le_of_ble_eq_true rfl), (Nat.le_of_ble_eq_true rfl)⟩ rfl (Nat.le_of_ble_eq_true rfl) dX1_jobCost_2 rfl) (fun _ s4 hf => ?_) (fun e s hf => z_outI hC hQ hno hf)
  refine z_aload_n hC (pc := 5) dX1_jobCost_5 rfl 0 rfl ?_
  refine z_getR hC (pc := 6) in_X1 zcX1 3 (Nat.le_of_ble_eq_true rfl) (zLk.o hC q394) zsm dX1_jobCost_6 hf (fun v5 hf => ?_)
  refine z_iload_n hC (pc := 9) dX1_jobCost_9 rfl 1 rfl ?_
  obtain ⟨a8, fs6, rfl, ha7, hf⟩ := z_rcO hf
  refine z_cI (rest := []) hf (fun v9 s10 hcall => z_runV hC (pc := 10) zcX3 1 ha7 (m_X3_jobCost X.g a8 l1 s4 s10 v9 hcall) (lw_V q2579 q890 q891 q99 q892) hdV_X3_jobCost ⟨(Nat.le_of_ble_eq_true rfl), (Nat.le_of_ble_eq_true rfl)⟩ rfl (Nat.le_of_ble_eq_true rfl) dX1_jobCost_10 rfl) (fun v9 s10 hf => ?_)
  exact z_ireturnX hC (pc := 13) hQ dX1_jobCost_13 hf
/-! BlockingShopLaw.jobCost(LBlockingShop;I[J)I -/
def f_X0_jobCost (G : Nat → Nat) (l0 : Option Nat) (l1 : Int32) (l2 : Option Nat) (s0 : zS) : Option (Int32 × zS) :=
zo (zrc s0 l0 0) fun a3 =>
zx (f_X1_jobCost G a3 l1 s0) (fun e s5 => if e.1 = 25 then (some (1, s5)) else none) fun v4 s5 =>
zo (zsL G s5 l2 0 (v4.toInt64)) fun s6 =>
some (0, s6)
set_option maxHeartbeats 4000000 in
theorem m_X0_jobCost (Γ : zG) (l0 : Option Nat) (l1 : Int32) (l2 : Option Nat) (s0 s1 : zS) (r : Int32) (hf : f_X0_jobCost Γ.1 l0 l1 l2 s0 = some (r, s1)) : ZM Γ yX0_jobCost (wsW_ yX0_jobCost cX0_jobCost 4 (some .int) [(0, 9, 12, 18)]) 3013 60173 [zr l0, zi l1, zr l2] s0 (.inl (some (zi r)), s1) := by
  refine ZM.ofH (own := RX0) (by decide) rfl (Nat.le_of_ble_eq_true rfl) ?_
  intro X hg hC hL hno hQ hin
  subst hg
  unfold f_X0_jobCost at hf
  refine z_aload_n hC (pc := 0) dX0_jobCost_0 rfl 2 rfl ?_
  refine z_iconst (v := 0) hC (pc := 1) dX0_jobCost_1 zki_0 ?_
  refine z_aload_n hC (pc := 2) dX0_jobCost_2 rfl 0 rfl ?_
  refine z_iload_n hC (pc := 3) dX0_jobCost_3 rfl 1 rfl ?_
  obtain ⟨a3, fs1, rfl, ha2, hf⟩ := z_rcO hf
  refine z_cXI (rest := [zi 0, zr l2]) hf (fun v4 s5 hcall => z_runV hC (pc := 4) zcX1 1 ha2 (m_X1_jobCost X.g a3 l1 s0 s5 v4 hcall) (lw_V q2575 q2576 q2577 q95 q2578) hdV_X1_jobCost ⟨(Nat.le_of_ble_eq_true rfl), (Nat.le_of_ble_eq_true rfl)⟩ rfl (Nat.le_of_ble_eq_true rfl) dX0_jobCost_4 rfl) (fun v4 s5 hf => ?_) (fun e s5 hf => ?_)
  · skip
    refine z_i2l hC (pc := 7) dX0_jobCost_7 ?_
    refine z_last hC (pc := 8) dX0_jobCost_8 hf (fun s6 hf => ?_)
    refine z_goto hC (pc := 9) (tgt := 15) dX0_jobCost_9 rfl ?_
    refine z_iconst (v := 0) hC (pc := 15) dX0_jobCost_15 zki_0 ?_
    exact z_ireturn hC (pc := 16) hQ dX0_jobCost_16 hf
  · skip
    by_cases c7 : e.1 = 25
    · have hf := zif_t hf c7
      rw [c7]
      refine z_catch hC zcE25 [] ⟨0, 9, 12, 18⟩ [] (hno.trans rfl) (fun z hz => nomatch hz) rfl (by decide) q2480 q506 ?_
      refine z_astore_n (lv' := [(3, zr (some (e.2))), (0, zr (some a3)), (1, zi l1), (2, zr l2)]) hC (pc := 12) hL dX0_jobCost_12 rfl (Nat.le_of_ble_eq_true rfl) rfl ?_
      refine z_iconst (v := 1) hC (pc := 13) dX0_jobCost_13 zki_1 ?_
      exact z_ireturn hC (pc := 14) hQ dX0_jobCost_14 hf
    · have hf := zif_f hf c7
      cases hf
/-! BlockingShop.numberOf(II)I -/
def f_X1_numberOf (G : Nat → Nat) (l0 : Nat) (l1 : Int32) (l2 : Int32) (s0 : zS) : Option ((Int32 ⊕ (Nat × Nat)) × zS) :=
zo (zrc s0 (some l0) 0) fun _ =>
zx (f_X1_requireJob G l0 l1 s0) (fun e s => some (.inr e, s)) fun _ s4 =>
zo (zgR s4 (some l0) 0 3) fun v5 =>
zo (zgR s4 v5 2 0) fun v6 =>
zo (zgR s4 v6 3 3) fun v7 =>
zo (zrc s4 v7 15) fun a10 =>
zb (f_J5_get G a10 l1 s4) fun v11 s12 =>
zo (zcst s12 v11 9) fun _ =>
zo (zgI s12 v11 9 3) fun v13 =>
zx (f_X1_requireIndex G l2 v13 s12) (fun e s => some (.inr e, s)) fun _ s15 =>
some (.inl ((6 * l1) + l2), s15)
set_option maxHeartbeats 4000000 in
theorem m_X1_numberOf (Γ : zG) (l0 : Nat) (l1 : Int32) (l2 : Int32) (s0 s1 : zS) (r : (Int32 ⊕ (Nat × Nat))) (hf : f_X1_numberOf Γ.1 l0 l1 l2 s0 = some (r, s1)) : ZM Γ yX1_numberOf (ws_ yX1_numberOf cX1_numberOf 3 (some .int)) 10 242 [zr (some l0), zi l1, zi l2] s0 (zoI r, s1) := by
  refine ZM.of (own := RX1) (by decide) rfl (Nat.le_of_ble_eq_true rfl) ?_
  intro X hg hC hL hno hQ hin
  subst hg
  unfold f_X1_numberOf at hf
  refine z_aload_n hC (pc := 0) dX1_numberOf_0 rfl 0 rfl ?_
  refine z_iload_n hC (pc := 1) dX1_numberOf_1 rfl 1 rfl ?_
  obtain ⟨fs1, ha2, hf⟩ := z_rcN hf
  refine z_cXU (rest := []) hf (fun v3 s4 hcall => z_runV hC (pc := 2) zcX1 1 ha2 (m_X1_requireJob X.g l0 l1 s0 s4 v3 hcall) (lw_V q2500 q2502 qs43 q95 q2503) hdV_X1_requireJob ⟨(Nat.le_of_ble_eq_true rfl), (Nat.le_of_ble_eq_true rfl)⟩ rfl (Nat.le_of_ble_eq_true rfl) dX1_numberOf_2 rfl) (fun _ s4 hf => ?_) (fun e s hf => z_outI hC hQ hno hf)
  refine z_iload_n hC (pc := 5) dX1_numberOf_5 rfl 2 rfl ?_
  refine z_aload_n hC (pc := 6) dX1_numberOf_6 rfl 0 rfl ?_
  refine z_getR hC (pc := 7) in_X1 zcX1 3 (Nat.le_of_ble_eq_true rfl) (zLk.o hC q394) zsm dX1_numberOf_7 hf (fun v5 hf => ?_)
  refine z_getR hC (pc := 10) in_X3 zcX3 0 (Nat.le_of_ble_eq_true rfl) (zLk.n hC q366) zsm dX1_numberOf_10 hf (fun v6 hf => ?_)
  refine z_getR hC (pc := 13) in_X4 zcX4 3 (Nat.le_of_ble_eq_true rfl) (zLk.n hC q332) zsm dX1_numberOf_13 hf (fun v7 hf => ?_)
  refine z_iload_n hC (pc := 16) dX1_numberOf_16 rfl 1 rfl ?_
  obtain ⟨a10, fs8, rfl, ha9, hf⟩ := z_rcO hf
  refine z_cR5 (rest := [zi l2]) hf (fun v11 s12 hcall => z_runF hC (pc := 17) zcJ5 1 ha9 (m_J5_get X.g a10 l1 s4 s12 v11 hcall) (lw_app (zm4 q2513 q478 q480 q104) (lw_meth q482)) q477 q476 q481 q479 q434 (by decide +kernel) ⟨(Nat.le_of_ble_eq_true rfl), (Nat.le_of_ble_eq_true rfl)⟩ rfl (Nat.le_of_ble_eq_true rfl) dX1_numberOf_17 rfl) (fun v11 s12 hf => ?_)
  refine z_cast hC (pc := 22) zcX11 q2514 (Or.inl rfl) dX1_numberOf_22 hf (fun hf => ?_)
  refine z_getI hC (pc := 25) in_X11 zcX11 3 (Nat.le_of_ble_eq_true rfl) (zLk.n hC q2175) zsm dX1_numberOf_25 hf (fun v13 hf => ?_)
  refine z_cXU (rest := []) hf (fun v14 s15 hcall => z_runS hC (pc := 28) 2 (m_X1_requireIndex X.g l2 v13 s12 s15 v14 hcall) (lw_S q2504 q2505 q95 q2506) hd_X1_requireIndex ⟨(Nat.le_of_ble_eq_true rfl), (Nat.le_of_ble_eq_true rfl)⟩ rfl (Nat.le_of_ble_eq_true rfl) dX1_numberOf_28 rfl) (fun _ s15 hf => ?_) (fun e s hf => z_outI hC hQ hno hf)
  refine z_bipush (v := 6) hC (pc := 31) dX1_numberOf_31 zkb_6 ?_
  refine z_iload_n hC (pc := 33) dX1_numberOf_33 rfl 1 rfl ?_
  refine z_imul hC (pc := 34) dX1_numberOf_34 ?_
  refine z_iload_n hC (pc := 35) dX1_numberOf_35 rfl 2 rfl ?_
  refine z_iadd hC (pc := 36) dX1_numberOf_36 ?_
  exact z_ireturnX hC (pc := 37) hQ dX1_numberOf_37 hf
/-! BlockingShop.leave(II)I -/
def f_X1_leave (G : Nat → Nat) (l0 : Nat) (l1 : Int32) (l2 : Int32) (s0 : zS) : Option ((Int32 ⊕ (Nat × Nat)) × zS) :=
zo (zgR s0 (some l0) 0 3) fun v1 =>
zo (zrc s0 (some l0) 0) fun _ =>
zx (f_X1_numberOf G l0 l1 l2 s0) (fun e s => some (.inr e, s)) fun v4 s5 =>
zo (zrc s5 v1 2) fun a8 =>
zb (f_X3_leave G a8 v4 s5) fun v9 s10 =>
some (.inl v9, s10)
set_option maxHeartbeats 4000000 in
theorem m_X1_leave (Γ : zG) (l0 : Nat) (l1 : Int32) (l2 : Int32) (s0 s1 : zS) (r : (Int32 ⊕ (Nat × Nat))) (hf : f_X1_leave Γ.1 l0 l1 l2 s0 = some (r, s1)) : ZM Γ yX1_leave (ws_ yX1_leave cX1_leave 3 (some .int)) 11 264 [zr (some l0), zi l1, zi l2] s0 (zoI r, s1) := by
  refine ZM.of (own := RX1) (by decide) rfl (Nat.le_of_ble_eq_true rfl) ?_
  intro X hg hC hL hno hQ hin
  subst hg
  unfold f_X1_leave at hf
  refine z_aload_n hC (pc := 0) dX1_leave_0 rfl 0 rfl ?_
  refine z_getR hC (pc := 1) in_X1 zcX1 3 (Nat.le_of_ble_eq_true rfl) (zLk.o hC q394) zsm dX1_leave_1 hf (fun v1 hf => ?_)
  refine z_aload_n hC (pc := 4) dX1_leave_4 rfl 0 rfl ?_
  refine z_iload_n hC (pc := 5) dX1_leave_5 rfl 1 rfl ?_
  refine z_iload_n hC (pc := 6) dX1_leave_6 rfl 2 rfl ?_
  obtain ⟨fs2, ha3, hf⟩ := z_rcN hf
  refine z_cXI (rest := [zr v1]) hf (fun v4 s5 hcall => z_runV hC (pc := 7) zcX1 2 ha3 (m_X1_numberOf X.g l0 l1 l2 s0 s5 v4 hcall) (lw_V q2522 q2524 qs44 q95 q2525) hdV_X1_numberOf ⟨(Nat.le_of_ble_eq_true rfl), (Nat.le_of_ble_eq_true rfl)⟩ rfl (Nat.le_of_ble_eq_true rfl) dX1_leave_7 rfl) (fun v4 s5 hf => ?_) (fun e s hf => z_outI hC hQ hno hf)
  obtain ⟨a8, fs6, rfl, ha7, hf⟩ := z_rcO hf
  refine z_cI (rest := []) hf (fun v9 s10 hcall => z_runV hC (pc := 10) zcX3 1 ha7 (m_X3_leave X.g a8 v4 s5 s10 v9 hcall) (lw_V q2560 q2561 q2562 q99 q2563) hdV_X3_leave ⟨(Nat.le_of_ble_eq_true rfl), (Nat.le_of_ble_eq_true rfl)⟩ rfl (Nat.le_of_ble_eq_true rfl) dX1_leave_10 rfl) (fun v9 s10 hf => ?_)
  exact z_ireturnX hC (pc := 13) hQ dX1_leave_13 hf
/-! BlockingShopLaw.leave(LBlockingShop;II[J)I -/
def f_X0_leave (G : Nat → Nat) (l0 : Option Nat) (l1 : Int32) (l2 : Int32) (l3 : Option Nat) (s0 : zS) : Option (Int32 × zS) :=
zo (zrc s0 l0 0) fun a3 =>
zx (f_X1_leave G a3 l1 l2 s0) (fun e s5 => if e.1 = 25 then (some (1, s5)) else none) fun v4 s5 =>
zo (zsL G s5 l3 0 (v4.toInt64)) fun s6 =>
some (0, s6)
set_option maxHeartbeats 4000000 in
theorem m_X0_leave (Γ : zG) (l0 : Option Nat) (l1 : Int32) (l2 : Int32) (l3 : Option Nat) (s0 s1 : zS) (r : Int32) (hf : f_X0_leave Γ.1 l0 l1 l2 l3 s0 = some (r, s1)) : ZM Γ yX0_leave (wsW_ yX0_leave cX0_leave 5 (some .int) [(0, 10, 13, 18)]) 12 286 [zr l0, zi l1, zi l2, zr l3] s0 (.inl (some (zi r)), s1) := by
  refine ZM.ofH (own := RX0) (by decide) rfl (Nat.le_of_ble_eq_true rfl) ?_
  intro X hg hC hL hno hQ hin
  subst hg
  unfold f_X0_leave at hf
  refine z_aload_n hC (pc := 0) dX0_leave_0 rfl 3 rfl ?_
  refine z_iconst (v := 0) hC (pc := 1) dX0_leave_1 zki_0 ?_
  refine z_aload_n hC (pc := 2) dX0_leave_2 rfl 0 rfl ?_
  refine z_iload_n hC (pc := 3) dX0_leave_3 rfl 1 rfl ?_
  refine z_iload_n hC (pc := 4) dX0_leave_4 rfl 2 rfl ?_
  obtain ⟨a3, fs1, rfl, ha2, hf⟩ := z_rcO hf
  refine z_cXI (rest := [zi 0, zr l3]) hf (fun v4 s5 hcall => z_runV hC (pc := 5) zcX1 2 ha2 (m_X1_leave X.g a3 l1 l2 s0 s5 v4 hcall) (lw_V q2556 q2557 q2558 q95 q2559) hdV_X1_leave ⟨(Nat.le_of_ble_eq_true rfl), (Nat.le_of_ble_eq_true rfl)⟩ rfl (Nat.le_of_ble_eq_true rfl) dX0_leave_5 rfl) (fun v4 s5 hf => ?_) (fun e s5 hf => ?_)
  · skip
    refine z_i2l hC (pc := 8) dX0_leave_8 ?_
    refine z_last hC (pc := 9) dX0_leave_9 hf (fun s6 hf => ?_)
    refine z_goto hC (pc := 10) (tgt := 17) dX0_leave_10 rfl ?_
    refine z_iconst (v := 0) hC (pc := 17) dX0_leave_17 zki_0 ?_
    exact z_ireturn hC (pc := 18) hQ dX0_leave_18 hf
  · skip
    by_cases c7 : e.1 = 25
    · have hf := zif_t hf c7
      rw [c7]
      refine z_catch hC zcE25 [] ⟨0, 10, 13, 18⟩ [] (hno.trans rfl) (fun z hz => nomatch hz) rfl (by decide) q2480 q506 ?_
      refine z_astore (lv' := [(4, zr (some (e.2))), (0, zr (some a3)), (1, zi l1), (2, zi l2), (3, zr l3)]) hC (pc := 13) hL dX0_leave_13 (Nat.le_of_ble_eq_true rfl) rfl ?_
      refine z_iconst (v := 1) hC (pc := 15) dX0_leave_15 zki_1 ?_
      exact z_ireturn hC (pc := 16) hQ dX0_leave_16 hf
    · have hf := zif_f hf c7
      cases hf
/-! BlockingShop$Parser.<init>(LBlockingShop;I)V -/
def f_X9_init (G : Nat → Nat) (l0 : Nat) (l1 : Option Nat) (l2 : Int32) (s0 : zS) : Option (Unit × zS) :=
zo (zput G s0 (some l0) 7 7 (va_rf l1)) fun s1 =>
zb (znewA G s1 0 36 (.inl fun _ => 0)) fun a2 s3 =>
zo (zput G s3 (some l0) 7 1 (va_rf (some a2))) fun s4 =>
zo (zput G s4 (some l0) 7 0 (.int l2)) fun s5 =>
some ((), s5)
set_option maxHeartbeats 4000000 in
theorem m_X9_init (Γ : zG) (l0 : Nat) (l1 : Option Nat) (l2 : Int32) (s0 s1 : zS) (r : Unit) (hf : f_X9_init Γ.1 l0 l1 l2 s0 = some (r, s1)) : ZM Γ yX9_init (ws_ yX9_init cX9_init 3 none) 1 12 [zr (some l0), zr l1, zi l2] s0 (.inl none, s1) := by
  refine ZM.of (own := RX9) (by decide) rfl (Nat.le_of_ble_eq_true rfl) ?_
  intro X hg hC hL hno hQ hin
  subst hg
  unfold f_X9_init at hf
  refine z_aload_n hC (pc := 0) dX9_init_0 rfl 0 rfl ?_
  refine z_aload_n hC (pc := 1) dX9_init_1 rfl 1 rfl ?_
  refine z_putV (v := zr l1) hC (pc := 2) in_X9 tyX9 tyX9_ok nmX9 zcX9 7 (Nat.le_of_ble_eq_true rfl) (zLk.o hC q2037) zsm (Or.inr ⟨rfl, hin, rfl, rfl⟩) rfl (zfr l1) dX9_init_2 hf (fun s1 hf => ?_)
  refine z_aload_n hC (pc := 5) dX9_init_5 rfl 0 rfl ?_
  refine z_objInit hC (pc := 6) q2029 q163 q164 (Nat.le_of_ble_eq_true rfl) (Nat.le_of_ble_eq_true rfl) dX9_init_6 ?_
  refine z_aload_n hC (pc := 9) dX9_init_9 rfl 0 rfl ?_
  refine z_bipush (v := 36) hC (pc := 10) dX9_init_10 zkb_36 ?_
  refine z_newa (t := 0) (ty := .int) hC (pc := 12) rfl rfl q222 (.inl fun _ => 0) (fun _ => rfl) (by decide) dX9_init_12 hf (fun a2 s3 hf => ?_)
  refine z_putV (v := zr (some a2)) hC (pc := 14) in_X9 tyX9 tyX9_ok nmX9 zcX9 1 (Nat.le_of_ble_eq_true rfl) (zLk.o hC q2031) zsm (Or.inr ⟨rfl, hin, rfl, rfl⟩) rfl (zfa (some a2)) dX9_init_14 hf (fun s4 hf => ?_)
  refine z_aload_n hC (pc := 17) dX9_init_17 rfl 0 rfl ?_
  refine z_iload_n hC (pc := 18) dX9_init_18 rfl 2 rfl ?_
  refine z_putV (v := zi l2) hC (pc := 19) in_X9 tyX9 tyX9_ok nmX9 zcX9 0 (Nat.le_of_ble_eq_true rfl) (zLk.o hC q2030) zsm (Or.inr ⟨rfl, hin, rfl, rfl⟩) rfl rfl dX9_init_19 hf (fun s5 hf => ?_)
  exact z_return hC (pc := 22) hQ dX9_init_22 hf
/-! BlockingShop$Machine.<init>(ZI)V -/
def f_X7_init (G : Nat → Nat) (l0 : Nat) (l1 : Int32) (l2 : Int32) (s0 : zS) : Option (Unit × zS) :=
zo (zputN G s0 (some l0) 5 0 .boolean l1) fun s1 =>
zo (zput G s1 (some l0) 5 1 (.int l2)) fun s2 =>
some ((), s2)
set_option maxHeartbeats 4000000 in
theorem m_X7_init (Γ : zG) (l0 : Nat) (l1 : Int32) (l2 : Int32) (s0 s1 : zS) (r : Unit) (hf : f_X7_init Γ.1 l0 l1 l2 s0 = some (r, s1)) : ZM Γ yX7_init (ws_ yX7_init cX7_init 3 none) 1 12 [zr (some l0), zi l1, zi l2] s0 (.inl none, s1) := by
  refine ZM.of (own := RX7) (by decide) rfl (Nat.le_of_ble_eq_true rfl) ?_
  intro X hg hC hL hno hQ hin
  subst hg
  unfold f_X7_init at hf
  refine z_aload_n hC (pc := 0) dX7_init_0 rfl 0 rfl ?_
  refine z_objInit hC (pc := 1) q312 q163 q164 (Nat.le_of_ble_eq_true rfl) (Nat.le_of_ble_eq_true rfl) dX7_init_1 ?_
  refine z_aload_n hC (pc := 4) dX7_init_4 rfl 0 rfl ?_
  refine z_iload_n hC (pc := 5) dX7_init_5 rfl 1 rfl ?_
  refine z_putN hC (pc := 6) in_X7 tyX7 tyX7_ok nmX7 zcX7 0 (Nat.le_of_ble_eq_true rfl) (zLk.o hC q313) zsm (Or.inr ⟨rfl, hin, rfl, rfl⟩) (Or.inl rfl) dX7_init_6 hf (fun s1 hf => ?_)
  refine z_aload_n hC (pc := 9) dX7_init_9 rfl 0 rfl ?_
  refine z_iload_n hC (pc := 10) dX7_init_10 rfl 2 rfl ?_
  refine z_putV (v := zi l2) hC (pc := 11) in_X7 tyX7 tyX7_ok nmX7 zcX7 1 (Nat.le_of_ble_eq_true rfl) (zLk.o hC q315) zsm (Or.inr ⟨rfl, hin, rfl, rfl⟩) rfl rfl dX7_init_11 hf (fun s2 hf => ?_)
  exact z_return hC (pc := 14) hQ dX7_init_14 hf
/-! BlockingShop$Node.<init>()V -/
def f_X5_init_X6 (G : Nat → Nat) (l0 : Nat) (s0 : zS) : Option (Unit × zS) :=
some ((), s0)
set_option maxHeartbeats 4000000 in
theorem m_X5_init_X6 (Γ : zG) (l0 : Nat) (s0 s1 : zS) (r : Unit) (hf : f_X5_init_X6 Γ.1 l0 s0 = some (r, s1)) : ZM Γ yX5_init (ws_ yX5_init cX5_init 1 none) 1 12 [zr (some l0)] s0 (.inl none, s1) := by
  refine ZM.of (own := RX5) (by decide) rfl (Nat.le_of_ble_eq_true rfl) ?_
  intro X hg hC hL hno hQ hin
  subst hg
  unfold f_X5_init_X6 at hf
  refine z_aload_n hC (pc := 0) dX5_init_0 rfl 0 rfl ?_
  refine z_objInit hC (pc := 1) q302 q163 q164 (Nat.le_of_ble_eq_true rfl) (Nat.le_of_ble_eq_true rfl) dX5_init_1 ?_
  exact z_return hC (pc := 4) hQ dX5_init_4 hf
/-! BlockingShop$Variable.<init>(Ljava/lang/String;)V -/
def f_X6_init (G : Nat → Nat) (l0 : Nat) (l1 : Option Nat) (s0 : zS) : Option (Unit × zS) :=
zb (f_X5_init_X6 G l0 s0) fun _ s2 =>
zo (zput G s2 (some l0) 4 0 (va_rf l1)) fun s3 =>
some ((), s3)
set_option maxHeartbeats 4000000 in
theorem m_X6_init (Γ : zG) (l0 : Nat) (l1 : Option Nat) (s0 s1 : zS) (r : Unit) (hf : f_X6_init Γ.1 l0 l1 s0 = some (r, s1)) : ZM Γ yX6_init (ws_ yX6_init cX6_init 2 none) 2 32 [zr (some l0), zr l1] s0 (.inl none, s1) := by
  refine ZM.of (own := RX6) (by decide) rfl (Nat.le_of_ble_eq_true rfl) ?_
  intro X hg hC hL hno hQ hin
  subst hg
  unfold f_X6_init at hf
  refine z_aload_n hC (pc := 0) dX6_init_0 rfl 0 rfl ?_
  refine z_cU (rest := []) hf (fun v1 s2 hcall => z_runIN hC (pc := 1) 0 (m_X5_init_X6 X.g l0 s0 s2 v1 hcall) q301 rfl q105 q299 q300 hd_X5_init ⟨(Nat.le_of_ble_eq_true rfl), (Nat.le_of_ble_eq_true rfl)⟩ rfl (Nat.le_of_ble_eq_true rfl) dX6_init_1 rfl) (fun _ s2 hf => ?_)
  refine z_aload_n hC (pc := 4) dX6_init_4 rfl 0 rfl ?_
  refine z_aload_n hC (pc := 5) dX6_init_5 rfl 1 rfl ?_
  refine z_putV (v := zr l1) hC (pc := 6) in_X6 tyX6 tyX6_ok nmX6 zcX6 0 (Nat.le_of_ble_eq_true rfl) (zLk.o hC q303) zsm (Or.inr ⟨rfl, hin, rfl, rfl⟩) rfl (zfr l1) dX6_init_6 hf (fun s3 hf => ?_)
  exact z_return hC (pc := 9) hQ dX6_init_9 hf
/-! BlockingShop$Layout.<init>(IZ)V -/
def f_X4_init (G : Nat → Nat) (l0 : Nat) (l1 : Int32) (l2 : Int32) (s0 : zS) : Option (Unit × zS) :=
zb (znewO G s0 14 9 [.null, .null, .null, .null, .int 0, .int 0, .null, .null, .null]) fun a1 s2 =>
zb (f_J3_init G a1 s2) fun _ s4 =>
zo (zput G s4 (some l0) 3 2 (va_rf (some a1))) fun s5 =>
zb (znewO G s5 15 3 [.int 0, .null, .int 0]) fun a6 s7 =>
zb (f_J5_init G a6 s7) fun _ s9 =>
zo (zput G s9 (some l0) 3 3 (va_rf (some a6))) fun s10 =>
zb (znewA G s10 0 36 (.inl fun _ => 0)) fun a11 s12 =>
zo (zput G s12 (some l0) 3 4 (va_rf (some a11))) fun s13 =>
zb (znewO G s13 4 1 [.null]) fun a14 s15 =>
zb (f_X6_init G a14 (some (G 15)) s15) fun _ s17 =>
zo (zput G s17 (some l0) 3 5 (va_rf (some a14))) fun s18 =>
zb (znewO G s18 5 2 [.int 0, .int 0]) fun a19 s20 =>
zb (f_X7_init G a19 1 0 s20) fun _ s22 =>
zo (zput G s22 (some l0) 3 6 (va_rf (some a19))) fun s23 =>
zo (zput G s23 (some l0) 3 0 (.int l1)) fun s24 =>
zo (zputN G s24 (some l0) 3 1 .boolean l2) fun s25 =>
some ((), s25)
set_option maxHeartbeats 4000000 in
theorem m_X4_init (Γ : zG) (l0 : Nat) (l1 : Int32) (l2 : Int32) (s0 s1 : zS) (r : Unit) (hf : f_X4_init Γ.1 l0 l1 l2 s0 = some (r, s1)) : ZM Γ yX4_init (ws_ yX4_init cX4_init 3 none) 4 72 [zr (some l0), zi l1, zi l2] s0 (.inl none, s1) := by
  refine ZM.of (own := RX4) (by decide) rfl (Nat.le_of_ble_eq_true rfl) ?_
  intro X hg hC hL hno hQ hin
  subst hg
  unfold f_X4_init at hf
  refine z_aload_n hC (pc := 0) dX4_init_0 rfl 0 rfl ?_
  refine z_objInit hC (pc := 1) q230 q163 q164 (Nat.le_of_ble_eq_true rfl) (Nat.le_of_ble_eq_true rfl) dX4_init_1 ?_
  refine z_aload_n hC (pc := 4) dX4_init_4 rfl 0 rfl ?_
  refine z_new hC (pc := 5) in_J3 tyJ3 tyJ3_ok zcJ3 q231 q232 q102 rfl zdJ3 dX4_init_5 hf (fun a1 s2 hf => ?_)
  refine z_dup hC (pc := 8) dX4_init_8 rfl ?_
  refine z_cU (rest := [zr (some a1), zr (some l0)]) hf (fun v3 s4 hcall => z_runI hC (pc := 9) 0 (m_J3_init X.g a1 s2 s4 v3 hcall) q235 rfl q102 q233 q234 hd_J3_init ⟨(Nat.le_of_ble_eq_true rfl), (Nat.le_of_ble_eq_true rfl)⟩ rfl (Nat.le_of_ble_eq_true rfl) dX4_init_9 rfl) (fun _ s4 hf => ?_)
  refine z_putV (v := zr (some a1)) hC (pc := 12) in_X4 tyX4 tyX4_ok nmX4 zcX4 2 (Nat.le_of_ble_eq_true rfl) (zLk.o hC q328) zsm (Or.inr ⟨rfl, hin, rfl, rfl⟩) rfl (zfr (some a1)) dX4_init_12 hf (fun s5 hf => ?_)
  refine z_aload_n hC (pc := 15) dX4_init_15 rfl 0 rfl ?_
  refine z_new hC (pc := 16) in_J5 tyJ5 tyJ5_ok zcJ5 q263 q264 q104 rfl zdJ5 dX4_init_16 hf (fun a6 s7 hf => ?_)
  refine z_dup hC (pc := 19) dX4_init_19 rfl ?_
  refine z_cU (rest := [zr (some a6), zr (some l0)]) hf (fun v8 s9 hcall => z_runI hC (pc := 20) 0 (m_J5_init X.g a6 s7 s9 v8 hcall) q267 rfl q104 q265 q266 hd_J5_init ⟨(Nat.le_of_ble_eq_true rfl), (Nat.le_of_ble_eq_true rfl)⟩ rfl (Nat.le_of_ble_eq_true rfl) dX4_init_20 rfl) (fun _ s9 hf => ?_)
  refine z_putV (v := zr (some a6)) hC (pc := 23) in_X4 tyX4 tyX4_ok nmX4 zcX4 3 (Nat.le_of_ble_eq_true rfl) (zLk.o hC q330) zsm (Or.inr ⟨rfl, hin, rfl, rfl⟩) rfl (zfr (some a6)) dX4_init_23 hf (fun s10 hf => ?_)
  refine z_aload_n hC (pc := 26) dX4_init_26 rfl 0 rfl ?_
  refine z_bipush (v := 36) hC (pc := 27) dX4_init_27 zkb_36 ?_
  refine z_newa (t := 0) (ty := .int) hC (pc := 29) rfl rfl q222 (.inl fun _ => 0) (fun _ => rfl) (by decide) dX4_init_29 hf (fun a11 s12 hf => ?_)
  refine z_putV (v := zr (some a11)) hC (pc := 31) in_X4 tyX4 tyX4_ok nmX4 zcX4 4 (Nat.le_of_ble_eq_true rfl) (zLk.o hC q335) zsm (Or.inr ⟨rfl, hin, rfl, rfl⟩) rfl (zfa (some a11)) dX4_init_31 hf (fun s13 hf => ?_)
  refine z_aload_n hC (pc := 34) dX4_init_34 rfl 0 rfl ?_
  refine z_new hC (pc := 35) in_X6 tyX6 tyX6_ok zcX6 q293 q294 q106 rfl zdX6 dX4_init_35 hf (fun a14 s15 hf => ?_)
  refine z_dup hC (pc := 38) dX4_init_38 rfl ?_
  refine z_lit (k := 15) hC (pc := 39) (List.mem_of_getElem? (i := 0) rfl) dX4_init_39 ?_
  refine z_cU (rest := [zr (some a14), zr (some l0)]) hf (fun v16 s17 hcall => z_runI hC (pc := 41) 1 (m_X6_init X.g a14 (some (X.g.1 15)) s15 s17 v16 hcall) q298 rfl q106 q296 q297 hd_X6_init ⟨(Nat.le_of_ble_eq_true rfl), (Nat.le_of_ble_eq_true rfl)⟩ rfl (Nat.le_of_ble_eq_true rfl) dX4_init_41 rfl) (fun _ s17 hf => ?_)
  refine z_putV (v := zr (some a14)) hC (pc := 44) in_X4 tyX4 tyX4_ok nmX4 zcX4 5 (Nat.le_of_ble_eq_true rfl) (zLk.o hC q339) zsm (Or.inl rfl) rfl (zfr (some a14)) dX4_init_44 hf (fun s18 hf => ?_)
  refine z_aload_n hC (pc := 47) dX4_init_47 rfl 0 rfl ?_
  refine z_new hC (pc := 48) in_X7 tyX7 tyX7_ok zcX7 q307 q308 q107 rfl zdX7 dX4_init_48 hf (fun a19 s20 hf => ?_)
  refine z_dup hC (pc := 51) dX4_init_51 rfl ?_
  refine z_iconst (v := 1) hC (pc := 52) dX4_init_52 zki_1 ?_
  refine z_iconst (v := 0) hC (pc := 53) dX4_init_53 zki_0 ?_
  refine z_cU (rest := [zr (some a19), zr (some l0)]) hf (fun v21 s22 hcall => z_runI hC (pc := 54) 2 (m_X7_init X.g a19 1 0 s20 s22 v21 hcall) q311 rfl q107 q309 q310 hd_X7_init ⟨(Nat.le_of_ble_eq_true rfl), (Nat.le_of_ble_eq_true rfl)⟩ rfl (Nat.le_of_ble_eq_true rfl) dX4_init_54 rfl) (fun _ s22 hf => ?_)
  refine z_putV (v := zr (some a19)) hC (pc := 57) in_X4 tyX4 tyX4_ok nmX4 zcX4 6 (Nat.le_of_ble_eq_true rfl) (zLk.o hC q342) zsm (Or.inr ⟨rfl, hin, rfl, rfl⟩) rfl (zfr (some a19)) dX4_init_57 hf (fun s23 hf => ?_)
  refine z_aload_n hC (pc := 60) dX4_init_60 rfl 0 rfl ?_
  refine z_iload_n hC (pc := 61) dX4_init_61 rfl 1 rfl ?_
  refine z_putV (v := zi l1) hC (pc := 62) in_X4 tyX4 tyX4_ok nmX4 zcX4 0 (Nat.le_of_ble_eq_true rfl) (zLk.o hC q322) zsm (Or.inr ⟨rfl, hin, rfl, rfl⟩) rfl rfl dX4_init_62 hf (fun s24 hf => ?_)
  refine z_aload_n hC (pc := 65) dX4_init_65 rfl 0 rfl ?_
  refine z_iload_n hC (pc := 66) dX4_init_66 rfl 2 rfl ?_
  refine z_putN hC (pc := 67) in_X4 tyX4 tyX4_ok nmX4 zcX4 1 (Nat.le_of_ble_eq_true rfl) (zLk.o hC q326) zsm (Or.inr ⟨rfl, hin, rfl, rfl⟩) (Or.inl rfl) dX4_init_67 hf (fun s25 hf => ?_)
  exact z_return hC (pc := 70) hQ dX4_init_70 hf
/-! BlockingShop$Parser.peek()I -/
def f_X9_peek_b41 (G : Nat → Nat) (l0 : Nat) (s0 : zS) : Option (Int32 × zS) :=
zo (zgI s0 (some l0) 7 3) fun v1 =>
zo (zgI s0 (some l0) 7 0) fun v2 =>
if v2 ≤ v1 then (some ((-1), s0))
else (zo (zgR s0 (some l0) 7 7) fun v4 =>
zo (zgR s0 v4 0 0) fun v5 =>
zo (zgI s0 (some l0) 7 3) fun v6 =>
zo (zaI s0 v5 2 v6) fun v7 =>
some ((v7 &&& 255), s0))
set_option maxHeartbeats 4000000 in
theorem w_X9_peek_b41 {X : zX} (hC : ZC X RX9 cX9_peek (some .int) 1 0) (hL : X.nL = 1) (hno : ∀ x ∈ X.c.exceptionTable.toList, False) {r : Int32} {sF : zS} (hQ : ZQ X (.inl (some (zi r)), sF)) (l0 : Nat) (s0 : zS) (hf : f_X9_peek_b41 X.g.1 l0 s0 = some (r, sF)) : ZW X s0 41 [(0, zr (some l0))] [] := by
  unfold f_X9_peek_b41 at hf
  refine z_aload_n hC (pc := 41) dX9_peek_41 rfl 0 rfl ?_
  refine z_getI hC (pc := 42) in_X9 zcX9 3 (Nat.le_of_ble_eq_true rfl) (zLk.o hC q2033) zsm dX9_peek_42 hf (fun v1 hf => ?_)
  refine z_aload_n hC (pc := 45) dX9_peek_45 rfl 0 rfl ?_
  refine z_getI hC (pc := 46) in_X9 zcX9 0 (Nat.le_of_ble_eq_true rfl) (zLk.o hC q2030) zsm dX9_peek_46 hf (fun v2 hf => ?_)
  refine z_icmp_ge hC (pc := 49) (tgt := 71) dX9_peek_49 rfl (fun c3 => ?_) (fun c3 => ?_)
  · have hf := zif_t hf c3
    refine z_iconst (v := (-1)) hC (pc := 71) dX9_peek_71 zki_m1 ?_
    exact z_ireturn hC (pc := 72) hQ dX9_peek_72 hf
  · have hf := zif_f hf c3
    refine z_aload_n hC (pc := 52) dX9_peek_52 rfl 0 rfl ?_
    refine z_getR hC (pc := 53) in_X9 zcX9 7 (Nat.le_of_ble_eq_true rfl) (zLk.o hC q2037) zsm dX9_peek_53 hf (fun v4 hf => ?_)
    refine z_getR hC (pc := 56) in_X1 zcX1 0 (Nat.le_of_ble_eq_true rfl) (zLk.n hC q391) zsm dX9_peek_56 hf (fun v5 hf => ?_)
    refine z_aload_n hC (pc := 59) dX9_peek_59 rfl 0 rfl ?_
    refine z_getI hC (pc := 60) in_X9 zcX9 3 (Nat.le_of_ble_eq_true rfl) (zLk.o hC q2033) zsm dX9_peek_60 hf (fun v6 hf => ?_)
    refine z_bald hC (pc := 63) dX9_peek_63 hf (fun v7 hf => ?_)
    refine z_sipush (v := 255) hC (pc := 64) dX9_peek_64 zks_255 ?_
    refine z_iand hC (pc := 67) dX9_peek_67 ?_
    refine z_goto hC (pc := 68) (tgt := 72) dX9_peek_68 rfl ?_
    exact z_ireturn hC (pc := 72) hQ dX9_peek_72 hf
def f_X9_peek_b0 (G : Nat → Nat) (k0 : Nat → zS → Option (Int32 × zS)) (l0 : Nat) (s0 : zS) : Option (Int32 × zS) :=
zo (zgI s0 (some l0) 7 3) fun v1 =>
zo (zgI s0 (some l0) 7 0) fun v2 =>
if v2 ≤ v1 then (f_X9_peek_b41 G l0 s0)
else (zo (zgR s0 (some l0) 7 7) fun v4 =>
zo (zgR s0 v4 0 0) fun v5 =>
zo (zgI s0 (some l0) 7 3) fun v6 =>
zo (zaI s0 v5 2 v6) fun v7 =>
if v7 = 32 then (zo (zgI s0 (some l0) 7 3) fun v9 =>
zo (zput G s0 (some l0) 7 3 (.int (v9 + 1))) fun s10 =>
k0 l0 s10)
else (f_X9_peek_b41 G l0 s0))
set_option maxHeartbeats 4000000 in
theorem w_X9_peek_b0 {X : zX} (hC : ZC X RX9 cX9_peek (some .int) 1 0) (hL : X.nL = 1) (hno : ∀ x ∈ X.c.exceptionTable.toList, False) {r : Int32} {sF : zS} (hQ : ZQ X (.inl (some (zi r)), sF)) (k0 : Nat → zS → Option (Int32 × zS)) (hk0 : ∀ (l0 : Nat) (s0 : zS), k0 l0 s0 = some (r, sF) → ZW X s0 0 [(0, zr (some l0))] []) (l0 : Nat) (s0 : zS) (hf : f_X9_peek_b0 X.g.1 k0 l0 s0 = some (r, sF)) : ZW X s0 0 [(0, zr (some l0))] [] := by
  unfold f_X9_peek_b0 at hf
  refine z_aload_n hC (pc := 0) dX9_peek_0 rfl 0 rfl ?_
  refine z_getI hC (pc := 1) in_X9 zcX9 3 (Nat.le_of_ble_eq_true rfl) (zLk.o hC q2033) zsm dX9_peek_1 hf (fun v1 hf => ?_)
  refine z_aload_n hC (pc := 4) dX9_peek_4 rfl 0 rfl ?_
  refine z_getI hC (pc := 5) in_X9 zcX9 0 (Nat.le_of_ble_eq_true rfl) (zLk.o hC q2030) zsm dX9_peek_5 hf (fun v2 hf => ?_)
  refine z_icmp_ge hC (pc := 8) (tgt := 41) dX9_peek_8 rfl (fun c3 => ?_) (fun c3 => ?_)
  · have hf := zif_t hf c3
    exact w_X9_peek_b41 hC hL hno hQ l0 s0 hf
  · have hf := zif_f hf c3
    refine z_aload_n hC (pc := 11) dX9_peek_11 rfl 0 rfl ?_
    refine z_getR hC (pc := 12) in_X9 zcX9 7 (Nat.le_of_ble_eq_true rfl) (zLk.o hC q2037) zsm dX9_peek_12 hf (fun v4 hf => ?_)
    refine z_getR hC (pc := 15) in_X1 zcX1 0 (Nat.le_of_ble_eq_true rfl) (zLk.n hC q391) zsm dX9_peek_15 hf (fun v5 hf => ?_)
    refine z_aload_n hC (pc := 18) dX9_peek_18 rfl 0 rfl ?_
    refine z_getI hC (pc := 19) in_X9 zcX9 3 (Nat.le_of_ble_eq_true rfl) (zLk.o hC q2033) zsm dX9_peek_19 hf (fun v6 hf => ?_)
    refine z_bald hC (pc := 22) dX9_peek_22 hf (fun v7 hf => ?_)
    refine z_bipush (v := 32) hC (pc := 23) dX9_peek_23 zkb_32 ?_
    refine z_icmp_ne hC (pc := 25) (tgt := 41) dX9_peek_25 rfl (fun c8 => ?_) (fun c8 => ?_)
    · have hf := zif_f hf c8
      exact w_X9_peek_b41 hC hL hno hQ l0 s0 hf
    · have hf := zif_t hf c8
      refine z_aload_n hC (pc := 28) dX9_peek_28 rfl 0 rfl ?_
      refine z_dup hC (pc := 29) dX9_peek_29 rfl ?_
      refine z_getI hC (pc := 30) in_X9 zcX9 3 (Nat.le_of_ble_eq_true rfl) (zLk.o hC q2033) zsm dX9_peek_30 hf (fun v9 hf => ?_)
      refine z_iconst (v := 1) hC (pc := 33) dX9_peek_33 zki_1 ?_
      refine z_iadd hC (pc := 34) dX9_peek_34 ?_
      refine z_putV (v := zi (v9 + 1)) hC (pc := 35) in_X9 tyX9 tyX9_ok nmX9 zcX9 3 (Nat.le_of_ble_eq_true rfl) (zLk.o hC q2033) zsm (Or.inl rfl) rfl rfl dX9_peek_35 hf (fun s10 hf => ?_)
      refine z_goto hC (pc := 38) (tgt := 0) dX9_peek_38 rfl ?_
      exact hk0 l0 s10 hf
def f_X9_peek_l0 (G : Nat → Nat) : Nat → Nat → zS → Option (Int32 × zS)
  | 0 => fun _ _ => none
  | n + 1 => f_X9_peek_b0 G (f_X9_peek_l0 G n)
theorem w_X9_peek_l0 {X : zX} (hC : ZC X RX9 cX9_peek (some .int) 1 0) (hL : X.nL = 1) (hno : ∀ x ∈ X.c.exceptionTable.toList, False) {r : Int32} {sF : zS} (hQ : ZQ X (.inl (some (zi r)), sF)) : ∀ (n : Nat) (l0 : Nat) (s0 : zS) (_ : f_X9_peek_l0 X.g.1 n l0 s0 = some (r, sF)), ZW X s0 0 [(0, zr (some l0))] [] := by
  intro n
  induction n with
  | zero => intro l0 s0 hf; exact absurd (show (none : Option (Int32 × zS)) = some (r, sF) from hf) (fun z => nomatch z)
  | succ n ih => intro l0 s0 hf; exact w_X9_peek_b0 hC hL hno hQ (f_X9_peek_l0 X.g.1 n) ih l0 s0 hf
def f_X9_peek (G : Nat → Nat) (l0 : Nat) (s0 : zS) : Option (Int32 × zS) :=
f_X9_peek_l0 G 2000 l0 s0
set_option maxHeartbeats 4000000 in
theorem m_X9_peek (Γ : zG) (l0 : Nat) (s0 s1 : zS) (r : Int32) (hf : f_X9_peek Γ.1 l0 s0 = some (r, s1)) : ZM Γ yX9_peek (ws_ yX9_peek cX9_peek 1 (some .int)) 1 0 [zr (some l0)] s0 (.inl (some (zi r)), s1) := by
  refine ZM.of (own := RX9) (by decide) rfl (Nat.le_of_ble_eq_true rfl) ?_
  intro X hg hC hL hno hQ hin
  subst hg
  unfold f_X9_peek at hf
  exact w_X9_peek_l0 hC hL hno hQ 2000 l0 s0 hf
/-! BlockingShop$SetupException.<init>(II)V -/
def f_X10_init (G : Nat → Nat) (l0 : Nat) (l1 : Int32) (l2 : Int32) (s0 : zS) : Option (Unit × zS) :=
zb (f_J7_init_4_X10 G l0 none none 0 0 s0) fun _ s2 =>
zo (zput G s2 (some l0) 8 6 (.int l1)) fun s3 =>
zo (zput G s3 (some l0) 8 7 (.int l2)) fun s4 =>
some ((), s4)
set_option maxHeartbeats 4000000 in
theorem m_X10_init (Γ : zG) (l0 : Nat) (l1 : Int32) (l2 : Int32) (s0 s1 : zS) (r : Unit) (hf : f_X10_init Γ.1 l0 l1 l2 s0 = some (r, s1)) : ZM Γ yX10_init (ws_ yX10_init cX10_init 3 none) 3 60 [zr (some l0), zi l1, zi l2] s0 (.inl none, s1) := by
  refine ZM.of (own := RX10) (by decide) rfl (Nat.le_of_ble_eq_true rfl) ?_
  intro X hg hC hL hno hQ hin
  subst hg
  unfold f_X10_init at hf
  refine z_aload_n hC (pc := 0) dX10_init_0 rfl 0 rfl ?_
  refine z_null hC (pc := 1) dX10_init_1 ?_
  refine z_null hC (pc := 2) dX10_init_2 ?_
  refine z_iconst (v := 0) hC (pc := 3) dX10_init_3 zki_0 ?_
  refine z_iconst (v := 0) hC (pc := 4) dX10_init_4 zki_0 ?_
  refine z_cU (rest := []) hf (fun v1 s2 hcall => z_runI hC (pc := 5) 4 (m_J7_init_4_X10 X.g l0 none none 0 0 s0 s2 v1 hcall) q2117 rfl q110 q2115 q2116 hd_J7_init_4 ⟨(Nat.le_of_ble_eq_true rfl), (Nat.le_of_ble_eq_true rfl)⟩ rfl (Nat.le_of_ble_eq_true rfl) dX10_init_5 rfl) (fun _ s2 hf => ?_)
  refine z_aload_n hC (pc := 8) dX10_init_8 rfl 0 rfl ?_
  refine z_iload_n hC (pc := 9) dX10_init_9 rfl 1 rfl ?_
  refine z_putV (v := zi l1) hC (pc := 10) in_X10 tyX10 tyX10_ok nmX10 zcX10 6 (Nat.le_of_ble_eq_true rfl) (zLk.o hC q2121) zsm (Or.inr ⟨rfl, hin, rfl, rfl⟩) rfl rfl dX10_init_10 hf (fun s3 hf => ?_)
  refine z_aload_n hC (pc := 13) dX10_init_13 rfl 0 rfl ?_
  refine z_iload_n hC (pc := 14) dX10_init_14 rfl 2 rfl ?_
  refine z_putV (v := zi l2) hC (pc := 15) in_X10 tyX10 tyX10_ok nmX10 zcX10 7 (Nat.le_of_ble_eq_true rfl) (zLk.o hC q2123) zsm (Or.inr ⟨rfl, hin, rfl, rfl⟩) rfl rfl dX10_init_15 hf (fun s4 hf => ?_)
  exact z_return hC (pc := 18) hQ dX10_init_18 hf
/-! BlockingShop$Parser.require(ZII)V -/
def f_X9_require (G : Nat → Nat) (l0 : Nat) (l1 : Int32) (l2 : Int32) (l3 : Int32) (s0 : zS) : Option ((Unit ⊕ (Nat × Nat)) × zS) :=
if l1 = 0 then (zb (znewO G s0 8 8 [.null, .null, .null, .null, .null, .int 0, .int 0, .int 0]) fun a2 s3 =>
zb (f_X10_init G a2 l2 l3 s3) fun _ s5 =>
zo (zthr G s5 (some a2)) fun e => some (.inr e, s5))
else (some (.inl (), s0))
set_option maxHeartbeats 4000000 in
theorem m_X9_require (Γ : zG) (l0 : Nat) (l1 : Int32) (l2 : Int32) (l3 : Int32) (s0 s1 : zS) (r : (Unit ⊕ (Nat × Nat))) (hf : f_X9_require Γ.1 l0 l1 l2 l3 s0 = some (r, s1)) : ZM Γ yX9_require (ws_ yX9_require cX9_require 4 none) 4 82 [zr (some l0), zi l1, zi l2, zi l3] s0 (zoU r, s1) := by
  refine ZM.of (own := RX9) (by decide) rfl (Nat.le_of_ble_eq_true rfl) ?_
  intro X hg hC hL hno hQ hin
  subst hg
  unfold f_X9_require at hf
  refine ZW.perm (lv' := [(1, zi l1), (2, zi l2), (3, zi l3)]) [1, 2, 3] rfl ?_
  refine z_iload_n hC (pc := 0) dX9_require_0 rfl 0 rfl ?_
  refine z_if_ne hC (pc := 1) (tgt := 14) dX9_require_1 rfl (fun c1 => ?_) (fun c1 => ?_)
  · have hf := zif_f hf c1
    exact z_returnX hC (pc := 14) hQ dX9_require_14 hf
  · have hf := zif_t hf c1
    refine z_new hC (pc := 4) in_X10 tyX10 tyX10_ok zcX10 q2103 q2104 q126 rfl zdX10 dX9_require_4 hf (fun a2 s3 hf => ?_)
    refine z_dup hC (pc := 7) dX9_require_7 rfl ?_
    refine z_iload_n hC (pc := 8) dX9_require_8 rfl 1 rfl ?_
    refine z_iload_n hC (pc := 9) dX9_require_9 rfl 2 rfl ?_
    refine z_cU (rest := [zr (some a2)]) hf (fun v4 s5 hcall => z_runI hC (pc := 10) 2 (m_X10_init X.g a2 l2 l3 s3 s5 v4 hcall) q2114 rfl q126 q2112 q2113 hd_X10_init ⟨(Nat.le_of_ble_eq_true rfl), (Nat.le_of_ble_eq_true rfl)⟩ rfl (Nat.le_of_ble_eq_true rfl) dX9_require_10 rfl) (fun _ s5 hf => ?_)
    exact z_athrow hC (pc := 13) dX9_require_13 hf (fun e hf => z_outU hC hQ hno hf)
/-! BlockingShop$Parser.expect(I)V -/
def f_X9_expect_b13 (G : Nat → Nat) (l0 : Nat) (t0 : Int32) (s0 : zS) : Option ((Unit ⊕ (Nat × Nat)) × zS) :=
zo (zgI s0 (some l0) 7 3) fun v1 =>
zo (zrc s0 (some l0) 7) fun _ =>
zx (f_X9_require G l0 t0 (-2) v1 s0) (fun e s => some (.inr e, s)) fun _ s5 =>
zo (zgI s5 (some l0) 7 3) fun v6 =>
zo (zput G s5 (some l0) 7 3 (.int (v6 + 1))) fun s7 =>
some (.inl (), s7)
set_option maxHeartbeats 4000000 in
theorem w_X9_expect_b13 {X : zX} (hC : ZC X RX9 cX9_expect none 5 105) (hL : X.nL = 3) (hno : ∀ x ∈ X.c.exceptionTable.toList, False) {r : (Unit ⊕ (Nat × Nat))} {sF : zS} (hQ : ZQ X (zoU r, sF)) (l0 : Nat) (t0 : Int32) (s0 : zS) (hf : f_X9_expect_b13 X.g.1 l0 t0 s0 = some (r, sF)) : ZW X s0 13 [(0, zr (some l0))] [zi t0] := by
  unfold f_X9_expect_b13 at hf
  refine z_istore_n (lv' := [(2, zi t0), (0, zr (some l0))]) hC (pc := 13) hL dX9_expect_13 rfl (Nat.le_of_ble_eq_true rfl) rfl ?_
  refine z_aload_n hC (pc := 14) dX9_expect_14 rfl 1 rfl ?_
  refine z_iload_n hC (pc := 15) dX9_expect_15 rfl 0 rfl ?_
  refine z_bipush (v := (-2)) hC (pc := 16) dX9_expect_16 zkb_m2 ?_
  refine z_aload_n hC (pc := 18) dX9_expect_18 rfl 1 rfl ?_
  refine z_getI hC (pc := 19) in_X9 zcX9 3 (Nat.le_of_ble_eq_true rfl) (zLk.o hC q2033) zsm dX9_expect_19 hf (fun v1 hf => ?_)
  obtain ⟨fs2, ha3, hf⟩ := z_rcN hf
  refine z_cXU (rest := []) hf (fun v4 s5 hcall => z_runV hC (pc := 22) zcX9 3 ha3 (m_X9_require X.g l0 t0 (-2) v1 s0 s5 v4 hcall) (lw_V q2099 q2101 qs28 q113 q2102) hdV_X9_require ⟨(Nat.le_of_ble_eq_true rfl), (Nat.le_of_ble_eq_true rfl)⟩ rfl (Nat.le_of_ble_eq_true rfl) dX9_expect_22 rfl) (fun _ s5 hf => ?_) (fun e s hf => z_outU hC hQ hno hf)
  refine z_aload_n hC (pc := 25) dX9_expect_25 rfl 1 rfl ?_
  refine z_dup hC (pc := 26) dX9_expect_26 rfl ?_
  refine z_getI hC (pc := 27) in_X9 zcX9 3 (Nat.le_of_ble_eq_true rfl) (zLk.o hC q2033) zsm dX9_expect_27 hf (fun v6 hf => ?_)
  refine z_iconst (v := 1) hC (pc := 30) dX9_expect_30 zki_1 ?_
  refine z_iadd hC (pc := 31) dX9_expect_31 ?_
  refine z_putV (v := zi (v6 + 1)) hC (pc := 32) in_X9 tyX9 tyX9_ok nmX9 zcX9 3 (Nat.le_of_ble_eq_true rfl) (zLk.o hC q2033) zsm (Or.inl rfl) rfl rfl dX9_expect_32 hf (fun s7 hf => ?_)
  exact z_returnX hC (pc := 35) hQ dX9_expect_35 hf
def f_X9_expect (G : Nat → Nat) (l0 : Nat) (l1 : Int32) (s0 : zS) : Option ((Unit ⊕ (Nat × Nat)) × zS) :=
zo (zrc s0 (some l0) 7) fun _ =>
zb (f_X9_peek G l0 s0) fun v3 s4 =>
if v3 = l1 then (f_X9_expect_b13 G l0 1 s4)
else (f_X9_expect_b13 G l0 0 s4)
set_option maxHeartbeats 4000000 in
theorem m_X9_expect (Γ : zG) (l0 : Nat) (l1 : Int32) (s0 s1 : zS) (r : (Unit ⊕ (Nat × Nat))) (hf : f_X9_expect Γ.1 l0 l1 s0 = some (r, s1)) : ZM Γ yX9_expect (ws_ yX9_expect cX9_expect 3 none) 5 105 [zr (some l0), zi l1] s0 (zoU r, s1) := by
  refine ZM.of (own := RX9) (by decide) rfl (Nat.le_of_ble_eq_true rfl) ?_
  intro X hg hC hL hno hQ hin
  subst hg
  unfold f_X9_expect at hf
  refine z_aload_n hC (pc := 0) dX9_expect_0 rfl 0 rfl ?_
  obtain ⟨fs1, ha2, hf⟩ := z_rcN hf
  refine z_cI (rest := []) hf (fun v3 s4 hcall => z_runV hC (pc := 1) zcX9 0 ha2 (m_X9_peek X.g l0 s0 s4 v3 hcall) (lw_V q2063 q2065 qs26 q113 q2066) hdV_X9_peek ⟨(Nat.le_of_ble_eq_true rfl), (Nat.le_of_ble_eq_true rfl)⟩ rfl (Nat.le_of_ble_eq_true rfl) dX9_expect_1 rfl) (fun v3 s4 hf => ?_)
  refine z_iload_n hC (pc := 4) dX9_expect_4 rfl 1 rfl ?_
  refine z_icmp_ne hC (pc := 5) (tgt := 12) dX9_expect_5 rfl (fun c5 => ?_) (fun c5 => ?_)
  · have hf := zif_f hf c5
    refine z_iconst (v := 0) hC (pc := 12) dX9_expect_12 zki_0 ?_
    refine ZW.perm (lv' := [(0, zr (some l0))]) [0] rfl ?_
    exact w_X9_expect_b13 hC hL hno hQ l0 0 s4 hf
  · have hf := zif_t hf c5
    refine z_iconst (v := 1) hC (pc := 8) dX9_expect_8 zki_1 ?_
    refine z_goto hC (pc := 9) (tgt := 13) dX9_expect_9 rfl ?_
    refine ZW.perm (lv' := [(0, zr (some l0))]) [0] rfl ?_
    exact w_X9_expect_b13 hC hL hno hQ l0 1 s4 hf
/-! BlockingShop$Parser.number(II)I -/
def f_X9_number_b114 (G : Nat → Nat) (l0 : Nat) (l1 : Int32) (l2 : Int32) (l4 : Int32) (s0 : zS) : Option ((Int32 ⊕ (Nat × Nat)) × zS) :=
zb (f_X1_isBetween G (l4.toInt64) (l1.toInt64) (l2.toInt64) s0) fun v1 s2 =>
zo (zgI s2 (some l0) 7 4) fun v3 =>
zo (zrc s2 (some l0) 7) fun _ =>
zx (f_X9_require G l0 v1 (-3) v3 s2) (fun e s => some (.inr e, s)) fun _ s7 =>
some (.inl l4, s7)
set_option maxHeartbeats 4000000 in
theorem w_X9_number_b114 {X : zX} (hC : ZC X RX9 cX9_number (some .int) 5 105) (hL : X.nL = 5) (hno : ∀ x ∈ X.c.exceptionTable.toList, False) {r : (Int32 ⊕ (Nat × Nat))} {sF : zS} (hQ : ZQ X (zoI r, sF)) (l0 : Nat) (l1 : Int32) (l2 : Int32) (l4 : Int32) (s0 : zS) (hf : f_X9_number_b114 X.g.1 l0 l1 l2 l4 s0 = some (r, sF)) : ZW X s0 114 [(0, zr (some l0)), (1, zi l1), (2, zi l2), (4, zi l4)] [] := by
  unfold f_X9_number_b114 at hf
  refine z_aload_n hC (pc := 114) dX9_number_114 rfl 0 rfl ?_
  refine z_iload hC (pc := 115) dX9_number_115 3 rfl ?_
  refine z_i2l hC (pc := 117) dX9_number_117 ?_
  refine z_iload_n hC (pc := 118) dX9_number_118 rfl 1 rfl ?_
  refine z_i2l hC (pc := 119) dX9_number_119 ?_
  refine z_iload_n hC (pc := 120) dX9_number_120 rfl 2 rfl ?_
  refine z_i2l hC (pc := 121) dX9_number_121 ?_
  refine z_cI (rest := [zr (some l0)]) hf (fun v1 s2 hcall => z_runSN hC (pc := 122) 3 (m_X1_isBetween X.g (l4.toInt64) (l1.toInt64) (l2.toInt64) s0 s2 v1 hcall) q2075 q2015 q95 q2014 hd_X1_isBetween ⟨(Nat.le_of_ble_eq_true rfl), (Nat.le_of_ble_eq_true rfl)⟩ rfl (Nat.le_of_ble_eq_true rfl) dX9_number_122 rfl) (fun v1 s2 hf => ?_)
  refine z_bipush (v := (-3)) hC (pc := 125) dX9_number_125 zkb_m3 ?_
  refine z_aload_n hC (pc := 127) dX9_number_127 rfl 0 rfl ?_
  refine z_getI hC (pc := 128) in_X9 zcX9 4 (Nat.le_of_ble_eq_true rfl) (zLk.o hC q2034) zsm dX9_number_128 hf (fun v3 hf => ?_)
  obtain ⟨fs4, ha5, hf⟩ := z_rcN hf
  refine z_cXU (rest := []) hf (fun v6 s7 hcall => z_runV hC (pc := 131) zcX9 3 ha5 (m_X9_require X.g l0 v1 (-3) v3 s2 s7 v6 hcall) (lw_V q2099 q2101 qs28 q113 q2102) hdV_X9_require ⟨(Nat.le_of_ble_eq_true rfl), (Nat.le_of_ble_eq_true rfl)⟩ rfl (Nat.le_of_ble_eq_true rfl) dX9_number_131 rfl) (fun _ s7 hf => ?_) (fun e s hf => z_outI hC hQ hno hf)
  refine z_iload hC (pc := 134) dX9_number_134 3 rfl ?_
  exact z_ireturnX hC (pc := 136) hQ dX9_number_136 hf
def f_X9_number_b37 (G : Nat → Nat) (k37 : Nat → Int32 → Int32 → Int32 → zS → Option ((Int32 ⊕ (Nat × Nat)) × zS)) (l0 : Nat) (l1 : Int32) (l2 : Int32) (l4 : Int32) (s0 : zS) : Option ((Int32 ⊕ (Nat × Nat)) × zS) :=
zo (zgI s0 (some l0) 7 3) fun v1 =>
zo (zgI s0 (some l0) 7 0) fun v2 =>
if v2 ≤ v1 then (f_X9_number_b114 G l0 l1 l2 l4 s0)
else (zo (zgR s0 (some l0) 7 7) fun v4 =>
zo (zgR s0 v4 0 0) fun v5 =>
zo (zgI s0 (some l0) 7 3) fun v6 =>
zo (zaI s0 v5 2 v6) fun v7 =>
zb (f_X1_isBetween G (v7.toInt64) 48 57 s0) fun v8 s9 =>
if v8 = 0 then (f_X9_number_b114 G l0 l1 l2 l4 s9)
else (zo (zgR s9 (some l0) 7 7) fun v11 =>
zo (zgR s9 v11 0 0) fun v12 =>
zo (zgI s9 (some l0) 7 3) fun v13 =>
zo (zaI s9 v12 2 v13) fun v14 =>
zo (zgI s9 (some l0) 7 3) fun v15 =>
zo (zput G s9 (some l0) 7 3 (.int (v15 + 1))) fun s16 =>
k37 l0 l1 l2 (if (((10 * l4) + v14) - 48) < 1000000 then (((10 * l4) + v14) - 48) else 1000000) s16))
set_option maxHeartbeats 4000000 in
theorem w_X9_number_b37 {X : zX} (hC : ZC X RX9 cX9_number (some .int) 5 105) (hL : X.nL = 5) (hno : ∀ x ∈ X.c.exceptionTable.toList, False) {r : (Int32 ⊕ (Nat × Nat))} {sF : zS} (hQ : ZQ X (zoI r, sF)) (k37 : Nat → Int32 → Int32 → Int32 → zS → Option ((Int32 ⊕ (Nat × Nat)) × zS)) (hk37 : ∀ (l0 : Nat) (l1 : Int32) (l2 : Int32) (l4 : Int32) (s0 : zS), k37 l0 l1 l2 l4 s0 = some (r, sF) → ZW X s0 37 [(0, zr (some l0)), (1, zi l1), (2, zi l2), (4, zi l4)] []) (l0 : Nat) (l1 : Int32) (l2 : Int32) (l4 : Int32) (s0 : zS) (hf : f_X9_number_b37 X.g.1 k37 l0 l1 l2 l4 s0 = some (r, sF)) : ZW X s0 37 [(0, zr (some l0)), (1, zi l1), (2, zi l2), (4, zi l4)] [] := by
  unfold f_X9_number_b37 at hf
  refine z_aload_n hC (pc := 37) dX9_number_37 rfl 0 rfl ?_
  refine z_getI hC (pc := 38) in_X9 zcX9 3 (Nat.le_of_ble_eq_true rfl) (zLk.o hC q2033) zsm dX9_number_38 hf (fun v1 hf => ?_)
  refine z_aload_n hC (pc := 41) dX9_number_41 rfl 0 rfl ?_
  refine z_getI hC (pc := 42) in_X9 zcX9 0 (Nat.le_of_ble_eq_true rfl) (zLk.o hC q2030) zsm dX9_number_42 hf (fun v2 hf => ?_)
  refine z_icmp_ge hC (pc := 45) (tgt := 114) dX9_number_45 rfl (fun c3 => ?_) (fun c3 => ?_)
  · have hf := zif_t hf c3
    exact w_X9_number_b114 hC hL hno hQ l0 l1 l2 l4 s0 hf
  · have hf := zif_f hf c3
    refine z_aload_n hC (pc := 48) dX9_number_48 rfl 0 rfl ?_
    refine z_getR hC (pc := 49) in_X9 zcX9 7 (Nat.le_of_ble_eq_true rfl) (zLk.o hC q2037) zsm dX9_number_49 hf (fun v4 hf => ?_)
    refine z_getR hC (pc := 52) in_X1 zcX1 0 (Nat.le_of_ble_eq_true rfl) (zLk.n hC q391) zsm dX9_number_52 hf (fun v5 hf => ?_)
    refine z_aload_n hC (pc := 55) dX9_number_55 rfl 0 rfl ?_
    refine z_getI hC (pc := 56) in_X9 zcX9 3 (Nat.le_of_ble_eq_true rfl) (zLk.o hC q2033) zsm dX9_number_56 hf (fun v6 hf => ?_)
    refine z_bald hC (pc := 59) dX9_number_59 hf (fun v7 hf => ?_)
    refine z_i2l hC (pc := 60) dX9_number_60 ?_
    refine z_ldc2 (v := 48) hC (pc := 61) q2135 dX9_number_61 ?_
    refine z_ldc2 (v := 57) hC (pc := 64) q2136 dX9_number_64 ?_
    refine z_cI (rest := []) hf (fun v8 s9 hcall => z_runSN hC (pc := 67) 3 (m_X1_isBetween X.g (v7.toInt64) 48 57 s0 s9 v8 hcall) q2075 q2015 q95 q2014 hd_X1_isBetween ⟨(Nat.le_of_ble_eq_true rfl), (Nat.le_of_ble_eq_true rfl)⟩ rfl (Nat.le_of_ble_eq_true rfl) dX9_number_67 rfl) (fun v8 s9 hf => ?_)
    refine z_if_eq hC (pc := 70) (tgt := 114) dX9_number_70 rfl (fun c10 => ?_) (fun c10 => ?_)
    · have hf := zif_t hf c10
      exact w_X9_number_b114 hC hL hno hQ l0 l1 l2 l4 s9 hf
    · have hf := zif_f hf c10
      refine z_ldc (v := 1000000) hC (pc := 73) q2137 dX9_number_73 ?_
      refine z_bipush (v := 10) hC (pc := 75) dX9_number_75 zkb_10 ?_
      refine z_iload hC (pc := 77) dX9_number_77 3 rfl ?_
      refine z_imul hC (pc := 79) dX9_number_79 ?_
      refine z_aload_n hC (pc := 80) dX9_number_80 rfl 0 rfl ?_
      refine z_getR hC (pc := 81) in_X9 zcX9 7 (Nat.le_of_ble_eq_true rfl) (zLk.o hC q2037) zsm dX9_number_81 hf (fun v11 hf => ?_)
      refine z_getR hC (pc := 84) in_X1 zcX1 0 (Nat.le_of_ble_eq_true rfl) (zLk.n hC q391) zsm dX9_number_84 hf (fun v12 hf => ?_)
      refine z_aload_n hC (pc := 87) dX9_number_87 rfl 0 rfl ?_
      refine z_getI hC (pc := 88) in_X9 zcX9 3 (Nat.le_of_ble_eq_true rfl) (zLk.o hC q2033) zsm dX9_number_88 hf (fun v13 hf => ?_)
      refine z_bald hC (pc := 91) dX9_number_91 hf (fun v14 hf => ?_)
      refine z_iadd hC (pc := 92) dX9_number_92 ?_
      refine z_bipush (v := 48) hC (pc := 93) dX9_number_93 zkb_48 ?_
      refine z_isub hC (pc := 95) dX9_number_95 ?_
      refine z_mmin hC (pc := 96) q2138 q621 q119 q622 (Nat.le_of_ble_eq_true rfl) (Nat.le_of_ble_eq_true rfl) dX9_number_96 ?_
      refine z_istore (lv' := [(4, zi (if (((10 * l4) + v14) - 48) < 1000000 then (((10 * l4) + v14) - 48) else 1000000)), (0, zr (some l0)), (1, zi l1), (2, zi l2)]) hC (pc := 99) hL dX9_number_99 (Nat.le_of_ble_eq_true rfl) rfl ?_
      refine z_aload_n hC (pc := 101) dX9_number_101 rfl 1 rfl ?_
      refine z_dup hC (pc := 102) dX9_number_102 rfl ?_
      refine z_getI hC (pc := 103) in_X9 zcX9 3 (Nat.le_of_ble_eq_true rfl) (zLk.o hC q2033) zsm dX9_number_103 hf (fun v15 hf => ?_)
      refine z_iconst (v := 1) hC (pc := 106) dX9_number_106 zki_1 ?_
      refine z_iadd hC (pc := 107) dX9_number_107 ?_
      refine z_putV (v := zi (v15 + 1)) hC (pc := 108) in_X9 tyX9 tyX9_ok nmX9 zcX9 3 (Nat.le_of_ble_eq_true rfl) (zLk.o hC q2033) zsm (Or.inl rfl) rfl rfl dX9_number_108 hf (fun s16 hf => ?_)
      refine z_goto hC (pc := 111) (tgt := 37) dX9_number_111 rfl ?_
      refine ZW.perm (lv' := [(0, zr (some l0)), (1, zi l1), (2, zi l2), (4, zi (if (((10 * l4) + v14) - 48) < 1000000 then (((10 * l4) + v14) - 48) else 1000000))]) [1, 2, 3, 0] rfl ?_
      exact hk37 l0 l1 l2 (if (((10 * l4) + v14) - 48) < 1000000 then (((10 * l4) + v14) - 48) else 1000000) s16 hf
def f_X9_number_l37 (G : Nat → Nat) : Nat → Nat → Int32 → Int32 → Int32 → zS → Option ((Int32 ⊕ (Nat × Nat)) × zS)
  | 0 => fun _ _ _ _ _ => none
  | n + 1 => f_X9_number_b37 G (f_X9_number_l37 G n)
theorem w_X9_number_l37 {X : zX} (hC : ZC X RX9 cX9_number (some .int) 5 105) (hL : X.nL = 5) (hno : ∀ x ∈ X.c.exceptionTable.toList, False) {r : (Int32 ⊕ (Nat × Nat))} {sF : zS} (hQ : ZQ X (zoI r, sF)) : ∀ (n : Nat) (l0 : Nat) (l1 : Int32) (l2 : Int32) (l4 : Int32) (s0 : zS) (_ : f_X9_number_l37 X.g.1 n l0 l1 l2 l4 s0 = some (r, sF)), ZW X s0 37 [(0, zr (some l0)), (1, zi l1), (2, zi l2), (4, zi l4)] [] := by
  intro n
  induction n with
  | zero => intro l0 l1 l2 l4 s0 hf; exact absurd (show (none : Option ((Int32 ⊕ (Nat × Nat)) × zS)) = some (r, sF) from hf) (fun z => nomatch z)
  | succ n ih => intro l0 l1 l2 l4 s0 hf; exact w_X9_number_b37 hC hL hno hQ (f_X9_number_l37 X.g.1 n) ih l0 l1 l2 l4 s0 hf
def f_X9_number (G : Nat → Nat) (l0 : Nat) (l1 : Int32) (l2 : Int32) (s0 : zS) : Option ((Int32 ⊕ (Nat × Nat)) × zS) :=
zo (zrc s0 (some l0) 7) fun _ =>
zb (f_X9_peek G l0 s0) fun v3 s4 =>
zb (f_X1_isBetween G (v3.toInt64) 48 57 s4) fun v5 s6 =>
zo (zgI s6 (some l0) 7 3) fun v7 =>
zo (zrc s6 (some l0) 7) fun _ =>
zx (f_X9_require G l0 v5 (-2) v7 s6) (fun e s => some (.inr e, s)) fun _ s11 =>
zo (zgI s11 (some l0) 7 3) fun v12 =>
zo (zput G s11 (some l0) 7 4 (.int v12)) fun s13 =>
f_X9_number_l37 G 2000 l0 l1 l2 0 s13
set_option maxHeartbeats 4000000 in
theorem m_X9_number (Γ : zG) (l0 : Nat) (l1 : Int32) (l2 : Int32) (s0 s1 : zS) (r : (Int32 ⊕ (Nat × Nat))) (hf : f_X9_number Γ.1 l0 l1 l2 s0 = some (r, s1)) : ZM Γ yX9_number (ws_ yX9_number cX9_number 5 (some .int)) 5 105 [zr (some l0), zi l1, zi l2] s0 (zoI r, s1) := by
  refine ZM.of (own := RX9) (by decide) rfl (Nat.le_of_ble_eq_true rfl) ?_
  intro X hg hC hL hno hQ hin
  subst hg
  unfold f_X9_number at hf
  refine z_aload_n hC (pc := 0) dX9_number_0 rfl 0 rfl ?_
  obtain ⟨fs1, ha2, hf⟩ := z_rcN hf
  refine z_cI (rest := []) hf (fun v3 s4 hcall => z_runV hC (pc := 1) zcX9 0 ha2 (m_X9_peek X.g l0 s0 s4 v3 hcall) (lw_V q2063 q2065 qs26 q113 q2066) hdV_X9_peek ⟨(Nat.le_of_ble_eq_true rfl), (Nat.le_of_ble_eq_true rfl)⟩ rfl (Nat.le_of_ble_eq_true rfl) dX9_number_1 rfl) (fun v3 s4 hf => ?_)
  refine z_i2l hC (pc := 4) dX9_number_4 ?_
  refine z_ldc2 (v := 48) hC (pc := 5) q2135 dX9_number_5 ?_
  refine z_ldc2 (v := 57) hC (pc := 8) q2136 dX9_number_8 ?_
  refine z_cI (rest := []) hf (fun v5 s6 hcall => z_runSN hC (pc := 11) 3 (m_X1_isBetween X.g (v3.toInt64) 48 57 s4 s6 v5 hcall) q2075 q2015 q95 q2014 hd_X1_isBetween ⟨(Nat.le_of_ble_eq_true rfl), (Nat.le_of_ble_eq_true rfl)⟩ rfl (Nat.le_of_ble_eq_true rfl) dX9_number_11 rfl) (fun v5 s6 hf => ?_)
  refine z_istore_n (lv' := [(3, zi v5), (0, zr (some l0)), (1, zi l1), (2, zi l2)]) hC (pc := 14) hL dX9_number_14 rfl (Nat.le_of_ble_eq_true rfl) rfl ?_
  refine z_aload_n hC (pc := 15) dX9_number_15 rfl 1 rfl ?_
  refine z_iload_n hC (pc := 16) dX9_number_16 rfl 0 rfl ?_
  refine z_bipush (v := (-2)) hC (pc := 17) dX9_number_17 zkb_m2 ?_
  refine z_aload_n hC (pc := 19) dX9_number_19 rfl 1 rfl ?_
  refine z_getI hC (pc := 20) in_X9 zcX9 3 (Nat.le_of_ble_eq_true rfl) (zLk.o hC q2033) zsm dX9_number_20 hf (fun v7 hf => ?_)
  obtain ⟨fs8, ha9, hf⟩ := z_rcN hf
  refine z_cXU (rest := []) hf (fun v10 s11 hcall => z_runV hC (pc := 23) zcX9 3 ha9 (m_X9_require X.g l0 v5 (-2) v7 s6 s11 v10 hcall) (lw_V q2099 q2101 qs28 q113 q2102) hdV_X9_require ⟨(Nat.le_of_ble_eq_true rfl), (Nat.le_of_ble_eq_true rfl)⟩ rfl (Nat.le_of_ble_eq_true rfl) dX9_number_23 rfl) (fun _ s11 hf => ?_) (fun e s hf => z_outI hC hQ hno hf)
  refine z_aload_n hC (pc := 26) dX9_number_26 rfl 1 rfl ?_
  refine z_aload_n hC (pc := 27) dX9_number_27 rfl 1 rfl ?_
  refine z_getI hC (pc := 28) in_X9 zcX9 3 (Nat.le_of_ble_eq_true rfl) (zLk.o hC q2033) zsm dX9_number_28 hf (fun v12 hf => ?_)
  refine z_putV (v := zi v12) hC (pc := 31) in_X9 tyX9 tyX9_ok nmX9 zcX9 4 (Nat.le_of_ble_eq_true rfl) (zLk.o hC q2034) zsm (Or.inl rfl) rfl rfl dX9_number_31 hf (fun s13 hf => ?_)
  refine z_iconst (v := 0) hC (pc := 34) dX9_number_34 zki_0 ?_
  refine z_istore (lv' := [(4, zi 0), (3, zi v5), (0, zr (some l0)), (1, zi l1), (2, zi l2)]) hC (pc := 35) hL dX9_number_35 (Nat.le_of_ble_eq_true rfl) rfl ?_
  refine ZW.perm (lv' := [(0, zr (some l0)), (1, zi l1), (2, zi l2), (4, zi 0)]) [2, 3, 4, 0] rfl ?_
  exact w_X9_number_l37 hC hL hno hQ 2000 l0 l1 l2 0 s13 hf
/-! BlockingShop$Job.<init>(III)V -/
def f_X11_init (G : Nat → Nat) (l0 : Nat) (l1 : Int32) (l2 : Int32) (l3 : Int32) (s0 : zS) : Option (Unit × zS) :=
zo (zput G s0 (some l0) 9 0 (.int l1)) fun s1 =>
zo (zput G s1 (some l0) 9 1 (.int l2)) fun s2 =>
zo (zput G s2 (some l0) 9 2 (.int l3)) fun s3 =>
some ((), s3)
set_option maxHeartbeats 4000000 in
theorem m_X11_init (Γ : zG) (l0 : Nat) (l1 : Int32) (l2 : Int32) (l3 : Int32) (s0 s1 : zS) (r : Unit) (hf : f_X11_init Γ.1 l0 l1 l2 l3 s0 = some (r, s1)) : ZM Γ yX11_init (ws_ yX11_init cX11_init 4 none) 1 12 [zr (some l0), zi l1, zi l2, zi l3] s0 (.inl none, s1) := by
  refine ZM.of (own := RX11) (by decide) rfl (Nat.le_of_ble_eq_true rfl) ?_
  intro X hg hC hL hno hQ hin
  subst hg
  unfold f_X11_init at hf
  refine z_aload_n hC (pc := 0) dX11_init_0 rfl 0 rfl ?_
  refine z_objInit hC (pc := 1) q2165 q163 q164 (Nat.le_of_ble_eq_true rfl) (Nat.le_of_ble_eq_true rfl) dX11_init_1 ?_
  refine z_aload_n hC (pc := 4) dX11_init_4 rfl 0 rfl ?_
  refine z_iload_n hC (pc := 5) dX11_init_5 rfl 1 rfl ?_
  refine z_putV (v := zi l1) hC (pc := 6) in_X11 tyX11 tyX11_ok nmX11 zcX11 0 (Nat.le_of_ble_eq_true rfl) (zLk.o hC q2166) zsm (Or.inr ⟨rfl, hin, rfl, rfl⟩) rfl rfl dX11_init_6 hf (fun s1 hf => ?_)
  refine z_aload_n hC (pc := 9) dX11_init_9 rfl 0 rfl ?_
  refine z_iload_n hC (pc := 10) dX11_init_10 rfl 2 rfl ?_
  refine z_putV (v := zi l2) hC (pc := 11) in_X11 tyX11 tyX11_ok nmX11 zcX11 1 (Nat.le_of_ble_eq_true rfl) (zLk.o hC q2170) zsm (Or.inr ⟨rfl, hin, rfl, rfl⟩) rfl rfl dX11_init_11 hf (fun s2 hf => ?_)
  refine z_aload_n hC (pc := 14) dX11_init_14 rfl 0 rfl ?_
  refine z_iload_n hC (pc := 15) dX11_init_15 rfl 3 rfl ?_
  refine z_putV (v := zi l3) hC (pc := 16) in_X11 tyX11 tyX11_ok nmX11 zcX11 2 (Nat.le_of_ble_eq_true rfl) (zLk.o hC q2172) zsm (Or.inr ⟨rfl, hin, rfl, rfl⟩) rfl rfl dX11_init_16 hf (fun s3 hf => ?_)
  exact z_return hC (pc := 19) hQ dX11_init_19 hf
/-! BlockingShop$Parser.machine()I -/
def f_X9_machine (G : Nat → Nat) (l0 : Nat) (s0 : zS) : Option ((Int32 ⊕ (Nat × Nat)) × zS) :=
zo (zgR s0 (some l0) 7 2) fun v1 =>
zo (zgI s0 v1 3 0) fun v2 =>
zo (zrc s0 (some l0) 7) fun _ =>
zx (f_X9_number G l0 0 (v2 - 1) s0) (fun e s => some (.inr e, s)) fun v5 s6 =>
some (.inl v5, s6)
set_option maxHeartbeats 4000000 in
theorem m_X9_machine (Γ : zG) (l0 : Nat) (s0 s1 : zS) (r : (Int32 ⊕ (Nat × Nat))) (hf : f_X9_machine Γ.1 l0 s0 = some (r, s1)) : ZM Γ yX9_machine (ws_ yX9_machine cX9_machine 1 (some .int)) 6 129 [zr (some l0)] s0 (zoI r, s1) := by
  refine ZM.of (own := RX9) (by decide) rfl (Nat.le_of_ble_eq_true rfl) ?_
  intro X hg hC hL hno hQ hin
  subst hg
  unfold f_X9_machine at hf
  refine z_aload_n hC (pc := 0) dX9_machine_0 rfl 0 rfl ?_
  refine z_iconst (v := 0) hC (pc := 1) dX9_machine_1 zki_0 ?_
  refine z_aload_n hC (pc := 2) dX9_machine_2 rfl 0 rfl ?_
  refine z_getR hC (pc := 3) in_X9 zcX9 2 (Nat.le_of_ble_eq_true rfl) (zLk.o hC q2032) zsm dX9_machine_3 hf (fun v1 hf => ?_)
  refine z_getI hC (pc := 6) in_X4 zcX4 0 (Nat.le_of_ble_eq_true rfl) (zLk.n hC q325) zsm dX9_machine_6 hf (fun v2 hf => ?_)
  refine z_iconst (v := 1) hC (pc := 9) dX9_machine_9 zki_1 ?_
  refine z_isub hC (pc := 10) dX9_machine_10 ?_
  obtain ⟨fs3, ha4, hf⟩ := z_rcN hf
  refine z_cXI (rest := []) hf (fun v5 s6 hcall => z_runV hC (pc := 11) zcX9 2 ha4 (m_X9_number X.g l0 0 (v2 - 1) s0 s6 v5 hcall) (lw_V q2131 q2133 qs29 q113 q2134) hdV_X9_number ⟨(Nat.le_of_ble_eq_true rfl), (Nat.le_of_ble_eq_true rfl)⟩ rfl (Nat.le_of_ble_eq_true rfl) dX9_machine_11 rfl) (fun v5 s6 hf => ?_) (fun e s hf => z_outI hC hQ hno hf)
  exact z_ireturnX hC (pc := 14) hQ dX9_machine_14 hf
/-! BlockingShop$Parser.isLetterAt(I)Z -/
def f_X9_isLetterAt (G : Nat → Nat) (l0 : Nat) (l1 : Int32) (s0 : zS) : Option (Int32 × zS) :=
zo (zgI s0 (some l0) 7 0) fun v1 =>
if v1 ≤ l1 then (zrn .boolean 0 s0)
else (zo (zgR s0 (some l0) 7 7) fun v3 =>
zo (zgR s0 v3 0 0) fun v4 =>
zo (zaI s0 v4 2 l1) fun v5 =>
zb (f_X1_isBetween G (v5.toInt64) 97 122 s0) fun v6 s7 =>
if v6 = 0 then (zrn .boolean 0 s7)
else (zrn .boolean 1 s7))
set_option maxHeartbeats 4000000 in
theorem m_X9_isLetterAt (Γ : zG) (l0 : Nat) (l1 : Int32) (s0 s1 : zS) (r : Int32) (hf : f_X9_isLetterAt Γ.1 l0 l1 s0 = some (r, s1)) : ZM Γ yX9_isLetterAt (ws_ yX9_isLetterAt cX9_isLetterAt 2 (some .boolean)) 2 25 [zr (some l0), zi l1] s0 (.inl (some (zi r)), s1) := by
  refine ZM.of (own := RX9) (by decide) rfl (Nat.le_of_ble_eq_true rfl) ?_
  intro X hg hC hL hno hQ hin
  subst hg
  unfold f_X9_isLetterAt at hf
  refine z_iload_n hC (pc := 0) dX9_isLetterAt_0 rfl 1 rfl ?_
  refine z_aload_n hC (pc := 1) dX9_isLetterAt_1 rfl 0 rfl ?_
  refine z_getI hC (pc := 2) in_X9 zcX9 0 (Nat.le_of_ble_eq_true rfl) (zLk.o hC q2030) zsm dX9_isLetterAt_2 hf (fun v1 hf => ?_)
  refine z_icmp_ge hC (pc := 5) (tgt := 34) dX9_isLetterAt_5 rfl (fun c2 => ?_) (fun c2 => ?_)
  · have hf := zif_t hf c2
    refine z_iconst (v := 0) hC (pc := 34) dX9_isLetterAt_34 zki_0 ?_
    exact z_zreturn hC (pc := 35) hQ dX9_isLetterAt_35 hf
  · have hf := zif_f hf c2
    refine z_aload_n hC (pc := 8) dX9_isLetterAt_8 rfl 0 rfl ?_
    refine z_getR hC (pc := 9) in_X9 zcX9 7 (Nat.le_of_ble_eq_true rfl) (zLk.o hC q2037) zsm dX9_isLetterAt_9 hf (fun v3 hf => ?_)
    refine z_getR hC (pc := 12) in_X1 zcX1 0 (Nat.le_of_ble_eq_true rfl) (zLk.n hC q391) zsm dX9_isLetterAt_12 hf (fun v4 hf => ?_)
    refine z_iload_n hC (pc := 15) dX9_isLetterAt_15 rfl 1 rfl ?_
    refine z_bald hC (pc := 16) dX9_isLetterAt_16 hf (fun v5 hf => ?_)
    refine z_i2l hC (pc := 17) dX9_isLetterAt_17 ?_
    refine z_ldc2 (v := 97) hC (pc := 18) q2073 dX9_isLetterAt_18 ?_
    refine z_ldc2 (v := 122) hC (pc := 21) q2074 dX9_isLetterAt_21 ?_
    refine z_cI (rest := []) hf (fun v6 s7 hcall => z_runSN hC (pc := 24) 3 (m_X1_isBetween X.g (v5.toInt64) 97 122 s0 s7 v6 hcall) q2075 q2015 q95 q2014 hd_X1_isBetween ⟨(Nat.le_of_ble_eq_true rfl), (Nat.le_of_ble_eq_true rfl)⟩ rfl (Nat.le_of_ble_eq_true rfl) dX9_isLetterAt_24 rfl) (fun v6 s7 hf => ?_)
    refine z_if_eq hC (pc := 27) (tgt := 34) dX9_isLetterAt_27 rfl (fun c8 => ?_) (fun c8 => ?_)
    · have hf := zif_t hf c8
      refine z_iconst (v := 0) hC (pc := 34) dX9_isLetterAt_34 zki_0 ?_
      exact z_zreturn hC (pc := 35) hQ dX9_isLetterAt_35 hf
    · have hf := zif_f hf c8
      refine z_iconst (v := 1) hC (pc := 30) dX9_isLetterAt_30 zki_1 ?_
      refine z_goto hC (pc := 31) (tgt := 35) dX9_isLetterAt_31 rfl ?_
      exact z_zreturn hC (pc := 35) hQ dX9_isLetterAt_35 hf
/-! BlockingShop$Parser.word()Ljava/lang/String; -/
def f_X9_word_b18 (G : Nat → Nat) (k18 : Nat → Option Nat → Int32 → zS → Option ((Option Nat) × zS)) (l0 : Nat) (l1 : Option Nat) (l2 : Int32) (s0 : zS) : Option ((Option Nat) × zS) :=
zo (zrc s0 (some l0) 7) fun _ =>
zb (f_X9_isLetterAt G l0 l2 s0) fun v3 s4 =>
if v3 = 0 then (zo (zrc s4 l1 16) fun a8 =>
zb (f_J11_toString G a8 s4) fun v9 s10 =>
some (v9, s10))
else (zo (zgR s4 (some l0) 7 7) fun v11 =>
zo (zgR s4 v11 0 0) fun v12 =>
zo (zaI s4 v12 2 l2) fun v13 =>
zo (zrc s4 l1 16) fun a16 =>
zb (f_J11_append_3 G a16 ((v13.toUInt32 % 65536).toInt32) s4) fun v17 s18 =>
k18 l0 (some a16) (l2 + 1) s18)
set_option maxHeartbeats 4000000 in
theorem w_X9_word_b18 {X : zX} (hC : ZC X RX9 cX9_word (some (.object "java/lang/String")) 7 171) (hL : X.nL = 3) (hno : ∀ x ∈ X.c.exceptionTable.toList, False) {r : (Option Nat)} {sF : zS} (hQ : ZQ X (.inl (some (zr r)), sF)) (k18 : Nat → Option Nat → Int32 → zS → Option ((Option Nat) × zS)) (hk18 : ∀ (l0 : Nat) (l1 : Option Nat) (l2 : Int32) (s0 : zS), k18 l0 l1 l2 s0 = some (r, sF) → ZW X s0 18 [(0, zr (some l0)), (1, zr l1), (2, zi l2)] []) (l0 : Nat) (l1 : Option Nat) (l2 : Int32) (s0 : zS) (hf : f_X9_word_b18 X.g.1 k18 l0 l1 l2 s0 = some (r, sF)) : ZW X s0 18 [(0, zr (some l0)), (1, zr l1), (2, zi l2)] [] := by
  unfold f_X9_word_b18 at hf
  refine z_aload_n hC (pc := 18) dX9_word_18 rfl 0 rfl ?_
  refine z_iload_n hC (pc := 19) dX9_word_19 rfl 2 rfl ?_
  obtain ⟨fs1, ha2, hf⟩ := z_rcN hf
  refine z_cI (rest := []) hf (fun v3 s4 hcall => z_runV hC (pc := 20) zcX9 1 ha2 (m_X9_isLetterAt X.g l0 l2 s0 s4 v3 hcall) (lw_V q2069 q2071 qs27 q113 q2072) hdV_X9_isLetterAt ⟨(Nat.le_of_ble_eq_true rfl), (Nat.le_of_ble_eq_true rfl)⟩ rfl (Nat.le_of_ble_eq_true rfl) dX9_word_20 rfl) (fun v3 s4 hf => ?_)
  refine z_if_eq hC (pc := 23) (tgt := 47) dX9_word_23 rfl (fun c5 => ?_) (fun c5 => ?_)
  · have hf := zif_t hf c5
    refine z_aload_n hC (pc := 47) dX9_word_47 rfl 1 rfl ?_
    obtain ⟨a8, fs6, rfl, ha7, hf⟩ := z_rcO hf
    refine z_cR (rest := []) hf (fun v9 s10 hcall => z_runV hC (pc := 48) zcJ11 0 ha7 (m_J11_toString X.g a8 s4 s10 v9 hcall) (lw_V q2096 q732 q733 q115 q734) hdV_J11_toString ⟨(Nat.le_of_ble_eq_true rfl), (Nat.le_of_ble_eq_true rfl)⟩ rfl (Nat.le_of_ble_eq_true rfl) dX9_word_48 rfl) (fun v9 s10 hf => ?_)
    exact z_areturn hC (pc := 51) (Or.inl ⟨_, rfl⟩) hQ dX9_word_51 hf
  · have hf := zif_f hf c5
    refine z_aload_n hC (pc := 26) dX9_word_26 rfl 1 rfl ?_
    refine z_aload_n hC (pc := 27) dX9_word_27 rfl 0 rfl ?_
    refine z_getR hC (pc := 28) in_X9 zcX9 7 (Nat.le_of_ble_eq_true rfl) (zLk.o hC q2037) zsm dX9_word_28 hf (fun v11 hf => ?_)
    refine z_getR hC (pc := 31) in_X1 zcX1 0 (Nat.le_of_ble_eq_true rfl) (zLk.n hC q391) zsm dX9_word_31 hf (fun v12 hf => ?_)
    refine z_iload_n hC (pc := 34) dX9_word_34 rfl 2 rfl ?_
    refine z_bald hC (pc := 35) dX9_word_35 hf (fun v13 hf => ?_)
    refine z_i2c hC (pc := 36) dX9_word_36 ?_
    obtain ⟨a16, fs14, rfl, ha15, hf⟩ := z_rcO hf
    refine z_cR (rest := []) hf (fun v17 s18 hcall => z_runV hC (pc := 37) zcJ11 1 ha15 (m_J11_append_3 X.g a16 ((v13.toUInt32 % 65536).toInt32) s4 s18 v17 hcall) (lw_V q2076 q2077 q2078 q115 q2079) hdV_J11_append_3 ⟨(Nat.le_of_ble_eq_true rfl), (Nat.le_of_ble_eq_true rfl)⟩ rfl (Nat.le_of_ble_eq_true rfl) dX9_word_37 rfl) (fun v17 s18 hf => ?_)
    refine z_pop hC (pc := 40) dX9_word_40 rfl ?_
    refine z_iinc (v := 1) (lv' := [(2, zi (l2 + 1)), (0, zr (some l0)), (1, zr (some a16))]) hC (pc := 41) hL dX9_word_41 2 rfl zki_1 (Nat.le_of_ble_eq_true rfl) rfl ?_
    refine z_goto hC (pc := 44) (tgt := 18) dX9_word_44 rfl ?_
    refine ZW.perm (lv' := [(0, zr (some l0)), (1, zr (some a16)), (2, zi (l2 + 1))]) [1, 2, 0] rfl ?_
    exact hk18 l0 (some a16) (l2 + 1) s18 hf
def f_X9_word_l18 (G : Nat → Nat) : Nat → Nat → Option Nat → Int32 → zS → Option ((Option Nat) × zS)
  | 0 => fun _ _ _ _ => none
  | n + 1 => f_X9_word_b18 G (f_X9_word_l18 G n)
theorem w_X9_word_l18 {X : zX} (hC : ZC X RX9 cX9_word (some (.object "java/lang/String")) 7 171) (hL : X.nL = 3) (hno : ∀ x ∈ X.c.exceptionTable.toList, False) {r : (Option Nat)} {sF : zS} (hQ : ZQ X (.inl (some (zr r)), sF)) : ∀ (n : Nat) (l0 : Nat) (l1 : Option Nat) (l2 : Int32) (s0 : zS) (_ : f_X9_word_l18 X.g.1 n l0 l1 l2 s0 = some (r, sF)), ZW X s0 18 [(0, zr (some l0)), (1, zr l1), (2, zi l2)] [] := by
  intro n
  induction n with
  | zero => intro l0 l1 l2 s0 hf; exact absurd (show (none : Option ((Option Nat) × zS)) = some (r, sF) from hf) (fun z => nomatch z)
  | succ n ih => intro l0 l1 l2 s0 hf; exact w_X9_word_b18 hC hL hno hQ (f_X9_word_l18 X.g.1 n) ih l0 l1 l2 s0 hf
def f_X9_word (G : Nat → Nat) (l0 : Nat) (s0 : zS) : Option ((Option Nat) × zS) :=
zo (zrc s0 (some l0) 7) fun _ =>
zb (f_X9_peek G l0 s0) fun v3 s4 =>
zb (znewO G s4 16 4 [.null, .int 0, .int 0, .int 0]) fun a5 s6 =>
zb (f_J11_init G a5 s6) fun _ s8 =>
zo (zgI s8 (some l0) 7 3) fun v9 =>
f_X9_word_l18 G 2000 l0 (some a5) v9 s8
set_option maxHeartbeats 4000000 in
theorem m_X9_word (Γ : zG) (l0 : Nat) (s0 s1 : zS) (r : (Option Nat)) (hf : f_X9_word Γ.1 l0 s0 = some (r, s1)) : ZM Γ yX9_word (ws_ yX9_word cX9_word 3 (some (.object "java/lang/String"))) 7 171 [zr (some l0)] s0 (.inl (some (zr r)), s1) := by
  refine ZM.of (own := RX9) (by decide) rfl (Nat.le_of_ble_eq_true rfl) ?_
  intro X hg hC hL hno hQ hin
  subst hg
  unfold f_X9_word at hf
  refine z_aload_n hC (pc := 0) dX9_word_0 rfl 0 rfl ?_
  obtain ⟨fs1, ha2, hf⟩ := z_rcN hf
  refine z_cI (rest := []) hf (fun v3 s4 hcall => z_runV hC (pc := 1) zcX9 0 ha2 (m_X9_peek X.g l0 s0 s4 v3 hcall) (lw_V q2063 q2065 qs26 q113 q2066) hdV_X9_peek ⟨(Nat.le_of_ble_eq_true rfl), (Nat.le_of_ble_eq_true rfl)⟩ rfl (Nat.le_of_ble_eq_true rfl) dX9_word_1 rfl) (fun v3 s4 hf => ?_)
  refine z_pop hC (pc := 4) dX9_word_4 rfl ?_
  refine z_new hC (pc := 5) in_J11 tyJ11 tyJ11_ok zcJ11 q2067 q549 q115 rfl zdJ11 dX9_word_5 hf (fun a5 s6 hf => ?_)
  refine z_dup hC (pc := 8) dX9_word_8 rfl ?_
  refine z_cU (rest := [zr (some a5)]) hf (fun v7 s8 hcall => z_runI hC (pc := 9) 0 (m_J11_init X.g a5 s6 s8 v7 hcall) q552 rfl q115 q2068 q551 hd_J11_init ⟨(Nat.le_of_ble_eq_true rfl), (Nat.le_of_ble_eq_true rfl)⟩ rfl (Nat.le_of_ble_eq_true rfl) dX9_word_9 rfl) (fun _ s8 hf => ?_)
  refine z_astore_n (lv' := [(1, zr (some a5)), (0, zr (some l0))]) hC (pc := 12) hL dX9_word_12 rfl (Nat.le_of_ble_eq_true rfl) rfl ?_
  refine z_aload_n hC (pc := 13) dX9_word_13 rfl 1 rfl ?_
  refine z_getI hC (pc := 14) in_X9 zcX9 3 (Nat.le_of_ble_eq_true rfl) (zLk.o hC q2033) zsm dX9_word_14 hf (fun v9 hf => ?_)
  refine z_istore_n (lv' := [(2, zi v9), (1, zr (some a5)), (0, zr (some l0))]) hC (pc := 17) hL dX9_word_17 rfl (Nat.le_of_ble_eq_true rfl) rfl ?_
  refine ZW.perm (lv' := [(0, zr (some l0)), (1, zr (some a5)), (2, zi v9)]) [2, 1, 0] rfl ?_
  exact w_X9_word_l18 hC hL hno hQ 2000 l0 (some a5) v9 s8 hf
/-! BlockingShop$Parser.job()V -/
def f_X9_job_b152 (G : Nat → Nat) (k84 : Nat → Option Nat → Int32 → Option Nat → zS → Option ((Unit ⊕ (Nat × Nat)) × zS)) (l0 : Nat) (l3 : Option Nat) (l4 : Int32) (l5 : Option Nat) (l7 : Int32) (t0 : Int32) (t1 : Option Nat) (s0 : zS) : Option ((Unit ⊕ (Nat × Nat)) × zS) :=
zo (zgI s0 (some l0) 7 4) fun v1 =>
zo (zrc s0 t1 7) fun a4 =>
zx (f_X9_require G a4 t0 (-3) v1 s0) (fun e s => some (.inr e, s)) fun _ s6 =>
zo (zrc s6 l5 19) fun a9 =>
zb (f_J22_set G a9 l7 s6) fun _ s11 =>
zo (zgR s11 (some l0) 7 2) fun v12 =>
zo (zgR s11 v12 3 4) fun v13 =>
zo (zgI s11 l3 9 3) fun v14 =>
zo (zsI G s11 v13 0 (l4 + v14) l7) fun s15 =>
zo (zgR s15 (some l0) 7 1) fun v16 =>
zo (zgI s15 l3 9 3) fun v17 =>
zo (zrc s15 (some l0) 7) fun _ =>
zx (f_X9_number G l0 1 99 s15) (fun e s => some (.inr e, s)) fun v20 s21 =>
zo (zsI G s21 v16 0 (l4 + v17) v20) fun s22 =>
zo (zgI s22 l3 9 3) fun v23 =>
zo (zput G s22 l3 9 3 (.int (v23 + 1))) fun s24 =>
k84 l0 l3 l4 (some a9) s24
set_option maxHeartbeats 4000000 in
theorem w_X9_job_b152 {X : zX} (hC : ZC X RX9 cX9_job none 8 193) (hL : X.nL = 8) (hno : ∀ x ∈ X.c.exceptionTable.toList, False) {r : (Unit ⊕ (Nat × Nat))} {sF : zS} (hQ : ZQ X (zoU r, sF)) (k84 : Nat → Option Nat → Int32 → Option Nat → zS → Option ((Unit ⊕ (Nat × Nat)) × zS)) (hk84 : ∀ (l0 : Nat) (l3 : Option Nat) (l4 : Int32) (l5 : Option Nat) (s0 : zS), k84 l0 l3 l4 l5 s0 = some (r, sF) → ZW X s0 84 [(0, zr (some l0)), (3, zr l3), (4, zi l4), (5, zr l5)] []) (l0 : Nat) (l3 : Option Nat) (l4 : Int32) (l5 : Option Nat) (l7 : Int32) (t0 : Int32) (t1 : Option Nat) (s0 : zS) (hf : f_X9_job_b152 X.g.1 k84 l0 l3 l4 l5 l7 t0 t1 s0 = some (r, sF)) : ZW X s0 152 [(0, zr (some l0)), (3, zr l3), (4, zi l4), (5, zr l5), (7, zi l7)] [zi t0, zr t1] := by
  unfold f_X9_job_b152 at hf
  refine z_bipush (v := (-3)) hC (pc := 152) dX9_job_152 zkb_m3 ?_
  refine z_aload_n hC (pc := 154) dX9_job_154 rfl 0 rfl ?_
  refine z_getI hC (pc := 155) in_X9 zcX9 4 (Nat.le_of_ble_eq_true rfl) (zLk.o hC q2034) zsm dX9_job_155 hf (fun v1 hf => ?_)
  obtain ⟨a4, fs2, rfl, ha3, hf⟩ := z_rcO hf
  refine z_cXU (rest := []) hf (fun v5 s6 hcall => z_runV hC (pc := 158) zcX9 3 ha3 (m_X9_require X.g a4 t0 (-3) v1 s0 s6 v5 hcall) (lw_V q2099 q2101 qs28 q113 q2102) hdV_X9_require ⟨(Nat.le_of_ble_eq_true rfl), (Nat.le_of_ble_eq_true rfl)⟩ rfl (Nat.le_of_ble_eq_true rfl) dX9_job_158 rfl) (fun _ s6 hf => ?_) (fun e s hf => z_outU hC hQ hno hf)
  refine z_aload hC (pc := 161) dX9_job_161 3 rfl ?_
  refine z_iload hC (pc := 163) dX9_job_163 4 rfl ?_
  obtain ⟨a9, fs7, rfl, ha8, hf⟩ := z_rcO hf
  refine z_cU (rest := []) hf (fun v10 s11 hcall => z_runV hC (pc := 165) zcJ22 1 ha8 (m_J22_set X.g a9 l7 s6 s11 v10 hcall) (lw_V q2195 q1157 q1158 q129 q1159) hdV_J22_set ⟨(Nat.le_of_ble_eq_true rfl), (Nat.le_of_ble_eq_true rfl)⟩ rfl (Nat.le_of_ble_eq_true rfl) dX9_job_165 rfl) (fun _ s11 hf => ?_)
  refine z_aload_n hC (pc := 168) dX9_job_168 rfl 0 rfl ?_
  refine z_getR hC (pc := 169) in_X9 zcX9 2 (Nat.le_of_ble_eq_true rfl) (zLk.o hC q2032) zsm dX9_job_169 hf (fun v12 hf => ?_)
  refine z_getR hC (pc := 172) in_X4 zcX4 4 (Nat.le_of_ble_eq_true rfl) (zLk.n hC q337) zsm dX9_job_172 hf (fun v13 hf => ?_)
  refine z_iload hC (pc := 175) dX9_job_175 2 rfl ?_
  refine z_aload_n hC (pc := 177) dX9_job_177 rfl 1 rfl ?_
  refine z_getI hC (pc := 178) in_X11 zcX11 3 (Nat.le_of_ble_eq_true rfl) (zLk.n hC q2177) zsm dX9_job_178 hf (fun v14 hf => ?_)
  refine z_iadd hC (pc := 181) dX9_job_181 ?_
  refine z_iload hC (pc := 182) dX9_job_182 4 rfl ?_
  refine z_iast hC (pc := 184) dX9_job_184 hf (fun s15 hf => ?_)
  refine z_aload_n hC (pc := 185) dX9_job_185 rfl 0 rfl ?_
  refine z_getR hC (pc := 186) in_X9 zcX9 1 (Nat.le_of_ble_eq_true rfl) (zLk.o hC q2031) zsm dX9_job_186 hf (fun v16 hf => ?_)
  refine z_iload hC (pc := 189) dX9_job_189 2 rfl ?_
  refine z_aload_n hC (pc := 191) dX9_job_191 rfl 1 rfl ?_
  refine z_getI hC (pc := 192) in_X11 zcX11 3 (Nat.le_of_ble_eq_true rfl) (zLk.n hC q2177) zsm dX9_job_192 hf (fun v17 hf => ?_)
  refine z_iadd hC (pc := 195) dX9_job_195 ?_
  refine z_aload_n hC (pc := 196) dX9_job_196 rfl 0 rfl ?_
  refine z_iconst (v := 1) hC (pc := 197) dX9_job_197 zki_1 ?_
  refine z_bipush (v := 99) hC (pc := 198) dX9_job_198 zkb_99 ?_
  obtain ⟨fs18, ha19, hf⟩ := z_rcN hf
  refine z_cXI (rest := [zi (l4 + v17), zr v16]) hf (fun v20 s21 hcall => z_runV hC (pc := 200) zcX9 2 ha19 (m_X9_number X.g l0 1 99 s15 s21 v20 hcall) (lw_V q2131 q2133 qs29 q113 q2134) hdV_X9_number ⟨(Nat.le_of_ble_eq_true rfl), (Nat.le_of_ble_eq_true rfl)⟩ rfl (Nat.le_of_ble_eq_true rfl) dX9_job_200 rfl) (fun v20 s21 hf => ?_) (fun e s hf => z_outU hC hQ hno hf)
  refine z_iast hC (pc := 203) dX9_job_203 hf (fun s22 hf => ?_)
  refine z_aload_n hC (pc := 204) dX9_job_204 rfl 1 rfl ?_
  refine z_dup hC (pc := 205) dX9_job_205 rfl ?_
  refine z_getI hC (pc := 206) in_X11 zcX11 3 (Nat.le_of_ble_eq_true rfl) (zLk.n hC q2177) zsm dX9_job_206 hf (fun v23 hf => ?_)
  refine z_iconst (v := 1) hC (pc := 209) dX9_job_209 zki_1 ?_
  refine z_iadd hC (pc := 210) dX9_job_210 ?_
  refine z_putV (v := zi (v23 + 1)) hC (pc := 211) in_X11 tyX11 tyX11_ok nmX11 zcX11 3 (Nat.le_of_ble_eq_true rfl) (zLk.n hC q2177) zsm (Or.inl rfl) rfl rfl dX9_job_211 hf (fun s24 hf => ?_)
  refine z_goto hC (pc := 214) (tgt := 84) dX9_job_214 rfl ?_
  refine ZW.perm (lv' := [(0, zr (some l0)), (3, zr l3), (4, zi l4), (5, zr (some a9))]) [0, 1, 2, 3] rfl ?_
  exact hk84 l0 l3 l4 (some a9) s24 hf
def f_X9_job_b111 (G : Nat → Nat) (k84 : Nat → Option Nat → Int32 → Option Nat → zS → Option ((Unit ⊕ (Nat × Nat)) × zS)) (l0 : Nat) (l3 : Option Nat) (l4 : Int32) (l5 : Option Nat) (t0 : Int32) (t1 : Option Nat) (s0 : zS) : Option ((Unit ⊕ (Nat × Nat)) × zS) :=
zo (zgI s0 (some l0) 7 3) fun v1 =>
zo (zrc s0 t1 7) fun a4 =>
zx (f_X9_require G a4 t0 (-4) v1 s0) (fun e s => some (.inr e, s)) fun _ s6 =>
zo (zgI s6 (some l0) 7 3) fun v7 =>
zo (zput G s6 (some l0) 7 3 (.int (v7 + 2))) fun s8 =>
zo (zrc s8 (some l0) 7) fun _ =>
zx (f_X9_machine G l0 s8) (fun e s => some (.inr e, s)) fun v11 s12 =>
zo (zrc s12 l5 19) fun a15 =>
zb (f_J22_get G a15 v11 s12) fun v16 s17 =>
if v16 = 0 then (f_X9_job_b152 G k84 l0 l3 l4 (some a15) v11 1 (some l0) s17)
else (f_X9_job_b152 G k84 l0 l3 l4 (some a15) v11 0 (some l0) s17)
set_option maxHeartbeats 4000000 in
theorem w_X9_job_b111 {X : zX} (hC : ZC X RX9 cX9_job none 8 193) (hL : X.nL = 8) (hno : ∀ x ∈ X.c.exceptionTable.toList, False) {r : (Unit ⊕ (Nat × Nat))} {sF : zS} (hQ : ZQ X (zoU r, sF)) (k84 : Nat → Option Nat → Int32 → Option Nat → zS → Option ((Unit ⊕ (Nat × Nat)) × zS)) (hk84 : ∀ (l0 : Nat) (l3 : Option Nat) (l4 : Int32) (l5 : Option Nat) (s0 : zS), k84 l0 l3 l4 l5 s0 = some (r, sF) → ZW X s0 84 [(0, zr (some l0)), (3, zr l3), (4, zi l4), (5, zr l5)] []) (l0 : Nat) (l3 : Option Nat) (l4 : Int32) (l5 : Option Nat) (t0 : Int32) (t1 : Option Nat) (s0 : zS) (hf : f_X9_job_b111 X.g.1 k84 l0 l3 l4 l5 t0 t1 s0 = some (r, sF)) : ZW X s0 111 [(0, zr (some l0)), (3, zr l3), (4, zi l4), (5, zr l5)] [zi t0, zr t1] := by
  unfold f_X9_job_b111 at hf
  refine z_bipush (v := (-4)) hC (pc := 111) dX9_job_111 zkb_m4 ?_
  refine z_aload_n hC (pc := 113) dX9_job_113 rfl 0 rfl ?_
  refine z_getI hC (pc := 114) in_X9 zcX9 3 (Nat.le_of_ble_eq_true rfl) (zLk.o hC q2033) zsm dX9_job_114 hf (fun v1 hf => ?_)
  obtain ⟨a4, fs2, rfl, ha3, hf⟩ := z_rcO hf
  refine z_cXU (rest := []) hf (fun v5 s6 hcall => z_runV hC (pc := 117) zcX9 3 ha3 (m_X9_require X.g a4 t0 (-4) v1 s0 s6 v5 hcall) (lw_V q2099 q2101 qs28 q113 q2102) hdV_X9_require ⟨(Nat.le_of_ble_eq_true rfl), (Nat.le_of_ble_eq_true rfl)⟩ rfl (Nat.le_of_ble_eq_true rfl) dX9_job_117 rfl) (fun _ s6 hf => ?_) (fun e s hf => z_outU hC hQ hno hf)
  refine z_aload_n hC (pc := 120) dX9_job_120 rfl 0 rfl ?_
  refine z_dup hC (pc := 121) dX9_job_121 rfl ?_
  refine z_getI hC (pc := 122) in_X9 zcX9 3 (Nat.le_of_ble_eq_true rfl) (zLk.o hC q2033) zsm dX9_job_122 hf (fun v7 hf => ?_)
  refine z_iconst (v := 2) hC (pc := 125) dX9_job_125 zki_2 ?_
  refine z_iadd hC (pc := 126) dX9_job_126 ?_
  refine z_putV (v := zi (v7 + 2)) hC (pc := 127) in_X9 tyX9 tyX9_ok nmX9 zcX9 3 (Nat.le_of_ble_eq_true rfl) (zLk.o hC q2033) zsm (Or.inl rfl) rfl rfl dX9_job_127 hf (fun s8 hf => ?_)
  refine z_aload_n hC (pc := 130) dX9_job_130 rfl 0 rfl ?_
  obtain ⟨fs9, ha10, hf⟩ := z_rcN hf
  refine z_cXI (rest := []) hf (fun v11 s12 hcall => z_runV hC (pc := 131) zcX9 0 ha10 (m_X9_machine X.g l0 s8 s12 v11 hcall) (lw_V q2190 q2192 qs33 q113 q2193) hdV_X9_machine ⟨(Nat.le_of_ble_eq_true rfl), (Nat.le_of_ble_eq_true rfl)⟩ rfl (Nat.le_of_ble_eq_true rfl) dX9_job_131 rfl) (fun v11 s12 hf => ?_) (fun e s hf => z_outU hC hQ hno hf)
  refine z_istore (lv' := [(7, zi v11), (0, zr (some l0)), (3, zr l3), (4, zi l4), (5, zr l5)]) hC (pc := 134) hL dX9_job_134 (Nat.le_of_ble_eq_true rfl) rfl ?_
  refine z_aload_n hC (pc := 136) dX9_job_136 rfl 1 rfl ?_
  refine z_aload hC (pc := 137) dX9_job_137 4 rfl ?_
  refine z_iload hC (pc := 139) dX9_job_139 0 rfl ?_
  obtain ⟨a15, fs13, rfl, ha14, hf⟩ := z_rcO hf
  refine z_cI (rest := [zr (some l0)]) hf (fun v16 s17 hcall => z_runV hC (pc := 141) zcJ22 1 ha14 (m_J22_get X.g a15 v11 s12 s17 v16 hcall) (lw_V q2194 q1073 q1074 q129 q1075) hdV_J22_get ⟨(Nat.le_of_ble_eq_true rfl), (Nat.le_of_ble_eq_true rfl)⟩ rfl (Nat.le_of_ble_eq_true rfl) dX9_job_141 rfl) (fun v16 s17 hf => ?_)
  refine z_if_ne hC (pc := 144) (tgt := 151) dX9_job_144 rfl (fun c18 => ?_) (fun c18 => ?_)
  · have hf := zif_f hf c18
    refine z_iconst (v := 0) hC (pc := 151) dX9_job_151 zki_0 ?_
    refine ZW.perm (lv' := [(0, zr (some l0)), (3, zr l3), (4, zi l4), (5, zr (some a15)), (7, zi v11)]) [1, 2, 3, 4, 0] rfl ?_
    exact w_X9_job_b152 hC hL hno hQ k84 hk84 l0 l3 l4 (some a15) v11 0 (some l0) s17 hf
  · have hf := zif_t hf c18
    refine z_iconst (v := 1) hC (pc := 147) dX9_job_147 zki_1 ?_
    refine z_goto hC (pc := 148) (tgt := 152) dX9_job_148 rfl ?_
    refine ZW.perm (lv' := [(0, zr (some l0)), (3, zr l3), (4, zi l4), (5, zr (some a15)), (7, zi v11)]) [1, 2, 3, 4, 0] rfl ?_
    exact w_X9_job_b152 hC hL hno hQ k84 hk84 l0 l3 l4 (some a15) v11 1 (some l0) s17 hf
def f_X9_job_b84 (G : Nat → Nat) (k84 : Nat → Option Nat → Int32 → Option Nat → zS → Option ((Unit ⊕ (Nat × Nat)) × zS)) (l0 : Nat) (l3 : Option Nat) (l4 : Int32) (l5 : Option Nat) (s0 : zS) : Option ((Unit ⊕ (Nat × Nat)) × zS) :=
zo (zrc s0 (some l0) 7) fun _ =>
zb (f_X9_word G l0 s0) fun v3 s4 =>
zo (zrc s4 v3 17) fun a7 =>
zb (f_J12_equals G a7 (some (G 12)) s4) fun v8 s9 =>
if v8 = 0 then (zo (zgR s9 (some l0) 7 2) fun v11 =>
zo (zgR s9 v11 3 3) fun v12 =>
zo (zrc s9 v12 15) fun a15 =>
zb (f_J5_add G a15 l3 s9) fun v16 s17 =>
some (.inl (), s17))
else (zo (zgI s9 l3 9 3) fun v18 =>
if 6 ≤ v18 then (f_X9_job_b111 G k84 l0 l3 l4 l5 0 (some l0) s9)
else (f_X9_job_b111 G k84 l0 l3 l4 l5 1 (some l0) s9))
set_option maxHeartbeats 4000000 in
theorem w_X9_job_b84 {X : zX} (hC : ZC X RX9 cX9_job none 8 193) (hL : X.nL = 8) (hno : ∀ x ∈ X.c.exceptionTable.toList, False) {r : (Unit ⊕ (Nat × Nat))} {sF : zS} (hQ : ZQ X (zoU r, sF)) (k84 : Nat → Option Nat → Int32 → Option Nat → zS → Option ((Unit ⊕ (Nat × Nat)) × zS)) (hk84 : ∀ (l0 : Nat) (l3 : Option Nat) (l4 : Int32) (l5 : Option Nat) (s0 : zS), k84 l0 l3 l4 l5 s0 = some (r, sF) → ZW X s0 84 [(0, zr (some l0)), (3, zr l3), (4, zi l4), (5, zr l5)] []) (l0 : Nat) (l3 : Option Nat) (l4 : Int32) (l5 : Option Nat) (s0 : zS) (hf : f_X9_job_b84 X.g.1 k84 l0 l3 l4 l5 s0 = some (r, sF)) : ZW X s0 84 [(0, zr (some l0)), (3, zr l3), (4, zi l4), (5, zr l5)] [] := by
  unfold f_X9_job_b84 at hf
  refine z_aload_n hC (pc := 84) dX9_job_84 rfl 0 rfl ?_
  obtain ⟨fs1, ha2, hf⟩ := z_rcN hf
  refine z_cR (rest := []) hf (fun v3 s4 hcall => z_runV hC (pc := 85) zcX9 0 ha2 (m_X9_word X.g l0 s0 s4 v3 hcall) (lw_V q2059 q2061 qs25 q113 q2062) hdV_X9_word ⟨(Nat.le_of_ble_eq_true rfl), (Nat.le_of_ble_eq_true rfl)⟩ rfl (Nat.le_of_ble_eq_true rfl) dX9_job_85 rfl) (fun v3 s4 hf => ?_)
  refine z_lit (k := 12) hC (pc := 88) (List.mem_of_getElem? (i := 17) rfl) dX9_job_88 ?_
  obtain ⟨a7, fs5, rfl, ha6, hf⟩ := z_rcO hf
  refine z_cI (rest := []) hf (fun v8 s9 hcall => z_runV hC (pc := 90) zcJ12 1 ha6 (m_J12_equals X.g a7 (some (X.g.1 12)) s4 s9 v8 hcall) (lw_V q2098 q968 q969 q116 q970) hdV_J12_equals ⟨(Nat.le_of_ble_eq_true rfl), (Nat.le_of_ble_eq_true rfl)⟩ rfl (Nat.le_of_ble_eq_true rfl) dX9_job_90 rfl) (fun v8 s9 hf => ?_)
  refine z_if_eq hC (pc := 93) (tgt := 217) dX9_job_93 rfl (fun c10 => ?_) (fun c10 => ?_)
  · have hf := zif_t hf c10
    refine z_aload_n hC (pc := 217) dX9_job_217 rfl 0 rfl ?_
    refine z_getR hC (pc := 218) in_X9 zcX9 2 (Nat.le_of_ble_eq_true rfl) (zLk.o hC q2032) zsm dX9_job_218 hf (fun v11 hf => ?_)
    refine z_getR hC (pc := 221) in_X4 zcX4 3 (Nat.le_of_ble_eq_true rfl) (zLk.n hC q334) zsm dX9_job_221 hf (fun v12 hf => ?_)
    refine z_aload_n hC (pc := 224) dX9_job_224 rfl 1 rfl ?_
    obtain ⟨a15, fs13, rfl, ha14, hf⟩ := z_rcO hf
    refine z_cI5 (rest := []) hf (fun v16 s17 hcall => z_runF hC (pc := 225) zcJ5 1 ha14 (m_J5_add X.g a15 l3 s9 s17 v16 hcall) (lw_app (zm4 q2197 q1651 q1653 q104) (lw_meth q1655)) q1650 q1649 q1654 q1652 q434 (by decide +kernel) ⟨(Nat.le_of_ble_eq_true rfl), (Nat.le_of_ble_eq_true rfl)⟩ rfl (Nat.le_of_ble_eq_true rfl) dX9_job_225 rfl) (fun v16 s17 hf => ?_)
    refine z_pop hC (pc := 230) dX9_job_230 rfl ?_
    exact z_returnX hC (pc := 231) hQ dX9_job_231 hf
  · have hf := zif_f hf c10
    refine z_aload_n hC (pc := 96) dX9_job_96 rfl 0 rfl ?_
    refine z_aload_n hC (pc := 97) dX9_job_97 rfl 1 rfl ?_
    refine z_getI hC (pc := 98) in_X11 zcX11 3 (Nat.le_of_ble_eq_true rfl) (zLk.n hC q2177) zsm dX9_job_98 hf (fun v18 hf => ?_)
    refine z_bipush (v := 6) hC (pc := 101) dX9_job_101 zkb_6 ?_
    refine z_icmp_ge hC (pc := 103) (tgt := 110) dX9_job_103 rfl (fun c19 => ?_) (fun c19 => ?_)
    · have hf := zif_t hf c19
      refine z_iconst (v := 0) hC (pc := 110) dX9_job_110 zki_0 ?_
      exact w_X9_job_b111 hC hL hno hQ k84 hk84 l0 l3 l4 l5 0 (some l0) s9 hf
    · have hf := zif_f hf c19
      refine z_iconst (v := 1) hC (pc := 106) dX9_job_106 zki_1 ?_
      refine z_goto hC (pc := 107) (tgt := 111) dX9_job_107 rfl ?_
      exact w_X9_job_b111 hC hL hno hQ k84 hk84 l0 l3 l4 l5 1 (some l0) s9 hf
def f_X9_job_l84 (G : Nat → Nat) : Nat → Nat → Option Nat → Int32 → Option Nat → zS → Option ((Unit ⊕ (Nat × Nat)) × zS)
  | 0 => fun _ _ _ _ _ => none
  | n + 1 => f_X9_job_b84 G (f_X9_job_l84 G n)
theorem w_X9_job_l84 {X : zX} (hC : ZC X RX9 cX9_job none 8 193) (hL : X.nL = 8) (hno : ∀ x ∈ X.c.exceptionTable.toList, False) {r : (Unit ⊕ (Nat × Nat))} {sF : zS} (hQ : ZQ X (zoU r, sF)) : ∀ (n : Nat) (l0 : Nat) (l3 : Option Nat) (l4 : Int32) (l5 : Option Nat) (s0 : zS) (_ : f_X9_job_l84 X.g.1 n l0 l3 l4 l5 s0 = some (r, sF)), ZW X s0 84 [(0, zr (some l0)), (3, zr l3), (4, zi l4), (5, zr l5)] [] := by
  intro n
  induction n with
  | zero => intro l0 l3 l4 l5 s0 hf; exact absurd (show (none : Option ((Unit ⊕ (Nat × Nat)) × zS)) = some (r, sF) from hf) (fun z => nomatch z)
  | succ n ih => intro l0 l3 l4 l5 s0 hf; exact w_X9_job_b84 hC hL hno hQ (f_X9_job_l84 X.g.1 n) ih l0 l3 l4 l5 s0 hf
def f_X9_job (G : Nat → Nat) (l0 : Nat) (s0 : zS) : Option ((Unit ⊕ (Nat × Nat)) × zS) :=
zo (zrc s0 (some l0) 7) fun _ =>
zx (f_X9_number G l0 0 999 s0) (fun e s => some (.inr e, s)) fun v3 s4 =>
zo (zrc s4 (some l0) 7) fun _ =>
zx (f_X9_number G l0 0 9999 s4) (fun e s => some (.inr e, s)) fun v7 s8 =>
zb (znewO G s8 9 4 [.int 0, .int 0, .int 0, .int 0]) fun a9 s10 =>
zo (zrc s10 (some l0) 7) fun _ =>
zx (f_X9_number G l0 0 99 s10) (fun e s => some (.inr e, s)) fun v13 s14 =>
zb (f_X11_init G a9 v3 v7 v13 s14) fun _ s16 =>
zo (zgR s16 (some l0) 7 2) fun v17 =>
zo (zgR s16 v17 3 3) fun v18 =>
zo (zrc s16 v18 15) fun a21 =>
zb (f_J5_size G a21 s16) fun v22 s23 =>
zb (znewO G s23 19 3 [.null, .int 0, .int 0]) fun a24 s25 =>
zb (f_J22_init G a24 s25) fun _ s27 =>
zo (zrc s27 (some l0) 7) fun _ =>
zb (f_X9_word G l0 s27) fun v30 s31 =>
zo (zrc s31 v30 17) fun a34 =>
zb (f_J12_equals G a34 (some (G 12)) s31) fun v35 s36 =>
zo (zgI s36 (some l0) 7 3) fun v37 =>
zo (zrc s36 (some l0) 7) fun _ =>
zx (f_X9_require G l0 v35 (-2) v37 s36) (fun e s => some (.inr e, s)) fun _ s41 =>
f_X9_job_l84 G 2000 l0 (some a9) (6 * v22) (some a24) s41
set_option maxHeartbeats 4000000 in
theorem m_X9_job (Γ : zG) (l0 : Nat) (s0 s1 : zS) (r : (Unit ⊕ (Nat × Nat))) (hf : f_X9_job Γ.1 l0 s0 = some (r, s1)) : ZM Γ yX9_job (ws_ yX9_job cX9_job 8 none) 8 193 [zr (some l0)] s0 (zoU r, s1) := by
  refine ZM.of (own := RX9) (by decide) rfl (Nat.le_of_ble_eq_true rfl) ?_
  intro X hg hC hL hno hQ hin
  subst hg
  unfold f_X9_job at hf
  refine z_aload_n hC (pc := 0) dX9_job_0 rfl 0 rfl ?_
  refine z_iconst (v := 0) hC (pc := 1) dX9_job_1 zki_0 ?_
  refine z_sipush (v := 999) hC (pc := 2) dX9_job_2 zks_999 ?_
  obtain ⟨fs1, ha2, hf⟩ := z_rcN hf
  refine z_cXI (rest := []) hf (fun v3 s4 hcall => z_runV hC (pc := 5) zcX9 2 ha2 (m_X9_number X.g l0 0 999 s0 s4 v3 hcall) (lw_V q2131 q2133 qs29 q113 q2134) hdV_X9_number ⟨(Nat.le_of_ble_eq_true rfl), (Nat.le_of_ble_eq_true rfl)⟩ rfl (Nat.le_of_ble_eq_true rfl) dX9_job_5 rfl) (fun v3 s4 hf => ?_) (fun e s hf => z_outU hC hQ hno hf)
  refine z_istore_n (lv' := [(1, zi v3), (0, zr (some l0))]) hC (pc := 8) hL dX9_job_8 rfl (Nat.le_of_ble_eq_true rfl) rfl ?_
  refine z_aload_n hC (pc := 9) dX9_job_9 rfl 1 rfl ?_
  refine z_iconst (v := 0) hC (pc := 10) dX9_job_10 zki_0 ?_
  refine z_sipush (v := 9999) hC (pc := 11) dX9_job_11 zks_9999 ?_
  obtain ⟨fs5, ha6, hf⟩ := z_rcN hf
  refine z_cXI (rest := []) hf (fun v7 s8 hcall => z_runV hC (pc := 14) zcX9 2 ha6 (m_X9_number X.g l0 0 9999 s4 s8 v7 hcall) (lw_V q2131 q2133 qs29 q113 q2134) hdV_X9_number ⟨(Nat.le_of_ble_eq_true rfl), (Nat.le_of_ble_eq_true rfl)⟩ rfl (Nat.le_of_ble_eq_true rfl) dX9_job_14 rfl) (fun v7 s8 hf => ?_) (fun e s hf => z_outU hC hQ hno hf)
  refine z_istore_n (lv' := [(2, zi v7), (1, zi v3), (0, zr (some l0))]) hC (pc := 17) hL dX9_job_17 rfl (Nat.le_of_ble_eq_true rfl) rfl ?_
  refine z_new hC (pc := 18) in_X11 tyX11 tyX11_ok zcX11 q2160 q2161 q128 rfl zdX11 dX9_job_18 hf (fun a9 s10 hf => ?_)
  refine z_dup hC (pc := 21) dX9_job_21 rfl ?_
  refine z_iload_n hC (pc := 22) dX9_job_22 rfl 1 rfl ?_
  refine z_iload_n hC (pc := 23) dX9_job_23 rfl 0 rfl ?_
  refine z_aload_n hC (pc := 24) dX9_job_24 rfl 2 rfl ?_
  refine z_iconst (v := 0) hC (pc := 25) dX9_job_25 zki_0 ?_
  refine z_bipush (v := 99) hC (pc := 26) dX9_job_26 zkb_99 ?_
  obtain ⟨fs11, ha12, hf⟩ := z_rcN hf
  refine z_cXI (rest := [zi v7, zi v3, zr (some a9), zr (some a9)]) hf (fun v13 s14 hcall => z_runV hC (pc := 28) zcX9 2 ha12 (m_X9_number X.g l0 0 99 s10 s14 v13 hcall) (lw_V q2131 q2133 qs29 q113 q2134) hdV_X9_number ⟨(Nat.le_of_ble_eq_true rfl), (Nat.le_of_ble_eq_true rfl)⟩ rfl (Nat.le_of_ble_eq_true rfl) dX9_job_28 rfl) (fun v13 s14 hf => ?_) (fun e s hf => z_outU hC hQ hno hf)
  refine z_cU (rest := [zr (some a9)]) hf (fun v15 s16 hcall => z_runI hC (pc := 31) 3 (m_X11_init X.g a9 v3 v7 v13 s14 s16 v15 hcall) q2164 rfl q128 q2162 q2163 hd_X11_init ⟨(Nat.le_of_ble_eq_true rfl), (Nat.le_of_ble_eq_true rfl)⟩ rfl (Nat.le_of_ble_eq_true rfl) dX9_job_31 rfl) (fun _ s16 hf => ?_)
  refine z_astore_n (lv' := [(3, zr (some a9)), (2, zi v7), (1, zi v3), (0, zr (some l0))]) hC (pc := 34) hL dX9_job_34 rfl (Nat.le_of_ble_eq_true rfl) rfl ?_
  refine z_bipush (v := 6) hC (pc := 35) dX9_job_35 zkb_6 ?_
  refine z_aload_n hC (pc := 37) dX9_job_37 rfl 3 rfl ?_
  refine z_getR hC (pc := 38) in_X9 zcX9 2 (Nat.le_of_ble_eq_true rfl) (zLk.o hC q2032) zsm dX9_job_38 hf (fun v17 hf => ?_)
  refine z_getR hC (pc := 41) in_X4 zcX4 3 (Nat.le_of_ble_eq_true rfl) (zLk.n hC q334) zsm dX9_job_41 hf (fun v18 hf => ?_)
  obtain ⟨a21, fs19, rfl, ha20, hf⟩ := z_rcO hf
  refine z_cI5 (rest := [zi 6]) hf (fun v22 s23 hcall => z_runF hC (pc := 44) zcJ5 0 ha20 (m_J5_size X.g a21 s16 s23 v22 hcall) (lw_app (zm4 q2155 q435 q437 q104) (lw_meth q439)) q433 q432 q438 q436 q434 (by decide +kernel) ⟨(Nat.le_of_ble_eq_true rfl), (Nat.le_of_ble_eq_true rfl)⟩ rfl (Nat.le_of_ble_eq_true rfl) dX9_job_44 rfl) (fun v22 s23 hf => ?_)
  refine z_imul hC (pc := 49) dX9_job_49 ?_
  refine z_istore (lv' := [(4, zi (6 * v22)), (3, zr (some a9)), (2, zi v7), (1, zi v3), (0, zr (some l0))]) hC (pc := 50) hL dX9_job_50 (Nat.le_of_ble_eq_true rfl) rfl ?_
  refine z_new hC (pc := 52) in_J22 tyJ22 tyJ22_ok zcJ22 q2187 q1025 q129 rfl zdJ22 dX9_job_52 hf (fun a24 s25 hf => ?_)
  refine z_dup hC (pc := 55) dX9_job_55 rfl ?_
  refine z_cU (rest := [zr (some a24)]) hf (fun v26 s27 hcall => z_runI hC (pc := 56) 0 (m_J22_init X.g a24 s25 s27 v26 hcall) q1028 rfl q129 q2188 q1027 hd_J22_init ⟨(Nat.le_of_ble_eq_true rfl), (Nat.le_of_ble_eq_true rfl)⟩ rfl (Nat.le_of_ble_eq_true rfl) dX9_job_56 rfl) (fun _ s27 hf => ?_)
  refine z_astore (lv' := [(5, zr (some a24)), (4, zi (6 * v22)), (3, zr (some a9)), (2, zi v7), (1, zi v3), (0, zr (some l0))]) hC (pc := 59) hL dX9_job_59 (Nat.le_of_ble_eq_true rfl) rfl ?_
  refine z_aload_n hC (pc := 61) dX9_job_61 rfl 5 rfl ?_
  obtain ⟨fs28, ha29, hf⟩ := z_rcN hf
  refine z_cR (rest := []) hf (fun v30 s31 hcall => z_runV hC (pc := 62) zcX9 0 ha29 (m_X9_word X.g l0 s27 s31 v30 hcall) (lw_V q2059 q2061 qs25 q113 q2062) hdV_X9_word ⟨(Nat.le_of_ble_eq_true rfl), (Nat.le_of_ble_eq_true rfl)⟩ rfl (Nat.le_of_ble_eq_true rfl) dX9_job_62 rfl) (fun v30 s31 hf => ?_)
  refine z_lit (k := 12) hC (pc := 65) (List.mem_of_getElem? (i := 17) rfl) dX9_job_65 ?_
  obtain ⟨a34, fs32, rfl, ha33, hf⟩ := z_rcO hf
  refine z_cI (rest := []) hf (fun v35 s36 hcall => z_runV hC (pc := 67) zcJ12 1 ha33 (m_J12_equals X.g a34 (some (X.g.1 12)) s31 s36 v35 hcall) (lw_V q2098 q968 q969 q116 q970) hdV_J12_equals ⟨(Nat.le_of_ble_eq_true rfl), (Nat.le_of_ble_eq_true rfl)⟩ rfl (Nat.le_of_ble_eq_true rfl) dX9_job_67 rfl) (fun v35 s36 hf => ?_)
  refine z_istore (lv' := [(6, zi v35), (5, zr (some a24)), (4, zi (6 * v22)), (3, zr (some a9)), (2, zi v7), (1, zi v3), (0, zr (some l0))]) hC (pc := 70) hL dX9_job_70 (Nat.le_of_ble_eq_true rfl) rfl ?_
  refine z_aload_n hC (pc := 72) dX9_job_72 rfl 6 rfl ?_
  refine z_iload hC (pc := 73) dX9_job_73 0 rfl ?_
  refine z_bipush (v := (-2)) hC (pc := 75) dX9_job_75 zkb_m2 ?_
  refine z_aload_n hC (pc := 77) dX9_job_77 rfl 6 rfl ?_
  refine z_getI hC (pc := 78) in_X9 zcX9 3 (Nat.le_of_ble_eq_true rfl) (zLk.o hC q2033) zsm dX9_job_78 hf (fun v37 hf => ?_)
  obtain ⟨fs38, ha39, hf⟩ := z_rcN hf
  refine z_cXU (rest := []) hf (fun v40 s41 hcall => z_runV hC (pc := 81) zcX9 3 ha39 (m_X9_require X.g l0 v35 (-2) v37 s36 s41 v40 hcall) (lw_V q2099 q2101 qs28 q113 q2102) hdV_X9_require ⟨(Nat.le_of_ble_eq_true rfl), (Nat.le_of_ble_eq_true rfl)⟩ rfl (Nat.le_of_ble_eq_true rfl) dX9_job_81 rfl) (fun _ s41 hf => ?_) (fun e s hf => z_outU hC hQ hno hf)
  refine ZW.perm (lv' := [(0, zr (some l0)), (3, zr (some a9)), (4, zi (6 * v22)), (5, zr (some a24))]) [6, 3, 2, 1] rfl ?_
  exact w_X9_job_l84 hC hL hno hQ 2000 l0 (some a9) (6 * v22) (some a24) s41 hf
/-! BlockingShop$Node.<init>()V -/
def f_X5_init_X13 (G : Nat → Nat) (l0 : Nat) (s0 : zS) : Option (Unit × zS) :=
some ((), s0)
set_option maxHeartbeats 4000000 in
theorem m_X5_init_X13 (Γ : zG) (l0 : Nat) (s0 s1 : zS) (r : Unit) (hf : f_X5_init_X13 Γ.1 l0 s0 = some (r, s1)) : ZM Γ yX5_init (ws_ yX5_init cX5_init 1 none) 1 12 [zr (some l0)] s0 (.inl none, s1) := by
  refine ZM.of (own := RX5) (by decide) rfl (Nat.le_of_ble_eq_true rfl) ?_
  intro X hg hC hL hno hQ hin
  subst hg
  unfold f_X5_init_X13 at hf
  refine z_aload_n hC (pc := 0) dX5_init_0 rfl 0 rfl ?_
  refine z_objInit hC (pc := 1) q302 q163 q164 (Nat.le_of_ble_eq_true rfl) (Nat.le_of_ble_eq_true rfl) dX5_init_1 ?_
  exact z_return hC (pc := 4) hQ dX5_init_4 hf
/-! BlockingShop$Operation.<init>(ILBlockingShop$Node;LBlockingShop$Node;)V -/
def f_X13_init (G : Nat → Nat) (l0 : Nat) (l1 : Int32) (l2 : Option Nat) (l3 : Option Nat) (s0 : zS) : Option (Unit × zS) :=
zb (f_X5_init_X13 G l0 s0) fun _ s2 =>
zo (zput G s2 (some l0) 11 0 (.int l1)) fun s3 =>
zo (zput G s3 (some l0) 11 1 (va_rf l2)) fun s4 =>
zo (zput G s4 (some l0) 11 2 (va_rf l3)) fun s5 =>
some ((), s5)
set_option maxHeartbeats 4000000 in
theorem m_X13_init (Γ : zG) (l0 : Nat) (l1 : Int32) (l2 : Option Nat) (l3 : Option Nat) (s0 s1 : zS) (r : Unit) (hf : f_X13_init Γ.1 l0 l1 l2 l3 s0 = some (r, s1)) : ZM Γ yX13_init (ws_ yX13_init cX13_init 4 none) 2 32 [zr (some l0), zi l1, zr l2, zr l3] s0 (.inl none, s1) := by
  refine ZM.of (own := RX13) (by decide) rfl (Nat.le_of_ble_eq_true rfl) ?_
  intro X hg hC hL hno hQ hin
  subst hg
  unfold f_X13_init at hf
  refine z_aload_n hC (pc := 0) dX13_init_0 rfl 0 rfl ?_
  refine z_cU (rest := []) hf (fun v1 s2 hcall => z_runIN hC (pc := 1) 0 (m_X5_init_X13 X.g l0 s0 s2 v1 hcall) q301 rfl q105 q2437 q300 hd_X5_init ⟨(Nat.le_of_ble_eq_true rfl), (Nat.le_of_ble_eq_true rfl)⟩ rfl (Nat.le_of_ble_eq_true rfl) dX13_init_1 rfl) (fun _ s2 hf => ?_)
  refine z_aload_n hC (pc := 4) dX13_init_4 rfl 0 rfl ?_
  refine z_iload_n hC (pc := 5) dX13_init_5 rfl 1 rfl ?_
  refine z_putV (v := zi l1) hC (pc := 6) in_X13 tyX13 tyX13_ok nmX13 zcX13 0 (Nat.le_of_ble_eq_true rfl) (zLk.o hC q2438) zsm (Or.inr ⟨rfl, hin, rfl, rfl⟩) rfl rfl dX13_init_6 hf (fun s3 hf => ?_)
  refine z_aload_n hC (pc := 9) dX13_init_9 rfl 0 rfl ?_
  refine z_aload_n hC (pc := 10) dX13_init_10 rfl 2 rfl ?_
  refine z_putV (v := zr l2) hC (pc := 11) in_X13 tyX13 tyX13_ok nmX13 zcX13 1 (Nat.le_of_ble_eq_true rfl) (zLk.o hC q2439) zsm (Or.inr ⟨rfl, hin, rfl, rfl⟩) rfl (zfr l2) dX13_init_11 hf (fun s4 hf => ?_)
  refine z_aload_n hC (pc := 14) dX13_init_14 rfl 0 rfl ?_
  refine z_aload_n hC (pc := 15) dX13_init_15 rfl 3 rfl ?_
  refine z_putV (v := zr l3) hC (pc := 16) in_X13 tyX13 tyX13_ok nmX13 zcX13 2 (Nat.le_of_ble_eq_true rfl) (zLk.o hC q2440) zsm (Or.inr ⟨rfl, hin, rfl, rfl⟩) rfl (zfr l3) dX13_init_16 hf (fun s5 hf => ?_)
  exact z_return hC (pc := 19) hQ dX13_init_19 hf
/-! BlockingShop$Node.<init>()V -/
def f_X5_init_X12 (G : Nat → Nat) (l0 : Nat) (s0 : zS) : Option (Unit × zS) :=
some ((), s0)
set_option maxHeartbeats 4000000 in
theorem m_X5_init_X12 (Γ : zG) (l0 : Nat) (s0 s1 : zS) (r : Unit) (hf : f_X5_init_X12 Γ.1 l0 s0 = some (r, s1)) : ZM Γ yX5_init (ws_ yX5_init cX5_init 1 none) 1 12 [zr (some l0)] s0 (.inl none, s1) := by
  refine ZM.of (own := RX5) (by decide) rfl (Nat.le_of_ble_eq_true rfl) ?_
  intro X hg hC hL hno hQ hin
  subst hg
  unfold f_X5_init_X12 at hf
  refine z_aload_n hC (pc := 0) dX5_init_0 rfl 0 rfl ?_
  refine z_objInit hC (pc := 1) q302 q163 q164 (Nat.le_of_ble_eq_true rfl) (Nat.le_of_ble_eq_true rfl) dX5_init_1 ?_
  exact z_return hC (pc := 4) hQ dX5_init_4 hf
/-! BlockingShop$Literal.<init>(J)V -/
def f_X12_init (G : Nat → Nat) (l0 : Nat) (l1 : Int64) (s0 : zS) : Option (Unit × zS) :=
zb (f_X5_init_X12 G l0 s0) fun _ s2 =>
zo (zput G s2 (some l0) 10 0 (.long l1)) fun s3 =>
some ((), s3)
set_option maxHeartbeats 4000000 in
theorem m_X12_init (Γ : zG) (l0 : Nat) (l1 : Int64) (s0 s1 : zS) (r : Unit) (hf : f_X12_init Γ.1 l0 l1 s0 = some (r, s1)) : ZM Γ yX12_init (ws_ yX12_init cX12_init 3 none) 2 32 [zr (some l0), zj l1] s0 (.inl none, s1) := by
  refine ZM.of (own := RX12) (by decide) rfl (Nat.le_of_ble_eq_true rfl) ?_
  intro X hg hC hL hno hQ hin
  subst hg
  unfold f_X12_init at hf
  refine z_aload_n hC (pc := 0) dX12_init_0 rfl 0 rfl ?_
  refine z_cU (rest := []) hf (fun v1 s2 hcall => z_runIN hC (pc := 1) 0 (m_X5_init_X12 X.g l0 s0 s2 v1 hcall) q301 rfl q105 q2294 q300 hd_X5_init ⟨(Nat.le_of_ble_eq_true rfl), (Nat.le_of_ble_eq_true rfl)⟩ rfl (Nat.le_of_ble_eq_true rfl) dX12_init_1 rfl) (fun _ s2 hf => ?_)
  refine z_aload_n hC (pc := 4) dX12_init_4 rfl 0 rfl ?_
  refine z_lload_n hC (pc := 5) dX12_init_5 rfl 1 rfl ?_
  refine z_putV (v := zj l1) hC (pc := 6) in_X12 tyX12 tyX12_ok nmX12 zcX12 0 (Nat.le_of_ble_eq_true rfl) (zLk.o hC q2295) zsm (Or.inr ⟨rfl, hin, rfl, rfl⟩) rfl rfl dX12_init_6 hf (fun s3 hf => ?_)
  exact z_return hC (pc := 9) hQ dX12_init_9 hf
/-! BlockingShop$Parser.factor()LBlockingShop$Node; -/
def f_X9_factor_b23 (G : Nat → Nat) (kS : Nat → zS → Option ((Option Nat ⊕ (Nat × Nat)) × zS)) (l0 : Nat) (t0 : Int32) (t1 : Option Nat) (s0 : zS) : Option ((Option Nat ⊕ (Nat × Nat)) × zS) :=
zo (zgI s0 (some l0) 7 3) fun v1 =>
zo (zrc s0 t1 7) fun a4 =>
zx (f_X9_require G a4 t0 (-5) v1 s0) (fun e s => some (.inr e, s)) fun _ s6 =>
zo (zgI s6 (some l0) 7 5) fun v7 =>
zo (zput G s6 (some l0) 7 5 (.int (v7 + 1))) fun s8 =>
zo (zgI s8 (some l0) 7 3) fun v9 =>
zo (zput G s8 (some l0) 7 3 (.int (v9 + 1))) fun s10 =>
zo (zrc s10 (some l0) 7) fun _ =>
zx (kS l0 s10) (fun e s => some (.inr e, s)) fun v13 s14 =>
zo (zrc s14 (some l0) 7) fun _ =>
zx (f_X9_expect G l0 41 s14) (fun e s => some (.inr e, s)) fun _ s18 =>
zo (zgI s18 (some l0) 7 5) fun v19 =>
zo (zput G s18 (some l0) 7 5 (.int (v19 - 1))) fun s20 =>
some (.inl v13, s20)
set_option maxHeartbeats 4000000 in
theorem w_X9_factor_b23 {X : zX} (kS : Nat → zS → Option ((Option Nat ⊕ (Nat × Nat)) × zS)) (frK loK : Nat) (hkS : ∀ (l0 : Nat) (s0 s1 : zS) (v : (Option Nat ⊕ (Nat × Nat))), kS l0 s0 = some (v, s1) → ZM X.g yX9_sum (ws_ yX9_sum cX9_sum 3 (some (.object "BlockingShop$Node"))) frK loK [zr (some l0)] s0 (zoR v, s1)) (hC : ZC X RX9 cX9_factor (some (.object "BlockingShop$Node")) (frK + 8) (loK + 193)) (hL : X.nL = 2) (hno : ∀ x ∈ X.c.exceptionTable.toList, False) {r : (Option Nat ⊕ (Nat × Nat))} {sF : zS} (hQ : ZQ X (zoR r, sF)) (l0 : Nat) (t0 : Int32) (t1 : Option Nat) (s0 : zS) (hf : f_X9_factor_b23 X.g.1 kS l0 t0 t1 s0 = some (r, sF)) : ZW X s0 23 [(0, zr (some l0))] [zi t0, zr t1] := by
  unfold f_X9_factor_b23 at hf
  refine z_bipush (v := (-5)) hC (pc := 23) dX9_factor_23 zkb_m5 ?_
  refine z_aload_n hC (pc := 25) dX9_factor_25 rfl 0 rfl ?_
  refine z_getI hC (pc := 26) in_X9 zcX9 3 (Nat.le_of_ble_eq_true rfl) (zLk.o hC q2033) zsm dX9_factor_26 hf (fun v1 hf => ?_)
  obtain ⟨a4, fs2, rfl, ha3, hf⟩ := z_rcO hf
  refine z_cXU (rest := []) hf (fun v5 s6 hcall => z_runV hC (pc := 29) zcX9 3 ha3 (m_X9_require X.g a4 t0 (-5) v1 s0 s6 v5 hcall) (lw_V q2099 q2101 qs28 q113 q2102) hdV_X9_require ⟨(by omega), (by omega)⟩ rfl (Nat.le_of_ble_eq_true rfl) dX9_factor_29 rfl) (fun _ s6 hf => ?_) (fun e s hf => z_outR hC hQ hno hf)
  refine z_aload_n hC (pc := 32) dX9_factor_32 rfl 0 rfl ?_
  refine z_dup hC (pc := 33) dX9_factor_33 rfl ?_
  refine z_getI hC (pc := 34) in_X9 zcX9 5 (Nat.le_of_ble_eq_true rfl) (zLk.o hC q2035) zsm dX9_factor_34 hf (fun v7 hf => ?_)
  refine z_iconst (v := 1) hC (pc := 37) dX9_factor_37 zki_1 ?_
  refine z_iadd hC (pc := 38) dX9_factor_38 ?_
  refine z_putV (v := zi (v7 + 1)) hC (pc := 39) in_X9 tyX9 tyX9_ok nmX9 zcX9 5 (Nat.le_of_ble_eq_true rfl) (zLk.o hC q2035) zsm (Or.inl rfl) rfl rfl dX9_factor_39 hf (fun s8 hf => ?_)
  refine z_aload_n hC (pc := 42) dX9_factor_42 rfl 0 rfl ?_
  refine z_dup hC (pc := 43) dX9_factor_43 rfl ?_
  refine z_getI hC (pc := 44) in_X9 zcX9 3 (Nat.le_of_ble_eq_true rfl) (zLk.o hC q2033) zsm dX9_factor_44 hf (fun v9 hf => ?_)
  refine z_iconst (v := 1) hC (pc := 47) dX9_factor_47 zki_1 ?_
  refine z_iadd hC (pc := 48) dX9_factor_48 ?_
  refine z_putV (v := zi (v9 + 1)) hC (pc := 49) in_X9 tyX9 tyX9_ok nmX9 zcX9 3 (Nat.le_of_ble_eq_true rfl) (zLk.o hC q2033) zsm (Or.inl rfl) rfl rfl dX9_factor_49 hf (fun s10 hf => ?_)
  refine z_aload_n hC (pc := 52) dX9_factor_52 rfl 0 rfl ?_
  obtain ⟨fs11, ha12, hf⟩ := z_rcN hf
  refine z_cXR (rest := []) hf (fun v13 s14 hcall => z_runV hC (pc := 53) zcX9 0 ha12 (hkS l0 s10 s14 v13 hcall) (lw_V q2277 q2279 qs40 q113 q2280) hdV_X9_sum ⟨(by omega), (by omega)⟩ rfl (Nat.le_of_ble_eq_true rfl) dX9_factor_53 rfl) (fun v13 s14 hf => ?_) (fun e s hf => z_outR hC hQ hno hf)
  refine z_astore_n (lv' := [(1, zr v13), (0, zr (some l0))]) hC (pc := 56) hL dX9_factor_56 rfl (Nat.le_of_ble_eq_true rfl) rfl ?_
  refine z_aload_n hC (pc := 57) dX9_factor_57 rfl 1 rfl ?_
  refine z_bipush (v := 41) hC (pc := 58) dX9_factor_58 zkb_41 ?_
  obtain ⟨fs15, ha16, hf⟩ := z_rcN hf
  refine z_cXU (rest := []) hf (fun v17 s18 hcall => z_runV hC (pc := 60) zcX9 1 ha16 (m_X9_expect X.g l0 41 s14 s18 v17 hcall) (lw_V q2141 q2143 qs30 q113 q2144) hdV_X9_expect ⟨(by omega), (by omega)⟩ rfl (Nat.le_of_ble_eq_true rfl) dX9_factor_60 rfl) (fun _ s18 hf => ?_) (fun e s hf => z_outR hC hQ hno hf)
  refine z_aload_n hC (pc := 63) dX9_factor_63 rfl 1 rfl ?_
  refine z_dup hC (pc := 64) dX9_factor_64 rfl ?_
  refine z_getI hC (pc := 65) in_X9 zcX9 5 (Nat.le_of_ble_eq_true rfl) (zLk.o hC q2035) zsm dX9_factor_65 hf (fun v19 hf => ?_)
  refine z_iconst (v := 1) hC (pc := 68) dX9_factor_68 zki_1 ?_
  refine z_isub hC (pc := 69) dX9_factor_69 ?_
  refine z_putV (v := zi (v19 - 1)) hC (pc := 70) in_X9 tyX9 tyX9_ok nmX9 zcX9 5 (Nat.le_of_ble_eq_true rfl) (zLk.o hC q2035) zsm (Or.inl rfl) rfl rfl dX9_factor_70 hf (fun s20 hf => ?_)
  refine z_aload_n hC (pc := 73) dX9_factor_73 rfl 0 rfl ?_
  exact z_areturnX hC (pc := 74) (Or.inl ⟨_, rfl⟩) hQ dX9_factor_74 hf
def f_X9_factor (G : Nat → Nat) (kS : Nat → zS → Option ((Option Nat ⊕ (Nat × Nat)) × zS)) (l0 : Nat) (s0 : zS) : Option ((Option Nat ⊕ (Nat × Nat)) × zS) :=
zo (zrc s0 (some l0) 7) fun _ =>
zb (f_X9_peek G l0 s0) fun v3 s4 =>
if v3 = 40 then (zo (zgI s4 (some l0) 7 5) fun v48 =>
if 4 ≤ v48 then (f_X9_factor_b23 G kS l0 0 (some l0) s4)
else (f_X9_factor_b23 G kS l0 1 (some l0) s4))
else (zo (zrc s4 (some l0) 7) fun _ =>
zb (f_X9_peek G l0 s4) fun v8 s9 =>
zb (f_X1_isBetween G (v8.toInt64) 48 57 s9) fun v10 s11 =>
if v10 = 0 then (zo (zrc s11 (some l0) 7) fun _ =>
zb (f_X9_word G l0 s11) fun v15 s16 =>
zb (f_J29_of G (some (G 15)) (some (G 16)) (some (G 17)) (some (G 18)) s16) fun v17 s18 =>
zo (zrc s18 v17 22) fun a21 =>
zb (f_J31_contains_J33 G a21 v15 s18) fun v22 s23 =>
zo (zgI s23 (some l0) 7 3) fun v24 =>
zo (zrc s23 (some l0) 7) fun _ =>
zx (f_X9_require G l0 v22 (-2) v24 s23) (fun e s => some (.inr e, s)) fun _ s28 =>
zo (zgI s28 (some l0) 7 3) fun v29 =>
zo (zrc s28 v15 17) fun a32 =>
zb (f_J12_length G a32 s28) fun v33 s34 =>
zo (zput G s34 (some l0) 7 3 (.int (v29 + v33))) fun s35 =>
zb (znewO G s35 4 1 [.null]) fun a36 s37 =>
zb (f_X6_init G a36 (some a32) s37) fun _ s39 =>
some (.inl (some a36), s39))
else (zb (znewO G s11 10 1 [.long 0]) fun a40 s41 =>
zo (zrc s41 (some l0) 7) fun _ =>
zx (f_X9_number G l0 0 9999 s41) (fun e s => some (.inr e, s)) fun v44 s45 =>
zb (f_X12_init G a40 (v44.toInt64) s45) fun _ s47 =>
some (.inl (some a40), s47)))
set_option maxHeartbeats 4000000 in
theorem m_X9_factor (Γ : zG) (kS : Nat → zS → Option ((Option Nat ⊕ (Nat × Nat)) × zS)) (frK loK : Nat) (hkS : ∀ (l0 : Nat) (s0 s1 : zS) (v : (Option Nat ⊕ (Nat × Nat))), kS l0 s0 = some (v, s1) → ZM Γ yX9_sum (ws_ yX9_sum cX9_sum 3 (some (.object "BlockingShop$Node"))) frK loK [zr (some l0)] s0 (zoR v, s1)) (l0 : Nat) (s0 s1 : zS) (r : (Option Nat ⊕ (Nat × Nat))) (hf : f_X9_factor Γ.1 kS l0 s0 = some (r, s1)) : ZM Γ yX9_factor (ws_ yX9_factor cX9_factor 2 (some (.object "BlockingShop$Node"))) (frK + 8) (loK + 193) [zr (some l0)] s0 (zoR r, s1) := by
  refine ZM.of (own := RX9) (by decide) rfl (Nat.le_of_ble_eq_true rfl) ?_
  intro X hg hC hL hno hQ hin
  subst hg
  unfold f_X9_factor at hf
  refine z_aload_n hC (pc := 0) dX9_factor_0 rfl 0 rfl ?_
  obtain ⟨fs1, ha2, hf⟩ := z_rcN hf
  refine z_cI (rest := []) hf (fun v3 s4 hcall => z_runV hC (pc := 1) zcX9 0 ha2 (m_X9_peek X.g l0 s0 s4 v3 hcall) (lw_V q2063 q2065 qs26 q113 q2066) hdV_X9_peek ⟨(by omega), (by omega)⟩ rfl (Nat.le_of_ble_eq_true rfl) dX9_factor_1 rfl) (fun v3 s4 hf => ?_)
  refine z_bipush (v := 40) hC (pc := 4) dX9_factor_4 zkb_40 ?_
  refine z_icmp_ne hC (pc := 6) (tgt := 75) dX9_factor_6 rfl (fun c5 => ?_) (fun c5 => ?_)
  · have hf := zif_f hf c5
    refine z_aload_n hC (pc := 75) dX9_factor_75 rfl 0 rfl ?_
    obtain ⟨fs6, ha7, hf⟩ := z_rcN hf
    refine z_cI (rest := []) hf (fun v8 s9 hcall => z_runV hC (pc := 76) zcX9 0 ha7 (m_X9_peek X.g l0 s4 s9 v8 hcall) (lw_V q2063 q2065 qs26 q113 q2066) hdV_X9_peek ⟨(by omega), (by omega)⟩ rfl (Nat.le_of_ble_eq_true rfl) dX9_factor_76 rfl) (fun v8 s9 hf => ?_)
    refine z_i2l hC (pc := 79) dX9_factor_79 ?_
    refine z_ldc2 (v := 48) hC (pc := 80) q2135 dX9_factor_80 ?_
    refine z_ldc2 (v := 57) hC (pc := 83) q2136 dX9_factor_83 ?_
    refine z_cI (rest := []) hf (fun v10 s11 hcall => z_runSN hC (pc := 86) 3 (m_X1_isBetween X.g (v8.toInt64) 48 57 s9 s11 v10 hcall) q2075 q2015 q95 q2014 hd_X1_isBetween ⟨(by omega), (by omega)⟩ rfl (Nat.le_of_ble_eq_true rfl) dX9_factor_86 rfl) (fun v10 s11 hf => ?_)
    refine z_if_eq hC (pc := 89) (tgt := 109) dX9_factor_89 rfl (fun c12 => ?_) (fun c12 => ?_)
    · have hf := zif_t hf c12
      refine z_aload_n hC (pc := 109) dX9_factor_109 rfl 0 rfl ?_
      obtain ⟨fs13, ha14, hf⟩ := z_rcN hf
      refine z_cR (rest := []) hf (fun v15 s16 hcall => z_runV hC (pc := 110) zcX9 0 ha14 (m_X9_word X.g l0 s11 s16 v15 hcall) (lw_V q2059 q2061 qs25 q113 q2062) hdV_X9_word ⟨(by omega), (by omega)⟩ rfl (Nat.le_of_ble_eq_true rfl) dX9_factor_110 rfl) (fun v15 s16 hf => ?_)
      refine z_astore_n (lv' := [(1, zr v15), (0, zr (some l0))]) hC (pc := 113) hL dX9_factor_113 rfl (Nat.le_of_ble_eq_true rfl) rfl ?_
      refine z_aload_n hC (pc := 114) dX9_factor_114 rfl 1 rfl ?_
      refine z_lit (k := 15) hC (pc := 115) (List.mem_of_getElem? (i := 18) rfl) dX9_factor_115 ?_
      refine z_lit (k := 16) hC (pc := 117) (List.mem_of_getElem? (i := 19) rfl) dX9_factor_117 ?_
      refine z_lit (k := 17) hC (pc := 119) (List.mem_of_getElem? (i := 20) rfl) dX9_factor_119 ?_
      refine z_lit (k := 18) hC (pc := 121) (List.mem_of_getElem? (i := 21) rfl) dX9_factor_121 ?_
      refine z_cR (rest := [zr (some l0)]) hf (fun v17 s18 hcall => z_runS hC (pc := 123) 4 (m_J29_of X.g (some (X.g.1 15)) (some (X.g.1 16)) (some (X.g.1 17)) (some (X.g.1 18)) s16 s18 v17 hcall) (lw_S q2303 q2304 q139 q2305) hd_J29_of ⟨(by omega), (by omega)⟩ rfl (Nat.le_of_ble_eq_true rfl) dX9_factor_123 rfl) (fun v17 s18 hf => ?_)
      refine z_aload_n hC (pc := 126) dX9_factor_126 rfl 0 rfl ?_
      obtain ⟨a21, fs19, rfl, ha20, hf⟩ := z_rcO hf
      refine z_cI5 (rest := [zr (some l0)]) hf (fun v22 s23 hcall => z_runF hC (pc := 127) zcJ33 1 ha20 (m_J31_contains_J33 X.g a21 v15 s18 s23 v22 hcall) (lw_app (zm4 q2354 q2418 q2402 q141) (lw_meth q2404)) q2356 q2355 q2403 q2419 q448 (by decide +kernel) ⟨(by omega), (by omega)⟩ rfl (Nat.le_of_ble_eq_true rfl) dX9_factor_127 rfl) (fun v22 s23 hf => ?_)
      refine z_bipush (v := (-2)) hC (pc := 132) dX9_factor_132 zkb_m2 ?_
      refine z_aload_n hC (pc := 134) dX9_factor_134 rfl 1 rfl ?_
      refine z_getI hC (pc := 135) in_X9 zcX9 3 (Nat.le_of_ble_eq_true rfl) (zLk.o hC q2033) zsm dX9_factor_135 hf (fun v24 hf => ?_)
      obtain ⟨fs25, ha26, hf⟩ := z_rcN hf
      refine z_cXU (rest := []) hf (fun v27 s28 hcall => z_runV hC (pc := 138) zcX9 3 ha26 (m_X9_require X.g l0 v22 (-2) v24 s23 s28 v27 hcall) (lw_V q2099 q2101 qs28 q113 q2102) hdV_X9_require ⟨(by omega), (by omega)⟩ rfl (Nat.le_of_ble_eq_true rfl) dX9_factor_138 rfl) (fun _ s28 hf => ?_) (fun e s hf => z_outR hC hQ hno hf)
      refine z_aload_n hC (pc := 141) dX9_factor_141 rfl 1 rfl ?_
      refine z_dup hC (pc := 142) dX9_factor_142 rfl ?_
      refine z_getI hC (pc := 143) in_X9 zcX9 3 (Nat.le_of_ble_eq_true rfl) (zLk.o hC q2033) zsm dX9_factor_143 hf (fun v29 hf => ?_)
      refine z_aload_n hC (pc := 146) dX9_factor_146 rfl 0 rfl ?_
      obtain ⟨a32, fs30, rfl, ha31, hf⟩ := z_rcO hf
      refine z_cI (rest := [zi v29, zr (some l0)]) hf (fun v33 s34 hcall => z_runV hC (pc := 147) zcJ12 0 ha31 (m_J12_length X.g a32 s28 s34 v33 hcall) (lw_V q2149 q658 q659 q116 q660) hdV_J12_length ⟨(by omega), (by omega)⟩ rfl (Nat.le_of_ble_eq_true rfl) dX9_factor_147 rfl) (fun v33 s34 hf => ?_)
      refine z_iadd hC (pc := 150) dX9_factor_150 ?_
      refine z_putV (v := zi (v29 + v33)) hC (pc := 151) in_X9 tyX9 tyX9_ok nmX9 zcX9 3 (Nat.le_of_ble_eq_true rfl) (zLk.o hC q2033) zsm (Or.inl rfl) rfl rfl dX9_factor_151 hf (fun s35 hf => ?_)
      refine z_new hC (pc := 154) in_X6 tyX6 tyX6_ok zcX6 q2430 q294 q106 rfl zdX6 dX9_factor_154 hf (fun a36 s37 hf => ?_)
      refine z_dup hC (pc := 157) dX9_factor_157 rfl ?_
      refine z_aload_n hC (pc := 158) dX9_factor_158 rfl 0 rfl ?_
      refine z_cU (rest := [zr (some a36)]) hf (fun v38 s39 hcall => z_runI hC (pc := 159) 1 (m_X6_init X.g a36 (some a32) s37 s39 v38 hcall) q298 rfl q106 q2431 q297 hd_X6_init ⟨(by omega), (by omega)⟩ rfl (Nat.le_of_ble_eq_true rfl) dX9_factor_159 rfl) (fun _ s39 hf => ?_)
      exact z_areturnX hC (pc := 162) (Or.inl ⟨_, rfl⟩) hQ dX9_factor_162 hf
    · have hf := zif_f hf c12
      refine z_new hC (pc := 92) in_X12 tyX12 tyX12_ok zcX12 q2289 q2290 q138 rfl zdX12 dX9_factor_92 hf (fun a40 s41 hf => ?_)
      refine z_dup hC (pc := 95) dX9_factor_95 rfl ?_
      refine z_aload_n hC (pc := 96) dX9_factor_96 rfl 0 rfl ?_
      refine z_iconst (v := 0) hC (pc := 97) dX9_factor_97 zki_0 ?_
      refine z_sipush (v := 9999) hC (pc := 98) dX9_factor_98 zks_9999 ?_
      obtain ⟨fs42, ha43, hf⟩ := z_rcN hf
      refine z_cXI (rest := [zr (some a40), zr (some a40)]) hf (fun v44 s45 hcall => z_runV hC (pc := 101) zcX9 2 ha43 (m_X9_number X.g l0 0 9999 s41 s45 v44 hcall) (lw_V q2131 q2133 qs29 q113 q2134) hdV_X9_number ⟨(by omega), (by omega)⟩ rfl (Nat.le_of_ble_eq_true rfl) dX9_factor_101 rfl) (fun v44 s45 hf => ?_) (fun e s hf => z_outR hC hQ hno hf)
      refine z_i2l hC (pc := 104) dX9_factor_104 ?_
      refine z_cU (rest := [zr (some a40)]) hf (fun v46 s47 hcall => z_runI hC (pc := 105) 1 (m_X12_init X.g a40 (v44.toInt64) s45 s47 v46 hcall) q2293 rfl q138 q2291 q2292 hd_X12_init ⟨(by omega), (by omega)⟩ rfl (Nat.le_of_ble_eq_true rfl) dX9_factor_105 rfl) (fun _ s47 hf => ?_)
      exact z_areturnX hC (pc := 108) (Or.inl ⟨_, rfl⟩) hQ dX9_factor_108 hf
  · have hf := zif_t hf c5
    refine z_aload_n hC (pc := 9) dX9_factor_9 rfl 0 rfl ?_
    refine z_aload_n hC (pc := 10) dX9_factor_10 rfl 0 rfl ?_
    refine z_getI hC (pc := 11) in_X9 zcX9 5 (Nat.le_of_ble_eq_true rfl) (zLk.o hC q2035) zsm dX9_factor_11 hf (fun v48 hf => ?_)
    refine z_iconst (v := 4) hC (pc := 14) dX9_factor_14 zki_4 ?_
    refine z_icmp_ge hC (pc := 15) (tgt := 22) dX9_factor_15 rfl (fun c49 => ?_) (fun c49 => ?_)
    · have hf := zif_t hf c49
      refine z_iconst (v := 0) hC (pc := 22) dX9_factor_22 zki_0 ?_
      exact w_X9_factor_b23 kS frK loK hkS hC hL hno hQ l0 0 (some l0) s4 hf
    · have hf := zif_f hf c49
      refine z_iconst (v := 1) hC (pc := 18) dX9_factor_18 zki_1 ?_
      refine z_goto hC (pc := 19) (tgt := 23) dX9_factor_19 rfl ?_
      exact w_X9_factor_b23 kS frK loK hkS hC hL hno hQ l0 1 (some l0) s4 hf
/-! BlockingShop$Parser.term()LBlockingShop$Node; -/
def f_X9_term_b23 (G : Nat → Nat) (kS : Nat → zS → Option ((Option Nat ⊕ (Nat × Nat)) × zS)) (k5 : Nat → Option Nat → zS → Option ((Option Nat ⊕ (Nat × Nat)) × zS)) (l0 : Nat) (l1 : Option Nat) (s0 : zS) : Option ((Option Nat ⊕ (Nat × Nat)) × zS) :=
zo (zgR s0 (some l0) 7 7) fun v1 =>
zo (zgR s0 v1 0 0) fun v2 =>
zo (zgI s0 (some l0) 7 3) fun v3 =>
zo (zaI s0 v2 2 v3) fun v4 =>
zo (zgI s0 (some l0) 7 3) fun v5 =>
zo (zput G s0 (some l0) 7 3 (.int (v5 + 1))) fun s6 =>
zb (znewO G s6 11 3 [.int 0, .null, .null]) fun a7 s8 =>
zo (zrc s8 (some l0) 7) fun _ =>
zx (f_X9_factor G kS l0 s8) (fun e s => some (.inr e, s)) fun v11 s12 =>
zb (f_X13_init G a7 v4 l1 v11 s12) fun _ s14 =>
k5 l0 (some a7) s14
set_option maxHeartbeats 4000000 in
theorem w_X9_term_b23 {X : zX} (kS : Nat → zS → Option ((Option Nat ⊕ (Nat × Nat)) × zS)) (frK loK : Nat) (hkS : ∀ (l0 : Nat) (s0 s1 : zS) (v : (Option Nat ⊕ (Nat × Nat))), kS l0 s0 = some (v, s1) → ZM X.g yX9_sum (ws_ yX9_sum cX9_sum 3 (some (.object "BlockingShop$Node"))) frK loK [zr (some l0)] s0 (zoR v, s1)) (hC : ZC X RX9 cX9_term (some (.object "BlockingShop$Node")) (frK + 9) (loK + 214)) (hL : X.nL = 3) (hno : ∀ x ∈ X.c.exceptionTable.toList, False) {r : (Option Nat ⊕ (Nat × Nat))} {sF : zS} (hQ : ZQ X (zoR r, sF)) (k5 : Nat → Option Nat → zS → Option ((Option Nat ⊕ (Nat × Nat)) × zS)) (hk5 : ∀ (l0 : Nat) (l1 : Option Nat) (s0 : zS), k5 l0 l1 s0 = some (r, sF) → ZW X s0 5 [(0, zr (some l0)), (1, zr l1)] []) (l0 : Nat) (l1 : Option Nat) (s0 : zS) (hf : f_X9_term_b23 X.g.1 kS k5 l0 l1 s0 = some (r, sF)) : ZW X s0 23 [(0, zr (some l0)), (1, zr l1)] [] := by
  unfold f_X9_term_b23 at hf
  refine z_aload_n hC (pc := 23) dX9_term_23 rfl 0 rfl ?_
  refine z_getR hC (pc := 24) in_X9 zcX9 7 (Nat.le_of_ble_eq_true rfl) (zLk.o hC q2037) zsm dX9_term_24 hf (fun v1 hf => ?_)
  refine z_getR hC (pc := 27) in_X1 zcX1 0 (Nat.le_of_ble_eq_true rfl) (zLk.n hC q391) zsm dX9_term_27 hf (fun v2 hf => ?_)
  refine z_aload_n hC (pc := 30) dX9_term_30 rfl 0 rfl ?_
  refine z_getI hC (pc := 31) in_X9 zcX9 3 (Nat.le_of_ble_eq_true rfl) (zLk.o hC q2033) zsm dX9_term_31 hf (fun v3 hf => ?_)
  refine z_bald hC (pc := 34) dX9_term_34 hf (fun v4 hf => ?_)
  refine z_istore_n (lv' := [(2, zi v4), (0, zr (some l0)), (1, zr l1)]) hC (pc := 35) hL dX9_term_35 rfl (Nat.le_of_ble_eq_true rfl) rfl ?_
  refine z_aload_n hC (pc := 36) dX9_term_36 rfl 1 rfl ?_
  refine z_dup hC (pc := 37) dX9_term_37 rfl ?_
  refine z_getI hC (pc := 38) in_X9 zcX9 3 (Nat.le_of_ble_eq_true rfl) (zLk.o hC q2033) zsm dX9_term_38 hf (fun v5 hf => ?_)
  refine z_iconst (v := 1) hC (pc := 41) dX9_term_41 zki_1 ?_
  refine z_iadd hC (pc := 42) dX9_term_42 ?_
  refine z_putV (v := zi (v5 + 1)) hC (pc := 43) in_X9 tyX9 tyX9_ok nmX9 zcX9 3 (Nat.le_of_ble_eq_true rfl) (zLk.o hC q2033) zsm (Or.inl rfl) rfl rfl dX9_term_43 hf (fun s6 hf => ?_)
  refine z_new hC (pc := 46) in_X13 tyX13 tyX13_ok zcX13 q2432 q2433 q144 rfl zdX13 dX9_term_46 hf (fun a7 s8 hf => ?_)
  refine z_dup hC (pc := 49) dX9_term_49 rfl ?_
  refine z_iload_n hC (pc := 50) dX9_term_50 rfl 0 rfl ?_
  refine z_aload_n hC (pc := 51) dX9_term_51 rfl 2 rfl ?_
  refine z_aload_n hC (pc := 52) dX9_term_52 rfl 1 rfl ?_
  obtain ⟨fs9, ha10, hf⟩ := z_rcN hf
  refine z_cXR (rest := [zr l1, zi v4, zr (some a7), zr (some a7)]) hf (fun v11 s12 hcall => z_runV hC (pc := 53) zcX9 0 ha10 (m_X9_factor X.g kS frK loK hkS l0 s8 s12 v11 hcall) (lw_V q2285 q2287 qs42 q113 q2288) hdV_X9_factor ⟨(by omega), (by omega)⟩ rfl (Nat.le_of_ble_eq_true rfl) dX9_term_53 rfl) (fun v11 s12 hf => ?_) (fun e s hf => z_outR hC hQ hno hf)
  refine z_cU (rest := [zr (some a7)]) hf (fun v13 s14 hcall => z_runI hC (pc := 56) 3 (m_X13_init X.g a7 v4 l1 v11 s12 s14 v13 hcall) q2436 rfl q144 q2434 q2435 hd_X13_init ⟨(by omega), (by omega)⟩ rfl (Nat.le_of_ble_eq_true rfl) dX9_term_56 rfl) (fun _ s14 hf => ?_)
  refine z_astore_n (lv' := [(1, zr (some a7)), (2, zi v4), (0, zr (some l0))]) hC (pc := 59) hL dX9_term_59 rfl (Nat.le_of_ble_eq_true rfl) rfl ?_
  refine z_goto hC (pc := 60) (tgt := 5) dX9_term_60 rfl ?_
  refine ZW.perm (lv' := [(0, zr (some l0)), (1, zr (some a7))]) [2, 0] rfl ?_
  exact hk5 l0 (some a7) s14 hf
def f_X9_term_b5 (G : Nat → Nat) (kS : Nat → zS → Option ((Option Nat ⊕ (Nat × Nat)) × zS)) (k5 : Nat → Option Nat → zS → Option ((Option Nat ⊕ (Nat × Nat)) × zS)) (l0 : Nat) (l1 : Option Nat) (s0 : zS) : Option ((Option Nat ⊕ (Nat × Nat)) × zS) :=
zo (zrc s0 (some l0) 7) fun _ =>
zb (f_X9_peek G l0 s0) fun v3 s4 =>
if v3 = 42 then (f_X9_term_b23 G kS k5 l0 l1 s4)
else (zo (zrc s4 (some l0) 7) fun _ =>
zb (f_X9_peek G l0 s4) fun v8 s9 =>
if v8 = 47 then (f_X9_term_b23 G kS k5 l0 l1 s9)
else (some (.inl l1, s9)))
set_option maxHeartbeats 4000000 in
theorem w_X9_term_b5 {X : zX} (kS : Nat → zS → Option ((Option Nat ⊕ (Nat × Nat)) × zS)) (frK loK : Nat) (hkS : ∀ (l0 : Nat) (s0 s1 : zS) (v : (Option Nat ⊕ (Nat × Nat))), kS l0 s0 = some (v, s1) → ZM X.g yX9_sum (ws_ yX9_sum cX9_sum 3 (some (.object "BlockingShop$Node"))) frK loK [zr (some l0)] s0 (zoR v, s1)) (hC : ZC X RX9 cX9_term (some (.object "BlockingShop$Node")) (frK + 9) (loK + 214)) (hL : X.nL = 3) (hno : ∀ x ∈ X.c.exceptionTable.toList, False) {r : (Option Nat ⊕ (Nat × Nat))} {sF : zS} (hQ : ZQ X (zoR r, sF)) (k5 : Nat → Option Nat → zS → Option ((Option Nat ⊕ (Nat × Nat)) × zS)) (hk5 : ∀ (l0 : Nat) (l1 : Option Nat) (s0 : zS), k5 l0 l1 s0 = some (r, sF) → ZW X s0 5 [(0, zr (some l0)), (1, zr l1)] []) (l0 : Nat) (l1 : Option Nat) (s0 : zS) (hf : f_X9_term_b5 X.g.1 kS k5 l0 l1 s0 = some (r, sF)) : ZW X s0 5 [(0, zr (some l0)), (1, zr l1)] [] := by
  unfold f_X9_term_b5 at hf
  refine z_aload_n hC (pc := 5) dX9_term_5 rfl 0 rfl ?_
  obtain ⟨fs1, ha2, hf⟩ := z_rcN hf
  refine z_cI (rest := []) hf (fun v3 s4 hcall => z_runV hC (pc := 6) zcX9 0 ha2 (m_X9_peek X.g l0 s0 s4 v3 hcall) (lw_V q2063 q2065 qs26 q113 q2066) hdV_X9_peek ⟨(by omega), (by omega)⟩ rfl (Nat.le_of_ble_eq_true rfl) dX9_term_6 rfl) (fun v3 s4 hf => ?_)
  refine z_bipush (v := 42) hC (pc := 9) dX9_term_9 zkb_42 ?_
  refine z_icmp_eq hC (pc := 11) (tgt := 23) dX9_term_11 rfl (fun c5 => ?_) (fun c5 => ?_)
  · have hf := zif_t hf c5
    exact w_X9_term_b23 kS frK loK hkS hC hL hno hQ k5 hk5 l0 l1 s4 hf
  · have hf := zif_f hf c5
    refine z_aload_n hC (pc := 14) dX9_term_14 rfl 0 rfl ?_
    obtain ⟨fs6, ha7, hf⟩ := z_rcN hf
    refine z_cI (rest := []) hf (fun v8 s9 hcall => z_runV hC (pc := 15) zcX9 0 ha7 (m_X9_peek X.g l0 s4 s9 v8 hcall) (lw_V q2063 q2065 qs26 q113 q2066) hdV_X9_peek ⟨(by omega), (by omega)⟩ rfl (Nat.le_of_ble_eq_true rfl) dX9_term_15 rfl) (fun v8 s9 hf => ?_)
    refine z_bipush (v := 47) hC (pc := 18) dX9_term_18 zkb_47 ?_
    refine z_icmp_ne hC (pc := 20) (tgt := 63) dX9_term_20 rfl (fun c10 => ?_) (fun c10 => ?_)
    · have hf := zif_f hf c10
      refine z_aload_n hC (pc := 63) dX9_term_63 rfl 1 rfl ?_
      exact z_areturnX hC (pc := 64) (Or.inl ⟨_, rfl⟩) hQ dX9_term_64 hf
    · have hf := zif_t hf c10
      exact w_X9_term_b23 kS frK loK hkS hC hL hno hQ k5 hk5 l0 l1 s9 hf
def f_X9_term_l5 (G : Nat → Nat) (kS : Nat → zS → Option ((Option Nat ⊕ (Nat × Nat)) × zS)) : Nat → Nat → Option Nat → zS → Option ((Option Nat ⊕ (Nat × Nat)) × zS)
  | 0 => fun _ _ _ => none
  | n + 1 => f_X9_term_b5 G kS (f_X9_term_l5 G kS n)
theorem w_X9_term_l5 {X : zX} (kS : Nat → zS → Option ((Option Nat ⊕ (Nat × Nat)) × zS)) (frK loK : Nat) (hkS : ∀ (l0 : Nat) (s0 s1 : zS) (v : (Option Nat ⊕ (Nat × Nat))), kS l0 s0 = some (v, s1) → ZM X.g yX9_sum (ws_ yX9_sum cX9_sum 3 (some (.object "BlockingShop$Node"))) frK loK [zr (some l0)] s0 (zoR v, s1)) (hC : ZC X RX9 cX9_term (some (.object "BlockingShop$Node")) (frK + 9) (loK + 214)) (hL : X.nL = 3) (hno : ∀ x ∈ X.c.exceptionTable.toList, False) {r : (Option Nat ⊕ (Nat × Nat))} {sF : zS} (hQ : ZQ X (zoR r, sF)) : ∀ (n : Nat) (l0 : Nat) (l1 : Option Nat) (s0 : zS) (_ : f_X9_term_l5 X.g.1 kS n l0 l1 s0 = some (r, sF)), ZW X s0 5 [(0, zr (some l0)), (1, zr l1)] [] := by
  intro n
  induction n with
  | zero => intro l0 l1 s0 hf; exact absurd (show (none : Option ((Option Nat ⊕ (Nat × Nat)) × zS)) = some (r, sF) from hf) (fun z => nomatch z)
  | succ n ih => intro l0 l1 s0 hf; exact w_X9_term_b5 kS frK loK hkS hC hL hno hQ (f_X9_term_l5 X.g.1 kS n) ih l0 l1 s0 hf
def f_X9_term (G : Nat → Nat) (kS : Nat → zS → Option ((Option Nat ⊕ (Nat × Nat)) × zS)) (l0 : Nat) (s0 : zS) : Option ((Option Nat ⊕ (Nat × Nat)) × zS) :=
zo (zrc s0 (some l0) 7) fun _ =>
zx (f_X9_factor G kS l0 s0) (fun e s => some (.inr e, s)) fun v3 s4 =>
f_X9_term_l5 G kS 2000 l0 v3 s4
set_option maxHeartbeats 4000000 in
theorem m_X9_term (Γ : zG) (kS : Nat → zS → Option ((Option Nat ⊕ (Nat × Nat)) × zS)) (frK loK : Nat) (hkS : ∀ (l0 : Nat) (s0 s1 : zS) (v : (Option Nat ⊕ (Nat × Nat))), kS l0 s0 = some (v, s1) → ZM Γ yX9_sum (ws_ yX9_sum cX9_sum 3 (some (.object "BlockingShop$Node"))) frK loK [zr (some l0)] s0 (zoR v, s1)) (l0 : Nat) (s0 s1 : zS) (r : (Option Nat ⊕ (Nat × Nat))) (hf : f_X9_term Γ.1 kS l0 s0 = some (r, s1)) : ZM Γ yX9_term (ws_ yX9_term cX9_term 3 (some (.object "BlockingShop$Node"))) (frK + 9) (loK + 214) [zr (some l0)] s0 (zoR r, s1) := by
  refine ZM.of (own := RX9) (by decide) rfl (Nat.le_of_ble_eq_true rfl) ?_
  intro X hg hC hL hno hQ hin
  subst hg
  unfold f_X9_term at hf
  refine z_aload_n hC (pc := 0) dX9_term_0 rfl 0 rfl ?_
  obtain ⟨fs1, ha2, hf⟩ := z_rcN hf
  refine z_cXR (rest := []) hf (fun v3 s4 hcall => z_runV hC (pc := 1) zcX9 0 ha2 (m_X9_factor X.g kS frK loK hkS l0 s0 s4 v3 hcall) (lw_V q2285 q2287 qs42 q113 q2288) hdV_X9_factor ⟨(by omega), (by omega)⟩ rfl (Nat.le_of_ble_eq_true rfl) dX9_term_1 rfl) (fun v3 s4 hf => ?_) (fun e s hf => z_outR hC hQ hno hf)
  refine z_astore_n (lv' := [(1, zr v3), (0, zr (some l0))]) hC (pc := 4) hL dX9_term_4 rfl (Nat.le_of_ble_eq_true rfl) rfl ?_
  refine ZW.perm (lv' := [(0, zr (some l0)), (1, zr v3)]) [1, 0] rfl ?_
  exact w_X9_term_l5 kS frK loK hkS hC hL hno hQ 2000 l0 v3 s4 hf
