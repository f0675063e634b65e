set_option maxRecDepth 100000
/-! BlockingShopModel.noJob(I)Z -/
def f_X8_noJob_b22 (G : Nat → Nat) (t0 : Int32) (t1 : Option Nat) (s0 : zS) : Option (Int32 × zS) :=
zo (zrc s0 t1 6) fun a3 =>
zb (f_X8_fails G a3 t0 1 s0) fun v4 s5 =>
zrn .boolean v4 s5
set_option maxHeartbeats 4000000 in
theorem w_X8_noJob_b22 {X : zX} (hC : ZC X RX8 cX8_noJob (some .boolean) 2 22) (hL : X.nL = 2) (hno : ∀ x ∈ X.c.exceptionTable.toList, False) {r : Int32} {sF : zS} (hQ : ZQ X (.inl (some (zi r)), sF)) (t0 : Int32) (t1 : Option Nat) (s0 : zS) (hf : f_X8_noJob_b22 X.g.1 t0 t1 s0 = some (r, sF)) : ZW X s0 22 [] [zi t0, zr t1] := by
  unfold f_X8_noJob_b22 at hf
  refine z_iconst (v := 1) hC (pc := 22) dX8_noJob_22 zki_1 ?_
  obtain ⟨a3, fs1, rfl, ha2, hf⟩ := z_rcO hf
  refine z_cI (rest := []) hf (fun v4 s5 hcall => z_runV hC (pc := 23) zcX8 2 ha2 (m_X8_fails X.g a3 t0 1 s0 s5 v4 hcall) (lw_V q2765 q2767 qs48 q108 q2768) hdV_X8_fails ⟨(Nat.le_of_ble_eq_true rfl), (Nat.le_of_ble_eq_true rfl)⟩ rfl (Nat.le_of_ble_eq_true rfl) dX8_noJob_23 rfl) (fun v4 s5 hf => ?_)
  exact z_zreturn hC (pc := 26) hQ dX8_noJob_26 hf
def f_X8_noJob (G : Nat → Nat) (l0 : Nat) (l1 : Int32) (s0 : zS) : Option (Int32 × zS) :=
zo (zgR s0 (some l0) 6 8) fun v1 =>
zo (zaI s0 v1 0 2) fun v2 =>
zb (f_X8_in G l1 0 (v2 - 1) s0) fun v3 s4 =>
if v3 = 0 then (f_X8_noJob_b22 G 1 (some l0) s4)
else (f_X8_noJob_b22 G 0 (some l0) s4)
set_option maxHeartbeats 4000000 in
theorem m_X8_noJob (Γ : zG) (l0 : Nat) (l1 : Int32) (s0 s1 : zS) (r : Int32) (hf : f_X8_noJob Γ.1 l0 l1 s0 = some (r, s1)) : ZM Γ yX8_noJob (ws_ yX8_noJob cX8_noJob 2 (some .boolean)) 2 22 [zr (some l0), zi l1] s0 (.inl (some (zi r)), s1) := by
  refine ZM.of (own := RX8) (by decide) rfl (Nat.le_of_ble_eq_true rfl) ?_
  intro X hg hC hL hno hQ hin
  subst hg
  unfold f_X8_noJob at hf
  refine z_aload_n hC (pc := 0) dX8_noJob_0 rfl 0 rfl ?_
  refine z_iload_n hC (pc := 1) dX8_noJob_1 rfl 1 rfl ?_
  refine z_iconst (v := 0) hC (pc := 2) dX8_noJob_2 zki_0 ?_
  refine z_aload_n hC (pc := 3) dX8_noJob_3 rfl 0 rfl ?_
  refine z_getR hC (pc := 4) in_X8 zcX8 8 (Nat.le_of_ble_eq_true rfl) (zLk.o hC q2681) zsm dX8_noJob_4 hf (fun v1 hf => ?_)
  refine z_iconst (v := 2) hC (pc := 7) dX8_noJob_7 zki_2 ?_
  refine z_iald hC (pc := 8) dX8_noJob_8 hf (fun v2 hf => ?_)
  refine z_iconst (v := 1) hC (pc := 9) dX8_noJob_9 zki_1 ?_
  refine z_isub hC (pc := 10) dX8_noJob_10 ?_
  refine z_cI (rest := [zr (some l0)]) hf (fun v3 s4 hcall => z_runS hC (pc := 11) 3 (m_X8_in X.g l1 0 (v2 - 1) s0 s4 v3 hcall) (lw_S q2762 q2763 q108 q2764) hd_X8_in ⟨(Nat.le_of_ble_eq_true rfl), (Nat.le_of_ble_eq_true rfl)⟩ rfl (Nat.le_of_ble_eq_true rfl) dX8_noJob_11 rfl) (fun v3 s4 hf => ?_)
  refine z_if_ne hC (pc := 14) (tgt := 21) dX8_noJob_14 rfl (fun c5 => ?_) (fun c5 => ?_)
  · have hf := zif_f hf c5
    refine z_iconst (v := 0) hC (pc := 21) dX8_noJob_21 zki_0 ?_
    refine ZW.perm (lv' := []) [] rfl ?_
    exact w_X8_noJob_b22 hC hL hno hQ 0 (some l0) s4 hf
  · have hf := zif_t hf c5
    refine z_iconst (v := 1) hC (pc := 17) dX8_noJob_17 zki_1 ?_
    refine z_goto hC (pc := 18) (tgt := 22) dX8_noJob_18 rfl ?_
    refine ZW.perm (lv' := []) [] rfl ?_
    exact w_X8_noJob_b22 hC hL hno hQ 1 (some l0) s4 hf
/-! BlockingShopModel.completion(I)I -/
def f_X8_completion (G : Nat → Nat) (l0 : Nat) (l1 : Int32) (s0 : zS) : Option (Int32 × zS) :=
zo (zput G s0 (some l0) 6 0 (.int 0)) fun s1 =>
zo (zrc s1 (some l0) 6) fun _ =>
zb (f_X8_noJob G l0 l1 s1) fun v4 s5 =>
if v4 = 0 then (zo (zrc s5 (some l0) 6) fun _ =>
zb (f_X8_findStarts G l0 s5) fun v9 s10 =>
if v9 = 0 then (some (0, s10))
else (zo (zrc s10 (some l0) 6) fun _ =>
zb (f_X8_completionOf G l0 l1 s10) fun v14 s15 =>
some (v14, s15)))
else (some (0, s5))
set_option maxHeartbeats 4000000 in
theorem m_X8_completion (Γ : zG) (l0 : Nat) (l1 : Int32) (s0 s1 : zS) (r : Int32) (hf : f_X8_completion Γ.1 l0 l1 s0 = some (r, s1)) : ZM Γ yX8_completion (ws_ yX8_completion cX8_completion 2 (some .int)) 6 110 [zr (some l0), zi l1] s0 (.inl (some (zi r)), s1) := by
  refine ZM.of (own := RX8) (by decide) rfl (Nat.le_of_ble_eq_true rfl) ?_
  intro X hg hC hL hno hQ hin
  subst hg
  unfold f_X8_completion at hf
  refine z_aload_n hC (pc := 0) dX8_completion_0 rfl 0 rfl ?_
  refine z_iconst (v := 0) hC (pc := 1) dX8_completion_1 zki_0 ?_
  refine z_putV (v := zi 0) hC (pc := 2) in_X8 tyX8 tyX8_ok nmX8 zcX8 0 (Nat.le_of_ble_eq_true rfl) (zLk.o hC q2673) zsm (Or.inl rfl) rfl rfl dX8_completion_2 hf (fun s1 hf => ?_)
  refine z_aload_n hC (pc := 5) dX8_completion_5 rfl 0 rfl ?_
  refine z_iload_n hC (pc := 6) dX8_completion_6 rfl 1 rfl ?_
  obtain ⟨fs2, ha3, hf⟩ := z_rcN hf
  refine z_cI (rest := []) hf (fun v4 s5 hcall => z_runV hC (pc := 7) zcX8 1 ha3 (m_X8_noJob X.g l0 l1 s1 s5 v4 hcall) (lw_V q2897 q2899 qs67 q108 q2900) hdV_X8_noJob ⟨(Nat.le_of_ble_eq_true rfl), (Nat.le_of_ble_eq_true rfl)⟩ rfl (Nat.le_of_ble_eq_true rfl) dX8_completion_7 rfl) (fun v4 s5 hf => ?_)
  refine z_if_ne hC (pc := 10) (tgt := 20) dX8_completion_10 rfl (fun c6 => ?_) (fun c6 => ?_)
  · have hf := zif_f hf c6
    refine z_iconst (v := 0) hC (pc := 20) dX8_completion_20 zki_0 ?_
    refine z_goto hC (pc := 21) (tgt := 29) dX8_completion_21 rfl ?_
    exact z_ireturn hC (pc := 29) hQ dX8_completion_29 hf
  · have hf := zif_t hf c6
    refine z_aload_n hC (pc := 13) dX8_completion_13 rfl 0 rfl ?_
    obtain ⟨fs7, ha8, hf⟩ := z_rcN hf
    refine z_cI (rest := []) hf (fun v9 s10 hcall => z_runV hC (pc := 14) zcX8 0 ha8 (m_X8_findStarts X.g l0 s5 s10 v9 hcall) (lw_V q2936 q2938 qs72 q108 q2939) hdV_X8_findStarts ⟨(Nat.le_of_ble_eq_true rfl), (Nat.le_of_ble_eq_true rfl)⟩ rfl (Nat.le_of_ble_eq_true rfl) dX8_completion_14 rfl) (fun v9 s10 hf => ?_)
    refine z_if_ne hC (pc := 17) (tgt := 24) dX8_completion_17 rfl (fun c11 => ?_) (fun c11 => ?_)
    · have hf := zif_f hf c11
      refine z_aload_n hC (pc := 24) dX8_completion_24 rfl 0 rfl ?_
      refine z_iload_n hC (pc := 25) dX8_completion_25 rfl 1 rfl ?_
      obtain ⟨fs12, ha13, hf⟩ := z_rcN hf
      refine z_cI (rest := []) hf (fun v14 s15 hcall => z_runV hC (pc := 26) zcX8 1 ha13 (m_X8_completionOf X.g l0 l1 s10 s15 v14 hcall) (lw_V q2979 q2981 qs80 q108 q2982) hdV_X8_completionOf ⟨(Nat.le_of_ble_eq_true rfl), (Nat.le_of_ble_eq_true rfl)⟩ rfl (Nat.le_of_ble_eq_true rfl) dX8_completion_26 rfl) (fun v14 s15 hf => ?_)
      exact z_ireturn hC (pc := 29) hQ dX8_completion_29 hf
    · have hf := zif_t hf c11
      refine z_iconst (v := 0) hC (pc := 20) dX8_completion_20 zki_0 ?_
      refine z_goto hC (pc := 21) (tgt := 29) dX8_completion_21 rfl ?_
      exact z_ireturn hC (pc := 29) hQ dX8_completion_29 hf
/-! BlockingShopModel.copy([I[I)V -/
def f_X8_copy_b2 (G : Nat → Nat) (k2 : Option Nat → Option Nat → Int32 → zS → Option (Unit × zS)) (l0 : Option Nat) (l1 : Option Nat) (l2 : Int32) (s0 : zS) : Option (Unit × zS) :=
if 1655 ≤ l2 then (some ((), s0))
else (zo (zaI s0 l0 0 l2) fun v2 =>
zo (zsI G s0 l1 0 l2 v2) fun s3 =>
k2 l0 l1 (l2 + 1) s3)
set_option maxHeartbeats 4000000 in
theorem w_X8_copy_b2 {X : zX} (hC : ZC X RX8 cX8_copy none 1 0) (hL : X.nL = 3) (hno : ∀ x ∈ X.c.exceptionTable.toList, False) {r : Unit} {sF : zS} (hQ : ZQ X (.inl none, sF)) (k2 : Option Nat → Option Nat → Int32 → zS → Option (Unit × zS)) (hk2 : ∀ (l0 : Option Nat) (l1 : Option Nat) (l2 : Int32) (s0 : zS), k2 l0 l1 l2 s0 = some (r, sF) → ZW X s0 2 [(0, zr l0), (1, zr l1), (2, zi l2)] []) (l0 : Option Nat) (l1 : Option Nat) (l2 : Int32) (s0 : zS) (hf : f_X8_copy_b2 X.g.1 k2 l0 l1 l2 s0 = some (r, sF)) : ZW X s0 2 [(0, zr l0), (1, zr l1), (2, zi l2)] [] := by
  unfold f_X8_copy_b2 at hf
  refine z_iload_n hC (pc := 2) dX8_copy_2 rfl 2 rfl ?_
  refine z_sipush (v := 1655) hC (pc := 3) dX8_copy_3 zks_1655 ?_
  refine z_icmp_ge hC (pc := 6) (tgt := 21) dX8_copy_6 rfl (fun c1 => ?_) (fun c1 => ?_)
  · have hf := zif_t hf c1
    exact z_return hC (pc := 21) hQ dX8_copy_21 hf
  · have hf := zif_f hf c1
    refine z_aload_n hC (pc := 9) dX8_copy_9 rfl 1 rfl ?_
    refine z_iload_n hC (pc := 10) dX8_copy_10 rfl 2 rfl ?_
    refine z_aload_n hC (pc := 11) dX8_copy_11 rfl 0 rfl ?_
    refine z_iload_n hC (pc := 12) dX8_copy_12 rfl 2 rfl ?_
    refine z_iald hC (pc := 13) dX8_copy_13 hf (fun v2 hf => ?_)
    refine z_iast hC (pc := 14) dX8_copy_14 hf (fun s3 hf => ?_)
    refine z_iinc (v := 1) (lv' := [(2, zi (l2 + 1)), (0, zr l0), (1, zr l1)]) hC (pc := 15) hL dX8_copy_15 2 rfl zki_1 (Nat.le_of_ble_eq_true rfl) rfl ?_
    refine z_goto hC (pc := 18) (tgt := 2) dX8_copy_18 rfl ?_
    refine ZW.perm (lv' := [(0, zr l0), (1, zr l1), (2, zi (l2 + 1))]) [1, 2, 0] rfl ?_
    exact hk2 l0 l1 (l2 + 1) s3 hf
def f_X8_copy_l2 (G : Nat → Nat) : Nat → Option Nat → Option Nat → Int32 → zS → Option (Unit × zS)
  | 0 => fun _ _ _ _ => none
  | n + 1 => f_X8_copy_b2 G (f_X8_copy_l2 G n)
theorem w_X8_copy_l2 {X : zX} (hC : ZC X RX8 cX8_copy none 1 0) (hL : X.nL = 3) (hno : ∀ x ∈ X.c.exceptionTable.toList, False) {r : Unit} {sF : zS} (hQ : ZQ X (.inl none, sF)) : ∀ (n : Nat) (l0 : Option Nat) (l1 : Option Nat) (l2 : Int32) (s0 : zS) (_ : f_X8_copy_l2 X.g.1 n l0 l1 l2 s0 = some (r, sF)), ZW X s0 2 [(0, zr l0), (1, zr l1), (2, zi l2)] [] := by
  intro n
  induction n with
  | zero => intro l0 l1 l2 s0 hf; exact absurd (show (none : Option (Unit × zS)) = some (r, sF) from hf) (fun z => nomatch z)
  | succ n ih => intro l0 l1 l2 s0 hf; exact w_X8_copy_b2 hC hL hno hQ (f_X8_copy_l2 X.g.1 n) ih l0 l1 l2 s0 hf
def f_X8_copy (G : Nat → Nat) (l0 : Option Nat) (l1 : Option Nat) (s0 : zS) : Option (Unit × zS) :=
f_X8_copy_l2 G 2000 l0 l1 0 s0
set_option maxHeartbeats 4000000 in
theorem m_X8_copy (Γ : zG) (l0 : Option Nat) (l1 : Option Nat) (s0 s1 : zS) (r : Unit) (hf : f_X8_copy Γ.1 l0 l1 s0 = some (r, s1)) : ZM Γ yX8_copy (ws_ yX8_copy cX8_copy 3 none) 1 0 [zr l0, zr l1] s0 (.inl none, s1) := by
  refine ZM.of (own := RX8) (by decide) rfl (Nat.le_of_ble_eq_true rfl) ?_
  intro X hg hC hL hno hQ hin
  subst hg
  unfold f_X8_copy at hf
  refine z_iconst (v := 0) hC (pc := 0) dX8_copy_0 zki_0 ?_
  refine z_istore_n (lv' := [(2, zi 0), (0, zr l0), (1, zr l1)]) hC (pc := 1) hL dX8_copy_1 rfl (Nat.le_of_ble_eq_true rfl) rfl ?_
  refine ZW.perm (lv' := [(0, zr l0), (1, zr l1), (2, zi 0)]) [1, 2, 0] rfl ?_
  exact w_X8_copy_l2 hC hL hno hQ 2000 l0 l1 0 s0 hf
/-! BlockingShopModel.critical(I)I -/
def f_X8_critical_b29 (G : Nat → Nat) (l0 : Nat) (l1 : Int32) (t0 : Int32) (t1 : Option Nat) (s0 : zS) : Option (Int32 × zS) :=
zo (zrc s0 t1 6) fun a3 =>
zb (f_X8_fails G a3 t0 1 s0) fun v4 s5 =>
if v4 = 0 then (zo (zgR s5 (some l0) 6 23) fun v7 =>
zo (zaI s5 v7 0 l1) fun v8 =>
zb (f_X8_told G v8 s5) fun v9 s10 =>
some (v9, s10))
else (some (0, s5))
set_option maxHeartbeats 4000000 in
theorem w_X8_critical_b29 {X : zX} (hC : ZC X RX8 cX8_critical (some .int) 7 133) (hL : X.nL = 2) (hno : ∀ x ∈ X.c.exceptionTable.toList, False) {r : Int32} {sF : zS} (hQ : ZQ X (.inl (some (zi r)), sF)) (l0 : Nat) (l1 : Int32) (t0 : Int32) (t1 : Option Nat) (s0 : zS) (hf : f_X8_critical_b29 X.g.1 l0 l1 t0 t1 s0 = some (r, sF)) : ZW X s0 29 [(0, zr (some l0)), (1, zi l1)] [zi t0, zr t1] := by
  unfold f_X8_critical_b29 at hf
  refine z_iconst (v := 1) hC (pc := 29) dX8_critical_29 zki_1 ?_
  obtain ⟨a3, fs1, rfl, ha2, hf⟩ := z_rcO hf
  refine z_cI (rest := []) hf (fun v4 s5 hcall => z_runV hC (pc := 30) zcX8 2 ha2 (m_X8_fails X.g a3 t0 1 s0 s5 v4 hcall) (lw_V q2765 q2767 qs48 q108 q2768) hdV_X8_fails ⟨(Nat.le_of_ble_eq_true rfl), (Nat.le_of_ble_eq_true rfl)⟩ rfl (Nat.le_of_ble_eq_true rfl) dX8_critical_30 rfl) (fun v4 s5 hf => ?_)
  refine z_if_eq hC (pc := 33) (tgt := 40) dX8_critical_33 rfl (fun c6 => ?_) (fun c6 => ?_)
  · have hf := zif_t hf c6
    refine z_aload_n hC (pc := 40) dX8_critical_40 rfl 0 rfl ?_
    refine z_getR hC (pc := 41) in_X8 zcX8 23 (Nat.le_of_ble_eq_true rfl) (zLk.o hC q2696) zsm dX8_critical_41 hf (fun v7 hf => ?_)
    refine z_iload_n hC (pc := 44) dX8_critical_44 rfl 1 rfl ?_
    refine z_iald hC (pc := 45) dX8_critical_45 hf (fun v8 hf => ?_)
    refine z_cI (rest := []) hf (fun v9 s10 hcall => z_runS hC (pc := 46) 1 (m_X8_told X.g v8 s5 s10 v9 hcall) (lw_S q2929 q2930 q108 q2931) hd_X8_told ⟨(Nat.le_of_ble_eq_true rfl), (Nat.le_of_ble_eq_true rfl)⟩ rfl (Nat.le_of_ble_eq_true rfl) dX8_critical_46 rfl) (fun v9 s10 hf => ?_)
    exact z_ireturn hC (pc := 49) hQ dX8_critical_49 hf
  · have hf := zif_f hf c6
    refine z_iconst (v := 0) hC (pc := 36) dX8_critical_36 zki_0 ?_
    refine z_goto hC (pc := 37) (tgt := 49) dX8_critical_37 rfl ?_
    exact z_ireturn hC (pc := 49) hQ dX8_critical_49 hf
def f_X8_critical (G : Nat → Nat) (l0 : Nat) (l1 : Int32) (s0 : zS) : Option (Int32 × zS) :=
zo (zput G s0 (some l0) 6 0 (.int 0)) fun s1 =>
zo (zrc s1 (some l0) 6) fun _ =>
zb (f_X8_findPath G l0 s1) fun _ s5 =>
zo (zgI s5 (some l0) 6 24) fun v6 =>
zb (f_X8_in G l1 0 (v6 - 1) s5) fun v7 s8 =>
if v7 = 0 then (f_X8_critical_b29 G l0 l1 1 (some l0) s8)
else (f_X8_critical_b29 G l0 l1 0 (some l0) s8)
set_option maxHeartbeats 4000000 in
theorem m_X8_critical (Γ : zG) (l0 : Nat) (l1 : Int32) (s0 s1 : zS) (r : Int32) (hf : f_X8_critical Γ.1 l0 l1 s0 = some (r, s1)) : ZM Γ yX8_critical (ws_ yX8_critical cX8_critical 2 (some .int)) 7 133 [zr (some l0), zi l1] s0 (.inl (some (zi r)), s1) := by
  refine ZM.of (own := RX8) (by decide) rfl (Nat.le_of_ble_eq_true rfl) ?_
  intro X hg hC hL hno hQ hin
  subst hg
  unfold f_X8_critical at hf
  refine z_aload_n hC (pc := 0) dX8_critical_0 rfl 0 rfl ?_
  refine z_iconst (v := 0) hC (pc := 1) dX8_critical_1 zki_0 ?_
  refine z_putV (v := zi 0) hC (pc := 2) in_X8 tyX8 tyX8_ok nmX8 zcX8 0 (Nat.le_of_ble_eq_true rfl) (zLk.o hC q2673) zsm (Or.inl rfl) rfl rfl dX8_critical_2 hf (fun s1 hf => ?_)
  refine z_aload_n hC (pc := 5) dX8_critical_5 rfl 0 rfl ?_
  obtain ⟨fs2, ha3, hf⟩ := z_rcN hf
  refine z_cU (rest := []) hf (fun v4 s5 hcall => z_runV hC (pc := 6) zcX8 0 ha3 (m_X8_findPath X.g l0 s1 s5 v4 hcall) (lw_V q3027 q3029 qs85 q108 q3030) hdV_X8_findPath ⟨(Nat.le_of_ble_eq_true rfl), (Nat.le_of_ble_eq_true rfl)⟩ rfl (Nat.le_of_ble_eq_true rfl) dX8_critical_6 rfl) (fun _ s5 hf => ?_)
  refine z_aload_n hC (pc := 9) dX8_critical_9 rfl 0 rfl ?_
  refine z_iload_n hC (pc := 10) dX8_critical_10 rfl 1 rfl ?_
  refine z_iconst (v := 0) hC (pc := 11) dX8_critical_11 zki_0 ?_
  refine z_aload_n hC (pc := 12) dX8_critical_12 rfl 0 rfl ?_
  refine z_getI hC (pc := 13) in_X8 zcX8 24 (Nat.le_of_ble_eq_true rfl) (zLk.o hC q2697) zsm dX8_critical_13 hf (fun v6 hf => ?_)
  refine z_iconst (v := 1) hC (pc := 16) dX8_critical_16 zki_1 ?_
  refine z_isub hC (pc := 17) dX8_critical_17 ?_
  refine z_cI (rest := [zr (some l0)]) hf (fun v7 s8 hcall => z_runS hC (pc := 18) 3 (m_X8_in X.g l1 0 (v6 - 1) s5 s8 v7 hcall) (lw_S q2762 q2763 q108 q2764) hd_X8_in ⟨(Nat.le_of_ble_eq_true rfl), (Nat.le_of_ble_eq_true rfl)⟩ rfl (Nat.le_of_ble_eq_true rfl) dX8_critical_18 rfl) (fun v7 s8 hf => ?_)
  refine z_if_ne hC (pc := 21) (tgt := 28) dX8_critical_21 rfl (fun c9 => ?_) (fun c9 => ?_)
  · have hf := zif_f hf c9
    refine z_iconst (v := 0) hC (pc := 28) dX8_critical_28 zki_0 ?_
    exact w_X8_critical_b29 hC hL hno hQ l0 l1 0 (some l0) s8 hf
  · have hf := zif_t hf c9
    refine z_iconst (v := 1) hC (pc := 24) dX8_critical_24 zki_1 ?_
    refine z_goto hC (pc := 25) (tgt := 29) dX8_critical_25 rfl ?_
    exact w_X8_critical_b29 hC hL hno hQ l0 l1 1 (some l0) s8 hf
/-! BlockingShopModel.criticalLength()I -/
def f_X8_criticalLength (G : Nat → Nat) (l0 : Nat) (s0 : zS) : Option (Int32 × zS) :=
zo (zput G s0 (some l0) 6 0 (.int 0)) fun s1 =>
zo (zrc s1 (some l0) 6) fun _ =>
zb (f_X8_findPath G l0 s1) fun _ s5 =>
zo (zgI s5 (some l0) 6 24) fun v6 =>
some (v6, s5)
set_option maxHeartbeats 4000000 in
theorem m_X8_criticalLength (Γ : zG) (l0 : Nat) (s0 s1 : zS) (r : Int32) (hf : f_X8_criticalLength Γ.1 l0 s0 = some (r, s1)) : ZM Γ yX8_criticalLength (ws_ yX8_criticalLength cX8_criticalLength 1 (some .int)) 7 133 [zr (some l0)] s0 (.inl (some (zi r)), s1) := by
  refine ZM.of (own := RX8) (by decide) rfl (Nat.le_of_ble_eq_true rfl) ?_
  intro X hg hC hL hno hQ hin
  subst hg
  unfold f_X8_criticalLength at hf
  refine z_aload_n hC (pc := 0) dX8_criticalLength_0 rfl 0 rfl ?_
  refine z_iconst (v := 0) hC (pc := 1) dX8_criticalLength_1 zki_0 ?_
  refine z_putV (v := zi 0) hC (pc := 2) in_X8 tyX8 tyX8_ok nmX8 zcX8 0 (Nat.le_of_ble_eq_true rfl) (zLk.o hC q2673) zsm (Or.inl rfl) rfl rfl dX8_criticalLength_2 hf (fun s1 hf => ?_)
  refine z_aload_n hC (pc := 5) dX8_criticalLength_5 rfl 0 rfl ?_
  obtain ⟨fs2, ha3, hf⟩ := z_rcN hf
  refine z_cU (rest := []) hf (fun v4 s5 hcall => z_runV hC (pc := 6) zcX8 0 ha3 (m_X8_findPath X.g l0 s1 s5 v4 hcall) (lw_V q3027 q3029 qs85 q108 q3030) hdV_X8_findPath ⟨(Nat.le_of_ble_eq_true rfl), (Nat.le_of_ble_eq_true rfl)⟩ rfl (Nat.le_of_ble_eq_true rfl) dX8_criticalLength_6 rfl) (fun _ s5 hf => ?_)
  refine z_aload_n hC (pc := 9) dX8_criticalLength_9 rfl 0 rfl ?_
  refine z_getI hC (pc := 10) in_X8 zcX8 24 (Nat.le_of_ble_eq_true rfl) (zLk.o hC q2697) zsm dX8_criticalLength_10 hf (fun v6 hf => ?_)
  exact z_ireturn hC (pc := 13) hQ dX8_criticalLength_13 hf
/-! BlockingShopModel.noSwap(II)Z -/
def f_X8_noSwap_b35 (G : Nat → Nat) (t0 : Int32) (t1 : Option Nat) (s0 : zS) : Option (Int32 × zS) :=
zo (zrc s0 t1 6) fun a3 =>
zb (f_X8_fails G a3 t0 1 s0) fun v4 s5 =>
if v4 = 0 then (zrn .boolean 0 s5)
else (zrn .boolean 1 s5)
set_option maxHeartbeats 4000000 in
theorem w_X8_noSwap_b35 {X : zX} (hC : ZC X RX8 cX8_noSwap (some .boolean) 3 43) (hL : X.nL = 3) (hno : ∀ x ∈ X.c.exceptionTable.toList, False) {r : Int32} {sF : zS} (hQ : ZQ X (.inl (some (zi r)), sF)) (t0 : Int32) (t1 : Option Nat) (s0 : zS) (hf : f_X8_noSwap_b35 X.g.1 t0 t1 s0 = some (r, sF)) : ZW X s0 35 [] [zi t0, zr t1] := by
  unfold f_X8_noSwap_b35 at hf
  refine z_iconst (v := 1) hC (pc := 35) dX8_noSwap_35 zki_1 ?_
  obtain ⟨a3, fs1, rfl, ha2, hf⟩ := z_rcO hf
  refine z_cI (rest := []) hf (fun v4 s5 hcall => z_runV hC (pc := 36) zcX8 2 ha2 (m_X8_fails X.g a3 t0 1 s0 s5 v4 hcall) (lw_V q2765 q2767 qs48 q108 q2768) hdV_X8_fails ⟨(Nat.le_of_ble_eq_true rfl), (Nat.le_of_ble_eq_true rfl)⟩ rfl (Nat.le_of_ble_eq_true rfl) dX8_noSwap_36 rfl) (fun v4 s5 hf => ?_)
  refine z_if_eq hC (pc := 39) (tgt := 46) dX8_noSwap_39 rfl (fun c6 => ?_) (fun c6 => ?_)
  · have hf := zif_t hf c6
    refine z_iconst (v := 0) hC (pc := 46) dX8_noSwap_46 zki_0 ?_
    exact z_zreturn hC (pc := 47) hQ dX8_noSwap_47 hf
  · have hf := zif_f hf c6
    refine z_iconst (v := 1) hC (pc := 42) dX8_noSwap_42 zki_1 ?_
    refine z_goto hC (pc := 43) (tgt := 47) dX8_noSwap_43 rfl ?_
    exact z_zreturn hC (pc := 47) hQ dX8_noSwap_47 hf
def f_X8_noSwap (G : Nat → Nat) (l0 : Nat) (l1 : Int32) (l2 : Int32) (s0 : zS) : Option (Int32 × zS) :=
zo (zrc s0 (some l0) 6) fun _ =>
zb (f_X8_noMachine G l0 l1 s0) fun v3 s4 =>
if v3 = 0 then (zo (zgR s4 (some l0) 6 8) fun v6 =>
zb (f_X8_machine G l1 s4) fun v7 s8 =>
zo (zaI s8 v6 0 (v7 + 2)) fun v9 =>
zb (f_X8_in G l2 0 (v9 - 2) s8) fun v10 s11 =>
if v10 = 0 then (f_X8_noSwap_b35 G 1 (some l0) s11)
else (f_X8_noSwap_b35 G 0 (some l0) s11))
else (zrn .boolean 1 s4)
set_option maxHeartbeats 4000000 in
theorem m_X8_noSwap (Γ : zG) (l0 : Nat) (l1 : Int32) (l2 : Int32) (s0 s1 : zS) (r : Int32) (hf : f_X8_noSwap Γ.1 l0 l1 l2 s0 = some (r, s1)) : ZM Γ yX8_noSwap (ws_ yX8_noSwap cX8_noSwap 3 (some .boolean)) 3 43 [zr (some l0), zi l1, zi l2] s0 (.inl (some (zi r)), s1) := by
  refine ZM.of (own := RX8) (by decide) rfl (Nat.le_of_ble_eq_true rfl) ?_
  intro X hg hC hL hno hQ hin
  subst hg
  unfold f_X8_noSwap at hf
  refine z_aload_n hC (pc := 0) dX8_noSwap_0 rfl 0 rfl ?_
  refine z_iload_n hC (pc := 1) dX8_noSwap_1 rfl 1 rfl ?_
  obtain ⟨fs1, ha2, hf⟩ := z_rcN hf
  refine z_cI (rest := []) hf (fun v3 s4 hcall => z_runV hC (pc := 2) zcX8 1 ha2 (m_X8_noMachine X.g l0 l1 s0 s4 v3 hcall) (lw_V q2921 q2923 qs71 q108 q2924) hdV_X8_noMachine ⟨(Nat.le_of_ble_eq_true rfl), (Nat.le_of_ble_eq_true rfl)⟩ rfl (Nat.le_of_ble_eq_true rfl) dX8_noSwap_2 rfl) (fun v3 s4 hf => ?_)
  refine z_if_ne hC (pc := 5) (tgt := 42) dX8_noSwap_5 rfl (fun c5 => ?_) (fun c5 => ?_)
  · have hf := zif_f hf c5
    refine z_iconst (v := 1) hC (pc := 42) dX8_noSwap_42 zki_1 ?_
    refine z_goto hC (pc := 43) (tgt := 47) dX8_noSwap_43 rfl ?_
    exact z_zreturn hC (pc := 47) hQ dX8_noSwap_47 hf
  · have hf := zif_t hf c5
    refine z_aload_n hC (pc := 8) dX8_noSwap_8 rfl 0 rfl ?_
    refine z_iload_n hC (pc := 9) dX8_noSwap_9 rfl 2 rfl ?_
    refine z_iconst (v := 0) hC (pc := 10) dX8_noSwap_10 zki_0 ?_
    refine z_aload_n hC (pc := 11) dX8_noSwap_11 rfl 0 rfl ?_
    refine z_getR hC (pc := 12) in_X8 zcX8 8 (Nat.le_of_ble_eq_true rfl) (zLk.o hC q2681) zsm dX8_noSwap_12 hf (fun v6 hf => ?_)
    refine z_iload_n hC (pc := 15) dX8_noSwap_15 rfl 1 rfl ?_
    refine z_cI (rest := [zr v6, zi 0, zi l2, zr (some l0)]) hf (fun v7 s8 hcall => z_runS hC (pc := 16) 1 (m_X8_machine X.g l1 s4 s8 v7 hcall) (lw_S q2842 q2843 q108 q2844) hd_X8_machine ⟨(Nat.le_of_ble_eq_true rfl), (Nat.le_of_ble_eq_true rfl)⟩ rfl (Nat.le_of_ble_eq_true rfl) dX8_noSwap_16 rfl) (fun v7 s8 hf => ?_)
    refine z_iconst (v := 2) hC (pc := 19) dX8_noSwap_19 zki_2 ?_
    refine z_iadd hC (pc := 20) dX8_noSwap_20 ?_
    refine z_iald hC (pc := 21) dX8_noSwap_21 hf (fun v9 hf => ?_)
    refine z_iconst (v := 2) hC (pc := 22) dX8_noSwap_22 zki_2 ?_
    refine z_isub hC (pc := 23) dX8_noSwap_23 ?_
    refine z_cI (rest := [zr (some l0)]) hf (fun v10 s11 hcall => z_runS hC (pc := 24) 3 (m_X8_in X.g l2 0 (v9 - 2) s8 s11 v10 hcall) (lw_S q2762 q2763 q108 q2764) hd_X8_in ⟨(Nat.le_of_ble_eq_true rfl), (Nat.le_of_ble_eq_true rfl)⟩ rfl (Nat.le_of_ble_eq_true rfl) dX8_noSwap_24 rfl) (fun v10 s11 hf => ?_)
    refine z_if_ne hC (pc := 27) (tgt := 34) dX8_noSwap_27 rfl (fun c12 => ?_) (fun c12 => ?_)
    · have hf := zif_f hf c12
      refine z_iconst (v := 0) hC (pc := 34) dX8_noSwap_34 zki_0 ?_
      refine ZW.perm (lv' := []) [] rfl ?_
      exact w_X8_noSwap_b35 hC hL hno hQ 0 (some l0) s11 hf
    · have hf := zif_t hf c12
      refine z_iconst (v := 1) hC (pc := 30) dX8_noSwap_30 zki_1 ?_
      refine z_goto hC (pc := 31) (tgt := 35) dX8_noSwap_31 rfl ?_
      refine ZW.perm (lv' := []) [] rfl ?_
      exact w_X8_noSwap_b35 hC hL hno hQ 1 (some l0) s11 hf
/-! BlockingShopModel.spanAfter(II)I -/
def f_X8_spanAfter_b21 (G : Nat → Nat) (l0 : Nat) (l1 : Int32) (l2 : Int32) (t0 : Int32) (s0 : zS) : Option (Int32 × zS) :=
zo (zrc s0 (some l0) 6) fun _ =>
zb (f_X8_exchange G l0 l1 l2 s0) fun _ s4 =>
some (t0, s4)
set_option maxHeartbeats 4000000 in
theorem w_X8_spanAfter_b21 {X : zX} (hC : ZC X RX8 cX8_spanAfter (some .int) 7 130) (hL : X.nL = 4) (hno : ∀ x ∈ X.c.exceptionTable.toList, False) {r : Int32} {sF : zS} (hQ : ZQ X (.inl (some (zi r)), sF)) (l0 : Nat) (l1 : Int32) (l2 : Int32) (t0 : Int32) (s0 : zS) (hf : f_X8_spanAfter_b21 X.g.1 l0 l1 l2 t0 s0 = some (r, sF)) : ZW X s0 21 [(0, zr (some l0)), (1, zi l1), (2, zi l2)] [zi t0] := by
  unfold f_X8_spanAfter_b21 at hf
  refine z_istore_n (lv' := [(3, zi t0), (0, zr (some l0)), (1, zi l1), (2, zi l2)]) hC (pc := 21) hL dX8_spanAfter_21 rfl (Nat.le_of_ble_eq_true rfl) rfl ?_
  refine z_aload_n hC (pc := 22) dX8_spanAfter_22 rfl 1 rfl ?_
  refine z_iload_n hC (pc := 23) dX8_spanAfter_23 rfl 2 rfl ?_
  refine z_iload_n hC (pc := 24) dX8_spanAfter_24 rfl 3 rfl ?_
  obtain ⟨fs1, ha2, hf⟩ := z_rcN hf
  refine z_cU (rest := []) hf (fun v3 s4 hcall => z_runV hC (pc := 25) zcX8 2 ha2 (m_X8_exchange X.g l0 l1 l2 s0 s4 v3 hcall) (lw_V q3059 q3061 qs89 q108 q3062) hdV_X8_exchange ⟨(Nat.le_of_ble_eq_true rfl), (Nat.le_of_ble_eq_true rfl)⟩ rfl (Nat.le_of_ble_eq_true rfl) dX8_spanAfter_25 rfl) (fun _ s4 hf => ?_)
  refine z_iload_n hC (pc := 28) dX8_spanAfter_28 rfl 0 rfl ?_
  exact z_ireturn hC (pc := 29) hQ dX8_spanAfter_29 hf
def f_X8_spanAfter (G : Nat → Nat) (l0 : Nat) (l1 : Int32) (l2 : Int32) (s0 : zS) : Option (Int32 × zS) :=
zo (zrc s0 (some l0) 6) fun _ =>
zb (f_X8_exchange G l0 l1 l2 s0) fun _ s4 =>
zo (zrc s4 (some l0) 6) fun _ =>
zb (f_X8_isDeadlocked G l0 s4) fun v7 s8 =>
if v7 = 0 then (zo (zrc s8 (some l0) 6) fun _ =>
zb (f_X8_makespanOf G l0 s8) fun v12 s13 =>
f_X8_spanAfter_b21 G l0 l1 l2 v12 s13)
else (f_X8_spanAfter_b21 G l0 l1 l2 (-1) s8)
set_option maxHeartbeats 4000000 in
theorem m_X8_spanAfter (Γ : zG) (l0 : Nat) (l1 : Int32) (l2 : Int32) (s0 s1 : zS) (r : Int32) (hf : f_X8_spanAfter Γ.1 l0 l1 l2 s0 = some (r, s1)) : ZM Γ yX8_spanAfter (ws_ yX8_spanAfter cX8_spanAfter 4 (some .int)) 7 130 [zr (some l0), zi l1, zi l2] s0 (.inl (some (zi r)), s1) := by
  refine ZM.of (own := RX8) (by decide) rfl (Nat.le_of_ble_eq_true rfl) ?_
  intro X hg hC hL hno hQ hin
  subst hg
  unfold f_X8_spanAfter at hf
  refine z_aload_n hC (pc := 0) dX8_spanAfter_0 rfl 0 rfl ?_
  refine z_iload_n hC (pc := 1) dX8_spanAfter_1 rfl 1 rfl ?_
  refine z_iload_n hC (pc := 2) dX8_spanAfter_2 rfl 2 rfl ?_
  obtain ⟨fs1, ha2, hf⟩ := z_rcN hf
  refine z_cU (rest := []) hf (fun v3 s4 hcall => z_runV hC (pc := 3) zcX8 2 ha2 (m_X8_exchange X.g l0 l1 l2 s0 s4 v3 hcall) (lw_V q3059 q3061 qs89 q108 q3062) hdV_X8_exchange ⟨(Nat.le_of_ble_eq_true rfl), (Nat.le_of_ble_eq_true rfl)⟩ rfl (Nat.le_of_ble_eq_true rfl) dX8_spanAfter_3 rfl) (fun _ s4 hf => ?_)
  refine z_aload_n hC (pc := 6) dX8_spanAfter_6 rfl 0 rfl ?_
  obtain ⟨fs5, ha6, hf⟩ := z_rcN hf
  refine z_cI (rest := []) hf (fun v7 s8 hcall => z_runV hC (pc := 7) zcX8 0 ha6 (m_X8_isDeadlocked X.g l0 s4 s8 v7 hcall) (lw_V q3063 q3065 qs90 q108 q3066) hdV_X8_isDeadlocked ⟨(Nat.le_of_ble_eq_true rfl), (Nat.le_of_ble_eq_true rfl)⟩ rfl (Nat.le_of_ble_eq_true rfl) dX8_spanAfter_7 rfl) (fun v7 s8 hf => ?_)
  refine z_if_eq hC (pc := 10) (tgt := 17) dX8_spanAfter_10 rfl (fun c9 => ?_) (fun c9 => ?_)
  · have hf := zif_t hf c9
    refine z_aload_n hC (pc := 17) dX8_spanAfter_17 rfl 0 rfl ?_
    obtain ⟨fs10, ha11, hf⟩ := z_rcN hf
    refine z_cI (rest := []) hf (fun v12 s13 hcall => z_runV hC (pc := 18) zcX8 0 ha11 (m_X8_makespanOf X.g l0 s8 s13 v12 hcall) (lw_V q2991 q2993 qs82 q108 q2994) hdV_X8_makespanOf ⟨(Nat.le_of_ble_eq_true rfl), (Nat.le_of_ble_eq_true rfl)⟩ rfl (Nat.le_of_ble_eq_true rfl) dX8_spanAfter_18 rfl) (fun v12 s13 hf => ?_)
    exact w_X8_spanAfter_b21 hC hL hno hQ l0 l1 l2 v12 s13 hf
  · have hf := zif_f hf c9
    refine z_iconst (v := (-1)) hC (pc := 13) dX8_spanAfter_13 zki_m1 ?_
    refine z_goto hC (pc := 14) (tgt := 21) dX8_spanAfter_14 rfl ?_
    exact w_X8_spanAfter_b21 hC hL hno hQ l0 l1 l2 (-1) s8 hf
/-! BlockingShopModel.deadlocks(II)Z -/
def f_X8_deadlocks (G : Nat → Nat) (l0 : Nat) (l1 : Int32) (l2 : Int32) (s0 : zS) : Option (Int32 × zS) :=
zo (zput G s0 (some l0) 6 0 (.int 0)) fun s1 =>
zo (zrc s1 (some l0) 6) fun _ =>
zb (f_X8_noSwap G l0 l1 l2 s1) fun v4 s5 =>
if v4 = 0 then (zo (zrc s5 (some l0) 6) fun _ =>
zb (f_X8_spanAfter G l0 l1 l2 s5) fun v9 s10 =>
if v9 = (-1) then (zrn .boolean 1 s10)
else (zrn .boolean 0 s10))
else (zrn .boolean 0 s5)
set_option maxHeartbeats 4000000 in
theorem m_X8_deadlocks (Γ : zG) (l0 : Nat) (l1 : Int32) (l2 : Int32) (s0 s1 : zS) (r : Int32) (hf : f_X8_deadlocks Γ.1 l0 l1 l2 s0 = some (r, s1)) : ZM Γ yX8_deadlocks (ws_ yX8_deadlocks cX8_deadlocks 3 (some .boolean)) 8 153 [zr (some l0), zi l1, zi l2] s0 (.inl (some (zi r)), s1) := by
  refine ZM.of (own := RX8) (by decide) rfl (Nat.le_of_ble_eq_true rfl) ?_
  intro X hg hC hL hno hQ hin
  subst hg
  unfold f_X8_deadlocks at hf
  refine z_aload_n hC (pc := 0) dX8_deadlocks_0 rfl 0 rfl ?_
  refine z_iconst (v := 0) hC (pc := 1) dX8_deadlocks_1 zki_0 ?_
  refine z_putV (v := zi 0) hC (pc := 2) in_X8 tyX8 tyX8_ok nmX8 zcX8 0 (Nat.le_of_ble_eq_true rfl) (zLk.o hC q2673) zsm (Or.inl rfl) rfl rfl dX8_deadlocks_2 hf (fun s1 hf => ?_)
  refine z_aload_n hC (pc := 5) dX8_deadlocks_5 rfl 0 rfl ?_
  refine z_iload_n hC (pc := 6) dX8_deadlocks_6 rfl 1 rfl ?_
  refine z_iload_n hC (pc := 7) dX8_deadlocks_7 rfl 2 rfl ?_
  obtain ⟨fs2, ha3, hf⟩ := z_rcN hf
  refine z_cI (rest := []) hf (fun v4 s5 hcall => z_runV hC (pc := 8) zcX8 2 ha3 (m_X8_noSwap X.g l0 l1 l2 s1 s5 v4 hcall) (lw_V q3051 q3053 qs87 q108 q3054) hdV_X8_noSwap ⟨(Nat.le_of_ble_eq_true rfl), (Nat.le_of_ble_eq_true rfl)⟩ rfl (Nat.le_of_ble_eq_true rfl) dX8_deadlocks_8 rfl) (fun v4 s5 hf => ?_)
  refine z_if_ne hC (pc := 11) (tgt := 28) dX8_deadlocks_11 rfl (fun c6 => ?_) (fun c6 => ?_)
  · have hf := zif_f hf c6
    refine z_iconst (v := 0) hC (pc := 28) dX8_deadlocks_28 zki_0 ?_
    exact z_zreturn hC (pc := 29) hQ dX8_deadlocks_29 hf
  · have hf := zif_t hf c6
    refine z_aload_n hC (pc := 14) dX8_deadlocks_14 rfl 0 rfl ?_
    refine z_iload_n hC (pc := 15) dX8_deadlocks_15 rfl 1 rfl ?_
    refine z_iload_n hC (pc := 16) dX8_deadlocks_16 rfl 2 rfl ?_
    obtain ⟨fs7, ha8, hf⟩ := z_rcN hf
    refine z_cI (rest := []) hf (fun v9 s10 hcall => z_runV hC (pc := 17) zcX8 2 ha8 (m_X8_spanAfter X.g l0 l1 l2 s5 s10 v9 hcall) (lw_V q3055 q3057 qs88 q108 q3058) hdV_X8_spanAfter ⟨(Nat.le_of_ble_eq_true rfl), (Nat.le_of_ble_eq_true rfl)⟩ rfl (Nat.le_of_ble_eq_true rfl) dX8_deadlocks_17 rfl) (fun v9 s10 hf => ?_)
    refine z_iconst (v := (-1)) hC (pc := 20) dX8_deadlocks_20 zki_m1 ?_
    refine z_icmp_ne hC (pc := 21) (tgt := 28) dX8_deadlocks_21 rfl (fun c11 => ?_) (fun c11 => ?_)
    · have hf := zif_f hf c11
      refine z_iconst (v := 0) hC (pc := 28) dX8_deadlocks_28 zki_0 ?_
      exact z_zreturn hC (pc := 29) hQ dX8_deadlocks_29 hf
    · have hf := zif_t hf c11
      refine z_iconst (v := 1) hC (pc := 24) dX8_deadlocks_24 zki_1 ?_
      refine z_goto hC (pc := 25) (tgt := 29) dX8_deadlocks_25 rfl ?_
      exact z_zreturn hC (pc := 29) hQ dX8_deadlocks_29 hf
/-! BlockingShopModel.isGood()Z -/
def f_X8_isGood (G : Nat → Nat) (l0 : Nat) (s0 : zS) : Option (Int32 × zS) :=
zo (zgI s0 (some l0) 6 5) fun v1 =>
if v1 = 0 then (zrn .boolean 1 s0)
else (zrn .boolean 0 s0)
set_option maxHeartbeats 4000000 in
theorem m_X8_isGood (Γ : zG) (l0 : Nat) (s0 s1 : zS) (r : Int32) (hf : f_X8_isGood Γ.1 l0 s0 = some (r, s1)) : ZM Γ yX8_isGood (ws_ yX8_isGood cX8_isGood 1 (some .boolean)) 1 0 [zr (some l0)] s0 (.inl (some (zi r)), s1) := by
  refine ZM.of (own := RX8) (by decide) rfl (Nat.le_of_ble_eq_true rfl) ?_
  intro X hg hC hL hno hQ hin
  subst hg
  unfold f_X8_isGood at hf
  refine z_aload_n hC (pc := 0) dX8_isGood_0 rfl 0 rfl ?_
  refine z_getI hC (pc := 1) in_X8 zcX8 5 (Nat.le_of_ble_eq_true rfl) (zLk.o hC q2678) zsm dX8_isGood_1 hf (fun v1 hf => ?_)
  refine z_if_ne hC (pc := 4) (tgt := 11) dX8_isGood_4 rfl (fun c2 => ?_) (fun c2 => ?_)
  · have hf := zif_f hf c2
    refine z_iconst (v := 0) hC (pc := 11) dX8_isGood_11 zki_0 ?_
    exact z_zreturn hC (pc := 12) hQ dX8_isGood_12 hf
  · have hf := zif_t hf c2
    refine z_iconst (v := 1) hC (pc := 7) dX8_isGood_7 zki_1 ?_
    refine z_goto hC (pc := 8) (tgt := 12) dX8_isGood_8 rfl ?_
    exact z_zreturn hC (pc := 12) hQ dX8_isGood_12 hf
/-! BlockingShopModel.emit(I)V -/
def f_X8_emit (G : Nat → Nat) (l0 : Nat) (l1 : Int32) (s0 : zS) : Option (Unit × zS) :=
zo (zrc s0 (some l0) 6) fun _ =>
zb (f_X8_isGood G l0 s0) fun v3 s4 =>
if v3 = 0 then (some ((), s4))
else (zo (zgR s4 (some l0) 6 9) fun v6 =>
zo (zgR s4 (some l0) 6 9) fun v7 =>
zo (zaI s4 v7 0 4) fun v8 =>
zo (zsI G s4 v6 0 (155 + v8) l1) fun s9 =>
zo (zgR s9 (some l0) 6 9) fun v10 =>
zo (zaI s9 v10 0 4) fun v11 =>
zo (zsI G s9 v10 0 4 (v11 + 1)) fun s12 =>
some ((), s12))
set_option maxHeartbeats 4000000 in
theorem m_X8_emit (Γ : zG) (l0 : Nat) (l1 : Int32) (s0 s1 : zS) (r : Unit) (hf : f_X8_emit Γ.1 l0 l1 s0 = some (r, s1)) : ZM Γ yX8_emit (ws_ yX8_emit cX8_emit 2 none) 2 20 [zr (some l0), zi l1] s0 (.inl none, s1) := by
  refine ZM.of (own := RX8) (by decide) rfl (Nat.le_of_ble_eq_true rfl) ?_
  intro X hg hC hL hno hQ hin
  subst hg
  unfold f_X8_emit at hf
  refine z_aload_n hC (pc := 0) dX8_emit_0 rfl 0 rfl ?_
  obtain ⟨fs1, ha2, hf⟩ := z_rcN hf
  refine z_cI (rest := []) hf (fun v3 s4 hcall => z_runV hC (pc := 1) zcX8 0 ha2 (m_X8_isGood X.g l0 s0 s4 v3 hcall) (lw_V q2774 q2776 qs50 q108 q2777) hdV_X8_isGood ⟨(Nat.le_of_ble_eq_true rfl), (Nat.le_of_ble_eq_true rfl)⟩ rfl (Nat.le_of_ble_eq_true rfl) dX8_emit_1 rfl) (fun v3 s4 hf => ?_)
  refine z_if_ne hC (pc := 4) (tgt := 8) dX8_emit_4 rfl (fun c5 => ?_) (fun c5 => ?_)
  · have hf := zif_f hf c5
    refine z_aload_n hC (pc := 8) dX8_emit_8 rfl 0 rfl ?_
    refine z_getR hC (pc := 9) in_X8 zcX8 9 (Nat.le_of_ble_eq_true rfl) (zLk.o hC q2682) zsm dX8_emit_9 hf (fun v6 hf => ?_)
    refine z_sipush (v := 155) hC (pc := 12) dX8_emit_12 zks_155 ?_
    refine z_aload_n hC (pc := 15) dX8_emit_15 rfl 0 rfl ?_
    refine z_getR hC (pc := 16) in_X8 zcX8 9 (Nat.le_of_ble_eq_true rfl) (zLk.o hC q2682) zsm dX8_emit_16 hf (fun v7 hf => ?_)
    refine z_iconst (v := 4) hC (pc := 19) dX8_emit_19 zki_4 ?_
    refine z_iald hC (pc := 20) dX8_emit_20 hf (fun v8 hf => ?_)
    refine z_iadd hC (pc := 21) dX8_emit_21 ?_
    refine z_iload_n hC (pc := 22) dX8_emit_22 rfl 1 rfl ?_
    refine z_iast hC (pc := 23) dX8_emit_23 hf (fun s9 hf => ?_)
    refine z_aload_n hC (pc := 24) dX8_emit_24 rfl 0 rfl ?_
    refine z_getR hC (pc := 25) in_X8 zcX8 9 (Nat.le_of_ble_eq_true rfl) (zLk.o hC q2682) zsm dX8_emit_25 hf (fun v10 hf => ?_)
    refine z_iconst (v := 4) hC (pc := 28) dX8_emit_28 zki_4 ?_
    refine z_dup2 hC (pc := 29) dX8_emit_29 rfl rfl ?_
    refine z_iald hC (pc := 30) dX8_emit_30 hf (fun v11 hf => ?_)
    refine z_iconst (v := 1) hC (pc := 31) dX8_emit_31 zki_1 ?_
    refine z_iadd hC (pc := 32) dX8_emit_32 ?_
    refine z_iast hC (pc := 33) dX8_emit_33 hf (fun s12 hf => ?_)
    exact z_return hC (pc := 34) hQ dX8_emit_34 hf
  · have hf := zif_t hf c5
    exact z_return hC (pc := 7) hQ dX8_emit_7 hf
/-! BlockingShopModel.errorOffset()I -/
def f_X8_errorOffset (G : Nat → Nat) (l0 : Nat) (s0 : zS) : Option (Int32 × zS) :=
zo (zput G s0 (some l0) 6 0 (.int 0)) fun s1 =>
zo (zgI s1 (some l0) 6 7) fun v2 =>
some (v2, s1)
set_option maxHeartbeats 4000000 in
theorem m_X8_errorOffset (Γ : zG) (l0 : Nat) (s0 s1 : zS) (r : Int32) (hf : f_X8_errorOffset Γ.1 l0 s0 = some (r, s1)) : ZM Γ yX8_errorOffset (ws_ yX8_errorOffset cX8_errorOffset 1 (some .int)) 1 0 [zr (some l0)] s0 (.inl (some (zi r)), s1) := by
  refine ZM.of (own := RX8) (by decide) rfl (Nat.le_of_ble_eq_true rfl) ?_
  intro X hg hC hL hno hQ hin
  subst hg
  unfold f_X8_errorOffset at hf
  refine z_aload_n hC (pc := 0) dX8_errorOffset_0 rfl 0 rfl ?_
  refine z_iconst (v := 0) hC (pc := 1) dX8_errorOffset_1 zki_0 ?_
  refine z_putV (v := zi 0) hC (pc := 2) in_X8 tyX8 tyX8_ok nmX8 zcX8 0 (Nat.le_of_ble_eq_true rfl) (zLk.o hC q2673) zsm (Or.inl rfl) rfl rfl dX8_errorOffset_2 hf (fun s1 hf => ?_)
  refine z_aload_n hC (pc := 5) dX8_errorOffset_5 rfl 0 rfl ?_
  refine z_getI hC (pc := 6) in_X8 zcX8 7 (Nat.le_of_ble_eq_true rfl) (zLk.o hC q2680) zsm dX8_errorOffset_6 hf (fun v2 hf => ?_)
  exact z_ireturn hC (pc := 9) hQ dX8_errorOffset_9 hf
/-! BlockingShopModel.next()I -/
def f_X8_next_b0 (G : Nat → Nat) (k0 : Nat → zS → Option (Int32 × zS)) (l0 : Nat) (s0 : zS) : Option (Int32 × zS) :=
zo (zgI s0 (some l0) 6 4) fun v1 =>
zo (zrc s0 (some l0) 6) fun _ =>
zb (f_X8_byteAt G l0 v1 s0) fun v4 s5 =>
if v4 = 32 then (zo (zgI s5 (some l0) 6 4) fun v12 =>
zo (zput G s5 (some l0) 6 4 (.int (v12 + 1))) fun s13 =>
k0 l0 s13)
else (zo (zgI s5 (some l0) 6 4) fun v7 =>
zo (zrc s5 (some l0) 6) fun _ =>
zb (f_X8_byteAt G l0 v7 s5) fun v10 s11 =>
some (v10, s11))
set_option maxHeartbeats 4000000 in
theorem w_X8_next_b0 {X : zX} (hC : ZC X RX8 cX8_next (some .int) 2 21) (hL : X.nL = 1) (hno : ∀ x ∈ X.c.exceptionTable.toList, False) {r : Int32} {sF : zS} (hQ : ZQ X (.inl (some (zi r)), sF)) (k0 : Nat → zS → Option (Int32 × zS)) (hk0 : ∀ (l0 : Nat) (s0 : zS), k0 l0 s0 = some (r, sF) → ZW X s0 0 [(0, zr (some l0))] []) (l0 : Nat) (s0 : zS) (hf : f_X8_next_b0 X.g.1 k0 l0 s0 = some (r, sF)) : ZW X s0 0 [(0, zr (some l0))] [] := by
  unfold f_X8_next_b0 at hf
  refine z_aload_n hC (pc := 0) dX8_next_0 rfl 0 rfl ?_
  refine z_aload_n hC (pc := 1) dX8_next_1 rfl 0 rfl ?_
  refine z_getI hC (pc := 2) in_X8 zcX8 4 (Nat.le_of_ble_eq_true rfl) (zLk.o hC q2677) zsm dX8_next_2 hf (fun v1 hf => ?_)
  obtain ⟨fs2, ha3, hf⟩ := z_rcN hf
  refine z_cI (rest := []) hf (fun v4 s5 hcall => z_runV hC (pc := 5) zcX8 1 ha3 (m_X8_byteAt X.g l0 v1 s0 s5 v4 hcall) (lw_V q2782 q2784 qs52 q108 q2785) hdV_X8_byteAt ⟨(Nat.le_of_ble_eq_true rfl), (Nat.le_of_ble_eq_true rfl)⟩ rfl (Nat.le_of_ble_eq_true rfl) dX8_next_5 rfl) (fun v4 s5 hf => ?_)
  refine z_bipush (v := 32) hC (pc := 8) dX8_next_8 zkb_32 ?_
  refine z_icmp_ne hC (pc := 10) (tgt := 26) dX8_next_10 rfl (fun c6 => ?_) (fun c6 => ?_)
  · have hf := zif_f hf c6
    refine z_aload_n hC (pc := 26) dX8_next_26 rfl 0 rfl ?_
    refine z_aload_n hC (pc := 27) dX8_next_27 rfl 0 rfl ?_
    refine z_getI hC (pc := 28) in_X8 zcX8 4 (Nat.le_of_ble_eq_true rfl) (zLk.o hC q2677) zsm dX8_next_28 hf (fun v7 hf => ?_)
    obtain ⟨fs8, ha9, hf⟩ := z_rcN hf
    refine z_cI (rest := []) hf (fun v10 s11 hcall => z_runV hC (pc := 31) zcX8 1 ha9 (m_X8_byteAt X.g l0 v7 s5 s11 v10 hcall) (lw_V q2782 q2784 qs52 q108 q2785) hdV_X8_byteAt ⟨(Nat.le_of_ble_eq_true rfl), (Nat.le_of_ble_eq_true rfl)⟩ rfl (Nat.le_of_ble_eq_true rfl) dX8_next_31 rfl) (fun v10 s11 hf => ?_)
    exact z_ireturn hC (pc := 34) hQ dX8_next_34 hf
  · have hf := zif_t hf c6
    refine z_aload_n hC (pc := 13) dX8_next_13 rfl 0 rfl ?_
    refine z_dup hC (pc := 14) dX8_next_14 rfl ?_
    refine z_getI hC (pc := 15) in_X8 zcX8 4 (Nat.le_of_ble_eq_true rfl) (zLk.o hC q2677) zsm dX8_next_15 hf (fun v12 hf => ?_)
    refine z_iconst (v := 1) hC (pc := 18) dX8_next_18 zki_1 ?_
    refine z_iadd hC (pc := 19) dX8_next_19 ?_
    refine z_putV (v := zi (v12 + 1)) hC (pc := 20) in_X8 tyX8 tyX8_ok nmX8 zcX8 4 (Nat.le_of_ble_eq_true rfl) (zLk.o hC q2677) zsm (Or.inl rfl) rfl rfl dX8_next_20 hf (fun s13 hf => ?_)
    refine z_goto hC (pc := 23) (tgt := 0) dX8_next_23 rfl ?_
    exact hk0 l0 s13 hf
def f_X8_next_l0 (G : Nat → Nat) : Nat → Nat → zS → Option (Int32 × zS)
  | 0 => fun _ _ => none
  | n + 1 => f_X8_next_b0 G (f_X8_next_l0 G n)
theorem w_X8_next_l0 {X : zX} (hC : ZC X RX8 cX8_next (some .int) 2 21) (hL : X.nL = 1) (hno : ∀ x ∈ X.c.exceptionTable.toList, False) {r : Int32} {sF : zS} (hQ : ZQ X (.inl (some (zi r)), sF)) : ∀ (n : Nat) (l0 : Nat) (s0 : zS) (_ : f_X8_next_l0 X.g.1 n l0 s0 = some (r, sF)), ZW X s0 0 [(0, zr (some l0))] [] := by
  intro n
  induction n with
  | zero => intro l0 s0 hf; exact absurd (show (none : Option (Int32 × zS)) = some (r, sF) from hf) (fun z => nomatch z)
  | succ n ih => intro l0 s0 hf; exact w_X8_next_b0 hC hL hno hQ (f_X8_next_l0 X.g.1 n) ih l0 s0 hf
def f_X8_next (G : Nat → Nat) (l0 : Nat) (s0 : zS) : Option (Int32 × zS) :=
f_X8_next_l0 G 2000 l0 s0
set_option maxHeartbeats 4000000 in
theorem m_X8_next (Γ : zG) (l0 : Nat) (s0 s1 : zS) (r : Int32) (hf : f_X8_next Γ.1 l0 s0 = some (r, s1)) : ZM Γ yX8_next (ws_ yX8_next cX8_next 1 (some .int)) 2 21 [zr (some l0)] s0 (.inl (some (zi r)), s1) := by
  refine ZM.of (own := RX8) (by decide) rfl (Nat.le_of_ble_eq_true rfl) ?_
  intro X hg hC hL hno hQ hin
  subst hg
  unfold f_X8_next at hf
  exact w_X8_next_l0 hC hL hno hQ 2000 l0 s0 hf
/-! BlockingShopModel.report(II)V -/
def f_X8_report (G : Nat → Nat) (l0 : Nat) (l1 : Int32) (l2 : Int32) (s0 : zS) : Option (Unit × zS) :=
zo (zgI s0 (some l0) 6 5) fun v1 =>
if v1 = 0 then (zo (zput G s0 (some l0) 6 5 (.int l1)) fun s3 =>
zo (zput G s3 (some l0) 6 6 (.int l2)) fun s4 =>
some ((), s4))
else (some ((), s0))
set_option maxHeartbeats 4000000 in
theorem m_X8_report (Γ : zG) (l0 : Nat) (l1 : Int32) (l2 : Int32) (s0 s1 : zS) (r : Unit) (hf : f_X8_report Γ.1 l0 l1 l2 s0 = some (r, s1)) : ZM Γ yX8_report (ws_ yX8_report cX8_report 3 none) 1 0 [zr (some l0), zi l1, zi l2] s0 (.inl none, s1) := by
  refine ZM.of (own := RX8) (by decide) rfl (Nat.le_of_ble_eq_true rfl) ?_
  intro X hg hC hL hno hQ hin
  subst hg
  unfold f_X8_report at hf
  refine z_aload_n hC (pc := 0) dX8_report_0 rfl 0 rfl ?_
  refine z_getI hC (pc := 1) in_X8 zcX8 5 (Nat.le_of_ble_eq_true rfl) (zLk.o hC q2678) zsm dX8_report_1 hf (fun v1 hf => ?_)
  refine z_if_eq hC (pc := 4) (tgt := 8) dX8_report_4 rfl (fun c2 => ?_) (fun c2 => ?_)
  · have hf := zif_t hf c2
    refine z_aload_n hC (pc := 8) dX8_report_8 rfl 0 rfl ?_
    refine z_iload_n hC (pc := 9) dX8_report_9 rfl 1 rfl ?_
    refine z_putV (v := zi l1) hC (pc := 10) in_X8 tyX8 tyX8_ok nmX8 zcX8 5 (Nat.le_of_ble_eq_true rfl) (zLk.o hC q2678) zsm (Or.inl rfl) rfl rfl dX8_report_10 hf (fun s3 hf => ?_)
    refine z_aload_n hC (pc := 13) dX8_report_13 rfl 0 rfl ?_
    refine z_iload_n hC (pc := 14) dX8_report_14 rfl 2 rfl ?_
    refine z_putV (v := zi l2) hC (pc := 15) in_X8 tyX8 tyX8_ok nmX8 zcX8 6 (Nat.le_of_ble_eq_true rfl) (zLk.o hC q2679) zsm (Or.inl rfl) rfl rfl dX8_report_15 hf (fun s4 hf => ?_)
    exact z_return hC (pc := 18) hQ dX8_report_18 hf
  · have hf := zif_f hf c2
    exact z_return hC (pc := 7) hQ dX8_report_7 hf
/-! BlockingShopModel.expect(I)V -/
def f_X8_expect (G : Nat → Nat) (l0 : Nat) (l1 : Int32) (s0 : zS) : Option (Unit × zS) :=
zo (zrc s0 (some l0) 6) fun _ =>
zb (f_X8_isGood G l0 s0) fun v3 s4 =>
if v3 = 0 then (some ((), s4))
else (zo (zrc s4 (some l0) 6) fun _ =>
zb (f_X8_next G l0 s4) fun v8 s9 =>
if v8 = l1 then (zo (zgI s9 (some l0) 6 4) fun v16 =>
zo (zput G s9 (some l0) 6 4 (.int (v16 + 1))) fun s17 =>
some ((), s17))
else (zo (zgI s9 (some l0) 6 4) fun v11 =>
zo (zrc s9 (some l0) 6) fun _ =>
zb (f_X8_report G l0 (-2) v11 s9) fun _ s15 =>
some ((), s15)))
set_option maxHeartbeats 4000000 in
theorem m_X8_expect (Γ : zG) (l0 : Nat) (l1 : Int32) (s0 s1 : zS) (r : Unit) (hf : f_X8_expect Γ.1 l0 l1 s0 = some (r, s1)) : ZM Γ yX8_expect (ws_ yX8_expect cX8_expect 2 none) 3 41 [zr (some l0), zi l1] s0 (.inl none, s1) := by
  refine ZM.of (own := RX8) (by decide) rfl (Nat.le_of_ble_eq_true rfl) ?_
  intro X hg hC hL hno hQ hin
  subst hg
  unfold f_X8_expect at hf
  refine z_aload_n hC (pc := 0) dX8_expect_0 rfl 0 rfl ?_
  obtain ⟨fs1, ha2, hf⟩ := z_rcN hf
  refine z_cI (rest := []) hf (fun v3 s4 hcall => z_runV hC (pc := 1) zcX8 0 ha2 (m_X8_isGood X.g l0 s0 s4 v3 hcall) (lw_V q2774 q2776 qs50 q108 q2777) hdV_X8_isGood ⟨(Nat.le_of_ble_eq_true rfl), (Nat.le_of_ble_eq_true rfl)⟩ rfl (Nat.le_of_ble_eq_true rfl) dX8_expect_1 rfl) (fun v3 s4 hf => ?_)
  refine z_if_ne hC (pc := 4) (tgt := 8) dX8_expect_4 rfl (fun c5 => ?_) (fun c5 => ?_)
  · have hf := zif_f hf c5
    refine z_aload_n hC (pc := 8) dX8_expect_8 rfl 0 rfl ?_
    obtain ⟨fs6, ha7, hf⟩ := z_rcN hf
    refine z_cI (rest := []) hf (fun v8 s9 hcall => z_runV hC (pc := 9) zcX8 0 ha7 (m_X8_next X.g l0 s4 s9 v8 hcall) (lw_V q2778 q2780 qs51 q108 q2781) hdV_X8_next ⟨(Nat.le_of_ble_eq_true rfl), (Nat.le_of_ble_eq_true rfl)⟩ rfl (Nat.le_of_ble_eq_true rfl) dX8_expect_9 rfl) (fun v8 s9 hf => ?_)
    refine z_iload_n hC (pc := 12) dX8_expect_12 rfl 1 rfl ?_
    refine z_icmp_ne hC (pc := 13) (tgt := 29) dX8_expect_13 rfl (fun c10 => ?_) (fun c10 => ?_)
    · have hf := zif_f hf c10
      refine z_aload_n hC (pc := 29) dX8_expect_29 rfl 0 rfl ?_
      refine z_bipush (v := (-2)) hC (pc := 30) dX8_expect_30 zkb_m2 ?_
      refine z_aload_n hC (pc := 32) dX8_expect_32 rfl 0 rfl ?_
      refine z_getI hC (pc := 33) in_X8 zcX8 4 (Nat.le_of_ble_eq_true rfl) (zLk.o hC q2677) zsm dX8_expect_33 hf (fun v11 hf => ?_)
      obtain ⟨fs12, ha13, hf⟩ := z_rcN hf
      refine z_cU (rest := []) hf (fun v14 s15 hcall => z_runV hC (pc := 36) zcX8 2 ha13 (m_X8_report X.g l0 (-2) v11 s9 s15 v14 hcall) (lw_V q2798 q2800 qs53 q108 q2801) hdV_X8_report ⟨(Nat.le_of_ble_eq_true rfl), (Nat.le_of_ble_eq_true rfl)⟩ rfl (Nat.le_of_ble_eq_true rfl) dX8_expect_36 rfl) (fun _ s15 hf => ?_)
      exact z_return hC (pc := 39) hQ dX8_expect_39 hf
    · have hf := zif_t hf c10
      refine z_aload_n hC (pc := 16) dX8_expect_16 rfl 0 rfl ?_
      refine z_dup hC (pc := 17) dX8_expect_17 rfl ?_
      refine z_getI hC (pc := 18) in_X8 zcX8 4 (Nat.le_of_ble_eq_true rfl) (zLk.o hC q2677) zsm dX8_expect_18 hf (fun v16 hf => ?_)
      refine z_iconst (v := 1) hC (pc := 21) dX8_expect_21 zki_1 ?_
      refine z_iadd hC (pc := 22) dX8_expect_22 ?_
      refine z_putV (v := zi (v16 + 1)) hC (pc := 23) in_X8 tyX8 tyX8_ok nmX8 zcX8 4 (Nat.le_of_ble_eq_true rfl) (zLk.o hC q2677) zsm (Or.inl rfl) rfl rfl dX8_expect_23 hf (fun s17 hf => ?_)
      refine z_goto hC (pc := 26) (tgt := 39) dX8_expect_26 rfl ?_
      exact z_return hC (pc := 39) hQ dX8_expect_39 hf
  · have hf := zif_t hf c5
    exact z_return hC (pc := 7) hQ dX8_expect_7 hf
/-! BlockingShopModel.isDigit(I)Z -/
def f_X8_isDigit (G : Nat → Nat) (l0 : Int32) (s0 : zS) : Option (Int32 × zS) :=
zb (f_X8_in G l0 48 57 s0) fun v1 s2 =>
zrn .boolean v1 s2
set_option maxHeartbeats 4000000 in
theorem m_X8_isDigit (Γ : zG) (l0 : Int32) (s0 s1 : zS) (r : Int32) (hf : f_X8_isDigit Γ.1 l0 s0 = some (r, s1)) : ZM Γ yX8_isDigit (ws_ yX8_isDigit cX8_isDigit 1 (some .boolean)) 2 22 [zi l0] s0 (.inl (some (zi r)), s1) := by
  refine ZM.of (own := RX8) (by decide) rfl (Nat.le_of_ble_eq_true rfl) ?_
  intro X hg hC hL hno hQ hin
  subst hg
  unfold f_X8_isDigit at hf
  refine z_iload_n hC (pc := 0) dX8_isDigit_0 rfl 0 rfl ?_
  refine z_bipush (v := 48) hC (pc := 1) dX8_isDigit_1 zkb_48 ?_
  refine z_bipush (v := 57) hC (pc := 3) dX8_isDigit_3 zkb_57 ?_
  refine z_cI (rest := []) hf (fun v1 s2 hcall => z_runS hC (pc := 5) 3 (m_X8_in X.g l0 48 57 s0 s2 v1 hcall) (lw_S q2762 q2763 q108 q2764) hd_X8_in ⟨(Nat.le_of_ble_eq_true rfl), (Nat.le_of_ble_eq_true rfl)⟩ rfl (Nat.le_of_ble_eq_true rfl) dX8_isDigit_5 rfl) (fun v1 s2 hf => ?_)
  exact z_zreturn hC (pc := 8) hQ dX8_isDigit_8 hf
/-! BlockingShopModel.min(II)I -/
def f_X8_min (G : Nat → Nat) (l0 : Int32) (l1 : Int32) (s0 : zS) : Option (Int32 × zS) :=
if l1 ≤ l0 then (some (l1, s0))
else (some (l0, s0))
set_option maxHeartbeats 4000000 in
theorem m_X8_min (Γ : zG) (l0 : Int32) (l1 : Int32) (s0 s1 : zS) (r : Int32) (hf : f_X8_min Γ.1 l0 l1 s0 = some (r, s1)) : ZM Γ yX8_min (ws_ yX8_min cX8_min 2 (some .int)) 1 0 [zi l0, zi l1] s0 (.inl (some (zi r)), s1) := by
  refine ZM.of (own := RX8) (by decide) rfl (Nat.le_of_ble_eq_true rfl) ?_
  intro X hg hC hL hno hQ hin
  subst hg
  unfold f_X8_min at hf
  refine z_iload_n hC (pc := 0) dX8_min_0 rfl 0 rfl ?_
  refine z_iload_n hC (pc := 1) dX8_min_1 rfl 1 rfl ?_
  refine z_icmp_ge hC (pc := 2) (tgt := 9) dX8_min_2 rfl (fun c1 => ?_) (fun c1 => ?_)
  · have hf := zif_t hf c1
    refine z_iload_n hC (pc := 9) dX8_min_9 rfl 1 rfl ?_
    exact z_ireturn hC (pc := 10) hQ dX8_min_10 hf
  · have hf := zif_f hf c1
    refine z_iload_n hC (pc := 5) dX8_min_5 rfl 0 rfl ?_
    refine z_goto hC (pc := 6) (tgt := 10) dX8_min_6 rfl ?_
    exact z_ireturn hC (pc := 10) hQ dX8_min_10 hf
/-! BlockingShopModel.number(II)I -/
def f_X8_number_b41 (G : Nat → Nat) (k41 : Nat → Int32 → Int32 → Int32 → zS → Option (Int32 × zS)) (l0 : Nat) (l1 : Int32) (l2 : Int32) (l3 : Int32) (s0 : zS) : Option (Int32 × zS) :=
zo (zgI s0 (some l0) 6 4) fun v1 =>
zo (zrc s0 (some l0) 6) fun _ =>
zb (f_X8_byteAt G l0 v1 s0) fun v4 s5 =>
zb (f_X8_isDigit G v4 s5) fun v6 s7 =>
if v6 = 0 then (zb (f_X8_in G l3 l1 l2 s7) fun v9 s10 =>
if v9 = 0 then (zo (zgI s10 (some l0) 6 13) fun v12 =>
zo (zrc s10 (some l0) 6) fun _ =>
zb (f_X8_report G l0 (-3) v12 s10) fun _ s16 =>
some (l3, s16))
else (some (l3, s10)))
else (zo (zgI s7 (some l0) 6 4) fun v17 =>
zo (zrc s7 (some l0) 6) fun _ =>
zb (f_X8_byteAt G l0 v17 s7) fun v20 s21 =>
zb (f_X8_min G 1000000 (((10 * l3) + v20) - 48) s21) fun v22 s23 =>
zo (zgI s23 (some l0) 6 4) fun v24 =>
zo (zput G s23 (some l0) 6 4 (.int (v24 + 1))) fun s25 =>
k41 l0 l1 l2 v22 s25)
set_option maxHeartbeats 4000000 in
theorem w_X8_number_b41 {X : zX} (hC : ZC X RX8 cX8_number (some .int) 3 42) (hL : X.nL = 4) (hno : ∀ x ∈ X.c.exceptionTable.toList, False) {r : Int32} {sF : zS} (hQ : ZQ X (.inl (some (zi r)), sF)) (k41 : Nat → Int32 → Int32 → Int32 → zS → Option (Int32 × zS)) (hk41 : ∀ (l0 : Nat) (l1 : Int32) (l2 : Int32) (l3 : Int32) (s0 : zS), k41 l0 l1 l2 l3 s0 = some (r, sF) → ZW X s0 41 [(0, zr (some l0)), (1, zi l1), (2, zi l2), (3, zi l3)] []) (l0 : Nat) (l1 : Int32) (l2 : Int32) (l3 : Int32) (s0 : zS) (hf : f_X8_number_b41 X.g.1 k41 l0 l1 l2 l3 s0 = some (r, sF)) : ZW X s0 41 [(0, zr (some l0)), (1, zi l1), (2, zi l2), (3, zi l3)] [] := by
  unfold f_X8_number_b41 at hf
  refine z_aload_n hC (pc := 41) dX8_number_41 rfl 0 rfl ?_
  refine z_aload_n hC (pc := 42) dX8_number_42 rfl 0 rfl ?_
  refine z_getI hC (pc := 43) in_X8 zcX8 4 (Nat.le_of_ble_eq_true rfl) (zLk.o hC q2677) zsm dX8_number_43 hf (fun v1 hf => ?_)
  obtain ⟨fs2, ha3, hf⟩ := z_rcN hf
  refine z_cI (rest := []) hf (fun v4 s5 hcall => z_runV hC (pc := 46) zcX8 1 ha3 (m_X8_byteAt X.g l0 v1 s0 s5 v4 hcall) (lw_V q2782 q2784 qs52 q108 q2785) hdV_X8_byteAt ⟨(Nat.le_of_ble_eq_true rfl), (Nat.le_of_ble_eq_true rfl)⟩ rfl (Nat.le_of_ble_eq_true rfl) dX8_number_46 rfl) (fun v4 s5 hf => ?_)
  refine z_cI (rest := []) hf (fun v6 s7 hcall => z_runS hC (pc := 49) 1 (m_X8_isDigit X.g v4 s5 s7 v6 hcall) (lw_S q2806 q2807 q108 q2808) hd_X8_isDigit ⟨(Nat.le_of_ble_eq_true rfl), (Nat.le_of_ble_eq_true rfl)⟩ rfl (Nat.le_of_ble_eq_true rfl) dX8_number_49 rfl) (fun v6 s7 hf => ?_)
  refine z_if_eq hC (pc := 52) (tgt := 90) dX8_number_52 rfl (fun c8 => ?_) (fun c8 => ?_)
  · have hf := zif_t hf c8
    refine z_iload_n hC (pc := 90) dX8_number_90 rfl 3 rfl ?_
    refine z_iload_n hC (pc := 91) dX8_number_91 rfl 1 rfl ?_
    refine z_iload_n hC (pc := 92) dX8_number_92 rfl 2 rfl ?_
    refine z_cI (rest := []) hf (fun v9 s10 hcall => z_runS hC (pc := 93) 3 (m_X8_in X.g l3 l1 l2 s7 s10 v9 hcall) (lw_S q2762 q2763 q108 q2764) hd_X8_in ⟨(Nat.le_of_ble_eq_true rfl), (Nat.le_of_ble_eq_true rfl)⟩ rfl (Nat.le_of_ble_eq_true rfl) dX8_number_93 rfl) (fun v9 s10 hf => ?_)
    refine z_if_ne hC (pc := 96) (tgt := 109) dX8_number_96 rfl (fun c11 => ?_) (fun c11 => ?_)
    · have hf := zif_f hf c11
      refine z_iload_n hC (pc := 109) dX8_number_109 rfl 3 rfl ?_
      exact z_ireturn hC (pc := 110) hQ dX8_number_110 hf
    · have hf := zif_t hf c11
      refine z_aload_n hC (pc := 99) dX8_number_99 rfl 0 rfl ?_
      refine z_bipush (v := (-3)) hC (pc := 100) dX8_number_100 zkb_m3 ?_
      refine z_aload_n hC (pc := 102) dX8_number_102 rfl 0 rfl ?_
      refine z_getI hC (pc := 103) in_X8 zcX8 13 (Nat.le_of_ble_eq_true rfl) (zLk.o hC q2686) zsm dX8_number_103 hf (fun v12 hf => ?_)
      obtain ⟨fs13, ha14, hf⟩ := z_rcN hf
      refine z_cU (rest := []) hf (fun v15 s16 hcall => z_runV hC (pc := 106) zcX8 2 ha14 (m_X8_report X.g l0 (-3) v12 s10 s16 v15 hcall) (lw_V q2798 q2800 qs53 q108 q2801) hdV_X8_report ⟨(Nat.le_of_ble_eq_true rfl), (Nat.le_of_ble_eq_true rfl)⟩ rfl (Nat.le_of_ble_eq_true rfl) dX8_number_106 rfl) (fun _ s16 hf => ?_)
      refine z_iload_n hC (pc := 109) dX8_number_109 rfl 3 rfl ?_
      exact z_ireturn hC (pc := 110) hQ dX8_number_110 hf
  · have hf := zif_f hf c8
    refine z_ldc (v := 1000000) hC (pc := 55) q2809 dX8_number_55 ?_
    refine z_bipush (v := 10) hC (pc := 57) dX8_number_57 zkb_10 ?_
    refine z_iload_n hC (pc := 59) dX8_number_59 rfl 3 rfl ?_
    refine z_imul hC (pc := 60) dX8_number_60 ?_
    refine z_aload_n hC (pc := 61) dX8_number_61 rfl 0 rfl ?_
    refine z_aload_n hC (pc := 62) dX8_number_62 rfl 0 rfl ?_
    refine z_getI hC (pc := 63) in_X8 zcX8 4 (Nat.le_of_ble_eq_true rfl) (zLk.o hC q2677) zsm dX8_number_63 hf (fun v17 hf => ?_)
    obtain ⟨fs18, ha19, hf⟩ := z_rcN hf
    refine z_cI (rest := [zi (10 * l3), zi 1000000]) hf (fun v20 s21 hcall => z_runV hC (pc := 66) zcX8 1 ha19 (m_X8_byteAt X.g l0 v17 s7 s21 v20 hcall) (lw_V q2782 q2784 qs52 q108 q2785) hdV_X8_byteAt ⟨(Nat.le_of_ble_eq_true rfl), (Nat.le_of_ble_eq_true rfl)⟩ rfl (Nat.le_of_ble_eq_true rfl) dX8_number_66 rfl) (fun v20 s21 hf => ?_)
    refine z_iadd hC (pc := 69) dX8_number_69 ?_
    refine z_bipush (v := 48) hC (pc := 70) dX8_number_70 zkb_48 ?_
    refine z_isub hC (pc := 72) dX8_number_72 ?_
    refine z_cI (rest := []) hf (fun v22 s23 hcall => z_runS hC (pc := 73) 2 (m_X8_min X.g 1000000 (((10 * l3) + v20) - 48) s21 s23 v22 hcall) (lw_S q2810 q2811 q108 q2812) hd_X8_min ⟨(Nat.le_of_ble_eq_true rfl), (Nat.le_of_ble_eq_true rfl)⟩ rfl (Nat.le_of_ble_eq_true rfl) dX8_number_73 rfl) (fun v22 s23 hf => ?_)
    refine z_istore_n (lv' := [(3, zi v22), (0, zr (some l0)), (1, zi l1), (2, zi l2)]) hC (pc := 76) hL dX8_number_76 rfl (Nat.le_of_ble_eq_true rfl) rfl ?_
    refine z_aload_n hC (pc := 77) dX8_number_77 rfl 1 rfl ?_
    refine z_dup hC (pc := 78) dX8_number_78 rfl ?_
    refine z_getI hC (pc := 79) in_X8 zcX8 4 (Nat.le_of_ble_eq_true rfl) (zLk.o hC q2677) zsm dX8_number_79 hf (fun v24 hf => ?_)
    refine z_iconst (v := 1) hC (pc := 82) dX8_number_82 zki_1 ?_
    refine z_iadd hC (pc := 83) dX8_number_83 ?_
    refine z_putV (v := zi (v24 + 1)) hC (pc := 84) in_X8 tyX8 tyX8_ok nmX8 zcX8 4 (Nat.le_of_ble_eq_true rfl) (zLk.o hC q2677) zsm (Or.inl rfl) rfl rfl dX8_number_84 hf (fun s25 hf => ?_)
    refine z_goto hC (pc := 87) (tgt := 41) dX8_number_87 rfl ?_
    refine ZW.perm (lv' := [(0, zr (some l0)), (1, zi l1), (2, zi l2), (3, zi v22)]) [1, 2, 3, 0] rfl ?_
    exact hk41 l0 l1 l2 v22 s25 hf
def f_X8_number_l41 (G : Nat → Nat) : Nat → Nat → Int32 → Int32 → Int32 → zS → Option (Int32 × zS)
  | 0 => fun _ _ _ _ _ => none
  | n + 1 => f_X8_number_b41 G (f_X8_number_l41 G n)
theorem w_X8_number_l41 {X : zX} (hC : ZC X RX8 cX8_number (some .int) 3 42) (hL : X.nL = 4) (hno : ∀ x ∈ X.c.exceptionTable.toList, False) {r : Int32} {sF : zS} (hQ : ZQ X (.inl (some (zi r)), sF)) : ∀ (n : Nat) (l0 : Nat) (l1 : Int32) (l2 : Int32) (l3 : Int32) (s0 : zS) (_ : f_X8_number_l41 X.g.1 n l0 l1 l2 l3 s0 = some (r, sF)), ZW X s0 41 [(0, zr (some l0)), (1, zi l1), (2, zi l2), (3, zi l3)] [] := by
  intro n
  induction n with
  | zero => intro l0 l1 l2 l3 s0 hf; exact absurd (show (none : Option (Int32 × zS)) = some (r, sF) from hf) (fun z => nomatch z)
  | succ n ih => intro l0 l1 l2 l3 s0 hf; exact w_X8_number_b41 hC hL hno hQ (f_X8_number_l41 X.g.1 n) ih l0 l1 l2 l3 s0 hf
def f_X8_number (G : Nat → Nat) (l0 : Nat) (l1 : Int32) (l2 : Int32) (s0 : zS) : Option (Int32 × zS) :=
zo (zrc s0 (some l0) 6) fun _ =>
zb (f_X8_isGood G l0 s0) fun v3 s4 =>
if v3 = 0 then (some (0, s4))
else (zo (zrc s4 (some l0) 6) fun _ =>
zb (f_X8_next G l0 s4) fun v8 s9 =>
zb (f_X8_isDigit G v8 s9) fun v10 s11 =>
if v10 = 0 then (zo (zgI s11 (some l0) 6 4) fun v15 =>
zo (zrc s11 (some l0) 6) fun _ =>
zb (f_X8_report G l0 (-2) v15 s11) fun _ s19 =>
some (0, s19))
else (zo (zgI s11 (some l0) 6 4) fun v13 =>
zo (zput G s11 (some l0) 6 13 (.int v13)) fun s14 =>
f_X8_number_l41 G 2000 l0 l1 l2 0 s14))
set_option maxHeartbeats 4000000 in
theorem m_X8_number (Γ : zG) (l0 : Nat) (l1 : Int32) (l2 : Int32) (s0 s1 : zS) (r : Int32) (hf : f_X8_number Γ.1 l0 l1 l2 s0 = some (r, s1)) : ZM Γ yX8_number (ws_ yX8_number cX8_number 4 (some .int)) 3 42 [zr (some l0), zi l1, zi l2] s0 (.inl (some (zi r)), s1) := by
  refine ZM.of (own := RX8) (by decide) rfl (Nat.le_of_ble_eq_true rfl) ?_
  intro X hg hC hL hno hQ hin
  subst hg
  unfold f_X8_number at hf
  refine z_aload_n hC (pc := 0) dX8_number_0 rfl 0 rfl ?_
  obtain ⟨fs1, ha2, hf⟩ := z_rcN hf
  refine z_cI (rest := []) hf (fun v3 s4 hcall => z_runV hC (pc := 1) zcX8 0 ha2 (m_X8_isGood X.g l0 s0 s4 v3 hcall) (lw_V q2774 q2776 qs50 q108 q2777) hdV_X8_isGood ⟨(Nat.le_of_ble_eq_true rfl), (Nat.le_of_ble_eq_true rfl)⟩ rfl (Nat.le_of_ble_eq_true rfl) dX8_number_1 rfl) (fun v3 s4 hf => ?_)
  refine z_if_ne hC (pc := 4) (tgt := 9) dX8_number_4 rfl (fun c5 => ?_) (fun c5 => ?_)
  · have hf := zif_f hf c5
    refine z_aload_n hC (pc := 9) dX8_number_9 rfl 0 rfl ?_
    obtain ⟨fs6, ha7, hf⟩ := z_rcN hf
    refine z_cI (rest := []) hf (fun v8 s9 hcall => z_runV hC (pc := 10) zcX8 0 ha7 (m_X8_next X.g l0 s4 s9 v8 hcall) (lw_V q2778 q2780 qs51 q108 q2781) hdV_X8_next ⟨(Nat.le_of_ble_eq_true rfl), (Nat.le_of_ble_eq_true rfl)⟩ rfl (Nat.le_of_ble_eq_true rfl) dX8_number_10 rfl) (fun v8 s9 hf => ?_)
    refine z_cI (rest := []) hf (fun v10 s11 hcall => z_runS hC (pc := 13) 1 (m_X8_isDigit X.g v8 s9 s11 v10 hcall) (lw_S q2806 q2807 q108 q2808) hd_X8_isDigit ⟨(Nat.le_of_ble_eq_true rfl), (Nat.le_of_ble_eq_true rfl)⟩ rfl (Nat.le_of_ble_eq_true rfl) dX8_number_13 rfl) (fun v10 s11 hf => ?_)
    refine z_if_ne hC (pc := 16) (tgt := 31) dX8_number_16 rfl (fun c12 => ?_) (fun c12 => ?_)
    · have hf := zif_f hf c12
      refine z_aload_n hC (pc := 31) dX8_number_31 rfl 0 rfl ?_
      refine z_aload_n hC (pc := 32) dX8_number_32 rfl 0 rfl ?_
      refine z_getI hC (pc := 33) in_X8 zcX8 4 (Nat.le_of_ble_eq_true rfl) (zLk.o hC q2677) zsm dX8_number_33 hf (fun v13 hf => ?_)
      refine z_putV (v := zi v13) hC (pc := 36) in_X8 tyX8 tyX8_ok nmX8 zcX8 13 (Nat.le_of_ble_eq_true rfl) (zLk.o hC q2686) zsm (Or.inl rfl) rfl rfl dX8_number_36 hf (fun s14 hf => ?_)
      refine z_iconst (v := 0) hC (pc := 39) dX8_number_39 zki_0 ?_
      refine z_istore_n (lv' := [(3, zi 0), (0, zr (some l0)), (1, zi l1), (2, zi l2)]) hC (pc := 40) hL dX8_number_40 rfl (Nat.le_of_ble_eq_true rfl) rfl ?_
      refine ZW.perm (lv' := [(0, zr (some l0)), (1, zi l1), (2, zi l2), (3, zi 0)]) [1, 2, 3, 0] rfl ?_
      exact w_X8_number_l41 hC hL hno hQ 2000 l0 l1 l2 0 s14 hf
    · have hf := zif_t hf c12
      refine z_aload_n hC (pc := 19) dX8_number_19 rfl 0 rfl ?_
      refine z_bipush (v := (-2)) hC (pc := 20) dX8_number_20 zkb_m2 ?_
      refine z_aload_n hC (pc := 22) dX8_number_22 rfl 0 rfl ?_
      refine z_getI hC (pc := 23) in_X8 zcX8 4 (Nat.le_of_ble_eq_true rfl) (zLk.o hC q2677) zsm dX8_number_23 hf (fun v15 hf => ?_)
      obtain ⟨fs16, ha17, hf⟩ := z_rcN hf
      refine z_cU (rest := []) hf (fun v18 s19 hcall => z_runV hC (pc := 26) zcX8 2 ha17 (m_X8_report X.g l0 (-2) v15 s11 s19 v18 hcall) (lw_V q2798 q2800 qs53 q108 q2801) hdV_X8_report ⟨(Nat.le_of_ble_eq_true rfl), (Nat.le_of_ble_eq_true rfl)⟩ rfl (Nat.le_of_ble_eq_true rfl) dX8_number_26 rfl) (fun _ s19 hf => ?_)
      refine z_iconst (v := 0) hC (pc := 29) dX8_number_29 zki_0 ?_
      exact z_ireturn hC (pc := 30) hQ dX8_number_30 hf
  · have hf := zif_t hf c5
    refine z_iconst (v := 0) hC (pc := 7) dX8_number_7 zki_0 ?_
    exact z_ireturn hC (pc := 8) hQ dX8_number_8 hf
/-! BlockingShopModel.takeWord(Ljava/lang/String;)Z -/
def f_X8_takeWord_b48 (G : Nat → Nat) (l0 : Nat) (l1 : Option Nat) (l2 : Int32) (s0 : zS) : Option (Int32 × zS) :=
zo (zrc s0 l1 17) fun a3 =>
zb (f_J12_length G a3 s0) fun v4 s5 =>
if l2 < v4 then (zrn .boolean 0 s5)
else (zo (zgI s5 (some l0) 6 4) fun v7 =>
zo (zrc s5 (some l0) 6) fun _ =>
zb (f_X8_byteAt G l0 (v7 + l2) s5) fun v10 s11 =>
zb (f_X8_in G v10 97 122 s11) fun v12 s13 =>
if v12 = 0 then (zo (zgI s13 (some l0) 6 4) fun v15 =>
zo (zput G s13 (some l0) 6 4 (.int (v15 + l2))) fun s16 =>
zrn .boolean 1 s16)
else (zrn .boolean 0 s13))
set_option maxHeartbeats 4000000 in
theorem w_X8_takeWord_b48 {X : zX} (hC : ZC X RX8 cX8_takeWord (some .boolean) 5 85) (hL : X.nL = 3) (hno : ∀ x ∈ X.c.exceptionTable.toList, False) {r : Int32} {sF : zS} (hQ : ZQ X (.inl (some (zi r)), sF)) (l0 : Nat) (l1 : Option Nat) (l2 : Int32) (s0 : zS) (hf : f_X8_takeWord_b48 X.g.1 l0 l1 l2 s0 = some (r, sF)) : ZW X s0 48 [(0, zr (some l0)), (1, zr l1), (2, zi l2)] [] := by
  unfold f_X8_takeWord_b48 at hf
  refine z_iload_n hC (pc := 48) dX8_takeWord_48 rfl 2 rfl ?_
  refine z_aload_n hC (pc := 49) dX8_takeWord_49 rfl 1 rfl ?_
  obtain ⟨a3, fs1, rfl, ha2, hf⟩ := z_rcO hf
  refine z_cI (rest := [zi l2]) hf (fun v4 s5 hcall => z_runV hC (pc := 50) zcJ12 0 ha2 (m_J12_length X.g a3 s0 s5 v4 hcall) (lw_V q2786 q658 q659 q116 q660) hdV_J12_length ⟨(Nat.le_of_ble_eq_true rfl), (Nat.le_of_ble_eq_true rfl)⟩ rfl (Nat.le_of_ble_eq_true rfl) dX8_takeWord_50 rfl) (fun v4 s5 hf => ?_)
  refine z_icmp_lt hC (pc := 53) (tgt := 76) dX8_takeWord_53 rfl (fun c6 => ?_) (fun c6 => ?_)
  · have hf := zif_t hf c6
    refine z_iconst (v := 0) hC (pc := 76) dX8_takeWord_76 zki_0 ?_
    exact z_zreturn hC (pc := 77) hQ dX8_takeWord_77 hf
  · have hf := zif_f hf c6
    refine z_aload_n hC (pc := 56) dX8_takeWord_56 rfl 0 rfl ?_
    refine z_aload_n hC (pc := 57) dX8_takeWord_57 rfl 0 rfl ?_
    refine z_getI hC (pc := 58) in_X8 zcX8 4 (Nat.le_of_ble_eq_true rfl) (zLk.o hC q2677) zsm dX8_takeWord_58 hf (fun v7 hf => ?_)
    refine z_iload_n hC (pc := 61) dX8_takeWord_61 rfl 2 rfl ?_
    refine z_iadd hC (pc := 62) dX8_takeWord_62 ?_
    obtain ⟨fs8, ha9, hf⟩ := z_rcN hf
    refine z_cI (rest := []) hf (fun v10 s11 hcall => z_runV hC (pc := 63) zcX8 1 ha9 (m_X8_byteAt X.g l0 (v7 + l2) s5 s11 v10 hcall) (lw_V q2782 q2784 qs52 q108 q2785) hdV_X8_byteAt ⟨(Nat.le_of_ble_eq_true rfl), (Nat.le_of_ble_eq_true rfl)⟩ rfl (Nat.le_of_ble_eq_true rfl) dX8_takeWord_63 rfl) (fun v10 s11 hf => ?_)
    refine z_bipush (v := 97) hC (pc := 66) dX8_takeWord_66 zkb_97 ?_
    refine z_bipush (v := 122) hC (pc := 68) dX8_takeWord_68 zkb_122 ?_
    refine z_cI (rest := []) hf (fun v12 s13 hcall => z_runS hC (pc := 70) 3 (m_X8_in X.g v10 97 122 s11 s13 v12 hcall) (lw_S q2762 q2763 q108 q2764) hd_X8_in ⟨(Nat.le_of_ble_eq_true rfl), (Nat.le_of_ble_eq_true rfl)⟩ rfl (Nat.le_of_ble_eq_true rfl) dX8_takeWord_70 rfl) (fun v12 s13 hf => ?_)
    refine z_if_eq hC (pc := 73) (tgt := 78) dX8_takeWord_73 rfl (fun c14 => ?_) (fun c14 => ?_)
    · have hf := zif_t hf c14
      refine z_aload_n hC (pc := 78) dX8_takeWord_78 rfl 0 rfl ?_
      refine z_dup hC (pc := 79) dX8_takeWord_79 rfl ?_
      refine z_getI hC (pc := 80) in_X8 zcX8 4 (Nat.le_of_ble_eq_true rfl) (zLk.o hC q2677) zsm dX8_takeWord_80 hf (fun v15 hf => ?_)
      refine z_iload_n hC (pc := 83) dX8_takeWord_83 rfl 2 rfl ?_
      refine z_iadd hC (pc := 84) dX8_takeWord_84 ?_
      refine z_putV (v := zi (v15 + l2)) hC (pc := 85) in_X8 tyX8 tyX8_ok nmX8 zcX8 4 (Nat.le_of_ble_eq_true rfl) (zLk.o hC q2677) zsm (Or.inl rfl) rfl rfl dX8_takeWord_85 hf (fun s16 hf => ?_)
      refine z_iconst (v := 1) hC (pc := 88) dX8_takeWord_88 zki_1 ?_
      exact z_zreturn hC (pc := 89) hQ dX8_takeWord_89 hf
    · have hf := zif_f hf c14
      refine z_iconst (v := 0) hC (pc := 76) dX8_takeWord_76 zki_0 ?_
      exact z_zreturn hC (pc := 77) hQ dX8_takeWord_77 hf
def f_X8_takeWord_b16 (G : Nat → Nat) (k16 : Nat → Option Nat → Int32 → zS → Option (Int32 × zS)) (l0 : Nat) (l1 : Option Nat) (l2 : Int32) (s0 : zS) : Option (Int32 × zS) :=
zo (zrc s0 l1 17) fun a3 =>
zb (f_J12_length G a3 s0) fun v4 s5 =>
if v4 ≤ l2 then (f_X8_takeWord_b48 G l0 (some a3) l2 s5)
else (zo (zgI s5 (some l0) 6 4) fun v7 =>
zo (zrc s5 (some l0) 6) fun _ =>
zb (f_X8_byteAt G l0 (v7 + l2) s5) fun v10 s11 =>
zo (zrc s11 (some a3) 17) fun _ =>
zb (f_J12_charAt G a3 l2 s11) fun v14 s15 =>
if v10 = v14 then (k16 l0 (some a3) (l2 + 1) s15)
else (f_X8_takeWord_b48 G l0 (some a3) l2 s15))
set_option maxHeartbeats 4000000 in
theorem w_X8_takeWord_b16 {X : zX} (hC : ZC X RX8 cX8_takeWord (some .boolean) 5 85) (hL : X.nL = 3) (hno : ∀ x ∈ X.c.exceptionTable.toList, False) {r : Int32} {sF : zS} (hQ : ZQ X (.inl (some (zi r)), sF)) (k16 : Nat → Option Nat → Int32 → zS → Option (Int32 × zS)) (hk16 : ∀ (l0 : Nat) (l1 : Option Nat) (l2 : Int32) (s0 : zS), k16 l0 l1 l2 s0 = some (r, sF) → ZW X s0 16 [(0, zr (some l0)), (1, zr l1), (2, zi l2)] []) (l0 : Nat) (l1 : Option Nat) (l2 : Int32) (s0 : zS) (hf : f_X8_takeWord_b16 X.g.1 k16 l0 l1 l2 s0 = some (r, sF)) : ZW X s0 16 [(0, zr (some l0)), (1, zr l1), (2, zi l2)] [] := by
  unfold f_X8_takeWord_b16 at hf
  refine z_iload_n hC (pc := 16) dX8_takeWord_16 rfl 2 rfl ?_
  refine z_aload_n hC (pc := 17) dX8_takeWord_17 rfl 1 rfl ?_
  obtain ⟨a3, fs1, rfl, ha2, hf⟩ := z_rcO hf
  refine z_cI (rest := [zi l2]) hf (fun v4 s5 hcall => z_runV hC (pc := 18) zcJ12 0 ha2 (m_J12_length X.g a3 s0 s5 v4 hcall) (lw_V q2786 q658 q659 q116 q660) hdV_J12_length ⟨(Nat.le_of_ble_eq_true rfl), (Nat.le_of_ble_eq_true rfl)⟩ rfl (Nat.le_of_ble_eq_true rfl) dX8_takeWord_18 rfl) (fun v4 s5 hf => ?_)
  refine z_icmp_ge hC (pc := 21) (tgt := 48) dX8_takeWord_21 rfl (fun c6 => ?_) (fun c6 => ?_)
  · have hf := zif_t hf c6
    exact w_X8_takeWord_b48 hC hL hno hQ l0 (some a3) l2 s5 hf
  · have hf := zif_f hf c6
    refine z_aload_n hC (pc := 24) dX8_takeWord_24 rfl 0 rfl ?_
    refine z_aload_n hC (pc := 25) dX8_takeWord_25 rfl 0 rfl ?_
    refine z_getI hC (pc := 26) in_X8 zcX8 4 (Nat.le_of_ble_eq_true rfl) (zLk.o hC q2677) zsm dX8_takeWord_26 hf (fun v7 hf => ?_)
    refine z_iload_n hC (pc := 29) dX8_takeWord_29 rfl 2 rfl ?_
    refine z_iadd hC (pc := 30) dX8_takeWord_30 ?_
    obtain ⟨fs8, ha9, hf⟩ := z_rcN hf
    refine z_cI (rest := []) hf (fun v10 s11 hcall => z_runV hC (pc := 31) zcX8 1 ha9 (m_X8_byteAt X.g l0 (v7 + l2) s5 s11 v10 hcall) (lw_V q2782 q2784 qs52 q108 q2785) hdV_X8_byteAt ⟨(Nat.le_of_ble_eq_true rfl), (Nat.le_of_ble_eq_true rfl)⟩ rfl (Nat.le_of_ble_eq_true rfl) dX8_takeWord_31 rfl) (fun v10 s11 hf => ?_)
    refine z_aload_n hC (pc := 34) dX8_takeWord_34 rfl 1 rfl ?_
    refine z_iload_n hC (pc := 35) dX8_takeWord_35 rfl 2 rfl ?_
    obtain ⟨fs12, ha13, hf⟩ := z_rcN hf
    refine z_cI (rest := [zi v10]) hf (fun v14 s15 hcall => z_runV hC (pc := 36) zcJ12 1 ha13 (m_J12_charAt X.g a3 l2 s11 s15 v14 hcall) (lw_V q2787 q2788 q2789 q116 q2790) hdV_J12_charAt ⟨(Nat.le_of_ble_eq_true rfl), (Nat.le_of_ble_eq_true rfl)⟩ rfl (Nat.le_of_ble_eq_true rfl) dX8_takeWord_36 rfl) (fun v14 s15 hf => ?_)
    refine z_icmp_ne hC (pc := 39) (tgt := 48) dX8_takeWord_39 rfl (fun c16 => ?_) (fun c16 => ?_)
    · have hf := zif_f hf c16
      exact w_X8_takeWord_b48 hC hL hno hQ l0 (some a3) l2 s15 hf
    · have hf := zif_t hf c16
      refine z_iinc (v := 1) (lv' := [(2, zi (l2 + 1)), (0, zr (some l0)), (1, zr (some a3))]) hC (pc := 42) hL dX8_takeWord_42 2 rfl zki_1 (Nat.le_of_ble_eq_true rfl) rfl ?_
      refine z_goto hC (pc := 45) (tgt := 16) dX8_takeWord_45 rfl ?_
      refine ZW.perm (lv' := [(0, zr (some l0)), (1, zr (some a3)), (2, zi (l2 + 1))]) [1, 2, 0] rfl ?_
      exact hk16 l0 (some a3) (l2 + 1) s15 hf
def f_X8_takeWord_l16 (G : Nat → Nat) : Nat → Nat → Option Nat → Int32 → zS → Option (Int32 × zS)
  | 0 => fun _ _ _ _ => none
  | n + 1 => f_X8_takeWord_b16 G (f_X8_takeWord_l16 G n)
theorem w_X8_takeWord_l16 {X : zX} (hC : ZC X RX8 cX8_takeWord (some .boolean) 5 85) (hL : X.nL = 3) (hno : ∀ x ∈ X.c.exceptionTable.toList, False) {r : Int32} {sF : zS} (hQ : ZQ X (.inl (some (zi r)), sF)) : ∀ (n : Nat) (l0 : Nat) (l1 : Option Nat) (l2 : Int32) (s0 : zS) (_ : f_X8_takeWord_l16 X.g.1 n l0 l1 l2 s0 = some (r, sF)), ZW X s0 16 [(0, zr (some l0)), (1, zr l1), (2, zi l2)] [] := by
  intro n
  induction n with
  | zero => intro l0 l1 l2 s0 hf; exact absurd (show (none : Option (Int32 × zS)) = some (r, sF) from hf) (fun z => nomatch z)
  | succ n ih => intro l0 l1 l2 s0 hf; exact w_X8_takeWord_b16 hC hL hno hQ (f_X8_takeWord_l16 X.g.1 n) ih l0 l1 l2 s0 hf
def f_X8_takeWord (G : Nat → Nat) (l0 : Nat) (l1 : Option Nat) (s0 : zS) : Option (Int32 × zS) :=
zo (zrc s0 (some l0) 6) fun _ =>
zb (f_X8_isGood G l0 s0) fun v3 s4 =>
if v3 = 0 then (zrn .boolean 0 s4)
else (zo (zrc s4 (some l0) 6) fun _ =>
zb (f_X8_next G l0 s4) fun v8 s9 =>
f_X8_takeWord_l16 G 2000 l0 l1 0 s9)
set_option maxHeartbeats 4000000 in
theorem m_X8_takeWord (Γ : zG) (l0 : Nat) (l1 : Option Nat) (s0 s1 : zS) (r : Int32) (hf : f_X8_takeWord Γ.1 l0 l1 s0 = some (r, s1)) : ZM Γ yX8_takeWord (ws_ yX8_takeWord cX8_takeWord 3 (some .boolean)) 5 85 [zr (some l0), zr l1] s0 (.inl (some (zi r)), s1) := by
  refine ZM.of (own := RX8) (by decide) rfl (Nat.le_of_ble_eq_true rfl) ?_
  intro X hg hC hL hno hQ hin
  subst hg
  unfold f_X8_takeWord at hf
  refine z_aload_n hC (pc := 0) dX8_takeWord_0 rfl 0 rfl ?_
  obtain ⟨fs1, ha2, hf⟩ := z_rcN hf
  refine z_cI (rest := []) hf (fun v3 s4 hcall => z_runV hC (pc := 1) zcX8 0 ha2 (m_X8_isGood X.g l0 s0 s4 v3 hcall) (lw_V q2774 q2776 qs50 q108 q2777) hdV_X8_isGood ⟨(Nat.le_of_ble_eq_true rfl), (Nat.le_of_ble_eq_true rfl)⟩ rfl (Nat.le_of_ble_eq_true rfl) dX8_takeWord_1 rfl) (fun v3 s4 hf => ?_)
  refine z_if_ne hC (pc := 4) (tgt := 9) dX8_takeWord_4 rfl (fun c5 => ?_) (fun c5 => ?_)
  · have hf := zif_f hf c5
    refine z_aload_n hC (pc := 9) dX8_takeWord_9 rfl 0 rfl ?_
    obtain ⟨fs6, ha7, hf⟩ := z_rcN hf
    refine z_cI (rest := []) hf (fun v8 s9 hcall => z_runV hC (pc := 10) zcX8 0 ha7 (m_X8_next X.g l0 s4 s9 v8 hcall) (lw_V q2778 q2780 qs51 q108 q2781) hdV_X8_next ⟨(Nat.le_of_ble_eq_true rfl), (Nat.le_of_ble_eq_true rfl)⟩ rfl (Nat.le_of_ble_eq_true rfl) dX8_takeWord_10 rfl) (fun v8 s9 hf => ?_)
    refine z_pop hC (pc := 13) dX8_takeWord_13 rfl ?_
    refine z_iconst (v := 0) hC (pc := 14) dX8_takeWord_14 zki_0 ?_
    refine z_istore_n (lv' := [(2, zi 0), (0, zr (some l0)), (1, zr l1)]) hC (pc := 15) hL dX8_takeWord_15 rfl (Nat.le_of_ble_eq_true rfl) rfl ?_
    refine ZW.perm (lv' := [(0, zr (some l0)), (1, zr l1), (2, zi 0)]) [1, 2, 0] rfl ?_
    exact w_X8_takeWord_l16 hC hL hno hQ 2000 l0 l1 0 s9 hf
  · have hf := zif_t hf c5
    refine z_iconst (v := 0) hC (pc := 7) dX8_takeWord_7 zki_0 ?_
    exact z_zreturn hC (pc := 8) hQ dX8_takeWord_8 hf
/-! BlockingShopModel.factor()V -/
def f_X8_factor_b37 (G : Nat → Nat) (kS : Nat → zS → Option (Unit × zS)) (l0 : Nat) (s0 : zS) : Option (Unit × zS) :=
zo (zgI s0 (some l0) 6 4) fun v1 =>
zo (zput G s0 (some l0) 6 4 (.int (v1 + 1))) fun s2 =>
zo (zgI s2 (some l0) 6 14) fun v3 =>
zo (zput G s2 (some l0) 6 14 (.int (v3 + 1))) fun s4 =>
zo (zrc s4 (some l0) 6) fun _ =>
zb (kS l0 s4) fun _ s8 =>
zo (zrc s8 (some l0) 6) fun _ =>
zb (f_X8_expect G l0 41 s8) fun _ s12 =>
zo (zgI s12 (some l0) 6 14) fun v13 =>
zo (zput G s12 (some l0) 6 14 (.int (v13 - 1))) fun s14 =>
some ((), s14)
set_option maxHeartbeats 4000000 in
theorem w_X8_factor_b37 {X : zX} (kS : Nat → zS → Option (Unit × zS)) (frK loK : Nat) (hkS : ∀ (l0 : Nat) (s0 s1 : zS) (v : Unit), kS l0 s0 = some (v, s1) → ZM X.g yX8_sum (ws_ yX8_sum cX8_sum 2 none) frK loK [zr (some l0)] s0 (.inl none, s1)) (hC : ZC X RX8 cX8_factor none (frK + 6) (loK + 107)) (hL : X.nL = 4) (hno : ∀ x ∈ X.c.exceptionTable.toList, False) {r : Unit} {sF : zS} (hQ : ZQ X (.inl none, sF)) (l0 : Nat) (s0 : zS) (hf : f_X8_factor_b37 X.g.1 kS l0 s0 = some (r, sF)) : ZW X s0 37 [(0, zr (some l0))] [] := by
  unfold f_X8_factor_b37 at hf
  refine z_aload_n hC (pc := 37) dX8_factor_37 rfl 0 rfl ?_
  refine z_dup hC (pc := 38) dX8_factor_38 rfl ?_
  refine z_getI hC (pc := 39) in_X8 zcX8 4 (Nat.le_of_ble_eq_true rfl) (zLk.o hC q2677) zsm dX8_factor_39 hf (fun v1 hf => ?_)
  refine z_iconst (v := 1) hC (pc := 42) dX8_factor_42 zki_1 ?_
  refine z_iadd hC (pc := 43) dX8_factor_43 ?_
  refine z_putV (v := zi (v1 + 1)) hC (pc := 44) in_X8 tyX8 tyX8_ok nmX8 zcX8 4 (Nat.le_of_ble_eq_true rfl) (zLk.o hC q2677) zsm (Or.inl rfl) rfl rfl dX8_factor_44 hf (fun s2 hf => ?_)
  refine z_aload_n hC (pc := 47) dX8_factor_47 rfl 0 rfl ?_
  refine z_dup hC (pc := 48) dX8_factor_48 rfl ?_
  refine z_getI hC (pc := 49) in_X8 zcX8 14 (Nat.le_of_ble_eq_true rfl) (zLk.o hC q2687) zsm dX8_factor_49 hf (fun v3 hf => ?_)
  refine z_iconst (v := 1) hC (pc := 52) dX8_factor_52 zki_1 ?_
  refine z_iadd hC (pc := 53) dX8_factor_53 ?_
  refine z_putV (v := zi (v3 + 1)) hC (pc := 54) in_X8 tyX8 tyX8_ok nmX8 zcX8 14 (Nat.le_of_ble_eq_true rfl) (zLk.o hC q2687) zsm (Or.inl rfl) rfl rfl dX8_factor_54 hf (fun s4 hf => ?_)
  refine z_aload_n hC (pc := 57) dX8_factor_57 rfl 0 rfl ?_
  obtain ⟨fs5, ha6, hf⟩ := z_rcN hf
  refine z_cU (rest := []) hf (fun v7 s8 hcall => z_runV hC (pc := 58) zcX8 0 ha6 (hkS l0 s4 s8 v7 hcall) (lw_V q2850 q2852 qs61 q108 q2853) hdV_X8_sum ⟨(by omega), (by omega)⟩ rfl (Nat.le_of_ble_eq_true rfl) dX8_factor_58 rfl) (fun _ s8 hf => ?_)
  refine z_aload_n hC (pc := 61) dX8_factor_61 rfl 0 rfl ?_
  refine z_bipush (v := 41) hC (pc := 62) dX8_factor_62 zkb_41 ?_
  obtain ⟨fs9, ha10, hf⟩ := z_rcN hf
  refine z_cU (rest := []) hf (fun v11 s12 hcall => z_runV hC (pc := 64) zcX8 1 ha10 (m_X8_expect X.g l0 41 s8 s12 v11 hcall) (lw_V q2813 q2815 qs55 q108 q2816) hdV_X8_expect ⟨(by omega), (by omega)⟩ rfl (Nat.le_of_ble_eq_true rfl) dX8_factor_64 rfl) (fun _ s12 hf => ?_)
  refine z_aload_n hC (pc := 67) dX8_factor_67 rfl 0 rfl ?_
  refine z_dup hC (pc := 68) dX8_factor_68 rfl ?_
  refine z_getI hC (pc := 69) in_X8 zcX8 14 (Nat.le_of_ble_eq_true rfl) (zLk.o hC q2687) zsm dX8_factor_69 hf (fun v13 hf => ?_)
  refine z_iconst (v := 1) hC (pc := 72) dX8_factor_72 zki_1 ?_
  refine z_isub hC (pc := 73) dX8_factor_73 ?_
  refine z_putV (v := zi (v13 - 1)) hC (pc := 74) in_X8 tyX8 tyX8_ok nmX8 zcX8 14 (Nat.le_of_ble_eq_true rfl) (zLk.o hC q2687) zsm (Or.inl rfl) rfl rfl dX8_factor_74 hf (fun s14 hf => ?_)
  exact z_return hC (pc := 77) hQ dX8_factor_77 hf
def f_X8_factor_b170 (G : Nat → Nat) (kS : Nat → zS → Option (Unit × zS)) (l0 : Nat) (l3 : Int32) (t0 : Int32) (t1 : Option Nat) (s0 : zS) : Option (Unit × zS) :=
zo (zrc s0 t1 6) fun a3 =>
zb (f_X8_emit G a3 t0 s0) fun _ s5 =>
zo (zrc s5 (some l0) 6) fun _ =>
zb (f_X8_emit G l0 l3 s5) fun _ s9 =>
some ((), s9)
set_option maxHeartbeats 4000000 in
theorem w_X8_factor_b170 {X : zX} (kS : Nat → zS → Option (Unit × zS)) (frK loK : Nat) (hkS : ∀ (l0 : Nat) (s0 s1 : zS) (v : Unit), kS l0 s0 = some (v, s1) → ZM X.g yX8_sum (ws_ yX8_sum cX8_sum 2 none) frK loK [zr (some l0)] s0 (.inl none, s1)) (hC : ZC X RX8 cX8_factor none (frK + 6) (loK + 107)) (hL : X.nL = 4) (hno : ∀ x ∈ X.c.exceptionTable.toList, False) {r : Unit} {sF : zS} (hQ : ZQ X (.inl none, sF)) (l0 : Nat) (l3 : Int32) (t0 : Int32) (t1 : Option Nat) (s0 : zS) (hf : f_X8_factor_b170 X.g.1 kS l0 l3 t0 t1 s0 = some (r, sF)) : ZW X s0 170 [(0, zr (some l0)), (3, zi l3)] [zi t0, zr t1] := by
  unfold f_X8_factor_b170 at hf
  obtain ⟨a3, fs1, rfl, ha2, hf⟩ := z_rcO hf
  refine z_cU (rest := []) hf (fun v4 s5 hcall => z_runV hC (pc := 170) zcX8 1 ha2 (m_X8_emit X.g a3 t0 s0 s5 v4 hcall) (lw_V q2866 q2868 qs64 q108 q2869) hdV_X8_emit ⟨(by omega), (by omega)⟩ rfl (Nat.le_of_ble_eq_true rfl) dX8_factor_170 rfl) (fun _ s5 hf => ?_)
  refine z_aload_n hC (pc := 173) dX8_factor_173 rfl 0 rfl ?_
  refine z_iload_n hC (pc := 174) dX8_factor_174 rfl 1 rfl ?_
  obtain ⟨fs6, ha7, hf⟩ := z_rcN hf
  refine z_cU (rest := []) hf (fun v8 s9 hcall => z_runV hC (pc := 175) zcX8 1 ha7 (m_X8_emit X.g l0 l3 s5 s9 v8 hcall) (lw_V q2866 q2868 qs64 q108 q2869) hdV_X8_emit ⟨(by omega), (by omega)⟩ rfl (Nat.le_of_ble_eq_true rfl) dX8_factor_175 rfl) (fun _ s9 hf => ?_)
  exact z_return hC (pc := 178) hQ dX8_factor_178 hf
def f_X8_factor_b159 (G : Nat → Nat) (kS : Nat → zS → Option (Unit × zS)) (l0 : Nat) (l2 : Int32) (t0 : Int32) (s0 : zS) : Option (Unit × zS) :=
if 0 ≤ l2 then (f_X8_factor_b170 G kS l0 t0 1 (some l0) s0)
else (f_X8_factor_b170 G kS l0 t0 0 (some l0) s0)
set_option maxHeartbeats 4000000 in
theorem w_X8_factor_b159 {X : zX} (kS : Nat → zS → Option (Unit × zS)) (frK loK : Nat) (hkS : ∀ (l0 : Nat) (s0 s1 : zS) (v : Unit), kS l0 s0 = some (v, s1) → ZM X.g yX8_sum (ws_ yX8_sum cX8_sum 2 none) frK loK [zr (some l0)] s0 (.inl none, s1)) (hC : ZC X RX8 cX8_factor none (frK + 6) (loK + 107)) (hL : X.nL = 4) (hno : ∀ x ∈ X.c.exceptionTable.toList, False) {r : Unit} {sF : zS} (hQ : ZQ X (.inl none, sF)) (l0 : Nat) (l2 : Int32) (t0 : Int32) (s0 : zS) (hf : f_X8_factor_b159 X.g.1 kS l0 l2 t0 s0 = some (r, sF)) : ZW X s0 159 [(0, zr (some l0)), (2, zi l2)] [zi t0] := by
  unfold f_X8_factor_b159 at hf
  refine z_istore_n (lv' := [(3, zi t0), (0, zr (some l0)), (2, zi l2)]) hC (pc := 159) hL dX8_factor_159 rfl (Nat.le_of_ble_eq_true rfl) rfl ?_
  refine z_aload_n hC (pc := 160) dX8_factor_160 rfl 1 rfl ?_
  refine z_iload_n hC (pc := 161) dX8_factor_161 rfl 2 rfl ?_
  refine z_if_ge hC (pc := 162) (tgt := 169) dX8_factor_162 rfl (fun c1 => ?_) (fun c1 => ?_)
  · have hf := zif_t hf c1
    refine z_iconst (v := 1) hC (pc := 169) dX8_factor_169 zki_1 ?_
    refine ZW.perm (lv' := [(0, zr (some l0)), (3, zi t0)]) [1, 0] rfl ?_
    exact w_X8_factor_b170 kS frK loK hkS hC hL hno hQ l0 t0 1 (some l0) s0 hf
  · have hf := zif_f hf c1
    refine z_iconst (v := 0) hC (pc := 165) dX8_factor_165 zki_0 ?_
    refine z_goto hC (pc := 166) (tgt := 170) dX8_factor_166 rfl ?_
    refine ZW.perm (lv' := [(0, zr (some l0)), (3, zi t0)]) [1, 0] rfl ?_
    exact w_X8_factor_b170 kS frK loK hkS hC hL hno hQ l0 t0 0 (some l0) s0 hf
def f_X8_factor_b142 (G : Nat → Nat) (kS : Nat → zS → Option (Unit × zS)) (l0 : Nat) (t0 : Int32) (s0 : zS) : Option (Unit × zS) :=
if 0 ≤ t0 then (f_X8_factor_b159 G kS l0 t0 t0 s0)
else (zo (zrc s0 (some l0) 6) fun _ =>
zb (f_X8_number G l0 0 9999 s0) fun v4 s5 =>
f_X8_factor_b159 G kS l0 t0 v4 s5)
set_option maxHeartbeats 4000000 in
theorem w_X8_factor_b142 {X : zX} (kS : Nat → zS → Option (Unit × zS)) (frK loK : Nat) (hkS : ∀ (l0 : Nat) (s0 s1 : zS) (v : Unit), kS l0 s0 = some (v, s1) → ZM X.g yX8_sum (ws_ yX8_sum cX8_sum 2 none) frK loK [zr (some l0)] s0 (.inl none, s1)) (hC : ZC X RX8 cX8_factor none (frK + 6) (loK + 107)) (hL : X.nL = 4) (hno : ∀ x ∈ X.c.exceptionTable.toList, False) {r : Unit} {sF : zS} (hQ : ZQ X (.inl none, sF)) (l0 : Nat) (t0 : Int32) (s0 : zS) (hf : f_X8_factor_b142 X.g.1 kS l0 t0 s0 = some (r, sF)) : ZW X s0 142 [(0, zr (some l0))] [zi t0] := by
  unfold f_X8_factor_b142 at hf
  refine z_istore_n (lv' := [(2, zi t0), (0, zr (some l0))]) hC (pc := 142) hL dX8_factor_142 rfl (Nat.le_of_ble_eq_true rfl) rfl ?_
  refine z_iload_n hC (pc := 143) dX8_factor_143 rfl 0 rfl ?_
  refine z_if_ge hC (pc := 144) (tgt := 158) dX8_factor_144 rfl (fun c1 => ?_) (fun c1 => ?_)
  · have hf := zif_t hf c1
    refine z_iload_n hC (pc := 158) dX8_factor_158 rfl 0 rfl ?_
    refine ZW.perm (lv' := [(0, zr (some l0)), (2, zi t0)]) [1, 0] rfl ?_
    exact w_X8_factor_b159 kS frK loK hkS hC hL hno hQ l0 t0 t0 s0 hf
  · have hf := zif_f hf c1
    refine z_aload_n hC (pc := 147) dX8_factor_147 rfl 1 rfl ?_
    refine z_iconst (v := 0) hC (pc := 148) dX8_factor_148 zki_0 ?_
    refine z_sipush (v := 9999) hC (pc := 149) dX8_factor_149 zks_9999 ?_
    obtain ⟨fs2, ha3, hf⟩ := z_rcN hf
    refine z_cI (rest := []) hf (fun v4 s5 hcall => z_runV hC (pc := 152) zcX8 2 ha3 (m_X8_number X.g l0 0 9999 s0 s5 v4 hcall) (lw_V q2802 q2804 qs54 q108 q2805) hdV_X8_number ⟨(by omega), (by omega)⟩ rfl (Nat.le_of_ble_eq_true rfl) dX8_factor_152 rfl) (fun v4 s5 hf => ?_)
    refine z_goto hC (pc := 155) (tgt := 159) dX8_factor_155 rfl ?_
    refine ZW.perm (lv' := [(0, zr (some l0)), (2, zi t0)]) [1, 0] rfl ?_
    exact w_X8_factor_b159 kS frK loK hkS hC hL hno hQ l0 t0 v4 s5 hf
def f_X8_factor (G : Nat → Nat) (kS : Nat → zS → Option (Unit × zS)) (l0 : Nat) (s0 : zS) : Option (Unit × zS) :=
zo (zrc s0 (some l0) 6) fun _ =>
zb (f_X8_isGood G l0 s0) fun v3 s4 =>
if v3 = 0 then (some ((), s4))
else (zo (zrc s4 (some l0) 6) fun _ =>
zb (f_X8_next G l0 s4) fun v8 s9 =>
if v8 = 40 then (zo (zgI s9 (some l0) 6 14) fun v34 =>
if v34 = 4 then (zo (zgI s9 (some l0) 6 4) fun v36 =>
zo (zrc s9 (some l0) 6) fun _ =>
zb (f_X8_report G l0 (-5) v36 s9) fun _ s40 =>
f_X8_factor_b37 G kS l0 s40)
else (f_X8_factor_b37 G kS l0 s9))
else (zb (f_X8_isDigit G v8 s9) fun v11 s12 =>
if v11 = 0 then (zo (zrc s12 (some l0) 6) fun _ =>
zb (f_X8_takeWord G l0 (some (G 15)) s12) fun v16 s17 =>
if v16 = 0 then (zo (zrc s17 (some l0) 6) fun _ =>
zb (f_X8_takeWord G l0 (some (G 16)) s17) fun v21 s22 =>
if v21 = 0 then (zo (zrc s22 (some l0) 6) fun _ =>
zb (f_X8_takeWord G l0 (some (G 17)) s22) fun v26 s27 =>
if v26 = 0 then (zo (zrc s27 (some l0) 6) fun _ =>
zb (f_X8_takeWord G l0 (some (G 18)) s27) fun v31 s32 =>
if v31 = 0 then (f_X8_factor_b142 G kS l0 (-1) s32)
else (f_X8_factor_b142 G kS l0 3 s32))
else (f_X8_factor_b142 G kS l0 2 s27))
else (f_X8_factor_b142 G kS l0 1 s22))
else (f_X8_factor_b142 G kS l0 0 s17))
else (f_X8_factor_b142 G kS l0 (-1) s12)))
set_option maxHeartbeats 4000000 in
theorem m_X8_factor (Γ : zG) (kS : Nat → zS → Option (Unit × zS)) (frK loK : Nat) (hkS : ∀ (l0 : Nat) (s0 s1 : zS) (v : Unit), kS l0 s0 = some (v, s1) → ZM Γ yX8_sum (ws_ yX8_sum cX8_sum 2 none) frK loK [zr (some l0)] s0 (.inl none, s1)) (l0 : Nat) (s0 s1 : zS) (r : Unit) (hf : f_X8_factor Γ.1 kS l0 s0 = some (r, s1)) : ZM Γ yX8_factor (ws_ yX8_factor cX8_factor 4 none) (frK + 6) (loK + 107) [zr (some l0)] s0 (.inl none, s1) := by
  refine ZM.of (own := RX8) (by decide) rfl (Nat.le_of_ble_eq_true rfl) ?_
  intro X hg hC hL hno hQ hin
  subst hg
  unfold f_X8_factor at hf
  refine z_aload_n hC (pc := 0) dX8_factor_0 rfl 0 rfl ?_
  obtain ⟨fs1, ha2, hf⟩ := z_rcN hf
  refine z_cI (rest := []) hf (fun v3 s4 hcall => z_runV hC (pc := 1) zcX8 0 ha2 (m_X8_isGood X.g l0 s0 s4 v3 hcall) (lw_V q2774 q2776 qs50 q108 q2777) hdV_X8_isGood ⟨(by omega), (by omega)⟩ rfl (Nat.le_of_ble_eq_true rfl) dX8_factor_1 rfl) (fun v3 s4 hf => ?_)
  refine z_if_ne hC (pc := 4) (tgt := 8) dX8_factor_4 rfl (fun c5 => ?_) (fun c5 => ?_)
  · have hf := zif_f hf c5
    refine z_aload_n hC (pc := 8) dX8_factor_8 rfl 0 rfl ?_
    obtain ⟨fs6, ha7, hf⟩ := z_rcN hf
    refine z_cI (rest := []) hf (fun v8 s9 hcall => z_runV hC (pc := 9) zcX8 0 ha7 (m_X8_next X.g l0 s4 s9 v8 hcall) (lw_V q2778 q2780 qs51 q108 q2781) hdV_X8_next ⟨(by omega), (by omega)⟩ rfl (Nat.le_of_ble_eq_true rfl) dX8_factor_9 rfl) (fun v8 s9 hf => ?_)
    refine z_istore_n (lv' := [(1, zi v8), (0, zr (some l0))]) hC (pc := 12) hL dX8_factor_12 rfl (Nat.le_of_ble_eq_true rfl) rfl ?_
    refine z_iload_n hC (pc := 13) dX8_factor_13 rfl 0 rfl ?_
    refine z_bipush (v := 40) hC (pc := 14) dX8_factor_14 zkb_40 ?_
    refine z_icmp_ne hC (pc := 16) (tgt := 78) dX8_factor_16 rfl (fun c10 => ?_) (fun c10 => ?_)
    · have hf := zif_f hf c10
      refine z_iload_n hC (pc := 78) dX8_factor_78 rfl 0 rfl ?_
      refine z_cI (rest := []) hf (fun v11 s12 hcall => z_runS hC (pc := 79) 1 (m_X8_isDigit X.g v8 s9 s12 v11 hcall) (lw_S q2806 q2807 q108 q2808) hd_X8_isDigit ⟨(by omega), (by omega)⟩ rfl (Nat.le_of_ble_eq_true rfl) dX8_factor_79 rfl) (fun v11 s12 hf => ?_)
      refine z_if_eq hC (pc := 82) (tgt := 89) dX8_factor_82 rfl (fun c13 => ?_) (fun c13 => ?_)
      · have hf := zif_t hf c13
        refine z_aload_n hC (pc := 89) dX8_factor_89 rfl 1 rfl ?_
        refine z_lit (k := 15) hC (pc := 90) (List.mem_of_getElem? (i := 9) rfl) dX8_factor_90 ?_
        obtain ⟨fs14, ha15, hf⟩ := z_rcN hf
        refine z_cI (rest := []) hf (fun v16 s17 hcall => z_runV hC (pc := 92) zcX8 1 ha15 (m_X8_takeWord X.g l0 (some (X.g.1 15)) s12 s17 v16 hcall) (lw_V q2770 q2772 qs49 q108 q2773) hdV_X8_takeWord ⟨(by omega), (by omega)⟩ rfl (Nat.le_of_ble_eq_true rfl) dX8_factor_92 rfl) (fun v16 s17 hf => ?_)
        refine z_if_eq hC (pc := 95) (tgt := 102) dX8_factor_95 rfl (fun c18 => ?_) (fun c18 => ?_)
        · have hf := zif_t hf c18
          refine z_aload_n hC (pc := 102) dX8_factor_102 rfl 1 rfl ?_
          refine z_lit (k := 16) hC (pc := 103) (List.mem_of_getElem? (i := 10) rfl) dX8_factor_103 ?_
          obtain ⟨fs19, ha20, hf⟩ := z_rcN hf
          refine z_cI (rest := []) hf (fun v21 s22 hcall => z_runV hC (pc := 105) zcX8 1 ha20 (m_X8_takeWord X.g l0 (some (X.g.1 16)) s17 s22 v21 hcall) (lw_V q2770 q2772 qs49 q108 q2773) hdV_X8_takeWord ⟨(by omega), (by omega)⟩ rfl (Nat.le_of_ble_eq_true rfl) dX8_factor_105 rfl) (fun v21 s22 hf => ?_)
          refine z_if_eq hC (pc := 108) (tgt := 115) dX8_factor_108 rfl (fun c23 => ?_) (fun c23 => ?_)
          · have hf := zif_t hf c23
            refine z_aload_n hC (pc := 115) dX8_factor_115 rfl 1 rfl ?_
            refine z_lit (k := 17) hC (pc := 116) (List.mem_of_getElem? (i := 11) rfl) dX8_factor_116 ?_
            obtain ⟨fs24, ha25, hf⟩ := z_rcN hf
            refine z_cI (rest := []) hf (fun v26 s27 hcall => z_runV hC (pc := 118) zcX8 1 ha25 (m_X8_takeWord X.g l0 (some (X.g.1 17)) s22 s27 v26 hcall) (lw_V q2770 q2772 qs49 q108 q2773) hdV_X8_takeWord ⟨(by omega), (by omega)⟩ rfl (Nat.le_of_ble_eq_true rfl) dX8_factor_118 rfl) (fun v26 s27 hf => ?_)
            refine z_if_eq hC (pc := 121) (tgt := 128) dX8_factor_121 rfl (fun c28 => ?_) (fun c28 => ?_)
            · have hf := zif_t hf c28
              refine z_aload_n hC (pc := 128) dX8_factor_128 rfl 1 rfl ?_
              refine z_lit (k := 18) hC (pc := 129) (List.mem_of_getElem? (i := 12) rfl) dX8_factor_129 ?_
              obtain ⟨fs29, ha30, hf⟩ := z_rcN hf
              refine z_cI (rest := []) hf (fun v31 s32 hcall => z_runV hC (pc := 131) zcX8 1 ha30 (m_X8_takeWord X.g l0 (some (X.g.1 18)) s27 s32 v31 hcall) (lw_V q2770 q2772 qs49 q108 q2773) hdV_X8_takeWord ⟨(by omega), (by omega)⟩ rfl (Nat.le_of_ble_eq_true rfl) dX8_factor_131 rfl) (fun v31 s32 hf => ?_)
              refine z_if_eq hC (pc := 134) (tgt := 141) dX8_factor_134 rfl (fun c33 => ?_) (fun c33 => ?_)
              · have hf := zif_t hf c33
                refine z_iconst (v := (-1)) hC (pc := 141) dX8_factor_141 zki_m1 ?_
                refine ZW.perm (lv' := [(0, zr (some l0))]) [1] rfl ?_
                exact w_X8_factor_b142 kS frK loK hkS hC hL hno hQ l0 (-1) s32 hf
              · have hf := zif_f hf c33
                refine z_iconst (v := 3) hC (pc := 137) dX8_factor_137 zki_3 ?_
                refine z_goto hC (pc := 138) (tgt := 142) dX8_factor_138 rfl ?_
                refine ZW.perm (lv' := [(0, zr (some l0))]) [1] rfl ?_
                exact w_X8_factor_b142 kS frK loK hkS hC hL hno hQ l0 3 s32 hf
            · have hf := zif_f hf c28
              refine z_iconst (v := 2) hC (pc := 124) dX8_factor_124 zki_2 ?_
              refine z_goto hC (pc := 125) (tgt := 142) dX8_factor_125 rfl ?_
              refine ZW.perm (lv' := [(0, zr (some l0))]) [1] rfl ?_
              exact w_X8_factor_b142 kS frK loK hkS hC hL hno hQ l0 2 s27 hf
          · have hf := zif_f hf c23
            refine z_iconst (v := 1) hC (pc := 111) dX8_factor_111 zki_1 ?_
            refine z_goto hC (pc := 112) (tgt := 142) dX8_factor_112 rfl ?_
            refine ZW.perm (lv' := [(0, zr (some l0))]) [1] rfl ?_
            exact w_X8_factor_b142 kS frK loK hkS hC hL hno hQ l0 1 s22 hf
        · have hf := zif_f hf c18
          refine z_iconst (v := 0) hC (pc := 98) dX8_factor_98 zki_0 ?_
          refine z_goto hC (pc := 99) (tgt := 142) dX8_factor_99 rfl ?_
          refine ZW.perm (lv' := [(0, zr (some l0))]) [1] rfl ?_
          exact w_X8_factor_b142 kS frK loK hkS hC hL hno hQ l0 0 s17 hf
      · have hf := zif_f hf c13
        refine z_iconst (v := (-1)) hC (pc := 85) dX8_factor_85 zki_m1 ?_
        refine z_goto hC (pc := 86) (tgt := 142) dX8_factor_86 rfl ?_
        refine ZW.perm (lv' := [(0, zr (some l0))]) [1] rfl ?_
        exact w_X8_factor_b142 kS frK loK hkS hC hL hno hQ l0 (-1) s12 hf
    · have hf := zif_t hf c10
      refine z_aload_n hC (pc := 19) dX8_factor_19 rfl 1 rfl ?_
      refine z_getI hC (pc := 20) in_X8 zcX8 14 (Nat.le_of_ble_eq_true rfl) (zLk.o hC q2687) zsm dX8_factor_20 hf (fun v34 hf => ?_)
      refine z_iconst (v := 4) hC (pc := 23) dX8_factor_23 zki_4 ?_
      refine z_icmp_ne hC (pc := 24) (tgt := 37) dX8_factor_24 rfl (fun c35 => ?_) (fun c35 => ?_)
      · have hf := zif_f hf c35
        refine ZW.perm (lv' := [(0, zr (some l0))]) [1] rfl ?_
        exact w_X8_factor_b37 kS frK loK hkS hC hL hno hQ l0 s9 hf
      · have hf := zif_t hf c35
        refine z_aload_n hC (pc := 27) dX8_factor_27 rfl 1 rfl ?_
        refine z_bipush (v := (-5)) hC (pc := 28) dX8_factor_28 zkb_m5 ?_
        refine z_aload_n hC (pc := 30) dX8_factor_30 rfl 1 rfl ?_
        refine z_getI hC (pc := 31) in_X8 zcX8 4 (Nat.le_of_ble_eq_true rfl) (zLk.o hC q2677) zsm dX8_factor_31 hf (fun v36 hf => ?_)
        obtain ⟨fs37, ha38, hf⟩ := z_rcN hf
        refine z_cU (rest := []) hf (fun v39 s40 hcall => z_runV hC (pc := 34) zcX8 2 ha38 (m_X8_report X.g l0 (-5) v36 s9 s40 v39 hcall) (lw_V q2798 q2800 qs53 q108 q2801) hdV_X8_report ⟨(by omega), (by omega)⟩ rfl (Nat.le_of_ble_eq_true rfl) dX8_factor_34 rfl) (fun _ s40 hf => ?_)
        refine ZW.perm (lv' := [(0, zr (some l0))]) [1] rfl ?_
        exact w_X8_factor_b37 kS frK loK hkS hC hL hno hQ l0 s40 hf
  · have hf := zif_t hf c5
    exact z_return hC (pc := 7) hQ dX8_factor_7 hf
/-! BlockingShopModel.remember()V -/
def f_X8_remember_b50 (G : Nat → Nat) (l0 : Nat) (s0 : zS) : Option (Unit × zS) :=
zo (zgR s0 (some l0) 6 8) fun v1 =>
zo (zgR s0 (some l0) 6 11) fun v2 =>
zo (zgI s0 (some l0) 6 12) fun v3 =>
zo (zaR s0 v2 v3) fun v4 =>
zb (f_X8_copy G v1 v4 s0) fun _ s6 =>
zo (zgI s6 (some l0) 6 12) fun v7 =>
zo (zput G s6 (some l0) 6 12 (.int (v7 + 1))) fun s8 =>
some ((), s8)
set_option maxHeartbeats 4000000 in
theorem w_X8_remember_b50 {X : zX} (hC : ZC X RX8 cX8_remember none 2 22) (hL : X.nL = 2) (hno : ∀ x ∈ X.c.exceptionTable.toList, False) {r : Unit} {sF : zS} (hQ : ZQ X (.inl none, sF)) (l0 : Nat) (s0 : zS) (hf : f_X8_remember_b50 X.g.1 l0 s0 = some (r, sF)) : ZW X s0 50 [(0, zr (some l0))] [] := by
  unfold f_X8_remember_b50 at hf
  refine z_aload_n hC (pc := 50) dX8_remember_50 rfl 0 rfl ?_
  refine z_getR hC (pc := 51) in_X8 zcX8 8 (Nat.le_of_ble_eq_true rfl) (zLk.o hC q2681) zsm dX8_remember_51 hf (fun v1 hf => ?_)
  refine z_aload_n hC (pc := 54) dX8_remember_54 rfl 0 rfl ?_
  refine z_getR hC (pc := 55) in_X8 zcX8 11 (Nat.le_of_ble_eq_true rfl) (zLk.o hC q2684) zsm dX8_remember_55 hf (fun v2 hf => ?_)
  refine z_aload_n hC (pc := 58) dX8_remember_58 rfl 0 rfl ?_
  refine z_getI hC (pc := 59) in_X8 zcX8 12 (Nat.le_of_ble_eq_true rfl) (zLk.o hC q2685) zsm dX8_remember_59 hf (fun v3 hf => ?_)
  refine z_aald hC (pc := 62) dX8_remember_62 hf (fun v4 hf => ?_)
  refine z_cU (rest := []) hf (fun v5 s6 hcall => z_runS hC (pc := 63) 2 (m_X8_copy X.g v1 v4 s0 s6 v5 hcall) (lw_S q2874 q2875 q108 q2876) hd_X8_copy ⟨(Nat.le_of_ble_eq_true rfl), (Nat.le_of_ble_eq_true rfl)⟩ rfl (Nat.le_of_ble_eq_true rfl) dX8_remember_63 rfl) (fun _ s6 hf => ?_)
  refine z_aload_n hC (pc := 66) dX8_remember_66 rfl 0 rfl ?_
  refine z_dup hC (pc := 67) dX8_remember_67 rfl ?_
  refine z_getI hC (pc := 68) in_X8 zcX8 12 (Nat.le_of_ble_eq_true rfl) (zLk.o hC q2685) zsm dX8_remember_68 hf (fun v7 hf => ?_)
  refine z_iconst (v := 1) hC (pc := 71) dX8_remember_71 zki_1 ?_
  refine z_iadd hC (pc := 72) dX8_remember_72 ?_
  refine z_putV (v := zi (v7 + 1)) hC (pc := 73) in_X8 tyX8 tyX8_ok nmX8 zcX8 12 (Nat.le_of_ble_eq_true rfl) (zLk.o hC q2685) zsm (Or.inl rfl) rfl rfl dX8_remember_73 hf (fun s8 hf => ?_)
  exact z_return hC (pc := 76) hQ dX8_remember_76 hf
def f_X8_remember_b11 (G : Nat → Nat) (k11 : Nat → Int32 → zS → Option (Unit × zS)) (l0 : Nat) (l1 : Int32) (s0 : zS) : Option (Unit × zS) :=
if 8 ≤ l1 then (zo (zgI s0 (some l0) 6 12) fun v2 =>
zo (zput G s0 (some l0) 6 12 (.int (v2 - 1))) fun s3 =>
f_X8_remember_b50 G l0 s3)
else (zo (zgR s0 (some l0) 6 11) fun v4 =>
zo (zaR s0 v4 l1) fun v5 =>
zo (zgR s0 (some l0) 6 11) fun v6 =>
zo (zaR s0 v6 (l1 - 1)) fun v7 =>
zb (f_X8_copy G v5 v7 s0) fun _ s9 =>
k11 l0 (l1 + 1) s9)
set_option maxHeartbeats 4000000 in
theorem w_X8_remember_b11 {X : zX} (hC : ZC X RX8 cX8_remember none 2 22) (hL : X.nL = 2) (hno : ∀ x ∈ X.c.exceptionTable.toList, False) {r : Unit} {sF : zS} (hQ : ZQ X (.inl none, sF)) (k11 : Nat → Int32 → zS → Option (Unit × zS)) (hk11 : ∀ (l0 : Nat) (l1 : Int32) (s0 : zS), k11 l0 l1 s0 = some (r, sF) → ZW X s0 11 [(0, zr (some l0)), (1, zi l1)] []) (l0 : Nat) (l1 : Int32) (s0 : zS) (hf : f_X8_remember_b11 X.g.1 k11 l0 l1 s0 = some (r, sF)) : ZW X s0 11 [(0, zr (some l0)), (1, zi l1)] [] := by
  unfold f_X8_remember_b11 at hf
  refine z_iload_n hC (pc := 11) dX8_remember_11 rfl 1 rfl ?_
  refine z_bipush (v := 8) hC (pc := 12) dX8_remember_12 zkb_8 ?_
  refine z_icmp_ge hC (pc := 14) (tgt := 40) dX8_remember_14 rfl (fun c1 => ?_) (fun c1 => ?_)
  · have hf := zif_t hf c1
    refine z_aload_n hC (pc := 40) dX8_remember_40 rfl 0 rfl ?_
    refine z_dup hC (pc := 41) dX8_remember_41 rfl ?_
    refine z_getI hC (pc := 42) in_X8 zcX8 12 (Nat.le_of_ble_eq_true rfl) (zLk.o hC q2685) zsm dX8_remember_42 hf (fun v2 hf => ?_)
    refine z_iconst (v := 1) hC (pc := 45) dX8_remember_45 zki_1 ?_
    refine z_isub hC (pc := 46) dX8_remember_46 ?_
    refine z_putV (v := zi (v2 - 1)) hC (pc := 47) in_X8 tyX8 tyX8_ok nmX8 zcX8 12 (Nat.le_of_ble_eq_true rfl) (zLk.o hC q2685) zsm (Or.inl rfl) rfl rfl dX8_remember_47 hf (fun s3 hf => ?_)
    refine ZW.perm (lv' := [(0, zr (some l0))]) [0] rfl ?_
    exact w_X8_remember_b50 hC hL hno hQ l0 s3 hf
  · have hf := zif_f hf c1
    refine z_aload_n hC (pc := 17) dX8_remember_17 rfl 0 rfl ?_
    refine z_getR hC (pc := 18) in_X8 zcX8 11 (Nat.le_of_ble_eq_true rfl) (zLk.o hC q2684) zsm dX8_remember_18 hf (fun v4 hf => ?_)
    refine z_iload_n hC (pc := 21) dX8_remember_21 rfl 1 rfl ?_
    refine z_aald hC (pc := 22) dX8_remember_22 hf (fun v5 hf => ?_)
    refine z_aload_n hC (pc := 23) dX8_remember_23 rfl 0 rfl ?_
    refine z_getR hC (pc := 24) in_X8 zcX8 11 (Nat.le_of_ble_eq_true rfl) (zLk.o hC q2684) zsm dX8_remember_24 hf (fun v6 hf => ?_)
    refine z_iload_n hC (pc := 27) dX8_remember_27 rfl 1 rfl ?_
    refine z_iconst (v := 1) hC (pc := 28) dX8_remember_28 zki_1 ?_
    refine z_isub hC (pc := 29) dX8_remember_29 ?_
    refine z_aald hC (pc := 30) dX8_remember_30 hf (fun v7 hf => ?_)
    refine z_cU (rest := []) hf (fun v8 s9 hcall => z_runS hC (pc := 31) 2 (m_X8_copy X.g v5 v7 s0 s9 v8 hcall) (lw_S q2874 q2875 q108 q2876) hd_X8_copy ⟨(Nat.le_of_ble_eq_true rfl), (Nat.le_of_ble_eq_true rfl)⟩ rfl (Nat.le_of_ble_eq_true rfl) dX8_remember_31 rfl) (fun _ s9 hf => ?_)
    refine z_iinc (v := 1) (lv' := [(1, zi (l1 + 1)), (0, zr (some l0))]) hC (pc := 34) hL dX8_remember_34 1 rfl zki_1 (Nat.le_of_ble_eq_true rfl) rfl ?_
    refine z_goto hC (pc := 37) (tgt := 11) dX8_remember_37 rfl ?_
    refine ZW.perm (lv' := [(0, zr (some l0)), (1, zi (l1 + 1))]) [1, 0] rfl ?_
    exact hk11 l0 (l1 + 1) s9 hf
def f_X8_remember_l11 (G : Nat → Nat) : Nat → Nat → Int32 → zS → Option (Unit × zS)
  | 0 => fun _ _ _ => none
  | n + 1 => f_X8_remember_b11 G (f_X8_remember_l11 G n)
theorem w_X8_remember_l11 {X : zX} (hC : ZC X RX8 cX8_remember none 2 22) (hL : X.nL = 2) (hno : ∀ x ∈ X.c.exceptionTable.toList, False) {r : Unit} {sF : zS} (hQ : ZQ X (.inl none, sF)) : ∀ (n : Nat) (l0 : Nat) (l1 : Int32) (s0 : zS) (_ : f_X8_remember_l11 X.g.1 n l0 l1 s0 = some (r, sF)), ZW X s0 11 [(0, zr (some l0)), (1, zi l1)] [] := by
  intro n
  induction n with
  | zero => intro l0 l1 s0 hf; exact absurd (show (none : Option (Unit × zS)) = some (r, sF) from hf) (fun z => nomatch z)
  | succ n ih => intro l0 l1 s0 hf; exact w_X8_remember_b11 hC hL hno hQ (f_X8_remember_l11 X.g.1 n) ih l0 l1 s0 hf
def f_X8_remember (G : Nat → Nat) (l0 : Nat) (s0 : zS) : Option (Unit × zS) :=
zo (zgI s0 (some l0) 6 12) fun v1 =>
if v1 = 8 then (f_X8_remember_l11 G 2000 l0 1 s0)
else (f_X8_remember_b50 G l0 s0)
set_option maxHeartbeats 4000000 in
theorem m_X8_remember (Γ : zG) (l0 : Nat) (s0 s1 : zS) (r : Unit) (hf : f_X8_remember Γ.1 l0 s0 = some (r, s1)) : ZM Γ yX8_remember (ws_ yX8_remember cX8_remember 2 none) 2 22 [zr (some l0)] s0 (.inl none, s1) := by
  refine ZM.of (own := RX8) (by decide) rfl (Nat.le_of_ble_eq_true rfl) ?_
  intro X hg hC hL hno hQ hin
  subst hg
  unfold f_X8_remember at hf
  refine z_aload_n hC (pc := 0) dX8_remember_0 rfl 0 rfl ?_
  refine z_getI hC (pc := 1) in_X8 zcX8 12 (Nat.le_of_ble_eq_true rfl) (zLk.o hC q2685) zsm dX8_remember_1 hf (fun v1 hf => ?_)
  refine z_bipush (v := 8) hC (pc := 4) dX8_remember_4 zkb_8 ?_
  refine z_icmp_ne hC (pc := 6) (tgt := 50) dX8_remember_6 rfl (fun c2 => ?_) (fun c2 => ?_)
  · have hf := zif_f hf c2
    exact w_X8_remember_b50 hC hL hno hQ l0 s0 hf
  · have hf := zif_t hf c2
    refine z_iconst (v := 1) hC (pc := 9) dX8_remember_9 zki_1 ?_
    refine z_istore_n (lv' := [(1, zi 1), (0, zr (some l0))]) hC (pc := 10) hL dX8_remember_10 rfl (Nat.le_of_ble_eq_true rfl) rfl ?_
    refine ZW.perm (lv' := [(0, zr (some l0)), (1, zi 1)]) [1, 0] rfl ?_
    exact w_X8_remember_l11 hC hL hno hQ 2000 l0 1 s0 hf
/-! BlockingShopModel.improve(I)I -/
def f_X8_improve_b36 (G : Nat → Nat) (k36 : Nat → Int32 → Int32 → zS → Option (Int32 × zS)) (l0 : Nat) (l1 : Int32) (l2 : Int32) (s0 : zS) : Option (Int32 × zS) :=
if l1 ≤ l2 then (some (l1, s0))
else (zo (zrc s0 (some l0) 6) fun _ =>
zb (f_X8_spanNow G l0 s0) fun v4 s5 =>
zo (zrc s5 (some l0) 6) fun _ =>
zb (f_X8_costOfPlan G l0 s5) fun v8 s9 =>
zo (zrc s9 (some l0) 6) fun _ =>
zb (f_X8_findBest G l0 s9) fun v12 s13 =>
if v12 = (-1) then (some (l2, s13))
else (zo (zgI s13 (some l0) 6 21) fun v15 =>
zo (zgI s13 (some l0) 6 22) fun v16 =>
zb (f_X8_isBetter G v15 v16 v4 v8 s13) fun v17 s18 =>
if v17 = 0 then (some (l2, s18))
else (zo (zrc s18 (some l0) 6) fun _ =>
zb (f_X8_exchange G l0 (v12 / 100) (v12 - v12 / 100 * 100) s18) fun _ s23 =>
k36 l0 l1 (l2 + 1) s23)))
set_option maxHeartbeats 4000000 in
theorem w_X8_improve_b36 {X : zX} (hC : ZC X RX8 cX8_improve (some .int) 8 155) (hL : X.nL = 6) (hno : ∀ x ∈ X.c.exceptionTable.toList, False) {r : Int32} {sF : zS} (hQ : ZQ X (.inl (some (zi r)), sF)) (k36 : Nat → Int32 → Int32 → zS → Option (Int32 × zS)) (hk36 : ∀ (l0 : Nat) (l1 : Int32) (l2 : Int32) (s0 : zS), k36 l0 l1 l2 s0 = some (r, sF) → ZW X s0 36 [(0, zr (some l0)), (1, zi l1), (2, zi l2)] []) (l0 : Nat) (l1 : Int32) (l2 : Int32) (s0 : zS) (hf : f_X8_improve_b36 X.g.1 k36 l0 l1 l2 s0 = some (r, sF)) : ZW X s0 36 [(0, zr (some l0)), (1, zi l1), (2, zi l2)] [] := by
  unfold f_X8_improve_b36 at hf
  refine z_iload_n hC (pc := 36) dX8_improve_36 rfl 2 rfl ?_
  refine z_iload_n hC (pc := 37) dX8_improve_37 rfl 1 rfl ?_
  refine z_icmp_ge hC (pc := 38) (tgt := 103) dX8_improve_38 rfl (fun c1 => ?_) (fun c1 => ?_)
  · have hf := zif_t hf c1
    refine z_iload_n hC (pc := 103) dX8_improve_103 rfl 1 rfl ?_
    exact z_ireturn hC (pc := 104) hQ dX8_improve_104 hf
  · have hf := zif_f hf c1
    refine z_aload_n hC (pc := 41) dX8_improve_41 rfl 0 rfl ?_
    obtain ⟨fs2, ha3, hf⟩ := z_rcN hf
    refine z_cI (rest := []) hf (fun v4 s5 hcall => z_runV hC (pc := 42) zcX8 0 ha3 (m_X8_spanNow X.g l0 s0 s5 v4 hcall) (lw_V q2987 q2989 qs81 q108 q2990) hdV_X8_spanNow ⟨(Nat.le_of_ble_eq_true rfl), (Nat.le_of_ble_eq_true rfl)⟩ rfl (Nat.le_of_ble_eq_true rfl) dX8_improve_42 rfl) (fun v4 s5 hf => ?_)
    refine z_istore_n (lv' := [(3, zi v4), (0, zr (some l0)), (1, zi l1), (2, zi l2)]) hC (pc := 45) hL dX8_improve_45 rfl (Nat.le_of_ble_eq_true rfl) rfl ?_
    refine z_aload_n hC (pc := 46) dX8_improve_46 rfl 1 rfl ?_
    obtain ⟨fs6, ha7, hf⟩ := z_rcN hf
    refine z_cI (rest := []) hf (fun v8 s9 hcall => z_runV hC (pc := 47) zcX8 0 ha7 (m_X8_costOfPlan X.g l0 s5 s9 v8 hcall) (lw_V q3015 q3017 qs84 q108 q3018) hdV_X8_costOfPlan ⟨(Nat.le_of_ble_eq_true rfl), (Nat.le_of_ble_eq_true rfl)⟩ rfl (Nat.le_of_ble_eq_true rfl) dX8_improve_47 rfl) (fun v8 s9 hf => ?_)
    refine z_istore (lv' := [(4, zi v8), (3, zi v4), (0, zr (some l0)), (1, zi l1), (2, zi l2)]) hC (pc := 50) hL dX8_improve_50 (Nat.le_of_ble_eq_true rfl) rfl ?_
    refine z_aload_n hC (pc := 52) dX8_improve_52 rfl 2 rfl ?_
    obtain ⟨fs10, ha11, hf⟩ := z_rcN hf
    refine z_cI (rest := []) hf (fun v12 s13 hcall => z_runV hC (pc := 53) zcX8 0 ha11 (m_X8_findBest X.g l0 s9 s13 v12 hcall) (lw_V q3079 q3081 qs92 q108 q3082) hdV_X8_findBest ⟨(Nat.le_of_ble_eq_true rfl), (Nat.le_of_ble_eq_true rfl)⟩ rfl (Nat.le_of_ble_eq_true rfl) dX8_improve_53 rfl) (fun v12 s13 hf => ?_)
    refine z_istore (lv' := [(5, zi v12), (4, zi v8), (3, zi v4), (0, zr (some l0)), (1, zi l1), (2, zi l2)]) hC (pc := 56) hL dX8_improve_56 (Nat.le_of_ble_eq_true rfl) rfl ?_
    refine z_iload hC (pc := 58) dX8_improve_58 0 rfl ?_
    refine z_iconst (v := (-1)) hC (pc := 60) dX8_improve_60 zki_m1 ?_
    refine z_icmp_eq hC (pc := 61) (tgt := 81) dX8_improve_61 rfl (fun c14 => ?_) (fun c14 => ?_)
    · have hf := zif_t hf c14
      refine z_iload_n hC (pc := 81) dX8_improve_81 rfl 5 rfl ?_
      exact z_ireturn hC (pc := 82) hQ dX8_improve_82 hf
    · have hf := zif_f hf c14
      refine z_aload_n hC (pc := 64) dX8_improve_64 rfl 3 rfl ?_
      refine z_getI hC (pc := 65) in_X8 zcX8 21 (Nat.le_of_ble_eq_true rfl) (zLk.o hC q2694) zsm dX8_improve_65 hf (fun v15 hf => ?_)
      refine z_aload_n hC (pc := 68) dX8_improve_68 rfl 3 rfl ?_
      refine z_getI hC (pc := 69) in_X8 zcX8 22 (Nat.le_of_ble_eq_true rfl) (zLk.o hC q2695) zsm dX8_improve_69 hf (fun v16 hf => ?_)
      refine z_iload_n hC (pc := 72) dX8_improve_72 rfl 2 rfl ?_
      refine z_iload hC (pc := 73) dX8_improve_73 1 rfl ?_
      refine z_cI (rest := []) hf (fun v17 s18 hcall => z_runS hC (pc := 75) 4 (m_X8_isBetter X.g v15 v16 v4 v8 s13 s18 v17 hcall) (lw_S q3083 q3084 q108 q3085) hd_X8_isBetter ⟨(Nat.le_of_ble_eq_true rfl), (Nat.le_of_ble_eq_true rfl)⟩ rfl (Nat.le_of_ble_eq_true rfl) dX8_improve_75 rfl) (fun v17 s18 hf => ?_)
      refine z_if_ne hC (pc := 78) (tgt := 83) dX8_improve_78 rfl (fun c19 => ?_) (fun c19 => ?_)
      · have hf := zif_f hf c19
        refine z_aload_n hC (pc := 83) dX8_improve_83 rfl 3 rfl ?_
        refine z_iload hC (pc := 84) dX8_improve_84 0 rfl ?_
        refine z_bipush (v := 100) hC (pc := 86) dX8_improve_86 zkb_100 ?_
        refine z_idiv hC (pc := 88) dX8_improve_88 (by decide) ?_
        refine z_iload hC (pc := 89) dX8_improve_89 0 rfl ?_
        refine z_bipush (v := 100) hC (pc := 91) dX8_improve_91 zkb_100 ?_
        refine z_irem hC (pc := 93) dX8_improve_93 (by decide) ?_
        obtain ⟨fs20, ha21, hf⟩ := z_rcN hf
        refine z_cU (rest := []) hf (fun v22 s23 hcall => z_runV hC (pc := 94) zcX8 2 ha21 (m_X8_exchange X.g l0 (v12 / 100) (v12 - v12 / 100 * 100) s18 s23 v22 hcall) (lw_V q3059 q3061 qs89 q108 q3062) hdV_X8_exchange ⟨(Nat.le_of_ble_eq_true rfl), (Nat.le_of_ble_eq_true rfl)⟩ rfl (Nat.le_of_ble_eq_true rfl) dX8_improve_94 rfl) (fun _ s23 hf => ?_)
        refine z_iinc (v := 1) (lv' := [(2, zi (l2 + 1)), (5, zi v12), (4, zi v8), (3, zi v4), (0, zr (some l0)), (1, zi l1)]) hC (pc := 97) hL dX8_improve_97 5 rfl zki_1 (Nat.le_of_ble_eq_true rfl) rfl ?_
        refine z_goto hC (pc := 100) (tgt := 36) dX8_improve_100 rfl ?_
        refine ZW.perm (lv' := [(0, zr (some l0)), (1, zi l1), (2, zi (l2 + 1))]) [4, 5, 0] rfl ?_
        exact hk36 l0 l1 (l2 + 1) s23 hf
      · have hf := zif_t hf c19
        refine z_iload_n hC (pc := 81) dX8_improve_81 rfl 5 rfl ?_
        exact z_ireturn hC (pc := 82) hQ dX8_improve_82 hf
def f_X8_improve_l36 (G : Nat → Nat) : Nat → Nat → Int32 → Int32 → zS → Option (Int32 × zS)
  | 0 => fun _ _ _ _ => none
  | n + 1 => f_X8_improve_b36 G (f_X8_improve_l36 G n)
theorem w_X8_improve_l36 {X : zX} (hC : ZC X RX8 cX8_improve (some .int) 8 155) (hL : X.nL = 6) (hno : ∀ x ∈ X.c.exceptionTable.toList, False) {r : Int32} {sF : zS} (hQ : ZQ X (.inl (some (zi r)), sF)) : ∀ (n : Nat) (l0 : Nat) (l1 : Int32) (l2 : Int32) (s0 : zS) (_ : f_X8_improve_l36 X.g.1 n l0 l1 l2 s0 = some (r, sF)), ZW X s0 36 [(0, zr (some l0)), (1, zi l1), (2, zi l2)] [] := by
  intro n
  induction n with
  | zero => intro l0 l1 l2 s0 hf; exact absurd (show (none : Option (Int32 × zS)) = some (r, sF) from hf) (fun z => nomatch z)
  | succ n ih => intro l0 l1 l2 s0 hf; exact w_X8_improve_b36 hC hL hno hQ (f_X8_improve_l36 X.g.1 n) ih l0 l1 l2 s0 hf
def f_X8_improve_b21 (G : Nat → Nat) (l0 : Nat) (l1 : Int32) (t0 : Int32) (t1 : Option Nat) (s0 : zS) : Option (Int32 × zS) :=
zo (zrc s0 t1 6) fun a3 =>
zb (f_X8_fails G a3 t0 1 s0) fun v4 s5 =>
if v4 = 0 then (zo (zrc s5 (some l0) 6) fun _ =>
zb (f_X8_remember G l0 s5) fun _ s10 =>
f_X8_improve_l36 G 2000 l0 l1 0 s10)
else (some (0, s5))
set_option maxHeartbeats 4000000 in
theorem w_X8_improve_b21 {X : zX} (hC : ZC X RX8 cX8_improve (some .int) 8 155) (hL : X.nL = 6) (hno : ∀ x ∈ X.c.exceptionTable.toList, False) {r : Int32} {sF : zS} (hQ : ZQ X (.inl (some (zi r)), sF)) (l0 : Nat) (l1 : Int32) (t0 : Int32) (t1 : Option Nat) (s0 : zS) (hf : f_X8_improve_b21 X.g.1 l0 l1 t0 t1 s0 = some (r, sF)) : ZW X s0 21 [(0, zr (some l0)), (1, zi l1)] [zi t0, zr t1] := by
  unfold f_X8_improve_b21 at hf
  refine z_iconst (v := 1) hC (pc := 21) dX8_improve_21 zki_1 ?_
  obtain ⟨a3, fs1, rfl, ha2, hf⟩ := z_rcO hf
  refine z_cI (rest := []) hf (fun v4 s5 hcall => z_runV hC (pc := 22) zcX8 2 ha2 (m_X8_fails X.g a3 t0 1 s0 s5 v4 hcall) (lw_V q2765 q2767 qs48 q108 q2768) hdV_X8_fails ⟨(Nat.le_of_ble_eq_true rfl), (Nat.le_of_ble_eq_true rfl)⟩ rfl (Nat.le_of_ble_eq_true rfl) dX8_improve_22 rfl) (fun v4 s5 hf => ?_)
  refine z_if_eq hC (pc := 25) (tgt := 30) dX8_improve_25 rfl (fun c6 => ?_) (fun c6 => ?_)
  · have hf := zif_t hf c6
    refine z_aload_n hC (pc := 30) dX8_improve_30 rfl 0 rfl ?_
    obtain ⟨fs7, ha8, hf⟩ := z_rcN hf
    refine z_cU (rest := []) hf (fun v9 s10 hcall => z_runV hC (pc := 31) zcX8 0 ha8 (m_X8_remember X.g l0 s5 s10 v9 hcall) (lw_V q2870 q2872 qs65 q108 q2873) hdV_X8_remember ⟨(Nat.le_of_ble_eq_true rfl), (Nat.le_of_ble_eq_true rfl)⟩ rfl (Nat.le_of_ble_eq_true rfl) dX8_improve_31 rfl) (fun _ s10 hf => ?_)
    refine z_iconst (v := 0) hC (pc := 34) dX8_improve_34 zki_0 ?_
    refine z_istore_n (lv' := [(2, zi 0), (0, zr (some l0)), (1, zi l1)]) hC (pc := 35) hL dX8_improve_35 rfl (Nat.le_of_ble_eq_true rfl) rfl ?_
    refine ZW.perm (lv' := [(0, zr (some l0)), (1, zi l1), (2, zi 0)]) [1, 2, 0] rfl ?_
    exact w_X8_improve_l36 hC hL hno hQ 2000 l0 l1 0 s10 hf
  · have hf := zif_f hf c6
    refine z_iconst (v := 0) hC (pc := 28) dX8_improve_28 zki_0 ?_
    exact z_ireturn hC (pc := 29) hQ dX8_improve_29 hf
def f_X8_improve (G : Nat → Nat) (l0 : Nat) (l1 : Int32) (s0 : zS) : Option (Int32 × zS) :=
zo (zput G s0 (some l0) 6 0 (.int 0)) fun s1 =>
zb (f_X8_in G l1 1 20 s1) fun v2 s3 =>
if v2 = 0 then (f_X8_improve_b21 G l0 l1 1 (some l0) s3)
else (f_X8_improve_b21 G l0 l1 0 (some l0) s3)
set_option maxHeartbeats 4000000 in
theorem m_X8_improve (Γ : zG) (l0 : Nat) (l1 : Int32) (s0 s1 : zS) (r : Int32) (hf : f_X8_improve Γ.1 l0 l1 s0 = some (r, s1)) : ZM Γ yX8_improve (ws_ yX8_improve cX8_improve 6 (some .int)) 8 155 [zr (some l0), zi l1] s0 (.inl (some (zi r)), s1) := by
  refine ZM.of (own := RX8) (by decide) rfl (Nat.le_of_ble_eq_true rfl) ?_
  intro X hg hC hL hno hQ hin
  subst hg
  unfold f_X8_improve at hf
  refine z_aload_n hC (pc := 0) dX8_improve_0 rfl 0 rfl ?_
  refine z_iconst (v := 0) hC (pc := 1) dX8_improve_1 zki_0 ?_
  refine z_putV (v := zi 0) hC (pc := 2) in_X8 tyX8 tyX8_ok nmX8 zcX8 0 (Nat.le_of_ble_eq_true rfl) (zLk.o hC q2673) zsm (Or.inl rfl) rfl rfl dX8_improve_2 hf (fun s1 hf => ?_)
  refine z_aload_n hC (pc := 5) dX8_improve_5 rfl 0 rfl ?_
  refine z_iload_n hC (pc := 6) dX8_improve_6 rfl 1 rfl ?_
  refine z_iconst (v := 1) hC (pc := 7) dX8_improve_7 zki_1 ?_
  refine z_bipush (v := 20) hC (pc := 8) dX8_improve_8 zkb_20 ?_
  refine z_cI (rest := [zr (some l0)]) hf (fun v2 s3 hcall => z_runS hC (pc := 10) 3 (m_X8_in X.g l1 1 20 s1 s3 v2 hcall) (lw_S q2762 q2763 q108 q2764) hd_X8_in ⟨(Nat.le_of_ble_eq_true rfl), (Nat.le_of_ble_eq_true rfl)⟩ rfl (Nat.le_of_ble_eq_true rfl) dX8_improve_10 rfl) (fun v2 s3 hf => ?_)
  refine z_if_ne hC (pc := 13) (tgt := 20) dX8_improve_13 rfl (fun c4 => ?_) (fun c4 => ?_)
  · have hf := zif_f hf c4
    refine z_iconst (v := 0) hC (pc := 20) dX8_improve_20 zki_0 ?_
    exact w_X8_improve_b21 hC hL hno hQ l0 l1 0 (some l0) s3 hf
  · have hf := zif_t hf c4
    refine z_iconst (v := 1) hC (pc := 16) dX8_improve_16 zki_1 ?_
    refine z_goto hC (pc := 17) (tgt := 21) dX8_improve_17 rfl ?_
    exact w_X8_improve_b21 hC hL hno hQ l0 l1 1 (some l0) s3 hf
/-! BlockingShopModel.<init>()V -/
def f_X8_init (G : Nat → Nat) (l0 : Nat) (s0 : zS) : Option (Unit × zS) :=
zb (znewA G s0 0 900 (.inl fun _ => 0)) fun a1 s2 =>
zo (zput G s2 (some l0) 6 1 (va_rf (some a1))) fun s3 =>
zo (zput G s3 (some l0) 6 7 (.int (-1))) fun s4 =>
zb (znewA G s4 0 1655 (.inl fun _ => 0)) fun a5 s6 =>
zo (zput G s6 (some l0) 6 8 (va_rf (some a5))) fun s7 =>
zb (znewA G s7 0 1655 (.inl fun _ => 0)) fun a8 s9 =>
zo (zput G s9 (some l0) 6 9 (va_rf (some a8))) fun s10 =>
zb (znewA G s10 0 1655 (.inl fun _ => 0)) fun a11 s12 =>
zo (zput G s12 (some l0) 6 10 (va_rf (some a11))) fun s13 =>
zb (znewM G s13 8 1655) fun a14 s15 =>
zo (zput G s15 (some l0) 6 11 (va_rf (some a14))) fun s16 =>
zb (znewA G s16 0 36 (.inl fun _ => 0)) fun a17 s18 =>
zo (zput G s18 (some l0) 6 16 (va_rf (some a17))) fun s19 =>
zb (znewA G s19 0 36 (.inl fun _ => 0)) fun a20 s21 =>
zo (zput G s21 (some l0) 6 17 (va_rf (some a20))) fun s22 =>
zb (znewA G s22 0 36 (.inl fun _ => 0)) fun a23 s24 =>
zo (zput G s24 (some l0) 6 18 (va_rf (some a23))) fun s25 =>
zb (znewA G s25 3 36 (.inl fun _ => 0)) fun a26 s27 =>
zo (zput G s27 (some l0) 6 19 (va_rf (some a26))) fun s28 =>
zb (znewA G s28 1 1500 (.inr (.inl fun _ => 0))) fun a29 s30 =>
zo (zput G s30 (some l0) 6 20 (va_rf (some a29))) fun s31 =>
zb (znewA G s31 0 36 (.inl fun _ => 0)) fun a32 s33 =>
zo (zput G s33 (some l0) 6 23 (va_rf (some a32))) fun s34 =>
some ((), s34)
set_option maxHeartbeats 4000000 in
theorem m_X8_init (Γ : zG) (l0 : Nat) (s0 s1 : zS) (r : Unit) (hf : f_X8_init Γ.1 l0 s0 = some (r, s1)) : ZM Γ yX8_init (ws_ yX8_init cX8_init 1 none) 1 12 [zr (some l0)] s0 (.inl none, s1) := by
  refine ZM.of (own := RX8) (by decide) rfl (Nat.le_of_ble_eq_true rfl) ?_
  intro X hg hC hL hno hQ hin
  subst hg
  unfold f_X8_init at hf
  refine z_aload_n hC (pc := 0) dX8_init_0 rfl 0 rfl ?_
  refine z_objInit hC (pc := 1) q2671 q163 q164 (Nat.le_of_ble_eq_true rfl) (Nat.le_of_ble_eq_true rfl) dX8_init_1 ?_
  refine z_aload_n hC (pc := 4) dX8_init_4 rfl 0 rfl ?_
  refine z_sipush (v := 900) hC (pc := 5) dX8_init_5 zks_900 ?_
  refine z_newa (t := 0) (ty := .int) hC (pc := 8) rfl rfl q222 (.inl fun _ => 0) (fun _ => rfl) (by decide) dX8_init_8 hf (fun a1 s2 hf => ?_)
  refine z_putV (v := zr (some a1)) hC (pc := 10) in_X8 tyX8 tyX8_ok nmX8 zcX8 1 (Nat.le_of_ble_eq_true rfl) (zLk.o hC q2674) zsm (Or.inr ⟨rfl, hin, rfl, rfl⟩) rfl (zfa (some a1)) dX8_init_10 hf (fun s3 hf => ?_)
  refine z_aload_n hC (pc := 13) dX8_init_13 rfl 0 rfl ?_
  refine z_iconst (v := (-1)) hC (pc := 14) dX8_init_14 zki_m1 ?_
  refine z_putV (v := zi (-1)) hC (pc := 15) in_X8 tyX8 tyX8_ok nmX8 zcX8 7 (Nat.le_of_ble_eq_true rfl) (zLk.o hC q2680) zsm (Or.inl rfl) rfl rfl dX8_init_15 hf (fun s4 hf => ?_)
  refine z_aload_n hC (pc := 18) dX8_init_18 rfl 0 rfl ?_
  refine z_sipush (v := 1655) hC (pc := 19) dX8_init_19 zks_1655 ?_
  refine z_newa (t := 0) (ty := .int) hC (pc := 22) rfl rfl q222 (.inl fun _ => 0) (fun _ => rfl) (by decide) dX8_init_22 hf (fun a5 s6 hf => ?_)
  refine z_putV (v := zr (some a5)) hC (pc := 24) in_X8 tyX8 tyX8_ok nmX8 zcX8 8 (Nat.le_of_ble_eq_true rfl) (zLk.o hC q2681) zsm (Or.inr ⟨rfl, hin, rfl, rfl⟩) rfl (zfa (some a5)) dX8_init_24 hf (fun s7 hf => ?_)
  refine z_aload_n hC (pc := 27) dX8_init_27 rfl 0 rfl ?_
  refine z_sipush (v := 1655) hC (pc := 28) dX8_init_28 zks_1655 ?_
  refine z_newa (t := 0) (ty := .int) hC (pc := 31) rfl rfl q222 (.inl fun _ => 0) (fun _ => rfl) (by decide) dX8_init_31 hf (fun a8 s9 hf => ?_)
  refine z_putV (v := zr (some a8)) hC (pc := 33) in_X8 tyX8 tyX8_ok nmX8 zcX8 9 (Nat.le_of_ble_eq_true rfl) (zLk.o hC q2682) zsm (Or.inr ⟨rfl, hin, rfl, rfl⟩) rfl (zfa (some a8)) dX8_init_33 hf (fun s10 hf => ?_)
  refine z_aload_n hC (pc := 36) dX8_init_36 rfl 0 rfl ?_
  refine z_sipush (v := 1655) hC (pc := 37) dX8_init_37 zks_1655 ?_
  refine z_newa (t := 0) (ty := .int) hC (pc := 40) rfl rfl q222 (.inl fun _ => 0) (fun _ => rfl) (by decide) dX8_init_40 hf (fun a11 s12 hf => ?_)
  refine z_putV (v := zr (some a11)) hC (pc := 42) in_X8 tyX8 tyX8_ok nmX8 zcX8 10 (Nat.le_of_ble_eq_true rfl) (zLk.o hC q2683) zsm (Or.inr ⟨rfl, hin, rfl, rfl⟩) rfl (zfa (some a11)) dX8_init_42 hf (fun s13 hf => ?_)
  refine z_aload_n hC (pc := 45) dX8_init_45 rfl 0 rfl ?_
  refine z_bipush (v := 8) hC (pc := 46) dX8_init_46 zkb_8 ?_
  refine z_sipush (v := 1655) hC (pc := 48) dX8_init_48 zks_1655 ?_
  refine z_newM hC (pc := 51) q2672 q363 q222 dX8_init_51 hf (fun a14 s15 hf => ?_)
  refine z_putV (v := zr (some a14)) hC (pc := 55) in_X8 tyX8 tyX8_ok nmX8 zcX8 11 (Nat.le_of_ble_eq_true rfl) (zLk.o hC q2684) zsm (Or.inr ⟨rfl, hin, rfl, rfl⟩) rfl (zfa (some a14)) dX8_init_55 hf (fun s16 hf => ?_)
  refine z_aload_n hC (pc := 58) dX8_init_58 rfl 0 rfl ?_
  refine z_bipush (v := 36) hC (pc := 59) dX8_init_59 zkb_36 ?_
  refine z_newa (t := 0) (ty := .int) hC (pc := 61) rfl rfl q222 (.inl fun _ => 0) (fun _ => rfl) (by decide) dX8_init_61 hf (fun a17 s18 hf => ?_)
  refine z_putV (v := zr (some a17)) hC (pc := 63) in_X8 tyX8 tyX8_ok nmX8 zcX8 16 (Nat.le_of_ble_eq_true rfl) (zLk.o hC q2689) zsm (Or.inr ⟨rfl, hin, rfl, rfl⟩) rfl (zfa (some a17)) dX8_init_63 hf (fun s19 hf => ?_)
  refine z_aload_n hC (pc := 66) dX8_init_66 rfl 0 rfl ?_
  refine z_bipush (v := 36) hC (pc := 67) dX8_init_67 zkb_36 ?_
  refine z_newa (t := 0) (ty := .int) hC (pc := 69) rfl rfl q222 (.inl fun _ => 0) (fun _ => rfl) (by decide) dX8_init_69 hf (fun a20 s21 hf => ?_)
  refine z_putV (v := zr (some a20)) hC (pc := 71) in_X8 tyX8 tyX8_ok nmX8 zcX8 17 (Nat.le_of_ble_eq_true rfl) (zLk.o hC q2690) zsm (Or.inr ⟨rfl, hin, rfl, rfl⟩) rfl (zfa (some a20)) dX8_init_71 hf (fun s22 hf => ?_)
  refine z_aload_n hC (pc := 74) dX8_init_74 rfl 0 rfl ?_
  refine z_bipush (v := 36) hC (pc := 75) dX8_init_75 zkb_36 ?_
  refine z_newa (t := 0) (ty := .int) hC (pc := 77) rfl rfl q222 (.inl fun _ => 0) (fun _ => rfl) (by decide) dX8_init_77 hf (fun a23 s24 hf => ?_)
  refine z_putV (v := zr (some a23)) hC (pc := 79) in_X8 tyX8 tyX8_ok nmX8 zcX8 18 (Nat.le_of_ble_eq_true rfl) (zLk.o hC q2691) zsm (Or.inr ⟨rfl, hin, rfl, rfl⟩) rfl (zfa (some a23)) dX8_init_79 hf (fun s25 hf => ?_)
  refine z_aload_n hC (pc := 82) dX8_init_82 rfl 0 rfl ?_
  refine z_bipush (v := 36) hC (pc := 83) dX8_init_83 zkb_36 ?_
  refine z_newa (t := 3) (ty := .boolean) hC (pc := 85) rfl rfl q2749 (.inl fun _ => 0) (fun _ => rfl) (by decide) dX8_init_85 hf (fun a26 s27 hf => ?_)
  refine z_putV (v := zr (some a26)) hC (pc := 87) in_X8 tyX8 tyX8_ok nmX8 zcX8 19 (Nat.le_of_ble_eq_true rfl) (zLk.o hC q2692) zsm (Or.inr ⟨rfl, hin, rfl, rfl⟩) rfl (zfa (some a26)) dX8_init_87 hf (fun s28 hf => ?_)
  refine z_aload_n hC (pc := 90) dX8_init_90 rfl 0 rfl ?_
  refine z_sipush (v := 1500) hC (pc := 91) dX8_init_91 zks_1500 ?_
  refine z_newa (t := 1) (ty := .long) hC (pc := 94) rfl rfl q1047 (.inr (.inl fun _ => 0)) (fun _ => rfl) (by decide) dX8_init_94 hf (fun a29 s30 hf => ?_)
  refine z_putV (v := zr (some a29)) hC (pc := 96) in_X8 tyX8 tyX8_ok nmX8 zcX8 20 (Nat.le_of_ble_eq_true rfl) (zLk.o hC q2693) zsm (Or.inr ⟨rfl, hin, rfl, rfl⟩) rfl (zfa (some a29)) dX8_init_96 hf (fun s31 hf => ?_)
  refine z_aload_n hC (pc := 99) dX8_init_99 rfl 0 rfl ?_
  refine z_bipush (v := 36) hC (pc := 100) dX8_init_100 zkb_36 ?_
  refine z_newa (t := 0) (ty := .int) hC (pc := 102) rfl rfl q222 (.inl fun _ => 0) (fun _ => rfl) (by decide) dX8_init_102 hf (fun a32 s33 hf => ?_)
  refine z_putV (v := zr (some a32)) hC (pc := 104) in_X8 tyX8 tyX8_ok nmX8 zcX8 23 (Nat.le_of_ble_eq_true rfl) (zLk.o hC q2696) zsm (Or.inr ⟨rfl, hin, rfl, rfl⟩) rfl (zfa (some a32)) dX8_init_104 hf (fun s34 hf => ?_)
  exact z_return hC (pc := 107) hQ dX8_init_107 hf
/-! BlockingShopModel.jobCost(I)I -/
def f_X8_jobCost (G : Nat → Nat) (l0 : Nat) (l1 : Int32) (s0 : zS) : Option (Int32 × zS) :=
zo (zput G s0 (some l0) 6 0 (.int 0)) fun s1 =>
zo (zrc s1 (some l0) 6) fun _ =>
zb (f_X8_noJob G l0 l1 s1) fun v4 s5 =>
if v4 = 0 then (zo (zrc s5 (some l0) 6) fun _ =>
zb (f_X8_findStarts G l0 s5) fun v9 s10 =>
if v9 = 0 then (some (0, s10))
else (zo (zrc s10 (some l0) 6) fun _ =>
zb (f_X8_costOf G l0 l1 s10) fun v14 s15 =>
some (v14, s15)))
else (some (0, s5))
set_option maxHeartbeats 4000000 in
theorem m_X8_jobCost (Γ : zG) (l0 : Nat) (l1 : Int32) (s0 s1 : zS) (r : Int32) (hf : f_X8_jobCost Γ.1 l0 l1 s0 = some (r, s1)) : ZM Γ yX8_jobCost (ws_ yX8_jobCost cX8_jobCost 2 (some .int)) 6 110 [zr (some l0), zi l1] s0 (.inl (some (zi r)), s1) := by
  refine ZM.of (own := RX8) (by decide) rfl (Nat.le_of_ble_eq_true rfl) ?_
  intro X hg hC hL hno hQ hin
  subst hg
  unfold f_X8_jobCost at hf
  refine z_aload_n hC (pc := 0) dX8_jobCost_0 rfl 0 rfl ?_
  refine z_iconst (v := 0) hC (pc := 1) dX8_jobCost_1 zki_0 ?_
  refine z_putV (v := zi 0) hC (pc := 2) in_X8 tyX8 tyX8_ok nmX8 zcX8 0 (Nat.le_of_ble_eq_true rfl) (zLk.o hC q2673) zsm (Or.inl rfl) rfl rfl dX8_jobCost_2 hf (fun s1 hf => ?_)
  refine z_aload_n hC (pc := 5) dX8_jobCost_5 rfl 0 rfl ?_
  refine z_iload_n hC (pc := 6) dX8_jobCost_6 rfl 1 rfl ?_
  obtain ⟨fs2, ha3, hf⟩ := z_rcN hf
  refine z_cI (rest := []) hf (fun v4 s5 hcall => z_runV hC (pc := 7) zcX8 1 ha3 (m_X8_noJob X.g l0 l1 s1 s5 v4 hcall) (lw_V q2897 q2899 qs67 q108 q2900) hdV_X8_noJob ⟨(Nat.le_of_ble_eq_true rfl), (Nat.le_of_ble_eq_true rfl)⟩ rfl (Nat.le_of_ble_eq_true rfl) dX8_jobCost_7 rfl) (fun v4 s5 hf => ?_)
  refine z_if_ne hC (pc := 10) (tgt := 20) dX8_jobCost_10 rfl (fun c6 => ?_) (fun c6 => ?_)
  · have hf := zif_f hf c6
    refine z_iconst (v := 0) hC (pc := 20) dX8_jobCost_20 zki_0 ?_
    refine z_goto hC (pc := 21) (tgt := 29) dX8_jobCost_21 rfl ?_
    exact z_ireturn hC (pc := 29) hQ dX8_jobCost_29 hf
  · have hf := zif_t hf c6
    refine z_aload_n hC (pc := 13) dX8_jobCost_13 rfl 0 rfl ?_
    obtain ⟨fs7, ha8, hf⟩ := z_rcN hf
    refine z_cI (rest := []) hf (fun v9 s10 hcall => z_runV hC (pc := 14) zcX8 0 ha8 (m_X8_findStarts X.g l0 s5 s10 v9 hcall) (lw_V q2936 q2938 qs72 q108 q2939) hdV_X8_findStarts ⟨(Nat.le_of_ble_eq_true rfl), (Nat.le_of_ble_eq_true rfl)⟩ rfl (Nat.le_of_ble_eq_true rfl) dX8_jobCost_14 rfl) (fun v9 s10 hf => ?_)
    refine z_if_ne hC (pc := 17) (tgt := 24) dX8_jobCost_17 rfl (fun c11 => ?_) (fun c11 => ?_)
    · have hf := zif_f hf c11
      refine z_aload_n hC (pc := 24) dX8_jobCost_24 rfl 0 rfl ?_
      refine z_iload_n hC (pc := 25) dX8_jobCost_25 rfl 1 rfl ?_
      obtain ⟨fs12, ha13, hf⟩ := z_rcN hf
      refine z_cI (rest := []) hf (fun v14 s15 hcall => z_runV hC (pc := 26) zcX8 1 ha13 (m_X8_costOf X.g l0 l1 s10 s15 v14 hcall) (lw_V q2999 q3001 qs83 q108 q3002) hdV_X8_costOf ⟨(Nat.le_of_ble_eq_true rfl), (Nat.le_of_ble_eq_true rfl)⟩ rfl (Nat.le_of_ble_eq_true rfl) dX8_jobCost_26 rfl) (fun v14 s15 hf => ?_)
      exact z_ireturn hC (pc := 29) hQ dX8_jobCost_29 hf
    · have hf := zif_t hf c11
      refine z_iconst (v := 0) hC (pc := 20) dX8_jobCost_20 zki_0 ?_
      refine z_goto hC (pc := 21) (tgt := 29) dX8_jobCost_21 rfl ?_
      exact z_ireturn hC (pc := 29) hQ dX8_jobCost_29 hf
/-! BlockingShopModel.jobCount()I -/
def f_X8_jobCount (G : Nat → Nat) (l0 : Nat) (s0 : zS) : Option (Int32 × zS) :=
zo (zput G s0 (some l0) 6 0 (.int 0)) fun s1 =>
zo (zgR s1 (some l0) 6 8) fun v2 =>
zo (zaI s1 v2 0 2) fun v3 =>
some (v3, s1)
set_option maxHeartbeats 4000000 in
theorem m_X8_jobCount (Γ : zG) (l0 : Nat) (s0 s1 : zS) (r : Int32) (hf : f_X8_jobCount Γ.1 l0 s0 = some (r, s1)) : ZM Γ yX8_jobCount (ws_ yX8_jobCount cX8_jobCount 1 (some .int)) 1 0 [zr (some l0)] s0 (.inl (some (zi r)), s1) := by
  refine ZM.of (own := RX8) (by decide) rfl (Nat.le_of_ble_eq_true rfl) ?_
  intro X hg hC hL hno hQ hin
  subst hg
  unfold f_X8_jobCount at hf
  refine z_aload_n hC (pc := 0) dX8_jobCount_0 rfl 0 rfl ?_
  refine z_iconst (v := 0) hC (pc := 1) dX8_jobCount_1 zki_0 ?_
  refine z_putV (v := zi 0) hC (pc := 2) in_X8 tyX8 tyX8_ok nmX8 zcX8 0 (Nat.le_of_ble_eq_true rfl) (zLk.o hC q2673) zsm (Or.inl rfl) rfl rfl dX8_jobCount_2 hf (fun s1 hf => ?_)
  refine z_aload_n hC (pc := 5) dX8_jobCount_5 rfl 0 rfl ?_
  refine z_getR hC (pc := 6) in_X8 zcX8 8 (Nat.le_of_ble_eq_true rfl) (zLk.o hC q2681) zsm dX8_jobCount_6 hf (fun v2 hf => ?_)
  refine z_iconst (v := 2) hC (pc := 9) dX8_jobCount_9 zki_2 ?_
  refine z_iald hC (pc := 10) dX8_jobCount_10 hf (fun v3 hf => ?_)
  exact z_ireturn hC (pc := 11) hQ dX8_jobCount_11 hf
/-! BlockingShopModel.layFirst()V -/
def f_X8_layFirst_b44 (G : Nat → Nat) (k32 : Nat → Int32 → zS → Option (Unit × zS)) (k44 : Nat → Int32 → Int32 → zS → Option (Unit × zS)) (l0 : Nat) (l1 : Int32) (l2 : Int32) (s0 : zS) : Option (Unit × zS) :=
zo (zgR s0 (some l0) 6 8) fun v1 =>
zb (f_X8_job G l1 s0) fun v2 s3 =>
zo (zaI s3 v1 0 (v2 + 3)) fun v4 =>
if v4 ≤ l2 then (k32 l0 (l1 + 1) s3)
else (zo (zgR s3 (some l0) 6 8) fun v6 =>
zb (f_X8_operationAt G ((6 * l1) + l2) s3) fun v7 s8 =>
zo (zaI s8 v6 0 v7) fun v9 =>
zb (f_X8_machine G v9 s8) fun v10 s11 =>
zo (zgR s11 (some l0) 6 8) fun v12 =>
zo (zgR s11 (some l0) 6 8) fun v13 =>
zo (zaI s11 v13 0 (v10 + 2)) fun v14 =>
zo (zsI G s11 v12 0 ((v10 + 3) + v14) ((6 * l1) + l2)) fun s15 =>
zo (zgR s15 (some l0) 6 8) fun v16 =>
zo (zaI s15 v16 0 (v10 + 2)) fun v17 =>
zo (zsI G s15 v16 0 (v10 + 2) (v17 + 1)) fun s18 =>
k44 l0 l1 (l2 + 1) s18)
set_option maxHeartbeats 4000000 in
theorem w_X8_layFirst_b44 {X : zX} (hC : ZC X RX8 cX8_layFirst none 2 20) (hL : X.nL = 4) (hno : ∀ x ∈ X.c.exceptionTable.toList, False) {r : Unit} {sF : zS} (hQ : ZQ X (.inl none, sF)) (k32 : Nat → Int32 → zS → Option (Unit × zS)) (hk32 : ∀ (l0 : Nat) (l1 : Int32) (s0 : zS), k32 l0 l1 s0 = some (r, sF) → ZW X s0 32 [(0, zr (some l0)), (1, zi l1)] []) (k44 : Nat → Int32 → Int32 → zS → Option (Unit × zS)) (hk44 : ∀ (l0 : Nat) (l1 : Int32) (l2 : Int32) (s0 : zS), k44 l0 l1 l2 s0 = some (r, sF) → ZW X s0 44 [(0, zr (some l0)), (1, zi l1), (2, zi l2)] []) (l0 : Nat) (l1 : Int32) (l2 : Int32) (s0 : zS) (hf : f_X8_layFirst_b44 X.g.1 k32 k44 l0 l1 l2 s0 = some (r, sF)) : ZW X s0 44 [(0, zr (some l0)), (1, zi l1), (2, zi l2)] [] := by
  unfold f_X8_layFirst_b44 at hf
  refine z_iload_n hC (pc := 44) dX8_layFirst_44 rfl 2 rfl ?_
  refine z_aload_n hC (pc := 45) dX8_layFirst_45 rfl 0 rfl ?_
  refine z_getR hC (pc := 46) in_X8 zcX8 8 (Nat.le_of_ble_eq_true rfl) (zLk.o hC q2681) zsm dX8_layFirst_46 hf (fun v1 hf => ?_)
  refine z_iload_n hC (pc := 49) dX8_layFirst_49 rfl 1 rfl ?_
  refine z_cI (rest := [zr v1, zi l2]) hf (fun v2 s3 hcall => z_runS hC (pc := 50) 1 (m_X8_job X.g l1 s0 s3 v2 hcall) (lw_S q2826 q2827 q108 q2828) hd_X8_job ⟨(Nat.le_of_ble_eq_true rfl), (Nat.le_of_ble_eq_true rfl)⟩ rfl (Nat.le_of_ble_eq_true rfl) dX8_layFirst_50 rfl) (fun v2 s3 hf => ?_)
  refine z_iconst (v := 3) hC (pc := 53) dX8_layFirst_53 zki_3 ?_
  refine z_iadd hC (pc := 54) dX8_layFirst_54 ?_
  refine z_iald hC (pc := 55) dX8_layFirst_55 hf (fun v4 hf => ?_)
  refine z_icmp_ge hC (pc := 56) (tgt := 118) dX8_layFirst_56 rfl (fun c5 => ?_) (fun c5 => ?_)
  · have hf := zif_t hf c5
    refine z_iinc (v := 1) (lv' := [(1, zi (l1 + 1)), (0, zr (some l0)), (2, zi l2)]) hC (pc := 118) hL dX8_layFirst_118 1 rfl zki_1 (Nat.le_of_ble_eq_true rfl) rfl ?_
    refine z_goto hC (pc := 121) (tgt := 32) dX8_layFirst_121 rfl ?_
    refine ZW.perm (lv' := [(0, zr (some l0)), (1, zi (l1 + 1))]) [1, 0] rfl ?_
    exact hk32 l0 (l1 + 1) s3 hf
  · have hf := zif_f hf c5
    refine z_aload_n hC (pc := 59) dX8_layFirst_59 rfl 0 rfl ?_
    refine z_getR hC (pc := 60) in_X8 zcX8 8 (Nat.le_of_ble_eq_true rfl) (zLk.o hC q2681) zsm dX8_layFirst_60 hf (fun v6 hf => ?_)
    refine z_bipush (v := 6) hC (pc := 63) dX8_layFirst_63 zkb_6 ?_
    refine z_iload_n hC (pc := 65) dX8_layFirst_65 rfl 1 rfl ?_
    refine z_imul hC (pc := 66) dX8_layFirst_66 ?_
    refine z_iload_n hC (pc := 67) dX8_layFirst_67 rfl 2 rfl ?_
    refine z_iadd hC (pc := 68) dX8_layFirst_68 ?_
    refine z_cI (rest := [zr v6]) hf (fun v7 s8 hcall => z_runS hC (pc := 69) 1 (m_X8_operationAt X.g ((6 * l1) + l2) s3 s8 v7 hcall) (lw_S q2834 q2835 q108 q2836) hd_X8_operationAt ⟨(Nat.le_of_ble_eq_true rfl), (Nat.le_of_ble_eq_true rfl)⟩ rfl (Nat.le_of_ble_eq_true rfl) dX8_layFirst_69 rfl) (fun v7 s8 hf => ?_)
    refine z_iald hC (pc := 72) dX8_layFirst_72 hf (fun v9 hf => ?_)
    refine z_cI (rest := []) hf (fun v10 s11 hcall => z_runS hC (pc := 73) 1 (m_X8_machine X.g v9 s8 s11 v10 hcall) (lw_S q2842 q2843 q108 q2844) hd_X8_machine ⟨(Nat.le_of_ble_eq_true rfl), (Nat.le_of_ble_eq_true rfl)⟩ rfl (Nat.le_of_ble_eq_true rfl) dX8_layFirst_73 rfl) (fun v10 s11 hf => ?_)
    refine z_istore_n (lv' := [(3, zi v10), (0, zr (some l0)), (1, zi l1), (2, zi l2)]) hC (pc := 76) hL dX8_layFirst_76 rfl (Nat.le_of_ble_eq_true rfl) rfl ?_
    refine z_aload_n hC (pc := 77) dX8_layFirst_77 rfl 1 rfl ?_
    refine z_getR hC (pc := 78) in_X8 zcX8 8 (Nat.le_of_ble_eq_true rfl) (zLk.o hC q2681) zsm dX8_layFirst_78 hf (fun v12 hf => ?_)
    refine z_iload_n hC (pc := 81) dX8_layFirst_81 rfl 0 rfl ?_
    refine z_iconst (v := 3) hC (pc := 82) dX8_layFirst_82 zki_3 ?_
    refine z_iadd hC (pc := 83) dX8_layFirst_83 ?_
    refine z_aload_n hC (pc := 84) dX8_layFirst_84 rfl 1 rfl ?_
    refine z_getR hC (pc := 85) in_X8 zcX8 8 (Nat.le_of_ble_eq_true rfl) (zLk.o hC q2681) zsm dX8_layFirst_85 hf (fun v13 hf => ?_)
    refine z_iload_n hC (pc := 88) dX8_layFirst_88 rfl 0 rfl ?_
    refine z_iconst (v := 2) hC (pc := 89) dX8_layFirst_89 zki_2 ?_
    refine z_iadd hC (pc := 90) dX8_layFirst_90 ?_
    refine z_iald hC (pc := 91) dX8_layFirst_91 hf (fun v14 hf => ?_)
    refine z_iadd hC (pc := 92) dX8_layFirst_92 ?_
    refine z_bipush (v := 6) hC (pc := 93) dX8_layFirst_93 zkb_6 ?_
    refine z_iload_n hC (pc := 95) dX8_layFirst_95 rfl 2 rfl ?_
    refine z_imul hC (pc := 96) dX8_layFirst_96 ?_
    refine z_iload_n hC (pc := 97) dX8_layFirst_97 rfl 3 rfl ?_
    refine z_iadd hC (pc := 98) dX8_layFirst_98 ?_
    refine z_iast hC (pc := 99) dX8_layFirst_99 hf (fun s15 hf => ?_)
    refine z_aload_n hC (pc := 100) dX8_layFirst_100 rfl 1 rfl ?_
    refine z_getR hC (pc := 101) in_X8 zcX8 8 (Nat.le_of_ble_eq_true rfl) (zLk.o hC q2681) zsm dX8_layFirst_101 hf (fun v16 hf => ?_)
    refine z_iload_n hC (pc := 104) dX8_layFirst_104 rfl 0 rfl ?_
    refine z_iconst (v := 2) hC (pc := 105) dX8_layFirst_105 zki_2 ?_
    refine z_iadd hC (pc := 106) dX8_layFirst_106 ?_
    refine z_dup2 hC (pc := 107) dX8_layFirst_107 rfl rfl ?_
    refine z_iald hC (pc := 108) dX8_layFirst_108 hf (fun v17 hf => ?_)
    refine z_iconst (v := 1) hC (pc := 109) dX8_layFirst_109 zki_1 ?_
    refine z_iadd hC (pc := 110) dX8_layFirst_110 ?_
    refine z_iast hC (pc := 111) dX8_layFirst_111 hf (fun s18 hf => ?_)
    refine z_iinc (v := 1) (lv' := [(2, zi (l2 + 1)), (3, zi v10), (0, zr (some l0)), (1, zi l1)]) hC (pc := 112) hL dX8_layFirst_112 3 rfl zki_1 (Nat.le_of_ble_eq_true rfl) rfl ?_
    refine z_goto hC (pc := 115) (tgt := 44) dX8_layFirst_115 rfl ?_
    refine ZW.perm (lv' := [(0, zr (some l0)), (1, zi l1), (2, zi (l2 + 1))]) [2, 3, 0] rfl ?_
    exact hk44 l0 l1 (l2 + 1) s18 hf
def f_X8_layFirst_l44 (G : Nat → Nat) (k32 : Nat → Int32 → zS → Option (Unit × zS)) : Nat → Nat → Int32 → Int32 → zS → Option (Unit × zS)
  | 0 => fun _ _ _ _ => none
  | n + 1 => f_X8_layFirst_b44 G k32 (f_X8_layFirst_l44 G k32 n)
theorem w_X8_layFirst_l44 {X : zX} (hC : ZC X RX8 cX8_layFirst none 2 20) (hL : X.nL = 4) (hno : ∀ x ∈ X.c.exceptionTable.toList, False) {r : Unit} {sF : zS} (hQ : ZQ X (.inl none, sF)) (k32 : Nat → Int32 → zS → Option (Unit × zS)) (hk32 : ∀ (l0 : Nat) (l1 : Int32) (s0 : zS), k32 l0 l1 s0 = some (r, sF) → ZW X s0 32 [(0, zr (some l0)), (1, zi l1)] []) : ∀ (n : Nat) (l0 : Nat) (l1 : Int32) (l2 : Int32) (s0 : zS) (_ : f_X8_layFirst_l44 X.g.1 k32 n l0 l1 l2 s0 = some (r, sF)), ZW X s0 44 [(0, zr (some l0)), (1, zi l1), (2, zi l2)] [] := by
  intro n
  induction n with
  | zero => intro l0 l1 l2 s0 hf; exact absurd (show (none : Option (Unit × zS)) = some (r, sF) from hf) (fun z => nomatch z)
  | succ n ih => intro l0 l1 l2 s0 hf; exact w_X8_layFirst_b44 hC hL hno hQ k32 hk32 (f_X8_layFirst_l44 X.g.1 k32 n) ih l0 l1 l2 s0 hf
def f_X8_layFirst_b32 (G : Nat → Nat) (k32 : Nat → Int32 → zS → Option (Unit × zS)) (l0 : Nat) (l1 : Int32) (s0 : zS) : Option (Unit × zS) :=
zo (zgR s0 (some l0) 6 8) fun v1 =>
zo (zaI s0 v1 0 2) fun v2 =>
if v2 ≤ l1 then (some ((), s0))
else (f_X8_layFirst_l44 G k32 2000 l0 l1 0 s0)
set_option maxHeartbeats 4000000 in
theorem w_X8_layFirst_b32 {X : zX} (hC : ZC X RX8 cX8_layFirst none 2 20) (hL : X.nL = 4) (hno : ∀ x ∈ X.c.exceptionTable.toList, False) {r : Unit} {sF : zS} (hQ : ZQ X (.inl none, sF)) (k32 : Nat → Int32 → zS → Option (Unit × zS)) (hk32 : ∀ (l0 : Nat) (l1 : Int32) (s0 : zS), k32 l0 l1 s0 = some (r, sF) → ZW X s0 32 [(0, zr (some l0)), (1, zi l1)] []) (l0 : Nat) (l1 : Int32) (s0 : zS) (hf : f_X8_layFirst_b32 X.g.1 k32 l0 l1 s0 = some (r, sF)) : ZW X s0 32 [(0, zr (some l0)), (1, zi l1)] [] := by
  unfold f_X8_layFirst_b32 at hf
  refine z_iload_n hC (pc := 32) dX8_layFirst_32 rfl 1 rfl ?_
  refine z_aload_n hC (pc := 33) dX8_layFirst_33 rfl 0 rfl ?_
  refine z_getR hC (pc := 34) in_X8 zcX8 8 (Nat.le_of_ble_eq_true rfl) (zLk.o hC q2681) zsm dX8_layFirst_34 hf (fun v1 hf => ?_)
  refine z_iconst (v := 2) hC (pc := 37) dX8_layFirst_37 zki_2 ?_
  refine z_iald hC (pc := 38) dX8_layFirst_38 hf (fun v2 hf => ?_)
  refine z_icmp_ge hC (pc := 39) (tgt := 124) dX8_layFirst_39 rfl (fun c3 => ?_) (fun c3 => ?_)
  · have hf := zif_t hf c3
    exact z_return hC (pc := 124) hQ dX8_layFirst_124 hf
  · have hf := zif_f hf c3
    refine z_iconst (v := 0) hC (pc := 42) dX8_layFirst_42 zki_0 ?_
    refine z_istore_n (lv' := [(2, zi 0), (0, zr (some l0)), (1, zi l1)]) hC (pc := 43) hL dX8_layFirst_43 rfl (Nat.le_of_ble_eq_true rfl) rfl ?_
    refine ZW.perm (lv' := [(0, zr (some l0)), (1, zi l1), (2, zi 0)]) [1, 2, 0] rfl ?_
    exact w_X8_layFirst_l44 hC hL hno hQ k32 hk32 2000 l0 l1 0 s0 hf
def f_X8_layFirst_l32 (G : Nat → Nat) : Nat → Nat → Int32 → zS → Option (Unit × zS)
  | 0 => fun _ _ _ => none
  | n + 1 => f_X8_layFirst_b32 G (f_X8_layFirst_l32 G n)
theorem w_X8_layFirst_l32 {X : zX} (hC : ZC X RX8 cX8_layFirst none 2 20) (hL : X.nL = 4) (hno : ∀ x ∈ X.c.exceptionTable.toList, False) {r : Unit} {sF : zS} (hQ : ZQ X (.inl none, sF)) : ∀ (n : Nat) (l0 : Nat) (l1 : Int32) (s0 : zS) (_ : f_X8_layFirst_l32 X.g.1 n l0 l1 s0 = some (r, sF)), ZW X s0 32 [(0, zr (some l0)), (1, zi l1)] [] := by
  intro n
  induction n with
  | zero => intro l0 l1 s0 hf; exact absurd (show (none : Option (Unit × zS)) = some (r, sF) from hf) (fun z => nomatch z)
  | succ n ih => intro l0 l1 s0 hf; exact w_X8_layFirst_b32 hC hL hno hQ (f_X8_layFirst_l32 X.g.1 n) ih l0 l1 s0 hf
def f_X8_layFirst_b2 (G : Nat → Nat) (k2 : Nat → Int32 → zS → Option (Unit × zS)) (l0 : Nat) (l1 : Int32) (s0 : zS) : Option (Unit × zS) :=
zo (zgR s0 (some l0) 6 8) fun v1 =>
zo (zaI s0 v1 0 0) fun v2 =>
if v2 ≤ l1 then (f_X8_layFirst_l32 G 2000 l0 0 s0)
else (zo (zgR s0 (some l0) 6 8) fun v4 =>
zb (f_X8_machine G l1 s0) fun v5 s6 =>
zo (zsI G s6 v4 0 (v5 + 2) 0) fun s7 =>
k2 l0 (l1 + 1) s7)
set_option maxHeartbeats 4000000 in
theorem w_X8_layFirst_b2 {X : zX} (hC : ZC X RX8 cX8_layFirst none 2 20) (hL : X.nL = 4) (hno : ∀ x ∈ X.c.exceptionTable.toList, False) {r : Unit} {sF : zS} (hQ : ZQ X (.inl none, sF)) (k2 : Nat → Int32 → zS → Option (Unit × zS)) (hk2 : ∀ (l0 : Nat) (l1 : Int32) (s0 : zS), k2 l0 l1 s0 = some (r, sF) → ZW X s0 2 [(0, zr (some l0)), (1, zi l1)] []) (l0 : Nat) (l1 : Int32) (s0 : zS) (hf : f_X8_layFirst_b2 X.g.1 k2 l0 l1 s0 = some (r, sF)) : ZW X s0 2 [(0, zr (some l0)), (1, zi l1)] [] := by
  unfold f_X8_layFirst_b2 at hf
  refine z_iload_n hC (pc := 2) dX8_layFirst_2 rfl 1 rfl ?_
  refine z_aload_n hC (pc := 3) dX8_layFirst_3 rfl 0 rfl ?_
  refine z_getR hC (pc := 4) in_X8 zcX8 8 (Nat.le_of_ble_eq_true rfl) (zLk.o hC q2681) zsm dX8_layFirst_4 hf (fun v1 hf => ?_)
  refine z_iconst (v := 0) hC (pc := 7) dX8_layFirst_7 zki_0 ?_
  refine z_iald hC (pc := 8) dX8_layFirst_8 hf (fun v2 hf => ?_)
  refine z_icmp_ge hC (pc := 9) (tgt := 30) dX8_layFirst_9 rfl (fun c3 => ?_) (fun c3 => ?_)
  · have hf := zif_t hf c3
    refine z_iconst (v := 0) hC (pc := 30) dX8_layFirst_30 zki_0 ?_
    refine z_istore_n (lv' := [(1, zi 0), (0, zr (some l0))]) hC (pc := 31) hL dX8_layFirst_31 rfl (Nat.le_of_ble_eq_true rfl) rfl ?_
    refine ZW.perm (lv' := [(0, zr (some l0)), (1, zi 0)]) [1, 0] rfl ?_
    exact w_X8_layFirst_l32 hC hL hno hQ 2000 l0 0 s0 hf
  · have hf := zif_f hf c3
    refine z_aload_n hC (pc := 12) dX8_layFirst_12 rfl 0 rfl ?_
    refine z_getR hC (pc := 13) in_X8 zcX8 8 (Nat.le_of_ble_eq_true rfl) (zLk.o hC q2681) zsm dX8_layFirst_13 hf (fun v4 hf => ?_)
    refine z_iload_n hC (pc := 16) dX8_layFirst_16 rfl 1 rfl ?_
    refine z_cI (rest := [zr v4]) hf (fun v5 s6 hcall => z_runS hC (pc := 17) 1 (m_X8_machine X.g l1 s0 s6 v5 hcall) (lw_S q2842 q2843 q108 q2844) hd_X8_machine ⟨(Nat.le_of_ble_eq_true rfl), (Nat.le_of_ble_eq_true rfl)⟩ rfl (Nat.le_of_ble_eq_true rfl) dX8_layFirst_17 rfl) (fun v5 s6 hf => ?_)
    refine z_iconst (v := 2) hC (pc := 20) dX8_layFirst_20 zki_2 ?_
    refine z_iadd hC (pc := 21) dX8_layFirst_21 ?_
    refine z_iconst (v := 0) hC (pc := 22) dX8_layFirst_22 zki_0 ?_
    refine z_iast hC (pc := 23) dX8_layFirst_23 hf (fun s7 hf => ?_)
    refine z_iinc (v := 1) (lv' := [(1, zi (l1 + 1)), (0, zr (some l0))]) hC (pc := 24) hL dX8_layFirst_24 1 rfl zki_1 (Nat.le_of_ble_eq_true rfl) rfl ?_
    refine z_goto hC (pc := 27) (tgt := 2) dX8_layFirst_27 rfl ?_
    refine ZW.perm (lv' := [(0, zr (some l0)), (1, zi (l1 + 1))]) [1, 0] rfl ?_
    exact hk2 l0 (l1 + 1) s7 hf
def f_X8_layFirst_l2 (G : Nat → Nat) : Nat → Nat → Int32 → zS → Option (Unit × zS)
  | 0 => fun _ _ _ => none
  | n + 1 => f_X8_layFirst_b2 G (f_X8_layFirst_l2 G n)
theorem w_X8_layFirst_l2 {X : zX} (hC : ZC X RX8 cX8_layFirst none 2 20) (hL : X.nL = 4) (hno : ∀ x ∈ X.c.exceptionTable.toList, False) {r : Unit} {sF : zS} (hQ : ZQ X (.inl none, sF)) : ∀ (n : Nat) (l0 : Nat) (l1 : Int32) (s0 : zS) (_ : f_X8_layFirst_l2 X.g.1 n l0 l1 s0 = some (r, sF)), ZW X s0 2 [(0, zr (some l0)), (1, zi l1)] [] := by
  intro n
  induction n with
  | zero => intro l0 l1 s0 hf; exact absurd (show (none : Option (Unit × zS)) = some (r, sF) from hf) (fun z => nomatch z)
  | succ n ih => intro l0 l1 s0 hf; exact w_X8_layFirst_b2 hC hL hno hQ (f_X8_layFirst_l2 X.g.1 n) ih l0 l1 s0 hf
def f_X8_layFirst (G : Nat → Nat) (l0 : Nat) (s0 : zS) : Option (Unit × zS) :=
f_X8_layFirst_l2 G 2000 l0 0 s0
set_option maxHeartbeats 4000000 in
theorem m_X8_layFirst (Γ : zG) (l0 : Nat) (s0 s1 : zS) (r : Unit) (hf : f_X8_layFirst Γ.1 l0 s0 = some (r, s1)) : ZM Γ yX8_layFirst (ws_ yX8_layFirst cX8_layFirst 4 none) 2 20 [zr (some l0)] s0 (.inl none, s1) := by
  refine ZM.of (own := RX8) (by decide) rfl (Nat.le_of_ble_eq_true rfl) ?_
  intro X hg hC hL hno hQ hin
  subst hg
  unfold f_X8_layFirst at hf
  refine z_iconst (v := 0) hC (pc := 0) dX8_layFirst_0 zki_0 ?_
  refine z_istore_n (lv' := [(1, zi 0), (0, zr (some l0))]) hC (pc := 1) hL dX8_layFirst_1 rfl (Nat.le_of_ble_eq_true rfl) rfl ?_
  refine ZW.perm (lv' := [(0, zr (some l0)), (1, zi 0)]) [1, 0] rfl ?_
  exact w_X8_layFirst_l2 hC hL hno hQ 2000 l0 0 s0 hf
/-! BlockingShopModel.noOperation(II)Z -/
def f_X8_noOperation_b35 (G : Nat → Nat) (t0 : Int32) (t1 : Option Nat) (s0 : zS) : Option (Int32 × zS) :=
zo (zrc s0 t1 6) fun a3 =>
zb (f_X8_fails G a3 t0 1 s0) fun v4 s5 =>
if v4 = 0 then (zrn .boolean 0 s5)
else (zrn .boolean 1 s5)
set_option maxHeartbeats 4000000 in
theorem w_X8_noOperation_b35 {X : zX} (hC : ZC X RX8 cX8_noOperation (some .boolean) 3 43) (hL : X.nL = 3) (hno : ∀ x ∈ X.c.exceptionTable.toList, False) {r : Int32} {sF : zS} (hQ : ZQ X (.inl (some (zi r)), sF)) (t0 : Int32) (t1 : Option Nat) (s0 : zS) (hf : f_X8_noOperation_b35 X.g.1 t0 t1 s0 = some (r, sF)) : ZW X s0 35 [] [zi t0, zr t1] := by
  unfold f_X8_noOperation_b35 at hf
  refine z_iconst (v := 1) hC (pc := 35) dX8_noOperation_35 zki_1 ?_
  obtain ⟨a3, fs1, rfl, ha2, hf⟩ := z_rcO hf
  refine z_cI (rest := []) hf (fun v4 s5 hcall => z_runV hC (pc := 36) zcX8 2 ha2 (m_X8_fails X.g a3 t0 1 s0 s5 v4 hcall) (lw_V q2765 q2767 qs48 q108 q2768) hdV_X8_fails ⟨(Nat.le_of_ble_eq_true rfl), (Nat.le_of_ble_eq_true rfl)⟩ rfl (Nat.le_of_ble_eq_true rfl) dX8_noOperation_36 rfl) (fun v4 s5 hf => ?_)
  refine z_if_eq hC (pc := 39) (tgt := 46) dX8_noOperation_39 rfl (fun c6 => ?_) (fun c6 => ?_)
  · have hf := zif_t hf c6
    refine z_iconst (v := 0) hC (pc := 46) dX8_noOperation_46 zki_0 ?_
    exact z_zreturn hC (pc := 47) hQ dX8_noOperation_47 hf
  · have hf := zif_f hf c6
    refine z_iconst (v := 1) hC (pc := 42) dX8_noOperation_42 zki_1 ?_
    refine z_goto hC (pc := 43) (tgt := 47) dX8_noOperation_43 rfl ?_
    exact z_zreturn hC (pc := 47) hQ dX8_noOperation_47 hf
def f_X8_noOperation (G : Nat → Nat) (l0 : Nat) (l1 : Int32) (l2 : Int32) (s0 : zS) : Option (Int32 × zS) :=
zo (zrc s0 (some l0) 6) fun _ =>
zb (f_X8_noJob G l0 l1 s0) fun v3 s4 =>
if v3 = 0 then (zo (zgR s4 (some l0) 6 8) fun v6 =>
zb (f_X8_job G l1 s4) fun v7 s8 =>
zo (zaI s8 v6 0 (v7 + 3)) fun v9 =>
zb (f_X8_in G l2 0 (v9 - 1) s8) fun v10 s11 =>
if v10 = 0 then (f_X8_noOperation_b35 G 1 (some l0) s11)
else (f_X8_noOperation_b35 G 0 (some l0) s11))
else (zrn .boolean 1 s4)
set_option maxHeartbeats 4000000 in
theorem m_X8_noOperation (Γ : zG) (l0 : Nat) (l1 : Int32) (l2 : Int32) (s0 s1 : zS) (r : Int32) (hf : f_X8_noOperation Γ.1 l0 l1 l2 s0 = some (r, s1)) : ZM Γ yX8_noOperation (ws_ yX8_noOperation cX8_noOperation 3 (some .boolean)) 3 43 [zr (some l0), zi l1, zi l2] s0 (.inl (some (zi r)), s1) := by
  refine ZM.of (own := RX8) (by decide) rfl (Nat.le_of_ble_eq_true rfl) ?_
  intro X hg hC hL hno hQ hin
  subst hg
  unfold f_X8_noOperation at hf
  refine z_aload_n hC (pc := 0) dX8_noOperation_0 rfl 0 rfl ?_
  refine z_iload_n hC (pc := 1) dX8_noOperation_1 rfl 1 rfl ?_
  obtain ⟨fs1, ha2, hf⟩ := z_rcN hf
  refine z_cI (rest := []) hf (fun v3 s4 hcall => z_runV hC (pc := 2) zcX8 1 ha2 (m_X8_noJob X.g l0 l1 s0 s4 v3 hcall) (lw_V q2897 q2899 qs67 q108 q2900) hdV_X8_noJob ⟨(Nat.le_of_ble_eq_true rfl), (Nat.le_of_ble_eq_true rfl)⟩ rfl (Nat.le_of_ble_eq_true rfl) dX8_noOperation_2 rfl) (fun v3 s4 hf => ?_)
  refine z_if_ne hC (pc := 5) (tgt := 42) dX8_noOperation_5 rfl (fun c5 => ?_) (fun c5 => ?_)
  · have hf := zif_f hf c5
    refine z_iconst (v := 1) hC (pc := 42) dX8_noOperation_42 zki_1 ?_
    refine z_goto hC (pc := 43) (tgt := 47) dX8_noOperation_43 rfl ?_
    exact z_zreturn hC (pc := 47) hQ dX8_noOperation_47 hf
  · have hf := zif_t hf c5
    refine z_aload_n hC (pc := 8) dX8_noOperation_8 rfl 0 rfl ?_
    refine z_iload_n hC (pc := 9) dX8_noOperation_9 rfl 2 rfl ?_
    refine z_iconst (v := 0) hC (pc := 10) dX8_noOperation_10 zki_0 ?_
    refine z_aload_n hC (pc := 11) dX8_noOperation_11 rfl 0 rfl ?_
    refine z_getR hC (pc := 12) in_X8 zcX8 8 (Nat.le_of_ble_eq_true rfl) (zLk.o hC q2681) zsm dX8_noOperation_12 hf (fun v6 hf => ?_)
    refine z_iload_n hC (pc := 15) dX8_noOperation_15 rfl 1 rfl ?_
    refine z_cI (rest := [zr v6, zi 0, zi l2, zr (some l0)]) hf (fun v7 s8 hcall => z_runS hC (pc := 16) 1 (m_X8_job X.g l1 s4 s8 v7 hcall) (lw_S q2826 q2827 q108 q2828) hd_X8_job ⟨(Nat.le_of_ble_eq_true rfl), (Nat.le_of_ble_eq_true rfl)⟩ rfl (Nat.le_of_ble_eq_true rfl) dX8_noOperation_16 rfl) (fun v7 s8 hf => ?_)
    refine z_iconst (v := 3) hC (pc := 19) dX8_noOperation_19 zki_3 ?_
    refine z_iadd hC (pc := 20) dX8_noOperation_20 ?_
    refine z_iald hC (pc := 21) dX8_noOperation_21 hf (fun v9 hf => ?_)
    refine z_iconst (v := 1) hC (pc := 22) dX8_noOperation_22 zki_1 ?_
    refine z_isub hC (pc := 23) dX8_noOperation_23 ?_
    refine z_cI (rest := [zr (some l0)]) hf (fun v10 s11 hcall => z_runS hC (pc := 24) 3 (m_X8_in X.g l2 0 (v9 - 1) s8 s11 v10 hcall) (lw_S q2762 q2763 q108 q2764) hd_X8_in ⟨(Nat.le_of_ble_eq_true rfl), (Nat.le_of_ble_eq_true rfl)⟩ rfl (Nat.le_of_ble_eq_true rfl) dX8_noOperation_24 rfl) (fun v10 s11 hf => ?_)
    refine z_if_ne hC (pc := 27) (tgt := 34) dX8_noOperation_27 rfl (fun c12 => ?_) (fun c12 => ?_)
    · have hf := zif_f hf c12
      refine z_iconst (v := 0) hC (pc := 34) dX8_noOperation_34 zki_0 ?_
      refine ZW.perm (lv' := []) [] rfl ?_
      exact w_X8_noOperation_b35 hC hL hno hQ 0 (some l0) s11 hf
    · have hf := zif_t hf c12
      refine z_iconst (v := 1) hC (pc := 30) dX8_noOperation_30 zki_1 ?_
      refine z_goto hC (pc := 31) (tgt := 35) dX8_noOperation_31 rfl ?_
      refine ZW.perm (lv' := []) [] rfl ?_
      exact w_X8_noOperation_b35 hC hL hno hQ 1 (some l0) s11 hf
/-! BlockingShopModel.leave(II)I -/
def f_X8_leave (G : Nat → Nat) (l0 : Nat) (l1 : Int32) (l2 : Int32) (s0 : zS) : Option (Int32 × zS) :=
zo (zput G s0 (some l0) 6 0 (.int 0)) fun s1 =>
zo (zrc s1 (some l0) 6) fun _ =>
zb (f_X8_noOperation G l0 l1 l2 s1) fun v4 s5 =>
if v4 = 0 then (zo (zrc s5 (some l0) 6) fun _ =>
zb (f_X8_findStarts G l0 s5) fun v9 s10 =>
if v9 = 0 then (some (0, s10))
else (zo (zrc s10 (some l0) 6) fun _ =>
zb (f_X8_leaveOf G l0 ((6 * l1) + l2) s10) fun v14 s15 =>
some (v14, s15)))
else (some (0, s5))
set_option maxHeartbeats 4000000 in
theorem m_X8_leave (Γ : zG) (l0 : Nat) (l1 : Int32) (l2 : Int32) (s0 s1 : zS) (r : Int32) (hf : f_X8_leave Γ.1 l0 l1 l2 s0 = some (r, s1)) : ZM Γ yX8_leave (ws_ yX8_leave cX8_leave 3 (some .int)) 6 110 [zr (some l0), zi l1, zi l2] s0 (.inl (some (zi r)), s1) := by
  refine ZM.of (own := RX8) (by decide) rfl (Nat.le_of_ble_eq_true rfl) ?_
  intro X hg hC hL hno hQ hin
  subst hg
  unfold f_X8_leave at hf
  refine z_aload_n hC (pc := 0) dX8_leave_0 rfl 0 rfl ?_
  refine z_iconst (v := 0) hC (pc := 1) dX8_leave_1 zki_0 ?_
  refine z_putV (v := zi 0) hC (pc := 2) in_X8 tyX8 tyX8_ok nmX8 zcX8 0 (Nat.le_of_ble_eq_true rfl) (zLk.o hC q2673) zsm (Or.inl rfl) rfl rfl dX8_leave_2 hf (fun s1 hf => ?_)
  refine z_aload_n hC (pc := 5) dX8_leave_5 rfl 0 rfl ?_
  refine z_iload_n hC (pc := 6) dX8_leave_6 rfl 1 rfl ?_
  refine z_iload_n hC (pc := 7) dX8_leave_7 rfl 2 rfl ?_
  obtain ⟨fs2, ha3, hf⟩ := z_rcN hf
  refine z_cI (rest := []) hf (fun v4 s5 hcall => z_runV hC (pc := 8) zcX8 2 ha3 (m_X8_noOperation X.g l0 l1 l2 s1 s5 v4 hcall) (lw_V q2905 q2907 qs68 q108 q2908) hdV_X8_noOperation ⟨(Nat.le_of_ble_eq_true rfl), (Nat.le_of_ble_eq_true rfl)⟩ rfl (Nat.le_of_ble_eq_true rfl) dX8_leave_8 rfl) (fun v4 s5 hf => ?_)
  refine z_if_ne hC (pc := 11) (tgt := 21) dX8_leave_11 rfl (fun c6 => ?_) (fun c6 => ?_)
  · have hf := zif_f hf c6
    refine z_iconst (v := 0) hC (pc := 21) dX8_leave_21 zki_0 ?_
    refine z_goto hC (pc := 22) (tgt := 35) dX8_leave_22 rfl ?_
    exact z_ireturn hC (pc := 35) hQ dX8_leave_35 hf
  · have hf := zif_t hf c6
    refine z_aload_n hC (pc := 14) dX8_leave_14 rfl 0 rfl ?_
    obtain ⟨fs7, ha8, hf⟩ := z_rcN hf
    refine z_cI (rest := []) hf (fun v9 s10 hcall => z_runV hC (pc := 15) zcX8 0 ha8 (m_X8_findStarts X.g l0 s5 s10 v9 hcall) (lw_V q2936 q2938 qs72 q108 q2939) hdV_X8_findStarts ⟨(Nat.le_of_ble_eq_true rfl), (Nat.le_of_ble_eq_true rfl)⟩ rfl (Nat.le_of_ble_eq_true rfl) dX8_leave_15 rfl) (fun v9 s10 hf => ?_)
    refine z_if_ne hC (pc := 18) (tgt := 25) dX8_leave_18 rfl (fun c11 => ?_) (fun c11 => ?_)
    · have hf := zif_f hf c11
      refine z_aload_n hC (pc := 25) dX8_leave_25 rfl 0 rfl ?_
      refine z_bipush (v := 6) hC (pc := 26) dX8_leave_26 zkb_6 ?_
      refine z_iload_n hC (pc := 28) dX8_leave_28 rfl 1 rfl ?_
      refine z_imul hC (pc := 29) dX8_leave_29 ?_
      refine z_iload_n hC (pc := 30) dX8_leave_30 rfl 2 rfl ?_
      refine z_iadd hC (pc := 31) dX8_leave_31 ?_
      obtain ⟨fs12, ha13, hf⟩ := z_rcN hf
      refine z_cI (rest := []) hf (fun v14 s15 hcall => z_runV hC (pc := 32) zcX8 1 ha13 (m_X8_leaveOf X.g l0 ((6 * l1) + l2) s10 s15 v14 hcall) (lw_V q2971 q2973 qs79 q108 q2974) hdV_X8_leaveOf ⟨(Nat.le_of_ble_eq_true rfl), (Nat.le_of_ble_eq_true rfl)⟩ rfl (Nat.le_of_ble_eq_true rfl) dX8_leave_32 rfl) (fun v14 s15 hf => ?_)
      exact z_ireturn hC (pc := 35) hQ dX8_leave_35 hf
    · have hf := zif_t hf c11
      refine z_iconst (v := 0) hC (pc := 21) dX8_leave_21 zki_0 ?_
      refine z_goto hC (pc := 22) (tgt := 35) dX8_leave_22 rfl ?_
      exact z_ireturn hC (pc := 35) hQ dX8_leave_35 hf
/-! BlockingShopModel.once(II)V -/
def f_X8_once_b19 (G : Nat → Nat) (l0 : Nat) (l1 : Int32) (s0 : zS) : Option (Unit × zS) :=
zo (zgI s0 (some l0) 6 15) fun v1 =>
zo (zput G s0 (some l0) 6 15 (.int (v1 ||| (1 <<< ((l1 : Int32) &&& 31))))) fun s2 =>
some ((), s2)
set_option maxHeartbeats 4000000 in
theorem w_X8_once_b19 {X : zX} (hC : ZC X RX8 cX8_once none 2 22) (hL : X.nL = 3) (hno : ∀ x ∈ X.c.exceptionTable.toList, False) {r : Unit} {sF : zS} (hQ : ZQ X (.inl none, sF)) (l0 : Nat) (l1 : Int32) (s0 : zS) (hf : f_X8_once_b19 X.g.1 l0 l1 s0 = some (r, sF)) : ZW X s0 19 [(0, zr (some l0)), (1, zi l1)] [] := by
  unfold f_X8_once_b19 at hf
  refine z_aload_n hC (pc := 19) dX8_once_19 rfl 0 rfl ?_
  refine z_dup hC (pc := 20) dX8_once_20 rfl ?_
  refine z_getI hC (pc := 21) in_X8 zcX8 15 (Nat.le_of_ble_eq_true rfl) (zLk.o hC q2688) zsm dX8_once_21 hf (fun v1 hf => ?_)
  refine z_iconst (v := 1) hC (pc := 24) dX8_once_24 zki_1 ?_
  refine z_iload_n hC (pc := 25) dX8_once_25 rfl 1 rfl ?_
  refine z_ishl hC (pc := 26) dX8_once_26 ?_
  refine z_ior hC (pc := 27) dX8_once_27 ?_
  refine z_putV (v := zi (v1 ||| (1 <<< ((l1 : Int32) &&& 31)))) hC (pc := 28) in_X8 tyX8 tyX8_ok nmX8 zcX8 15 (Nat.le_of_ble_eq_true rfl) (zLk.o hC q2688) zsm (Or.inl rfl) rfl rfl dX8_once_28 hf (fun s2 hf => ?_)
  exact z_return hC (pc := 31) hQ dX8_once_31 hf
def f_X8_once (G : Nat → Nat) (l0 : Nat) (l1 : Int32) (l2 : Int32) (s0 : zS) : Option (Unit × zS) :=
zo (zgI s0 (some l0) 6 15) fun v1 =>
if ((v1 >>> ((l1 : Int32) &&& 31)) &&& 1) = 1 then (zo (zrc s0 (some l0) 6) fun _ =>
zb (f_X8_report G l0 (-2) l2 s0) fun _ s6 =>
f_X8_once_b19 G l0 l1 s6)
else (f_X8_once_b19 G l0 l1 s0)
set_option maxHeartbeats 4000000 in
theorem m_X8_once (Γ : zG) (l0 : Nat) (l1 : Int32) (l2 : Int32) (s0 s1 : zS) (r : Unit) (hf : f_X8_once Γ.1 l0 l1 l2 s0 = some (r, s1)) : ZM Γ yX8_once (ws_ yX8_once cX8_once 3 none) 2 22 [zr (some l0), zi l1, zi l2] s0 (.inl none, s1) := by
  refine ZM.of (own := RX8) (by decide) rfl (Nat.le_of_ble_eq_true rfl) ?_
  intro X hg hC hL hno hQ hin
  subst hg
  unfold f_X8_once at hf
  refine z_aload_n hC (pc := 0) dX8_once_0 rfl 0 rfl ?_
  refine z_getI hC (pc := 1) in_X8 zcX8 15 (Nat.le_of_ble_eq_true rfl) (zLk.o hC q2688) zsm dX8_once_1 hf (fun v1 hf => ?_)
  refine z_iload_n hC (pc := 4) dX8_once_4 rfl 1 rfl ?_
  refine z_ishr hC (pc := 5) dX8_once_5 ?_
  refine z_iconst (v := 1) hC (pc := 6) dX8_once_6 zki_1 ?_
  refine z_iand hC (pc := 7) dX8_once_7 ?_
  refine z_iconst (v := 1) hC (pc := 8) dX8_once_8 zki_1 ?_
  refine z_icmp_ne hC (pc := 9) (tgt := 19) dX8_once_9 rfl (fun c2 => ?_) (fun c2 => ?_)
  · have hf := zif_f hf c2
    refine ZW.perm (lv' := [(0, zr (some l0)), (1, zi l1)]) [0, 1] rfl ?_
    exact w_X8_once_b19 hC hL hno hQ l0 l1 s0 hf
  · have hf := zif_t hf c2
    refine z_aload_n hC (pc := 12) dX8_once_12 rfl 0 rfl ?_
    refine z_bipush (v := (-2)) hC (pc := 13) dX8_once_13 zkb_m2 ?_
    refine z_iload_n hC (pc := 15) dX8_once_15 rfl 2 rfl ?_
    obtain ⟨fs3, ha4, hf⟩ := z_rcN hf
    refine z_cU (rest := []) hf (fun v5 s6 hcall => z_runV hC (pc := 16) zcX8 2 ha4 (m_X8_report X.g l0 (-2) l2 s0 s6 v5 hcall) (lw_V q2798 q2800 qs53 q108 q2801) hdV_X8_report ⟨(Nat.le_of_ble_eq_true rfl), (Nat.le_of_ble_eq_true rfl)⟩ rfl (Nat.le_of_ble_eq_true rfl) dX8_once_16 rfl) (fun _ s6 hf => ?_)
    refine ZW.perm (lv' := [(0, zr (some l0)), (1, zi l1)]) [0, 1] rfl ?_
    exact w_X8_once_b19 hC hL hno hQ l0 l1 s6 hf
/-! BlockingShopModel.readOperation(II)V -/
def f_X8_readOperation_b86 (G : Nat → Nat) (k43 : Nat → Int32 → Int32 → Int32 → Int32 → zS → Option (Unit × zS)) (l0 : Nat) (l1 : Int32) (l3 : Int32) (l4 : Int32) (l5 : Int32) (s0 : zS) : Option (Unit × zS) :=
k43 l0 l1 l3 l4 (l5 + 1) s0
set_option maxHeartbeats 4000000 in
theorem w_X8_readOperation_b86 {X : zX} (hC : ZC X RX8 cX8_readOperation none 4 65) (hL : X.nL = 6) (hno : ∀ x ∈ X.c.exceptionTable.toList, False) {r : Unit} {sF : zS} (hQ : ZQ X (.inl none, sF)) (k43 : Nat → Int32 → Int32 → Int32 → Int32 → zS → Option (Unit × zS)) (hk43 : ∀ (l0 : Nat) (l1 : Int32) (l3 : Int32) (l4 : Int32) (l5 : Int32) (s0 : zS), k43 l0 l1 l3 l4 l5 s0 = some (r, sF) → ZW X s0 43 [(0, zr (some l0)), (1, zi l1), (3, zi l3), (4, zi l4), (5, zi l5)] []) (l0 : Nat) (l1 : Int32) (l3 : Int32) (l4 : Int32) (l5 : Int32) (s0 : zS) (hf : f_X8_readOperation_b86 X.g.1 k43 l0 l1 l3 l4 l5 s0 = some (r, sF)) : ZW X s0 86 [(0, zr (some l0)), (1, zi l1), (3, zi l3), (4, zi l4), (5, zi l5)] [] := by
  unfold f_X8_readOperation_b86 at hf
  refine z_iinc (v := 1) (lv' := [(5, zi (l5 + 1)), (0, zr (some l0)), (1, zi l1), (3, zi l3), (4, zi l4)]) hC (pc := 86) hL dX8_readOperation_86 4 rfl zki_1 (Nat.le_of_ble_eq_true rfl) rfl ?_
  refine z_goto hC (pc := 89) (tgt := 43) dX8_readOperation_89 rfl ?_
  refine ZW.perm (lv' := [(0, zr (some l0)), (1, zi l1), (3, zi l3), (4, zi l4), (5, zi (l5 + 1))]) [1, 2, 3, 4, 0] rfl ?_
  exact hk43 l0 l1 l3 l4 (l5 + 1) s0 hf
def f_X8_readOperation_b92 (G : Nat → Nat) (l0 : Nat) (l1 : Int32) (l3 : Int32) (l4 : Int32) (s0 : zS) : Option (Unit × zS) :=
zo (zrc s0 (some l0) 6) fun _ =>
zb (f_X8_number G l0 1 99 s0) fun v3 s4 =>
zo (zrc s4 (some l0) 6) fun _ =>
zb (f_X8_isGood G l0 s4) fun v7 s8 =>
if v7 = 0 then (some ((), s8))
else (zo (zgR s8 (some l0) 6 9) fun v10 =>
zb (f_X8_operationAt G ((6 * l1) + l3) s8) fun v11 s12 =>
zo (zsI G s12 v10 0 v11 l4) fun s13 =>
zo (zgR s13 (some l0) 6 9) fun v14 =>
zb (f_X8_operationAt G ((6 * l1) + l3) s13) fun v15 s16 =>
zo (zsI G s16 v14 0 (v15 + 1) v3) fun s17 =>
zo (zgR s17 (some l0) 6 9) fun v18 =>
zb (f_X8_job G l1 s17) fun v19 s20 =>
zo (zaI s20 v18 0 (v19 + 3)) fun v21 =>
zo (zsI G s20 v18 0 (v19 + 3) (v21 + 1)) fun s22 =>
some ((), s22))
set_option maxHeartbeats 4000000 in
theorem w_X8_readOperation_b92 {X : zX} (hC : ZC X RX8 cX8_readOperation none 4 65) (hL : X.nL = 6) (hno : ∀ x ∈ X.c.exceptionTable.toList, False) {r : Unit} {sF : zS} (hQ : ZQ X (.inl none, sF)) (l0 : Nat) (l1 : Int32) (l3 : Int32) (l4 : Int32) (s0 : zS) (hf : f_X8_readOperation_b92 X.g.1 l0 l1 l3 l4 s0 = some (r, sF)) : ZW X s0 92 [(0, zr (some l0)), (1, zi l1), (3, zi l3), (4, zi l4)] [] := by
  unfold f_X8_readOperation_b92 at hf
  refine z_aload_n hC (pc := 92) dX8_readOperation_92 rfl 0 rfl ?_
  refine z_iconst (v := 1) hC (pc := 93) dX8_readOperation_93 zki_1 ?_
  refine z_bipush (v := 99) hC (pc := 94) dX8_readOperation_94 zkb_99 ?_
  obtain ⟨fs1, ha2, hf⟩ := z_rcN hf
  refine z_cI (rest := []) hf (fun v3 s4 hcall => z_runV hC (pc := 96) zcX8 2 ha2 (m_X8_number X.g l0 1 99 s0 s4 v3 hcall) (lw_V q2802 q2804 qs54 q108 q2805) hdV_X8_number ⟨(Nat.le_of_ble_eq_true rfl), (Nat.le_of_ble_eq_true rfl)⟩ rfl (Nat.le_of_ble_eq_true rfl) dX8_readOperation_96 rfl) (fun v3 s4 hf => ?_)
  refine z_istore (lv' := [(5, zi v3), (0, zr (some l0)), (1, zi l1), (3, zi l3), (4, zi l4)]) hC (pc := 99) hL dX8_readOperation_99 (Nat.le_of_ble_eq_true rfl) rfl ?_
  refine z_aload_n hC (pc := 101) dX8_readOperation_101 rfl 1 rfl ?_
  obtain ⟨fs5, ha6, hf⟩ := z_rcN hf
  refine z_cI (rest := []) hf (fun v7 s8 hcall => z_runV hC (pc := 102) zcX8 0 ha6 (m_X8_isGood X.g l0 s4 s8 v7 hcall) (lw_V q2774 q2776 qs50 q108 q2777) hdV_X8_isGood ⟨(Nat.le_of_ble_eq_true rfl), (Nat.le_of_ble_eq_true rfl)⟩ rfl (Nat.le_of_ble_eq_true rfl) dX8_readOperation_102 rfl) (fun v7 s8 hf => ?_)
  refine z_if_ne hC (pc := 105) (tgt := 109) dX8_readOperation_105 rfl (fun c9 => ?_) (fun c9 => ?_)
  · have hf := zif_f hf c9
    refine z_aload_n hC (pc := 109) dX8_readOperation_109 rfl 1 rfl ?_
    refine z_getR hC (pc := 110) in_X8 zcX8 9 (Nat.le_of_ble_eq_true rfl) (zLk.o hC q2682) zsm dX8_readOperation_110 hf (fun v10 hf => ?_)
    refine z_bipush (v := 6) hC (pc := 113) dX8_readOperation_113 zkb_6 ?_
    refine z_iload_n hC (pc := 115) dX8_readOperation_115 rfl 2 rfl ?_
    refine z_imul hC (pc := 116) dX8_readOperation_116 ?_
    refine z_iload_n hC (pc := 117) dX8_readOperation_117 rfl 3 rfl ?_
    refine z_iadd hC (pc := 118) dX8_readOperation_118 ?_
    refine z_cI (rest := [zr v10]) hf (fun v11 s12 hcall => z_runS hC (pc := 119) 1 (m_X8_operationAt X.g ((6 * l1) + l3) s8 s12 v11 hcall) (lw_S q2834 q2835 q108 q2836) hd_X8_operationAt ⟨(Nat.le_of_ble_eq_true rfl), (Nat.le_of_ble_eq_true rfl)⟩ rfl (Nat.le_of_ble_eq_true rfl) dX8_readOperation_119 rfl) (fun v11 s12 hf => ?_)
    refine z_iload hC (pc := 122) dX8_readOperation_122 4 rfl ?_
    refine z_iast hC (pc := 124) dX8_readOperation_124 hf (fun s13 hf => ?_)
    refine z_aload_n hC (pc := 125) dX8_readOperation_125 rfl 1 rfl ?_
    refine z_getR hC (pc := 126) in_X8 zcX8 9 (Nat.le_of_ble_eq_true rfl) (zLk.o hC q2682) zsm dX8_readOperation_126 hf (fun v14 hf => ?_)
    refine z_bipush (v := 6) hC (pc := 129) dX8_readOperation_129 zkb_6 ?_
    refine z_iload_n hC (pc := 131) dX8_readOperation_131 rfl 2 rfl ?_
    refine z_imul hC (pc := 132) dX8_readOperation_132 ?_
    refine z_iload_n hC (pc := 133) dX8_readOperation_133 rfl 3 rfl ?_
    refine z_iadd hC (pc := 134) dX8_readOperation_134 ?_
    refine z_cI (rest := [zr v14]) hf (fun v15 s16 hcall => z_runS hC (pc := 135) 1 (m_X8_operationAt X.g ((6 * l1) + l3) s13 s16 v15 hcall) (lw_S q2834 q2835 q108 q2836) hd_X8_operationAt ⟨(Nat.le_of_ble_eq_true rfl), (Nat.le_of_ble_eq_true rfl)⟩ rfl (Nat.le_of_ble_eq_true rfl) dX8_readOperation_135 rfl) (fun v15 s16 hf => ?_)
    refine z_iconst (v := 1) hC (pc := 138) dX8_readOperation_138 zki_1 ?_
    refine z_iadd hC (pc := 139) dX8_readOperation_139 ?_
    refine z_iload hC (pc := 140) dX8_readOperation_140 0 rfl ?_
    refine z_iast hC (pc := 142) dX8_readOperation_142 hf (fun s17 hf => ?_)
    refine z_aload_n hC (pc := 143) dX8_readOperation_143 rfl 1 rfl ?_
    refine z_getR hC (pc := 144) in_X8 zcX8 9 (Nat.le_of_ble_eq_true rfl) (zLk.o hC q2682) zsm dX8_readOperation_144 hf (fun v18 hf => ?_)
    refine z_iload_n hC (pc := 147) dX8_readOperation_147 rfl 2 rfl ?_
    refine z_cI (rest := [zr v18]) hf (fun v19 s20 hcall => z_runS hC (pc := 148) 1 (m_X8_job X.g l1 s17 s20 v19 hcall) (lw_S q2826 q2827 q108 q2828) hd_X8_job ⟨(Nat.le_of_ble_eq_true rfl), (Nat.le_of_ble_eq_true rfl)⟩ rfl (Nat.le_of_ble_eq_true rfl) dX8_readOperation_148 rfl) (fun v19 s20 hf => ?_)
    refine z_iconst (v := 3) hC (pc := 151) dX8_readOperation_151 zki_3 ?_
    refine z_iadd hC (pc := 152) dX8_readOperation_152 ?_
    refine z_dup2 hC (pc := 153) dX8_readOperation_153 rfl rfl ?_
    refine z_iald hC (pc := 154) dX8_readOperation_154 hf (fun v21 hf => ?_)
    refine z_iconst (v := 1) hC (pc := 155) dX8_readOperation_155 zki_1 ?_
    refine z_iadd hC (pc := 156) dX8_readOperation_156 ?_
    refine z_iast hC (pc := 157) dX8_readOperation_157 hf (fun s22 hf => ?_)
    exact z_return hC (pc := 158) hQ dX8_readOperation_158 hf
  · have hf := zif_t hf c9
    exact z_return hC (pc := 108) hQ dX8_readOperation_108 hf
def f_X8_readOperation_b43 (G : Nat → Nat) (k43 : Nat → Int32 → Int32 → Int32 → Int32 → zS → Option (Unit × zS)) (l0 : Nat) (l1 : Int32) (l3 : Int32) (l4 : Int32) (l5 : Int32) (s0 : zS) : Option (Unit × zS) :=
if l3 ≤ l5 then (f_X8_readOperation_b92 G l0 l1 l3 l4 s0)
else (zo (zrc s0 (some l0) 6) fun _ =>
zb (f_X8_isGood G l0 s0) fun v4 s5 =>
if v4 = 0 then (f_X8_readOperation_b92 G l0 l1 l3 l4 s5)
else (zo (zgR s5 (some l0) 6 9) fun v7 =>
zb (f_X8_operationAt G ((6 * l1) + l5) s5) fun v8 s9 =>
zo (zaI s9 v7 0 v8) fun v10 =>
if v10 = l4 then (zo (zgI s9 (some l0) 6 13) fun v12 =>
zo (zrc s9 (some l0) 6) fun _ =>
zb (f_X8_report G l0 (-3) v12 s9) fun _ s16 =>
f_X8_readOperation_b86 G k43 l0 l1 l3 l4 l5 s16)
else (f_X8_readOperation_b86 G k43 l0 l1 l3 l4 l5 s9)))
set_option maxHeartbeats 4000000 in
theorem w_X8_readOperation_b43 {X : zX} (hC : ZC X RX8 cX8_readOperation none 4 65) (hL : X.nL = 6) (hno : ∀ x ∈ X.c.exceptionTable.toList, False) {r : Unit} {sF : zS} (hQ : ZQ X (.inl none, sF)) (k43 : Nat → Int32 → Int32 → Int32 → Int32 → zS → Option (Unit × zS)) (hk43 : ∀ (l0 : Nat) (l1 : Int32) (l3 : Int32) (l4 : Int32) (l5 : Int32) (s0 : zS), k43 l0 l1 l3 l4 l5 s0 = some (r, sF) → ZW X s0 43 [(0, zr (some l0)), (1, zi l1), (3, zi l3), (4, zi l4), (5, zi l5)] []) (l0 : Nat) (l1 : Int32) (l3 : Int32) (l4 : Int32) (l5 : Int32) (s0 : zS) (hf : f_X8_readOperation_b43 X.g.1 k43 l0 l1 l3 l4 l5 s0 = some (r, sF)) : ZW X s0 43 [(0, zr (some l0)), (1, zi l1), (3, zi l3), (4, zi l4), (5, zi l5)] [] := by
  unfold f_X8_readOperation_b43 at hf
  refine z_iload hC (pc := 43) dX8_readOperation_43 4 rfl ?_
  refine z_iload_n hC (pc := 45) dX8_readOperation_45 rfl 2 rfl ?_
  refine z_icmp_ge hC (pc := 46) (tgt := 92) dX8_readOperation_46 rfl (fun c1 => ?_) (fun c1 => ?_)
  · have hf := zif_t hf c1
    refine ZW.perm (lv' := [(0, zr (some l0)), (1, zi l1), (3, zi l3), (4, zi l4)]) [0, 1, 2, 3] rfl ?_
    exact w_X8_readOperation_b92 hC hL hno hQ l0 l1 l3 l4 s0 hf
  · have hf := zif_f hf c1
    refine z_aload_n hC (pc := 49) dX8_readOperation_49 rfl 0 rfl ?_
    obtain ⟨fs2, ha3, hf⟩ := z_rcN hf
    refine z_cI (rest := []) hf (fun v4 s5 hcall => z_runV hC (pc := 50) zcX8 0 ha3 (m_X8_isGood X.g l0 s0 s5 v4 hcall) (lw_V q2774 q2776 qs50 q108 q2777) hdV_X8_isGood ⟨(Nat.le_of_ble_eq_true rfl), (Nat.le_of_ble_eq_true rfl)⟩ rfl (Nat.le_of_ble_eq_true rfl) dX8_readOperation_50 rfl) (fun v4 s5 hf => ?_)
    refine z_if_eq hC (pc := 53) (tgt := 92) dX8_readOperation_53 rfl (fun c6 => ?_) (fun c6 => ?_)
    · have hf := zif_t hf c6
      refine ZW.perm (lv' := [(0, zr (some l0)), (1, zi l1), (3, zi l3), (4, zi l4)]) [0, 1, 2, 3] rfl ?_
      exact w_X8_readOperation_b92 hC hL hno hQ l0 l1 l3 l4 s5 hf
    · have hf := zif_f hf c6
      refine z_aload_n hC (pc := 56) dX8_readOperation_56 rfl 0 rfl ?_
      refine z_getR hC (pc := 57) in_X8 zcX8 9 (Nat.le_of_ble_eq_true rfl) (zLk.o hC q2682) zsm dX8_readOperation_57 hf (fun v7 hf => ?_)
      refine z_bipush (v := 6) hC (pc := 60) dX8_readOperation_60 zkb_6 ?_
      refine z_iload_n hC (pc := 62) dX8_readOperation_62 rfl 1 rfl ?_
      refine z_imul hC (pc := 63) dX8_readOperation_63 ?_
      refine z_iload hC (pc := 64) dX8_readOperation_64 4 rfl ?_
      refine z_iadd hC (pc := 66) dX8_readOperation_66 ?_
      refine z_cI (rest := [zr v7]) hf (fun v8 s9 hcall => z_runS hC (pc := 67) 1 (m_X8_operationAt X.g ((6 * l1) + l5) s5 s9 v8 hcall) (lw_S q2834 q2835 q108 q2836) hd_X8_operationAt ⟨(Nat.le_of_ble_eq_true rfl), (Nat.le_of_ble_eq_true rfl)⟩ rfl (Nat.le_of_ble_eq_true rfl) dX8_readOperation_67 rfl) (fun v8 s9 hf => ?_)
      refine z_iald hC (pc := 70) dX8_readOperation_70 hf (fun v10 hf => ?_)
      refine z_iload hC (pc := 71) dX8_readOperation_71 3 rfl ?_
      refine z_icmp_ne hC (pc := 73) (tgt := 86) dX8_readOperation_73 rfl (fun c11 => ?_) (fun c11 => ?_)
      · have hf := zif_f hf c11
        exact w_X8_readOperation_b86 hC hL hno hQ k43 hk43 l0 l1 l3 l4 l5 s9 hf
      · have hf := zif_t hf c11
        refine z_aload_n hC (pc := 76) dX8_readOperation_76 rfl 0 rfl ?_
        refine z_bipush (v := (-3)) hC (pc := 77) dX8_readOperation_77 zkb_m3 ?_
        refine z_aload_n hC (pc := 79) dX8_readOperation_79 rfl 0 rfl ?_
        refine z_getI hC (pc := 80) in_X8 zcX8 13 (Nat.le_of_ble_eq_true rfl) (zLk.o hC q2686) zsm dX8_readOperation_80 hf (fun v12 hf => ?_)
        obtain ⟨fs13, ha14, hf⟩ := z_rcN hf
        refine z_cU (rest := []) hf (fun v15 s16 hcall => z_runV hC (pc := 83) zcX8 2 ha14 (m_X8_report X.g l0 (-3) v12 s9 s16 v15 hcall) (lw_V q2798 q2800 qs53 q108 q2801) hdV_X8_report ⟨(Nat.le_of_ble_eq_true rfl), (Nat.le_of_ble_eq_true rfl)⟩ rfl (Nat.le_of_ble_eq_true rfl) dX8_readOperation_83 rfl) (fun _ s16 hf => ?_)
        exact w_X8_readOperation_b86 hC hL hno hQ k43 hk43 l0 l1 l3 l4 l5 s16 hf
def f_X8_readOperation_l43 (G : Nat → Nat) : Nat → Nat → Int32 → Int32 → Int32 → Int32 → zS → Option (Unit × zS)
  | 0 => fun _ _ _ _ _ _ => none
  | n + 1 => f_X8_readOperation_b43 G (f_X8_readOperation_l43 G n)
theorem w_X8_readOperation_l43 {X : zX} (hC : ZC X RX8 cX8_readOperation none 4 65) (hL : X.nL = 6) (hno : ∀ x ∈ X.c.exceptionTable.toList, False) {r : Unit} {sF : zS} (hQ : ZQ X (.inl none, sF)) : ∀ (n : Nat) (l0 : Nat) (l1 : Int32) (l3 : Int32) (l4 : Int32) (l5 : Int32) (s0 : zS) (_ : f_X8_readOperation_l43 X.g.1 n l0 l1 l3 l4 l5 s0 = some (r, sF)), ZW X s0 43 [(0, zr (some l0)), (1, zi l1), (3, zi l3), (4, zi l4), (5, zi l5)] [] := by
  intro n
  induction n with
  | zero => intro l0 l1 l3 l4 l5 s0 hf; exact absurd (show (none : Option (Unit × zS)) = some (r, sF) from hf) (fun z => nomatch z)
  | succ n ih => intro l0 l1 l3 l4 l5 s0 hf; exact w_X8_readOperation_b43 hC hL hno hQ (f_X8_readOperation_l43 X.g.1 n) ih l0 l1 l3 l4 l5 s0 hf
def f_X8_readOperation_b25 (G : Nat → Nat) (l0 : Nat) (l1 : Int32) (l3 : Int32) (s0 : zS) : Option (Unit × zS) :=
zo (zgR s0 (some l0) 6 9) fun v1 =>
zo (zaI s0 v1 0 0) fun v2 =>
zo (zrc s0 (some l0) 6) fun _ =>
zb (f_X8_number G l0 0 (v2 - 1) s0) fun v5 s6 =>
f_X8_readOperation_l43 G 2000 l0 l1 l3 v5 0 s6
set_option maxHeartbeats 4000000 in
theorem w_X8_readOperation_b25 {X : zX} (hC : ZC X RX8 cX8_readOperation none 4 65) (hL : X.nL = 6) (hno : ∀ x ∈ X.c.exceptionTable.toList, False) {r : Unit} {sF : zS} (hQ : ZQ X (.inl none, sF)) (l0 : Nat) (l1 : Int32) (l3 : Int32) (s0 : zS) (hf : f_X8_readOperation_b25 X.g.1 l0 l1 l3 s0 = some (r, sF)) : ZW X s0 25 [(0, zr (some l0)), (1, zi l1), (3, zi l3)] [] := by
  unfold f_X8_readOperation_b25 at hf
  refine z_aload_n hC (pc := 25) dX8_readOperation_25 rfl 0 rfl ?_
  refine z_iconst (v := 0) hC (pc := 26) dX8_readOperation_26 zki_0 ?_
  refine z_aload_n hC (pc := 27) dX8_readOperation_27 rfl 0 rfl ?_
  refine z_getR hC (pc := 28) in_X8 zcX8 9 (Nat.le_of_ble_eq_true rfl) (zLk.o hC q2682) zsm dX8_readOperation_28 hf (fun v1 hf => ?_)
  refine z_iconst (v := 0) hC (pc := 31) dX8_readOperation_31 zki_0 ?_
  refine z_iald hC (pc := 32) dX8_readOperation_32 hf (fun v2 hf => ?_)
  refine z_iconst (v := 1) hC (pc := 33) dX8_readOperation_33 zki_1 ?_
  refine z_isub hC (pc := 34) dX8_readOperation_34 ?_
  obtain ⟨fs3, ha4, hf⟩ := z_rcN hf
  refine z_cI (rest := []) hf (fun v5 s6 hcall => z_runV hC (pc := 35) zcX8 2 ha4 (m_X8_number X.g l0 0 (v2 - 1) s0 s6 v5 hcall) (lw_V q2802 q2804 qs54 q108 q2805) hdV_X8_number ⟨(Nat.le_of_ble_eq_true rfl), (Nat.le_of_ble_eq_true rfl)⟩ rfl (Nat.le_of_ble_eq_true rfl) dX8_readOperation_35 rfl) (fun v5 s6 hf => ?_)
  refine z_istore (lv' := [(4, zi v5), (0, zr (some l0)), (1, zi l1), (3, zi l3)]) hC (pc := 38) hL dX8_readOperation_38 (Nat.le_of_ble_eq_true rfl) rfl ?_
  refine z_iconst (v := 0) hC (pc := 40) dX8_readOperation_40 zki_0 ?_
  refine z_istore (lv' := [(5, zi 0), (4, zi v5), (0, zr (some l0)), (1, zi l1), (3, zi l3)]) hC (pc := 41) hL dX8_readOperation_41 (Nat.le_of_ble_eq_true rfl) rfl ?_
  refine ZW.perm (lv' := [(0, zr (some l0)), (1, zi l1), (3, zi l3), (4, zi v5), (5, zi 0)]) [2, 3, 4, 1, 0] rfl ?_
  exact w_X8_readOperation_l43 hC hL hno hQ 2000 l0 l1 l3 v5 0 s6 hf
def f_X8_readOperation (G : Nat → Nat) (l0 : Nat) (l1 : Int32) (l2 : Int32) (s0 : zS) : Option (Unit × zS) :=
zo (zgR s0 (some l0) 6 9) fun v1 =>
zb (f_X8_job G l1 s0) fun v2 s3 =>
zo (zaI s3 v1 0 (v2 + 3)) fun v4 =>
if v4 = 6 then (zo (zrc s3 (some l0) 6) fun _ =>
zb (f_X8_report G l0 (-4) l2 s3) fun _ s9 =>
f_X8_readOperation_b25 G l0 l1 v4 s9)
else (f_X8_readOperation_b25 G l0 l1 v4 s3)
set_option maxHeartbeats 4000000 in
theorem m_X8_readOperation (Γ : zG) (l0 : Nat) (l1 : Int32) (l2 : Int32) (s0 s1 : zS) (r : Unit) (hf : f_X8_readOperation Γ.1 l0 l1 l2 s0 = some (r, s1)) : ZM Γ yX8_readOperation (ws_ yX8_readOperation cX8_readOperation 6 none) 4 65 [zr (some l0), zi l1, zi l2] s0 (.inl none, s1) := by
  refine ZM.of (own := RX8) (by decide) rfl (Nat.le_of_ble_eq_true rfl) ?_
  intro X hg hC hL hno hQ hin
  subst hg
  unfold f_X8_readOperation at hf
  refine z_aload_n hC (pc := 0) dX8_readOperation_0 rfl 0 rfl ?_
  refine z_getR hC (pc := 1) in_X8 zcX8 9 (Nat.le_of_ble_eq_true rfl) (zLk.o hC q2682) zsm dX8_readOperation_1 hf (fun v1 hf => ?_)
  refine z_iload_n hC (pc := 4) dX8_readOperation_4 rfl 1 rfl ?_
  refine z_cI (rest := [zr v1]) hf (fun v2 s3 hcall => z_runS hC (pc := 5) 1 (m_X8_job X.g l1 s0 s3 v2 hcall) (lw_S q2826 q2827 q108 q2828) hd_X8_job ⟨(Nat.le_of_ble_eq_true rfl), (Nat.le_of_ble_eq_true rfl)⟩ rfl (Nat.le_of_ble_eq_true rfl) dX8_readOperation_5 rfl) (fun v2 s3 hf => ?_)
  refine z_iconst (v := 3) hC (pc := 8) dX8_readOperation_8 zki_3 ?_
  refine z_iadd hC (pc := 9) dX8_readOperation_9 ?_
  refine z_iald hC (pc := 10) dX8_readOperation_10 hf (fun v4 hf => ?_)
  refine z_istore_n (lv' := [(3, zi v4), (0, zr (some l0)), (1, zi l1), (2, zi l2)]) hC (pc := 11) hL dX8_readOperation_11 rfl (Nat.le_of_ble_eq_true rfl) rfl ?_
  refine z_iload_n hC (pc := 12) dX8_readOperation_12 rfl 0 rfl ?_
  refine z_bipush (v := 6) hC (pc := 13) dX8_readOperation_13 zkb_6 ?_
  refine z_icmp_ne hC (pc := 15) (tgt := 25) dX8_readOperation_15 rfl (fun c5 => ?_) (fun c5 => ?_)
  · have hf := zif_f hf c5
    refine ZW.perm (lv' := [(0, zr (some l0)), (1, zi l1), (3, zi v4)]) [1, 2, 0] rfl ?_
    exact w_X8_readOperation_b25 hC hL hno hQ l0 l1 v4 s3 hf
  · have hf := zif_t hf c5
    refine z_aload_n hC (pc := 18) dX8_readOperation_18 rfl 1 rfl ?_
    refine z_bipush (v := (-4)) hC (pc := 19) dX8_readOperation_19 zkb_m4 ?_
    refine z_iload_n hC (pc := 21) dX8_readOperation_21 rfl 3 rfl ?_
    obtain ⟨fs6, ha7, hf⟩ := z_rcN hf
    refine z_cU (rest := []) hf (fun v8 s9 hcall => z_runV hC (pc := 22) zcX8 2 ha7 (m_X8_report X.g l0 (-4) l2 s3 s9 v8 hcall) (lw_V q2798 q2800 qs53 q108 q2801) hdV_X8_report ⟨(Nat.le_of_ble_eq_true rfl), (Nat.le_of_ble_eq_true rfl)⟩ rfl (Nat.le_of_ble_eq_true rfl) dX8_readOperation_22 rfl) (fun _ s9 hf => ?_)
    refine ZW.perm (lv' := [(0, zr (some l0)), (1, zi l1), (3, zi v4)]) [1, 2, 0] rfl ?_
    exact w_X8_readOperation_b25 hC hL hno hQ l0 l1 v4 s9 hf
