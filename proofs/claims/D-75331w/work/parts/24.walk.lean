set_option maxRecDepth 100000
/-! BlockingShop.shown(I)I -/
def f_X1_shown (G : Nat → Nat) (l0 : Int32) (s0 : zS) : Option (Int32 × zS) :=
some (((10 * (l0 / 6)) + (l0 - l0 / 6 * 6)), s0)
set_option maxHeartbeats 4000000 in
theorem m_X1_shown (Γ : zG) (l0 : Int32) (s0 s1 : zS) (r : Int32) (hf : f_X1_shown Γ.1 l0 s0 = some (r, s1)) : ZM Γ yX1_shown (ws_ yX1_shown cX1_shown 1 (some .int)) 1 0 [zi l0] s0 (.inl (some (zi r)), s1) := by
  refine ZM.of (own := RX1) (by decide) rfl (Nat.le_of_ble_eq_true rfl) ?_
  intro X hg hC hL hno hQ hin
  subst hg
  unfold f_X1_shown at hf
  refine z_bipush (v := 10) hC (pc := 0) dX1_shown_0 zkb_10 ?_
  refine z_iload_n hC (pc := 2) dX1_shown_2 rfl 0 rfl ?_
  refine z_bipush (v := 6) hC (pc := 3) dX1_shown_3 zkb_6 ?_
  refine z_idiv hC (pc := 5) dX1_shown_5 (by decide) ?_
  refine z_imul hC (pc := 6) dX1_shown_6 ?_
  refine z_iload_n hC (pc := 7) dX1_shown_7 rfl 0 rfl ?_
  refine z_bipush (v := 6) hC (pc := 8) dX1_shown_8 zkb_6 ?_
  refine z_irem hC (pc := 10) dX1_shown_10 (by decide) ?_
  refine z_iadd hC (pc := 11) dX1_shown_11 ?_
  exact z_ireturn hC (pc := 12) hQ dX1_shown_12 hf
/-! BlockingShop.critical(I)I -/
def f_X1_critical (G : Nat → Nat) (l0 : Nat) (l1 : Int32) (s0 : zS) : Option ((Int32 ⊕ (Nat × Nat)) × zS) :=
zo (zgR s0 (some l0) 0 3) fun v1 =>
zo (zrc s0 v1 2) fun a4 =>
zb (f_X3_critical G a4 s0) fun v5 s6 =>
zo (zrc s6 v5 23) fun a9 =>
zb (f_J38_size G a9 s6) fun v10 s11 =>
zb (f_X1_isBetween G (l1.toInt64) 0 ((v10 - 1 : Int32).toInt64) s11) fun v12 s13 =>
if v12 = 0 then (zb (znewO G s13 28 6 []) fun a26 s27 =>
zo (zthr G s27 (some a26)) fun e => some (.inr e, s27))
else (zo (zrc s13 (some a9) 23) fun _ =>
zb (f_J38_get G a9 l1 s13) fun v17 s18 =>
zo (zcst s18 v17 18) fun _ =>
zo (zrc s18 v17 18) fun a21 =>
zb (f_J20_intValue G a21 s18) fun v22 s23 =>
zb (f_X1_shown G v22 s23) fun v24 s25 =>
some (.inl v24, s25))
set_option maxHeartbeats 4000000 in
theorem m_X1_critical (Γ : zG) (l0 : Nat) (l1 : Int32) (s0 s1 : zS) (r : (Int32 ⊕ (Nat × Nat))) (hf : f_X1_critical Γ.1 l0 l1 s0 = some (r, s1)) : ZM Γ yX1_critical (ws_ yX1_critical cX1_critical 3 (some .int)) 12 238 [zr (some l0), zi l1] s0 (zoI r, s1) := by
  refine ZM.of (own := RX1) (by decide) rfl (Nat.le_of_ble_eq_true rfl) ?_
  intro X hg hC hL hno hQ hin
  subst hg
  unfold f_X1_critical at hf
  refine z_aload_n hC (pc := 0) dX1_critical_0 rfl 0 rfl ?_
  refine z_getR hC (pc := 1) in_X1 zcX1 3 (Nat.le_of_ble_eq_true rfl) (zLk.o hC q394) zsm dX1_critical_1 hf (fun v1 hf => ?_)
  obtain ⟨a4, fs2, rfl, ha3, hf⟩ := z_rcO hf
  refine z_cR (rest := []) hf (fun v5 s6 hcall => z_runV hC (pc := 4) zcX3 0 ha3 (m_X3_critical X.g a4 s0 s6 v5 hcall) (lw_V q990 q991 q992 q99 q993) hdV_X3_critical ⟨(Nat.le_of_ble_eq_true rfl), (Nat.le_of_ble_eq_true rfl)⟩ rfl (Nat.le_of_ble_eq_true rfl) dX1_critical_4 rfl) (fun v5 s6 hf => ?_)
  refine z_astore_n (lv' := [(2, zr v5), (0, zr (some l0)), (1, zi l1)]) hC (pc := 7) hL dX1_critical_7 rfl (Nat.le_of_ble_eq_true rfl) rfl ?_
  refine z_iload_n hC (pc := 8) dX1_critical_8 rfl 2 rfl ?_
  refine z_i2l hC (pc := 9) dX1_critical_9 ?_
  refine z_lconst (v := 0) hC (pc := 10) dX1_critical_10 (by decide) ?_
  refine z_aload_n hC (pc := 11) dX1_critical_11 rfl 0 rfl ?_
  obtain ⟨a9, fs7, rfl, ha8, hf⟩ := z_rcO hf
  refine z_cI (rest := [zj 0, zj (l1.toInt64)]) hf (fun v10 s11 hcall => z_runV hC (pc := 12) zcJ38 0 ha8 (m_J38_size X.g a9 s6 s11 v10 hcall) (lw_V q1610 q457 q3131 q149 q459) hdV_J38_size ⟨(Nat.le_of_ble_eq_true rfl), (Nat.le_of_ble_eq_true rfl)⟩ rfl (Nat.le_of_ble_eq_true rfl) dX1_critical_12 rfl) (fun v10 s11 hf => ?_)
  refine z_iconst (v := 1) hC (pc := 15) dX1_critical_15 zki_1 ?_
  refine z_isub hC (pc := 16) dX1_critical_16 ?_
  refine z_i2l hC (pc := 17) dX1_critical_17 ?_
  refine z_cI (rest := []) hf (fun v12 s13 hcall => z_runS hC (pc := 18) 3 (m_X1_isBetween X.g (l1.toInt64) 0 ((v10 - 1 : Int32).toInt64) s11 s13 v12 hcall) (lw_S q2013 q2014 q95 q2015) hd_X1_isBetween ⟨(Nat.le_of_ble_eq_true rfl), (Nat.le_of_ble_eq_true rfl)⟩ rfl (Nat.le_of_ble_eq_true rfl) dX1_critical_18 rfl) (fun v12 s13 hf => ?_)
  refine z_if_ne hC (pc := 21) (tgt := 32) dX1_critical_21 rfl (fun c14 => ?_) (fun c14 => ?_)
  · have hf := zif_f hf c14
    refine z_aload_n hC (pc := 32) dX1_critical_32 rfl 0 rfl ?_
    refine z_iload_n hC (pc := 33) dX1_critical_33 rfl 2 rfl ?_
    obtain ⟨fs15, ha16, hf⟩ := z_rcN hf
    refine z_cR (rest := []) hf (fun v17 s18 hcall => z_runV hC (pc := 34) zcJ38 1 ha16 (m_J38_get X.g a9 l1 s13 s18 v17 hcall) (lw_V q2598 q846 q3139 q149 q848) hdV_J38_get ⟨(Nat.le_of_ble_eq_true rfl), (Nat.le_of_ble_eq_true rfl)⟩ rfl (Nat.le_of_ble_eq_true rfl) dX1_critical_34 rfl) (fun v17 s18 hf => ?_)
    refine z_cast hC (pc := 37) zcJ20 q1839 (Or.inl rfl) dX1_critical_37 hf (fun hf => ?_)
    obtain ⟨a21, fs19, rfl, ha20, hf⟩ := z_rcO hf
    refine z_cI (rest := []) hf (fun v22 s23 hcall => z_runV hC (pc := 40) zcJ20 0 ha20 (m_J20_intValue X.g a21 s18 s23 v22 hcall) (lw_V q1840 q1622 q1623 q125 q1624) hdV_J20_intValue ⟨(Nat.le_of_ble_eq_true rfl), (Nat.le_of_ble_eq_true rfl)⟩ rfl (Nat.le_of_ble_eq_true rfl) dX1_critical_40 rfl) (fun v22 s23 hf => ?_)
    refine z_cI (rest := []) hf (fun v24 s25 hcall => z_runS hC (pc := 43) 1 (m_X1_shown X.g v22 s23 s25 v24 hcall) (lw_S q2000 q2001 q95 q2002) hd_X1_shown ⟨(Nat.le_of_ble_eq_true rfl), (Nat.le_of_ble_eq_true rfl)⟩ rfl (Nat.le_of_ble_eq_true rfl) dX1_critical_43 rfl) (fun v24 s25 hf => ?_)
    exact z_ireturnX hC (pc := 46) hQ dX1_critical_46 hf
  · have hf := zif_t hf c14
    refine z_mk28 hC (pc := 24) dX1_critical_24 dX1_critical_27 dX1_critical_28 (Nat.le_of_ble_eq_true rfl) (Nat.le_of_ble_eq_true rfl) hf (fun a26 s27 hf => ?_)
    exact z_athrow hC (pc := 31) dX1_critical_31 hf (fun e hf => z_outI hC hQ hno hf)
/-! BlockingShopLaw.critical(LBlockingShop;I[J)I -/
def f_X0_critical (G : Nat → Nat) (l0 : Option Nat) (l1 : Int32) (l2 : Option Nat) (s0 : zS) : Option (Int32 × zS) :=
zo (zrc s0 l0 0) fun a3 =>
zx (f_X1_critical G a3 l1 s0) (fun e s5 => if e.1 = 28 then (some (1, s5)) else none) fun v4 s5 =>
zo (zsL G s5 l2 0 (v4.toInt64)) fun s6 =>
some (0, s6)
set_option maxHeartbeats 4000000 in
theorem m_X0_critical (Γ : zG) (l0 : Option Nat) (l1 : Int32) (l2 : Option Nat) (s0 s1 : zS) (r : Int32) (hf : f_X0_critical Γ.1 l0 l1 l2 s0 = some (r, s1)) : ZM Γ yX0_critical (wsW_ yX0_critical cX0_critical 4 (some .int) [(0, 9, 12, 49)]) 13 260 [zr l0, zi l1, zr l2] s0 (.inl (some (zi r)), s1) := by
  refine ZM.ofH (own := RX0) (by decide) rfl (Nat.le_of_ble_eq_true rfl) ?_
  intro X hg hC hL hno hQ hin
  subst hg
  unfold f_X0_critical at hf
  refine z_aload_n hC (pc := 0) dX0_critical_0 rfl 2 rfl ?_
  refine z_iconst (v := 0) hC (pc := 1) dX0_critical_1 zki_0 ?_
  refine z_aload_n hC (pc := 2) dX0_critical_2 rfl 0 rfl ?_
  refine z_iload_n hC (pc := 3) dX0_critical_3 rfl 1 rfl ?_
  obtain ⟨a3, fs1, rfl, ha2, hf⟩ := z_rcO hf
  refine z_cXI (rest := [zi 0, zr l2]) hf (fun v4 s5 hcall => z_runV hC (pc := 4) zcX1 1 ha2 (m_X1_critical X.g a3 l1 s0 s5 v4 hcall) (lw_V q2592 q2593 q2594 q95 q2595) hdV_X1_critical ⟨(Nat.le_of_ble_eq_true rfl), (Nat.le_of_ble_eq_true rfl)⟩ rfl (Nat.le_of_ble_eq_true rfl) dX0_critical_4 rfl) (fun v4 s5 hf => ?_) (fun e s5 hf => ?_)
  · skip
    refine z_i2l hC (pc := 7) dX0_critical_7 ?_
    refine z_last hC (pc := 8) dX0_critical_8 hf (fun s6 hf => ?_)
    refine z_goto hC (pc := 9) (tgt := 15) dX0_critical_9 rfl ?_
    refine z_iconst (v := 0) hC (pc := 15) dX0_critical_15 zki_0 ?_
    exact z_ireturn hC (pc := 16) hQ dX0_critical_16 hf
  · skip
    by_cases c7 : e.1 = 28
    · have hf := zif_t hf c7
      rw [c7]
      refine z_catch hC zcE28 [] ⟨0, 9, 12, 49⟩ [] (hno.trans rfl) (fun z hz => nomatch hz) rfl (by decide) q2591 q1137 ?_
      refine z_astore_n (lv' := [(3, zr (some (e.2))), (0, zr (some a3)), (1, zi l1), (2, zr l2)]) hC (pc := 12) hL dX0_critical_12 rfl (Nat.le_of_ble_eq_true rfl) rfl ?_
      refine z_iconst (v := 1) hC (pc := 13) dX0_critical_13 zki_1 ?_
      exact z_ireturn hC (pc := 14) hQ dX0_critical_14 hf
    · have hf := zif_f hf c7
      cases hf
/-! BlockingShop$Plan.<init>(LBlockingShop$Layout;)V -/
def f_X3_init (G : Nat → Nat) (l0 : Nat) (l1 : Option Nat) (s0 : zS) : Option (Unit × zS) :=
zb (znewA G s0 0 36 (.inl fun _ => 0)) fun a1 s2 =>
zo (zput G s2 (some l0) 2 1 (va_rf (some a1))) fun s3 =>
zb (znewA G s3 0 6 (.inl fun _ => 0)) fun a4 s5 =>
zo (zput G s5 (some l0) 2 2 (va_rf (some a4))) fun s6 =>
zb (znewA G s6 0 36 (.inl fun _ => 0)) fun a7 s8 =>
zo (zput G s8 (some l0) 2 3 (va_rf (some a7))) fun s9 =>
zb (znewM G s9 6 6) fun a10 s11 =>
zo (zput G s11 (some l0) 2 4 (va_rf (some a10))) fun s12 =>
zo (zput G s12 (some l0) 2 0 (va_rf l1)) fun s13 =>
some ((), s13)
set_option maxHeartbeats 4000000 in
theorem m_X3_init (Γ : zG) (l0 : Nat) (l1 : Option Nat) (s0 s1 : zS) (r : Unit) (hf : f_X3_init Γ.1 l0 l1 s0 = some (r, s1)) : ZM Γ yX3_init (ws_ yX3_init cX3_init 2 none) 1 12 [zr (some l0), zr l1] s0 (.inl none, s1) := by
  refine ZM.of (own := RX3) (by decide) rfl (Nat.le_of_ble_eq_true rfl) ?_
  intro X hg hC hL hno hQ hin
  subst hg
  unfold f_X3_init at hf
  refine z_aload_n hC (pc := 0) dX3_init_0 rfl 0 rfl ?_
  refine z_objInit hC (pc := 1) q361 q163 q164 (Nat.le_of_ble_eq_true rfl) (Nat.le_of_ble_eq_true rfl) dX3_init_1 ?_
  refine z_aload_n hC (pc := 4) dX3_init_4 rfl 0 rfl ?_
  refine z_bipush (v := 36) hC (pc := 5) dX3_init_5 zkb_36 ?_
  refine z_newa (t := 0) (ty := .int) hC (pc := 7) rfl rfl q222 (.inl fun _ => 0) (fun _ => rfl) (by decide) dX3_init_7 hf (fun a1 s2 hf => ?_)
  refine z_putV (v := zr (some a1)) hC (pc := 9) in_X3 tyX3 tyX3_ok nmX3 zcX3 1 (Nat.le_of_ble_eq_true rfl) (zLk.o hC q367) zsm (Or.inr ⟨rfl, hin, rfl, rfl⟩) rfl (zfa (some a1)) dX3_init_9 hf (fun s3 hf => ?_)
  refine z_aload_n hC (pc := 12) dX3_init_12 rfl 0 rfl ?_
  refine z_bipush (v := 6) hC (pc := 13) dX3_init_13 zkb_6 ?_
  refine z_newa (t := 0) (ty := .int) hC (pc := 15) rfl rfl q222 (.inl fun _ => 0) (fun _ => rfl) (by decide) dX3_init_15 hf (fun a4 s5 hf => ?_)
  refine z_putV (v := zr (some a4)) hC (pc := 17) in_X3 tyX3 tyX3_ok nmX3 zcX3 2 (Nat.le_of_ble_eq_true rfl) (zLk.o hC q371) zsm (Or.inr ⟨rfl, hin, rfl, rfl⟩) rfl (zfa (some a4)) dX3_init_17 hf (fun s6 hf => ?_)
  refine z_aload_n hC (pc := 20) dX3_init_20 rfl 0 rfl ?_
  refine z_bipush (v := 36) hC (pc := 21) dX3_init_21 zkb_36 ?_
  refine z_newa (t := 0) (ty := .int) hC (pc := 23) rfl rfl q222 (.inl fun _ => 0) (fun _ => rfl) (by decide) dX3_init_23 hf (fun a7 s8 hf => ?_)
  refine z_putV (v := zr (some a7)) hC (pc := 25) in_X3 tyX3 tyX3_ok nmX3 zcX3 3 (Nat.le_of_ble_eq_true rfl) (zLk.o hC q374) zsm (Or.inr ⟨rfl, hin, rfl, rfl⟩) rfl (zfa (some a7)) dX3_init_25 hf (fun s9 hf => ?_)
  refine z_aload_n hC (pc := 28) dX3_init_28 rfl 0 rfl ?_
  refine z_bipush (v := 6) hC (pc := 29) dX3_init_29 zkb_6 ?_
  refine z_bipush (v := 6) hC (pc := 31) dX3_init_31 zkb_6 ?_
  refine z_newM hC (pc := 33) q362 q363 q222 dX3_init_33 hf (fun a10 s11 hf => ?_)
  refine z_putV (v := zr (some a10)) hC (pc := 37) in_X3 tyX3 tyX3_ok nmX3 zcX3 4 (Nat.le_of_ble_eq_true rfl) (zLk.o hC q376) zsm (Or.inr ⟨rfl, hin, rfl, rfl⟩) rfl (zfa (some a10)) dX3_init_37 hf (fun s12 hf => ?_)
  refine z_aload_n hC (pc := 40) dX3_init_40 rfl 0 rfl ?_
  refine z_aload_n hC (pc := 41) dX3_init_41 rfl 1 rfl ?_
  refine z_putV (v := zr l1) hC (pc := 42) in_X3 tyX3 tyX3_ok nmX3 zcX3 0 (Nat.le_of_ble_eq_true rfl) (zLk.o hC q364) zsm (Or.inr ⟨rfl, hin, rfl, rfl⟩) rfl (zfr l1) dX3_init_42 hf (fun s13 hf => ?_)
  exact z_return hC (pc := 45) hQ dX3_init_45 hf
/-! BlockingShop$Plan.become(LBlockingShop$Plan;)V -/
def f_X3_become_b47 (G : Nat → Nat) (k47 : Nat → Option Nat → Int32 → zS → Option (Unit × zS)) (l0 : Nat) (l1 : Option Nat) (l2 : Int32) (s0 : zS) : Option (Unit × zS) :=
if 6 ≤ l2 then (some ((), s0))
else (zo (zgR s0 l1 2 4) fun v2 =>
zo (zaR s0 v2 l2) fun v3 =>
zo (zgR s0 (some l0) 2 4) fun v4 =>
zo (zaR s0 v4 l2) fun v5 =>
zo (zcpI G s0 v3 0 v5 0 6) fun s6 =>
k47 l0 l1 (l2 + 1) s6)
set_option maxHeartbeats 4000000 in
theorem w_X3_become_b47 {X : zX} (hC : ZC X RX3 cX3_become none 1 60) (hL : X.nL = 3) (hno : ∀ x ∈ X.c.exceptionTable.toList, False) {r : Unit} {sF : zS} (hQ : ZQ X (.inl none, sF)) (k47 : Nat → Option Nat → Int32 → zS → Option (Unit × zS)) (hk47 : ∀ (l0 : Nat) (l1 : Option Nat) (l2 : Int32) (s0 : zS), k47 l0 l1 l2 s0 = some (r, sF) → ZW X s0 47 [(0, zr (some l0)), (1, zr l1), (2, zi l2)] []) (l0 : Nat) (l1 : Option Nat) (l2 : Int32) (s0 : zS) (hf : f_X3_become_b47 X.g.1 k47 l0 l1 l2 s0 = some (r, sF)) : ZW X s0 47 [(0, zr (some l0)), (1, zr l1), (2, zi l2)] [] := by
  unfold f_X3_become_b47 at hf
  refine z_iload_n hC (pc := 47) dX3_become_47 rfl 2 rfl ?_
  refine z_bipush (v := 6) hC (pc := 48) dX3_become_48 zkb_6 ?_
  refine z_icmp_ge hC (pc := 50) (tgt := 78) dX3_become_50 rfl (fun c1 => ?_) (fun c1 => ?_)
  · have hf := zif_t hf c1
    exact z_return hC (pc := 78) hQ dX3_become_78 hf
  · have hf := zif_f hf c1
    refine z_aload_n hC (pc := 53) dX3_become_53 rfl 1 rfl ?_
    refine z_getR hC (pc := 54) in_X3 zcX3 4 (Nat.le_of_ble_eq_true rfl) (zLk.o hC q376) zsm dX3_become_54 hf (fun v2 hf => ?_)
    refine z_iload_n hC (pc := 57) dX3_become_57 rfl 2 rfl ?_
    refine z_aald hC (pc := 58) dX3_become_58 hf (fun v3 hf => ?_)
    refine z_iconst (v := 0) hC (pc := 59) dX3_become_59 zki_0 ?_
    refine z_aload_n hC (pc := 60) dX3_become_60 rfl 0 rfl ?_
    refine z_getR hC (pc := 61) in_X3 zcX3 4 (Nat.le_of_ble_eq_true rfl) (zLk.o hC q376) zsm dX3_become_61 hf (fun v4 hf => ?_)
    refine z_iload_n hC (pc := 64) dX3_become_64 rfl 2 rfl ?_
    refine z_aald hC (pc := 65) dX3_become_65 hf (fun v5 hf => ?_)
    refine z_iconst (v := 0) hC (pc := 66) dX3_become_66 zki_0 ?_
    refine z_bipush (v := 6) hC (pc := 67) dX3_become_67 zkb_6 ?_
    refine z_copyI hC (pc := 69) q1854 q625 q624 q121 (Nat.le_of_ble_eq_true rfl) (Nat.le_of_ble_eq_true rfl) dX3_become_69 hf (fun s6 hf => ?_)
    refine z_iinc (v := 1) (lv' := [(2, zi (l2 + 1)), (0, zr (some l0)), (1, zr l1)]) hC (pc := 72) hL dX3_become_72 2 rfl zki_1 (Nat.le_of_ble_eq_true rfl) rfl ?_
    refine z_goto hC (pc := 75) (tgt := 47) dX3_become_75 rfl ?_
    refine ZW.perm (lv' := [(0, zr (some l0)), (1, zr l1), (2, zi (l2 + 1))]) [1, 2, 0] rfl ?_
    exact hk47 l0 l1 (l2 + 1) s6 hf
def f_X3_become_l47 (G : Nat → Nat) : Nat → Nat → Option Nat → Int32 → zS → Option (Unit × zS)
  | 0 => fun _ _ _ _ => none
  | n + 1 => f_X3_become_b47 G (f_X3_become_l47 G n)
theorem w_X3_become_l47 {X : zX} (hC : ZC X RX3 cX3_become none 1 60) (hL : X.nL = 3) (hno : ∀ x ∈ X.c.exceptionTable.toList, False) {r : Unit} {sF : zS} (hQ : ZQ X (.inl none, sF)) : ∀ (n : Nat) (l0 : Nat) (l1 : Option Nat) (l2 : Int32) (s0 : zS) (_ : f_X3_become_l47 X.g.1 n l0 l1 l2 s0 = some (r, sF)), ZW X s0 47 [(0, zr (some l0)), (1, zr l1), (2, zi l2)] [] := by
  intro n
  induction n with
  | zero => intro l0 l1 l2 s0 hf; exact absurd (show (none : Option (Unit × zS)) = some (r, sF) from hf) (fun z => nomatch z)
  | succ n ih => intro l0 l1 l2 s0 hf; exact w_X3_become_b47 hC hL hno hQ (f_X3_become_l47 X.g.1 n) ih l0 l1 l2 s0 hf
def f_X3_become (G : Nat → Nat) (l0 : Nat) (l1 : Option Nat) (s0 : zS) : Option (Unit × zS) :=
zo (zgR s0 l1 2 1) fun v1 =>
zo (zgR s0 (some l0) 2 1) fun v2 =>
zo (zcpI G s0 v1 0 v2 0 36) fun s3 =>
zo (zgR s3 l1 2 2) fun v4 =>
zo (zgR s3 (some l0) 2 2) fun v5 =>
zo (zcpI G s3 v4 0 v5 0 6) fun s6 =>
zo (zgR s6 l1 2 3) fun v7 =>
zo (zgR s6 (some l0) 2 3) fun v8 =>
zo (zcpI G s6 v7 0 v8 0 36) fun s9 =>
f_X3_become_l47 G 2000 l0 l1 0 s9
set_option maxHeartbeats 4000000 in
theorem m_X3_become (Γ : zG) (l0 : Nat) (l1 : Option Nat) (s0 s1 : zS) (r : Unit) (hf : f_X3_become Γ.1 l0 l1 s0 = some (r, s1)) : ZM Γ yX3_become (ws_ yX3_become cX3_become 3 none) 1 60 [zr (some l0), zr l1] s0 (.inl none, s1) := by
  refine ZM.of (own := RX3) (by decide) rfl (Nat.le_of_ble_eq_true rfl) ?_
  intro X hg hC hL hno hQ hin
  subst hg
  unfold f_X3_become at hf
  refine z_aload_n hC (pc := 0) dX3_become_0 rfl 1 rfl ?_
  refine z_getR hC (pc := 1) in_X3 zcX3 1 (Nat.le_of_ble_eq_true rfl) (zLk.o hC q367) zsm dX3_become_1 hf (fun v1 hf => ?_)
  refine z_iconst (v := 0) hC (pc := 4) dX3_become_4 zki_0 ?_
  refine z_aload_n hC (pc := 5) dX3_become_5 rfl 0 rfl ?_
  refine z_getR hC (pc := 6) in_X3 zcX3 1 (Nat.le_of_ble_eq_true rfl) (zLk.o hC q367) zsm dX3_become_6 hf (fun v2 hf => ?_)
  refine z_iconst (v := 0) hC (pc := 9) dX3_become_9 zki_0 ?_
  refine z_bipush (v := 36) hC (pc := 10) dX3_become_10 zkb_36 ?_
  refine z_copyI hC (pc := 12) q1854 q625 q624 q121 (Nat.le_of_ble_eq_true rfl) (Nat.le_of_ble_eq_true rfl) dX3_become_12 hf (fun s3 hf => ?_)
  refine z_aload_n hC (pc := 15) dX3_become_15 rfl 1 rfl ?_
  refine z_getR hC (pc := 16) in_X3 zcX3 2 (Nat.le_of_ble_eq_true rfl) (zLk.o hC q371) zsm dX3_become_16 hf (fun v4 hf => ?_)
  refine z_iconst (v := 0) hC (pc := 19) dX3_become_19 zki_0 ?_
  refine z_aload_n hC (pc := 20) dX3_become_20 rfl 0 rfl ?_
  refine z_getR hC (pc := 21) in_X3 zcX3 2 (Nat.le_of_ble_eq_true rfl) (zLk.o hC q371) zsm dX3_become_21 hf (fun v5 hf => ?_)
  refine z_iconst (v := 0) hC (pc := 24) dX3_become_24 zki_0 ?_
  refine z_bipush (v := 6) hC (pc := 25) dX3_become_25 zkb_6 ?_
  refine z_copyI hC (pc := 27) q1854 q625 q624 q121 (Nat.le_of_ble_eq_true rfl) (Nat.le_of_ble_eq_true rfl) dX3_become_27 hf (fun s6 hf => ?_)
  refine z_aload_n hC (pc := 30) dX3_become_30 rfl 1 rfl ?_
  refine z_getR hC (pc := 31) in_X3 zcX3 3 (Nat.le_of_ble_eq_true rfl) (zLk.o hC q374) zsm dX3_become_31 hf (fun v7 hf => ?_)
  refine z_iconst (v := 0) hC (pc := 34) dX3_become_34 zki_0 ?_
  refine z_aload_n hC (pc := 35) dX3_become_35 rfl 0 rfl ?_
  refine z_getR hC (pc := 36) in_X3 zcX3 3 (Nat.le_of_ble_eq_true rfl) (zLk.o hC q374) zsm dX3_become_36 hf (fun v8 hf => ?_)
  refine z_iconst (v := 0) hC (pc := 39) dX3_become_39 zki_0 ?_
  refine z_bipush (v := 36) hC (pc := 40) dX3_become_40 zkb_36 ?_
  refine z_copyI hC (pc := 42) q1854 q625 q624 q121 (Nat.le_of_ble_eq_true rfl) (Nat.le_of_ble_eq_true rfl) dX3_become_42 hf (fun s9 hf => ?_)
  refine z_iconst (v := 0) hC (pc := 45) dX3_become_45 zki_0 ?_
  refine z_istore_n (lv' := [(2, zi 0), (0, zr (some l0)), (1, zr l1)]) hC (pc := 46) hL dX3_become_46 rfl (Nat.le_of_ble_eq_true rfl) rfl ?_
  refine ZW.perm (lv' := [(0, zr (some l0)), (1, zr l1), (2, zi 0)]) [1, 2, 0] rfl ?_
  exact w_X3_become_l47 hC hL hno hQ 2000 l0 l1 0 s9 hf
/-! BlockingShop$Plan.copy()LBlockingShop$Plan; -/
def f_X3_copy (G : Nat → Nat) (l0 : Nat) (s0 : zS) : Option ((Option Nat) × zS) :=
zb (znewO G s0 2 5 [.null, .null, .null, .null, .null]) fun a1 s2 =>
zo (zgR s2 (some l0) 2 0) fun v3 =>
zb (f_X3_init G a1 v3 s2) fun _ s5 =>
zo (zrc s5 (some a1) 2) fun _ =>
zb (f_X3_become G a1 (some l0) s5) fun _ s9 =>
some ((some a1), s9)
set_option maxHeartbeats 4000000 in
theorem m_X3_copy (Γ : zG) (l0 : Nat) (s0 s1 : zS) (r : (Option Nat)) (hf : f_X3_copy Γ.1 l0 s0 = some (r, s1)) : ZM Γ yX3_copy (ws_ yX3_copy cX3_copy 2 (some (.object "BlockingShop$Plan"))) 2 82 [zr (some l0)] s0 (.inl (some (zr r)), s1) := by
  refine ZM.of (own := RX3) (by decide) rfl (Nat.le_of_ble_eq_true rfl) ?_
  intro X hg hC hL hno hQ hin
  subst hg
  unfold f_X3_copy at hf
  refine z_new hC (pc := 0) in_X3 tyX3 tyX3_ok zcX3 q1906 q224 q99 rfl zdX3 dX3_copy_0 hf (fun a1 s2 hf => ?_)
  refine z_dup hC (pc := 3) dX3_copy_3 rfl ?_
  refine z_aload_n hC (pc := 4) dX3_copy_4 rfl 0 rfl ?_
  refine z_getR hC (pc := 5) in_X3 zcX3 0 (Nat.le_of_ble_eq_true rfl) (zLk.o hC q364) zsm dX3_copy_5 hf (fun v3 hf => ?_)
  refine z_cU (rest := [zr (some a1)]) hf (fun v4 s5 hcall => z_runI hC (pc := 8) 1 (m_X3_init X.g a1 v3 s2 s5 v4 hcall) q360 rfl q99 q1907 q359 hd_X3_init ⟨(Nat.le_of_ble_eq_true rfl), (Nat.le_of_ble_eq_true rfl)⟩ rfl (Nat.le_of_ble_eq_true rfl) dX3_copy_8 rfl) (fun _ s5 hf => ?_)
  refine z_astore_n (lv' := [(1, zr (some a1)), (0, zr (some l0))]) hC (pc := 11) hL dX3_copy_11 rfl (Nat.le_of_ble_eq_true rfl) rfl ?_
  refine z_aload_n hC (pc := 12) dX3_copy_12 rfl 0 rfl ?_
  refine z_aload_n hC (pc := 13) dX3_copy_13 rfl 1 rfl ?_
  obtain ⟨fs6, ha7, hf⟩ := z_rcN hf
  refine z_cU (rest := []) hf (fun v8 s9 hcall => z_runV hC (pc := 14) zcX3 1 ha7 (m_X3_become X.g a1 (some l0) s5 s9 v8 hcall) (lw_V q1908 q1851 q1852 q99 q1853) hdV_X3_become ⟨(Nat.le_of_ble_eq_true rfl), (Nat.le_of_ble_eq_true rfl)⟩ rfl (Nat.le_of_ble_eq_true rfl) dX3_copy_14 rfl) (fun _ s9 hf => ?_)
  refine z_aload_n hC (pc := 17) dX3_copy_17 rfl 0 rfl ?_
  exact z_areturn hC (pc := 18) (Or.inl ⟨_, rfl⟩) hQ dX3_copy_18 hf
/-! BlockingShop$Plan.makespan()I -/
def f_X3_makespan_b4 (G : Nat → Nat) (k4 : Nat → Int32 → Int32 → zS → Option (Int32 × zS)) (l0 : Nat) (l1 : Int32) (l2 : Int32) (s0 : zS) : Option (Int32 × zS) :=
zo (zgR s0 (some l0) 2 0) fun v1 =>
zo (zgR s0 v1 3 3) fun v2 =>
zo (zrc s0 v2 15) fun a5 =>
zb (f_J5_size G a5 s0) fun v6 s7 =>
if v6 ≤ l2 then (some (l1, s7))
else (zo (zrc s7 (some l0) 2) fun _ =>
zb (f_X3_completion G l0 l2 s7) fun v11 s12 =>
k4 l0 (if l1 < v11 then v11 else l1) (l2 + 1) s12)
set_option maxHeartbeats 4000000 in
theorem w_X3_makespan_b4 {X : zX} (hC : ZC X RX3 cX3_makespan (some .int) 5 85) (hL : X.nL = 3) (hno : ∀ x ∈ X.c.exceptionTable.toList, False) {r : Int32} {sF : zS} (hQ : ZQ X (.inl (some (zi r)), sF)) (k4 : Nat → Int32 → Int32 → zS → Option (Int32 × zS)) (hk4 : ∀ (l0 : Nat) (l1 : Int32) (l2 : Int32) (s0 : zS), k4 l0 l1 l2 s0 = some (r, sF) → ZW X s0 4 [(0, zr (some l0)), (1, zi l1), (2, zi l2)] []) (l0 : Nat) (l1 : Int32) (l2 : Int32) (s0 : zS) (hf : f_X3_makespan_b4 X.g.1 k4 l0 l1 l2 s0 = some (r, sF)) : ZW X s0 4 [(0, zr (some l0)), (1, zi l1), (2, zi l2)] [] := by
  unfold f_X3_makespan_b4 at hf
  refine z_iload_n hC (pc := 4) dX3_makespan_4 rfl 2 rfl ?_
  refine z_aload_n hC (pc := 5) dX3_makespan_5 rfl 0 rfl ?_
  refine z_getR hC (pc := 6) in_X3 zcX3 0 (Nat.le_of_ble_eq_true rfl) (zLk.o hC q364) zsm dX3_makespan_6 hf (fun v1 hf => ?_)
  refine z_getR hC (pc := 9) in_X4 zcX4 3 (Nat.le_of_ble_eq_true rfl) (zLk.n hC q333) zsm dX3_makespan_9 hf (fun v2 hf => ?_)
  obtain ⟨a5, fs3, rfl, ha4, hf⟩ := z_rcO hf
  refine z_cI5 (rest := [zi l2]) hf (fun v6 s7 hcall => z_runF hC (pc := 12) zcJ5 0 ha4 (m_J5_size X.g a5 s0 s7 v6 hcall) (lw_app (zm4 q469 q435 q437 q104) (lw_meth q439)) q433 q432 q438 q436 q434 (by decide +kernel) ⟨(Nat.le_of_ble_eq_true rfl), (Nat.le_of_ble_eq_true rfl)⟩ rfl (Nat.le_of_ble_eq_true rfl) dX3_makespan_12 rfl) (fun v6 s7 hf => ?_)
  refine z_icmp_ge hC (pc := 17) (tgt := 36) dX3_makespan_17 rfl (fun c8 => ?_) (fun c8 => ?_)
  · have hf := zif_t hf c8
    refine z_iload_n hC (pc := 36) dX3_makespan_36 rfl 1 rfl ?_
    exact z_ireturn hC (pc := 37) hQ dX3_makespan_37 hf
  · have hf := zif_f hf c8
    refine z_iload_n hC (pc := 20) dX3_makespan_20 rfl 1 rfl ?_
    refine z_aload_n hC (pc := 21) dX3_makespan_21 rfl 0 rfl ?_
    refine z_iload_n hC (pc := 22) dX3_makespan_22 rfl 2 rfl ?_
    obtain ⟨fs9, ha10, hf⟩ := z_rcN hf
    refine z_cI (rest := [zi l1]) hf (fun v11 s12 hcall => z_runV hC (pc := 23) zcX3 1 ha10 (m_X3_completion X.g l0 l2 s7 s12 v11 hcall) (lw_V q470 q471 q472 q99 q473) hdV_X3_completion ⟨(Nat.le_of_ble_eq_true rfl), (Nat.le_of_ble_eq_true rfl)⟩ rfl (Nat.le_of_ble_eq_true rfl) dX3_makespan_23 rfl) (fun v11 s12 hf => ?_)
    refine z_mmax hC (pc := 26) q880 q603 q119 q604 (Nat.le_of_ble_eq_true rfl) (Nat.le_of_ble_eq_true rfl) dX3_makespan_26 ?_
    refine z_istore_n (lv' := [(1, zi (if l1 < v11 then v11 else l1)), (0, zr (some l0)), (2, zi l2)]) hC (pc := 29) hL dX3_makespan_29 rfl (Nat.le_of_ble_eq_true rfl) rfl ?_
    refine z_iinc (v := 1) (lv' := [(2, zi (l2 + 1)), (1, zi (if l1 < v11 then v11 else l1)), (0, zr (some l0))]) hC (pc := 30) hL dX3_makespan_30 2 rfl zki_1 (Nat.le_of_ble_eq_true rfl) rfl ?_
    refine z_goto hC (pc := 33) (tgt := 4) dX3_makespan_33 rfl ?_
    refine ZW.perm (lv' := [(0, zr (some l0)), (1, zi (if l1 < v11 then v11 else l1)), (2, zi (l2 + 1))]) [2, 1, 0] rfl ?_
    exact hk4 l0 (if l1 < v11 then v11 else l1) (l2 + 1) s12 hf
def f_X3_makespan_l4 (G : Nat → Nat) : Nat → Nat → Int32 → Int32 → zS → Option (Int32 × zS)
  | 0 => fun _ _ _ _ => none
  | n + 1 => f_X3_makespan_b4 G (f_X3_makespan_l4 G n)
theorem w_X3_makespan_l4 {X : zX} (hC : ZC X RX3 cX3_makespan (some .int) 5 85) (hL : X.nL = 3) (hno : ∀ x ∈ X.c.exceptionTable.toList, False) {r : Int32} {sF : zS} (hQ : ZQ X (.inl (some (zi r)), sF)) : ∀ (n : Nat) (l0 : Nat) (l1 : Int32) (l2 : Int32) (s0 : zS) (_ : f_X3_makespan_l4 X.g.1 n l0 l1 l2 s0 = some (r, sF)), ZW X s0 4 [(0, zr (some l0)), (1, zi l1), (2, zi l2)] [] := by
  intro n
  induction n with
  | zero => intro l0 l1 l2 s0 hf; exact absurd (show (none : Option (Int32 × zS)) = some (r, sF) from hf) (fun z => nomatch z)
  | succ n ih => intro l0 l1 l2 s0 hf; exact w_X3_makespan_b4 hC hL hno hQ (f_X3_makespan_l4 X.g.1 n) ih l0 l1 l2 s0 hf
def f_X3_makespan (G : Nat → Nat) (l0 : Nat) (s0 : zS) : Option (Int32 × zS) :=
f_X3_makespan_l4 G 2000 l0 0 0 s0
set_option maxHeartbeats 4000000 in
theorem m_X3_makespan (Γ : zG) (l0 : Nat) (s0 s1 : zS) (r : Int32) (hf : f_X3_makespan Γ.1 l0 s0 = some (r, s1)) : ZM Γ yX3_makespan (ws_ yX3_makespan cX3_makespan 3 (some .int)) 5 85 [zr (some l0)] s0 (.inl (some (zi r)), s1) := by
  refine ZM.of (own := RX3) (by decide) rfl (Nat.le_of_ble_eq_true rfl) ?_
  intro X hg hC hL hno hQ hin
  subst hg
  unfold f_X3_makespan at hf
  refine z_iconst (v := 0) hC (pc := 0) dX3_makespan_0 zki_0 ?_
  refine z_istore_n (lv' := [(1, zi 0), (0, zr (some l0))]) hC (pc := 1) hL dX3_makespan_1 rfl (Nat.le_of_ble_eq_true rfl) rfl ?_
  refine z_iconst (v := 0) hC (pc := 2) dX3_makespan_2 zki_0 ?_
  refine z_istore_n (lv' := [(2, zi 0), (1, zi 0), (0, zr (some l0))]) hC (pc := 3) hL dX3_makespan_3 rfl (Nat.le_of_ble_eq_true rfl) rfl ?_
  refine ZW.perm (lv' := [(0, zr (some l0)), (1, zi 0), (2, zi 0)]) [2, 1, 0] rfl ?_
  exact w_X3_makespan_l4 hC hL hno hQ 2000 l0 0 0 s0 hf
/-! BlockingShop$Plan.swap(II)V -/
def f_X3_swap (G : Nat → Nat) (l0 : Nat) (l1 : Int32) (l2 : Int32) (s0 : zS) : Option (Unit × zS) :=
zo (zgR s0 (some l0) 2 4) fun v1 =>
zo (zaR s0 v1 l1) fun v2 =>
zo (zaI s0 v2 0 l2) fun v3 =>
zo (zgR s0 (some l0) 2 4) fun v4 =>
zo (zaR s0 v4 l1) fun v5 =>
zo (zgR s0 (some l0) 2 4) fun v6 =>
zo (zaR s0 v6 l1) fun v7 =>
zo (zaI s0 v7 0 (l2 + 1)) fun v8 =>
zo (zsI G s0 v5 0 l2 v8) fun s9 =>
zo (zgR s9 (some l0) 2 4) fun v10 =>
zo (zaR s9 v10 l1) fun v11 =>
zo (zsI G s9 v11 0 (l2 + 1) v3) fun s12 =>
some ((), s12)
set_option maxHeartbeats 4000000 in
theorem m_X3_swap (Γ : zG) (l0 : Nat) (l1 : Int32) (l2 : Int32) (s0 s1 : zS) (r : Unit) (hf : f_X3_swap Γ.1 l0 l1 l2 s0 = some (r, s1)) : ZM Γ yX3_swap (ws_ yX3_swap cX3_swap 4 none) 1 0 [zr (some l0), zi l1, zi l2] s0 (.inl none, s1) := by
  refine ZM.of (own := RX3) (by decide) rfl (Nat.le_of_ble_eq_true rfl) ?_
  intro X hg hC hL hno hQ hin
  subst hg
  unfold f_X3_swap at hf
  refine z_aload_n hC (pc := 0) dX3_swap_0 rfl 0 rfl ?_
  refine z_getR hC (pc := 1) in_X3 zcX3 4 (Nat.le_of_ble_eq_true rfl) (zLk.o hC q376) zsm dX3_swap_1 hf (fun v1 hf => ?_)
  refine z_iload_n hC (pc := 4) dX3_swap_4 rfl 1 rfl ?_
  refine z_aald hC (pc := 5) dX3_swap_5 hf (fun v2 hf => ?_)
  refine z_iload_n hC (pc := 6) dX3_swap_6 rfl 2 rfl ?_
  refine z_iald hC (pc := 7) dX3_swap_7 hf (fun v3 hf => ?_)
  refine z_istore_n (lv' := [(3, zi v3), (0, zr (some l0)), (1, zi l1), (2, zi l2)]) hC (pc := 8) hL dX3_swap_8 rfl (Nat.le_of_ble_eq_true rfl) rfl ?_
  refine z_aload_n hC (pc := 9) dX3_swap_9 rfl 1 rfl ?_
  refine z_getR hC (pc := 10) in_X3 zcX3 4 (Nat.le_of_ble_eq_true rfl) (zLk.o hC q376) zsm dX3_swap_10 hf (fun v4 hf => ?_)
  refine z_iload_n hC (pc := 13) dX3_swap_13 rfl 2 rfl ?_
  refine z_aald hC (pc := 14) dX3_swap_14 hf (fun v5 hf => ?_)
  refine z_iload_n hC (pc := 15) dX3_swap_15 rfl 3 rfl ?_
  refine z_aload_n hC (pc := 16) dX3_swap_16 rfl 1 rfl ?_
  refine z_getR hC (pc := 17) in_X3 zcX3 4 (Nat.le_of_ble_eq_true rfl) (zLk.o hC q376) zsm dX3_swap_17 hf (fun v6 hf => ?_)
  refine z_iload_n hC (pc := 20) dX3_swap_20 rfl 2 rfl ?_
  refine z_aald hC (pc := 21) dX3_swap_21 hf (fun v7 hf => ?_)
  refine z_iload_n hC (pc := 22) dX3_swap_22 rfl 3 rfl ?_
  refine z_iconst (v := 1) hC (pc := 23) dX3_swap_23 zki_1 ?_
  refine z_iadd hC (pc := 24) dX3_swap_24 ?_
  refine z_iald hC (pc := 25) dX3_swap_25 hf (fun v8 hf => ?_)
  refine z_iast hC (pc := 26) dX3_swap_26 hf (fun s9 hf => ?_)
  refine z_aload_n hC (pc := 27) dX3_swap_27 rfl 1 rfl ?_
  refine z_getR hC (pc := 28) in_X3 zcX3 4 (Nat.le_of_ble_eq_true rfl) (zLk.o hC q376) zsm dX3_swap_28 hf (fun v10 hf => ?_)
  refine z_iload_n hC (pc := 31) dX3_swap_31 rfl 2 rfl ?_
  refine z_aald hC (pc := 32) dX3_swap_32 hf (fun v11 hf => ?_)
  refine z_iload_n hC (pc := 33) dX3_swap_33 rfl 3 rfl ?_
  refine z_iconst (v := 1) hC (pc := 34) dX3_swap_34 zki_1 ?_
  refine z_iadd hC (pc := 35) dX3_swap_35 ?_
  refine z_iload_n hC (pc := 36) dX3_swap_36 rfl 0 rfl ?_
  refine z_iast hC (pc := 37) dX3_swap_37 hf (fun s12 hf => ?_)
  exact z_return hC (pc := 38) hQ dX3_swap_38 hf
/-! BlockingShop$Layout.exists(I)Z -/
def f_X4_exists (G : Nat → Nat) (l0 : Nat) (l1 : Int32) (s0 : zS) : Option (Int32 × zS) :=
zo (zgR s0 (some l0) 3 3) fun v1 =>
zo (zrc s0 v1 15) fun a4 =>
zb (f_J5_size G a4 s0) fun v5 s6 =>
if v5 ≤ (l1 / 6) then (zrn .boolean 0 s6)
else (zo (zgR s6 (some l0) 3 3) fun v8 =>
zo (zrc s6 v8 15) fun a11 =>
zb (f_J5_get G a11 (l1 / 6) s6) fun v12 s13 =>
zo (zcst s13 v12 9) fun _ =>
zo (zgI s13 v12 9 3) fun v14 =>
if v14 ≤ (l1 - l1 / 6 * 6) then (zrn .boolean 0 s13)
else (zrn .boolean 1 s13))
set_option maxHeartbeats 4000000 in
theorem m_X4_exists (Γ : zG) (l0 : Nat) (l1 : Int32) (s0 s1 : zS) (r : Int32) (hf : f_X4_exists Γ.1 l0 l1 s0 = some (r, s1)) : ZM Γ yX4_exists (ws_ yX4_exists cX4_exists 2 (some .boolean)) 4 64 [zr (some l0), zi l1] s0 (.inl (some (zi r)), s1) := by
  refine ZM.of (own := RX4) (by decide) rfl (Nat.le_of_ble_eq_true rfl) ?_
  intro X hg hC hL hno hQ hin
  subst hg
  unfold f_X4_exists at hf
  refine z_iload_n hC (pc := 0) dX4_exists_0 rfl 1 rfl ?_
  refine z_bipush (v := 6) hC (pc := 1) dX4_exists_1 zkb_6 ?_
  refine z_idiv hC (pc := 3) dX4_exists_3 (by decide) ?_
  refine z_aload_n hC (pc := 4) dX4_exists_4 rfl 0 rfl ?_
  refine z_getR hC (pc := 5) in_X4 zcX4 3 (Nat.le_of_ble_eq_true rfl) (zLk.o hC q330) zsm dX4_exists_5 hf (fun v1 hf => ?_)
  obtain ⟨a4, fs2, rfl, ha3, hf⟩ := z_rcO hf
  refine z_cI5 (rest := [zi (l1 / 6)]) hf (fun v5 s6 hcall => z_runF hC (pc := 8) zcJ5 0 ha3 (m_J5_size X.g a4 s0 s6 v5 hcall) (lw_app (zm4 q1876 q435 q437 q104) (lw_meth q439)) q433 q432 q438 q436 q434 (by decide +kernel) ⟨(Nat.le_of_ble_eq_true rfl), (Nat.le_of_ble_eq_true rfl)⟩ rfl (Nat.le_of_ble_eq_true rfl) dX4_exists_8 rfl) (fun v5 s6 hf => ?_)
  refine z_icmp_ge hC (pc := 13) (tgt := 46) dX4_exists_13 rfl (fun c7 => ?_) (fun c7 => ?_)
  · have hf := zif_t hf c7
    refine z_iconst (v := 0) hC (pc := 46) dX4_exists_46 zki_0 ?_
    exact z_zreturn hC (pc := 47) hQ dX4_exists_47 hf
  · have hf := zif_f hf c7
    refine z_iload_n hC (pc := 16) dX4_exists_16 rfl 1 rfl ?_
    refine z_bipush (v := 6) hC (pc := 17) dX4_exists_17 zkb_6 ?_
    refine z_irem hC (pc := 19) dX4_exists_19 (by decide) ?_
    refine z_aload_n hC (pc := 20) dX4_exists_20 rfl 0 rfl ?_
    refine z_getR hC (pc := 21) in_X4 zcX4 3 (Nat.le_of_ble_eq_true rfl) (zLk.o hC q330) zsm dX4_exists_21 hf (fun v8 hf => ?_)
    refine z_iload_n hC (pc := 24) dX4_exists_24 rfl 1 rfl ?_
    refine z_bipush (v := 6) hC (pc := 25) dX4_exists_25 zkb_6 ?_
    refine z_idiv hC (pc := 27) dX4_exists_27 (by decide) ?_
    obtain ⟨a11, fs9, rfl, ha10, hf⟩ := z_rcO hf
    refine z_cR5 (rest := [zi (l1 - l1 / 6 * 6)]) hf (fun v12 s13 hcall => z_runF hC (pc := 28) zcJ5 1 ha10 (m_J5_get X.g a11 (l1 / 6) s6 s13 v12 hcall) (lw_app (zm4 q1437 q478 q480 q104) (lw_meth q482)) q477 q476 q481 q479 q434 (by decide +kernel) ⟨(Nat.le_of_ble_eq_true rfl), (Nat.le_of_ble_eq_true rfl)⟩ rfl (Nat.le_of_ble_eq_true rfl) dX4_exists_28 rfl) (fun v12 s13 hf => ?_)
    refine z_cast hC (pc := 33) zcX11 q1438 (Or.inl rfl) dX4_exists_33 hf (fun hf => ?_)
    refine z_getI hC (pc := 36) in_X11 zcX11 3 (Nat.le_of_ble_eq_true rfl) (zLk.n hC q2174) zsm dX4_exists_36 hf (fun v14 hf => ?_)
    refine z_icmp_ge hC (pc := 39) (tgt := 46) dX4_exists_39 rfl (fun c15 => ?_) (fun c15 => ?_)
    · have hf := zif_t hf c15
      refine z_iconst (v := 0) hC (pc := 46) dX4_exists_46 zki_0 ?_
      exact z_zreturn hC (pc := 47) hQ dX4_exists_47 hf
    · have hf := zif_f hf c15
      refine z_iconst (v := 1) hC (pc := 42) dX4_exists_42 zki_1 ?_
      refine z_goto hC (pc := 43) (tgt := 47) dX4_exists_43 rfl ?_
      exact z_zreturn hC (pc := 47) hQ dX4_exists_47 hf
/-! BlockingShop$Graph.hasCycle()Z -/
def f_X2_hasCycle_b95 (G : Nat → Nat) (k56 : Nat → Int32 → Int32 → zS → Option (Int32 × zS)) (l0 : Nat) (l1 : Int32) (l2 : Int32) (s0 : zS) : Option (Int32 × zS) :=
k56 l0 l1 (l2 + 1) s0
set_option maxHeartbeats 4000000 in
theorem w_X2_hasCycle_b95 {X : zX} (hC : ZC X RX2 cX2_hasCycle (some .boolean) 5 85) (hL : X.nL = 4) (hno : ∀ x ∈ X.c.exceptionTable.toList, False) {r : Int32} {sF : zS} (hQ : ZQ X (.inl (some (zi r)), sF)) (k56 : Nat → Int32 → Int32 → zS → Option (Int32 × zS)) (hk56 : ∀ (l0 : Nat) (l1 : Int32) (l2 : Int32) (s0 : zS), k56 l0 l1 l2 s0 = some (r, sF) → ZW X s0 56 [(0, zr (some l0)), (1, zi l1), (2, zi l2)] []) (l0 : Nat) (l1 : Int32) (l2 : Int32) (s0 : zS) (hf : f_X2_hasCycle_b95 X.g.1 k56 l0 l1 l2 s0 = some (r, sF)) : ZW X s0 95 [(0, zr (some l0)), (1, zi l1), (2, zi l2)] [] := by
  unfold f_X2_hasCycle_b95 at hf
  refine z_iinc (v := 1) (lv' := [(2, zi (l2 + 1)), (0, zr (some l0)), (1, zi l1)]) hC (pc := 95) hL dX2_hasCycle_95 2 rfl zki_1 (Nat.le_of_ble_eq_true rfl) rfl ?_
  refine z_goto hC (pc := 98) (tgt := 56) dX2_hasCycle_98 rfl ?_
  refine ZW.perm (lv' := [(0, zr (some l0)), (1, zi l1), (2, zi (l2 + 1))]) [1, 2, 0] rfl ?_
  exact hk56 l0 l1 (l2 + 1) s0 hf
def f_X2_hasCycle_b183 (G : Nat → Nat) (k110 : Nat → Int32 → Int32 → Int32 → zS → Option (Int32 × zS)) (l0 : Nat) (l1 : Int32) (l2 : Int32) (l3 : Int32) (s0 : zS) : Option (Int32 × zS) :=
k110 l0 l1 l2 (l3 + 1) s0
set_option maxHeartbeats 4000000 in
theorem w_X2_hasCycle_b183 {X : zX} (hC : ZC X RX2 cX2_hasCycle (some .boolean) 5 85) (hL : X.nL = 4) (hno : ∀ x ∈ X.c.exceptionTable.toList, False) {r : Int32} {sF : zS} (hQ : ZQ X (.inl (some (zi r)), sF)) (k110 : Nat → Int32 → Int32 → Int32 → zS → Option (Int32 × zS)) (hk110 : ∀ (l0 : Nat) (l1 : Int32) (l2 : Int32) (l3 : Int32) (s0 : zS), k110 l0 l1 l2 l3 s0 = some (r, sF) → ZW X s0 110 [(0, zr (some l0)), (1, zi l1), (2, zi l2), (3, zi l3)] []) (l0 : Nat) (l1 : Int32) (l2 : Int32) (l3 : Int32) (s0 : zS) (hf : f_X2_hasCycle_b183 X.g.1 k110 l0 l1 l2 l3 s0 = some (r, sF)) : ZW X s0 183 [(0, zr (some l0)), (1, zi l1), (2, zi l2), (3, zi l3)] [] := by
  unfold f_X2_hasCycle_b183 at hf
  refine z_iinc (v := 1) (lv' := [(3, zi (l3 + 1)), (0, zr (some l0)), (1, zi l1), (2, zi l2)]) hC (pc := 183) hL dX2_hasCycle_183 3 rfl zki_1 (Nat.le_of_ble_eq_true rfl) rfl ?_
  refine z_goto hC (pc := 186) (tgt := 110) dX2_hasCycle_186 rfl ?_
  refine ZW.perm (lv' := [(0, zr (some l0)), (1, zi l1), (2, zi l2), (3, zi (l3 + 1))]) [1, 2, 3, 0] rfl ?_
  exact hk110 l0 l1 l2 (l3 + 1) s0 hf
def f_X2_hasCycle_b110 (G : Nat → Nat) (k103 : Nat → Int32 → Int32 → zS → Option (Int32 × zS)) (k110 : Nat → Int32 → Int32 → Int32 → zS → Option (Int32 × zS)) (l0 : Nat) (l1 : Int32) (l2 : Int32) (l3 : Int32) (s0 : zS) : Option (Int32 × zS) :=
zo (zgI s0 (some l0) 1 7) fun v1 =>
if v1 ≤ l3 then (k103 l0 l1 (l2 + 1) s0)
else (zo (zgR s0 (some l0) 1 0) fun v3 =>
zo (zaI s0 v3 0 l3) fun v4 =>
zo (zgR s0 (some l0) 1 5) fun v5 =>
zo (zaI s0 v5 0 l2) fun v6 =>
if v4 = v6 then (zo (zgR s0 (some l0) 1 4) fun v8 =>
zo (zgR s0 (some l0) 1 1) fun v9 =>
zo (zaI s0 v9 0 l3) fun v10 =>
zo (zaI s0 v8 0 v10) fun v11 =>
zo (zsI G s0 v8 0 v10 (v11 - 1)) fun s12 =>
zo (zgR s12 (some l0) 1 4) fun v13 =>
zo (zgR s12 (some l0) 1 1) fun v14 =>
zo (zaI s12 v14 0 l3) fun v15 =>
zo (zaI s12 v13 0 v15) fun v16 =>
if v16 ≤ 0 then (zo (zgR s12 (some l0) 1 5) fun v18 =>
zo (zgR s12 (some l0) 1 1) fun v19 =>
zo (zaI s12 v19 0 l3) fun v20 =>
zo (zsI G s12 v18 0 l1 v20) fun s21 =>
f_X2_hasCycle_b183 G k110 l0 (l1 + 1) l2 l3 s21)
else (f_X2_hasCycle_b183 G k110 l0 l1 l2 l3 s12))
else (f_X2_hasCycle_b183 G k110 l0 l1 l2 l3 s0))
set_option maxHeartbeats 4000000 in
theorem w_X2_hasCycle_b110 {X : zX} (hC : ZC X RX2 cX2_hasCycle (some .boolean) 5 85) (hL : X.nL = 4) (hno : ∀ x ∈ X.c.exceptionTable.toList, False) {r : Int32} {sF : zS} (hQ : ZQ X (.inl (some (zi r)), sF)) (k103 : Nat → Int32 → Int32 → zS → Option (Int32 × zS)) (hk103 : ∀ (l0 : Nat) (l1 : Int32) (l2 : Int32) (s0 : zS), k103 l0 l1 l2 s0 = some (r, sF) → ZW X s0 103 [(0, zr (some l0)), (1, zi l1), (2, zi l2)] []) (k110 : Nat → Int32 → Int32 → Int32 → zS → Option (Int32 × zS)) (hk110 : ∀ (l0 : Nat) (l1 : Int32) (l2 : Int32) (l3 : Int32) (s0 : zS), k110 l0 l1 l2 l3 s0 = some (r, sF) → ZW X s0 110 [(0, zr (some l0)), (1, zi l1), (2, zi l2), (3, zi l3)] []) (l0 : Nat) (l1 : Int32) (l2 : Int32) (l3 : Int32) (s0 : zS) (hf : f_X2_hasCycle_b110 X.g.1 k103 k110 l0 l1 l2 l3 s0 = some (r, sF)) : ZW X s0 110 [(0, zr (some l0)), (1, zi l1), (2, zi l2), (3, zi l3)] [] := by
  unfold f_X2_hasCycle_b110 at hf
  refine z_iload_n hC (pc := 110) dX2_hasCycle_110 rfl 3 rfl ?_
  refine z_aload_n hC (pc := 111) dX2_hasCycle_111 rfl 0 rfl ?_
  refine z_getI hC (pc := 112) in_X2 zcX2 7 (Nat.le_of_ble_eq_true rfl) (zLk.o hC q201) zsm dX2_hasCycle_112 hf (fun v1 hf => ?_)
  refine z_icmp_ge hC (pc := 115) (tgt := 189) dX2_hasCycle_115 rfl (fun c2 => ?_) (fun c2 => ?_)
  · have hf := zif_t hf c2
    refine z_iinc (v := 1) (lv' := [(2, zi (l2 + 1)), (0, zr (some l0)), (1, zi l1), (3, zi l3)]) hC (pc := 189) hL dX2_hasCycle_189 2 rfl zki_1 (Nat.le_of_ble_eq_true rfl) rfl ?_
    refine z_goto hC (pc := 192) (tgt := 103) dX2_hasCycle_192 rfl ?_
    refine ZW.perm (lv' := [(0, zr (some l0)), (1, zi l1), (2, zi (l2 + 1))]) [1, 2, 0] rfl ?_
    exact hk103 l0 l1 (l2 + 1) s0 hf
  · have hf := zif_f hf c2
    refine z_aload_n hC (pc := 118) dX2_hasCycle_118 rfl 0 rfl ?_
    refine z_getR hC (pc := 119) in_X2 zcX2 0 (Nat.le_of_ble_eq_true rfl) (zLk.o hC q193) zsm dX2_hasCycle_119 hf (fun v3 hf => ?_)
    refine z_iload_n hC (pc := 122) dX2_hasCycle_122 rfl 3 rfl ?_
    refine z_iald hC (pc := 123) dX2_hasCycle_123 hf (fun v4 hf => ?_)
    refine z_aload_n hC (pc := 124) dX2_hasCycle_124 rfl 0 rfl ?_
    refine z_getR hC (pc := 125) in_X2 zcX2 5 (Nat.le_of_ble_eq_true rfl) (zLk.o hC q199) zsm dX2_hasCycle_125 hf (fun v5 hf => ?_)
    refine z_iload_n hC (pc := 128) dX2_hasCycle_128 rfl 2 rfl ?_
    refine z_iald hC (pc := 129) dX2_hasCycle_129 hf (fun v6 hf => ?_)
    refine z_icmp_eq hC (pc := 130) (tgt := 136) dX2_hasCycle_130 rfl (fun c7 => ?_) (fun c7 => ?_)
    · have hf := zif_t hf c7
      refine z_aload_n hC (pc := 136) dX2_hasCycle_136 rfl 0 rfl ?_
      refine z_getR hC (pc := 137) in_X2 zcX2 4 (Nat.le_of_ble_eq_true rfl) (zLk.o hC q198) zsm dX2_hasCycle_137 hf (fun v8 hf => ?_)
      refine z_aload_n hC (pc := 140) dX2_hasCycle_140 rfl 0 rfl ?_
      refine z_getR hC (pc := 141) in_X2 zcX2 1 (Nat.le_of_ble_eq_true rfl) (zLk.o hC q194) zsm dX2_hasCycle_141 hf (fun v9 hf => ?_)
      refine z_iload_n hC (pc := 144) dX2_hasCycle_144 rfl 3 rfl ?_
      refine z_iald hC (pc := 145) dX2_hasCycle_145 hf (fun v10 hf => ?_)
      refine z_dup2 hC (pc := 146) dX2_hasCycle_146 rfl rfl ?_
      refine z_iald hC (pc := 147) dX2_hasCycle_147 hf (fun v11 hf => ?_)
      refine z_iconst (v := 1) hC (pc := 148) dX2_hasCycle_148 zki_1 ?_
      refine z_isub hC (pc := 149) dX2_hasCycle_149 ?_
      refine z_iast hC (pc := 150) dX2_hasCycle_150 hf (fun s12 hf => ?_)
      refine z_aload_n hC (pc := 151) dX2_hasCycle_151 rfl 0 rfl ?_
      refine z_getR hC (pc := 152) in_X2 zcX2 4 (Nat.le_of_ble_eq_true rfl) (zLk.o hC q198) zsm dX2_hasCycle_152 hf (fun v13 hf => ?_)
      refine z_aload_n hC (pc := 155) dX2_hasCycle_155 rfl 0 rfl ?_
      refine z_getR hC (pc := 156) in_X2 zcX2 1 (Nat.le_of_ble_eq_true rfl) (zLk.o hC q194) zsm dX2_hasCycle_156 hf (fun v14 hf => ?_)
      refine z_iload_n hC (pc := 159) dX2_hasCycle_159 rfl 3 rfl ?_
      refine z_iald hC (pc := 160) dX2_hasCycle_160 hf (fun v15 hf => ?_)
      refine z_iald hC (pc := 161) dX2_hasCycle_161 hf (fun v16 hf => ?_)
      refine z_if_le hC (pc := 162) (tgt := 168) dX2_hasCycle_162 rfl (fun c17 => ?_) (fun c17 => ?_)
      · have hf := zif_t hf c17
        refine z_aload_n hC (pc := 168) dX2_hasCycle_168 rfl 0 rfl ?_
        refine z_getR hC (pc := 169) in_X2 zcX2 5 (Nat.le_of_ble_eq_true rfl) (zLk.o hC q199) zsm dX2_hasCycle_169 hf (fun v18 hf => ?_)
        refine z_iload_n hC (pc := 172) dX2_hasCycle_172 rfl 1 rfl ?_
        refine z_aload_n hC (pc := 173) dX2_hasCycle_173 rfl 0 rfl ?_
        refine z_getR hC (pc := 174) in_X2 zcX2 1 (Nat.le_of_ble_eq_true rfl) (zLk.o hC q194) zsm dX2_hasCycle_174 hf (fun v19 hf => ?_)
        refine z_iload_n hC (pc := 177) dX2_hasCycle_177 rfl 3 rfl ?_
        refine z_iald hC (pc := 178) dX2_hasCycle_178 hf (fun v20 hf => ?_)
        refine z_iast hC (pc := 179) dX2_hasCycle_179 hf (fun s21 hf => ?_)
        refine z_iinc (v := 1) (lv' := [(1, zi (l1 + 1)), (0, zr (some l0)), (2, zi l2), (3, zi l3)]) hC (pc := 180) hL dX2_hasCycle_180 1 rfl zki_1 (Nat.le_of_ble_eq_true rfl) rfl ?_
        refine ZW.perm (lv' := [(0, zr (some l0)), (1, zi (l1 + 1)), (2, zi l2), (3, zi l3)]) [1, 0, 2, 3] rfl ?_
        exact w_X2_hasCycle_b183 hC hL hno hQ k110 hk110 l0 (l1 + 1) l2 l3 s21 hf
      · have hf := zif_f hf c17
        refine z_goto hC (pc := 165) (tgt := 183) dX2_hasCycle_165 rfl ?_
        exact w_X2_hasCycle_b183 hC hL hno hQ k110 hk110 l0 l1 l2 l3 s12 hf
    · have hf := zif_f hf c7
      refine z_goto hC (pc := 133) (tgt := 183) dX2_hasCycle_133 rfl ?_
      exact w_X2_hasCycle_b183 hC hL hno hQ k110 hk110 l0 l1 l2 l3 s0 hf
def f_X2_hasCycle_l110 (G : Nat → Nat) (k103 : Nat → Int32 → Int32 → zS → Option (Int32 × zS)) : Nat → Nat → Int32 → Int32 → Int32 → zS → Option (Int32 × zS)
  | 0 => fun _ _ _ _ _ => none
  | n + 1 => f_X2_hasCycle_b110 G k103 (f_X2_hasCycle_l110 G k103 n)
theorem w_X2_hasCycle_l110 {X : zX} (hC : ZC X RX2 cX2_hasCycle (some .boolean) 5 85) (hL : X.nL = 4) (hno : ∀ x ∈ X.c.exceptionTable.toList, False) {r : Int32} {sF : zS} (hQ : ZQ X (.inl (some (zi r)), sF)) (k103 : Nat → Int32 → Int32 → zS → Option (Int32 × zS)) (hk103 : ∀ (l0 : Nat) (l1 : Int32) (l2 : Int32) (s0 : zS), k103 l0 l1 l2 s0 = some (r, sF) → ZW X s0 103 [(0, zr (some l0)), (1, zi l1), (2, zi l2)] []) : ∀ (n : Nat) (l0 : Nat) (l1 : Int32) (l2 : Int32) (l3 : Int32) (s0 : zS) (_ : f_X2_hasCycle_l110 X.g.1 k103 n l0 l1 l2 l3 s0 = some (r, sF)), ZW X s0 110 [(0, zr (some l0)), (1, zi l1), (2, zi l2), (3, zi l3)] [] := by
  intro n
  induction n with
  | zero => intro l0 l1 l2 l3 s0 hf; exact absurd (show (none : Option (Int32 × zS)) = some (r, sF) from hf) (fun z => nomatch z)
  | succ n ih => intro l0 l1 l2 l3 s0 hf; exact w_X2_hasCycle_b110 hC hL hno hQ k103 hk103 (f_X2_hasCycle_l110 X.g.1 k103 n) ih l0 l1 l2 l3 s0 hf
def f_X2_hasCycle_b103 (G : Nat → Nat) (k103 : Nat → Int32 → Int32 → zS → Option (Int32 × zS)) (l0 : Nat) (l1 : Int32) (l2 : Int32) (s0 : zS) : Option (Int32 × zS) :=
if l1 ≤ l2 then (zo (zgI s0 (some l0) 1 8) fun v2 =>
if v2 ≤ l1 then (zrn .boolean 0 s0)
else (zrn .boolean 1 s0))
else (f_X2_hasCycle_l110 G k103 2000 l0 l1 l2 0 s0)
set_option maxHeartbeats 4000000 in
theorem w_X2_hasCycle_b103 {X : zX} (hC : ZC X RX2 cX2_hasCycle (some .boolean) 5 85) (hL : X.nL = 4) (hno : ∀ x ∈ X.c.exceptionTable.toList, False) {r : Int32} {sF : zS} (hQ : ZQ X (.inl (some (zi r)), sF)) (k103 : Nat → Int32 → Int32 → zS → Option (Int32 × zS)) (hk103 : ∀ (l0 : Nat) (l1 : Int32) (l2 : Int32) (s0 : zS), k103 l0 l1 l2 s0 = some (r, sF) → ZW X s0 103 [(0, zr (some l0)), (1, zi l1), (2, zi l2)] []) (l0 : Nat) (l1 : Int32) (l2 : Int32) (s0 : zS) (hf : f_X2_hasCycle_b103 X.g.1 k103 l0 l1 l2 s0 = some (r, sF)) : ZW X s0 103 [(0, zr (some l0)), (1, zi l1), (2, zi l2)] [] := by
  unfold f_X2_hasCycle_b103 at hf
  refine z_iload_n hC (pc := 103) dX2_hasCycle_103 rfl 2 rfl ?_
  refine z_iload_n hC (pc := 104) dX2_hasCycle_104 rfl 1 rfl ?_
  refine z_icmp_ge hC (pc := 105) (tgt := 195) dX2_hasCycle_105 rfl (fun c1 => ?_) (fun c1 => ?_)
  · have hf := zif_t hf c1
    refine z_iload_n hC (pc := 195) dX2_hasCycle_195 rfl 1 rfl ?_
    refine z_aload_n hC (pc := 196) dX2_hasCycle_196 rfl 0 rfl ?_
    refine z_getI hC (pc := 197) in_X2 zcX2 8 (Nat.le_of_ble_eq_true rfl) (zLk.o hC q202) zsm dX2_hasCycle_197 hf (fun v2 hf => ?_)
    refine z_icmp_ge hC (pc := 200) (tgt := 207) dX2_hasCycle_200 rfl (fun c3 => ?_) (fun c3 => ?_)
    · have hf := zif_t hf c3
      refine z_iconst (v := 0) hC (pc := 207) dX2_hasCycle_207 zki_0 ?_
      exact z_zreturn hC (pc := 208) hQ dX2_hasCycle_208 hf
    · have hf := zif_f hf c3
      refine z_iconst (v := 1) hC (pc := 203) dX2_hasCycle_203 zki_1 ?_
      refine z_goto hC (pc := 204) (tgt := 208) dX2_hasCycle_204 rfl ?_
      exact z_zreturn hC (pc := 208) hQ dX2_hasCycle_208 hf
  · have hf := zif_f hf c1
    refine z_iconst (v := 0) hC (pc := 108) dX2_hasCycle_108 zki_0 ?_
    refine z_istore_n (lv' := [(3, zi 0), (0, zr (some l0)), (1, zi l1), (2, zi l2)]) hC (pc := 109) hL dX2_hasCycle_109 rfl (Nat.le_of_ble_eq_true rfl) rfl ?_
    refine ZW.perm (lv' := [(0, zr (some l0)), (1, zi l1), (2, zi l2), (3, zi 0)]) [1, 2, 3, 0] rfl ?_
    exact w_X2_hasCycle_l110 hC hL hno hQ k103 hk103 2000 l0 l1 l2 0 s0 hf
def f_X2_hasCycle_l103 (G : Nat → Nat) : Nat → Nat → Int32 → Int32 → zS → Option (Int32 × zS)
  | 0 => fun _ _ _ _ => none
  | n + 1 => f_X2_hasCycle_b103 G (f_X2_hasCycle_l103 G n)
theorem w_X2_hasCycle_l103 {X : zX} (hC : ZC X RX2 cX2_hasCycle (some .boolean) 5 85) (hL : X.nL = 4) (hno : ∀ x ∈ X.c.exceptionTable.toList, False) {r : Int32} {sF : zS} (hQ : ZQ X (.inl (some (zi r)), sF)) : ∀ (n : Nat) (l0 : Nat) (l1 : Int32) (l2 : Int32) (s0 : zS) (_ : f_X2_hasCycle_l103 X.g.1 n l0 l1 l2 s0 = some (r, sF)), ZW X s0 103 [(0, zr (some l0)), (1, zi l1), (2, zi l2)] [] := by
  intro n
  induction n with
  | zero => intro l0 l1 l2 s0 hf; exact absurd (show (none : Option (Int32 × zS)) = some (r, sF) from hf) (fun z => nomatch z)
  | succ n ih => intro l0 l1 l2 s0 hf; exact w_X2_hasCycle_b103 hC hL hno hQ (f_X2_hasCycle_l103 X.g.1 n) ih l0 l1 l2 s0 hf
def f_X2_hasCycle_b56 (G : Nat → Nat) (k56 : Nat → Int32 → Int32 → zS → Option (Int32 × zS)) (l0 : Nat) (l1 : Int32) (l2 : Int32) (s0 : zS) : Option (Int32 × zS) :=
if 36 ≤ l2 then (f_X2_hasCycle_l103 G 2000 l0 l1 0 s0)
else (zo (zgR s0 (some l0) 1 6) fun v2 =>
zo (zrc s0 v2 3) fun a5 =>
zb (f_X4_exists G a5 l2 s0) fun v6 s7 =>
if v6 = 0 then (f_X2_hasCycle_b95 G k56 l0 l1 l2 s7)
else (zo (zgR s7 (some l0) 1 4) fun v9 =>
zo (zaI s7 v9 0 l2) fun v10 =>
if v10 ≤ 0 then (zo (zgR s7 (some l0) 1 5) fun v12 =>
zo (zsI G s7 v12 0 l1 l2) fun s13 =>
f_X2_hasCycle_b95 G k56 l0 (l1 + 1) l2 s13)
else (f_X2_hasCycle_b95 G k56 l0 l1 l2 s7)))
set_option maxHeartbeats 4000000 in
theorem w_X2_hasCycle_b56 {X : zX} (hC : ZC X RX2 cX2_hasCycle (some .boolean) 5 85) (hL : X.nL = 4) (hno : ∀ x ∈ X.c.exceptionTable.toList, False) {r : Int32} {sF : zS} (hQ : ZQ X (.inl (some (zi r)), sF)) (k56 : Nat → Int32 → Int32 → zS → Option (Int32 × zS)) (hk56 : ∀ (l0 : Nat) (l1 : Int32) (l2 : Int32) (s0 : zS), k56 l0 l1 l2 s0 = some (r, sF) → ZW X s0 56 [(0, zr (some l0)), (1, zi l1), (2, zi l2)] []) (l0 : Nat) (l1 : Int32) (l2 : Int32) (s0 : zS) (hf : f_X2_hasCycle_b56 X.g.1 k56 l0 l1 l2 s0 = some (r, sF)) : ZW X s0 56 [(0, zr (some l0)), (1, zi l1), (2, zi l2)] [] := by
  unfold f_X2_hasCycle_b56 at hf
  refine z_iload_n hC (pc := 56) dX2_hasCycle_56 rfl 2 rfl ?_
  refine z_bipush (v := 36) hC (pc := 57) dX2_hasCycle_57 zkb_36 ?_
  refine z_icmp_ge hC (pc := 59) (tgt := 101) dX2_hasCycle_59 rfl (fun c1 => ?_) (fun c1 => ?_)
  · have hf := zif_t hf c1
    refine z_iconst (v := 0) hC (pc := 101) dX2_hasCycle_101 zki_0 ?_
    refine z_istore_n (lv' := [(2, zi 0), (0, zr (some l0)), (1, zi l1)]) hC (pc := 102) hL dX2_hasCycle_102 rfl (Nat.le_of_ble_eq_true rfl) rfl ?_
    refine ZW.perm (lv' := [(0, zr (some l0)), (1, zi l1), (2, zi 0)]) [1, 2, 0] rfl ?_
    exact w_X2_hasCycle_l103 hC hL hno hQ 2000 l0 l1 0 s0 hf
  · have hf := zif_f hf c1
    refine z_aload_n hC (pc := 62) dX2_hasCycle_62 rfl 0 rfl ?_
    refine z_getR hC (pc := 63) in_X2 zcX2 6 (Nat.le_of_ble_eq_true rfl) (zLk.o hC q200) zsm dX2_hasCycle_63 hf (fun v2 hf => ?_)
    refine z_iload_n hC (pc := 66) dX2_hasCycle_66 rfl 2 rfl ?_
    obtain ⟨a5, fs3, rfl, ha4, hf⟩ := z_rcO hf
    refine z_cI (rest := []) hf (fun v6 s7 hcall => z_runV hC (pc := 67) zcX4 1 ha4 (m_X4_exists X.g a5 l2 s0 s7 v6 hcall) (lw_V q1871 q1872 q1873 q100 q1874) hdV_X4_exists ⟨(Nat.le_of_ble_eq_true rfl), (Nat.le_of_ble_eq_true rfl)⟩ rfl (Nat.le_of_ble_eq_true rfl) dX2_hasCycle_67 rfl) (fun v6 s7 hf => ?_)
    refine z_if_eq hC (pc := 70) (tgt := 95) dX2_hasCycle_70 rfl (fun c8 => ?_) (fun c8 => ?_)
    · have hf := zif_t hf c8
      exact w_X2_hasCycle_b95 hC hL hno hQ k56 hk56 l0 l1 l2 s7 hf
    · have hf := zif_f hf c8
      refine z_aload_n hC (pc := 73) dX2_hasCycle_73 rfl 0 rfl ?_
      refine z_getR hC (pc := 74) in_X2 zcX2 4 (Nat.le_of_ble_eq_true rfl) (zLk.o hC q198) zsm dX2_hasCycle_74 hf (fun v9 hf => ?_)
      refine z_iload_n hC (pc := 77) dX2_hasCycle_77 rfl 2 rfl ?_
      refine z_iald hC (pc := 78) dX2_hasCycle_78 hf (fun v10 hf => ?_)
      refine z_if_le hC (pc := 79) (tgt := 85) dX2_hasCycle_79 rfl (fun c11 => ?_) (fun c11 => ?_)
      · have hf := zif_t hf c11
        refine z_aload_n hC (pc := 85) dX2_hasCycle_85 rfl 0 rfl ?_
        refine z_getR hC (pc := 86) in_X2 zcX2 5 (Nat.le_of_ble_eq_true rfl) (zLk.o hC q199) zsm dX2_hasCycle_86 hf (fun v12 hf => ?_)
        refine z_iload_n hC (pc := 89) dX2_hasCycle_89 rfl 1 rfl ?_
        refine z_iload_n hC (pc := 90) dX2_hasCycle_90 rfl 2 rfl ?_
        refine z_iast hC (pc := 91) dX2_hasCycle_91 hf (fun s13 hf => ?_)
        refine z_iinc (v := 1) (lv' := [(1, zi (l1 + 1)), (0, zr (some l0)), (2, zi l2)]) hC (pc := 92) hL dX2_hasCycle_92 1 rfl zki_1 (Nat.le_of_ble_eq_true rfl) rfl ?_
        refine ZW.perm (lv' := [(0, zr (some l0)), (1, zi (l1 + 1)), (2, zi l2)]) [1, 0, 2] rfl ?_
        exact w_X2_hasCycle_b95 hC hL hno hQ k56 hk56 l0 (l1 + 1) l2 s13 hf
      · have hf := zif_f hf c11
        refine z_goto hC (pc := 82) (tgt := 95) dX2_hasCycle_82 rfl ?_
        exact w_X2_hasCycle_b95 hC hL hno hQ k56 hk56 l0 l1 l2 s7 hf
def f_X2_hasCycle_l56 (G : Nat → Nat) : Nat → Nat → Int32 → Int32 → zS → Option (Int32 × zS)
  | 0 => fun _ _ _ _ => none
  | n + 1 => f_X2_hasCycle_b56 G (f_X2_hasCycle_l56 G n)
theorem w_X2_hasCycle_l56 {X : zX} (hC : ZC X RX2 cX2_hasCycle (some .boolean) 5 85) (hL : X.nL = 4) (hno : ∀ x ∈ X.c.exceptionTable.toList, False) {r : Int32} {sF : zS} (hQ : ZQ X (.inl (some (zi r)), sF)) : ∀ (n : Nat) (l0 : Nat) (l1 : Int32) (l2 : Int32) (s0 : zS) (_ : f_X2_hasCycle_l56 X.g.1 n l0 l1 l2 s0 = some (r, sF)), ZW X s0 56 [(0, zr (some l0)), (1, zi l1), (2, zi l2)] [] := by
  intro n
  induction n with
  | zero => intro l0 l1 l2 s0 hf; exact absurd (show (none : Option (Int32 × zS)) = some (r, sF) from hf) (fun z => nomatch z)
  | succ n ih => intro l0 l1 l2 s0 hf; exact w_X2_hasCycle_b56 hC hL hno hQ (f_X2_hasCycle_l56 X.g.1 n) ih l0 l1 l2 s0 hf
def f_X2_hasCycle_b23 (G : Nat → Nat) (k23 : Nat → Int32 → zS → Option (Int32 × zS)) (l0 : Nat) (l1 : Int32) (s0 : zS) : Option (Int32 × zS) :=
zo (zgI s0 (some l0) 1 7) fun v1 =>
if v1 ≤ l1 then (f_X2_hasCycle_l56 G 2000 l0 0 0 s0)
else (zo (zgR s0 (some l0) 1 4) fun v3 =>
zo (zgR s0 (some l0) 1 1) fun v4 =>
zo (zaI s0 v4 0 l1) fun v5 =>
zo (zaI s0 v3 0 v5) fun v6 =>
zo (zsI G s0 v3 0 v5 (v6 + 1)) fun s7 =>
k23 l0 (l1 + 1) s7)
set_option maxHeartbeats 4000000 in
theorem w_X2_hasCycle_b23 {X : zX} (hC : ZC X RX2 cX2_hasCycle (some .boolean) 5 85) (hL : X.nL = 4) (hno : ∀ x ∈ X.c.exceptionTable.toList, False) {r : Int32} {sF : zS} (hQ : ZQ X (.inl (some (zi r)), sF)) (k23 : Nat → Int32 → zS → Option (Int32 × zS)) (hk23 : ∀ (l0 : Nat) (l1 : Int32) (s0 : zS), k23 l0 l1 s0 = some (r, sF) → ZW X s0 23 [(0, zr (some l0)), (1, zi l1)] []) (l0 : Nat) (l1 : Int32) (s0 : zS) (hf : f_X2_hasCycle_b23 X.g.1 k23 l0 l1 s0 = some (r, sF)) : ZW X s0 23 [(0, zr (some l0)), (1, zi l1)] [] := by
  unfold f_X2_hasCycle_b23 at hf
  refine z_iload_n hC (pc := 23) dX2_hasCycle_23 rfl 1 rfl ?_
  refine z_aload_n hC (pc := 24) dX2_hasCycle_24 rfl 0 rfl ?_
  refine z_getI hC (pc := 25) in_X2 zcX2 7 (Nat.le_of_ble_eq_true rfl) (zLk.o hC q201) zsm dX2_hasCycle_25 hf (fun v1 hf => ?_)
  refine z_icmp_ge hC (pc := 28) (tgt := 52) dX2_hasCycle_28 rfl (fun c2 => ?_) (fun c2 => ?_)
  · have hf := zif_t hf c2
    refine z_iconst (v := 0) hC (pc := 52) dX2_hasCycle_52 zki_0 ?_
    refine z_istore_n (lv' := [(1, zi 0), (0, zr (some l0))]) hC (pc := 53) hL dX2_hasCycle_53 rfl (Nat.le_of_ble_eq_true rfl) rfl ?_
    refine z_iconst (v := 0) hC (pc := 54) dX2_hasCycle_54 zki_0 ?_
    refine z_istore_n (lv' := [(2, zi 0), (1, zi 0), (0, zr (some l0))]) hC (pc := 55) hL dX2_hasCycle_55 rfl (Nat.le_of_ble_eq_true rfl) rfl ?_
    refine ZW.perm (lv' := [(0, zr (some l0)), (1, zi 0), (2, zi 0)]) [2, 1, 0] rfl ?_
    exact w_X2_hasCycle_l56 hC hL hno hQ 2000 l0 0 0 s0 hf
  · have hf := zif_f hf c2
    refine z_aload_n hC (pc := 31) dX2_hasCycle_31 rfl 0 rfl ?_
    refine z_getR hC (pc := 32) in_X2 zcX2 4 (Nat.le_of_ble_eq_true rfl) (zLk.o hC q198) zsm dX2_hasCycle_32 hf (fun v3 hf => ?_)
    refine z_aload_n hC (pc := 35) dX2_hasCycle_35 rfl 0 rfl ?_
    refine z_getR hC (pc := 36) in_X2 zcX2 1 (Nat.le_of_ble_eq_true rfl) (zLk.o hC q194) zsm dX2_hasCycle_36 hf (fun v4 hf => ?_)
    refine z_iload_n hC (pc := 39) dX2_hasCycle_39 rfl 1 rfl ?_
    refine z_iald hC (pc := 40) dX2_hasCycle_40 hf (fun v5 hf => ?_)
    refine z_dup2 hC (pc := 41) dX2_hasCycle_41 rfl rfl ?_
    refine z_iald hC (pc := 42) dX2_hasCycle_42 hf (fun v6 hf => ?_)
    refine z_iconst (v := 1) hC (pc := 43) dX2_hasCycle_43 zki_1 ?_
    refine z_iadd hC (pc := 44) dX2_hasCycle_44 ?_
    refine z_iast hC (pc := 45) dX2_hasCycle_45 hf (fun s7 hf => ?_)
    refine z_iinc (v := 1) (lv' := [(1, zi (l1 + 1)), (0, zr (some l0))]) hC (pc := 46) hL dX2_hasCycle_46 1 rfl zki_1 (Nat.le_of_ble_eq_true rfl) rfl ?_
    refine z_goto hC (pc := 49) (tgt := 23) dX2_hasCycle_49 rfl ?_
    refine ZW.perm (lv' := [(0, zr (some l0)), (1, zi (l1 + 1))]) [1, 0] rfl ?_
    exact hk23 l0 (l1 + 1) s7 hf
def f_X2_hasCycle_l23 (G : Nat → Nat) : Nat → Nat → Int32 → zS → Option (Int32 × zS)
  | 0 => fun _ _ _ => none
  | n + 1 => f_X2_hasCycle_b23 G (f_X2_hasCycle_l23 G n)
theorem w_X2_hasCycle_l23 {X : zX} (hC : ZC X RX2 cX2_hasCycle (some .boolean) 5 85) (hL : X.nL = 4) (hno : ∀ x ∈ X.c.exceptionTable.toList, False) {r : Int32} {sF : zS} (hQ : ZQ X (.inl (some (zi r)), sF)) : ∀ (n : Nat) (l0 : Nat) (l1 : Int32) (s0 : zS) (_ : f_X2_hasCycle_l23 X.g.1 n l0 l1 s0 = some (r, sF)), ZW X s0 23 [(0, zr (some l0)), (1, zi l1)] [] := by
  intro n
  induction n with
  | zero => intro l0 l1 s0 hf; exact absurd (show (none : Option (Int32 × zS)) = some (r, sF) from hf) (fun z => nomatch z)
  | succ n ih => intro l0 l1 s0 hf; exact w_X2_hasCycle_b23 hC hL hno hQ (f_X2_hasCycle_l23 X.g.1 n) ih l0 l1 s0 hf
def f_X2_hasCycle_b2 (G : Nat → Nat) (k2 : Nat → Int32 → zS → Option (Int32 × zS)) (l0 : Nat) (l1 : Int32) (s0 : zS) : Option (Int32 × zS) :=
if 36 ≤ l1 then (f_X2_hasCycle_l23 G 2000 l0 0 s0)
else (zo (zgR s0 (some l0) 1 4) fun v2 =>
zo (zsI G s0 v2 0 l1 0) fun s3 =>
k2 l0 (l1 + 1) s3)
set_option maxHeartbeats 4000000 in
theorem w_X2_hasCycle_b2 {X : zX} (hC : ZC X RX2 cX2_hasCycle (some .boolean) 5 85) (hL : X.nL = 4) (hno : ∀ x ∈ X.c.exceptionTable.toList, False) {r : Int32} {sF : zS} (hQ : ZQ X (.inl (some (zi r)), sF)) (k2 : Nat → Int32 → zS → Option (Int32 × zS)) (hk2 : ∀ (l0 : Nat) (l1 : Int32) (s0 : zS), k2 l0 l1 s0 = some (r, sF) → ZW X s0 2 [(0, zr (some l0)), (1, zi l1)] []) (l0 : Nat) (l1 : Int32) (s0 : zS) (hf : f_X2_hasCycle_b2 X.g.1 k2 l0 l1 s0 = some (r, sF)) : ZW X s0 2 [(0, zr (some l0)), (1, zi l1)] [] := by
  unfold f_X2_hasCycle_b2 at hf
  refine z_iload_n hC (pc := 2) dX2_hasCycle_2 rfl 1 rfl ?_
  refine z_bipush (v := 36) hC (pc := 3) dX2_hasCycle_3 zkb_36 ?_
  refine z_icmp_ge hC (pc := 5) (tgt := 21) dX2_hasCycle_5 rfl (fun c1 => ?_) (fun c1 => ?_)
  · have hf := zif_t hf c1
    refine z_iconst (v := 0) hC (pc := 21) dX2_hasCycle_21 zki_0 ?_
    refine z_istore_n (lv' := [(1, zi 0), (0, zr (some l0))]) hC (pc := 22) hL dX2_hasCycle_22 rfl (Nat.le_of_ble_eq_true rfl) rfl ?_
    refine ZW.perm (lv' := [(0, zr (some l0)), (1, zi 0)]) [1, 0] rfl ?_
    exact w_X2_hasCycle_l23 hC hL hno hQ 2000 l0 0 s0 hf
  · have hf := zif_f hf c1
    refine z_aload_n hC (pc := 8) dX2_hasCycle_8 rfl 0 rfl ?_
    refine z_getR hC (pc := 9) in_X2 zcX2 4 (Nat.le_of_ble_eq_true rfl) (zLk.o hC q198) zsm dX2_hasCycle_9 hf (fun v2 hf => ?_)
    refine z_iload_n hC (pc := 12) dX2_hasCycle_12 rfl 1 rfl ?_
    refine z_iconst (v := 0) hC (pc := 13) dX2_hasCycle_13 zki_0 ?_
    refine z_iast hC (pc := 14) dX2_hasCycle_14 hf (fun s3 hf => ?_)
    refine z_iinc (v := 1) (lv' := [(1, zi (l1 + 1)), (0, zr (some l0))]) hC (pc := 15) hL dX2_hasCycle_15 1 rfl zki_1 (Nat.le_of_ble_eq_true rfl) rfl ?_
    refine z_goto hC (pc := 18) (tgt := 2) dX2_hasCycle_18 rfl ?_
    refine ZW.perm (lv' := [(0, zr (some l0)), (1, zi (l1 + 1))]) [1, 0] rfl ?_
    exact hk2 l0 (l1 + 1) s3 hf
def f_X2_hasCycle_l2 (G : Nat → Nat) : Nat → Nat → Int32 → zS → Option (Int32 × zS)
  | 0 => fun _ _ _ => none
  | n + 1 => f_X2_hasCycle_b2 G (f_X2_hasCycle_l2 G n)
theorem w_X2_hasCycle_l2 {X : zX} (hC : ZC X RX2 cX2_hasCycle (some .boolean) 5 85) (hL : X.nL = 4) (hno : ∀ x ∈ X.c.exceptionTable.toList, False) {r : Int32} {sF : zS} (hQ : ZQ X (.inl (some (zi r)), sF)) : ∀ (n : Nat) (l0 : Nat) (l1 : Int32) (s0 : zS) (_ : f_X2_hasCycle_l2 X.g.1 n l0 l1 s0 = some (r, sF)), ZW X s0 2 [(0, zr (some l0)), (1, zi l1)] [] := by
  intro n
  induction n with
  | zero => intro l0 l1 s0 hf; exact absurd (show (none : Option (Int32 × zS)) = some (r, sF) from hf) (fun z => nomatch z)
  | succ n ih => intro l0 l1 s0 hf; exact w_X2_hasCycle_b2 hC hL hno hQ (f_X2_hasCycle_l2 X.g.1 n) ih l0 l1 s0 hf
def f_X2_hasCycle (G : Nat → Nat) (l0 : Nat) (s0 : zS) : Option (Int32 × zS) :=
f_X2_hasCycle_l2 G 2000 l0 0 s0
set_option maxHeartbeats 4000000 in
theorem m_X2_hasCycle (Γ : zG) (l0 : Nat) (s0 s1 : zS) (r : Int32) (hf : f_X2_hasCycle Γ.1 l0 s0 = some (r, s1)) : ZM Γ yX2_hasCycle (ws_ yX2_hasCycle cX2_hasCycle 4 (some .boolean)) 5 85 [zr (some l0)] s0 (.inl (some (zi r)), s1) := by
  refine ZM.of (own := RX2) (by decide) rfl (Nat.le_of_ble_eq_true rfl) ?_
  intro X hg hC hL hno hQ hin
  subst hg
  unfold f_X2_hasCycle at hf
  refine z_iconst (v := 0) hC (pc := 0) dX2_hasCycle_0 zki_0 ?_
  refine z_istore_n (lv' := [(1, zi 0), (0, zr (some l0))]) hC (pc := 1) hL dX2_hasCycle_1 rfl (Nat.le_of_ble_eq_true rfl) rfl ?_
  refine ZW.perm (lv' := [(0, zr (some l0)), (1, zi 0)]) [1, 0] rfl ?_
  exact w_X2_hasCycle_l2 hC hL hno hQ 2000 l0 0 s0 hf
/-! BlockingShop$Graph.arc(III)V -/
def f_X2_arc (G : Nat → Nat) (l0 : Nat) (l1 : Int32) (l2 : Int32) (l3 : Int32) (s0 : zS) : Option (Unit × zS) :=
zo (zgR s0 (some l0) 1 0) fun v1 =>
zo (zgI s0 (some l0) 1 7) fun v2 =>
zo (zsI G s0 v1 0 v2 l1) fun s3 =>
zo (zgR s3 (some l0) 1 1) fun v4 =>
zo (zgI s3 (some l0) 1 7) fun v5 =>
zo (zsI G s3 v4 0 v5 l2) fun s6 =>
zo (zgR s6 (some l0) 1 2) fun v7 =>
zo (zgI s6 (some l0) 1 7) fun v8 =>
zo (zsI G s6 v7 0 v8 l3) fun s9 =>
zo (zgI s9 (some l0) 1 7) fun v10 =>
zo (zput G s9 (some l0) 1 7 (.int (v10 + 1))) fun s11 =>
some ((), s11)
set_option maxHeartbeats 4000000 in
theorem m_X2_arc (Γ : zG) (l0 : Nat) (l1 : Int32) (l2 : Int32) (l3 : Int32) (s0 s1 : zS) (r : Unit) (hf : f_X2_arc Γ.1 l0 l1 l2 l3 s0 = some (r, s1)) : ZM Γ yX2_arc (ws_ yX2_arc cX2_arc 4 none) 1 0 [zr (some l0), zi l1, zi l2, zi l3] s0 (.inl none, s1) := by
  refine ZM.of (own := RX2) (by decide) rfl (Nat.le_of_ble_eq_true rfl) ?_
  intro X hg hC hL hno hQ hin
  subst hg
  unfold f_X2_arc at hf
  refine z_aload_n hC (pc := 0) dX2_arc_0 rfl 0 rfl ?_
  refine z_getR hC (pc := 1) in_X2 zcX2 0 (Nat.le_of_ble_eq_true rfl) (zLk.o hC q193) zsm dX2_arc_1 hf (fun v1 hf => ?_)
  refine z_aload_n hC (pc := 4) dX2_arc_4 rfl 0 rfl ?_
  refine z_getI hC (pc := 5) in_X2 zcX2 7 (Nat.le_of_ble_eq_true rfl) (zLk.o hC q201) zsm dX2_arc_5 hf (fun v2 hf => ?_)
  refine z_iload_n hC (pc := 8) dX2_arc_8 rfl 1 rfl ?_
  refine z_iast hC (pc := 9) dX2_arc_9 hf (fun s3 hf => ?_)
  refine z_aload_n hC (pc := 10) dX2_arc_10 rfl 0 rfl ?_
  refine z_getR hC (pc := 11) in_X2 zcX2 1 (Nat.le_of_ble_eq_true rfl) (zLk.o hC q194) zsm dX2_arc_11 hf (fun v4 hf => ?_)
  refine z_aload_n hC (pc := 14) dX2_arc_14 rfl 0 rfl ?_
  refine z_getI hC (pc := 15) in_X2 zcX2 7 (Nat.le_of_ble_eq_true rfl) (zLk.o hC q201) zsm dX2_arc_15 hf (fun v5 hf => ?_)
  refine z_iload_n hC (pc := 18) dX2_arc_18 rfl 2 rfl ?_
  refine z_iast hC (pc := 19) dX2_arc_19 hf (fun s6 hf => ?_)
  refine z_aload_n hC (pc := 20) dX2_arc_20 rfl 0 rfl ?_
  refine z_getR hC (pc := 21) in_X2 zcX2 2 (Nat.le_of_ble_eq_true rfl) (zLk.o hC q195) zsm dX2_arc_21 hf (fun v7 hf => ?_)
  refine z_aload_n hC (pc := 24) dX2_arc_24 rfl 0 rfl ?_
  refine z_getI hC (pc := 25) in_X2 zcX2 7 (Nat.le_of_ble_eq_true rfl) (zLk.o hC q201) zsm dX2_arc_25 hf (fun v8 hf => ?_)
  refine z_iload_n hC (pc := 28) dX2_arc_28 rfl 3 rfl ?_
  refine z_iast hC (pc := 29) dX2_arc_29 hf (fun s9 hf => ?_)
  refine z_aload_n hC (pc := 30) dX2_arc_30 rfl 0 rfl ?_
  refine z_dup hC (pc := 31) dX2_arc_31 rfl ?_
  refine z_getI hC (pc := 32) in_X2 zcX2 7 (Nat.le_of_ble_eq_true rfl) (zLk.o hC q201) zsm dX2_arc_32 hf (fun v10 hf => ?_)
  refine z_iconst (v := 1) hC (pc := 35) dX2_arc_35 zki_1 ?_
  refine z_iadd hC (pc := 36) dX2_arc_36 ?_
  refine z_putV (v := zi (v10 + 1)) hC (pc := 37) in_X2 tyX2 tyX2_ok nmX2 zcX2 7 (Nat.le_of_ble_eq_true rfl) (zLk.o hC q201) zsm (Or.inl rfl) rfl rfl dX2_arc_37 hf (fun s11 hf => ?_)
  exact z_return hC (pc := 40) hQ dX2_arc_40 hf
/-! BlockingShop$Graph.lay(LBlockingShop$Plan;)V -/
def f_X2_lay_b75 (G : Nat → Nat) (k20 : Nat → Option Nat → Int32 → zS → Option (Unit × zS)) (l0 : Nat) (l1 : Option Nat) (l2 : Int32) (s0 : zS) : Option (Unit × zS) :=
k20 l0 l1 (l2 + 1) s0
set_option maxHeartbeats 4000000 in
theorem w_X2_lay_b75 {X : zX} (hC : ZC X RX2 cX2_lay none 8 152) (hL : X.nL = 6) (hno : ∀ x ∈ X.c.exceptionTable.toList, False) {r : Unit} {sF : zS} (hQ : ZQ X (.inl none, sF)) (k20 : Nat → Option Nat → Int32 → zS → Option (Unit × zS)) (hk20 : ∀ (l0 : Nat) (l1 : Option Nat) (l2 : Int32) (s0 : zS), k20 l0 l1 l2 s0 = some (r, sF) → ZW X s0 20 [(0, zr (some l0)), (1, zr l1), (2, zi l2)] []) (l0 : Nat) (l1 : Option Nat) (l2 : Int32) (s0 : zS) (hf : f_X2_lay_b75 X.g.1 k20 l0 l1 l2 s0 = some (r, sF)) : ZW X s0 75 [(0, zr (some l0)), (1, zr l1), (2, zi l2)] [] := by
  unfold f_X2_lay_b75 at hf
  refine z_iinc (v := 1) (lv' := [(2, zi (l2 + 1)), (0, zr (some l0)), (1, zr l1)]) hC (pc := 75) hL dX2_lay_75 2 rfl zki_1 (Nat.le_of_ble_eq_true rfl) rfl ?_
  refine z_goto hC (pc := 78) (tgt := 20) dX2_lay_78 rfl ?_
  refine ZW.perm (lv' := [(0, zr (some l0)), (1, zr l1), (2, zi (l2 + 1))]) [1, 2, 0] rfl ?_
  exact hk20 l0 l1 (l2 + 1) s0 hf
def f_X2_lay_b190 (G : Nat → Nat) (k109 : Nat → Option Nat → Int32 → Int32 → Int32 → zS → Option (Unit × zS)) (l0 : Nat) (l1 : Option Nat) (l2 : Int32) (l3 : Int32) (l4 : Int32) (s0 : zS) : Option (Unit × zS) :=
k109 l0 l1 l2 l3 (l4 + 1) s0
set_option maxHeartbeats 4000000 in
theorem w_X2_lay_b190 {X : zX} (hC : ZC X RX2 cX2_lay none 8 152) (hL : X.nL = 6) (hno : ∀ x ∈ X.c.exceptionTable.toList, False) {r : Unit} {sF : zS} (hQ : ZQ X (.inl none, sF)) (k109 : Nat → Option Nat → Int32 → Int32 → Int32 → zS → Option (Unit × zS)) (hk109 : ∀ (l0 : Nat) (l1 : Option Nat) (l2 : Int32) (l3 : Int32) (l4 : Int32) (s0 : zS), k109 l0 l1 l2 l3 l4 s0 = some (r, sF) → ZW X s0 109 [(0, zr (some l0)), (1, zr l1), (2, zi l2), (3, zi l3), (4, zi l4)] []) (l0 : Nat) (l1 : Option Nat) (l2 : Int32) (l3 : Int32) (l4 : Int32) (s0 : zS) (hf : f_X2_lay_b190 X.g.1 k109 l0 l1 l2 l3 l4 s0 = some (r, sF)) : ZW X s0 190 [(0, zr (some l0)), (1, zr l1), (2, zi l2), (3, zi l3), (4, zi l4)] [] := by
  unfold f_X2_lay_b190 at hf
  refine z_iinc (v := 1) (lv' := [(4, zi (l4 + 1)), (0, zr (some l0)), (1, zr l1), (2, zi l2), (3, zi l3)]) hC (pc := 190) hL dX2_lay_190 4 rfl zki_1 (Nat.le_of_ble_eq_true rfl) rfl ?_
  refine z_goto hC (pc := 193) (tgt := 109) dX2_lay_193 rfl ?_
  refine ZW.perm (lv' := [(0, zr (some l0)), (1, zr l1), (2, zi l2), (3, zi l3), (4, zi (l4 + 1))]) [1, 2, 3, 4, 0] rfl ?_
  exact hk109 l0 l1 l2 l3 (l4 + 1) s0 hf
def f_X2_lay_b109 (G : Nat → Nat) (k83 : Nat → Option Nat → Int32 → zS → Option (Unit × zS)) (k109 : Nat → Option Nat → Int32 → Int32 → Int32 → zS → Option (Unit × zS)) (l0 : Nat) (l1 : Option Nat) (l2 : Int32) (l3 : Int32) (l4 : Int32) (s0 : zS) : Option (Unit × zS) :=
zo (zgR s0 l1 2 2) fun v1 =>
zo (zaI s0 v1 0 l2) fun v2 =>
if v2 ≤ l4 then (k83 l0 l1 (l2 + 1) s0)
else (zo (zgR s0 l1 2 4) fun v4 =>
zo (zaR s0 v4 l2) fun v5 =>
zo (zaI s0 v5 0 (l4 - 1)) fun v6 =>
zo (zgR s0 (some l0) 1 6) fun v7 =>
zo (zrc s0 v7 3) fun a10 =>
zb (f_X4_isBlocked G a10 v6 s0) fun v11 s12 =>
if v11 = 0 then (zo (zgR s12 l1 2 4) fun v14 =>
zo (zaR s12 v14 l2) fun v15 =>
zo (zaI s12 v15 0 l4) fun v16 =>
zo (zgR s12 l1 2 1) fun v17 =>
zo (zaI s12 v17 0 v6) fun v18 =>
zo (zrc s12 (some l0) 1) fun _ =>
zb (f_X2_arc G l0 v6 v16 (v18 + l3) s12) fun _ s22 =>
f_X2_lay_b190 G k109 l0 l1 l2 l3 l4 s22)
else (zo (zgR s12 l1 2 4) fun v23 =>
zo (zaR s12 v23 l2) fun v24 =>
zo (zaI s12 v24 0 l4) fun v25 =>
zo (zrc s12 (some l0) 1) fun _ =>
zb (f_X2_arc G l0 (v6 + 1) v25 l3 s12) fun _ s29 =>
f_X2_lay_b190 G k109 l0 l1 l2 l3 l4 s29))
set_option maxHeartbeats 4000000 in
theorem w_X2_lay_b109 {X : zX} (hC : ZC X RX2 cX2_lay none 8 152) (hL : X.nL = 6) (hno : ∀ x ∈ X.c.exceptionTable.toList, False) {r : Unit} {sF : zS} (hQ : ZQ X (.inl none, sF)) (k83 : Nat → Option Nat → Int32 → zS → Option (Unit × zS)) (hk83 : ∀ (l0 : Nat) (l1 : Option Nat) (l2 : Int32) (s0 : zS), k83 l0 l1 l2 s0 = some (r, sF) → ZW X s0 83 [(0, zr (some l0)), (1, zr l1), (2, zi l2)] []) (k109 : Nat → Option Nat → Int32 → Int32 → Int32 → zS → Option (Unit × zS)) (hk109 : ∀ (l0 : Nat) (l1 : Option Nat) (l2 : Int32) (l3 : Int32) (l4 : Int32) (s0 : zS), k109 l0 l1 l2 l3 l4 s0 = some (r, sF) → ZW X s0 109 [(0, zr (some l0)), (1, zr l1), (2, zi l2), (3, zi l3), (4, zi l4)] []) (l0 : Nat) (l1 : Option Nat) (l2 : Int32) (l3 : Int32) (l4 : Int32) (s0 : zS) (hf : f_X2_lay_b109 X.g.1 k83 k109 l0 l1 l2 l3 l4 s0 = some (r, sF)) : ZW X s0 109 [(0, zr (some l0)), (1, zr l1), (2, zi l2), (3, zi l3), (4, zi l4)] [] := by
  unfold f_X2_lay_b109 at hf
  refine z_iload hC (pc := 109) dX2_lay_109 4 rfl ?_
  refine z_aload_n hC (pc := 111) dX2_lay_111 rfl 1 rfl ?_
  refine z_getR hC (pc := 112) in_X3 zcX3 2 (Nat.le_of_ble_eq_true rfl) (zLk.n hC q372) zsm dX2_lay_112 hf (fun v1 hf => ?_)
  refine z_iload_n hC (pc := 115) dX2_lay_115 rfl 2 rfl ?_
  refine z_iald hC (pc := 116) dX2_lay_116 hf (fun v2 hf => ?_)
  refine z_icmp_ge hC (pc := 117) (tgt := 196) dX2_lay_117 rfl (fun c3 => ?_) (fun c3 => ?_)
  · have hf := zif_t hf c3
    refine z_iinc (v := 1) (lv' := [(2, zi (l2 + 1)), (0, zr (some l0)), (1, zr l1), (3, zi l3), (4, zi l4)]) hC (pc := 196) hL dX2_lay_196 2 rfl zki_1 (Nat.le_of_ble_eq_true rfl) rfl ?_
    refine z_goto hC (pc := 199) (tgt := 83) dX2_lay_199 rfl ?_
    refine ZW.perm (lv' := [(0, zr (some l0)), (1, zr l1), (2, zi (l2 + 1))]) [1, 2, 0] rfl ?_
    exact hk83 l0 l1 (l2 + 1) s0 hf
  · have hf := zif_f hf c3
    refine z_aload_n hC (pc := 120) dX2_lay_120 rfl 1 rfl ?_
    refine z_getR hC (pc := 121) in_X3 zcX3 4 (Nat.le_of_ble_eq_true rfl) (zLk.n hC q377) zsm dX2_lay_121 hf (fun v4 hf => ?_)
    refine z_iload_n hC (pc := 124) dX2_lay_124 rfl 2 rfl ?_
    refine z_aald hC (pc := 125) dX2_lay_125 hf (fun v5 hf => ?_)
    refine z_iload hC (pc := 126) dX2_lay_126 4 rfl ?_
    refine z_iconst (v := 1) hC (pc := 128) dX2_lay_128 zki_1 ?_
    refine z_isub hC (pc := 129) dX2_lay_129 ?_
    refine z_iald hC (pc := 130) dX2_lay_130 hf (fun v6 hf => ?_)
    refine z_istore (lv' := [(5, zi v6), (0, zr (some l0)), (1, zr l1), (2, zi l2), (3, zi l3), (4, zi l4)]) hC (pc := 131) hL dX2_lay_131 (Nat.le_of_ble_eq_true rfl) rfl ?_
    refine z_aload_n hC (pc := 133) dX2_lay_133 rfl 1 rfl ?_
    refine z_getR hC (pc := 134) in_X2 zcX2 6 (Nat.le_of_ble_eq_true rfl) (zLk.o hC q200) zsm dX2_lay_134 hf (fun v7 hf => ?_)
    refine z_iload hC (pc := 137) dX2_lay_137 0 rfl ?_
    obtain ⟨a10, fs8, rfl, ha9, hf⟩ := z_rcO hf
    refine z_cI (rest := []) hf (fun v11 s12 hcall => z_runV hC (pc := 139) zcX4 1 ha9 (m_X4_isBlocked X.g a10 v6 s0 s12 v11 hcall) (lw_V q1883 q1190 q1191 q100 q1192) hdV_X4_isBlocked ⟨(Nat.le_of_ble_eq_true rfl), (Nat.le_of_ble_eq_true rfl)⟩ rfl (Nat.le_of_ble_eq_true rfl) dX2_lay_139 rfl) (fun v11 s12 hf => ?_)
    refine z_if_eq hC (pc := 142) (tgt := 166) dX2_lay_142 rfl (fun c13 => ?_) (fun c13 => ?_)
    · have hf := zif_t hf c13
      refine z_aload_n hC (pc := 166) dX2_lay_166 rfl 1 rfl ?_
      refine z_iload hC (pc := 167) dX2_lay_167 0 rfl ?_
      refine z_aload_n hC (pc := 169) dX2_lay_169 rfl 2 rfl ?_
      refine z_getR hC (pc := 170) in_X3 zcX3 4 (Nat.le_of_ble_eq_true rfl) (zLk.n hC q377) zsm dX2_lay_170 hf (fun v14 hf => ?_)
      refine z_iload_n hC (pc := 173) dX2_lay_173 rfl 3 rfl ?_
      refine z_aald hC (pc := 174) dX2_lay_174 hf (fun v15 hf => ?_)
      refine z_iload hC (pc := 175) dX2_lay_175 5 rfl ?_
      refine z_iald hC (pc := 177) dX2_lay_177 hf (fun v16 hf => ?_)
      refine z_aload_n hC (pc := 178) dX2_lay_178 rfl 2 rfl ?_
      refine z_getR hC (pc := 179) in_X3 zcX3 1 (Nat.le_of_ble_eq_true rfl) (zLk.n hC q368) zsm dX2_lay_179 hf (fun v17 hf => ?_)
      refine z_iload hC (pc := 182) dX2_lay_182 0 rfl ?_
      refine z_iald hC (pc := 184) dX2_lay_184 hf (fun v18 hf => ?_)
      refine z_iload_n hC (pc := 185) dX2_lay_185 rfl 4 rfl ?_
      refine z_iadd hC (pc := 186) dX2_lay_186 ?_
      obtain ⟨fs19, ha20, hf⟩ := z_rcN hf
      refine z_cU (rest := []) hf (fun v21 s22 hcall => z_runV hC (pc := 187) zcX2 3 ha20 (m_X2_arc X.g l0 v6 v16 (v18 + l3) s12 s22 v21 hcall) (lw_V q1878 q1880 qs20 q98 q1881) hdV_X2_arc ⟨(Nat.le_of_ble_eq_true rfl), (Nat.le_of_ble_eq_true rfl)⟩ rfl (Nat.le_of_ble_eq_true rfl) dX2_lay_187 rfl) (fun _ s22 hf => ?_)
      refine ZW.perm (lv' := [(0, zr (some l0)), (1, zr l1), (2, zi l2), (3, zi l3), (4, zi l4)]) [1, 2, 3, 4, 5] rfl ?_
      exact w_X2_lay_b190 hC hL hno hQ k109 hk109 l0 l1 l2 l3 l4 s22 hf
    · have hf := zif_f hf c13
      refine z_aload_n hC (pc := 145) dX2_lay_145 rfl 1 rfl ?_
      refine z_iload hC (pc := 146) dX2_lay_146 0 rfl ?_
      refine z_iconst (v := 1) hC (pc := 148) dX2_lay_148 zki_1 ?_
      refine z_iadd hC (pc := 149) dX2_lay_149 ?_
      refine z_aload_n hC (pc := 150) dX2_lay_150 rfl 2 rfl ?_
      refine z_getR hC (pc := 151) in_X3 zcX3 4 (Nat.le_of_ble_eq_true rfl) (zLk.n hC q377) zsm dX2_lay_151 hf (fun v23 hf => ?_)
      refine z_iload_n hC (pc := 154) dX2_lay_154 rfl 3 rfl ?_
      refine z_aald hC (pc := 155) dX2_lay_155 hf (fun v24 hf => ?_)
      refine z_iload hC (pc := 156) dX2_lay_156 5 rfl ?_
      refine z_iald hC (pc := 158) dX2_lay_158 hf (fun v25 hf => ?_)
      refine z_iload_n hC (pc := 159) dX2_lay_159 rfl 4 rfl ?_
      obtain ⟨fs26, ha27, hf⟩ := z_rcN hf
      refine z_cU (rest := []) hf (fun v28 s29 hcall => z_runV hC (pc := 160) zcX2 3 ha27 (m_X2_arc X.g l0 (v6 + 1) v25 l3 s12 s29 v28 hcall) (lw_V q1878 q1880 qs20 q98 q1881) hdV_X2_arc ⟨(Nat.le_of_ble_eq_true rfl), (Nat.le_of_ble_eq_true rfl)⟩ rfl (Nat.le_of_ble_eq_true rfl) dX2_lay_160 rfl) (fun _ s29 hf => ?_)
      refine z_goto hC (pc := 163) (tgt := 190) dX2_lay_163 rfl ?_
      refine ZW.perm (lv' := [(0, zr (some l0)), (1, zr l1), (2, zi l2), (3, zi l3), (4, zi l4)]) [1, 2, 3, 4, 5] rfl ?_
      exact w_X2_lay_b190 hC hL hno hQ k109 hk109 l0 l1 l2 l3 l4 s29 hf
def f_X2_lay_l109 (G : Nat → Nat) (k83 : Nat → Option Nat → Int32 → zS → Option (Unit × zS)) : Nat → Nat → Option Nat → Int32 → Int32 → Int32 → zS → Option (Unit × zS)
  | 0 => fun _ _ _ _ _ _ => none
  | n + 1 => f_X2_lay_b109 G k83 (f_X2_lay_l109 G k83 n)
theorem w_X2_lay_l109 {X : zX} (hC : ZC X RX2 cX2_lay none 8 152) (hL : X.nL = 6) (hno : ∀ x ∈ X.c.exceptionTable.toList, False) {r : Unit} {sF : zS} (hQ : ZQ X (.inl none, sF)) (k83 : Nat → Option Nat → Int32 → zS → Option (Unit × zS)) (hk83 : ∀ (l0 : Nat) (l1 : Option Nat) (l2 : Int32) (s0 : zS), k83 l0 l1 l2 s0 = some (r, sF) → ZW X s0 83 [(0, zr (some l0)), (1, zr l1), (2, zi l2)] []) : ∀ (n : Nat) (l0 : Nat) (l1 : Option Nat) (l2 : Int32) (l3 : Int32) (l4 : Int32) (s0 : zS) (_ : f_X2_lay_l109 X.g.1 k83 n l0 l1 l2 l3 l4 s0 = some (r, sF)), ZW X s0 109 [(0, zr (some l0)), (1, zr l1), (2, zi l2), (3, zi l3), (4, zi l4)] [] := by
  intro n
  induction n with
  | zero => intro l0 l1 l2 l3 l4 s0 hf; exact absurd (show (none : Option (Unit × zS)) = some (r, sF) from hf) (fun z => nomatch z)
  | succ n ih => intro l0 l1 l2 l3 l4 s0 hf; exact w_X2_lay_b109 hC hL hno hQ k83 hk83 (f_X2_lay_l109 X.g.1 k83 n) ih l0 l1 l2 l3 l4 s0 hf
def f_X2_lay_b83 (G : Nat → Nat) (k83 : Nat → Option Nat → Int32 → zS → Option (Unit × zS)) (l0 : Nat) (l1 : Option Nat) (l2 : Int32) (s0 : zS) : Option (Unit × zS) :=
zo (zgR s0 (some l0) 1 6) fun v1 =>
zo (zgI s0 v1 3 0) fun v2 =>
if v2 ≤ l2 then (some ((), s0))
else (zo (zgR s0 (some l0) 1 6) fun v4 =>
zo (zrc s0 v4 3) fun a7 =>
zb (f_X4_machine G a7 l2 s0) fun v8 s9 =>
zo (zgI s9 v8 5 1) fun v10 =>
f_X2_lay_l109 G k83 2000 l0 l1 l2 v10 1 s9)
set_option maxHeartbeats 4000000 in
theorem w_X2_lay_b83 {X : zX} (hC : ZC X RX2 cX2_lay none 8 152) (hL : X.nL = 6) (hno : ∀ x ∈ X.c.exceptionTable.toList, False) {r : Unit} {sF : zS} (hQ : ZQ X (.inl none, sF)) (k83 : Nat → Option Nat → Int32 → zS → Option (Unit × zS)) (hk83 : ∀ (l0 : Nat) (l1 : Option Nat) (l2 : Int32) (s0 : zS), k83 l0 l1 l2 s0 = some (r, sF) → ZW X s0 83 [(0, zr (some l0)), (1, zr l1), (2, zi l2)] []) (l0 : Nat) (l1 : Option Nat) (l2 : Int32) (s0 : zS) (hf : f_X2_lay_b83 X.g.1 k83 l0 l1 l2 s0 = some (r, sF)) : ZW X s0 83 [(0, zr (some l0)), (1, zr l1), (2, zi l2)] [] := by
  unfold f_X2_lay_b83 at hf
  refine z_iload_n hC (pc := 83) dX2_lay_83 rfl 2 rfl ?_
  refine z_aload_n hC (pc := 84) dX2_lay_84 rfl 0 rfl ?_
  refine z_getR hC (pc := 85) in_X2 zcX2 6 (Nat.le_of_ble_eq_true rfl) (zLk.o hC q200) zsm dX2_lay_85 hf (fun v1 hf => ?_)
  refine z_getI hC (pc := 88) in_X4 zcX4 0 (Nat.le_of_ble_eq_true rfl) (zLk.n hC q323) zsm dX2_lay_88 hf (fun v2 hf => ?_)
  refine z_icmp_ge hC (pc := 91) (tgt := 202) dX2_lay_91 rfl (fun c3 => ?_) (fun c3 => ?_)
  · have hf := zif_t hf c3
    exact z_return hC (pc := 202) hQ dX2_lay_202 hf
  · have hf := zif_f hf c3
    refine z_aload_n hC (pc := 94) dX2_lay_94 rfl 0 rfl ?_
    refine z_getR hC (pc := 95) in_X2 zcX2 6 (Nat.le_of_ble_eq_true rfl) (zLk.o hC q200) zsm dX2_lay_95 hf (fun v4 hf => ?_)
    refine z_iload_n hC (pc := 98) dX2_lay_98 rfl 2 rfl ?_
    obtain ⟨a7, fs5, rfl, ha6, hf⟩ := z_rcO hf
    refine z_cR (rest := []) hf (fun v8 s9 hcall => z_runV hC (pc := 99) zcX4 1 ha6 (m_X4_machine X.g a7 l2 s0 s9 v8 hcall) (lw_V q1882 q1194 q1195 q100 q1196) hdV_X4_machine ⟨(Nat.le_of_ble_eq_true rfl), (Nat.le_of_ble_eq_true rfl)⟩ rfl (Nat.le_of_ble_eq_true rfl) dX2_lay_99 rfl) (fun v8 s9 hf => ?_)
    refine z_getI hC (pc := 102) in_X7 zcX7 1 (Nat.le_of_ble_eq_true rfl) (zLk.n hC q316) zsm dX2_lay_102 hf (fun v10 hf => ?_)
    refine z_istore_n (lv' := [(3, zi v10), (0, zr (some l0)), (1, zr l1), (2, zi l2)]) hC (pc := 105) hL dX2_lay_105 rfl (Nat.le_of_ble_eq_true rfl) rfl ?_
    refine z_iconst (v := 1) hC (pc := 106) dX2_lay_106 zki_1 ?_
    refine z_istore (lv' := [(4, zi 1), (3, zi v10), (0, zr (some l0)), (1, zr l1), (2, zi l2)]) hC (pc := 107) hL dX2_lay_107 (Nat.le_of_ble_eq_true rfl) rfl ?_
    refine ZW.perm (lv' := [(0, zr (some l0)), (1, zr l1), (2, zi l2), (3, zi v10), (4, zi 1)]) [2, 3, 4, 1, 0] rfl ?_
    exact w_X2_lay_l109 hC hL hno hQ k83 hk83 2000 l0 l1 l2 v10 1 s9 hf
def f_X2_lay_l83 (G : Nat → Nat) : Nat → Nat → Option Nat → Int32 → zS → Option (Unit × zS)
  | 0 => fun _ _ _ _ => none
  | n + 1 => f_X2_lay_b83 G (f_X2_lay_l83 G n)
theorem w_X2_lay_l83 {X : zX} (hC : ZC X RX2 cX2_lay none 8 152) (hL : X.nL = 6) (hno : ∀ x ∈ X.c.exceptionTable.toList, False) {r : Unit} {sF : zS} (hQ : ZQ X (.inl none, sF)) : ∀ (n : Nat) (l0 : Nat) (l1 : Option Nat) (l2 : Int32) (s0 : zS) (_ : f_X2_lay_l83 X.g.1 n l0 l1 l2 s0 = some (r, sF)), ZW X s0 83 [(0, zr (some l0)), (1, zr l1), (2, zi l2)] [] := by
  intro n
  induction n with
  | zero => intro l0 l1 l2 s0 hf; exact absurd (show (none : Option (Unit × zS)) = some (r, sF) from hf) (fun z => nomatch z)
  | succ n ih => intro l0 l1 l2 s0 hf; exact w_X2_lay_b83 hC hL hno hQ (f_X2_lay_l83 X.g.1 n) ih l0 l1 l2 s0 hf
def f_X2_lay_b20 (G : Nat → Nat) (k20 : Nat → Option Nat → Int32 → zS → Option (Unit × zS)) (l0 : Nat) (l1 : Option Nat) (l2 : Int32) (s0 : zS) : Option (Unit × zS) :=
if 36 ≤ l2 then (f_X2_lay_l83 G 2000 l0 l1 0 s0)
else (zo (zgR s0 (some l0) 1 6) fun v2 =>
zo (zrc s0 v2 3) fun a5 =>
zb (f_X4_exists G a5 l2 s0) fun v6 s7 =>
if v6 = 0 then (f_X2_lay_b75 G k20 l0 l1 l2 s7)
else (zo (zgI s7 (some l0) 1 8) fun v9 =>
zo (zput G s7 (some l0) 1 8 (.int (v9 + 1))) fun s10 =>
zo (zgR s10 (some l0) 1 6) fun v11 =>
zo (zrc s10 v11 3) fun a14 =>
zb (f_X4_isLast G a14 l2 s10) fun v15 s16 =>
if v15 = 0 then (zo (zgR s16 l1 2 1) fun v18 =>
zo (zaI s16 v18 0 l2) fun v19 =>
zo (zrc s16 (some l0) 1) fun _ =>
zb (f_X2_arc G l0 l2 (l2 + 1) v19 s16) fun _ s23 =>
f_X2_lay_b75 G k20 l0 l1 l2 s23)
else (f_X2_lay_b75 G k20 l0 l1 l2 s16)))
set_option maxHeartbeats 4000000 in
theorem w_X2_lay_b20 {X : zX} (hC : ZC X RX2 cX2_lay none 8 152) (hL : X.nL = 6) (hno : ∀ x ∈ X.c.exceptionTable.toList, False) {r : Unit} {sF : zS} (hQ : ZQ X (.inl none, sF)) (k20 : Nat → Option Nat → Int32 → zS → Option (Unit × zS)) (hk20 : ∀ (l0 : Nat) (l1 : Option Nat) (l2 : Int32) (s0 : zS), k20 l0 l1 l2 s0 = some (r, sF) → ZW X s0 20 [(0, zr (some l0)), (1, zr l1), (2, zi l2)] []) (l0 : Nat) (l1 : Option Nat) (l2 : Int32) (s0 : zS) (hf : f_X2_lay_b20 X.g.1 k20 l0 l1 l2 s0 = some (r, sF)) : ZW X s0 20 [(0, zr (some l0)), (1, zr l1), (2, zi l2)] [] := by
  unfold f_X2_lay_b20 at hf
  refine z_iload_n hC (pc := 20) dX2_lay_20 rfl 2 rfl ?_
  refine z_bipush (v := 36) hC (pc := 21) dX2_lay_21 zkb_36 ?_
  refine z_icmp_ge hC (pc := 23) (tgt := 81) dX2_lay_23 rfl (fun c1 => ?_) (fun c1 => ?_)
  · have hf := zif_t hf c1
    refine z_iconst (v := 0) hC (pc := 81) dX2_lay_81 zki_0 ?_
    refine z_istore_n (lv' := [(2, zi 0), (0, zr (some l0)), (1, zr l1)]) hC (pc := 82) hL dX2_lay_82 rfl (Nat.le_of_ble_eq_true rfl) rfl ?_
    refine ZW.perm (lv' := [(0, zr (some l0)), (1, zr l1), (2, zi 0)]) [1, 2, 0] rfl ?_
    exact w_X2_lay_l83 hC hL hno hQ 2000 l0 l1 0 s0 hf
  · have hf := zif_f hf c1
    refine z_aload_n hC (pc := 26) dX2_lay_26 rfl 0 rfl ?_
    refine z_getR hC (pc := 27) in_X2 zcX2 6 (Nat.le_of_ble_eq_true rfl) (zLk.o hC q200) zsm dX2_lay_27 hf (fun v2 hf => ?_)
    refine z_iload_n hC (pc := 30) dX2_lay_30 rfl 2 rfl ?_
    obtain ⟨a5, fs3, rfl, ha4, hf⟩ := z_rcO hf
    refine z_cI (rest := []) hf (fun v6 s7 hcall => z_runV hC (pc := 31) zcX4 1 ha4 (m_X4_exists X.g a5 l2 s0 s7 v6 hcall) (lw_V q1871 q1872 q1873 q100 q1874) hdV_X4_exists ⟨(Nat.le_of_ble_eq_true rfl), (Nat.le_of_ble_eq_true rfl)⟩ rfl (Nat.le_of_ble_eq_true rfl) dX2_lay_31 rfl) (fun v6 s7 hf => ?_)
    refine z_if_ne hC (pc := 34) (tgt := 40) dX2_lay_34 rfl (fun c8 => ?_) (fun c8 => ?_)
    · have hf := zif_f hf c8
      refine z_aload_n hC (pc := 40) dX2_lay_40 rfl 0 rfl ?_
      refine z_dup hC (pc := 41) dX2_lay_41 rfl ?_
      refine z_getI hC (pc := 42) in_X2 zcX2 8 (Nat.le_of_ble_eq_true rfl) (zLk.o hC q202) zsm dX2_lay_42 hf (fun v9 hf => ?_)
      refine z_iconst (v := 1) hC (pc := 45) dX2_lay_45 zki_1 ?_
      refine z_iadd hC (pc := 46) dX2_lay_46 ?_
      refine z_putV (v := zi (v9 + 1)) hC (pc := 47) in_X2 tyX2 tyX2_ok nmX2 zcX2 8 (Nat.le_of_ble_eq_true rfl) (zLk.o hC q202) zsm (Or.inl rfl) rfl rfl dX2_lay_47 hf (fun s10 hf => ?_)
      refine z_aload_n hC (pc := 50) dX2_lay_50 rfl 0 rfl ?_
      refine z_getR hC (pc := 51) in_X2 zcX2 6 (Nat.le_of_ble_eq_true rfl) (zLk.o hC q200) zsm dX2_lay_51 hf (fun v11 hf => ?_)
      refine z_iload_n hC (pc := 54) dX2_lay_54 rfl 2 rfl ?_
      obtain ⟨a14, fs12, rfl, ha13, hf⟩ := z_rcO hf
      refine z_cI (rest := []) hf (fun v15 s16 hcall => z_runV hC (pc := 55) zcX4 1 ha13 (m_X4_isLast X.g a14 l2 s10 s16 v15 hcall) (lw_V q1877 q1433 q1434 q100 q1435) hdV_X4_isLast ⟨(Nat.le_of_ble_eq_true rfl), (Nat.le_of_ble_eq_true rfl)⟩ rfl (Nat.le_of_ble_eq_true rfl) dX2_lay_55 rfl) (fun v15 s16 hf => ?_)
      refine z_if_ne hC (pc := 58) (tgt := 75) dX2_lay_58 rfl (fun c17 => ?_) (fun c17 => ?_)
      · have hf := zif_f hf c17
        exact w_X2_lay_b75 hC hL hno hQ k20 hk20 l0 l1 l2 s16 hf
      · have hf := zif_t hf c17
        refine z_aload_n hC (pc := 61) dX2_lay_61 rfl 0 rfl ?_
        refine z_iload_n hC (pc := 62) dX2_lay_62 rfl 2 rfl ?_
        refine z_iload_n hC (pc := 63) dX2_lay_63 rfl 2 rfl ?_
        refine z_iconst (v := 1) hC (pc := 64) dX2_lay_64 zki_1 ?_
        refine z_iadd hC (pc := 65) dX2_lay_65 ?_
        refine z_aload_n hC (pc := 66) dX2_lay_66 rfl 1 rfl ?_
        refine z_getR hC (pc := 67) in_X3 zcX3 1 (Nat.le_of_ble_eq_true rfl) (zLk.n hC q368) zsm dX2_lay_67 hf (fun v18 hf => ?_)
        refine z_iload_n hC (pc := 70) dX2_lay_70 rfl 2 rfl ?_
        refine z_iald hC (pc := 71) dX2_lay_71 hf (fun v19 hf => ?_)
        obtain ⟨fs20, ha21, hf⟩ := z_rcN hf
        refine z_cU (rest := []) hf (fun v22 s23 hcall => z_runV hC (pc := 72) zcX2 3 ha21 (m_X2_arc X.g l0 l2 (l2 + 1) v19 s16 s23 v22 hcall) (lw_V q1878 q1880 qs20 q98 q1881) hdV_X2_arc ⟨(Nat.le_of_ble_eq_true rfl), (Nat.le_of_ble_eq_true rfl)⟩ rfl (Nat.le_of_ble_eq_true rfl) dX2_lay_72 rfl) (fun _ s23 hf => ?_)
        exact w_X2_lay_b75 hC hL hno hQ k20 hk20 l0 l1 l2 s23 hf
    · have hf := zif_t hf c8
      refine z_goto hC (pc := 37) (tgt := 75) dX2_lay_37 rfl ?_
      exact w_X2_lay_b75 hC hL hno hQ k20 hk20 l0 l1 l2 s7 hf
def f_X2_lay_l20 (G : Nat → Nat) : Nat → Nat → Option Nat → Int32 → zS → Option (Unit × zS)
  | 0 => fun _ _ _ _ => none
  | n + 1 => f_X2_lay_b20 G (f_X2_lay_l20 G n)
theorem w_X2_lay_l20 {X : zX} (hC : ZC X RX2 cX2_lay none 8 152) (hL : X.nL = 6) (hno : ∀ x ∈ X.c.exceptionTable.toList, False) {r : Unit} {sF : zS} (hQ : ZQ X (.inl none, sF)) : ∀ (n : Nat) (l0 : Nat) (l1 : Option Nat) (l2 : Int32) (s0 : zS) (_ : f_X2_lay_l20 X.g.1 n l0 l1 l2 s0 = some (r, sF)), ZW X s0 20 [(0, zr (some l0)), (1, zr l1), (2, zi l2)] [] := by
  intro n
  induction n with
  | zero => intro l0 l1 l2 s0 hf; exact absurd (show (none : Option (Unit × zS)) = some (r, sF) from hf) (fun z => nomatch z)
  | succ n ih => intro l0 l1 l2 s0 hf; exact w_X2_lay_b20 hC hL hno hQ (f_X2_lay_l20 X.g.1 n) ih l0 l1 l2 s0 hf
def f_X2_lay (G : Nat → Nat) (l0 : Nat) (l1 : Option Nat) (s0 : zS) : Option (Unit × zS) :=
zo (zgR s0 l1 2 0) fun v1 =>
zo (zput G s0 (some l0) 1 6 (va_rf v1)) fun s2 =>
zo (zput G s2 (some l0) 1 7 (.int 0)) fun s3 =>
zo (zput G s3 (some l0) 1 8 (.int 0)) fun s4 =>
f_X2_lay_l20 G 2000 l0 l1 0 s4
set_option maxHeartbeats 4000000 in
theorem m_X2_lay (Γ : zG) (l0 : Nat) (l1 : Option Nat) (s0 s1 : zS) (r : Unit) (hf : f_X2_lay Γ.1 l0 l1 s0 = some (r, s1)) : ZM Γ yX2_lay (ws_ yX2_lay cX2_lay 6 none) 8 152 [zr (some l0), zr l1] s0 (.inl none, s1) := by
  refine ZM.of (own := RX2) (by decide) rfl (Nat.le_of_ble_eq_true rfl) ?_
  intro X hg hC hL hno hQ hin
  subst hg
  unfold f_X2_lay at hf
  refine z_aload_n hC (pc := 0) dX2_lay_0 rfl 0 rfl ?_
  refine z_aload_n hC (pc := 1) dX2_lay_1 rfl 1 rfl ?_
  refine z_getR hC (pc := 2) in_X3 zcX3 0 (Nat.le_of_ble_eq_true rfl) (zLk.n hC q365) zsm dX2_lay_2 hf (fun v1 hf => ?_)
  refine z_putV (v := zr v1) hC (pc := 5) in_X2 tyX2 tyX2_ok nmX2 zcX2 6 (Nat.le_of_ble_eq_true rfl) (zLk.o hC q200) zsm (Or.inl rfl) rfl (zfr v1) dX2_lay_5 hf (fun s2 hf => ?_)
  refine z_aload_n hC (pc := 8) dX2_lay_8 rfl 0 rfl ?_
  refine z_iconst (v := 0) hC (pc := 9) dX2_lay_9 zki_0 ?_
  refine z_putV (v := zi 0) hC (pc := 10) in_X2 tyX2 tyX2_ok nmX2 zcX2 7 (Nat.le_of_ble_eq_true rfl) (zLk.o hC q201) zsm (Or.inl rfl) rfl rfl dX2_lay_10 hf (fun s3 hf => ?_)
  refine z_aload_n hC (pc := 13) dX2_lay_13 rfl 0 rfl ?_
  refine z_iconst (v := 0) hC (pc := 14) dX2_lay_14 zki_0 ?_
  refine z_putV (v := zi 0) hC (pc := 15) in_X2 tyX2 tyX2_ok nmX2 zcX2 8 (Nat.le_of_ble_eq_true rfl) (zLk.o hC q202) zsm (Or.inl rfl) rfl rfl dX2_lay_15 hf (fun s4 hf => ?_)
  refine z_iconst (v := 0) hC (pc := 18) dX2_lay_18 zki_0 ?_
  refine z_istore_n (lv' := [(2, zi 0), (0, zr (some l0)), (1, zr l1)]) hC (pc := 19) hL dX2_lay_19 rfl (Nat.le_of_ble_eq_true rfl) rfl ?_
  refine ZW.perm (lv' := [(0, zr (some l0)), (1, zr l1), (2, zi 0)]) [1, 2, 0] rfl ?_
  exact w_X2_lay_l20 hC hL hno hQ 2000 l0 l1 0 s4 hf
/-! BlockingShop$Graph.starts(LBlockingShop$Plan;)Z -/
def f_X2_starts_b85 (G : Nat → Nat) (k26 : Nat → Int32 → zS → Option (Int32 × zS)) (l0 : Nat) (l2 : Int32) (t0 : Int32) (t1 : Int32) (t2 : Option Nat) (s0 : zS) : Option (Int32 × zS) :=
zo (zsI G s0 t2 0 t1 t0) fun s1 =>
k26 l0 (l2 + 1) s1
set_option maxHeartbeats 4000000 in
theorem w_X2_starts_b85 {X : zX} (hC : ZC X RX2 cX2_starts (some .boolean) 9 177) (hL : X.nL = 6) (hno : ∀ x ∈ X.c.exceptionTable.toList, False) {r : Int32} {sF : zS} (hQ : ZQ X (.inl (some (zi r)), sF)) (k26 : Nat → Int32 → zS → Option (Int32 × zS)) (hk26 : ∀ (l0 : Nat) (l2 : Int32) (s0 : zS), k26 l0 l2 s0 = some (r, sF) → ZW X s0 26 [(0, zr (some l0)), (2, zi l2)] []) (l0 : Nat) (l2 : Int32) (t0 : Int32) (t1 : Int32) (t2 : Option Nat) (s0 : zS) (hf : f_X2_starts_b85 X.g.1 k26 l0 l2 t0 t1 t2 s0 = some (r, sF)) : ZW X s0 85 [(0, zr (some l0)), (2, zi l2)] [zi t0, zi t1, zr t2] := by
  unfold f_X2_starts_b85 at hf
  refine z_iast hC (pc := 85) dX2_starts_85 hf (fun s1 hf => ?_)
  refine z_iinc (v := 1) (lv' := [(2, zi (l2 + 1)), (0, zr (some l0))]) hC (pc := 86) hL dX2_starts_86 1 rfl zki_1 (Nat.le_of_ble_eq_true rfl) rfl ?_
  refine z_goto hC (pc := 89) (tgt := 26) dX2_starts_89 rfl ?_
  refine ZW.perm (lv' := [(0, zr (some l0)), (2, zi (l2 + 1))]) [1, 0] rfl ?_
  exact hk26 l0 (l2 + 1) s1 hf
def f_X2_starts_b84 (G : Nat → Nat) (k26 : Nat → Int32 → zS → Option (Int32 × zS)) (l0 : Nat) (l2 : Int32) (t0 : Int32) (t1 : Option Nat) (s0 : zS) : Option (Int32 × zS) :=
f_X2_starts_b85 G k26 l0 l2 0 t0 t1 s0
set_option maxHeartbeats 4000000 in
theorem w_X2_starts_b84 {X : zX} (hC : ZC X RX2 cX2_starts (some .boolean) 9 177) (hL : X.nL = 6) (hno : ∀ x ∈ X.c.exceptionTable.toList, False) {r : Int32} {sF : zS} (hQ : ZQ X (.inl (some (zi r)), sF)) (k26 : Nat → Int32 → zS → Option (Int32 × zS)) (hk26 : ∀ (l0 : Nat) (l2 : Int32) (s0 : zS), k26 l0 l2 s0 = some (r, sF) → ZW X s0 26 [(0, zr (some l0)), (2, zi l2)] []) (l0 : Nat) (l2 : Int32) (t0 : Int32) (t1 : Option Nat) (s0 : zS) (hf : f_X2_starts_b84 X.g.1 k26 l0 l2 t0 t1 s0 = some (r, sF)) : ZW X s0 84 [(0, zr (some l0)), (2, zi l2)] [zi t0, zr t1] := by
  unfold f_X2_starts_b84 at hf
  refine z_iconst (v := 0) hC (pc := 84) dX2_starts_84 zki_0 ?_
  exact w_X2_starts_b85 hC hL hno hQ k26 hk26 l0 l2 0 t0 t1 s0 hf
def f_X2_starts_b180 (G : Nat → Nat) (k113 : Nat → Int32 → Int32 → Int32 → zS → Option (Int32 × zS)) (l0 : Nat) (l2 : Int32) (l3 : Int32) (l4 : Int32) (s0 : zS) : Option (Int32 × zS) :=
k113 l0 l2 l3 (l4 + 1) s0
set_option maxHeartbeats 4000000 in
theorem w_X2_starts_b180 {X : zX} (hC : ZC X RX2 cX2_starts (some .boolean) 9 177) (hL : X.nL = 6) (hno : ∀ x ∈ X.c.exceptionTable.toList, False) {r : Int32} {sF : zS} (hQ : ZQ X (.inl (some (zi r)), sF)) (k113 : Nat → Int32 → Int32 → Int32 → zS → Option (Int32 × zS)) (hk113 : ∀ (l0 : Nat) (l2 : Int32) (l3 : Int32) (l4 : Int32) (s0 : zS), k113 l0 l2 l3 l4 s0 = some (r, sF) → ZW X s0 113 [(0, zr (some l0)), (2, zi l2), (3, zi l3), (4, zi l4)] []) (l0 : Nat) (l2 : Int32) (l3 : Int32) (l4 : Int32) (s0 : zS) (hf : f_X2_starts_b180 X.g.1 k113 l0 l2 l3 l4 s0 = some (r, sF)) : ZW X s0 180 [(0, zr (some l0)), (2, zi l2), (3, zi l3), (4, zi l4)] [] := by
  unfold f_X2_starts_b180 at hf
  refine z_iinc (v := 1) (lv' := [(4, zi (l4 + 1)), (0, zr (some l0)), (2, zi l2), (3, zi l3)]) hC (pc := 180) hL dX2_starts_180 3 rfl zki_1 (Nat.le_of_ble_eq_true rfl) rfl ?_
  refine z_goto hC (pc := 183) (tgt := 113) dX2_starts_183 rfl ?_
  refine ZW.perm (lv' := [(0, zr (some l0)), (2, zi l2), (3, zi l3), (4, zi (l4 + 1))]) [1, 2, 3, 0] rfl ?_
  exact hk113 l0 l2 l3 (l4 + 1) s0 hf
def f_X2_starts_b113 (G : Nat → Nat) (k96 : Nat → Int32 → Int32 → zS → Option (Int32 × zS)) (k113 : Nat → Int32 → Int32 → Int32 → zS → Option (Int32 × zS)) (l0 : Nat) (l2 : Int32) (l3 : Int32) (l4 : Int32) (s0 : zS) : Option (Int32 × zS) :=
zo (zgI s0 (some l0) 1 7) fun v1 =>
if v1 ≤ l4 then (k96 l0 l2 (l3 + 1) s0)
else (zo (zgR s0 (some l0) 1 3) fun v3 =>
zo (zgR s0 (some l0) 1 0) fun v4 =>
zo (zaI s0 v4 0 l4) fun v5 =>
zo (zaI s0 v3 0 v5) fun v6 =>
zo (zgR s0 (some l0) 1 2) fun v7 =>
zo (zaI s0 v7 0 l4) fun v8 =>
zo (zgR s0 (some l0) 1 3) fun v9 =>
zo (zgR s0 (some l0) 1 1) fun v10 =>
zo (zaI s0 v10 0 l4) fun v11 =>
zo (zaI s0 v9 0 v11) fun v12 =>
if v12 < (v6 + v8) then (zo (zgR s0 (some l0) 1 3) fun v14 =>
zo (zgR s0 (some l0) 1 1) fun v15 =>
zo (zaI s0 v15 0 l4) fun v16 =>
zo (zsI G s0 v14 0 v16 (v6 + v8)) fun s17 =>
f_X2_starts_b180 G k113 l0 1 l3 l4 s17)
else (f_X2_starts_b180 G k113 l0 l2 l3 l4 s0))
set_option maxHeartbeats 4000000 in
theorem w_X2_starts_b113 {X : zX} (hC : ZC X RX2 cX2_starts (some .boolean) 9 177) (hL : X.nL = 6) (hno : ∀ x ∈ X.c.exceptionTable.toList, False) {r : Int32} {sF : zS} (hQ : ZQ X (.inl (some (zi r)), sF)) (k96 : Nat → Int32 → Int32 → zS → Option (Int32 × zS)) (hk96 : ∀ (l0 : Nat) (l2 : Int32) (l3 : Int32) (s0 : zS), k96 l0 l2 l3 s0 = some (r, sF) → ZW X s0 96 [(0, zr (some l0)), (2, zi l2), (3, zi l3)] []) (k113 : Nat → Int32 → Int32 → Int32 → zS → Option (Int32 × zS)) (hk113 : ∀ (l0 : Nat) (l2 : Int32) (l3 : Int32) (l4 : Int32) (s0 : zS), k113 l0 l2 l3 l4 s0 = some (r, sF) → ZW X s0 113 [(0, zr (some l0)), (2, zi l2), (3, zi l3), (4, zi l4)] []) (l0 : Nat) (l2 : Int32) (l3 : Int32) (l4 : Int32) (s0 : zS) (hf : f_X2_starts_b113 X.g.1 k96 k113 l0 l2 l3 l4 s0 = some (r, sF)) : ZW X s0 113 [(0, zr (some l0)), (2, zi l2), (3, zi l3), (4, zi l4)] [] := by
  unfold f_X2_starts_b113 at hf
  refine z_iload hC (pc := 113) dX2_starts_113 3 rfl ?_
  refine z_aload_n hC (pc := 115) dX2_starts_115 rfl 0 rfl ?_
  refine z_getI hC (pc := 116) in_X2 zcX2 7 (Nat.le_of_ble_eq_true rfl) (zLk.o hC q201) zsm dX2_starts_116 hf (fun v1 hf => ?_)
  refine z_icmp_ge hC (pc := 119) (tgt := 186) dX2_starts_119 rfl (fun c2 => ?_) (fun c2 => ?_)
  · have hf := zif_t hf c2
    refine z_iinc (v := 1) (lv' := [(3, zi (l3 + 1)), (0, zr (some l0)), (2, zi l2), (4, zi l4)]) hC (pc := 186) hL dX2_starts_186 2 rfl zki_1 (Nat.le_of_ble_eq_true rfl) rfl ?_
    refine z_goto hC (pc := 189) (tgt := 96) dX2_starts_189 rfl ?_
    refine ZW.perm (lv' := [(0, zr (some l0)), (2, zi l2), (3, zi (l3 + 1))]) [1, 2, 0] rfl ?_
    exact hk96 l0 l2 (l3 + 1) s0 hf
  · have hf := zif_f hf c2
    refine z_aload_n hC (pc := 122) dX2_starts_122 rfl 0 rfl ?_
    refine z_getR hC (pc := 123) in_X2 zcX2 3 (Nat.le_of_ble_eq_true rfl) (zLk.o hC q196) zsm dX2_starts_123 hf (fun v3 hf => ?_)
    refine z_aload_n hC (pc := 126) dX2_starts_126 rfl 0 rfl ?_
    refine z_getR hC (pc := 127) in_X2 zcX2 0 (Nat.le_of_ble_eq_true rfl) (zLk.o hC q193) zsm dX2_starts_127 hf (fun v4 hf => ?_)
    refine z_iload hC (pc := 130) dX2_starts_130 3 rfl ?_
    refine z_iald hC (pc := 132) dX2_starts_132 hf (fun v5 hf => ?_)
    refine z_iald hC (pc := 133) dX2_starts_133 hf (fun v6 hf => ?_)
    refine z_aload_n hC (pc := 134) dX2_starts_134 rfl 0 rfl ?_
    refine z_getR hC (pc := 135) in_X2 zcX2 2 (Nat.le_of_ble_eq_true rfl) (zLk.o hC q195) zsm dX2_starts_135 hf (fun v7 hf => ?_)
    refine z_iload hC (pc := 138) dX2_starts_138 3 rfl ?_
    refine z_iald hC (pc := 140) dX2_starts_140 hf (fun v8 hf => ?_)
    refine z_iadd hC (pc := 141) dX2_starts_141 ?_
    refine z_istore (lv' := [(5, zi (v6 + v8)), (0, zr (some l0)), (2, zi l2), (3, zi l3), (4, zi l4)]) hC (pc := 142) hL dX2_starts_142 (Nat.le_of_ble_eq_true rfl) rfl ?_
    refine z_aload_n hC (pc := 144) dX2_starts_144 rfl 1 rfl ?_
    refine z_getR hC (pc := 145) in_X2 zcX2 3 (Nat.le_of_ble_eq_true rfl) (zLk.o hC q196) zsm dX2_starts_145 hf (fun v9 hf => ?_)
    refine z_aload_n hC (pc := 148) dX2_starts_148 rfl 1 rfl ?_
    refine z_getR hC (pc := 149) in_X2 zcX2 1 (Nat.le_of_ble_eq_true rfl) (zLk.o hC q194) zsm dX2_starts_149 hf (fun v10 hf => ?_)
    refine z_iload hC (pc := 152) dX2_starts_152 4 rfl ?_
    refine z_iald hC (pc := 154) dX2_starts_154 hf (fun v11 hf => ?_)
    refine z_iald hC (pc := 155) dX2_starts_155 hf (fun v12 hf => ?_)
    refine z_iload hC (pc := 156) dX2_starts_156 0 rfl ?_
    refine z_icmp_lt hC (pc := 158) (tgt := 164) dX2_starts_158 rfl (fun c13 => ?_) (fun c13 => ?_)
    · have hf := zif_t hf c13
      refine z_aload_n hC (pc := 164) dX2_starts_164 rfl 1 rfl ?_
      refine z_getR hC (pc := 165) in_X2 zcX2 3 (Nat.le_of_ble_eq_true rfl) (zLk.o hC q196) zsm dX2_starts_165 hf (fun v14 hf => ?_)
      refine z_aload_n hC (pc := 168) dX2_starts_168 rfl 1 rfl ?_
      refine z_getR hC (pc := 169) in_X2 zcX2 1 (Nat.le_of_ble_eq_true rfl) (zLk.o hC q194) zsm dX2_starts_169 hf (fun v15 hf => ?_)
      refine z_iload hC (pc := 172) dX2_starts_172 4 rfl ?_
      refine z_iald hC (pc := 174) dX2_starts_174 hf (fun v16 hf => ?_)
      refine z_iload hC (pc := 175) dX2_starts_175 0 rfl ?_
      refine z_iast hC (pc := 177) dX2_starts_177 hf (fun s17 hf => ?_)
      refine z_iconst (v := 1) hC (pc := 178) dX2_starts_178 zki_1 ?_
      refine z_istore_n (lv' := [(2, zi 1), (5, zi (v6 + v8)), (0, zr (some l0)), (3, zi l3), (4, zi l4)]) hC (pc := 179) hL dX2_starts_179 rfl (Nat.le_of_ble_eq_true rfl) rfl ?_
      refine ZW.perm (lv' := [(0, zr (some l0)), (2, zi 1), (3, zi l3), (4, zi l4)]) [2, 0, 3, 4] rfl ?_
      exact w_X2_starts_b180 hC hL hno hQ k113 hk113 l0 1 l3 l4 s17 hf
    · have hf := zif_f hf c13
      refine z_goto hC (pc := 161) (tgt := 180) dX2_starts_161 rfl ?_
      refine ZW.perm (lv' := [(0, zr (some l0)), (2, zi l2), (3, zi l3), (4, zi l4)]) [1, 2, 3, 4] rfl ?_
      exact w_X2_starts_b180 hC hL hno hQ k113 hk113 l0 l2 l3 l4 s0 hf
def f_X2_starts_l113 (G : Nat → Nat) (k96 : Nat → Int32 → Int32 → zS → Option (Int32 × zS)) : Nat → Nat → Int32 → Int32 → Int32 → zS → Option (Int32 × zS)
  | 0 => fun _ _ _ _ _ => none
  | n + 1 => f_X2_starts_b113 G k96 (f_X2_starts_l113 G k96 n)
theorem w_X2_starts_l113 {X : zX} (hC : ZC X RX2 cX2_starts (some .boolean) 9 177) (hL : X.nL = 6) (hno : ∀ x ∈ X.c.exceptionTable.toList, False) {r : Int32} {sF : zS} (hQ : ZQ X (.inl (some (zi r)), sF)) (k96 : Nat → Int32 → Int32 → zS → Option (Int32 × zS)) (hk96 : ∀ (l0 : Nat) (l2 : Int32) (l3 : Int32) (s0 : zS), k96 l0 l2 l3 s0 = some (r, sF) → ZW X s0 96 [(0, zr (some l0)), (2, zi l2), (3, zi l3)] []) : ∀ (n : Nat) (l0 : Nat) (l2 : Int32) (l3 : Int32) (l4 : Int32) (s0 : zS) (_ : f_X2_starts_l113 X.g.1 k96 n l0 l2 l3 l4 s0 = some (r, sF)), ZW X s0 113 [(0, zr (some l0)), (2, zi l2), (3, zi l3), (4, zi l4)] [] := by
  intro n
  induction n with
  | zero => intro l0 l2 l3 l4 s0 hf; exact absurd (show (none : Option (Int32 × zS)) = some (r, sF) from hf) (fun z => nomatch z)
  | succ n ih => intro l0 l2 l3 l4 s0 hf; exact w_X2_starts_b113 hC hL hno hQ k96 hk96 (f_X2_starts_l113 X.g.1 k96 n) ih l0 l2 l3 l4 s0 hf
def f_X2_starts_b192 (G : Nat → Nat) (l2 : Int32) (s0 : zS) : Option (Int32 × zS) :=
if l2 = 0 then (zrn .boolean 1 s0)
else (zrn .boolean 0 s0)
set_option maxHeartbeats 4000000 in
theorem w_X2_starts_b192 {X : zX} (hC : ZC X RX2 cX2_starts (some .boolean) 9 177) (hL : X.nL = 6) (hno : ∀ x ∈ X.c.exceptionTable.toList, False) {r : Int32} {sF : zS} (hQ : ZQ X (.inl (some (zi r)), sF)) (l2 : Int32) (s0 : zS) (hf : f_X2_starts_b192 X.g.1 l2 s0 = some (r, sF)) : ZW X s0 192 [(2, zi l2)] [] := by
  unfold f_X2_starts_b192 at hf
  refine z_iload_n hC (pc := 192) dX2_starts_192 rfl 0 rfl ?_
  refine z_if_ne hC (pc := 193) (tgt := 200) dX2_starts_193 rfl (fun c1 => ?_) (fun c1 => ?_)
  · have hf := zif_f hf c1
    refine z_iconst (v := 0) hC (pc := 200) dX2_starts_200 zki_0 ?_
    exact z_zreturn hC (pc := 201) hQ dX2_starts_201 hf
  · have hf := zif_t hf c1
    refine z_iconst (v := 1) hC (pc := 196) dX2_starts_196 zki_1 ?_
    refine z_goto hC (pc := 197) (tgt := 201) dX2_starts_197 rfl ?_
    exact z_zreturn hC (pc := 201) hQ dX2_starts_201 hf
def f_X2_starts_b96 (G : Nat → Nat) (k96 : Nat → Int32 → Int32 → zS → Option (Int32 × zS)) (l0 : Nat) (l2 : Int32) (l3 : Int32) (s0 : zS) : Option (Int32 × zS) :=
if l2 = 0 then (f_X2_starts_b192 G l2 s0)
else (zo (zgI s0 (some l0) 1 8) fun v2 =>
if v2 < l3 then (f_X2_starts_b192 G l2 s0)
else (f_X2_starts_l113 G k96 2000 l0 0 l3 0 s0))
set_option maxHeartbeats 4000000 in
theorem w_X2_starts_b96 {X : zX} (hC : ZC X RX2 cX2_starts (some .boolean) 9 177) (hL : X.nL = 6) (hno : ∀ x ∈ X.c.exceptionTable.toList, False) {r : Int32} {sF : zS} (hQ : ZQ X (.inl (some (zi r)), sF)) (k96 : Nat → Int32 → Int32 → zS → Option (Int32 × zS)) (hk96 : ∀ (l0 : Nat) (l2 : Int32) (l3 : Int32) (s0 : zS), k96 l0 l2 l3 s0 = some (r, sF) → ZW X s0 96 [(0, zr (some l0)), (2, zi l2), (3, zi l3)] []) (l0 : Nat) (l2 : Int32) (l3 : Int32) (s0 : zS) (hf : f_X2_starts_b96 X.g.1 k96 l0 l2 l3 s0 = some (r, sF)) : ZW X s0 96 [(0, zr (some l0)), (2, zi l2), (3, zi l3)] [] := by
  unfold f_X2_starts_b96 at hf
  refine z_iload_n hC (pc := 96) dX2_starts_96 rfl 1 rfl ?_
  refine z_if_eq hC (pc := 97) (tgt := 192) dX2_starts_97 rfl (fun c1 => ?_) (fun c1 => ?_)
  · have hf := zif_t hf c1
    refine ZW.perm (lv' := [(2, zi l2)]) [1] rfl ?_
    exact w_X2_starts_b192 hC hL hno hQ l2 s0 hf
  · have hf := zif_f hf c1
    refine z_iload_n hC (pc := 100) dX2_starts_100 rfl 2 rfl ?_
    refine z_aload_n hC (pc := 101) dX2_starts_101 rfl 0 rfl ?_
    refine z_getI hC (pc := 102) in_X2 zcX2 8 (Nat.le_of_ble_eq_true rfl) (zLk.o hC q202) zsm dX2_starts_102 hf (fun v2 hf => ?_)
    refine z_icmp_gt hC (pc := 105) (tgt := 192) dX2_starts_105 rfl (fun c3 => ?_) (fun c3 => ?_)
    · have hf := zif_t hf c3
      refine ZW.perm (lv' := [(2, zi l2)]) [1] rfl ?_
      exact w_X2_starts_b192 hC hL hno hQ l2 s0 hf
    · have hf := zif_f hf c3
      refine z_iconst (v := 0) hC (pc := 108) dX2_starts_108 zki_0 ?_
      refine z_istore_n (lv' := [(2, zi 0), (0, zr (some l0)), (3, zi l3)]) hC (pc := 109) hL dX2_starts_109 rfl (Nat.le_of_ble_eq_true rfl) rfl ?_
      refine z_iconst (v := 0) hC (pc := 110) dX2_starts_110 zki_0 ?_
      refine z_istore (lv' := [(4, zi 0), (2, zi 0), (0, zr (some l0)), (3, zi l3)]) hC (pc := 111) hL dX2_starts_111 (Nat.le_of_ble_eq_true rfl) rfl ?_
      refine ZW.perm (lv' := [(0, zr (some l0)), (2, zi 0), (3, zi l3), (4, zi 0)]) [2, 1, 3, 0] rfl ?_
      exact w_X2_starts_l113 hC hL hno hQ k96 hk96 2000 l0 0 l3 0 s0 hf
def f_X2_starts_l96 (G : Nat → Nat) : Nat → Nat → Int32 → Int32 → zS → Option (Int32 × zS)
  | 0 => fun _ _ _ _ => none
  | n + 1 => f_X2_starts_b96 G (f_X2_starts_l96 G n)
theorem w_X2_starts_l96 {X : zX} (hC : ZC X RX2 cX2_starts (some .boolean) 9 177) (hL : X.nL = 6) (hno : ∀ x ∈ X.c.exceptionTable.toList, False) {r : Int32} {sF : zS} (hQ : ZQ X (.inl (some (zi r)), sF)) : ∀ (n : Nat) (l0 : Nat) (l2 : Int32) (l3 : Int32) (s0 : zS) (_ : f_X2_starts_l96 X.g.1 n l0 l2 l3 s0 = some (r, sF)), ZW X s0 96 [(0, zr (some l0)), (2, zi l2), (3, zi l3)] [] := by
  intro n
  induction n with
  | zero => intro l0 l2 l3 s0 hf; exact absurd (show (none : Option (Int32 × zS)) = some (r, sF) from hf) (fun z => nomatch z)
  | succ n ih => intro l0 l2 l3 s0 hf; exact w_X2_starts_b96 hC hL hno hQ (f_X2_starts_l96 X.g.1 n) ih l0 l2 l3 s0 hf
def f_X2_starts_b26 (G : Nat → Nat) (k26 : Nat → Int32 → zS → Option (Int32 × zS)) (l0 : Nat) (l2 : Int32) (s0 : zS) : Option (Int32 × zS) :=
if 36 ≤ l2 then (f_X2_starts_l96 G 2000 l0 1 0 s0)
else (zo (zgR s0 (some l0) 1 3) fun v2 =>
zo (zgR s0 (some l0) 1 6) fun v3 =>
zo (zrc s0 v3 3) fun a6 =>
zb (f_X4_exists G a6 l2 s0) fun v7 s8 =>
if v7 = 0 then (f_X2_starts_b84 G k26 l0 l2 l2 v2 s8)
else (zo (zgR s8 (some l0) 1 6) fun v10 =>
zo (zrc s8 v10 3) fun a13 =>
zb (f_X4_isFirst G a13 l2 s8) fun v14 s15 =>
if v14 = 0 then (f_X2_starts_b84 G k26 l0 l2 l2 v2 s15)
else (zo (zgR s15 (some l0) 1 6) fun v17 =>
zo (zgR s15 v17 3 3) fun v18 =>
zo (zrc s15 v18 15) fun a21 =>
zb (f_J5_get G a21 (l2 / 6) s15) fun v22 s23 =>
zo (zcst s23 v22 9) fun _ =>
zo (zgI s23 v22 9 0) fun v24 =>
f_X2_starts_b85 G k26 l0 l2 v24 l2 v2 s23)))
set_option maxHeartbeats 4000000 in
theorem w_X2_starts_b26 {X : zX} (hC : ZC X RX2 cX2_starts (some .boolean) 9 177) (hL : X.nL = 6) (hno : ∀ x ∈ X.c.exceptionTable.toList, False) {r : Int32} {sF : zS} (hQ : ZQ X (.inl (some (zi r)), sF)) (k26 : Nat → Int32 → zS → Option (Int32 × zS)) (hk26 : ∀ (l0 : Nat) (l2 : Int32) (s0 : zS), k26 l0 l2 s0 = some (r, sF) → ZW X s0 26 [(0, zr (some l0)), (2, zi l2)] []) (l0 : Nat) (l2 : Int32) (s0 : zS) (hf : f_X2_starts_b26 X.g.1 k26 l0 l2 s0 = some (r, sF)) : ZW X s0 26 [(0, zr (some l0)), (2, zi l2)] [] := by
  unfold f_X2_starts_b26 at hf
  refine z_iload_n hC (pc := 26) dX2_starts_26 rfl 1 rfl ?_
  refine z_bipush (v := 36) hC (pc := 27) dX2_starts_27 zkb_36 ?_
  refine z_icmp_ge hC (pc := 29) (tgt := 92) dX2_starts_29 rfl (fun c1 => ?_) (fun c1 => ?_)
  · have hf := zif_t hf c1
    refine z_iconst (v := 1) hC (pc := 92) dX2_starts_92 zki_1 ?_
    refine z_istore_n (lv' := [(2, zi 1), (0, zr (some l0))]) hC (pc := 93) hL dX2_starts_93 rfl (Nat.le_of_ble_eq_true rfl) rfl ?_
    refine z_iconst (v := 0) hC (pc := 94) dX2_starts_94 zki_0 ?_
    refine z_istore_n (lv' := [(3, zi 0), (2, zi 1), (0, zr (some l0))]) hC (pc := 95) hL dX2_starts_95 rfl (Nat.le_of_ble_eq_true rfl) rfl ?_
    refine ZW.perm (lv' := [(0, zr (some l0)), (2, zi 1), (3, zi 0)]) [2, 1, 0] rfl ?_
    exact w_X2_starts_l96 hC hL hno hQ 2000 l0 1 0 s0 hf
  · have hf := zif_f hf c1
    refine z_aload_n hC (pc := 32) dX2_starts_32 rfl 0 rfl ?_
    refine z_getR hC (pc := 33) in_X2 zcX2 3 (Nat.le_of_ble_eq_true rfl) (zLk.o hC q196) zsm dX2_starts_33 hf (fun v2 hf => ?_)
    refine z_iload_n hC (pc := 36) dX2_starts_36 rfl 1 rfl ?_
    refine z_aload_n hC (pc := 37) dX2_starts_37 rfl 0 rfl ?_
    refine z_getR hC (pc := 38) in_X2 zcX2 6 (Nat.le_of_ble_eq_true rfl) (zLk.o hC q200) zsm dX2_starts_38 hf (fun v3 hf => ?_)
    refine z_iload_n hC (pc := 41) dX2_starts_41 rfl 1 rfl ?_
    obtain ⟨a6, fs4, rfl, ha5, hf⟩ := z_rcO hf
    refine z_cI (rest := [zi l2, zr v2]) hf (fun v7 s8 hcall => z_runV hC (pc := 42) zcX4 1 ha5 (m_X4_exists X.g a6 l2 s0 s8 v7 hcall) (lw_V q1871 q1872 q1873 q100 q1874) hdV_X4_exists ⟨(Nat.le_of_ble_eq_true rfl), (Nat.le_of_ble_eq_true rfl)⟩ rfl (Nat.le_of_ble_eq_true rfl) dX2_starts_42 rfl) (fun v7 s8 hf => ?_)
    refine z_if_eq hC (pc := 45) (tgt := 84) dX2_starts_45 rfl (fun c9 => ?_) (fun c9 => ?_)
    · have hf := zif_t hf c9
      exact w_X2_starts_b84 hC hL hno hQ k26 hk26 l0 l2 l2 v2 s8 hf
    · have hf := zif_f hf c9
      refine z_aload_n hC (pc := 48) dX2_starts_48 rfl 0 rfl ?_
      refine z_getR hC (pc := 49) in_X2 zcX2 6 (Nat.le_of_ble_eq_true rfl) (zLk.o hC q200) zsm dX2_starts_49 hf (fun v10 hf => ?_)
      refine z_iload_n hC (pc := 52) dX2_starts_52 rfl 1 rfl ?_
      obtain ⟨a13, fs11, rfl, ha12, hf⟩ := z_rcO hf
      refine z_cI (rest := [zi l2, zr v2]) hf (fun v14 s15 hcall => z_runV hC (pc := 53) zcX4 1 ha12 (m_X4_isFirst X.g a13 l2 s8 s15 v14 hcall) (lw_V q1888 q1182 q1183 q100 q1184) hdV_X4_isFirst ⟨(Nat.le_of_ble_eq_true rfl), (Nat.le_of_ble_eq_true rfl)⟩ rfl (Nat.le_of_ble_eq_true rfl) dX2_starts_53 rfl) (fun v14 s15 hf => ?_)
      refine z_if_eq hC (pc := 56) (tgt := 84) dX2_starts_56 rfl (fun c16 => ?_) (fun c16 => ?_)
      · have hf := zif_t hf c16
        exact w_X2_starts_b84 hC hL hno hQ k26 hk26 l0 l2 l2 v2 s15 hf
      · have hf := zif_f hf c16
        refine z_aload_n hC (pc := 59) dX2_starts_59 rfl 0 rfl ?_
        refine z_getR hC (pc := 60) in_X2 zcX2 6 (Nat.le_of_ble_eq_true rfl) (zLk.o hC q200) zsm dX2_starts_60 hf (fun v17 hf => ?_)
        refine z_getR hC (pc := 63) in_X4 zcX4 3 (Nat.le_of_ble_eq_true rfl) (zLk.n hC q331) zsm dX2_starts_63 hf (fun v18 hf => ?_)
        refine z_iload_n hC (pc := 66) dX2_starts_66 rfl 1 rfl ?_
        refine z_bipush (v := 6) hC (pc := 67) dX2_starts_67 zkb_6 ?_
        refine z_idiv hC (pc := 69) dX2_starts_69 (by decide) ?_
        obtain ⟨a21, fs19, rfl, ha20, hf⟩ := z_rcO hf
        refine z_cR5 (rest := [zi l2, zr v2]) hf (fun v22 s23 hcall => z_runF hC (pc := 70) zcJ5 1 ha20 (m_J5_get X.g a21 (l2 / 6) s15 s23 v22 hcall) (lw_app (zm4 q1890 q478 q480 q104) (lw_meth q482)) q477 q476 q481 q479 q434 (by decide +kernel) ⟨(Nat.le_of_ble_eq_true rfl), (Nat.le_of_ble_eq_true rfl)⟩ rfl (Nat.le_of_ble_eq_true rfl) dX2_starts_70 rfl) (fun v22 s23 hf => ?_)
        refine z_cast hC (pc := 75) zcX11 q1891 (Or.inl rfl) dX2_starts_75 hf (fun hf => ?_)
        refine z_getI hC (pc := 78) in_X11 zcX11 0 (Nat.le_of_ble_eq_true rfl) (zLk.n hC q2168) zsm dX2_starts_78 hf (fun v24 hf => ?_)
        refine z_goto hC (pc := 81) (tgt := 85) dX2_starts_81 rfl ?_
        exact w_X2_starts_b85 hC hL hno hQ k26 hk26 l0 l2 v24 l2 v2 s23 hf
def f_X2_starts_l26 (G : Nat → Nat) : Nat → Nat → Int32 → zS → Option (Int32 × zS)
  | 0 => fun _ _ _ => none
  | n + 1 => f_X2_starts_b26 G (f_X2_starts_l26 G n)
theorem w_X2_starts_l26 {X : zX} (hC : ZC X RX2 cX2_starts (some .boolean) 9 177) (hL : X.nL = 6) (hno : ∀ x ∈ X.c.exceptionTable.toList, False) {r : Int32} {sF : zS} (hQ : ZQ X (.inl (some (zi r)), sF)) : ∀ (n : Nat) (l0 : Nat) (l2 : Int32) (s0 : zS) (_ : f_X2_starts_l26 X.g.1 n l0 l2 s0 = some (r, sF)), ZW X s0 26 [(0, zr (some l0)), (2, zi l2)] [] := by
  intro n
  induction n with
  | zero => intro l0 l2 s0 hf; exact absurd (show (none : Option (Int32 × zS)) = some (r, sF) from hf) (fun z => nomatch z)
  | succ n ih => intro l0 l2 s0 hf; exact w_X2_starts_b26 hC hL hno hQ (f_X2_starts_l26 X.g.1 n) ih l0 l2 s0 hf
def f_X2_starts_b24 (G : Nat → Nat) (l0 : Nat) (s0 : zS) : Option (Int32 × zS) :=
f_X2_starts_l26 G 2000 l0 0 s0
set_option maxHeartbeats 4000000 in
theorem w_X2_starts_b24 {X : zX} (hC : ZC X RX2 cX2_starts (some .boolean) 9 177) (hL : X.nL = 6) (hno : ∀ x ∈ X.c.exceptionTable.toList, False) {r : Int32} {sF : zS} (hQ : ZQ X (.inl (some (zi r)), sF)) (l0 : Nat) (s0 : zS) (hf : f_X2_starts_b24 X.g.1 l0 s0 = some (r, sF)) : ZW X s0 24 [(0, zr (some l0))] [] := by
  unfold f_X2_starts_b24 at hf
  refine z_iconst (v := 0) hC (pc := 24) dX2_starts_24 zki_0 ?_
  refine z_istore_n (lv' := [(2, zi 0), (0, zr (some l0))]) hC (pc := 25) hL dX2_starts_25 rfl (Nat.le_of_ble_eq_true rfl) rfl ?_
  refine ZW.perm (lv' := [(0, zr (some l0)), (2, zi 0)]) [1, 0] rfl ?_
  exact w_X2_starts_l26 hC hL hno hQ 2000 l0 0 s0 hf
def f_X2_starts (G : Nat → Nat) (l0 : Nat) (l1 : Option Nat) (s0 : zS) : Option (Int32 × zS) :=
zo (zrc s0 (some l0) 1) fun _ =>
zb (f_X2_lay G l0 l1 s0) fun _ s4 =>
zo (zgR s4 (some l0) 1 6) fun v5 =>
zo (zgI s4 v5 3 1) fun v6 =>
if v6 = 0 then (zo (zrc s4 (some l0) 1) fun _ =>
zb (f_X2_hasCycle G l0 s4) fun v10 s11 =>
if v10 = 0 then (f_X2_starts_b24 G l0 s11)
else (zrn .boolean 0 s11))
else (f_X2_starts_b24 G l0 s4)
set_option maxHeartbeats 4000000 in
theorem m_X2_starts (Γ : zG) (l0 : Nat) (l1 : Option Nat) (s0 s1 : zS) (r : Int32) (hf : f_X2_starts Γ.1 l0 l1 s0 = some (r, s1)) : ZM Γ yX2_starts (ws_ yX2_starts cX2_starts 6 (some .boolean)) 9 177 [zr (some l0), zr l1] s0 (.inl (some (zi r)), s1) := by
  refine ZM.of (own := RX2) (by decide) rfl (Nat.le_of_ble_eq_true rfl) ?_
  intro X hg hC hL hno hQ hin
  subst hg
  unfold f_X2_starts at hf
  refine z_aload_n hC (pc := 0) dX2_starts_0 rfl 0 rfl ?_
  refine z_aload_n hC (pc := 1) dX2_starts_1 rfl 1 rfl ?_
  obtain ⟨fs1, ha2, hf⟩ := z_rcN hf
  refine z_cU (rest := []) hf (fun v3 s4 hcall => z_runV hC (pc := 2) zcX2 1 ha2 (m_X2_lay X.g l0 l1 s0 s4 v3 hcall) (lw_V q1867 q1869 qs19 q98 q1870) hdV_X2_lay ⟨(Nat.le_of_ble_eq_true rfl), (Nat.le_of_ble_eq_true rfl)⟩ rfl (Nat.le_of_ble_eq_true rfl) dX2_starts_2 rfl) (fun _ s4 hf => ?_)
  refine z_aload_n hC (pc := 5) dX2_starts_5 rfl 0 rfl ?_
  refine z_getR hC (pc := 6) in_X2 zcX2 6 (Nat.le_of_ble_eq_true rfl) (zLk.o hC q200) zsm dX2_starts_6 hf (fun v5 hf => ?_)
  refine z_getI hC (pc := 9) in_X4 zcX4 1 (Nat.le_of_ble_eq_true rfl) (zLk.n hC q327) zsm dX2_starts_9 hf (fun v6 hf => ?_)
  refine z_if_ne hC (pc := 12) (tgt := 24) dX2_starts_12 rfl (fun c7 => ?_) (fun c7 => ?_)
  · have hf := zif_f hf c7
    refine ZW.perm (lv' := [(0, zr (some l0))]) [0] rfl ?_
    exact w_X2_starts_b24 hC hL hno hQ l0 s4 hf
  · have hf := zif_t hf c7
    refine z_aload_n hC (pc := 15) dX2_starts_15 rfl 0 rfl ?_
    obtain ⟨fs8, ha9, hf⟩ := z_rcN hf
    refine z_cI (rest := []) hf (fun v10 s11 hcall => z_runV hC (pc := 16) zcX2 0 ha9 (m_X2_hasCycle X.g l0 s4 s11 v10 hcall) (lw_V q1884 q1886 qs21 q98 q1887) hdV_X2_hasCycle ⟨(Nat.le_of_ble_eq_true rfl), (Nat.le_of_ble_eq_true rfl)⟩ rfl (Nat.le_of_ble_eq_true rfl) dX2_starts_16 rfl) (fun v10 s11 hf => ?_)
    refine z_if_eq hC (pc := 19) (tgt := 24) dX2_starts_19 rfl (fun c12 => ?_) (fun c12 => ?_)
    · have hf := zif_t hf c12
      refine ZW.perm (lv' := [(0, zr (some l0))]) [0] rfl ?_
      exact w_X2_starts_b24 hC hL hno hQ l0 s11 hf
    · have hf := zif_f hf c12
      refine z_iconst (v := 0) hC (pc := 22) dX2_starts_22 zki_0 ?_
      exact z_zreturn hC (pc := 23) hQ dX2_starts_23 hf
/-! BlockingShop$Plan.times(LBlockingShop$Graph;)Z -/
def f_X3_times (G : Nat → Nat) (l0 : Nat) (l1 : Option Nat) (s0 : zS) : Option (Int32 × zS) :=
zo (zrc s0 l1 1) fun a3 =>
zb (f_X2_starts G a3 (some l0) s0) fun v4 s5 =>
if v4 = 0 then (zrn .boolean v4 s5)
else (zo (zgR s5 (some a3) 1 3) fun v7 =>
zo (zgR s5 (some l0) 2 3) fun v8 =>
zo (zcpI G s5 v7 0 v8 0 36) fun s9 =>
zrn .boolean v4 s9)
set_option maxHeartbeats 4000000 in
theorem m_X3_times (Γ : zG) (l0 : Nat) (l1 : Option Nat) (s0 s1 : zS) (r : Int32) (hf : f_X3_times Γ.1 l0 l1 s0 = some (r, s1)) : ZM Γ yX3_times (ws_ yX3_times cX3_times 3 (some .boolean)) 10 202 [zr (some l0), zr l1] s0 (.inl (some (zi r)), s1) := by
  refine ZM.of (own := RX3) (by decide) rfl (Nat.le_of_ble_eq_true rfl) ?_
  intro X hg hC hL hno hQ hin
  subst hg
  unfold f_X3_times at hf
  refine z_aload_n hC (pc := 0) dX3_times_0 rfl 1 rfl ?_
  refine z_aload_n hC (pc := 1) dX3_times_1 rfl 0 rfl ?_
  obtain ⟨a3, fs1, rfl, ha2, hf⟩ := z_rcO hf
  refine z_cI (rest := []) hf (fun v4 s5 hcall => z_runV hC (pc := 2) zcX2 1 ha2 (m_X2_starts X.g a3 (some l0) s0 s5 v4 hcall) (lw_V q1863 q1864 q1865 q98 q1866) hdV_X2_starts ⟨(Nat.le_of_ble_eq_true rfl), (Nat.le_of_ble_eq_true rfl)⟩ rfl (Nat.le_of_ble_eq_true rfl) dX3_times_2 rfl) (fun v4 s5 hf => ?_)
  refine z_istore_n (lv' := [(2, zi v4), (0, zr (some l0)), (1, zr (some a3))]) hC (pc := 5) hL dX3_times_5 rfl (Nat.le_of_ble_eq_true rfl) rfl ?_
  refine z_iload_n hC (pc := 6) dX3_times_6 rfl 0 rfl ?_
  refine z_if_eq hC (pc := 7) (tgt := 25) dX3_times_7 rfl (fun c6 => ?_) (fun c6 => ?_)
  · have hf := zif_t hf c6
    refine z_iload_n hC (pc := 25) dX3_times_25 rfl 0 rfl ?_
    exact z_zreturn hC (pc := 26) hQ dX3_times_26 hf
  · have hf := zif_f hf c6
    refine z_aload_n hC (pc := 10) dX3_times_10 rfl 2 rfl ?_
    refine z_getR hC (pc := 11) in_X2 zcX2 3 (Nat.le_of_ble_eq_true rfl) (zLk.n hC q197) zsm dX3_times_11 hf (fun v7 hf => ?_)
    refine z_iconst (v := 0) hC (pc := 14) dX3_times_14 zki_0 ?_
    refine z_aload_n hC (pc := 15) dX3_times_15 rfl 1 rfl ?_
    refine z_getR hC (pc := 16) in_X3 zcX3 3 (Nat.le_of_ble_eq_true rfl) (zLk.o hC q374) zsm dX3_times_16 hf (fun v8 hf => ?_)
    refine z_iconst (v := 0) hC (pc := 19) dX3_times_19 zki_0 ?_
    refine z_bipush (v := 36) hC (pc := 20) dX3_times_20 zkb_36 ?_
    refine z_copyI hC (pc := 22) q1854 q625 q624 q121 (Nat.le_of_ble_eq_true rfl) (Nat.le_of_ble_eq_true rfl) dX3_times_22 hf (fun s9 hf => ?_)
    refine z_iload_n hC (pc := 25) dX3_times_25 rfl 0 rfl ?_
    exact z_zreturn hC (pc := 26) hQ dX3_times_26 hf
/-! BlockingShop.requireSwap(II)V -/
def f_X1_requireSwap (G : Nat → Nat) (l0 : Nat) (l1 : Int32) (l2 : Int32) (s0 : zS) : Option ((Unit ⊕ (Nat × Nat)) × zS) :=
zo (zrc s0 (some l0) 0) fun _ =>
zx (f_X1_requireMachine G l0 l1 s0) (fun e s => some (.inr e, s)) fun _ s4 =>
zo (zgR s4 (some l0) 0 3) fun v5 =>
zo (zgR s4 v5 2 2) fun v6 =>
zo (zaI s4 v6 0 l1) fun v7 =>
zx (f_X1_requireIndex G l2 (v7 - 1) s4) (fun e s => some (.inr e, s)) fun _ s9 =>
some (.inl (), s9)
set_option maxHeartbeats 4000000 in
theorem m_X1_requireSwap (Γ : zG) (l0 : Nat) (l1 : Int32) (l2 : Int32) (s0 s1 : zS) (r : (Unit ⊕ (Nat × Nat))) (hf : f_X1_requireSwap Γ.1 l0 l1 l2 s0 = some (r, s1)) : ZM Γ yX1_requireSwap (ws_ yX1_requireSwap cX1_requireSwap 3 none) 10 242 [zr (some l0), zi l1, zi l2] s0 (zoU r, s1) := by
  refine ZM.of (own := RX1) (by decide) rfl (Nat.le_of_ble_eq_true rfl) ?_
  intro X hg hC hL hno hQ hin
  subst hg
  unfold f_X1_requireSwap at hf
  refine z_aload_n hC (pc := 0) dX1_requireSwap_0 rfl 0 rfl ?_
  refine z_iload_n hC (pc := 1) dX1_requireSwap_1 rfl 1 rfl ?_
  obtain ⟨fs1, ha2, hf⟩ := z_rcN hf
  refine z_cXU (rest := []) hf (fun v3 s4 hcall => z_runV hC (pc := 2) zcX1 1 ha2 (m_X1_requireMachine X.g l0 l1 s0 s4 v3 hcall) (lw_V q2535 q2537 qs45 q95 q2538) hdV_X1_requireMachine ⟨(Nat.le_of_ble_eq_true rfl), (Nat.le_of_ble_eq_true rfl)⟩ rfl (Nat.le_of_ble_eq_true rfl) dX1_requireSwap_2 rfl) (fun _ s4 hf => ?_) (fun e s hf => z_outU hC hQ hno hf)
  refine z_iload_n hC (pc := 5) dX1_requireSwap_5 rfl 2 rfl ?_
  refine z_aload_n hC (pc := 6) dX1_requireSwap_6 rfl 0 rfl ?_
  refine z_getR hC (pc := 7) in_X1 zcX1 3 (Nat.le_of_ble_eq_true rfl) (zLk.o hC q394) zsm dX1_requireSwap_7 hf (fun v5 hf => ?_)
  refine z_getR hC (pc := 10) in_X3 zcX3 2 (Nat.le_of_ble_eq_true rfl) (zLk.n hC q373) zsm dX1_requireSwap_10 hf (fun v6 hf => ?_)
  refine z_iload_n hC (pc := 13) dX1_requireSwap_13 rfl 1 rfl ?_
  refine z_iald hC (pc := 14) dX1_requireSwap_14 hf (fun v7 hf => ?_)
  refine z_iconst (v := 1) hC (pc := 15) dX1_requireSwap_15 zki_1 ?_
  refine z_isub hC (pc := 16) dX1_requireSwap_16 ?_
  refine z_cXU (rest := []) hf (fun v8 s9 hcall => z_runS hC (pc := 17) 2 (m_X1_requireIndex X.g l2 (v7 - 1) s4 s9 v8 hcall) (lw_S q2504 q2505 q95 q2506) hd_X1_requireIndex ⟨(Nat.le_of_ble_eq_true rfl), (Nat.le_of_ble_eq_true rfl)⟩ rfl (Nat.le_of_ble_eq_true rfl) dX1_requireSwap_17 rfl) (fun _ s9 hf => ?_) (fun e s hf => z_outU hC hQ hno hf)
  exact z_returnX hC (pc := 20) hQ dX1_requireSwap_20 hf
/-! BlockingShop.makespanAfter(II)I -/
def f_X1_makespanAfter (G : Nat → Nat) (l0 : Nat) (l1 : Int32) (l2 : Int32) (s0 : zS) : Option ((Int32 ⊕ (Nat × Nat)) × zS) :=
zo (zrc s0 (some l0) 0) fun _ =>
zx (f_X1_requireSwap G l0 l1 l2 s0) (fun e s => some (.inr e, s)) fun _ s4 =>
zo (zgR s4 (some l0) 0 3) fun v5 =>
zo (zrc s4 v5 2) fun a8 =>
zb (f_X3_copy G a8 s4) fun v9 s10 =>
zo (zrc s10 v9 2) fun a13 =>
zb (f_X3_swap G a13 l1 l2 s10) fun _ s15 =>
zo (zgR s15 (some l0) 0 2) fun v16 =>
zo (zrc s15 (some a13) 2) fun _ =>
zb (f_X3_times G a13 v16 s15) fun v19 s20 =>
if v19 = 0 then (some (.inl (-1), s20))
else (zo (zrc s20 (some a13) 2) fun _ =>
zb (f_X3_makespan G a13 s20) fun v24 s25 =>
some (.inl v24, s25))
set_option maxHeartbeats 4000000 in
theorem m_X1_makespanAfter (Γ : zG) (l0 : Nat) (l1 : Int32) (l2 : Int32) (s0 s1 : zS) (r : (Int32 ⊕ (Nat × Nat))) (hf : f_X1_makespanAfter Γ.1 l0 l1 l2 s0 = some (r, s1)) : ZM Γ yX1_makespanAfter (ws_ yX1_makespanAfter cX1_makespanAfter 4 (some .int)) 11 264 [zr (some l0), zi l1, zi l2] s0 (zoI r, s1) := by
  refine ZM.of (own := RX1) (by decide) rfl (Nat.le_of_ble_eq_true rfl) ?_
  intro X hg hC hL hno hQ hin
  subst hg
  unfold f_X1_makespanAfter at hf
  refine z_aload_n hC (pc := 0) dX1_makespanAfter_0 rfl 0 rfl ?_
  refine z_iload_n hC (pc := 1) dX1_makespanAfter_1 rfl 1 rfl ?_
  refine z_iload_n hC (pc := 2) dX1_makespanAfter_2 rfl 2 rfl ?_
  obtain ⟨fs1, ha2, hf⟩ := z_rcN hf
  refine z_cXU (rest := []) hf (fun v3 s4 hcall => z_runV hC (pc := 3) zcX1 2 ha2 (m_X1_requireSwap X.g l0 l1 l2 s0 s4 v3 hcall) (lw_V q2610 q2612 qs46 q95 q2613) hdV_X1_requireSwap ⟨(Nat.le_of_ble_eq_true rfl), (Nat.le_of_ble_eq_true rfl)⟩ rfl (Nat.le_of_ble_eq_true rfl) dX1_makespanAfter_3 rfl) (fun _ s4 hf => ?_) (fun e s hf => z_outI hC hQ hno hf)
  refine z_aload_n hC (pc := 6) dX1_makespanAfter_6 rfl 0 rfl ?_
  refine z_getR hC (pc := 7) in_X1 zcX1 3 (Nat.le_of_ble_eq_true rfl) (zLk.o hC q394) zsm dX1_makespanAfter_7 hf (fun v5 hf => ?_)
  obtain ⟨a8, fs6, rfl, ha7, hf⟩ := z_rcO hf
  refine z_cR (rest := []) hf (fun v9 s10 hcall => z_runV hC (pc := 10) zcX3 0 ha7 (m_X3_copy X.g a8 s4 s10 v9 hcall) (lw_V q1902 q1903 q1904 q99 q1905) hdV_X3_copy ⟨(Nat.le_of_ble_eq_true rfl), (Nat.le_of_ble_eq_true rfl)⟩ rfl (Nat.le_of_ble_eq_true rfl) dX1_makespanAfter_10 rfl) (fun v9 s10 hf => ?_)
  refine z_astore_n (lv' := [(3, zr v9), (0, zr (some l0)), (1, zi l1), (2, zi l2)]) hC (pc := 13) hL dX1_makespanAfter_13 rfl (Nat.le_of_ble_eq_true rfl) rfl ?_
  refine z_aload_n hC (pc := 14) dX1_makespanAfter_14 rfl 0 rfl ?_
  refine z_iload_n hC (pc := 15) dX1_makespanAfter_15 rfl 2 rfl ?_
  refine z_iload_n hC (pc := 16) dX1_makespanAfter_16 rfl 3 rfl ?_
  obtain ⟨a13, fs11, rfl, ha12, hf⟩ := z_rcO hf
  refine z_cU (rest := []) hf (fun v14 s15 hcall => z_runV hC (pc := 17) zcX3 2 ha12 (m_X3_swap X.g a13 l1 l2 s10 s15 v14 hcall) (lw_V q1855 q1856 q1857 q99 q1858) hdV_X3_swap ⟨(Nat.le_of_ble_eq_true rfl), (Nat.le_of_ble_eq_true rfl)⟩ rfl (Nat.le_of_ble_eq_true rfl) dX1_makespanAfter_17 rfl) (fun _ s15 hf => ?_)
  refine z_aload_n hC (pc := 20) dX1_makespanAfter_20 rfl 0 rfl ?_
  refine z_aload_n hC (pc := 21) dX1_makespanAfter_21 rfl 1 rfl ?_
  refine z_getR hC (pc := 22) in_X1 zcX1 2 (Nat.le_of_ble_eq_true rfl) (zLk.o hC q393) zsm dX1_makespanAfter_22 hf (fun v16 hf => ?_)
  obtain ⟨fs17, ha18, hf⟩ := z_rcN hf
  refine z_cI (rest := []) hf (fun v19 s20 hcall => z_runV hC (pc := 25) zcX3 1 ha18 (m_X3_times X.g a13 v16 s15 s20 v19 hcall) (lw_V q1859 q1860 q1861 q99 q1862) hdV_X3_times ⟨(Nat.le_of_ble_eq_true rfl), (Nat.le_of_ble_eq_true rfl)⟩ rfl (Nat.le_of_ble_eq_true rfl) dX1_makespanAfter_25 rfl) (fun v19 s20 hf => ?_)
  refine z_if_eq hC (pc := 28) (tgt := 38) dX1_makespanAfter_28 rfl (fun c21 => ?_) (fun c21 => ?_)
  · have hf := zif_t hf c21
    refine z_iconst (v := (-1)) hC (pc := 38) dX1_makespanAfter_38 zki_m1 ?_
    exact z_ireturnX hC (pc := 39) hQ dX1_makespanAfter_39 hf
  · have hf := zif_f hf c21
    refine z_aload_n hC (pc := 31) dX1_makespanAfter_31 rfl 0 rfl ?_
    obtain ⟨fs22, ha23, hf⟩ := z_rcN hf
    refine z_cI (rest := []) hf (fun v24 s25 hcall => z_runV hC (pc := 32) zcX3 0 ha23 (m_X3_makespan X.g a13 s20 s25 v24 hcall) (lw_V q464 q465 q466 q99 q467) hdV_X3_makespan ⟨(Nat.le_of_ble_eq_true rfl), (Nat.le_of_ble_eq_true rfl)⟩ rfl (Nat.le_of_ble_eq_true rfl) dX1_makespanAfter_32 rfl) (fun v24 s25 hf => ?_)
    refine z_goto hC (pc := 35) (tgt := 39) dX1_makespanAfter_35 rfl ?_
    exact z_ireturnX hC (pc := 39) hQ dX1_makespanAfter_39 hf
/-! BlockingShop.deadlocks(II)Z -/
def f_X1_deadlocks (G : Nat → Nat) (l0 : Nat) (l1 : Int32) (l2 : Int32) (s0 : zS) : Option ((Int32 ⊕ (Nat × Nat)) × zS) :=
zo (zrc s0 (some l0) 0) fun _ =>
zx (f_X1_makespanAfter G l0 l1 l2 s0) (fun e s => some (.inr e, s)) fun v3 s4 =>
if v3 = (-1) then (zrnX .boolean 1 s4)
else (zrnX .boolean 0 s4)
set_option maxHeartbeats 4000000 in
theorem m_X1_deadlocks (Γ : zG) (l0 : Nat) (l1 : Int32) (l2 : Int32) (s0 s1 : zS) (r : (Int32 ⊕ (Nat × Nat))) (hf : f_X1_deadlocks Γ.1 l0 l1 l2 s0 = some (r, s1)) : ZM Γ yX1_deadlocks (ws_ yX1_deadlocks cX1_deadlocks 3 (some .boolean)) 12 287 [zr (some l0), zi l1, zi l2] s0 (zoI r, s1) := by
  refine ZM.of (own := RX1) (by decide) rfl (Nat.le_of_ble_eq_true rfl) ?_
  intro X hg hC hL hno hQ hin
  subst hg
  unfold f_X1_deadlocks at hf
  refine z_aload_n hC (pc := 0) dX1_deadlocks_0 rfl 0 rfl ?_
  refine z_iload_n hC (pc := 1) dX1_deadlocks_1 rfl 1 rfl ?_
  refine z_iload_n hC (pc := 2) dX1_deadlocks_2 rfl 2 rfl ?_
  obtain ⟨fs1, ha2, hf⟩ := z_rcN hf
  refine z_cXI (rest := []) hf (fun v3 s4 hcall => z_runV hC (pc := 3) zcX1 2 ha2 (m_X1_makespanAfter X.g l0 l1 l2 s0 s4 v3 hcall) (lw_V q2606 q2607 q2608 q95 q2609) hdV_X1_makespanAfter ⟨(Nat.le_of_ble_eq_true rfl), (Nat.le_of_ble_eq_true rfl)⟩ rfl (Nat.le_of_ble_eq_true rfl) dX1_deadlocks_3 rfl) (fun v3 s4 hf => ?_) (fun e s hf => z_outI hC hQ hno hf)
  refine z_iconst (v := (-1)) hC (pc := 6) dX1_deadlocks_6 zki_m1 ?_
  refine z_icmp_ne hC (pc := 7) (tgt := 14) dX1_deadlocks_7 rfl (fun c5 => ?_) (fun c5 => ?_)
  · have hf := zif_f hf c5
    refine z_iconst (v := 0) hC (pc := 14) dX1_deadlocks_14 zki_0 ?_
    exact z_zreturnX hC (pc := 15) hQ dX1_deadlocks_15 hf
  · have hf := zif_t hf c5
    refine z_iconst (v := 1) hC (pc := 10) dX1_deadlocks_10 zki_1 ?_
    refine z_goto hC (pc := 11) (tgt := 15) dX1_deadlocks_11 rfl ?_
    exact z_zreturnX hC (pc := 15) hQ dX1_deadlocks_15 hf
/-! BlockingShopLaw.deadlocks(LBlockingShop;II[J)I -/
def f_X0_deadlocks_b16 (G : Nat → Nat) (t0 : Int64) (t1 : Int32) (t2 : Option Nat) (s0 : zS) : Option (Int32 × zS) :=
zo (zsL G s0 t2 t1 t0) fun s1 =>
some (0, s1)
set_option maxHeartbeats 4000000 in
theorem w_X0_deadlocks_b16 {X : zX} (hC : ZC X RX0 cX0_deadlocks (some .int) 13 309) (hL : X.nL = 5) (hno : X.c.exceptionTable.toList = tableOf [(0, 17, 20, 18)]) {r : Int32} {sF : zS} (hQ : ZQ X (.inl (some (zi r)), sF)) (t0 : Int64) (t1 : Int32) (t2 : Option Nat) (s0 : zS) (hf : f_X0_deadlocks_b16 X.g.1 t0 t1 t2 s0 = some (r, sF)) : ZW X s0 16 [] [zj t0, zi t1, zr t2] := by
  unfold f_X0_deadlocks_b16 at hf
  refine z_last hC (pc := 16) dX0_deadlocks_16 hf (fun s1 hf => ?_)
  refine z_goto hC (pc := 17) (tgt := 24) dX0_deadlocks_17 rfl ?_
  refine z_iconst (v := 0) hC (pc := 24) dX0_deadlocks_24 zki_0 ?_
  exact z_ireturn hC (pc := 25) hQ dX0_deadlocks_25 hf
def f_X0_deadlocks (G : Nat → Nat) (l0 : Option Nat) (l1 : Int32) (l2 : Int32) (l3 : Option Nat) (s0 : zS) : Option (Int32 × zS) :=
zo (zrc s0 l0 0) fun a3 =>
zx (f_X1_deadlocks G a3 l1 l2 s0) (fun e s5 => if e.1 = 25 then (some (1, s5)) else none) fun v4 s5 =>
if v4 = 0 then (f_X0_deadlocks_b16 G 0 0 l3 s5)
else (f_X0_deadlocks_b16 G 1 0 l3 s5)
set_option maxHeartbeats 4000000 in
theorem m_X0_deadlocks (Γ : zG) (l0 : Option Nat) (l1 : Int32) (l2 : Int32) (l3 : Option Nat) (s0 s1 : zS) (r : Int32) (hf : f_X0_deadlocks Γ.1 l0 l1 l2 l3 s0 = some (r, s1)) : ZM Γ yX0_deadlocks (wsW_ yX0_deadlocks cX0_deadlocks 5 (some .int) [(0, 17, 20, 18)]) 13 309 [zr l0, zi l1, zi l2, zr l3] s0 (.inl (some (zi r)), s1) := by
  refine ZM.ofH (own := RX0) (by decide) rfl (Nat.le_of_ble_eq_true rfl) ?_
  intro X hg hC hL hno hQ hin
  subst hg
  unfold f_X0_deadlocks at hf
  refine z_aload_n hC (pc := 0) dX0_deadlocks_0 rfl 3 rfl ?_
  refine z_iconst (v := 0) hC (pc := 1) dX0_deadlocks_1 zki_0 ?_
  refine z_aload_n hC (pc := 2) dX0_deadlocks_2 rfl 0 rfl ?_
  refine z_iload_n hC (pc := 3) dX0_deadlocks_3 rfl 1 rfl ?_
  refine z_iload_n hC (pc := 4) dX0_deadlocks_4 rfl 2 rfl ?_
  obtain ⟨a3, fs1, rfl, ha2, hf⟩ := z_rcO hf
  refine z_cXI (rest := [zi 0, zr l3]) hf (fun v4 s5 hcall => z_runV hC (pc := 5) zcX1 2 ha2 (m_X1_deadlocks X.g a3 l1 l2 s0 s5 v4 hcall) (lw_V q2602 q2603 q2604 q95 q2605) hdV_X1_deadlocks ⟨(Nat.le_of_ble_eq_true rfl), (Nat.le_of_ble_eq_true rfl)⟩ rfl (Nat.le_of_ble_eq_true rfl) dX0_deadlocks_5 rfl) (fun v4 s5 hf => ?_) (fun e s5 hf => ?_)
  · skip
    refine z_if_eq hC (pc := 8) (tgt := 15) dX0_deadlocks_8 rfl (fun c6 => ?_) (fun c6 => ?_)
    · have hf := zif_t hf c6
      refine z_lconst (v := 0) hC (pc := 15) dX0_deadlocks_15 (by decide) ?_
      refine ZW.perm (lv' := []) [] rfl ?_
      exact w_X0_deadlocks_b16 hC hL hno hQ 0 0 l3 s5 hf
    · have hf := zif_f hf c6
      refine z_lconst (v := 1) hC (pc := 11) dX0_deadlocks_11 (by decide) ?_
      refine z_goto hC (pc := 12) (tgt := 16) dX0_deadlocks_12 rfl ?_
      refine ZW.perm (lv' := []) [] rfl ?_
      exact w_X0_deadlocks_b16 hC hL hno hQ 1 0 l3 s5 hf
  · skip
    by_cases c7 : e.1 = 25
    · have hf := zif_t hf c7
      rw [c7]
      refine z_catch hC zcE25 [] ⟨0, 17, 20, 18⟩ [] (hno.trans rfl) (fun z hz => nomatch hz) rfl (by decide) q2480 q506 ?_
      refine z_astore (lv' := [(4, zr (some (e.2))), (0, zr (some a3)), (1, zi l1), (2, zi l2), (3, zr l3)]) hC (pc := 20) hL dX0_deadlocks_20 (Nat.le_of_ble_eq_true rfl) rfl ?_
      refine z_iconst (v := 1) hC (pc := 22) dX0_deadlocks_22 zki_1 ?_
      exact z_ireturn hC (pc := 23) hQ dX0_deadlocks_23 hf
    · have hf := zif_f hf c7
      cases hf
/-! BlockingShop$Literal.of(LBlockingShop$Job;J)J -/
def f_X12_of (G : Nat → Nat) (l0 : Nat) (l1 : Option Nat) (l2 : Int64) (s0 : zS) : Option (Int64 × zS) :=
zo (zgL s0 (some l0) 10 0) fun v1 =>
some (v1, s0)
set_option maxHeartbeats 4000000 in
theorem m_X12_of (Γ : zG) (l0 : Nat) (l1 : Option Nat) (l2 : Int64) (s0 s1 : zS) (r : Int64) (hf : f_X12_of Γ.1 l0 l1 l2 s0 = some (r, s1)) : ZM Γ yX12_of (ws_ yX12_of cX12_of 4 (some .long)) 1 0 [zr (some l0), zr l1, zj l2] s0 (.inl (some (zj r)), s1) := by
  refine ZM.of (own := RX12) (by decide) rfl (Nat.le_of_ble_eq_true rfl) ?_
  intro X hg hC hL hno hQ hin
  subst hg
  unfold f_X12_of at hf
  refine ZW.perm (lv' := [(0, zr (some l0))]) [0] rfl ?_
  refine z_aload_n hC (pc := 0) dX12_of_0 rfl 0 rfl ?_
  refine z_getL hC (pc := 1) in_X12 zcX12 0 (Nat.le_of_ble_eq_true rfl) (zLk.o hC q2295) zsm dX12_of_1 hf (fun v1 hf => ?_)
  exact z_lreturn hC (pc := 4) hQ dX12_of_4 hf
/-! BlockingShop$Variable.of(LBlockingShop$Job;J)J -/
def f_X6_of_b93 (G : Nat → Nat) (l1 : Option Nat) (l2 : Int64) (l5 : Int32) (s0 : zS) : Option (Int64 × zS) :=
if l5 = 0 then (zo (zgI s0 l1 9 1) fun v2 =>
some ((v2.toInt64), s0)) else
if l5 = 1 then (zo (zgI s0 l1 9 2) fun v4 =>
some ((v4.toInt64), s0)) else
if l5 = 2 then (zo (zgI s0 l1 9 0) fun v6 =>
some ((v6.toInt64), s0)) else
(some (l2, s0))
set_option maxHeartbeats 4000000 in
theorem w_X6_of_b93 {X : zX} (hC : ZC X RX6 cX6_of (some .long) 5 90) (hL : X.nL = 6) (hno : ∀ x ∈ X.c.exceptionTable.toList, False) {r : Int64} {sF : zS} (hQ : ZQ X (.inl (some (zj r)), sF)) (l1 : Option Nat) (l2 : Int64) (l5 : Int32) (s0 : zS) (hf : f_X6_of_b93 X.g.1 l1 l2 l5 s0 = some (r, sF)) : ZW X s0 93 [(1, zr l1), (2, zj l2), (5, zi l5)] [] := by
  unfold f_X6_of_b93 at hf
  refine z_iload hC (pc := 93) dX6_of_93 2 rfl ?_
  by_cases c1 : l5 = 0
  · have hf := zif_t hf c1
    refine z_table hC (pc := 95) (tgt := 120) dX6_of_95 c1 (by decide) (by decide) rfl rfl ?_
    refine z_aload_n hC (pc := 120) dX6_of_120 rfl 0 rfl ?_
    refine z_getI hC (pc := 121) in_X11 zcX11 1 (Nat.le_of_ble_eq_true rfl) (zLk.n hC q2171) zsm dX6_of_121 hf (fun v2 hf => ?_)
    refine z_i2l hC (pc := 124) dX6_of_124 ?_
    exact z_lreturn hC (pc := 125) hQ dX6_of_125 hf
  · have hf := zif_f hf c1
    by_cases c3 : l5 = 1
    · have hf := zif_t hf c3
      refine z_table hC (pc := 95) (tgt := 126) dX6_of_95 c3 (by decide) (by decide) rfl rfl ?_
      refine z_aload_n hC (pc := 126) dX6_of_126 rfl 0 rfl ?_
      refine z_getI hC (pc := 127) in_X11 zcX11 2 (Nat.le_of_ble_eq_true rfl) (zLk.n hC q2173) zsm dX6_of_127 hf (fun v4 hf => ?_)
      refine z_i2l hC (pc := 130) dX6_of_130 ?_
      exact z_lreturn hC (pc := 131) hQ dX6_of_131 hf
    · have hf := zif_f hf c3
      by_cases c5 : l5 = 2
      · have hf := zif_t hf c5
        refine z_table hC (pc := 95) (tgt := 132) dX6_of_95 c5 (by decide) (by decide) rfl rfl ?_
        refine z_aload_n hC (pc := 132) dX6_of_132 rfl 0 rfl ?_
        refine z_getI hC (pc := 133) in_X11 zcX11 0 (Nat.le_of_ble_eq_true rfl) (zLk.n hC q2167) zsm dX6_of_133 hf (fun v6 hf => ?_)
        refine z_i2l hC (pc := 136) dX6_of_136 ?_
        exact z_lreturn hC (pc := 137) hQ dX6_of_137 hf
      · have hf := zif_f hf c5
        have ec1 : (l5 : Int32).toInt ≠ (0 : Int) := fun z => c1 (Int32.toInt_inj.mp (z.trans (by decide)))
        have ec3 : (l5 : Int32).toInt ≠ (1 : Int) := fun z => c3 (Int32.toInt_inj.mp (z.trans (by decide)))
        have ec5 : (l5 : Int32).toInt ≠ (2 : Int) := fun z => c5 (Int32.toInt_inj.mp (z.trans (by decide)))
        refine z_tableD hC (pc := 95) (tgt := 138) dX6_of_95 (by omega) rfl ?_
        refine z_lload_n hC (pc := 138) dX6_of_138 rfl 1 rfl ?_
        exact z_lreturn hC (pc := 139) hQ dX6_of_139 hf
def f_X6_of (G : Nat → Nat) (l0 : Nat) (l1 : Option Nat) (l2 : Int64) (s0 : zS) : Option (Int64 × zS) :=
zo (zgR s0 (some l0) 4 0) fun v1 =>
zo (zrc s0 v1 17) fun a4 =>
zb (f_J12_hashCode G a4 s0) fun v5 s6 =>
if v5 = (-791592328) then (zo (zrc s6 (some a4) 17) fun _ =>
zb (f_J12_equals G a4 (some (G 17)) s6) fun v10 s11 =>
if v10 = 0 then (f_X6_of_b93 G l1 l2 (-1) s11)
else (f_X6_of_b93 G l1 l2 1 s11)) else
if v5 = 99828 then (zo (zrc s6 (some a4) 17) fun _ =>
zb (f_J12_equals G a4 (some (G 16)) s6) fun v16 s17 =>
if v16 = 0 then (f_X6_of_b93 G l1 l2 (-1) s17)
else (f_X6_of_b93 G l1 l2 0 s17)) else
if v5 = 1090594823 then (zo (zrc s6 (some a4) 17) fun _ =>
zb (f_J12_equals G a4 (some (G 18)) s6) fun v22 s23 =>
if v22 = 0 then (f_X6_of_b93 G l1 l2 (-1) s23)
else (f_X6_of_b93 G l1 l2 2 s23)) else
(f_X6_of_b93 G l1 l2 (-1) s6)
set_option maxHeartbeats 4000000 in
theorem m_X6_of (Γ : zG) (l0 : Nat) (l1 : Option Nat) (l2 : Int64) (s0 s1 : zS) (r : Int64) (hf : f_X6_of Γ.1 l0 l1 l2 s0 = some (r, s1)) : ZM Γ yX6_of (ws_ yX6_of cX6_of 6 (some .long)) 5 90 [zr (some l0), zr l1, zj l2] s0 (.inl (some (zj r)), s1) := by
  refine ZM.of (own := RX6) (by decide) rfl (Nat.le_of_ble_eq_true rfl) ?_
  intro X hg hC hL hno hQ hin
  subst hg
  unfold f_X6_of at hf
  refine z_aload_n hC (pc := 0) dX6_of_0 rfl 0 rfl ?_
  refine z_getR hC (pc := 1) in_X6 zcX6 0 (Nat.le_of_ble_eq_true rfl) (zLk.o hC q303) zsm dX6_of_1 hf (fun v1 hf => ?_)
  refine z_astore (lv' := [(4, zr v1), (0, zr (some l0)), (1, zr l1), (2, zj l2)]) hC (pc := 4) hL dX6_of_4 (Nat.le_of_ble_eq_true rfl) rfl ?_
  refine z_iconst (v := (-1)) hC (pc := 6) dX6_of_6 zki_m1 ?_
  refine z_istore (lv' := [(5, zi (-1)), (4, zr v1), (0, zr (some l0)), (1, zr l1), (2, zj l2)]) hC (pc := 7) hL dX6_of_7 (Nat.le_of_ble_eq_true rfl) rfl ?_
  refine z_aload hC (pc := 9) dX6_of_9 1 rfl ?_
  obtain ⟨a4, fs2, rfl, ha3, hf⟩ := z_rcO hf
  refine z_cI (rest := []) hf (fun v5 s6 hcall => z_runV hC (pc := 11) zcJ12 0 ha3 (m_J12_hashCode X.g a4 s0 s6 v5 hcall) (lw_V q905 q906 q907 q116 q908) hdV_J12_hashCode ⟨(Nat.le_of_ble_eq_true rfl), (Nat.le_of_ble_eq_true rfl)⟩ rfl (Nat.le_of_ble_eq_true rfl) dX6_of_11 rfl) (fun v5 s6 hf => ?_)
  by_cases c7 : v5 = (-791592328)
  · have hf := zif_t hf c7
    refine z_look hC (pc := 14) (tgt := 64) dX6_of_14 c7 (by decide) rfl rfl ?_
    refine z_aload hC (pc := 64) dX6_of_64 1 rfl ?_
    refine z_lit (k := 17) hC (pc := 66) (List.mem_of_getElem? (i := 2) rfl) dX6_of_66 ?_
    obtain ⟨fs8, ha9, hf⟩ := z_rcN hf
    refine z_cI (rest := []) hf (fun v10 s11 hcall => z_runV hC (pc := 68) zcJ12 1 ha9 (m_J12_equals X.g a4 (some (X.g.1 17)) s6 s11 v10 hcall) (lw_V q967 q968 q969 q116 q970) hdV_J12_equals ⟨(Nat.le_of_ble_eq_true rfl), (Nat.le_of_ble_eq_true rfl)⟩ rfl (Nat.le_of_ble_eq_true rfl) dX6_of_68 rfl) (fun v10 s11 hf => ?_)
    refine z_if_eq hC (pc := 71) (tgt := 93) dX6_of_71 rfl (fun c12 => ?_) (fun c12 => ?_)
    · have hf := zif_t hf c12
      refine ZW.perm (lv' := [(1, zr l1), (2, zj l2), (5, zi (-1))]) [3, 4, 0] rfl ?_
      exact w_X6_of_b93 hC hL hno hQ l1 l2 (-1) s11 hf
    · have hf := zif_f hf c12
      refine z_iconst (v := 1) hC (pc := 74) dX6_of_74 zki_1 ?_
      refine z_istore (lv' := [(5, zi 1), (4, zr (some a4)), (0, zr (some l0)), (1, zr l1), (2, zj l2)]) hC (pc := 75) hL dX6_of_75 (Nat.le_of_ble_eq_true rfl) rfl ?_
      refine z_goto hC (pc := 77) (tgt := 93) dX6_of_77 rfl ?_
      refine ZW.perm (lv' := [(1, zr l1), (2, zj l2), (5, zi 1)]) [3, 4, 0] rfl ?_
      exact w_X6_of_b93 hC hL hno hQ l1 l2 1 s11 hf
  · have hf := zif_f hf c7
    by_cases c13 : v5 = 99828
    · have hf := zif_t hf c13
      refine z_look hC (pc := 14) (tgt := 48) dX6_of_14 c13 (by decide) rfl rfl ?_
      refine z_aload hC (pc := 48) dX6_of_48 1 rfl ?_
      refine z_lit (k := 16) hC (pc := 50) (List.mem_of_getElem? (i := 1) rfl) dX6_of_50 ?_
      obtain ⟨fs14, ha15, hf⟩ := z_rcN hf
      refine z_cI (rest := []) hf (fun v16 s17 hcall => z_runV hC (pc := 52) zcJ12 1 ha15 (m_J12_equals X.g a4 (some (X.g.1 16)) s6 s17 v16 hcall) (lw_V q967 q968 q969 q116 q970) hdV_J12_equals ⟨(Nat.le_of_ble_eq_true rfl), (Nat.le_of_ble_eq_true rfl)⟩ rfl (Nat.le_of_ble_eq_true rfl) dX6_of_52 rfl) (fun v16 s17 hf => ?_)
      refine z_if_eq hC (pc := 55) (tgt := 93) dX6_of_55 rfl (fun c18 => ?_) (fun c18 => ?_)
      · have hf := zif_t hf c18
        refine ZW.perm (lv' := [(1, zr l1), (2, zj l2), (5, zi (-1))]) [3, 4, 0] rfl ?_
        exact w_X6_of_b93 hC hL hno hQ l1 l2 (-1) s17 hf
      · have hf := zif_f hf c18
        refine z_iconst (v := 0) hC (pc := 58) dX6_of_58 zki_0 ?_
        refine z_istore (lv' := [(5, zi 0), (4, zr (some a4)), (0, zr (some l0)), (1, zr l1), (2, zj l2)]) hC (pc := 59) hL dX6_of_59 (Nat.le_of_ble_eq_true rfl) rfl ?_
        refine z_goto hC (pc := 61) (tgt := 93) dX6_of_61 rfl ?_
        refine ZW.perm (lv' := [(1, zr l1), (2, zj l2), (5, zi 0)]) [3, 4, 0] rfl ?_
        exact w_X6_of_b93 hC hL hno hQ l1 l2 0 s17 hf
    · have hf := zif_f hf c13
      by_cases c19 : v5 = 1090594823
      · have hf := zif_t hf c19
        refine z_look hC (pc := 14) (tgt := 80) dX6_of_14 c19 (by decide) rfl rfl ?_
        refine z_aload hC (pc := 80) dX6_of_80 1 rfl ?_
        refine z_lit (k := 18) hC (pc := 82) (List.mem_of_getElem? (i := 3) rfl) dX6_of_82 ?_
        obtain ⟨fs20, ha21, hf⟩ := z_rcN hf
        refine z_cI (rest := []) hf (fun v22 s23 hcall => z_runV hC (pc := 84) zcJ12 1 ha21 (m_J12_equals X.g a4 (some (X.g.1 18)) s6 s23 v22 hcall) (lw_V q967 q968 q969 q116 q970) hdV_J12_equals ⟨(Nat.le_of_ble_eq_true rfl), (Nat.le_of_ble_eq_true rfl)⟩ rfl (Nat.le_of_ble_eq_true rfl) dX6_of_84 rfl) (fun v22 s23 hf => ?_)
        refine z_if_eq hC (pc := 87) (tgt := 93) dX6_of_87 rfl (fun c24 => ?_) (fun c24 => ?_)
        · have hf := zif_t hf c24
          refine ZW.perm (lv' := [(1, zr l1), (2, zj l2), (5, zi (-1))]) [3, 4, 0] rfl ?_
          exact w_X6_of_b93 hC hL hno hQ l1 l2 (-1) s23 hf
        · have hf := zif_f hf c24
          refine z_iconst (v := 2) hC (pc := 90) dX6_of_90 zki_2 ?_
          refine z_istore (lv' := [(5, zi 2), (4, zr (some a4)), (0, zr (some l0)), (1, zr l1), (2, zj l2)]) hC (pc := 91) hL dX6_of_91 (Nat.le_of_ble_eq_true rfl) rfl ?_
          refine ZW.perm (lv' := [(1, zr l1), (2, zj l2), (5, zi 2)]) [3, 4, 0] rfl ?_
          exact w_X6_of_b93 hC hL hno hQ l1 l2 2 s23 hf
      · have hf := zif_f hf c19
        have ec7 : (v5 : Int32).toInt ≠ ((-791592328) : Int) := fun z => c7 (Int32.toInt_inj.mp (z.trans (by decide)))
        have ec13 : (v5 : Int32).toInt ≠ (99828 : Int) := fun z => c13 (Int32.toInt_inj.mp (z.trans (by decide)))
        have ec19 : (v5 : Int32).toInt ≠ (1090594823 : Int) := fun z => c19 (Int32.toInt_inj.mp (z.trans (by decide)))
        have hz : Op.lookupswitch.offset [((-791592328), 50), (99828, 34), (1090594823, 66)] (79) (v5 : Int32).toInt = (79) := by rw [Op.lookupswitch.offset_cons, if_neg (Ne.symm ec7), Op.lookupswitch.offset_cons, if_neg (Ne.symm ec13), Op.lookupswitch.offset_cons, if_neg (Ne.symm ec19)]; rfl
        refine z_lookD hC (pc := 14) (tgt := 93) dX6_of_14 (by decide) hz rfl ?_
        refine ZW.perm (lv' := [(1, zr l1), (2, zj l2), (5, zi (-1))]) [3, 4, 0] rfl ?_
        exact w_X6_of_b93 hC hL hno hQ l1 l2 (-1) s6 hf
/-! BlockingShop$Operation.of(LBlockingShop$Job;J)J -/
def f_X13_of_b89 (G : Nat → Nat) (kN : Option Nat → Option Nat → Int64 → zS → Option (Int64 × zS)) (t0 : Int64) (s0 : zS) : Option (Int64 × zS) :=
some ((if (if t0 < 1000000 then t0 else 1000000) < (-1000000) then (-1000000) else (if t0 < 1000000 then t0 else 1000000)), s0)
set_option maxHeartbeats 4000000 in
theorem w_X13_of_b89 {X : zX} (kN : Option Nat → Option Nat → Int64 → zS → Option (Int64 × zS)) (frK loK : Nat) (hkN : ∀ r j c s0 v s1, kN r j c s0 = some (v, s1) → ZNode X.g frK loK r j c s0 v s1) (hC : ZC X RX13 cX13_of (some .long) (frK + 1) (loK + 31)) (hL : X.nL = 10) (hno : ∀ x ∈ X.c.exceptionTable.toList, False) {r : Int64} {sF : zS} (hQ : ZQ X (.inl (some (zj r)), sF)) (t0 : Int64) (s0 : zS) (hf : f_X13_of_b89 X.g.1 kN t0 s0 = some (r, sF)) : ZW X s0 89 [] [zj t0] := by
  unfold f_X13_of_b89 at hf
  refine z_lstore (lv' := [(8, zj t0)]) hC (pc := 89) hL dX13_of_89 (Nat.le_of_ble_eq_true rfl) rfl ?_
  refine z_ldc2 (v := (-1000000)) hC (pc := 91) q977 dX13_of_91 ?_
  refine z_ldc2 (v := 1000000) hC (pc := 94) q978 dX13_of_94 ?_
  refine z_lload hC (pc := 97) dX13_of_97 0 rfl ?_
  refine z_mminL hC (pc := 99) q979 q980 q119 q981 (by omega) (by simp [zc] <;> omega) dX13_of_99 ?_
  refine z_mmaxL hC (pc := 102) q982 q983 q119 q984 (by omega) (by simp [zc] <;> omega) dX13_of_102 ?_
  exact z_lreturn hC (pc := 105) hQ dX13_of_105 hf
def f_X13_of (G : Nat → Nat) (kN : Option Nat → Option Nat → Int64 → zS → Option (Int64 × zS)) (l0 : Nat) (l1 : Option Nat) (l2 : Int64) (s0 : zS) : Option (Int64 × zS) :=
zo (zgR s0 (some l0) 11 1) fun v1 =>
zb (kN v1 l1 l2 s0) fun v2 s3 =>
zo (zgR s3 (some l0) 11 2) fun v4 =>
zb (kN v4 l1 l2 s3) fun v5 s6 =>
zo (zgI s6 (some l0) 11 0) fun v7 =>
if v7 = 43 then (f_X13_of_b89 G kN (v2 + v5) s6)
else (zo (zgI s6 (some l0) 11 0) fun v9 =>
if v9 = 45 then (f_X13_of_b89 G kN (v2 - v5) s6)
else (zo (zgI s6 (some l0) 11 0) fun v11 =>
if v11 = 42 then (f_X13_of_b89 G kN (v2 * v5) s6)
else (if (lg_cmp v5 0) = 0 then (f_X13_of_b89 G kN 0 s6)
else (if v5 = 0 then none else
f_X13_of_b89 G kN (v2 / v5) s6))))
set_option maxHeartbeats 4000000 in
theorem m_X13_of (Γ : zG) (kN : Option Nat → Option Nat → Int64 → zS → Option (Int64 × zS)) (frK loK : Nat) (hkN : ∀ r j c s0 v s1, kN r j c s0 = some (v, s1) → ZNode Γ frK loK r j c s0 v s1) (l0 : Nat) (l1 : Option Nat) (l2 : Int64) (s0 s1 : zS) (r : Int64) (hf : f_X13_of Γ.1 kN l0 l1 l2 s0 = some (r, s1)) : ZM Γ yX13_of (ws_ yX13_of cX13_of 10 (some .long)) (frK + 1) (loK + 31) [zr (some l0), zr l1, zj l2] s0 (.inl (some (zj r)), s1) := by
  refine ZM.of (own := RX13) (by decide) rfl (Nat.le_of_ble_eq_true rfl) ?_
  intro X hg hC hL hno hQ hin
  subst hg
  unfold f_X13_of at hf
  refine z_aload_n hC (pc := 0) dX13_of_0 rfl 0 rfl ?_
  refine z_getR hC (pc := 1) in_X13 zcX13 1 (Nat.le_of_ble_eq_true rfl) (zLk.o hC q2439) zsm dX13_of_1 hf (fun v1 hf => ?_)
  refine z_aload_n hC (pc := 4) dX13_of_4 rfl 1 rfl ?_
  refine z_lload_n hC (pc := 5) dX13_of_5 rfl 2 rfl ?_
  refine z_cL (rest := []) hf (fun v2 s3 hcall => ?_) (fun v2 s3 hf => ?_)
  · obtain ⟨aN, fsN, hN, h9⟩ := hkN _ _ _ _ _ _ hcall
    subst hN
    rcases h9 with ⟨haN, fr9, lo9, hfr9, hlo9, hm⟩ | ⟨haN, fr9, lo9, hfr9, hlo9, hm⟩ | ⟨haN, fr9, lo9, hfr9, hlo9, hm⟩
    · exact z_runA (owner := "BlockingShop$Node") (x := ⟨"BlockingShop$Node", "of", "(LBlockingShop$Job;J)J"⟩) hC (pc := 6) zcX6 2 haN hm (lw_app (zm5 q902 q895 q985 q903 q106) (lw_meth q904)) q894 (by decide +kernel) ⟨by omega, by omega⟩ rfl (Nat.le_of_ble_eq_true rfl) dX13_of_6 rfl
    · exact z_runA (owner := "BlockingShop$Node") (x := ⟨"BlockingShop$Node", "of", "(LBlockingShop$Job;J)J"⟩) hC (pc := 6) zcX12 2 haN hm (lw_app (zm5 q902 q895 q896 q897 q138) (lw_meth q898)) q894 (by decide +kernel) ⟨by omega, by omega⟩ rfl (Nat.le_of_ble_eq_true rfl) dX13_of_6 rfl
    · exact z_runA (owner := "BlockingShop$Node") (x := ⟨"BlockingShop$Node", "of", "(LBlockingShop$Job;J)J"⟩) hC (pc := 6) zcX13 2 haN hm (lw_app (zm5 q902 q895 q899 q900 q144) (lw_meth q901)) q894 (by decide +kernel) ⟨by omega, by omega⟩ rfl (Nat.le_of_ble_eq_true rfl) dX13_of_6 rfl
  refine z_lstore (lv' := [(4, zj v2), (0, zr (some l0)), (1, zr l1), (2, zj l2)]) hC (pc := 9) hL dX13_of_9 (Nat.le_of_ble_eq_true rfl) rfl ?_
  refine z_aload_n hC (pc := 11) dX13_of_11 rfl 1 rfl ?_
  refine z_getR hC (pc := 12) in_X13 zcX13 2 (Nat.le_of_ble_eq_true rfl) (zLk.o hC q2440) zsm dX13_of_12 hf (fun v4 hf => ?_)
  refine z_aload_n hC (pc := 15) dX13_of_15 rfl 2 rfl ?_
  refine z_lload_n hC (pc := 16) dX13_of_16 rfl 3 rfl ?_
  refine z_cL (rest := []) hf (fun v5 s6 hcall => ?_) (fun v5 s6 hf => ?_)
  · obtain ⟨aN, fsN, hN, h9⟩ := hkN _ _ _ _ _ _ hcall
    subst hN
    rcases h9 with ⟨haN, fr9, lo9, hfr9, hlo9, hm⟩ | ⟨haN, fr9, lo9, hfr9, hlo9, hm⟩ | ⟨haN, fr9, lo9, hfr9, hlo9, hm⟩
    · exact z_runA (owner := "BlockingShop$Node") (x := ⟨"BlockingShop$Node", "of", "(LBlockingShop$Job;J)J"⟩) hC (pc := 17) zcX6 2 haN hm (lw_app (zm5 q902 q895 q985 q903 q106) (lw_meth q904)) q894 (by decide +kernel) ⟨by omega, by omega⟩ rfl (Nat.le_of_ble_eq_true rfl) dX13_of_17 rfl
    · exact z_runA (owner := "BlockingShop$Node") (x := ⟨"BlockingShop$Node", "of", "(LBlockingShop$Job;J)J"⟩) hC (pc := 17) zcX12 2 haN hm (lw_app (zm5 q902 q895 q896 q897 q138) (lw_meth q898)) q894 (by decide +kernel) ⟨by omega, by omega⟩ rfl (Nat.le_of_ble_eq_true rfl) dX13_of_17 rfl
    · exact z_runA (owner := "BlockingShop$Node") (x := ⟨"BlockingShop$Node", "of", "(LBlockingShop$Job;J)J"⟩) hC (pc := 17) zcX13 2 haN hm (lw_app (zm5 q902 q895 q899 q900 q144) (lw_meth q901)) q894 (by decide +kernel) ⟨by omega, by omega⟩ rfl (Nat.le_of_ble_eq_true rfl) dX13_of_17 rfl
  refine z_lstore (lv' := [(6, zj v5), (4, zj v2), (0, zr (some l0)), (1, zr l1), (2, zj l2)]) hC (pc := 20) hL dX13_of_20 (Nat.le_of_ble_eq_true rfl) rfl ?_
  refine z_aload_n hC (pc := 22) dX13_of_22 rfl 2 rfl ?_
  refine z_getI hC (pc := 23) in_X13 zcX13 0 (Nat.le_of_ble_eq_true rfl) (zLk.o hC q2438) zsm dX13_of_23 hf (fun v7 hf => ?_)
  refine z_bipush (v := 43) hC (pc := 26) dX13_of_26 zkb_43 ?_
  refine z_icmp_ne hC (pc := 28) (tgt := 39) dX13_of_28 rfl (fun c8 => ?_) (fun c8 => ?_)
  · have hf := zif_f hf c8
    refine z_aload_n hC (pc := 39) dX13_of_39 rfl 2 rfl ?_
    refine z_getI hC (pc := 40) in_X13 zcX13 0 (Nat.le_of_ble_eq_true rfl) (zLk.o hC q2438) zsm dX13_of_40 hf (fun v9 hf => ?_)
    refine z_bipush (v := 45) hC (pc := 43) dX13_of_43 zkb_45 ?_
    refine z_icmp_ne hC (pc := 45) (tgt := 56) dX13_of_45 rfl (fun c10 => ?_) (fun c10 => ?_)
    · have hf := zif_f hf c10
      refine z_aload_n hC (pc := 56) dX13_of_56 rfl 2 rfl ?_
      refine z_getI hC (pc := 57) in_X13 zcX13 0 (Nat.le_of_ble_eq_true rfl) (zLk.o hC q2438) zsm dX13_of_57 hf (fun v11 hf => ?_)
      refine z_bipush (v := 42) hC (pc := 60) dX13_of_60 zkb_42 ?_
      refine z_icmp_ne hC (pc := 62) (tgt := 73) dX13_of_62 rfl (fun c12 => ?_) (fun c12 => ?_)
      · have hf := zif_f hf c12
        refine z_lload hC (pc := 73) dX13_of_73 0 rfl ?_
        refine z_lconst (v := 0) hC (pc := 75) dX13_of_75 (by decide) ?_
        refine z_lcmp hC (pc := 76) dX13_of_76 ?_
        refine z_if_ne hC (pc := 77) (tgt := 84) dX13_of_77 rfl (fun c13 => ?_) (fun c13 => ?_)
        · have hf := zif_f hf c13
          refine z_lload hC (pc := 84) dX13_of_84 1 rfl ?_
          refine z_lload hC (pc := 86) dX13_of_86 0 rfl ?_
          by_cases c14 : v5 = 0
          · exact absurd (zif_t hf c14) (fun z => nomatch z)
          have hf := zif_f hf c14
          refine z_ldiv hC (pc := 88) dX13_of_88 c14 ?_
          refine ZW.perm (lv' := []) [] rfl ?_
          exact w_X13_of_b89 kN frK loK hkN hC hL hno hQ (v2 / v5) s6 hf
        · have hf := zif_t hf c13
          refine z_lconst (v := 0) hC (pc := 80) dX13_of_80 (by decide) ?_
          refine z_goto hC (pc := 81) (tgt := 89) dX13_of_81 rfl ?_
          refine ZW.perm (lv' := []) [] rfl ?_
          exact w_X13_of_b89 kN frK loK hkN hC hL hno hQ 0 s6 hf
      · have hf := zif_t hf c12
        refine z_lload hC (pc := 65) dX13_of_65 1 rfl ?_
        refine z_lload hC (pc := 67) dX13_of_67 0 rfl ?_
        refine z_lmul hC (pc := 69) dX13_of_69 ?_
        refine z_goto hC (pc := 70) (tgt := 89) dX13_of_70 rfl ?_
        refine ZW.perm (lv' := []) [] rfl ?_
        exact w_X13_of_b89 kN frK loK hkN hC hL hno hQ (v2 * v5) s6 hf
    · have hf := zif_t hf c10
      refine z_lload hC (pc := 48) dX13_of_48 1 rfl ?_
      refine z_lload hC (pc := 50) dX13_of_50 0 rfl ?_
      refine z_lsub hC (pc := 52) dX13_of_52 ?_
      refine z_goto hC (pc := 53) (tgt := 89) dX13_of_53 rfl ?_
      refine ZW.perm (lv' := []) [] rfl ?_
      exact w_X13_of_b89 kN frK loK hkN hC hL hno hQ (v2 - v5) s6 hf
  · have hf := zif_t hf c8
    refine z_lload hC (pc := 31) dX13_of_31 1 rfl ?_
    refine z_lload hC (pc := 33) dX13_of_33 0 rfl ?_
    refine z_ladd hC (pc := 35) dX13_of_35 ?_
    refine z_goto hC (pc := 36) (tgt := 89) dX13_of_36 rfl ?_
    refine ZW.perm (lv' := []) [] rfl ?_
    exact w_X13_of_b89 kN frK loK hkN hC hL hno hQ (v2 + v5) s6 hf
/-- a node's value, to a depth -/
def f_Node (G : Nat → Nat) : Nat → Option Nat → Option Nat → Int64 → zS → Option (Int64 × zS)
  | 0 => fun _ _ _ _ => none
  | d + 1 => fun r j c s0 => match r with
    | none => none
    | some a => match s0.1 a with
      | some (.inr (ci, _)) => if ci = 4 then f_X6_of G a j c s0 else if ci = 10 then f_X12_of G a j c s0 else if ci = 11 then f_X13_of G (f_Node G d) a j c s0 else none
      | _ => none
theorem m_Node (Γ : zG) : ∀ (d : Nat) (r j : Option Nat) (c : Int64) (s0 : zS) (v : Int64) (s1 : zS) (_ : f_Node Γ.1 d r j c s0 = some (v, s1)), ZNode Γ (d * 3 + 10) (d * 60 + 100) r j c s0 v s1 := by
  intro d
  induction d with
  | zero => intro r j c s0 v s1 hf; exact absurd (show (none : Option (Int64 × zS)) = some (v, s1) from hf) (fun z => nomatch z)
  | succ d ih =>
    intro r j c s0 v s1 hf
    cases r with
    | none => exact absurd (show (none : Option (Int64 × zS)) = some (v, s1) from hf) (fun z => nomatch z)
    | some a =>
      have hf : (match s0.1 a with
        | some (.inr (ci, _)) => if ci = 4 then f_X6_of Γ.1 a j c s0 else if ci = 10 then f_X12_of Γ.1 a j c s0 else if ci = 11 then f_X13_of Γ.1 (f_Node Γ.1 d) a j c s0 else none
        | _ => none) = some (v, s1) := hf
      split at hf
      · rename_i ci fs hci
        by_cases e0 : ci = 4
        · subst e0
          have hf := zif_t hf rfl
          exact ⟨a, fs, rfl, Or.inl ⟨hci, _, _, by omega, by omega, m_X6_of Γ a j c s0 s1 v hf⟩⟩
        · have hf := zif_f hf e0
          by_cases e1 : ci = 10
          · subst e1
            have hf := zif_t hf rfl
            exact ⟨a, fs, rfl, Or.inr (Or.inl ⟨hci, _, _, by omega, by omega, m_X12_of Γ a j c s0 s1 v hf⟩)⟩
          · have hf := zif_f hf e1
            by_cases e2 : ci = 11
            · subst e2
              have hf := zif_t hf rfl
              exact ⟨a, fs, rfl, Or.inr (Or.inr ⟨hci, _, _, by omega, by omega, m_X13_of Γ (f_Node Γ.1 d) (d * 3 + 10) (d * 60 + 100) (fun r j c s0 v s1 h => ih r j c s0 v s1 h) a j c s0 s1 v hf⟩)⟩
            · have hf := zif_f hf e2
              cases hf
      · cases hf
/-! BlockingShop$Plan.jobCost(I)I -/
def f_X3_jobCost (G : Nat → Nat) (l0 : Nat) (l1 : Int32) (s0 : zS) : Option (Int32 × zS) :=
zo (zgR s0 (some l0) 2 0) fun v1 =>
zo (zgR s0 v1 3 5) fun v2 =>
zo (zgR s0 (some l0) 2 0) fun v3 =>
zo (zgR s0 v3 3 3) fun v4 =>
zo (zrc s0 v4 15) fun a7 =>
zb (f_J5_get G a7 l1 s0) fun v8 s9 =>
zo (zcst s9 v8 9) fun _ =>
zo (zrc s9 (some l0) 2) fun _ =>
zb (f_X3_completion G l0 l1 s9) fun v12 s13 =>
zb (f_Node G 1000 v2 v8 (v12.toInt64) s13) fun v14 s15 =>
some ((v14.toInt32), s15)
set_option maxHeartbeats 4000000 in
theorem m_X3_jobCost (Γ : zG) (l0 : Nat) (l1 : Int32) (s0 s1 : zS) (r : Int32) (hf : f_X3_jobCost Γ.1 l0 l1 s0 = some (r, s1)) : ZM Γ yX3_jobCost (ws_ yX3_jobCost cX3_jobCost 2 (some .int)) 3011 60131 [zr (some l0), zi l1] s0 (.inl (some (zi r)), s1) := by
  refine ZM.of (own := RX3) (by decide) rfl (Nat.le_of_ble_eq_true rfl) ?_
  intro X hg hC hL hno hQ hin
  subst hg
  unfold f_X3_jobCost at hf
  refine z_aload_n hC (pc := 0) dX3_jobCost_0 rfl 0 rfl ?_
  refine z_getR hC (pc := 1) in_X3 zcX3 0 (Nat.le_of_ble_eq_true rfl) (zLk.o hC q364) zsm dX3_jobCost_1 hf (fun v1 hf => ?_)
  refine z_getR hC (pc := 4) in_X4 zcX4 5 (Nat.le_of_ble_eq_true rfl) (zLk.n hC q340) zsm dX3_jobCost_4 hf (fun v2 hf => ?_)
  refine z_aload_n hC (pc := 7) dX3_jobCost_7 rfl 0 rfl ?_
  refine z_getR hC (pc := 8) in_X3 zcX3 0 (Nat.le_of_ble_eq_true rfl) (zLk.o hC q364) zsm dX3_jobCost_8 hf (fun v3 hf => ?_)
  refine z_getR hC (pc := 11) in_X4 zcX4 3 (Nat.le_of_ble_eq_true rfl) (zLk.n hC q333) zsm dX3_jobCost_11 hf (fun v4 hf => ?_)
  refine z_iload_n hC (pc := 14) dX3_jobCost_14 rfl 1 rfl ?_
  obtain ⟨a7, fs5, rfl, ha6, hf⟩ := z_rcO hf
  refine z_cR5 (rest := [zr v2]) hf (fun v8 s9 hcall => z_runF hC (pc := 15) zcJ5 1 ha6 (m_J5_get X.g a7 l1 s0 s9 v8 hcall) (lw_app (zm4 q475 q478 q480 q104) (lw_meth q482)) q477 q476 q481 q479 q434 (by decide +kernel) ⟨(Nat.le_of_ble_eq_true rfl), (Nat.le_of_ble_eq_true rfl)⟩ rfl (Nat.le_of_ble_eq_true rfl) dX3_jobCost_15 rfl) (fun v8 s9 hf => ?_)
  refine z_cast hC (pc := 20) zcX11 q875 (Or.inl rfl) dX3_jobCost_20 hf (fun hf => ?_)
  refine z_aload_n hC (pc := 23) dX3_jobCost_23 rfl 0 rfl ?_
  refine z_iload_n hC (pc := 24) dX3_jobCost_24 rfl 1 rfl ?_
  obtain ⟨fs10, ha11, hf⟩ := z_rcN hf
  refine z_cI (rest := [zr v8, zr v2]) hf (fun v12 s13 hcall => z_runV hC (pc := 25) zcX3 1 ha11 (m_X3_completion X.g l0 l1 s9 s13 v12 hcall) (lw_V q470 q471 q472 q99 q473) hdV_X3_completion ⟨(Nat.le_of_ble_eq_true rfl), (Nat.le_of_ble_eq_true rfl)⟩ rfl (Nat.le_of_ble_eq_true rfl) dX3_jobCost_25 rfl) (fun v12 s13 hf => ?_)
  refine z_i2l hC (pc := 28) dX3_jobCost_28 ?_
  refine z_cL (rest := []) hf (fun v14 s15 hcall => ?_) (fun v14 s15 hf => ?_)
  · obtain ⟨aN, fsN, hN, h9⟩ := m_Node X.g 1000 _ _ _ _ _ _ hcall
    subst hN
    rcases h9 with ⟨haN, fr9, lo9, hfr9, hlo9, hm⟩ | ⟨haN, fr9, lo9, hfr9, hlo9, hm⟩ | ⟨haN, fr9, lo9, hfr9, hlo9, hm⟩
    · exact z_runA (owner := "BlockingShop$Node") (x := ⟨"BlockingShop$Node", "of", "(LBlockingShop$Job;J)J"⟩) hC (pc := 29) zcX6 2 haN hm (lw_app (zm5 q893 q895 q985 q903 q106) (lw_meth q904)) q894 (by decide +kernel) ⟨by omega, by omega⟩ rfl (Nat.le_of_ble_eq_true rfl) dX3_jobCost_29 rfl
    · exact z_runA (owner := "BlockingShop$Node") (x := ⟨"BlockingShop$Node", "of", "(LBlockingShop$Job;J)J"⟩) hC (pc := 29) zcX12 2 haN hm (lw_app (zm5 q893 q895 q896 q897 q138) (lw_meth q898)) q894 (by decide +kernel) ⟨by omega, by omega⟩ rfl (Nat.le_of_ble_eq_true rfl) dX3_jobCost_29 rfl
    · exact z_runA (owner := "BlockingShop$Node") (x := ⟨"BlockingShop$Node", "of", "(LBlockingShop$Job;J)J"⟩) hC (pc := 29) zcX13 2 haN hm (lw_app (zm5 q893 q895 q899 q900 q144) (lw_meth q901)) q894 (by decide +kernel) ⟨by omega, by omega⟩ rfl (Nat.le_of_ble_eq_true rfl) dX3_jobCost_29 rfl
  refine z_l2i hC (pc := 32) dX3_jobCost_32 ?_
  exact z_ireturn hC (pc := 33) hQ dX3_jobCost_33 hf
/-! BlockingShop$Plan.cost()I -/
def f_X3_cost_b4 (G : Nat → Nat) (k4 : Nat → Int32 → Int32 → zS → Option (Int32 × zS)) (l0 : Nat) (l1 : Int32) (l2 : Int32) (s0 : zS) : Option (Int32 × zS) :=
zo (zgR s0 (some l0) 2 0) fun v1 =>
zo (zgR s0 v1 3 3) fun v2 =>
zo (zrc s0 v2 15) fun a5 =>
zb (f_J5_size G a5 s0) fun v6 s7 =>
if v6 ≤ l2 then (some (l1, s7))
else (zo (zrc s7 (some l0) 2) fun _ =>
zb (f_X3_jobCost G l0 l2 s7) fun v11 s12 =>
k4 l0 (l1 + v11) (l2 + 1) s12)
set_option maxHeartbeats 4000000 in
theorem w_X3_cost_b4 {X : zX} (hC : ZC X RX3 cX3_cost (some .int) 3012 60152) (hL : X.nL = 3) (hno : ∀ x ∈ X.c.exceptionTable.toList, False) {r : Int32} {sF : zS} (hQ : ZQ X (.inl (some (zi r)), sF)) (k4 : Nat → Int32 → Int32 → zS → Option (Int32 × zS)) (hk4 : ∀ (l0 : Nat) (l1 : Int32) (l2 : Int32) (s0 : zS), k4 l0 l1 l2 s0 = some (r, sF) → ZW X s0 4 [(0, zr (some l0)), (1, zi l1), (2, zi l2)] []) (l0 : Nat) (l1 : Int32) (l2 : Int32) (s0 : zS) (hf : f_X3_cost_b4 X.g.1 k4 l0 l1 l2 s0 = some (r, sF)) : ZW X s0 4 [(0, zr (some l0)), (1, zi l1), (2, zi l2)] [] := by
  unfold f_X3_cost_b4 at hf
  refine z_iload_n hC (pc := 4) dX3_cost_4 rfl 2 rfl ?_
  refine z_aload_n hC (pc := 5) dX3_cost_5 rfl 0 rfl ?_
  refine z_getR hC (pc := 6) in_X3 zcX3 0 (Nat.le_of_ble_eq_true rfl) (zLk.o hC q364) zsm dX3_cost_6 hf (fun v1 hf => ?_)
  refine z_getR hC (pc := 9) in_X4 zcX4 3 (Nat.le_of_ble_eq_true rfl) (zLk.n hC q333) zsm dX3_cost_9 hf (fun v2 hf => ?_)
  obtain ⟨a5, fs3, rfl, ha4, hf⟩ := z_rcO hf
  refine z_cI5 (rest := [zi l2]) hf (fun v6 s7 hcall => z_runF hC (pc := 12) zcJ5 0 ha4 (m_J5_size X.g a5 s0 s7 v6 hcall) (lw_app (zm4 q469 q435 q437 q104) (lw_meth q439)) q433 q432 q438 q436 q434 (by decide +kernel) ⟨(Nat.le_of_ble_eq_true rfl), (Nat.le_of_ble_eq_true rfl)⟩ rfl (Nat.le_of_ble_eq_true rfl) dX3_cost_12 rfl) (fun v6 s7 hf => ?_)
  refine z_icmp_ge hC (pc := 17) (tgt := 34) dX3_cost_17 rfl (fun c8 => ?_) (fun c8 => ?_)
  · have hf := zif_t hf c8
    refine z_iload_n hC (pc := 34) dX3_cost_34 rfl 1 rfl ?_
    exact z_ireturn hC (pc := 35) hQ dX3_cost_35 hf
  · have hf := zif_f hf c8
    refine z_iload_n hC (pc := 20) dX3_cost_20 rfl 1 rfl ?_
    refine z_aload_n hC (pc := 21) dX3_cost_21 rfl 0 rfl ?_
    refine z_iload_n hC (pc := 22) dX3_cost_22 rfl 2 rfl ?_
    obtain ⟨fs9, ha10, hf⟩ := z_rcN hf
    refine z_cI (rest := [zi l1]) hf (fun v11 s12 hcall => z_runV hC (pc := 23) zcX3 1 ha10 (m_X3_jobCost X.g l0 l2 s7 s12 v11 hcall) (lw_V q889 q890 q891 q99 q892) hdV_X3_jobCost ⟨(Nat.le_of_ble_eq_true rfl), (Nat.le_of_ble_eq_true rfl)⟩ rfl (Nat.le_of_ble_eq_true rfl) dX3_cost_23 rfl) (fun v11 s12 hf => ?_)
    refine z_iadd hC (pc := 26) dX3_cost_26 ?_
    refine z_istore_n (lv' := [(1, zi (l1 + v11)), (0, zr (some l0)), (2, zi l2)]) hC (pc := 27) hL dX3_cost_27 rfl (Nat.le_of_ble_eq_true rfl) rfl ?_
    refine z_iinc (v := 1) (lv' := [(2, zi (l2 + 1)), (1, zi (l1 + v11)), (0, zr (some l0))]) hC (pc := 28) hL dX3_cost_28 2 rfl zki_1 (Nat.le_of_ble_eq_true rfl) rfl ?_
    refine z_goto hC (pc := 31) (tgt := 4) dX3_cost_31 rfl ?_
    refine ZW.perm (lv' := [(0, zr (some l0)), (1, zi (l1 + v11)), (2, zi (l2 + 1))]) [2, 1, 0] rfl ?_
    exact hk4 l0 (l1 + v11) (l2 + 1) s12 hf
def f_X3_cost_l4 (G : Nat → Nat) : Nat → Nat → Int32 → Int32 → zS → Option (Int32 × zS)
  | 0 => fun _ _ _ _ => none
  | n + 1 => f_X3_cost_b4 G (f_X3_cost_l4 G n)
theorem w_X3_cost_l4 {X : zX} (hC : ZC X RX3 cX3_cost (some .int) 3012 60152) (hL : X.nL = 3) (hno : ∀ x ∈ X.c.exceptionTable.toList, False) {r : Int32} {sF : zS} (hQ : ZQ X (.inl (some (zi r)), sF)) : ∀ (n : Nat) (l0 : Nat) (l1 : Int32) (l2 : Int32) (s0 : zS) (_ : f_X3_cost_l4 X.g.1 n l0 l1 l2 s0 = some (r, sF)), ZW X s0 4 [(0, zr (some l0)), (1, zi l1), (2, zi l2)] [] := by
  intro n
  induction n with
  | zero => intro l0 l1 l2 s0 hf; exact absurd (show (none : Option (Int32 × zS)) = some (r, sF) from hf) (fun z => nomatch z)
  | succ n ih => intro l0 l1 l2 s0 hf; exact w_X3_cost_b4 hC hL hno hQ (f_X3_cost_l4 X.g.1 n) ih l0 l1 l2 s0 hf
def f_X3_cost (G : Nat → Nat) (l0 : Nat) (s0 : zS) : Option (Int32 × zS) :=
f_X3_cost_l4 G 2000 l0 0 0 s0
set_option maxHeartbeats 4000000 in
theorem m_X3_cost (Γ : zG) (l0 : Nat) (s0 s1 : zS) (r : Int32) (hf : f_X3_cost Γ.1 l0 s0 = some (r, s1)) : ZM Γ yX3_cost (ws_ yX3_cost cX3_cost 3 (some .int)) 3012 60152 [zr (some l0)] s0 (.inl (some (zi r)), s1) := by
  refine ZM.of (own := RX3) (by decide) rfl (Nat.le_of_ble_eq_true rfl) ?_
  intro X hg hC hL hno hQ hin
  subst hg
  unfold f_X3_cost at hf
  refine z_iconst (v := 0) hC (pc := 0) dX3_cost_0 zki_0 ?_
  refine z_istore_n (lv' := [(1, zi 0), (0, zr (some l0))]) hC (pc := 1) hL dX3_cost_1 rfl (Nat.le_of_ble_eq_true rfl) rfl ?_
  refine z_iconst (v := 0) hC (pc := 2) dX3_cost_2 zki_0 ?_
  refine z_istore_n (lv' := [(2, zi 0), (1, zi 0), (0, zr (some l0))]) hC (pc := 3) hL dX3_cost_3 rfl (Nat.le_of_ble_eq_true rfl) rfl ?_
  refine ZW.perm (lv' := [(0, zr (some l0)), (1, zi 0), (2, zi 0)]) [2, 1, 0] rfl ?_
  exact w_X3_cost_l4 hC hL hno hQ 2000 l0 0 0 s0 hf
