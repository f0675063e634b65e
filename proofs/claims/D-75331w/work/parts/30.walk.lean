set_option maxRecDepth 100000
/-! BlockingShopModel.readJob(I)V -/
def f_X8_readJob_b110 (G : Nat → Nat) (k110 : Nat → Int32 → Int32 → Int32 → zS → Option (Unit × zS)) (l0 : Nat) (l5 : Int32) (l6 : Int32) (l7 : Int32) (s0 : zS) : Option (Unit × zS) :=
if l7 = 0 then (some ((), s0))
else (zo (zrc s0 (some l0) 6) fun _ =>
zb (f_X8_next G l0 s0) fun v4 s5 =>
zo (zgI s5 (some l0) 6 4) fun v6 =>
zo (zrc s5 (some l0) 6) fun _ =>
zb (f_X8_takeWord G l0 (some (G 12)) s5) fun v9 s10 =>
if v9 = 0 then (zo (zgR s10 (some l0) 6 9) fun v20 =>
zo (zaI s10 v20 0 (l6 + 3)) fun v21 =>
if v21 = 0 then (zo (zrc s10 (some l0) 6) fun _ =>
zb (f_X8_report G l0 (-2) v6 s10) fun _ s26 =>
some ((), s26))
else (some ((), s10)))
else (zo (zrc s10 (some l0) 6) fun _ =>
zb (f_X8_readOperation G l0 l5 v6 s10) fun _ s15 =>
zo (zrc s15 (some l0) 6) fun _ =>
zb (f_X8_isGood G l0 s15) fun v18 s19 =>
k110 l0 l5 l6 v18 s19))
set_option maxHeartbeats 4000000 in
theorem w_X8_readJob_b110 {X : zX} (hC : ZC X RX8 cX8_readJob none 6 107) (hL : X.nL = 9) (hno : ∀ x ∈ X.c.exceptionTable.toList, False) {r : Unit} {sF : zS} (hQ : ZQ X (.inl none, sF)) (k110 : Nat → Int32 → Int32 → Int32 → zS → Option (Unit × zS)) (hk110 : ∀ (l0 : Nat) (l5 : Int32) (l6 : Int32) (l7 : Int32) (s0 : zS), k110 l0 l5 l6 l7 s0 = some (r, sF) → ZW X s0 110 [(0, zr (some l0)), (5, zi l5), (6, zi l6), (7, zi l7)] []) (l0 : Nat) (l5 : Int32) (l6 : Int32) (l7 : Int32) (s0 : zS) (hf : f_X8_readJob_b110 X.g.1 k110 l0 l5 l6 l7 s0 = some (r, sF)) : ZW X s0 110 [(0, zr (some l0)), (5, zi l5), (6, zi l6), (7, zi l7)] [] := by
  unfold f_X8_readJob_b110 at hf
  refine z_iload hC (pc := 110) dX8_readJob_110 3 rfl ?_
  refine z_if_eq hC (pc := 112) (tgt := 173) dX8_readJob_112 rfl (fun c1 => ?_) (fun c1 => ?_)
  · have hf := zif_t hf c1
    exact z_return hC (pc := 173) hQ dX8_readJob_173 hf
  · have hf := zif_f hf c1
    refine z_aload_n hC (pc := 115) dX8_readJob_115 rfl 0 rfl ?_
    obtain ⟨fs2, ha3, hf⟩ := z_rcN hf
    refine z_cI (rest := []) hf (fun v4 s5 hcall => z_runV hC (pc := 116) zcX8 0 ha3 (m_X8_next X.g l0 s0 s5 v4 hcall) (lw_V q2778 q2780 qs51 q108 q2781) hdV_X8_next ⟨(Nat.le_of_ble_eq_true rfl), (Nat.le_of_ble_eq_true rfl)⟩ rfl (Nat.le_of_ble_eq_true rfl) dX8_readJob_116 rfl) (fun v4 s5 hf => ?_)
    refine z_pop hC (pc := 119) dX8_readJob_119 rfl ?_
    refine z_aload_n hC (pc := 120) dX8_readJob_120 rfl 0 rfl ?_
    refine z_getI hC (pc := 121) in_X8 zcX8 4 (Nat.le_of_ble_eq_true rfl) (zLk.o hC q2677) zsm dX8_readJob_121 hf (fun v6 hf => ?_)
    refine z_istore (lv' := [(8, zi v6), (0, zr (some l0)), (5, zi l5), (6, zi l6), (7, zi l7)]) hC (pc := 124) hL dX8_readJob_124 (Nat.le_of_ble_eq_true rfl) rfl ?_
    refine z_aload_n hC (pc := 126) dX8_readJob_126 rfl 1 rfl ?_
    refine z_lit (k := 12) hC (pc := 127) (List.mem_of_getElem? (i := 6) rfl) dX8_readJob_127 ?_
    obtain ⟨fs7, ha8, hf⟩ := z_rcN hf
    refine z_cI (rest := []) hf (fun v9 s10 hcall => z_runV hC (pc := 129) zcX8 1 ha8 (m_X8_takeWord X.g l0 (some (X.g.1 12)) s5 s10 v9 hcall) (lw_V q2770 q2772 qs49 q108 q2773) hdV_X8_takeWord ⟨(Nat.le_of_ble_eq_true rfl), (Nat.le_of_ble_eq_true rfl)⟩ rfl (Nat.le_of_ble_eq_true rfl) dX8_readJob_129 rfl) (fun v9 s10 hf => ?_)
    refine z_if_ne hC (pc := 132) (tgt := 156) dX8_readJob_132 rfl (fun c11 => ?_) (fun c11 => ?_)
    · have hf := zif_f hf c11
      refine z_aload_n hC (pc := 156) dX8_readJob_156 rfl 1 rfl ?_
      refine z_iload hC (pc := 157) dX8_readJob_157 2 rfl ?_
      refine z_iload hC (pc := 159) dX8_readJob_159 0 rfl ?_
      obtain ⟨fs12, ha13, hf⟩ := z_rcN hf
      refine z_cU (rest := []) hf (fun v14 s15 hcall => z_runV hC (pc := 161) zcX8 2 ha13 (m_X8_readOperation X.g l0 l5 v6 s10 s15 v14 hcall) (lw_V q2830 q2832 qs58 q108 q2833) hdV_X8_readOperation ⟨(Nat.le_of_ble_eq_true rfl), (Nat.le_of_ble_eq_true rfl)⟩ rfl (Nat.le_of_ble_eq_true rfl) dX8_readJob_161 rfl) (fun _ s15 hf => ?_)
      refine z_aload_n hC (pc := 164) dX8_readJob_164 rfl 1 rfl ?_
      obtain ⟨fs16, ha17, hf⟩ := z_rcN hf
      refine z_cI (rest := []) hf (fun v18 s19 hcall => z_runV hC (pc := 165) zcX8 0 ha17 (m_X8_isGood X.g l0 s15 s19 v18 hcall) (lw_V q2774 q2776 qs50 q108 q2777) hdV_X8_isGood ⟨(Nat.le_of_ble_eq_true rfl), (Nat.le_of_ble_eq_true rfl)⟩ rfl (Nat.le_of_ble_eq_true rfl) dX8_readJob_165 rfl) (fun v18 s19 hf => ?_)
      refine z_istore (lv' := [(7, zi v18), (8, zi v6), (0, zr (some l0)), (5, zi l5), (6, zi l6)]) hC (pc := 168) hL dX8_readJob_168 (Nat.le_of_ble_eq_true rfl) rfl ?_
      refine z_goto hC (pc := 170) (tgt := 110) dX8_readJob_170 rfl ?_
      refine ZW.perm (lv' := [(0, zr (some l0)), (5, zi l5), (6, zi l6), (7, zi v18)]) [2, 3, 4, 0] rfl ?_
      exact hk110 l0 l5 l6 v18 s19 hf
    · have hf := zif_t hf c11
      refine z_aload_n hC (pc := 135) dX8_readJob_135 rfl 1 rfl ?_
      refine z_getR hC (pc := 136) in_X8 zcX8 9 (Nat.le_of_ble_eq_true rfl) (zLk.o hC q2682) zsm dX8_readJob_136 hf (fun v20 hf => ?_)
      refine z_iload hC (pc := 139) dX8_readJob_139 3 rfl ?_
      refine z_iconst (v := 3) hC (pc := 141) dX8_readJob_141 zki_3 ?_
      refine z_iadd hC (pc := 142) dX8_readJob_142 ?_
      refine z_iald hC (pc := 143) dX8_readJob_143 hf (fun v21 hf => ?_)
      refine z_if_ne hC (pc := 144) (tgt := 155) dX8_readJob_144 rfl (fun c22 => ?_) (fun c22 => ?_)
      · have hf := zif_f hf c22
        exact z_return hC (pc := 155) hQ dX8_readJob_155 hf
      · have hf := zif_t hf c22
        refine z_aload_n hC (pc := 147) dX8_readJob_147 rfl 1 rfl ?_
        refine z_bipush (v := (-2)) hC (pc := 148) dX8_readJob_148 zkb_m2 ?_
        refine z_iload hC (pc := 150) dX8_readJob_150 0 rfl ?_
        obtain ⟨fs23, ha24, hf⟩ := z_rcN hf
        refine z_cU (rest := []) hf (fun v25 s26 hcall => z_runV hC (pc := 152) zcX8 2 ha24 (m_X8_report X.g l0 (-2) v6 s10 s26 v25 hcall) (lw_V q2798 q2800 qs53 q108 q2801) hdV_X8_report ⟨(Nat.le_of_ble_eq_true rfl), (Nat.le_of_ble_eq_true rfl)⟩ rfl (Nat.le_of_ble_eq_true rfl) dX8_readJob_152 rfl) (fun _ s26 hf => ?_)
        exact z_return hC (pc := 155) hQ dX8_readJob_155 hf
def f_X8_readJob_l110 (G : Nat → Nat) : Nat → Nat → Int32 → Int32 → Int32 → zS → Option (Unit × zS)
  | 0 => fun _ _ _ _ _ => none
  | n + 1 => f_X8_readJob_b110 G (f_X8_readJob_l110 G n)
theorem w_X8_readJob_l110 {X : zX} (hC : ZC X RX8 cX8_readJob none 6 107) (hL : X.nL = 9) (hno : ∀ x ∈ X.c.exceptionTable.toList, False) {r : Unit} {sF : zS} (hQ : ZQ X (.inl none, sF)) : ∀ (n : Nat) (l0 : Nat) (l5 : Int32) (l6 : Int32) (l7 : Int32) (s0 : zS) (_ : f_X8_readJob_l110 X.g.1 n l0 l5 l6 l7 s0 = some (r, sF)), ZW X s0 110 [(0, zr (some l0)), (5, zi l5), (6, zi l6), (7, zi l7)] [] := by
  intro n
  induction n with
  | zero => intro l0 l5 l6 l7 s0 hf; exact absurd (show (none : Option (Unit × zS)) = some (r, sF) from hf) (fun z => nomatch z)
  | succ n ih => intro l0 l5 l6 l7 s0 hf; exact w_X8_readJob_b110 hC hL hno hQ (f_X8_readJob_l110 X.g.1 n) ih l0 l5 l6 l7 s0 hf
def f_X8_readJob_b18 (G : Nat → Nat) (l0 : Nat) (s0 : zS) : Option (Unit × zS) :=
zo (zrc s0 (some l0) 6) fun _ =>
zb (f_X8_number G l0 0 999 s0) fun v3 s4 =>
zo (zrc s4 (some l0) 6) fun _ =>
zb (f_X8_number G l0 0 9999 s4) fun v7 s8 =>
zo (zrc s8 (some l0) 6) fun _ =>
zb (f_X8_number G l0 0 99 s8) fun v11 s12 =>
zo (zrc s12 (some l0) 6) fun _ =>
zb (f_X8_isGood G l0 s12) fun v15 s16 =>
if v15 = 0 then (some ((), s16))
else (zo (zgR s16 (some l0) 6 9) fun v18 =>
zo (zaI s16 v18 0 2) fun v19 =>
zb (f_X8_job G v19 s16) fun v20 s21 =>
zo (zgR s21 (some l0) 6 9) fun v22 =>
zo (zsI G s21 v22 0 v20 v3) fun s23 =>
zo (zgR s23 (some l0) 6 9) fun v24 =>
zo (zsI G s23 v24 0 (v20 + 1) v7) fun s25 =>
zo (zgR s25 (some l0) 6 9) fun v26 =>
zo (zsI G s25 v26 0 (v20 + 2) v11) fun s27 =>
zo (zgR s27 (some l0) 6 9) fun v28 =>
zo (zaI s27 v28 0 2) fun v29 =>
zo (zsI G s27 v28 0 2 (v29 + 1)) fun s30 =>
f_X8_readJob_l110 G 2000 l0 v19 v20 1 s30)
set_option maxHeartbeats 4000000 in
theorem w_X8_readJob_b18 {X : zX} (hC : ZC X RX8 cX8_readJob none 6 107) (hL : X.nL = 9) (hno : ∀ x ∈ X.c.exceptionTable.toList, False) {r : Unit} {sF : zS} (hQ : ZQ X (.inl none, sF)) (l0 : Nat) (s0 : zS) (hf : f_X8_readJob_b18 X.g.1 l0 s0 = some (r, sF)) : ZW X s0 18 [(0, zr (some l0))] [] := by
  unfold f_X8_readJob_b18 at hf
  refine z_aload_n hC (pc := 18) dX8_readJob_18 rfl 0 rfl ?_
  refine z_iconst (v := 0) hC (pc := 19) dX8_readJob_19 zki_0 ?_
  refine z_sipush (v := 999) hC (pc := 20) dX8_readJob_20 zks_999 ?_
  obtain ⟨fs1, ha2, hf⟩ := z_rcN hf
  refine z_cI (rest := []) hf (fun v3 s4 hcall => z_runV hC (pc := 23) zcX8 2 ha2 (m_X8_number X.g l0 0 999 s0 s4 v3 hcall) (lw_V q2802 q2804 qs54 q108 q2805) hdV_X8_number ⟨(Nat.le_of_ble_eq_true rfl), (Nat.le_of_ble_eq_true rfl)⟩ rfl (Nat.le_of_ble_eq_true rfl) dX8_readJob_23 rfl) (fun v3 s4 hf => ?_)
  refine z_istore_n (lv' := [(2, zi v3), (0, zr (some l0))]) hC (pc := 26) hL dX8_readJob_26 rfl (Nat.le_of_ble_eq_true rfl) rfl ?_
  refine z_aload_n hC (pc := 27) dX8_readJob_27 rfl 1 rfl ?_
  refine z_iconst (v := 0) hC (pc := 28) dX8_readJob_28 zki_0 ?_
  refine z_sipush (v := 9999) hC (pc := 29) dX8_readJob_29 zks_9999 ?_
  obtain ⟨fs5, ha6, hf⟩ := z_rcN hf
  refine z_cI (rest := []) hf (fun v7 s8 hcall => z_runV hC (pc := 32) zcX8 2 ha6 (m_X8_number X.g l0 0 9999 s4 s8 v7 hcall) (lw_V q2802 q2804 qs54 q108 q2805) hdV_X8_number ⟨(Nat.le_of_ble_eq_true rfl), (Nat.le_of_ble_eq_true rfl)⟩ rfl (Nat.le_of_ble_eq_true rfl) dX8_readJob_32 rfl) (fun v7 s8 hf => ?_)
  refine z_istore_n (lv' := [(3, zi v7), (2, zi v3), (0, zr (some l0))]) hC (pc := 35) hL dX8_readJob_35 rfl (Nat.le_of_ble_eq_true rfl) rfl ?_
  refine z_aload_n hC (pc := 36) dX8_readJob_36 rfl 2 rfl ?_
  refine z_iconst (v := 0) hC (pc := 37) dX8_readJob_37 zki_0 ?_
  refine z_bipush (v := 99) hC (pc := 38) dX8_readJob_38 zkb_99 ?_
  obtain ⟨fs9, ha10, hf⟩ := z_rcN hf
  refine z_cI (rest := []) hf (fun v11 s12 hcall => z_runV hC (pc := 40) zcX8 2 ha10 (m_X8_number X.g l0 0 99 s8 s12 v11 hcall) (lw_V q2802 q2804 qs54 q108 q2805) hdV_X8_number ⟨(Nat.le_of_ble_eq_true rfl), (Nat.le_of_ble_eq_true rfl)⟩ rfl (Nat.le_of_ble_eq_true rfl) dX8_readJob_40 rfl) (fun v11 s12 hf => ?_)
  refine z_istore (lv' := [(4, zi v11), (3, zi v7), (2, zi v3), (0, zr (some l0))]) hC (pc := 43) hL dX8_readJob_43 (Nat.le_of_ble_eq_true rfl) rfl ?_
  refine z_aload_n hC (pc := 45) dX8_readJob_45 rfl 3 rfl ?_
  obtain ⟨fs13, ha14, hf⟩ := z_rcN hf
  refine z_cI (rest := []) hf (fun v15 s16 hcall => z_runV hC (pc := 46) zcX8 0 ha14 (m_X8_isGood X.g l0 s12 s16 v15 hcall) (lw_V q2774 q2776 qs50 q108 q2777) hdV_X8_isGood ⟨(Nat.le_of_ble_eq_true rfl), (Nat.le_of_ble_eq_true rfl)⟩ rfl (Nat.le_of_ble_eq_true rfl) dX8_readJob_46 rfl) (fun v15 s16 hf => ?_)
  refine z_if_ne hC (pc := 49) (tgt := 53) dX8_readJob_49 rfl (fun c17 => ?_) (fun c17 => ?_)
  · have hf := zif_f hf c17
    refine z_aload_n hC (pc := 53) dX8_readJob_53 rfl 3 rfl ?_
    refine z_getR hC (pc := 54) in_X8 zcX8 9 (Nat.le_of_ble_eq_true rfl) (zLk.o hC q2682) zsm dX8_readJob_54 hf (fun v18 hf => ?_)
    refine z_iconst (v := 2) hC (pc := 57) dX8_readJob_57 zki_2 ?_
    refine z_iald hC (pc := 58) dX8_readJob_58 hf (fun v19 hf => ?_)
    refine z_istore (lv' := [(5, zi v19), (4, zi v11), (3, zi v7), (2, zi v3), (0, zr (some l0))]) hC (pc := 59) hL dX8_readJob_59 (Nat.le_of_ble_eq_true rfl) rfl ?_
    refine z_iload hC (pc := 61) dX8_readJob_61 0 rfl ?_
    refine z_cI (rest := []) hf (fun v20 s21 hcall => z_runS hC (pc := 63) 1 (m_X8_job X.g v19 s16 s21 v20 hcall) (lw_S q2826 q2827 q108 q2828) hd_X8_job ⟨(Nat.le_of_ble_eq_true rfl), (Nat.le_of_ble_eq_true rfl)⟩ rfl (Nat.le_of_ble_eq_true rfl) dX8_readJob_63 rfl) (fun v20 s21 hf => ?_)
    refine z_istore (lv' := [(6, zi v20), (5, zi v19), (4, zi v11), (3, zi v7), (2, zi v3), (0, zr (some l0))]) hC (pc := 66) hL dX8_readJob_66 (Nat.le_of_ble_eq_true rfl) rfl ?_
    refine z_aload_n hC (pc := 68) dX8_readJob_68 rfl 5 rfl ?_
    refine z_getR hC (pc := 69) in_X8 zcX8 9 (Nat.le_of_ble_eq_true rfl) (zLk.o hC q2682) zsm dX8_readJob_69 hf (fun v22 hf => ?_)
    refine z_iload hC (pc := 72) dX8_readJob_72 0 rfl ?_
    refine z_iload_n hC (pc := 74) dX8_readJob_74 rfl 4 rfl ?_
    refine z_iast hC (pc := 75) dX8_readJob_75 hf (fun s23 hf => ?_)
    refine z_aload_n hC (pc := 76) dX8_readJob_76 rfl 5 rfl ?_
    refine z_getR hC (pc := 77) in_X8 zcX8 9 (Nat.le_of_ble_eq_true rfl) (zLk.o hC q2682) zsm dX8_readJob_77 hf (fun v24 hf => ?_)
    refine z_iload hC (pc := 80) dX8_readJob_80 0 rfl ?_
    refine z_iconst (v := 1) hC (pc := 82) dX8_readJob_82 zki_1 ?_
    refine z_iadd hC (pc := 83) dX8_readJob_83 ?_
    refine z_iload_n hC (pc := 84) dX8_readJob_84 rfl 3 rfl ?_
    refine z_iast hC (pc := 85) dX8_readJob_85 hf (fun s25 hf => ?_)
    refine z_aload_n hC (pc := 86) dX8_readJob_86 rfl 5 rfl ?_
    refine z_getR hC (pc := 87) in_X8 zcX8 9 (Nat.le_of_ble_eq_true rfl) (zLk.o hC q2682) zsm dX8_readJob_87 hf (fun v26 hf => ?_)
    refine z_iload hC (pc := 90) dX8_readJob_90 0 rfl ?_
    refine z_iconst (v := 2) hC (pc := 92) dX8_readJob_92 zki_2 ?_
    refine z_iadd hC (pc := 93) dX8_readJob_93 ?_
    refine z_iload hC (pc := 94) dX8_readJob_94 2 rfl ?_
    refine z_iast hC (pc := 96) dX8_readJob_96 hf (fun s27 hf => ?_)
    refine z_aload_n hC (pc := 97) dX8_readJob_97 rfl 5 rfl ?_
    refine z_getR hC (pc := 98) in_X8 zcX8 9 (Nat.le_of_ble_eq_true rfl) (zLk.o hC q2682) zsm dX8_readJob_98 hf (fun v28 hf => ?_)
    refine z_iconst (v := 2) hC (pc := 101) dX8_readJob_101 zki_2 ?_
    refine z_dup2 hC (pc := 102) dX8_readJob_102 rfl rfl ?_
    refine z_iald hC (pc := 103) dX8_readJob_103 hf (fun v29 hf => ?_)
    refine z_iconst (v := 1) hC (pc := 104) dX8_readJob_104 zki_1 ?_
    refine z_iadd hC (pc := 105) dX8_readJob_105 ?_
    refine z_iast hC (pc := 106) dX8_readJob_106 hf (fun s30 hf => ?_)
    refine z_iconst (v := 1) hC (pc := 107) dX8_readJob_107 zki_1 ?_
    refine z_istore (lv' := [(7, zi 1), (6, zi v20), (5, zi v19), (4, zi v11), (3, zi v7), (2, zi v3), (0, zr (some l0))]) hC (pc := 108) hL dX8_readJob_108 (Nat.le_of_ble_eq_true rfl) rfl ?_
    refine ZW.perm (lv' := [(0, zr (some l0)), (5, zi v19), (6, zi v20), (7, zi 1)]) [6, 2, 1, 0] rfl ?_
    exact w_X8_readJob_l110 hC hL hno hQ 2000 l0 v19 v20 1 s30 hf
  · have hf := zif_t hf c17
    exact z_return hC (pc := 52) hQ dX8_readJob_52 hf
def f_X8_readJob (G : Nat → Nat) (l0 : Nat) (l1 : Int32) (s0 : zS) : Option (Unit × zS) :=
zo (zgR s0 (some l0) 6 9) fun v1 =>
zo (zaI s0 v1 0 2) fun v2 =>
if v2 = 6 then (zo (zrc s0 (some l0) 6) fun _ =>
zb (f_X8_report G l0 (-4) l1 s0) fun _ s7 =>
f_X8_readJob_b18 G l0 s7)
else (f_X8_readJob_b18 G l0 s0)
set_option maxHeartbeats 4000000 in
theorem m_X8_readJob (Γ : zG) (l0 : Nat) (l1 : Int32) (s0 s1 : zS) (r : Unit) (hf : f_X8_readJob Γ.1 l0 l1 s0 = some (r, s1)) : ZM Γ yX8_readJob (ws_ yX8_readJob cX8_readJob 9 none) 6 107 [zr (some l0), zi l1] s0 (.inl none, s1) := by
  refine ZM.of (own := RX8) (by decide) rfl (Nat.le_of_ble_eq_true rfl) ?_
  intro X hg hC hL hno hQ hin
  subst hg
  unfold f_X8_readJob at hf
  refine z_aload_n hC (pc := 0) dX8_readJob_0 rfl 0 rfl ?_
  refine z_getR hC (pc := 1) in_X8 zcX8 9 (Nat.le_of_ble_eq_true rfl) (zLk.o hC q2682) zsm dX8_readJob_1 hf (fun v1 hf => ?_)
  refine z_iconst (v := 2) hC (pc := 4) dX8_readJob_4 zki_2 ?_
  refine z_iald hC (pc := 5) dX8_readJob_5 hf (fun v2 hf => ?_)
  refine z_bipush (v := 6) hC (pc := 6) dX8_readJob_6 zkb_6 ?_
  refine z_icmp_ne hC (pc := 8) (tgt := 18) dX8_readJob_8 rfl (fun c3 => ?_) (fun c3 => ?_)
  · have hf := zif_f hf c3
    refine ZW.perm (lv' := [(0, zr (some l0))]) [0] rfl ?_
    exact w_X8_readJob_b18 hC hL hno hQ l0 s0 hf
  · have hf := zif_t hf c3
    refine z_aload_n hC (pc := 11) dX8_readJob_11 rfl 0 rfl ?_
    refine z_bipush (v := (-4)) hC (pc := 12) dX8_readJob_12 zkb_m4 ?_
    refine z_iload_n hC (pc := 14) dX8_readJob_14 rfl 1 rfl ?_
    obtain ⟨fs4, ha5, hf⟩ := z_rcN hf
    refine z_cU (rest := []) hf (fun v6 s7 hcall => z_runV hC (pc := 15) zcX8 2 ha5 (m_X8_report X.g l0 (-4) l1 s0 s7 v6 hcall) (lw_V q2798 q2800 qs53 q108 q2801) hdV_X8_report ⟨(Nat.le_of_ble_eq_true rfl), (Nat.le_of_ble_eq_true rfl)⟩ rfl (Nat.le_of_ble_eq_true rfl) dX8_readJob_15 rfl) (fun _ s7 hf => ?_)
    refine ZW.perm (lv' := [(0, zr (some l0))]) [0] rfl ?_
    exact w_X8_readJob_b18 hC hL hno hQ l0 s7 hf
/-! BlockingShopModel.readMachine()V -/
def f_X8_readMachine (G : Nat → Nat) (l0 : Nat) (s0 : zS) : Option (Unit × zS) :=
zo (zgR s0 (some l0) 6 9) fun v1 =>
zo (zaI s0 v1 0 0) fun v2 =>
zo (zrc s0 (some l0) 6) fun _ =>
zb (f_X8_number G l0 0 (v2 - 1) s0) fun v5 s6 =>
zo (zrc s6 (some l0) 6) fun _ =>
zb (f_X8_number G l0 0 1 s6) fun v9 s10 =>
zo (zrc s10 (some l0) 6) fun _ =>
zb (f_X8_number G l0 0 99 s10) fun v13 s14 =>
zo (zrc s14 (some l0) 6) fun _ =>
zb (f_X8_isGood G l0 s14) fun v17 s18 =>
if v17 = 0 then (some ((), s18))
else (zo (zgR s18 (some l0) 6 9) fun v20 =>
zb (f_X8_machine G v5 s18) fun v21 s22 =>
zo (zsI G s22 v20 0 v21 (1 - v9)) fun s23 =>
zo (zgR s23 (some l0) 6 9) fun v24 =>
zb (f_X8_machine G v5 s23) fun v25 s26 =>
zo (zsI G s26 v24 0 (v25 + 1) v13) fun s27 =>
some ((), s27))
set_option maxHeartbeats 4000000 in
theorem m_X8_readMachine (Γ : zG) (l0 : Nat) (s0 s1 : zS) (r : Unit) (hf : f_X8_readMachine Γ.1 l0 s0 = some (r, s1)) : ZM Γ yX8_readMachine (ws_ yX8_readMachine cX8_readMachine 4 none) 4 65 [zr (some l0)] s0 (.inl none, s1) := by
  refine ZM.of (own := RX8) (by decide) rfl (Nat.le_of_ble_eq_true rfl) ?_
  intro X hg hC hL hno hQ hin
  subst hg
  unfold f_X8_readMachine at hf
  refine z_aload_n hC (pc := 0) dX8_readMachine_0 rfl 0 rfl ?_
  refine z_iconst (v := 0) hC (pc := 1) dX8_readMachine_1 zki_0 ?_
  refine z_aload_n hC (pc := 2) dX8_readMachine_2 rfl 0 rfl ?_
  refine z_getR hC (pc := 3) in_X8 zcX8 9 (Nat.le_of_ble_eq_true rfl) (zLk.o hC q2682) zsm dX8_readMachine_3 hf (fun v1 hf => ?_)
  refine z_iconst (v := 0) hC (pc := 6) dX8_readMachine_6 zki_0 ?_
  refine z_iald hC (pc := 7) dX8_readMachine_7 hf (fun v2 hf => ?_)
  refine z_iconst (v := 1) hC (pc := 8) dX8_readMachine_8 zki_1 ?_
  refine z_isub hC (pc := 9) dX8_readMachine_9 ?_
  obtain ⟨fs3, ha4, hf⟩ := z_rcN hf
  refine z_cI (rest := []) hf (fun v5 s6 hcall => z_runV hC (pc := 10) zcX8 2 ha4 (m_X8_number X.g l0 0 (v2 - 1) s0 s6 v5 hcall) (lw_V q2802 q2804 qs54 q108 q2805) hdV_X8_number ⟨(Nat.le_of_ble_eq_true rfl), (Nat.le_of_ble_eq_true rfl)⟩ rfl (Nat.le_of_ble_eq_true rfl) dX8_readMachine_10 rfl) (fun v5 s6 hf => ?_)
  refine z_istore_n (lv' := [(1, zi v5), (0, zr (some l0))]) hC (pc := 13) hL dX8_readMachine_13 rfl (Nat.le_of_ble_eq_true rfl) rfl ?_
  refine z_aload_n hC (pc := 14) dX8_readMachine_14 rfl 1 rfl ?_
  refine z_iconst (v := 0) hC (pc := 15) dX8_readMachine_15 zki_0 ?_
  refine z_iconst (v := 1) hC (pc := 16) dX8_readMachine_16 zki_1 ?_
  obtain ⟨fs7, ha8, hf⟩ := z_rcN hf
  refine z_cI (rest := []) hf (fun v9 s10 hcall => z_runV hC (pc := 17) zcX8 2 ha8 (m_X8_number X.g l0 0 1 s6 s10 v9 hcall) (lw_V q2802 q2804 qs54 q108 q2805) hdV_X8_number ⟨(Nat.le_of_ble_eq_true rfl), (Nat.le_of_ble_eq_true rfl)⟩ rfl (Nat.le_of_ble_eq_true rfl) dX8_readMachine_17 rfl) (fun v9 s10 hf => ?_)
  refine z_istore_n (lv' := [(2, zi v9), (1, zi v5), (0, zr (some l0))]) hC (pc := 20) hL dX8_readMachine_20 rfl (Nat.le_of_ble_eq_true rfl) rfl ?_
  refine z_aload_n hC (pc := 21) dX8_readMachine_21 rfl 2 rfl ?_
  refine z_iconst (v := 0) hC (pc := 22) dX8_readMachine_22 zki_0 ?_
  refine z_bipush (v := 99) hC (pc := 23) dX8_readMachine_23 zkb_99 ?_
  obtain ⟨fs11, ha12, hf⟩ := z_rcN hf
  refine z_cI (rest := []) hf (fun v13 s14 hcall => z_runV hC (pc := 25) zcX8 2 ha12 (m_X8_number X.g l0 0 99 s10 s14 v13 hcall) (lw_V q2802 q2804 qs54 q108 q2805) hdV_X8_number ⟨(Nat.le_of_ble_eq_true rfl), (Nat.le_of_ble_eq_true rfl)⟩ rfl (Nat.le_of_ble_eq_true rfl) dX8_readMachine_25 rfl) (fun v13 s14 hf => ?_)
  refine z_istore_n (lv' := [(3, zi v13), (2, zi v9), (1, zi v5), (0, zr (some l0))]) hC (pc := 28) hL dX8_readMachine_28 rfl (Nat.le_of_ble_eq_true rfl) rfl ?_
  refine z_aload_n hC (pc := 29) dX8_readMachine_29 rfl 3 rfl ?_
  obtain ⟨fs15, ha16, hf⟩ := z_rcN hf
  refine z_cI (rest := []) hf (fun v17 s18 hcall => z_runV hC (pc := 30) zcX8 0 ha16 (m_X8_isGood X.g l0 s14 s18 v17 hcall) (lw_V q2774 q2776 qs50 q108 q2777) hdV_X8_isGood ⟨(Nat.le_of_ble_eq_true rfl), (Nat.le_of_ble_eq_true rfl)⟩ rfl (Nat.le_of_ble_eq_true rfl) dX8_readMachine_30 rfl) (fun v17 s18 hf => ?_)
  refine z_if_ne hC (pc := 33) (tgt := 37) dX8_readMachine_33 rfl (fun c19 => ?_) (fun c19 => ?_)
  · have hf := zif_f hf c19
    refine z_aload_n hC (pc := 37) dX8_readMachine_37 rfl 3 rfl ?_
    refine z_getR hC (pc := 38) in_X8 zcX8 9 (Nat.le_of_ble_eq_true rfl) (zLk.o hC q2682) zsm dX8_readMachine_38 hf (fun v20 hf => ?_)
    refine z_iload_n hC (pc := 41) dX8_readMachine_41 rfl 2 rfl ?_
    refine z_cI (rest := [zr v20]) hf (fun v21 s22 hcall => z_runS hC (pc := 42) 1 (m_X8_machine X.g v5 s18 s22 v21 hcall) (lw_S q2842 q2843 q108 q2844) hd_X8_machine ⟨(Nat.le_of_ble_eq_true rfl), (Nat.le_of_ble_eq_true rfl)⟩ rfl (Nat.le_of_ble_eq_true rfl) dX8_readMachine_42 rfl) (fun v21 s22 hf => ?_)
    refine z_iconst (v := 1) hC (pc := 45) dX8_readMachine_45 zki_1 ?_
    refine z_iload_n hC (pc := 46) dX8_readMachine_46 rfl 1 rfl ?_
    refine z_isub hC (pc := 47) dX8_readMachine_47 ?_
    refine z_iast hC (pc := 48) dX8_readMachine_48 hf (fun s23 hf => ?_)
    refine z_aload_n hC (pc := 49) dX8_readMachine_49 rfl 3 rfl ?_
    refine z_getR hC (pc := 50) in_X8 zcX8 9 (Nat.le_of_ble_eq_true rfl) (zLk.o hC q2682) zsm dX8_readMachine_50 hf (fun v24 hf => ?_)
    refine z_iload_n hC (pc := 53) dX8_readMachine_53 rfl 2 rfl ?_
    refine z_cI (rest := [zr v24]) hf (fun v25 s26 hcall => z_runS hC (pc := 54) 1 (m_X8_machine X.g v5 s23 s26 v25 hcall) (lw_S q2842 q2843 q108 q2844) hd_X8_machine ⟨(Nat.le_of_ble_eq_true rfl), (Nat.le_of_ble_eq_true rfl)⟩ rfl (Nat.le_of_ble_eq_true rfl) dX8_readMachine_54 rfl) (fun v25 s26 hf => ?_)
    refine z_iconst (v := 1) hC (pc := 57) dX8_readMachine_57 zki_1 ?_
    refine z_iadd hC (pc := 58) dX8_readMachine_58 ?_
    refine z_iload_n hC (pc := 59) dX8_readMachine_59 rfl 0 rfl ?_
    refine z_iast hC (pc := 60) dX8_readMachine_60 hf (fun s27 hf => ?_)
    exact z_return hC (pc := 61) hQ dX8_readMachine_61 hf
  · have hf := zif_t hf c19
    exact z_return hC (pc := 36) hQ dX8_readMachine_36 hf
/-! BlockingShopModel.term()V -/
def f_X8_term_b68 (G : Nat → Nat) (kS : Nat → zS → Option (Unit × zS)) (k4 : Nat → zS → Option (Unit × zS)) (l0 : Nat) (t0 : Int32) (t1 : Option Nat) (s0 : zS) : Option (Unit × zS) :=
zo (zrc s0 t1 6) fun a3 =>
zb (f_X8_emit G a3 t0 s0) fun _ s5 =>
k4 l0 s5
set_option maxHeartbeats 4000000 in
theorem w_X8_term_b68 {X : zX} (kS : Nat → zS → Option (Unit × zS)) (frK loK : Nat) (hkS : ∀ (l0 : Nat) (s0 s1 : zS) (v : Unit), kS l0 s0 = some (v, s1) → ZM X.g yX8_sum (ws_ yX8_sum cX8_sum 2 none) frK loK [zr (some l0)] s0 (.inl none, s1)) (hC : ZC X RX8 cX8_term none (frK + 7) (loK + 130)) (hL : X.nL = 2) (hno : ∀ x ∈ X.c.exceptionTable.toList, False) {r : Unit} {sF : zS} (hQ : ZQ X (.inl none, sF)) (k4 : Nat → zS → Option (Unit × zS)) (hk4 : ∀ (l0 : Nat) (s0 : zS), k4 l0 s0 = some (r, sF) → ZW X s0 4 [(0, zr (some l0))] []) (l0 : Nat) (t0 : Int32) (t1 : Option Nat) (s0 : zS) (hf : f_X8_term_b68 X.g.1 kS k4 l0 t0 t1 s0 = some (r, sF)) : ZW X s0 68 [(0, zr (some l0))] [zi t0, zr t1] := by
  unfold f_X8_term_b68 at hf
  obtain ⟨a3, fs1, rfl, ha2, hf⟩ := z_rcO hf
  refine z_cU (rest := []) hf (fun v4 s5 hcall => z_runV hC (pc := 68) zcX8 1 ha2 (m_X8_emit X.g a3 t0 s0 s5 v4 hcall) (lw_V q2866 q2868 qs64 q108 q2869) hdV_X8_emit ⟨(by omega), (by omega)⟩ rfl (Nat.le_of_ble_eq_true rfl) dX8_term_68 rfl) (fun _ s5 hf => ?_)
  refine z_goto hC (pc := 71) (tgt := 4) dX8_term_71 rfl ?_
  exact hk4 l0 s5 hf
def f_X8_term_b43 (G : Nat → Nat) (kS : Nat → zS → Option (Unit × zS)) (k4 : Nat → zS → Option (Unit × zS)) (l0 : Nat) (t0 : Int32) (s0 : zS) : Option (Unit × zS) :=
zo (zgI s0 (some l0) 6 4) fun v1 =>
zo (zput G s0 (some l0) 6 4 (.int (v1 + 1))) fun s2 =>
zo (zrc s2 (some l0) 6) fun _ =>
zb (f_X8_factor G kS l0 s2) fun _ s6 =>
if t0 = 0 then (f_X8_term_b68 G kS k4 l0 5 (some l0) s6)
else (f_X8_term_b68 G kS k4 l0 4 (some l0) s6)
set_option maxHeartbeats 4000000 in
theorem w_X8_term_b43 {X : zX} (kS : Nat → zS → Option (Unit × zS)) (frK loK : Nat) (hkS : ∀ (l0 : Nat) (s0 s1 : zS) (v : Unit), kS l0 s0 = some (v, s1) → ZM X.g yX8_sum (ws_ yX8_sum cX8_sum 2 none) frK loK [zr (some l0)] s0 (.inl none, s1)) (hC : ZC X RX8 cX8_term none (frK + 7) (loK + 130)) (hL : X.nL = 2) (hno : ∀ x ∈ X.c.exceptionTable.toList, False) {r : Unit} {sF : zS} (hQ : ZQ X (.inl none, sF)) (k4 : Nat → zS → Option (Unit × zS)) (hk4 : ∀ (l0 : Nat) (s0 : zS), k4 l0 s0 = some (r, sF) → ZW X s0 4 [(0, zr (some l0))] []) (l0 : Nat) (t0 : Int32) (s0 : zS) (hf : f_X8_term_b43 X.g.1 kS k4 l0 t0 s0 = some (r, sF)) : ZW X s0 43 [(0, zr (some l0))] [zi t0] := by
  unfold f_X8_term_b43 at hf
  refine z_istore_n (lv' := [(1, zi t0), (0, zr (some l0))]) hC (pc := 43) hL dX8_term_43 rfl (Nat.le_of_ble_eq_true rfl) rfl ?_
  refine z_aload_n hC (pc := 44) dX8_term_44 rfl 1 rfl ?_
  refine z_dup hC (pc := 45) dX8_term_45 rfl ?_
  refine z_getI hC (pc := 46) in_X8 zcX8 4 (Nat.le_of_ble_eq_true rfl) (zLk.o hC q2677) zsm dX8_term_46 hf (fun v1 hf => ?_)
  refine z_iconst (v := 1) hC (pc := 49) dX8_term_49 zki_1 ?_
  refine z_iadd hC (pc := 50) dX8_term_50 ?_
  refine z_putV (v := zi (v1 + 1)) hC (pc := 51) in_X8 tyX8 tyX8_ok nmX8 zcX8 4 (Nat.le_of_ble_eq_true rfl) (zLk.o hC q2677) zsm (Or.inl rfl) rfl rfl dX8_term_51 hf (fun s2 hf => ?_)
  refine z_aload_n hC (pc := 54) dX8_term_54 rfl 1 rfl ?_
  obtain ⟨fs3, ha4, hf⟩ := z_rcN hf
  refine z_cU (rest := []) hf (fun v5 s6 hcall => z_runV hC (pc := 55) zcX8 0 ha4 (m_X8_factor X.g kS frK loK hkS l0 s2 s6 v5 hcall) (lw_V q2858 q2860 qs63 q108 q2861) hdV_X8_factor ⟨(by omega), (by omega)⟩ rfl (Nat.le_of_ble_eq_true rfl) dX8_term_55 rfl) (fun _ s6 hf => ?_)
  refine z_aload_n hC (pc := 58) dX8_term_58 rfl 1 rfl ?_
  refine z_iload_n hC (pc := 59) dX8_term_59 rfl 0 rfl ?_
  refine z_if_eq hC (pc := 60) (tgt := 67) dX8_term_60 rfl (fun c7 => ?_) (fun c7 => ?_)
  · have hf := zif_t hf c7
    refine z_iconst (v := 5) hC (pc := 67) dX8_term_67 zki_5 ?_
    refine ZW.perm (lv' := [(0, zr (some l0))]) [1] rfl ?_
    exact w_X8_term_b68 kS frK loK hkS hC hL hno hQ k4 hk4 l0 5 (some l0) s6 hf
  · have hf := zif_f hf c7
    refine z_iconst (v := 4) hC (pc := 63) dX8_term_63 zki_4 ?_
    refine z_goto hC (pc := 64) (tgt := 68) dX8_term_64 rfl ?_
    refine ZW.perm (lv' := [(0, zr (some l0))]) [1] rfl ?_
    exact w_X8_term_b68 kS frK loK hkS hC hL hno hQ k4 hk4 l0 4 (some l0) s6 hf
def f_X8_term_b29 (G : Nat → Nat) (kS : Nat → zS → Option (Unit × zS)) (k4 : Nat → zS → Option (Unit × zS)) (l0 : Nat) (s0 : zS) : Option (Unit × zS) :=
zo (zrc s0 (some l0) 6) fun _ =>
zb (f_X8_next G l0 s0) fun v3 s4 =>
if v3 = 42 then (f_X8_term_b43 G kS k4 l0 1 s4)
else (f_X8_term_b43 G kS k4 l0 0 s4)
set_option maxHeartbeats 4000000 in
theorem w_X8_term_b29 {X : zX} (kS : Nat → zS → Option (Unit × zS)) (frK loK : Nat) (hkS : ∀ (l0 : Nat) (s0 s1 : zS) (v : Unit), kS l0 s0 = some (v, s1) → ZM X.g yX8_sum (ws_ yX8_sum cX8_sum 2 none) frK loK [zr (some l0)] s0 (.inl none, s1)) (hC : ZC X RX8 cX8_term none (frK + 7) (loK + 130)) (hL : X.nL = 2) (hno : ∀ x ∈ X.c.exceptionTable.toList, False) {r : Unit} {sF : zS} (hQ : ZQ X (.inl none, sF)) (k4 : Nat → zS → Option (Unit × zS)) (hk4 : ∀ (l0 : Nat) (s0 : zS), k4 l0 s0 = some (r, sF) → ZW X s0 4 [(0, zr (some l0))] []) (l0 : Nat) (s0 : zS) (hf : f_X8_term_b29 X.g.1 kS k4 l0 s0 = some (r, sF)) : ZW X s0 29 [(0, zr (some l0))] [] := by
  unfold f_X8_term_b29 at hf
  refine z_aload_n hC (pc := 29) dX8_term_29 rfl 0 rfl ?_
  obtain ⟨fs1, ha2, hf⟩ := z_rcN hf
  refine z_cI (rest := []) hf (fun v3 s4 hcall => z_runV hC (pc := 30) zcX8 0 ha2 (m_X8_next X.g l0 s0 s4 v3 hcall) (lw_V q2778 q2780 qs51 q108 q2781) hdV_X8_next ⟨(by omega), (by omega)⟩ rfl (Nat.le_of_ble_eq_true rfl) dX8_term_30 rfl) (fun v3 s4 hf => ?_)
  refine z_bipush (v := 42) hC (pc := 33) dX8_term_33 zkb_42 ?_
  refine z_icmp_ne hC (pc := 35) (tgt := 42) dX8_term_35 rfl (fun c5 => ?_) (fun c5 => ?_)
  · have hf := zif_f hf c5
    refine z_iconst (v := 0) hC (pc := 42) dX8_term_42 zki_0 ?_
    exact w_X8_term_b43 kS frK loK hkS hC hL hno hQ k4 hk4 l0 0 s4 hf
  · have hf := zif_t hf c5
    refine z_iconst (v := 1) hC (pc := 38) dX8_term_38 zki_1 ?_
    refine z_goto hC (pc := 39) (tgt := 43) dX8_term_39 rfl ?_
    exact w_X8_term_b43 kS frK loK hkS hC hL hno hQ k4 hk4 l0 1 s4 hf
def f_X8_term_b4 (G : Nat → Nat) (kS : Nat → zS → Option (Unit × zS)) (k4 : Nat → zS → Option (Unit × zS)) (l0 : Nat) (s0 : zS) : Option (Unit × zS) :=
zo (zrc s0 (some l0) 6) fun _ =>
zb (f_X8_isGood G l0 s0) fun v3 s4 =>
if v3 = 0 then (some ((), s4))
else (zo (zrc s4 (some l0) 6) fun _ =>
zb (f_X8_next G l0 s4) fun v8 s9 =>
if v8 = 42 then (f_X8_term_b29 G kS k4 l0 s9)
else (zo (zrc s9 (some l0) 6) fun _ =>
zb (f_X8_next G l0 s9) fun v13 s14 =>
if v13 = 47 then (f_X8_term_b29 G kS k4 l0 s14)
else (some ((), s14))))
set_option maxHeartbeats 4000000 in
theorem w_X8_term_b4 {X : zX} (kS : Nat → zS → Option (Unit × zS)) (frK loK : Nat) (hkS : ∀ (l0 : Nat) (s0 s1 : zS) (v : Unit), kS l0 s0 = some (v, s1) → ZM X.g yX8_sum (ws_ yX8_sum cX8_sum 2 none) frK loK [zr (some l0)] s0 (.inl none, s1)) (hC : ZC X RX8 cX8_term none (frK + 7) (loK + 130)) (hL : X.nL = 2) (hno : ∀ x ∈ X.c.exceptionTable.toList, False) {r : Unit} {sF : zS} (hQ : ZQ X (.inl none, sF)) (k4 : Nat → zS → Option (Unit × zS)) (hk4 : ∀ (l0 : Nat) (s0 : zS), k4 l0 s0 = some (r, sF) → ZW X s0 4 [(0, zr (some l0))] []) (l0 : Nat) (s0 : zS) (hf : f_X8_term_b4 X.g.1 kS k4 l0 s0 = some (r, sF)) : ZW X s0 4 [(0, zr (some l0))] [] := by
  unfold f_X8_term_b4 at hf
  refine z_aload_n hC (pc := 4) dX8_term_4 rfl 0 rfl ?_
  obtain ⟨fs1, ha2, hf⟩ := z_rcN hf
  refine z_cI (rest := []) hf (fun v3 s4 hcall => z_runV hC (pc := 5) zcX8 0 ha2 (m_X8_isGood X.g l0 s0 s4 v3 hcall) (lw_V q2774 q2776 qs50 q108 q2777) hdV_X8_isGood ⟨(by omega), (by omega)⟩ rfl (Nat.le_of_ble_eq_true rfl) dX8_term_5 rfl) (fun v3 s4 hf => ?_)
  refine z_if_eq hC (pc := 8) (tgt := 74) dX8_term_8 rfl (fun c5 => ?_) (fun c5 => ?_)
  · have hf := zif_t hf c5
    exact z_return hC (pc := 74) hQ dX8_term_74 hf
  · have hf := zif_f hf c5
    refine z_aload_n hC (pc := 11) dX8_term_11 rfl 0 rfl ?_
    obtain ⟨fs6, ha7, hf⟩ := z_rcN hf
    refine z_cI (rest := []) hf (fun v8 s9 hcall => z_runV hC (pc := 12) zcX8 0 ha7 (m_X8_next X.g l0 s4 s9 v8 hcall) (lw_V q2778 q2780 qs51 q108 q2781) hdV_X8_next ⟨(by omega), (by omega)⟩ rfl (Nat.le_of_ble_eq_true rfl) dX8_term_12 rfl) (fun v8 s9 hf => ?_)
    refine z_bipush (v := 42) hC (pc := 15) dX8_term_15 zkb_42 ?_
    refine z_icmp_eq hC (pc := 17) (tgt := 29) dX8_term_17 rfl (fun c10 => ?_) (fun c10 => ?_)
    · have hf := zif_t hf c10
      exact w_X8_term_b29 kS frK loK hkS hC hL hno hQ k4 hk4 l0 s9 hf
    · have hf := zif_f hf c10
      refine z_aload_n hC (pc := 20) dX8_term_20 rfl 0 rfl ?_
      obtain ⟨fs11, ha12, hf⟩ := z_rcN hf
      refine z_cI (rest := []) hf (fun v13 s14 hcall => z_runV hC (pc := 21) zcX8 0 ha12 (m_X8_next X.g l0 s9 s14 v13 hcall) (lw_V q2778 q2780 qs51 q108 q2781) hdV_X8_next ⟨(by omega), (by omega)⟩ rfl (Nat.le_of_ble_eq_true rfl) dX8_term_21 rfl) (fun v13 s14 hf => ?_)
      refine z_bipush (v := 47) hC (pc := 24) dX8_term_24 zkb_47 ?_
      refine z_icmp_ne hC (pc := 26) (tgt := 74) dX8_term_26 rfl (fun c15 => ?_) (fun c15 => ?_)
      · have hf := zif_f hf c15
        exact z_return hC (pc := 74) hQ dX8_term_74 hf
      · have hf := zif_t hf c15
        exact w_X8_term_b29 kS frK loK hkS hC hL hno hQ k4 hk4 l0 s14 hf
def f_X8_term_l4 (G : Nat → Nat) (kS : Nat → zS → Option (Unit × zS)) : Nat → Nat → zS → Option (Unit × zS)
  | 0 => fun _ _ => none
  | n + 1 => f_X8_term_b4 G kS (f_X8_term_l4 G kS n)
theorem w_X8_term_l4 {X : zX} (kS : Nat → zS → Option (Unit × zS)) (frK loK : Nat) (hkS : ∀ (l0 : Nat) (s0 s1 : zS) (v : Unit), kS l0 s0 = some (v, s1) → ZM X.g yX8_sum (ws_ yX8_sum cX8_sum 2 none) frK loK [zr (some l0)] s0 (.inl none, s1)) (hC : ZC X RX8 cX8_term none (frK + 7) (loK + 130)) (hL : X.nL = 2) (hno : ∀ x ∈ X.c.exceptionTable.toList, False) {r : Unit} {sF : zS} (hQ : ZQ X (.inl none, sF)) : ∀ (n : Nat) (l0 : Nat) (s0 : zS) (_ : f_X8_term_l4 X.g.1 kS n l0 s0 = some (r, sF)), ZW X s0 4 [(0, zr (some l0))] [] := by
  intro n
  induction n with
  | zero => intro l0 s0 hf; exact absurd (show (none : Option (Unit × zS)) = some (r, sF) from hf) (fun z => nomatch z)
  | succ n ih => intro l0 s0 hf; exact w_X8_term_b4 kS frK loK hkS hC hL hno hQ (f_X8_term_l4 X.g.1 kS n) ih l0 s0 hf
def f_X8_term (G : Nat → Nat) (kS : Nat → zS → Option (Unit × zS)) (l0 : Nat) (s0 : zS) : Option (Unit × zS) :=
zo (zrc s0 (some l0) 6) fun _ =>
zb (f_X8_factor G kS l0 s0) fun _ s4 =>
f_X8_term_l4 G kS 2000 l0 s4
set_option maxHeartbeats 4000000 in
theorem m_X8_term (Γ : zG) (kS : Nat → zS → Option (Unit × zS)) (frK loK : Nat) (hkS : ∀ (l0 : Nat) (s0 s1 : zS) (v : Unit), kS l0 s0 = some (v, s1) → ZM Γ yX8_sum (ws_ yX8_sum cX8_sum 2 none) frK loK [zr (some l0)] s0 (.inl none, s1)) (l0 : Nat) (s0 s1 : zS) (r : Unit) (hf : f_X8_term Γ.1 kS l0 s0 = some (r, s1)) : ZM Γ yX8_term (ws_ yX8_term cX8_term 2 none) (frK + 7) (loK + 130) [zr (some l0)] s0 (.inl none, s1) := by
  refine ZM.of (own := RX8) (by decide) rfl (Nat.le_of_ble_eq_true rfl) ?_
  intro X hg hC hL hno hQ hin
  subst hg
  unfold f_X8_term at hf
  refine z_aload_n hC (pc := 0) dX8_term_0 rfl 0 rfl ?_
  obtain ⟨fs1, ha2, hf⟩ := z_rcN hf
  refine z_cU (rest := []) hf (fun v3 s4 hcall => z_runV hC (pc := 1) zcX8 0 ha2 (m_X8_factor X.g kS frK loK hkS l0 s0 s4 v3 hcall) (lw_V q2858 q2860 qs63 q108 q2861) hdV_X8_factor ⟨(by omega), (by omega)⟩ rfl (Nat.le_of_ble_eq_true rfl) dX8_term_1 rfl) (fun _ s4 hf => ?_)
  exact w_X8_term_l4 kS frK loK hkS hC hL hno hQ 2000 l0 s4 hf
/-! BlockingShopModel.sum()V -/
def f_X8_sum_b68 (G : Nat → Nat) (kS : Nat → zS → Option (Unit × zS)) (k4 : Nat → zS → Option (Unit × zS)) (l0 : Nat) (t0 : Int32) (t1 : Option Nat) (s0 : zS) : Option (Unit × zS) :=
zo (zrc s0 t1 6) fun a3 =>
zb (f_X8_emit G a3 t0 s0) fun _ s5 =>
k4 l0 s5
set_option maxHeartbeats 4000000 in
theorem w_X8_sum_b68 {X : zX} (kS : Nat → zS → Option (Unit × zS)) (frK loK : Nat) (hkS : ∀ (l0 : Nat) (s0 s1 : zS) (v : Unit), kS l0 s0 = some (v, s1) → ZM X.g yX8_sum (ws_ yX8_sum cX8_sum 2 none) frK loK [zr (some l0)] s0 (.inl none, s1)) (hC : ZC X RX8 cX8_sum none (frK + 8) (loK + 151)) (hL : X.nL = 2) (hno : ∀ x ∈ X.c.exceptionTable.toList, False) {r : Unit} {sF : zS} (hQ : ZQ X (.inl none, sF)) (k4 : Nat → zS → Option (Unit × zS)) (hk4 : ∀ (l0 : Nat) (s0 : zS), k4 l0 s0 = some (r, sF) → ZW X s0 4 [(0, zr (some l0))] []) (l0 : Nat) (t0 : Int32) (t1 : Option Nat) (s0 : zS) (hf : f_X8_sum_b68 X.g.1 kS k4 l0 t0 t1 s0 = some (r, sF)) : ZW X s0 68 [(0, zr (some l0))] [zi t0, zr t1] := by
  unfold f_X8_sum_b68 at hf
  obtain ⟨a3, fs1, rfl, ha2, hf⟩ := z_rcO hf
  refine z_cU (rest := []) hf (fun v4 s5 hcall => z_runV hC (pc := 68) zcX8 1 ha2 (m_X8_emit X.g a3 t0 s0 s5 v4 hcall) (lw_V q2866 q2868 qs64 q108 q2869) hdV_X8_emit ⟨(by omega), (by omega)⟩ rfl (Nat.le_of_ble_eq_true rfl) dX8_sum_68 rfl) (fun _ s5 hf => ?_)
  refine z_goto hC (pc := 71) (tgt := 4) dX8_sum_71 rfl ?_
  exact hk4 l0 s5 hf
def f_X8_sum_b43 (G : Nat → Nat) (kS : Nat → zS → Option (Unit × zS)) (k4 : Nat → zS → Option (Unit × zS)) (l0 : Nat) (t0 : Int32) (s0 : zS) : Option (Unit × zS) :=
zo (zgI s0 (some l0) 6 4) fun v1 =>
zo (zput G s0 (some l0) 6 4 (.int (v1 + 1))) fun s2 =>
zo (zrc s2 (some l0) 6) fun _ =>
zb (f_X8_term G kS l0 s2) fun _ s6 =>
if t0 = 0 then (f_X8_sum_b68 G kS k4 l0 3 (some l0) s6)
else (f_X8_sum_b68 G kS k4 l0 2 (some l0) s6)
set_option maxHeartbeats 4000000 in
theorem w_X8_sum_b43 {X : zX} (kS : Nat → zS → Option (Unit × zS)) (frK loK : Nat) (hkS : ∀ (l0 : Nat) (s0 s1 : zS) (v : Unit), kS l0 s0 = some (v, s1) → ZM X.g yX8_sum (ws_ yX8_sum cX8_sum 2 none) frK loK [zr (some l0)] s0 (.inl none, s1)) (hC : ZC X RX8 cX8_sum none (frK + 8) (loK + 151)) (hL : X.nL = 2) (hno : ∀ x ∈ X.c.exceptionTable.toList, False) {r : Unit} {sF : zS} (hQ : ZQ X (.inl none, sF)) (k4 : Nat → zS → Option (Unit × zS)) (hk4 : ∀ (l0 : Nat) (s0 : zS), k4 l0 s0 = some (r, sF) → ZW X s0 4 [(0, zr (some l0))] []) (l0 : Nat) (t0 : Int32) (s0 : zS) (hf : f_X8_sum_b43 X.g.1 kS k4 l0 t0 s0 = some (r, sF)) : ZW X s0 43 [(0, zr (some l0))] [zi t0] := by
  unfold f_X8_sum_b43 at hf
  refine z_istore_n (lv' := [(1, zi t0), (0, zr (some l0))]) hC (pc := 43) hL dX8_sum_43 rfl (Nat.le_of_ble_eq_true rfl) rfl ?_
  refine z_aload_n hC (pc := 44) dX8_sum_44 rfl 1 rfl ?_
  refine z_dup hC (pc := 45) dX8_sum_45 rfl ?_
  refine z_getI hC (pc := 46) in_X8 zcX8 4 (Nat.le_of_ble_eq_true rfl) (zLk.o hC q2677) zsm dX8_sum_46 hf (fun v1 hf => ?_)
  refine z_iconst (v := 1) hC (pc := 49) dX8_sum_49 zki_1 ?_
  refine z_iadd hC (pc := 50) dX8_sum_50 ?_
  refine z_putV (v := zi (v1 + 1)) hC (pc := 51) in_X8 tyX8 tyX8_ok nmX8 zcX8 4 (Nat.le_of_ble_eq_true rfl) (zLk.o hC q2677) zsm (Or.inl rfl) rfl rfl dX8_sum_51 hf (fun s2 hf => ?_)
  refine z_aload_n hC (pc := 54) dX8_sum_54 rfl 1 rfl ?_
  obtain ⟨fs3, ha4, hf⟩ := z_rcN hf
  refine z_cU (rest := []) hf (fun v5 s6 hcall => z_runV hC (pc := 55) zcX8 0 ha4 (m_X8_term X.g kS frK loK hkS l0 s2 s6 v5 hcall) (lw_V q2854 q2856 qs62 q108 q2857) hdV_X8_term ⟨(by omega), (by omega)⟩ rfl (Nat.le_of_ble_eq_true rfl) dX8_sum_55 rfl) (fun _ s6 hf => ?_)
  refine z_aload_n hC (pc := 58) dX8_sum_58 rfl 1 rfl ?_
  refine z_iload_n hC (pc := 59) dX8_sum_59 rfl 0 rfl ?_
  refine z_if_eq hC (pc := 60) (tgt := 67) dX8_sum_60 rfl (fun c7 => ?_) (fun c7 => ?_)
  · have hf := zif_t hf c7
    refine z_iconst (v := 3) hC (pc := 67) dX8_sum_67 zki_3 ?_
    refine ZW.perm (lv' := [(0, zr (some l0))]) [1] rfl ?_
    exact w_X8_sum_b68 kS frK loK hkS hC hL hno hQ k4 hk4 l0 3 (some l0) s6 hf
  · have hf := zif_f hf c7
    refine z_iconst (v := 2) hC (pc := 63) dX8_sum_63 zki_2 ?_
    refine z_goto hC (pc := 64) (tgt := 68) dX8_sum_64 rfl ?_
    refine ZW.perm (lv' := [(0, zr (some l0))]) [1] rfl ?_
    exact w_X8_sum_b68 kS frK loK hkS hC hL hno hQ k4 hk4 l0 2 (some l0) s6 hf
def f_X8_sum_b29 (G : Nat → Nat) (kS : Nat → zS → Option (Unit × zS)) (k4 : Nat → zS → Option (Unit × zS)) (l0 : Nat) (s0 : zS) : Option (Unit × zS) :=
zo (zrc s0 (some l0) 6) fun _ =>
zb (f_X8_next G l0 s0) fun v3 s4 =>
if v3 = 43 then (f_X8_sum_b43 G kS k4 l0 1 s4)
else (f_X8_sum_b43 G kS k4 l0 0 s4)
set_option maxHeartbeats 4000000 in
theorem w_X8_sum_b29 {X : zX} (kS : Nat → zS → Option (Unit × zS)) (frK loK : Nat) (hkS : ∀ (l0 : Nat) (s0 s1 : zS) (v : Unit), kS l0 s0 = some (v, s1) → ZM X.g yX8_sum (ws_ yX8_sum cX8_sum 2 none) frK loK [zr (some l0)] s0 (.inl none, s1)) (hC : ZC X RX8 cX8_sum none (frK + 8) (loK + 151)) (hL : X.nL = 2) (hno : ∀ x ∈ X.c.exceptionTable.toList, False) {r : Unit} {sF : zS} (hQ : ZQ X (.inl none, sF)) (k4 : Nat → zS → Option (Unit × zS)) (hk4 : ∀ (l0 : Nat) (s0 : zS), k4 l0 s0 = some (r, sF) → ZW X s0 4 [(0, zr (some l0))] []) (l0 : Nat) (s0 : zS) (hf : f_X8_sum_b29 X.g.1 kS k4 l0 s0 = some (r, sF)) : ZW X s0 29 [(0, zr (some l0))] [] := by
  unfold f_X8_sum_b29 at hf
  refine z_aload_n hC (pc := 29) dX8_sum_29 rfl 0 rfl ?_
  obtain ⟨fs1, ha2, hf⟩ := z_rcN hf
  refine z_cI (rest := []) hf (fun v3 s4 hcall => z_runV hC (pc := 30) zcX8 0 ha2 (m_X8_next X.g l0 s0 s4 v3 hcall) (lw_V q2778 q2780 qs51 q108 q2781) hdV_X8_next ⟨(by omega), (by omega)⟩ rfl (Nat.le_of_ble_eq_true rfl) dX8_sum_30 rfl) (fun v3 s4 hf => ?_)
  refine z_bipush (v := 43) hC (pc := 33) dX8_sum_33 zkb_43 ?_
  refine z_icmp_ne hC (pc := 35) (tgt := 42) dX8_sum_35 rfl (fun c5 => ?_) (fun c5 => ?_)
  · have hf := zif_f hf c5
    refine z_iconst (v := 0) hC (pc := 42) dX8_sum_42 zki_0 ?_
    exact w_X8_sum_b43 kS frK loK hkS hC hL hno hQ k4 hk4 l0 0 s4 hf
  · have hf := zif_t hf c5
    refine z_iconst (v := 1) hC (pc := 38) dX8_sum_38 zki_1 ?_
    refine z_goto hC (pc := 39) (tgt := 43) dX8_sum_39 rfl ?_
    exact w_X8_sum_b43 kS frK loK hkS hC hL hno hQ k4 hk4 l0 1 s4 hf
def f_X8_sum_b4 (G : Nat → Nat) (kS : Nat → zS → Option (Unit × zS)) (k4 : Nat → zS → Option (Unit × zS)) (l0 : Nat) (s0 : zS) : Option (Unit × zS) :=
zo (zrc s0 (some l0) 6) fun _ =>
zb (f_X8_isGood G l0 s0) fun v3 s4 =>
if v3 = 0 then (some ((), s4))
else (zo (zrc s4 (some l0) 6) fun _ =>
zb (f_X8_next G l0 s4) fun v8 s9 =>
if v8 = 43 then (f_X8_sum_b29 G kS k4 l0 s9)
else (zo (zrc s9 (some l0) 6) fun _ =>
zb (f_X8_next G l0 s9) fun v13 s14 =>
if v13 = 45 then (f_X8_sum_b29 G kS k4 l0 s14)
else (some ((), s14))))
set_option maxHeartbeats 4000000 in
theorem w_X8_sum_b4 {X : zX} (kS : Nat → zS → Option (Unit × zS)) (frK loK : Nat) (hkS : ∀ (l0 : Nat) (s0 s1 : zS) (v : Unit), kS l0 s0 = some (v, s1) → ZM X.g yX8_sum (ws_ yX8_sum cX8_sum 2 none) frK loK [zr (some l0)] s0 (.inl none, s1)) (hC : ZC X RX8 cX8_sum none (frK + 8) (loK + 151)) (hL : X.nL = 2) (hno : ∀ x ∈ X.c.exceptionTable.toList, False) {r : Unit} {sF : zS} (hQ : ZQ X (.inl none, sF)) (k4 : Nat → zS → Option (Unit × zS)) (hk4 : ∀ (l0 : Nat) (s0 : zS), k4 l0 s0 = some (r, sF) → ZW X s0 4 [(0, zr (some l0))] []) (l0 : Nat) (s0 : zS) (hf : f_X8_sum_b4 X.g.1 kS k4 l0 s0 = some (r, sF)) : ZW X s0 4 [(0, zr (some l0))] [] := by
  unfold f_X8_sum_b4 at hf
  refine z_aload_n hC (pc := 4) dX8_sum_4 rfl 0 rfl ?_
  obtain ⟨fs1, ha2, hf⟩ := z_rcN hf
  refine z_cI (rest := []) hf (fun v3 s4 hcall => z_runV hC (pc := 5) zcX8 0 ha2 (m_X8_isGood X.g l0 s0 s4 v3 hcall) (lw_V q2774 q2776 qs50 q108 q2777) hdV_X8_isGood ⟨(by omega), (by omega)⟩ rfl (Nat.le_of_ble_eq_true rfl) dX8_sum_5 rfl) (fun v3 s4 hf => ?_)
  refine z_if_eq hC (pc := 8) (tgt := 74) dX8_sum_8 rfl (fun c5 => ?_) (fun c5 => ?_)
  · have hf := zif_t hf c5
    exact z_return hC (pc := 74) hQ dX8_sum_74 hf
  · have hf := zif_f hf c5
    refine z_aload_n hC (pc := 11) dX8_sum_11 rfl 0 rfl ?_
    obtain ⟨fs6, ha7, hf⟩ := z_rcN hf
    refine z_cI (rest := []) hf (fun v8 s9 hcall => z_runV hC (pc := 12) zcX8 0 ha7 (m_X8_next X.g l0 s4 s9 v8 hcall) (lw_V q2778 q2780 qs51 q108 q2781) hdV_X8_next ⟨(by omega), (by omega)⟩ rfl (Nat.le_of_ble_eq_true rfl) dX8_sum_12 rfl) (fun v8 s9 hf => ?_)
    refine z_bipush (v := 43) hC (pc := 15) dX8_sum_15 zkb_43 ?_
    refine z_icmp_eq hC (pc := 17) (tgt := 29) dX8_sum_17 rfl (fun c10 => ?_) (fun c10 => ?_)
    · have hf := zif_t hf c10
      exact w_X8_sum_b29 kS frK loK hkS hC hL hno hQ k4 hk4 l0 s9 hf
    · have hf := zif_f hf c10
      refine z_aload_n hC (pc := 20) dX8_sum_20 rfl 0 rfl ?_
      obtain ⟨fs11, ha12, hf⟩ := z_rcN hf
      refine z_cI (rest := []) hf (fun v13 s14 hcall => z_runV hC (pc := 21) zcX8 0 ha12 (m_X8_next X.g l0 s9 s14 v13 hcall) (lw_V q2778 q2780 qs51 q108 q2781) hdV_X8_next ⟨(by omega), (by omega)⟩ rfl (Nat.le_of_ble_eq_true rfl) dX8_sum_21 rfl) (fun v13 s14 hf => ?_)
      refine z_bipush (v := 45) hC (pc := 24) dX8_sum_24 zkb_45 ?_
      refine z_icmp_ne hC (pc := 26) (tgt := 74) dX8_sum_26 rfl (fun c15 => ?_) (fun c15 => ?_)
      · have hf := zif_f hf c15
        exact z_return hC (pc := 74) hQ dX8_sum_74 hf
      · have hf := zif_t hf c15
        exact w_X8_sum_b29 kS frK loK hkS hC hL hno hQ k4 hk4 l0 s14 hf
def f_X8_sum_l4 (G : Nat → Nat) (kS : Nat → zS → Option (Unit × zS)) : Nat → Nat → zS → Option (Unit × zS)
  | 0 => fun _ _ => none
  | n + 1 => f_X8_sum_b4 G kS (f_X8_sum_l4 G kS n)
theorem w_X8_sum_l4 {X : zX} (kS : Nat → zS → Option (Unit × zS)) (frK loK : Nat) (hkS : ∀ (l0 : Nat) (s0 s1 : zS) (v : Unit), kS l0 s0 = some (v, s1) → ZM X.g yX8_sum (ws_ yX8_sum cX8_sum 2 none) frK loK [zr (some l0)] s0 (.inl none, s1)) (hC : ZC X RX8 cX8_sum none (frK + 8) (loK + 151)) (hL : X.nL = 2) (hno : ∀ x ∈ X.c.exceptionTable.toList, False) {r : Unit} {sF : zS} (hQ : ZQ X (.inl none, sF)) : ∀ (n : Nat) (l0 : Nat) (s0 : zS) (_ : f_X8_sum_l4 X.g.1 kS n l0 s0 = some (r, sF)), ZW X s0 4 [(0, zr (some l0))] [] := by
  intro n
  induction n with
  | zero => intro l0 s0 hf; exact absurd (show (none : Option (Unit × zS)) = some (r, sF) from hf) (fun z => nomatch z)
  | succ n ih => intro l0 s0 hf; exact w_X8_sum_b4 kS frK loK hkS hC hL hno hQ (f_X8_sum_l4 X.g.1 kS n) ih l0 s0 hf
def f_X8_sum (G : Nat → Nat) (kS : Nat → zS → Option (Unit × zS)) (l0 : Nat) (s0 : zS) : Option (Unit × zS) :=
zo (zrc s0 (some l0) 6) fun _ =>
zb (f_X8_term G kS l0 s0) fun _ s4 =>
f_X8_sum_l4 G kS 2000 l0 s4
set_option maxHeartbeats 4000000 in
theorem m_X8_sum (Γ : zG) (kS : Nat → zS → Option (Unit × zS)) (frK loK : Nat) (hkS : ∀ (l0 : Nat) (s0 s1 : zS) (v : Unit), kS l0 s0 = some (v, s1) → ZM Γ yX8_sum (ws_ yX8_sum cX8_sum 2 none) frK loK [zr (some l0)] s0 (.inl none, s1)) (l0 : Nat) (s0 s1 : zS) (r : Unit) (hf : f_X8_sum Γ.1 kS l0 s0 = some (r, s1)) : ZM Γ yX8_sum (ws_ yX8_sum cX8_sum 2 none) (frK + 8) (loK + 151) [zr (some l0)] s0 (.inl none, s1) := by
  refine ZM.of (own := RX8) (by decide) rfl (Nat.le_of_ble_eq_true rfl) ?_
  intro X hg hC hL hno hQ hin
  subst hg
  unfold f_X8_sum at hf
  refine z_aload_n hC (pc := 0) dX8_sum_0 rfl 0 rfl ?_
  obtain ⟨fs1, ha2, hf⟩ := z_rcN hf
  refine z_cU (rest := []) hf (fun v3 s4 hcall => z_runV hC (pc := 1) zcX8 0 ha2 (m_X8_term X.g kS frK loK hkS l0 s0 s4 v3 hcall) (lw_V q2854 q2856 qs62 q108 q2857) hdV_X8_term ⟨(by omega), (by omega)⟩ rfl (Nat.le_of_ble_eq_true rfl) dX8_sum_1 rfl) (fun _ s4 hf => ?_)
  exact w_X8_sum_l4 kS frK loK hkS hC hL hno hQ 2000 l0 s4 hf
/-- the recursion, to a depth -/
def f_X8_sumR (G : Nat → Nat) : Nat → Nat → zS → Option (Unit × zS)
  | 0 => fun _ _ => none
  | d + 1 => f_X8_sum G (f_X8_sumR G d)
theorem m_X8_sumR (Γ : zG) : ∀ (d : Nat) (l0 : Nat) (s0 s1 : zS) (r : Unit) (_ : f_X8_sumR Γ.1 d l0 s0 = some (r, s1)), ZM Γ yX8_sum (ws_ yX8_sum cX8_sum 2 none) (d * 8) (d * 151) [zr (some l0)] s0 (.inl none, s1) := by
  intro d
  induction d with
  | zero => intro l0 s0 s1 r hf; exact absurd (show (none : Option (Unit × zS)) = some (r, s1) from hf) (fun z => nomatch z)
  | succ d ih =>
    intro l0 s0 s1 r hf
    rw [Nat.succ_mul, Nat.succ_mul]
    exact m_X8_sum Γ (f_X8_sumR Γ.1 d) (d * 8) (d * 151) (fun l0 s0 s1 v h => ih l0 s0 s1 v h) l0 s0 s1 r hf
/-! BlockingShopModel.statement()V -/
def f_X8_statement_b79 (G : Nat → Nat) (l0 : Nat) (s0 : zS) : Option (Unit × zS) :=
zo (zrc s0 (some l0) 6) fun _ =>
zb (f_X8_expect G l0 59 s0) fun _ s4 =>
some ((), s4)
set_option maxHeartbeats 4000000 in
theorem w_X8_statement_b79 {X : zX} (hC : ZC X RX8 cX8_statement none 65 1229) (hL : X.nL = 2) (hno : ∀ x ∈ X.c.exceptionTable.toList, False) {r : Unit} {sF : zS} (hQ : ZQ X (.inl none, sF)) (l0 : Nat) (s0 : zS) (hf : f_X8_statement_b79 X.g.1 l0 s0 = some (r, sF)) : ZW X s0 79 [(0, zr (some l0))] [] := by
  unfold f_X8_statement_b79 at hf
  refine z_aload_n hC (pc := 79) dX8_statement_79 rfl 0 rfl ?_
  refine z_bipush (v := 59) hC (pc := 80) dX8_statement_80 zkb_59 ?_
  obtain ⟨fs1, ha2, hf⟩ := z_rcN hf
  refine z_cU (rest := []) hf (fun v3 s4 hcall => z_runV hC (pc := 82) zcX8 1 ha2 (m_X8_expect X.g l0 59 s0 s4 v3 hcall) (lw_V q2813 q2815 qs55 q108 q2816) hdV_X8_expect ⟨(Nat.le_of_ble_eq_true rfl), (Nat.le_of_ble_eq_true rfl)⟩ rfl (Nat.le_of_ble_eq_true rfl) dX8_statement_82 rfl) (fun _ s4 hf => ?_)
  exact z_return hC (pc := 85) hQ dX8_statement_85 hf
def f_X8_statement (G : Nat → Nat) (l0 : Nat) (s0 : zS) : Option (Unit × zS) :=
zo (zrc s0 (some l0) 6) fun _ =>
zb (f_X8_next G l0 s0) fun v3 s4 =>
zo (zgI s4 (some l0) 6 4) fun v5 =>
zo (zrc s4 (some l0) 6) fun _ =>
zb (f_X8_takeWord G l0 (some (G 11)) s4) fun v8 s9 =>
if v8 = 0 then (zo (zrc s9 (some l0) 6) fun _ =>
zb (f_X8_takeWord G l0 (some (G 13)) s9) fun v13 s14 =>
if v13 = 0 then (zo (zrc s14 (some l0) 6) fun _ =>
zb (f_X8_takeWord G l0 (some (G 14)) s14) fun v18 s19 =>
if v18 = 0 then (zo (zrc s19 (some l0) 6) fun _ =>
zb (f_X8_report G l0 (-2) v5 s19) fun _ s24 =>
f_X8_statement_b79 G l0 s24)
else (zo (zrc s19 (some l0) 6) fun _ =>
zb (f_X8_once G l0 0 v5 s19) fun _ s28 =>
zo (zgR s28 (some l0) 6 9) fun v29 =>
zo (zsI G s28 v29 0 3 1) fun s30 =>
zo (zrc s30 (some l0) 6) fun _ =>
zb (f_X8_sumR G 8 l0 s30) fun _ s34 =>
f_X8_statement_b79 G l0 s34))
else (zo (zrc s14 (some l0) 6) fun _ =>
zb (f_X8_readMachine G l0 s14) fun _ s38 =>
f_X8_statement_b79 G l0 s38))
else (zo (zrc s9 (some l0) 6) fun _ =>
zb (f_X8_readJob G l0 v5 s9) fun _ s42 =>
f_X8_statement_b79 G l0 s42)
set_option maxHeartbeats 4000000 in
theorem m_X8_statement (Γ : zG) (l0 : Nat) (s0 s1 : zS) (r : Unit) (hf : f_X8_statement Γ.1 l0 s0 = some (r, s1)) : ZM Γ yX8_statement (ws_ yX8_statement cX8_statement 2 none) 65 1229 [zr (some l0)] s0 (.inl none, s1) := by
  refine ZM.of (own := RX8) (by decide) rfl (Nat.le_of_ble_eq_true rfl) ?_
  intro X hg hC hL hno hQ hin
  subst hg
  unfold f_X8_statement at hf
  refine z_aload_n hC (pc := 0) dX8_statement_0 rfl 0 rfl ?_
  obtain ⟨fs1, ha2, hf⟩ := z_rcN hf
  refine z_cI (rest := []) hf (fun v3 s4 hcall => z_runV hC (pc := 1) zcX8 0 ha2 (m_X8_next X.g l0 s0 s4 v3 hcall) (lw_V q2778 q2780 qs51 q108 q2781) hdV_X8_next ⟨(Nat.le_of_ble_eq_true rfl), (Nat.le_of_ble_eq_true rfl)⟩ rfl (Nat.le_of_ble_eq_true rfl) dX8_statement_1 rfl) (fun v3 s4 hf => ?_)
  refine z_pop hC (pc := 4) dX8_statement_4 rfl ?_
  refine z_aload_n hC (pc := 5) dX8_statement_5 rfl 0 rfl ?_
  refine z_getI hC (pc := 6) in_X8 zcX8 4 (Nat.le_of_ble_eq_true rfl) (zLk.o hC q2677) zsm dX8_statement_6 hf (fun v5 hf => ?_)
  refine z_istore_n (lv' := [(1, zi v5), (0, zr (some l0))]) hC (pc := 9) hL dX8_statement_9 rfl (Nat.le_of_ble_eq_true rfl) rfl ?_
  refine z_aload_n hC (pc := 10) dX8_statement_10 rfl 1 rfl ?_
  refine z_lit (k := 11) hC (pc := 11) (List.mem_of_getElem? (i := 5) rfl) dX8_statement_11 ?_
  obtain ⟨fs6, ha7, hf⟩ := z_rcN hf
  refine z_cI (rest := []) hf (fun v8 s9 hcall => z_runV hC (pc := 13) zcX8 1 ha7 (m_X8_takeWord X.g l0 (some (X.g.1 11)) s4 s9 v8 hcall) (lw_V q2770 q2772 qs49 q108 q2773) hdV_X8_takeWord ⟨(Nat.le_of_ble_eq_true rfl), (Nat.le_of_ble_eq_true rfl)⟩ rfl (Nat.le_of_ble_eq_true rfl) dX8_statement_13 rfl) (fun v8 s9 hf => ?_)
  refine z_if_eq hC (pc := 16) (tgt := 27) dX8_statement_16 rfl (fun c10 => ?_) (fun c10 => ?_)
  · have hf := zif_t hf c10
    refine z_aload_n hC (pc := 27) dX8_statement_27 rfl 1 rfl ?_
    refine z_lit (k := 13) hC (pc := 28) (List.mem_of_getElem? (i := 7) rfl) dX8_statement_28 ?_
    obtain ⟨fs11, ha12, hf⟩ := z_rcN hf
    refine z_cI (rest := []) hf (fun v13 s14 hcall => z_runV hC (pc := 30) zcX8 1 ha12 (m_X8_takeWord X.g l0 (some (X.g.1 13)) s9 s14 v13 hcall) (lw_V q2770 q2772 qs49 q108 q2773) hdV_X8_takeWord ⟨(Nat.le_of_ble_eq_true rfl), (Nat.le_of_ble_eq_true rfl)⟩ rfl (Nat.le_of_ble_eq_true rfl) dX8_statement_30 rfl) (fun v13 s14 hf => ?_)
    refine z_if_eq hC (pc := 33) (tgt := 43) dX8_statement_33 rfl (fun c15 => ?_) (fun c15 => ?_)
    · have hf := zif_t hf c15
      refine z_aload_n hC (pc := 43) dX8_statement_43 rfl 1 rfl ?_
      refine z_lit (k := 14) hC (pc := 44) (List.mem_of_getElem? (i := 8) rfl) dX8_statement_44 ?_
      obtain ⟨fs16, ha17, hf⟩ := z_rcN hf
      refine z_cI (rest := []) hf (fun v18 s19 hcall => z_runV hC (pc := 46) zcX8 1 ha17 (m_X8_takeWord X.g l0 (some (X.g.1 14)) s14 s19 v18 hcall) (lw_V q2770 q2772 qs49 q108 q2773) hdV_X8_takeWord ⟨(Nat.le_of_ble_eq_true rfl), (Nat.le_of_ble_eq_true rfl)⟩ rfl (Nat.le_of_ble_eq_true rfl) dX8_statement_46 rfl) (fun v18 s19 hf => ?_)
      refine z_if_eq hC (pc := 49) (tgt := 72) dX8_statement_49 rfl (fun c20 => ?_) (fun c20 => ?_)
      · have hf := zif_t hf c20
        refine z_aload_n hC (pc := 72) dX8_statement_72 rfl 1 rfl ?_
        refine z_bipush (v := (-2)) hC (pc := 73) dX8_statement_73 zkb_m2 ?_
        refine z_iload_n hC (pc := 75) dX8_statement_75 rfl 0 rfl ?_
        obtain ⟨fs21, ha22, hf⟩ := z_rcN hf
        refine z_cU (rest := []) hf (fun v23 s24 hcall => z_runV hC (pc := 76) zcX8 2 ha22 (m_X8_report X.g l0 (-2) v5 s19 s24 v23 hcall) (lw_V q2798 q2800 qs53 q108 q2801) hdV_X8_report ⟨(Nat.le_of_ble_eq_true rfl), (Nat.le_of_ble_eq_true rfl)⟩ rfl (Nat.le_of_ble_eq_true rfl) dX8_statement_76 rfl) (fun _ s24 hf => ?_)
        refine ZW.perm (lv' := [(0, zr (some l0))]) [1] rfl ?_
        exact w_X8_statement_b79 hC hL hno hQ l0 s24 hf
      · have hf := zif_f hf c20
        refine z_aload_n hC (pc := 52) dX8_statement_52 rfl 1 rfl ?_
        refine z_iconst (v := 0) hC (pc := 53) dX8_statement_53 zki_0 ?_
        refine z_iload_n hC (pc := 54) dX8_statement_54 rfl 0 rfl ?_
        obtain ⟨fs25, ha26, hf⟩ := z_rcN hf
        refine z_cU (rest := []) hf (fun v27 s28 hcall => z_runV hC (pc := 55) zcX8 2 ha26 (m_X8_once X.g l0 0 v5 s19 s28 v27 hcall) (lw_V q2846 q2848 qs60 q108 q2849) hdV_X8_once ⟨(Nat.le_of_ble_eq_true rfl), (Nat.le_of_ble_eq_true rfl)⟩ rfl (Nat.le_of_ble_eq_true rfl) dX8_statement_55 rfl) (fun _ s28 hf => ?_)
        refine z_aload_n hC (pc := 58) dX8_statement_58 rfl 1 rfl ?_
        refine z_getR hC (pc := 59) in_X8 zcX8 9 (Nat.le_of_ble_eq_true rfl) (zLk.o hC q2682) zsm dX8_statement_59 hf (fun v29 hf => ?_)
        refine z_iconst (v := 3) hC (pc := 62) dX8_statement_62 zki_3 ?_
        refine z_iconst (v := 1) hC (pc := 63) dX8_statement_63 zki_1 ?_
        refine z_iast hC (pc := 64) dX8_statement_64 hf (fun s30 hf => ?_)
        refine z_aload_n hC (pc := 65) dX8_statement_65 rfl 1 rfl ?_
        obtain ⟨fs31, ha32, hf⟩ := z_rcN hf
        refine z_cU (rest := []) hf (fun v33 s34 hcall => z_runV hC (pc := 66) zcX8 0 ha32 (m_X8_sumR X.g 8 l0 s30 s34 v33 hcall) (lw_V q2850 q2852 qs61 q108 q2853) hdV_X8_sum ⟨(Nat.le_of_ble_eq_true rfl), (Nat.le_of_ble_eq_true rfl)⟩ rfl (Nat.le_of_ble_eq_true rfl) dX8_statement_66 rfl) (fun _ s34 hf => ?_)
        refine z_goto hC (pc := 69) (tgt := 79) dX8_statement_69 rfl ?_
        refine ZW.perm (lv' := [(0, zr (some l0))]) [1] rfl ?_
        exact w_X8_statement_b79 hC hL hno hQ l0 s34 hf
    · have hf := zif_f hf c15
      refine z_aload_n hC (pc := 36) dX8_statement_36 rfl 1 rfl ?_
      obtain ⟨fs35, ha36, hf⟩ := z_rcN hf
      refine z_cU (rest := []) hf (fun v37 s38 hcall => z_runV hC (pc := 37) zcX8 0 ha36 (m_X8_readMachine X.g l0 s14 s38 v37 hcall) (lw_V q2838 q2840 qs59 q108 q2841) hdV_X8_readMachine ⟨(Nat.le_of_ble_eq_true rfl), (Nat.le_of_ble_eq_true rfl)⟩ rfl (Nat.le_of_ble_eq_true rfl) dX8_statement_37 rfl) (fun _ s38 hf => ?_)
      refine z_goto hC (pc := 40) (tgt := 79) dX8_statement_40 rfl ?_
      refine ZW.perm (lv' := [(0, zr (some l0))]) [1] rfl ?_
      exact w_X8_statement_b79 hC hL hno hQ l0 s38 hf
  · have hf := zif_f hf c10
    refine z_aload_n hC (pc := 19) dX8_statement_19 rfl 1 rfl ?_
    refine z_iload_n hC (pc := 20) dX8_statement_20 rfl 0 rfl ?_
    obtain ⟨fs39, ha40, hf⟩ := z_rcN hf
    refine z_cU (rest := []) hf (fun v41 s42 hcall => z_runV hC (pc := 21) zcX8 1 ha40 (m_X8_readJob X.g l0 v5 s9 s42 v41 hcall) (lw_V q2822 q2824 qs57 q108 q2825) hdV_X8_readJob ⟨(Nat.le_of_ble_eq_true rfl), (Nat.le_of_ble_eq_true rfl)⟩ rfl (Nat.le_of_ble_eq_true rfl) dX8_statement_21 rfl) (fun _ s42 hf => ?_)
    refine z_goto hC (pc := 24) (tgt := 79) dX8_statement_24 rfl ?_
    refine ZW.perm (lv' := [(0, zr (some l0))]) [1] rfl ?_
    exact w_X8_statement_b79 hC hL hno hQ l0 s42 hf
/-! BlockingShopModel.load(I)I -/
def f_X8_load_b180 (G : Nat → Nat) (l0 : Nat) (s0 : zS) : Option (Int32 × zS) :=
zo (zgI s0 (some l0) 6 6) fun v1 =>
zo (zput G s0 (some l0) 6 7 (.int v1)) fun s2 =>
zo (zrc s2 (some l0) 6) fun _ =>
zb (f_X8_isGood G l0 s2) fun v5 s6 =>
if v5 = 0 then (zo (zgI s6 (some l0) 6 5) fun v22 =>
some (v22, s6))
else (zo (zrc s6 (some l0) 6) fun _ =>
zb (f_X8_remember G l0 s6) fun _ s11 =>
zo (zgR s11 (some l0) 6 9) fun v12 =>
zo (zgR s11 (some l0) 6 8) fun v13 =>
zb (f_X8_copy G v12 v13 s11) fun _ s15 =>
zo (zrc s15 (some l0) 6) fun _ =>
zb (f_X8_layFirst G l0 s15) fun _ s19 =>
zo (zgR s19 (some l0) 6 8) fun v20 =>
zo (zaI s19 v20 0 2) fun v21 =>
some (v21, s19))
set_option maxHeartbeats 4000000 in
theorem w_X8_load_b180 {X : zX} (hC : ZC X RX8 cX8_load (some .int) 66 1250) (hL : X.nL = 3) (hno : ∀ x ∈ X.c.exceptionTable.toList, False) {r : Int32} {sF : zS} (hQ : ZQ X (.inl (some (zi r)), sF)) (l0 : Nat) (s0 : zS) (hf : f_X8_load_b180 X.g.1 l0 s0 = some (r, sF)) : ZW X s0 180 [(0, zr (some l0))] [] := by
  unfold f_X8_load_b180 at hf
  refine z_aload_n hC (pc := 180) dX8_load_180 rfl 0 rfl ?_
  refine z_aload_n hC (pc := 181) dX8_load_181 rfl 0 rfl ?_
  refine z_getI hC (pc := 182) in_X8 zcX8 6 (Nat.le_of_ble_eq_true rfl) (zLk.o hC q2679) zsm dX8_load_182 hf (fun v1 hf => ?_)
  refine z_putV (v := zi v1) hC (pc := 185) in_X8 tyX8 tyX8_ok nmX8 zcX8 7 (Nat.le_of_ble_eq_true rfl) (zLk.o hC q2680) zsm (Or.inl rfl) rfl rfl dX8_load_185 hf (fun s2 hf => ?_)
  refine z_aload_n hC (pc := 188) dX8_load_188 rfl 0 rfl ?_
  obtain ⟨fs3, ha4, hf⟩ := z_rcN hf
  refine z_cI (rest := []) hf (fun v5 s6 hcall => z_runV hC (pc := 189) zcX8 0 ha4 (m_X8_isGood X.g l0 s2 s6 v5 hcall) (lw_V q2774 q2776 qs50 q108 q2777) hdV_X8_isGood ⟨(Nat.le_of_ble_eq_true rfl), (Nat.le_of_ble_eq_true rfl)⟩ rfl (Nat.le_of_ble_eq_true rfl) dX8_load_189 rfl) (fun v5 s6 hf => ?_)
  refine z_if_ne hC (pc := 192) (tgt := 200) dX8_load_192 rfl (fun c7 => ?_) (fun c7 => ?_)
  · have hf := zif_f hf c7
    refine z_aload_n hC (pc := 200) dX8_load_200 rfl 0 rfl ?_
    obtain ⟨fs8, ha9, hf⟩ := z_rcN hf
    refine z_cU (rest := []) hf (fun v10 s11 hcall => z_runV hC (pc := 201) zcX8 0 ha9 (m_X8_remember X.g l0 s6 s11 v10 hcall) (lw_V q2870 q2872 qs65 q108 q2873) hdV_X8_remember ⟨(Nat.le_of_ble_eq_true rfl), (Nat.le_of_ble_eq_true rfl)⟩ rfl (Nat.le_of_ble_eq_true rfl) dX8_load_201 rfl) (fun _ s11 hf => ?_)
    refine z_aload_n hC (pc := 204) dX8_load_204 rfl 0 rfl ?_
    refine z_getR hC (pc := 205) in_X8 zcX8 9 (Nat.le_of_ble_eq_true rfl) (zLk.o hC q2682) zsm dX8_load_205 hf (fun v12 hf => ?_)
    refine z_aload_n hC (pc := 208) dX8_load_208 rfl 0 rfl ?_
    refine z_getR hC (pc := 209) in_X8 zcX8 8 (Nat.le_of_ble_eq_true rfl) (zLk.o hC q2681) zsm dX8_load_209 hf (fun v13 hf => ?_)
    refine z_cU (rest := []) hf (fun v14 s15 hcall => z_runS hC (pc := 212) 2 (m_X8_copy X.g v12 v13 s11 s15 v14 hcall) (lw_S q2874 q2875 q108 q2876) hd_X8_copy ⟨(Nat.le_of_ble_eq_true rfl), (Nat.le_of_ble_eq_true rfl)⟩ rfl (Nat.le_of_ble_eq_true rfl) dX8_load_212 rfl) (fun _ s15 hf => ?_)
    refine z_aload_n hC (pc := 215) dX8_load_215 rfl 0 rfl ?_
    obtain ⟨fs16, ha17, hf⟩ := z_rcN hf
    refine z_cU (rest := []) hf (fun v18 s19 hcall => z_runV hC (pc := 216) zcX8 0 ha17 (m_X8_layFirst X.g l0 s15 s19 v18 hcall) (lw_V q2877 q2879 qs66 q108 q2880) hdV_X8_layFirst ⟨(Nat.le_of_ble_eq_true rfl), (Nat.le_of_ble_eq_true rfl)⟩ rfl (Nat.le_of_ble_eq_true rfl) dX8_load_216 rfl) (fun _ s19 hf => ?_)
    refine z_aload_n hC (pc := 219) dX8_load_219 rfl 0 rfl ?_
    refine z_getR hC (pc := 220) in_X8 zcX8 8 (Nat.le_of_ble_eq_true rfl) (zLk.o hC q2681) zsm dX8_load_220 hf (fun v20 hf => ?_)
    refine z_iconst (v := 2) hC (pc := 223) dX8_load_223 zki_2 ?_
    refine z_iald hC (pc := 224) dX8_load_224 hf (fun v21 hf => ?_)
    exact z_ireturn hC (pc := 225) hQ dX8_load_225 hf
  · have hf := zif_t hf c7
    refine z_aload_n hC (pc := 195) dX8_load_195 rfl 0 rfl ?_
    refine z_getI hC (pc := 196) in_X8 zcX8 5 (Nat.le_of_ble_eq_true rfl) (zLk.o hC q2678) zsm dX8_load_196 hf (fun v22 hf => ?_)
    exact z_ireturn hC (pc := 199) hQ dX8_load_199 hf
def f_X8_load_b161 (G : Nat → Nat) (l0 : Nat) (s0 : zS) : Option (Int32 × zS) :=
zo (zgR s0 (some l0) 6 9) fun v1 =>
zo (zaI s0 v1 0 2) fun v2 =>
if v2 = 0 then (zo (zgI s0 (some l0) 6 3) fun v4 =>
zo (zrc s0 (some l0) 6) fun _ =>
zb (f_X8_report G l0 (-2) v4 s0) fun _ s8 =>
f_X8_load_b180 G l0 s8)
else (f_X8_load_b180 G l0 s0)
set_option maxHeartbeats 4000000 in
theorem w_X8_load_b161 {X : zX} (hC : ZC X RX8 cX8_load (some .int) 66 1250) (hL : X.nL = 3) (hno : ∀ x ∈ X.c.exceptionTable.toList, False) {r : Int32} {sF : zS} (hQ : ZQ X (.inl (some (zi r)), sF)) (l0 : Nat) (s0 : zS) (hf : f_X8_load_b161 X.g.1 l0 s0 = some (r, sF)) : ZW X s0 161 [(0, zr (some l0))] [] := by
  unfold f_X8_load_b161 at hf
  refine z_aload_n hC (pc := 161) dX8_load_161 rfl 0 rfl ?_
  refine z_getR hC (pc := 162) in_X8 zcX8 9 (Nat.le_of_ble_eq_true rfl) (zLk.o hC q2682) zsm dX8_load_162 hf (fun v1 hf => ?_)
  refine z_iconst (v := 2) hC (pc := 165) dX8_load_165 zki_2 ?_
  refine z_iald hC (pc := 166) dX8_load_166 hf (fun v2 hf => ?_)
  refine z_if_ne hC (pc := 167) (tgt := 180) dX8_load_167 rfl (fun c3 => ?_) (fun c3 => ?_)
  · have hf := zif_f hf c3
    exact w_X8_load_b180 hC hL hno hQ l0 s0 hf
  · have hf := zif_t hf c3
    refine z_aload_n hC (pc := 170) dX8_load_170 rfl 0 rfl ?_
    refine z_bipush (v := (-2)) hC (pc := 171) dX8_load_171 zkb_m2 ?_
    refine z_aload_n hC (pc := 173) dX8_load_173 rfl 0 rfl ?_
    refine z_getI hC (pc := 174) in_X8 zcX8 3 (Nat.le_of_ble_eq_true rfl) (zLk.o hC q2676) zsm dX8_load_174 hf (fun v4 hf => ?_)
    obtain ⟨fs5, ha6, hf⟩ := z_rcN hf
    refine z_cU (rest := []) hf (fun v7 s8 hcall => z_runV hC (pc := 177) zcX8 2 ha6 (m_X8_report X.g l0 (-2) v4 s0 s8 v7 hcall) (lw_V q2798 q2800 qs53 q108 q2801) hdV_X8_report ⟨(Nat.le_of_ble_eq_true rfl), (Nat.le_of_ble_eq_true rfl)⟩ rfl (Nat.le_of_ble_eq_true rfl) dX8_load_177 rfl) (fun _ s8 hf => ?_)
    exact w_X8_load_b180 hC hL hno hQ l0 s8 hf
def f_X8_load_b139 (G : Nat → Nat) (k139 : Nat → zS → Option (Int32 × zS)) (l0 : Nat) (s0 : zS) : Option (Int32 × zS) :=
zo (zrc s0 (some l0) 6) fun _ =>
zb (f_X8_isGood G l0 s0) fun v3 s4 =>
if v3 = 0 then (f_X8_load_b161 G l0 s4)
else (zo (zrc s4 (some l0) 6) fun _ =>
zb (f_X8_next G l0 s4) fun v8 s9 =>
if v8 = (-1) then (f_X8_load_b161 G l0 s9)
else (zo (zrc s9 (some l0) 6) fun _ =>
zb (f_X8_statement G l0 s9) fun _ s14 =>
k139 l0 s14))
set_option maxHeartbeats 4000000 in
theorem w_X8_load_b139 {X : zX} (hC : ZC X RX8 cX8_load (some .int) 66 1250) (hL : X.nL = 3) (hno : ∀ x ∈ X.c.exceptionTable.toList, False) {r : Int32} {sF : zS} (hQ : ZQ X (.inl (some (zi r)), sF)) (k139 : Nat → zS → Option (Int32 × zS)) (hk139 : ∀ (l0 : Nat) (s0 : zS), k139 l0 s0 = some (r, sF) → ZW X s0 139 [(0, zr (some l0))] []) (l0 : Nat) (s0 : zS) (hf : f_X8_load_b139 X.g.1 k139 l0 s0 = some (r, sF)) : ZW X s0 139 [(0, zr (some l0))] [] := by
  unfold f_X8_load_b139 at hf
  refine z_aload_n hC (pc := 139) dX8_load_139 rfl 0 rfl ?_
  obtain ⟨fs1, ha2, hf⟩ := z_rcN hf
  refine z_cI (rest := []) hf (fun v3 s4 hcall => z_runV hC (pc := 140) zcX8 0 ha2 (m_X8_isGood X.g l0 s0 s4 v3 hcall) (lw_V q2774 q2776 qs50 q108 q2777) hdV_X8_isGood ⟨(Nat.le_of_ble_eq_true rfl), (Nat.le_of_ble_eq_true rfl)⟩ rfl (Nat.le_of_ble_eq_true rfl) dX8_load_140 rfl) (fun v3 s4 hf => ?_)
  refine z_if_eq hC (pc := 143) (tgt := 161) dX8_load_143 rfl (fun c5 => ?_) (fun c5 => ?_)
  · have hf := zif_t hf c5
    exact w_X8_load_b161 hC hL hno hQ l0 s4 hf
  · have hf := zif_f hf c5
    refine z_aload_n hC (pc := 146) dX8_load_146 rfl 0 rfl ?_
    obtain ⟨fs6, ha7, hf⟩ := z_rcN hf
    refine z_cI (rest := []) hf (fun v8 s9 hcall => z_runV hC (pc := 147) zcX8 0 ha7 (m_X8_next X.g l0 s4 s9 v8 hcall) (lw_V q2778 q2780 qs51 q108 q2781) hdV_X8_next ⟨(Nat.le_of_ble_eq_true rfl), (Nat.le_of_ble_eq_true rfl)⟩ rfl (Nat.le_of_ble_eq_true rfl) dX8_load_147 rfl) (fun v8 s9 hf => ?_)
    refine z_iconst (v := (-1)) hC (pc := 150) dX8_load_150 zki_m1 ?_
    refine z_icmp_eq hC (pc := 151) (tgt := 161) dX8_load_151 rfl (fun c10 => ?_) (fun c10 => ?_)
    · have hf := zif_t hf c10
      exact w_X8_load_b161 hC hL hno hQ l0 s9 hf
    · have hf := zif_f hf c10
      refine z_aload_n hC (pc := 154) dX8_load_154 rfl 0 rfl ?_
      obtain ⟨fs11, ha12, hf⟩ := z_rcN hf
      refine z_cU (rest := []) hf (fun v13 s14 hcall => z_runV hC (pc := 155) zcX8 0 ha12 (m_X8_statement X.g l0 s9 s14 v13 hcall) (lw_V q2817 q2819 qs56 q108 q2820) hdV_X8_statement ⟨(Nat.le_of_ble_eq_true rfl), (Nat.le_of_ble_eq_true rfl)⟩ rfl (Nat.le_of_ble_eq_true rfl) dX8_load_155 rfl) (fun _ s14 hf => ?_)
      refine z_goto hC (pc := 158) (tgt := 139) dX8_load_158 rfl ?_
      exact hk139 l0 s14 hf
def f_X8_load_l139 (G : Nat → Nat) : Nat → Nat → zS → Option (Int32 × zS)
  | 0 => fun _ _ => none
  | n + 1 => f_X8_load_b139 G (f_X8_load_l139 G n)
theorem w_X8_load_l139 {X : zX} (hC : ZC X RX8 cX8_load (some .int) 66 1250) (hL : X.nL = 3) (hno : ∀ x ∈ X.c.exceptionTable.toList, False) {r : Int32} {sF : zS} (hQ : ZQ X (.inl (some (zi r)), sF)) : ∀ (n : Nat) (l0 : Nat) (s0 : zS) (_ : f_X8_load_l139 X.g.1 n l0 s0 = some (r, sF)), ZW X s0 139 [(0, zr (some l0))] [] := by
  intro n
  induction n with
  | zero => intro l0 s0 hf; exact absurd (show (none : Option (Int32 × zS)) = some (r, sF) from hf) (fun z => nomatch z)
  | succ n ih => intro l0 s0 hf; exact w_X8_load_b139 hC hL hno hQ (f_X8_load_l139 X.g.1 n) ih l0 s0 hf
def f_X8_load_b108 (G : Nat → Nat) (l0 : Nat) (s0 : zS) : Option (Int32 × zS) :=
zo (zgR s0 (some l0) 6 9) fun v1 =>
zo (zrc s0 (some l0) 6) fun _ =>
zb (f_X8_number G l0 1 6 s0) fun v4 s5 =>
zo (zsI G s5 v1 0 0 v4) fun s6 =>
zo (zgR s6 (some l0) 6 9) fun v7 =>
zo (zrc s6 (some l0) 6) fun _ =>
zb (f_X8_number G l0 0 1 s6) fun v10 s11 =>
zo (zsI G s11 v7 0 1 v10) fun s12 =>
zo (zrc s12 (some l0) 6) fun _ =>
zb (f_X8_expect G l0 59 s12) fun _ s16 =>
f_X8_load_l139 G 2000 l0 s16
set_option maxHeartbeats 4000000 in
theorem w_X8_load_b108 {X : zX} (hC : ZC X RX8 cX8_load (some .int) 66 1250) (hL : X.nL = 3) (hno : ∀ x ∈ X.c.exceptionTable.toList, False) {r : Int32} {sF : zS} (hQ : ZQ X (.inl (some (zi r)), sF)) (l0 : Nat) (s0 : zS) (hf : f_X8_load_b108 X.g.1 l0 s0 = some (r, sF)) : ZW X s0 108 [(0, zr (some l0))] [] := by
  unfold f_X8_load_b108 at hf
  refine z_aload_n hC (pc := 108) dX8_load_108 rfl 0 rfl ?_
  refine z_getR hC (pc := 109) in_X8 zcX8 9 (Nat.le_of_ble_eq_true rfl) (zLk.o hC q2682) zsm dX8_load_109 hf (fun v1 hf => ?_)
  refine z_iconst (v := 0) hC (pc := 112) dX8_load_112 zki_0 ?_
  refine z_aload_n hC (pc := 113) dX8_load_113 rfl 0 rfl ?_
  refine z_iconst (v := 1) hC (pc := 114) dX8_load_114 zki_1 ?_
  refine z_bipush (v := 6) hC (pc := 115) dX8_load_115 zkb_6 ?_
  obtain ⟨fs2, ha3, hf⟩ := z_rcN hf
  refine z_cI (rest := [zi 0, zr v1]) hf (fun v4 s5 hcall => z_runV hC (pc := 117) zcX8 2 ha3 (m_X8_number X.g l0 1 6 s0 s5 v4 hcall) (lw_V q2802 q2804 qs54 q108 q2805) hdV_X8_number ⟨(Nat.le_of_ble_eq_true rfl), (Nat.le_of_ble_eq_true rfl)⟩ rfl (Nat.le_of_ble_eq_true rfl) dX8_load_117 rfl) (fun v4 s5 hf => ?_)
  refine z_iast hC (pc := 120) dX8_load_120 hf (fun s6 hf => ?_)
  refine z_aload_n hC (pc := 121) dX8_load_121 rfl 0 rfl ?_
  refine z_getR hC (pc := 122) in_X8 zcX8 9 (Nat.le_of_ble_eq_true rfl) (zLk.o hC q2682) zsm dX8_load_122 hf (fun v7 hf => ?_)
  refine z_iconst (v := 1) hC (pc := 125) dX8_load_125 zki_1 ?_
  refine z_aload_n hC (pc := 126) dX8_load_126 rfl 0 rfl ?_
  refine z_iconst (v := 0) hC (pc := 127) dX8_load_127 zki_0 ?_
  refine z_iconst (v := 1) hC (pc := 128) dX8_load_128 zki_1 ?_
  obtain ⟨fs8, ha9, hf⟩ := z_rcN hf
  refine z_cI (rest := [zi 1, zr v7]) hf (fun v10 s11 hcall => z_runV hC (pc := 129) zcX8 2 ha9 (m_X8_number X.g l0 0 1 s6 s11 v10 hcall) (lw_V q2802 q2804 qs54 q108 q2805) hdV_X8_number ⟨(Nat.le_of_ble_eq_true rfl), (Nat.le_of_ble_eq_true rfl)⟩ rfl (Nat.le_of_ble_eq_true rfl) dX8_load_129 rfl) (fun v10 s11 hf => ?_)
  refine z_iast hC (pc := 132) dX8_load_132 hf (fun s12 hf => ?_)
  refine z_aload_n hC (pc := 133) dX8_load_133 rfl 0 rfl ?_
  refine z_bipush (v := 59) hC (pc := 134) dX8_load_134 zkb_59 ?_
  obtain ⟨fs13, ha14, hf⟩ := z_rcN hf
  refine z_cU (rest := []) hf (fun v15 s16 hcall => z_runV hC (pc := 136) zcX8 1 ha14 (m_X8_expect X.g l0 59 s12 s16 v15 hcall) (lw_V q2813 q2815 qs55 q108 q2816) hdV_X8_expect ⟨(Nat.le_of_ble_eq_true rfl), (Nat.le_of_ble_eq_true rfl)⟩ rfl (Nat.le_of_ble_eq_true rfl) dX8_load_136 rfl) (fun _ s16 hf => ?_)
  exact w_X8_load_l139 hC hL hno hQ 2000 l0 s16 hf
def f_X8_load_b69 (G : Nat → Nat) (k69 : Nat → Int32 → zS → Option (Int32 × zS)) (l0 : Nat) (l2 : Int32) (s0 : zS) : Option (Int32 × zS) :=
if 1655 ≤ l2 then (zo (zrc s0 (some l0) 6) fun _ =>
zb (f_X8_takeWord G l0 (some (G 10)) s0) fun v4 s5 =>
if v4 = 0 then (zo (zgI s5 (some l0) 6 4) fun v7 =>
zo (zrc s5 (some l0) 6) fun _ =>
zb (f_X8_report G l0 (-2) v7 s5) fun _ s11 =>
f_X8_load_b108 G l0 s11)
else (f_X8_load_b108 G l0 s5))
else (zo (zgR s0 (some l0) 6 9) fun v12 =>
zo (zsI G s0 v12 0 l2 0) fun s13 =>
k69 l0 (l2 + 1) s13)
set_option maxHeartbeats 4000000 in
theorem w_X8_load_b69 {X : zX} (hC : ZC X RX8 cX8_load (some .int) 66 1250) (hL : X.nL = 3) (hno : ∀ x ∈ X.c.exceptionTable.toList, False) {r : Int32} {sF : zS} (hQ : ZQ X (.inl (some (zi r)), sF)) (k69 : Nat → Int32 → zS → Option (Int32 × zS)) (hk69 : ∀ (l0 : Nat) (l2 : Int32) (s0 : zS), k69 l0 l2 s0 = some (r, sF) → ZW X s0 69 [(0, zr (some l0)), (2, zi l2)] []) (l0 : Nat) (l2 : Int32) (s0 : zS) (hf : f_X8_load_b69 X.g.1 k69 l0 l2 s0 = some (r, sF)) : ZW X s0 69 [(0, zr (some l0)), (2, zi l2)] [] := by
  unfold f_X8_load_b69 at hf
  refine z_iload_n hC (pc := 69) dX8_load_69 rfl 1 rfl ?_
  refine z_sipush (v := 1655) hC (pc := 70) dX8_load_70 zks_1655 ?_
  refine z_icmp_ge hC (pc := 73) (tgt := 89) dX8_load_73 rfl (fun c1 => ?_) (fun c1 => ?_)
  · have hf := zif_t hf c1
    refine z_aload_n hC (pc := 89) dX8_load_89 rfl 0 rfl ?_
    refine z_lit (k := 10) hC (pc := 90) (List.mem_of_getElem? (i := 4) rfl) dX8_load_90 ?_
    obtain ⟨fs2, ha3, hf⟩ := z_rcN hf
    refine z_cI (rest := []) hf (fun v4 s5 hcall => z_runV hC (pc := 92) zcX8 1 ha3 (m_X8_takeWord X.g l0 (some (X.g.1 10)) s0 s5 v4 hcall) (lw_V q2770 q2772 qs49 q108 q2773) hdV_X8_takeWord ⟨(Nat.le_of_ble_eq_true rfl), (Nat.le_of_ble_eq_true rfl)⟩ rfl (Nat.le_of_ble_eq_true rfl) dX8_load_92 rfl) (fun v4 s5 hf => ?_)
    refine z_if_ne hC (pc := 95) (tgt := 108) dX8_load_95 rfl (fun c6 => ?_) (fun c6 => ?_)
    · have hf := zif_f hf c6
      refine ZW.perm (lv' := [(0, zr (some l0))]) [0] rfl ?_
      exact w_X8_load_b108 hC hL hno hQ l0 s5 hf
    · have hf := zif_t hf c6
      refine z_aload_n hC (pc := 98) dX8_load_98 rfl 0 rfl ?_
      refine z_bipush (v := (-2)) hC (pc := 99) dX8_load_99 zkb_m2 ?_
      refine z_aload_n hC (pc := 101) dX8_load_101 rfl 0 rfl ?_
      refine z_getI hC (pc := 102) in_X8 zcX8 4 (Nat.le_of_ble_eq_true rfl) (zLk.o hC q2677) zsm dX8_load_102 hf (fun v7 hf => ?_)
      obtain ⟨fs8, ha9, hf⟩ := z_rcN hf
      refine z_cU (rest := []) hf (fun v10 s11 hcall => z_runV hC (pc := 105) zcX8 2 ha9 (m_X8_report X.g l0 (-2) v7 s5 s11 v10 hcall) (lw_V q2798 q2800 qs53 q108 q2801) hdV_X8_report ⟨(Nat.le_of_ble_eq_true rfl), (Nat.le_of_ble_eq_true rfl)⟩ rfl (Nat.le_of_ble_eq_true rfl) dX8_load_105 rfl) (fun _ s11 hf => ?_)
      refine ZW.perm (lv' := [(0, zr (some l0))]) [0] rfl ?_
      exact w_X8_load_b108 hC hL hno hQ l0 s11 hf
  · have hf := zif_f hf c1
    refine z_aload_n hC (pc := 76) dX8_load_76 rfl 0 rfl ?_
    refine z_getR hC (pc := 77) in_X8 zcX8 9 (Nat.le_of_ble_eq_true rfl) (zLk.o hC q2682) zsm dX8_load_77 hf (fun v12 hf => ?_)
    refine z_iload_n hC (pc := 80) dX8_load_80 rfl 1 rfl ?_
    refine z_iconst (v := 0) hC (pc := 81) dX8_load_81 zki_0 ?_
    refine z_iast hC (pc := 82) dX8_load_82 hf (fun s13 hf => ?_)
    refine z_iinc (v := 1) (lv' := [(2, zi (l2 + 1)), (0, zr (some l0))]) hC (pc := 83) hL dX8_load_83 1 rfl zki_1 (Nat.le_of_ble_eq_true rfl) rfl ?_
    refine z_goto hC (pc := 86) (tgt := 69) dX8_load_86 rfl ?_
    refine ZW.perm (lv' := [(0, zr (some l0)), (2, zi (l2 + 1))]) [1, 0] rfl ?_
    exact hk69 l0 (l2 + 1) s13 hf
def f_X8_load_l69 (G : Nat → Nat) : Nat → Nat → Int32 → zS → Option (Int32 × zS)
  | 0 => fun _ _ _ => none
  | n + 1 => f_X8_load_b69 G (f_X8_load_l69 G n)
theorem w_X8_load_l69 {X : zX} (hC : ZC X RX8 cX8_load (some .int) 66 1250) (hL : X.nL = 3) (hno : ∀ x ∈ X.c.exceptionTable.toList, False) {r : Int32} {sF : zS} (hQ : ZQ X (.inl (some (zi r)), sF)) : ∀ (n : Nat) (l0 : Nat) (l2 : Int32) (s0 : zS) (_ : f_X8_load_l69 X.g.1 n l0 l2 s0 = some (r, sF)), ZW X s0 69 [(0, zr (some l0)), (2, zi l2)] [] := by
  intro n
  induction n with
  | zero => intro l0 l2 s0 hf; exact absurd (show (none : Option (Int32 × zS)) = some (r, sF) from hf) (fun z => nomatch z)
  | succ n ih => intro l0 l2 s0 hf; exact w_X8_load_b69 hC hL hno hQ (f_X8_load_l69 X.g.1 n) ih l0 l2 s0 hf
def f_X8_load_b23 (G : Nat → Nat) (l0 : Nat) (l1 : Int32) (t0 : Int32) (t1 : Option Nat) (s0 : zS) : Option (Int32 × zS) :=
zo (zrc s0 t1 6) fun a3 =>
zb (f_X8_fails G a3 t0 1 s0) fun v4 s5 =>
if v4 = 0 then (zo (zput G s5 (some l0) 6 2 (.int 0)) fun s7 =>
zo (zput G s7 (some l0) 6 3 (.int l1)) fun s8 =>
zo (zput G s8 (some l0) 6 4 (.int 0)) fun s9 =>
zo (zput G s9 (some l0) 6 5 (.int 0)) fun s10 =>
zo (zput G s10 (some l0) 6 6 (.int (-1))) fun s11 =>
zo (zput G s11 (some l0) 6 14 (.int 0)) fun s12 =>
zo (zput G s12 (some l0) 6 15 (.int 0)) fun s13 =>
f_X8_load_l69 G 2000 l0 0 s13)
else (some (0, s5))
set_option maxHeartbeats 4000000 in
theorem w_X8_load_b23 {X : zX} (hC : ZC X RX8 cX8_load (some .int) 66 1250) (hL : X.nL = 3) (hno : ∀ x ∈ X.c.exceptionTable.toList, False) {r : Int32} {sF : zS} (hQ : ZQ X (.inl (some (zi r)), sF)) (l0 : Nat) (l1 : Int32) (t0 : Int32) (t1 : Option Nat) (s0 : zS) (hf : f_X8_load_b23 X.g.1 l0 l1 t0 t1 s0 = some (r, sF)) : ZW X s0 23 [(0, zr (some l0)), (1, zi l1)] [zi t0, zr t1] := by
  unfold f_X8_load_b23 at hf
  refine z_iconst (v := 1) hC (pc := 23) dX8_load_23 zki_1 ?_
  obtain ⟨a3, fs1, rfl, ha2, hf⟩ := z_rcO hf
  refine z_cI (rest := []) hf (fun v4 s5 hcall => z_runV hC (pc := 24) zcX8 2 ha2 (m_X8_fails X.g a3 t0 1 s0 s5 v4 hcall) (lw_V q2765 q2767 qs48 q108 q2768) hdV_X8_fails ⟨(Nat.le_of_ble_eq_true rfl), (Nat.le_of_ble_eq_true rfl)⟩ rfl (Nat.le_of_ble_eq_true rfl) dX8_load_24 rfl) (fun v4 s5 hf => ?_)
  refine z_if_eq hC (pc := 27) (tgt := 32) dX8_load_27 rfl (fun c6 => ?_) (fun c6 => ?_)
  · have hf := zif_t hf c6
    refine z_aload_n hC (pc := 32) dX8_load_32 rfl 0 rfl ?_
    refine z_iconst (v := 0) hC (pc := 33) dX8_load_33 zki_0 ?_
    refine z_putV (v := zi 0) hC (pc := 34) in_X8 tyX8 tyX8_ok nmX8 zcX8 2 (Nat.le_of_ble_eq_true rfl) (zLk.o hC q2675) zsm (Or.inl rfl) rfl rfl dX8_load_34 hf (fun s7 hf => ?_)
    refine z_aload_n hC (pc := 37) dX8_load_37 rfl 0 rfl ?_
    refine z_iload_n hC (pc := 38) dX8_load_38 rfl 1 rfl ?_
    refine z_putV (v := zi l1) hC (pc := 39) in_X8 tyX8 tyX8_ok nmX8 zcX8 3 (Nat.le_of_ble_eq_true rfl) (zLk.o hC q2676) zsm (Or.inl rfl) rfl rfl dX8_load_39 hf (fun s8 hf => ?_)
    refine z_aload_n hC (pc := 42) dX8_load_42 rfl 0 rfl ?_
    refine z_iconst (v := 0) hC (pc := 43) dX8_load_43 zki_0 ?_
    refine z_putV (v := zi 0) hC (pc := 44) in_X8 tyX8 tyX8_ok nmX8 zcX8 4 (Nat.le_of_ble_eq_true rfl) (zLk.o hC q2677) zsm (Or.inl rfl) rfl rfl dX8_load_44 hf (fun s9 hf => ?_)
    refine z_aload_n hC (pc := 47) dX8_load_47 rfl 0 rfl ?_
    refine z_iconst (v := 0) hC (pc := 48) dX8_load_48 zki_0 ?_
    refine z_putV (v := zi 0) hC (pc := 49) in_X8 tyX8 tyX8_ok nmX8 zcX8 5 (Nat.le_of_ble_eq_true rfl) (zLk.o hC q2678) zsm (Or.inl rfl) rfl rfl dX8_load_49 hf (fun s10 hf => ?_)
    refine z_aload_n hC (pc := 52) dX8_load_52 rfl 0 rfl ?_
    refine z_iconst (v := (-1)) hC (pc := 53) dX8_load_53 zki_m1 ?_
    refine z_putV (v := zi (-1)) hC (pc := 54) in_X8 tyX8 tyX8_ok nmX8 zcX8 6 (Nat.le_of_ble_eq_true rfl) (zLk.o hC q2679) zsm (Or.inl rfl) rfl rfl dX8_load_54 hf (fun s11 hf => ?_)
    refine z_aload_n hC (pc := 57) dX8_load_57 rfl 0 rfl ?_
    refine z_iconst (v := 0) hC (pc := 58) dX8_load_58 zki_0 ?_
    refine z_putV (v := zi 0) hC (pc := 59) in_X8 tyX8 tyX8_ok nmX8 zcX8 14 (Nat.le_of_ble_eq_true rfl) (zLk.o hC q2687) zsm (Or.inl rfl) rfl rfl dX8_load_59 hf (fun s12 hf => ?_)
    refine z_aload_n hC (pc := 62) dX8_load_62 rfl 0 rfl ?_
    refine z_iconst (v := 0) hC (pc := 63) dX8_load_63 zki_0 ?_
    refine z_putV (v := zi 0) hC (pc := 64) in_X8 tyX8 tyX8_ok nmX8 zcX8 15 (Nat.le_of_ble_eq_true rfl) (zLk.o hC q2688) zsm (Or.inl rfl) rfl rfl dX8_load_64 hf (fun s13 hf => ?_)
    refine z_iconst (v := 0) hC (pc := 67) dX8_load_67 zki_0 ?_
    refine z_istore_n (lv' := [(2, zi 0), (0, zr (some l0)), (1, zi l1)]) hC (pc := 68) hL dX8_load_68 rfl (Nat.le_of_ble_eq_true rfl) rfl ?_
    refine ZW.perm (lv' := [(0, zr (some l0)), (2, zi 0)]) [1, 0] rfl ?_
    exact w_X8_load_l69 hC hL hno hQ 2000 l0 0 s13 hf
  · have hf := zif_f hf c6
    refine z_iconst (v := 0) hC (pc := 30) dX8_load_30 zki_0 ?_
    exact z_ireturn hC (pc := 31) hQ dX8_load_31 hf
def f_X8_load (G : Nat → Nat) (l0 : Nat) (l1 : Int32) (s0 : zS) : Option (Int32 × zS) :=
zo (zput G s0 (some l0) 6 0 (.int 0)) fun s1 =>
zo (zgI s1 (some l0) 6 2) fun v2 =>
zb (f_X8_in G l1 0 v2 s1) fun v3 s4 =>
if v3 = 0 then (f_X8_load_b23 G l0 l1 1 (some l0) s4)
else (f_X8_load_b23 G l0 l1 0 (some l0) s4)
set_option maxHeartbeats 4000000 in
theorem m_X8_load (Γ : zG) (l0 : Nat) (l1 : Int32) (s0 s1 : zS) (r : Int32) (hf : f_X8_load Γ.1 l0 l1 s0 = some (r, s1)) : ZM Γ yX8_load (ws_ yX8_load cX8_load 3 (some .int)) 66 1250 [zr (some l0), zi l1] s0 (.inl (some (zi r)), s1) := by
  refine ZM.of (own := RX8) (by decide) rfl (Nat.le_of_ble_eq_true rfl) ?_
  intro X hg hC hL hno hQ hin
  subst hg
  unfold f_X8_load at hf
  refine z_aload_n hC (pc := 0) dX8_load_0 rfl 0 rfl ?_
  refine z_iconst (v := 0) hC (pc := 1) dX8_load_1 zki_0 ?_
  refine z_putV (v := zi 0) hC (pc := 2) in_X8 tyX8 tyX8_ok nmX8 zcX8 0 (Nat.le_of_ble_eq_true rfl) (zLk.o hC q2673) zsm (Or.inl rfl) rfl rfl dX8_load_2 hf (fun s1 hf => ?_)
  refine z_aload_n hC (pc := 5) dX8_load_5 rfl 0 rfl ?_
  refine z_iload_n hC (pc := 6) dX8_load_6 rfl 1 rfl ?_
  refine z_iconst (v := 0) hC (pc := 7) dX8_load_7 zki_0 ?_
  refine z_aload_n hC (pc := 8) dX8_load_8 rfl 0 rfl ?_
  refine z_getI hC (pc := 9) in_X8 zcX8 2 (Nat.le_of_ble_eq_true rfl) (zLk.o hC q2675) zsm dX8_load_9 hf (fun v2 hf => ?_)
  refine z_cI (rest := [zr (some l0)]) hf (fun v3 s4 hcall => z_runS hC (pc := 12) 3 (m_X8_in X.g l1 0 v2 s1 s4 v3 hcall) (lw_S q2762 q2763 q108 q2764) hd_X8_in ⟨(Nat.le_of_ble_eq_true rfl), (Nat.le_of_ble_eq_true rfl)⟩ rfl (Nat.le_of_ble_eq_true rfl) dX8_load_12 rfl) (fun v3 s4 hf => ?_)
  refine z_if_ne hC (pc := 15) (tgt := 22) dX8_load_15 rfl (fun c5 => ?_) (fun c5 => ?_)
  · have hf := zif_f hf c5
    refine z_iconst (v := 0) hC (pc := 22) dX8_load_22 zki_0 ?_
    exact w_X8_load_b23 hC hL hno hQ l0 l1 0 (some l0) s4 hf
  · have hf := zif_t hf c5
    refine z_iconst (v := 1) hC (pc := 18) dX8_load_18 zki_1 ?_
    refine z_goto hC (pc := 19) (tgt := 23) dX8_load_19 rfl ?_
    exact w_X8_load_b23 hC hL hno hQ l0 l1 1 (some l0) s4 hf
/-! BlockingShopModel.longestBlock()I -/
def f_X8_longestBlock_b59 (G : Nat → Nat) (k15 : Nat → Int32 → Int32 → Int32 → zS → Option (Int32 × zS)) (l0 : Nat) (l1 : Int32) (l3 : Int32) (t0 : Int32) (s0 : zS) : Option (Int32 × zS) :=
zb (f_X8_max G l1 t0 s0) fun v1 s2 =>
k15 l0 v1 t0 (l3 + 1) s2
set_option maxHeartbeats 4000000 in
theorem w_X8_longestBlock_b59 {X : zX} (hC : ZC X RX8 cX8_longestBlock (some .int) 7 133) (hL : X.nL = 4) (hno : ∀ x ∈ X.c.exceptionTable.toList, False) {r : Int32} {sF : zS} (hQ : ZQ X (.inl (some (zi r)), sF)) (k15 : Nat → Int32 → Int32 → Int32 → zS → Option (Int32 × zS)) (hk15 : ∀ (l0 : Nat) (l1 : Int32) (l2 : Int32) (l3 : Int32) (s0 : zS), k15 l0 l1 l2 l3 s0 = some (r, sF) → ZW X s0 15 [(0, zr (some l0)), (1, zi l1), (2, zi l2), (3, zi l3)] []) (l0 : Nat) (l1 : Int32) (l3 : Int32) (t0 : Int32) (s0 : zS) (hf : f_X8_longestBlock_b59 X.g.1 k15 l0 l1 l3 t0 s0 = some (r, sF)) : ZW X s0 59 [(0, zr (some l0)), (1, zi l1), (3, zi l3)] [zi t0] := by
  unfold f_X8_longestBlock_b59 at hf
  refine z_istore_n (lv' := [(2, zi t0), (0, zr (some l0)), (1, zi l1), (3, zi l3)]) hC (pc := 59) hL dX8_longestBlock_59 rfl (Nat.le_of_ble_eq_true rfl) rfl ?_
  refine z_iload_n hC (pc := 60) dX8_longestBlock_60 rfl 2 rfl ?_
  refine z_iload_n hC (pc := 61) dX8_longestBlock_61 rfl 0 rfl ?_
  refine z_cI (rest := []) hf (fun v1 s2 hcall => z_runS hC (pc := 62) 2 (m_X8_max X.g l1 t0 s0 s2 v1 hcall) (lw_S q2964 q2965 q108 q2966) hd_X8_max ⟨(Nat.le_of_ble_eq_true rfl), (Nat.le_of_ble_eq_true rfl)⟩ rfl (Nat.le_of_ble_eq_true rfl) dX8_longestBlock_62 rfl) (fun v1 s2 hf => ?_)
  refine z_istore_n (lv' := [(1, zi v1), (2, zi t0), (0, zr (some l0)), (3, zi l3)]) hC (pc := 65) hL dX8_longestBlock_65 rfl (Nat.le_of_ble_eq_true rfl) rfl ?_
  refine z_iinc (v := 1) (lv' := [(3, zi (l3 + 1)), (1, zi v1), (2, zi t0), (0, zr (some l0))]) hC (pc := 66) hL dX8_longestBlock_66 3 rfl zki_1 (Nat.le_of_ble_eq_true rfl) rfl ?_
  refine z_goto hC (pc := 69) (tgt := 15) dX8_longestBlock_69 rfl ?_
  refine ZW.perm (lv' := [(0, zr (some l0)), (1, zi v1), (2, zi t0), (3, zi (l3 + 1))]) [3, 1, 2, 0] rfl ?_
  exact hk15 l0 v1 t0 (l3 + 1) s2 hf
def f_X8_longestBlock_b52 (G : Nat → Nat) (k15 : Nat → Int32 → Int32 → Int32 → zS → Option (Int32 × zS)) (l0 : Nat) (l1 : Int32) (l3 : Int32) (s0 : zS) : Option (Int32 × zS) :=
f_X8_longestBlock_b59 G k15 l0 l1 l3 1 s0
set_option maxHeartbeats 4000000 in
theorem w_X8_longestBlock_b52 {X : zX} (hC : ZC X RX8 cX8_longestBlock (some .int) 7 133) (hL : X.nL = 4) (hno : ∀ x ∈ X.c.exceptionTable.toList, False) {r : Int32} {sF : zS} (hQ : ZQ X (.inl (some (zi r)), sF)) (k15 : Nat → Int32 → Int32 → Int32 → zS → Option (Int32 × zS)) (hk15 : ∀ (l0 : Nat) (l1 : Int32) (l2 : Int32) (l3 : Int32) (s0 : zS), k15 l0 l1 l2 l3 s0 = some (r, sF) → ZW X s0 15 [(0, zr (some l0)), (1, zi l1), (2, zi l2), (3, zi l3)] []) (l0 : Nat) (l1 : Int32) (l3 : Int32) (s0 : zS) (hf : f_X8_longestBlock_b52 X.g.1 k15 l0 l1 l3 s0 = some (r, sF)) : ZW X s0 52 [(0, zr (some l0)), (1, zi l1), (3, zi l3)] [] := by
  unfold f_X8_longestBlock_b52 at hf
  refine z_iconst (v := 1) hC (pc := 52) dX8_longestBlock_52 zki_1 ?_
  refine z_goto hC (pc := 53) (tgt := 59) dX8_longestBlock_53 rfl ?_
  exact w_X8_longestBlock_b59 hC hL hno hQ k15 hk15 l0 l1 l3 1 s0 hf
def f_X8_longestBlock_b15 (G : Nat → Nat) (k15 : Nat → Int32 → Int32 → Int32 → zS → Option (Int32 × zS)) (l0 : Nat) (l1 : Int32) (l2 : Int32) (l3 : Int32) (s0 : zS) : Option (Int32 × zS) :=
zo (zgI s0 (some l0) 6 24) fun v1 =>
if v1 ≤ l3 then (some (l1, s0))
else (if l3 = 0 then (f_X8_longestBlock_b52 G k15 l0 l1 l3 s0)
else (zo (zgR s0 (some l0) 6 23) fun v4 =>
zo (zaI s0 v4 0 l3) fun v5 =>
zo (zrc s0 (some l0) 6) fun _ =>
zb (f_X8_machineOf G l0 v5 s0) fun v8 s9 =>
zo (zgR s9 (some l0) 6 23) fun v10 =>
zo (zaI s9 v10 0 (l3 - 1)) fun v11 =>
zo (zrc s9 (some l0) 6) fun _ =>
zb (f_X8_machineOf G l0 v11 s9) fun v14 s15 =>
if v8 = v14 then (f_X8_longestBlock_b59 G k15 l0 l1 l3 (l2 + 1) s15)
else (f_X8_longestBlock_b52 G k15 l0 l1 l3 s15)))
set_option maxHeartbeats 4000000 in
theorem w_X8_longestBlock_b15 {X : zX} (hC : ZC X RX8 cX8_longestBlock (some .int) 7 133) (hL : X.nL = 4) (hno : ∀ x ∈ X.c.exceptionTable.toList, False) {r : Int32} {sF : zS} (hQ : ZQ X (.inl (some (zi r)), sF)) (k15 : Nat → Int32 → Int32 → Int32 → zS → Option (Int32 × zS)) (hk15 : ∀ (l0 : Nat) (l1 : Int32) (l2 : Int32) (l3 : Int32) (s0 : zS), k15 l0 l1 l2 l3 s0 = some (r, sF) → ZW X s0 15 [(0, zr (some l0)), (1, zi l1), (2, zi l2), (3, zi l3)] []) (l0 : Nat) (l1 : Int32) (l2 : Int32) (l3 : Int32) (s0 : zS) (hf : f_X8_longestBlock_b15 X.g.1 k15 l0 l1 l2 l3 s0 = some (r, sF)) : ZW X s0 15 [(0, zr (some l0)), (1, zi l1), (2, zi l2), (3, zi l3)] [] := by
  unfold f_X8_longestBlock_b15 at hf
  refine z_iload_n hC (pc := 15) dX8_longestBlock_15 rfl 3 rfl ?_
  refine z_aload_n hC (pc := 16) dX8_longestBlock_16 rfl 0 rfl ?_
  refine z_getI hC (pc := 17) in_X8 zcX8 24 (Nat.le_of_ble_eq_true rfl) (zLk.o hC q2697) zsm dX8_longestBlock_17 hf (fun v1 hf => ?_)
  refine z_icmp_ge hC (pc := 20) (tgt := 72) dX8_longestBlock_20 rfl (fun c2 => ?_) (fun c2 => ?_)
  · have hf := zif_t hf c2
    refine z_iload_n hC (pc := 72) dX8_longestBlock_72 rfl 1 rfl ?_
    exact z_ireturn hC (pc := 73) hQ dX8_longestBlock_73 hf
  · have hf := zif_f hf c2
    refine z_iload_n hC (pc := 23) dX8_longestBlock_23 rfl 3 rfl ?_
    refine z_if_eq hC (pc := 24) (tgt := 52) dX8_longestBlock_24 rfl (fun c3 => ?_) (fun c3 => ?_)
    · have hf := zif_t hf c3
      refine ZW.perm (lv' := [(0, zr (some l0)), (1, zi l1), (3, zi l3)]) [0, 1, 3] rfl ?_
      exact w_X8_longestBlock_b52 hC hL hno hQ k15 hk15 l0 l1 l3 s0 hf
    · have hf := zif_f hf c3
      refine z_aload_n hC (pc := 27) dX8_longestBlock_27 rfl 0 rfl ?_
      refine z_aload_n hC (pc := 28) dX8_longestBlock_28 rfl 0 rfl ?_
      refine z_getR hC (pc := 29) in_X8 zcX8 23 (Nat.le_of_ble_eq_true rfl) (zLk.o hC q2696) zsm dX8_longestBlock_29 hf (fun v4 hf => ?_)
      refine z_iload_n hC (pc := 32) dX8_longestBlock_32 rfl 3 rfl ?_
      refine z_iald hC (pc := 33) dX8_longestBlock_33 hf (fun v5 hf => ?_)
      obtain ⟨fs6, ha7, hf⟩ := z_rcN hf
      refine z_cI (rest := []) hf (fun v8 s9 hcall => z_runV hC (pc := 34) zcX8 1 ha7 (m_X8_machineOf X.g l0 v5 s0 s9 v8 hcall) (lw_V q2913 q2915 qs70 q108 q2916) hdV_X8_machineOf ⟨(Nat.le_of_ble_eq_true rfl), (Nat.le_of_ble_eq_true rfl)⟩ rfl (Nat.le_of_ble_eq_true rfl) dX8_longestBlock_34 rfl) (fun v8 s9 hf => ?_)
      refine z_aload_n hC (pc := 37) dX8_longestBlock_37 rfl 0 rfl ?_
      refine z_aload_n hC (pc := 38) dX8_longestBlock_38 rfl 0 rfl ?_
      refine z_getR hC (pc := 39) in_X8 zcX8 23 (Nat.le_of_ble_eq_true rfl) (zLk.o hC q2696) zsm dX8_longestBlock_39 hf (fun v10 hf => ?_)
      refine z_iload_n hC (pc := 42) dX8_longestBlock_42 rfl 3 rfl ?_
      refine z_iconst (v := 1) hC (pc := 43) dX8_longestBlock_43 zki_1 ?_
      refine z_isub hC (pc := 44) dX8_longestBlock_44 ?_
      refine z_iald hC (pc := 45) dX8_longestBlock_45 hf (fun v11 hf => ?_)
      obtain ⟨fs12, ha13, hf⟩ := z_rcN hf
      refine z_cI (rest := [zi v8]) hf (fun v14 s15 hcall => z_runV hC (pc := 46) zcX8 1 ha13 (m_X8_machineOf X.g l0 v11 s9 s15 v14 hcall) (lw_V q2913 q2915 qs70 q108 q2916) hdV_X8_machineOf ⟨(Nat.le_of_ble_eq_true rfl), (Nat.le_of_ble_eq_true rfl)⟩ rfl (Nat.le_of_ble_eq_true rfl) dX8_longestBlock_46 rfl) (fun v14 s15 hf => ?_)
      refine z_icmp_eq hC (pc := 49) (tgt := 56) dX8_longestBlock_49 rfl (fun c16 => ?_) (fun c16 => ?_)
      · have hf := zif_t hf c16
        refine z_iload_n hC (pc := 56) dX8_longestBlock_56 rfl 2 rfl ?_
        refine z_iconst (v := 1) hC (pc := 57) dX8_longestBlock_57 zki_1 ?_
        refine z_iadd hC (pc := 58) dX8_longestBlock_58 ?_
        refine ZW.perm (lv' := [(0, zr (some l0)), (1, zi l1), (3, zi l3)]) [0, 1, 3] rfl ?_
        exact w_X8_longestBlock_b59 hC hL hno hQ k15 hk15 l0 l1 l3 (l2 + 1) s15 hf
      · have hf := zif_f hf c16
        refine ZW.perm (lv' := [(0, zr (some l0)), (1, zi l1), (3, zi l3)]) [0, 1, 3] rfl ?_
        exact w_X8_longestBlock_b52 hC hL hno hQ k15 hk15 l0 l1 l3 s15 hf
def f_X8_longestBlock_l15 (G : Nat → Nat) : Nat → Nat → Int32 → Int32 → Int32 → zS → Option (Int32 × zS)
  | 0 => fun _ _ _ _ _ => none
  | n + 1 => f_X8_longestBlock_b15 G (f_X8_longestBlock_l15 G n)
theorem w_X8_longestBlock_l15 {X : zX} (hC : ZC X RX8 cX8_longestBlock (some .int) 7 133) (hL : X.nL = 4) (hno : ∀ x ∈ X.c.exceptionTable.toList, False) {r : Int32} {sF : zS} (hQ : ZQ X (.inl (some (zi r)), sF)) : ∀ (n : Nat) (l0 : Nat) (l1 : Int32) (l2 : Int32) (l3 : Int32) (s0 : zS) (_ : f_X8_longestBlock_l15 X.g.1 n l0 l1 l2 l3 s0 = some (r, sF)), ZW X s0 15 [(0, zr (some l0)), (1, zi l1), (2, zi l2), (3, zi l3)] [] := by
  intro n
  induction n with
  | zero => intro l0 l1 l2 l3 s0 hf; exact absurd (show (none : Option (Int32 × zS)) = some (r, sF) from hf) (fun z => nomatch z)
  | succ n ih => intro l0 l1 l2 l3 s0 hf; exact w_X8_longestBlock_b15 hC hL hno hQ (f_X8_longestBlock_l15 X.g.1 n) ih l0 l1 l2 l3 s0 hf
def f_X8_longestBlock (G : Nat → Nat) (l0 : Nat) (s0 : zS) : Option (Int32 × zS) :=
zo (zput G s0 (some l0) 6 0 (.int 0)) fun s1 =>
zo (zrc s1 (some l0) 6) fun _ =>
zb (f_X8_findPath G l0 s1) fun _ s5 =>
f_X8_longestBlock_l15 G 2000 l0 0 0 0 s5
set_option maxHeartbeats 4000000 in
theorem m_X8_longestBlock (Γ : zG) (l0 : Nat) (s0 s1 : zS) (r : Int32) (hf : f_X8_longestBlock Γ.1 l0 s0 = some (r, s1)) : ZM Γ yX8_longestBlock (ws_ yX8_longestBlock cX8_longestBlock 4 (some .int)) 7 133 [zr (some l0)] s0 (.inl (some (zi r)), s1) := by
  refine ZM.of (own := RX8) (by decide) rfl (Nat.le_of_ble_eq_true rfl) ?_
  intro X hg hC hL hno hQ hin
  subst hg
  unfold f_X8_longestBlock at hf
  refine z_aload_n hC (pc := 0) dX8_longestBlock_0 rfl 0 rfl ?_
  refine z_iconst (v := 0) hC (pc := 1) dX8_longestBlock_1 zki_0 ?_
  refine z_putV (v := zi 0) hC (pc := 2) in_X8 tyX8 tyX8_ok nmX8 zcX8 0 (Nat.le_of_ble_eq_true rfl) (zLk.o hC q2673) zsm (Or.inl rfl) rfl rfl dX8_longestBlock_2 hf (fun s1 hf => ?_)
  refine z_aload_n hC (pc := 5) dX8_longestBlock_5 rfl 0 rfl ?_
  obtain ⟨fs2, ha3, hf⟩ := z_rcN hf
  refine z_cU (rest := []) hf (fun v4 s5 hcall => z_runV hC (pc := 6) zcX8 0 ha3 (m_X8_findPath X.g l0 s1 s5 v4 hcall) (lw_V q3027 q3029 qs85 q108 q3030) hdV_X8_findPath ⟨(Nat.le_of_ble_eq_true rfl), (Nat.le_of_ble_eq_true rfl)⟩ rfl (Nat.le_of_ble_eq_true rfl) dX8_longestBlock_6 rfl) (fun _ s5 hf => ?_)
  refine z_iconst (v := 0) hC (pc := 9) dX8_longestBlock_9 zki_0 ?_
  refine z_istore_n (lv' := [(1, zi 0), (0, zr (some l0))]) hC (pc := 10) hL dX8_longestBlock_10 rfl (Nat.le_of_ble_eq_true rfl) rfl ?_
  refine z_iconst (v := 0) hC (pc := 11) dX8_longestBlock_11 zki_0 ?_
  refine z_istore_n (lv' := [(2, zi 0), (1, zi 0), (0, zr (some l0))]) hC (pc := 12) hL dX8_longestBlock_12 rfl (Nat.le_of_ble_eq_true rfl) rfl ?_
  refine z_iconst (v := 0) hC (pc := 13) dX8_longestBlock_13 zki_0 ?_
  refine z_istore_n (lv' := [(3, zi 0), (2, zi 0), (1, zi 0), (0, zr (some l0))]) hC (pc := 14) hL dX8_longestBlock_14 rfl (Nat.le_of_ble_eq_true rfl) rfl ?_
  refine ZW.perm (lv' := [(0, zr (some l0)), (1, zi 0), (2, zi 0), (3, zi 0)]) [3, 2, 1, 0] rfl ?_
  exact w_X8_longestBlock_l15 hC hL hno hQ 2000 l0 0 0 0 s5 hf
/-! BlockingShopModel.machineCount()I -/
def f_X8_machineCount (G : Nat → Nat) (l0 : Nat) (s0 : zS) : Option (Int32 × zS) :=
zo (zput G s0 (some l0) 6 0 (.int 0)) fun s1 =>
zo (zgR s1 (some l0) 6 8) fun v2 =>
zo (zaI s1 v2 0 0) fun v3 =>
some (v3, s1)
set_option maxHeartbeats 4000000 in
theorem m_X8_machineCount (Γ : zG) (l0 : Nat) (s0 s1 : zS) (r : Int32) (hf : f_X8_machineCount Γ.1 l0 s0 = some (r, s1)) : ZM Γ yX8_machineCount (ws_ yX8_machineCount cX8_machineCount 1 (some .int)) 1 0 [zr (some l0)] s0 (.inl (some (zi r)), s1) := by
  refine ZM.of (own := RX8) (by decide) rfl (Nat.le_of_ble_eq_true rfl) ?_
  intro X hg hC hL hno hQ hin
  subst hg
  unfold f_X8_machineCount at hf
  refine z_aload_n hC (pc := 0) dX8_machineCount_0 rfl 0 rfl ?_
  refine z_iconst (v := 0) hC (pc := 1) dX8_machineCount_1 zki_0 ?_
  refine z_putV (v := zi 0) hC (pc := 2) in_X8 tyX8 tyX8_ok nmX8 zcX8 0 (Nat.le_of_ble_eq_true rfl) (zLk.o hC q2673) zsm (Or.inl rfl) rfl rfl dX8_machineCount_2 hf (fun s1 hf => ?_)
  refine z_aload_n hC (pc := 5) dX8_machineCount_5 rfl 0 rfl ?_
  refine z_getR hC (pc := 6) in_X8 zcX8 8 (Nat.le_of_ble_eq_true rfl) (zLk.o hC q2681) zsm dX8_machineCount_6 hf (fun v2 hf => ?_)
  refine z_iconst (v := 0) hC (pc := 9) dX8_machineCount_9 zki_0 ?_
  refine z_iald hC (pc := 10) dX8_machineCount_10 hf (fun v3 hf => ?_)
  exact z_ireturn hC (pc := 11) hQ dX8_machineCount_11 hf
/-! BlockingShopModel.makespan()I -/
def f_X8_makespan (G : Nat → Nat) (l0 : Nat) (s0 : zS) : Option (Int32 × zS) :=
zo (zput G s0 (some l0) 6 0 (.int 0)) fun s1 =>
zo (zrc s1 (some l0) 6) fun _ =>
zb (f_X8_spanNow G l0 s1) fun v4 s5 =>
some (v4, s5)
set_option maxHeartbeats 4000000 in
theorem m_X8_makespan (Γ : zG) (l0 : Nat) (s0 s1 : zS) (r : Int32) (hf : f_X8_makespan Γ.1 l0 s0 = some (r, s1)) : ZM Γ yX8_makespan (ws_ yX8_makespan cX8_makespan 1 (some .int)) 7 130 [zr (some l0)] s0 (.inl (some (zi r)), s1) := by
  refine ZM.of (own := RX8) (by decide) rfl (Nat.le_of_ble_eq_true rfl) ?_
  intro X hg hC hL hno hQ hin
  subst hg
  unfold f_X8_makespan at hf
  refine z_aload_n hC (pc := 0) dX8_makespan_0 rfl 0 rfl ?_
  refine z_iconst (v := 0) hC (pc := 1) dX8_makespan_1 zki_0 ?_
  refine z_putV (v := zi 0) hC (pc := 2) in_X8 tyX8 tyX8_ok nmX8 zcX8 0 (Nat.le_of_ble_eq_true rfl) (zLk.o hC q2673) zsm (Or.inl rfl) rfl rfl dX8_makespan_2 hf (fun s1 hf => ?_)
  refine z_aload_n hC (pc := 5) dX8_makespan_5 rfl 0 rfl ?_
  obtain ⟨fs2, ha3, hf⟩ := z_rcN hf
  refine z_cI (rest := []) hf (fun v4 s5 hcall => z_runV hC (pc := 6) zcX8 0 ha3 (m_X8_spanNow X.g l0 s1 s5 v4 hcall) (lw_V q2987 q2989 qs81 q108 q2990) hdV_X8_spanNow ⟨(Nat.le_of_ble_eq_true rfl), (Nat.le_of_ble_eq_true rfl)⟩ rfl (Nat.le_of_ble_eq_true rfl) dX8_makespan_6 rfl) (fun v4 s5 hf => ?_)
  exact z_ireturn hC (pc := 9) hQ dX8_makespan_9 hf
/-! BlockingShopModel.makespanAfter(II)I -/
def f_X8_makespanAfter (G : Nat → Nat) (l0 : Nat) (l1 : Int32) (l2 : Int32) (s0 : zS) : Option (Int32 × zS) :=
zo (zput G s0 (some l0) 6 0 (.int 0)) fun s1 =>
zo (zrc s1 (some l0) 6) fun _ =>
zb (f_X8_noSwap G l0 l1 l2 s1) fun v4 s5 =>
if v4 = 0 then (zo (zrc s5 (some l0) 6) fun _ =>
zb (f_X8_spanAfter G l0 l1 l2 s5) fun v9 s10 =>
some (v9, s10))
else (some (0, s5))
set_option maxHeartbeats 4000000 in
theorem m_X8_makespanAfter (Γ : zG) (l0 : Nat) (l1 : Int32) (l2 : Int32) (s0 s1 : zS) (r : Int32) (hf : f_X8_makespanAfter Γ.1 l0 l1 l2 s0 = some (r, s1)) : ZM Γ yX8_makespanAfter (ws_ yX8_makespanAfter cX8_makespanAfter 3 (some .int)) 8 153 [zr (some l0), zi l1, zi l2] s0 (.inl (some (zi r)), s1) := by
  refine ZM.of (own := RX8) (by decide) rfl (Nat.le_of_ble_eq_true rfl) ?_
  intro X hg hC hL hno hQ hin
  subst hg
  unfold f_X8_makespanAfter at hf
  refine z_aload_n hC (pc := 0) dX8_makespanAfter_0 rfl 0 rfl ?_
  refine z_iconst (v := 0) hC (pc := 1) dX8_makespanAfter_1 zki_0 ?_
  refine z_putV (v := zi 0) hC (pc := 2) in_X8 tyX8 tyX8_ok nmX8 zcX8 0 (Nat.le_of_ble_eq_true rfl) (zLk.o hC q2673) zsm (Or.inl rfl) rfl rfl dX8_makespanAfter_2 hf (fun s1 hf => ?_)
  refine z_aload_n hC (pc := 5) dX8_makespanAfter_5 rfl 0 rfl ?_
  refine z_iload_n hC (pc := 6) dX8_makespanAfter_6 rfl 1 rfl ?_
  refine z_iload_n hC (pc := 7) dX8_makespanAfter_7 rfl 2 rfl ?_
  obtain ⟨fs2, ha3, hf⟩ := z_rcN hf
  refine z_cI (rest := []) hf (fun v4 s5 hcall => z_runV hC (pc := 8) zcX8 2 ha3 (m_X8_noSwap X.g l0 l1 l2 s1 s5 v4 hcall) (lw_V q3051 q3053 qs87 q108 q3054) hdV_X8_noSwap ⟨(Nat.le_of_ble_eq_true rfl), (Nat.le_of_ble_eq_true rfl)⟩ rfl (Nat.le_of_ble_eq_true rfl) dX8_makespanAfter_8 rfl) (fun v4 s5 hf => ?_)
  refine z_if_eq hC (pc := 11) (tgt := 18) dX8_makespanAfter_11 rfl (fun c6 => ?_) (fun c6 => ?_)
  · have hf := zif_t hf c6
    refine z_aload_n hC (pc := 18) dX8_makespanAfter_18 rfl 0 rfl ?_
    refine z_iload_n hC (pc := 19) dX8_makespanAfter_19 rfl 1 rfl ?_
    refine z_iload_n hC (pc := 20) dX8_makespanAfter_20 rfl 2 rfl ?_
    obtain ⟨fs7, ha8, hf⟩ := z_rcN hf
    refine z_cI (rest := []) hf (fun v9 s10 hcall => z_runV hC (pc := 21) zcX8 2 ha8 (m_X8_spanAfter X.g l0 l1 l2 s5 s10 v9 hcall) (lw_V q3055 q3057 qs88 q108 q3058) hdV_X8_spanAfter ⟨(Nat.le_of_ble_eq_true rfl), (Nat.le_of_ble_eq_true rfl)⟩ rfl (Nat.le_of_ble_eq_true rfl) dX8_makespanAfter_21 rfl) (fun v9 s10 hf => ?_)
    exact z_ireturn hC (pc := 24) hQ dX8_makespanAfter_24 hf
  · have hf := zif_f hf c6
    refine z_iconst (v := 0) hC (pc := 14) dX8_makespanAfter_14 zki_0 ?_
    refine z_goto hC (pc := 15) (tgt := 24) dX8_makespanAfter_15 rfl ?_
    exact z_ireturn hC (pc := 24) hQ dX8_makespanAfter_24 hf
/-! BlockingShopModel.operation(III)I -/
def f_X8_operation_b29 (G : Nat → Nat) (l0 : Nat) (l1 : Int32) (l2 : Int32) (l3 : Int32) (t0 : Int32) (t1 : Option Nat) (s0 : zS) : Option (Int32 × zS) :=
zo (zrc s0 t1 6) fun a3 =>
zb (f_X8_fails G a3 t0 2 s0) fun v4 s5 =>
if v4 = 0 then (if l3 = 2 then (zo (zrc s5 (some l0) 6) fun _ =>
zb (f_X8_placeOf G l0 ((6 * l1) + l2) s5) fun v14 s15 =>
some (v14, s15))
else (zo (zgR s5 (some l0) 6 8) fun v8 =>
zb (f_X8_operationAt G ((6 * l1) + l2) s5) fun v9 s10 =>
zo (zaI s10 v8 0 (v9 + l3)) fun v11 =>
some (v11, s10)))
else (some (0, s5))
set_option maxHeartbeats 4000000 in
theorem w_X8_operation_b29 {X : zX} (hC : ZC X RX8 cX8_operation (some .int) 4 65) (hL : X.nL = 5) (hno : ∀ x ∈ X.c.exceptionTable.toList, False) {r : Int32} {sF : zS} (hQ : ZQ X (.inl (some (zi r)), sF)) (l0 : Nat) (l1 : Int32) (l2 : Int32) (l3 : Int32) (t0 : Int32) (t1 : Option Nat) (s0 : zS) (hf : f_X8_operation_b29 X.g.1 l0 l1 l2 l3 t0 t1 s0 = some (r, sF)) : ZW X s0 29 [(0, zr (some l0)), (1, zi l1), (2, zi l2), (3, zi l3)] [zi t0, zr t1] := by
  unfold f_X8_operation_b29 at hf
  refine z_iconst (v := 2) hC (pc := 29) dX8_operation_29 zki_2 ?_
  obtain ⟨a3, fs1, rfl, ha2, hf⟩ := z_rcO hf
  refine z_cI (rest := []) hf (fun v4 s5 hcall => z_runV hC (pc := 30) zcX8 2 ha2 (m_X8_fails X.g a3 t0 2 s0 s5 v4 hcall) (lw_V q2765 q2767 qs48 q108 q2768) hdV_X8_fails ⟨(Nat.le_of_ble_eq_true rfl), (Nat.le_of_ble_eq_true rfl)⟩ rfl (Nat.le_of_ble_eq_true rfl) dX8_operation_30 rfl) (fun v4 s5 hf => ?_)
  refine z_if_eq hC (pc := 33) (tgt := 38) dX8_operation_33 rfl (fun c6 => ?_) (fun c6 => ?_)
  · have hf := zif_t hf c6
    refine z_bipush (v := 6) hC (pc := 38) dX8_operation_38 zkb_6 ?_
    refine z_iload_n hC (pc := 40) dX8_operation_40 rfl 1 rfl ?_
    refine z_imul hC (pc := 41) dX8_operation_41 ?_
    refine z_iload_n hC (pc := 42) dX8_operation_42 rfl 2 rfl ?_
    refine z_iadd hC (pc := 43) dX8_operation_43 ?_
    refine z_istore (lv' := [(4, zi ((6 * l1) + l2)), (0, zr (some l0)), (1, zi l1), (2, zi l2), (3, zi l3)]) hC (pc := 44) hL dX8_operation_44 (Nat.le_of_ble_eq_true rfl) rfl ?_
    refine z_iload_n hC (pc := 46) dX8_operation_46 rfl 4 rfl ?_
    refine z_iconst (v := 2) hC (pc := 47) dX8_operation_47 zki_2 ?_
    refine z_icmp_ne hC (pc := 48) (tgt := 60) dX8_operation_48 rfl (fun c7 => ?_) (fun c7 => ?_)
    · have hf := zif_f hf c7
      refine z_aload_n hC (pc := 60) dX8_operation_60 rfl 1 rfl ?_
      refine z_getR hC (pc := 61) in_X8 zcX8 8 (Nat.le_of_ble_eq_true rfl) (zLk.o hC q2681) zsm dX8_operation_61 hf (fun v8 hf => ?_)
      refine z_iload hC (pc := 64) dX8_operation_64 0 rfl ?_
      refine z_cI (rest := [zr v8]) hf (fun v9 s10 hcall => z_runS hC (pc := 66) 1 (m_X8_operationAt X.g ((6 * l1) + l2) s5 s10 v9 hcall) (lw_S q2834 q2835 q108 q2836) hd_X8_operationAt ⟨(Nat.le_of_ble_eq_true rfl), (Nat.le_of_ble_eq_true rfl)⟩ rfl (Nat.le_of_ble_eq_true rfl) dX8_operation_66 rfl) (fun v9 s10 hf => ?_)
      refine z_iload_n hC (pc := 69) dX8_operation_69 rfl 4 rfl ?_
      refine z_iadd hC (pc := 70) dX8_operation_70 ?_
      refine z_iald hC (pc := 71) dX8_operation_71 hf (fun v11 hf => ?_)
      exact z_ireturn hC (pc := 72) hQ dX8_operation_72 hf
    · have hf := zif_t hf c7
      refine z_aload_n hC (pc := 51) dX8_operation_51 rfl 1 rfl ?_
      refine z_iload hC (pc := 52) dX8_operation_52 0 rfl ?_
      obtain ⟨fs12, ha13, hf⟩ := z_rcN hf
      refine z_cI (rest := []) hf (fun v14 s15 hcall => z_runV hC (pc := 54) zcX8 1 ha13 (m_X8_placeOf X.g l0 ((6 * l1) + l2) s5 s15 v14 hcall) (lw_V q2909 q2911 qs69 q108 q2912) hdV_X8_placeOf ⟨(Nat.le_of_ble_eq_true rfl), (Nat.le_of_ble_eq_true rfl)⟩ rfl (Nat.le_of_ble_eq_true rfl) dX8_operation_54 rfl) (fun v14 s15 hf => ?_)
      refine z_goto hC (pc := 57) (tgt := 72) dX8_operation_57 rfl ?_
      exact z_ireturn hC (pc := 72) hQ dX8_operation_72 hf
  · have hf := zif_f hf c6
    refine z_iconst (v := 0) hC (pc := 36) dX8_operation_36 zki_0 ?_
    exact z_ireturn hC (pc := 37) hQ dX8_operation_37 hf
def f_X8_operation (G : Nat → Nat) (l0 : Nat) (l1 : Int32) (l2 : Int32) (l3 : Int32) (s0 : zS) : Option (Int32 × zS) :=
zo (zput G s0 (some l0) 6 0 (.int 0)) fun s1 =>
zo (zrc s1 (some l0) 6) fun _ =>
zb (f_X8_noOperation G l0 l1 l2 s1) fun v4 s5 =>
if v4 = 0 then (zb (f_X8_in G l3 0 2 s5) fun v7 s8 =>
if v7 = 0 then (f_X8_operation_b29 G l0 l1 l2 l3 1 (some l0) s8)
else (f_X8_operation_b29 G l0 l1 l2 l3 0 (some l0) s8))
else (some (0, s5))
set_option maxHeartbeats 4000000 in
theorem m_X8_operation (Γ : zG) (l0 : Nat) (l1 : Int32) (l2 : Int32) (l3 : Int32) (s0 s1 : zS) (r : Int32) (hf : f_X8_operation Γ.1 l0 l1 l2 l3 s0 = some (r, s1)) : ZM Γ yX8_operation (ws_ yX8_operation cX8_operation 5 (some .int)) 4 65 [zr (some l0), zi l1, zi l2, zi l3] s0 (.inl (some (zi r)), s1) := by
  refine ZM.of (own := RX8) (by decide) rfl (Nat.le_of_ble_eq_true rfl) ?_
  intro X hg hC hL hno hQ hin
  subst hg
  unfold f_X8_operation at hf
  refine z_aload_n hC (pc := 0) dX8_operation_0 rfl 0 rfl ?_
  refine z_iconst (v := 0) hC (pc := 1) dX8_operation_1 zki_0 ?_
  refine z_putV (v := zi 0) hC (pc := 2) in_X8 tyX8 tyX8_ok nmX8 zcX8 0 (Nat.le_of_ble_eq_true rfl) (zLk.o hC q2673) zsm (Or.inl rfl) rfl rfl dX8_operation_2 hf (fun s1 hf => ?_)
  refine z_aload_n hC (pc := 5) dX8_operation_5 rfl 0 rfl ?_
  refine z_iload_n hC (pc := 6) dX8_operation_6 rfl 1 rfl ?_
  refine z_iload_n hC (pc := 7) dX8_operation_7 rfl 2 rfl ?_
  obtain ⟨fs2, ha3, hf⟩ := z_rcN hf
  refine z_cI (rest := []) hf (fun v4 s5 hcall => z_runV hC (pc := 8) zcX8 2 ha3 (m_X8_noOperation X.g l0 l1 l2 s1 s5 v4 hcall) (lw_V q2905 q2907 qs68 q108 q2908) hdV_X8_noOperation ⟨(Nat.le_of_ble_eq_true rfl), (Nat.le_of_ble_eq_true rfl)⟩ rfl (Nat.le_of_ble_eq_true rfl) dX8_operation_8 rfl) (fun v4 s5 hf => ?_)
  refine z_if_ne hC (pc := 11) (tgt := 36) dX8_operation_11 rfl (fun c6 => ?_) (fun c6 => ?_)
  · have hf := zif_f hf c6
    refine z_iconst (v := 0) hC (pc := 36) dX8_operation_36 zki_0 ?_
    exact z_ireturn hC (pc := 37) hQ dX8_operation_37 hf
  · have hf := zif_t hf c6
    refine z_aload_n hC (pc := 14) dX8_operation_14 rfl 0 rfl ?_
    refine z_iload_n hC (pc := 15) dX8_operation_15 rfl 3 rfl ?_
    refine z_iconst (v := 0) hC (pc := 16) dX8_operation_16 zki_0 ?_
    refine z_iconst (v := 2) hC (pc := 17) dX8_operation_17 zki_2 ?_
    refine z_cI (rest := [zr (some l0)]) hf (fun v7 s8 hcall => z_runS hC (pc := 18) 3 (m_X8_in X.g l3 0 2 s5 s8 v7 hcall) (lw_S q2762 q2763 q108 q2764) hd_X8_in ⟨(Nat.le_of_ble_eq_true rfl), (Nat.le_of_ble_eq_true rfl)⟩ rfl (Nat.le_of_ble_eq_true rfl) dX8_operation_18 rfl) (fun v7 s8 hf => ?_)
    refine z_if_ne hC (pc := 21) (tgt := 28) dX8_operation_21 rfl (fun c9 => ?_) (fun c9 => ?_)
    · have hf := zif_f hf c9
      refine z_iconst (v := 0) hC (pc := 28) dX8_operation_28 zki_0 ?_
      exact w_X8_operation_b29 hC hL hno hQ l0 l1 l2 l3 0 (some l0) s8 hf
    · have hf := zif_t hf c9
      refine z_iconst (v := 1) hC (pc := 24) dX8_operation_24 zki_1 ?_
      refine z_goto hC (pc := 25) (tgt := 29) dX8_operation_25 rfl ?_
      exact w_X8_operation_b29 hC hL hno hQ l0 l1 l2 l3 1 (some l0) s8 hf
/-! BlockingShopModel.operationCount(I)I -/
def f_X8_operationCount (G : Nat → Nat) (l0 : Nat) (l1 : Int32) (s0 : zS) : Option (Int32 × zS) :=
zo (zput G s0 (some l0) 6 0 (.int 0)) fun s1 =>
zo (zrc s1 (some l0) 6) fun _ =>
zb (f_X8_noJob G l0 l1 s1) fun v4 s5 =>
if v4 = 0 then (zo (zgR s5 (some l0) 6 8) fun v7 =>
zb (f_X8_job G l1 s5) fun v8 s9 =>
zo (zaI s9 v7 0 (v8 + 3)) fun v10 =>
some (v10, s9))
else (some (0, s5))
set_option maxHeartbeats 4000000 in
theorem m_X8_operationCount (Γ : zG) (l0 : Nat) (l1 : Int32) (s0 s1 : zS) (r : Int32) (hf : f_X8_operationCount Γ.1 l0 l1 s0 = some (r, s1)) : ZM Γ yX8_operationCount (ws_ yX8_operationCount cX8_operationCount 2 (some .int)) 3 43 [zr (some l0), zi l1] s0 (.inl (some (zi r)), s1) := by
  refine ZM.of (own := RX8) (by decide) rfl (Nat.le_of_ble_eq_true rfl) ?_
  intro X hg hC hL hno hQ hin
  subst hg
  unfold f_X8_operationCount at hf
  refine z_aload_n hC (pc := 0) dX8_operationCount_0 rfl 0 rfl ?_
  refine z_iconst (v := 0) hC (pc := 1) dX8_operationCount_1 zki_0 ?_
  refine z_putV (v := zi 0) hC (pc := 2) in_X8 tyX8 tyX8_ok nmX8 zcX8 0 (Nat.le_of_ble_eq_true rfl) (zLk.o hC q2673) zsm (Or.inl rfl) rfl rfl dX8_operationCount_2 hf (fun s1 hf => ?_)
  refine z_aload_n hC (pc := 5) dX8_operationCount_5 rfl 0 rfl ?_
  refine z_iload_n hC (pc := 6) dX8_operationCount_6 rfl 1 rfl ?_
  obtain ⟨fs2, ha3, hf⟩ := z_rcN hf
  refine z_cI (rest := []) hf (fun v4 s5 hcall => z_runV hC (pc := 7) zcX8 1 ha3 (m_X8_noJob X.g l0 l1 s1 s5 v4 hcall) (lw_V q2897 q2899 qs67 q108 q2900) hdV_X8_noJob ⟨(Nat.le_of_ble_eq_true rfl), (Nat.le_of_ble_eq_true rfl)⟩ rfl (Nat.le_of_ble_eq_true rfl) dX8_operationCount_7 rfl) (fun v4 s5 hf => ?_)
  refine z_if_eq hC (pc := 10) (tgt := 17) dX8_operationCount_10 rfl (fun c6 => ?_) (fun c6 => ?_)
  · have hf := zif_t hf c6
    refine z_aload_n hC (pc := 17) dX8_operationCount_17 rfl 0 rfl ?_
    refine z_getR hC (pc := 18) in_X8 zcX8 8 (Nat.le_of_ble_eq_true rfl) (zLk.o hC q2681) zsm dX8_operationCount_18 hf (fun v7 hf => ?_)
    refine z_iload_n hC (pc := 21) dX8_operationCount_21 rfl 1 rfl ?_
    refine z_cI (rest := [zr v7]) hf (fun v8 s9 hcall => z_runS hC (pc := 22) 1 (m_X8_job X.g l1 s5 s9 v8 hcall) (lw_S q2826 q2827 q108 q2828) hd_X8_job ⟨(Nat.le_of_ble_eq_true rfl), (Nat.le_of_ble_eq_true rfl)⟩ rfl (Nat.le_of_ble_eq_true rfl) dX8_operationCount_22 rfl) (fun v8 s9 hf => ?_)
    refine z_iconst (v := 3) hC (pc := 25) dX8_operationCount_25 zki_3 ?_
    refine z_iadd hC (pc := 26) dX8_operationCount_26 ?_
    refine z_iald hC (pc := 27) dX8_operationCount_27 hf (fun v10 hf => ?_)
    exact z_ireturn hC (pc := 28) hQ dX8_operationCount_28 hf
  · have hf := zif_f hf c6
    refine z_iconst (v := 0) hC (pc := 13) dX8_operationCount_13 zki_0 ?_
    refine z_goto hC (pc := 14) (tgt := 28) dX8_operationCount_14 rfl ?_
    exact z_ireturn hC (pc := 28) hQ dX8_operationCount_28 hf
/-! BlockingShopModel.orderAt(II)I -/
def f_X8_orderAt_b40 (G : Nat → Nat) (l0 : Nat) (l1 : Int32) (l2 : Int32) (t0 : Int32) (t1 : Option Nat) (s0 : zS) : Option (Int32 × zS) :=
zo (zrc s0 t1 6) fun a3 =>
zb (f_X8_fails G a3 t0 1 s0) fun v4 s5 =>
if v4 = 0 then (zo (zgR s5 (some l0) 6 8) fun v7 =>
zb (f_X8_machine G l1 s5) fun v8 s9 =>
zo (zaI s9 v7 0 ((v8 + 3) + l2)) fun v10 =>
zb (f_X8_told G v10 s9) fun v11 s12 =>
some (v11, s12))
else (some (0, s5))
set_option maxHeartbeats 4000000 in
theorem w_X8_orderAt_b40 {X : zX} (hC : ZC X RX8 cX8_orderAt (some .int) 3 43) (hL : X.nL = 3) (hno : ∀ x ∈ X.c.exceptionTable.toList, False) {r : Int32} {sF : zS} (hQ : ZQ X (.inl (some (zi r)), sF)) (l0 : Nat) (l1 : Int32) (l2 : Int32) (t0 : Int32) (t1 : Option Nat) (s0 : zS) (hf : f_X8_orderAt_b40 X.g.1 l0 l1 l2 t0 t1 s0 = some (r, sF)) : ZW X s0 40 [(0, zr (some l0)), (1, zi l1), (2, zi l2)] [zi t0, zr t1] := by
  unfold f_X8_orderAt_b40 at hf
  refine z_iconst (v := 1) hC (pc := 40) dX8_orderAt_40 zki_1 ?_
  obtain ⟨a3, fs1, rfl, ha2, hf⟩ := z_rcO hf
  refine z_cI (rest := []) hf (fun v4 s5 hcall => z_runV hC (pc := 41) zcX8 2 ha2 (m_X8_fails X.g a3 t0 1 s0 s5 v4 hcall) (lw_V q2765 q2767 qs48 q108 q2768) hdV_X8_fails ⟨(Nat.le_of_ble_eq_true rfl), (Nat.le_of_ble_eq_true rfl)⟩ rfl (Nat.le_of_ble_eq_true rfl) dX8_orderAt_41 rfl) (fun v4 s5 hf => ?_)
  refine z_if_eq hC (pc := 44) (tgt := 51) dX8_orderAt_44 rfl (fun c6 => ?_) (fun c6 => ?_)
  · have hf := zif_t hf c6
    refine z_aload_n hC (pc := 51) dX8_orderAt_51 rfl 0 rfl ?_
    refine z_getR hC (pc := 52) in_X8 zcX8 8 (Nat.le_of_ble_eq_true rfl) (zLk.o hC q2681) zsm dX8_orderAt_52 hf (fun v7 hf => ?_)
    refine z_iload_n hC (pc := 55) dX8_orderAt_55 rfl 1 rfl ?_
    refine z_cI (rest := [zr v7]) hf (fun v8 s9 hcall => z_runS hC (pc := 56) 1 (m_X8_machine X.g l1 s5 s9 v8 hcall) (lw_S q2842 q2843 q108 q2844) hd_X8_machine ⟨(Nat.le_of_ble_eq_true rfl), (Nat.le_of_ble_eq_true rfl)⟩ rfl (Nat.le_of_ble_eq_true rfl) dX8_orderAt_56 rfl) (fun v8 s9 hf => ?_)
    refine z_iconst (v := 3) hC (pc := 59) dX8_orderAt_59 zki_3 ?_
    refine z_iadd hC (pc := 60) dX8_orderAt_60 ?_
    refine z_iload_n hC (pc := 61) dX8_orderAt_61 rfl 2 rfl ?_
    refine z_iadd hC (pc := 62) dX8_orderAt_62 ?_
    refine z_iald hC (pc := 63) dX8_orderAt_63 hf (fun v10 hf => ?_)
    refine z_cI (rest := []) hf (fun v11 s12 hcall => z_runS hC (pc := 64) 1 (m_X8_told X.g v10 s9 s12 v11 hcall) (lw_S q2929 q2930 q108 q2931) hd_X8_told ⟨(Nat.le_of_ble_eq_true rfl), (Nat.le_of_ble_eq_true rfl)⟩ rfl (Nat.le_of_ble_eq_true rfl) dX8_orderAt_64 rfl) (fun v11 s12 hf => ?_)
    exact z_ireturn hC (pc := 67) hQ dX8_orderAt_67 hf
  · have hf := zif_f hf c6
    refine z_iconst (v := 0) hC (pc := 47) dX8_orderAt_47 zki_0 ?_
    refine z_goto hC (pc := 48) (tgt := 67) dX8_orderAt_48 rfl ?_
    exact z_ireturn hC (pc := 67) hQ dX8_orderAt_67 hf
def f_X8_orderAt (G : Nat → Nat) (l0 : Nat) (l1 : Int32) (l2 : Int32) (s0 : zS) : Option (Int32 × zS) :=
zo (zput G s0 (some l0) 6 0 (.int 0)) fun s1 =>
zo (zrc s1 (some l0) 6) fun _ =>
zb (f_X8_noMachine G l0 l1 s1) fun v4 s5 =>
if v4 = 0 then (zo (zgR s5 (some l0) 6 8) fun v7 =>
zb (f_X8_machine G l1 s5) fun v8 s9 =>
zo (zaI s9 v7 0 (v8 + 2)) fun v10 =>
zb (f_X8_in G l2 0 (v10 - 1) s9) fun v11 s12 =>
if v11 = 0 then (f_X8_orderAt_b40 G l0 l1 l2 1 (some l0) s12)
else (f_X8_orderAt_b40 G l0 l1 l2 0 (some l0) s12))
else (some (0, s5))
set_option maxHeartbeats 4000000 in
theorem m_X8_orderAt (Γ : zG) (l0 : Nat) (l1 : Int32) (l2 : Int32) (s0 s1 : zS) (r : Int32) (hf : f_X8_orderAt Γ.1 l0 l1 l2 s0 = some (r, s1)) : ZM Γ yX8_orderAt (ws_ yX8_orderAt cX8_orderAt 3 (some .int)) 3 43 [zr (some l0), zi l1, zi l2] s0 (.inl (some (zi r)), s1) := by
  refine ZM.of (own := RX8) (by decide) rfl (Nat.le_of_ble_eq_true rfl) ?_
  intro X hg hC hL hno hQ hin
  subst hg
  unfold f_X8_orderAt at hf
  refine z_aload_n hC (pc := 0) dX8_orderAt_0 rfl 0 rfl ?_
  refine z_iconst (v := 0) hC (pc := 1) dX8_orderAt_1 zki_0 ?_
  refine z_putV (v := zi 0) hC (pc := 2) in_X8 tyX8 tyX8_ok nmX8 zcX8 0 (Nat.le_of_ble_eq_true rfl) (zLk.o hC q2673) zsm (Or.inl rfl) rfl rfl dX8_orderAt_2 hf (fun s1 hf => ?_)
  refine z_aload_n hC (pc := 5) dX8_orderAt_5 rfl 0 rfl ?_
  refine z_iload_n hC (pc := 6) dX8_orderAt_6 rfl 1 rfl ?_
  obtain ⟨fs2, ha3, hf⟩ := z_rcN hf
  refine z_cI (rest := []) hf (fun v4 s5 hcall => z_runV hC (pc := 7) zcX8 1 ha3 (m_X8_noMachine X.g l0 l1 s1 s5 v4 hcall) (lw_V q2921 q2923 qs71 q108 q2924) hdV_X8_noMachine ⟨(Nat.le_of_ble_eq_true rfl), (Nat.le_of_ble_eq_true rfl)⟩ rfl (Nat.le_of_ble_eq_true rfl) dX8_orderAt_7 rfl) (fun v4 s5 hf => ?_)
  refine z_if_ne hC (pc := 10) (tgt := 47) dX8_orderAt_10 rfl (fun c6 => ?_) (fun c6 => ?_)
  · have hf := zif_f hf c6
    refine z_iconst (v := 0) hC (pc := 47) dX8_orderAt_47 zki_0 ?_
    refine z_goto hC (pc := 48) (tgt := 67) dX8_orderAt_48 rfl ?_
    exact z_ireturn hC (pc := 67) hQ dX8_orderAt_67 hf
  · have hf := zif_t hf c6
    refine z_aload_n hC (pc := 13) dX8_orderAt_13 rfl 0 rfl ?_
    refine z_iload_n hC (pc := 14) dX8_orderAt_14 rfl 2 rfl ?_
    refine z_iconst (v := 0) hC (pc := 15) dX8_orderAt_15 zki_0 ?_
    refine z_aload_n hC (pc := 16) dX8_orderAt_16 rfl 0 rfl ?_
    refine z_getR hC (pc := 17) in_X8 zcX8 8 (Nat.le_of_ble_eq_true rfl) (zLk.o hC q2681) zsm dX8_orderAt_17 hf (fun v7 hf => ?_)
    refine z_iload_n hC (pc := 20) dX8_orderAt_20 rfl 1 rfl ?_
    refine z_cI (rest := [zr v7, zi 0, zi l2, zr (some l0)]) hf (fun v8 s9 hcall => z_runS hC (pc := 21) 1 (m_X8_machine X.g l1 s5 s9 v8 hcall) (lw_S q2842 q2843 q108 q2844) hd_X8_machine ⟨(Nat.le_of_ble_eq_true rfl), (Nat.le_of_ble_eq_true rfl)⟩ rfl (Nat.le_of_ble_eq_true rfl) dX8_orderAt_21 rfl) (fun v8 s9 hf => ?_)
    refine z_iconst (v := 2) hC (pc := 24) dX8_orderAt_24 zki_2 ?_
    refine z_iadd hC (pc := 25) dX8_orderAt_25 ?_
    refine z_iald hC (pc := 26) dX8_orderAt_26 hf (fun v10 hf => ?_)
    refine z_iconst (v := 1) hC (pc := 27) dX8_orderAt_27 zki_1 ?_
    refine z_isub hC (pc := 28) dX8_orderAt_28 ?_
    refine z_cI (rest := [zr (some l0)]) hf (fun v11 s12 hcall => z_runS hC (pc := 29) 3 (m_X8_in X.g l2 0 (v10 - 1) s9 s12 v11 hcall) (lw_S q2762 q2763 q108 q2764) hd_X8_in ⟨(Nat.le_of_ble_eq_true rfl), (Nat.le_of_ble_eq_true rfl)⟩ rfl (Nat.le_of_ble_eq_true rfl) dX8_orderAt_29 rfl) (fun v11 s12 hf => ?_)
    refine z_if_ne hC (pc := 32) (tgt := 39) dX8_orderAt_32 rfl (fun c13 => ?_) (fun c13 => ?_)
    · have hf := zif_f hf c13
      refine z_iconst (v := 0) hC (pc := 39) dX8_orderAt_39 zki_0 ?_
      exact w_X8_orderAt_b40 hC hL hno hQ l0 l1 l2 0 (some l0) s12 hf
    · have hf := zif_t hf c13
      refine z_iconst (v := 1) hC (pc := 35) dX8_orderAt_35 zki_1 ?_
      refine z_goto hC (pc := 36) (tgt := 40) dX8_orderAt_36 rfl ?_
      exact w_X8_orderAt_b40 hC hL hno hQ l0 l1 l2 1 (some l0) s12 hf
/-! BlockingShopModel.orderLength(I)I -/
def f_X8_orderLength (G : Nat → Nat) (l0 : Nat) (l1 : Int32) (s0 : zS) : Option (Int32 × zS) :=
zo (zput G s0 (some l0) 6 0 (.int 0)) fun s1 =>
zo (zrc s1 (some l0) 6) fun _ =>
zb (f_X8_noMachine G l0 l1 s1) fun v4 s5 =>
if v4 = 0 then (zo (zgR s5 (some l0) 6 8) fun v7 =>
zb (f_X8_machine G l1 s5) fun v8 s9 =>
zo (zaI s9 v7 0 (v8 + 2)) fun v10 =>
some (v10, s9))
else (some (0, s5))
set_option maxHeartbeats 4000000 in
theorem m_X8_orderLength (Γ : zG) (l0 : Nat) (l1 : Int32) (s0 s1 : zS) (r : Int32) (hf : f_X8_orderLength Γ.1 l0 l1 s0 = some (r, s1)) : ZM Γ yX8_orderLength (ws_ yX8_orderLength cX8_orderLength 2 (some .int)) 3 43 [zr (some l0), zi l1] s0 (.inl (some (zi r)), s1) := by
  refine ZM.of (own := RX8) (by decide) rfl (Nat.le_of_ble_eq_true rfl) ?_
  intro X hg hC hL hno hQ hin
  subst hg
  unfold f_X8_orderLength at hf
  refine z_aload_n hC (pc := 0) dX8_orderLength_0 rfl 0 rfl ?_
  refine z_iconst (v := 0) hC (pc := 1) dX8_orderLength_1 zki_0 ?_
  refine z_putV (v := zi 0) hC (pc := 2) in_X8 tyX8 tyX8_ok nmX8 zcX8 0 (Nat.le_of_ble_eq_true rfl) (zLk.o hC q2673) zsm (Or.inl rfl) rfl rfl dX8_orderLength_2 hf (fun s1 hf => ?_)
  refine z_aload_n hC (pc := 5) dX8_orderLength_5 rfl 0 rfl ?_
  refine z_iload_n hC (pc := 6) dX8_orderLength_6 rfl 1 rfl ?_
  obtain ⟨fs2, ha3, hf⟩ := z_rcN hf
  refine z_cI (rest := []) hf (fun v4 s5 hcall => z_runV hC (pc := 7) zcX8 1 ha3 (m_X8_noMachine X.g l0 l1 s1 s5 v4 hcall) (lw_V q2921 q2923 qs71 q108 q2924) hdV_X8_noMachine ⟨(Nat.le_of_ble_eq_true rfl), (Nat.le_of_ble_eq_true rfl)⟩ rfl (Nat.le_of_ble_eq_true rfl) dX8_orderLength_7 rfl) (fun v4 s5 hf => ?_)
  refine z_if_eq hC (pc := 10) (tgt := 17) dX8_orderLength_10 rfl (fun c6 => ?_) (fun c6 => ?_)
  · have hf := zif_t hf c6
    refine z_aload_n hC (pc := 17) dX8_orderLength_17 rfl 0 rfl ?_
    refine z_getR hC (pc := 18) in_X8 zcX8 8 (Nat.le_of_ble_eq_true rfl) (zLk.o hC q2681) zsm dX8_orderLength_18 hf (fun v7 hf => ?_)
    refine z_iload_n hC (pc := 21) dX8_orderLength_21 rfl 1 rfl ?_
    refine z_cI (rest := [zr v7]) hf (fun v8 s9 hcall => z_runS hC (pc := 22) 1 (m_X8_machine X.g l1 s5 s9 v8 hcall) (lw_S q2842 q2843 q108 q2844) hd_X8_machine ⟨(Nat.le_of_ble_eq_true rfl), (Nat.le_of_ble_eq_true rfl)⟩ rfl (Nat.le_of_ble_eq_true rfl) dX8_orderLength_22 rfl) (fun v8 s9 hf => ?_)
    refine z_iconst (v := 2) hC (pc := 25) dX8_orderLength_25 zki_2 ?_
    refine z_iadd hC (pc := 26) dX8_orderLength_26 ?_
    refine z_iald hC (pc := 27) dX8_orderLength_27 hf (fun v10 hf => ?_)
    exact z_ireturn hC (pc := 28) hQ dX8_orderLength_28 hf
  · have hf := zif_f hf c6
    refine z_iconst (v := 0) hC (pc := 13) dX8_orderLength_13 zki_0 ?_
    refine z_goto hC (pc := 14) (tgt := 28) dX8_orderLength_14 rfl ?_
    exact z_ireturn hC (pc := 28) hQ dX8_orderLength_28 hf
/-! BlockingShopModel.place(III)I -/
def f_X8_place_b56 (G : Nat → Nat) (l0 : Nat) (l3 : Int32) (l4 : Int32) (t0 : Int32) (t1 : Option Nat) (s0 : zS) : Option (Int32 × zS) :=
zo (zrc s0 t1 6) fun a3 =>
zb (f_X8_fails G a3 t0 1 s0) fun v4 s5 =>
if v4 = 0 then (zo (zgR s5 (some l0) 6 8) fun v7 =>
zo (zgR s5 (some l0) 6 10) fun v8 =>
zb (f_X8_copy G v7 v8 s5) fun _ s10 =>
zo (zrc s10 (some l0) 6) fun _ =>
zb (f_X8_bring G l0 l4 l3 s10) fun _ s14 =>
zo (zrc s14 (some l0) 6) fun _ =>
zb (f_X8_isDeadlocked G l0 s14) fun v17 s18 =>
zo (zgR s18 (some l0) 6 10) fun v19 =>
zo (zgR s18 (some l0) 6 8) fun v20 =>
zb (f_X8_copy G v19 v20 s18) fun _ s22 =>
zo (zrc s22 (some l0) 6) fun _ =>
zb (f_X8_fails G l0 v17 2 s22) fun v25 s26 =>
if v25 = 0 then (zo (zrc s26 (some l0) 6) fun _ =>
zb (f_X8_remember G l0 s26) fun _ s31 =>
zo (zrc s31 (some l0) 6) fun _ =>
zb (f_X8_bring G l0 l4 l3 s31) fun _ s35 =>
zo (zrc s35 (some l0) 6) fun _ =>
zb (f_X8_spanNow G l0 s35) fun v38 s39 =>
some (v38, s39))
else (some (0, s26)))
else (some (0, s5))
set_option maxHeartbeats 4000000 in
theorem w_X8_place_b56 {X : zX} (hC : ZC X RX8 cX8_place (some .int) 7 130) (hL : X.nL = 6) (hno : ∀ x ∈ X.c.exceptionTable.toList, False) {r : Int32} {sF : zS} (hQ : ZQ X (.inl (some (zi r)), sF)) (l0 : Nat) (l3 : Int32) (l4 : Int32) (t0 : Int32) (t1 : Option Nat) (s0 : zS) (hf : f_X8_place_b56 X.g.1 l0 l3 l4 t0 t1 s0 = some (r, sF)) : ZW X s0 56 [(0, zr (some l0)), (3, zi l3), (4, zi l4)] [zi t0, zr t1] := by
  unfold f_X8_place_b56 at hf
  refine z_iconst (v := 1) hC (pc := 56) dX8_place_56 zki_1 ?_
  obtain ⟨a3, fs1, rfl, ha2, hf⟩ := z_rcO hf
  refine z_cI (rest := []) hf (fun v4 s5 hcall => z_runV hC (pc := 57) zcX8 2 ha2 (m_X8_fails X.g a3 t0 1 s0 s5 v4 hcall) (lw_V q2765 q2767 qs48 q108 q2768) hdV_X8_fails ⟨(Nat.le_of_ble_eq_true rfl), (Nat.le_of_ble_eq_true rfl)⟩ rfl (Nat.le_of_ble_eq_true rfl) dX8_place_57 rfl) (fun v4 s5 hf => ?_)
  refine z_if_eq hC (pc := 60) (tgt := 65) dX8_place_60 rfl (fun c6 => ?_) (fun c6 => ?_)
  · have hf := zif_t hf c6
    refine z_aload_n hC (pc := 65) dX8_place_65 rfl 0 rfl ?_
    refine z_getR hC (pc := 66) in_X8 zcX8 8 (Nat.le_of_ble_eq_true rfl) (zLk.o hC q2681) zsm dX8_place_66 hf (fun v7 hf => ?_)
    refine z_aload_n hC (pc := 69) dX8_place_69 rfl 0 rfl ?_
    refine z_getR hC (pc := 70) in_X8 zcX8 10 (Nat.le_of_ble_eq_true rfl) (zLk.o hC q2683) zsm dX8_place_70 hf (fun v8 hf => ?_)
    refine z_cU (rest := []) hf (fun v9 s10 hcall => z_runS hC (pc := 73) 2 (m_X8_copy X.g v7 v8 s5 s10 v9 hcall) (lw_S q2874 q2875 q108 q2876) hd_X8_copy ⟨(Nat.le_of_ble_eq_true rfl), (Nat.le_of_ble_eq_true rfl)⟩ rfl (Nat.le_of_ble_eq_true rfl) dX8_place_73 rfl) (fun _ s10 hf => ?_)
    refine z_aload_n hC (pc := 76) dX8_place_76 rfl 0 rfl ?_
    refine z_iload hC (pc := 77) dX8_place_77 2 rfl ?_
    refine z_iload_n hC (pc := 79) dX8_place_79 rfl 1 rfl ?_
    obtain ⟨fs11, ha12, hf⟩ := z_rcN hf
    refine z_cU (rest := []) hf (fun v13 s14 hcall => z_runV hC (pc := 80) zcX8 2 ha12 (m_X8_bring X.g l0 l4 l3 s10 s14 v13 hcall) (lw_V q3098 q3100 qs93 q108 q3101) hdV_X8_bring ⟨(Nat.le_of_ble_eq_true rfl), (Nat.le_of_ble_eq_true rfl)⟩ rfl (Nat.le_of_ble_eq_true rfl) dX8_place_80 rfl) (fun _ s14 hf => ?_)
    refine z_aload_n hC (pc := 83) dX8_place_83 rfl 0 rfl ?_
    obtain ⟨fs15, ha16, hf⟩ := z_rcN hf
    refine z_cI (rest := []) hf (fun v17 s18 hcall => z_runV hC (pc := 84) zcX8 0 ha16 (m_X8_isDeadlocked X.g l0 s14 s18 v17 hcall) (lw_V q3063 q3065 qs90 q108 q3066) hdV_X8_isDeadlocked ⟨(Nat.le_of_ble_eq_true rfl), (Nat.le_of_ble_eq_true rfl)⟩ rfl (Nat.le_of_ble_eq_true rfl) dX8_place_84 rfl) (fun v17 s18 hf => ?_)
    refine z_istore (lv' := [(5, zi v17), (0, zr (some l0)), (3, zi l3), (4, zi l4)]) hC (pc := 87) hL dX8_place_87 (Nat.le_of_ble_eq_true rfl) rfl ?_
    refine z_aload_n hC (pc := 89) dX8_place_89 rfl 1 rfl ?_
    refine z_getR hC (pc := 90) in_X8 zcX8 10 (Nat.le_of_ble_eq_true rfl) (zLk.o hC q2683) zsm dX8_place_90 hf (fun v19 hf => ?_)
    refine z_aload_n hC (pc := 93) dX8_place_93 rfl 1 rfl ?_
    refine z_getR hC (pc := 94) in_X8 zcX8 8 (Nat.le_of_ble_eq_true rfl) (zLk.o hC q2681) zsm dX8_place_94 hf (fun v20 hf => ?_)
    refine z_cU (rest := []) hf (fun v21 s22 hcall => z_runS hC (pc := 97) 2 (m_X8_copy X.g v19 v20 s18 s22 v21 hcall) (lw_S q2874 q2875 q108 q2876) hd_X8_copy ⟨(Nat.le_of_ble_eq_true rfl), (Nat.le_of_ble_eq_true rfl)⟩ rfl (Nat.le_of_ble_eq_true rfl) dX8_place_97 rfl) (fun _ s22 hf => ?_)
    refine z_aload_n hC (pc := 100) dX8_place_100 rfl 1 rfl ?_
    refine z_iload hC (pc := 101) dX8_place_101 0 rfl ?_
    refine z_iconst (v := 2) hC (pc := 103) dX8_place_103 zki_2 ?_
    obtain ⟨fs23, ha24, hf⟩ := z_rcN hf
    refine z_cI (rest := []) hf (fun v25 s26 hcall => z_runV hC (pc := 104) zcX8 2 ha24 (m_X8_fails X.g l0 v17 2 s22 s26 v25 hcall) (lw_V q2765 q2767 qs48 q108 q2768) hdV_X8_fails ⟨(Nat.le_of_ble_eq_true rfl), (Nat.le_of_ble_eq_true rfl)⟩ rfl (Nat.le_of_ble_eq_true rfl) dX8_place_104 rfl) (fun v25 s26 hf => ?_)
    refine z_if_eq hC (pc := 107) (tgt := 112) dX8_place_107 rfl (fun c27 => ?_) (fun c27 => ?_)
    · have hf := zif_t hf c27
      refine z_aload_n hC (pc := 112) dX8_place_112 rfl 1 rfl ?_
      obtain ⟨fs28, ha29, hf⟩ := z_rcN hf
      refine z_cU (rest := []) hf (fun v30 s31 hcall => z_runV hC (pc := 113) zcX8 0 ha29 (m_X8_remember X.g l0 s26 s31 v30 hcall) (lw_V q2870 q2872 qs65 q108 q2873) hdV_X8_remember ⟨(Nat.le_of_ble_eq_true rfl), (Nat.le_of_ble_eq_true rfl)⟩ rfl (Nat.le_of_ble_eq_true rfl) dX8_place_113 rfl) (fun _ s31 hf => ?_)
      refine z_aload_n hC (pc := 116) dX8_place_116 rfl 1 rfl ?_
      refine z_iload hC (pc := 117) dX8_place_117 3 rfl ?_
      refine z_iload_n hC (pc := 119) dX8_place_119 rfl 2 rfl ?_
      obtain ⟨fs32, ha33, hf⟩ := z_rcN hf
      refine z_cU (rest := []) hf (fun v34 s35 hcall => z_runV hC (pc := 120) zcX8 2 ha33 (m_X8_bring X.g l0 l4 l3 s31 s35 v34 hcall) (lw_V q3098 q3100 qs93 q108 q3101) hdV_X8_bring ⟨(Nat.le_of_ble_eq_true rfl), (Nat.le_of_ble_eq_true rfl)⟩ rfl (Nat.le_of_ble_eq_true rfl) dX8_place_120 rfl) (fun _ s35 hf => ?_)
      refine z_aload_n hC (pc := 123) dX8_place_123 rfl 1 rfl ?_
      obtain ⟨fs36, ha37, hf⟩ := z_rcN hf
      refine z_cI (rest := []) hf (fun v38 s39 hcall => z_runV hC (pc := 124) zcX8 0 ha37 (m_X8_spanNow X.g l0 s35 s39 v38 hcall) (lw_V q2987 q2989 qs81 q108 q2990) hdV_X8_spanNow ⟨(Nat.le_of_ble_eq_true rfl), (Nat.le_of_ble_eq_true rfl)⟩ rfl (Nat.le_of_ble_eq_true rfl) dX8_place_124 rfl) (fun v38 s39 hf => ?_)
      exact z_ireturn hC (pc := 127) hQ dX8_place_127 hf
    · have hf := zif_f hf c27
      refine z_iconst (v := 0) hC (pc := 110) dX8_place_110 zki_0 ?_
      exact z_ireturn hC (pc := 111) hQ dX8_place_111 hf
  · have hf := zif_f hf c6
    refine z_iconst (v := 0) hC (pc := 63) dX8_place_63 zki_0 ?_
    exact z_ireturn hC (pc := 64) hQ dX8_place_64 hf
def f_X8_place (G : Nat → Nat) (l0 : Nat) (l1 : Int32) (l2 : Int32) (l3 : Int32) (s0 : zS) : Option (Int32 × zS) :=
zo (zput G s0 (some l0) 6 0 (.int 0)) fun s1 =>
zo (zrc s1 (some l0) 6) fun _ =>
zb (f_X8_noOperation G l0 l1 l2 s1) fun v4 s5 =>
if v4 = 0 then (zo (zgR s5 (some l0) 6 8) fun v7 =>
zo (zrc s5 (some l0) 6) fun _ =>
zb (f_X8_machineOf G l0 ((6 * l1) + l2) s5) fun v10 s11 =>
zb (f_X8_machine G v10 s11) fun v12 s13 =>
zo (zaI s13 v7 0 (v12 + 2)) fun v14 =>
zb (f_X8_in G l3 0 (v14 - 1) s13) fun v15 s16 =>
if v15 = 0 then (f_X8_place_b56 G l0 l3 ((6 * l1) + l2) 1 (some l0) s16)
else (f_X8_place_b56 G l0 l3 ((6 * l1) + l2) 0 (some l0) s16))
else (some (0, s5))
set_option maxHeartbeats 4000000 in
theorem m_X8_place (Γ : zG) (l0 : Nat) (l1 : Int32) (l2 : Int32) (l3 : Int32) (s0 s1 : zS) (r : Int32) (hf : f_X8_place Γ.1 l0 l1 l2 l3 s0 = some (r, s1)) : ZM Γ yX8_place (ws_ yX8_place cX8_place 6 (some .int)) 7 130 [zr (some l0), zi l1, zi l2, zi l3] s0 (.inl (some (zi r)), s1) := by
  refine ZM.of (own := RX8) (by decide) rfl (Nat.le_of_ble_eq_true rfl) ?_
  intro X hg hC hL hno hQ hin
  subst hg
  unfold f_X8_place at hf
  refine z_aload_n hC (pc := 0) dX8_place_0 rfl 0 rfl ?_
  refine z_iconst (v := 0) hC (pc := 1) dX8_place_1 zki_0 ?_
  refine z_putV (v := zi 0) hC (pc := 2) in_X8 tyX8 tyX8_ok nmX8 zcX8 0 (Nat.le_of_ble_eq_true rfl) (zLk.o hC q2673) zsm (Or.inl rfl) rfl rfl dX8_place_2 hf (fun s1 hf => ?_)
  refine z_aload_n hC (pc := 5) dX8_place_5 rfl 0 rfl ?_
  refine z_iload_n hC (pc := 6) dX8_place_6 rfl 1 rfl ?_
  refine z_iload_n hC (pc := 7) dX8_place_7 rfl 2 rfl ?_
  obtain ⟨fs2, ha3, hf⟩ := z_rcN hf
  refine z_cI (rest := []) hf (fun v4 s5 hcall => z_runV hC (pc := 8) zcX8 2 ha3 (m_X8_noOperation X.g l0 l1 l2 s1 s5 v4 hcall) (lw_V q2905 q2907 qs68 q108 q2908) hdV_X8_noOperation ⟨(Nat.le_of_ble_eq_true rfl), (Nat.le_of_ble_eq_true rfl)⟩ rfl (Nat.le_of_ble_eq_true rfl) dX8_place_8 rfl) (fun v4 s5 hf => ?_)
  refine z_if_eq hC (pc := 11) (tgt := 16) dX8_place_11 rfl (fun c6 => ?_) (fun c6 => ?_)
  · have hf := zif_t hf c6
    refine z_bipush (v := 6) hC (pc := 16) dX8_place_16 zkb_6 ?_
    refine z_iload_n hC (pc := 18) dX8_place_18 rfl 1 rfl ?_
    refine z_imul hC (pc := 19) dX8_place_19 ?_
    refine z_iload_n hC (pc := 20) dX8_place_20 rfl 2 rfl ?_
    refine z_iadd hC (pc := 21) dX8_place_21 ?_
    refine z_istore (lv' := [(4, zi ((6 * l1) + l2)), (0, zr (some l0)), (1, zi l1), (2, zi l2), (3, zi l3)]) hC (pc := 22) hL dX8_place_22 (Nat.le_of_ble_eq_true rfl) rfl ?_
    refine z_aload_n hC (pc := 24) dX8_place_24 rfl 1 rfl ?_
    refine z_iload_n hC (pc := 25) dX8_place_25 rfl 4 rfl ?_
    refine z_iconst (v := 0) hC (pc := 26) dX8_place_26 zki_0 ?_
    refine z_aload_n hC (pc := 27) dX8_place_27 rfl 1 rfl ?_
    refine z_getR hC (pc := 28) in_X8 zcX8 8 (Nat.le_of_ble_eq_true rfl) (zLk.o hC q2681) zsm dX8_place_28 hf (fun v7 hf => ?_)
    refine z_aload_n hC (pc := 31) dX8_place_31 rfl 1 rfl ?_
    refine z_iload hC (pc := 32) dX8_place_32 0 rfl ?_
    obtain ⟨fs8, ha9, hf⟩ := z_rcN hf
    refine z_cI (rest := [zr v7, zi 0, zi l3, zr (some l0)]) hf (fun v10 s11 hcall => z_runV hC (pc := 34) zcX8 1 ha9 (m_X8_machineOf X.g l0 ((6 * l1) + l2) s5 s11 v10 hcall) (lw_V q2913 q2915 qs70 q108 q2916) hdV_X8_machineOf ⟨(Nat.le_of_ble_eq_true rfl), (Nat.le_of_ble_eq_true rfl)⟩ rfl (Nat.le_of_ble_eq_true rfl) dX8_place_34 rfl) (fun v10 s11 hf => ?_)
    refine z_cI (rest := [zr v7, zi 0, zi l3, zr (some l0)]) hf (fun v12 s13 hcall => z_runS hC (pc := 37) 1 (m_X8_machine X.g v10 s11 s13 v12 hcall) (lw_S q2842 q2843 q108 q2844) hd_X8_machine ⟨(Nat.le_of_ble_eq_true rfl), (Nat.le_of_ble_eq_true rfl)⟩ rfl (Nat.le_of_ble_eq_true rfl) dX8_place_37 rfl) (fun v12 s13 hf => ?_)
    refine z_iconst (v := 2) hC (pc := 40) dX8_place_40 zki_2 ?_
    refine z_iadd hC (pc := 41) dX8_place_41 ?_
    refine z_iald hC (pc := 42) dX8_place_42 hf (fun v14 hf => ?_)
    refine z_iconst (v := 1) hC (pc := 43) dX8_place_43 zki_1 ?_
    refine z_isub hC (pc := 44) dX8_place_44 ?_
    refine z_cI (rest := [zr (some l0)]) hf (fun v15 s16 hcall => z_runS hC (pc := 45) 3 (m_X8_in X.g l3 0 (v14 - 1) s13 s16 v15 hcall) (lw_S q2762 q2763 q108 q2764) hd_X8_in ⟨(Nat.le_of_ble_eq_true rfl), (Nat.le_of_ble_eq_true rfl)⟩ rfl (Nat.le_of_ble_eq_true rfl) dX8_place_45 rfl) (fun v15 s16 hf => ?_)
    refine z_if_ne hC (pc := 48) (tgt := 55) dX8_place_48 rfl (fun c17 => ?_) (fun c17 => ?_)
    · have hf := zif_f hf c17
      refine z_iconst (v := 0) hC (pc := 55) dX8_place_55 zki_0 ?_
      refine ZW.perm (lv' := [(0, zr (some l0)), (3, zi l3), (4, zi ((6 * l1) + l2))]) [1, 4, 0] rfl ?_
      exact w_X8_place_b56 hC hL hno hQ l0 l3 ((6 * l1) + l2) 0 (some l0) s16 hf
    · have hf := zif_t hf c17
      refine z_iconst (v := 1) hC (pc := 51) dX8_place_51 zki_1 ?_
      refine z_goto hC (pc := 52) (tgt := 56) dX8_place_52 rfl ?_
      refine ZW.perm (lv' := [(0, zr (some l0)), (3, zi l3), (4, zi ((6 * l1) + l2))]) [1, 4, 0] rfl ?_
      exact w_X8_place_b56 hC hL hno hQ l0 l3 ((6 * l1) + l2) 1 (some l0) s16 hf
  · have hf := zif_f hf c6
    refine z_iconst (v := 0) hC (pc := 14) dX8_place_14 zki_0 ?_
    exact z_ireturn hC (pc := 15) hQ dX8_place_15 hf
/-! BlockingShopModel.planCost()I -/
def f_X8_planCost (G : Nat → Nat) (l0 : Nat) (s0 : zS) : Option (Int32 × zS) :=
zo (zput G s0 (some l0) 6 0 (.int 0)) fun s1 =>
zo (zrc s1 (some l0) 6) fun _ =>
zb (f_X8_findStarts G l0 s1) fun v4 s5 =>
if v4 = 0 then (some (0, s5))
else (zo (zrc s5 (some l0) 6) fun _ =>
zb (f_X8_costOfPlan G l0 s5) fun v9 s10 =>
some (v9, s10))
set_option maxHeartbeats 4000000 in
theorem m_X8_planCost (Γ : zG) (l0 : Nat) (s0 s1 : zS) (r : Int32) (hf : f_X8_planCost Γ.1 l0 s0 = some (r, s1)) : ZM Γ yX8_planCost (ws_ yX8_planCost cX8_planCost 1 (some .int)) 6 111 [zr (some l0)] s0 (.inl (some (zi r)), s1) := by
  refine ZM.of (own := RX8) (by decide) rfl (Nat.le_of_ble_eq_true rfl) ?_
  intro X hg hC hL hno hQ hin
  subst hg
  unfold f_X8_planCost at hf
  refine z_aload_n hC (pc := 0) dX8_planCost_0 rfl 0 rfl ?_
  refine z_iconst (v := 0) hC (pc := 1) dX8_planCost_1 zki_0 ?_
  refine z_putV (v := zi 0) hC (pc := 2) in_X8 tyX8 tyX8_ok nmX8 zcX8 0 (Nat.le_of_ble_eq_true rfl) (zLk.o hC q2673) zsm (Or.inl rfl) rfl rfl dX8_planCost_2 hf (fun s1 hf => ?_)
  refine z_aload_n hC (pc := 5) dX8_planCost_5 rfl 0 rfl ?_
  obtain ⟨fs2, ha3, hf⟩ := z_rcN hf
  refine z_cI (rest := []) hf (fun v4 s5 hcall => z_runV hC (pc := 6) zcX8 0 ha3 (m_X8_findStarts X.g l0 s1 s5 v4 hcall) (lw_V q2936 q2938 qs72 q108 q2939) hdV_X8_findStarts ⟨(Nat.le_of_ble_eq_true rfl), (Nat.le_of_ble_eq_true rfl)⟩ rfl (Nat.le_of_ble_eq_true rfl) dX8_planCost_6 rfl) (fun v4 s5 hf => ?_)
  refine z_if_eq hC (pc := 9) (tgt := 19) dX8_planCost_9 rfl (fun c6 => ?_) (fun c6 => ?_)
  · have hf := zif_t hf c6
    refine z_iconst (v := 0) hC (pc := 19) dX8_planCost_19 zki_0 ?_
    exact z_ireturn hC (pc := 20) hQ dX8_planCost_20 hf
  · have hf := zif_f hf c6
    refine z_aload_n hC (pc := 12) dX8_planCost_12 rfl 0 rfl ?_
    obtain ⟨fs7, ha8, hf⟩ := z_rcN hf
    refine z_cI (rest := []) hf (fun v9 s10 hcall => z_runV hC (pc := 13) zcX8 0 ha8 (m_X8_costOfPlan X.g l0 s5 s10 v9 hcall) (lw_V q3015 q3017 qs84 q108 q3018) hdV_X8_costOfPlan ⟨(Nat.le_of_ble_eq_true rfl), (Nat.le_of_ble_eq_true rfl)⟩ rfl (Nat.le_of_ble_eq_true rfl) dX8_planCost_13 rfl) (fun v9 s10 hf => ?_)
    refine z_goto hC (pc := 16) (tgt := 20) dX8_planCost_16 rfl ?_
    exact z_ireturn hC (pc := 20) hQ dX8_planCost_20 hf
/-! BlockingShopModel.restart()I -/
def f_X8_restart (G : Nat → Nat) (l0 : Nat) (s0 : zS) : Option (Int32 × zS) :=
zo (zput G s0 (some l0) 6 0 (.int 0)) fun s1 =>
zo (zrc s1 (some l0) 6) fun _ =>
zb (f_X8_remember G l0 s1) fun _ s5 =>
zo (zrc s5 (some l0) 6) fun _ =>
zb (f_X8_layFirst G l0 s5) fun _ s9 =>
zo (zrc s9 (some l0) 6) fun _ =>
zb (f_X8_spanNow G l0 s9) fun v12 s13 =>
some (v12, s13)
set_option maxHeartbeats 4000000 in
theorem m_X8_restart (Γ : zG) (l0 : Nat) (s0 s1 : zS) (r : Int32) (hf : f_X8_restart Γ.1 l0 s0 = some (r, s1)) : ZM Γ yX8_restart (ws_ yX8_restart cX8_restart 1 (some .int)) 7 130 [zr (some l0)] s0 (.inl (some (zi r)), s1) := by
  refine ZM.of (own := RX8) (by decide) rfl (Nat.le_of_ble_eq_true rfl) ?_
  intro X hg hC hL hno hQ hin
  subst hg
  unfold f_X8_restart at hf
  refine z_aload_n hC (pc := 0) dX8_restart_0 rfl 0 rfl ?_
  refine z_iconst (v := 0) hC (pc := 1) dX8_restart_1 zki_0 ?_
  refine z_putV (v := zi 0) hC (pc := 2) in_X8 tyX8 tyX8_ok nmX8 zcX8 0 (Nat.le_of_ble_eq_true rfl) (zLk.o hC q2673) zsm (Or.inl rfl) rfl rfl dX8_restart_2 hf (fun s1 hf => ?_)
  refine z_aload_n hC (pc := 5) dX8_restart_5 rfl 0 rfl ?_
  obtain ⟨fs2, ha3, hf⟩ := z_rcN hf
  refine z_cU (rest := []) hf (fun v4 s5 hcall => z_runV hC (pc := 6) zcX8 0 ha3 (m_X8_remember X.g l0 s1 s5 v4 hcall) (lw_V q2870 q2872 qs65 q108 q2873) hdV_X8_remember ⟨(Nat.le_of_ble_eq_true rfl), (Nat.le_of_ble_eq_true rfl)⟩ rfl (Nat.le_of_ble_eq_true rfl) dX8_restart_6 rfl) (fun _ s5 hf => ?_)
  refine z_aload_n hC (pc := 9) dX8_restart_9 rfl 0 rfl ?_
  obtain ⟨fs6, ha7, hf⟩ := z_rcN hf
  refine z_cU (rest := []) hf (fun v8 s9 hcall => z_runV hC (pc := 10) zcX8 0 ha7 (m_X8_layFirst X.g l0 s5 s9 v8 hcall) (lw_V q2877 q2879 qs66 q108 q2880) hdV_X8_layFirst ⟨(Nat.le_of_ble_eq_true rfl), (Nat.le_of_ble_eq_true rfl)⟩ rfl (Nat.le_of_ble_eq_true rfl) dX8_restart_10 rfl) (fun _ s9 hf => ?_)
  refine z_aload_n hC (pc := 13) dX8_restart_13 rfl 0 rfl ?_
  obtain ⟨fs10, ha11, hf⟩ := z_rcN hf
  refine z_cI (rest := []) hf (fun v12 s13 hcall => z_runV hC (pc := 14) zcX8 0 ha11 (m_X8_spanNow X.g l0 s9 s13 v12 hcall) (lw_V q2987 q2989 qs81 q108 q2990) hdV_X8_spanNow ⟨(Nat.le_of_ble_eq_true rfl), (Nat.le_of_ble_eq_true rfl)⟩ rfl (Nat.le_of_ble_eq_true rfl) dX8_restart_14 rfl) (fun v12 s13 hf => ?_)
  exact z_ireturn hC (pc := 17) hQ dX8_restart_17 hf
/-! BlockingShopModel.setDuration(III)I -/
def f_X8_setDuration_b30 (G : Nat → Nat) (l0 : Nat) (l1 : Int32) (l2 : Int32) (l3 : Int32) (t0 : Int32) (t1 : Option Nat) (s0 : zS) : Option (Int32 × zS) :=
zo (zrc s0 t1 6) fun a3 =>
zb (f_X8_fails G a3 t0 2 s0) fun v4 s5 =>
if v4 = 0 then (zo (zrc s5 (some l0) 6) fun _ =>
zb (f_X8_remember G l0 s5) fun _ s10 =>
zb (f_X8_operationAt G ((6 * l1) + l2) s10) fun v11 s12 =>
zo (zgR s12 (some l0) 6 8) fun v13 =>
zo (zaI s12 v13 0 (v11 + 1)) fun v14 =>
zo (zgR s12 (some l0) 6 8) fun v15 =>
zo (zsI G s12 v15 0 (v11 + 1) l3) fun s16 =>
some (v14, s16))
else (some (0, s5))
set_option maxHeartbeats 4000000 in
theorem w_X8_setDuration_b30 {X : zX} (hC : ZC X RX8 cX8_setDuration (some .int) 4 65) (hL : X.nL = 6) (hno : ∀ x ∈ X.c.exceptionTable.toList, False) {r : Int32} {sF : zS} (hQ : ZQ X (.inl (some (zi r)), sF)) (l0 : Nat) (l1 : Int32) (l2 : Int32) (l3 : Int32) (t0 : Int32) (t1 : Option Nat) (s0 : zS) (hf : f_X8_setDuration_b30 X.g.1 l0 l1 l2 l3 t0 t1 s0 = some (r, sF)) : ZW X s0 30 [(0, zr (some l0)), (1, zi l1), (2, zi l2), (3, zi l3)] [zi t0, zr t1] := by
  unfold f_X8_setDuration_b30 at hf
  refine z_iconst (v := 2) hC (pc := 30) dX8_setDuration_30 zki_2 ?_
  obtain ⟨a3, fs1, rfl, ha2, hf⟩ := z_rcO hf
  refine z_cI (rest := []) hf (fun v4 s5 hcall => z_runV hC (pc := 31) zcX8 2 ha2 (m_X8_fails X.g a3 t0 2 s0 s5 v4 hcall) (lw_V q2765 q2767 qs48 q108 q2768) hdV_X8_fails ⟨(Nat.le_of_ble_eq_true rfl), (Nat.le_of_ble_eq_true rfl)⟩ rfl (Nat.le_of_ble_eq_true rfl) dX8_setDuration_31 rfl) (fun v4 s5 hf => ?_)
  refine z_if_eq hC (pc := 34) (tgt := 39) dX8_setDuration_34 rfl (fun c6 => ?_) (fun c6 => ?_)
  · have hf := zif_t hf c6
    refine z_aload_n hC (pc := 39) dX8_setDuration_39 rfl 0 rfl ?_
    obtain ⟨fs7, ha8, hf⟩ := z_rcN hf
    refine z_cU (rest := []) hf (fun v9 s10 hcall => z_runV hC (pc := 40) zcX8 0 ha8 (m_X8_remember X.g l0 s5 s10 v9 hcall) (lw_V q2870 q2872 qs65 q108 q2873) hdV_X8_remember ⟨(Nat.le_of_ble_eq_true rfl), (Nat.le_of_ble_eq_true rfl)⟩ rfl (Nat.le_of_ble_eq_true rfl) dX8_setDuration_40 rfl) (fun _ s10 hf => ?_)
    refine z_bipush (v := 6) hC (pc := 43) dX8_setDuration_43 zkb_6 ?_
    refine z_iload_n hC (pc := 45) dX8_setDuration_45 rfl 1 rfl ?_
    refine z_imul hC (pc := 46) dX8_setDuration_46 ?_
    refine z_iload_n hC (pc := 47) dX8_setDuration_47 rfl 2 rfl ?_
    refine z_iadd hC (pc := 48) dX8_setDuration_48 ?_
    refine z_cI (rest := []) hf (fun v11 s12 hcall => z_runS hC (pc := 49) 1 (m_X8_operationAt X.g ((6 * l1) + l2) s10 s12 v11 hcall) (lw_S q2834 q2835 q108 q2836) hd_X8_operationAt ⟨(Nat.le_of_ble_eq_true rfl), (Nat.le_of_ble_eq_true rfl)⟩ rfl (Nat.le_of_ble_eq_true rfl) dX8_setDuration_49 rfl) (fun v11 s12 hf => ?_)
    refine z_iconst (v := 1) hC (pc := 52) dX8_setDuration_52 zki_1 ?_
    refine z_iadd hC (pc := 53) dX8_setDuration_53 ?_
    refine z_istore (lv' := [(4, zi (v11 + 1)), (0, zr (some l0)), (1, zi l1), (2, zi l2), (3, zi l3)]) hC (pc := 54) hL dX8_setDuration_54 (Nat.le_of_ble_eq_true rfl) rfl ?_
    refine z_aload_n hC (pc := 56) dX8_setDuration_56 rfl 1 rfl ?_
    refine z_getR hC (pc := 57) in_X8 zcX8 8 (Nat.le_of_ble_eq_true rfl) (zLk.o hC q2681) zsm dX8_setDuration_57 hf (fun v13 hf => ?_)
    refine z_iload hC (pc := 60) dX8_setDuration_60 0 rfl ?_
    refine z_iald hC (pc := 62) dX8_setDuration_62 hf (fun v14 hf => ?_)
    refine z_istore (lv' := [(5, zi v14), (4, zi (v11 + 1)), (0, zr (some l0)), (1, zi l1), (2, zi l2), (3, zi l3)]) hC (pc := 63) hL dX8_setDuration_63 (Nat.le_of_ble_eq_true rfl) rfl ?_
    refine z_aload_n hC (pc := 65) dX8_setDuration_65 rfl 2 rfl ?_
    refine z_getR hC (pc := 66) in_X8 zcX8 8 (Nat.le_of_ble_eq_true rfl) (zLk.o hC q2681) zsm dX8_setDuration_66 hf (fun v15 hf => ?_)
    refine z_iload hC (pc := 69) dX8_setDuration_69 1 rfl ?_
    refine z_iload_n hC (pc := 71) dX8_setDuration_71 rfl 5 rfl ?_
    refine z_iast hC (pc := 72) dX8_setDuration_72 hf (fun s16 hf => ?_)
    refine z_iload hC (pc := 73) dX8_setDuration_73 0 rfl ?_
    exact z_ireturn hC (pc := 75) hQ dX8_setDuration_75 hf
  · have hf := zif_f hf c6
    refine z_iconst (v := 0) hC (pc := 37) dX8_setDuration_37 zki_0 ?_
    exact z_ireturn hC (pc := 38) hQ dX8_setDuration_38 hf
def f_X8_setDuration (G : Nat → Nat) (l0 : Nat) (l1 : Int32) (l2 : Int32) (l3 : Int32) (s0 : zS) : Option (Int32 × zS) :=
zo (zput G s0 (some l0) 6 0 (.int 0)) fun s1 =>
zo (zrc s1 (some l0) 6) fun _ =>
zb (f_X8_noOperation G l0 l1 l2 s1) fun v4 s5 =>
if v4 = 0 then (zb (f_X8_in G l3 1 99 s5) fun v7 s8 =>
if v7 = 0 then (f_X8_setDuration_b30 G l0 l1 l2 l3 1 (some l0) s8)
else (f_X8_setDuration_b30 G l0 l1 l2 l3 0 (some l0) s8))
else (some (0, s5))
set_option maxHeartbeats 4000000 in
theorem m_X8_setDuration (Γ : zG) (l0 : Nat) (l1 : Int32) (l2 : Int32) (l3 : Int32) (s0 s1 : zS) (r : Int32) (hf : f_X8_setDuration Γ.1 l0 l1 l2 l3 s0 = some (r, s1)) : ZM Γ yX8_setDuration (ws_ yX8_setDuration cX8_setDuration 6 (some .int)) 4 65 [zr (some l0), zi l1, zi l2, zi l3] s0 (.inl (some (zi r)), s1) := by
  refine ZM.of (own := RX8) (by decide) rfl (Nat.le_of_ble_eq_true rfl) ?_
  intro X hg hC hL hno hQ hin
  subst hg
  unfold f_X8_setDuration at hf
  refine z_aload_n hC (pc := 0) dX8_setDuration_0 rfl 0 rfl ?_
  refine z_iconst (v := 0) hC (pc := 1) dX8_setDuration_1 zki_0 ?_
  refine z_putV (v := zi 0) hC (pc := 2) in_X8 tyX8 tyX8_ok nmX8 zcX8 0 (Nat.le_of_ble_eq_true rfl) (zLk.o hC q2673) zsm (Or.inl rfl) rfl rfl dX8_setDuration_2 hf (fun s1 hf => ?_)
  refine z_aload_n hC (pc := 5) dX8_setDuration_5 rfl 0 rfl ?_
  refine z_iload_n hC (pc := 6) dX8_setDuration_6 rfl 1 rfl ?_
  refine z_iload_n hC (pc := 7) dX8_setDuration_7 rfl 2 rfl ?_
  obtain ⟨fs2, ha3, hf⟩ := z_rcN hf
  refine z_cI (rest := []) hf (fun v4 s5 hcall => z_runV hC (pc := 8) zcX8 2 ha3 (m_X8_noOperation X.g l0 l1 l2 s1 s5 v4 hcall) (lw_V q2905 q2907 qs68 q108 q2908) hdV_X8_noOperation ⟨(Nat.le_of_ble_eq_true rfl), (Nat.le_of_ble_eq_true rfl)⟩ rfl (Nat.le_of_ble_eq_true rfl) dX8_setDuration_8 rfl) (fun v4 s5 hf => ?_)
  refine z_if_ne hC (pc := 11) (tgt := 37) dX8_setDuration_11 rfl (fun c6 => ?_) (fun c6 => ?_)
  · have hf := zif_f hf c6
    refine z_iconst (v := 0) hC (pc := 37) dX8_setDuration_37 zki_0 ?_
    exact z_ireturn hC (pc := 38) hQ dX8_setDuration_38 hf
  · have hf := zif_t hf c6
    refine z_aload_n hC (pc := 14) dX8_setDuration_14 rfl 0 rfl ?_
    refine z_iload_n hC (pc := 15) dX8_setDuration_15 rfl 3 rfl ?_
    refine z_iconst (v := 1) hC (pc := 16) dX8_setDuration_16 zki_1 ?_
    refine z_bipush (v := 99) hC (pc := 17) dX8_setDuration_17 zkb_99 ?_
    refine z_cI (rest := [zr (some l0)]) hf (fun v7 s8 hcall => z_runS hC (pc := 19) 3 (m_X8_in X.g l3 1 99 s5 s8 v7 hcall) (lw_S q2762 q2763 q108 q2764) hd_X8_in ⟨(Nat.le_of_ble_eq_true rfl), (Nat.le_of_ble_eq_true rfl)⟩ rfl (Nat.le_of_ble_eq_true rfl) dX8_setDuration_19 rfl) (fun v7 s8 hf => ?_)
    refine z_if_ne hC (pc := 22) (tgt := 29) dX8_setDuration_22 rfl (fun c9 => ?_) (fun c9 => ?_)
    · have hf := zif_f hf c9
      refine z_iconst (v := 0) hC (pc := 29) dX8_setDuration_29 zki_0 ?_
      exact w_X8_setDuration_b30 hC hL hno hQ l0 l1 l2 l3 0 (some l0) s8 hf
    · have hf := zif_t hf c9
      refine z_iconst (v := 1) hC (pc := 25) dX8_setDuration_25 zki_1 ?_
      refine z_goto hC (pc := 26) (tgt := 30) dX8_setDuration_26 rfl ?_
      exact w_X8_setDuration_b30 hC hL hno hQ l0 l1 l2 l3 1 (some l0) s8 hf
/-! BlockingShopModel.start(II)I -/
def f_X8_start (G : Nat → Nat) (l0 : Nat) (l1 : Int32) (l2 : Int32) (s0 : zS) : Option (Int32 × zS) :=
zo (zput G s0 (some l0) 6 0 (.int 0)) fun s1 =>
zo (zrc s1 (some l0) 6) fun _ =>
zb (f_X8_noOperation G l0 l1 l2 s1) fun v4 s5 =>
if v4 = 0 then (zo (zrc s5 (some l0) 6) fun _ =>
zb (f_X8_findStarts G l0 s5) fun v9 s10 =>
if v9 = 0 then (some (0, s10))
else (zo (zgR s10 (some l0) 6 18) fun v12 =>
zo (zaI s10 v12 0 ((6 * l1) + l2)) fun v13 =>
some (v13, s10)))
else (some (0, s5))
set_option maxHeartbeats 4000000 in
theorem m_X8_start (Γ : zG) (l0 : Nat) (l1 : Int32) (l2 : Int32) (s0 s1 : zS) (r : Int32) (hf : f_X8_start Γ.1 l0 l1 l2 s0 = some (r, s1)) : ZM Γ yX8_start (ws_ yX8_start cX8_start 3 (some .int)) 6 110 [zr (some l0), zi l1, zi l2] s0 (.inl (some (zi r)), s1) := by
  refine ZM.of (own := RX8) (by decide) rfl (Nat.le_of_ble_eq_true rfl) ?_
  intro X hg hC hL hno hQ hin
  subst hg
  unfold f_X8_start at hf
  refine z_aload_n hC (pc := 0) dX8_start_0 rfl 0 rfl ?_
  refine z_iconst (v := 0) hC (pc := 1) dX8_start_1 zki_0 ?_
  refine z_putV (v := zi 0) hC (pc := 2) in_X8 tyX8 tyX8_ok nmX8 zcX8 0 (Nat.le_of_ble_eq_true rfl) (zLk.o hC q2673) zsm (Or.inl rfl) rfl rfl dX8_start_2 hf (fun s1 hf => ?_)
  refine z_aload_n hC (pc := 5) dX8_start_5 rfl 0 rfl ?_
  refine z_iload_n hC (pc := 6) dX8_start_6 rfl 1 rfl ?_
  refine z_iload_n hC (pc := 7) dX8_start_7 rfl 2 rfl ?_
  obtain ⟨fs2, ha3, hf⟩ := z_rcN hf
  refine z_cI (rest := []) hf (fun v4 s5 hcall => z_runV hC (pc := 8) zcX8 2 ha3 (m_X8_noOperation X.g l0 l1 l2 s1 s5 v4 hcall) (lw_V q2905 q2907 qs68 q108 q2908) hdV_X8_noOperation ⟨(Nat.le_of_ble_eq_true rfl), (Nat.le_of_ble_eq_true rfl)⟩ rfl (Nat.le_of_ble_eq_true rfl) dX8_start_8 rfl) (fun v4 s5 hf => ?_)
  refine z_if_ne hC (pc := 11) (tgt := 21) dX8_start_11 rfl (fun c6 => ?_) (fun c6 => ?_)
  · have hf := zif_f hf c6
    refine z_iconst (v := 0) hC (pc := 21) dX8_start_21 zki_0 ?_
    refine z_goto hC (pc := 22) (tgt := 36) dX8_start_22 rfl ?_
    exact z_ireturn hC (pc := 36) hQ dX8_start_36 hf
  · have hf := zif_t hf c6
    refine z_aload_n hC (pc := 14) dX8_start_14 rfl 0 rfl ?_
    obtain ⟨fs7, ha8, hf⟩ := z_rcN hf
    refine z_cI (rest := []) hf (fun v9 s10 hcall => z_runV hC (pc := 15) zcX8 0 ha8 (m_X8_findStarts X.g l0 s5 s10 v9 hcall) (lw_V q2936 q2938 qs72 q108 q2939) hdV_X8_findStarts ⟨(Nat.le_of_ble_eq_true rfl), (Nat.le_of_ble_eq_true rfl)⟩ rfl (Nat.le_of_ble_eq_true rfl) dX8_start_15 rfl) (fun v9 s10 hf => ?_)
    refine z_if_ne hC (pc := 18) (tgt := 25) dX8_start_18 rfl (fun c11 => ?_) (fun c11 => ?_)
    · have hf := zif_f hf c11
      refine z_aload_n hC (pc := 25) dX8_start_25 rfl 0 rfl ?_
      refine z_getR hC (pc := 26) in_X8 zcX8 18 (Nat.le_of_ble_eq_true rfl) (zLk.o hC q2691) zsm dX8_start_26 hf (fun v12 hf => ?_)
      refine z_bipush (v := 6) hC (pc := 29) dX8_start_29 zkb_6 ?_
      refine z_iload_n hC (pc := 31) dX8_start_31 rfl 1 rfl ?_
      refine z_imul hC (pc := 32) dX8_start_32 ?_
      refine z_iload_n hC (pc := 33) dX8_start_33 rfl 2 rfl ?_
      refine z_iadd hC (pc := 34) dX8_start_34 ?_
      refine z_iald hC (pc := 35) dX8_start_35 hf (fun v13 hf => ?_)
      exact z_ireturn hC (pc := 36) hQ dX8_start_36 hf
    · have hf := zif_t hf c11
      refine z_iconst (v := 0) hC (pc := 21) dX8_start_21 zki_0 ?_
      refine z_goto hC (pc := 22) (tgt := 36) dX8_start_22 rfl ?_
      exact z_ireturn hC (pc := 36) hQ dX8_start_36 hf
/-! BlockingShopModel.swap(II)I -/
def f_X8_swap_b30 (G : Nat → Nat) (l0 : Nat) (l1 : Int32) (l2 : Int32) (t0 : Int32) (t1 : Option Nat) (s0 : zS) : Option (Int32 × zS) :=
zo (zrc s0 t1 6) fun a3 =>
zb (f_X8_fails G a3 t0 2 s0) fun v4 s5 =>
if v4 = 0 then (zo (zrc s5 (some l0) 6) fun _ =>
zb (f_X8_remember G l0 s5) fun _ s10 =>
zo (zrc s10 (some l0) 6) fun _ =>
zb (f_X8_exchange G l0 l1 l2 s10) fun _ s14 =>
zo (zrc s14 (some l0) 6) fun _ =>
zb (f_X8_spanNow G l0 s14) fun v17 s18 =>
some (v17, s18))
else (some (0, s5))
set_option maxHeartbeats 4000000 in
theorem w_X8_swap_b30 {X : zX} (hC : ZC X RX8 cX8_swap (some .int) 8 153) (hL : X.nL = 3) (hno : ∀ x ∈ X.c.exceptionTable.toList, False) {r : Int32} {sF : zS} (hQ : ZQ X (.inl (some (zi r)), sF)) (l0 : Nat) (l1 : Int32) (l2 : Int32) (t0 : Int32) (t1 : Option Nat) (s0 : zS) (hf : f_X8_swap_b30 X.g.1 l0 l1 l2 t0 t1 s0 = some (r, sF)) : ZW X s0 30 [(0, zr (some l0)), (1, zi l1), (2, zi l2)] [zi t0, zr t1] := by
  unfold f_X8_swap_b30 at hf
  refine z_iconst (v := 2) hC (pc := 30) dX8_swap_30 zki_2 ?_
  obtain ⟨a3, fs1, rfl, ha2, hf⟩ := z_rcO hf
  refine z_cI (rest := []) hf (fun v4 s5 hcall => z_runV hC (pc := 31) zcX8 2 ha2 (m_X8_fails X.g a3 t0 2 s0 s5 v4 hcall) (lw_V q2765 q2767 qs48 q108 q2768) hdV_X8_fails ⟨(Nat.le_of_ble_eq_true rfl), (Nat.le_of_ble_eq_true rfl)⟩ rfl (Nat.le_of_ble_eq_true rfl) dX8_swap_31 rfl) (fun v4 s5 hf => ?_)
  refine z_if_eq hC (pc := 34) (tgt := 39) dX8_swap_34 rfl (fun c6 => ?_) (fun c6 => ?_)
  · have hf := zif_t hf c6
    refine z_aload_n hC (pc := 39) dX8_swap_39 rfl 0 rfl ?_
    obtain ⟨fs7, ha8, hf⟩ := z_rcN hf
    refine z_cU (rest := []) hf (fun v9 s10 hcall => z_runV hC (pc := 40) zcX8 0 ha8 (m_X8_remember X.g l0 s5 s10 v9 hcall) (lw_V q2870 q2872 qs65 q108 q2873) hdV_X8_remember ⟨(Nat.le_of_ble_eq_true rfl), (Nat.le_of_ble_eq_true rfl)⟩ rfl (Nat.le_of_ble_eq_true rfl) dX8_swap_40 rfl) (fun _ s10 hf => ?_)
    refine z_aload_n hC (pc := 43) dX8_swap_43 rfl 0 rfl ?_
    refine z_iload_n hC (pc := 44) dX8_swap_44 rfl 1 rfl ?_
    refine z_iload_n hC (pc := 45) dX8_swap_45 rfl 2 rfl ?_
    obtain ⟨fs11, ha12, hf⟩ := z_rcN hf
    refine z_cU (rest := []) hf (fun v13 s14 hcall => z_runV hC (pc := 46) zcX8 2 ha12 (m_X8_exchange X.g l0 l1 l2 s10 s14 v13 hcall) (lw_V q3059 q3061 qs89 q108 q3062) hdV_X8_exchange ⟨(Nat.le_of_ble_eq_true rfl), (Nat.le_of_ble_eq_true rfl)⟩ rfl (Nat.le_of_ble_eq_true rfl) dX8_swap_46 rfl) (fun _ s14 hf => ?_)
    refine z_aload_n hC (pc := 49) dX8_swap_49 rfl 0 rfl ?_
    obtain ⟨fs15, ha16, hf⟩ := z_rcN hf
    refine z_cI (rest := []) hf (fun v17 s18 hcall => z_runV hC (pc := 50) zcX8 0 ha16 (m_X8_spanNow X.g l0 s14 s18 v17 hcall) (lw_V q2987 q2989 qs81 q108 q2990) hdV_X8_spanNow ⟨(Nat.le_of_ble_eq_true rfl), (Nat.le_of_ble_eq_true rfl)⟩ rfl (Nat.le_of_ble_eq_true rfl) dX8_swap_50 rfl) (fun v17 s18 hf => ?_)
    exact z_ireturn hC (pc := 53) hQ dX8_swap_53 hf
  · have hf := zif_f hf c6
    refine z_iconst (v := 0) hC (pc := 37) dX8_swap_37 zki_0 ?_
    exact z_ireturn hC (pc := 38) hQ dX8_swap_38 hf
def f_X8_swap (G : Nat → Nat) (l0 : Nat) (l1 : Int32) (l2 : Int32) (s0 : zS) : Option (Int32 × zS) :=
zo (zput G s0 (some l0) 6 0 (.int 0)) fun s1 =>
zo (zrc s1 (some l0) 6) fun _ =>
zb (f_X8_noSwap G l0 l1 l2 s1) fun v4 s5 =>
if v4 = 0 then (zo (zrc s5 (some l0) 6) fun _ =>
zb (f_X8_spanAfter G l0 l1 l2 s5) fun v9 s10 =>
if v9 = (-1) then (f_X8_swap_b30 G l0 l1 l2 1 (some l0) s10)
else (f_X8_swap_b30 G l0 l1 l2 0 (some l0) s10))
else (some (0, s5))
set_option maxHeartbeats 4000000 in
theorem m_X8_swap (Γ : zG) (l0 : Nat) (l1 : Int32) (l2 : Int32) (s0 s1 : zS) (r : Int32) (hf : f_X8_swap Γ.1 l0 l1 l2 s0 = some (r, s1)) : ZM Γ yX8_swap (ws_ yX8_swap cX8_swap 3 (some .int)) 8 153 [zr (some l0), zi l1, zi l2] s0 (.inl (some (zi r)), s1) := by
  refine ZM.of (own := RX8) (by decide) rfl (Nat.le_of_ble_eq_true rfl) ?_
  intro X hg hC hL hno hQ hin
  subst hg
  unfold f_X8_swap at hf
  refine z_aload_n hC (pc := 0) dX8_swap_0 rfl 0 rfl ?_
  refine z_iconst (v := 0) hC (pc := 1) dX8_swap_1 zki_0 ?_
  refine z_putV (v := zi 0) hC (pc := 2) in_X8 tyX8 tyX8_ok nmX8 zcX8 0 (Nat.le_of_ble_eq_true rfl) (zLk.o hC q2673) zsm (Or.inl rfl) rfl rfl dX8_swap_2 hf (fun s1 hf => ?_)
  refine z_aload_n hC (pc := 5) dX8_swap_5 rfl 0 rfl ?_
  refine z_iload_n hC (pc := 6) dX8_swap_6 rfl 1 rfl ?_
  refine z_iload_n hC (pc := 7) dX8_swap_7 rfl 2 rfl ?_
  obtain ⟨fs2, ha3, hf⟩ := z_rcN hf
  refine z_cI (rest := []) hf (fun v4 s5 hcall => z_runV hC (pc := 8) zcX8 2 ha3 (m_X8_noSwap X.g l0 l1 l2 s1 s5 v4 hcall) (lw_V q3051 q3053 qs87 q108 q3054) hdV_X8_noSwap ⟨(Nat.le_of_ble_eq_true rfl), (Nat.le_of_ble_eq_true rfl)⟩ rfl (Nat.le_of_ble_eq_true rfl) dX8_swap_8 rfl) (fun v4 s5 hf => ?_)
  refine z_if_ne hC (pc := 11) (tgt := 37) dX8_swap_11 rfl (fun c6 => ?_) (fun c6 => ?_)
  · have hf := zif_f hf c6
    refine z_iconst (v := 0) hC (pc := 37) dX8_swap_37 zki_0 ?_
    exact z_ireturn hC (pc := 38) hQ dX8_swap_38 hf
  · have hf := zif_t hf c6
    refine z_aload_n hC (pc := 14) dX8_swap_14 rfl 0 rfl ?_
    refine z_aload_n hC (pc := 15) dX8_swap_15 rfl 0 rfl ?_
    refine z_iload_n hC (pc := 16) dX8_swap_16 rfl 1 rfl ?_
    refine z_iload_n hC (pc := 17) dX8_swap_17 rfl 2 rfl ?_
    obtain ⟨fs7, ha8, hf⟩ := z_rcN hf
    refine z_cI (rest := [zr (some l0)]) hf (fun v9 s10 hcall => z_runV hC (pc := 18) zcX8 2 ha8 (m_X8_spanAfter X.g l0 l1 l2 s5 s10 v9 hcall) (lw_V q3055 q3057 qs88 q108 q3058) hdV_X8_spanAfter ⟨(Nat.le_of_ble_eq_true rfl), (Nat.le_of_ble_eq_true rfl)⟩ rfl (Nat.le_of_ble_eq_true rfl) dX8_swap_18 rfl) (fun v9 s10 hf => ?_)
    refine z_iconst (v := (-1)) hC (pc := 21) dX8_swap_21 zki_m1 ?_
    refine z_icmp_ne hC (pc := 22) (tgt := 29) dX8_swap_22 rfl (fun c11 => ?_) (fun c11 => ?_)
    · have hf := zif_f hf c11
      refine z_iconst (v := 0) hC (pc := 29) dX8_swap_29 zki_0 ?_
      exact w_X8_swap_b30 hC hL hno hQ l0 l1 l2 0 (some l0) s10 hf
    · have hf := zif_t hf c11
      refine z_iconst (v := 1) hC (pc := 25) dX8_swap_25 zki_1 ?_
      refine z_goto hC (pc := 26) (tgt := 30) dX8_swap_26 rfl ?_
      exact w_X8_swap_b30 hC hL hno hQ l0 l1 l2 1 (some l0) s10 hf
/-! BlockingShopModel.thrown()I -/
def f_X8_thrown (G : Nat → Nat) (l0 : Nat) (s0 : zS) : Option (Int32 × zS) :=
zo (zgI s0 (some l0) 6 0) fun v1 =>
some (v1, s0)
set_option maxHeartbeats 4000000 in
theorem m_X8_thrown (Γ : zG) (l0 : Nat) (s0 s1 : zS) (r : Int32) (hf : f_X8_thrown Γ.1 l0 s0 = some (r, s1)) : ZM Γ yX8_thrown (ws_ yX8_thrown cX8_thrown 1 (some .int)) 1 0 [zr (some l0)] s0 (.inl (some (zi r)), s1) := by
  refine ZM.of (own := RX8) (by decide) rfl (Nat.le_of_ble_eq_true rfl) ?_
  intro X hg hC hL hno hQ hin
  subst hg
  unfold f_X8_thrown at hf
  refine z_aload_n hC (pc := 0) dX8_thrown_0 rfl 0 rfl ?_
  refine z_getI hC (pc := 1) in_X8 zcX8 0 (Nat.le_of_ble_eq_true rfl) (zLk.o hC q2673) zsm dX8_thrown_1 hf (fun v1 hf => ?_)
  exact z_ireturn hC (pc := 4) hQ dX8_thrown_4 hf
/-! BlockingShopModel.undo()I -/
def f_X8_undo (G : Nat → Nat) (l0 : Nat) (s0 : zS) : Option (Int32 × zS) :=
zo (zput G s0 (some l0) 6 0 (.int 0)) fun s1 =>
zo (zgI s1 (some l0) 6 12) fun v2 =>
if v2 = 0 then (some ((-1), s1))
else (zo (zgI s1 (some l0) 6 12) fun v4 =>
zo (zput G s1 (some l0) 6 12 (.int (v4 - 1))) fun s5 =>
zo (zgR s5 (some l0) 6 11) fun v6 =>
zo (zgI s5 (some l0) 6 12) fun v7 =>
zo (zaR s5 v6 v7) fun v8 =>
zo (zgR s5 (some l0) 6 8) fun v9 =>
zb (f_X8_copy G v8 v9 s5) fun _ s11 =>
zo (zgI s11 (some l0) 6 12) fun v12 =>
some (v12, s11))
set_option maxHeartbeats 4000000 in
theorem m_X8_undo (Γ : zG) (l0 : Nat) (s0 s1 : zS) (r : Int32) (hf : f_X8_undo Γ.1 l0 s0 = some (r, s1)) : ZM Γ yX8_undo (ws_ yX8_undo cX8_undo 1 (some .int)) 2 22 [zr (some l0)] s0 (.inl (some (zi r)), s1) := by
  refine ZM.of (own := RX8) (by decide) rfl (Nat.le_of_ble_eq_true rfl) ?_
  intro X hg hC hL hno hQ hin
  subst hg
  unfold f_X8_undo at hf
  refine z_aload_n hC (pc := 0) dX8_undo_0 rfl 0 rfl ?_
  refine z_iconst (v := 0) hC (pc := 1) dX8_undo_1 zki_0 ?_
  refine z_putV (v := zi 0) hC (pc := 2) in_X8 tyX8 tyX8_ok nmX8 zcX8 0 (Nat.le_of_ble_eq_true rfl) (zLk.o hC q2673) zsm (Or.inl rfl) rfl rfl dX8_undo_2 hf (fun s1 hf => ?_)
  refine z_aload_n hC (pc := 5) dX8_undo_5 rfl 0 rfl ?_
  refine z_getI hC (pc := 6) in_X8 zcX8 12 (Nat.le_of_ble_eq_true rfl) (zLk.o hC q2685) zsm dX8_undo_6 hf (fun v2 hf => ?_)
  refine z_if_ne hC (pc := 9) (tgt := 14) dX8_undo_9 rfl (fun c3 => ?_) (fun c3 => ?_)
  · have hf := zif_f hf c3
    refine z_aload_n hC (pc := 14) dX8_undo_14 rfl 0 rfl ?_
    refine z_dup hC (pc := 15) dX8_undo_15 rfl ?_
    refine z_getI hC (pc := 16) in_X8 zcX8 12 (Nat.le_of_ble_eq_true rfl) (zLk.o hC q2685) zsm dX8_undo_16 hf (fun v4 hf => ?_)
    refine z_iconst (v := 1) hC (pc := 19) dX8_undo_19 zki_1 ?_
    refine z_isub hC (pc := 20) dX8_undo_20 ?_
    refine z_putV (v := zi (v4 - 1)) hC (pc := 21) in_X8 tyX8 tyX8_ok nmX8 zcX8 12 (Nat.le_of_ble_eq_true rfl) (zLk.o hC q2685) zsm (Or.inl rfl) rfl rfl dX8_undo_21 hf (fun s5 hf => ?_)
    refine z_aload_n hC (pc := 24) dX8_undo_24 rfl 0 rfl ?_
    refine z_getR hC (pc := 25) in_X8 zcX8 11 (Nat.le_of_ble_eq_true rfl) (zLk.o hC q2684) zsm dX8_undo_25 hf (fun v6 hf => ?_)
    refine z_aload_n hC (pc := 28) dX8_undo_28 rfl 0 rfl ?_
    refine z_getI hC (pc := 29) in_X8 zcX8 12 (Nat.le_of_ble_eq_true rfl) (zLk.o hC q2685) zsm dX8_undo_29 hf (fun v7 hf => ?_)
    refine z_aald hC (pc := 32) dX8_undo_32 hf (fun v8 hf => ?_)
    refine z_aload_n hC (pc := 33) dX8_undo_33 rfl 0 rfl ?_
    refine z_getR hC (pc := 34) in_X8 zcX8 8 (Nat.le_of_ble_eq_true rfl) (zLk.o hC q2681) zsm dX8_undo_34 hf (fun v9 hf => ?_)
    refine z_cU (rest := []) hf (fun v10 s11 hcall => z_runS hC (pc := 37) 2 (m_X8_copy X.g v8 v9 s5 s11 v10 hcall) (lw_S q2874 q2875 q108 q2876) hd_X8_copy ⟨(Nat.le_of_ble_eq_true rfl), (Nat.le_of_ble_eq_true rfl)⟩ rfl (Nat.le_of_ble_eq_true rfl) dX8_undo_37 rfl) (fun _ s11 hf => ?_)
    refine z_aload_n hC (pc := 40) dX8_undo_40 rfl 0 rfl ?_
    refine z_getI hC (pc := 41) in_X8 zcX8 12 (Nat.le_of_ble_eq_true rfl) (zLk.o hC q2685) zsm dX8_undo_41 hf (fun v12 hf => ?_)
    exact z_ireturn hC (pc := 44) hQ dX8_undo_44 hf
  · have hf := zif_t hf c3
    refine z_iconst (v := (-1)) hC (pc := 12) dX8_undo_12 zki_m1 ?_
    exact z_ireturn hC (pc := 13) hQ dX8_undo_13 hf
