set_option maxRecDepth 100000
/-! BlockingShop$Plan.blocks()Ljava/util/List; -/
def f_X3_blocks_b106 (G : Nat → Nat) (k15 : Nat → Option Nat → Int32 → Option Nat → zS → Option ((Option Nat) × zS)) (l0 : Nat) (l1 : Option Nat) (l3 : Option Nat) (l4 : Int32) (s0 : zS) : Option ((Option Nat) × zS) :=
k15 l0 l1 l4 l3 s0
set_option maxHeartbeats 4000000 in
theorem w_X3_blocks_b106 {X : zX} (hC : ZC X RX3 cX3_blocks (some (.object "java/util/List")) 11 216) (hL : X.nL = 5) (hno : ∀ x ∈ X.c.exceptionTable.toList, False) {r : (Option Nat)} {sF : zS} (hQ : ZQ X (.inl (some (zr r)), sF)) (k15 : Nat → Option Nat → Int32 → Option Nat → zS → Option ((Option Nat) × zS)) (hk15 : ∀ (l0 : Nat) (l1 : Option Nat) (l2 : Int32) (l3 : Option Nat) (s0 : zS), k15 l0 l1 l2 l3 s0 = some (r, sF) → ZW X s0 15 [(0, zr (some l0)), (1, zr l1), (2, zi l2), (3, zr l3)] []) (l0 : Nat) (l1 : Option Nat) (l3 : Option Nat) (l4 : Int32) (s0 : zS) (hf : f_X3_blocks_b106 X.g.1 k15 l0 l1 l3 l4 s0 = some (r, sF)) : ZW X s0 106 [(0, zr (some l0)), (1, zr l1), (3, zr l3), (4, zi l4)] [] := by
  unfold f_X3_blocks_b106 at hf
  refine z_iload hC (pc := 106) dX3_blocks_106 3 rfl ?_
  refine z_istore_n (lv' := [(2, zi l4), (0, zr (some l0)), (1, zr l1), (3, zr l3), (4, zi l4)]) hC (pc := 108) hL dX3_blocks_108 rfl (Nat.le_of_ble_eq_true rfl) rfl ?_
  refine z_goto hC (pc := 109) (tgt := 15) dX3_blocks_109 rfl ?_
  refine ZW.perm (lv' := [(0, zr (some l0)), (1, zr l1), (2, zi l4), (3, zr l3)]) [1, 2, 0, 3] rfl ?_
  exact hk15 l0 l1 l4 l3 s0 hf
def f_X3_blocks_b15 (G : Nat → Nat) (k15 : Nat → Option Nat → Int32 → Option Nat → zS → Option ((Option Nat) × zS)) (l0 : Nat) (l1 : Option Nat) (l2 : Int32) (l3 : Option Nat) (s0 : zS) : Option ((Option Nat) × zS) :=
zo (zrc s0 l3 12) fun a3 =>
zb (f_X14_hasNext G a3 s0) fun v4 s5 =>
if v4 = 0 then (some (l1, s5))
else (zo (zgR s5 (some l0) 2 0) fun v7 =>
zo (zgR s5 v7 3 4) fun v8 =>
zo (zrc s5 (some a3) 12) fun _ =>
zb (f_X14_next G a3 s5) fun v11 s12 =>
zo (zcst s12 v11 18) fun _ =>
zo (zrc s12 v11 18) fun a15 =>
zb (f_J20_intValue G a15 s12) fun v16 s17 =>
zo (zaI s17 v8 0 v16) fun v18 =>
if v18 = l2 then (zo (zrc s17 l1 15) fun a29 =>
zb (f_J5_size G a29 s17) fun v30 s31 =>
zo (zrc s31 (some a29) 15) fun _ =>
zb (f_J5_size G a29 s31) fun v34 s35 =>
zo (zrc s35 (some a29) 15) fun _ =>
zb (f_J5_get G a29 (v34 - 1) s35) fun v38 s39 =>
zo (zcst s39 v38 18) fun _ =>
zo (zrc s39 v38 18) fun a42 =>
zb (f_J20_intValue G a42 s39) fun v43 s44 =>
zb (f_J20_valueOf G (v43 + 1) s44) fun v45 s46 =>
zo (zrc s46 (some a29) 15) fun _ =>
zb (f_J5_set G a29 (v30 - 1) v45 s46) fun v49 s50 =>
f_X3_blocks_b106 G k15 l0 (some a29) (some a3) v18 s50)
else (zb (f_J20_valueOf G 1 s17) fun v20 s21 =>
zo (zrc s21 l1 15) fun a24 =>
zb (f_J5_add G a24 v20 s21) fun v25 s26 =>
f_X3_blocks_b106 G k15 l0 (some a24) (some a3) v18 s26))
set_option maxHeartbeats 4000000 in
theorem w_X3_blocks_b15 {X : zX} (hC : ZC X RX3 cX3_blocks (some (.object "java/util/List")) 11 216) (hL : X.nL = 5) (hno : ∀ x ∈ X.c.exceptionTable.toList, False) {r : (Option Nat)} {sF : zS} (hQ : ZQ X (.inl (some (zr r)), sF)) (k15 : Nat → Option Nat → Int32 → Option Nat → zS → Option ((Option Nat) × zS)) (hk15 : ∀ (l0 : Nat) (l1 : Option Nat) (l2 : Int32) (l3 : Option Nat) (s0 : zS), k15 l0 l1 l2 l3 s0 = some (r, sF) → ZW X s0 15 [(0, zr (some l0)), (1, zr l1), (2, zi l2), (3, zr l3)] []) (l0 : Nat) (l1 : Option Nat) (l2 : Int32) (l3 : Option Nat) (s0 : zS) (hf : f_X3_blocks_b15 X.g.1 k15 l0 l1 l2 l3 s0 = some (r, sF)) : ZW X s0 15 [(0, zr (some l0)), (1, zr l1), (2, zi l2), (3, zr l3)] [] := by
  unfold f_X3_blocks_b15 at hf
  refine z_aload_n hC (pc := 15) dX3_blocks_15 rfl 3 rfl ?_
  obtain ⟨a3, fs1, rfl, ha2, hf⟩ := z_rcO hf
  refine z_cI5 (rest := []) hf (fun v4 s5 hcall => z_runF hC (pc := 16) zcX14 0 ha2 (m_X14_hasNext X.g a3 s0 s5 v4 hcall) (lw_app (zm4 q1063 q1067 q1069 q150) (lw_meth q1071)) q1065 q1064 q1070 q1068 q1066 (by decide +kernel) ⟨(Nat.le_of_ble_eq_true rfl), (Nat.le_of_ble_eq_true rfl)⟩ rfl (Nat.le_of_ble_eq_true rfl) dX3_blocks_16 rfl) (fun v4 s5 hf => ?_)
  refine z_if_eq hC (pc := 21) (tgt := 112) dX3_blocks_21 rfl (fun c6 => ?_) (fun c6 => ?_)
  · have hf := zif_t hf c6
    refine z_aload_n hC (pc := 112) dX3_blocks_112 rfl 1 rfl ?_
    exact z_areturn hC (pc := 113) (Or.inl ⟨_, rfl⟩) hQ dX3_blocks_113 hf
  · have hf := zif_f hf c6
    refine z_aload_n hC (pc := 24) dX3_blocks_24 rfl 0 rfl ?_
    refine z_getR hC (pc := 25) in_X3 zcX3 0 (Nat.le_of_ble_eq_true rfl) (zLk.o hC q364) zsm dX3_blocks_25 hf (fun v7 hf => ?_)
    refine z_getR hC (pc := 28) in_X4 zcX4 4 (Nat.le_of_ble_eq_true rfl) (zLk.n hC q336) zsm dX3_blocks_28 hf (fun v8 hf => ?_)
    refine z_aload_n hC (pc := 31) dX3_blocks_31 rfl 3 rfl ?_
    obtain ⟨fs9, ha10, hf⟩ := z_rcN hf
    refine z_cR5 (rest := [zr v8]) hf (fun v11 s12 hcall => z_runF hC (pc := 32) zcX14 0 ha10 (m_X14_next X.g a3 s5 s12 v11 hcall) (lw_app (zm4 q1122 q1125 q1127 q150) (lw_meth q1129)) q1124 q1123 q1128 q1126 q1066 (by decide +kernel) ⟨(Nat.le_of_ble_eq_true rfl), (Nat.le_of_ble_eq_true rfl)⟩ rfl (Nat.le_of_ble_eq_true rfl) dX3_blocks_32 rfl) (fun v11 s12 hf => ?_)
    refine z_cast hC (pc := 37) zcJ20 q1580 (Or.inl rfl) dX3_blocks_37 hf (fun hf => ?_)
    obtain ⟨a15, fs13, rfl, ha14, hf⟩ := z_rcO hf
    refine z_cI (rest := [zr v8]) hf (fun v16 s17 hcall => z_runV hC (pc := 40) zcJ20 0 ha14 (m_J20_intValue X.g a15 s12 s17 v16 hcall) (lw_V q1621 q1622 q1623 q125 q1624) hdV_J20_intValue ⟨(Nat.le_of_ble_eq_true rfl), (Nat.le_of_ble_eq_true rfl)⟩ rfl (Nat.le_of_ble_eq_true rfl) dX3_blocks_40 rfl) (fun v16 s17 hf => ?_)
    refine z_iald hC (pc := 43) dX3_blocks_43 hf (fun v18 hf => ?_)
    refine z_istore (lv' := [(4, zi v18), (0, zr (some l0)), (1, zr l1), (2, zi l2), (3, zr (some a3))]) hC (pc := 44) hL dX3_blocks_44 (Nat.le_of_ble_eq_true rfl) rfl ?_
    refine z_iload hC (pc := 46) dX3_blocks_46 0 rfl ?_
    refine z_iload_n hC (pc := 48) dX3_blocks_48 rfl 3 rfl ?_
    refine z_icmp_ne hC (pc := 49) (tgt := 95) dX3_blocks_49 rfl (fun c19 => ?_) (fun c19 => ?_)
    · have hf := zif_f hf c19
      refine z_aload_n hC (pc := 95) dX3_blocks_95 rfl 2 rfl ?_
      refine z_iconst (v := 1) hC (pc := 96) dX3_blocks_96 zki_1 ?_
      refine z_cR (rest := [zr l1]) hf (fun v20 s21 hcall => z_runS hC (pc := 97) 1 (m_J20_valueOf X.g 1 s17 s21 v20 hcall) (lw_S q1625 q1198 q125 q1199) hd_J20_valueOf ⟨(Nat.le_of_ble_eq_true rfl), (Nat.le_of_ble_eq_true rfl)⟩ rfl (Nat.le_of_ble_eq_true rfl) dX3_blocks_97 rfl) (fun v20 s21 hf => ?_)
      obtain ⟨a24, fs22, rfl, ha23, hf⟩ := z_rcO hf
      refine z_cI5 (rest := []) hf (fun v25 s26 hcall => z_runF hC (pc := 100) zcJ5 1 ha23 (m_J5_add X.g a24 v20 s21 s26 v25 hcall) (lw_app (zm4 q1648 q1651 q1653 q104) (lw_meth q1655)) q1650 q1649 q1654 q1652 q434 (by decide +kernel) ⟨(Nat.le_of_ble_eq_true rfl), (Nat.le_of_ble_eq_true rfl)⟩ rfl (Nat.le_of_ble_eq_true rfl) dX3_blocks_100 rfl) (fun v25 s26 hf => ?_)
      refine z_pop hC (pc := 105) dX3_blocks_105 rfl ?_
      refine ZW.perm (lv' := [(0, zr (some l0)), (1, zr (some a24)), (3, zr (some a3)), (4, zi v18)]) [1, 2, 4, 0] rfl ?_
      exact w_X3_blocks_b106 hC hL hno hQ k15 hk15 l0 (some a24) (some a3) v18 s26 hf
    · have hf := zif_t hf c19
      refine z_aload_n hC (pc := 52) dX3_blocks_52 rfl 2 rfl ?_
      refine z_aload_n hC (pc := 53) dX3_blocks_53 rfl 2 rfl ?_
      obtain ⟨a29, fs27, rfl, ha28, hf⟩ := z_rcO hf
      refine z_cI5 (rest := [zr (some a29)]) hf (fun v30 s31 hcall => z_runF hC (pc := 54) zcJ5 0 ha28 (m_J5_size X.g a29 s17 s31 v30 hcall) (lw_app (zm4 q469 q435 q437 q104) (lw_meth q439)) q433 q432 q438 q436 q434 (by decide +kernel) ⟨(Nat.le_of_ble_eq_true rfl), (Nat.le_of_ble_eq_true rfl)⟩ rfl (Nat.le_of_ble_eq_true rfl) dX3_blocks_54 rfl) (fun v30 s31 hf => ?_)
      refine z_iconst (v := 1) hC (pc := 59) dX3_blocks_59 zki_1 ?_
      refine z_isub hC (pc := 60) dX3_blocks_60 ?_
      refine z_aload_n hC (pc := 61) dX3_blocks_61 rfl 2 rfl ?_
      refine z_aload_n hC (pc := 62) dX3_blocks_62 rfl 2 rfl ?_
      obtain ⟨fs32, ha33, hf⟩ := z_rcN hf
      refine z_cI5 (rest := [zr (some a29), zi (v30 - 1), zr (some a29)]) hf (fun v34 s35 hcall => z_runF hC (pc := 63) zcJ5 0 ha33 (m_J5_size X.g a29 s31 s35 v34 hcall) (lw_app (zm4 q469 q435 q437 q104) (lw_meth q439)) q433 q432 q438 q436 q434 (by decide +kernel) ⟨(Nat.le_of_ble_eq_true rfl), (Nat.le_of_ble_eq_true rfl)⟩ rfl (Nat.le_of_ble_eq_true rfl) dX3_blocks_63 rfl) (fun v34 s35 hf => ?_)
      refine z_iconst (v := 1) hC (pc := 68) dX3_blocks_68 zki_1 ?_
      refine z_isub hC (pc := 69) dX3_blocks_69 ?_
      obtain ⟨fs36, ha37, hf⟩ := z_rcN hf
      refine z_cR5 (rest := [zi (v30 - 1), zr (some a29)]) hf (fun v38 s39 hcall => z_runF hC (pc := 70) zcJ5 1 ha37 (m_J5_get X.g a29 (v34 - 1) s35 s39 v38 hcall) (lw_app (zm4 q475 q478 q480 q104) (lw_meth q482)) q477 q476 q481 q479 q434 (by decide +kernel) ⟨(Nat.le_of_ble_eq_true rfl), (Nat.le_of_ble_eq_true rfl)⟩ rfl (Nat.le_of_ble_eq_true rfl) dX3_blocks_70 rfl) (fun v38 s39 hf => ?_)
      refine z_cast hC (pc := 75) zcJ20 q1580 (Or.inl rfl) dX3_blocks_75 hf (fun hf => ?_)
      obtain ⟨a42, fs40, rfl, ha41, hf⟩ := z_rcO hf
      refine z_cI (rest := [zi (v30 - 1), zr (some a29)]) hf (fun v43 s44 hcall => z_runV hC (pc := 78) zcJ20 0 ha41 (m_J20_intValue X.g a42 s39 s44 v43 hcall) (lw_V q1621 q1622 q1623 q125 q1624) hdV_J20_intValue ⟨(Nat.le_of_ble_eq_true rfl), (Nat.le_of_ble_eq_true rfl)⟩ rfl (Nat.le_of_ble_eq_true rfl) dX3_blocks_78 rfl) (fun v43 s44 hf => ?_)
      refine z_iconst (v := 1) hC (pc := 81) dX3_blocks_81 zki_1 ?_
      refine z_iadd hC (pc := 82) dX3_blocks_82 ?_
      refine z_cR (rest := [zi (v30 - 1), zr (some a29)]) hf (fun v45 s46 hcall => z_runS hC (pc := 83) 1 (m_J20_valueOf X.g (v43 + 1) s44 s46 v45 hcall) (lw_S q1625 q1198 q125 q1199) hd_J20_valueOf ⟨(Nat.le_of_ble_eq_true rfl), (Nat.le_of_ble_eq_true rfl)⟩ rfl (Nat.le_of_ble_eq_true rfl) dX3_blocks_83 rfl) (fun v45 s46 hf => ?_)
      obtain ⟨fs47, ha48, hf⟩ := z_rcN hf
      refine z_cR5 (rest := []) hf (fun v49 s50 hcall => z_runF hC (pc := 86) zcJ5 2 ha48 (m_J5_set X.g a29 (v30 - 1) v45 s46 s50 v49 hcall) (lw_app (zm4 q1627 q1630 q1632 q104) (lw_meth q1634)) q1629 q1628 q1633 q1631 q434 (by decide +kernel) ⟨(Nat.le_of_ble_eq_true rfl), (Nat.le_of_ble_eq_true rfl)⟩ rfl (Nat.le_of_ble_eq_true rfl) dX3_blocks_86 rfl) (fun v49 s50 hf => ?_)
      refine z_pop hC (pc := 91) dX3_blocks_91 rfl ?_
      refine z_goto hC (pc := 92) (tgt := 106) dX3_blocks_92 rfl ?_
      refine ZW.perm (lv' := [(0, zr (some l0)), (1, zr (some a29)), (3, zr (some a3)), (4, zi v18)]) [1, 2, 4, 0] rfl ?_
      exact w_X3_blocks_b106 hC hL hno hQ k15 hk15 l0 (some a29) (some a3) v18 s50 hf
def f_X3_blocks_l15 (G : Nat → Nat) : Nat → Nat → Option Nat → Int32 → Option Nat → zS → Option ((Option Nat) × zS)
  | 0 => fun _ _ _ _ _ => none
  | n + 1 => f_X3_blocks_b15 G (f_X3_blocks_l15 G n)
theorem w_X3_blocks_l15 {X : zX} (hC : ZC X RX3 cX3_blocks (some (.object "java/util/List")) 11 216) (hL : X.nL = 5) (hno : ∀ x ∈ X.c.exceptionTable.toList, False) {r : (Option Nat)} {sF : zS} (hQ : ZQ X (.inl (some (zr r)), sF)) : ∀ (n : Nat) (l0 : Nat) (l1 : Option Nat) (l2 : Int32) (l3 : Option Nat) (s0 : zS) (_ : f_X3_blocks_l15 X.g.1 n l0 l1 l2 l3 s0 = some (r, sF)), ZW X s0 15 [(0, zr (some l0)), (1, zr l1), (2, zi l2), (3, zr l3)] [] := by
  intro n
  induction n with
  | zero => intro l0 l1 l2 l3 s0 hf; exact absurd (show (none : Option ((Option Nat) × zS)) = some (r, sF) from hf) (fun z => nomatch z)
  | succ n ih => intro l0 l1 l2 l3 s0 hf; exact w_X3_blocks_b15 hC hL hno hQ (f_X3_blocks_l15 X.g.1 n) ih l0 l1 l2 l3 s0 hf
def f_X3_blocks (G : Nat → Nat) (l0 : Nat) (s0 : zS) : Option ((Option Nat) × zS) :=
zb (znewO G s0 15 3 [.int 0, .null, .int 0]) fun a1 s2 =>
zb (f_J5_init G a1 s2) fun _ s4 =>
zo (zrc s4 (some l0) 2) fun _ =>
zb (f_X3_path G l0 s4) fun v7 s8 =>
f_X3_blocks_l15 G 2000 l0 (some a1) (-1) v7 s8
set_option maxHeartbeats 4000000 in
theorem m_X3_blocks (Γ : zG) (l0 : Nat) (s0 s1 : zS) (r : (Option Nat)) (hf : f_X3_blocks Γ.1 l0 s0 = some (r, s1)) : ZM Γ yX3_blocks (ws_ yX3_blocks cX3_blocks 5 (some (.object "java/util/List"))) 11 216 [zr (some l0)] s0 (.inl (some (zr r)), s1) := by
  refine ZM.of (own := RX3) (by decide) rfl (Nat.le_of_ble_eq_true rfl) ?_
  intro X hg hC hL hno hQ hin
  subst hg
  unfold f_X3_blocks at hf
  refine z_new hC (pc := 0) in_J5 tyJ5 tyJ5_ok zcJ5 q1619 q264 q104 rfl zdJ5 dX3_blocks_0 hf (fun a1 s2 hf => ?_)
  refine z_dup hC (pc := 3) dX3_blocks_3 rfl ?_
  refine z_cU (rest := [zr (some a1)]) hf (fun v3 s4 hcall => z_runI hC (pc := 4) 0 (m_J5_init X.g a1 s2 s4 v3 hcall) q267 rfl q104 q1620 q266 hd_J5_init ⟨(Nat.le_of_ble_eq_true rfl), (Nat.le_of_ble_eq_true rfl)⟩ rfl (Nat.le_of_ble_eq_true rfl) dX3_blocks_4 rfl) (fun _ s4 hf => ?_)
  refine z_astore_n (lv' := [(1, zr (some a1)), (0, zr (some l0))]) hC (pc := 7) hL dX3_blocks_7 rfl (Nat.le_of_ble_eq_true rfl) rfl ?_
  refine z_iconst (v := (-1)) hC (pc := 8) dX3_blocks_8 zki_m1 ?_
  refine z_istore_n (lv' := [(2, zi (-1)), (1, zr (some a1)), (0, zr (some l0))]) hC (pc := 9) hL dX3_blocks_9 rfl (Nat.le_of_ble_eq_true rfl) rfl ?_
  refine z_aload_n hC (pc := 10) dX3_blocks_10 rfl 2 rfl ?_
  obtain ⟨fs5, ha6, hf⟩ := z_rcN hf
  refine z_cR (rest := []) hf (fun v7 s8 hcall => z_runV hC (pc := 11) zcX3 0 ha6 (m_X3_path X.g l0 s4 s8 v7 hcall) (lw_V q1014 q1015 q1016 q99 q1017) hdV_X3_path ⟨(Nat.le_of_ble_eq_true rfl), (Nat.le_of_ble_eq_true rfl)⟩ rfl (Nat.le_of_ble_eq_true rfl) dX3_blocks_11 rfl) (fun v7 s8 hf => ?_)
  refine z_astore_n (lv' := [(3, zr v7), (2, zi (-1)), (1, zr (some a1)), (0, zr (some l0))]) hC (pc := 14) hL dX3_blocks_14 rfl (Nat.le_of_ble_eq_true rfl) rfl ?_
  refine ZW.perm (lv' := [(0, zr (some l0)), (1, zr (some a1)), (2, zi (-1)), (3, zr v7)]) [3, 2, 1, 0] rfl ?_
  exact w_X3_blocks_l15 hC hL hno hQ 2000 l0 (some a1) (-1) v7 s8 hf
/-! BlockingShop.blockCount()I -/
def f_X1_blockCount (G : Nat → Nat) (l0 : Nat) (s0 : zS) : Option (Int32 × zS) :=
zo (zgR s0 (some l0) 0 3) fun v1 =>
zo (zrc s0 v1 2) fun a4 =>
zb (f_X3_blocks G a4 s0) fun v5 s6 =>
zo (zrc s6 v5 15) fun a9 =>
zb (f_J5_size G a9 s6) fun v10 s11 =>
some (v10, s11)
set_option maxHeartbeats 4000000 in
theorem m_X1_blockCount (Γ : zG) (l0 : Nat) (s0 s1 : zS) (r : Int32) (hf : f_X1_blockCount Γ.1 l0 s0 = some (r, s1)) : ZM Γ yX1_blockCount (ws_ yX1_blockCount cX1_blockCount 1 (some .int)) 12 240 [zr (some l0)] s0 (.inl (some (zi r)), s1) := by
  refine ZM.of (own := RX1) (by decide) rfl (Nat.le_of_ble_eq_true rfl) ?_
  intro X hg hC hL hno hQ hin
  subst hg
  unfold f_X1_blockCount at hf
  refine z_aload_n hC (pc := 0) dX1_blockCount_0 rfl 0 rfl ?_
  refine z_getR hC (pc := 1) in_X1 zcX1 3 (Nat.le_of_ble_eq_true rfl) (zLk.o hC q394) zsm dX1_blockCount_1 hf (fun v1 hf => ?_)
  obtain ⟨a4, fs2, rfl, ha3, hf⟩ := z_rcO hf
  refine z_cR (rest := []) hf (fun v5 s6 hcall => z_runV hC (pc := 4) zcX3 0 ha3 (m_X3_blocks X.g a4 s0 s6 v5 hcall) (lw_V q1615 q1616 q1617 q99 q1618) hdV_X3_blocks ⟨(Nat.le_of_ble_eq_true rfl), (Nat.le_of_ble_eq_true rfl)⟩ rfl (Nat.le_of_ble_eq_true rfl) dX1_blockCount_4 rfl) (fun v5 s6 hf => ?_)
  obtain ⟨a9, fs7, rfl, ha8, hf⟩ := z_rcO hf
  refine z_cI5 (rest := []) hf (fun v10 s11 hcall => z_runF hC (pc := 7) zcJ5 0 ha8 (m_J5_size X.g a9 s6 s11 v10 hcall) (lw_app (zm4 q431 q435 q437 q104) (lw_meth q439)) q433 q432 q438 q436 q434 (by decide +kernel) ⟨(Nat.le_of_ble_eq_true rfl), (Nat.le_of_ble_eq_true rfl)⟩ rfl (Nat.le_of_ble_eq_true rfl) dX1_blockCount_7 rfl) (fun v10 s11 hf => ?_)
  exact z_ireturn hC (pc := 12) hQ dX1_blockCount_12 hf
/-! BlockingShop.hash(JJ)J -/
def f_X1_hash (G : Nat → Nat) (l0 : Int64) (l2 : Int64) (s0 : zS) : Option (Int64 × zS) :=
some (((31 * l0) + l2), s0)
set_option maxHeartbeats 4000000 in
theorem m_X1_hash (Γ : zG) (l0 : Int64) (l2 : Int64) (s0 s1 : zS) (r : Int64) (hf : f_X1_hash Γ.1 l0 l2 s0 = some (r, s1)) : ZM Γ yX1_hash (ws_ yX1_hash cX1_hash 4 (some .long)) 1 0 [zj l0, zj l2] s0 (.inl (some (zj r)), s1) := by
  refine ZM.of (own := RX1) (by decide) rfl (Nat.le_of_ble_eq_true rfl) ?_
  intro X hg hC hL hno hQ hin
  subst hg
  unfold f_X1_hash at hf
  refine z_ldc2 (v := 31) hC (pc := 0) q1999 dX1_hash_0 ?_
  refine z_lload_n hC (pc := 3) dX1_hash_3 rfl 0 rfl ?_
  refine z_lmul hC (pc := 4) dX1_hash_4 ?_
  refine z_lload_n hC (pc := 5) dX1_hash_5 rfl 1 rfl ?_
  refine z_ladd hC (pc := 6) dX1_hash_6 ?_
  exact z_lreturn hC (pc := 7) hQ dX1_hash_7 hf
/-! BlockingShop.checksum()J -/
def f_X1_checksum_b39 (G : Nat → Nat) (k22 : Nat → Int64 → Int32 → zS → Option (Int64 × zS)) (k39 : Nat → Int64 → Int32 → Int32 → zS → Option (Int64 × zS)) (l0 : Nat) (l1 : Int64) (l3 : Int32) (l4 : Int32) (s0 : zS) : Option (Int64 × zS) :=
zo (zgR s0 (some l0) 0 3) fun v1 =>
zo (zgR s0 v1 2 2) fun v2 =>
zo (zaI s0 v2 0 l3) fun v3 =>
if v3 ≤ l4 then (k22 l0 l1 (l3 + 1) s0)
else (zo (zgR s0 (some l0) 0 3) fun v5 =>
zo (zgR s0 v5 2 4) fun v6 =>
zo (zaR s0 v6 l3) fun v7 =>
zo (zaI s0 v7 0 l4) fun v8 =>
zb (f_X1_shown G v8 s0) fun v9 s10 =>
zb (f_X1_hash G l1 (v9.toInt64) s10) fun v11 s12 =>
k39 l0 v11 l3 (l4 + 1) s12)
set_option maxHeartbeats 4000000 in
theorem w_X1_checksum_b39 {X : zX} (hC : ZC X RX1 cX1_checksum (some .long) 3013 60174) (hL : X.nL = 5) (hno : ∀ x ∈ X.c.exceptionTable.toList, False) {r : Int64} {sF : zS} (hQ : ZQ X (.inl (some (zj r)), sF)) (k22 : Nat → Int64 → Int32 → zS → Option (Int64 × zS)) (hk22 : ∀ (l0 : Nat) (l1 : Int64) (l3 : Int32) (s0 : zS), k22 l0 l1 l3 s0 = some (r, sF) → ZW X s0 22 [(0, zr (some l0)), (1, zj l1), (3, zi l3)] []) (k39 : Nat → Int64 → Int32 → Int32 → zS → Option (Int64 × zS)) (hk39 : ∀ (l0 : Nat) (l1 : Int64) (l3 : Int32) (l4 : Int32) (s0 : zS), k39 l0 l1 l3 l4 s0 = some (r, sF) → ZW X s0 39 [(0, zr (some l0)), (1, zj l1), (3, zi l3), (4, zi l4)] []) (l0 : Nat) (l1 : Int64) (l3 : Int32) (l4 : Int32) (s0 : zS) (hf : f_X1_checksum_b39 X.g.1 k22 k39 l0 l1 l3 l4 s0 = some (r, sF)) : ZW X s0 39 [(0, zr (some l0)), (1, zj l1), (3, zi l3), (4, zi l4)] [] := by
  unfold f_X1_checksum_b39 at hf
  refine z_iload hC (pc := 39) dX1_checksum_39 3 rfl ?_
  refine z_aload_n hC (pc := 41) dX1_checksum_41 rfl 0 rfl ?_
  refine z_getR hC (pc := 42) in_X1 zcX1 3 (Nat.le_of_ble_eq_true rfl) (zLk.o hC q394) zsm dX1_checksum_42 hf (fun v1 hf => ?_)
  refine z_getR hC (pc := 45) in_X3 zcX3 2 (Nat.le_of_ble_eq_true rfl) (zLk.n hC q373) zsm dX1_checksum_45 hf (fun v2 hf => ?_)
  refine z_iload_n hC (pc := 48) dX1_checksum_48 rfl 2 rfl ?_
  refine z_iald hC (pc := 49) dX1_checksum_49 hf (fun v3 hf => ?_)
  refine z_icmp_ge hC (pc := 50) (tgt := 80) dX1_checksum_50 rfl (fun c4 => ?_) (fun c4 => ?_)
  · have hf := zif_t hf c4
    refine z_iinc (v := 1) (lv' := [(3, zi (l3 + 1)), (0, zr (some l0)), (1, zj l1), (4, zi l4)]) hC (pc := 80) hL dX1_checksum_80 2 rfl zki_1 (Nat.le_of_ble_eq_true rfl) rfl ?_
    refine z_goto hC (pc := 83) (tgt := 22) dX1_checksum_83 rfl ?_
    refine ZW.perm (lv' := [(0, zr (some l0)), (1, zj l1), (3, zi (l3 + 1))]) [1, 2, 0] rfl ?_
    exact hk22 l0 l1 (l3 + 1) s0 hf
  · have hf := zif_f hf c4
    refine z_lload_n hC (pc := 53) dX1_checksum_53 rfl 1 rfl ?_
    refine z_aload_n hC (pc := 54) dX1_checksum_54 rfl 0 rfl ?_
    refine z_getR hC (pc := 55) in_X1 zcX1 3 (Nat.le_of_ble_eq_true rfl) (zLk.o hC q394) zsm dX1_checksum_55 hf (fun v5 hf => ?_)
    refine z_getR hC (pc := 58) in_X3 zcX3 4 (Nat.le_of_ble_eq_true rfl) (zLk.n hC q378) zsm dX1_checksum_58 hf (fun v6 hf => ?_)
    refine z_iload_n hC (pc := 61) dX1_checksum_61 rfl 2 rfl ?_
    refine z_aald hC (pc := 62) dX1_checksum_62 hf (fun v7 hf => ?_)
    refine z_iload hC (pc := 63) dX1_checksum_63 3 rfl ?_
    refine z_iald hC (pc := 65) dX1_checksum_65 hf (fun v8 hf => ?_)
    refine z_cI (rest := [zj l1]) hf (fun v9 s10 hcall => z_runS hC (pc := 66) 1 (m_X1_shown X.g v8 s0 s10 v9 hcall) (lw_S q2000 q2001 q95 q2002) hd_X1_shown ⟨(Nat.le_of_ble_eq_true rfl), (Nat.le_of_ble_eq_true rfl)⟩ rfl (Nat.le_of_ble_eq_true rfl) dX1_checksum_66 rfl) (fun v9 s10 hf => ?_)
    refine z_i2l hC (pc := 69) dX1_checksum_69 ?_
    refine z_cL (rest := []) hf (fun v11 s12 hcall => z_runS hC (pc := 70) 2 (m_X1_hash X.g l1 (v9.toInt64) s10 s12 v11 hcall) (lw_S q1996 q1997 q95 q1998) hd_X1_hash ⟨(Nat.le_of_ble_eq_true rfl), (Nat.le_of_ble_eq_true rfl)⟩ rfl (Nat.le_of_ble_eq_true rfl) dX1_checksum_70 rfl) (fun v11 s12 hf => ?_)
    refine z_lstore_n (lv' := [(1, zj v11), (0, zr (some l0)), (3, zi l3), (4, zi l4)]) hC (pc := 73) hL dX1_checksum_73 rfl (Nat.le_of_ble_eq_true rfl) rfl ?_
    refine z_iinc (v := 1) (lv' := [(4, zi (l4 + 1)), (1, zj v11), (0, zr (some l0)), (3, zi l3)]) hC (pc := 74) hL dX1_checksum_74 3 rfl zki_1 (Nat.le_of_ble_eq_true rfl) rfl ?_
    refine z_goto hC (pc := 77) (tgt := 39) dX1_checksum_77 rfl ?_
    refine ZW.perm (lv' := [(0, zr (some l0)), (1, zj v11), (3, zi l3), (4, zi (l4 + 1))]) [2, 1, 3, 0] rfl ?_
    exact hk39 l0 v11 l3 (l4 + 1) s12 hf
def f_X1_checksum_l39 (G : Nat → Nat) (k22 : Nat → Int64 → Int32 → zS → Option (Int64 × zS)) : Nat → Nat → Int64 → Int32 → Int32 → zS → Option (Int64 × zS)
  | 0 => fun _ _ _ _ _ => none
  | n + 1 => f_X1_checksum_b39 G k22 (f_X1_checksum_l39 G k22 n)
theorem w_X1_checksum_l39 {X : zX} (hC : ZC X RX1 cX1_checksum (some .long) 3013 60174) (hL : X.nL = 5) (hno : ∀ x ∈ X.c.exceptionTable.toList, False) {r : Int64} {sF : zS} (hQ : ZQ X (.inl (some (zj r)), sF)) (k22 : Nat → Int64 → Int32 → zS → Option (Int64 × zS)) (hk22 : ∀ (l0 : Nat) (l1 : Int64) (l3 : Int32) (s0 : zS), k22 l0 l1 l3 s0 = some (r, sF) → ZW X s0 22 [(0, zr (some l0)), (1, zj l1), (3, zi l3)] []) : ∀ (n : Nat) (l0 : Nat) (l1 : Int64) (l3 : Int32) (l4 : Int32) (s0 : zS) (_ : f_X1_checksum_l39 X.g.1 k22 n l0 l1 l3 l4 s0 = some (r, sF)), ZW X s0 39 [(0, zr (some l0)), (1, zj l1), (3, zi l3), (4, zi l4)] [] := by
  intro n
  induction n with
  | zero => intro l0 l1 l3 l4 s0 hf; exact absurd (show (none : Option (Int64 × zS)) = some (r, sF) from hf) (fun z => nomatch z)
  | succ n ih => intro l0 l1 l3 l4 s0 hf; exact w_X1_checksum_b39 hC hL hno hQ k22 hk22 (f_X1_checksum_l39 X.g.1 k22 n) ih l0 l1 l3 l4 s0 hf
def f_X1_checksum_b123 (G : Nat → Nat) (k88 : Nat → Int64 → Int32 → zS → Option (Int64 × zS)) (l0 : Nat) (l1 : Int64) (l3 : Int32) (s0 : zS) : Option (Int64 × zS) :=
k88 l0 l1 (l3 + 1) s0
set_option maxHeartbeats 4000000 in
theorem w_X1_checksum_b123 {X : zX} (hC : ZC X RX1 cX1_checksum (some .long) 3013 60174) (hL : X.nL = 5) (hno : ∀ x ∈ X.c.exceptionTable.toList, False) {r : Int64} {sF : zS} (hQ : ZQ X (.inl (some (zj r)), sF)) (k88 : Nat → Int64 → Int32 → zS → Option (Int64 × zS)) (hk88 : ∀ (l0 : Nat) (l1 : Int64) (l3 : Int32) (s0 : zS), k88 l0 l1 l3 s0 = some (r, sF) → ZW X s0 88 [(0, zr (some l0)), (1, zj l1), (3, zi l3)] []) (l0 : Nat) (l1 : Int64) (l3 : Int32) (s0 : zS) (hf : f_X1_checksum_b123 X.g.1 k88 l0 l1 l3 s0 = some (r, sF)) : ZW X s0 123 [(0, zr (some l0)), (1, zj l1), (3, zi l3)] [] := by
  unfold f_X1_checksum_b123 at hf
  refine z_iinc (v := 1) (lv' := [(3, zi (l3 + 1)), (0, zr (some l0)), (1, zj l1)]) hC (pc := 123) hL dX1_checksum_123 2 rfl zki_1 (Nat.le_of_ble_eq_true rfl) rfl ?_
  refine z_goto hC (pc := 126) (tgt := 88) dX1_checksum_126 rfl ?_
  refine ZW.perm (lv' := [(0, zr (some l0)), (1, zj l1), (3, zi (l3 + 1))]) [1, 2, 0] rfl ?_
  exact hk88 l0 l1 (l3 + 1) s0 hf
def f_X1_checksum_b88 (G : Nat → Nat) (k88 : Nat → Int64 → Int32 → zS → Option (Int64 × zS)) (l0 : Nat) (l1 : Int64) (l3 : Int32) (s0 : zS) : Option (Int64 × zS) :=
if 36 ≤ l3 then (some (l1, s0))
else (zo (zgR s0 (some l0) 0 3) fun v2 =>
zo (zgR s0 v2 2 0) fun v3 =>
zo (zrc s0 v3 3) fun a6 =>
zb (f_X4_exists G a6 l3 s0) fun v7 s8 =>
if v7 = 0 then (f_X1_checksum_b123 G k88 l0 l1 l3 s8)
else (zo (zgR s8 (some l0) 0 3) fun v10 =>
zo (zgR s8 v10 2 3) fun v11 =>
zo (zaI s8 v11 0 l3) fun v12 =>
zb (f_X1_hash G l1 (v12.toInt64) s8) fun v13 s14 =>
f_X1_checksum_b123 G k88 l0 v13 l3 s14))
set_option maxHeartbeats 4000000 in
theorem w_X1_checksum_b88 {X : zX} (hC : ZC X RX1 cX1_checksum (some .long) 3013 60174) (hL : X.nL = 5) (hno : ∀ x ∈ X.c.exceptionTable.toList, False) {r : Int64} {sF : zS} (hQ : ZQ X (.inl (some (zj r)), sF)) (k88 : Nat → Int64 → Int32 → zS → Option (Int64 × zS)) (hk88 : ∀ (l0 : Nat) (l1 : Int64) (l3 : Int32) (s0 : zS), k88 l0 l1 l3 s0 = some (r, sF) → ZW X s0 88 [(0, zr (some l0)), (1, zj l1), (3, zi l3)] []) (l0 : Nat) (l1 : Int64) (l3 : Int32) (s0 : zS) (hf : f_X1_checksum_b88 X.g.1 k88 l0 l1 l3 s0 = some (r, sF)) : ZW X s0 88 [(0, zr (some l0)), (1, zj l1), (3, zi l3)] [] := by
  unfold f_X1_checksum_b88 at hf
  refine z_iload_n hC (pc := 88) dX1_checksum_88 rfl 2 rfl ?_
  refine z_bipush (v := 36) hC (pc := 89) dX1_checksum_89 zkb_36 ?_
  refine z_icmp_ge hC (pc := 91) (tgt := 129) dX1_checksum_91 rfl (fun c1 => ?_) (fun c1 => ?_)
  · have hf := zif_t hf c1
    refine z_lload_n hC (pc := 129) dX1_checksum_129 rfl 1 rfl ?_
    exact z_lreturn hC (pc := 130) hQ dX1_checksum_130 hf
  · have hf := zif_f hf c1
    refine z_aload_n hC (pc := 94) dX1_checksum_94 rfl 0 rfl ?_
    refine z_getR hC (pc := 95) in_X1 zcX1 3 (Nat.le_of_ble_eq_true rfl) (zLk.o hC q394) zsm dX1_checksum_95 hf (fun v2 hf => ?_)
    refine z_getR hC (pc := 98) in_X3 zcX3 0 (Nat.le_of_ble_eq_true rfl) (zLk.n hC q366) zsm dX1_checksum_98 hf (fun v3 hf => ?_)
    refine z_iload_n hC (pc := 101) dX1_checksum_101 rfl 2 rfl ?_
    obtain ⟨a6, fs4, rfl, ha5, hf⟩ := z_rcO hf
    refine z_cI (rest := []) hf (fun v7 s8 hcall => z_runV hC (pc := 102) zcX4 1 ha5 (m_X4_exists X.g a6 l3 s0 s8 v7 hcall) (lw_V q2003 q1872 q1873 q100 q1874) hdV_X4_exists ⟨(Nat.le_of_ble_eq_true rfl), (Nat.le_of_ble_eq_true rfl)⟩ rfl (Nat.le_of_ble_eq_true rfl) dX1_checksum_102 rfl) (fun v7 s8 hf => ?_)
    refine z_if_eq hC (pc := 105) (tgt := 123) dX1_checksum_105 rfl (fun c9 => ?_) (fun c9 => ?_)
    · have hf := zif_t hf c9
      exact w_X1_checksum_b123 hC hL hno hQ k88 hk88 l0 l1 l3 s8 hf
    · have hf := zif_f hf c9
      refine z_lload_n hC (pc := 108) dX1_checksum_108 rfl 1 rfl ?_
      refine z_aload_n hC (pc := 109) dX1_checksum_109 rfl 0 rfl ?_
      refine z_getR hC (pc := 110) in_X1 zcX1 3 (Nat.le_of_ble_eq_true rfl) (zLk.o hC q394) zsm dX1_checksum_110 hf (fun v10 hf => ?_)
      refine z_getR hC (pc := 113) in_X3 zcX3 3 (Nat.le_of_ble_eq_true rfl) (zLk.n hC q375) zsm dX1_checksum_113 hf (fun v11 hf => ?_)
      refine z_iload_n hC (pc := 116) dX1_checksum_116 rfl 2 rfl ?_
      refine z_iald hC (pc := 117) dX1_checksum_117 hf (fun v12 hf => ?_)
      refine z_i2l hC (pc := 118) dX1_checksum_118 ?_
      refine z_cL (rest := []) hf (fun v13 s14 hcall => z_runS hC (pc := 119) 2 (m_X1_hash X.g l1 (v12.toInt64) s8 s14 v13 hcall) (lw_S q1996 q1997 q95 q1998) hd_X1_hash ⟨(Nat.le_of_ble_eq_true rfl), (Nat.le_of_ble_eq_true rfl)⟩ rfl (Nat.le_of_ble_eq_true rfl) dX1_checksum_119 rfl) (fun v13 s14 hf => ?_)
      refine z_lstore_n (lv' := [(1, zj v13), (0, zr (some l0)), (3, zi l3)]) hC (pc := 122) hL dX1_checksum_122 rfl (Nat.le_of_ble_eq_true rfl) rfl ?_
      refine ZW.perm (lv' := [(0, zr (some l0)), (1, zj v13), (3, zi l3)]) [1, 0, 2] rfl ?_
      exact w_X1_checksum_b123 hC hL hno hQ k88 hk88 l0 v13 l3 s14 hf
def f_X1_checksum_l88 (G : Nat → Nat) : Nat → Nat → Int64 → Int32 → zS → Option (Int64 × zS)
  | 0 => fun _ _ _ _ => none
  | n + 1 => f_X1_checksum_b88 G (f_X1_checksum_l88 G n)
theorem w_X1_checksum_l88 {X : zX} (hC : ZC X RX1 cX1_checksum (some .long) 3013 60174) (hL : X.nL = 5) (hno : ∀ x ∈ X.c.exceptionTable.toList, False) {r : Int64} {sF : zS} (hQ : ZQ X (.inl (some (zj r)), sF)) : ∀ (n : Nat) (l0 : Nat) (l1 : Int64) (l3 : Int32) (s0 : zS) (_ : f_X1_checksum_l88 X.g.1 n l0 l1 l3 s0 = some (r, sF)), ZW X s0 88 [(0, zr (some l0)), (1, zj l1), (3, zi l3)] [] := by
  intro n
  induction n with
  | zero => intro l0 l1 l3 s0 hf; exact absurd (show (none : Option (Int64 × zS)) = some (r, sF) from hf) (fun z => nomatch z)
  | succ n ih => intro l0 l1 l3 s0 hf; exact w_X1_checksum_b88 hC hL hno hQ (f_X1_checksum_l88 X.g.1 n) ih l0 l1 l3 s0 hf
def f_X1_checksum_b22 (G : Nat → Nat) (k22 : Nat → Int64 → Int32 → zS → Option (Int64 × zS)) (l0 : Nat) (l1 : Int64) (l3 : Int32) (s0 : zS) : Option (Int64 × zS) :=
zo (zgR s0 (some l0) 0 3) fun v1 =>
zo (zgR s0 v1 2 0) fun v2 =>
zo (zgI s0 v2 3 0) fun v3 =>
if v3 ≤ l3 then (f_X1_checksum_l88 G 2000 l0 l1 0 s0)
else (f_X1_checksum_l39 G k22 2000 l0 l1 l3 0 s0)
set_option maxHeartbeats 4000000 in
theorem w_X1_checksum_b22 {X : zX} (hC : ZC X RX1 cX1_checksum (some .long) 3013 60174) (hL : X.nL = 5) (hno : ∀ x ∈ X.c.exceptionTable.toList, False) {r : Int64} {sF : zS} (hQ : ZQ X (.inl (some (zj r)), sF)) (k22 : Nat → Int64 → Int32 → zS → Option (Int64 × zS)) (hk22 : ∀ (l0 : Nat) (l1 : Int64) (l3 : Int32) (s0 : zS), k22 l0 l1 l3 s0 = some (r, sF) → ZW X s0 22 [(0, zr (some l0)), (1, zj l1), (3, zi l3)] []) (l0 : Nat) (l1 : Int64) (l3 : Int32) (s0 : zS) (hf : f_X1_checksum_b22 X.g.1 k22 l0 l1 l3 s0 = some (r, sF)) : ZW X s0 22 [(0, zr (some l0)), (1, zj l1), (3, zi l3)] [] := by
  unfold f_X1_checksum_b22 at hf
  refine z_iload_n hC (pc := 22) dX1_checksum_22 rfl 2 rfl ?_
  refine z_aload_n hC (pc := 23) dX1_checksum_23 rfl 0 rfl ?_
  refine z_getR hC (pc := 24) in_X1 zcX1 3 (Nat.le_of_ble_eq_true rfl) (zLk.o hC q394) zsm dX1_checksum_24 hf (fun v1 hf => ?_)
  refine z_getR hC (pc := 27) in_X3 zcX3 0 (Nat.le_of_ble_eq_true rfl) (zLk.n hC q366) zsm dX1_checksum_27 hf (fun v2 hf => ?_)
  refine z_getI hC (pc := 30) in_X4 zcX4 0 (Nat.le_of_ble_eq_true rfl) (zLk.n hC q324) zsm dX1_checksum_30 hf (fun v3 hf => ?_)
  refine z_icmp_ge hC (pc := 33) (tgt := 86) dX1_checksum_33 rfl (fun c4 => ?_) (fun c4 => ?_)
  · have hf := zif_t hf c4
    refine z_iconst (v := 0) hC (pc := 86) dX1_checksum_86 zki_0 ?_
    refine z_istore_n (lv' := [(3, zi 0), (0, zr (some l0)), (1, zj l1)]) hC (pc := 87) hL dX1_checksum_87 rfl (Nat.le_of_ble_eq_true rfl) rfl ?_
    refine ZW.perm (lv' := [(0, zr (some l0)), (1, zj l1), (3, zi 0)]) [1, 2, 0] rfl ?_
    exact w_X1_checksum_l88 hC hL hno hQ 2000 l0 l1 0 s0 hf
  · have hf := zif_f hf c4
    refine z_iconst (v := 0) hC (pc := 36) dX1_checksum_36 zki_0 ?_
    refine z_istore (lv' := [(4, zi 0), (0, zr (some l0)), (1, zj l1), (3, zi l3)]) hC (pc := 37) hL dX1_checksum_37 (Nat.le_of_ble_eq_true rfl) rfl ?_
    refine ZW.perm (lv' := [(0, zr (some l0)), (1, zj l1), (3, zi l3), (4, zi 0)]) [1, 2, 3, 0] rfl ?_
    exact w_X1_checksum_l39 hC hL hno hQ k22 hk22 2000 l0 l1 l3 0 s0 hf
def f_X1_checksum_l22 (G : Nat → Nat) : Nat → Nat → Int64 → Int32 → zS → Option (Int64 × zS)
  | 0 => fun _ _ _ _ => none
  | n + 1 => f_X1_checksum_b22 G (f_X1_checksum_l22 G n)
theorem w_X1_checksum_l22 {X : zX} (hC : ZC X RX1 cX1_checksum (some .long) 3013 60174) (hL : X.nL = 5) (hno : ∀ x ∈ X.c.exceptionTable.toList, False) {r : Int64} {sF : zS} (hQ : ZQ X (.inl (some (zj r)), sF)) : ∀ (n : Nat) (l0 : Nat) (l1 : Int64) (l3 : Int32) (s0 : zS) (_ : f_X1_checksum_l22 X.g.1 n l0 l1 l3 s0 = some (r, sF)), ZW X s0 22 [(0, zr (some l0)), (1, zj l1), (3, zi l3)] [] := by
  intro n
  induction n with
  | zero => intro l0 l1 l3 s0 hf; exact absurd (show (none : Option (Int64 × zS)) = some (r, sF) from hf) (fun z => nomatch z)
  | succ n ih => intro l0 l1 l3 s0 hf; exact w_X1_checksum_b22 hC hL hno hQ (f_X1_checksum_l22 X.g.1 n) ih l0 l1 l3 s0 hf
def f_X1_checksum (G : Nat → Nat) (l0 : Nat) (s0 : zS) : Option (Int64 × zS) :=
zo (zgR s0 (some l0) 0 3) fun v1 =>
zo (zrc s0 v1 2) fun a4 =>
zb (f_X3_makespan G a4 s0) fun v5 s6 =>
zo (zgR s6 (some l0) 0 3) fun v7 =>
zo (zrc s6 v7 2) fun a10 =>
zb (f_X3_cost G a10 s6) fun v11 s12 =>
zb (f_X1_hash G (v5.toInt64) (v11.toInt64) s12) fun v13 s14 =>
f_X1_checksum_l22 G 2000 l0 v13 0 s14
set_option maxHeartbeats 4000000 in
theorem m_X1_checksum (Γ : zG) (l0 : Nat) (s0 s1 : zS) (r : Int64) (hf : f_X1_checksum Γ.1 l0 s0 = some (r, s1)) : ZM Γ yX1_checksum (ws_ yX1_checksum cX1_checksum 5 (some .long)) 3013 60174 [zr (some l0)] s0 (.inl (some (zj r)), s1) := by
  refine ZM.of (own := RX1) (by decide) rfl (Nat.le_of_ble_eq_true rfl) ?_
  intro X hg hC hL hno hQ hin
  subst hg
  unfold f_X1_checksum at hf
  refine z_aload_n hC (pc := 0) dX1_checksum_0 rfl 0 rfl ?_
  refine z_getR hC (pc := 1) in_X1 zcX1 3 (Nat.le_of_ble_eq_true rfl) (zLk.o hC q394) zsm dX1_checksum_1 hf (fun v1 hf => ?_)
  obtain ⟨a4, fs2, rfl, ha3, hf⟩ := z_rcO hf
  refine z_cI (rest := []) hf (fun v5 s6 hcall => z_runV hC (pc := 4) zcX3 0 ha3 (m_X3_makespan X.g a4 s0 s6 v5 hcall) (lw_V q464 q465 q466 q99 q467) hdV_X3_makespan ⟨(Nat.le_of_ble_eq_true rfl), (Nat.le_of_ble_eq_true rfl)⟩ rfl (Nat.le_of_ble_eq_true rfl) dX1_checksum_4 rfl) (fun v5 s6 hf => ?_)
  refine z_i2l hC (pc := 7) dX1_checksum_7 ?_
  refine z_aload_n hC (pc := 8) dX1_checksum_8 rfl 0 rfl ?_
  refine z_getR hC (pc := 9) in_X1 zcX1 3 (Nat.le_of_ble_eq_true rfl) (zLk.o hC q394) zsm dX1_checksum_9 hf (fun v7 hf => ?_)
  obtain ⟨a10, fs8, rfl, ha9, hf⟩ := z_rcO hf
  refine z_cI (rest := [zj (v5.toInt64)]) hf (fun v11 s12 hcall => z_runV hC (pc := 12) zcX3 0 ha9 (m_X3_cost X.g a10 s6 s12 v11 hcall) (lw_V q885 q886 q887 q99 q888) hdV_X3_cost ⟨(Nat.le_of_ble_eq_true rfl), (Nat.le_of_ble_eq_true rfl)⟩ rfl (Nat.le_of_ble_eq_true rfl) dX1_checksum_12 rfl) (fun v11 s12 hf => ?_)
  refine z_i2l hC (pc := 15) dX1_checksum_15 ?_
  refine z_cL (rest := []) hf (fun v13 s14 hcall => z_runS hC (pc := 16) 2 (m_X1_hash X.g (v5.toInt64) (v11.toInt64) s12 s14 v13 hcall) (lw_S q1996 q1997 q95 q1998) hd_X1_hash ⟨(Nat.le_of_ble_eq_true rfl), (Nat.le_of_ble_eq_true rfl)⟩ rfl (Nat.le_of_ble_eq_true rfl) dX1_checksum_16 rfl) (fun v13 s14 hf => ?_)
  refine z_lstore_n (lv' := [(1, zj v13), (0, zr (some l0))]) hC (pc := 19) hL dX1_checksum_19 rfl (Nat.le_of_ble_eq_true rfl) rfl ?_
  refine z_iconst (v := 0) hC (pc := 20) dX1_checksum_20 zki_0 ?_
  refine z_istore_n (lv' := [(3, zi 0), (1, zj v13), (0, zr (some l0))]) hC (pc := 21) hL dX1_checksum_21 rfl (Nat.le_of_ble_eq_true rfl) rfl ?_
  refine ZW.perm (lv' := [(0, zr (some l0)), (1, zj v13), (3, zi 0)]) [2, 1, 0] rfl ?_
  exact w_X1_checksum_l22 hC hL hno hQ 2000 l0 v13 0 s14 hf
/-! BlockingShop.criticalLength()I -/
def f_X1_criticalLength (G : Nat → Nat) (l0 : Nat) (s0 : zS) : Option (Int32 × zS) :=
zo (zgR s0 (some l0) 0 3) fun v1 =>
zo (zrc s0 v1 2) fun a4 =>
zb (f_X3_critical G a4 s0) fun v5 s6 =>
zo (zrc s6 v5 23) fun a9 =>
zb (f_J38_size G a9 s6) fun v10 s11 =>
some (v10, s11)
set_option maxHeartbeats 4000000 in
theorem m_X1_criticalLength (Γ : zG) (l0 : Nat) (s0 s1 : zS) (r : Int32) (hf : f_X1_criticalLength Γ.1 l0 s0 = some (r, s1)) : ZM Γ yX1_criticalLength (ws_ yX1_criticalLength cX1_criticalLength 1 (some .int)) 12 238 [zr (some l0)] s0 (.inl (some (zi r)), s1) := by
  refine ZM.of (own := RX1) (by decide) rfl (Nat.le_of_ble_eq_true rfl) ?_
  intro X hg hC hL hno hQ hin
  subst hg
  unfold f_X1_criticalLength at hf
  refine z_aload_n hC (pc := 0) dX1_criticalLength_0 rfl 0 rfl ?_
  refine z_getR hC (pc := 1) in_X1 zcX1 3 (Nat.le_of_ble_eq_true rfl) (zLk.o hC q394) zsm dX1_criticalLength_1 hf (fun v1 hf => ?_)
  obtain ⟨a4, fs2, rfl, ha3, hf⟩ := z_rcO hf
  refine z_cR (rest := []) hf (fun v5 s6 hcall => z_runV hC (pc := 4) zcX3 0 ha3 (m_X3_critical X.g a4 s0 s6 v5 hcall) (lw_V q990 q991 q992 q99 q993) hdV_X3_critical ⟨(Nat.le_of_ble_eq_true rfl), (Nat.le_of_ble_eq_true rfl)⟩ rfl (Nat.le_of_ble_eq_true rfl) dX1_criticalLength_4 rfl) (fun v5 s6 hf => ?_)
  obtain ⟨a9, fs7, rfl, ha8, hf⟩ := z_rcO hf
  refine z_cI (rest := []) hf (fun v10 s11 hcall => z_runV hC (pc := 7) zcJ38 0 ha8 (m_J38_size X.g a9 s6 s11 v10 hcall) (lw_V q1610 q457 q3131 q149 q459) hdV_J38_size ⟨(Nat.le_of_ble_eq_true rfl), (Nat.le_of_ble_eq_true rfl)⟩ rfl (Nat.le_of_ble_eq_true rfl) dX1_criticalLength_7 rfl) (fun v10 s11 hf => ?_)
  exact z_ireturn hC (pc := 10) hQ dX1_criticalLength_10 hf
/-! BlockingShop.errorOffset()I -/
def f_X1_errorOffset (G : Nat → Nat) (l0 : Nat) (s0 : zS) : Option (Int32 × zS) :=
zo (zgI s0 (some l0) 0 5) fun v1 =>
some (v1, s0)
set_option maxHeartbeats 4000000 in
theorem m_X1_errorOffset (Γ : zG) (l0 : Nat) (s0 s1 : zS) (r : Int32) (hf : f_X1_errorOffset Γ.1 l0 s0 = some (r, s1)) : ZM Γ yX1_errorOffset (ws_ yX1_errorOffset cX1_errorOffset 1 (some .int)) 1 0 [zr (some l0)] s0 (.inl (some (zi r)), s1) := by
  refine ZM.of (own := RX1) (by decide) rfl (Nat.le_of_ble_eq_true rfl) ?_
  intro X hg hC hL hno hQ hin
  subst hg
  unfold f_X1_errorOffset at hf
  refine z_aload_n hC (pc := 0) dX1_errorOffset_0 rfl 0 rfl ?_
  refine z_getI hC (pc := 1) in_X1 zcX1 5 (Nat.le_of_ble_eq_true rfl) (zLk.o hC q396) zsm dX1_errorOffset_1 hf (fun v1 hf => ?_)
  exact z_ireturn hC (pc := 4) hQ dX1_errorOffset_4 hf
/-! BlockingShop$Graph.<init>()V -/
def f_X2_init (G : Nat → Nat) (l0 : Nat) (s0 : zS) : Option (Unit × zS) :=
zb (znewA G s0 0 72 (.inl fun _ => 0)) fun a1 s2 =>
zo (zput G s2 (some l0) 1 0 (va_rf (some a1))) fun s3 =>
zb (znewA G s3 0 72 (.inl fun _ => 0)) fun a4 s5 =>
zo (zput G s5 (some l0) 1 1 (va_rf (some a4))) fun s6 =>
zb (znewA G s6 0 72 (.inl fun _ => 0)) fun a7 s8 =>
zo (zput G s8 (some l0) 1 2 (va_rf (some a7))) fun s9 =>
zb (znewA G s9 0 36 (.inl fun _ => 0)) fun a10 s11 =>
zo (zput G s11 (some l0) 1 3 (va_rf (some a10))) fun s12 =>
zb (znewA G s12 0 36 (.inl fun _ => 0)) fun a13 s14 =>
zo (zput G s14 (some l0) 1 4 (va_rf (some a13))) fun s15 =>
zb (znewA G s15 0 36 (.inl fun _ => 0)) fun a16 s17 =>
zo (zput G s17 (some l0) 1 5 (va_rf (some a16))) fun s18 =>
some ((), s18)
set_option maxHeartbeats 4000000 in
theorem m_X2_init (Γ : zG) (l0 : Nat) (s0 s1 : zS) (r : Unit) (hf : f_X2_init Γ.1 l0 s0 = some (r, s1)) : ZM Γ yX2_init (ws_ yX2_init cX2_init 1 none) 1 12 [zr (some l0)] s0 (.inl none, s1) := by
  refine ZM.of (own := RX2) (by decide) rfl (Nat.le_of_ble_eq_true rfl) ?_
  intro X hg hC hL hno hQ hin
  subst hg
  unfold f_X2_init at hf
  refine z_aload_n hC (pc := 0) dX2_init_0 rfl 0 rfl ?_
  refine z_objInit hC (pc := 1) q192 q163 q164 (Nat.le_of_ble_eq_true rfl) (Nat.le_of_ble_eq_true rfl) dX2_init_1 ?_
  refine z_aload_n hC (pc := 4) dX2_init_4 rfl 0 rfl ?_
  refine z_bipush (v := 72) hC (pc := 5) dX2_init_5 zkb_72 ?_
  refine z_newa (t := 0) (ty := .int) hC (pc := 7) rfl rfl q222 (.inl fun _ => 0) (fun _ => rfl) (by decide) dX2_init_7 hf (fun a1 s2 hf => ?_)
  refine z_putV (v := zr (some a1)) hC (pc := 9) in_X2 tyX2 tyX2_ok nmX2 zcX2 0 (Nat.le_of_ble_eq_true rfl) (zLk.o hC q193) zsm (Or.inr ⟨rfl, hin, rfl, rfl⟩) rfl (zfa (some a1)) dX2_init_9 hf (fun s3 hf => ?_)
  refine z_aload_n hC (pc := 12) dX2_init_12 rfl 0 rfl ?_
  refine z_bipush (v := 72) hC (pc := 13) dX2_init_13 zkb_72 ?_
  refine z_newa (t := 0) (ty := .int) hC (pc := 15) rfl rfl q222 (.inl fun _ => 0) (fun _ => rfl) (by decide) dX2_init_15 hf (fun a4 s5 hf => ?_)
  refine z_putV (v := zr (some a4)) hC (pc := 17) in_X2 tyX2 tyX2_ok nmX2 zcX2 1 (Nat.le_of_ble_eq_true rfl) (zLk.o hC q194) zsm (Or.inr ⟨rfl, hin, rfl, rfl⟩) rfl (zfa (some a4)) dX2_init_17 hf (fun s6 hf => ?_)
  refine z_aload_n hC (pc := 20) dX2_init_20 rfl 0 rfl ?_
  refine z_bipush (v := 72) hC (pc := 21) dX2_init_21 zkb_72 ?_
  refine z_newa (t := 0) (ty := .int) hC (pc := 23) rfl rfl q222 (.inl fun _ => 0) (fun _ => rfl) (by decide) dX2_init_23 hf (fun a7 s8 hf => ?_)
  refine z_putV (v := zr (some a7)) hC (pc := 25) in_X2 tyX2 tyX2_ok nmX2 zcX2 2 (Nat.le_of_ble_eq_true rfl) (zLk.o hC q195) zsm (Or.inr ⟨rfl, hin, rfl, rfl⟩) rfl (zfa (some a7)) dX2_init_25 hf (fun s9 hf => ?_)
  refine z_aload_n hC (pc := 28) dX2_init_28 rfl 0 rfl ?_
  refine z_bipush (v := 36) hC (pc := 29) dX2_init_29 zkb_36 ?_
  refine z_newa (t := 0) (ty := .int) hC (pc := 31) rfl rfl q222 (.inl fun _ => 0) (fun _ => rfl) (by decide) dX2_init_31 hf (fun a10 s11 hf => ?_)
  refine z_putV (v := zr (some a10)) hC (pc := 33) in_X2 tyX2 tyX2_ok nmX2 zcX2 3 (Nat.le_of_ble_eq_true rfl) (zLk.o hC q196) zsm (Or.inr ⟨rfl, hin, rfl, rfl⟩) rfl (zfa (some a10)) dX2_init_33 hf (fun s12 hf => ?_)
  refine z_aload_n hC (pc := 36) dX2_init_36 rfl 0 rfl ?_
  refine z_bipush (v := 36) hC (pc := 37) dX2_init_37 zkb_36 ?_
  refine z_newa (t := 0) (ty := .int) hC (pc := 39) rfl rfl q222 (.inl fun _ => 0) (fun _ => rfl) (by decide) dX2_init_39 hf (fun a13 s14 hf => ?_)
  refine z_putV (v := zr (some a13)) hC (pc := 41) in_X2 tyX2 tyX2_ok nmX2 zcX2 4 (Nat.le_of_ble_eq_true rfl) (zLk.o hC q198) zsm (Or.inr ⟨rfl, hin, rfl, rfl⟩) rfl (zfa (some a13)) dX2_init_41 hf (fun s15 hf => ?_)
  refine z_aload_n hC (pc := 44) dX2_init_44 rfl 0 rfl ?_
  refine z_bipush (v := 36) hC (pc := 45) dX2_init_45 zkb_36 ?_
  refine z_newa (t := 0) (ty := .int) hC (pc := 47) rfl rfl q222 (.inl fun _ => 0) (fun _ => rfl) (by decide) dX2_init_47 hf (fun a16 s17 hf => ?_)
  refine z_putV (v := zr (some a16)) hC (pc := 49) in_X2 tyX2 tyX2_ok nmX2 zcX2 5 (Nat.le_of_ble_eq_true rfl) (zLk.o hC q199) zsm (Or.inr ⟨rfl, hin, rfl, rfl⟩) rfl (zfa (some a16)) dX2_init_49 hf (fun s18 hf => ?_)
  exact z_return hC (pc := 52) hQ dX2_init_52 hf
/-! BlockingShop.<init>()V -/
def f_X1_init (G : Nat → Nat) (l0 : Nat) (s0 : zS) : Option (Unit × zS) :=
zb (znewA G s0 2 900 (.inl fun _ => 0)) fun a1 s2 =>
zo (zput G s2 (some l0) 0 0 (va_rf (some a1))) fun s3 =>
zb (znewO G s3 13 3 [.null, .int 0, .int 0]) fun a4 s5 =>
zb (f_J1_init G a4 s5) fun _ s7 =>
zo (zput G s7 (some l0) 0 1 (va_rf (some a4))) fun s8 =>
zb (znewO G s8 1 9 [.null, .null, .null, .null, .null, .null, .null, .int 0, .int 0]) fun a9 s10 =>
zb (f_X2_init G a9 s10) fun _ s12 =>
zo (zput G s12 (some l0) 0 2 (va_rf (some a9))) fun s13 =>
zb (znewO G s13 2 5 [.null, .null, .null, .null, .null]) fun a14 s15 =>
zb (znewO G s15 3 7 [.int 0, .int 0, .null, .null, .null, .null, .null]) fun a16 s17 =>
zb (f_X4_init G a16 0 0 s17) fun _ s19 =>
zb (f_X3_init G a14 (some a16) s19) fun _ s21 =>
zo (zput G s21 (some l0) 0 3 (va_rf (some a14))) fun s22 =>
zo (zput G s22 (some l0) 0 5 (.int (-1))) fun s23 =>
some ((), s23)
set_option maxHeartbeats 4000000 in
theorem m_X1_init (Γ : zG) (l0 : Nat) (s0 s1 : zS) (r : Unit) (hf : f_X1_init Γ.1 l0 s0 = some (r, s1)) : ZM Γ yX1_init (ws_ yX1_init cX1_init 1 none) 5 94 [zr (some l0)] s0 (.inl none, s1) := by
  refine ZM.of (own := RX1) (by decide) rfl (Nat.le_of_ble_eq_true rfl) ?_
  intro X hg hC hL hno hQ hin
  subst hg
  unfold f_X1_init at hf
  refine z_aload_n hC (pc := 0) dX1_init_0 rfl 0 rfl ?_
  refine z_objInit hC (pc := 1) q162 q163 q164 (Nat.le_of_ble_eq_true rfl) (Nat.le_of_ble_eq_true rfl) dX1_init_1 ?_
  refine z_aload_n hC (pc := 4) dX1_init_4 rfl 0 rfl ?_
  refine z_sipush (v := 900) hC (pc := 5) dX1_init_5 zks_900 ?_
  refine z_newa (t := 2) (ty := .byte) hC (pc := 8) rfl rfl q186 (.inl fun _ => 0) (fun _ => rfl) (by decide) dX1_init_8 hf (fun a1 s2 hf => ?_)
  refine z_putV (v := zr (some a1)) hC (pc := 10) in_X1 tyX1 tyX1_ok nmX1 zcX1 0 (Nat.le_of_ble_eq_true rfl) (zLk.o hC q390) zsm (Or.inr ⟨rfl, hin, rfl, rfl⟩) rfl (zfa (some a1)) dX1_init_10 hf (fun s3 hf => ?_)
  refine z_aload_n hC (pc := 13) dX1_init_13 rfl 0 rfl ?_
  refine z_new hC (pc := 14) in_J1 tyJ1 tyJ1_ok zcJ1 q165 q166 q97 rfl zdJ1 dX1_init_14 hf (fun a4 s5 hf => ?_)
  refine z_dup hC (pc := 17) dX1_init_17 rfl ?_
  refine z_cU (rest := [zr (some a4), zr (some l0)]) hf (fun v6 s7 hcall => z_runI hC (pc := 18) 0 (m_J1_init X.g a4 s5 s7 v6 hcall) q169 rfl q97 q167 q168 hd_J1_init ⟨(Nat.le_of_ble_eq_true rfl), (Nat.le_of_ble_eq_true rfl)⟩ rfl (Nat.le_of_ble_eq_true rfl) dX1_init_18 rfl) (fun _ s7 hf => ?_)
  refine z_putV (v := zr (some a4)) hC (pc := 21) in_X1 tyX1 tyX1_ok nmX1 zcX1 1 (Nat.le_of_ble_eq_true rfl) (zLk.o hC q392) zsm (Or.inr ⟨rfl, hin, rfl, rfl⟩) rfl (zfr (some a4)) dX1_init_21 hf (fun s8 hf => ?_)
  refine z_aload_n hC (pc := 24) dX1_init_24 rfl 0 rfl ?_
  refine z_new hC (pc := 25) in_X2 tyX2 tyX2_ok zcX2 q187 q188 q98 rfl zdX2 dX1_init_25 hf (fun a9 s10 hf => ?_)
  refine z_dup hC (pc := 28) dX1_init_28 rfl ?_
  refine z_cU (rest := [zr (some a9), zr (some l0)]) hf (fun v11 s12 hcall => z_runIN hC (pc := 29) 0 (m_X2_init X.g a9 s10 s12 v11 hcall) q191 rfl q98 q189 q190 hd_X2_init ⟨(Nat.le_of_ble_eq_true rfl), (Nat.le_of_ble_eq_true rfl)⟩ rfl (Nat.le_of_ble_eq_true rfl) dX1_init_29 rfl) (fun _ s12 hf => ?_)
  refine z_putV (v := zr (some a9)) hC (pc := 32) in_X1 tyX1 tyX1_ok nmX1 zcX1 2 (Nat.le_of_ble_eq_true rfl) (zLk.o hC q393) zsm (Or.inr ⟨rfl, hin, rfl, rfl⟩) rfl (zfr (some a9)) dX1_init_32 hf (fun s13 hf => ?_)
  refine z_aload_n hC (pc := 35) dX1_init_35 rfl 0 rfl ?_
  refine z_new hC (pc := 36) in_X3 tyX3 tyX3_ok zcX3 q223 q224 q99 rfl zdX3 dX1_init_36 hf (fun a14 s15 hf => ?_)
  refine z_dup hC (pc := 39) dX1_init_39 rfl ?_
  refine z_new hC (pc := 40) in_X4 tyX4 tyX4_ok zcX4 q225 q226 q100 rfl zdX4 dX1_init_40 hf (fun a16 s17 hf => ?_)
  refine z_dup hC (pc := 43) dX1_init_43 rfl ?_
  refine z_iconst (v := 0) hC (pc := 44) dX1_init_44 zki_0 ?_
  refine z_iconst (v := 0) hC (pc := 45) dX1_init_45 zki_0 ?_
  refine z_cU (rest := [zr (some a16), zr (some a14), zr (some a14), zr (some l0)]) hf (fun v18 s19 hcall => z_runI hC (pc := 46) 2 (m_X4_init X.g a16 0 0 s17 s19 v18 hcall) q229 rfl q100 q227 q228 hd_X4_init ⟨(Nat.le_of_ble_eq_true rfl), (Nat.le_of_ble_eq_true rfl)⟩ rfl (Nat.le_of_ble_eq_true rfl) dX1_init_46 rfl) (fun _ s19 hf => ?_)
  refine z_cU (rest := [zr (some a14), zr (some l0)]) hf (fun v20 s21 hcall => z_runI hC (pc := 49) 1 (m_X3_init X.g a14 (some a16) s19 s21 v20 hcall) q360 rfl q99 q358 q359 hd_X3_init ⟨(Nat.le_of_ble_eq_true rfl), (Nat.le_of_ble_eq_true rfl)⟩ rfl (Nat.le_of_ble_eq_true rfl) dX1_init_49 rfl) (fun _ s21 hf => ?_)
  refine z_putV (v := zr (some a14)) hC (pc := 52) in_X1 tyX1 tyX1_ok nmX1 zcX1 3 (Nat.le_of_ble_eq_true rfl) (zLk.o hC q394) zsm (Or.inl rfl) rfl (zfr (some a14)) dX1_init_52 hf (fun s22 hf => ?_)
  refine z_aload_n hC (pc := 55) dX1_init_55 rfl 0 rfl ?_
  refine z_iconst (v := (-1)) hC (pc := 56) dX1_init_56 zki_m1 ?_
  refine z_putV (v := zi (-1)) hC (pc := 57) in_X1 tyX1 tyX1_ok nmX1 zcX1 5 (Nat.le_of_ble_eq_true rfl) (zLk.o hC q396) zsm (Or.inl rfl) rfl rfl dX1_init_57 hf (fun s23 hf => ?_)
  exact z_return hC (pc := 60) hQ dX1_init_60 hf
/-! BlockingShop.jobCount()I -/
def f_X1_jobCount (G : Nat → Nat) (l0 : Nat) (s0 : zS) : Option (Int32 × zS) :=
zo (zgR s0 (some l0) 0 3) fun v1 =>
zo (zgR s0 v1 2 0) fun v2 =>
zo (zgR s0 v2 3 3) fun v3 =>
zo (zrc s0 v3 15) fun a6 =>
zb (f_J5_size G a6 s0) fun v7 s8 =>
some (v7, s8)
set_option maxHeartbeats 4000000 in
theorem m_X1_jobCount (Γ : zG) (l0 : Nat) (s0 s1 : zS) (r : Int32) (hf : f_X1_jobCount Γ.1 l0 s0 = some (r, s1)) : ZM Γ yX1_jobCount (ws_ yX1_jobCount cX1_jobCount 1 (some .int)) 2 20 [zr (some l0)] s0 (.inl (some (zi r)), s1) := by
  refine ZM.of (own := RX1) (by decide) rfl (Nat.le_of_ble_eq_true rfl) ?_
  intro X hg hC hL hno hQ hin
  subst hg
  unfold f_X1_jobCount at hf
  refine z_aload_n hC (pc := 0) dX1_jobCount_0 rfl 0 rfl ?_
  refine z_getR hC (pc := 1) in_X1 zcX1 3 (Nat.le_of_ble_eq_true rfl) (zLk.o hC q394) zsm dX1_jobCount_1 hf (fun v1 hf => ?_)
  refine z_getR hC (pc := 4) in_X3 zcX3 0 (Nat.le_of_ble_eq_true rfl) (zLk.n hC q366) zsm dX1_jobCount_4 hf (fun v2 hf => ?_)
  refine z_getR hC (pc := 7) in_X4 zcX4 3 (Nat.le_of_ble_eq_true rfl) (zLk.n hC q332) zsm dX1_jobCount_7 hf (fun v3 hf => ?_)
  obtain ⟨a6, fs4, rfl, ha5, hf⟩ := z_rcO hf
  refine z_cI5 (rest := []) hf (fun v7 s8 hcall => z_runF hC (pc := 10) zcJ5 0 ha5 (m_J5_size X.g a6 s0 s8 v7 hcall) (lw_app (zm4 q431 q435 q437 q104) (lw_meth q439)) q433 q432 q438 q436 q434 (by decide +kernel) ⟨(Nat.le_of_ble_eq_true rfl), (Nat.le_of_ble_eq_true rfl)⟩ rfl (Nat.le_of_ble_eq_true rfl) dX1_jobCount_10 rfl) (fun v7 s8 hf => ?_)
  exact z_ireturn hC (pc := 15) hQ dX1_jobCount_15 hf
/-! BlockingShop.longestBlock()I -/
def f_X1_longestBlock_b15 (G : Nat → Nat) (k15 : Int32 → Option Nat → zS → Option (Int32 × zS)) (l1 : Int32) (l2 : Option Nat) (s0 : zS) : Option (Int32 × zS) :=
zo (zrc s0 l2 24) fun a3 =>
zb (f_J39_hasNext G a3 s0) fun v4 s5 =>
if v4 = 0 then (some (l1, s5))
else (zo (zrc s5 (some a3) 24) fun _ =>
zb (f_J39_next G a3 s5) fun v9 s10 =>
zo (zcst s10 v9 18) fun _ =>
zo (zrc s10 v9 18) fun a13 =>
zb (f_J20_intValue G a13 s10) fun v14 s15 =>
k15 (if l1 < v14 then v14 else l1) (some a3) s15)
set_option maxHeartbeats 4000000 in
theorem w_X1_longestBlock_b15 {X : zX} (hC : ZC X RX1 cX1_longestBlock (some .int) 12 240) (hL : X.nL = 4) (hno : ∀ x ∈ X.c.exceptionTable.toList, False) {r : Int32} {sF : zS} (hQ : ZQ X (.inl (some (zi r)), sF)) (k15 : Int32 → Option Nat → zS → Option (Int32 × zS)) (hk15 : ∀ (l1 : Int32) (l2 : Option Nat) (s0 : zS), k15 l1 l2 s0 = some (r, sF) → ZW X s0 15 [(1, zi l1), (2, zr l2)] []) (l1 : Int32) (l2 : Option Nat) (s0 : zS) (hf : f_X1_longestBlock_b15 X.g.1 k15 l1 l2 s0 = some (r, sF)) : ZW X s0 15 [(1, zi l1), (2, zr l2)] [] := by
  unfold f_X1_longestBlock_b15 at hf
  refine z_aload_n hC (pc := 15) dX1_longestBlock_15 rfl 1 rfl ?_
  obtain ⟨a3, fs1, rfl, ha2, hf⟩ := z_rcO hf
  refine z_cI5 (rest := []) hf (fun v4 s5 hcall => z_runF hC (pc := 16) zcJ39 0 ha2 (m_J39_hasNext X.g a3 s0 s5 v4 hcall) (lw_app (zm4 q1836 q1101 q1103 q151) (lw_meth q1105)) q1065 q1064 q1104 q1102 q1100 (by decide +kernel) ⟨(Nat.le_of_ble_eq_true rfl), (Nat.le_of_ble_eq_true rfl)⟩ rfl (Nat.le_of_ble_eq_true rfl) dX1_longestBlock_16 rfl) (fun v4 s5 hf => ?_)
  refine z_if_eq hC (pc := 21) (tgt := 46) dX1_longestBlock_21 rfl (fun c6 => ?_) (fun c6 => ?_)
  · have hf := zif_t hf c6
    refine z_iload_n hC (pc := 46) dX1_longestBlock_46 rfl 0 rfl ?_
    exact z_ireturn hC (pc := 47) hQ dX1_longestBlock_47 hf
  · have hf := zif_f hf c6
    refine z_aload_n hC (pc := 24) dX1_longestBlock_24 rfl 1 rfl ?_
    obtain ⟨fs7, ha8, hf⟩ := z_rcN hf
    refine z_cR5 (rest := []) hf (fun v9 s10 hcall => z_runF hC (pc := 25) zcJ39 0 ha8 (m_J39_next X.g a3 s5 s10 v9 hcall) (lw_app (zm4 q1838 q1544 q1546 q151) (lw_meth q1548)) q1124 q1123 q1547 q1545 q1100 (by decide +kernel) ⟨(Nat.le_of_ble_eq_true rfl), (Nat.le_of_ble_eq_true rfl)⟩ rfl (Nat.le_of_ble_eq_true rfl) dX1_longestBlock_25 rfl) (fun v9 s10 hf => ?_)
    refine z_cast hC (pc := 30) zcJ20 q1839 (Or.inl rfl) dX1_longestBlock_30 hf (fun hf => ?_)
    obtain ⟨a13, fs11, rfl, ha12, hf⟩ := z_rcO hf
    refine z_cI (rest := []) hf (fun v14 s15 hcall => z_runV hC (pc := 33) zcJ20 0 ha12 (m_J20_intValue X.g a13 s10 s15 v14 hcall) (lw_V q1840 q1622 q1623 q125 q1624) hdV_J20_intValue ⟨(Nat.le_of_ble_eq_true rfl), (Nat.le_of_ble_eq_true rfl)⟩ rfl (Nat.le_of_ble_eq_true rfl) dX1_longestBlock_33 rfl) (fun v14 s15 hf => ?_)
    refine z_istore_n (lv' := [(3, zi v14), (1, zi l1), (2, zr (some a3))]) hC (pc := 36) hL dX1_longestBlock_36 rfl (Nat.le_of_ble_eq_true rfl) rfl ?_
    refine z_iload_n hC (pc := 37) dX1_longestBlock_37 rfl 1 rfl ?_
    refine z_iload_n hC (pc := 38) dX1_longestBlock_38 rfl 0 rfl ?_
    refine z_mmax hC (pc := 39) q1841 q603 q119 q604 (Nat.le_of_ble_eq_true rfl) (Nat.le_of_ble_eq_true rfl) dX1_longestBlock_39 ?_
    refine z_istore_n (lv' := [(1, zi (if l1 < v14 then v14 else l1)), (3, zi v14), (2, zr (some a3))]) hC (pc := 42) hL dX1_longestBlock_42 rfl (Nat.le_of_ble_eq_true rfl) rfl ?_
    refine z_goto hC (pc := 43) (tgt := 15) dX1_longestBlock_43 rfl ?_
    refine ZW.perm (lv' := [(1, zi (if l1 < v14 then v14 else l1)), (2, zr (some a3))]) [0, 2] rfl ?_
    exact hk15 (if l1 < v14 then v14 else l1) (some a3) s15 hf
def f_X1_longestBlock_l15 (G : Nat → Nat) : Nat → Int32 → Option Nat → zS → Option (Int32 × zS)
  | 0 => fun _ _ _ => none
  | n + 1 => f_X1_longestBlock_b15 G (f_X1_longestBlock_l15 G n)
theorem w_X1_longestBlock_l15 {X : zX} (hC : ZC X RX1 cX1_longestBlock (some .int) 12 240) (hL : X.nL = 4) (hno : ∀ x ∈ X.c.exceptionTable.toList, False) {r : Int32} {sF : zS} (hQ : ZQ X (.inl (some (zi r)), sF)) : ∀ (n : Nat) (l1 : Int32) (l2 : Option Nat) (s0 : zS) (_ : f_X1_longestBlock_l15 X.g.1 n l1 l2 s0 = some (r, sF)), ZW X s0 15 [(1, zi l1), (2, zr l2)] [] := by
  intro n
  induction n with
  | zero => intro l1 l2 s0 hf; exact absurd (show (none : Option (Int32 × zS)) = some (r, sF) from hf) (fun z => nomatch z)
  | succ n ih => intro l1 l2 s0 hf; exact w_X1_longestBlock_b15 hC hL hno hQ (f_X1_longestBlock_l15 X.g.1 n) ih l1 l2 s0 hf
def f_X1_longestBlock (G : Nat → Nat) (l0 : Nat) (s0 : zS) : Option (Int32 × zS) :=
zo (zgR s0 (some l0) 0 3) fun v1 =>
zo (zrc s0 v1 2) fun a4 =>
zb (f_X3_blocks G a4 s0) fun v5 s6 =>
zo (zrc s6 v5 15) fun a9 =>
zb (f_J5_iterator G a9 s6) fun v10 s11 =>
f_X1_longestBlock_l15 G 2000 0 v10 s11
set_option maxHeartbeats 4000000 in
theorem m_X1_longestBlock (Γ : zG) (l0 : Nat) (s0 s1 : zS) (r : Int32) (hf : f_X1_longestBlock Γ.1 l0 s0 = some (r, s1)) : ZM Γ yX1_longestBlock (ws_ yX1_longestBlock cX1_longestBlock 4 (some .int)) 12 240 [zr (some l0)] s0 (.inl (some (zi r)), s1) := by
  refine ZM.of (own := RX1) (by decide) rfl (Nat.le_of_ble_eq_true rfl) ?_
  intro X hg hC hL hno hQ hin
  subst hg
  unfold f_X1_longestBlock at hf
  refine z_iconst (v := 0) hC (pc := 0) dX1_longestBlock_0 zki_0 ?_
  refine z_istore_n (lv' := [(1, zi 0), (0, zr (some l0))]) hC (pc := 1) hL dX1_longestBlock_1 rfl (Nat.le_of_ble_eq_true rfl) rfl ?_
  refine z_aload_n hC (pc := 2) dX1_longestBlock_2 rfl 1 rfl ?_
  refine z_getR hC (pc := 3) in_X1 zcX1 3 (Nat.le_of_ble_eq_true rfl) (zLk.o hC q394) zsm dX1_longestBlock_3 hf (fun v1 hf => ?_)
  obtain ⟨a4, fs2, rfl, ha3, hf⟩ := z_rcO hf
  refine z_cR (rest := []) hf (fun v5 s6 hcall => z_runV hC (pc := 6) zcX3 0 ha3 (m_X3_blocks X.g a4 s0 s6 v5 hcall) (lw_V q1615 q1616 q1617 q99 q1618) hdV_X3_blocks ⟨(Nat.le_of_ble_eq_true rfl), (Nat.le_of_ble_eq_true rfl)⟩ rfl (Nat.le_of_ble_eq_true rfl) dX1_longestBlock_6 rfl) (fun v5 s6 hf => ?_)
  obtain ⟨a9, fs7, rfl, ha8, hf⟩ := z_rcO hf
  refine z_cR5 (rest := []) hf (fun v10 s11 hcall => z_runF hC (pc := 9) zcJ5 0 ha8 (m_J5_iterator X.g a9 s6 s11 v10 hcall) (lw_app (zm4 q1697 q1700 q1702 q104) (lw_meth q1704)) q1699 q1698 q1703 q1701 q434 (by decide +kernel) ⟨(Nat.le_of_ble_eq_true rfl), (Nat.le_of_ble_eq_true rfl)⟩ rfl (Nat.le_of_ble_eq_true rfl) dX1_longestBlock_9 rfl) (fun v10 s11 hf => ?_)
  refine z_astore_n (lv' := [(2, zr v10), (1, zi 0), (0, zr (some l0))]) hC (pc := 14) hL dX1_longestBlock_14 rfl (Nat.le_of_ble_eq_true rfl) rfl ?_
  refine ZW.perm (lv' := [(1, zi 0), (2, zr v10)]) [1, 0] rfl ?_
  exact w_X1_longestBlock_l15 hC hL hno hQ 2000 0 v10 s11 hf
/-! BlockingShop.machineCount()I -/
def f_X1_machineCount (G : Nat → Nat) (l0 : Nat) (s0 : zS) : Option (Int32 × zS) :=
zo (zgR s0 (some l0) 0 3) fun v1 =>
zo (zgR s0 v1 2 0) fun v2 =>
zo (zgI s0 v2 3 0) fun v3 =>
some (v3, s0)
set_option maxHeartbeats 4000000 in
theorem m_X1_machineCount (Γ : zG) (l0 : Nat) (s0 s1 : zS) (r : Int32) (hf : f_X1_machineCount Γ.1 l0 s0 = some (r, s1)) : ZM Γ yX1_machineCount (ws_ yX1_machineCount cX1_machineCount 1 (some .int)) 1 0 [zr (some l0)] s0 (.inl (some (zi r)), s1) := by
  refine ZM.of (own := RX1) (by decide) rfl (Nat.le_of_ble_eq_true rfl) ?_
  intro X hg hC hL hno hQ hin
  subst hg
  unfold f_X1_machineCount at hf
  refine z_aload_n hC (pc := 0) dX1_machineCount_0 rfl 0 rfl ?_
  refine z_getR hC (pc := 1) in_X1 zcX1 3 (Nat.le_of_ble_eq_true rfl) (zLk.o hC q394) zsm dX1_machineCount_1 hf (fun v1 hf => ?_)
  refine z_getR hC (pc := 4) in_X3 zcX3 0 (Nat.le_of_ble_eq_true rfl) (zLk.n hC q366) zsm dX1_machineCount_4 hf (fun v2 hf => ?_)
  refine z_getI hC (pc := 7) in_X4 zcX4 0 (Nat.le_of_ble_eq_true rfl) (zLk.n hC q324) zsm dX1_machineCount_7 hf (fun v3 hf => ?_)
  exact z_ireturn hC (pc := 10) hQ dX1_machineCount_10 hf
/-! BlockingShop.makespan()I -/
def f_X1_makespan (G : Nat → Nat) (l0 : Nat) (s0 : zS) : Option (Int32 × zS) :=
zo (zgR s0 (some l0) 0 3) fun v1 =>
zo (zrc s0 v1 2) fun a4 =>
zb (f_X3_makespan G a4 s0) fun v5 s6 =>
some (v5, s6)
set_option maxHeartbeats 4000000 in
theorem m_X1_makespan (Γ : zG) (l0 : Nat) (s0 s1 : zS) (r : Int32) (hf : f_X1_makespan Γ.1 l0 s0 = some (r, s1)) : ZM Γ yX1_makespan (ws_ yX1_makespan cX1_makespan 1 (some .int)) 6 107 [zr (some l0)] s0 (.inl (some (zi r)), s1) := by
  refine ZM.of (own := RX1) (by decide) rfl (Nat.le_of_ble_eq_true rfl) ?_
  intro X hg hC hL hno hQ hin
  subst hg
  unfold f_X1_makespan at hf
  refine z_aload_n hC (pc := 0) dX1_makespan_0 rfl 0 rfl ?_
  refine z_getR hC (pc := 1) in_X1 zcX1 3 (Nat.le_of_ble_eq_true rfl) (zLk.o hC q394) zsm dX1_makespan_1 hf (fun v1 hf => ?_)
  obtain ⟨a4, fs2, rfl, ha3, hf⟩ := z_rcO hf
  refine z_cI (rest := []) hf (fun v5 s6 hcall => z_runV hC (pc := 4) zcX3 0 ha3 (m_X3_makespan X.g a4 s0 s6 v5 hcall) (lw_V q464 q465 q466 q99 q467) hdV_X3_makespan ⟨(Nat.le_of_ble_eq_true rfl), (Nat.le_of_ble_eq_true rfl)⟩ rfl (Nat.le_of_ble_eq_true rfl) dX1_makespan_4 rfl) (fun v5 s6 hf => ?_)
  exact z_ireturn hC (pc := 7) hQ dX1_makespan_7 hf
/-! BlockingShop.planCost()I -/
def f_X1_planCost (G : Nat → Nat) (l0 : Nat) (s0 : zS) : Option (Int32 × zS) :=
zo (zgR s0 (some l0) 0 3) fun v1 =>
zo (zrc s0 v1 2) fun a4 =>
zb (f_X3_cost G a4 s0) fun v5 s6 =>
some (v5, s6)
set_option maxHeartbeats 4000000 in
theorem m_X1_planCost (Γ : zG) (l0 : Nat) (s0 s1 : zS) (r : Int32) (hf : f_X1_planCost Γ.1 l0 s0 = some (r, s1)) : ZM Γ yX1_planCost (ws_ yX1_planCost cX1_planCost 1 (some .int)) 3013 60174 [zr (some l0)] s0 (.inl (some (zi r)), s1) := by
  refine ZM.of (own := RX1) (by decide) rfl (Nat.le_of_ble_eq_true rfl) ?_
  intro X hg hC hL hno hQ hin
  subst hg
  unfold f_X1_planCost at hf
  refine z_aload_n hC (pc := 0) dX1_planCost_0 rfl 0 rfl ?_
  refine z_getR hC (pc := 1) in_X1 zcX1 3 (Nat.le_of_ble_eq_true rfl) (zLk.o hC q394) zsm dX1_planCost_1 hf (fun v1 hf => ?_)
  obtain ⟨a4, fs2, rfl, ha3, hf⟩ := z_rcO hf
  refine z_cI (rest := []) hf (fun v5 s6 hcall => z_runV hC (pc := 4) zcX3 0 ha3 (m_X3_cost X.g a4 s0 s6 v5 hcall) (lw_V q885 q886 q887 q99 q888) hdV_X3_cost ⟨(Nat.le_of_ble_eq_true rfl), (Nat.le_of_ble_eq_true rfl)⟩ rfl (Nat.le_of_ble_eq_true rfl) dX1_planCost_4 rfl) (fun v5 s6 hf => ?_)
  exact z_ireturn hC (pc := 7) hQ dX1_planCost_7 hf
/-! BlockingShop.restart()I -/
def f_X1_restart (G : Nat → Nat) (l0 : Nat) (s0 : zS) : Option (Int32 × zS) :=
zo (zgR s0 (some l0) 0 3) fun v1 =>
zo (zrc s0 v1 2) fun a4 =>
zb (f_X3_copy G a4 s0) fun v5 s6 =>
zo (zrc s6 v5 2) fun a9 =>
zb (f_X3_first G a9 s6) fun _ s11 =>
zo (zgR s11 (some l0) 0 2) fun v12 =>
zo (zrc s11 (some a9) 2) fun _ =>
zb (f_X3_times G a9 v12 s11) fun v15 s16 =>
zo (zrc s16 (some l0) 0) fun _ =>
zb (f_X1_replace G l0 (some a9) s16) fun _ s20 =>
zo (zrc s20 (some a9) 2) fun _ =>
zb (f_X3_makespan G a9 s20) fun v23 s24 =>
some (v23, s24)
set_option maxHeartbeats 4000000 in
theorem m_X1_restart (Γ : zG) (l0 : Nat) (s0 s1 : zS) (r : Int32) (hf : f_X1_restart Γ.1 l0 s0 = some (r, s1)) : ZM Γ yX1_restart (ws_ yX1_restart cX1_restart 3 (some .int)) 11 224 [zr (some l0)] s0 (.inl (some (zi r)), s1) := by
  refine ZM.of (own := RX1) (by decide) rfl (Nat.le_of_ble_eq_true rfl) ?_
  intro X hg hC hL hno hQ hin
  subst hg
  unfold f_X1_restart at hf
  refine z_aload_n hC (pc := 0) dX1_restart_0 rfl 0 rfl ?_
  refine z_getR hC (pc := 1) in_X1 zcX1 3 (Nat.le_of_ble_eq_true rfl) (zLk.o hC q394) zsm dX1_restart_1 hf (fun v1 hf => ?_)
  obtain ⟨a4, fs2, rfl, ha3, hf⟩ := z_rcO hf
  refine z_cR (rest := []) hf (fun v5 s6 hcall => z_runV hC (pc := 4) zcX3 0 ha3 (m_X3_copy X.g a4 s0 s6 v5 hcall) (lw_V q1902 q1903 q1904 q99 q1905) hdV_X3_copy ⟨(Nat.le_of_ble_eq_true rfl), (Nat.le_of_ble_eq_true rfl)⟩ rfl (Nat.le_of_ble_eq_true rfl) dX1_restart_4 rfl) (fun v5 s6 hf => ?_)
  refine z_astore_n (lv' := [(1, zr v5), (0, zr (some l0))]) hC (pc := 7) hL dX1_restart_7 rfl (Nat.le_of_ble_eq_true rfl) rfl ?_
  refine z_aload_n hC (pc := 8) dX1_restart_8 rfl 0 rfl ?_
  obtain ⟨a9, fs7, rfl, ha8, hf⟩ := z_rcO hf
  refine z_cU (rest := []) hf (fun v10 s11 hcall => z_runV hC (pc := 9) zcX3 0 ha8 (m_X3_first X.g a9 s6 s11 v10 hcall) (lw_V q1909 q1910 q1911 q99 q1912) hdV_X3_first ⟨(Nat.le_of_ble_eq_true rfl), (Nat.le_of_ble_eq_true rfl)⟩ rfl (Nat.le_of_ble_eq_true rfl) dX1_restart_9 rfl) (fun _ s11 hf => ?_)
  refine z_aload_n hC (pc := 12) dX1_restart_12 rfl 0 rfl ?_
  refine z_aload_n hC (pc := 13) dX1_restart_13 rfl 1 rfl ?_
  refine z_getR hC (pc := 14) in_X1 zcX1 2 (Nat.le_of_ble_eq_true rfl) (zLk.o hC q393) zsm dX1_restart_14 hf (fun v12 hf => ?_)
  obtain ⟨fs13, ha14, hf⟩ := z_rcN hf
  refine z_cI (rest := []) hf (fun v15 s16 hcall => z_runV hC (pc := 17) zcX3 1 ha14 (m_X3_times X.g a9 v12 s11 s16 v15 hcall) (lw_V q1859 q1860 q1861 q99 q1862) hdV_X3_times ⟨(Nat.le_of_ble_eq_true rfl), (Nat.le_of_ble_eq_true rfl)⟩ rfl (Nat.le_of_ble_eq_true rfl) dX1_restart_17 rfl) (fun v15 s16 hf => ?_)
  refine z_istore_n (lv' := [(2, zi v15), (1, zr (some a9)), (0, zr (some l0))]) hC (pc := 20) hL dX1_restart_20 rfl (Nat.le_of_ble_eq_true rfl) rfl ?_
  refine z_aload_n hC (pc := 21) dX1_restart_21 rfl 2 rfl ?_
  refine z_aload_n hC (pc := 22) dX1_restart_22 rfl 1 rfl ?_
  obtain ⟨fs17, ha18, hf⟩ := z_rcN hf
  refine z_cU (rest := []) hf (fun v19 s20 hcall => z_runV hC (pc := 23) zcX1 1 ha18 (m_X1_replace X.g l0 (some a9) s16 s20 v19 hcall) (lw_V q1914 q1916 qs22 q95 q1917) hdV_X1_replace ⟨(Nat.le_of_ble_eq_true rfl), (Nat.le_of_ble_eq_true rfl)⟩ rfl (Nat.le_of_ble_eq_true rfl) dX1_restart_23 rfl) (fun _ s20 hf => ?_)
  refine z_aload_n hC (pc := 26) dX1_restart_26 rfl 1 rfl ?_
  obtain ⟨fs21, ha22, hf⟩ := z_rcN hf
  refine z_cI (rest := []) hf (fun v23 s24 hcall => z_runV hC (pc := 27) zcX3 0 ha22 (m_X3_makespan X.g a9 s20 s24 v23 hcall) (lw_V q464 q465 q466 q99 q467) hdV_X3_makespan ⟨(Nat.le_of_ble_eq_true rfl), (Nat.le_of_ble_eq_true rfl)⟩ rfl (Nat.le_of_ble_eq_true rfl) dX1_restart_27 rfl) (fun v23 s24 hf => ?_)
  exact z_ireturn hC (pc := 30) hQ dX1_restart_30 hf
/-! BlockingShop.undo()I -/
def f_X1_undo (G : Nat → Nat) (l0 : Nat) (s0 : zS) : Option (Int32 × zS) :=
zo (zgR s0 (some l0) 0 1) fun v1 =>
zo (zrc s0 v1 13) fun a4 =>
zb (f_J1_isEmpty G a4 s0) fun v5 s6 =>
if v5 = 0 then (zo (zgR s6 (some l0) 0 1) fun v8 =>
zo (zrc s6 v8 13) fun a11 =>
zb (f_J1_removeLast G a11 s6) fun v12 s13 =>
zo (zcst s13 v12 2) fun _ =>
zo (zput G s13 (some l0) 0 3 (va_rf v12)) fun s14 =>
zo (zgR s14 (some l0) 0 1) fun v15 =>
zo (zrc s14 v15 13) fun a18 =>
zb (f_J1_size G a18 s14) fun v19 s20 =>
some (v19, s20))
else (some ((-1), s6))
set_option maxHeartbeats 4000000 in
theorem m_X1_undo (Γ : zG) (l0 : Nat) (s0 s1 : zS) (r : Int32) (hf : f_X1_undo Γ.1 l0 s0 = some (r, s1)) : ZM Γ yX1_undo (ws_ yX1_undo cX1_undo 1 (some .int)) 4 65 [zr (some l0)] s0 (.inl (some (zi r)), s1) := by
  refine ZM.of (own := RX1) (by decide) rfl (Nat.le_of_ble_eq_true rfl) ?_
  intro X hg hC hL hno hQ hin
  subst hg
  unfold f_X1_undo at hf
  refine z_aload_n hC (pc := 0) dX1_undo_0 rfl 0 rfl ?_
  refine z_getR hC (pc := 1) in_X1 zcX1 1 (Nat.le_of_ble_eq_true rfl) (zLk.o hC q392) zsm dX1_undo_1 hf (fun v1 hf => ?_)
  obtain ⟨a4, fs2, rfl, ha3, hf⟩ := z_rcO hf
  refine z_cI (rest := []) hf (fun v5 s6 hcall => z_runV hC (pc := 4) zcJ1 0 ha3 (m_J1_isEmpty X.g a4 s0 s6 v5 hcall) (lw_V q1977 q1978 q1979 q97 q1980) hdV_J1_isEmpty ⟨(Nat.le_of_ble_eq_true rfl), (Nat.le_of_ble_eq_true rfl)⟩ rfl (Nat.le_of_ble_eq_true rfl) dX1_undo_4 rfl) (fun v5 s6 hf => ?_)
  refine z_if_eq hC (pc := 7) (tgt := 12) dX1_undo_7 rfl (fun c7 => ?_) (fun c7 => ?_)
  · have hf := zif_t hf c7
    refine z_aload_n hC (pc := 12) dX1_undo_12 rfl 0 rfl ?_
    refine z_aload_n hC (pc := 13) dX1_undo_13 rfl 0 rfl ?_
    refine z_getR hC (pc := 14) in_X1 zcX1 1 (Nat.le_of_ble_eq_true rfl) (zLk.o hC q392) zsm dX1_undo_14 hf (fun v8 hf => ?_)
    obtain ⟨a11, fs9, rfl, ha10, hf⟩ := z_rcO hf
    refine z_cR (rest := [zr (some l0)]) hf (fun v12 s13 hcall => z_runV hC (pc := 17) zcJ1 0 ha10 (m_J1_removeLast X.g a11 s6 s13 v12 hcall) (lw_V q1981 q1982 q1983 q97 q1984) hdV_J1_removeLast ⟨(Nat.le_of_ble_eq_true rfl), (Nat.le_of_ble_eq_true rfl)⟩ rfl (Nat.le_of_ble_eq_true rfl) dX1_undo_17 rfl) (fun v12 s13 hf => ?_)
    refine z_cast hC (pc := 20) zcX3 q223 (Or.inl rfl) dX1_undo_20 hf (fun hf => ?_)
    refine z_putV (v := zr v12) hC (pc := 23) in_X1 tyX1 tyX1_ok nmX1 zcX1 3 (Nat.le_of_ble_eq_true rfl) (zLk.o hC q394) zsm (Or.inl rfl) rfl (zfr v12) dX1_undo_23 hf (fun s14 hf => ?_)
    refine z_aload_n hC (pc := 26) dX1_undo_26 rfl 0 rfl ?_
    refine z_getR hC (pc := 27) in_X1 zcX1 1 (Nat.le_of_ble_eq_true rfl) (zLk.o hC q392) zsm dX1_undo_27 hf (fun v15 hf => ?_)
    obtain ⟨a18, fs16, rfl, ha17, hf⟩ := z_rcO hf
    refine z_cI (rest := []) hf (fun v19 s20 hcall => z_runV hC (pc := 30) zcJ1 0 ha17 (m_J1_size X.g a18 s14 s20 v19 hcall) (lw_V q1918 q1919 q1920 q97 q1921) hdV_J1_size ⟨(Nat.le_of_ble_eq_true rfl), (Nat.le_of_ble_eq_true rfl)⟩ rfl (Nat.le_of_ble_eq_true rfl) dX1_undo_30 rfl) (fun v19 s20 hf => ?_)
    exact z_ireturn hC (pc := 33) hQ dX1_undo_33 hf
  · have hf := zif_f hf c7
    refine z_iconst (v := (-1)) hC (pc := 10) dX1_undo_10 zki_m1 ?_
    exact z_ireturn hC (pc := 11) hQ dX1_undo_11 hf
/-! BlockingShopModel.append(IIIII)I -/
def f_X8_append_b76 (G : Nat → Nat) (k23 : Nat → Int32 → Int32 → Int32 → Int32 → Int32 → Int32 → zS → Option (Int32 × zS)) (l0 : Nat) (l1 : Int32) (l2 : Int32) (l3 : Int32) (l4 : Int32) (l5 : Int32) (l6 : Int32) (t0 : Int32) (s0 : zS) : Option (Int32 × zS) :=
zo (zgR s0 (some l0) 6 1) fun v1 =>
zo (zgI s0 (some l0) 6 2) fun v2 =>
zo (zsI G s0 v1 0 v2 ((t0 >>> ((24 - (8 * (l6 - l6 / 4 * 4)) : Int32) &&& 31)) &&& 255)) fun s3 =>
zo (zgI s3 (some l0) 6 2) fun v4 =>
zo (zput G s3 (some l0) 6 2 (.int (v4 + 1))) fun s5 =>
k23 l0 l1 l2 l3 l4 l5 (l6 + 1) s5
set_option maxHeartbeats 4000000 in
theorem w_X8_append_b76 {X : zX} (hC : ZC X RX8 cX8_append (some .int) 1 0) (hL : X.nL = 8) (hno : ∀ x ∈ X.c.exceptionTable.toList, False) {r : Int32} {sF : zS} (hQ : ZQ X (.inl (some (zi r)), sF)) (k23 : Nat → Int32 → Int32 → Int32 → Int32 → Int32 → Int32 → zS → Option (Int32 × zS)) (hk23 : ∀ (l0 : Nat) (l1 : Int32) (l2 : Int32) (l3 : Int32) (l4 : Int32) (l5 : Int32) (l6 : Int32) (s0 : zS), k23 l0 l1 l2 l3 l4 l5 l6 s0 = some (r, sF) → ZW X s0 23 [(0, zr (some l0)), (1, zi l1), (2, zi l2), (3, zi l3), (4, zi l4), (5, zi l5), (6, zi l6)] []) (l0 : Nat) (l1 : Int32) (l2 : Int32) (l3 : Int32) (l4 : Int32) (l5 : Int32) (l6 : Int32) (t0 : Int32) (s0 : zS) (hf : f_X8_append_b76 X.g.1 k23 l0 l1 l2 l3 l4 l5 l6 t0 s0 = some (r, sF)) : ZW X s0 76 [(0, zr (some l0)), (1, zi l1), (2, zi l2), (3, zi l3), (4, zi l4), (5, zi l5), (6, zi l6)] [zi t0] := by
  unfold f_X8_append_b76 at hf
  refine z_istore (lv' := [(7, zi t0), (0, zr (some l0)), (1, zi l1), (2, zi l2), (3, zi l3), (4, zi l4), (5, zi l5), (6, zi l6)]) hC (pc := 76) hL dX8_append_76 (Nat.le_of_ble_eq_true rfl) rfl ?_
  refine z_aload_n hC (pc := 78) dX8_append_78 rfl 1 rfl ?_
  refine z_getR hC (pc := 79) in_X8 zcX8 1 (Nat.le_of_ble_eq_true rfl) (zLk.o hC q2674) zsm dX8_append_79 hf (fun v1 hf => ?_)
  refine z_aload_n hC (pc := 82) dX8_append_82 rfl 1 rfl ?_
  refine z_getI hC (pc := 83) in_X8 zcX8 2 (Nat.le_of_ble_eq_true rfl) (zLk.o hC q2675) zsm dX8_append_83 hf (fun v2 hf => ?_)
  refine z_iload hC (pc := 86) dX8_append_86 0 rfl ?_
  refine z_bipush (v := 24) hC (pc := 88) dX8_append_88 zkb_24 ?_
  refine z_bipush (v := 8) hC (pc := 90) dX8_append_90 zkb_8 ?_
  refine z_iload hC (pc := 92) dX8_append_92 7 rfl ?_
  refine z_iconst (v := 4) hC (pc := 94) dX8_append_94 zki_4 ?_
  refine z_irem hC (pc := 95) dX8_append_95 (by decide) ?_
  refine z_imul hC (pc := 96) dX8_append_96 ?_
  refine z_isub hC (pc := 97) dX8_append_97 ?_
  refine z_ishr hC (pc := 98) dX8_append_98 ?_
  refine z_sipush (v := 255) hC (pc := 99) dX8_append_99 zks_255 ?_
  refine z_iand hC (pc := 102) dX8_append_102 ?_
  refine z_iast hC (pc := 103) dX8_append_103 hf (fun s3 hf => ?_)
  refine z_aload_n hC (pc := 104) dX8_append_104 rfl 1 rfl ?_
  refine z_dup hC (pc := 105) dX8_append_105 rfl ?_
  refine z_getI hC (pc := 106) in_X8 zcX8 2 (Nat.le_of_ble_eq_true rfl) (zLk.o hC q2675) zsm dX8_append_106 hf (fun v4 hf => ?_)
  refine z_iconst (v := 1) hC (pc := 109) dX8_append_109 zki_1 ?_
  refine z_iadd hC (pc := 110) dX8_append_110 ?_
  refine z_putV (v := zi (v4 + 1)) hC (pc := 111) in_X8 tyX8 tyX8_ok nmX8 zcX8 2 (Nat.le_of_ble_eq_true rfl) (zLk.o hC q2675) zsm (Or.inl rfl) rfl rfl dX8_append_111 hf (fun s5 hf => ?_)
  refine z_iinc (v := 1) (lv' := [(6, zi (l6 + 1)), (7, zi t0), (0, zr (some l0)), (1, zi l1), (2, zi l2), (3, zi l3), (4, zi l4), (5, zi l5)]) hC (pc := 114) hL dX8_append_114 7 rfl zki_1 (Nat.le_of_ble_eq_true rfl) rfl ?_
  refine z_goto hC (pc := 117) (tgt := 23) dX8_append_117 rfl ?_
  refine ZW.perm (lv' := [(0, zr (some l0)), (1, zi l1), (2, zi l2), (3, zi l3), (4, zi l4), (5, zi l5), (6, zi (l6 + 1))]) [2, 3, 4, 5, 6, 7, 0] rfl ?_
  exact hk23 l0 l1 l2 l3 l4 l5 (l6 + 1) s5 hf
def f_X8_append_b23 (G : Nat → Nat) (k23 : Nat → Int32 → Int32 → Int32 → Int32 → Int32 → Int32 → zS → Option (Int32 × zS)) (l0 : Nat) (l1 : Int32) (l2 : Int32) (l3 : Int32) (l4 : Int32) (l5 : Int32) (l6 : Int32) (s0 : zS) : Option (Int32 × zS) :=
if 20 ≤ l6 then (zo (zgI s0 (some l0) 6 2) fun v2 =>
some (v2, s0))
else (if 4 ≤ l6 then (if 8 ≤ l6 then (if 12 ≤ l6 then (if 16 ≤ l6 then (f_X8_append_b76 G k23 l0 l1 l2 l3 l4 l5 l6 l5 s0)
else (f_X8_append_b76 G k23 l0 l1 l2 l3 l4 l5 l6 l4 s0))
else (f_X8_append_b76 G k23 l0 l1 l2 l3 l4 l5 l6 l3 s0))
else (f_X8_append_b76 G k23 l0 l1 l2 l3 l4 l5 l6 l2 s0))
else (f_X8_append_b76 G k23 l0 l1 l2 l3 l4 l5 l6 l1 s0))
set_option maxHeartbeats 4000000 in
theorem w_X8_append_b23 {X : zX} (hC : ZC X RX8 cX8_append (some .int) 1 0) (hL : X.nL = 8) (hno : ∀ x ∈ X.c.exceptionTable.toList, False) {r : Int32} {sF : zS} (hQ : ZQ X (.inl (some (zi r)), sF)) (k23 : Nat → Int32 → Int32 → Int32 → Int32 → Int32 → Int32 → zS → Option (Int32 × zS)) (hk23 : ∀ (l0 : Nat) (l1 : Int32) (l2 : Int32) (l3 : Int32) (l4 : Int32) (l5 : Int32) (l6 : Int32) (s0 : zS), k23 l0 l1 l2 l3 l4 l5 l6 s0 = some (r, sF) → ZW X s0 23 [(0, zr (some l0)), (1, zi l1), (2, zi l2), (3, zi l3), (4, zi l4), (5, zi l5), (6, zi l6)] []) (l0 : Nat) (l1 : Int32) (l2 : Int32) (l3 : Int32) (l4 : Int32) (l5 : Int32) (l6 : Int32) (s0 : zS) (hf : f_X8_append_b23 X.g.1 k23 l0 l1 l2 l3 l4 l5 l6 s0 = some (r, sF)) : ZW X s0 23 [(0, zr (some l0)), (1, zi l1), (2, zi l2), (3, zi l3), (4, zi l4), (5, zi l5), (6, zi l6)] [] := by
  unfold f_X8_append_b23 at hf
  refine z_iload hC (pc := 23) dX8_append_23 6 rfl ?_
  refine z_bipush (v := 20) hC (pc := 25) dX8_append_25 zkb_20 ?_
  refine z_icmp_ge hC (pc := 27) (tgt := 120) dX8_append_27 rfl (fun c1 => ?_) (fun c1 => ?_)
  · have hf := zif_t hf c1
    refine z_aload_n hC (pc := 120) dX8_append_120 rfl 0 rfl ?_
    refine z_getI hC (pc := 121) in_X8 zcX8 2 (Nat.le_of_ble_eq_true rfl) (zLk.o hC q2675) zsm dX8_append_121 hf (fun v2 hf => ?_)
    exact z_ireturn hC (pc := 124) hQ dX8_append_124 hf
  · have hf := zif_f hf c1
    refine z_iload hC (pc := 30) dX8_append_30 6 rfl ?_
    refine z_iconst (v := 4) hC (pc := 32) dX8_append_32 zki_4 ?_
    refine z_icmp_ge hC (pc := 33) (tgt := 40) dX8_append_33 rfl (fun c3 => ?_) (fun c3 => ?_)
    · have hf := zif_t hf c3
      refine z_iload hC (pc := 40) dX8_append_40 6 rfl ?_
      refine z_bipush (v := 8) hC (pc := 42) dX8_append_42 zkb_8 ?_
      refine z_icmp_ge hC (pc := 44) (tgt := 51) dX8_append_44 rfl (fun c4 => ?_) (fun c4 => ?_)
      · have hf := zif_t hf c4
        refine z_iload hC (pc := 51) dX8_append_51 6 rfl ?_
        refine z_bipush (v := 12) hC (pc := 53) dX8_append_53 zkb_12 ?_
        refine z_icmp_ge hC (pc := 55) (tgt := 62) dX8_append_55 rfl (fun c5 => ?_) (fun c5 => ?_)
        · have hf := zif_t hf c5
          refine z_iload hC (pc := 62) dX8_append_62 6 rfl ?_
          refine z_bipush (v := 16) hC (pc := 64) dX8_append_64 zkb_16 ?_
          refine z_icmp_ge hC (pc := 66) (tgt := 74) dX8_append_66 rfl (fun c6 => ?_) (fun c6 => ?_)
          · have hf := zif_t hf c6
            refine z_iload hC (pc := 74) dX8_append_74 5 rfl ?_
            exact w_X8_append_b76 hC hL hno hQ k23 hk23 l0 l1 l2 l3 l4 l5 l6 l5 s0 hf
          · have hf := zif_f hf c6
            refine z_iload hC (pc := 69) dX8_append_69 4 rfl ?_
            refine z_goto hC (pc := 71) (tgt := 76) dX8_append_71 rfl ?_
            exact w_X8_append_b76 hC hL hno hQ k23 hk23 l0 l1 l2 l3 l4 l5 l6 l4 s0 hf
        · have hf := zif_f hf c5
          refine z_iload_n hC (pc := 58) dX8_append_58 rfl 3 rfl ?_
          refine z_goto hC (pc := 59) (tgt := 76) dX8_append_59 rfl ?_
          exact w_X8_append_b76 hC hL hno hQ k23 hk23 l0 l1 l2 l3 l4 l5 l6 l3 s0 hf
      · have hf := zif_f hf c4
        refine z_iload_n hC (pc := 47) dX8_append_47 rfl 2 rfl ?_
        refine z_goto hC (pc := 48) (tgt := 76) dX8_append_48 rfl ?_
        exact w_X8_append_b76 hC hL hno hQ k23 hk23 l0 l1 l2 l3 l4 l5 l6 l2 s0 hf
    · have hf := zif_f hf c3
      refine z_iload_n hC (pc := 36) dX8_append_36 rfl 1 rfl ?_
      refine z_goto hC (pc := 37) (tgt := 76) dX8_append_37 rfl ?_
      exact w_X8_append_b76 hC hL hno hQ k23 hk23 l0 l1 l2 l3 l4 l5 l6 l1 s0 hf
def f_X8_append_l23 (G : Nat → Nat) : Nat → Nat → Int32 → Int32 → Int32 → Int32 → Int32 → Int32 → zS → Option (Int32 × zS)
  | 0 => fun _ _ _ _ _ _ _ _ => none
  | n + 1 => f_X8_append_b23 G (f_X8_append_l23 G n)
theorem w_X8_append_l23 {X : zX} (hC : ZC X RX8 cX8_append (some .int) 1 0) (hL : X.nL = 8) (hno : ∀ x ∈ X.c.exceptionTable.toList, False) {r : Int32} {sF : zS} (hQ : ZQ X (.inl (some (zi r)), sF)) : ∀ (n : Nat) (l0 : Nat) (l1 : Int32) (l2 : Int32) (l3 : Int32) (l4 : Int32) (l5 : Int32) (l6 : Int32) (s0 : zS) (_ : f_X8_append_l23 X.g.1 n l0 l1 l2 l3 l4 l5 l6 s0 = some (r, sF)), ZW X s0 23 [(0, zr (some l0)), (1, zi l1), (2, zi l2), (3, zi l3), (4, zi l4), (5, zi l5), (6, zi l6)] [] := by
  intro n
  induction n with
  | zero => intro l0 l1 l2 l3 l4 l5 l6 s0 hf; exact absurd (show (none : Option (Int32 × zS)) = some (r, sF) from hf) (fun z => nomatch z)
  | succ n ih => intro l0 l1 l2 l3 l4 l5 l6 s0 hf; exact w_X8_append_b23 hC hL hno hQ (f_X8_append_l23 X.g.1 n) ih l0 l1 l2 l3 l4 l5 l6 s0 hf
def f_X8_append (G : Nat → Nat) (l0 : Nat) (l1 : Int32) (l2 : Int32) (l3 : Int32) (l4 : Int32) (l5 : Int32) (s0 : zS) : Option (Int32 × zS) :=
zo (zput G s0 (some l0) 6 0 (.int 0)) fun s1 =>
zo (zgI s1 (some l0) 6 2) fun v2 =>
if (v2 + 20) ≤ 900 then (f_X8_append_l23 G 2000 l0 l1 l2 l3 l4 l5 0 s1)
else (some ((-1), s1))
set_option maxHeartbeats 4000000 in
theorem m_X8_append (Γ : zG) (l0 : Nat) (l1 : Int32) (l2 : Int32) (l3 : Int32) (l4 : Int32) (l5 : Int32) (s0 s1 : zS) (r : Int32) (hf : f_X8_append Γ.1 l0 l1 l2 l3 l4 l5 s0 = some (r, s1)) : ZM Γ yX8_append (ws_ yX8_append cX8_append 8 (some .int)) 1 0 [zr (some l0), zi l1, zi l2, zi l3, zi l4, zi l5] s0 (.inl (some (zi r)), s1) := by
  refine ZM.of (own := RX8) (by decide) rfl (Nat.le_of_ble_eq_true rfl) ?_
  intro X hg hC hL hno hQ hin
  subst hg
  unfold f_X8_append at hf
  refine z_aload_n hC (pc := 0) dX8_append_0 rfl 0 rfl ?_
  refine z_iconst (v := 0) hC (pc := 1) dX8_append_1 zki_0 ?_
  refine z_putV (v := zi 0) hC (pc := 2) in_X8 tyX8 tyX8_ok nmX8 zcX8 0 (Nat.le_of_ble_eq_true rfl) (zLk.o hC q2673) zsm (Or.inl rfl) rfl rfl dX8_append_2 hf (fun s1 hf => ?_)
  refine z_aload_n hC (pc := 5) dX8_append_5 rfl 0 rfl ?_
  refine z_getI hC (pc := 6) in_X8 zcX8 2 (Nat.le_of_ble_eq_true rfl) (zLk.o hC q2675) zsm dX8_append_6 hf (fun v2 hf => ?_)
  refine z_bipush (v := 20) hC (pc := 9) dX8_append_9 zkb_20 ?_
  refine z_iadd hC (pc := 11) dX8_append_11 ?_
  refine z_sipush (v := 900) hC (pc := 12) dX8_append_12 zks_900 ?_
  refine z_icmp_le hC (pc := 15) (tgt := 20) dX8_append_15 rfl (fun c3 => ?_) (fun c3 => ?_)
  · have hf := zif_t hf c3
    refine z_iconst (v := 0) hC (pc := 20) dX8_append_20 zki_0 ?_
    refine z_istore (lv' := [(6, zi 0), (0, zr (some l0)), (1, zi l1), (2, zi l2), (3, zi l3), (4, zi l4), (5, zi l5)]) hC (pc := 21) hL dX8_append_21 (Nat.le_of_ble_eq_true rfl) rfl ?_
    refine ZW.perm (lv' := [(0, zr (some l0)), (1, zi l1), (2, zi l2), (3, zi l3), (4, zi l4), (5, zi l5), (6, zi 0)]) [1, 2, 3, 4, 5, 6, 0] rfl ?_
    exact w_X8_append_l23 hC hL hno hQ 2000 l0 l1 l2 l3 l4 l5 0 s1 hf
  · have hf := zif_f hf c3
    refine z_iconst (v := (-1)) hC (pc := 18) dX8_append_18 zki_m1 ?_
    exact z_ireturn hC (pc := 19) hQ dX8_append_19 hf
/-! BlockingShopModel.operationAt(I)I -/
def f_X8_operationAt (G : Nat → Nat) (l0 : Int32) (s0 : zS) : Option (Int32 × zS) :=
some ((83 + (2 * l0)), s0)
set_option maxHeartbeats 4000000 in
theorem m_X8_operationAt (Γ : zG) (l0 : Int32) (s0 s1 : zS) (r : Int32) (hf : f_X8_operationAt Γ.1 l0 s0 = some (r, s1)) : ZM Γ yX8_operationAt (ws_ yX8_operationAt cX8_operationAt 1 (some .int)) 1 0 [zi l0] s0 (.inl (some (zi r)), s1) := by
  refine ZM.of (own := RX8) (by decide) rfl (Nat.le_of_ble_eq_true rfl) ?_
  intro X hg hC hL hno hQ hin
  subst hg
  unfold f_X8_operationAt at hf
  refine z_bipush (v := 83) hC (pc := 0) dX8_operationAt_0 zkb_83 ?_
  refine z_iconst (v := 2) hC (pc := 2) dX8_operationAt_2 zki_2 ?_
  refine z_iload_n hC (pc := 3) dX8_operationAt_3 rfl 0 rfl ?_
  refine z_imul hC (pc := 4) dX8_operationAt_4 ?_
  refine z_iadd hC (pc := 5) dX8_operationAt_5 ?_
  exact z_ireturn hC (pc := 6) hQ dX8_operationAt_6 hf
/-! BlockingShopModel.durationOf(I)I -/
def f_X8_durationOf (G : Nat → Nat) (l0 : Nat) (l1 : Int32) (s0 : zS) : Option (Int32 × zS) :=
zo (zgR s0 (some l0) 6 8) fun v1 =>
zb (f_X8_operationAt G l1 s0) fun v2 s3 =>
zo (zaI s3 v1 0 (v2 + 1)) fun v4 =>
some (v4, s3)
set_option maxHeartbeats 4000000 in
theorem m_X8_durationOf (Γ : zG) (l0 : Nat) (l1 : Int32) (s0 s1 : zS) (r : Int32) (hf : f_X8_durationOf Γ.1 l0 l1 s0 = some (r, s1)) : ZM Γ yX8_durationOf (ws_ yX8_durationOf cX8_durationOf 2 (some .int)) 2 20 [zr (some l0), zi l1] s0 (.inl (some (zi r)), s1) := by
  refine ZM.of (own := RX8) (by decide) rfl (Nat.le_of_ble_eq_true rfl) ?_
  intro X hg hC hL hno hQ hin
  subst hg
  unfold f_X8_durationOf at hf
  refine z_aload_n hC (pc := 0) dX8_durationOf_0 rfl 0 rfl ?_
  refine z_getR hC (pc := 1) in_X8 zcX8 8 (Nat.le_of_ble_eq_true rfl) (zLk.o hC q2681) zsm dX8_durationOf_1 hf (fun v1 hf => ?_)
  refine z_iload_n hC (pc := 4) dX8_durationOf_4 rfl 1 rfl ?_
  refine z_cI (rest := [zr v1]) hf (fun v2 s3 hcall => z_runS hC (pc := 5) 1 (m_X8_operationAt X.g l1 s0 s3 v2 hcall) (lw_S q2834 q2835 q108 q2836) hd_X8_operationAt ⟨(Nat.le_of_ble_eq_true rfl), (Nat.le_of_ble_eq_true rfl)⟩ rfl (Nat.le_of_ble_eq_true rfl) dX8_durationOf_5 rfl) (fun v2 s3 hf => ?_)
  refine z_iconst (v := 1) hC (pc := 8) dX8_durationOf_8 zki_1 ?_
  refine z_iadd hC (pc := 9) dX8_durationOf_9 ?_
  refine z_iald hC (pc := 10) dX8_durationOf_10 hf (fun v4 hf => ?_)
  exact z_ireturn hC (pc := 11) hQ dX8_durationOf_11 hf
/-! BlockingShopModel.job(I)I -/
def f_X8_job (G : Nat → Nat) (l0 : Int32) (s0 : zS) : Option (Int32 × zS) :=
some ((59 + (4 * l0)), s0)
set_option maxHeartbeats 4000000 in
theorem m_X8_job (Γ : zG) (l0 : Int32) (s0 s1 : zS) (r : Int32) (hf : f_X8_job Γ.1 l0 s0 = some (r, s1)) : ZM Γ yX8_job (ws_ yX8_job cX8_job 1 (some .int)) 1 0 [zi l0] s0 (.inl (some (zi r)), s1) := by
  refine ZM.of (own := RX8) (by decide) rfl (Nat.le_of_ble_eq_true rfl) ?_
  intro X hg hC hL hno hQ hin
  subst hg
  unfold f_X8_job at hf
  refine z_bipush (v := 59) hC (pc := 0) dX8_job_0 zkb_59 ?_
  refine z_iconst (v := 4) hC (pc := 2) dX8_job_2 zki_4 ?_
  refine z_iload_n hC (pc := 3) dX8_job_3 rfl 0 rfl ?_
  refine z_imul hC (pc := 4) dX8_job_4 ?_
  refine z_iadd hC (pc := 5) dX8_job_5 ?_
  exact z_ireturn hC (pc := 6) hQ dX8_job_6 hf
/-! BlockingShopModel.completionOf(I)I -/
def f_X8_completionOf (G : Nat → Nat) (l0 : Nat) (l1 : Int32) (s0 : zS) : Option (Int32 × zS) :=
zo (zgR s0 (some l0) 6 8) fun v1 =>
zb (f_X8_job G l1 s0) fun v2 s3 =>
zo (zaI s3 v1 0 (v2 + 3)) fun v4 =>
zo (zgR s3 (some l0) 6 18) fun v5 =>
zo (zaI s3 v5 0 (((6 * l1) + v4) - 1)) fun v6 =>
zo (zrc s3 (some l0) 6) fun _ =>
zb (f_X8_durationOf G l0 (((6 * l1) + v4) - 1) s3) fun v9 s10 =>
some ((v6 + v9), s10)
set_option maxHeartbeats 4000000 in
theorem m_X8_completionOf (Γ : zG) (l0 : Nat) (l1 : Int32) (s0 s1 : zS) (r : Int32) (hf : f_X8_completionOf Γ.1 l0 l1 s0 = some (r, s1)) : ZM Γ yX8_completionOf (ws_ yX8_completionOf cX8_completionOf 3 (some .int)) 3 41 [zr (some l0), zi l1] s0 (.inl (some (zi r)), s1) := by
  refine ZM.of (own := RX8) (by decide) rfl (Nat.le_of_ble_eq_true rfl) ?_
  intro X hg hC hL hno hQ hin
  subst hg
  unfold f_X8_completionOf at hf
  refine z_bipush (v := 6) hC (pc := 0) dX8_completionOf_0 zkb_6 ?_
  refine z_iload_n hC (pc := 2) dX8_completionOf_2 rfl 1 rfl ?_
  refine z_imul hC (pc := 3) dX8_completionOf_3 ?_
  refine z_aload_n hC (pc := 4) dX8_completionOf_4 rfl 0 rfl ?_
  refine z_getR hC (pc := 5) in_X8 zcX8 8 (Nat.le_of_ble_eq_true rfl) (zLk.o hC q2681) zsm dX8_completionOf_5 hf (fun v1 hf => ?_)
  refine z_iload_n hC (pc := 8) dX8_completionOf_8 rfl 1 rfl ?_
  refine z_cI (rest := [zr v1, zi (6 * l1)]) hf (fun v2 s3 hcall => z_runS hC (pc := 9) 1 (m_X8_job X.g l1 s0 s3 v2 hcall) (lw_S q2826 q2827 q108 q2828) hd_X8_job ⟨(Nat.le_of_ble_eq_true rfl), (Nat.le_of_ble_eq_true rfl)⟩ rfl (Nat.le_of_ble_eq_true rfl) dX8_completionOf_9 rfl) (fun v2 s3 hf => ?_)
  refine z_iconst (v := 3) hC (pc := 12) dX8_completionOf_12 zki_3 ?_
  refine z_iadd hC (pc := 13) dX8_completionOf_13 ?_
  refine z_iald hC (pc := 14) dX8_completionOf_14 hf (fun v4 hf => ?_)
  refine z_iadd hC (pc := 15) dX8_completionOf_15 ?_
  refine z_iconst (v := 1) hC (pc := 16) dX8_completionOf_16 zki_1 ?_
  refine z_isub hC (pc := 17) dX8_completionOf_17 ?_
  refine z_istore_n (lv' := [(2, zi (((6 * l1) + v4) - 1)), (0, zr (some l0)), (1, zi l1)]) hC (pc := 18) hL dX8_completionOf_18 rfl (Nat.le_of_ble_eq_true rfl) rfl ?_
  refine z_aload_n hC (pc := 19) dX8_completionOf_19 rfl 1 rfl ?_
  refine z_getR hC (pc := 20) in_X8 zcX8 18 (Nat.le_of_ble_eq_true rfl) (zLk.o hC q2691) zsm dX8_completionOf_20 hf (fun v5 hf => ?_)
  refine z_iload_n hC (pc := 23) dX8_completionOf_23 rfl 0 rfl ?_
  refine z_iald hC (pc := 24) dX8_completionOf_24 hf (fun v6 hf => ?_)
  refine z_aload_n hC (pc := 25) dX8_completionOf_25 rfl 1 rfl ?_
  refine z_iload_n hC (pc := 26) dX8_completionOf_26 rfl 0 rfl ?_
  obtain ⟨fs7, ha8, hf⟩ := z_rcN hf
  refine z_cI (rest := [zi v6]) hf (fun v9 s10 hcall => z_runV hC (pc := 27) zcX8 1 ha8 (m_X8_durationOf X.g l0 (((6 * l1) + v4) - 1) s3 s10 v9 hcall) (lw_V q2952 q2954 qs76 q108 q2955) hdV_X8_durationOf ⟨(Nat.le_of_ble_eq_true rfl), (Nat.le_of_ble_eq_true rfl)⟩ rfl (Nat.le_of_ble_eq_true rfl) dX8_completionOf_27 rfl) (fun v9 s10 hf => ?_)
  refine z_iadd hC (pc := 30) dX8_completionOf_30 ?_
  exact z_ireturn hC (pc := 31) hQ dX8_completionOf_31 hf
/-! BlockingShopModel.limited(J)J -/
def f_X8_limited (G : Nat → Nat) (l0 : Int64) (s0 : zS) : Option (Int64 × zS) :=
if (lg_cmp l0 1000000) ≤ 0 then (if 0 ≤ (lg_cmp l0 (-1000000)) then (some (l0, s0))
else (some ((-1000000), s0)))
else (some (1000000, s0))
set_option maxHeartbeats 4000000 in
theorem m_X8_limited (Γ : zG) (l0 : Int64) (s0 s1 : zS) (r : Int64) (hf : f_X8_limited Γ.1 l0 s0 = some (r, s1)) : ZM Γ yX8_limited (ws_ yX8_limited cX8_limited 2 (some .long)) 1 0 [zj l0] s0 (.inl (some (zj r)), s1) := by
  refine ZM.of (own := RX8) (by decide) rfl (Nat.le_of_ble_eq_true rfl) ?_
  intro X hg hC hL hno hQ hin
  subst hg
  unfold f_X8_limited at hf
  refine z_lload_n hC (pc := 0) dX8_limited_0 rfl 0 rfl ?_
  refine z_ldc2 (v := 1000000) hC (pc := 1) q3009 dX8_limited_1 ?_
  refine z_lcmp hC (pc := 4) dX8_limited_4 ?_
  refine z_if_le hC (pc := 5) (tgt := 14) dX8_limited_5 rfl (fun c1 => ?_) (fun c1 => ?_)
  · have hf := zif_t hf c1
    refine z_lload_n hC (pc := 14) dX8_limited_14 rfl 0 rfl ?_
    refine z_ldc2 (v := (-1000000)) hC (pc := 15) q3010 dX8_limited_15 ?_
    refine z_lcmp hC (pc := 18) dX8_limited_18 ?_
    refine z_if_ge hC (pc := 19) (tgt := 28) dX8_limited_19 rfl (fun c2 => ?_) (fun c2 => ?_)
    · have hf := zif_t hf c2
      refine z_lload_n hC (pc := 28) dX8_limited_28 rfl 0 rfl ?_
      exact z_lreturn hC (pc := 29) hQ dX8_limited_29 hf
    · have hf := zif_f hf c2
      refine z_ldc2 (v := (-1000000)) hC (pc := 22) q3010 dX8_limited_22 ?_
      refine z_goto hC (pc := 25) (tgt := 29) dX8_limited_25 rfl ?_
      exact z_lreturn hC (pc := 29) hQ dX8_limited_29 hf
  · have hf := zif_f hf c1
    refine z_ldc2 (v := 1000000) hC (pc := 8) q3009 dX8_limited_8 ?_
    refine z_goto hC (pc := 11) (tgt := 29) dX8_limited_11 rfl ?_
    exact z_lreturn hC (pc := 29) hQ dX8_limited_29 hf
/-! BlockingShopModel.operate(IJJ)J -/
def f_X8_operate_b44 (G : Nat → Nat) (t0 : Int64) (s0 : zS) : Option (Int64 × zS) :=
zb (f_X8_limited G t0 s0) fun v1 s2 =>
some (v1, s2)
set_option maxHeartbeats 4000000 in
theorem w_X8_operate_b44 {X : zX} (hC : ZC X RX8 cX8_operate (some .long) 2 21) (hL : X.nL = 5) (hno : ∀ x ∈ X.c.exceptionTable.toList, False) {r : Int64} {sF : zS} (hQ : ZQ X (.inl (some (zj r)), sF)) (t0 : Int64) (s0 : zS) (hf : f_X8_operate_b44 X.g.1 t0 s0 = some (r, sF)) : ZW X s0 44 [] [zj t0] := by
  unfold f_X8_operate_b44 at hf
  refine z_cL (rest := []) hf (fun v1 s2 hcall => z_runS hC (pc := 44) 1 (m_X8_limited X.g t0 s0 s2 v1 hcall) (lw_S q3006 q3007 q108 q3008) hd_X8_limited ⟨(Nat.le_of_ble_eq_true rfl), (Nat.le_of_ble_eq_true rfl)⟩ rfl (Nat.le_of_ble_eq_true rfl) dX8_operate_44 rfl) (fun v1 s2 hf => ?_)
  exact z_lreturn hC (pc := 47) hQ dX8_operate_47 hf
def f_X8_operate (G : Nat → Nat) (l0 : Int32) (l1 : Int64) (l3 : Int64) (s0 : zS) : Option (Int64 × zS) :=
if l0 = 5 then (if (lg_cmp l3 0) = 0 then (some (0, s0))
else (if l3 = 0 then none else
some ((l1 / l3), s0)))
else (if l0 = 2 then (f_X8_operate_b44 G (l1 + l3) s0)
else (if l0 = 3 then (f_X8_operate_b44 G (l1 - l3) s0)
else (f_X8_operate_b44 G (l1 * l3) s0)))
set_option maxHeartbeats 4000000 in
theorem m_X8_operate (Γ : zG) (l0 : Int32) (l1 : Int64) (l3 : Int64) (s0 s1 : zS) (r : Int64) (hf : f_X8_operate Γ.1 l0 l1 l3 s0 = some (r, s1)) : ZM Γ yX8_operate (ws_ yX8_operate cX8_operate 5 (some .long)) 2 21 [zi l0, zj l1, zj l3] s0 (.inl (some (zj r)), s1) := by
  refine ZM.of (own := RX8) (by decide) rfl (Nat.le_of_ble_eq_true rfl) ?_
  intro X hg hC hL hno hQ hin
  subst hg
  unfold f_X8_operate at hf
  refine z_iload_n hC (pc := 0) dX8_operate_0 rfl 0 rfl ?_
  refine z_iconst (v := 5) hC (pc := 1) dX8_operate_1 zki_5 ?_
  refine z_icmp_ne hC (pc := 2) (tgt := 19) dX8_operate_2 rfl (fun c1 => ?_) (fun c1 => ?_)
  · have hf := zif_f hf c1
    refine z_iload_n hC (pc := 19) dX8_operate_19 rfl 0 rfl ?_
    refine z_iconst (v := 2) hC (pc := 20) dX8_operate_20 zki_2 ?_
    refine z_icmp_ne hC (pc := 21) (tgt := 30) dX8_operate_21 rfl (fun c2 => ?_) (fun c2 => ?_)
    · have hf := zif_f hf c2
      refine z_iload_n hC (pc := 30) dX8_operate_30 rfl 0 rfl ?_
      refine z_iconst (v := 3) hC (pc := 31) dX8_operate_31 zki_3 ?_
      refine z_icmp_ne hC (pc := 32) (tgt := 41) dX8_operate_32 rfl (fun c3 => ?_) (fun c3 => ?_)
      · have hf := zif_f hf c3
        refine z_lload_n hC (pc := 41) dX8_operate_41 rfl 1 rfl ?_
        refine z_lload_n hC (pc := 42) dX8_operate_42 rfl 2 rfl ?_
        refine z_lmul hC (pc := 43) dX8_operate_43 ?_
        refine ZW.perm (lv' := []) [] rfl ?_
        exact w_X8_operate_b44 hC hL hno hQ (l1 * l3) s0 hf
      · have hf := zif_t hf c3
        refine z_lload_n hC (pc := 35) dX8_operate_35 rfl 1 rfl ?_
        refine z_lload_n hC (pc := 36) dX8_operate_36 rfl 2 rfl ?_
        refine z_lsub hC (pc := 37) dX8_operate_37 ?_
        refine z_goto hC (pc := 38) (tgt := 44) dX8_operate_38 rfl ?_
        refine ZW.perm (lv' := []) [] rfl ?_
        exact w_X8_operate_b44 hC hL hno hQ (l1 - l3) s0 hf
    · have hf := zif_t hf c2
      refine z_lload_n hC (pc := 24) dX8_operate_24 rfl 1 rfl ?_
      refine z_lload_n hC (pc := 25) dX8_operate_25 rfl 2 rfl ?_
      refine z_ladd hC (pc := 26) dX8_operate_26 ?_
      refine z_goto hC (pc := 27) (tgt := 44) dX8_operate_27 rfl ?_
      refine ZW.perm (lv' := []) [] rfl ?_
      exact w_X8_operate_b44 hC hL hno hQ (l1 + l3) s0 hf
  · have hf := zif_t hf c1
    refine z_lload_n hC (pc := 5) dX8_operate_5 rfl 2 rfl ?_
    refine z_lconst (v := 0) hC (pc := 6) dX8_operate_6 (by decide) ?_
    refine z_lcmp hC (pc := 7) dX8_operate_7 ?_
    refine z_if_ne hC (pc := 8) (tgt := 15) dX8_operate_8 rfl (fun c4 => ?_) (fun c4 => ?_)
    · have hf := zif_f hf c4
      refine z_lload_n hC (pc := 15) dX8_operate_15 rfl 1 rfl ?_
      refine z_lload_n hC (pc := 16) dX8_operate_16 rfl 2 rfl ?_
      by_cases c5 : l3 = 0
      · exact absurd (zif_t hf c5) (fun z => nomatch z)
      have hf := zif_f hf c5
      refine z_ldiv hC (pc := 17) dX8_operate_17 c5 ?_
      exact z_lreturn hC (pc := 18) hQ dX8_operate_18 hf
    · have hf := zif_t hf c4
      refine z_lconst (v := 0) hC (pc := 11) dX8_operate_11 (by decide) ?_
      refine z_goto hC (pc := 12) (tgt := 18) dX8_operate_12 rfl ?_
      exact z_lreturn hC (pc := 18) hQ dX8_operate_18 hf
/-! BlockingShopModel.costOf(I)I -/
def f_X8_costOf_b183 (G : Nat → Nat) (k22 : Nat → Int32 → Int32 → Int32 → Int32 → zS → Option (Int32 × zS)) (l0 : Nat) (l1 : Int32) (l2 : Int32) (l3 : Int32) (l4 : Int32) (s0 : zS) : Option (Int32 × zS) :=
k22 l0 l1 l2 l3 (l4 + 1) s0
set_option maxHeartbeats 4000000 in
theorem w_X8_costOf_b183 {X : zX} (hC : ZC X RX8 cX8_costOf (some .int) 4 63) (hL : X.nL = 7) (hno : ∀ x ∈ X.c.exceptionTable.toList, False) {r : Int32} {sF : zS} (hQ : ZQ X (.inl (some (zi r)), sF)) (k22 : Nat → Int32 → Int32 → Int32 → Int32 → zS → Option (Int32 × zS)) (hk22 : ∀ (l0 : Nat) (l1 : Int32) (l2 : Int32) (l3 : Int32) (l4 : Int32) (s0 : zS), k22 l0 l1 l2 l3 l4 s0 = some (r, sF) → ZW X s0 22 [(0, zr (some l0)), (1, zi l1), (2, zi l2), (3, zi l3), (4, zi l4)] []) (l0 : Nat) (l1 : Int32) (l2 : Int32) (l3 : Int32) (l4 : Int32) (s0 : zS) (hf : f_X8_costOf_b183 X.g.1 k22 l0 l1 l2 l3 l4 s0 = some (r, sF)) : ZW X s0 183 [(0, zr (some l0)), (1, zi l1), (2, zi l2), (3, zi l3), (4, zi l4)] [] := by
  unfold f_X8_costOf_b183 at hf
  refine z_iinc (v := 1) (lv' := [(4, zi (l4 + 1)), (0, zr (some l0)), (1, zi l1), (2, zi l2), (3, zi l3)]) hC (pc := 183) hL dX8_costOf_183 4 rfl zki_1 (Nat.le_of_ble_eq_true rfl) rfl ?_
  refine z_goto hC (pc := 186) (tgt := 22) dX8_costOf_186 rfl ?_
  refine ZW.perm (lv' := [(0, zr (some l0)), (1, zi l1), (2, zi l2), (3, zi l3), (4, zi (l4 + 1))]) [1, 2, 3, 4, 0] rfl ?_
  exact hk22 l0 l1 l2 l3 (l4 + 1) s0 hf
def f_X8_costOf_b146 (G : Nat → Nat) (k22 : Nat → Int32 → Int32 → Int32 → Int32 → zS → Option (Int32 × zS)) (l0 : Nat) (l1 : Int32) (l2 : Int32) (l3 : Int32) (l4 : Int32) (t0 : Int64) (t1 : Int32) (t2 : Option Nat) (s0 : zS) : Option (Int32 × zS) :=
zo (zsL G s0 t2 t1 t0) fun s1 =>
f_X8_costOf_b183 G k22 l0 l1 l2 (l3 + 1) l4 s1
set_option maxHeartbeats 4000000 in
theorem w_X8_costOf_b146 {X : zX} (hC : ZC X RX8 cX8_costOf (some .int) 4 63) (hL : X.nL = 7) (hno : ∀ x ∈ X.c.exceptionTable.toList, False) {r : Int32} {sF : zS} (hQ : ZQ X (.inl (some (zi r)), sF)) (k22 : Nat → Int32 → Int32 → Int32 → Int32 → zS → Option (Int32 × zS)) (hk22 : ∀ (l0 : Nat) (l1 : Int32) (l2 : Int32) (l3 : Int32) (l4 : Int32) (s0 : zS), k22 l0 l1 l2 l3 l4 s0 = some (r, sF) → ZW X s0 22 [(0, zr (some l0)), (1, zi l1), (2, zi l2), (3, zi l3), (4, zi l4)] []) (l0 : Nat) (l1 : Int32) (l2 : Int32) (l3 : Int32) (l4 : Int32) (t0 : Int64) (t1 : Int32) (t2 : Option Nat) (s0 : zS) (hf : f_X8_costOf_b146 X.g.1 k22 l0 l1 l2 l3 l4 t0 t1 t2 s0 = some (r, sF)) : ZW X s0 146 [(0, zr (some l0)), (1, zi l1), (2, zi l2), (3, zi l3), (4, zi l4)] [zj t0, zi t1, zr t2] := by
  unfold f_X8_costOf_b146 at hf
  refine z_last hC (pc := 146) dX8_costOf_146 hf (fun s1 hf => ?_)
  refine z_iinc (v := 1) (lv' := [(3, zi (l3 + 1)), (0, zr (some l0)), (1, zi l1), (2, zi l2), (4, zi l4)]) hC (pc := 147) hL dX8_costOf_147 3 rfl zki_1 (Nat.le_of_ble_eq_true rfl) rfl ?_
  refine z_goto hC (pc := 150) (tgt := 183) dX8_costOf_150 rfl ?_
  refine ZW.perm (lv' := [(0, zr (some l0)), (1, zi l1), (2, zi l2), (3, zi (l3 + 1)), (4, zi l4)]) [1, 2, 3, 0, 4] rfl ?_
  exact w_X8_costOf_b183 hC hL hno hQ k22 hk22 l0 l1 l2 (l3 + 1) l4 s1 hf
def f_X8_costOf_b22 (G : Nat → Nat) (k22 : Nat → Int32 → Int32 → Int32 → Int32 → zS → Option (Int32 × zS)) (l0 : Nat) (l1 : Int32) (l2 : Int32) (l3 : Int32) (l4 : Int32) (s0 : zS) : Option (Int32 × zS) :=
zo (zgR s0 (some l0) 6 8) fun v1 =>
zo (zaI s0 v1 0 4) fun v2 =>
if v2 ≤ l4 then (zo (zgR s0 (some l0) 6 20) fun v4 =>
zo (zaL s0 v4 0) fun v5 =>
some ((v5.toInt32), s0))
else (zo (zgR s0 (some l0) 6 8) fun v6 =>
zo (zaI s0 v6 0 (155 + l4)) fun v7 =>
if 1 < v7 then (zo (zgR s0 (some l0) 6 20) fun v9 =>
zo (zgR s0 (some l0) 6 20) fun v10 =>
zo (zaL s0 v10 ((l3 + (-1)) - 1)) fun v11 =>
zo (zgR s0 (some l0) 6 20) fun v12 =>
zo (zaL s0 v12 (l3 + (-1))) fun v13 =>
zb (f_X8_operate G v7 v11 v13 s0) fun v14 s15 =>
zo (zsL G s15 v9 ((l3 + (-1)) - 1) v14) fun s16 =>
f_X8_costOf_b183 G k22 l0 l1 l2 (l3 + (-1)) l4 s16)
else (zo (zgR s0 (some l0) 6 8) fun v17 =>
zo (zaI s0 v17 0 (155 + (l4 + 1))) fun v18 =>
zo (zgR s0 (some l0) 6 20) fun v19 =>
if v7 = 0 then (f_X8_costOf_b146 G k22 l0 l1 l2 l3 (l4 + 1) (v18.toInt64) l3 v19 s0)
else (if v18 = 0 then (f_X8_costOf_b146 G k22 l0 l1 l2 l3 (l4 + 1) (l2.toInt64) l3 v19 s0)
else (if v18 = 1 then (zo (zgR s0 (some l0) 6 8) fun v32 =>
zb (f_X8_job G l1 s0) fun v33 s34 =>
zo (zaI s34 v32 0 (v33 + 1)) fun v35 =>
f_X8_costOf_b146 G k22 l0 l1 l2 l3 (l4 + 1) (v35.toInt64) l3 v19 s34)
else (if v18 = 2 then (zo (zgR s0 (some l0) 6 8) fun v28 =>
zb (f_X8_job G l1 s0) fun v29 s30 =>
zo (zaI s30 v28 0 (v29 + 2)) fun v31 =>
f_X8_costOf_b146 G k22 l0 l1 l2 l3 (l4 + 1) (v31.toInt64) l3 v19 s30)
else (zo (zgR s0 (some l0) 6 8) fun v24 =>
zb (f_X8_job G l1 s0) fun v25 s26 =>
zo (zaI s26 v24 0 v25) fun v27 =>
f_X8_costOf_b146 G k22 l0 l1 l2 l3 (l4 + 1) (v27.toInt64) l3 v19 s26))))))
set_option maxHeartbeats 4000000 in
theorem w_X8_costOf_b22 {X : zX} (hC : ZC X RX8 cX8_costOf (some .int) 4 63) (hL : X.nL = 7) (hno : ∀ x ∈ X.c.exceptionTable.toList, False) {r : Int32} {sF : zS} (hQ : ZQ X (.inl (some (zi r)), sF)) (k22 : Nat → Int32 → Int32 → Int32 → Int32 → zS → Option (Int32 × zS)) (hk22 : ∀ (l0 : Nat) (l1 : Int32) (l2 : Int32) (l3 : Int32) (l4 : Int32) (s0 : zS), k22 l0 l1 l2 l3 l4 s0 = some (r, sF) → ZW X s0 22 [(0, zr (some l0)), (1, zi l1), (2, zi l2), (3, zi l3), (4, zi l4)] []) (l0 : Nat) (l1 : Int32) (l2 : Int32) (l3 : Int32) (l4 : Int32) (s0 : zS) (hf : f_X8_costOf_b22 X.g.1 k22 l0 l1 l2 l3 l4 s0 = some (r, sF)) : ZW X s0 22 [(0, zr (some l0)), (1, zi l1), (2, zi l2), (3, zi l3), (4, zi l4)] [] := by
  unfold f_X8_costOf_b22 at hf
  refine z_iload hC (pc := 22) dX8_costOf_22 4 rfl ?_
  refine z_aload_n hC (pc := 24) dX8_costOf_24 rfl 0 rfl ?_
  refine z_getR hC (pc := 25) in_X8 zcX8 8 (Nat.le_of_ble_eq_true rfl) (zLk.o hC q2681) zsm dX8_costOf_25 hf (fun v1 hf => ?_)
  refine z_iconst (v := 4) hC (pc := 28) dX8_costOf_28 zki_4 ?_
  refine z_iald hC (pc := 29) dX8_costOf_29 hf (fun v2 hf => ?_)
  refine z_icmp_ge hC (pc := 30) (tgt := 189) dX8_costOf_30 rfl (fun c3 => ?_) (fun c3 => ?_)
  · have hf := zif_t hf c3
    refine z_aload_n hC (pc := 189) dX8_costOf_189 rfl 0 rfl ?_
    refine z_getR hC (pc := 190) in_X8 zcX8 20 (Nat.le_of_ble_eq_true rfl) (zLk.o hC q2693) zsm dX8_costOf_190 hf (fun v4 hf => ?_)
    refine z_iconst (v := 0) hC (pc := 193) dX8_costOf_193 zki_0 ?_
    refine z_lald hC (pc := 194) dX8_costOf_194 hf (fun v5 hf => ?_)
    refine z_l2i hC (pc := 195) dX8_costOf_195 ?_
    exact z_ireturn hC (pc := 196) hQ dX8_costOf_196 hf
  · have hf := zif_f hf c3
    refine z_aload_n hC (pc := 33) dX8_costOf_33 rfl 0 rfl ?_
    refine z_getR hC (pc := 34) in_X8 zcX8 8 (Nat.le_of_ble_eq_true rfl) (zLk.o hC q2681) zsm dX8_costOf_34 hf (fun v6 hf => ?_)
    refine z_sipush (v := 155) hC (pc := 37) dX8_costOf_37 zks_155 ?_
    refine z_iload hC (pc := 40) dX8_costOf_40 4 rfl ?_
    refine z_iadd hC (pc := 42) dX8_costOf_42 ?_
    refine z_iald hC (pc := 43) dX8_costOf_43 hf (fun v7 hf => ?_)
    refine z_istore (lv' := [(5, zi v7), (0, zr (some l0)), (1, zi l1), (2, zi l2), (3, zi l3), (4, zi l4)]) hC (pc := 44) hL dX8_costOf_44 (Nat.le_of_ble_eq_true rfl) rfl ?_
    refine z_iload hC (pc := 46) dX8_costOf_46 0 rfl ?_
    refine z_iconst (v := 1) hC (pc := 48) dX8_costOf_48 zki_1 ?_
    refine z_icmp_gt hC (pc := 49) (tgt := 153) dX8_costOf_49 rfl (fun c8 => ?_) (fun c8 => ?_)
    · have hf := zif_t hf c8
      refine z_iinc (v := (-1)) (lv' := [(3, zi (l3 + (-1))), (5, zi v7), (0, zr (some l0)), (1, zi l1), (2, zi l2), (4, zi l4)]) hC (pc := 153) hL dX8_costOf_153 4 rfl zki_m1 (Nat.le_of_ble_eq_true rfl) rfl ?_
      refine z_aload_n hC (pc := 156) dX8_costOf_156 rfl 2 rfl ?_
      refine z_getR hC (pc := 157) in_X8 zcX8 20 (Nat.le_of_ble_eq_true rfl) (zLk.o hC q2693) zsm dX8_costOf_157 hf (fun v9 hf => ?_)
      refine z_iload_n hC (pc := 160) dX8_costOf_160 rfl 0 rfl ?_
      refine z_iconst (v := 1) hC (pc := 161) dX8_costOf_161 zki_1 ?_
      refine z_isub hC (pc := 162) dX8_costOf_162 ?_
      refine z_iload hC (pc := 163) dX8_costOf_163 1 rfl ?_
      refine z_aload_n hC (pc := 165) dX8_costOf_165 rfl 2 rfl ?_
      refine z_getR hC (pc := 166) in_X8 zcX8 20 (Nat.le_of_ble_eq_true rfl) (zLk.o hC q2693) zsm dX8_costOf_166 hf (fun v10 hf => ?_)
      refine z_iload_n hC (pc := 169) dX8_costOf_169 rfl 0 rfl ?_
      refine z_iconst (v := 1) hC (pc := 170) dX8_costOf_170 zki_1 ?_
      refine z_isub hC (pc := 171) dX8_costOf_171 ?_
      refine z_lald hC (pc := 172) dX8_costOf_172 hf (fun v11 hf => ?_)
      refine z_aload_n hC (pc := 173) dX8_costOf_173 rfl 2 rfl ?_
      refine z_getR hC (pc := 174) in_X8 zcX8 20 (Nat.le_of_ble_eq_true rfl) (zLk.o hC q2693) zsm dX8_costOf_174 hf (fun v12 hf => ?_)
      refine z_iload_n hC (pc := 177) dX8_costOf_177 rfl 0 rfl ?_
      refine z_lald hC (pc := 178) dX8_costOf_178 hf (fun v13 hf => ?_)
      refine z_cL (rest := [zi ((l3 + (-1)) - 1), zr v9]) hf (fun v14 s15 hcall => z_runS hC (pc := 179) 3 (m_X8_operate X.g v7 v11 v13 s0 s15 v14 hcall) (lw_S q3003 q3004 q108 q3005) hd_X8_operate ⟨(Nat.le_of_ble_eq_true rfl), (Nat.le_of_ble_eq_true rfl)⟩ rfl (Nat.le_of_ble_eq_true rfl) dX8_costOf_179 rfl) (fun v14 s15 hf => ?_)
      refine z_last hC (pc := 182) dX8_costOf_182 hf (fun s16 hf => ?_)
      refine ZW.perm (lv' := [(0, zr (some l0)), (1, zi l1), (2, zi l2), (3, zi (l3 + (-1))), (4, zi l4)]) [2, 3, 4, 0, 5] rfl ?_
      exact w_X8_costOf_b183 hC hL hno hQ k22 hk22 l0 l1 l2 (l3 + (-1)) l4 s16 hf
    · have hf := zif_f hf c8
      refine z_iinc (v := 1) (lv' := [(4, zi (l4 + 1)), (5, zi v7), (0, zr (some l0)), (1, zi l1), (2, zi l2), (3, zi l3)]) hC (pc := 52) hL dX8_costOf_52 5 rfl zki_1 (Nat.le_of_ble_eq_true rfl) rfl ?_
      refine z_aload_n hC (pc := 55) dX8_costOf_55 rfl 2 rfl ?_
      refine z_getR hC (pc := 56) in_X8 zcX8 8 (Nat.le_of_ble_eq_true rfl) (zLk.o hC q2681) zsm dX8_costOf_56 hf (fun v17 hf => ?_)
      refine z_sipush (v := 155) hC (pc := 59) dX8_costOf_59 zks_155 ?_
      refine z_iload hC (pc := 62) dX8_costOf_62 0 rfl ?_
      refine z_iadd hC (pc := 64) dX8_costOf_64 ?_
      refine z_iald hC (pc := 65) dX8_costOf_65 hf (fun v18 hf => ?_)
      refine z_istore (lv' := [(6, zi v18), (4, zi (l4 + 1)), (5, zi v7), (0, zr (some l0)), (1, zi l1), (2, zi l2), (3, zi l3)]) hC (pc := 66) hL dX8_costOf_66 (Nat.le_of_ble_eq_true rfl) rfl ?_
      refine z_aload_n hC (pc := 68) dX8_costOf_68 rfl 3 rfl ?_
      refine z_getR hC (pc := 69) in_X8 zcX8 20 (Nat.le_of_ble_eq_true rfl) (zLk.o hC q2693) zsm dX8_costOf_69 hf (fun v19 hf => ?_)
      refine z_iload_n hC (pc := 72) dX8_costOf_72 rfl 6 rfl ?_
      refine z_iload hC (pc := 73) dX8_costOf_73 2 rfl ?_
      refine z_if_ne hC (pc := 75) (tgt := 84) dX8_costOf_75 rfl (fun c20 => ?_) (fun c20 => ?_)
      · have hf := zif_f hf c20
        refine z_iload hC (pc := 84) dX8_costOf_84 0 rfl ?_
        refine z_if_ne hC (pc := 86) (tgt := 94) dX8_costOf_86 rfl (fun c21 => ?_) (fun c21 => ?_)
        · have hf := zif_f hf c21
          refine z_iload hC (pc := 94) dX8_costOf_94 0 rfl ?_
          refine z_iconst (v := 1) hC (pc := 96) dX8_costOf_96 zki_1 ?_
          refine z_icmp_ne hC (pc := 97) (tgt := 115) dX8_costOf_97 rfl (fun c22 => ?_) (fun c22 => ?_)
          · have hf := zif_f hf c22
            refine z_iload hC (pc := 115) dX8_costOf_115 0 rfl ?_
            refine z_iconst (v := 2) hC (pc := 117) dX8_costOf_117 zki_2 ?_
            refine z_icmp_ne hC (pc := 118) (tgt := 136) dX8_costOf_118 rfl (fun c23 => ?_) (fun c23 => ?_)
            · have hf := zif_f hf c23
              refine z_aload_n hC (pc := 136) dX8_costOf_136 rfl 3 rfl ?_
              refine z_getR hC (pc := 137) in_X8 zcX8 8 (Nat.le_of_ble_eq_true rfl) (zLk.o hC q2681) zsm dX8_costOf_137 hf (fun v24 hf => ?_)
              refine z_iload_n hC (pc := 140) dX8_costOf_140 rfl 4 rfl ?_
              refine z_cI (rest := [zr v24, zi l3, zr v19]) hf (fun v25 s26 hcall => z_runS hC (pc := 141) 1 (m_X8_job X.g l1 s0 s26 v25 hcall) (lw_S q2826 q2827 q108 q2828) hd_X8_job ⟨(Nat.le_of_ble_eq_true rfl), (Nat.le_of_ble_eq_true rfl)⟩ rfl (Nat.le_of_ble_eq_true rfl) dX8_costOf_141 rfl) (fun v25 s26 hf => ?_)
              refine z_iald hC (pc := 144) dX8_costOf_144 hf (fun v27 hf => ?_)
              refine z_i2l hC (pc := 145) dX8_costOf_145 ?_
              refine ZW.perm (lv' := [(0, zr (some l0)), (1, zi l1), (2, zi l2), (3, zi l3), (4, zi (l4 + 1))]) [3, 4, 5, 6, 1] rfl ?_
              exact w_X8_costOf_b146 hC hL hno hQ k22 hk22 l0 l1 l2 l3 (l4 + 1) (v27.toInt64) l3 v19 s26 hf
            · have hf := zif_t hf c23
              refine z_aload_n hC (pc := 121) dX8_costOf_121 rfl 3 rfl ?_
              refine z_getR hC (pc := 122) in_X8 zcX8 8 (Nat.le_of_ble_eq_true rfl) (zLk.o hC q2681) zsm dX8_costOf_122 hf (fun v28 hf => ?_)
              refine z_iload_n hC (pc := 125) dX8_costOf_125 rfl 4 rfl ?_
              refine z_cI (rest := [zr v28, zi l3, zr v19]) hf (fun v29 s30 hcall => z_runS hC (pc := 126) 1 (m_X8_job X.g l1 s0 s30 v29 hcall) (lw_S q2826 q2827 q108 q2828) hd_X8_job ⟨(Nat.le_of_ble_eq_true rfl), (Nat.le_of_ble_eq_true rfl)⟩ rfl (Nat.le_of_ble_eq_true rfl) dX8_costOf_126 rfl) (fun v29 s30 hf => ?_)
              refine z_iconst (v := 2) hC (pc := 129) dX8_costOf_129 zki_2 ?_
              refine z_iadd hC (pc := 130) dX8_costOf_130 ?_
              refine z_iald hC (pc := 131) dX8_costOf_131 hf (fun v31 hf => ?_)
              refine z_i2l hC (pc := 132) dX8_costOf_132 ?_
              refine z_goto hC (pc := 133) (tgt := 146) dX8_costOf_133 rfl ?_
              refine ZW.perm (lv' := [(0, zr (some l0)), (1, zi l1), (2, zi l2), (3, zi l3), (4, zi (l4 + 1))]) [3, 4, 5, 6, 1] rfl ?_
              exact w_X8_costOf_b146 hC hL hno hQ k22 hk22 l0 l1 l2 l3 (l4 + 1) (v31.toInt64) l3 v19 s30 hf
          · have hf := zif_t hf c22
            refine z_aload_n hC (pc := 100) dX8_costOf_100 rfl 3 rfl ?_
            refine z_getR hC (pc := 101) in_X8 zcX8 8 (Nat.le_of_ble_eq_true rfl) (zLk.o hC q2681) zsm dX8_costOf_101 hf (fun v32 hf => ?_)
            refine z_iload_n hC (pc := 104) dX8_costOf_104 rfl 4 rfl ?_
            refine z_cI (rest := [zr v32, zi l3, zr v19]) hf (fun v33 s34 hcall => z_runS hC (pc := 105) 1 (m_X8_job X.g l1 s0 s34 v33 hcall) (lw_S q2826 q2827 q108 q2828) hd_X8_job ⟨(Nat.le_of_ble_eq_true rfl), (Nat.le_of_ble_eq_true rfl)⟩ rfl (Nat.le_of_ble_eq_true rfl) dX8_costOf_105 rfl) (fun v33 s34 hf => ?_)
            refine z_iconst (v := 1) hC (pc := 108) dX8_costOf_108 zki_1 ?_
            refine z_iadd hC (pc := 109) dX8_costOf_109 ?_
            refine z_iald hC (pc := 110) dX8_costOf_110 hf (fun v35 hf => ?_)
            refine z_i2l hC (pc := 111) dX8_costOf_111 ?_
            refine z_goto hC (pc := 112) (tgt := 146) dX8_costOf_112 rfl ?_
            refine ZW.perm (lv' := [(0, zr (some l0)), (1, zi l1), (2, zi l2), (3, zi l3), (4, zi (l4 + 1))]) [3, 4, 5, 6, 1] rfl ?_
            exact w_X8_costOf_b146 hC hL hno hQ k22 hk22 l0 l1 l2 l3 (l4 + 1) (v35.toInt64) l3 v19 s34 hf
        · have hf := zif_t hf c21
          refine z_iload_n hC (pc := 89) dX8_costOf_89 rfl 5 rfl ?_
          refine z_i2l hC (pc := 90) dX8_costOf_90 ?_
          refine z_goto hC (pc := 91) (tgt := 146) dX8_costOf_91 rfl ?_
          refine ZW.perm (lv' := [(0, zr (some l0)), (1, zi l1), (2, zi l2), (3, zi l3), (4, zi (l4 + 1))]) [3, 4, 5, 6, 1] rfl ?_
          exact w_X8_costOf_b146 hC hL hno hQ k22 hk22 l0 l1 l2 l3 (l4 + 1) (l2.toInt64) l3 v19 s0 hf
      · have hf := zif_t hf c20
        refine z_iload hC (pc := 78) dX8_costOf_78 0 rfl ?_
        refine z_i2l hC (pc := 80) dX8_costOf_80 ?_
        refine z_goto hC (pc := 81) (tgt := 146) dX8_costOf_81 rfl ?_
        refine ZW.perm (lv' := [(0, zr (some l0)), (1, zi l1), (2, zi l2), (3, zi l3), (4, zi (l4 + 1))]) [3, 4, 5, 6, 1] rfl ?_
        exact w_X8_costOf_b146 hC hL hno hQ k22 hk22 l0 l1 l2 l3 (l4 + 1) (v18.toInt64) l3 v19 s0 hf
def f_X8_costOf_l22 (G : Nat → Nat) : Nat → Nat → Int32 → Int32 → Int32 → Int32 → zS → Option (Int32 × zS)
  | 0 => fun _ _ _ _ _ _ => none
  | n + 1 => f_X8_costOf_b22 G (f_X8_costOf_l22 G n)
theorem w_X8_costOf_l22 {X : zX} (hC : ZC X RX8 cX8_costOf (some .int) 4 63) (hL : X.nL = 7) (hno : ∀ x ∈ X.c.exceptionTable.toList, False) {r : Int32} {sF : zS} (hQ : ZQ X (.inl (some (zi r)), sF)) : ∀ (n : Nat) (l0 : Nat) (l1 : Int32) (l2 : Int32) (l3 : Int32) (l4 : Int32) (s0 : zS) (_ : f_X8_costOf_l22 X.g.1 n l0 l1 l2 l3 l4 s0 = some (r, sF)), ZW X s0 22 [(0, zr (some l0)), (1, zi l1), (2, zi l2), (3, zi l3), (4, zi l4)] [] := by
  intro n
  induction n with
  | zero => intro l0 l1 l2 l3 l4 s0 hf; exact absurd (show (none : Option (Int32 × zS)) = some (r, sF) from hf) (fun z => nomatch z)
  | succ n ih => intro l0 l1 l2 l3 l4 s0 hf; exact w_X8_costOf_b22 hC hL hno hQ (f_X8_costOf_l22 X.g.1 n) ih l0 l1 l2 l3 l4 s0 hf
def f_X8_costOf (G : Nat → Nat) (l0 : Nat) (l1 : Int32) (s0 : zS) : Option (Int32 × zS) :=
zo (zrc s0 (some l0) 6) fun _ =>
zb (f_X8_completionOf G l0 l1 s0) fun v3 s4 =>
zo (zgR s4 (some l0) 6 8) fun v5 =>
zo (zaI s4 v5 0 3) fun v6 =>
if v6 = 0 then (some (v3, s4))
else (f_X8_costOf_l22 G 2000 l0 l1 v3 0 0 s4)
set_option maxHeartbeats 4000000 in
theorem m_X8_costOf (Γ : zG) (l0 : Nat) (l1 : Int32) (s0 s1 : zS) (r : Int32) (hf : f_X8_costOf Γ.1 l0 l1 s0 = some (r, s1)) : ZM Γ yX8_costOf (ws_ yX8_costOf cX8_costOf 7 (some .int)) 4 63 [zr (some l0), zi l1] s0 (.inl (some (zi r)), s1) := by
  refine ZM.of (own := RX8) (by decide) rfl (Nat.le_of_ble_eq_true rfl) ?_
  intro X hg hC hL hno hQ hin
  subst hg
  unfold f_X8_costOf at hf
  refine z_aload_n hC (pc := 0) dX8_costOf_0 rfl 0 rfl ?_
  refine z_iload_n hC (pc := 1) dX8_costOf_1 rfl 1 rfl ?_
  obtain ⟨fs1, ha2, hf⟩ := z_rcN hf
  refine z_cI (rest := []) hf (fun v3 s4 hcall => z_runV hC (pc := 2) zcX8 1 ha2 (m_X8_completionOf X.g l0 l1 s0 s4 v3 hcall) (lw_V q2979 q2981 qs80 q108 q2982) hdV_X8_completionOf ⟨(Nat.le_of_ble_eq_true rfl), (Nat.le_of_ble_eq_true rfl)⟩ rfl (Nat.le_of_ble_eq_true rfl) dX8_costOf_2 rfl) (fun v3 s4 hf => ?_)
  refine z_istore_n (lv' := [(2, zi v3), (0, zr (some l0)), (1, zi l1)]) hC (pc := 5) hL dX8_costOf_5 rfl (Nat.le_of_ble_eq_true rfl) rfl ?_
  refine z_iconst (v := 0) hC (pc := 6) dX8_costOf_6 zki_0 ?_
  refine z_istore_n (lv' := [(3, zi 0), (2, zi v3), (0, zr (some l0)), (1, zi l1)]) hC (pc := 7) hL dX8_costOf_7 rfl (Nat.le_of_ble_eq_true rfl) rfl ?_
  refine z_aload_n hC (pc := 8) dX8_costOf_8 rfl 2 rfl ?_
  refine z_getR hC (pc := 9) in_X8 zcX8 8 (Nat.le_of_ble_eq_true rfl) (zLk.o hC q2681) zsm dX8_costOf_9 hf (fun v5 hf => ?_)
  refine z_iconst (v := 3) hC (pc := 12) dX8_costOf_12 zki_3 ?_
  refine z_iald hC (pc := 13) dX8_costOf_13 hf (fun v6 hf => ?_)
  refine z_if_ne hC (pc := 14) (tgt := 19) dX8_costOf_14 rfl (fun c7 => ?_) (fun c7 => ?_)
  · have hf := zif_f hf c7
    refine z_iconst (v := 0) hC (pc := 19) dX8_costOf_19 zki_0 ?_
    refine z_istore (lv' := [(4, zi 0), (3, zi 0), (2, zi v3), (0, zr (some l0)), (1, zi l1)]) hC (pc := 20) hL dX8_costOf_20 (Nat.le_of_ble_eq_true rfl) rfl ?_
    refine ZW.perm (lv' := [(0, zr (some l0)), (1, zi l1), (2, zi v3), (3, zi 0), (4, zi 0)]) [3, 4, 2, 1, 0] rfl ?_
    exact w_X8_costOf_l22 hC hL hno hQ 2000 l0 l1 v3 0 0 s4 hf
  · have hf := zif_t hf c7
    refine z_iload_n hC (pc := 17) dX8_costOf_17 rfl 1 rfl ?_
    exact z_ireturn hC (pc := 18) hQ dX8_costOf_18 hf
/-! BlockingShopModel.costOfPlan()I -/
def f_X8_costOfPlan_b4 (G : Nat → Nat) (k4 : Nat → Int32 → Int32 → zS → Option (Int32 × zS)) (l0 : Nat) (l1 : Int32) (l2 : Int32) (s0 : zS) : Option (Int32 × zS) :=
zo (zgR s0 (some l0) 6 8) fun v1 =>
zo (zaI s0 v1 0 2) fun v2 =>
if v2 ≤ l2 then (some (l1, s0))
else (zo (zrc s0 (some l0) 6) fun _ =>
zb (f_X8_costOf G l0 l2 s0) fun v6 s7 =>
k4 l0 (l1 + v6) (l2 + 1) s7)
set_option maxHeartbeats 4000000 in
theorem w_X8_costOfPlan_b4 {X : zX} (hC : ZC X RX8 cX8_costOfPlan (some .int) 5 89) (hL : X.nL = 3) (hno : ∀ x ∈ X.c.exceptionTable.toList, False) {r : Int32} {sF : zS} (hQ : ZQ X (.inl (some (zi r)), sF)) (k4 : Nat → Int32 → Int32 → zS → Option (Int32 × zS)) (hk4 : ∀ (l0 : Nat) (l1 : Int32) (l2 : Int32) (s0 : zS), k4 l0 l1 l2 s0 = some (r, sF) → ZW X s0 4 [(0, zr (some l0)), (1, zi l1), (2, zi l2)] []) (l0 : Nat) (l1 : Int32) (l2 : Int32) (s0 : zS) (hf : f_X8_costOfPlan_b4 X.g.1 k4 l0 l1 l2 s0 = some (r, sF)) : ZW X s0 4 [(0, zr (some l0)), (1, zi l1), (2, zi l2)] [] := by
  unfold f_X8_costOfPlan_b4 at hf
  refine z_iload_n hC (pc := 4) dX8_costOfPlan_4 rfl 2 rfl ?_
  refine z_aload_n hC (pc := 5) dX8_costOfPlan_5 rfl 0 rfl ?_
  refine z_getR hC (pc := 6) in_X8 zcX8 8 (Nat.le_of_ble_eq_true rfl) (zLk.o hC q2681) zsm dX8_costOfPlan_6 hf (fun v1 hf => ?_)
  refine z_iconst (v := 2) hC (pc := 9) dX8_costOfPlan_9 zki_2 ?_
  refine z_iald hC (pc := 10) dX8_costOfPlan_10 hf (fun v2 hf => ?_)
  refine z_icmp_ge hC (pc := 11) (tgt := 28) dX8_costOfPlan_11 rfl (fun c3 => ?_) (fun c3 => ?_)
  · have hf := zif_t hf c3
    refine z_iload_n hC (pc := 28) dX8_costOfPlan_28 rfl 1 rfl ?_
    exact z_ireturn hC (pc := 29) hQ dX8_costOfPlan_29 hf
  · have hf := zif_f hf c3
    refine z_iload_n hC (pc := 14) dX8_costOfPlan_14 rfl 1 rfl ?_
    refine z_aload_n hC (pc := 15) dX8_costOfPlan_15 rfl 0 rfl ?_
    refine z_iload_n hC (pc := 16) dX8_costOfPlan_16 rfl 2 rfl ?_
    obtain ⟨fs4, ha5, hf⟩ := z_rcN hf
    refine z_cI (rest := [zi l1]) hf (fun v6 s7 hcall => z_runV hC (pc := 17) zcX8 1 ha5 (m_X8_costOf X.g l0 l2 s0 s7 v6 hcall) (lw_V q2999 q3001 qs83 q108 q3002) hdV_X8_costOf ⟨(Nat.le_of_ble_eq_true rfl), (Nat.le_of_ble_eq_true rfl)⟩ rfl (Nat.le_of_ble_eq_true rfl) dX8_costOfPlan_17 rfl) (fun v6 s7 hf => ?_)
    refine z_iadd hC (pc := 20) dX8_costOfPlan_20 ?_
    refine z_istore_n (lv' := [(1, zi (l1 + v6)), (0, zr (some l0)), (2, zi l2)]) hC (pc := 21) hL dX8_costOfPlan_21 rfl (Nat.le_of_ble_eq_true rfl) rfl ?_
    refine z_iinc (v := 1) (lv' := [(2, zi (l2 + 1)), (1, zi (l1 + v6)), (0, zr (some l0))]) hC (pc := 22) hL dX8_costOfPlan_22 2 rfl zki_1 (Nat.le_of_ble_eq_true rfl) rfl ?_
    refine z_goto hC (pc := 25) (tgt := 4) dX8_costOfPlan_25 rfl ?_
    refine ZW.perm (lv' := [(0, zr (some l0)), (1, zi (l1 + v6)), (2, zi (l2 + 1))]) [2, 1, 0] rfl ?_
    exact hk4 l0 (l1 + v6) (l2 + 1) s7 hf
def f_X8_costOfPlan_l4 (G : Nat → Nat) : Nat → Nat → Int32 → Int32 → zS → Option (Int32 × zS)
  | 0 => fun _ _ _ _ => none
  | n + 1 => f_X8_costOfPlan_b4 G (f_X8_costOfPlan_l4 G n)
theorem w_X8_costOfPlan_l4 {X : zX} (hC : ZC X RX8 cX8_costOfPlan (some .int) 5 89) (hL : X.nL = 3) (hno : ∀ x ∈ X.c.exceptionTable.toList, False) {r : Int32} {sF : zS} (hQ : ZQ X (.inl (some (zi r)), sF)) : ∀ (n : Nat) (l0 : Nat) (l1 : Int32) (l2 : Int32) (s0 : zS) (_ : f_X8_costOfPlan_l4 X.g.1 n l0 l1 l2 s0 = some (r, sF)), ZW X s0 4 [(0, zr (some l0)), (1, zi l1), (2, zi l2)] [] := by
  intro n
  induction n with
  | zero => intro l0 l1 l2 s0 hf; exact absurd (show (none : Option (Int32 × zS)) = some (r, sF) from hf) (fun z => nomatch z)
  | succ n ih => intro l0 l1 l2 s0 hf; exact w_X8_costOfPlan_b4 hC hL hno hQ (f_X8_costOfPlan_l4 X.g.1 n) ih l0 l1 l2 s0 hf
def f_X8_costOfPlan (G : Nat → Nat) (l0 : Nat) (s0 : zS) : Option (Int32 × zS) :=
f_X8_costOfPlan_l4 G 2000 l0 0 0 s0
set_option maxHeartbeats 4000000 in
theorem m_X8_costOfPlan (Γ : zG) (l0 : Nat) (s0 s1 : zS) (r : Int32) (hf : f_X8_costOfPlan Γ.1 l0 s0 = some (r, s1)) : ZM Γ yX8_costOfPlan (ws_ yX8_costOfPlan cX8_costOfPlan 3 (some .int)) 5 89 [zr (some l0)] s0 (.inl (some (zi r)), s1) := by
  refine ZM.of (own := RX8) (by decide) rfl (Nat.le_of_ble_eq_true rfl) ?_
  intro X hg hC hL hno hQ hin
  subst hg
  unfold f_X8_costOfPlan at hf
  refine z_iconst (v := 0) hC (pc := 0) dX8_costOfPlan_0 zki_0 ?_
  refine z_istore_n (lv' := [(1, zi 0), (0, zr (some l0))]) hC (pc := 1) hL dX8_costOfPlan_1 rfl (Nat.le_of_ble_eq_true rfl) rfl ?_
  refine z_iconst (v := 0) hC (pc := 2) dX8_costOfPlan_2 zki_0 ?_
  refine z_istore_n (lv' := [(2, zi 0), (1, zi 0), (0, zr (some l0))]) hC (pc := 3) hL dX8_costOfPlan_3 rfl (Nat.le_of_ble_eq_true rfl) rfl ?_
  refine ZW.perm (lv' := [(0, zr (some l0)), (1, zi 0), (2, zi 0)]) [2, 1, 0] rfl ?_
  exact w_X8_costOfPlan_l4 hC hL hno hQ 2000 l0 0 0 s0 hf
/-! BlockingShopModel.machine(I)I -/
def f_X8_machine (G : Nat → Nat) (l0 : Int32) (s0 : zS) : Option (Int32 × zS) :=
some ((5 + (9 * l0)), s0)
set_option maxHeartbeats 4000000 in
theorem m_X8_machine (Γ : zG) (l0 : Int32) (s0 s1 : zS) (r : Int32) (hf : f_X8_machine Γ.1 l0 s0 = some (r, s1)) : ZM Γ yX8_machine (ws_ yX8_machine cX8_machine 1 (some .int)) 1 0 [zi l0] s0 (.inl (some (zi r)), s1) := by
  refine ZM.of (own := RX8) (by decide) rfl (Nat.le_of_ble_eq_true rfl) ?_
  intro X hg hC hL hno hQ hin
  subst hg
  unfold f_X8_machine at hf
  refine z_iconst (v := 5) hC (pc := 0) dX8_machine_0 zki_5 ?_
  refine z_bipush (v := 9) hC (pc := 1) dX8_machine_1 zkb_9 ?_
  refine z_iload_n hC (pc := 3) dX8_machine_3 rfl 0 rfl ?_
  refine z_imul hC (pc := 4) dX8_machine_4 ?_
  refine z_iadd hC (pc := 5) dX8_machine_5 ?_
  exact z_ireturn hC (pc := 6) hQ dX8_machine_6 hf
/-! BlockingShopModel.exchange(II)V -/
def f_X8_exchange (G : Nat → Nat) (l0 : Nat) (l1 : Int32) (l2 : Int32) (s0 : zS) : Option (Unit × zS) :=
zb (f_X8_machine G l1 s0) fun v1 s2 =>
zo (zgR s2 (some l0) 6 8) fun v3 =>
zo (zaI s2 v3 0 ((v1 + 3) + l2)) fun v4 =>
zo (zgR s2 (some l0) 6 8) fun v5 =>
zo (zgR s2 (some l0) 6 8) fun v6 =>
zo (zaI s2 v6 0 (((v1 + 3) + l2) + 1)) fun v7 =>
zo (zsI G s2 v5 0 ((v1 + 3) + l2) v7) fun s8 =>
zo (zgR s8 (some l0) 6 8) fun v9 =>
zo (zsI G s8 v9 0 (((v1 + 3) + l2) + 1) v4) fun s10 =>
some ((), s10)
set_option maxHeartbeats 4000000 in
theorem m_X8_exchange (Γ : zG) (l0 : Nat) (l1 : Int32) (l2 : Int32) (s0 s1 : zS) (r : Unit) (hf : f_X8_exchange Γ.1 l0 l1 l2 s0 = some (r, s1)) : ZM Γ yX8_exchange (ws_ yX8_exchange cX8_exchange 5 none) 2 20 [zr (some l0), zi l1, zi l2] s0 (.inl none, s1) := by
  refine ZM.of (own := RX8) (by decide) rfl (Nat.le_of_ble_eq_true rfl) ?_
  intro X hg hC hL hno hQ hin
  subst hg
  unfold f_X8_exchange at hf
  refine z_iload_n hC (pc := 0) dX8_exchange_0 rfl 1 rfl ?_
  refine z_cI (rest := []) hf (fun v1 s2 hcall => z_runS hC (pc := 1) 1 (m_X8_machine X.g l1 s0 s2 v1 hcall) (lw_S q2842 q2843 q108 q2844) hd_X8_machine ⟨(Nat.le_of_ble_eq_true rfl), (Nat.le_of_ble_eq_true rfl)⟩ rfl (Nat.le_of_ble_eq_true rfl) dX8_exchange_1 rfl) (fun v1 s2 hf => ?_)
  refine z_iconst (v := 3) hC (pc := 4) dX8_exchange_4 zki_3 ?_
  refine z_iadd hC (pc := 5) dX8_exchange_5 ?_
  refine z_iload_n hC (pc := 6) dX8_exchange_6 rfl 2 rfl ?_
  refine z_iadd hC (pc := 7) dX8_exchange_7 ?_
  refine z_istore_n (lv' := [(3, zi ((v1 + 3) + l2)), (0, zr (some l0)), (1, zi l1), (2, zi l2)]) hC (pc := 8) hL dX8_exchange_8 rfl (Nat.le_of_ble_eq_true rfl) rfl ?_
  refine z_aload_n hC (pc := 9) dX8_exchange_9 rfl 1 rfl ?_
  refine z_getR hC (pc := 10) in_X8 zcX8 8 (Nat.le_of_ble_eq_true rfl) (zLk.o hC q2681) zsm dX8_exchange_10 hf (fun v3 hf => ?_)
  refine z_iload_n hC (pc := 13) dX8_exchange_13 rfl 0 rfl ?_
  refine z_iald hC (pc := 14) dX8_exchange_14 hf (fun v4 hf => ?_)
  refine z_istore (lv' := [(4, zi v4), (3, zi ((v1 + 3) + l2)), (0, zr (some l0)), (1, zi l1), (2, zi l2)]) hC (pc := 15) hL dX8_exchange_15 (Nat.le_of_ble_eq_true rfl) rfl ?_
  refine z_aload_n hC (pc := 17) dX8_exchange_17 rfl 2 rfl ?_
  refine z_getR hC (pc := 18) in_X8 zcX8 8 (Nat.le_of_ble_eq_true rfl) (zLk.o hC q2681) zsm dX8_exchange_18 hf (fun v5 hf => ?_)
  refine z_iload_n hC (pc := 21) dX8_exchange_21 rfl 1 rfl ?_
  refine z_aload_n hC (pc := 22) dX8_exchange_22 rfl 2 rfl ?_
  refine z_getR hC (pc := 23) in_X8 zcX8 8 (Nat.le_of_ble_eq_true rfl) (zLk.o hC q2681) zsm dX8_exchange_23 hf (fun v6 hf => ?_)
  refine z_iload_n hC (pc := 26) dX8_exchange_26 rfl 1 rfl ?_
  refine z_iconst (v := 1) hC (pc := 27) dX8_exchange_27 zki_1 ?_
  refine z_iadd hC (pc := 28) dX8_exchange_28 ?_
  refine z_iald hC (pc := 29) dX8_exchange_29 hf (fun v7 hf => ?_)
  refine z_iast hC (pc := 30) dX8_exchange_30 hf (fun s8 hf => ?_)
  refine z_aload_n hC (pc := 31) dX8_exchange_31 rfl 2 rfl ?_
  refine z_getR hC (pc := 32) in_X8 zcX8 8 (Nat.le_of_ble_eq_true rfl) (zLk.o hC q2681) zsm dX8_exchange_32 hf (fun v9 hf => ?_)
  refine z_iload_n hC (pc := 35) dX8_exchange_35 rfl 1 rfl ?_
  refine z_iconst (v := 1) hC (pc := 36) dX8_exchange_36 zki_1 ?_
  refine z_iadd hC (pc := 37) dX8_exchange_37 ?_
  refine z_iload hC (pc := 38) dX8_exchange_38 0 rfl ?_
  refine z_iast hC (pc := 40) dX8_exchange_40 hf (fun s10 hf => ?_)
  exact z_return hC (pc := 41) hQ dX8_exchange_41 hf
/-! BlockingShopModel.isBetter(IIII)Z -/
def f_X8_isBetter (G : Nat → Nat) (l0 : Int32) (l1 : Int32) (l2 : Int32) (l3 : Int32) (s0 : zS) : Option (Int32 × zS) :=
if l0 = l2 then (if l3 ≤ l1 then (zrn .boolean 0 s0)
else (zrn .boolean 1 s0))
else (if l2 ≤ l0 then (zrn .boolean 0 s0)
else (zrn .boolean 1 s0))
set_option maxHeartbeats 4000000 in
theorem m_X8_isBetter (Γ : zG) (l0 : Int32) (l1 : Int32) (l2 : Int32) (l3 : Int32) (s0 s1 : zS) (r : Int32) (hf : f_X8_isBetter Γ.1 l0 l1 l2 l3 s0 = some (r, s1)) : ZM Γ yX8_isBetter (ws_ yX8_isBetter cX8_isBetter 4 (some .boolean)) 1 0 [zi l0, zi l1, zi l2, zi l3] s0 (.inl (some (zi r)), s1) := by
  refine ZM.of (own := RX8) (by decide) rfl (Nat.le_of_ble_eq_true rfl) ?_
  intro X hg hC hL hno hQ hin
  subst hg
  unfold f_X8_isBetter at hf
  refine z_iload_n hC (pc := 0) dX8_isBetter_0 rfl 0 rfl ?_
  refine z_iload_n hC (pc := 1) dX8_isBetter_1 rfl 2 rfl ?_
  refine z_icmp_eq hC (pc := 2) (tgt := 18) dX8_isBetter_2 rfl (fun c1 => ?_) (fun c1 => ?_)
  · have hf := zif_t hf c1
    refine z_iload_n hC (pc := 18) dX8_isBetter_18 rfl 1 rfl ?_
    refine z_iload_n hC (pc := 19) dX8_isBetter_19 rfl 3 rfl ?_
    refine z_icmp_ge hC (pc := 20) (tgt := 27) dX8_isBetter_20 rfl (fun c2 => ?_) (fun c2 => ?_)
    · have hf := zif_t hf c2
      refine z_iconst (v := 0) hC (pc := 27) dX8_isBetter_27 zki_0 ?_
      exact z_zreturn hC (pc := 28) hQ dX8_isBetter_28 hf
    · have hf := zif_f hf c2
      refine z_iconst (v := 1) hC (pc := 23) dX8_isBetter_23 zki_1 ?_
      refine z_goto hC (pc := 24) (tgt := 28) dX8_isBetter_24 rfl ?_
      exact z_zreturn hC (pc := 28) hQ dX8_isBetter_28 hf
  · have hf := zif_f hf c1
    refine z_iload_n hC (pc := 5) dX8_isBetter_5 rfl 0 rfl ?_
    refine z_iload_n hC (pc := 6) dX8_isBetter_6 rfl 2 rfl ?_
    refine z_icmp_ge hC (pc := 7) (tgt := 14) dX8_isBetter_7 rfl (fun c3 => ?_) (fun c3 => ?_)
    · have hf := zif_t hf c3
      refine z_iconst (v := 0) hC (pc := 14) dX8_isBetter_14 zki_0 ?_
      refine z_goto hC (pc := 15) (tgt := 28) dX8_isBetter_15 rfl ?_
      exact z_zreturn hC (pc := 28) hQ dX8_isBetter_28 hf
    · have hf := zif_f hf c3
      refine z_iconst (v := 1) hC (pc := 10) dX8_isBetter_10 zki_1 ?_
      refine z_goto hC (pc := 11) (tgt := 28) dX8_isBetter_11 rfl ?_
      exact z_zreturn hC (pc := 28) hQ dX8_isBetter_28 hf
/-! BlockingShopModel.isThere(I)Z -/
def f_X8_isThere (G : Nat → Nat) (l0 : Nat) (l1 : Int32) (s0 : zS) : Option (Int32 × zS) :=
zo (zgR s0 (some l0) 6 8) fun v1 =>
zo (zaI s0 v1 0 2) fun v2 =>
if v2 ≤ (l1 / 6) then (zrn .boolean 0 s0)
else (zo (zgR s0 (some l0) 6 8) fun v4 =>
zb (f_X8_job G (l1 / 6) s0) fun v5 s6 =>
zo (zaI s6 v4 0 (v5 + 3)) fun v7 =>
if v7 ≤ (l1 - l1 / 6 * 6) then (zrn .boolean 0 s6)
else (zrn .boolean 1 s6))
set_option maxHeartbeats 4000000 in
theorem m_X8_isThere (Γ : zG) (l0 : Nat) (l1 : Int32) (s0 s1 : zS) (r : Int32) (hf : f_X8_isThere Γ.1 l0 l1 s0 = some (r, s1)) : ZM Γ yX8_isThere (ws_ yX8_isThere cX8_isThere 2 (some .boolean)) 2 20 [zr (some l0), zi l1] s0 (.inl (some (zi r)), s1) := by
  refine ZM.of (own := RX8) (by decide) rfl (Nat.le_of_ble_eq_true rfl) ?_
  intro X hg hC hL hno hQ hin
  subst hg
  unfold f_X8_isThere at hf
  refine z_iload_n hC (pc := 0) dX8_isThere_0 rfl 1 rfl ?_
  refine z_bipush (v := 6) hC (pc := 1) dX8_isThere_1 zkb_6 ?_
  refine z_idiv hC (pc := 3) dX8_isThere_3 (by decide) ?_
  refine z_aload_n hC (pc := 4) dX8_isThere_4 rfl 0 rfl ?_
  refine z_getR hC (pc := 5) in_X8 zcX8 8 (Nat.le_of_ble_eq_true rfl) (zLk.o hC q2681) zsm dX8_isThere_5 hf (fun v1 hf => ?_)
  refine z_iconst (v := 2) hC (pc := 8) dX8_isThere_8 zki_2 ?_
  refine z_iald hC (pc := 9) dX8_isThere_9 hf (fun v2 hf => ?_)
  refine z_icmp_ge hC (pc := 10) (tgt := 38) dX8_isThere_10 rfl (fun c3 => ?_) (fun c3 => ?_)
  · have hf := zif_t hf c3
    refine z_iconst (v := 0) hC (pc := 38) dX8_isThere_38 zki_0 ?_
    exact z_zreturn hC (pc := 39) hQ dX8_isThere_39 hf
  · have hf := zif_f hf c3
    refine z_iload_n hC (pc := 13) dX8_isThere_13 rfl 1 rfl ?_
    refine z_bipush (v := 6) hC (pc := 14) dX8_isThere_14 zkb_6 ?_
    refine z_irem hC (pc := 16) dX8_isThere_16 (by decide) ?_
    refine z_aload_n hC (pc := 17) dX8_isThere_17 rfl 0 rfl ?_
    refine z_getR hC (pc := 18) in_X8 zcX8 8 (Nat.le_of_ble_eq_true rfl) (zLk.o hC q2681) zsm dX8_isThere_18 hf (fun v4 hf => ?_)
    refine z_iload_n hC (pc := 21) dX8_isThere_21 rfl 1 rfl ?_
    refine z_bipush (v := 6) hC (pc := 22) dX8_isThere_22 zkb_6 ?_
    refine z_idiv hC (pc := 24) dX8_isThere_24 (by decide) ?_
    refine z_cI (rest := [zr v4, zi (l1 - l1 / 6 * 6)]) hf (fun v5 s6 hcall => z_runS hC (pc := 25) 1 (m_X8_job X.g (l1 / 6) s0 s6 v5 hcall) (lw_S q2826 q2827 q108 q2828) hd_X8_job ⟨(Nat.le_of_ble_eq_true rfl), (Nat.le_of_ble_eq_true rfl)⟩ rfl (Nat.le_of_ble_eq_true rfl) dX8_isThere_25 rfl) (fun v5 s6 hf => ?_)
    refine z_iconst (v := 3) hC (pc := 28) dX8_isThere_28 zki_3 ?_
    refine z_iadd hC (pc := 29) dX8_isThere_29 ?_
    refine z_iald hC (pc := 30) dX8_isThere_30 hf (fun v7 hf => ?_)
    refine z_icmp_ge hC (pc := 31) (tgt := 38) dX8_isThere_31 rfl (fun c8 => ?_) (fun c8 => ?_)
    · have hf := zif_t hf c8
      refine z_iconst (v := 0) hC (pc := 38) dX8_isThere_38 zki_0 ?_
      exact z_zreturn hC (pc := 39) hQ dX8_isThere_39 hf
    · have hf := zif_f hf c8
      refine z_iconst (v := 1) hC (pc := 34) dX8_isThere_34 zki_1 ?_
      refine z_goto hC (pc := 35) (tgt := 39) dX8_isThere_35 rfl ?_
      exact z_zreturn hC (pc := 39) hQ dX8_isThere_39 hf
/-! BlockingShopModel.isLast(I)Z -/
def f_X8_isLast (G : Nat → Nat) (l0 : Nat) (l1 : Int32) (s0 : zS) : Option (Int32 × zS) :=
zo (zgR s0 (some l0) 6 8) fun v1 =>
zb (f_X8_job G (l1 / 6) s0) fun v2 s3 =>
zo (zaI s3 v1 0 (v2 + 3)) fun v4 =>
if (l1 - l1 / 6 * 6) = (v4 - 1) then (zrn .boolean 1 s3)
else (zrn .boolean 0 s3)
set_option maxHeartbeats 4000000 in
theorem m_X8_isLast (Γ : zG) (l0 : Nat) (l1 : Int32) (s0 s1 : zS) (r : Int32) (hf : f_X8_isLast Γ.1 l0 l1 s0 = some (r, s1)) : ZM Γ yX8_isLast (ws_ yX8_isLast cX8_isLast 2 (some .boolean)) 2 20 [zr (some l0), zi l1] s0 (.inl (some (zi r)), s1) := by
  refine ZM.of (own := RX8) (by decide) rfl (Nat.le_of_ble_eq_true rfl) ?_
  intro X hg hC hL hno hQ hin
  subst hg
  unfold f_X8_isLast at hf
  refine z_iload_n hC (pc := 0) dX8_isLast_0 rfl 1 rfl ?_
  refine z_bipush (v := 6) hC (pc := 1) dX8_isLast_1 zkb_6 ?_
  refine z_irem hC (pc := 3) dX8_isLast_3 (by decide) ?_
  refine z_aload_n hC (pc := 4) dX8_isLast_4 rfl 0 rfl ?_
  refine z_getR hC (pc := 5) in_X8 zcX8 8 (Nat.le_of_ble_eq_true rfl) (zLk.o hC q2681) zsm dX8_isLast_5 hf (fun v1 hf => ?_)
  refine z_iload_n hC (pc := 8) dX8_isLast_8 rfl 1 rfl ?_
  refine z_bipush (v := 6) hC (pc := 9) dX8_isLast_9 zkb_6 ?_
  refine z_idiv hC (pc := 11) dX8_isLast_11 (by decide) ?_
  refine z_cI (rest := [zr v1, zi (l1 - l1 / 6 * 6)]) hf (fun v2 s3 hcall => z_runS hC (pc := 12) 1 (m_X8_job X.g (l1 / 6) s0 s3 v2 hcall) (lw_S q2826 q2827 q108 q2828) hd_X8_job ⟨(Nat.le_of_ble_eq_true rfl), (Nat.le_of_ble_eq_true rfl)⟩ rfl (Nat.le_of_ble_eq_true rfl) dX8_isLast_12 rfl) (fun v2 s3 hf => ?_)
  refine z_iconst (v := 3) hC (pc := 15) dX8_isLast_15 zki_3 ?_
  refine z_iadd hC (pc := 16) dX8_isLast_16 ?_
  refine z_iald hC (pc := 17) dX8_isLast_17 hf (fun v4 hf => ?_)
  refine z_iconst (v := 1) hC (pc := 18) dX8_isLast_18 zki_1 ?_
  refine z_isub hC (pc := 19) dX8_isLast_19 ?_
  refine z_icmp_ne hC (pc := 20) (tgt := 27) dX8_isLast_20 rfl (fun c5 => ?_) (fun c5 => ?_)
  · have hf := zif_f hf c5
    refine z_iconst (v := 0) hC (pc := 27) dX8_isLast_27 zki_0 ?_
    exact z_zreturn hC (pc := 28) hQ dX8_isLast_28 hf
  · have hf := zif_t hf c5
    refine z_iconst (v := 1) hC (pc := 23) dX8_isLast_23 zki_1 ?_
    refine z_goto hC (pc := 24) (tgt := 28) dX8_isLast_24 rfl ?_
    exact z_zreturn hC (pc := 28) hQ dX8_isLast_28 hf
/-! BlockingShopModel.machineOf(I)I -/
def f_X8_machineOf (G : Nat → Nat) (l0 : Nat) (l1 : Int32) (s0 : zS) : Option (Int32 × zS) :=
zo (zgR s0 (some l0) 6 8) fun v1 =>
zb (f_X8_operationAt G l1 s0) fun v2 s3 =>
zo (zaI s3 v1 0 v2) fun v4 =>
some (v4, s3)
set_option maxHeartbeats 4000000 in
theorem m_X8_machineOf (Γ : zG) (l0 : Nat) (l1 : Int32) (s0 s1 : zS) (r : Int32) (hf : f_X8_machineOf Γ.1 l0 l1 s0 = some (r, s1)) : ZM Γ yX8_machineOf (ws_ yX8_machineOf cX8_machineOf 2 (some .int)) 2 20 [zr (some l0), zi l1] s0 (.inl (some (zi r)), s1) := by
  refine ZM.of (own := RX8) (by decide) rfl (Nat.le_of_ble_eq_true rfl) ?_
  intro X hg hC hL hno hQ hin
  subst hg
  unfold f_X8_machineOf at hf
  refine z_aload_n hC (pc := 0) dX8_machineOf_0 rfl 0 rfl ?_
  refine z_getR hC (pc := 1) in_X8 zcX8 8 (Nat.le_of_ble_eq_true rfl) (zLk.o hC q2681) zsm dX8_machineOf_1 hf (fun v1 hf => ?_)
  refine z_iload_n hC (pc := 4) dX8_machineOf_4 rfl 1 rfl ?_
  refine z_cI (rest := [zr v1]) hf (fun v2 s3 hcall => z_runS hC (pc := 5) 1 (m_X8_operationAt X.g l1 s0 s3 v2 hcall) (lw_S q2834 q2835 q108 q2836) hd_X8_operationAt ⟨(Nat.le_of_ble_eq_true rfl), (Nat.le_of_ble_eq_true rfl)⟩ rfl (Nat.le_of_ble_eq_true rfl) dX8_machineOf_5 rfl) (fun v2 s3 hf => ?_)
  refine z_iald hC (pc := 8) dX8_machineOf_8 hf (fun v4 hf => ?_)
  exact z_ireturn hC (pc := 9) hQ dX8_machineOf_9 hf
/-! BlockingShopModel.isBlocking(I)Z -/
def f_X8_isBlocking (G : Nat → Nat) (l0 : Nat) (l1 : Int32) (s0 : zS) : Option (Int32 × zS) :=
zo (zgR s0 (some l0) 6 8) fun v1 =>
zo (zrc s0 (some l0) 6) fun _ =>
zb (f_X8_machineOf G l0 l1 s0) fun v4 s5 =>
zb (f_X8_machine G v4 s5) fun v6 s7 =>
zo (zaI s7 v1 0 v6) fun v8 =>
if v8 = 0 then (zo (zrc s7 (some l0) 6) fun _ =>
zb (f_X8_isLast G l0 l1 s7) fun v12 s13 =>
if v12 = 0 then (zrn .boolean 1 s13)
else (zrn .boolean 0 s13))
else (zrn .boolean 0 s7)
set_option maxHeartbeats 4000000 in
theorem m_X8_isBlocking (Γ : zG) (l0 : Nat) (l1 : Int32) (s0 s1 : zS) (r : Int32) (hf : f_X8_isBlocking Γ.1 l0 l1 s0 = some (r, s1)) : ZM Γ yX8_isBlocking (ws_ yX8_isBlocking cX8_isBlocking 2 (some .boolean)) 3 41 [zr (some l0), zi l1] s0 (.inl (some (zi r)), s1) := by
  refine ZM.of (own := RX8) (by decide) rfl (Nat.le_of_ble_eq_true rfl) ?_
  intro X hg hC hL hno hQ hin
  subst hg
  unfold f_X8_isBlocking at hf
  refine z_aload_n hC (pc := 0) dX8_isBlocking_0 rfl 0 rfl ?_
  refine z_getR hC (pc := 1) in_X8 zcX8 8 (Nat.le_of_ble_eq_true rfl) (zLk.o hC q2681) zsm dX8_isBlocking_1 hf (fun v1 hf => ?_)
  refine z_aload_n hC (pc := 4) dX8_isBlocking_4 rfl 0 rfl ?_
  refine z_iload_n hC (pc := 5) dX8_isBlocking_5 rfl 1 rfl ?_
  obtain ⟨fs2, ha3, hf⟩ := z_rcN hf
  refine z_cI (rest := [zr v1]) hf (fun v4 s5 hcall => z_runV hC (pc := 6) zcX8 1 ha3 (m_X8_machineOf X.g l0 l1 s0 s5 v4 hcall) (lw_V q2913 q2915 qs70 q108 q2916) hdV_X8_machineOf ⟨(Nat.le_of_ble_eq_true rfl), (Nat.le_of_ble_eq_true rfl)⟩ rfl (Nat.le_of_ble_eq_true rfl) dX8_isBlocking_6 rfl) (fun v4 s5 hf => ?_)
  refine z_cI (rest := [zr v1]) hf (fun v6 s7 hcall => z_runS hC (pc := 9) 1 (m_X8_machine X.g v4 s5 s7 v6 hcall) (lw_S q2842 q2843 q108 q2844) hd_X8_machine ⟨(Nat.le_of_ble_eq_true rfl), (Nat.le_of_ble_eq_true rfl)⟩ rfl (Nat.le_of_ble_eq_true rfl) dX8_isBlocking_9 rfl) (fun v6 s7 hf => ?_)
  refine z_iald hC (pc := 12) dX8_isBlocking_12 hf (fun v8 hf => ?_)
  refine z_if_ne hC (pc := 13) (tgt := 28) dX8_isBlocking_13 rfl (fun c9 => ?_) (fun c9 => ?_)
  · have hf := zif_f hf c9
    refine z_iconst (v := 0) hC (pc := 28) dX8_isBlocking_28 zki_0 ?_
    exact z_zreturn hC (pc := 29) hQ dX8_isBlocking_29 hf
  · have hf := zif_t hf c9
    refine z_aload_n hC (pc := 16) dX8_isBlocking_16 rfl 0 rfl ?_
    refine z_iload_n hC (pc := 17) dX8_isBlocking_17 rfl 1 rfl ?_
    obtain ⟨fs10, ha11, hf⟩ := z_rcN hf
    refine z_cI (rest := []) hf (fun v12 s13 hcall => z_runV hC (pc := 18) zcX8 1 ha11 (m_X8_isLast X.g l0 l1 s7 s13 v12 hcall) (lw_V q2948 q2950 qs75 q108 q2951) hdV_X8_isLast ⟨(Nat.le_of_ble_eq_true rfl), (Nat.le_of_ble_eq_true rfl)⟩ rfl (Nat.le_of_ble_eq_true rfl) dX8_isBlocking_18 rfl) (fun v12 s13 hf => ?_)
    refine z_if_ne hC (pc := 21) (tgt := 28) dX8_isBlocking_21 rfl (fun c14 => ?_) (fun c14 => ?_)
    · have hf := zif_f hf c14
      refine z_iconst (v := 0) hC (pc := 28) dX8_isBlocking_28 zki_0 ?_
      exact z_zreturn hC (pc := 29) hQ dX8_isBlocking_29 hf
    · have hf := zif_t hf c14
      refine z_iconst (v := 1) hC (pc := 24) dX8_isBlocking_24 zki_1 ?_
      refine z_goto hC (pc := 25) (tgt := 29) dX8_isBlocking_25 rfl ?_
      exact z_zreturn hC (pc := 29) hQ dX8_isBlocking_29 hf
/-! BlockingShopModel.layArcs()V -/
def f_X8_layArcs_b136 (G : Nat → Nat) (k40 : Nat → Int32 → Int32 → Int32 → zS → Option (Unit × zS)) (l0 : Nat) (l1 : Int32) (l2 : Int32) (l3 : Int32) (t0 : Int32) (t1 : Int32) (t2 : Int32) (t3 : Option Nat) (s0 : zS) : Option (Unit × zS) :=
zo (zsI G s0 t3 0 t2 (t1 + t0)) fun s1 =>
k40 l0 l1 l2 (l3 + 1) s1
set_option maxHeartbeats 4000000 in
theorem w_X8_layArcs_b136 {X : zX} (hC : ZC X RX8 cX8_layArcs none 4 62) (hL : X.nL = 6) (hno : ∀ x ∈ X.c.exceptionTable.toList, False) {r : Unit} {sF : zS} (hQ : ZQ X (.inl none, sF)) (k40 : Nat → Int32 → Int32 → Int32 → zS → Option (Unit × zS)) (hk40 : ∀ (l0 : Nat) (l1 : Int32) (l2 : Int32) (l3 : Int32) (s0 : zS), k40 l0 l1 l2 l3 s0 = some (r, sF) → ZW X s0 40 [(0, zr (some l0)), (1, zi l1), (2, zi l2), (3, zi l3)] []) (l0 : Nat) (l1 : Int32) (l2 : Int32) (l3 : Int32) (t0 : Int32) (t1 : Int32) (t2 : Int32) (t3 : Option Nat) (s0 : zS) (hf : f_X8_layArcs_b136 X.g.1 k40 l0 l1 l2 l3 t0 t1 t2 t3 s0 = some (r, sF)) : ZW X s0 136 [(0, zr (some l0)), (1, zi l1), (2, zi l2), (3, zi l3)] [zi t0, zi t1, zi t2, zr t3] := by
  unfold f_X8_layArcs_b136 at hf
  refine z_iadd hC (pc := 136) dX8_layArcs_136 ?_
  refine z_iast hC (pc := 137) dX8_layArcs_137 hf (fun s1 hf => ?_)
  refine z_iinc (v := 1) (lv' := [(3, zi (l3 + 1)), (0, zr (some l0)), (1, zi l1), (2, zi l2)]) hC (pc := 138) hL dX8_layArcs_138 3 rfl zki_1 (Nat.le_of_ble_eq_true rfl) rfl ?_
  refine z_goto hC (pc := 141) (tgt := 40) dX8_layArcs_141 rfl ?_
  refine ZW.perm (lv' := [(0, zr (some l0)), (1, zi l1), (2, zi l2), (3, zi (l3 + 1))]) [1, 2, 3, 0] rfl ?_
  exact hk40 l0 l1 l2 (l3 + 1) s1 hf
def f_X8_layArcs_b102 (G : Nat → Nat) (k40 : Nat → Int32 → Int32 → Int32 → zS → Option (Unit × zS)) (l0 : Nat) (l1 : Int32) (l2 : Int32) (l3 : Int32) (l4 : Int32) (l5 : Int32) (t0 : Int32) (t1 : Int32) (t2 : Option Nat) (s0 : zS) : Option (Unit × zS) :=
zo (zsI G s0 t2 0 t1 t0) fun s1 =>
zo (zgR s1 (some l0) 6 17) fun v2 =>
zo (zgR s1 (some l0) 6 8) fun v3 =>
zo (zaI s1 v3 0 (l2 + 1)) fun v4 =>
zo (zrc s1 (some l0) 6) fun _ =>
zb (f_X8_isBlocking G l0 l4 s1) fun v7 s8 =>
if v7 = 0 then (zo (zrc s8 (some l0) 6) fun _ =>
zb (f_X8_durationOf G l0 l4 s8) fun v12 s13 =>
f_X8_layArcs_b136 G k40 l0 l1 l2 l3 v12 v4 l5 v2 s13)
else (f_X8_layArcs_b136 G k40 l0 l1 l2 l3 0 v4 l5 v2 s8)
set_option maxHeartbeats 4000000 in
theorem w_X8_layArcs_b102 {X : zX} (hC : ZC X RX8 cX8_layArcs none 4 62) (hL : X.nL = 6) (hno : ∀ x ∈ X.c.exceptionTable.toList, False) {r : Unit} {sF : zS} (hQ : ZQ X (.inl none, sF)) (k40 : Nat → Int32 → Int32 → Int32 → zS → Option (Unit × zS)) (hk40 : ∀ (l0 : Nat) (l1 : Int32) (l2 : Int32) (l3 : Int32) (s0 : zS), k40 l0 l1 l2 l3 s0 = some (r, sF) → ZW X s0 40 [(0, zr (some l0)), (1, zi l1), (2, zi l2), (3, zi l3)] []) (l0 : Nat) (l1 : Int32) (l2 : Int32) (l3 : Int32) (l4 : Int32) (l5 : Int32) (t0 : Int32) (t1 : Int32) (t2 : Option Nat) (s0 : zS) (hf : f_X8_layArcs_b102 X.g.1 k40 l0 l1 l2 l3 l4 l5 t0 t1 t2 s0 = some (r, sF)) : ZW X s0 102 [(0, zr (some l0)), (1, zi l1), (2, zi l2), (3, zi l3), (4, zi l4), (5, zi l5)] [zi t0, zi t1, zr t2] := by
  unfold f_X8_layArcs_b102 at hf
  refine z_iast hC (pc := 102) dX8_layArcs_102 hf (fun s1 hf => ?_)
  refine z_aload_n hC (pc := 103) dX8_layArcs_103 rfl 0 rfl ?_
  refine z_getR hC (pc := 104) in_X8 zcX8 17 (Nat.le_of_ble_eq_true rfl) (zLk.o hC q2690) zsm dX8_layArcs_104 hf (fun v2 hf => ?_)
  refine z_iload hC (pc := 107) dX8_layArcs_107 5 rfl ?_
  refine z_aload_n hC (pc := 109) dX8_layArcs_109 rfl 0 rfl ?_
  refine z_getR hC (pc := 110) in_X8 zcX8 8 (Nat.le_of_ble_eq_true rfl) (zLk.o hC q2681) zsm dX8_layArcs_110 hf (fun v3 hf => ?_)
  refine z_iload_n hC (pc := 113) dX8_layArcs_113 rfl 2 rfl ?_
  refine z_iconst (v := 1) hC (pc := 114) dX8_layArcs_114 zki_1 ?_
  refine z_iadd hC (pc := 115) dX8_layArcs_115 ?_
  refine z_iald hC (pc := 116) dX8_layArcs_116 hf (fun v4 hf => ?_)
  refine z_aload_n hC (pc := 117) dX8_layArcs_117 rfl 0 rfl ?_
  refine z_iload hC (pc := 118) dX8_layArcs_118 4 rfl ?_
  obtain ⟨fs5, ha6, hf⟩ := z_rcN hf
  refine z_cI (rest := [zi v4, zi l5, zr v2]) hf (fun v7 s8 hcall => z_runV hC (pc := 120) zcX8 1 ha6 (m_X8_isBlocking X.g l0 l4 s1 s8 v7 hcall) (lw_V q2944 q2946 qs74 q108 q2947) hdV_X8_isBlocking ⟨(Nat.le_of_ble_eq_true rfl), (Nat.le_of_ble_eq_true rfl)⟩ rfl (Nat.le_of_ble_eq_true rfl) dX8_layArcs_120 rfl) (fun v7 s8 hf => ?_)
  refine z_if_eq hC (pc := 123) (tgt := 130) dX8_layArcs_123 rfl (fun c9 => ?_) (fun c9 => ?_)
  · have hf := zif_t hf c9
    refine z_aload_n hC (pc := 130) dX8_layArcs_130 rfl 0 rfl ?_
    refine z_iload hC (pc := 131) dX8_layArcs_131 4 rfl ?_
    obtain ⟨fs10, ha11, hf⟩ := z_rcN hf
    refine z_cI (rest := [zi v4, zi l5, zr v2]) hf (fun v12 s13 hcall => z_runV hC (pc := 133) zcX8 1 ha11 (m_X8_durationOf X.g l0 l4 s8 s13 v12 hcall) (lw_V q2952 q2954 qs76 q108 q2955) hdV_X8_durationOf ⟨(Nat.le_of_ble_eq_true rfl), (Nat.le_of_ble_eq_true rfl)⟩ rfl (Nat.le_of_ble_eq_true rfl) dX8_layArcs_133 rfl) (fun v12 s13 hf => ?_)
    refine ZW.perm (lv' := [(0, zr (some l0)), (1, zi l1), (2, zi l2), (3, zi l3)]) [0, 1, 2, 3] rfl ?_
    exact w_X8_layArcs_b136 hC hL hno hQ k40 hk40 l0 l1 l2 l3 v12 v4 l5 v2 s13 hf
  · have hf := zif_f hf c9
    refine z_iconst (v := 0) hC (pc := 126) dX8_layArcs_126 zki_0 ?_
    refine z_goto hC (pc := 127) (tgt := 136) dX8_layArcs_127 rfl ?_
    refine ZW.perm (lv' := [(0, zr (some l0)), (1, zi l1), (2, zi l2), (3, zi l3)]) [0, 1, 2, 3] rfl ?_
    exact w_X8_layArcs_b136 hC hL hno hQ k40 hk40 l0 l1 l2 l3 0 v4 l5 v2 s8 hf
def f_X8_layArcs_b40 (G : Nat → Nat) (k23 : Nat → Int32 → zS → Option (Unit × zS)) (k40 : Nat → Int32 → Int32 → Int32 → zS → Option (Unit × zS)) (l0 : Nat) (l1 : Int32) (l2 : Int32) (l3 : Int32) (s0 : zS) : Option (Unit × zS) :=
zo (zgR s0 (some l0) 6 8) fun v1 =>
zo (zaI s0 v1 0 (l2 + 2)) fun v2 =>
if v2 ≤ l3 then (k23 l0 (l1 + 1) s0)
else (zo (zgR s0 (some l0) 6 8) fun v4 =>
zo (zaI s0 v4 0 (((l2 + 3) + l3) - 1)) fun v5 =>
zo (zgR s0 (some l0) 6 8) fun v6 =>
zo (zaI s0 v6 0 ((l2 + 3) + l3)) fun v7 =>
zo (zgR s0 (some l0) 6 16) fun v8 =>
zo (zrc s0 (some l0) 6) fun _ =>
zb (f_X8_isBlocking G l0 v5 s0) fun v11 s12 =>
if v11 = 0 then (f_X8_layArcs_b102 G k40 l0 l1 l2 l3 v5 v7 v5 v7 v8 s12)
else (f_X8_layArcs_b102 G k40 l0 l1 l2 l3 v5 v7 (v5 + 1) v7 v8 s12))
set_option maxHeartbeats 4000000 in
theorem w_X8_layArcs_b40 {X : zX} (hC : ZC X RX8 cX8_layArcs none 4 62) (hL : X.nL = 6) (hno : ∀ x ∈ X.c.exceptionTable.toList, False) {r : Unit} {sF : zS} (hQ : ZQ X (.inl none, sF)) (k23 : Nat → Int32 → zS → Option (Unit × zS)) (hk23 : ∀ (l0 : Nat) (l1 : Int32) (s0 : zS), k23 l0 l1 s0 = some (r, sF) → ZW X s0 23 [(0, zr (some l0)), (1, zi l1)] []) (k40 : Nat → Int32 → Int32 → Int32 → zS → Option (Unit × zS)) (hk40 : ∀ (l0 : Nat) (l1 : Int32) (l2 : Int32) (l3 : Int32) (s0 : zS), k40 l0 l1 l2 l3 s0 = some (r, sF) → ZW X s0 40 [(0, zr (some l0)), (1, zi l1), (2, zi l2), (3, zi l3)] []) (l0 : Nat) (l1 : Int32) (l2 : Int32) (l3 : Int32) (s0 : zS) (hf : f_X8_layArcs_b40 X.g.1 k23 k40 l0 l1 l2 l3 s0 = some (r, sF)) : ZW X s0 40 [(0, zr (some l0)), (1, zi l1), (2, zi l2), (3, zi l3)] [] := by
  unfold f_X8_layArcs_b40 at hf
  refine z_iload_n hC (pc := 40) dX8_layArcs_40 rfl 3 rfl ?_
  refine z_aload_n hC (pc := 41) dX8_layArcs_41 rfl 0 rfl ?_
  refine z_getR hC (pc := 42) in_X8 zcX8 8 (Nat.le_of_ble_eq_true rfl) (zLk.o hC q2681) zsm dX8_layArcs_42 hf (fun v1 hf => ?_)
  refine z_iload_n hC (pc := 45) dX8_layArcs_45 rfl 2 rfl ?_
  refine z_iconst (v := 2) hC (pc := 46) dX8_layArcs_46 zki_2 ?_
  refine z_iadd hC (pc := 47) dX8_layArcs_47 ?_
  refine z_iald hC (pc := 48) dX8_layArcs_48 hf (fun v2 hf => ?_)
  refine z_icmp_ge hC (pc := 49) (tgt := 144) dX8_layArcs_49 rfl (fun c3 => ?_) (fun c3 => ?_)
  · have hf := zif_t hf c3
    refine z_iinc (v := 1) (lv' := [(1, zi (l1 + 1)), (0, zr (some l0)), (2, zi l2), (3, zi l3)]) hC (pc := 144) hL dX8_layArcs_144 1 rfl zki_1 (Nat.le_of_ble_eq_true rfl) rfl ?_
    refine z_goto hC (pc := 147) (tgt := 23) dX8_layArcs_147 rfl ?_
    refine ZW.perm (lv' := [(0, zr (some l0)), (1, zi (l1 + 1))]) [1, 0] rfl ?_
    exact hk23 l0 (l1 + 1) s0 hf
  · have hf := zif_f hf c3
    refine z_aload_n hC (pc := 52) dX8_layArcs_52 rfl 0 rfl ?_
    refine z_getR hC (pc := 53) in_X8 zcX8 8 (Nat.le_of_ble_eq_true rfl) (zLk.o hC q2681) zsm dX8_layArcs_53 hf (fun v4 hf => ?_)
    refine z_iload_n hC (pc := 56) dX8_layArcs_56 rfl 2 rfl ?_
    refine z_iconst (v := 3) hC (pc := 57) dX8_layArcs_57 zki_3 ?_
    refine z_iadd hC (pc := 58) dX8_layArcs_58 ?_
    refine z_iload_n hC (pc := 59) dX8_layArcs_59 rfl 3 rfl ?_
    refine z_iadd hC (pc := 60) dX8_layArcs_60 ?_
    refine z_iconst (v := 1) hC (pc := 61) dX8_layArcs_61 zki_1 ?_
    refine z_isub hC (pc := 62) dX8_layArcs_62 ?_
    refine z_iald hC (pc := 63) dX8_layArcs_63 hf (fun v5 hf => ?_)
    refine z_istore (lv' := [(4, zi v5), (0, zr (some l0)), (1, zi l1), (2, zi l2), (3, zi l3)]) hC (pc := 64) hL dX8_layArcs_64 (Nat.le_of_ble_eq_true rfl) rfl ?_
    refine z_aload_n hC (pc := 66) dX8_layArcs_66 rfl 1 rfl ?_
    refine z_getR hC (pc := 67) in_X8 zcX8 8 (Nat.le_of_ble_eq_true rfl) (zLk.o hC q2681) zsm dX8_layArcs_67 hf (fun v6 hf => ?_)
    refine z_iload_n hC (pc := 70) dX8_layArcs_70 rfl 3 rfl ?_
    refine z_iconst (v := 3) hC (pc := 71) dX8_layArcs_71 zki_3 ?_
    refine z_iadd hC (pc := 72) dX8_layArcs_72 ?_
    refine z_iload_n hC (pc := 73) dX8_layArcs_73 rfl 4 rfl ?_
    refine z_iadd hC (pc := 74) dX8_layArcs_74 ?_
    refine z_iald hC (pc := 75) dX8_layArcs_75 hf (fun v7 hf => ?_)
    refine z_istore (lv' := [(5, zi v7), (4, zi v5), (0, zr (some l0)), (1, zi l1), (2, zi l2), (3, zi l3)]) hC (pc := 76) hL dX8_layArcs_76 (Nat.le_of_ble_eq_true rfl) rfl ?_
    refine z_aload_n hC (pc := 78) dX8_layArcs_78 rfl 2 rfl ?_
    refine z_getR hC (pc := 79) in_X8 zcX8 16 (Nat.le_of_ble_eq_true rfl) (zLk.o hC q2689) zsm dX8_layArcs_79 hf (fun v8 hf => ?_)
    refine z_iload hC (pc := 82) dX8_layArcs_82 0 rfl ?_
    refine z_aload_n hC (pc := 84) dX8_layArcs_84 rfl 2 rfl ?_
    refine z_iload hC (pc := 85) dX8_layArcs_85 1 rfl ?_
    obtain ⟨fs9, ha10, hf⟩ := z_rcN hf
    refine z_cI (rest := [zi v7, zr v8]) hf (fun v11 s12 hcall => z_runV hC (pc := 87) zcX8 1 ha10 (m_X8_isBlocking X.g l0 v5 s0 s12 v11 hcall) (lw_V q2944 q2946 qs74 q108 q2947) hdV_X8_isBlocking ⟨(Nat.le_of_ble_eq_true rfl), (Nat.le_of_ble_eq_true rfl)⟩ rfl (Nat.le_of_ble_eq_true rfl) dX8_layArcs_87 rfl) (fun v11 s12 hf => ?_)
    refine z_if_eq hC (pc := 90) (tgt := 100) dX8_layArcs_90 rfl (fun c13 => ?_) (fun c13 => ?_)
    · have hf := zif_t hf c13
      refine z_iload hC (pc := 100) dX8_layArcs_100 1 rfl ?_
      refine ZW.perm (lv' := [(0, zr (some l0)), (1, zi l1), (2, zi l2), (3, zi l3), (4, zi v5), (5, zi v7)]) [2, 3, 4, 5, 1, 0] rfl ?_
      exact w_X8_layArcs_b102 hC hL hno hQ k40 hk40 l0 l1 l2 l3 v5 v7 v5 v7 v8 s12 hf
    · have hf := zif_f hf c13
      refine z_iload hC (pc := 93) dX8_layArcs_93 1 rfl ?_
      refine z_iconst (v := 1) hC (pc := 95) dX8_layArcs_95 zki_1 ?_
      refine z_iadd hC (pc := 96) dX8_layArcs_96 ?_
      refine z_goto hC (pc := 97) (tgt := 102) dX8_layArcs_97 rfl ?_
      refine ZW.perm (lv' := [(0, zr (some l0)), (1, zi l1), (2, zi l2), (3, zi l3), (4, zi v5), (5, zi v7)]) [2, 3, 4, 5, 1, 0] rfl ?_
      exact w_X8_layArcs_b102 hC hL hno hQ k40 hk40 l0 l1 l2 l3 v5 v7 (v5 + 1) v7 v8 s12 hf
def f_X8_layArcs_l40 (G : Nat → Nat) (k23 : Nat → Int32 → zS → Option (Unit × zS)) : Nat → Nat → Int32 → Int32 → Int32 → zS → Option (Unit × zS)
  | 0 => fun _ _ _ _ _ => none
  | n + 1 => f_X8_layArcs_b40 G k23 (f_X8_layArcs_l40 G k23 n)
theorem w_X8_layArcs_l40 {X : zX} (hC : ZC X RX8 cX8_layArcs none 4 62) (hL : X.nL = 6) (hno : ∀ x ∈ X.c.exceptionTable.toList, False) {r : Unit} {sF : zS} (hQ : ZQ X (.inl none, sF)) (k23 : Nat → Int32 → zS → Option (Unit × zS)) (hk23 : ∀ (l0 : Nat) (l1 : Int32) (s0 : zS), k23 l0 l1 s0 = some (r, sF) → ZW X s0 23 [(0, zr (some l0)), (1, zi l1)] []) : ∀ (n : Nat) (l0 : Nat) (l1 : Int32) (l2 : Int32) (l3 : Int32) (s0 : zS) (_ : f_X8_layArcs_l40 X.g.1 k23 n l0 l1 l2 l3 s0 = some (r, sF)), ZW X s0 40 [(0, zr (some l0)), (1, zi l1), (2, zi l2), (3, zi l3)] [] := by
  intro n
  induction n with
  | zero => intro l0 l1 l2 l3 s0 hf; exact absurd (show (none : Option (Unit × zS)) = some (r, sF) from hf) (fun z => nomatch z)
  | succ n ih => intro l0 l1 l2 l3 s0 hf; exact w_X8_layArcs_b40 hC hL hno hQ k23 hk23 (f_X8_layArcs_l40 X.g.1 k23 n) ih l0 l1 l2 l3 s0 hf
def f_X8_layArcs_b23 (G : Nat → Nat) (k23 : Nat → Int32 → zS → Option (Unit × zS)) (l0 : Nat) (l1 : Int32) (s0 : zS) : Option (Unit × zS) :=
zo (zgR s0 (some l0) 6 8) fun v1 =>
zo (zaI s0 v1 0 0) fun v2 =>
if v2 ≤ l1 then (some ((), s0))
else (zb (f_X8_machine G l1 s0) fun v4 s5 =>
f_X8_layArcs_l40 G k23 2000 l0 l1 v4 1 s5)
set_option maxHeartbeats 4000000 in
theorem w_X8_layArcs_b23 {X : zX} (hC : ZC X RX8 cX8_layArcs none 4 62) (hL : X.nL = 6) (hno : ∀ x ∈ X.c.exceptionTable.toList, False) {r : Unit} {sF : zS} (hQ : ZQ X (.inl none, sF)) (k23 : Nat → Int32 → zS → Option (Unit × zS)) (hk23 : ∀ (l0 : Nat) (l1 : Int32) (s0 : zS), k23 l0 l1 s0 = some (r, sF) → ZW X s0 23 [(0, zr (some l0)), (1, zi l1)] []) (l0 : Nat) (l1 : Int32) (s0 : zS) (hf : f_X8_layArcs_b23 X.g.1 k23 l0 l1 s0 = some (r, sF)) : ZW X s0 23 [(0, zr (some l0)), (1, zi l1)] [] := by
  unfold f_X8_layArcs_b23 at hf
  refine z_iload_n hC (pc := 23) dX8_layArcs_23 rfl 1 rfl ?_
  refine z_aload_n hC (pc := 24) dX8_layArcs_24 rfl 0 rfl ?_
  refine z_getR hC (pc := 25) in_X8 zcX8 8 (Nat.le_of_ble_eq_true rfl) (zLk.o hC q2681) zsm dX8_layArcs_25 hf (fun v1 hf => ?_)
  refine z_iconst (v := 0) hC (pc := 28) dX8_layArcs_28 zki_0 ?_
  refine z_iald hC (pc := 29) dX8_layArcs_29 hf (fun v2 hf => ?_)
  refine z_icmp_ge hC (pc := 30) (tgt := 150) dX8_layArcs_30 rfl (fun c3 => ?_) (fun c3 => ?_)
  · have hf := zif_t hf c3
    exact z_return hC (pc := 150) hQ dX8_layArcs_150 hf
  · have hf := zif_f hf c3
    refine z_iload_n hC (pc := 33) dX8_layArcs_33 rfl 1 rfl ?_
    refine z_cI (rest := []) hf (fun v4 s5 hcall => z_runS hC (pc := 34) 1 (m_X8_machine X.g l1 s0 s5 v4 hcall) (lw_S q2842 q2843 q108 q2844) hd_X8_machine ⟨(Nat.le_of_ble_eq_true rfl), (Nat.le_of_ble_eq_true rfl)⟩ rfl (Nat.le_of_ble_eq_true rfl) dX8_layArcs_34 rfl) (fun v4 s5 hf => ?_)
    refine z_istore_n (lv' := [(2, zi v4), (0, zr (some l0)), (1, zi l1)]) hC (pc := 37) hL dX8_layArcs_37 rfl (Nat.le_of_ble_eq_true rfl) rfl ?_
    refine z_iconst (v := 1) hC (pc := 38) dX8_layArcs_38 zki_1 ?_
    refine z_istore_n (lv' := [(3, zi 1), (2, zi v4), (0, zr (some l0)), (1, zi l1)]) hC (pc := 39) hL dX8_layArcs_39 rfl (Nat.le_of_ble_eq_true rfl) rfl ?_
    refine ZW.perm (lv' := [(0, zr (some l0)), (1, zi l1), (2, zi v4), (3, zi 1)]) [2, 3, 1, 0] rfl ?_
    exact w_X8_layArcs_l40 hC hL hno hQ k23 hk23 2000 l0 l1 v4 1 s5 hf
def f_X8_layArcs_l23 (G : Nat → Nat) : Nat → Nat → Int32 → zS → Option (Unit × zS)
  | 0 => fun _ _ _ => none
  | n + 1 => f_X8_layArcs_b23 G (f_X8_layArcs_l23 G n)
theorem w_X8_layArcs_l23 {X : zX} (hC : ZC X RX8 cX8_layArcs none 4 62) (hL : X.nL = 6) (hno : ∀ x ∈ X.c.exceptionTable.toList, False) {r : Unit} {sF : zS} (hQ : ZQ X (.inl none, sF)) : ∀ (n : Nat) (l0 : Nat) (l1 : Int32) (s0 : zS) (_ : f_X8_layArcs_l23 X.g.1 n l0 l1 s0 = some (r, sF)), ZW X s0 23 [(0, zr (some l0)), (1, zi l1)] [] := by
  intro n
  induction n with
  | zero => intro l0 l1 s0 hf; exact absurd (show (none : Option (Unit × zS)) = some (r, sF) from hf) (fun z => nomatch z)
  | succ n ih => intro l0 l1 s0 hf; exact w_X8_layArcs_b23 hC hL hno hQ (f_X8_layArcs_l23 X.g.1 n) ih l0 l1 s0 hf
def f_X8_layArcs_b2 (G : Nat → Nat) (k2 : Nat → Int32 → zS → Option (Unit × zS)) (l0 : Nat) (l1 : Int32) (s0 : zS) : Option (Unit × zS) :=
if 36 ≤ l1 then (f_X8_layArcs_l23 G 2000 l0 0 s0)
else (zo (zgR s0 (some l0) 6 16) fun v2 =>
zo (zsI G s0 v2 0 l1 (-1)) fun s3 =>
k2 l0 (l1 + 1) s3)
set_option maxHeartbeats 4000000 in
theorem w_X8_layArcs_b2 {X : zX} (hC : ZC X RX8 cX8_layArcs none 4 62) (hL : X.nL = 6) (hno : ∀ x ∈ X.c.exceptionTable.toList, False) {r : Unit} {sF : zS} (hQ : ZQ X (.inl none, sF)) (k2 : Nat → Int32 → zS → Option (Unit × zS)) (hk2 : ∀ (l0 : Nat) (l1 : Int32) (s0 : zS), k2 l0 l1 s0 = some (r, sF) → ZW X s0 2 [(0, zr (some l0)), (1, zi l1)] []) (l0 : Nat) (l1 : Int32) (s0 : zS) (hf : f_X8_layArcs_b2 X.g.1 k2 l0 l1 s0 = some (r, sF)) : ZW X s0 2 [(0, zr (some l0)), (1, zi l1)] [] := by
  unfold f_X8_layArcs_b2 at hf
  refine z_iload_n hC (pc := 2) dX8_layArcs_2 rfl 1 rfl ?_
  refine z_bipush (v := 36) hC (pc := 3) dX8_layArcs_3 zkb_36 ?_
  refine z_icmp_ge hC (pc := 5) (tgt := 21) dX8_layArcs_5 rfl (fun c1 => ?_) (fun c1 => ?_)
  · have hf := zif_t hf c1
    refine z_iconst (v := 0) hC (pc := 21) dX8_layArcs_21 zki_0 ?_
    refine z_istore_n (lv' := [(1, zi 0), (0, zr (some l0))]) hC (pc := 22) hL dX8_layArcs_22 rfl (Nat.le_of_ble_eq_true rfl) rfl ?_
    refine ZW.perm (lv' := [(0, zr (some l0)), (1, zi 0)]) [1, 0] rfl ?_
    exact w_X8_layArcs_l23 hC hL hno hQ 2000 l0 0 s0 hf
  · have hf := zif_f hf c1
    refine z_aload_n hC (pc := 8) dX8_layArcs_8 rfl 0 rfl ?_
    refine z_getR hC (pc := 9) in_X8 zcX8 16 (Nat.le_of_ble_eq_true rfl) (zLk.o hC q2689) zsm dX8_layArcs_9 hf (fun v2 hf => ?_)
    refine z_iload_n hC (pc := 12) dX8_layArcs_12 rfl 1 rfl ?_
    refine z_iconst (v := (-1)) hC (pc := 13) dX8_layArcs_13 zki_m1 ?_
    refine z_iast hC (pc := 14) dX8_layArcs_14 hf (fun s3 hf => ?_)
    refine z_iinc (v := 1) (lv' := [(1, zi (l1 + 1)), (0, zr (some l0))]) hC (pc := 15) hL dX8_layArcs_15 1 rfl zki_1 (Nat.le_of_ble_eq_true rfl) rfl ?_
    refine z_goto hC (pc := 18) (tgt := 2) dX8_layArcs_18 rfl ?_
    refine ZW.perm (lv' := [(0, zr (some l0)), (1, zi (l1 + 1))]) [1, 0] rfl ?_
    exact hk2 l0 (l1 + 1) s3 hf
def f_X8_layArcs_l2 (G : Nat → Nat) : Nat → Nat → Int32 → zS → Option (Unit × zS)
  | 0 => fun _ _ _ => none
  | n + 1 => f_X8_layArcs_b2 G (f_X8_layArcs_l2 G n)
theorem w_X8_layArcs_l2 {X : zX} (hC : ZC X RX8 cX8_layArcs none 4 62) (hL : X.nL = 6) (hno : ∀ x ∈ X.c.exceptionTable.toList, False) {r : Unit} {sF : zS} (hQ : ZQ X (.inl none, sF)) : ∀ (n : Nat) (l0 : Nat) (l1 : Int32) (s0 : zS) (_ : f_X8_layArcs_l2 X.g.1 n l0 l1 s0 = some (r, sF)), ZW X s0 2 [(0, zr (some l0)), (1, zi l1)] [] := by
  intro n
  induction n with
  | zero => intro l0 l1 s0 hf; exact absurd (show (none : Option (Unit × zS)) = some (r, sF) from hf) (fun z => nomatch z)
  | succ n ih => intro l0 l1 s0 hf; exact w_X8_layArcs_b2 hC hL hno hQ (f_X8_layArcs_l2 X.g.1 n) ih l0 l1 s0 hf
def f_X8_layArcs (G : Nat → Nat) (l0 : Nat) (s0 : zS) : Option (Unit × zS) :=
f_X8_layArcs_l2 G 2000 l0 0 s0
set_option maxHeartbeats 4000000 in
theorem m_X8_layArcs (Γ : zG) (l0 : Nat) (s0 s1 : zS) (r : Unit) (hf : f_X8_layArcs Γ.1 l0 s0 = some (r, s1)) : ZM Γ yX8_layArcs (ws_ yX8_layArcs cX8_layArcs 6 none) 4 62 [zr (some l0)] s0 (.inl none, s1) := by
  refine ZM.of (own := RX8) (by decide) rfl (Nat.le_of_ble_eq_true rfl) ?_
  intro X hg hC hL hno hQ hin
  subst hg
  unfold f_X8_layArcs at hf
  refine z_iconst (v := 0) hC (pc := 0) dX8_layArcs_0 zki_0 ?_
  refine z_istore_n (lv' := [(1, zi 0), (0, zr (some l0))]) hC (pc := 1) hL dX8_layArcs_1 rfl (Nat.le_of_ble_eq_true rfl) rfl ?_
  refine ZW.perm (lv' := [(0, zr (some l0)), (1, zi 0)]) [1, 0] rfl ?_
  exact w_X8_layArcs_l2 hC hL hno hQ 2000 l0 0 s0 hf
/-! BlockingShopModel.max(II)I -/
def f_X8_max (G : Nat → Nat) (l0 : Int32) (l1 : Int32) (s0 : zS) : Option (Int32 × zS) :=
if l0 ≤ l1 then (some (l1, s0))
else (some (l0, s0))
set_option maxHeartbeats 4000000 in
theorem m_X8_max (Γ : zG) (l0 : Int32) (l1 : Int32) (s0 s1 : zS) (r : Int32) (hf : f_X8_max Γ.1 l0 l1 s0 = some (r, s1)) : ZM Γ yX8_max (ws_ yX8_max cX8_max 2 (some .int)) 1 0 [zi l0, zi l1] s0 (.inl (some (zi r)), s1) := by
  refine ZM.of (own := RX8) (by decide) rfl (Nat.le_of_ble_eq_true rfl) ?_
  intro X hg hC hL hno hQ hin
  subst hg
  unfold f_X8_max at hf
  refine z_iload_n hC (pc := 0) dX8_max_0 rfl 0 rfl ?_
  refine z_iload_n hC (pc := 1) dX8_max_1 rfl 1 rfl ?_
  refine z_icmp_le hC (pc := 2) (tgt := 9) dX8_max_2 rfl (fun c1 => ?_) (fun c1 => ?_)
  · have hf := zif_t hf c1
    refine z_iload_n hC (pc := 9) dX8_max_9 rfl 1 rfl ?_
    exact z_ireturn hC (pc := 10) hQ dX8_max_10 hf
  · have hf := zif_f hf c1
    refine z_iload_n hC (pc := 5) dX8_max_5 rfl 0 rfl ?_
    refine z_goto hC (pc := 6) (tgt := 10) dX8_max_6 rfl ?_
    exact z_ireturn hC (pc := 10) hQ dX8_max_10 hf
/-! BlockingShopModel.raises(I)Z -/
def f_X8_raises_b72 (G : Nat → Nat) (l0 : Nat) (l1 : Int32) (l2 : Int32) (s0 : zS) : Option (Int32 × zS) :=
zo (zgR s0 (some l0) 6 18) fun v1 =>
zo (zaI s0 v1 0 l1) fun v2 =>
if v2 < l2 then (zo (zgR s0 (some l0) 6 18) fun v4 =>
zo (zsI G s0 v4 0 l1 l2) fun s5 =>
zrn .boolean 1 s5)
else (zrn .boolean 0 s0)
set_option maxHeartbeats 4000000 in
theorem w_X8_raises_b72 {X : zX} (hC : ZC X RX8 cX8_raises (some .boolean) 3 41) (hL : X.nL = 3) (hno : ∀ x ∈ X.c.exceptionTable.toList, False) {r : Int32} {sF : zS} (hQ : ZQ X (.inl (some (zi r)), sF)) (l0 : Nat) (l1 : Int32) (l2 : Int32) (s0 : zS) (hf : f_X8_raises_b72 X.g.1 l0 l1 l2 s0 = some (r, sF)) : ZW X s0 72 [(0, zr (some l0)), (1, zi l1), (2, zi l2)] [] := by
  unfold f_X8_raises_b72 at hf
  refine z_iload_n hC (pc := 72) dX8_raises_72 rfl 2 rfl ?_
  refine z_aload_n hC (pc := 73) dX8_raises_73 rfl 0 rfl ?_
  refine z_getR hC (pc := 74) in_X8 zcX8 18 (Nat.le_of_ble_eq_true rfl) (zLk.o hC q2691) zsm dX8_raises_74 hf (fun v1 hf => ?_)
  refine z_iload_n hC (pc := 77) dX8_raises_77 rfl 1 rfl ?_
  refine z_iald hC (pc := 78) dX8_raises_78 hf (fun v2 hf => ?_)
  refine z_icmp_gt hC (pc := 79) (tgt := 84) dX8_raises_79 rfl (fun c3 => ?_) (fun c3 => ?_)
  · have hf := zif_t hf c3
    refine z_aload_n hC (pc := 84) dX8_raises_84 rfl 0 rfl ?_
    refine z_getR hC (pc := 85) in_X8 zcX8 18 (Nat.le_of_ble_eq_true rfl) (zLk.o hC q2691) zsm dX8_raises_85 hf (fun v4 hf => ?_)
    refine z_iload_n hC (pc := 88) dX8_raises_88 rfl 1 rfl ?_
    refine z_iload_n hC (pc := 89) dX8_raises_89 rfl 2 rfl ?_
    refine z_iast hC (pc := 90) dX8_raises_90 hf (fun s5 hf => ?_)
    refine z_iconst (v := 1) hC (pc := 91) dX8_raises_91 zki_1 ?_
    exact z_zreturn hC (pc := 92) hQ dX8_raises_92 hf
  · have hf := zif_f hf c3
    refine z_iconst (v := 0) hC (pc := 82) dX8_raises_82 zki_0 ?_
    exact z_zreturn hC (pc := 83) hQ dX8_raises_83 hf
def f_X8_raises_b38 (G : Nat → Nat) (l0 : Nat) (l1 : Int32) (t0 : Int32) (s0 : zS) : Option (Int32 × zS) :=
zo (zgR s0 (some l0) 6 16) fun v1 =>
zo (zaI s0 v1 0 l1) fun v2 =>
if v2 = (-1) then (f_X8_raises_b72 G l0 l1 t0 s0)
else (zo (zgR s0 (some l0) 6 18) fun v4 =>
zo (zgR s0 (some l0) 6 16) fun v5 =>
zo (zaI s0 v5 0 l1) fun v6 =>
zo (zaI s0 v4 0 v6) fun v7 =>
zo (zgR s0 (some l0) 6 17) fun v8 =>
zo (zaI s0 v8 0 l1) fun v9 =>
zb (f_X8_max G t0 (v7 + v9) s0) fun v10 s11 =>
f_X8_raises_b72 G l0 l1 v10 s11)
set_option maxHeartbeats 4000000 in
theorem w_X8_raises_b38 {X : zX} (hC : ZC X RX8 cX8_raises (some .boolean) 3 41) (hL : X.nL = 3) (hno : ∀ x ∈ X.c.exceptionTable.toList, False) {r : Int32} {sF : zS} (hQ : ZQ X (.inl (some (zi r)), sF)) (l0 : Nat) (l1 : Int32) (t0 : Int32) (s0 : zS) (hf : f_X8_raises_b38 X.g.1 l0 l1 t0 s0 = some (r, sF)) : ZW X s0 38 [(0, zr (some l0)), (1, zi l1)] [zi t0] := by
  unfold f_X8_raises_b38 at hf
  refine z_istore_n (lv' := [(2, zi t0), (0, zr (some l0)), (1, zi l1)]) hC (pc := 38) hL dX8_raises_38 rfl (Nat.le_of_ble_eq_true rfl) rfl ?_
  refine z_aload_n hC (pc := 39) dX8_raises_39 rfl 1 rfl ?_
  refine z_getR hC (pc := 40) in_X8 zcX8 16 (Nat.le_of_ble_eq_true rfl) (zLk.o hC q2689) zsm dX8_raises_40 hf (fun v1 hf => ?_)
  refine z_iload_n hC (pc := 43) dX8_raises_43 rfl 2 rfl ?_
  refine z_iald hC (pc := 44) dX8_raises_44 hf (fun v2 hf => ?_)
  refine z_iconst (v := (-1)) hC (pc := 45) dX8_raises_45 zki_m1 ?_
  refine z_icmp_eq hC (pc := 46) (tgt := 72) dX8_raises_46 rfl (fun c3 => ?_) (fun c3 => ?_)
  · have hf := zif_t hf c3
    refine ZW.perm (lv' := [(0, zr (some l0)), (1, zi l1), (2, zi t0)]) [1, 2, 0] rfl ?_
    exact w_X8_raises_b72 hC hL hno hQ l0 l1 t0 s0 hf
  · have hf := zif_f hf c3
    refine z_iload_n hC (pc := 49) dX8_raises_49 rfl 0 rfl ?_
    refine z_aload_n hC (pc := 50) dX8_raises_50 rfl 1 rfl ?_
    refine z_getR hC (pc := 51) in_X8 zcX8 18 (Nat.le_of_ble_eq_true rfl) (zLk.o hC q2691) zsm dX8_raises_51 hf (fun v4 hf => ?_)
    refine z_aload_n hC (pc := 54) dX8_raises_54 rfl 1 rfl ?_
    refine z_getR hC (pc := 55) in_X8 zcX8 16 (Nat.le_of_ble_eq_true rfl) (zLk.o hC q2689) zsm dX8_raises_55 hf (fun v5 hf => ?_)
    refine z_iload_n hC (pc := 58) dX8_raises_58 rfl 2 rfl ?_
    refine z_iald hC (pc := 59) dX8_raises_59 hf (fun v6 hf => ?_)
    refine z_iald hC (pc := 60) dX8_raises_60 hf (fun v7 hf => ?_)
    refine z_aload_n hC (pc := 61) dX8_raises_61 rfl 1 rfl ?_
    refine z_getR hC (pc := 62) in_X8 zcX8 17 (Nat.le_of_ble_eq_true rfl) (zLk.o hC q2690) zsm dX8_raises_62 hf (fun v8 hf => ?_)
    refine z_iload_n hC (pc := 65) dX8_raises_65 rfl 2 rfl ?_
    refine z_iald hC (pc := 66) dX8_raises_66 hf (fun v9 hf => ?_)
    refine z_iadd hC (pc := 67) dX8_raises_67 ?_
    refine z_cI (rest := []) hf (fun v10 s11 hcall => z_runS hC (pc := 68) 2 (m_X8_max X.g t0 (v7 + v9) s0 s11 v10 hcall) (lw_S q2964 q2965 q108 q2966) hd_X8_max ⟨(Nat.le_of_ble_eq_true rfl), (Nat.le_of_ble_eq_true rfl)⟩ rfl (Nat.le_of_ble_eq_true rfl) dX8_raises_68 rfl) (fun v10 s11 hf => ?_)
    refine z_istore_n (lv' := [(2, zi v10), (0, zr (some l0)), (1, zi l1)]) hC (pc := 71) hL dX8_raises_71 rfl (Nat.le_of_ble_eq_true rfl) rfl ?_
    refine ZW.perm (lv' := [(0, zr (some l0)), (1, zi l1), (2, zi v10)]) [1, 2, 0] rfl ?_
    exact w_X8_raises_b72 hC hL hno hQ l0 l1 v10 s11 hf
def f_X8_raises (G : Nat → Nat) (l0 : Nat) (l1 : Int32) (s0 : zS) : Option (Int32 × zS) :=
if (l1 - l1 / 6 * 6) = 0 then (zo (zgR s0 (some l0) 6 8) fun v8 =>
zb (f_X8_job G (l1 / 6) s0) fun v9 s10 =>
zo (zaI s10 v8 0 v9) fun v11 =>
f_X8_raises_b38 G l0 l1 v11 s10)
else (zo (zgR s0 (some l0) 6 18) fun v2 =>
zo (zaI s0 v2 0 (l1 - 1)) fun v3 =>
zo (zrc s0 (some l0) 6) fun _ =>
zb (f_X8_durationOf G l0 (l1 - 1) s0) fun v6 s7 =>
f_X8_raises_b38 G l0 l1 (v3 + v6) s7)
set_option maxHeartbeats 4000000 in
theorem m_X8_raises (Γ : zG) (l0 : Nat) (l1 : Int32) (s0 s1 : zS) (r : Int32) (hf : f_X8_raises Γ.1 l0 l1 s0 = some (r, s1)) : ZM Γ yX8_raises (ws_ yX8_raises cX8_raises 3 (some .boolean)) 3 41 [zr (some l0), zi l1] s0 (.inl (some (zi r)), s1) := by
  refine ZM.of (own := RX8) (by decide) rfl (Nat.le_of_ble_eq_true rfl) ?_
  intro X hg hC hL hno hQ hin
  subst hg
  unfold f_X8_raises at hf
  refine z_iload_n hC (pc := 0) dX8_raises_0 rfl 1 rfl ?_
  refine z_bipush (v := 6) hC (pc := 1) dX8_raises_1 zkb_6 ?_
  refine z_irem hC (pc := 3) dX8_raises_3 (by decide) ?_
  refine z_if_ne hC (pc := 4) (tgt := 22) dX8_raises_4 rfl (fun c1 => ?_) (fun c1 => ?_)
  · have hf := zif_f hf c1
    refine z_aload_n hC (pc := 22) dX8_raises_22 rfl 0 rfl ?_
    refine z_getR hC (pc := 23) in_X8 zcX8 18 (Nat.le_of_ble_eq_true rfl) (zLk.o hC q2691) zsm dX8_raises_23 hf (fun v2 hf => ?_)
    refine z_iload_n hC (pc := 26) dX8_raises_26 rfl 1 rfl ?_
    refine z_iconst (v := 1) hC (pc := 27) dX8_raises_27 zki_1 ?_
    refine z_isub hC (pc := 28) dX8_raises_28 ?_
    refine z_iald hC (pc := 29) dX8_raises_29 hf (fun v3 hf => ?_)
    refine z_aload_n hC (pc := 30) dX8_raises_30 rfl 0 rfl ?_
    refine z_iload_n hC (pc := 31) dX8_raises_31 rfl 1 rfl ?_
    refine z_iconst (v := 1) hC (pc := 32) dX8_raises_32 zki_1 ?_
    refine z_isub hC (pc := 33) dX8_raises_33 ?_
    obtain ⟨fs4, ha5, hf⟩ := z_rcN hf
    refine z_cI (rest := [zi v3]) hf (fun v6 s7 hcall => z_runV hC (pc := 34) zcX8 1 ha5 (m_X8_durationOf X.g l0 (l1 - 1) s0 s7 v6 hcall) (lw_V q2952 q2954 qs76 q108 q2955) hdV_X8_durationOf ⟨(Nat.le_of_ble_eq_true rfl), (Nat.le_of_ble_eq_true rfl)⟩ rfl (Nat.le_of_ble_eq_true rfl) dX8_raises_34 rfl) (fun v6 s7 hf => ?_)
    refine z_iadd hC (pc := 37) dX8_raises_37 ?_
    exact w_X8_raises_b38 hC hL hno hQ l0 l1 (v3 + v6) s7 hf
  · have hf := zif_t hf c1
    refine z_aload_n hC (pc := 7) dX8_raises_7 rfl 0 rfl ?_
    refine z_getR hC (pc := 8) in_X8 zcX8 8 (Nat.le_of_ble_eq_true rfl) (zLk.o hC q2681) zsm dX8_raises_8 hf (fun v8 hf => ?_)
    refine z_iload_n hC (pc := 11) dX8_raises_11 rfl 1 rfl ?_
    refine z_bipush (v := 6) hC (pc := 12) dX8_raises_12 zkb_6 ?_
    refine z_idiv hC (pc := 14) dX8_raises_14 (by decide) ?_
    refine z_cI (rest := [zr v8]) hf (fun v9 s10 hcall => z_runS hC (pc := 15) 1 (m_X8_job X.g (l1 / 6) s0 s10 v9 hcall) (lw_S q2826 q2827 q108 q2828) hd_X8_job ⟨(Nat.le_of_ble_eq_true rfl), (Nat.le_of_ble_eq_true rfl)⟩ rfl (Nat.le_of_ble_eq_true rfl) dX8_raises_15 rfl) (fun v9 s10 hf => ?_)
    refine z_iald hC (pc := 18) dX8_raises_18 hf (fun v11 hf => ?_)
    refine z_goto hC (pc := 19) (tgt := 38) dX8_raises_19 rfl ?_
    exact w_X8_raises_b38 hC hL hno hQ l0 l1 v11 s10 hf
