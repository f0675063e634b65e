set_option maxRecDepth 100000
/-! BlockingShop$Parser.sum()LBlockingShop$Node; -/
def f_X9_sum_b23 (G : Nat → Nat) (kS : Nat → zS → Option ((Option Nat ⊕ (Nat × Nat)) × zS)) (k5 : Nat → Option Nat → zS → Option ((Option Nat ⊕ (Nat × Nat)) × zS)) (l0 : Nat) (l1 : Option Nat) (s0 : zS) : Option ((Option Nat ⊕ (Nat × Nat)) × zS) :=
zo (zgR s0 (some l0) 7 7) fun v1 =>
zo (zgR s0 v1 0 0) fun v2 =>
zo (zgI s0 (some l0) 7 3) fun v3 =>
zo (zaI s0 v2 2 v3) fun v4 =>
zo (zgI s0 (some l0) 7 3) fun v5 =>
zo (zput G s0 (some l0) 7 3 (.int (v5 + 1))) fun s6 =>
zb (znewO G s6 11 3 [.int 0, .null, .null]) fun a7 s8 =>
zo (zrc s8 (some l0) 7) fun _ =>
zx (f_X9_term G kS l0 s8) (fun e s => some (.inr e, s)) fun v11 s12 =>
zb (f_X13_init G a7 v4 l1 v11 s12) fun _ s14 =>
k5 l0 (some a7) s14
set_option maxHeartbeats 4000000 in
theorem w_X9_sum_b23 {X : zX} (kS : Nat → zS → Option ((Option Nat ⊕ (Nat × Nat)) × zS)) (frK loK : Nat) (hkS : ∀ (l0 : Nat) (s0 s1 : zS) (v : (Option Nat ⊕ (Nat × Nat))), kS l0 s0 = some (v, s1) → ZM X.g yX9_sum (ws_ yX9_sum cX9_sum 3 (some (.object "BlockingShop$Node"))) frK loK [zr (some l0)] s0 (zoR v, s1)) (hC : ZC X RX9 cX9_sum (some (.object "BlockingShop$Node")) (frK + 10) (loK + 236)) (hL : X.nL = 3) (hno : ∀ x ∈ X.c.exceptionTable.toList, False) {r : (Option Nat ⊕ (Nat × Nat))} {sF : zS} (hQ : ZQ X (zoR r, sF)) (k5 : Nat → Option Nat → zS → Option ((Option Nat ⊕ (Nat × Nat)) × zS)) (hk5 : ∀ (l0 : Nat) (l1 : Option Nat) (s0 : zS), k5 l0 l1 s0 = some (r, sF) → ZW X s0 5 [(0, zr (some l0)), (1, zr l1)] []) (l0 : Nat) (l1 : Option Nat) (s0 : zS) (hf : f_X9_sum_b23 X.g.1 kS k5 l0 l1 s0 = some (r, sF)) : ZW X s0 23 [(0, zr (some l0)), (1, zr l1)] [] := by
  unfold f_X9_sum_b23 at hf
  refine z_aload_n hC (pc := 23) dX9_sum_23 rfl 0 rfl ?_
  refine z_getR hC (pc := 24) in_X9 zcX9 7 (Nat.le_of_ble_eq_true rfl) (zLk.o hC q2037) zsm dX9_sum_24 hf (fun v1 hf => ?_)
  refine z_getR hC (pc := 27) in_X1 zcX1 0 (Nat.le_of_ble_eq_true rfl) (zLk.n hC q391) zsm dX9_sum_27 hf (fun v2 hf => ?_)
  refine z_aload_n hC (pc := 30) dX9_sum_30 rfl 0 rfl ?_
  refine z_getI hC (pc := 31) in_X9 zcX9 3 (Nat.le_of_ble_eq_true rfl) (zLk.o hC q2033) zsm dX9_sum_31 hf (fun v3 hf => ?_)
  refine z_bald hC (pc := 34) dX9_sum_34 hf (fun v4 hf => ?_)
  refine z_istore_n (lv' := [(2, zi v4), (0, zr (some l0)), (1, zr l1)]) hC (pc := 35) hL dX9_sum_35 rfl (Nat.le_of_ble_eq_true rfl) rfl ?_
  refine z_aload_n hC (pc := 36) dX9_sum_36 rfl 1 rfl ?_
  refine z_dup hC (pc := 37) dX9_sum_37 rfl ?_
  refine z_getI hC (pc := 38) in_X9 zcX9 3 (Nat.le_of_ble_eq_true rfl) (zLk.o hC q2033) zsm dX9_sum_38 hf (fun v5 hf => ?_)
  refine z_iconst (v := 1) hC (pc := 41) dX9_sum_41 zki_1 ?_
  refine z_iadd hC (pc := 42) dX9_sum_42 ?_
  refine z_putV (v := zi (v5 + 1)) hC (pc := 43) in_X9 tyX9 tyX9_ok nmX9 zcX9 3 (Nat.le_of_ble_eq_true rfl) (zLk.o hC q2033) zsm (Or.inl rfl) rfl rfl dX9_sum_43 hf (fun s6 hf => ?_)
  refine z_new hC (pc := 46) in_X13 tyX13 tyX13_ok zcX13 q2432 q2433 q144 rfl zdX13 dX9_sum_46 hf (fun a7 s8 hf => ?_)
  refine z_dup hC (pc := 49) dX9_sum_49 rfl ?_
  refine z_iload_n hC (pc := 50) dX9_sum_50 rfl 0 rfl ?_
  refine z_aload_n hC (pc := 51) dX9_sum_51 rfl 2 rfl ?_
  refine z_aload_n hC (pc := 52) dX9_sum_52 rfl 1 rfl ?_
  obtain ⟨fs9, ha10, hf⟩ := z_rcN hf
  refine z_cXR (rest := [zr l1, zi v4, zr (some a7), zr (some a7)]) hf (fun v11 s12 hcall => z_runV hC (pc := 53) zcX9 0 ha10 (m_X9_term X.g kS frK loK hkS l0 s8 s12 v11 hcall) (lw_V q2281 q2283 qs41 q113 q2284) hdV_X9_term ⟨(by omega), (by omega)⟩ rfl (Nat.le_of_ble_eq_true rfl) dX9_sum_53 rfl) (fun v11 s12 hf => ?_) (fun e s hf => z_outR hC hQ hno hf)
  refine z_cU (rest := [zr (some a7)]) hf (fun v13 s14 hcall => z_runI hC (pc := 56) 3 (m_X13_init X.g a7 v4 l1 v11 s12 s14 v13 hcall) q2436 rfl q144 q2434 q2435 hd_X13_init ⟨(by omega), (by omega)⟩ rfl (Nat.le_of_ble_eq_true rfl) dX9_sum_56 rfl) (fun _ s14 hf => ?_)
  refine z_astore_n (lv' := [(1, zr (some a7)), (2, zi v4), (0, zr (some l0))]) hC (pc := 59) hL dX9_sum_59 rfl (Nat.le_of_ble_eq_true rfl) rfl ?_
  refine z_goto hC (pc := 60) (tgt := 5) dX9_sum_60 rfl ?_
  refine ZW.perm (lv' := [(0, zr (some l0)), (1, zr (some a7))]) [2, 0] rfl ?_
  exact hk5 l0 (some a7) s14 hf
def f_X9_sum_b5 (G : Nat → Nat) (kS : Nat → zS → Option ((Option Nat ⊕ (Nat × Nat)) × zS)) (k5 : Nat → Option Nat → zS → Option ((Option Nat ⊕ (Nat × Nat)) × zS)) (l0 : Nat) (l1 : Option Nat) (s0 : zS) : Option ((Option Nat ⊕ (Nat × Nat)) × zS) :=
zo (zrc s0 (some l0) 7) fun _ =>
zb (f_X9_peek G l0 s0) fun v3 s4 =>
if v3 = 43 then (f_X9_sum_b23 G kS k5 l0 l1 s4)
else (zo (zrc s4 (some l0) 7) fun _ =>
zb (f_X9_peek G l0 s4) fun v8 s9 =>
if v8 = 45 then (f_X9_sum_b23 G kS k5 l0 l1 s9)
else (some (.inl l1, s9)))
set_option maxHeartbeats 4000000 in
theorem w_X9_sum_b5 {X : zX} (kS : Nat → zS → Option ((Option Nat ⊕ (Nat × Nat)) × zS)) (frK loK : Nat) (hkS : ∀ (l0 : Nat) (s0 s1 : zS) (v : (Option Nat ⊕ (Nat × Nat))), kS l0 s0 = some (v, s1) → ZM X.g yX9_sum (ws_ yX9_sum cX9_sum 3 (some (.object "BlockingShop$Node"))) frK loK [zr (some l0)] s0 (zoR v, s1)) (hC : ZC X RX9 cX9_sum (some (.object "BlockingShop$Node")) (frK + 10) (loK + 236)) (hL : X.nL = 3) (hno : ∀ x ∈ X.c.exceptionTable.toList, False) {r : (Option Nat ⊕ (Nat × Nat))} {sF : zS} (hQ : ZQ X (zoR r, sF)) (k5 : Nat → Option Nat → zS → Option ((Option Nat ⊕ (Nat × Nat)) × zS)) (hk5 : ∀ (l0 : Nat) (l1 : Option Nat) (s0 : zS), k5 l0 l1 s0 = some (r, sF) → ZW X s0 5 [(0, zr (some l0)), (1, zr l1)] []) (l0 : Nat) (l1 : Option Nat) (s0 : zS) (hf : f_X9_sum_b5 X.g.1 kS k5 l0 l1 s0 = some (r, sF)) : ZW X s0 5 [(0, zr (some l0)), (1, zr l1)] [] := by
  unfold f_X9_sum_b5 at hf
  refine z_aload_n hC (pc := 5) dX9_sum_5 rfl 0 rfl ?_
  obtain ⟨fs1, ha2, hf⟩ := z_rcN hf
  refine z_cI (rest := []) hf (fun v3 s4 hcall => z_runV hC (pc := 6) zcX9 0 ha2 (m_X9_peek X.g l0 s0 s4 v3 hcall) (lw_V q2063 q2065 qs26 q113 q2066) hdV_X9_peek ⟨(by omega), (by omega)⟩ rfl (Nat.le_of_ble_eq_true rfl) dX9_sum_6 rfl) (fun v3 s4 hf => ?_)
  refine z_bipush (v := 43) hC (pc := 9) dX9_sum_9 zkb_43 ?_
  refine z_icmp_eq hC (pc := 11) (tgt := 23) dX9_sum_11 rfl (fun c5 => ?_) (fun c5 => ?_)
  · have hf := zif_t hf c5
    exact w_X9_sum_b23 kS frK loK hkS hC hL hno hQ k5 hk5 l0 l1 s4 hf
  · have hf := zif_f hf c5
    refine z_aload_n hC (pc := 14) dX9_sum_14 rfl 0 rfl ?_
    obtain ⟨fs6, ha7, hf⟩ := z_rcN hf
    refine z_cI (rest := []) hf (fun v8 s9 hcall => z_runV hC (pc := 15) zcX9 0 ha7 (m_X9_peek X.g l0 s4 s9 v8 hcall) (lw_V q2063 q2065 qs26 q113 q2066) hdV_X9_peek ⟨(by omega), (by omega)⟩ rfl (Nat.le_of_ble_eq_true rfl) dX9_sum_15 rfl) (fun v8 s9 hf => ?_)
    refine z_bipush (v := 45) hC (pc := 18) dX9_sum_18 zkb_45 ?_
    refine z_icmp_ne hC (pc := 20) (tgt := 63) dX9_sum_20 rfl (fun c10 => ?_) (fun c10 => ?_)
    · have hf := zif_f hf c10
      refine z_aload_n hC (pc := 63) dX9_sum_63 rfl 1 rfl ?_
      exact z_areturnX hC (pc := 64) (Or.inl ⟨_, rfl⟩) hQ dX9_sum_64 hf
    · have hf := zif_t hf c10
      exact w_X9_sum_b23 kS frK loK hkS hC hL hno hQ k5 hk5 l0 l1 s9 hf
def f_X9_sum_l5 (G : Nat → Nat) (kS : Nat → zS → Option ((Option Nat ⊕ (Nat × Nat)) × zS)) : Nat → Nat → Option Nat → zS → Option ((Option Nat ⊕ (Nat × Nat)) × zS)
  | 0 => fun _ _ _ => none
  | n + 1 => f_X9_sum_b5 G kS (f_X9_sum_l5 G kS n)
theorem w_X9_sum_l5 {X : zX} (kS : Nat → zS → Option ((Option Nat ⊕ (Nat × Nat)) × zS)) (frK loK : Nat) (hkS : ∀ (l0 : Nat) (s0 s1 : zS) (v : (Option Nat ⊕ (Nat × Nat))), kS l0 s0 = some (v, s1) → ZM X.g yX9_sum (ws_ yX9_sum cX9_sum 3 (some (.object "BlockingShop$Node"))) frK loK [zr (some l0)] s0 (zoR v, s1)) (hC : ZC X RX9 cX9_sum (some (.object "BlockingShop$Node")) (frK + 10) (loK + 236)) (hL : X.nL = 3) (hno : ∀ x ∈ X.c.exceptionTable.toList, False) {r : (Option Nat ⊕ (Nat × Nat))} {sF : zS} (hQ : ZQ X (zoR r, sF)) : ∀ (n : Nat) (l0 : Nat) (l1 : Option Nat) (s0 : zS) (_ : f_X9_sum_l5 X.g.1 kS n l0 l1 s0 = some (r, sF)), ZW X s0 5 [(0, zr (some l0)), (1, zr l1)] [] := by
  intro n
  induction n with
  | zero => intro l0 l1 s0 hf; exact absurd (show (none : Option ((Option Nat ⊕ (Nat × Nat)) × zS)) = some (r, sF) from hf) (fun z => nomatch z)
  | succ n ih => intro l0 l1 s0 hf; exact w_X9_sum_b5 kS frK loK hkS hC hL hno hQ (f_X9_sum_l5 X.g.1 kS n) ih l0 l1 s0 hf
def f_X9_sum (G : Nat → Nat) (kS : Nat → zS → Option ((Option Nat ⊕ (Nat × Nat)) × zS)) (l0 : Nat) (s0 : zS) : Option ((Option Nat ⊕ (Nat × Nat)) × zS) :=
zo (zrc s0 (some l0) 7) fun _ =>
zx (f_X9_term G kS l0 s0) (fun e s => some (.inr e, s)) fun v3 s4 =>
f_X9_sum_l5 G kS 2000 l0 v3 s4
set_option maxHeartbeats 4000000 in
theorem m_X9_sum (Γ : zG) (kS : Nat → zS → Option ((Option Nat ⊕ (Nat × Nat)) × zS)) (frK loK : Nat) (hkS : ∀ (l0 : Nat) (s0 s1 : zS) (v : (Option Nat ⊕ (Nat × Nat))), kS l0 s0 = some (v, s1) → ZM Γ yX9_sum (ws_ yX9_sum cX9_sum 3 (some (.object "BlockingShop$Node"))) frK loK [zr (some l0)] s0 (zoR v, s1)) (l0 : Nat) (s0 s1 : zS) (r : (Option Nat ⊕ (Nat × Nat))) (hf : f_X9_sum Γ.1 kS l0 s0 = some (r, s1)) : ZM Γ yX9_sum (ws_ yX9_sum cX9_sum 3 (some (.object "BlockingShop$Node"))) (frK + 10) (loK + 236) [zr (some l0)] s0 (zoR r, s1) := by
  refine ZM.of (own := RX9) (by decide) rfl (Nat.le_of_ble_eq_true rfl) ?_
  intro X hg hC hL hno hQ hin
  subst hg
  unfold f_X9_sum at hf
  refine z_aload_n hC (pc := 0) dX9_sum_0 rfl 0 rfl ?_
  obtain ⟨fs1, ha2, hf⟩ := z_rcN hf
  refine z_cXR (rest := []) hf (fun v3 s4 hcall => z_runV hC (pc := 1) zcX9 0 ha2 (m_X9_term X.g kS frK loK hkS l0 s0 s4 v3 hcall) (lw_V q2281 q2283 qs41 q113 q2284) hdV_X9_term ⟨(by omega), (by omega)⟩ rfl (Nat.le_of_ble_eq_true rfl) dX9_sum_1 rfl) (fun v3 s4 hf => ?_) (fun e s hf => z_outR hC hQ hno hf)
  refine z_astore_n (lv' := [(1, zr v3), (0, zr (some l0))]) hC (pc := 4) hL dX9_sum_4 rfl (Nat.le_of_ble_eq_true rfl) rfl ?_
  refine ZW.perm (lv' := [(0, zr (some l0)), (1, zr v3)]) [1, 0] rfl ?_
  exact w_X9_sum_l5 kS frK loK hkS hC hL hno hQ 2000 l0 v3 s4 hf
/-- the recursion, to a depth -/
def f_X9_sumR (G : Nat → Nat) : Nat → Nat → zS → Option ((Option Nat ⊕ (Nat × Nat)) × zS)
  | 0 => fun _ _ => none
  | d + 1 => f_X9_sum G (f_X9_sumR G d)
theorem m_X9_sumR (Γ : zG) : ∀ (d : Nat) (l0 : Nat) (s0 s1 : zS) (r : (Option Nat ⊕ (Nat × Nat))) (_ : f_X9_sumR Γ.1 d l0 s0 = some (r, s1)), ZM Γ yX9_sum (ws_ yX9_sum cX9_sum 3 (some (.object "BlockingShop$Node"))) (d * 10) (d * 236) [zr (some l0)] s0 (zoR r, s1) := by
  intro d
  induction d with
  | zero => intro l0 s0 s1 r hf; exact absurd (show (none : Option ((Option Nat ⊕ (Nat × Nat)) × zS)) = some (r, s1) from hf) (fun z => nomatch z)
  | succ d ih =>
    intro l0 s0 s1 r hf
    rw [Nat.succ_mul, Nat.succ_mul]
    exact m_X9_sum Γ (f_X9_sumR Γ.1 d) (d * 10) (d * 236) (fun l0 s0 s1 v h => ih l0 s0 s1 v h) l0 s0 s1 r hf
/-! BlockingShop$Parser.statement()V -/
def f_X9_statement_b283 (G : Nat → Nat) (l0 : Nat) (s0 : zS) : Option ((Unit ⊕ (Nat × Nat)) × zS) :=
zo (zrc s0 (some l0) 7) fun _ =>
zx (f_X9_expect G l0 59 s0) (fun e s => some (.inr e, s)) fun _ s4 =>
some (.inl (), s4)
set_option maxHeartbeats 4000000 in
theorem w_X9_statement_b283 {X : zX} (hC : ZC X RX9 cX9_statement none 81 1910) (hL : X.nL = 7) (hno : ∀ x ∈ X.c.exceptionTable.toList, False) {r : (Unit ⊕ (Nat × Nat))} {sF : zS} (hQ : ZQ X (zoU r, sF)) (l0 : Nat) (s0 : zS) (hf : f_X9_statement_b283 X.g.1 l0 s0 = some (r, sF)) : ZW X s0 283 [(0, zr (some l0))] [] := by
  unfold f_X9_statement_b283 at hf
  refine z_aload_n hC (pc := 283) dX9_statement_283 rfl 0 rfl ?_
  refine z_bipush (v := 59) hC (pc := 284) dX9_statement_284 zkb_59 ?_
  obtain ⟨fs1, ha2, hf⟩ := z_rcN hf
  refine z_cXU (rest := []) hf (fun v3 s4 hcall => z_runV hC (pc := 286) zcX9 1 ha2 (m_X9_expect X.g l0 59 s0 s4 v3 hcall) (lw_V q2141 q2143 qs30 q113 q2144) hdV_X9_expect ⟨(Nat.le_of_ble_eq_true rfl), (Nat.le_of_ble_eq_true rfl)⟩ rfl (Nat.le_of_ble_eq_true rfl) dX9_statement_286 rfl) (fun _ s4 hf => ?_) (fun e s hf => z_outU hC hQ hno hf)
  exact z_returnX hC (pc := 289) hQ dX9_statement_289 hf
def f_X9_statement_b163 (G : Nat → Nat) (l0 : Nat) (l2 : Int32) (t0 : Int32) (t1 : Option Nat) (s0 : zS) : Option ((Unit ⊕ (Nat × Nat)) × zS) :=
zo (zrc s0 t1 7) fun a3 =>
zx (f_X9_require G a3 t0 (-4) l2 s0) (fun e s => some (.inr e, s)) fun _ s5 =>
zo (zrc s5 (some l0) 7) fun _ =>
zx (f_X9_job G l0 s5) (fun e s => some (.inr e, s)) fun _ s9 =>
f_X9_statement_b283 G l0 s9
set_option maxHeartbeats 4000000 in
theorem w_X9_statement_b163 {X : zX} (hC : ZC X RX9 cX9_statement none 81 1910) (hL : X.nL = 7) (hno : ∀ x ∈ X.c.exceptionTable.toList, False) {r : (Unit ⊕ (Nat × Nat))} {sF : zS} (hQ : ZQ X (zoU r, sF)) (l0 : Nat) (l2 : Int32) (t0 : Int32) (t1 : Option Nat) (s0 : zS) (hf : f_X9_statement_b163 X.g.1 l0 l2 t0 t1 s0 = some (r, sF)) : ZW X s0 163 [(0, zr (some l0)), (2, zi l2)] [zi t0, zr t1] := by
  unfold f_X9_statement_b163 at hf
  refine z_bipush (v := (-4)) hC (pc := 163) dX9_statement_163 zkb_m4 ?_
  refine z_iload_n hC (pc := 165) dX9_statement_165 rfl 1 rfl ?_
  obtain ⟨a3, fs1, rfl, ha2, hf⟩ := z_rcO hf
  refine z_cXU (rest := []) hf (fun v4 s5 hcall => z_runV hC (pc := 166) zcX9 3 ha2 (m_X9_require X.g a3 t0 (-4) l2 s0 s5 v4 hcall) (lw_V q2099 q2101 qs28 q113 q2102) hdV_X9_require ⟨(Nat.le_of_ble_eq_true rfl), (Nat.le_of_ble_eq_true rfl)⟩ rfl (Nat.le_of_ble_eq_true rfl) dX9_statement_166 rfl) (fun _ s5 hf => ?_) (fun e s hf => z_outU hC hQ hno hf)
  refine z_aload_n hC (pc := 169) dX9_statement_169 rfl 0 rfl ?_
  obtain ⟨fs6, ha7, hf⟩ := z_rcN hf
  refine z_cXU (rest := []) hf (fun v8 s9 hcall => z_runV hC (pc := 170) zcX9 0 ha7 (m_X9_job X.g l0 s5 s9 v8 hcall) (lw_V q2156 q2158 qs32 q113 q2159) hdV_X9_job ⟨(Nat.le_of_ble_eq_true rfl), (Nat.le_of_ble_eq_true rfl)⟩ rfl (Nat.le_of_ble_eq_true rfl) dX9_statement_170 rfl) (fun _ s9 hf => ?_) (fun e s hf => z_outU hC hQ hno hf)
  refine z_goto hC (pc := 173) (tgt := 283) dX9_statement_173 rfl ?_
  refine ZW.perm (lv' := [(0, zr (some l0))]) [0] rfl ?_
  exact w_X9_statement_b283 hC hL hno hQ l0 s9 hf
def f_X9_statement_b197 (G : Nat → Nat) (l0 : Nat) (l5 : Int32) (t0 : Int32) (s0 : zS) : Option ((Unit ⊕ (Nat × Nat)) × zS) :=
zo (zgR s0 (some l0) 7 2) fun v1 =>
zo (zgR s0 v1 3 2) fun v2 =>
zb (f_J20_valueOf G l5 s0) fun v3 s4 =>
zb (znewO G s4 5 2 [.int 0, .int 0]) fun a5 s6 =>
zo (zrc s6 (some l0) 7) fun _ =>
zx (f_X9_number G l0 0 99 s6) (fun e s => some (.inr e, s)) fun v9 s10 =>
zb (f_X7_init G a5 t0 v9 s10) fun _ s12 =>
zo (zrc s12 v2 14) fun a15 =>
zb (f_J3_put G a15 v3 (some a5) s12) fun v16 s17 =>
f_X9_statement_b283 G l0 s17
set_option maxHeartbeats 4000000 in
theorem w_X9_statement_b197 {X : zX} (hC : ZC X RX9 cX9_statement none 81 1910) (hL : X.nL = 7) (hno : ∀ x ∈ X.c.exceptionTable.toList, False) {r : (Unit ⊕ (Nat × Nat))} {sF : zS} (hQ : ZQ X (zoU r, sF)) (l0 : Nat) (l5 : Int32) (t0 : Int32) (s0 : zS) (hf : f_X9_statement_b197 X.g.1 l0 l5 t0 s0 = some (r, sF)) : ZW X s0 197 [(0, zr (some l0)), (5, zi l5)] [zi t0] := by
  unfold f_X9_statement_b197 at hf
  refine z_istore (lv' := [(6, zi t0), (0, zr (some l0)), (5, zi l5)]) hC (pc := 197) hL dX9_statement_197 (Nat.le_of_ble_eq_true rfl) rfl ?_
  refine z_aload_n hC (pc := 199) dX9_statement_199 rfl 1 rfl ?_
  refine z_getR hC (pc := 200) in_X9 zcX9 2 (Nat.le_of_ble_eq_true rfl) (zLk.o hC q2032) zsm dX9_statement_200 hf (fun v1 hf => ?_)
  refine z_getR hC (pc := 203) in_X4 zcX4 2 (Nat.le_of_ble_eq_true rfl) (zLk.n hC q329) zsm dX9_statement_203 hf (fun v2 hf => ?_)
  refine z_iload hC (pc := 206) dX9_statement_206 2 rfl ?_
  refine z_cR (rest := [zr v2]) hf (fun v3 s4 hcall => z_runS hC (pc := 208) 1 (m_J20_valueOf X.g l5 s0 s4 v3 hcall) (lw_S q2198 q1198 q125 q1199) hd_J20_valueOf ⟨(Nat.le_of_ble_eq_true rfl), (Nat.le_of_ble_eq_true rfl)⟩ rfl (Nat.le_of_ble_eq_true rfl) dX9_statement_208 rfl) (fun v3 s4 hf => ?_)
  refine z_new hC (pc := 211) in_X7 tyX7 tyX7_ok zcX7 q2199 q308 q107 rfl zdX7 dX9_statement_211 hf (fun a5 s6 hf => ?_)
  refine z_dup hC (pc := 214) dX9_statement_214 rfl ?_
  refine z_iload hC (pc := 215) dX9_statement_215 0 rfl ?_
  refine z_aload_n hC (pc := 217) dX9_statement_217 rfl 1 rfl ?_
  refine z_iconst (v := 0) hC (pc := 218) dX9_statement_218 zki_0 ?_
  refine z_bipush (v := 99) hC (pc := 219) dX9_statement_219 zkb_99 ?_
  obtain ⟨fs7, ha8, hf⟩ := z_rcN hf
  refine z_cXI (rest := [zi t0, zr (some a5), zr (some a5), zr v3, zr v2]) hf (fun v9 s10 hcall => z_runV hC (pc := 221) zcX9 2 ha8 (m_X9_number X.g l0 0 99 s6 s10 v9 hcall) (lw_V q2131 q2133 qs29 q113 q2134) hdV_X9_number ⟨(Nat.le_of_ble_eq_true rfl), (Nat.le_of_ble_eq_true rfl)⟩ rfl (Nat.le_of_ble_eq_true rfl) dX9_statement_221 rfl) (fun v9 s10 hf => ?_) (fun e s hf => z_outU hC hQ hno hf)
  refine z_cU (rest := [zr (some a5), zr v3, zr v2]) hf (fun v11 s12 hcall => z_runI hC (pc := 224) 2 (m_X7_init X.g a5 t0 v9 s10 s12 v11 hcall) q311 rfl q107 q2200 q310 hd_X7_init ⟨(Nat.le_of_ble_eq_true rfl), (Nat.le_of_ble_eq_true rfl)⟩ rfl (Nat.le_of_ble_eq_true rfl) dX9_statement_224 rfl) (fun _ s12 hf => ?_)
  obtain ⟨a15, fs13, rfl, ha14, hf⟩ := z_rcO hf
  refine z_cR (rest := []) hf (fun v16 s17 hcall => z_runV hC (pc := 227) zcJ3 2 ha14 (m_J3_put X.g a15 v3 (some a5) s12 s17 v16 hcall) (lw_V q2201 q2202 q2203 q102 q2204) hdV_J3_put ⟨(Nat.le_of_ble_eq_true rfl), (Nat.le_of_ble_eq_true rfl)⟩ rfl (Nat.le_of_ble_eq_true rfl) dX9_statement_227 rfl) (fun v16 s17 hf => ?_)
  refine z_pop hC (pc := 230) dX9_statement_230 rfl ?_
  refine z_goto hC (pc := 231) (tgt := 283) dX9_statement_231 rfl ?_
  refine ZW.perm (lv' := [(0, zr (some l0))]) [1] rfl ?_
  exact w_X9_statement_b283 hC hL hno hQ l0 s17 hf
def f_X9_statement_b247 (G : Nat → Nat) (l0 : Nat) (l2 : Int32) (t0 : Int32) (t1 : Option Nat) (s0 : zS) : Option ((Unit ⊕ (Nat × Nat)) × zS) :=
zo (zrc s0 t1 7) fun a3 =>
zx (f_X9_require G a3 t0 (-2) l2 s0) (fun e s => some (.inr e, s)) fun _ s5 =>
zo (zputN G s5 (some l0) 7 6 .boolean 1) fun s6 =>
zo (zgR s6 (some l0) 7 2) fun v7 =>
zo (zrc s6 (some l0) 7) fun _ =>
zx (f_X9_sumR G 8 l0 s6) (fun e s => some (.inr e, s)) fun v10 s11 =>
zo (zput G s11 v7 3 5 (va_rf v10)) fun s12 =>
f_X9_statement_b283 G l0 s12
set_option maxHeartbeats 4000000 in
theorem w_X9_statement_b247 {X : zX} (hC : ZC X RX9 cX9_statement none 81 1910) (hL : X.nL = 7) (hno : ∀ x ∈ X.c.exceptionTable.toList, False) {r : (Unit ⊕ (Nat × Nat))} {sF : zS} (hQ : ZQ X (zoU r, sF)) (l0 : Nat) (l2 : Int32) (t0 : Int32) (t1 : Option Nat) (s0 : zS) (hf : f_X9_statement_b247 X.g.1 l0 l2 t0 t1 s0 = some (r, sF)) : ZW X s0 247 [(0, zr (some l0)), (2, zi l2)] [zi t0, zr t1] := by
  unfold f_X9_statement_b247 at hf
  refine z_bipush (v := (-2)) hC (pc := 247) dX9_statement_247 zkb_m2 ?_
  refine z_iload_n hC (pc := 249) dX9_statement_249 rfl 1 rfl ?_
  obtain ⟨a3, fs1, rfl, ha2, hf⟩ := z_rcO hf
  refine z_cXU (rest := []) hf (fun v4 s5 hcall => z_runV hC (pc := 250) zcX9 3 ha2 (m_X9_require X.g a3 t0 (-2) l2 s0 s5 v4 hcall) (lw_V q2099 q2101 qs28 q113 q2102) hdV_X9_require ⟨(Nat.le_of_ble_eq_true rfl), (Nat.le_of_ble_eq_true rfl)⟩ rfl (Nat.le_of_ble_eq_true rfl) dX9_statement_250 rfl) (fun _ s5 hf => ?_) (fun e s hf => z_outU hC hQ hno hf)
  refine z_aload_n hC (pc := 253) dX9_statement_253 rfl 0 rfl ?_
  refine z_iconst (v := 1) hC (pc := 254) dX9_statement_254 zki_1 ?_
  refine z_putN hC (pc := 255) in_X9 tyX9 tyX9_ok nmX9 zcX9 6 (Nat.le_of_ble_eq_true rfl) (zLk.o hC q2036) zsm (Or.inl rfl) (Or.inl rfl) dX9_statement_255 hf (fun s6 hf => ?_)
  refine z_aload_n hC (pc := 258) dX9_statement_258 rfl 0 rfl ?_
  refine z_getR hC (pc := 259) in_X9 zcX9 2 (Nat.le_of_ble_eq_true rfl) (zLk.o hC q2032) zsm dX9_statement_259 hf (fun v7 hf => ?_)
  refine z_aload_n hC (pc := 262) dX9_statement_262 rfl 0 rfl ?_
  obtain ⟨fs8, ha9, hf⟩ := z_rcN hf
  refine z_cXR (rest := [zr v7]) hf (fun v10 s11 hcall => z_runV hC (pc := 263) zcX9 0 ha9 (m_X9_sumR X.g 8 l0 s6 s11 v10 hcall) (lw_V q2277 q2279 qs40 q113 q2280) hdV_X9_sum ⟨(Nat.le_of_ble_eq_true rfl), (Nat.le_of_ble_eq_true rfl)⟩ rfl (Nat.le_of_ble_eq_true rfl) dX9_statement_263 rfl) (fun v10 s11 hf => ?_) (fun e s hf => z_outU hC hQ hno hf)
  refine z_putV (v := zr v10) hC (pc := 266) in_X4 tyX4 tyX4_ok nmX4 zcX4 5 (Nat.le_of_ble_eq_true rfl) (zLk.n hC q341) zsm (Or.inl rfl) rfl (zfr v10) dX9_statement_266 hf (fun s12 hf => ?_)
  refine z_goto hC (pc := 269) (tgt := 283) dX9_statement_269 rfl ?_
  refine ZW.perm (lv' := [(0, zr (some l0))]) [0] rfl ?_
  exact w_X9_statement_b283 hC hL hno hQ l0 s12 hf
def f_X9_statement_b110 (G : Nat → Nat) (l0 : Nat) (l2 : Int32) (l4 : Int32) (s0 : zS) : Option ((Unit ⊕ (Nat × Nat)) × zS) :=
if l4 = 0 then (zo (zgR s0 (some l0) 7 2) fun v2 =>
zo (zgR s0 v2 3 3) fun v3 =>
zo (zrc s0 v3 15) fun a6 =>
zb (f_J5_size G a6 s0) fun v7 s8 =>
if 6 ≤ v7 then (f_X9_statement_b163 G l0 l2 0 (some l0) s8)
else (f_X9_statement_b163 G l0 l2 1 (some l0) s8)) else
if l4 = 1 then (zo (zrc s0 (some l0) 7) fun _ =>
zx (f_X9_machine G l0 s0) (fun e s => some (.inr e, s)) fun v13 s14 =>
zo (zrc s14 (some l0) 7) fun _ =>
zx (f_X9_number G l0 0 1 s14) (fun e s => some (.inr e, s)) fun v17 s18 =>
if v17 = 1 then (f_X9_statement_b197 G l0 v13 1 s18)
else (f_X9_statement_b197 G l0 v13 0 s18)) else
if l4 = 2 then (zo (zgI s0 (some l0) 7 6) fun v21 =>
if v21 = 0 then (f_X9_statement_b247 G l0 l2 1 (some l0) s0)
else (f_X9_statement_b247 G l0 l2 0 (some l0) s0)) else
(zb (znewO G s0 8 8 [.null, .null, .null, .null, .null, .int 0, .int 0, .int 0]) fun a23 s24 =>
zb (f_X10_init G a23 (-2) l2 s24) fun _ s26 =>
zo (zthr G s26 (some a23)) fun e => some (.inr e, s26))
set_option maxHeartbeats 4000000 in
theorem w_X9_statement_b110 {X : zX} (hC : ZC X RX9 cX9_statement none 81 1910) (hL : X.nL = 7) (hno : ∀ x ∈ X.c.exceptionTable.toList, False) {r : (Unit ⊕ (Nat × Nat))} {sF : zS} (hQ : ZQ X (zoU r, sF)) (l0 : Nat) (l2 : Int32) (l4 : Int32) (s0 : zS) (hf : f_X9_statement_b110 X.g.1 l0 l2 l4 s0 = some (r, sF)) : ZW X s0 110 [(0, zr (some l0)), (2, zi l2), (4, zi l4)] [] := by
  unfold f_X9_statement_b110 at hf
  refine z_iload hC (pc := 110) dX9_statement_110 2 rfl ?_
  by_cases c1 : l4 = 0
  · have hf := zif_t hf c1
    refine z_table hC (pc := 112) (tgt := 140) dX9_statement_112 c1 (by decide) (by decide) rfl rfl ?_
    refine z_aload_n hC (pc := 140) dX9_statement_140 rfl 0 rfl ?_
    refine z_aload_n hC (pc := 141) dX9_statement_141 rfl 0 rfl ?_
    refine z_getR hC (pc := 142) in_X9 zcX9 2 (Nat.le_of_ble_eq_true rfl) (zLk.o hC q2032) zsm dX9_statement_142 hf (fun v2 hf => ?_)
    refine z_getR hC (pc := 145) in_X4 zcX4 3 (Nat.le_of_ble_eq_true rfl) (zLk.n hC q334) zsm dX9_statement_145 hf (fun v3 hf => ?_)
    obtain ⟨a6, fs4, rfl, ha5, hf⟩ := z_rcO hf
    refine z_cI5 (rest := [zr (some l0)]) hf (fun v7 s8 hcall => z_runF hC (pc := 148) zcJ5 0 ha5 (m_J5_size X.g a6 s0 s8 v7 hcall) (lw_app (zm4 q2155 q435 q437 q104) (lw_meth q439)) q433 q432 q438 q436 q434 (by decide +kernel) ⟨(Nat.le_of_ble_eq_true rfl), (Nat.le_of_ble_eq_true rfl)⟩ rfl (Nat.le_of_ble_eq_true rfl) dX9_statement_148 rfl) (fun v7 s8 hf => ?_)
    refine z_bipush (v := 6) hC (pc := 153) dX9_statement_153 zkb_6 ?_
    refine z_icmp_ge hC (pc := 155) (tgt := 162) dX9_statement_155 rfl (fun c9 => ?_) (fun c9 => ?_)
    · have hf := zif_t hf c9
      refine z_iconst (v := 0) hC (pc := 162) dX9_statement_162 zki_0 ?_
      refine ZW.perm (lv' := [(0, zr (some l0)), (2, zi l2)]) [0, 1] rfl ?_
      exact w_X9_statement_b163 hC hL hno hQ l0 l2 0 (some l0) s8 hf
    · have hf := zif_f hf c9
      refine z_iconst (v := 1) hC (pc := 158) dX9_statement_158 zki_1 ?_
      refine z_goto hC (pc := 159) (tgt := 163) dX9_statement_159 rfl ?_
      refine ZW.perm (lv' := [(0, zr (some l0)), (2, zi l2)]) [0, 1] rfl ?_
      exact w_X9_statement_b163 hC hL hno hQ l0 l2 1 (some l0) s8 hf
  · have hf := zif_f hf c1
    by_cases c10 : l4 = 1
    · have hf := zif_t hf c10
      refine z_table hC (pc := 112) (tgt := 176) dX9_statement_112 c10 (by decide) (by decide) rfl rfl ?_
      refine z_aload_n hC (pc := 176) dX9_statement_176 rfl 0 rfl ?_
      obtain ⟨fs11, ha12, hf⟩ := z_rcN hf
      refine z_cXI (rest := []) hf (fun v13 s14 hcall => z_runV hC (pc := 177) zcX9 0 ha12 (m_X9_machine X.g l0 s0 s14 v13 hcall) (lw_V q2190 q2192 qs33 q113 q2193) hdV_X9_machine ⟨(Nat.le_of_ble_eq_true rfl), (Nat.le_of_ble_eq_true rfl)⟩ rfl (Nat.le_of_ble_eq_true rfl) dX9_statement_177 rfl) (fun v13 s14 hf => ?_) (fun e s hf => z_outU hC hQ hno hf)
      refine z_istore (lv' := [(5, zi v13), (0, zr (some l0)), (2, zi l2), (4, zi l4)]) hC (pc := 180) hL dX9_statement_180 (Nat.le_of_ble_eq_true rfl) rfl ?_
      refine z_aload_n hC (pc := 182) dX9_statement_182 rfl 1 rfl ?_
      refine z_iconst (v := 0) hC (pc := 183) dX9_statement_183 zki_0 ?_
      refine z_iconst (v := 1) hC (pc := 184) dX9_statement_184 zki_1 ?_
      obtain ⟨fs15, ha16, hf⟩ := z_rcN hf
      refine z_cXI (rest := []) hf (fun v17 s18 hcall => z_runV hC (pc := 185) zcX9 2 ha16 (m_X9_number X.g l0 0 1 s14 s18 v17 hcall) (lw_V q2131 q2133 qs29 q113 q2134) hdV_X9_number ⟨(Nat.le_of_ble_eq_true rfl), (Nat.le_of_ble_eq_true rfl)⟩ rfl (Nat.le_of_ble_eq_true rfl) dX9_statement_185 rfl) (fun v17 s18 hf => ?_) (fun e s hf => z_outU hC hQ hno hf)
      refine z_iconst (v := 1) hC (pc := 188) dX9_statement_188 zki_1 ?_
      refine z_icmp_ne hC (pc := 189) (tgt := 196) dX9_statement_189 rfl (fun c19 => ?_) (fun c19 => ?_)
      · have hf := zif_f hf c19
        refine z_iconst (v := 0) hC (pc := 196) dX9_statement_196 zki_0 ?_
        refine ZW.perm (lv' := [(0, zr (some l0)), (5, zi v13)]) [1, 0] rfl ?_
        exact w_X9_statement_b197 hC hL hno hQ l0 v13 0 s18 hf
      · have hf := zif_t hf c19
        refine z_iconst (v := 1) hC (pc := 192) dX9_statement_192 zki_1 ?_
        refine z_goto hC (pc := 193) (tgt := 197) dX9_statement_193 rfl ?_
        refine ZW.perm (lv' := [(0, zr (some l0)), (5, zi v13)]) [1, 0] rfl ?_
        exact w_X9_statement_b197 hC hL hno hQ l0 v13 1 s18 hf
    · have hf := zif_f hf c10
      by_cases c20 : l4 = 2
      · have hf := zif_t hf c20
        refine z_table hC (pc := 112) (tgt := 234) dX9_statement_112 c20 (by decide) (by decide) rfl rfl ?_
        refine z_aload_n hC (pc := 234) dX9_statement_234 rfl 0 rfl ?_
        refine z_aload_n hC (pc := 235) dX9_statement_235 rfl 0 rfl ?_
        refine z_getI hC (pc := 236) in_X9 zcX9 6 (Nat.le_of_ble_eq_true rfl) (zLk.o hC q2036) zsm dX9_statement_236 hf (fun v21 hf => ?_)
        refine z_if_ne hC (pc := 239) (tgt := 246) dX9_statement_239 rfl (fun c22 => ?_) (fun c22 => ?_)
        · have hf := zif_f hf c22
          refine z_iconst (v := 0) hC (pc := 246) dX9_statement_246 zki_0 ?_
          refine ZW.perm (lv' := [(0, zr (some l0)), (2, zi l2)]) [0, 1] rfl ?_
          exact w_X9_statement_b247 hC hL hno hQ l0 l2 0 (some l0) s0 hf
        · have hf := zif_t hf c22
          refine z_iconst (v := 1) hC (pc := 242) dX9_statement_242 zki_1 ?_
          refine z_goto hC (pc := 243) (tgt := 247) dX9_statement_243 rfl ?_
          refine ZW.perm (lv' := [(0, zr (some l0)), (2, zi l2)]) [0, 1] rfl ?_
          exact w_X9_statement_b247 hC hL hno hQ l0 l2 1 (some l0) s0 hf
      · have hf := zif_f hf c20
        have ec1 : (l4 : Int32).toInt ≠ (0 : Int) := fun z => c1 (Int32.toInt_inj.mp (z.trans (by decide)))
        have ec10 : (l4 : Int32).toInt ≠ (1 : Int) := fun z => c10 (Int32.toInt_inj.mp (z.trans (by decide)))
        have ec20 : (l4 : Int32).toInt ≠ (2 : Int) := fun z => c20 (Int32.toInt_inj.mp (z.trans (by decide)))
        refine z_tableD hC (pc := 112) (tgt := 272) dX9_statement_112 (by omega) rfl ?_
        refine z_new hC (pc := 272) in_X10 tyX10 tyX10_ok zcX10 q2103 q2104 q126 rfl zdX10 dX9_statement_272 hf (fun a23 s24 hf => ?_)
        refine z_dup hC (pc := 275) dX9_statement_275 rfl ?_
        refine z_bipush (v := (-2)) hC (pc := 276) dX9_statement_276 zkb_m2 ?_
        refine z_iload_n hC (pc := 278) dX9_statement_278 rfl 1 rfl ?_
        refine z_cU (rest := [zr (some a23)]) hf (fun v25 s26 hcall => z_runI hC (pc := 279) 2 (m_X10_init X.g a23 (-2) l2 s24 s26 v25 hcall) q2114 rfl q126 q2112 q2113 hd_X10_init ⟨(Nat.le_of_ble_eq_true rfl), (Nat.le_of_ble_eq_true rfl)⟩ rfl (Nat.le_of_ble_eq_true rfl) dX9_statement_279 rfl) (fun _ s26 hf => ?_)
        exact z_athrow hC (pc := 282) dX9_statement_282 hf (fun e hf => z_outU hC hQ hno hf)
def f_X9_statement (G : Nat → Nat) (l0 : Nat) (s0 : zS) : Option ((Unit ⊕ (Nat × Nat)) × zS) :=
zo (zrc s0 (some l0) 7) fun _ =>
zb (f_X9_word G l0 s0) fun v3 s4 =>
zo (zgI s4 (some l0) 7 3) fun v5 =>
zo (zgI s4 (some l0) 7 3) fun v6 =>
zo (zrc s4 v3 17) fun a9 =>
zb (f_J12_length G a9 s4) fun v10 s11 =>
zo (zput G s11 (some l0) 7 3 (.int (v6 + v10))) fun s12 =>
zo (zrc s12 (some a9) 17) fun _ =>
zb (f_J12_hashCode G a9 s12) fun v15 s16 =>
if v15 = 105405 then (zo (zrc s16 (some a9) 17) fun _ =>
zb (f_J12_equals G a9 (some (G 11)) s16) fun v20 s21 =>
if v20 = 0 then (f_X9_statement_b110 G l0 v5 (-1) s21)
else (f_X9_statement_b110 G l0 v5 0 s21)) else
if v15 = 3059661 then (zo (zrc s16 (some a9) 17) fun _ =>
zb (f_J12_equals G a9 (some (G 14)) s16) fun v26 s27 =>
if v26 = 0 then (f_X9_statement_b110 G l0 v5 (-1) s27)
else (f_X9_statement_b110 G l0 v5 2 s27)) else
if v15 = 825312327 then (zo (zrc s16 (some a9) 17) fun _ =>
zb (f_J12_equals G a9 (some (G 13)) s16) fun v32 s33 =>
if v32 = 0 then (f_X9_statement_b110 G l0 v5 (-1) s33)
else (f_X9_statement_b110 G l0 v5 1 s33)) else
(f_X9_statement_b110 G l0 v5 (-1) s16)
set_option maxHeartbeats 4000000 in
theorem m_X9_statement (Γ : zG) (l0 : Nat) (s0 s1 : zS) (r : (Unit ⊕ (Nat × Nat))) (hf : f_X9_statement Γ.1 l0 s0 = some (r, s1)) : ZM Γ yX9_statement (ws_ yX9_statement cX9_statement 7 none) 81 1910 [zr (some l0)] s0 (zoU r, s1) := by
  refine ZM.of (own := RX9) (by decide) rfl (Nat.le_of_ble_eq_true rfl) ?_
  intro X hg hC hL hno hQ hin
  subst hg
  unfold f_X9_statement at hf
  refine z_aload_n hC (pc := 0) dX9_statement_0 rfl 0 rfl ?_
  obtain ⟨fs1, ha2, hf⟩ := z_rcN hf
  refine z_cR (rest := []) hf (fun v3 s4 hcall => z_runV hC (pc := 1) zcX9 0 ha2 (m_X9_word X.g l0 s0 s4 v3 hcall) (lw_V q2059 q2061 qs25 q113 q2062) hdV_X9_word ⟨(Nat.le_of_ble_eq_true rfl), (Nat.le_of_ble_eq_true rfl)⟩ rfl (Nat.le_of_ble_eq_true rfl) dX9_statement_1 rfl) (fun v3 s4 hf => ?_)
  refine z_astore_n (lv' := [(1, zr v3), (0, zr (some l0))]) hC (pc := 4) hL dX9_statement_4 rfl (Nat.le_of_ble_eq_true rfl) rfl ?_
  refine z_aload_n hC (pc := 5) dX9_statement_5 rfl 1 rfl ?_
  refine z_getI hC (pc := 6) in_X9 zcX9 3 (Nat.le_of_ble_eq_true rfl) (zLk.o hC q2033) zsm dX9_statement_6 hf (fun v5 hf => ?_)
  refine z_istore_n (lv' := [(2, zi v5), (1, zr v3), (0, zr (some l0))]) hC (pc := 9) hL dX9_statement_9 rfl (Nat.le_of_ble_eq_true rfl) rfl ?_
  refine z_aload_n hC (pc := 10) dX9_statement_10 rfl 2 rfl ?_
  refine z_dup hC (pc := 11) dX9_statement_11 rfl ?_
  refine z_getI hC (pc := 12) in_X9 zcX9 3 (Nat.le_of_ble_eq_true rfl) (zLk.o hC q2033) zsm dX9_statement_12 hf (fun v6 hf => ?_)
  refine z_aload_n hC (pc := 15) dX9_statement_15 rfl 1 rfl ?_
  obtain ⟨a9, fs7, rfl, ha8, hf⟩ := z_rcO hf
  refine z_cI (rest := [zi v6, zr (some l0)]) hf (fun v10 s11 hcall => z_runV hC (pc := 16) zcJ12 0 ha8 (m_J12_length X.g a9 s4 s11 v10 hcall) (lw_V q2149 q658 q659 q116 q660) hdV_J12_length ⟨(Nat.le_of_ble_eq_true rfl), (Nat.le_of_ble_eq_true rfl)⟩ rfl (Nat.le_of_ble_eq_true rfl) dX9_statement_16 rfl) (fun v10 s11 hf => ?_)
  refine z_iadd hC (pc := 19) dX9_statement_19 ?_
  refine z_putV (v := zi (v6 + v10)) hC (pc := 20) in_X9 tyX9 tyX9_ok nmX9 zcX9 3 (Nat.le_of_ble_eq_true rfl) (zLk.o hC q2033) zsm (Or.inl rfl) rfl rfl dX9_statement_20 hf (fun s12 hf => ?_)
  refine z_aload_n hC (pc := 23) dX9_statement_23 rfl 1 rfl ?_
  refine z_astore_n (lv' := [(3, zr (some a9)), (2, zi v5), (1, zr (some a9)), (0, zr (some l0))]) hC (pc := 24) hL dX9_statement_24 rfl (Nat.le_of_ble_eq_true rfl) rfl ?_
  refine z_iconst (v := (-1)) hC (pc := 25) dX9_statement_25 zki_m1 ?_
  refine z_istore (lv' := [(4, zi (-1)), (3, zr (some a9)), (2, zi v5), (1, zr (some a9)), (0, zr (some l0))]) hC (pc := 26) hL dX9_statement_26 (Nat.le_of_ble_eq_true rfl) rfl ?_
  refine z_aload_n hC (pc := 28) dX9_statement_28 rfl 1 rfl ?_
  obtain ⟨fs13, ha14, hf⟩ := z_rcN hf
  refine z_cI (rest := []) hf (fun v15 s16 hcall => z_runV hC (pc := 29) zcJ12 0 ha14 (m_J12_hashCode X.g a9 s12 s16 v15 hcall) (lw_V q2150 q906 q907 q116 q908) hdV_J12_hashCode ⟨(Nat.le_of_ble_eq_true rfl), (Nat.le_of_ble_eq_true rfl)⟩ rfl (Nat.le_of_ble_eq_true rfl) dX9_statement_29 rfl) (fun v15 s16 hf => ?_)
  by_cases c17 : v15 = 105405
  · have hf := zif_t hf c17
    refine z_look hC (pc := 32) (tgt := 68) dX9_statement_32 c17 (by decide) rfl rfl ?_
    refine z_aload_n hC (pc := 68) dX9_statement_68 rfl 1 rfl ?_
    refine z_lit (k := 11) hC (pc := 69) (List.mem_of_getElem? (i := 14) rfl) dX9_statement_69 ?_
    obtain ⟨fs18, ha19, hf⟩ := z_rcN hf
    refine z_cI (rest := []) hf (fun v20 s21 hcall => z_runV hC (pc := 71) zcJ12 1 ha19 (m_J12_equals X.g a9 (some (X.g.1 11)) s16 s21 v20 hcall) (lw_V q2098 q968 q969 q116 q970) hdV_J12_equals ⟨(Nat.le_of_ble_eq_true rfl), (Nat.le_of_ble_eq_true rfl)⟩ rfl (Nat.le_of_ble_eq_true rfl) dX9_statement_71 rfl) (fun v20 s21 hf => ?_)
    refine z_if_eq hC (pc := 74) (tgt := 110) dX9_statement_74 rfl (fun c22 => ?_) (fun c22 => ?_)
    · have hf := zif_t hf c22
      refine ZW.perm (lv' := [(0, zr (some l0)), (2, zi v5), (4, zi (-1))]) [4, 2, 0] rfl ?_
      exact w_X9_statement_b110 hC hL hno hQ l0 v5 (-1) s21 hf
    · have hf := zif_f hf c22
      refine z_iconst (v := 0) hC (pc := 77) dX9_statement_77 zki_0 ?_
      refine z_istore (lv' := [(4, zi 0), (3, zr (some a9)), (2, zi v5), (1, zr (some a9)), (0, zr (some l0))]) hC (pc := 78) hL dX9_statement_78 (Nat.le_of_ble_eq_true rfl) rfl ?_
      refine z_goto hC (pc := 80) (tgt := 110) dX9_statement_80 rfl ?_
      refine ZW.perm (lv' := [(0, zr (some l0)), (2, zi v5), (4, zi 0)]) [4, 2, 0] rfl ?_
      exact w_X9_statement_b110 hC hL hno hQ l0 v5 0 s21 hf
  · have hf := zif_f hf c17
    by_cases c23 : v15 = 3059661
    · have hf := zif_t hf c23
      refine z_look hC (pc := 32) (tgt := 98) dX9_statement_32 c23 (by decide) rfl rfl ?_
      refine z_aload_n hC (pc := 98) dX9_statement_98 rfl 1 rfl ?_
      refine z_lit (k := 14) hC (pc := 99) (List.mem_of_getElem? (i := 16) rfl) dX9_statement_99 ?_
      obtain ⟨fs24, ha25, hf⟩ := z_rcN hf
      refine z_cI (rest := []) hf (fun v26 s27 hcall => z_runV hC (pc := 101) zcJ12 1 ha25 (m_J12_equals X.g a9 (some (X.g.1 14)) s16 s27 v26 hcall) (lw_V q2098 q968 q969 q116 q970) hdV_J12_equals ⟨(Nat.le_of_ble_eq_true rfl), (Nat.le_of_ble_eq_true rfl)⟩ rfl (Nat.le_of_ble_eq_true rfl) dX9_statement_101 rfl) (fun v26 s27 hf => ?_)
      refine z_if_eq hC (pc := 104) (tgt := 110) dX9_statement_104 rfl (fun c28 => ?_) (fun c28 => ?_)
      · have hf := zif_t hf c28
        refine ZW.perm (lv' := [(0, zr (some l0)), (2, zi v5), (4, zi (-1))]) [4, 2, 0] rfl ?_
        exact w_X9_statement_b110 hC hL hno hQ l0 v5 (-1) s27 hf
      · have hf := zif_f hf c28
        refine z_iconst (v := 2) hC (pc := 107) dX9_statement_107 zki_2 ?_
        refine z_istore (lv' := [(4, zi 2), (3, zr (some a9)), (2, zi v5), (1, zr (some a9)), (0, zr (some l0))]) hC (pc := 108) hL dX9_statement_108 (Nat.le_of_ble_eq_true rfl) rfl ?_
        refine ZW.perm (lv' := [(0, zr (some l0)), (2, zi v5), (4, zi 2)]) [4, 2, 0] rfl ?_
        exact w_X9_statement_b110 hC hL hno hQ l0 v5 2 s27 hf
    · have hf := zif_f hf c23
      by_cases c29 : v15 = 825312327
      · have hf := zif_t hf c29
        refine z_look hC (pc := 32) (tgt := 83) dX9_statement_32 c29 (by decide) rfl rfl ?_
        refine z_aload_n hC (pc := 83) dX9_statement_83 rfl 1 rfl ?_
        refine z_lit (k := 13) hC (pc := 84) (List.mem_of_getElem? (i := 15) rfl) dX9_statement_84 ?_
        obtain ⟨fs30, ha31, hf⟩ := z_rcN hf
        refine z_cI (rest := []) hf (fun v32 s33 hcall => z_runV hC (pc := 86) zcJ12 1 ha31 (m_J12_equals X.g a9 (some (X.g.1 13)) s16 s33 v32 hcall) (lw_V q2098 q968 q969 q116 q970) hdV_J12_equals ⟨(Nat.le_of_ble_eq_true rfl), (Nat.le_of_ble_eq_true rfl)⟩ rfl (Nat.le_of_ble_eq_true rfl) dX9_statement_86 rfl) (fun v32 s33 hf => ?_)
        refine z_if_eq hC (pc := 89) (tgt := 110) dX9_statement_89 rfl (fun c34 => ?_) (fun c34 => ?_)
        · have hf := zif_t hf c34
          refine ZW.perm (lv' := [(0, zr (some l0)), (2, zi v5), (4, zi (-1))]) [4, 2, 0] rfl ?_
          exact w_X9_statement_b110 hC hL hno hQ l0 v5 (-1) s33 hf
        · have hf := zif_f hf c34
          refine z_iconst (v := 1) hC (pc := 92) dX9_statement_92 zki_1 ?_
          refine z_istore (lv' := [(4, zi 1), (3, zr (some a9)), (2, zi v5), (1, zr (some a9)), (0, zr (some l0))]) hC (pc := 93) hL dX9_statement_93 (Nat.le_of_ble_eq_true rfl) rfl ?_
          refine z_goto hC (pc := 95) (tgt := 110) dX9_statement_95 rfl ?_
          refine ZW.perm (lv' := [(0, zr (some l0)), (2, zi v5), (4, zi 1)]) [4, 2, 0] rfl ?_
          exact w_X9_statement_b110 hC hL hno hQ l0 v5 1 s33 hf
      · have hf := zif_f hf c29
        have ec17 : (v15 : Int32).toInt ≠ (105405 : Int) := fun z => c17 (Int32.toInt_inj.mp (z.trans (by decide)))
        have ec23 : (v15 : Int32).toInt ≠ (3059661 : Int) := fun z => c23 (Int32.toInt_inj.mp (z.trans (by decide)))
        have ec29 : (v15 : Int32).toInt ≠ (825312327 : Int) := fun z => c29 (Int32.toInt_inj.mp (z.trans (by decide)))
        have hz : Op.lookupswitch.offset [(105405, 36), (3059661, 66), (825312327, 51)] (78) (v15 : Int32).toInt = (78) := by rw [Op.lookupswitch.offset_cons, if_neg (Ne.symm ec17), Op.lookupswitch.offset_cons, if_neg (Ne.symm ec23), Op.lookupswitch.offset_cons, if_neg (Ne.symm ec29)]; rfl
        refine z_lookD hC (pc := 32) (tgt := 110) dX9_statement_32 (by decide) hz rfl ?_
        refine ZW.perm (lv' := [(0, zr (some l0)), (2, zi v5), (4, zi (-1))]) [4, 2, 0] rfl ?_
        exact w_X9_statement_b110 hC hL hno hQ l0 v5 (-1) s16 hf
/-! BlockingShop$Plan.first()V -/
def f_X3_first_b77 (G : Nat → Nat) (k23 : Nat → Int32 → zS → Option (Unit × zS)) (l0 : Nat) (l1 : Int32) (s0 : zS) : Option (Unit × zS) :=
k23 l0 (l1 + 1) s0
set_option maxHeartbeats 4000000 in
theorem w_X3_first_b77 {X : zX} (hC : ZC X RX3 cX3_first none 5 85) (hL : X.nL = 3) (hno : ∀ x ∈ X.c.exceptionTable.toList, False) {r : Unit} {sF : zS} (hQ : ZQ X (.inl none, sF)) (k23 : Nat → Int32 → zS → Option (Unit × zS)) (hk23 : ∀ (l0 : Nat) (l1 : Int32) (s0 : zS), k23 l0 l1 s0 = some (r, sF) → ZW X s0 23 [(0, zr (some l0)), (1, zi l1)] []) (l0 : Nat) (l1 : Int32) (s0 : zS) (hf : f_X3_first_b77 X.g.1 k23 l0 l1 s0 = some (r, sF)) : ZW X s0 77 [(0, zr (some l0)), (1, zi l1)] [] := by
  unfold f_X3_first_b77 at hf
  refine z_iinc (v := 1) (lv' := [(1, zi (l1 + 1)), (0, zr (some l0))]) hC (pc := 77) hL dX3_first_77 1 rfl zki_1 (Nat.le_of_ble_eq_true rfl) rfl ?_
  refine z_goto hC (pc := 80) (tgt := 23) dX3_first_80 rfl ?_
  refine ZW.perm (lv' := [(0, zr (some l0)), (1, zi (l1 + 1))]) [1, 0] rfl ?_
  exact hk23 l0 (l1 + 1) s0 hf
def f_X3_first_b23 (G : Nat → Nat) (k23 : Nat → Int32 → zS → Option (Unit × zS)) (l0 : Nat) (l1 : Int32) (s0 : zS) : Option (Unit × zS) :=
if 36 ≤ l1 then (some ((), s0))
else (zo (zgR s0 (some l0) 2 0) fun v2 =>
zo (zrc s0 v2 3) fun a5 =>
zb (f_X4_exists G a5 l1 s0) fun v6 s7 =>
if v6 = 0 then (f_X3_first_b77 G k23 l0 l1 s7)
else (zo (zgR s7 (some l0) 2 0) fun v9 =>
zo (zgR s7 v9 3 4) fun v10 =>
zo (zaI s7 v10 0 l1) fun v11 =>
zo (zgR s7 (some l0) 2 4) fun v12 =>
zo (zaR s7 v12 v11) fun v13 =>
zo (zgR s7 (some l0) 2 2) fun v14 =>
zo (zaI s7 v14 0 v11) fun v15 =>
zo (zsI G s7 v13 0 v15 l1) fun s16 =>
zo (zgR s16 (some l0) 2 2) fun v17 =>
zo (zaI s16 v17 0 v11) fun v18 =>
zo (zsI G s16 v17 0 v11 (v18 + 1)) fun s19 =>
f_X3_first_b77 G k23 l0 l1 s19))
set_option maxHeartbeats 4000000 in
theorem w_X3_first_b23 {X : zX} (hC : ZC X RX3 cX3_first none 5 85) (hL : X.nL = 3) (hno : ∀ x ∈ X.c.exceptionTable.toList, False) {r : Unit} {sF : zS} (hQ : ZQ X (.inl none, sF)) (k23 : Nat → Int32 → zS → Option (Unit × zS)) (hk23 : ∀ (l0 : Nat) (l1 : Int32) (s0 : zS), k23 l0 l1 s0 = some (r, sF) → ZW X s0 23 [(0, zr (some l0)), (1, zi l1)] []) (l0 : Nat) (l1 : Int32) (s0 : zS) (hf : f_X3_first_b23 X.g.1 k23 l0 l1 s0 = some (r, sF)) : ZW X s0 23 [(0, zr (some l0)), (1, zi l1)] [] := by
  unfold f_X3_first_b23 at hf
  refine z_iload_n hC (pc := 23) dX3_first_23 rfl 1 rfl ?_
  refine z_bipush (v := 36) hC (pc := 24) dX3_first_24 zkb_36 ?_
  refine z_icmp_ge hC (pc := 26) (tgt := 83) dX3_first_26 rfl (fun c1 => ?_) (fun c1 => ?_)
  · have hf := zif_t hf c1
    exact z_return hC (pc := 83) hQ dX3_first_83 hf
  · have hf := zif_f hf c1
    refine z_aload_n hC (pc := 29) dX3_first_29 rfl 0 rfl ?_
    refine z_getR hC (pc := 30) in_X3 zcX3 0 (Nat.le_of_ble_eq_true rfl) (zLk.o hC q364) zsm dX3_first_30 hf (fun v2 hf => ?_)
    refine z_iload_n hC (pc := 33) dX3_first_33 rfl 1 rfl ?_
    obtain ⟨a5, fs3, rfl, ha4, hf⟩ := z_rcO hf
    refine z_cI (rest := []) hf (fun v6 s7 hcall => z_runV hC (pc := 34) zcX4 1 ha4 (m_X4_exists X.g a5 l1 s0 s7 v6 hcall) (lw_V q1913 q1872 q1873 q100 q1874) hdV_X4_exists ⟨(Nat.le_of_ble_eq_true rfl), (Nat.le_of_ble_eq_true rfl)⟩ rfl (Nat.le_of_ble_eq_true rfl) dX3_first_34 rfl) (fun v6 s7 hf => ?_)
    refine z_if_ne hC (pc := 37) (tgt := 43) dX3_first_37 rfl (fun c8 => ?_) (fun c8 => ?_)
    · have hf := zif_f hf c8
      refine z_aload_n hC (pc := 43) dX3_first_43 rfl 0 rfl ?_
      refine z_getR hC (pc := 44) in_X3 zcX3 0 (Nat.le_of_ble_eq_true rfl) (zLk.o hC q364) zsm dX3_first_44 hf (fun v9 hf => ?_)
      refine z_getR hC (pc := 47) in_X4 zcX4 4 (Nat.le_of_ble_eq_true rfl) (zLk.n hC q336) zsm dX3_first_47 hf (fun v10 hf => ?_)
      refine z_iload_n hC (pc := 50) dX3_first_50 rfl 1 rfl ?_
      refine z_iald hC (pc := 51) dX3_first_51 hf (fun v11 hf => ?_)
      refine z_istore_n (lv' := [(2, zi v11), (0, zr (some l0)), (1, zi l1)]) hC (pc := 52) hL dX3_first_52 rfl (Nat.le_of_ble_eq_true rfl) rfl ?_
      refine z_aload_n hC (pc := 53) dX3_first_53 rfl 1 rfl ?_
      refine z_getR hC (pc := 54) in_X3 zcX3 4 (Nat.le_of_ble_eq_true rfl) (zLk.o hC q376) zsm dX3_first_54 hf (fun v12 hf => ?_)
      refine z_iload_n hC (pc := 57) dX3_first_57 rfl 0 rfl ?_
      refine z_aald hC (pc := 58) dX3_first_58 hf (fun v13 hf => ?_)
      refine z_aload_n hC (pc := 59) dX3_first_59 rfl 1 rfl ?_
      refine z_getR hC (pc := 60) in_X3 zcX3 2 (Nat.le_of_ble_eq_true rfl) (zLk.o hC q371) zsm dX3_first_60 hf (fun v14 hf => ?_)
      refine z_iload_n hC (pc := 63) dX3_first_63 rfl 0 rfl ?_
      refine z_iald hC (pc := 64) dX3_first_64 hf (fun v15 hf => ?_)
      refine z_iload_n hC (pc := 65) dX3_first_65 rfl 2 rfl ?_
      refine z_iast hC (pc := 66) dX3_first_66 hf (fun s16 hf => ?_)
      refine z_aload_n hC (pc := 67) dX3_first_67 rfl 1 rfl ?_
      refine z_getR hC (pc := 68) in_X3 zcX3 2 (Nat.le_of_ble_eq_true rfl) (zLk.o hC q371) zsm dX3_first_68 hf (fun v17 hf => ?_)
      refine z_iload_n hC (pc := 71) dX3_first_71 rfl 0 rfl ?_
      refine z_dup2 hC (pc := 72) dX3_first_72 rfl rfl ?_
      refine z_iald hC (pc := 73) dX3_first_73 hf (fun v18 hf => ?_)
      refine z_iconst (v := 1) hC (pc := 74) dX3_first_74 zki_1 ?_
      refine z_iadd hC (pc := 75) dX3_first_75 ?_
      refine z_iast hC (pc := 76) dX3_first_76 hf (fun s19 hf => ?_)
      refine ZW.perm (lv' := [(0, zr (some l0)), (1, zi l1)]) [1, 2] rfl ?_
      exact w_X3_first_b77 hC hL hno hQ k23 hk23 l0 l1 s19 hf
    · have hf := zif_t hf c8
      refine z_goto hC (pc := 40) (tgt := 77) dX3_first_40 rfl ?_
      exact w_X3_first_b77 hC hL hno hQ k23 hk23 l0 l1 s7 hf
def f_X3_first_l23 (G : Nat → Nat) : Nat → Nat → Int32 → zS → Option (Unit × zS)
  | 0 => fun _ _ _ => none
  | n + 1 => f_X3_first_b23 G (f_X3_first_l23 G n)
theorem w_X3_first_l23 {X : zX} (hC : ZC X RX3 cX3_first none 5 85) (hL : X.nL = 3) (hno : ∀ x ∈ X.c.exceptionTable.toList, False) {r : Unit} {sF : zS} (hQ : ZQ X (.inl none, sF)) : ∀ (n : Nat) (l0 : Nat) (l1 : Int32) (s0 : zS) (_ : f_X3_first_l23 X.g.1 n l0 l1 s0 = some (r, sF)), ZW X s0 23 [(0, zr (some l0)), (1, zi l1)] [] := by
  intro n
  induction n with
  | zero => intro l0 l1 s0 hf; exact absurd (show (none : Option (Unit × zS)) = some (r, sF) from hf) (fun z => nomatch z)
  | succ n ih => intro l0 l1 s0 hf; exact w_X3_first_b23 hC hL hno hQ (f_X3_first_l23 X.g.1 n) ih l0 l1 s0 hf
def f_X3_first_b2 (G : Nat → Nat) (k2 : Nat → Int32 → zS → Option (Unit × zS)) (l0 : Nat) (l1 : Int32) (s0 : zS) : Option (Unit × zS) :=
if 6 ≤ l1 then (f_X3_first_l23 G 2000 l0 0 s0)
else (zo (zgR s0 (some l0) 2 2) fun v2 =>
zo (zsI G s0 v2 0 l1 0) fun s3 =>
k2 l0 (l1 + 1) s3)
set_option maxHeartbeats 4000000 in
theorem w_X3_first_b2 {X : zX} (hC : ZC X RX3 cX3_first none 5 85) (hL : X.nL = 3) (hno : ∀ x ∈ X.c.exceptionTable.toList, False) {r : Unit} {sF : zS} (hQ : ZQ X (.inl none, sF)) (k2 : Nat → Int32 → zS → Option (Unit × zS)) (hk2 : ∀ (l0 : Nat) (l1 : Int32) (s0 : zS), k2 l0 l1 s0 = some (r, sF) → ZW X s0 2 [(0, zr (some l0)), (1, zi l1)] []) (l0 : Nat) (l1 : Int32) (s0 : zS) (hf : f_X3_first_b2 X.g.1 k2 l0 l1 s0 = some (r, sF)) : ZW X s0 2 [(0, zr (some l0)), (1, zi l1)] [] := by
  unfold f_X3_first_b2 at hf
  refine z_iload_n hC (pc := 2) dX3_first_2 rfl 1 rfl ?_
  refine z_bipush (v := 6) hC (pc := 3) dX3_first_3 zkb_6 ?_
  refine z_icmp_ge hC (pc := 5) (tgt := 21) dX3_first_5 rfl (fun c1 => ?_) (fun c1 => ?_)
  · have hf := zif_t hf c1
    refine z_iconst (v := 0) hC (pc := 21) dX3_first_21 zki_0 ?_
    refine z_istore_n (lv' := [(1, zi 0), (0, zr (some l0))]) hC (pc := 22) hL dX3_first_22 rfl (Nat.le_of_ble_eq_true rfl) rfl ?_
    refine ZW.perm (lv' := [(0, zr (some l0)), (1, zi 0)]) [1, 0] rfl ?_
    exact w_X3_first_l23 hC hL hno hQ 2000 l0 0 s0 hf
  · have hf := zif_f hf c1
    refine z_aload_n hC (pc := 8) dX3_first_8 rfl 0 rfl ?_
    refine z_getR hC (pc := 9) in_X3 zcX3 2 (Nat.le_of_ble_eq_true rfl) (zLk.o hC q371) zsm dX3_first_9 hf (fun v2 hf => ?_)
    refine z_iload_n hC (pc := 12) dX3_first_12 rfl 1 rfl ?_
    refine z_iconst (v := 0) hC (pc := 13) dX3_first_13 zki_0 ?_
    refine z_iast hC (pc := 14) dX3_first_14 hf (fun s3 hf => ?_)
    refine z_iinc (v := 1) (lv' := [(1, zi (l1 + 1)), (0, zr (some l0))]) hC (pc := 15) hL dX3_first_15 1 rfl zki_1 (Nat.le_of_ble_eq_true rfl) rfl ?_
    refine z_goto hC (pc := 18) (tgt := 2) dX3_first_18 rfl ?_
    refine ZW.perm (lv' := [(0, zr (some l0)), (1, zi (l1 + 1))]) [1, 0] rfl ?_
    exact hk2 l0 (l1 + 1) s3 hf
def f_X3_first_l2 (G : Nat → Nat) : Nat → Nat → Int32 → zS → Option (Unit × zS)
  | 0 => fun _ _ _ => none
  | n + 1 => f_X3_first_b2 G (f_X3_first_l2 G n)
theorem w_X3_first_l2 {X : zX} (hC : ZC X RX3 cX3_first none 5 85) (hL : X.nL = 3) (hno : ∀ x ∈ X.c.exceptionTable.toList, False) {r : Unit} {sF : zS} (hQ : ZQ X (.inl none, sF)) : ∀ (n : Nat) (l0 : Nat) (l1 : Int32) (s0 : zS) (_ : f_X3_first_l2 X.g.1 n l0 l1 s0 = some (r, sF)), ZW X s0 2 [(0, zr (some l0)), (1, zi l1)] [] := by
  intro n
  induction n with
  | zero => intro l0 l1 s0 hf; exact absurd (show (none : Option (Unit × zS)) = some (r, sF) from hf) (fun z => nomatch z)
  | succ n ih => intro l0 l1 s0 hf; exact w_X3_first_b2 hC hL hno hQ (f_X3_first_l2 X.g.1 n) ih l0 l1 s0 hf
def f_X3_first (G : Nat → Nat) (l0 : Nat) (s0 : zS) : Option (Unit × zS) :=
f_X3_first_l2 G 2000 l0 0 s0
set_option maxHeartbeats 4000000 in
theorem m_X3_first (Γ : zG) (l0 : Nat) (s0 s1 : zS) (r : Unit) (hf : f_X3_first Γ.1 l0 s0 = some (r, s1)) : ZM Γ yX3_first (ws_ yX3_first cX3_first 3 none) 5 85 [zr (some l0)] s0 (.inl none, s1) := by
  refine ZM.of (own := RX3) (by decide) rfl (Nat.le_of_ble_eq_true rfl) ?_
  intro X hg hC hL hno hQ hin
  subst hg
  unfold f_X3_first at hf
  refine z_iconst (v := 0) hC (pc := 0) dX3_first_0 zki_0 ?_
  refine z_istore_n (lv' := [(1, zi 0), (0, zr (some l0))]) hC (pc := 1) hL dX3_first_1 rfl (Nat.le_of_ble_eq_true rfl) rfl ?_
  refine ZW.perm (lv' := [(0, zr (some l0)), (1, zi 0)]) [1, 0] rfl ?_
  exact w_X3_first_l2 hC hL hno hQ 2000 l0 0 s0 hf
/-! BlockingShop$Parser.parse()LBlockingShop$Plan; -/
def f_X9_parse_b108 (G : Nat → Nat) (l0 : Nat) (t0 : Int32) (t1 : Option Nat) (s0 : zS) : Option ((Option Nat ⊕ (Nat × Nat)) × zS) :=
zo (zgI s0 (some l0) 7 0) fun v1 =>
zo (zrc s0 t1 7) fun a4 =>
zx (f_X9_require G a4 t0 (-2) v1 s0) (fun e s => some (.inr e, s)) fun _ s6 =>
zb (znewO G s6 2 5 [.null, .null, .null, .null, .null]) fun a7 s8 =>
zo (zgR s8 (some l0) 7 2) fun v9 =>
zb (f_X3_init G a7 v9 s8) fun _ s11 =>
zo (zgR s11 (some l0) 7 1) fun v12 =>
zo (zgR s11 (some a7) 2 1) fun v13 =>
zo (zcpI G s11 v12 0 v13 0 36) fun s14 =>
zo (zrc s14 (some a7) 2) fun _ =>
zb (f_X3_first G a7 s14) fun _ s18 =>
some (.inl (some a7), s18)
set_option maxHeartbeats 4000000 in
theorem w_X9_parse_b108 {X : zX} (hC : ZC X RX9 cX9_parse (some (.object "BlockingShop$Plan")) 82 1936) (hL : X.nL = 4) (hno : ∀ x ∈ X.c.exceptionTable.toList, False) {r : (Option Nat ⊕ (Nat × Nat))} {sF : zS} (hQ : ZQ X (zoR r, sF)) (l0 : Nat) (t0 : Int32) (t1 : Option Nat) (s0 : zS) (hf : f_X9_parse_b108 X.g.1 l0 t0 t1 s0 = some (r, sF)) : ZW X s0 108 [(0, zr (some l0))] [zi t0, zr t1] := by
  unfold f_X9_parse_b108 at hf
  refine z_bipush (v := (-2)) hC (pc := 108) dX9_parse_108 zkb_m2 ?_
  refine z_aload_n hC (pc := 110) dX9_parse_110 rfl 0 rfl ?_
  refine z_getI hC (pc := 111) in_X9 zcX9 0 (Nat.le_of_ble_eq_true rfl) (zLk.o hC q2030) zsm dX9_parse_111 hf (fun v1 hf => ?_)
  obtain ⟨a4, fs2, rfl, ha3, hf⟩ := z_rcO hf
  refine z_cXU (rest := []) hf (fun v5 s6 hcall => z_runV hC (pc := 114) zcX9 3 ha3 (m_X9_require X.g a4 t0 (-2) v1 s0 s6 v5 hcall) (lw_V q2099 q2101 qs28 q113 q2102) hdV_X9_require ⟨(Nat.le_of_ble_eq_true rfl), (Nat.le_of_ble_eq_true rfl)⟩ rfl (Nat.le_of_ble_eq_true rfl) dX9_parse_114 rfl) (fun _ s6 hf => ?_) (fun e s hf => z_outR hC hQ hno hf)
  refine z_new hC (pc := 117) in_X3 tyX3 tyX3_ok zcX3 q2473 q224 q99 rfl zdX3 dX9_parse_117 hf (fun a7 s8 hf => ?_)
  refine z_dup hC (pc := 120) dX9_parse_120 rfl ?_
  refine z_aload_n hC (pc := 121) dX9_parse_121 rfl 0 rfl ?_
  refine z_getR hC (pc := 122) in_X9 zcX9 2 (Nat.le_of_ble_eq_true rfl) (zLk.o hC q2032) zsm dX9_parse_122 hf (fun v9 hf => ?_)
  refine z_cU (rest := [zr (some a7)]) hf (fun v10 s11 hcall => z_runI hC (pc := 125) 1 (m_X3_init X.g a7 v9 s8 s11 v10 hcall) q360 rfl q99 q2474 q359 hd_X3_init ⟨(Nat.le_of_ble_eq_true rfl), (Nat.le_of_ble_eq_true rfl)⟩ rfl (Nat.le_of_ble_eq_true rfl) dX9_parse_125 rfl) (fun _ s11 hf => ?_)
  refine z_astore_n (lv' := [(3, zr (some a7)), (0, zr (some l0))]) hC (pc := 128) hL dX9_parse_128 rfl (Nat.le_of_ble_eq_true rfl) rfl ?_
  refine z_aload_n hC (pc := 129) dX9_parse_129 rfl 1 rfl ?_
  refine z_getR hC (pc := 130) in_X9 zcX9 1 (Nat.le_of_ble_eq_true rfl) (zLk.o hC q2031) zsm dX9_parse_130 hf (fun v12 hf => ?_)
  refine z_iconst (v := 0) hC (pc := 133) dX9_parse_133 zki_0 ?_
  refine z_aload_n hC (pc := 134) dX9_parse_134 rfl 0 rfl ?_
  refine z_getR hC (pc := 135) in_X3 zcX3 1 (Nat.le_of_ble_eq_true rfl) (zLk.n hC q369) zsm dX9_parse_135 hf (fun v13 hf => ?_)
  refine z_iconst (v := 0) hC (pc := 138) dX9_parse_138 zki_0 ?_
  refine z_bipush (v := 36) hC (pc := 139) dX9_parse_139 zkb_36 ?_
  refine z_copyI hC (pc := 141) q2475 q625 q624 q121 (Nat.le_of_ble_eq_true rfl) (Nat.le_of_ble_eq_true rfl) dX9_parse_141 hf (fun s14 hf => ?_)
  refine z_aload_n hC (pc := 144) dX9_parse_144 rfl 0 rfl ?_
  obtain ⟨fs15, ha16, hf⟩ := z_rcN hf
  refine z_cU (rest := []) hf (fun v17 s18 hcall => z_runV hC (pc := 145) zcX3 0 ha16 (m_X3_first X.g a7 s14 s18 v17 hcall) (lw_V q2476 q1910 q1911 q99 q1912) hdV_X3_first ⟨(Nat.le_of_ble_eq_true rfl), (Nat.le_of_ble_eq_true rfl)⟩ rfl (Nat.le_of_ble_eq_true rfl) dX9_parse_145 rfl) (fun _ s18 hf => ?_)
  refine z_aload_n hC (pc := 148) dX9_parse_148 rfl 0 rfl ?_
  exact z_areturnX hC (pc := 149) (Or.inl ⟨_, rfl⟩) hQ dX9_parse_149 hf
def f_X9_parse_b72 (G : Nat → Nat) (k72 : Nat → zS → Option ((Option Nat ⊕ (Nat × Nat)) × zS)) (l0 : Nat) (s0 : zS) : Option ((Option Nat ⊕ (Nat × Nat)) × zS) :=
zo (zrc s0 (some l0) 7) fun _ =>
zb (f_X9_peek G l0 s0) fun v3 s4 =>
if v3 = (-1) then (zo (zgR s4 (some l0) 7 2) fun v6 =>
zo (zgR s4 v6 3 3) fun v7 =>
zo (zrc s4 v7 15) fun a10 =>
zb (f_J5_isEmpty G a10 s4) fun v11 s12 =>
if v11 = 0 then (f_X9_parse_b108 G l0 1 (some l0) s12)
else (f_X9_parse_b108 G l0 0 (some l0) s12))
else (zo (zrc s4 (some l0) 7) fun _ =>
zx (f_X9_statement G l0 s4) (fun e s => some (.inr e, s)) fun _ s17 =>
k72 l0 s17)
set_option maxHeartbeats 4000000 in
theorem w_X9_parse_b72 {X : zX} (hC : ZC X RX9 cX9_parse (some (.object "BlockingShop$Plan")) 82 1936) (hL : X.nL = 4) (hno : ∀ x ∈ X.c.exceptionTable.toList, False) {r : (Option Nat ⊕ (Nat × Nat))} {sF : zS} (hQ : ZQ X (zoR r, sF)) (k72 : Nat → zS → Option ((Option Nat ⊕ (Nat × Nat)) × zS)) (hk72 : ∀ (l0 : Nat) (s0 : zS), k72 l0 s0 = some (r, sF) → ZW X s0 72 [(0, zr (some l0))] []) (l0 : Nat) (s0 : zS) (hf : f_X9_parse_b72 X.g.1 k72 l0 s0 = some (r, sF)) : ZW X s0 72 [(0, zr (some l0))] [] := by
  unfold f_X9_parse_b72 at hf
  refine z_aload_n hC (pc := 72) dX9_parse_72 rfl 0 rfl ?_
  obtain ⟨fs1, ha2, hf⟩ := z_rcN hf
  refine z_cI (rest := []) hf (fun v3 s4 hcall => z_runV hC (pc := 73) zcX9 0 ha2 (m_X9_peek X.g l0 s0 s4 v3 hcall) (lw_V q2063 q2065 qs26 q113 q2066) hdV_X9_peek ⟨(Nat.le_of_ble_eq_true rfl), (Nat.le_of_ble_eq_true rfl)⟩ rfl (Nat.le_of_ble_eq_true rfl) dX9_parse_73 rfl) (fun v3 s4 hf => ?_)
  refine z_iconst (v := (-1)) hC (pc := 76) dX9_parse_76 zki_m1 ?_
  refine z_icmp_eq hC (pc := 77) (tgt := 87) dX9_parse_77 rfl (fun c5 => ?_) (fun c5 => ?_)
  · have hf := zif_t hf c5
    refine z_aload_n hC (pc := 87) dX9_parse_87 rfl 0 rfl ?_
    refine z_aload_n hC (pc := 88) dX9_parse_88 rfl 0 rfl ?_
    refine z_getR hC (pc := 89) in_X9 zcX9 2 (Nat.le_of_ble_eq_true rfl) (zLk.o hC q2032) zsm dX9_parse_89 hf (fun v6 hf => ?_)
    refine z_getR hC (pc := 92) in_X4 zcX4 3 (Nat.le_of_ble_eq_true rfl) (zLk.n hC q334) zsm dX9_parse_92 hf (fun v7 hf => ?_)
    obtain ⟨a10, fs8, rfl, ha9, hf⟩ := z_rcO hf
    refine z_cI5 (rest := [zr (some l0)]) hf (fun v11 s12 hcall => z_runF hC (pc := 95) zcJ5 0 ha9 (m_J5_isEmpty X.g a10 s4 s12 v11 hcall) (lw_app (zm4 q2449 q2452 q2454 q104) (lw_meth q2456)) q2451 q2450 q2455 q2453 q434 (by decide +kernel) ⟨(Nat.le_of_ble_eq_true rfl), (Nat.le_of_ble_eq_true rfl)⟩ rfl (Nat.le_of_ble_eq_true rfl) dX9_parse_95 rfl) (fun v11 s12 hf => ?_)
    refine z_if_ne hC (pc := 100) (tgt := 107) dX9_parse_100 rfl (fun c13 => ?_) (fun c13 => ?_)
    · have hf := zif_f hf c13
      refine z_iconst (v := 0) hC (pc := 107) dX9_parse_107 zki_0 ?_
      exact w_X9_parse_b108 hC hL hno hQ l0 0 (some l0) s12 hf
    · have hf := zif_t hf c13
      refine z_iconst (v := 1) hC (pc := 103) dX9_parse_103 zki_1 ?_
      refine z_goto hC (pc := 104) (tgt := 108) dX9_parse_104 rfl ?_
      exact w_X9_parse_b108 hC hL hno hQ l0 1 (some l0) s12 hf
  · have hf := zif_f hf c5
    refine z_aload_n hC (pc := 80) dX9_parse_80 rfl 0 rfl ?_
    obtain ⟨fs14, ha15, hf⟩ := z_rcN hf
    refine z_cXU (rest := []) hf (fun v16 s17 hcall => z_runV hC (pc := 81) zcX9 0 ha15 (m_X9_statement X.g l0 s4 s17 v16 hcall) (lw_V q2145 q2147 qs31 q113 q2148) hdV_X9_statement ⟨(Nat.le_of_ble_eq_true rfl), (Nat.le_of_ble_eq_true rfl)⟩ rfl (Nat.le_of_ble_eq_true rfl) dX9_parse_81 rfl) (fun _ s17 hf => ?_) (fun e s hf => z_outR hC hQ hno hf)
    refine z_goto hC (pc := 84) (tgt := 72) dX9_parse_84 rfl ?_
    exact hk72 l0 s17 hf
def f_X9_parse_l72 (G : Nat → Nat) : Nat → Nat → zS → Option ((Option Nat ⊕ (Nat × Nat)) × zS)
  | 0 => fun _ _ => none
  | n + 1 => f_X9_parse_b72 G (f_X9_parse_l72 G n)
theorem w_X9_parse_l72 {X : zX} (hC : ZC X RX9 cX9_parse (some (.object "BlockingShop$Plan")) 82 1936) (hL : X.nL = 4) (hno : ∀ x ∈ X.c.exceptionTable.toList, False) {r : (Option Nat ⊕ (Nat × Nat))} {sF : zS} (hQ : ZQ X (zoR r, sF)) : ∀ (n : Nat) (l0 : Nat) (s0 : zS) (_ : f_X9_parse_l72 X.g.1 n l0 s0 = some (r, sF)), ZW X s0 72 [(0, zr (some l0))] [] := by
  intro n
  induction n with
  | zero => intro l0 s0 hf; exact absurd (show (none : Option ((Option Nat ⊕ (Nat × Nat)) × zS)) = some (r, sF) from hf) (fun z => nomatch z)
  | succ n ih => intro l0 s0 hf; exact w_X9_parse_b72 hC hL hno hQ (f_X9_parse_l72 X.g.1 n) ih l0 s0 hf
def f_X9_parse_b60 (G : Nat → Nat) (l0 : Nat) (t0 : Int32) (t1 : Int32) (t2 : Option Nat) (t3 : Option Nat) (t4 : Option Nat) (s0 : zS) : Option ((Option Nat ⊕ (Nat × Nat)) × zS) :=
zo (zrc s0 t2 3) fun a3 =>
zb (f_X4_init G a3 t1 t0 s0) fun _ s5 =>
zo (zput G s5 t4 7 2 (va_rf t3)) fun s6 =>
zo (zrc s6 (some l0) 7) fun _ =>
zx (f_X9_expect G l0 59 s6) (fun e s => some (.inr e, s)) fun _ s10 =>
f_X9_parse_l72 G 2000 l0 s10
set_option maxHeartbeats 4000000 in
theorem w_X9_parse_b60 {X : zX} (hC : ZC X RX9 cX9_parse (some (.object "BlockingShop$Plan")) 82 1936) (hL : X.nL = 4) (hno : ∀ x ∈ X.c.exceptionTable.toList, False) {r : (Option Nat ⊕ (Nat × Nat))} {sF : zS} (hQ : ZQ X (zoR r, sF)) (l0 : Nat) (t0 : Int32) (t1 : Int32) (t2 : Option Nat) (t3 : Option Nat) (t4 : Option Nat) (s0 : zS) (hf : f_X9_parse_b60 X.g.1 l0 t0 t1 t2 t3 t4 s0 = some (r, sF)) : ZW X s0 60 [(0, zr (some l0))] [zi t0, zi t1, zr t2, zr t3, zr t4] := by
  unfold f_X9_parse_b60 at hf
  obtain ⟨a3, fs1, rfl, ha2, hf⟩ := z_rcO hf
  refine z_cU (rest := [zr t3, zr t4]) hf (fun v4 s5 hcall => z_runI hC (pc := 60) 2 (m_X4_init X.g a3 t1 t0 s0 s5 v4 hcall) q229 rfl q100 q2140 q228 hd_X4_init ⟨(Nat.le_of_ble_eq_true rfl), (Nat.le_of_ble_eq_true rfl)⟩ rfl (Nat.le_of_ble_eq_true rfl) dX9_parse_60 rfl) (fun _ s5 hf => ?_)
  refine z_putV (v := zr t3) hC (pc := 63) in_X9 tyX9 tyX9_ok nmX9 zcX9 2 (Nat.le_of_ble_eq_true rfl) (zLk.o hC q2032) zsm (Or.inl rfl) rfl (zfr t3) dX9_parse_63 hf (fun s6 hf => ?_)
  refine z_aload_n hC (pc := 66) dX9_parse_66 rfl 0 rfl ?_
  refine z_bipush (v := 59) hC (pc := 67) dX9_parse_67 zkb_59 ?_
  obtain ⟨fs7, ha8, hf⟩ := z_rcN hf
  refine z_cXU (rest := []) hf (fun v9 s10 hcall => z_runV hC (pc := 69) zcX9 1 ha8 (m_X9_expect X.g l0 59 s6 s10 v9 hcall) (lw_V q2141 q2143 qs30 q113 q2144) hdV_X9_expect ⟨(Nat.le_of_ble_eq_true rfl), (Nat.le_of_ble_eq_true rfl)⟩ rfl (Nat.le_of_ble_eq_true rfl) dX9_parse_69 rfl) (fun _ s10 hf => ?_) (fun e s hf => z_outR hC hQ hno hf)
  exact w_X9_parse_l72 hC hL hno hQ 2000 l0 s10 hf
def f_X9_parse (G : Nat → Nat) (l0 : Nat) (s0 : zS) : Option ((Option Nat ⊕ (Nat × Nat)) × zS) :=
zo (zrc s0 (some l0) 7) fun _ =>
zb (f_X9_word G l0 s0) fun v3 s4 =>
zo (zrc s4 v3 17) fun a7 =>
zb (f_J12_equals G a7 (some (G 10)) s4) fun v8 s9 =>
zo (zgI s9 (some l0) 7 3) fun v10 =>
zo (zrc s9 (some l0) 7) fun _ =>
zx (f_X9_require G l0 v8 (-2) v10 s9) (fun e s => some (.inr e, s)) fun _ s14 =>
zo (zgI s14 (some l0) 7 3) fun v15 =>
zo (zput G s14 (some l0) 7 3 (.int (v15 + 4))) fun s16 =>
zo (zrc s16 (some l0) 7) fun _ =>
zx (f_X9_number G l0 1 6 s16) (fun e s => some (.inr e, s)) fun v19 s20 =>
zb (znewO G s20 3 7 [.int 0, .int 0, .null, .null, .null, .null, .null]) fun a21 s22 =>
zo (zrc s22 (some l0) 7) fun _ =>
zx (f_X9_number G l0 0 1 s22) (fun e s => some (.inr e, s)) fun v25 s26 =>
if v25 = 1 then (f_X9_parse_b60 G l0 1 v19 (some a21) (some a21) (some l0) s26)
else (f_X9_parse_b60 G l0 0 v19 (some a21) (some a21) (some l0) s26)
set_option maxHeartbeats 4000000 in
theorem m_X9_parse (Γ : zG) (l0 : Nat) (s0 s1 : zS) (r : (Option Nat ⊕ (Nat × Nat))) (hf : f_X9_parse Γ.1 l0 s0 = some (r, s1)) : ZM Γ yX9_parse (ws_ yX9_parse cX9_parse 4 (some (.object "BlockingShop$Plan"))) 82 1936 [zr (some l0)] s0 (zoR r, s1) := by
  refine ZM.of (own := RX9) (by decide) rfl (Nat.le_of_ble_eq_true rfl) ?_
  intro X hg hC hL hno hQ hin
  subst hg
  unfold f_X9_parse at hf
  refine z_aload_n hC (pc := 0) dX9_parse_0 rfl 0 rfl ?_
  obtain ⟨fs1, ha2, hf⟩ := z_rcN hf
  refine z_cR (rest := []) hf (fun v3 s4 hcall => z_runV hC (pc := 1) zcX9 0 ha2 (m_X9_word X.g l0 s0 s4 v3 hcall) (lw_V q2059 q2061 qs25 q113 q2062) hdV_X9_word ⟨(Nat.le_of_ble_eq_true rfl), (Nat.le_of_ble_eq_true rfl)⟩ rfl (Nat.le_of_ble_eq_true rfl) dX9_parse_1 rfl) (fun v3 s4 hf => ?_)
  refine z_lit (k := 10) hC (pc := 4) (List.mem_of_getElem? (i := 13) rfl) dX9_parse_4 ?_
  obtain ⟨a7, fs5, rfl, ha6, hf⟩ := z_rcO hf
  refine z_cI (rest := []) hf (fun v8 s9 hcall => z_runV hC (pc := 6) zcJ12 1 ha6 (m_J12_equals X.g a7 (some (X.g.1 10)) s4 s9 v8 hcall) (lw_V q2098 q968 q969 q116 q970) hdV_J12_equals ⟨(Nat.le_of_ble_eq_true rfl), (Nat.le_of_ble_eq_true rfl)⟩ rfl (Nat.le_of_ble_eq_true rfl) dX9_parse_6 rfl) (fun v8 s9 hf => ?_)
  refine z_istore_n (lv' := [(1, zi v8), (0, zr (some l0))]) hC (pc := 9) hL dX9_parse_9 rfl (Nat.le_of_ble_eq_true rfl) rfl ?_
  refine z_aload_n hC (pc := 10) dX9_parse_10 rfl 1 rfl ?_
  refine z_iload_n hC (pc := 11) dX9_parse_11 rfl 0 rfl ?_
  refine z_bipush (v := (-2)) hC (pc := 12) dX9_parse_12 zkb_m2 ?_
  refine z_aload_n hC (pc := 14) dX9_parse_14 rfl 1 rfl ?_
  refine z_getI hC (pc := 15) in_X9 zcX9 3 (Nat.le_of_ble_eq_true rfl) (zLk.o hC q2033) zsm dX9_parse_15 hf (fun v10 hf => ?_)
  obtain ⟨fs11, ha12, hf⟩ := z_rcN hf
  refine z_cXU (rest := []) hf (fun v13 s14 hcall => z_runV hC (pc := 18) zcX9 3 ha12 (m_X9_require X.g l0 v8 (-2) v10 s9 s14 v13 hcall) (lw_V q2099 q2101 qs28 q113 q2102) hdV_X9_require ⟨(Nat.le_of_ble_eq_true rfl), (Nat.le_of_ble_eq_true rfl)⟩ rfl (Nat.le_of_ble_eq_true rfl) dX9_parse_18 rfl) (fun _ s14 hf => ?_) (fun e s hf => z_outR hC hQ hno hf)
  refine z_aload_n hC (pc := 21) dX9_parse_21 rfl 1 rfl ?_
  refine z_dup hC (pc := 22) dX9_parse_22 rfl ?_
  refine z_getI hC (pc := 23) in_X9 zcX9 3 (Nat.le_of_ble_eq_true rfl) (zLk.o hC q2033) zsm dX9_parse_23 hf (fun v15 hf => ?_)
  refine z_iconst (v := 4) hC (pc := 26) dX9_parse_26 zki_4 ?_
  refine z_iadd hC (pc := 27) dX9_parse_27 ?_
  refine z_putV (v := zi (v15 + 4)) hC (pc := 28) in_X9 tyX9 tyX9_ok nmX9 zcX9 3 (Nat.le_of_ble_eq_true rfl) (zLk.o hC q2033) zsm (Or.inl rfl) rfl rfl dX9_parse_28 hf (fun s16 hf => ?_)
  refine z_aload_n hC (pc := 31) dX9_parse_31 rfl 1 rfl ?_
  refine z_iconst (v := 1) hC (pc := 32) dX9_parse_32 zki_1 ?_
  refine z_bipush (v := 6) hC (pc := 33) dX9_parse_33 zkb_6 ?_
  obtain ⟨fs17, ha18, hf⟩ := z_rcN hf
  refine z_cXI (rest := []) hf (fun v19 s20 hcall => z_runV hC (pc := 35) zcX9 2 ha18 (m_X9_number X.g l0 1 6 s16 s20 v19 hcall) (lw_V q2131 q2133 qs29 q113 q2134) hdV_X9_number ⟨(Nat.le_of_ble_eq_true rfl), (Nat.le_of_ble_eq_true rfl)⟩ rfl (Nat.le_of_ble_eq_true rfl) dX9_parse_35 rfl) (fun v19 s20 hf => ?_) (fun e s hf => z_outR hC hQ hno hf)
  refine z_istore_n (lv' := [(2, zi v19), (1, zi v8), (0, zr (some l0))]) hC (pc := 38) hL dX9_parse_38 rfl (Nat.le_of_ble_eq_true rfl) rfl ?_
  refine z_aload_n hC (pc := 39) dX9_parse_39 rfl 2 rfl ?_
  refine z_new hC (pc := 40) in_X4 tyX4 tyX4_ok zcX4 q2139 q226 q100 rfl zdX4 dX9_parse_40 hf (fun a21 s22 hf => ?_)
  refine z_dup hC (pc := 43) dX9_parse_43 rfl ?_
  refine z_iload_n hC (pc := 44) dX9_parse_44 rfl 0 rfl ?_
  refine z_aload_n hC (pc := 45) dX9_parse_45 rfl 2 rfl ?_
  refine z_iconst (v := 0) hC (pc := 46) dX9_parse_46 zki_0 ?_
  refine z_iconst (v := 1) hC (pc := 47) dX9_parse_47 zki_1 ?_
  obtain ⟨fs23, ha24, hf⟩ := z_rcN hf
  refine z_cXI (rest := [zi v19, zr (some a21), zr (some a21), zr (some l0)]) hf (fun v25 s26 hcall => z_runV hC (pc := 48) zcX9 2 ha24 (m_X9_number X.g l0 0 1 s22 s26 v25 hcall) (lw_V q2131 q2133 qs29 q113 q2134) hdV_X9_number ⟨(Nat.le_of_ble_eq_true rfl), (Nat.le_of_ble_eq_true rfl)⟩ rfl (Nat.le_of_ble_eq_true rfl) dX9_parse_48 rfl) (fun v25 s26 hf => ?_) (fun e s hf => z_outR hC hQ hno hf)
  refine z_iconst (v := 1) hC (pc := 51) dX9_parse_51 zki_1 ?_
  refine z_icmp_ne hC (pc := 52) (tgt := 59) dX9_parse_52 rfl (fun c27 => ?_) (fun c27 => ?_)
  · have hf := zif_f hf c27
    refine z_iconst (v := 0) hC (pc := 59) dX9_parse_59 zki_0 ?_
    refine ZW.perm (lv' := [(0, zr (some l0))]) [2] rfl ?_
    exact w_X9_parse_b60 hC hL hno hQ l0 0 v19 (some a21) (some a21) (some l0) s26 hf
  · have hf := zif_t hf c27
    refine z_iconst (v := 1) hC (pc := 55) dX9_parse_55 zki_1 ?_
    refine z_goto hC (pc := 56) (tgt := 60) dX9_parse_56 rfl ?_
    refine ZW.perm (lv' := [(0, zr (some l0))]) [2] rfl ?_
    exact w_X9_parse_b60 hC hL hno hQ l0 1 v19 (some a21) (some a21) (some l0) s26 hf
/-! BlockingShop.load(I)I -/
def f_X1_load (G : Nat → Nat) (l0 : Nat) (l1 : Int32) (s0 : zS) : Option ((Int32 ⊕ (Nat × Nat)) × zS) :=
zo (zgI s0 (some l0) 0 4) fun v1 =>
zb (f_X1_isBetween G (l1.toInt64) 0 (v1.toInt64) s0) fun v2 s3 =>
zx (f_X1_requireArgument G v2 s3) (fun e s => some (.inr e, s)) fun _ s5 =>
zo (zput G s5 (some l0) 0 4 (.int 0)) fun s6 =>
zo (zput G s6 (some l0) 0 5 (.int (-1))) fun s7 =>
zb (znewO G s7 7 8 [.int 0, .null, .null, .int 0, .int 0, .int 0, .int 0, .null]) fun a8 s9 =>
zb (f_X9_init G a8 (some l0) l1 s9) fun _ s11 =>
zo (zrc s11 (some a8) 7) fun _ =>
zx (f_X9_parse G a8 s11) (fun e s15 => if e.1 = 8 then (zo (zgI s15 (some (e.2)) 8 7) fun v34 =>
zo (zput G s15 (some l0) 0 5 (.int v34)) fun s35 =>
zo (zgI s35 (some (e.2)) 8 6) fun v36 =>
some (.inl v36, s35)) else none) fun v14 s15 =>
zo (zgR s15 (some l0) 0 2) fun v16 =>
zo (zrc s15 v14 2) fun a19 =>
zb (f_X3_times G a19 v16 s15) fun v20 s21 =>
zo (zrc s21 (some l0) 0) fun _ =>
zb (f_X1_replace G l0 (some a19) s21) fun _ s25 =>
zo (zgR s25 (some l0) 0 3) fun v26 =>
zo (zgR s25 v26 2 0) fun v27 =>
zo (zgR s25 v27 3 3) fun v28 =>
zo (zrc s25 v28 15) fun a31 =>
zb (f_J5_size G a31 s25) fun v32 s33 =>
some (.inl v32, s33)
set_option maxHeartbeats 4000000 in
theorem m_X1_load (Γ : zG) (l0 : Nat) (l1 : Int32) (s0 s1 : zS) (r : (Int32 ⊕ (Nat × Nat))) (hf : f_X1_load Γ.1 l0 l1 s0 = some (r, s1)) : ZM Γ yX1_load (wsW_ yX1_load cX1_load 4 (some .int) [(24, 66, 67, 135)]) 83 1959 [zr (some l0), zi l1] s0 (zoI r, s1) := by
  refine ZM.ofH (own := RX1) (by decide) rfl (Nat.le_of_ble_eq_true rfl) ?_
  intro X hg hC hL hno hQ hin
  subst hg
  unfold f_X1_load at hf
  refine z_iload_n hC (pc := 0) dX1_load_0 rfl 1 rfl ?_
  refine z_i2l hC (pc := 1) dX1_load_1 ?_
  refine z_lconst (v := 0) hC (pc := 2) dX1_load_2 (by decide) ?_
  refine z_aload_n hC (pc := 3) dX1_load_3 rfl 0 rfl ?_
  refine z_getI hC (pc := 4) in_X1 zcX1 4 (Nat.le_of_ble_eq_true rfl) (zLk.o hC q395) zsm dX1_load_4 hf (fun v1 hf => ?_)
  refine z_i2l hC (pc := 7) dX1_load_7 ?_
  refine z_cI (rest := []) hf (fun v2 s3 hcall => z_runS hC (pc := 8) 3 (m_X1_isBetween X.g (l1.toInt64) 0 (v1.toInt64) s0 s3 v2 hcall) (lw_S q2013 q2014 q95 q2015) hd_X1_isBetween ⟨(Nat.le_of_ble_eq_true rfl), (Nat.le_of_ble_eq_true rfl)⟩ rfl (Nat.le_of_ble_eq_true rfl) dX1_load_8 rfl) (fun v2 s3 hf => ?_)
  refine z_cXU (rest := []) hf (fun v4 s5 hcall => z_runS hC (pc := 11) 1 (m_X1_requireArgument X.g v2 s3 s5 v4 hcall) (lw_S q2016 q2017 q95 q2018) hd_X1_requireArgument ⟨(Nat.le_of_ble_eq_true rfl), (Nat.le_of_ble_eq_true rfl)⟩ rfl (Nat.le_of_ble_eq_true rfl) dX1_load_11 rfl) (fun _ s5 hf => ?_) (fun e s hf => z_outIH hC hQ hno rfl hf)
  refine z_aload_n hC (pc := 14) dX1_load_14 rfl 0 rfl ?_
  refine z_iconst (v := 0) hC (pc := 15) dX1_load_15 zki_0 ?_
  refine z_putV (v := zi 0) hC (pc := 16) in_X1 tyX1 tyX1_ok nmX1 zcX1 4 (Nat.le_of_ble_eq_true rfl) (zLk.o hC q395) zsm (Or.inl rfl) rfl rfl dX1_load_16 hf (fun s6 hf => ?_)
  refine z_aload_n hC (pc := 19) dX1_load_19 rfl 0 rfl ?_
  refine z_iconst (v := (-1)) hC (pc := 20) dX1_load_20 zki_m1 ?_
  refine z_putV (v := zi (-1)) hC (pc := 21) in_X1 tyX1 tyX1_ok nmX1 zcX1 5 (Nat.le_of_ble_eq_true rfl) (zLk.o hC q396) zsm (Or.inl rfl) rfl rfl dX1_load_21 hf (fun s7 hf => ?_)
  refine z_new hC (pc := 24) in_X9 tyX9 tyX9_ok zcX9 q2024 q2025 q113 rfl zdX9 dX1_load_24 hf (fun a8 s9 hf => ?_)
  refine z_dup hC (pc := 27) dX1_load_27 rfl ?_
  refine z_aload_n hC (pc := 28) dX1_load_28 rfl 0 rfl ?_
  refine z_iload_n hC (pc := 29) dX1_load_29 rfl 1 rfl ?_
  refine z_cU (rest := [zr (some a8)]) hf (fun v10 s11 hcall => z_runI hC (pc := 30) 2 (m_X9_init X.g a8 (some l0) l1 s9 s11 v10 hcall) q2028 rfl q113 q2026 q2027 hd_X9_init ⟨(Nat.le_of_ble_eq_true rfl), (Nat.le_of_ble_eq_true rfl)⟩ rfl (Nat.le_of_ble_eq_true rfl) dX1_load_30 rfl) (fun _ s11 hf => ?_)
  obtain ⟨fs12, ha13, hf⟩ := z_rcN hf
  refine z_cXR (rest := []) hf (fun v14 s15 hcall => z_runV hC (pc := 33) zcX9 0 ha13 (m_X9_parse X.g a8 s11 s15 v14 hcall) (lw_V q2055 q2056 q2057 q113 q2058) hdV_X9_parse ⟨(Nat.le_of_ble_eq_true rfl), (Nat.le_of_ble_eq_true rfl)⟩ rfl (Nat.le_of_ble_eq_true rfl) dX1_load_33 rfl) (fun v14 s15 hf => ?_) (fun e s15 hf => ?_)
  · skip
    refine z_astore_n (lv' := [(2, zr v14), (0, zr (some l0)), (1, zi l1)]) hC (pc := 36) hL dX1_load_36 rfl (Nat.le_of_ble_eq_true rfl) rfl ?_
    refine z_aload_n hC (pc := 37) dX1_load_37 rfl 0 rfl ?_
    refine z_aload_n hC (pc := 38) dX1_load_38 rfl 1 rfl ?_
    refine z_getR hC (pc := 39) in_X1 zcX1 2 (Nat.le_of_ble_eq_true rfl) (zLk.o hC q393) zsm dX1_load_39 hf (fun v16 hf => ?_)
    obtain ⟨a19, fs17, rfl, ha18, hf⟩ := z_rcO hf
    refine z_cI (rest := []) hf (fun v20 s21 hcall => z_runV hC (pc := 42) zcX3 1 ha18 (m_X3_times X.g a19 v16 s15 s21 v20 hcall) (lw_V q1859 q1860 q1861 q99 q1862) hdV_X3_times ⟨(Nat.le_of_ble_eq_true rfl), (Nat.le_of_ble_eq_true rfl)⟩ rfl (Nat.le_of_ble_eq_true rfl) dX1_load_42 rfl) (fun v20 s21 hf => ?_)
    refine z_istore_n (lv' := [(3, zi v20), (2, zr (some a19)), (0, zr (some l0)), (1, zi l1)]) hC (pc := 45) hL dX1_load_45 rfl (Nat.le_of_ble_eq_true rfl) rfl ?_
    refine z_aload_n hC (pc := 46) dX1_load_46 rfl 2 rfl ?_
    refine z_aload_n hC (pc := 47) dX1_load_47 rfl 1 rfl ?_
    obtain ⟨fs22, ha23, hf⟩ := z_rcN hf
    refine z_cU (rest := []) hf (fun v24 s25 hcall => z_runV hC (pc := 48) zcX1 1 ha23 (m_X1_replace X.g l0 (some a19) s21 s25 v24 hcall) (lw_V q1914 q1916 qs22 q95 q1917) hdV_X1_replace ⟨(Nat.le_of_ble_eq_true rfl), (Nat.le_of_ble_eq_true rfl)⟩ rfl (Nat.le_of_ble_eq_true rfl) dX1_load_48 rfl) (fun _ s25 hf => ?_)
    refine z_aload_n hC (pc := 51) dX1_load_51 rfl 2 rfl ?_
    refine z_getR hC (pc := 52) in_X1 zcX1 3 (Nat.le_of_ble_eq_true rfl) (zLk.o hC q394) zsm dX1_load_52 hf (fun v26 hf => ?_)
    refine z_getR hC (pc := 55) in_X3 zcX3 0 (Nat.le_of_ble_eq_true rfl) (zLk.n hC q366) zsm dX1_load_55 hf (fun v27 hf => ?_)
    refine z_getR hC (pc := 58) in_X4 zcX4 3 (Nat.le_of_ble_eq_true rfl) (zLk.n hC q332) zsm dX1_load_58 hf (fun v28 hf => ?_)
    obtain ⟨a31, fs29, rfl, ha30, hf⟩ := z_rcO hf
    refine z_cI5 (rest := []) hf (fun v32 s33 hcall => z_runF hC (pc := 61) zcJ5 0 ha30 (m_J5_size X.g a31 s25 s33 v32 hcall) (lw_app (zm4 q431 q435 q437 q104) (lw_meth q439)) q433 q432 q438 q436 q434 (by decide +kernel) ⟨(Nat.le_of_ble_eq_true rfl), (Nat.le_of_ble_eq_true rfl)⟩ rfl (Nat.le_of_ble_eq_true rfl) dX1_load_61 rfl) (fun v32 s33 hf => ?_)
    exact z_ireturnX hC (pc := 66) hQ dX1_load_66 hf
  · skip
    by_cases c37 : e.1 = 8
    · have hf := zif_t hf c37
      rw [c37]
      refine z_catch hC zcX10 [] ⟨24, 66, 67, 135⟩ [] (hno.trans rfl) (fun z hz => nomatch hz) rfl (by decide) q2012 q2105 ?_
      refine z_astore_n (lv' := [(2, zr (some (e.2))), (0, zr (some l0)), (1, zi l1)]) hC (pc := 67) hL dX1_load_67 rfl (Nat.le_of_ble_eq_true rfl) rfl ?_
      refine z_aload_n hC (pc := 68) dX1_load_68 rfl 1 rfl ?_
      refine z_aload_n hC (pc := 69) dX1_load_69 rfl 0 rfl ?_
      refine z_getI hC (pc := 70) in_X10 zcX10 7 (Nat.le_of_ble_eq_true rfl) (zLk.n hC q2124) zsm dX1_load_70 hf (fun v34 hf => ?_)
      refine z_putV (v := zi v34) hC (pc := 73) in_X1 tyX1 tyX1_ok nmX1 zcX1 5 (Nat.le_of_ble_eq_true rfl) (zLk.o hC q396) zsm (Or.inl rfl) rfl rfl dX1_load_73 hf (fun s35 hf => ?_)
      refine z_aload_n hC (pc := 76) dX1_load_76 rfl 0 rfl ?_
      refine z_getI hC (pc := 77) in_X10 zcX10 6 (Nat.le_of_ble_eq_true rfl) (zLk.n hC q2122) zsm dX1_load_77 hf (fun v36 hf => ?_)
      exact z_ireturnX hC (pc := 80) hQ dX1_load_80 hf
    · have hf := zif_f hf c37
      cases hf
/-! BlockingShopLaw.load(LBlockingShop;I[J)I -/
def f_X0_load (G : Nat → Nat) (l0 : Option Nat) (l1 : Int32) (l2 : Option Nat) (s0 : zS) : Option (Int32 × zS) :=
zo (zrc s0 l0 0) fun a3 =>
zx (f_X1_load G a3 l1 s0) (fun e s5 => if e.1 = 26 then (some (1, s5)) else none) fun v4 s5 =>
zo (zsL G s5 l2 0 (v4.toInt64)) fun s6 =>
some (0, s6)
set_option maxHeartbeats 4000000 in
theorem m_X0_load (Γ : zG) (l0 : Option Nat) (l1 : Int32) (l2 : Option Nat) (s0 s1 : zS) (r : Int32) (hf : f_X0_load Γ.1 l0 l1 l2 s0 = some (r, s1)) : ZM Γ yX0_load (wsW_ yX0_load cX0_load 4 (some .int) [(0, 9, 12, 13)]) 84 1982 [zr l0, zi l1, zr l2] s0 (.inl (some (zi r)), s1) := by
  refine ZM.ofH (own := RX0) (by decide) rfl (Nat.le_of_ble_eq_true rfl) ?_
  intro X hg hC hL hno hQ hin
  subst hg
  unfold f_X0_load at hf
  refine z_aload_n hC (pc := 0) dX0_load_0 rfl 2 rfl ?_
  refine z_iconst (v := 0) hC (pc := 1) dX0_load_1 zki_0 ?_
  refine z_aload_n hC (pc := 2) dX0_load_2 rfl 0 rfl ?_
  refine z_iload_n hC (pc := 3) dX0_load_3 rfl 1 rfl ?_
  obtain ⟨a3, fs1, rfl, ha2, hf⟩ := z_rcO hf
  refine z_cXI (rest := [zi 0, zr l2]) hf (fun v4 s5 hcall => z_runVX hC (pc := 4) zcX1 1 ha2 (m_X1_load X.g a3 l1 s0 s5 v4 hcall) (lw_VW q2008 q2009 q2010 q95 q2011) hdV_X1_load ⟨(Nat.le_of_ble_eq_true rfl), (Nat.le_of_ble_eq_true rfl)⟩ rfl (Nat.le_of_ble_eq_true rfl) dX0_load_4 rfl) (fun v4 s5 hf => ?_) (fun e s5 hf => ?_)
  · skip
    refine z_i2l hC (pc := 7) dX0_load_7 ?_
    refine z_last hC (pc := 8) dX0_load_8 hf (fun s6 hf => ?_)
    refine z_goto hC (pc := 9) (tgt := 15) dX0_load_9 rfl ?_
    refine z_iconst (v := 0) hC (pc := 15) dX0_load_15 zki_0 ?_
    exact z_ireturn hC (pc := 16) hQ dX0_load_16 hf
  · skip
    by_cases c7 : e.1 = 26
    · have hf := zif_t hf c7
      rw [c7]
      refine z_catch hC zcE26 [] ⟨0, 9, 12, 13⟩ [] (hno.trans rfl) (fun z hz => nomatch hz) rfl (by decide) q2007 q769 ?_
      refine z_astore_n (lv' := [(3, zr (some (e.2))), (0, zr (some a3)), (1, zi l1), (2, zr l2)]) hC (pc := 12) hL dX0_load_12 rfl (Nat.le_of_ble_eq_true rfl) rfl ?_
      refine z_iconst (v := 1) hC (pc := 13) dX0_load_13 zki_1 ?_
      exact z_ireturn hC (pc := 14) hQ dX0_load_14 hf
    · have hf := zif_f hf c7
      cases hf
/-! BlockingShopLaw.makespanAfter(LBlockingShop;II[J)I -/
def f_X0_makespanAfter (G : Nat → Nat) (l0 : Option Nat) (l1 : Int32) (l2 : Int32) (l3 : Option Nat) (s0 : zS) : Option (Int32 × zS) :=
zo (zrc s0 l0 0) fun a3 =>
zx (f_X1_makespanAfter G a3 l1 l2 s0) (fun e s5 => if e.1 = 25 then (some (1, s5)) else none) fun v4 s5 =>
zo (zsL G s5 l3 0 (v4.toInt64)) fun s6 =>
some (0, s6)
set_option maxHeartbeats 4000000 in
theorem m_X0_makespanAfter (Γ : zG) (l0 : Option Nat) (l1 : Int32) (l2 : Int32) (l3 : Option Nat) (s0 s1 : zS) (r : Int32) (hf : f_X0_makespanAfter Γ.1 l0 l1 l2 l3 s0 = some (r, s1)) : ZM Γ yX0_makespanAfter (wsW_ yX0_makespanAfter cX0_makespanAfter 5 (some .int) [(0, 10, 13, 18)]) 12 287 [zr l0, zi l1, zi l2, zr l3] s0 (.inl (some (zi r)), s1) := by
  refine ZM.ofH (own := RX0) (by decide) rfl (Nat.le_of_ble_eq_true rfl) ?_
  intro X hg hC hL hno hQ hin
  subst hg
  unfold f_X0_makespanAfter at hf
  refine z_aload_n hC (pc := 0) dX0_makespanAfter_0 rfl 3 rfl ?_
  refine z_iconst (v := 0) hC (pc := 1) dX0_makespanAfter_1 zki_0 ?_
  refine z_aload_n hC (pc := 2) dX0_makespanAfter_2 rfl 0 rfl ?_
  refine z_iload_n hC (pc := 3) dX0_makespanAfter_3 rfl 1 rfl ?_
  refine z_iload_n hC (pc := 4) dX0_makespanAfter_4 rfl 2 rfl ?_
  obtain ⟨a3, fs1, rfl, ha2, hf⟩ := z_rcO hf
  refine z_cXI (rest := [zi 0, zr l3]) hf (fun v4 s5 hcall => z_runV hC (pc := 5) zcX1 2 ha2 (m_X1_makespanAfter X.g a3 l1 l2 s0 s5 v4 hcall) (lw_V q2617 q2607 q2608 q95 q2609) hdV_X1_makespanAfter ⟨(Nat.le_of_ble_eq_true rfl), (Nat.le_of_ble_eq_true rfl)⟩ rfl (Nat.le_of_ble_eq_true rfl) dX0_makespanAfter_5 rfl) (fun v4 s5 hf => ?_) (fun e s5 hf => ?_)
  · skip
    refine z_i2l hC (pc := 8) dX0_makespanAfter_8 ?_
    refine z_last hC (pc := 9) dX0_makespanAfter_9 hf (fun s6 hf => ?_)
    refine z_goto hC (pc := 10) (tgt := 17) dX0_makespanAfter_10 rfl ?_
    refine z_iconst (v := 0) hC (pc := 17) dX0_makespanAfter_17 zki_0 ?_
    exact z_ireturn hC (pc := 18) hQ dX0_makespanAfter_18 hf
  · skip
    by_cases c7 : e.1 = 25
    · have hf := zif_t hf c7
      rw [c7]
      refine z_catch hC zcE25 [] ⟨0, 10, 13, 18⟩ [] (hno.trans rfl) (fun z hz => nomatch hz) rfl (by decide) q2480 q506 ?_
      refine z_astore (lv' := [(4, zr (some (e.2))), (0, zr (some a3)), (1, zi l1), (2, zi l2), (3, zr l3)]) hC (pc := 13) hL dX0_makespanAfter_13 (Nat.le_of_ble_eq_true rfl) rfl ?_
      refine z_iconst (v := 1) hC (pc := 15) dX0_makespanAfter_15 zki_1 ?_
      exact z_ireturn hC (pc := 16) hQ dX0_makespanAfter_16 hf
    · have hf := zif_f hf c7
      cases hf
/-! BlockingShop.operation(III)I -/
def f_X1_operation (G : Nat → Nat) (l0 : Nat) (l1 : Int32) (l2 : Int32) (l3 : Int32) (s0 : zS) : Option ((Int32 ⊕ (Nat × Nat)) × zS) :=
zo (zrc s0 (some l0) 0) fun _ =>
zx (f_X1_numberOf G l0 l1 l2 s0) (fun e s => some (.inr e, s)) fun v3 s4 =>
zb (f_X1_isBetween G (l3.toInt64) 0 2 s4) fun v5 s6 =>
zx (f_X1_requireArgument G v5 s6) (fun e s => some (.inr e, s)) fun _ s8 =>
if l3 = 0 then (zo (zgR s8 (some l0) 0 3) fun v20 =>
zo (zgR s8 v20 2 0) fun v21 =>
zo (zgR s8 v21 3 4) fun v22 =>
zo (zaI s8 v22 0 v3) fun v23 =>
some (.inl v23, s8))
else (if l3 = 1 then (zo (zgR s8 (some l0) 0 3) fun v17 =>
zo (zgR s8 v17 2 1) fun v18 =>
zo (zaI s8 v18 0 v3) fun v19 =>
some (.inl v19, s8))
else (zo (zgR s8 (some l0) 0 3) fun v11 =>
zo (zrc s8 v11 2) fun a14 =>
zb (f_X3_position G a14 v3 s8) fun v15 s16 =>
some (.inl v15, s16)))
set_option maxHeartbeats 4000000 in
theorem m_X1_operation (Γ : zG) (l0 : Nat) (l1 : Int32) (l2 : Int32) (l3 : Int32) (s0 s1 : zS) (r : (Int32 ⊕ (Nat × Nat))) (hf : f_X1_operation Γ.1 l0 l1 l2 l3 s0 = some (r, s1)) : ZM Γ yX1_operation (ws_ yX1_operation cX1_operation 5 (some .int)) 11 264 [zr (some l0), zi l1, zi l2, zi l3] s0 (zoI r, s1) := by
  refine ZM.of (own := RX1) (by decide) rfl (Nat.le_of_ble_eq_true rfl) ?_
  intro X hg hC hL hno hQ hin
  subst hg
  unfold f_X1_operation at hf
  refine z_aload_n hC (pc := 0) dX1_operation_0 rfl 0 rfl ?_
  refine z_iload_n hC (pc := 1) dX1_operation_1 rfl 1 rfl ?_
  refine z_iload_n hC (pc := 2) dX1_operation_2 rfl 2 rfl ?_
  obtain ⟨fs1, ha2, hf⟩ := z_rcN hf
  refine z_cXI (rest := []) hf (fun v3 s4 hcall => z_runV hC (pc := 3) zcX1 2 ha2 (m_X1_numberOf X.g l0 l1 l2 s0 s4 v3 hcall) (lw_V q2522 q2524 qs44 q95 q2525) hdV_X1_numberOf ⟨(Nat.le_of_ble_eq_true rfl), (Nat.le_of_ble_eq_true rfl)⟩ rfl (Nat.le_of_ble_eq_true rfl) dX1_operation_3 rfl) (fun v3 s4 hf => ?_) (fun e s hf => z_outI hC hQ hno hf)
  refine z_istore (lv' := [(4, zi v3), (0, zr (some l0)), (1, zi l1), (2, zi l2), (3, zi l3)]) hC (pc := 6) hL dX1_operation_6 (Nat.le_of_ble_eq_true rfl) rfl ?_
  refine z_iload_n hC (pc := 8) dX1_operation_8 rfl 4 rfl ?_
  refine z_i2l hC (pc := 9) dX1_operation_9 ?_
  refine z_lconst (v := 0) hC (pc := 10) dX1_operation_10 (by decide) ?_
  refine z_ldc2 (v := 2) hC (pc := 11) q2526 dX1_operation_11 ?_
  refine z_cI (rest := []) hf (fun v5 s6 hcall => z_runS hC (pc := 14) 3 (m_X1_isBetween X.g (l3.toInt64) 0 2 s4 s6 v5 hcall) (lw_S q2013 q2014 q95 q2015) hd_X1_isBetween ⟨(Nat.le_of_ble_eq_true rfl), (Nat.le_of_ble_eq_true rfl)⟩ rfl (Nat.le_of_ble_eq_true rfl) dX1_operation_14 rfl) (fun v5 s6 hf => ?_)
  refine z_cXU (rest := []) hf (fun v7 s8 hcall => z_runS hC (pc := 17) 1 (m_X1_requireArgument X.g v5 s6 s8 v7 hcall) (lw_S q2016 q2017 q95 q2018) hd_X1_requireArgument ⟨(Nat.le_of_ble_eq_true rfl), (Nat.le_of_ble_eq_true rfl)⟩ rfl (Nat.le_of_ble_eq_true rfl) dX1_operation_17 rfl) (fun _ s8 hf => ?_) (fun e s hf => z_outI hC hQ hno hf)
  refine z_iload_n hC (pc := 20) dX1_operation_20 rfl 4 rfl ?_
  refine z_if_ne hC (pc := 21) (tgt := 40) dX1_operation_21 rfl (fun c9 => ?_) (fun c9 => ?_)
  · have hf := zif_f hf c9
    refine z_iload_n hC (pc := 40) dX1_operation_40 rfl 4 rfl ?_
    refine z_iconst (v := 1) hC (pc := 41) dX1_operation_41 zki_1 ?_
    refine z_icmp_ne hC (pc := 42) (tgt := 58) dX1_operation_42 rfl (fun c10 => ?_) (fun c10 => ?_)
    · have hf := zif_f hf c10
      refine z_aload_n hC (pc := 58) dX1_operation_58 rfl 1 rfl ?_
      refine z_getR hC (pc := 59) in_X1 zcX1 3 (Nat.le_of_ble_eq_true rfl) (zLk.o hC q394) zsm dX1_operation_59 hf (fun v11 hf => ?_)
      refine z_iload hC (pc := 62) dX1_operation_62 0 rfl ?_
      obtain ⟨a14, fs12, rfl, ha13, hf⟩ := z_rcO hf
      refine z_cI (rest := []) hf (fun v15 s16 hcall => z_runV hC (pc := 64) zcX3 1 ha13 (m_X3_position X.g a14 v3 s8 s16 v15 hcall) (lw_V q2527 q1186 q1187 q99 q1188) hdV_X3_position ⟨(Nat.le_of_ble_eq_true rfl), (Nat.le_of_ble_eq_true rfl)⟩ rfl (Nat.le_of_ble_eq_true rfl) dX1_operation_64 rfl) (fun v15 s16 hf => ?_)
      exact z_ireturnX hC (pc := 67) hQ dX1_operation_67 hf
    · have hf := zif_t hf c10
      refine z_aload_n hC (pc := 45) dX1_operation_45 rfl 1 rfl ?_
      refine z_getR hC (pc := 46) in_X1 zcX1 3 (Nat.le_of_ble_eq_true rfl) (zLk.o hC q394) zsm dX1_operation_46 hf (fun v17 hf => ?_)
      refine z_getR hC (pc := 49) in_X3 zcX3 1 (Nat.le_of_ble_eq_true rfl) (zLk.n hC q370) zsm dX1_operation_49 hf (fun v18 hf => ?_)
      refine z_iload hC (pc := 52) dX1_operation_52 0 rfl ?_
      refine z_iald hC (pc := 54) dX1_operation_54 hf (fun v19 hf => ?_)
      refine z_goto hC (pc := 55) (tgt := 67) dX1_operation_55 rfl ?_
      exact z_ireturnX hC (pc := 67) hQ dX1_operation_67 hf
  · have hf := zif_t hf c9
    refine z_aload_n hC (pc := 24) dX1_operation_24 rfl 1 rfl ?_
    refine z_getR hC (pc := 25) in_X1 zcX1 3 (Nat.le_of_ble_eq_true rfl) (zLk.o hC q394) zsm dX1_operation_25 hf (fun v20 hf => ?_)
    refine z_getR hC (pc := 28) in_X3 zcX3 0 (Nat.le_of_ble_eq_true rfl) (zLk.n hC q366) zsm dX1_operation_28 hf (fun v21 hf => ?_)
    refine z_getR hC (pc := 31) in_X4 zcX4 4 (Nat.le_of_ble_eq_true rfl) (zLk.n hC q338) zsm dX1_operation_31 hf (fun v22 hf => ?_)
    refine z_iload hC (pc := 34) dX1_operation_34 0 rfl ?_
    refine z_iald hC (pc := 36) dX1_operation_36 hf (fun v23 hf => ?_)
    refine z_goto hC (pc := 37) (tgt := 67) dX1_operation_37 rfl ?_
    exact z_ireturnX hC (pc := 67) hQ dX1_operation_67 hf
/-! BlockingShopLaw.operation(LBlockingShop;III[J)I -/
def f_X0_operation (G : Nat → Nat) (l0 : Option Nat) (l1 : Int32) (l2 : Int32) (l3 : Int32) (l4 : Option Nat) (s0 : zS) : Option (Int32 × zS) :=
zo (zrc s0 l0 0) fun a3 =>
zx (f_X1_operation G a3 l1 l2 l3 s0) (fun e s5 => if e.1 = 25 then (some (1, s5)) else
if e.1 = 26 then (some (2, s5)) else none) fun v4 s5 =>
zo (zsL G s5 l4 0 (v4.toInt64)) fun s6 =>
some (0, s6)
set_option maxHeartbeats 4000000 in
theorem m_X0_operation (Γ : zG) (l0 : Option Nat) (l1 : Int32) (l2 : Int32) (l3 : Int32) (l4 : Option Nat) (s0 s1 : zS) (r : Int32) (hf : f_X0_operation Γ.1 l0 l1 l2 l3 l4 s0 = some (r, s1)) : ZM Γ yX0_operation (wsW_ yX0_operation cX0_operation 6 (some .int) [(0, 12, 15, 18), (0, 12, 19, 13)]) 12 288 [zr l0, zi l1, zi l2, zi l3, zr l4] s0 (.inl (some (zi r)), s1) := by
  refine ZM.ofH (own := RX0) (by decide) rfl (Nat.le_of_ble_eq_true rfl) ?_
  intro X hg hC hL hno hQ hin
  subst hg
  unfold f_X0_operation at hf
  refine z_aload hC (pc := 0) dX0_operation_0 4 rfl ?_
  refine z_iconst (v := 0) hC (pc := 2) dX0_operation_2 zki_0 ?_
  refine z_aload_n hC (pc := 3) dX0_operation_3 rfl 0 rfl ?_
  refine z_iload_n hC (pc := 4) dX0_operation_4 rfl 1 rfl ?_
  refine z_iload_n hC (pc := 5) dX0_operation_5 rfl 2 rfl ?_
  refine z_iload_n hC (pc := 6) dX0_operation_6 rfl 3 rfl ?_
  obtain ⟨a3, fs1, rfl, ha2, hf⟩ := z_rcO hf
  refine z_cXI (rest := [zi 0, zr l4]) hf (fun v4 s5 hcall => z_runV hC (pc := 7) zcX1 3 ha2 (m_X1_operation X.g a3 l1 l2 l3 s0 s5 v4 hcall) (lw_V q2518 q2519 q2520 q95 q2521) hdV_X1_operation ⟨(Nat.le_of_ble_eq_true rfl), (Nat.le_of_ble_eq_true rfl)⟩ rfl (Nat.le_of_ble_eq_true rfl) dX0_operation_7 rfl) (fun v4 s5 hf => ?_) (fun e s5 hf => ?_)
  · skip
    refine z_i2l hC (pc := 10) dX0_operation_10 ?_
    refine z_last hC (pc := 11) dX0_operation_11 hf (fun s6 hf => ?_)
    refine z_goto hC (pc := 12) (tgt := 23) dX0_operation_12 rfl ?_
    refine z_iconst (v := 0) hC (pc := 23) dX0_operation_23 zki_0 ?_
    exact z_ireturn hC (pc := 24) hQ dX0_operation_24 hf
  · skip
    by_cases c7 : e.1 = 25
    · have hf := zif_t hf c7
      rw [c7]
      refine z_catch hC zcE25 [] ⟨0, 12, 15, 18⟩ [⟨0, 12, 19, 13⟩] (hno.trans rfl) (fun z hz => nomatch hz) rfl (by decide) q2480 q506 ?_
      refine z_astore (lv' := [(5, zr (some (e.2))), (0, zr (some a3)), (1, zi l1), (2, zi l2), (3, zi l3), (4, zr l4)]) hC (pc := 15) hL dX0_operation_15 (Nat.le_of_ble_eq_true rfl) rfl ?_
      refine z_iconst (v := 1) hC (pc := 17) dX0_operation_17 zki_1 ?_
      exact z_ireturn hC (pc := 18) hQ dX0_operation_18 hf
    · have hf := zif_f hf c7
      by_cases c8 : e.1 = 26
      · have hf := zif_t hf c8
        rw [c8]
        refine z_catch hC zcE26 [⟨0, 12, 15, 18⟩] ⟨0, 12, 19, 13⟩ [] (hno.trans rfl) (fun z hz => by rcases List.mem_singleton.mp hz with rfl; exact Or.inr ⟨by decide, _, q2480, List.mem_of_getElem? (i := 0) rfl⟩) rfl (by decide) q2007 q769 ?_
        refine z_astore (lv' := [(5, zr (some (e.2))), (0, zr (some a3)), (1, zi l1), (2, zi l2), (3, zi l3), (4, zr l4)]) hC (pc := 19) hL dX0_operation_19 (Nat.le_of_ble_eq_true rfl) rfl ?_
        refine z_iconst (v := 2) hC (pc := 21) dX0_operation_21 zki_2 ?_
        exact z_ireturn hC (pc := 22) hQ dX0_operation_22 hf
      · have hf := zif_f hf c8
        cases hf
/-! BlockingShop.operationCount(I)I -/
def f_X1_operationCount (G : Nat → Nat) (l0 : Nat) (l1 : Int32) (s0 : zS) : Option ((Int32 ⊕ (Nat × Nat)) × zS) :=
zo (zrc s0 (some l0) 0) fun _ =>
zx (f_X1_requireJob G l0 l1 s0) (fun e s => some (.inr e, s)) fun _ s4 =>
zo (zgR s4 (some l0) 0 3) fun v5 =>
zo (zgR s4 v5 2 0) fun v6 =>
zo (zgR s4 v6 3 3) fun v7 =>
zo (zrc s4 v7 15) fun a10 =>
zb (f_J5_get G a10 l1 s4) fun v11 s12 =>
zo (zcst s12 v11 9) fun _ =>
zo (zgI s12 v11 9 3) fun v13 =>
some (.inl v13, s12)
set_option maxHeartbeats 4000000 in
theorem m_X1_operationCount (Γ : zG) (l0 : Nat) (l1 : Int32) (s0 s1 : zS) (r : (Int32 ⊕ (Nat × Nat))) (hf : f_X1_operationCount Γ.1 l0 l1 s0 = some (r, s1)) : ZM Γ yX1_operationCount (ws_ yX1_operationCount cX1_operationCount 2 (some .int)) 10 242 [zr (some l0), zi l1] s0 (zoI r, s1) := by
  refine ZM.of (own := RX1) (by decide) rfl (Nat.le_of_ble_eq_true rfl) ?_
  intro X hg hC hL hno hQ hin
  subst hg
  unfold f_X1_operationCount at hf
  refine z_aload_n hC (pc := 0) dX1_operationCount_0 rfl 0 rfl ?_
  refine z_iload_n hC (pc := 1) dX1_operationCount_1 rfl 1 rfl ?_
  obtain ⟨fs1, ha2, hf⟩ := z_rcN hf
  refine z_cXU (rest := []) hf (fun v3 s4 hcall => z_runV hC (pc := 2) zcX1 1 ha2 (m_X1_requireJob X.g l0 l1 s0 s4 v3 hcall) (lw_V q2500 q2502 qs43 q95 q2503) hdV_X1_requireJob ⟨(Nat.le_of_ble_eq_true rfl), (Nat.le_of_ble_eq_true rfl)⟩ rfl (Nat.le_of_ble_eq_true rfl) dX1_operationCount_2 rfl) (fun _ s4 hf => ?_) (fun e s hf => z_outI hC hQ hno hf)
  refine z_aload_n hC (pc := 5) dX1_operationCount_5 rfl 0 rfl ?_
  refine z_getR hC (pc := 6) in_X1 zcX1 3 (Nat.le_of_ble_eq_true rfl) (zLk.o hC q394) zsm dX1_operationCount_6 hf (fun v5 hf => ?_)
  refine z_getR hC (pc := 9) in_X3 zcX3 0 (Nat.le_of_ble_eq_true rfl) (zLk.n hC q366) zsm dX1_operationCount_9 hf (fun v6 hf => ?_)
  refine z_getR hC (pc := 12) in_X4 zcX4 3 (Nat.le_of_ble_eq_true rfl) (zLk.n hC q332) zsm dX1_operationCount_12 hf (fun v7 hf => ?_)
  refine z_iload_n hC (pc := 15) dX1_operationCount_15 rfl 1 rfl ?_
  obtain ⟨a10, fs8, rfl, ha9, hf⟩ := z_rcO hf
  refine z_cR5 (rest := []) hf (fun v11 s12 hcall => z_runF hC (pc := 16) zcJ5 1 ha9 (m_J5_get X.g a10 l1 s4 s12 v11 hcall) (lw_app (zm4 q2513 q478 q480 q104) (lw_meth q482)) q477 q476 q481 q479 q434 (by decide +kernel) ⟨(Nat.le_of_ble_eq_true rfl), (Nat.le_of_ble_eq_true rfl)⟩ rfl (Nat.le_of_ble_eq_true rfl) dX1_operationCount_16 rfl) (fun v11 s12 hf => ?_)
  refine z_cast hC (pc := 21) zcX11 q2514 (Or.inl rfl) dX1_operationCount_21 hf (fun hf => ?_)
  refine z_getI hC (pc := 24) in_X11 zcX11 3 (Nat.le_of_ble_eq_true rfl) (zLk.n hC q2175) zsm dX1_operationCount_24 hf (fun v13 hf => ?_)
  exact z_ireturnX hC (pc := 27) hQ dX1_operationCount_27 hf
/-! BlockingShopLaw.operationCount(LBlockingShop;I[J)I -/
def f_X0_operationCount (G : Nat → Nat) (l0 : Option Nat) (l1 : Int32) (l2 : Option Nat) (s0 : zS) : Option (Int32 × zS) :=
zo (zrc s0 l0 0) fun a3 =>
zx (f_X1_operationCount G a3 l1 s0) (fun e s5 => if e.1 = 25 then (some (1, s5)) else none) fun v4 s5 =>
zo (zsL G s5 l2 0 (v4.toInt64)) fun s6 =>
some (0, s6)
set_option maxHeartbeats 4000000 in
theorem m_X0_operationCount (Γ : zG) (l0 : Option Nat) (l1 : Int32) (l2 : Option Nat) (s0 s1 : zS) (r : Int32) (hf : f_X0_operationCount Γ.1 l0 l1 l2 s0 = some (r, s1)) : ZM Γ yX0_operationCount (wsW_ yX0_operationCount cX0_operationCount 4 (some .int) [(0, 9, 12, 18)]) 11 263 [zr l0, zi l1, zr l2] s0 (.inl (some (zi r)), s1) := by
  refine ZM.ofH (own := RX0) (by decide) rfl (Nat.le_of_ble_eq_true rfl) ?_
  intro X hg hC hL hno hQ hin
  subst hg
  unfold f_X0_operationCount at hf
  refine z_aload_n hC (pc := 0) dX0_operationCount_0 rfl 2 rfl ?_
  refine z_iconst (v := 0) hC (pc := 1) dX0_operationCount_1 zki_0 ?_
  refine z_aload_n hC (pc := 2) dX0_operationCount_2 rfl 0 rfl ?_
  refine z_iload_n hC (pc := 3) dX0_operationCount_3 rfl 1 rfl ?_
  obtain ⟨a3, fs1, rfl, ha2, hf⟩ := z_rcO hf
  refine z_cXI (rest := [zi 0, zr l2]) hf (fun v4 s5 hcall => z_runV hC (pc := 4) zcX1 1 ha2 (m_X1_operationCount X.g a3 l1 s0 s5 v4 hcall) (lw_V q2496 q2497 q2498 q95 q2499) hdV_X1_operationCount ⟨(Nat.le_of_ble_eq_true rfl), (Nat.le_of_ble_eq_true rfl)⟩ rfl (Nat.le_of_ble_eq_true rfl) dX0_operationCount_4 rfl) (fun v4 s5 hf => ?_) (fun e s5 hf => ?_)
  · skip
    refine z_i2l hC (pc := 7) dX0_operationCount_7 ?_
    refine z_last hC (pc := 8) dX0_operationCount_8 hf (fun s6 hf => ?_)
    refine z_goto hC (pc := 9) (tgt := 15) dX0_operationCount_9 rfl ?_
    refine z_iconst (v := 0) hC (pc := 15) dX0_operationCount_15 zki_0 ?_
    exact z_ireturn hC (pc := 16) hQ dX0_operationCount_16 hf
  · skip
    by_cases c7 : e.1 = 25
    · have hf := zif_t hf c7
      rw [c7]
      refine z_catch hC zcE25 [] ⟨0, 9, 12, 18⟩ [] (hno.trans rfl) (fun z hz => nomatch hz) rfl (by decide) q2480 q506 ?_
      refine z_astore_n (lv' := [(3, zr (some (e.2))), (0, zr (some a3)), (1, zi l1), (2, zr l2)]) hC (pc := 12) hL dX0_operationCount_12 rfl (Nat.le_of_ble_eq_true rfl) rfl ?_
      refine z_iconst (v := 1) hC (pc := 13) dX0_operationCount_13 zki_1 ?_
      exact z_ireturn hC (pc := 14) hQ dX0_operationCount_14 hf
    · have hf := zif_f hf c7
      cases hf
/-! BlockingShop.orderAt(II)I -/
def f_X1_orderAt (G : Nat → Nat) (l0 : Nat) (l1 : Int32) (l2 : Int32) (s0 : zS) : Option ((Int32 ⊕ (Nat × Nat)) × zS) :=
zo (zrc s0 (some l0) 0) fun _ =>
zx (f_X1_requireMachine G l0 l1 s0) (fun e s => some (.inr e, s)) fun _ s4 =>
zo (zgR s4 (some l0) 0 3) fun v5 =>
zo (zgR s4 v5 2 2) fun v6 =>
zo (zaI s4 v6 0 l1) fun v7 =>
zx (f_X1_requireIndex G l2 v7 s4) (fun e s => some (.inr e, s)) fun _ s9 =>
zo (zgR s9 (some l0) 0 3) fun v10 =>
zo (zgR s9 v10 2 4) fun v11 =>
zo (zaR s9 v11 l1) fun v12 =>
zo (zaI s9 v12 0 l2) fun v13 =>
zb (f_X1_shown G v13 s9) fun v14 s15 =>
some (.inl v14, s15)
set_option maxHeartbeats 4000000 in
theorem m_X1_orderAt (Γ : zG) (l0 : Nat) (l1 : Int32) (l2 : Int32) (s0 s1 : zS) (r : (Int32 ⊕ (Nat × Nat))) (hf : f_X1_orderAt Γ.1 l0 l1 l2 s0 = some (r, s1)) : ZM Γ yX1_orderAt (ws_ yX1_orderAt cX1_orderAt 3 (some .int)) 10 242 [zr (some l0), zi l1, zi l2] s0 (zoI r, s1) := by
  refine ZM.of (own := RX1) (by decide) rfl (Nat.le_of_ble_eq_true rfl) ?_
  intro X hg hC hL hno hQ hin
  subst hg
  unfold f_X1_orderAt at hf
  refine z_aload_n hC (pc := 0) dX1_orderAt_0 rfl 0 rfl ?_
  refine z_iload_n hC (pc := 1) dX1_orderAt_1 rfl 1 rfl ?_
  obtain ⟨fs1, ha2, hf⟩ := z_rcN hf
  refine z_cXU (rest := []) hf (fun v3 s4 hcall => z_runV hC (pc := 2) zcX1 1 ha2 (m_X1_requireMachine X.g l0 l1 s0 s4 v3 hcall) (lw_V q2535 q2537 qs45 q95 q2538) hdV_X1_requireMachine ⟨(Nat.le_of_ble_eq_true rfl), (Nat.le_of_ble_eq_true rfl)⟩ rfl (Nat.le_of_ble_eq_true rfl) dX1_orderAt_2 rfl) (fun _ s4 hf => ?_) (fun e s hf => z_outI hC hQ hno hf)
  refine z_iload_n hC (pc := 5) dX1_orderAt_5 rfl 2 rfl ?_
  refine z_aload_n hC (pc := 6) dX1_orderAt_6 rfl 0 rfl ?_
  refine z_getR hC (pc := 7) in_X1 zcX1 3 (Nat.le_of_ble_eq_true rfl) (zLk.o hC q394) zsm dX1_orderAt_7 hf (fun v5 hf => ?_)
  refine z_getR hC (pc := 10) in_X3 zcX3 2 (Nat.le_of_ble_eq_true rfl) (zLk.n hC q373) zsm dX1_orderAt_10 hf (fun v6 hf => ?_)
  refine z_iload_n hC (pc := 13) dX1_orderAt_13 rfl 1 rfl ?_
  refine z_iald hC (pc := 14) dX1_orderAt_14 hf (fun v7 hf => ?_)
  refine z_cXU (rest := []) hf (fun v8 s9 hcall => z_runS hC (pc := 15) 2 (m_X1_requireIndex X.g l2 v7 s4 s9 v8 hcall) (lw_S q2504 q2505 q95 q2506) hd_X1_requireIndex ⟨(Nat.le_of_ble_eq_true rfl), (Nat.le_of_ble_eq_true rfl)⟩ rfl (Nat.le_of_ble_eq_true rfl) dX1_orderAt_15 rfl) (fun _ s9 hf => ?_) (fun e s hf => z_outI hC hQ hno hf)
  refine z_aload_n hC (pc := 18) dX1_orderAt_18 rfl 0 rfl ?_
  refine z_getR hC (pc := 19) in_X1 zcX1 3 (Nat.le_of_ble_eq_true rfl) (zLk.o hC q394) zsm dX1_orderAt_19 hf (fun v10 hf => ?_)
  refine z_getR hC (pc := 22) in_X3 zcX3 4 (Nat.le_of_ble_eq_true rfl) (zLk.n hC q378) zsm dX1_orderAt_22 hf (fun v11 hf => ?_)
  refine z_iload_n hC (pc := 25) dX1_orderAt_25 rfl 1 rfl ?_
  refine z_aald hC (pc := 26) dX1_orderAt_26 hf (fun v12 hf => ?_)
  refine z_iload_n hC (pc := 27) dX1_orderAt_27 rfl 2 rfl ?_
  refine z_iald hC (pc := 28) dX1_orderAt_28 hf (fun v13 hf => ?_)
  refine z_cI (rest := []) hf (fun v14 s15 hcall => z_runS hC (pc := 29) 1 (m_X1_shown X.g v13 s9 s15 v14 hcall) (lw_S q2000 q2001 q95 q2002) hd_X1_shown ⟨(Nat.le_of_ble_eq_true rfl), (Nat.le_of_ble_eq_true rfl)⟩ rfl (Nat.le_of_ble_eq_true rfl) dX1_orderAt_29 rfl) (fun v14 s15 hf => ?_)
  exact z_ireturnX hC (pc := 32) hQ dX1_orderAt_32 hf
/-! BlockingShopLaw.orderAt(LBlockingShop;II[J)I -/
def f_X0_orderAt (G : Nat → Nat) (l0 : Option Nat) (l1 : Int32) (l2 : Int32) (l3 : Option Nat) (s0 : zS) : Option (Int32 × zS) :=
zo (zrc s0 l0 0) fun a3 =>
zx (f_X1_orderAt G a3 l1 l2 s0) (fun e s5 => if e.1 = 25 then (some (1, s5)) else none) fun v4 s5 =>
zo (zsL G s5 l3 0 (v4.toInt64)) fun s6 =>
some (0, s6)
set_option maxHeartbeats 4000000 in
theorem m_X0_orderAt (Γ : zG) (l0 : Option Nat) (l1 : Int32) (l2 : Int32) (l3 : Option Nat) (s0 s1 : zS) (r : Int32) (hf : f_X0_orderAt Γ.1 l0 l1 l2 l3 s0 = some (r, s1)) : ZM Γ yX0_orderAt (wsW_ yX0_orderAt cX0_orderAt 5 (some .int) [(0, 10, 13, 18)]) 11 264 [zr l0, zi l1, zi l2, zr l3] s0 (.inl (some (zi r)), s1) := by
  refine ZM.ofH (own := RX0) (by decide) rfl (Nat.le_of_ble_eq_true rfl) ?_
  intro X hg hC hL hno hQ hin
  subst hg
  unfold f_X0_orderAt at hf
  refine z_aload_n hC (pc := 0) dX0_orderAt_0 rfl 3 rfl ?_
  refine z_iconst (v := 0) hC (pc := 1) dX0_orderAt_1 zki_0 ?_
  refine z_aload_n hC (pc := 2) dX0_orderAt_2 rfl 0 rfl ?_
  refine z_iload_n hC (pc := 3) dX0_orderAt_3 rfl 1 rfl ?_
  refine z_iload_n hC (pc := 4) dX0_orderAt_4 rfl 2 rfl ?_
  obtain ⟨a3, fs1, rfl, ha2, hf⟩ := z_rcO hf
  refine z_cXI (rest := [zi 0, zr l3]) hf (fun v4 s5 hcall => z_runV hC (pc := 5) zcX1 2 ha2 (m_X1_orderAt X.g a3 l1 l2 s0 s5 v4 hcall) (lw_V q2542 q2543 q2544 q95 q2545) hdV_X1_orderAt ⟨(Nat.le_of_ble_eq_true rfl), (Nat.le_of_ble_eq_true rfl)⟩ rfl (Nat.le_of_ble_eq_true rfl) dX0_orderAt_5 rfl) (fun v4 s5 hf => ?_) (fun e s5 hf => ?_)
  · skip
    refine z_i2l hC (pc := 8) dX0_orderAt_8 ?_
    refine z_last hC (pc := 9) dX0_orderAt_9 hf (fun s6 hf => ?_)
    refine z_goto hC (pc := 10) (tgt := 17) dX0_orderAt_10 rfl ?_
    refine z_iconst (v := 0) hC (pc := 17) dX0_orderAt_17 zki_0 ?_
    exact z_ireturn hC (pc := 18) hQ dX0_orderAt_18 hf
  · skip
    by_cases c7 : e.1 = 25
    · have hf := zif_t hf c7
      rw [c7]
      refine z_catch hC zcE25 [] ⟨0, 10, 13, 18⟩ [] (hno.trans rfl) (fun z hz => nomatch hz) rfl (by decide) q2480 q506 ?_
      refine z_astore (lv' := [(4, zr (some (e.2))), (0, zr (some a3)), (1, zi l1), (2, zi l2), (3, zr l3)]) hC (pc := 13) hL dX0_orderAt_13 (Nat.le_of_ble_eq_true rfl) rfl ?_
      refine z_iconst (v := 1) hC (pc := 15) dX0_orderAt_15 zki_1 ?_
      exact z_ireturn hC (pc := 16) hQ dX0_orderAt_16 hf
    · have hf := zif_f hf c7
      cases hf
/-! BlockingShop.orderLength(I)I -/
def f_X1_orderLength (G : Nat → Nat) (l0 : Nat) (l1 : Int32) (s0 : zS) : Option ((Int32 ⊕ (Nat × Nat)) × zS) :=
zo (zrc s0 (some l0) 0) fun _ =>
zx (f_X1_requireMachine G l0 l1 s0) (fun e s => some (.inr e, s)) fun _ s4 =>
zo (zgR s4 (some l0) 0 3) fun v5 =>
zo (zgR s4 v5 2 2) fun v6 =>
zo (zaI s4 v6 0 l1) fun v7 =>
some (.inl v7, s4)
set_option maxHeartbeats 4000000 in
theorem m_X1_orderLength (Γ : zG) (l0 : Nat) (l1 : Int32) (s0 s1 : zS) (r : (Int32 ⊕ (Nat × Nat))) (hf : f_X1_orderLength Γ.1 l0 l1 s0 = some (r, s1)) : ZM Γ yX1_orderLength (ws_ yX1_orderLength cX1_orderLength 2 (some .int)) 10 242 [zr (some l0), zi l1] s0 (zoI r, s1) := by
  refine ZM.of (own := RX1) (by decide) rfl (Nat.le_of_ble_eq_true rfl) ?_
  intro X hg hC hL hno hQ hin
  subst hg
  unfold f_X1_orderLength at hf
  refine z_aload_n hC (pc := 0) dX1_orderLength_0 rfl 0 rfl ?_
  refine z_iload_n hC (pc := 1) dX1_orderLength_1 rfl 1 rfl ?_
  obtain ⟨fs1, ha2, hf⟩ := z_rcN hf
  refine z_cXU (rest := []) hf (fun v3 s4 hcall => z_runV hC (pc := 2) zcX1 1 ha2 (m_X1_requireMachine X.g l0 l1 s0 s4 v3 hcall) (lw_V q2535 q2537 qs45 q95 q2538) hdV_X1_requireMachine ⟨(Nat.le_of_ble_eq_true rfl), (Nat.le_of_ble_eq_true rfl)⟩ rfl (Nat.le_of_ble_eq_true rfl) dX1_orderLength_2 rfl) (fun _ s4 hf => ?_) (fun e s hf => z_outI hC hQ hno hf)
  refine z_aload_n hC (pc := 5) dX1_orderLength_5 rfl 0 rfl ?_
  refine z_getR hC (pc := 6) in_X1 zcX1 3 (Nat.le_of_ble_eq_true rfl) (zLk.o hC q394) zsm dX1_orderLength_6 hf (fun v5 hf => ?_)
  refine z_getR hC (pc := 9) in_X3 zcX3 2 (Nat.le_of_ble_eq_true rfl) (zLk.n hC q373) zsm dX1_orderLength_9 hf (fun v6 hf => ?_)
  refine z_iload_n hC (pc := 12) dX1_orderLength_12 rfl 1 rfl ?_
  refine z_iald hC (pc := 13) dX1_orderLength_13 hf (fun v7 hf => ?_)
  exact z_ireturnX hC (pc := 14) hQ dX1_orderLength_14 hf
/-! BlockingShopLaw.orderLength(LBlockingShop;I[J)I -/
def f_X0_orderLength (G : Nat → Nat) (l0 : Option Nat) (l1 : Int32) (l2 : Option Nat) (s0 : zS) : Option (Int32 × zS) :=
zo (zrc s0 l0 0) fun a3 =>
zx (f_X1_orderLength G a3 l1 s0) (fun e s5 => if e.1 = 25 then (some (1, s5)) else none) fun v4 s5 =>
zo (zsL G s5 l2 0 (v4.toInt64)) fun s6 =>
some (0, s6)
set_option maxHeartbeats 4000000 in
theorem m_X0_orderLength (Γ : zG) (l0 : Option Nat) (l1 : Int32) (l2 : Option Nat) (s0 s1 : zS) (r : Int32) (hf : f_X0_orderLength Γ.1 l0 l1 l2 s0 = some (r, s1)) : ZM Γ yX0_orderLength (wsW_ yX0_orderLength cX0_orderLength 4 (some .int) [(0, 9, 12, 18)]) 11 263 [zr l0, zi l1, zr l2] s0 (.inl (some (zi r)), s1) := by
  refine ZM.ofH (own := RX0) (by decide) rfl (Nat.le_of_ble_eq_true rfl) ?_
  intro X hg hC hL hno hQ hin
  subst hg
  unfold f_X0_orderLength at hf
  refine z_aload_n hC (pc := 0) dX0_orderLength_0 rfl 2 rfl ?_
  refine z_iconst (v := 0) hC (pc := 1) dX0_orderLength_1 zki_0 ?_
  refine z_aload_n hC (pc := 2) dX0_orderLength_2 rfl 0 rfl ?_
  refine z_iload_n hC (pc := 3) dX0_orderLength_3 rfl 1 rfl ?_
  obtain ⟨a3, fs1, rfl, ha2, hf⟩ := z_rcO hf
  refine z_cXI (rest := [zi 0, zr l2]) hf (fun v4 s5 hcall => z_runV hC (pc := 4) zcX1 1 ha2 (m_X1_orderLength X.g a3 l1 s0 s5 v4 hcall) (lw_V q2531 q2532 q2533 q95 q2534) hdV_X1_orderLength ⟨(Nat.le_of_ble_eq_true rfl), (Nat.le_of_ble_eq_true rfl)⟩ rfl (Nat.le_of_ble_eq_true rfl) dX0_orderLength_4 rfl) (fun v4 s5 hf => ?_) (fun e s5 hf => ?_)
  · skip
    refine z_i2l hC (pc := 7) dX0_orderLength_7 ?_
    refine z_last hC (pc := 8) dX0_orderLength_8 hf (fun s6 hf => ?_)
    refine z_goto hC (pc := 9) (tgt := 15) dX0_orderLength_9 rfl ?_
    refine z_iconst (v := 0) hC (pc := 15) dX0_orderLength_15 zki_0 ?_
    exact z_ireturn hC (pc := 16) hQ dX0_orderLength_16 hf
  · skip
    by_cases c7 : e.1 = 25
    · have hf := zif_t hf c7
      rw [c7]
      refine z_catch hC zcE25 [] ⟨0, 9, 12, 18⟩ [] (hno.trans rfl) (fun z hz => nomatch hz) rfl (by decide) q2480 q506 ?_
      refine z_astore_n (lv' := [(3, zr (some (e.2))), (0, zr (some a3)), (1, zi l1), (2, zr l2)]) hC (pc := 12) hL dX0_orderLength_12 rfl (Nat.le_of_ble_eq_true rfl) rfl ?_
      refine z_iconst (v := 1) hC (pc := 13) dX0_orderLength_13 zki_1 ?_
      exact z_ireturn hC (pc := 14) hQ dX0_orderLength_14 hf
    · have hf := zif_f hf c7
      cases hf
/-! BlockingShop$Plan.place(II)V -/
def f_X3_place_b45 (G : Nat → Nat) (k45 : Nat → Int32 → Int32 → Int32 → zS → Option (Unit × zS)) (l0 : Nat) (l2 : Int32) (l3 : Int32) (l4 : Int32) (s0 : zS) : Option (Unit × zS) :=
if l2 ≤ l4 then (some ((), s0))
else (zo (zrc s0 (some l0) 2) fun _ =>
zb (f_X3_swap G l0 l3 l4 s0) fun _ s5 =>
k45 l0 l2 l3 (l4 + 1) s5)
set_option maxHeartbeats 4000000 in
theorem w_X3_place_b45 {X : zX} (hC : ZC X RX3 cX3_place none 2 23) (hL : X.nL = 5) (hno : ∀ x ∈ X.c.exceptionTable.toList, False) {r : Unit} {sF : zS} (hQ : ZQ X (.inl none, sF)) (k45 : Nat → Int32 → Int32 → Int32 → zS → Option (Unit × zS)) (hk45 : ∀ (l0 : Nat) (l2 : Int32) (l3 : Int32) (l4 : Int32) (s0 : zS), k45 l0 l2 l3 l4 s0 = some (r, sF) → ZW X s0 45 [(0, zr (some l0)), (2, zi l2), (3, zi l3), (4, zi l4)] []) (l0 : Nat) (l2 : Int32) (l3 : Int32) (l4 : Int32) (s0 : zS) (hf : f_X3_place_b45 X.g.1 k45 l0 l2 l3 l4 s0 = some (r, sF)) : ZW X s0 45 [(0, zr (some l0)), (2, zi l2), (3, zi l3), (4, zi l4)] [] := by
  unfold f_X3_place_b45 at hf
  refine z_iload hC (pc := 45) dX3_place_45 3 rfl ?_
  refine z_iload_n hC (pc := 47) dX3_place_47 rfl 1 rfl ?_
  refine z_icmp_ge hC (pc := 48) (tgt := 64) dX3_place_48 rfl (fun c1 => ?_) (fun c1 => ?_)
  · have hf := zif_t hf c1
    exact z_return hC (pc := 64) hQ dX3_place_64 hf
  · have hf := zif_f hf c1
    refine z_aload_n hC (pc := 51) dX3_place_51 rfl 0 rfl ?_
    refine z_iload_n hC (pc := 52) dX3_place_52 rfl 2 rfl ?_
    refine z_iload hC (pc := 53) dX3_place_53 3 rfl ?_
    obtain ⟨fs2, ha3, hf⟩ := z_rcN hf
    refine z_cU (rest := []) hf (fun v4 s5 hcall => z_runV hC (pc := 55) zcX3 2 ha3 (m_X3_swap X.g l0 l3 l4 s0 s5 v4 hcall) (lw_V q2657 q1856 q1857 q99 q1858) hdV_X3_swap ⟨(Nat.le_of_ble_eq_true rfl), (Nat.le_of_ble_eq_true rfl)⟩ rfl (Nat.le_of_ble_eq_true rfl) dX3_place_55 rfl) (fun _ s5 hf => ?_)
    refine z_iinc (v := 1) (lv' := [(4, zi (l4 + 1)), (0, zr (some l0)), (2, zi l2), (3, zi l3)]) hC (pc := 58) hL dX3_place_58 3 rfl zki_1 (Nat.le_of_ble_eq_true rfl) rfl ?_
    refine z_goto hC (pc := 61) (tgt := 45) dX3_place_61 rfl ?_
    refine ZW.perm (lv' := [(0, zr (some l0)), (2, zi l2), (3, zi l3), (4, zi (l4 + 1))]) [1, 2, 3, 0] rfl ?_
    exact hk45 l0 l2 l3 (l4 + 1) s5 hf
def f_X3_place_l45 (G : Nat → Nat) : Nat → Nat → Int32 → Int32 → Int32 → zS → Option (Unit × zS)
  | 0 => fun _ _ _ _ _ => none
  | n + 1 => f_X3_place_b45 G (f_X3_place_l45 G n)
theorem w_X3_place_l45 {X : zX} (hC : ZC X RX3 cX3_place none 2 23) (hL : X.nL = 5) (hno : ∀ x ∈ X.c.exceptionTable.toList, False) {r : Unit} {sF : zS} (hQ : ZQ X (.inl none, sF)) : ∀ (n : Nat) (l0 : Nat) (l2 : Int32) (l3 : Int32) (l4 : Int32) (s0 : zS) (_ : f_X3_place_l45 X.g.1 n l0 l2 l3 l4 s0 = some (r, sF)), ZW X s0 45 [(0, zr (some l0)), (2, zi l2), (3, zi l3), (4, zi l4)] [] := by
  intro n
  induction n with
  | zero => intro l0 l2 l3 l4 s0 hf; exact absurd (show (none : Option (Unit × zS)) = some (r, sF) from hf) (fun z => nomatch z)
  | succ n ih => intro l0 l2 l3 l4 s0 hf; exact w_X3_place_b45 hC hL hno hQ (f_X3_place_l45 X.g.1 n) ih l0 l2 l3 l4 s0 hf
def f_X3_place_b17 (G : Nat → Nat) (k17 : Nat → Int32 → Int32 → Int32 → Int32 → zS → Option (Unit × zS)) (l0 : Nat) (l1 : Int32) (l2 : Int32) (l3 : Int32) (l4 : Int32) (s0 : zS) : Option (Unit × zS) :=
if l4 ≤ l2 then (zo (zrc s0 (some l0) 2) fun _ =>
zb (f_X3_position G l0 l1 s0) fun v4 s5 =>
f_X3_place_l45 G 2000 l0 l2 l3 v4 s5)
else (zo (zrc s0 (some l0) 2) fun _ =>
zb (f_X3_swap G l0 l3 (l4 - 1) s0) fun _ s9 =>
k17 l0 l1 l2 l3 (l4 + (-1)) s9)
set_option maxHeartbeats 4000000 in
theorem w_X3_place_b17 {X : zX} (hC : ZC X RX3 cX3_place none 2 23) (hL : X.nL = 5) (hno : ∀ x ∈ X.c.exceptionTable.toList, False) {r : Unit} {sF : zS} (hQ : ZQ X (.inl none, sF)) (k17 : Nat → Int32 → Int32 → Int32 → Int32 → zS → Option (Unit × zS)) (hk17 : ∀ (l0 : Nat) (l1 : Int32) (l2 : Int32) (l3 : Int32) (l4 : Int32) (s0 : zS), k17 l0 l1 l2 l3 l4 s0 = some (r, sF) → ZW X s0 17 [(0, zr (some l0)), (1, zi l1), (2, zi l2), (3, zi l3), (4, zi l4)] []) (l0 : Nat) (l1 : Int32) (l2 : Int32) (l3 : Int32) (l4 : Int32) (s0 : zS) (hf : f_X3_place_b17 X.g.1 k17 l0 l1 l2 l3 l4 s0 = some (r, sF)) : ZW X s0 17 [(0, zr (some l0)), (1, zi l1), (2, zi l2), (3, zi l3), (4, zi l4)] [] := by
  unfold f_X3_place_b17 at hf
  refine z_iload hC (pc := 17) dX3_place_17 4 rfl ?_
  refine z_iload_n hC (pc := 19) dX3_place_19 rfl 2 rfl ?_
  refine z_icmp_le hC (pc := 20) (tgt := 38) dX3_place_20 rfl (fun c1 => ?_) (fun c1 => ?_)
  · have hf := zif_t hf c1
    refine z_aload_n hC (pc := 38) dX3_place_38 rfl 0 rfl ?_
    refine z_iload_n hC (pc := 39) dX3_place_39 rfl 1 rfl ?_
    obtain ⟨fs2, ha3, hf⟩ := z_rcN hf
    refine z_cI (rest := []) hf (fun v4 s5 hcall => z_runV hC (pc := 40) zcX3 1 ha3 (m_X3_position X.g l0 l1 s0 s5 v4 hcall) (lw_V q1185 q1186 q1187 q99 q1188) hdV_X3_position ⟨(Nat.le_of_ble_eq_true rfl), (Nat.le_of_ble_eq_true rfl)⟩ rfl (Nat.le_of_ble_eq_true rfl) dX3_place_40 rfl) (fun v4 s5 hf => ?_)
    refine z_istore (lv' := [(4, zi v4), (0, zr (some l0)), (1, zi l1), (2, zi l2), (3, zi l3)]) hC (pc := 43) hL dX3_place_43 (Nat.le_of_ble_eq_true rfl) rfl ?_
    refine ZW.perm (lv' := [(0, zr (some l0)), (2, zi l2), (3, zi l3), (4, zi v4)]) [1, 3, 4, 0] rfl ?_
    exact w_X3_place_l45 hC hL hno hQ 2000 l0 l2 l3 v4 s5 hf
  · have hf := zif_f hf c1
    refine z_aload_n hC (pc := 23) dX3_place_23 rfl 0 rfl ?_
    refine z_iload_n hC (pc := 24) dX3_place_24 rfl 3 rfl ?_
    refine z_iload hC (pc := 25) dX3_place_25 4 rfl ?_
    refine z_iconst (v := 1) hC (pc := 27) dX3_place_27 zki_1 ?_
    refine z_isub hC (pc := 28) dX3_place_28 ?_
    obtain ⟨fs6, ha7, hf⟩ := z_rcN hf
    refine z_cU (rest := []) hf (fun v8 s9 hcall => z_runV hC (pc := 29) zcX3 2 ha7 (m_X3_swap X.g l0 l3 (l4 - 1) s0 s9 v8 hcall) (lw_V q2657 q1856 q1857 q99 q1858) hdV_X3_swap ⟨(Nat.le_of_ble_eq_true rfl), (Nat.le_of_ble_eq_true rfl)⟩ rfl (Nat.le_of_ble_eq_true rfl) dX3_place_29 rfl) (fun _ s9 hf => ?_)
    refine z_iinc (v := (-1)) (lv' := [(4, zi (l4 + (-1))), (0, zr (some l0)), (1, zi l1), (2, zi l2), (3, zi l3)]) hC (pc := 32) hL dX3_place_32 4 rfl zki_m1 (Nat.le_of_ble_eq_true rfl) rfl ?_
    refine z_goto hC (pc := 35) (tgt := 17) dX3_place_35 rfl ?_
    refine ZW.perm (lv' := [(0, zr (some l0)), (1, zi l1), (2, zi l2), (3, zi l3), (4, zi (l4 + (-1)))]) [1, 2, 3, 4, 0] rfl ?_
    exact hk17 l0 l1 l2 l3 (l4 + (-1)) s9 hf
def f_X3_place_l17 (G : Nat → Nat) : Nat → Nat → Int32 → Int32 → Int32 → Int32 → zS → Option (Unit × zS)
  | 0 => fun _ _ _ _ _ _ => none
  | n + 1 => f_X3_place_b17 G (f_X3_place_l17 G n)
theorem w_X3_place_l17 {X : zX} (hC : ZC X RX3 cX3_place none 2 23) (hL : X.nL = 5) (hno : ∀ x ∈ X.c.exceptionTable.toList, False) {r : Unit} {sF : zS} (hQ : ZQ X (.inl none, sF)) : ∀ (n : Nat) (l0 : Nat) (l1 : Int32) (l2 : Int32) (l3 : Int32) (l4 : Int32) (s0 : zS) (_ : f_X3_place_l17 X.g.1 n l0 l1 l2 l3 l4 s0 = some (r, sF)), ZW X s0 17 [(0, zr (some l0)), (1, zi l1), (2, zi l2), (3, zi l3), (4, zi l4)] [] := by
  intro n
  induction n with
  | zero => intro l0 l1 l2 l3 l4 s0 hf; exact absurd (show (none : Option (Unit × zS)) = some (r, sF) from hf) (fun z => nomatch z)
  | succ n ih => intro l0 l1 l2 l3 l4 s0 hf; exact w_X3_place_b17 hC hL hno hQ (f_X3_place_l17 X.g.1 n) ih l0 l1 l2 l3 l4 s0 hf
def f_X3_place (G : Nat → Nat) (l0 : Nat) (l1 : Int32) (l2 : Int32) (s0 : zS) : Option (Unit × zS) :=
zo (zgR s0 (some l0) 2 0) fun v1 =>
zo (zgR s0 v1 3 4) fun v2 =>
zo (zaI s0 v2 0 l1) fun v3 =>
zo (zrc s0 (some l0) 2) fun _ =>
zb (f_X3_position G l0 l1 s0) fun v6 s7 =>
f_X3_place_l17 G 2000 l0 l1 l2 v3 v6 s7
set_option maxHeartbeats 4000000 in
theorem m_X3_place (Γ : zG) (l0 : Nat) (l1 : Int32) (l2 : Int32) (s0 s1 : zS) (r : Unit) (hf : f_X3_place Γ.1 l0 l1 l2 s0 = some (r, s1)) : ZM Γ yX3_place (ws_ yX3_place cX3_place 5 none) 2 23 [zr (some l0), zi l1, zi l2] s0 (.inl none, s1) := by
  refine ZM.of (own := RX3) (by decide) rfl (Nat.le_of_ble_eq_true rfl) ?_
  intro X hg hC hL hno hQ hin
  subst hg
  unfold f_X3_place at hf
  refine z_aload_n hC (pc := 0) dX3_place_0 rfl 0 rfl ?_
  refine z_getR hC (pc := 1) in_X3 zcX3 0 (Nat.le_of_ble_eq_true rfl) (zLk.o hC q364) zsm dX3_place_1 hf (fun v1 hf => ?_)
  refine z_getR hC (pc := 4) in_X4 zcX4 4 (Nat.le_of_ble_eq_true rfl) (zLk.n hC q336) zsm dX3_place_4 hf (fun v2 hf => ?_)
  refine z_iload_n hC (pc := 7) dX3_place_7 rfl 1 rfl ?_
  refine z_iald hC (pc := 8) dX3_place_8 hf (fun v3 hf => ?_)
  refine z_istore_n (lv' := [(3, zi v3), (0, zr (some l0)), (1, zi l1), (2, zi l2)]) hC (pc := 9) hL dX3_place_9 rfl (Nat.le_of_ble_eq_true rfl) rfl ?_
  refine z_aload_n hC (pc := 10) dX3_place_10 rfl 1 rfl ?_
  refine z_iload_n hC (pc := 11) dX3_place_11 rfl 2 rfl ?_
  obtain ⟨fs4, ha5, hf⟩ := z_rcN hf
  refine z_cI (rest := []) hf (fun v6 s7 hcall => z_runV hC (pc := 12) zcX3 1 ha5 (m_X3_position X.g l0 l1 s0 s7 v6 hcall) (lw_V q1185 q1186 q1187 q99 q1188) hdV_X3_position ⟨(Nat.le_of_ble_eq_true rfl), (Nat.le_of_ble_eq_true rfl)⟩ rfl (Nat.le_of_ble_eq_true rfl) dX3_place_12 rfl) (fun v6 s7 hf => ?_)
  refine z_istore (lv' := [(4, zi v6), (3, zi v3), (0, zr (some l0)), (1, zi l1), (2, zi l2)]) hC (pc := 15) hL dX3_place_15 (Nat.le_of_ble_eq_true rfl) rfl ?_
  refine ZW.perm (lv' := [(0, zr (some l0)), (1, zi l1), (2, zi l2), (3, zi v3), (4, zi v6)]) [2, 3, 4, 1, 0] rfl ?_
  exact w_X3_place_l17 hC hL hno hQ 2000 l0 l1 l2 v3 v6 s7 hf
/-! BlockingShop.requireState(Z)V -/
def f_X1_requireState (G : Nat → Nat) (l0 : Int32) (s0 : zS) : Option ((Unit ⊕ (Nat × Nat)) × zS) :=
if l0 = 0 then (zb (znewO G s0 27 6 []) fun a2 s3 =>
zo (zthr G s3 (some a2)) fun e => some (.inr e, s3))
else (some (.inl (), s0))
set_option maxHeartbeats 4000000 in
theorem m_X1_requireState (Γ : zG) (l0 : Int32) (s0 s1 : zS) (r : (Unit ⊕ (Nat × Nat))) (hf : f_X1_requireState Γ.1 l0 s0 = some (r, s1)) : ZM Γ yX1_requireState (ws_ yX1_requireState cX1_requireState 1 none) 8 200 [zi l0] s0 (zoU r, s1) := by
  refine ZM.of (own := RX1) (by decide) rfl (Nat.le_of_ble_eq_true rfl) ?_
  intro X hg hC hL hno hQ hin
  subst hg
  unfold f_X1_requireState at hf
  refine z_iload_n hC (pc := 0) dX1_requireState_0 rfl 0 rfl ?_
  refine z_if_ne hC (pc := 1) (tgt := 12) dX1_requireState_1 rfl (fun c1 => ?_) (fun c1 => ?_)
  · have hf := zif_f hf c1
    exact z_returnX hC (pc := 12) hQ dX1_requireState_12 hf
  · have hf := zif_t hf c1
    refine z_mk27 hC (pc := 4) dX1_requireState_4 dX1_requireState_7 dX1_requireState_8 (Nat.le_of_ble_eq_true rfl) (Nat.le_of_ble_eq_true rfl) hf (fun a2 s3 hf => ?_)
    exact z_athrow hC (pc := 11) dX1_requireState_11 hf (fun e hf => z_outU hC hQ hno hf)
/-! BlockingShop.requireTimed(LBlockingShop$Plan;)I -/
def f_X1_requireTimed (G : Nat → Nat) (l0 : Nat) (l1 : Option Nat) (s0 : zS) : Option ((Int32 ⊕ (Nat × Nat)) × zS) :=
zo (zgR s0 (some l0) 0 2) fun v1 =>
zo (zrc s0 l1 2) fun a4 =>
zb (f_X3_times G a4 v1 s0) fun v5 s6 =>
zx (f_X1_requireState G v5 s6) (fun e s => some (.inr e, s)) fun _ s8 =>
zo (zrc s8 (some l0) 0) fun _ =>
zb (f_X1_replace G l0 (some a4) s8) fun _ s12 =>
zo (zrc s12 (some a4) 2) fun _ =>
zb (f_X3_makespan G a4 s12) fun v15 s16 =>
some (.inl v15, s16)
set_option maxHeartbeats 4000000 in
theorem m_X1_requireTimed (Γ : zG) (l0 : Nat) (l1 : Option Nat) (s0 s1 : zS) (r : (Int32 ⊕ (Nat × Nat))) (hf : f_X1_requireTimed Γ.1 l0 l1 s0 = some (r, s1)) : ZM Γ yX1_requireTimed (ws_ yX1_requireTimed cX1_requireTimed 2 (some .int)) 11 224 [zr (some l0), zr l1] s0 (zoI r, s1) := by
  refine ZM.of (own := RX1) (by decide) rfl (Nat.le_of_ble_eq_true rfl) ?_
  intro X hg hC hL hno hQ hin
  subst hg
  unfold f_X1_requireTimed at hf
  refine z_aload_n hC (pc := 0) dX1_requireTimed_0 rfl 1 rfl ?_
  refine z_aload_n hC (pc := 1) dX1_requireTimed_1 rfl 0 rfl ?_
  refine z_getR hC (pc := 2) in_X1 zcX1 2 (Nat.le_of_ble_eq_true rfl) (zLk.o hC q393) zsm dX1_requireTimed_2 hf (fun v1 hf => ?_)
  obtain ⟨a4, fs2, rfl, ha3, hf⟩ := z_rcO hf
  refine z_cI (rest := []) hf (fun v5 s6 hcall => z_runV hC (pc := 5) zcX3 1 ha3 (m_X3_times X.g a4 v1 s0 s6 v5 hcall) (lw_V q1859 q1860 q1861 q99 q1862) hdV_X3_times ⟨(Nat.le_of_ble_eq_true rfl), (Nat.le_of_ble_eq_true rfl)⟩ rfl (Nat.le_of_ble_eq_true rfl) dX1_requireTimed_5 rfl) (fun v5 s6 hf => ?_)
  refine z_cXU (rest := []) hf (fun v7 s8 hcall => z_runS hC (pc := 8) 1 (m_X1_requireState X.g v5 s6 s8 v7 hcall) (lw_S q2630 q2631 q95 q2632) hd_X1_requireState ⟨(Nat.le_of_ble_eq_true rfl), (Nat.le_of_ble_eq_true rfl)⟩ rfl (Nat.le_of_ble_eq_true rfl) dX1_requireTimed_8 rfl) (fun _ s8 hf => ?_) (fun e s hf => z_outI hC hQ hno hf)
  refine z_aload_n hC (pc := 11) dX1_requireTimed_11 rfl 0 rfl ?_
  refine z_aload_n hC (pc := 12) dX1_requireTimed_12 rfl 1 rfl ?_
  obtain ⟨fs9, ha10, hf⟩ := z_rcN hf
  refine z_cU (rest := []) hf (fun v11 s12 hcall => z_runV hC (pc := 13) zcX1 1 ha10 (m_X1_replace X.g l0 (some a4) s8 s12 v11 hcall) (lw_V q1914 q1916 qs22 q95 q1917) hdV_X1_replace ⟨(Nat.le_of_ble_eq_true rfl), (Nat.le_of_ble_eq_true rfl)⟩ rfl (Nat.le_of_ble_eq_true rfl) dX1_requireTimed_13 rfl) (fun _ s12 hf => ?_)
  refine z_aload_n hC (pc := 16) dX1_requireTimed_16 rfl 1 rfl ?_
  obtain ⟨fs13, ha14, hf⟩ := z_rcN hf
  refine z_cI (rest := []) hf (fun v15 s16 hcall => z_runV hC (pc := 17) zcX3 0 ha14 (m_X3_makespan X.g a4 s12 s16 v15 hcall) (lw_V q464 q465 q466 q99 q467) hdV_X3_makespan ⟨(Nat.le_of_ble_eq_true rfl), (Nat.le_of_ble_eq_true rfl)⟩ rfl (Nat.le_of_ble_eq_true rfl) dX1_requireTimed_17 rfl) (fun v15 s16 hf => ?_)
  exact z_ireturnX hC (pc := 20) hQ dX1_requireTimed_20 hf
/-! BlockingShop.place(III)I -/
def f_X1_place (G : Nat → Nat) (l0 : Nat) (l1 : Int32) (l2 : Int32) (l3 : Int32) (s0 : zS) : Option ((Int32 ⊕ (Nat × Nat)) × zS) :=
zo (zrc s0 (some l0) 0) fun _ =>
zx (f_X1_numberOf G l0 l1 l2 s0) (fun e s => some (.inr e, s)) fun v3 s4 =>
zo (zgR s4 (some l0) 0 3) fun v5 =>
zo (zgR s4 v5 2 2) fun v6 =>
zo (zgR s4 (some l0) 0 3) fun v7 =>
zo (zgR s4 v7 2 0) fun v8 =>
zo (zgR s4 v8 3 4) fun v9 =>
zo (zaI s4 v9 0 v3) fun v10 =>
zo (zaI s4 v6 0 v10) fun v11 =>
zx (f_X1_requireIndex G l3 v11 s4) (fun e s => some (.inr e, s)) fun _ s13 =>
zo (zgR s13 (some l0) 0 3) fun v14 =>
zo (zrc s13 v14 2) fun a17 =>
zb (f_X3_copy G a17 s13) fun v18 s19 =>
zo (zrc s19 v18 2) fun a22 =>
zb (f_X3_place G a22 v3 l3 s19) fun _ s24 =>
zo (zrc s24 (some l0) 0) fun _ =>
zx (f_X1_requireTimed G l0 (some a22) s24) (fun e s => some (.inr e, s)) fun v27 s28 =>
some (.inl v27, s28)
set_option maxHeartbeats 4000000 in
theorem m_X1_place (Γ : zG) (l0 : Nat) (l1 : Int32) (l2 : Int32) (l3 : Int32) (s0 s1 : zS) (r : (Int32 ⊕ (Nat × Nat))) (hf : f_X1_place Γ.1 l0 l1 l2 l3 s0 = some (r, s1)) : ZM Γ yX1_place (ws_ yX1_place cX1_place 6 (some .int)) 12 264 [zr (some l0), zi l1, zi l2, zi l3] s0 (zoI r, s1) := by
  refine ZM.of (own := RX1) (by decide) rfl (Nat.le_of_ble_eq_true rfl) ?_
  intro X hg hC hL hno hQ hin
  subst hg
  unfold f_X1_place at hf
  refine z_aload_n hC (pc := 0) dX1_place_0 rfl 0 rfl ?_
  refine z_iload_n hC (pc := 1) dX1_place_1 rfl 1 rfl ?_
  refine z_iload_n hC (pc := 2) dX1_place_2 rfl 2 rfl ?_
  obtain ⟨fs1, ha2, hf⟩ := z_rcN hf
  refine z_cXI (rest := []) hf (fun v3 s4 hcall => z_runV hC (pc := 3) zcX1 2 ha2 (m_X1_numberOf X.g l0 l1 l2 s0 s4 v3 hcall) (lw_V q2522 q2524 qs44 q95 q2525) hdV_X1_numberOf ⟨(Nat.le_of_ble_eq_true rfl), (Nat.le_of_ble_eq_true rfl)⟩ rfl (Nat.le_of_ble_eq_true rfl) dX1_place_3 rfl) (fun v3 s4 hf => ?_) (fun e s hf => z_outI hC hQ hno hf)
  refine z_istore (lv' := [(4, zi v3), (0, zr (some l0)), (1, zi l1), (2, zi l2), (3, zi l3)]) hC (pc := 6) hL dX1_place_6 (Nat.le_of_ble_eq_true rfl) rfl ?_
  refine z_iload_n hC (pc := 8) dX1_place_8 rfl 4 rfl ?_
  refine z_aload_n hC (pc := 9) dX1_place_9 rfl 1 rfl ?_
  refine z_getR hC (pc := 10) in_X1 zcX1 3 (Nat.le_of_ble_eq_true rfl) (zLk.o hC q394) zsm dX1_place_10 hf (fun v5 hf => ?_)
  refine z_getR hC (pc := 13) in_X3 zcX3 2 (Nat.le_of_ble_eq_true rfl) (zLk.n hC q373) zsm dX1_place_13 hf (fun v6 hf => ?_)
  refine z_aload_n hC (pc := 16) dX1_place_16 rfl 1 rfl ?_
  refine z_getR hC (pc := 17) in_X1 zcX1 3 (Nat.le_of_ble_eq_true rfl) (zLk.o hC q394) zsm dX1_place_17 hf (fun v7 hf => ?_)
  refine z_getR hC (pc := 20) in_X3 zcX3 0 (Nat.le_of_ble_eq_true rfl) (zLk.n hC q366) zsm dX1_place_20 hf (fun v8 hf => ?_)
  refine z_getR hC (pc := 23) in_X4 zcX4 4 (Nat.le_of_ble_eq_true rfl) (zLk.n hC q338) zsm dX1_place_23 hf (fun v9 hf => ?_)
  refine z_iload hC (pc := 26) dX1_place_26 0 rfl ?_
  refine z_iald hC (pc := 28) dX1_place_28 hf (fun v10 hf => ?_)
  refine z_iald hC (pc := 29) dX1_place_29 hf (fun v11 hf => ?_)
  refine z_cXU (rest := []) hf (fun v12 s13 hcall => z_runS hC (pc := 30) 2 (m_X1_requireIndex X.g l3 v11 s4 s13 v12 hcall) (lw_S q2504 q2505 q95 q2506) hd_X1_requireIndex ⟨(Nat.le_of_ble_eq_true rfl), (Nat.le_of_ble_eq_true rfl)⟩ rfl (Nat.le_of_ble_eq_true rfl) dX1_place_30 rfl) (fun _ s13 hf => ?_) (fun e s hf => z_outI hC hQ hno hf)
  refine z_aload_n hC (pc := 33) dX1_place_33 rfl 1 rfl ?_
  refine z_getR hC (pc := 34) in_X1 zcX1 3 (Nat.le_of_ble_eq_true rfl) (zLk.o hC q394) zsm dX1_place_34 hf (fun v14 hf => ?_)
  obtain ⟨a17, fs15, rfl, ha16, hf⟩ := z_rcO hf
  refine z_cR (rest := []) hf (fun v18 s19 hcall => z_runV hC (pc := 37) zcX3 0 ha16 (m_X3_copy X.g a17 s13 s19 v18 hcall) (lw_V q1902 q1903 q1904 q99 q1905) hdV_X3_copy ⟨(Nat.le_of_ble_eq_true rfl), (Nat.le_of_ble_eq_true rfl)⟩ rfl (Nat.le_of_ble_eq_true rfl) dX1_place_37 rfl) (fun v18 s19 hf => ?_)
  refine z_astore (lv' := [(5, zr v18), (4, zi v3), (0, zr (some l0)), (1, zi l1), (2, zi l2), (3, zi l3)]) hC (pc := 40) hL dX1_place_40 (Nat.le_of_ble_eq_true rfl) rfl ?_
  refine z_aload hC (pc := 42) dX1_place_42 0 rfl ?_
  refine z_iload hC (pc := 44) dX1_place_44 1 rfl ?_
  refine z_iload_n hC (pc := 46) dX1_place_46 rfl 5 rfl ?_
  obtain ⟨a22, fs20, rfl, ha21, hf⟩ := z_rcO hf
  refine z_cU (rest := []) hf (fun v23 s24 hcall => z_runV hC (pc := 47) zcX3 2 ha21 (m_X3_place X.g a22 v3 l3 s19 s24 v23 hcall) (lw_V q2653 q2654 q2655 q99 q2656) hdV_X3_place ⟨(Nat.le_of_ble_eq_true rfl), (Nat.le_of_ble_eq_true rfl)⟩ rfl (Nat.le_of_ble_eq_true rfl) dX1_place_47 rfl) (fun _ s24 hf => ?_)
  refine z_aload_n hC (pc := 50) dX1_place_50 rfl 2 rfl ?_
  refine z_aload hC (pc := 51) dX1_place_51 0 rfl ?_
  obtain ⟨fs25, ha26, hf⟩ := z_rcN hf
  refine z_cXI (rest := []) hf (fun v27 s28 hcall => z_runV hC (pc := 53) zcX1 1 ha26 (m_X1_requireTimed X.g l0 (some a22) s24 s28 v27 hcall) (lw_V q2626 q2628 qs47 q95 q2629) hdV_X1_requireTimed ⟨(Nat.le_of_ble_eq_true rfl), (Nat.le_of_ble_eq_true rfl)⟩ rfl (Nat.le_of_ble_eq_true rfl) dX1_place_53 rfl) (fun v27 s28 hf => ?_) (fun e s hf => z_outI hC hQ hno hf)
  exact z_ireturnX hC (pc := 56) hQ dX1_place_56 hf
/-! BlockingShopLaw.place(LBlockingShop;III[J)I -/
def f_X0_place (G : Nat → Nat) (l0 : Option Nat) (l1 : Int32) (l2 : Int32) (l3 : Int32) (l4 : Option Nat) (s0 : zS) : Option (Int32 × zS) :=
zo (zrc s0 l0 0) fun a3 =>
zx (f_X1_place G a3 l1 l2 l3 s0) (fun e s5 => if e.1 = 25 then (some (1, s5)) else
if e.1 = 27 then (some (2, s5)) else none) fun v4 s5 =>
zo (zsL G s5 l4 0 (v4.toInt64)) fun s6 =>
some (0, s6)
set_option maxHeartbeats 4000000 in
theorem m_X0_place (Γ : zG) (l0 : Option Nat) (l1 : Int32) (l2 : Int32) (l3 : Int32) (l4 : Option Nat) (s0 s1 : zS) (r : Int32) (hf : f_X0_place Γ.1 l0 l1 l2 l3 l4 s0 = some (r, s1)) : ZM Γ yX0_place (wsW_ yX0_place cX0_place 6 (some .int) [(0, 12, 15, 18), (0, 12, 19, 61)]) 13 289 [zr l0, zi l1, zi l2, zi l3, zr l4] s0 (.inl (some (zi r)), s1) := by
  refine ZM.ofH (own := RX0) (by decide) rfl (Nat.le_of_ble_eq_true rfl) ?_
  intro X hg hC hL hno hQ hin
  subst hg
  unfold f_X0_place at hf
  refine z_aload hC (pc := 0) dX0_place_0 4 rfl ?_
  refine z_iconst (v := 0) hC (pc := 2) dX0_place_2 zki_0 ?_
  refine z_aload_n hC (pc := 3) dX0_place_3 rfl 0 rfl ?_
  refine z_iload_n hC (pc := 4) dX0_place_4 rfl 1 rfl ?_
  refine z_iload_n hC (pc := 5) dX0_place_5 rfl 2 rfl ?_
  refine z_iload_n hC (pc := 6) dX0_place_6 rfl 3 rfl ?_
  obtain ⟨a3, fs1, rfl, ha2, hf⟩ := z_rcO hf
  refine z_cXI (rest := [zi 0, zr l4]) hf (fun v4 s5 hcall => z_runV hC (pc := 7) zcX1 3 ha2 (m_X1_place X.g a3 l1 l2 l3 s0 s5 v4 hcall) (lw_V q2649 q2650 q2651 q95 q2652) hdV_X1_place ⟨(Nat.le_of_ble_eq_true rfl), (Nat.le_of_ble_eq_true rfl)⟩ rfl (Nat.le_of_ble_eq_true rfl) dX0_place_7 rfl) (fun v4 s5 hf => ?_) (fun e s5 hf => ?_)
  · skip
    refine z_i2l hC (pc := 10) dX0_place_10 ?_
    refine z_last hC (pc := 11) dX0_place_11 hf (fun s6 hf => ?_)
    refine z_goto hC (pc := 12) (tgt := 23) dX0_place_12 rfl ?_
    refine z_iconst (v := 0) hC (pc := 23) dX0_place_23 zki_0 ?_
    exact z_ireturn hC (pc := 24) hQ dX0_place_24 hf
  · skip
    by_cases c7 : e.1 = 25
    · have hf := zif_t hf c7
      rw [c7]
      refine z_catch hC zcE25 [] ⟨0, 12, 15, 18⟩ [⟨0, 12, 19, 61⟩] (hno.trans rfl) (fun z hz => nomatch hz) rfl (by decide) q2480 q506 ?_
      refine z_astore (lv' := [(5, zr (some (e.2))), (0, zr (some a3)), (1, zi l1), (2, zi l2), (3, zi l3), (4, zr l4)]) hC (pc := 15) hL dX0_place_15 (Nat.le_of_ble_eq_true rfl) rfl ?_
      refine z_iconst (v := 1) hC (pc := 17) dX0_place_17 zki_1 ?_
      exact z_ireturn hC (pc := 18) hQ dX0_place_18 hf
    · have hf := zif_f hf c7
      by_cases c8 : e.1 = 27
      · have hf := zif_t hf c8
        rw [c8]
        refine z_catch hC zcE27 [⟨0, 12, 15, 18⟩] ⟨0, 12, 19, 61⟩ [] (hno.trans rfl) (fun z hz => by rcases List.mem_singleton.mp hz with rfl; exact Or.inr ⟨by decide, _, q2480, List.mem_of_getElem? (i := 1) rfl⟩) rfl (by decide) q2621 q1956 ?_
        refine z_astore (lv' := [(5, zr (some (e.2))), (0, zr (some a3)), (1, zi l1), (2, zi l2), (3, zi l3), (4, zr l4)]) hC (pc := 19) hL dX0_place_19 (Nat.le_of_ble_eq_true rfl) rfl ?_
        refine z_iconst (v := 2) hC (pc := 21) dX0_place_21 zki_2 ?_
        exact z_ireturn hC (pc := 22) hQ dX0_place_22 hf
      · have hf := zif_f hf c8
        cases hf
/-! BlockingShop.setDuration(III)I -/
def f_X1_setDuration (G : Nat → Nat) (l0 : Nat) (l1 : Int32) (l2 : Int32) (l3 : Int32) (s0 : zS) : Option ((Int32 ⊕ (Nat × Nat)) × zS) :=
zo (zrc s0 (some l0) 0) fun _ =>
zx (f_X1_numberOf G l0 l1 l2 s0) (fun e s => some (.inr e, s)) fun v3 s4 =>
zb (f_X1_isBetween G (l3.toInt64) 1 99 s4) fun v5 s6 =>
zx (f_X1_requireArgument G v5 s6) (fun e s => some (.inr e, s)) fun _ s8 =>
zo (zgR s8 (some l0) 0 3) fun v9 =>
zo (zgR s8 v9 2 1) fun v10 =>
zo (zaI s8 v10 0 v3) fun v11 =>
zo (zgR s8 (some l0) 0 3) fun v12 =>
zo (zrc s8 v12 2) fun a15 =>
zb (f_X3_copy G a15 s8) fun v16 s17 =>
zo (zgR s17 v16 2 1) fun v18 =>
zo (zsI G s17 v18 0 v3 l3) fun s19 =>
zo (zgR s19 (some l0) 0 2) fun v20 =>
zo (zrc s19 v16 2) fun a23 =>
zb (f_X3_times G a23 v20 s19) fun v24 s25 =>
zo (zrc s25 (some l0) 0) fun _ =>
zb (f_X1_replace G l0 (some a23) s25) fun _ s29 =>
some (.inl v11, s29)
set_option maxHeartbeats 4000000 in
theorem m_X1_setDuration (Γ : zG) (l0 : Nat) (l1 : Int32) (l2 : Int32) (l3 : Int32) (s0 s1 : zS) (r : (Int32 ⊕ (Nat × Nat))) (hf : f_X1_setDuration Γ.1 l0 l1 l2 l3 s0 = some (r, s1)) : ZM Γ yX1_setDuration (ws_ yX1_setDuration cX1_setDuration 8 (some .int)) 11 264 [zr (some l0), zi l1, zi l2, zi l3] s0 (zoI r, s1) := by
  refine ZM.of (own := RX1) (by decide) rfl (Nat.le_of_ble_eq_true rfl) ?_
  intro X hg hC hL hno hQ hin
  subst hg
  unfold f_X1_setDuration at hf
  refine z_aload_n hC (pc := 0) dX1_setDuration_0 rfl 0 rfl ?_
  refine z_iload_n hC (pc := 1) dX1_setDuration_1 rfl 1 rfl ?_
  refine z_iload_n hC (pc := 2) dX1_setDuration_2 rfl 2 rfl ?_
  obtain ⟨fs1, ha2, hf⟩ := z_rcN hf
  refine z_cXI (rest := []) hf (fun v3 s4 hcall => z_runV hC (pc := 3) zcX1 2 ha2 (m_X1_numberOf X.g l0 l1 l2 s0 s4 v3 hcall) (lw_V q2522 q2524 qs44 q95 q2525) hdV_X1_numberOf ⟨(Nat.le_of_ble_eq_true rfl), (Nat.le_of_ble_eq_true rfl)⟩ rfl (Nat.le_of_ble_eq_true rfl) dX1_setDuration_3 rfl) (fun v3 s4 hf => ?_) (fun e s hf => z_outI hC hQ hno hf)
  refine z_istore (lv' := [(4, zi v3), (0, zr (some l0)), (1, zi l1), (2, zi l2), (3, zi l3)]) hC (pc := 6) hL dX1_setDuration_6 (Nat.le_of_ble_eq_true rfl) rfl ?_
  refine z_iload_n hC (pc := 8) dX1_setDuration_8 rfl 4 rfl ?_
  refine z_i2l hC (pc := 9) dX1_setDuration_9 ?_
  refine z_lconst (v := 1) hC (pc := 10) dX1_setDuration_10 (by decide) ?_
  refine z_ldc2 (v := 99) hC (pc := 11) q2665 dX1_setDuration_11 ?_
  refine z_cI (rest := []) hf (fun v5 s6 hcall => z_runS hC (pc := 14) 3 (m_X1_isBetween X.g (l3.toInt64) 1 99 s4 s6 v5 hcall) (lw_S q2013 q2014 q95 q2015) hd_X1_isBetween ⟨(Nat.le_of_ble_eq_true rfl), (Nat.le_of_ble_eq_true rfl)⟩ rfl (Nat.le_of_ble_eq_true rfl) dX1_setDuration_14 rfl) (fun v5 s6 hf => ?_)
  refine z_cXU (rest := []) hf (fun v7 s8 hcall => z_runS hC (pc := 17) 1 (m_X1_requireArgument X.g v5 s6 s8 v7 hcall) (lw_S q2016 q2017 q95 q2018) hd_X1_requireArgument ⟨(Nat.le_of_ble_eq_true rfl), (Nat.le_of_ble_eq_true rfl)⟩ rfl (Nat.le_of_ble_eq_true rfl) dX1_setDuration_17 rfl) (fun _ s8 hf => ?_) (fun e s hf => z_outI hC hQ hno hf)
  refine z_aload_n hC (pc := 20) dX1_setDuration_20 rfl 1 rfl ?_
  refine z_getR hC (pc := 21) in_X1 zcX1 3 (Nat.le_of_ble_eq_true rfl) (zLk.o hC q394) zsm dX1_setDuration_21 hf (fun v9 hf => ?_)
  refine z_getR hC (pc := 24) in_X3 zcX3 1 (Nat.le_of_ble_eq_true rfl) (zLk.n hC q370) zsm dX1_setDuration_24 hf (fun v10 hf => ?_)
  refine z_iload hC (pc := 27) dX1_setDuration_27 0 rfl ?_
  refine z_iald hC (pc := 29) dX1_setDuration_29 hf (fun v11 hf => ?_)
  refine z_istore (lv' := [(5, zi v11), (4, zi v3), (0, zr (some l0)), (1, zi l1), (2, zi l2), (3, zi l3)]) hC (pc := 30) hL dX1_setDuration_30 (Nat.le_of_ble_eq_true rfl) rfl ?_
  refine z_aload_n hC (pc := 32) dX1_setDuration_32 rfl 2 rfl ?_
  refine z_getR hC (pc := 33) in_X1 zcX1 3 (Nat.le_of_ble_eq_true rfl) (zLk.o hC q394) zsm dX1_setDuration_33 hf (fun v12 hf => ?_)
  obtain ⟨a15, fs13, rfl, ha14, hf⟩ := z_rcO hf
  refine z_cR (rest := []) hf (fun v16 s17 hcall => z_runV hC (pc := 36) zcX3 0 ha14 (m_X3_copy X.g a15 s8 s17 v16 hcall) (lw_V q1902 q1903 q1904 q99 q1905) hdV_X3_copy ⟨(Nat.le_of_ble_eq_true rfl), (Nat.le_of_ble_eq_true rfl)⟩ rfl (Nat.le_of_ble_eq_true rfl) dX1_setDuration_36 rfl) (fun v16 s17 hf => ?_)
  refine z_astore (lv' := [(6, zr v16), (5, zi v11), (4, zi v3), (0, zr (some l0)), (1, zi l1), (2, zi l2), (3, zi l3)]) hC (pc := 39) hL dX1_setDuration_39 (Nat.le_of_ble_eq_true rfl) rfl ?_
  refine z_aload hC (pc := 41) dX1_setDuration_41 0 rfl ?_
  refine z_getR hC (pc := 43) in_X3 zcX3 1 (Nat.le_of_ble_eq_true rfl) (zLk.n hC q370) zsm dX1_setDuration_43 hf (fun v18 hf => ?_)
  refine z_iload hC (pc := 46) dX1_setDuration_46 2 rfl ?_
  refine z_iload_n hC (pc := 48) dX1_setDuration_48 rfl 6 rfl ?_
  refine z_iast hC (pc := 49) dX1_setDuration_49 hf (fun s19 hf => ?_)
  refine z_aload hC (pc := 50) dX1_setDuration_50 0 rfl ?_
  refine z_aload_n hC (pc := 52) dX1_setDuration_52 rfl 3 rfl ?_
  refine z_getR hC (pc := 53) in_X1 zcX1 2 (Nat.le_of_ble_eq_true rfl) (zLk.o hC q393) zsm dX1_setDuration_53 hf (fun v20 hf => ?_)
  obtain ⟨a23, fs21, rfl, ha22, hf⟩ := z_rcO hf
  refine z_cI (rest := []) hf (fun v24 s25 hcall => z_runV hC (pc := 56) zcX3 1 ha22 (m_X3_times X.g a23 v20 s19 s25 v24 hcall) (lw_V q1859 q1860 q1861 q99 q1862) hdV_X3_times ⟨(Nat.le_of_ble_eq_true rfl), (Nat.le_of_ble_eq_true rfl)⟩ rfl (Nat.le_of_ble_eq_true rfl) dX1_setDuration_56 rfl) (fun v24 s25 hf => ?_)
  refine z_istore (lv' := [(7, zi v24), (6, zr (some a23)), (5, zi v11), (4, zi v3), (0, zr (some l0)), (1, zi l1), (2, zi l2), (3, zi l3)]) hC (pc := 59) hL dX1_setDuration_59 (Nat.le_of_ble_eq_true rfl) rfl ?_
  refine z_aload_n hC (pc := 61) dX1_setDuration_61 rfl 4 rfl ?_
  refine z_aload hC (pc := 62) dX1_setDuration_62 1 rfl ?_
  obtain ⟨fs26, ha27, hf⟩ := z_rcN hf
  refine z_cU (rest := []) hf (fun v28 s29 hcall => z_runV hC (pc := 64) zcX1 1 ha27 (m_X1_replace X.g l0 (some a23) s25 s29 v28 hcall) (lw_V q1914 q1916 qs22 q95 q1917) hdV_X1_replace ⟨(Nat.le_of_ble_eq_true rfl), (Nat.le_of_ble_eq_true rfl)⟩ rfl (Nat.le_of_ble_eq_true rfl) dX1_setDuration_64 rfl) (fun _ s29 hf => ?_)
  refine z_iload hC (pc := 67) dX1_setDuration_67 2 rfl ?_
  exact z_ireturnX hC (pc := 69) hQ dX1_setDuration_69 hf
/-! BlockingShopLaw.setDuration(LBlockingShop;III[J)I -/
def f_X0_setDuration (G : Nat → Nat) (l0 : Option Nat) (l1 : Int32) (l2 : Int32) (l3 : Int32) (l4 : Option Nat) (s0 : zS) : Option (Int32 × zS) :=
zo (zrc s0 l0 0) fun a3 =>
zx (f_X1_setDuration G a3 l1 l2 l3 s0) (fun e s5 => if e.1 = 25 then (some (1, s5)) else
if e.1 = 26 then (some (2, s5)) else none) fun v4 s5 =>
zo (zsL G s5 l4 0 (v4.toInt64)) fun s6 =>
some (0, s6)
set_option maxHeartbeats 4000000 in
theorem m_X0_setDuration (Γ : zG) (l0 : Option Nat) (l1 : Int32) (l2 : Int32) (l3 : Int32) (l4 : Option Nat) (s0 s1 : zS) (r : Int32) (hf : f_X0_setDuration Γ.1 l0 l1 l2 l3 l4 s0 = some (r, s1)) : ZM Γ yX0_setDuration (wsW_ yX0_setDuration cX0_setDuration 6 (some .int) [(0, 12, 15, 18), (0, 12, 19, 13)]) 12 291 [zr l0, zi l1, zi l2, zi l3, zr l4] s0 (.inl (some (zi r)), s1) := by
  refine ZM.ofH (own := RX0) (by decide) rfl (Nat.le_of_ble_eq_true rfl) ?_
  intro X hg hC hL hno hQ hin
  subst hg
  unfold f_X0_setDuration at hf
  refine z_aload hC (pc := 0) dX0_setDuration_0 4 rfl ?_
  refine z_iconst (v := 0) hC (pc := 2) dX0_setDuration_2 zki_0 ?_
  refine z_aload_n hC (pc := 3) dX0_setDuration_3 rfl 0 rfl ?_
  refine z_iload_n hC (pc := 4) dX0_setDuration_4 rfl 1 rfl ?_
  refine z_iload_n hC (pc := 5) dX0_setDuration_5 rfl 2 rfl ?_
  refine z_iload_n hC (pc := 6) dX0_setDuration_6 rfl 3 rfl ?_
  obtain ⟨a3, fs1, rfl, ha2, hf⟩ := z_rcO hf
  refine z_cXI (rest := [zi 0, zr l4]) hf (fun v4 s5 hcall => z_runV hC (pc := 7) zcX1 3 ha2 (m_X1_setDuration X.g a3 l1 l2 l3 s0 s5 v4 hcall) (lw_V q2661 q2662 q2663 q95 q2664) hdV_X1_setDuration ⟨(Nat.le_of_ble_eq_true rfl), (Nat.le_of_ble_eq_true rfl)⟩ rfl (Nat.le_of_ble_eq_true rfl) dX0_setDuration_7 rfl) (fun v4 s5 hf => ?_) (fun e s5 hf => ?_)
  · skip
    refine z_i2l hC (pc := 10) dX0_setDuration_10 ?_
    refine z_last hC (pc := 11) dX0_setDuration_11 hf (fun s6 hf => ?_)
    refine z_goto hC (pc := 12) (tgt := 23) dX0_setDuration_12 rfl ?_
    refine z_iconst (v := 0) hC (pc := 23) dX0_setDuration_23 zki_0 ?_
    exact z_ireturn hC (pc := 24) hQ dX0_setDuration_24 hf
  · skip
    by_cases c7 : e.1 = 25
    · have hf := zif_t hf c7
      rw [c7]
      refine z_catch hC zcE25 [] ⟨0, 12, 15, 18⟩ [⟨0, 12, 19, 13⟩] (hno.trans rfl) (fun z hz => nomatch hz) rfl (by decide) q2480 q506 ?_
      refine z_astore (lv' := [(5, zr (some (e.2))), (0, zr (some a3)), (1, zi l1), (2, zi l2), (3, zi l3), (4, zr l4)]) hC (pc := 15) hL dX0_setDuration_15 (Nat.le_of_ble_eq_true rfl) rfl ?_
      refine z_iconst (v := 1) hC (pc := 17) dX0_setDuration_17 zki_1 ?_
      exact z_ireturn hC (pc := 18) hQ dX0_setDuration_18 hf
    · have hf := zif_f hf c7
      by_cases c8 : e.1 = 26
      · have hf := zif_t hf c8
        rw [c8]
        refine z_catch hC zcE26 [⟨0, 12, 15, 18⟩] ⟨0, 12, 19, 13⟩ [] (hno.trans rfl) (fun z hz => by rcases List.mem_singleton.mp hz with rfl; exact Or.inr ⟨by decide, _, q2480, List.mem_of_getElem? (i := 0) rfl⟩) rfl (by decide) q2007 q769 ?_
        refine z_astore (lv' := [(5, zr (some (e.2))), (0, zr (some a3)), (1, zi l1), (2, zi l2), (3, zi l3), (4, zr l4)]) hC (pc := 19) hL dX0_setDuration_19 (Nat.le_of_ble_eq_true rfl) rfl ?_
        refine z_iconst (v := 2) hC (pc := 21) dX0_setDuration_21 zki_2 ?_
        exact z_ireturn hC (pc := 22) hQ dX0_setDuration_22 hf
      · have hf := zif_f hf c8
        cases hf
/-! BlockingShop.start(II)I -/
def f_X1_start (G : Nat → Nat) (l0 : Nat) (l1 : Int32) (l2 : Int32) (s0 : zS) : Option ((Int32 ⊕ (Nat × Nat)) × zS) :=
zo (zgR s0 (some l0) 0 3) fun v1 =>
zo (zgR s0 v1 2 3) fun v2 =>
zo (zrc s0 (some l0) 0) fun _ =>
zx (f_X1_numberOf G l0 l1 l2 s0) (fun e s => some (.inr e, s)) fun v5 s6 =>
zo (zaI s6 v2 0 v5) fun v7 =>
some (.inl v7, s6)
set_option maxHeartbeats 4000000 in
theorem m_X1_start (Γ : zG) (l0 : Nat) (l1 : Int32) (l2 : Int32) (s0 s1 : zS) (r : (Int32 ⊕ (Nat × Nat))) (hf : f_X1_start Γ.1 l0 l1 l2 s0 = some (r, s1)) : ZM Γ yX1_start (ws_ yX1_start cX1_start 3 (some .int)) 11 264 [zr (some l0), zi l1, zi l2] s0 (zoI r, s1) := by
  refine ZM.of (own := RX1) (by decide) rfl (Nat.le_of_ble_eq_true rfl) ?_
  intro X hg hC hL hno hQ hin
  subst hg
  unfold f_X1_start at hf
  refine z_aload_n hC (pc := 0) dX1_start_0 rfl 0 rfl ?_
  refine z_getR hC (pc := 1) in_X1 zcX1 3 (Nat.le_of_ble_eq_true rfl) (zLk.o hC q394) zsm dX1_start_1 hf (fun v1 hf => ?_)
  refine z_getR hC (pc := 4) in_X3 zcX3 3 (Nat.le_of_ble_eq_true rfl) (zLk.n hC q375) zsm dX1_start_4 hf (fun v2 hf => ?_)
  refine z_aload_n hC (pc := 7) dX1_start_7 rfl 0 rfl ?_
  refine z_iload_n hC (pc := 8) dX1_start_8 rfl 1 rfl ?_
  refine z_iload_n hC (pc := 9) dX1_start_9 rfl 2 rfl ?_
  obtain ⟨fs3, ha4, hf⟩ := z_rcN hf
  refine z_cXI (rest := [zr v2]) hf (fun v5 s6 hcall => z_runV hC (pc := 10) zcX1 2 ha4 (m_X1_numberOf X.g l0 l1 l2 s0 s6 v5 hcall) (lw_V q2522 q2524 qs44 q95 q2525) hdV_X1_numberOf ⟨(Nat.le_of_ble_eq_true rfl), (Nat.le_of_ble_eq_true rfl)⟩ rfl (Nat.le_of_ble_eq_true rfl) dX1_start_10 rfl) (fun v5 s6 hf => ?_) (fun e s hf => z_outI hC hQ hno hf)
  refine z_iald hC (pc := 13) dX1_start_13 hf (fun v7 hf => ?_)
  exact z_ireturnX hC (pc := 14) hQ dX1_start_14 hf
/-! BlockingShopLaw.start(LBlockingShop;II[J)I -/
def f_X0_start (G : Nat → Nat) (l0 : Option Nat) (l1 : Int32) (l2 : Int32) (l3 : Option Nat) (s0 : zS) : Option (Int32 × zS) :=
zo (zrc s0 l0 0) fun a3 =>
zx (f_X1_start G a3 l1 l2 s0) (fun e s5 => if e.1 = 25 then (some (1, s5)) else none) fun v4 s5 =>
zo (zsL G s5 l3 0 (v4.toInt64)) fun s6 =>
some (0, s6)
set_option maxHeartbeats 4000000 in
theorem m_X0_start (Γ : zG) (l0 : Option Nat) (l1 : Int32) (l2 : Int32) (l3 : Option Nat) (s0 s1 : zS) (r : Int32) (hf : f_X0_start Γ.1 l0 l1 l2 l3 s0 = some (r, s1)) : ZM Γ yX0_start (wsW_ yX0_start cX0_start 5 (some .int) [(0, 10, 13, 18)]) 12 286 [zr l0, zi l1, zi l2, zr l3] s0 (.inl (some (zi r)), s1) := by
  refine ZM.ofH (own := RX0) (by decide) rfl (Nat.le_of_ble_eq_true rfl) ?_
  intro X hg hC hL hno hQ hin
  subst hg
  unfold f_X0_start at hf
  refine z_aload_n hC (pc := 0) dX0_start_0 rfl 3 rfl ?_
  refine z_iconst (v := 0) hC (pc := 1) dX0_start_1 zki_0 ?_
  refine z_aload_n hC (pc := 2) dX0_start_2 rfl 0 rfl ?_
  refine z_iload_n hC (pc := 3) dX0_start_3 rfl 1 rfl ?_
  refine z_iload_n hC (pc := 4) dX0_start_4 rfl 2 rfl ?_
  obtain ⟨a3, fs1, rfl, ha2, hf⟩ := z_rcO hf
  refine z_cXI (rest := [zi 0, zr l3]) hf (fun v4 s5 hcall => z_runV hC (pc := 5) zcX1 2 ha2 (m_X1_start X.g a3 l1 l2 s0 s5 v4 hcall) (lw_V q2549 q2550 q2551 q95 q2552) hdV_X1_start ⟨(Nat.le_of_ble_eq_true rfl), (Nat.le_of_ble_eq_true rfl)⟩ rfl (Nat.le_of_ble_eq_true rfl) dX0_start_5 rfl) (fun v4 s5 hf => ?_) (fun e s5 hf => ?_)
  · skip
    refine z_i2l hC (pc := 8) dX0_start_8 ?_
    refine z_last hC (pc := 9) dX0_start_9 hf (fun s6 hf => ?_)
    refine z_goto hC (pc := 10) (tgt := 17) dX0_start_10 rfl ?_
    refine z_iconst (v := 0) hC (pc := 17) dX0_start_17 zki_0 ?_
    exact z_ireturn hC (pc := 18) hQ dX0_start_18 hf
  · skip
    by_cases c7 : e.1 = 25
    · have hf := zif_t hf c7
      rw [c7]
      refine z_catch hC zcE25 [] ⟨0, 10, 13, 18⟩ [] (hno.trans rfl) (fun z hz => nomatch hz) rfl (by decide) q2480 q506 ?_
      refine z_astore (lv' := [(4, zr (some (e.2))), (0, zr (some a3)), (1, zi l1), (2, zi l2), (3, zr l3)]) hC (pc := 13) hL dX0_start_13 (Nat.le_of_ble_eq_true rfl) rfl ?_
      refine z_iconst (v := 1) hC (pc := 15) dX0_start_15 zki_1 ?_
      exact z_ireturn hC (pc := 16) hQ dX0_start_16 hf
    · have hf := zif_f hf c7
      cases hf
/-! BlockingShop.swap(II)I -/
def f_X1_swap (G : Nat → Nat) (l0 : Nat) (l1 : Int32) (l2 : Int32) (s0 : zS) : Option ((Int32 ⊕ (Nat × Nat)) × zS) :=
zo (zrc s0 (some l0) 0) fun _ =>
zx (f_X1_requireSwap G l0 l1 l2 s0) (fun e s => some (.inr e, s)) fun _ s4 =>
zo (zgR s4 (some l0) 0 3) fun v5 =>
zo (zrc s4 v5 2) fun a8 =>
zb (f_X3_copy G a8 s4) fun v9 s10 =>
zo (zrc s10 v9 2) fun a13 =>
zb (f_X3_swap G a13 l1 l2 s10) fun _ s15 =>
zo (zrc s15 (some l0) 0) fun _ =>
zx (f_X1_requireTimed G l0 (some a13) s15) (fun e s => some (.inr e, s)) fun v18 s19 =>
some (.inl v18, s19)
set_option maxHeartbeats 4000000 in
theorem m_X1_swap (Γ : zG) (l0 : Nat) (l1 : Int32) (l2 : Int32) (s0 s1 : zS) (r : (Int32 ⊕ (Nat × Nat))) (hf : f_X1_swap Γ.1 l0 l1 l2 s0 = some (r, s1)) : ZM Γ yX1_swap (ws_ yX1_swap cX1_swap 4 (some .int)) 12 264 [zr (some l0), zi l1, zi l2] s0 (zoI r, s1) := by
  refine ZM.of (own := RX1) (by decide) rfl (Nat.le_of_ble_eq_true rfl) ?_
  intro X hg hC hL hno hQ hin
  subst hg
  unfold f_X1_swap at hf
  refine z_aload_n hC (pc := 0) dX1_swap_0 rfl 0 rfl ?_
  refine z_iload_n hC (pc := 1) dX1_swap_1 rfl 1 rfl ?_
  refine z_iload_n hC (pc := 2) dX1_swap_2 rfl 2 rfl ?_
  obtain ⟨fs1, ha2, hf⟩ := z_rcN hf
  refine z_cXU (rest := []) hf (fun v3 s4 hcall => z_runV hC (pc := 3) zcX1 2 ha2 (m_X1_requireSwap X.g l0 l1 l2 s0 s4 v3 hcall) (lw_V q2610 q2612 qs46 q95 q2613) hdV_X1_requireSwap ⟨(Nat.le_of_ble_eq_true rfl), (Nat.le_of_ble_eq_true rfl)⟩ rfl (Nat.le_of_ble_eq_true rfl) dX1_swap_3 rfl) (fun _ s4 hf => ?_) (fun e s hf => z_outI hC hQ hno hf)
  refine z_aload_n hC (pc := 6) dX1_swap_6 rfl 0 rfl ?_
  refine z_getR hC (pc := 7) in_X1 zcX1 3 (Nat.le_of_ble_eq_true rfl) (zLk.o hC q394) zsm dX1_swap_7 hf (fun v5 hf => ?_)
  obtain ⟨a8, fs6, rfl, ha7, hf⟩ := z_rcO hf
  refine z_cR (rest := []) hf (fun v9 s10 hcall => z_runV hC (pc := 10) zcX3 0 ha7 (m_X3_copy X.g a8 s4 s10 v9 hcall) (lw_V q1902 q1903 q1904 q99 q1905) hdV_X3_copy ⟨(Nat.le_of_ble_eq_true rfl), (Nat.le_of_ble_eq_true rfl)⟩ rfl (Nat.le_of_ble_eq_true rfl) dX1_swap_10 rfl) (fun v9 s10 hf => ?_)
  refine z_astore_n (lv' := [(3, zr v9), (0, zr (some l0)), (1, zi l1), (2, zi l2)]) hC (pc := 13) hL dX1_swap_13 rfl (Nat.le_of_ble_eq_true rfl) rfl ?_
  refine z_aload_n hC (pc := 14) dX1_swap_14 rfl 0 rfl ?_
  refine z_iload_n hC (pc := 15) dX1_swap_15 rfl 2 rfl ?_
  refine z_iload_n hC (pc := 16) dX1_swap_16 rfl 3 rfl ?_
  obtain ⟨a13, fs11, rfl, ha12, hf⟩ := z_rcO hf
  refine z_cU (rest := []) hf (fun v14 s15 hcall => z_runV hC (pc := 17) zcX3 2 ha12 (m_X3_swap X.g a13 l1 l2 s10 s15 v14 hcall) (lw_V q1855 q1856 q1857 q99 q1858) hdV_X3_swap ⟨(Nat.le_of_ble_eq_true rfl), (Nat.le_of_ble_eq_true rfl)⟩ rfl (Nat.le_of_ble_eq_true rfl) dX1_swap_17 rfl) (fun _ s15 hf => ?_)
  refine z_aload_n hC (pc := 20) dX1_swap_20 rfl 1 rfl ?_
  refine z_aload_n hC (pc := 21) dX1_swap_21 rfl 0 rfl ?_
  obtain ⟨fs16, ha17, hf⟩ := z_rcN hf
  refine z_cXI (rest := []) hf (fun v18 s19 hcall => z_runV hC (pc := 22) zcX1 1 ha17 (m_X1_requireTimed X.g l0 (some a13) s15 s19 v18 hcall) (lw_V q2626 q2628 qs47 q95 q2629) hdV_X1_requireTimed ⟨(Nat.le_of_ble_eq_true rfl), (Nat.le_of_ble_eq_true rfl)⟩ rfl (Nat.le_of_ble_eq_true rfl) dX1_swap_22 rfl) (fun v18 s19 hf => ?_) (fun e s hf => z_outI hC hQ hno hf)
  exact z_ireturnX hC (pc := 25) hQ dX1_swap_25 hf
/-! BlockingShopLaw.swap(LBlockingShop;II[J)I -/
def f_X0_swap (G : Nat → Nat) (l0 : Option Nat) (l1 : Int32) (l2 : Int32) (l3 : Option Nat) (s0 : zS) : Option (Int32 × zS) :=
zo (zrc s0 l0 0) fun a3 =>
zx (f_X1_swap G a3 l1 l2 s0) (fun e s5 => if e.1 = 25 then (some (1, s5)) else
if e.1 = 27 then (some (2, s5)) else none) fun v4 s5 =>
zo (zsL G s5 l3 0 (v4.toInt64)) fun s6 =>
some (0, s6)
set_option maxHeartbeats 4000000 in
theorem m_X0_swap (Γ : zG) (l0 : Option Nat) (l1 : Int32) (l2 : Int32) (l3 : Option Nat) (s0 s1 : zS) (r : Int32) (hf : f_X0_swap Γ.1 l0 l1 l2 l3 s0 = some (r, s1)) : ZM Γ yX0_swap (wsW_ yX0_swap cX0_swap 5 (some .int) [(0, 10, 13, 18), (0, 10, 17, 61)]) 13 287 [zr l0, zi l1, zi l2, zr l3] s0 (.inl (some (zi r)), s1) := by
  refine ZM.ofH (own := RX0) (by decide) rfl (Nat.le_of_ble_eq_true rfl) ?_
  intro X hg hC hL hno hQ hin
  subst hg
  unfold f_X0_swap at hf
  refine z_aload_n hC (pc := 0) dX0_swap_0 rfl 3 rfl ?_
  refine z_iconst (v := 0) hC (pc := 1) dX0_swap_1 zki_0 ?_
  refine z_aload_n hC (pc := 2) dX0_swap_2 rfl 0 rfl ?_
  refine z_iload_n hC (pc := 3) dX0_swap_3 rfl 1 rfl ?_
  refine z_iload_n hC (pc := 4) dX0_swap_4 rfl 2 rfl ?_
  obtain ⟨a3, fs1, rfl, ha2, hf⟩ := z_rcO hf
  refine z_cXI (rest := [zi 0, zr l3]) hf (fun v4 s5 hcall => z_runV hC (pc := 5) zcX1 2 ha2 (m_X1_swap X.g a3 l1 l2 s0 s5 v4 hcall) (lw_V q2622 q2623 q2624 q95 q2625) hdV_X1_swap ⟨(Nat.le_of_ble_eq_true rfl), (Nat.le_of_ble_eq_true rfl)⟩ rfl (Nat.le_of_ble_eq_true rfl) dX0_swap_5 rfl) (fun v4 s5 hf => ?_) (fun e s5 hf => ?_)
  · skip
    refine z_i2l hC (pc := 8) dX0_swap_8 ?_
    refine z_last hC (pc := 9) dX0_swap_9 hf (fun s6 hf => ?_)
    refine z_goto hC (pc := 10) (tgt := 21) dX0_swap_10 rfl ?_
    refine z_iconst (v := 0) hC (pc := 21) dX0_swap_21 zki_0 ?_
    exact z_ireturn hC (pc := 22) hQ dX0_swap_22 hf
  · skip
    by_cases c7 : e.1 = 25
    · have hf := zif_t hf c7
      rw [c7]
      refine z_catch hC zcE25 [] ⟨0, 10, 13, 18⟩ [⟨0, 10, 17, 61⟩] (hno.trans rfl) (fun z hz => nomatch hz) rfl (by decide) q2480 q506 ?_
      refine z_astore (lv' := [(4, zr (some (e.2))), (0, zr (some a3)), (1, zi l1), (2, zi l2), (3, zr l3)]) hC (pc := 13) hL dX0_swap_13 (Nat.le_of_ble_eq_true rfl) rfl ?_
      refine z_iconst (v := 1) hC (pc := 15) dX0_swap_15 zki_1 ?_
      exact z_ireturn hC (pc := 16) hQ dX0_swap_16 hf
    · have hf := zif_f hf c7
      by_cases c8 : e.1 = 27
      · have hf := zif_t hf c8
        rw [c8]
        refine z_catch hC zcE27 [⟨0, 10, 13, 18⟩] ⟨0, 10, 17, 61⟩ [] (hno.trans rfl) (fun z hz => by rcases List.mem_singleton.mp hz with rfl; exact Or.inr ⟨by decide, _, q2480, List.mem_of_getElem? (i := 1) rfl⟩) rfl (by decide) q2621 q1956 ?_
        refine z_astore (lv' := [(4, zr (some (e.2))), (0, zr (some a3)), (1, zi l1), (2, zi l2), (3, zr l3)]) hC (pc := 17) hL dX0_swap_17 (Nat.le_of_ble_eq_true rfl) rfl ?_
        refine z_iconst (v := 2) hC (pc := 19) dX0_swap_19 zki_2 ?_
        exact z_ireturn hC (pc := 20) hQ dX0_swap_20 hf
      · have hf := zif_f hf c8
        cases hf
/-! BlockingShop.put(I)V -/
def f_X1_put_b3 (G : Nat → Nat) (k3 : Nat → Int32 → Int32 → zS → Option (Unit × zS)) (l0 : Nat) (l1 : Int32) (l2 : Int32) (s0 : zS) : Option (Unit × zS) :=
if l2 < 0 then (some ((), s0))
else (zo (zgR s0 (some l0) 0 0) fun v2 =>
zo (zgI s0 (some l0) 0 4) fun v3 =>
zo (zsI G s0 v2 2 v3 ((l1 >>> ((l2 : Int32) &&& 31) : Int32).toInt8.toInt32)) fun s4 =>
zo (zgI s4 (some l0) 0 4) fun v5 =>
zo (zput G s4 (some l0) 0 4 (.int (v5 + 1))) fun s6 =>
k3 l0 l1 (l2 + (-8)) s6)
set_option maxHeartbeats 4000000 in
theorem w_X1_put_b3 {X : zX} (hC : ZC X RX1 cX1_put none 1 0) (hL : X.nL = 3) (hno : ∀ x ∈ X.c.exceptionTable.toList, False) {r : Unit} {sF : zS} (hQ : ZQ X (.inl none, sF)) (k3 : Nat → Int32 → Int32 → zS → Option (Unit × zS)) (hk3 : ∀ (l0 : Nat) (l1 : Int32) (l2 : Int32) (s0 : zS), k3 l0 l1 l2 s0 = some (r, sF) → ZW X s0 3 [(0, zr (some l0)), (1, zi l1), (2, zi l2)] []) (l0 : Nat) (l1 : Int32) (l2 : Int32) (s0 : zS) (hf : f_X1_put_b3 X.g.1 k3 l0 l1 l2 s0 = some (r, sF)) : ZW X s0 3 [(0, zr (some l0)), (1, zi l1), (2, zi l2)] [] := by
  unfold f_X1_put_b3 at hf
  refine z_iload_n hC (pc := 3) dX1_put_3 rfl 2 rfl ?_
  refine z_if_lt hC (pc := 4) (tgt := 36) dX1_put_4 rfl (fun c1 => ?_) (fun c1 => ?_)
  · have hf := zif_t hf c1
    exact z_return hC (pc := 36) hQ dX1_put_36 hf
  · have hf := zif_f hf c1
    refine z_aload_n hC (pc := 7) dX1_put_7 rfl 0 rfl ?_
    refine z_getR hC (pc := 8) in_X1 zcX1 0 (Nat.le_of_ble_eq_true rfl) (zLk.o hC q390) zsm dX1_put_8 hf (fun v2 hf => ?_)
    refine z_aload_n hC (pc := 11) dX1_put_11 rfl 0 rfl ?_
    refine z_getI hC (pc := 12) in_X1 zcX1 4 (Nat.le_of_ble_eq_true rfl) (zLk.o hC q395) zsm dX1_put_12 hf (fun v3 hf => ?_)
    refine z_iload_n hC (pc := 15) dX1_put_15 rfl 1 rfl ?_
    refine z_iload_n hC (pc := 16) dX1_put_16 rfl 2 rfl ?_
    refine z_ishr hC (pc := 17) dX1_put_17 ?_
    refine z_i2b hC (pc := 18) dX1_put_18 ?_
    refine z_bast hC (pc := 19) dX1_put_19 hf (fun s4 hf => ?_)
    refine z_aload_n hC (pc := 20) dX1_put_20 rfl 0 rfl ?_
    refine z_dup hC (pc := 21) dX1_put_21 rfl ?_
    refine z_getI hC (pc := 22) in_X1 zcX1 4 (Nat.le_of_ble_eq_true rfl) (zLk.o hC q395) zsm dX1_put_22 hf (fun v5 hf => ?_)
    refine z_iconst (v := 1) hC (pc := 25) dX1_put_25 zki_1 ?_
    refine z_iadd hC (pc := 26) dX1_put_26 ?_
    refine z_putV (v := zi (v5 + 1)) hC (pc := 27) in_X1 tyX1 tyX1_ok nmX1 zcX1 4 (Nat.le_of_ble_eq_true rfl) (zLk.o hC q395) zsm (Or.inl rfl) rfl rfl dX1_put_27 hf (fun s6 hf => ?_)
    refine z_iinc (v := (-8)) (lv' := [(2, zi (l2 + (-8))), (0, zr (some l0)), (1, zi l1)]) hC (pc := 30) hL dX1_put_30 2 rfl zki_m8 (Nat.le_of_ble_eq_true rfl) rfl ?_
    refine z_goto hC (pc := 33) (tgt := 3) dX1_put_33 rfl ?_
    refine ZW.perm (lv' := [(0, zr (some l0)), (1, zi l1), (2, zi (l2 + (-8)))]) [1, 2, 0] rfl ?_
    exact hk3 l0 l1 (l2 + (-8)) s6 hf
def f_X1_put_l3 (G : Nat → Nat) : Nat → Nat → Int32 → Int32 → zS → Option (Unit × zS)
  | 0 => fun _ _ _ _ => none
  | n + 1 => f_X1_put_b3 G (f_X1_put_l3 G n)
theorem w_X1_put_l3 {X : zX} (hC : ZC X RX1 cX1_put none 1 0) (hL : X.nL = 3) (hno : ∀ x ∈ X.c.exceptionTable.toList, False) {r : Unit} {sF : zS} (hQ : ZQ X (.inl none, sF)) : ∀ (n : Nat) (l0 : Nat) (l1 : Int32) (l2 : Int32) (s0 : zS) (_ : f_X1_put_l3 X.g.1 n l0 l1 l2 s0 = some (r, sF)), ZW X s0 3 [(0, zr (some l0)), (1, zi l1), (2, zi l2)] [] := by
  intro n
  induction n with
  | zero => intro l0 l1 l2 s0 hf; exact absurd (show (none : Option (Unit × zS)) = some (r, sF) from hf) (fun z => nomatch z)
  | succ n ih => intro l0 l1 l2 s0 hf; exact w_X1_put_b3 hC hL hno hQ (f_X1_put_l3 X.g.1 n) ih l0 l1 l2 s0 hf
def f_X1_put (G : Nat → Nat) (l0 : Nat) (l1 : Int32) (s0 : zS) : Option (Unit × zS) :=
f_X1_put_l3 G 2000 l0 l1 24 s0
set_option maxHeartbeats 4000000 in
theorem m_X1_put (Γ : zG) (l0 : Nat) (l1 : Int32) (s0 s1 : zS) (r : Unit) (hf : f_X1_put Γ.1 l0 l1 s0 = some (r, s1)) : ZM Γ yX1_put (ws_ yX1_put cX1_put 3 none) 1 0 [zr (some l0), zi l1] s0 (.inl none, s1) := by
  refine ZM.of (own := RX1) (by decide) rfl (Nat.le_of_ble_eq_true rfl) ?_
  intro X hg hC hL hno hQ hin
  subst hg
  unfold f_X1_put at hf
  refine z_bipush (v := 24) hC (pc := 0) dX1_put_0 zkb_24 ?_
  refine z_istore_n (lv' := [(2, zi 24), (0, zr (some l0)), (1, zi l1)]) hC (pc := 2) hL dX1_put_2 rfl (Nat.le_of_ble_eq_true rfl) rfl ?_
  refine ZW.perm (lv' := [(0, zr (some l0)), (1, zi l1), (2, zi 24)]) [1, 2, 0] rfl ?_
  exact w_X1_put_l3 hC hL hno hQ 2000 l0 l1 24 s0 hf
/-! BlockingShop.append(IIIII)I -/
def f_X1_append (G : Nat → Nat) (l0 : Nat) (l1 : Int32) (l2 : Int32) (l3 : Int32) (l4 : Int32) (l5 : Int32) (s0 : zS) : Option (Int32 × zS) :=
zo (zgI s0 (some l0) 0 4) fun v1 =>
if (v1 + 20) ≤ 900 then (zo (zrc s0 (some l0) 0) fun _ =>
zb (f_X1_put G l0 l1 s0) fun _ s6 =>
zo (zrc s6 (some l0) 0) fun _ =>
zb (f_X1_put G l0 l2 s6) fun _ s10 =>
zo (zrc s10 (some l0) 0) fun _ =>
zb (f_X1_put G l0 l3 s10) fun _ s14 =>
zo (zrc s14 (some l0) 0) fun _ =>
zb (f_X1_put G l0 l4 s14) fun _ s18 =>
zo (zrc s18 (some l0) 0) fun _ =>
zb (f_X1_put G l0 l5 s18) fun _ s22 =>
zo (zgI s22 (some l0) 0 4) fun v23 =>
some (v23, s22))
else (some ((-1), s0))
set_option maxHeartbeats 4000000 in
theorem m_X1_append (Γ : zG) (l0 : Nat) (l1 : Int32) (l2 : Int32) (l3 : Int32) (l4 : Int32) (l5 : Int32) (s0 s1 : zS) (r : Int32) (hf : f_X1_append Γ.1 l0 l1 l2 l3 l4 l5 s0 = some (r, s1)) : ZM Γ yX1_append (ws_ yX1_append cX1_append 6 (some .int)) 2 22 [zr (some l0), zi l1, zi l2, zi l3, zi l4, zi l5] s0 (.inl (some (zi r)), s1) := by
  refine ZM.of (own := RX1) (by decide) rfl (Nat.le_of_ble_eq_true rfl) ?_
  intro X hg hC hL hno hQ hin
  subst hg
  unfold f_X1_append at hf
  refine z_aload_n hC (pc := 0) dX1_append_0 rfl 0 rfl ?_
  refine z_getI hC (pc := 1) in_X1 zcX1 4 (Nat.le_of_ble_eq_true rfl) (zLk.o hC q395) zsm dX1_append_1 hf (fun v1 hf => ?_)
  refine z_bipush (v := 20) hC (pc := 4) dX1_append_4 zkb_20 ?_
  refine z_iadd hC (pc := 6) dX1_append_6 ?_
  refine z_sipush (v := 900) hC (pc := 7) dX1_append_7 zks_900 ?_
  refine z_icmp_le hC (pc := 10) (tgt := 15) dX1_append_10 rfl (fun c2 => ?_) (fun c2 => ?_)
  · have hf := zif_t hf c2
    refine z_aload_n hC (pc := 15) dX1_append_15 rfl 0 rfl ?_
    refine z_iload_n hC (pc := 16) dX1_append_16 rfl 1 rfl ?_
    obtain ⟨fs3, ha4, hf⟩ := z_rcN hf
    refine z_cU (rest := []) hf (fun v5 s6 hcall => z_runV hC (pc := 17) zcX1 1 ha4 (m_X1_put X.g l0 l1 s0 s6 v5 hcall) (lw_V q414 q416 qs0 q95 q417) hdV_X1_put ⟨(Nat.le_of_ble_eq_true rfl), (Nat.le_of_ble_eq_true rfl)⟩ rfl (Nat.le_of_ble_eq_true rfl) dX1_append_17 rfl) (fun _ s6 hf => ?_)
    refine z_aload_n hC (pc := 20) dX1_append_20 rfl 0 rfl ?_
    refine z_iload_n hC (pc := 21) dX1_append_21 rfl 2 rfl ?_
    obtain ⟨fs7, ha8, hf⟩ := z_rcN hf
    refine z_cU (rest := []) hf (fun v9 s10 hcall => z_runV hC (pc := 22) zcX1 1 ha8 (m_X1_put X.g l0 l2 s6 s10 v9 hcall) (lw_V q414 q416 qs0 q95 q417) hdV_X1_put ⟨(Nat.le_of_ble_eq_true rfl), (Nat.le_of_ble_eq_true rfl)⟩ rfl (Nat.le_of_ble_eq_true rfl) dX1_append_22 rfl) (fun _ s10 hf => ?_)
    refine z_aload_n hC (pc := 25) dX1_append_25 rfl 0 rfl ?_
    refine z_iload_n hC (pc := 26) dX1_append_26 rfl 3 rfl ?_
    obtain ⟨fs11, ha12, hf⟩ := z_rcN hf
    refine z_cU (rest := []) hf (fun v13 s14 hcall => z_runV hC (pc := 27) zcX1 1 ha12 (m_X1_put X.g l0 l3 s10 s14 v13 hcall) (lw_V q414 q416 qs0 q95 q417) hdV_X1_put ⟨(Nat.le_of_ble_eq_true rfl), (Nat.le_of_ble_eq_true rfl)⟩ rfl (Nat.le_of_ble_eq_true rfl) dX1_append_27 rfl) (fun _ s14 hf => ?_)
    refine z_aload_n hC (pc := 30) dX1_append_30 rfl 0 rfl ?_
    refine z_iload hC (pc := 31) dX1_append_31 4 rfl ?_
    obtain ⟨fs15, ha16, hf⟩ := z_rcN hf
    refine z_cU (rest := []) hf (fun v17 s18 hcall => z_runV hC (pc := 33) zcX1 1 ha16 (m_X1_put X.g l0 l4 s14 s18 v17 hcall) (lw_V q414 q416 qs0 q95 q417) hdV_X1_put ⟨(Nat.le_of_ble_eq_true rfl), (Nat.le_of_ble_eq_true rfl)⟩ rfl (Nat.le_of_ble_eq_true rfl) dX1_append_33 rfl) (fun _ s18 hf => ?_)
    refine z_aload_n hC (pc := 36) dX1_append_36 rfl 0 rfl ?_
    refine z_iload hC (pc := 37) dX1_append_37 5 rfl ?_
    obtain ⟨fs19, ha20, hf⟩ := z_rcN hf
    refine z_cU (rest := []) hf (fun v21 s22 hcall => z_runV hC (pc := 39) zcX1 1 ha20 (m_X1_put X.g l0 l5 s18 s22 v21 hcall) (lw_V q414 q416 qs0 q95 q417) hdV_X1_put ⟨(Nat.le_of_ble_eq_true rfl), (Nat.le_of_ble_eq_true rfl)⟩ rfl (Nat.le_of_ble_eq_true rfl) dX1_append_39 rfl) (fun _ s22 hf => ?_)
    refine z_aload_n hC (pc := 42) dX1_append_42 rfl 0 rfl ?_
    refine z_getI hC (pc := 43) in_X1 zcX1 4 (Nat.le_of_ble_eq_true rfl) (zLk.o hC q395) zsm dX1_append_43 hf (fun v23 hf => ?_)
    exact z_ireturn hC (pc := 46) hQ dX1_append_46 hf
  · have hf := zif_f hf c2
    refine z_iconst (v := (-1)) hC (pc := 13) dX1_append_13 zki_m1 ?_
    exact z_ireturn hC (pc := 14) hQ dX1_append_14 hf
/-! BlockingShop.bestSwap()I -/
def f_X1_bestSwap (G : Nat → Nat) (l0 : Nat) (s0 : zS) : Option (Int32 × zS) :=
zo (zgR s0 (some l0) 0 3) fun v1 =>
zb (znewO G s0 2 5 [.null, .null, .null, .null, .null]) fun a2 s3 =>
zo (zgR s3 (some l0) 0 3) fun v4 =>
zo (zgR s3 v4 2 0) fun v5 =>
zb (f_X3_init G a2 v5 s3) fun _ s7 =>
zb (znewO G s7 2 5 [.null, .null, .null, .null, .null]) fun a8 s9 =>
zo (zgR s9 (some l0) 0 3) fun v10 =>
zo (zgR s9 v10 2 0) fun v11 =>
zb (f_X3_init G a8 v11 s9) fun _ s13 =>
zo (zrc s13 (some l0) 0) fun _ =>
zb (f_X1_bestOf G l0 v1 (some a2) (some a8) s13) fun v16 s17 =>
some (v16, s17)
set_option maxHeartbeats 4000000 in
theorem m_X1_bestSwap (Γ : zG) (l0 : Nat) (s0 s1 : zS) (r : Int32) (hf : f_X1_bestSwap Γ.1 l0 s0 = some (r, s1)) : ZM Γ yX1_bestSwap (ws_ yX1_bestSwap cX1_bestSwap 1 (some .int)) 3015 60221 [zr (some l0)] s0 (.inl (some (zi r)), s1) := by
  refine ZM.of (own := RX1) (by decide) rfl (Nat.le_of_ble_eq_true rfl) ?_
  intro X hg hC hL hno hQ hin
  subst hg
  unfold f_X1_bestSwap at hf
  refine z_aload_n hC (pc := 0) dX1_bestSwap_0 rfl 0 rfl ?_
  refine z_aload_n hC (pc := 1) dX1_bestSwap_1 rfl 0 rfl ?_
  refine z_getR hC (pc := 2) in_X1 zcX1 3 (Nat.le_of_ble_eq_true rfl) (zLk.o hC q394) zsm dX1_bestSwap_2 hf (fun v1 hf => ?_)
  refine z_new hC (pc := 5) in_X3 tyX3 tyX3_ok zcX3 q223 q224 q99 rfl zdX3 dX1_bestSwap_5 hf (fun a2 s3 hf => ?_)
  refine z_dup hC (pc := 8) dX1_bestSwap_8 rfl ?_
  refine z_aload_n hC (pc := 9) dX1_bestSwap_9 rfl 0 rfl ?_
  refine z_getR hC (pc := 10) in_X1 zcX1 3 (Nat.le_of_ble_eq_true rfl) (zLk.o hC q394) zsm dX1_bestSwap_10 hf (fun v4 hf => ?_)
  refine z_getR hC (pc := 13) in_X3 zcX3 0 (Nat.le_of_ble_eq_true rfl) (zLk.n hC q366) zsm dX1_bestSwap_13 hf (fun v5 hf => ?_)
  refine z_cU (rest := [zr (some a2), zr v1, zr (some l0)]) hf (fun v6 s7 hcall => z_runI hC (pc := 16) 1 (m_X3_init X.g a2 v5 s3 s7 v6 hcall) q360 rfl q99 q358 q359 hd_X3_init ⟨(Nat.le_of_ble_eq_true rfl), (Nat.le_of_ble_eq_true rfl)⟩ rfl (Nat.le_of_ble_eq_true rfl) dX1_bestSwap_16 rfl) (fun _ s7 hf => ?_)
  refine z_new hC (pc := 19) in_X3 tyX3 tyX3_ok zcX3 q223 q224 q99 rfl zdX3 dX1_bestSwap_19 hf (fun a8 s9 hf => ?_)
  refine z_dup hC (pc := 22) dX1_bestSwap_22 rfl ?_
  refine z_aload_n hC (pc := 23) dX1_bestSwap_23 rfl 0 rfl ?_
  refine z_getR hC (pc := 24) in_X1 zcX1 3 (Nat.le_of_ble_eq_true rfl) (zLk.o hC q394) zsm dX1_bestSwap_24 hf (fun v10 hf => ?_)
  refine z_getR hC (pc := 27) in_X3 zcX3 0 (Nat.le_of_ble_eq_true rfl) (zLk.n hC q366) zsm dX1_bestSwap_27 hf (fun v11 hf => ?_)
  refine z_cU (rest := [zr (some a8), zr (some a2), zr v1, zr (some l0)]) hf (fun v12 s13 hcall => z_runI hC (pc := 30) 1 (m_X3_init X.g a8 v11 s9 s13 v12 hcall) q360 rfl q99 q358 q359 hd_X3_init ⟨(Nat.le_of_ble_eq_true rfl), (Nat.le_of_ble_eq_true rfl)⟩ rfl (Nat.le_of_ble_eq_true rfl) dX1_bestSwap_30 rfl) (fun _ s13 hf => ?_)
  obtain ⟨fs14, ha15, hf⟩ := z_rcN hf
  refine z_cI (rest := []) hf (fun v16 s17 hcall => z_runV hC (pc := 33) zcX1 3 ha15 (m_X1_bestOf X.g l0 v1 (some a2) (some a8) s13 s17 v16 hcall) (lw_V q1846 q1848 qs18 q95 q1849) hdV_X1_bestOf ⟨(Nat.le_of_ble_eq_true rfl), (Nat.le_of_ble_eq_true rfl)⟩ rfl (Nat.le_of_ble_eq_true rfl) dX1_bestSwap_33 rfl) (fun v16 s17 hf => ?_)
  exact z_ireturn hC (pc := 36) hQ dX1_bestSwap_36 hf
