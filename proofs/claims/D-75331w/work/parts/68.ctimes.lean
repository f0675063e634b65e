/-! THE PLAIN LAW, part 28: a plan is timed; an operation is brought to a place -/
set_option maxRecDepth 100000
def vP (V : zV1) (p : Nat) (π : zPi) : zV1 := fun a => if p ≤ a ∧ a < p + 11 then pCl p π (a - p) else V a
/-- V tells nothing of the cells p .. p + 10 -/
def vF (V : zV1) (p : Nat) : Prop := ∀ a e, V a = some e → a < p ∨ p + 11 ≤ a
theorem vP_le {V : zV1} {p : Nat} (h : vF V p) (π : zPi) : hle V (vP V p π) := hle.of fun a e q => by
  unfold vP
  rw [if_neg (by have := h a e q; omega)]
  exact q
theorem vP_C {X : Nat} {V : zV1} {p : Nat} {s : zS} (hp : pC X V s) (hX : X + 11 ≤ p) (π : zPi) : pC X (vP V p π) (pw p π s) := by
  intro a e q
  unfold vP at q
  by_cases h : p ≤ a ∧ a < p + 11
  · rw [if_pos h] at q
    refine ⟨by omega, ?_⟩
    show (if p ≤ a ∧ a < p + 11 then _ else _) = _
    rw [if_pos h]
    exact q
  · rw [if_neg h] at q
    refine ⟨(hp a e q).1, ?_⟩
    show (if p ≤ a ∧ a < p + 11 then _ else _) = _
    rw [if_neg h]
    exact (hp a e q).2
theorem vP_Pl {V : zV1} {p L : Nat} {π : zPi} {d S : Nat → Nat} {s : zS} (h : pOk π L d S) : hPl (vP V p π) p L d S := pOk_Pl (s := s) h fun j hj => by
  unfold vP
  rw [if_pos ⟨by omega, by omega⟩, Nat.add_sub_cancel_left]
section CTIMES
variable {G : Nat → Nat} {X p : Nat} {V : zV1} {s : zS} {d S : Nat → Nat} {v : (Nat → Int64) → Int64} {L : Nat} {π : zPi}
theorem C_times (hp : pC X V s) (hb : hB G V) (hG : G 0 ≤ X) (hX : X + 11 ≤ p) (hF : vF V p) (hL : hLa G V L d v) (hV : dV d) (h : pOk π L d S) (χ : zCh) : ∃ χ' π', f_X3_times G p (some (X + 4)) (cw X χ (pw p π s)) = some (bI (dTb d), cw X χ' (pw p π' s)) ∧ (dTb d = true → pOk π' L d (dSt d) ∧ dLe d (dSt d) ∧ ∀ i, i < 36 → dSt d i < 600000) ∧ (dTb d = false → π' = π) ∧ kFr [17, 18] [5, 6, 7, 8, 9, 10] [16] χ χ' := by
  have hle1 := vP_le hF π
  obtain ⟨χ1, b, S1, h1, h2, h3, h4⟩ := C_starts (vP_C hp hX π) (hle1.B hb) hG (hle1.La hL) (vP_Pl (V := V) (p := p) (s := s) h) hV χ
  have e : b = dTb d := by
    rw [Bool.eq_iff_iff, h2, dTb_t]
  subst e
  unfold f_X3_times
  simp (disch := omega) only [zo_s, zb_s, zx_l, zx_r, zrn_1, zrn_0, zrn_b, zrnX_1, zrnX_0, zrnX_b, n_lit, n_add, n_mul, n_sub, n_lt, n_le, n_eq, n_cl, n_div, n_md6, bI_0, bI_1, bI_t, bI_f, n_e10, n_e01, c_rcG, h1]
  cases hq : dTb d with
  | false =>
    refine ⟨χ1, π, ?_, fun z => (by cases z), fun _ => rfl, h4⟩
    rw [if_pos rfl]
  | true =>
    obtain ⟨k1, k2, k3⟩ := h3 hq
    obtain ⟨o0, o1, o2, o3, o4⟩ := h
    refine ⟨χ1, wP π 3 (va_cpy (kA χ1 8) (pA π 3) 0 0 36), ?_, fun _ => ⟨⟨o0, fun o ho => ?_, fun m hm => ?_, fun o ho => ?_, fun m k hm hk => ?_⟩, dSt_Le k1, fun i hi => by rw [← dSt_eq k1 hi]; exact k3 i hi⟩, fun z => (by cases z), h4⟩
    · rw [if_neg (by decide)]
      simp (disch := omega) only [zo_s, zb_s, zx_l, zx_r, zrn_1, zrn_0, zrn_b, zrnX_1, zrnX_0, zrnX_b, n_lit, c_G3]
      rw [cw_pw hX, p_R3, zo_s, p_cp (j := 3) (n := 36) (f := kA χ1 8) p π (cw X χ1 s) (by omega) (by omega) (by omega) (by omega) rfl (by
        rw [pw_out _ _ _ (by omega), cw_at X χ1 s (by omega)]
        rfl), zo_s, cw_pw hX]
    · rw [pA_wP, if_neg (by decide)]; exact o1 o ho
    · rw [pA_wP, if_neg (by decide)]; exact o2 m hm
    · rw [pA_wP, if_pos rfl, cpy_at _ _ ho, k2 o ho, dSt_eq k1 ho]
    · rw [pA_wP, if_neg (by omega)]; exact o4 m k hm hk
end CTIMES
/-! bringing an operation to a place -/
/-- at k, up to t / down to t -/
def dUp (d : Nat → Nat) (m k : Nat) : Nat → Nat → Nat
  | 0 => d
  | n + 1 => dUp (dSw d m k) m (k + 1) n
def dDn (d : Nat → Nat) (m k : Nat) : Nat → Nat → Nat
  | 0 => d
  | n + 1 => dDn (dSw d m (k - 1)) m (k - 1) n
def dBr1 (d : Nat → Nat) (m k t : Nat) : Nat → Nat := if k ≤ t then dUp d m k (t - k) else dDn d m k (k - t)
theorem dSw_kept {d : Nat → Nat} {m k : Nat} (hV : dV d) (hm : m < d 0) (hk : k + 1 < dCn d m) : (dSw d m k) 0 = d 0 ∧ dCn (dSw d m k) m = dCn d m ∧ dOr (dSw d m k) m (k + 1) = dOr d m k ∧ dOr (dSw d m k) m k = dOr d m (k + 1) ∧ ∀ o, dMo (dSw d m k) o = dMo d o := by
  have hm6 : m < 6 := Nat.lt_of_lt_of_le hm hV.2.1
  have hc6 := (hV.2.2.2.2.2.1 m hm).1
  have hk5 : k < 5 := by omega
  refine ⟨dSw_lo (by omega), dSw_Cn hm6 hk5 hm6, ?_, ?_, dSw_Mo hm6 hk5⟩
  · rw [dSw_Or hm6 hk5 hm6 (by omega), if_neg (by omega), if_pos ⟨rfl, rfl⟩]
  · rw [dSw_Or hm6 hk5 hm6 (by omega), if_pos ⟨rfl, rfl⟩]
/-- it is still a plan, the operation is there -/
theorem dUp_V : ∀ (n k : Nat) (d : Nat → Nat) (m : Nat), dV d → m < d 0 → k + n < dCn d m → dV (dUp d m k n) ∧ dOr (dUp d m k n) m (k + n) = dOr d m k ∧ dCn (dUp d m k n) m = dCn d m ∧ (dUp d m k n) 0 = d 0 ∧ ∀ o, dMo (dUp d m k n) o = dMo d o := by
  intro n
  induction n with
  | zero => intro k d m hV hm hk; exact ⟨hV, rfl, rfl, rfl, fun _ => rfl⟩
  | succ n ih =>
    intro k d m hV hm hk
    obtain ⟨a1, a2, a3, a4, a5⟩ := dSw_kept hV hm (show k + 1 < dCn d m from by omega)
    obtain ⟨b1, b2, b3, b4, b5⟩ := ih (k + 1) (dSw d m k) m (dSw_V hV hm (by omega)) (by rw [a1]; exact hm) (by rw [a2]; omega)
    refine ⟨b1, ?_, b3.trans a2, b4.trans a1, fun o => (b5 o).trans (a5 o)⟩
    rw [← a3, ← b2]
    show dOr (dUp (dSw d m k) m (k + 1) n) m (k + (n + 1)) = _
    rw [show k + (n + 1) = k + 1 + n from by omega]
theorem dDn_V : ∀ (n k : Nat) (d : Nat → Nat) (m : Nat), dV d → m < d 0 → n ≤ k → k < dCn d m → dV (dDn d m k n) ∧ dOr (dDn d m k n) m (k - n) = dOr d m k ∧ dCn (dDn d m k n) m = dCn d m ∧ (dDn d m k n) 0 = d 0 ∧ ∀ o, dMo (dDn d m k n) o = dMo d o := by
  intro n
  induction n with
  | zero => intro k d m hV hm _ hk; exact ⟨hV, rfl, rfl, rfl, fun _ => rfl⟩
  | succ n ih =>
    intro k d m hV hm hn hk
    obtain ⟨a1, a2, a3, a4, a5⟩ := dSw_kept (k := k - 1) hV hm (by omega)
    obtain ⟨b1, b2, b3, b4, b5⟩ := ih (k - 1) (dSw d m (k - 1)) m (dSw_V hV hm (by omega)) (by rw [a1]; exact hm) (by omega) (by rw [a2]; omega)
    refine ⟨b1, ?_, b3.trans a2, b4.trans a1, fun o => (b5 o).trans (a5 o)⟩
    rw [show k - 1 + 1 = k from by omega] at a4
    rw [← a4, ← b2]
    show dOr (dDn (dSw d m (k - 1)) m (k - 1) n) m (k - (n + 1)) = _
    rw [show k - (n + 1) = k - 1 - n from by omega]
theorem dBr1_V {d : Nat → Nat} {m k t : Nat} (hV : dV d) (hm : m < d 0) (hk : k < dCn d m) (ht : t < dCn d m) : dV (dBr1 d m k t) ∧ dOr (dBr1 d m k t) m t = dOr d m k ∧ dCn (dBr1 d m k t) m = dCn d m ∧ (dBr1 d m k t) 0 = d 0 ∧ ∀ o, dMo (dBr1 d m k t) o = dMo d o := by
  unfold dBr1
  split
  · have := dUp_V (t - k) k d m hV hm (by omega)
    rw [show k + (t - k) = t from by omega] at this
    exact this
  · have := dDn_V (k - t) k d m hV hm (by omega) hk
    rw [show k - (k - t) = t from by omega] at this
    exact this
section CPLACE
variable {G : Nat → Nat} {X p : Nat} {V : zV1} {s : zS} {S : Nat → Nat} {v : (Nat → Int64) → Int64} {L : Nat}
theorem C_pl_l45 (hG : G 0 ≤ p) {m t : Nat} : ∀ (c k n : Nat) (d : Nat → Nat) (π : zPi), dV d → m < d 0 → t < dCn d m → k + c = t ∨ (c = 0 ∧ t ≤ k ∧ k < 6) → c < n → pOk π L d S → ∃ π', f_X3_place_l45 G n p (nI t) (nI m) (nI k) (pw p π s) = some ((), pw p π' s) ∧ pOk π' L (dUp d m k c) S := by
  intro c
  induction c with
  | zero =>
    intro k n d π hV hm ht hc hn h
    obtain ⟨n, rfl⟩ : ∃ z, n = z + 1 := ⟨n - 1, by omega⟩
    have hc6 := (hV.2.2.2.2.2.1 m hm).1
    refine ⟨π, ?_, h⟩
    show f_X3_place_b45 G (f_X3_place_l45 G n) p _ _ _ _ = _
    unfold f_X3_place_b45
    rw [if_pos ((n_le (by omega) (by omega)).mpr (by omega))]
  | succ c ih =>
    intro k n d π hV hm ht hc hn h
    obtain ⟨n, rfl⟩ : ∃ z, n = z + 1 := ⟨n - 1, by omega⟩
    have hm6 : m < 6 := Nat.lt_of_lt_of_le hm hV.2.1
    have hc6 := (hV.2.2.2.2.2.1 m hm).1
    obtain ⟨a1, a2, -⟩ := dSw_kept hV hm (show k + 1 < dCn d m from by omega)
    obtain ⟨π1, b1, b2⟩ := C_swap (s := s) hG h hm6 (show k < 5 from by omega)
    obtain ⟨π2, c1, c2⟩ := ih (k + 1) n (dSw d m k) π1 (dSw_V hV hm (by omega)) (by rw [a1]; exact hm) (by rw [a2]; exact ht) (by omega) (by omega) b2
    refine ⟨π2, ?_, c2⟩
    rw [← c1]
    show f_X3_place_b45 G (f_X3_place_l45 G n) p _ _ _ _ = _
    unfold f_X3_place_b45
    rw [if_neg (fun z => by have := (n_le (by omega) (by omega)).mp z; omega), p_rc, zo_s, b1, zb_s, show nI k + 1 = nI (k + 1) from n_add k 1]
theorem C_pl_l17 (hs : ∀ π, pS V (pw p π s)) (hF : vF V p) (hG : G 0 ≤ p) {m t o : Nat} (hLO : ∃ J fs w, V L = some (.inr (3, fs)) ∧ fs[4]? = some (.ref J) ∧ V J = some (.inl (0, 36, .inl w)) ∧ w o = nI m) (ho : o < 36) : ∀ (c k n : Nat) (d : Nat → Nat) (π : zPi), dV d → m < d 0 → k < dCn d m → t < dCn d m → dOr d m k = o → (t + c = k ∨ (c = 0 ∧ k ≤ t)) → c < n → pOk π L d S → ∃ π', f_X3_place_l17 G n p (nI o) (nI t) (nI m) (nI k) (pw p π s) = some ((), pw p π' s) ∧ pOk π' L (if k ≤ t then dUp d m k (t - k) else dDn d m k c) S := by
  intro c
  induction c with
  | zero =>
    intro k n d π hV hm hk ht he hc hn h
    obtain ⟨n, rfl⟩ : ∃ z, n = z + 1 := ⟨n - 1, by omega⟩
    have hc6 := (hV.2.2.2.2.2.1 m hm).1
    have hm6 : m < 6 := Nat.lt_of_lt_of_le hm hV.2.1
    -- its place, once more
    have hpos : f_X3_position G p (nI o) (pw p π s) = some (nI k, pw p π s) := by
      obtain ⟨J, fs, w, l1, l2, l3, l4⟩ := hLO
      obtain ⟨h0, h1, h2, h3, h4⟩ := h
      have step : ∀ (c i n : Nat), i + c = k → c < n → f_X3_position_l2 G n p (nI o) (nI i) (pw p π s) = some (nI k, pw p π s) := by
        have ea : zgR (pw p π s) (some L) 3 4 = some (some J) := r_R (hs π _ _ l1) l2
        have eb : zaI (pw p π s) (some J) 0 (nI o) = some (nI m) := by rw [r_aI (n := 36) (f := w) (hs π _ _ l3) ho (by omega), l4]
        have l5 : pLn (5 + m) = 6 := by unfold pLn; rw [if_neg (by omega)]
        have er : ∀ i, i < 6 → zaI (pw p π s) (some (p + (5 + m))) 0 (nI i) = some (nI (dOr d m i)) := fun i hi => by rw [p_aI p π s (by omega) (by omega) (by omega) (by omega), h4 m i hm6 hi]
        intro c
        induction c with
        | zero =>
          intro i n hc hn
          obtain ⟨n, rfl⟩ : ∃ z, n = z + 1 := ⟨n - 1, by omega⟩
          have e : i = k := by omega
          subst e
          show f_X3_position_b2 G (f_X3_position_l2 G n) p _ _ _ = _
          unfold f_X3_position_b2
          rw [p_R4, zo_s, p_R0, zo_s, h0, ea, zo_s, eb, zo_s, p_aR p π s hm6, zo_s, er i (by omega), zo_s, if_pos (by rw [he])]
        | succ c ih =>
          intro i n hc hn
          obtain ⟨n, rfl⟩ : ∃ z, n = z + 1 := ⟨n - 1, by omega⟩
          have hne : dOr d m i ≠ o := fun z => by
            have := hV.2.2.2.2.2.2 m i k hm (by omega) hk (by rw [z, he])
            omega
          have hi := ((hV.2.2.2.2.2.1 m hm).2.2 i (by omega)).1
          show f_X3_position_b2 G (f_X3_position_l2 G n) p _ _ _ = _
          unfold f_X3_position_b2
          rw [p_R4, zo_s, p_R0, zo_s, h0, ea, zo_s, eb, zo_s, p_aR p π s hm6, zo_s, er i (by omega), zo_s, if_neg (fun z => hne ((n_eq (by omega) (by omega)).mp z)), show nI i + 1 = nI (i + 1) from n_add i 1]
          exact ih (i + 1) n (by omega) (by omega)
      exact step k 0 2000 (by omega) (by omega)
    obtain ⟨π1, b1, b2⟩ := C_pl_l45 (s := s) hG (t - k) k 2000 d π hV hm ht (by omega) (by omega) h
    refine ⟨π1, ?_, ?_⟩
    · rw [← b1]
      show f_X3_place_b17 G (f_X3_place_l17 G n) p _ _ _ _ _ = _
      unfold f_X3_place_b17
      rw [if_pos ((n_le (by omega) (by omega)).mpr (by omega)), p_rc, zo_s, hpos, zb_s]
    · rw [if_pos (by omega)]
      exact b2
  | succ c ih =>
    intro k n d π hV hm hk ht he hc hn h
    obtain ⟨n, rfl⟩ : ∃ z, n = z + 1 := ⟨n - 1, by omega⟩
    have hc6 := (hV.2.2.2.2.2.1 m hm).1
    have hm6 : m < 6 := Nat.lt_of_lt_of_le hm hV.2.1
    obtain ⟨a1, a2, a3, a4, -⟩ := dSw_kept (k := k - 1) hV hm (by omega)
    rw [show k - 1 + 1 = k from by omega] at a4
    obtain ⟨π1, b1, b2⟩ := C_swap (s := s) hG h hm6 (show k - 1 < 5 from by omega)
    obtain ⟨π2, c1, c2⟩ := ih (k - 1) n (dSw d m (k - 1)) π1 (dSw_V hV hm (by omega)) (by rw [a1]; exact hm) (by rw [a2]; omega) (by rw [a2]; exact ht) (by rw [a4]; exact he) (by omega) (by omega) b2
    refine ⟨π2, ?_, ?_⟩
    · rw [← c1]
      show f_X3_place_b17 G (f_X3_place_l17 G n) p _ _ _ _ _ = _
      unfold f_X3_place_b17
      rw [if_neg (fun z => by have := (n_le (by omega) (by omega)).mp z; omega), p_rc, zo_s, show nI k - 1 = nI (k - 1) from n_sub (b := 1) (by omega), b1, zb_s, show nI k + -1 = nI (k - 1) from n_m1 (by omega)]
    · rw [if_neg (by omega)]
      by_cases z : k - 1 ≤ t
      · rw [if_pos z] at c2
        have e1 : c = 0 := by omega
        have e2 : t - (k - 1) = 0 := by omega
        rw [e2] at c2
        subst e1
        exact c2
      · rw [if_neg z] at c2
        exact c2
end CPLACE
