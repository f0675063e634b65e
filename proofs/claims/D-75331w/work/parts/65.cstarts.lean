/-! THE PLAIN LAW, part 25: the system raises its starts -/
set_option maxRecDepth 100000
def kS (χ : zCh) (S : Nat → Nat) : Prop := ∀ i, i < 36 → kA χ 8 i = nI (S i)
section CSTARTS
variable {G : Nat → Nat} {X : Nat} {V : zV1} {s : zS} {d : Nat → Nat} {v : (Nat → Int64) → Int64} {L : Nat}
theorem dAr_len (hV : dV d) {u w l : Nat} (h : dAr d u w l) : l ≤ 198 := by
  rcases h with ⟨h1, h2, h3, -, rfl⟩ | ⟨m, k, h1, h2, -, -, rfl⟩
  · have := (hV.2.2.2.2.1 (w - 1) (by omega) (dEx_prev h2 h3).1).2.2.1
    omega
  · obtain ⟨a1, a2, -⟩ := (hV.2.2.2.2.2.1 m h1).2.2 k (by omega)
    have a4 := (hV.2.2.2.2.2.1 m h1).2.1
    have a6 := (hV.2.2.2.2.1 _ a1 a2).2.2.1
    unfold dLn
    split <;> omega
theorem fA_bd (hV : dV d) {n : Nat} {sN tN lN : Nat → Nat} (hAc : ∀ k, k < n → dAr d (sN k) (tN k) (lN k)) {B : Nat} {S : Nat → Nat} (hB : ∀ i, i < 36 → S i ≤ B) : ∀ k, k ≤ n → ∀ i, i < 36 → fA sN tN lN k S i ≤ B + 198 * k := by
  intro k
  induction k with
  | zero => intro _ i hi; have := hB i hi; simp only [fA]; omega
  | succ k ih =>
    intro hk i hi
    have h1 := ih (by omega)
    have h2 := h1 i hi
    simp only [fA]
    split
    · rw [u_at]
      split
      · have h3 := hAc k (by omega)
        have h4 := dAr_len hV h3
        have h5 := h1 _ (dAr_ex hV h3).1
        omega
      · omega
    · omega
/-- a round of the system -/
theorem C_st_l113 (hG : G 0 ≤ X) (hV : dV d) {n : Nat} {sN tN lN : Nat → Nat} (hn : n ≤ 72) (hAc : ∀ k, k < n → dAr d (sN k) (tN k) (lN k)) {S : Nat → Nat} {B : Nat} (hB1 : B + 198 * 72 < 1000000) (hB : ∀ i, i < 36 → S i ≤ B) (k96 : Nat → Int32 → Int32 → zS → Option (Int32 × zS)) (r : Nat) : ∀ (c k f : Nat) (χ : zCh), k + c = n → c < f → gAr χ n sN tN lN → kS χ (fA sN tN lN k S) → ∃ χ', f_X2_starts_l113 G k96 f (X + 4) (bI (hA sN tN lN k S)) (nI r) (nI k) (cw X χ s) = k96 (X + 4) (bI (hA sN tN lN n S)) (nI (r + 1)) (cw X χ' s) ∧ kS χ' (fA sN tN lN n S) ∧ kFr [] [8] [] χ χ' := by
  intro c
  induction c with
  | zero =>
    intro k f χ hc hf hg hS
    obtain ⟨f, rfl⟩ : ∃ q, f = q + 1 := ⟨f - 1, by omega⟩
    have e : k = n := by omega
    subst e
    refine ⟨χ, ?_, hS, kFr.refl _ _ _ _⟩
    show f_X2_starts_b113 G k96 (f_X2_starts_l113 G k96 f) _ _ _ _ (cw X χ s) = _
    unfold f_X2_starts_b113
    simp (disch := omega) only [zo_s, zb_s, zx_l, zx_r, zrn_1, zrn_0, zrn_b, zrnX_1, zrnX_0, zrnX_b, n_lit, n_add, n_mul, n_sub, n_lt, n_le, n_eq, n_cl, n_div, n_md6, bI_0, bI_1, bI_t, bI_f, n_e10, n_e01, c_G7, hg.1, Nat.le_refl, if_true]
  | succ c ih =>
    intro k f χ hc hf hg hS
    obtain ⟨f, rfl⟩ : ∃ q, f = q + 1 := ⟨f - 1, by omega⟩
    have hk : k < n := by omega
    have hbd := fA_bd hV hAc hB k (by omega)
    obtain ⟨g1, g2, g3⟩ := hg.2 k hk
    obtain ⟨a1, a2, a3, a4⟩ := dAr_ex hV (hAc k hk)
    have al := dAr_len hV (hAc k hk)
    have b1 := hbd _ a1
    have b2 := hbd _ a3
    have hS' : ∀ i, i < 36 → kA χ 8 i = nI (fA sN tN lN k S i) := hS
    have hx : ¬ (n ≤ k) := by omega
    show ∃ χ', f_X2_starts_b113 G k96 (f_X2_starts_l113 G k96 f) _ _ _ _ (cw X χ s) = _ ∧ _
    unfold f_X2_starts_b113 f_X2_starts_b180
    simp (disch := omega) only [zo_s, zb_s, zx_l, zx_r, zrn_1, zrn_0, zrn_b, zrnX_1, zrnX_0, zrnX_b, n_lit, n_add, n_mul, n_sub, n_lt, n_le, n_eq, n_cl, n_div, n_md6, bI_0, bI_1, bI_t, bI_f, n_e10, n_e01, c_rcX, c_rcD, c_rcG, c_X0, c_X1, c_X2, c_X3, c_X4, c_X5, c_D0, c_D1, c_D2, c_G0, c_G1, c_G2, c_G3, c_G4, c_G5, c_G6, c_G7, c_G8, c_aA, c_aO, c_aB, c_aD, c_lD, hg.1, hx, if_false, g1, g2, g3, hS']
    by_cases q : fA sN tN lN k S (tN k) < fA sN tN lN k S (sN k) + lN k
    · have e1 : fA sN tN lN (k + 1) S = va_up (fA sN tN lN k S) (tN k) (fA sN tN lN k S (sN k) + lN k) := by simp only [fA]; rw [if_pos q]
      have e2 : hA sN tN lN (k + 1) S = true := by simp only [hA]; rw [decide_eq_true q, Bool.or_true]
      rw [if_pos q]
      simp (disch := omega) only [zo_s, zb_s, zx_l, zx_r, zrn_1, zrn_0, zrn_b, zrnX_1, zrnX_0, zrnX_b, n_lit, n_add, n_mul, n_sub, n_lt, n_le, n_eq, n_cl, n_div, n_md6, bI_0, bI_1, bI_t, bI_f, n_e10, n_e01, c_rcX, c_rcD, c_rcG, c_X0, c_X1, c_X2, c_X3, c_X4, c_X5, c_D0, c_D1, c_D2, c_G0, c_G1, c_G2, c_G3, c_G4, c_G5, c_G6, c_G7, c_G8, c_aA, c_aO, c_aB, c_aD, c_lD, c_pR3, c_pR6, c_P4, c_P5, c_Q1, c_Q2, c_S7, c_S8, c_sA, c_sO, c_sB, g2, hG]
      obtain ⟨χ2, z1, z2, z3⟩ := ih (k + 1) f (uA χ 8 (tN k) (nI (fA sN tN lN k S (sN k) + lN k))) (by omega) (by omega) ⟨hg.1, fun i hi => by
        rw [kA_ne _ _ _ (by decide), kA_ne _ _ _ (by decide), kA_ne _ _ _ (by decide)]
        exact hg.2 i hi⟩ (fun i hi => by
        rw [e1, kA_uA, u_at]
        by_cases e : i = tN k
        · rw [if_pos ⟨rfl, e⟩, if_pos e]
        · rw [if_neg (fun z => e z.2), if_neg e]
          exact hS i hi)
      rw [e2] at z1
      exact ⟨χ2, z1, z2, (kFr.uA _ _ _ (by decide)).trans z3⟩
    · have e1 : fA sN tN lN (k + 1) S = fA sN tN lN k S := by simp only [fA]; rw [if_neg q]
      have e2 : hA sN tN lN (k + 1) S = hA sN tN lN k S := by simp only [hA]; rw [decide_eq_false q, Bool.or_false]
      rw [if_neg q]
      obtain ⟨χ2, z1, z2, z3⟩ := ih (k + 1) f χ (by omega) (by omega) hg (by rw [e1]; exact hS)
      rw [e2] at z1
      exact ⟨χ2, z1, z2, z3⟩
/-- rounds, to one more than the operations -/
theorem C_st_l96 (hG : G 0 ≤ X) (hV : dV d) {n o : Nat} {sN tN lN : Nat → Nat} (hn : n ≤ 72) (hAc : ∀ k, k < n → dAr d (sN k) (tN k) (lN k)) (ho : o ≤ 36) : ∀ (c r f : Nat) (χ : zCh) (S : Nat → Nat), r + c = o + 1 → c + 1 < f → gAr χ n sN tN lN → kN χ 18 = nI o → kS χ S → (∀ i, i < 36 → S i ≤ 999 + 14256 * r) → ∃ χ' S', f_X2_starts_l96 G f (X + 4) (nI 1) (nI r) (cw X χ s) = some (bI (p_run (fA sN tN lN n) (hA sN tN lN n) c S).1, cw X χ' s) ∧ ((p_run (fA sN tN lN n) (hA sN tN lN n) c S).1 = true → S' = (p_run (fA sN tN lN n) (hA sN tN lN n) c S).2) ∧ kS χ' S' ∧ (∀ i, i < 36 → S' i < 600000) ∧ kFr [] [8] [] χ χ' := by
  intro c
  induction c with
  | zero =>
    intro r f χ S hc hf hg hN hS hB
    obtain ⟨f, rfl⟩ : ∃ q, f = q + 1 := ⟨f - 1, by omega⟩
    refine ⟨χ, S, ?_, fun q => (by cases q), hS, fun i hi => by have := hB i hi; omega, kFr.refl _ _ _ _⟩
    show f_X2_starts_b96 G (f_X2_starts_l96 G f) _ _ _ (cw X χ s) = _
    unfold f_X2_starts_b96 f_X2_starts_b192
    have hlt : o < r := by omega
    simp (disch := omega) only [zo_s, zb_s, zx_l, zx_r, zrn_1, zrn_0, zrn_b, zrnX_1, zrnX_0, zrnX_b, n_lit, n_add, n_mul, n_sub, n_lt, n_le, n_eq, n_cl, n_div, n_md6, bI_0, bI_1, bI_t, bI_f, n_e10, n_e01, c_G8, hN, hlt, show ¬ ((1 : Nat) = 0) from by omega, if_false, if_true, p_run]
  | succ c ih =>
    intro r f χ S hc hf hg hN hS hB
    obtain ⟨f, rfl⟩ : ∃ q, f = q + 1 := ⟨f - 1, by omega⟩
    obtain ⟨f, rfl⟩ : ∃ q, f = q + 1 := ⟨f - 1, by omega⟩
    obtain ⟨χ1, z1, z2, z3⟩ := C_st_l113 (s := s) hG hV hn hAc (S := S) (B := 999 + 14256 * r) (by omega) hB (f_X2_starts_l96 G (f + 1)) r n 0 2000 χ (by omega) (by omega) hg hS
    have e0 : f_X2_starts_l96 G (f + 1 + 1) (X + 4) (nI 1) (nI r) (cw X χ s) = f_X2_starts_l113 G (f_X2_starts_l96 G (f + 1)) 2000 (X + 4) (bI (hA sN tN lN 0 S)) (nI r) (nI 0) (cw X χ s) := by
      show f_X2_starts_b96 G (f_X2_starts_l96 G (f + 1)) _ _ _ (cw X χ s) = _
      unfold f_X2_starts_b96
      have hlt : ¬ (o < r) := by omega
      simp (disch := omega) only [zo_s, zb_s, zx_l, zx_r, zrn_1, zrn_0, zrn_b, zrnX_1, zrnX_0, zrnX_b, n_lit, n_add, n_mul, n_sub, n_lt, n_le, n_eq, n_cl, n_div, n_md6, bI_0, bI_1, bI_t, bI_f, n_e10, n_e01, c_G8, hN, hlt, show ¬ ((1 : Nat) = 0) from by omega, if_false, hA]
    have hbd := fA_bd hV hAc hB n (Nat.le_refl _)
    rw [e0, z1]
    simp only [p_run]
    have hg1 : gAr χ1 n sN tN lN := ⟨by rw [z3.1 17 (by decide)]; exact hg.1, fun k hk => by
      rw [z3.2.1 5 (by decide), z3.2.1 6 (by decide), z3.2.1 7 (by decide)]
      exact hg.2 k hk⟩
    cases hq : hA sN tN lN n S with
    | false =>
      refine ⟨χ1, fA sN tN lN n S, ?_, fun _ => by simp, z2, fun i hi => by have := hbd i hi; omega, z3⟩
      show f_X2_starts_b96 G (f_X2_starts_l96 G f) _ _ _ (cw X χ1 s) = _
      unfold f_X2_starts_b96 f_X2_starts_b192
      simp (disch := omega) only [zo_s, zb_s, zx_l, zx_r, zrn_1, zrn_0, zrn_b, zrnX_1, zrnX_0, zrnX_b, n_lit, n_add, n_mul, n_sub, n_lt, n_le, n_eq, n_cl, n_div, n_md6, bI_0, bI_1, bI_t, bI_f, n_e10, n_e01, if_true, Bool.false_eq_true, if_false]
    | true =>
      obtain ⟨χ2, S2, y1, y2, y3, y5, y4⟩ := ih (r + 1) (f + 1) χ1 (fA sN tN lN n S) (by omega) (by omega) hg1 (by rw [z3.1 18 (by decide)]; exact hN) z2 (fun i hi => by have := hbd i hi; omega)
      refine ⟨χ2, S2, ?_, ?_, y3, y5, z3.trans y4⟩
      · simp only [if_true]
        exact y1
      · simp only [if_true]
        exact y2
/-- the first starts: releases -/
theorem C_st_l26 (hp : pC X V s) (hG : G 0 ≤ X) (hL : hLa G V L d v) (hV : dV d) : ∀ (c o f : Nat) (χ : zCh), o + c = 36 → c < f → kR χ 16 = some L → (∀ i, i < o → kA χ 8 i = nI (if dEx d i = true then dBa d i else 0)) → ∃ χ', f_X2_starts_l26 G f (X + 4) (nI o) (cw X χ s) = f_X2_starts_l96 G 2000 (X + 4) (nI 1) (nI 0) (cw X χ' s) ∧ kS χ' (fun i => if dEx d i = true then dBa d i else 0) ∧ kFr [] [8] [] χ χ' := by
  intro c
  induction c with
  | zero =>
    intro o f χ hc hf hR h
    obtain ⟨f, rfl⟩ : ∃ q, f = q + 1 := ⟨f - 1, by omega⟩
    have e : o = 36 := by omega
    subst e
    refine ⟨χ, ?_, h, kFr.refl _ _ _ _⟩
    show f_X2_starts_b26 G (f_X2_starts_l26 G f) _ _ (cw X χ s) = _
    unfold f_X2_starts_b26
    simp (disch := omega) only [n_lit, n_add, n_mul, n_sub, n_lt, n_le, n_eq, n_cl, n_div, n_md6, bI_0, bI_1, bI_t, bI_f, n_e10, n_e01]
    rw [if_pos (by omega)]
  | succ c ih =>
    intro o f χ hc hf hR h
    obtain ⟨f, rfl⟩ : ∃ q, f = q + 1 := ⟨f - 1, by omega⟩
    have ho : o < 36 := by omega
    have hx : ¬ (36 ≤ o) := by omega
    obtain ⟨J, j1, j2, j3, j4⟩ := C_job (hp.S χ) hL hV.2.2.1
    have rcL : zrc (cw X χ s) (some L) 3 = some L := by
      obtain ⟨T', J, O, C, U, mc, E, cap, f', e, l1, -⟩ := hL
      exact r_c (hp.S χ _ _ l1)
    have hexi := C_exists (hp.S χ) hL hV.1 hV.2.2.1 ho
    have hfi : f_X4_isFirst G L (nI o) (cw X χ s) = some (bI (decide (o % 6 = 0)), cw X χ s) := C_isFirst ho
    have next : ∀ x, x = (if dEx d o = true then dBa d o else 0) → ∃ χ', f_X2_starts_l26 G f (X + 4) (nI (o + 1)) (cw X (uA χ 8 o (nI x)) s) = f_X2_starts_l96 G 2000 (X + 4) (nI 1) (nI 0) (cw X χ' s) ∧ kS χ' (fun i => if dEx d i = true then dBa d i else 0) ∧ kFr [] [8] [] χ χ' := by
      intro x hx
      obtain ⟨χ', z1, z2, z3⟩ := ih (o + 1) f (uA χ 8 o (nI x)) (by omega) (by omega) hR (fun i hi => by
        rw [kA_uA]
        by_cases e : i = o
        · rw [if_pos ⟨rfl, e⟩, hx, e]
        · rw [if_neg (fun z => e z.2)]
          exact h i (by omega))
      exact ⟨χ', z1, z2, (kFr.uA _ _ _ (by decide)).trans z3⟩
    show ∃ χ', f_X2_starts_b26 G (f_X2_starts_l26 G f) _ _ (cw X χ s) = _ ∧ _
    unfold f_X2_starts_b26 f_X2_starts_b84 f_X2_starts_b85
    simp (disch := omega) only [zo_s, zb_s, zx_l, zx_r, zrn_1, zrn_0, zrn_b, zrnX_1, zrnX_0, zrnX_b, n_lit, n_add, n_mul, n_sub, n_lt, n_le, n_eq, n_cl, n_div, n_md6, bI_0, bI_1, bI_t, bI_f, n_e10, n_e01, hx, if_false, c_G3, c_G6, hR, rcL, hexi]
    cases hex : dEx d o with
    | false =>
      simp (disch := omega) only [if_true, zo_s, zb_s, zx_l, zx_r, zrn_1, zrn_0, zrn_b, zrnX_1, zrnX_0, zrnX_b, n_lit, n_add, n_mul, n_sub, n_lt, n_le, n_eq, n_cl, n_div, n_md6, bI_0, bI_1, bI_t, bI_f, n_e10, n_e01, c_pR3, c_pR6, c_P4, c_P5, c_Q1, c_Q2, c_S7, c_S8, c_sA, c_sO, c_sB, hG]
      exact next 0 (by rw [hex]; rfl)
    | true =>
      simp (disch := omega) only [Bool.true_eq_false, if_false, zo_s, zb_s, zx_l, zx_r, zrn_1, zrn_0, zrn_b, zrnX_1, zrnX_0, zrnX_b, n_lit, n_add, n_mul, n_sub, n_lt, n_le, n_eq, n_cl, n_div, n_md6, bI_0, bI_1, bI_t, bI_f, n_e10, n_e01, c_G6, hR, rcL, hfi]
      by_cases h6 : o % 6 = 0
      · obtain ⟨a, g1, g2, g3, -⟩ := j4 (o / 6) ((dEx_iff d o).mp hex).1
        have e1 : (decide (o % 6 = 0) = false) = False := by rw [h6]; simp
        simp (disch := omega) only [e1, if_false, zo_s, zb_s, zx_l, zx_r, zrn_1, zrn_0, zrn_b, zrnX_1, zrnX_0, zrnX_b, n_lit, n_add, n_mul, n_sub, n_lt, n_le, n_eq, n_cl, n_div, n_md6, bI_0, bI_1, bI_t, bI_f, n_e10, n_e01, c_G6, hR, j1, j2, g1, g2, g3, c_pR3, c_pR6, c_P4, c_P5, c_Q1, c_Q2, c_S7, c_S8, c_sA, c_sO, c_sB, hG]
        exact next _ (by rw [hex, if_pos rfl]; unfold dBa; rw [if_pos h6])
      · have e1 : (decide (o % 6 = 0) = false) = True := by simp [h6]
        simp (disch := omega) only [e1, if_true, zo_s, zb_s, zx_l, zx_r, zrn_1, zrn_0, zrn_b, zrnX_1, zrnX_0, zrnX_b, n_lit, n_add, n_mul, n_sub, n_lt, n_le, n_eq, n_cl, n_div, n_md6, bI_0, bI_1, bI_t, bI_f, n_e10, n_e01, c_pR3, c_pR6, c_P4, c_P5, c_Q1, c_Q2, c_S7, c_S8, c_sA, c_sO, c_sB, hG]
        exact next 0 (by rw [hex, if_pos rfl]; unfold dBa; rw [if_neg h6])
end CSTARTS
