/-! THE PLAIN LAW, part 6: the reference's arcs and starts -/
set_option maxRecDepth 100000
/-- all but the numbers J and the arrays K as before -/
def mFr (J K : List Nat) (μ μ' : zMu) : Prop := (∀ k, k ∉ J → gS μ' k = gS μ k) ∧ ∀ j, j ∉ K → gA μ' j = gA μ j
theorem mFr.refl (J K : List Nat) (μ : zMu) : mFr J K μ μ := ⟨fun _ _ => rfl, fun _ _ => rfl⟩
theorem mFr.trans {J K : List Nat} {μ μ1 μ2 : zMu} (h : mFr J K μ μ1) (g : mFr J K μ1 μ2) : mFr J K μ μ2 := ⟨fun k hk => (g.1 k hk).trans (h.1 k hk), fun j hj => (g.2 j hj).trans (h.2 j hj)⟩
theorem mFr.mono {J K J' K' : List Nat} {μ μ1 : zMu} (h : mFr J K μ μ1) (hJ : ∀ k, k ∈ J → k ∈ J') (hK : ∀ k, k ∈ K → k ∈ K') : mFr J' K' μ μ1 := ⟨fun k hk => h.1 k (fun q => hk (hJ k q)), fun j hj => h.2 j (fun q => hj (hK j q))⟩
theorem mFr.sA {J K : List Nat} {μ : zMu} (j i : Nat) (x : Int32) (hj : j ∈ K) : mFr J K μ (sA μ j i x) := ⟨fun _ _ => rfl, fun j' hj' => gA_ne _ _ _ (fun e => hj' (e ▸ hj))⟩
theorem mFr.sS {J K : List Nat} {μ : zMu} (k : Nat) (x : Int32) (hk : k ∈ J) : mFr J K μ (sS μ k x) := ⟨fun k' hk' => by rw [gS_sS, if_neg (fun (e : k' = k) => hk' (e ▸ hk))], fun _ _ => rfl⟩
theorem mFr.sT {J K : List Nat} {μ : zMu} (k : Nat) (x : Int64) : mFr J K μ (sT μ k x) := ⟨fun _ _ => rfl, fun _ _ => rfl⟩
theorem mFr.D {J K : List Nat} {μ μ' : zMu} (h : mFr J K μ μ') {j : Nat} (hj : j ∉ K) {d : Nat → Nat} (hd : mD μ j d) : mD μ' j d := fun i hi => by rw [h.2 j hj]; exact hd i hi
def mSr (μ : zMu) (src : Nat → Nat) : Prop := ∀ i, i < 36 → gA μ 14 i = (if src i = 0 then -nI 1 else nI (src i - 1))
def mLn (μ : zMu) (src ln : Nat → Nat) : Prop := ∀ i, i < 36 → src i ≠ 0 → gA μ 15 i = nI (ln i)
/-- the machine arcs told by their ends, of the machines below m, of m up to k -/
def dLA (d : Nat → Nat) (m k : Nat) (src ln : Nat → Nat) : Prop := (∀ i l, (i < m ∧ l + 1 < dCn d i) ∨ (i = m ∧ l + 1 < k ∧ l + 1 < dCn d i) → src (dOr d i (l + 1)) = dPr d (dOr d i l) + 1 ∧ ln (dOr d i (l + 1)) = dLn d i (dOr d i l)) ∧ ∀ o, o < 36 → src o ≠ 0 → ∃ i l, i < d 0 ∧ l + 1 < dCn d i ∧ o = dOr d i (l + 1) ∧ src o = dPr d (dOr d i l) + 1 ∧ ln o = dLn d i (dOr d i l)
section MSTARTS
variable {G : Nat → Nat} {M : Nat} {s : zS} {d : Nat → Nat}
theorem M_layArcs_l40 (hV : dV d) (hG : G 0 ≤ M) (k23 : Nat → Int32 → zS → Option (Unit × zS)) {m : Nat} (hm : m < d 0) : ∀ (c k n : Nat) (μ : zMu) (src ln : Nat → Nat), k + 1 ≤ 6 → dCn d m ≤ k + 1 + c → c < n → mD μ 2 d → mSr μ src → mLn μ src ln → dLA d m (k + 1) src ln → ∃ μ' src' ln', f_X8_layArcs_l40 G k23 n M (nI m) (nI (5 + 9 * m)) (nI (k + 1)) (mw M μ s) = k23 M (nI (m + 1)) (mw M μ' s) ∧ mSr μ' src' ∧ mLn μ' src' ln' ∧ dLA d (m + 1) 0 src' ln' ∧ mFr [] [14, 15] μ μ' := by
  have hm6 : m < 6 := Nat.lt_of_lt_of_le hm hV.2.1
  have hb := hV.1
  obtain ⟨hc6, hsu, hor⟩ := hV.2.2.2.2.2.1 m hm
  intro c
  induction c with
  | zero =>
    intro k n μ src ln hk6 hc hn hd hsr hln hLA
    obtain ⟨n, rfl⟩ : ∃ q, n = q + 1 := ⟨n - 1, by omega⟩
    have hd' : ∀ i, i < 1655 → gA μ 2 i = nI (d i) := hd
    refine ⟨μ, src, ln, ?_, hsr, hln, ⟨fun i l h => ?_, hLA.2⟩, mFr.refl _ _ _⟩
    · show f_X8_layArcs_b40 G k23 (f_X8_layArcs_l40 G k23 n) M (nI m) (nI (5 + 9 * m)) (nI (k + 1)) (mw M μ s) = _
      unfold f_X8_layArcs_b40
      simp (disch := omega) only [zo_s, zb_s, zx_l, zx_r, zrn_1, zrn_0, zrn_b, zrnX_1, zrnX_0, zrnX_b, n_lit, n_add, n_mul, n_sub, n_lt, n_le, n_eq, n_cl, n_div, n_md6, bI_0, bI_1, bI_t, bI_f, n_e10, n_e01, m_rc, m_I0, m_I2, m_I3, m_I4, m_I5, m_I6, m_I7, m_I12, m_I13, m_I14, m_I15, m_I21, m_I22, m_I24, m_R1, m_R8, m_R9, m_R10, m_R11, m_R16, m_R17, m_R18, m_R19, m_R20, m_R23, m_aD, m_aO, m_aB, m_aZ, m_aL, m_aR, hd', n_dl hb]
      rw [if_pos (show d (5 + 9 * m + 2) ≤ k + 1 from hc)]
    · refine hLA.1 i l ?_
      rcases h with ⟨h1, h2⟩ | ⟨-, h2, -⟩
      · by_cases e : i = m
        · subst e
          exact Or.inr ⟨rfl, by omega, h2⟩
        · exact Or.inl ⟨by omega, h2⟩
      · omega
  | succ c ih =>
    intro k n μ src ln hk6 hc hn hd hsr hln hLA
    obtain ⟨n, rfl⟩ : ∃ q, n = q + 1 := ⟨n - 1, by omega⟩
    have hd' : ∀ i, i < 1655 → gA μ 2 i = nI (d i) := hd
    by_cases hx : dCn d m ≤ k + 1
    · exact ih k (n + 1) μ src ln hk6 (by omega) (by omega) hd hsr hln hLA
    · obtain ⟨a1, a2, a3⟩ := hor k (by omega)
      obtain ⟨b1, b2, b3⟩ := hor (k + 1) (by omega)
      have ea : 5 + 9 * m + 3 + (k + 1) - 1 = 5 + 9 * m + 3 + k := by omega
      have e0 : gA μ 2 (5 + 9 * m + 3 + k) = nI (dOr d m k) := hd _ (by omega)
      have e1 : gA μ 2 (5 + 9 * m + 3 + (k + 1)) = nI (dOr d m (k + 1)) := hd _ (by omega)
      have ecn : gA μ 2 (5 + 9 * m + 2) = nI (dCn d m) := hd _ (by omega)
      have esu : gA μ 2 (5 + 9 * m + 1) = nI (d (5 + 9 * m + 1)) := hd _ (by omega)
      have hmo : dMo d (dOr d m k) < 6 := by omega
      have hcn : dCn d m < 2147483648 := by omega
      have hpr := dPr_ex hV a1 a2
      have step : f_X8_layArcs_l40 G k23 (n + 1) M (nI m) (nI (5 + 9 * m)) (nI (k + 1)) (mw M μ s) = f_X8_layArcs_l40 G k23 n M (nI m) (nI (5 + 9 * m)) (nI (k + 1 + 1)) (mw M (sA (sA μ 14 (dOr d m (k + 1)) (nI (dPr d (dOr d m k)))) 15 (dOr d m (k + 1)) (nI (dLn d m (dOr d m k)))) s) := by
        show f_X8_layArcs_b40 G k23 (f_X8_layArcs_l40 G k23 n) M (nI m) (nI (5 + 9 * m)) (nI (k + 1)) (mw M μ s) = _
        have hd2 : mD (sA μ 14 (dOr d m (k + 1)) (nI (dPr d (dOr d m k)))) 2 d := fun i hi => by rw [gA_ne _ _ _ (by decide)]; exact hd i hi
        unfold f_X8_layArcs_b40
        simp (disch := omega) only [zo_s, zb_s, zx_l, zx_r, zrn_1, zrn_0, zrn_b, zrnX_1, zrnX_0, zrnX_b, n_lit, n_add, n_mul, n_sub, n_lt, n_le, n_eq, n_cl, n_div, n_md6, bI_0, bI_1, bI_t, bI_f, n_e10, n_e01, m_rc, m_I0, m_I2, m_I3, m_I4, m_I5, m_I6, m_I7, m_I12, m_I13, m_I14, m_I15, m_I21, m_I22, m_I24, m_R1, m_R8, m_R9, m_R10, m_R11, m_R16, m_R17, m_R18, m_R19, m_R20, m_R23, m_aD, m_aO, m_aB, m_aZ, m_aL, m_aR, e0, e1, ea, ecn, M_isBlocking hd hb a1 hmo]
        rw [if_neg hx]
        unfold f_X8_layArcs_b102
        cases hbl : dBl d (dOr d m k) with
        | true =>
          have ep : dPr d (dOr d m k) = dOr d m k + 1 := by unfold dPr; rw [hbl]; rfl
          have el : dLn d m (dOr d m k) = d (5 + 9 * m + 1) + 0 := by unfold dLn; rw [hbl]; rfl
          rw [ep] at hd2 ⊢
          rw [el]
          have es2 : gA (sA μ 14 (dOr d m (k + 1)) (nI (dOr d m k + 1))) 2 (5 + 9 * m + 1) = nI (d (5 + 9 * m + 1)) := hd2 _ (by omega)
          simp (disch := omega) only [Bool.true_eq_false, if_false, zo_s, zb_s, zx_l, zx_r, zrn_1, zrn_0, zrn_b, zrnX_1, zrnX_0, zrnX_b, n_lit, n_add, n_mul, n_sub, n_lt, n_le, n_eq, n_cl, n_div, n_md6, bI_0, bI_1, bI_t, bI_f, n_e10, n_e01, m_rc, m_I0, m_I2, m_I3, m_I4, m_I5, m_I6, m_I7, m_I12, m_I13, m_I14, m_I15, m_I21, m_I22, m_I24, m_R1, m_R8, m_R9, m_R10, m_R11, m_R16, m_R17, m_R18, m_R19, m_R20, m_R23, m_aD, m_aO, m_aB, m_aZ, m_aL, m_aR, m_P0, m_P2, m_P3, m_P4, m_P5, m_P6, m_P7, m_P12, m_P13, m_P14, m_P15, m_P21, m_P22, m_P24, m_sD, m_sO, m_sB, m_sL, es2, hG, M_isBlocking hd2 hb a1 hmo, hbl, f_X8_layArcs_b136]
        | false =>
          have ep : dPr d (dOr d m k) = dOr d m k := by unfold dPr; rw [hbl]; rfl
          have el : dLn d m (dOr d m k) = d (5 + 9 * m + 1) + dDu d (dOr d m k) := by unfold dLn; rw [hbl]; rfl
          rw [ep] at hd2 ⊢
          rw [el]
          have es2 : gA (sA μ 14 (dOr d m (k + 1)) (nI (dOr d m k))) 2 (5 + 9 * m + 1) = nI (d (5 + 9 * m + 1)) := hd2 _ (by omega)
          simp (disch := omega) only [if_true, zo_s, zb_s, zx_l, zx_r, zrn_1, zrn_0, zrn_b, zrnX_1, zrnX_0, zrnX_b, n_lit, n_add, n_mul, n_sub, n_lt, n_le, n_eq, n_cl, n_div, n_md6, bI_0, bI_1, bI_t, bI_f, n_e10, n_e01, m_rc, m_I0, m_I2, m_I3, m_I4, m_I5, m_I6, m_I7, m_I12, m_I13, m_I14, m_I15, m_I21, m_I22, m_I24, m_R1, m_R8, m_R9, m_R10, m_R11, m_R16, m_R17, m_R18, m_R19, m_R20, m_R23, m_aD, m_aO, m_aB, m_aZ, m_aL, m_aR, m_P0, m_P2, m_P3, m_P4, m_P5, m_P6, m_P7, m_P12, m_P13, m_P14, m_P15, m_P21, m_P22, m_P24, m_sD, m_sO, m_sB, m_sL, es2, hG, M_isBlocking hd2 hb a1 hmo, M_durationOf hd2 a1, hbl, f_X8_layArcs_b136]
      obtain ⟨μ', src', ln', h1, h2, h3, h4, h5⟩ := ih (k + 1) n (sA (sA μ 14 (dOr d m (k + 1)) (nI (dPr d (dOr d m k)))) 15 (dOr d m (k + 1)) (nI (dLn d m (dOr d m k)))) (va_up src (dOr d m (k + 1)) (dPr d (dOr d m k) + 1)) (va_up ln (dOr d m (k + 1)) (dLn d m (dOr d m k))) (by omega) (by omega) (by omega)
        (fun i hi => by rw [gA_ne _ _ _ (by decide), gA_ne _ _ _ (by decide)]; exact hd i hi)
        (fun i hi => by
          rw [gA_ne _ _ _ (by decide), gA_sA, u_at]
          by_cases e : i = dOr d m (k + 1)
          · rw [if_pos ⟨rfl, e⟩, if_pos e, if_neg (by omega)]
            rfl
          · rw [if_neg (fun z => e z.2), if_neg e]
            exact hsr i hi)
        (fun i hi hne => by
          rw [gA_sA, u_at]
          by_cases e : i = dOr d m (k + 1)
          · rw [if_pos ⟨rfl, e⟩, if_pos e]
          · rw [if_neg (fun z => e z.2), if_neg e, gA_ne _ _ _ (by decide)]
            rw [u_at, if_neg e] at hne
            exact hln i hi hne)
        ⟨fun i l h => by
          simp only [u_at]
          by_cases e : dOr d i (l + 1) = dOr d m (k + 1)
          · rw [if_pos e, if_pos e]
            have hi : i = m := by
              rcases h with ⟨h1, h2⟩ | ⟨h1, -, -⟩
              · have g := ((hV.2.2.2.2.2.1 i (by omega)).2.2 (l + 1) h2).2.2
                rw [e, b3] at g
                exact g.symm
              · exact h1
            subst hi
            have hl : l + 1 < dCn d i := by
              rcases h with ⟨-, h2⟩ | ⟨-, -, h2⟩ <;> exact h2
            have := hV.2.2.2.2.2.2 i (l + 1) (k + 1) hm hl (by omega) e
            have el : l = k := by omega
            rw [el]
            exact ⟨rfl, rfl⟩
          · rw [if_neg e, if_neg e]
            refine hLA.1 i l ?_
            rcases h with h | ⟨h1, h2, h3⟩
            · exact Or.inl h
            · refine Or.inr ⟨h1, ?_, h3⟩
              have : l + 1 ≠ k + 1 := fun z => e (by rw [h1, z])
              omega,
         fun o ho hne => by
          simp only [u_at] at hne ⊢
          by_cases e : o = dOr d m (k + 1)
          · rw [if_pos e, if_pos e]
            exact ⟨m, k, hm, by omega, e, rfl, rfl⟩
          · rw [if_neg e] at hne ⊢
            rw [if_neg e]
            exact hLA.2 o ho hne⟩
      exact ⟨μ', src', ln', by rw [step]; exact h1, h2, h3, h4, ((mFr.sA _ _ _ (by decide)).trans (mFr.sA _ _ _ (by decide))).trans h5⟩
theorem M_layArcs_l23 (hV : dV d) (hG : G 0 ≤ M) : ∀ (c m n : Nat) (μ : zMu) (src ln : Nat → Nat), m ≤ 6 → d 0 ≤ m + c → c < n → mD μ 2 d → mSr μ src → mLn μ src ln → dLA d m 0 src ln → ∃ μ' src' ln', f_X8_layArcs_l23 G n M (nI m) (mw M μ s) = some ((), mw M μ' s) ∧ mSr μ' src' ∧ mLn μ' src' ln' ∧ dLA d (d 0) 0 src' ln' ∧ mFr [] [14, 15] μ μ' := by
  have hb := hV.1
  have h06 := hV.2.1
  intro c
  induction c with
  | zero =>
    intro m n μ src ln hm6 hc hn hd hsr hln hLA
    obtain ⟨n, rfl⟩ : ∃ q, n = q + 1 := ⟨n - 1, by omega⟩
    have hd' : ∀ i, i < 1655 → gA μ 2 i = nI (d i) := hd
    refine ⟨μ, src, ln, ?_, hsr, hln, ⟨fun i l h => ?_, hLA.2⟩, mFr.refl _ _ _⟩
    · show f_X8_layArcs_b23 G (f_X8_layArcs_l23 G n) M (nI m) (mw M μ s) = _
      unfold f_X8_layArcs_b23
      simp (disch := omega) only [zo_s, zb_s, zx_l, zx_r, zrn_1, zrn_0, zrn_b, zrnX_1, zrnX_0, zrnX_b, n_lit, n_add, n_mul, n_sub, n_lt, n_le, n_eq, n_cl, n_div, n_md6, bI_0, bI_1, bI_t, bI_f, n_e10, n_e01, m_rc, m_I0, m_I2, m_I3, m_I4, m_I5, m_I6, m_I7, m_I12, m_I13, m_I14, m_I15, m_I21, m_I22, m_I24, m_R1, m_R8, m_R9, m_R10, m_R11, m_R16, m_R17, m_R18, m_R19, m_R20, m_R23, m_aD, m_aO, m_aB, m_aZ, m_aL, m_aR, hd', n_dl hb]
      rw [if_pos (by omega)]
    · refine hLA.1 i l ?_
      rcases h with ⟨h1, h2⟩ | ⟨-, h2, -⟩
      · exact Or.inl ⟨by omega, h2⟩
      · omega
  | succ c ih =>
    intro m n μ src ln hm6 hc hn hd hsr hln hLA
    obtain ⟨n, rfl⟩ : ∃ q, n = q + 1 := ⟨n - 1, by omega⟩
    have hd' : ∀ i, i < 1655 → gA μ 2 i = nI (d i) := hd
    by_cases hx : d 0 ≤ m
    · exact ih m (n + 1) μ src ln hm6 (by omega) (by omega) hd hsr hln hLA
    · obtain ⟨μ', src', ln', h1, h2, h3, h4, h5⟩ := M_layArcs_l40 (s := s) hV hG (f_X8_layArcs_l23 G n) (m := m) (by omega) 10 0 2000 μ src ln (by omega) (by
        have := (hV.2.2.2.2.2.1 m (by omega)).1
        omega) (by omega) hd hsr hln ⟨fun i l h => hLA.1 i l (by
          rcases h with h | ⟨-, h, -⟩
          · exact Or.inl h
          · omega), hLA.2⟩
      obtain ⟨μ2, src2, ln2, g1, g2, g3, g4, g5⟩ := ih (m + 1) n μ' src' ln' (by omega) (by omega) (by omega) (h5.D (by decide) hd) h2 h3 h4
      refine ⟨μ2, src2, ln2, ?_, g2, g3, g4, h5.trans g5⟩
      rw [← g1, ← h1]
      show f_X8_layArcs_b23 G (f_X8_layArcs_l23 G n) M (nI m) (mw M μ s) = _
      unfold f_X8_layArcs_b23 f_X8_machine
      simp (disch := omega) only [zo_s, zb_s, zx_l, zx_r, zrn_1, zrn_0, zrn_b, zrnX_1, zrnX_0, zrnX_b, n_lit, n_add, n_mul, n_sub, n_lt, n_le, n_eq, n_cl, n_div, n_md6, bI_0, bI_1, bI_t, bI_f, n_e10, n_e01, m_rc, m_I0, m_I2, m_I3, m_I4, m_I5, m_I6, m_I7, m_I12, m_I13, m_I14, m_I15, m_I21, m_I22, m_I24, m_R1, m_R8, m_R9, m_R10, m_R11, m_R16, m_R17, m_R18, m_R19, m_R20, m_R23, m_aD, m_aO, m_aB, m_aZ, m_aL, m_aR, hd', n_dl hb]
      rw [if_neg hx]
theorem M_layArcs_l2 (hG : G 0 ≤ M) : ∀ (c o n : Nat) (μ : zMu), o + c = 36 → c < n → (∀ i, i < o → gA μ 14 i = -nI 1) → ∃ μ', f_X8_layArcs_l2 G n M (nI o) (mw M μ s) = f_X8_layArcs_l23 G 2000 M (nI 0) (mw M μ' s) ∧ (∀ i, i < 36 → gA μ' 14 i = -nI 1) ∧ mFr [] [14, 15] μ μ' := by
  intro c
  induction c with
  | zero =>
    intro o n μ hc hn h
    obtain ⟨n, rfl⟩ : ∃ q, n = q + 1 := ⟨n - 1, by omega⟩
    refine ⟨μ, ?_, fun i hi => h i (by omega), mFr.refl _ _ _⟩
    show f_X8_layArcs_b2 G (f_X8_layArcs_l2 G n) M (nI o) (mw M μ s) = _
    unfold f_X8_layArcs_b2
    simp (disch := omega) only [n_lit, n_add, n_mul, n_sub, n_lt, n_le, n_eq, n_cl, n_div, n_md6, bI_0, bI_1, bI_t, bI_f, n_e10, n_e01]
    rw [if_pos (by omega)]
  | succ c ih =>
    intro o n μ hc hn h
    obtain ⟨n, rfl⟩ : ∃ q, n = q + 1 := ⟨n - 1, by omega⟩
    obtain ⟨μ', h1, h2, h3⟩ := ih (o + 1) n (sA μ 14 o (-nI 1)) (by omega) (by omega) (fun i hi => by
      rw [gA_sA]
      by_cases e : i = o
      · rw [if_pos ⟨rfl, e⟩]
      · rw [if_neg (fun z => e z.2)]
        exact h i (by omega))
    refine ⟨μ', ?_, h2, (mFr.sA _ _ _ (by decide)).trans h3⟩
    rw [← h1]
    show f_X8_layArcs_b2 G (f_X8_layArcs_l2 G n) M (nI o) (mw M μ s) = _
    unfold f_X8_layArcs_b2
    have hi : ¬ (36 ≤ o) := by omega
    simp (disch := omega) only [zo_s, zb_s, zx_l, zx_r, zrn_1, zrn_0, zrn_b, zrnX_1, zrnX_0, zrnX_b, n_lit, n_add, n_mul, n_sub, n_lt, n_le, n_eq, n_cl, n_div, n_md6, bI_0, bI_1, bI_t, bI_f, n_e10, n_e01, m_rc, m_I0, m_I2, m_I3, m_I4, m_I5, m_I6, m_I7, m_I12, m_I13, m_I14, m_I15, m_I21, m_I22, m_I24, m_R1, m_R8, m_R9, m_R10, m_R11, m_R16, m_R17, m_R18, m_R19, m_R20, m_R23, m_aD, m_aO, m_aB, m_aZ, m_aL, m_aR, m_P0, m_P2, m_P3, m_P4, m_P5, m_P6, m_P7, m_P12, m_P13, m_P14, m_P15, m_P21, m_P22, m_P24, m_sD, m_sO, m_sB, m_sL, hG, hi, if_false]
theorem M_layArcs (hV : dV d) (hG : G 0 ≤ M) {μ : zMu} (hd : mD μ 2 d) : ∃ μ' src ln, f_X8_layArcs G M (mw M μ s) = some ((), mw M μ' s) ∧ mSr μ' src ∧ mLn μ' src ln ∧ dLA d (d 0) 0 src ln ∧ mFr [] [14, 15] μ μ' := by
  obtain ⟨μ1, h1, h2, h3⟩ := M_layArcs_l2 (s := s) hG 36 0 2000 μ (by omega) (by omega) (fun i hi => by omega)
  obtain ⟨μ2, src, ln, g1, g2, g3, g4, g5⟩ := M_layArcs_l23 (s := s) hV hG 10 0 2000 μ1 (fun _ => 0) (fun _ => 0) (by omega) (by have := hV.2.1; omega) (by omega) (h3.D (by decide) hd) (fun i hi => by rw [h2 i hi]; rfl) (fun i hi q => absurd rfl q) ⟨fun i l h => by omega, fun o ho q => absurd rfl q⟩
  exact ⟨μ2, src, ln, by rw [← g1, ← h1]; rfl, g2, g3, g4, h3.trans g5⟩
end MSTARTS
