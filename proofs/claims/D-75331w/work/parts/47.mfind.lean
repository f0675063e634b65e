/-! THE PLAIN LAW, part 7: the reference finds the starts, looks for a cycle -/
set_option maxRecDepth 100000
def dNd (d src ln : Nat → Nat) (S : Nat → Nat) (o : Nat) : Nat := max (if o % 6 = 0 then d (59 + 4 * (o / 6)) else S (o - 1) + dDu d (o - 1)) (if src o = 0 then 0 else S (src o - 1) + ln o)
def mS (μ : zMu) (S : Nat → Nat) : Prop := ∀ i, i < 36 → gA μ 16 i = nI (S i)
/-- the ends' arcs are in range -/
def dSL (src ln : Nat → Nat) : Prop := ∀ o, o < 36 → src o ≠ 0 → src o ≤ 36 ∧ ln o ≤ 198
theorem dLA_SL {d src ln : Nat → Nat} (hV : dV d) (h : dLA d (d 0) 0 src ln) : dSL src ln := by
  intro o ho hne
  obtain ⟨i, l, h1, h2, h3, h4, h5⟩ := h.2 o ho hne
  obtain ⟨a1, a2, a3⟩ := (hV.2.2.2.2.2.1 i h1).2.2 l (by omega)
  have a4 := (hV.2.2.2.2.2.1 i h1).2.1
  have a5 := (dPr_ex hV a1 a2).1
  have a6 := (hV.2.2.2.2.1 _ a1 a2).2.2.1
  refine ⟨by omega, ?_⟩
  rw [h5]
  unfold dLn
  split <;> omega
theorem n_max {a b : Nat} (ha : a < 2147483648) (hb : b < 2147483648) {G : Nat → Nat} (s : zS) : f_X8_max G (nI a) (nI b) s = some (nI (max a b), s) := by
  unfold f_X8_max
  simp only [n_le ha hb]
  by_cases h : a ≤ b
  · rw [if_pos h, Nat.max_eq_right h]
  · rw [if_neg h, Nat.max_eq_left (by omega)]
section MFIND
variable {G : Nat → Nat} {M : Nat} {s : zS} {d : Nat → Nat}
theorem M_raises (hV : dV d) (hG : G 0 ≤ M) {μ : zMu} {src ln S : Nat → Nat} (hd : mD μ 2 d) (hsr : mSr μ src) (hln : mLn μ src ln) (hSL : dSL src ln) (hS : mS μ S) (hB : ∀ i, i < 36 → S i < 1000000) {o : Nat} (ho : o < 36) (hex : dEx d o = true) : f_X8_raises G M (nI o) (mw M μ s) = (if S o < dNd d src ln S o then some (nI 1, mw M (sA μ 16 o (nI (dNd d src ln S o))) s) else some (nI 0, mw M μ s)) := by
  have hb := hV.1
  have hd' : ∀ i, i < 1655 → gA μ 2 i = nI (d i) := hd
  have hS' : ∀ i, i < 36 → gA μ 16 i = nI (S i) := hS
  have hb0 := hB o ho
  -- behind the base
  have tail : ∀ t, t < 1100000 → f_X8_raises_b38 G M (nI o) (nI t) (mw M μ s) = (if S o < max t (if src o = 0 then 0 else S (src o - 1) + ln o) then some (nI 1, mw M (sA μ 16 o (nI (max t (if src o = 0 then 0 else S (src o - 1) + ln o)))) s) else some (nI 0, mw M μ s)) := by
    intro t ht
    have b72 : ∀ x, x < 2147483648 → f_X8_raises_b72 G M (nI o) (nI x) (mw M μ s) = (if S o < x then some (nI 1, mw M (sA μ 16 o (nI x)) s) else some (nI 0, mw M μ s)) := by
      intro x hx
      unfold f_X8_raises_b72
      simp (disch := omega) only [zo_s, zb_s, zx_l, zx_r, zrn_1, zrn_0, zrn_b, zrnX_1, zrnX_0, zrnX_b, n_lit, n_add, n_mul, n_sub, n_lt, n_le, n_eq, n_cl, n_div, n_md6, bI_0, bI_1, bI_t, bI_f, n_e10, n_e01, m_rc, m_I0, m_I2, m_I3, m_I4, m_I5, m_I6, m_I7, m_I12, m_I13, m_I14, m_I15, m_I21, m_I22, m_I24, m_R1, m_R8, m_R9, m_R10, m_R11, m_R16, m_R17, m_R18, m_R19, m_R20, m_R23, m_aD, m_aO, m_aB, m_aZ, m_aL, m_aR, m_P0, m_P2, m_P3, m_P4, m_P5, m_P6, m_P7, m_P12, m_P13, m_P14, m_P15, m_P21, m_P22, m_P24, m_sD, m_sO, m_sB, m_sL, hS', hG]
    unfold f_X8_raises_b38
    have e0 := hsr o ho
    by_cases q : src o = 0
    · rw [if_pos q] at e0
      simp (disch := omega) only [zo_s, zb_s, zx_l, zx_r, zrn_1, zrn_0, zrn_b, zrnX_1, zrnX_0, zrnX_b, m_rc, m_I0, m_I2, m_I3, m_I4, m_I5, m_I6, m_I7, m_I12, m_I13, m_I14, m_I15, m_I21, m_I22, m_I24, m_R1, m_R8, m_R9, m_R10, m_R11, m_R16, m_R17, m_R18, m_R19, m_R20, m_R23, m_aD, m_aO, m_aB, m_aZ, m_aL, m_aR, e0]
      rw [n_lit, if_pos rfl, b72 _ (by omega), if_pos q, Nat.max_eq_left (Nat.zero_le t)]
    · rw [if_neg q] at e0
      obtain ⟨q1, q2⟩ := hSL o ho q
      have e1 := hln o ho q
      have hb1 := hB (src o - 1) (by omega)
      have e2 : ¬ (nI (src o - 1) = -nI 1) := n_nm1 (by omega)
      simp (disch := omega) only [zo_s, zb_s, zx_l, zx_r, zrn_1, zrn_0, zrn_b, zrnX_1, zrnX_0, zrnX_b, n_lit, n_add, n_mul, n_sub, n_lt, n_le, n_eq, n_cl, n_div, n_md6, bI_0, bI_1, bI_t, bI_f, n_e10, n_e01, m_rc, m_I0, m_I2, m_I3, m_I4, m_I5, m_I6, m_I7, m_I12, m_I13, m_I14, m_I15, m_I21, m_I22, m_I24, m_R1, m_R8, m_R9, m_R10, m_R11, m_R16, m_R17, m_R18, m_R19, m_R20, m_R23, m_aD, m_aO, m_aB, m_aZ, m_aL, m_aR, e0, e1, e2, if_false, hS', n_max]
      rw [b72 _ (by omega), if_neg q]
  unfold f_X8_raises f_X8_job
  by_cases h6 : o % 6 = 0
  · have hx := hb (59 + 4 * (o / 6))
    simp (disch := omega) only [zo_s, zb_s, zx_l, zx_r, zrn_1, zrn_0, zrn_b, zrnX_1, zrnX_0, zrnX_b, n_lit, n_add, n_mul, n_sub, n_lt, n_le, n_eq, n_cl, n_div, n_md6, bI_0, bI_1, bI_t, bI_f, n_e10, n_e01, m_rc, m_I0, m_I2, m_I3, m_I4, m_I5, m_I6, m_I7, m_I12, m_I13, m_I14, m_I15, m_I21, m_I22, m_I24, m_R1, m_R8, m_R9, m_R10, m_R11, m_R16, m_R17, m_R18, m_R19, m_R20, m_R23, m_aD, m_aO, m_aB, m_aZ, m_aL, m_aR, hd', h6, if_true]
    rw [tail _ (by omega)]
    unfold dNd
    rw [if_pos h6]
  · obtain ⟨p1, p2⟩ := dEx_prev hex h6
    have hb2 := hB (o - 1) (by omega)
    have hdu := (hV.2.2.2.2.1 (o - 1) (by omega) p1).2.2.1
    simp (disch := omega) only [zo_s, zb_s, zx_l, zx_r, zrn_1, zrn_0, zrn_b, zrnX_1, zrnX_0, zrnX_b, n_lit, n_add, n_mul, n_sub, n_lt, n_le, n_eq, n_cl, n_div, n_md6, bI_0, bI_1, bI_t, bI_f, n_e10, n_e01, m_rc, m_I0, m_I2, m_I3, m_I4, m_I5, m_I6, m_I7, m_I12, m_I13, m_I14, m_I15, m_I21, m_I22, m_I24, m_R1, m_R8, m_R9, m_R10, m_R11, m_R16, m_R17, m_R18, m_R19, m_R20, m_R23, m_aD, m_aO, m_aB, m_aZ, m_aL, m_aR, hS', h6, if_false, M_durationOf hd (show o - 1 < 36 from by omega)]
    rw [tail _ (by omega)]
    unfold dNd
    rw [if_neg h6]
theorem dNd_le (hV : dV d) {src ln S : Nat → Nat} (hSL : dSL src ln) {B : Nat} (hB : ∀ i, i < 36 → S i ≤ B) {o : Nat} (ho : o < 36) (hex : dEx d o = true) : dNd d src ln S o ≤ max 999 (B + 198) := by
  unfold dNd
  have h1 : (if o % 6 = 0 then d (59 + 4 * (o / 6)) else S (o - 1) + dDu d (o - 1)) ≤ max 999 (B + 198) := by
    by_cases h6 : o % 6 = 0
    · rw [if_pos h6]
      have := (hV.2.2.2.1 (o / 6) ((dEx_iff d o).mp hex).1).2.2
      omega
    · rw [if_neg h6]
      obtain ⟨p1, p2⟩ := dEx_prev hex h6
      have := (hV.2.2.2.2.1 (o - 1) (by omega) p1).2.2.1
      have := hB (o - 1) (by omega)
      omega
  have h2 : (if src o = 0 then 0 else S (src o - 1) + ln o) ≤ max 999 (B + 198) := by
    by_cases q : src o = 0
    · rw [if_pos q]; omega
    · rw [if_neg q]
      obtain ⟨q1, q2⟩ := hSL o ho q
      have := hB (src o - 1) (by omega)
      omega
  omega
theorem fM_bd (hV : dV d) {src ln : Nat → Nat} (hSL : dSL src ln) {B : Nat} {S : Nat → Nat} (hB0 : 999 ≤ B) (hB : ∀ i, i < 36 → S i ≤ B) : ∀ o, o ≤ 36 → ∀ i, i < 36 → fM (dEx d) (dNd d src ln) o S i ≤ B + 198 * o := by
  intro o
  induction o with
  | zero => intro _ i hi; have := hB i hi; simp only [fM]; omega
  | succ o ih =>
    intro ho i hi
    have h1 := ih (by omega)
    simp only [fM]
    split
    · rename_i q
      have h2 := dNd_le hV hSL (S := fM (dEx d) (dNd d src ln) o S) (B := B + 198 * o) h1 (o := o) (by omega) q.1
      rw [u_at]
      split
      · omega
      · have := h1 i hi; omega
    · have := h1 i hi; omega
/-- a round of the reference -/
theorem M_find_l37 (hV : dV d) (hG : G 0 ≤ M) {src ln S : Nat → Nat} (hSL : dSL src ln) {B : Nat} (hB0 : 999 ≤ B) (hB1 : B + 198 * 36 < 1000000) (hB : ∀ i, i < 36 → S i ≤ B) (k27 : Nat → Int32 → zS → Option (Int32 × zS)) (r : Nat) : ∀ (c o n : Nat) (μ : zMu) , o + c = 36 → c < n → mD μ 2 d → mSr μ src → mLn μ src ln → mS μ (fM (dEx d) (dNd d src ln) o S) → ∃ μ', f_X8_findStarts_l37 G k27 n M (nI r) (bI (hM (dEx d) (dNd d src ln) o S)) (nI o) (mw M μ s) = (if hM (dEx d) (dNd d src ln) 36 S = true then k27 M (nI (r + 1)) (mw M μ' s) else some (nI 1, mw M μ' s)) ∧ mS μ' (fM (dEx d) (dNd d src ln) 36 S) ∧ mFr [] [16] μ μ' := by
  have hb := hV.1
  intro c
  induction c with
  | zero =>
    intro o n μ hc hn hd hsr hln hS
    obtain ⟨n, rfl⟩ : ∃ q, n = q + 1 := ⟨n - 1, by omega⟩
    have e : o = 36 := by omega
    subst e
    refine ⟨μ, ?_, hS, mFr.refl _ _ _⟩
    show f_X8_findStarts_b37 G k27 (f_X8_findStarts_l37 G k27 n) M (nI r) (bI (hM (dEx d) (dNd d src ln) 36 S)) (nI 36) (mw M μ s) = _
    unfold f_X8_findStarts_b37
    cases hM (dEx d) (dNd d src ln) 36 S <;> simp (disch := omega) [n_lit, n_add, n_mul, n_sub, n_lt, n_le, n_eq, n_cl, n_div, n_md6, bI_0, bI_1, bI_t, bI_f, n_e10, n_e01, zo_s, zb_s, zx_l, zx_r, zrn_1, zrn_0, zrn_b, zrnX_1, zrnX_0, zrnX_b]
  | succ c ih =>
    intro o n μ hc hn hd hsr hln hS
    obtain ⟨n, rfl⟩ : ∃ q, n = q + 1 := ⟨n - 1, by omega⟩
    have hbd := fM_bd hV hSL hB0 hB o (by omega)
    have ho : o < 36 := by omega
    have hlt : ¬ (36 ≤ o) := by omega
    have next : ∀ (μ' : zMu), mFr [] [16] μ μ' → mS μ' (fM (dEx d) (dNd d src ln) (o + 1) S) → ∃ μ2, f_X8_findStarts_l37 G k27 n M (nI r) (bI (hM (dEx d) (dNd d src ln) (o + 1) S)) (nI (o + 1)) (mw M μ' s) = (if hM (dEx d) (dNd d src ln) 36 S = true then k27 M (nI (r + 1)) (mw M μ2 s) else some (nI 1, mw M μ2 s)) ∧ mS μ2 (fM (dEx d) (dNd d src ln) 36 S) ∧ mFr [] [16] μ μ2 := by
      intro μ' hF hS'
      obtain ⟨μ2, h1, h2, h3⟩ := ih (o + 1) n μ' (by omega) (by omega) (hF.D (by decide) hd) (fun i hi => by rw [hF.2 14 (by decide)]; exact hsr i hi) (fun i hi hne => by rw [hF.2 15 (by decide)]; exact hln i hi hne) hS'
      exact ⟨μ2, h1, h2, hF.trans h3⟩
    show ∃ μ', f_X8_findStarts_b37 G k27 (f_X8_findStarts_l37 G k27 n) M (nI r) (bI (hM (dEx d) (dNd d src ln) o S)) (nI o) (mw M μ s) = _ ∧ _
    unfold f_X8_findStarts_b37
    simp (disch := omega) only [zo_s, zb_s, zx_l, zx_r, zrn_1, zrn_0, zrn_b, zrnX_1, zrnX_0, zrnX_b, n_lit, n_add, n_mul, n_sub, n_lt, n_le, n_eq, n_cl, n_div, n_md6, bI_0, bI_1, bI_t, bI_f, n_e10, n_e01, m_rc, m_I0, m_I2, m_I3, m_I4, m_I5, m_I6, m_I7, m_I12, m_I13, m_I14, m_I15, m_I21, m_I22, m_I24, m_R1, m_R8, m_R9, m_R10, m_R11, m_R16, m_R17, m_R18, m_R19, m_R20, m_R23, m_aD, m_aO, m_aB, m_aZ, m_aL, m_aR, hlt, if_false, M_isThere hd hb ho, f_X8_findStarts_b61]
    cases hex : dEx d o with
    | false =>
      have e1 : fM (dEx d) (dNd d src ln) (o + 1) S = fM (dEx d) (dNd d src ln) o S := by simp [fM, hex]
      have e2 : hM (dEx d) (dNd d src ln) (o + 1) S = hM (dEx d) (dNd d src ln) o S := by simp [hM, hex]
      simp only [if_true]
      rw [← e2]
      exact next μ (mFr.refl _ _ _) (by rw [e1]; exact hS)
    | true =>
      simp only [Bool.true_eq_false, if_false]
      rw [M_raises hV hG hd hsr hln hSL hS (fun i hi => by have := hbd i hi; omega) ho hex]
      by_cases hq : fM (dEx d) (dNd d src ln) o S o < dNd d src ln (fM (dEx d) (dNd d src ln) o S) o
      · have e1 : fM (dEx d) (dNd d src ln) (o + 1) S = va_up (fM (dEx d) (dNd d src ln) o S) o (dNd d src ln (fM (dEx d) (dNd d src ln) o S) o) := by simp only [fM]; rw [if_pos ⟨hex, hq⟩]
        have e2 : hM (dEx d) (dNd d src ln) (o + 1) S = true := by simp [hM, hex, hq]
        rw [if_pos hq]
        simp (disch := omega) only [zo_s, zb_s, zx_l, zx_r, zrn_1, zrn_0, zrn_b, zrnX_1, zrnX_0, zrnX_b, n_lit, n_add, n_mul, n_sub, n_lt, n_le, n_eq, n_cl, n_div, n_md6, bI_0, bI_1, bI_t, bI_f, n_e10, n_e01, show ¬ ((1 : Nat) = 0) from by omega, if_false]
        have h9 := next _ (mFr.sA 16 o (nI (dNd d src ln (fM (dEx d) (dNd d src ln) o S) o)) (by decide)) (fun i hi => by
          rw [e1, gA_sA, u_at]
          by_cases e : i = o
          · rw [if_pos ⟨rfl, e⟩, if_pos e]
          · rw [if_neg (fun z => e z.2), if_neg e]
            exact hS i hi)
        rw [e2, bI_t] at h9
        exact h9
      · have e1 : fM (dEx d) (dNd d src ln) (o + 1) S = fM (dEx d) (dNd d src ln) o S := by simp only [fM]; rw [if_neg (fun z => hq z.2)]
        have e2 : hM (dEx d) (dNd d src ln) (o + 1) S = hM (dEx d) (dNd d src ln) o S := by simp [hM, hex, hq]
        rw [if_neg hq]
        simp (disch := omega) only [zo_s, zb_s, zx_l, zx_r, zrn_1, zrn_0, zrn_b, zrnX_1, zrnX_0, zrnX_b, if_true]
        rw [← e2]
        exact next μ (mFr.refl _ _ _) (by rw [e1]; exact hS)
theorem M_find_l27 (hV : dV d) (hG : G 0 ≤ M) {src ln : Nat → Nat} (hSL : dSL src ln) : ∀ (c r n : Nat) (μ : zMu) (S : Nat → Nat), r + c = 37 → c < n → mD μ 2 d → mSr μ src → mLn μ src ln → mS μ S → (∀ i, i < 36 → S i ≤ 999 + 7128 * r) → ∃ μ', f_X8_findStarts_l27 G n M (nI r) (mw M μ s) = some (bI (p_run (fM (dEx d) (dNd d src ln) 36) (hM (dEx d) (dNd d src ln) 36) c S).1, mw M μ' s) ∧ mS μ' (p_run (fM (dEx d) (dNd d src ln) 36) (hM (dEx d) (dNd d src ln) 36) c S).2 ∧ (∀ i, i < 36 → (p_run (fM (dEx d) (dNd d src ln) 36) (hM (dEx d) (dNd d src ln) 36) c S).2 i < 600000) ∧ mFr [] [16] μ μ' := by
  intro c
  induction c with
  | zero =>
    intro r n μ S hc hn hd hsr hln hS hB
    obtain ⟨n, rfl⟩ : ∃ q, n = q + 1 := ⟨n - 1, by omega⟩
    have e : r = 37 := by omega
    subst e
    refine ⟨μ, ?_, hS, fun i hi => by have := hB i hi; simp only [p_run]; omega, mFr.refl _ _ _⟩
    show f_X8_findStarts_b27 G (f_X8_findStarts_l27 G n) M (nI 37) (mw M μ s) = _
    unfold f_X8_findStarts_b27
    simp (disch := omega) only [n_lit, n_add, n_mul, n_sub, n_lt, n_le, n_eq, n_cl, n_div, n_md6, bI_0, bI_1, bI_t, bI_f, n_e10, n_e01, zo_s, zb_s, zx_l, zx_r, zrn_1, zrn_0, zrn_b, zrnX_1, zrnX_0, zrnX_b, p_run, show (36 : Nat) < 37 from by omega, if_true]
  | succ c ih =>
    intro r n μ S hc hn hd hsr hln hS hB
    obtain ⟨n, rfl⟩ : ∃ q, n = q + 1 := ⟨n - 1, by omega⟩
    have hlt : ¬ (36 < r) := by omega
    obtain ⟨μ1, h1, h2, h3⟩ := M_find_l37 (s := s) hV hG hSL (S := S) (B := 999 + 7128 * r) (by omega) (by omega) hB (f_X8_findStarts_l27 G n) r 36 0 2000 μ (by omega) (by omega) hd hsr hln hS
    have e0 : f_X8_findStarts_l27 G (n + 1) M (nI r) (mw M μ s) = f_X8_findStarts_l37 G (f_X8_findStarts_l27 G n) 2000 M (nI r) (bI (hM (dEx d) (dNd d src ln) 0 S)) (nI 0) (mw M μ s) := by
      show f_X8_findStarts_b27 G (f_X8_findStarts_l27 G n) M (nI r) (mw M μ s) = _
      unfold f_X8_findStarts_b27
      simp (disch := omega) only [n_lit, n_add, n_mul, n_sub, n_lt, n_le, n_eq, n_cl, n_div, n_md6, bI_0, bI_1, bI_t, bI_f, n_e10, n_e01, hlt, if_false, hM]
    have hbd := fM_bd hV hSL (S := S) (B := 999 + 7128 * r) (by omega) hB 36 (by omega)
    rw [e0, h1]
    simp only [p_run]
    cases hq : hM (dEx d) (dNd d src ln) 36 S with
    | false =>
      simp only [Bool.false_eq_true, if_false]
      exact ⟨μ1, rfl, h2, fun i hi => by have := hbd i hi; omega, h3⟩
    | true =>
      simp only [if_true]
      obtain ⟨μ2, g1, g2, g3, g4⟩ := ih (r + 1) n μ1 (fM (dEx d) (dNd d src ln) 36 S) (by omega) (by omega) (h3.D (by decide) hd) (fun i hi => by rw [h3.2 14 (by decide)]; exact hsr i hi) (fun i hi hne => by rw [h3.2 15 (by decide)]; exact hln i hi hne) h2 (fun i hi => by have := hbd i hi; omega)
      exact ⟨μ2, g1, g2, g3, h3.trans g4⟩
theorem M_find_l6 (hG : G 0 ≤ M) : ∀ (c o n : Nat) (μ : zMu), o + c = 36 → c < n → (∀ i, i < o → gA μ 16 i = nI 0) → ∃ μ', f_X8_findStarts_l6 G n M (nI o) (mw M μ s) = f_X8_findStarts_l27 G 2000 M (nI 0) (mw M μ' s) ∧ (∀ i, i < 36 → gA μ' 16 i = nI 0) ∧ mFr [] [16] μ μ' := by
  intro c
  induction c with
  | zero =>
    intro o n μ hc hn h
    obtain ⟨n, rfl⟩ : ∃ q, n = q + 1 := ⟨n - 1, by omega⟩
    refine ⟨μ, ?_, fun i hi => h i (by omega), mFr.refl _ _ _⟩
    show f_X8_findStarts_b6 G (f_X8_findStarts_l6 G n) M (nI o) (mw M μ s) = _
    unfold f_X8_findStarts_b6
    simp (disch := omega) only [n_lit, n_add, n_mul, n_sub, n_lt, n_le, n_eq, n_cl, n_div, n_md6, bI_0, bI_1, bI_t, bI_f, n_e10, n_e01]
    rw [if_pos (by omega)]
  | succ c ih =>
    intro o n μ hc hn h
    obtain ⟨n, rfl⟩ : ∃ q, n = q + 1 := ⟨n - 1, by omega⟩
    obtain ⟨μ', h1, h2, h3⟩ := ih (o + 1) n (sA μ 16 o (nI 0)) (by omega) (by omega) (fun i hi => by
      rw [gA_sA]
      by_cases e : i = o
      · rw [if_pos ⟨rfl, e⟩]
      · rw [if_neg (fun z => e z.2)]
        exact h i (by omega))
    refine ⟨μ', ?_, h2, (mFr.sA _ _ _ (by decide)).trans h3⟩
    rw [← h1]
    show f_X8_findStarts_b6 G (f_X8_findStarts_l6 G n) M (nI o) (mw M μ s) = _
    unfold f_X8_findStarts_b6
    have hi : ¬ (36 ≤ o) := by omega
    simp (disch := omega) only [zo_s, zb_s, zx_l, zx_r, zrn_1, zrn_0, zrn_b, zrnX_1, zrnX_0, zrnX_b, n_lit, n_add, n_mul, n_sub, n_lt, n_le, n_eq, n_cl, n_div, n_md6, bI_0, bI_1, bI_t, bI_f, n_e10, n_e01, m_rc, m_I0, m_I2, m_I3, m_I4, m_I5, m_I6, m_I7, m_I12, m_I13, m_I14, m_I15, m_I21, m_I22, m_I24, m_R1, m_R8, m_R9, m_R10, m_R11, m_R16, m_R17, m_R18, m_R19, m_R20, m_R23, m_aD, m_aO, m_aB, m_aZ, m_aL, m_aR, m_P0, m_P2, m_P3, m_P4, m_P5, m_P6, m_P7, m_P12, m_P13, m_P14, m_P15, m_P21, m_P22, m_P24, m_sD, m_sO, m_sB, m_sL, hG, hi, if_false]
/-- the needs hold just the arcs -/
theorem dNd_Rd (hV : dV d) {src ln : Nat → Nat} (h : dLA d (d 0) 0 src ln) : p_Rd (dEx d) (dAr d) (dBa d) (fun _ => True) (fM (dEx d) (dNd d src ln) 36) := by
  refine fM_Rd ?_ ?_ ?_ ?_
  · intro S T o hST
    unfold dNd
    have h1 := hST (o - 1)
    have h2 := hST (src o - 1)
    split <;> split <;> omega
  · intro F hF S hS o ho hex
    unfold dNd
    have h1 : (if o % 6 = 0 then d (59 + 4 * (o / 6)) else S (o - 1) + dDu d (o - 1)) ≤ F o := by
      by_cases h6 : o % 6 = 0
      · rw [if_pos h6]
        have := hF.1 o ho hex
        unfold dBa at this
        rw [if_pos h6] at this
        exact this
      · rw [if_neg h6]
        have := hF.2 (o - 1) o (dDu d (o - 1)) (Or.inl ⟨ho, hex, h6, rfl, rfl⟩)
        have := hS (o - 1) (by omega) (dEx_prev hex h6).1
        omega
    have h2 : (if src o = 0 then 0 else S (src o - 1) + ln o) ≤ F o := by
      by_cases q : src o = 0
      · rw [if_pos q]; omega
      · rw [if_neg q]
        obtain ⟨i, l, g1, g2, g3, g4, g5⟩ := h.2 o ho q
        obtain ⟨a1, a2, -⟩ := (hV.2.2.2.2.2.1 i g1).2.2 l (by omega)
        obtain ⟨a5, a6⟩ := dPr_ex hV a1 a2
        have := hF.2 _ o _ (Or.inr ⟨i, l, g1, g2, g3, rfl, rfl⟩)
        have := hS _ a5 a6
        rw [g4, g5, Nat.add_sub_cancel]
        omega
    omega
  · intro u v l ha
    obtain ⟨-, -, e3, e4⟩ := dAr_ex hV ha
    refine ⟨e3, e4, fun S => ?_⟩
    unfold dNd
    rcases ha with ⟨h1, h2, h3, rfl, rfl⟩ | ⟨m, k, h1, h2, rfl, rfl, rfl⟩
    · rw [if_neg h3]
      omega
    · obtain ⟨g1, g2⟩ := h.1 m k (Or.inl ⟨h1, h2⟩)
      rw [g1, g2, if_neg (show ¬ (dPr d (dOr d m k) + 1 = 0) from by omega), Nat.add_sub_cancel]
      omega
  · intro v hv hex S
    unfold dNd dBa
    by_cases h6 : v % 6 = 0
    · simp only [h6, if_true]
      omega
    · simp only [h6, if_false]
      omega
/-- the reference finds the least starts, if there are starts at all -/
theorem M_findStarts (hV : dV d) (hG : G 0 ≤ M) {μ : zMu} (hd : mD μ 2 d) : ∃ μ' b S src ln, f_X8_findStarts G M (mw M μ s) = some (bI b, mw M μ' s) ∧ (b = true ↔ ∃ F, dFe d F) ∧ (b = true → dLe d S ∧ mS μ' S ∧ ∀ i, i < 36 → S i < 600000) ∧ mSr μ' src ∧ dLA d (d 0) 0 src ln ∧ mFr [] [14, 15, 16] μ μ' := by
  obtain ⟨μ1, src, ln, h1, h2, h3, h4, h5⟩ := M_layArcs (s := s) hV hG hd
  obtain ⟨μ2, g1, g2, g3⟩ := M_find_l6 (s := s) hG 36 0 2000 μ1 (by omega) (by omega) (fun i hi => by omega)
  have hSL := dLA_SL hV h4
  have hF2 : mFr [] [14, 15, 16] μ μ2 := (h5.mono (by simp) (by simp <;> omega)).trans (g3.mono (by simp) (by simp))
  obtain ⟨μ3, k1, k2, k3, k4⟩ := M_find_l27 (s := s) hV hG hSL 37 0 2000 μ2 (fun _ => 0) (by omega) (by omega) (hF2.D (by decide) hd) (fun i hi => by rw [g3.2 14 (by decide)]; exact h2 i hi) (fun i hi hne => by rw [g3.2 15 (by decide)]; exact h3 i hi hne) g2 (fun i hi => by omega)
  have hR := dNd_Rd hV h4
  have hp := p_rounds (E := dEx d) (A := dAr d) (b := dBa d) (fun u v l h => dAr_ex hV h) (ch := hM (dEx d) (dNd d src ln) 36) (fun S h => fM_same 36 S h) (fun S h => fM_more 36 (by omega) S h) hR (S0 := fun _ => 0) trivial (fun F _ v _ _ => Nat.zero_le _) (fun v _ _ => rfl) (n := 37) (Nat.lt_succ_of_le (p_cn_le_n _ _))
  refine ⟨μ3, _, _, src, ln, ?_, ⟨fun h => ⟨_, (hp.1 h).1⟩, hp.2⟩, fun h => ⟨hp.1 h, k2, k3⟩, fun i hi => by rw [k4.2 14 (by decide), g3.2 14 (by decide)]; exact h2 i hi, h4, hF2.trans (k4.mono (by simp) (by simp))⟩
  rw [← k1, ← g1]
  unfold f_X8_findStarts
  simp only [zo_s, zb_s, zx_l, zx_r, zrn_1, zrn_0, zrn_b, zrnX_1, zrnX_0, zrnX_b, m_rc, m_I0, m_I2, m_I3, m_I4, m_I5, m_I6, m_I7, m_I12, m_I13, m_I14, m_I15, m_I21, m_I22, m_I24, m_R1, m_R8, m_R9, m_R10, m_R11, m_R16, m_R17, m_R18, m_R19, m_R20, m_R23, m_aD, m_aO, m_aB, m_aZ, m_aL, m_aR, h1]
  rfl
end MFIND
