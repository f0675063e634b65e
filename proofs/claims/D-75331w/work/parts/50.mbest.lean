/-! THE PLAIN LAW, part 10: swaps; the best of them, by the reference -/
set_option maxRecDepth 100000
/-- the least starts of a plan (0 where there are none) -/
noncomputable def dSt (d : Nat → Nat) : Nat → Nat := @dite _ (∃ S, dLe d S) (Classical.propDecidable _) (fun h => Classical.choose h) (fun _ _ => 0)
theorem dSt_Le {d S : Nat → Nat} (h : dLe d S) : dLe d (dSt d) := by
  have h1 : ∃ S, dLe d S := ⟨S, h⟩
  have h2 : dSt d = Classical.choose h1 := by
    unfold dSt
    exact @dif_pos _ (Classical.propDecidable _) h1 _ _ _
  rw [h2]
  exact Classical.choose_spec h1
theorem dSt_eq {d S : Nat → Nat} (h : dLe d S) {v : Nat} (hv : v < 36) : S v = dSt d v := p_Le_eq h (dSt_Le h) hv
theorem dLe_ex {d : Nat → Nat} (hV : dV d) (h : ∃ F, dFe d F) : ∃ S, dLe d S := by
  obtain ⟨F, hF⟩ := h
  obtain ⟨L, hL, hm⟩ := p_small hF
  refine ⟨fun v => if v < 36 ∧ dEx d v = true then L v else 0, ⟨fun v hv he => ?_, fun u v l ha => ?_⟩, fun F' hF' v hv he => ?_, fun v hv he => ?_⟩
  · show dBa d v ≤ if v < 36 ∧ dEx d v = true then L v else 0
    rw [if_pos ⟨hv, he⟩]
    exact hL.1 v hv he
  · obtain ⟨a1, a2, a3, a4⟩ := dAr_ex hV ha
    show (if u < 36 ∧ dEx d u = true then L u else 0) + l ≤ if v < 36 ∧ dEx d v = true then L v else 0
    rw [if_pos ⟨a1, a2⟩, if_pos ⟨a3, a4⟩]
    exact hL.2 u v l ha
  · show (if v < 36 ∧ dEx d v = true then L v else 0) ≤ F' v
    rw [if_pos ⟨hv, he⟩]
    -- the lesser of the two keeps all as well
    apply Classical.byContradiction
    intro hlt
    have hmin : p_Fe (dEx d) (dAr d) (dBa d) (fun w => min (L w) (F' w)) := by
      refine ⟨fun w hw hew => ?_, fun u w l ha => ?_⟩
      · have := hL.1 w hw hew
        have := hF'.1 w hw hew
        show _ ≤ min (L w) (F' w)
        omega
      · have := hL.2 u w l ha
        have := hF'.2 u w l ha
        show min (L u) (F' u) + l ≤ min (L w) (F' w)
        omega
    have h1 := hm _ hmin
    have h2 := p_sum_lt (F := fun w => min (L w) (F' w)) (L := L) (n := 36) (fun w _ => Nat.min_le_left _ _) hv (by
      show min (L v) (F' v) < L v
      omega)
    omega
  · show (if v < 36 ∧ dEx d v = true then L v else 0) = 0
    rw [if_neg (fun q => by rw [he] at q; exact absurd q.2 (by simp))]
noncomputable def dTb (d : Nat → Nat) : Bool := @decide (dTm d) (Classical.propDecidable _)
theorem dTb_t {d : Nat → Nat} : dTb d = true ↔ dTm d := by
  unfold dTb
  exact @decide_eq_true_iff _ (Classical.propDecidable _)
theorem dTb_f {d : Nat → Nat} : dTb d = false ↔ ¬ dTm d := by
  rw [← dTb_t]
  cases dTb d <;> simp
noncomputable def dSpan (d : Nat → Nat) : Nat := dMs d (dSt d) (d 2)
noncomputable def dCost (d : Nat → Nat) (v : (Nat → Int64) → Int64) : Int32 := dPc d (dSt d) v (d 2)
/-- two neighbours of an order change places -/
def dSw (d : Nat → Nat) (m k : Nat) : Nat → Nat := va_up (va_up d (5 + 9 * m + 3 + k) (d (5 + 9 * m + 3 + k + 1))) (5 + 9 * m + 3 + k + 1) (d (5 + 9 * m + 3 + k))
theorem dSw_ne {d : Nat → Nat} {m k i : Nat} (h1 : i ≠ 5 + 9 * m + 3 + k) (h2 : i ≠ 5 + 9 * m + 3 + k + 1) : dSw d m k i = d i := by
  unfold dSw
  rw [u_at, if_neg h2, u_at, if_neg h1]
theorem dSw_sw (d : Nat → Nat) (m k : Nat) : dSw (dSw d m k) m k = d := by
  funext i
  unfold dSw
  simp only [u_at]
  by_cases e1 : i = 5 + 9 * m + 3 + k + 1
  · subst e1
    simp
  · by_cases e2 : i = 5 + 9 * m + 3 + k
    · subst e2
      simp
    · simp [e1, e2]
section SWAPS
variable {d : Nat → Nat} {m k : Nat}
theorem dSw_Or (hm : m < 6) (hk : k < 5) {i l : Nat} (hi : i < 6) (hl : l < 6) : dOr (dSw d m k) i l = if i = m ∧ l = k then dOr d m (k + 1) else if i = m ∧ l = k + 1 then dOr d m k else dOr d i l := by
  unfold dOr dSw
  simp only [u_at]
  by_cases e1 : i = m ∧ l = k + 1
  · obtain ⟨rfl, rfl⟩ := e1
    rw [if_pos (by omega), if_neg (by omega), if_pos ⟨rfl, rfl⟩]
  · rw [if_neg (show ¬ (5 + 9 * i + 3 + l = 5 + 9 * m + 3 + k + 1) from by omega)]
    by_cases e2 : i = m ∧ l = k
    · obtain ⟨rfl, rfl⟩ := e2
      rw [if_pos rfl, if_pos ⟨rfl, rfl⟩]
      rfl
    · rw [if_neg (show ¬ (5 + 9 * i + 3 + l = 5 + 9 * m + 3 + k) from by omega), if_neg e2, if_neg e1]
theorem dSw_Cn (hm : m < 6) (hk : k < 5) {i : Nat} (hi : i < 6) : dCn (dSw d m k) i = dCn d i := dSw_ne (by omega) (by omega)
theorem dSw_Mo (hm : m < 6) (hk : k < 5) (o : Nat) : dMo (dSw d m k) o = dMo d o := dSw_ne (by omega) (by omega)
theorem dSw_Du (hm : m < 6) (hk : k < 5) (o : Nat) : dDu (dSw d m k) o = dDu d o := dSw_ne (by omega) (by omega)
theorem dSw_lo {i : Nat} (hi : i < 5) : dSw d m k i = d i := dSw_ne (by omega) (by omega)
theorem dSw_hi (hm : m < 6) (hk : k < 5) {i : Nat} (hi : 59 ≤ i) : dSw d m k i = d i := dSw_ne (by omega) (by omega)
theorem dSw_Ex (hm : m < 6) (hk : k < 5) (o : Nat) : dEx (dSw d m k) o = dEx d o := by
  unfold dEx
  rw [dSw_lo (by omega), dSw_hi hm hk (by omega)]
theorem dSw_V (hV : dV d) (hm : m < d 0) (hk : k + 1 < dCn d m) : dV (dSw d m k) := by
  have hm6 : m < 6 := Nat.lt_of_lt_of_le hm hV.2.1
  have hc6 := (hV.2.2.2.2.2.1 m hm).1
  have hk5 : k < 5 := by omega
  have e0 : dSw d m k 0 = d 0 := dSw_lo (by omega)
  have e2 : dSw d m k 2 = d 2 := dSw_lo (by omega)
  refine ⟨fun i => ?_, by rw [e0]; exact hV.2.1, by rw [e2]; exact hV.2.2.1, fun j hj => ?_, fun o ho hex => ?_, fun i hi => ?_, fun i k1 k2 hi hk1 hk2 he => ?_⟩
  · unfold dSw
    rw [u_at]
    split
    · exact hV.1 _
    · rw [u_at]
      split
      · exact hV.1 _
      · exact hV.1 _
  · rw [e2] at hj
    rw [dSw_hi hm6 hk5 (by omega), dSw_hi hm6 hk5 (by omega)]
    exact hV.2.2.2.1 j hj
  · rw [dSw_Ex hm6 hk5] at hex
    rw [dSw_Mo hm6 hk5, dSw_Du hm6 hk5, e0]
    obtain ⟨h1, h2, h3, l, h4, h5⟩ := hV.2.2.2.2.1 o ho hex
    have h6 : dMo d o < 6 := Nat.lt_of_lt_of_le h1 hV.2.1
    have h7 := (hV.2.2.2.2.2.1 _ h1).1
    refine ⟨h1, h2, h3, ?_⟩
    rw [dSw_Cn hm6 hk5 h6]
    by_cases q : dMo d o = m
    · by_cases q1 : l = k
      · refine ⟨k + 1, by rw [q]; exact hk, ?_⟩
        rw [dSw_Or hm6 hk5 h6 (by omega), if_neg (by omega), if_pos ⟨q, rfl⟩, ← h5, q, q1]
      · by_cases q2 : l = k + 1
        · refine ⟨k, by rw [q]; omega, ?_⟩
          rw [dSw_Or hm6 hk5 h6 (by omega), if_pos ⟨q, rfl⟩, ← h5, q, q2]
        · refine ⟨l, h4, ?_⟩
          rw [dSw_Or hm6 hk5 h6 (by omega), if_neg (fun z => q1 z.2), if_neg (fun z => q2 z.2)]
          exact h5
    · refine ⟨l, h4, ?_⟩
      rw [dSw_Or hm6 hk5 h6 (by omega), if_neg (fun z => q z.1), if_neg (fun z => q z.1)]
      exact h5
  · rw [e0] at hi
    have hi6 : i < 6 := Nat.lt_of_lt_of_le hi hV.2.1
    obtain ⟨h1, h2, h3⟩ := hV.2.2.2.2.2.1 i hi
    rw [dSw_Cn hm6 hk5 hi6, dSw_ne (by omega) (by omega)]
    refine ⟨h1, h2, fun l hl => ?_⟩
    rw [dSw_Ex hm6 hk5, dSw_Mo hm6 hk5, dSw_Or hm6 hk5 hi6 (by omega)]
    by_cases q1 : i = m ∧ l = k
    · rw [if_pos q1]
      obtain ⟨rfl, rfl⟩ := q1
      exact h3 _ hk
    · rw [if_neg q1]
      by_cases q2 : i = m ∧ l = k + 1
      · rw [if_pos q2]
        obtain ⟨rfl, rfl⟩ := q2
        exact h3 _ (by omega)
      · rw [if_neg q2]
        exact h3 l hl
  · rw [e0] at hi
    have hi6 : i < 6 := Nat.lt_of_lt_of_le hi hV.2.1
    have h1 := (hV.2.2.2.2.2.1 i hi).1
    rw [dSw_Cn hm6 hk5 hi6] at hk1 hk2
    rw [dSw_Or hm6 hk5 hi6 (by omega), dSw_Or hm6 hk5 hi6 (by omega)] at he
    have inj := hV.2.2.2.2.2.2 i
    by_cases q : i = m
    · subst q
      by_cases a1 : k1 = k
      · by_cases b1 : k2 = k
        · omega
        · by_cases b2 : k2 = k + 1
          · subst a1 b2
            rw [if_pos ⟨rfl, rfl⟩, if_neg (by omega), if_pos ⟨rfl, rfl⟩] at he
            have := inj (k1 + 1) k1 hi (by omega) (by omega) he
            omega
          · subst a1
            rw [if_pos ⟨rfl, rfl⟩, if_neg (fun z => b1 z.2), if_neg (fun z => b2 z.2)] at he
            have := inj (k1 + 1) k2 hi (by omega) (by omega) he
            omega
      · by_cases a2 : k1 = k + 1
        · by_cases b1 : k2 = k
          · subst a2 b1
            rw [if_neg (by omega), if_pos ⟨rfl, rfl⟩, if_pos ⟨rfl, rfl⟩] at he
            have := inj k2 (k2 + 1) hi (by omega) (by omega) he
            omega
          · by_cases b2 : k2 = k + 1
            · omega
            · subst a2
              rw [if_neg (by omega), if_pos ⟨rfl, rfl⟩, if_neg (fun z => b1 z.2), if_neg (fun z => b2 z.2)] at he
              have := inj k k2 hi (by omega) (by omega) he
              omega
        · rw [if_neg (fun z => a1 z.2), if_neg (fun z => a2 z.2)] at he
          by_cases b1 : k2 = k
          · subst b1
            rw [if_pos ⟨rfl, rfl⟩] at he
            have := inj k1 (k2 + 1) hi (by omega) (by omega) he
            omega
          · by_cases b2 : k2 = k + 1
            · subst b2
              rw [if_neg (by omega), if_pos ⟨rfl, rfl⟩] at he
              have := inj k1 k hi (by omega) (by omega) he
              omega
            · rw [if_neg (fun z => b1 z.2), if_neg (fun z => b2 z.2)] at he
              exact inj k1 k2 hi hk1 hk2 he
    · rw [if_neg (fun z => q z.1), if_neg (fun z => q z.1), if_neg (fun z => q z.1), if_neg (fun z => q z.1)] at he
      exact inj k1 k2 hi hk1 hk2 he
theorem dSw_Co (hm : m < 6) (hk : k < 5) {v : (Nat → Int64) → Int64} (h : dCo d v) : dCo (dSw d m k) v := by
  rcases h with ⟨h1, h2⟩ | ⟨h1, h2, n, h3⟩
  · exact Or.inl ⟨by rw [dSw_lo (by omega)]; exact h1, h2⟩
  · refine Or.inr ⟨by rw [dSw_lo (by omega)]; exact h1, by rw [dSw_lo (by omega)]; exact h2, n, ?_⟩
    rw [dSw_lo (by omega)]
    exact dEv_same (fun x _ _ => dSw_hi hm hk (by omega)) h3
end SWAPS
/-- better: sooner done, or at once and cheaper -/
def dBt (s : Nat) (c : Int32) (s' : Nat) (c' : Int32) : Bool := if s = s' then decide (c < c') else decide (s < s')
/-- the search for the best swap: 0 none, else one more than its number; what it is worth -/
noncomputable def dBs (d : Nat → Nat) (v : (Nat → Int64) → Int64) (m k : Nat) (b : Nat × Nat × Int32) : Nat × Nat × Int32 := if dTb (dSw d m k) && (decide (b.1 = 0) || dBt (dSpan (dSw d m k)) (dCost (dSw d m k) v) b.2.1 b.2.2) then (100 * m + k + 1, dSpan (dSw d m k), dCost (dSw d m k) v) else b
noncomputable def dBr (d : Nat → Nat) (v : (Nat → Int64) → Int64) (m : Nat) (b : Nat × Nat × Int32) : Nat → Nat × Nat × Int32
  | 0 => b
  | k + 1 => dBs d v m k (dBr d v m b k)
noncomputable def dBb (d : Nat → Nat) (v : (Nat → Int64) → Int64) : Nat → Nat × Nat × Int32
  | 0 => (0, 0, nI 0)
  | m + 1 => dBr d v m (dBb d v m) (dCn d m - 1)
/-- 0 is told as -1 -/
def nO (c : Nat) : Int32 := if c = 0 then -nI 1 else nI (c - 1)
theorem nO_m1 {c : Nat} (h : c < 2147483648) : nO c = -nI 1 ↔ c = 0 := by
  unfold nO
  by_cases q : c = 0
  · simp [q]
  · rw [if_neg q]
    exact ⟨fun z => absurd z (n_nm1 (by omega)), fun z => absurd z q⟩
theorem nO_s (c : Nat) : nO (c + 1) = nI c := by
  unfold nO
  rw [if_neg (by omega)]
  rfl
section MBEST
variable {G : Nat → Nat} {M : Nat} {s : zS} {d : Nat → Nat}
theorem mS_St {μ : zMu} {S : Nat → Nat} (h : dLe d S) (hS : mS μ S) (hB : ∀ i, i < 36 → S i < 600000) : mS μ (dSt d) ∧ ∀ i, i < 36 → dSt d i < 600000 := ⟨fun i hi => by rw [hS i hi, dSt_eq h hi], fun i hi => by rw [← dSt_eq h hi]; exact hB i hi⟩
theorem M_swap (hG : G 0 ≤ M) {μ : zMu} (hd : mD μ 2 d) {m k : Nat} (hm : m < 6) (hk : k < 5) : ∃ μ', f_X8_exchange G M (nI m) (nI k) (mw M μ s) = some ((), mw M μ' s) ∧ mD μ' 2 (dSw d m k) ∧ mFr [] [2] μ μ' := by
  obtain ⟨μ', h1, h2, h3, h4, h5⟩ := M_exchange (s := s) hd hG hm hk
  exact ⟨μ', h1, h2, fun j _ => h4 j, fun j hj => h3 j (by simpa using hj)⟩
theorem M_better (a c : Nat) (b e : Int32) (ha : a < 2147483648) (hc : c < 2147483648) : f_X8_isBetter G (nI a) b (nI c) e s = some (bI (dBt a b c e), s) := by
  unfold f_X8_isBetter dBt
  simp (disch := omega) only [n_lit, n_add, n_mul, n_sub, n_lt, n_le, n_eq, n_cl, n_div, n_md6, bI_0, bI_1, bI_t, bI_f, n_e10, n_e01]
  by_cases q : a = c
  · rw [if_pos q, if_pos q]
    by_cases z : b < e
    · have : ¬ (e ≤ b) := fun y => absurd z (by rw [Int32.lt_iff_toInt_lt]; rw [Int32.le_iff_toInt_le] at y; omega)
      rw [if_neg this, decide_eq_true z]
      rfl
    · have : e ≤ b := by rw [Int32.le_iff_toInt_le]; rw [Int32.lt_iff_toInt_lt] at z; omega
      rw [if_pos this, decide_eq_false z]
      rfl
  · rw [if_neg q, if_neg q]
    by_cases z : a < c
    · rw [if_neg (by omega), decide_eq_true z]
      rfl
    · rw [if_pos (by omega), decide_eq_false z]
      rfl
/-- the bounds of what is worth -/
def mBv (μ : zMu) (b : Nat × Nat × Int32) : Prop := b.1 < 1000 ∧ (b.1 ≠ 0 → b.2.1 < 2000000 ∧ gS μ 21 = nI b.2.1 ∧ gS μ 22 = b.2.2)
theorem M_best_l16 (hV : dV d) (hG : G 0 ≤ M) {v : (Nat → Int64) → Int64} (hv : dCo d v) (k4 : Nat → Int32 → Int32 → zS → Option (Int32 × zS)) {m : Nat} (hm : m < d 0) (b0 : Nat × Nat × Int32) : ∀ (c k n : Nat) (μ : zMu), k ≤ 6 → dCn d m ≤ k + 1 + c → c < n → mD μ 2 d → mBv μ (dBr d v m b0 k) → ∃ μ', f_X8_findBest_l16 G k4 n M (nO (dBr d v m b0 k).1) (nI m) (nI k) (mw M μ s) = k4 M (nO (dBr d v m b0 (max k (dCn d m - 1))).1) (nI (m + 1)) (mw M μ' s) ∧ mD μ' 2 d ∧ mBv μ' (dBr d v m b0 (max k (dCn d m - 1))) ∧ mFr [21, 22] [2, 14, 15, 16, 17] μ μ' := by
  have hb := hV.1
  have hm6 : m < 6 := Nat.lt_of_lt_of_le hm hV.2.1
  obtain ⟨hc6, hsu, hor⟩ := hV.2.2.2.2.2.1 m hm
  intro c
  induction c with
  | zero =>
    intro k n μ hk6 hc hn hd hbv
    obtain ⟨n, rfl⟩ : ∃ q, n = q + 1 := ⟨n - 1, by omega⟩
    have e : max k (dCn d m - 1) = k := by omega
    rw [e]
    refine ⟨μ, ?_, hd, hbv, mFr.refl _ _ _⟩
    have hd' : ∀ i, i < 1655 → gA μ 2 i = nI (d i) := hd
    show f_X8_findBest_b16 G k4 (f_X8_findBest_l16 G k4 n) M _ (nI m) (nI k) (mw M μ s) = _
    unfold f_X8_findBest_b16 f_X8_machine
    simp (disch := omega) only [zo_s, zb_s, zx_l, zx_r, zrn_1, zrn_0, zrn_b, zrnX_1, zrnX_0, zrnX_b, n_lit, n_add, n_mul, n_sub, n_lt, n_le, n_eq, n_cl, n_div, n_md6, bI_0, bI_1, bI_t, bI_f, n_e10, n_e01, m_rc, m_I0, m_I2, m_I3, m_I4, m_I5, m_I6, m_I7, m_I12, m_I13, m_I14, m_I15, m_I21, m_I22, m_I24, m_R1, m_R8, m_R9, m_R10, m_R11, m_R16, m_R17, m_R18, m_R19, m_R20, m_R23, m_aD, m_aO, m_aB, m_aZ, m_aL, m_aR, hd', n_dl hb]
    rw [if_pos (show d (5 + 9 * m + 2) ≤ k + 1 from hc)]
  | succ c ih =>
    intro k n μ hk6 hc hn hd hbv
    obtain ⟨n, rfl⟩ : ∃ q, n = q + 1 := ⟨n - 1, by omega⟩
    by_cases hx : dCn d m ≤ k + 1
    · exact ih k (n + 1) μ hk6 (by omega) (by omega) hd hbv
    · have hd' : ∀ i, i < 1655 → gA μ 2 i = nI (d i) := hd
      have hk5 : k < 5 := by omega
      have emax : max k (dCn d m - 1) = max (k + 1) (dCn d m - 1) := by omega
      have hVs := dSw_V hV hm (show k + 1 < dCn d m from by omega)
      have hvs := dSw_Co (d := d) hm6 hk5 hv
      obtain ⟨μ1, s1, s2, s3⟩ := M_swap (s := s) hG hd hm6 hk5
      obtain ⟨μ2, bd, S, d1, d2, d3, d4⟩ := M_isDeadlocked (s := s) hVs hG s2
      have hd2 := d4.D (by decide) s2
      -- back
      have back : ∀ (μ3 : zMu), mD μ3 2 (dSw d m k) → mFr [21, 22] [2, 14, 15, 16, 17] μ μ3 → mBv μ3 (dBr d v m b0 (k + 1)) → ∃ μ', f_X8_findBest_b100 G (f_X8_findBest_l16 G k4 n) M (nO (dBr d v m b0 (k + 1)).1) (nI m) (nI k) (mw M μ3 s) = k4 M (nO (dBr d v m b0 (max k (dCn d m - 1))).1) (nI (m + 1)) (mw M μ' s) ∧ mD μ' 2 d ∧ mBv μ' (dBr d v m b0 (max k (dCn d m - 1))) ∧ mFr [21, 22] [2, 14, 15, 16, 17] μ μ' := by
        intro μ3 hd3 hF3 hb3
        obtain ⟨μ4, t1, t2, t3⟩ := M_swap (s := s) hG hd3 hm6 hk5
        rw [dSw_sw] at t2
        obtain ⟨μ5, w1, w2, w3, w4⟩ := ih (k + 1) n μ4 (by omega) (by omega) (by omega) t2 ⟨hb3.1, fun q => by
          rw [t3.1 21 (by decide), t3.1 22 (by decide)]
          exact hb3.2 q⟩
        rw [emax]
        refine ⟨μ5, ?_, w2, w3, (hF3.trans (t3.mono (by simp) (by simp))).trans w4⟩
        rw [← w1]
        unfold f_X8_findBest_b100
        simp (disch := omega) only [zo_s, zb_s, zx_l, zx_r, zrn_1, zrn_0, zrn_b, zrnX_1, zrnX_0, zrnX_b, n_lit, n_add, n_mul, n_sub, n_lt, n_le, n_eq, n_cl, n_div, n_md6, bI_0, bI_1, bI_t, bI_f, n_e10, n_e01, m_rc, m_I0, m_I2, m_I3, m_I4, m_I5, m_I6, m_I7, m_I12, m_I13, m_I14, m_I15, m_I21, m_I22, m_I24, m_R1, m_R8, m_R9, m_R10, m_R11, m_R16, m_R17, m_R18, m_R19, m_R20, m_R23, m_aD, m_aO, m_aB, m_aZ, m_aL, m_aR, t1]
      have hF2 : mFr [21, 22] [2, 14, 15, 16, 17] μ μ2 := (s3.mono (by simp) (by simp)).trans (d4.mono (by simp) (by simp <;> omega))
      have hbv2 : mBv μ2 (dBr d v m b0 k) := ⟨hbv.1, fun q => by
        rw [d4.1 21 (by decide), d4.1 22 (by decide), s3.1 21 (by decide), s3.1 22 (by decide)]
        exact hbv.2 q⟩
      have est : dBr d v m b0 (k + 1) = dBs d v m k (dBr d v m b0 k) := rfl
      show ∃ μ', f_X8_findBest_b16 G k4 (f_X8_findBest_l16 G k4 n) M _ (nI m) (nI k) (mw M μ s) = _ ∧ _
      unfold f_X8_findBest_b16 f_X8_machine
      simp (disch := omega) only [zo_s, zb_s, zx_l, zx_r, zrn_1, zrn_0, zrn_b, zrnX_1, zrnX_0, zrnX_b, n_lit, n_add, n_mul, n_sub, n_lt, n_le, n_eq, n_cl, n_div, n_md6, bI_0, bI_1, bI_t, bI_f, n_e10, n_e01, m_rc, m_I0, m_I2, m_I3, m_I4, m_I5, m_I6, m_I7, m_I12, m_I13, m_I14, m_I15, m_I21, m_I22, m_I24, m_R1, m_R8, m_R9, m_R10, m_R11, m_R16, m_R17, m_R18, m_R19, m_R20, m_R23, m_aD, m_aO, m_aB, m_aZ, m_aL, m_aR, hd', n_dl hb]
      rw [if_neg (show ¬ (d (5 + 9 * m + 2) ≤ k + 1) from hx), s1]
      simp (disch := omega) only [zo_s, zb_s, zx_l, zx_r, zrn_1, zrn_0, zrn_b, zrnX_1, zrnX_0, zrnX_b, n_lit, n_add, n_mul, n_sub, n_lt, n_le, n_eq, n_cl, n_div, n_md6, bI_0, bI_1, bI_t, bI_f, n_e10, n_e01, m_rc, m_I0, m_I2, m_I3, m_I4, m_I5, m_I6, m_I7, m_I12, m_I13, m_I14, m_I15, m_I21, m_I22, m_I24, m_R1, m_R8, m_R9, m_R10, m_R11, m_R16, m_R17, m_R18, m_R19, m_R20, m_R23, m_aD, m_aO, m_aB, m_aZ, m_aL, m_aR, d1]
      cases bd with
      | true =>
        have hT : dTb (dSw d m k) = false := dTb_f.mpr (fun z => by have := d2.mpr z; cases this)
        have e2 : dBr d v m b0 (k + 1) = dBr d v m b0 k := by rw [est]; unfold dBs; rw [hT]; rfl
        simp only [Bool.true_eq_false, if_false]
        have h9 := back μ2 hd2 hF2 (by rw [e2]; exact hbv2)
        rw [e2] at h9
        exact h9
      | false =>
        have hT : dTb (dSw d m k) = true := dTb_t.mpr (d2.mp rfl)
        obtain ⟨k1, k2, k3⟩ := d3 rfl
        obtain ⟨p1, p2⟩ := mS_St k1 k2 k3
        have hsp := dMs_lt hVs p2 ((dSw d m k) 2) (Nat.le_refl _)
        obtain ⟨μ3, c1, c2⟩ := M_costOfPlan (s := s) hVs hG hd2 p1 p2 hvs
        simp only [if_true]
        rw [M_makespanOf hVs hd2 p1 p2]
        simp (disch := omega) only [zo_s, zb_s, zx_l, zx_r, zrn_1, zrn_0, zrn_b, zrnX_1, zrnX_0, zrnX_b, n_lit, n_add, n_mul, n_sub, n_lt, n_le, n_eq, n_cl, n_div, n_md6, bI_0, bI_1, bI_t, bI_f, n_e10, n_e01, m_rc, m_I0, m_I2, m_I3, m_I4, m_I5, m_I6, m_I7, m_I12, m_I13, m_I14, m_I15, m_I21, m_I22, m_I24, m_R1, m_R8, m_R9, m_R10, m_R11, m_R16, m_R17, m_R18, m_R19, m_R20, m_R23, m_aD, m_aO, m_aB, m_aZ, m_aL, m_aR, c1]
        have hd3 := c2.D (by decide) hd2
        have hbv3 : mBv μ3 (dBr d v m b0 k) := ⟨hbv2.1, fun q => by
          rw [c2.1 21 (by decide), c2.1 22 (by decide)]
          exact hbv2.2 q⟩
        -- this one is the best now
        have take : (decide ((dBr d v m b0 k).1 = 0) || dBt (dSpan (dSw d m k)) (dCost (dSw d m k) v) (dBr d v m b0 k).2.1 (dBr d v m b0 k).2.2) = true → ∃ μ', f_X8_findBest_b81 G (f_X8_findBest_l16 G k4 n) M (nI m) (nI k) (nI (dMs (dSw d m k) (dSt (dSw d m k)) ((dSw d m k) 2))) (dPc (dSw d m k) (dSt (dSw d m k)) v ((dSw d m k) 2)) (mw M μ3 s) = k4 M (nO (dBr d v m b0 (max k (dCn d m - 1))).1) (nI (m + 1)) (mw M μ' s) ∧ mD μ' 2 d ∧ mBv μ' (dBr d v m b0 (max k (dCn d m - 1))) ∧ mFr [21, 22] [2, 14, 15, 16, 17] μ μ' := by
          intro hq
          have e2 : dBr d v m b0 (k + 1) = (100 * m + k + 1, dSpan (dSw d m k), dCost (dSw d m k) v) := by rw [est]; unfold dBs; rw [hT, hq]; rfl
          have h9 := back (sS (sS μ3 21 (nI (dSpan (dSw d m k)))) 22 (dCost (dSw d m k) v)) (fun i hi => hd3 i hi) ((hF2.trans (c2.mono (by simp) (by simp))).trans ((mFr.sS _ _ (by decide)).trans (mFr.sS _ _ (by decide)))) (by
            rw [e2]
            refine ⟨by show 100 * m + k + 1 < 1000; omega, fun _ => ⟨by show dMs _ _ _ < 2000000; omega, ?_, ?_⟩⟩
            · rw [gS_sS, if_neg (by decide), gS_sS, if_pos rfl]
            · rw [gS_sS, if_pos rfl])
          rw [e2] at h9
          rw [nO_s] at h9
          unfold f_X8_findBest_b81
          simp (disch := omega) only [zo_s, zb_s, zx_l, zx_r, zrn_1, zrn_0, zrn_b, zrnX_1, zrnX_0, zrnX_b, n_lit, n_add, n_mul, n_sub, n_lt, n_le, n_eq, n_cl, n_div, n_md6, bI_0, bI_1, bI_t, bI_f, n_e10, n_e01, m_rc, m_I0, m_I2, m_I3, m_I4, m_I5, m_I6, m_I7, m_I12, m_I13, m_I14, m_I15, m_I21, m_I22, m_I24, m_R1, m_R8, m_R9, m_R10, m_R11, m_R16, m_R17, m_R18, m_R19, m_R20, m_R23, m_aD, m_aO, m_aB, m_aZ, m_aL, m_aR, m_P0, m_P2, m_P3, m_P4, m_P5, m_P6, m_P7, m_P12, m_P13, m_P14, m_P15, m_P21, m_P22, m_P24, m_sD, m_sO, m_sB, m_sL, hG]
          exact h9
        have hbv1 := hbv.1
        by_cases q : (dBr d v m b0 k).1 = 0
        · rw [if_pos ((nO_m1 (by omega)).mpr q)]
          exact take (by rw [decide_eq_true q]; rfl)
        · rw [if_neg (fun z => q ((nO_m1 (by omega)).mp z))]
          obtain ⟨u1, u2, u3⟩ := hbv3.2 q
          simp (disch := omega) only [zo_s, zb_s, zx_l, zx_r, zrn_1, zrn_0, zrn_b, zrnX_1, zrnX_0, zrnX_b, n_lit, n_add, n_mul, n_sub, n_lt, n_le, n_eq, n_cl, n_div, n_md6, bI_0, bI_1, bI_t, bI_f, n_e10, n_e01, m_rc, m_I0, m_I2, m_I3, m_I4, m_I5, m_I6, m_I7, m_I12, m_I13, m_I14, m_I15, m_I21, m_I22, m_I24, m_R1, m_R8, m_R9, m_R10, m_R11, m_R16, m_R17, m_R18, m_R19, m_R20, m_R23, m_aD, m_aO, m_aB, m_aZ, m_aL, m_aR, u2, u3, M_better]
          cases hq : dBt (dMs (dSw d m k) (dSt (dSw d m k)) ((dSw d m k) 2)) (dPc (dSw d m k) (dSt (dSw d m k)) v ((dSw d m k) 2)) (dBr d v m b0 k).2.1 (dBr d v m b0 k).2.2 with
          | true =>
            simp only [Bool.true_eq_false, if_false]
            exact take (by
              have : dBt (dSpan (dSw d m k)) (dCost (dSw d m k) v) (dBr d v m b0 k).2.1 (dBr d v m b0 k).2.2 = true := hq
              rw [this, Bool.or_true])
          | false =>
            simp only [if_true]
            have e2 : dBr d v m b0 (k + 1) = dBr d v m b0 k := by
              rw [est]
              unfold dBs
              have : dBt (dSpan (dSw d m k)) (dCost (dSw d m k) v) (dBr d v m b0 k).2.1 (dBr d v m b0 k).2.2 = false := hq
              rw [hT, this, decide_eq_false q]
              rfl
            have h9 := back μ3 hd3 (hF2.trans (c2.mono (by simp) (by simp))) (by rw [e2]; exact hbv3)
            rw [e2] at h9
            exact h9
theorem M_best_l4 (hV : dV d) (hG : G 0 ≤ M) {v : (Nat → Int64) → Int64} (hv : dCo d v) : ∀ (c m n : Nat) (μ : zMu), m + c = d 0 → c < n → mD μ 2 d → mBv μ (dBb d v m) → ∃ μ', f_X8_findBest_l4 G n M (nO (dBb d v m).1) (nI m) (mw M μ s) = some (nO (dBb d v (d 0)).1, mw M μ' s) ∧ mD μ' 2 d ∧ mBv μ' (dBb d v (d 0)) ∧ mFr [21, 22] [2, 14, 15, 16, 17] μ μ' := by
  have hb := hV.1
  have h06 := hV.2.1
  intro c
  induction c with
  | zero =>
    intro m n μ hc hn hd hbv
    obtain ⟨n, rfl⟩ : ∃ q, n = q + 1 := ⟨n - 1, by omega⟩
    have e : m = d 0 := by omega
    subst e
    have hd' : ∀ i, i < 1655 → gA μ 2 i = nI (d i) := hd
    refine ⟨μ, ?_, hd, hbv, mFr.refl _ _ _⟩
    show f_X8_findBest_b4 G (f_X8_findBest_l4 G n) M _ _ (mw M μ s) = _
    unfold f_X8_findBest_b4
    simp (disch := omega) only [zo_s, zb_s, zx_l, zx_r, zrn_1, zrn_0, zrn_b, zrnX_1, zrnX_0, zrnX_b, n_lit, n_add, n_mul, n_sub, n_lt, n_le, n_eq, n_cl, n_div, n_md6, bI_0, bI_1, bI_t, bI_f, n_e10, n_e01, m_rc, m_I0, m_I2, m_I3, m_I4, m_I5, m_I6, m_I7, m_I12, m_I13, m_I14, m_I15, m_I21, m_I22, m_I24, m_R1, m_R8, m_R9, m_R10, m_R11, m_R16, m_R17, m_R18, m_R19, m_R20, m_R23, m_aD, m_aO, m_aB, m_aZ, m_aL, m_aR, hd', Nat.le_refl, if_true]
  | succ c ih =>
    intro m n μ hc hn hd hbv
    obtain ⟨n, rfl⟩ : ∃ q, n = q + 1 := ⟨n - 1, by omega⟩
    have hlt : ¬ (d 0 ≤ m) := by omega
    have hd' : ∀ i, i < 1655 → gA μ 2 i = nI (d i) := hd
    have hc6 := (hV.2.2.2.2.2.1 m (by omega)).1
    obtain ⟨μ1, h1, h2, h3, h4⟩ := M_best_l16 (s := s) hV hG hv (f_X8_findBest_l4 G n) (m := m) (by omega) (dBb d v m) 10 0 2000 μ (by omega) (by omega) (by omega) hd hbv
    rw [Nat.zero_max] at h1 h3
    obtain ⟨μ2, g1, g2, g3, g4⟩ := ih (m + 1) n μ1 (by omega) (by omega) h2 h3
    refine ⟨μ2, ?_, g2, g3, h4.trans g4⟩
    rw [← g1]
    show f_X8_findBest_b4 G (f_X8_findBest_l4 G n) M _ _ (mw M μ s) = _
    unfold f_X8_findBest_b4
    simp (disch := omega) only [zo_s, zb_s, zx_l, zx_r, zrn_1, zrn_0, zrn_b, zrnX_1, zrnX_0, zrnX_b, n_lit, n_add, n_mul, n_sub, n_lt, n_le, n_eq, n_cl, n_div, n_md6, bI_0, bI_1, bI_t, bI_f, n_e10, n_e01, m_rc, m_I0, m_I2, m_I3, m_I4, m_I5, m_I6, m_I7, m_I12, m_I13, m_I14, m_I15, m_I21, m_I22, m_I24, m_R1, m_R8, m_R9, m_R10, m_R11, m_R16, m_R17, m_R18, m_R19, m_R20, m_R23, m_aD, m_aO, m_aB, m_aZ, m_aL, m_aR, hd', hlt, if_false]
    exact h1
theorem M_findBest (hV : dV d) (hG : G 0 ≤ M) {v : (Nat → Int64) → Int64} (hv : dCo d v) {μ : zMu} (hd : mD μ 2 d) : ∃ μ', f_X8_findBest G M (mw M μ s) = some (nO (dBb d v (d 0)).1, mw M μ' s) ∧ mD μ' 2 d ∧ mBv μ' (dBb d v (d 0)) ∧ mFr [21, 22] [2, 14, 15, 16, 17] μ μ' :=
  M_best_l4 hV hG hv (d 0) 0 2000 μ (by omega) (by have := hV.2.1; omega) hd ⟨by show (0 : Nat) < 1000; omega, fun q => absurd rfl q⟩
end MBEST
