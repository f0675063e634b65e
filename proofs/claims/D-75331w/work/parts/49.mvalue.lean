/-! THE PLAIN LAW, part 9: what a plan is worth, by the reference -/
set_option maxRecDepth 100000
theorem l_lit (n : Nat) : (no_index (OfNat.ofNat n) : Int64) = lN (OfNat.ofNat n) := of_eq_true (eq_self _)
theorem lc_ge (x y : Int64) : (nI 0 ≤ lg_cmp x y) ↔ y ≤ x := lg_cmp_ge x y
theorem lc_le (x y : Int64) : (lg_cmp x y ≤ nI 0) ↔ x ≤ y := lg_cmp_le x y
theorem lc_gt (x y : Int64) : (nI 0 < lg_cmp x y) ↔ y < x := lg_cmp_gt x y
theorem lc_lt (x y : Int64) : (lg_cmp x y < nI 0) ↔ x < y := lg_cmp_lt x y
theorem lc_eq (x y : Int64) : (lg_cmp x y = nI 0) ↔ x = y := lg_cmp_eq x y
/-- the greatest completion of the first n jobs -/
def dMs (d S : Nat → Nat) : Nat → Nat
  | 0 => 0
  | j + 1 => max (dMs d S j) (S (dEn d j) + dDu d (dEn d j))
/-- to the bounds of a cost -/
def dLi (v : Int64) : Int64 := if v ≤ 1000000 then (if -1000000 ≤ v then v else -1000000) else 1000000
/-- an operation of a cost: 2 plus, 3 minus, 4 times, 5 divided -/
def dOp (c : Nat) (a b : Int64) : Int64 := if c = 5 then (if b = 0 then 0 else a / b) else dLi (if c = 2 then a + b else if c = 3 then a - b else a * b)
/-- the code from i to k (at most n deep) tells v, out of completion, due, weight and release -/
def dEv (d : Nat → Nat) : Nat → Nat → Nat → ((Nat → Int64) → Int64) → Prop
  | 0, _, _, _ => False
  | n + 1, i, k, v => (k = i + 2 ∧ d (155 + i) = 0 ∧ d (155 + (i + 1)) ≤ 9999 ∧ v = fun _ => lN (d (155 + (i + 1)))) ∨ (k = i + 2 ∧ d (155 + i) = 1 ∧ d (155 + (i + 1)) < 4 ∧ v = fun x => x (d (155 + (i + 1)))) ∨ ∃ j l a b, dEv d n i j a ∧ dEv d n j l b ∧ k = l + 1 ∧ 2 ≤ d (155 + l) ∧ d (155 + l) ≤ 5 ∧ v = fun x => dOp (d (155 + l)) (a x) (b x)
theorem dEv_lt {d : Nat → Nat} : ∀ {n i k : Nat} {v : (Nat → Int64) → Int64}, dEv d n i k v → i + 2 ≤ k := by
  intro n
  induction n with
  | zero => intro i k v h; exact h.elim
  | succ n ih =>
    intro i k v h
    rcases h with ⟨h, -⟩ | ⟨h, -⟩ | ⟨j, l, a, b, h1, h2, h3, -⟩
    · omega
    · omega
    · have := ih h1
      have := ih h2
      omega
theorem dEv_mono {d : Nat → Nat} : ∀ {n m i k : Nat} {v : (Nat → Int64) → Int64}, n ≤ m → dEv d n i k v → dEv d m i k v := by
  intro n
  induction n with
  | zero => intro m i k v _ h; exact h.elim
  | succ n ih =>
    intro m i k v hm h
    obtain ⟨m, rfl⟩ : ∃ q, m = q + 1 := ⟨m - 1, by omega⟩
    rcases h with h | h | ⟨j, l, a, b, h1, h2, h3⟩
    · exact Or.inl h
    · exact Or.inr (Or.inl h)
    · exact Or.inr (Or.inr ⟨j, l, a, b, ih (by omega) h1, ih (by omega) h2, h3⟩)
/-- it rests on the code alone -/
theorem dEv_same {d e : Nat → Nat} : ∀ {n i k : Nat} {v : (Nat → Int64) → Int64}, (∀ x, i ≤ x → x < k → e (155 + x) = d (155 + x)) → dEv d n i k v → dEv e n i k v := by
  intro n
  induction n with
  | zero => intro i k v _ h; exact h.elim
  | succ n ih =>
    intro i k v hs h
    rcases h with ⟨h, h1⟩ | ⟨h, h1⟩ | ⟨j, l, a, b, h1, h2, h3, h4⟩
    · refine Or.inl ⟨h, ?_⟩
      rw [hs i (by omega) (by omega), hs (i + 1) (by omega) (by omega)]
      exact h1
    · refine Or.inr (Or.inl ⟨h, ?_⟩)
      rw [hs i (by omega) (by omega), hs (i + 1) (by omega) (by omega)]
      exact h1
    · have g1 := dEv_lt h1
      have g2 := dEv_lt h2
      refine Or.inr (Or.inr ⟨j, l, a, b, ih (fun x q1 q2 => hs x q1 (by omega)) h1, ih (fun x q1 q2 => hs x (by omega) (by omega)) h2, h3, ?_⟩)
      rw [hs l (by omega) (by omega)]
      exact h4
/-- the plan's cost -/
def dCo (d : Nat → Nat) (v : (Nat → Int64) → Int64) : Prop := (d 3 = 0 ∧ v = fun x => x 0) ∨ (d 3 = 1 ∧ d 4 ≤ 1500 ∧ ∃ n, dEv d n 0 (d 4) v)
/-- what a job's cost is told of -/
def dX (d S : Nat → Nat) (j : Nat) : Nat → Int64 := fun k => lN (if k = 0 then S (dEn d j) + dDu d (dEn d j) else if k = 1 then d (59 + 4 * j + 1) else if k = 2 then d (59 + 4 * j + 2) else d (59 + 4 * j))
def dJc (d S : Nat → Nat) (v : (Nat → Int64) → Int64) (j : Nat) : Int32 := (v (dX d S j)).toInt32
def dPc (d S : Nat → Nat) (v : (Nat → Int64) → Int64) : Nat → Int32
  | 0 => nI 0
  | j + 1 => dPc d S v j + dJc d S v j
/-- an operation leaves its machine -/
def dLv (d S : Nat → Nat) (o : Nat) : Nat := if dBl d o then S (o + 1) else S o + dDu d o
theorem dEn_lt {d : Nat → Nat} (hV : dV d) {j : Nat} (hj : j < d 2) : dEn d j < 36 ∧ dEx d (dEn d j) = true := by
  obtain ⟨h1, h2, h3⟩ := hV.2.2.2.1 j hj
  have := hV.2.2.1
  unfold dEn
  have e1 : (6 * j + d (59 + 4 * j + 3) - 1) / 6 = j := by omega
  have e2 : (6 * j + d (59 + 4 * j + 3) - 1) % 6 = d (59 + 4 * j + 3) - 1 := by omega
  refine ⟨by omega, (dEx_iff d _).mpr ?_⟩
  rw [e1, e2]
  exact ⟨hj, by omega⟩
theorem dMs_lt {d S : Nat → Nat} (hV : dV d) (hB : ∀ i, i < 36 → S i < 600000) : ∀ j, j ≤ d 2 → dMs d S j < 1000100 := by
  intro j
  induction j with
  | zero => intro _; simp only [dMs]; omega
  | succ j ih =>
    intro hj
    have h1 := ih (by omega)
    obtain ⟨h2, h3⟩ := dEn_lt hV (j := j) (by omega)
    have h4 := hB _ h2
    have h5 := (hV.2.2.2.2.1 _ h2 h3).2.2.1
    simp only [dMs]
    omega
section MVALUE
variable {G : Nat → Nat} {M : Nat} {s : zS} {d : Nat → Nat}
theorem M_makespanOf_l (hV : dV d) {μ : zMu} (hd : mD μ 2 d) {S : Nat → Nat} (hS : mS μ S) (hB : ∀ i, i < 36 → S i < 600000) : ∀ (c j n : Nat), j + c = d 2 → c < n → f_X8_makespanOf_l4 G n M (nI (dMs d S j)) (nI j) (mw M μ s) = some (nI (dMs d S (d 2)), mw M μ s) := by
  have hb := hV.1
  have hd' : ∀ i, i < 1655 → gA μ 2 i = nI (d i) := hd
  have h26 := hV.2.2.1
  intro c
  induction c with
  | zero =>
    intro j n hc hn
    obtain ⟨n, rfl⟩ : ∃ q, n = q + 1 := ⟨n - 1, by omega⟩
    have e : j = d 2 := by omega
    subst e
    show f_X8_makespanOf_b4 G (f_X8_makespanOf_l4 G n) M _ _ (mw M μ s) = _
    unfold f_X8_makespanOf_b4
    simp (disch := omega) only [zo_s, zb_s, zx_l, zx_r, zrn_1, zrn_0, zrn_b, zrnX_1, zrnX_0, zrnX_b, n_lit, n_add, n_mul, n_sub, n_lt, n_le, n_eq, n_cl, n_div, n_md6, bI_0, bI_1, bI_t, bI_f, n_e10, n_e01, m_rc, m_I0, m_I2, m_I3, m_I4, m_I5, m_I6, m_I7, m_I12, m_I13, m_I14, m_I15, m_I21, m_I22, m_I24, m_R1, m_R8, m_R9, m_R10, m_R11, m_R16, m_R17, m_R18, m_R19, m_R20, m_R23, m_aD, m_aO, m_aB, m_aZ, m_aL, m_aR, hd', Nat.le_refl, if_true]
  | succ c ih =>
    intro j n hc hn
    obtain ⟨n, rfl⟩ : ∃ q, n = q + 1 := ⟨n - 1, by omega⟩
    have hj : ¬ (d 2 ≤ j) := by omega
    obtain ⟨h1, h2, h3⟩ := hV.2.2.2.1 j (by omega)
    have hm := dMs_lt hV hB j (by omega)
    obtain ⟨h4, h5⟩ := dEn_lt hV (j := j) (by omega)
    have h6 := hB _ h4
    have h7 := (hV.2.2.2.2.1 _ h4 h5).2.2.1
    show f_X8_makespanOf_b4 G (f_X8_makespanOf_l4 G n) M _ _ (mw M μ s) = _
    unfold f_X8_makespanOf_b4
    simp (disch := omega) only [zo_s, zb_s, zx_l, zx_r, zrn_1, zrn_0, zrn_b, zrnX_1, zrnX_0, zrnX_b, n_lit, n_add, n_mul, n_sub, n_lt, n_le, n_eq, n_cl, n_div, n_md6, bI_0, bI_1, bI_t, bI_f, n_e10, n_e01, m_rc, m_I0, m_I2, m_I3, m_I4, m_I5, m_I6, m_I7, m_I12, m_I13, m_I14, m_I15, m_I21, m_I22, m_I24, m_R1, m_R8, m_R9, m_R10, m_R11, m_R16, m_R17, m_R18, m_R19, m_R20, m_R23, m_aD, m_aO, m_aB, m_aZ, m_aL, m_aR, hd', hj, if_false, M_completionOf hd hS (show j < 6 from by omega) h1 h2, n_max]
    exact ih (j + 1) n (by omega) (by omega)
theorem M_makespanOf (hV : dV d) {μ : zMu} (hd : mD μ 2 d) {S : Nat → Nat} (hS : mS μ S) (hB : ∀ i, i < 36 → S i < 600000) : f_X8_makespanOf G M (mw M μ s) = some (nI (dMs d S (d 2)), mw M μ s) := M_makespanOf_l hV hd hS hB (d 2) 0 2000 (by omega) (by have := hV.2.2.1; omega)
theorem M_leaveOf (hV : dV d) {μ : zMu} (hd : mD μ 2 d) {S : Nat → Nat} (hS : mS μ S) {o : Nat} (ho : o < 36) (hex : dEx d o = true) : f_X8_leaveOf G M (nI o) (mw M μ s) = some (nI (dLv d S o), mw M μ s) := by
  have hm := (hV.2.2.2.2.1 o ho hex).1
  have h06 := hV.2.1
  have hS' : ∀ i, i < 36 → gA μ 16 i = nI (S i) := hS
  unfold f_X8_leaveOf dLv
  simp (disch := omega) only [zo_s, zb_s, zx_l, zx_r, zrn_1, zrn_0, zrn_b, zrnX_1, zrnX_0, zrnX_b, n_lit, n_add, n_mul, n_sub, n_lt, n_le, n_eq, n_cl, n_div, n_md6, bI_0, bI_1, bI_t, bI_f, n_e10, n_e01, m_rc, m_I0, m_I2, m_I3, m_I4, m_I5, m_I6, m_I7, m_I12, m_I13, m_I14, m_I15, m_I21, m_I22, m_I24, m_R1, m_R8, m_R9, m_R10, m_R11, m_R16, m_R17, m_R18, m_R19, m_R20, m_R23, m_aD, m_aO, m_aB, m_aZ, m_aL, m_aR, M_isBlocking hd hV.1 ho (show dMo d o < 6 from by omega)]
  cases hbl : dBl d o with
  | false => simp (disch := omega) only [zo_s, zb_s, zx_l, zx_r, zrn_1, zrn_0, zrn_b, zrnX_1, zrnX_0, zrnX_b, n_lit, n_add, n_mul, n_sub, n_lt, n_le, n_eq, n_cl, n_div, n_md6, bI_0, bI_1, bI_t, bI_f, n_e10, n_e01, m_rc, m_I0, m_I2, m_I3, m_I4, m_I5, m_I6, m_I7, m_I12, m_I13, m_I14, m_I15, m_I21, m_I22, m_I24, m_R1, m_R8, m_R9, m_R10, m_R11, m_R16, m_R17, m_R18, m_R19, m_R20, m_R23, m_aD, m_aO, m_aB, m_aZ, m_aL, m_aR, if_true, Bool.false_eq_true, if_false, hS', M_durationOf hd ho]
  | true =>
    have := (dEx_next hV ho hex (dBl_nl hbl)).1
    simp (disch := omega) only [zo_s, zb_s, zx_l, zx_r, zrn_1, zrn_0, zrn_b, zrnX_1, zrnX_0, zrnX_b, n_lit, n_add, n_mul, n_sub, n_lt, n_le, n_eq, n_cl, n_div, n_md6, bI_0, bI_1, bI_t, bI_f, n_e10, n_e01, m_rc, m_I0, m_I2, m_I3, m_I4, m_I5, m_I6, m_I7, m_I12, m_I13, m_I14, m_I15, m_I21, m_I22, m_I24, m_R1, m_R8, m_R9, m_R10, m_R11, m_R16, m_R17, m_R18, m_R19, m_R20, m_R23, m_aD, m_aO, m_aB, m_aZ, m_aL, m_aR, if_true, Bool.true_eq_false, if_false, hS']
theorem M_operate {c : Nat} (h2 : 2 ≤ c) (h5 : c ≤ 5) (a b : Int64) (s : zS) : f_X8_operate G (nI c) a b s = some (dOp c a b, s) := by
  have li : ∀ v : Int64, f_X8_operate_b44 G v s = some (dLi v, s) := by
    intro v
    unfold f_X8_operate_b44 f_X8_limited dLi
    have e1 : (lg_cmp v 1000000 ≤ 0) = (v ≤ 1000000) := propext (lg_cmp_le v 1000000)
    have e2 : (0 ≤ lg_cmp v (-1000000)) = (-1000000 ≤ v) := propext (lg_cmp_ge v (-1000000))
    simp only [e1, e2]
    by_cases q1 : v ≤ 1000000
    · by_cases q2 : -1000000 ≤ v
      · simp only [q1, q2, if_true]; rfl
      · simp only [q1, q2, if_true, if_false]; rfl
    · simp only [q1, if_false]; rfl
  unfold f_X8_operate dOp
  have hc : c = 2 ∨ c = 3 ∨ c = 4 ∨ c = 5 := by omega
  rcases hc with rfl | rfl | rfl | rfl
  · rw [if_neg (by decide), if_pos (by decide), li]; rfl
  · rw [if_neg (by decide), if_neg (by decide), if_pos (by decide), li]; rfl
  · rw [if_neg (by decide), if_neg (by decide), if_neg (by decide), li]; rfl
  · rw [if_pos (by decide), if_pos rfl]
    by_cases q : b = 0
    · rw [if_pos ((lg_cmp_eq b 0).mpr q), if_pos q]
    · rw [if_neg (fun z => q ((lg_cmp_eq b 0).mp z)), if_neg q, if_neg q]
theorem lN_i64 {a : Nat} (h : a < 2147483648) : (nI a).toInt64 = lN a := nI_l (by omega)
/-- the code's run: a part of it leaves its value on the stack -/
theorem M_code (hV : dV d) (hG : G 0 ≤ M) {S : Nat → Nat} (hB : ∀ i, i < 36 → S i < 600000) {j : Nat} (hj : j < d 2) (hC : d 4 ≤ 1500) : ∀ (n i k t : Nat) (v : (Nat → Int64) → Int64), dEv d n i k v → k ≤ d 4 → t + (k - i) ≤ 1500 → ∃ q, q ≤ k - i ∧ ∀ (f : Nat) (μ : zMu), mD μ 2 d → ∃ μ', f_X8_costOf_l22 G (f + q) M (nI j) (nI (S (dEn d j) + dDu d (dEn d j))) (nI t) (nI i) (mw M μ s) = f_X8_costOf_l22 G f M (nI j) (nI (S (dEn d j) + dDu d (dEn d j))) (nI (t + 1)) (nI k) (mw M μ' s) ∧ gT μ' t = v (dX d S j) ∧ (∀ x, x < t → gT μ' x = gT μ x) ∧ mFr [] [] μ μ' := by
  have hb := hV.1
  have hj6 : j < 6 := Nat.lt_of_lt_of_le hj hV.2.2.1
  obtain ⟨he1, he2⟩ := dEn_lt hV hj
  have hSe := hB _ he1
  have hdu := (hV.2.2.2.2.1 _ he1 he2).2.2.1
  intro n
  induction n with
  | zero => intro i k t v h; exact h.elim
  | succ n ih =>
    intro i k t v h hk ht
    rcases h with ⟨rfl, h1, h2, rfl⟩ | ⟨rfl, h1, h2, rfl⟩ | ⟨l, m, a, b, h1, h2, rfl, h4, h5, rfl⟩
    · refine ⟨1, by omega, fun f μ hd => ⟨sT μ t (lN (d (155 + (i + 1)))), ?_, ?_, fun x hx => ?_, mFr.sT _ _⟩⟩
      · have hd' : ∀ i, i < 1655 → gA μ 2 i = nI (d i) := hd
        have e1 : ¬ (d 4 ≤ i) := by omega
        have hx := hb (155 + (i + 1))
        show f_X8_costOf_b22 G (f_X8_costOf_l22 G f) M (nI j) _ (nI t) (nI i) (mw M μ s) = _
        unfold f_X8_costOf_b22
        simp (disch := omega) only [zo_s, zb_s, zx_l, zx_r, zrn_1, zrn_0, zrn_b, zrnX_1, zrnX_0, zrnX_b, n_lit, n_add, n_mul, n_sub, n_lt, n_le, n_eq, n_cl, n_div, n_md6, bI_0, bI_1, bI_t, bI_f, n_e10, n_e01, m_rc, m_I0, m_I2, m_I3, m_I4, m_I5, m_I6, m_I7, m_I12, m_I13, m_I14, m_I15, m_I21, m_I22, m_I24, m_R1, m_R8, m_R9, m_R10, m_R11, m_R16, m_R17, m_R18, m_R19, m_R20, m_R23, m_aD, m_aO, m_aB, m_aZ, m_aL, m_aR, hd', n_dl hb, e1, if_false, h1, show ¬ (1 < 0) from by omega, if_true, f_X8_costOf_b146, lN_i64, m_P0, m_P2, m_P3, m_P4, m_P5, m_P6, m_P7, m_P12, m_P13, m_P14, m_P15, m_P21, m_P22, m_P24, m_sD, m_sO, m_sB, m_sL, hG, f_X8_costOf_b183]
      · rw [gT_sT, if_pos rfl]
      · rw [gT_sT, if_neg (by omega)]
    · refine ⟨1, by omega, fun f μ hd => ⟨sT μ t (dX d S j (d (155 + (i + 1)))), ?_, ?_, fun x hx => ?_, mFr.sT _ _⟩⟩
      · have hd' : ∀ i, i < 1655 → gA μ 2 i = nI (d i) := hd
        have e1 : ¬ (d 4 ≤ i) := by omega
        have hx1 := hb (59 + 4 * j + 1)
        have hx2 := hb (59 + 4 * j + 2)
        have hx3 := hb (59 + 4 * j)
        show f_X8_costOf_b22 G (f_X8_costOf_l22 G f) M (nI j) _ (nI t) (nI i) (mw M μ s) = _
        unfold f_X8_costOf_b22 f_X8_job
        have hc : d (155 + (i + 1)) = 0 ∨ d (155 + (i + 1)) = 1 ∨ d (155 + (i + 1)) = 2 ∨ d (155 + (i + 1)) = 3 := by omega
        rcases hc with hc | hc | hc | hc <;>
          simp (disch := omega) only [zo_s, zb_s, zx_l, zx_r, zrn_1, zrn_0, zrn_b, zrnX_1, zrnX_0, zrnX_b, n_lit, n_add, n_mul, n_sub, n_lt, n_le, n_eq, n_cl, n_div, n_md6, bI_0, bI_1, bI_t, bI_f, n_e10, n_e01, m_rc, m_I0, m_I2, m_I3, m_I4, m_I5, m_I6, m_I7, m_I12, m_I13, m_I14, m_I15, m_I21, m_I22, m_I24, m_R1, m_R8, m_R9, m_R10, m_R11, m_R16, m_R17, m_R18, m_R19, m_R20, m_R23, m_aD, m_aO, m_aB, m_aZ, m_aL, m_aR, hd', n_dl hb, e1, if_false, h1, hc, dX, show ¬ (1 < 1) from by omega, show ¬ (1 = 0) from by omega, show ¬ (2 = 0) from by omega, show ¬ (2 = 1) from by omega, show ¬ (3 = 0) from by omega, show ¬ (3 = 1) from by omega, show ¬ (3 = 2) from by omega, if_true, f_X8_costOf_b146, lN_i64, m_P0, m_P2, m_P3, m_P4, m_P5, m_P6, m_P7, m_P12, m_P13, m_P14, m_P15, m_P21, m_P22, m_P24, m_sD, m_sO, m_sB, m_sL, hG, f_X8_costOf_b183] <;> rfl
      · rw [gT_sT, if_pos rfl]
      · rw [gT_sT, if_neg (by omega)]
    · have g1 := dEv_lt h1
      have g2 := dEv_lt h2
      obtain ⟨q1, r1, p1⟩ := ih i l t a h1 (by omega) (by omega)
      obtain ⟨q2, r2, p2⟩ := ih l m (t + 1) b h2 (by omega) (by omega)
      refine ⟨q1 + q2 + 1, by omega, fun f μ hd => ?_⟩
      obtain ⟨μ1, k1, k2, k3, k4⟩ := p1 (f + 1 + q2) μ hd
      obtain ⟨μ2, w1, w2, w3, w4⟩ := p2 (f + 1) μ1 (k4.D (by decide) hd)
      have hd2 : mD μ2 2 d := (k4.trans w4).D (by decide) hd
      refine ⟨sT μ2 t (dOp (d (155 + m)) (a (dX d S j)) (b (dX d S j))), ?_, ?_, fun x hx => ?_, (k4.trans w4).trans (mFr.sT _ _)⟩
      · rw [show f + (q1 + q2 + 1) = f + 1 + q2 + q1 from by omega, k1, w1]
        have hd' : ∀ i, i < 1655 → gA μ2 2 i = nI (d i) := hd2
        have e1 : ¬ (d 4 ≤ m) := by omega
        have hx := hb (155 + m)
        have ea : gT μ2 t = a (dX d S j) := (w3 t (by omega)).trans k2
        have a4 : zaI (mw M μ2 s) (some (M + 2)) 0 4 = some (nI (d 4)) := (m_aD M μ2 s (j := 2) (i := 4) (by omega) (by omega) (by omega) (by omega)).trans (by rw [hd2 4 (by omega)])
        have am : zaI (mw M μ2 s) (some (M + 2)) 0 (155 + nI m) = some (nI (d (155 + m))) := by
          rw [show (155 : Int32) + nI m = nI (155 + m) from n_add 155 m, m_aD M μ2 s (by omega) (by omega) (by omega) (by omega), hd2 _ (by omega)]
        have i1 : nI (t + 1 + 1) + -1 = nI (t + 1) := n_m1 (a := t + 1 + 1) (by omega)
        have i2 : nI (t + 1) - 1 = nI t := n_sub (a := t + 1) (b := 1) (by omega)
        have i3 : nI m + 1 = nI (m + 1) := n_add m 1
        show f_X8_costOf_b22 G (f_X8_costOf_l22 G f) M (nI j) _ (nI (t + 1 + 1)) (nI m) (mw M μ2 s) = _
        unfold f_X8_costOf_b22
        rw [m_R8, zo_s, a4, zo_s, if_neg (fun z => e1 ((n_le (Nat.lt_of_le_of_lt hC (by omega)) (by omega)).mp z)), zo_s, am, zo_s, if_pos (show (1 : Int32) < nI (d (155 + m)) from (n_lt (a := 1) (by omega) (by omega)).mpr (by omega))]
        simp (disch := omega) only [zo_s, zb_s, m_R20, i1, i2, i3, m_aL, ea, w2, M_operate h4 h5, m_sL, hG, f_X8_costOf_b183]
      · rw [gT_sT, if_pos rfl]
      · rw [gT_sT, if_neg (by omega), w3 x (by omega), k3 x (by omega)]
theorem M_costOf (hV : dV d) (hG : G 0 ≤ M) {μ : zMu} (hd : mD μ 2 d) {S : Nat → Nat} (hS : mS μ S) (hB : ∀ i, i < 36 → S i < 600000) {v : (Nat → Int64) → Int64} (hv : dCo d v) {j : Nat} (hj : j < d 2) : ∃ μ', f_X8_costOf G M (nI j) (mw M μ s) = some (dJc d S v j, mw M μ' s) ∧ mFr [] [] μ μ' := by
  have hb := hV.1
  have hd' : ∀ i, i < 1655 → gA μ 2 i = nI (d i) := hd
  have hj6 : j < 6 := Nat.lt_of_lt_of_le hj hV.2.2.1
  obtain ⟨h1, h2, h3⟩ := hV.2.2.2.1 j hj
  have hx := hb 3
  unfold f_X8_costOf
  simp (disch := omega) only [zo_s, zb_s, zx_l, zx_r, zrn_1, zrn_0, zrn_b, zrnX_1, zrnX_0, zrnX_b, n_lit, n_add, n_mul, n_sub, n_lt, n_le, n_eq, n_cl, n_div, n_md6, bI_0, bI_1, bI_t, bI_f, n_e10, n_e01, m_rc, m_I0, m_I2, m_I3, m_I4, m_I5, m_I6, m_I7, m_I12, m_I13, m_I14, m_I15, m_I21, m_I22, m_I24, m_R1, m_R8, m_R9, m_R10, m_R11, m_R16, m_R17, m_R18, m_R19, m_R20, m_R23, m_aD, m_aO, m_aB, m_aZ, m_aL, m_aR, hd', M_completionOf hd hS hj6 h1 h2]
  rcases hv with ⟨q, rfl⟩ | ⟨q, hC, n, hn⟩
  · refine ⟨μ, ?_, mFr.refl _ _ _⟩
    rw [if_pos q]
    unfold dJc dX
    show _ = some ((lN (if 0 = 0 then S (dEn d j) + dDu d (dEn d j) else _)).toInt32, _)
    rw [if_pos rfl, lN_i]
  · rw [if_neg (by omega)]
    obtain ⟨q1, q2, q3⟩ := M_code (s := s) hV hG hB hj hC n 0 (d 4) 0 v hn (Nat.le_refl _) (by omega)
    obtain ⟨μ', k1, k2, k3, k4⟩ := q3 (2000 - q1) μ hd
    refine ⟨μ', ?_, k4⟩
    rw [show 2000 - q1 + q1 = 2000 from by omega] at k1
    rw [k1]
    obtain ⟨w, hw⟩ : ∃ w, 2000 - q1 = w + 1 := ⟨2000 - q1 - 1, by omega⟩
    rw [hw]
    have hd2 : ∀ i, i < 1655 → gA μ' 2 i = nI (d i) := k4.D (by decide) hd
    show f_X8_costOf_b22 G (f_X8_costOf_l22 G w) M (nI j) _ (nI (0 + 1)) (nI (d 4)) (mw M μ' s) = _
    unfold f_X8_costOf_b22
    simp (disch := omega) only [zo_s, zb_s, zx_l, zx_r, zrn_1, zrn_0, zrn_b, zrnX_1, zrnX_0, zrnX_b, n_lit, n_add, n_mul, n_sub, n_lt, n_le, n_eq, n_cl, n_div, n_md6, bI_0, bI_1, bI_t, bI_f, n_e10, n_e01, m_rc, m_I0, m_I2, m_I3, m_I4, m_I5, m_I6, m_I7, m_I12, m_I13, m_I14, m_I15, m_I21, m_I22, m_I24, m_R1, m_R8, m_R9, m_R10, m_R11, m_R16, m_R17, m_R18, m_R19, m_R20, m_R23, m_aD, m_aO, m_aB, m_aZ, m_aL, m_aR, hd2, Nat.le_refl, if_true, k2]
    rfl
theorem M_costOfPlan_l (hV : dV d) (hG : G 0 ≤ M) {S : Nat → Nat} (hB : ∀ i, i < 36 → S i < 600000) {v : (Nat → Int64) → Int64} (hv : dCo d v) : ∀ (c j n : Nat) (μ : zMu), j + c = d 2 → c < n → mD μ 2 d → mS μ S → ∃ μ', f_X8_costOfPlan_l4 G n M (dPc d S v j) (nI j) (mw M μ s) = some (dPc d S v (d 2), mw M μ' s) ∧ mFr [] [] μ μ' := by
  have hb := hV.1
  have h26 := hV.2.2.1
  intro c
  induction c with
  | zero =>
    intro j n μ hc hn hd hS
    obtain ⟨n, rfl⟩ : ∃ q, n = q + 1 := ⟨n - 1, by omega⟩
    have e : j = d 2 := by omega
    subst e
    have hd' : ∀ i, i < 1655 → gA μ 2 i = nI (d i) := hd
    refine ⟨μ, ?_, mFr.refl _ _ _⟩
    show f_X8_costOfPlan_b4 G (f_X8_costOfPlan_l4 G n) M _ _ (mw M μ s) = _
    unfold f_X8_costOfPlan_b4
    simp (disch := omega) only [zo_s, zb_s, zx_l, zx_r, zrn_1, zrn_0, zrn_b, zrnX_1, zrnX_0, zrnX_b, n_lit, n_add, n_mul, n_sub, n_lt, n_le, n_eq, n_cl, n_div, n_md6, bI_0, bI_1, bI_t, bI_f, n_e10, n_e01, m_rc, m_I0, m_I2, m_I3, m_I4, m_I5, m_I6, m_I7, m_I12, m_I13, m_I14, m_I15, m_I21, m_I22, m_I24, m_R1, m_R8, m_R9, m_R10, m_R11, m_R16, m_R17, m_R18, m_R19, m_R20, m_R23, m_aD, m_aO, m_aB, m_aZ, m_aL, m_aR, hd', Nat.le_refl, if_true]
  | succ c ih =>
    intro j n μ hc hn hd hS
    obtain ⟨n, rfl⟩ : ∃ q, n = q + 1 := ⟨n - 1, by omega⟩
    have hj : ¬ (d 2 ≤ j) := by omega
    have hd' : ∀ i, i < 1655 → gA μ 2 i = nI (d i) := hd
    obtain ⟨μ1, h1, h2⟩ := M_costOf (s := s) hV hG hd hS hB hv (j := j) (by omega)
    obtain ⟨μ2, g1, g2⟩ := ih (j + 1) n μ1 (by omega) (by omega) (h2.D (by decide) hd) (fun i hi => by rw [h2.2 16 (by decide)]; exact hS i hi)
    refine ⟨μ2, ?_, h2.trans g2⟩
    rw [← g1]
    show f_X8_costOfPlan_b4 G (f_X8_costOfPlan_l4 G n) M _ _ (mw M μ s) = _
    unfold f_X8_costOfPlan_b4
    simp (disch := omega) only [zo_s, zb_s, zx_l, zx_r, zrn_1, zrn_0, zrn_b, zrnX_1, zrnX_0, zrnX_b, n_lit, n_add, n_mul, n_sub, n_lt, n_le, n_eq, n_cl, n_div, n_md6, bI_0, bI_1, bI_t, bI_f, n_e10, n_e01, m_rc, m_I0, m_I2, m_I3, m_I4, m_I5, m_I6, m_I7, m_I12, m_I13, m_I14, m_I15, m_I21, m_I22, m_I24, m_R1, m_R8, m_R9, m_R10, m_R11, m_R16, m_R17, m_R18, m_R19, m_R20, m_R23, m_aD, m_aO, m_aB, m_aZ, m_aL, m_aR, hd', hj, if_false, h1]
    rfl
theorem M_costOfPlan (hV : dV d) (hG : G 0 ≤ M) {μ : zMu} (hd : mD μ 2 d) {S : Nat → Nat} (hS : mS μ S) (hB : ∀ i, i < 36 → S i < 600000) {v : (Nat → Int64) → Int64} (hv : dCo d v) : ∃ μ', f_X8_costOfPlan G M (mw M μ s) = some (dPc d S v (d 2), mw M μ' s) ∧ mFr [] [] μ μ' := M_costOfPlan_l hV hG hB hv (d 2) 0 2000 μ (by omega) (by have := hV.2.2.1; omega) hd hS
end MVALUE
