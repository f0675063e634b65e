/-! THE PLAIN LAW, part 26: the system looks for a cycle -/
set_option maxRecDepth 100000
/-- arcs to w that aren't gone along yet -/
def oA (sN tN qu : Nat → Nat) (q k w : Nat) (i : Nat) : Bool := decide (tN i = w) && (!inQ qu q (sN i) && !(decide (i < k) && decide (sN i = qu q)))
/-- the queue on its way -/
def qIn (d : Nat → Nat) (n : Nat) (sN tN qu : Nat → Nat) (q k m : Nat) : Prop := (∀ i, i < m → qu i < 36 ∧ dEx d (qu i) = true) ∧ (∀ i j, i < m → j < m → qu i = qu j → i = j) ∧ (∀ w, w < 36 → dEx d w = true → (inQ qu m w = true ↔ p_cn (oA sN tN qu q k w) n = 0)) ∧ ∀ C, dCl d C → ∀ i, i < m → C (qu i)
def kQ (χ : zCh) (n : Nat) (sN tN qu : Nat → Nat) (q k m : Nat) : Prop := (∀ w, w < 36 → kA χ 9 w = nI (p_cn (oA sN tN qu q k w) n)) ∧ ∀ i, i < m → kA χ 10 i = nI (qu i)
theorem qIn.le {d : Nat → Nat} {n : Nat} {sN tN qu : Nat → Nat} {q k m : Nat} (h : qIn d n sN tN qu q k m) : m ≤ 36 := by
  rw [← inQ_cn (fun i hi => (h.1 i hi).1) h.2.1]
  exact p_cn_le_n _ _
theorem oA_le (sN tN qu : Nat → Nat) (q k w n : Nat) (hn : n ≤ 72) : p_cn (oA sN tN qu q k w) n ≤ 72 := Nat.le_trans (p_cn_le_n _ _) hn
section CCYCLE
variable {G : Nat → Nat} {X : Nat} {V : zV1} {s : zS} {d : Nat → Nat} {v : (Nat → Int64) → Int64} {L : Nat} {n : Nat} {sN tN lN : Nat → Nat}
/-- an arc of the operation at hand -/
theorem C_cy_l110 (hG : G 0 ≤ X) (hV : dV d) (hn : n ≤ 72) (hO : gOk d n sN tN lN (dAr d)) (k103 : Nat → Int32 → Int32 → zS → Option (Int32 × zS)) {q : Nat} : ∀ (c k f : Nat) (χ : zCh) (qu : Nat → Nat) (m : Nat), k + c = n → c < f → q < m → gAr χ n sN tN lN → qIn d n sN tN qu q k m → kQ χ n sN tN qu q k m → ∃ χ' qu' m', f_X2_hasCycle_l110 G k103 f (X + 4) (nI m) (nI q) (nI k) (cw X χ s) = k103 (X + 4) (nI m') (nI (q + 1)) (cw X χ' s) ∧ q + 1 ≤ m' ∧ qIn d n sN tN qu' (q + 1) 0 m' ∧ kQ χ' n sN tN qu' (q + 1) 0 m' ∧ kFr [] [9, 10] [] χ χ' := by
  intro c
  induction c with
  | zero =>
    intro k f χ qu m hc hf hq hg hI hK
    obtain ⟨f, rfl⟩ : ∃ z, f = z + 1 := ⟨f - 1, by omega⟩
    have e : k = n := by omega
    subst e
    have hm := hI.le
    have eo : ∀ w, p_cn (oA sN tN qu q k w) k = p_cn (oA sN tN qu (q + 1) 0 w) k := fun w => p_cn_eq fun i hi => by
      unfold oA
      simp only [inQ]
      rw [decide_eq_true hi, Bool.true_and, decide_eq_false (Nat.not_lt_zero i), Bool.false_and, Bool.not_or, Bool.not_false, Bool.and_true]
      have : decide (qu q = sN i) = decide (sN i = qu q) := decide_eq_decide.mpr ⟨fun z => z.symm, fun z => z.symm⟩
      rw [this]
    refine ⟨χ, qu, m, ?_, by omega, ⟨hI.1, hI.2.1, fun w hw he => by rw [← eo]; exact hI.2.2.1 w hw he, hI.2.2.2⟩, ⟨fun w hw => by rw [← eo]; exact hK.1 w hw, hK.2⟩, kFr.refl _ _ _ _⟩
    show f_X2_hasCycle_b110 G k103 (f_X2_hasCycle_l110 G k103 f) _ _ _ _ (cw X χ s) = _
    unfold f_X2_hasCycle_b110
    simp (disch := omega) only [zo_s, zb_s, zx_l, zx_r, zrn_1, zrn_0, zrn_b, zrnX_1, zrnX_0, zrnX_b, n_lit, n_add, n_mul, n_sub, n_lt, n_le, n_eq, n_cl, n_div, n_md6, bI_0, bI_1, bI_t, bI_f, n_e10, n_e01, c_G7, hg.1, Nat.le_refl, if_true]
  | succ c ih =>
    intro k f χ qu m hc hf hq hg hI hK
    obtain ⟨f, rfl⟩ : ∃ z, f = z + 1 := ⟨f - 1, by omega⟩
    have hk : k < n := by omega
    have hm := hI.le
    obtain ⟨g1, g2, g3⟩ := hg.2 k hk
    obtain ⟨a1, a2, a3, a4⟩ := dAr_ex hV (hO.1 k hk)
    have hx : ¬ (n ≤ k) := by omega
    have hq10 := hK.2 q hq
    have hq36 := (hI.1 q hq).1
    have hg' : ∀ (χ' : zCh), kFr [] [9, 10] [] χ χ' → gAr χ' n sN tN lN := fun χ' h => ⟨by rw [h.1 17 (by decide)]; exact hg.1, fun i hi => by
      rw [h.2.1 5 (by decide), h.2.1 6 (by decide), h.2.1 7 (by decide)]
      exact hg.2 i hi⟩
    show ∃ χ' qu' m', f_X2_hasCycle_b110 G k103 (f_X2_hasCycle_l110 G k103 f) _ _ _ _ (cw X χ s) = _ ∧ _
    unfold f_X2_hasCycle_b110 f_X2_hasCycle_b183
    simp (disch := omega) only [zo_s, zb_s, zx_l, zx_r, zrn_1, zrn_0, zrn_b, zrnX_1, zrnX_0, zrnX_b, n_lit, n_add, n_mul, n_sub, n_lt, n_le, n_eq, n_cl, n_div, n_md6, bI_0, bI_1, bI_t, bI_f, n_e10, n_e01, c_rcX, c_rcD, c_rcG, c_X0, c_X1, c_X2, c_X3, c_X4, c_X5, c_D0, c_D1, c_D2, c_G0, c_G1, c_G2, c_G3, c_G4, c_G5, c_G6, c_G7, c_G8, c_aA, c_aO, c_aB, c_aD, c_lD, hg.1, hx, if_false, g1, hq10]
    by_cases z : sN k = qu q
    · rw [if_pos z]
      have h9 := hK.1 (tN k) a3
      have hcn := oA_le sN tN qu q k (tN k) n hn
      -- the arc was open
      have hop : oA sN tN qu q k (tN k) k = true := by
        unfold oA
        have : inQ qu q (sN k) = false := by
          rw [Bool.eq_false_iff]
          intro y
          obtain ⟨i, i1, i2⟩ := (inQ_iff _ _ _).mp y
          have := hI.2.1 i q (by omega) hq (by rw [i2, z])
          omega
        rw [this, decide_eq_false (Nat.lt_irrefl k), decide_eq_true rfl]
        rfl
      have hcl : oA sN tN qu q (k + 1) (tN k) k = false := by
        unfold oA
        rw [decide_eq_true (Nat.lt_succ_self k), decide_eq_true z]
        simp
      have hsame : ∀ w i, i ≠ k → oA sN tN qu q (k + 1) w i = oA sN tN qu q k w i := fun w i hi => by
        unfold oA
        have : decide (i < k + 1) = decide (i < k) := decide_eq_decide.mpr ⟨fun y => by omega, fun y => by omega⟩
        rw [this]
      have hdec : p_cn (oA sN tN qu q k (tN k)) n = p_cn (oA sN tN qu q (k + 1) (tN k)) n + 1 := p_cn_one hk (fun i _ hi => hsame (tN k) i hi) hcl hop
      have hoth : ∀ w, w ≠ tN k → p_cn (oA sN tN qu q k w) n = p_cn (oA sN tN qu q (k + 1) w) n := fun w hw => p_cn_eq fun i _ => by
        by_cases e : i = k
        · subst e
          unfold oA
          rw [decide_eq_false (fun y => hw y.symm)]
          rfl
        · exact (hsame w i e).symm
      have e1 : p_cn (oA sN tN qu q k (tN k)) n - 1 = p_cn (oA sN tN qu q (k + 1) (tN k)) n := by omega
      have hK9 : kA (uA χ 9 (tN k) (nI (p_cn (oA sN tN qu q (k + 1) (tN k)) n))) 9 (tN k) = nI (p_cn (oA sN tN qu q (k + 1) (tN k)) n) := by rw [kA_uA, if_pos ⟨rfl, rfl⟩]
      have hF1 : kFr [] [9, 10] [] χ (uA χ 9 (tN k) (nI (p_cn (oA sN tN qu q (k + 1) (tN k)) n))) := kFr.uA _ _ _ (by decide)
      have hg1 := hg' _ hF1
      have g2' : kA (uA χ 9 (tN k) (nI (p_cn (oA sN tN qu q (k + 1) (tN k)) n))) 6 k = nI (tN k) := (hg1.2 k hk).2.1
      have hcn2 := oA_le sN tN qu q (k + 1) (tN k) n hn
      have hinc : ∀ w, w < 36 → kA (uA χ 9 (tN k) (nI (p_cn (oA sN tN qu q (k + 1) (tN k)) n))) 9 w = nI (p_cn (oA sN tN qu q (k + 1) w) n) := fun w hw => by
        rw [kA_uA]
        by_cases e : w = tN k
        · rw [if_pos ⟨rfl, e⟩, e]
        · rw [if_neg (fun y => e y.2), hK.1 w hw, hoth w e]
      have hnQ : inQ qu m (tN k) = false := by
        rw [Bool.eq_false_iff]
        intro y
        have := (hI.2.2.1 (tN k) a3 a4).mp y
        omega
      simp (disch := omega) only [zo_s, zb_s, zx_l, zx_r, zrn_1, zrn_0, zrn_b, zrnX_1, zrnX_0, zrnX_b, n_lit, n_add, n_mul, n_sub, n_lt, n_le, n_eq, n_cl, n_div, n_md6, bI_0, bI_1, bI_t, bI_f, n_e10, n_e01, c_rcX, c_rcD, c_rcG, c_X0, c_X1, c_X2, c_X3, c_X4, c_X5, c_D0, c_D1, c_D2, c_G0, c_G1, c_G2, c_G3, c_G4, c_G5, c_G6, c_G7, c_G8, c_aA, c_aO, c_aB, c_aD, c_lD, c_pR3, c_pR6, c_P4, c_P5, c_Q1, c_Q2, c_S7, c_S8, c_sA, c_sO, c_sB, g2, h9, e1, hG, g2', hK9]
      by_cases y : p_cn (oA sN tN qu q (k + 1) (tN k)) n ≤ 0
      · rw [if_pos y]
        -- it is free now
        have hm36 : m < 36 := by
          have h1 := inQ_cn (fun i hi => (hI.1 i hi).1) hI.2.1
          have h2 := p_cn_lt (p := inQ qu m) (q := fun _ => true) (n := 36) (fun _ _ _ => rfl) a3 hnQ rfl
          have h3 : p_cn (fun _ => true) 36 = 36 := by decide
          omega
        have hqu : ∀ i, i < m → va_up qu m (tN k) i = qu i := fun i hi => by rw [u_at, if_neg (by omega)]
        have hO1 : ∀ w, p_cn (oA sN tN (va_up qu m (tN k)) q (k + 1) w) n = p_cn (oA sN tN qu q (k + 1) w) n := fun w => p_cn_eq fun i _ => by
          unfold oA
          rw [inQ_same (fun j hj => hqu j (by omega)), hqu q hq]
        obtain ⟨χ2, qu2, m2, y1, y2, y3, y4, y5⟩ := ih (k + 1) f (uA (uA χ 9 (tN k) (nI (p_cn (oA sN tN qu q (k + 1) (tN k)) n))) 10 m (nI (tN k))) (va_up qu m (tN k)) (m + 1) (by omega) (by omega) (by omega) (hg' _ (hF1.trans (kFr.uA _ _ _ (by decide)))) (by
          refine ⟨fun i hi => ?_, fun i j hi hj he => ?_, fun w hw he => ?_, fun C hC i hi => ?_⟩
          · by_cases e : i = m
            · rw [u_at, if_pos e]; exact ⟨a3, a4⟩
            · rw [hqu i (by omega)]; exact hI.1 i (by omega)
          · by_cases e : i = m
            · by_cases e2 : j = m
              · omega
              · rw [u_at, if_pos e, hqu j (by omega)] at he
                exfalso
                have : inQ qu m (tN k) = true := (inQ_iff _ _ _).mpr ⟨j, by omega, he.symm⟩
                rw [hnQ] at this
                cases this
            · by_cases e2 : j = m
              · rw [u_at (j := j), if_pos e2, hqu i (by omega)] at he
                exfalso
                have : inQ qu m (tN k) = true := (inQ_iff _ _ _).mpr ⟨i, by omega, he⟩
                rw [hnQ] at this
                cases this
              · rw [hqu i (by omega), hqu j (by omega)] at he
                exact hI.2.1 i j (by omega) (by omega) he
          · rw [hO1]
            simp only [inQ]
            rw [inQ_same hqu, u_at, if_pos rfl, Bool.or_eq_true, decide_eq_true_eq]
            by_cases e : w = tN k
            · subst e
              exact ⟨fun _ => by omega, fun _ => Or.inr rfl⟩
            · rw [hI.2.2.1 w hw he, hoth w e]
              exact ⟨fun x => x.elim id (fun x => absurd x.symm e), Or.inl⟩
          · by_cases e : i = m
            · rw [u_at, if_pos e]
              refine hC (tN k) a3 a4 fun u hu => ?_
              obtain ⟨l, hl⟩ := hu
              obtain ⟨i', i1, i2, i3, i4⟩ := hO.2 u (tN k) l hl
              have h0 : oA sN tN qu q (k + 1) (tN k) i' = false := by
                rw [Bool.eq_false_iff]
                intro x
                have := p_cn_lt (p := fun _ => false) (q := oA sN tN qu q (k + 1) (tN k)) (n := n) (fun _ _ z => by cases z) i1 rfl x
                omega
              unfold oA at h0
              rw [decide_eq_true i3, Bool.true_and] at h0
              cases hin : inQ qu q (sN i') with
              | true =>
                obtain ⟨j, j1, j2⟩ := (inQ_iff _ _ _).mp hin
                rw [← i2, ← j2]
                exact hI.2.2.2 C hC j (by omega)
              | false =>
                rw [hin] at h0
                simp only [Bool.not_false, Bool.true_and, Bool.not_eq_false', Bool.and_eq_true, decide_eq_true_eq] at h0
                rw [← i2, h0.2]
                exact hI.2.2.2 C hC q hq
            · rw [hqu i (by omega)]
              exact hI.2.2.2 C hC i (by omega)) (by
          refine ⟨fun w hw => ?_, fun i hi => ?_⟩
          · rw [hO1, kA_ne _ _ _ (by decide)]
            exact hinc w hw
          · rw [kA_uA, u_at]
            by_cases e : i = m
            · rw [if_pos ⟨rfl, e⟩, if_pos e]
            · rw [if_neg (fun x => e x.2), if_neg e, kA_ne _ _ _ (by decide)]
              exact hK.2 i (by omega))
        refine ⟨χ2, qu2, m2, ?_, y2, y3, y4, (hF1.trans (kFr.uA _ _ _ (by decide))).trans y5⟩
        simp (disch := omega) only [zo_s, zb_s, zx_l, zx_r, zrn_1, zrn_0, zrn_b, zrnX_1, zrnX_0, zrnX_b, n_lit, n_add, n_mul, n_sub, n_lt, n_le, n_eq, n_cl, n_div, n_md6, bI_0, bI_1, bI_t, bI_f, n_e10, n_e01, c_rcX, c_rcD, c_rcG, c_X0, c_X1, c_X2, c_X3, c_X4, c_X5, c_D0, c_D1, c_D2, c_G0, c_G1, c_G2, c_G3, c_G4, c_G5, c_G6, c_G7, c_G8, c_aA, c_aO, c_aB, c_aD, c_lD, c_pR3, c_pR6, c_P4, c_P5, c_Q1, c_Q2, c_S7, c_S8, c_sA, c_sO, c_sB, g2', hG]
        exact y1
      · rw [if_neg y]
        obtain ⟨χ2, qu2, m2, y1, y2, y3, y4, y5⟩ := ih (k + 1) f (uA χ 9 (tN k) (nI (p_cn (oA sN tN qu q (k + 1) (tN k)) n))) qu m (by omega) (by omega) hq hg1 ⟨hI.1, hI.2.1, fun w hw he => by
          by_cases e : w = tN k
          · subst e
            rw [hnQ]
            exact ⟨fun x => (by cases x), fun x => by omega⟩
          · rw [← hoth w e]
            exact hI.2.2.1 w hw he, hI.2.2.2⟩ ⟨hinc, fun i hi => by rw [kA_ne _ _ _ (by decide)]; exact hK.2 i hi⟩
        exact ⟨χ2, qu2, m2, y1, y2, y3, y4, hF1.trans y5⟩
    · rw [if_neg z]
      have hO1 : ∀ w, p_cn (oA sN tN qu q (k + 1) w) n = p_cn (oA sN tN qu q k w) n := fun w => p_cn_eq fun i _ => by
        unfold oA
        by_cases e : i = k
        · subst e
          rw [decide_eq_false z, Bool.and_false, Bool.and_false]
        · have : decide (i < k + 1) = decide (i < k) := decide_eq_decide.mpr ⟨fun y => by omega, fun y => by omega⟩
          rw [this]
      exact ih (k + 1) f χ qu m (by omega) (by omega) hq hg ⟨hI.1, hI.2.1, fun w hw he => by rw [hO1]; exact hI.2.2.1 w hw he, hI.2.2.2⟩ ⟨fun w hw => by rw [hO1]; exact hK.1 w hw, hK.2⟩
/-- the queue to its end -/
theorem C_cy_l103 (hG : G 0 ≤ X) (hV : dV d) (hn : n ≤ 72) (hO : gOk d n sN tN lN (dAr d)) : ∀ (c q f : Nat) (χ : zCh) (qu : Nat → Nat) (m : Nat), q + c = 36 → c < f → q ≤ m → gAr χ n sN tN lN → kN χ 18 = nI (p_cn (dEx d) 36) → qIn d n sN tN qu q 0 m → kQ χ n sN tN qu q 0 m → ∃ χ' b, f_X2_hasCycle_l103 G f (X + 4) (nI m) (nI q) (cw X χ s) = some (bI b, cw X χ' s) ∧ (b = false ↔ dAcy d) ∧ kFr [] [9, 10] [] χ χ' := by
  intro c
  have fin : ∀ (q f : Nat) (χ : zCh) (qu : Nat → Nat), gAr χ n sN tN lN → kN χ 18 = nI (p_cn (dEx d) 36) → qIn d n sN tN qu q 0 q → kQ χ n sN tN qu q 0 q → ∃ χ' b, f_X2_hasCycle_l103 G (f + 1) (X + 4) (nI q) (nI q) (cw X χ s) = some (bI b, cw X χ' s) ∧ (b = false ↔ dAcy d) ∧ kFr [] [9, 10] [] χ χ' := by
    intro q f χ qu hg hN hI hK
    have hm := hI.le
    have h36 := p_cn_le_n (dEx d) 36
    have hcn := inQ_cn (fun i hi => (hI.1 i hi).1) hI.2.1
    refine ⟨χ, decide (q < p_cn (dEx d) 36), ?_, ?_, kFr.refl _ _ _ _⟩
    · show f_X2_hasCycle_b103 G (f_X2_hasCycle_l103 G f) _ _ _ (cw X χ s) = _
      unfold f_X2_hasCycle_b103
      simp (disch := omega) only [zo_s, zb_s, zx_l, zx_r, zrn_1, zrn_0, zrn_b, zrnX_1, zrnX_0, zrnX_b, n_lit, n_add, n_mul, n_sub, n_lt, n_le, n_eq, n_cl, n_div, n_md6, bI_0, bI_1, bI_t, bI_f, n_e10, n_e01, Nat.le_refl, if_true, c_G8, hN]
      by_cases e : p_cn (dEx d) 36 ≤ q
      · rw [if_pos e, decide_eq_false (by omega)]; rfl
      · rw [if_neg e, decide_eq_true (by omega)]; rfl
    · rw [decide_eq_false_iff_not]
      constructor
      · intro hle C hC w hw he
        have : inQ qu q w = true := by
          apply Classical.byContradiction
          intro hno
          have := p_cn_lt (p := inQ qu q) (q := dEx d) (n := 36) (fun u hu z => by
            obtain ⟨i, i1, i2⟩ := (inQ_iff _ _ _).mp z
            rw [← i2]
            exact (hI.1 i i1).2) hw (by simpa using hno) he
          omega
        obtain ⟨i, i1, i2⟩ := (inQ_iff _ _ _).mp this
        rw [← i2]
        exact hI.2.2.2 C hC i i1
      · intro hac
        have hall : ∀ w, w < 36 → dEx d w = true → inQ qu q w = true := hac (fun w => inQ qu q w = true) (fun w hw he hpre => by
          have hpre : ∀ u, dPd d u w → inQ qu q u = true := hpre
          show inQ qu q w = true
          rw [hI.2.2.1 w hw he]
          have : p_cn (oA sN tN qu q 0 w) n = p_cn (fun _ => false) n := p_cn_eq fun i hi => by
            unfold oA
            by_cases e : tN i = w
            · have := hpre (sN i) ⟨lN i, by rw [← e]; exact hO.1 i hi⟩
              rw [this]
              simp
            · rw [decide_eq_false e]
              rfl
          rw [this]
          have z : ∀ n, p_cn (fun _ => false) n = 0 := fun n => by
            induction n with
            | zero => rfl
            | succ n ih => simp only [p_cn, ih]; rfl
          exact z n)
        have := p_cn_le (p := dEx d) (q := inQ qu q) (n := 36) hall
        omega
  induction c with
  | zero =>
    intro q f χ qu m hc hf hq hg hN hI hK
    obtain ⟨f, rfl⟩ : ∃ z, f = z + 1 := ⟨f - 1, by omega⟩
    have hm := hI.le
    have e : m = q := by omega
    subst e
    exact fin m f χ qu hg hN hI hK
  | succ c ih =>
    intro q f χ qu m hc hf hq hg hN hI hK
    obtain ⟨f, rfl⟩ : ∃ z, f = z + 1 := ⟨f - 1, by omega⟩
    have hm := hI.le
    by_cases e : m = q
    · subst e
      exact fin m f χ qu hg hN hI hK
    · obtain ⟨χ1, qu1, m1, y1, y2, y3, y4, y5⟩ := C_cy_l110 (s := s) hG hV hn hO (f_X2_hasCycle_l103 G f) n 0 2000 χ qu m (by omega) (by omega) (show q < m from by omega) hg hI hK
      obtain ⟨χ2, b, z1, z2, z3⟩ := ih (q + 1) f χ1 qu1 m1 (by omega) (by omega) y2 ⟨by rw [y5.1 17 (by decide)]; exact hg.1, fun i hi => by
        rw [y5.2.1 5 (by decide), y5.2.1 6 (by decide), y5.2.1 7 (by decide)]
        exact hg.2 i hi⟩ (by rw [y5.1 18 (by decide)]; exact hN) y3 y4
      refine ⟨χ2, b, ?_, z2, y5.trans z3⟩
      rw [← z1, ← y1]
      show f_X2_hasCycle_b103 G (f_X2_hasCycle_l103 G f) _ _ _ (cw X χ s) = _
      unfold f_X2_hasCycle_b103
      have hx : ¬ (m ≤ q) := by omega
      simp (disch := omega) only [n_lit, n_add, n_mul, n_sub, n_lt, n_le, n_eq, n_cl, n_div, n_md6, bI_0, bI_1, bI_t, bI_f, n_e10, n_e01, hx, if_false]
/-- the first of the queue: those to which no arc goes -/
theorem C_cy_l56 (hp : pC X V s) (hG : G 0 ≤ X) (hL : hLa G V L d v) (hV : dV d) (hn : n ≤ 72) (hO : gOk d n sN tN lN (dAr d)) : ∀ (c o f : Nat) (χ : zCh) (qu : Nat → Nat) (m : Nat), o + c = 36 → c < f → m ≤ o → kR χ 16 = some L → gAr χ n sN tN lN → kN χ 18 = nI (p_cn (dEx d) 36) → (∀ i, i < m → qu i < o ∧ dEx d (qu i) = true ∧ p_cn (oA sN tN (fun _ => 0) 0 0 (qu i)) n = 0) → (∀ i j, i < m → j < m → qu i = qu j → i = j) → (∀ w, w < o → dEx d w = true → p_cn (oA sN tN (fun _ => 0) 0 0 w) n = 0 → inQ qu m w = true) → (∀ w, w < 36 → kA χ 9 w = nI (p_cn (oA sN tN (fun _ => 0) 0 0 w) n)) → (∀ i, i < m → kA χ 10 i = nI (qu i)) → ∃ χ' b, f_X2_hasCycle_l56 G f (X + 4) (nI m) (nI o) (cw X χ s) = some (bI b, cw X χ' s) ∧ (b = false ↔ dAcy d) ∧ kFr [] [9, 10] [] χ χ' := by
  intro c
  induction c with
  | zero =>
    intro o f χ qu m hc hf hm hR hg hN h1 h2 h3 h4 h5
    obtain ⟨f, rfl⟩ : ∃ z, f = z + 1 := ⟨f - 1, by omega⟩
    have e : o = 36 := by omega
    subst e
    have eo : ∀ w, oA sN tN qu 0 0 w = oA sN tN (fun _ => 0) 0 0 w := fun w => by
      funext i
      unfold oA
      rw [decide_eq_false (Nat.not_lt_zero i)]
      rfl
    obtain ⟨χ1, b, z1, z2, z3⟩ := C_cy_l103 (s := s) hG hV hn hO 36 0 2000 χ qu m (by omega) (by omega) (by omega) hg hN ⟨fun i hi => ⟨(h1 i hi).1, (h1 i hi).2.1⟩, h2, fun w hw he => by
      rw [eo]
      constructor
      · intro y
        obtain ⟨i, i1, i2⟩ := (inQ_iff _ _ _).mp y
        rw [← i2]
        exact (h1 i i1).2.2
      · exact h3 w hw he, fun C hC i hi => by
      obtain ⟨a1, a2, a3⟩ := h1 i hi
      refine hC _ a1 a2 fun u hu => ?_
      obtain ⟨l, hl⟩ := hu
      obtain ⟨i', i1, i2, i3, i4⟩ := hO.2 u _ l hl
      have x : oA sN tN (fun _ => 0) 0 0 (qu i) i' = true := by
        unfold oA
        rw [decide_eq_true i3, decide_eq_false (Nat.not_lt_zero i')]
        rfl
      have := p_cn_lt (p := fun _ => false) (q := oA sN tN (fun _ => 0) 0 0 (qu i)) (n := n) (fun _ _ z => by cases z) i1 rfl x
      omega⟩ ⟨fun w hw => by rw [eo]; exact h4 w hw, h5⟩
    refine ⟨χ1, b, ?_, z2, z3⟩
    rw [← z1]
    show f_X2_hasCycle_b56 G (f_X2_hasCycle_l56 G f) _ _ _ (cw X χ s) = _
    unfold f_X2_hasCycle_b56
    simp (disch := omega) only [n_lit, n_add, n_mul, n_sub, n_lt, n_le, n_eq, n_cl, n_div, n_md6, bI_0, bI_1, bI_t, bI_f, n_e10, n_e01]
    rw [if_pos (by omega)]
  | succ c ih =>
    intro o f χ qu m hc hf hm hR hg hN h1 h2 h3 h4 h5
    obtain ⟨f, rfl⟩ : ∃ z, f = z + 1 := ⟨f - 1, by omega⟩
    have ho : o < 36 := by omega
    have hx : ¬ (36 ≤ o) := by omega
    have rcL : zrc (cw X χ s) (some L) 3 = some L := by
      obtain ⟨T', J, O, C, U, mc, E, cap, f', e, l1, -⟩ := hL
      exact r_c (hp.S χ _ _ l1)
    have hexi := C_exists (hp.S χ) hL hV.1 hV.2.2.1 ho
    have hcn := oA_le sN tN (fun _ => 0) 0 0 o n hn
    have h4o := h4 o ho
    have skip : (dEx d o = true → p_cn (oA sN tN (fun _ => 0) 0 0 o) n ≠ 0) → ∃ χ' b, f_X2_hasCycle_l56 G f (X + 4) (nI m) (nI (o + 1)) (cw X χ s) = some (bI b, cw X χ' s) ∧ (b = false ↔ dAcy d) ∧ kFr [] [9, 10] [] χ χ' := fun hno => ih (o + 1) f χ qu m (by omega) (by omega) (by omega) hR hg hN (fun i hi => ⟨Nat.lt_succ_of_lt (h1 i hi).1, (h1 i hi).2⟩) h2 (fun w hw he h0 => by
      by_cases e : w = o
      · subst e
        exact absurd h0 (hno he)
      · exact h3 w (by omega) he h0) h4 h5
    show ∃ χ' b, f_X2_hasCycle_b56 G (f_X2_hasCycle_l56 G f) _ _ _ (cw X χ s) = _ ∧ _
    unfold f_X2_hasCycle_b56 f_X2_hasCycle_b95
    simp (disch := omega) only [zo_s, zb_s, zx_l, zx_r, zrn_1, zrn_0, zrn_b, zrnX_1, zrnX_0, zrnX_b, n_lit, n_add, n_mul, n_sub, n_lt, n_le, n_eq, n_cl, n_div, n_md6, bI_0, bI_1, bI_t, bI_f, n_e10, n_e01, hx, if_false, c_G6, hR, rcL, hexi]
    cases hex : dEx d o with
    | false =>
      simp only [if_true]
      exact skip (fun z => by rw [hex] at z; cases z)
    | true =>
      simp (disch := omega) only [Bool.true_eq_false, if_false, zo_s, zb_s, zx_l, zx_r, zrn_1, zrn_0, zrn_b, zrnX_1, zrnX_0, zrnX_b, n_lit, n_add, n_mul, n_sub, n_lt, n_le, n_eq, n_cl, n_div, n_md6, bI_0, bI_1, bI_t, bI_f, n_e10, n_e01, c_rcX, c_rcD, c_rcG, c_X0, c_X1, c_X2, c_X3, c_X4, c_X5, c_D0, c_D1, c_D2, c_G0, c_G1, c_G2, c_G3, c_G4, c_G5, c_G6, c_G7, c_G8, c_aA, c_aO, c_aB, c_aD, c_lD, h4o]
      by_cases y : p_cn (oA sN tN (fun _ => 0) 0 0 o) n ≤ 0
      · rw [if_pos y]
        simp (disch := omega) only [zo_s, zb_s, zx_l, zx_r, zrn_1, zrn_0, zrn_b, zrnX_1, zrnX_0, zrnX_b, n_lit, n_add, n_mul, n_sub, n_lt, n_le, n_eq, n_cl, n_div, n_md6, bI_0, bI_1, bI_t, bI_f, n_e10, n_e01, c_rcX, c_rcD, c_rcG, c_X0, c_X1, c_X2, c_X3, c_X4, c_X5, c_D0, c_D1, c_D2, c_G0, c_G1, c_G2, c_G3, c_G4, c_G5, c_G6, c_G7, c_G8, c_aA, c_aO, c_aB, c_aD, c_lD, c_pR3, c_pR6, c_P4, c_P5, c_Q1, c_Q2, c_S7, c_S8, c_sA, c_sO, c_sB, hG]
        have hqu : ∀ i, i < m → va_up qu m o i = qu i := fun i hi => by rw [u_at, if_neg (by omega)]
        obtain ⟨χ1, b, z1, z2, z3⟩ := ih (o + 1) f (uA χ 10 m (nI o)) (va_up qu m o) (m + 1) (by omega) (by omega) (by omega) hR ⟨hg.1, fun i hi => by
          rw [kA_ne _ _ _ (by decide), kA_ne _ _ _ (by decide), kA_ne _ _ _ (by decide)]
          exact hg.2 i hi⟩ hN (fun i hi => by
          by_cases e : i = m
          · rw [u_at, if_pos e]
            exact ⟨by omega, hex, by omega⟩
          · rw [hqu i (by omega)]
            exact ⟨Nat.lt_succ_of_lt (h1 i (by omega)).1, (h1 i (by omega)).2⟩) (fun i j hi hj he => by
          by_cases e : i = m
          · by_cases e2 : j = m
            · omega
            · rw [u_at, if_pos e, hqu j (by omega)] at he
              have := (h1 j (by omega)).1
              omega
          · by_cases e2 : j = m
            · rw [u_at (j := j), if_pos e2, hqu i (by omega)] at he
              have := (h1 i (by omega)).1
              omega
            · rw [hqu i (by omega), hqu j (by omega)] at he
              exact h2 i j (by omega) (by omega) he) (fun w hw he h0 => by
          simp only [inQ]
          rw [inQ_same hqu, u_at, if_pos rfl]
          by_cases e : w = o
          · rw [decide_eq_true e.symm, Bool.or_true]
          · rw [h3 w (by omega) he h0, Bool.true_or]) (fun w hw => by rw [kA_ne _ _ _ (by decide)]; exact h4 w hw) (fun i hi => by
          rw [kA_uA, u_at]
          by_cases e : i = m
          · rw [if_pos ⟨rfl, e⟩, if_pos e]
          · rw [if_neg (fun x => e x.2), if_neg e]
            exact h5 i (by omega))
        exact ⟨χ1, b, z1, z2, (kFr.uA _ _ _ (by decide)).trans z3⟩
      · rw [if_neg y]
        exact skip (fun _ z => y (by omega))
/-- how many arcs go to each -/
theorem C_cy_l23 (hG : G 0 ≤ X) (hV : dV d) (hn : n ≤ 72) (hO : gOk d n sN tN lN (dAr d)) : ∀ (c k f : Nat) (χ : zCh), k + c = n → c < f → gAr χ n sN tN lN → (∀ w, w < 36 → kA χ 9 w = nI (p_cn (fun i => decide (tN i = w)) k)) → ∃ χ', f_X2_hasCycle_l23 G f (X + 4) (nI k) (cw X χ s) = f_X2_hasCycle_l56 G 2000 (X + 4) (nI 0) (nI 0) (cw X χ' s) ∧ (∀ w, w < 36 → kA χ' 9 w = nI (p_cn (fun i => decide (tN i = w)) n)) ∧ kFr [] [9, 10] [] χ χ' := by
  intro c
  induction c with
  | zero =>
    intro k f χ hc hf hg h
    obtain ⟨f, rfl⟩ : ∃ z, f = z + 1 := ⟨f - 1, by omega⟩
    have e : k = n := by omega
    subst e
    refine ⟨χ, ?_, h, kFr.refl _ _ _ _⟩
    show f_X2_hasCycle_b23 G (f_X2_hasCycle_l23 G f) _ _ (cw X χ s) = _
    unfold f_X2_hasCycle_b23
    simp (disch := omega) only [zo_s, zb_s, zx_l, zx_r, zrn_1, zrn_0, zrn_b, zrnX_1, zrnX_0, zrnX_b, n_lit, n_add, n_mul, n_sub, n_lt, n_le, n_eq, n_cl, n_div, n_md6, bI_0, bI_1, bI_t, bI_f, n_e10, n_e01, c_G7, hg.1, Nat.le_refl, if_true]
  | succ c ih =>
    intro k f χ hc hf hg h
    obtain ⟨f, rfl⟩ : ∃ z, f = z + 1 := ⟨f - 1, by omega⟩
    have hk : k < n := by omega
    have hx : ¬ (n ≤ k) := by omega
    obtain ⟨g1, g2, g3⟩ := hg.2 k hk
    obtain ⟨a1, a2, a3, a4⟩ := dAr_ex hV (hO.1 k hk)
    have ht := h (tN k) a3
    have hF : kFr [] [9, 10] [] χ (uA χ 9 (tN k) (nI (p_cn (fun i => decide (tN i = tN k)) k + 1))) := kFr.uA _ _ _ (by decide)
    obtain ⟨χ', z1, z2, z3⟩ := ih (k + 1) f (uA χ 9 (tN k) (nI (p_cn (fun i => decide (tN i = tN k)) k + 1))) (by omega) (by omega) ⟨hg.1, fun i hi => by
      rw [kA_ne _ _ _ (by decide), kA_ne _ _ _ (by decide), kA_ne _ _ _ (by decide)]
      exact hg.2 i hi⟩ (fun w hw => by
      rw [kA_uA]
      by_cases e : w = tN k
      · subst e
        rw [if_pos ⟨rfl, rfl⟩]
        simp [p_cn]
      · have e2 : ¬ (tN k = w) := fun x => e x.symm
        rw [if_neg (fun x => e x.2), h w hw]
        simp [p_cn, e2])
    refine ⟨χ', ?_, z2, hF.trans z3⟩
    rw [← z1]
    show f_X2_hasCycle_b23 G (f_X2_hasCycle_l23 G f) _ _ (cw X χ s) = _
    unfold f_X2_hasCycle_b23
    simp (disch := omega) only [zo_s, zb_s, zx_l, zx_r, zrn_1, zrn_0, zrn_b, zrnX_1, zrnX_0, zrnX_b, n_lit, n_add, n_mul, n_sub, n_lt, n_le, n_eq, n_cl, n_div, n_md6, bI_0, bI_1, bI_t, bI_f, n_e10, n_e01, c_rcX, c_rcD, c_rcG, c_X0, c_X1, c_X2, c_X3, c_X4, c_X5, c_D0, c_D1, c_D2, c_G0, c_G1, c_G2, c_G3, c_G4, c_G5, c_G6, c_G7, c_G8, c_aA, c_aO, c_aB, c_aD, c_lD, c_pR3, c_pR6, c_P4, c_P5, c_Q1, c_Q2, c_S7, c_S8, c_sA, c_sO, c_sB, hg.1, hx, if_false, g2, ht, hG]
theorem C_cy_l2 (hG : G 0 ≤ X) : ∀ (c o f : Nat) (χ : zCh), o + c = 36 → c < f → (∀ i, i < o → kA χ 9 i = nI 0) → ∃ χ', f_X2_hasCycle_l2 G f (X + 4) (nI o) (cw X χ s) = f_X2_hasCycle_l23 G 2000 (X + 4) (nI 0) (cw X χ' s) ∧ (∀ i, i < 36 → kA χ' 9 i = nI 0) ∧ kFr [] [9, 10] [] χ χ' := by
  intro c
  induction c with
  | zero =>
    intro o f χ hc hf h
    obtain ⟨f, rfl⟩ : ∃ z, f = z + 1 := ⟨f - 1, by omega⟩
    have e : o = 36 := by omega
    subst e
    refine ⟨χ, ?_, h, kFr.refl _ _ _ _⟩
    show f_X2_hasCycle_b2 G (f_X2_hasCycle_l2 G f) _ _ (cw X χ s) = _
    unfold f_X2_hasCycle_b2
    simp (disch := omega) only [n_lit, n_add, n_mul, n_sub, n_lt, n_le, n_eq, n_cl, n_div, n_md6, bI_0, bI_1, bI_t, bI_f, n_e10, n_e01]
    rw [if_pos (by omega)]
  | succ c ih =>
    intro o f χ hc hf h
    obtain ⟨f, rfl⟩ : ∃ z, f = z + 1 := ⟨f - 1, by omega⟩
    have hx : ¬ (36 ≤ o) := by omega
    obtain ⟨χ', z1, z2, z3⟩ := ih (o + 1) f (uA χ 9 o (nI 0)) (by omega) (by omega) (fun i hi => by
      rw [kA_uA]
      by_cases e : i = o
      · rw [if_pos ⟨rfl, e⟩]
      · rw [if_neg (fun x => e x.2)]
        exact h i (by omega))
    refine ⟨χ', ?_, z2, (kFr.uA _ _ _ (by decide)).trans z3⟩
    rw [← z1]
    show f_X2_hasCycle_b2 G (f_X2_hasCycle_l2 G f) _ _ (cw X χ s) = _
    unfold f_X2_hasCycle_b2
    simp (disch := omega) only [zo_s, zb_s, zx_l, zx_r, zrn_1, zrn_0, zrn_b, zrnX_1, zrnX_0, zrnX_b, n_lit, n_add, n_mul, n_sub, n_lt, n_le, n_eq, n_cl, n_div, n_md6, bI_0, bI_1, bI_t, bI_f, n_e10, n_e01, c_rcX, c_rcD, c_rcG, c_X0, c_X1, c_X2, c_X3, c_X4, c_X5, c_D0, c_D1, c_D2, c_G0, c_G1, c_G2, c_G3, c_G4, c_G5, c_G6, c_G7, c_G8, c_aA, c_aO, c_aB, c_aD, c_lD, c_pR3, c_pR6, c_P4, c_P5, c_Q1, c_Q2, c_S7, c_S8, c_sA, c_sO, c_sB, hx, if_false, hG]
theorem C_hasCycle (hp : pC X V s) (hG : G 0 ≤ X) (hL : hLa G V L d v) (hV : dV d) (hn : n ≤ 72) (hO : gOk d n sN tN lN (dAr d)) {χ : zCh} (hR : kR χ 16 = some L) (hg : gAr χ n sN tN lN) (hN : kN χ 18 = nI (p_cn (dEx d) 36)) : ∃ χ' b, f_X2_hasCycle G (X + 4) (cw X χ s) = some (bI b, cw X χ' s) ∧ (b = false ↔ dAcy d) ∧ kFr [] [9, 10] [] χ χ' := by
  obtain ⟨χ1, a1, a2, a3⟩ := C_cy_l2 (s := s) hG 36 0 2000 χ (by omega) (by omega) (fun i hi => by omega)
  have hg1 : ∀ χ', kFr [] [9, 10] [] χ χ' → gAr χ' n sN tN lN := fun χ' h => ⟨by rw [h.1 17 (by decide)]; exact hg.1, fun i hi => by
    rw [h.2.1 5 (by decide), h.2.1 6 (by decide), h.2.1 7 (by decide)]
    exact hg.2 i hi⟩
  obtain ⟨χ2, b1, b2, b3⟩ := C_cy_l23 (s := s) hG hV hn hO n 0 2000 χ1 (by omega) (by omega) (hg1 χ1 a3) (fun w hw => a2 w hw)
  have hF := a3.trans b3
  obtain ⟨χ3, b, c1, c2, c3⟩ := C_cy_l56 hp hG hL hV hn hO 36 0 2000 χ2 (fun _ => 0) 0 (by omega) (by omega) (by omega) (by rw [hF.2.2.1 16 (by decide)]; exact hR) (hg1 χ2 hF) (by rw [hF.1 18 (by decide)]; exact hN) (fun i hi => by omega) (fun i j hi => by omega) (fun w hw => by omega) (fun w hw => by
    rw [b2 w hw]
    congr 1
    refine p_cn_eq fun i _ => ?_
    unfold oA
    rw [decide_eq_false (Nat.not_lt_zero i)]
    simp [inQ]) (fun i hi => by omega)
  exact ⟨χ3, b, by rw [← c1, ← b1, ← a1]; rfl, c2, hF.trans c3⟩
/-- the starts of a plan, by the system -/
theorem C_starts (hp : pC X V s) (hb : hB G V) (hG : G 0 ≤ X) (hL : hLa G V L d v) {p : Nat} {T : Nat → Nat} (hP : hPl V p L d T) (hV : dV d) (χ : zCh) : ∃ χ' b S, f_X2_starts G (X + 4) (some p) (cw X χ s) = some (bI b, cw X χ' s) ∧ (b = true ↔ dTm d) ∧ (b = true → dLe d S ∧ kS χ' S ∧ ∀ i, i < 36 → S i < 600000) ∧ kFr [17, 18] [5, 6, 7, 8, 9, 10] [16] χ χ' := by
  obtain ⟨χ1, n, sN, tN, lN, l1, l2, l3, l4, l5, l6, l7⟩ := C_lay hp hb hG hL hP hV χ
  have e1 : zgI (cw X χ1 s) (some L) 3 1 = some (nI (d 1)) := by
    obtain ⟨T', J, O, C, U, mc, E, cap, f', e, k1, -⟩ := hL
    exact r_I (hp.S χ1 _ _ k1) rfl
  have hx1 := hV.1 1
  have hF1 : kFr [17, 18] [5, 6, 7, 8, 9, 10] [16] χ χ1 := l7.mono (by simp) (by simp <;> omega) (by simp)
  have go : ∀ χ2, kFr [] [9, 10] [] χ1 χ2 → ∃ χ' b S, f_X2_starts_b24 G (X + 4) (cw X χ2 s) = some (bI b, cw X χ' s) ∧ (b = true ↔ ∃ F, dFe d F) ∧ (b = true → dLe d S ∧ kS χ' S ∧ ∀ i, i < 36 → S i < 600000) ∧ kFr [17, 18] [5, 6, 7, 8, 9, 10] [16] χ χ' := by
    intro χ2 hF
    obtain ⟨χ3, a1, a2, a3⟩ := C_st_l26 hp hG hL hV 36 0 2000 χ2 (by omega) (by omega) (by rw [hF.2.2.1 16 (by decide)]; exact l4) (fun i hi => by omega)
    have hcn := p_cn_le_n (dEx d) 36
    have hF3 : kFr [] [8, 9, 10] [] χ1 χ3 := (hF.mono (by simp) (by simp <;> omega) (by simp)).trans (a3.mono (by simp) (by simp) (by simp))
    obtain ⟨χ4, S4, b1, b2, b3, b5, b4⟩ := C_st_l96 (s := s) hG hV l2 l6.1 hcn (p_cn (dEx d) 36 + 1) 0 2000 χ3 (fun i => if dEx d i = true then dBa d i else 0) (by omega) (by omega) ⟨by rw [hF3.1 17 (by decide)]; exact l5.1, fun i hi => by
      rw [hF3.2.1 5 (by decide), hF3.2.1 6 (by decide), hF3.2.1 7 (by decide)]
      exact l5.2 i hi⟩ (by rw [hF3.1 18 (by decide)]; exact l3) a2 (fun i hi => by
      show (if dEx d i = true then dBa d i else 0) ≤ _
      split
      · rename_i he
        unfold dBa
        split
        · have := (hV.2.2.2.1 (i / 6) ((dEx_iff d i).mp he).1).2.2
          omega
        · omega
      · omega)
    have hR := fA_Rd (b := dBa d) (fun u v l h => dAr_ex hV h) l6.1 l6.2
    have hpr := p_rounds (E := dEx d) (A := dAr d) (b := dBa d) (fun u v l h => dAr_ex hV h) (ch := hA sN tN lN n) (fun S h => fA_same n S h) (fun S h => fA_more n (fun k hk => ⟨(dAr_ex hV (l6.1 k hk)).2.2.1, (dAr_ex hV (l6.1 k hk)).2.2.2⟩) S h) hR (S0 := fun i => if dEx d i = true then dBa d i else 0) (fun v hv he => by
      show dBa d v ≤ if dEx d v = true then dBa d v else 0
      rw [if_pos he]
      exact Nat.le_refl _) (fun F hF v hv he => by
      show (if dEx d v = true then dBa d v else 0) ≤ F v
      rw [if_pos he]
      exact hF.1 v hv he) (fun v hv he => by
      show (if dEx d v = true then dBa d v else 0) = 0
      rw [he]
      rfl) (n := p_cn (dEx d) 36 + 1) (by omega)
    refine ⟨χ4, _, S4, by rw [← b1, ← a1]; rfl, ⟨fun q => ⟨_, (hpr.1 q).1⟩, hpr.2⟩, fun q => ⟨?_, b3, b5⟩, hF1.trans ((hF3.mono (by simp) (by simp <;> omega) (by simp)).trans (b4.mono (by simp) (by simp) (by simp)))⟩
    rw [b2 q]
    exact hpr.1 q
  unfold f_X2_starts
  simp (disch := omega) only [zo_s, zb_s, zx_l, zx_r, zrn_1, zrn_0, zrn_b, zrnX_1, zrnX_0, zrnX_b, n_lit, n_add, n_mul, n_sub, n_lt, n_le, n_eq, n_cl, n_div, n_md6, bI_0, bI_1, bI_t, bI_f, n_e10, n_e01, c_rcG, l1, c_G6, l4, e1]
  by_cases q : d 1 = 0
  · rw [if_pos q]
    obtain ⟨χ2, b2, c1, c2, c3⟩ := C_hasCycle hp hG hL hV l2 l6 l4 l5 l3
    rw [c1, zb_s]
    cases b2 with
    | true =>
      refine ⟨χ2, false, fun _ => 0, ?_, ⟨fun z => (by cases z), fun z => ?_⟩, fun z => (by cases z), hF1.trans (c3.mono (by simp) (by simp <;> omega) (by simp))⟩
      · rw [if_neg (by decide)]; rfl
      · have := c2.mpr (z.2 q)
        cases this
    | false =>
      obtain ⟨χ3, b, S, y1, y2, y3, y4⟩ := go χ2 c3
      refine ⟨χ3, b, S, ?_, ?_, y3, y4⟩
      · rw [if_pos (by decide)]; exact y1
      · rw [y2]
        exact ⟨fun z => ⟨z, fun _ => c2.mp rfl⟩, fun z => z.1⟩
  · rw [if_neg q]
    obtain ⟨χ3, b, S, y1, y2, y3, y4⟩ := go χ1 (kFr.refl _ _ _ _)
    refine ⟨χ3, b, S, y1, ?_, y3, y4⟩
    rw [y2]
    exact ⟨fun z => ⟨z, fun h => absurd h q⟩, fun z => z.1⟩
end CCYCLE
