/-! THE PLAIN LAW, part 5: the two kinds of round: by nodes, by arcs -/
set_option maxRecDepth 100000
theorem up_ge {S : Nat → Nat} {k x : Nat} (h : S k ≤ x) (v : Nat) : S v ≤ va_up S k x v := by
  rw [u_at]
  split
  · rename_i e; rw [e]; exact h
  · exact Nat.le_refl _
/-- by nodes: each there is raised to its need -/
def fM (E : Nat → Bool) (need : (Nat → Nat) → Nat → Nat) : Nat → (Nat → Nat) → Nat → Nat
  | 0, S => S
  | o + 1, S => if E o = true ∧ fM E need o S o < need (fM E need o S) o then va_up (fM E need o S) o (need (fM E need o S) o) else fM E need o S
def hM (E : Nat → Bool) (need : (Nat → Nat) → Nat → Nat) : Nat → (Nat → Nat) → Bool
  | 0, _ => false
  | o + 1, S => hM E need o S || decide (E o = true ∧ fM E need o S o < need (fM E need o S) o)
section BYNODES
variable {E : Nat → Bool} {A : Nat → Nat → Nat → Prop} {b : Nat → Nat} {need : (Nat → Nat) → Nat → Nat}
theorem fM_ge (n : Nat) (S : Nat → Nat) (v : Nat) : S v ≤ fM E need n S v := by
  induction n with
  | zero => exact Nat.le_refl _
  | succ n ih =>
    simp only [fM]
    split
    · rename_i q
      exact Nat.le_trans ih (up_ge (Nat.le_of_lt q.2) v)
    · exact ih
theorem fM_mono (n k : Nat) (S : Nat → Nat) (v : Nat) : fM E need n S v ≤ fM E need (n + k) S v := by
  induction k with
  | zero => exact Nat.le_refl _
  | succ k ih =>
    refine Nat.le_trans ih ?_
    show _ ≤ fM E need (n + k + 1) S v
    simp only [fM]
    split
    · rename_i q
      exact up_ge (Nat.le_of_lt q.2) v
    · exact Nat.le_refl _
theorem fM_same (n : Nat) (S : Nat → Nat) (h : hM E need n S = false) : fM E need n S = S := by
  induction n with
  | zero => rfl
  | succ n ih =>
    simp only [hM, Bool.or_eq_false_iff, decide_eq_false_iff_not] at h
    simp only [fM]
    rw [if_neg h.2]
    exact ih h.1
theorem fM_more (n : Nat) (hn : n ≤ 36) (S : Nat → Nat) (h : hM E need n S = true) : ∃ v, v < 36 ∧ E v = true ∧ S v < fM E need n S v := by
  induction n with
  | zero => cases h
  | succ n ih =>
    simp only [hM, Bool.or_eq_true, decide_eq_true_eq] at h
    rcases h with h | h
    · obtain ⟨v, h1, h2, h3⟩ := ih (by omega) h
      exact ⟨v, h1, h2, Nat.lt_of_lt_of_le h3 (fM_mono n 1 S v)⟩
    · refine ⟨n, by omega, h.1, ?_⟩
      simp only [fM]
      rw [if_pos h, u_at, if_pos rfl]
      exact Nat.lt_of_le_of_lt (fM_ge n S n) h.2
theorem fM_off (n : Nat) (S : Nat → Nat) (v : Nat) (h : E v = false) : fM E need n S v = S v := by
  induction n with
  | zero => rfl
  | succ n ih =>
    simp only [fM]
    split
    · rename_i q
      rw [u_at, if_neg (fun e => by rw [← e, h] at q; exact absurd q.1 (by simp))]
      exact ih
    · exact ih
theorem fM_Rd (hmono : ∀ (S T : Nat → Nat) (o : Nat), (∀ v, S v ≤ T v) → need S o ≤ need T o) (hF : ∀ F, p_Fe E A b F → ∀ S : Nat → Nat, (∀ v, v < 36 → E v = true → S v ≤ F v) → ∀ o, o < 36 → E o = true → need S o ≤ F o) (hl : ∀ u v l, A u v l → v < 36 ∧ E v = true ∧ ∀ S : Nat → Nat, S u + l ≤ need S v) (hb : ∀ v, v < 36 → E v = true → ∀ S : Nat → Nat, b v ≤ need S v) : p_Rd E A b (fun _ => True) (fM E need 36) := by
  have key : ∀ (S : Nat → Nat) (o : Nat), o < 36 → E o = true → need S o ≤ fM E need 36 S o := by
    intro S o ho he
    have h1 : need (fM E need o S) o ≤ fM E need (o + 1) S o := by
      simp only [fM]
      split
      · rw [u_at, if_pos rfl]; exact Nat.le_refl _
      · rename_i q
        exact Nat.le_of_not_lt fun z => q ⟨he, z⟩
    have h2 := fM_mono (E := E) (need := need) (o + 1) (36 - (o + 1)) S o
    rw [show o + 1 + (36 - (o + 1)) = 36 from by omega] at h2
    exact Nat.le_trans (hmono S (fM E need o S) o (fun v => fM_ge o S v)) (Nat.le_trans h1 h2)
  intro S _
  refine ⟨fun v => fM_ge 36 S v, ?_, ?_, ?_, ?_, trivial⟩
  · intro F hFe hS
    have : ∀ n, n ≤ 36 → ∀ v, v < 36 → E v = true → fM E need n S v ≤ F v := by
      intro n
      induction n with
      | zero => intro _; exact hS
      | succ n ih =>
        intro hn v hv he
        simp only [fM]
        split
        · rename_i q
          rw [u_at]
          split
          · rename_i e
            subst e
            exact hF F hFe _ (ih (by omega)) v hv he
          · exact ih (by omega) v hv he
        · exact ih (by omega) v hv he
    exact this 36 (Nat.le_refl _)
  · intro u v l h
    obtain ⟨h1, h2, h3⟩ := hl u v l h
    exact Nat.le_trans (h3 S) (key S v h1 h2)
  · intro v hv he
    exact Nat.le_trans (hb v hv he S) (key S v hv he)
  · intro v he
    exact fM_off 36 S v he
end BYNODES
/-- by arcs -/
def fA (sN tN lN : Nat → Nat) : Nat → (Nat → Nat) → Nat → Nat
  | 0, S => S
  | k + 1, S => if fA sN tN lN k S (tN k) < fA sN tN lN k S (sN k) + lN k then va_up (fA sN tN lN k S) (tN k) (fA sN tN lN k S (sN k) + lN k) else fA sN tN lN k S
def hA (sN tN lN : Nat → Nat) : Nat → (Nat → Nat) → Bool
  | 0, _ => false
  | k + 1, S => hA sN tN lN k S || decide (fA sN tN lN k S (tN k) < fA sN tN lN k S (sN k) + lN k)
section BYARCS
variable {E : Nat → Bool} {A : Nat → Nat → Nat → Prop} {b : Nat → Nat} {sN tN lN : Nat → Nat}
theorem fA_ge (n : Nat) (S : Nat → Nat) (v : Nat) : S v ≤ fA sN tN lN n S v := by
  induction n with
  | zero => exact Nat.le_refl _
  | succ n ih =>
    simp only [fA]
    split
    · rename_i q
      exact Nat.le_trans ih (up_ge (Nat.le_of_lt q) v)
    · exact ih
theorem fA_mono (n k : Nat) (S : Nat → Nat) (v : Nat) : fA sN tN lN n S v ≤ fA sN tN lN (n + k) S v := by
  induction k with
  | zero => exact Nat.le_refl _
  | succ k ih =>
    refine Nat.le_trans ih ?_
    show _ ≤ fA sN tN lN (n + k + 1) S v
    simp only [fA]
    split
    · rename_i q
      exact up_ge (Nat.le_of_lt q) v
    · exact Nat.le_refl _
theorem fA_same (n : Nat) (S : Nat → Nat) (h : hA sN tN lN n S = false) : fA sN tN lN n S = S := by
  induction n with
  | zero => rfl
  | succ n ih =>
    simp only [hA, Bool.or_eq_false_iff, decide_eq_false_iff_not] at h
    simp only [fA]
    rw [if_neg h.2]
    exact ih h.1
theorem fA_more (n : Nat) (ht : ∀ k, k < n → tN k < 36 ∧ E (tN k) = true) (S : Nat → Nat) (h : hA sN tN lN n S = true) : ∃ v, v < 36 ∧ E v = true ∧ S v < fA sN tN lN n S v := by
  induction n with
  | zero => cases h
  | succ n ih =>
    simp only [hA, Bool.or_eq_true, decide_eq_true_eq] at h
    rcases h with h | h
    · obtain ⟨v, h1, h2, h3⟩ := ih (fun k hk => ht k (by omega)) h
      exact ⟨v, h1, h2, Nat.lt_of_lt_of_le h3 (fA_mono n 1 S v)⟩
    · obtain ⟨t1, t2⟩ := ht n (by omega)
      refine ⟨tN n, t1, t2, ?_⟩
      simp only [fA]
      rw [if_pos h, u_at, if_pos rfl]
      exact Nat.lt_of_le_of_lt (fA_ge n S (tN n)) h
theorem fA_off (n : Nat) (ht : ∀ k, k < n → E (tN k) = true) (S : Nat → Nat) (v : Nat) (h : E v = false) : fA sN tN lN n S v = S v := by
  induction n with
  | zero => rfl
  | succ n ih =>
    simp only [fA]
    split
    · have h1 := ht n (by omega)
      rw [u_at, if_neg (fun e => by rw [e, h1] at h; cases h)]
      exact ih fun k hk => ht k (by omega)
    · exact ih fun k hk => ht k (by omega)
theorem fA_Rd {n : Nat} (hAx : ∀ u v l, A u v l → u < 36 ∧ E u = true ∧ v < 36 ∧ E v = true) (c1 : ∀ k, k < n → A (sN k) (tN k) (lN k)) (c2 : ∀ u v l, A u v l → ∃ k, k < n ∧ sN k = u ∧ tN k = v ∧ lN k = l) : p_Rd E A b (fun S => ∀ v, v < 36 → E v = true → b v ≤ S v) (fA sN tN lN n) := by
  have key : ∀ (S : Nat → Nat) (k : Nat), k < n → S (sN k) + lN k ≤ fA sN tN lN n S (tN k) := by
    intro S k hk
    have h1 : fA sN tN lN k S (sN k) + lN k ≤ fA sN tN lN (k + 1) S (tN k) := by
      simp only [fA]
      split
      · rw [u_at, if_pos rfl]; exact Nat.le_refl _
      · rename_i q
        exact Nat.le_of_not_lt q
    have h2 := fA_mono (sN := sN) (tN := tN) (lN := lN) (k + 1) (n - (k + 1)) S (tN k)
    rw [show k + 1 + (n - (k + 1)) = n from by omega] at h2
    have h3 := fA_ge (sN := sN) (tN := tN) (lN := lN) k S (sN k)
    omega
  intro S hJ
  refine ⟨fun v => fA_ge n S v, ?_, ?_, ?_, ?_, ?_⟩
  · intro F hFe hS
    have : ∀ m, m ≤ n → ∀ v, v < 36 → E v = true → fA sN tN lN m S v ≤ F v := by
      intro m
      induction m with
      | zero => intro _; exact hS
      | succ m ih =>
        intro hm v hv he
        simp only [fA]
        split
        · rw [u_at]
          split
          · rename_i e
            subst e
            have h1 := c1 m (by omega)
            obtain ⟨g1, g2, -, -⟩ := hAx _ _ _ h1
            have h2 := hFe.2 _ _ _ h1
            have h3 := ih (by omega) (sN m) g1 g2
            omega
          · exact ih (by omega) v hv he
        · exact ih (by omega) v hv he
    exact this n (Nat.le_refl _)
  · intro u v l h
    obtain ⟨k, h1, rfl, rfl, rfl⟩ := c2 u v l h
    exact key S k h1
  · intro v hv he
    exact Nat.le_trans (hJ v hv he) (fA_ge n S v)
  · intro v he
    exact fA_off n (fun k hk => (hAx _ _ _ (c1 k hk)).2.2.2) S v he
  · intro v hv he
    exact Nat.le_trans (hJ v hv he) (fA_ge n S v)
end BYARCS
/-! queues -/
def inQ (qu : Nat → Nat) : Nat → Nat → Bool
  | 0, _ => false
  | q + 1, u => inQ qu q u || decide (qu q = u)
theorem inQ_iff (qu : Nat → Nat) (q u : Nat) : inQ qu q u = true ↔ ∃ i, i < q ∧ qu i = u := by
  induction q with
  | zero => simp [inQ]
  | succ q ih =>
    simp only [inQ, Bool.or_eq_true, decide_eq_true_eq, ih]
    constructor
    · rintro (⟨i, h1, h2⟩ | h)
      · exact ⟨i, by omega, h2⟩
      · exact ⟨q, by omega, h⟩
    · rintro ⟨i, h1, h2⟩
      by_cases e : i = q
      · subst e; exact Or.inr h2
      · exact Or.inl ⟨i, by omega, h2⟩
theorem inQ_same {qu qv : Nat → Nat} {q : Nat} (h : ∀ i, i < q → qv i = qu i) (u : Nat) : inQ qv q u = inQ qu q u := by
  rw [Bool.eq_iff_iff, inQ_iff, inQ_iff]
  constructor
  · rintro ⟨i, h1, h2⟩; exact ⟨i, h1, by rw [← h i h1]; exact h2⟩
  · rintro ⟨i, h1, h2⟩; exact ⟨i, h1, by rw [h i h1]; exact h2⟩
theorem p_cn_eq {p q : Nat → Bool} {n : Nat} (h : ∀ v, v < n → p v = q v) : p_cn p n = p_cn q n := Nat.le_antisymm (p_cn_le fun v hv e => by rw [← h v hv]; exact e) (p_cn_le fun v hv e => by rw [h v hv]; exact e)
/-- one place more -/
theorem p_cn_one {p q : Nat → Bool} {k : Nat} : ∀ {n : Nat}, k < n → (∀ v, v < n → v ≠ k → p v = q v) → p k = false → q k = true → p_cn q n = p_cn p n + 1 := by
  intro n
  induction n with
  | zero => intro h; omega
  | succ n ih =>
    intro hk h h1 h2
    simp only [p_cn]
    by_cases e : k = n
    · subst e
      rw [p_cn_eq (p := p) (q := q) (fun v hv => h v (by omega) (by omega)), h1, h2]
      simp
    · rw [ih (by omega) (fun v hv hne => h v (by omega) hne) h1 h2, h n (by omega) (fun z => e z.symm)]
      omega
theorem inQ_cn {qu : Nat → Nat} : ∀ {m : Nat}, (∀ i, i < m → qu i < 36) → (∀ i j, i < m → j < m → qu i = qu j → i = j) → p_cn (inQ qu m) 36 = m := by
  intro m
  induction m with
  | zero =>
    intro _ _
    have : p_cn (inQ qu 0) 36 = p_cn (fun _ => false) 36 := rfl
    rw [this]
    decide
  | succ m ih =>
    intro h1 h2
    have h3 := ih (fun i hi => h1 i (by omega)) (fun i j hi hj => h2 i j (by omega) (by omega))
    rw [p_cn_one (p := inQ qu m) (q := inQ qu (m + 1)) (k := qu m) (h1 m (by omega)) (fun v hv hne => by
      simp only [inQ]
      rw [decide_eq_false (fun z => hne z.symm), Bool.or_false]) (by
      rw [Bool.eq_false_iff]
      intro z
      obtain ⟨i, i1, i2⟩ := (inQ_iff _ _ _).mp z
      have := h2 i m (by omega) (by omega) i2
      omega) (by simp [inQ]), h3]
/-! a plan's arcs -/
def dPr (d : Nat → Nat) (a : Nat) : Nat := if dBl d a then a + 1 else a
def dLn (d : Nat → Nat) (m a : Nat) : Nat := d (5 + 9 * m + 1) + (if dBl d a then 0 else dDu d a)
def dBa (d : Nat → Nat) (v : Nat) : Nat := if v % 6 = 0 then d (59 + 4 * (v / 6)) else 0
def dAr (d : Nat → Nat) (u v l : Nat) : Prop := (v < 36 ∧ dEx d v = true ∧ v % 6 ≠ 0 ∧ u = v - 1 ∧ l = dDu d (v - 1)) ∨ ∃ m k, m < d 0 ∧ k + 1 < dCn d m ∧ v = dOr d m (k + 1) ∧ u = dPr d (dOr d m k) ∧ l = dLn d m (dOr d m k)
theorem dEx_iff (d : Nat → Nat) (o : Nat) : dEx d o = true ↔ o / 6 < d 2 ∧ o % 6 < d (59 + 4 * (o / 6) + 3) := by simp [dEx]
theorem dBl_nl {d : Nat → Nat} {o : Nat} (h : dBl d o = true) : dLa d o = false := by
  simp only [dBl, Bool.and_eq_true, Bool.not_eq_true'] at h
  exact h.2
/-- behind one that isn't its job's last there is another -/
theorem dEx_next {d : Nat → Nat} (hV : dV d) {o : Nat} (ho : o < 36) (h : dEx d o = true) (hl : dLa d o = false) : o + 1 < 36 ∧ dEx d (o + 1) = true ∧ (o + 1) % 6 ≠ 0 := by
  obtain ⟨h1, h2⟩ := (dEx_iff d o).mp h
  have h3 := (hV.2.2.2.1 (o / 6) h1).2.1
  have h4 : o % 6 + 1 ≠ d (59 + 4 * (o / 6) + 3) := by simpa [dLa] using hl
  have e1 : (o + 1) / 6 = o / 6 := by omega
  have e2 : (o + 1) % 6 = o % 6 + 1 := by omega
  refine ⟨by omega, (dEx_iff d (o + 1)).mpr ?_, by omega⟩
  rw [e1, e2]
  exact ⟨h1, by omega⟩
theorem dEx_prev {d : Nat → Nat} {o : Nat} (h : dEx d o = true) (hl : o % 6 ≠ 0) : dEx d (o - 1) = true ∧ dLa d (o - 1) = false := by
  obtain ⟨h1, h2⟩ := (dEx_iff d o).mp h
  have e1 : (o - 1) / 6 = o / 6 := by omega
  have e2 : (o - 1) % 6 = o % 6 - 1 := by omega
  refine ⟨(dEx_iff d (o - 1)).mpr ?_, ?_⟩
  · rw [e1, e2]; exact ⟨h1, by omega⟩
  · unfold dLa
    rw [e1, e2]
    simp
    omega
theorem dPr_ex {d : Nat → Nat} (hV : dV d) {a : Nat} (ha : a < 36) (h : dEx d a = true) : dPr d a < 36 ∧ dEx d (dPr d a) = true := by
  unfold dPr
  split
  · rename_i q
    have := dEx_next hV ha h (dBl_nl q)
    exact ⟨this.1, this.2.1⟩
  · exact ⟨ha, h⟩
theorem dAr_ex {d : Nat → Nat} (hV : dV d) {u v l : Nat} (h : dAr d u v l) : u < 36 ∧ dEx d u = true ∧ v < 36 ∧ dEx d v = true := by
  rcases h with ⟨h1, h2, h3, rfl, -⟩ | ⟨m, k, h1, h2, rfl, rfl, -⟩
  · exact ⟨by omega, (dEx_prev h2 h3).1, h1, h2⟩
  · obtain ⟨g1, g2, -⟩ := (hV.2.2.2.2.2.1 m h1).2.2 (k + 1) h2
    obtain ⟨g3, g4, -⟩ := (hV.2.2.2.2.2.1 m h1).2.2 k (by omega)
    obtain ⟨g5, g6⟩ := dPr_ex hV g3 g4
    exact ⟨g5, g6, g1, g2⟩
/-- the starts of a plan that can be timed -/
def dFe (d : Nat → Nat) (F : Nat → Nat) : Prop := p_Fe (dEx d) (dAr d) (dBa d) F
def dLe (d : Nat → Nat) (S : Nat → Nat) : Prop := p_Le (dEx d) (dAr d) (dBa d) S
