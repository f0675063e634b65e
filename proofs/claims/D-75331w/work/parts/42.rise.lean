/-! THE PLAIN LAW, part 2: starts that are raised until all arcs are kept. The least starts; in how many rounds they are reached -/
set_option maxRecDepth 100000
theorem u_at {α : Type} (f : Nat → α) (k j : Nat) (v : α) : va_up f k v j = if j = k then v else f j := rfl
/-- a least number -/
theorem p_min {P : Nat → Prop} {n : Nat} (h : P n) : ∃ m, P m ∧ ∀ k, k < m → ¬ P k := by
  induction n using Nat.strongRecOn with
  | ind n ih =>
    by_cases q : ∃ k, k < n ∧ P k
    · obtain ⟨k, h1, h2⟩ := q
      exact ih k h1 h2
    · exact ⟨n, h, fun k hk hp => q ⟨k, hk, hp⟩⟩
def p_sum (F : Nat → Nat) : Nat → Nat
  | 0 => 0
  | n + 1 => p_sum F n + F n
theorem p_sum_le {F L : Nat → Nat} {n : Nat} (h : ∀ v, v < n → F v ≤ L v) : p_sum F n ≤ p_sum L n := by
  induction n with
  | zero => exact Nat.le_refl _
  | succ n ih =>
    have h1 := ih (fun v hv => h v (by omega))
    have h2 := h n (by omega)
    simp only [p_sum]
    omega
theorem p_sum_lt {F L : Nat → Nat} {n : Nat} (h : ∀ v, v < n → F v ≤ L v) {v : Nat} (hv : v < n) (hs : F v < L v) : p_sum F n < p_sum L n := by
  induction n with
  | zero => omega
  | succ n ih =>
    have h2 := h n (by omega)
    simp only [p_sum]
    by_cases e : v = n
    · subst e
      have h1 := p_sum_le (F := F) (L := L) (n := v) (fun u hu => h u (by omega))
      omega
    · have h1 := ih (fun u hu => h u (by omega)) (by omega)
      omega
/-- how many places below n -/
def p_cn (p : Nat → Bool) : Nat → Nat
  | 0 => 0
  | n + 1 => p_cn p n + (if p n then 1 else 0)
theorem p_cn_le {p q : Nat → Bool} {n : Nat} (h : ∀ v, v < n → p v = true → q v = true) : p_cn p n ≤ p_cn q n := by
  induction n with
  | zero => exact Nat.le_refl _
  | succ n ih =>
    have h1 := ih (fun v hv => h v (by omega))
    have h2 := h n (by omega)
    simp only [p_cn]
    cases e : p n with
    | true => rw [h2 e]; simp; omega
    | false => simp; omega
theorem p_cn_lt {p q : Nat → Bool} {n : Nat} (h : ∀ v, v < n → p v = true → q v = true) {v : Nat} (hv : v < n) (h1 : p v = false) (h2 : q v = true) : p_cn p n < p_cn q n := by
  induction n with
  | zero => omega
  | succ n ih =>
    simp only [p_cn]
    by_cases e : v = n
    · subst e
      have h3 := p_cn_le (p := p) (q := q) (n := v) (fun u hu => h u (by omega))
      rw [h1, h2]
      simp
      omega
    · have h3 := ih (fun u hu => h u (by omega)) (by omega)
      have h4 := h n (by omega)
      cases e2 : p n with
      | true => rw [h4 e2]; simp; omega
      | false => simp; omega
theorem p_cn_le_n (p : Nat → Bool) (n : Nat) : p_cn p n ≤ n := by
  induction n with
  | zero => exact Nat.le_refl _
  | succ n ih => simp only [p_cn]; split <;> omega
/-- starts that keep all arcs (u v l: v starts l behind u or later), of the nodes E below 36, none before its base b -/
def p_Fe (E : Nat → Bool) (A : Nat → Nat → Nat → Prop) (b : Nat → Nat) (F : Nat → Nat) : Prop := (∀ v, v < 36 → E v = true → b v ≤ F v) ∧ ∀ u v l, A u v l → F u + l ≤ F v
/-- the least such, 0 elsewhere -/
def p_Le (E : Nat → Bool) (A : Nat → Nat → Nat → Prop) (b : Nat → Nat) (S : Nat → Nat) : Prop := p_Fe E A b S ∧ (∀ F, p_Fe E A b F → ∀ v, v < 36 → E v = true → S v ≤ F v) ∧ ∀ v, v < 36 → E v = false → S v = 0
theorem p_Le_eq {E : Nat → Bool} {A : Nat → Nat → Nat → Prop} {b S T : Nat → Nat} (h : p_Le E A b S) (g : p_Le E A b T) {v : Nat} (hv : v < 36) : S v = T v := by
  cases e : E v with
  | true => exact Nat.le_antisymm (h.2.1 T g.1 v hv e) (g.2.1 S h.1 v hv e)
  | false => rw [h.2.2 v hv e, g.2.2 v hv e]
section RISE
variable {E : Nat → Bool} {A : Nat → Nat → Nat → Prop} {b : Nat → Nat}
theorem p_small {F : Nat → Nat} (hF : p_Fe E A b F) : ∃ L, p_Fe E A b L ∧ ∀ F, p_Fe E A b F → p_sum L 36 ≤ p_sum F 36 := by
  obtain ⟨m, ⟨L, h1, h2⟩, h3⟩ := p_min (P := fun n => ∃ F, p_Fe E A b F ∧ p_sum F 36 = n) ⟨F, hF, rfl⟩
  refine ⟨L, h1, fun F' hF' => ?_⟩
  rw [h2]
  exact Nat.le_of_not_lt fun q => h3 _ q ⟨F', hF', rfl⟩
/-- what the least rest on: outside of any set some node is held by its base or from within -/
theorem p_tight (hA : ∀ u v l, A u v l → u < 36 ∧ E u = true ∧ v < 36 ∧ E v = true) {L : Nat → Nat} (hL : p_Fe E A b L) (hm : ∀ F, p_Fe E A b F → p_sum L 36 ≤ p_sum F 36) (K : Nat → Bool) (hK : ∃ v, v < 36 ∧ E v = true ∧ K v = false) :
    ∃ v, v < 36 ∧ E v = true ∧ K v = false ∧ (L v = b v ∨ ∃ u l, A u v l ∧ K u = true ∧ L v = L u + l) := by
  apply Classical.byContradiction
  intro hno
  have hb : ∀ v, v < 36 → E v = true → K v = false → b v < L v := fun v h1 h2 h3 => by
    have h4 := hL.1 v h1 h2
    have h5 : L v ≠ b v := fun q => hno ⟨v, h1, h2, h3, Or.inl q⟩
    omega
  have ha : ∀ u v l, A u v l → K v = false → K u = true → L u + l < L v := fun u v l h1 h2 h3 => by
    have h4 := hL.2 u v l h1
    obtain ⟨-, -, h6, h7⟩ := hA u v l h1
    have h5 : L v ≠ L u + l := fun q => hno ⟨v, h6, h7, h2, Or.inr ⟨u, l, h1, h3, q⟩⟩
    omega
  have hF : p_Fe E A b (fun v => if v < 36 ∧ E v = true ∧ K v = false then L v - 1 else L v) := by
    refine ⟨fun v h1 h2 => ?_, fun u v l h1 => ?_⟩
    · have h4 := hL.1 v h1 h2
      show b v ≤ (if v < 36 ∧ E v = true ∧ K v = false then L v - 1 else L v)
      split
      · rename_i q
        have := hb v q.1 q.2.1 q.2.2
        omega
      · exact h4
    · obtain ⟨g1, g2, g3, g4⟩ := hA u v l h1
      have h4 := hL.2 u v l h1
      show (if u < 36 ∧ E u = true ∧ K u = false then L u - 1 else L u) + l ≤ (if v < 36 ∧ E v = true ∧ K v = false then L v - 1 else L v)
      by_cases qu : K u = false
      · rw [if_pos ⟨g1, g2, qu⟩]
        have := hb u g1 g2 qu
        split <;> omega
      · rw [if_neg (fun z => qu z.2.2)]
        split
        · rename_i q
          have := ha u v l h1 q.2.2 (by simpa using qu)
          omega
        · exact h4
  obtain ⟨v, h1, h2, h3⟩ := hK
  have h4 := hm _ hF
  have h5 := p_sum_lt (F := fun v => if v < 36 ∧ E v = true ∧ K v = false then L v - 1 else L v) (L := L) (n := 36) (fun v _ => by
    show (if v < 36 ∧ E v = true ∧ K v = false then L v - 1 else L v) ≤ L v
    split <;> omega) h1 (by
    show (if v < 36 ∧ E v = true ∧ K v = false then L v - 1 else L v) < L v
    rw [if_pos ⟨h1, h2, h3⟩]
    have := hb v h1 h2 h3
    omega)
  omega
/-- a round: it raises, to no more than any F that keeps all, at least as far as each arc and each base asks -/
def p_Rd (E : Nat → Bool) (A : Nat → Nat → Nat → Prop) (b : Nat → Nat) (J : (Nat → Nat) → Prop) (R : (Nat → Nat) → Nat → Nat) : Prop := ∀ S : Nat → Nat, J S → (∀ v, S v ≤ R S v) ∧ (∀ F, p_Fe E A b F → (∀ v, v < 36 → E v = true → S v ≤ F v) → ∀ v, v < 36 → E v = true → R S v ≤ F v) ∧ (∀ u v l, A u v l → S u + l ≤ R S v) ∧ (∀ v, v < 36 → E v = true → b v ≤ R S v) ∧ (∀ v, E v = false → R S v = S v) ∧ J (R S)
def p_it (R : (Nat → Nat) → Nat → Nat) : Nat → (Nat → Nat) → Nat → Nat
  | 0, S => S
  | n + 1, S => p_it R n (R S)
theorem p_reach (hA : ∀ u v l, A u v l → u < 36 ∧ E u = true ∧ v < 36 ∧ E v = true) {L : Nat → Nat} (hL : p_Fe E A b L) (hm : ∀ F, p_Fe E A b F → p_sum L 36 ≤ p_sum F 36) {J : (Nat → Nat) → Prop} {R : (Nat → Nat) → Nat → Nat} (hR : p_Rd E A b J R) :
    ∀ (n : Nat) (S : Nat → Nat), J S → (∀ v, v < 36 → E v = true → S v ≤ L v) → p_cn E 36 ≤ n + p_cn (fun v => E v && decide (S v = L v)) 36 → ∀ v, v < 36 → E v = true → p_it R n S v = L v := by
  intro n
  induction n with
  | zero =>
    intro S hJ h1 h2 v hv he
    apply Classical.byContradiction
    intro hne
    have h3 := p_cn_lt (p := fun v => E v && decide (S v = L v)) (q := E) (n := 36) (fun v _ h => by simp only [Bool.and_eq_true] at h; exact h.1) hv (by
      show (E v && decide (S v = L v)) = false
      simp only [p_it] at hne
      simp [hne]) he
    omega
  | succ n ih =>
    intro S hJ h1 h2
    show ∀ v, v < 36 → E v = true → p_it R n (R S) v = L v
    obtain ⟨r1, r2, r3, r4, r5, r6⟩ := hR S hJ
    have h4 := r2 L hL h1
    refine ih (R S) r6 h4 ?_
    by_cases hd : ∃ v, v < 36 ∧ E v = true ∧ (decide (S v = L v)) = false
    · obtain ⟨v, hv, he, hk, hc⟩ := p_tight hA hL hm (fun v => decide (S v = L v)) hd
      have hfin : R S v = L v := by
        have h5 := h4 v hv he
        rcases hc with q | ⟨u, l, q1, q2, q3⟩
        · have h6 := r4 v hv he
          omega
        · have h6 := r3 u v l q1
          have h7 : S u = L u := by simpa using q2
          omega
      have h9 := p_cn_lt (p := fun v => E v && decide (S v = L v)) (q := fun v => E v && decide (R S v = L v)) (n := 36) (fun w hw h => by
        simp only [Bool.and_eq_true, decide_eq_true_eq] at h ⊢
        refine ⟨h.1, ?_⟩
        have h6 := r1 w
        have h7 := h4 w hw h.1
        omega) hv (by
          show (E v && decide (S v = L v)) = false
          rw [hk]; simp) (by
          show (E v && decide (R S v = L v)) = true
          rw [he]; simp [hfin])
      omega
    · have hall : ∀ v, v < 36 → E v = true → S v = L v := fun v h5 h6 => Classical.byContradiction fun q => hd ⟨v, h5, h6, by simpa using q⟩
      have h9 := p_cn_le (p := E) (q := fun v => E v && decide (R S v = L v)) (n := 36) (fun w hw h => by
        simp only [Bool.and_eq_true, decide_eq_true_eq]
        refine ⟨h, ?_⟩
        have h6 := r1 w
        have h7 := h4 w hw h
        have h8 := hall w hw h
        omega)
      omega
/-- rounds until nothing is raised, at most n; whether they ended so -/
def p_run (R : (Nat → Nat) → Nat → Nat) (ch : (Nat → Nat) → Bool) : Nat → (Nat → Nat) → Bool × (Nat → Nat)
  | 0, S => (false, S)
  | n + 1, S => if ch S then p_run R ch n (R S) else (true, R S)
theorem p_run_true {R : (Nat → Nat) → Nat → Nat} {ch : (Nat → Nat) → Bool} (hch : ∀ S, ch S = false → R S = S) {J : (Nat → Nat) → Prop} (hR : p_Rd E A b J R) :
    ∀ (n : Nat) (S : Nat → Nat), J S → (p_run R ch n S).1 = true → R (p_run R ch n S).2 = (p_run R ch n S).2 ∧ (∀ v, S v ≤ (p_run R ch n S).2 v) ∧ (∀ F, p_Fe E A b F → (∀ v, v < 36 → E v = true → S v ≤ F v) → ∀ v, v < 36 → E v = true → (p_run R ch n S).2 v ≤ F v) ∧ (∀ v, E v = false → (p_run R ch n S).2 v = S v) ∧ J (p_run R ch n S).2 := by
  intro n
  induction n with
  | zero => intro S hJ h; cases h
  | succ n ih =>
    intro S hJ h
    obtain ⟨r1, r2, r3, r4, r5, r6⟩ := hR S hJ
    simp only [p_run] at h ⊢
    cases e : ch S with
    | true =>
      rw [e] at h
      simp only [if_pos] at h ⊢
      obtain ⟨i1, i2, i3, i4, i5⟩ := ih (R S) r6 h
      refine ⟨i1, fun v => Nat.le_trans (r1 v) (i2 v), fun F hF hS v hv he => i3 F hF (r2 F hF hS) v hv he, fun v he => by rw [i4 v he, r5 v he], i5⟩
    | false =>
      simp only [Bool.false_eq_true, if_false]
      have e2 := hch S e
      exact ⟨by rw [e2, e2], r1, r2, r5, r6⟩
theorem p_run_fixed {R : (Nat → Nat) → Nat → Nat} {ch : (Nat → Nat) → Bool} (hch2 : ∀ S, ch S = true → ∃ v, v < 36 ∧ E v = true ∧ S v < R S v) {J : (Nat → Nat) → Prop} (hR : p_Rd E A b J R) {L : Nat → Nat} (hL : p_Fe E A b L) :
    ∀ (n m : Nat) (S : Nat → Nat), J S → n < m → (∀ v, v < 36 → E v = true → S v ≤ L v) → (∀ v, v < 36 → E v = true → p_it R n S v = L v) → (p_run R ch m S).1 = true := by
  intro n
  induction n with
  | zero =>
    intro m S hJ hm hS hit
    cases m with
    | zero => omega
    | succ m =>
      simp only [p_run]
      cases e : ch S with
      | false => rfl
      | true =>
        obtain ⟨v, h1, h2, h3⟩ := hch2 S e
        have h4 := (hR S hJ).2.1 L hL hS v h1 h2
        have h5 := hit v h1 h2
        simp only [p_it] at h5
        omega
  | succ n ih =>
    intro m S hJ hm hS hit
    cases m with
    | zero => omega
    | succ m =>
      simp only [p_run]
      cases e : ch S with
      | false => rfl
      | true =>
        simp only [if_pos]
        exact ih m (R S) (hR S hJ).2.2.2.2.2 (by omega) ((hR S hJ).2.1 L hL hS) hit
/-- rounds, as many as there are nodes and one: they end just if there are starts that keep all; then with the least -/
theorem p_rounds (hA : ∀ u v l, A u v l → u < 36 ∧ E u = true ∧ v < 36 ∧ E v = true) {J : (Nat → Nat) → Prop} {R : (Nat → Nat) → Nat → Nat} {ch : (Nat → Nat) → Bool} (hch : ∀ S, ch S = false → R S = S) (hch2 : ∀ S, ch S = true → ∃ v, v < 36 ∧ E v = true ∧ S v < R S v) (hR : p_Rd E A b J R) {S0 : Nat → Nat} (hJ : J S0) (h0 : ∀ F, p_Fe E A b F → ∀ v, v < 36 → E v = true → S0 v ≤ F v) (hz : ∀ v, v < 36 → E v = false → S0 v = 0) {n : Nat} (hn : p_cn E 36 < n) :
    ((p_run R ch n S0).1 = true → p_Le E A b (p_run R ch n S0).2) ∧ ((∃ F, p_Fe E A b F) → (p_run R ch n S0).1 = true) := by
  constructor
  · intro h
    obtain ⟨i1, i2, i3, i4, i5⟩ := p_run_true hch hR n S0 hJ h
    obtain ⟨r1, r2, r3, r4, r5, r6⟩ := hR (p_run R ch n S0).2 i5
    refine ⟨⟨fun v hv he => ?_, fun u v l hl => ?_⟩, fun F hF v hv he => i3 F hF (h0 F hF) v hv he, fun v hv he => by rw [i4 v he, hz v hv he]⟩
    · have := r4 v hv he
      rw [i1] at this
      exact this
    · have := r3 u v l hl
      rw [i1] at this
      exact this
  · rintro ⟨F, hF⟩
    obtain ⟨L, hL, hm⟩ := p_small hF
    exact p_run_fixed hch2 hR hL (p_cn E 36) n S0 hJ hn (h0 L hL) (p_reach hA hL hm hR (p_cn E 36) S0 hJ (h0 L hL) (Nat.le_add_right _ _))
end RISE
