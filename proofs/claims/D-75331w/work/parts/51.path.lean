/-! THE PLAIN LAW, part 11: the critical path of a plan -/
set_option maxRecDepth 100000
/-- what an operation's start rests on -/
theorem dLe_tight {d S : Nat → Nat} (hV : dV d) (h : dLe d S) {o : Nat} (ho : o < 36) (hex : dEx d o = true) : S o = dBa d o ∨ ∃ u l, dAr d u o l ∧ S o = S u + l := by
  apply Classical.byContradiction
  intro hno
  have h1 : dBa d o < S o := by
    have := h.1.1 o ho hex
    have : S o ≠ dBa d o := fun q => hno (Or.inl q)
    omega
  have h2 : ∀ u l, dAr d u o l → S u + l < S o := fun u l ha => by
    have := h.1.2 u o l ha
    have : S o ≠ S u + l := fun q => hno (Or.inr ⟨u, l, ha, q⟩)
    omega
  obtain ⟨x, hx⟩ : ∃ x, x + 1 = S o := ⟨S o - 1, by omega⟩
  have hF : p_Fe (dEx d) (dAr d) (dBa d) (va_up S o x) := by
    refine ⟨fun w hw he => ?_, fun u w l ha => ?_⟩
    · rw [u_at]
      split
      · rename_i e; subst e; omega
      · exact h.1.1 w hw he
    · have h3 := h.1.2 u w l ha
      rw [u_at, u_at]
      by_cases e : w = o
      · subst e
        have h4 := h2 u l ha
        rw [if_pos rfl]
        split
        · rename_i e2
          subst e2
          omega
        · omega
      · rw [if_neg e]
        split
        · rename_i e2; subst e2; omega
        · exact h3
  have := h.2.1 _ hF o ho hex
  rw [u_at, if_pos rfl] at this
  omega
/-- the machine's arc to an operation: one more than where it begins; 0 none -/
noncomputable def dSr (d : Nat → Nat) (o : Nat) : Nat := @dite _ (∃ r m l, m < d 0 ∧ l + 1 < dCn d m ∧ o = dOr d m (l + 1) ∧ r = dPr d (dOr d m l) + 1) (Classical.propDecidable _) (fun h => Classical.choose h) (fun _ => 0)
theorem dSr_at {d : Nat → Nat} (hV : dV d) {m l : Nat} (hm : m < d 0) (hl : l + 1 < dCn d m) : dSr d (dOr d m (l + 1)) = dPr d (dOr d m l) + 1 := by
  have hx : ∃ r i j, i < d 0 ∧ j + 1 < dCn d i ∧ dOr d m (l + 1) = dOr d i (j + 1) ∧ r = dPr d (dOr d i j) + 1 := ⟨_, m, l, hm, hl, rfl, rfl⟩
  have e : dSr d (dOr d m (l + 1)) = Classical.choose hx := by
    unfold dSr
    exact @dif_pos _ (Classical.propDecidable _) hx _ _ _
  obtain ⟨i, j, h1, h2, h3, h4⟩ := Classical.choose_spec hx
  have a1 := ((hV.2.2.2.2.2.1 m hm).2.2 (l + 1) hl).2.2
  have a2 := ((hV.2.2.2.2.2.1 i h1).2.2 (j + 1) h2).2.2
  have e2 : i = m := by rw [← a1, h3, a2]
  subst e2
  have := hV.2.2.2.2.2.2 i (l + 1) (j + 1) hm hl h2 h3
  have e3 : j = l := by omega
  subst e3
  rw [e, h4]
theorem dSr_0 {d : Nat → Nat} {o : Nat} (h : ¬ ∃ m l, m < d 0 ∧ l + 1 < dCn d m ∧ o = dOr d m (l + 1)) : dSr d o = 0 := by
  unfold dSr
  exact @dif_neg _ (Classical.propDecidable _) (fun ⟨r, m, l, h1, h2, h3, _⟩ => h ⟨m, l, h1, h2, h3⟩) _ _ _
theorem dLA_Sr {d src ln : Nat → Nat} (hV : dV d) (h : dLA d (d 0) 0 src ln) {o : Nat} (ho : o < 36) : src o = dSr d o := by
  by_cases q : ∃ m l, m < d 0 ∧ l + 1 < dCn d m ∧ o = dOr d m (l + 1)
  · obtain ⟨m, l, h1, h2, rfl⟩ := q
    rw [dSr_at hV h1 h2]
    exact (h.1 m l (Or.inl ⟨h1, h2⟩)).1
  · rw [dSr_0 q]
    apply Classical.byContradiction
    intro hne
    obtain ⟨i, l, g1, g2, g3, -⟩ := h.2 o ho hne
    exact q ⟨i, l, g1, g2, g3⟩
/-- where the path goes back to: 0 no more, else one more than the operation -/
noncomputable def dBf (d S : Nat → Nat) (o : Nat) : Nat := if o % 6 = 0 ∧ S o = d (59 + 4 * (o / 6)) then 0 else if o % 6 ≠ 0 ∧ S (o - 1) + dDu d (o - 1) = S o then o else dSr d o
/-- if it neither begins at its release nor behind the one before it, it waits for its machine -/
theorem dBf_Sr {d S : Nat → Nat} (hV : dV d) (h : dLe d S) {o : Nat} (ho : o < 36) (hex : dEx d o = true) (h1 : ¬ (o % 6 = 0 ∧ S o = d (59 + 4 * (o / 6)))) (h2 : ¬ (o % 6 ≠ 0 ∧ S (o - 1) + dDu d (o - 1) = S o)) : ∃ m l, m < d 0 ∧ l + 1 < dCn d m ∧ o = dOr d m (l + 1) := by
  rcases dLe_tight hV h ho hex with q | ⟨u, l, ha, hq⟩
  · unfold dBa at q
    by_cases h6 : o % 6 = 0
    · rw [if_pos h6] at q
      exact absurd ⟨h6, q⟩ h1
    · rw [if_neg h6] at q
      obtain ⟨p1, -⟩ := dEx_prev hex h6
      have := h.1.2 (o - 1) o _ (Or.inl ⟨ho, hex, h6, rfl, rfl⟩)
      have := (hV.2.2.2.2.1 (o - 1) (by omega) p1).2.1
      omega
  · rcases ha with ⟨-, -, h6, rfl, rfl⟩ | ⟨m, k, m1, m2, m3, -, -⟩
    · exact absurd ⟨h6, hq.symm⟩ h2
    · exact ⟨m, k, m1, m2, m3⟩
theorem dBf_ex {d S : Nat → Nat} (hV : dV d) (h : dLe d S) {o : Nat} (ho : o < 36) (hex : dEx d o = true) (hne : dBf d S o ≠ 0) : dBf d S o ≤ 36 ∧ dEx d (dBf d S o - 1) = true := by
  unfold dBf at hne ⊢
  by_cases h1 : o % 6 = 0 ∧ S o = d (59 + 4 * (o / 6))
  · rw [if_pos h1] at hne
    exact absurd rfl hne
  · rw [if_neg h1] at hne ⊢
    by_cases h2 : o % 6 ≠ 0 ∧ S (o - 1) + dDu d (o - 1) = S o
    · rw [if_pos h2]
      exact ⟨by omega, (dEx_prev hex h2.1).1⟩
    · rw [if_neg h2]
      obtain ⟨m, l, m1, m2, rfl⟩ := dBf_Sr hV h ho hex h1 h2
      rw [dSr_at hV m1 m2, Nat.add_sub_cancel]
      obtain ⟨a1, a2, -⟩ := (hV.2.2.2.2.2.1 m m1).2.2 l (by omega)
      obtain ⟨g1, g2⟩ := dPr_ex hV a1 a2
      exact ⟨by omega, g2⟩
/-- the job that is done last, the first such; one more than its number -/
def dLj (d S : Nat → Nat) : Nat → Nat
  | 0 => 0
  | j + 1 => if dLj d S j = 0 ∨ S (dEn d (dLj d S j - 1)) + dDu d (dEn d (dLj d S j - 1)) < S (dEn d j) + dDu d (dEn d j) then j + 1 else dLj d S j
theorem dLj_spec (d S : Nat → Nat) : ∀ n, (n = 0 → dLj d S n = 0) ∧ (n ≠ 0 → 1 ≤ dLj d S n ∧ dLj d S n ≤ n ∧ dMs d S n = S (dEn d (dLj d S n - 1)) + dDu d (dEn d (dLj d S n - 1)) ∧ ∀ j, j + 1 < dLj d S n → S (dEn d j) + dDu d (dEn d j) < S (dEn d (dLj d S n - 1)) + dDu d (dEn d (dLj d S n - 1))) := by
  intro n
  induction n with
  | zero => exact ⟨fun _ => rfl, fun h => absurd rfl h⟩
  | succ n ih =>
    refine ⟨fun h => by omega, fun _ => ?_⟩
    have hle : ∀ m j, j < m → S (dEn d j) + dDu d (dEn d j) ≤ dMs d S m := by
      intro m
      induction m with
      | zero => intro j hj; omega
      | succ m ih2 =>
        intro j hj
        simp only [dMs]
        by_cases e : j = m
        · subst e; omega
        · have := ih2 j (by omega); omega
    simp only [dLj, dMs]
    by_cases z : n = 0
    · subst z
      have e := ih.1 rfl
      rw [if_pos (Or.inl e)]
      refine ⟨by omega, by omega, ?_, fun j hj => by omega⟩
      simp only [dMs, Nat.zero_add, Nat.sub_self]
      omega
    · obtain ⟨h1, h2, h3, h4⟩ := ih.2 z
      by_cases q : dLj d S n = 0 ∨ S (dEn d (dLj d S n - 1)) + dDu d (dEn d (dLj d S n - 1)) < S (dEn d n) + dDu d (dEn d n)
      · rw [if_pos q]
        have q : S (dEn d (dLj d S n - 1)) + dDu d (dEn d (dLj d S n - 1)) < S (dEn d n) + dDu d (dEn d n) := by
          rcases q with q | q
          · omega
          · exact q
        refine ⟨by omega, by omega, ?_, fun j hj => ?_⟩
        · rw [Nat.add_sub_cancel]; omega
        · rw [Nat.add_sub_cancel]
          have := hle n j (by omega)
          omega
      · rw [if_neg q]
        have q : ¬ S (dEn d (dLj d S n - 1)) + dDu d (dEn d (dLj d S n - 1)) < S (dEn d n) + dDu d (dEn d n) := fun z => q (Or.inr z)
        refine ⟨h1, by omega, ?_, h4⟩
        omega
/-- the last operation of that job; one more than its number -/
def dLt (d S : Nat → Nat) : Nat := if dLj d S (d 2) = 0 then 0 else dEn d (dLj d S (d 2) - 1) + 1
/-- along the path: what is on it so far, how many; where it goes on -/
noncomputable def dPa (d S : Nat → Nat) : Nat → (Nat → Nat) → Nat → Nat → (Nat → Nat) × Nat
  | 0, pa, n, _ => (pa, n)
  | f + 1, pa, n, x => if x = 0 ∨ inQ pa n (x - 1) = true then (pa, n) else dPa d S f (va_up pa n (x - 1)) (n + 1) (dBf d S (x - 1))
