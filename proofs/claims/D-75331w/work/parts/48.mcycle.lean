/-! THE PLAIN LAW, part 8: the reference looks for a cycle -/
set_option maxRecDepth 100000
def dPd (d : Nat → Nat) (u v : Nat) : Prop := ∃ l, dAr d u v l
/-- what holds of an operation when it holds of all that it waits for -/
def dCl (d : Nat → Nat) (C : Nat → Prop) : Prop := ∀ v, v < 36 → dEx d v = true → (∀ u, dPd d u v → C u) → C v
def dAcy (d : Nat → Nat) : Prop := ∀ C, dCl d C → ∀ v, v < 36 → dEx d v = true → C v
/-- a plan that can be timed -/
def dTm (d : Nat → Nat) : Prop := (∃ F, dFe d F) ∧ (d 1 = 0 → dAcy d)
def dNf (src : Nat → Nat) (S : Nat → Nat) (o : Nat) : Nat := if (o % 6 = 0 ∨ S (o - 1) ≠ 0) ∧ (src o = 0 ∨ S (src o - 1) ≠ 0) then 1 else 0
theorem dNf_preds {d src ln : Nat → Nat} (h : dLA d (d 0) 0 src ln) {o : Nat} (ho : o < 36) (hex : dEx d o = true) (S : Nat → Nat) : dNf src S o = 1 ↔ ∀ u, dPd d u o → S u ≠ 0 := by
  unfold dNf
  constructor
  · intro hq u hu
    have hq : (o % 6 = 0 ∨ S (o - 1) ≠ 0) ∧ (src o = 0 ∨ S (src o - 1) ≠ 0) := Classical.byContradiction fun z => by rw [if_neg z] at hq; omega
    obtain ⟨l, hl⟩ := hu
    rcases hl with ⟨-, -, h3, rfl, -⟩ | ⟨m, k, h1, h2, h3, rfl, -⟩
    · rcases hq.1 with z | z
      · exact absurd z h3
      · exact z
    · have g := (h.1 m k (Or.inl ⟨h1, h2⟩)).1
      rw [← h3] at g
      rcases hq.2 with z | z
      · omega
      · rw [g, Nat.add_sub_cancel] at z
        exact z
  · intro hq
    rw [if_pos]
    constructor
    · by_cases h6 : o % 6 = 0
      · exact Or.inl h6
      · exact Or.inr (hq (o - 1) ⟨_, Or.inl ⟨ho, hex, h6, rfl, rfl⟩⟩)
    · by_cases q : src o = 0
      · exact Or.inl q
      · obtain ⟨i, l, g1, g2, g3, g4, g5⟩ := h.2 o ho q
        refine Or.inr ?_
        rw [g4, Nat.add_sub_cancel]
        exact hq _ ⟨_, Or.inr ⟨i, l, g1, g2, g3, rfl, rfl⟩⟩
theorem dNf_pos {src S : Nat → Nat} {o : Nat} (h : (o % 6 = 0 ∨ S (o - 1) ≠ 0) ∧ (src o = 0 ∨ S (src o - 1) ≠ 0)) : dNf src S o = 1 := by
  unfold dNf
  rw [if_pos h]
theorem dNf_neg {src S : Nat → Nat} {o : Nat} (h : ¬ ((o % 6 = 0 ∨ S (o - 1) ≠ 0) ∧ (src o = 0 ∨ S (src o - 1) ≠ 0))) : dNf src S o = 0 := by
  unfold dNf
  rw [if_neg h]
theorem dNf_01 (src S : Nat → Nat) (o : Nat) : dNf src S o = 0 ∨ dNf src S o = 1 := by
  unfold dNf
  split
  · exact Or.inr rfl
  · exact Or.inl rfl
/-- marks: 0 or 1, of those that are there, in all that is closed -/
def dMk (d : Nat → Nat) (S : Nat → Nat) : Prop := (∀ v, S v ≤ 1) ∧ (∀ v, v < 36 → dEx d v = false → S v = 0) ∧ ∀ C, dCl d C → ∀ v, v < 36 → S v ≠ 0 → C v
theorem p_sum_up {S : Nat → Nat} {o x : Nat} : ∀ n, o < n → p_sum (va_up S o x) n + S o = p_sum S n + x := by
  intro n
  induction n with
  | zero => intro h; omega
  | succ n ih =>
    intro h
    simp only [p_sum, u_at]
    by_cases e : o = n
    · subst e
      have h1 : ∀ k, k ≤ o → p_sum (va_up S o x) k = p_sum S k := by
        intro k
        induction k with
        | zero => intro _; rfl
        | succ k ih2 =>
          intro hk
          simp only [p_sum, u_at]
          rw [ih2 (by omega), if_neg (by omega)]
      rw [h1 o (Nat.le_refl _), if_pos rfl]
      omega
    · have h1 := ih (by omega)
      rw [if_neg (fun z => e z.symm)]
      omega
theorem p_sum_cn {d S : Nat → Nat} (h : dMk d S) : ∀ n, n ≤ 36 → p_sum S n ≤ p_cn (dEx d) n := by
  intro n
  induction n with
  | zero => intro _; exact Nat.le_refl _
  | succ n ih =>
    intro hn
    have h1 := ih (by omega)
    simp only [p_sum, p_cn]
    cases e : dEx d n with
    | true => have := h.1 n; simp; omega
    | false => have := h.2.1 n (by omega) e; simp; omega
theorem p_sum_cn_eq {d S : Nat → Nat} (h : dMk d S) : ∀ n, n ≤ 36 → (p_sum S n = p_cn (dEx d) n ↔ ∀ v, v < n → dEx d v = true → S v ≠ 0) := by
  intro n
  induction n with
  | zero => intro _; exact ⟨fun _ v hv => by omega, fun _ => rfl⟩
  | succ n ih =>
    intro hn
    have h1 := ih (by omega)
    have h2 := p_sum_cn h n (by omega)
    have h3 := h.1 n
    simp only [p_sum, p_cn]
    cases e : dEx d n with
    | true =>
      simp only [if_true]
      constructor
      · intro q v hv hex
        have hs : S n = 1 := by omega
        by_cases ev : v = n
        · subst ev; omega
        · exact (h1.mp (by omega)) v (by omega) hex
      · intro q
        have := q n (by omega) e
        have := h1.mpr (fun v hv => q v (by omega))
        omega
    | false =>
      have h4 := h.2.1 n (by omega) e
      simp only [Bool.false_eq_true, if_false]
      constructor
      · intro q v hv hex
        by_cases ev : v = n
        · subst ev; rw [e] at hex; cases hex
        · exact (h1.mp (by omega)) v (by omega) hex
      · intro q
        have := h1.mpr (fun v hv => q v (by omega))
        omega
theorem dMk_step {d src ln S : Nat → Nat} (h : dLA d (d 0) 0 src ln) (hMk : dMk d S) {o : Nat} (ho : o < 36) (hex : dEx d o = true) (hn : dNf src S o = 1) (hp : ∀ u v l, dAr d u v l → u < 36) : dMk d (va_up S o 1) := by
  refine ⟨fun v => ?_, fun v hv he => ?_, fun C hC v hv hs => ?_⟩
  · rw [u_at]
    split
    · omega
    · exact hMk.1 v
  · rw [u_at, if_neg (fun e => by rw [e, hex] at he; cases he)]
    exact hMk.2.1 v hv he
  · rw [u_at] at hs
    by_cases e : v = o
    · subst e
      exact hC v hv hex fun u hu => hMk.2.2 C hC u (hu.elim fun l hl => hp u v l hl) ((dNf_preds h hv hex S).mp hn u hu)
    · rw [if_neg e] at hs
      exact hMk.2.2 C hC v hv hs
theorem dMk_fM {d src ln S : Nat → Nat} (hV : dV d) (h : dLA d (d 0) 0 src ln) (hMk : dMk d S) : ∀ o, o ≤ 36 → dMk d (fM (dEx d) (dNf src) o S) := by
  intro o
  induction o with
  | zero => intro _; exact hMk
  | succ o ih =>
    intro ho
    have h1 := ih (by omega)
    simp only [fM]
    split
    · rename_i q
      have h2 : dNf src (fM (dEx d) (dNf src) o S) o = 1 := by rcases dNf_01 src (fM (dEx d) (dNf src) o S) o with z | z <;> omega
      rw [h2]
      exact dMk_step h h1 (by omega) q.1 h2 (fun u v l hl => (dAr_ex hV hl).1)
    · exact h1
/-- marks that no round changes are all there is, just if there is no cycle -/
theorem dMk_fix {d src ln S : Nat → Nat} (hV : dV d) (h : dLA d (d 0) 0 src ln) (hMk : dMk d S) (hf : fM (dEx d) (dNf src) 36 S = S) : p_sum S 36 = p_cn (dEx d) 36 ↔ dAcy d := by
  rw [p_sum_cn_eq hMk 36 (Nat.le_refl _)]
  constructor
  · intro q C hC v hv hex
    exact hMk.2.2 C hC v hv (q v hv hex)
  · intro q v hv hex
    refine q (fun v => S v ≠ 0) (fun w hw hew hpre => ?_) v hv hex
    have hn := (dNf_preds h hw hew S).mpr hpre
    intro hz
    have hw1 : w + 1 ≤ 36 := hw
    have e1 : w + 1 + (36 - (w + 1)) = 36 := Nat.add_sub_of_le hw1
    have h3 : ∀ k, k ≤ 36 → ∀ v, fM (dEx d) (dNf src) k S v = S v := fun k hk v => by
      have e : k + (36 - k) = 36 := Nat.add_sub_of_le hk
      have a2 := fM_mono (E := dEx d) (need := dNf src) k (36 - k) S v
      rw [e, hf] at a2
      exact Nat.le_antisymm a2 (fM_ge (E := dEx d) (need := dNf src) k S v)
    have h4 : fM (dEx d) (dNf src) w S = S := funext fun v => h3 w (Nat.le_of_lt hw) v
    have h1 := h3 (w + 1) hw1 w
    have h5 : S w < dNf src S w := by rw [hz, hn]; exact Nat.one_pos
    have h6 : fM (dEx d) (dNf src) (w + 1) S = va_up S w (dNf src S w) := by
      show (if dEx d w = true ∧ fM (dEx d) (dNf src) w S w < dNf src (fM (dEx d) (dNf src) w S) w then va_up (fM (dEx d) (dNf src) w S) w (dNf src (fM (dEx d) (dNf src) w S) w) else fM (dEx d) (dNf src) w S) = _
      rw [h4, if_pos ⟨hew, h5⟩]
    rw [h6, u_at, if_pos rfl, hn, hz] at h1
    exact absurd h1 (by decide)
/-- how many are left -/
def dLf (d S : Nat → Nat) : Nat := p_cn (dEx d) 36 - p_sum S 36
theorem dLf_le (d S : Nat → Nat) : dLf d S ≤ 36 := Nat.le_trans (Nat.sub_le _ _) (p_cn_le_n _ _)
theorem dLf_mark {d S : Nat → Nat} {o : Nat} (ho : o < 36) (hS : S o = 0) (hM1 : dMk d (va_up S o 1)) : 1 ≤ dLf d S ∧ dLf d (va_up S o 1) = dLf d S - 1 := by
  have e3 := p_sum_up (S := S) (o := o) (x := 1) 36 ho
  have h1 := p_sum_cn hM1 36 (Nat.le_refl _)
  unfold dLf
  rw [hS] at e3
  generalize p_sum (va_up S o 1) 36 = a at *
  generalize p_sum S 36 = b at *
  generalize p_cn (dEx d) 36 = c at *
  omega
theorem dLf_lt {d S T : Nat → Nat} (hT : dMk d T) (h : ∀ v, S v ≤ T v) {v : Nat} (hv : v < 36) (hl : S v < T v) : dLf d T < dLf d S := by
  have h1 := p_sum_lt (F := S) (L := T) (n := 36) (fun w _ => h w) hv hl
  have h2 := p_sum_cn hT 36 (Nat.le_refl _)
  unfold dLf
  generalize p_sum T 36 = a at *
  generalize p_sum S 36 = b at *
  generalize p_cn (dEx d) 36 = c at *
  omega
theorem dLf_fix {d src ln S : Nat → Nat} (hV : dV d) (h : dLA d (d 0) 0 src ln) (hM : dMk d S) (hf : fM (dEx d) (dNf src) 36 S = S) : dLf d S = 0 ↔ dAcy d := by
  rw [← dMk_fix hV h hM hf]
  have h2 := p_sum_cn hM 36 (Nat.le_refl _)
  unfold dLf
  generalize p_sum S 36 = b at *
  generalize p_cn (dEx d) 36 = c at *
  omega
theorem dLf_0 (d : Nat → Nat) : dLf d (fun _ => 0) = p_cn (dEx d) 36 := by
  have : p_sum (fun _ => 0) 36 = 0 := by decide
  unfold dLf
  rw [this, Nat.sub_zero]
section MCYCLE
variable {G : Nat → Nat} {M : Nat} {s : zS} {d : Nat → Nat}
def mFree (μ : zMu) (S : Nat → Nat) : Prop := ∀ i, i < 36 → gA μ 17 i = nI (S i)
theorem m_Z1 {μ : zMu} {i : Nat} (hG : G 0 ≤ M) (hi : i < 36) : zsI G (mw M μ s) (some (M + 17)) 3 (nI i) (nI 1) = some (mw M (sA μ 17 i (nI 1)) s) := (m_sZ M μ s hG hi).trans (by rw [show nI 1 &&& 1 = nI 1 from by decide])
theorem m_Z0 {μ : zMu} {i : Nat} (hG : G 0 ≤ M) (hi : i < 36) : zsI G (mw M μ s) (some (M + 17)) 3 (nI i) (nI 0) = some (mw M (sA μ 17 i (nI 0)) s) := (m_sZ M μ s hG hi).trans (by rw [show nI 0 &&& 1 = nI 0 from by decide])
theorem M_cyc_l49 (hV : dV d) (hG : G 0 ≤ M) {src ln S : Nat → Nat} (hLA : dLA d (d 0) 0 src ln) (hMk : dMk d S) (k41 : Nat → Int32 → Int32 → zS → Option (Int32 × zS)) : ∀ (c o n : Nat) (μ : zMu), o + c = 36 → c < n → mD μ 2 d → mSr μ src → mFree μ (fM (dEx d) (dNf src) o S) → ∃ μ', f_X8_hasCycle_l49 G k41 n M (nI (dLf d (fM (dEx d) (dNf src) o S))) (bI (hM (dEx d) (dNf src) o S)) (nI o) (mw M μ s) = k41 M (nI (dLf d (fM (dEx d) (dNf src) 36 S))) (bI (hM (dEx d) (dNf src) 36 S)) (mw M μ' s) ∧ mFree μ' (fM (dEx d) (dNf src) 36 S) ∧ mFr [] [17] μ μ' := by
  have hb := hV.1
  have hSL := dLA_SL hV hLA
  intro c
  induction c with
  | zero =>
    intro o n μ hc hn hd hsr hS
    obtain ⟨n, rfl⟩ : ∃ q, n = q + 1 := ⟨n - 1, by omega⟩
    have e : o = 36 := by omega
    subst e
    refine ⟨μ, ?_, hS, mFr.refl _ _ _⟩
    show f_X8_hasCycle_b49 G k41 (f_X8_hasCycle_l49 G k41 n) M _ _ (nI 36) (mw M μ s) = _
    unfold f_X8_hasCycle_b49
    simp (disch := omega) only [n_lit, n_add, n_mul, n_sub, n_lt, n_le, n_eq, n_cl, n_div, n_md6, bI_0, bI_1, bI_t, bI_f, n_e10, n_e01]
    rw [if_pos (by omega)]
  | succ c ih =>
    intro o n μ hc hn hd hsr hS
    obtain ⟨n, rfl⟩ : ∃ q, n = q + 1 := ⟨n - 1, by omega⟩
    have ho : o < 36 := by omega
    have hlt : ¬ (36 ≤ o) := by omega
    have hMo := dMk_fM hV hLA hMk o (by omega)
    have hlf := dLf_le d (fM (dEx d) (dNf src) o S)
    have h1o := hMo.1 o
    have h1p := hMo.1 (o - 1)
    have hS' : ∀ i, i < 36 → gA μ 17 i = nI (fM (dEx d) (dNf src) o S i) := hS
    have next : ∀ (μ' : zMu), mFr [] [17] μ μ' → mFree μ' (fM (dEx d) (dNf src) (o + 1) S) → ∃ μ2, f_X8_hasCycle_l49 G k41 n M (nI (dLf d (fM (dEx d) (dNf src) (o + 1) S))) (bI (hM (dEx d) (dNf src) (o + 1) S)) (nI (o + 1)) (mw M μ' s) = k41 M (nI (dLf d (fM (dEx d) (dNf src) 36 S))) (bI (hM (dEx d) (dNf src) 36 S)) (mw M μ2 s) ∧ mFree μ2 (fM (dEx d) (dNf src) 36 S) ∧ mFr [] [17] μ μ2 := by
      intro μ' hF hS2
      obtain ⟨μ2, h1, h2, h3⟩ := ih (o + 1) n μ' (by omega) (by omega) (hF.D (by decide) hd) (fun i hi => by rw [hF.2 14 (by decide)]; exact hsr i hi) hS2
      exact ⟨μ2, h1, h2, hF.trans h3⟩
    -- nothing is marked
    have skip : ¬ (dEx d o = true ∧ fM (dEx d) (dNf src) o S o < dNf src (fM (dEx d) (dNf src) o S) o) → ∃ μ2, f_X8_hasCycle_l49 G k41 n M (nI (dLf d (fM (dEx d) (dNf src) o S))) (bI (hM (dEx d) (dNf src) o S)) (nI (o + 1)) (mw M μ s) = k41 M (nI (dLf d (fM (dEx d) (dNf src) 36 S))) (bI (hM (dEx d) (dNf src) 36 S)) (mw M μ2 s) ∧ mFree μ2 (fM (dEx d) (dNf src) 36 S) ∧ mFr [] [17] μ μ2 := by
      intro hq
      have e1 : fM (dEx d) (dNf src) (o + 1) S = fM (dEx d) (dNf src) o S := by simp only [fM]; rw [if_neg hq]
      have e2 : hM (dEx d) (dNf src) (o + 1) S = hM (dEx d) (dNf src) o S := by simp only [hM]; rw [decide_eq_false hq, Bool.or_false]
      have h9 := next μ (mFr.refl _ _ _) (by rw [e1]; exact hS)
      rw [e1, e2] at h9
      exact h9
    have mark : (dEx d o = true ∧ fM (dEx d) (dNf src) o S o < dNf src (fM (dEx d) (dNf src) o S) o) → ∃ μ2, f_X8_hasCycle_b117 G (f_X8_hasCycle_l49 G k41 n) M (nI (dLf d (fM (dEx d) (dNf src) o S))) (nI o) (mw M μ s) = k41 M (nI (dLf d (fM (dEx d) (dNf src) 36 S))) (bI (hM (dEx d) (dNf src) 36 S)) (mw M μ2 s) ∧ mFree μ2 (fM (dEx d) (dNf src) 36 S) ∧ mFr [] [17] μ μ2 := by
      intro hq
      have hn1 : dNf src (fM (dEx d) (dNf src) o S) o = 1 := by rcases dNf_01 src (fM (dEx d) (dNf src) o S) o with z | z <;> omega
      have e1 : fM (dEx d) (dNf src) (o + 1) S = va_up (fM (dEx d) (dNf src) o S) o 1 := by simp only [fM]; rw [if_pos hq, hn1]
      have e2 : hM (dEx d) (dNf src) (o + 1) S = true := by simp only [hM]; rw [decide_eq_true hq, Bool.or_true]
      have hMo1 := dMk_fM hV hLA hMk (o + 1) (by omega)
      rw [e1] at hMo1
      have hfo : fM (dEx d) (dNf src) o S o = 0 := by
        have := hq.2
        rw [hn1] at this
        exact Nat.lt_one_iff.mp this
      obtain ⟨e5, e4⟩ := dLf_mark ho hfo hMo1
      have h9 := next (sA μ 17 o (nI 1)) (mFr.sA 17 o (nI 1) (by decide)) (fun i hi => by
        rw [e1, gA_sA, u_at]
        by_cases e : i = o
        · rw [if_pos ⟨rfl, e⟩, if_pos e]
        · rw [if_neg (fun z => e z.2), if_neg e]
          exact hS i hi)
      rw [e2, e1] at h9
      rw [e4] at h9
      unfold f_X8_hasCycle_b117 f_X8_hasCycle_b129
      simp only [zo_s, m_R19, n_lit, m_Z1 hG ho, n_m1 e5, n_add]
      rw [bI_t] at h9
      exact h9
    show ∃ μ', f_X8_hasCycle_b49 G k41 (f_X8_hasCycle_l49 G k41 n) M _ _ (nI o) (mw M μ s) = _ ∧ _
    unfold f_X8_hasCycle_b49
    simp (disch := omega) only [zo_s, zb_s, zx_l, zx_r, zrn_1, zrn_0, zrn_b, zrnX_1, zrnX_0, zrnX_b, n_lit, n_add, n_mul, n_sub, n_lt, n_le, n_eq, n_cl, n_div, n_md6, bI_0, bI_1, bI_t, bI_f, n_e10, n_e01, m_rc, m_I0, m_I2, m_I3, m_I4, m_I5, m_I6, m_I7, m_I12, m_I13, m_I14, m_I15, m_I21, m_I22, m_I24, m_R1, m_R8, m_R9, m_R10, m_R11, m_R16, m_R17, m_R18, m_R19, m_R20, m_R23, m_aD, m_aO, m_aB, m_aZ, m_aL, m_aR, hlt, if_false, M_isThere hd hb ho, hS']
    cases hex : dEx d o with
    | false =>
      simp only [if_true]
      have := skip (fun q => by rw [hex] at q; exact absurd q.1 (by simp))
      unfold f_X8_hasCycle_b129
      simp only [n_lit, n_add]
      exact this
    | true =>
      simp only [Bool.true_eq_false, if_false]
      by_cases hf : fM (dEx d) (dNf src) o S o = 0
      · rw [if_pos hf]
        -- the rest: its arc from the machine
        have b90 : (o % 6 = 0 ∨ fM (dEx d) (dNf src) o S (o - 1) ≠ 0) → ∃ μ2, f_X8_hasCycle_b90 G (f_X8_hasCycle_l49 G k41 n) M (nI (dLf d (fM (dEx d) (dNf src) o S))) (bI (hM (dEx d) (dNf src) o S)) (nI o) (mw M μ s) = k41 M (nI (dLf d (fM (dEx d) (dNf src) 36 S))) (bI (hM (dEx d) (dNf src) 36 S)) (mw M μ2 s) ∧ mFree μ2 (fM (dEx d) (dNf src) 36 S) ∧ mFr [] [17] μ μ2 := by
          intro h6
          have e0 := hsr o ho
          unfold f_X8_hasCycle_b90
          by_cases q : src o = 0
          · rw [if_pos q] at e0
            simp (disch := omega) only [zo_s, zb_s, zx_l, zx_r, zrn_1, zrn_0, zrn_b, zrnX_1, zrnX_0, zrnX_b, m_rc, m_I0, m_I2, m_I3, m_I4, m_I5, m_I6, m_I7, m_I12, m_I13, m_I14, m_I15, m_I21, m_I22, m_I24, m_R1, m_R8, m_R9, m_R10, m_R11, m_R16, m_R17, m_R18, m_R19, m_R20, m_R23, m_aD, m_aO, m_aB, m_aZ, m_aL, m_aR, e0]
            rw [n_lit, if_pos rfl]
            refine mark ⟨hex, ?_⟩
            rw [dNf_pos ⟨h6, Or.inl q⟩, hf]
            exact Nat.one_pos
          · rw [if_neg q] at e0
            obtain ⟨q1, q2⟩ := hSL o ho q
            have e2 : ¬ (nI (src o - 1) = -nI 1) := n_nm1 (by omega)
            have h1s := hMo.1 (src o - 1)
            simp (disch := omega) only [zo_s, zb_s, zx_l, zx_r, zrn_1, zrn_0, zrn_b, zrnX_1, zrnX_0, zrnX_b, n_lit, n_add, n_mul, n_sub, n_lt, n_le, n_eq, n_cl, n_div, n_md6, bI_0, bI_1, bI_t, bI_f, n_e10, n_e01, m_rc, m_I0, m_I2, m_I3, m_I4, m_I5, m_I6, m_I7, m_I12, m_I13, m_I14, m_I15, m_I21, m_I22, m_I24, m_R1, m_R8, m_R9, m_R10, m_R11, m_R16, m_R17, m_R18, m_R19, m_R20, m_R23, m_aD, m_aO, m_aB, m_aZ, m_aL, m_aR, e0, e2, if_false, hS']
            by_cases hz : fM (dEx d) (dNf src) o S (src o - 1) = 0
            · rw [if_pos hz]
              have := skip (fun z => by
                rw [dNf_neg (fun y => y.2.elim q (fun x => x hz))] at z
                exact absurd z.2 (Nat.not_lt_zero _))
              unfold f_X8_hasCycle_b129
              simp only [n_lit, n_add]
              exact this
            · rw [if_neg hz]
              refine mark ⟨hex, ?_⟩
              rw [dNf_pos ⟨h6, Or.inr hz⟩, hf]
              exact Nat.one_pos
        by_cases h6 : o % 6 ≤ 0
        · rw [if_pos h6]
          exact b90 (Or.inl (by omega))
        · rw [if_neg h6]
          by_cases hz : fM (dEx d) (dNf src) o S (o - 1) = 0
          · rw [if_pos hz]
            have := skip (fun z => by
              rw [dNf_neg (fun y => y.1.elim (fun x => h6 (Nat.le_of_eq x)) (fun x => x hz))] at z
              exact absurd z.2 (Nat.not_lt_zero _))
            unfold f_X8_hasCycle_b129
            simp only [n_lit, n_add]
            exact this
          · rw [if_neg hz]
            exact b90 (Or.inr hz)
      · rw [if_neg hf]
        have := skip (fun z => by
          have h01 := dNf_01 src (fM (dEx d) (dNf src) o S) o
          have hl := z.2
          generalize fM (dEx d) (dNf src) o S o = a at *
          generalize dNf src (fM (dEx d) (dNf src) o S) o = b at *
          omega)
        unfold f_X8_hasCycle_b129
        simp only [n_lit, n_add]
        exact this
theorem M_cyc_l41 (hV : dV d) (hG : G 0 ≤ M) {src ln : Nat → Nat} (hLA : dLA d (d 0) 0 src ln) : ∀ (c n : Nat) (μ : zMu) (S : Nat → Nat), dLf d S < c → c + 1 < n → dMk d S → mD μ 2 d → mSr μ src → mFree μ S → ∃ μ' b, f_X8_hasCycle_l41 G n M (nI (dLf d S)) (nI 1) (mw M μ s) = some (bI b, mw M μ' s) ∧ (b = false ↔ dAcy d) ∧ mFr [] [17] μ μ' := by
  intro c
  induction c with
  | zero =>
    intro n μ S h1
    exact absurd h1 (Nat.not_lt_zero _)
  | succ c ih =>
    intro n μ S h1 h2 hMk hd hsr hS
    obtain ⟨n, rfl⟩ : ∃ q, n = q + 1 := ⟨n - 1, by omega⟩
    obtain ⟨n, rfl⟩ : ∃ q, n = q + 1 := ⟨n - 1, by omega⟩
    obtain ⟨μ1, g1, g2, g3⟩ := M_cyc_l49 (s := s) hV hG hLA hMk (f_X8_hasCycle_l41 G (n + 1)) 36 0 2000 μ (by omega) (by omega) hd hsr hS
    have e0 : f_X8_hasCycle_l41 G (n + 1 + 1) M (nI (dLf d S)) (nI 1) (mw M μ s) = f_X8_hasCycle_l49 G (f_X8_hasCycle_l41 G (n + 1)) 2000 M (nI (dLf d S)) (nI 0) (nI 0) (mw M μ s) := by
      show f_X8_hasCycle_b41 G (f_X8_hasCycle_l41 G (n + 1)) M _ (nI 1) (mw M μ s) = _
      unfold f_X8_hasCycle_b41
      simp (disch := omega) only [n_lit, n_add, n_mul, n_sub, n_lt, n_le, n_eq, n_cl, n_div, n_md6, bI_0, bI_1, bI_t, bI_f, n_e10, n_e01, if_false]
    have hM1 := dMk_fM hV hLA hMk 36 (Nat.le_refl _)
    have g1' : f_X8_hasCycle_l49 G (f_X8_hasCycle_l41 G (n + 1)) 2000 M (nI (dLf d S)) (nI 0) (nI 0) (mw M μ s) = _ := g1
    rw [e0, g1']
    cases hq : hM (dEx d) (dNf src) 36 S with
    | false =>
      have e1 := fM_same 36 S hq
      rw [e1] at hM1 ⊢
      refine ⟨μ1, decide (dLf d S ≠ 0), ?_, ?_, g3⟩
      · show f_X8_hasCycle_b41 G (f_X8_hasCycle_l41 G n) M _ (nI 0) (mw M μ1 s) = _
        unfold f_X8_hasCycle_b41
        have hle := dLf_le d S
        generalize dLf d S = a at *
        simp (disch := omega) only [n_lit, n_add, n_mul, n_sub, n_lt, n_le, n_eq, n_cl, n_div, n_md6, bI_0, bI_1, bI_t, bI_f, n_e10, n_e01, if_true, zo_s, zb_s, zx_l, zx_r, zrn_1, zrn_0, zrn_b, zrnX_1, zrnX_0, zrnX_b]
        by_cases e : a = 0
        · rw [if_pos (by omega)]
          simp [e, bI]
        · rw [if_neg (by omega)]
          simp [e, bI]
      · rw [decide_eq_false_iff_not, Classical.not_not]
        exact dLf_fix hV hLA hM1 e1
    | true =>
      obtain ⟨v, v1, v2, v3⟩ := fM_more 36 (Nat.le_refl _) S hq
      have hs := dLf_lt hM1 (fM_ge 36 S) v1 v3
      obtain ⟨μ2, b, k1, k2, k3⟩ := ih (n + 1) μ1 (fM (dEx d) (dNf src) 36 S) (Nat.lt_of_lt_of_le hs (Nat.le_of_lt_succ h1)) (by omega) hM1 (g3.D (by decide) hd) (fun i hi => by rw [g3.2 14 (by decide)]; exact hsr i hi) g2
      exact ⟨μ2, b, k1, k2, g3.trans k3⟩
theorem M_cyc_l4 (hV : dV d) (hG : G 0 ≤ M) : ∀ (c o n : Nat) (μ : zMu), o + c = 36 → c < n → mD μ 2 d → (∀ i, i < o → gA μ 17 i = nI 0) → ∃ μ', f_X8_hasCycle_l4 G n M (nI (p_cn (dEx d) o)) (nI o) (mw M μ s) = f_X8_hasCycle_l41 G 2000 M (nI (p_cn (dEx d) 36)) (nI 1) (mw M μ' s) ∧ (∀ i, i < 36 → gA μ' 17 i = nI 0) ∧ mFr [] [17] μ μ' := by
  have hb := hV.1
  intro c
  induction c with
  | zero =>
    intro o n μ hc hn hd h
    obtain ⟨n, rfl⟩ : ∃ q, n = q + 1 := ⟨n - 1, by omega⟩
    have e : o = 36 := by omega
    subst e
    refine ⟨μ, ?_, h, mFr.refl _ _ _⟩
    show f_X8_hasCycle_b4 G (f_X8_hasCycle_l4 G n) M _ (nI 36) (mw M μ s) = _
    unfold f_X8_hasCycle_b4
    simp (disch := omega) only [n_lit, n_add, n_mul, n_sub, n_lt, n_le, n_eq, n_cl, n_div, n_md6, bI_0, bI_1, bI_t, bI_f, n_e10, n_e01]
    rw [if_pos (by omega)]
  | succ c ih =>
    intro o n μ hc hn hd h
    obtain ⟨n, rfl⟩ : ∃ q, n = q + 1 := ⟨n - 1, by omega⟩
    have ho : o < 36 := by omega
    have hi : ¬ (36 ≤ o) := by omega
    have hF : mFr [] [17] μ (sA μ 17 o (nI 0)) := mFr.sA _ _ _ (by decide)
    obtain ⟨μ', h1, h2, h3⟩ := ih (o + 1) n (sA μ 17 o (nI 0)) (by omega) (by omega) (hF.D (by decide) hd) (fun i hi => by
      rw [gA_sA]
      by_cases e : i = o
      · rw [if_pos ⟨rfl, e⟩]
      · rw [if_neg (fun z => e z.2)]
        exact h i (by omega))
    refine ⟨μ', ?_, h2, hF.trans h3⟩
    rw [← h1]
    show f_X8_hasCycle_b4 G (f_X8_hasCycle_l4 G n) M _ (nI o) (mw M μ s) = _
    unfold f_X8_hasCycle_b4
    have hd2 := hF.D (by decide) hd
    have e9 : zsI G (mw M μ s) (some (M + 17)) 3 (nI o) (nI 0) = some (mw M (sA μ 17 o (nI 0)) s) := m_Z0 hG ho
    simp (disch := omega) only [zo_s, zb_s, zx_l, zx_r, zrn_1, zrn_0, zrn_b, zrnX_1, zrnX_0, zrnX_b, n_lit, n_add, n_mul, n_sub, n_lt, n_le, n_eq, n_cl, n_div, n_md6, bI_0, bI_1, bI_t, bI_f, n_e10, n_e01, m_rc, m_I0, m_I2, m_I3, m_I4, m_I5, m_I6, m_I7, m_I12, m_I13, m_I14, m_I15, m_I21, m_I22, m_I24, m_R1, m_R8, m_R9, m_R10, m_R11, m_R16, m_R17, m_R18, m_R19, m_R20, m_R23, m_aD, m_aO, m_aB, m_aZ, m_aL, m_aR, hi, if_false, e9, M_isThere hd2 hb ho, f_X8_hasCycle_b31, p_cn]
    cases dEx d o with
    | true => simp only [Bool.true_eq_false, if_false, if_true]
    | false => simp only [Bool.false_eq_true, if_false, if_true]
theorem M_hasCycle (hV : dV d) (hG : G 0 ≤ M) {μ : zMu} {src ln : Nat → Nat} (hLA : dLA d (d 0) 0 src ln) (hd : mD μ 2 d) (hsr : mSr μ src) : ∃ μ' b, f_X8_hasCycle G M (mw M μ s) = some (bI b, mw M μ' s) ∧ (b = false ↔ dAcy d) ∧ mFr [] [17] μ μ' := by
  obtain ⟨μ1, h1, h2, h3⟩ := M_cyc_l4 (s := s) hV hG 36 0 2000 μ (by omega) (by omega) hd (fun i hi => by omega)
  obtain ⟨μ2, b, g1, g2, g3⟩ := M_cyc_l41 (s := s) hV hG hLA 37 2000 μ1 (fun _ => 0) (Nat.lt_succ_of_le (dLf_le _ _)) (by omega) ⟨fun v => Nat.zero_le _, fun _ _ _ => rfl, fun C _ v _ q => absurd rfl q⟩ (h3.D (by decide) hd) (fun i hi => by rw [h3.2 14 (by decide)]; exact hsr i hi) (fun i hi => h2 i hi)
  refine ⟨μ2, b, ?_, g2, h3.trans g3⟩
  rw [← g1, dLf_0, ← h1]
  rfl
theorem M_isDeadlocked (hV : dV d) (hG : G 0 ≤ M) {μ : zMu} (hd : mD μ 2 d) : ∃ μ' b S, f_X8_isDeadlocked G M (mw M μ s) = some (bI b, mw M μ' s) ∧ (b = false ↔ dTm d) ∧ (b = false → dLe d S ∧ mS μ' S ∧ ∀ i, i < 36 → S i < 600000) ∧ mFr [] [14, 15, 16, 17] μ μ' := by
  obtain ⟨μ1, b1, S, src, ln, h1, h2, h3, h4, h5, h6⟩ := M_findStarts (s := s) hV hG hd
  have hd1 := h6.D (by decide) hd
  have hx := hV.1 1
  have e1 : gA μ1 2 1 = nI (d 1) := hd1 1 (by omega)
  unfold f_X8_isDeadlocked
  simp (disch := omega) only [zo_s, zb_s, zx_l, zx_r, zrn_1, zrn_0, zrn_b, zrnX_1, zrnX_0, zrnX_b, n_lit, n_add, n_mul, n_sub, n_lt, n_le, n_eq, n_cl, n_div, n_md6, bI_0, bI_1, bI_t, bI_f, n_e10, n_e01, m_rc, m_I0, m_I2, m_I3, m_I4, m_I5, m_I6, m_I7, m_I12, m_I13, m_I14, m_I15, m_I21, m_I22, m_I24, m_R1, m_R8, m_R9, m_R10, m_R11, m_R16, m_R17, m_R18, m_R19, m_R20, m_R23, m_aD, m_aO, m_aB, m_aZ, m_aL, m_aR, h1, e1]
  cases b1 with
  | false =>
    refine ⟨μ1, true, S, rfl, ⟨fun q => (by cases q), fun q => ?_⟩, fun q => (by cases q), h6.mono (by simp) (by simp <;> omega)⟩
    have := h2.mpr q.1
    cases this
  | true =>
    simp only [Bool.true_eq_false, if_false]
    by_cases q : d 1 = 0
    · obtain ⟨μ2, b2, g1, g2, g3⟩ := M_hasCycle (s := s) hV hG h5 hd1 h4
      rw [if_pos q, g1]
      obtain ⟨k1, k2, k3⟩ := h3 rfl
      refine ⟨μ2, b2, S, ?_, ?_, fun _ => ⟨k1, fun i hi => by rw [g3.2 16 (by decide)]; exact k2 i hi, k3⟩, (h6.mono (by simp) (by simp <;> omega)).trans (g3.mono (by simp) (by simp))⟩
      · cases b2 <;> rfl
      · rw [g2]
        exact ⟨fun z => ⟨h2.mp rfl, fun _ => z⟩, fun z => z.2 q⟩
    · rw [if_neg q]
      exact ⟨μ1, false, S, rfl, ⟨fun _ => ⟨h2.mp rfl, fun z => absurd z q⟩, fun _ => rfl⟩, fun _ => h3 rfl, h6.mono (by simp) (by simp <;> omega)⟩
end MCYCLE
