/-! THE PLAIN LAW, part 22: what the cost's objects answer -/
set_option maxRecDepth 100000
/-- on the way from V, s to V', s': Strings may have been asked, nothing else -/
def hQ (V : zV1) (s : zS) (V' : zV1) (s' : zS) : Prop := hle V V' ∧ pS V' s' ∧ (∀ q, V q = none → V' q = none ∧ s'.1 q = s.1 q) ∧ s'.2 = s.2
theorem hQ.refl {V : zV1} {s : zS} (h : pS V s) : hQ V s V s := ⟨hle.refl V, h, fun _ h => ⟨h, rfl⟩, rfl⟩
theorem hQ.trans {V V1 V2 : zV1} {s s1 s2 : zS} (h : hQ V s V1 s1) (g : hQ V1 s1 V2 s2) : hQ V s V2 s2 := ⟨h.1.trans g.1, g.2.1, fun q hq => ⟨(g.2.2.1 q (h.2.2.1 q hq).1).1, (g.2.2.1 q (h.2.2.1 q hq).1).2.trans (h.2.2.1 q hq).2⟩, g.2.2.2.trans h.2.2.2⟩
theorem zWd_lt (k : Nat) : (∀ c, c ∈ zWd k → c < 128) ∧ (zWd k).length < 20 := by
  unfold zWd
  repeat' split
  all_goals exact ⟨by decide, by decide⟩
theorem hH_long (w : List Nat) {n : Nat} (h : w.length ≤ n) (x : Int32) : hH w n x = hH w w.length x := by
  unfold hH
  rw [List.take_of_length_le h, List.take_of_length_le (Nat.le_refl _)]
theorem zHs_hash {k : Nat} (h1 : 10 ≤ k) (h2 : k ≤ 18) : hH (zWd k) (zWd k).length 0 = zHs k := by
  have := zHs_eq (k - 10) (by omega)
  rw [show 10 + (k - 10) = k from by omega] at this
  exact (hH_long _ (n := 20) (by have := (zWd_lt k).2; omega) 0).symm.trans this
/-- a known word is asked for its hash -/
theorem C_hash {G : Nat → Nat} {V : zV1} {s : zS} {a k : Nat} {x : Int32} (hs : pS V s) (k1 : 10 ≤ k) (k2 : k ≤ 18) (h : hSt V a (zWd k) x) (hx : x = nI 0 ∧ G 0 ≤ a ∨ x = zHs k) : ∃ V' s', f_J12_hashCode G a s = some (zHs k, s') ∧ hQ V s V' s' := by
  have hh := h
  obtain ⟨va, q1, q2⟩ := h
  have e1 := hs _ _ q1
  have hne := zHs_ne k1 k2
  unfold f_J12_hashCode
  rw [r_I e1 rfl, zo_s]
  rcases hx with ⟨rfl, hG⟩ | rfl
  · have hta := q2
    obtain ⟨f, q3, q4⟩ := q2
    have hva : va ≠ a := fun z => by
      rw [z, q1] at q3
      cases q3
    rw [if_pos (show nI 0 = 0 from rfl), r_I e1 rfl, zo_s, if_pos (show nI 0 = 0 from rfl), r_c e1, zo_s]
    have eL : f_J12_isLatin1 G a s = some (nI 1, s) := by
      unfold f_J12_isLatin1
      rw [if_neg (by decide), r_I e1 rfl, zo_s, if_pos (by decide)]
      rfl
    rw [eL, zb_s, if_neg (by decide), r_R e1 rfl, zo_s, C_hash17 hs hta (by have := (zWd_lt k).2; omega) (zWd_lt k).1, zb_s, zHs_hash k1 k2]
    unfold f_J12_hashCode_b40
    rw [if_neg (show ¬ (zHs k = 0) from hne), w_put e1 hG (Nat.le_of_ble_eq_true rfl), zo_s]
    refine ⟨va_up V a (some (.inr (17, [.ref va, .int (nI 0), .int (zHs k), .int (nI 0)]))), _, rfl, ?_, ?_, ?_, rfl⟩
    · intro q e he
      by_cases z : q = a
      · subst z
        rw [q1] at he
        injection he with he
        refine Or.inr ⟨va, k, k1, k2, he.symm, ⟨f, ?_, q4⟩, ?_⟩
        · rw [u_at, if_neg hva]
          exact q3
        · rw [u_at, if_pos rfl]
      · left
        rw [u_at, if_neg z]
        exact he
    · intro q e he
      show va_up s.1 a _ q = some e
      rw [u_at] at he ⊢
      by_cases z : q = a
      · rw [if_pos z] at he ⊢
        exact he
      · rw [if_neg z] at he ⊢
        exact hs q e he
    · intro q hq
      have z : q ≠ a := fun z => by rw [z, q1] at hq; cases hq
      refine ⟨by rw [u_at, if_neg z]; exact hq, ?_⟩
      show va_up s.1 a _ q = s.1 q
      rw [u_at, if_neg z]
  · rw [if_neg (show ¬ (zHs k = 0) from hne)]
    exact ⟨V, s, rfl, hQ.refl hs⟩
/-- within a million -/
def b6 (y : Int64) : Prop := -1000000 ≤ y.toInt ∧ y.toInt ≤ 1000000
theorem i64_c1 : (1000000 : Int64).toInt = 1000000 := by decide
theorem i64_c2 : (-1000000 : Int64).toInt = -1000000 := by decide
theorem dLi_b (y : Int64) : b6 (dLi y) := by
  unfold dLi b6
  by_cases h1 : y ≤ 1000000
  · rw [if_pos h1]
    by_cases h2 : -1000000 ≤ y
    · rw [if_pos h2]
      rw [Int64.le_iff_toInt_le] at h1 h2
      rw [i64_c1] at h1
      rw [i64_c2] at h2
      exact ⟨h2, h1⟩
    · rw [if_neg h2, i64_c2]
      omega
  · rw [if_neg h1, i64_c1]
    omega
theorem dLi_id {y : Int64} (h : b6 y) : dLi y = y := by
  unfold dLi
  rw [if_pos (by rw [Int64.le_iff_toInt_le, i64_c1]; exact h.2), if_pos (by rw [Int64.le_iff_toInt_le, i64_c2]; exact h.1)]
theorem b6_div {a b : Int64} (h : b6 a) : b6 (a / b) := by
  unfold b6 at h ⊢
  rw [Int64.toInt_div]
  have h1 : (a.toInt.tdiv b.toInt).natAbs ≤ a.toInt.natAbs := by
    rw [Int.natAbs_tdiv]
    exact Nat.div_le_self _ _
  have h2 : (a.toInt.tdiv b.toInt).bmod (2 ^ 64) = a.toInt.tdiv b.toInt := by
    apply Int.bmod_eq_of_le <;> omega
  rw [h2]
  omega
theorem b6_op (c : Nat) {a b : Int64} (h : b6 a) : b6 (dOp c a b) := by
  unfold dOp
  split
  · split
    · unfold b6; decide
    · exact b6_div h
  · exact dLi_b _
theorem lN_int {n : Nat} (h : n < 2147483648) : (lN n).toInt = (n : Int) := by
  unfold lN
  exact Int64.toInt_ofNat_of_lt (by omega)
theorem b6_lN {n : Nat} (h : n ≤ 1000000) : b6 (lN n) := by
  unfold b6
  rw [lN_int (by omega)]
  omega
theorem hNd_b {G : Nat → Nat} {V : zV1} : ∀ {n a : Nat} {v : (Nat → Int64) → Int64}, hNd G V n a v → ∀ x : Nat → Int64, (∀ k, k < 4 → b6 (x k)) → b6 (v x) := by
  intro n
  induction n with
  | zero => intro a v q; exact q.elim
  | succ n ih =>
    intro a v q x hx
    rcases q with ⟨y, q1, q2, rfl⟩ | ⟨k, sa, hh, q1, q2, q3, q4, rfl⟩ | ⟨c, g, l, r, p, q', q1, q2, q3, q4, rfl⟩
    · exact b6_lN (by omega)
    · exact hx k q2
    · exact b6_op c (ih q3 x hx)
theorem clamp_eq (t : Int64) : (if (if t < 1000000 then t else 1000000) < (-1000000) then (-1000000) else (if t < 1000000 then t else 1000000) : Int64) = dLi t := by
  unfold dLi
  apply Int64.toInt_inj.mp
  simp only [Int64.lt_iff_toInt_lt, Int64.le_iff_toInt_le, i64_c1, i64_c2]
  by_cases h1 : t.toInt < 1000000
  · simp only [h1, if_true]
    have h2 : t.toInt ≤ 1000000 := by omega
    simp only [h2, if_true]
    by_cases h3 : t.toInt < -1000000
    · have h4 : ¬ (-1000000 ≤ t.toInt) := by omega
      simp only [h3, h4, if_true, if_false]
    · have h4 : -1000000 ≤ t.toInt := by omega
      simp only [h3, h4, if_true, if_false]
  · simp only [h1, if_false, i64_c1]
    have h3 : ¬ ((1000000 : Int) < -1000000) := by omega
    simp only [h3, if_false, i64_c1]
    by_cases h2 : t.toInt ≤ 1000000
    · have h4 : -1000000 ≤ t.toInt := by omega
      simp only [h2, h4, if_true]
      omega
    · simp only [h2, if_false, i64_c1]
/-- what a job tells a cost -/
def jX (c rel due wt : Nat) : Nat → Int64 := fun k => lN (if k = 0 then c else if k = 1 then due else if k = 2 then wt else rel)
theorem C_node {G : Nat → Nat} {jb c rel due wt : Nat} {cn : Value} (hc : c ≤ 1000000) (hr : rel ≤ 1000000) (hd : due ≤ 1000000) (hw : wt ≤ 1000000) : ∀ (n a fu : Nat) (v : (Nat → Int64) → Int64) (V : zV1) (s : zS), hNd G V n a v → pS V s → hB G V → V jb = some (.inr (9, [.int (nI rel), .int (nI due), .int (nI wt), cn])) → n ≤ fu → ∃ V' s', f_Node G fu (some a) (some jb) (lN c) s = some (v (jX c rel due wt), s') ∧ hQ V s V' s' := by
  have hx : ∀ k, k < 4 → b6 (jX c rel due wt k) := by
    intro k _
    unfold jX
    apply b6_lN
    split
    · exact hc
    · split
      · exact hd
      · split
        · exact hw
        · exact hr
  intro n
  induction n with
  | zero => intro a fu v V s h; exact h.elim
  | succ n ih =>
    intro a fu v V s h hs hb hj hn
    obtain ⟨fu, rfl⟩ : ∃ q, fu = q + 1 := ⟨fu - 1, by omega⟩
    rcases h with ⟨y, q1, q2, rfl⟩ | ⟨k, sa, hh, q1, q2, q3, q4, rfl⟩ | ⟨o, g, l, r, p, q', q1, q2, q3, q4, rfl⟩
    · refine ⟨V, s, ?_, hQ.refl hs⟩
      have e1 := hs _ _ q1
      simp only [f_Node, e1]
      rw [if_neg (by decide), if_pos trivial]
      unfold f_X12_of
      rw [r_L e1 rfl, zo_s]
    · have e1 := hs _ _ q1
      have hk := zVr_k k
      have ec : zrc s (some sa) 17 = some sa := by
        obtain ⟨va, z, -⟩ := q3
        exact r_c (hs _ _ z)
      obtain ⟨V', s', g1, g2⟩ := C_hash (G := G) hs hk.1 hk.2 q3 q4
      refine ⟨V', s', ?_, g2⟩
      simp only [f_Node, e1]
      rw [if_pos trivial]
      unfold f_X6_of
      rw [r_R e1 rfl, zo_s, ec, zo_s, g1, zb_s]
      have hs' := g2.2.1
      have ej := hs' _ _ (g2.1.obj (by decide) hj)
      obtain ⟨y, y1, y2⟩ := g2.1.st (P := G 0 ≤ sa) hk.1 hk.2 q3 q4
      have ec' : zrc s' (some sa) 17 = some sa := by
        obtain ⟨va, z, -⟩ := y1
        exact r_c (hs' _ _ z)
      have hb' := g2.1.B hb
      have heq : ∀ m, 10 ≤ m → m ≤ 18 → f_J12_equals G sa (some (G m)) s' = some (bI (decide (zWd (zVr k) = zWd m)), s') := fun m m1 m2 => C_strEq hs' y1 (hb'.2.2.2 m m1 m2) (fun c hc => by have := (zWd_lt (zVr k)).1 c hc; omega) (fun c hc => by have := (zWd_lt m).1 c hc; omega) (by have := (zWd_lt (zVr k)).2; omega) (by have := (zWd_lt m).2; omega)
      have hk4 : k = 0 ∨ k = 1 ∨ k = 2 ∨ k = 3 := by omega
      rcases hk4 with rfl | rfl | rfl | rfl
      · rw [show zVr 0 = 15 from rfl, if_neg (by decide), if_neg (by decide), if_neg (by decide)]
        rfl
      · rw [show zVr 1 = 16 from rfl] at heq ⊢
        rw [if_neg (by decide), if_pos (by decide), ec', zo_s, heq 16 (by omega) (by omega), zb_s, if_neg (by decide)]
        unfold f_X6_of_b93
        rw [if_pos rfl, r_I ej rfl, zo_s, lN_i64 (by omega)]
        rfl
      · rw [show zVr 2 = 17 from rfl] at heq ⊢
        rw [if_pos (by decide), ec', zo_s, heq 17 (by omega) (by omega), zb_s, if_neg (by decide)]
        unfold f_X6_of_b93
        rw [if_neg (by decide), if_pos rfl, r_I ej rfl, zo_s, lN_i64 (by omega)]
        rfl
      · rw [show zVr 3 = 18 from rfl] at heq ⊢
        rw [if_neg (by decide), if_neg (by decide), if_pos (by decide), ec', zo_s, heq 18 (by omega) (by omega), zb_s, if_neg (by decide)]
        unfold f_X6_of_b93
        rw [if_neg (by decide), if_neg (by decide), if_pos rfl, r_I ej rfl, zo_s, lN_i64 (by omega)]
        rfl
    · have e1 := hs _ _ q1
      obtain ⟨V1, s1, k1, k2⟩ := ih l fu p V s q3 hs hb hj (by omega)
      have e2 := k2.2.1 _ _ (k2.1.obj (by decide) q1)
      obtain ⟨V2, s2, k3, k4⟩ := ih r fu q' V1 s1 (k2.1.Nd q4) k2.2.1 (k2.1.B hb) (k2.1.obj (by decide) hj) (by omega)
      have e3 := k4.2.1 _ _ (k4.1.obj (by decide) (k2.1.obj (by decide) q1))
      refine ⟨V2, s2, ?_, k2.trans k4⟩
      have b1 := hNd_b q3 _ hx
      simp only [f_Node, e1]
      rw [if_neg (by decide), if_neg (by decide), if_pos trivial]
      unfold f_X13_of
      rw [r_R e1 rfl, zo_s, k1, zb_s, r_R e2 rfl, zo_s, k3, zb_s, r_I e3 rfl, zo_s]
      have cl : ∀ t : Int64, f_X13_of_b89 G (f_Node G fu) t s2 = some (dLi t, s2) := fun t => by
        unfold f_X13_of_b89
        rw [clamp_eq]
      rcases q2 with ⟨rfl, rfl⟩ | ⟨rfl, rfl⟩ | ⟨rfl, rfl⟩ | ⟨rfl, rfl⟩
      · rw [if_pos (by decide), cl]
        rfl
      · rw [if_neg (by decide), zo_s, if_pos (by decide), cl]
        rfl
      · rw [if_neg (by decide), zo_s, if_neg (by decide), zo_s, if_pos (by decide), cl]
        rfl
      · rw [if_neg (by decide), zo_s, if_neg (by decide), zo_s, if_neg (by decide)]
        show (if lg_cmp (q' (jX c rel due wt)) 0 = 0 then _ else _) = some (dOp 5 (p (jX c rel due wt)) (q' (jX c rel due wt)), s2)
        unfold dOp
        rw [if_pos rfl]
        by_cases z : q' (jX c rel due wt) = 0
        · rw [if_pos ((lg_cmp_eq _ _).mpr z), if_pos z, cl, dLi_id (by unfold b6; decide)]
        · rw [if_neg (fun y => z ((lg_cmp_eq _ _).mp y)), if_neg z, if_neg z, cl, dLi_id (b6_div b1)]
section CCOST
variable {G : Nat → Nat} {V : zV1} {s : zS} {d : Nat → Nat} {v : (Nat → Int64) → Int64} {L : Nat}
theorem C_jobCost {p : Nat} {S : Nat → Nat} (hs : pS V s) (hb : hB G V) (hL : hLa G V L d v) (hP : hPl V p L d S) (hV : dV d) (hB : ∀ i, i < 36 → S i < 600000) {j : Nat} (hj : j < d 2) : ∃ V' s', f_X3_jobCost G p (nI j) s = some (dJc d S v j, s') ∧ hQ V s V' s' := by
  obtain ⟨J, h1, h2, h3, h4⟩ := C_job hs hL hV.2.2.1
  obtain ⟨jb, g1, g2, -⟩ := h4 j hj
  have hcp := C_completion (G := G) hs hL hP hV hj
  obtain ⟨hE1, hE2⟩ := dEn_lt hV hj
  have hSe := hB _ hE1
  have hdu := (hV.2.2.2.2.1 _ hE1 hE2).2.2.1
  have hLL := hL
  obtain ⟨T, J', O, C, U, mc, E, cap, f, e, l1, -, -, -, l2, l3, l4, l5, -, ⟨n, l6, l7⟩, -⟩ := hLL
  obtain ⟨a1, a2, a3, a4, f1, f2, f3, f4, p1, -⟩ := hP
  have e1 := hs _ _ p1
  have e2 := hs _ _ l1
  have hJJ : J' = J := by
    have := r_R (k := 3) e2 rfl
    rw [this] at h1
    injection h1 with h1
    injection h1
  subst hJJ
  obtain ⟨jb', z1, z2⟩ := l5 j hj
  have hjj : jb' = jb := by
    have := C_lget (G := G) hs l2 l3 l4 (by have := hV.2.2.1; omega) hj
    rw [this, z1] at g1
    injection g1 with g1
    injection g1 with g1
    injection g1
  subst hjj
  obtain ⟨V', s', k1, k2⟩ := C_node (G := G) (jb := jb') (c := S (dEn d j) + dDu d (dEn d j)) (by omega) (by have := hV.1 (59 + 4 * j); omega) (by have := hV.1 (59 + 4 * j + 1); omega) (by have := hV.1 (59 + 4 * j + 2); omega) n C 1000 v V s l7 hs hb z2 l6
  refine ⟨V', s', ?_, k2⟩
  unfold f_X3_jobCost
  rw [r_R e1 rfl, zo_s, r_R (k := 5) e2 rfl, zo_s, zo_s, h1, zo_s, h2, zo_s, g1, zb_s, g2, zo_s, r_c e1, zo_s, hcp, zb_s, lN_i64 (by omega), k1, zb_s]
  rfl
theorem C_cost_l {p : Nat} {S : Nat → Nat} (hV : dV d) (hBs : ∀ i, i < 36 → S i < 600000) : ∀ (c j n : Nat) (V : zV1) (s : zS), j + c = d 2 → c < n → pS V s → hB G V → hLa G V L d v → hPl V p L d S → ∃ V' s', f_X3_cost_l4 G n p (dPc d S v j) (nI j) s = some (dPc d S v (d 2), s') ∧ hQ V s V' s' := by
  have h26 := hV.2.2.1
  intro c
  induction c with
  | zero =>
    intro j n V s hc hn hs hb hL hP
    obtain ⟨n, rfl⟩ : ∃ q, n = q + 1 := ⟨n - 1, by omega⟩
    have e : j = d 2 := by omega
    subst e
    obtain ⟨J, h1, h2, h3, -⟩ := C_job hs hL hV.2.2.1
    obtain ⟨a1, a2, a3, a4, f1, f2, f3, f4, p1, -⟩ := hP
    have e1 := hs _ _ p1
    refine ⟨V, s, ?_, hQ.refl hs⟩
    show f_X3_cost_b4 G (f_X3_cost_l4 G n) p _ _ s = _
    unfold f_X3_cost_b4
    rw [r_R e1 rfl, zo_s, h1, zo_s, h2, zo_s, h3, zb_s, if_pos ((n_le (by omega) (by omega)).mpr (Nat.le_refl _))]
  | succ c ih =>
    intro j n V s hc hn hs hb hL hP
    obtain ⟨n, rfl⟩ : ∃ q, n = q + 1 := ⟨n - 1, by omega⟩
    obtain ⟨J, h1, h2, h3, -⟩ := C_job hs hL hV.2.2.1
    obtain ⟨V1, s1, g1, g2⟩ := C_jobCost hs hb hL hP hV hBs (j := j) (by omega)
    obtain ⟨V2, s2, g3, g4⟩ := ih (j + 1) n V1 s1 (by omega) (by omega) g2.2.1 (g2.1.B hb) (g2.1.La hL) (g2.1.Pl hP)
    obtain ⟨a1, a2, a3, a4, f1, f2, f3, f4, p1, -⟩ := hP
    have e1 := hs _ _ p1
    refine ⟨V2, s2, ?_, g2.trans g4⟩
    rw [← g3]
    show f_X3_cost_b4 G (f_X3_cost_l4 G n) p _ _ s = _
    unfold f_X3_cost_b4
    rw [r_R e1 rfl, zo_s, h1, zo_s, h2, zo_s, h3, zb_s, if_neg (fun z => by have := (n_le (by omega) (by omega)).mp z; omega), r_c e1, zo_s, g1, zb_s, show nI j + 1 = nI (j + 1) from n_add j 1]
    rfl
theorem C_cost {p : Nat} {S : Nat → Nat} (hs : pS V s) (hb : hB G V) (hL : hLa G V L d v) (hP : hPl V p L d S) (hV : dV d) (hB : ∀ i, i < 36 → S i < 600000) : ∃ V' s', f_X3_cost G p s = some (dPc d S v (d 2), s') ∧ hQ V s V' s' := C_cost_l hV hB (d 2) 0 2000 V s (by omega) (by have := hV.2.2.1; omega) hs hb hL hP
/-- better than another plan -/
theorem C_isBetter {p q : Nat} {e S T : Nat → Nat} (hs : pS V s) (hb : hB G V) (hL : hLa G V L d v) (hP : hPl V p L d S) (hV : dV d) (hB : ∀ i, i < 36 → S i < 600000) (hL2 : hLa G V L e v) (hP2 : hPl V q L e T) (hV2 : dV e) (hB2 : ∀ i, i < 36 → T i < 600000) : ∃ V' s', f_X3_isBetter G p (some q) s = some (bI (dBt (dMs d S (d 2)) (dPc d S v (d 2)) (dMs e T (e 2)) (dPc e T v (e 2))), s') ∧ hQ V s V' s' := by
  have m1 := dMs_lt hV (S := S) (fun i hi => by have := hB i hi; omega) (d 2) (Nat.le_refl _)
  have m2 := dMs_lt hV2 (S := T) (fun i hi => by have := hB2 i hi; omega) (e 2) (Nat.le_refl _)
  have k1 := C_makespan (G := G) hs hL hP hV (fun i hi => by have := hB i hi; omega)
  have k2 := C_makespan (G := G) hs hL2 hP2 hV2 (fun i hi => by have := hB2 i hi; omega)
  have ep : zrc s (some p) 2 = some p := by
    obtain ⟨a1, a2, a3, a4, f1, f2, f3, f4, p1, -⟩ := hP
    exact r_c (hs _ _ p1)
  have eq : zrc s (some q) 2 = some q := by
    obtain ⟨a1, a2, a3, a4, f1, f2, f3, f4, p1, -⟩ := hP2
    exact r_c (hs _ _ p1)
  unfold f_X3_isBetter dBt
  rw [ep, zo_s, k1, zb_s, eq, zo_s, k2, zb_s]
  by_cases c1 : dMs d S (d 2) < dMs e T (e 2)
  · rw [if_pos ((n_lt (by omega) (by omega)).mpr c1), if_neg (by omega), decide_eq_true c1]
    exact ⟨V, s, rfl, hQ.refl hs⟩
  · rw [if_neg (fun z => c1 ((n_lt (by omega) (by omega)).mp z)), ep, zo_s, k1, zb_s, eq, zo_s, k2, zb_s]
    by_cases c2 : dMs d S (d 2) = dMs e T (e 2)
    · rw [if_pos (by rw [c2]), if_pos c2, ep, zo_s]
      obtain ⟨V1, s1, g1, g2⟩ := C_cost hs hb hL hP hV hB
      obtain ⟨V2, s2, g3, g4⟩ := C_cost (p := q) g2.2.1 (g2.1.B hb) (g2.1.La hL2) (g2.1.Pl hP2) hV2 hB2
      have eq1 : zrc s1 (some q) 2 = some q := by
        obtain ⟨a1, a2, a3, a4, f1, f2, f3, f4, p1, -⟩ := g2.1.Pl hP2
        exact r_c (g2.2.1 _ _ p1)
      rw [g1, zb_s, eq1, zo_s, g3, zb_s]
      refine ⟨V2, s2, ?_, g2.trans g4⟩
      by_cases z : dPc d S v (d 2) < dPc e T v (e 2)
      · have : ¬ (dPc e T v (e 2) ≤ dPc d S v (d 2)) := fun y => absurd z (by rw [Int32.lt_iff_toInt_lt]; rw [Int32.le_iff_toInt_le] at y; omega)
        rw [if_neg this, decide_eq_true z]
        rfl
      · have : dPc e T v (e 2) ≤ dPc d S v (d 2) := by rw [Int32.le_iff_toInt_le]; rw [Int32.lt_iff_toInt_lt] at z; omega
        rw [if_pos this, decide_eq_false z]
        rfl
    · rw [if_neg (fun z => c2 ((n_eq (by omega) (by omega)).mp z)), if_neg c2, decide_eq_false c1]
      exact ⟨V, s, rfl, hQ.refl hs⟩
end CCOST
