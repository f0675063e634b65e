/-! THE PLAIN LAW, part 21: Strings that are asked for their hashes; the cost's objects -/
set_option maxRecDepth 100000
/-- V' tells all that V tells, but that Strings of known words may have been asked for their hashes -/
def hle (V V' : zV1) : Prop := ∀ a e, V a = some e → V' a = some e ∨ ∃ va k, 10 ≤ k ∧ k ≤ 18 ∧ e = .inr (17, [.ref va, .int (nI 0), .int (nI 0), .int (nI 0)]) ∧ hTx V' va (zWd k) ∧ V' a = some (.inr (17, [.ref va, .int (nI 0), .int (zHs k), .int (nI 0)]))
theorem hle.refl (V : zV1) : hle V V := fun _ _ h => Or.inl h
theorem hle.of {V V' : zV1} (h : ∀ a e, V a = some e → V' a = some e) : hle V V' := fun a e q => Or.inl (h a e q)
theorem hle.arr {V V' : zV1} (h : hle V V') {a : Nat} {x : Nat × Nat × zA} (q : V a = some (.inl x)) : V' a = some (.inl x) := by
  rcases h a _ q with z | ⟨va, k, -, -, z, -⟩
  · exact z
  · cases z
theorem hle.obj {V V' : zV1} (h : hle V V') {a c : Nat} {fs : List Value} (hc : c ≠ 17) (q : V a = some (.inr (c, fs))) : V' a = some (.inr (c, fs)) := by
  rcases h a _ q with z | ⟨va, k, -, -, z, -⟩
  · exact z
  · cases z
    exact absurd rfl hc
theorem hle.tx {V V' : zV1} (h : hle V V') {a : Nat} {w : List Nat} (q : hTx V a w) : hTx V' a w := by
  obtain ⟨f, h1, h2⟩ := q
  exact ⟨f, h.arr h1, h2⟩
theorem zWd_ne : ∀ k, k < 9 → ∀ l, l < 9 → k ≠ l → (zWd (10 + k)).length ≠ (zWd (10 + l)).length ∨ ∃ i, i < 10 ∧ i < (zWd (10 + k)).length ∧ nI ((zWd (10 + k)).getD i 0) ≠ nI ((zWd (10 + l)).getD i 0) := by decide +kernel
theorem hTx_inj {V : zV1} {a k l : Nat} (hk : 10 ≤ k ∧ k ≤ 18) (hl : 10 ≤ l ∧ l ≤ 18) (h : hTx V a (zWd k)) (g : hTx V a (zWd l)) : k = l := by
  apply Classical.byContradiction
  intro hne
  obtain ⟨f, f1, f2⟩ := h
  obtain ⟨f', g1, g2⟩ := g
  rw [f1] at g1
  have e1 : (zWd k).length = (zWd l).length := by
    have := congrArg (fun x : Option zE => match x with | some (.inl (_, n, _)) => n | _ => 0) g1
    exact this
  have e2 : f = f' := by
    have := congrArg (fun x : Option zE => match x with | some (.inl (_, _, .inl f)) => f | _ => fun _ => 0) g1
    exact this
  have := zWd_ne (k - 10) (by omega) (l - 10) (by omega) (by omega)
  rw [show 10 + (k - 10) = k from by omega, show 10 + (l - 10) = l from by omega] at this
  rcases this with q | ⟨i, -, q1, q2⟩
  · exact q e1
  · refine q2 ?_
    rw [← f2 i q1, ← g2 i (by omega), e2]
theorem zHs_ne {k : Nat} (h1 : 10 ≤ k) (h2 : k ≤ 18) : zHs k ≠ nI 0 := by
  have : ∀ k, k < 9 → zHs (10 + k) ≠ nI 0 := by decide +kernel
  have := this (k - 10) (by omega)
  rw [show 10 + (k - 10) = k from by omega] at this
  exact this
theorem hle.trans {V V' V2 : zV1} (h : hle V V') (g : hle V' V2) : hle V V2 := by
  intro a e q
  rcases h a e q with z | ⟨va, k, k1, k2, z, tx, y⟩
  · exact g a e z
  · rcases g a _ y with z2 | ⟨va', k', k1', k2', z2, tx', y'⟩
    · exact Or.inr ⟨va, k, k1, k2, z, g.tx tx, z2⟩
    · injection z2 with z3
      injection z3 with z4 z5
      injection z5 with z6 z7
      injection z7 with z8 z9
      injection z9 with z10 z11
      injection z10 with z12
      exact absurd z12 (zHs_ne k1 k2)
theorem hle.st {V V' : zV1} (h : hle V V') {a k : Nat} {x : Int32} (k1 : 10 ≤ k) (k2 : k ≤ 18) {P : Prop} (q : hSt V a (zWd k) x) (hx : x = nI 0 ∧ P ∨ x = zHs k) : ∃ y, hSt V' a (zWd k) y ∧ (y = nI 0 ∧ P ∨ y = zHs k) := by
  obtain ⟨va, q1, q2⟩ := q
  rcases h a _ q1 with z | ⟨va', k', k1', k2', z, tx, y⟩
  · exact ⟨x, ⟨va, z, h.tx q2⟩, hx⟩
  · injection z with z3
    injection z3 with z4 z5
    injection z5 with z6 z7
    injection z6 with z6
    subst z6
    have := hTx_inj ⟨k1, k2⟩ ⟨k1', k2'⟩ (h.tx q2) tx
    subst this
    exact ⟨zHs k, ⟨va, y, tx⟩, Or.inr rfl⟩
theorem hle.st1 {V V' : zV1} (h : hle V V') {a k : Nat} (k1 : 10 ≤ k) (k2 : k ≤ 18) (q : hSt V a (zWd k) (zHs k)) : hSt V' a (zWd k) (zHs k) := by
  obtain ⟨va, q1, q2⟩ := q
  rcases h a _ q1 with z | ⟨va', k', k1', k2', z, tx, y⟩
  · exact ⟨va, z, h.tx q2⟩
  · injection z with z3
    injection z3 with z4 z5
    injection z5 with z6 z7
    injection z7 with z8 z9
    injection z9 with z10 z11
    injection z10 with z12
    exact absurd z12 (zHs_ne k1 k2)
theorem hle.B {G : Nat → Nat} {V V' : zV1} (h : hle V V') (q : hB G V) : hB G V' := by
  obtain ⟨⟨c, q1, q2⟩, q3, q4, q5⟩ := q
  exact ⟨⟨c, h.arr q1, q2⟩, fun k hk => h.obj (by decide) (q3 k hk), h.arr q4, fun k k1 k2 => h.st1 k1 k2 (q5 k k1 k2)⟩
theorem hle.Tr {G : Nat → Nat} {V V' : zV1} (h : hle V V') {f : Nat → Option Nat} : ∀ {n : Nat} {r : Option Nat} {lo hi : Nat}, hTr G V n r lo hi f → hTr G V' n r lo hi f := by
  intro n
  induction n with
  | zero => intro r lo hi q; exact q
  | succ n ih =>
    intro r lo hi q
    rcases q with q | ⟨e, k, va, l, rr, pa, co, q1, q2, q3, q4, q5, q6, q7, q8⟩
    · exact Or.inl q
    · exact Or.inr ⟨e, k, va, l, rr, pa, co, q1, h.obj (by decide) q2, q3, q4, q5, q6, ih q7, ih q8⟩
theorem hle.Mp {G : Nat → Nat} {V V' : zV1} (h : hle V V') {T : Nat} {f : Nat → Option Nat} (q : hMp G V T f) : hMp G V' T f := by
  obtain ⟨fs, root, n, q1, q2, q3, q4, q5⟩ := q
  exact ⟨fs, root, n, h.obj (by decide) q1, q2, q3, q4, h.Tr q5⟩
theorem zVr_k (k : Nat) : 10 ≤ zVr k ∧ zVr k ≤ 18 := by
  unfold zVr
  split
  · omega
  · split
    · omega
    · split <;> omega
theorem hle.Nd {G : Nat → Nat} {V V' : zV1} (h : hle V V') : ∀ {n a : Nat} {v : (Nat → Int64) → Int64}, hNd G V n a v → hNd G V' n a v := by
  intro n
  induction n with
  | zero => intro a v q; exact q
  | succ n ih =>
    intro a v q
    rcases q with ⟨x, q1, q2⟩ | ⟨k, sa, hh, q1, q2, q3, q4, q5⟩ | ⟨c, g, l, r, p, q', q1, q2, q3, q4, q5⟩
    · exact Or.inl ⟨x, h.obj (by decide) q1, q2⟩
    · obtain ⟨y, y1, y2⟩ := h.st (zVr_k k).1 (zVr_k k).2 q3 q4
      exact Or.inr (Or.inl ⟨k, sa, y, h.obj (by decide) q1, q2, y1, y2, q5⟩)
    · exact Or.inr (Or.inr ⟨c, g, l, r, p, q', h.obj (by decide) q1, q2, ih q3, ih q4, q5⟩)
theorem hNd_mono {G : Nat → Nat} {V : zV1} : ∀ {n m a : Nat} {v : (Nat → Int64) → Int64}, n ≤ m → hNd G V n a v → hNd G V m a v := by
  intro n
  induction n with
  | zero => intro m a v _ q; exact q.elim
  | succ n ih =>
    intro m a v hm q
    obtain ⟨m, rfl⟩ : ∃ z, m = z + 1 := ⟨m - 1, by omega⟩
    rcases q with q | q | ⟨c, g, l, r, p, q', q1, q2, q3, q4, q5⟩
    · exact Or.inl q
    · exact Or.inr (Or.inl q)
    · exact Or.inr (Or.inr ⟨c, g, l, r, p, q', q1, q2, ih (by omega) q3, ih (by omega) q4, q5⟩)
theorem hle.La {G : Nat → Nat} {V V' : zV1} (h : hle V V') {L : Nat} {d : Nat → Nat} {v : (Nat → Int64) → Int64} (q : hLa G V L d v) : hLa G V' L d v := by
  obtain ⟨T, J, O, C, U, mc, E, cap, f, e, q1, q2, q3, q4, q5, q6, q7, q8, ⟨o, q9, q10⟩, ⟨n, q11, q12⟩, q13⟩ := q
  refine ⟨T, J, O, C, U, mc, E, cap, f, e, h.obj (by decide) q1, q2, h.Mp q3, fun m hm => ?_, h.obj (by decide) q5, h.arr q6, q7, fun j hj => ?_, ⟨o, h.arr q9, q10⟩, ⟨n, q11, h.Nd q12⟩, h.obj (by decide) q13⟩
  · rcases q4 m hm with z | ⟨a, z1, z2, z3⟩
    · exact Or.inl z
    · exact Or.inr ⟨a, z1, z2, h.obj (by decide) z3⟩
  · obtain ⟨a, z1, z2⟩ := q8 j hj
    exact ⟨a, z1, h.obj (by decide) z2⟩
theorem hle.Pl {V V' : zV1} (h : hle V V') {p L : Nat} {d S : Nat → Nat} (q : hPl V p L d S) : hPl V' p L d S := by
  obtain ⟨a1, a2, a3, a4, f1, f2, f3, f4, q1, q2, q3, q4, q5, q6, q7, q8, q9⟩ := q
  refine ⟨a1, a2, a3, a4, f1, f2, f3, f4, h.obj (by decide) q1, h.arr q2, q3, h.arr q4, q5, h.arr q6, q7, h.arr q8, fun m hm => ?_⟩
  obtain ⟨b, g, z1, z2, z3⟩ := q9 m hm
  exact ⟨b, g, z1, h.arr z2, z3⟩
/-- a layout holds for all plans with the same jobs and machines -/
theorem hLa_same {G : Nat → Nat} {V : zV1} {L : Nat} {d e : Nat → Nat} {v : (Nat → Int64) → Int64} (h : hLa G V L d v) (h0 : ∀ i, i < 5 → e i = d i) (h1 : ∀ m, m < 6 → e (5 + 9 * m) = d (5 + 9 * m) ∧ e (5 + 9 * m + 1) = d (5 + 9 * m + 1)) (h2 : ∀ i, 59 ≤ i → i < 83 → e i = d i) (h3 : ∀ o, o < 36 → dMo e o = dMo d o) (hj : d 2 ≤ 6) : hLa G V L e v := by
  obtain ⟨T, J, O, C, U, mc, E, cap, f, g, q1, q2, q3, q4, q5, q6, q7, q8, ⟨o, q9, q10⟩, q11, q13⟩ := h
  refine ⟨T, J, O, C, U, mc, E, cap, f, g, by rw [h0 0 (by omega), h0 1 (by omega)]; exact q1, by rw [h0 1 (by omega)]; exact q2, q3, fun m hm => ?_, by rw [h0 2 (by omega)]; exact q5, q6, by rw [h0 2 (by omega)]; exact q7, fun j hj2 => ?_, ⟨o, q9, fun i hi => by rw [h3 i hi]; exact q10 i hi⟩, q11, q13⟩
  · obtain ⟨z1, z2⟩ := h1 m hm
    rw [z1, z2]
    exact q4 m hm
  · rw [h0 2 (by omega)] at hj2
    obtain ⟨a, z1, z2⟩ := q8 j hj2
    refine ⟨a, z1, ?_⟩
    unfold hJb
    rw [h2 _ (by omega) (by omega), h2 _ (by omega) (by omega), h2 _ (by omega) (by omega), h2 _ (by omega) (by omega)]
    exact z2
/-! Strings -/
theorem gd {w : List Nat} {i : Nat} (hi : i < w.length) : w.getD i 0 = w[i] := by
  rw [List.getD_eq_getElem?_getD, List.getElem?_eq_getElem hi]
  rfl
def hH (w : List Nat) (n : Nat) (h : Int32) : Int32 := (w.take n).foldl (fun h c => 31 * h + nI c) h
theorem zHs_eq : ∀ k, k < 9 → hH (zWd (10 + k)) 20 0 = zHs (10 + k) := by decide +kernel
section CSTR
variable {G : Nat → Nat} {V : zV1} {s : zS}
theorem C_strEq {a b : Nat} {w u : List Nat} {ha hb : Int32} (hs : pS V s) (h1 : hSt V a w ha) (h2 : hSt V b u hb) (hw : ∀ c, c ∈ w → c < 256) (hu : ∀ c, c ∈ u → c < 256) (lw : w.length < 1000) (lu : u.length < 1000) : f_J12_equals G a (some b) s = some (bI (decide (w = u)), s) := by
  obtain ⟨va, q1, f, q2, q3⟩ := h1
  obtain ⟨vb, p1, g, p2, p3⟩ := h2
  have e1 := hs _ _ q1
  have e2 := hs _ _ p1
  have e3 := hs _ _ q2
  have e4 := hs _ _ p2
  unfold f_J12_equals
  by_cases hab : a = b
  · subst hab
    rw [if_pos rfl]
    have hva : va = vb := by
      rw [q1] at p1
      injection p1 with z
      injection z with z
      injection z with z1 z2
      injection z2 with z3 z4
      injection z3
    subst hva
    rw [q2] at p2
    have hl : w.length = u.length := congrArg (fun x : Option zE => match x with | some (.inl (_, n, _)) => n | _ => 0) p2
    have hf : f = g := congrArg (fun x : Option zE => match x with | some (.inl (_, _, .inl f)) => f | _ => fun _ => 0) p2
    have : w = u := by
      apply List.ext_getElem hl
      intro i i1 i2
      have z1 := q3 i i1
      have z2 := p3 i i2
      rw [hf, z2, gd i1, gd i2] at z1
      have y1 := hw _ (List.getElem_mem i1)
      have y2 := hu _ (List.getElem_mem i2)
      exact ((n_eq (by omega) (by omega)).mp z1).symm
    rw [decide_eq_true this]
    rfl
  · rw [if_neg (fun z => hab (Option.some.inj z)), r_c e2, zo_s, if_neg (by decide), r_st e2, zo_s, if_neg (by decide), r_I e1 rfl, zo_s, r_I e2 rfl, zo_s, if_pos rfl]
    unfold f_J12_equals_b36 f_J17_equals
    rw [r_R e1 rfl, zo_s, r_R e2 rfl, zo_s, r_len e3 (by omega), zo_s, r_len e4 (by omega), zo_s]
    by_cases hl : w.length = u.length
    · rw [if_pos (by rw [hl])]
      have loop : ∀ (c i n : Nat), i + c = w.length → c < n → (∀ j, j < i → w.getD j 0 = u.getD j 0) → f_J17_equals_l9 G n (some va) (some vb) (nI i) s = some (bI (decide (w = u)), s) := by
        intro c
        induction c with
        | zero =>
          intro i n hc hn hj
          obtain ⟨n, rfl⟩ : ∃ q, n = q + 1 := ⟨n - 1, by omega⟩
          have : w = u := by
            apply List.ext_getElem hl
            intro i i1 i2
            have := hj i (by omega)
            rw [gd i1, gd i2] at this
            exact this
          rw [decide_eq_true this]
          show f_J17_equals_b9 G (f_J17_equals_l9 G n) _ _ _ s = _
          unfold f_J17_equals_b9
          rw [r_len e3 (by omega), zo_s, if_pos ((n_le (by omega) (by omega)).mpr (by omega))]
          rfl
        | succ c ih =>
          intro i n hc hn hj
          obtain ⟨n, rfl⟩ : ∃ q, n = q + 1 := ⟨n - 1, by omega⟩
          show f_J17_equals_b9 G (f_J17_equals_l9 G n) _ _ _ s = _
          unfold f_J17_equals_b9
          have i1 : i < w.length := by omega
          have i2 : i < u.length := by omega
          have y1 : w.getD i 0 < 256 := by rw [gd i1]; exact hw _ (List.getElem_mem i1)
          have y2 : u.getD i 0 < 256 := by rw [gd i2]; exact hu _ (List.getElem_mem i2)
          rw [r_len e3 (by omega), zo_s, if_neg (fun z => by have := (n_le (by omega) (by omega)).mp z; omega), r_aI (t := 2) e3 i1 (by omega), zo_s, r_aI (t := 2) e4 i2 (by omega), zo_s, q3 i i1, p3 i i2]
          by_cases hq : w.getD i 0 = u.getD i 0
          · rw [if_pos (by rw [hq]), show nI i + 1 = nI (i + 1) from n_add i 1]
            exact ih (i + 1) n (by omega) (by omega) (fun j hj2 => by
              by_cases e : j = i
              · rw [e]; exact hq
              · exact hj j (by omega))
          · rw [if_neg (fun z => hq ((n_eq (by omega) (by omega)).mp z)), decide_eq_false (fun z => hq (by rw [z]))]
            rfl
      rw [show (0 : Int32) = nI 0 from rfl, loop w.length 0 2000 (by omega) (by omega) (fun j hj => by omega), zb_s]
      cases decide (w = u) <;> rfl
    · rw [if_neg (fun z => hl ((n_eq (by omega) (by omega)).mp z)), decide_eq_false (fun z => hl (by rw [z]))]
      rfl
theorem C_strLen {a : Nat} {w : List Nat} {ha : Int32} (hs : pS V s) (h1 : hSt V a w ha) (lw : w.length < 1000) : f_J12_length G a s = some (nI w.length, s) := by
  obtain ⟨va, q1, f, q2, q3⟩ := h1
  have e1 := hs _ _ q1
  unfold f_J12_length f_J12_coder
  rw [r_R e1 rfl, zo_s, r_len (hs _ _ q2) (by omega), zo_s, r_c e1, zo_s, if_neg (by decide), r_I e1 rfl, zo_s]
  have : zrn .byte (nI 0) s = some (nI 0, s) := rfl
  rw [this, zb_s]
  have e : nI w.length >>> (nI 0 &&& 31) = nI w.length := by
    have := pk_shrN (n := w.length) (by omega) (nI 0 &&& 31) 0 (by decide)
    rw [this]
    congr 1
    omega
  rw [e]
theorem hH_succ (w : List Nat) (n : Nat) (h : Int32) (hn : n < w.length) : hH w (n + 1) h = 31 * hH w n h + nI (w.getD n 0) := by
  unfold hH
  rw [List.take_succ, List.foldl_append, gd hn, List.getElem?_eq_getElem hn]
  rfl
/-- the hash of a text -/
theorem C_hash17 {va : Nat} {w : List Nat} (hs : pS V s) (h1 : hTx V va w) (lw : w.length < 1000) (hw : ∀ c, c ∈ w → c < 128) : f_J17_hashCode G (some va) s = some (hH w w.length 0, s) := by
  obtain ⟨f, q2, q3⟩ := h1
  have e3 := hs _ _ q2
  have ch : ∀ i, i < w.length → f i &&& 255 = nI (w.getD i 0) := by
    intro i hi
    have y1 : w.getD i 0 < 128 := by rw [gd hi]; exact hw _ (List.getElem_mem hi)
    rw [q3 i hi, pk_andN (by omega) 8 (by decide), Nat.mod_eq_of_lt (by omega)]
  unfold f_J17_hashCode
  rw [r_len e3 (by omega), zo_s]
  by_cases l0 : w.length = 0
  · rw [if_pos (show nI w.length = 0 by rw [l0]; rfl)]
    have : w = [] := List.length_eq_zero_iff.mp l0
    subst this
    rfl
  · rw [if_neg (show ¬ (nI w.length = 0) from fun z => l0 ((n_eq (b := 0) (by omega) (by omega)).mp z))]
    by_cases l1 : w.length = 1
    · rw [if_pos (show nI w.length = 1 by rw [l1]; rfl), show (0 : Int32) = nI 0 from rfl, r_aI (t := 2) e3 (by omega) (by omega), zo_s, ch 0 (by omega), l1]
      have h1 : hH w 1 (nI 0) = 31 * hH w 0 (nI 0) + nI (w.getD 0 0) := hH_succ w 0 (nI 0) (by omega)
      have h2 : hH w 0 (nI 0) = nI 0 := rfl
      rw [h1, h2, show (31 : Int32) = nI 31 from rfl, n_mul, n_add, Nat.mul_zero, Nat.zero_add]
    · rw [if_neg (show ¬ (nI w.length = 1) from fun z => l1 ((n_eq (b := 1) (by omega) (by omega)).mp z)), zo_s]
      unfold f_J14_vectorizedHashCode f_J14_signedHashCode
      rw [if_pos rfl, r_cs e3, zo_s]
      have loop : ∀ (c i n : Nat), i + c = w.length → c < n → f_J14_signedHashCode_l8 G n (hH w i 0) (some va) (nI w.length) (nI i) s = some (hH w w.length 0, s) := by
        intro c
        induction c with
        | zero =>
          intro i n hc hn
          obtain ⟨n, rfl⟩ : ∃ q, n = q + 1 := ⟨n - 1, by omega⟩
          have e : i = w.length := by omega
          subst e
          show f_J14_signedHashCode_b8 G (f_J14_signedHashCode_l8 G n) _ _ _ _ s = _
          unfold f_J14_signedHashCode_b8
          rw [if_pos ((n_le (by omega) (by omega)).mpr (Nat.le_refl _))]
        | succ c ih =>
          intro i n hc hn
          obtain ⟨n, rfl⟩ : ∃ q, n = q + 1 := ⟨n - 1, by omega⟩
          show f_J14_signedHashCode_b8 G (f_J14_signedHashCode_l8 G n) _ _ _ _ s = _
          unfold f_J14_signedHashCode_b8
          rw [if_neg (fun z => by have := (n_le (by omega) (by omega)).mp z; omega), r_aI (t := 2) e3 (by omega) (by omega), zo_s, ch i (by omega), ← hH_succ w i 0 (by omega), show nI i + 1 = nI (i + 1) from n_add i 1]
          exact ih (i + 1) n (by omega) (by omega)
      have h9 := loop w.length 0 2000 (by omega) (by omega)
      have e9 : nI 0 + nI w.length = nI w.length := by rw [n_add]; congr 1; omega
      rw [show (0 : Int32) = nI 0 from rfl, e9]
      have h9' : f_J14_signedHashCode_l8 G 2000 (nI 0) (some va) (nI w.length) (nI 0) s = some (hH w w.length 0, s) := h9
      rw [h9', zb_s, zb_s]
      rfl
end CSTR
