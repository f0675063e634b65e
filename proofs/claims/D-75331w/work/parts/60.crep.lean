/-! THE PLAIN LAW, part 20: the system's objects that don't change any more, as a part V of the heap tells them; what is read off them -/
set_option maxRecDepth 100000
abbrev zV1 : Type := Nat → Option zE
/-- the world has what V has -/
def pS (V : zV1) (s : zS) : Prop := ∀ a e, V a = some e → s.1 a = some e
/-- the words of the language: 10 shop .. 18 release -/
def zWd (k : Nat) : List Nat := if k = 10 then [115, 104, 111, 112] else if k = 11 then [106, 111, 98] else if k = 12 then [111, 112] else if k = 13 then [109, 97, 99, 104, 105, 110, 101] else if k = 14 then [99, 111, 115, 116] else if k = 15 then [99, 111, 109, 112, 108, 101, 116, 105, 111, 110] else if k = 16 then [100, 117, 101] else if k = 17 then [119, 101, 105, 103, 104, 116] else [114, 101, 108, 101, 97, 115, 101]
/-- their hashes -/
def zHs (k : Nat) : Int32 := if k = 10 then 3529462 else if k = 11 then 105405 else if k = 12 then 3553 else if k = 13 then 825312327 else if k = 14 then 3059661 else if k = 15 then -541203492 else if k = 16 then 99828 else if k = 17 then -791592328 else 1090594823
/-- an array of bytes with a text of letters -/
def hTx (V : zV1) (a : Nat) (w : List Nat) : Prop := ∃ f, V a = some (.inl (2, w.length, .inl f)) ∧ ∀ i, i < w.length → f i = nI (w.getD i 0)
/-- a String with a text; its hash may be asked already -/
def hSt (V : zV1) (a : Nat) (w : List Nat) (h : Int32) : Prop := ∃ va, V a = some (.inr (17, [.ref va, .int (nI 0), .int h, .int (nI 0)])) ∧ hTx V va w
/-- what was there before: the cache of Integers, the empty array, the Strings -/
def hB (G : Nat → Nat) (V : zV1) : Prop := (∃ c, V (G 4) = some (.inl (6, 256, .inr (.inr c))) ∧ ∀ k, k < 128 → c (k + 128) = some (G (228 + k))) ∧ (∀ k, k < 128 → V (G (228 + k)) = some (.inr (18, [.int (nI k)]))) ∧ V (G 3) = some (.inl (5, 0, .inr (.inr fun _ => none))) ∧ ∀ k, 10 ≤ k → k ≤ 18 → hSt V (G k) (zWd k) (zHs k)
/-- a tree of entries by numbers lo .. hi - 1, at most n deep -/
def hTr (G : Nat → Nat) (V : zV1) : Nat → Option Nat → Nat → Nat → (Nat → Option Nat) → Prop
  | 0, r, lo, hi, f => r = none ∧ ∀ m, lo ≤ m → m < hi → f m = none
  | n + 1, r, lo, hi, f => (r = none ∧ ∀ m, lo ≤ m → m < hi → f m = none) ∨ ∃ e k va l rr pa co, r = some e ∧ V e = some (.inr (21, [.ref (G (228 + k)), .ref va, va_rf l, va_rf rr, pa, co])) ∧ lo ≤ k ∧ k < hi ∧ k < 6 ∧ f k = some va ∧ hTr G V n l lo k f ∧ hTr G V n rr (k + 1) hi f
/-- a map of machines by their numbers -/
def hMp (G : Nat → Nat) (V : zV1) (T : Nat) (f : Nat → Option Nat) : Prop := ∃ fs root n, V T = some (.inr (14, fs)) ∧ fs[2]? = some .null ∧ fs[3]? = some (va_rf root) ∧ n ≤ 10 ∧ hTr G V n root 0 6 f
/-- a machine: blocking, setup -/
def hMa (V : zV1) (a b t : Nat) : Prop := V a = some (.inr (5, [.int (nI b), .int (nI t)]))
def hJb (V : zV1) (d : Nat → Nat) (a j : Nat) : Prop := V a = some (.inr (9, [.int (nI (d (59 + 4 * j))), .int (nI (d (59 + 4 * j + 1))), .int (nI (d (59 + 4 * j + 2))), .int (nI (d (59 + 4 * j + 3)))]))
/-- the variables: completion, due, weight, release -/
def zVr (k : Nat) : Nat := if k = 0 then 15 else if k = 1 then 16 else if k = 2 then 17 else 18
/-- a cost in its objects, at most n deep -/
def hNd (G : Nat → Nat) (V : zV1) : Nat → Nat → ((Nat → Int64) → Int64) → Prop
  | 0, _, _ => False
  | n + 1, a, v => (∃ x, V a = some (.inr (10, [.long (lN x)])) ∧ x ≤ 9999 ∧ v = fun _ => lN x) ∨ (∃ k sa h, V a = some (.inr (4, [.ref sa])) ∧ k < 4 ∧ hSt V sa (zWd (zVr k)) h ∧ (h = nI 0 ∧ G 0 ≤ sa ∨ h = zHs (zVr k)) ∧ v = fun x => x k) ∨ ∃ c g l r p q, V a = some (.inr (11, [.int (nI g), .ref l, .ref r])) ∧ ((c = 2 ∧ g = 43) ∨ (c = 3 ∧ g = 45) ∨ (c = 4 ∧ g = 42) ∨ (c = 5 ∧ g = 47)) ∧ hNd G V n l p ∧ hNd G V n r q ∧ v = fun x => dOp c (p x) (q x)
/-- a layout: what of a plan doesn't change -/
def hLa (G : Nat → Nat) (V : zV1) (L : Nat) (d : Nat → Nat) (v : (Nat → Int64) → Int64) : Prop := ∃ T J O C U mc E cap f e, V L = some (.inr (3, [.int (nI (d 0)), .int (nI (d 1)), .ref T, .ref J, .ref O, .ref C, .ref U])) ∧ d 1 ≤ 1 ∧ hMp G V T f ∧ (∀ m, m < 6 → (f m = none ∧ d (5 + 9 * m) = 0 ∧ d (5 + 9 * m + 1) = 0) ∨ ∃ a, f m = some a ∧ d (5 + 9 * m) ≤ 1 ∧ hMa V a (1 - d (5 + 9 * m)) (d (5 + 9 * m + 1))) ∧ V J = some (.inr (15, [mc, .ref E, .int (nI (d 2))])) ∧ V E = some (.inl (5, cap, .inr (.inr e))) ∧ d 2 ≤ cap ∧ (∀ j, j < d 2 → ∃ a, e j = some a ∧ hJb V d a j) ∧ (∃ o, V O = some (.inl (0, 36, .inl o)) ∧ ∀ i, i < 36 → o i = nI (dMo d i)) ∧ (∃ n, n ≤ 1000 ∧ hNd G V n C v) ∧ hMa V U 1 0
/-- a plan: its layout, durations, counts, starts, orders -/
def hPl (V : zV1) (p L : Nat) (d S : Nat → Nat) : Prop := ∃ a1 a2 a3 a4 f1 f2 f3 f4, V p = some (.inr (2, [.ref L, .ref a1, .ref a2, .ref a3, .ref a4])) ∧ V a1 = some (.inl (0, 36, .inl f1)) ∧ (∀ o, o < 36 → f1 o = nI (dDu d o)) ∧ V a2 = some (.inl (0, 6, .inl f2)) ∧ (∀ m, m < 6 → f2 m = nI (dCn d m)) ∧ V a3 = some (.inl (0, 36, .inl f3)) ∧ (∀ o, o < 36 → f3 o = nI (S o)) ∧ V a4 = some (.inl (4, 6, .inr (.inr f4))) ∧ ∀ m, m < 6 → ∃ b g, f4 m = some b ∧ V b = some (.inl (0, 6, .inl g)) ∧ ∀ k, k < 6 → g k = nI (dOr d m k)
theorem n_neg0 {a : Nat} (ha : a < 2147483648) : ¬ nI a < 0 := n_neg ha
section CREP
variable {G : Nat → Nat} {V : zV1} {s : zS} {d : Nat → Nat} {v : (Nat → Int64) → Int64} {L : Nat}
theorem C_valueOf (hs : pS V s) (hb : hB G V) {k : Nat} (hk : k < 128) : f_J20_valueOf G (nI k) s = some (some (G (228 + k)), s) := by
  obtain ⟨⟨c, h1, h2⟩, h3⟩ := hb
  unfold f_J20_valueOf
  have e1 : ¬ (nI k < -128) := fun q => by
    have := Int32.lt_iff_toInt_lt.mp q
    rw [n_int (by omega)] at this
    have e : (-128 : Int32).toInt = -128 := by decide
    omega
  have e2 : ¬ ((127 : Int32) < nI k) := by
    rw [show (127 : Int32) = nI 127 from rfl, n_lt (by omega) (by omega)]
    omega
  have e3 : nI k + 128 = nI (k + 128) := n_add k 128
  rw [if_neg e1, if_neg e2, e3, r_aR (t := 6) (n := 256) (f := c) (hs _ _ h1) ⟨by omega, by omega⟩ (by omega) (by omega), zo_s, h2 k hk]
theorem C_cmp (hs : pS V s) (hb : hB G V) {k m : Nat} (hk : k < 128) (hm : m < 128) : f_J20_compareTo G (G (228 + m)) (some (G (228 + k))) s = some (if m < k then -nI 1 else if m = k then nI 0 else nI 1, s) := by
  have e1 := hs _ _ (hb.2.1 k hk)
  have e2 := hs _ _ (hb.2.1 m hm)
  unfold f_J20_compareTo f_J20_compareTo_2 f_J20_compare
  rw [r_st e1, zo_s, r_c e2, zo_s, r_I e2 rfl, zo_s, r_I e1 rfl, zo_s]
  simp (disch := omega) only [n_lit, n_add, n_mul, n_sub, n_lt, n_le, n_eq, n_cl, n_div, n_md6, bI_0, bI_1, bI_t, bI_f, n_e10, n_e01]
  by_cases q : m < k
  · rw [if_neg (by omega), if_pos q]
    rfl
  · rw [if_pos (by omega), if_neg q]
    by_cases q2 : m = k
    · rw [if_pos q2, if_pos q2]
      rfl
    · rw [if_neg q2, if_neg q2]
      rfl
theorem C_tree (hs : pS V s) (hb : hB G V) {m : Nat} (hm : m < 6) {f : Nat → Option Nat} : ∀ (n : Nat) (r : Option Nat) (lo hi : Nat) (fu : Nat), hTr G V n r lo hi f → lo ≤ m → m < hi → n < fu → ∃ re, f_J3_getEntry_l28 G fu (some (G (228 + m))) r s = some (re, s) ∧ ((re = none ∧ f m = none) ∨ ∃ e, re = some e ∧ zgR s re 21 1 = some (f m) ∧ f m ≠ none) := by
  intro n
  induction n with
  | zero =>
    intro r lo hi fu h h1 h2 h3
    obtain ⟨fu, rfl⟩ : ∃ q, fu = q + 1 := ⟨fu - 1, by omega⟩
    obtain ⟨rfl, h⟩ := h
    exact ⟨none, rfl, Or.inl ⟨rfl, h m h1 h2⟩⟩
  | succ n ih =>
    intro r lo hi fu h h1 h2 h3
    obtain ⟨fu, rfl⟩ : ∃ q, fu = q + 1 := ⟨fu - 1, by omega⟩
    rcases h with ⟨rfl, h⟩ | ⟨e, k, va, l, rr, pa, co, rfl, he, k1, k2, k3, hf, hl, hr⟩
    · exact ⟨none, rfl, Or.inl ⟨rfl, h m h1 h2⟩⟩
    · have e1 := hs _ _ he
      have ei := hs _ _ (hb.2.1 m (by omega))
      have hgo : f_J3_getEntry_l28 G (fu + 1) (some (G (228 + m))) (some e) s = (if m < k then f_J3_getEntry_l28 G fu (some (G (228 + m))) l s else if m = k then some (some e, s) else f_J3_getEntry_l28 G fu (some (G (228 + m))) rr s) := by
        show f_J3_getEntry_b28 G (f_J3_getEntry_l28 G fu) (some (G (228 + m))) (some e) s = _
        unfold f_J3_getEntry_b28 f_J3_getEntry_b72
        rw [if_neg (fun z => nomatch z), r_R e1 rfl, zo_s, r_c ei, zo_s, C_cmp hs hb (by omega) (by omega), zb_s]
        by_cases q : m < k
        · rw [if_pos q, if_pos q, if_neg (by decide), r_Q (x := l) e1 rfl, zo_s]
        · rw [if_neg q, if_neg q]
          by_cases q2 : m = k
          · rw [if_pos q2, if_pos q2, if_pos (by decide), if_pos (by decide)]
          · rw [if_neg q2, if_neg q2, if_pos (by decide), if_neg (by decide), r_Q (x := rr) e1 rfl, zo_s]
      rw [hgo]
      by_cases q : m < k
      · rw [if_pos q]
        exact ih l lo k fu hl h1 q (by omega)
      · rw [if_neg q]
        by_cases q2 : m = k
        · rw [if_pos q2]
          subst q2
          exact ⟨some e, rfl, Or.inr ⟨e, rfl, by rw [r_R e1 rfl, hf], by rw [hf]; exact fun z => nomatch z⟩⟩
        · rw [if_neg q2]
          exact ih rr (k + 1) hi fu hr (by omega) h2 (by omega)
theorem C_get (hs : pS V s) (hb : hB G V) {T : Nat} {f : Nat → Option Nat} (hT : hMp G V T f) {m : Nat} (hm : m < 6) : f_J3_get G T (some (G (228 + m))) s = some (f m, s) := by
  obtain ⟨fs, root, n, h1, h2, h3, h4, h5⟩ := hT
  have e1 := hs _ _ h1
  have ei := hs _ _ (hb.2.1 m (by omega))
  obtain ⟨re, g1, g2⟩ := C_tree hs hb hm n root 0 6 2000 h5 (by omega) hm (by omega)
  unfold f_J3_get f_J3_getEntry f_J28_requireNonNull
  rw [r_c e1, zo_s, r_N e1 h2, zo_s, if_pos rfl, if_neg (fun z => nomatch z), zb_s, r_st ei, zo_s, r_Q e1 h3, zo_s, g1, zb_s]
  rcases g2 with ⟨rfl, q⟩ | ⟨e, rfl, q1, q2⟩
  · rw [if_pos rfl, q]
  · rw [if_neg (fun z => nomatch z), q1, zo_s]
/-- a list's element, its length -/
theorem C_lget {J E n cap : Nat} {mc : Value} {e : Nat → Option Nat} (hs : pS V s) (h1 : V J = some (.inr (15, [mc, .ref E, .int (nI n)]))) (h2 : V E = some (.inl (5, cap, .inr (.inr e)))) (h3 : n ≤ cap) (hn : n < 100000) {j : Nat} (hj : j < n) : f_J5_get G J (nI j) s = some (e j, s) := by
  have e1 := hs _ _ h1
  have e2 := hs _ _ h2
  unfold f_J5_get f_J28_checkIndex f_J18_checkIndex f_J5_elementData
  rw [r_I e1 rfl, zo_s, if_neg (n_neg0 (a := j) (by omega)), if_pos ((n_lt (by omega) (by omega)).mpr hj), zb_s, zb_s, r_c e1, zo_s, r_R e1 rfl, zo_s, r_aR (t := 5) (n := cap) (f := e) e2 ⟨by omega, by omega⟩ (by omega) (by omega), zo_s, zb_s]
theorem C_lsize {J E n : Nat} {mc : Value} (hs : pS V s) (h1 : V J = some (.inr (15, [mc, .ref E, .int (nI n)]))) : f_J5_size G J s = some (nI n, s) := by
  unfold f_J5_size
  rw [r_I (hs _ _ h1) rfl, zo_s]
/-! a layout's methods -/
theorem C_machine (hs : pS V s) (hb : hB G V) (hL : hLa G V L d v) {m : Nat} (hm : m < 6) : ∃ a, f_X4_machine G L (nI m) s = some (some a, s) ∧ d (5 + 9 * m) ≤ 1 ∧ hMa V a (1 - d (5 + 9 * m)) (d (5 + 9 * m + 1)) := by
  obtain ⟨T, J, O, C, U, mc, E, cap, f, e, h1, -, h2, h3, -, -, -, -, -, -, h4⟩ := hL
  have e1 := hs _ _ h1
  have h2' := h2
  obtain ⟨fs, root, n, t1, -⟩ := h2'
  unfold f_X4_machine
  rw [r_R e1 rfl, zo_s, C_valueOf hs hb (by omega), zb_s, r_c (hs _ _ t1), zo_s, C_get hs hb h2 hm, zb_s]
  rcases h3 m hm with ⟨q1, q2, q3⟩ | ⟨a, q1, q2, q3⟩
  · rw [q1]
    refine ⟨U, ?_, by omega, ?_⟩
    · show zo (some ()) _ = _
      rw [zo_s, if_pos rfl, r_R e1 rfl, zo_s]
    · rw [q2, q3]
      exact h4
  · rw [q1]
    refine ⟨a, ?_, q2, q3⟩
    rw [r_st (hs _ _ q3), zo_s, if_neg (fun z => nomatch z)]
theorem C_job (hs : pS V s) (hL : hLa G V L d v) (hd2 : d 2 ≤ 6) : ∃ J, zgR s (some L) 3 3 = some (some J) ∧ zrc s (some J) 15 = some J ∧ f_J5_size G J s = some (nI (d 2), s) ∧ ∀ j, j < d 2 → ∃ a, f_J5_get G J (nI j) s = some (some a, s) ∧ zcst s (some a) 9 = some () ∧ zgI s (some a) 9 0 = some (nI (d (59 + 4 * j))) ∧ zgI s (some a) 9 1 = some (nI (d (59 + 4 * j + 1))) ∧ zgI s (some a) 9 2 = some (nI (d (59 + 4 * j + 2))) ∧ zgI s (some a) 9 3 = some (nI (d (59 + 4 * j + 3))) := by
  obtain ⟨T, J, O, C, U, mc, E, cap, f, e, h1, -, -, -, h2, h3, h4, h5, -⟩ := hL
  have e1 := hs _ _ h1
  have e2 := hs _ _ h2
  refine ⟨J, r_R e1 rfl, r_c e2, C_lsize hs h2, fun j hj => ?_⟩
  obtain ⟨a, q1, q2⟩ := h5 j hj
  have e3 := hs _ _ q2
  exact ⟨a, by rw [C_lget hs h2 h3 h4 (by omega) hj, q1], r_st e3, r_I e3 rfl, r_I e3 rfl, r_I e3 rfl, r_I e3 rfl⟩
theorem C_isFirst {o : Nat} (ho : o < 36) : f_X4_isFirst G L (nI o) s = some (bI (decide (o % 6 = 0)), s) := by
  unfold f_X4_isFirst
  simp (disch := omega) only [n_lit, n_add, n_mul, n_sub, n_lt, n_le, n_eq, n_cl, n_div, n_md6, bI_0, bI_1, bI_t, bI_f, n_e10, n_e01]
  by_cases h : o % 6 = 0
  · rw [if_pos h, decide_eq_true h]; rfl
  · rw [if_neg h, decide_eq_false h]; rfl
theorem C_exists (hs : pS V s) (hL : hLa G V L d v) (hd : ∀ i, d i < 1000001) (hd2 : d 2 ≤ 6) {o : Nat} (ho : o < 36) : f_X4_exists G L (nI o) s = some (bI (dEx d o), s) := by
  obtain ⟨J, h1, h2, h3, h4⟩ := C_job hs hL hd2
  unfold f_X4_exists dEx
  simp (disch := omega) only [zo_s, zb_s, zx_l, zx_r, zrn_1, zrn_0, zrn_b, zrnX_1, zrnX_0, zrnX_b, n_lit, n_add, n_mul, n_sub, n_lt, n_le, n_eq, n_cl, n_div, n_md6, bI_0, bI_1, bI_t, bI_f, n_e10, n_e01, h1, h2, h3]
  by_cases q : d 2 ≤ o / 6
  · rw [if_pos q, decide_eq_false (show ¬ (o / 6 < d 2) from by omega)]
    rfl
  · rw [if_neg q]
    obtain ⟨a, g1, g2, -, -, -, g3⟩ := h4 (o / 6) (by omega)
    simp (disch := omega) only [zo_s, zb_s, zx_l, zx_r, zrn_1, zrn_0, zrn_b, zrnX_1, zrnX_0, zrnX_b, n_lit, n_add, n_mul, n_sub, n_lt, n_le, n_eq, n_cl, n_div, n_md6, bI_0, bI_1, bI_t, bI_f, n_e10, n_e01, g1, g2, g3, n_dl hd]
    rw [decide_eq_true (show o / 6 < d 2 from by omega)]
    by_cases q2 : d (59 + 4 * (o / 6) + 3) ≤ o % 6
    · rw [if_pos q2, decide_eq_false (show ¬ (o % 6 < d (59 + 4 * (o / 6) + 3)) from by omega)]
      rfl
    · rw [if_neg q2, decide_eq_true (show o % 6 < d (59 + 4 * (o / 6) + 3) from by omega)]
      rfl
theorem C_isLast (hs : pS V s) (hL : hLa G V L d v) (hd : ∀ i, d i < 1000001) (hd2 : d 2 ≤ 6) {o : Nat} (ho : o < 36) (hj : o / 6 < d 2) : f_X4_isLast G L (nI o) s = some (bI (dLa d o), s) := by
  obtain ⟨J, h1, h2, h3, h4⟩ := C_job hs hL hd2
  obtain ⟨a, g1, g2, -, -, -, g3⟩ := h4 (o / 6) hj
  unfold f_X4_isLast dLa
  simp (disch := omega) only [zo_s, zb_s, zx_l, zx_r, zrn_1, zrn_0, zrn_b, zrnX_1, zrnX_0, zrnX_b, n_lit, n_add, n_mul, n_sub, n_lt, n_le, n_eq, n_cl, n_div, n_md6, bI_0, bI_1, bI_t, bI_f, n_e10, n_e01, h1, h2, g1, g2, g3]
  have hx := hd (59 + 4 * (o / 6) + 3)
  have e : (nI (o % 6) = nI (d (59 + 4 * (o / 6) + 3)) - nI 1) ↔ o % 6 + 1 = d (59 + 4 * (o / 6) + 3) := by
    constructor
    · intro h
      have h2 : nI (o % 6) + nI 1 = nI (d (59 + 4 * (o / 6) + 3)) := by rw [h, Int32.sub_add_cancel]
      rw [n_add, n_eq (by omega) (by omega)] at h2
      exact h2
    · intro h
      rw [← h, n_sub (by omega)]
      rfl
  simp only [e]
  by_cases h : o % 6 + 1 = d (59 + 4 * (o / 6) + 3)
  · rw [if_pos h, decide_eq_true h]; rfl
  · rw [if_neg h, decide_eq_false h]; rfl
theorem C_isBlocked (hs : pS V s) (hb : hB G V) (hL : hLa G V L d v) (hd : ∀ i, d i < 1000001) (hd2 : d 2 ≤ 6) {o : Nat} (ho : o < 36) (hj : o / 6 < d 2) (hm : dMo d o < 6) : f_X4_isBlocked G L (nI o) s = some (bI (dBl d o), s) := by
  obtain ⟨a, g1, g2, g3⟩ := C_machine hs hb hL hm
  have hla := C_isLast hs hL hd hd2 ho hj
  obtain ⟨T, J, O, C, U, mc, E, cap, f, e, h1, -, -, -, -, -, -, -, ⟨w, h2, h3⟩, -⟩ := hL
  have e1 := hs _ _ h1
  unfold f_X4_isBlocked dBl
  rw [r_R e1 rfl, zo_s, r_aI (n := 36) (f := w) (hs _ _ h2) ho (by omega), zo_s, r_c e1, zo_s, h3 o ho, g1, zb_s, r_I (hs _ _ g3) rfl, zo_s, hla]
  by_cases q : d (5 + 9 * dMo d o) = 0
  · rw [q, decide_eq_true (rfl : (0 : Nat) = 0), if_neg (by decide), r_c e1, zo_s]
    cases dLa d o <;> rfl
  · have q1 : d (5 + 9 * dMo d o) = 1 := by omega
    rw [q1, decide_eq_false (show ¬ ((1 : Nat) = 0) from by omega), if_pos (by decide)]
    rfl
/-! a plan's methods that read -/
theorem C_end {p : Nat} {S : Nat → Nat} (hs : pS V s) (hP : hPl V p L d S) {o : Nat} (ho : o < 36) : f_X3_end G p (nI o) s = some (nI (S o + dDu d o), s) := by
  obtain ⟨a1, a2, a3, a4, f1, f2, f3, f4, h1, h2, h3, -, -, h4, h5, -⟩ := hP
  have e1 := hs _ _ h1
  unfold f_X3_end
  rw [r_R e1 rfl, zo_s, r_aI (n := 36) (f := f3) (hs _ _ h4) ho (by omega), zo_s, r_R e1 rfl, zo_s, r_aI (n := 36) (f := f1) (hs _ _ h2) ho (by omega), zo_s, h3 o ho, h5 o ho, n_add]
theorem C_leave {p : Nat} {S : Nat → Nat} (hs : pS V s) (hb : hB G V) (hL : hLa G V L d v) (hP : hPl V p L d S) (hV : dV d) {o : Nat} (ho : o < 36) (hex : dEx d o = true) : f_X3_leave G p (nI o) s = some (nI (dLv d S o), s) := by
  have hm := (hV.2.2.2.2.1 o ho hex).1
  have h06 := hV.2.1
  have hj := ((dEx_iff d o).mp hex).1
  have hend := C_end (G := G) hs hP ho
  have hLL := hL
  obtain ⟨T, J, O, C, U, mc, E, cap, f, e, l1, -⟩ := hLL
  obtain ⟨a1, a2, a3, a4, f1, f2, f3, f4, h1, -, -, -, -, h4, h5, -⟩ := hP
  have e1 := hs _ _ h1
  unfold f_X3_leave dLv
  rw [r_R e1 rfl, zo_s, r_c (hs _ _ l1), zo_s, C_isBlocked hs hb hL hV.1 hV.2.2.1 ho hj (by omega), zb_s]
  cases hbl : dBl d o with
  | false =>
    rw [if_pos (by decide), r_c e1, zo_s, hend, zb_s]
    rfl
  | true =>
    have hn := (dEx_next hV ho hex (dBl_nl hbl)).1
    rw [if_neg (by decide), r_R e1 rfl, zo_s, show nI o + 1 = nI (o + 1) from n_add o 1, r_aI (n := 36) (f := f3) (hs _ _ h4) hn (by omega), zo_s, h5 _ hn]
    rfl
theorem C_completion {p : Nat} {S : Nat → Nat} (hs : pS V s) (hL : hLa G V L d v) (hP : hPl V p L d S) (hV : dV d) {j : Nat} (hj : j < d 2) : f_X3_completion G p (nI j) s = some (nI (S (dEn d j) + dDu d (dEn d j)), s) := by
  obtain ⟨J, h1, h2, h3, h4⟩ := C_job hs hL hV.2.2.1
  obtain ⟨a, g1, g2, -, -, -, g3⟩ := h4 j hj
  have hE := dEn_lt hV hj
  have hend := C_end (G := G) hs hP hE.1
  obtain ⟨a1, a2, a3, a4, f1, f2, f3, f4, p1, -⟩ := hP
  have e1 := hs _ _ p1
  have hcn := (hV.2.2.2.1 j hj).1
  unfold f_X3_completion
  rw [r_R e1 rfl, zo_s, h1, zo_s, h2, zo_s, g1, zb_s, g2, zo_s, g3, zo_s, r_c e1, zo_s]
  have e2 : (6 : Int32) * nI j + nI (d (59 + 4 * j + 3)) - 1 = nI (dEn d j) := by
    unfold dEn
    rw [show (6 : Int32) = nI 6 from rfl, show (1 : Int32) = nI 1 from rfl, n_mul, n_add, n_sub (by omega)]
  rw [e2, hend, zb_s]
theorem C_makespan_l {p : Nat} {S : Nat → Nat} (hs : pS V s) (hL : hLa G V L d v) (hP : hPl V p L d S) (hV : dV d) (hB : ∀ i, i < 36 → S i < 600000) : ∀ (c j n : Nat), j + c = d 2 → c < n → f_X3_makespan_l4 G n p (nI (dMs d S j)) (nI j) s = some (nI (dMs d S (d 2)), s) := by
  have h26 := hV.2.2.1
  obtain ⟨J, h1, h2, h3, h4⟩ := C_job hs hL hV.2.2.1
  have hPP := hP
  obtain ⟨a1, a2, a3, a4, f1, f2, f3, f4, p1, -⟩ := hPP
  have e1 := hs _ _ p1
  intro c
  induction c with
  | zero =>
    intro j n hc hn
    obtain ⟨n, rfl⟩ : ∃ q, n = q + 1 := ⟨n - 1, by omega⟩
    have e : j = d 2 := by omega
    subst e
    show f_X3_makespan_b4 G (f_X3_makespan_l4 G n) p _ _ s = _
    unfold f_X3_makespan_b4
    rw [r_R e1 rfl, zo_s, h1, zo_s, h2, zo_s, h3, zb_s, if_pos ((n_le (by omega) (by omega)).mpr (Nat.le_refl _))]
  | succ c ih =>
    intro j n hc hn
    obtain ⟨n, rfl⟩ : ∃ q, n = q + 1 := ⟨n - 1, by omega⟩
    have hm := dMs_lt hV hB j (by omega)
    obtain ⟨h4, h5⟩ := dEn_lt hV (j := j) (by omega)
    have h6 := hB _ h4
    have h7 := (hV.2.2.2.2.1 _ h4 h5).2.2.1
    show f_X3_makespan_b4 G (f_X3_makespan_l4 G n) p _ _ s = _
    unfold f_X3_makespan_b4
    rw [r_R e1 rfl, zo_s, h1, zo_s, h2, zo_s, h3, zb_s, if_neg (fun z => by have := (n_le (by omega) (by omega)).mp z; omega), r_c e1, zo_s, C_completion hs hL hP hV (by omega), zb_s]
    have e2 : (if nI (dMs d S j) < nI (S (dEn d j) + dDu d (dEn d j)) then nI (S (dEn d j) + dDu d (dEn d j)) else nI (dMs d S j)) = nI (dMs d S (j + 1)) := by
      simp only [n_lt (show dMs d S j < 2147483648 from by omega) (show S (dEn d j) + dDu d (dEn d j) < 2147483648 from by omega), dMs]
      by_cases z : dMs d S j < S (dEn d j) + dDu d (dEn d j)
      · rw [if_pos z, Nat.max_eq_right (by omega)]
      · rw [if_neg z, Nat.max_eq_left (by omega)]
    rw [e2, show nI j + 1 = nI (j + 1) from n_add j 1]
    exact ih (j + 1) n (by omega) (by omega)
theorem C_makespan {p : Nat} {S : Nat → Nat} (hs : pS V s) (hL : hLa G V L d v) (hP : hPl V p L d S) (hV : dV d) (hB : ∀ i, i < 36 → S i < 600000) : f_X3_makespan G p s = some (nI (dMs d S (d 2)), s) := C_makespan_l hs hL hP hV hB (d 2) 0 2000 (by omega) (by have := hV.2.2.1; omega)
theorem C_position {p : Nat} {S : Nat → Nat} (hs : pS V s) (hL : hLa G V L d v) (hP : hPl V p L d S) (hV : dV d) {m k : Nat} (hm : m < d 0) (hk : k < dCn d m) : f_X3_position G p (nI (dOr d m k)) s = some (nI k, s) := by
  obtain ⟨T, J, O, C, U, mc, E, cap, f, e, l1, -, -, -, -, -, -, -, ⟨w, l2, l3⟩, -⟩ := hL
  obtain ⟨a1, a2, a3, a4, f1, f2, f3, f4, p1, -, -, -, -, -, -, p2, p3⟩ := hP
  have hm6 : m < 6 := Nat.lt_of_lt_of_le hm hV.2.1
  obtain ⟨c6, -, hor⟩ := hV.2.2.2.2.2.1 m hm
  obtain ⟨o1, o2, o3⟩ := hor k hk
  obtain ⟨b, g, q1, q2, q3⟩ := p3 m hm6
  have e1 := hs _ _ p1
  have e2 := hs _ _ l1
  have step : ∀ (c i n : Nat), i + c = k → c < n → f_X3_position_l2 G n p (nI (dOr d m k)) (nI i) s = some (nI k, s) := by
    intro c
    induction c with
    | zero =>
      intro i n hc hn
      obtain ⟨n, rfl⟩ : ∃ q, n = q + 1 := ⟨n - 1, by omega⟩
      have e : i = k := by omega
      subst e
      show f_X3_position_b2 G (f_X3_position_l2 G n) p _ _ s = _
      unfold f_X3_position_b2
      rw [r_R e1 rfl, zo_s, r_R e1 rfl, zo_s, r_R e2 rfl, zo_s, r_aI (n := 36) (f := w) (hs _ _ l2) o1 (by omega), zo_s, l3 _ o1, o3, r_aR (t := 4) (n := 6) (f := f4) (hs _ _ p2) ⟨by omega, by omega⟩ hm6 (by omega), zo_s, q1, r_aI (n := 6) (f := g) (hs _ _ q2) (by omega) (by omega), zo_s, q3 _ (by omega), if_pos rfl]
    | succ c ih =>
      intro i n hc hn
      obtain ⟨n, rfl⟩ : ∃ q, n = q + 1 := ⟨n - 1, by omega⟩
      have hne : dOr d m i ≠ dOr d m k := fun z => by
        have := hV.2.2.2.2.2.2 m i k hm (by omega) hk z
        omega
      have hi := (hor i (by omega)).1
      show f_X3_position_b2 G (f_X3_position_l2 G n) p _ _ s = _
      unfold f_X3_position_b2
      rw [r_R e1 rfl, zo_s, r_R e1 rfl, zo_s, r_R e2 rfl, zo_s, r_aI (n := 36) (f := w) (hs _ _ l2) o1 (by omega), zo_s, l3 _ o1, o3, r_aR (t := 4) (n := 6) (f := f4) (hs _ _ p2) ⟨by omega, by omega⟩ hm6 (by omega), zo_s, q1, r_aI (n := 6) (f := g) (hs _ _ q2) (by omega) (by omega), zo_s, q3 _ (by omega), if_neg (fun z => hne ((n_eq (by omega) (by omega)).mp z)), show nI i + 1 = nI (i + 1) from n_add i 1]
      exact ih (i + 1) n (by omega) (by omega)
  exact step k 0 2000 (by omega) (by omega)
end CREP
