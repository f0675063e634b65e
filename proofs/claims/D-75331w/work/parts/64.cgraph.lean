/-! THE PLAIN LAW, part 24: the system's arcs and starts -/
set_option maxRecDepth 100000
/-- V tells nothing of the shop's own cells, and only what is so -/
def pC (X : Nat) (V : zV1) (s : zS) : Prop := ∀ a e, V a = some e → (a < X ∨ X + 11 ≤ a) ∧ s.1 a = some e
theorem pC.S {X : Nat} {V : zV1} {s : zS} (h : pC X V s) (χ : zCh) : pS V (cw X χ s) := fun a e q => by
  rw [cw_out X χ s (h a e q).1]
  exact (h a e q).2
/-- all but the numbers J, the arrays K, the references R as before; the history's array -/
def kFr (J K R : List Nat) (χ χ' : zCh) : Prop := (∀ k, k ∉ J → kN χ' k = kN χ k) ∧ (∀ j, j ∉ K → kA χ' j = kA χ j) ∧ (∀ j, j ∉ R → kR χ' j = kR χ j) ∧ kD χ' = kD χ
theorem kFr.refl (J K R : List Nat) (χ : zCh) : kFr J K R χ χ := ⟨fun _ _ => rfl, fun _ _ => rfl, fun _ _ => rfl, rfl⟩
theorem kFr.trans {J K R : List Nat} {χ χ1 χ2 : zCh} (h : kFr J K R χ χ1) (g : kFr J K R χ1 χ2) : kFr J K R χ χ2 := ⟨fun k hk => (g.1 k hk).trans (h.1 k hk), fun j hj => (g.2.1 j hj).trans (h.2.1 j hj), fun j hj => (g.2.2.1 j hj).trans (h.2.2.1 j hj), g.2.2.2.trans h.2.2.2⟩
theorem kFr.mono {J K R J' K' R' : List Nat} {χ χ1 : zCh} (h : kFr J K R χ χ1) (hJ : ∀ k, k ∈ J → k ∈ J') (hK : ∀ k, k ∈ K → k ∈ K') (hR : ∀ k, k ∈ R → k ∈ R') : kFr J' K' R' χ χ1 := ⟨fun k hk => h.1 k (fun q => hk (hJ k q)), fun j hj => h.2.1 j (fun q => hj (hK j q)), fun j hj => h.2.2.1 j (fun q => hj (hR j q)), h.2.2.2⟩
theorem kFr.uA {J K R : List Nat} {χ : zCh} (j i : Nat) (x : Int32) (hj : j ∈ K) : kFr J K R χ (uA χ j i x) := ⟨fun _ _ => rfl, fun j' hj' => kA_ne _ _ _ (fun e => hj' (e ▸ hj)), fun _ _ => rfl, rfl⟩
theorem kFr.uN {J K R : List Nat} {χ : zCh} (k : Nat) (x : Int32) (hk : k ∈ J) : kFr J K R χ (uN' χ k x) := ⟨fun k' hk' => by rw [kN_uN, if_neg (fun (e : k' = k) => hk' (e ▸ hk))], fun _ _ => rfl, fun _ _ => rfl, rfl⟩
theorem kFr.uR {J K R : List Nat} {χ : zCh} (k : Nat) (x : Option Nat) (hk : k ∈ R) : kFr J K R χ (uR χ k x) := ⟨fun _ _ => rfl, fun _ _ => rfl, fun k' hk' => by rw [kR_uR, if_neg (fun (e : k' = k) => hk' (e ▸ hk))], rfl⟩
/-- the arcs that are laid -/
def gAr (χ : zCh) (n : Nat) (sN tN lN : Nat → Nat) : Prop := kN χ 17 = nI n ∧ ∀ k, k < n → kA χ 5 k = nI (sN k) ∧ kA χ 6 k = nI (tN k) ∧ kA χ 7 k = nI (lN k)
/-- they are arcs of the plan, and all that P says are among them -/
def gOk (d : Nat → Nat) (n : Nat) (sN tN lN : Nat → Nat) (P : Nat → Nat → Nat → Prop) : Prop := (∀ k, k < n → dAr d (sN k) (tN k) (lN k)) ∧ ∀ u v l, P u v l → ∃ k, k < n ∧ sN k = u ∧ tN k = v ∧ lN k = l
/-- the job arcs that begin below o; the machine arcs of the machines below m, of m up to k -/
def gP (d : Nat → Nat) (o m k : Nat) (u v l : Nat) : Prop := (v < 36 ∧ dEx d v = true ∧ v % 6 ≠ 0 ∧ u = v - 1 ∧ l = dDu d (v - 1) ∧ u < o) ∨ ∃ i j, j + 1 < dCn d i ∧ v = dOr d i (j + 1) ∧ u = dPr d (dOr d i j) ∧ l = dLn d i (dOr d i j) ∧ (i < m ∨ i = m ∧ j + 1 < k)
section CGRAPH
variable {G : Nat → Nat} {X : Nat} {V : zV1} {s : zS} {d : Nat → Nat} {v : (Nat → Int64) → Int64} {L p : Nat} {T : Nat → Nat}
theorem C_arc (hG : G 0 ≤ X) {χ : zCh} {n : Nat} {sN tN lN : Nat → Nat} (h : gAr χ n sN tN lN) (hn : n < 72) (a b c : Nat) : ∃ χ', f_X2_arc G (X + 4) (nI a) (nI b) (nI c) (cw X χ s) = some ((), cw X χ' s) ∧ gAr χ' (n + 1) (va_up sN n a) (va_up tN n b) (va_up lN n c) ∧ kFr [17] [5, 6, 7] [] χ χ' := by
  obtain ⟨h1, h2⟩ := h
  refine ⟨uN' (uA (uA (uA χ 5 n (nI a)) 6 n (nI b)) 7 n (nI c)) 17 (nI (n + 1)), ?_, ⟨?_, fun k hk => ?_⟩, ?_⟩
  · unfold f_X2_arc
    simp (disch := omega) only [zo_s, zb_s, zx_l, zx_r, zrn_1, zrn_0, zrn_b, zrnX_1, zrnX_0, zrnX_b, n_lit, n_add, n_mul, n_sub, n_lt, n_le, n_eq, n_cl, n_div, n_md6, bI_0, bI_1, bI_t, bI_f, n_e10, n_e01, c_rcX, c_rcD, c_rcG, c_X0, c_X1, c_X2, c_X3, c_X4, c_X5, c_D0, c_D1, c_D2, c_G0, c_G1, c_G2, c_G3, c_G4, c_G5, c_G6, c_G7, c_G8, c_aA, c_aO, c_aB, c_aD, c_lD, c_pR3, c_pR6, c_P4, c_P5, c_Q1, c_Q2, c_S7, c_S8, c_sA, c_sO, c_sB, kN_uN, kN_uA, kN_uR, kN_uD, kA_uN, kA_uR, kA_uD, kA_uA, kR_uN, kR_uA, kR_uR, kR_uD, kD_uN, kD_uA, kD_uR, kD_uD, h1, hG]
  · rw [kN_uN, if_pos rfl]
  · simp only [kA_uN, kA_uA, u_at]
    by_cases e : k = n
    · subst e
      simp
    · simp only [e, and_false, if_false]
      exact h2 k (by omega)
  · exact (((kFr.uA _ _ _ (by decide)).trans (kFr.uA _ _ _ (by decide))).trans (kFr.uA _ _ _ (by decide))).trans (kFr.uN _ _ (by decide))
theorem gOk.add {n : Nat} {sN tN lN : Nat → Nat} {P Q : Nat → Nat → Nat → Prop} (h : gOk d n sN tN lN P) {a b c : Nat} (ha : dAr d a b c) (hQ : ∀ u v l, Q u v l → P u v l ∨ (u = a ∧ v = b ∧ l = c)) : gOk d (n + 1) (va_up sN n a) (va_up tN n b) (va_up lN n c) Q := by
  refine ⟨fun k hk => ?_, fun u v l q => ?_⟩
  · simp only [u_at]
    by_cases e : k = n
    · simp only [e, if_true]
      exact ha
    · simp only [e, if_false]
      exact h.1 k (by omega)
  · rcases hQ u v l q with z | ⟨rfl, rfl, rfl⟩
    · obtain ⟨k, k1, k2, k3, k4⟩ := h.2 u v l z
      refine ⟨k, by omega, ?_⟩
      simp only [u_at]
      have e : k ≠ n := by omega
      simp only [e, if_false]
      exact ⟨k2, k3, k4⟩
    · refine ⟨n, by omega, ?_⟩
      simp only [u_at, if_true]
      exact ⟨trivial, trivial, trivial⟩
theorem gOk.sub {n : Nat} {sN tN lN : Nat → Nat} {P Q : Nat → Nat → Nat → Prop} (h : gOk d n sN tN lN P) (hQ : ∀ u v l, Q u v l → P u v l) : gOk d n sN tN lN Q := ⟨h.1, fun u v l q => h.2 u v l (hQ u v l q)⟩
/-- the orders' part -/
theorem C_lay_l109 (hp : pC X V s) (hb : hB G V) (hG : G 0 ≤ X) (hL : hLa G V L d v) (hP : hPl V p L d T) (hV : dV d) (k83 : Nat → Option Nat → Int32 → zS → Option (Unit × zS)) {m : Nat} (hm : m < d 0) : ∀ (c k n f : Nat) (χ : zCh) (sN tN lN : Nat → Nat), k + 1 ≤ 6 → dCn d m ≤ k + 1 + c → c < f → kR χ 16 = some L → n ≤ 36 + 6 * m + k → gAr χ n sN tN lN → gOk d n sN tN lN (gP d 36 m (k + 1)) → ∃ χ' n' sN' tN' lN', f_X2_lay_l109 G k83 f (X + 4) (some p) (nI m) (nI (d (5 + 9 * m + 1))) (nI (k + 1)) (cw X χ s) = k83 (X + 4) (some p) (nI (m + 1)) (cw X χ' s) ∧ n' ≤ 36 + 6 * (m + 1) ∧ gAr χ' n' sN' tN' lN' ∧ gOk d n' sN' tN' lN' (gP d 36 (m + 1) 0) ∧ kFr [17] [5, 6, 7] [] χ χ' := by
  have hm6 : m < 6 := Nat.lt_of_lt_of_le hm hV.2.1
  obtain ⟨hc6, hsu, hor⟩ := hV.2.2.2.2.2.1 m hm
  intro c
  induction c with
  | zero =>
    intro k n f χ sN tN lN hk6 hc hf hR hn hA hO
    obtain ⟨f, rfl⟩ : ∃ q, f = q + 1 := ⟨f - 1, by omega⟩
    obtain ⟨a1, a2, a3, a4, f1, f2, f3, f4, p1, p2, p3, p4, p5, -⟩ := hP
    have hs := hp.S χ
    refine ⟨χ, n, sN, tN, lN, ?_, by omega, hA, hO.sub (fun u w l q => ?_), kFr.refl _ _ _ _⟩
    · show f_X2_lay_b109 G k83 (f_X2_lay_l109 G k83 f) _ _ _ _ _ (cw X χ s) = _
      unfold f_X2_lay_b109
      rw [r_R (hs _ _ p1) rfl, zo_s, r_aI (n := 6) (f := f2) (hs _ _ p4) hm6 (by omega), zo_s, p5 m hm6, if_pos ((n_le (by omega) (by omega)).mpr hc), show nI m + 1 = nI (m + 1) from n_add m 1]
    · rcases q with q | ⟨i, j, j1, j2, j3, j4, j5⟩
      · exact Or.inl q
      · refine Or.inr ⟨i, j, j1, j2, j3, j4, ?_⟩
        rcases j5 with j5 | ⟨-, j5⟩
        · by_cases e : i = m
          · subst e
            exact Or.inr ⟨rfl, by omega⟩
          · exact Or.inl (by omega)
        · omega
  | succ c ih =>
    intro k n f χ sN tN lN hk6 hc hf hR hn hA hO
    obtain ⟨f, rfl⟩ : ∃ q, f = q + 1 := ⟨f - 1, by omega⟩
    by_cases hx : dCn d m ≤ k + 1
    · exact ih k n (f + 1) χ sN tN lN hk6 (by omega) (by omega) hR hn hA hO
    · have hPP := hP
      obtain ⟨a1, a2, a3, a4, f1, f2, f3, f4, p1, p2, p3, p4, p5, -, -, p6, p7⟩ := hPP
      obtain ⟨b, g, q1, q2, q3⟩ := p7 m hm6
      obtain ⟨o1, o2, o3⟩ := hor k (by omega)
      obtain ⟨o4, o5, o6⟩ := hor (k + 1) (by omega)
      have hs := hp.S χ
      have ep := hs _ _ p1
      have hpr := dPr_ex hV o1 o2
      have hj := ((dEx_iff d _).mp o2).1
      have hbl := C_isBlocked hs hb hL hV.1 hV.2.2.1 o1 hj (by omega)
      have eL : zrc (cw X χ s) (some L) 3 = some L := by
        obtain ⟨T', J, O, C, U, mc, E, cap, f', e, l1, -⟩ := hL
        exact r_c (hs _ _ l1)
      have rC : zgR (cw X χ s) (some p) 2 2 = some (some a2) := r_R ep rfl
      have rO : zgR (cw X χ s) (some p) 2 4 = some (some a4) := r_R ep rfl
      have rD : zgR (cw X χ s) (some p) 2 1 = some (some a1) := r_R ep rfl
      have rc : zaI (cw X χ s) (some a2) 0 (nI m) = some (nI (dCn d m)) := by rw [r_aI (n := 6) (f := f2) (hs _ _ p4) hm6 (by omega), p5 m hm6]
      have ro : zaR (cw X χ s) (some a4) (nI m) = some (some b) := by rw [r_aR (t := 4) (n := 6) (f := f4) (hs _ _ p6) ⟨by omega, by omega⟩ hm6 (by omega), q1]
      have rk : ∀ i, i < 6 → zaI (cw X χ s) (some b) 0 (nI i) = some (nI (dOr d m i)) := fun i hi => by rw [r_aI (n := 6) (f := g) (hs _ _ q2) hi (by omega), q3 i hi]
      have rd : zaI (cw X χ s) (some a1) 0 (nI (dOr d m k)) = some (nI (dDu d (dOr d m k))) := by rw [r_aI (n := 36) (f := f1) (hs _ _ p2) o1 (by omega), p3 _ o1]
      have ek : k + 1 - 1 = k := by omega
      have hnew : dAr d (dPr d (dOr d m k)) (dOr d m (k + 1)) (dLn d m (dOr d m k)) := Or.inr ⟨m, k, hm, by omega, rfl, rfl, rfl⟩
      obtain ⟨χ1, w1, w2, w3⟩ := C_arc (s := s) hG hA (by omega) (dPr d (dOr d m k)) (dOr d m (k + 1)) (dLn d m (dOr d m k))
      obtain ⟨χ2, n2, sN2, tN2, lN2, y1, y2, y3, y4, y5⟩ := ih (k + 1) (n + 1) f χ1 _ _ _ (by omega) (by omega) (by omega) (by rw [w3.2.2.1 16 (by decide)]; exact hR) (by omega) w2 (hO.add hnew (fun u w l q => by
        rcases q with q | ⟨i, j, j1, j2, j3, j4, j5⟩
        · exact Or.inl (Or.inl q)
        · by_cases e : i = m ∧ j = k
          · obtain ⟨rfl, rfl⟩ := e
            exact Or.inr ⟨j3, j2, j4⟩
          · refine Or.inl (Or.inr ⟨i, j, j1, j2, j3, j4, ?_⟩)
            rcases j5 with j5 | ⟨j5, j6⟩
            · exact Or.inl j5
            · exact Or.inr ⟨j5, by omega⟩))
      refine ⟨χ2, n2, sN2, tN2, lN2, ?_, y2, y3, y4, w3.trans y5⟩
      rw [← y1]
      show f_X2_lay_b109 G k83 (f_X2_lay_l109 G k83 f) _ _ _ _ _ (cw X χ s) = _
      unfold f_X2_lay_b109 f_X2_lay_b190
      have hx2 : ¬ (dCn d m ≤ k + 1) := hx
      simp (disch := omega) only [zo_s, zb_s, zx_l, zx_r, zrn_1, zrn_0, zrn_b, zrnX_1, zrnX_0, zrnX_b, n_lit, n_add, n_mul, n_sub, n_lt, n_le, n_eq, n_cl, n_div, n_md6, bI_0, bI_1, bI_t, bI_f, n_e10, n_e01, rC, rc, hx2, if_false, rO, ro, ek, rk, c_G6, hR, eL, hbl, c_rcG, rD, rd]
      cases hbc : dBl d (dOr d m k) with
      | true =>
        have e1 : dPr d (dOr d m k) = dOr d m k + 1 := by unfold dPr; rw [hbc]; rfl
        have e2 : dLn d m (dOr d m k) = d (5 + 9 * m + 1) := by unfold dLn; rw [hbc]; rfl
        rw [e1, e2] at w1
        simp (disch := omega) only [Bool.true_eq_false, if_false, zo_s, zb_s, zx_l, zx_r, zrn_1, zrn_0, zrn_b, zrnX_1, zrnX_0, zrnX_b, n_lit, n_add, n_mul, n_sub, n_lt, n_le, n_eq, n_cl, n_div, n_md6, bI_0, bI_1, bI_t, bI_f, n_e10, n_e01, w1]
      | false =>
        have e1 : dPr d (dOr d m k) = dOr d m k := by unfold dPr; rw [hbc]; rfl
        have e2 : dLn d m (dOr d m k) = dDu d (dOr d m k) + d (5 + 9 * m + 1) := by unfold dLn; rw [hbc, Nat.add_comm]; rfl
        rw [e1, e2] at w1
        simp (disch := omega) only [if_true, zo_s, zb_s, zx_l, zx_r, zrn_1, zrn_0, zrn_b, zrnX_1, zrnX_0, zrnX_b, n_lit, n_add, n_mul, n_sub, n_lt, n_le, n_eq, n_cl, n_div, n_md6, bI_0, bI_1, bI_t, bI_f, n_e10, n_e01, w1]
theorem C_lay_l83 (hp : pC X V s) (hb : hB G V) (hG : G 0 ≤ X) (hL : hLa G V L d v) (hP : hPl V p L d T) (hV : dV d) : ∀ (c m n f : Nat) (χ : zCh) (sN tN lN : Nat → Nat), m + c = d 0 → c < f → kR χ 16 = some L → n ≤ 36 + 6 * m → gAr χ n sN tN lN → gOk d n sN tN lN (gP d 36 m 0) → ∃ χ' n' sN' tN' lN', f_X2_lay_l83 G f (X + 4) (some p) (nI m) (cw X χ s) = some ((), cw X χ' s) ∧ n' ≤ 72 ∧ gAr χ' n' sN' tN' lN' ∧ gOk d n' sN' tN' lN' (dAr d) ∧ kFr [17] [5, 6, 7] [] χ χ' := by
  have h06 := hV.2.1
  intro c
  induction c with
  | zero =>
    intro m n f χ sN tN lN hc hf hR hn hA hO
    obtain ⟨f, rfl⟩ : ∃ q, f = q + 1 := ⟨f - 1, by omega⟩
    have e : m = d 0 := by omega
    subst e
    have hs := hp.S χ
    obtain ⟨T', J, O, C, U, mc, E, cap, f', e, l1, -⟩ := hL
    refine ⟨χ, n, sN, tN, lN, ?_, by omega, hA, hO.sub (fun u w l q => ?_), kFr.refl _ _ _ _⟩
    · show f_X2_lay_b83 G (f_X2_lay_l83 G f) _ _ _ (cw X χ s) = _
      unfold f_X2_lay_b83
      rw [c_G6, zo_s, hR, r_I (hs _ _ l1) rfl, zo_s, if_pos ((n_le (by omega) (by omega)).mpr (Nat.le_refl _))]
    · rcases q with ⟨q1, q2, q3, rfl, q5⟩ | ⟨i, j, j0, j1, j2, j3, j4⟩
      · exact Or.inl ⟨q1, q2, q3, rfl, q5, by omega⟩
      · exact Or.inr ⟨i, j, j1, j2, j3, j4, Or.inl j0⟩
  | succ c ih =>
    intro m n f χ sN tN lN hc hf hR hn hA hO
    obtain ⟨f, rfl⟩ : ∃ q, f = q + 1 := ⟨f - 1, by omega⟩
    have hs := hp.S χ
    have hm : m < d 0 := by omega
    have hc6 := (hV.2.2.2.2.2.1 m hm).1
    obtain ⟨a, ma1, ma2, ma3⟩ := C_machine hs hb hL (m := m) (by omega)
    obtain ⟨χ1, n1, sN1, tN1, lN1, y1, y2, y3, y4, y5⟩ := C_lay_l109 hp hb hG hL hP hV (f_X2_lay_l83 G f) hm 10 0 n 2000 χ sN tN lN (by omega) (by omega) (by omega) hR (by omega) hA (hO.sub (fun u w l q => by
      rcases q with q | ⟨i, j, j1, j2, j3, j4, j5⟩
      · exact Or.inl q
      · refine Or.inr ⟨i, j, j1, j2, j3, j4, ?_⟩
        rcases j5 with j5 | ⟨-, j5⟩
        · exact Or.inl j5
        · omega))
    obtain ⟨χ2, n2, sN2, tN2, lN2, z1, z2, z3, z4, z5⟩ := ih (m + 1) n1 f χ1 sN1 tN1 lN1 (by omega) (by omega) (by rw [y5.2.2.1 16 (by decide)]; exact hR) y2 y3 y4
    refine ⟨χ2, n2, sN2, tN2, lN2, ?_, z2, z3, z4, y5.trans z5⟩
    rw [← z1, ← y1]
    have eL : zrc (cw X χ s) (some L) 3 = some L ∧ zgI (cw X χ s) (some L) 3 0 = some (nI (d 0)) := by
      obtain ⟨T', J, O, C, U, mc, E, cap, f', e, l1, -⟩ := hL
      exact ⟨r_c (hs _ _ l1), r_I (hs _ _ l1) rfl⟩
    show f_X2_lay_b83 G (f_X2_lay_l83 G f) _ _ _ (cw X χ s) = _
    unfold f_X2_lay_b83
    have hx : ¬ (d 0 ≤ m) := by omega
    simp (disch := omega) only [zo_s, zb_s, zx_l, zx_r, zrn_1, zrn_0, zrn_b, zrnX_1, zrnX_0, zrnX_b, n_lit, n_add, n_mul, n_sub, n_lt, n_le, n_eq, n_cl, n_div, n_md6, bI_0, bI_1, bI_t, bI_f, n_e10, n_e01, c_G6, hR, eL.1, eL.2, hx, if_false, ma1, r_I (hs _ _ ma3) (rfl : ([.int (nI (1 - d (5 + 9 * m))), .int (nI (d (5 + 9 * m + 1)))] : List Value)[1]? = _)]
theorem C_lay_l20 (hp : pC X V s) (hb : hB G V) (hG : G 0 ≤ X) (hL : hLa G V L d v) (hP : hPl V p L d T) (hV : dV d) : ∀ (c o n f : Nat) (χ : zCh) (sN tN lN : Nat → Nat), o + c = 36 → c < f → kR χ 16 = some L → n ≤ o → kN χ 18 = nI (p_cn (dEx d) o) → gAr χ n sN tN lN → gOk d n sN tN lN (gP d o 0 0) → ∃ χ' n' sN' tN' lN', f_X2_lay_l20 G f (X + 4) (some p) (nI o) (cw X χ s) = some ((), cw X χ' s) ∧ n' ≤ 72 ∧ kN χ' 18 = nI (p_cn (dEx d) 36) ∧ gAr χ' n' sN' tN' lN' ∧ gOk d n' sN' tN' lN' (dAr d) ∧ kFr [17, 18] [5, 6, 7] [] χ χ' := by
  intro c
  induction c with
  | zero =>
    intro o n f χ sN tN lN hc hf hR hn hN hA hO
    obtain ⟨f, rfl⟩ : ∃ q, f = q + 1 := ⟨f - 1, by omega⟩
    have e : o = 36 := by omega
    subst e
    obtain ⟨χ1, n1, sN1, tN1, lN1, z1, z2, z3, z4, z5⟩ := C_lay_l83 hp hb hG hL hP hV (d 0) 0 n 2000 χ sN tN lN (by omega) (by have := hV.2.1; omega) hR (by omega) hA hO
    refine ⟨χ1, n1, sN1, tN1, lN1, ?_, z2, by rw [z5.1 18 (by decide)]; exact hN, z3, z4, z5.mono (by simp) (by simp) (by simp)⟩
    rw [← z1]
    show f_X2_lay_b20 G (f_X2_lay_l20 G f) _ _ _ (cw X χ s) = _
    unfold f_X2_lay_b20
    simp (disch := omega) only [n_lit, n_add, n_mul, n_sub, n_lt, n_le, n_eq, n_cl, n_div, n_md6, bI_0, bI_1, bI_t, bI_f, n_e10, n_e01]
    rw [if_pos (by omega)]
  | succ c ih =>
    intro o n f χ sN tN lN hc hf hR hn hN hA hO
    obtain ⟨f, rfl⟩ : ∃ q, f = q + 1 := ⟨f - 1, by omega⟩
    have ho : o < 36 := by omega
    have hx : ¬ (36 ≤ o) := by omega
    have hcn := p_cn_le_n (dEx d) o
    have hPP := hP
    obtain ⟨a1, a2, a3, a4, f1, f2, f3, f4, p1, p2, p3, -⟩ := hPP
    have rcL : ∀ χ, zrc (cw X χ s) (some L) 3 = some L := fun χ => by
      obtain ⟨T', J, O, C, U, mc, E, cap, f', e, l1, -⟩ := hL
      exact r_c (hp.S χ _ _ l1)
    have hexi : ∀ χ, f_X4_exists G L (nI o) (cw X χ s) = some (bI (dEx d o), cw X χ s) := fun χ => C_exists (hp.S χ) hL hV.1 hV.2.2.1 ho
    have next : ∀ (χ1 : zCh) (n1 : Nat) (sN1 tN1 lN1 : Nat → Nat), kFr [17, 18] [5, 6, 7] [] χ χ1 → n1 ≤ o + 1 → kN χ1 18 = nI (p_cn (dEx d) (o + 1)) → gAr χ1 n1 sN1 tN1 lN1 → gOk d n1 sN1 tN1 lN1 (gP d (o + 1) 0 0) → ∃ χ' n' sN' tN' lN', f_X2_lay_l20 G f (X + 4) (some p) (nI (o + 1)) (cw X χ1 s) = some ((), cw X χ' s) ∧ n' ≤ 72 ∧ kN χ' 18 = nI (p_cn (dEx d) 36) ∧ gAr χ' n' sN' tN' lN' ∧ gOk d n' sN' tN' lN' (dAr d) ∧ kFr [17, 18] [5, 6, 7] [] χ χ' := by
      intro χ1 n1 sN1 tN1 lN1 g1 g2 g3 g4 g5
      obtain ⟨χ2, n2, sN2, tN2, lN2, z1, z2, z3, z4, z5, z6⟩ := ih (o + 1) n1 f χ1 sN1 tN1 lN1 (by omega) (by omega) (by rw [g1.2.2.1 16 (by decide)]; exact hR) g2 g3 g4 g5
      exact ⟨χ2, n2, sN2, tN2, lN2, z1, z2, z3, z4, z5, g1.trans z6⟩
    show ∃ χ' n' sN' tN' lN', f_X2_lay_b20 G (f_X2_lay_l20 G f) _ _ _ (cw X χ s) = _ ∧ _
    unfold f_X2_lay_b20 f_X2_lay_b75
    simp (disch := omega) only [zo_s, zb_s, zx_l, zx_r, zrn_1, zrn_0, zrn_b, zrnX_1, zrnX_0, zrnX_b, n_lit, n_add, n_mul, n_sub, n_lt, n_le, n_eq, n_cl, n_div, n_md6, bI_0, bI_1, bI_t, bI_f, n_e10, n_e01, hx, if_false, c_G6, hR, rcL, hexi]
    cases hex : dEx d o with
    | false =>
      simp only [if_true]
      refine next χ n sN tN lN (kFr.refl _ _ _ _) (by omega) (by simp only [p_cn, hex]; exact hN) hA (hO.sub (fun u w l q => ?_))
      rcases q with ⟨q1, q2, q3, rfl, q5, q6⟩ | q
      · have e := (dEx_prev q2 q3).1
        have : w - 1 ≠ o := fun z => by rw [z, hex] at e; cases e
        exact Or.inl ⟨q1, q2, q3, rfl, q5, by omega⟩
      · exact Or.inr q
    | true =>
      simp only [Bool.true_eq_false, if_false]
      have hN1 : kN (uN' χ 18 (nI (p_cn (dEx d) o + 1))) 18 = nI (p_cn (dEx d) (o + 1)) := by
        rw [kN_uN, if_pos rfl]
        simp only [p_cn, hex, if_true]
      have hj := ((dEx_iff d o).mp hex).1
      have hla : ∀ χ, f_X4_isLast G L (nI o) (cw X χ s) = some (bI (dLa d o), cw X χ s) := fun χ => C_isLast (hp.S χ) hL hV.1 hV.2.2.1 ho hj
      have hA1 : gAr (uN' χ 18 (nI (p_cn (dEx d) o + 1))) n sN tN lN := ⟨by rw [kN_uN, if_neg (by decide)]; exact hA.1, hA.2⟩
      have hF1 : kFr [17, 18] [5, 6, 7] [] χ (uN' χ 18 (nI (p_cn (dEx d) o + 1))) := kFr.uN _ _ (by decide)
      have hR1 : kR (uN' χ 18 (nI (p_cn (dEx d) o + 1))) 16 = some L := hR
      simp (disch := omega) only [zo_s, zb_s, zx_l, zx_r, zrn_1, zrn_0, zrn_b, zrnX_1, zrnX_0, zrnX_b, n_lit, n_add, n_mul, n_sub, n_lt, n_le, n_eq, n_cl, n_div, n_md6, bI_0, bI_1, bI_t, bI_f, n_e10, n_e01, c_G8, hN, c_S8, hG, c_G6, hR1, rcL, hla]
      cases hlb : dLa d o with
      | true =>
        simp only [Bool.true_eq_false, if_false]
        refine next _ n sN tN lN hF1 (by omega) hN1 hA1 (hO.sub (fun u w l q => ?_))
        rcases q with ⟨q1, q2, q3, rfl, q5, q6⟩ | q
        · have e := (dEx_prev q2 q3).2
          have : w - 1 ≠ o := fun z => by rw [z, hlb] at e; cases e
          exact Or.inl ⟨q1, q2, q3, rfl, q5, by omega⟩
        · exact Or.inr q
      | false =>
        obtain ⟨e1, e2, e3⟩ := dEx_next hV ho hex hlb
        obtain ⟨χ1, w1, w2, w3⟩ := C_arc (s := s) hG hA1 (by omega) o (o + 1) (dDu d o)
        have rD : zgR (cw X (uN' χ 18 (nI (p_cn (dEx d) o + 1))) s) (some p) 2 1 = some (some a1) := r_R (hp.S _ _ _ p1) rfl
        have rd : zaI (cw X (uN' χ 18 (nI (p_cn (dEx d) o + 1))) s) (some a1) 0 (nI o) = some (nI (dDu d o)) := by rw [r_aI (n := 36) (f := f1) (hp.S _ _ _ p2) ho (by omega), p3 _ ho]
        simp (disch := omega) only [if_true, zo_s, zb_s, zx_l, zx_r, zrn_1, zrn_0, zrn_b, zrnX_1, zrnX_0, zrnX_b, n_lit, n_add, n_mul, n_sub, n_lt, n_le, n_eq, n_cl, n_div, n_md6, bI_0, bI_1, bI_t, bI_f, n_e10, n_e01, rD, rd, c_rcG, w1]
        refine next χ1 (n + 1) _ _ _ (hF1.trans (w3.mono (by simp) (by simp) (by simp))) (by omega) (by rw [w3.1 18 (by decide)]; exact hN1) w2 (hO.add (Or.inl ⟨e1, e2, e3, by omega, by rw [Nat.add_sub_cancel]⟩) (fun u w l q => ?_))
        rcases q with ⟨q1, q2, q3, rfl, q5, q6⟩ | q
        · by_cases e : w - 1 = o
          · exact Or.inr ⟨e, by omega, by rw [q5, e]⟩
          · exact Or.inl (Or.inl ⟨q1, q2, q3, rfl, q5, by omega⟩)
        · exact Or.inl (Or.inr q)
theorem C_lay (hp : pC X V s) (hb : hB G V) (hG : G 0 ≤ X) (hL : hLa G V L d v) (hP : hPl V p L d T) (hV : dV d) (χ : zCh) : ∃ χ' n sN tN lN, f_X2_lay G (X + 4) (some p) (cw X χ s) = some ((), cw X χ' s) ∧ n ≤ 72 ∧ kN χ' 18 = nI (p_cn (dEx d) 36) ∧ kR χ' 16 = some L ∧ gAr χ' n sN tN lN ∧ gOk d n sN tN lN (dAr d) ∧ kFr [17, 18] [5, 6, 7] [16] χ χ' := by
  obtain ⟨χ1, n, sN, tN, lN, z1, z2, z3, z4, z5, z6⟩ := C_lay_l20 hp hb hG hL hP hV 36 0 0 2000 (uN' (uN' (uR χ 16 (some L)) 17 (nI 0)) 18 (nI 0)) (fun _ => 0) (fun _ => 0) (fun _ => 0) (by omega) (by omega) (by rw [kR_uN, kR_uN, kR_uR, if_pos rfl]) (by omega) (by rw [kN_uN, if_pos rfl]; rfl) ⟨by rw [kN_uN, if_neg (by decide), kN_uN, if_pos rfl], fun k hk => by omega⟩ ⟨fun k hk => by omega, fun u w l q => by
    rcases q with ⟨-, -, -, -, -, q⟩ | ⟨i, j, -, -, -, -, q⟩
    · omega
    · rcases q with q | ⟨-, q⟩ <;> omega⟩
  refine ⟨χ1, n, sN, tN, lN, ?_, z2, z3, ?_, z4, z5, ?_⟩
  · obtain ⟨a1, a2, a3, a4, f1, f2, f3, f4, p1, -⟩ := hP
    rw [← z1]
    unfold f_X2_lay
    rw [r_R (hp.S χ _ _ p1) rfl, zo_s, show va_rf (some L) = va_rf (some L) from rfl]
    simp (disch := omega) only [zo_s, zb_s, zx_l, zx_r, zrn_1, zrn_0, zrn_b, zrnX_1, zrnX_0, zrnX_b, n_lit, n_add, n_mul, n_sub, n_lt, n_le, n_eq, n_cl, n_div, n_md6, bI_0, bI_1, bI_t, bI_f, n_e10, n_e01, c_pR3, c_pR6, c_P4, c_P5, c_Q1, c_Q2, c_S7, c_S8, c_sA, c_sO, c_sB, hG]
  · rw [z6.2.2.1 16 (by decide), kR_uN, kR_uN, kR_uR, if_pos rfl]
  · exact (((kFr.uR (J := [17, 18]) (K := [5, 6, 7]) (R := [16]) 16 (some L) (by decide)).trans (kFr.uN 17 (nI 0) (by decide))).trans (kFr.uN 18 (nI 0) (by decide))).trans (z6.mono (by simp) (by simp) (by simp))
end CGRAPH
