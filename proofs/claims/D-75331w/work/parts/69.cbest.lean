/-! THE PLAIN LAW, part 29: the best swap, by the system -/
set_option maxRecDepth 100000
/-- Strings may have been asked; the shop's own cells and B apart, nothing else -/
def aQ (X : Nat) (B : Nat → Prop) (V : zV1) (s : zS) (V' : zV1) (s' : zS) : Prop := hle V V' ∧ pC X V' s' ∧ (∀ a, V a = none → V' a = none) ∧ (∀ a, V a = none → ¬ B a → (a < X ∨ X + 11 ≤ a) → s'.1 a = s.1 a) ∧ s'.2 = s.2
theorem aQ.refl {X : Nat} {B : Nat → Prop} {V : zV1} {s : zS} (h : pC X V s) : aQ X B V s V s := ⟨hle.refl V, h, fun _ h => h, fun _ _ _ _ => rfl, rfl⟩
theorem aQ.trans {X : Nat} {B : Nat → Prop} {V V1 V2 : zV1} {s s1 s2 : zS} (h : aQ X B V s V1 s1) (g : aQ X B V1 s1 V2 s2) : aQ X B V s V2 s2 := ⟨h.1.trans g.1, g.2.1, fun a ha => g.2.2.1 a (h.2.2.1 a ha), fun a ha hb hx => (g.2.2.2.1 a (h.2.2.1 a ha) hb hx).trans (h.2.2.2.1 a ha hb hx), g.2.2.2.2.trans h.2.2.2.2⟩
theorem aQ.F {X : Nat} {B : Nat → Prop} {V V' : zV1} {s s' : zS} (h : aQ X B V s V' s') {p : Nat} (g : vF V p) : vF V' p := fun a e q => Classical.byContradiction fun z => by
  cases hv : V a with
  | none => rw [h.2.2.1 a hv] at q; cases q
  | some x => exact z (g a x hv)
def bTB (t b a : Nat) : Prop := (t ≤ a ∧ a < t + 11) ∨ (b ≤ a ∧ a < b + 11)
theorem vF_pC {X p : Nat} {V : zV1} {s : zS} (h : pC X V s) (hF : vF V p) (π : zPi) : pC X V (pw p π s) := fun a e q => ⟨(h a e q).1, by
  rw [pw_out _ _ _ (hF a e q)]
  exact (h a e q).2⟩
theorem vF_vP {V : zV1} {p q : Nat} {π : zPi} (h : vF V q) (hd : p + 11 ≤ q ∨ q + 11 ≤ p) : vF (vP V p π) q := fun a e z => by
  unfold vP at z
  by_cases x : p ≤ a ∧ a < p + 11
  · omega
  · rw [if_neg x] at z
    exact h a e z
theorem pCl_n17 {p j : Nat} {π : zPi} (hj : j < 11) : (∃ x, pCl p π j = some (.inl x)) ∨ ∃ c fs, pCl p π j = some (.inr (c, fs)) ∧ c ≠ 17 := by
  unfold pCl
  split
  · exact Or.inr ⟨_, _, rfl, by decide⟩
  · split
    · exact Or.inl ⟨_, rfl⟩
    · exact Or.inl ⟨_, rfl⟩
theorem hle_pCl {V V' : zV1} (h : hle V V') {p j : Nat} {π : zPi} (hj : j < 11) {a : Nat} (q : V a = pCl p π j) : V' a = pCl p π j := by
  rcases pCl_n17 (p := p) (π := π) hj with ⟨x, hx⟩ | ⟨c, fs, hx, hc⟩
  · rw [hx] at q ⊢
    exact h.arr q
  · rw [hx] at q ⊢
    exact h.obj hc q
/-- after Strings were asked, the pictures stand -/
theorem asked {X t b : Nat} {V V2 : zV1} {s S' : zS} {χ : zCh} {τ β : zPi} (hp : pC X V s) (ht : vF V t) (hb : vF V b) (hX : X + 11 ≤ t) (hX2 : X + 11 ≤ b) (hd : t + 11 ≤ b ∨ b + 11 ≤ t) (h : hQ (vP (vP V b β) t τ) (cw X χ (pw t τ (pw b β s))) V2 S') : ∃ V', S' = cw X χ (pw t τ (pw b β S')) ∧ aQ X (bTB t b) V s V' S' := by
  obtain ⟨h1, h2, h3, h4⟩ := h
  have c0 : pC X (vP (vP V b β) t τ) (pw t τ (pw b β s)) := vP_C (vP_C hp hX2 β) hX τ
  -- the cells of the plans
  have et : ∀ j, j < 11 → S'.1 (t + j) = pCl t τ j := fun j hj => by
    have q : (vP (vP V b β) t τ) (t + j) = pCl t τ j := by
      unfold vP
      rw [if_pos ⟨by omega, by omega⟩, Nat.add_sub_cancel_left]
    have q2 := hle_pCl h1 hj q
    rcases pCl_n17 (p := t) (π := τ) hj with ⟨x, hx⟩ | ⟨c, fs, hx, -⟩
    · rw [hx] at q2 ⊢
      exact h2 _ _ q2
    · rw [hx] at q2 ⊢
      exact h2 _ _ q2
  have eb : ∀ j, j < 11 → S'.1 (b + j) = pCl b β j := fun j hj => by
    have q : (vP (vP V b β) t τ) (b + j) = pCl b β j := by
      unfold vP
      rw [if_neg (by omega), if_pos ⟨by omega, by omega⟩, Nat.add_sub_cancel_left]
    have q2 := hle_pCl h1 hj q
    rcases pCl_n17 (p := b) (π := β) hj with ⟨x, hx⟩ | ⟨c, fs, hx, -⟩
    · rw [hx] at q2 ⊢
      exact h2 _ _ q2
    · rw [hx] at q2 ⊢
      exact h2 _ _ q2
  have ex : ∀ a, X ≤ a → a < X + 11 → S'.1 a = kC X χ (a - X) := fun a a1 a2 => by
    have q : (vP (vP V b β) t τ) a = none := by
      cases hv : (vP (vP V b β) t τ) a with
      | none => rfl
      | some x => have := (c0 a x hv).1; omega
    rw [(h3 a q).2]
    show (if X ≤ a ∧ a < X + 11 then kC X χ (a - X) else _) = _
    rw [if_pos ⟨a1, a2⟩]
  refine ⟨fun a => if (t ≤ a ∧ a < t + 11) ∨ (b ≤ a ∧ a < b + 11) then none else V2 a, ?_, ?_, ?_, ?_, ?_, ?_⟩
  · refine Prod.ext (funext fun a => ?_) rfl
    show S'.1 a = (if X ≤ a ∧ a < X + 11 then kC X χ (a - X) else (if t ≤ a ∧ a < t + 11 then pCl t τ (a - t) else (if b ≤ a ∧ a < b + 11 then pCl b β (a - b) else S'.1 a)))
    by_cases q1 : X ≤ a ∧ a < X + 11
    · rw [if_pos q1]
      exact ex a q1.1 q1.2
    · rw [if_neg q1]
      by_cases q2 : t ≤ a ∧ a < t + 11
      · rw [if_pos q2, ← et (a - t) (by omega)]
        congr 1
        omega
      · rw [if_neg q2]
        by_cases q3 : b ≤ a ∧ a < b + 11
        · rw [if_pos q3, ← eb (a - b) (by omega)]
          congr 1
          omega
        · rw [if_neg q3]
  · intro a e q
    have n1 := ht a e q
    have n2 := hb a e q
    have q2 : (vP (vP V b β) t τ) a = some e := by
      unfold vP
      rw [if_neg (by omega), if_neg (by omega)]
      exact q
    show (if _ then _ else _) = _ ∨ _
    rw [if_neg (show ¬ ((t ≤ a ∧ a < t + 11) ∨ (b ≤ a ∧ a < b + 11)) from by omega)]
    rcases h1 a e q2 with z | ⟨va, k, k1, k2, z, ⟨f, tx, ty⟩, y⟩
    · exact Or.inl z
    · refine Or.inr ⟨va, k, k1, k2, z, ⟨f, ?_, ty⟩, ?_⟩
      · have hn : ¬ ((t ≤ va ∧ va < t + 11) ∨ (b ≤ va ∧ va < b + 11)) := by
          have tp : ∀ (p : Nat) (π : zPi) (j : Nat), j < 11 → S'.1 va = pCl p π j → False := fun p π j hj hh => by
            have h9 := h2 _ _ tx
            rw [hh] at h9
            unfold pCl at h9
            split at h9
            · cases h9
            · split at h9
              · cases h9
              · cases h9
          rintro (⟨x1, x2⟩ | ⟨x1, x2⟩)
          · exact tp t τ (va - t) (by omega) (by rw [← et (va - t) (by omega)]; congr 1; omega)
          · exact tp b β (va - b) (by omega) (by rw [← eb (va - b) (by omega)]; congr 1; omega)
        show (if _ then _ else _) = _
        rw [if_neg hn]
        exact tx
      · show (if _ then _ else _) = _
        rw [if_neg (show ¬ ((t ≤ a ∧ a < t + 11) ∨ (b ≤ a ∧ a < b + 11)) from by omega)]
        exact y
  · intro a e q
    have q : (if (t ≤ a ∧ a < t + 11) ∨ (b ≤ a ∧ a < b + 11) then none else V2 a) = some e := q
    by_cases x : (t ≤ a ∧ a < t + 11) ∨ (b ≤ a ∧ a < b + 11)
    · rw [if_pos x] at q; cases q
    · rw [if_neg x] at q
      refine ⟨?_, h2 a e q⟩
      cases hv : (vP (vP V b β) t τ) a with
      | none => rw [(h3 a hv).1] at q; cases q
      | some y => exact (c0 a y hv).1
  · intro a ha
    show (if _ then _ else _) = _
    by_cases x : (t ≤ a ∧ a < t + 11) ∨ (b ≤ a ∧ a < b + 11)
    · rw [if_pos x]
    · rw [if_neg x]
      refine (h3 a ?_).1
      unfold vP
      rw [if_neg (by omega), if_neg (by omega)]
      exact ha
  · intro a ha hB hx
    have hB : ¬ ((t ≤ a ∧ a < t + 11) ∨ (b ≤ a ∧ a < b + 11)) := hB
    rw [(h3 a (by
      unfold vP
      rw [if_neg (by omega), if_neg (by omega)]
      exact ha)).2, cw_out _ _ _ hx, pw_out _ _ _ (by omega), pw_out _ _ _ (by omega)]
  · exact h4
theorem n_cm1 : ∀ c, c < 7 → ∀ k, k < 7 → ((nI c - 1 ≤ nI k) ↔ c ≤ k + 1) := by decide +kernel
/-- what the best plan so far holds -/
def bR (d : Nat → Nat) (v : (Nat → Int64) → Int64) (L : Nat) (β : zPi) (b : Nat × Nat × Int32) : Prop := β.1 = L ∧ b.1 < 1000 ∧ (b.1 ≠ 0 → ∃ m k, m < d 0 ∧ k + 1 < dCn d m ∧ b.1 = 100 * m + k + 1 ∧ dTb (dSw d m k) = true ∧ pOk β L (dSw d m k) (dSt (dSw d m k)) ∧ b.2.1 = dSpan (dSw d m k) ∧ b.2.2 = dCost (dSw d m k) v ∧ ∀ i, i < 36 → dSt (dSw d m k) i < 600000)
/-- a layout holds for the swapped plan -/
theorem hLa_sw {G : Nat → Nat} {V : zV1} {L : Nat} {d : Nat → Nat} {v : (Nat → Int64) → Int64} (h : hLa G V L d v) (hV : dV d) {m k : Nat} (hm : m < 6) (hk : k < 5) : hLa G V L (dSw d m k) v := hLa_same h (fun i hi => dSw_lo hi) (fun i hi => ⟨dSw_ne (by omega) (by omega), dSw_ne (by omega) (by omega)⟩) (fun i h1 _ => dSw_hi hm hk h1) (fun o _ => dSw_Mo hm hk o) hV.2.2.1
section CBEST
variable {G : Nat → Nat} {X q t b L : Nat} {d : Nat → Nat} {v : (Nat → Int64) → Int64} {S : Nat → Nat}
theorem C_best_l21 (hG : G 0 ≤ X) (hX : X + 11 ≤ t) (hX2 : X + 11 ≤ b) (hd : t + 11 ≤ b ∨ b + 11 ≤ t) (hV : dV d) (k6 : Nat → Option Nat → Option Nat → Option Nat → Int32 → Int32 → zS → Option (Int32 × zS)) {m : Nat} (hm : m < d 0) (b0 : Nat × Nat × Int32) : ∀ (c k n : Nat) (χ : zCh) (τ β : zPi) (V : zV1) (s : zS), k ≤ 6 → dCn d m ≤ k + 1 + c → c < n → pC X V s → hB G V → hLa G V L d v → hPl V q L d S → vF V t → vF V b → τ.1 = L → bR d v L β (dBr d v m b0 k) → ∃ χ' τ' β' V' s', f_X1_bestOf_l21 G k6 n X (some q) (some t) (some b) (nO (dBr d v m b0 k).1) (nI m) (nI k) (cw X χ (pw t τ (pw b β s))) = k6 X (some q) (some t) (some b) (nO (dBr d v m b0 (max k (dCn d m - 1))).1) (nI (m + 1)) (cw X χ' (pw t τ' (pw b β' s'))) ∧ τ'.1 = L ∧ bR d v L β' (dBr d v m b0 (max k (dCn d m - 1))) ∧ aQ X (bTB t b) V s V' s' ∧ kFr [17, 18] [5, 6, 7, 8, 9, 10] [16] χ χ' := by
  have hm6 : m < 6 := Nat.lt_of_lt_of_le hm hV.2.1
  obtain ⟨hc6, hsu, hor⟩ := hV.2.2.2.2.2.1 m hm
  intro c
  induction c with
  | zero =>
    intro k n χ τ β V s hk6 hc hn hp hb hL hP ht hbF hτ hR
    obtain ⟨n, rfl⟩ : ∃ z, n = z + 1 := ⟨n - 1, by omega⟩
    have e : max k (dCn d m - 1) = k := by omega
    rw [e]
    refine ⟨χ, τ, β, V, s, ?_, hτ, hR, aQ.refl hp, kFr.refl _ _ _ _⟩
    obtain ⟨a1, a2, a3, a4, f1, f2, f3, f4, p1, p2, p3, p4, p5, -⟩ := hP
    have hs := (vF_pC (vF_pC hp hbF β) ht τ).S χ
    show f_X1_bestOf_b21 G k6 (f_X1_bestOf_l21 G k6 n) X (some q) (some t) (some b) _ _ _ _ = _
    unfold f_X1_bestOf_b21
    rw [r_R (hs _ _ p1) rfl, zo_s, r_aI (n := 6) (f := f2) (hs _ _ p4) hm6 (by omega), zo_s, p5 m hm6, if_pos ((n_cm1 _ (by omega) _ (by omega)).mpr hc), show nI m + 1 = nI (m + 1) from n_add m 1]
  | succ c ih =>
    intro k n χ τ β V s hk6 hc hn hp hb hL hP ht hbF hτ hR
    obtain ⟨n, rfl⟩ : ∃ z, n = z + 1 := ⟨n - 1, by omega⟩
    by_cases hx : dCn d m ≤ k + 1
    · exact ih k (n + 1) χ τ β V s hk6 (by omega) (by omega) hp hb hL hP ht hbF hτ hR
    · have hk5 : k < 5 := by omega
      have emax : max k (dCn d m - 1) = max (k + 1) (dCn d m - 1) := by omega
      have hVs := dSw_V hV hm (show k + 1 < dCn d m from by omega)
      have hLs := hLa_sw hL hV hm6 hk5
      have hGt : G 0 ≤ t := by omega
      have hGb : G 0 ≤ b := by omega
      have hpb := vF_pC hp hbF β
      have hPP := hP
      obtain ⟨a1, a2, a3, a4, f1, f2, f3, f4, p1, p2, p3, p4, p5, -⟩ := hPP
      have hs0 := (vF_pC hpb ht τ).S χ
      -- it becomes the plan, swapped
      have hVq : ∀ π', pS V (pw t π' (cw X χ (pw b β s))) := fun π' => by
        rw [← cw_pw hX]
        exact (vF_pC hpb ht π').S χ
      obtain ⟨τ1, b1, b2⟩ := C_become (π := τ) (s := cw X χ (pw b β s)) hGt hVq hP hτ
      obtain ⟨τ2, s1, s2⟩ := C_swap (s := cw X χ (pw b β s)) hGt b2 hm6 hk5
      -- it doesn't hold starts of its own yet: those of the plan
      obtain ⟨χ3, τ3, t1, t2, t3, t4⟩ := C_times hpb hb hG hX ht hLs hVs s2 χ
      have est : dBr d v m b0 (k + 1) = dBs d v m k (dBr d v m b0 k) := rfl
      -- on to the next
      have next : ∀ (χ4 : zCh) (τ4 β4 : zPi) (V4 : zV1) (s4 : zS), kFr [17, 18] [5, 6, 7, 8, 9, 10] [16] χ χ4 → aQ X (bTB t b) V s V4 s4 → τ4.1 = L → bR d v L β4 (dBr d v m b0 (k + 1)) → ∃ χ' τ' β' V' s', f_X1_bestOf_l21 G k6 n X (some q) (some t) (some b) (nO (dBr d v m b0 (k + 1)).1) (nI m) (nI (k + 1)) (cw X χ4 (pw t τ4 (pw b β4 s4))) = k6 X (some q) (some t) (some b) (nO (dBr d v m b0 (max k (dCn d m - 1))).1) (nI (m + 1)) (cw X χ' (pw t τ' (pw b β' s'))) ∧ τ'.1 = L ∧ bR d v L β' (dBr d v m b0 (max k (dCn d m - 1))) ∧ aQ X (bTB t b) V s V' s' ∧ kFr [17, 18] [5, 6, 7, 8, 9, 10] [16] χ χ' := by
        intro χ4 τ4 β4 V4 s4 hK hA hτ4 hR4
        obtain ⟨χ5, τ5, β5, V5, s5, y1, y2, y3, y4, y5⟩ := ih (k + 1) n χ4 τ4 β4 V4 s4 (by omega) (by omega) (by omega) hA.2.1 (hA.1.B hb) (hA.1.La hL) (hA.1.Pl hP) (hA.F ht) (hA.F hbF) hτ4 hR4
        rw [emax]
        exact ⟨χ5, τ5, β5, V5, s5, y1, y2, y3, hA.trans y4, hK.trans y5⟩
      have eT : ∀ (χ : zCh) (τ β : zPi) (s : zS), zrc (cw X χ (pw t τ (pw b β s))) (some t) 2 = some t := fun χ τ β s => by
        rw [cw_pw hX]
        exact p_rc _ _ _
      have eB : ∀ (χ : zCh) (τ β : zPi) (s : zS), zrc (cw X χ (pw t τ (pw b β s))) (some b) 2 = some b := fun χ τ β s => by
        rw [pw_sw hd, cw_pw hX2]
        exact p_rc _ _ _
      have t1' : f_X3_times G t (some (X + 4)) (pw t τ2 (cw X χ (pw b β s))) = some (bI (dTb (dSw d m k)), cw X χ3 (pw t τ3 (pw b β s))) := by
        rw [← cw_pw hX]
        exact t1
      show ∃ χ' τ' β' V' s', f_X1_bestOf_b21 G k6 (f_X1_bestOf_l21 G k6 n) X (some q) (some t) (some b) _ _ _ _ = _ ∧ _
      unfold f_X1_bestOf_b21
      rw [r_R (hs0 _ _ p1) rfl, zo_s, r_aI (n := 6) (f := f2) (hs0 _ _ p4) hm6 (by omega), zo_s, p5 m hm6, if_neg (fun z => hx ((n_cm1 _ (by omega) _ (by omega)).mp z)), eT, zo_s, cw_pw hX, b1, zb_s, p_rc, zo_s, s1, zb_s]
      rw [← cw_pw hX, c_X2, zo_s, eT, zo_s, cw_pw hX, t1', zb_s]
      cases hT : dTb (dSw d m k) with
      | false =>
        have e2 : dBr d v m b0 (k + 1) = dBr d v m b0 k := by rw [est]; unfold dBs; rw [hT]; rfl
        rw [if_pos (by decide)]
        unfold f_X1_bestOf_b91
        have h9 := next χ3 τ3 β V s t4 (aQ.refl hp) (by rw [t3 hT]; exact s2.1) (by rw [e2]; exact hR)
        rw [e2] at h9
        rw [show nI k + 1 = nI (k + 1) from n_add k 1]
        exact h9
      | true =>
        obtain ⟨o1, o2, o3⟩ := t2 hT
        rw [if_neg (by decide)]
        -- the best becomes it
        have take : ∀ (V4 : zV1) (s4 : zS), aQ X (bTB t b) V s V4 s4 → (decide ((dBr d v m b0 k).1 = 0) || dBt (dSpan (dSw d m k)) (dCost (dSw d m k) v) (dBr d v m b0 k).2.1 (dBr d v m b0 k).2.2) = true → ∃ χ' τ' β' V' s', f_X1_bestOf_b76 G (f_X1_bestOf_l21 G k6 n) X (some q) (some t) (some b) (nI m) (nI k) (cw X χ3 (pw t τ3 (pw b β s4))) = k6 X (some q) (some t) (some b) (nO (dBr d v m b0 (max k (dCn d m - 1))).1) (nI (m + 1)) (cw X χ' (pw t τ' (pw b β' s'))) ∧ τ'.1 = L ∧ bR d v L β' (dBr d v m b0 (max k (dCn d m - 1))) ∧ aQ X (bTB t b) V s V' s' ∧ kFr [17, 18] [5, 6, 7, 8, 9, 10] [16] χ χ' := by
          intro V4 s4 hA hq
          have e2 : dBr d v m b0 (k + 1) = (100 * m + k + 1, dSpan (dSw d m k), dCost (dSw d m k) v) := by rw [est]; unfold dBs; rw [hT, hq]; rfl
          have hp4 := hA.2.1
          have ht4 := hA.F ht
          have hb4 := hA.F hbF
          have hVt : ∀ π', pS (vP V4 t τ3) (pw b π' (cw X χ3 (pw t τ3 s4))) := fun π' => by
            rw [← cw_pw hX2, pw_sw (by omega)]
            have h1 := vP_C (vF_pC hp4 hb4 π') hX τ3
            exact h1.S χ3
          obtain ⟨β5, w1, w2⟩ := C_become (π := β) (s := cw X χ3 (pw t τ3 s4)) hGb hVt (vP_Pl (V := V4) (s := s4) o1) hR.1
          have h9 := next χ3 τ3 β5 V4 s4 t4 hA o1.1 (by
            rw [e2]
            exact ⟨w2.1, by show 100 * m + k + 1 < 1000; omega, fun _ => ⟨m, k, hm, by omega, rfl, hT, w2, rfl, rfl, o3⟩⟩)
          rw [e2, nO_s] at h9
          unfold f_X1_bestOf_b76 f_X1_bestOf_b91
          rw [eB, zo_s]
          have w1' : f_X3_become G b (some t) (cw X χ3 (pw t τ3 (pw b β s4))) = some ((), cw X χ3 (pw t τ3 (pw b β5 s4))) := by
            rw [pw_sw hd, cw_pw hX2, w1, ← cw_pw hX2, pw_sw (by omega)]
          rw [w1', zb_s, show (100 : Int32) * nI m + nI k = nI (100 * m + k) from by rw [show (100 : Int32) = nI 100 from rfl, n_mul, n_add], show nI k + 1 = nI (k + 1) from n_add k 1]
          exact h9
        have hb1 := hR.2.1
        by_cases hz : (dBr d v m b0 k).1 = 0
        · rw [if_pos ((nO_m1 (by omega)).mpr hz)]
          exact take V s (aQ.refl hp) (by rw [decide_eq_true hz]; rfl)
        · rw [if_neg (fun z => hz ((nO_m1 (by omega)).mp z)), eT, zo_s]
          obtain ⟨m', k', m1, m2, m3, m4, m5, m6, m7, m8⟩ := hR.2.2 hz
          have hm6' : m' < 6 := Nat.lt_of_lt_of_le m1 hV.2.1
          have hk5' : k' < 5 := by have := (hV.2.2.2.2.2.1 m' m1).1; omega
          have c0 : pC X (vP (vP V b β) t τ3) (pw t τ3 (pw b β s)) := vP_C (vP_C hp hX2 β) hX τ3
          have hle2 : hle V (vP (vP V b β) t τ3) := (vP_le hbF β).trans (vP_le (vF_vP ht (by omega)) τ3)
          have hPb : hPl (vP (vP V b β) t τ3) b L (dSw d m' k') (dSt (dSw d m' k')) := (vP_le (vF_vP ht (by omega)) τ3).Pl (vP_Pl (V := V) (s := s) m5)
          obtain ⟨V2, S', i1, i2⟩ := C_isBetter (G := G) (p := t) (q := b) (v := v) (c0.S χ3) (hle2.B hb) (hle2.La hLs) (vP_Pl (V := vP V b β) (s := s) o1) hVs o3 (hle2.La (hLa_sw hL hV hm6' hk5')) hPb (dSw_V hV m1 m2) m8
          obtain ⟨V', g1, g2⟩ := asked hp ht hbF hX hX2 hd i2
          rw [i1, zb_s]
          have eb : dBt (dMs (dSw d m k) (dSt (dSw d m k)) (dSw d m k 2)) (dPc (dSw d m k) (dSt (dSw d m k)) v (dSw d m k 2)) (dMs (dSw d m' k') (dSt (dSw d m' k')) (dSw d m' k' 2)) (dPc (dSw d m' k') (dSt (dSw d m' k')) v (dSw d m' k' 2)) = dBt (dSpan (dSw d m k)) (dCost (dSw d m k) v) (dBr d v m b0 k).2.1 (dBr d v m b0 k).2.2 := by
            rw [m6, m7]
            rfl
          rw [eb, g1]
          cases hbt : dBt (dSpan (dSw d m k)) (dCost (dSw d m k) v) (dBr d v m b0 k).2.1 (dBr d v m b0 k).2.2 with
          | true =>
            rw [if_neg (by decide)]
            exact take V' S' g2 (by rw [hbt, Bool.or_true])
          | false =>
            rw [if_pos (by decide)]
            have e2 : dBr d v m b0 (k + 1) = dBr d v m b0 k := by
              rw [est]
              unfold dBs
              rw [hT, hbt, decide_eq_false hz]
              rfl
            unfold f_X1_bestOf_b91
            have h9 := next χ3 τ3 β V' S' t4 g2 o1.1 (by rw [e2]; exact hR)
            rw [e2] at h9
            rw [show nI k + 1 = nI (k + 1) from n_add k 1]
            exact h9
theorem C_best_l6 (hG : G 0 ≤ X) (hX : X + 11 ≤ t) (hX2 : X + 11 ≤ b) (hd : t + 11 ≤ b ∨ b + 11 ≤ t) (hV : dV d) : ∀ (c m n : Nat) (χ : zCh) (τ β : zPi) (V : zV1) (s : zS), m + c = d 0 → c < n → pC X V s → hB G V → hLa G V L d v → hPl V q L d S → vF V t → vF V b → τ.1 = L → bR d v L β (dBb d v m) → ∃ χ' τ' β' V' s', f_X1_bestOf_l6 G n X (some q) (some t) (some b) (nO (dBb d v m).1) (nI m) (cw X χ (pw t τ (pw b β s))) = some (nO (dBb d v (d 0)).1, cw X χ' (pw t τ' (pw b β' s'))) ∧ τ'.1 = L ∧ bR d v L β' (dBb d v (d 0)) ∧ aQ X (bTB t b) V s V' s' ∧ kFr [17, 18] [5, 6, 7, 8, 9, 10] [16] χ χ' := by
  have h06 := hV.2.1
  intro c
  induction c with
  | zero =>
    intro m n χ τ β V s hc hn hp hb hL hP ht hbF hτ hR
    obtain ⟨n, rfl⟩ : ∃ z, n = z + 1 := ⟨n - 1, by omega⟩
    have e : m = d 0 := by omega
    subst e
    refine ⟨χ, τ, β, V, s, ?_, hτ, hR, aQ.refl hp, kFr.refl _ _ _ _⟩
    have hs := (vF_pC (vF_pC hp hbF β) ht τ).S χ
    obtain ⟨a1, a2, a3, a4, f1, f2, f3, f4, p1, -⟩ := hP
    obtain ⟨T', J, O, C, U, mc, E, cap, f', e, l1, -⟩ := hL
    show f_X1_bestOf_b6 G (f_X1_bestOf_l6 G n) X (some q) (some t) (some b) _ _ _ = _
    unfold f_X1_bestOf_b6
    rw [r_R (hs _ _ p1) rfl, zo_s, r_I (hs _ _ l1) rfl, zo_s, if_pos ((n_le (by omega) (by omega)).mpr (Nat.le_refl _))]
  | succ c ih =>
    intro m n χ τ β V s hc hn hp hb hL hP ht hbF hτ hR
    obtain ⟨n, rfl⟩ : ∃ z, n = z + 1 := ⟨n - 1, by omega⟩
    have hm : m < d 0 := by omega
    have hc6 := (hV.2.2.2.2.2.1 m hm).1
    obtain ⟨χ1, τ1, β1, V1, s1, y1, y2, y3, y4, y5⟩ := C_best_l21 hG hX hX2 hd hV (f_X1_bestOf_l6 G n) hm (dBb d v m) 10 0 2000 χ τ β V s (by omega) (by omega) (by omega) hp hb hL hP ht hbF hτ hR
    rw [Nat.zero_max] at y1 y3
    obtain ⟨χ2, τ2, β2, V2, s2, z1, z2, z3, z4, z5⟩ := ih (m + 1) n χ1 τ1 β1 V1 s1 (by omega) (by omega) y4.2.1 (y4.1.B hb) (y4.1.La hL) (y4.1.Pl hP) (y4.F ht) (y4.F hbF) y2 y3
    refine ⟨χ2, τ2, β2, V2, s2, ?_, z2, z3, y4.trans z4, y5.trans z5⟩
    rw [← z1]
    have hs := (vF_pC (vF_pC hp hbF β) ht τ).S χ
    obtain ⟨a1, a2, a3, a4, f1, f2, f3, f4, p1, -⟩ := hP
    obtain ⟨T', J, O, C, U, mc, E, cap, f', e, l1, -⟩ := hL
    show f_X1_bestOf_b6 G (f_X1_bestOf_l6 G n) X (some q) (some t) (some b) _ _ _ = _
    unfold f_X1_bestOf_b6
    rw [r_R (hs _ _ p1) rfl, zo_s, r_I (hs _ _ l1) rfl, zo_s, if_neg (fun z => by have := (n_le (by omega) (by omega)).mp z; omega)]
    exact y1
theorem C_bestOf (hG : G 0 ≤ X) (hX : X + 11 ≤ t) (hX2 : X + 11 ≤ b) (hd : t + 11 ≤ b ∨ b + 11 ≤ t) (hV : dV d) {V : zV1} {s : zS} (χ : zCh) {τ β : zPi} (hp : pC X V s) (hb : hB G V) (hL : hLa G V L d v) (hP : hPl V q L d S) (ht : vF V t) (hbF : vF V b) (hτ : τ.1 = L) (hβ : β.1 = L) : ∃ χ' τ' β' V' s', f_X1_bestOf G X (some q) (some t) (some b) (cw X χ (pw t τ (pw b β s))) = some (nO (dBb d v (d 0)).1, cw X χ' (pw t τ' (pw b β' s'))) ∧ τ'.1 = L ∧ bR d v L β' (dBb d v (d 0)) ∧ aQ X (bTB t b) V s V' s' ∧ kFr [17, 18] [5, 6, 7, 8, 9, 10] [16] χ χ' :=
  C_best_l6 hG hX hX2 hd hV (d 0) 0 2000 χ τ β V s (by omega) (by have := hV.2.1; omega) hp hb hL hP ht hbF hτ ⟨hβ, by show (0 : Nat) < 1000; omega, fun z => absurd rfl z⟩
end CBEST
