/-! THE PLAIN LAW, part 3: the reference's cells as a picture: numbers by field, arrays by place, one stack; the rest of the world beside it -/
set_option maxRecDepth 100000
abbrev zMu : Type := (Nat → Int32) × (Nat → Nat → Int32) × (Nat → Int64)
def gS (μ : zMu) (k : Nat) : Int32 := μ.1 k
def gA (μ : zMu) (j : Nat) : Nat → Int32 := μ.2.1 j
def gT (μ : zMu) : Nat → Int64 := μ.2.2
def sS (μ : zMu) (k : Nat) (x : Int32) : zMu := (va_up μ.1 k x, μ.2)
def sA (μ : zMu) (j i : Nat) (x : Int32) : zMu := (μ.1, va_up μ.2.1 j (upd (μ.2.1 j) i x), μ.2.2)
def sT (μ : zMu) (i : Nat) (x : Int64) : zMu := (μ.1, μ.2.1, vp_updL μ.2.2 i x)
theorem gS_sS (μ : zMu) (k k' : Nat) (x : Int32) : gS (sS μ k x) k' = if k' = k then x else gS μ k' := rfl
theorem gS_sA (μ : zMu) (j i k : Nat) (x : Int32) : gS (sA μ j i x) k = gS μ k := rfl
theorem gS_sT (μ : zMu) (i k : Nat) (x : Int64) : gS (sT μ i x) k = gS μ k := rfl
theorem gA_sS (μ : zMu) (k j : Nat) (x : Int32) : gA (sS μ k x) j = gA μ j := rfl
theorem gA_sT (μ : zMu) (i j : Nat) (x : Int64) : gA (sT μ i x) j = gA μ j := rfl
theorem gA_ne (μ : zMu) {j j' : Nat} (i : Nat) (x : Int32) (h : j' ≠ j) : gA (sA μ j i x) j' = gA μ j' := by
  unfold gA sA
  exact va_up_ne _ _ h
theorem gA_eq (μ : zMu) (j i : Nat) (x : Int32) : gA (sA μ j i x) j = upd (gA μ j) i x := by
  unfold gA sA
  exact va_up_self _ _ _
theorem gA_sA (μ : zMu) (j j' i i' : Nat) (x : Int32) : gA (sA μ j i x) j' i' = if j' = j ∧ i' = i then x else gA μ j' i' := by
  by_cases h : j' = j
  · subst h
    rw [gA_eq]
    by_cases h2 : i' = i
    · subst h2; simp [upd]
    · simp [upd, h2]
  · rw [gA_ne _ _ _ h, if_neg (fun q => h q.1)]
theorem gT_sS (μ : zMu) (k : Nat) (x : Int32) : gT (sS μ k x) = gT μ := rfl
theorem gT_sA (μ : zMu) (j i : Nat) (x : Int32) : gT (sA μ j i x) = gT μ := rfl
theorem gT_sT (μ : zMu) (i i' : Nat) (x : Int64) : gT (sT μ i x) i' = if i' = i then x else gT μ i' := rfl
/-- the object's fields -/
def mF (M : Nat) (μ : zMu) : List Value := [.int (gS μ 0), .ref (M + 1), .int (gS μ 2), .int (gS μ 3), .int (gS μ 4), .int (gS μ 5), .int (gS μ 6), .int (gS μ 7), .ref (M + 2), .ref (M + 3), .ref (M + 4), .ref (M + 5), .int (gS μ 12), .int (gS μ 13), .int (gS μ 14), .int (gS μ 15), .ref (M + 14), .ref (M + 15), .ref (M + 16), .ref (M + 17), .ref (M + 18), .int (gS μ 21), .int (gS μ 22), .ref (M + 19), .int (gS μ 24)]
def mC (M : Nat) (μ : zMu) (j : Nat) : Option zE := if j = 0 then some (.inr (6, mF M μ)) else if j = 5 then some (.inl (4, 8, .inr (.inr fun k => some (M + (6 + k))))) else if j = 17 then some (.inl (3, 36, .inl (gA μ 17))) else if j = 18 then some (.inl (1, 1500, .inr (.inl (gT μ)))) else if j = 1 then some (.inl (0, 900, .inl (gA μ 1))) else if j < 14 then some (.inl (0, 1655, .inl (gA μ j))) else some (.inl (0, 36, .inl (gA μ j)))
/-- the world s with the reference's cells at M as told -/
def mw (M : Nat) (μ : zMu) (s : zS) : zS := (fun a => if M ≤ a ∧ a < M + 20 then mC M μ (a - M) else s.1 a, s.2)
theorem mw_at (M : Nat) (μ : zMu) (s : zS) {j : Nat} (h : j < 20) : (mw M μ s).1 (M + j) = mC M μ j := by
  show (if M ≤ M + j ∧ M + j < M + 20 then mC M μ (M + j - M) else s.1 (M + j)) = mC M μ j
  rw [if_pos ⟨by omega, by omega⟩, Nat.add_sub_cancel_left]
theorem mw_out (M : Nat) (μ : zMu) (s : zS) {a : Nat} (h : a < M ∨ M + 20 ≤ a) : (mw M μ s).1 a = s.1 a := by
  show (if M ≤ a ∧ a < M + 20 then mC M μ (a - M) else s.1 a) = s.1 a
  rw [if_neg (by omega)]
theorem mw_0 (M : Nat) (μ : zMu) (s : zS) : (mw M μ s).1 M = some (.inr (6, mF M μ)) := mw_at M μ s (j := 0) (by omega)
theorem mw_2 (M : Nat) (μ : zMu) (s : zS) : (mw M μ s).2 = s.2 := rfl
theorem mw_mw (M : Nat) (μ ν : zMu) (s : zS) : mw M μ (mw M ν s) = mw M μ s := by
  unfold mw
  congr 1
  funext a
  show (if _ then _ else (if _ then _ else _)) = _
  split <;> rfl
/-- the same cell told anew -/
theorem mw_up (M : Nat) (μ μ' : zMu) (s : zS) {j : Nat} (hj : j < 20) (h : ∀ i, i < 20 → i ≠ j → mC M μ' i = mC M μ i) : (va_up (mw M μ s).1 (M + j) (mC M μ' j), (mw M μ s).2) = mw M μ' s := by
  unfold mw
  congr 1
  funext a
  show (if a = M + j then mC M μ' j else (if M ≤ a ∧ a < M + 20 then mC M μ (a - M) else s.1 a)) = (if M ≤ a ∧ a < M + 20 then mC M μ' (a - M) else s.1 a)
  by_cases e : a = M + j
  · subst e
    rw [if_pos rfl, if_pos ⟨by omega, by omega⟩, Nat.add_sub_cancel_left]
  · rw [if_neg e]
    by_cases q : M ≤ a ∧ a < M + 20
    · rw [if_pos q, if_pos q, h (a - M) (by omega) (by omega)]
    · rw [if_neg q, if_neg q]
section MODEL
variable (M : Nat) (μ : zMu) (s : zS)
theorem m_rc : zrc (mw M μ s) (some M) 6 = some M := r_c (mw_0 M μ s)
theorem m_I0 : zgI (mw M μ s) (some M) 6 0 = some (gS μ 0) := r_I (mw_0 M μ s) rfl
theorem m_I2 : zgI (mw M μ s) (some M) 6 2 = some (gS μ 2) := r_I (mw_0 M μ s) rfl
theorem m_I3 : zgI (mw M μ s) (some M) 6 3 = some (gS μ 3) := r_I (mw_0 M μ s) rfl
theorem m_I4 : zgI (mw M μ s) (some M) 6 4 = some (gS μ 4) := r_I (mw_0 M μ s) rfl
theorem m_I5 : zgI (mw M μ s) (some M) 6 5 = some (gS μ 5) := r_I (mw_0 M μ s) rfl
theorem m_I6 : zgI (mw M μ s) (some M) 6 6 = some (gS μ 6) := r_I (mw_0 M μ s) rfl
theorem m_I7 : zgI (mw M μ s) (some M) 6 7 = some (gS μ 7) := r_I (mw_0 M μ s) rfl
theorem m_I12 : zgI (mw M μ s) (some M) 6 12 = some (gS μ 12) := r_I (mw_0 M μ s) rfl
theorem m_I13 : zgI (mw M μ s) (some M) 6 13 = some (gS μ 13) := r_I (mw_0 M μ s) rfl
theorem m_I14 : zgI (mw M μ s) (some M) 6 14 = some (gS μ 14) := r_I (mw_0 M μ s) rfl
theorem m_I15 : zgI (mw M μ s) (some M) 6 15 = some (gS μ 15) := r_I (mw_0 M μ s) rfl
theorem m_I21 : zgI (mw M μ s) (some M) 6 21 = some (gS μ 21) := r_I (mw_0 M μ s) rfl
theorem m_I22 : zgI (mw M μ s) (some M) 6 22 = some (gS μ 22) := r_I (mw_0 M μ s) rfl
theorem m_I24 : zgI (mw M μ s) (some M) 6 24 = some (gS μ 24) := r_I (mw_0 M μ s) rfl
theorem m_R1 : zgR (mw M μ s) (some M) 6 1 = some (some (M + 1)) := r_R (mw_0 M μ s) rfl
theorem m_R8 : zgR (mw M μ s) (some M) 6 8 = some (some (M + 2)) := r_R (mw_0 M μ s) rfl
theorem m_R9 : zgR (mw M μ s) (some M) 6 9 = some (some (M + 3)) := r_R (mw_0 M μ s) rfl
theorem m_R10 : zgR (mw M μ s) (some M) 6 10 = some (some (M + 4)) := r_R (mw_0 M μ s) rfl
theorem m_R11 : zgR (mw M μ s) (some M) 6 11 = some (some (M + 5)) := r_R (mw_0 M μ s) rfl
theorem m_R16 : zgR (mw M μ s) (some M) 6 16 = some (some (M + 14)) := r_R (mw_0 M μ s) rfl
theorem m_R17 : zgR (mw M μ s) (some M) 6 17 = some (some (M + 15)) := r_R (mw_0 M μ s) rfl
theorem m_R18 : zgR (mw M μ s) (some M) 6 18 = some (some (M + 16)) := r_R (mw_0 M μ s) rfl
theorem m_R19 : zgR (mw M μ s) (some M) 6 19 = some (some (M + 17)) := r_R (mw_0 M μ s) rfl
theorem m_R20 : zgR (mw M μ s) (some M) 6 20 = some (some (M + 18)) := r_R (mw_0 M μ s) rfl
theorem m_R23 : zgR (mw M μ s) (some M) 6 23 = some (some (M + 19)) := r_R (mw_0 M μ s) rfl
theorem mC_D {j : Nat} (h1 : 2 ≤ j) (h2 : j < 14) (h3 : j ≠ 5) : mC M μ j = some (.inl (0, 1655, .inl (gA μ j))) := by
  unfold mC
  rw [if_neg (by omega), if_neg h3, if_neg (by omega), if_neg (by omega), if_neg (by omega), if_pos h2]
theorem mC_O {j : Nat} (h1 : 14 ≤ j) (h3 : j ≠ 17) (h4 : j ≠ 18) : mC M μ j = some (.inl (0, 36, .inl (gA μ j))) := by
  unfold mC
  rw [if_neg (by omega), if_neg (by omega), if_neg h3, if_neg h4, if_neg (by omega), if_neg (by omega)]
theorem m_aD {j i : Nat} (h1 : 2 ≤ j) (h2 : j < 14) (h3 : j ≠ 5) (hi : i < 1655) : zaI (mw M μ s) (some (M + j)) 0 (nI i) = some (gA μ j i) := r_aI (n := 1655) (f := gA μ j) ((mw_at M μ s (by omega)).trans (mC_D M μ h1 h2 h3)) hi (by omega)
theorem m_aO {j i : Nat} (h1 : 14 ≤ j) (h2 : j < 20) (h3 : j ≠ 17) (h4 : j ≠ 18) (hi : i < 36) : zaI (mw M μ s) (some (M + j)) 0 (nI i) = some (gA μ j i) := r_aI (n := 36) (f := gA μ j) ((mw_at M μ s h2).trans (mC_O M μ h1 h3 h4)) hi (by omega)
theorem m_aB {i : Nat} (hi : i < 900) : zaI (mw M μ s) (some (M + 1)) 0 (nI i) = some (gA μ 1 i) := r_aI (n := 900) (f := gA μ 1) (mw_at M μ s (j := 1) (by omega)) hi (by omega)
theorem m_aZ {i : Nat} (hi : i < 36) : zaI (mw M μ s) (some (M + 17)) 3 (nI i) = some (gA μ 17 i) := r_aI (n := 36) (f := gA μ 17) (mw_at M μ s (j := 17) (by omega)) hi (by omega)
theorem m_aL {i : Nat} (hi : i < 1500) : zaL (mw M μ s) (some (M + 18)) (nI i) = some (gT μ i) := r_aL (n := 1500) (f := gT μ) (mw_at M μ s (j := 18) (by omega)) hi (by omega)
theorem m_aR {i : Nat} (hi : i < 8) : zaR (mw M μ s) (some (M + 5)) (nI i) = some (some (M + (6 + i))) := r_aR (t := 4) (n := 8) (f := fun k => some (M + (6 + k))) (mw_at M μ s (j := 5) (by omega)) ⟨by omega, by omega⟩ hi (by omega)
theorem mC_sS (k : Nat) (x : Int32) (i : Nat) (h : i ≠ 0) : mC M (sS μ k x) i = mC M μ i := by
  unfold mC
  rw [if_neg h, if_neg h]
  rfl
theorem mC_sA {j : Nat} (hj : j ≠ 0) (k : Nat) (x : Int32) (i : Nat) (h : i ≠ j) : mC M (sA μ j k x) i = mC M μ i := by
  unfold mC
  have e1 : mF M (sA μ j k x) = mF M μ := rfl
  have e2 : gT (sA μ j k x) = gT μ := rfl
  by_cases q : i = 17
  · subst q; rw [gA_ne _ _ _ h]; rfl
  · by_cases q1 : i = 1
    · subst q1; rw [gA_ne _ _ _ h]; rfl
    · rw [e1, e2, gA_ne _ _ _ h, if_neg q, if_neg q, if_neg q1, if_neg q1]
theorem m_putS {k : Nat} {x : Int32} {G : Nat → Nat} (hG : G 0 ≤ M) (hk : k < 25) (h : (mF M μ).set k (.int x) = mF M (sS μ k x)) : zput G (mw M μ s) (some M) 6 k (.int x) = some (mw M (sS μ k x) s) := by
  rw [w_put (mw_0 M μ s) hG (by exact hk), h]
  exact congrArg some (mw_up M μ (sS μ k x) s (j := 0) (by omega) (fun i _ hi => mC_sS M μ k x i hi))
theorem m_P0 {x : Int32} {G : Nat → Nat} (hG : G 0 ≤ M) : zput G (mw M μ s) (some M) 6 0 (.int x) = some (mw M (sS μ 0 x) s) := m_putS M μ s hG (by omega) rfl
theorem m_P2 {x : Int32} {G : Nat → Nat} (hG : G 0 ≤ M) : zput G (mw M μ s) (some M) 6 2 (.int x) = some (mw M (sS μ 2 x) s) := m_putS M μ s hG (by omega) rfl
theorem m_P3 {x : Int32} {G : Nat → Nat} (hG : G 0 ≤ M) : zput G (mw M μ s) (some M) 6 3 (.int x) = some (mw M (sS μ 3 x) s) := m_putS M μ s hG (by omega) rfl
theorem m_P4 {x : Int32} {G : Nat → Nat} (hG : G 0 ≤ M) : zput G (mw M μ s) (some M) 6 4 (.int x) = some (mw M (sS μ 4 x) s) := m_putS M μ s hG (by omega) rfl
theorem m_P5 {x : Int32} {G : Nat → Nat} (hG : G 0 ≤ M) : zput G (mw M μ s) (some M) 6 5 (.int x) = some (mw M (sS μ 5 x) s) := m_putS M μ s hG (by omega) rfl
theorem m_P6 {x : Int32} {G : Nat → Nat} (hG : G 0 ≤ M) : zput G (mw M μ s) (some M) 6 6 (.int x) = some (mw M (sS μ 6 x) s) := m_putS M μ s hG (by omega) rfl
theorem m_P7 {x : Int32} {G : Nat → Nat} (hG : G 0 ≤ M) : zput G (mw M μ s) (some M) 6 7 (.int x) = some (mw M (sS μ 7 x) s) := m_putS M μ s hG (by omega) rfl
theorem m_P12 {x : Int32} {G : Nat → Nat} (hG : G 0 ≤ M) : zput G (mw M μ s) (some M) 6 12 (.int x) = some (mw M (sS μ 12 x) s) := m_putS M μ s hG (by omega) rfl
theorem m_P13 {x : Int32} {G : Nat → Nat} (hG : G 0 ≤ M) : zput G (mw M μ s) (some M) 6 13 (.int x) = some (mw M (sS μ 13 x) s) := m_putS M μ s hG (by omega) rfl
theorem m_P14 {x : Int32} {G : Nat → Nat} (hG : G 0 ≤ M) : zput G (mw M μ s) (some M) 6 14 (.int x) = some (mw M (sS μ 14 x) s) := m_putS M μ s hG (by omega) rfl
theorem m_P15 {x : Int32} {G : Nat → Nat} (hG : G 0 ≤ M) : zput G (mw M μ s) (some M) 6 15 (.int x) = some (mw M (sS μ 15 x) s) := m_putS M μ s hG (by omega) rfl
theorem m_P21 {x : Int32} {G : Nat → Nat} (hG : G 0 ≤ M) : zput G (mw M μ s) (some M) 6 21 (.int x) = some (mw M (sS μ 21 x) s) := m_putS M μ s hG (by omega) rfl
theorem m_P22 {x : Int32} {G : Nat → Nat} (hG : G 0 ≤ M) : zput G (mw M μ s) (some M) 6 22 (.int x) = some (mw M (sS μ 22 x) s) := m_putS M μ s hG (by omega) rfl
theorem m_P24 {x : Int32} {G : Nat → Nat} (hG : G 0 ≤ M) : zput G (mw M μ s) (some M) 6 24 (.int x) = some (mw M (sS μ 24 x) s) := m_putS M μ s hG (by omega) rfl
theorem m_sD {j i : Nat} {x : Int32} {G : Nat → Nat} (hG : G 0 ≤ M) (h1 : 2 ≤ j) (h2 : j < 14) (h3 : j ≠ 5) (hi : i < 1655) : zsI G (mw M μ s) (some (M + j)) 0 (nI i) x = some (mw M (sA μ j i x) s) := by
  rw [w_aI (n := 1655) (f := gA μ j) ((mw_at M μ s (by omega)).trans (mC_D M μ h1 h2 h3)) (by omega) hi (by omega)]
  refine congrArg some (Eq.trans ?_ (mw_up M μ (sA μ j i x) s (j := j) (by omega) (fun k _ hk => mC_sA M μ (by omega) i x k hk)))
  rw [mC_D M _ h1 h2 h3, gA_eq]
theorem m_sO {j i : Nat} {x : Int32} {G : Nat → Nat} (hG : G 0 ≤ M) (h1 : 14 ≤ j) (h2 : j < 20) (h3 : j ≠ 17) (h4 : j ≠ 18) (hi : i < 36) : zsI G (mw M μ s) (some (M + j)) 0 (nI i) x = some (mw M (sA μ j i x) s) := by
  rw [w_aI (n := 36) (f := gA μ j) ((mw_at M μ s (by omega)).trans (mC_O M μ h1 h3 h4)) (by omega) hi (by omega)]
  refine congrArg some (Eq.trans ?_ (mw_up M μ (sA μ j i x) s (j := j) (by omega) (fun k _ hk => mC_sA M μ (by omega) i x k hk)))
  rw [mC_O M _ h1 h3 h4, gA_eq]
theorem m_sB {i : Nat} {x : Int32} {G : Nat → Nat} (hG : G 0 ≤ M) (hi : i < 900) : zsI G (mw M μ s) (some (M + 1)) 0 (nI i) x = some (mw M (sA μ 1 i x) s) := by
  rw [w_aI (n := 900) (f := gA μ 1) (mw_at M μ s (j := 1) (by omega)) (by omega) hi (by omega)]
  refine congrArg some (Eq.trans ?_ (mw_up M μ (sA μ 1 i x) s (j := 1) (by omega) (fun k _ hk => mC_sA M μ (by omega) i x k hk)))
  have e : mC M (sA μ 1 i x) 1 = some (.inl (0, 900, .inl (gA (sA μ 1 i x) 1))) := rfl
  rw [e, gA_eq]
theorem m_sZ {i : Nat} {x : Int32} {G : Nat → Nat} (hG : G 0 ≤ M) (hi : i < 36) : zsI G (mw M μ s) (some (M + 17)) 3 (nI i) x = some (mw M (sA μ 17 i (x &&& 1)) s) := by
  rw [w_aZ (n := 36) (f := gA μ 17) (mw_at M μ s (j := 17) (by omega)) (by omega) hi (by omega)]
  refine congrArg some (Eq.trans ?_ (mw_up M μ (sA μ 17 i (x &&& 1)) s (j := 17) (by omega) (fun k _ hk => mC_sA M μ (by omega) i (x &&& 1) k hk)))
  have e : mC M (sA μ 17 i (x &&& 1)) 17 = some (.inl (3, 36, .inl (gA (sA μ 17 i (x &&& 1)) 17))) := rfl
  rw [e, gA_eq]
theorem m_sL {i : Nat} {x : Int64} {G : Nat → Nat} (hG : G 0 ≤ M) (hi : i < 1500) : zsL G (mw M μ s) (some (M + 18)) (nI i) x = some (mw M (sT μ i x) s) := by
  rw [w_aL (n := 1500) (f := gT μ) (mw_at M μ s (j := 18) (by omega)) (by omega) hi (by omega)]
  refine congrArg some (Eq.trans ?_ (mw_up M μ (sT μ i x) s (j := 18) (by omega) (fun k _ hk => ?_)))
  · rfl
  · unfold mC
    rw [if_neg hk, if_neg hk]
    rfl
end MODEL
