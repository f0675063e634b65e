/-! THE PLAIN LAW, part 23: the system's own cells as a picture: the shop, its buffer, its history, its graph -/
set_option maxRecDepth 100000
abbrev zCh : Type := (Nat → Int32) × (Nat → Nat → Int32) × (Nat → Option Nat) × (Nat → Option Nat)
def kN (χ : zCh) (k : Nat) : Int32 := χ.1 k
def kA (χ : zCh) (j : Nat) : Nat → Int32 := χ.2.1 j
def kR (χ : zCh) (k : Nat) : Option Nat := χ.2.2.1 k
def kD (χ : zCh) : Nat → Option Nat := χ.2.2.2
def uN' (χ : zCh) (k : Nat) (x : Int32) : zCh := (va_up χ.1 k x, χ.2)
def uA (χ : zCh) (j i : Nat) (x : Int32) : zCh := (χ.1, va_up χ.2.1 j (upd (χ.2.1 j) i x), χ.2.2)
def uR (χ : zCh) (k : Nat) (x : Option Nat) : zCh := (χ.1, χ.2.1, va_up χ.2.2.1 k x, χ.2.2.2)
def uD (χ : zCh) (i : Nat) (x : Option Nat) : zCh := (χ.1, χ.2.1, χ.2.2.1, va_up χ.2.2.2 i x)
theorem kN_uN (χ : zCh) (k k' : Nat) (x : Int32) : kN (uN' χ k x) k' = if k' = k then x else kN χ k' := rfl
theorem kN_uA (χ : zCh) (j i k : Nat) (x : Int32) : kN (uA χ j i x) k = kN χ k := rfl
theorem kN_uR (χ : zCh) (j k : Nat) (x : Option Nat) : kN (uR χ j x) k = kN χ k := rfl
theorem kN_uD (χ : zCh) (i k : Nat) (x : Option Nat) : kN (uD χ i x) k = kN χ k := rfl
theorem kA_uN (χ : zCh) (k j : Nat) (x : Int32) : kA (uN' χ k x) j = kA χ j := rfl
theorem kA_uR (χ : zCh) (k j : Nat) (x : Option Nat) : kA (uR χ k x) j = kA χ j := rfl
theorem kA_uD (χ : zCh) (k j : Nat) (x : Option Nat) : kA (uD χ k x) j = kA χ j := rfl
theorem kR_uN (χ : zCh) (k j : Nat) (x : Int32) : kR (uN' χ k x) j = kR χ j := rfl
theorem kR_uA (χ : zCh) (j i k : Nat) (x : Int32) : kR (uA χ j i x) k = kR χ k := rfl
theorem kR_uR (χ : zCh) (k k' : Nat) (x : Option Nat) : kR (uR χ k x) k' = if k' = k then x else kR χ k' := rfl
theorem kR_uD (χ : zCh) (i k : Nat) (x : Option Nat) : kR (uD χ i x) k = kR χ k := rfl
theorem kD_uN (χ : zCh) (k : Nat) (x : Int32) : kD (uN' χ k x) = kD χ := rfl
theorem kD_uA (χ : zCh) (j i : Nat) (x : Int32) : kD (uA χ j i x) = kD χ := rfl
theorem kD_uR (χ : zCh) (k : Nat) (x : Option Nat) : kD (uR χ k x) = kD χ := rfl
theorem kD_uD (χ : zCh) (i i' : Nat) (x : Option Nat) : kD (uD χ i x) i' = if i' = i then x else kD χ i' := rfl
theorem kA_ne (χ : zCh) {j j' : Nat} (i : Nat) (x : Int32) (h : j' ≠ j) : kA (uA χ j i x) j' = kA χ j' := by
  unfold kA uA
  exact va_up_ne _ _ h
theorem kA_eq (χ : zCh) (j i : Nat) (x : Int32) : kA (uA χ j i x) j = upd (kA χ j) i x := by
  unfold kA uA
  exact va_up_self _ _ _
theorem kA_uA (χ : zCh) (j j' i i' : Nat) (x : Int32) : kA (uA χ j i x) j' i' = if j' = j ∧ i' = i then x else kA χ j' i' := by
  by_cases h : j' = j
  · subst h
    rw [kA_eq]
    by_cases h2 : i' = i
    · subst h2; simp [upd]
    · simp [upd, h2]
  · rw [kA_ne _ _ _ h, if_neg (fun q => h q.1)]
def kC (X : Nat) (χ : zCh) (j : Nat) : Option zE := if j = 0 then some (.inr (0, [.ref (X + 1), .ref (X + 2), .ref (X + 4), va_rf (kR χ 3), .int (kN χ 4), .int (kN χ 5)])) else if j = 1 then some (.inl (2, 900, .inl (kA χ 1))) else if j = 2 then some (.inr (13, [.ref (X + 3), .int (kN χ 11), .int (kN χ 12)])) else if j = 3 then some (.inl (5, 17, .inr (.inr (kD χ)))) else if j = 4 then some (.inr (1, [.ref (X + 5), .ref (X + 6), .ref (X + 7), .ref (X + 8), .ref (X + 9), .ref (X + 10), va_rf (kR χ 16), .int (kN χ 17), .int (kN χ 18)])) else if j < 8 then some (.inl (0, 72, .inl (kA χ j))) else some (.inl (0, 36, .inl (kA χ j)))
/-- the world s with the system's own cells at X as told -/
def cw (X : Nat) (χ : zCh) (s : zS) : zS := (fun a => if X ≤ a ∧ a < X + 11 then kC X χ (a - X) else s.1 a, s.2)
theorem cw_at (X : Nat) (χ : zCh) (s : zS) {j : Nat} (h : j < 11) : (cw X χ s).1 (X + j) = kC X χ j := by
  show (if X ≤ X + j ∧ X + j < X + 11 then kC X χ (X + j - X) else s.1 (X + j)) = kC X χ j
  rw [if_pos ⟨by omega, by omega⟩, Nat.add_sub_cancel_left]
theorem cw_out (X : Nat) (χ : zCh) (s : zS) {a : Nat} (h : a < X ∨ X + 11 ≤ a) : (cw X χ s).1 a = s.1 a := by
  show (if X ≤ a ∧ a < X + 11 then kC X χ (a - X) else s.1 a) = s.1 a
  rw [if_neg (by omega)]
theorem cw_2 (X : Nat) (χ : zCh) (s : zS) : (cw X χ s).2 = s.2 := rfl
theorem cw_cw (X : Nat) (χ ψ : zCh) (s : zS) : cw X χ (cw X ψ s) = cw X χ s := by
  unfold cw
  congr 1
  funext a
  show (if _ then _ else (if _ then _ else _)) = _
  split <;> rfl
theorem cw_0 (X : Nat) (χ : zCh) (s : zS) : (cw X χ s).1 X = kC X χ 0 := cw_at X χ s (j := 0) (by omega)
theorem cw_up (X : Nat) (χ χ' : zCh) (s : zS) {j : Nat} (hj : j < 11) (h : ∀ i, i < 11 → i ≠ j → kC X χ' i = kC X χ i) : (va_up (cw X χ s).1 (X + j) (kC X χ' j), (cw X χ s).2) = cw X χ' s := by
  unfold cw
  congr 1
  funext a
  show (if a = X + j then kC X χ' j else (if X ≤ a ∧ a < X + 11 then kC X χ (a - X) else s.1 a)) = (if X ≤ a ∧ a < X + 11 then kC X χ' (a - X) else s.1 a)
  by_cases e : a = X + j
  · subst e
    rw [if_pos rfl, if_pos ⟨by omega, by omega⟩, Nat.add_sub_cancel_left]
  · rw [if_neg e]
    by_cases q : X ≤ a ∧ a < X + 11
    · rw [if_pos q, if_pos q, h (a - X) (by omega) (by omega)]
    · rw [if_neg q, if_neg q]
/-- beside the reference's -/
theorem cw_mw {X M : Nat} (h : X + 11 ≤ M) (χ : zCh) (μ : zMu) (s : zS) : cw X χ (mw M μ s) = mw M μ (cw X χ s) := by
  unfold cw mw
  congr 1
  funext a
  show (if X ≤ a ∧ a < X + 11 then kC X χ (a - X) else (if M ≤ a ∧ a < M + 20 then mC M μ (a - M) else s.1 a)) = (if M ≤ a ∧ a < M + 20 then mC M μ (a - M) else (if X ≤ a ∧ a < X + 11 then kC X χ (a - X) else s.1 a))
  by_cases q : X ≤ a ∧ a < X + 11
  · rw [if_pos q, if_neg (by omega), if_pos q]
  · rw [if_neg q]
    by_cases q2 : M ≤ a ∧ a < M + 20
    · rw [if_pos q2, if_pos q2]
    · rw [if_neg q2, if_neg q2, if_neg q]
section SHOP
variable (X : Nat) (χ : zCh) (s : zS)
theorem cw_x : (cw X χ s).1 X = some (.inr (0, [.ref (X + 1), .ref (X + 2), .ref (X + 4), va_rf (kR χ 3), .int (kN χ 4), .int (kN χ 5)])) := cw_0 X χ s
theorem cw_d : (cw X χ s).1 (X + 2) = some (.inr (13, [.ref (X + 3), .int (kN χ 11), .int (kN χ 12)])) := cw_at X χ s (j := 2) (by omega)
theorem cw_g : (cw X χ s).1 (X + 4) = some (.inr (1, [.ref (X + 5), .ref (X + 6), .ref (X + 7), .ref (X + 8), .ref (X + 9), .ref (X + 10), va_rf (kR χ 16), .int (kN χ 17), .int (kN χ 18)])) := cw_at X χ s (j := 4) (by omega)
theorem c_rcX : zrc (cw X χ s) (some X) 0 = some X := r_c (cw_x X χ s)
theorem c_rcD : zrc (cw X χ s) (some (X + 2)) 13 = some (X + 2) := r_c (cw_d X χ s)
theorem c_rcG : zrc (cw X χ s) (some (X + 4)) 1 = some (X + 4) := r_c (cw_g X χ s)
theorem c_X0 : zgR (cw X χ s) (some X) 0 0 = some (some (X + 1)) := r_R (cw_x X χ s) rfl
theorem c_X1 : zgR (cw X χ s) (some X) 0 1 = some (some (X + 2)) := r_R (cw_x X χ s) rfl
theorem c_X2 : zgR (cw X χ s) (some X) 0 2 = some (some (X + 4)) := r_R (cw_x X χ s) rfl
theorem c_X3 : zgR (cw X χ s) (some X) 0 3 = some (kR χ 3) := r_Q (cw_x X χ s) rfl
theorem c_X4 : zgI (cw X χ s) (some X) 0 4 = some (kN χ 4) := r_I (cw_x X χ s) rfl
theorem c_X5 : zgI (cw X χ s) (some X) 0 5 = some (kN χ 5) := r_I (cw_x X χ s) rfl
theorem c_D0 : zgR (cw X χ s) (some (X + 2)) 13 0 = some (some (X + 3)) := r_R (cw_d X χ s) rfl
theorem c_D1 : zgI (cw X χ s) (some (X + 2)) 13 1 = some (kN χ 11) := r_I (cw_d X χ s) rfl
theorem c_D2 : zgI (cw X χ s) (some (X + 2)) 13 2 = some (kN χ 12) := r_I (cw_d X χ s) rfl
theorem c_G0 : zgR (cw X χ s) (some (X + 4)) 1 0 = some (some (X + 5)) := r_R (cw_g X χ s) rfl
theorem c_G1 : zgR (cw X χ s) (some (X + 4)) 1 1 = some (some (X + 6)) := r_R (cw_g X χ s) rfl
theorem c_G2 : zgR (cw X χ s) (some (X + 4)) 1 2 = some (some (X + 7)) := r_R (cw_g X χ s) rfl
theorem c_G3 : zgR (cw X χ s) (some (X + 4)) 1 3 = some (some (X + 8)) := r_R (cw_g X χ s) rfl
theorem c_G4 : zgR (cw X χ s) (some (X + 4)) 1 4 = some (some (X + 9)) := r_R (cw_g X χ s) rfl
theorem c_G5 : zgR (cw X χ s) (some (X + 4)) 1 5 = some (some (X + 10)) := r_R (cw_g X χ s) rfl
theorem c_G6 : zgR (cw X χ s) (some (X + 4)) 1 6 = some (kR χ 16) := r_Q (cw_g X χ s) rfl
theorem c_G7 : zgI (cw X χ s) (some (X + 4)) 1 7 = some (kN χ 17) := r_I (cw_g X χ s) rfl
theorem c_G8 : zgI (cw X χ s) (some (X + 4)) 1 8 = some (kN χ 18) := r_I (cw_g X χ s) rfl
theorem kC_A {j : Nat} (h1 : 5 ≤ j) (h2 : j < 8) : kC X χ j = some (.inl (0, 72, .inl (kA χ j))) := by
  unfold kC
  rw [if_neg (by omega), if_neg (by omega), if_neg (by omega), if_neg (by omega), if_neg (by omega), if_pos h2]
theorem kC_O {j : Nat} (h1 : 8 ≤ j) : kC X χ j = some (.inl (0, 36, .inl (kA χ j))) := by
  unfold kC
  rw [if_neg (by omega), if_neg (by omega), if_neg (by omega), if_neg (by omega), if_neg (by omega), if_neg (by omega)]
theorem c_aA {j i : Nat} (h1 : 5 ≤ j) (h2 : j < 8) (hi : i < 72) : zaI (cw X χ s) (some (X + j)) 0 (nI i) = some (kA χ j i) := r_aI (n := 72) (f := kA χ j) ((cw_at X χ s (by omega)).trans (kC_A X χ h1 h2)) hi (by omega)
theorem c_aO {j i : Nat} (h1 : 8 ≤ j) (h2 : j < 11) (hi : i < 36) : zaI (cw X χ s) (some (X + j)) 0 (nI i) = some (kA χ j i) := r_aI (n := 36) (f := kA χ j) ((cw_at X χ s (by omega)).trans (kC_O X χ h1)) hi (by omega)
theorem c_aB {i : Nat} (hi : i < 900) : zaI (cw X χ s) (some (X + 1)) 2 (nI i) = some (kA χ 1 i) := r_aI (n := 900) (f := kA χ 1) (cw_at X χ s (j := 1) (by omega)) hi (by omega)
theorem c_aD {i : Nat} (hi : i < 17) : zaR (cw X χ s) (some (X + 3)) (nI i) = some (kD χ i) := r_aR (t := 5) (n := 17) (f := kD χ) (cw_at X χ s (j := 3) (by omega)) ⟨by omega, by omega⟩ hi (by omega)
theorem c_lD : zlen (cw X χ s) (some (X + 3)) = some (nI 17) := r_len (cw_at X χ s (j := 3) (by omega)) (by omega)
theorem c_pR3 {G : Nat → Nat} (hG : G 0 ≤ X) (x : Option Nat) : zput G (cw X χ s) (some X) 0 3 (va_rf x) = some (cw X (uR χ 3 x) s) := by
  rw [w_put (cw_x X χ s) hG (Nat.le_of_ble_eq_true rfl)]
  exact congrArg some (cw_up X χ (uR χ 3 x) s (j := 0) (by omega) (fun i _ hi => by
    unfold kC
    rw [if_neg hi, if_neg hi]
    rfl))
theorem c_pR6 {G : Nat → Nat} (hG : G 0 ≤ X) (x : Option Nat) : zput G (cw X χ s) (some (X + 4)) 1 6 (va_rf x) = some (cw X (uR χ 16 x) s) := by
  rw [w_put (cw_g X χ s) (by omega) (Nat.le_of_ble_eq_true rfl)]
  exact congrArg some (cw_up X χ (uR χ 16 x) s (j := 4) (by omega) (fun i _ hi => by
    unfold kC
    rw [if_neg (c := i = 4) hi, if_neg (c := i = 4) hi]
    rfl))
theorem c_P4 {G : Nat → Nat} (hG : G 0 ≤ X) {x : Int32} : zput G (cw X χ s) (some X) 0 4 (.int x) = some (cw X (uN' χ 4 x) s) := by
  rw [w_put (cw_x X χ s) (by omega) (Nat.le_of_ble_eq_true rfl)]
  exact congrArg some (cw_up X χ (uN' χ 4 x) s (j := 0) (by omega) (fun i _ hi => by
    unfold kC
    rw [if_neg (c := i = 0) hi, if_neg (c := i = 0) hi]
    rfl))
theorem c_P5 {G : Nat → Nat} (hG : G 0 ≤ X) {x : Int32} : zput G (cw X χ s) (some X) 0 5 (.int x) = some (cw X (uN' χ 5 x) s) := by
  rw [w_put (cw_x X χ s) (by omega) (Nat.le_of_ble_eq_true rfl)]
  exact congrArg some (cw_up X χ (uN' χ 5 x) s (j := 0) (by omega) (fun i _ hi => by
    unfold kC
    rw [if_neg (c := i = 0) hi, if_neg (c := i = 0) hi]
    rfl))
theorem c_Q1 {G : Nat → Nat} (hG : G 0 ≤ X) {x : Int32} : zput G (cw X χ s) (some (X + 2)) 13 1 (.int x) = some (cw X (uN' χ 11 x) s) := by
  rw [w_put (cw_d X χ s) (by omega) (Nat.le_of_ble_eq_true rfl)]
  exact congrArg some (cw_up X χ (uN' χ 11 x) s (j := 2) (by omega) (fun i _ hi => by
    unfold kC
    rw [if_neg (c := i = 2) hi, if_neg (c := i = 2) hi]
    rfl))
theorem c_Q2 {G : Nat → Nat} (hG : G 0 ≤ X) {x : Int32} : zput G (cw X χ s) (some (X + 2)) 13 2 (.int x) = some (cw X (uN' χ 12 x) s) := by
  rw [w_put (cw_d X χ s) (by omega) (Nat.le_of_ble_eq_true rfl)]
  exact congrArg some (cw_up X χ (uN' χ 12 x) s (j := 2) (by omega) (fun i _ hi => by
    unfold kC
    rw [if_neg (c := i = 2) hi, if_neg (c := i = 2) hi]
    rfl))
theorem c_S7 {G : Nat → Nat} (hG : G 0 ≤ X) {x : Int32} : zput G (cw X χ s) (some (X + 4)) 1 7 (.int x) = some (cw X (uN' χ 17 x) s) := by
  rw [w_put (cw_g X χ s) (by omega) (Nat.le_of_ble_eq_true rfl)]
  exact congrArg some (cw_up X χ (uN' χ 17 x) s (j := 4) (by omega) (fun i _ hi => by
    unfold kC
    rw [if_neg (c := i = 4) hi, if_neg (c := i = 4) hi]
    rfl))
theorem c_S8 {G : Nat → Nat} (hG : G 0 ≤ X) {x : Int32} : zput G (cw X χ s) (some (X + 4)) 1 8 (.int x) = some (cw X (uN' χ 18 x) s) := by
  rw [w_put (cw_g X χ s) (by omega) (Nat.le_of_ble_eq_true rfl)]
  exact congrArg some (cw_up X χ (uN' χ 18 x) s (j := 4) (by omega) (fun i _ hi => by
    unfold kC
    rw [if_neg (c := i = 4) hi, if_neg (c := i = 4) hi]
    rfl))
theorem kC_uA {j : Nat} (k : Nat) (x : Int32) (i : Nat) (hi : i < 11) (h : i ≠ j) : kC X (uA χ j k x) i = kC X χ i := by
  by_cases q : 5 ≤ i
  · by_cases q2 : i < 8
    · rw [kC_A X _ q q2, kC_A X _ q q2, kA_ne _ _ _ h]
    · rw [kC_O X _ (by omega), kC_O X _ (by omega), kA_ne _ _ _ h]
  · by_cases q1 : i = 1
    · subst q1
      show some (Sum.inl (2, 900, Sum.inl (kA (uA χ j k x) 1))) = _
      rw [kA_ne _ _ _ h]
      rfl
    · have : i = 0 ∨ i = 2 ∨ i = 3 ∨ i = 4 := by omega
      rcases this with rfl | rfl | rfl | rfl <;> rfl
theorem c_sA {j i : Nat} {x : Int32} {G : Nat → Nat} (hG : G 0 ≤ X) (h1 : 5 ≤ j) (h2 : j < 8) (hi : i < 72) : zsI G (cw X χ s) (some (X + j)) 0 (nI i) x = some (cw X (uA χ j i x) s) := by
  rw [w_aI (n := 72) (f := kA χ j) ((cw_at X χ s (by omega)).trans (kC_A X χ h1 h2)) (by omega) hi (by omega)]
  refine congrArg some (Eq.trans ?_ (cw_up X χ (uA χ j i x) s (j := j) (by omega) (fun k hk hk2 => kC_uA X χ i x k hk hk2)))
  rw [kC_A X _ h1 h2, kA_eq]
theorem c_sO {j i : Nat} {x : Int32} {G : Nat → Nat} (hG : G 0 ≤ X) (h1 : 8 ≤ j) (h2 : j < 11) (hi : i < 36) : zsI G (cw X χ s) (some (X + j)) 0 (nI i) x = some (cw X (uA χ j i x) s) := by
  rw [w_aI (n := 36) (f := kA χ j) ((cw_at X χ s (by omega)).trans (kC_O X χ h1)) (by omega) hi (by omega)]
  refine congrArg some (Eq.trans ?_ (cw_up X χ (uA χ j i x) s (j := j) (by omega) (fun k hk hk2 => kC_uA X χ i x k hk hk2)))
  rw [kC_O X _ h1, kA_eq]
theorem c_sB {i : Nat} {x : Int32} {G : Nat → Nat} (hG : G 0 ≤ X) (hi : i < 900) : zsI G (cw X χ s) (some (X + 1)) 2 (nI i) x = some (cw X (uA χ 1 i x.toInt8.toInt32) s) := by
  rw [w_aB (n := 900) (f := kA χ 1) (cw_at X χ s (j := 1) (by omega)) (by omega) hi (by omega)]
  refine congrArg some (Eq.trans ?_ (cw_up X χ (uA χ 1 i x.toInt8.toInt32) s (j := 1) (by omega) (fun k hk hk2 => kC_uA X χ i x.toInt8.toInt32 k hk hk2)))
  have e : kC X (uA χ 1 i x.toInt8.toInt32) 1 = some (.inl (2, 900, .inl (kA (uA χ 1 i x.toInt8.toInt32) 1))) := rfl
  rw [e, kA_eq]
theorem c_sD {i : Nat} {x : Option Nat} {ok : List Nat} {G : Nat → Nat} (hG : G 0 ≤ X) (hi : i < 17) (hx : x = none ∨ ∃ c ∈ ok, zcls (cw X χ s) x = some c) : zsR G (cw X χ s) (some (X + 3)) (nI i) x ok = some (cw X (uD χ i x) s) := by
  rw [w_aR (n := 17) (f := kD χ) (cw_at X χ s (j := 3) (by omega)) (by omega) hi (by omega) hx]
  exact congrArg some (cw_up X χ (uD χ i x) s (j := 3) (by omega) (fun k _ hk => by
    unfold kC
    rw [if_neg (c := k = 3) hk, if_neg (c := k = 3) hk]
    rfl))
end SHOP
