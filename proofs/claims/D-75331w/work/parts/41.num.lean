/-! THE PLAIN LAW, part 1: numbers. Small naturals as ints (nI), what the instructions do with them; the glue of the walks' functions as rewrite rules -/
set_option maxRecDepth 100000
theorem n_lit (n : Nat) : (no_index (OfNat.ofNat n) : Int32) = nI (OfNat.ofNat n) := of_eq_true (eq_self _)
theorem n_e10 : ((1 : Nat) = 0) = False := by simp
theorem n_e01 : ((0 : Nat) = 1) = False := by simp
theorem n_0 : (0 : Int32) = nI 0 := rfl
theorem n_1 : (1 : Int32) = nI 1 := rfl
theorem n_add (a b : Nat) : nI a + nI b = nI (a + b) := by unfold nI; rw [Int32.ofNat_add]
theorem n_mul (a b : Nat) : nI a * nI b = nI (a * b) := by unfold nI; rw [Int32.ofNat_mul]
theorem n_sub {a b : Nat} (h : b ≤ a) : nI a - nI b = nI (a - b) := by unfold nI; rw [Int32.ofNat_sub _ _ h]
theorem n_lt {a b : Nat} (ha : a < 2147483648) (hb : b < 2147483648) : nI a < nI b ↔ a < b := Int32.ofNat_lt_iff_lt (by omega) (by omega)
theorem n_le {a b : Nat} (ha : a < 2147483648) (hb : b < 2147483648) : nI a ≤ nI b ↔ a ≤ b := Int32.ofNat_le_iff_le (by omega) (by omega)
theorem n_cl {a : Nat} (ha : a < 2147483648) : (nI a).toNatClampNeg = a := Int32.toNatClampNeg_ofNat_of_lt (by omega)
theorem n_eq {a b : Nat} (ha : a < 2147483648) (hb : b < 2147483648) : nI a = nI b ↔ a = b := ⟨fun h => by rw [← n_cl ha, ← n_cl hb, h], fun h => by rw [h]⟩
theorem n_div {a b : Nat} (ha : a < 2147483648) (hb : b < 2147483648) : nI a / nI b = nI (a / b) := (Int32.ofNat_div (by omega) (by omega)).symm
theorem n_neg {a : Nat} (ha : a < 2147483648) : ¬ nI a < nI 0 := by rw [n_lt ha (by omega)]; omega
theorem n_pos {a : Nat} (ha : a < 2147483648) : nI 0 ≤ nI a := by rw [n_le (by omega) ha]; omega
theorem n_int {a : Nat} (ha : a < 2147483648) : (nI a).toInt = (a : Int) := Int32.toInt_ofNat_of_lt (by omega)
/-- the remainder as the walks write it -/
theorem n_mod {a b : Nat} (ha : a < 2147483648) (hb : b < 2147483648) : nI a - nI a / nI b * nI b = nI (a % b) := by
  have h := Nat.div_add_mod a b
  have h2 : a / b * b = b * (a / b) := Nat.mul_comm _ _
  rw [n_div ha hb, n_mul, n_sub (by omega)]
  congr 1
  omega
theorem n_m1 {a : Nat} (h : 1 ≤ a) : nI a + -nI 1 = nI (a - 1) := by rw [← Int32.sub_eq_add_neg]; exact n_sub h
theorem n_m1t {a : Nat} (ha : a < 2147483648) : (nI a).toInt ≠ (-nI 1).toInt := by
  have e : (-nI 1).toInt = -1 := by decide
  rw [n_int ha, e]
  omega
theorem n_nm1 {a : Nat} (ha : a < 2147483648) : nI a ≠ -nI 1 := fun h => n_m1t ha (by rw [h])
theorem n_nm1' {a : Nat} (ha : a < 2147483648) : -nI 1 ≠ nI a := fun h => n_m1t ha (by rw [h])
theorem n_of (x : Int32) (h : ¬ x < 0) : ∃ a : Nat, a < 2147483648 ∧ x = nI a := by
  obtain ⟨j, h1, h2⟩ := nI_of h
  exact ⟨j, by omega, h2⟩
/-- a truth as an int -/
def bI (b : Bool) : Int32 := if b then nI 1 else nI 0
theorem bI_t : bI true = nI 1 := rfl
theorem bI_f : bI false = nI 0 := rfl
theorem bI_0 (b : Bool) : bI b = nI 0 ↔ b = false := by cases b <;> decide
theorem bI_1 (b : Bool) : bI b = nI 1 ↔ b = true := by cases b <;> decide
theorem zrn_1 (s : zS) : zrn .boolean (nI 1) s = some (nI 1, s) := rfl
theorem zrn_0 (s : zS) : zrn .boolean (nI 0) s = some (nI 0, s) := rfl
theorem zrn_b (b : Bool) (s : zS) : zrn .boolean (bI b) s = some (bI b, s) := by cases b <;> rfl
theorem zrnX_1 (s : zS) : zrnX .boolean (nI 1) s = some (.inl (nI 1), s) := rfl
theorem zrnX_0 (s : zS) : zrnX .boolean (nI 0) s = some (.inl (nI 0), s) := rfl
theorem zrnX_b (b : Bool) (s : zS) : zrnX .boolean (bI b) s = some (.inl (bI b), s) := by cases b <;> rfl
theorem zo_s {α γ : Type} (a : α) (F : α → Option γ) : zo (some a) F = F a := rfl
theorem zb_s {α β γ : Type} (a : α) (b : β) (F : α → β → Option γ) : zb (some (a, b)) F = F a b := rfl
theorem zx_l {α γ : Type} (a : α) (s : zS) (E : Nat × Nat → zS → Option γ) (N : α → zS → Option γ) : zx (some (.inl a, s)) E N = N a s := rfl
theorem zx_r {α γ : Type} (e : Nat × Nat) (s : zS) (E : Nat × Nat → zS → Option γ) (N : α → zS → Option γ) : zx (some (.inr e, s)) E N = E e s := rfl
/-- the script's words -/
theorem n_scr {L : Nat} {xs : Nat → Int32} {i : Nat} (h : i < L) (hL : L < 2147483648) : zscr L xs (nI i) = some (xs i) := by
  unfold zscr
  rw [n_cl (by omega), if_neg]
  have := n_neg (a := i) (by omega)
  intro q
  rcases q with q | q
  · exact this q
  · omega
/-- reads of cells -/
theorem r_obj {σ : zS} {a ci : Nat} {fs : List Value} (h : σ.1 a = some (.inr (ci, fs))) : zobj σ (some a) ci = some fs := by
  simp only [zobj, h, if_pos]
theorem r_I {σ : zS} {a ci k : Nat} {fs : List Value} {x : Int32} (h : σ.1 a = some (.inr (ci, fs))) (hk : fs[k]? = some (.int x)) : zgI σ (some a) ci k = some x := by
  simp only [zgI, r_obj h, hk]
theorem r_L {σ : zS} {a ci k : Nat} {fs : List Value} {x : Int64} (h : σ.1 a = some (.inr (ci, fs))) (hk : fs[k]? = some (.long x)) : zgL σ (some a) ci k = some x := by
  simp only [zgL, r_obj h, hk]
theorem r_R {σ : zS} {a ci k : Nat} {fs : List Value} {x : Nat} (h : σ.1 a = some (.inr (ci, fs))) (hk : fs[k]? = some (.ref x)) : zgR σ (some a) ci k = some (some x) := by
  simp only [zgR, r_obj h, hk]
theorem r_N {σ : zS} {a ci k : Nat} {fs : List Value} (h : σ.1 a = some (.inr (ci, fs))) (hk : fs[k]? = some .null) : zgR σ (some a) ci k = some none := by
  simp only [zgR, r_obj h, hk]
theorem r_Q {σ : zS} {a ci k : Nat} {fs : List Value} {x : Option Nat} (h : σ.1 a = some (.inr (ci, fs))) (hk : fs[k]? = some (va_rf x)) : zgR σ (some a) ci k = some x := by
  cases x with
  | none => exact r_N h hk
  | some x => exact r_R h hk
theorem r_c {σ : zS} {a ci : Nat} {fs : List Value} (h : σ.1 a = some (.inr (ci, fs))) : zrc σ (some a) ci = some a := by
  simp only [zrc, h, if_pos]
theorem r_st {σ : zS} {a ci : Nat} {fs : List Value} (h : σ.1 a = some (.inr (ci, fs))) : zcst σ (some a) ci = some () := by
  simp only [zcst, h, if_pos]
theorem r_cl {σ : zS} {a ci : Nat} {fs : List Value} (h : σ.1 a = some (.inr (ci, fs))) : zcls σ (some a) = some ci := by
  simp only [zcls, h]
theorem r_arr {σ : zS} {a t n : Nat} {x : zA} (h : σ.1 a = some (.inl (t, n, x))) : zarr σ (some a) = some (a, t, n, x) := by
  simp only [zarr, h]
theorem n_in {i n : Nat} (h : i < n) (hi : i < 2147483648) : ¬ (nI i < 0 ∨ n ≤ (nI i).toNatClampNeg) := by
  rw [n_cl hi]
  intro q
  rcases q with q | q
  · exact n_neg hi q
  · omega
theorem r_aI {σ : zS} {a t n : Nat} {f : Nat → Int32} (h : σ.1 a = some (.inl (t, n, .inl f))) {i : Nat} (hi : i < n) (hb : i < 2147483648) : zaI σ (some a) t (nI i) = some (f i) := by
  simp only [zaI, r_arr h]
  rw [if_pos ⟨trivial, n_in hi hb⟩, n_cl hb]
theorem r_aL {σ : zS} {a n : Nat} {f : Nat → Int64} (h : σ.1 a = some (.inl (1, n, .inr (.inl f)))) {i : Nat} (hi : i < n) (hb : i < 2147483648) : zaL σ (some a) (nI i) = some (f i) := by
  simp only [zaL, r_arr h]
  rw [if_pos ⟨trivial, n_in hi hb⟩, n_cl hb]
theorem r_aR {σ : zS} {a t n : Nat} {f : Nat → Option Nat} (h : σ.1 a = some (.inl (t, n, .inr (.inr f)))) (ht : 4 ≤ t ∧ t < 7) {i : Nat} (hi : i < n) (hb : i < 2147483648) : zaR σ (some a) (nI i) = some (f i) := by
  simp only [zaR, r_arr h]
  rw [if_pos ⟨ht.1, ht.2, n_in hi hb⟩, n_cl hb]
theorem r_len {σ : zS} {a t n : Nat} {x : zA} (h : σ.1 a = some (.inl (t, n, x))) (ht : t < 7) : zlen σ (some a) = some (nI n) := by
  simp only [zlen, r_arr h]
  rw [if_pos ht]
  rfl
theorem r_cs {σ : zS} {a t n : Nat} {x : zA} (h : σ.1 a = some (.inl (t, n, x))) : zcsA σ (some a) t = some () := by
  simp only [zcsA, r_arr h, if_pos]
/-- writes -/
theorem w_put {G : Nat → Nat} {σ : zS} {a ci k : Nat} {fs : List Value} {v : Value} (h : σ.1 a = some (.inr (ci, fs))) (hG : G 0 ≤ a) (hk : k < fs.length) : zput G σ (some a) ci k v = some (va_up σ.1 a (some (.inr (ci, fs.set k v))), σ.2) := by
  simp only [zput, h]
  rw [if_pos ⟨trivial, hG, hk⟩]
theorem w_putN1 (G : Nat → Nat) (σ : zS) (r : Option Nat) (ci k : Nat) : zputN G σ r ci k .boolean (nI 1) = zput G σ r ci k (.int (nI 1)) := rfl
theorem w_putN0 (G : Nat → Nat) (σ : zS) (r : Option Nat) (ci k : Nat) : zputN G σ r ci k .boolean (nI 0) = zput G σ r ci k (.int (nI 0)) := rfl
theorem w_putNb (G : Nat → Nat) (σ : zS) (r : Option Nat) (ci k : Nat) : zputN G σ r ci k .byte (nI 0) = zput G σ r ci k (.int (nI 0)) := rfl
theorem w_aI {G : Nat → Nat} {σ : zS} {a n : Nat} {f : Nat → Int32} {x : Int32} (h : σ.1 a = some (.inl (0, n, .inl f))) (hG : G 0 ≤ a) {i : Nat} (hi : i < n) (hb : i < 2147483648) : zsI G σ (some a) 0 (nI i) x = some (va_up σ.1 a (some (.inl (0, n, .inl (upd f i x)))), σ.2) := by
  simp only [zsI, r_arr h]
  rw [if_pos ⟨trivial, hG, n_in hi hb⟩, n_cl hb]
  rfl
theorem w_aB {G : Nat → Nat} {σ : zS} {a n : Nat} {f : Nat → Int32} {x : Int32} (h : σ.1 a = some (.inl (2, n, .inl f))) (hG : G 0 ≤ a) {i : Nat} (hi : i < n) (hb : i < 2147483648) : zsI G σ (some a) 2 (nI i) x = some (va_up σ.1 a (some (.inl (2, n, .inl (upd f i x.toInt8.toInt32)))), σ.2) := by
  simp only [zsI, r_arr h]
  rw [if_pos ⟨trivial, hG, n_in hi hb⟩, n_cl hb]
  rfl
theorem w_aZ {G : Nat → Nat} {σ : zS} {a n : Nat} {f : Nat → Int32} {x : Int32} (h : σ.1 a = some (.inl (3, n, .inl f))) (hG : G 0 ≤ a) {i : Nat} (hi : i < n) (hb : i < 2147483648) : zsI G σ (some a) 3 (nI i) x = some (va_up σ.1 a (some (.inl (3, n, .inl (upd f i (x &&& 1))))), σ.2) := by
  simp only [zsI, r_arr h]
  rw [if_pos ⟨trivial, hG, n_in hi hb⟩, n_cl hb]
  rfl
theorem w_aL {G : Nat → Nat} {σ : zS} {a n : Nat} {f : Nat → Int64} {x : Int64} (h : σ.1 a = some (.inl (1, n, .inr (.inl f)))) (hG : G 0 ≤ a) {i : Nat} (hi : i < n) (hb : i < 2147483648) : zsL G σ (some a) (nI i) x = some (va_up σ.1 a (some (.inl (1, n, .inr (.inl (vp_updL f i x))))), σ.2) := by
  simp only [zsL, r_arr h]
  rw [if_pos ⟨trivial, hG, n_in hi hb⟩, n_cl hb]
theorem w_aR {G : Nat → Nat} {σ : zS} {a n : Nat} {f : Nat → Option Nat} {v : Option Nat} {ok : List Nat} (h : σ.1 a = some (.inl (5, n, .inr (.inr f)))) (hG : G 0 ≤ a) {i : Nat} (hi : i < n) (hb : i < 2147483648) (hv : v = none ∨ ∃ c ∈ ok, zcls σ v = some c) : zsR G σ (some a) (nI i) v ok = some (va_up σ.1 a (some (.inl (5, n, .inr (.inr (va_up f i v))))), σ.2) := by
  simp only [zsR, r_arr h]
  rw [if_pos ⟨trivial, hG, n_in hi hb, hv⟩, n_cl hb]
theorem w_newO {G : Nat → Nat} {σ : zS} {ci n : Nat} {fs : List Value} (h1 : σ.2.1 + 1 ≤ G 1) (h2 : σ.2.2 + n ≤ G 2) (h0 : G 0 ≤ σ.2.1) : znewO G σ ci n fs = some (σ.2.1, (va_up σ.1 σ.2.1 (some (.inr (ci, fs))), σ.2.1 + 1, σ.2.2 + n)) := by
  unfold znewO
  rw [if_pos ⟨h1, h2, h0⟩]
theorem w_newA {G : Nat → Nat} {σ : zS} {t n : Nat} {x : zA} (hn : n ≤ 1000000) (h1 : σ.2.1 + 1 ≤ G 1) (h2 : σ.2.2 + n ≤ G 2) (h0 : G 0 ≤ σ.2.1) : znewA G σ t (nI n) x = some (σ.2.1, (va_up σ.1 σ.2.1 (some (.inl (t, n, x))), σ.2.1 + 1, σ.2.2 + n)) := by
  unfold znewA
  rw [n_cl (by omega), if_pos ⟨n_neg (by omega), hn, h1, h2, h0⟩]
theorem w_newM {G : Nat → Nat} {σ : zS} {n k : Nat} (hn : n ≤ 100000) (hk : k ≤ 100000) (h1 : σ.2.1 + 1 + n ≤ G 1) (h2 : σ.2.2 + (n + n * k) ≤ G 2) (h0 : G 0 ≤ σ.2.1) : znewM G σ (nI n) (nI k) = some (σ.2.1, ((fun a => if a = σ.2.1 then some (.inl (4, n, .inr (.inr fun j => some (σ.2.1 + 1 + j)))) else if σ.2.1 < a ∧ a ≤ σ.2.1 + n then some (.inl (0, k, .inl fun _ => 0)) else σ.1 a), σ.2.1 + 1 + n, σ.2.2 + (n + n * k))) := by
  unfold znewM
  rw [n_cl (by omega), n_cl (by omega), if_pos ⟨n_neg (by omega), n_neg (by omega), hn, hk, h1, h2, h0⟩]
/-- between, on ints -/
theorem n_in64 {x : Int32} {a b : Nat} (ha : a < 2147483648) (hb : b < 2147483648) : (x < nI a ∨ nI b < x) ∨ ∃ k : Nat, a ≤ k ∧ k ≤ b ∧ x = nI k := by
  by_cases h : x < nI a
  · exact Or.inl (Or.inl h)
  by_cases h2 : nI b < x
  · exact Or.inl (Or.inr h2)
  have h0 : ¬ x < 0 := fun q => by
    have e1 := Int32.lt_iff_toInt_lt.mp q
    have e2 : ¬ x.toInt < (nI a).toInt := fun z => h (Int32.lt_iff_toInt_lt.mpr z)
    rw [n_int ha] at e2
    have e3 : (0 : Int32).toInt = 0 := by decide
    omega
  obtain ⟨k, hk, rfl⟩ := n_of x h0
  rw [n_lt hk ha] at h
  rw [n_lt hb hk] at h2
  exact Or.inr ⟨k, by omega, by omega, rfl⟩
