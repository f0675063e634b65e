/-! what a program reads and writes: partial functions of the world, and their rows -/
set_option maxRecDepth 100000
def zo {α γ : Type} (x : Option α) (F : α → Option γ) : Option γ := match x with
  | none => none
  | some a => F a
def zb {α β γ : Type} (x : Option (α × β)) (F : α → β → Option γ) : Option γ := match x with
  | none => none
  | some (a, b) => F a b
theorem zo_some {α γ : Type} {x : Option α} {F : α → Option γ} {c : γ} (h : zo x F = some c) : ∃ a, x = some a ∧ F a = some c := by
  cases x with
  | none => cases h
  | some a => exact ⟨a, rfl, h⟩
theorem zb_some {α β γ : Type} {x : Option (α × β)} {F : α → β → Option γ} {c : γ} (h : zb x F = some c) : ∃ a b, x = some (a, b) ∧ F a b = some c := by
  cases x with
  | none => cases h
  | some a => obtain ⟨a, b⟩ := a; exact ⟨a, b, rfl, h⟩
/-- the fields of an object of a class -/
def zobj (σ : zS) (r : Option Nat) (ci : Nat) : Option (List Value) := match r with
  | none => none
  | some a => match σ.1 a with
    | some (.inr (c, fs)) => if c = ci then some fs else none
    | _ => none
theorem zobj_some {σ : zS} {r : Option Nat} {ci : Nat} {fs : List Value} (h : zobj σ r ci = some fs) : ∃ a, r = some a ∧ σ.1 a = some (.inr (ci, fs)) := by
  unfold zobj at h
  split at h
  · cases h
  · rename_i a
    split at h
    · rename_i c f hc
      split at h
      · rename_i e
        subst e
        cases h
        exact ⟨a, rfl, hc⟩
      · cases h
    · cases h
def zgI (σ : zS) (r : Option Nat) (ci k : Nat) : Option Int32 := match zobj σ r ci with
  | some fs => match fs[k]? with
    | some (.int x) => some x
    | _ => none
  | none => none
def zgL (σ : zS) (r : Option Nat) (ci k : Nat) : Option Int64 := match zobj σ r ci with
  | some fs => match fs[k]? with
    | some (.long x) => some x
    | _ => none
  | none => none
def zgR (σ : zS) (r : Option Nat) (ci k : Nat) : Option (Option Nat) := match zobj σ r ci with
  | some fs => match fs[k]? with
    | some (.ref x) => some (some x)
    | some .null => some none
    | _ => none
  | none => none
theorem zgI_some {σ : zS} {r : Option Nat} {ci k : Nat} {x : Int32} (h : zgI σ r ci k = some x) : ∃ a fs, r = some a ∧ σ.1 a = some (.inr (ci, fs)) ∧ fs[k]? = some (.int x) := by
  unfold zgI at h
  split at h
  · rename_i fs hfs
    obtain ⟨a, h1, h2⟩ := zobj_some hfs
    split at h
    · rename_i y hy
      cases h
      exact ⟨a, fs, h1, h2, hy⟩
    · cases h
  · cases h
theorem zgL_some {σ : zS} {r : Option Nat} {ci k : Nat} {x : Int64} (h : zgL σ r ci k = some x) : ∃ a fs, r = some a ∧ σ.1 a = some (.inr (ci, fs)) ∧ fs[k]? = some (.long x) := by
  unfold zgL at h
  split at h
  · rename_i fs hfs
    obtain ⟨a, h1, h2⟩ := zobj_some hfs
    split at h
    · rename_i y hy
      cases h
      exact ⟨a, fs, h1, h2, hy⟩
    · cases h
  · cases h
theorem zgR_some {σ : zS} {r : Option Nat} {ci k : Nat} {x : Option Nat} (h : zgR σ r ci k = some x) : ∃ a fs, r = some a ∧ σ.1 a = some (.inr (ci, fs)) ∧ fs[k]? = some (va_rf x) := by
  unfold zgR at h
  split at h
  · rename_i fs hfs
    obtain ⟨a, h1, h2⟩ := zobj_some hfs
    split at h
    · rename_i y hy
      cases h
      exact ⟨a, fs, h1, h2, hy⟩
    · rename_i hy
      cases h
      exact ⟨a, fs, h1, h2, hy⟩
    · cases h
  · cases h
def zput (G : Nat → Nat) (σ : zS) (r : Option Nat) (ci k : Nat) (v : Value) : Option zS := match r with
  | none => none
  | some a => match σ.1 a with
    | some (.inr (c, fs)) => if c = ci ∧ G 0 ≤ a ∧ k < fs.length then some (va_up σ.1 a (some (.inr (c, fs.set k v))), σ.2) else none
    | _ => none
theorem zput_some {G : Nat → Nat} {σ σ' : zS} {r : Option Nat} {ci k : Nat} {v : Value} (h : zput G σ r ci k v = some σ') : ∃ a fs, r = some a ∧ σ.1 a = some (.inr (ci, fs)) ∧ G 0 ≤ a ∧ k < fs.length ∧ σ' = (va_up σ.1 a (some (.inr (ci, fs.set k v))), σ.2) := by
  unfold zput at h
  split at h
  · cases h
  · rename_i a
    split at h
    · rename_i c fs hc
      split at h
      · rename_i q
        obtain ⟨rfl, q2, q3⟩ := q
        cases h
        exact ⟨a, fs, rfl, hc, q2, q3, rfl⟩
      · cases h
    · cases h
/-- a field of a narrow type -/
def zputN (G : Nat → Nat) (σ : zS) (r : Option Nat) (ci k : Nat) (ty : FieldType) (x : Int32) : Option zS := if fits ty (.int x) = true then zput G σ r ci k (.int x) else none
/-- an array's contents -/
def zarr (σ : zS) (r : Option Nat) : Option (Nat × Nat × Nat × zA) := match r with
  | none => none
  | some a => match σ.1 a with
    | some (.inl (t, n, x)) => some (a, t, n, x)
    | _ => none
theorem zarr_some {σ : zS} {r : Option Nat} {a t n : Nat} {x : zA} (h : zarr σ r = some (a, t, n, x)) : r = some a ∧ σ.1 a = some (.inl (t, n, x)) := by
  unfold zarr at h
  split at h
  · cases h
  · split at h
    · rename_i hc
      cases h
      exact ⟨rfl, hc⟩
    · cases h
def zaI (σ : zS) (r : Option Nat) (t : Nat) (i : Int32) : Option Int32 := match zarr σ r with
  | some (_, t', n, .inl f) => if t' = t ∧ ¬ (i < 0 ∨ n ≤ i.toNatClampNeg) then some (f i.toNatClampNeg) else none
  | _ => none
def zaL (σ : zS) (r : Option Nat) (i : Int32) : Option Int64 := match zarr σ r with
  | some (_, t', n, .inr (.inl f)) => if t' = 1 ∧ ¬ (i < 0 ∨ n ≤ i.toNatClampNeg) then some (f i.toNatClampNeg) else none
  | _ => none
def zaR (σ : zS) (r : Option Nat) (i : Int32) : Option (Option Nat) := match zarr σ r with
  | some (_, t', n, .inr (.inr f)) => if 4 ≤ t' ∧ t' < 7 ∧ ¬ (i < 0 ∨ n ≤ i.toNatClampNeg) then some (f i.toNatClampNeg) else none
  | _ => none
def zlen (σ : zS) (r : Option Nat) : Option Int32 := match zarr σ r with
  | some (_, t, n, _) => if t < 7 then some (Int32.ofNat n) else none
  | none => none
/-- what a store of an int leaves in an array of a kind -/
def znr (t : Nat) (x : Int32) : Int32 := if t = 2 then x.toInt8.toInt32 else if t = 3 then x &&& 1 else x
def zsI (G : Nat → Nat) (σ : zS) (r : Option Nat) (t : Nat) (i x : Int32) : Option zS := match zarr σ r with
  | some (a, t', n, .inl f) => if t' = t ∧ G 0 ≤ a ∧ ¬ (i < 0 ∨ n ≤ i.toNatClampNeg) then some (va_up σ.1 a (some (.inl (t', n, .inl (upd f i.toNatClampNeg (znr t x))))), σ.2) else none
  | _ => none
def zsL (G : Nat → Nat) (σ : zS) (r : Option Nat) (i : Int32) (x : Int64) : Option zS := match zarr σ r with
  | some (a, t', n, .inr (.inl f)) => if t' = 1 ∧ G 0 ≤ a ∧ ¬ (i < 0 ∨ n ≤ i.toNatClampNeg) then some (va_up σ.1 a (some (.inl (t', n, .inr (.inl (vp_updL f i.toNatClampNeg x))))), σ.2) else none
  | _ => none
/-- a class by the table of classes, of an object; its number -/
def zcls (σ : zS) (r : Option Nat) : Option Nat := match r with
  | none => none
  | some a => match σ.1 a with
    | some (.inr (c, _)) => some c
    | _ => none
/-- a receiver of a class -/
def zrc (σ : zS) (r : Option Nat) (ci : Nat) : Option Nat := match r with
  | none => none
  | some a => match σ.1 a with
    | some (.inr (c, _)) => if c = ci then some a else none
    | _ => none
theorem zrc_some {σ : zS} {r : Option Nat} {ci a : Nat} (h : zrc σ r ci = some a) : r = some a ∧ ∃ fs, σ.1 a = some (.inr (ci, fs)) := by
  unfold zrc at h
  split at h
  · cases h
  · split at h
    · rename_i c fs hc
      split at h
      · rename_i e
        subst e
        cases h
        exact ⟨rfl, fs, hc⟩
      · cases h
    · cases h
/-- a reference into an array of Objects: an object of one of the classes that the tables say castable -/
def zsR (G : Nat → Nat) (σ : zS) (r : Option Nat) (i : Int32) (v : Option Nat) (ok : List Nat) : Option zS := match zarr σ r with
  | some (a, t', n, .inr (.inr f)) => if t' = 5 ∧ G 0 ≤ a ∧ ¬ (i < 0 ∨ n ≤ i.toNatClampNeg) ∧ (v = none ∨ ∃ c ∈ ok, zcls σ v = some c) then some (va_up σ.1 a (some (.inl (t', n, .inr (.inr (va_up f i.toNatClampNeg v))))), σ.2) else none
  | _ => none
/-- new cells -/
def znewO (G : Nat → Nat) (σ : zS) (ci n : Nat) (fs : List Value) : Option (Nat × zS) := if σ.2.1 + 1 ≤ G 1 ∧ σ.2.2 + n ≤ G 2 ∧ G 0 ≤ σ.2.1 then some (σ.2.1, (va_up σ.1 σ.2.1 (some (.inr (ci, fs))), σ.2.1 + 1, σ.2.2 + n)) else none
def znewA (G : Nat → Nat) (σ : zS) (t : Nat) (n : Int32) (x : zA) : Option (Nat × zS) := if ¬ n < 0 ∧ n.toNatClampNeg ≤ 1000000 ∧ σ.2.1 + 1 ≤ G 1 ∧ σ.2.2 + n.toNatClampNeg ≤ G 2 ∧ G 0 ≤ σ.2.1 then some (σ.2.1, (va_up σ.1 σ.2.1 (some (.inl (t, n.toNatClampNeg, x))), σ.2.1 + 1, σ.2.2 + n.toNatClampNeg)) else none
