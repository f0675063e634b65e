/-! Math.max, min -/
set_option maxRecDepth 100000
section ZMATH
variable {X : zX} {own : String} {cc : ByteArray} {ret : Option FieldType} {fr lo : Nat} {σ : zS} {pc : Nat} {lv lv' : List (Nat × zV)} {rest st : List zV}
theorem z_mroom (h : ZC X own cc ret fr lo) {H : Heap} {locs : List Loc} (hR : ZR X.g σ H) (hS : va_S (zFr X.g) X.s.heap H locs) : H.size - X.s.heap.size ≤ X.R.cells ∧ zt H - zt X.s.heap ≤ X.R.slots := by
  have hR9 : X.R = _ := h.room
  obtain ⟨r1, r2, r3, r4, r5⟩ := hR
  rw [hR9]
  constructor
  · show _ ≤ X.g.1 1 - X.s.heap.size
    omega
  · show _ ≤ X.g.1 2 - zt X.s.heap
    omega
theorem z_mmax (h : ZC X own cc ret fr lo) {i : Nat} (hlk : Cond.methodLink own i Lib.Math.max.name ∈ lw_all) (hst : Cond.static Lib.Math.max.name ∈ lw_all) (hini : Cond.initialized "java/lang/Math" ∈ lw_all) (hcd : Cond.code Lib.Math.max.name Lib.Math.max.code 2 (some .int) ∈ lw_all) (hfr : 1 ≤ fr) (hlo : (rest.map zc).sum + 13 ≤ lo) {x y : Int32} (d : decode cc pc = .ok (.invokestatic i, 3)) (kk : ZW X σ (pc + 3) lv (zi (if x < y then y else x) :: rest)) : ZW X σ pc lv (zi y :: zi x :: rest) := fun H locs ls hR hS hl => va_mmax h.x h.b (h.ml.trans hl.1.symm) h.ow (h.ts _ hlk) (h.ts _ hst) (h.ts _ hini) (h.ts _ hcd) (by rw [h.room]; exact hfr) (by rw [h.room, zcs_eq]; exact hlo) (z_mroom h hR hS).1 (z_mroom h hR hS).2 d (kk H locs ls hR hS hl)
theorem z_mmin (h : ZC X own cc ret fr lo) {i : Nat} (hlk : Cond.methodLink own i Lib.Math.min.name ∈ lw_all) (hst : Cond.static Lib.Math.min.name ∈ lw_all) (hini : Cond.initialized "java/lang/Math" ∈ lw_all) (hcd : Cond.code Lib.Math.min.name Lib.Math.min.code 2 (some .int) ∈ lw_all) (hfr : 1 ≤ fr) (hlo : (rest.map zc).sum + 13 ≤ lo) {x y : Int32} (d : decode cc pc = .ok (.invokestatic i, 3)) (kk : ZW X σ (pc + 3) lv (zi (if y < x then y else x) :: rest)) : ZW X σ pc lv (zi y :: zi x :: rest) := fun H locs ls hR hS hl => va_mmin h.x h.b (h.ml.trans hl.1.symm) h.ow (h.ts _ hlk) (h.ts _ hst) (h.ts _ hini) (h.ts _ hcd) (by rw [h.room]; exact hfr) (by rw [h.room, zcs_eq]; exact hlo) (z_mroom h hR hS).1 (z_mroom h hR hS).2 d (kk H locs ls hR hS hl)
theorem z_mmaxL (h : ZC X own cc ret fr lo) {i : Nat} (hlk : Cond.methodLink own i Lib.MathLoose.max_long.x ∈ lw_all) (hst : Cond.static Lib.MathLoose.max_long.x ∈ lw_all) (hini : Cond.initialized "java/lang/Math" ∈ lw_all) (hcd : Cond.code Lib.MathLoose.max_long.x Lib.MathLoose.max_long.code 4 (some .long) ∈ lw_all) (hfr : 1 ≤ fr) (hlo : (rest.map zc).sum + 15 ≤ lo) {x y : Int64} (d : decode cc pc = .ok (.invokestatic i, 3)) (kk : ZW X σ (pc + 3) lv (zj (if y < x then x else y) :: rest)) : ZW X σ pc lv (zj y :: zj x :: rest) := fun H locs ls hR hS hl => va_mmax_long h.x h.b (h.ml.trans hl.1.symm) h.ow (h.ts _ hlk) (h.ts _ hst) (h.ts _ hini) (h.ts _ hcd) (by rw [h.room]; exact hfr) (by rw [h.room, zcs_eq]; exact hlo) (z_mroom h hR hS).1 (z_mroom h hR hS).2 d (kk H locs ls hR hS hl)
theorem z_mminL (h : ZC X own cc ret fr lo) {i : Nat} (hlk : Cond.methodLink own i Lib.MathLoose.min_long.x ∈ lw_all) (hst : Cond.static Lib.MathLoose.min_long.x ∈ lw_all) (hini : Cond.initialized "java/lang/Math" ∈ lw_all) (hcd : Cond.code Lib.MathLoose.min_long.x Lib.MathLoose.min_long.code 4 (some .long) ∈ lw_all) (hfr : 1 ≤ fr) (hlo : (rest.map zc).sum + 15 ≤ lo) {x y : Int64} (d : decode cc pc = .ok (.invokestatic i, 3)) (kk : ZW X σ (pc + 3) lv (zj (if y < x then y else x) :: rest)) : ZW X σ pc lv (zj y :: zj x :: rest) := fun H locs ls hR hS hl => va_mmin_long h.x h.b (h.ml.trans hl.1.symm) h.ow (h.ts _ hlk) (h.ts _ hst) (h.ts _ hini) (h.ts _ hcd) (by rw [h.room]; exact hfr) (by rw [h.room, zcs_eq]; exact hlo) (z_mroom h hR hS).1 (z_mroom h hR hS).2 d (kk H locs ls hR hS hl)
/-- the script's reads -/
def zscr (L : Nat) (xs : Nat → Int32) (i : Int32) : Option Int32 := if i < 0 ∨ L ≤ i.toNatClampNeg then none else some (xs i.toNatClampNeg)
theorem z_scr (h : ZC X own cc ret fr lo) {b L : Nat} {xs : Nat → Int32} (hX : va_X b L xs X.s X.s.heap) (hbl : b < X.g.1 0) (d : decode cc pc = .ok (.iaload, 1)) {i : Int32} {γ : Type} {F : Int32 → Option γ} {out : γ} (hf : zo (zscr L xs i) F = some out) (kk : ∀ v, F v = some out → ZW X σ (pc + 1) lv (zi v :: rest)) : ZW X σ pc lv (zi i :: zr (some b) :: rest) := by
  obtain ⟨v, h1, h2⟩ := zo_some hf
  unfold zscr at h1
  split at h1
  · cases h1
  · rename_i hin
    cases h1
    exact z_sld h hX hbl d hin (kk _ h2)
/-- the law's end -/
theorem z_lawret {r v : Int32} {σ' : zS} (hE : r = 1 ∧ ∀ σ pc lv, decode cL_law pc = .ok (.ireturn, 1) → ZW X σ pc lv [zi 1]) (d : decode cL_law pc = .ok (.ireturn, 1)) (hf : some (v, σ) = some (r, σ')) : ZW X σ pc lv [zi v] := by
  obtain ⟨h1, h2⟩ := hE
  cases hf
  rw [h1]
  exact h2 _ _ _ d
end ZMATH
