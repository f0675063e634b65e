/-! the rows of arrays and of new cells -/
set_option maxRecDepth 100000
section ZARR
variable {X : zX} {own : String} {cc : ByteArray} {ret : Option FieldType} {fr lo : Nat} {σ : zS} {pc : Nat} {lv lv' : List (Nat × zV)} {rest st : List zV}
theorem z_fits {ty : FieldType} {x : Int32} (hty : ty = .boolean ∨ ty = .byte ∨ ty = .int) (hf : fits ty (.int x) = true) : narrow ty (.int x) = .int x := by
  rcases hty with rfl | rfl | rfl
  · simp only [fits, Bool.or_eq_true, beq_iff_eq] at hf
    rcases hf with rfl | rfl <;> rfl
  · simp only [fits, Bool.and_eq_true, decide_eq_true_eq] at hf
    obtain ⟨h1, h2⟩ := hf
    show Value.int x.toInt8.toInt32 = .int x
    congr 1
    rw [Int32.le_iff_toInt_le] at h1 h2
    have h3 : (-128 : Int32).toInt = -128 := by decide
    have h4 : (127 : Int32).toInt = 127 := by decide
    rw [h3] at h1
    rw [h4] at h2
    apply Int32.toInt_inj.mp
    rw [Int8.toInt_toInt32, Int32.toInt_toInt8, Int.bmod_eq_of_le (by omega) (by omega)]
  · rfl
theorem z_putN (h : ZC X own cc ret fr lo) {ref C : String} {T : u_T} {N ci i : Nat} (hin : ∀ w ∈ u_ws C T N, w ∈ lw_all) (ty0 : Nat → FieldType) (hty : ∀ k, k < N → parseFieldDescriptor (T k).2.2.1 = some (ty0 k)) (hnm : ∀ a, a < N → ∀ b, b < N → a ≠ b → (T a).2.1 ≠ (T b).2.1) (hc : zcl[ci]? = some (C, T, N)) (k : Nat) (hk : k < N) (hl : zLk X own i ref (T k).2.1 (T k).2.2.1) (hsame : ∀ x, X.s.fieldFound? (T k).1 (T k).2.1 (T k).2.2.1 = some x → X.s.fieldFound? ref (T k).2.1 (T k).2.2.1 = some x) (hfin : (T k).2.2.2 = false ∨ ((T k).2.2.2 = true ∧ X.meth.name = "<init>" ∧ (T k).1 = own ∧ ref = own)) {x : Int32} (ht : ty0 k = .boolean ∨ ty0 k = .byte ∨ ty0 k = .int) (d : decode cc pc = .ok (.putfield i, 3)) {r : Option Nat} {γ : Type} {F : zS → Option γ} {out : γ} (hf : zo (zputN X.g.1 σ r ci k (ty0 k) x) F = some out)
    (kk : ∀ σ', F σ' = some out → ZW X σ' (pc + 3) lv rest) : ZW X σ pc lv (zi x :: zr r :: rest) := by
  unfold zputN at hf
  by_cases hq : fits (ty0 k) (.int x) = true
  · rw [if_pos hq] at hf
    exact z_putV (v := zi x) h hin ty0 hty hnm hc k hk hl hsame hfin (z_fits ht hq) hq d hf kk
  · rw [if_neg hq] at hf
    cases hf
theorem z_arr (h : ZC X own cc ret fr lo) {t : Nat} {ty : FieldType} (ht : ztys[t]? = some ty) {cell : Cell} (h2 : ∀ k, cell.vm ≠ .statics k) (h5 : cell.cls = X.g.2.2.1 t) : X.s.isArrayOf cell ty := by
  obtain ⟨k, comp, a1, a2, -, -⟩ := h.K.2 t ty ht
  exact ⟨h2, k, by rw [h5]; exact a1, comp, a2⟩

theorem z_iald (h : ZC X own cc ret fr lo) (d : decode cc pc = .ok (.iaload, 1)) {r : Option Nat} {i : Int32} {γ : Type} {F : Int32 → Option γ} {out : γ} (hf : zo (zaI σ r 0 i) F = some out)
    (kk : ∀ x : Int32, F x = some out → ZW X σ (pc + 1) lv (zi x :: rest)) : ZW X σ pc lv (zi i :: zr r :: rest) := by
  obtain ⟨x, h1, h2⟩ := zo_some hf
  unfold zaI at h1
  split at h1
  · rename_i a t' n f hz
    obtain ⟨rfl, ha⟩ := zarr_some hz
    split at h1
    · rename_i q
      obtain ⟨rfl, hin⟩ := q
      cases h1
      intro H locs ls hR hS hl2
      obtain ⟨cell, q1, q2, q3, q4, q5, q6, q7, q8⟩ := hR.2.2.2.2 a _ ha
      have hlt : i.toNatClampNeg < n := Nat.not_le.mp fun z => hin (Or.inr z)
      exact W.iald (v := .int (f i.toNatClampNeg)) h.x h.b q1 (z_arr h (t := 0) rfl q2 q5) q3 (by rw [q6]; exact hin) (q8 _ hlt) rfl rfl d (kk _ h2 H locs ls hR hS hl2)
    · cases h1
  · cases h1
theorem z_bald (h : ZC X own cc ret fr lo) (d : decode cc pc = .ok (.baload, 1)) {r : Option Nat} {i : Int32} {γ : Type} {F : Int32 → Option γ} {out : γ} (hf : zo (zaI σ r 2 i) F = some out)
    (kk : ∀ x : Int32, F x = some out → ZW X σ (pc + 1) lv (zi x :: rest)) : ZW X σ pc lv (zi i :: zr r :: rest) := by
  obtain ⟨x, h1, h2⟩ := zo_some hf
  unfold zaI at h1
  split at h1
  · rename_i a t' n f hz
    obtain ⟨rfl, ha⟩ := zarr_some hz
    split at h1
    · rename_i q
      obtain ⟨rfl, hin⟩ := q
      cases h1
      intro H locs ls hR hS hl2
      obtain ⟨cell, q1, q2, q3, q4, q5, q6, q7, q8⟩ := hR.2.2.2.2 a _ ha
      have hlt : i.toNatClampNeg < n := Nat.not_le.mp fun z => hin (Or.inr z)
      exact W.bald (v := .int (f i.toNatClampNeg)) h.x h.b q1 (z_arr h (t := 2) rfl q2 q5) q3 (by rw [q6]; exact hin) (q8 _ hlt) rfl rfl d (kk _ h2 H locs ls hR hS hl2)
    · cases h1
  · cases h1
theorem z_zald (h : ZC X own cc ret fr lo) (d : decode cc pc = .ok (.baload, 1)) {r : Option Nat} {i : Int32} {γ : Type} {F : Int32 → Option γ} {out : γ} (hf : zo (zaI σ r 3 i) F = some out)
    (kk : ∀ x : Int32, F x = some out → ZW X σ (pc + 1) lv (zi x :: rest)) : ZW X σ pc lv (zi i :: zr r :: rest) := by
  obtain ⟨x, h1, h2⟩ := zo_some hf
  unfold zaI at h1
  split at h1
  · rename_i a t' n f hz
    obtain ⟨rfl, ha⟩ := zarr_some hz
    split at h1
    · rename_i q
      obtain ⟨rfl, hin⟩ := q
      cases h1
      intro H locs ls hR hS hl2
      obtain ⟨cell, q1, q2, q3, q4, q5, q6, q7, q8⟩ := hR.2.2.2.2 a _ ha
      have hlt : i.toNatClampNeg < n := Nat.not_le.mp fun z => hin (Or.inr z)
      exact W.zald (v := .int (f i.toNatClampNeg)) h.x h.b q1 (z_arr h (t := 3) rfl q2 q5) q3 (by rw [q6]; exact hin) (q8 _ hlt) rfl rfl d (kk _ h2 H locs ls hR hS hl2)
    · cases h1
  · cases h1
theorem z_lald (h : ZC X own cc ret fr lo) (d : decode cc pc = .ok (.laload, 1)) {r : Option Nat} {i : Int32} {γ : Type} {F : Int64 → Option γ} {out : γ} (hf : zo (zaL σ r i) F = some out)
    (kk : ∀ x : Int64, F x = some out → ZW X σ (pc + 1) lv (zj x :: rest)) : ZW X σ pc lv (zi i :: zr r :: rest) := by
  obtain ⟨x, h1, h2⟩ := zo_some hf
  unfold zaL at h1
  split at h1
  · rename_i a t' n f hz
    obtain ⟨rfl, ha⟩ := zarr_some hz
    split at h1
    · rename_i q
      obtain ⟨rfl, hin⟩ := q
      cases h1
      intro H locs ls hR hS hl2
      obtain ⟨cell, q1, q2, q3, q4, q5, q6, q7, q8⟩ := hR.2.2.2.2 a _ ha
      have hlt : i.toNatClampNeg < n := Nat.not_le.mp fun z => hin (Or.inr z)
      exact W.lald (v := .long (f i.toNatClampNeg)) h.x h.b q1 (z_arr h (t := 1) rfl q2 q5) q3 (by rw [q6]; exact hin) (q8 _ hlt) rfl rfl d (kk _ h2 H locs ls hR hS hl2)
    · cases h1
  · cases h1
theorem z_ref {t : Nat} (h4 : 4 ≤ t) (h7 : t < 7) : ∃ ty : FieldType, ztys[t]? = some ty ∧ ty.isReference = true := by
  rcases (show t = 4 ∨ t = 5 ∨ t = 6 by omega) with rfl | rfl | rfl
  · exact ⟨_, rfl, rfl⟩
  · exact ⟨_, rfl, rfl⟩
  · exact ⟨_, rfl, rfl⟩
theorem z_any {t : Nat} (h7 : t < 7) : ∃ ty : FieldType, ztys[t]? = some ty := by
  have : t < ztys.length := h7
  exact ⟨_, List.getElem?_eq_getElem this⟩
theorem z_aald (h : ZC X own cc ret fr lo) (d : decode cc pc = .ok (.aaload, 1)) {r : Option Nat} {i : Int32} {γ : Type} {F : Option Nat → Option γ} {out : γ} (hf : zo (zaR σ r i) F = some out)
    (kk : ∀ x : Option Nat, F x = some out → ZW X σ (pc + 1) lv (zr x :: rest)) : ZW X σ pc lv (zi i :: zr r :: rest) := by
  obtain ⟨x, h1, h2⟩ := zo_some hf
  unfold zaR at h1
  split at h1
  · rename_i a t' n f hz
    obtain ⟨rfl, ha⟩ := zarr_some hz
    split at h1
    · rename_i q
      obtain ⟨h4, h7, hin⟩ := q
      cases h1
      intro H locs ls hR hS hl2
      obtain ⟨cell, q1, q2, q3, q4, q5, q6, q7, q8⟩ := hR.2.2.2.2 a _ ha
      have hlt : i.toNatClampNeg < n := Nat.not_le.mp fun z => hin (Or.inr z)
      obtain ⟨ty, e1, e2⟩ := z_ref h4 h7
      exact W.aald (v := va_rf (f i.toNatClampNeg)) h.x h.b q1 (z_arr h e1 q2 q5) e2 q3 (by rw [q6]; exact hin) (q8 _ hlt) rfl rfl d (kk _ h2 H locs ls hR hS hl2)
    · cases h1
  · cases h1
theorem z_alen (h : ZC X own cc ret fr lo) (d : decode cc pc = .ok (.arraylength, 1)) {r : Option Nat} {γ : Type} {F : Int32 → Option γ} {out : γ} (hf : zo (zlen σ r) F = some out)
    (kk : ∀ x : Int32, F x = some out → ZW X σ (pc + 1) lv (zi x :: rest)) : ZW X σ pc lv (zr r :: rest) := by
  obtain ⟨x, h1, h2⟩ := zo_some hf
  unfold zlen at h1
  split at h1
  · rename_i a t n y hz
    obtain ⟨rfl, ha⟩ := zarr_some hz
    split at h1
    · rename_i h7
      cases h1
      intro H locs ls hR hS hl2
      obtain ⟨cell, q1, q2, q3, q4, q5, q6, q7, q8⟩ := hR.2.2.2.2 a _ ha
      obtain ⟨ty, e1⟩ := z_any h7
      exact W.alen (n := Int32.ofNat n) h.x h.b q1 (z_arr h e1 q2 q5) (by rw [q6] <;> rfl) rfl rfl d (kk _ h2 H locs ls hR hS hl2)
    · cases h1
  · cases h1
/-- the cell behind a store into an array -/
theorem zat_store {Γ : zG} {a t n j : Nat} {x y : zA} {v : Value} {cell : Cell} {H1 : Heap} (g2 : ∀ k, cell.vm ≠ .statics k) (g3 : cell.vm ≠ .unknown) (g4 : Γ.1 0 ≤ a → cell.vm = .none) (g5 : cell.cls = Γ.2.2.1 t) (g6 : cell.slots.size = n) (g7 : n < 2 ^ 31) (g8 : ∀ j : Nat, j < n → cell.slots[j]? = some (zcv x j)) (hj : j < n) (hy : ∀ i : Nat, i < n → zcv y i = if i = j then v else zcv x i) (e1 : H1[a]? = some (cell.setSlot j v)) : zat Γ a (.inl (t, n, y)) H1 := by
  refine ⟨_, e1, g2, g3, g4, g5, by rw [k2_slotsz]; exact g6, g7, fun i hi => ?_⟩
  rw [setSlot_get (by omega), hy i hi]
  by_cases hij : i = j
  · rw [if_pos hij, if_pos hij]
  · rw [if_neg hij, if_neg hij, g8 i hi]
theorem z_iast (h : ZC X own cc ret fr lo) (d : decode cc pc = .ok (.iastore, 1)) {r : Option Nat} {i x : Int32} {γ : Type} {F : zS → Option γ} {out : γ} (hf : zo (zsI X.g.1 σ r 0 i x) F = some out)
    (kk : ∀ σ', F σ' = some out → ZW X σ' (pc + 1) lv rest) : ZW X σ pc lv (zi x :: zi i :: zr r :: rest) := by
  obtain ⟨σ', h1, h2⟩ := zo_some hf
  unfold zsI at h1
  split at h1
  · rename_i a t' n f hz
    obtain ⟨rfl, ha⟩ := zarr_some hz
    split at h1
    · rename_i q
      obtain ⟨rfl, hA, hin⟩ := q
      cases h1
      intro H locs ls hR hS hl2
      obtain ⟨cell, q1, q2, q3, q4, q5, q6, q7, q8⟩ := hR.2.2.2.2 a _ ha
      have hlt : i.toNatClampNeg < n := Nat.not_le.mp fun z => hin (Or.inr z)
      refine W.iast h.x h.b q1 (z_arr h (t := 0) rfl q2 q5) q3 (by rw [q6]; exact hin) rfl rfl d fun H1 e1 e2 e3 => ?_
      have hzt := zt_set e2 e3 q1 e1 (k2_slotsz _ _ _)
      have := kk _ h2 H1 (locs ++ [⟨a, i.toNatClampNeg⟩]) ls (hR.set e2 e3 hzt (zat_store q2 q3 q4 q5 q6 q7 q8 hlt (fun j hj => by
        by_cases hji : j = i.toNatClampNeg
        · subst hji; simp [zcv, upd, znr, narrow]
        · simp [zcv, upd, hji]) e1)) (hS.put e2 e3 hA) hl2
      unfold zw at this
      rw [e2, hzt] at this
      exact this
    · cases h1
  · cases h1
theorem z_bast (h : ZC X own cc ret fr lo) (d : decode cc pc = .ok (.bastore, 1)) {r : Option Nat} {i x : Int32} {γ : Type} {F : zS → Option γ} {out : γ} (hf : zo (zsI X.g.1 σ r 2 i x) F = some out)
    (kk : ∀ σ', F σ' = some out → ZW X σ' (pc + 1) lv rest) : ZW X σ pc lv (zi x :: zi i :: zr r :: rest) := by
  obtain ⟨σ', h1, h2⟩ := zo_some hf
  unfold zsI at h1
  split at h1
  · rename_i a t' n f hz
    obtain ⟨rfl, ha⟩ := zarr_some hz
    split at h1
    · rename_i q
      obtain ⟨rfl, hA, hin⟩ := q
      cases h1
      intro H locs ls hR hS hl2
      obtain ⟨cell, q1, q2, q3, q4, q5, q6, q7, q8⟩ := hR.2.2.2.2 a _ ha
      have hlt : i.toNatClampNeg < n := Nat.not_le.mp fun z => hin (Or.inr z)
      refine W.bast h.x h.b q1 (z_arr h (t := 2) rfl q2 q5) q3 (by rw [q6]; exact hin) rfl rfl d fun H1 e1 e2 e3 => ?_
      have hzt := zt_set e2 e3 q1 e1 (k2_slotsz _ _ _)
      have := kk _ h2 H1 (locs ++ [⟨a, i.toNatClampNeg⟩]) ls (hR.set e2 e3 hzt (zat_store q2 q3 q4 q5 q6 q7 q8 hlt (fun j hj => by
        by_cases hji : j = i.toNatClampNeg
        · subst hji; simp [zcv, upd, znr, narrow]
        · simp [zcv, upd, hji]) e1)) (hS.put e2 e3 hA) hl2
      unfold zw at this
      rw [e2, hzt] at this
      exact this
    · cases h1
  · cases h1
theorem z_zast (h : ZC X own cc ret fr lo) (d : decode cc pc = .ok (.bastore, 1)) {r : Option Nat} {i x : Int32} {γ : Type} {F : zS → Option γ} {out : γ} (hf : zo (zsI X.g.1 σ r 3 i x) F = some out)
    (kk : ∀ σ', F σ' = some out → ZW X σ' (pc + 1) lv rest) : ZW X σ pc lv (zi x :: zi i :: zr r :: rest) := by
  obtain ⟨σ', h1, h2⟩ := zo_some hf
  unfold zsI at h1
  split at h1
  · rename_i a t' n f hz
    obtain ⟨rfl, ha⟩ := zarr_some hz
    split at h1
    · rename_i q
      obtain ⟨rfl, hA, hin⟩ := q
      cases h1
      intro H locs ls hR hS hl2
      obtain ⟨cell, q1, q2, q3, q4, q5, q6, q7, q8⟩ := hR.2.2.2.2 a _ ha
      have hlt : i.toNatClampNeg < n := Nat.not_le.mp fun z => hin (Or.inr z)
      refine W.zast h.x h.b q1 (z_arr h (t := 3) rfl q2 q5) q3 (by rw [q6]; exact hin) rfl rfl d fun H1 e1 e2 e3 => ?_
      have hzt := zt_set e2 e3 q1 e1 (k2_slotsz _ _ _)
      have := kk _ h2 H1 (locs ++ [⟨a, i.toNatClampNeg⟩]) ls (hR.set e2 e3 hzt (zat_store q2 q3 q4 q5 q6 q7 q8 hlt (fun j hj => by
        by_cases hji : j = i.toNatClampNeg
        · subst hji; simp [zcv, upd, znr, narrow]
        · simp [zcv, upd, hji]) e1)) (hS.put e2 e3 hA) hl2
      unfold zw at this
      rw [e2, hzt] at this
      exact this
    · cases h1
  · cases h1
theorem z_last (h : ZC X own cc ret fr lo) (d : decode cc pc = .ok (.lastore, 1)) {r : Option Nat} {i : Int32} {x : Int64} {γ : Type} {F : zS → Option γ} {out : γ} (hf : zo (zsL X.g.1 σ r i x) F = some out)
    (kk : ∀ σ', F σ' = some out → ZW X σ' (pc + 1) lv rest) : ZW X σ pc lv (zj x :: zi i :: zr r :: rest) := by
  obtain ⟨σ', h1, h2⟩ := zo_some hf
  unfold zsL at h1
  split at h1
  · rename_i a t' n f hz
    obtain ⟨rfl, ha⟩ := zarr_some hz
    split at h1
    · rename_i q
      obtain ⟨rfl, hA, hin⟩ := q
      cases h1
      intro H locs ls hR hS hl2
      obtain ⟨cell, q1, q2, q3, q4, q5, q6, q7, q8⟩ := hR.2.2.2.2 a _ ha
      have hlt : i.toNatClampNeg < n := Nat.not_le.mp fun z => hin (Or.inr z)
      refine W.last h.x h.b q1 (z_arr h (t := 1) rfl q2 q5) q3 (by rw [q6]; exact hin) rfl rfl d fun H1 e1 e2 e3 => ?_
      have hzt := zt_set e2 e3 q1 e1 (k2_slotsz _ _ _)
      have := kk _ h2 H1 (locs ++ [⟨a, i.toNatClampNeg⟩]) ls (hR.set e2 e3 hzt (zat_store q2 q3 q4 q5 q6 q7 q8 hlt (fun j hj => by
        by_cases hji : j = i.toNatClampNeg
        · subst hji; simp [zcv, vp_updL]
        · simp [zcv, vp_updL, hji]) e1)) (hS.put e2 e3 hA) hl2
      unfold zw at this
      rw [e2, hzt] at this
      exact this
    · cases h1
  · cases h1
/-- new cells: what holds behind them -/
theorem ZR.push {Γ : zG} {σ : zS} {H H1 : Heap} {e : zE} {n : Nat} {c : Cell} (hR : ZR Γ σ H) (hz : H1.size = H.size + 1) (ho : ∀ q : Nat, q < H.size → H1[q]? = H[q]?) (hc : H1[H.size]? = some c) (hn : c.slots.size = n) (l1 : σ.2.1 + 1 ≤ Γ.1 1) (l2 : σ.2.2 + n ≤ Γ.1 2) (he : zat Γ H.size e H1) : ZR Γ (va_up σ.1 σ.2.1 (some e), σ.2.1 + 1, σ.2.2 + n) H1 ∧ zt H1 = zt H + n := by
  have ht := zt_push hz ho hc
  rw [hn] at ht
  obtain ⟨r1, r2, r3, r4, r5⟩ := hR
  refine ⟨⟨by show H1.size = σ.2.1 + 1; omega, by show zt H1 ≤ σ.2.2 + n; omega, l1, l2, fun b e2 hb => ?_⟩, ht⟩
  have hb : va_up σ.1 σ.2.1 (some e) b = some e2 := hb
  by_cases hba : b = σ.2.1
  · subst hba
    rw [show va_up σ.1 σ.2.1 (some e) σ.2.1 = some e by simp [va_up]] at hb
    cases hb
    rw [← r1]
    exact he
  · rw [show va_up σ.1 σ.2.1 (some e) b = σ.1 b by simp [va_up, hba]] at hb
    exact zat_kept (r5 b e2 hb) (ho b (zat_lt (r5 b e2 hb)))
theorem ZC.slack (h : ZC X own cc ret fr lo) {H : Heap} {locs : List Loc} {k n : Nat} (hS : va_S (zFr X.g) X.s.heap H locs) (l1 : H.size + k ≤ X.g.1 1) (l2 : zt H + n ≤ X.g.1 2) (hge : zt X.s.heap ≤ zt H) : H.size - X.s.heap.size + k ≤ X.R.cells ∧ zt H - zt X.s.heap + n ≤ X.R.slots := by
  have h1 := hS.1
  have h3 := h.ls
  rw [h.room]
  refine ⟨?_, ?_⟩
  · show H.size - X.s.heap.size + k ≤ X.g.1 1 - X.s.heap.size
    omega
  · show zt H - zt X.s.heap + n ≤ X.g.1 2 - zt X.s.heap
    omega
theorem z_new (h : ZC X own cc ret fr lo) {C : String} {T : u_T} {N ci i : Nat} (hin : ∀ w ∈ u_ws C T N, w ∈ lw_all) (ty : Nat → FieldType) (hty : ∀ k, k < N → parseFieldDescriptor (T k).2.2.1 = some (ty k)) (hc : zcl[ci]? = some (C, T, N)) (hcl : (Cond.classLink own i C) ∈ lw_all) (hinst : (Cond.instantiable C N) ∈ lw_all) (hini : (Cond.initialized C) ∈ lw_all) {fs : List Value} (hfl : fs.length = N) (hfs : ∀ j, j < N → fs[j]? = some (defaultValue (ty j))) (d : decode cc pc = .ok (.new i, 3)) {γ : Type} {F : Nat → zS → Option γ} {out : γ} (hf : zb (znewO X.g.1 σ ci N fs) F = some out)
    (kk : ∀ (q : Nat) (σ' : zS), F q σ' = some out → ZW X σ' (pc + 3) lv (zr (some q) :: rest)) : ZW X σ pc lv rest := by
  obtain ⟨q, σ', h1, h2⟩ := zb_some hf
  unfold znewO at h1
  split at h1
  · rename_i hq
    obtain ⟨l1, l2, l3⟩ := hq
    cases h1
    intro H locs ls hR hS hl2
    have hz : H.size = σ.2.1 := hR.1
    refine W.ge fun hge => ?_
    have hr2 := hR.2.1
    obtain ⟨s1, s2⟩ := h.slack (k := 1) (n := N) hS (by omega) (by omega) hge
    have hKn := h.K.1 ci _ hc
    have hsz := h.ts _ hinst
    obtain ⟨cC, kC0, hfc0, hk0, -, hsz0⟩ := Cond.instantiable_spec hsz
    refine W.newcK h.x h.b h.ow (h.ts _ hcl) hsz (h.ts _ hini) rfl d s1 s2 hKn.2.1 rfl fun H1 kC hkC e1 z1 o1 => ?_
    have hcC : cC = X.g.2.1.1 ci := Option.some.inj (hfc0.symm.trans hKn.2.1)
    subst hcC
    cases hk0.symm.trans hkC
    have hbs : (blank (X.g.2.1.1 ci) kC0).slots.size = N := by
      rw [← hsz0.2.2]
      simp [blank]
    obtain ⟨cell, b1, b2, b3, b4⟩ := u_born ty h.ts hin hKn hkC e1 hty
    cases e1.symm.trans b1
    obtain ⟨g1, g2⟩ := hR.push (e := .inr (ci, fs)) z1 o1 e1 hbs l1 l2 ⟨_, e1, fun k => by rw [b3]; exact fun z => (nomatch z), by rw [b3]; exact fun z => (nomatch z), fun _ => b3, rfl, ⟨_, hc, hfl⟩, fun k hk => by rw [b4 k (by omega), hfs k (by omega)]⟩
    have := kk _ _ h2 H1 locs ls g1 ⟨by have := hS.1; omega, fun q h1 h2 => (o1 q (Nat.lt_of_lt_of_le h1 hS.1)).trans (hS.2.1 q h1 h2), hS.2.2⟩ hl2
    unfold zw at this
    rw [← hz] at this
    have hS1 := hS.1
    rw [show H1.size - X.s.heap.size = H.size - X.s.heap.size + 1 by omega] at this
    refine W.tight ?_
    rw [show H1.size - X.s.heap.size = H.size - X.s.heap.size + 1 by omega]
    exact this
  · cases h1
end ZARR
