/-! the rows of fields and arrays -/
set_option maxRecDepth 100000
section ZHEAP
variable {X : zX} {own : String} {cc : ByteArray} {ret : Option FieldType} {fr lo : Nat} {σ : zS} {pc : Nat} {lv lv' : List (Nat × zV)} {rest st : List zV}
/-- a field's link, the class's own or a nest mate's -/
def zLk (X : zX) (own : String) (i : Nat) (ref n d : String) : Prop := (Cond.fieldLink own i ref n d).before X.args X.s = true ∨ ∃ host, (Cond.fieldLinkNest own i ref n d host).before X.args X.s = true
theorem zLk.o (h : ZC X own cc ret fr lo) {i : Nat} {ref n d : String} (hw : (Cond.fieldLink own i ref n d) ∈ lw_all) : zLk X own i ref n d := Or.inl (h.ts _ hw)
theorem zLk.n (h : ZC X own cc ret fr lo) {i : Nat} {ref n d host : String} (hw : (Cond.fieldLinkNest own i ref n d host) ∈ lw_tbl) : zLk X own i ref n d := Or.inr ⟨host, va_Nw.use rfl (va_Nw.warmF h.env.2.1 (h.nw hw rfl))⟩
theorem z_get (h : ZC X own cc ret fr lo) {ref C : String} {T : u_T} {N ci i : Nat} (hin : ∀ w ∈ u_ws C T N, w ∈ lw_all) (hc : zcl[ci]? = some (C, T, N)) (k : Nat) (hk : k < N) (hl : zLk X own i ref (T k).2.1 (T k).2.2.1) (hsame : ∀ x, X.s.fieldFound? (T k).1 (T k).2.1 (T k).2.2.1 = some x → X.s.fieldFound? ref (T k).2.1 (T k).2.2.1 = some x) (d : decode cc pc = .ok (.getfield i, 3)) {a : Nat} {fs : List Value} {v : zV} (ha : σ.1 a = some (.inr (ci, fs))) (hv : fs[k]? = some (zvv v))
    (kk : ZW X σ (pc + 3) lv (v :: rest)) : ZW X σ pc lv (zr (some a) :: rest) := by
  intro H locs ls hR hS hl2
  obtain ⟨cell, q1, q2, q3, -, q5, ⟨r, hr, hfl⟩, q6⟩ := hR.2.2.2.2 a _ ha
  cases hr.symm.trans hc
  obtain ⟨hSl, hfc, kC, hkC, hkind⟩ := h.K.1 ci _ hc
  obtain ⟨cf, kf, fi, f, hi, hsl⟩ := hSl k hk
  have hst := (u_facts hfc hkC (u_lays h.ts hin hk) hi).1
  have hslot : cell.slots[f.slot]? = some (zvv v) := by
    rw [hsl, q6 k (by rw [hfl]; exact hk)]
    exact hv
  rcases hl with hl | ⟨host, hl⟩
  · exact W.getf h.x h.b h.ow hl (hsame _ hi) hst q1 q3 hslot rfl rfl d (kk H locs ls hR hS hl2)
  · exact va_Wgetf h.x h.b h.ow hl (hsame _ hi) hst q1 q3 hslot rfl rfl d (kk H locs ls hR hS hl2)
theorem zsm {ref n d : String} {U : State} : ∀ x, U.fieldFound? ref n d = some x → U.fieldFound? ref n d = some x := fun _ h => h
theorem z_getI (h : ZC X own cc ret fr lo) {ref C : String} {T : u_T} {N ci i : Nat} (hin : ∀ w ∈ u_ws C T N, w ∈ lw_all) (hc : zcl[ci]? = some (C, T, N)) (k : Nat) (hk : k < N) (hl : zLk X own i ref (T k).2.1 (T k).2.2.1) (hsame : ∀ x, X.s.fieldFound? (T k).1 (T k).2.1 (T k).2.2.1 = some x → X.s.fieldFound? ref (T k).2.1 (T k).2.2.1 = some x) (d : decode cc pc = .ok (.getfield i, 3)) {r : Option Nat} {γ : Type} {F : Int32 → Option γ} {out : γ} (hf : zo (zgI σ r ci k) F = some out)
    (kk : ∀ x : Int32, F x = some out → ZW X σ (pc + 3) lv (zi x :: rest)) : ZW X σ pc lv (zr r :: rest) := by
  obtain ⟨x, h1, h2⟩ := zo_some hf
  obtain ⟨a, fs, rfl, ha, hv⟩ := zgI_some h1
  exact z_get (v := zi x) h hin hc k hk hl hsame d ha hv (kk x h2)
theorem z_getL (h : ZC X own cc ret fr lo) {ref C : String} {T : u_T} {N ci i : Nat} (hin : ∀ w ∈ u_ws C T N, w ∈ lw_all) (hc : zcl[ci]? = some (C, T, N)) (k : Nat) (hk : k < N) (hl : zLk X own i ref (T k).2.1 (T k).2.2.1) (hsame : ∀ x, X.s.fieldFound? (T k).1 (T k).2.1 (T k).2.2.1 = some x → X.s.fieldFound? ref (T k).2.1 (T k).2.2.1 = some x) (d : decode cc pc = .ok (.getfield i, 3)) {r : Option Nat} {γ : Type} {F : Int64 → Option γ} {out : γ} (hf : zo (zgL σ r ci k) F = some out)
    (kk : ∀ x : Int64, F x = some out → ZW X σ (pc + 3) lv (zj x :: rest)) : ZW X σ pc lv (zr r :: rest) := by
  obtain ⟨x, h1, h2⟩ := zo_some hf
  obtain ⟨a, fs, rfl, ha, hv⟩ := zgL_some h1
  exact z_get (v := zj x) h hin hc k hk hl hsame d ha hv (kk x h2)
theorem z_getR (h : ZC X own cc ret fr lo) {ref C : String} {T : u_T} {N ci i : Nat} (hin : ∀ w ∈ u_ws C T N, w ∈ lw_all) (hc : zcl[ci]? = some (C, T, N)) (k : Nat) (hk : k < N) (hl : zLk X own i ref (T k).2.1 (T k).2.2.1) (hsame : ∀ x, X.s.fieldFound? (T k).1 (T k).2.1 (T k).2.2.1 = some x → X.s.fieldFound? ref (T k).2.1 (T k).2.2.1 = some x) (d : decode cc pc = .ok (.getfield i, 3)) {r : Option Nat} {γ : Type} {F : Option Nat → Option γ} {out : γ} (hf : zo (zgR σ r ci k) F = some out)
    (kk : ∀ x : Option Nat, F x = some out → ZW X σ (pc + 3) lv (zr x :: rest)) : ZW X σ pc lv (zr r :: rest) := by
  obtain ⟨x, h1, h2⟩ := zo_some hf
  obtain ⟨a, fs, rfl, ha, hv⟩ := zgR_some h1
  exact z_get (v := zr x) h hin hc k hk hl hsame d ha hv (kk x h2)
/-- a store into one cell: what holds behind it -/
theorem ZR.set {Γ : zG} {σ : zS} {H H1 : Heap} {a : Nat} {e : zE} (hR : ZR Γ σ H) (hz : H1.size = H.size) (ho : ∀ q : Nat, q ≠ a → H1[q]? = H[q]?) (ht : zt H1 = zt H) (he : zat Γ a e H1) : ZR Γ (va_up σ.1 a (some e), σ.2) H1 := by
  obtain ⟨r1, r2, r3, r4, r5⟩ := hR
  refine ⟨hz.trans r1, by rw [ht]; exact r2, r3, r4, fun b e2 hb => ?_⟩
  by_cases hba : b = a
  · subst hba
    have : va_up σ.1 b (some e) b = some e := by simp [va_up]
    rw [show (va_up σ.1 b (some e), σ.2).1 = va_up σ.1 b (some e) from rfl, this] at hb
    cases hb
    exact he
  · have : va_up σ.1 a (some e) b = σ.1 b := by simp [va_up, hba]
    rw [show (va_up σ.1 a (some e), σ.2).1 = va_up σ.1 a (some e) from rfl, this] at hb
    exact zat_kept (r5 b e2 hb) (ho b hba)
theorem zt_set {H H1 : Heap} {a : Nat} {c c1 : Cell} (hz : H1.size = H.size) (ho : ∀ q : Nat, q ≠ a → H1[q]? = H[q]?) (h0 : H[a]? = some c) (h1 : H1[a]? = some c1) (hs : c1.slots.size = c.slots.size) : zt H1 = zt H := by
  refine zt_same hz fun q cq hq => ?_
  by_cases hqa : q = a
  · subst hqa
    cases h0.symm.trans hq
    exact ⟨c1, h1, hs⟩
  · exact ⟨cq, by rw [ho q hqa]; exact hq, rfl⟩
theorem z_apart (h : ZC X own cc ret fr lo) {C : String} {T : u_T} {N ci : Nat} (hin : ∀ w ∈ u_ws C T N, w ∈ lw_all) (ty : Nat → FieldType) (hty : ∀ k, k < N → parseFieldDescriptor (T k).2.2.1 = some (ty k)) (hnm : ∀ a, a < N → ∀ b, b < N → a ≠ b → (T a).2.1 ≠ (T b).2.1) (hc : zcl[ci]? = some (C, T, N)) : ∀ x y, x < N → y < N → x ≠ y → (X.g.2.1.2 ci) x ≠ (X.g.2.1.2 ci) y := by
  intro x y hx hy hne
  obtain ⟨hS, -⟩ := h.K.1 ci _ hc
  obtain ⟨_, _, _, fa, hia, ea⟩ := hS x hx
  obtain ⟨_, _, _, fb, hib, eb⟩ := hS y hy
  rw [← ea, ← eb]
  refine u_apart (u_lays h.ts hin hx) (u_lays h.ts hin hy) hia hib ?_
  rw [(State.fieldFound?_type hia (hty x hx)).1, (State.fieldFound?_type hib (hty y hy)).1]
  exact hnm x hx y hy hne
theorem setSlot_get {c : Cell} {i j : Nat} {v : Value} (hi : i < c.slots.size) : (c.setSlot i v).slots[j]? = if j = i then some v else c.slots[j]? := by
  unfold Cell.setSlot
  by_cases hj : j = i
  · subst hj
    simp [hi]
  · rw [if_neg hj]
    exact Array.getElem?_setIfInBounds_ne (fun q => hj q.symm)
/-- the cell behind a putfield -/
theorem zat_put (h : ZC X own cc ret fr lo) {C : String} {T : u_T} {N ci : Nat} (hin : ∀ w ∈ u_ws C T N, w ∈ lw_all) (ty : Nat → FieldType) (hty : ∀ k, k < N → parseFieldDescriptor (T k).2.2.1 = some (ty k)) (hnm : ∀ a, a < N → ∀ b, b < N → a ≠ b → (T a).2.1 ≠ (T b).2.1) (hc : zcl[ci]? = some (C, T, N)) {a k : Nat} (hk : k < N) {fs : List Value} {v : Value} {cell : Cell} {H1 : Heap} (g2 : ∀ k, cell.vm ≠ .statics k) (g3 : cell.vm ≠ .unknown) (g4 : X.g.1 0 ≤ a → cell.vm = .none) (g5 : cell.cls = X.g.2.1.1 ci) (hfl : fs.length = N) (g6 : ∀ k, k < fs.length → cell.slots[X.g.2.1.2 ci k]? = fs[k]?) (e1 : H1[a]? = some (cell.setSlot (X.g.2.1.2 ci k) v)) : zat X.g a (.inr (ci, fs.set k v)) H1 := by
  have hap := z_apart h hin ty hty hnm hc
  have hlt : X.g.2.1.2 ci k < cell.slots.size := by
    have := g6 k (by omega)
    rw [List.getElem?_eq_getElem (by omega)] at this
    exact (Array.getElem?_eq_some_iff.mp this).1
  refine ⟨_, e1, g2, g3, g4, g5, ⟨_, hc, by rw [List.length_set]; exact hfl⟩, fun j hj => ?_⟩
  rw [List.length_set] at hj
  rw [setSlot_get hlt]
  by_cases hjk : j = k
  · subst hjk
    rw [if_pos rfl, List.getElem?_set_self hj]
  · rw [if_neg (hap j k (by omega) hk hjk), List.getElem?_set_ne (Ne.symm hjk), g6 j hj]
theorem z_putV (h : ZC X own cc ret fr lo) {ref C : String} {T : u_T} {N ci i : Nat} (hin : ∀ w ∈ u_ws C T N, w ∈ lw_all) (ty0 : Nat → FieldType) (hty : ∀ k, k < N → parseFieldDescriptor (T k).2.2.1 = some (ty0 k)) (hnm : ∀ a, a < N → ∀ b, b < N → a ≠ b → (T a).2.1 ≠ (T b).2.1) (hc : zcl[ci]? = some (C, T, N)) (k : Nat) (hk : k < N) (hl : zLk X own i ref (T k).2.1 (T k).2.2.1) (hsame : ∀ x, X.s.fieldFound? (T k).1 (T k).2.1 (T k).2.2.1 = some x → X.s.fieldFound? ref (T k).2.1 (T k).2.2.1 = some x) (hfin : (T k).2.2.2 = false ∨ ((T k).2.2.2 = true ∧ X.meth.name = "<init>" ∧ (T k).1 = own ∧ ref = own)) {v : zV} (hn : narrow (ty0 k) (zvv v) = zvv v) (hfit : fits (ty0 k) (zvv v) = true) (d : decode cc pc = .ok (.putfield i, 3)) {r : Option Nat} {γ : Type} {F : zS → Option γ} {out : γ} (hf : zo (zput X.g.1 σ r ci k (zvv v)) F = some out)
    (kk : ∀ σ', F σ' = some out → ZW X σ' (pc + 3) lv rest) : ZW X σ pc lv (v :: zr r :: rest) := by
  obtain ⟨σ', h1, h2⟩ := zo_some hf
  obtain ⟨a, fs, rfl, ha, hA, hkl, rfl⟩ := zput_some h1
  intro H locs ls hR hS hl2
  obtain ⟨cell, q1, q2, q3, q4, q5, ⟨r, hr, hfl⟩, q6⟩ := hR.2.2.2.2 a _ ha
  cases hr.symm.trans hc
  obtain ⟨hSl, hfc, kC, hkC, hkind⟩ := h.K.1 ci _ hc
  obtain ⟨cf, kf, fi, f, hi, hsl⟩ := hSl k hk
  have hst := (u_facts hfc hkC (u_lays h.ts hin hk) hi).1
  have hlt : X.g.2.1.2 ci k < cell.slots.size := by
    have := q6 k (by omega)
    rw [List.getElem?_eq_getElem (by omega)] at this
    exact (Array.getElem?_eq_some_iff.mp this).1
  have fin : ∀ (H1 : Heap), H1[a]? = some (cell.setSlot f.slot (zvv v)) → H1.size = H.size → (∀ q, q ≠ a → H1[q]? = H[q]?) → W X.p X.l X.e X.R X.s X.m X.args X.below X.meth X.c H1 (locs ++ [⟨a, f.slot⟩]) (H.size - X.s.heap.size) (zt H - zt X.s.heap) X.Q (F0 X.m (pc + 3) ls (rest.map zvv)) := by
    intro H1 e1 e2 e3
    have hzt := zt_set e2 e3 q1 e1 (k2_slotsz _ _ _)
    rw [hsl] at e1
    have := kk _ h2 H1 (locs ++ [⟨a, f.slot⟩]) ls (hR.set e2 e3 hzt (zat_put h hin ty0 hty hnm hc hk q2 q3 q4 q5 hfl q6 e1)) (hS.put e2 e3 hA) hl2
    unfold zw at this
    rw [e2, hzt] at this
    exact this
  have hlay := h.ts _ (hin _ (u_in_lay hk))
  unfold u_lay at hlay
  rcases hfin with hfin | ⟨hfin, hin2, hd2, hd3⟩
  · rw [if_neg (by rw [hfin]; decide)] at hlay
    have h6 := u_store hfc hkC hkind hlay hi (hty k hk) hn hfit
    rcases hl with hl | ⟨host, hl⟩
    · exact W.putK h.x h.b (f := f) ⟨h.ow, hl, ⟨_, _, _, hsame _ hi⟩, hst⟩ (by rw [q5]; exact h6) q1 (q4 hA) (by rw [hsl]; exact hlt) rfl rfl d fin
    · exact va_WputK h.x h.b (f := f) h.ow hl (hsame _ hi) hst (by rw [q5]; exact h6) q1 (q4 hA) (by rw [hsl]; exact hlt) rfl rfl d fin
  · rw [if_pos hfin] at hlay
    have hcf : X.m.cls = cf := by
      obtain ⟨_, _, c', _, _, _, -, -, hf', -, -, -, hown2, -⟩ := Cond.laysFinal_spec hlay
      have e1 : c' = cf := by have := hi.symm.trans hf'; simp at this; exact this.1.symm
      rw [hd2] at hown2
      rw [← e1]; exact Option.some.inj (h.ow.symm.trans hown2)
    have h6 := u_fits hfc hkC hkind (Or.inr hlay) hi (hty k hk) hn hfit
    rcases hl with hl | ⟨host, hl⟩
    · exact W.putFinK h.x h.b h.ow hl (hsame _ hi) hst hcf hin2 (by rw [q5]; exact h6) q1 (q4 hA) (by rw [hsl]; exact hlt) rfl rfl d fin
    · refine va_Wputf h.x h.b h.ow hl (hsame _ hi) hst (Or.inr ⟨hcf, hin2⟩) q1 q3 (by rw [hsl]; exact hlt) h6.1 (by rw [q5, q4 hA]; exact h6.2) rfl rfl d ?_
      have ha2 : a < H.size := (Array.getElem?_eq_some_iff.mp q1).1
      refine fin _ ?_ ?_ ?_
      · simp [Array.getElem?_setIfInBounds, ha2]
      · simp
      · intro q hq
        exact Array.getElem?_setIfInBounds_ne (Ne.symm hq)
end ZHEAP
