/-! contracts and calls -/
set_option maxRecDepth 100000
abbrev zOut : Type := (Option zV ⊕ (Nat × Nat)) × zS
/-- a contract's end: it returns v in the world told, or throws the cell q of the class ci -/
def zQc (Γ : zG) (out : zOut) : Array Value → State → Outcome → State → Prop := fun _ st o t => ∃ v : Option zV, out.1 = .inl v ∧ o = .returned (v.map zvv) ∧ ZR Γ out.2 t.heap ∧ va_F (zFr Γ) st t
def zXC (Γ : zG) (out : zOut) : String → Addr → State → State → Prop := fun E q st t => ∃ ci, out.1 = .inr (ci, q) ∧ (zcl[ci]?).map (fun r => r.1) = some E ∧ ZR Γ out.2 t.heap ∧ va_F (zFr Γ) st t
def zPc (Γ : zG) (σ : zS) (z : Nat) (as : List Value) : Array Value → State → Prop := fun v U => v = as.toArray ∧ zt U.heap = z ∧ zEnv Γ U ∧ ZR Γ σ U.heap
/-- a contract: at the words ws, with fr frames and lo words of locals, the arguments, the world at the start, the end -/
def ZM (Γ : zG) (y : MethodName) (ws : List Cond) (fr lo : Nat) (as : List zV) (σ : zS) (out : zOut) : Prop := ∀ z : Nat, vx_Met Γ.2.2.2.2 y ws { frames := fr, cells := Γ.1 1 - σ.2.1, slots := Γ.1 2 - z, locals := lo } (zPc Γ σ z (as.map zvv)) (zQc Γ out) (zXC Γ out) (Γ.1 1 - σ.2.1) (Γ.1 2 - z) (zFr Γ)
theorem zPc_blind {Γ : zG} {σ : zS} {z : Nat} {as : List Value} : FrameBlind (zPc Γ σ z as) := fun a U g mk q => q
/-- the answers of a method that may throw -/
def zoI (r : Int32 ⊕ (Nat × Nat)) : Option zV ⊕ (Nat × Nat) := match r with
  | .inl v => .inl (some (zi v))
  | .inr e => .inr e
def zoL (r : Int64 ⊕ (Nat × Nat)) : Option zV ⊕ (Nat × Nat) := match r with
  | .inl v => .inl (some (zj v))
  | .inr e => .inr e
def zoR (r : Option Nat ⊕ (Nat × Nat)) : Option zV ⊕ (Nat × Nat) := match r with
  | .inl v => .inl (some (zr v))
  | .inr e => .inr e
def zoU (r : Unit ⊕ (Nat × Nat)) : Option zV ⊕ (Nat × Nat) := match r with
  | .inl _ => .inl none
  | .inr e => .inr e
def zx {α γ : Type} (x : Option ((α ⊕ (Nat × Nat)) × zS)) (E : Nat × Nat → zS → Option γ) (N : α → zS → Option γ) : Option γ := match x with
  | none => none
  | some (.inl a, σ) => N a σ
  | some (.inr e, σ) => E e σ
section ZCALL
variable {X : zX} {own : String} {cc : ByteArray} {ret : Option FieldType} {fr lo : Nat} {σ : zS} {pc : Nat} {lv lv' : List (Nat × zV)} {rest st : List zV}
/-- thrown over this frame -/
def ZV (X : zX) (σ : zS) (pc : Nat) (lv : List (Nat × zV)) (rest : List zV) (ci q : Nat) : Prop :=
  ∀ (H : Heap) (locs : List Loc) (ls : Array Slot) (E : String) (ce : Cell), ZR X.g σ H → va_S (zFr X.g) X.s.heap H locs → lv_has ls X.nL (zlv lv) → (zcl[ci]?).map (fun r => r.1) = some E → H[q]? = some ce → ce.vm = .none → X.s.vm.findClass E = some ce.cls → vx_W X.p X.l X.e X.R X.s X.m X.args X.below X.meth X.c H locs (H.size - X.s.heap.size) (zt H - zt X.s.heap) X.Q (F0 X.m pc ls (rest.map zvv)) q
def ZRun (X : zX) (σ : zS) (pc : Nat) (lv : List (Nat × zV)) (st rest : List zV) (out : zOut) : Prop := ∀ (H : Heap) (locs : List Loc) (ls : Array Slot), zt X.s.heap ≤ zt H → ZR X.g σ H → va_S (zFr X.g) X.s.heap H locs → lv_has ls X.nL (zlv lv) → ∃ (mc ms : Nat) (a : Array Value), vx_Run X.p X.l X.e X.R X.s X.m X.args X.below X.meth X.c H locs (H.size - X.s.heap.size) (zt H - zt X.s.heap) mc ms (F0 X.m pc ls (st.map zvv)) (rest.map zvv) (zQc X.g out a) (zXC X.g out) (zFr X.g)
def ZRun5 (X : zX) (σ : zS) (pc : Nat) (lv : List (Nat × zV)) (st rest : List zV) (out : zOut) : Prop := ∀ (H : Heap) (locs : List Loc) (ls : Array Slot), zt X.s.heap ≤ zt H → ZR X.g σ H → va_S (zFr X.g) X.s.heap H locs → lv_has ls X.nL (zlv lv) → ∃ (mc ms : Nat) (a : Array Value), vx_Run5 X.p X.l X.e X.R X.s X.m X.args X.below X.meth X.c H locs (H.size - X.s.heap.size) (zt H - zt X.s.heap) mc ms (F0 X.m pc ls (st.map zvv)) (rest.map zvv) (zQc X.g out a) (zXC X.g out) (zFr X.g)
theorem vx_W.tight {p : Program} {l : Launch} {e : Env} {R : Room} {s : State} {m : MethodId} {args : Array Value} {below : List Frame} {meth : Method} {c : Code} {H : Heap} {locs : List Loc} {cells slots : Nat} {Q : State → Prop} {g : JFrame} {q : Addr}
    (k : vx_W p l e R s m args below meth c H locs (H.size - s.heap.size) (zt H - zt s.heap) Q g q) : vx_W p l e R s m args below meth c H locs cells slots Q g q := by
  intro T hT Y
  have Y2 := stand_tight Y
  rw [hT] at Y2
  exact k T hT Y2
theorem z_call {out : zOut} (hr : ZRun X σ pc lv st rest out) (kk : ∀ v, out.1 = .inl v → ZW X out.2 (pc + 3) lv (v.toList ++ rest)) (kx : ∀ ci q, out.1 = .inr (ci, q) → ZV X out.2 pc lv rest ci q) : ZW X σ pc lv st := by
  intro H locs ls hR hS hl
  refine W.ge fun hge => ?_
  obtain ⟨mc, ms, a, hrun⟩ := hr H locs ls hge hR hS hl
  intro T hT Y
  rcases hrun T hT Y with ⟨v, st₀, t, T', L, h0, X', hL, e1, e2, ⟨v2, hv2, hv, hR2, hz, hk⟩, go⟩ | ⟨q, st₀, t, T', L, E, ce, h0, X', hL, e1, e2, ⟨ci, ho, hE, hR2, hz, hk⟩, hce, hcv, hcl, go⟩
  · cases hv
    rw [h0] at hz hk
    have hst9 : ((v2.map zvv).toList ++ rest.map zvv) = (v2.toList ++ rest).map zvv := by cases v2 <;> simp
    rw [hst9] at go
    have hS2 : va_S (zFr X.g) X.s.heap T'.heap (locs ++ L) := ⟨Nat.le_trans hS.1 (by rw [e1]; exact hz), fun q h1 h2 => by rw [e1, hk q (Nat.lt_of_lt_of_le h1 hS.1) h2]; exact hS.2.1 q h1 h2, fun q hq => by
      rcases List.mem_append.mp hq with h | h
      · exact hS.2.2 q h
      · exact hL q h⟩
    obtain ⟨t2, a1, b1⟩ := (W.tight (kk v2 hv2 T'.heap (locs ++ L) ls (by rw [e1]; exact hR2) hS2 hl)) T' rfl X'
    exact ⟨t2, go t2 a1, b1⟩
  · rw [h0] at hz hk
    have hS2 : va_S (zFr X.g) X.s.heap T'.heap (locs ++ L) := ⟨Nat.le_trans hS.1 (by rw [e1]; exact hz), fun q h1 h2 => by rw [e1, hk q (Nat.lt_of_lt_of_le h1 hS.1) h2]; exact hS.2.1 q h1 h2, fun q hq => by
      rcases List.mem_append.mp hq with h | h
      · exact hS.2.2 q h
      · exact hL q h⟩
    obtain ⟨t2, a1, b1⟩ := (vx_W.tight (kx ci q ho T'.heap (locs ++ L) ls E ce (by rw [e1]; exact hR2) hS2 hl hE (by rw [e1]; exact hce) hcv hcl)) T' rfl X'
    exact ⟨t2, go.trans a1, b1⟩
theorem z_cI {zf : Option (Int32 × zS)} {γ : Type} {F : Int32 → zS → Option γ} {o : γ} (hf : zb zf F = some o) (hr : ∀ v σ', zf = some (v, σ') → ZRun X σ pc lv st rest (.inl (some (zi v)), σ')) (kk : ∀ v σ', F v σ' = some o → ZW X σ' (pc + 3) lv (zi v :: rest)) : ZW X σ pc lv st := by
  obtain ⟨v, σ', h1, h2⟩ := zb_some hf
  exact z_call (hr v σ' h1) (fun w hw => by cases hw; exact kk v σ' h2) (fun ci q hq => nomatch hq)
theorem z_cXI {zf : Option ((Int32 ⊕ (Nat × Nat)) × zS)} {γ : Type} {N : Int32 → zS → Option γ} {E : Nat × Nat → zS → Option γ} {o : γ} (hf : zx zf E N = some o) (hr : ∀ v σ', zf = some (v, σ') → ZRun X σ pc lv st rest (zoI v, σ')) (kk : ∀ v σ', N v σ' = some o → ZW X σ' (pc + 3) lv (zi v :: rest)) (kx : ∀ e σ', E e σ' = some o → ZV X σ' pc lv rest e.1 e.2) : ZW X σ pc lv st := by
  unfold zx at hf
  split at hf
  · cases hf
  · exact z_call (hr _ _ rfl) (fun w hw => by cases hw; exact kk _ _ hf) (fun ci q hq => nomatch hq)
  · exact z_call (hr _ _ rfl) (fun w hw => nomatch hw) (fun ci q hq => by cases hq; exact kx _ _ hf)
theorem z_cL {zf : Option (Int64 × zS)} {γ : Type} {F : Int64 → zS → Option γ} {o : γ} (hf : zb zf F = some o) (hr : ∀ v σ', zf = some (v, σ') → ZRun X σ pc lv st rest (.inl (some (zj v)), σ')) (kk : ∀ v σ', F v σ' = some o → ZW X σ' (pc + 3) lv (zj v :: rest)) : ZW X σ pc lv st := by
  obtain ⟨v, σ', h1, h2⟩ := zb_some hf
  exact z_call (hr v σ' h1) (fun w hw => by cases hw; exact kk v σ' h2) (fun ci q hq => nomatch hq)
theorem z_cXL {zf : Option ((Int64 ⊕ (Nat × Nat)) × zS)} {γ : Type} {N : Int64 → zS → Option γ} {E : Nat × Nat → zS → Option γ} {o : γ} (hf : zx zf E N = some o) (hr : ∀ v σ', zf = some (v, σ') → ZRun X σ pc lv st rest (zoL v, σ')) (kk : ∀ v σ', N v σ' = some o → ZW X σ' (pc + 3) lv (zj v :: rest)) (kx : ∀ e σ', E e σ' = some o → ZV X σ' pc lv rest e.1 e.2) : ZW X σ pc lv st := by
  unfold zx at hf
  split at hf
  · cases hf
  · exact z_call (hr _ _ rfl) (fun w hw => by cases hw; exact kk _ _ hf) (fun ci q hq => nomatch hq)
  · exact z_call (hr _ _ rfl) (fun w hw => nomatch hw) (fun ci q hq => by cases hq; exact kx _ _ hf)
theorem z_cR {zf : Option (Option Nat × zS)} {γ : Type} {F : Option Nat → zS → Option γ} {o : γ} (hf : zb zf F = some o) (hr : ∀ v σ', zf = some (v, σ') → ZRun X σ pc lv st rest (.inl (some (zr v)), σ')) (kk : ∀ v σ', F v σ' = some o → ZW X σ' (pc + 3) lv (zr v :: rest)) : ZW X σ pc lv st := by
  obtain ⟨v, σ', h1, h2⟩ := zb_some hf
  exact z_call (hr v σ' h1) (fun w hw => by cases hw; exact kk v σ' h2) (fun ci q hq => nomatch hq)
theorem z_cXR {zf : Option ((Option Nat ⊕ (Nat × Nat)) × zS)} {γ : Type} {N : Option Nat → zS → Option γ} {E : Nat × Nat → zS → Option γ} {o : γ} (hf : zx zf E N = some o) (hr : ∀ v σ', zf = some (v, σ') → ZRun X σ pc lv st rest (zoR v, σ')) (kk : ∀ v σ', N v σ' = some o → ZW X σ' (pc + 3) lv (zr v :: rest)) (kx : ∀ e σ', E e σ' = some o → ZV X σ' pc lv rest e.1 e.2) : ZW X σ pc lv st := by
  unfold zx at hf
  split at hf
  · cases hf
  · exact z_call (hr _ _ rfl) (fun w hw => by cases hw; exact kk _ _ hf) (fun ci q hq => nomatch hq)
  · exact z_call (hr _ _ rfl) (fun w hw => nomatch hw) (fun ci q hq => by cases hq; exact kx _ _ hf)
theorem z_cU {zf : Option (Unit × zS)} {γ : Type} {F : Unit → zS → Option γ} {o : γ} (hf : zb zf F = some o) (hr : ∀ v σ', zf = some (v, σ') → ZRun X σ pc lv st rest (.inl (none), σ')) (kk : ∀ v σ', F v σ' = some o → ZW X σ' (pc + 3) lv (rest)) : ZW X σ pc lv st := by
  obtain ⟨v, σ', h1, h2⟩ := zb_some hf
  exact z_call (hr v σ' h1) (fun w hw => by cases hw; exact kk v σ' h2) (fun ci q hq => nomatch hq)
theorem z_cXU {zf : Option ((Unit ⊕ (Nat × Nat)) × zS)} {γ : Type} {N : Unit → zS → Option γ} {E : Nat × Nat → zS → Option γ} {o : γ} (hf : zx zf E N = some o) (hr : ∀ v σ', zf = some (v, σ') → ZRun X σ pc lv st rest (zoU v, σ')) (kk : ∀ v σ', N v σ' = some o → ZW X σ' (pc + 3) lv (rest)) (kx : ∀ e σ', E e σ' = some o → ZV X σ' pc lv rest e.1 e.2) : ZW X σ pc lv st := by
  unfold zx at hf
  split at hf
  · cases hf
  · exact z_call (hr _ _ rfl) (fun w hw => by cases hw; exact kk _ _ hf) (fun ci q hq => nomatch hq)
  · exact z_call (hr _ _ rfl) (fun w hw => nomatch hw) (fun ci q hq => by cases hq; exact kx _ _ hf)
theorem z_call5 {out : zOut} (hr : ZRun5 X σ pc lv st rest out) (kk : ∀ v, out.1 = .inl v → ZW X out.2 (pc + 5) lv (v.toList ++ rest)) (kx : ∀ ci q, out.1 = .inr (ci, q) → ZV X out.2 pc lv rest ci q) : ZW X σ pc lv st := by
  intro H locs ls hR hS hl
  refine W.ge fun hge => ?_
  obtain ⟨mc, ms, a, hrun⟩ := hr H locs ls hge hR hS hl
  intro T hT Y
  rcases hrun T hT Y with ⟨v, st₀, t, T', L, h0, X', hL, e1, e2, ⟨v2, hv2, hv, hR2, hz, hk⟩, go⟩ | ⟨q, st₀, t, T', L, E, ce, h0, X', hL, e1, e2, ⟨ci, ho, hE, hR2, hz, hk⟩, hce, hcv, hcl, go⟩
  · cases hv
    rw [h0] at hz hk
    have hst9 : ((v2.map zvv).toList ++ rest.map zvv) = (v2.toList ++ rest).map zvv := by cases v2 <;> simp
    rw [hst9] at go
    have hS2 : va_S (zFr X.g) X.s.heap T'.heap (locs ++ L) := ⟨Nat.le_trans hS.1 (by rw [e1]; exact hz), fun q h1 h2 => by rw [e1, hk q (Nat.lt_of_lt_of_le h1 hS.1) h2]; exact hS.2.1 q h1 h2, fun q hq => by
      rcases List.mem_append.mp hq with h | h
      · exact hS.2.2 q h
      · exact hL q h⟩
    obtain ⟨t2, a1, b1⟩ := (W.tight (kk v2 hv2 T'.heap (locs ++ L) ls (by rw [e1]; exact hR2) hS2 hl)) T' rfl X'
    exact ⟨t2, go t2 a1, b1⟩
  · rw [h0] at hz hk
    have hS2 : va_S (zFr X.g) X.s.heap T'.heap (locs ++ L) := ⟨Nat.le_trans hS.1 (by rw [e1]; exact hz), fun q h1 h2 => by rw [e1, hk q (Nat.lt_of_lt_of_le h1 hS.1) h2]; exact hS.2.1 q h1 h2, fun q hq => by
      rcases List.mem_append.mp hq with h | h
      · exact hS.2.2 q h
      · exact hL q h⟩
    obtain ⟨t2, a1, b1⟩ := (vx_W.tight (kx ci q ho T'.heap (locs ++ L) ls E ce (by rw [e1]; exact hR2) hS2 hl hE (by rw [e1]; exact hce) hcv hcl)) T' rfl X'
    exact ⟨t2, go.trans a1, b1⟩
theorem z_cI5 {zf : Option (Int32 × zS)} {γ : Type} {F : Int32 → zS → Option γ} {o : γ} (hf : zb zf F = some o) (hr : ∀ v σ', zf = some (v, σ') → ZRun5 X σ pc lv st rest (.inl (some (zi v)), σ')) (kk : ∀ v σ', F v σ' = some o → ZW X σ' (pc + 5) lv (zi v :: rest)) : ZW X σ pc lv st := by
  obtain ⟨v, σ', h1, h2⟩ := zb_some hf
  exact z_call5 (hr v σ' h1) (fun w hw => by cases hw; exact kk v σ' h2) (fun ci q hq => nomatch hq)
theorem z_cXI5 {zf : Option ((Int32 ⊕ (Nat × Nat)) × zS)} {γ : Type} {N : Int32 → zS → Option γ} {E : Nat × Nat → zS → Option γ} {o : γ} (hf : zx zf E N = some o) (hr : ∀ v σ', zf = some (v, σ') → ZRun5 X σ pc lv st rest (zoI v, σ')) (kk : ∀ v σ', N v σ' = some o → ZW X σ' (pc + 5) lv (zi v :: rest)) (kx : ∀ e σ', E e σ' = some o → ZV X σ' pc lv rest e.1 e.2) : ZW X σ pc lv st := by
  unfold zx at hf
  split at hf
  · cases hf
  · exact z_call5 (hr _ _ rfl) (fun w hw => by cases hw; exact kk _ _ hf) (fun ci q hq => nomatch hq)
  · exact z_call5 (hr _ _ rfl) (fun w hw => nomatch hw) (fun ci q hq => by cases hq; exact kx _ _ hf)
theorem z_cL5 {zf : Option (Int64 × zS)} {γ : Type} {F : Int64 → zS → Option γ} {o : γ} (hf : zb zf F = some o) (hr : ∀ v σ', zf = some (v, σ') → ZRun5 X σ pc lv st rest (.inl (some (zj v)), σ')) (kk : ∀ v σ', F v σ' = some o → ZW X σ' (pc + 5) lv (zj v :: rest)) : ZW X σ pc lv st := by
  obtain ⟨v, σ', h1, h2⟩ := zb_some hf
  exact z_call5 (hr v σ' h1) (fun w hw => by cases hw; exact kk v σ' h2) (fun ci q hq => nomatch hq)
theorem z_cXL5 {zf : Option ((Int64 ⊕ (Nat × Nat)) × zS)} {γ : Type} {N : Int64 → zS → Option γ} {E : Nat × Nat → zS → Option γ} {o : γ} (hf : zx zf E N = some o) (hr : ∀ v σ', zf = some (v, σ') → ZRun5 X σ pc lv st rest (zoL v, σ')) (kk : ∀ v σ', N v σ' = some o → ZW X σ' (pc + 5) lv (zj v :: rest)) (kx : ∀ e σ', E e σ' = some o → ZV X σ' pc lv rest e.1 e.2) : ZW X σ pc lv st := by
  unfold zx at hf
  split at hf
  · cases hf
  · exact z_call5 (hr _ _ rfl) (fun w hw => by cases hw; exact kk _ _ hf) (fun ci q hq => nomatch hq)
  · exact z_call5 (hr _ _ rfl) (fun w hw => nomatch hw) (fun ci q hq => by cases hq; exact kx _ _ hf)
theorem z_cR5 {zf : Option (Option Nat × zS)} {γ : Type} {F : Option Nat → zS → Option γ} {o : γ} (hf : zb zf F = some o) (hr : ∀ v σ', zf = some (v, σ') → ZRun5 X σ pc lv st rest (.inl (some (zr v)), σ')) (kk : ∀ v σ', F v σ' = some o → ZW X σ' (pc + 5) lv (zr v :: rest)) : ZW X σ pc lv st := by
  obtain ⟨v, σ', h1, h2⟩ := zb_some hf
  exact z_call5 (hr v σ' h1) (fun w hw => by cases hw; exact kk v σ' h2) (fun ci q hq => nomatch hq)
theorem z_cXR5 {zf : Option ((Option Nat ⊕ (Nat × Nat)) × zS)} {γ : Type} {N : Option Nat → zS → Option γ} {E : Nat × Nat → zS → Option γ} {o : γ} (hf : zx zf E N = some o) (hr : ∀ v σ', zf = some (v, σ') → ZRun5 X σ pc lv st rest (zoR v, σ')) (kk : ∀ v σ', N v σ' = some o → ZW X σ' (pc + 5) lv (zr v :: rest)) (kx : ∀ e σ', E e σ' = some o → ZV X σ' pc lv rest e.1 e.2) : ZW X σ pc lv st := by
  unfold zx at hf
  split at hf
  · cases hf
  · exact z_call5 (hr _ _ rfl) (fun w hw => by cases hw; exact kk _ _ hf) (fun ci q hq => nomatch hq)
  · exact z_call5 (hr _ _ rfl) (fun w hw => nomatch hw) (fun ci q hq => by cases hq; exact kx _ _ hf)
theorem z_cU5 {zf : Option (Unit × zS)} {γ : Type} {F : Unit → zS → Option γ} {o : γ} (hf : zb zf F = some o) (hr : ∀ v σ', zf = some (v, σ') → ZRun5 X σ pc lv st rest (.inl (none), σ')) (kk : ∀ v σ', F v σ' = some o → ZW X σ' (pc + 5) lv (rest)) : ZW X σ pc lv st := by
  obtain ⟨v, σ', h1, h2⟩ := zb_some hf
  exact z_call5 (hr v σ' h1) (fun w hw => by cases hw; exact kk v σ' h2) (fun ci q hq => nomatch hq)
theorem z_cXU5 {zf : Option ((Unit ⊕ (Nat × Nat)) × zS)} {γ : Type} {N : Unit → zS → Option γ} {E : Nat × Nat → zS → Option γ} {o : γ} (hf : zx zf E N = some o) (hr : ∀ v σ', zf = some (v, σ') → ZRun5 X σ pc lv st rest (zoU v, σ')) (kk : ∀ v σ', N v σ' = some o → ZW X σ' (pc + 5) lv (rest)) (kx : ∀ e σ', E e σ' = some o → ZV X σ' pc lv rest e.1 e.2) : ZW X σ pc lv st := by
  unfold zx at hf
  split at hf
  · cases hf
  · exact z_call5 (hr _ _ rfl) (fun w hw => by cases hw; exact kk _ _ hf) (fun ci q hq => nomatch hq)
  · exact z_call5 (hr _ _ rfl) (fun w hw => nomatch hw) (fun ci q hq => by cases hq; exact kx _ _ hf)
theorem isStatics_of {v : VmData} (h : ∀ k, v ≠ .statics k) : v.isStatics = false := by
  cases v <;> first | rfl | exact absurd rfl (h _)
/-- an object's cell, for a receiver -/
theorem z_recv (h : ZC X own cc ret fr lo) {H : Heap} (hR : ZR X.g σ H) {C : String} {T : u_T} {N ci b : Nat} (hc : zcl[ci]? = some (C, T, N)) {fs : List Value} (hb : σ.1 b = some (.inr (ci, fs))) : ∃ cell : Cell, H[b]? = some cell ∧ cell.vm.isStatics = false ∧ X.s.vm.findClass C = some cell.cls := by
  obtain ⟨cell, q1, q2, q3, q4, q5, q6⟩ := hR.2.2.2.2 b _ hb
  exact ⟨cell, q1, isStatics_of q2, by rw [q5]; exact (h.K.1 ci _ hc).2.1⟩
theorem z_at (h : ZC X own cc ret fr lo) {H : Heap} {locs : List Loc} (hS : va_S (zFr X.g) X.s.heap H locs) (hR : ZR X.g σ H) (as : List zV) : ∀ U : State, U.heap = H → X.s.WarmedH U.vm → zPc X.g σ (zt H) (as.map zvv) (as.map zvv).toArray U := by
  intro U hU hW
  refine ⟨rfl, by rw [hU], ⟨h.env.1, State.WarmedH.trans h.env.2.1 hW, ?_, fun q hq => ?_⟩, by rw [hU]; exact hR⟩
  · rw [hU]
    exact Nat.le_trans h.base hS.1
  · rw [hU, hS.2.1 q (Nat.lt_of_lt_of_le hq h.base) (fun z => Nat.not_le_of_lt hq z)]
    exact h.env.2.2.2 q hq
theorem z_fit (h : ZC X own cc ret fr lo) {H : Heap} {locs : List Loc} (hS : va_S (zFr X.g) X.s.heap H locs) (hR : ZR X.g σ H) (hge : zt X.s.heap ≤ zt H) : H.size - X.s.heap.size + (X.g.1 1 - σ.2.1) ≤ X.R.cells ∧ zt H - zt X.s.heap + (X.g.1 2 - zt H) ≤ X.R.slots := by
  have h1 := hS.1
  have h2 := hR.1
  have h3 := hR.2.1
  have h4 := hR.2.2.1
  have h5 := hR.2.2.2.1
  rw [h.room]
  refine ⟨?_, ?_⟩
  · show H.size - X.s.heap.size + (X.g.1 1 - σ.2.1) ≤ X.g.1 1 - X.s.heap.size
    omega
  · show zt H - zt X.s.heap + (X.g.1 2 - zt H) ≤ X.g.1 2 - zt X.s.heap
    omega
theorem z_fix (h : ZC X own cc ret fr lo) : CallFix X.p X.m X.c cc X.nL X.s X.args lw_all own := ⟨h.x, h.b, h.ml, h.ow, h.ts⟩
theorem z_rm (h : ZC X own cc ret fr lo) {maxL fr2 lo2 : Nat} (hR : fr2 + 1 ≤ fr ∧ 8 + (maxL + 11) + lo2 ≤ lo) : fr2 + 1 ≤ X.R.frames ∧ 8 + (maxL + 11) + lo2 ≤ X.R.locals := by
  rw [h.room]
  exact hR
theorem z_runV (h : ZC X own cc ret fr lo) {C : String} {T : u_T} {N ci : Nat} (hc : zcl[ci]? = some (C, T, N)) {y : MethodName} {bytes : ByteArray} {maxL idx fr2 lo2 b : Nat} {rt : Option FieldType} {As : List zV} {fs : List Value} {out : zOut} (n : Nat) (hb : σ.1 b = some (.inr (ci, fs))) (hM : ZM X.g y (ws_ y bytes maxL rt) fr2 lo2 (zr (some b) :: As) σ out) (hV : GoodIn lw_all (wsV own idx C y (ws_ y bytes maxL rt))) (hd : y.cls = C ∧ y.cls ≠ "java/lang/invoke/MethodHandle" ∧ y.cls ≠ "java/lang/invoke/VarHandle" ∧ (parseMethodDescriptor y.desc).map (fun d => d.parameters.length) = some n) (hrm : fr2 + 1 ≤ fr ∧ 8 + (maxL + 11) + lo2 ≤ lo) (hn : As.length = n) (hW : (rest.map zc).sum ≤ 8) (d : decode cc pc = .ok (.invokevirtual idx, 3)) (hst : As.reverse ++ zr (some b) :: rest = st) : ZRun X σ pc lv st rest out := by
  subst hst
  intro H locs ls hge hR2 hS hl
  have hM2 := hM (zt H)
  rw [← h.la] at hM2
  have hR := hR2
  exact ⟨_, _, _, vx_runV (As := As.map zvv) (rest := rest.map zvv) (z_fix h) hM2 (cwV n h.ts hV rfl rfl rfl hd (z_rm h hrm)) ⟨zPc_blind, z_recv h hR hc hb, z_at h hS hR _⟩ rfl (by rw [List.length_map]; exact hn) hl.1 (by simp [F0, zvv, va_rf]) (lv_room (by rw [zcs_eq]; exact hW)) d (z_fit h hS hR hge)⟩
theorem z_runVX (h : ZC X own cc ret fr lo) {C : String} {T : u_T} {N ci : Nat} (hc : zcl[ci]? = some (C, T, N)) {y : MethodName} {bytes : ByteArray} {maxL idx fr2 lo2 b : Nat} {rt : Option FieldType} {As : List zV} {fs : List Value} {out : zOut} (n : Nat) (hb : σ.1 b = some (.inr (ci, fs))) {hh : List (Nat × Nat × Nat × Nat)} (hM : ZM X.g y (wsW_ y bytes maxL rt hh) fr2 lo2 (zr (some b) :: As) σ out) (hV : GoodIn lw_all (wsV own idx C y (wsW_ y bytes maxL rt hh))) (hd : y.cls = C ∧ y.cls ≠ "java/lang/invoke/MethodHandle" ∧ y.cls ≠ "java/lang/invoke/VarHandle" ∧ (parseMethodDescriptor y.desc).map (fun d => d.parameters.length) = some n) (hrm : fr2 + 1 ≤ fr ∧ 8 + (maxL + 11) + lo2 ≤ lo) (hn : As.length = n) (hW : (rest.map zc).sum ≤ 8) (d : decode cc pc = .ok (.invokevirtual idx, 3)) (hst : As.reverse ++ zr (some b) :: rest = st) : ZRun X σ pc lv st rest out := by
  subst hst
  intro H locs ls hge hR2 hS hl
  have hM2 := hM (zt H)
  rw [← h.la] at hM2
  have hR := hR2
  exact ⟨_, _, _, vx_runVX (As := As.map zvv) (rest := rest.map zvv) (z_fix h) hM2 (vx_cwVW n h.ts hV rfl rfl rfl hd (z_rm h hrm)) ⟨zPc_blind, z_recv h hR hc hb, z_at h hS hR _⟩ rfl (by rw [List.length_map]; exact hn) hl.1 (by simp [F0, zvv, va_rf]) (lv_room (by rw [zcs_eq]; exact hW)) d (z_fit h hS hR hge)⟩
theorem z_runVN (h : ZC X own cc ret fr lo) {C : String} {T : u_T} {N ci : Nat} (hc : zcl[ci]? = some (C, T, N)) {y : MethodName} {bytes : ByteArray} {maxL idx fr2 lo2 b : Nat} {rt : Option FieldType} {As : List zV} {fs : List Value} {out : zOut} (n : Nat) (hb : σ.1 b = some (.inr (ci, fs))) {host : String} (hM : ZM X.g y (ws_ y bytes maxL rt) fr2 lo2 (zr (some b) :: As) σ out) (hl1 : (Cond.methodLinkNest own idx y host) ∈ lw_tbl) (hcd : Cond.code y bytes maxL rt ∈ lw_all) (hini : (Cond.initialized y.cls) ∈ lw_all) (hins : Cond.instanceMethod y ∈ lw_all) (hsel : Cond.selects C y y ∈ lw_all) (hd : y.cls ≠ "java/lang/invoke/MethodHandle" ∧ y.cls ≠ "java/lang/invoke/VarHandle" ∧ (parseMethodDescriptor y.desc).map (fun d => d.parameters.length) = some n) (hrm : fr2 + 1 ≤ fr ∧ 8 + (maxL + 11) + lo2 ≤ lo) (hn : As.length = n) (hW : (rest.map zc).sum ≤ 8) (d : decode cc pc = .ok (.invokevirtual idx, 3)) (hst : As.reverse ++ zr (some b) :: rest = st) : ZRun X σ pc lv st rest out := by
  subst hst
  intro H locs ls hge hR2 hS hl
  have hM2 := hM (zt H)
  rw [← h.la] at hM2
  have hR := hR2
  exact ⟨_, _, _, vx_runVN (As := As.map zvv) (rest := rest.map zvv) (C := C) (z_fix h) hM2 ⟨va_cnB n h.ts (lw_meth hcd) rfl rfl rfl (va_Nw.warmM h.env.2.1 (h.nw hl1 rfl)) (h.ts _ hini) hd (z_rm h hrm), h.ts _ hins, h.ts _ hsel⟩ ⟨zPc_blind, z_recv h hR hc hb, z_at h hS hR _⟩ rfl (by rw [List.length_map]; exact hn) hl.1 (by simp [F0, zvv, va_rf]) (lv_room (by rw [zcs_eq]; exact hW)) d (z_fit h hS hR hge)⟩
/-- a virtual method that a superclass declares -/
theorem z_runU (h : ZC X own cc ret fr lo) {C : String} {T : u_T} {N ci : Nat} (hc : zcl[ci]? = some (C, T, N)) {y : MethodName} {bytes : ByteArray} {maxL idx fr2 lo2 b : Nat} {rt : Option FieldType} {As : List zV} {fs : List Value} {out : zOut} (n : Nat) (hb : σ.1 b = some (.inr (ci, fs))) {owner : String} {x : MethodName} (hM : ZM X.g y (ws_ y bytes maxL rt) fr2 lo2 (zr (some b) :: As) σ out) (hV : GoodIn lw_all (va_wsU own idx C owner x y (ws_ y bytes maxL rt))) (hyx : y = ⟨owner, x.name, x.desc⟩) (hd : owner ≠ "java/lang/invoke/MethodHandle" ∧ owner ≠ "java/lang/invoke/VarHandle" ∧ (parseMethodDescriptor x.desc).map (fun d => d.parameters.length) = some n) (hrm : fr2 + 1 ≤ fr ∧ 8 + (maxL + 11) + lo2 ≤ lo) (hn : As.length = n) (hW : (rest.map zc).sum ≤ 8) (d : decode cc pc = .ok (.invokevirtual idx, 3)) (hst : As.reverse ++ zr (some b) :: rest = st) : ZRun X σ pc lv st rest out := by
  subst hst
  intro H locs ls hge hR2 hS hl
  have hM2 := hM (zt H)
  rw [← h.la] at hM2
  have hR := hR2
  exact ⟨_, _, _, vx_runU (As := As.map zvv) (rest := rest.map zvv) (z_fix h) hM2 (va_cwU n h.ts hV rfl rfl rfl hyx hd (z_rm h hrm)) ⟨zPc_blind, z_recv h hR hc hb, z_at h hS hR _⟩ rfl (by rw [List.length_map]; exact hn) hl.1 (by simp [F0, zvv, va_rf]) (lv_room (by rw [zcs_eq]; exact hW)) d (z_fit h hS hR hge)⟩
/-- a virtual method, declared abstract above -/
theorem z_runA (h : ZC X own cc ret fr lo) {C : String} {T : u_T} {N ci : Nat} (hc : zcl[ci]? = some (C, T, N)) {y : MethodName} {bytes : ByteArray} {maxL idx fr2 lo2 b : Nat} {rt : Option FieldType} {As : List zV} {fs : List Value} {out : zOut} (n : Nat) (hb : σ.1 b = some (.inr (ci, fs))) {owner : String} {x : MethodName} (hM : ZM X.g y (ws_ y bytes maxL rt) fr2 lo2 (zr (some b) :: As) σ out) (hV : GoodIn lw_all (va_wsU own idx C owner x y (ws_ y bytes maxL rt))) (hz : (Cond.declares ⟨owner, x.name, x.desc⟩) ∈ lw_tbl) (hd : owner ≠ "java/lang/invoke/MethodHandle" ∧ owner ≠ "java/lang/invoke/VarHandle" ∧ (parseMethodDescriptor x.desc).map (fun d => d.parameters.length) = some n) (hrm : fr2 + 1 ≤ fr ∧ 8 + (maxL + 11) + lo2 ≤ lo) (hn : As.length = n) (hW : (rest.map zc).sum ≤ 8) (d : decode cc pc = .ok (.invokevirtual idx, 3)) (hst : As.reverse ++ zr (some b) :: rest = st) : ZRun X σ pc lv st rest out := by
  subst hst
  intro H locs ls hge hR2 hS hl
  have hM2 := hM (zt H)
  rw [← h.la] at hM2
  have hR := hR2
  exact ⟨_, _, _, vx_runU (As := As.map zvv) (rest := rest.map zvv) (z_fix h) hM2 (va_cwA n h.ts hV rfl rfl rfl (va_Nw.warmD h.env.2.1 (h.nw hz rfl)) hd (z_rm h hrm)) ⟨zPc_blind, z_recv h hR hc hb, z_at h hS hR _⟩ rfl (by rw [List.length_map]; exact hn) hl.1 (by simp [F0, zvv, va_rf]) (lv_room (by rw [zcs_eq]; exact hW)) d (z_fit h hS hR hge)⟩
/-- super.m() -/
theorem z_runSU (h : ZC X own cc ret fr lo) {C : String} {T : u_T} {N ci : Nat} (hc : zcl[ci]? = some (C, T, N)) {y : MethodName} {bytes : ByteArray} {maxL idx fr2 lo2 b : Nat} {rt : Option FieldType} {As : List zV} {fs : List Value} {out : zOut} (n : Nat) (hb : σ.1 b = some (.inr (ci, fs))) (hM : ZM X.g y (ws_ y bytes maxL rt) fr2 lo2 (zr (some b) :: As) σ out) (hV : GoodIn lw_all (va_wsSU own idx y (ws_ y bytes maxL rt))) (hd : y.name ≠ "<init>" ∧ (parseMethodDescriptor y.desc).map (fun d => d.parameters.length) = some n) (hrm : fr2 + 1 ≤ fr ∧ 8 + (maxL + 11) + lo2 ≤ lo) (hn : As.length = n) (hW : (rest.map zc).sum ≤ 8) (d : decode cc pc = .ok (.invokespecial idx, 3)) (hst : As.reverse ++ zr (some b) :: rest = st) : ZRun X σ pc lv st rest out := by
  subst hst
  intro H locs ls hge hR2 hS hl
  have hM2 := hM (zt H)
  rw [← h.la] at hM2
  have hR := hR2
  exact ⟨_, _, _, vx_runSU (As := As.map zvv) (rest := rest.map zvv) (h.K.1 ci _ hc).2 (z_fix h) hM2 (va_cwSU n h.ts hV rfl rfl rfl hd (z_rm h hrm)) ⟨zPc_blind, z_recv h hR hc hb, z_at h hS hR _⟩ rfl (by rw [List.length_map]; exact hn) hl.1 (by simp [F0, zvv, va_rf]) (lv_room (by rw [zcs_eq]; exact hW)) d (z_fit h hS hR hge)⟩
/-- through an interface -/
theorem z_runF (h : ZC X own cc ret fr lo) {C : String} {T : u_T} {N ci : Nat} (hc : zcl[ci]? = some (C, T, N)) {y : MethodName} {bytes : ByteArray} {maxL idx fr2 lo2 b : Nat} {rt : Option FieldType} {As : List zV} {fs : List Value} {out : zOut} (n : Nat) (hb : σ.1 b = some (.inr (ci, fs))) {x : MethodName} {count : Nat} (hM : ZM X.g y (ws_ y bytes maxL rt) fr2 lo2 (zr (some b) :: As) σ out) (hV : GoodIn lw_all (va_wsF own idx C x y (ws_ y bytes maxL rt))) (f1 : (Cond.declares x) ∈ lw_tbl) (f2 : (Cond.interfaceMethod x.cls x.cls x.name x.desc) ∈ lw_tbl) (f3 : (Cond.publicMethod y) ∈ lw_tbl) (f4 : (Cond.unhidden C x.name x.desc) ∈ lw_tbl) (f5 : (Cond.castable C x.cls) ∈ lw_tbl) (hd : x.cls ≠ "java/lang/invoke/MethodHandle" ∧ x.cls ≠ "java/lang/invoke/VarHandle" ∧ (parseMethodDescriptor x.desc).map (fun d => d.parameters.length) = some n) (hrm : fr2 + 1 ≤ fr ∧ 8 + (maxL + 11) + lo2 ≤ lo) (hn : As.length = n) (hW : (rest.map zc).sum ≤ 8) (d : decode cc pc = .ok (.invokeinterface idx count, 5)) (hst : As.reverse ++ zr (some b) :: rest = st) : ZRun5 X σ pc lv st rest out := by
  subst hst
  intro H locs ls hge hR2 hS hl
  have hM2 := hM (zt H)
  rw [← h.la] at hM2
  have hR := hR2
  obtain ⟨a, hw, -⟩ := h.env.1.2.2.1
  exact ⟨_, _, _, vx_runF (As := As.map zvv) (rest := rest.map zvv) (h.K.1 ci _ hc).2 (z_fix h) hM2 (va_cwF n h.ts hV rfl rfl rfl (va_Fw.moved ⟨hd.1, hd.2.1⟩ h.env.2.1.alike (va_Fw.of (hw _ f1) (hw _ f2) (hw _ f3) (hw _ f4) (hw _ f5))) hd (z_rm h hrm)) ⟨zPc_blind, z_recv h hR hc hb, z_at h hS hR _⟩ rfl (by rw [List.length_map]; exact hn) hl.1 (by simp [F0, zvv, va_rf]) (lv_room (by rw [zcs_eq]; exact hW)) d (z_fit h hS hR hge)⟩
/-- a constructor -/
theorem z_runI (h : ZC X own cc ret fr lo) {y : MethodName} {bytes : ByteArray} {maxL idx fr2 lo2 b : Nat} {As : List zV} {out : zOut} (n : Nat) (hM : ZM X.g y (ws_ y bytes maxL none) fr2 lo2 (zr (some b) :: As) σ out) (hcd : Cond.code y bytes maxL none ∈ lw_all) (hy1 : y.name = "<init>") (hini : (Cond.initialized y.cls) ∈ lw_all) (hlk : (Cond.methodLink own idx y) ∈ lw_all) (hins : Cond.instanceMethod y ∈ lw_all) (hd : y.cls ≠ "java/lang/invoke/MethodHandle" ∧ y.cls ≠ "java/lang/invoke/VarHandle" ∧ (parseMethodDescriptor y.desc).map (fun d => d.parameters.length) = some n) (hrm : fr2 + 1 ≤ fr ∧ 8 + (maxL + 11) + lo2 ≤ lo) (hn : As.length = n) (hW : (rest.map zc).sum ≤ 8) (d : decode cc pc = .ok (.invokespecial idx, 3)) (hst : As.reverse ++ zr (some b) :: rest = st) : ZRun X σ pc lv st rest out := by
  subst hst
  intro H locs ls hge hR2 hS hl
  have hM2 := hM (zt H)
  rw [← h.la] at hM2
  have hR := hR2
  exact ⟨_, _, _, vx_runI (As := As.map zvv) (rest := rest.map zvv) (z_fix h) hM2 ⟨callB_of n h.ts (lw_meth hcd) rfl rfl rfl (h.ts _ hini) (h.ts _ hlk) hd (z_rm h hrm), hy1, h.ts _ hins⟩ ⟨zPc_blind, z_at h hS hR _⟩ rfl (by rw [List.length_map]; exact hn) hl.1 (by simp [F0, zvv, va_rf]) (lv_room (by rw [zcs_eq]; exact hW)) d (z_fit h hS hR hge)⟩
theorem z_runIN (h : ZC X own cc ret fr lo) {y : MethodName} {bytes : ByteArray} {maxL idx fr2 lo2 b : Nat} {As : List zV} {out : zOut} (n : Nat) {host : String} (hM : ZM X.g y (ws_ y bytes maxL none) fr2 lo2 (zr (some b) :: As) σ out) (hcd : Cond.code y bytes maxL none ∈ lw_all) (hy1 : y.name = "<init>") (hini : (Cond.initialized y.cls) ∈ lw_all) (hl1 : (Cond.methodLinkNest own idx y host) ∈ lw_tbl) (hins : Cond.instanceMethod y ∈ lw_all) (hd : y.cls ≠ "java/lang/invoke/MethodHandle" ∧ y.cls ≠ "java/lang/invoke/VarHandle" ∧ (parseMethodDescriptor y.desc).map (fun d => d.parameters.length) = some n) (hrm : fr2 + 1 ≤ fr ∧ 8 + (maxL + 11) + lo2 ≤ lo) (hn : As.length = n) (hW : (rest.map zc).sum ≤ 8) (d : decode cc pc = .ok (.invokespecial idx, 3)) (hst : As.reverse ++ zr (some b) :: rest = st) : ZRun X σ pc lv st rest out := by
  subst hst
  intro H locs ls hge hR2 hS hl
  have hM2 := hM (zt H)
  rw [← h.la] at hM2
  have hR := hR2
  exact ⟨_, _, _, vx_runIN (As := As.map zvv) (rest := rest.map zvv) (z_fix h) hM2 ⟨va_cnB n h.ts (lw_meth hcd) rfl rfl rfl (va_Nw.warmM h.env.2.1 (h.nw hl1 rfl)) (h.ts _ hini) hd (z_rm h hrm), hy1, h.ts _ hins⟩ ⟨zPc_blind, z_at h hS hR _⟩ rfl (by rw [List.length_map]; exact hn) hl.1 (by simp [F0, zvv, va_rf]) (lv_room (by rw [zcs_eq]; exact hW)) d (z_fit h hS hR hge)⟩
/-- a static method -/
theorem z_runS (h : ZC X own cc ret fr lo) {y : MethodName} {bytes : ByteArray} {maxL idx fr2 lo2 : Nat} {rt : Option FieldType} {As : List zV} {out : zOut} (n : Nat) (hM : ZM X.g y (ws_ y bytes maxL rt) fr2 lo2 As σ out) (hV : GoodIn lw_all (va_wsS own idx y (ws_ y bytes maxL rt))) (hd : y.cls ≠ "java/lang/invoke/MethodHandle" ∧ y.cls ≠ "java/lang/invoke/VarHandle" ∧ (parseMethodDescriptor y.desc).map (fun d => d.parameters.length) = some n) (hrm : fr2 + 1 ≤ fr ∧ 8 + (maxL + 11) + lo2 ≤ lo) (hn : As.length = n) (hW : (rest.map zc).sum ≤ 8) (d : decode cc pc = .ok (.invokestatic idx, 3)) (hst : As.reverse ++ rest = st) : ZRun X σ pc lv st rest out := by
  subst hst
  intro H locs ls hge hR2 hS hl
  have hM2 := hM (zt H)
  rw [← h.la] at hM2
  have hR := hR2
  exact ⟨_, _, _, vx_runS (As := As.map zvv) (rest := rest.map zvv) (z_fix h) hM2 (va_cwS n h.ts hV rfl rfl rfl hd (z_rm h hrm)) ⟨zPc_blind, z_at h hS hR _⟩ rfl (by rw [List.length_map]; exact hn) hl.1 (by simp [F0, zvv, va_rf]) (lv_room (by rw [zcs_eq]; exact hW)) d (z_fit h hS hR hge)⟩
theorem z_runSX (h : ZC X own cc ret fr lo) {y : MethodName} {bytes : ByteArray} {maxL idx fr2 lo2 : Nat} {rt : Option FieldType} {As : List zV} {out : zOut} (n : Nat) {hh : List (Nat × Nat × Nat × Nat)} (hM : ZM X.g y (wsW_ y bytes maxL rt hh) fr2 lo2 As σ out) (hV : GoodIn lw_all (va_wsS own idx y (wsW_ y bytes maxL rt hh))) (hd : y.cls ≠ "java/lang/invoke/MethodHandle" ∧ y.cls ≠ "java/lang/invoke/VarHandle" ∧ (parseMethodDescriptor y.desc).map (fun d => d.parameters.length) = some n) (hrm : fr2 + 1 ≤ fr ∧ 8 + (maxL + 11) + lo2 ≤ lo) (hn : As.length = n) (hW : (rest.map zc).sum ≤ 8) (d : decode cc pc = .ok (.invokestatic idx, 3)) (hst : As.reverse ++ rest = st) : ZRun X σ pc lv st rest out := by
  subst hst
  intro H locs ls hge hR2 hS hl
  have hM2 := hM (zt H)
  rw [← h.la] at hM2
  have hR := hR2
  exact ⟨_, _, _, vx_runSX (As := As.map zvv) (rest := rest.map zvv) (z_fix h) hM2 (vx_cwSW n h.ts hV rfl rfl rfl hd (z_rm h hrm)) ⟨zPc_blind, z_at h hS hR _⟩ rfl (by rw [List.length_map]; exact hn) hl.1 (by simp [F0, zvv, va_rf]) (lv_room (by rw [zcs_eq]; exact hW)) d (z_fit h hS hR hge)⟩
theorem z_runSN (h : ZC X own cc ret fr lo) {y : MethodName} {bytes : ByteArray} {maxL idx fr2 lo2 : Nat} {rt : Option FieldType} {As : List zV} {out : zOut} (n : Nat) {host : String} (hM : ZM X.g y (ws_ y bytes maxL rt) fr2 lo2 As σ out) (hl1 : (Cond.methodLinkNest own idx y host) ∈ lw_tbl) (hcd : Cond.code y bytes maxL rt ∈ lw_all) (hini : (Cond.initialized y.cls) ∈ lw_all) (hst1 : Cond.static y ∈ lw_all) (hd : y.cls ≠ "java/lang/invoke/MethodHandle" ∧ y.cls ≠ "java/lang/invoke/VarHandle" ∧ (parseMethodDescriptor y.desc).map (fun d => d.parameters.length) = some n) (hrm : fr2 + 1 ≤ fr ∧ 8 + (maxL + 11) + lo2 ≤ lo) (hn : As.length = n) (hW : (rest.map zc).sum ≤ 8) (d : decode cc pc = .ok (.invokestatic idx, 3)) (hst : As.reverse ++ rest = st) : ZRun X σ pc lv st rest out := by
  subst hst
  intro H locs ls hge hR2 hS hl
  have hM2 := hM (zt H)
  rw [← h.la] at hM2
  have hR := hR2
  exact ⟨_, _, _, vx_runSN (As := As.map zvv) (rest := rest.map zvv) (z_fix h) hM2 ⟨va_cnB n h.ts (lw_meth hcd) rfl rfl rfl (va_Nw.warmM h.env.2.1 (h.nw hl1 rfl)) (h.ts _ hini) hd (z_rm h hrm), h.ts _ hst1, trivial⟩ ⟨zPc_blind, z_at h hS hR _⟩ rfl (by rw [List.length_map]; exact hn) hl.1 (by simp [F0, zvv, va_rf]) (lv_room (by rw [zcs_eq]; exact hW)) d (z_fit h hS hR hge)⟩
theorem z_rcO {r : Option Nat} {ci : Nat} {γ : Type} {F : Nat → Option γ} {o : γ} (hf : zo (zrc σ r ci) F = some o) : ∃ a fs, r = some a ∧ σ.1 a = some (.inr (ci, fs)) ∧ F a = some o := by
  obtain ⟨a, h1, h2⟩ := zo_some hf
  obtain ⟨h3, fs, h4⟩ := zrc_some h1
  exact ⟨a, fs, h3, h4, h2⟩
theorem z_rcN {b : Nat} {ci : Nat} {γ : Type} {F : Nat → Option γ} {o : γ} (hf : zo (zrc σ (some b) ci) F = some o) : ∃ fs, σ.1 b = some (.inr (ci, fs)) ∧ F b = some o := by
  obtain ⟨a, fs, h1, h2, h3⟩ := z_rcO hf
  cases h1
  exact ⟨fs, h2, h3⟩
theorem zm4 {α : Type} {L : List α} {a b c d : α} (h1 : a ∈ L) (h2 : b ∈ L) (h3 : c ∈ L) (h4 : d ∈ L) : ∀ w ∈ [a, b, c, d], w ∈ L := by
  intro w hw
  simp only [List.mem_cons, List.not_mem_nil, or_false] at hw
  rcases hw with e | e | e | e
  · rw [e]; exact h1
  · rw [e]; exact h2
  · rw [e]; exact h3
  · rw [e]; exact h4
theorem zm5 {α : Type} {L : List α} {a b c d e : α} (h1 : a ∈ L) (h2 : b ∈ L) (h3 : c ∈ L) (h4 : d ∈ L) (h5 : e ∈ L) : ∀ w ∈ [a, b, c, d, e], w ∈ L := by
  intro w hw
  rcases List.mem_cons.mp hw with q | q
  · rw [q]; exact h1
  · exact zm4 h2 h3 h4 h5 w q
theorem zif_t {c : Prop} [Decidable c] {α : Type} {A B o : α} (h : (if c then A else B) = o) (hc : c) : A = o := by rw [if_pos hc] at h; exact h
theorem zif_f {c : Prop} [Decidable c] {α : Type} {A B o : α} (h : (if c then A else B) = o) (hc : ¬ c) : B = o := by rw [if_neg hc] at h; exact h
end ZCALL
