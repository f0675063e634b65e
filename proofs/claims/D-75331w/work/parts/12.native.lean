/-! natives, ends, the entry -/
set_option maxRecDepth 100000
/-- System.arraycopy between arrays of ints of one kind -/
def zcpI (G : Nat → Nat) (σ : zS) (rs : Option Nat) (sp : Int32) (rd : Option Nat) (dp n : Int32) : Option zS := match zarr σ rs, zarr σ rd with
  | some (_, t, n0, .inl f), some (a, t', n1, .inl g) => if t = t' ∧ (t = 0 ∨ t = 2) ∧ G 0 ≤ a ∧ ¬ sp < 0 ∧ ¬ dp < 0 ∧ ¬ n < 0 ∧ sp.toNatClampNeg + n.toNatClampNeg ≤ n0 ∧ dp.toNatClampNeg + n.toNatClampNeg ≤ n1 ∧ (t = 0 ∨ ∀ i, i < n.toNatClampNeg → fits .byte (.int (f (sp.toNatClampNeg + i))) = true) then some (va_up σ.1 a (some (.inl (t', n1, .inl (va_cpy f g sp.toNatClampNeg dp.toNatClampNeg n.toNatClampNeg)))), σ.2) else none
  | _, _ => none
/-- .. between Object[]s: each is null or an object of one of the classes told -/
def zcpR (G : Nat → Nat) (σ : zS) (rs : Option Nat) (sp : Int32) (rd : Option Nat) (dp n : Int32) (ok : List Nat) : Option zS := match zarr σ rs, zarr σ rd with
  | some (_, t, n0, .inr (.inr f)), some (a, t', n1, .inr (.inr g)) => if t = 5 ∧ t' = 5 ∧ G 0 ≤ a ∧ ¬ sp < 0 ∧ ¬ dp < 0 ∧ ¬ n < 0 ∧ sp.toNatClampNeg + n.toNatClampNeg ≤ n0 ∧ dp.toNatClampNeg + n.toNatClampNeg ≤ n1 ∧ (∀ i, i < n.toNatClampNeg → f (sp.toNatClampNeg + i) = none ∨ ∃ c ∈ ok, zcls σ (f (sp.toNatClampNeg + i)) = some c) then some (va_up σ.1 a (some (.inl (t', n1, .inr (.inr (va_cpy f g sp.toNatClampNeg dp.toNatClampNeg n.toNatClampNeg))))), σ.2) else none
  | _, _ => none
theorem znfw : nativeFrameWords "java/lang/System" "arraycopy" 5 + 11 ≤ 60 := by decide +kernel
section ZNAT
variable {X : zX} {own : String} {cc : ByteArray} {ret : Option FieldType} {fr lo : Nat} {σ : zS} {pc : Nat} {lv lv' : List (Nat × zV)} {rest st : List zV}
/-- the cell behind a copy -/
theorem zat_copy {Γ : zG} {a t sp dp n n0 n1 : Nat} {x y y' : zA} {cs cd : Cell} {H1 : Heap} (hs6 : cs.slots.size = n0) (hs8 : ∀ j : Nat, j < n0 → cs.slots[j]? = some (zcv x j)) (g2 : ∀ k, cd.vm ≠ .statics k) (g3 : cd.vm ≠ .unknown) (g4 : Γ.1 0 ≤ a → cd.vm = .none) (g5 : cd.cls = Γ.2.2.1 t) (g6 : cd.slots.size = n1) (g7 : n1 < 2 ^ 31) (g8 : ∀ j : Nat, j < n1 → cd.slots[j]? = some (zcv y j)) (h1 : sp + n ≤ n0) (h2 : dp + n ≤ n1) (hy : ∀ j : Nat, j < n1 → zcv y' j = if dp ≤ j ∧ j < dp + n then zcv x (sp + (j - dp)) else zcv y j) (e1 : H1[a]? = some (cd.storeRun dp (cs.stretch sp n))) : zat Γ a (.inl (t, n1, y')) H1 := by
  obtain ⟨f1, f2, f3, -, -⟩ := Cell.storeRun_facts cd dp (cs.stretch sp n)
  refine ⟨_, e1, by rw [f2]; exact g2, by rw [f2]; exact g3, fun q => by rw [f2]; exact g4 q, by rw [f1]; exact g5, by rw [f3]; exact g6, g7, fun j hj => ?_⟩
  rw [Cell.storeRun_get _ _ _ _ (by rw [Cell.stretch_length]; omega), Cell.stretch_length, hy j hj]
  by_cases hq : dp ≤ j ∧ j < dp + n
  · rw [if_pos hq, if_pos hq]
    unfold Cell.stretch
    rw [List.getElem?_map, List.getElem?_range (by omega)]
    simp only [Option.map_some]
    rw [Array.getD_eq_getD_getElem?, hs8 _ (by omega)]
    rfl
  · rw [if_neg hq, if_neg hq, g8 j hj]
theorem z_cl (x : Int32) (h : ¬ x < 0) : x.toInt = (x.toNatClampNeg : Int) := by
  have h1 : 0 ≤ x.toInt := by
    rw [Int32.lt_iff_toInt_lt, Int32.toInt_zero] at h
    omega
  have h2 : (x.toNatClampNeg : Int) = x.toInt := by
    show (x.toInt.toNat : Int) = x.toInt
    omega
  exact h2.symm

theorem z_copyI (h : ZC X own cc ret fr lo) {i : Nat} (hlk : (Cond.methodLink own i arraycopyName) ∈ lw_all) (hnat : (Cond.native arraycopyName) ∈ lw_all) (hst : (Cond.static arraycopyName) ∈ lw_all) (hini : (Cond.initialized "java/lang/System") ∈ lw_all) (hfr : 1 ≤ fr) (hlo : (rest.map zc).sum + 60 ≤ lo) (d : decode cc pc = .ok (.invokestatic i, 3)) {rs rd : Option Nat} {sp dp n : Int32} {γ : Type} {F : zS → Option γ} {out : γ} (hf : zo (zcpI X.g.1 σ rs sp rd dp n) F = some out)
    (kk : ∀ σ', F σ' = some out → ZW X σ' (pc + 3) lv rest) : ZW X σ pc lv (zi n :: zi dp :: zr rd :: zi sp :: zr rs :: rest) := by
  obtain ⟨σ', h1, h2⟩ := zo_some hf
  unfold zcpI at h1
  split at h1
  · rename_i a0 t n0 f a t' n1 g hz1 hz2
    obtain ⟨rfl, ha0⟩ := zarr_some hz1
    obtain ⟨rfl, ha⟩ := zarr_some hz2
    split at h1
    · rename_i q
      obtain ⟨rfl, ht02, hA, c1, c2, c3, c4, c5, hfit⟩ := q
      cases h1
      intro H locs ls hR hS hl2
      obtain ⟨cs, p1, p2, p3, p4, p5, p6, p7, p8⟩ := hR.2.2.2.2 a0 _ ha0
      obtain ⟨cd, q1, q2, q3, q4, q5, q6, q7, q8⟩ := hR.2.2.2.2 a _ ha
      obtain ⟨ty, ht, hrk⟩ : ∃ ty : FieldType, ztys[t]? = some ty ∧ ((ty = .int ∧ t = 0) ∨ (ty = .byte ∧ t = 2)) := by
        rcases ht02 with rfl | rfl
        · exact ⟨_, rfl, Or.inl ⟨rfl, rfl⟩⟩
        · exact ⟨_, rfl, Or.inr ⟨rfl, rfl⟩⟩
      obtain ⟨k, comp, k1, k2, k3, k4⟩ := h.K.2 t ty ht
      intro T hT Y
      obtain ⟨vm', Y', step⟩ := Y.arraycopy h.x h.ow (h.ts _ hlk) (h.ts _ hnat) (h.ts _ hst) (h.ts _ hini) (src := a0) (dst := a) (cs := cs) (cd := cd) (srcPos := sp) (destPos := dp) (n := n) (by rw [hT]; exact p1) (by rw [hT]; exact q1) p2 q2 p3 q3 (by rw [p5]; exact k1) (by rw [q5]; exact k1) k2 k2 (by rcases hrk with ⟨rfl, -⟩ | ⟨rfl, -⟩ <;> rfl) c1 c2 c3
        (by rw [z_cl sp c1, z_cl n c3, p6]; omega) (by rw [z_cl dp c2, z_cl n c3, q6]; omega)
        (fun vm₁ hal i hi => by
          have e : cs.slots.getD (sp.toNatClampNeg + i) .null = Value.int (f (sp.toNatClampNeg + i)) := by
            rw [Array.getD_eq_getD_getElem?, p8 _ (by omega)]
            rfl
          rw [e]
          refine ⟨?_, trivial⟩
          rcases hrk with ⟨rfl, -⟩ | ⟨rfl, rfl⟩
          · rfl
          · rcases hfit with hq | hq
            · exact absurd hq (by decide)
            · exact hq i hi)
        (g := F0 X.m pc ls (.int n :: .int dp :: .ref a :: .int sp :: .ref a0 :: rest.map zvv)) rfl (by rw [h.ml]; exact hl2.1) (rest := rest.map zvv) rfl (by rw [h.b]; exact d) (by rw [h.room]; exact hfr) (by rw [h.room]; show 2 * 0 + _ + _ ≤ lo; rw [zcs_eq]; have := znfw; omega)
      have hl : a < H.size := (Array.getElem?_eq_some_iff.mp q1).1
      generalize hH1 : H.setIfInBounds a (copied cs cd sp dp n) = H1
      have hheap : ((T.setVm vm').setCell a (copied cs cd sp dp n)).heap = H1 := by rw [← hH1, ← hT]; rfl
      have e1 : H1[a]? = some (copied cs cd sp dp n) := by rw [← hH1]; simp [Array.getElem?_setIfInBounds, hl]
      have e2 : H1.size = H.size := by rw [← hH1]; simp
      have e3 : ∀ q : Nat, q ≠ a → H1[q]? = H[q]? := fun q hq => by rw [← hH1]; simp [Array.getElem?_setIfInBounds, Ne.symm hq]
      have hzt := zt_set e2 e3 q1 e1 (Cell.storeRun_facts _ _ _).2.2.1
      have hS2 : va_S (zFr X.g) X.s.heap H1 (locs ++ (cs.stretch sp.toNatClampNeg n.toNatClampNeg).zipIdx.map fun q => ⟨a, dp.toNatClampNeg + q.2⟩) := ⟨by rw [e2]; exact hS.1, fun q g1 g2 => by
          rw [e3 q (fun e => g2 (by rw [e]; exact hA))]
          exact hS.2.1 q g1 g2, fun q hq => by
          rcases List.mem_append.mp hq with h | h
          · exact hS.2.2 q h
          · obtain ⟨z, -, hz⟩ := List.mem_map.mp h
            rw [← hz]
            exact hA⟩
      have := kk _ h2 H1 _ ls (hR.set e2 e3 hzt (zat_copy p6 p8 q2 q3 q4 q5 q6 q7 q8 c4 c5 (fun j hj => by
        by_cases hq : dp.toNatClampNeg ≤ j ∧ j < dp.toNatClampNeg + n.toNatClampNeg
        · rw [if_pos hq]; simp [zcv, va_cpy, hq]
        · rw [if_neg hq]; simp [zcv, va_cpy, hq]) e1)) hS2 hl2
      unfold zw at this
      rw [e2, hzt] at this
      obtain ⟨t, a1, b1⟩ := this _ hheap Y'
      exact ⟨t, step t a1, b1⟩
    · cases h1
  · cases h1
theorem z_copyR (h : ZC X own cc ret fr lo) {ok : List Nat} (hok : zobs ok) {i : Nat} (hlk : (Cond.methodLink own i arraycopyName) ∈ lw_all) (hnat : (Cond.native arraycopyName) ∈ lw_all) (hst : (Cond.static arraycopyName) ∈ lw_all) (hini : (Cond.initialized "java/lang/System") ∈ lw_all) (hfr : 1 ≤ fr) (hlo : (rest.map zc).sum + 60 ≤ lo) (d : decode cc pc = .ok (.invokestatic i, 3)) {rs rd : Option Nat} {sp dp n : Int32} {γ : Type} {F : zS → Option γ} {out : γ} (hf : zo (zcpR X.g.1 σ rs sp rd dp n ok) F = some out)
    (kk : ∀ σ', F σ' = some out → ZW X σ' (pc + 3) lv rest) : ZW X σ pc lv (zi n :: zi dp :: zr rd :: zi sp :: zr rs :: rest) := by
  obtain ⟨σ', h1, h2⟩ := zo_some hf
  unfold zcpR at h1
  split at h1
  · rename_i a0 t n0 f a t' n1 g hz1 hz2
    obtain ⟨rfl, ha0⟩ := zarr_some hz1
    obtain ⟨rfl, ha⟩ := zarr_some hz2
    split at h1
    · rename_i q
      obtain ⟨rfl, rfl, hA, c1, c2, c3, c4, c5, hel⟩ := q
      cases h1
      intro H locs ls hR hS hl2
      obtain ⟨cs, p1, p2, p3, p4, p5, p6, p7, p8⟩ := hR.2.2.2.2 a0 _ ha0
      obtain ⟨cd, q1, q2, q3, q4, q5, q6, q7, q8⟩ := hR.2.2.2.2 a _ ha
      obtain ⟨t, hte⟩ : ∃ t : Nat, t = 5 := ⟨_, rfl⟩
      obtain ⟨ty, hty⟩ : ∃ ty : FieldType, ty = .object "java/lang/Object" := ⟨_, rfl⟩
      have ht : ztys[t]? = some ty := by rw [hte, hty]; rfl
      rw [← hte] at p5 q5
      obtain ⟨k, comp, k1, k2, k3, k4⟩ := h.K.2 t ty ht
      intro T hT Y
      obtain ⟨vm', Y', step⟩ := Y.arraycopy h.x h.ow (h.ts _ hlk) (h.ts _ hnat) (h.ts _ hst) (h.ts _ hini) (src := a0) (dst := a) (cs := cs) (cd := cd) (srcPos := sp) (destPos := dp) (n := n) (by rw [hT]; exact p1) (by rw [hT]; exact q1) p2 q2 p3 q3 (by rw [p5]; exact k1) (by rw [q5]; exact k1) k2 k2 (by rw [hty]; rfl) c1 c2 c3
        (by rw [z_cl sp c1, z_cl n c3, p6]; omega) (by rw [z_cl dp c2, z_cl n c3, q6]; omega)
        (fun vm₁ hal i hi => by
          have e : cs.slots.getD (sp.toNatClampNeg + i) .null = va_rf (f (sp.toNatClampNeg + i)) := by
            rw [Array.getD_eq_getD_getElem?, p8 _ (by omega)]
            rfl
          rw [e]
          rw [hty]
          rcases hel i hi with hq | ⟨c, hc, hcv⟩
          · rw [hq]
            exact ⟨rfl, trivial⟩
          · obtain ⟨b, fs, hb1, hb⟩ := zcls_some hcv
            rw [hb1]
            refine ⟨rfl, ?_⟩
            obtain ⟨r, hr, hcast⟩ := hok c hc
            obtain ⟨cb, b1, b2, b3, b4, b5, b6⟩ := hR.2.2.2.2 b _ hb
            obtain ⟨C, TT, N⟩ := r
            have hfc : X.s.vm.findClass C = some cb.cls := by rw [b5]; exact (h.K.1 c _ hr).2.1
            obtain ⟨a9, hw9, -⟩ := h.env.1.2.2.1
            have hct : va_Nw (.castable C "java/lang/Object") X.s := va_Nw.warmC h.env.2.1 (va_Nw.of rfl (hw9 _ hcast))
            obtain ⟨c0, t0, f1, f2, f3⟩ := Cond.castable_spec (va_Nw.use (A := X.args) rfl hct)
            cases hfc.symm.trans f1
            obtain ⟨kc, k5, k6⟩ := k4 (by rw [hty]; rfl) (by rw [hty]; simp)
            rw [hty] at k6
            cases (show X.s.vm.findClass "java/lang/Object" = some comp from k6).symm.trans f2
            obtain ⟨kv, hkv, -⟩ := Vm.findClass_spec hfc
            obtain ⟨kv', hkv', -⟩ := hal.2.2 _ _ hkv
            obtain ⟨kc', hkc', -⟩ := hal.2.2 _ _ k5
            exact ⟨cb, by show T.heap[b]? = _; rw [hT]; exact b1, b2, ⟨kv', hkv'⟩, ⟨kc', hkc'⟩, by show vm₁.assignable cb.cls comp = true; rw [hal.assignable]; exact f3⟩)
        (g := F0 X.m pc ls (.int n :: .int dp :: .ref a :: .int sp :: .ref a0 :: rest.map zvv)) rfl (by rw [h.ml]; exact hl2.1) (rest := rest.map zvv) rfl (by rw [h.b]; exact d) (by rw [h.room]; exact hfr) (by rw [h.room]; show 2 * 0 + _ + _ ≤ lo; rw [zcs_eq]; have := znfw; omega)
      have hl : a < H.size := (Array.getElem?_eq_some_iff.mp q1).1
      generalize hH1 : H.setIfInBounds a (copied cs cd sp dp n) = H1
      have hheap : ((T.setVm vm').setCell a (copied cs cd sp dp n)).heap = H1 := by rw [← hH1, ← hT]; rfl
      have e1 : H1[a]? = some (copied cs cd sp dp n) := by rw [← hH1]; simp [Array.getElem?_setIfInBounds, hl]
      have e2 : H1.size = H.size := by rw [← hH1]; simp
      have e3 : ∀ q : Nat, q ≠ a → H1[q]? = H[q]? := fun q hq => by rw [← hH1]; simp [Array.getElem?_setIfInBounds, Ne.symm hq]
      have hzt := zt_set e2 e3 q1 e1 (Cell.storeRun_facts _ _ _).2.2.1
      have hS2 : va_S (zFr X.g) X.s.heap H1 (locs ++ (cs.stretch sp.toNatClampNeg n.toNatClampNeg).zipIdx.map fun q => ⟨a, dp.toNatClampNeg + q.2⟩) := ⟨by rw [e2]; exact hS.1, fun q g1 g2 => by
          rw [e3 q (fun e => g2 (by rw [e]; exact hA))]
          exact hS.2.1 q g1 g2, fun q hq => by
          rcases List.mem_append.mp hq with h | h
          · exact hS.2.2 q h
          · obtain ⟨z, -, hz⟩ := List.mem_map.mp h
            rw [← hz]
            exact hA⟩
      have := kk _ h2 H1 _ ls (hR.set e2 e3 hzt (zat_copy p6 p8 q2 q3 q4 (by rw [q5, hte]) q6 q7 q8 c4 c5 (fun j hj => by
        by_cases hq : dp.toNatClampNeg ≤ j ∧ j < dp.toNatClampNeg + n.toNatClampNeg
        · rw [if_pos hq]; simp [zcv, va_cpy, hq]
        · rw [if_neg hq]; simp [zcv, va_cpy, hq]) e1)) hS2 hl2
      unfold zw at this
      rw [e2, hzt] at this
      obtain ⟨t, a1, b1⟩ := this _ hheap Y'
      exact ⟨t, step t a1, b1⟩
    · cases h1
  · cases h1
theorem zAO {u U : State} {A B : Array Value} {t : FieldType} (hvm : u.vm.Alike U.vm) (h : (Cond.arrayOver (.array t)).before A u = true) : (Cond.arrayOver (.array t)).before B U = true := by
  obtain ⟨comp, c, k, h1, h2, h3, h4, h5⟩ := arrayOverA_spec h
  obtain ⟨k', hk', he⟩ := hvm.2.2 _ _ h3
  have hi : (U.vm.classes.findIdx? fun (x : Class) => match x.kind with | .array component _ => component == comp | _ => false) = some c := by
    refine (va_idx_bare U.vm comp).symm.trans ?_
    first | rw [hvm.bare_eq] | rw [← hvm.bare_eq]
    exact (va_idx_bare u.vm comp).trans h2
  have hkind : k'.kind = .array comp (.array t) := by rw [he]; exact h4
  have f1 : U.vm.findClass (FieldType.array t).toString = some comp := by rw [hvm.findClass]; exact h1
  have f2 : U.vm.findClass ("[" ++ (FieldType.array t).toString) = some c := by rw [hvm.findClass]; exact h5
  unfold Cond.before Cond.holds
  simp only [Cond.value]
  rw [f1, Option.bind_some]
  refine (congrArg (fun o : Option Nat => (o.bind (fun c => (U.vm.classes[c]?).map fun (k : Class) => match k.kind with | .array _ ty => decide (ty = FieldType.array t) && decide (U.vm.findClass ("[" ++ (FieldType.array t).toString) = some c) | _ => false) == some true)) hi).trans ?_
  simp [hk', hkind, f2]
/-- byte[].clone() -/
def zclB (G : Nat → Nat) (σ : zS) (r : Option Nat) : Option (Nat × zS) := match zarr σ r with
  | some (_, t, n, .inl f) => if t = 2 ∧ σ.2.1 + 1 ≤ G 1 ∧ σ.2.2 + n ≤ G 2 ∧ G 0 ≤ σ.2.1 ∧ (∀ i, i < n → fits .byte (.int (f i)) = true) then some (σ.2.1, (va_up σ.1 σ.2.1 (some (.inl (2, n, .inl f))), σ.2.1 + 1, σ.2.2 + n)) else none
  | _ => none
theorem z_cloneB (h : ZC X own cc ret fr lo) {i : Nat} (hlk : (Cond.methodLink own i ⟨"[B", "clone", "()Ljava/lang/Object;"⟩) ∈ lw_all) (hsm : (Cond.sameMethod "[B" "java/lang/Object" "clone" "()Ljava/lang/Object;") ∈ lw_all) (hnat : (Cond.native ⟨"java/lang/Object", "clone", "()Ljava/lang/Object;"⟩) ∈ lw_all) (hins : (Cond.instanceMethod ⟨"java/lang/Object", "clone", "()Ljava/lang/Object;"⟩) ∈ lw_all) (hsel : (Cond.selects "[B" ⟨"[B", "clone", "()Ljava/lang/Object;"⟩ ⟨"java/lang/Object", "clone", "()Ljava/lang/Object;"⟩) ∈ lw_all) (hct : (Cond.castable "[B" "java/lang/Cloneable") ∈ lw_tbl) (hfr : 1 ≤ fr) (hlo : (rest.map zc).sum + 14 ≤ lo) (d : decode cc pc = .ok (.invokevirtual i, 3)) {r : Option Nat} {γ : Type} {F : Nat → zS → Option γ} {out : γ} (hf : zb (zclB X.g.1 σ r) F = some out)
    (kk : ∀ (q : Nat) (σ' : zS), F q σ' = some out → ZW X σ' (pc + 3) lv (zr (some q) :: rest)) : ZW X σ pc lv (zr r :: rest) := by
  obtain ⟨q, σ', h1, h2⟩ := zb_some hf
  unfold zclB at h1
  split at h1
  · rename_i a t n f hz
    obtain ⟨rfl, ha⟩ := zarr_some hz
    split at h1
    · rename_i hq
      obtain ⟨rfl, l1, l2, l3, hfit⟩ := hq
      cases h1
      intro H locs ls hR hS hl2
      have hz : H.size = σ.2.1 := hR.1
      refine W.ge fun hge => ?_
      have hr2 := hR.2.1
      obtain ⟨s1, s2⟩ := h.slack (k := 1) (n := n) hS (by omega) (by omega) hge
      obtain ⟨cell, q1, q2, q3, q4, q5, q6, q7, q8⟩ := hR.2.2.2.2 a _ ha
      obtain ⟨k, comp, k1, k2, k3, k4⟩ := h.K.2 2 _ rfl
      have k3 := k3 (by simp)
      have k3' : X.s.vm.findClass "[B" = some (X.g.2.2.1 2) := k3
      have hcl : va_Nw (.castable "[B" "java/lang/Cloneable") X.s := va_Nw.warmC h.env.2.1 (h.nw hct rfl)
      obtain ⟨c0, t0', f1, f2, f3⟩ := Cond.castable_spec (va_Nw.use (A := X.args) rfl hcl)
      cases k3'.symm.trans f1
      intro T hT Y
      obtain ⟨k', hk', he'⟩ := Y.warmed.alike.2.2 _ _ k1
      obtain ⟨vm', Y', st⟩ := Y.cloneArray h.x h.ow (h.ts _ hlk) (h.ts _ hsm) (h.ts _ hnat) (h.ts _ hins) (h.ts _ hsel) (a := a) (cell := cell) (by rw [hT]; exact q1) q2 q3 (by rw [q5]; exact k3') f2 (by rw [q5]; exact f3)
        (fun i v hv => by
          rw [q5]
          have hi : i < n := by
            have := (Array.getElem?_eq_some_iff.mp hv).1
            omega
          rw [q8 i hi] at hv
          cases hv
          have hkd : k'.kind = .array comp .byte := by rw [he']; exact k2
          simpa [State.fitsSlot, State.slotType?, hk', hkd, zcv] using hfit i hi)
        (g := F0 X.m pc ls (.ref a :: rest.map zvv)) rfl (by rw [h.ml]; exact hl2.1) rfl (by rw [h.b]; exact d) (by rw [h.room]; exact hfr) (by rw [h.room]; show 2 * 0 + _ + 14 ≤ lo; rw [zcs_eq]; omega) s1 (by rw [q6]; exact s2) (hloader := by rw [q5]; exact Vm.clonesLoader_of_array k1 k2)
      generalize hH1 : H.push ({ cls := cell.cls, slots := cell.slots } : Cell) = H1
      have z1 : H1.size = H.size + 1 := by rw [← hH1, Array.size_push]
      have e1 : H1[H.size]? = some ({ cls := cell.cls, slots := cell.slots } : Cell) := by rw [← hH1, Array.getElem?_push_size]
      have o1 : ∀ q : Nat, q < H.size → H1[q]? = H[q]? := fun q hq => by rw [← hH1, Array.getElem?_push, if_neg (Nat.ne_of_lt hq)]
      obtain ⟨g1, g2⟩ := hR.push (e := .inl (2, n, .inl f)) z1 o1 e1 q6 l1 l2 ⟨_, e1, (fun k z => nomatch z), (fun z => nomatch z), fun _ => rfl, q5, q6, q7, fun j hj => q8 j hj⟩
      have := kk _ _ h2 H1 locs ls g1 ⟨by have := hS.1; omega, fun q h1 h2 => (o1 q (Nat.lt_of_lt_of_le h1 hS.1)).trans (hS.2.1 q h1 h2), hS.2.2⟩ hl2
      unfold zw at this
      rw [← hz] at this
      obtain ⟨t, a1, b1⟩ := W.tight this ((T.setVm vm').pushCell { cls := cell.cls, slots := cell.slots }) (by rw [← hH1, ← hT]; rfl) Y'
      refine ⟨t, st t ?_, b1⟩
      rw [hT]
      exact a1
    · cases h1
  · cases h1
/-- getClass() of an Object[] -/
theorem z_getC (h : ZC X own cc ret fr lo) {i k : Nat} (hm : ("[Ljava/lang/Object;", k) ∈ zmir) (hlk : (Cond.methodLink own i ⟨"java/lang/Object", "getClass", "()Ljava/lang/Class;"⟩) ∈ lw_all) (hde : (Cond.declares ⟨"java/lang/Object", "getClass", "()Ljava/lang/Class;"⟩) ∈ lw_tbl) (hsel : (Cond.selects "[Ljava/lang/Object;" ⟨"java/lang/Object", "getClass", "()Ljava/lang/Class;"⟩ ⟨"java/lang/Object", "getClass", "()Ljava/lang/Class;"⟩) ∈ lw_all) (hins : (Cond.instanceMethod ⟨"java/lang/Object", "getClass", "()Ljava/lang/Class;"⟩) ∈ lw_all) (hnat : (Cond.native ⟨"java/lang/Object", "getClass", "()Ljava/lang/Class;"⟩) ∈ lw_all) (hfr : 1 ≤ fr) (hlo : (rest.map zc).sum + 14 ≤ lo) (d : decode cc pc = .ok (.invokevirtual i, 3)) {r : Option Nat} {γ : Type} {F : Unit → Option γ} {out : γ} (hf : zo (zcsA σ r 5) F = some out)
    (kk : F () = some out → ZW X σ (pc + 3) lv (zr (some (X.g.1 k)) :: rest)) : ZW X σ pc lv (zr r :: rest) := by
  obtain ⟨⟨⟩, h1, h2⟩ := zo_some hf
  unfold zcsA at h1
  split at h1
  · rename_i a t' n x hz
    obtain ⟨rfl, ha⟩ := zarr_some hz
    split at h1
    · rename_i e
      subst e
      intro H locs ls hR hS hl2
      obtain ⟨cell, q1, q2, q3, q4, q5, q6, q7, q8⟩ := hR.2.2.2.2 a _ ha
      obtain ⟨kk0, comp, k1, k2, k3, k4⟩ := h.K.2 5 _ rfl
      have k3 := k3 (by simp)
      have hde2 : va_Dc X.s := (va_Dc.of (A := #[]) (va_Nw.use rfl (h.nw hde rfl))).moved h.env.2.1.alike
      exact va_getC h.x h.b (by rw [h.ml]; exact hl2.1.symm) h.ow (h.ts _ hlk) (va_Dc.use hde2) (h.ts _ hsel) (h.ts _ hins) (h.ts _ hnat) ((h.env.1.2.2.2.2.2.1 _ hm).moved h.env.2.1.alike) ⟨cell, q1, isStatics_of q2, by rw [q5]; exact k3⟩ (by rw [h.room]; exact hfr) (by rw [h.room, zcs_eq]; exact hlo) d (kk h2 H locs ls hR hS hl2)
    · cases h1
  · cases h1
/-- new int[n][k] -/
def znewM (G : Nat → Nat) (σ : zS) (n k : Int32) : Option (Nat × zS) := if ¬ n < 0 ∧ ¬ k < 0 ∧ n.toNatClampNeg ≤ 100000 ∧ k.toNatClampNeg ≤ 100000 ∧ σ.2.1 + 1 + n.toNatClampNeg ≤ G 1 ∧ σ.2.2 + (n.toNatClampNeg + n.toNatClampNeg * k.toNatClampNeg) ≤ G 2 ∧ G 0 ≤ σ.2.1 then some (σ.2.1, ((fun a => if a = σ.2.1 then some (.inl (4, n.toNatClampNeg, .inr (.inr fun j => some (σ.2.1 + 1 + j)))) else if σ.2.1 < a ∧ a ≤ σ.2.1 + n.toNatClampNeg then some (.inl (0, k.toNatClampNeg, .inl fun _ => 0)) else σ.1 a), σ.2.1 + 1 + n.toNatClampNeg, σ.2.2 + (n.toNatClampNeg + n.toNatClampNeg * k.toNatClampNeg))) else none
theorem z_newM (h : ZC X own cc ret fr lo) {i : Nat} (hcl : (Cond.classLink own i "[[I") ∈ lw_all) (hover : (Cond.arrayOver (.array .int)) ∈ lw_tbl) (harr : (Cond.arrayClass .int) ∈ lw_all) (d : decode cc pc = .ok (.multianewarray i 2, 4)) {n k : Int32} {γ : Type} {F : Nat → zS → Option γ} {out : γ} (hf : zb (znewM X.g.1 σ n k) F = some out)
    (kk : ∀ (q : Nat) (σ' : zS), F q σ' = some out → ZW X σ' (pc + 4) lv (zr (some q) :: rest)) : ZW X σ pc lv (zi k :: zi n :: rest) := by
  obtain ⟨q, σ', h1, h2⟩ := zb_some hf
  unfold znewM at h1
  split at h1
  · rename_i hq
    obtain ⟨hn, hk, m1, m2, l1, l2, l3⟩ := hq
    cases h1
    intro H locs ls hR hS hl2
    have hz : H.size = σ.2.1 := hR.1
    refine W.ge fun hge => ?_
    have hr2 := hR.2.1
    obtain ⟨s1, s2⟩ := h.slack (k := 1 + n.toNatClampNeg) (n := n.toNatClampNeg + n.toNatClampNeg * k.toNatClampNeg) hS (by omega) (by omega) hge
    obtain ⟨kI, compI, i1, i2, i3, -⟩ := h.K.2 0 _ rfl
    obtain ⟨kO, compO, o1, o2, o3, -⟩ := h.K.2 4 _ rfl
    have i3 := i3 (by simp)
    have o3 := o3 (by simp)
    intro T hT Y
    have hAO : (Cond.arrayOver (.array .int)).before X.args X.s = true := by
      obtain ⟨a9, hw9, -⟩ := h.env.1.2.2.1
      exact zAO h.env.2.1.alike (hw9 _ hover)
    obtain ⟨vm₁, cA, comp, hW, hfA, hfC, hO, hI, X1, step⟩ := Y.multianewarray2F h.x (ty := .int) h.ow (h.ts _ hcl) hAO (h.ts _ harr) (g := F0 X.m pc ls (.int k :: .int n :: rest.map zvv)) rfl (by rw [h.b]; exact d) rfl hn hk (by omega) (by show k.toNatClampNeg * 4 ≤ _; omega) (by omega) rfl rfl s1 s2
    cases hfA.symm.trans o3
    cases hfC.symm.trans i3
    obtain ⟨f1, f2, f3, f4⟩ := Free.Multi.fill_facts (T.setVm vm₁) (X.g.2.2.1 4) (X.g.2.2.1 0) n.toNatClampNeg k.toNatClampNeg (defaultValue .int) n.toNatClampNeg
    have fo := fun (q : Nat) (hq : q < (T.setVm vm₁).heap.size) => Free.Multi.fill_old (T.setVm vm₁) (X.g.2.2.1 4) (X.g.2.2.1 0) n.toNatClampNeg k.toNatClampNeg (defaultValue .int) hq n.toNatClampNeg
    have fi := Free.Multi.fill_inner (T.setVm vm₁) (X.g.2.2.1 4) (X.g.2.2.1 0) n.toNatClampNeg k.toNatClampNeg (defaultValue .int) n.toNatClampNeg
    have hbk := X1.book
    have hbk0 := Y.book
    generalize hT2 : Free.Multi.fill (T.setVm vm₁) (X.g.2.2.1 4) (X.g.2.2.1 0) n.toNatClampNeg k.toNatClampNeg (defaultValue .int) n.toNatClampNeg = T2 at X1 step f1 f2 f3 f4 fo fi hbk
    have hT0 : (T.setVm vm₁).heap = H := hT
    rw [hT0] at f1 f2 fo fi
    have hTs : (T.setVm vm₁).slotsUsed = T.slotsUsed := rfl
    have u0 : T.slotsUsed = zt H := by rw [← hT]; simpa [State.slotsTrue, zt] using hbk0
    have u1 : T2.slotsUsed = zt T2.heap := by simpa [State.slotsTrue, zt] using hbk
    have ht2 : zt T2.heap = zt H + (n.toNatClampNeg + n.toNatClampNeg * k.toNatClampNeg) := by rw [← u1, f4, hTs, u0]; omega
    have hR2 : ZR X.g ((fun a => if a = σ.2.1 then some (.inl (4, n.toNatClampNeg, .inr (.inr fun j => some (σ.2.1 + 1 + j)))) else if σ.2.1 < a ∧ a ≤ σ.2.1 + n.toNatClampNeg then some (.inl (0, k.toNatClampNeg, .inl fun _ => 0)) else σ.1 a), σ.2.1 + 1 + n.toNatClampNeg, σ.2.2 + (n.toNatClampNeg + n.toNatClampNeg * k.toNatClampNeg)) T2.heap := by
      refine ⟨by show T2.heap.size = σ.2.1 + 1 + n.toNatClampNeg; omega, by show zt T2.heap ≤ σ.2.2 + _; omega, l1, l2, fun b e hb => ?_⟩
      have hb : (if b = σ.2.1 then some (Sum.inl (4, n.toNatClampNeg, Sum.inr (Sum.inr fun j => some (σ.2.1 + 1 + j)))) else if σ.2.1 < b ∧ b ≤ σ.2.1 + n.toNatClampNeg then some (.inl (0, k.toNatClampNeg, .inl fun _ => 0)) else σ.1 b) = some e := hb
      split at hb
      · rename_i e1
        cases hb
        obtain ⟨g1, g2, g3⟩ := Free.Multi.outerC_facts (X.g.2.2.1 4) n.toNatClampNeg H.size n.toNatClampNeg
        refine ⟨_, by rw [e1, ← hz]; exact f2, fun q => by rw [g2]; exact (fun z => nomatch z), by rw [g2]; exact (fun z => nomatch z), fun _ => g2, g1, g3, by omega, fun j hj => ?_⟩
        rw [Free.Multi.outerC_slot _ _ _ _ _ hj, if_pos hj, hz]
        rfl
      · split at hb
        · rename_i e1 e2
          cases hb
          refine ⟨_, by have := fi (b - (H.size + 1)) (by omega); rw [show H.size + 1 + (b - (H.size + 1)) = b by omega] at this; exact this, (fun q => by simp [Free.Multi.innerC]), (by simp [Free.Multi.innerC]), fun _ => rfl, rfl, by simp [Free.Multi.innerC], by omega, fun j hj => by simp [Free.Multi.innerC, hj, zcv, defaultValue]⟩
        · have hlt := zat_lt (hR.2.2.2.2 b e hb)
          exact zat_kept (hR.2.2.2.2 b e hb) (fo b hlt)
    have := kk _ _ h2 T2.heap locs ls hR2 ⟨by have := hS.1; omega, fun q h1 h2 => (fo q (Nat.lt_of_lt_of_le h1 hS.1)).trans (hS.2.1 q h1 h2), hS.2.2⟩ hl2
    obtain ⟨t, a1, b1⟩ := W.tight this T2 rfl X1
    refine ⟨t, step t ?_, b1⟩
    rw [hT, hz]
    exact a1
  · cases h1
end ZNAT
section ZEND
variable {X : zX} {own : String} {cc : ByteArray} {ret : Option FieldType} {fr lo : Nat} {σ : zS} {pc : Nat} {lv lv' : List (Nat × zV)} {rest st : List zV} {out : zOut} {ty : FieldType}
/-- the locals with which a method begins -/
def zargs : Nat → List zV → List (Nat × zV)
  | _, [] => []
  | i, v :: vs => (i, v) :: zargs (if zc v = 2 then i + 2 else i + 1) vs
theorem zargs_eq (as : List zV) : ∀ i, zlv (zargs i as) = lv_args i (as.map zvv) := by
  induction as with
  | nil => intro i; rfl
  | cons v vs ih =>
    intro i
    show (i, zvv v) :: zlv (zargs _ vs) = (i, zvv v) :: lv_args _ (vs.map zvv)
    rw [ih, zc_eq]
theorem zsl_len (as : List zV) : (lg_sl (as.map zvv)).length = (as.map zc).sum := by
  induction as with
  | nil => rfl
  | cons v vs ih =>
    have e : lg_sl ((v :: vs).map zvv) = (if (zvv v).category = 2 then [Slot.val (zvv v), .second] else [.val (zvv v)]) ++ lg_sl (vs.map zvv) := rfl
    rw [e, List.length_append, ih, List.map_cons, List.sum_cons, zc_eq]
    rcases v with x | x | x <;> rfl
/-- what the walk owes at its end -/
def ZQ (X : zX) (out : zOut) : Prop := X.Q = vx_MQ X.below (zQc X.g out) (zXC X.g out) X.args X.s (X.g.1 1 - X.s.heap.size) (X.g.1 2 - zt X.s.heap) (zFr X.g)
theorem z_end (h : ZC X own cc ret fr lo) (hQ : ZQ X out) (k : ∀ (H : Heap) (locs : List Loc) (ls : Array Slot) (n1 n2 : Nat), ZR X.g σ H → va_S (zFr X.g) X.s.heap H locs → lv_has ls X.nL (zlv lv) → W X.p X.l X.e X.R X.s X.m X.args X.below X.meth X.c H locs n1 n2 (MQ X.below (zQc X.g out) X.args X.s n1 n2 (zFr X.g)) (F0 X.m pc ls (st.map zvv))) : ZW X σ pc lv st := by
  intro H locs ls hR hS hl
  refine W.ge fun hge => ?_
  have hQ' : X.Q = vx_MQ X.below (zQc X.g out) (zXC X.g out) X.args X.s (X.g.1 1 - X.s.heap.size) (X.g.1 2 - zt X.s.heap) (zFr X.g) := hQ
  rw [hQ']
  have h1 := hS.1
  have h2 := hR.1
  have h3 := hR.2.1
  have h4 := hR.2.2.1
  have h5 := hR.2.2.2.1
  refine vx_ret ?_
  refine W.widen (k := X.g.1 1 - X.s.heap.size) (n := X.g.1 2 - zt X.s.heap) (by omega) (by omega) ?_
  exact k H locs ls _ _ hR hS hl
theorem z_ireturn (h : ZC X own cc (some .int) fr lo) {v r : Int32} {σ' : zS} (hQ : ZQ X (.inl (some (zi r)), σ')) (d : decode cc pc = .ok (.ireturn, 1)) (hf : some (v, σ) = some (r, σ')) : ZW X σ pc lv [zi v] := by
  cases hf
  exact z_end h hQ fun H locs ls n1 n2 hR hS hl => W.iret h.x h.b h.r (fun t ht hW => ⟨_, rfl, rfl, by rw [ht]; exact hR, hS.F ht⟩) hS.2.2 d h.k
/-- an answer of a narrow type -/
def zrn (ty : FieldType) (v : Int32) (σ : zS) : Option (Int32 × zS) := if narrow ty (.int v) = .int v then some (v, σ) else none
def zrnX (ty : FieldType) (v : Int32) (σ : zS) : Option ((Int32 ⊕ (Nat × Nat)) × zS) := if narrow ty (.int v) = .int v then some (.inl v, σ) else none
theorem z_zreturn (h : ZC X own cc (some ty) fr lo) {v r : Int32} {σ' : zS} (hQ : ZQ X (.inl (some (zi r)), σ')) (d : decode cc pc = .ok (.ireturn, 1)) (hf : zrn ty v σ = some (r, σ')) : ZW X σ pc lv [zi v] := by
  unfold zrn at hf
  split at hf
  · rename_i hn
    cases hf
    exact z_end h hQ fun H locs ls n1 n2 hR hS hl => W.zret h.x h.b h.r hn (fun t ht hW => ⟨_, rfl, rfl, by rw [ht]; exact hR, hS.F ht⟩) hS.2.2 d h.k
  · cases hf
theorem z_lreturn (h : ZC X own cc (some .long) fr lo) {v r : Int64} {σ' : zS} (hQ : ZQ X (.inl (some (zj r)), σ')) (d : decode cc pc = .ok (.lreturn, 1)) (hf : some (v, σ) = some (r, σ')) : ZW X σ pc lv [zj v] := by
  cases hf
  exact z_end h hQ fun H locs ls n1 n2 hR hS hl => W.lret h.x h.b h.r (fun t ht hW => ⟨_, rfl, rfl, by rw [ht]; exact hR, hS.F ht⟩) hS.2.2 d h.k
theorem z_rf (x : Option Nat) : va_rf x = .null ∨ ∃ a, va_rf x = .ref a := by
  cases x with
  | none => exact Or.inl rfl
  | some a => exact Or.inr ⟨a, rfl⟩
theorem z_areturn (h : ZC X own cc (some ty) fr lo) (hty : (∃ n, ty = .object n) ∨ ∃ t, ty = .array t) {v r : Option Nat} {σ' : zS} (hQ : ZQ X (.inl (some (zr r)), σ')) (d : decode cc pc = .ok (.areturn, 1)) (hf : some (v, σ) = some (r, σ')) : ZW X σ pc lv [zr v] := by
  cases hf
  exact z_end h hQ fun H locs ls n1 n2 hR hS hl => W.aret h.x h.b h.r hty (z_rf _) (fun t ht hW => ⟨_, rfl, rfl, by rw [ht]; exact hR, hS.F ht⟩) hS.2.2 d h.k
theorem z_return (h : ZC X own cc none fr lo) {u r : Unit} {σ' : zS} (hQ : ZQ X (.inl none, σ')) (d : decode cc pc = .ok (.return_, 1)) (hf : some (u, σ) = some (r, σ')) : ZW X σ pc lv [] := by
  cases hf
  exact z_end h hQ fun H locs ls n1 n2 hR hS hl => W.vret h.x h.b h.r (fun t ht hW => ⟨_, rfl, rfl, by rw [ht]; exact hR, hS.F ht⟩) hS.2.2 d h.k
theorem z_ireturnX (h : ZC X own cc (some .int) fr lo) {v : Int32} {r : Int32 ⊕ (Nat × Nat)} {σ' : zS} (hQ : ZQ X (zoI r, σ')) (d : decode cc pc = .ok (.ireturn, 1)) (hf : some (Sum.inl v, σ) = some (r, σ')) : ZW X σ pc lv [zi v] := by
  cases hf
  exact z_ireturn h hQ d rfl
theorem z_zreturnX (h : ZC X own cc (some ty) fr lo) {v : Int32} {r : Int32 ⊕ (Nat × Nat)} {σ' : zS} (hQ : ZQ X (zoI r, σ')) (d : decode cc pc = .ok (.ireturn, 1)) (hf : zrnX ty v σ = some (r, σ')) : ZW X σ pc lv [zi v] := by
  unfold zrnX at hf
  split at hf
  · rename_i hn
    cases hf
    exact z_zreturn h hQ d (by unfold zrn; rw [if_pos hn])
  · cases hf
theorem z_areturnX (h : ZC X own cc (some ty) fr lo) (hty : (∃ n, ty = .object n) ∨ ∃ t, ty = .array t) {v : Option Nat} {r : Option Nat ⊕ (Nat × Nat)} {σ' : zS} (hQ : ZQ X (zoR r, σ')) (d : decode cc pc = .ok (.areturn, 1)) (hf : some (Sum.inl v, σ) = some (r, σ')) : ZW X σ pc lv [zr v] := by
  cases hf
  exact z_areturn h hty hQ d rfl
theorem z_returnX (h : ZC X own cc none fr lo) {u : Unit} {r : Unit ⊕ (Nat × Nat)} {σ' : zS} (hQ : ZQ X (zoU r, σ')) (d : decode cc pc = .ok (.return_, 1)) (hf : some (Sum.inl u, σ) = some (r, σ')) : ZW X σ pc lv [] := by
  cases hf
  exact z_return h (r := ()) hQ d rfl
/-- a contract out of a walk -/
theorem ZM.of {Γ : zG} {y : MethodName} {maxL : Nat} {as : List zV} (hy : plainName y.cls = true) (hown : y.cls = own) (hfit : (as.map zc).sum ≤ maxL) (body : ∀ X : zX, X.g = Γ → ZC X own cc ret fr lo → X.nL = maxL → (∀ x ∈ X.c.exceptionTable.toList, False) → ZQ X out → X.meth.name = y.name → ZW X σ 0 (zargs 0 as) []) : ZM Γ y (ws_ y cc maxL ret) fr lo as σ out := by
  intro z
  refine vx_ofW (cc := cc) (maxL := maxL) (ret := ret) hy rfl ?_
  intro p e s m args below meth c s₁ B hml hno hv
  obtain ⟨rfl, hz, henv, hR⟩ := hv
  have hts := atoms_spec (ws := ws_ y cc maxL ret) B.pre
  have hts : ∀ w ∈ lw_all, w.before _ s = true := fun w h => hts w (List.mem_cons_of_mem _ h)
  subst hown
  have hown : s.vm.findClass y.cls = some m.cls := findClass_of_methodNamed B.named
  have hzl : zt s.heap ≤ Γ.1 2 := Nat.le_trans hR.2.1 hR.2.2.2.1
  have k := body ((p, Γ.2.2.2.2, e, { frames := fr, cells := Γ.1 1 - σ.2.1, slots := Γ.1 2 - z, locals := lo }), (s, m, (as.map zvv).toArray, below), (meth, c, vx_MQ below (zQc Γ out) (zXC Γ out) (as.map zvv).toArray s (Γ.1 1 - σ.2.1) (Γ.1 2 - z) (zFr Γ)), Γ, maxL) rfl
    ⟨B.exec, B.bytes, B.returns, B.notSynchronized, hml, hown, hts, henv, by rw [← hR.1, ← hz], by show s.heap.size ≤ Γ.1 1; rw [hR.1]; exact hR.2.2.1, hzl, rfl⟩ rfl hno (by unfold ZQ; rw [← hR.1, ← hz]) (name_of_methodNamed B.named B.method).1
  rw [lg_entry_eq]
  have k2 := k s.heap [] _ hR va_S.rf (by rw [zargs_eq]; exact lv_entry (as.map zvv) (by rw [zsl_len]; exact hfit))
  unfold zw at k2
  rw [Nat.sub_self, Nat.sub_self] at k2
  exact k2
/-- .. of a method with handlers -/
theorem ZM.ofH {Γ : zG} {y : MethodName} {maxL : Nat} {as : List zV} {hh : List (Nat × Nat × Nat × Nat)} (hy : plainName y.cls = true) (hown : y.cls = own) (hfit : (as.map zc).sum ≤ maxL) (body : ∀ X : zX, X.g = Γ → ZC X own cc ret fr lo → X.nL = maxL → X.c.exceptionTable.toList = tableOf hh → ZQ X out → X.meth.name = y.name → ZW X σ 0 (zargs 0 as) []) : ZM Γ y (wsW_ y cc maxL ret hh) fr lo as σ out := by
  intro z
  refine vx_ofWH (cc := cc) (maxL := maxL) (ret := ret) (hh := hh) hy rfl ?_
  intro p e s m args below meth c s₁ B hml hv
  obtain ⟨rfl, hz, henv, hR⟩ := hv
  have hts := atoms_spec (ws := wsW_ y cc maxL ret hh) B.pre
  have htab := vx_table (x := y) B (hts _ List.mem_cons_self)
  have hts : ∀ w ∈ lw_all, w.before _ s = true := fun w h => hts w (List.mem_cons_of_mem _ h)
  subst hown
  have hown : s.vm.findClass y.cls = some m.cls := findClass_of_methodNamed B.named
  have hzl : zt s.heap ≤ Γ.1 2 := Nat.le_trans hR.2.1 hR.2.2.2.1
  have k := body ((p, Γ.2.2.2.2, e, { frames := fr, cells := Γ.1 1 - σ.2.1, slots := Γ.1 2 - z, locals := lo }), (s, m, (as.map zvv).toArray, below), (meth, c, vx_MQ below (zQc Γ out) (zXC Γ out) (as.map zvv).toArray s (Γ.1 1 - σ.2.1) (Γ.1 2 - z) (zFr Γ)), Γ, maxL) rfl
    ⟨B.exec, B.bytes, B.returns, B.notSynchronized, hml, hown, hts, henv, by rw [← hR.1, ← hz], by show s.heap.size ≤ Γ.1 1; rw [hR.1]; exact hR.2.2.1, hzl, rfl⟩ rfl htab (by unfold ZQ; rw [← hR.1, ← hz]) (name_of_methodNamed B.named B.method).1
  rw [lg_entry_eq]
  have k2 := k s.heap [] _ hR va_S.rf (by rw [zargs_eq]; exact lv_entry (as.map zvv) (by rw [zsl_len]; exact hfit))
  unfold zw at k2
  rw [Nat.sub_self, Nat.sub_self] at k2
  exact k2
/-- thrown further: not caught in this method -/
theorem z_out (h : ZC X own cc ret fr lo) {ci q : Nat} {σ' : zS} {r : Nat × Nat} (hQ : ZQ X (.inr r, σ')) (hno : ∀ x ∈ X.c.exceptionTable.toList, covers x pc = false) (hr : (ci, q) = r) (hσ : σ = σ') : ZV X σ pc lv rest ci q := by
  subst hr
  subst hσ
  intro H locs ls E ce hR hS hl hE hce hcv hcl
  have hQ' : X.Q = vx_MQ X.below (zQc X.g (.inr (ci, q), σ)) (zXC X.g (.inr (ci, q), σ)) X.args X.s (X.g.1 1 - X.s.heap.size) (X.g.1 2 - zt X.s.heap) (zFr X.g) := hQ
  rw [hQ']
  have h1 := hS.1
  have h2 := hR.1
  have h3 := hR.2.1
  have h4 := hR.2.2.1
  have h5 := hR.2.2.2.1
  exact vx_out hno h.k hce hcv hcl (fun t ht hal => ⟨ci, rfl, hE, by rw [ht]; exact hR, hS.F ht⟩) hS.2.2 (by omega) (by omega)
/-- thrown -/
def zthr (G : Nat → Nat) (σ : zS) (r : Option Nat) : Option (Nat × Nat) := match r with
  | none => none
  | some q => match σ.1 q with
    | some (.inr (ci, _)) => if G 0 ≤ q ∧ ci < 29 then some (ci, q) else none
    | _ => none
theorem z_athrow0 (h : ZC X own cc ret fr lo) {ci q : Nat} {fs : List Value} {C : String} {T : u_T} {N : Nat} (hc : zcl[ci]? = some (C, T, N)) (hb : X.g.1 0 ≤ q) (ha : σ.1 q = some (.inr (ci, fs))) (d : decode cc pc = .ok (.athrow, 1)) (k : ZV X σ pc lv rest ci q) : ZW X σ pc lv (zr (some q) :: rest) := by
  intro H locs ls hR hS hl
  obtain ⟨cell, q1, q2, q3, q4, q5, q6⟩ := hR.2.2.2.2 q _ ha
  exact vx_athrow h.x h.b d (k H locs ls C cell hR hS hl (by rw [hc]; rfl) q1 (q4 hb) (by rw [q5]; exact (h.K.1 ci _ hc).2.1))
theorem z_athrow (h : ZC X own cc ret fr lo) (d : decode cc pc = .ok (.athrow, 1)) {r : Option Nat} {γ : Type} {F : Nat × Nat → Option γ} {o : γ} (hf : zo (zthr X.g.1 σ r) F = some o) (k : ∀ e, F e = some o → ZV X σ pc lv rest e.1 e.2) : ZW X σ pc lv (zr r :: rest) := by
  obtain ⟨e, h1, h2⟩ := zo_some hf
  unfold zthr at h1
  split at h1
  · cases h1
  · split at h1
    · rename_i ci fs ha
      split at h1
      · rename_i hq
        cases h1
        have hlt : ci < zcl.length := hq.2
        obtain ⟨⟨C, T, N⟩, hc⟩ : ∃ r, zcl[ci]? = some r := ⟨_, List.getElem?_eq_getElem hlt⟩
        exact z_athrow0 h hc hq.1 ha d (k _ h2)
      · cases h1
    · cases h1
/-- thrown further by a caller, or out of here -/
theorem z_outI (h : ZC X own cc ret fr lo) {e : Nat × Nat} {r : Int32 ⊕ (Nat × Nat)} {σ' : zS} (hQ : ZQ X (zoI r, σ')) (hno : ∀ x ∈ X.c.exceptionTable.toList, False) (hf : some (Sum.inr e, σ) = some (r, σ')) : ZV X σ pc lv rest e.1 e.2 := by
  cases hf
  exact z_out h (r := e) hQ (fun x hx => (hno x hx).elim) rfl rfl
theorem z_outR (h : ZC X own cc ret fr lo) {e : Nat × Nat} {r : Option Nat ⊕ (Nat × Nat)} {σ' : zS} (hQ : ZQ X (zoR r, σ')) (hno : ∀ x ∈ X.c.exceptionTable.toList, False) (hf : some (Sum.inr e, σ) = some (r, σ')) : ZV X σ pc lv rest e.1 e.2 := by
  cases hf
  exact z_out h (r := e) hQ (fun x hx => (hno x hx).elim) rfl rfl
theorem z_outU (h : ZC X own cc ret fr lo) {e : Nat × Nat} {r : Unit ⊕ (Nat × Nat)} {σ' : zS} (hQ : ZQ X (zoU r, σ')) (hno : ∀ x ∈ X.c.exceptionTable.toList, False) (hf : some (Sum.inr e, σ) = some (r, σ')) : ZV X σ pc lv rest e.1 e.2 := by
  cases hf
  exact z_out h (r := e) hQ (fun x hx => (hno x hx).elim) rfl rfl
theorem zfr {C : String} (x : Option Nat) : fits (.object C) (va_rf x) = true := by cases x <;> rfl
theorem zfa {t : FieldType} (x : Option Nat) : fits (.array t) (va_rf x) = true := by cases x <;> rfl
/-- caught -/
theorem z_catch (h : ZC X own cc ret fr lo) {ci q : Nat} {C name : String} {T : u_T} {N : Nat} (hc : zcl[ci]? = some (C, T, N)) (pre : List ExceptionTableEntry) (x : ExceptionTableEntry) (suf : List ExceptionTableEntry) (hsplit : X.c.exceptionTable.toList = pre ++ x :: suf)
    (hpass : ∀ z ∈ pre, covers z pc = false ∨ (z.catchType ≠ 0 ∧ ∃ nm : String, Cond.classLink own z.catchType nm ∈ lw_all ∧ Cond.not (.castable C nm) ∈ znot)) (hx : covers x pc = true) (h0 : x.catchType ≠ 0) (hlink : (Cond.classLink own x.catchType name) ∈ lw_all) (hcast : Cond.castable C name ∈ lw_tbl) (kk : ZW X σ x.handlerPc lv [zr (some q)]) : ZV X σ pc lv rest ci q := by
  intro H locs ls E ce hR hS hl hE hce hcv hcl
  rw [hc] at hE
  cases hE
  exact vx_catch h.ow pre x suf hsplit (fun z hz => by
    rcases hpass z hz with h1 | ⟨h1, nm, h2, h3⟩
    · exact Or.inl h1
    · obtain ⟨a9, -, hw9⟩ := h.env.1.2.2.1
      exact Or.inr ⟨h1, nm, h.ts _ h2, (va_Nc.of (hw9 _ h3)).moved h.env.2.1.alike⟩) hx h0 (h.ts _ hlink) (va_Nw.use rfl (va_Nw.warmC h.env.2.1 (h.nw hcast rfl))) hce hcv hcl (kk H locs ls hR hS hl)
end ZEND
