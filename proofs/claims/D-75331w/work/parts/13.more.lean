/-! calls of private methods of a superclass, of overriding methods; switches; shifts of longs; handlers; the script -/
set_option maxRecDepth 100000
section ZMORE
variable {X : zX} {own : String} {cc : ByteArray} {ret : Option FieldType} {fr lo : Nat} {σ : zS} {pc : Nat} {lv lv' : List (Nat × zV)} {rest st : List zV}
theorem z_lshl (h : ZC X own cc ret fr lo) {x : Int64} {y : Int32} (d : decode cc pc = .ok (.lshl, 1)) (k : ZW X σ (pc + 1) lv (zj (x <<< (y.toInt64 &&& 63)) :: rest)) : ZW X σ pc lv (zi y :: zj x :: rest) := fun H locs ls hR hS hl => lv_lshl h.x h.b d rfl (k H locs ls hR hS hl)
theorem z_selP (h : ZC X own cc ret fr lo) {C : String} {T : u_T} {N ci : Nat} (hc : zcl[ci]? = some (C, T, N)) {y : MethodName} (hy : y.cls ≠ "java/lang/invoke/MethodHandle" ∧ y.cls ≠ "java/lang/invoke/VarHandle") {x0 y0 : MethodName} (hs0 : Cond.selects C x0 y0 ∈ lw_all) (hy0 : y0.cls = y.cls) (hpriv : Cond.privateMethod y ∈ lw_tbl) (hins : Cond.instanceMethod y ∈ lw_tbl) : (Cond.selects C y y).before X.args X.s = true := by
  obtain ⟨a, hw, -⟩ := h.env.1.2.2.1
  have hfc := (h.env.1.2.1.1 ci _ hc).2.1
  obtain ⟨mk, methM, hnamed, hmethM, -, -⟩ := Cond.instanceMethod_spec (hw _ hins)
  have hfound : X.g.2.2.2.1.methodFound? y.cls y.name y.desc = some mk := State.methodFound?_of_named hnamed hy
  have hsel : selectMethod {} X.g.2.2.2.1.vm (X.g.2.1.1 ci) mk = .method mk := selectMethod_private hmethM (Cond.privateMethod_at (hw _ hpriv) mk methM hnamed hmethM)
  obtain ⟨c2, r2, m2, -, -, q3, -, kP, hkP, hni⟩ := Cond.selects_spec (hw _ (lw_all_tbl hs0))
  have hcn := findClass_of_methodNamed q3
  rw [hy0] at hcn
  have hcn' := findClass_of_methodNamed hnamed
  have hcc : m2.cls = mk.cls := Option.some.inj (hcn.symm.trans hcn')
  rw [hcc] at hkP
  have h1 : (Cond.selects C y y).before a X.g.2.2.2.1 = true := by
    simp only [Cond.before, Cond.holds, Cond.value, hfc, hfound, hnamed, hsel, hkP]
    simp [hni]
  exact word_at h.env.2.1 (Or.inl (by first | rfl | simp [Cond.onTables, Cond.keeps, Cond.steady])) h1
/-- a private method of a superclass -/
theorem z_runUP (h : ZC X own cc ret fr lo) {C : String} {T : u_T} {N ci : Nat} (hc : zcl[ci]? = some (C, T, N)) {y : MethodName} {bytes : ByteArray} {maxL idx fr2 lo2 b : Nat} {rt : Option FieldType} {As : List zV} {fs : List Value} {out : zOut} (n : Nat) (hb : σ.1 b = some (.inr (ci, fs))) (hM : ZM X.g y (ws_ y bytes maxL rt) fr2 lo2 (zr (some b) :: As) σ out) (hlk : (Cond.methodLink own idx y) ∈ lw_all) (hsm : (Cond.sameMethod y.cls y.cls y.name y.desc) ∈ lw_all) (hins : (Cond.instanceMethod y) ∈ lw_all) (hini : (Cond.initialized y.cls) ∈ lw_all) (hcd : (Cond.code y bytes maxL rt) ∈ lw_all) {x0 y0 : MethodName} (hs0 : Cond.selects C x0 y0 ∈ lw_all) (hy0 : y0.cls = y.cls) (hpriv : Cond.privateMethod y ∈ lw_tbl) (hd : y.cls ≠ "java/lang/invoke/MethodHandle" ∧ y.cls ≠ "java/lang/invoke/VarHandle" ∧ (parseMethodDescriptor y.desc).map (fun d => d.parameters.length) = some n) (hrm : fr2 + 1 ≤ fr ∧ 8 + (maxL + 11) + lo2 ≤ lo) (hn : As.length = n) (hW : (rest.map zc).sum ≤ 8) (d : decode cc pc = .ok (.invokevirtual idx, 3)) (hst : As.reverse ++ zr (some b) :: rest = st) : ZRun X σ pc lv st rest out := by
  subst hst
  intro H locs ls hge hR2 hS hl
  have hM2 := hM (zt H)
  rw [← h.la] at hM2
  have hR := hR2
  have cw : va_CU X.R X.s X.args own C y.cls idx y y bytes maxL rt (ws_ y bytes maxL rt) { frames := fr2, cells := X.g.1 1 - σ.2.1, slots := X.g.1 2 - zt H, locals := lo2 } (X.g.1 1 - σ.2.1) (X.g.1 2 - zt H) n := by
    have hG : GoodIn lw_all (ws_ y bytes maxL rt) := lw_meth hcd
    refine ⟨⟨rfl, rfl, (z_rm h hrm).1, (z_rm h hrm).2, pay_in h.ts hG, List.mem_cons_self⟩, h.ts _ hcd, h.ts _ hini, ⟨hd.1, hd.2.1⟩, fun sig hs => ?_, h.ts _ hlk, h.ts _ hsm, va_Decl.of (h.ts _ hins) (h.ts _ hcd), z_selP h hc ⟨hd.1, hd.2.1⟩ hs0 hy0 hpriv (lw_all_tbl hins), h.ts _ hins⟩
    have h2 := hd.2.2
    rw [hs] at h2
    exact (Option.some.inj h2).symm
  exact ⟨_, _, _, vx_runU (As := As.map zvv) (rest := rest.map zvv) (z_fix h) hM2 cw ⟨zPc_blind, z_recv h hR hc hb, z_at h hS hR _⟩ rfl (by rw [List.length_map]; exact hn) hl.1 (by simp [F0, zvv, va_rf]) (lv_room (by rw [zcs_eq]; exact hW)) d (z_fit h hS hR hge)⟩
theorem zm6 {α : Type} {L : List α} {a b c d e f : α} (h1 : a ∈ L) (h2 : b ∈ L) (h3 : c ∈ L) (h4 : d ∈ L) (h5 : e ∈ L) (h6 : f ∈ L) : ∀ w ∈ [a, b, c, d, e, f], w ∈ L := by
  intro w hw
  rcases List.mem_cons.mp hw with q | q
  · rw [q]; exact h1
  · exact zm5 h2 h3 h4 h5 h6 w q
/-- an overriding method -/
theorem z_runO (h : ZC X own cc ret fr lo) {C : String} {T : u_T} {N ci : Nat} (hc : zcl[ci]? = some (C, T, N)) {y : MethodName} {bytes : ByteArray} {maxL idx fr2 lo2 b : Nat} {rt : Option FieldType} {As : List zV} {fs : List Value} {out : zOut} (n : Nat) (hb : σ.1 b = some (.inr (ci, fs))) {owner : String} {x : MethodName} {b0 : ByteArray} {m0 : Nat} {r0 : Option FieldType} (hM : ZM X.g y (ws_ y bytes maxL rt) fr2 lo2 (zr (some b) :: As) σ out) (hV : GoodIn lw_all (va_wsO own idx C owner x y (ws_ y bytes maxL rt))) (h0 : Cond.code ⟨owner, x.name, x.desc⟩ b0 m0 r0 ∈ lw_all) (hd : owner ≠ "java/lang/invoke/MethodHandle" ∧ owner ≠ "java/lang/invoke/VarHandle" ∧ (parseMethodDescriptor x.desc).map (fun d => d.parameters.length) = some n) (hrm : fr2 + 1 ≤ fr ∧ 8 + (maxL + 11) + lo2 ≤ lo) (hn : As.length = n) (hW : (rest.map zc).sum ≤ 8) (d : decode cc pc = .ok (.invokevirtual idx, 3)) (hst : As.reverse ++ zr (some b) :: rest = st) : ZRun X σ pc lv st rest out := by
  subst hst
  intro H locs ls hge hR2 hS hl
  have hM2 := hM (zt H)
  rw [← h.la] at hM2
  have hR := hR2
  exact ⟨_, _, _, vx_runU (As := As.map zvv) (rest := rest.map zvv) (z_fix h) hM2 (va_cwO n h.ts hV rfl rfl rfl h0 hd (z_rm h hrm)) ⟨zPc_blind, z_recv h hR hc hb, z_at h hS hR _⟩ rfl (by rw [List.length_map]; exact hn) hl.1 (by simp [F0, zvv, va_rf]) (lv_room (by rw [zcs_eq]; exact hW)) d (z_fit h hS hR hge)⟩
theorem z_table (h : ZC X own cc ret fr lo) {dflt lw hi : Int} {offs : Array Int} {len : Nat} {x k : Int32} {off : Int} {tgt : Nat} (d : decode cc pc = .ok (.tableswitch dflt lw hi offs, len)) (hx : x = k) (h1 : ¬ k.toInt < lw) (h2 : ¬ hi < k.toInt) (ho : offs[(k.toInt - lw).toNat]? = some off) (ht : (pc : Int) + off = (tgt : Int)) (kk : ZW X σ tgt lv rest) : ZW X σ pc lv (zi x :: rest) := by
  subst hx
  exact fun H locs ls hR hS hl => lv_tableIn h.x h.b d h1 h2 ho ht (kk H locs ls hR hS hl)
theorem z_tableD (h : ZC X own cc ret fr lo) {dflt lw hi : Int} {offs : Array Int} {len : Nat} {x : Int32} {tgt : Nat} (d : decode cc pc = .ok (.tableswitch dflt lw hi offs, len)) (h1 : x.toInt < lw ∨ hi < x.toInt) (ht : (pc : Int) + dflt = (tgt : Int)) (kk : ZW X σ tgt lv rest) : ZW X σ pc lv (zi x :: rest) := fun H locs ls hR hS hl => lv_tableOut h.x h.b d h1 ht (kk H locs ls hR hS hl)
theorem z_look (h : ZC X own cc ret fr lo) {dflt : Int} {ps : Array (Int × Int)} {len : Nat} {x k : Int32} {off : Int} {tgt : Nat} (d : decode cc pc = .ok (.lookupswitch dflt ps, len)) (hx : x = k) (hp : (ps.toList.zip (ps.toList.drop 1)).all (fun (a, next) => a.1 < next.1) = true) (ho : Op.lookupswitch.offset ps.toList dflt k.toInt = off) (ht : (pc : Int) + off = (tgt : Int)) (kk : ZW X σ tgt lv rest) : ZW X σ pc lv (zi x :: rest) := by
  subst hx
  exact fun H locs ls hR hS hl => lv_lookup h.x h.b d hp ho ht (kk H locs ls hR hS hl)
theorem z_lookD (h : ZC X own cc ret fr lo) {dflt : Int} {ps : Array (Int × Int)} {len : Nat} {x : Int32} {tgt : Nat} (d : decode cc pc = .ok (.lookupswitch dflt ps, len)) (hp : (ps.toList.zip (ps.toList.drop 1)).all (fun (a, next) => a.1 < next.1) = true) (ho : Op.lookupswitch.offset ps.toList dflt x.toInt = dflt) (ht : (pc : Int) + dflt = (tgt : Int)) (kk : ZW X σ tgt lv rest) : ZW X σ pc lv (zi x :: rest) := fun H locs ls hR hS hl => lv_lookup h.x h.b d hp ho ht (kk H locs ls hR hS hl)
/-- thrown further, out of a method with handlers, where none covers -/
theorem z_outIH (h : ZC X own cc ret fr lo) {e : Nat × Nat} {r : Int32 ⊕ (Nat × Nat)} {σ' : zS} {hh : List (Nat × Nat × Nat × Nat)} (hQ : ZQ X (zoI r, σ')) (hno : X.c.exceptionTable.toList = tableOf hh) (hcv : (tableOf hh).all (fun x => !covers x pc) = true) (hf : some (Sum.inr e, σ) = some (r, σ')) : ZV X σ pc lv rest e.1 e.2 := by
  cases hf
  refine z_out h (r := e) hQ (fun x hx => ?_) rfl rfl
  rw [hno] at hx
  have := List.all_eq_true.mp hcv x hx
  cases hc : covers x pc with
  | false => rfl
  | true => rw [hc] at this; cases this
/-- the script -/
theorem z_sld (h : ZC X own cc ret fr lo) {b L : Nat} {xs : Nat → Int32} (hX : va_X b L xs X.s X.s.heap) (hbl : b < X.g.1 0) (d : decode cc pc = .ok (.iaload, 1)) {i : Int32} (hin : ¬ (i < 0 ∨ L ≤ i.toNatClampNeg)) (kk : ZW X σ (pc + 1) lv (zi (xs i.toNatClampNeg) :: rest)) : ZW X σ pc lv (zi i :: zr (some b) :: rest) := fun H locs ls hR hS hl => va_sld h.x h.b hX (Nat.lt_of_lt_of_le hbl h.base) (fun z => Nat.not_le_of_lt hbl z) hS hin d (kk H locs ls hR hS hl)
theorem z_slen (h : ZC X own cc ret fr lo) {b L : Nat} {xs : Nat → Int32} (hX : va_X b L xs X.s X.s.heap) (hbl : b < X.g.1 0) (d : decode cc pc = .ok (.arraylength, 1)) (kk : ZW X σ (pc + 1) lv (zi (Int32.ofNat L) :: rest)) : ZW X σ pc lv (zr (some b) :: rest) := fun H locs ls hR hS hl => va_slen h.x h.b hX (Nat.lt_of_lt_of_le hbl h.base) (fun z => Nat.not_le_of_lt hbl z) hS d (kk H locs ls hR hS hl)
end ZMORE
