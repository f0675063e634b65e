/-! a call whose link and owner the statement's own words tell -/
set_option maxRecDepth 100000
theorem z_selQ {U : State} {args : Array Value} {C owner : String} {x y : MethodName} (hsame : (Cond.sameMethod x.cls owner x.name x.desc).before args U = true) (hsel : (Cond.selects C ⟨owner, x.name, x.desc⟩ y).before args U = true) (ho : owner ≠ "java/lang/invoke/MethodHandle" ∧ owner ≠ "java/lang/invoke/VarHandle") : (Cond.selects C x y).before args U = true := by
  obtain ⟨cn, ck, r1, hcn, hck, hni, hf, hn1⟩ := Cond.sameMethod_found hsame
  obtain ⟨c2, r2, m2, q1, q2, q3, q4, kP, hkP, hkPi⟩ := Cond.selects_spec hsel
  have hfo : U.methodFound? owner x.name x.desc = some r1 := State.methodFound?_of_named hn1 ho
  cases q2.symm.trans hfo
  simp only [Cond.before, Cond.holds, Cond.value, q1, hf, q3, q4, hkP]
  simp [hkPi]
section ZDEFT
variable {X : zX} {own : String} {cc : ByteArray} {ret : Option FieldType} {fr lo : Nat} {σ : zS} {pc : Nat} {lv lv' : List (Nat × zV)} {rest st : List zV}
theorem ZC.dw (h : ZC X own cc ret fr lo) {w : Cond} (hw : w ∈ znot) (hg : (w.onTables && w.keeps) = true) : w.before X.args X.s = true := by
  obtain ⟨a, -, h1⟩ := h.env.1.2.2.1
  exact word_at h.env.2.1 (Or.inl hg) (h1 w hw)
theorem z_runB (h : ZC X own cc ret fr lo) {C : String} {T : u_T} {N ci : Nat} (hc : zcl[ci]? = some (C, T, N)) {y : MethodName} {bytes : ByteArray} {maxL idx fr2 lo2 b : Nat} {rt : Option FieldType} {As : List zV} {fs : List Value} {out : zOut} (n : Nat) (hb : σ.1 b = some (.inr (ci, fs))) {owner : String} {x : MethodName} (hM : ZM X.g y (ws_ y bytes maxL rt) fr2 lo2 (zr (some b) :: As) σ out) (hlk : (Cond.methodLink own idx x) ∈ znot) (hsm : (Cond.sameMethod x.cls owner x.name x.desc) ∈ znot) (hsl : (Cond.selects C ⟨owner, x.name, x.desc⟩ y) ∈ lw_all) (hins : (Cond.instanceMethod y) ∈ lw_all) (hini : (Cond.initialized y.cls) ∈ lw_all) (hcd : (Cond.code y bytes maxL rt) ∈ lw_all) (hz : (Cond.declares ⟨owner, x.name, x.desc⟩) ∈ lw_tbl) (hd : owner ≠ "java/lang/invoke/MethodHandle" ∧ owner ≠ "java/lang/invoke/VarHandle" ∧ (parseMethodDescriptor x.desc).map (fun d => d.parameters.length) = some n) (hrm : fr2 + 1 ≤ fr ∧ 8 + (maxL + 11) + lo2 ≤ lo) (hn : As.length = n) (hW : (rest.map zc).sum ≤ 8) (d : decode cc pc = .ok (.invokevirtual idx, 3)) (hst : As.reverse ++ zr (some b) :: rest = st) : ZRun X σ pc lv st rest out := by
  subst hst
  intro H locs ls hge hR2 hS hl
  have hM2 := hM (zt H)
  rw [← h.la] at hM2
  have hR := hR2
  have hsm2 := h.dw hsm (by first | rfl | simp [Cond.onTables, Cond.keeps, Cond.steady])
  have cw : va_CU X.R X.s X.args own C owner idx x y bytes maxL rt (ws_ y bytes maxL rt) { frames := fr2, cells := X.g.1 1 - σ.2.1, slots := X.g.1 2 - zt H, locals := lo2 } (X.g.1 1 - σ.2.1) (X.g.1 2 - zt H) n := by
    have hG : GoodIn lw_all (ws_ y bytes maxL rt) := lw_meth hcd
    refine ⟨⟨rfl, rfl, (z_rm h hrm).1, (z_rm h hrm).2, pay_in h.ts hG, List.mem_cons_self⟩, h.ts _ hcd, h.ts _ hini, ⟨hd.1, hd.2.1⟩, fun sig hs => ?_, h.dw hlk (by first | rfl | simp [Cond.onTables, Cond.keeps, Cond.steady]), hsm2, va_Decl.abs (va_Nw.warmD h.env.2.1 (h.nw hz rfl)), z_selQ hsm2 (h.ts _ hsl) ⟨hd.1, hd.2.1⟩, h.ts _ hins⟩
    have h2 := hd.2.2
    rw [hs] at h2
    exact (Option.some.inj h2).symm
  exact ⟨_, _, _, vx_runU (As := As.map zvv) (rest := rest.map zvv) (z_fix h) hM2 cw ⟨zPc_blind, z_recv h hR hc hb, z_at h hS hR _⟩ rfl (by rw [List.length_map]; exact hn) hl.1 (by simp [F0, zvv, va_rf]) (lv_room (by rw [zcs_eq]; exact hW)) d (z_fit h hS hR hge)⟩
end ZDEFT
