/-! new arrays, references in arrays, casts, statics, constants, natives, ends -/
set_option maxRecDepth 100000
section ZMISC
variable {X : zX} {own : String} {cc : ByteArray} {ret : Option FieldType} {fr lo : Nat} {σ : zS} {pc : Nat} {lv lv' : List (Nat × zV)} {rest st : List zV}
theorem z_newa (h : ZC X own cc ret fr lo) {atype : ArrayType} {t : Nat} {ty : FieldType} (hty : newarray.typeOf atype = ty) (ht : ztys[t]? = some ty) (hw : (Cond.arrayClass ty) ∈ lw_all) (x : zA) (hx : ∀ j, zcv x j = defaultValue ty) (hcb : componentBytes ty ≤ 8) (d : decode cc pc = .ok (.newarray atype, 2)) {n : Int32} {γ : Type} {F : Nat → zS → Option γ} {out : γ} (hf : zb (znewA X.g.1 σ t n x) F = some out)
    (kk : ∀ (q : Nat) (σ' : zS), F q σ' = some out → ZW X σ' (pc + 2) lv (zr (some q) :: rest)) : ZW X σ pc lv (zi n :: rest) := by
  subst hty
  obtain ⟨q, σ', h1, h2⟩ := zb_some hf
  unfold znewA at h1
  split at h1
  · rename_i hq
    obtain ⟨hn, hm, l1, l2, l3⟩ := hq
    cases h1
    intro H locs ls hR hS hl2
    have hz : H.size = σ.2.1 := hR.1
    refine W.ge fun hge => ?_
    have hr2 := hR.2.1
    obtain ⟨s1, s2⟩ := h.slack (k := 1) (n := n.toNatClampNeg) hS (by omega) (by omega) hge
    obtain ⟨k, comp, k1, k2, k3, -⟩ := h.K.2 t _ ht
    have k3 := k3 (by cases atype <;> simp [newarray.typeOf])
    have hmul : n.toNatClampNeg * componentBytes (newarray.typeOf atype) ≤ 1000000 * 8 := Nat.mul_le_mul hm hcb
    refine W.newa h.x h.b (h.ts _ hw) rfl d rfl hn (by omega) s1 s2 fun cA kA comp2 f1 f2 f3 => ?_
    cases f1.symm.trans k3
    generalize hH1 : H.push ({ cls := X.g.2.2.1 t, slots := Array.replicate n.toNatClampNeg (defaultValue (newarray.typeOf atype)), vm := .none } : Cell) = H1
    have z1 : H1.size = H.size + 1 := by rw [← hH1, Array.size_push]
    have e1 : H1[H.size]? = some ({ cls := X.g.2.2.1 t, slots := Array.replicate n.toNatClampNeg (defaultValue (newarray.typeOf atype)), vm := .none } : Cell) := by rw [← hH1, Array.getElem?_push_size]
    have o1 : ∀ q : Nat, q < H.size → H1[q]? = H[q]? := fun q hq => by rw [← hH1, Array.getElem?_push, if_neg (Nat.ne_of_lt hq)]
    obtain ⟨g1, g2⟩ := hR.push (e := .inl (t, n.toNatClampNeg, x)) z1 o1 e1 (by simp) l1 l2 ⟨_, e1, (fun k z => nomatch z), (fun z => nomatch z), fun _ => rfl, rfl, by simp, by omega, fun j hj => by rw [hx]; simp [hj]⟩
    have := kk _ _ h2 H1 locs ls g1 ⟨by have := hS.1; omega, fun q h1 h2 => (o1 q (Nat.lt_of_lt_of_le h1 hS.1)).trans (hS.2.1 q h1 h2), hS.2.2⟩ hl2
    unfold zw at this
    rw [← hz] at this
    refine W.tight ?_
    exact this
  · cases h1
theorem z_anew (h : ZC X own cc ret fr lo) {i : Nat} (hcl : (Cond.classLink own i "java/lang/Object") ∈ lw_all) (d : decode cc pc = .ok (.anewarray i, 3)) {n : Int32} {γ : Type} {F : Nat → zS → Option γ} {out : γ} (hf : zb (znewA X.g.1 σ 5 n (.inr (.inr fun _ => none))) F = some out)
    (kk : ∀ (q : Nat) (σ' : zS), F q σ' = some out → ZW X σ' (pc + 3) lv (zr (some q) :: rest)) : ZW X σ pc lv (zi n :: rest) := by
  obtain ⟨q, σ', h1, h2⟩ := zb_some hf
  unfold znewA at h1
  split at h1
  · rename_i hq
    obtain ⟨hn, hm, l1, l2, l3⟩ := hq
    cases h1
    intro H locs ls hR hS hl2
    have hz : H.size = σ.2.1 := hR.1
    refine W.ge fun hge => ?_
    have hr2 := hR.2.1
    obtain ⟨s1, s2⟩ := h.slack (k := 1) (n := n.toNatClampNeg) hS (by omega) (by omega) hge
    obtain ⟨k, comp, k1, k2, k3, -⟩ := h.K.2 5 _ rfl
    have k3 := k3 (by simp)
    obtain ⟨a9, hw9, -⟩ := h.env.1.2.2.1
    have hAO : va_AO "java/lang/Object" X.s := (va_AO.of (hw9 _ q175)).moved h.env.2.1.alike
    refine W.anew h.x h.b h.ow (h.ts _ hcl) (va_AO.use hAO) rfl d rfl hn (by omega) s1 s2 fun cA kA comp2 f1 f2 f3 f4 => ?_
    cases f1.symm.trans k3
    generalize hH1 : H.push ({ cls := X.g.2.2.1 5, slots := Array.replicate n.toNatClampNeg .null, vm := .none } : Cell) = H1
    have z1 : H1.size = H.size + 1 := by rw [← hH1, Array.size_push]
    have e1 : H1[H.size]? = some ({ cls := X.g.2.2.1 5, slots := Array.replicate n.toNatClampNeg .null, vm := .none } : Cell) := by rw [← hH1, Array.getElem?_push_size]
    have o1 : ∀ q : Nat, q < H.size → H1[q]? = H[q]? := fun q hq => by rw [← hH1, Array.getElem?_push, if_neg (Nat.ne_of_lt hq)]
    obtain ⟨g1, g2⟩ := hR.push (e := .inl (5, n.toNatClampNeg, .inr (.inr fun _ => none))) z1 o1 e1 (by simp) l1 l2 ⟨_, e1, (fun k z => nomatch z), (fun z => nomatch z), fun _ => rfl, rfl, by simp, by omega, fun j hj => by simp [hj, zcv, va_rf]⟩
    have := kk _ _ h2 H1 locs ls g1 ⟨by have := hS.1; omega, fun q h1 h2 => (o1 q (Nat.lt_of_lt_of_le h1 hS.1)).trans (hS.2.1 q h1 h2), hS.2.2⟩ hl2
    unfold zw at this
    rw [← hz] at this
    refine W.tight ?_
    exact this
  · cases h1
/-- classes of objects that may stand in an Object[] -/
def zobs (ok : List Nat) : Prop := ∀ c ∈ ok, ∃ r : vw_C, zcl[c]? = some r ∧ Cond.castable r.1 "java/lang/Object" ∈ lw_tbl
theorem zcls_some {σ : zS} {r : Option Nat} {c : Nat} (h : zcls σ r = some c) : ∃ a fs, r = some a ∧ σ.1 a = some (.inr (c, fs)) := by
  unfold zcls at h
  split at h
  · cases h
  · split at h
    · rename_i c' fs hc
      cases h
      exact ⟨_, _, rfl, hc⟩
    · cases h
theorem z_aast (h : ZC X own cc ret fr lo) {ok : List Nat} (hok : zobs ok) (d : decode cc pc = .ok (.aastore, 1)) {r v : Option Nat} {i : Int32} {γ : Type} {F : zS → Option γ} {out : γ} (hf : zo (zsR X.g.1 σ r i v ok) F = some out)
    (kk : ∀ σ', F σ' = some out → ZW X σ' (pc + 1) lv rest) : ZW X σ pc lv (zr v :: zi i :: zr r :: rest) := by
  obtain ⟨σ', h1, h2⟩ := zo_some hf
  unfold zsR at h1
  split at h1
  · rename_i a t' n f hz
    obtain ⟨rfl, ha⟩ := zarr_some hz
    split at h1
    · rename_i q
      obtain ⟨rfl, hA, hin, hv⟩ := q
      cases h1
      intro H locs ls hR hS hl2
      obtain ⟨cell, q1, q2, q3, q4, q5, q6, q7, q8⟩ := hR.2.2.2.2 a _ ha
      have hlt : i.toNatClampNeg < n := Nat.not_le.mp fun z => hin (Or.inr z)
      have h0 : ¬ i < 0 := fun q => hin (Or.inl q)
      have fin : ∀ (H1 : Heap), H1[a]? = some (cell.setSlot i.toNatClampNeg (va_rf v)) → H1.size = H.size → (∀ q, q ≠ a → H1[q]? = H[q]?) → W X.p X.l X.e X.R X.s X.m X.args X.below X.meth X.c H1 (locs ++ [⟨a, i.toNatClampNeg⟩]) (H.size - X.s.heap.size) (zt H - zt X.s.heap) X.Q (F0 X.m (pc + 1) ls (rest.map zvv)) := by
        intro H1 e1 e2 e3
        have hzt := zt_set e2 e3 q1 e1 (k2_slotsz _ _ _)
        have := kk _ h2 H1 (locs ++ [⟨a, i.toNatClampNeg⟩]) ls (hR.set e2 e3 hzt (zat_store q2 q3 q4 q5 q6 q7 q8 hlt (fun j hj => by
          by_cases hji : j = i.toNatClampNeg
          · subst hji; simp [zcv, va_up]
          · simp [zcv, va_up, hji]) e1)) (hS.put e2 e3 hA) hl2
        unfold zw at this
        rw [e2, hzt] at this
        exact this
      rcases hv with rfl | ⟨c, hc, hcv⟩
      · exact va_WaastN (C := "java/lang/Object") h.x h.b q1 (z_arr h (t := 5) rfl q2 q5) q3 (by rw [q6]; exact hin) rfl rfl d fin
      · obtain ⟨b, fs, rfl, hb⟩ := zcls_some hcv
        obtain ⟨r, hr, hcast⟩ := hok c hc
        obtain ⟨cb, p1, p2, p3, p4, p5, p6⟩ := hR.2.2.2.2 b _ hb
        obtain ⟨k, comp, k1, k2, k3, k4⟩ := h.K.2 5 _ rfl
        have k3 := k3 (by simp)
        obtain ⟨kc, k5, k6⟩ := k4 rfl (by simp)
        obtain ⟨C, T, N⟩ := r
        have hfc : X.s.vm.findClass C = some cb.cls := by rw [p5]; exact (h.K.1 c _ hr).2.1
        obtain ⟨a9, hw9, -⟩ := h.env.1.2.2.1
        have hct : va_Nw (.castable C "java/lang/Object") X.s := va_Nw.warmC h.env.2.1 (va_Nw.of rfl (hw9 _ hcast))
        obtain ⟨c0, t0, f1, f2, f3⟩ := Cond.castable_spec (va_Nw.use (A := X.args) rfl hct)
        cases hfc.symm.trans f1
        have hcm : X.s.vm.findClass "java/lang/Object" = some comp := k6
        cases hcm.symm.trans f2
        obtain ⟨kv, hkv, -⟩ := Vm.findClass_spec hfc
        exact W.aast h.x h.b q1 q2 q3 (by rw [q5]; exact k1) k2 rfl k5 ⟨h0, by rw [q6]; exact hlt⟩ p1 p2 hkv f3 rfl rfl d fin
    · cases h1
  · cases h1
/-- a cast that goes well, of an object of the class ci or of null -/
def zcst (σ : zS) (r : Option Nat) (ci : Nat) : Option Unit := match r with
  | none => some ()
  | some a => match σ.1 a with
    | some (.inr (c, _)) => if c = ci then some () else none
    | _ => none
theorem zcst_some {σ : zS} {r : Option Nat} {ci : Nat} (h : zcst σ r ci = some ()) : r = none ∨ ∃ a fs, r = some a ∧ σ.1 a = some (.inr (ci, fs)) := by
  unfold zcst at h
  split at h
  · exact Or.inl rfl
  · split at h
    · rename_i c fs hc
      split at h
      · rename_i e
        subst e
        exact Or.inr ⟨_, _, rfl, hc⟩
      · cases h
    · cases h
theorem z_cast (h : ZC X own cc ret fr lo) {i ci : Nat} {C nm : String} {T : u_T} {N : Nat} (hc : zcl[ci]? = some (C, T, N)) (hlk : (Cond.classLink own i nm) ∈ lw_all) (hok : C = nm ∨ Cond.castable C nm ∈ lw_tbl) (d : decode cc pc = .ok (.checkcast i, 3)) {r : Option Nat} {γ : Type} {F : Unit → Option γ} {out : γ} (hf : zo (zcst σ r ci) F = some out)
    (kk : F () = some out → ZW X σ (pc + 3) lv (zr r :: rest)) : ZW X σ pc lv (zr r :: rest) := by
  obtain ⟨⟨⟩, h1, h2⟩ := zo_some hf
  intro H locs ls hR hS hl2
  rcases zcst_some h1 with rfl | ⟨a, fs, rfl, ha⟩
  · exact lv_castN h.x h.b d (kk h2 H locs ls hR hS hl2)
  · rcases hok with rfl | hok
    · exact va_castS h.x h.b h.ow (h.ts _ hlk) (h.K.1 ci _ hc).2 (z_recv h hR hc ha) d (kk h2 H locs ls hR hS hl2)
    · exact va_castY h.x h.b h.ow (h.ts _ hlk) (va_Nw.warmC h.env.2.1 (h.nw hok rfl)) (z_recv h hR hc ha) d (kk h2 H locs ls hR hS hl2)
theorem z_inst (h : ZC X own cc ret fr lo) {i ci : Nat} {C nm : String} {T : u_T} {N : Nat} (hc : zcl[ci]? = some (C, T, N)) (hlk : (Cond.classLink own i nm) ∈ lw_all) (hok : C = nm ∨ Cond.castable C nm ∈ lw_tbl) (d : decode cc pc = .ok (.instanceof i, 3)) {r : Option Nat} {γ : Type} {F : Nat → Option γ} {out : γ} (hf : zo (zrc σ r ci) F = some out)
    (kk : ∀ a, F a = some out → ZW X σ (pc + 3) lv (zi 1 :: rest)) : ZW X σ pc lv (zr r :: rest) := by
  obtain ⟨a, h1, h2⟩ := zo_some hf
  obtain ⟨rfl, fs, ha⟩ := zrc_some h1
  intro H locs ls hR hS hl2
  rcases hok with rfl | hok
  · exact va_instS h.x h.b h.ow (h.ts _ hlk) (h.K.1 ci _ hc).2 (z_recv h hR hc ha) d (kk a h2 H locs ls hR hS hl2)
  · exact va_instY h.x h.b h.ow (h.ts _ hlk) (va_Nw.warmC h.env.2.1 (h.nw hok rfl)) (z_recv h hR hc ha) d (kk a h2 H locs ls hR hS hl2)
/-- a cast of an array of a kind -/
def zcsA (σ : zS) (r : Option Nat) (t : Nat) : Option Unit := match zarr σ r with
  | some (_, t', _, _) => if t' = t then some () else none
  | none => none
theorem z_castA (h : ZC X own cc ret fr lo) {i t : Nat} {nm : String} {ty : FieldType} (ht : ztys[t]? = some ty) (hne : ty ≠ .object "java/lang/Integer") (hnm : "[" ++ ty.toString = nm) (hlk : (Cond.classLink own i nm) ∈ lw_all) (d : decode cc pc = .ok (.checkcast i, 3)) {r : Option Nat} {γ : Type} {F : Unit → Option γ} {out : γ} (hf : zo (zcsA σ r t) F = some out)
    (kk : F () = some out → ZW X σ (pc + 3) lv (zr r :: rest)) : ZW X σ pc lv (zr r :: rest) := by
  subst hnm
  obtain ⟨⟨⟩, h1, h2⟩ := zo_some hf
  unfold zcsA at h1
  split at h1
  · rename_i a t' n x hz
    obtain ⟨rfl, ha⟩ := zarr_some hz
    split at h1
    · rename_i e
      subst e
      intro H locs ls hR hS hl2
      obtain ⟨cell, q1, q2, q3, q4, q5, q6, q7, q8⟩ := hR.2.2.2.2 a _ ha
      obtain ⟨k, comp, k1, k2, k3, -⟩ := h.K.2 _ _ ht
      have k3 := k3 hne
      intro T hT Y
      obtain ⟨vm', Y', st⟩ := Y.checkcastYes h.x h.ow (h.ts _ hlk) (by rw [hT]; exact q1) (isStatics_of q2) k3 (by rw [q5]; exact va_asg _ _) (g := F0 X.m pc ls (.ref a :: rest.map zvv)) rfl rfl (by rw [h.b]; exact d)
      obtain ⟨t, a1, b1⟩ := kk h2 H locs ls hR hS hl2 (T.setVm vm') hT Y'
      exact ⟨t, st t a1, b1⟩
    · cases h1
  · cases h1
/-- a static -/
theorem z_gets (h : ZC X own cc ret fr lo) {i : Nat} {C n d : String} {v : zV} (hm : (C, n, d, zvv v) ∈ zstat X.g.1) (hlk : (Cond.fieldLink own i C n d) ∈ lw_all) (dd : decode cc pc = .ok (.getstatic i, 3))
    (kk : ZW X σ (pc + 3) lv (v :: rest)) : ZW X σ pc lv rest := by
  intro H locs ls hR hS hl2
  have hZ := h.env.1.2.2.2.1 _ hm
  have hZ2 : va_Z C n d (zvv v) (zFr X.g) X.s X.s.heap := va_Z.moved h.env.2.1.alike (hZ.kept (fun a h1 h2 => h.env.2.2.2 a (by have := h.env.1.1; omega)))
  exact va_gets h.x h.b hZ2 hS h.ow (h.ts _ hlk) zsm dd (kk H locs ls hR hS hl2)
/-- a String constant -/
theorem z_lit (h : ZC X own cc ret fr lo) {i k : Nat} {tx : String} (hm : (own, i, tx, k) ∈ zlit) (d : decode cc pc = .ok (.ldc i, 2)) (kk : ZW X σ (pc + 2) lv (zr (some (X.g.1 k)) :: rest)) : ZW X σ pc lv rest := by
  intro H locs ls hR hS hl2
  exact va_ldcS h.x h.b h.ow (vk_R.warm h.env.2.1 (h.env.1.2.2.2.2.1 _ hm)) d (kk H locs ls hR hS hl2)
/-- a Class object -/
theorem z_mir (h : ZC X own cc ret fr lo) {i k : Nat} {C : String} (hm : (C, k) ∈ zmir) (hlk : (Cond.classLink own i C) ∈ lw_all) (d : decode cc pc = .ok (.ldc i, 2)) (kk : ZW X σ (pc + 2) lv (zr (some (X.g.1 k)) :: rest)) : ZW X σ pc lv rest := by
  intro H locs ls hR hS hl2
  exact va_ldcM h.x h.b h.ow (h.ts _ hlk) ((h.env.1.2.2.2.2.2.1 _ hm).moved h.env.2.1.alike) d (kk H locs ls hR hS hl2)
theorem z_objInit (h : ZC X own cc ret fr lo) {i a : Nat} (hlk : (Cond.methodLink own i objectInit) ∈ lw_all) (hins : (Cond.instanceMethod objectInit) ∈ lw_all) (hcd : (Cond.code objectInit ⟨#[0xb1]⟩ 1 none) ∈ lw_all) (hfr : 1 ≤ fr) (hlo : (rest.map zc).sum + 12 ≤ lo) (d : decode cc pc = .ok (.invokespecial i, 3)) (kk : ZW X σ (pc + 3) lv rest) : ZW X σ pc lv (zr (some a) :: rest) := by
  intro H locs ls hR hS hl2
  exact W.objInit h.x h.b h.ow (h.ts _ hlk) (h.ts _ hins) (h.ts _ hcd) rfl (by rw [h.ml]; exact hl2.1) rfl d (by rw [h.room]; exact hfr) (by rw [h.room]; show 2 * 0 + _ + 12 ≤ lo; rw [zcs_eq]; omega) (kk H locs ls hR hS hl2)
end ZMISC
