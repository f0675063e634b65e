/-! new exceptions of the JDK, made and not thrown at once -/
set_option maxRecDepth 100000
/-- where the words of such a make stand -/
def vy (w : Cond) : Prop := vx_no w = true → w ∈ lw_all ∨ (∃ d, w = .declares d ∧ w ∈ lw_tbl) ∨ (∃ a b, w = .castable a b ∧ w ∈ lw_tbl)
theorem vy_a {w : Cond} (h : w ∈ lw_all ∨ (∃ d, w = .declares d ∧ w ∈ lw_tbl) ∨ (∃ a b, w = .castable a b ∧ w ∈ lw_tbl)) : vy w := fun _ => h
theorem vy_s {w : Cond} (h : vx_no w = false) : vy w := fun z => by rw [h] at z; cases z
theorem vy_c {w : Cond} {B : List Cond} (h : vy w) (t : ∀ w ∈ B, vy w) : ∀ w' ∈ w :: B, vy w' := fun w' h' => (List.mem_cons.mp h').elim (fun e => by rw [e]; exact h) (t w')
theorem vy_n : ∀ w ∈ ([] : List Cond), vy w := fun _ h => nomatch h
section ZMAKE
variable {X : zX} {own : String} {cc : ByteArray} {ret : Option FieldType} {fr lo : Nat} {σ : zS} {pc : Nat} {lv lv' : List (Nat × zV)} {rest st : List zV}
theorem z_mk (h : ZC X own cc ret fr lo) {cls : String} {names : List String} {ik ic ci : Nat} (hcls : Bundle.fit cls = true) (hnames : ∀ n ∈ names, Bundle.fit n = true) (hc : zcl[ci]? = some (cls, TJ6, 0)) (hk0 : Cond.classLink own ik cls ∈ lw_all) (hini0 : Cond.initialized cls ∈ lw_all) (hat0 : ∀ w ∈ Bundle.ownAtoms0 own ic cls names, vy w) (hgood : (Cond.classLink own ik cls :: Cond.initialized cls :: vx_at0 own ic cls names).all vx_ot = true)
    (d0 : decode cc pc = .ok (.new ik, 3)) (d3 : decode cc (pc + 3) = .ok (.dup, 1)) (d4 : decode cc (pc + 4) = .ok (.invokespecial ic, 3)) (hfr : names.length + 3 < fr) (hlo : (rest.map zc).sum + (13 * (names.length + 1) + 42) ≤ lo)
    {γ : Type} {F : Nat → zS → Option γ} {out : γ} (hf : zb (znewO X.g.1 σ ci 6 []) F = some out) (kk : ∀ a σ', F a σ' = some out → ZW X σ' (pc + 7) lv (zr (some a) :: rest)) : ZW X σ pc lv rest := by
  obtain ⟨a0, σ', h1, h2⟩ := zb_some hf
  unfold znewO at h1
  split at h1
  case isFalse => cases h1
  case isTrue hz =>
  cases h1
  obtain ⟨hz1, hz2, hz3⟩ := hz
  have hk2 := kk _ _ h2
  intro H locs ls hR hS hl
  obtain ⟨r1, r2, r3, r4, r5⟩ := hR
  have hexec := h.x
  have hb := h.b
  have hown := h.ow
  have hE := h.env
  have hla := h.la
  have hatX : ∀ w ∈ vx_at0 own ic cls names, w.before X.args X.s = true := by
    intro w hw
    obtain ⟨hw1, hw2⟩ := List.mem_filter.mp hw
    rcases hat0 w hw1 hw2 with q | ⟨d, rfl, q⟩ | ⟨a, b, rfl, q⟩
    · exact h.ts _ q
    · exact va_Nw.use rfl (va_Nw.warmD hE.2.1 (h.nw q rfl))
    · exact va_Nw.use rfl (va_Nw.warmC hE.2.1 (h.nw q rfl))
  have hkeep0 : ∀ q : Nat, q < X.g.2.2.2.1.heap.size → ¬ zFr X.g q → H[q]? = X.g.2.2.2.1.heap[q]? := by
    intro q hq hn
    rw [hS.2.1 q (Nat.lt_of_lt_of_le hq (by rw [← hE.1.1]; exact hE.2.2.1)) hn]
    exact hE.2.2.2 q (by rw [hE.1.1]; exact hq)
  have hl9 : X.l.stackTraces = false := by rw [hla]; exact hE.1.2.2.2.2.2.2.1
  have hR9 : X.R = _ := h.room
  intro T hT Y0
  subst hT
  have X0 : Stand X.p X.l X.e X.R X.s X.m X.args X.below X.meth X.c T locs (T.heap.size - X.s.heap.size) (zt T.heap - zt X.s.heap) := Y0
  have hzt : zt X.s.heap ≤ zt T.heap := by
    have h0 : X.s.slotsTrue = true := by
      have h := X0.room
      simp only [State.hasRoom, Bool.and_eq_true] at h
      exact h.2
    have hb := X0.book
    have e0 : X.s.slotsUsed = zt X.s.heap := by simpa [State.slotsTrue, zt] using h0
    have e1 : T.slotsUsed = zt T.heap := by simpa [State.slotsTrue, zt] using hb
    obtain ⟨q1, q2, q3, q4, q5, q6⟩ := X0.same
    have q4' : T.slotsUsed = X.s.slotsUsed + ((T.heap.toList.drop X.s.heap.size).map (·.slots.size)).sum := q4
    omega
  have hsz : X.s.heap.size ≤ T.heap.size := hS.1
  have hRc : (T.heap.size - X.s.heap.size) + 1 ≤ X.R.cells := by rw [hR9]; show _ ≤ X.g.1 1 - X.s.heap.size; rw [r1]; omega
  have hRs : (zt T.heap - zt X.s.heap) + 6 ≤ X.R.slots := by rw [hR9]; show _ ≤ X.g.1 2 - zt X.s.heap; omega
  have htr : X.e.platform.stackTraces = false := (show X.e.platform.stackTraces = X.l.stackTraces by rw [X0.admits.platform]).trans hl9
  have Y := vx_rebase X0 (R' := { frames := X.R.frames, locals := X.R.locals, cells := 1, slots := 6 }) (Nat.le_refl _) (Nat.le_refl _) hRc hRs
  obtain ⟨s', hA'⟩ : ∃ z, z = (T.setVm X.s.vm).setFrames (.invoking X.m X.args :: X.below) := ⟨_, rfl⟩
  rw [← hA'] at Y
  have hvm : s'.vm = X.s.vm := by rw [hA']; rfl
  have hhp : s'.heap = T.heap := by rw [hA']; rfl
  have hW0 : X.s.WarmedH s'.vm := by rw [hvm]; exact State.WarmedH.refl X.s
  have hgd : ∀ w ∈ Cond.classLink own ik cls :: Cond.initialized cls :: vx_at0 own ic cls names, vx_ot w = true := fun w hw => List.all_eq_true.mp hgood w hw
  have hat' : ∀ w ∈ vx_at0 own ic cls names, w.before X.args s' = true := fun w hw => vx_ot_at hW0 hvm.symm (hgd w (List.mem_cons_of_mem _ (List.mem_cons_of_mem _ hw))) (hatX w hw)
  have hk' : (Cond.classLink own ik cls).before X.args s' = true := vx_ot_at hW0 hvm.symm (hgd _ List.mem_cons_self) (h.ts _ hk0)
  have hini' : (Cond.initialized cls).before X.args s' = true := vx_ot_at hW0 hvm.symm (hgd _ (List.mem_cons_of_mem _ List.mem_cons_self)) (h.ts _ hini0)
  have hU' : vx_Zq Bundle.tN "UNASSIGNED_STACK" Bundle.steD (zFr X.g) s' s'.heap := by rw [hhp]; exact vx_Zq.moved hW0.alike (vx_Zq.moved hE.2.1.alike (hE.1.2.2.2.2.2.2.2.1.kept hkeep0))
  have hN' : vx_Zq Bundle.tN "SUPPRESSED_SENTINEL" Bundle.listD (zFr X.g) s' s'.heap := by rw [hhp]; exact vx_Zq.moved hW0.alike (vx_Zq.moved hE.2.1.alike (hE.1.2.2.2.2.2.2.2.2.kept hkeep0))
  have hall : ∀ w ∈ Bundle.ownAtoms0 own ic cls names, w.before X.args s' = true := vx_own hat' (vx_isRefq hU'.1) (vx_isRefq hN'.1) hU'.2.word hN'.2.word
  have hown' : s'.vm.findClass own = some X.m.cls := by rw [hvm]; exact hown
  have hins : (Cond.instantiable cls 6).before X.args s' = true := hall _ (by simp [Bundle.ownAtoms0])
  obtain ⟨vm₁, cX, kX, hfX, hkX, -, -, X₁, st1⟩ := Y.newCold hexec (own := own) (C := cls) (index := ik) (n := 6) hown' hk' hins hini'
    (g := F0 X.m pc ls (rest.map zvv)) rfl (by rw [hb]; exact d0) (Nat.le_refl _) (Nat.le_refl _)
  generalize hT1 : (T.setVm vm₁).pushCell { cls := cX, slots := kX.instanceTypes.map defaultValue, vm := .none } = T1 at X₁ st1
  have hcat : (Value.ref T.heap.size).category = 1 := rfl
  have hcellA : T1.heap[T.heap.size]? = some (freshCell cX kX) := by rw [← hT1]; exact State.heap_pushCell_size _ _
  have d3' : decode X.c.code (pc + 3) = .ok (.dup, 1) := by rw [hb]; exact d3
  have hRf : names.length + 3 < X.R.frames := by rw [hR9]; exact hfr
  have hRl : ((rest.map zvv).map fun v => v.category).sum + (13 * (names.length + 1) + 42) ≤ X.R.locals := by rw [hR9, zcs_eq]; exact hlo
  obtain ⟨V, ce, L, Z, hL, hlt, hcl9, hvm9, st⟩ := vx_ctorMade0 X₁ hexec htr (own := own) (cls := cls) (names := names) (ic := ic) hown' hcls hnames hall (fun x hx => nomatch hx) hfX hkX hcellA (by rw [hhp]; exact Nat.le_refl _)
    (g := { method := X.m, pc := pc + 4, locals := ls, stack := .ref T.heap.size :: .ref T.heap.size :: rest.map zvv, locked := none }) rfl (hl.1.trans h.ml.symm) (rest := rest.map zvv) rfl
    (by rw [hb]; exact d4) hRf (by simp only [List.map_cons, List.sum_cons, hcat]; omega)
  have Z0 := Stand.forget (locs := []) Z (fun y hy => by rw [hL y hy, hhp]; exact Nat.le_refl _)
  obtain ⟨f1, f2⟩ := vx_frame Z0.same
  rw [hhp] at f1 f2
  have hcid : ce.cls = X.g.2.1.1 ci := by
    rw [hcl9]
    have h1 := (h.K.1 ci _ hc).2.1
    rw [hvm] at hfX
    exact Option.some.inj (hfX.symm.trans h1)
  have hh : (V.setCell T.heap.size ce).heap[T.heap.size]? = some ce := heapAt_setCell_self (s := V) ce hlt
  subst hA'
  have X5 := vx_back9 X0 Y Z0
  have X6 : Stand X.p X.l X.e X.R X.s X.m X.args X.below X.meth X.c (V.setCell T.heap.size ce) locs ((T.heap.size - X.s.heap.size) + 1) ((zt T.heap - zt X.s.heap) + 6) := { X5 with same := X5.same.mono (by omega) (by omega) }
  have hs0 : X.s.slotsTrue = true := by
    have h := X6.room
    simp only [State.hasRoom, Bool.and_eq_true] at h
    exact h.2
  have hbk := X6.book
  have e0 : X.s.slotsUsed = zt X.s.heap := by simpa [State.slotsTrue, zt] using hs0
  have e1 : (V.setCell T.heap.size ce).slotsUsed = zt (V.setCell T.heap.size ce).heap := by simpa [State.slotsTrue, zt] using hbk
  obtain ⟨q1, q2, q3, q4, q5, q6⟩ := X6.same
  have q3' : (V.setCell T.heap.size ce).heap.size ≤ X.s.heap.size + ((T.heap.size - X.s.heap.size) + 1) := q3
  have q4' : (V.setCell T.heap.size ce).slotsUsed = X.s.slotsUsed + (((V.setCell T.heap.size ce).heap.toList.drop X.s.heap.size).map (·.slots.size)).sum := q4
  have q5' : (((V.setCell T.heap.size ce).heap.toList.drop X.s.heap.size).map (·.slots.size)).sum ≤ (zt T.heap - zt X.s.heap) + 6 := q5
  have hlt2 : T.heap.size < (V.setCell T.heap.size ce).heap.size := (Array.getElem?_eq_some_iff.mp hh).1
  have hsize1 : (V.setCell T.heap.size ce).heap.size = T.heap.size + 1 := by omega
  have hzt1 : zt (V.setCell T.heap.size ce).heap ≤ zt T.heap + 6 := by omega
  have hR2 : ZR X.g (va_up σ.1 σ.2.1 (some (.inr (ci, []))), σ.2.1 + 1, σ.2.2 + 6) (V.setCell T.heap.size ce).heap := by
    refine ⟨by rw [hsize1, r1], ?_, hz1, hz2, fun b e2 hb2 => ?_⟩
    · show zt _ ≤ σ.2.2 + 6
      omega
    · by_cases hba : b = σ.2.1
      · subst hba
        have : va_up σ.1 σ.2.1 (some (.inr (ci, []))) σ.2.1 = some (.inr (ci, [])) := by simp [va_up]
        rw [show (va_up σ.1 σ.2.1 (some (.inr (ci, []))), σ.2.1 + 1, σ.2.2 + 6).1 = va_up σ.1 σ.2.1 (some (.inr (ci, []))) from rfl, this] at hb2
        cases hb2
        refine ⟨ce, by rw [← r1]; exact hh, fun k z => (nomatch (hvm9.symm.trans z)), fun z => (nomatch (hvm9.symm.trans z)), fun _ => hvm9, hcid, ⟨_, hc, rfl⟩, fun k hk => absurd hk (Nat.not_lt_zero k)⟩
      · have : va_up σ.1 σ.2.1 (some (.inr (ci, []))) b = σ.1 b := by simp [va_up, hba]
        rw [show (va_up σ.1 σ.2.1 (some (.inr (ci, []))), σ.2.1 + 1, σ.2.2 + 6).1 = va_up σ.1 σ.2.1 (some (.inr (ci, []))) from rfl, this] at hb2
        have hz := r5 b e2 hb2
        exact zat_kept hz (f2 b (zat_lt hz) (fun z hz => nomatch hz))
  have hS2 : va_S (zFr X.g) X.s.heap (V.setCell T.heap.size ce).heap locs := ⟨Nat.le_trans hS.1 f1, fun q h1 h2 => (f2 q (Nat.lt_of_lt_of_le h1 hS.1) (fun z hz => nomatch hz)).trans (hS.2.1 q h1 h2), hS.2.2⟩
  have hfin := hk2 (V.setCell T.heap.size ce).heap locs ls hR2 hS2 hl
  rw [show σ.2.1 = T.heap.size from r1.symm] at hfin
  obtain ⟨t, a1, b1⟩ := (W.tight hfin) _ rfl X6
  refine ⟨t, st1 _ ?_, b1⟩
  show Steps X.p.tables X.e X.below (T1.setTop { method := X.m, pc := pc + 3, locals := ls, stack := .ref T.heap.size :: rest.map zvv, locked := none }) _
  jvm_step X₁.here [X₁.here.top, hexec, d3', Value.category]
  exact st _ a1
theorem vy_L25 : ∀ w ∈ Bundle.ownAtoms0 "BlockingShop" 51 "java/lang/IndexOutOfBoundsException" ["java/lang/RuntimeException", "java/lang/Exception"], vy w := vy_c (vy_a (Or.inl q109)) (vy_c (vy_a (Or.inl q526)) (vy_c (vy_a (Or.inl q535)) (vy_c (vy_a (Or.inl q542)) (vy_c (vy_a (Or.inl q545)) (vy_c (vy_a (Or.inl q547)) (vy_c (vy_a (Or.inl q527)) (vy_c (vy_a (Or.inl q528)) (vy_c (vy_a (Or.inl q163)) (vy_c (vy_a (Or.inl q164)) (vy_c (vy_a (Or.inl q529)) (vy_c (vy_a (Or.inl q534)) (vy_c (vy_a (Or.inl q543)) (vy_c (vy_a (Or.inl q796)) (vy_c (vy_a (Or.inl q516)) (vy_c (vy_a (Or.inl q797)) (vy_c (vy_a (Or.inl q518)) (vy_c (vy_a (Or.inl q798)) (vy_c (vy_a (Or.inl q520)) (vy_c (vy_a (Or.inl q530)) (vy_c (vy_s (by decide)) (vy_c (vy_a (Or.inl q532)) (vy_c (vy_s (by decide)) (vy_c (vy_a (Or.inl q522)) (vy_c (vy_a (Or.inl q2509)) (vy_c (vy_a (Or.inl q2510)) (vy_c (vy_a (Or.inl q2511)) (vy_c (vy_a (Or.inl q1148)) (vy_c (vy_a (Or.inr (Or.inl ⟨_, rfl, q507⟩))) (vy_c (vy_a (Or.inl q1148)) (vy_c (vy_a (Or.inl q1149)) (vy_c (vy_a (Or.inl q1150)) (vy_c (vy_a (Or.inl q1151)) (vy_c (vy_a (Or.inr (Or.inl ⟨_, rfl, q509⟩))) (vy_c (vy_a (Or.inl q1151)) (vy_c (vy_a (Or.inl q1152)) (vy_c (vy_a (Or.inl q1153)) (vy_c (vy_a (Or.inl q527)) (vy_c (vy_a (Or.inr (Or.inl ⟨_, rfl, q511⟩))) (vy_c (vy_a (Or.inl q2508)) (vy_c (vy_a (Or.inl q505)) (vy_c (vy_a (Or.inr (Or.inr ⟨_, _, rfl, q506⟩))) (vy_c (vy_a (Or.inl q513)) (vy_c (vy_a (Or.inl q514)) (vy_c (vy_a (Or.inl q515)) (vy_c (vy_a (Or.inl q517)) (vy_c (vy_a (Or.inl q519)) (vy_c (vy_a (Or.inl q521)) (vy_c (vy_s (by decide)) (vy_c (vy_s (by decide)) (vy_c (vy_a (Or.inl q794)) (vy_c (vy_a (Or.inl q524)) (vy_c (vy_a (Or.inl q523)) (vy_n)))))))))))))))))))))))))))))))))))))))))))))))))))))
theorem z_mk25 (h : ZC X "BlockingShop" cc ret fr lo) (d0 : decode cc pc = .ok (.new 49, 3)) (d3 : decode cc (pc + 3) = .ok (.dup, 1)) (d4 : decode cc (pc + 4) = .ok (.invokespecial 51, 3)) (hfr : 6 ≤ fr) (hlo : (rest.map zc).sum + 81 ≤ lo) {γ : Type} {F : Nat → zS → Option γ} {out : γ} (hf : zb (znewO X.g.1 σ 25 6 []) F = some out) (kk : ∀ a σ', F a σ' = some out → ZW X σ' (pc + 7) lv (zr (some a) :: rest)) : ZW X σ pc lv rest := z_mk h (names := ["java/lang/RuntimeException", "java/lang/Exception"]) (by decide +kernel) (by decide +kernel) (show zcl[25]? = some ("java/lang/IndexOutOfBoundsException", TJ6, 0) from rfl) q2507 q130 vy_L25 (by decide +kernel) d0 d3 d4 hfr hlo hf kk
theorem vy_L26 : ∀ w ∈ Bundle.ownAtoms0 "BlockingShop" 54 "java/lang/IllegalArgumentException" ["java/lang/RuntimeException", "java/lang/Exception"], vy w := vy_c (vy_a (Or.inl q109)) (vy_c (vy_a (Or.inl q526)) (vy_c (vy_a (Or.inl q535)) (vy_c (vy_a (Or.inl q542)) (vy_c (vy_a (Or.inl q545)) (vy_c (vy_a (Or.inl q547)) (vy_c (vy_a (Or.inl q527)) (vy_c (vy_a (Or.inl q528)) (vy_c (vy_a (Or.inl q163)) (vy_c (vy_a (Or.inl q164)) (vy_c (vy_a (Or.inl q529)) (vy_c (vy_a (Or.inl q534)) (vy_c (vy_a (Or.inl q543)) (vy_c (vy_a (Or.inl q796)) (vy_c (vy_a (Or.inl q516)) (vy_c (vy_a (Or.inl q797)) (vy_c (vy_a (Or.inl q518)) (vy_c (vy_a (Or.inl q798)) (vy_c (vy_a (Or.inl q520)) (vy_c (vy_a (Or.inl q530)) (vy_c (vy_s (by decide)) (vy_c (vy_a (Or.inl q532)) (vy_c (vy_s (by decide)) (vy_c (vy_a (Or.inl q522)) (vy_c (vy_a (Or.inl q2021)) (vy_c (vy_a (Or.inl q2022)) (vy_c (vy_a (Or.inl q2023)) (vy_c (vy_a (Or.inl q1148)) (vy_c (vy_a (Or.inr (Or.inl ⟨_, rfl, q507⟩))) (vy_c (vy_a (Or.inl q1148)) (vy_c (vy_a (Or.inl q1149)) (vy_c (vy_a (Or.inl q1150)) (vy_c (vy_a (Or.inl q1151)) (vy_c (vy_a (Or.inr (Or.inl ⟨_, rfl, q509⟩))) (vy_c (vy_a (Or.inl q1151)) (vy_c (vy_a (Or.inl q1152)) (vy_c (vy_a (Or.inl q1153)) (vy_c (vy_a (Or.inl q527)) (vy_c (vy_a (Or.inr (Or.inl ⟨_, rfl, q511⟩))) (vy_c (vy_a (Or.inl q2020)) (vy_c (vy_a (Or.inl q768)) (vy_c (vy_a (Or.inr (Or.inr ⟨_, _, rfl, q769⟩))) (vy_c (vy_a (Or.inl q770)) (vy_c (vy_a (Or.inl q539)) (vy_c (vy_a (Or.inl q771)) (vy_c (vy_a (Or.inl q772)) (vy_c (vy_a (Or.inl q773)) (vy_c (vy_a (Or.inl q774)) (vy_c (vy_s (by decide)) (vy_c (vy_s (by decide)) (vy_c (vy_a (Or.inl q794)) (vy_c (vy_a (Or.inl q524)) (vy_c (vy_a (Or.inl q775)) (vy_n)))))))))))))))))))))))))))))))))))))))))))))))))))))
theorem z_mk26 (h : ZC X "BlockingShop" cc ret fr lo) (d0 : decode cc pc = .ok (.new 52, 3)) (d3 : decode cc (pc + 3) = .ok (.dup, 1)) (d4 : decode cc (pc + 4) = .ok (.invokespecial 54, 3)) (hfr : 6 ≤ fr) (hlo : (rest.map zc).sum + 81 ≤ lo) {γ : Type} {F : Nat → zS → Option γ} {out : γ} (hf : zb (znewO X.g.1 σ 26 6 []) F = some out) (kk : ∀ a σ', F a σ' = some out → ZW X σ' (pc + 7) lv (zr (some a) :: rest)) : ZW X σ pc lv rest := z_mk h (names := ["java/lang/RuntimeException", "java/lang/Exception"]) (by decide +kernel) (by decide +kernel) (show zcl[26]? = some ("java/lang/IllegalArgumentException", TJ6, 0) from rfl) q2019 q112 vy_L26 (by decide +kernel) d0 d3 d4 hfr hlo hf kk
theorem vy_L27 : ∀ w ∈ Bundle.ownAtoms0 "BlockingShop" 57 "java/lang/IllegalStateException" ["java/lang/RuntimeException", "java/lang/Exception"], vy w := vy_c (vy_a (Or.inl q109)) (vy_c (vy_a (Or.inl q526)) (vy_c (vy_a (Or.inl q535)) (vy_c (vy_a (Or.inl q542)) (vy_c (vy_a (Or.inl q545)) (vy_c (vy_a (Or.inl q547)) (vy_c (vy_a (Or.inl q527)) (vy_c (vy_a (Or.inl q528)) (vy_c (vy_a (Or.inl q163)) (vy_c (vy_a (Or.inl q164)) (vy_c (vy_a (Or.inl q529)) (vy_c (vy_a (Or.inl q534)) (vy_c (vy_a (Or.inl q543)) (vy_c (vy_a (Or.inl q796)) (vy_c (vy_a (Or.inl q516)) (vy_c (vy_a (Or.inl q797)) (vy_c (vy_a (Or.inl q518)) (vy_c (vy_a (Or.inl q798)) (vy_c (vy_a (Or.inl q520)) (vy_c (vy_a (Or.inl q530)) (vy_c (vy_s (by decide)) (vy_c (vy_a (Or.inl q532)) (vy_c (vy_s (by decide)) (vy_c (vy_a (Or.inl q522)) (vy_c (vy_a (Or.inl q2635)) (vy_c (vy_a (Or.inl q2636)) (vy_c (vy_a (Or.inl q2637)) (vy_c (vy_a (Or.inl q1148)) (vy_c (vy_a (Or.inr (Or.inl ⟨_, rfl, q507⟩))) (vy_c (vy_a (Or.inl q1148)) (vy_c (vy_a (Or.inl q1149)) (vy_c (vy_a (Or.inl q1150)) (vy_c (vy_a (Or.inl q1151)) (vy_c (vy_a (Or.inr (Or.inl ⟨_, rfl, q509⟩))) (vy_c (vy_a (Or.inl q1151)) (vy_c (vy_a (Or.inl q1152)) (vy_c (vy_a (Or.inl q1153)) (vy_c (vy_a (Or.inl q527)) (vy_c (vy_a (Or.inr (Or.inl ⟨_, rfl, q511⟩))) (vy_c (vy_a (Or.inl q2634)) (vy_c (vy_a (Or.inl q1955)) (vy_c (vy_a (Or.inr (Or.inr ⟨_, _, rfl, q1956⟩))) (vy_c (vy_a (Or.inl q1957)) (vy_c (vy_a (Or.inl q540)) (vy_c (vy_a (Or.inl q1958)) (vy_c (vy_a (Or.inl q1959)) (vy_c (vy_a (Or.inl q1960)) (vy_c (vy_a (Or.inl q1961)) (vy_c (vy_s (by decide)) (vy_c (vy_s (by decide)) (vy_c (vy_a (Or.inl q794)) (vy_c (vy_a (Or.inl q524)) (vy_c (vy_a (Or.inl q1962)) (vy_n)))))))))))))))))))))))))))))))))))))))))))))))))))))
theorem z_mk27 (h : ZC X "BlockingShop" cc ret fr lo) (d0 : decode cc pc = .ok (.new 55, 3)) (d3 : decode cc (pc + 3) = .ok (.dup, 1)) (d4 : decode cc (pc + 4) = .ok (.invokespecial 57, 3)) (hfr : 6 ≤ fr) (hlo : (rest.map zc).sum + 81 ≤ lo) {γ : Type} {F : Nat → zS → Option γ} {out : γ} (hf : zb (znewO X.g.1 σ 27 6 []) F = some out) (kk : ∀ a σ', F a σ' = some out → ZW X σ' (pc + 7) lv (zr (some a) :: rest)) : ZW X σ pc lv rest := z_mk h (names := ["java/lang/RuntimeException", "java/lang/Exception"]) (by decide +kernel) (by decide +kernel) (show zcl[27]? = some ("java/lang/IllegalStateException", TJ6, 0) from rfl) q2633 q146 vy_L27 (by decide +kernel) d0 d3 d4 hfr hlo hf kk
theorem vy_L28 : ∀ w ∈ Bundle.ownAtoms0 "BlockingShop" 196 "java/util/NoSuchElementException" ["java/lang/RuntimeException", "java/lang/Exception"], vy w := vy_c (vy_a (Or.inl q109)) (vy_c (vy_a (Or.inl q526)) (vy_c (vy_a (Or.inl q535)) (vy_c (vy_a (Or.inl q542)) (vy_c (vy_a (Or.inl q545)) (vy_c (vy_a (Or.inl q547)) (vy_c (vy_a (Or.inl q527)) (vy_c (vy_a (Or.inl q528)) (vy_c (vy_a (Or.inl q163)) (vy_c (vy_a (Or.inl q164)) (vy_c (vy_a (Or.inl q529)) (vy_c (vy_a (Or.inl q534)) (vy_c (vy_a (Or.inl q543)) (vy_c (vy_a (Or.inl q796)) (vy_c (vy_a (Or.inl q516)) (vy_c (vy_a (Or.inl q797)) (vy_c (vy_a (Or.inl q518)) (vy_c (vy_a (Or.inl q798)) (vy_c (vy_a (Or.inl q520)) (vy_c (vy_a (Or.inl q530)) (vy_c (vy_s (by decide)) (vy_c (vy_a (Or.inl q532)) (vy_c (vy_s (by decide)) (vy_c (vy_a (Or.inl q522)) (vy_c (vy_a (Or.inl q1145)) (vy_c (vy_a (Or.inl q1146)) (vy_c (vy_a (Or.inl q1147)) (vy_c (vy_a (Or.inl q1148)) (vy_c (vy_a (Or.inr (Or.inl ⟨_, rfl, q507⟩))) (vy_c (vy_a (Or.inl q1148)) (vy_c (vy_a (Or.inl q1149)) (vy_c (vy_a (Or.inl q1150)) (vy_c (vy_a (Or.inl q1151)) (vy_c (vy_a (Or.inr (Or.inl ⟨_, rfl, q509⟩))) (vy_c (vy_a (Or.inl q1151)) (vy_c (vy_a (Or.inl q1152)) (vy_c (vy_a (Or.inl q1153)) (vy_c (vy_a (Or.inl q527)) (vy_c (vy_a (Or.inr (Or.inl ⟨_, rfl, q511⟩))) (vy_c (vy_a (Or.inl q2597)) (vy_c (vy_a (Or.inl q1136)) (vy_c (vy_a (Or.inr (Or.inr ⟨_, _, rfl, q1137⟩))) (vy_c (vy_a (Or.inl q1138)) (vy_c (vy_a (Or.inl q541)) (vy_c (vy_a (Or.inl q1139)) (vy_c (vy_a (Or.inl q1140)) (vy_c (vy_a (Or.inl q1141)) (vy_c (vy_a (Or.inl q1142)) (vy_c (vy_s (by decide)) (vy_c (vy_s (by decide)) (vy_c (vy_a (Or.inl q794)) (vy_c (vy_a (Or.inl q524)) (vy_c (vy_a (Or.inl q1143)) (vy_n)))))))))))))))))))))))))))))))))))))))))))))))))))))
theorem z_mk28 (h : ZC X "BlockingShop" cc ret fr lo) (d0 : decode cc pc = .ok (.new 194, 3)) (d3 : decode cc (pc + 3) = .ok (.dup, 1)) (d4 : decode cc (pc + 4) = .ok (.invokespecial 196, 3)) (hfr : 6 ≤ fr) (hlo : (rest.map zc).sum + 81 ≤ lo) {γ : Type} {F : Nat → zS → Option γ} {out : γ} (hf : zb (znewO X.g.1 σ 28 6 []) F = some out) (kk : ∀ a σ', F a σ' = some out → ZW X σ' (pc + 7) lv (zr (some a) :: rest)) : ZW X σ pc lv rest := z_mk h (names := ["java/lang/RuntimeException", "java/lang/Exception"]) (by decide +kernel) (by decide +kernel) (show zcl[28]? = some ("java/util/NoSuchElementException", TJ6, 0) from rfl) q2596 q145 vy_L28 (by decide +kernel) d0 d3 d4 hfr hlo hf kk
end ZMAKE
