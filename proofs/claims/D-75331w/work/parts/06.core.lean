/-! THE CORE: a world as a partial map from addresses to cells; the judgement ZW of a walk over it; a row an instruction -/
set_option maxRecDepth 100000
abbrev zA : Type := (Nat → Int32) ⊕ ((Nat → Int64) ⊕ (Nat → Option Nat))
abbrev zE : Type := (Nat × Nat × zA) ⊕ (Nat × List Value)
abbrev zS : Type := (Nat → Option zE) × Nat × Nat
def zcv (x : zA) (j : Nat) : Value := match x with
  | .inl f => .int (f j)
  | .inr (.inl f) => .long (f j)
  | .inr (.inr f) => va_rf (f j)
/-- the surroundings: numbers (0: the base, 1, 2: the limits of cells and slots, the rest addresses of constants), the classes' numbers, the array classes' numbers, the root state, the launch -/
abbrev zG : Type := (Nat → Nat) × va_G × (Nat → Nat) × State × Launch
def zgo (n : Nat) : Option Nat := if n = 0 then none else some (n - 1)
def zstat (G : Nat → Nat) : List (String × String × String × Value) := [("java/lang/String", "COMPACT_STRINGS", "Z", .int 1), ("java/lang/Integer$IntegerCache", "high", "I", .int 127), ("java/lang/Integer$IntegerCache", "cache", "[Ljava/lang/Integer;", .ref (G 4)), ("java/util/ArrayList", "DEFAULTCAPACITY_EMPTY_ELEMENTDATA", "[Ljava/lang/Object;", .ref (G 3)), ("java/util/BitSet", "$assertionsDisabled", "Z", .int 1), ("java/util/ImmutableCollections", "$assertionsDisabled", "Z", .int 1), ("java/lang/Throwable", "UNASSIGNED_STACK", "[Ljava/lang/StackTraceElement;", va_rf (zgo (G 6))), ("java/lang/Throwable", "SUPPRESSED_SENTINEL", "Ljava/util/List;", va_rf (zgo (G 7))), ("jdk/internal/util/Preconditions", "SIOOBE_FORMATTER", "Ljava/util/function/BiFunction;", va_rf (zgo (G 8)))]
/-- the classes of the program's objects; behind them the exceptions' (whose fields nobody reads) -/
def zcl : List vw_C := [(RX1, TX1, 6), (RX2, TX2, 9), (RX3, TX3, 5), (RX4, TX4, 7), (RX6, TX6, 1), (RX7, TX7, 2), (RX8, TX8, 25), (RX9, TX9, 8), (RX10, TX10, 8), (RX11, TX11, 4), (RX12, TX12, 1), (RX13, TX13, 3), (RX14, TX14, 3), (RJ1, TJ1, 3), (RJ3, TJ3, 9), (RJ5, TJ5, 3), (RJ11, TJ11, 4), (RJ12, TJ12, 4), (RJ20, TJ20, 1), (RJ22, TJ22, 3), (RJ24, TJ24, 3), (RJ27, TJ27, 6), (RJ33, TJ33, 2), (RJ38, TJ38, 4), (RJ39, TJ39, 4), ("java/lang/IndexOutOfBoundsException", TJ6, 0), ("java/lang/IllegalArgumentException", TJ6, 0), ("java/lang/IllegalStateException", TJ6, 0), ("java/util/NoSuchElementException", TJ6, 0)]
/-- the kinds of arrays -/
def ztys : List FieldType := [.int, .long, .byte, .boolean, .array .int, .object "java/lang/Object", .object "java/lang/Integer"]
/-- the String constants: owner, entry, text, their place among the numbers -/
def zlit : List (String × Nat × String × Nat) := [("BlockingShop$Layout", 31, "completion", 15), ("BlockingShop$Variable", 19, "due", 16), ("BlockingShop$Variable", 25, "weight", 17), ("BlockingShop$Variable", 27, "release", 18), ("BlockingShopModel", 178, "shop", 10), ("BlockingShopModel", 161, "job", 11), ("BlockingShopModel", 150, "op", 12), ("BlockingShopModel", 165, "machine", 13), ("BlockingShopModel", 169, "cost", 14), ("BlockingShopModel", 120, "completion", 15), ("BlockingShopModel", 126, "due", 16), ("BlockingShopModel", 128, "weight", 17), ("BlockingShopModel", 130, "release", 18), ("BlockingShop$Parser", 225, "shop", 10), ("BlockingShop$Parser", 190, "job", 11), ("BlockingShop$Parser", 192, "machine", 13), ("BlockingShop$Parser", 193, "cost", 14), ("BlockingShop$Parser", 164, "op", 12), ("BlockingShop$Parser", 113, "completion", 15), ("BlockingShop$Parser", 115, "due", 16), ("BlockingShop$Parser", 117, "weight", 17), ("BlockingShop$Parser", 119, "release", 18)]
/-- the Class objects -/
def zmir : List (String × Nat) := [("[Ljava/lang/Object;", 5)]
/-- what isn't castable; the statement's words of its own -/
def znot : List Cond := [.not (.castable "java/lang/IllegalArgumentException" "java/lang/IndexOutOfBoundsException"), .not (.castable "java/lang/IllegalStateException" "java/lang/IndexOutOfBoundsException"), .methodLink "java/util/ImmutableCollections$AbstractImmutableList" 107 ⟨"java/util/ImmutableCollections$AbstractImmutableList", "indexOf", "(Ljava/lang/Object;)I"⟩, .sameMethod "java/util/ImmutableCollections$AbstractImmutableList" "java/util/List" "indexOf" "(Ljava/lang/Object;)I"]
def zt (H : Heap) : Nat := H.foldl (fun n c => n + c.slots.size) 0
/-- the cell at a is as told: an array of a kind, its length, its contents; an object of a class, its fields -/
def zat (Γ : zG) (a : Nat) (e : zE) (H : Heap) : Prop := ∃ cell : Cell, H[a]? = some cell ∧ (∀ k, cell.vm ≠ .statics k) ∧ cell.vm ≠ .unknown ∧ (Γ.1 0 ≤ a → cell.vm = .none) ∧ match e with
  | .inl (t, n, x) => cell.cls = Γ.2.2.1 t ∧ cell.slots.size = n ∧ n < 2 ^ 31 ∧ ∀ j : Nat, j < n → cell.slots[j]? = some (zcv x j)
  | .inr (ci, fs) => cell.cls = Γ.2.1.1 ci ∧ (∃ r : vw_C, zcl[ci]? = some r ∧ fs.length = r.2.2) ∧ ∀ k : Nat, k < fs.length → cell.slots[Γ.2.1.2 ci k]? = fs[k]?
def ZR (Γ : zG) (σ : zS) (H : Heap) : Prop := H.size = σ.2.1 ∧ zt H ≤ σ.2.2 ∧ σ.2.1 ≤ Γ.1 1 ∧ σ.2.2 ≤ Γ.1 2 ∧ ∀ (a : Nat) (e : zE), σ.1 a = some e → zat Γ a e H
def zFr (Γ : zG) (q : Nat) : Prop := Γ.1 0 ≤ q
/-- what the tables say of an array class -/
def zAr (U : State) (cA : ClassId) (ty : FieldType) : Prop := ∃ (k : Class) (comp : ClassId), U.vm.classes[cA]? = some k ∧ k.kind = .array comp ty ∧ (ty ≠ .object "java/lang/Integer" → U.vm.findClass ("[" ++ ty.toString) = some cA) ∧ (ty.isReference = true → ty ≠ .object "java/lang/Integer" → ∃ kc : Class, U.vm.classes[comp]? = some kc ∧ U.vm.findClass (match ty with | .object C => C | t => t.toString) = some comp)
def zK (Γ : zG) (U : State) : Prop := (∀ (c : Nat) (q : vw_C), zcl[c]? = some q → u_Kn U q.1 q.2.1 q.2.2 (Γ.2.1.1 c) (Γ.2.1.2 c)) ∧ ∀ (t : Nat) (ty : FieldType), ztys[t]? = some ty → zAr U (Γ.2.2.1 t) ty
theorem zAr.moved {u U : State} (hvm : u.vm.Alike U.vm) {cA : ClassId} {ty : FieldType} (h : zAr u cA ty) : zAr U cA ty := by
  obtain ⟨k, comp, h1, h2, h3, h4⟩ := h
  obtain ⟨k', hk', he⟩ := hvm.2.2 _ _ h1
  refine ⟨k', comp, hk', by rw [he]; exact h2, fun hn => by rw [hvm.findClass]; exact h3 hn, fun hr hn => ?_⟩
  obtain ⟨kc, h5, h6⟩ := h4 hr hn
  obtain ⟨k2, hk2, -⟩ := hvm.2.2 _ _ h5
  exact ⟨k2, hk2, by rw [hvm.findClass]; exact h6⟩
theorem zK.moved {Γ : zG} {u U : State} (hvm : u.vm.Alike U.vm) (h : zK Γ u) : zK Γ U := ⟨fun c q hq => u_Kn_moved hvm (h.1 c q hq), fun t ty ht => (h.2 t ty ht).moved hvm⟩
/-- what holds at the root -/
def zRoot (Γ : zG) : Prop := Γ.1 0 = Γ.2.2.2.1.heap.size ∧ zK Γ Γ.2.2.2.1 ∧ (∃ args : Array Value, (∀ w ∈ lw_tbl, w.before args Γ.2.2.2.1 = true) ∧ ∀ w ∈ znot, w.before args Γ.2.2.2.1 = true) ∧ (∀ q ∈ zstat Γ.1, va_Z q.1 q.2.1 q.2.2.1 q.2.2.2 (zFr Γ) Γ.2.2.2.1 Γ.2.2.2.1.heap) ∧ (∀ q ∈ zlit, vk_R q.1 q.2.1 q.2.2.1 (Γ.1 q.2.2.2) Γ.2.2.2.1) ∧ (∀ q ∈ zmir, va_Mi q.1 (Γ.1 q.2) Γ.2.2.2.1) ∧ Γ.2.2.2.2.stackTraces = false ∧ vx_Zq Bundle.tN "UNASSIGNED_STACK" Bundle.steD (zFr Γ) Γ.2.2.2.1 Γ.2.2.2.1.heap ∧ vx_Zq Bundle.tN "SUPPRESSED_SENTINEL" Bundle.listD (zFr Γ) Γ.2.2.2.1 Γ.2.2.2.1.heap
/-- a state on the way from the root -/
def zEnv (Γ : zG) (U : State) : Prop := zRoot Γ ∧ Γ.2.2.2.1.WarmedH U.vm ∧ Γ.1 0 ≤ U.heap.size ∧ ∀ q : Nat, q < Γ.1 0 → U.heap[q]? = Γ.2.2.2.1.heap[q]?
theorem zt_list (H : Heap) : zt H = (H.toList.map (·.slots.size)).sum := by
  have h : ∀ (l : List Cell) (n : Nat), l.foldl (fun n c => n + c.slots.size) n = n + (l.map (·.slots.size)).sum := by
    intro l
    induction l with
    | nil => intro n; simp
    | cons a l ih => intro n; simp only [List.foldl_cons, List.map_cons, List.sum_cons]; rw [ih]; omega
  unfold zt
  rw [← Array.foldl_toList, h]
  omega
theorem zt_same {H H1 : Heap} (hs : H1.size = H.size) (h : ∀ (q : Nat) (c : Cell), H[q]? = some c → ∃ c1 : Cell, H1[q]? = some c1 ∧ c1.slots.size = c.slots.size) : zt H1 = zt H := by
  rw [zt_list, zt_list]
  congr 1
  apply List.ext_getElem?
  intro i
  rw [List.getElem?_map, List.getElem?_map, Array.getElem?_toList, Array.getElem?_toList]
  cases hc : H[i]? with
  | none =>
    have h1 : H1[i]? = none := by
      rw [Array.getElem?_eq_none_iff] at hc ⊢
      omega
    rw [h1]
  | some c =>
    obtain ⟨c1, h1, h2⟩ := h i c hc
    rw [h1]
    simp [h2]
theorem zt_push {H H1 : Heap} {c : Cell} (hs : H1.size = H.size + 1) (ho : ∀ q : Nat, q < H.size → H1[q]? = H[q]?) (hc : H1[H.size]? = some c) : zt H1 = zt H + c.slots.size := by
  rw [zt_list, zt_list]
  have e : H1.toList = H.toList ++ [c] := by
    apply List.ext_getElem?
    intro i
    rw [Array.getElem?_toList]
    by_cases hi : i < H.size
    · rw [List.getElem?_append_left (by simpa using hi), Array.getElem?_toList, ho i hi]
    · by_cases hi2 : i = H.size
      · subst hi2
        rw [hc, List.getElem?_append_right (by simp)]
        simp
      · rw [List.getElem?_append_right (by simp; omega)]
        have h1 : H1[i]? = none := by
          rw [Array.getElem?_eq_none_iff]
          omega
        rw [h1]
        simp only [Array.length_toList]
        have : (i - H.size) = (i - H.size - 1) + 1 := by omega
        rw [this]
        simp
  rw [e]
  simp
theorem zat_kept {Γ : zG} {a : Nat} {e : zE} {H H1 : Heap} (h : zat Γ a e H) (hq : H1[a]? = H[a]?) : zat Γ a e H1 := by
  obtain ⟨cell, h1, h2⟩ := h
  exact ⟨cell, by rw [hq]; exact h1, h2⟩
theorem zat_lt {Γ : zG} {a : Nat} {e : zE} {H : Heap} (h : zat Γ a e H) : a < H.size := by
  obtain ⟨cell, h1, -⟩ := h
  exact (Array.getElem?_eq_some_iff.mp h1).1

/-! the walk -/
abbrev zX : Type := (Program × Launch × Env × Room) × (State × MethodId × Array Value × List Frame) × (Method × Code × (State → Prop)) × zG × Nat
abbrev zX.p (X : zX) : Program := X.1.1
abbrev zX.l (X : zX) : Launch := X.1.2.1
abbrev zX.e (X : zX) : Env := X.1.2.2.1
abbrev zX.R (X : zX) : Room := X.1.2.2.2
abbrev zX.s (X : zX) : State := X.2.1.1
abbrev zX.m (X : zX) : MethodId := X.2.1.2.1
abbrev zX.args (X : zX) : Array Value := X.2.1.2.2.1
abbrev zX.below (X : zX) : List Frame := X.2.1.2.2.2
abbrev zX.meth (X : zX) : Method := X.2.2.1.1
abbrev zX.c (X : zX) : Code := X.2.2.1.2.1
abbrev zX.Q (X : zX) : State → Prop := X.2.2.1.2.2
abbrev zX.g (X : zX) : zG := X.2.2.2.1
abbrev zX.nL (X : zX) : Nat := X.2.2.2.2
/-- W with the counters at what the heap has -/
abbrev zw (X : zX) (H : Heap) (locs : List Loc) (g : JFrame) : Prop := W X.p X.l X.e X.R X.s X.m X.args X.below X.meth X.c H locs (H.size - X.s.heap.size) (zt H - zt X.s.heap) X.Q g
/-- a value on the stack or in a local: an int, a long, a reference -/
abbrev zV : Type := Int32 ⊕ (Int64 ⊕ Option Nat)
abbrev zi (x : Int32) : zV := .inl x
abbrev zj (x : Int64) : zV := .inr (.inl x)
abbrev zr (x : Option Nat) : zV := .inr (.inr x)
def zvv (v : zV) : Value := match v with
  | .inl x => .int x
  | .inr (.inl x) => .long x
  | .inr (.inr x) => va_rf x
def zc (v : zV) : Nat := match v with
  | .inr (.inl _) => 2
  | _ => 1
theorem z_cat (x : Option Nat) : (va_rf x).category = 1 := by cases x <;> rfl
theorem zc_eq (v : zV) : (zvv v).category = zc v := by
  rcases v with x | x | x
  · rfl
  · rfl
  · exact z_cat x
theorem zcs_eq (l : List zV) : ((l.map zvv).map fun v => v.category).sum = (l.map zc).sum := by
  rw [List.map_map]
  congr 1
  exact List.map_congr_left fun v _ => zc_eq v
def zlv (lv : List (Nat × zV)) : List (Nat × Value) := lv.map fun q => (q.1, zvv q.2)
theorem zlv_at {lv : List (Nat × zV)} {q i : Nat} {v : zV} (h : lv[q]? = some (i, v)) : (zlv lv)[q]? = some (i, zvv v) := by
  unfold zlv
  rw [List.getElem?_map, h]
  rfl
/-- the locals but those that a store into i of a value of one word (of two) spoils -/
def zf1 (i : Nat) (lv : List (Nat × zV)) : List (Nat × zV) := lv.filter (fun q => !(q.1 == i) && !(q.1 + 1 == i && zc q.2 == 2))
def zf2 (i : Nat) (lv : List (Nat × zV)) : List (Nat × zV) := lv.filter (fun q => !(q.1 == i) && (!(q.1 == i + 1) && !(q.1 + 1 == i && zc q.2 == 2)))
theorem zf1_eq (i : Nat) (lv : List (Nat × zV)) : (zlv lv).filter (fun q => !(q.1 == i) && !(q.1 + 1 == i && q.2.category == 2)) = zlv (zf1 i lv) := by
  unfold zlv zf1
  rw [List.filter_map]
  congr 1
  apply List.filter_congr
  intro q _
  simp only [Function.comp, zc_eq]
theorem zf2_eq (i : Nat) (lv : List (Nat × zV)) : (zlv lv).filter (fun q => !(q.1 == i) && (!(q.1 == i + 1) && !(q.1 + 1 == i && q.2.category == 2))) = zlv (zf2 i lv) := by
  unfold zlv zf2
  rw [List.filter_map]
  congr 1
  apply List.filter_congr
  intro q _
  simp only [Function.comp, zc_eq]
def ZW (X : zX) (σ : zS) (pc : Nat) (lv : List (Nat × zV)) (st : List zV) : Prop :=
  ∀ (H : Heap) (locs : List Loc) (ls : Array Slot), ZR X.g σ H → va_S (zFr X.g) X.s.heap H locs → lv_has ls X.nL (zlv lv) → zw X H locs (F0 X.m pc ls (st.map zvv))
/-- what is fixed in a method's walk: its class, code, answer, frames and locals' words -/
def ZC (X : zX) (own : String) (cc : ByteArray) (ret : Option FieldType) (fr lo : Nat) : Prop :=
  X.p.tables.exec = Jvm.exec ∧ X.c.code = cc ∧ X.meth.sig.returnType = ret ∧ X.meth.locks = false ∧ X.c.maxLocals = X.nL ∧ X.s.vm.findClass own = some X.m.cls ∧ (∀ w ∈ lw_all, w.before X.args X.s = true) ∧ zEnv X.g X.s ∧ X.R = { frames := fr, cells := X.g.1 1 - X.s.heap.size, slots := X.g.1 2 - zt X.s.heap, locals := lo } ∧ X.s.heap.size ≤ X.g.1 1 ∧ zt X.s.heap ≤ X.g.1 2 ∧ X.l = X.g.2.2.2.2
section ZROWS
variable {X : zX} {own : String} {cc : ByteArray} {ret : Option FieldType} {fr lo : Nat} {σ : zS} {pc : Nat} {lv lv' : List (Nat × zV)} {rest st : List zV}
theorem ZC.x (h : ZC X own cc ret fr lo) : X.p.tables.exec = Jvm.exec := h.1
theorem ZC.b (h : ZC X own cc ret fr lo) : X.c.code = cc := h.2.1
theorem ZC.r (h : ZC X own cc ret fr lo) : X.meth.sig.returnType = ret := h.2.2.1
theorem ZC.k (h : ZC X own cc ret fr lo) : X.meth.locks = false := h.2.2.2.1
theorem ZC.ml (h : ZC X own cc ret fr lo) : X.c.maxLocals = X.nL := h.2.2.2.2.1
theorem ZC.ow (h : ZC X own cc ret fr lo) : X.s.vm.findClass own = some X.m.cls := h.2.2.2.2.2.1
theorem ZC.ts (h : ZC X own cc ret fr lo) : ∀ w ∈ lw_all, w.before X.args X.s = true := h.2.2.2.2.2.2.1
theorem ZC.env (h : ZC X own cc ret fr lo) : zEnv X.g X.s := h.2.2.2.2.2.2.2.1
theorem ZC.room (h : ZC X own cc ret fr lo) : X.R = { frames := fr, cells := X.g.1 1 - X.s.heap.size, slots := X.g.1 2 - zt X.s.heap, locals := lo } := h.2.2.2.2.2.2.2.2.1
theorem ZC.lc (h : ZC X own cc ret fr lo) : X.s.heap.size ≤ X.g.1 1 := h.2.2.2.2.2.2.2.2.2.1
theorem ZC.ls (h : ZC X own cc ret fr lo) : zt X.s.heap ≤ X.g.1 2 := h.2.2.2.2.2.2.2.2.2.2.1
theorem ZC.la (h : ZC X own cc ret fr lo) : X.l = X.g.2.2.2.2 := h.2.2.2.2.2.2.2.2.2.2.2
theorem ZC.K (h : ZC X own cc ret fr lo) : zK X.g X.s := h.env.1.2.1.moved h.env.2.1.alike
theorem ZC.base (h : ZC X own cc ret fr lo) : X.g.1 0 ≤ X.s.heap.size := h.env.2.2.1
theorem ZC.nw (h : ZC X own cc ret fr lo) {w : Cond} (hw : w ∈ lw_tbl) (ho : w.onTables = true) : va_Nw w X.g.2.2.2.1 := by
  obtain ⟨a, h1, -⟩ := h.env.1.2.2.1
  exact va_Nw.of ho (h1 w hw)
/-- the state of a frame that stands, its counters at what its heap has -/
theorem stand_tight {p : Program} {l : Launch} {e : Env} {R : Room} {s : State} {m : MethodId} {args : Array Value} {below : List Frame} {meth : Method} {c : Code} {T : State} {locs : List Loc} {cells slots : Nat} (Y : Stand p l e R s m args below meth c T locs cells slots) :
    Stand p l e R s m args below meth c T locs (T.heap.size - s.heap.size) (zt T.heap - zt s.heap) := by
  have h0 : s.slotsTrue = true := by
    have h := Y.room
    simp only [State.hasRoom, Bool.and_eq_true] at h
    exact h.2
  have hb := Y.book
  have e0 : s.slotsUsed = zt s.heap := by simpa [State.slotsTrue, zt] using h0
  have e1 : T.slotsUsed = zt T.heap := by simpa [State.slotsTrue, zt] using hb
  obtain ⟨q1, q2, q3, q4, q5, q6⟩ := Y.same
  have q4' : T.slotsUsed = s.slotsUsed + ((T.heap.toList.drop s.heap.size).map (·.slots.size)).sum := q4
  have q2' : s.heap.size ≤ T.heap.size := q2
  refine { Y with same := ⟨q1, q2, ?_, q4, ?_, q6⟩ }
  · show T.heap.size ≤ s.heap.size + (T.heap.size - s.heap.size)
    omega
  · show ((T.heap.toList.drop s.heap.size).map (·.slots.size)).sum ≤ zt T.heap - zt s.heap
    omega
theorem W.tight {p : Program} {l : Launch} {e : Env} {R : Room} {s : State} {m : MethodId} {args : Array Value} {below : List Frame} {meth : Method} {c : Code} {H : Heap} {locs : List Loc} {cells slots : Nat} {Q : State → Prop} {g : JFrame}
    (k : W p l e R s m args below meth c H locs (H.size - s.heap.size) (zt H - zt s.heap) Q g) : W p l e R s m args below meth c H locs cells slots Q g := by
  intro T hT Y
  have Y2 := stand_tight Y
  rw [hT] at Y2
  exact k T hT Y2
theorem W.ge {p : Program} {l : Launch} {e : Env} {R : Room} {s : State} {m : MethodId} {args : Array Value} {below : List Frame} {meth : Method} {c : Code} {H : Heap} {locs : List Loc} {cells slots : Nat} {Q : State → Prop} {g : JFrame}
    (k : zt s.heap ≤ zt H → W p l e R s m args below meth c H locs cells slots Q g) : W p l e R s m args below meth c H locs cells slots Q g := by
  intro T hT Y
  refine k ?_ T hT Y
  have h0 : s.slotsTrue = true := by
    have h := Y.room
    simp only [State.hasRoom, Bool.and_eq_true] at h
    exact h.2
  have hb := Y.book
  have e0 : s.slotsUsed = zt s.heap := by simpa [State.slotsTrue, zt] using h0
  have e1 : T.slotsUsed = zt T.heap := by simpa [State.slotsTrue, zt] using hb
  obtain ⟨q1, q2, q3, q4, q5, q6⟩ := Y.same
  have q4' : T.slotsUsed = s.slotsUsed + ((T.heap.toList.drop s.heap.size).map (·.slots.size)).sum := q4
  rw [← hT]
  omega
theorem ZW.eq {σ2 : zS} {lv2 : List (Nat × zV)} {st2 : List zV} (k : ZW X σ2 pc lv2 st2) (h1 : σ2 = σ) (h2 : lv2 = lv) (h3 : st2 = st) : ZW X σ pc lv st := by
  subst h1; subst h2; subst h3; exact k
/-- fewer locals told -/
theorem ZW.less (k : ZW X σ pc lv' st) (h : ∀ q ∈ lv', q ∈ lv) : ZW X σ pc lv st := fun H locs ls hR hS hl => k H locs ls hR hS ⟨hl.1, hl.2.1, fun q hq => by
    obtain ⟨z, hz, rfl⟩ := List.mem_map.mp hq
    exact hl.2.2 _ (List.mem_map.mpr ⟨z, h z hz, rfl⟩)⟩
end ZROWS

section ZPURE
variable {X : zX} {own : String} {cc : ByteArray} {ret : Option FieldType} {fr lo L : Nat} {σ : zS} {pc : Nat} {lv lv' : List (Nat × zV)} {rest st : List zV}
theorem ZW.perm (ks : List Nat) (h : ks.filterMap (fun k => lv[k]?) = lv') (k : ZW X σ pc lv' st) : ZW X σ pc lv st := fun H locs ls hR hS hl => k H locs ls hR hS ⟨hl.1, hl.2.1, fun q hq => by
    rw [← h] at hq
    obtain ⟨z, hz, rfl⟩ := List.mem_map.mp hq
    obtain ⟨i, -, hi⟩ := List.mem_filterMap.mp hz
    exact hl.2.2 _ (List.mem_map.mpr ⟨z, List.mem_of_getElem? hi, rfl⟩)⟩
theorem z_iconst (h : ZC X own cc ret fr lo) {n : Int} {v : Int32} (d : decode cc pc = .ok (.iconst n, 1)) (hv : Int32.ofInt n = v) (k : ZW X σ (pc + 1) lv (zi v :: rest)) : ZW X σ pc lv rest := fun H locs ls hR hS hl => lv_iconst h.x h.b d hv (k H locs ls hR hS hl)
theorem z_bipush (h : ZC X own cc ret fr lo) {n : Int} {v : Int32} (d : decode cc pc = .ok (.bipush n, 2)) (hv : (Int8.ofInt n).toInt32 = v) (k : ZW X σ (pc + 2) lv (zi v :: rest)) : ZW X σ pc lv rest := fun H locs ls hR hS hl => lv_bipush h.x h.b d hv (k H locs ls hR hS hl)
theorem z_sipush (h : ZC X own cc ret fr lo) {n : Int} {v : Int32} (d : decode cc pc = .ok (.sipush n, 3)) (hv : (Int16.ofInt n).toInt32 = v) (k : ZW X σ (pc + 3) lv (zi v :: rest)) : ZW X σ pc lv rest := fun H locs ls hR hS hl => lv_sipush h.x h.b d hv (k H locs ls hR hS hl)
theorem z_lconst (h : ZC X own cc ret fr lo) {n : Fin 2} {v : Int64} (d : decode cc pc = .ok (.lconst n, 1)) (hv : Int64.ofNat (n : Nat) = v) (k : ZW X σ (pc + 1) lv (zj v :: rest)) : ZW X σ pc lv rest := fun H locs ls hR hS hl => lv_lconst h.x h.b d hv (k H locs ls hR hS hl)
theorem z_ldc (h : ZC X own cc ret fr lo) {i : Nat} {v : Int32} (hw : (Cond.constant own i v) ∈ lw_all) (d : decode cc pc = .ok (.ldc i, 2)) (k : ZW X σ (pc + 2) lv (zi v :: rest)) : ZW X σ pc lv rest := fun H locs ls hR hS hl => lv_ldc h.x h.b h.ow (h.ts _ hw) d (k H locs ls hR hS hl)
theorem z_ldc2 (h : ZC X own cc ret fr lo) {i : Nat} {v : Int64} (hw : (Cond.constantLong own i v) ∈ lw_all) (d : decode cc pc = .ok (.ldc2_w i, 3)) (k : ZW X σ (pc + 3) lv (zj v :: rest)) : ZW X σ pc lv rest := fun H locs ls hR hS hl => lv_ldc2 h.x h.b h.ow (h.ts _ hw) d (k H locs ls hR hS hl)

theorem z_iload_n (h : ZC X own cc ret fr lo) {k : Fin 4} {i : Nat} {x : Int32} (d : decode cc pc = .ok (.iload_n k, 1)) (hi : (k : Nat) = i) (q : Nat) (hq : lv[q]? = some (i, zi x)) (kk : ZW X σ (pc + 1) lv (zi x :: rest)) : ZW X σ pc lv rest := fun H locs ls hR hS hl => lv_iload_n h.x h.b d hi (lv_at hl q (zlv_at hq)) (kk H locs ls hR hS hl)
theorem z_iload (h : ZC X own cc ret fr lo) {i : Nat} {x : Int32} (d : decode cc pc = .ok (.iload i, 2)) (q : Nat) (hq : lv[q]? = some (i, zi x)) (kk : ZW X σ (pc + 2) lv (zi x :: rest)) : ZW X σ pc lv rest := fun H locs ls hR hS hl => lv_iload h.x h.b d (lv_at hl q (zlv_at hq)) (kk H locs ls hR hS hl)

theorem z_lload_n (h : ZC X own cc ret fr lo) {k : Fin 4} {i : Nat} {x : Int64} (d : decode cc pc = .ok (.lload_n k, 1)) (hi : (k : Nat) = i) (q : Nat) (hq : lv[q]? = some (i, zj x)) (kk : ZW X σ (pc + 1) lv (zj x :: rest)) : ZW X σ pc lv rest := fun H locs ls hR hS hl => lv_lload_n h.x h.b d hi (lv_at hl q (zlv_at hq)) (kk H locs ls hR hS hl)
theorem z_lload (h : ZC X own cc ret fr lo) {i : Nat} {x : Int64} (d : decode cc pc = .ok (.lload i, 2)) (q : Nat) (hq : lv[q]? = some (i, zj x)) (kk : ZW X σ (pc + 2) lv (zj x :: rest)) : ZW X σ pc lv rest := fun H locs ls hR hS hl => lv_lload h.x h.b d (lv_at hl q (zlv_at hq)) (kk H locs ls hR hS hl)

theorem z_aload_n (h : ZC X own cc ret fr lo) {k : Fin 4} {i : Nat} {x : Option Nat} (d : decode cc pc = .ok (.aload_n k, 1)) (hi : (k : Nat) = i) (q : Nat) (hq : lv[q]? = some (i, zr x)) (kk : ZW X σ (pc + 1) lv (zr x :: rest)) : ZW X σ pc lv rest := fun H locs ls hR hS hl => by
  cases x with
  | none => exact lv_aload_nN h.x h.b d hi (lv_at hl q (zlv_at hq)) (kk H locs ls hR hS hl)
  | some a => exact lv_aload_n h.x h.b d hi (lv_at hl q (zlv_at hq)) (kk H locs ls hR hS hl)
theorem z_aload (h : ZC X own cc ret fr lo) {i : Nat} {x : Option Nat} (d : decode cc pc = .ok (.aload i, 2)) (q : Nat) (hq : lv[q]? = some (i, zr x)) (kk : ZW X σ (pc + 2) lv (zr x :: rest)) : ZW X σ pc lv rest := fun H locs ls hR hS hl => by
  cases x with
  | none => exact lv_aloadN h.x h.b d (lv_at hl q (zlv_at hq)) (kk H locs ls hR hS hl)
  | some a => exact lv_aload h.x h.b d (lv_at hl q (zlv_at hq)) (kk H locs ls hR hS hl)
theorem z_istore_n (h : ZC X own cc ret fr lo) (hL : X.nL = L) {k : Fin 4} {i : Nat} {x : Int32} (d : decode cc pc = .ok (.istore_n k, 1)) (hi : (k : Nat) = i) (hn : i < L) (hl' : (i, zi x) :: zf1 i lv = lv') (kk : ZW X σ (pc + 1) lv' rest) : ZW X σ pc lv (zi x :: rest) := fun H locs ls hR hS hl => lv_istore_n h.x h.b d hi hl (by rw [hL]; exact hn) (by rw [zf1_eq, ← hl']; rfl) (fun ls' hl2 => kk H locs ls' hR hS hl2)
theorem z_istore (h : ZC X own cc ret fr lo) (hL : X.nL = L) {i : Nat} {x : Int32} (d : decode cc pc = .ok (.istore i, 2)) (hn : i < L) (hl' : (i, zi x) :: zf1 i lv = lv') (kk : ZW X σ (pc + 2) lv' rest) : ZW X σ pc lv (zi x :: rest) := fun H locs ls hR hS hl => lv_istore h.x h.b d hl (by rw [hL]; exact hn) (by rw [zf1_eq, ← hl']; rfl) (fun ls' hl2 => kk H locs ls' hR hS hl2)
theorem z_lstore_n (h : ZC X own cc ret fr lo) (hL : X.nL = L) {k : Fin 4} {i : Nat} {x : Int64} (d : decode cc pc = .ok (.lstore_n k, 1)) (hi : (k : Nat) = i) (hn : i + 1 < L) (hl' : (i, zj x) :: zf2 i lv = lv') (kk : ZW X σ (pc + 1) lv' rest) : ZW X σ pc lv (zj x :: rest) := fun H locs ls hR hS hl => lv_lstore_n h.x h.b d hi hl (by rw [hL]; exact hn) (by rw [zf2_eq, ← hl']; rfl) (fun ls' hl2 => kk H locs ls' hR hS hl2)
theorem z_lstore (h : ZC X own cc ret fr lo) (hL : X.nL = L) {i : Nat} {x : Int64} (d : decode cc pc = .ok (.lstore i, 2)) (hn : i + 1 < L) (hl' : (i, zj x) :: zf2 i lv = lv') (kk : ZW X σ (pc + 2) lv' rest) : ZW X σ pc lv (zj x :: rest) := fun H locs ls hR hS hl => lv_lstore h.x h.b d hl (by rw [hL]; exact hn) (by rw [zf2_eq, ← hl']; rfl) (fun ls' hl2 => kk H locs ls' hR hS hl2)
theorem z_astore_n (h : ZC X own cc ret fr lo) (hL : X.nL = L) {k : Fin 4} {i : Nat} {x : Option Nat} (d : decode cc pc = .ok (.astore_n k, 1)) (hi : (k : Nat) = i) (hn : i < L) (hl' : (i, zr x) :: zf1 i lv = lv') (kk : ZW X σ (pc + 1) lv' rest) : ZW X σ pc lv (zr x :: rest) := fun H locs ls hR hS hl => by
  cases x with
  | none => exact lv_astore_nN h.x h.b d hi hl (by rw [hL]; exact hn) (by rw [zf1_eq, ← hl']; rfl) (fun ls' hl2 => kk H locs ls' hR hS hl2)
  | some a => exact lv_astore_n h.x h.b d hi hl (by rw [hL]; exact hn) (by rw [zf1_eq, ← hl']; rfl) (fun ls' hl2 => kk H locs ls' hR hS hl2)
theorem z_astore (h : ZC X own cc ret fr lo) (hL : X.nL = L) {i : Nat} {x : Option Nat} (d : decode cc pc = .ok (.astore i, 2)) (hn : i < L) (hl' : (i, zr x) :: zf1 i lv = lv') (kk : ZW X σ (pc + 2) lv' rest) : ZW X σ pc lv (zr x :: rest) := fun H locs ls hR hS hl => by
  cases x with
  | none => exact lv_astoreN h.x h.b d hl (by rw [hL]; exact hn) (by rw [zf1_eq, ← hl']; rfl) (fun ls' hl2 => kk H locs ls' hR hS hl2)
  | some a => exact lv_astore h.x h.b d hl (by rw [hL]; exact hn) (by rw [zf1_eq, ← hl']; rfl) (fun ls' hl2 => kk H locs ls' hR hS hl2)
theorem z_iinc (h : ZC X own cc ret fr lo) (hL : X.nL = L) {i : Nat} {n : Int} {x v : Int32} (d : decode cc pc = .ok (.iinc i n, 3)) (q : Nat) (hq : lv[q]? = some (i, zi x)) (hv : Int32.ofInt n = v) (hn : i < L) (hl' : (i, zi (x + v)) :: zf1 i lv = lv') (kk : ZW X σ (pc + 3) lv' rest) : ZW X σ pc lv rest := fun H locs ls hR hS hl => lv_iinc h.x h.b d hl (zlv_at hq) (by rw [hv]) (by rw [hL]; exact hn) (by rw [zf1_eq, ← hl']; rfl) (fun ls' hl2 => kk H locs ls' hR hS hl2)

theorem z_iadd (h : ZC X own cc ret fr lo) {x y : Int32} (d : decode cc pc = .ok (.iadd, 1)) (k : ZW X σ (pc + 1) lv (zi (x + y) :: rest)) : ZW X σ pc lv (zi y :: zi x :: rest) := fun H locs ls hR hS hl => lv_iadd h.x h.b d (k H locs ls hR hS hl)
theorem z_isub (h : ZC X own cc ret fr lo) {x y : Int32} (d : decode cc pc = .ok (.isub, 1)) (k : ZW X σ (pc + 1) lv (zi (x - y) :: rest)) : ZW X σ pc lv (zi y :: zi x :: rest) := fun H locs ls hR hS hl => lv_isub h.x h.b d (k H locs ls hR hS hl)
theorem z_imul (h : ZC X own cc ret fr lo) {x y : Int32} (d : decode cc pc = .ok (.imul, 1)) (k : ZW X σ (pc + 1) lv (zi (x * y) :: rest)) : ZW X σ pc lv (zi y :: zi x :: rest) := fun H locs ls hR hS hl => lv_imul h.x h.b d (k H locs ls hR hS hl)
theorem z_iand (h : ZC X own cc ret fr lo) {x y : Int32} (d : decode cc pc = .ok (.iand, 1)) (k : ZW X σ (pc + 1) lv (zi (x &&& y) :: rest)) : ZW X σ pc lv (zi y :: zi x :: rest) := fun H locs ls hR hS hl => lv_iand h.x h.b d (k H locs ls hR hS hl)
theorem z_ior (h : ZC X own cc ret fr lo) {x y : Int32} (d : decode cc pc = .ok (.ior, 1)) (k : ZW X σ (pc + 1) lv (zi (x ||| y) :: rest)) : ZW X σ pc lv (zi y :: zi x :: rest) := fun H locs ls hR hS hl => lv_ior h.x h.b d (k H locs ls hR hS hl)
theorem z_ixor (h : ZC X own cc ret fr lo) {x y : Int32} (d : decode cc pc = .ok (.ixor, 1)) (k : ZW X σ (pc + 1) lv (zi (x ^^^ y) :: rest)) : ZW X σ pc lv (zi y :: zi x :: rest) := fun H locs ls hR hS hl => lv_ixor h.x h.b d (k H locs ls hR hS hl)
theorem z_ishl (h : ZC X own cc ret fr lo) {x y : Int32} (d : decode cc pc = .ok (.ishl, 1)) (k : ZW X σ (pc + 1) lv (zi (x <<< (y &&& 31)) :: rest)) : ZW X σ pc lv (zi y :: zi x :: rest) := fun H locs ls hR hS hl => lv_ishl h.x h.b d (k H locs ls hR hS hl)
theorem z_ishr (h : ZC X own cc ret fr lo) {x y : Int32} (d : decode cc pc = .ok (.ishr, 1)) (k : ZW X σ (pc + 1) lv (zi (x >>> (y &&& 31)) :: rest)) : ZW X σ pc lv (zi y :: zi x :: rest) := fun H locs ls hR hS hl => lv_ishr h.x h.b d (k H locs ls hR hS hl)
theorem z_iushr (h : ZC X own cc ret fr lo) {x y : Int32} (d : decode cc pc = .ok (.iushr, 1)) (k : ZW X σ (pc + 1) lv (zi ((x.toUInt32 >>> (y.toUInt32 &&& Int32.toUInt32 31)).toInt32) :: rest)) : ZW X σ pc lv (zi y :: zi x :: rest) := fun H locs ls hR hS hl => lv_iushr h.x h.b d rfl (k H locs ls hR hS hl)
theorem z_idiv (h : ZC X own cc ret fr lo) {x y : Int32} (d : decode cc pc = .ok (.idiv, 1)) (hne : ¬ y = 0) (k : ZW X σ (pc + 1) lv (zi (x / y) :: rest)) : ZW X σ pc lv (zi y :: zi x :: rest) := fun H locs ls hR hS hl => lv_idiv h.x h.b d hne (k H locs ls hR hS hl)
theorem z_irem (h : ZC X own cc ret fr lo) {x y : Int32} (d : decode cc pc = .ok (.irem, 1)) (hne : ¬ y = 0) (k : ZW X σ (pc + 1) lv (zi (x - x / y * y) :: rest)) : ZW X σ pc lv (zi y :: zi x :: rest) := fun H locs ls hR hS hl => lv_irem h.x h.b d hne (k H locs ls hR hS hl)
theorem z_ineg (h : ZC X own cc ret fr lo) {x : Int32} (d : decode cc pc = .ok (.ineg, 1)) (k : ZW X σ (pc + 1) lv (zi (-x) :: rest)) : ZW X σ pc lv (zi x :: rest) := fun H locs ls hR hS hl => lv_ineg h.x h.b d (k H locs ls hR hS hl)
theorem z_ladd (h : ZC X own cc ret fr lo) {x y : Int64} (d : decode cc pc = .ok (.ladd, 1)) (k : ZW X σ (pc + 1) lv (zj (x + y) :: rest)) : ZW X σ pc lv (zj y :: zj x :: rest) := fun H locs ls hR hS hl => lv_ladd h.x h.b d (k H locs ls hR hS hl)
theorem z_lsub (h : ZC X own cc ret fr lo) {x y : Int64} (d : decode cc pc = .ok (.lsub, 1)) (k : ZW X σ (pc + 1) lv (zj (x - y) :: rest)) : ZW X σ pc lv (zj y :: zj x :: rest) := fun H locs ls hR hS hl => lv_lsub h.x h.b d (k H locs ls hR hS hl)
theorem z_lmul (h : ZC X own cc ret fr lo) {x y : Int64} (d : decode cc pc = .ok (.lmul, 1)) (k : ZW X σ (pc + 1) lv (zj (x * y) :: rest)) : ZW X σ pc lv (zj y :: zj x :: rest) := fun H locs ls hR hS hl => lv_lmul h.x h.b d (k H locs ls hR hS hl)
theorem z_land (h : ZC X own cc ret fr lo) {x y : Int64} (d : decode cc pc = .ok (.land, 1)) (k : ZW X σ (pc + 1) lv (zj (x &&& y) :: rest)) : ZW X σ pc lv (zj y :: zj x :: rest) := fun H locs ls hR hS hl => lv_land h.x h.b d (k H locs ls hR hS hl)
theorem z_lor (h : ZC X own cc ret fr lo) {x y : Int64} (d : decode cc pc = .ok (.lor, 1)) (k : ZW X σ (pc + 1) lv (zj (x ||| y) :: rest)) : ZW X σ pc lv (zj y :: zj x :: rest) := fun H locs ls hR hS hl => lv_lor h.x h.b d (k H locs ls hR hS hl)
theorem z_ldiv (h : ZC X own cc ret fr lo) {x y : Int64} (d : decode cc pc = .ok (.ldiv, 1)) (hne : ¬ y = 0) (k : ZW X σ (pc + 1) lv (zj (x / y) :: rest)) : ZW X σ pc lv (zj y :: zj x :: rest) := fun H locs ls hR hS hl => lv_ldiv h.x h.b d hne (k H locs ls hR hS hl)
theorem z_lcmp (h : ZC X own cc ret fr lo) {x y : Int64} (d : decode cc pc = .ok (.lcmp, 1)) (k : ZW X σ (pc + 1) lv (zi (lg_cmp x y) :: rest)) : ZW X σ pc lv (zj y :: zj x :: rest) := fun H locs ls hR hS hl => W.lcmp h.x h.b d (k H locs ls hR hS hl)
theorem z_i2l (h : ZC X own cc ret fr lo) {x : Int32} (d : decode cc pc = .ok (.i2l, 1)) (k : ZW X σ (pc + 1) lv (zj x.toInt64 :: rest)) : ZW X σ pc lv (zi x :: rest) := fun H locs ls hR hS hl => lv_i2l h.x h.b d rfl (k H locs ls hR hS hl)
theorem z_l2i (h : ZC X own cc ret fr lo) {x : Int64} (d : decode cc pc = .ok (.l2i, 1)) (k : ZW X σ (pc + 1) lv (zi x.toInt32 :: rest)) : ZW X σ pc lv (zj x :: rest) := fun H locs ls hR hS hl => lv_l2i h.x h.b d rfl (k H locs ls hR hS hl)
theorem z_i2b (h : ZC X own cc ret fr lo) {x : Int32} (d : decode cc pc = .ok (.i2b, 1)) (k : ZW X σ (pc + 1) lv (zi x.toInt8.toInt32 :: rest)) : ZW X σ pc lv (zi x :: rest) := fun H locs ls hR hS hl => lv_i2b h.x h.b d rfl (k H locs ls hR hS hl)
theorem z_i2c (h : ZC X own cc ret fr lo) {x : Int32} (d : decode cc pc = .ok (.i2c, 1)) (k : ZW X σ (pc + 1) lv (zi (x.toUInt32 % 65536).toInt32 :: rest)) : ZW X σ pc lv (zi x :: rest) := fun H locs ls hR hS hl => lv_i2c h.x h.b d rfl (k H locs ls hR hS hl)
theorem z_dup (h : ZC X own cc ret fr lo) {v : zV} (d : decode cc pc = .ok (.dup, 1)) (hv : zc v = 1) (k : ZW X σ (pc + 1) lv (v :: v :: rest)) : ZW X σ pc lv (v :: rest) := fun H locs ls hR hS hl => lv_dup h.x h.b d ((zc_eq _).trans hv) (k H locs ls hR hS hl)
theorem z_pop (h : ZC X own cc ret fr lo) {v : zV} (d : decode cc pc = .ok (.pop, 1)) (hv : zc v = 1) (k : ZW X σ (pc + 1) lv rest) : ZW X σ pc lv (v :: rest) := fun H locs ls hR hS hl => lv_pop h.x h.b d ((zc_eq _).trans hv) (k H locs ls hR hS hl)
theorem z_dup_x1 (h : ZC X own cc ret fr lo) {v u : zV} (d : decode cc pc = .ok (.dup_x1, 1)) (hv : zc v = 1) (hu : zc u = 1) (k : ZW X σ (pc + 1) lv (v :: u :: v :: rest)) : ZW X σ pc lv (v :: u :: rest) := fun H locs ls hR hS hl => lv_dup_x1 h.x h.b d ((zc_eq _).trans hv) ((zc_eq _).trans hu) (k H locs ls hR hS hl)
theorem z_dup_x2 (h : ZC X own cc ret fr lo) {v u t : zV} (d : decode cc pc = .ok (.dup_x2, 1)) (hv : zc v = 1) (hu : zc u = 1) (ht : zc t = 1) (k : ZW X σ (pc + 1) lv (v :: u :: t :: v :: rest)) : ZW X σ pc lv (v :: u :: t :: rest) := fun H locs ls hR hS hl => lv_dup_x2 h.x h.b d ((zc_eq _).trans hv) ((zc_eq _).trans hu) ((zc_eq _).trans ht) (k H locs ls hR hS hl)
theorem z_dup2 (h : ZC X own cc ret fr lo) {v u : zV} (d : decode cc pc = .ok (.dup2, 1)) (hv : zc v = 1) (hu : zc u = 1) (k : ZW X σ (pc + 1) lv (v :: u :: v :: u :: rest)) : ZW X σ pc lv (v :: u :: rest) := fun H locs ls hR hS hl => lv_dup2_11 h.x h.b d ((zc_eq _).trans hv) ((zc_eq _).trans hu) (k H locs ls hR hS hl)
theorem z_dup2L (h : ZC X own cc ret fr lo) {v : Int64} (d : decode cc pc = .ok (.dup2, 1)) (k : ZW X σ (pc + 1) lv (zj v :: zj v :: rest)) : ZW X σ pc lv (zj v :: rest) := fun H locs ls hR hS hl => lv_dup2_2 h.x h.b d rfl (k H locs ls hR hS hl)
theorem z_goto (h : ZC X own cc ret fr lo) {off : Int} {tgt : Nat} (d : decode cc pc = .ok (.goto off, 3)) (ht : (pc : Int) + off = (tgt : Int)) (k : ZW X σ tgt lv rest) : ZW X σ pc lv rest := fun H locs ls hR hS hl => lv_goto h.x h.b d ht (k H locs ls hR hS hl)
theorem z_null (h : ZC X own cc ret fr lo) (d : decode cc pc = .ok (.aconst_null, 1)) (k : ZW X σ (pc + 1) lv (zr none :: rest)) : ZW X σ pc lv rest := fun H locs ls hR hS hl => lv_null h.x h.b d (k H locs ls hR hS hl)
theorem z_if_eq (h : ZC X own cc ret fr lo) {x : Int32} {off : Int} {tgt : Nat} (d : decode cc pc = .ok (.ifCond .eq off, 3)) (ht : (pc : Int) + off = (tgt : Int)) (kt : x = 0 → ZW X σ tgt lv rest) (kf : ¬ (x = 0) → ZW X σ (pc + 3) lv rest) : ZW X σ pc lv (zi x :: rest) := fun H locs ls hR hS hl => lv_if_eq h.x h.b d ht (fun q => kt q H locs ls hR hS hl) (fun q => kf q H locs ls hR hS hl)
theorem z_icmp_eq (h : ZC X own cc ret fr lo) {x y : Int32} {off : Int} {tgt : Nat} (d : decode cc pc = .ok (.if_icmp .eq off, 3)) (ht : (pc : Int) + off = (tgt : Int)) (kt : x = y → ZW X σ tgt lv rest) (kf : ¬ (x = y) → ZW X σ (pc + 3) lv rest) : ZW X σ pc lv (zi y :: zi x :: rest) := fun H locs ls hR hS hl => lv_icmp_eq h.x h.b d ht (fun q => kt q H locs ls hR hS hl) (fun q => kf q H locs ls hR hS hl)
theorem z_if_ne (h : ZC X own cc ret fr lo) {x : Int32} {off : Int} {tgt : Nat} (d : decode cc pc = .ok (.ifCond .ne off, 3)) (ht : (pc : Int) + off = (tgt : Int)) (kt : ¬ x = 0 → ZW X σ tgt lv rest) (kf : x = 0 → ZW X σ (pc + 3) lv rest) : ZW X σ pc lv (zi x :: rest) := fun H locs ls hR hS hl => lv_if_ne h.x h.b d ht (fun q => kt q H locs ls hR hS hl) (fun q => kf q H locs ls hR hS hl)
theorem z_icmp_ne (h : ZC X own cc ret fr lo) {x y : Int32} {off : Int} {tgt : Nat} (d : decode cc pc = .ok (.if_icmp .ne off, 3)) (ht : (pc : Int) + off = (tgt : Int)) (kt : ¬ x = y → ZW X σ tgt lv rest) (kf : x = y → ZW X σ (pc + 3) lv rest) : ZW X σ pc lv (zi y :: zi x :: rest) := fun H locs ls hR hS hl => lv_icmp_ne h.x h.b d ht (fun q => kt q H locs ls hR hS hl) (fun q => kf q H locs ls hR hS hl)
theorem z_if_lt (h : ZC X own cc ret fr lo) {x : Int32} {off : Int} {tgt : Nat} (d : decode cc pc = .ok (.ifCond .lt off, 3)) (ht : (pc : Int) + off = (tgt : Int)) (kt : x < 0 → ZW X σ tgt lv rest) (kf : ¬ (x < 0) → ZW X σ (pc + 3) lv rest) : ZW X σ pc lv (zi x :: rest) := fun H locs ls hR hS hl => lv_if_lt h.x h.b d ht (fun q => kt q H locs ls hR hS hl) (fun q => kf q H locs ls hR hS hl)
theorem z_icmp_lt (h : ZC X own cc ret fr lo) {x y : Int32} {off : Int} {tgt : Nat} (d : decode cc pc = .ok (.if_icmp .lt off, 3)) (ht : (pc : Int) + off = (tgt : Int)) (kt : x < y → ZW X σ tgt lv rest) (kf : ¬ (x < y) → ZW X σ (pc + 3) lv rest) : ZW X σ pc lv (zi y :: zi x :: rest) := fun H locs ls hR hS hl => lv_icmp_lt h.x h.b d ht (fun q => kt q H locs ls hR hS hl) (fun q => kf q H locs ls hR hS hl)
theorem z_if_ge (h : ZC X own cc ret fr lo) {x : Int32} {off : Int} {tgt : Nat} (d : decode cc pc = .ok (.ifCond .ge off, 3)) (ht : (pc : Int) + off = (tgt : Int)) (kt : 0 ≤ x → ZW X σ tgt lv rest) (kf : ¬ (0 ≤ x) → ZW X σ (pc + 3) lv rest) : ZW X σ pc lv (zi x :: rest) := fun H locs ls hR hS hl => lv_if_ge h.x h.b d ht (fun q => kt q H locs ls hR hS hl) (fun q => kf q H locs ls hR hS hl)
theorem z_icmp_ge (h : ZC X own cc ret fr lo) {x y : Int32} {off : Int} {tgt : Nat} (d : decode cc pc = .ok (.if_icmp .ge off, 3)) (ht : (pc : Int) + off = (tgt : Int)) (kt : y ≤ x → ZW X σ tgt lv rest) (kf : ¬ (y ≤ x) → ZW X σ (pc + 3) lv rest) : ZW X σ pc lv (zi y :: zi x :: rest) := fun H locs ls hR hS hl => lv_icmp_ge h.x h.b d ht (fun q => kt q H locs ls hR hS hl) (fun q => kf q H locs ls hR hS hl)
theorem z_if_gt (h : ZC X own cc ret fr lo) {x : Int32} {off : Int} {tgt : Nat} (d : decode cc pc = .ok (.ifCond .gt off, 3)) (ht : (pc : Int) + off = (tgt : Int)) (kt : 0 < x → ZW X σ tgt lv rest) (kf : ¬ (0 < x) → ZW X σ (pc + 3) lv rest) : ZW X σ pc lv (zi x :: rest) := fun H locs ls hR hS hl => lv_if_gt h.x h.b d ht (fun q => kt q H locs ls hR hS hl) (fun q => kf q H locs ls hR hS hl)
theorem z_icmp_gt (h : ZC X own cc ret fr lo) {x y : Int32} {off : Int} {tgt : Nat} (d : decode cc pc = .ok (.if_icmp .gt off, 3)) (ht : (pc : Int) + off = (tgt : Int)) (kt : y < x → ZW X σ tgt lv rest) (kf : ¬ (y < x) → ZW X σ (pc + 3) lv rest) : ZW X σ pc lv (zi y :: zi x :: rest) := fun H locs ls hR hS hl => lv_icmp_gt h.x h.b d ht (fun q => kt q H locs ls hR hS hl) (fun q => kf q H locs ls hR hS hl)
theorem z_if_le (h : ZC X own cc ret fr lo) {x : Int32} {off : Int} {tgt : Nat} (d : decode cc pc = .ok (.ifCond .le off, 3)) (ht : (pc : Int) + off = (tgt : Int)) (kt : x ≤ 0 → ZW X σ tgt lv rest) (kf : ¬ (x ≤ 0) → ZW X σ (pc + 3) lv rest) : ZW X σ pc lv (zi x :: rest) := fun H locs ls hR hS hl => lv_if_le h.x h.b d ht (fun q => kt q H locs ls hR hS hl) (fun q => kf q H locs ls hR hS hl)
theorem z_icmp_le (h : ZC X own cc ret fr lo) {x y : Int32} {off : Int} {tgt : Nat} (d : decode cc pc = .ok (.if_icmp .le off, 3)) (ht : (pc : Int) + off = (tgt : Int)) (kt : x ≤ y → ZW X σ tgt lv rest) (kf : ¬ (x ≤ y) → ZW X σ (pc + 3) lv rest) : ZW X σ pc lv (zi y :: zi x :: rest) := fun H locs ls hR hS hl => lv_icmp_le h.x h.b d ht (fun q => kt q H locs ls hR hS hl) (fun q => kf q H locs ls hR hS hl)
theorem z_acmp_eq (h : ZC X own cc ret fr lo) {x y : Option Nat} {off : Int} {tgt : Nat} (d : decode cc pc = .ok (.if_acmp .eq off, 3)) (ht : (pc : Int) + off = (tgt : Int)) (kt : x = y → ZW X σ tgt lv rest) (kf : ¬ x = y → ZW X σ (pc + 3) lv rest) : ZW X σ pc lv (zr y :: zr x :: rest) := fun H locs ls hR hS hl => lv_acmp_eq h.x h.b d ht (fun q => kt q H locs ls hR hS hl) (fun q => kf q H locs ls hR hS hl)
theorem z_acmp_ne (h : ZC X own cc ret fr lo) {x y : Option Nat} {off : Int} {tgt : Nat} (d : decode cc pc = .ok (.if_acmp .ne off, 3)) (ht : (pc : Int) + off = (tgt : Int)) (kt : ¬ x = y → ZW X σ tgt lv rest) (kf : x = y → ZW X σ (pc + 3) lv rest) : ZW X σ pc lv (zr y :: zr x :: rest) := fun H locs ls hR hS hl => lv_acmp_ne h.x h.b d ht (fun q => kt q H locs ls hR hS hl) (fun q => kf q H locs ls hR hS hl)
theorem z_ifnull (h : ZC X own cc ret fr lo) {x : Option Nat} {off : Int} {tgt : Nat} (d : decode cc pc = .ok (.ifnull off, 3)) (ht : (pc : Int) + off = (tgt : Int)) (kt : x = none → ZW X σ tgt lv rest) (kf : ¬ x = none → ZW X σ (pc + 3) lv rest) : ZW X σ pc lv (zr x :: rest) := fun H locs ls hR hS hl => by
  cases x with
  | none => exact lv_ifnullN h.x h.b d ht (kt rfl H locs ls hR hS hl)
  | some a => exact lv_ifnull h.x h.b d (kf (fun z => nomatch z) H locs ls hR hS hl)
theorem z_ifnonnull (h : ZC X own cc ret fr lo) {x : Option Nat} {off : Int} {tgt : Nat} (d : decode cc pc = .ok (.ifnonnull off, 3)) (ht : (pc : Int) + off = (tgt : Int)) (kt : ¬ x = none → ZW X σ tgt lv rest) (kf : x = none → ZW X σ (pc + 3) lv rest) : ZW X σ pc lv (zr x :: rest) := fun H locs ls hR hS hl => by
  cases x with
  | none => exact lv_ifnonnullN h.x h.b d (kf rfl H locs ls hR hS hl)
  | some a => exact lv_ifnonnull h.x h.b d ht (kt (fun z => nomatch z) H locs ls hR hS hl)
end ZPURE
