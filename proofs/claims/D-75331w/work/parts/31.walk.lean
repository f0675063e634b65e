set_option maxRecDepth 100000
/-! BlockingShopLaw.law([I)Z -/
def f_L_law_b1509 (G : Nat → Nat) (L : Nat) (xs : Nat → Int32) (k23 : Option Nat → Option Nat → Option Nat → Int32 → zS → Option (Int32 × zS)) (l1 : Option Nat) (l2 : Option Nat) (l3 : Option Nat) (l4 : Int32) (s0 : zS) : Option (Int32 × zS) :=
k23 l1 l2 l3 (l4 + 6) s0
set_option maxHeartbeats 4000000 in
theorem w_L_law_b1509 {X : zX} (L : Nat) (xs : Nat → Int32) (b : Nat) (hC : ZC X RX0 cL_law (some .boolean) 8192 104096) (hL : X.nL = 7) (hno : ∀ x ∈ X.c.exceptionTable.toList, False) {r : Int32} {sF : zS} (hQ : (r = 1 ∧ ∀ σ pc lv, decode cL_law pc = .ok (.ireturn, 1) → ZW X σ pc lv [zi 1]) ∧ va_X b L xs X.s X.s.heap ∧ b < X.g.1 0) (k23 : Option Nat → Option Nat → Option Nat → Int32 → zS → Option (Int32 × zS)) (hk23 : ∀ (l1 : Option Nat) (l2 : Option Nat) (l3 : Option Nat) (l4 : Int32) (s0 : zS), k23 l1 l2 l3 l4 s0 = some (r, sF) → ZW X s0 23 [(0, zr (some b)), (1, zr l1), (2, zr l2), (3, zr l3), (4, zi l4)] []) (l1 : Option Nat) (l2 : Option Nat) (l3 : Option Nat) (l4 : Int32) (s0 : zS) (hf : f_L_law_b1509 X.g.1 L xs k23 l1 l2 l3 l4 s0 = some (r, sF)) : ZW X s0 1509 [(0, zr (some b)), (1, zr l1), (2, zr l2), (3, zr l3), (4, zi l4)] [] := by
  unfold f_L_law_b1509 at hf
  refine z_iinc (v := 6) (lv' := [(4, zi (l4 + 6)), (0, zr (some b)), (1, zr l1), (2, zr l2), (3, zr l3)]) hC (pc := 1509) hL dL_law_1509 4 rfl zki_6 (Nat.le_of_ble_eq_true rfl) rfl ?_
  refine z_goto hC (pc := 1512) (tgt := 23) dL_law_1512 rfl ?_
  refine ZW.perm (lv' := [(0, zr (some b)), (1, zr l1), (2, zr l2), (3, zr l3), (4, zi (l4 + 6))]) [1, 2, 3, 4, 0] rfl ?_
  exact hk23 l1 l2 l3 (l4 + 6) s0 hf
def f_L_law_b302 (G : Nat → Nat) (L : Nat) (xs : Nat → Int32) (k23 : Option Nat → Option Nat → Option Nat → Int32 → zS → Option (Int32 × zS)) (l1 : Option Nat) (l2 : Option Nat) (l3 : Option Nat) (l4 : Int32) (s0 : zS) : Option (Int32 × zS) :=
f_L_law_b1509 G L xs k23 l1 l2 l3 l4 s0
set_option maxHeartbeats 4000000 in
theorem w_L_law_b302 {X : zX} (L : Nat) (xs : Nat → Int32) (b : Nat) (hC : ZC X RX0 cL_law (some .boolean) 8192 104096) (hL : X.nL = 7) (hno : ∀ x ∈ X.c.exceptionTable.toList, False) {r : Int32} {sF : zS} (hQ : (r = 1 ∧ ∀ σ pc lv, decode cL_law pc = .ok (.ireturn, 1) → ZW X σ pc lv [zi 1]) ∧ va_X b L xs X.s X.s.heap ∧ b < X.g.1 0) (k23 : Option Nat → Option Nat → Option Nat → Int32 → zS → Option (Int32 × zS)) (hk23 : ∀ (l1 : Option Nat) (l2 : Option Nat) (l3 : Option Nat) (l4 : Int32) (s0 : zS), k23 l1 l2 l3 l4 s0 = some (r, sF) → ZW X s0 23 [(0, zr (some b)), (1, zr l1), (2, zr l2), (3, zr l3), (4, zi l4)] []) (l1 : Option Nat) (l2 : Option Nat) (l3 : Option Nat) (l4 : Int32) (s0 : zS) (hf : f_L_law_b302 X.g.1 L xs k23 l1 l2 l3 l4 s0 = some (r, sF)) : ZW X s0 302 [(0, zr (some b)), (1, zr l1), (2, zr l2), (3, zr l3), (4, zi l4)] [] := by
  unfold f_L_law_b302 at hf
  refine z_goto hC (pc := 302) (tgt := 1509) dL_law_302 rfl ?_
  exact w_L_law_b1509 L xs b hC hL hno hQ k23 hk23 l1 l2 l3 l4 s0 hf
def f_L_law_b397 (G : Nat → Nat) (L : Nat) (xs : Nat → Int32) (k23 : Option Nat → Option Nat → Option Nat → Int32 → zS → Option (Int32 × zS)) (l1 : Option Nat) (l2 : Option Nat) (l3 : Option Nat) (l4 : Int32) (s0 : zS) : Option (Int32 × zS) :=
f_L_law_b1509 G L xs k23 l1 l2 l3 l4 s0
set_option maxHeartbeats 4000000 in
theorem w_L_law_b397 {X : zX} (L : Nat) (xs : Nat → Int32) (b : Nat) (hC : ZC X RX0 cL_law (some .boolean) 8192 104096) (hL : X.nL = 7) (hno : ∀ x ∈ X.c.exceptionTable.toList, False) {r : Int32} {sF : zS} (hQ : (r = 1 ∧ ∀ σ pc lv, decode cL_law pc = .ok (.ireturn, 1) → ZW X σ pc lv [zi 1]) ∧ va_X b L xs X.s X.s.heap ∧ b < X.g.1 0) (k23 : Option Nat → Option Nat → Option Nat → Int32 → zS → Option (Int32 × zS)) (hk23 : ∀ (l1 : Option Nat) (l2 : Option Nat) (l3 : Option Nat) (l4 : Int32) (s0 : zS), k23 l1 l2 l3 l4 s0 = some (r, sF) → ZW X s0 23 [(0, zr (some b)), (1, zr l1), (2, zr l2), (3, zr l3), (4, zi l4)] []) (l1 : Option Nat) (l2 : Option Nat) (l3 : Option Nat) (l4 : Int32) (s0 : zS) (hf : f_L_law_b397 X.g.1 L xs k23 l1 l2 l3 l4 s0 = some (r, sF)) : ZW X s0 397 [(0, zr (some b)), (1, zr l1), (2, zr l2), (3, zr l3), (4, zi l4)] [] := by
  unfold f_L_law_b397 at hf
  refine z_goto hC (pc := 397) (tgt := 1509) dL_law_397 rfl ?_
  exact w_L_law_b1509 L xs b hC hL hno hQ k23 hk23 l1 l2 l3 l4 s0 hf
def f_L_law_b477 (G : Nat → Nat) (L : Nat) (xs : Nat → Int32) (k23 : Option Nat → Option Nat → Option Nat → Int32 → zS → Option (Int32 × zS)) (l1 : Option Nat) (l2 : Option Nat) (l3 : Option Nat) (l4 : Int32) (s0 : zS) : Option (Int32 × zS) :=
f_L_law_b1509 G L xs k23 l1 l2 l3 l4 s0
set_option maxHeartbeats 4000000 in
theorem w_L_law_b477 {X : zX} (L : Nat) (xs : Nat → Int32) (b : Nat) (hC : ZC X RX0 cL_law (some .boolean) 8192 104096) (hL : X.nL = 7) (hno : ∀ x ∈ X.c.exceptionTable.toList, False) {r : Int32} {sF : zS} (hQ : (r = 1 ∧ ∀ σ pc lv, decode cL_law pc = .ok (.ireturn, 1) → ZW X σ pc lv [zi 1]) ∧ va_X b L xs X.s X.s.heap ∧ b < X.g.1 0) (k23 : Option Nat → Option Nat → Option Nat → Int32 → zS → Option (Int32 × zS)) (hk23 : ∀ (l1 : Option Nat) (l2 : Option Nat) (l3 : Option Nat) (l4 : Int32) (s0 : zS), k23 l1 l2 l3 l4 s0 = some (r, sF) → ZW X s0 23 [(0, zr (some b)), (1, zr l1), (2, zr l2), (3, zr l3), (4, zi l4)] []) (l1 : Option Nat) (l2 : Option Nat) (l3 : Option Nat) (l4 : Int32) (s0 : zS) (hf : f_L_law_b477 X.g.1 L xs k23 l1 l2 l3 l4 s0 = some (r, sF)) : ZW X s0 477 [(0, zr (some b)), (1, zr l1), (2, zr l2), (3, zr l3), (4, zi l4)] [] := by
  unfold f_L_law_b477 at hf
  refine z_goto hC (pc := 477) (tgt := 1509) dL_law_477 rfl ?_
  exact w_L_law_b1509 L xs b hC hL hno hQ k23 hk23 l1 l2 l3 l4 s0 hf
def f_L_law_b533 (G : Nat → Nat) (L : Nat) (xs : Nat → Int32) (k23 : Option Nat → Option Nat → Option Nat → Int32 → zS → Option (Int32 × zS)) (l1 : Option Nat) (l2 : Option Nat) (l3 : Option Nat) (l4 : Int32) (s0 : zS) : Option (Int32 × zS) :=
f_L_law_b1509 G L xs k23 l1 l2 l3 l4 s0
set_option maxHeartbeats 4000000 in
theorem w_L_law_b533 {X : zX} (L : Nat) (xs : Nat → Int32) (b : Nat) (hC : ZC X RX0 cL_law (some .boolean) 8192 104096) (hL : X.nL = 7) (hno : ∀ x ∈ X.c.exceptionTable.toList, False) {r : Int32} {sF : zS} (hQ : (r = 1 ∧ ∀ σ pc lv, decode cL_law pc = .ok (.ireturn, 1) → ZW X σ pc lv [zi 1]) ∧ va_X b L xs X.s X.s.heap ∧ b < X.g.1 0) (k23 : Option Nat → Option Nat → Option Nat → Int32 → zS → Option (Int32 × zS)) (hk23 : ∀ (l1 : Option Nat) (l2 : Option Nat) (l3 : Option Nat) (l4 : Int32) (s0 : zS), k23 l1 l2 l3 l4 s0 = some (r, sF) → ZW X s0 23 [(0, zr (some b)), (1, zr l1), (2, zr l2), (3, zr l3), (4, zi l4)] []) (l1 : Option Nat) (l2 : Option Nat) (l3 : Option Nat) (l4 : Int32) (s0 : zS) (hf : f_L_law_b533 X.g.1 L xs k23 l1 l2 l3 l4 s0 = some (r, sF)) : ZW X s0 533 [(0, zr (some b)), (1, zr l1), (2, zr l2), (3, zr l3), (4, zi l4)] [] := by
  unfold f_L_law_b533 at hf
  refine z_goto hC (pc := 533) (tgt := 1509) dL_law_533 rfl ?_
  exact w_L_law_b1509 L xs b hC hL hno hQ k23 hk23 l1 l2 l3 l4 s0 hf
def f_L_law_b601 (G : Nat → Nat) (L : Nat) (xs : Nat → Int32) (k23 : Option Nat → Option Nat → Option Nat → Int32 → zS → Option (Int32 × zS)) (l1 : Option Nat) (l2 : Option Nat) (l3 : Option Nat) (l4 : Int32) (s0 : zS) : Option (Int32 × zS) :=
f_L_law_b1509 G L xs k23 l1 l2 l3 l4 s0
set_option maxHeartbeats 4000000 in
theorem w_L_law_b601 {X : zX} (L : Nat) (xs : Nat → Int32) (b : Nat) (hC : ZC X RX0 cL_law (some .boolean) 8192 104096) (hL : X.nL = 7) (hno : ∀ x ∈ X.c.exceptionTable.toList, False) {r : Int32} {sF : zS} (hQ : (r = 1 ∧ ∀ σ pc lv, decode cL_law pc = .ok (.ireturn, 1) → ZW X σ pc lv [zi 1]) ∧ va_X b L xs X.s X.s.heap ∧ b < X.g.1 0) (k23 : Option Nat → Option Nat → Option Nat → Int32 → zS → Option (Int32 × zS)) (hk23 : ∀ (l1 : Option Nat) (l2 : Option Nat) (l3 : Option Nat) (l4 : Int32) (s0 : zS), k23 l1 l2 l3 l4 s0 = some (r, sF) → ZW X s0 23 [(0, zr (some b)), (1, zr l1), (2, zr l2), (3, zr l3), (4, zi l4)] []) (l1 : Option Nat) (l2 : Option Nat) (l3 : Option Nat) (l4 : Int32) (s0 : zS) (hf : f_L_law_b601 X.g.1 L xs k23 l1 l2 l3 l4 s0 = some (r, sF)) : ZW X s0 601 [(0, zr (some b)), (1, zr l1), (2, zr l2), (3, zr l3), (4, zi l4)] [] := by
  unfold f_L_law_b601 at hf
  refine z_goto hC (pc := 601) (tgt := 1509) dL_law_601 rfl ?_
  exact w_L_law_b1509 L xs b hC hL hno hQ k23 hk23 l1 l2 l3 l4 s0 hf
def f_L_law_b669 (G : Nat → Nat) (L : Nat) (xs : Nat → Int32) (k23 : Option Nat → Option Nat → Option Nat → Int32 → zS → Option (Int32 × zS)) (l1 : Option Nat) (l2 : Option Nat) (l3 : Option Nat) (l4 : Int32) (s0 : zS) : Option (Int32 × zS) :=
f_L_law_b1509 G L xs k23 l1 l2 l3 l4 s0
set_option maxHeartbeats 4000000 in
theorem w_L_law_b669 {X : zX} (L : Nat) (xs : Nat → Int32) (b : Nat) (hC : ZC X RX0 cL_law (some .boolean) 8192 104096) (hL : X.nL = 7) (hno : ∀ x ∈ X.c.exceptionTable.toList, False) {r : Int32} {sF : zS} (hQ : (r = 1 ∧ ∀ σ pc lv, decode cL_law pc = .ok (.ireturn, 1) → ZW X σ pc lv [zi 1]) ∧ va_X b L xs X.s X.s.heap ∧ b < X.g.1 0) (k23 : Option Nat → Option Nat → Option Nat → Int32 → zS → Option (Int32 × zS)) (hk23 : ∀ (l1 : Option Nat) (l2 : Option Nat) (l3 : Option Nat) (l4 : Int32) (s0 : zS), k23 l1 l2 l3 l4 s0 = some (r, sF) → ZW X s0 23 [(0, zr (some b)), (1, zr l1), (2, zr l2), (3, zr l3), (4, zi l4)] []) (l1 : Option Nat) (l2 : Option Nat) (l3 : Option Nat) (l4 : Int32) (s0 : zS) (hf : f_L_law_b669 X.g.1 L xs k23 l1 l2 l3 l4 s0 = some (r, sF)) : ZW X s0 669 [(0, zr (some b)), (1, zr l1), (2, zr l2), (3, zr l3), (4, zi l4)] [] := by
  unfold f_L_law_b669 at hf
  refine z_goto hC (pc := 669) (tgt := 1509) dL_law_669 rfl ?_
  exact w_L_law_b1509 L xs b hC hL hno hQ k23 hk23 l1 l2 l3 l4 s0 hf
def f_L_law_b737 (G : Nat → Nat) (L : Nat) (xs : Nat → Int32) (k23 : Option Nat → Option Nat → Option Nat → Int32 → zS → Option (Int32 × zS)) (l1 : Option Nat) (l2 : Option Nat) (l3 : Option Nat) (l4 : Int32) (s0 : zS) : Option (Int32 × zS) :=
f_L_law_b1509 G L xs k23 l1 l2 l3 l4 s0
set_option maxHeartbeats 4000000 in
theorem w_L_law_b737 {X : zX} (L : Nat) (xs : Nat → Int32) (b : Nat) (hC : ZC X RX0 cL_law (some .boolean) 8192 104096) (hL : X.nL = 7) (hno : ∀ x ∈ X.c.exceptionTable.toList, False) {r : Int32} {sF : zS} (hQ : (r = 1 ∧ ∀ σ pc lv, decode cL_law pc = .ok (.ireturn, 1) → ZW X σ pc lv [zi 1]) ∧ va_X b L xs X.s X.s.heap ∧ b < X.g.1 0) (k23 : Option Nat → Option Nat → Option Nat → Int32 → zS → Option (Int32 × zS)) (hk23 : ∀ (l1 : Option Nat) (l2 : Option Nat) (l3 : Option Nat) (l4 : Int32) (s0 : zS), k23 l1 l2 l3 l4 s0 = some (r, sF) → ZW X s0 23 [(0, zr (some b)), (1, zr l1), (2, zr l2), (3, zr l3), (4, zi l4)] []) (l1 : Option Nat) (l2 : Option Nat) (l3 : Option Nat) (l4 : Int32) (s0 : zS) (hf : f_L_law_b737 X.g.1 L xs k23 l1 l2 l3 l4 s0 = some (r, sF)) : ZW X s0 737 [(0, zr (some b)), (1, zr l1), (2, zr l2), (3, zr l3), (4, zi l4)] [] := by
  unfold f_L_law_b737 at hf
  refine z_goto hC (pc := 737) (tgt := 1509) dL_law_737 rfl ?_
  exact w_L_law_b1509 L xs b hC hL hno hQ k23 hk23 l1 l2 l3 l4 s0 hf
def f_L_law_b793 (G : Nat → Nat) (L : Nat) (xs : Nat → Int32) (k23 : Option Nat → Option Nat → Option Nat → Int32 → zS → Option (Int32 × zS)) (l1 : Option Nat) (l2 : Option Nat) (l3 : Option Nat) (l4 : Int32) (s0 : zS) : Option (Int32 × zS) :=
f_L_law_b1509 G L xs k23 l1 l2 l3 l4 s0
set_option maxHeartbeats 4000000 in
theorem w_L_law_b793 {X : zX} (L : Nat) (xs : Nat → Int32) (b : Nat) (hC : ZC X RX0 cL_law (some .boolean) 8192 104096) (hL : X.nL = 7) (hno : ∀ x ∈ X.c.exceptionTable.toList, False) {r : Int32} {sF : zS} (hQ : (r = 1 ∧ ∀ σ pc lv, decode cL_law pc = .ok (.ireturn, 1) → ZW X σ pc lv [zi 1]) ∧ va_X b L xs X.s X.s.heap ∧ b < X.g.1 0) (k23 : Option Nat → Option Nat → Option Nat → Int32 → zS → Option (Int32 × zS)) (hk23 : ∀ (l1 : Option Nat) (l2 : Option Nat) (l3 : Option Nat) (l4 : Int32) (s0 : zS), k23 l1 l2 l3 l4 s0 = some (r, sF) → ZW X s0 23 [(0, zr (some b)), (1, zr l1), (2, zr l2), (3, zr l3), (4, zi l4)] []) (l1 : Option Nat) (l2 : Option Nat) (l3 : Option Nat) (l4 : Int32) (s0 : zS) (hf : f_L_law_b793 X.g.1 L xs k23 l1 l2 l3 l4 s0 = some (r, sF)) : ZW X s0 793 [(0, zr (some b)), (1, zr l1), (2, zr l2), (3, zr l3), (4, zi l4)] [] := by
  unfold f_L_law_b793 at hf
  refine z_goto hC (pc := 793) (tgt := 1509) dL_law_793 rfl ?_
  exact w_L_law_b1509 L xs b hC hL hno hQ k23 hk23 l1 l2 l3 l4 s0 hf
def f_L_law_b862 (G : Nat → Nat) (L : Nat) (xs : Nat → Int32) (k23 : Option Nat → Option Nat → Option Nat → Int32 → zS → Option (Int32 × zS)) (l1 : Option Nat) (l2 : Option Nat) (l3 : Option Nat) (l4 : Int32) (s0 : zS) : Option (Int32 × zS) :=
f_L_law_b1509 G L xs k23 l1 l2 l3 l4 s0
set_option maxHeartbeats 4000000 in
theorem w_L_law_b862 {X : zX} (L : Nat) (xs : Nat → Int32) (b : Nat) (hC : ZC X RX0 cL_law (some .boolean) 8192 104096) (hL : X.nL = 7) (hno : ∀ x ∈ X.c.exceptionTable.toList, False) {r : Int32} {sF : zS} (hQ : (r = 1 ∧ ∀ σ pc lv, decode cL_law pc = .ok (.ireturn, 1) → ZW X σ pc lv [zi 1]) ∧ va_X b L xs X.s X.s.heap ∧ b < X.g.1 0) (k23 : Option Nat → Option Nat → Option Nat → Int32 → zS → Option (Int32 × zS)) (hk23 : ∀ (l1 : Option Nat) (l2 : Option Nat) (l3 : Option Nat) (l4 : Int32) (s0 : zS), k23 l1 l2 l3 l4 s0 = some (r, sF) → ZW X s0 23 [(0, zr (some b)), (1, zr l1), (2, zr l2), (3, zr l3), (4, zi l4)] []) (l1 : Option Nat) (l2 : Option Nat) (l3 : Option Nat) (l4 : Int32) (s0 : zS) (hf : f_L_law_b862 X.g.1 L xs k23 l1 l2 l3 l4 s0 = some (r, sF)) : ZW X s0 862 [(0, zr (some b)), (1, zr l1), (2, zr l2), (3, zr l3), (4, zi l4)] [] := by
  unfold f_L_law_b862 at hf
  refine z_goto hC (pc := 862) (tgt := 1509) dL_law_862 rfl ?_
  exact w_L_law_b1509 L xs b hC hL hno hQ k23 hk23 l1 l2 l3 l4 s0 hf
def f_L_law_b931 (G : Nat → Nat) (L : Nat) (xs : Nat → Int32) (k23 : Option Nat → Option Nat → Option Nat → Int32 → zS → Option (Int32 × zS)) (l1 : Option Nat) (l2 : Option Nat) (l3 : Option Nat) (l4 : Int32) (s0 : zS) : Option (Int32 × zS) :=
f_L_law_b1509 G L xs k23 l1 l2 l3 l4 s0
set_option maxHeartbeats 4000000 in
theorem w_L_law_b931 {X : zX} (L : Nat) (xs : Nat → Int32) (b : Nat) (hC : ZC X RX0 cL_law (some .boolean) 8192 104096) (hL : X.nL = 7) (hno : ∀ x ∈ X.c.exceptionTable.toList, False) {r : Int32} {sF : zS} (hQ : (r = 1 ∧ ∀ σ pc lv, decode cL_law pc = .ok (.ireturn, 1) → ZW X σ pc lv [zi 1]) ∧ va_X b L xs X.s X.s.heap ∧ b < X.g.1 0) (k23 : Option Nat → Option Nat → Option Nat → Int32 → zS → Option (Int32 × zS)) (hk23 : ∀ (l1 : Option Nat) (l2 : Option Nat) (l3 : Option Nat) (l4 : Int32) (s0 : zS), k23 l1 l2 l3 l4 s0 = some (r, sF) → ZW X s0 23 [(0, zr (some b)), (1, zr l1), (2, zr l2), (3, zr l3), (4, zi l4)] []) (l1 : Option Nat) (l2 : Option Nat) (l3 : Option Nat) (l4 : Int32) (s0 : zS) (hf : f_L_law_b931 X.g.1 L xs k23 l1 l2 l3 l4 s0 = some (r, sF)) : ZW X s0 931 [(0, zr (some b)), (1, zr l1), (2, zr l2), (3, zr l3), (4, zi l4)] [] := by
  unfold f_L_law_b931 at hf
  refine z_goto hC (pc := 931) (tgt := 1509) dL_law_931 rfl ?_
  exact w_L_law_b1509 L xs b hC hL hno hQ k23 hk23 l1 l2 l3 l4 s0 hf
def f_L_law_b1000 (G : Nat → Nat) (L : Nat) (xs : Nat → Int32) (k23 : Option Nat → Option Nat → Option Nat → Int32 → zS → Option (Int32 × zS)) (l1 : Option Nat) (l2 : Option Nat) (l3 : Option Nat) (l4 : Int32) (s0 : zS) : Option (Int32 × zS) :=
f_L_law_b1509 G L xs k23 l1 l2 l3 l4 s0
set_option maxHeartbeats 4000000 in
theorem w_L_law_b1000 {X : zX} (L : Nat) (xs : Nat → Int32) (b : Nat) (hC : ZC X RX0 cL_law (some .boolean) 8192 104096) (hL : X.nL = 7) (hno : ∀ x ∈ X.c.exceptionTable.toList, False) {r : Int32} {sF : zS} (hQ : (r = 1 ∧ ∀ σ pc lv, decode cL_law pc = .ok (.ireturn, 1) → ZW X σ pc lv [zi 1]) ∧ va_X b L xs X.s X.s.heap ∧ b < X.g.1 0) (k23 : Option Nat → Option Nat → Option Nat → Int32 → zS → Option (Int32 × zS)) (hk23 : ∀ (l1 : Option Nat) (l2 : Option Nat) (l3 : Option Nat) (l4 : Int32) (s0 : zS), k23 l1 l2 l3 l4 s0 = some (r, sF) → ZW X s0 23 [(0, zr (some b)), (1, zr l1), (2, zr l2), (3, zr l3), (4, zi l4)] []) (l1 : Option Nat) (l2 : Option Nat) (l3 : Option Nat) (l4 : Int32) (s0 : zS) (hf : f_L_law_b1000 X.g.1 L xs k23 l1 l2 l3 l4 s0 = some (r, sF)) : ZW X s0 1000 [(0, zr (some b)), (1, zr l1), (2, zr l2), (3, zr l3), (4, zi l4)] [] := by
  unfold f_L_law_b1000 at hf
  refine z_goto hC (pc := 1000) (tgt := 1509) dL_law_1000 rfl ?_
  exact w_L_law_b1509 L xs b hC hL hno hQ k23 hk23 l1 l2 l3 l4 s0 hf
def f_L_law_b1101 (G : Nat → Nat) (L : Nat) (xs : Nat → Int32) (k23 : Option Nat → Option Nat → Option Nat → Int32 → zS → Option (Int32 × zS)) (l1 : Option Nat) (l2 : Option Nat) (l3 : Option Nat) (l4 : Int32) (s0 : zS) : Option (Int32 × zS) :=
f_L_law_b1509 G L xs k23 l1 l2 l3 l4 s0
set_option maxHeartbeats 4000000 in
theorem w_L_law_b1101 {X : zX} (L : Nat) (xs : Nat → Int32) (b : Nat) (hC : ZC X RX0 cL_law (some .boolean) 8192 104096) (hL : X.nL = 7) (hno : ∀ x ∈ X.c.exceptionTable.toList, False) {r : Int32} {sF : zS} (hQ : (r = 1 ∧ ∀ σ pc lv, decode cL_law pc = .ok (.ireturn, 1) → ZW X σ pc lv [zi 1]) ∧ va_X b L xs X.s X.s.heap ∧ b < X.g.1 0) (k23 : Option Nat → Option Nat → Option Nat → Int32 → zS → Option (Int32 × zS)) (hk23 : ∀ (l1 : Option Nat) (l2 : Option Nat) (l3 : Option Nat) (l4 : Int32) (s0 : zS), k23 l1 l2 l3 l4 s0 = some (r, sF) → ZW X s0 23 [(0, zr (some b)), (1, zr l1), (2, zr l2), (3, zr l3), (4, zi l4)] []) (l1 : Option Nat) (l2 : Option Nat) (l3 : Option Nat) (l4 : Int32) (s0 : zS) (hf : f_L_law_b1101 X.g.1 L xs k23 l1 l2 l3 l4 s0 = some (r, sF)) : ZW X s0 1101 [(0, zr (some b)), (1, zr l1), (2, zr l2), (3, zr l3), (4, zi l4)] [] := by
  unfold f_L_law_b1101 at hf
  refine z_goto hC (pc := 1101) (tgt := 1509) dL_law_1101 rfl ?_
  exact w_L_law_b1509 L xs b hC hL hno hQ k23 hk23 l1 l2 l3 l4 s0 hf
def f_L_law_b1095 (G : Nat → Nat) (L : Nat) (xs : Nat → Int32) (k23 : Option Nat → Option Nat → Option Nat → Int32 → zS → Option (Int32 × zS)) (l1 : Option Nat) (l2 : Option Nat) (l3 : Option Nat) (l4 : Int32) (t0 : Int64) (t1 : Int64) (s0 : zS) : Option (Int32 × zS) :=
if (lg_cmp t1 t0) = 0 then (f_L_law_b1101 G L xs k23 l1 l2 l3 l4 s0)
else (some (0, s0))
set_option maxHeartbeats 4000000 in
theorem w_L_law_b1095 {X : zX} (L : Nat) (xs : Nat → Int32) (b : Nat) (hC : ZC X RX0 cL_law (some .boolean) 8192 104096) (hL : X.nL = 7) (hno : ∀ x ∈ X.c.exceptionTable.toList, False) {r : Int32} {sF : zS} (hQ : (r = 1 ∧ ∀ σ pc lv, decode cL_law pc = .ok (.ireturn, 1) → ZW X σ pc lv [zi 1]) ∧ va_X b L xs X.s X.s.heap ∧ b < X.g.1 0) (k23 : Option Nat → Option Nat → Option Nat → Int32 → zS → Option (Int32 × zS)) (hk23 : ∀ (l1 : Option Nat) (l2 : Option Nat) (l3 : Option Nat) (l4 : Int32) (s0 : zS), k23 l1 l2 l3 l4 s0 = some (r, sF) → ZW X s0 23 [(0, zr (some b)), (1, zr l1), (2, zr l2), (3, zr l3), (4, zi l4)] []) (l1 : Option Nat) (l2 : Option Nat) (l3 : Option Nat) (l4 : Int32) (t0 : Int64) (t1 : Int64) (s0 : zS) (hf : f_L_law_b1095 X.g.1 L xs k23 l1 l2 l3 l4 t0 t1 s0 = some (r, sF)) : ZW X s0 1095 [(0, zr (some b)), (1, zr l1), (2, zr l2), (3, zr l3), (4, zi l4)] [zj t0, zj t1] := by
  unfold f_L_law_b1095 at hf
  refine z_lcmp hC (pc := 1095) dL_law_1095 ?_
  refine z_if_eq hC (pc := 1096) (tgt := 1101) dL_law_1096 rfl (fun c1 => ?_) (fun c1 => ?_)
  · have hf := zif_t hf c1
    exact w_L_law_b1101 L xs b hC hL hno hQ k23 hk23 l1 l2 l3 l4 s0 hf
  · have hf := zif_f hf c1
    refine z_iconst (v := 0) hC (pc := 1099) dL_law_1099 zki_0 ?_
    exact z_lawret hQ.1 dL_law_1100 hf
def f_L_law_b1169 (G : Nat → Nat) (L : Nat) (xs : Nat → Int32) (k23 : Option Nat → Option Nat → Option Nat → Int32 → zS → Option (Int32 × zS)) (l1 : Option Nat) (l2 : Option Nat) (l3 : Option Nat) (l4 : Int32) (s0 : zS) : Option (Int32 × zS) :=
f_L_law_b1509 G L xs k23 l1 l2 l3 l4 s0
set_option maxHeartbeats 4000000 in
theorem w_L_law_b1169 {X : zX} (L : Nat) (xs : Nat → Int32) (b : Nat) (hC : ZC X RX0 cL_law (some .boolean) 8192 104096) (hL : X.nL = 7) (hno : ∀ x ∈ X.c.exceptionTable.toList, False) {r : Int32} {sF : zS} (hQ : (r = 1 ∧ ∀ σ pc lv, decode cL_law pc = .ok (.ireturn, 1) → ZW X σ pc lv [zi 1]) ∧ va_X b L xs X.s X.s.heap ∧ b < X.g.1 0) (k23 : Option Nat → Option Nat → Option Nat → Int32 → zS → Option (Int32 × zS)) (hk23 : ∀ (l1 : Option Nat) (l2 : Option Nat) (l3 : Option Nat) (l4 : Int32) (s0 : zS), k23 l1 l2 l3 l4 s0 = some (r, sF) → ZW X s0 23 [(0, zr (some b)), (1, zr l1), (2, zr l2), (3, zr l3), (4, zi l4)] []) (l1 : Option Nat) (l2 : Option Nat) (l3 : Option Nat) (l4 : Int32) (s0 : zS) (hf : f_L_law_b1169 X.g.1 L xs k23 l1 l2 l3 l4 s0 = some (r, sF)) : ZW X s0 1169 [(0, zr (some b)), (1, zr l1), (2, zr l2), (3, zr l3), (4, zi l4)] [] := by
  unfold f_L_law_b1169 at hf
  refine z_goto hC (pc := 1169) (tgt := 1509) dL_law_1169 rfl ?_
  exact w_L_law_b1509 L xs b hC hL hno hQ k23 hk23 l1 l2 l3 l4 s0 hf
def f_L_law_b1250 (G : Nat → Nat) (L : Nat) (xs : Nat → Int32) (k23 : Option Nat → Option Nat → Option Nat → Int32 → zS → Option (Int32 × zS)) (l1 : Option Nat) (l2 : Option Nat) (l3 : Option Nat) (l4 : Int32) (s0 : zS) : Option (Int32 × zS) :=
f_L_law_b1509 G L xs k23 l1 l2 l3 l4 s0
set_option maxHeartbeats 4000000 in
theorem w_L_law_b1250 {X : zX} (L : Nat) (xs : Nat → Int32) (b : Nat) (hC : ZC X RX0 cL_law (some .boolean) 8192 104096) (hL : X.nL = 7) (hno : ∀ x ∈ X.c.exceptionTable.toList, False) {r : Int32} {sF : zS} (hQ : (r = 1 ∧ ∀ σ pc lv, decode cL_law pc = .ok (.ireturn, 1) → ZW X σ pc lv [zi 1]) ∧ va_X b L xs X.s X.s.heap ∧ b < X.g.1 0) (k23 : Option Nat → Option Nat → Option Nat → Int32 → zS → Option (Int32 × zS)) (hk23 : ∀ (l1 : Option Nat) (l2 : Option Nat) (l3 : Option Nat) (l4 : Int32) (s0 : zS), k23 l1 l2 l3 l4 s0 = some (r, sF) → ZW X s0 23 [(0, zr (some b)), (1, zr l1), (2, zr l2), (3, zr l3), (4, zi l4)] []) (l1 : Option Nat) (l2 : Option Nat) (l3 : Option Nat) (l4 : Int32) (s0 : zS) (hf : f_L_law_b1250 X.g.1 L xs k23 l1 l2 l3 l4 s0 = some (r, sF)) : ZW X s0 1250 [(0, zr (some b)), (1, zr l1), (2, zr l2), (3, zr l3), (4, zi l4)] [] := by
  unfold f_L_law_b1250 at hf
  refine z_goto hC (pc := 1250) (tgt := 1509) dL_law_1250 rfl ?_
  exact w_L_law_b1509 L xs b hC hL hno hQ k23 hk23 l1 l2 l3 l4 s0 hf
def f_L_law_b1306 (G : Nat → Nat) (L : Nat) (xs : Nat → Int32) (k23 : Option Nat → Option Nat → Option Nat → Int32 → zS → Option (Int32 × zS)) (l1 : Option Nat) (l2 : Option Nat) (l3 : Option Nat) (l4 : Int32) (s0 : zS) : Option (Int32 × zS) :=
f_L_law_b1509 G L xs k23 l1 l2 l3 l4 s0
set_option maxHeartbeats 4000000 in
theorem w_L_law_b1306 {X : zX} (L : Nat) (xs : Nat → Int32) (b : Nat) (hC : ZC X RX0 cL_law (some .boolean) 8192 104096) (hL : X.nL = 7) (hno : ∀ x ∈ X.c.exceptionTable.toList, False) {r : Int32} {sF : zS} (hQ : (r = 1 ∧ ∀ σ pc lv, decode cL_law pc = .ok (.ireturn, 1) → ZW X σ pc lv [zi 1]) ∧ va_X b L xs X.s X.s.heap ∧ b < X.g.1 0) (k23 : Option Nat → Option Nat → Option Nat → Int32 → zS → Option (Int32 × zS)) (hk23 : ∀ (l1 : Option Nat) (l2 : Option Nat) (l3 : Option Nat) (l4 : Int32) (s0 : zS), k23 l1 l2 l3 l4 s0 = some (r, sF) → ZW X s0 23 [(0, zr (some b)), (1, zr l1), (2, zr l2), (3, zr l3), (4, zi l4)] []) (l1 : Option Nat) (l2 : Option Nat) (l3 : Option Nat) (l4 : Int32) (s0 : zS) (hf : f_L_law_b1306 X.g.1 L xs k23 l1 l2 l3 l4 s0 = some (r, sF)) : ZW X s0 1306 [(0, zr (some b)), (1, zr l1), (2, zr l2), (3, zr l3), (4, zi l4)] [] := by
  unfold f_L_law_b1306 at hf
  refine z_goto hC (pc := 1306) (tgt := 1509) dL_law_1306 rfl ?_
  exact w_L_law_b1509 L xs b hC hL hno hQ k23 hk23 l1 l2 l3 l4 s0 hf
def f_L_law_b1386 (G : Nat → Nat) (L : Nat) (xs : Nat → Int32) (k23 : Option Nat → Option Nat → Option Nat → Int32 → zS → Option (Int32 × zS)) (l1 : Option Nat) (l2 : Option Nat) (l3 : Option Nat) (l4 : Int32) (s0 : zS) : Option (Int32 × zS) :=
f_L_law_b1509 G L xs k23 l1 l2 l3 l4 s0
set_option maxHeartbeats 4000000 in
theorem w_L_law_b1386 {X : zX} (L : Nat) (xs : Nat → Int32) (b : Nat) (hC : ZC X RX0 cL_law (some .boolean) 8192 104096) (hL : X.nL = 7) (hno : ∀ x ∈ X.c.exceptionTable.toList, False) {r : Int32} {sF : zS} (hQ : (r = 1 ∧ ∀ σ pc lv, decode cL_law pc = .ok (.ireturn, 1) → ZW X σ pc lv [zi 1]) ∧ va_X b L xs X.s X.s.heap ∧ b < X.g.1 0) (k23 : Option Nat → Option Nat → Option Nat → Int32 → zS → Option (Int32 × zS)) (hk23 : ∀ (l1 : Option Nat) (l2 : Option Nat) (l3 : Option Nat) (l4 : Int32) (s0 : zS), k23 l1 l2 l3 l4 s0 = some (r, sF) → ZW X s0 23 [(0, zr (some b)), (1, zr l1), (2, zr l2), (3, zr l3), (4, zi l4)] []) (l1 : Option Nat) (l2 : Option Nat) (l3 : Option Nat) (l4 : Int32) (s0 : zS) (hf : f_L_law_b1386 X.g.1 L xs k23 l1 l2 l3 l4 s0 = some (r, sF)) : ZW X s0 1386 [(0, zr (some b)), (1, zr l1), (2, zr l2), (3, zr l3), (4, zi l4)] [] := by
  unfold f_L_law_b1386 at hf
  refine z_goto hC (pc := 1386) (tgt := 1509) dL_law_1386 rfl ?_
  exact w_L_law_b1509 L xs b hC hL hno hQ k23 hk23 l1 l2 l3 l4 s0 hf
def f_L_law_b1466 (G : Nat → Nat) (L : Nat) (xs : Nat → Int32) (k23 : Option Nat → Option Nat → Option Nat → Int32 → zS → Option (Int32 × zS)) (l1 : Option Nat) (l2 : Option Nat) (l3 : Option Nat) (l4 : Int32) (s0 : zS) : Option (Int32 × zS) :=
f_L_law_b1509 G L xs k23 l1 l2 l3 l4 s0
set_option maxHeartbeats 4000000 in
theorem w_L_law_b1466 {X : zX} (L : Nat) (xs : Nat → Int32) (b : Nat) (hC : ZC X RX0 cL_law (some .boolean) 8192 104096) (hL : X.nL = 7) (hno : ∀ x ∈ X.c.exceptionTable.toList, False) {r : Int32} {sF : zS} (hQ : (r = 1 ∧ ∀ σ pc lv, decode cL_law pc = .ok (.ireturn, 1) → ZW X σ pc lv [zi 1]) ∧ va_X b L xs X.s X.s.heap ∧ b < X.g.1 0) (k23 : Option Nat → Option Nat → Option Nat → Int32 → zS → Option (Int32 × zS)) (hk23 : ∀ (l1 : Option Nat) (l2 : Option Nat) (l3 : Option Nat) (l4 : Int32) (s0 : zS), k23 l1 l2 l3 l4 s0 = some (r, sF) → ZW X s0 23 [(0, zr (some b)), (1, zr l1), (2, zr l2), (3, zr l3), (4, zi l4)] []) (l1 : Option Nat) (l2 : Option Nat) (l3 : Option Nat) (l4 : Int32) (s0 : zS) (hf : f_L_law_b1466 X.g.1 L xs k23 l1 l2 l3 l4 s0 = some (r, sF)) : ZW X s0 1466 [(0, zr (some b)), (1, zr l1), (2, zr l2), (3, zr l3), (4, zi l4)] [] := by
  unfold f_L_law_b1466 at hf
  refine z_goto hC (pc := 1466) (tgt := 1509) dL_law_1466 rfl ?_
  exact w_L_law_b1509 L xs b hC hL hno hQ k23 hk23 l1 l2 l3 l4 s0 hf
def f_L_law_b23 (G : Nat → Nat) (L : Nat) (xs : Nat → Int32) (k23 : Option Nat → Option Nat → Option Nat → Int32 → zS → Option (Int32 × zS)) (l1 : Option Nat) (l2 : Option Nat) (l3 : Option Nat) (l4 : Int32) (s0 : zS) : Option (Int32 × zS) :=
if ((Int32.ofNat L) - 6) < l4 then (some (1, s0))
else (zo (zscr L xs l4) fun v2 =>
if (v2 &&& 31) = 0 then (zo (zscr L xs (l4 + 1)) fun v4 =>
zo (zscr L xs (l4 + 2)) fun v5 =>
zo (zscr L xs (l4 + 3)) fun v6 =>
zo (zscr L xs (l4 + 4)) fun v7 =>
zo (zscr L xs (l4 + 5)) fun v8 =>
zo (zrc s0 l1 0) fun a11 =>
zb (f_X1_append G a11 v4 v5 v6 v7 v8 s0) fun v12 s13 =>
zo (zscr L xs (l4 + 1)) fun v14 =>
zo (zscr L xs (l4 + 2)) fun v15 =>
zo (zscr L xs (l4 + 3)) fun v16 =>
zo (zscr L xs (l4 + 4)) fun v17 =>
zo (zscr L xs (l4 + 5)) fun v18 =>
zo (zrc s13 l2 6) fun a21 =>
zb (f_X8_append G a21 v14 v15 v16 v17 v18 s13) fun v22 s23 =>
if v12 = v22 then (f_L_law_b1509 G L xs k23 (some a11) (some a21) l3 l4 s23)
else (some (0, s23))) else
if (v2 &&& 31) = 1 then (zo (zscr L xs (l4 + 1)) fun v26 =>
zb (f_X0_load G l1 v26 l3 s0) fun v27 s28 =>
zo (zscr L xs (l4 + 1)) fun v29 =>
zo (zrc s28 l2 6) fun a32 =>
zb (f_X8_load G a32 v29 s28) fun v33 s34 =>
zo (zrc s34 (some a32) 6) fun _ =>
zb (f_X8_thrown G a32 s34) fun v37 s38 =>
if v37 = v27 then (if v27 = 0 then (zo (zaL s38 l3 0) fun v41 =>
if (lg_cmp v41 (v33.toInt64)) = 0 then (f_L_law_b302 G L xs k23 l1 (some a32) l3 l4 s38)
else (some (0, s38)))
else (f_L_law_b302 G L xs k23 l1 (some a32) l3 l4 s38))
else (some (0, s38))) else
if (v2 &&& 31) = 2 then (zo (zrc s0 l1 0) fun a46 =>
zb (f_X1_errorOffset G a46 s0) fun v47 s48 =>
zo (zrc s48 l2 6) fun a51 =>
zb (f_X8_errorOffset G a51 s48) fun v52 s53 =>
if v47 = v52 then (f_L_law_b1509 G L xs k23 (some a46) (some a51) l3 l4 s53)
else (some (0, s53))) else
if (v2 &&& 31) = 3 then (zo (zrc s0 l1 0) fun a58 =>
zb (f_X1_machineCount G a58 s0) fun v59 s60 =>
zo (zrc s60 l2 6) fun a63 =>
zb (f_X8_machineCount G a63 s60) fun v64 s65 =>
if v59 = v64 then (f_L_law_b1509 G L xs k23 (some a58) (some a63) l3 l4 s65)
else (some (0, s65))) else
if (v2 &&& 31) = 4 then (zo (zrc s0 l1 0) fun a70 =>
zb (f_X1_jobCount G a70 s0) fun v71 s72 =>
zo (zrc s72 l2 6) fun a75 =>
zb (f_X8_jobCount G a75 s72) fun v76 s77 =>
if v71 = v76 then (f_L_law_b1509 G L xs k23 (some a70) (some a75) l3 l4 s77)
else (some (0, s77))) else
if (v2 &&& 31) = 5 then (zo (zscr L xs (l4 + 1)) fun v80 =>
zb (f_X0_operationCount G l1 v80 l3 s0) fun v81 s82 =>
zo (zscr L xs (l4 + 1)) fun v83 =>
zo (zrc s82 l2 6) fun a86 =>
zb (f_X8_operationCount G a86 v83 s82) fun v87 s88 =>
zo (zrc s88 (some a86) 6) fun _ =>
zb (f_X8_thrown G a86 s88) fun v91 s92 =>
if v91 = v81 then (if v81 = 0 then (zo (zaL s92 l3 0) fun v95 =>
if (lg_cmp v95 (v87.toInt64)) = 0 then (f_L_law_b397 G L xs k23 l1 (some a86) l3 l4 s92)
else (some (0, s92)))
else (f_L_law_b397 G L xs k23 l1 (some a86) l3 l4 s92))
else (some (0, s92))) else
if (v2 &&& 31) = 6 then (zo (zscr L xs (l4 + 1)) fun v98 =>
zo (zscr L xs (l4 + 2)) fun v99 =>
zo (zscr L xs (l4 + 3)) fun v100 =>
zb (f_X0_operation G l1 v98 v99 v100 l3 s0) fun v101 s102 =>
zo (zscr L xs (l4 + 1)) fun v103 =>
zo (zscr L xs (l4 + 2)) fun v104 =>
zo (zscr L xs (l4 + 3)) fun v105 =>
zo (zrc s102 l2 6) fun a108 =>
zb (f_X8_operation G a108 v103 v104 v105 s102) fun v109 s110 =>
zo (zrc s110 (some a108) 6) fun _ =>
zb (f_X8_thrown G a108 s110) fun v113 s114 =>
if v113 = v101 then (if v101 = 0 then (zo (zaL s114 l3 0) fun v117 =>
if (lg_cmp v117 (v109.toInt64)) = 0 then (f_L_law_b477 G L xs k23 l1 (some a108) l3 l4 s114)
else (some (0, s114)))
else (f_L_law_b477 G L xs k23 l1 (some a108) l3 l4 s114))
else (some (0, s114))) else
if (v2 &&& 31) = 7 then (zo (zscr L xs (l4 + 1)) fun v120 =>
zb (f_X0_orderLength G l1 v120 l3 s0) fun v121 s122 =>
zo (zscr L xs (l4 + 1)) fun v123 =>
zo (zrc s122 l2 6) fun a126 =>
zb (f_X8_orderLength G a126 v123 s122) fun v127 s128 =>
zo (zrc s128 (some a126) 6) fun _ =>
zb (f_X8_thrown G a126 s128) fun v131 s132 =>
if v131 = v121 then (if v121 = 0 then (zo (zaL s132 l3 0) fun v135 =>
if (lg_cmp v135 (v127.toInt64)) = 0 then (f_L_law_b533 G L xs k23 l1 (some a126) l3 l4 s132)
else (some (0, s132)))
else (f_L_law_b533 G L xs k23 l1 (some a126) l3 l4 s132))
else (some (0, s132))) else
if (v2 &&& 31) = 8 then (zo (zscr L xs (l4 + 1)) fun v138 =>
zo (zscr L xs (l4 + 2)) fun v139 =>
zb (f_X0_orderAt G l1 v138 v139 l3 s0) fun v140 s141 =>
zo (zscr L xs (l4 + 1)) fun v142 =>
zo (zscr L xs (l4 + 2)) fun v143 =>
zo (zrc s141 l2 6) fun a146 =>
zb (f_X8_orderAt G a146 v142 v143 s141) fun v147 s148 =>
zo (zrc s148 (some a146) 6) fun _ =>
zb (f_X8_thrown G a146 s148) fun v151 s152 =>
if v151 = v140 then (if v140 = 0 then (zo (zaL s152 l3 0) fun v155 =>
if (lg_cmp v155 (v147.toInt64)) = 0 then (f_L_law_b601 G L xs k23 l1 (some a146) l3 l4 s152)
else (some (0, s152)))
else (f_L_law_b601 G L xs k23 l1 (some a146) l3 l4 s152))
else (some (0, s152))) else
if (v2 &&& 31) = 9 then (zo (zscr L xs (l4 + 1)) fun v158 =>
zo (zscr L xs (l4 + 2)) fun v159 =>
zb (f_X0_start G l1 v158 v159 l3 s0) fun v160 s161 =>
zo (zscr L xs (l4 + 1)) fun v162 =>
zo (zscr L xs (l4 + 2)) fun v163 =>
zo (zrc s161 l2 6) fun a166 =>
zb (f_X8_start G a166 v162 v163 s161) fun v167 s168 =>
zo (zrc s168 (some a166) 6) fun _ =>
zb (f_X8_thrown G a166 s168) fun v171 s172 =>
if v171 = v160 then (if v160 = 0 then (zo (zaL s172 l3 0) fun v175 =>
if (lg_cmp v175 (v167.toInt64)) = 0 then (f_L_law_b669 G L xs k23 l1 (some a166) l3 l4 s172)
else (some (0, s172)))
else (f_L_law_b669 G L xs k23 l1 (some a166) l3 l4 s172))
else (some (0, s172))) else
if (v2 &&& 31) = 10 then (zo (zscr L xs (l4 + 1)) fun v178 =>
zo (zscr L xs (l4 + 2)) fun v179 =>
zb (f_X0_leave G l1 v178 v179 l3 s0) fun v180 s181 =>
zo (zscr L xs (l4 + 1)) fun v182 =>
zo (zscr L xs (l4 + 2)) fun v183 =>
zo (zrc s181 l2 6) fun a186 =>
zb (f_X8_leave G a186 v182 v183 s181) fun v187 s188 =>
zo (zrc s188 (some a186) 6) fun _ =>
zb (f_X8_thrown G a186 s188) fun v191 s192 =>
if v191 = v180 then (if v180 = 0 then (zo (zaL s192 l3 0) fun v195 =>
if (lg_cmp v195 (v187.toInt64)) = 0 then (f_L_law_b737 G L xs k23 l1 (some a186) l3 l4 s192)
else (some (0, s192)))
else (f_L_law_b737 G L xs k23 l1 (some a186) l3 l4 s192))
else (some (0, s192))) else
if (v2 &&& 31) = 11 then (zo (zscr L xs (l4 + 1)) fun v198 =>
zb (f_X0_completion G l1 v198 l3 s0) fun v199 s200 =>
zo (zscr L xs (l4 + 1)) fun v201 =>
zo (zrc s200 l2 6) fun a204 =>
zb (f_X8_completion G a204 v201 s200) fun v205 s206 =>
zo (zrc s206 (some a204) 6) fun _ =>
zb (f_X8_thrown G a204 s206) fun v209 s210 =>
if v209 = v199 then (if v199 = 0 then (zo (zaL s210 l3 0) fun v213 =>
if (lg_cmp v213 (v205.toInt64)) = 0 then (f_L_law_b793 G L xs k23 l1 (some a204) l3 l4 s210)
else (some (0, s210)))
else (f_L_law_b793 G L xs k23 l1 (some a204) l3 l4 s210))
else (some (0, s210))) else
if (v2 &&& 31) = 12 then (zo (zrc s0 l1 0) fun a218 =>
zb (f_X1_makespan G a218 s0) fun v219 s220 =>
zo (zrc s220 l2 6) fun a223 =>
zb (f_X8_makespan G a223 s220) fun v224 s225 =>
if v219 = v224 then (f_L_law_b1509 G L xs k23 (some a218) (some a223) l3 l4 s225)
else (some (0, s225))) else
if (v2 &&& 31) = 13 then (zo (zscr L xs (l4 + 1)) fun v228 =>
zb (f_X0_jobCost G l1 v228 l3 s0) fun v229 s230 =>
zo (zscr L xs (l4 + 1)) fun v231 =>
zo (zrc s230 l2 6) fun a234 =>
zb (f_X8_jobCost G a234 v231 s230) fun v235 s236 =>
zo (zrc s236 (some a234) 6) fun _ =>
zb (f_X8_thrown G a234 s236) fun v239 s240 =>
if v239 = v229 then (if v229 = 0 then (zo (zaL s240 l3 0) fun v243 =>
if (lg_cmp v243 (v235.toInt64)) = 0 then (f_L_law_b862 G L xs k23 l1 (some a234) l3 l4 s240)
else (some (0, s240)))
else (f_L_law_b862 G L xs k23 l1 (some a234) l3 l4 s240))
else (some (0, s240))) else
if (v2 &&& 31) = 14 then (zo (zrc s0 l1 0) fun a248 =>
zb (f_X1_planCost G a248 s0) fun v249 s250 =>
zo (zrc s250 l2 6) fun a253 =>
zb (f_X8_planCost G a253 s250) fun v254 s255 =>
if v249 = v254 then (f_L_law_b1509 G L xs k23 (some a248) (some a253) l3 l4 s255)
else (some (0, s255))) else
if (v2 &&& 31) = 15 then (zo (zscr L xs (l4 + 1)) fun v258 =>
zb (f_X0_blockedTime G l1 v258 l3 s0) fun v259 s260 =>
zo (zscr L xs (l4 + 1)) fun v261 =>
zo (zrc s260 l2 6) fun a264 =>
zb (f_X8_blockedTime G a264 v261 s260) fun v265 s266 =>
zo (zrc s266 (some a264) 6) fun _ =>
zb (f_X8_thrown G a264 s266) fun v269 s270 =>
if v269 = v259 then (if v259 = 0 then (zo (zaL s270 l3 0) fun v273 =>
if (lg_cmp v273 (v265.toInt64)) = 0 then (f_L_law_b931 G L xs k23 l1 (some a264) l3 l4 s270)
else (some (0, s270)))
else (f_L_law_b931 G L xs k23 l1 (some a264) l3 l4 s270))
else (some (0, s270))) else
if (v2 &&& 31) = 16 then (zo (zrc s0 l1 0) fun a278 =>
zb (f_X1_criticalLength G a278 s0) fun v279 s280 =>
zo (zrc s280 l2 6) fun a283 =>
zb (f_X8_criticalLength G a283 s280) fun v284 s285 =>
if v279 = v284 then (f_L_law_b1509 G L xs k23 (some a278) (some a283) l3 l4 s285)
else (some (0, s285))) else
if (v2 &&& 31) = 17 then (zo (zscr L xs (l4 + 1)) fun v288 =>
zb (f_X0_critical G l1 v288 l3 s0) fun v289 s290 =>
zo (zscr L xs (l4 + 1)) fun v291 =>
zo (zrc s290 l2 6) fun a294 =>
zb (f_X8_critical G a294 v291 s290) fun v295 s296 =>
zo (zrc s296 (some a294) 6) fun _ =>
zb (f_X8_thrown G a294 s296) fun v299 s300 =>
if v299 = v289 then (if v289 = 0 then (zo (zaL s300 l3 0) fun v303 =>
if (lg_cmp v303 (v295.toInt64)) = 0 then (f_L_law_b1000 G L xs k23 l1 (some a294) l3 l4 s300)
else (some (0, s300)))
else (f_L_law_b1000 G L xs k23 l1 (some a294) l3 l4 s300))
else (some (0, s300))) else
if (v2 &&& 31) = 18 then (zo (zrc s0 l1 0) fun a308 =>
zb (f_X1_blockCount G a308 s0) fun v309 s310 =>
zo (zrc s310 l2 6) fun a313 =>
zb (f_X8_blockCount G a313 s310) fun v314 s315 =>
if v309 = v314 then (f_L_law_b1509 G L xs k23 (some a308) (some a313) l3 l4 s315)
else (some (0, s315))) else
if (v2 &&& 31) = 19 then (zo (zrc s0 l1 0) fun a320 =>
zb (f_X1_longestBlock G a320 s0) fun v321 s322 =>
zo (zrc s322 l2 6) fun a325 =>
zb (f_X8_longestBlock G a325 s322) fun v326 s327 =>
if v321 = v326 then (f_L_law_b1509 G L xs k23 (some a320) (some a325) l3 l4 s327)
else (some (0, s327))) else
if (v2 &&& 31) = 20 then (zo (zscr L xs (l4 + 1)) fun v330 =>
zo (zscr L xs (l4 + 2)) fun v331 =>
zb (f_X0_deadlocks G l1 v330 v331 l3 s0) fun v332 s333 =>
zo (zscr L xs (l4 + 1)) fun v334 =>
zo (zscr L xs (l4 + 2)) fun v335 =>
zo (zrc s333 l2 6) fun a338 =>
zb (f_X8_deadlocks G a338 v334 v335 s333) fun v339 s340 =>
zo (zrc s340 (some a338) 6) fun _ =>
zb (f_X8_thrown G a338 s340) fun v343 s344 =>
if v343 = v332 then (if v332 = 0 then (zo (zaL s344 l3 0) fun v347 =>
if v339 = 0 then (f_L_law_b1095 G L xs k23 l1 (some a338) l3 l4 0 v347 s344)
else (f_L_law_b1095 G L xs k23 l1 (some a338) l3 l4 1 v347 s344))
else (f_L_law_b1101 G L xs k23 l1 (some a338) l3 l4 s344))
else (some (0, s344))) else
if (v2 &&& 31) = 21 then (zo (zscr L xs (l4 + 1)) fun v350 =>
zo (zscr L xs (l4 + 2)) fun v351 =>
zb (f_X0_makespanAfter G l1 v350 v351 l3 s0) fun v352 s353 =>
zo (zscr L xs (l4 + 1)) fun v354 =>
zo (zscr L xs (l4 + 2)) fun v355 =>
zo (zrc s353 l2 6) fun a358 =>
zb (f_X8_makespanAfter G a358 v354 v355 s353) fun v359 s360 =>
zo (zrc s360 (some a358) 6) fun _ =>
zb (f_X8_thrown G a358 s360) fun v363 s364 =>
if v363 = v352 then (if v352 = 0 then (zo (zaL s364 l3 0) fun v367 =>
if (lg_cmp v367 (v359.toInt64)) = 0 then (f_L_law_b1169 G L xs k23 l1 (some a358) l3 l4 s364)
else (some (0, s364)))
else (f_L_law_b1169 G L xs k23 l1 (some a358) l3 l4 s364))
else (some (0, s364))) else
if (v2 &&& 31) = 22 then (zo (zrc s0 l1 0) fun a372 =>
zb (f_X1_bestSwap G a372 s0) fun v373 s374 =>
zo (zrc s374 l2 6) fun a377 =>
zb (f_X8_bestSwap G a377 s374) fun v378 s379 =>
if v373 = v378 then (f_L_law_b1509 G L xs k23 (some a372) (some a377) l3 l4 s379)
else (some (0, s379))) else
if (v2 &&& 31) = 23 then (zo (zscr L xs (l4 + 1)) fun v382 =>
zo (zscr L xs (l4 + 2)) fun v383 =>
zb (f_X0_swap G l1 v382 v383 l3 s0) fun v384 s385 =>
zo (zscr L xs (l4 + 1)) fun v386 =>
zo (zscr L xs (l4 + 2)) fun v387 =>
zo (zrc s385 l2 6) fun a390 =>
zb (f_X8_swap G a390 v386 v387 s385) fun v391 s392 =>
zo (zrc s392 (some a390) 6) fun _ =>
zb (f_X8_thrown G a390 s392) fun v395 s396 =>
if v395 = v384 then (if v384 = 0 then (zo (zaL s396 l3 0) fun v399 =>
if (lg_cmp v399 (v391.toInt64)) = 0 then (f_L_law_b1250 G L xs k23 l1 (some a390) l3 l4 s396)
else (some (0, s396)))
else (f_L_law_b1250 G L xs k23 l1 (some a390) l3 l4 s396))
else (some (0, s396))) else
if (v2 &&& 31) = 24 then (zo (zscr L xs (l4 + 1)) fun v402 =>
zb (f_X0_improve G l1 v402 l3 s0) fun v403 s404 =>
zo (zscr L xs (l4 + 1)) fun v405 =>
zo (zrc s404 l2 6) fun a408 =>
zb (f_X8_improve G a408 v405 s404) fun v409 s410 =>
zo (zrc s410 (some a408) 6) fun _ =>
zb (f_X8_thrown G a408 s410) fun v413 s414 =>
if v413 = v403 then (if v403 = 0 then (zo (zaL s414 l3 0) fun v417 =>
if (lg_cmp v417 (v409.toInt64)) = 0 then (f_L_law_b1306 G L xs k23 l1 (some a408) l3 l4 s414)
else (some (0, s414)))
else (f_L_law_b1306 G L xs k23 l1 (some a408) l3 l4 s414))
else (some (0, s414))) else
if (v2 &&& 31) = 25 then (zo (zscr L xs (l4 + 1)) fun v420 =>
zo (zscr L xs (l4 + 2)) fun v421 =>
zo (zscr L xs (l4 + 3)) fun v422 =>
zb (f_X0_place G l1 v420 v421 v422 l3 s0) fun v423 s424 =>
zo (zscr L xs (l4 + 1)) fun v425 =>
zo (zscr L xs (l4 + 2)) fun v426 =>
zo (zscr L xs (l4 + 3)) fun v427 =>
zo (zrc s424 l2 6) fun a430 =>
zb (f_X8_place G a430 v425 v426 v427 s424) fun v431 s432 =>
zo (zrc s432 (some a430) 6) fun _ =>
zb (f_X8_thrown G a430 s432) fun v435 s436 =>
if v435 = v423 then (if v423 = 0 then (zo (zaL s436 l3 0) fun v439 =>
if (lg_cmp v439 (v431.toInt64)) = 0 then (f_L_law_b1386 G L xs k23 l1 (some a430) l3 l4 s436)
else (some (0, s436)))
else (f_L_law_b1386 G L xs k23 l1 (some a430) l3 l4 s436))
else (some (0, s436))) else
if (v2 &&& 31) = 26 then (zo (zscr L xs (l4 + 1)) fun v442 =>
zo (zscr L xs (l4 + 2)) fun v443 =>
zo (zscr L xs (l4 + 3)) fun v444 =>
zb (f_X0_setDuration G l1 v442 v443 v444 l3 s0) fun v445 s446 =>
zo (zscr L xs (l4 + 1)) fun v447 =>
zo (zscr L xs (l4 + 2)) fun v448 =>
zo (zscr L xs (l4 + 3)) fun v449 =>
zo (zrc s446 l2 6) fun a452 =>
zb (f_X8_setDuration G a452 v447 v448 v449 s446) fun v453 s454 =>
zo (zrc s454 (some a452) 6) fun _ =>
zb (f_X8_thrown G a452 s454) fun v457 s458 =>
if v457 = v445 then (if v445 = 0 then (zo (zaL s458 l3 0) fun v461 =>
if (lg_cmp v461 (v453.toInt64)) = 0 then (f_L_law_b1466 G L xs k23 l1 (some a452) l3 l4 s458)
else (some (0, s458)))
else (f_L_law_b1466 G L xs k23 l1 (some a452) l3 l4 s458))
else (some (0, s458))) else
if (v2 &&& 31) = 27 then (zo (zrc s0 l1 0) fun a466 =>
zb (f_X1_restart G a466 s0) fun v467 s468 =>
zo (zrc s468 l2 6) fun a471 =>
zb (f_X8_restart G a471 s468) fun v472 s473 =>
if v467 = v472 then (f_L_law_b1509 G L xs k23 (some a466) (some a471) l3 l4 s473)
else (some (0, s473))) else
if (v2 &&& 31) = 28 then (zo (zrc s0 l1 0) fun a478 =>
zb (f_X1_undo G a478 s0) fun v479 s480 =>
zo (zrc s480 l2 6) fun a483 =>
zb (f_X8_undo G a483 s480) fun v484 s485 =>
if v479 = v484 then (f_L_law_b1509 G L xs k23 (some a478) (some a483) l3 l4 s485)
else (some (0, s485))) else
if (v2 &&& 31) = 29 then (zo (zrc s0 l1 0) fun a490 =>
zb (f_X1_checksum G a490 s0) fun v491 s492 =>
zo (zrc s492 l2 6) fun a495 =>
zb (f_X8_checksum G a495 s492) fun v496 s497 =>
if (lg_cmp v491 v496) = 0 then (f_L_law_b1509 G L xs k23 (some a490) (some a495) l3 l4 s497)
else (some (0, s497))) else
(f_L_law_b1509 G L xs k23 l1 l2 l3 l4 s0))
set_option maxHeartbeats 4000000 in
theorem w_L_law_b23 {X : zX} (L : Nat) (xs : Nat → Int32) (b : Nat) (hC : ZC X RX0 cL_law (some .boolean) 8192 104096) (hL : X.nL = 7) (hno : ∀ x ∈ X.c.exceptionTable.toList, False) {r : Int32} {sF : zS} (hQ : (r = 1 ∧ ∀ σ pc lv, decode cL_law pc = .ok (.ireturn, 1) → ZW X σ pc lv [zi 1]) ∧ va_X b L xs X.s X.s.heap ∧ b < X.g.1 0) (k23 : Option Nat → Option Nat → Option Nat → Int32 → zS → Option (Int32 × zS)) (hk23 : ∀ (l1 : Option Nat) (l2 : Option Nat) (l3 : Option Nat) (l4 : Int32) (s0 : zS), k23 l1 l2 l3 l4 s0 = some (r, sF) → ZW X s0 23 [(0, zr (some b)), (1, zr l1), (2, zr l2), (3, zr l3), (4, zi l4)] []) (l1 : Option Nat) (l2 : Option Nat) (l3 : Option Nat) (l4 : Int32) (s0 : zS) (hf : f_L_law_b23 X.g.1 L xs k23 l1 l2 l3 l4 s0 = some (r, sF)) : ZW X s0 23 [(0, zr (some b)), (1, zr l1), (2, zr l2), (3, zr l3), (4, zi l4)] [] := by
  unfold f_L_law_b23 at hf
  refine z_iload hC (pc := 23) dL_law_23 4 rfl ?_
  refine z_aload_n hC (pc := 25) dL_law_25 rfl 0 rfl ?_
  refine z_slen hC (pc := 26) hQ.2.1 hQ.2.2 dL_law_26 ?_
  refine z_bipush (v := 6) hC (pc := 27) dL_law_27 zkb_6 ?_
  refine z_isub hC (pc := 29) dL_law_29 ?_
  refine z_icmp_gt hC (pc := 30) (tgt := 1515) dL_law_30 rfl (fun c1 => ?_) (fun c1 => ?_)
  · have hf := zif_t hf c1
    refine z_iconst (v := 1) hC (pc := 1515) dL_law_1515 zki_1 ?_
    exact z_lawret hQ.1 dL_law_1516 hf
  · have hf := zif_f hf c1
    refine z_aload_n hC (pc := 33) dL_law_33 rfl 0 rfl ?_
    refine z_iload hC (pc := 34) dL_law_34 4 rfl ?_
    refine z_scr hC (pc := 36) hQ.2.1 hQ.2.2 dL_law_36 hf (fun v2 hf => ?_)
    refine z_bipush (v := 31) hC (pc := 37) dL_law_37 zkb_31 ?_
    refine z_iand hC (pc := 39) dL_law_39 ?_
    by_cases c3 : (v2 &&& 31) = 0
    · have hf := zif_t hf c3
      refine z_table hC (pc := 40) (tgt := 176) dL_law_40 c3 (by decide) (by decide) rfl rfl ?_
      refine z_aload_n hC (pc := 176) dL_law_176 rfl 1 rfl ?_
      refine z_aload_n hC (pc := 177) dL_law_177 rfl 0 rfl ?_
      refine z_iload hC (pc := 178) dL_law_178 4 rfl ?_
      refine z_iconst (v := 1) hC (pc := 180) dL_law_180 zki_1 ?_
      refine z_iadd hC (pc := 181) dL_law_181 ?_
      refine z_scr hC (pc := 182) hQ.2.1 hQ.2.2 dL_law_182 hf (fun v4 hf => ?_)
      refine z_aload_n hC (pc := 183) dL_law_183 rfl 0 rfl ?_
      refine z_iload hC (pc := 184) dL_law_184 4 rfl ?_
      refine z_iconst (v := 2) hC (pc := 186) dL_law_186 zki_2 ?_
      refine z_iadd hC (pc := 187) dL_law_187 ?_
      refine z_scr hC (pc := 188) hQ.2.1 hQ.2.2 dL_law_188 hf (fun v5 hf => ?_)
      refine z_aload_n hC (pc := 189) dL_law_189 rfl 0 rfl ?_
      refine z_iload hC (pc := 190) dL_law_190 4 rfl ?_
      refine z_iconst (v := 3) hC (pc := 192) dL_law_192 zki_3 ?_
      refine z_iadd hC (pc := 193) dL_law_193 ?_
      refine z_scr hC (pc := 194) hQ.2.1 hQ.2.2 dL_law_194 hf (fun v6 hf => ?_)
      refine z_aload_n hC (pc := 195) dL_law_195 rfl 0 rfl ?_
      refine z_iload hC (pc := 196) dL_law_196 4 rfl ?_
      refine z_iconst (v := 4) hC (pc := 198) dL_law_198 zki_4 ?_
      refine z_iadd hC (pc := 199) dL_law_199 ?_
      refine z_scr hC (pc := 200) hQ.2.1 hQ.2.2 dL_law_200 hf (fun v7 hf => ?_)
      refine z_aload_n hC (pc := 201) dL_law_201 rfl 0 rfl ?_
      refine z_iload hC (pc := 202) dL_law_202 4 rfl ?_
      refine z_iconst (v := 5) hC (pc := 204) dL_law_204 zki_5 ?_
      refine z_iadd hC (pc := 205) dL_law_205 ?_
      refine z_scr hC (pc := 206) hQ.2.1 hQ.2.2 dL_law_206 hf (fun v8 hf => ?_)
      obtain ⟨a11, fs9, rfl, ha10, hf⟩ := z_rcO hf
      refine z_cI (rest := []) hf (fun v12 s13 hcall => z_runV hC (pc := 207) zcX1 5 ha10 (m_X1_append X.g a11 v4 v5 v6 v7 v8 s0 s13 v12 hcall) (lw_V q410 q411 q412 q95 q413) hdV_X1_append ⟨(Nat.le_of_ble_eq_true rfl), (Nat.le_of_ble_eq_true rfl)⟩ rfl (Nat.le_of_ble_eq_true rfl) dL_law_207 rfl) (fun v12 s13 hf => ?_)
      refine z_aload_n hC (pc := 210) dL_law_210 rfl 2 rfl ?_
      refine z_aload_n hC (pc := 211) dL_law_211 rfl 0 rfl ?_
      refine z_iload hC (pc := 212) dL_law_212 4 rfl ?_
      refine z_iconst (v := 1) hC (pc := 214) dL_law_214 zki_1 ?_
      refine z_iadd hC (pc := 215) dL_law_215 ?_
      refine z_scr hC (pc := 216) hQ.2.1 hQ.2.2 dL_law_216 hf (fun v14 hf => ?_)
      refine z_aload_n hC (pc := 217) dL_law_217 rfl 0 rfl ?_
      refine z_iload hC (pc := 218) dL_law_218 4 rfl ?_
      refine z_iconst (v := 2) hC (pc := 220) dL_law_220 zki_2 ?_
      refine z_iadd hC (pc := 221) dL_law_221 ?_
      refine z_scr hC (pc := 222) hQ.2.1 hQ.2.2 dL_law_222 hf (fun v15 hf => ?_)
      refine z_aload_n hC (pc := 223) dL_law_223 rfl 0 rfl ?_
      refine z_iload hC (pc := 224) dL_law_224 4 rfl ?_
      refine z_iconst (v := 3) hC (pc := 226) dL_law_226 zki_3 ?_
      refine z_iadd hC (pc := 227) dL_law_227 ?_
      refine z_scr hC (pc := 228) hQ.2.1 hQ.2.2 dL_law_228 hf (fun v16 hf => ?_)
      refine z_aload_n hC (pc := 229) dL_law_229 rfl 0 rfl ?_
      refine z_iload hC (pc := 230) dL_law_230 4 rfl ?_
      refine z_iconst (v := 4) hC (pc := 232) dL_law_232 zki_4 ?_
      refine z_iadd hC (pc := 233) dL_law_233 ?_
      refine z_scr hC (pc := 234) hQ.2.1 hQ.2.2 dL_law_234 hf (fun v17 hf => ?_)
      refine z_aload_n hC (pc := 235) dL_law_235 rfl 0 rfl ?_
      refine z_iload hC (pc := 236) dL_law_236 4 rfl ?_
      refine z_iconst (v := 5) hC (pc := 238) dL_law_238 zki_5 ?_
      refine z_iadd hC (pc := 239) dL_law_239 ?_
      refine z_scr hC (pc := 240) hQ.2.1 hQ.2.2 dL_law_240 hf (fun v18 hf => ?_)
      obtain ⟨a21, fs19, rfl, ha20, hf⟩ := z_rcO hf
      refine z_cI (rest := [zi v12]) hf (fun v22 s23 hcall => z_runV hC (pc := 241) zcX8 5 ha20 (m_X8_append X.g a21 v14 v15 v16 v17 v18 s13 s23 v22 hcall) (lw_V q2754 q2755 q2756 q108 q2757) hdV_X8_append ⟨(Nat.le_of_ble_eq_true rfl), (Nat.le_of_ble_eq_true rfl)⟩ rfl (Nat.le_of_ble_eq_true rfl) dL_law_241 rfl) (fun v22 s23 hf => ?_)
      refine z_icmp_eq hC (pc := 244) (tgt := 1509) dL_law_244 rfl (fun c24 => ?_) (fun c24 => ?_)
      · have hf := zif_t hf c24
        exact w_L_law_b1509 L xs b hC hL hno hQ k23 hk23 (some a11) (some a21) l3 l4 s23 hf
      · have hf := zif_f hf c24
        refine z_iconst (v := 0) hC (pc := 247) dL_law_247 zki_0 ?_
        exact z_lawret hQ.1 dL_law_248 hf
    · have hf := zif_f hf c3
      by_cases c25 : (v2 &&& 31) = 1
      · have hf := zif_t hf c25
        refine z_table hC (pc := 40) (tgt := 249) dL_law_40 c25 (by decide) (by decide) rfl rfl ?_
        refine z_aload_n hC (pc := 249) dL_law_249 rfl 1 rfl ?_
        refine z_aload_n hC (pc := 250) dL_law_250 rfl 0 rfl ?_
        refine z_iload hC (pc := 251) dL_law_251 4 rfl ?_
        refine z_iconst (v := 1) hC (pc := 253) dL_law_253 zki_1 ?_
        refine z_iadd hC (pc := 254) dL_law_254 ?_
        refine z_scr hC (pc := 255) hQ.2.1 hQ.2.2 dL_law_255 hf (fun v26 hf => ?_)
        refine z_aload_n hC (pc := 256) dL_law_256 rfl 3 rfl ?_
        refine z_cI (rest := []) hf (fun v27 s28 hcall => z_runSX hC (pc := 257) 3 (m_X0_load X.g l1 v26 l3 s0 s28 v27 hcall) (lw_SW q2004 q2005 q94 q2006) hd_X0_load ⟨(Nat.le_of_ble_eq_true rfl), (Nat.le_of_ble_eq_true rfl)⟩ rfl (Nat.le_of_ble_eq_true rfl) dL_law_257 rfl) (fun v27 s28 hf => ?_)
        refine z_istore (lv' := [(5, zi v27), (0, zr (some b)), (1, zr l1), (2, zr l2), (3, zr l3), (4, zi l4)]) hC (pc := 260) hL dL_law_260 (Nat.le_of_ble_eq_true rfl) rfl ?_
        refine z_aload_n hC (pc := 262) dL_law_262 rfl 3 rfl ?_
        refine z_aload_n hC (pc := 263) dL_law_263 rfl 1 rfl ?_
        refine z_iload hC (pc := 264) dL_law_264 5 rfl ?_
        refine z_iconst (v := 1) hC (pc := 266) dL_law_266 zki_1 ?_
        refine z_iadd hC (pc := 267) dL_law_267 ?_
        refine z_scr hC (pc := 268) hQ.2.1 hQ.2.2 dL_law_268 hf (fun v29 hf => ?_)
        obtain ⟨a32, fs30, rfl, ha31, hf⟩ := z_rcO hf
        refine z_cI (rest := []) hf (fun v33 s34 hcall => z_runV hC (pc := 269) zcX8 1 ha31 (m_X8_load X.g a32 v29 s28 s34 v33 hcall) (lw_V q2758 q2759 q2760 q108 q2761) hdV_X8_load ⟨(Nat.le_of_ble_eq_true rfl), (Nat.le_of_ble_eq_true rfl)⟩ rfl (Nat.le_of_ble_eq_true rfl) dL_law_269 rfl) (fun v33 s34 hf => ?_)
        refine z_istore (lv' := [(6, zi v33), (5, zi v27), (0, zr (some b)), (1, zr l1), (2, zr (some a32)), (3, zr l3), (4, zi l4)]) hC (pc := 272) hL dL_law_272 (Nat.le_of_ble_eq_true rfl) rfl ?_
        refine z_aload_n hC (pc := 274) dL_law_274 rfl 4 rfl ?_
        obtain ⟨fs35, ha36, hf⟩ := z_rcN hf
        refine z_cI (rest := []) hf (fun v37 s38 hcall => z_runV hC (pc := 275) zcX8 0 ha36 (m_X8_thrown X.g a32 s34 s38 v37 hcall) (lw_V q2750 q2751 q2752 q108 q2753) hdV_X8_thrown ⟨(Nat.le_of_ble_eq_true rfl), (Nat.le_of_ble_eq_true rfl)⟩ rfl (Nat.le_of_ble_eq_true rfl) dL_law_275 rfl) (fun v37 s38 hf => ?_)
        refine z_iload hC (pc := 278) dL_law_278 1 rfl ?_
        refine z_icmp_eq hC (pc := 280) (tgt := 285) dL_law_280 rfl (fun c39 => ?_) (fun c39 => ?_)
        · have hf := zif_t hf c39
          refine z_iload hC (pc := 285) dL_law_285 1 rfl ?_
          refine z_if_ne hC (pc := 287) (tgt := 302) dL_law_287 rfl (fun c40 => ?_) (fun c40 => ?_)
          · have hf := zif_f hf c40
            refine ZW.perm (lv' := [(0, zr (some b)), (1, zr l1), (2, zr (some a32)), (3, zr l3), (4, zi l4)]) [2, 3, 4, 5, 6] rfl ?_
            exact w_L_law_b302 L xs b hC hL hno hQ k23 hk23 l1 (some a32) l3 l4 s38 hf
          · have hf := zif_t hf c40
            refine z_aload_n hC (pc := 290) dL_law_290 rfl 5 rfl ?_
            refine z_iconst (v := 0) hC (pc := 291) dL_law_291 zki_0 ?_
            refine z_lald hC (pc := 292) dL_law_292 hf (fun v41 hf => ?_)
            refine z_iload hC (pc := 293) dL_law_293 0 rfl ?_
            refine z_i2l hC (pc := 295) dL_law_295 ?_
            refine z_lcmp hC (pc := 296) dL_law_296 ?_
            refine z_if_eq hC (pc := 297) (tgt := 302) dL_law_297 rfl (fun c42 => ?_) (fun c42 => ?_)
            · have hf := zif_t hf c42
              refine ZW.perm (lv' := [(0, zr (some b)), (1, zr l1), (2, zr (some a32)), (3, zr l3), (4, zi l4)]) [2, 3, 4, 5, 6] rfl ?_
              exact w_L_law_b302 L xs b hC hL hno hQ k23 hk23 l1 (some a32) l3 l4 s38 hf
            · have hf := zif_f hf c42
              refine z_iconst (v := 0) hC (pc := 300) dL_law_300 zki_0 ?_
              exact z_lawret hQ.1 dL_law_301 hf
        · have hf := zif_f hf c39
          refine z_iconst (v := 0) hC (pc := 283) dL_law_283 zki_0 ?_
          exact z_lawret hQ.1 dL_law_284 hf
      · have hf := zif_f hf c25
        by_cases c43 : (v2 &&& 31) = 2
        · have hf := zif_t hf c43
          refine z_table hC (pc := 40) (tgt := 305) dL_law_40 c43 (by decide) (by decide) rfl rfl ?_
          refine z_aload_n hC (pc := 305) dL_law_305 rfl 1 rfl ?_
          obtain ⟨a46, fs44, rfl, ha45, hf⟩ := z_rcO hf
          refine z_cI (rest := []) hf (fun v47 s48 hcall => z_runV hC (pc := 306) zcX1 0 ha45 (m_X1_errorOffset X.g a46 s0 s48 v47 hcall) (lw_V q418 q419 q420 q95 q421) hdV_X1_errorOffset ⟨(Nat.le_of_ble_eq_true rfl), (Nat.le_of_ble_eq_true rfl)⟩ rfl (Nat.le_of_ble_eq_true rfl) dL_law_306 rfl) (fun v47 s48 hf => ?_)
          refine z_aload_n hC (pc := 309) dL_law_309 rfl 2 rfl ?_
          obtain ⟨a51, fs49, rfl, ha50, hf⟩ := z_rcO hf
          refine z_cI (rest := [zi v47]) hf (fun v52 s53 hcall => z_runV hC (pc := 310) zcX8 0 ha50 (m_X8_errorOffset X.g a51 s48 s53 v52 hcall) (lw_V q2881 q2882 q2883 q108 q2884) hdV_X8_errorOffset ⟨(Nat.le_of_ble_eq_true rfl), (Nat.le_of_ble_eq_true rfl)⟩ rfl (Nat.le_of_ble_eq_true rfl) dL_law_310 rfl) (fun v52 s53 hf => ?_)
          refine z_icmp_eq hC (pc := 313) (tgt := 1509) dL_law_313 rfl (fun c54 => ?_) (fun c54 => ?_)
          · have hf := zif_t hf c54
            exact w_L_law_b1509 L xs b hC hL hno hQ k23 hk23 (some a46) (some a51) l3 l4 s53 hf
          · have hf := zif_f hf c54
            refine z_iconst (v := 0) hC (pc := 316) dL_law_316 zki_0 ?_
            exact z_lawret hQ.1 dL_law_317 hf
        · have hf := zif_f hf c43
          by_cases c55 : (v2 &&& 31) = 3
          · have hf := zif_t hf c55
            refine z_table hC (pc := 40) (tgt := 318) dL_law_40 c55 (by decide) (by decide) rfl rfl ?_
            refine z_aload_n hC (pc := 318) dL_law_318 rfl 1 rfl ?_
            obtain ⟨a58, fs56, rfl, ha57, hf⟩ := z_rcO hf
            refine z_cI (rest := []) hf (fun v59 s60 hcall => z_runV hC (pc := 319) zcX1 0 ha57 (m_X1_machineCount X.g a58 s0 s60 v59 hcall) (lw_V q422 q423 q424 q95 q425) hdV_X1_machineCount ⟨(Nat.le_of_ble_eq_true rfl), (Nat.le_of_ble_eq_true rfl)⟩ rfl (Nat.le_of_ble_eq_true rfl) dL_law_319 rfl) (fun v59 s60 hf => ?_)
            refine z_aload_n hC (pc := 322) dL_law_322 rfl 2 rfl ?_
            obtain ⟨a63, fs61, rfl, ha62, hf⟩ := z_rcO hf
            refine z_cI (rest := [zi v59]) hf (fun v64 s65 hcall => z_runV hC (pc := 323) zcX8 0 ha62 (m_X8_machineCount X.g a63 s60 s65 v64 hcall) (lw_V q2885 q2886 q2887 q108 q2888) hdV_X8_machineCount ⟨(Nat.le_of_ble_eq_true rfl), (Nat.le_of_ble_eq_true rfl)⟩ rfl (Nat.le_of_ble_eq_true rfl) dL_law_323 rfl) (fun v64 s65 hf => ?_)
            refine z_icmp_eq hC (pc := 326) (tgt := 1509) dL_law_326 rfl (fun c66 => ?_) (fun c66 => ?_)
            · have hf := zif_t hf c66
              exact w_L_law_b1509 L xs b hC hL hno hQ k23 hk23 (some a58) (some a63) l3 l4 s65 hf
            · have hf := zif_f hf c66
              refine z_iconst (v := 0) hC (pc := 329) dL_law_329 zki_0 ?_
              exact z_lawret hQ.1 dL_law_330 hf
          · have hf := zif_f hf c55
            by_cases c67 : (v2 &&& 31) = 4
            · have hf := zif_t hf c67
              refine z_table hC (pc := 40) (tgt := 331) dL_law_40 c67 (by decide) (by decide) rfl rfl ?_
              refine z_aload_n hC (pc := 331) dL_law_331 rfl 1 rfl ?_
              obtain ⟨a70, fs68, rfl, ha69, hf⟩ := z_rcO hf
              refine z_cI (rest := []) hf (fun v71 s72 hcall => z_runV hC (pc := 332) zcX1 0 ha69 (m_X1_jobCount X.g a70 s0 s72 v71 hcall) (lw_V q426 q427 q428 q95 q429) hdV_X1_jobCount ⟨(Nat.le_of_ble_eq_true rfl), (Nat.le_of_ble_eq_true rfl)⟩ rfl (Nat.le_of_ble_eq_true rfl) dL_law_332 rfl) (fun v71 s72 hf => ?_)
              refine z_aload_n hC (pc := 335) dL_law_335 rfl 2 rfl ?_
              obtain ⟨a75, fs73, rfl, ha74, hf⟩ := z_rcO hf
              refine z_cI (rest := [zi v71]) hf (fun v76 s77 hcall => z_runV hC (pc := 336) zcX8 0 ha74 (m_X8_jobCount X.g a75 s72 s77 v76 hcall) (lw_V q2889 q2890 q2891 q108 q2892) hdV_X8_jobCount ⟨(Nat.le_of_ble_eq_true rfl), (Nat.le_of_ble_eq_true rfl)⟩ rfl (Nat.le_of_ble_eq_true rfl) dL_law_336 rfl) (fun v76 s77 hf => ?_)
              refine z_icmp_eq hC (pc := 339) (tgt := 1509) dL_law_339 rfl (fun c78 => ?_) (fun c78 => ?_)
              · have hf := zif_t hf c78
                exact w_L_law_b1509 L xs b hC hL hno hQ k23 hk23 (some a70) (some a75) l3 l4 s77 hf
              · have hf := zif_f hf c78
                refine z_iconst (v := 0) hC (pc := 342) dL_law_342 zki_0 ?_
                exact z_lawret hQ.1 dL_law_343 hf
            · have hf := zif_f hf c67
              by_cases c79 : (v2 &&& 31) = 5
              · have hf := zif_t hf c79
                refine z_table hC (pc := 40) (tgt := 344) dL_law_40 c79 (by decide) (by decide) rfl rfl ?_
                refine z_aload_n hC (pc := 344) dL_law_344 rfl 1 rfl ?_
                refine z_aload_n hC (pc := 345) dL_law_345 rfl 0 rfl ?_
                refine z_iload hC (pc := 346) dL_law_346 4 rfl ?_
                refine z_iconst (v := 1) hC (pc := 348) dL_law_348 zki_1 ?_
                refine z_iadd hC (pc := 349) dL_law_349 ?_
                refine z_scr hC (pc := 350) hQ.2.1 hQ.2.2 dL_law_350 hf (fun v80 hf => ?_)
                refine z_aload_n hC (pc := 351) dL_law_351 rfl 3 rfl ?_
                refine z_cI (rest := []) hf (fun v81 s82 hcall => z_runSX hC (pc := 352) 3 (m_X0_operationCount X.g l1 v80 l3 s0 s82 v81 hcall) (lw_SW q2477 q2478 q94 q2479) hd_X0_operationCount ⟨(Nat.le_of_ble_eq_true rfl), (Nat.le_of_ble_eq_true rfl)⟩ rfl (Nat.le_of_ble_eq_true rfl) dL_law_352 rfl) (fun v81 s82 hf => ?_)
                refine z_istore (lv' := [(5, zi v81), (0, zr (some b)), (1, zr l1), (2, zr l2), (3, zr l3), (4, zi l4)]) hC (pc := 355) hL dL_law_355 (Nat.le_of_ble_eq_true rfl) rfl ?_
                refine z_aload_n hC (pc := 357) dL_law_357 rfl 3 rfl ?_
                refine z_aload_n hC (pc := 358) dL_law_358 rfl 1 rfl ?_
                refine z_iload hC (pc := 359) dL_law_359 5 rfl ?_
                refine z_iconst (v := 1) hC (pc := 361) dL_law_361 zki_1 ?_
                refine z_iadd hC (pc := 362) dL_law_362 ?_
                refine z_scr hC (pc := 363) hQ.2.1 hQ.2.2 dL_law_363 hf (fun v83 hf => ?_)
                obtain ⟨a86, fs84, rfl, ha85, hf⟩ := z_rcO hf
                refine z_cI (rest := []) hf (fun v87 s88 hcall => z_runV hC (pc := 364) zcX8 1 ha85 (m_X8_operationCount X.g a86 v83 s82 s88 v87 hcall) (lw_V q2893 q2894 q2895 q108 q2896) hdV_X8_operationCount ⟨(Nat.le_of_ble_eq_true rfl), (Nat.le_of_ble_eq_true rfl)⟩ rfl (Nat.le_of_ble_eq_true rfl) dL_law_364 rfl) (fun v87 s88 hf => ?_)
                refine z_istore (lv' := [(6, zi v87), (5, zi v81), (0, zr (some b)), (1, zr l1), (2, zr (some a86)), (3, zr l3), (4, zi l4)]) hC (pc := 367) hL dL_law_367 (Nat.le_of_ble_eq_true rfl) rfl ?_
                refine z_aload_n hC (pc := 369) dL_law_369 rfl 4 rfl ?_
                obtain ⟨fs89, ha90, hf⟩ := z_rcN hf
                refine z_cI (rest := []) hf (fun v91 s92 hcall => z_runV hC (pc := 370) zcX8 0 ha90 (m_X8_thrown X.g a86 s88 s92 v91 hcall) (lw_V q2750 q2751 q2752 q108 q2753) hdV_X8_thrown ⟨(Nat.le_of_ble_eq_true rfl), (Nat.le_of_ble_eq_true rfl)⟩ rfl (Nat.le_of_ble_eq_true rfl) dL_law_370 rfl) (fun v91 s92 hf => ?_)
                refine z_iload hC (pc := 373) dL_law_373 1 rfl ?_
                refine z_icmp_eq hC (pc := 375) (tgt := 380) dL_law_375 rfl (fun c93 => ?_) (fun c93 => ?_)
                · have hf := zif_t hf c93
                  refine z_iload hC (pc := 380) dL_law_380 1 rfl ?_
                  refine z_if_ne hC (pc := 382) (tgt := 397) dL_law_382 rfl (fun c94 => ?_) (fun c94 => ?_)
                  · have hf := zif_f hf c94
                    refine ZW.perm (lv' := [(0, zr (some b)), (1, zr l1), (2, zr (some a86)), (3, zr l3), (4, zi l4)]) [2, 3, 4, 5, 6] rfl ?_
                    exact w_L_law_b397 L xs b hC hL hno hQ k23 hk23 l1 (some a86) l3 l4 s92 hf
                  · have hf := zif_t hf c94
                    refine z_aload_n hC (pc := 385) dL_law_385 rfl 5 rfl ?_
                    refine z_iconst (v := 0) hC (pc := 386) dL_law_386 zki_0 ?_
                    refine z_lald hC (pc := 387) dL_law_387 hf (fun v95 hf => ?_)
                    refine z_iload hC (pc := 388) dL_law_388 0 rfl ?_
                    refine z_i2l hC (pc := 390) dL_law_390 ?_
                    refine z_lcmp hC (pc := 391) dL_law_391 ?_
                    refine z_if_eq hC (pc := 392) (tgt := 397) dL_law_392 rfl (fun c96 => ?_) (fun c96 => ?_)
                    · have hf := zif_t hf c96
                      refine ZW.perm (lv' := [(0, zr (some b)), (1, zr l1), (2, zr (some a86)), (3, zr l3), (4, zi l4)]) [2, 3, 4, 5, 6] rfl ?_
                      exact w_L_law_b397 L xs b hC hL hno hQ k23 hk23 l1 (some a86) l3 l4 s92 hf
                    · have hf := zif_f hf c96
                      refine z_iconst (v := 0) hC (pc := 395) dL_law_395 zki_0 ?_
                      exact z_lawret hQ.1 dL_law_396 hf
                · have hf := zif_f hf c93
                  refine z_iconst (v := 0) hC (pc := 378) dL_law_378 zki_0 ?_
                  exact z_lawret hQ.1 dL_law_379 hf
              · have hf := zif_f hf c79
                by_cases c97 : (v2 &&& 31) = 6
                · have hf := zif_t hf c97
                  refine z_table hC (pc := 40) (tgt := 400) dL_law_40 c97 (by decide) (by decide) rfl rfl ?_
                  refine z_aload_n hC (pc := 400) dL_law_400 rfl 1 rfl ?_
                  refine z_aload_n hC (pc := 401) dL_law_401 rfl 0 rfl ?_
                  refine z_iload hC (pc := 402) dL_law_402 4 rfl ?_
                  refine z_iconst (v := 1) hC (pc := 404) dL_law_404 zki_1 ?_
                  refine z_iadd hC (pc := 405) dL_law_405 ?_
                  refine z_scr hC (pc := 406) hQ.2.1 hQ.2.2 dL_law_406 hf (fun v98 hf => ?_)
                  refine z_aload_n hC (pc := 407) dL_law_407 rfl 0 rfl ?_
                  refine z_iload hC (pc := 408) dL_law_408 4 rfl ?_
                  refine z_iconst (v := 2) hC (pc := 410) dL_law_410 zki_2 ?_
                  refine z_iadd hC (pc := 411) dL_law_411 ?_
                  refine z_scr hC (pc := 412) hQ.2.1 hQ.2.2 dL_law_412 hf (fun v99 hf => ?_)
                  refine z_aload_n hC (pc := 413) dL_law_413 rfl 0 rfl ?_
                  refine z_iload hC (pc := 414) dL_law_414 4 rfl ?_
                  refine z_iconst (v := 3) hC (pc := 416) dL_law_416 zki_3 ?_
                  refine z_iadd hC (pc := 417) dL_law_417 ?_
                  refine z_scr hC (pc := 418) hQ.2.1 hQ.2.2 dL_law_418 hf (fun v100 hf => ?_)
                  refine z_aload_n hC (pc := 419) dL_law_419 rfl 3 rfl ?_
                  refine z_cI (rest := []) hf (fun v101 s102 hcall => z_runSX hC (pc := 420) 5 (m_X0_operation X.g l1 v98 v99 v100 l3 s0 s102 v101 hcall) (lw_SW q2515 q2516 q94 q2517) hd_X0_operation ⟨(Nat.le_of_ble_eq_true rfl), (Nat.le_of_ble_eq_true rfl)⟩ rfl (Nat.le_of_ble_eq_true rfl) dL_law_420 rfl) (fun v101 s102 hf => ?_)
                  refine z_istore (lv' := [(5, zi v101), (0, zr (some b)), (1, zr l1), (2, zr l2), (3, zr l3), (4, zi l4)]) hC (pc := 423) hL dL_law_423 (Nat.le_of_ble_eq_true rfl) rfl ?_
                  refine z_aload_n hC (pc := 425) dL_law_425 rfl 3 rfl ?_
                  refine z_aload_n hC (pc := 426) dL_law_426 rfl 1 rfl ?_
                  refine z_iload hC (pc := 427) dL_law_427 5 rfl ?_
                  refine z_iconst (v := 1) hC (pc := 429) dL_law_429 zki_1 ?_
                  refine z_iadd hC (pc := 430) dL_law_430 ?_
                  refine z_scr hC (pc := 431) hQ.2.1 hQ.2.2 dL_law_431 hf (fun v103 hf => ?_)
                  refine z_aload_n hC (pc := 432) dL_law_432 rfl 1 rfl ?_
                  refine z_iload hC (pc := 433) dL_law_433 5 rfl ?_
                  refine z_iconst (v := 2) hC (pc := 435) dL_law_435 zki_2 ?_
                  refine z_iadd hC (pc := 436) dL_law_436 ?_
                  refine z_scr hC (pc := 437) hQ.2.1 hQ.2.2 dL_law_437 hf (fun v104 hf => ?_)
                  refine z_aload_n hC (pc := 438) dL_law_438 rfl 1 rfl ?_
                  refine z_iload hC (pc := 439) dL_law_439 5 rfl ?_
                  refine z_iconst (v := 3) hC (pc := 441) dL_law_441 zki_3 ?_
                  refine z_iadd hC (pc := 442) dL_law_442 ?_
                  refine z_scr hC (pc := 443) hQ.2.1 hQ.2.2 dL_law_443 hf (fun v105 hf => ?_)
                  obtain ⟨a108, fs106, rfl, ha107, hf⟩ := z_rcO hf
                  refine z_cI (rest := []) hf (fun v109 s110 hcall => z_runV hC (pc := 444) zcX8 3 ha107 (m_X8_operation X.g a108 v103 v104 v105 s102 s110 v109 hcall) (lw_V q2901 q2902 q2903 q108 q2904) hdV_X8_operation ⟨(Nat.le_of_ble_eq_true rfl), (Nat.le_of_ble_eq_true rfl)⟩ rfl (Nat.le_of_ble_eq_true rfl) dL_law_444 rfl) (fun v109 s110 hf => ?_)
                  refine z_istore (lv' := [(6, zi v109), (5, zi v101), (0, zr (some b)), (1, zr l1), (2, zr (some a108)), (3, zr l3), (4, zi l4)]) hC (pc := 447) hL dL_law_447 (Nat.le_of_ble_eq_true rfl) rfl ?_
                  refine z_aload_n hC (pc := 449) dL_law_449 rfl 4 rfl ?_
                  obtain ⟨fs111, ha112, hf⟩ := z_rcN hf
                  refine z_cI (rest := []) hf (fun v113 s114 hcall => z_runV hC (pc := 450) zcX8 0 ha112 (m_X8_thrown X.g a108 s110 s114 v113 hcall) (lw_V q2750 q2751 q2752 q108 q2753) hdV_X8_thrown ⟨(Nat.le_of_ble_eq_true rfl), (Nat.le_of_ble_eq_true rfl)⟩ rfl (Nat.le_of_ble_eq_true rfl) dL_law_450 rfl) (fun v113 s114 hf => ?_)
                  refine z_iload hC (pc := 453) dL_law_453 1 rfl ?_
                  refine z_icmp_eq hC (pc := 455) (tgt := 460) dL_law_455 rfl (fun c115 => ?_) (fun c115 => ?_)
                  · have hf := zif_t hf c115
                    refine z_iload hC (pc := 460) dL_law_460 1 rfl ?_
                    refine z_if_ne hC (pc := 462) (tgt := 477) dL_law_462 rfl (fun c116 => ?_) (fun c116 => ?_)
                    · have hf := zif_f hf c116
                      refine ZW.perm (lv' := [(0, zr (some b)), (1, zr l1), (2, zr (some a108)), (3, zr l3), (4, zi l4)]) [2, 3, 4, 5, 6] rfl ?_
                      exact w_L_law_b477 L xs b hC hL hno hQ k23 hk23 l1 (some a108) l3 l4 s114 hf
                    · have hf := zif_t hf c116
                      refine z_aload_n hC (pc := 465) dL_law_465 rfl 5 rfl ?_
                      refine z_iconst (v := 0) hC (pc := 466) dL_law_466 zki_0 ?_
                      refine z_lald hC (pc := 467) dL_law_467 hf (fun v117 hf => ?_)
                      refine z_iload hC (pc := 468) dL_law_468 0 rfl ?_
                      refine z_i2l hC (pc := 470) dL_law_470 ?_
                      refine z_lcmp hC (pc := 471) dL_law_471 ?_
                      refine z_if_eq hC (pc := 472) (tgt := 477) dL_law_472 rfl (fun c118 => ?_) (fun c118 => ?_)
                      · have hf := zif_t hf c118
                        refine ZW.perm (lv' := [(0, zr (some b)), (1, zr l1), (2, zr (some a108)), (3, zr l3), (4, zi l4)]) [2, 3, 4, 5, 6] rfl ?_
                        exact w_L_law_b477 L xs b hC hL hno hQ k23 hk23 l1 (some a108) l3 l4 s114 hf
                      · have hf := zif_f hf c118
                        refine z_iconst (v := 0) hC (pc := 475) dL_law_475 zki_0 ?_
                        exact z_lawret hQ.1 dL_law_476 hf
                  · have hf := zif_f hf c115
                    refine z_iconst (v := 0) hC (pc := 458) dL_law_458 zki_0 ?_
                    exact z_lawret hQ.1 dL_law_459 hf
                · have hf := zif_f hf c97
                  by_cases c119 : (v2 &&& 31) = 7
                  · have hf := zif_t hf c119
                    refine z_table hC (pc := 40) (tgt := 480) dL_law_40 c119 (by decide) (by decide) rfl rfl ?_
                    refine z_aload_n hC (pc := 480) dL_law_480 rfl 1 rfl ?_
                    refine z_aload_n hC (pc := 481) dL_law_481 rfl 0 rfl ?_
                    refine z_iload hC (pc := 482) dL_law_482 4 rfl ?_
                    refine z_iconst (v := 1) hC (pc := 484) dL_law_484 zki_1 ?_
                    refine z_iadd hC (pc := 485) dL_law_485 ?_
                    refine z_scr hC (pc := 486) hQ.2.1 hQ.2.2 dL_law_486 hf (fun v120 hf => ?_)
                    refine z_aload_n hC (pc := 487) dL_law_487 rfl 3 rfl ?_
                    refine z_cI (rest := []) hf (fun v121 s122 hcall => z_runSX hC (pc := 488) 3 (m_X0_orderLength X.g l1 v120 l3 s0 s122 v121 hcall) (lw_SW q2528 q2529 q94 q2530) hd_X0_orderLength ⟨(Nat.le_of_ble_eq_true rfl), (Nat.le_of_ble_eq_true rfl)⟩ rfl (Nat.le_of_ble_eq_true rfl) dL_law_488 rfl) (fun v121 s122 hf => ?_)
                    refine z_istore (lv' := [(5, zi v121), (0, zr (some b)), (1, zr l1), (2, zr l2), (3, zr l3), (4, zi l4)]) hC (pc := 491) hL dL_law_491 (Nat.le_of_ble_eq_true rfl) rfl ?_
                    refine z_aload_n hC (pc := 493) dL_law_493 rfl 3 rfl ?_
                    refine z_aload_n hC (pc := 494) dL_law_494 rfl 1 rfl ?_
                    refine z_iload hC (pc := 495) dL_law_495 5 rfl ?_
                    refine z_iconst (v := 1) hC (pc := 497) dL_law_497 zki_1 ?_
                    refine z_iadd hC (pc := 498) dL_law_498 ?_
                    refine z_scr hC (pc := 499) hQ.2.1 hQ.2.2 dL_law_499 hf (fun v123 hf => ?_)
                    obtain ⟨a126, fs124, rfl, ha125, hf⟩ := z_rcO hf
                    refine z_cI (rest := []) hf (fun v127 s128 hcall => z_runV hC (pc := 500) zcX8 1 ha125 (m_X8_orderLength X.g a126 v123 s122 s128 v127 hcall) (lw_V q2917 q2918 q2919 q108 q2920) hdV_X8_orderLength ⟨(Nat.le_of_ble_eq_true rfl), (Nat.le_of_ble_eq_true rfl)⟩ rfl (Nat.le_of_ble_eq_true rfl) dL_law_500 rfl) (fun v127 s128 hf => ?_)
                    refine z_istore (lv' := [(6, zi v127), (5, zi v121), (0, zr (some b)), (1, zr l1), (2, zr (some a126)), (3, zr l3), (4, zi l4)]) hC (pc := 503) hL dL_law_503 (Nat.le_of_ble_eq_true rfl) rfl ?_
                    refine z_aload_n hC (pc := 505) dL_law_505 rfl 4 rfl ?_
                    obtain ⟨fs129, ha130, hf⟩ := z_rcN hf
                    refine z_cI (rest := []) hf (fun v131 s132 hcall => z_runV hC (pc := 506) zcX8 0 ha130 (m_X8_thrown X.g a126 s128 s132 v131 hcall) (lw_V q2750 q2751 q2752 q108 q2753) hdV_X8_thrown ⟨(Nat.le_of_ble_eq_true rfl), (Nat.le_of_ble_eq_true rfl)⟩ rfl (Nat.le_of_ble_eq_true rfl) dL_law_506 rfl) (fun v131 s132 hf => ?_)
                    refine z_iload hC (pc := 509) dL_law_509 1 rfl ?_
                    refine z_icmp_eq hC (pc := 511) (tgt := 516) dL_law_511 rfl (fun c133 => ?_) (fun c133 => ?_)
                    · have hf := zif_t hf c133
                      refine z_iload hC (pc := 516) dL_law_516 1 rfl ?_
                      refine z_if_ne hC (pc := 518) (tgt := 533) dL_law_518 rfl (fun c134 => ?_) (fun c134 => ?_)
                      · have hf := zif_f hf c134
                        refine ZW.perm (lv' := [(0, zr (some b)), (1, zr l1), (2, zr (some a126)), (3, zr l3), (4, zi l4)]) [2, 3, 4, 5, 6] rfl ?_
                        exact w_L_law_b533 L xs b hC hL hno hQ k23 hk23 l1 (some a126) l3 l4 s132 hf
                      · have hf := zif_t hf c134
                        refine z_aload_n hC (pc := 521) dL_law_521 rfl 5 rfl ?_
                        refine z_iconst (v := 0) hC (pc := 522) dL_law_522 zki_0 ?_
                        refine z_lald hC (pc := 523) dL_law_523 hf (fun v135 hf => ?_)
                        refine z_iload hC (pc := 524) dL_law_524 0 rfl ?_
                        refine z_i2l hC (pc := 526) dL_law_526 ?_
                        refine z_lcmp hC (pc := 527) dL_law_527 ?_
                        refine z_if_eq hC (pc := 528) (tgt := 533) dL_law_528 rfl (fun c136 => ?_) (fun c136 => ?_)
                        · have hf := zif_t hf c136
                          refine ZW.perm (lv' := [(0, zr (some b)), (1, zr l1), (2, zr (some a126)), (3, zr l3), (4, zi l4)]) [2, 3, 4, 5, 6] rfl ?_
                          exact w_L_law_b533 L xs b hC hL hno hQ k23 hk23 l1 (some a126) l3 l4 s132 hf
                        · have hf := zif_f hf c136
                          refine z_iconst (v := 0) hC (pc := 531) dL_law_531 zki_0 ?_
                          exact z_lawret hQ.1 dL_law_532 hf
                    · have hf := zif_f hf c133
                      refine z_iconst (v := 0) hC (pc := 514) dL_law_514 zki_0 ?_
                      exact z_lawret hQ.1 dL_law_515 hf
                  · have hf := zif_f hf c119
                    by_cases c137 : (v2 &&& 31) = 8
                    · have hf := zif_t hf c137
                      refine z_table hC (pc := 40) (tgt := 536) dL_law_40 c137 (by decide) (by decide) rfl rfl ?_
                      refine z_aload_n hC (pc := 536) dL_law_536 rfl 1 rfl ?_
                      refine z_aload_n hC (pc := 537) dL_law_537 rfl 0 rfl ?_
                      refine z_iload hC (pc := 538) dL_law_538 4 rfl ?_
                      refine z_iconst (v := 1) hC (pc := 540) dL_law_540 zki_1 ?_
                      refine z_iadd hC (pc := 541) dL_law_541 ?_
                      refine z_scr hC (pc := 542) hQ.2.1 hQ.2.2 dL_law_542 hf (fun v138 hf => ?_)
                      refine z_aload_n hC (pc := 543) dL_law_543 rfl 0 rfl ?_
                      refine z_iload hC (pc := 544) dL_law_544 4 rfl ?_
                      refine z_iconst (v := 2) hC (pc := 546) dL_law_546 zki_2 ?_
                      refine z_iadd hC (pc := 547) dL_law_547 ?_
                      refine z_scr hC (pc := 548) hQ.2.1 hQ.2.2 dL_law_548 hf (fun v139 hf => ?_)
                      refine z_aload_n hC (pc := 549) dL_law_549 rfl 3 rfl ?_
                      refine z_cI (rest := []) hf (fun v140 s141 hcall => z_runSX hC (pc := 550) 4 (m_X0_orderAt X.g l1 v138 v139 l3 s0 s141 v140 hcall) (lw_SW q2539 q2540 q94 q2541) hd_X0_orderAt ⟨(Nat.le_of_ble_eq_true rfl), (Nat.le_of_ble_eq_true rfl)⟩ rfl (Nat.le_of_ble_eq_true rfl) dL_law_550 rfl) (fun v140 s141 hf => ?_)
                      refine z_istore (lv' := [(5, zi v140), (0, zr (some b)), (1, zr l1), (2, zr l2), (3, zr l3), (4, zi l4)]) hC (pc := 553) hL dL_law_553 (Nat.le_of_ble_eq_true rfl) rfl ?_
                      refine z_aload_n hC (pc := 555) dL_law_555 rfl 3 rfl ?_
                      refine z_aload_n hC (pc := 556) dL_law_556 rfl 1 rfl ?_
                      refine z_iload hC (pc := 557) dL_law_557 5 rfl ?_
                      refine z_iconst (v := 1) hC (pc := 559) dL_law_559 zki_1 ?_
                      refine z_iadd hC (pc := 560) dL_law_560 ?_
                      refine z_scr hC (pc := 561) hQ.2.1 hQ.2.2 dL_law_561 hf (fun v142 hf => ?_)
                      refine z_aload_n hC (pc := 562) dL_law_562 rfl 1 rfl ?_
                      refine z_iload hC (pc := 563) dL_law_563 5 rfl ?_
                      refine z_iconst (v := 2) hC (pc := 565) dL_law_565 zki_2 ?_
                      refine z_iadd hC (pc := 566) dL_law_566 ?_
                      refine z_scr hC (pc := 567) hQ.2.1 hQ.2.2 dL_law_567 hf (fun v143 hf => ?_)
                      obtain ⟨a146, fs144, rfl, ha145, hf⟩ := z_rcO hf
                      refine z_cI (rest := []) hf (fun v147 s148 hcall => z_runV hC (pc := 568) zcX8 2 ha145 (m_X8_orderAt X.g a146 v142 v143 s141 s148 v147 hcall) (lw_V q2925 q2926 q2927 q108 q2928) hdV_X8_orderAt ⟨(Nat.le_of_ble_eq_true rfl), (Nat.le_of_ble_eq_true rfl)⟩ rfl (Nat.le_of_ble_eq_true rfl) dL_law_568 rfl) (fun v147 s148 hf => ?_)
                      refine z_istore (lv' := [(6, zi v147), (5, zi v140), (0, zr (some b)), (1, zr l1), (2, zr (some a146)), (3, zr l3), (4, zi l4)]) hC (pc := 571) hL dL_law_571 (Nat.le_of_ble_eq_true rfl) rfl ?_
                      refine z_aload_n hC (pc := 573) dL_law_573 rfl 4 rfl ?_
                      obtain ⟨fs149, ha150, hf⟩ := z_rcN hf
                      refine z_cI (rest := []) hf (fun v151 s152 hcall => z_runV hC (pc := 574) zcX8 0 ha150 (m_X8_thrown X.g a146 s148 s152 v151 hcall) (lw_V q2750 q2751 q2752 q108 q2753) hdV_X8_thrown ⟨(Nat.le_of_ble_eq_true rfl), (Nat.le_of_ble_eq_true rfl)⟩ rfl (Nat.le_of_ble_eq_true rfl) dL_law_574 rfl) (fun v151 s152 hf => ?_)
                      refine z_iload hC (pc := 577) dL_law_577 1 rfl ?_
                      refine z_icmp_eq hC (pc := 579) (tgt := 584) dL_law_579 rfl (fun c153 => ?_) (fun c153 => ?_)
                      · have hf := zif_t hf c153
                        refine z_iload hC (pc := 584) dL_law_584 1 rfl ?_
                        refine z_if_ne hC (pc := 586) (tgt := 601) dL_law_586 rfl (fun c154 => ?_) (fun c154 => ?_)
                        · have hf := zif_f hf c154
                          refine ZW.perm (lv' := [(0, zr (some b)), (1, zr l1), (2, zr (some a146)), (3, zr l3), (4, zi l4)]) [2, 3, 4, 5, 6] rfl ?_
                          exact w_L_law_b601 L xs b hC hL hno hQ k23 hk23 l1 (some a146) l3 l4 s152 hf
                        · have hf := zif_t hf c154
                          refine z_aload_n hC (pc := 589) dL_law_589 rfl 5 rfl ?_
                          refine z_iconst (v := 0) hC (pc := 590) dL_law_590 zki_0 ?_
                          refine z_lald hC (pc := 591) dL_law_591 hf (fun v155 hf => ?_)
                          refine z_iload hC (pc := 592) dL_law_592 0 rfl ?_
                          refine z_i2l hC (pc := 594) dL_law_594 ?_
                          refine z_lcmp hC (pc := 595) dL_law_595 ?_
                          refine z_if_eq hC (pc := 596) (tgt := 601) dL_law_596 rfl (fun c156 => ?_) (fun c156 => ?_)
                          · have hf := zif_t hf c156
                            refine ZW.perm (lv' := [(0, zr (some b)), (1, zr l1), (2, zr (some a146)), (3, zr l3), (4, zi l4)]) [2, 3, 4, 5, 6] rfl ?_
                            exact w_L_law_b601 L xs b hC hL hno hQ k23 hk23 l1 (some a146) l3 l4 s152 hf
                          · have hf := zif_f hf c156
                            refine z_iconst (v := 0) hC (pc := 599) dL_law_599 zki_0 ?_
                            exact z_lawret hQ.1 dL_law_600 hf
                      · have hf := zif_f hf c153
                        refine z_iconst (v := 0) hC (pc := 582) dL_law_582 zki_0 ?_
                        exact z_lawret hQ.1 dL_law_583 hf
                    · have hf := zif_f hf c137
                      by_cases c157 : (v2 &&& 31) = 9
                      · have hf := zif_t hf c157
                        refine z_table hC (pc := 40) (tgt := 604) dL_law_40 c157 (by decide) (by decide) rfl rfl ?_
                        refine z_aload_n hC (pc := 604) dL_law_604 rfl 1 rfl ?_
                        refine z_aload_n hC (pc := 605) dL_law_605 rfl 0 rfl ?_
                        refine z_iload hC (pc := 606) dL_law_606 4 rfl ?_
                        refine z_iconst (v := 1) hC (pc := 608) dL_law_608 zki_1 ?_
                        refine z_iadd hC (pc := 609) dL_law_609 ?_
                        refine z_scr hC (pc := 610) hQ.2.1 hQ.2.2 dL_law_610 hf (fun v158 hf => ?_)
                        refine z_aload_n hC (pc := 611) dL_law_611 rfl 0 rfl ?_
                        refine z_iload hC (pc := 612) dL_law_612 4 rfl ?_
                        refine z_iconst (v := 2) hC (pc := 614) dL_law_614 zki_2 ?_
                        refine z_iadd hC (pc := 615) dL_law_615 ?_
                        refine z_scr hC (pc := 616) hQ.2.1 hQ.2.2 dL_law_616 hf (fun v159 hf => ?_)
                        refine z_aload_n hC (pc := 617) dL_law_617 rfl 3 rfl ?_
                        refine z_cI (rest := []) hf (fun v160 s161 hcall => z_runSX hC (pc := 618) 4 (m_X0_start X.g l1 v158 v159 l3 s0 s161 v160 hcall) (lw_SW q2546 q2547 q94 q2548) hd_X0_start ⟨(Nat.le_of_ble_eq_true rfl), (Nat.le_of_ble_eq_true rfl)⟩ rfl (Nat.le_of_ble_eq_true rfl) dL_law_618 rfl) (fun v160 s161 hf => ?_)
                        refine z_istore (lv' := [(5, zi v160), (0, zr (some b)), (1, zr l1), (2, zr l2), (3, zr l3), (4, zi l4)]) hC (pc := 621) hL dL_law_621 (Nat.le_of_ble_eq_true rfl) rfl ?_
                        refine z_aload_n hC (pc := 623) dL_law_623 rfl 3 rfl ?_
                        refine z_aload_n hC (pc := 624) dL_law_624 rfl 1 rfl ?_
                        refine z_iload hC (pc := 625) dL_law_625 5 rfl ?_
                        refine z_iconst (v := 1) hC (pc := 627) dL_law_627 zki_1 ?_
                        refine z_iadd hC (pc := 628) dL_law_628 ?_
                        refine z_scr hC (pc := 629) hQ.2.1 hQ.2.2 dL_law_629 hf (fun v162 hf => ?_)
                        refine z_aload_n hC (pc := 630) dL_law_630 rfl 1 rfl ?_
                        refine z_iload hC (pc := 631) dL_law_631 5 rfl ?_
                        refine z_iconst (v := 2) hC (pc := 633) dL_law_633 zki_2 ?_
                        refine z_iadd hC (pc := 634) dL_law_634 ?_
                        refine z_scr hC (pc := 635) hQ.2.1 hQ.2.2 dL_law_635 hf (fun v163 hf => ?_)
                        obtain ⟨a166, fs164, rfl, ha165, hf⟩ := z_rcO hf
                        refine z_cI (rest := []) hf (fun v167 s168 hcall => z_runV hC (pc := 636) zcX8 2 ha165 (m_X8_start X.g a166 v162 v163 s161 s168 v167 hcall) (lw_V q2932 q2933 q2934 q108 q2935) hdV_X8_start ⟨(Nat.le_of_ble_eq_true rfl), (Nat.le_of_ble_eq_true rfl)⟩ rfl (Nat.le_of_ble_eq_true rfl) dL_law_636 rfl) (fun v167 s168 hf => ?_)
                        refine z_istore (lv' := [(6, zi v167), (5, zi v160), (0, zr (some b)), (1, zr l1), (2, zr (some a166)), (3, zr l3), (4, zi l4)]) hC (pc := 639) hL dL_law_639 (Nat.le_of_ble_eq_true rfl) rfl ?_
                        refine z_aload_n hC (pc := 641) dL_law_641 rfl 4 rfl ?_
                        obtain ⟨fs169, ha170, hf⟩ := z_rcN hf
                        refine z_cI (rest := []) hf (fun v171 s172 hcall => z_runV hC (pc := 642) zcX8 0 ha170 (m_X8_thrown X.g a166 s168 s172 v171 hcall) (lw_V q2750 q2751 q2752 q108 q2753) hdV_X8_thrown ⟨(Nat.le_of_ble_eq_true rfl), (Nat.le_of_ble_eq_true rfl)⟩ rfl (Nat.le_of_ble_eq_true rfl) dL_law_642 rfl) (fun v171 s172 hf => ?_)
                        refine z_iload hC (pc := 645) dL_law_645 1 rfl ?_
                        refine z_icmp_eq hC (pc := 647) (tgt := 652) dL_law_647 rfl (fun c173 => ?_) (fun c173 => ?_)
                        · have hf := zif_t hf c173
                          refine z_iload hC (pc := 652) dL_law_652 1 rfl ?_
                          refine z_if_ne hC (pc := 654) (tgt := 669) dL_law_654 rfl (fun c174 => ?_) (fun c174 => ?_)
                          · have hf := zif_f hf c174
                            refine ZW.perm (lv' := [(0, zr (some b)), (1, zr l1), (2, zr (some a166)), (3, zr l3), (4, zi l4)]) [2, 3, 4, 5, 6] rfl ?_
                            exact w_L_law_b669 L xs b hC hL hno hQ k23 hk23 l1 (some a166) l3 l4 s172 hf
                          · have hf := zif_t hf c174
                            refine z_aload_n hC (pc := 657) dL_law_657 rfl 5 rfl ?_
                            refine z_iconst (v := 0) hC (pc := 658) dL_law_658 zki_0 ?_
                            refine z_lald hC (pc := 659) dL_law_659 hf (fun v175 hf => ?_)
                            refine z_iload hC (pc := 660) dL_law_660 0 rfl ?_
                            refine z_i2l hC (pc := 662) dL_law_662 ?_
                            refine z_lcmp hC (pc := 663) dL_law_663 ?_
                            refine z_if_eq hC (pc := 664) (tgt := 669) dL_law_664 rfl (fun c176 => ?_) (fun c176 => ?_)
                            · have hf := zif_t hf c176
                              refine ZW.perm (lv' := [(0, zr (some b)), (1, zr l1), (2, zr (some a166)), (3, zr l3), (4, zi l4)]) [2, 3, 4, 5, 6] rfl ?_
                              exact w_L_law_b669 L xs b hC hL hno hQ k23 hk23 l1 (some a166) l3 l4 s172 hf
                            · have hf := zif_f hf c176
                              refine z_iconst (v := 0) hC (pc := 667) dL_law_667 zki_0 ?_
                              exact z_lawret hQ.1 dL_law_668 hf
                        · have hf := zif_f hf c173
                          refine z_iconst (v := 0) hC (pc := 650) dL_law_650 zki_0 ?_
                          exact z_lawret hQ.1 dL_law_651 hf
                      · have hf := zif_f hf c157
                        by_cases c177 : (v2 &&& 31) = 10
                        · have hf := zif_t hf c177
                          refine z_table hC (pc := 40) (tgt := 672) dL_law_40 c177 (by decide) (by decide) rfl rfl ?_
                          refine z_aload_n hC (pc := 672) dL_law_672 rfl 1 rfl ?_
                          refine z_aload_n hC (pc := 673) dL_law_673 rfl 0 rfl ?_
                          refine z_iload hC (pc := 674) dL_law_674 4 rfl ?_
                          refine z_iconst (v := 1) hC (pc := 676) dL_law_676 zki_1 ?_
                          refine z_iadd hC (pc := 677) dL_law_677 ?_
                          refine z_scr hC (pc := 678) hQ.2.1 hQ.2.2 dL_law_678 hf (fun v178 hf => ?_)
                          refine z_aload_n hC (pc := 679) dL_law_679 rfl 0 rfl ?_
                          refine z_iload hC (pc := 680) dL_law_680 4 rfl ?_
                          refine z_iconst (v := 2) hC (pc := 682) dL_law_682 zki_2 ?_
                          refine z_iadd hC (pc := 683) dL_law_683 ?_
                          refine z_scr hC (pc := 684) hQ.2.1 hQ.2.2 dL_law_684 hf (fun v179 hf => ?_)
                          refine z_aload_n hC (pc := 685) dL_law_685 rfl 3 rfl ?_
                          refine z_cI (rest := []) hf (fun v180 s181 hcall => z_runSX hC (pc := 686) 4 (m_X0_leave X.g l1 v178 v179 l3 s0 s181 v180 hcall) (lw_SW q2553 q2554 q94 q2555) hd_X0_leave ⟨(Nat.le_of_ble_eq_true rfl), (Nat.le_of_ble_eq_true rfl)⟩ rfl (Nat.le_of_ble_eq_true rfl) dL_law_686 rfl) (fun v180 s181 hf => ?_)
                          refine z_istore (lv' := [(5, zi v180), (0, zr (some b)), (1, zr l1), (2, zr l2), (3, zr l3), (4, zi l4)]) hC (pc := 689) hL dL_law_689 (Nat.le_of_ble_eq_true rfl) rfl ?_
                          refine z_aload_n hC (pc := 691) dL_law_691 rfl 3 rfl ?_
                          refine z_aload_n hC (pc := 692) dL_law_692 rfl 1 rfl ?_
                          refine z_iload hC (pc := 693) dL_law_693 5 rfl ?_
                          refine z_iconst (v := 1) hC (pc := 695) dL_law_695 zki_1 ?_
                          refine z_iadd hC (pc := 696) dL_law_696 ?_
                          refine z_scr hC (pc := 697) hQ.2.1 hQ.2.2 dL_law_697 hf (fun v182 hf => ?_)
                          refine z_aload_n hC (pc := 698) dL_law_698 rfl 1 rfl ?_
                          refine z_iload hC (pc := 699) dL_law_699 5 rfl ?_
                          refine z_iconst (v := 2) hC (pc := 701) dL_law_701 zki_2 ?_
                          refine z_iadd hC (pc := 702) dL_law_702 ?_
                          refine z_scr hC (pc := 703) hQ.2.1 hQ.2.2 dL_law_703 hf (fun v183 hf => ?_)
                          obtain ⟨a186, fs184, rfl, ha185, hf⟩ := z_rcO hf
                          refine z_cI (rest := []) hf (fun v187 s188 hcall => z_runV hC (pc := 704) zcX8 2 ha185 (m_X8_leave X.g a186 v182 v183 s181 s188 v187 hcall) (lw_V q2967 q2968 q2969 q108 q2970) hdV_X8_leave ⟨(Nat.le_of_ble_eq_true rfl), (Nat.le_of_ble_eq_true rfl)⟩ rfl (Nat.le_of_ble_eq_true rfl) dL_law_704 rfl) (fun v187 s188 hf => ?_)
                          refine z_istore (lv' := [(6, zi v187), (5, zi v180), (0, zr (some b)), (1, zr l1), (2, zr (some a186)), (3, zr l3), (4, zi l4)]) hC (pc := 707) hL dL_law_707 (Nat.le_of_ble_eq_true rfl) rfl ?_
                          refine z_aload_n hC (pc := 709) dL_law_709 rfl 4 rfl ?_
                          obtain ⟨fs189, ha190, hf⟩ := z_rcN hf
                          refine z_cI (rest := []) hf (fun v191 s192 hcall => z_runV hC (pc := 710) zcX8 0 ha190 (m_X8_thrown X.g a186 s188 s192 v191 hcall) (lw_V q2750 q2751 q2752 q108 q2753) hdV_X8_thrown ⟨(Nat.le_of_ble_eq_true rfl), (Nat.le_of_ble_eq_true rfl)⟩ rfl (Nat.le_of_ble_eq_true rfl) dL_law_710 rfl) (fun v191 s192 hf => ?_)
                          refine z_iload hC (pc := 713) dL_law_713 1 rfl ?_
                          refine z_icmp_eq hC (pc := 715) (tgt := 720) dL_law_715 rfl (fun c193 => ?_) (fun c193 => ?_)
                          · have hf := zif_t hf c193
                            refine z_iload hC (pc := 720) dL_law_720 1 rfl ?_
                            refine z_if_ne hC (pc := 722) (tgt := 737) dL_law_722 rfl (fun c194 => ?_) (fun c194 => ?_)
                            · have hf := zif_f hf c194
                              refine ZW.perm (lv' := [(0, zr (some b)), (1, zr l1), (2, zr (some a186)), (3, zr l3), (4, zi l4)]) [2, 3, 4, 5, 6] rfl ?_
                              exact w_L_law_b737 L xs b hC hL hno hQ k23 hk23 l1 (some a186) l3 l4 s192 hf
                            · have hf := zif_t hf c194
                              refine z_aload_n hC (pc := 725) dL_law_725 rfl 5 rfl ?_
                              refine z_iconst (v := 0) hC (pc := 726) dL_law_726 zki_0 ?_
                              refine z_lald hC (pc := 727) dL_law_727 hf (fun v195 hf => ?_)
                              refine z_iload hC (pc := 728) dL_law_728 0 rfl ?_
                              refine z_i2l hC (pc := 730) dL_law_730 ?_
                              refine z_lcmp hC (pc := 731) dL_law_731 ?_
                              refine z_if_eq hC (pc := 732) (tgt := 737) dL_law_732 rfl (fun c196 => ?_) (fun c196 => ?_)
                              · have hf := zif_t hf c196
                                refine ZW.perm (lv' := [(0, zr (some b)), (1, zr l1), (2, zr (some a186)), (3, zr l3), (4, zi l4)]) [2, 3, 4, 5, 6] rfl ?_
                                exact w_L_law_b737 L xs b hC hL hno hQ k23 hk23 l1 (some a186) l3 l4 s192 hf
                              · have hf := zif_f hf c196
                                refine z_iconst (v := 0) hC (pc := 735) dL_law_735 zki_0 ?_
                                exact z_lawret hQ.1 dL_law_736 hf
                          · have hf := zif_f hf c193
                            refine z_iconst (v := 0) hC (pc := 718) dL_law_718 zki_0 ?_
                            exact z_lawret hQ.1 dL_law_719 hf
                        · have hf := zif_f hf c177
                          by_cases c197 : (v2 &&& 31) = 11
                          · have hf := zif_t hf c197
                            refine z_table hC (pc := 40) (tgt := 740) dL_law_40 c197 (by decide) (by decide) rfl rfl ?_
                            refine z_aload_n hC (pc := 740) dL_law_740 rfl 1 rfl ?_
                            refine z_aload_n hC (pc := 741) dL_law_741 rfl 0 rfl ?_
                            refine z_iload hC (pc := 742) dL_law_742 4 rfl ?_
                            refine z_iconst (v := 1) hC (pc := 744) dL_law_744 zki_1 ?_
                            refine z_iadd hC (pc := 745) dL_law_745 ?_
                            refine z_scr hC (pc := 746) hQ.2.1 hQ.2.2 dL_law_746 hf (fun v198 hf => ?_)
                            refine z_aload_n hC (pc := 747) dL_law_747 rfl 3 rfl ?_
                            refine z_cI (rest := []) hf (fun v199 s200 hcall => z_runSX hC (pc := 748) 3 (m_X0_completion X.g l1 v198 l3 s0 s200 v199 hcall) (lw_SW q2564 q2565 q94 q2566) hd_X0_completion ⟨(Nat.le_of_ble_eq_true rfl), (Nat.le_of_ble_eq_true rfl)⟩ rfl (Nat.le_of_ble_eq_true rfl) dL_law_748 rfl) (fun v199 s200 hf => ?_)
                            refine z_istore (lv' := [(5, zi v199), (0, zr (some b)), (1, zr l1), (2, zr l2), (3, zr l3), (4, zi l4)]) hC (pc := 751) hL dL_law_751 (Nat.le_of_ble_eq_true rfl) rfl ?_
                            refine z_aload_n hC (pc := 753) dL_law_753 rfl 3 rfl ?_
                            refine z_aload_n hC (pc := 754) dL_law_754 rfl 1 rfl ?_
                            refine z_iload hC (pc := 755) dL_law_755 5 rfl ?_
                            refine z_iconst (v := 1) hC (pc := 757) dL_law_757 zki_1 ?_
                            refine z_iadd hC (pc := 758) dL_law_758 ?_
                            refine z_scr hC (pc := 759) hQ.2.1 hQ.2.2 dL_law_759 hf (fun v201 hf => ?_)
                            obtain ⟨a204, fs202, rfl, ha203, hf⟩ := z_rcO hf
                            refine z_cI (rest := []) hf (fun v205 s206 hcall => z_runV hC (pc := 760) zcX8 1 ha203 (m_X8_completion X.g a204 v201 s200 s206 v205 hcall) (lw_V q2975 q2976 q2977 q108 q2978) hdV_X8_completion ⟨(Nat.le_of_ble_eq_true rfl), (Nat.le_of_ble_eq_true rfl)⟩ rfl (Nat.le_of_ble_eq_true rfl) dL_law_760 rfl) (fun v205 s206 hf => ?_)
                            refine z_istore (lv' := [(6, zi v205), (5, zi v199), (0, zr (some b)), (1, zr l1), (2, zr (some a204)), (3, zr l3), (4, zi l4)]) hC (pc := 763) hL dL_law_763 (Nat.le_of_ble_eq_true rfl) rfl ?_
                            refine z_aload_n hC (pc := 765) dL_law_765 rfl 4 rfl ?_
                            obtain ⟨fs207, ha208, hf⟩ := z_rcN hf
                            refine z_cI (rest := []) hf (fun v209 s210 hcall => z_runV hC (pc := 766) zcX8 0 ha208 (m_X8_thrown X.g a204 s206 s210 v209 hcall) (lw_V q2750 q2751 q2752 q108 q2753) hdV_X8_thrown ⟨(Nat.le_of_ble_eq_true rfl), (Nat.le_of_ble_eq_true rfl)⟩ rfl (Nat.le_of_ble_eq_true rfl) dL_law_766 rfl) (fun v209 s210 hf => ?_)
                            refine z_iload hC (pc := 769) dL_law_769 1 rfl ?_
                            refine z_icmp_eq hC (pc := 771) (tgt := 776) dL_law_771 rfl (fun c211 => ?_) (fun c211 => ?_)
                            · have hf := zif_t hf c211
                              refine z_iload hC (pc := 776) dL_law_776 1 rfl ?_
                              refine z_if_ne hC (pc := 778) (tgt := 793) dL_law_778 rfl (fun c212 => ?_) (fun c212 => ?_)
                              · have hf := zif_f hf c212
                                refine ZW.perm (lv' := [(0, zr (some b)), (1, zr l1), (2, zr (some a204)), (3, zr l3), (4, zi l4)]) [2, 3, 4, 5, 6] rfl ?_
                                exact w_L_law_b793 L xs b hC hL hno hQ k23 hk23 l1 (some a204) l3 l4 s210 hf
                              · have hf := zif_t hf c212
                                refine z_aload_n hC (pc := 781) dL_law_781 rfl 5 rfl ?_
                                refine z_iconst (v := 0) hC (pc := 782) dL_law_782 zki_0 ?_
                                refine z_lald hC (pc := 783) dL_law_783 hf (fun v213 hf => ?_)
                                refine z_iload hC (pc := 784) dL_law_784 0 rfl ?_
                                refine z_i2l hC (pc := 786) dL_law_786 ?_
                                refine z_lcmp hC (pc := 787) dL_law_787 ?_
                                refine z_if_eq hC (pc := 788) (tgt := 793) dL_law_788 rfl (fun c214 => ?_) (fun c214 => ?_)
                                · have hf := zif_t hf c214
                                  refine ZW.perm (lv' := [(0, zr (some b)), (1, zr l1), (2, zr (some a204)), (3, zr l3), (4, zi l4)]) [2, 3, 4, 5, 6] rfl ?_
                                  exact w_L_law_b793 L xs b hC hL hno hQ k23 hk23 l1 (some a204) l3 l4 s210 hf
                                · have hf := zif_f hf c214
                                  refine z_iconst (v := 0) hC (pc := 791) dL_law_791 zki_0 ?_
                                  exact z_lawret hQ.1 dL_law_792 hf
                            · have hf := zif_f hf c211
                              refine z_iconst (v := 0) hC (pc := 774) dL_law_774 zki_0 ?_
                              exact z_lawret hQ.1 dL_law_775 hf
                          · have hf := zif_f hf c197
                            by_cases c215 : (v2 &&& 31) = 12
                            · have hf := zif_t hf c215
                              refine z_table hC (pc := 40) (tgt := 796) dL_law_40 c215 (by decide) (by decide) rfl rfl ?_
                              refine z_aload_n hC (pc := 796) dL_law_796 rfl 1 rfl ?_
                              obtain ⟨a218, fs216, rfl, ha217, hf⟩ := z_rcO hf
                              refine z_cI (rest := []) hf (fun v219 s220 hcall => z_runV hC (pc := 797) zcX1 0 ha217 (m_X1_makespan X.g a218 s0 s220 v219 hcall) (lw_V q460 q461 q462 q95 q463) hdV_X1_makespan ⟨(Nat.le_of_ble_eq_true rfl), (Nat.le_of_ble_eq_true rfl)⟩ rfl (Nat.le_of_ble_eq_true rfl) dL_law_797 rfl) (fun v219 s220 hf => ?_)
                              refine z_aload_n hC (pc := 800) dL_law_800 rfl 2 rfl ?_
                              obtain ⟨a223, fs221, rfl, ha222, hf⟩ := z_rcO hf
                              refine z_cI (rest := [zi v219]) hf (fun v224 s225 hcall => z_runV hC (pc := 801) zcX8 0 ha222 (m_X8_makespan X.g a223 s220 s225 v224 hcall) (lw_V q2983 q2984 q2985 q108 q2986) hdV_X8_makespan ⟨(Nat.le_of_ble_eq_true rfl), (Nat.le_of_ble_eq_true rfl)⟩ rfl (Nat.le_of_ble_eq_true rfl) dL_law_801 rfl) (fun v224 s225 hf => ?_)
                              refine z_icmp_eq hC (pc := 804) (tgt := 1509) dL_law_804 rfl (fun c226 => ?_) (fun c226 => ?_)
                              · have hf := zif_t hf c226
                                exact w_L_law_b1509 L xs b hC hL hno hQ k23 hk23 (some a218) (some a223) l3 l4 s225 hf
                              · have hf := zif_f hf c226
                                refine z_iconst (v := 0) hC (pc := 807) dL_law_807 zki_0 ?_
                                exact z_lawret hQ.1 dL_law_808 hf
                            · have hf := zif_f hf c215
                              by_cases c227 : (v2 &&& 31) = 13
                              · have hf := zif_t hf c227
                                refine z_table hC (pc := 40) (tgt := 809) dL_law_40 c227 (by decide) (by decide) rfl rfl ?_
                                refine z_aload_n hC (pc := 809) dL_law_809 rfl 1 rfl ?_
                                refine z_aload_n hC (pc := 810) dL_law_810 rfl 0 rfl ?_
                                refine z_iload hC (pc := 811) dL_law_811 4 rfl ?_
                                refine z_iconst (v := 1) hC (pc := 813) dL_law_813 zki_1 ?_
                                refine z_iadd hC (pc := 814) dL_law_814 ?_
                                refine z_scr hC (pc := 815) hQ.2.1 hQ.2.2 dL_law_815 hf (fun v228 hf => ?_)
                                refine z_aload_n hC (pc := 816) dL_law_816 rfl 3 rfl ?_
                                refine z_cI (rest := []) hf (fun v229 s230 hcall => z_runSX hC (pc := 817) 3 (m_X0_jobCost X.g l1 v228 l3 s0 s230 v229 hcall) (lw_SW q2572 q2573 q94 q2574) hd_X0_jobCost ⟨(Nat.le_of_ble_eq_true rfl), (Nat.le_of_ble_eq_true rfl)⟩ rfl (Nat.le_of_ble_eq_true rfl) dL_law_817 rfl) (fun v229 s230 hf => ?_)
                                refine z_istore (lv' := [(5, zi v229), (0, zr (some b)), (1, zr l1), (2, zr l2), (3, zr l3), (4, zi l4)]) hC (pc := 820) hL dL_law_820 (Nat.le_of_ble_eq_true rfl) rfl ?_
                                refine z_aload_n hC (pc := 822) dL_law_822 rfl 3 rfl ?_
                                refine z_aload_n hC (pc := 823) dL_law_823 rfl 1 rfl ?_
                                refine z_iload hC (pc := 824) dL_law_824 5 rfl ?_
                                refine z_iconst (v := 1) hC (pc := 826) dL_law_826 zki_1 ?_
                                refine z_iadd hC (pc := 827) dL_law_827 ?_
                                refine z_scr hC (pc := 828) hQ.2.1 hQ.2.2 dL_law_828 hf (fun v231 hf => ?_)
                                obtain ⟨a234, fs232, rfl, ha233, hf⟩ := z_rcO hf
                                refine z_cI (rest := []) hf (fun v235 s236 hcall => z_runV hC (pc := 829) zcX8 1 ha233 (m_X8_jobCost X.g a234 v231 s230 s236 v235 hcall) (lw_V q2995 q2996 q2997 q108 q2998) hdV_X8_jobCost ⟨(Nat.le_of_ble_eq_true rfl), (Nat.le_of_ble_eq_true rfl)⟩ rfl (Nat.le_of_ble_eq_true rfl) dL_law_829 rfl) (fun v235 s236 hf => ?_)
                                refine z_istore (lv' := [(6, zi v235), (5, zi v229), (0, zr (some b)), (1, zr l1), (2, zr (some a234)), (3, zr l3), (4, zi l4)]) hC (pc := 832) hL dL_law_832 (Nat.le_of_ble_eq_true rfl) rfl ?_
                                refine z_aload_n hC (pc := 834) dL_law_834 rfl 4 rfl ?_
                                obtain ⟨fs237, ha238, hf⟩ := z_rcN hf
                                refine z_cI (rest := []) hf (fun v239 s240 hcall => z_runV hC (pc := 835) zcX8 0 ha238 (m_X8_thrown X.g a234 s236 s240 v239 hcall) (lw_V q2750 q2751 q2752 q108 q2753) hdV_X8_thrown ⟨(Nat.le_of_ble_eq_true rfl), (Nat.le_of_ble_eq_true rfl)⟩ rfl (Nat.le_of_ble_eq_true rfl) dL_law_835 rfl) (fun v239 s240 hf => ?_)
                                refine z_iload hC (pc := 838) dL_law_838 1 rfl ?_
                                refine z_icmp_eq hC (pc := 840) (tgt := 845) dL_law_840 rfl (fun c241 => ?_) (fun c241 => ?_)
                                · have hf := zif_t hf c241
                                  refine z_iload hC (pc := 845) dL_law_845 1 rfl ?_
                                  refine z_if_ne hC (pc := 847) (tgt := 862) dL_law_847 rfl (fun c242 => ?_) (fun c242 => ?_)
                                  · have hf := zif_f hf c242
                                    refine ZW.perm (lv' := [(0, zr (some b)), (1, zr l1), (2, zr (some a234)), (3, zr l3), (4, zi l4)]) [2, 3, 4, 5, 6] rfl ?_
                                    exact w_L_law_b862 L xs b hC hL hno hQ k23 hk23 l1 (some a234) l3 l4 s240 hf
                                  · have hf := zif_t hf c242
                                    refine z_aload_n hC (pc := 850) dL_law_850 rfl 5 rfl ?_
                                    refine z_iconst (v := 0) hC (pc := 851) dL_law_851 zki_0 ?_
                                    refine z_lald hC (pc := 852) dL_law_852 hf (fun v243 hf => ?_)
                                    refine z_iload hC (pc := 853) dL_law_853 0 rfl ?_
                                    refine z_i2l hC (pc := 855) dL_law_855 ?_
                                    refine z_lcmp hC (pc := 856) dL_law_856 ?_
                                    refine z_if_eq hC (pc := 857) (tgt := 862) dL_law_857 rfl (fun c244 => ?_) (fun c244 => ?_)
                                    · have hf := zif_t hf c244
                                      refine ZW.perm (lv' := [(0, zr (some b)), (1, zr l1), (2, zr (some a234)), (3, zr l3), (4, zi l4)]) [2, 3, 4, 5, 6] rfl ?_
                                      exact w_L_law_b862 L xs b hC hL hno hQ k23 hk23 l1 (some a234) l3 l4 s240 hf
                                    · have hf := zif_f hf c244
                                      refine z_iconst (v := 0) hC (pc := 860) dL_law_860 zki_0 ?_
                                      exact z_lawret hQ.1 dL_law_861 hf
                                · have hf := zif_f hf c241
                                  refine z_iconst (v := 0) hC (pc := 843) dL_law_843 zki_0 ?_
                                  exact z_lawret hQ.1 dL_law_844 hf
                              · have hf := zif_f hf c227
                                by_cases c245 : (v2 &&& 31) = 14
                                · have hf := zif_t hf c245
                                  refine z_table hC (pc := 40) (tgt := 865) dL_law_40 c245 (by decide) (by decide) rfl rfl ?_
                                  refine z_aload_n hC (pc := 865) dL_law_865 rfl 1 rfl ?_
                                  obtain ⟨a248, fs246, rfl, ha247, hf⟩ := z_rcO hf
                                  refine z_cI (rest := []) hf (fun v249 s250 hcall => z_runV hC (pc := 866) zcX1 0 ha247 (m_X1_planCost X.g a248 s0 s250 v249 hcall) (lw_V q881 q882 q883 q95 q884) hdV_X1_planCost ⟨(Nat.le_of_ble_eq_true rfl), (Nat.le_of_ble_eq_true rfl)⟩ rfl (Nat.le_of_ble_eq_true rfl) dL_law_866 rfl) (fun v249 s250 hf => ?_)
                                  refine z_aload_n hC (pc := 869) dL_law_869 rfl 2 rfl ?_
                                  obtain ⟨a253, fs251, rfl, ha252, hf⟩ := z_rcO hf
                                  refine z_cI (rest := [zi v249]) hf (fun v254 s255 hcall => z_runV hC (pc := 870) zcX8 0 ha252 (m_X8_planCost X.g a253 s250 s255 v254 hcall) (lw_V q3011 q3012 q3013 q108 q3014) hdV_X8_planCost ⟨(Nat.le_of_ble_eq_true rfl), (Nat.le_of_ble_eq_true rfl)⟩ rfl (Nat.le_of_ble_eq_true rfl) dL_law_870 rfl) (fun v254 s255 hf => ?_)
                                  refine z_icmp_eq hC (pc := 873) (tgt := 1509) dL_law_873 rfl (fun c256 => ?_) (fun c256 => ?_)
                                  · have hf := zif_t hf c256
                                    exact w_L_law_b1509 L xs b hC hL hno hQ k23 hk23 (some a248) (some a253) l3 l4 s255 hf
                                  · have hf := zif_f hf c256
                                    refine z_iconst (v := 0) hC (pc := 876) dL_law_876 zki_0 ?_
                                    exact z_lawret hQ.1 dL_law_877 hf
                                · have hf := zif_f hf c245
                                  by_cases c257 : (v2 &&& 31) = 15
                                  · have hf := zif_t hf c257
                                    refine z_table hC (pc := 40) (tgt := 878) dL_law_40 c257 (by decide) (by decide) rfl rfl ?_
                                    refine z_aload_n hC (pc := 878) dL_law_878 rfl 1 rfl ?_
                                    refine z_aload_n hC (pc := 879) dL_law_879 rfl 0 rfl ?_
                                    refine z_iload hC (pc := 880) dL_law_880 4 rfl ?_
                                    refine z_iconst (v := 1) hC (pc := 882) dL_law_882 zki_1 ?_
                                    refine z_iadd hC (pc := 883) dL_law_883 ?_
                                    refine z_scr hC (pc := 884) hQ.2.1 hQ.2.2 dL_law_884 hf (fun v258 hf => ?_)
                                    refine z_aload_n hC (pc := 885) dL_law_885 rfl 3 rfl ?_
                                    refine z_cI (rest := []) hf (fun v259 s260 hcall => z_runSX hC (pc := 886) 3 (m_X0_blockedTime X.g l1 v258 l3 s0 s260 v259 hcall) (lw_SW q2580 q2581 q94 q2582) hd_X0_blockedTime ⟨(Nat.le_of_ble_eq_true rfl), (Nat.le_of_ble_eq_true rfl)⟩ rfl (Nat.le_of_ble_eq_true rfl) dL_law_886 rfl) (fun v259 s260 hf => ?_)
                                    refine z_istore (lv' := [(5, zi v259), (0, zr (some b)), (1, zr l1), (2, zr l2), (3, zr l3), (4, zi l4)]) hC (pc := 889) hL dL_law_889 (Nat.le_of_ble_eq_true rfl) rfl ?_
                                    refine z_aload_n hC (pc := 891) dL_law_891 rfl 3 rfl ?_
                                    refine z_aload_n hC (pc := 892) dL_law_892 rfl 1 rfl ?_
                                    refine z_iload hC (pc := 893) dL_law_893 5 rfl ?_
                                    refine z_iconst (v := 1) hC (pc := 895) dL_law_895 zki_1 ?_
                                    refine z_iadd hC (pc := 896) dL_law_896 ?_
                                    refine z_scr hC (pc := 897) hQ.2.1 hQ.2.2 dL_law_897 hf (fun v261 hf => ?_)
                                    obtain ⟨a264, fs262, rfl, ha263, hf⟩ := z_rcO hf
                                    refine z_cI (rest := []) hf (fun v265 s266 hcall => z_runV hC (pc := 898) zcX8 1 ha263 (m_X8_blockedTime X.g a264 v261 s260 s266 v265 hcall) (lw_V q3019 q3020 q3021 q108 q3022) hdV_X8_blockedTime ⟨(Nat.le_of_ble_eq_true rfl), (Nat.le_of_ble_eq_true rfl)⟩ rfl (Nat.le_of_ble_eq_true rfl) dL_law_898 rfl) (fun v265 s266 hf => ?_)
                                    refine z_istore (lv' := [(6, zi v265), (5, zi v259), (0, zr (some b)), (1, zr l1), (2, zr (some a264)), (3, zr l3), (4, zi l4)]) hC (pc := 901) hL dL_law_901 (Nat.le_of_ble_eq_true rfl) rfl ?_
                                    refine z_aload_n hC (pc := 903) dL_law_903 rfl 4 rfl ?_
                                    obtain ⟨fs267, ha268, hf⟩ := z_rcN hf
                                    refine z_cI (rest := []) hf (fun v269 s270 hcall => z_runV hC (pc := 904) zcX8 0 ha268 (m_X8_thrown X.g a264 s266 s270 v269 hcall) (lw_V q2750 q2751 q2752 q108 q2753) hdV_X8_thrown ⟨(Nat.le_of_ble_eq_true rfl), (Nat.le_of_ble_eq_true rfl)⟩ rfl (Nat.le_of_ble_eq_true rfl) dL_law_904 rfl) (fun v269 s270 hf => ?_)
                                    refine z_iload hC (pc := 907) dL_law_907 1 rfl ?_
                                    refine z_icmp_eq hC (pc := 909) (tgt := 914) dL_law_909 rfl (fun c271 => ?_) (fun c271 => ?_)
                                    · have hf := zif_t hf c271
                                      refine z_iload hC (pc := 914) dL_law_914 1 rfl ?_
                                      refine z_if_ne hC (pc := 916) (tgt := 931) dL_law_916 rfl (fun c272 => ?_) (fun c272 => ?_)
                                      · have hf := zif_f hf c272
                                        refine ZW.perm (lv' := [(0, zr (some b)), (1, zr l1), (2, zr (some a264)), (3, zr l3), (4, zi l4)]) [2, 3, 4, 5, 6] rfl ?_
                                        exact w_L_law_b931 L xs b hC hL hno hQ k23 hk23 l1 (some a264) l3 l4 s270 hf
                                      · have hf := zif_t hf c272
                                        refine z_aload_n hC (pc := 919) dL_law_919 rfl 5 rfl ?_
                                        refine z_iconst (v := 0) hC (pc := 920) dL_law_920 zki_0 ?_
                                        refine z_lald hC (pc := 921) dL_law_921 hf (fun v273 hf => ?_)
                                        refine z_iload hC (pc := 922) dL_law_922 0 rfl ?_
                                        refine z_i2l hC (pc := 924) dL_law_924 ?_
                                        refine z_lcmp hC (pc := 925) dL_law_925 ?_
                                        refine z_if_eq hC (pc := 926) (tgt := 931) dL_law_926 rfl (fun c274 => ?_) (fun c274 => ?_)
                                        · have hf := zif_t hf c274
                                          refine ZW.perm (lv' := [(0, zr (some b)), (1, zr l1), (2, zr (some a264)), (3, zr l3), (4, zi l4)]) [2, 3, 4, 5, 6] rfl ?_
                                          exact w_L_law_b931 L xs b hC hL hno hQ k23 hk23 l1 (some a264) l3 l4 s270 hf
                                        · have hf := zif_f hf c274
                                          refine z_iconst (v := 0) hC (pc := 929) dL_law_929 zki_0 ?_
                                          exact z_lawret hQ.1 dL_law_930 hf
                                    · have hf := zif_f hf c271
                                      refine z_iconst (v := 0) hC (pc := 912) dL_law_912 zki_0 ?_
                                      exact z_lawret hQ.1 dL_law_913 hf
                                  · have hf := zif_f hf c257
                                    by_cases c275 : (v2 &&& 31) = 16
                                    · have hf := zif_t hf c275
                                      refine z_table hC (pc := 40) (tgt := 934) dL_law_40 c275 (by decide) (by decide) rfl rfl ?_
                                      refine z_aload_n hC (pc := 934) dL_law_934 rfl 1 rfl ?_
                                      obtain ⟨a278, fs276, rfl, ha277, hf⟩ := z_rcO hf
                                      refine z_cI (rest := []) hf (fun v279 s280 hcall => z_runV hC (pc := 935) zcX1 0 ha277 (m_X1_criticalLength X.g a278 s0 s280 v279 hcall) (lw_V q986 q987 q988 q95 q989) hdV_X1_criticalLength ⟨(Nat.le_of_ble_eq_true rfl), (Nat.le_of_ble_eq_true rfl)⟩ rfl (Nat.le_of_ble_eq_true rfl) dL_law_935 rfl) (fun v279 s280 hf => ?_)
                                      refine z_aload_n hC (pc := 938) dL_law_938 rfl 2 rfl ?_
                                      obtain ⟨a283, fs281, rfl, ha282, hf⟩ := z_rcO hf
                                      refine z_cI (rest := [zi v279]) hf (fun v284 s285 hcall => z_runV hC (pc := 939) zcX8 0 ha282 (m_X8_criticalLength X.g a283 s280 s285 v284 hcall) (lw_V q3023 q3024 q3025 q108 q3026) hdV_X8_criticalLength ⟨(Nat.le_of_ble_eq_true rfl), (Nat.le_of_ble_eq_true rfl)⟩ rfl (Nat.le_of_ble_eq_true rfl) dL_law_939 rfl) (fun v284 s285 hf => ?_)
                                      refine z_icmp_eq hC (pc := 942) (tgt := 1509) dL_law_942 rfl (fun c286 => ?_) (fun c286 => ?_)
                                      · have hf := zif_t hf c286
                                        exact w_L_law_b1509 L xs b hC hL hno hQ k23 hk23 (some a278) (some a283) l3 l4 s285 hf
                                      · have hf := zif_f hf c286
                                        refine z_iconst (v := 0) hC (pc := 945) dL_law_945 zki_0 ?_
                                        exact z_lawret hQ.1 dL_law_946 hf
                                    · have hf := zif_f hf c275
                                      by_cases c287 : (v2 &&& 31) = 17
                                      · have hf := zif_t hf c287
                                        refine z_table hC (pc := 40) (tgt := 947) dL_law_40 c287 (by decide) (by decide) rfl rfl ?_
                                        refine z_aload_n hC (pc := 947) dL_law_947 rfl 1 rfl ?_
                                        refine z_aload_n hC (pc := 948) dL_law_948 rfl 0 rfl ?_
                                        refine z_iload hC (pc := 949) dL_law_949 4 rfl ?_
                                        refine z_iconst (v := 1) hC (pc := 951) dL_law_951 zki_1 ?_
                                        refine z_iadd hC (pc := 952) dL_law_952 ?_
                                        refine z_scr hC (pc := 953) hQ.2.1 hQ.2.2 dL_law_953 hf (fun v288 hf => ?_)
                                        refine z_aload_n hC (pc := 954) dL_law_954 rfl 3 rfl ?_
                                        refine z_cI (rest := []) hf (fun v289 s290 hcall => z_runSX hC (pc := 955) 3 (m_X0_critical X.g l1 v288 l3 s0 s290 v289 hcall) (lw_SW q2588 q2589 q94 q2590) hd_X0_critical ⟨(Nat.le_of_ble_eq_true rfl), (Nat.le_of_ble_eq_true rfl)⟩ rfl (Nat.le_of_ble_eq_true rfl) dL_law_955 rfl) (fun v289 s290 hf => ?_)
                                        refine z_istore (lv' := [(5, zi v289), (0, zr (some b)), (1, zr l1), (2, zr l2), (3, zr l3), (4, zi l4)]) hC (pc := 958) hL dL_law_958 (Nat.le_of_ble_eq_true rfl) rfl ?_
                                        refine z_aload_n hC (pc := 960) dL_law_960 rfl 3 rfl ?_
                                        refine z_aload_n hC (pc := 961) dL_law_961 rfl 1 rfl ?_
                                        refine z_iload hC (pc := 962) dL_law_962 5 rfl ?_
                                        refine z_iconst (v := 1) hC (pc := 964) dL_law_964 zki_1 ?_
                                        refine z_iadd hC (pc := 965) dL_law_965 ?_
                                        refine z_scr hC (pc := 966) hQ.2.1 hQ.2.2 dL_law_966 hf (fun v291 hf => ?_)
                                        obtain ⟨a294, fs292, rfl, ha293, hf⟩ := z_rcO hf
                                        refine z_cI (rest := []) hf (fun v295 s296 hcall => z_runV hC (pc := 967) zcX8 1 ha293 (m_X8_critical X.g a294 v291 s290 s296 v295 hcall) (lw_V q3035 q3036 q3037 q108 q3038) hdV_X8_critical ⟨(Nat.le_of_ble_eq_true rfl), (Nat.le_of_ble_eq_true rfl)⟩ rfl (Nat.le_of_ble_eq_true rfl) dL_law_967 rfl) (fun v295 s296 hf => ?_)
                                        refine z_istore (lv' := [(6, zi v295), (5, zi v289), (0, zr (some b)), (1, zr l1), (2, zr (some a294)), (3, zr l3), (4, zi l4)]) hC (pc := 970) hL dL_law_970 (Nat.le_of_ble_eq_true rfl) rfl ?_
                                        refine z_aload_n hC (pc := 972) dL_law_972 rfl 4 rfl ?_
                                        obtain ⟨fs297, ha298, hf⟩ := z_rcN hf
                                        refine z_cI (rest := []) hf (fun v299 s300 hcall => z_runV hC (pc := 973) zcX8 0 ha298 (m_X8_thrown X.g a294 s296 s300 v299 hcall) (lw_V q2750 q2751 q2752 q108 q2753) hdV_X8_thrown ⟨(Nat.le_of_ble_eq_true rfl), (Nat.le_of_ble_eq_true rfl)⟩ rfl (Nat.le_of_ble_eq_true rfl) dL_law_973 rfl) (fun v299 s300 hf => ?_)
                                        refine z_iload hC (pc := 976) dL_law_976 1 rfl ?_
                                        refine z_icmp_eq hC (pc := 978) (tgt := 983) dL_law_978 rfl (fun c301 => ?_) (fun c301 => ?_)
                                        · have hf := zif_t hf c301
                                          refine z_iload hC (pc := 983) dL_law_983 1 rfl ?_
                                          refine z_if_ne hC (pc := 985) (tgt := 1000) dL_law_985 rfl (fun c302 => ?_) (fun c302 => ?_)
                                          · have hf := zif_f hf c302
                                            refine ZW.perm (lv' := [(0, zr (some b)), (1, zr l1), (2, zr (some a294)), (3, zr l3), (4, zi l4)]) [2, 3, 4, 5, 6] rfl ?_
                                            exact w_L_law_b1000 L xs b hC hL hno hQ k23 hk23 l1 (some a294) l3 l4 s300 hf
                                          · have hf := zif_t hf c302
                                            refine z_aload_n hC (pc := 988) dL_law_988 rfl 5 rfl ?_
                                            refine z_iconst (v := 0) hC (pc := 989) dL_law_989 zki_0 ?_
                                            refine z_lald hC (pc := 990) dL_law_990 hf (fun v303 hf => ?_)
                                            refine z_iload hC (pc := 991) dL_law_991 0 rfl ?_
                                            refine z_i2l hC (pc := 993) dL_law_993 ?_
                                            refine z_lcmp hC (pc := 994) dL_law_994 ?_
                                            refine z_if_eq hC (pc := 995) (tgt := 1000) dL_law_995 rfl (fun c304 => ?_) (fun c304 => ?_)
                                            · have hf := zif_t hf c304
                                              refine ZW.perm (lv' := [(0, zr (some b)), (1, zr l1), (2, zr (some a294)), (3, zr l3), (4, zi l4)]) [2, 3, 4, 5, 6] rfl ?_
                                              exact w_L_law_b1000 L xs b hC hL hno hQ k23 hk23 l1 (some a294) l3 l4 s300 hf
                                            · have hf := zif_f hf c304
                                              refine z_iconst (v := 0) hC (pc := 998) dL_law_998 zki_0 ?_
                                              exact z_lawret hQ.1 dL_law_999 hf
                                        · have hf := zif_f hf c301
                                          refine z_iconst (v := 0) hC (pc := 981) dL_law_981 zki_0 ?_
                                          exact z_lawret hQ.1 dL_law_982 hf
                                      · have hf := zif_f hf c287
                                        by_cases c305 : (v2 &&& 31) = 18
                                        · have hf := zif_t hf c305
                                          refine z_table hC (pc := 40) (tgt := 1003) dL_law_40 c305 (by decide) (by decide) rfl rfl ?_
                                          refine z_aload_n hC (pc := 1003) dL_law_1003 rfl 1 rfl ?_
                                          obtain ⟨a308, fs306, rfl, ha307, hf⟩ := z_rcO hf
                                          refine z_cI (rest := []) hf (fun v309 s310 hcall => z_runV hC (pc := 1004) zcX1 0 ha307 (m_X1_blockCount X.g a308 s0 s310 v309 hcall) (lw_V q1611 q1612 q1613 q95 q1614) hdV_X1_blockCount ⟨(Nat.le_of_ble_eq_true rfl), (Nat.le_of_ble_eq_true rfl)⟩ rfl (Nat.le_of_ble_eq_true rfl) dL_law_1004 rfl) (fun v309 s310 hf => ?_)
                                          refine z_aload_n hC (pc := 1007) dL_law_1007 rfl 2 rfl ?_
                                          obtain ⟨a313, fs311, rfl, ha312, hf⟩ := z_rcO hf
                                          refine z_cI (rest := [zi v309]) hf (fun v314 s315 hcall => z_runV hC (pc := 1008) zcX8 0 ha312 (m_X8_blockCount X.g a313 s310 s315 v314 hcall) (lw_V q3039 q3040 q3041 q108 q3042) hdV_X8_blockCount ⟨(Nat.le_of_ble_eq_true rfl), (Nat.le_of_ble_eq_true rfl)⟩ rfl (Nat.le_of_ble_eq_true rfl) dL_law_1008 rfl) (fun v314 s315 hf => ?_)
                                          refine z_icmp_eq hC (pc := 1011) (tgt := 1509) dL_law_1011 rfl (fun c316 => ?_) (fun c316 => ?_)
                                          · have hf := zif_t hf c316
                                            exact w_L_law_b1509 L xs b hC hL hno hQ k23 hk23 (some a308) (some a313) l3 l4 s315 hf
                                          · have hf := zif_f hf c316
                                            refine z_iconst (v := 0) hC (pc := 1014) dL_law_1014 zki_0 ?_
                                            exact z_lawret hQ.1 dL_law_1015 hf
                                        · have hf := zif_f hf c305
                                          by_cases c317 : (v2 &&& 31) = 19
                                          · have hf := zif_t hf c317
                                            refine z_table hC (pc := 40) (tgt := 1016) dL_law_40 c317 (by decide) (by decide) rfl rfl ?_
                                            refine z_aload_n hC (pc := 1016) dL_law_1016 rfl 1 rfl ?_
                                            obtain ⟨a320, fs318, rfl, ha319, hf⟩ := z_rcO hf
                                            refine z_cI (rest := []) hf (fun v321 s322 hcall => z_runV hC (pc := 1017) zcX1 0 ha319 (m_X1_longestBlock X.g a320 s0 s322 v321 hcall) (lw_V q1692 q1693 q1694 q95 q1695) hdV_X1_longestBlock ⟨(Nat.le_of_ble_eq_true rfl), (Nat.le_of_ble_eq_true rfl)⟩ rfl (Nat.le_of_ble_eq_true rfl) dL_law_1017 rfl) (fun v321 s322 hf => ?_)
                                            refine z_aload_n hC (pc := 1020) dL_law_1020 rfl 2 rfl ?_
                                            obtain ⟨a325, fs323, rfl, ha324, hf⟩ := z_rcO hf
                                            refine z_cI (rest := [zi v321]) hf (fun v326 s327 hcall => z_runV hC (pc := 1021) zcX8 0 ha324 (m_X8_longestBlock X.g a325 s322 s327 v326 hcall) (lw_V q3043 q3044 q3045 q108 q3046) hdV_X8_longestBlock ⟨(Nat.le_of_ble_eq_true rfl), (Nat.le_of_ble_eq_true rfl)⟩ rfl (Nat.le_of_ble_eq_true rfl) dL_law_1021 rfl) (fun v326 s327 hf => ?_)
                                            refine z_icmp_eq hC (pc := 1024) (tgt := 1509) dL_law_1024 rfl (fun c328 => ?_) (fun c328 => ?_)
                                            · have hf := zif_t hf c328
                                              exact w_L_law_b1509 L xs b hC hL hno hQ k23 hk23 (some a320) (some a325) l3 l4 s327 hf
                                            · have hf := zif_f hf c328
                                              refine z_iconst (v := 0) hC (pc := 1027) dL_law_1027 zki_0 ?_
                                              exact z_lawret hQ.1 dL_law_1028 hf
                                          · have hf := zif_f hf c317
                                            by_cases c329 : (v2 &&& 31) = 20
                                            · have hf := zif_t hf c329
                                              refine z_table hC (pc := 40) (tgt := 1029) dL_law_40 c329 (by decide) (by decide) rfl rfl ?_
                                              refine z_aload_n hC (pc := 1029) dL_law_1029 rfl 1 rfl ?_
                                              refine z_aload_n hC (pc := 1030) dL_law_1030 rfl 0 rfl ?_
                                              refine z_iload hC (pc := 1031) dL_law_1031 4 rfl ?_
                                              refine z_iconst (v := 1) hC (pc := 1033) dL_law_1033 zki_1 ?_
                                              refine z_iadd hC (pc := 1034) dL_law_1034 ?_
                                              refine z_scr hC (pc := 1035) hQ.2.1 hQ.2.2 dL_law_1035 hf (fun v330 hf => ?_)
                                              refine z_aload_n hC (pc := 1036) dL_law_1036 rfl 0 rfl ?_
                                              refine z_iload hC (pc := 1037) dL_law_1037 4 rfl ?_
                                              refine z_iconst (v := 2) hC (pc := 1039) dL_law_1039 zki_2 ?_
                                              refine z_iadd hC (pc := 1040) dL_law_1040 ?_
                                              refine z_scr hC (pc := 1041) hQ.2.1 hQ.2.2 dL_law_1041 hf (fun v331 hf => ?_)
                                              refine z_aload_n hC (pc := 1042) dL_law_1042 rfl 3 rfl ?_
                                              refine z_cI (rest := []) hf (fun v332 s333 hcall => z_runSX hC (pc := 1043) 4 (m_X0_deadlocks X.g l1 v330 v331 l3 s0 s333 v332 hcall) (lw_SW q2599 q2600 q94 q2601) hd_X0_deadlocks ⟨(Nat.le_of_ble_eq_true rfl), (Nat.le_of_ble_eq_true rfl)⟩ rfl (Nat.le_of_ble_eq_true rfl) dL_law_1043 rfl) (fun v332 s333 hf => ?_)
                                              refine z_istore (lv' := [(5, zi v332), (0, zr (some b)), (1, zr l1), (2, zr l2), (3, zr l3), (4, zi l4)]) hC (pc := 1046) hL dL_law_1046 (Nat.le_of_ble_eq_true rfl) rfl ?_
                                              refine z_aload_n hC (pc := 1048) dL_law_1048 rfl 3 rfl ?_
                                              refine z_aload_n hC (pc := 1049) dL_law_1049 rfl 1 rfl ?_
                                              refine z_iload hC (pc := 1050) dL_law_1050 5 rfl ?_
                                              refine z_iconst (v := 1) hC (pc := 1052) dL_law_1052 zki_1 ?_
                                              refine z_iadd hC (pc := 1053) dL_law_1053 ?_
                                              refine z_scr hC (pc := 1054) hQ.2.1 hQ.2.2 dL_law_1054 hf (fun v334 hf => ?_)
                                              refine z_aload_n hC (pc := 1055) dL_law_1055 rfl 1 rfl ?_
                                              refine z_iload hC (pc := 1056) dL_law_1056 5 rfl ?_
                                              refine z_iconst (v := 2) hC (pc := 1058) dL_law_1058 zki_2 ?_
                                              refine z_iadd hC (pc := 1059) dL_law_1059 ?_
                                              refine z_scr hC (pc := 1060) hQ.2.1 hQ.2.2 dL_law_1060 hf (fun v335 hf => ?_)
                                              obtain ⟨a338, fs336, rfl, ha337, hf⟩ := z_rcO hf
                                              refine z_cI (rest := []) hf (fun v339 s340 hcall => z_runV hC (pc := 1061) zcX8 2 ha337 (m_X8_deadlocks X.g a338 v334 v335 s333 s340 v339 hcall) (lw_V q3047 q3048 q3049 q108 q3050) hdV_X8_deadlocks ⟨(Nat.le_of_ble_eq_true rfl), (Nat.le_of_ble_eq_true rfl)⟩ rfl (Nat.le_of_ble_eq_true rfl) dL_law_1061 rfl) (fun v339 s340 hf => ?_)
                                              refine z_istore (lv' := [(6, zi v339), (5, zi v332), (0, zr (some b)), (1, zr l1), (2, zr (some a338)), (3, zr l3), (4, zi l4)]) hC (pc := 1064) hL dL_law_1064 (Nat.le_of_ble_eq_true rfl) rfl ?_
                                              refine z_aload_n hC (pc := 1066) dL_law_1066 rfl 4 rfl ?_
                                              obtain ⟨fs341, ha342, hf⟩ := z_rcN hf
                                              refine z_cI (rest := []) hf (fun v343 s344 hcall => z_runV hC (pc := 1067) zcX8 0 ha342 (m_X8_thrown X.g a338 s340 s344 v343 hcall) (lw_V q2750 q2751 q2752 q108 q2753) hdV_X8_thrown ⟨(Nat.le_of_ble_eq_true rfl), (Nat.le_of_ble_eq_true rfl)⟩ rfl (Nat.le_of_ble_eq_true rfl) dL_law_1067 rfl) (fun v343 s344 hf => ?_)
                                              refine z_iload hC (pc := 1070) dL_law_1070 1 rfl ?_
                                              refine z_icmp_eq hC (pc := 1072) (tgt := 1077) dL_law_1072 rfl (fun c345 => ?_) (fun c345 => ?_)
                                              · have hf := zif_t hf c345
                                                refine z_iload hC (pc := 1077) dL_law_1077 1 rfl ?_
                                                refine z_if_ne hC (pc := 1079) (tgt := 1101) dL_law_1079 rfl (fun c346 => ?_) (fun c346 => ?_)
                                                · have hf := zif_f hf c346
                                                  refine ZW.perm (lv' := [(0, zr (some b)), (1, zr l1), (2, zr (some a338)), (3, zr l3), (4, zi l4)]) [2, 3, 4, 5, 6] rfl ?_
                                                  exact w_L_law_b1101 L xs b hC hL hno hQ k23 hk23 l1 (some a338) l3 l4 s344 hf
                                                · have hf := zif_t hf c346
                                                  refine z_aload_n hC (pc := 1082) dL_law_1082 rfl 5 rfl ?_
                                                  refine z_iconst (v := 0) hC (pc := 1083) dL_law_1083 zki_0 ?_
                                                  refine z_lald hC (pc := 1084) dL_law_1084 hf (fun v347 hf => ?_)
                                                  refine z_iload hC (pc := 1085) dL_law_1085 0 rfl ?_
                                                  refine z_if_eq hC (pc := 1087) (tgt := 1094) dL_law_1087 rfl (fun c348 => ?_) (fun c348 => ?_)
                                                  · have hf := zif_t hf c348
                                                    refine z_lconst (v := 0) hC (pc := 1094) dL_law_1094 (by decide) ?_
                                                    refine ZW.perm (lv' := [(0, zr (some b)), (1, zr l1), (2, zr (some a338)), (3, zr l3), (4, zi l4)]) [2, 3, 4, 5, 6] rfl ?_
                                                    exact w_L_law_b1095 L xs b hC hL hno hQ k23 hk23 l1 (some a338) l3 l4 0 v347 s344 hf
                                                  · have hf := zif_f hf c348
                                                    refine z_lconst (v := 1) hC (pc := 1090) dL_law_1090 (by decide) ?_
                                                    refine z_goto hC (pc := 1091) (tgt := 1095) dL_law_1091 rfl ?_
                                                    refine ZW.perm (lv' := [(0, zr (some b)), (1, zr l1), (2, zr (some a338)), (3, zr l3), (4, zi l4)]) [2, 3, 4, 5, 6] rfl ?_
                                                    exact w_L_law_b1095 L xs b hC hL hno hQ k23 hk23 l1 (some a338) l3 l4 1 v347 s344 hf
                                              · have hf := zif_f hf c345
                                                refine z_iconst (v := 0) hC (pc := 1075) dL_law_1075 zki_0 ?_
                                                exact z_lawret hQ.1 dL_law_1076 hf
                                            · have hf := zif_f hf c329
                                              by_cases c349 : (v2 &&& 31) = 21
                                              · have hf := zif_t hf c349
                                                refine z_table hC (pc := 40) (tgt := 1104) dL_law_40 c349 (by decide) (by decide) rfl rfl ?_
                                                refine z_aload_n hC (pc := 1104) dL_law_1104 rfl 1 rfl ?_
                                                refine z_aload_n hC (pc := 1105) dL_law_1105 rfl 0 rfl ?_
                                                refine z_iload hC (pc := 1106) dL_law_1106 4 rfl ?_
                                                refine z_iconst (v := 1) hC (pc := 1108) dL_law_1108 zki_1 ?_
                                                refine z_iadd hC (pc := 1109) dL_law_1109 ?_
                                                refine z_scr hC (pc := 1110) hQ.2.1 hQ.2.2 dL_law_1110 hf (fun v350 hf => ?_)
                                                refine z_aload_n hC (pc := 1111) dL_law_1111 rfl 0 rfl ?_
                                                refine z_iload hC (pc := 1112) dL_law_1112 4 rfl ?_
                                                refine z_iconst (v := 2) hC (pc := 1114) dL_law_1114 zki_2 ?_
                                                refine z_iadd hC (pc := 1115) dL_law_1115 ?_
                                                refine z_scr hC (pc := 1116) hQ.2.1 hQ.2.2 dL_law_1116 hf (fun v351 hf => ?_)
                                                refine z_aload_n hC (pc := 1117) dL_law_1117 rfl 3 rfl ?_
                                                refine z_cI (rest := []) hf (fun v352 s353 hcall => z_runSX hC (pc := 1118) 4 (m_X0_makespanAfter X.g l1 v350 v351 l3 s0 s353 v352 hcall) (lw_SW q2614 q2615 q94 q2616) hd_X0_makespanAfter ⟨(Nat.le_of_ble_eq_true rfl), (Nat.le_of_ble_eq_true rfl)⟩ rfl (Nat.le_of_ble_eq_true rfl) dL_law_1118 rfl) (fun v352 s353 hf => ?_)
                                                refine z_istore (lv' := [(5, zi v352), (0, zr (some b)), (1, zr l1), (2, zr l2), (3, zr l3), (4, zi l4)]) hC (pc := 1121) hL dL_law_1121 (Nat.le_of_ble_eq_true rfl) rfl ?_
                                                refine z_aload_n hC (pc := 1123) dL_law_1123 rfl 3 rfl ?_
                                                refine z_aload_n hC (pc := 1124) dL_law_1124 rfl 1 rfl ?_
                                                refine z_iload hC (pc := 1125) dL_law_1125 5 rfl ?_
                                                refine z_iconst (v := 1) hC (pc := 1127) dL_law_1127 zki_1 ?_
                                                refine z_iadd hC (pc := 1128) dL_law_1128 ?_
                                                refine z_scr hC (pc := 1129) hQ.2.1 hQ.2.2 dL_law_1129 hf (fun v354 hf => ?_)
                                                refine z_aload_n hC (pc := 1130) dL_law_1130 rfl 1 rfl ?_
                                                refine z_iload hC (pc := 1131) dL_law_1131 5 rfl ?_
                                                refine z_iconst (v := 2) hC (pc := 1133) dL_law_1133 zki_2 ?_
                                                refine z_iadd hC (pc := 1134) dL_law_1134 ?_
                                                refine z_scr hC (pc := 1135) hQ.2.1 hQ.2.2 dL_law_1135 hf (fun v355 hf => ?_)
                                                obtain ⟨a358, fs356, rfl, ha357, hf⟩ := z_rcO hf
                                                refine z_cI (rest := []) hf (fun v359 s360 hcall => z_runV hC (pc := 1136) zcX8 2 ha357 (m_X8_makespanAfter X.g a358 v354 v355 s353 s360 v359 hcall) (lw_V q3071 q3072 q3073 q108 q3074) hdV_X8_makespanAfter ⟨(Nat.le_of_ble_eq_true rfl), (Nat.le_of_ble_eq_true rfl)⟩ rfl (Nat.le_of_ble_eq_true rfl) dL_law_1136 rfl) (fun v359 s360 hf => ?_)
                                                refine z_istore (lv' := [(6, zi v359), (5, zi v352), (0, zr (some b)), (1, zr l1), (2, zr (some a358)), (3, zr l3), (4, zi l4)]) hC (pc := 1139) hL dL_law_1139 (Nat.le_of_ble_eq_true rfl) rfl ?_
                                                refine z_aload_n hC (pc := 1141) dL_law_1141 rfl 4 rfl ?_
                                                obtain ⟨fs361, ha362, hf⟩ := z_rcN hf
                                                refine z_cI (rest := []) hf (fun v363 s364 hcall => z_runV hC (pc := 1142) zcX8 0 ha362 (m_X8_thrown X.g a358 s360 s364 v363 hcall) (lw_V q2750 q2751 q2752 q108 q2753) hdV_X8_thrown ⟨(Nat.le_of_ble_eq_true rfl), (Nat.le_of_ble_eq_true rfl)⟩ rfl (Nat.le_of_ble_eq_true rfl) dL_law_1142 rfl) (fun v363 s364 hf => ?_)
                                                refine z_iload hC (pc := 1145) dL_law_1145 1 rfl ?_
                                                refine z_icmp_eq hC (pc := 1147) (tgt := 1152) dL_law_1147 rfl (fun c365 => ?_) (fun c365 => ?_)
                                                · have hf := zif_t hf c365
                                                  refine z_iload hC (pc := 1152) dL_law_1152 1 rfl ?_
                                                  refine z_if_ne hC (pc := 1154) (tgt := 1169) dL_law_1154 rfl (fun c366 => ?_) (fun c366 => ?_)
                                                  · have hf := zif_f hf c366
                                                    refine ZW.perm (lv' := [(0, zr (some b)), (1, zr l1), (2, zr (some a358)), (3, zr l3), (4, zi l4)]) [2, 3, 4, 5, 6] rfl ?_
                                                    exact w_L_law_b1169 L xs b hC hL hno hQ k23 hk23 l1 (some a358) l3 l4 s364 hf
                                                  · have hf := zif_t hf c366
                                                    refine z_aload_n hC (pc := 1157) dL_law_1157 rfl 5 rfl ?_
                                                    refine z_iconst (v := 0) hC (pc := 1158) dL_law_1158 zki_0 ?_
                                                    refine z_lald hC (pc := 1159) dL_law_1159 hf (fun v367 hf => ?_)
                                                    refine z_iload hC (pc := 1160) dL_law_1160 0 rfl ?_
                                                    refine z_i2l hC (pc := 1162) dL_law_1162 ?_
                                                    refine z_lcmp hC (pc := 1163) dL_law_1163 ?_
                                                    refine z_if_eq hC (pc := 1164) (tgt := 1169) dL_law_1164 rfl (fun c368 => ?_) (fun c368 => ?_)
                                                    · have hf := zif_t hf c368
                                                      refine ZW.perm (lv' := [(0, zr (some b)), (1, zr l1), (2, zr (some a358)), (3, zr l3), (4, zi l4)]) [2, 3, 4, 5, 6] rfl ?_
                                                      exact w_L_law_b1169 L xs b hC hL hno hQ k23 hk23 l1 (some a358) l3 l4 s364 hf
                                                    · have hf := zif_f hf c368
                                                      refine z_iconst (v := 0) hC (pc := 1167) dL_law_1167 zki_0 ?_
                                                      exact z_lawret hQ.1 dL_law_1168 hf
                                                · have hf := zif_f hf c365
                                                  refine z_iconst (v := 0) hC (pc := 1150) dL_law_1150 zki_0 ?_
                                                  exact z_lawret hQ.1 dL_law_1151 hf
                                              · have hf := zif_f hf c349
                                                by_cases c369 : (v2 &&& 31) = 22
                                                · have hf := zif_t hf c369
                                                  refine z_table hC (pc := 40) (tgt := 1172) dL_law_40 c369 (by decide) (by decide) rfl rfl ?_
                                                  refine z_aload_n hC (pc := 1172) dL_law_1172 rfl 1 rfl ?_
                                                  obtain ⟨a372, fs370, rfl, ha371, hf⟩ := z_rcO hf
                                                  refine z_cI (rest := []) hf (fun v373 s374 hcall => z_runV hC (pc := 1173) zcX1 0 ha371 (m_X1_bestSwap X.g a372 s0 s374 v373 hcall) (lw_V q1842 q1843 q1844 q95 q1845) hdV_X1_bestSwap ⟨(Nat.le_of_ble_eq_true rfl), (Nat.le_of_ble_eq_true rfl)⟩ rfl (Nat.le_of_ble_eq_true rfl) dL_law_1173 rfl) (fun v373 s374 hf => ?_)
                                                  refine z_aload_n hC (pc := 1176) dL_law_1176 rfl 2 rfl ?_
                                                  obtain ⟨a377, fs375, rfl, ha376, hf⟩ := z_rcO hf
                                                  refine z_cI (rest := [zi v373]) hf (fun v378 s379 hcall => z_runV hC (pc := 1177) zcX8 0 ha376 (m_X8_bestSwap X.g a377 s374 s379 v378 hcall) (lw_V q3075 q3076 q3077 q108 q3078) hdV_X8_bestSwap ⟨(Nat.le_of_ble_eq_true rfl), (Nat.le_of_ble_eq_true rfl)⟩ rfl (Nat.le_of_ble_eq_true rfl) dL_law_1177 rfl) (fun v378 s379 hf => ?_)
                                                  refine z_icmp_eq hC (pc := 1180) (tgt := 1509) dL_law_1180 rfl (fun c380 => ?_) (fun c380 => ?_)
                                                  · have hf := zif_t hf c380
                                                    exact w_L_law_b1509 L xs b hC hL hno hQ k23 hk23 (some a372) (some a377) l3 l4 s379 hf
                                                  · have hf := zif_f hf c380
                                                    refine z_iconst (v := 0) hC (pc := 1183) dL_law_1183 zki_0 ?_
                                                    exact z_lawret hQ.1 dL_law_1184 hf
                                                · have hf := zif_f hf c369
                                                  by_cases c381 : (v2 &&& 31) = 23
                                                  · have hf := zif_t hf c381
                                                    refine z_table hC (pc := 40) (tgt := 1185) dL_law_40 c381 (by decide) (by decide) rfl rfl ?_
                                                    refine z_aload_n hC (pc := 1185) dL_law_1185 rfl 1 rfl ?_
                                                    refine z_aload_n hC (pc := 1186) dL_law_1186 rfl 0 rfl ?_
                                                    refine z_iload hC (pc := 1187) dL_law_1187 4 rfl ?_
                                                    refine z_iconst (v := 1) hC (pc := 1189) dL_law_1189 zki_1 ?_
                                                    refine z_iadd hC (pc := 1190) dL_law_1190 ?_
                                                    refine z_scr hC (pc := 1191) hQ.2.1 hQ.2.2 dL_law_1191 hf (fun v382 hf => ?_)
                                                    refine z_aload_n hC (pc := 1192) dL_law_1192 rfl 0 rfl ?_
                                                    refine z_iload hC (pc := 1193) dL_law_1193 4 rfl ?_
                                                    refine z_iconst (v := 2) hC (pc := 1195) dL_law_1195 zki_2 ?_
                                                    refine z_iadd hC (pc := 1196) dL_law_1196 ?_
                                                    refine z_scr hC (pc := 1197) hQ.2.1 hQ.2.2 dL_law_1197 hf (fun v383 hf => ?_)
                                                    refine z_aload_n hC (pc := 1198) dL_law_1198 rfl 3 rfl ?_
                                                    refine z_cI (rest := []) hf (fun v384 s385 hcall => z_runSX hC (pc := 1199) 4 (m_X0_swap X.g l1 v382 v383 l3 s0 s385 v384 hcall) (lw_SW q2618 q2619 q94 q2620) hd_X0_swap ⟨(Nat.le_of_ble_eq_true rfl), (Nat.le_of_ble_eq_true rfl)⟩ rfl (Nat.le_of_ble_eq_true rfl) dL_law_1199 rfl) (fun v384 s385 hf => ?_)
                                                    refine z_istore (lv' := [(5, zi v384), (0, zr (some b)), (1, zr l1), (2, zr l2), (3, zr l3), (4, zi l4)]) hC (pc := 1202) hL dL_law_1202 (Nat.le_of_ble_eq_true rfl) rfl ?_
                                                    refine z_aload_n hC (pc := 1204) dL_law_1204 rfl 3 rfl ?_
                                                    refine z_aload_n hC (pc := 1205) dL_law_1205 rfl 1 rfl ?_
                                                    refine z_iload hC (pc := 1206) dL_law_1206 5 rfl ?_
                                                    refine z_iconst (v := 1) hC (pc := 1208) dL_law_1208 zki_1 ?_
                                                    refine z_iadd hC (pc := 1209) dL_law_1209 ?_
                                                    refine z_scr hC (pc := 1210) hQ.2.1 hQ.2.2 dL_law_1210 hf (fun v386 hf => ?_)
                                                    refine z_aload_n hC (pc := 1211) dL_law_1211 rfl 1 rfl ?_
                                                    refine z_iload hC (pc := 1212) dL_law_1212 5 rfl ?_
                                                    refine z_iconst (v := 2) hC (pc := 1214) dL_law_1214 zki_2 ?_
                                                    refine z_iadd hC (pc := 1215) dL_law_1215 ?_
                                                    refine z_scr hC (pc := 1216) hQ.2.1 hQ.2.2 dL_law_1216 hf (fun v387 hf => ?_)
                                                    obtain ⟨a390, fs388, rfl, ha389, hf⟩ := z_rcO hf
                                                    refine z_cI (rest := []) hf (fun v391 s392 hcall => z_runV hC (pc := 1217) zcX8 2 ha389 (m_X8_swap X.g a390 v386 v387 s385 s392 v391 hcall) (lw_V q3086 q3087 q3088 q108 q3089) hdV_X8_swap ⟨(Nat.le_of_ble_eq_true rfl), (Nat.le_of_ble_eq_true rfl)⟩ rfl (Nat.le_of_ble_eq_true rfl) dL_law_1217 rfl) (fun v391 s392 hf => ?_)
                                                    refine z_istore (lv' := [(6, zi v391), (5, zi v384), (0, zr (some b)), (1, zr l1), (2, zr (some a390)), (3, zr l3), (4, zi l4)]) hC (pc := 1220) hL dL_law_1220 (Nat.le_of_ble_eq_true rfl) rfl ?_
                                                    refine z_aload_n hC (pc := 1222) dL_law_1222 rfl 4 rfl ?_
                                                    obtain ⟨fs393, ha394, hf⟩ := z_rcN hf
                                                    refine z_cI (rest := []) hf (fun v395 s396 hcall => z_runV hC (pc := 1223) zcX8 0 ha394 (m_X8_thrown X.g a390 s392 s396 v395 hcall) (lw_V q2750 q2751 q2752 q108 q2753) hdV_X8_thrown ⟨(Nat.le_of_ble_eq_true rfl), (Nat.le_of_ble_eq_true rfl)⟩ rfl (Nat.le_of_ble_eq_true rfl) dL_law_1223 rfl) (fun v395 s396 hf => ?_)
                                                    refine z_iload hC (pc := 1226) dL_law_1226 1 rfl ?_
                                                    refine z_icmp_eq hC (pc := 1228) (tgt := 1233) dL_law_1228 rfl (fun c397 => ?_) (fun c397 => ?_)
                                                    · have hf := zif_t hf c397
                                                      refine z_iload hC (pc := 1233) dL_law_1233 1 rfl ?_
                                                      refine z_if_ne hC (pc := 1235) (tgt := 1250) dL_law_1235 rfl (fun c398 => ?_) (fun c398 => ?_)
                                                      · have hf := zif_f hf c398
                                                        refine ZW.perm (lv' := [(0, zr (some b)), (1, zr l1), (2, zr (some a390)), (3, zr l3), (4, zi l4)]) [2, 3, 4, 5, 6] rfl ?_
                                                        exact w_L_law_b1250 L xs b hC hL hno hQ k23 hk23 l1 (some a390) l3 l4 s396 hf
                                                      · have hf := zif_t hf c398
                                                        refine z_aload_n hC (pc := 1238) dL_law_1238 rfl 5 rfl ?_
                                                        refine z_iconst (v := 0) hC (pc := 1239) dL_law_1239 zki_0 ?_
                                                        refine z_lald hC (pc := 1240) dL_law_1240 hf (fun v399 hf => ?_)
                                                        refine z_iload hC (pc := 1241) dL_law_1241 0 rfl ?_
                                                        refine z_i2l hC (pc := 1243) dL_law_1243 ?_
                                                        refine z_lcmp hC (pc := 1244) dL_law_1244 ?_
                                                        refine z_if_eq hC (pc := 1245) (tgt := 1250) dL_law_1245 rfl (fun c400 => ?_) (fun c400 => ?_)
                                                        · have hf := zif_t hf c400
                                                          refine ZW.perm (lv' := [(0, zr (some b)), (1, zr l1), (2, zr (some a390)), (3, zr l3), (4, zi l4)]) [2, 3, 4, 5, 6] rfl ?_
                                                          exact w_L_law_b1250 L xs b hC hL hno hQ k23 hk23 l1 (some a390) l3 l4 s396 hf
                                                        · have hf := zif_f hf c400
                                                          refine z_iconst (v := 0) hC (pc := 1248) dL_law_1248 zki_0 ?_
                                                          exact z_lawret hQ.1 dL_law_1249 hf
                                                    · have hf := zif_f hf c397
                                                      refine z_iconst (v := 0) hC (pc := 1231) dL_law_1231 zki_0 ?_
                                                      exact z_lawret hQ.1 dL_law_1232 hf
                                                  · have hf := zif_f hf c381
                                                    by_cases c401 : (v2 &&& 31) = 24
                                                    · have hf := zif_t hf c401
                                                      refine z_table hC (pc := 40) (tgt := 1253) dL_law_40 c401 (by decide) (by decide) rfl rfl ?_
                                                      refine z_aload_n hC (pc := 1253) dL_law_1253 rfl 1 rfl ?_
                                                      refine z_aload_n hC (pc := 1254) dL_law_1254 rfl 0 rfl ?_
                                                      refine z_iload hC (pc := 1255) dL_law_1255 4 rfl ?_
                                                      refine z_iconst (v := 1) hC (pc := 1257) dL_law_1257 zki_1 ?_
                                                      refine z_iadd hC (pc := 1258) dL_law_1258 ?_
                                                      refine z_scr hC (pc := 1259) hQ.2.1 hQ.2.2 dL_law_1259 hf (fun v402 hf => ?_)
                                                      refine z_aload_n hC (pc := 1260) dL_law_1260 rfl 3 rfl ?_
                                                      refine z_cI (rest := []) hf (fun v403 s404 hcall => z_runSX hC (pc := 1261) 3 (m_X0_improve X.g l1 v402 l3 s0 s404 v403 hcall) (lw_SW q2638 q2639 q94 q2640) hd_X0_improve ⟨(Nat.le_of_ble_eq_true rfl), (Nat.le_of_ble_eq_true rfl)⟩ rfl (Nat.le_of_ble_eq_true rfl) dL_law_1261 rfl) (fun v403 s404 hf => ?_)
                                                      refine z_istore (lv' := [(5, zi v403), (0, zr (some b)), (1, zr l1), (2, zr l2), (3, zr l3), (4, zi l4)]) hC (pc := 1264) hL dL_law_1264 (Nat.le_of_ble_eq_true rfl) rfl ?_
                                                      refine z_aload_n hC (pc := 1266) dL_law_1266 rfl 3 rfl ?_
                                                      refine z_aload_n hC (pc := 1267) dL_law_1267 rfl 1 rfl ?_
                                                      refine z_iload hC (pc := 1268) dL_law_1268 5 rfl ?_
                                                      refine z_iconst (v := 1) hC (pc := 1270) dL_law_1270 zki_1 ?_
                                                      refine z_iadd hC (pc := 1271) dL_law_1271 ?_
                                                      refine z_scr hC (pc := 1272) hQ.2.1 hQ.2.2 dL_law_1272 hf (fun v405 hf => ?_)
                                                      obtain ⟨a408, fs406, rfl, ha407, hf⟩ := z_rcO hf
                                                      refine z_cI (rest := []) hf (fun v409 s410 hcall => z_runV hC (pc := 1273) zcX8 1 ha407 (m_X8_improve X.g a408 v405 s404 s410 v409 hcall) (lw_V q3090 q3091 q3092 q108 q3093) hdV_X8_improve ⟨(Nat.le_of_ble_eq_true rfl), (Nat.le_of_ble_eq_true rfl)⟩ rfl (Nat.le_of_ble_eq_true rfl) dL_law_1273 rfl) (fun v409 s410 hf => ?_)
                                                      refine z_istore (lv' := [(6, zi v409), (5, zi v403), (0, zr (some b)), (1, zr l1), (2, zr (some a408)), (3, zr l3), (4, zi l4)]) hC (pc := 1276) hL dL_law_1276 (Nat.le_of_ble_eq_true rfl) rfl ?_
                                                      refine z_aload_n hC (pc := 1278) dL_law_1278 rfl 4 rfl ?_
                                                      obtain ⟨fs411, ha412, hf⟩ := z_rcN hf
                                                      refine z_cI (rest := []) hf (fun v413 s414 hcall => z_runV hC (pc := 1279) zcX8 0 ha412 (m_X8_thrown X.g a408 s410 s414 v413 hcall) (lw_V q2750 q2751 q2752 q108 q2753) hdV_X8_thrown ⟨(Nat.le_of_ble_eq_true rfl), (Nat.le_of_ble_eq_true rfl)⟩ rfl (Nat.le_of_ble_eq_true rfl) dL_law_1279 rfl) (fun v413 s414 hf => ?_)
                                                      refine z_iload hC (pc := 1282) dL_law_1282 1 rfl ?_
                                                      refine z_icmp_eq hC (pc := 1284) (tgt := 1289) dL_law_1284 rfl (fun c415 => ?_) (fun c415 => ?_)
                                                      · have hf := zif_t hf c415
                                                        refine z_iload hC (pc := 1289) dL_law_1289 1 rfl ?_
                                                        refine z_if_ne hC (pc := 1291) (tgt := 1306) dL_law_1291 rfl (fun c416 => ?_) (fun c416 => ?_)
                                                        · have hf := zif_f hf c416
                                                          refine ZW.perm (lv' := [(0, zr (some b)), (1, zr l1), (2, zr (some a408)), (3, zr l3), (4, zi l4)]) [2, 3, 4, 5, 6] rfl ?_
                                                          exact w_L_law_b1306 L xs b hC hL hno hQ k23 hk23 l1 (some a408) l3 l4 s414 hf
                                                        · have hf := zif_t hf c416
                                                          refine z_aload_n hC (pc := 1294) dL_law_1294 rfl 5 rfl ?_
                                                          refine z_iconst (v := 0) hC (pc := 1295) dL_law_1295 zki_0 ?_
                                                          refine z_lald hC (pc := 1296) dL_law_1296 hf (fun v417 hf => ?_)
                                                          refine z_iload hC (pc := 1297) dL_law_1297 0 rfl ?_
                                                          refine z_i2l hC (pc := 1299) dL_law_1299 ?_
                                                          refine z_lcmp hC (pc := 1300) dL_law_1300 ?_
                                                          refine z_if_eq hC (pc := 1301) (tgt := 1306) dL_law_1301 rfl (fun c418 => ?_) (fun c418 => ?_)
                                                          · have hf := zif_t hf c418
                                                            refine ZW.perm (lv' := [(0, zr (some b)), (1, zr l1), (2, zr (some a408)), (3, zr l3), (4, zi l4)]) [2, 3, 4, 5, 6] rfl ?_
                                                            exact w_L_law_b1306 L xs b hC hL hno hQ k23 hk23 l1 (some a408) l3 l4 s414 hf
                                                          · have hf := zif_f hf c418
                                                            refine z_iconst (v := 0) hC (pc := 1304) dL_law_1304 zki_0 ?_
                                                            exact z_lawret hQ.1 dL_law_1305 hf
                                                      · have hf := zif_f hf c415
                                                        refine z_iconst (v := 0) hC (pc := 1287) dL_law_1287 zki_0 ?_
                                                        exact z_lawret hQ.1 dL_law_1288 hf
                                                    · have hf := zif_f hf c401
                                                      by_cases c419 : (v2 &&& 31) = 25
                                                      · have hf := zif_t hf c419
                                                        refine z_table hC (pc := 40) (tgt := 1309) dL_law_40 c419 (by decide) (by decide) rfl rfl ?_
                                                        refine z_aload_n hC (pc := 1309) dL_law_1309 rfl 1 rfl ?_
                                                        refine z_aload_n hC (pc := 1310) dL_law_1310 rfl 0 rfl ?_
                                                        refine z_iload hC (pc := 1311) dL_law_1311 4 rfl ?_
                                                        refine z_iconst (v := 1) hC (pc := 1313) dL_law_1313 zki_1 ?_
                                                        refine z_iadd hC (pc := 1314) dL_law_1314 ?_
                                                        refine z_scr hC (pc := 1315) hQ.2.1 hQ.2.2 dL_law_1315 hf (fun v420 hf => ?_)
                                                        refine z_aload_n hC (pc := 1316) dL_law_1316 rfl 0 rfl ?_
                                                        refine z_iload hC (pc := 1317) dL_law_1317 4 rfl ?_
                                                        refine z_iconst (v := 2) hC (pc := 1319) dL_law_1319 zki_2 ?_
                                                        refine z_iadd hC (pc := 1320) dL_law_1320 ?_
                                                        refine z_scr hC (pc := 1321) hQ.2.1 hQ.2.2 dL_law_1321 hf (fun v421 hf => ?_)
                                                        refine z_aload_n hC (pc := 1322) dL_law_1322 rfl 0 rfl ?_
                                                        refine z_iload hC (pc := 1323) dL_law_1323 4 rfl ?_
                                                        refine z_iconst (v := 3) hC (pc := 1325) dL_law_1325 zki_3 ?_
                                                        refine z_iadd hC (pc := 1326) dL_law_1326 ?_
                                                        refine z_scr hC (pc := 1327) hQ.2.1 hQ.2.2 dL_law_1327 hf (fun v422 hf => ?_)
                                                        refine z_aload_n hC (pc := 1328) dL_law_1328 rfl 3 rfl ?_
                                                        refine z_cI (rest := []) hf (fun v423 s424 hcall => z_runSX hC (pc := 1329) 5 (m_X0_place X.g l1 v420 v421 v422 l3 s0 s424 v423 hcall) (lw_SW q2646 q2647 q94 q2648) hd_X0_place ⟨(Nat.le_of_ble_eq_true rfl), (Nat.le_of_ble_eq_true rfl)⟩ rfl (Nat.le_of_ble_eq_true rfl) dL_law_1329 rfl) (fun v423 s424 hf => ?_)
                                                        refine z_istore (lv' := [(5, zi v423), (0, zr (some b)), (1, zr l1), (2, zr l2), (3, zr l3), (4, zi l4)]) hC (pc := 1332) hL dL_law_1332 (Nat.le_of_ble_eq_true rfl) rfl ?_
                                                        refine z_aload_n hC (pc := 1334) dL_law_1334 rfl 3 rfl ?_
                                                        refine z_aload_n hC (pc := 1335) dL_law_1335 rfl 1 rfl ?_
                                                        refine z_iload hC (pc := 1336) dL_law_1336 5 rfl ?_
                                                        refine z_iconst (v := 1) hC (pc := 1338) dL_law_1338 zki_1 ?_
                                                        refine z_iadd hC (pc := 1339) dL_law_1339 ?_
                                                        refine z_scr hC (pc := 1340) hQ.2.1 hQ.2.2 dL_law_1340 hf (fun v425 hf => ?_)
                                                        refine z_aload_n hC (pc := 1341) dL_law_1341 rfl 1 rfl ?_
                                                        refine z_iload hC (pc := 1342) dL_law_1342 5 rfl ?_
                                                        refine z_iconst (v := 2) hC (pc := 1344) dL_law_1344 zki_2 ?_
                                                        refine z_iadd hC (pc := 1345) dL_law_1345 ?_
                                                        refine z_scr hC (pc := 1346) hQ.2.1 hQ.2.2 dL_law_1346 hf (fun v426 hf => ?_)
                                                        refine z_aload_n hC (pc := 1347) dL_law_1347 rfl 1 rfl ?_
                                                        refine z_iload hC (pc := 1348) dL_law_1348 5 rfl ?_
                                                        refine z_iconst (v := 3) hC (pc := 1350) dL_law_1350 zki_3 ?_
                                                        refine z_iadd hC (pc := 1351) dL_law_1351 ?_
                                                        refine z_scr hC (pc := 1352) hQ.2.1 hQ.2.2 dL_law_1352 hf (fun v427 hf => ?_)
                                                        obtain ⟨a430, fs428, rfl, ha429, hf⟩ := z_rcO hf
                                                        refine z_cI (rest := []) hf (fun v431 s432 hcall => z_runV hC (pc := 1353) zcX8 3 ha429 (m_X8_place X.g a430 v425 v426 v427 s424 s432 v431 hcall) (lw_V q3094 q3095 q3096 q108 q3097) hdV_X8_place ⟨(Nat.le_of_ble_eq_true rfl), (Nat.le_of_ble_eq_true rfl)⟩ rfl (Nat.le_of_ble_eq_true rfl) dL_law_1353 rfl) (fun v431 s432 hf => ?_)
                                                        refine z_istore (lv' := [(6, zi v431), (5, zi v423), (0, zr (some b)), (1, zr l1), (2, zr (some a430)), (3, zr l3), (4, zi l4)]) hC (pc := 1356) hL dL_law_1356 (Nat.le_of_ble_eq_true rfl) rfl ?_
                                                        refine z_aload_n hC (pc := 1358) dL_law_1358 rfl 4 rfl ?_
                                                        obtain ⟨fs433, ha434, hf⟩ := z_rcN hf
                                                        refine z_cI (rest := []) hf (fun v435 s436 hcall => z_runV hC (pc := 1359) zcX8 0 ha434 (m_X8_thrown X.g a430 s432 s436 v435 hcall) (lw_V q2750 q2751 q2752 q108 q2753) hdV_X8_thrown ⟨(Nat.le_of_ble_eq_true rfl), (Nat.le_of_ble_eq_true rfl)⟩ rfl (Nat.le_of_ble_eq_true rfl) dL_law_1359 rfl) (fun v435 s436 hf => ?_)
                                                        refine z_iload hC (pc := 1362) dL_law_1362 1 rfl ?_
                                                        refine z_icmp_eq hC (pc := 1364) (tgt := 1369) dL_law_1364 rfl (fun c437 => ?_) (fun c437 => ?_)
                                                        · have hf := zif_t hf c437
                                                          refine z_iload hC (pc := 1369) dL_law_1369 1 rfl ?_
                                                          refine z_if_ne hC (pc := 1371) (tgt := 1386) dL_law_1371 rfl (fun c438 => ?_) (fun c438 => ?_)
                                                          · have hf := zif_f hf c438
                                                            refine ZW.perm (lv' := [(0, zr (some b)), (1, zr l1), (2, zr (some a430)), (3, zr l3), (4, zi l4)]) [2, 3, 4, 5, 6] rfl ?_
                                                            exact w_L_law_b1386 L xs b hC hL hno hQ k23 hk23 l1 (some a430) l3 l4 s436 hf
                                                          · have hf := zif_t hf c438
                                                            refine z_aload_n hC (pc := 1374) dL_law_1374 rfl 5 rfl ?_
                                                            refine z_iconst (v := 0) hC (pc := 1375) dL_law_1375 zki_0 ?_
                                                            refine z_lald hC (pc := 1376) dL_law_1376 hf (fun v439 hf => ?_)
                                                            refine z_iload hC (pc := 1377) dL_law_1377 0 rfl ?_
                                                            refine z_i2l hC (pc := 1379) dL_law_1379 ?_
                                                            refine z_lcmp hC (pc := 1380) dL_law_1380 ?_
                                                            refine z_if_eq hC (pc := 1381) (tgt := 1386) dL_law_1381 rfl (fun c440 => ?_) (fun c440 => ?_)
                                                            · have hf := zif_t hf c440
                                                              refine ZW.perm (lv' := [(0, zr (some b)), (1, zr l1), (2, zr (some a430)), (3, zr l3), (4, zi l4)]) [2, 3, 4, 5, 6] rfl ?_
                                                              exact w_L_law_b1386 L xs b hC hL hno hQ k23 hk23 l1 (some a430) l3 l4 s436 hf
                                                            · have hf := zif_f hf c440
                                                              refine z_iconst (v := 0) hC (pc := 1384) dL_law_1384 zki_0 ?_
                                                              exact z_lawret hQ.1 dL_law_1385 hf
                                                        · have hf := zif_f hf c437
                                                          refine z_iconst (v := 0) hC (pc := 1367) dL_law_1367 zki_0 ?_
                                                          exact z_lawret hQ.1 dL_law_1368 hf
                                                      · have hf := zif_f hf c419
                                                        by_cases c441 : (v2 &&& 31) = 26
                                                        · have hf := zif_t hf c441
                                                          refine z_table hC (pc := 40) (tgt := 1389) dL_law_40 c441 (by decide) (by decide) rfl rfl ?_
                                                          refine z_aload_n hC (pc := 1389) dL_law_1389 rfl 1 rfl ?_
                                                          refine z_aload_n hC (pc := 1390) dL_law_1390 rfl 0 rfl ?_
                                                          refine z_iload hC (pc := 1391) dL_law_1391 4 rfl ?_
                                                          refine z_iconst (v := 1) hC (pc := 1393) dL_law_1393 zki_1 ?_
                                                          refine z_iadd hC (pc := 1394) dL_law_1394 ?_
                                                          refine z_scr hC (pc := 1395) hQ.2.1 hQ.2.2 dL_law_1395 hf (fun v442 hf => ?_)
                                                          refine z_aload_n hC (pc := 1396) dL_law_1396 rfl 0 rfl ?_
                                                          refine z_iload hC (pc := 1397) dL_law_1397 4 rfl ?_
                                                          refine z_iconst (v := 2) hC (pc := 1399) dL_law_1399 zki_2 ?_
                                                          refine z_iadd hC (pc := 1400) dL_law_1400 ?_
                                                          refine z_scr hC (pc := 1401) hQ.2.1 hQ.2.2 dL_law_1401 hf (fun v443 hf => ?_)
                                                          refine z_aload_n hC (pc := 1402) dL_law_1402 rfl 0 rfl ?_
                                                          refine z_iload hC (pc := 1403) dL_law_1403 4 rfl ?_
                                                          refine z_iconst (v := 3) hC (pc := 1405) dL_law_1405 zki_3 ?_
                                                          refine z_iadd hC (pc := 1406) dL_law_1406 ?_
                                                          refine z_scr hC (pc := 1407) hQ.2.1 hQ.2.2 dL_law_1407 hf (fun v444 hf => ?_)
                                                          refine z_aload_n hC (pc := 1408) dL_law_1408 rfl 3 rfl ?_
                                                          refine z_cI (rest := []) hf (fun v445 s446 hcall => z_runSX hC (pc := 1409) 5 (m_X0_setDuration X.g l1 v442 v443 v444 l3 s0 s446 v445 hcall) (lw_SW q2658 q2659 q94 q2660) hd_X0_setDuration ⟨(Nat.le_of_ble_eq_true rfl), (Nat.le_of_ble_eq_true rfl)⟩ rfl (Nat.le_of_ble_eq_true rfl) dL_law_1409 rfl) (fun v445 s446 hf => ?_)
                                                          refine z_istore (lv' := [(5, zi v445), (0, zr (some b)), (1, zr l1), (2, zr l2), (3, zr l3), (4, zi l4)]) hC (pc := 1412) hL dL_law_1412 (Nat.le_of_ble_eq_true rfl) rfl ?_
                                                          refine z_aload_n hC (pc := 1414) dL_law_1414 rfl 3 rfl ?_
                                                          refine z_aload_n hC (pc := 1415) dL_law_1415 rfl 1 rfl ?_
                                                          refine z_iload hC (pc := 1416) dL_law_1416 5 rfl ?_
                                                          refine z_iconst (v := 1) hC (pc := 1418) dL_law_1418 zki_1 ?_
                                                          refine z_iadd hC (pc := 1419) dL_law_1419 ?_
                                                          refine z_scr hC (pc := 1420) hQ.2.1 hQ.2.2 dL_law_1420 hf (fun v447 hf => ?_)
                                                          refine z_aload_n hC (pc := 1421) dL_law_1421 rfl 1 rfl ?_
                                                          refine z_iload hC (pc := 1422) dL_law_1422 5 rfl ?_
                                                          refine z_iconst (v := 2) hC (pc := 1424) dL_law_1424 zki_2 ?_
                                                          refine z_iadd hC (pc := 1425) dL_law_1425 ?_
                                                          refine z_scr hC (pc := 1426) hQ.2.1 hQ.2.2 dL_law_1426 hf (fun v448 hf => ?_)
                                                          refine z_aload_n hC (pc := 1427) dL_law_1427 rfl 1 rfl ?_
                                                          refine z_iload hC (pc := 1428) dL_law_1428 5 rfl ?_
                                                          refine z_iconst (v := 3) hC (pc := 1430) dL_law_1430 zki_3 ?_
                                                          refine z_iadd hC (pc := 1431) dL_law_1431 ?_
                                                          refine z_scr hC (pc := 1432) hQ.2.1 hQ.2.2 dL_law_1432 hf (fun v449 hf => ?_)
                                                          obtain ⟨a452, fs450, rfl, ha451, hf⟩ := z_rcO hf
                                                          refine z_cI (rest := []) hf (fun v453 s454 hcall => z_runV hC (pc := 1433) zcX8 3 ha451 (m_X8_setDuration X.g a452 v447 v448 v449 s446 s454 v453 hcall) (lw_V q3102 q3103 q3104 q108 q3105) hdV_X8_setDuration ⟨(Nat.le_of_ble_eq_true rfl), (Nat.le_of_ble_eq_true rfl)⟩ rfl (Nat.le_of_ble_eq_true rfl) dL_law_1433 rfl) (fun v453 s454 hf => ?_)
                                                          refine z_istore (lv' := [(6, zi v453), (5, zi v445), (0, zr (some b)), (1, zr l1), (2, zr (some a452)), (3, zr l3), (4, zi l4)]) hC (pc := 1436) hL dL_law_1436 (Nat.le_of_ble_eq_true rfl) rfl ?_
                                                          refine z_aload_n hC (pc := 1438) dL_law_1438 rfl 4 rfl ?_
                                                          obtain ⟨fs455, ha456, hf⟩ := z_rcN hf
                                                          refine z_cI (rest := []) hf (fun v457 s458 hcall => z_runV hC (pc := 1439) zcX8 0 ha456 (m_X8_thrown X.g a452 s454 s458 v457 hcall) (lw_V q2750 q2751 q2752 q108 q2753) hdV_X8_thrown ⟨(Nat.le_of_ble_eq_true rfl), (Nat.le_of_ble_eq_true rfl)⟩ rfl (Nat.le_of_ble_eq_true rfl) dL_law_1439 rfl) (fun v457 s458 hf => ?_)
                                                          refine z_iload hC (pc := 1442) dL_law_1442 1 rfl ?_
                                                          refine z_icmp_eq hC (pc := 1444) (tgt := 1449) dL_law_1444 rfl (fun c459 => ?_) (fun c459 => ?_)
                                                          · have hf := zif_t hf c459
                                                            refine z_iload hC (pc := 1449) dL_law_1449 1 rfl ?_
                                                            refine z_if_ne hC (pc := 1451) (tgt := 1466) dL_law_1451 rfl (fun c460 => ?_) (fun c460 => ?_)
                                                            · have hf := zif_f hf c460
                                                              refine ZW.perm (lv' := [(0, zr (some b)), (1, zr l1), (2, zr (some a452)), (3, zr l3), (4, zi l4)]) [2, 3, 4, 5, 6] rfl ?_
                                                              exact w_L_law_b1466 L xs b hC hL hno hQ k23 hk23 l1 (some a452) l3 l4 s458 hf
                                                            · have hf := zif_t hf c460
                                                              refine z_aload_n hC (pc := 1454) dL_law_1454 rfl 5 rfl ?_
                                                              refine z_iconst (v := 0) hC (pc := 1455) dL_law_1455 zki_0 ?_
                                                              refine z_lald hC (pc := 1456) dL_law_1456 hf (fun v461 hf => ?_)
                                                              refine z_iload hC (pc := 1457) dL_law_1457 0 rfl ?_
                                                              refine z_i2l hC (pc := 1459) dL_law_1459 ?_
                                                              refine z_lcmp hC (pc := 1460) dL_law_1460 ?_
                                                              refine z_if_eq hC (pc := 1461) (tgt := 1466) dL_law_1461 rfl (fun c462 => ?_) (fun c462 => ?_)
                                                              · have hf := zif_t hf c462
                                                                refine ZW.perm (lv' := [(0, zr (some b)), (1, zr l1), (2, zr (some a452)), (3, zr l3), (4, zi l4)]) [2, 3, 4, 5, 6] rfl ?_
                                                                exact w_L_law_b1466 L xs b hC hL hno hQ k23 hk23 l1 (some a452) l3 l4 s458 hf
                                                              · have hf := zif_f hf c462
                                                                refine z_iconst (v := 0) hC (pc := 1464) dL_law_1464 zki_0 ?_
                                                                exact z_lawret hQ.1 dL_law_1465 hf
                                                          · have hf := zif_f hf c459
                                                            refine z_iconst (v := 0) hC (pc := 1447) dL_law_1447 zki_0 ?_
                                                            exact z_lawret hQ.1 dL_law_1448 hf
                                                        · have hf := zif_f hf c441
                                                          by_cases c463 : (v2 &&& 31) = 27
                                                          · have hf := zif_t hf c463
                                                            refine z_table hC (pc := 40) (tgt := 1469) dL_law_40 c463 (by decide) (by decide) rfl rfl ?_
                                                            refine z_aload_n hC (pc := 1469) dL_law_1469 rfl 1 rfl ?_
                                                            obtain ⟨a466, fs464, rfl, ha465, hf⟩ := z_rcO hf
                                                            refine z_cI (rest := []) hf (fun v467 s468 hcall => z_runV hC (pc := 1470) zcX1 0 ha465 (m_X1_restart X.g a466 s0 s468 v467 hcall) (lw_V q1898 q1899 q1900 q95 q1901) hdV_X1_restart ⟨(Nat.le_of_ble_eq_true rfl), (Nat.le_of_ble_eq_true rfl)⟩ rfl (Nat.le_of_ble_eq_true rfl) dL_law_1470 rfl) (fun v467 s468 hf => ?_)
                                                            refine z_aload_n hC (pc := 1473) dL_law_1473 rfl 2 rfl ?_
                                                            obtain ⟨a471, fs469, rfl, ha470, hf⟩ := z_rcO hf
                                                            refine z_cI (rest := [zi v467]) hf (fun v472 s473 hcall => z_runV hC (pc := 1474) zcX8 0 ha470 (m_X8_restart X.g a471 s468 s473 v472 hcall) (lw_V q3106 q3107 q3108 q108 q3109) hdV_X8_restart ⟨(Nat.le_of_ble_eq_true rfl), (Nat.le_of_ble_eq_true rfl)⟩ rfl (Nat.le_of_ble_eq_true rfl) dL_law_1474 rfl) (fun v472 s473 hf => ?_)
                                                            refine z_icmp_eq hC (pc := 1477) (tgt := 1509) dL_law_1477 rfl (fun c474 => ?_) (fun c474 => ?_)
                                                            · have hf := zif_t hf c474
                                                              exact w_L_law_b1509 L xs b hC hL hno hQ k23 hk23 (some a466) (some a471) l3 l4 s473 hf
                                                            · have hf := zif_f hf c474
                                                              refine z_iconst (v := 0) hC (pc := 1480) dL_law_1480 zki_0 ?_
                                                              exact z_lawret hQ.1 dL_law_1481 hf
                                                          · have hf := zif_f hf c463
                                                            by_cases c475 : (v2 &&& 31) = 28
                                                            · have hf := zif_t hf c475
                                                              refine z_table hC (pc := 40) (tgt := 1482) dL_law_40 c475 (by decide) (by decide) rfl rfl ?_
                                                              refine z_aload_n hC (pc := 1482) dL_law_1482 rfl 1 rfl ?_
                                                              obtain ⟨a478, fs476, rfl, ha477, hf⟩ := z_rcO hf
                                                              refine z_cI (rest := []) hf (fun v479 s480 hcall => z_runV hC (pc := 1483) zcX1 0 ha477 (m_X1_undo X.g a478 s0 s480 v479 hcall) (lw_V q1973 q1974 q1975 q95 q1976) hdV_X1_undo ⟨(Nat.le_of_ble_eq_true rfl), (Nat.le_of_ble_eq_true rfl)⟩ rfl (Nat.le_of_ble_eq_true rfl) dL_law_1483 rfl) (fun v479 s480 hf => ?_)
                                                              refine z_aload_n hC (pc := 1486) dL_law_1486 rfl 2 rfl ?_
                                                              obtain ⟨a483, fs481, rfl, ha482, hf⟩ := z_rcO hf
                                                              refine z_cI (rest := [zi v479]) hf (fun v484 s485 hcall => z_runV hC (pc := 1487) zcX8 0 ha482 (m_X8_undo X.g a483 s480 s485 v484 hcall) (lw_V q3110 q3111 q3112 q108 q3113) hdV_X8_undo ⟨(Nat.le_of_ble_eq_true rfl), (Nat.le_of_ble_eq_true rfl)⟩ rfl (Nat.le_of_ble_eq_true rfl) dL_law_1487 rfl) (fun v484 s485 hf => ?_)
                                                              refine z_icmp_eq hC (pc := 1490) (tgt := 1509) dL_law_1490 rfl (fun c486 => ?_) (fun c486 => ?_)
                                                              · have hf := zif_t hf c486
                                                                exact w_L_law_b1509 L xs b hC hL hno hQ k23 hk23 (some a478) (some a483) l3 l4 s485 hf
                                                              · have hf := zif_f hf c486
                                                                refine z_iconst (v := 0) hC (pc := 1493) dL_law_1493 zki_0 ?_
                                                                exact z_lawret hQ.1 dL_law_1494 hf
                                                            · have hf := zif_f hf c475
                                                              by_cases c487 : (v2 &&& 31) = 29
                                                              · have hf := zif_t hf c487
                                                                refine z_table hC (pc := 40) (tgt := 1495) dL_law_40 c487 (by decide) (by decide) rfl rfl ?_
                                                                refine z_aload_n hC (pc := 1495) dL_law_1495 rfl 1 rfl ?_
                                                                obtain ⟨a490, fs488, rfl, ha489, hf⟩ := z_rcO hf
                                                                refine z_cL (rest := []) hf (fun v491 s492 hcall => z_runV hC (pc := 1496) zcX1 0 ha489 (m_X1_checksum X.g a490 s0 s492 v491 hcall) (lw_V q1992 q1993 q1994 q95 q1995) hdV_X1_checksum ⟨(Nat.le_of_ble_eq_true rfl), (Nat.le_of_ble_eq_true rfl)⟩ rfl (Nat.le_of_ble_eq_true rfl) dL_law_1496 rfl) (fun v491 s492 hf => ?_)
                                                                refine z_aload_n hC (pc := 1499) dL_law_1499 rfl 2 rfl ?_
                                                                obtain ⟨a495, fs493, rfl, ha494, hf⟩ := z_rcO hf
                                                                refine z_cL (rest := [zj v491]) hf (fun v496 s497 hcall => z_runV hC (pc := 1500) zcX8 0 ha494 (m_X8_checksum X.g a495 s492 s497 v496 hcall) (lw_V q3114 q3115 q3116 q108 q3117) hdV_X8_checksum ⟨(Nat.le_of_ble_eq_true rfl), (Nat.le_of_ble_eq_true rfl)⟩ rfl (Nat.le_of_ble_eq_true rfl) dL_law_1500 rfl) (fun v496 s497 hf => ?_)
                                                                refine z_lcmp hC (pc := 1503) dL_law_1503 ?_
                                                                refine z_if_eq hC (pc := 1504) (tgt := 1509) dL_law_1504 rfl (fun c498 => ?_) (fun c498 => ?_)
                                                                · have hf := zif_t hf c498
                                                                  exact w_L_law_b1509 L xs b hC hL hno hQ k23 hk23 (some a490) (some a495) l3 l4 s497 hf
                                                                · have hf := zif_f hf c498
                                                                  refine z_iconst (v := 0) hC (pc := 1507) dL_law_1507 zki_0 ?_
                                                                  exact z_lawret hQ.1 dL_law_1508 hf
                                                              · have hf := zif_f hf c487
                                                                have ec3 : (v2 &&& 31 : Int32).toInt ≠ (0 : Int) := fun z => c3 (Int32.toInt_inj.mp (z.trans (by decide)))
                                                                have ec25 : (v2 &&& 31 : Int32).toInt ≠ (1 : Int) := fun z => c25 (Int32.toInt_inj.mp (z.trans (by decide)))
                                                                have ec43 : (v2 &&& 31 : Int32).toInt ≠ (2 : Int) := fun z => c43 (Int32.toInt_inj.mp (z.trans (by decide)))
                                                                have ec55 : (v2 &&& 31 : Int32).toInt ≠ (3 : Int) := fun z => c55 (Int32.toInt_inj.mp (z.trans (by decide)))
                                                                have ec67 : (v2 &&& 31 : Int32).toInt ≠ (4 : Int) := fun z => c67 (Int32.toInt_inj.mp (z.trans (by decide)))
                                                                have ec79 : (v2 &&& 31 : Int32).toInt ≠ (5 : Int) := fun z => c79 (Int32.toInt_inj.mp (z.trans (by decide)))
                                                                have ec97 : (v2 &&& 31 : Int32).toInt ≠ (6 : Int) := fun z => c97 (Int32.toInt_inj.mp (z.trans (by decide)))
                                                                have ec119 : (v2 &&& 31 : Int32).toInt ≠ (7 : Int) := fun z => c119 (Int32.toInt_inj.mp (z.trans (by decide)))
                                                                have ec137 : (v2 &&& 31 : Int32).toInt ≠ (8 : Int) := fun z => c137 (Int32.toInt_inj.mp (z.trans (by decide)))
                                                                have ec157 : (v2 &&& 31 : Int32).toInt ≠ (9 : Int) := fun z => c157 (Int32.toInt_inj.mp (z.trans (by decide)))
                                                                have ec177 : (v2 &&& 31 : Int32).toInt ≠ (10 : Int) := fun z => c177 (Int32.toInt_inj.mp (z.trans (by decide)))
                                                                have ec197 : (v2 &&& 31 : Int32).toInt ≠ (11 : Int) := fun z => c197 (Int32.toInt_inj.mp (z.trans (by decide)))
                                                                have ec215 : (v2 &&& 31 : Int32).toInt ≠ (12 : Int) := fun z => c215 (Int32.toInt_inj.mp (z.trans (by decide)))
                                                                have ec227 : (v2 &&& 31 : Int32).toInt ≠ (13 : Int) := fun z => c227 (Int32.toInt_inj.mp (z.trans (by decide)))
                                                                have ec245 : (v2 &&& 31 : Int32).toInt ≠ (14 : Int) := fun z => c245 (Int32.toInt_inj.mp (z.trans (by decide)))
                                                                have ec257 : (v2 &&& 31 : Int32).toInt ≠ (15 : Int) := fun z => c257 (Int32.toInt_inj.mp (z.trans (by decide)))
                                                                have ec275 : (v2 &&& 31 : Int32).toInt ≠ (16 : Int) := fun z => c275 (Int32.toInt_inj.mp (z.trans (by decide)))
                                                                have ec287 : (v2 &&& 31 : Int32).toInt ≠ (17 : Int) := fun z => c287 (Int32.toInt_inj.mp (z.trans (by decide)))
                                                                have ec305 : (v2 &&& 31 : Int32).toInt ≠ (18 : Int) := fun z => c305 (Int32.toInt_inj.mp (z.trans (by decide)))
                                                                have ec317 : (v2 &&& 31 : Int32).toInt ≠ (19 : Int) := fun z => c317 (Int32.toInt_inj.mp (z.trans (by decide)))
                                                                have ec329 : (v2 &&& 31 : Int32).toInt ≠ (20 : Int) := fun z => c329 (Int32.toInt_inj.mp (z.trans (by decide)))
                                                                have ec349 : (v2 &&& 31 : Int32).toInt ≠ (21 : Int) := fun z => c349 (Int32.toInt_inj.mp (z.trans (by decide)))
                                                                have ec369 : (v2 &&& 31 : Int32).toInt ≠ (22 : Int) := fun z => c369 (Int32.toInt_inj.mp (z.trans (by decide)))
                                                                have ec381 : (v2 &&& 31 : Int32).toInt ≠ (23 : Int) := fun z => c381 (Int32.toInt_inj.mp (z.trans (by decide)))
                                                                have ec401 : (v2 &&& 31 : Int32).toInt ≠ (24 : Int) := fun z => c401 (Int32.toInt_inj.mp (z.trans (by decide)))
                                                                have ec419 : (v2 &&& 31 : Int32).toInt ≠ (25 : Int) := fun z => c419 (Int32.toInt_inj.mp (z.trans (by decide)))
                                                                have ec441 : (v2 &&& 31 : Int32).toInt ≠ (26 : Int) := fun z => c441 (Int32.toInt_inj.mp (z.trans (by decide)))
                                                                have ec463 : (v2 &&& 31 : Int32).toInt ≠ (27 : Int) := fun z => c463 (Int32.toInt_inj.mp (z.trans (by decide)))
                                                                have ec475 : (v2 &&& 31 : Int32).toInt ≠ (28 : Int) := fun z => c475 (Int32.toInt_inj.mp (z.trans (by decide)))
                                                                have ec487 : (v2 &&& 31 : Int32).toInt ≠ (29 : Int) := fun z => c487 (Int32.toInt_inj.mp (z.trans (by decide)))
                                                                refine z_tableD hC (pc := 40) (tgt := 1509) dL_law_40 (by omega) rfl ?_
                                                                exact w_L_law_b1509 L xs b hC hL hno hQ k23 hk23 l1 l2 l3 l4 s0 hf
def f_L_law_l23 (G : Nat → Nat) (L : Nat) (xs : Nat → Int32) : Nat → Option Nat → Option Nat → Option Nat → Int32 → zS → Option (Int32 × zS)
  | 0 => fun _ _ _ _ _ => none
  | n + 1 => f_L_law_b23 G L xs (f_L_law_l23 G L xs n)
theorem w_L_law_l23 {X : zX} (L : Nat) (xs : Nat → Int32) (b : Nat) (hC : ZC X RX0 cL_law (some .boolean) 8192 104096) (hL : X.nL = 7) (hno : ∀ x ∈ X.c.exceptionTable.toList, False) {r : Int32} {sF : zS} (hQ : (r = 1 ∧ ∀ σ pc lv, decode cL_law pc = .ok (.ireturn, 1) → ZW X σ pc lv [zi 1]) ∧ va_X b L xs X.s X.s.heap ∧ b < X.g.1 0) : ∀ (n : Nat) (l1 : Option Nat) (l2 : Option Nat) (l3 : Option Nat) (l4 : Int32) (s0 : zS) (_ : f_L_law_l23 X.g.1 L xs n l1 l2 l3 l4 s0 = some (r, sF)), ZW X s0 23 [(0, zr (some b)), (1, zr l1), (2, zr l2), (3, zr l3), (4, zi l4)] [] := by
  intro n
  induction n with
  | zero => intro l1 l2 l3 l4 s0 hf; exact absurd (show (none : Option (Int32 × zS)) = some (r, sF) from hf) (fun z => nomatch z)
  | succ n ih => intro l1 l2 l3 l4 s0 hf; exact w_L_law_b23 L xs b hC hL hno hQ (f_L_law_l23 X.g.1 L xs n) ih l1 l2 l3 l4 s0 hf
def f_law (G : Nat → Nat) (L : Nat) (xs : Nat → Int32) (s0 : zS) : Option (Int32 × zS) :=
zb (znewO G s0 0 6 [.null, .null, .null, .null, .int 0, .int 0]) fun a1 s2 =>
zb (f_X1_init G a1 s2) fun _ s4 =>
zb (znewO G s4 6 25 [.int 0, .null, .int 0, .int 0, .int 0, .int 0, .int 0, .int 0, .null, .null, .null, .null, .int 0, .int 0, .int 0, .int 0, .null, .null, .null, .null, .null, .int 0, .int 0, .null, .int 0]) fun a5 s6 =>
zb (f_X8_init G a5 s6) fun _ s8 =>
zb (znewA G s8 1 1 (.inr (.inl fun _ => 0))) fun a9 s10 =>
f_L_law_l23 G L xs 2000 (some a1) (some a5) (some a9) 0 s10
set_option maxHeartbeats 4000000 in
theorem m_law {X : zX} (L : Nat) (xs : Nat → Int32) (b : Nat) (hC : ZC X RX0 cL_law (some .boolean) 8192 104096) (hL : X.nL = 7) (hno : ∀ x ∈ X.c.exceptionTable.toList, False) {r : Int32} {sF : zS} (hQ : (r = 1 ∧ ∀ σ pc lv, decode cL_law pc = .ok (.ireturn, 1) → ZW X σ pc lv [zi 1]) ∧ va_X b L xs X.s X.s.heap ∧ b < X.g.1 0) (s0 : zS) (hf : f_law X.g.1 L xs s0 = some (r, sF)) : ZW X s0 0 [(0, zr (some b))] [] := by
  unfold f_law at hf
  refine z_new hC (pc := 0) in_X1 tyX1 tyX1_ok zcX1 q157 q158 q95 rfl zdX1 dL_law_0 hf (fun a1 s2 hf => ?_)
  refine z_dup hC (pc := 3) dL_law_3 rfl ?_
  refine z_cU (rest := [zr (some a1)]) hf (fun v3 s4 hcall => z_runI hC (pc := 4) 0 (m_X1_init X.g a1 s2 s4 v3 hcall) q161 rfl q95 q159 q160 hd_X1_init ⟨(Nat.le_of_ble_eq_true rfl), (Nat.le_of_ble_eq_true rfl)⟩ rfl (Nat.le_of_ble_eq_true rfl) dL_law_4 rfl) (fun _ s4 hf => ?_)
  refine z_astore_n (lv' := [(1, zr (some a1)), (0, zr (some b))]) hC (pc := 7) hL dL_law_7 rfl (Nat.le_of_ble_eq_true rfl) rfl ?_
  refine z_new hC (pc := 8) in_X8 tyX8 tyX8_ok zcX8 q2666 q2667 q108 rfl zdX8 dL_law_8 hf (fun a5 s6 hf => ?_)
  refine z_dup hC (pc := 11) dL_law_11 rfl ?_
  refine z_cU (rest := [zr (some a5)]) hf (fun v7 s8 hcall => z_runI hC (pc := 12) 0 (m_X8_init X.g a5 s6 s8 v7 hcall) q2670 rfl q108 q2668 q2669 hd_X8_init ⟨(Nat.le_of_ble_eq_true rfl), (Nat.le_of_ble_eq_true rfl)⟩ rfl (Nat.le_of_ble_eq_true rfl) dL_law_12 rfl) (fun _ s8 hf => ?_)
  refine z_astore_n (lv' := [(2, zr (some a5)), (1, zr (some a1)), (0, zr (some b))]) hC (pc := 15) hL dL_law_15 rfl (Nat.le_of_ble_eq_true rfl) rfl ?_
  refine z_iconst (v := 1) hC (pc := 16) dL_law_16 zki_1 ?_
  refine z_newa (t := 1) (ty := .long) hC (pc := 17) rfl rfl q1047 (.inr (.inl fun _ => 0)) (fun _ => rfl) (by decide) dL_law_17 hf (fun a9 s10 hf => ?_)
  refine z_astore_n (lv' := [(3, zr (some a9)), (2, zr (some a5)), (1, zr (some a1)), (0, zr (some b))]) hC (pc := 19) hL dL_law_19 rfl (Nat.le_of_ble_eq_true rfl) rfl ?_
  refine z_iconst (v := 0) hC (pc := 20) dL_law_20 zki_0 ?_
  refine z_istore (lv' := [(4, zi 0), (3, zr (some a9)), (2, zr (some a5)), (1, zr (some a1)), (0, zr (some b))]) hC (pc := 21) hL dL_law_21 (Nat.le_of_ble_eq_true rfl) rfl ?_
  refine ZW.perm (lv' := [(0, zr (some b)), (1, zr (some a1)), (2, zr (some a5)), (3, zr (some a9)), (4, zi 0)]) [4, 3, 2, 1, 0] rfl ?_
  exact w_L_law_l23 L xs b hC hL hno hQ 2000 (some a1) (some a5) (some a9) 0 s10 hf
