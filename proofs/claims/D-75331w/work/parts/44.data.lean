/-! THE PLAIN LAW, part 4: a plan as the reference's data tell it, and the reference's small methods -/
set_option maxRecDepth 100000
theorem n_md6 (a : Nat) : a - a / 6 * 6 = a % 6 := by omega
theorem n_dl {d : Nat → Nat} (hb : ∀ i, d i < 1000001) {i b : Nat} (h : b < 2147483648) : nI (d i) ≤ nI b ↔ d i ≤ b := n_le (Nat.lt_trans (hb i) (by omega)) h
theorem n_dL {d : Nat → Nat} (hb : ∀ i, d i < 1000001) {i b : Nat} (h : b < 2147483648) : nI b ≤ nI (d i) ↔ b ≤ d i := n_le h (Nat.lt_trans (hb i) (by omega))
theorem n_de {d : Nat → Nat} (hb : ∀ i, d i < 1000001) {i b : Nat} (h : b < 2147483648) : nI (d i) = nI b ↔ d i = b := n_eq (Nat.lt_trans (hb i) (by omega)) h
theorem n_dE {d : Nat → Nat} (hb : ∀ i, d i < 1000001) {i b : Nat} (h : b < 2147483648) : nI b = nI (d i) ↔ b = d i := n_eq h (Nat.lt_trans (hb i) (by omega))
/-- the operation is there; is its job's last; its machine; its duration; it blocks -/
def dEx (d : Nat → Nat) (o : Nat) : Bool := decide (o / 6 < d 2) && decide (o % 6 < d (59 + 4 * (o / 6) + 3))
def dLa (d : Nat → Nat) (o : Nat) : Bool := decide (o % 6 + 1 = d (59 + 4 * (o / 6) + 3))
def dMo (d : Nat → Nat) (o : Nat) : Nat := d (83 + 2 * o)
def dDu (d : Nat → Nat) (o : Nat) : Nat := d (83 + 2 * o + 1)
def dBl (d : Nat → Nat) (o : Nat) : Bool := decide (d (5 + 9 * dMo d o) = 0) && !dLa d o
/-- the order of a machine: how many, the k-th -/
def dCn (d : Nat → Nat) (m : Nat) : Nat := d (5 + 9 * m + 2)
def dOr (d : Nat → Nat) (m k : Nat) : Nat := d (5 + 9 * m + 3 + k)
/-- the last of a job -/
def dEn (d : Nat → Nat) (j : Nat) : Nat := 6 * j + d (59 + 4 * j + 3) - 1
/-- the numbers of a plan are in their ranges; the orders hold the operations, each once -/
def dV (d : Nat → Nat) : Prop := (∀ i, d i < 1000001) ∧ d 0 ≤ 6 ∧ d 2 ≤ 6 ∧ (∀ j, j < d 2 → 1 ≤ d (59 + 4 * j + 3) ∧ d (59 + 4 * j + 3) ≤ 6 ∧ d (59 + 4 * j) ≤ 999) ∧ (∀ o, o < 36 → dEx d o = true → dMo d o < d 0 ∧ 1 ≤ dDu d o ∧ dDu d o ≤ 99 ∧ ∃ k, k < dCn d (dMo d o) ∧ dOr d (dMo d o) k = o) ∧ (∀ m, m < d 0 → dCn d m ≤ 6 ∧ d (5 + 9 * m + 1) ≤ 99 ∧ ∀ k, k < dCn d m → dOr d m k < 36 ∧ dEx d (dOr d m k) = true ∧ dMo d (dOr d m k) = m) ∧ (∀ m k l, m < d 0 → k < dCn d m → l < dCn d m → dOr d m k = dOr d m l → k = l)
/-- the reference's array j is d -/
def mD (μ : zMu) (j : Nat) (d : Nat → Nat) : Prop := ∀ i, i < 1655 → gA μ j i = nI (d i)
section MSMALL
variable {G : Nat → Nat} {M : Nat} {μ : zMu} {s : zS} {d : Nat → Nat}
theorem M_isThere (hd : mD μ 2 d) (hb : ∀ i, d i < 1000001) {o : Nat} (ho : o < 36) : f_X8_isThere G M (nI o) (mw M μ s) = some (bI (dEx d o), mw M μ s) := by
  unfold f_X8_isThere f_X8_job
  have hd' : ∀ i, i < 1655 → gA μ 2 i = nI (d i) := hd
  simp (disch := omega) only [zo_s, zb_s, zx_l, zx_r, zrn_1, zrn_0, zrn_b, zrnX_1, zrnX_0, zrnX_b, n_lit, n_add, n_mul, n_sub, n_lt, n_le, n_eq, n_cl, n_div, n_md6, bI_0, bI_1, bI_t, bI_f, n_e10, n_e01, m_rc, m_I0, m_I2, m_I3, m_I4, m_I5, m_I6, m_I7, m_I12, m_I13, m_I14, m_I15, m_I21, m_I22, m_I24, m_R1, m_R8, m_R9, m_R10, m_R11, m_R16, m_R17, m_R18, m_R19, m_R20, m_R23, m_aD, m_aO, m_aB, m_aZ, m_aL, m_aR, hd', n_dl hb]
  unfold dEx
  by_cases h1 : d 2 ≤ o / 6
  · have h2 : ¬ (o / 6 < d 2) := by omega
    simp [h1, h2, bI]
  · have h2 : o / 6 < d 2 := by omega
    by_cases h3 : d (59 + 4 * (o / 6) + 3) ≤ o % 6
    · have h4 : ¬ (o % 6 < d (59 + 4 * (o / 6) + 3)) := by omega
      simp [h1, h2, h3, h4, bI]
    · have h4 : o % 6 < d (59 + 4 * (o / 6) + 3) := by omega
      simp [h1, h2, h3, h4, bI]
theorem M_isLast (hd : mD μ 2 d) (hb : ∀ i, d i < 1000001) {o : Nat} (ho : o < 36) : f_X8_isLast G M (nI o) (mw M μ s) = some (bI (dLa d o), mw M μ s) := by
  unfold f_X8_isLast f_X8_job
  have hd' : ∀ i, i < 1655 → gA μ 2 i = nI (d i) := hd
  simp (disch := omega) only [zo_s, zb_s, zx_l, zx_r, zrn_1, zrn_0, zrn_b, zrnX_1, zrnX_0, zrnX_b, n_lit, n_add, n_mul, n_sub, n_lt, n_le, n_eq, n_cl, n_div, n_md6, bI_0, bI_1, bI_t, bI_f, n_e10, n_e01, m_rc, m_I0, m_I2, m_I3, m_I4, m_I5, m_I6, m_I7, m_I12, m_I13, m_I14, m_I15, m_I21, m_I22, m_I24, m_R1, m_R8, m_R9, m_R10, m_R11, m_R16, m_R17, m_R18, m_R19, m_R20, m_R23, m_aD, m_aO, m_aB, m_aZ, m_aL, m_aR, hd']
  unfold dLa
  have hx := hb (59 + 4 * (o / 6) + 3)
  have e : (nI (o % 6) = nI (d (59 + 4 * (o / 6) + 3)) - nI 1) ↔ o % 6 + 1 = d (59 + 4 * (o / 6) + 3) := by
    constructor
    · intro h
      have h2 : nI (o % 6) + nI 1 = nI (d (59 + 4 * (o / 6) + 3)) := by rw [h, Int32.sub_add_cancel]
      rw [n_add, n_eq (by omega) (by omega)] at h2
      exact h2
    · intro h
      rw [← h, n_sub (by omega)]
      rfl
  simp only [e]
  by_cases h : o % 6 + 1 = d (59 + 4 * (o / 6) + 3)
  · simp [h, bI]
  · simp [h, bI]
theorem M_machineOf (hd : mD μ 2 d) {o : Nat} (ho : o < 36) : f_X8_machineOf G M (nI o) (mw M μ s) = some (nI (dMo d o), mw M μ s) := by
  unfold f_X8_machineOf f_X8_operationAt
  have hd' : ∀ i, i < 1655 → gA μ 2 i = nI (d i) := hd
  simp (disch := omega) only [zo_s, zb_s, zx_l, zx_r, zrn_1, zrn_0, zrn_b, zrnX_1, zrnX_0, zrnX_b, n_lit, n_add, n_mul, n_sub, n_lt, n_le, n_eq, n_cl, n_div, n_md6, bI_0, bI_1, bI_t, bI_f, n_e10, n_e01, m_rc, m_I0, m_I2, m_I3, m_I4, m_I5, m_I6, m_I7, m_I12, m_I13, m_I14, m_I15, m_I21, m_I22, m_I24, m_R1, m_R8, m_R9, m_R10, m_R11, m_R16, m_R17, m_R18, m_R19, m_R20, m_R23, m_aD, m_aO, m_aB, m_aZ, m_aL, m_aR, hd', dMo]
theorem M_durationOf (hd : mD μ 2 d) {o : Nat} (ho : o < 36) : f_X8_durationOf G M (nI o) (mw M μ s) = some (nI (dDu d o), mw M μ s) := by
  unfold f_X8_durationOf f_X8_operationAt
  have hd' : ∀ i, i < 1655 → gA μ 2 i = nI (d i) := hd
  simp (disch := omega) only [zo_s, zb_s, zx_l, zx_r, zrn_1, zrn_0, zrn_b, zrnX_1, zrnX_0, zrnX_b, n_lit, n_add, n_mul, n_sub, n_lt, n_le, n_eq, n_cl, n_div, n_md6, bI_0, bI_1, bI_t, bI_f, n_e10, n_e01, m_rc, m_I0, m_I2, m_I3, m_I4, m_I5, m_I6, m_I7, m_I12, m_I13, m_I14, m_I15, m_I21, m_I22, m_I24, m_R1, m_R8, m_R9, m_R10, m_R11, m_R16, m_R17, m_R18, m_R19, m_R20, m_R23, m_aD, m_aO, m_aB, m_aZ, m_aL, m_aR, hd', dDu]
theorem M_isBlocking (hd : mD μ 2 d) (hb : ∀ i, d i < 1000001) {o : Nat} (ho : o < 36) (hm : dMo d o < 6) : f_X8_isBlocking G M (nI o) (mw M μ s) = some (bI (dBl d o), mw M μ s) := by
  unfold f_X8_isBlocking f_X8_machine
  have hd' : ∀ i, i < 1655 → gA μ 2 i = nI (d i) := hd
  simp (disch := omega) only [zo_s, zb_s, zx_l, zx_r, zrn_1, zrn_0, zrn_b, zrnX_1, zrnX_0, zrnX_b, n_lit, n_add, n_mul, n_sub, n_lt, n_le, n_eq, n_cl, n_div, n_md6, bI_0, bI_1, bI_t, bI_f, n_e10, n_e01, m_rc, m_I0, m_I2, m_I3, m_I4, m_I5, m_I6, m_I7, m_I12, m_I13, m_I14, m_I15, m_I21, m_I22, m_I24, m_R1, m_R8, m_R9, m_R10, m_R11, m_R16, m_R17, m_R18, m_R19, m_R20, m_R23, m_aD, m_aO, m_aB, m_aZ, m_aL, m_aR, hd', M_machineOf hd ho, n_de hb, M_isLast hd hb ho]
  unfold dBl
  by_cases h : d (5 + 9 * dMo d o) = 0
  · cases dLa d o <;> simp [h, bI]
  · simp [h, bI]
theorem M_completionOf (hd : mD μ 2 d) {S : Nat → Nat} (hS : ∀ o, o < 36 → gA μ 16 o = nI (S o)) {j : Nat} (hj : j < 6) (h1 : 1 ≤ d (59 + 4 * j + 3)) (h2 : d (59 + 4 * j + 3) ≤ 6) : f_X8_completionOf G M (nI j) (mw M μ s) = some (nI (S (dEn d j) + dDu d (dEn d j)), mw M μ s) := by
  unfold f_X8_completionOf f_X8_job
  have hd' : ∀ i, i < 1655 → gA μ 2 i = nI (d i) := hd
  have h3 : 6 * j + d (59 + 4 * j + 3) - 1 < 36 := by omega
  simp (disch := omega) only [zo_s, zb_s, zx_l, zx_r, zrn_1, zrn_0, zrn_b, zrnX_1, zrnX_0, zrnX_b, n_lit, n_add, n_mul, n_sub, n_lt, n_le, n_eq, n_cl, n_div, n_md6, bI_0, bI_1, bI_t, bI_f, n_e10, n_e01, m_rc, m_I0, m_I2, m_I3, m_I4, m_I5, m_I6, m_I7, m_I12, m_I13, m_I14, m_I15, m_I21, m_I22, m_I24, m_R1, m_R8, m_R9, m_R10, m_R11, m_R16, m_R17, m_R18, m_R19, m_R20, m_R23, m_aD, m_aO, m_aB, m_aZ, m_aL, m_aR, hd', hS, M_durationOf hd h3, dEn]
theorem M_exchange (hd : mD μ 2 d) (hG : G 0 ≤ M) {m k : Nat} (hm : m < 6) (hk : k < 5) : ∃ μ', f_X8_exchange G M (nI m) (nI k) (mw M μ s) = some ((), mw M μ' s) ∧ mD μ' 2 (va_up (va_up d (5 + 9 * m + 3 + k) (d (5 + 9 * m + 3 + k + 1))) (5 + 9 * m + 3 + k + 1) (d (5 + 9 * m + 3 + k))) ∧ (∀ j, j ≠ 2 → gA μ' j = gA μ j) ∧ (∀ j, gS μ' j = gS μ j) ∧ gT μ' = gT μ := by
  have hd' : ∀ i, i < 1655 → gA μ 2 i = nI (d i) := hd
  refine ⟨sA (sA μ 2 (5 + 9 * m + 3 + k) (nI (d (5 + 9 * m + 3 + k + 1)))) 2 (5 + 9 * m + 3 + k + 1) (nI (d (5 + 9 * m + 3 + k))), ?_, ?_, ?_, ?_, ?_⟩
  · unfold f_X8_exchange f_X8_machine
    simp (disch := omega) only [zo_s, zb_s, zx_l, zx_r, zrn_1, zrn_0, zrn_b, zrnX_1, zrnX_0, zrnX_b, n_lit, n_add, n_mul, n_sub, n_lt, n_le, n_eq, n_cl, n_div, n_md6, bI_0, bI_1, bI_t, bI_f, n_e10, n_e01, m_rc, m_I0, m_I2, m_I3, m_I4, m_I5, m_I6, m_I7, m_I12, m_I13, m_I14, m_I15, m_I21, m_I22, m_I24, m_R1, m_R8, m_R9, m_R10, m_R11, m_R16, m_R17, m_R18, m_R19, m_R20, m_R23, m_aD, m_aO, m_aB, m_aZ, m_aL, m_aR, m_P0, m_P2, m_P3, m_P4, m_P5, m_P6, m_P7, m_P12, m_P13, m_P14, m_P15, m_P21, m_P22, m_P24, m_sD, m_sO, m_sB, m_sL, hd', hG]
  · intro i hi
    simp only [gA_sA, u_at]
    by_cases e1 : i = 5 + 9 * m + 3 + k + 1
    · simp [e1]
    · by_cases e2 : i = 5 + 9 * m + 3 + k
      · simp [e2]
      · simp only [e1, e2, and_false, if_false]
        exact hd i hi
  · intro j hj
    rw [gA_ne _ _ _ hj, gA_ne _ _ _ hj]
  · intro j; rfl
  · rfl
end MSMALL
