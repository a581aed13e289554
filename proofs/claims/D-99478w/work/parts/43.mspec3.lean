/-! L2: harms, counts, sets of bits -/
theorem deedsF_lt (T t : Nat → Nat) (g : Nat) (p : Option Nat) (lo : Nat) : ∀ n, deedsF T t g p lo n < 256
  | 0 => by simp [deedsF, fo]
  | n + 1 => by
    have ih := deedsF_lt T t g p lo n
    unfold deedsF fo
    split
    · refine Nat.or_lt_two_pow (n := 8) ih (Nat.pow_lt_pow_right (by decide) (Nat.mod_lt _ (by omega)))
    · exact ih
theorem deedsBy_lt (T t : Nat → Nat) (g : Nat) (p : Option Nat) (ke : Nat) : deedsBy T t g p ke < 256 := by
  unfold deedsBy
  split
  · exact deedsF_lt _ _ _ _ _ _
  · omega
def harmF (T : Nat → Nat) (set : Nat) : Nat → Nat := fo (fun d a => if set.testBit d then a + T (28 + d) else a) 0
theorem harmF_lt {T : Nat → Nat} (hS : StOk T) (set : Nat) : ∀ n, n ≤ 5 → harmF T set n ≤ 99 * n
  | 0, _ => by simp [harmF, fo]
  | n + 1, h => by
    have ih := harmF_lt hS set n (by omega)
    have h2 := hS.2.2.2.1 n (by omega)
    unfold harmF fo
    unfold harmF at ih
    split <;> omega
theorem m_harmOf {m : MS} {T : Nat → Nat} (hT : MT m T) (hS : StOk T) {set : Nat} (hs : set < 2 ^ 31) {K : Int32 → Prop} (k : K (nI (harmF T set (T 2)))) : wX6_harmOf (nI set) m K := by
  have hD := hS.1.2.2.1
  unfold wX6_harmOf wX6_harmOf_0 wX6_harmOf_4
  refine lfp_seq (fun i => (nI (harmF T set i), nI i)) (T 2) rfl ?_ ?_
  · intro i hi KL hKL
    dsimp only [wX6_harmOf_4_b]
    refine m_deeds hT ?_
    refine ⟨fun q => absurd q (nI_ge hi (by omega)), fun _ => ?_⟩
    rw [n1, n0, bitI hs (by omega), b1]
    refine ⟨fun q v e => ?_, fun q => ?_⟩
    · subst e
      unfold harmF fo at hKL
      rw [if_neg q] at hKL
      rw [nI_add, nI_add]; exact hKL
    · rw [nI_add, vin (by omega), rdn (by omega), hT _ (by omega) (by omega)]
      refine ⟨by omega, fun v e => ?_⟩
      subst e
      unfold harmF fo at hKL
      rw [if_pos q] at hKL
      rw [nI_add, nI_add]; exact hKL
  · intro KL
    dsimp only [wX6_harmOf_4_b]
    refine m_deeds hT ?_
    exact ⟨fun _ => k, fun q => absurd (nI_le (Nat.le_refl _) (by omega)) q⟩
def shownF (T t : Nat → Nat) (p : Option Nat) (ke : Nat) : Nat → Nat := fo (fun g a => a ||| deedsBy T t g p ke) 0
theorem shownF_lt (T t : Nat → Nat) (p : Option Nat) (ke : Nat) : ∀ n, shownF T t p ke n < 256
  | 0 => by simp [shownF, fo]
  | n + 1 => by
    have ih := shownF_lt T t p ke n
    exact Nat.or_lt_two_pow (n := 8) ih (deedsBy_lt _ _ _ _ _)
def harmSh (T t : Nat → Nat) (p : Option Nat) (ke : Nat) : Nat := harmF T (shownF T t p ke (T 0)) (T 2)
theorem m_harmShown {m : MS} {T : Nat → Nat} {n b : Nat} {t : Nat → Nat} (h : MI m T n b t) {ke : Nat} (hke : ke < 100) {p : Option Nat} (hp : ∀ q, p = some q → q < 2 ^ 31) {K : Int32 → Prop} (k : K (nI (harmSh T t p ke))) : wX6_harmShown (nI b) (pI p) (nI ke) m K := by
  obtain ⟨hT, hS, hB, hk, hn, hb⟩ := id h
  have hP := hS.1.1
  unfold wX6_harmShown wX6_harmShown_0 wX6_harmShown_6
  refine lfp_seq (fun i => (nI (shownF T t p ke i), nI i)) (T 0) rfl ?_ ?_
  · intro i hi KL hKL
    dsimp only [wX6_harmShown_6_b]
    refine m_panes hT ?_
    refine ⟨fun q => absurd q (nI_ge hi (by omega)), fun _ => m_deedsBy h (by omega) hke hp ?_⟩
    intro v e
    subst e
    rw [fa_or, n1, nI_add]; exact hKL
  · intro KL
    dsimp only [wX6_harmShown_6_b]
    refine m_panes hT ?_
    exact ⟨fun _ => m_harmOf hT hS (Nat.lt_trans (shownF_lt _ _ _ _ _) (by decide)) k, fun q => absurd (nI_le (Nat.le_refl _) (by omega)) q⟩
theorem m_mayWash {m : MS} {T : Nat → Nat} {n b : Nat} {t : Nat → Nat} (h : MI m T n b t) {g : Nat} (hg : g < 6) {K : Int32 → Prop} (k : K (nI (if t (12 + g) = 0 ∧ 0 < t (18 + g) then 1 else 0))) : wX6_mayWash (nI b) (nI g) m K := by
  obtain ⟨hT, hS, hB, hk, hn, hb⟩ := id h
  obtain ⟨f1, f2, f3⟩ := hk.2.2.1 g hg
  unfold wX6_mayWash wX6_mayWash_0
  refine m_isWhole h hg ?_
  rw [n0, b0]
  refine ⟨fun q => ?_, fun q => ?_⟩
  · simp [q] at k; exact k
  · rw [Decidable.not_not] at q
    rw [nI_add, nI_add, Nat.add_assoc, vin (by omega), m_st h (by omega), nI_leI (by omega) (by omega)]
    refine ⟨by omega, fun r => ?_, fun r => ?_⟩
    · rw [if_neg (by omega)] at k; exact k
    · rw [if_pos ⟨q, by omega⟩] at k; exact k
def bitsF (s : Nat) : Nat → Nat := fo (fun k a => a + (if s.testBit k then 1 else 0)) 0
theorem m_bits {s : Nat} (hs : s < 2 ^ 31) {K : Int32 → Prop} (k : K (nI (bitsF s 30))) : wX6_bits (nI s) K := by
  unfold wX6_bits wX6_bits_0 wX6_bits_4
  refine lfp_seq (fun i => (nI (bitsF s i), nI i)) 30 rfl ?_ ?_
  · intro i hi KL hKL
    dsimp only [wX6_bits_4_b]
    refine ⟨fun q => absurd q (nI_ge hi (by omega)), fun _ v e => ?_⟩
    subst e
    rw [n1, bitI hs (by omega), nI_add, nI_add]; exact hKL
  · intro KL
    exact ⟨fun _ => k, fun q => absurd (nI_le (Nat.le_refl _) (by omega)) q⟩
/-- panes for which a row holds a number, as bits: the row at j0 -/
theorem m_bitsOf {m : MS} {T : Nat → Nat} (hT : MT m T) (hS : StOk T) {j0 : Nat} {v : Int32} (hj : j0 < 1000) {K : Int32 → Prop} (k : K (nI (orB (fun g => decide (gA m 11 (j0 + g) = v)) (T 0)))) : wX6_bitsOf (nI j0) v m K := by
  have hP := hS.1.1
  unfold wX6_bitsOf wX6_bitsOf_0 wX6_bitsOf_5
  refine lfp_seq (fun i => (nI (orB (fun g => decide (gA m 11 (j0 + g) = v)) i), nI i)) (T 0) rfl ?_ ?_
  · intro i hi KL hKL
    dsimp only [wX6_bitsOf_5_b]
    refine m_panes hT ?_
    refine ⟨fun q => absurd q (nI_ge hi (by omega)), fun _ => ?_⟩
    unfold orB at hKL
    rw [nI_add, vin (by omega), rdn (by omega)]
    refine ⟨by omega, fun q v e => ?_, fun q v e => ?_⟩
    · subst e
      rw [if_neg (by simpa using q)] at hKL
      rw [n0, fa_or, Nat.or_zero, n1, nI_add]; exact hKL
    · subst e
      rw [if_pos (by simpa using q)] at hKL
      rw [n1, ishl1 (by omega), fa_or, nI_add]; exact hKL
  · intro KL
    dsimp only [wX6_bitsOf_5_b]
    refine m_panes hT ?_
    exact ⟨fun _ => k, fun q => absurd (nI_le (Nat.le_refl _) (by omega)) q⟩
def marksF (t : Nat → Nat) : Nat → Nat := fo (fun g a => a + t (18 + g)) 0
theorem m_marksMany {m : MS} {T : Nat → Nat} {n : Nat} {t : Nat → Nat} (h : MI m T n 0 t) {K : Int32 → Prop} (k : K (nI (marksF t (T 0)))) : wX6_marksMany m K := by
  obtain ⟨hT, hS, hB, hk, hn, hb⟩ := id h
  have hP := hS.1.1
  unfold wX6_marksMany wX6_marksMany_0 wX6_marksMany_4
  refine lfp_seq (fun i => (nI (marksF t i), nI i)) (T 0) rfl ?_ ?_
  · intro i hi KL hKL
    dsimp only [wX6_marksMany_4_b]
    refine m_panes hT ?_
    refine ⟨fun q => absurd q (nI_ge hi (by omega)), fun _ => ?_⟩
    rw [nI_add, vin (by omega), show rd (gA m 11) (nI (18 + i)) = nI (t (18 + i)) from by rw [← m_st h (j := 18 + i) (by omega), Nat.zero_add]]
    refine ⟨by omega, fun v e => ?_⟩
    subst e
    rw [n1, nI_add, nI_add]; exact hKL
  · intro KL
    dsimp only [wX6_marksMany_4_b]
    refine m_panes hT ?_
    exact ⟨fun _ => k, fun q => absurd (nI_le (Nat.le_refl _) (by omega)) q⟩
theorem m_within {x : Int32} {a b : Int32} {K : Int32 → Prop} (k1 : a ≤ x → x ≤ b → K 1) (k0 : ¬ (a ≤ x ∧ x ≤ b) → K 0) : wX6_within x a b K := by
  unfold wX6_within wX6_within_0
  refine ⟨fun q => k0 (fun r => ?_), fun q => ⟨fun r => k0 (fun s => ?_), fun r => k1 (Int32.not_lt.mp q) (Int32.not_lt.mp r)⟩⟩
  · exact Int32.not_lt.mpr r.1 q
  · exact Int32.not_lt.mpr s.2 r
/-- an int between two numbers, or not -/
theorem m_withinN {x : Int32} {a b : Nat} (hb : b < 2 ^ 31) (ha : a ≤ b) {K : Int32 → Prop} (k1 : ∀ j, a ≤ j → j ≤ b → x = nI j → K 1) (k0 : (∀ j, j < 2 ^ 31 → x = nI j → j < a ∨ b < j) → K 0) : wX6_within x (nI a) (nI b) K := by
  refine m_within (fun q r => ?_) (fun q => k0 (fun j hj e => ?_))
  · by_cases h : x < 0
    · have h2 : nI a < nI 0 := Int32.lt_of_le_of_lt q h
      exact absurd h2 (nI_pos (by omega))
    · obtain ⟨j, hj, rfl⟩ := nI_of h
      rw [nI_leI (by omega) (by omega)] at q r
      exact k1 j q r rfl
  · subst e
    rw [nI_leI (by omega) (by omega), nI_leI (by omega) (by omega)] at q
    omega
