/-! L2: seers, marks, what is shown -/
def seers (T t : Nat → Nat) (c : Nat) : Nat := orB (fun g => (sight T t g).testBit c) (T 0)
theorem seers_lt {T t : Nat → Nat} (hS : StOk T) (c : Nat) : seers T t c < 64 := Nat.lt_of_lt_of_le (orB_lt _ _) (Nat.pow_le_pow_right (by decide) hS.1.1 : 2 ^ T 0 ≤ 2 ^ 6)
theorem m_doesSee {m : MS} {T : Nat → Nat} {n b : Nat} {t : Nat → Nat} (h : MI m T n b t) {g c : Nat} (hg : g < 6) (hc : c < 32) {K : Int32 → Prop} (k : K (nI (if (sight T t g).testBit c then 1 else 0))) : wX6_doesSee (nI b) (nI g) (nI c) m K := by
  have hs := sight_lt (t := t) h.2.1 hg
  unfold wX6_doesSee wX6_doesSee_0
  refine m_sightOf h hg ?_
  rw [n1, bitI (by omega) hc, b1]
  refine ⟨fun q => ?_, fun q => ?_⟩
  · rw [if_neg q] at k; exact k
  · rw [if_pos q] at k; exact k
theorem m_seersOf {m : MS} {T : Nat → Nat} {n b : Nat} {t : Nat → Nat} (h : MI m T n b t) {c : Nat} (hc : c < 32) {K : Int32 → Prop} (k : K (nI (seers T t c))) : wX6_seersOf (nI b) (nI c) m K := by
  obtain ⟨hT, hS, hB, hk, hn, hb⟩ := id h
  have hP := hS.1.1
  unfold wX6_seersOf wX6_seersOf_0 wX6_seersOf_5
  refine lfp_seq (fun i => (nI (orB (fun g => (sight T t g).testBit c) i), nI i)) (T 0) rfl ?_ ?_
  · intro i hi KL hKL
    dsimp only [wX6_seersOf_5_b]
    refine m_panes hT ?_
    refine ⟨fun q => absurd q (nI_ge hi (by omega)), fun _ => m_doesSee h (by omega) hc ?_⟩
    rw [n0, b0, Decidable.not_not]
    refine ⟨fun q v e => ?_, fun q v e => ?_⟩ <;> subst e <;> (try dsimp only) <;> unfold orB at hKL
    · rw [if_neg q] at hKL
      rw [fa_or, Nat.or_zero, n1, nI_add]; exact hKL
    · rw [if_pos q] at hKL
      rw [n1, ishl1 (by omega), fa_or, nI_add]; exact hKL
  · intro KL
    dsimp only [wX6_seersOf_5_b]
    refine m_panes hT ?_
    exact ⟨fun _ => k, fun q => absurd (nI_le (Nat.le_refl _) (by omega)) q⟩
/-- the parts of a mark -/
def who (x : Nat) : Nat := x % 8
def deed (x : Nat) : Nat := x / 8 % 8
def cell (x : Nat) : Nat := x / 64 % 16
def age (x : Nat) : Nat := x / 1024
theorem m_markOf {m : MS} {T : Nat → Nat} {n b : Nat} {t : Nat → Nat} (h : MI m T n b t) {g i : Nat} (hg : g < 6) (hi : i < 6) {K : Int32 → Prop} (k : K (nI (t (24 + 6 * g + i)))) : wX6_markOf (nI b) (nI g) (nI i) m K := by
  have hb := h.2.2.2.2.2
  unfold wX6_markOf wX6_markOf_0
  rw [pk_mul, nI_add, nI_add, nI_add, show b + 24 + 6 * g + i = b + (24 + 6 * g + i) by omega, vin (by omega), m_st h (by omega)]
  exact ⟨by omega, k⟩
theorem m_whoOf {x : Nat} {K : Int32 → Prop} (k : K (nI (who x))) : wX6_whoOf (nI x) K := by
  unfold wX6_whoOf wX6_whoOf_0
  rw [fa_mask x 3]; exact k
theorem m_deedOf {x : Nat} (hx : x < 2 ^ 31) {K : Int32 → Prop} (k : K (nI (deed x))) : wX6_deedOf (nI x) K := by
  unfold wX6_deedOf wX6_deedOf_0
  rw [ishrn hx (by omega), fa_mask _ 3]; exact k
theorem m_cellOf {x : Nat} (hx : x < 2 ^ 31) {K : Int32 → Prop} (k : K (nI (cell x))) : wX6_cellOf (nI x) K := by
  unfold wX6_cellOf wX6_cellOf_0
  rw [ishrn hx (by omega), fa_mask _ 4]; exact k
theorem m_ageOf {x : Nat} (hx : x < 2 ^ 31) {K : Int32 → Prop} (k : K (nI (age x))) : wX6_ageOf (nI x) K := by
  unfold wX6_ageOf wX6_ageOf_0
  rw [ishrn hx (by omega)]; exact k
def shows (t : Nat → Nat) (g : Nat) : Bool := decide (t (12 + g) ≠ 0 ∨ t (6 + g) = 0)
theorem m_isShown {m : MS} {T : Nat → Nat} {n b : Nat} {t : Nat → Nat} (h : MI m T n b t) {g : Nat} (hg : g < 6) {K : Int32 → Prop} (k : K (nI (if shows t g then 1 else 0))) : wX6_isShown (nI b) (nI g) m K := by
  obtain ⟨hT, hS, hB, hk, hn, hb⟩ := id h
  obtain ⟨f1, f2, f3⟩ := hk.2.2.1 g hg
  unfold wX6_isShown wX6_isShown_0
  unfold shows at k
  refine m_isWhole h hg ?_
  rw [n0, b0]
  refine ⟨fun q => ?_, fun q => ?_⟩
  · simp [q] at k; exact k
  · rw [Decidable.not_not] at q
    rw [nI_add, nI_add, Nat.add_assoc, vin (by omega), m_st h (by omega), nI_eq (by omega) (by omega)]
    refine ⟨by omega, fun r => ?_, fun r => ?_⟩
    · simp [q, r] at k; exact k
    · simp [q, r] at k; exact k
/-- whom a mark tells of: nobody behind frosted glass that is whole -/
def tells (T t : Nat → Nat) (g : Nat) : Bool := decide (¬ (t (12 + g) = 0 ∧ T (5 + 3 * g) = 1))
theorem m_shownOf {m : MS} {T : Nat → Nat} {n b : Nat} {t : Nat → Nat} (h : MI m T n b t) {g x : Nat} (hg : g < 6) {K : Int32 → Prop} (k : K (if tells T t g then nI (who x) else -1)) : wX6_shownOf (nI b) (nI g) (nI x) m K := by
  obtain ⟨hT, hS, hB, hk, hn, hb⟩ := id h
  obtain ⟨g1, g2, g3, g4⟩ := hS.2.1 g hg
  unfold wX6_shownOf wX6_shownOf_0
  unfold tells at k
  refine m_isWhole h hg ?_
  rw [n0, b0]
  refine ⟨fun q => ?_, fun q => ?_⟩
  · simp [q] at k
    exact m_whoOf k
  · rw [Decidable.not_not] at q
    refine m_kind hT hg ?_
    rw [n1, nI_eq (by omega) (by omega)]
    refine ⟨fun r => ?_, fun r => ?_⟩
    · simp [q, r] at k; exact m_whoOf k
    · simp [q, r] at k; exact k
/-- whether a mark x of a pane is shown as one of p (p : none: of anybody) -/
def ofP (T t : Nat → Nat) (g : Nat) (p : Option Nat) (x : Nat) : Bool := match p with
  | none => true
  | some p => tells T t g && decide (who x = p)
/-- deeds that a pane shows by its marks from lo on -/
def deedsF (T t : Nat → Nat) (g : Nat) (p : Option Nat) (lo : Nat) : Nat → Nat := fo (fun i a => if ofP T t g p (t (24 + 6 * g + (lo + i))) then a ||| 2 ^ deed (t (24 + 6 * g + (lo + i))) else a) 0
def deedsBy (T t : Nat → Nat) (g : Nat) (p : Option Nat) (keeps : Nat) : Nat := if shows t g then deedsF T t g p (t (18 + g) - keeps) (t (18 + g) - (t (18 + g) - keeps)) else 0
def pI (p : Option Nat) : Int32 := match p with
  | none => -1
  | some p => nI p
theorem mk_lt {n : Nat} {t : Nat → Nat} (hk : BkOk n t) (hn : n < 100000) {g i : Nat} (hg : g < 6) (hi : i < 6) : t (24 + 6 * g + i) < 2 ^ 31 := by
  have := (hk.2.2.2 g i hg hi).2.2.2
  omega
theorem nI_nm1 {n : Nat} (hn : n < 2 ^ 31) : ¬ nI n = -1 := by
  intro h
  have h2 := nI_pos hn
  rw [h] at h2
  exact h2 (by decide)
theorem m_deedsBy {m : MS} {T : Nat → Nat} {n b : Nat} {t : Nat → Nat} (h : MI m T n b t) {g ke : Nat} (hg : g < 6) (hke : ke < 100) {p : Option Nat} (hp : ∀ q, p = some q → q < 2 ^ 31) {K : Int32 → Prop} (k : K (nI (deedsBy T t g p ke))) : wX6_deedsBy (nI b) (nI g) (pI p) (nI ke) m K := by
  obtain ⟨hT, hS, hB, hk, hn, hb⟩ := id h
  obtain ⟨f1, f2, f3⟩ := hk.2.2.1 g hg
  have loop : ∀ lo, lo = t (18 + g) - ke → wX6_deedsBy_34 (nI b) (nI g) (pI p) (nI (t (18 + g))) 0 (nI lo) m K := by
    intro lo hlo
    unfold wX6_deedsBy_34
    by_cases hs : shows t g = true
    · rw [deedsBy, if_pos hs, ← hlo] at k
      refine lfp_seq (fun i => (nI (deedsF T t g p lo i), nI (lo + i))) (t (18 + g) - lo) rfl ?_ ?_
      · intro i hi KL hKL
        have h78 : ofP T t g p (t (24 + 6 * g + (lo + i))) = true → wX6_deedsBy_78 (nI b) (nI g) (pI p) (nI (t (18 + g))) (nI (lo + i)) (nI (t (24 + 6 * g + (lo + i)))) (nI (deedsF T t g p lo i)) m KL K := by
          intro ho
          unfold wX6_deedsBy_78
          refine m_deedOf (mk_lt hk hn hg (by omega)) ?_
          intro v e
          subst e
          have hd : deed (t (24 + 6 * g + (lo + i))) < 8 := Nat.mod_lt _ (by omega)
          rw [n1, ishl1 (by omega), fa_or, nI_add]
          unfold deedsF fo at hKL
          rw [if_pos ho] at hKL
          exact hKL
        refine ⟨fun q => absurd q (nI_ge (by omega) (by omega)), fun _ => m_isShown h hg ?_⟩
        rw [n0, b0]
        refine ⟨fun q => absurd hs q, fun _ => m_markOf h hg (by omega) ?_⟩
        cases p with
        | none => exact ⟨fun _ => h78 rfl, fun q => absurd (by decide) q⟩
        | some p =>
          refine ⟨fun q => absurd q (nI_pos (hp p rfl)), fun _ => m_shownOf h hg ?_⟩
          have hw : who (t (24 + 6 * g + (lo + i))) < 8 := Nat.mod_lt _ (by omega)
          have hpp := hp p rfl
          by_cases ht : tells T t g = true
          · rw [if_pos ht]
            rw [show pI (some p) = nI p from rfl, nI_eq (by omega) (by omega)]
            refine ⟨fun q v e => ?_, fun q => h78 (by simp [ofP, ht, q])⟩
            subst e
            unfold deedsF fo at hKL
            rw [if_neg (by simp [ofP, q])] at hKL
            rw [fa_or, Nat.or_zero, n1, nI_add]
            exact hKL
          · rw [if_neg ht]
            refine ⟨fun q v e => ?_, fun q => absurd q.symm (nI_nm1 hpp)⟩
            subst e
            unfold deedsF fo at hKL
            rw [if_neg (by simp [ofP, ht])] at hKL
            rw [fa_or, Nat.or_zero, n1, nI_add]
            exact hKL
      · intro KL
        refine ⟨fun _ => k, fun q => absurd (nI_le (by omega) (by omega)) q⟩
    · rw [deedsBy, if_neg hs] at k
      refine lfp_seq (fun i => (nI 0, nI lo)) 0 rfl (fun i hi => absurd hi (by omega)) (fun KL => ⟨fun _ => k, fun _ => m_isShown h hg ?_⟩)
      rw [n0, b0]
      exact ⟨fun _ => k, fun q => absurd hs q⟩
  unfold wX6_deedsBy wX6_deedsBy_0
  rw [nI_add, nI_add, Nat.add_assoc, vin (by omega), m_st h (by omega)]
  refine ⟨by omega, fun v e => ?_⟩
  subst e
  rw [nI_leI (by omega) (by omega)]
  refine ⟨fun q => loop 0 (by omega), fun q v e => ?_⟩
  subst e
  rw [pk_sub (by omega)]
  exact loop _ rfl
