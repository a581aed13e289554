/-! L2: where -/
def wOk (T t : Nat → Nat) (sd : Nat → Int32) (c g : Nat) : Bool := decide (sd g < 0) || (decide (sd g = 1) == (sight T t g).testBit c)
def allB (p : Nat → Bool) : Nat → Bool
  | 0 => true
  | n + 1 => allB p n && p n
theorem allB_f {p : Nat → Bool} {i : Nat} (h : allB p i = false) : ∀ k, allB p (i + k) = false
  | 0 => h
  | k + 1 => by
    show (allB p (i + k) && p (i + k)) = false
    rw [allB_f h k]; rfl
def whereF (T t : Nat → Nat) (sd : Nat → Int32) : Nat := orB (fun c => allB (wOk T t sd c) (T 0)) 10
/-- what is said, in the model -/
def SD (m : MS) (sd : Nat → Int32) : Prop := ∀ g, g < 6 → gA m 11 (60 + g) = sd g
theorem m_cellsNow {m : MS} {T : Nat → Nat} {n : Nat} {t : Nat → Nat} {sd : Nat → Int32} (h : MI m T n 0 t) (hsd : SD m sd) {K : Int32 → Prop} (k : K (nI (whereF T t sd))) : wX6_cellsNow m K := by
  have hS := h.2.1
  have h6 := hS.1.1
  unfold wX6_cellsNow wX6_cellsNow_0 wX6_cellsNow_4
  refine lfp_seq (fun c => (nI (orB (fun c => allB (wOk T t sd c) (T 0)) c), nI c)) 10 rfl ?_ ?_
  · intro c hc KL hKL
    unfold orB at hKL
    dsimp only [wX6_cellsNow_4_b]
    refine ⟨fun q => absurd q (nI_ge hc (by omega)), fun _ => ?_⟩
    unfold wX6_cellsNow_15
    refine lfp_seq (fun g => (nI (if allB (wOk T t sd c) g then 1 else 0), nI g)) (T 0) rfl ?_ ?_
    · intro g hg KL2 hKL2
      have hsg : rd (gA m 11) (nI (60 + g)) = sd g := by rw [rdn (by omega), hsd g (by omega)]
      rw [show allB (wOk T t sd c) (g + 1) = (allB (wOk T t sd c) g && wOk T t sd c g) from rfl] at hKL2
      dsimp only [wX6_cellsNow_15_b]
      refine m_panes h.1 ?_
      refine ⟨fun q => absurd q (nI_ge hg (by omega)), fun _ => ?_⟩
      rw [n0, b0, nI_add, vin (by omega), hsg]
      refine ⟨fun q => ?_, fun q => ⟨by omega, fun r => ?_, fun r => m_doesSee h (by omega) (by omega) ?_⟩⟩
      · rw [if_neg (by simp [q])] at hKL2
        rw [n1, nI_add]; exact hKL2
      · rw [Decidable.not_not] at q
        rw [if_pos (by simp [q, wOk]; exact Or.inl r)] at hKL2
        rw [n1, nI_add]; exact hKL2
      · rw [Decidable.not_not] at q
        have r' : decide (sd g < 0) = false := decide_eq_false r
        refine ⟨by omega, fun s => ?_, fun s => ?_⟩
        · have s' : decide (sd g = 1) = false := decide_eq_false s
          dsimp only [wX6_cellsNow_68]
          rw [n0, b0]
          refine ⟨fun u => ?_, fun u => ?_⟩
          · rw [Decidable.not_not] at u
            rw [if_neg (by simp [wOk, r', s', u])] at hKL2
            rw [n1, nI_add]; exact hKL2
          · rw [if_pos (by simp [wOk, r', s', u, q])] at hKL2
            rw [n1, nI_add]; exact hKL2
        · have s' : decide (sd g = 1) = true := decide_eq_true s
          dsimp only [wX6_cellsNow_68]
          rw [n1, b1]
          refine ⟨fun u => ?_, fun u => ?_⟩
          · rw [if_neg (by simp [wOk, r', s', u])] at hKL2
            rw [n0, nI_add]; exact hKL2
          · rw [if_pos (by simp [wOk, s', u, q])] at hKL2
            rw [nI_add]; exact hKL2
    · intro KL2
      dsimp only [wX6_cellsNow_15_b]
      refine m_panes h.1 ?_
      refine ⟨fun _ => ?_, fun q => absurd (nI_le (Nat.le_refl _) (by omega)) q⟩
      rw [n0, b0]
      refine ⟨fun q v e => ?_, fun q v e => ?_⟩
      · subst e
        rw [if_neg q] at hKL
        rw [fa_or, Nat.or_zero, n1, nI_add]; exact hKL
      · subst e
        rw [Decidable.not_not] at q
        rw [if_pos q] at hKL
        rw [n1, ishl1 (by omega), fa_or, nI_add]; exact hKL
  · intro KL
    exact ⟨fun _ => k, fun q => absurd (nI_le (Nat.le_refl _) (by omega)) q⟩
