/-! L2: dark -/
/-- whether a set s is better than the best so far -/
def darkB (b : Option Nat) (s : Nat) : Bool := match b with
  | none => true
  | some b => decide (bits s < bits b ∨ bits s = bits b ∧ s < b)
def darkF (T t : Nat → Nat) (cells : Nat) : Nat → Option Nat := fo (fun c b => if cells.testBit c && darkB b (seers T t c) then some (seers T t c) else b) none
theorem darkF_lt {T t : Nat → Nat} (hS : StOk T) (cells : Nat) : ∀ n b, darkF T t cells n = some b → b < 64
  | 0, b, h => by simp [darkF, fo] at h
  | n + 1, b, h => by
    have ih := darkF_lt (t := t) hS cells n
    unfold darkF fo at h
    unfold darkF at ih
    split at h
    · cases h; exact seers_lt hS n
    · exact ih b h
theorem m_dark {m : MS} {T : Nat → Nat} {n : Nat} {t : Nat → Nat} (h : MI m T n 0 t) {x : Int32} {K : Int32 → MS → Prop} (k : K (pickR x 1 1023 (fun ce => pI (darkF T t ce 10)) (-1)) (sF m 0 0)) : wX6_dark x m K := by
  have hS := h.2.1
  unfold wX6_dark wX6_dark_0
  rintro m1 rfl
  refine pickR_m (lo := 1) (by omega) (by omega) (fun ce h1 h2 e => ?_) (fun hb => ?_)
  · subst e
    rw [pickR_y h1 h2 (by omega)] at k
    refine ⟨fun _ => ?_, fun q => absurd q (by decide)⟩
    unfold wX6_dark_22
    refine lfp_seq (fun i => (pI (darkF T t ce i), nI i)) 10 rfl ?_ ?_
    · intro i hi KL hKL
      have s1 := seers_lt (t := t) hS i
      have hd := darkF_lt (t := t) hS ce i
      rw [show darkF T t ce (i + 1) = if ce.testBit i && darkB (darkF T t ce i) (seers T t i) then some (seers T t i) else darkF T t ce i from rfl] at hKL
      have h83 : ¬ ((ce.testBit i && darkB (darkF T t ce i) (seers T t i)) = true) → wX6_dark_83 (nI ce) (pI (darkF T t ce i)) (nI i) (nI (seers T t i)) (sF m 0 0) KL K := by
        intro q
        rw [if_neg q] at hKL
        exact ⟨fun _ => by rw [n1, nI_add]; exact hKL, fun r => absurd rfl r⟩
      have h79 : (ce.testBit i && darkB (darkF T t ce i) (seers T t i)) = true → wX6_dark_79 (nI ce) (pI (darkF T t ce i)) (nI i) (nI (seers T t i)) (sF m 0 0) KL K := by
        intro q
        rw [if_pos q] at hKL
        exact ⟨fun r => absurd r (by decide), fun _ => by rw [n1, nI_add]; exact hKL⟩
      dsimp only [wX6_dark_22_b]
      refine ⟨fun q => absurd q (nI_ge hi (by omega)), fun _ => m_seersOf (h.sf 0 0) (by omega) ?_⟩
      rw [n1, bitI (by omega) (by omega), b1]
      refine ⟨fun q => h83 (by simp [q]), fun q => ?_⟩
      cases hb : darkF T t ce i with
      | none =>
        rw [hb] at h79
        exact ⟨fun _ => h79 (by simp [q, darkB]), fun r => absurd (by decide) r⟩
      | some b =>
        have hbl := hd b hb
        have c1 := bits_le (show seers T t i < 1024 by omega)
        have c2 := bits_le (show b < 1024 by omega)
        rw [hb] at h79 h83
        refine ⟨fun r => absurd r (nI_pos (by omega)), fun _ => m_bitsB (by omega) (m_bitsB (by omega) ?_)⟩
        rw [nI_ltI (by omega) (by omega)]
        refine ⟨fun r => h79 (by simp [q, darkB, r]), fun r => m_bitsB (by omega) (m_bitsB (by omega) ?_)⟩
        rw [nI_eq (by omega) (by omega)]
        refine ⟨fun s => h83 (by simp only [q, darkB, Bool.true_and, decide_eq_true_eq]; omega), fun s => ?_⟩
        show (nI b ≤ nI _ → _) ∧ (¬ nI b ≤ nI _ → _)
        rw [nI_leI (by omega) (by omega)]
        exact ⟨fun u => h83 (by simp only [q, darkB, Bool.true_and, decide_eq_true_eq]; omega), fun u => h79 (by simp only [q, darkB, Bool.true_and, decide_eq_true_eq]; omega)⟩
    · intro KL
      exact ⟨fun _ => k, fun q => absurd (nI_le (Nat.le_refl _) (by omega)) q⟩
  · unfold pickR at k
    rw [if_neg hb] at k
    exact ⟨fun q => absurd rfl q, fun _ => k⟩
theorem g_dark {bk : Nat → Nat} {cs : Nat → Option gC} {w : GW} {jh : Nat} {T : Nat → Nat} {fd : Option Nat} {n : Nat} {t : Nat → Nat} (h : GS bk cs w jh T fd n t) {c : Nat → Option Nat} {x : Int32} {K : Int32 → Prop} (k : K (pickR x 1 1023 (fun ce => pI (darkF T t ce 10)) (-1))) : wX1_dark c (bk 0) x w K := by
  obtain ⟨hG, hS, hk, hn⟩ := h
  have hT := hG.2.2.2
  have h0 := hk.1
  unfold wX1_dark wX1_dark_0
  refine pickR_g (lo := 1) (by omega) (by omega) (fun ce h1 h2 e => ?_) (fun hb => ?_)
  · subst e
    rw [pickR_y h1 h2 (by omega)] at k
    refine ⟨fun _ => ?_, fun q => absurd q (by decide)⟩
    unfold wX1_dark_17
    refine lfp_seq (fun i => (pI (darkF T t ce i), nI i)) 10 rfl ?_ ?_
    · intro i hi KL hKL
      have s1 := seers_lt (t := t) hT i
      have hd := darkF_lt (t := t) hT ce i
      rw [show darkF T t ce (i + 1) = if ce.testBit i && darkB (darkF T t ce i) (seers T t i) then some (seers T t i) else darkF T t ce i from rfl] at hKL
      have h83 : ¬ ((ce.testBit i && darkB (darkF T t ce i) (seers T t i)) = true) → KL (pI (darkF T t ce i), nI i + 1) := by
        intro q
        rw [if_neg q] at hKL
        rw [n1, nI_add]; exact hKL
      have h79 : (ce.testBit i && darkB (darkF T t ce i) (seers T t i)) = true → KL (nI (seers T t i), nI i + 1) := by
        intro q
        rw [if_pos q] at hKL
        rw [n1, nI_add]; exact hKL
      dsimp only [wX1_dark_17_b]
      refine ⟨fun q => absurd q (nI_ge hi (by omega)), fun _ => g_isIn (by omega) (by omega) ?_⟩
      rw [n0, b0, Decidable.not_not]
      refine ⟨fun q => ⟨_, g_f4 hG, _, rfl, g_x hG, g_seeing hG hS (by omega) (by omega) (g_bits (by omega) ?_)⟩, fun q => h83 (by simp [q])⟩
      cases hb : darkF T t ce i with
      | none =>
        rw [hb] at h79
        exact ⟨fun _ => h79 (by simp [q, darkB]), fun r => absurd (by decide) r⟩
      | some b =>
        have hbl := hd b hb
        have c1 := bits_le (show seers T t i < 1024 by omega)
        have c2 := bits_le (show b < 1024 by omega)
        rw [hb] at h79 h83
        refine ⟨fun r => absurd r (nI_pos (by omega)), fun _ => g_bits (by omega) ?_⟩
        rw [nI_ltI (by omega) (by omega)]
        refine ⟨fun r => h79 (by simp [q, darkB, r]), fun r => g_bits (by omega) ?_⟩
        rw [nI_eq (by omega) (by omega)]
        refine ⟨fun s => h83 (by simp only [q, darkB, Bool.true_and, decide_eq_true_eq]; omega), fun s => ?_⟩
        show (nI b ≤ nI _ → _) ∧ (¬ nI b ≤ nI _ → _)
        rw [nI_leI (by omega) (by omega)]
        exact ⟨fun u => h83 (by simp only [q, darkB, Bool.true_and, decide_eq_true_eq]; omega), fun u => h79 (by simp only [q, darkB, Bool.true_and, decide_eq_true_eq]; omega)⟩
    · intro KL
      exact ⟨fun _ => k, fun q => absurd (nI_le (Nat.le_refl _) (by omega)) q⟩
  · unfold pickR at k
    rw [if_neg hb] at k
    exact ⟨fun q => absurd rfl q, fun _ => k⟩
