/-! L2: queries, third lot: bits of a set, eyes, oldest -/
def bcI (x0 : Int32) : Int32 :=
  let v1 := x0 - ((iushr x0 1) &&& (1431655765 : Int32))
  let v2 := (v1 &&& (858993459 : Int32)) + ((iushr v1 (nI 2)) &&& (858993459 : Int32))
  let v3 := (v2 + (iushr v2 (nI 4))) &&& (252645135 : Int32)
  let v4 := v3 + (iushr v3 (nI 8))
  let v5 := v4 + (iushr v4 (nI 16))
  v5 &&& (nI 63)
def bits (s : Nat) : Nat := bitsF s 30
theorem bcI_all : (List.range 1024).all (fun s => bcI (nI s) == nI (bits s) && decide (bits s ≤ 10)) = true := by decide +kernel
theorem bcI_ok {s : Nat} (h : s < 1024) : bcI (nI s) = nI (bits s) := by
  have := all_rng bcI_all h
  rw [Bool.and_eq_true] at this
  exact eq_of_beq this.1
theorem bits_le {s : Nat} (h : s < 1024) : bits s ≤ 10 := by
  have := all_rng bcI_all h
  rw [Bool.and_eq_true] at this
  exact of_decide_eq_true this.2
theorem g_bits {c : Nat → Option Nat} {w : GW} {s : Nat} (hs : s < 1024) {K : Int32 → Prop} (k : K (nI (bits s))) : wJ17_bitCount c (nI s) w K := by
  rw [← bcI_ok hs] at k
  unfold wJ17_bitCount wJ17_bitCount_0
  rintro v1 rfl v2 rfl v3 rfl v4 rfl v5 rfl
  exact k
theorem m_bitsB {s : Nat} (hs : s < 2 ^ 31) {K : Int32 → Prop} (k : K (nI (bits s))) : wX6_bits (nI s) K := m_bits hs k
def eyesF (T t : Nat → Nat) : Nat → Nat := fo (fun i b => if bits (seers T t b) < bits (seers T t (i + 1)) then i + 1 else b) 0
theorem eyesF_le (T t : Nat → Nat) : ∀ n, eyesF T t n ≤ n
  | 0 => by simp [eyesF, fo]
  | n + 1 => by
    have ih := eyesF_le T t n
    unfold eyesF fo
    unfold eyesF at ih
    split <;> omega
theorem m_eyes {m : MS} {T : Nat → Nat} {n : Nat} {t : Nat → Nat} (h : MI m T n 0 t) {K : Int32 → MS → Prop} (k : K (nI (eyesF T t 9)) (sF m 0 0)) : wX6_eyes m K := by
  have hS := h.2.1
  unfold wX6_eyes wX6_eyes_0
  rintro m1 rfl
  unfold wX6_eyes_9
  refine lfp_seq (fun i => (nI (eyesF T t i), nI (i + 1))) 9 rfl ?_ ?_
  · intro i hi KL hKL
    have hl := eyesF_le T t i
    have s1 := seers_lt (t := t) hS (i + 1)
    have s2 := seers_lt (t := t) hS (eyesF T t i)
    have c1 := bits_le (show seers T t (i + 1) < 1024 by omega)
    have c2 := bits_le (show seers T t (eyesF T t i) < 1024 by omega)
    dsimp only [wX6_eyes_9_b]
    refine ⟨fun q => absurd q (nI_ge (by omega) (by omega)), fun _ => m_seersOf (h.sf 0 0) (by omega) ?_⟩
    refine m_bitsB (by omega) (m_seersOf (h.sf 0 0) (by omega) (m_bitsB (by omega) ?_))
    rw [nI_leI (by omega) (by omega), n1, nI_add]
    rw [show eyesF T t (i + 1) = if bits (seers T t (eyesF T t i)) < bits (seers T t (i + 1)) then i + 1 else eyesF T t i from rfl] at hKL
    refine ⟨fun q => ?_, fun q => ?_⟩
    · rw [if_neg (by omega)] at hKL; exact hKL
    · rw [if_pos (by omega)] at hKL; exact hKL
  · intro KL
    exact ⟨fun _ => k, fun q => absurd (nI_le (Nat.le_refl _) (by omega)) q⟩
theorem g_eyes {bk : Nat → Nat} {cs : Nat → Option gC} {w : GW} {jh : Nat} {T : Nat → Nat} {fd : Option Nat} {n : Nat} {t : Nat → Nat} (h : GS bk cs w jh T fd n t) {c : Nat → Option Nat} {K : Int32 → Prop} (k : K (nI (eyesF T t 9))) : wX1_eyes c (bk 0) w K := by
  obtain ⟨hG, hS, hk, hn⟩ := h
  have hT := hG.2.2.2
  have h0 := hk.1
  unfold wX1_eyes wX1_eyes_0 wX1_eyes_4
  refine lfp_seq (fun i => (nI (eyesF T t i), nI (i + 1))) 9 rfl ?_ ?_
  · intro i hi KL hKL
    have hl := eyesF_le T t i
    have s1 := seers_lt (t := t) hT (i + 1)
    have s2 := seers_lt (t := t) hT (eyesF T t i)
    have c1 := bits_le (show seers T t (i + 1) < 1024 by omega)
    have c2 := bits_le (show seers T t (eyesF T t i) < 1024 by omega)
    dsimp only [wX1_eyes_4_b]
    refine ⟨fun q => absurd q (nI_ge (by omega) (by omega)), fun _ => ⟨_, g_f4 hG, _, rfl, g_x hG, g_seeing hG hS (by omega) (by omega) (g_bits (by omega) ⟨_, g_f4 hG, _, rfl, g_x hG, g_seeing hG hS (by omega) (by omega) (g_bits (by omega) ?_)⟩)⟩⟩
    rw [nI_leI (by omega) (by omega), n1, nI_add]
    rw [show eyesF T t (i + 1) = if bits (seers T t (eyesF T t i)) < bits (seers T t (i + 1)) then i + 1 else eyesF T t i from rfl] at hKL
    refine ⟨fun q => ?_, fun q => ?_⟩
    · rw [if_neg (by omega)] at hKL; exact hKL
    · rw [if_pos (by omega)] at hKL; exact hKL
  · intro KL
    exact ⟨fun _ => k, fun q => absurd (nI_le (Nat.le_refl _) (by omega)) q⟩
