/-! L2: where -/
def wOk (T t : Nat → Nat) (sd : Nat → Int32) (c g : Nat) : Bool := decide (sd g < 0) || (decide (sd g = 1) == (sight T t g).testBit c)
def allB (p : Nat → Bool) : Nat → Bool
  | 0 => true
  | n + 1 => allB p n && p n
theorem allB_f {p : Nat → Bool} {i : Nat} (h : allB p i = false) : ∀ k, allB p (i + k) = false
  | 0 => h
  | k + 1 => by
    show (allB p (i + k) && p (i + k)) = false
    rw [allB_f h k]; rfl
def whereF (T t : Nat → Nat) (sd : Nat → Int32) : Nat := orB (fun c => allB (wOk T t sd c) (T 0)) 10
/-- what is said, in the model -/
def SD (m : MS) (sd : Nat → Int32) : Prop := ∀ g, g < 6 → gA m 11 (60 + g) = sd g
theorem m_cellsNow {m : MS} {T : Nat → Nat} {n : Nat} {t : Nat → Nat} {sd : Nat → Int32} (h : MI m T n 0 t) (hsd : SD m sd) {K : Int32 → Prop} (k : K (nI (whereF T t sd))) : wX6_cellsNow m K := by
  have hS := h.2.1
  have h6 := hS.1.1
  unfold wX6_cellsNow wX6_cellsNow_0 wX6_cellsNow_4
  refine lfp_seq (fun c => (nI (orB (fun c => allB (wOk T t sd c) (T 0)) c), nI c)) 10 rfl ?_ ?_
  · intro c hc KL hKL
    unfold orB at hKL
    dsimp only [wX6_cellsNow_4_b]
    refine ⟨fun q => absurd q (nI_ge hc (by omega)), fun _ => ?_⟩
    unfold wX6_cellsNow_15
    refine lfp_seq (fun g => (nI (if allB (wOk T t sd c) g then 1 else 0), nI g)) (T 0) rfl ?_ ?_
    · intro g hg KL2 hKL2
      have hsg : rd (gA m 11) (nI (60 + g)) = sd g := by rw [rdn (by omega), hsd g (by omega)]
      rw [show allB (wOk T t sd c) (g + 1) = (allB (wOk T t sd c) g && wOk T t sd c g) from rfl] at hKL2
      dsimp only [wX6_cellsNow_15_b]
      refine m_panes h.1 ?_
      refine ⟨fun q => absurd q (nI_ge hg (by omega)), fun _ => ?_⟩
      rw [n0, b0, nI_add, vin (by omega), hsg]
      refine ⟨fun q => ?_, fun q => ⟨by omega, fun r => ?_, fun r => m_doesSee h (by omega) (by omega) ?_⟩⟩
      · rw [if_neg (by simp [q])] at hKL2
        rw [n1, nI_add]; exact hKL2
      · rw [Decidable.not_not] at q
        rw [if_pos (by simp [q, wOk]; exact Or.inl r)] at hKL2
        rw [n1, nI_add]; exact hKL2
      · rw [Decidable.not_not] at q
        have r' : decide (sd g < 0) = false := decide_eq_false r
        refine ⟨by omega, fun s => ?_, fun s => ?_⟩
        · have s' : decide (sd g = 1) = false := decide_eq_false s
          dsimp only [wX6_cellsNow_68]
          rw [n0, b0]
          refine ⟨fun u => ?_, fun u => ?_⟩
          · rw [Decidable.not_not] at u
            rw [if_neg (by simp [wOk, r', s', u])] at hKL2
            rw [n1, nI_add]; exact hKL2
          · rw [if_pos (by simp [wOk, r', s', u, q])] at hKL2
            rw [n1, nI_add]; exact hKL2
        · have s' : decide (sd g = 1) = true := decide_eq_true s
          dsimp only [wX6_cellsNow_68]
          rw [n1, b1]
          refine ⟨fun u => ?_, fun u => ?_⟩
          · rw [if_neg (by simp [wOk, r', s', u])] at hKL2
            rw [n0, nI_add]; exact hKL2
          · rw [if_pos (by simp [wOk, s', u, q])] at hKL2
            rw [nI_add]; exact hKL2
    · intro KL2
      dsimp only [wX6_cellsNow_15_b]
      refine m_panes h.1 ?_
      refine ⟨fun _ => ?_, fun q => absurd (nI_le (Nat.le_refl _) (by omega)) q⟩
      rw [n0, b0]
      refine ⟨fun q v e => ?_, fun q v e => ?_⟩
      · subst e
        rw [if_neg q] at hKL
        rw [fa_or, Nat.or_zero, n1, nI_add]; exact hKL
      · subst e
        rw [Decidable.not_not] at q
        rw [if_pos q] at hKL
        rw [n1, ishl1 (by omega), fa_or, nI_add]; exact hKL
  · intro KL
    exact ⟨fun _ => k, fun q => absurd (nI_le (Nat.le_refl _) (by omega)) q⟩
theorem m_where {m : MS} {T : Nat → Nat} {n : Nat} {t : Nat → Nat} {sd : Nat → Int32} (h : MI m T n 0 t) (hsd : SD m sd) {K : Int32 → MS → Prop} (k : K (nI (whereF T t sd)) (sF m 0 0)) : wX6_where m K := by
  unfold wX6_where wX6_where_0
  rintro m1 rfl
  exact m_cellsNow (h.sf 0 0) (sd := sd) hsd k
/-- what is said, in the game: index 4 -/
def GSd (cs : Nat → Option gC) (sd : Nat → Int32) : Prop := ∃ f : Nat → Int32, cs 4 = some (.inl (0, 6, .inl f)) ∧ ∀ g, g < 6 → f g = sd g
theorem g_f10 {bk : Nat → Nat} {cs : Nat → Option gC} {w : GW} {jh : Nat} {T : Nat → Nat} {fd : Option Nat} (hG : GI bk cs w jh T fd) : gfm w (bk 0) [0] 10 = some (va_rf (some (bk 4))) := by
  obtain ⟨hx, ⟨v7, v9, v11, v12, v13, x0⟩, -⟩ := hG
  exact g_fd hx x0 (by simp) rfl
theorem g_where {bk : Nat → Nat} {cs : Nat → Option gC} {w : GW} {jh : Nat} {T : Nat → Nat} {fd : Option Nat} {n : Nat} {t : Nat → Nat} {sd : Nat → Int32} (h : GS bk cs w jh T fd n t) (hsd : GSd cs sd) {c : Nat → Option Nat} {K : Int32 → Prop} (k : K (nI (whereF T t sd))) : wX1_where c (bk 0) w K := by
  obtain ⟨hG, hS, hk, hn⟩ := h
  have hT := hG.2.2.2
  have h6 := hT.1.1
  have h0 := hk.1
  obtain ⟨fs, hf, hfs⟩ := hsd
  obtain ⟨f, gg, h1, -⟩ := id hS
  unfold wX1_where wX1_where_0 wX1_where_4
  refine lfp_seq (fun c => (nI (orB (fun c => allB (wOk T t sd c) (T 0)) c), nI c)) 10 rfl ?_ ?_
  · intro cl hc KL hKL
    unfold orB at hKL
    dsimp only [wX1_where_4_b]
    refine ⟨fun q => absurd q (nI_ge hc (by omega)), fun _ => ?_⟩
    have h83 : ∀ b : Bool, allB (wOk T t sd cl) (T 0) = b → wX1_where_83 c (bk 0) (nI (orB (fun c => allB (wOk T t sd c) (T 0)) cl)) (nI cl) (nI (if b then 1 else 0)) w KL K := by
      intro b e
      dsimp only [wX1_where_83]
      rw [n0, b0]
      refine ⟨fun q => ?_, fun q v e2 => ?_⟩
      · rw [if_neg (by rw [e]; exact q)] at hKL
        rw [n1, nI_add]; exact hKL
      · subst e2
        rw [Decidable.not_not] at q
        rw [if_pos (by rw [e]; exact q)] at hKL
        rw [n1, ishl1 (by omega), fa_or, nI_add]; exact hKL
    unfold wX1_where_15
    refine lfp_inv (fun s => ∃ g, g ≤ T 0 ∧ s = (nI (if allB (wOk T t sd cl) g then 1 else 0), nI g)) (fun s => T 0 - s.2.toNatClampNeg) ⟨0, by omega, rfl⟩ ?_
    rintro s ⟨g, hg, rfl⟩ KL2 hKL2
    dsimp only [wX1_where_15_b]
    refine ⟨g_x hG, g_panes hG ⟨fun q => ?_, fun q => ?_⟩⟩
    · rw [nI_leI (by omega) (by omega)] at q
      exact h83 _ (by rw [show g = T 0 by omega])
    · rw [nI_leI (by omega) (by omega)] at q
      have hstep : ∀ b : Bool, (allB (wOk T t sd cl) g && wOk T t sd cl g) = b → KL2 (nI (if b then 1 else 0), nI g + 1) := by
        intro b e
        refine hKL2 _ ⟨g + 1, by omega, ?_⟩ ?_
        · rw [← e, n1, nI_add]; rfl
        · dsimp only
          rw [n1, nI_add, nI_clamp (by omega), nI_clamp (by omega)]; omega
      rw [n0, b0]
      refine ⟨fun r => h83 _ ?_, fun r => ⟨_, g_f10 hG, _, rfl, _, _, g_ai hG.1 hf, ?_, ?_⟩⟩
      · have := allB_f (p := wOk T t sd cl) (i := g) (by simpa using r) (T 0 - g)
        rw [show g + (T 0 - g) = T 0 by omega] at this
        rw [this]; simpa using r
      · rw [vin (by omega)]; omega
      · rw [Decidable.not_not] at r
        rw [rdn (by omega), hfs g (by omega)]
        refine ⟨fun u => hstep true (by simp [r, wOk]; exact Or.inl u), fun u => ⟨_, g_f10 hG, _, rfl, _, _, g_ai hG.1 hf, ?_, ?_⟩⟩
        · rw [vin (by omega)]; omega
        · have u' : decide (sd g < 0) = false := decide_eq_false u
          have hs := sight_lt (t := t) hT (show g < 6 by omega)
          rw [rdn (by omega), hfs g (by omega)]
          refine ⟨fun s => ?_, fun s => ?_⟩
          · have s' : decide (sd g = 1) = false := decide_eq_false s
            dsimp only [wX1_where_54]
            refine ⟨_, g_f4 hG, _, rfl, g_x hG, g_sees hG hS (by omega) (by omega) (g_isIn (by omega) (by omega) ?_)⟩
            rw [n0, eq_comm, b0]
            refine ⟨fun z => hstep false (by rw [Decidable.not_not] at z; simp [r, wOk, u', s', z]), fun z => hstep true (by simp [r, wOk, u', s', z])⟩
          · have s' : decide (sd g = 1) = true := decide_eq_true s
            dsimp only [wX1_where_54]
            refine ⟨_, g_f4 hG, _, rfl, g_x hG, g_sees hG hS (by omega) (by omega) (g_isIn (by omega) (by omega) ?_)⟩
            rw [n1, eq_comm, b1]
            refine ⟨fun z => hstep false (by simp [r, wOk, u', s', z]), fun z => hstep true (by simp [r, wOk, s', z])⟩
  · intro KL
    exact ⟨fun _ => k, fun q => absurd (nI_le (Nat.le_refl _) (by omega)) q⟩
