/-! L2: queries, both sides, first lot -/
/-- an answer for a number below n, d for any other int -/
def pick (x : Int32) (n : Nat) (f : Nat → Int32) (d : Int32) : Int32 := if x < 0 then d else if nI n ≤ x then d else f x.toNatClampNeg
theorem pick_y {n g : Nat} (hg : g < n) (hn : n < 2 ^ 31) (f : Nat → Int32) (d : Int32) : pick (nI g) n f d = f g := by
  unfold pick
  rw [if_neg (nI_pos (by omega)), if_neg (nI_ge hg hn), nI_clamp (by omega)]
theorem pick_n {x : Int32} {n : Nat} (h : ¬ isB x n) (hn : n < 2 ^ 31) (f : Nat → Int32) (d : Int32) : pick x n f d = d := by
  unfold pick
  by_cases h1 : x < 0
  · rw [if_pos h1]
  · rw [if_neg h1]
    by_cases h2 : nI n ≤ x
    · rw [if_pos h2]
    · exfalso
      obtain ⟨j, hj, rfl⟩ := nI_of h1
      rw [nI_leI hn hj] at h2
      exact h ⟨j, by omega, rfl⟩
theorem MI.sf {m : MS} {T : Nat → Nat} {n b : Nat} {t : Nat → Nat} (h : MI m T n b t) (k : Nat) (x : Int32) : MI (sF m k x) T n b t := h
/-- the state that is, in the game: houses, the state at 100 -/
def GS (bk : Nat → Nat) (cs : Nat → Option gC) (w : GW) (jh : Nat) (T : Nat → Nat) (fd : Option Nat) (n : Nat) (t : Nat → Nat) : Prop := GI bk cs w jh T fd ∧ StAt bk cs 100 t ∧ BkOk n t ∧ n < 100000
theorem g_f4 {bk : Nat → Nat} {cs : Nat → Option gC} {w : GW} {jh : Nat} {T : Nat → Nat} {fd : Option Nat} (hG : GI bk cs w jh T fd) : gfm w (bk 0) [0] 4 = some (va_rf (some (bk 100))) := by
  obtain ⟨hx, ⟨v7, v9, v11, v12, v13, x0⟩, -⟩ := hG
  exact g_fd hx x0 (by simp) rfl
theorem m_person {m : MS} {T : Nat → Nat} {n : Nat} {t : Nat → Nat} (h : MI m T n 0 t) {x : Int32} {K : Int32 → MS → Prop} (k : K (pick x (T 1) (fun p => nI (t (1 + p))) (-1)) (sF m 0 0)) : wX6_person x m K := by
  have h5 := h.2.1.1.2.1
  unfold wX6_person wX6_person_0
  rintro m1 rfl
  refine m_isPerson (h.sf 0 0).1 h.2.1 (fun g hg e => ?_) (fun hb => ?_)
  · subst e
    rw [pick_y hg (by omega)] at k
    refine ⟨fun q => absurd q (by decide), fun _ => ?_⟩
    have e1 := m_st (h.sf 0 0) (j := 1 + g) (by omega)
    rw [Nat.zero_add] at e1
    rw [n1, nI_add, vin (by omega), e1]
    exact ⟨by omega, k⟩
  · rw [pick_n hb (by omega)] at k
    exact ⟨fun _ => k, fun q => absurd rfl q⟩
theorem g_person {bk : Nat → Nat} {cs : Nat → Option gC} {w : GW} {jh : Nat} {T : Nat → Nat} {fd : Option Nat} {n : Nat} {t : Nat → Nat} (h : GS bk cs w jh T fd n t) {c : Nat → Option Nat} {x : Int32} {K : Int32 → Prop} (k : K (pick x (T 1) (fun p => nI (t (1 + p))) (-1))) : wX1_person c (bk 0) x w K := by
  obtain ⟨hG, ⟨f, gg, h1, h2, h3, -⟩, -⟩ := h
  have h5 := hG.2.2.2.1.2.1
  unfold wX1_person wX1_person_0
  refine ⟨g_x hG, g_isPerson hG (fun g hg e => ?_) (fun hb => ?_)⟩
  · subst e
    rw [pick_y hg (by omega)] at k
    refine ⟨fun q => absurd q (by decide), fun _ => ⟨_, g_f4 hG, _, rfl, some (bk 101), g_fd hG.1 h1 (by simp) rfl, _, rfl, _, _, g_ai hG.1 h2, ?_⟩⟩
    rw [vin (by omega), rdn (by omega), h3 g (by omega)]
    exact ⟨by omega, k⟩
  · rw [pick_n hb (by omega)] at k
    exact ⟨fun _ => k, fun q => absurd rfl q⟩
theorem m_shame {m : MS} {T : Nat → Nat} {n : Nat} {t : Nat → Nat} (h : MI m T n 0 t) {x : Int32} {K : Int32 → MS → Prop} (k : K (pick x (T 1) (fun p => nI (harmSh T t (some p) 6)) (-1)) (sF m 0 0)) : wX6_shame x m K := by
  have h5 := h.2.1.1.2.1
  unfold wX6_shame wX6_shame_0
  rintro m1 rfl
  refine m_isPerson (h.sf 0 0).1 h.2.1 (fun g hg e => ?_) (fun hb => ?_)
  · subst e
    rw [pick_y hg (by omega)] at k
    exact ⟨fun q => absurd q (by decide), fun _ => m_harmShown (p := some g) (h.sf 0 0) (by omega) (fun q e => by cases e; omega) k⟩
  · rw [pick_n hb (by omega)] at k
    exact ⟨fun _ => k, fun q => absurd rfl q⟩
theorem g_shame {bk : Nat → Nat} {cs : Nat → Option gC} {w : GW} {jh : Nat} {T : Nat → Nat} {fd : Option Nat} {n : Nat} {t : Nat → Nat} (h : GS bk cs w jh T fd n t) {c : Nat → Option Nat} {x : Int32} {K : Int32 → Prop} (k : K (pick x (T 1) (fun p => nI (harmSh T t (some p) 6)) (-1))) : wX1_shame c (bk 0) x w K := by
  obtain ⟨hG, hS, hk, hn⟩ := h
  have h5 := hG.2.2.2.1.2.1
  unfold wX1_shame wX1_shame_0
  refine ⟨g_x hG, g_isPerson hG (fun g hg e => ?_) (fun hb => ?_)⟩
  · subst e
    rw [pick_y hg (by omega)] at k
    exact ⟨fun q => absurd q (by decide), fun _ => ⟨_, g_f4 hG, _, rfl, g_x hG, g_shameOf hG hS hk (by omega) k⟩⟩
  · rw [pick_n hb (by omega)] at k
    exact ⟨fun _ => k, fun q => absurd rfl q⟩
theorem m_harm {m : MS} {T : Nat → Nat} {n : Nat} {t : Nat → Nat} (h : MI m T n 0 t) {K : Int32 → MS → Prop} (k : K (nI (harmSh T t none 6)) (sF m 0 0)) : wX6_harm m K := by
  unfold wX6_harm wX6_harm_0
  rintro m1 rfl
  exact m_harmShown (p := none) (h.sf 0 0) (by omega) (by simp) k
theorem g_harm {bk : Nat → Nat} {cs : Nat → Option gC} {w : GW} {jh : Nat} {T : Nat → Nat} {fd : Option Nat} {n : Nat} {t : Nat → Nat} (h : GS bk cs w jh T fd n t) {c : Nat → Option Nat} {K : Int32 → Prop} (k : K (nI (harmSh T t none 6))) : wX1_harm c (bk 0) w K := by
  obtain ⟨hG, hS, hk, hn⟩ := h
  unfold wX1_harm wX1_harm_0
  exact ⟨_, g_f4 hG, _, rfl, g_x hG, g_harmOf hG hS hk (by omega) k⟩
/-- an answer for a number from lo to hi, d for any other int -/
def pickR (x : Int32) (lo hi : Nat) (f : Nat → Int32) (d : Int32) : Int32 := if nI lo ≤ x ∧ x ≤ nI hi then f x.toNatClampNeg else d
theorem pickR_m {x : Int32} {lo hi : Nat} (hh : hi < 2 ^ 31) (hl : lo ≤ hi) {K : Int32 → Prop} (k1 : ∀ g, lo ≤ g → g ≤ hi → x = nI g → K 1) (k0 : ¬ (nI lo ≤ x ∧ x ≤ nI hi) → K 0) : wX6_within x (nI lo) (nI hi) K := by
  refine m_within (fun q r => ?_) k0
  have h0 : ¬ x < 0 := fun z => nI_pos (show lo < 2 ^ 31 by omega) (Int32.lt_of_le_of_lt q z)
  obtain ⟨j, hj, rfl⟩ := nI_of h0
  rw [nI_leI (by omega) (by omega)] at q r
  exact k1 j q r rfl
theorem pickR_g {c : Nat → Option Nat} {w : GW} {x : Int32} {lo hi : Nat} (hh : hi < 2 ^ 31) (hl : lo ≤ hi) {K : Int32 → Prop} (k1 : ∀ g, lo ≤ g → g ≤ hi → x = nI g → K 1) (k0 : ¬ (nI lo ≤ x ∧ x ≤ nI hi) → K 0) : wX1_in c x (nI lo) (nI hi) w K := by
  have := pickR_m hh hl k1 k0
  exact this
theorem pickR_y {lo hi g : Nat} (h1 : lo ≤ g) (h2 : g ≤ hi) (hh : hi < 2 ^ 31) (f : Nat → Int32) (d : Int32) : pickR (nI g) lo hi f d = f g := by
  unfold pickR
  rw [if_pos ⟨nI_le h1 (by omega), nI_le h2 hh⟩, nI_clamp (by omega)]
theorem m_memory {m : MS} {T : Nat → Nat} {n : Nat} {t : Nat → Nat} (h : MI m T n 0 t) {x : Int32} {K : Int32 → MS → Prop} (k : K (pickR x 1 6 (fun ke => nI (harmSh T t none ke)) (-1)) (sF m 0 0)) : wX6_memory x m K := by
  unfold wX6_memory wX6_memory_0
  rintro m1 rfl
  refine pickR_m (lo := 1) (by omega) (by omega) (fun g h1 h2 e => ?_) (fun hb => ?_)
  · subst e
    rw [pickR_y h1 h2 (by omega)] at k
    exact ⟨fun q => absurd q (by decide), fun _ => m_harmShown (p := none) (h.sf 0 0) (by omega) (by simp) k⟩
  · unfold pickR at k
    rw [if_neg hb] at k
    exact ⟨fun _ => k, fun q => absurd rfl q⟩
theorem g_memory {bk : Nat → Nat} {cs : Nat → Option gC} {w : GW} {jh : Nat} {T : Nat → Nat} {fd : Option Nat} {n : Nat} {t : Nat → Nat} (h : GS bk cs w jh T fd n t) {c : Nat → Option Nat} {x : Int32} {K : Int32 → Prop} (k : K (pickR x 1 6 (fun ke => nI (harmSh T t none ke)) (-1))) : wX1_memory c (bk 0) x w K := by
  obtain ⟨hG, hS, hk, hn⟩ := h
  unfold wX1_memory wX1_memory_0
  refine pickR_g (lo := 1) (by omega) (by omega) (fun g h1 h2 e => ?_) (fun hb => ?_)
  · subst e
    rw [pickR_y h1 h2 (by omega)] at k
    exact ⟨fun q => absurd q (by decide), fun _ => ⟨_, g_f4 hG, _, rfl, g_x hG, g_harmOf hG hS hk (by omega) k⟩⟩
  · unfold pickR at k
    rw [if_neg hb] at k
    exact ⟨fun _ => k, fun q => absurd rfl q⟩
theorem at_lt {n : Nat} {t : Nat → Nat} (hk : BkOk n t) {p : Nat} (hp : p < 5) : t (1 + p) < 10 := hk.2.1 p hp
theorem m_seen {m : MS} {T : Nat → Nat} {n : Nat} {t : Nat → Nat} (h : MI m T n 0 t) {x : Int32} {K : Int32 → MS → Prop} (k : K (pick x (T 1) (fun p => nI (seers T t (t (1 + p)))) (-1)) (sF m 0 0)) : wX6_seen x m K := by
  have h5 := h.2.1.1.2.1
  unfold wX6_seen wX6_seen_0
  rintro m1 rfl
  refine m_isPerson (h.sf 0 0).1 h.2.1 (fun g hg e => ?_) (fun hb => ?_)
  · subst e
    rw [pick_y hg (by omega)] at k
    have ha := at_lt h.2.2.2.1 (show g < 5 by omega)
    refine ⟨fun q => absurd q (by decide), fun _ => ?_⟩
    have e1 := m_st (h.sf 0 0) (j := 1 + g) (by omega)
    rw [Nat.zero_add] at e1
    rw [n1, nI_add, vin (by omega), e1]
    exact ⟨by omega, m_seersOf (h.sf 0 0) (by omega) k⟩
  · rw [pick_n hb (by omega)] at k
    exact ⟨fun _ => k, fun q => absurd rfl q⟩
theorem g_seen {bk : Nat → Nat} {cs : Nat → Option gC} {w : GW} {jh : Nat} {T : Nat → Nat} {fd : Option Nat} {n : Nat} {t : Nat → Nat} (h : GS bk cs w jh T fd n t) {c : Nat → Option Nat} {x : Int32} {K : Int32 → Prop} (k : K (pick x (T 1) (fun p => nI (seers T t (t (1 + p)))) (-1))) : wX1_seen c (bk 0) x w K := by
  obtain ⟨hG, hS, hk, hn⟩ := h
  obtain ⟨f, gg, h1, h2, h3, -⟩ := id hS
  have h5 := hG.2.2.2.1.2.1
  have h0 := hk.1
  unfold wX1_seen wX1_seen_0
  refine ⟨g_x hG, g_isPerson hG (fun g hg e => ?_) (fun hb => ?_)⟩
  · subst e
    rw [pick_y hg (by omega)] at k
    have ha := at_lt hk (show g < 5 by omega)
    refine ⟨fun q => absurd q (by decide), fun _ => ⟨_, g_f4 hG, _, g_f4 hG, _, rfl, some (bk 101), g_fd hG.1 h1 (by simp) rfl, _, rfl, _, _, g_ai hG.1 h2, ?_, _, rfl, g_x hG, ?_⟩⟩
    · rw [vin (by omega)]; omega
    · rw [rdn (by omega), h3 g (by omega)]
      exact g_seeing hG hS (by omega) (by omega) k
  · rw [pick_n hb (by omega)] at k
    exact ⟨fun _ => k, fun q => absurd rfl q⟩
theorem m_blind {m : MS} {T : Nat → Nat} {n : Nat} {t : Nat → Nat} (h : MI m T n 0 t) {K : Int32 → MS → Prop} (k : K (nI (orB (fun c => decide (seers T t c = 0)) 10)) (sF m 0 0)) : wX6_blind m K := by
  unfold wX6_blind wX6_blind_0
  rintro m1 rfl
  unfold wX6_blind_9
  refine lfp_seq (fun i => (nI (orB (fun c => decide (seers T t c = 0)) i), nI i)) 10 rfl ?_ ?_
  · intro i hi KL hKL
    have hs := seers_lt (t := t) h.2.1 i
    dsimp only [wX6_blind_9_b]
    refine ⟨fun q => absurd q (nI_ge hi (by omega)), fun _ => m_seersOf (h.sf 0 0) (by omega) ?_⟩
    rw [n0, nI_eq (by omega) (by omega)]
    unfold orB at hKL
    refine ⟨fun q v e => ?_, fun q v e => ?_⟩
    · subst e
      rw [if_neg (by simpa using q)] at hKL
      rw [fa_or, Nat.or_zero, n1, nI_add]; exact hKL
    · subst e
      rw [if_pos (by simpa using q)] at hKL
      rw [n1, ishl1 (by omega), fa_or, nI_add]; exact hKL
  · intro KL
    exact ⟨fun _ => k, fun q => absurd (nI_le (Nat.le_refl _) (by omega)) q⟩
theorem g_blind {bk : Nat → Nat} {cs : Nat → Option gC} {w : GW} {jh : Nat} {T : Nat → Nat} {fd : Option Nat} {n : Nat} {t : Nat → Nat} (h : GS bk cs w jh T fd n t) {c : Nat → Option Nat} {K : Int32 → Prop} (k : K (nI (orB (fun c => decide (seers T t c = 0)) 10))) : wX1_blind c (bk 0) w K := by
  obtain ⟨hG, hS, hk, hn⟩ := h
  have h0 := hk.1
  unfold wX1_blind wX1_blind_0 wX1_blind_4
  refine lfp_seq (fun i => (nI (orB (fun c => decide (seers T t c = 0)) i), nI i)) 10 rfl ?_ ?_
  · intro i hi KL hKL
    have hs := seers_lt (t := t) hG.2.2.2 i
    dsimp only [wX1_blind_4_b]
    refine ⟨fun q => absurd q (nI_ge hi (by omega)), fun _ => ⟨_, g_f4 hG, _, rfl, g_x hG, g_seeing hG hS (by omega) (by omega) ?_⟩⟩
    rw [n0, nI_eq (by omega) (by omega)]
    unfold orB at hKL
    refine ⟨fun q => ?_, fun q v e => ?_⟩
    · rw [if_neg (by simpa using q)] at hKL
      rw [n1, nI_add]; exact hKL
    · subst e
      rw [if_pos (by simpa using q)] at hKL
      rw [n1, ishl1 (by omega), fa_or, nI_add]; exact hKL
  · intro KL
    exact ⟨fun _ => k, fun q => absurd (nI_le (Nat.le_refl _) (by omega)) q⟩
