/-! L2: queries: oldest, trail -/
def oldP (t : Nat → Nat) (g : Nat) (s0 : Option Nat × Option Nat) : Nat → Option Nat × Option Nat := fo (fun i s => if pI s.2 < nI (age (t (24 + 6 * g + i))) then (some g, some (age (t (24 + 6 * g + i)))) else s) s0
def oldF (t : Nat → Nat) : Nat → Option Nat × Option Nat := fo (fun g s => oldP t g s (t (18 + g))) (none, none)
theorem m_oldest {m : MS} {T : Nat → Nat} {n : Nat} {t : Nat → Nat} (h : MI m T n 0 t) {K : Int32 → MS → Prop} (k : K (pI (oldF t (T 0)).1) (sF m 0 0)) : wX6_oldest m K := by
  obtain ⟨hT, hS, hB, hk, hn, hb⟩ := id h
  have h6 := hS.1.1
  unfold wX6_oldest wX6_oldest_0
  rintro m1 rfl
  unfold wX6_oldest_11
  refine lfp_seq (fun g => (pI (oldF t g).1, pI (oldF t g).2, nI g)) (T 0) rfl ?_ ?_
  · intro g hg KL hKL
    obtain ⟨f1, f2, f3⟩ := hk.2.2.1 g (by omega)
    dsimp only [wX6_oldest_11_b]
    refine m_panes (h.sf 0 0).1 ?_
    refine ⟨fun q => absurd q (nI_ge hg (by omega)), fun _ => ?_⟩
    unfold wX6_oldest_22
    refine lfp_seq (fun i => (pI (oldP t g (oldF t g) i).1, pI (oldP t g (oldF t g) i).2, nI i)) (t (18 + g)) rfl ?_ ?_
    · intro i hi KL2 hKL2
      dsimp only [wX6_oldest_22_b]
      rw [nI_add, vin (by omega), m_many (h.sf 0 0) (by omega)]
      refine ⟨by omega, fun q => absurd q (nI_ge hi (by omega)), fun _ => m_markOf (h.sf 0 0) (by omega) (by omega) ?_⟩
      refine m_ageOf (mk_lt hk hn (by omega) (by omega)) ?_
      dsimp only [wX6_oldest_60]
      rw [n1, nI_add]
      rw [show oldP t g (oldF t g) (i + 1) = if pI (oldP t g (oldF t g) i).2 < nI (age (t (24 + 6 * g + i))) then (some g, some (age (t (24 + 6 * g + i)))) else oldP t g (oldF t g) i from rfl] at hKL2
      refine ⟨fun q => ⟨fun _ => ?_, fun r => absurd q r⟩, fun q => ⟨fun r => absurd r q, fun _ => ?_⟩⟩
      · rw [if_neg (Int32.not_lt.mpr q)] at hKL2; exact hKL2
      · rw [if_pos (Int32.not_le.mp q)] at hKL2; exact hKL2
    · intro KL2
      dsimp only [wX6_oldest_22_b]
      rw [nI_add, vin (by omega), m_many (h.sf 0 0) (by omega)]
      exact ⟨by omega, fun _ => by rw [n1, nI_add]; exact hKL, fun q => absurd (nI_le (Nat.le_refl _) (by omega)) q⟩
  · intro KL
    dsimp only [wX6_oldest_11_b]
    refine m_panes (h.sf 0 0).1 ?_
    exact ⟨fun _ => k, fun q => absurd (nI_le (Nat.le_refl _) (by omega)) q⟩
theorem g_oldest {bk : Nat → Nat} {cs : Nat → Option gC} {w : GW} {jh : Nat} {T : Nat → Nat} {fd : Option Nat} {n : Nat} {t : Nat → Nat} (h : GS bk cs w jh T fd n t) {c : Nat → Option Nat} {K : Int32 → Prop} (k : K (pI (oldF t (T 0)).1)) : wX1_oldest c (bk 0) w K := by
  obtain ⟨hG, hS, hk, hn⟩ := h
  have hx := hG.1
  have h6 := hG.2.2.2.1.1
  obtain ⟨f, gg, h1, h2, h3, h4, h5, hm⟩ := id hS
  unfold wX1_oldest wX1_oldest_0 wX1_oldest_6
  refine lfp_seq (fun g => (pI (oldF t g).1, pI (oldF t g).2, nI g)) (T 0) rfl ?_ ?_
  · intro g hg KL hKL
    obtain ⟨f1, f2, f3⟩ := hk.2.2.1 g (by omega)
    obtain ⟨a0, a1, a2, a3, m0, m1, m2, m3, m4, m5⟩ := hm g (by omega)
    dsimp only [wX1_oldest_6_b]
    refine ⟨g_x hG, g_panes hG ⟨fun q => absurd q (nI_ge hg (by omega)), fun _ => ⟨_, g_f4 hG, _, rfl, some (bk 102), g_fd hx h1 (by simp) rfl, _, rfl, _, _, g_aq hx h4, ?_, ?_⟩⟩⟩
    · rw [vin (by omega)]; omega
    · intro r e
      subst e
      rw [nI_clamp (by omega), h5 g (by omega)]
      unfold wX1_oldest_28
      refine lfp_seq (fun i => (pI (oldP t g (oldF t g) i).1, pI (oldP t g (oldF t g) i).2, nI i)) (t (18 + g)) rfl ?_ ?_
      · intro i hi KL2 hKL2
        obtain ⟨b0', b1', b2', b3'⟩ := m5 i (by omega)
        rw [show oldP t g (oldF t g) (i + 1) = if pI (oldP t g (oldF t g) i).2 < nI (age (t (24 + 6 * g + i))) then (some g, some (age (t (24 + 6 * g + i)))) else oldP t g (oldF t g) i from rfl] at hKL2
        dsimp only [wX1_oldest_28_b]
        refine ⟨_, rfl, _, g_fd hx m0 (by simp) rfl, fun q => absurd q (nI_ge hi (by omega)), fun _ => ⟨some (bk (100 + 3 + 5 * g + 4)), g_fd hx m0 (by simp) rfl, _, rfl, _, _, g_ai hx m4, ?_, ?_⟩⟩
        · rw [vin (by omega)]; omega
        · rw [rdn (by omega), b3', n1, nI_add]
          refine ⟨fun q => ⟨some (bk (100 + 3 + 5 * g + 4)), g_fd hx m0 (by simp) rfl, _, rfl, _, _, g_ai hx m4, ?_, ?_⟩, fun q => ?_⟩
          · rw [vin (by omega)]; omega
          · intro v e
            subst e
            rw [rdn (by omega), b3']
            rw [if_pos q] at hKL2; exact hKL2
          · rw [if_neg q] at hKL2; exact hKL2
      · intro KL2
        dsimp only [wX1_oldest_28_b]
        exact ⟨_, rfl, _, g_fd hx m0 (by simp) rfl, fun _ => by rw [n1, nI_add]; exact hKL, fun q => absurd (nI_le (Nat.le_refl _) (by omega)) q⟩
  · intro KL
    dsimp only [wX1_oldest_6_b]
    exact ⟨g_x hG, g_panes hG ⟨fun _ => k, fun q => absurd (nI_le (Nat.le_refl _) (by omega)) q⟩⟩
theorem g_isShownOf {bk : Nat → Nat} {cs : Nat → Option gC} {w : GW} {jh : Nat} {T : Nat → Nat} {fd : Option Nat} {n : Nat} {t : Nat → Nat} (h : GS bk cs w jh T fd n t) {c : Nat → Option Nat} {g i p : Nat} (hg : g < T 0) (hi : i < t (18 + g)) (hp : p < 2 ^ 31) {K : Int32 → Prop} (k : K (nI (if shows t g && ofP T t g (some p) (t (24 + 6 * g + i)) then 1 else 0))) : wX1_isShownOf c (bk 0) (nI g) (nI i) (nI p) w K := by
  obtain ⟨hG, hS, hk, hn⟩ := h
  have hx := hG.1
  have h6 := hG.2.2.2.1.1
  obtain ⟨f1, f2, f3⟩ := hk.2.2.1 g (by omega)
  obtain ⟨f, gg, h1, h2, h3, h4, h5, hm⟩ := id hS
  obtain ⟨a0, a1, a2, a3, m0, m1, m2, m3, m4, m5⟩ := hm g (by omega)
  obtain ⟨b0', b1', b2', b3'⟩ := m5 i (by omega)
  have hw : who (t (24 + 6 * g + i)) < 8 := Nat.mod_lt _ (by omega)
  unfold wX1_isShownOf wX1_isShownOf_0
  refine ⟨_, g_f4 hG, _, rfl, g_mc hx h1, g_shows hx hS (by omega) ?_⟩
  rw [n0, b0, Decidable.not_not]
  refine ⟨fun q => ?_, fun q => ⟨_, g_f4 hG, _, rfl, g_x hG, g_tells hG hS hg ?_⟩⟩
  · simp [q] at k; exact k
  · rw [b0, Decidable.not_not]
    refine ⟨fun r => ?_, fun r => ⟨_, g_f4 hG, _, rfl, some (bk 102), g_fd hx h1 (by simp) rfl, _, rfl, _, _, g_aq hx h4, ?_, ?_⟩⟩
    · simp [q, ofP, r] at k; exact k
    · rw [vin (by omega)]; omega
    · intro z e
      subst e
      rw [nI_clamp (by omega), h5 g (by omega)]
      refine ⟨_, rfl, some (bk (100 + 3 + 5 * g + 1)), g_fd hx m0 (by simp) rfl, _, rfl, _, _, g_ai hx m1, ?_, ?_⟩
      · rw [vin (by omega)]; omega
      · rw [rdn (by omega), b0', nI_eq (by omega) (by omega)]
        refine ⟨fun s => ?_, fun s => ?_⟩
        · simp [q, ofP, r, s] at k; exact k
        · simp [q, ofP, r, s] at k; exact k
