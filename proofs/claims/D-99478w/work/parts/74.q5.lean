/-! L2: trail -/
def trailP (T t : Nat → Nat) (p g s0 : Nat) : Nat → Nat := fo (fun i a => if ofP T t g (some p) (t (24 + 6 * g + i)) then a ||| 2 ^ cell (t (24 + 6 * g + i)) else a) s0
def trailF (T t : Nat → Nat) (p : Nat) : Nat → Nat := fo (fun g a => if shows t g then trailP T t p g a (t (18 + g)) else a) 0
theorem cell_lt (x : Nat) : cell x < 16 := Nat.mod_lt _ (by omega)
theorem m_trail {m : MS} {T : Nat → Nat} {n : Nat} {t : Nat → Nat} (h : MI m T n 0 t) {x : Int32} {K : Int32 → MS → Prop} (k : K (pick x (T 1) (fun p => nI (trailF T t p (T 0))) (-1)) (sF m 0 0)) : wX6_trail x m K := by
  obtain ⟨hT, hS, hB, hk, hn, hb⟩ := id h
  have h6 := hS.1.1
  have h5 := hS.1.2.1
  unfold wX6_trail wX6_trail_0
  rintro m1 rfl
  refine m_isPerson (h.sf 0 0).1 h.2.1 (fun p hp e => ?_) (fun hb => ?_)
  · subst e
    rw [pick_y hp (by omega)] at k
    refine ⟨fun _ => ?_, fun q => absurd q (by decide)⟩
    unfold wX6_trail_19
    refine lfp_seq (fun g => (nI (trailF T t p g), nI g)) (T 0) rfl ?_ ?_
    · intro g hg KL hKL
      obtain ⟨f1, f2, f3⟩ := hk.2.2.1 g (by omega)
      rw [show trailF T t p (g + 1) = if shows t g then trailP T t p g (trailF T t p g) (t (18 + g)) else trailF T t p g from rfl] at hKL
      dsimp only [wX6_trail_19_b]
      refine m_panes (h.sf 0 0).1 ?_
      refine ⟨fun q => absurd q (nI_ge hg (by omega)), fun _ => ?_⟩
      unfold wX6_trail_30
      by_cases hs : shows t g = true
      · rw [if_pos hs] at hKL
        refine lfp_seq (fun i => (nI (trailP T t p g (trailF T t p g) i), nI i)) (t (18 + g)) rfl ?_ ?_
        · intro i hi KL2 hKL2
          have hw : who (t (24 + 6 * g + i)) < 8 := Nat.mod_lt _ (by omega)
          have hc := cell_lt (t (24 + 6 * g + i))
          rw [show trailP T t p g (trailF T t p g) (i + 1) = if ofP T t g (some p) (t (24 + 6 * g + i)) then trailP T t p g (trailF T t p g) i ||| 2 ^ cell (t (24 + 6 * g + i)) else trailP T t p g (trailF T t p g) i from rfl] at hKL2
          dsimp only [wX6_trail_30_b]
          rw [nI_add, vin (by omega), m_many (h.sf 0 0) (by omega)]
          refine ⟨by omega, fun q => absurd q (nI_ge hi (by omega)), fun _ => m_isShown (h.sf 0 0) (by omega) ?_⟩
          rw [n0, b0, Decidable.not_not]
          refine ⟨fun q => absurd hs q, fun _ => m_markOf (h.sf 0 0) (by omega) (by omega) (m_shownOf (h.sf 0 0) (by omega) ?_)⟩
          by_cases ht : tells T t g = true
          · rw [if_pos ht, nI_eq (by omega) (by omega)]
            refine ⟨fun q v e => ?_, fun q => m_cellOf (mk_lt hk hn (by omega) (by omega)) ?_⟩
            · subst e
              rw [if_neg (by simp [ofP, q])] at hKL2
              rw [fa_or, Nat.or_zero, n1, nI_add]; exact hKL2
            · intro v e
              subst e
              rw [if_pos (by simp [ofP, ht, q])] at hKL2
              rw [n1, ishl1 (by omega), fa_or, nI_add]; exact hKL2
          · rw [if_neg ht]
            refine ⟨fun q v e => ?_, fun q => absurd q.symm (nI_nm1 (by omega))⟩
            subst e
            rw [if_neg (by simp [ofP, ht])] at hKL2
            rw [fa_or, Nat.or_zero, n1, nI_add]; exact hKL2
        · intro KL2
          dsimp only [wX6_trail_30_b]
          rw [nI_add, vin (by omega), m_many (h.sf 0 0) (by omega)]
          exact ⟨by omega, fun _ => by rw [n1, nI_add]; exact hKL, fun q => absurd (nI_le (Nat.le_refl _) (by omega)) q⟩
      · rw [if_neg hs] at hKL
        refine lfp_seq (fun i => (nI (trailF T t p g), nI 0)) 0 rfl (fun i hi => absurd hi (by omega)) (fun KL2 => ?_)
        dsimp only [wX6_trail_30_b]
        rw [nI_add, vin (by omega), m_many (h.sf 0 0) (by omega)]
        refine ⟨by omega, fun _ => by rw [n1, nI_add]; exact hKL, fun _ => m_isShown (h.sf 0 0) (by omega) ?_⟩
        rw [n0, b0]
        exact ⟨fun _ => by rw [n1, nI_add]; exact hKL, fun q => absurd hs q⟩
    · intro KL
      dsimp only [wX6_trail_19_b]
      refine m_panes (h.sf 0 0).1 ?_
      exact ⟨fun _ => k, fun q => absurd (nI_le (Nat.le_refl _) (by omega)) q⟩
  · rw [pick_n hb (by omega)] at k
    exact ⟨fun q => absurd rfl q, fun _ => k⟩
theorem g_trail {bk : Nat → Nat} {cs : Nat → Option gC} {w : GW} {jh : Nat} {T : Nat → Nat} {fd : Option Nat} {n : Nat} {t : Nat → Nat} (h : GS bk cs w jh T fd n t) {c : Nat → Option Nat} {x : Int32} {K : Int32 → Prop} (k : K (pick x (T 1) (fun p => nI (trailF T t p (T 0))) (-1))) : wX1_trail c (bk 0) x w K := by
  obtain ⟨hG, hS, hk, hn⟩ := id h
  have hx := hG.1
  have h6 := hG.2.2.2.1.1
  have h5' := hG.2.2.2.1.2.1
  obtain ⟨f, gg, h1, h2, h3, h4, h5, hm⟩ := id hS
  unfold wX1_trail wX1_trail_0
  refine ⟨g_x hG, g_isPerson hG (fun p hp e => ?_) (fun hb => ?_)⟩
  · subst e
    rw [pick_y hp (by omega)] at k
    refine ⟨fun _ => ?_, fun q => absurd q (by decide)⟩
    unfold wX1_trail_14
    refine lfp_seq (fun g => (nI (trailF T t p g), nI g)) (T 0) rfl ?_ ?_
    · intro g hg KL hKL
      obtain ⟨f1, f2, f3⟩ := hk.2.2.1 g (by omega)
      obtain ⟨a0, a1, a2, a3, m0, m1, m2, m3, m4, m5⟩ := hm g (by omega)
      rw [show trailF T t p (g + 1) = if shows t g then trailP T t p g (trailF T t p g) (t (18 + g)) else trailF T t p g from rfl] at hKL
      dsimp only [wX1_trail_14_b]
      refine ⟨g_x hG, g_panes hG ⟨fun q => absurd q (nI_ge hg (by omega)), fun _ => ?_⟩⟩
      unfold wX1_trail_25
      refine lfp_seq (fun i => (nI (if shows t g then trailP T t p g (trailF T t p g) i else trailF T t p g), nI i)) (t (18 + g)) ?_ ?_ ?_
      · simp [trailP, fo]; rfl
      · intro i hi KL2 hKL2
        obtain ⟨b0', b1', b2', b3'⟩ := m5 i (by omega)
        have hc := cell_lt (t (24 + 6 * g + i))
        rw [show trailP T t p g (trailF T t p g) (i + 1) = if ofP T t g (some p) (t (24 + 6 * g + i)) then trailP T t p g (trailF T t p g) i ||| 2 ^ cell (t (24 + 6 * g + i)) else trailP T t p g (trailF T t p g) i from rfl] at hKL2
        dsimp only [wX1_trail_25_b]
        refine ⟨_, g_f4 hG, _, rfl, some (bk 102), g_fd hx h1 (by simp) rfl, _, rfl, _, _, g_aq hx h4, ?_, ?_⟩
        · rw [vin (by omega)]; omega
        · intro r e
          subst e
          rw [nI_clamp (by omega), h5 g (by omega)]
          refine ⟨_, rfl, _, g_fd hx m0 (by simp) rfl, fun q => absurd q (nI_ge hi (by omega)), fun _ => ⟨g_x hG, g_isShownOf h hg hi (by omega) ?_⟩⟩
          rw [n0, b0]
          refine ⟨fun q => ?_, fun q => ⟨_, g_f4 hG, _, rfl, some (bk 102), g_fd hx h1 (by simp) rfl, _, rfl, _, _, g_aq hx h4, ?_, ?_⟩⟩
          · have e9 : (if shows t g = true then if ofP T t g (some p) (t (24 + 6 * g + i)) = true then trailP T t p g (trailF T t p g) i ||| 2 ^ cell (t (24 + 6 * g + i)) else trailP T t p g (trailF T t p g) i else trailF T t p g) = if shows t g = true then trailP T t p g (trailF T t p g) i else trailF T t p g := by
              by_cases hs : shows t g = true
              · rw [if_pos hs, if_pos hs, if_neg (fun z => q (by simp [hs, z]))]
              · rw [if_neg hs, if_neg hs]
            rw [e9] at hKL2
            rw [n1, nI_add]; exact hKL2
          · rw [vin (by omega)]; omega
          · intro r e
            subst e
            rw [h5 g (by omega)]
            refine ⟨_, rfl, some (bk (100 + 3 + 5 * g + 3)), g_fd hx m0 (by simp) rfl, _, rfl, _, _, g_ai hx m3, ?_, ?_⟩
            · rw [vin (by omega)]; omega
            · intro v e
              subst e
              rw [Decidable.not_not, Bool.and_eq_true] at q
              rw [if_pos q.1, if_pos q.2] at hKL2
              rw [rdn (by omega), b2', if_pos q.1, n1, ishl1 (by omega), fa_or, nI_add]; exact hKL2
      · intro KL2
        dsimp only [wX1_trail_25_b]
        refine ⟨_, g_f4 hG, _, rfl, some (bk 102), g_fd hx h1 (by simp) rfl, _, rfl, _, _, g_aq hx h4, ?_, ?_⟩
        · rw [vin (by omega)]; omega
        · intro r e
          subst e
          rw [nI_clamp (by omega), h5 g (by omega)]
          exact ⟨_, rfl, _, g_fd hx m0 (by simp) rfl, fun _ => by rw [n1, nI_add]; exact hKL, fun q => absurd (nI_le (Nat.le_refl _) (by omega)) q⟩
    · intro KL
      dsimp only [wX1_trail_14_b]
      exact ⟨g_x hG, g_panes hG ⟨fun _ => k, fun q => absurd (nI_le (Nat.le_refl _) (by omega)) q⟩⟩
  · rw [pick_n hb (by omega)] at k
    exact ⟨fun q => absurd rfl q, fun _ => k⟩
