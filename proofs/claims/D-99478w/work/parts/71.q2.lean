/-! L2: queries, second lot: worst, young, oldest -/
def worstF (T t : Nat → Nat) : Nat → Option Nat × Nat := fo (fun p s => if s.2 < harmSh T t (some p) 6 then (some p, harmSh T t (some p) 6) else s) (none, 0)
theorem harmSh_lt {T t : Nat → Nat} (hS : StOk T) (p : Option Nat) (ke : Nat) : harmSh T t p ke < 1000 := by
  have := harmF_lt hS (shownF T t p ke (T 0)) (T 2) hS.1.2.2.1
  have h2 := hS.1.2.2.1
  unfold harmSh
  omega
theorem worstF_lt {T t : Nat → Nat} (hS : StOk T) : ∀ n, (worstF T t n).2 < 1000
  | 0 => by simp [worstF, fo]
  | n + 1 => by
    have ih := worstF_lt (t := t) hS n
    have h2 := harmSh_lt (t := t) hS (some n) 6
    unfold worstF fo
    unfold worstF at ih
    split
    · exact h2
    · exact ih
theorem m_worst {m : MS} {T : Nat → Nat} {n : Nat} {t : Nat → Nat} (h : MI m T n 0 t) {K : Int32 → MS → Prop} (k : K (pI (worstF T t (T 1)).1) (sF m 0 0)) : wX6_worst m K := by
  have hS := h.2.1
  have h5 := hS.1.2.1
  unfold wX6_worst wX6_worst_0
  rintro m1 rfl
  unfold wX6_worst_11
  refine lfp_seq (fun i => (pI (worstF T t i).1, nI (worstF T t i).2, nI i)) (T 1) rfl ?_ ?_
  · intro i hi KL hKL
    have hw := worstF_lt (t := t) hS i
    have hh := harmSh_lt (t := t) hS (some i) 6
    dsimp only [wX6_worst_11_b]
    refine m_people (h.sf 0 0).1 ?_
    refine ⟨fun q => absurd q (nI_ge hi (by omega)), fun _ => m_harmShown (p := some i) (h.sf 0 0) (by omega) (fun q e => by cases e; omega) ?_⟩
    dsimp only [wX6_worst_40]
    rw [nI_leI (by omega) (by omega), n1, nI_add]
    unfold worstF fo at hKL
    refine ⟨fun q => ⟨fun _ => ?_, fun r => absurd q r⟩, fun q => ⟨fun r => absurd r q, fun _ => ?_⟩⟩
    · rw [if_neg (by unfold worstF at q; omega)] at hKL; exact hKL
    · rw [if_pos (by unfold worstF at q; omega)] at hKL; exact hKL
  · intro KL
    dsimp only [wX6_worst_11_b]
    refine m_people (h.sf 0 0).1 ?_
    exact ⟨fun _ => k, fun q => absurd (nI_le (Nat.le_refl _) (by omega)) q⟩
theorem g_worst {bk : Nat → Nat} {cs : Nat → Option gC} {w : GW} {jh : Nat} {T : Nat → Nat} {fd : Option Nat} {n : Nat} {t : Nat → Nat} (h : GS bk cs w jh T fd n t) {c : Nat → Option Nat} {K : Int32 → Prop} (k : K (pI (worstF T t (T 1)).1)) : wX1_worst c (bk 0) w K := by
  obtain ⟨hG, hS, hk, hn⟩ := h
  have hT := hG.2.2.2
  have h5 := hT.1.2.1
  unfold wX1_worst wX1_worst_0 wX1_worst_6
  refine lfp_seq (fun i => (pI (worstF T t i).1, nI (worstF T t i).2, nI i)) (T 1) rfl ?_ ?_
  · intro i hi KL hKL
    have hw := worstF_lt (t := t) hT i
    have hh := harmSh_lt (t := t) hT (some i) 6
    dsimp only [wX1_worst_6_b]
    refine ⟨g_x hG, g_people hG ⟨fun q => absurd q (nI_ge hi (by omega)), fun _ => ⟨_, g_f4 hG, _, rfl, g_x hG, g_shameOf hG hS hk (by omega) ?_⟩⟩⟩
    rw [nI_ltI (by omega) (by omega), n1, nI_add]
    unfold worstF fo at hKL
    refine ⟨fun q => ?_, fun q => ?_⟩
    · rw [if_pos (by unfold worstF at q; omega)] at hKL; exact hKL
    · rw [if_neg (by unfold worstF at q; omega)] at hKL; exact hKL
  · intro KL
    dsimp only [wX1_worst_6_b]
    exact ⟨g_x hG, g_people hG ⟨fun _ => k, fun q => absurd (nI_le (Nat.le_refl _) (by omega)) q⟩⟩
theorem m_many {m : MS} {T : Nat → Nat} {n : Nat} {t : Nat → Nat} (h : MI m T n 0 t) {g : Nat} (hg : g < 6) : rd (gA m 11) (nI (18 + g)) = nI (t (18 + g)) := by
  have e1 := m_st h (j := 18 + g) (by omega)
  rwa [Nat.zero_add] at e1
/-- how many of a pane's first i marks are at most that old -/
def youngP (t : Nat → Nat) (a : Int32) (g : Nat) (n0 : Nat) : Nat → Nat := fo (fun i s => if a < nI (age (t (24 + 6 * g + i))) then s else s + 1) n0
def youngF (t : Nat → Nat) (a : Int32) : Nat → Nat := fo (fun g s => youngP t a g s (t (18 + g))) 0
theorem m_young {m : MS} {T : Nat → Nat} {n : Nat} {t : Nat → Nat} (h : MI m T n 0 t) {x : Int32} {K : Int32 → MS → Prop} (k : K (nI (youngF t x (T 0))) (sF m 0 0)) : wX6_young x m K := by
  obtain ⟨hT, hS, hB, hk, hn, hb⟩ := id h
  have h6 := hS.1.1
  unfold wX6_young wX6_young_0
  rintro m1 rfl
  unfold wX6_young_9
  refine lfp_seq (fun g => (nI (youngF t x g), nI g)) (T 0) rfl ?_ ?_
  · intro g hg KL hKL
    obtain ⟨f1, f2, f3⟩ := hk.2.2.1 g (by omega)
    dsimp only [wX6_young_9_b]
    refine m_panes (h.sf 0 0).1 ?_
    refine ⟨fun q => absurd q (nI_ge hg (by omega)), fun _ => ?_⟩
    unfold wX6_young_20
    refine lfp_seq (fun i => (nI (youngP t x g (youngF t x g) i), nI i)) (t (18 + g)) rfl ?_ ?_
    · intro i hi KL2 hKL2
      dsimp only [wX6_young_20_b]
      rw [nI_add, vin (by omega), m_many (h.sf 0 0) (by omega)]
      refine ⟨by omega, fun q => absurd q (nI_ge hi (by omega)), fun _ => m_markOf (h.sf 0 0) (by omega) (by omega) ?_⟩
      refine m_ageOf (mk_lt hk hn (by omega) (by omega)) ?_
      unfold youngP fo at hKL2
      refine ⟨fun q v e => ?_, fun q v e => ?_⟩
      · subst e
        rw [if_pos q] at hKL2
        rw [n0, n1, nI_add, nI_add]; exact hKL2
      · subst e
        rw [if_neg q] at hKL2
        rw [n1, nI_add, nI_add]; exact hKL2
    · intro KL2
      dsimp only [wX6_young_20_b]
      rw [nI_add, vin (by omega), m_many (h.sf 0 0) (by omega)]
      exact ⟨by omega, fun _ => by rw [n1, nI_add]; exact hKL, fun q => absurd (nI_le (Nat.le_refl _) (by omega)) q⟩
  · intro KL
    dsimp only [wX6_young_9_b]
    refine m_panes (h.sf 0 0).1 ?_
    exact ⟨fun _ => k, fun q => absurd (nI_le (Nat.le_refl _) (by omega)) q⟩
/-- the marks of a pane of the state, in the game -/
theorem g_mk {bk : Nat → Nat} {cs : Nat → Option gC} {w : GW} {j : Nat} {t : Nat → Nat} (hx : Ext bk cs w) (hS : StAt bk cs j t) {k : Nat} (hk : k < 6) {P : Nat → Prop} (h : P (bk (j + 3 + 5 * k))) : ∃ f4 : Option Nat, gfm w (bk j) [3] 1 = some (va_rf f4) ∧ (∃ a6 : Nat, f4 = some a6 ∧ (∃ (n7 : Nat) (f8 : Nat → Option Nat), gaq w a6 5 = some (n7, f8) ∧ vp_in (nI k) n7 ∧ (∀ r11 : Option Nat, f8 (nI k).toNatClampNeg = r11 → r11 = some (bk (j + 3 + 5 * k)) ∧ P (bk (j + 3 + 5 * k))))) := by
  obtain ⟨f, gg, h1, h2, h3, h4, h5, h6⟩ := hS
  refine ⟨some (bk (j + 2)), g_fd hx h1 (by simp) rfl, _, rfl, _, _, g_aq hx h4, ?_, ?_⟩
  · rw [vin (by omega)]; omega
  · intro r e
    subst e
    rw [nI_clamp (by omega)]
    exact ⟨h5 k hk, h⟩
theorem g_young {bk : Nat → Nat} {cs : Nat → Option gC} {w : GW} {jh : Nat} {T : Nat → Nat} {fd : Option Nat} {n : Nat} {t : Nat → Nat} (h : GS bk cs w jh T fd n t) {c : Nat → Option Nat} {x : Int32} {K : Int32 → Prop} (k : K (nI (youngF t x (T 0)))) : wX1_young c (bk 0) x w K := by
  obtain ⟨hG, hS, hk, hn⟩ := h
  have hx := hG.1
  have h6 := hG.2.2.2.1.1
  obtain ⟨f, gg, h1, h2, h3, h4, h5, hm⟩ := id hS
  unfold wX1_young wX1_young_0 wX1_young_4
  refine lfp_seq (fun g => (nI (youngF t x g), nI g)) (T 0) rfl ?_ ?_
  · intro g hg KL hKL
    obtain ⟨f1, f2, f3⟩ := hk.2.2.1 g (by omega)
    obtain ⟨a0, a1, a2, a3, m0, m1, m2, m3, m4, m5⟩ := hm g (by omega)
    dsimp only [wX1_young_4_b]
    refine ⟨g_x hG, g_panes hG ⟨fun q => absurd q (nI_ge hg (by omega)), fun _ => ⟨_, g_f4 hG, _, rfl, some (bk 102), g_fd hx h1 (by simp) rfl, _, rfl, _, _, g_aq hx h4, ?_, ?_⟩⟩⟩
    · rw [vin (by omega)]; omega
    · intro r e
      subst e
      rw [nI_clamp (by omega), h5 g (by omega)]
      unfold wX1_young_26
      refine lfp_seq (fun i => (nI (youngP t x g (youngF t x g) i), nI i)) (t (18 + g)) rfl ?_ ?_
      · intro i hi KL2 hKL2
        obtain ⟨b0', b1', b2', b3'⟩ := m5 i (by omega)
        dsimp only [wX1_young_26_b]
        refine ⟨_, rfl, _, g_fd hx m0 (by simp) rfl, fun q => absurd q (nI_ge hi (by omega)), fun _ => ⟨some (bk (100 + 3 + 5 * g + 4)), g_fd hx m0 (by simp) rfl, _, rfl, _, _, g_ai hx m4, ?_, ?_⟩⟩
        · rw [vin (by omega)]; omega
        · rw [rdn (by omega), b3', n1, nI_add, nI_add]
          unfold youngP fo at hKL2
          refine ⟨fun q => ?_, fun q => ?_⟩
          · rw [if_pos q] at hKL2; exact hKL2
          · rw [if_neg q] at hKL2; exact hKL2
      · intro KL2
        dsimp only [wX1_young_26_b]
        exact ⟨_, rfl, _, g_fd hx m0 (by simp) rfl, fun _ => by rw [n1, nI_add]; exact hKL, fun q => absurd (nI_le (Nat.le_refl _) (by omega)) q⟩
  · intro KL
    dsimp only [wX1_young_4_b]
    exact ⟨g_x hG, g_panes hG ⟨fun _ => k, fun q => absurd (nI_le (Nat.le_refl _) (by omega)) q⟩⟩
