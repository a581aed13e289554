/-! L2, the game's side: what is shown, harms -/
theorem g_tells {bk : Nat → Nat} {cs : Nat → Option gC} {w : GW} {jh : Nat} {T : Nat → Nat} {fd : Option Nat} (hG : GI bk cs w jh T fd) {j : Nat} {t : Nat → Nat} (hS : StAt bk cs j t) {c : Nat → Option Nat} {k : Nat} (hk : k < T 0) {K : Int32 → Prop} (h : K (nI (if tells T t k then 1 else 0))) : wX1_tellsWho c (bk 0) (bk j) (nI k) w K := by
  obtain ⟨f, g, h1, -⟩ := id hS
  have hx := hG.1
  have hT := hG.2.2.2
  have h6 := hT.1
  obtain ⟨g1, g2, g3, g4⟩ := hT.2.1 k (by omega)
  obtain ⟨nm, e2⟩ := g_pn hG hk
  unfold wX1_tellsWho wX1_tellsWho_0
  unfold tells at h
  refine ⟨g_x hG, g_pane2 hG hk ⟨_, rfl, ?_⟩⟩
  have hkind : T (5 + 3 * k) = 0 ∨ T (5 + 3 * k) = 1 ∨ T (5 + 3 * k) = 2 ∨ T (5 + 3 * k) = 3 := by omega
  unfold wD_tellsWho
  rcases hkind with e | e | e | e <;> rw [e] at e2 h
  · refine Or.inl ⟨g_mc hx e2, ?_⟩
    simp at h
    exact ⟨fun _ => h, fun q => absurd q (by decide)⟩
  · refine Or.inr (Or.inl ⟨g_mc hx e2, ?_⟩)
    refine ⟨fun q => absurd rfl q, fun _ => ⟨g_mc hx h1, g_isWhole hx hS (by omega) ?_⟩⟩
    rw [n0, b0, Decidable.not_not]
    refine ⟨fun q => ?_, fun q => ?_⟩
    · simp [q] at h; exact h
    · simp [q] at h; exact h
  · refine Or.inr (Or.inr (Or.inl ⟨g_mc hx e2, ?_⟩))
    simp at h
    exact ⟨fun _ => h, fun q => absurd q (by decide)⟩
  · refine Or.inr (Or.inr (Or.inr ⟨g_mc hx e2, ?_⟩))
    simp at h
    exact ⟨fun _ => h, fun q => absurd q (by decide)⟩
theorem pI_neg {p : Option Nat} (hp : ∀ q, p = some q → q < 2 ^ 31) : pI p < 0 ↔ p = none := by
  cases p with
  | none => simp only [pI]; decide
  | some p =>
    have := hp p rfl
    simp only [pI, reduceCtorEq, iff_false]
    exact nI_pos this
theorem maxN {a b : Nat} (ha : a < 2 ^ 30) (hb : b < 2 ^ 30) : (if (0 : Int32) < nI a - nI b then nI a - nI b else 0) = nI (a - b) := by
  by_cases h : a ≤ b
  · have : ¬ (0 : Int32) < nI a - nI b := by
      rw [Int32.lt_iff_toInt_lt, pk_sub_toInt ha hb, Int32.toInt_zero]; omega
    rw [if_neg this, show a - b = 0 by omega]; rfl
  · have : (0 : Int32) < nI a - nI b := by
      rw [Int32.lt_iff_toInt_lt, pk_sub_toInt ha hb, Int32.toInt_zero]; omega
    rw [if_pos this, pk_sub (by omega)]
theorem g_showsOf {bk : Nat → Nat} {cs : Nat → Option gC} {w : GW} {jh : Nat} {T : Nat → Nat} {fd : Option Nat} (hG : GI bk cs w jh T fd) {j : Nat} {t : Nat → Nat} (hS : StAt bk cs j t) {n : Nat} (hk : BkOk n t) {c : Nat → Option Nat} {g ke : Nat} (hg : g < T 0) (hke : ke < 100) {p : Option Nat} (hp : ∀ q, p = some q → q < 2 ^ 31) {K : Int32 → Prop} (k : K (nI (deedsBy T t g p ke))) : wX1_showsOf c (bk 0) (bk j) (nI g) (pI p) (nI ke) w K := by
  obtain ⟨f, gg, h1, h2, h3, h4, h5, h6⟩ := id hS
  have hx := hG.1
  have hT := hG.2.2.2
  have h60 := hT.1.1
  obtain ⟨f1, f2, f3⟩ := hk.2.2.1 g (by omega)
  obtain ⟨a0, a1, a2, a3, m0, m1, m2, m3, m4, m5⟩ := h6 g (by omega)
  unfold deedsBy at k
  have h34 : shows t g = true → (p = none ∨ tells T t g = true) → wX1_showsOf_34 c (pI p) (nI ke) 0 (some (bk (j + 3 + 5 * g))) w K := by
    intro hs hpt
    rw [if_pos hs] at k
    refine ⟨_, rfl, _, g_fd hx m0 (by simp) rfl, ?_⟩
    intro v e
    subst e
    rw [maxN (by omega) (by omega)]
    generalize hlo : t (18 + g) - ke = lo at k ⊢
    refine lfp_seq (fun i => (nI (deedsF T t g p lo i), nI (lo + i))) (t (18 + g) - lo) rfl ?_ ?_
    · intro i hi KL hKL
      dsimp only [wX1_showsOf_48_b]
      obtain ⟨b0', b1', b2', b3'⟩ := m5 (lo + i) (by omega)
      have hd : deed (t (24 + 6 * g + (lo + i))) < 8 := Nat.mod_lt _ (by omega)
      have hw : who (t (24 + 6 * g + (lo + i))) < 8 := Nat.mod_lt _ (by omega)
      have h74 : ofP T t g p (t (24 + 6 * g + (lo + i))) = true → wX1_showsOf_74 c (pI p) (nI (deedsF T t g p lo i)) (some (bk (j + 3 + 5 * g))) (nI (lo + i)) w KL K := by
        intro ho
        refine ⟨_, rfl, some (bk (j + 3 + 5 * g + 2)), g_fd hx m0 (by simp) rfl, _, rfl, _, _, g_ai hx m2, ?_, ?_⟩
        · rw [vin (by omega)]; omega
        · intro v e
          subst e
          unfold deedsF fo at hKL
          rw [if_pos ho] at hKL
          rw [rdn (by omega), b1', n1, ishl1 (by omega), fa_or, nI_add]
          exact hKL
      refine ⟨_, rfl, _, g_fd hx m0 (by simp) rfl, fun q => absurd q (nI_ge (by omega) (by omega)), fun _ => ⟨fun q => h74 ?_, fun q => ⟨some (bk (j + 3 + 5 * g + 1)), g_fd hx m0 (by simp) rfl, _, rfl, _, _, g_ai hx m1, ?_, ?_⟩⟩⟩
      · rw [pI_neg hp] at q
        subst q; rfl
      · rw [vin (by omega)]; omega
      · rw [pI_neg hp] at q
        cases p with
        | none => exact absurd rfl q
        | some p =>
          have ht : tells T t g = true := hpt.resolve_left (by simp)
          have hpp := hp p rfl
          rw [rdn (by omega), b0', show pI (some p) = nI p from rfl, nI_eq (by omega) (by omega)]
          refine ⟨fun r => ?_, fun r => h74 (by simp [ofP, ht, r])⟩
          unfold deedsF fo at hKL
          rw [if_neg (by simp [ofP, r])] at hKL
          rw [n1, nI_add]
          exact hKL
    · intro KL
      dsimp only [wX1_showsOf_48_b]
      exact ⟨_, rfl, _, g_fd hx m0 (by simp) rfl, fun _ => k, fun q => absurd (nI_le (by omega) (by omega)) q⟩
  unfold wX1_showsOf wX1_showsOf_0
  refine ⟨some (bk (j + 2)), g_fd hx h1 (by simp) rfl, _, rfl, _, _, g_aq hx h4, ?_, ?_⟩
  · rw [vin (by omega)]; omega
  · intro r e
    subst e
    rw [nI_clamp (by omega), h5 g (by omega)]
    refine ⟨g_mc hx h1, g_shows hx hS (by omega) ?_⟩
    rw [n0, b0, Decidable.not_not]
    refine ⟨fun q => ?_, fun q => ⟨fun r => h34 q (Or.inl ((pI_neg hp).mp r)), fun r => ⟨g_x hG, g_tells hG hS hg ?_⟩⟩⟩
    · rw [if_neg q] at k; exact k
    · rw [b0, Decidable.not_not]
      refine ⟨fun s => h34 q (Or.inr s), fun s => ?_⟩
      have hz : deedsF T t g p (t (18 + g) - ke) (t (18 + g) - (t (18 + g) - ke)) = 0 := by
        have : ∀ m, deedsF T t g p (t (18 + g) - ke) m = 0 := by
          intro m
          induction m with
          | zero => rfl
          | succ m ih =>
            unfold deedsF fo
            unfold deedsF at ih
            rw [ih]
            cases p with
            | none => exact absurd ((pI_neg hp).mpr rfl) r
            | some p => rw [if_neg (by simp [ofP, s])]
        exact this _
      rw [if_pos q, hz] at k
      exact k
theorem g_harmBy {bk : Nat → Nat} {cs : Nat → Option gC} {w : GW} {jh : Nat} {T : Nat → Nat} {fd : Option Nat} (hG : GI bk cs w jh T fd) {c : Nat → Option Nat} {set : Nat} (hs : set < 2 ^ 31) {K : Int32 → Prop} (k : K (nI (harmF T set (T 2)))) : wX1_harmBy c (bk 0) (nI set) w K := by
  have hT := hG.2.2.2
  have hD := hT.1.2.2.1
  have hx := hG.1
  obtain ⟨v7, v9, v11, v12, v13, x0⟩ := hG.2.1
  obtain ⟨many, fa, fh, fl, gp, gq, gd, h0, -, -, -, -, h8, -, -, -, hh, -⟩ := hG.2.2.1
  unfold wX1_harmBy wX1_harmBy_0 wX1_harmBy_4
  refine lfp_seq (fun i => (nI (harmF T set i), nI i)) (T 2) rfl ?_ ?_
  · intro i hi KL hKL
    dsimp only [wX1_harmBy_4_b]
    refine ⟨g_x hG, g_deeds hG ⟨fun q => absurd q (nI_ge hi (by omega)), fun _ => g_isIn hs (by omega) ?_⟩⟩
    rw [n0, b0, Decidable.not_not]
    unfold harmF fo at hKL
    refine ⟨fun q => ?_, fun q => ⟨some (bk jh), g_fd hx x0 (by simp) rfl, _, rfl, some (bk (jh + 8)), g_fd hx h0 (by simp) rfl, _, rfl, _, _, g_ai hx h8, ?_, ?_⟩⟩
    · rw [if_neg q] at hKL
      rw [n1, nI_add]; exact hKL
    · rw [vin (by omega)]; omega
    · intro v e
      subst e
      rw [if_pos q] at hKL
      rw [rdn (by omega), hh i hi, n1, nI_add, nI_add]; exact hKL
  · intro KL
    dsimp only [wX1_harmBy_4_b]
    exact ⟨g_x hG, g_deeds hG ⟨fun _ => k, fun q => absurd (nI_le (Nat.le_refl _) (by omega)) q⟩⟩
theorem g_harmOf {bk : Nat → Nat} {cs : Nat → Option gC} {w : GW} {jh : Nat} {T : Nat → Nat} {fd : Option Nat} (hG : GI bk cs w jh T fd) {j : Nat} {t : Nat → Nat} (hS : StAt bk cs j t) {n : Nat} (hk : BkOk n t) {c : Nat → Option Nat} {ke : Nat} (hke : ke < 100) {K : Int32 → Prop} (k : K (nI (harmSh T t none ke))) : wX1_harmOf c (bk 0) (bk j) (nI ke) w K := by
  have h6 := hG.2.2.2.1.1
  unfold wX1_harmOf wX1_harmOf_0 wX1_harmOf_5
  refine lfp_seq (fun i => (nI (shownF T t none ke i), nI i)) (T 0) rfl ?_ ?_
  · intro i hi KL hKL
    dsimp only [wX1_harmOf_5_b]
    refine ⟨g_x hG, g_panes hG ⟨fun q => absurd q (nI_ge hi (by omega)), fun _ => ⟨g_x hG, g_showsOf (p := none) hG hS hk hi hke (by simp) ?_⟩⟩⟩
    intro v e
    subst e
    rw [fa_or, n1, nI_add]; exact hKL
  · intro KL
    dsimp only [wX1_harmOf_5_b]
    exact ⟨g_x hG, g_panes hG ⟨fun _ => ⟨g_x hG, g_harmBy hG (Nat.lt_trans (shownF_lt _ _ _ _ _) (by decide)) k⟩, fun q => absurd (nI_le (Nat.le_refl _) (by omega)) q⟩⟩
theorem g_shameOf {bk : Nat → Nat} {cs : Nat → Option gC} {w : GW} {jh : Nat} {T : Nat → Nat} {fd : Option Nat} (hG : GI bk cs w jh T fd) {j : Nat} {t : Nat → Nat} (hS : StAt bk cs j t) {n : Nat} (hk : BkOk n t) {c : Nat → Option Nat} {p : Nat} (hp : p < 100) {K : Int32 → Prop} (k : K (nI (harmSh T t (some p) 6))) : wX1_shameOf c (bk 0) (bk j) (nI p) w K := by
  have h6 := hG.2.2.2.1.1
  unfold wX1_shameOf wX1_shameOf_0 wX1_shameOf_5
  refine lfp_seq (fun i => (nI (shownF T t (some p) 6 i), nI i)) (T 0) rfl ?_ ?_
  · intro i hi KL hKL
    dsimp only [wX1_shameOf_5_b]
    refine ⟨g_x hG, g_panes hG ⟨fun q => absurd q (nI_ge hi (by omega)), fun _ => ⟨g_x hG, g_showsOf (p := some p) hG hS hk hi (by omega) (fun q e => by cases e; omega) ?_⟩⟩⟩
    intro v e
    subst e
    rw [fa_or, n1, nI_add]; exact hKL
  · intro KL
    dsimp only [wX1_shameOf_5_b]
    exact ⟨g_x hG, g_panes hG ⟨fun _ => ⟨g_x hG, g_harmBy hG (Nat.lt_trans (shownF_lt _ _ _ _ _) (by decide)) k⟩, fun q => absurd (nI_le (Nat.le_refl _) (by omega)) q⟩⟩
theorem g_canWash {bk : Nat → Nat} {cs : Nat → Option gC} {w : GW} (hx : Ext bk cs w) {j : Nat} {t : Nat → Nat} (hS : StAt bk cs j t) {n : Nat} (hk : BkOk n t) {c : Nat → Option Nat} {x k : Nat} (hkk : k < 6) {K : Int32 → Prop} (h : K (nI (if t (12 + k) = 0 ∧ 0 < t (18 + k) then 1 else 0))) : wX1_canWash c x (bk j) (nI k) w K := by
  obtain ⟨f, gg, h1, h2, h3, h4, h5, h6⟩ := id hS
  obtain ⟨f1, f2, f3⟩ := hk.2.2.1 k hkk
  obtain ⟨a0, a1, a2, a3, m0, m1, m2, m3, m4, m5⟩ := h6 k hkk
  unfold wX1_canWash wX1_canWash_0
  refine ⟨g_mc hx h1, g_isWhole hx hS hkk ?_⟩
  rw [n0, b0, Decidable.not_not]
  refine ⟨fun q => ?_, fun q => ⟨some (bk (j + 2)), g_fd hx h1 (by simp) rfl, _, rfl, _, _, g_aq hx h4, ?_, ?_⟩⟩
  · simp [q] at h; exact h
  · rw [vin (by omega)]; omega
  · intro r e
    subst e
    rw [nI_clamp (by omega), h5 k hkk]
    refine ⟨_, rfl, _, g_fd hx m0 (by simp) rfl, ?_⟩
    rw [nI_leI (by omega) (by omega)]
    refine ⟨fun r => ?_, fun r => ?_⟩
    · rw [if_neg (by omega)] at h; exact h
    · rw [if_pos ⟨q, by omega⟩] at h; exact h
