/-! L2, the game's side: panes, light, what is seen -/
/-- the game stands: streets T, houses at jh, some state at j -/
def GI (bk : Nat → Nat) (cs : Nat → Option gC) (w : GW) (jh : Nat) (T : Nat → Nat) (fades : Option Nat) : Prop := Ext bk cs w ∧ GxAt bk cs jh ∧ HsAt bk cs jh T fades ∧ StOk T
theorem g_shows {bk : Nat → Nat} {cs : Nat → Option gC} {w : GW} (hx : Ext bk cs w) {j : Nat} {t : Nat → Nat} (hS : StAt bk cs j t) {c : Nat → Option Nat} {k : Nat} (hk : k < 6) {K : Int32 → Prop} (h : K (nI (if shows t k then 1 else 0))) : wX4_shows c (bk j) (nI k) w K := by
  obtain ⟨f, g, h1, -⟩ := hS
  have := goneM_lt t
  have := drawnM_lt t
  unfold shows at h
  unfold wX4_shows wX4_shows_0
  refine ⟨_, g_fd hx h1 (by simp) rfl, g_isIn (by omega) (by omega) ?_⟩
  rw [goneM_bit hk, n0, b0, Decidable.not_not]
  refine ⟨fun q => ?_, fun q => ⟨_, g_fd hx h1 (by simp) rfl, g_isIn (by omega) (by omega) ?_⟩⟩
  · simp at q; simp [q] at h; exact h
  · simp at q
    rw [drawnM_bit hk, b0, Decidable.not_not]
    refine ⟨fun r => ?_, fun r => ?_⟩
    · simp at r; simp [q, r] at h; exact h
    · simp at r; simp [q, r] at h; exact h
theorem g_size {bk : Nat → Nat} {cs : Nat → Option gC} {w : GW} (hx : Ext bk cs w) {j j2 n : Nat} {g : Nat → Option Nat} (hL : LiAt bk cs j j2 n g) {c : Nat → Option Nat} {K : Int32 → Prop} (h : K (nI n)) : wJ2_size c (bk j) w K := by
  obtain ⟨mc, L, h1, h2, h3⟩ := hL
  unfold wJ2_size wJ2_size_0
  exact ⟨_, g_fd hx h2 (by simp) rfl, h⟩
theorem g_get {bk : Nat → Nat} {cs : Nat → Option gC} {w : GW} (hx : Ext bk cs w) {j j2 n : Nat} {g : Nat → Option Nat} (hL : LiAt bk cs j j2 n g) (hn : n < 2 ^ 31) {c : Nat → Option Nat} {i : Nat} (hi : i < n) {K : Option Nat → Prop} (h : K (g i)) : wJ2_get c (bk j) (nI i) w K := by
  obtain ⟨mc, L, h1, h2, h3⟩ := hL
  unfold wJ2_get wJ2_get_0
  refine ⟨_, g_fd hx h2 (by simp) rfl, ?_⟩
  unfold wJ16_checkIndex wJ16_checkIndex_0 wJ7_checkIndex wJ7_checkIndex_0
  refine ⟨fun q => absurd q (nI_pos (by omega)), fun _ => ⟨fun _ => ⟨g_mc hx h2, ?_⟩, fun q => absurd (nI_lt hi hn) q⟩⟩
  unfold wJ2_elementData wJ2_elementData_0
  refine ⟨some (bk j2), g_fd hx h2 (by simp) rfl, _, rfl, _, _, g_aq hx h3, ?_, ?_⟩
  · rw [vin (by omega)]; omega
  · intro r e
    subst e
    rw [nI_clamp (by omega)]; exact h
theorem g_panes {bk : Nat → Nat} {cs : Nat → Option gC} {w : GW} {jh : Nat} {T : Nat → Nat} {fd : Option Nat} (hG : GI bk cs w jh T fd) {c : Nat → Option Nat} {K : Int32 → Prop} (h : K (nI (T 0))) : wX1_panes c (bk 0) w K := by
  obtain ⟨hx, ⟨v7, v9, v11, v12, v13, x0⟩, ⟨many, fa, fh, fl, gp, gq, gd, h0, l1, -⟩, hS⟩ := hG
  unfold wX1_panes wX1_panes_0
  refine ⟨some (bk jh), g_fd hx x0 (by simp) rfl, _, rfl, some (bk (jh + 1)), g_fd hx h0 (by simp) rfl, _, rfl, ?_, g_size hx l1 h⟩
  obtain ⟨mc, L, a1, a2, a3⟩ := l1
  exact g_mc hx a2
theorem g_people {bk : Nat → Nat} {cs : Nat → Option gC} {w : GW} {jh : Nat} {T : Nat → Nat} {fd : Option Nat} (hG : GI bk cs w jh T fd) {c : Nat → Option Nat} {K : Int32 → Prop} (h : K (nI (T 1))) : wX1_people c (bk 0) w K := by
  obtain ⟨hx, ⟨v7, v9, v11, v12, v13, x0⟩, ⟨many, fa, fh, fl, gp, gq, gd, h0, -, l2, -⟩, hS⟩ := hG
  unfold wX1_people wX1_people_0
  refine ⟨some (bk jh), g_fd hx x0 (by simp) rfl, _, rfl, some (bk (jh + 2)), g_fd hx h0 (by simp) rfl, _, rfl, ?_, g_size hx l2 h⟩
  obtain ⟨mc, L, a1, a2, a3⟩ := l2
  exact g_mc hx a2
theorem g_deeds {bk : Nat → Nat} {cs : Nat → Option gC} {w : GW} {jh : Nat} {T : Nat → Nat} {fd : Option Nat} (hG : GI bk cs w jh T fd) {c : Nat → Option Nat} {K : Int32 → Prop} (h : K (nI (T 2))) : wX1_deeds c (bk 0) w K := by
  obtain ⟨hx, ⟨v7, v9, v11, v12, v13, x0⟩, ⟨many, fa, fh, fl, gp, gq, gd, h0, -, -, l3, -⟩, hS⟩ := hG
  unfold wX1_deeds wX1_deeds_0
  refine ⟨some (bk jh), g_fd hx x0 (by simp) rfl, _, rfl, some (bk (jh + 3)), g_fd hx h0 (by simp) rfl, _, rfl, ?_, g_size hx l3 h⟩
  obtain ⟨mc, L, a1, a2, a3⟩ := l3
  exact g_mc hx a2
theorem g_x {bk : Nat → Nat} {cs : Nat → Option gC} {w : GW} {jh : Nat} {T : Nat → Nat} {fd : Option Nat} (hG : GI bk cs w jh T fd) : gmc w (bk 0) = some 0 := by
  obtain ⟨hx, ⟨v7, v9, v11, v12, v13, x0⟩, -⟩ := hG
  exact g_mc hx x0
/-- a number within 0 and n - 1, as the game asks -/
theorem g_in {c : Nat → Option Nat} {w : GW} {x : Int32} {n : Nat} (hn : n < 2 ^ 31) {K : Int32 → Prop} (k1 : ∀ g, g < n → x = nI g → K 1) (k0 : ¬ isB x n → K 0) : wX1_in c x 0 (nI n - 1) w K := by
  unfold wX1_in wX1_in_0
  have h := isB_cmp hn k1 k0
  refine ⟨h.1, fun q => ⟨fun r => k0 ?_, fun r => ?_⟩⟩
  · rintro ⟨g, hg, rfl⟩
    rw [n1, pk_sub (by omega), nI_ltI (by omega) (by omega)] at r
    omega
  · obtain ⟨j, hj, rfl⟩ := nI_of q
    by_cases hn0 : n = 0
    · subst hn0
      exact absurd (show nI 0 - 1 < nI j from Int32.lt_of_lt_of_le (show nI 0 - 1 < (0 : Int32) by decide) (nI_pos' hj)) r
    · rw [n1, pk_sub (by omega), nI_ltI (by omega) (by omega)] at r
      exact k1 j (by omega) rfl
theorem nar01 (b : Bool) : narrow .boolean (.int (if b then 1 else 0)) = .int (if b then 1 else 0) := by cases b <;> rfl
theorem g_isPane {bk : Nat → Nat} {cs : Nat → Option gC} {w : GW} {jh : Nat} {T : Nat → Nat} {fd : Option Nat} (hG : GI bk cs w jh T fd) {c : Nat → Option Nat} {x : Int32} {K : Int32 → Prop} (k1 : ∀ g, g < T 0 → x = nI g → K 1) (k0 : ¬ isB x (T 0) → K 0) : wX1_isPane c (bk 0) x w K := by
  have h6 := hG.2.2.2.1.1
  unfold wX1_isPane wX1_isPane_0
  refine ⟨g_x hG, g_panes hG (g_in (by omega) (fun g h e => ⟨rfl, k1 g h e⟩) (fun h => ⟨rfl, k0 h⟩))⟩
theorem g_isPerson {bk : Nat → Nat} {cs : Nat → Option gC} {w : GW} {jh : Nat} {T : Nat → Nat} {fd : Option Nat} (hG : GI bk cs w jh T fd) {c : Nat → Option Nat} {x : Int32} {K : Int32 → Prop} (k1 : ∀ g, g < T 1 → x = nI g → K 1) (k0 : ¬ isB x (T 1) → K 0) : wX1_isPerson c (bk 0) x w K := by
  have h6 := hG.2.2.2.1.2.1
  unfold wX1_isPerson wX1_isPerson_0
  refine ⟨g_x hG, g_people hG (g_in (by omega) (fun g h e => ⟨rfl, k1 g h e⟩) (fun h => ⟨rfl, k0 h⟩))⟩
theorem g_isDeed {bk : Nat → Nat} {cs : Nat → Option gC} {w : GW} {jh : Nat} {T : Nat → Nat} {fd : Option Nat} (hG : GI bk cs w jh T fd) {c : Nat → Option Nat} {x : Int32} {K : Int32 → Prop} (k1 : ∀ g, g < T 2 → x = nI g → K 1) (k0 : ¬ isB x (T 2) → K 0) : wX1_isDeed c (bk 0) x w K := by
  have h6 := hG.2.2.2.1.2.2.1
  unfold wX1_isDeed wX1_isDeed_0
  refine ⟨g_x hG, g_deeds hG (g_in (by omega) (fun g h e => ⟨rfl, k1 g h e⟩) (fun h => ⟨rfl, k0 h⟩))⟩
/-- a pane: its object -/
theorem g_pane2 {bk : Nat → Nat} {cs : Nat → Option gC} {w : GW} {jh : Nat} {T : Nat → Nat} {fd : Option Nat} (hG : GI bk cs w jh T fd) {c : Nat → Option Nat} {k : Nat} (hk : k < T 0) {K : Option Nat → Prop} (h : K (some (bk (jh + 10 + k)))) : wX1_pane_2 c (bk 0) (nI k) w K := by
  obtain ⟨hx, ⟨v7, v9, v11, v12, v13, x0⟩, ⟨many, fa, fh, fl, gp, gq, gd, h0, l1, -, -, -, -, -, hp, -⟩, hS⟩ := hG
  have h6 := hS.1.1
  obtain ⟨e1, nm, e2⟩ := hp k hk
  have hkind := (hS.2.1 k (by omega)).1
  unfold wX1_pane_2 wX1_pane_2_0
  refine ⟨some (bk jh), g_fd hx x0 (by simp) rfl, _, rfl, some (bk (jh + 1)), g_fd hx h0 (by simp) rfl, _, rfl, ?_, g_get hx l1 (by omega) hk ?_⟩
  · obtain ⟨mc, L, a1, a2, a3⟩ := l1
    exact g_mc hx a2
  · rw [e1]
    refine ⟨_, rfl, _, g_mc hx e2, ?_, h⟩
    simp only [List.mem_cons, List.not_mem_nil, or_false]
    omega
theorem g_pn {bk : Nat → Nat} {cs : Nat → Option gC} {w : GW} {jh : Nat} {T : Nat → Nat} {fd : Option Nat} (hG : GI bk cs w jh T fd) {k : Nat} (hk : k < T 0) : ∃ nm : Nat, cs (jh + 10 + k) = some (.inr (7 + T (5 + 3 * k), [.ref nm, .int (nI (T (5 + 3 * k + 1))), .int (nI (T (5 + 3 * k + 2)))])) := by
  obtain ⟨hx, -, ⟨many, fa, fh, fl, gp, gq, gd, h0, l1, -, -, -, -, -, hp, -⟩, hS⟩ := hG
  exact (hp k hk).2
theorem g_light {bk : Nat → Nat} {cs : Nat → Option gC} {w : GW} {jh : Nat} {T : Nat → Nat} {fd : Option Nat} (hG : GI bk cs w jh T fd) {c : Nat → Option Nat} {hr : Nat} (hh : hr < 2 ^ 31) {K : Int32 → Prop} (h : K (nI (T (33 + hr % T 3)))) : wX3_light c (bk jh) (nI hr) w K := by
  obtain ⟨hx, -, ⟨many, fa, fh, fl, gp, gq, gd, h0, -, -, -, -, -, h9, -, -, -, hl⟩, hS⟩ := hG
  have h3 := hS.1
  unfold wX3_light wX3_light_0
  refine ⟨_, g_fd hx h0 (by simp) rfl, ?_⟩
  rcases hl with ⟨e1, e2, e3⟩ | ⟨e1, e2⟩
  · refine ⟨fun q => absurd (by rw [e1]; rfl) q, fun _ => ?_⟩
    rw [e2, Nat.mod_one, e3] at h
    exact h
  · have hm : hr % T 3 < T 3 := Nat.mod_lt _ (by omega)
    refine ⟨fun q => ⟨some (bk (jh + 9)), g_fd hx h0 (by simp) rfl, _, g_fd hx h0 (by simp) rfl, q, _, rfl, _, _, g_ai hx h9, ?_⟩, fun q => absurd q (nI_ne0 (by omega) (by omega))⟩
    unfold irem
    rw [e1, pk_rem hh (by omega) (by omega), vin (by omega), rdn (by omega), e2 _ hm]
    exact ⟨by omega, h⟩
theorem g_turned {c : Nat → Option Nat} {w : GW} {s : Nat} (hs : s < 2 ^ 31) {K : Int32 → Prop} (h : K (nI (turn s 10))) : wX1_turned c (nI s) w K := by
  unfold wX1_turned wX1_turned_0 wX1_turned_4
  refine lfp_seq (fun i => (nI (turn s i), nI i)) 10 rfl ?_ ?_
  · intro i hi KL hKL
    dsimp only [wX1_turned_4_b]
    refine ⟨fun q => absurd q (nI_ge hi (by omega)), fun _ => g_isIn hs (by omega) ?_⟩
    rw [n0, b0, Decidable.not_not]
    refine ⟨fun q => ?_, fun q v e => ?_⟩
    · unfold turn fo at hKL
      rw [if_neg q, Nat.or_zero] at hKL
      rw [n1, nI_add]; exact hKL
    · subst e
      unfold turn fo at hKL
      rw [if_pos q] at hKL
      rw [pk_sub (by omega), n1, ishl1 (by omega), fa_or, nI_add]; exact hKL
  · intro KL
    exact ⟨fun _ => h, fun q => absurd (nI_le (Nat.le_refl _) (by omega)) q⟩
theorem g_sees {bk : Nat → Nat} {cs : Nat → Option gC} {w : GW} {jh : Nat} {T : Nat → Nat} {fd : Option Nat} (hG : GI bk cs w jh T fd) {j : Nat} {t : Nat → Nat} (hS : StAt bk cs j t) (ht0 : t 0 < 2 ^ 31) {c : Nat → Option Nat} {k : Nat} (hk : k < T 0) {K : Int32 → Prop} (h : K (nI (sight T t k))) : wX1_sees c (bk 0) (bk j) (nI k) w K := by
  obtain ⟨f, g, h1, -⟩ := id hS
  have hx := hG.1
  have hT := hG.2.2.2
  have h6 := hT.1
  obtain ⟨g1, g2, g3, g4⟩ := hT.2.1 k (by omega)
  have hl : T (33 + t 0 % T 3) ≤ 1 := hT.2.2.2.2 _ (by have := Nat.mod_lt (t 0) (show T 3 > 0 by omega); omega)
  have := drawnM_lt t
  obtain ⟨nm, e2⟩ := g_pn hG hk
  unfold wX1_sees wX1_sees_0
  refine ⟨g_mc hx h1, g_isWhole hx hS (by omega) ?_⟩
  rw [n0, b0]
  refine ⟨fun q => ?_, fun q => ⟨_, g_fd hx h1 (by simp) rfl, g_isIn (by omega) (by omega) ?_⟩⟩
  · unfold sight at h; rw [if_neg (fun r => q r.1)] at h; exact h
  · rw [Decidable.not_not] at q
    rw [b0, Decidable.not_not, drawnM_bit (by omega)]
    refine ⟨fun r => ?_, fun r => ⟨g_x hG, g_pane2 hG hk ?_⟩⟩
    · unfold sight at h; rw [if_neg (fun z => by simp [z.2.1] at r)] at h; exact h
    · simp at r
      obtain ⟨v7, v9, v11, v12, v13, x0⟩ := hG.2.1
      obtain ⟨many, fa, fh, fl, gp, gq, gd, h0, -⟩ := hG.2.2.1
      refine ⟨some (bk jh), g_fd hx x0 (by simp) rfl, _, g_fd hx h1 (by simp) rfl, _, rfl, g_mc hx h0, g_light hG ht0 ⟨_, rfl, ?_⟩⟩
      unfold sight at h
      have hkind : T (5 + 3 * k) = 0 ∨ T (5 + 3 * k) = 1 ∨ T (5 + 3 * k) = 2 ∨ T (5 + 3 * k) = 3 := by omega
      unfold wD_sees
      rcases hkind with e | e | e | e <;> rw [e] at e2 h
      · refine Or.inl ⟨g_mc hx e2, ?_⟩
        simp [q, r] at h
        exact ⟨_, g_fd hx e2 (by simp) rfl, h⟩
      · refine Or.inr (Or.inl ⟨g_mc hx e2, ?_⟩)
        simp [q, r] at h
        exact ⟨_, g_fd hx e2 (by simp) rfl, h⟩
      · refine Or.inr (Or.inr (Or.inl ⟨g_mc hx e2, ?_⟩))
        unfold wX10_sees wX10_sees_0
        rw [n0, nI_eq (by omega) (by omega)]
        refine ⟨fun z => ⟨_, g_fd hx e2 (by simp) rfl, ?_⟩, fun z => ?_⟩
        · rw [if_pos ⟨q, r, Or.inr (by omega)⟩] at h
          simp at h; exact h
        · rw [if_neg (fun y => by omega)] at h; exact h
      · refine Or.inr (Or.inr (Or.inr ⟨g_mc hx e2, ?_⟩))
        simp [q, r] at h
        unfold wX11_sees wX11_sees_0
        refine ⟨_, g_fd hx e2 (by simp) rfl, _, g_fd hx e2 (by simp) rfl, g_turned (by omega) ?_⟩
        rw [fa_or]; exact h
theorem g_seeing {bk : Nat → Nat} {cs : Nat → Option gC} {w : GW} {jh : Nat} {T : Nat → Nat} {fd : Option Nat} (hG : GI bk cs w jh T fd) {j : Nat} {t : Nat → Nat} (hS : StAt bk cs j t) (ht0 : t 0 < 2 ^ 31) {c : Nat → Option Nat} {cl : Nat} (hc : cl < 32) {K : Int32 → Prop} (h : K (nI (seers T t cl))) : wX1_seeing c (bk 0) (bk j) (nI cl) w K := by
  have hT := hG.2.2.2
  have h6 := hT.1.1
  unfold wX1_seeing wX1_seeing_0 wX1_seeing_5
  refine lfp_seq (fun i => (nI (orB (fun g => (sight T t g).testBit cl) i), nI i)) (T 0) rfl ?_ ?_
  · intro i hi KL hKL
    have hs := sight_lt (t := t) hT (show i < 6 by omega)
    dsimp only [wX1_seeing_5_b]
    refine ⟨g_x hG, g_panes hG ⟨fun q => absurd q (nI_ge hi (by omega)), fun _ => ⟨g_x hG, g_sees hG hS ht0 hi (g_isIn (by omega) hc ?_)⟩⟩⟩
    rw [n0, b0, Decidable.not_not]
    unfold orB at hKL
    refine ⟨fun q => ?_, fun q v e => ?_⟩
    · rw [if_neg q] at hKL
      rw [n1, nI_add]; exact hKL
    · subst e
      rw [if_pos q] at hKL
      rw [n1, ishl1 (by omega), fa_or, nI_add]; exact hKL
  · intro KL
    dsimp only [wX1_seeing_5_b]
    exact ⟨g_x hG, g_panes hG ⟨fun _ => h, fun q => absurd (nI_le (Nat.le_refl _) (by omega)) q⟩⟩
