/-! L2: the model's streets and blocks as rows of Nat; what the pure methods answer -/
def StOk (T : Nat → Nat) : Prop := (T 0 ≤ 6 ∧ T 1 ≤ 5 ∧ T 2 ≤ 5 ∧ 1 ≤ T 3 ∧ T 3 ≤ 12) ∧ (∀ g, g < 6 → T (5 + 3 * g) < 4 ∧ T (5 + 3 * g + 1) ≤ 6 ∧ (g < T 0 → 1 ≤ T (5 + 3 * g + 1)) ∧ T (5 + 3 * g + 2) < 1024) ∧ (∀ p, p < 5 → T (23 + p) < 10) ∧ (∀ d, d < 5 → T (28 + d) ≤ 99) ∧ ∀ h, h < 12 → T (33 + h) ≤ 1
def MT (m : MS) (T : Nat → Nat) : Prop := ∀ j, j < 60 → j ≠ 4 → gA m 3 j = nI (T j)
def BkOk (n : Nat) (t : Nat → Nat) : Prop := t 0 ≤ n ∧ (∀ p, p < 5 → t (1 + p) < 10) ∧ (∀ k, k < 6 → t (6 + k) ≤ 1 ∧ t (12 + k) ≤ 1 ∧ t (18 + k) ≤ 6) ∧ ∀ k i, k < 6 → i < 6 → t (24 + 6 * k + i) % 8 < 5 ∧ t (24 + 6 * k + i) / 8 % 8 < 5 ∧ t (24 + 6 * k + i) / 64 % 16 < 10 ∧ t (24 + 6 * k + i) < 1024 * (n + 1)
def MB (m : MS) (b : Nat) (t : Nat → Nat) : Prop := ∀ j, j < 60 → gA m 11 (b + j) = nI (t j)
/-- the model stands: streets T, a block t at b, its hour and ages at most n -/
def MI (m : MS) (T : Nat → Nat) (n b : Nat) (t : Nat → Nat) : Prop := MT m T ∧ StOk T ∧ MB m b t ∧ BkOk n t ∧ n < 100000 ∧ b ≤ 1452
theorem m_panes {m : MS} {T : Nat → Nat} (hT : MT m T) {K : Int32 → Prop} (k : K (nI (T 0))) : wX6_panes m K := by
  unfold wX6_panes wX6_panes_0
  rw [n0, vin (by omega), rdn (by omega), hT 0 (by omega) (by omega)]
  exact ⟨by omega, k⟩
theorem m_people {m : MS} {T : Nat → Nat} (hT : MT m T) {K : Int32 → Prop} (k : K (nI (T 1))) : wX6_people m K := by
  unfold wX6_people wX6_people_0
  rw [n1, vin (by omega), rdn (by omega), hT 1 (by omega) (by omega)]
  exact ⟨by omega, k⟩
theorem m_deeds {m : MS} {T : Nat → Nat} (hT : MT m T) {K : Int32 → Prop} (k : K (nI (T 2))) : wX6_deeds m K := by
  unfold wX6_deeds wX6_deeds_0
  rw [vin (by omega), rdn (by omega), hT 2 (by omega) (by omega)]
  exact ⟨by omega, k⟩
theorem m_paneOf {m : MS} {T : Nat → Nat} (hT : MT m T) {g w : Nat} (hg : g < 6) (hw : w < 3) {K : Int32 → Prop} (k : K (nI (T (5 + 3 * g + w)))) : wX6_paneOf (nI g) (nI w) m K := by
  unfold wX6_paneOf wX6_paneOf_0
  rw [pk_mul, nI_add, nI_add, vin (by omega), rdn (by omega), hT _ (by omega) (by omega)]
  exact ⟨by omega, k⟩
theorem m_kind {m : MS} {T : Nat → Nat} (hT : MT m T) {g : Nat} (hg : g < 6) {K : Int32 → Prop} (k : K (nI (T (5 + 3 * g)))) : wX6_paneOf (nI g) 0 m K := m_paneOf (w := 0) hT hg (by omega) k
/-- an int is a number below n, or not -/
def isB (x : Int32) (n : Nat) : Prop := ∃ g, g < n ∧ x = nI g
theorem isB_cmp {x : Int32} {n : Nat} (hn : n < 2 ^ 31) {A B : Prop} (k1 : ∀ g, g < n → x = nI g → B) (k0 : ¬ isB x n → A) : (x < 0 → A) ∧ (¬ x < 0 → (nI n ≤ x → A) ∧ (¬ nI n ≤ x → B)) := by
  refine ⟨fun h => k0 ?_, fun h => ⟨fun h2 => k0 ?_, fun h2 => ?_⟩⟩
  · rintro ⟨g, hg, rfl⟩
    exact nI_pos (by omega) h
  · rintro ⟨g, hg, rfl⟩
    exact nI_ge hg hn h2
  · obtain ⟨j, hj, rfl⟩ := nI_of h
    rw [nI_leI hn hj] at h2
    exact k1 j (by omega) rfl
theorem m_isPane {m : MS} {T : Nat → Nat} (hT : MT m T) (hS : StOk T) {x : Int32} {K : Int32 → Prop} (k1 : ∀ g, g < T 0 → x = nI g → K 1) (k0 : ¬ isB x (T 0) → K 0) : wX6_isPane x m K := by
  have h6 := hS.1.1
  unfold wX6_isPane wX6_isPane_0
  have := isB_cmp (x := x) (n := T 0) (by omega) k1 k0
  exact ⟨this.1, fun h => m_panes hT (this.2 h)⟩
theorem m_isPerson {m : MS} {T : Nat → Nat} (hT : MT m T) (hS : StOk T) {x : Int32} {K : Int32 → Prop} (k1 : ∀ g, g < T 1 → x = nI g → K 1) (k0 : ¬ isB x (T 1) → K 0) : wX6_isPerson x m K := by
  have h6 := hS.1.2.1
  unfold wX6_isPerson wX6_isPerson_0
  have := isB_cmp (x := x) (n := T 1) (by omega) k1 k0
  exact ⟨this.1, fun h => m_people hT (this.2 h)⟩
theorem m_isDeed {m : MS} {T : Nat → Nat} (hT : MT m T) (hS : StOk T) {x : Int32} {K : Int32 → Prop} (k1 : ∀ g, g < T 2 → x = nI g → K 1) (k0 : ¬ isB x (T 2) → K 0) : wX6_isDeed x m K := by
  have h6 := hS.1.2.2.1
  unfold wX6_isDeed wX6_isDeed_0
  have := isB_cmp (x := x) (n := T 2) (by omega) k1 k0
  exact ⟨this.1, fun h => m_deeds hT (this.2 h)⟩
theorem m_st {m : MS} {T : Nat → Nat} {n b : Nat} {t : Nat → Nat} (h : MI m T n b t) {j : Nat} (hj : j < 60) : rd (gA m 11) (nI (b + j)) = nI (t j) := by
  obtain ⟨hT, hS, hB, hk, hn, hb⟩ := h
  rw [rdn (by omega), hB j hj]
theorem m_isWhole {m : MS} {T : Nat → Nat} {n b : Nat} {t : Nat → Nat} (h : MI m T n b t) {g : Nat} (hg : g < 6) {K : Int32 → Prop} (k : K (nI (if t (12 + g) = 0 then 1 else 0))) : wX6_isWhole (nI b) (nI g) m K := by
  obtain ⟨hT, hS, hB, hk, hn, hb⟩ := id h
  have h1 := (hk.2.2.1 g hg).2.1
  unfold wX6_isWhole wX6_isWhole_0
  rw [nI_add, nI_add, Nat.add_assoc, vin (by omega), m_st h (by omega), n0, n1, nI_eq (by omega) (by omega)]
  refine ⟨by omega, fun e => ?_, fun e => ?_⟩
  · rw [if_neg e] at k; exact k
  · rw [if_pos e] at k; exact k
theorem m_lightOf {m : MS} {T : Nat → Nat} (hT : MT m T) (hS : StOk T) {h : Nat} (hh : h < 2 ^ 31) {K : Int32 → Prop} (k : K (nI (T (33 + h % T 3)))) : wX6_lightOf (nI h) m K := by
  obtain ⟨⟨-, -, -, h1, h2⟩, -⟩ := hS
  have h3 : h % T 3 < T 3 := Nat.mod_lt _ (by omega)
  unfold wX6_lightOf wX6_lightOf_0
  rw [vin (by omega), rdn (by omega), hT 3 (by omega) (by omega), n0, nI_eq (by omega) (by omega)]
  unfold irem
  rw [pk_rem hh (by omega) (by omega), nI_add, vin (by omega), rdn (by omega), hT _ (by omega) (by omega)]
  exact ⟨by omega, by omega, by omega, k⟩
def turn (s : Nat) : Nat → Nat := fo (fun c a => a ||| (if s.testBit c then 2 ^ (9 - c) else 0)) 0
def sight (T t : Nat → Nat) (g : Nat) : Nat := if t (12 + g) = 0 ∧ t (6 + g) = 0 ∧ (T (5 + 3 * g) ≠ 2 ∨ T (33 + t 0 % T 3) = 1) then (if T (5 + 3 * g) = 3 then T (5 + 3 * g + 2) ||| turn (T (5 + 3 * g + 2)) 10 else T (5 + 3 * g + 2)) else 0
theorem turn_lt (s : Nat) : ∀ n, turn s n < 1024
  | 0 => by simp [turn, fo]
  | n + 1 => by
    have ih := turn_lt s n
    show turn s n ||| (if s.testBit n then 2 ^ (9 - n) else 0) < 1024
    have h2 : (if s.testBit n then 2 ^ (9 - n) else 0) < 2 ^ 10 := by
      split
      · exact Nat.pow_lt_pow_right (by decide) (by omega)
      · decide
    exact Nat.or_lt_two_pow (n := 10) ih h2
theorem sight_lt {T t : Nat → Nat} (hS : StOk T) {g : Nat} (hg : g < 6) : sight T t g < 1024 := by
  have h := (hS.2.1 g hg).2.2.2
  unfold sight
  split
  · split
    · exact Nat.or_lt_two_pow (n := 10) h (turn_lt _ 10)
    · exact h
  · omega
theorem m_sightOf {m : MS} {T : Nat → Nat} {n b : Nat} {t : Nat → Nat} (h : MI m T n b t) {g : Nat} (hg : g < 6) {K : Int32 → Prop} (k : K (nI (sight T t g))) : wX6_sightOf (nI b) (nI g) m K := by
  obtain ⟨hT, hS, hB, hk, hn, hb⟩ := id h
  obtain ⟨g1, g2, g3, g4⟩ := hS.2.1 g hg
  obtain ⟨f1, f2, f3⟩ := hk.2.2.1 g hg
  have f0 := hk.1
  have hl : T (33 + t 0 % T 3) ≤ 1 := hS.2.2.2.2 _ (by have := Nat.mod_lt (t 0) (show T 3 > 0 by have := hS.1; omega); have := hS.1; omega)
  unfold wX6_sightOf wX6_sightOf_0
  refine m_paneOf (w := 2) hT hg (by omega) ?_
  have h60 : ∀ s0 s1 : Nat, (t (12 + g) = 0 ∧ t (6 + g) = 0 ∧ (T (5 + 3 * g) ≠ 2 ∨ T (33 + t 0 % T 3) = 1) → K (nI (s0 ||| s1))) → (¬ (t (12 + g) = 0 ∧ t (6 + g) = 0 ∧ (T (5 + 3 * g) ≠ 2 ∨ T (33 + t 0 % T 3) = 1)) → K (nI 0)) → wX6_sightOf_60 (nI b) (nI g) (nI s0) (nI s1) m K := by
    intro s0 s1 k1 k2
    unfold wX6_sightOf_60
    rintro v rfl
    have e0 : (¬ (t (12 + g) = 0 ∧ t (6 + g) = 0 ∧ (T (5 + 3 * g) ≠ 2 ∨ T (33 + t 0 % T 3) = 1))) → wX6_sightOf_115 (nI s0 ||| nI s1) m K := fun e => ⟨fun _ => k2 e, fun q => absurd rfl q⟩
    have e1 : (t (12 + g) = 0 ∧ t (6 + g) = 0 ∧ (T (5 + 3 * g) ≠ 2 ∨ T (33 + t 0 % T 3) = 1)) → wX6_sightOf_111 (nI s0 ||| nI s1) m K := fun e => ⟨fun q => absurd q (by decide), fun _ => by rw [fa_or]; exact k1 e⟩
    refine m_isWhole h hg ?_
    rw [n0, b0]
    refine ⟨fun q => e0 (fun r => q r.1), fun q => ?_⟩
    rw [Decidable.not_not] at q
    rw [nI_add, nI_add, Nat.add_assoc, vin (by omega), m_st h (by omega), nI_eq (by omega) (by omega)]
    refine ⟨by omega, fun r => e0 (fun r2 => r r2.2.1), fun r => ?_⟩
    refine m_kind hT hg ?_
    rw [nI_eq (by omega) (by omega)]
    refine ⟨fun u => e1 ⟨q, r, Or.inl u⟩, fun u => ?_⟩
    rw [nI_add, vin (by omega), m_st h (by omega)]
    refine ⟨by omega, m_lightOf hT hS (by omega) ?_⟩
    rw [n1, nI_eq (by omega) (by omega)]
    exact ⟨fun u2 => e0 (fun r2 => r2.2.2.elim (fun z => z u) u2), fun u2 => e1 ⟨q, r, Or.inr u2⟩⟩
  have k0 : ∀ s0 s1 : Nat, (sight T t g = if t (12 + g) = 0 ∧ t (6 + g) = 0 ∧ (T (5 + 3 * g) ≠ 2 ∨ T (33 + t 0 % T 3) = 1) then s0 ||| s1 else 0) → wX6_sightOf_60 (nI b) (nI g) (nI s0) (nI s1) m K := by
    intro s0 s1 e
    refine h60 s0 s1 (fun q => ?_) (fun q => ?_)
    · rw [e, if_pos q] at k; exact k
    · rw [e, if_neg q] at k; exact k
  unfold wX6_sightOf_13
  refine lfp_seq (fun i => (nI (turn (T (5 + 3 * g + 2)) i), nI i)) 10 rfl ?_ ?_
  · intro i hi KL hKL
    refine ⟨fun q => absurd q (nI_ge hi (by omega)), fun _ v e => ?_⟩
    subst e
    show KL (_, _)
    rw [pk_sub (by omega), n1, bitI (by omega) (by omega), nI_add]
    have : nI (turn (T (5 + 3 * g + 2)) i) ||| ishl (nI (if (T (5 + 3 * g + 2)).testBit i then 1 else 0)) (nI (9 - i)) = nI (turn (T (5 + 3 * g + 2)) (i + 1)) := by
      show _ = nI (turn _ i ||| (if (T (5 + 3 * g + 2)).testBit i then 2 ^ (9 - i) else 0))
      split
      · rw [ishl1 (by omega), fa_or]
      · rw [ishln (by omega) (by omega), fa_or, Nat.zero_mul]
    rw [this]
    exact hKL
  · intro KL
    refine ⟨fun _ => m_kind hT hg ?_, fun q => absurd (nI_le (Nat.le_refl 10) (by omega)) q⟩
    rw [nI_eq (by omega) (by omega)]
    refine ⟨fun u => k0 _ 0 ?_, fun u => k0 _ _ ?_⟩
    · unfold sight; rw [if_neg u, Nat.or_zero]
    · unfold sight; rw [if_pos u]
