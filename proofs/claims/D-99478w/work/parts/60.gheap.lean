/-! L2, the game's side: a ghost heap (bk: index to address, cs: index to content) under the world -/
def Ext (bk : Nat → Nat) (cs : Nat → Option gC) (w : GW) : Prop := (∀ i j e e', cs i = some e → cs j = some e' → bk i = bk j → i = j) ∧ ∀ i e, cs i = some e → w (bk i) = some (true, e)
theorem g_fd {bk : Nat → Nat} {cs : Nat → Option gC} {w : GW} (hx : Ext bk cs w) {i ci k : Nat} {fs : List Value} {L : List Nat} {v : Value} (hi : cs i = some (.inr (ci, fs))) (hc : ci ∈ L) (hv : fs[k]? = some v) : gfm w (bk i) L k = some v := by
  unfold gfm
  rw [hx.2 i _ hi]
  simp only [hc, if_true]
  exact hv
theorem g_mc {bk : Nat → Nat} {cs : Nat → Option gC} {w : GW} (hx : Ext bk cs w) {i ci : Nat} {fs : List Value} (hi : cs i = some (.inr (ci, fs))) : gmc w (bk i) = some ci := by
  unfold gmc
  rw [hx.2 i _ hi]
theorem g_ai {bk : Nat → Nat} {cs : Nat → Option gC} {w : GW} (hx : Ext bk cs w) {i t n : Nat} {f : Nat → Int32} (hi : cs i = some (.inl (t, n, .inl f))) : gai w (bk i) t = some (n, f) := by
  unfold gai
  rw [hx.2 i _ hi]
  simp
theorem g_aq {bk : Nat → Nat} {cs : Nat → Option gC} {w : GW} (hx : Ext bk cs w) {i t n : Nat} {f : Nat → Option Nat} (hi : cs i = some (.inl (t, n, .inr (.inr (.inr (.inr f)))))) : gaq w (bk i) t = some (n, f) := by
  unfold gaq
  rw [hx.2 i _ hi]
  simp
def setC (cs : Nat → Option gC) (i : Nat) (e : gC) : Nat → Option gC := fun j => if j = i then some e else cs j
/-- a write -/
theorem Ext.put {bk : Nat → Nat} {cs : Nat → Option gC} {w : GW} (hx : Ext bk cs w) {i : Nat} {e0 : gC} (hi : cs i = some e0) (e : gC) : Ext bk (setC cs i e) (gup w (bk i) e) := by
  refine ⟨fun a b x y ha hb hab => ?_, fun a x ha => ?_⟩
  · have h1 : ∃ z, cs a = some z := by
      unfold setC at ha
      split at ha
      · rename_i h; subst h; exact ⟨_, hi⟩
      · exact ⟨_, ha⟩
    have h2 : ∃ z, cs b = some z := by
      unfold setC at hb
      split at hb
      · rename_i h; subst h; exact ⟨_, hi⟩
      · exact ⟨_, hb⟩
    obtain ⟨z1, h1⟩ := h1
    obtain ⟨z2, h2⟩ := h2
    exact hx.1 a b z1 z2 h1 h2 hab
  · unfold setC at ha
    unfold gup
    by_cases h : a = i
    · subst h
      rw [if_pos rfl] at ha
      rw [if_pos rfl]
      cases ha; rfl
    · rw [if_neg h] at ha
      rw [if_neg (fun q => h (hx.1 a i x e0 ha hi q))]
      exact hx.2 a x ha
/-- a new cell at a free address takes a free index -/
theorem Ext.new {bk : Nat → Nat} {cs : Nat → Option gC} {w : GW} (hx : Ext bk cs w) {i a : Nat} (hi : cs i = none) (ha : w a = none) (e : gC) : Ext (fun j => if j = i then a else bk j) (setC cs i e) (gup w a e) := by
  have hne : ∀ j x, cs j = some x → bk j ≠ a := fun j x hj q => by
    have := hx.2 j x hj
    rw [q, ha] at this
    cases this
  refine ⟨fun p q x y hp hq hpq => ?_, fun p x hp => ?_⟩
  · unfold setC at hp hq
    by_cases h1 : p = i <;> by_cases h2 : q = i
    · rw [h1, h2]
    · rw [if_neg h2] at hq
      simp only [h1, if_true, h2, if_false] at hpq
      exact absurd hpq.symm (hne q y hq)
    · rw [if_neg h1] at hp
      simp only [h2, if_true, h1, if_false] at hpq
      exact absurd hpq (hne p x hp)
    · rw [if_neg h1] at hp
      rw [if_neg h2] at hq
      simp only [h1, h2, if_false] at hpq
      exact hx.1 p q x y hp hq hpq
  · unfold setC at hp
    unfold gup
    by_cases h : p = i
    · rw [if_pos h] at hp
      simp only [h, if_true]
      cases hp; rfl
    · rw [if_neg h] at hp
      simp only [h, if_false]
      rw [if_neg (hne p x hp)]
      exact hx.2 p x hp
/-- the marks of a pane, a state, the houses, by their first index -/
def MkAt (bk : Nat → Nat) (cs : Nat → Option gC) (j : Nat) (t : Nat → Nat) (k : Nat) : Prop := ∃ f0 f1 f2 f3 : Nat → Int32, cs j = some (.inr (4, [.ref (bk (j + 1)), .ref (bk (j + 2)), .ref (bk (j + 3)), .ref (bk (j + 4)), .int (nI (t (18 + k)))])) ∧ cs (j + 1) = some (.inl (0, 6, .inl f0)) ∧ cs (j + 2) = some (.inl (0, 6, .inl f1)) ∧ cs (j + 3) = some (.inl (0, 6, .inl f2)) ∧ cs (j + 4) = some (.inl (0, 6, .inl f3)) ∧ ∀ i, i < t (18 + k) → f0 i = nI (who (t (24 + 6 * k + i))) ∧ f1 i = nI (deed (t (24 + 6 * k + i))) ∧ f2 i = nI (cell (t (24 + 6 * k + i))) ∧ f3 i = nI (age (t (24 + 6 * k + i)))
def drawnM (t : Nat → Nat) : Nat := orB (fun k => decide (t (6 + k) ≠ 0)) 6
def goneM (t : Nat → Nat) : Nat := orB (fun k => decide (t (12 + k) ≠ 0)) 6
def StAt (bk : Nat → Nat) (cs : Nat → Option gC) (j : Nat) (t : Nat → Nat) : Prop := ∃ (f : Nat → Int32) (g : Nat → Option Nat), cs j = some (.inr (3, [.ref (bk (j + 1)), .ref (bk (j + 2)), .int (nI (t 0)), .int (nI (drawnM t)), .int (nI (goneM t))])) ∧ cs (j + 1) = some (.inl (0, 5, .inl f)) ∧ (∀ p, p < 5 → f p = nI (t (1 + p))) ∧ cs (j + 2) = some (.inl (5, 6, .inr (.inr (.inr (.inr g))))) ∧ (∀ k, k < 6 → g k = some (bk (j + 3 + 5 * k))) ∧ ∀ k, k < 6 → MkAt bk cs (j + 3 + 5 * k) t k
/-- an ArrayList at j, its array at j2: n elements g -/
def LiAt (bk : Nat → Nat) (cs : Nat → Option gC) (j j2 n : Nat) (g : Nat → Option Nat) : Prop := ∃ (mc : Int32) (L : Nat), n ≤ L ∧ cs j = some (.inr (20, [.int mc, .ref (bk j2), .int (nI n)])) ∧ cs j2 = some (.inl (4, L, .inr (.inr (.inr (.inr g)))))
def HsAt (bk : Nat → Nat) (cs : Nat → Option gC) (j : Nat) (T : Nat → Nat) (fades : Option Nat) : Prop := ∃ (many : Nat) (fa fh fl : Nat → Int32) (gp gq gd : Nat → Option Nat), cs j = some (.inr (2, [.ref (bk (j + 1)), .ref (bk (j + 2)), .ref (bk (j + 3)), .ref (bk (j + 7)), .ref (bk (j + 8)), .ref (bk (j + 9)), .int (nI many), va_rf fades])) ∧ LiAt bk cs (j + 1) (j + 4) (T 0) gp ∧ LiAt bk cs (j + 2) (j + 5) (T 1) gq ∧ LiAt bk cs (j + 3) (j + 6) (T 2) gd ∧ cs (j + 7) = some (.inl (0, 5, .inl fa)) ∧ cs (j + 8) = some (.inl (0, 5, .inl fh)) ∧ cs (j + 9) = some (.inl (0, 12, .inl fl)) ∧ (∀ k, k < T 0 → gp k = some (bk (j + 10 + k)) ∧ ∃ nm : Nat, cs (j + 10 + k) = some (.inr (7 + T (5 + 3 * k), [.ref nm, .int (nI (T (5 + 3 * k + 1))), .int (nI (T (5 + 3 * k + 2)))]))) ∧ (∀ p, p < T 1 → fa p = nI (T (23 + p))) ∧ (∀ d, d < T 2 → fh d = nI (T (28 + d))) ∧ ((many = 0 ∧ T 3 = 1 ∧ T 33 = 1) ∨ (many = T 3 ∧ ∀ h, h < T 3 → fl h = nI (T (33 + h))))
/-- GlassStreet itself at index 0, its houses at jh -/
def GxAt (bk : Nat → Nat) (cs : Nat → Option gC) (jh : Nat) : Prop := ∃ v7 v9 v11 v12 v13 : Value, cs 0 = some (.inr (0, [.ref (bk 1), .ref (bk 2), .ref (bk jh), .ref (bk 8), .ref (bk 100), .ref (bk 140), .ref (bk 3), v7, .ref (bk 5), v9, .ref (bk 4), v11, v12, v13, .ref (bk 6)]))
theorem goneM_bit {t : Nat → Nat} {k : Nat} (hk : k < 6) : (goneM t).testBit k = decide (t (12 + k) ≠ 0) := by
  unfold goneM; rw [orB_bit]; simp [hk]
theorem drawnM_bit {t : Nat → Nat} {k : Nat} (hk : k < 6) : (drawnM t).testBit k = decide (t (6 + k) ≠ 0) := by
  unfold drawnM; rw [orB_bit]; simp [hk]
theorem g_isIn {c : Nat → Option Nat} {w : GW} {n k : Nat} (hn : n < 2 ^ 31) (hk : k < 32) {K : Int32 → Prop} (h : K (nI (if n.testBit k then 1 else 0))) : wX1_isIn c (nI n) (nI k) w K := by
  unfold wX1_isIn wX1_isIn_0
  rw [n1, bitI hn hk, b1]
  refine ⟨fun q => ?_, fun q => ?_⟩
  · rw [if_neg q] at h; exact h
  · rw [if_pos q] at h; exact h
theorem goneM_lt (t : Nat → Nat) : goneM t < 64 := orB_lt _ 6
theorem drawnM_lt (t : Nat → Nat) : drawnM t < 64 := orB_lt _ 6
theorem g_isWhole {bk : Nat → Nat} {cs : Nat → Option gC} {w : GW} (hx : Ext bk cs w) {j : Nat} {t : Nat → Nat} (hS : StAt bk cs j t) {c : Nat → Option Nat} {k : Nat} (hk : k < 6) {K : Int32 → Prop} (h : K (nI (if t (12 + k) = 0 then 1 else 0))) : wX4_isWhole c (bk j) (nI k) w K := by
  obtain ⟨f, g, h1, -⟩ := hS
  have := goneM_lt t
  unfold wX4_isWhole wX4_isWhole_0
  refine ⟨_, g_fd hx h1 (by simp) rfl, g_isIn (by omega) (by omega) ?_⟩
  rw [goneM_bit hk, n0, b0, Decidable.not_not]
  refine ⟨fun q => ?_, fun q => ?_⟩
  · rw [if_neg (by simpa using q)] at h; exact h
  · rw [if_pos (by simpa using q)] at h; exact h
