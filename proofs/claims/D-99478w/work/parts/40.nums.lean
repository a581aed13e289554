/-! L2: numbers. Small numbers as nI n, n : Nat; side goals by omega -/
theorem n0 : (0 : Int32) = nI 0 := rfl
theorem n1 : (1 : Int32) = nI 1 := rfl
theorem vin {n N : Nat} (hn : n < 2 ^ 31) : vp_in (nI n) N ↔ n < N := by
  constructor
  · intro h
    have h2 : ¬ N ≤ (nI n).toNatClampNeg := fun q => h (Or.inr q)
    rw [nI_clamp hn] at h2
    omega
  · intro h q
    rcases q with q | q
    · exact nI_pos hn q
    · rw [nI_clamp hn] at q; omega
theorem rdn {n : Nat} (hn : n < 2 ^ 31) (f : Nat → Int32) : rd f (nI n) = f n := by
  unfold rd; rw [nI_clamp hn]
theorem rdLn {n : Nat} (hn : n < 2 ^ 31) (f : Nat → Int64) : rdL f (nI n) = f n := by
  unfold rdL; rw [nI_clamp hn]
theorem nI_and31 {k : Nat} (h : k < 32) : nI k &&& 31 = nI k := by
  have : ∀ j : Fin 32, nI j.val &&& 31 = nI j.val := by decide +kernel
  exact this ⟨k, h⟩
theorem nI_sm {k : Nat} (h : k < 32) : ((nI k).toBitVec.smod 32).toNat = k := by
  have : ∀ j : Fin 32, ((nI j.val).toBitVec.smod 32).toNat = j.val := by decide +kernel
  exact this ⟨k, h⟩
theorem ishrn {n k : Nat} (hn : n < 2 ^ 31) (hk : k < 32) : ishr (nI n) (nI k) = nI (n / 2 ^ k) := by
  unfold ishr
  rw [nI_and31 hk, pk_shrN hn _ k (nI_sm hk)]
theorem ishln {n k : Nat} (hk : k < 32) (hn : n * 2 ^ k < 2 ^ 32) : ishl (nI n) (nI k) = nI (n * 2 ^ k) := by
  unfold ishl
  rw [nI_and31 hk, pk_shlN _ k (nI_sm hk) hn]
theorem ishl1 {k : Nat} (hk : k < 32) : ishl (nI 1) (nI k) = nI (2 ^ k) := by
  rw [ishln hk (by rw [Nat.one_mul]; exact Nat.pow_lt_pow_right (by decide) hk), Nat.one_mul]
/-- one bit of a set, as both classes ask -/
theorem bitI {n k : Nat} (hn : n < 2 ^ 31) (hk : k < 32) : ishr (nI n) (nI k) &&& nI 1 = nI (if n.testBit k then 1 else 0) := by
  rw [ishrn hn hk, fa_and]
  congr 1
  rw [show (1 : Nat) = 2 ^ 1 - 1 from rfl, Nat.and_two_pow_sub_one_eq_mod, Nat.testBit_eq_decide_div_mod_eq]
  by_cases h : n / 2 ^ k % 2 = 1
  · simp [h]
  · simp only [h, decide_false, Bool.false_eq_true, if_false]; omega
theorem b1 (c : Prop) [Decidable c] : (nI (if c then 1 else 0) = nI 1) ↔ c := by
  by_cases h : c
  · simp [h]
  · simp only [h, if_false, iff_false]; decide
theorem b0 (c : Prop) [Decidable c] : (nI (if c then 1 else 0) = nI 0) ↔ ¬ c := by
  by_cases h : c
  · simp only [h, if_true, not_true, iff_false]; decide
  · simp [h]
/-- a loop's value behind n steps -/
def fo {α : Type} (f : Nat → α → α) (a : α) : Nat → α
  | 0 => a
  | n + 1 => f n (fo f a n)
theorem fo_cong {α : Type} {f g : Nat → α → α} {a : α} : ∀ {n : Nat}, (∀ k x, k < n → f k x = g k x) → fo f a n = fo g a n
  | 0, _ => rfl
  | n + 1, h => by
    show f n (fo f a n) = g n (fo g a n)
    rw [fo_cong (fun k x hk => h k x (by omega)), h n _ (by omega)]
/-- a set out of a property -/
def orB (p : Nat → Bool) : Nat → Nat
  | 0 => 0
  | n + 1 => if p n then orB p n ||| 2 ^ n else orB p n
theorem orB_bit (p : Nat → Bool) : ∀ (n k : Nat), (orB p n).testBit k = (decide (k < n) && p k)
  | 0, k => by simp [orB]
  | n + 1, k => by
    unfold orB
    have ih := orB_bit p n k
    by_cases hp : p n = true
    · rw [if_pos hp, fb_bit_set, ih]
      by_cases hk : k = n
      · subst hk; simp [hp]
      · have : decide (k < n + 1) = decide (k < n) := by simp; omega
        rw [this]; simp [hk]
    · rw [if_neg hp, ih]
      by_cases hk : k = n
      · subst hk; simp [hp]
      · have : decide (k < n + 1) = decide (k < n) := by simp; omega
        rw [this]
theorem orB_lt (p : Nat → Bool) : ∀ n, orB p n < 2 ^ n
  | 0 => by simp [orB]
  | n + 1 => by
    have ih := orB_lt p n
    have h2 : (2 : Nat) ^ n < 2 ^ (n + 1) := Nat.pow_lt_pow_right (by decide) (by omega)
    unfold orB
    split
    · exact Nat.or_lt_two_pow (by omega) h2
    · omega
theorem orB_cong {p q : Nat → Bool} : ∀ {n : Nat}, (∀ k, k < n → p k = q k) → orB p n = orB q n
  | 0, _ => rfl
  | n + 1, h => by
    show (if p n then _ else _) = (if q n then _ else _)
    rw [orB_cong (fun k hk => h k (by omega)), h n (by omega)]
theorem orB_z {p : Nat → Bool} : ∀ {n : Nat}, orB p n = 0 ↔ ∀ k, k < n → p k = false := by
  intro n
  constructor
  · intro h k hk
    have h1 := orB_bit p n k
    rw [h] at h1
    simp [hk] at h1
    exact h1
  · intro h
    have : orB p n = orB (fun _ => false) n := orB_cong h
    rw [this]
    clear this h
    induction n with
    | zero => rfl
    | succ n ih => simp [orB, ih]
