/-! small helpers of the printed walks -/
section HELP
variable {E : jE} {w : GW} {b : Nat × Nat} {L L' : List (Nat × Value)} {pc pc' : Nat} {st : List Value} {cc : ByteArray} {own : String}
theorem j_topi {x : Int32} (k : ∀ v : Int32, v = x → J E w b L pc (.int v :: st)) : J E w b L pc (.int x :: st) := k x rfl
theorem j_topl {x : Int64} (k : ∀ v : Int64, v = x → J E w b L pc (.long v :: st)) : J E w b L pc (.long x :: st) := k x rfl
theorem j_wm {ad : Nat → Nat} {m : MS} {r : GW} (k : ∀ m' : MS, m' = m → J E (mwX ad m' r) b L pc st) : J E (mwX ad m r) b L pc st := k m rfl
theorem jRoom.le {f lo f' lo' : Nat} (h : jRoom E f lo) (h1 : f' ≤ f) (h2 : lo' ≤ lo) : jRoom E f' lo' := ⟨Nat.le_trans h1 h.1, Nat.le_trans h2 h.2⟩
theorem j_lcmp (hE : jOk E cc own) {x y : Int64} (d : decode cc pc = .ok (.lcmp, 1)) (k : J E w b L (pc + 1) (.int (lg_cmp x y) :: st)) : J E w b L pc (.long y :: .long x :: st) :=
  fun H q ls _ _ h1 h2 hP hS hl => W.lcmp hE.x hE.bc d (k H q ls _ _ h1 h2 hP hS hl)
theorem tsw_out (x : Int32) (lo hi : Int) (h : ∀ k : Int, lo ≤ k → k ≤ hi → ¬ x.toInt = k) : x.toInt < lo ∨ hi < x.toInt := by
  by_cases h1 : x.toInt < lo
  · exact Or.inl h1
  · by_cases h2 : hi < x.toInt
    · exact Or.inr h2
    · exact absurd rfl (h x.toInt (by omega) (by omega))
theorem tsw_ne (x v : Int32) (k : Int) (h : v.toInt = k) (c : ¬ x = v) : ¬ x.toInt = k := fun e => c (Int32.toInt_inj.mp (e.trans h.symm))
theorem j_lks (hE : jOk E cc own) {dflt : Int} {ps : Array (Int × Int)} {len : Nat} {x : Int32} {off : Int} (pc' : Nat) (d : decode cc pc = .ok (.lookupswitch dflt ps, len)) (hp : (ps.toList.zip (ps.toList.drop 1)).all (fun (a, next) => a.1 < next.1) = true) (ho : Op.lookupswitch.offset ps.toList dflt x.toInt = off) (ht : (pc : Int) + off = (pc' : Int)) (k : J E w b L pc' st) : J E w b L pc (.int x :: st) :=
  fun H q ls _ _ g1 g2 hP hS hl => lv_lookup hE.x hE.bc d hp ho ht (k H q ls _ _ g1 g2 hP hS hl)
theorem lks_out (ps : List (Int × Int)) (dflt v : Int) (h : ∀ k ∈ ps.map (·.1), ¬ v = k) : Op.lookupswitch.offset ps dflt v = dflt := by
  induction ps with
  | nil => rfl
  | cons p r ih =>
    obtain ⟨a, o⟩ := p
    rw [Op.lookupswitch.offset_cons, if_neg (fun e => h a (by simp) e.symm)]
    exact ih (fun k hk => h k (List.mem_cons_of_mem _ hk))
end HELP
theorem plain_X6 : plainName RX6 = true := by decide +kernel
def RecP (l : Launch) (G : gG) (ad : Nat → Nat) (r : GW) (FT LT : Nat) (P : Int32 → MS → (MS → Prop) → Prop) : Prop := ∀ (d : Int32) (m : MS) (K : MS → Prop), P d m K → CtV l yX6_takePart cX6_takePart 4 ({ frames := FT, cells := 0, slots := 0, locals := LT }) G [.ref (ad 0), .int d] (mwX ad m r) (KMV ad r K)
