/-! THE MODEL'S CELLS, typed: int fields (0 thrown 1 taped 2 size 3 at 4 fault 5 codes 6 namesMany 7 readMany 8 once 9 undos 10 isUnseen 11 drawnDeeds 12 drawnUnseen), int arrays (0 tape 1 sort 2 place 3 streets 4 op 5 arg 6 nameOf 7 readNameOf 8 lines 9 facts 10 pile 11 state 12 isNotched), long arrays (0 value 1 words 2 names 3 readNames), g0 -/
abbrev MS : Type := (Nat → Int32) × (Nat → Nat → Int32) × (Nat → Nat → Int64) × Int64
def gF (m : MS) (k : Nat) : Int32 := m.1 k
def gA (m : MS) (a : Nat) : Nat → Int32 := m.2.1 a
def gL (m : MS) (a : Nat) : Nat → Int64 := m.2.2.1 a
def g0 (m : MS) : Int64 := m.2.2.2
def sF (m : MS) (k : Nat) (x : Int32) : MS := (fun j => if j = k then x else m.1 j, m.2)
def sA (m : MS) (a i : Nat) (x : Int32) : MS := (m.1, fun j => if j = a then upd (m.2.1 j) i x else m.2.1 j, m.2.2)
def sL (m : MS) (a i : Nat) (x : Int64) : MS := (m.1, m.2.1, fun j => if j = a then vp_updL (m.2.2.1 j) i x else m.2.2.1 j, m.2.2.2)
def s0 (m : MS) (x : Int64) : MS := (m.1, m.2.1, m.2.2.1, x)
def rd (f : Nat → Int32) (x : Int32) : Int32 := f x.toNatClampNeg
def rdL (f : Nat → Int64) (x : Int32) : Int64 := f x.toNatClampNeg
def wA (m : MS) (a : Nat) (i x : Int32) : MS := sA m a i.toNatClampNeg x
def wL (m : MS) (a : Nat) (i : Int32) (x : Int64) : MS := sL m a i.toNatClampNeg x
def mflds (ad : Nat → Nat) (m : MS) : List Value := [.int (gF m 0), .ref (ad 1), .int (gF m 1), .int (gF m 2), .ref (ad 2), .ref (ad 3), .ref (ad 14), .int (gF m 3), .int (gF m 4), .ref (ad 15), .ref (ad 4), .ref (ad 5), .ref (ad 6), .int (gF m 5), .ref (ad 16), .ref (ad 17), .ref (ad 7), .ref (ad 8), .int (gF m 6), .int (gF m 7), .int (gF m 8), .ref (ad 9), .ref (ad 10), .ref (ad 11), .ref (ad 12), .int (gF m 9), .ref (ad 13), .int (gF m 10), .long (g0 m), .int (gF m 11), .int (gF m 12)]
def mcell (ad : Nat → Nat) (m : MS) (i : Nat) : gC := match i with
  | 0 => .inr (5, mflds ad m)
  | 1 => .inl (0, 1000, .inl (gA m 0))
  | 2 => .inl (0, 1002, .inl (gA m 1))
  | 3 => .inl (0, 1002, .inl (gA m 2))
  | 4 => .inl (0, 120, .inl (gA m 3))
  | 5 => .inl (0, 2200, .inl (gA m 4))
  | 6 => .inl (0, 2200, .inl (gA m 5))
  | 7 => .inl (0, 16, .inl (gA m 6))
  | 8 => .inl (0, 16, .inl (gA m 7))
  | 9 => .inl (0, 250, .inl (gA m 8))
  | 10 => .inl (0, 4, .inl (gA m 9))
  | 11 => .inl (0, 1100, .inl (gA m 10))
  | 12 => .inl (0, 1518, .inl (gA m 11))
  | 13 => .inl (3, 4, .inl (gA m 12))
  | 14 => .inl (2, 1002, .inr (.inl (gL m 0)))
  | 15 => .inl (2, 26, .inr (.inl (gL m 1)))
  | 16 => .inl (2, 16, .inr (.inl (gL m 2)))
  | _ => .inl (2, 16, .inr (.inl (gL m 3)))
def adOk (ad : Nat → Nat) : Prop := ∀ i j : Nat, i < 18 → j < 18 → ad i = ad j → i = j
def mwX (ad : Nat → Nat) (m : MS) (r : GW) : GW := fun a => match (List.range 18).find? (fun i => ad i == a) with
  | some i => some (true, mcell ad m i)
  | none => r a
theorem mwX_at {ad : Nat → Nat} (h : adOk ad) (m : MS) (r : GW) {i : Nat} (hi : i < 18) : mwX ad m r (ad i) = some (true, mcell ad m i) := by
  unfold mwX
  cases hf : (List.range 18).find? (fun j => ad j == ad i) with
  | none =>
    have := List.find?_eq_none.mp hf i (List.mem_range.mpr hi)
    simp at this
  | some j =>
    have h1 := List.find?_some hf
    have h2 := List.mem_range.mp (List.mem_of_find?_eq_some hf)
    have : j = i := h j i h2 hi (by simpa using h1)
    rw [this]
theorem mwX_up {ad : Nat → Nat} (h : adOk ad) {m m' : MS} {r : GW} {i : Nat} {e : gC} (hi : i < 18) (he : mcell ad m' i = e) (ho : ∀ j, j < 18 → j ≠ i → mcell ad m' j = mcell ad m j) : gup (mwX ad m r) (ad i) e = mwX ad m' r := by
  funext a
  unfold gup
  by_cases ha : a = ad i
  · subst ha
    rw [if_pos rfl, mwX_at h m' r hi, he]
  · rw [if_neg ha]
    unfold mwX
    cases hf : (List.range 18).find? (fun j => ad j == a) with
    | none => rfl
    | some j =>
      have h1 := List.find?_some hf
      have h2 := List.mem_range.mp (List.mem_of_find?_eq_some hf)
      have : j ≠ i := fun z => ha (by rw [← z]; simpa using (Eq.symm (by simpa using h1)))
      show some (true, mcell ad m j) = some (true, mcell ad m' j)
      rw [ho j h2 this]
theorem mc_f {ad : Nat → Nat} {m m' : MS} (h : m'.2.1 = m.2.1) (h2 : m'.2.2.1 = m.2.2.1) : ∀ j, j < 18 → j ≠ 0 → mcell ad m' j = mcell ad m j := by
  intro j hj h0
  have e : ∀ k, gA m' k = gA m k := fun k => by unfold gA; rw [h]
  have e2 : ∀ k, gL m' k = gL m k := fun k => by unfold gL; rw [h2]
  unfold mcell
  split <;> first | (exact absurd rfl h0) | (simp only [e, e2])
theorem mc_flds {ad : Nat → Nat} {m m' : MS} (h : m'.1 = m.1) (h2 : m'.2.2.2 = m.2.2.2) : mflds ad m' = mflds ad m := by
  unfold mflds gF g0
  rw [h, h2]
theorem mc_a {ad : Nat → Nat} {m : MS} (i k : Nat) (x : Int32) (hi : i < 13) : ∀ j, j < 18 → j ≠ i + 1 → mcell ad (sA m i k x) j = mcell ad m j := by
  intro j hj hn
  have e : ∀ a, a ≠ i → gA (sA m i k x) a = gA m a := fun a ha => by simp [gA, sA, ha]
  have e2 : ∀ a, gL (sA m i k x) a = gL m a := fun a => rfl
  have e3 : mflds ad (sA m i k x) = mflds ad m := mc_flds rfl rfl
  unfold mcell
  split <;> first | (rw [e3]) | (rw [e _ (by omega)]) | (rw [e _ (by intro hz; subst hz; simp only [imp_false] at *; omega)]) | rfl
theorem mc_l {ad : Nat → Nat} {m : MS} (i k : Nat) (x : Int64) (hi : i < 4) : ∀ j, j < 18 → j ≠ i + 14 → mcell ad (sL m i k x) j = mcell ad m j := by
  intro j hj hn
  have e : ∀ a, a ≠ i → gL (sL m i k x) a = gL m a := fun a ha => by simp [gL, sL, ha]
  have e3 : mflds ad (sL m i k x) = mflds ad m := mc_flds rfl rfl
  unfold mcell
  split <;> first | (rw [e3]) | (rw [e _ (by omega)]) | (rw [e _ (by intro hz; subst hz; simp only [imp_false] at *; omega)]) | rfl
theorem ms_F (ad : Nat → Nat) (m : MS) (f k : Nat) (x : Int32) (h : (mflds ad m).set f (.int x) = mflds ad (sF m k x)) : True := trivial
section MROWS
variable {E : jE} {w : GW} {b : Nat × Nat} {L L' : List (Nat × Value)} {pc pc' : Nat} {st : List Value} {cc : ByteArray}
/-- generic: a field read -/
theorem j_get {own : String} (hE : jOk E cc own) {ref C : String} {T : u_T} {N ci index a : Nat} {fs : List Value} (hin : ∀ w ∈ u_ws C T N, w ∈ lw_all) (hc : gCl[ci]? = some (C, T, N)) (k : Nat) (hk : k < N) (hq : Cond.fieldLink own index ref (T k).2.1 (T k).2.2.1 ∈ lw_all) (hr : (T k).1 = ref) (he : w a = some (true, .inr (ci, fs))) {v : Value} (hv : fs[k]? = some v) (d : decode cc pc = .ok (.getfield index, 3))
    (kk : J E w b L (pc + 3) (v :: st)) : J E w b L pc (.ref a :: st) :=
  fun H q ls _ _ h1 h2 hP hS hl => va_get (C := C) (T := T) (N := N) (ref := ref) hE.x hE.bc hE.ts hin hE.ow hE.K (hP.one he) 0 rfl hc k hk (hE.ts _ hq) (fun _ h9 => by rw [← hr]; exact h9) hv d (kk H q ls _ _ h1 h2 hP hS hl)
theorem j_put {own : String} (hE : jOk E cc own) {ref C : String} {T : u_T} {N ci index a : Nat} {fs : List Value} (ty : Nat → FieldType) (hin : ∀ w ∈ u_ws C T N, w ∈ lw_all) (hty : ∀ k, k < N → parseFieldDescriptor (T k).2.2.1 = some (ty k)) (hnm : ∀ a, a < N → ∀ b, b < N → a ≠ b → (T a).2.1 ≠ (T b).2.1) (hc : gCl[ci]? = some (C, T, N)) (k : Nat) (hk : k < N) (hq : Cond.fieldLink own index ref (T k).2.1 (T k).2.2.1 ∈ lw_all) (hr : (T k).1 = ref) (hfin : (T k).2.2.2 = false) (he : w a = some (true, .inr (ci, fs))) {v : Value} (hn : narrow (ty k) v = v) (hfit : fits (ty k) v = true) (hl0 : k < fs.length) (d : decode cc pc = .ok (.putfield index, 3))
    (kk : J E (gup w a (.inr (ci, fs.set k v))) b L (pc + 3) st) : J E w b L pc (v :: .ref a :: st) := by
  intro H q ls _ _ h1 h2 hP hS hl
  have hap := va_apart (own := own) hE.ts hin ty hty hnm hE.K hc
  obtain ⟨hat, hA⟩ := (hP a true _ he).1 rfl
  obtain ⟨r, h1', cell, q1, q2, q3, q4⟩ := hat
  have hr2 : r = (C, T, N) := Option.some.inj (h1'.symm.trans hc)
  subst hr2
  obtain ⟨hSl, hfc, kC, hkC, hkind⟩ := hE.K.1 ci _ hc
  obtain ⟨cf, kf, fi, f, hi, hsl⟩ := hSl k hk
  have hlay := hE.ts _ (hin _ (u_in_lay hk))
  unfold u_lay at hlay
  rw [if_neg (by rw [hfin]; decide)] at hlay
  have hst := (u_facts hfc hkC (u_lays hE.ts hin hk) hi).1
  have h6 := u_store hfc hkC hkind hlay hi (hty k hk) hn hfit
  refine W.putK hE.x hE.bc (f := f) ⟨hE.ow, hE.ts _ hq, ⟨_, _, _, by rw [← hr]; exact hi⟩, hst⟩ (by rw [q2]; exact h6) q1 q3 (by rw [hsl]; exact k2_hasslot (q4 k hk)) rfl rfl d fun H' e1 e2 e3 => ?_
  rw [hsl] at e1 ⊢
  exact kk H' _ ls _ _ h1 h2 (hP.put hA ⟨_, hc, t_OB.to (V := updV (vp_V fs) k v) ⟨_, e1, q2, q3, t_set q4 hap hk v⟩ (fun j _ => vp_updV_set hl0 v j)⟩ e2 e3) (hS.put e2 e3 hA) hl
theorem j_iald {own : String} (hE : jOk E cc own) {a n : Nat} {f : Nat → Int32} {i : Int32} (he : w a = some (true, .inl (0, n, .inl f))) (hin : vp_in i n) (d : decode cc pc = .ok (.iaload, 1)) (kk : J E w b L (pc + 1) (.int (rd f i) :: st)) : J E w b L pc (.int i :: .ref a :: st) :=
  fun H q ls _ _ h1 h2 hP hS hl => va_iald hE.x hE.bc hE.K (hP.one he) 0 0 rfl rfl hin d (kk H q ls _ _ h1 h2 hP hS hl)
theorem j_bald {own : String} (hE : jOk E cc own) {a n : Nat} {f : Nat → Int32} {i : Int32} (he : w a = some (true, .inl (1, n, .inl f))) (hin : vp_in i n) (d : decode cc pc = .ok (.baload, 1)) (kk : J E w b L (pc + 1) (.int (rd f i) :: st)) : J E w b L pc (.int i :: .ref a :: st) :=
  fun H q ls _ _ h1 h2 hP hS hl => va_bald hE.x hE.bc hE.K (hP.one he) 0 1 rfl rfl hin d (kk H q ls _ _ h1 h2 hP hS hl)
theorem j_zald {own : String} (hE : jOk E cc own) {a n : Nat} {f : Nat → Int32} {i : Int32} (he : w a = some (true, .inl (3, n, .inl f))) (hin : vp_in i n) (d : decode cc pc = .ok (.baload, 1)) (kk : J E w b L (pc + 1) (.int (rd f i) :: st)) : J E w b L pc (.int i :: .ref a :: st) :=
  fun H q ls _ _ h1 h2 hP hS hl => va_zald hE.x hE.bc hE.K (hP.one he) 0 3 rfl rfl hin d (kk H q ls _ _ h1 h2 hP hS hl)
theorem j_lald {own : String} (hE : jOk E cc own) {a n : Nat} {f : Nat → Int64} {i : Int32} (he : w a = some (true, .inl (2, n, .inr (.inl f)))) (hin : vp_in i n) (d : decode cc pc = .ok (.laload, 1)) (kk : J E w b L (pc + 1) (.long (rdL f i) :: st)) : J E w b L pc (.int i :: .ref a :: st) :=
  fun H q ls _ _ h1 h2 hP hS hl => va_lald hE.x hE.bc hE.K (hP.one he) 0 2 rfl rfl hin d (kk H q ls _ _ h1 h2 hP hS hl)
theorem j_iast {own : String} (hE : jOk E cc own) {a n : Nat} {f : Nat → Int32} {i x : Int32} (he : w a = some (true, .inl (0, n, .inl f))) (hin : vp_in i n) (d : decode cc pc = .ok (.iastore, 1)) (kk : J E (gup w a (.inl (0, n, .inl (upd f i.toNatClampNeg x)))) b L (pc + 1) st) : J E w b L pc (.int x :: .int i :: .ref a :: st) := by
  intro H q ls _ _ h1 h2 hP hS hl
  obtain ⟨hat, hA⟩ := (hP a true _ he).1 rfl
  refine W.iast hE.x hE.bc hat ((hE.K.2 0 _ rfl).1 n (fun j => .int (f j))) (fun q => by cases q) (by show ¬ (i < 0 ∨ (arrV _ _ _).slots.size ≤ _); rw [arrV_size]; exact hin) rfl rfl d fun H1 e z oq => ?_
  refine kk H1 _ ls _ _ h1 h2 (hP.put hA ?_ z oq) (hS.put z oq hA) hl
  show H1[a]? = some (vp_cell _ _)
  rw [e]
  show some (Cell.setSlot (vp_cell _ _) _ _) = _
  rw [vp_cell_i, vp_cell_i, arrV_store]
  congr 2
  funext q
  by_cases hq : q = i.toNatClampNeg
  · subst hq
    simp [updV, upd]
  · simp [updV, upd, hq]
theorem j_zast {own : String} (hE : jOk E cc own) {a n : Nat} {f : Nat → Int32} {i x : Int32} (he : w a = some (true, .inl (3, n, .inl f))) (hin : vp_in i n) (hx : vp_nar .boolean x = x) (d : decode cc pc = .ok (.bastore, 1)) (kk : J E (gup w a (.inl (3, n, .inl (upd f i.toNatClampNeg x)))) b L (pc + 1) st) : J E w b L pc (.int x :: .int i :: .ref a :: st) := by
  intro H q ls _ _ h1 h2 hP hS hl
  obtain ⟨hat, hA⟩ := (hP a true _ he).1 rfl
  refine W.zast hE.x hE.bc hat ((hE.K.2 3 _ rfl).1 n (fun j => .int (f j))) (fun q => by cases q) (by show ¬ (i < 0 ∨ (arrV _ _ _).slots.size ≤ _); rw [arrV_size]; exact hin) rfl rfl d fun H1 e z oq => ?_
  refine kk H1 _ ls _ _ h1 h2 (hP.put hA ?_ z oq) (hS.put z oq hA) hl
  show H1[a]? = some (vp_cell _ _)
  rw [e]
  show some (Cell.setSlot (vp_cell _ _) _ _) = _
  rw [vp_cell_i, vp_cell_i, arrV_store]
  congr 2
  funext q
  by_cases hq : q = i.toNatClampNeg
  · subst hq
    conv => rhs; rw [← hx]
    simp [updV, upd, vp_nar]
    try rfl
  · simp [updV, upd, hq]
theorem j_bast {own : String} (hE : jOk E cc own) {a n : Nat} {f : Nat → Int32} {i x : Int32} (he : w a = some (true, .inl (1, n, .inl f))) (hin : vp_in i n) (d : decode cc pc = .ok (.bastore, 1)) (kk : J E (gup w a (.inl (1, n, .inl (upd f i.toNatClampNeg (vp_nar .byte x))))) b L (pc + 1) st) : J E w b L pc (.int x :: .int i :: .ref a :: st) := by
  intro H q ls _ _ h1 h2 hP hS hl
  obtain ⟨hat, hA⟩ := (hP a true _ he).1 rfl
  refine W.bast hE.x hE.bc hat ((hE.K.2 1 _ rfl).1 n (fun j => .int (f j))) (fun q => by cases q) (by show ¬ (i < 0 ∨ (arrV _ _ _).slots.size ≤ _); rw [arrV_size]; exact hin) rfl rfl d fun H1 e z oq => ?_
  refine kk H1 _ ls _ _ h1 h2 (hP.put hA ?_ z oq) (hS.put z oq hA) hl
  show H1[a]? = some (vp_cell _ _)
  rw [e]
  show some (Cell.setSlot (vp_cell _ _) _ _) = _
  rw [vp_cell_i, vp_cell_i, arrV_store]
  congr 2
  funext q
  by_cases hq : q = i.toNatClampNeg
  · subst hq
    simp [updV, upd, vp_nar]
    try rfl
  · simp [updV, upd, hq]
theorem j_last {own : String} (hE : jOk E cc own) {a n : Nat} {f : Nat → Int64} {i : Int32} {x : Int64} (he : w a = some (true, .inl (2, n, .inr (.inl f)))) (hin : vp_in i n) (d : decode cc pc = .ok (.lastore, 1)) (kk : J E (gup w a (.inl (2, n, .inr (.inl (vp_updL f i.toNatClampNeg x))))) b L (pc + 1) st) : J E w b L pc (.long x :: .int i :: .ref a :: st) := by
  intro H q ls _ _ h1 h2 hP hS hl
  obtain ⟨hat, hA⟩ := (hP a true _ he).1 rfl
  refine W.last hE.x hE.bc hat ((hE.K.2 2 _ rfl).1 n (fun j => .long (f j))) (fun q => by cases q) (by show ¬ (i < 0 ∨ (arrV _ _ _).slots.size ≤ _); rw [arrV_size]; exact hin) rfl rfl d fun H1 e z oq => ?_
  refine kk H1 _ ls _ _ h1 h2 (hP.put hA ?_ z oq) (hS.put z oq hA) hl
  show H1[a]? = some (vp_cell _ _)
  rw [e]
  show some (Cell.setSlot (vp_cell _ _) _ _) = _
  rw [vp_cell_l, vp_cell_l, arrV_store]
  congr 2
  funext q
  by_cases hq : q = i.toNatClampNeg
  · subst hq
    simp [updV, vp_updL]
  · simp [updV, vp_updL, hq]
end MROWS
