/-! the law's own end -/
def jRL (E : jE) (K : Int32 → GW → Prop) : Prop := (∀ v u, K v u → v = 1) ∧ E.1.2.2.2.1 = room_1 ∧ (∃ b : Nat, E.1.2.2.2.2.2.2.1 = #[Value.ref b]) ∧ E.2.1.2.2 = lw_Z E.1.2.2.2.2.2.2.2 E.1.2.2.2.2.2.2.1 E.1.2.2.2.2.1 ∧ E.2.2.2.1 = (fun q => E.1.2.2.2.2.1.heap.size ≤ q) ∧ E.2.1.1.sig.returnType = ret
theorem jl_iret {E : jE} {w : GW} {b : Nat × Nat} {L : List (Nat × Value)} {pc : Nat} (hE : jOk E cL_law RX0) {K : Int32 → GW → Prop} (hR : jRL E K) {v : Int32} (d : decode cL_law pc = .ok (.ireturn, 1)) (hn : narrow .boolean (.int v) = .int v) (hk : K v w) : J E w b L pc [.int v] := by
  intro H locs ls x y h1 h2 hP hS hl
  obtain ⟨⟨p, l, e, R, s, m, args, below⟩, ⟨meth, c, Q⟩, ⟨G, A, nL⟩⟩ := E
  obtain ⟨g1, g2, ⟨b0, g3⟩, g4, g5, g6⟩ := hR
  have hv := g1 v w hk
  simp only at g2 g3 g4 g5
  subst g2 g3 g4 g5 hv
  refine va_forget (fun q hq => hS.2.2 q hq) ?_
  have e1 : room_1.cells = 1200128 := rfl
  have e2 : room_1.slots = 5501098 := rfl
  refine W.widen (k := 1200128) (n := 5501098) ?_ ?_ (lw_ret hE.x hE.bc g6 hE.nl d)
  · have : x + b.1 ≤ room_1.cells := h1
    omega
  · have : y + b.2 ≤ room_1.slots := h2
    omega
theorem j_land {E : jE} {cc : ByteArray} {own : String} {w : GW} {b : Nat × Nat} {L : List (Nat × Value)} {pc : Nat} {st : List Value} (hE : jOk E cc own) {x y : Int64} (d : decode cc pc = .ok (.land, 1)) (k : J E w b L (pc + 1) (.long (x &&& y) :: st)) : J E w b L pc (.long y :: .long x :: st) :=
  fun H q ls _ _ h1 h2 hP hS hl => lv_land hE.x hE.bc d (k H q ls _ _ h1 h2 hP hS hl)
theorem j_lor {E : jE} {cc : ByteArray} {own : String} {w : GW} {b : Nat × Nat} {L : List (Nat × Value)} {pc : Nat} {st : List Value} (hE : jOk E cc own) {x y : Int64} (d : decode cc pc = .ok (.lor, 1)) (k : J E w b L (pc + 1) (.long (x ||| y) :: st)) : J E w b L pc (.long y :: .long x :: st) :=
  fun H q ls _ _ h1 h2 hP hS hl => lv_lor hE.x hE.bc d (k H q ls _ _ h1 h2 hP hS hl)
theorem kc_7 : Int32.ofInt 7 = nI 7 := by decide
