/-! throw new NoSuchElementException() of the game -/
abbrev nsN : String := "java/util/NoSuchElementException"
def nsL : List Cond := vy_at0 "GlassStreet" 3 nsN ["java/lang/RuntimeException", "java/lang/Exception"]
theorem ns_a : (nsL.filter goodWord).all (fun w => decide (w ∈ lw_all)) = true := by decide +kernel
theorem ns_b : (nsL.filter (fun w => !goodWord w)).all (fun w => decide (w ∈ lw_tbl) && gNk w) = true := by decide +kernel
theorem ns_g : (Cond.classLink "GlassStreet" 1 nsN :: Cond.initialized nsN :: nsL).all vy_ot = true := by decide +kernel
theorem ns_f : ["java/lang/RuntimeException", "java/lang/Exception"].all Bundle.fit = true := by decide +kernel
theorem ns_f1 : Bundle.fit nsN = true := by decide +kernel
theorem jx_throw0 {E : jE} {w : GW} {b : Nat × Nat} {L : List (Nat × Value)} {pc : Nat} {cc : ByteArray} (hE : jOk E cc "GlassStreet") (hl : E.1.2.1.stackTraces = false) {KX : String → Nat → GW → Prop} {Qc : Array Value → State → Outcome → State → Prop} (hX : jXQ E Qc KX) (hN : jNoH E) {f lo : Nat} (hR : jRoom E f lo) (hf : 6 ≤ f) (hlo : 81 ≤ lo) (hq1 : Cond.classLink "GlassStreet" 1 nsN ∈ lw_all) (hq2 : Cond.initialized nsN ∈ lw_all) (hb : 1 ≤ b.1 ∧ 6 ≤ b.2) (d0 : decode cc pc = .ok (.new 1, 3)) (d3 : decode cc (pc + 3) = .ok (.dup, 1)) (d4 : decode cc (pc + 4) = .ok (.invokespecial 3, 3)) (d7 : decode cc (pc + 7) = .ok (.athrow, 1)) (hk : ∀ q9 : Nat, KX nsN q9 w) : J E w b L pc [] := by
  intro H locs ls x y h1 h2 hP hS hls
  rw [hX]
  refine vy_throw0 (own := "GlassStreet") (cls := nsN) (names := ["java/lang/RuntimeException", "java/lang/Exception"]) (ik := 1) (ic := 3) (A := E.2.2.2.1) hE.x hE.bc hl hE.ow ns_f1 (fun n hn => List.all_eq_true.mp ns_f n hn) (hE.ts _ hq1) (hE.ts _ hq2) ?_ (fun w hw => List.all_eq_true.mp ns_g w hw) hE.inv.2.2.2.1.2.2.2.2.2.1 hE.inv.2.2.2.1.2.2.2.2.2.2 hS (by rw [hE.ml]; exact hls.1) d0 d3 d4 d7 (fun x hx => (hN x hx).elim) ?_ ?_ ?_ ?_ hE.nl ?_ (fun z hz => hS.2.2 z hz) ?_ ?_
  · refine vy_hat (B := nsL.filter (fun w => !goodWord w)) (fun w hw => hE.ts w (of_decide_eq_true (List.all_eq_true.mp ns_a w hw))) (fun w hw => hw) (fun w hw => ?_)
    have h := List.all_eq_true.mp ns_b w hw
    simp only [Bool.and_eq_true, decide_eq_true_eq] at h
    exact hE.nst h.1 h.2
  · show 2 + 3 < _; have := hR.1; omega
  · show 0 + (13 * (2 + 1) + 42) ≤ _; have := hR.2; omega
  · omega
  · omega
  · intro t _ hsz ht q9
    refine ⟨w, trivial, ⟨hk q9, hP.kept hsz ht⟩, Nat.le_trans hS.1 hsz, fun q hq hA => ?_⟩
    rw [ht q (Nat.lt_of_lt_of_le hq hS.1), hS.2.1 q hq hA]
  · omega
  · omega
