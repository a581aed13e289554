/-! the law's entry, printed by gstart.py -/
theorem st_cls {s : State} {args : Array Value} (hts : ∀ w ∈ lw_all, w.before args s = true) : ∃ (dC : Nat → ClassId) (dI : Nat → Nat → Nat), ∀ (k : Nat) (q : vw_C), gCl[k]? = some q → u_Kn s q.1 q.2.1 q.2.2 (dC k) (dI k) := by
  have h : ∀ k : Nat, ∃ p : ClassId × (Nat → Nat), ∀ q : vw_C, gCl[k]? = some q → u_Kn s q.1 q.2.1 q.2.2 p.1 p.2 := by
    intro k
    by_cases hk : k < 25
    · rcases (show k = 0 ∨ k = 1 ∨ k = 2 ∨ k = 3 ∨ k = 4 ∨ k = 5 ∨ k = 6 ∨ k = 7 ∨ k = 8 ∨ k = 9 ∨ k = 10 ∨ k = 11 ∨ k = 12 ∨ k = 13 ∨ k = 14 ∨ k = 15 ∨ k = 16 ∨ k = 17 ∨ k = 18 ∨ k = 19 ∨ k = 20 ∨ k = 21 ∨ k = 22 ∨ k = 23 ∨ k = 24 by omega) with rfl | rfl | rfl | rfl | rfl | rfl | rfl | rfl | rfl | rfl | rfl | rfl | rfl | rfl | rfl | rfl | rfl | rfl | rfl | rfl | rfl | rfl | rfl | rfl | rfl
      · obtain ⟨c, iS, h⟩ := u_known (C := RX1) (T := TX1) (N := 15) (n := 15) hts gok_0.2.1 (hts _ q165)
        exact ⟨(c, iS), fun q hq => by cases hq; exact h⟩
      · obtain ⟨c, iS, h⟩ := u_known (C := RX2) (T := TX2) (N := 8) (n := 8) hts gok_1.2.1 (hts _ q173)
        exact ⟨(c, iS), fun q hq => by cases hq; exact h⟩
      · obtain ⟨c, iS, h⟩ := u_known (C := RX3) (T := TX3) (N := 8) (n := 8) hts gok_2.2.1 (hts _ q205)
        exact ⟨(c, iS), fun q hq => by cases hq; exact h⟩
      · obtain ⟨c, iS, h⟩ := u_known (C := RX4) (T := TX4) (N := 5) (n := 5) hts gok_3.2.1 (hts _ q280)
        exact ⟨(c, iS), fun q hq => by cases hq; exact h⟩
      · obtain ⟨c, iS, h⟩ := u_known (C := RX5) (T := TX5) (N := 5) (n := 5) hts gok_4.2.1 (hts _ q287)
        exact ⟨(c, iS), fun q hq => by cases hq; exact h⟩
      · obtain ⟨c, iS, h⟩ := u_known (C := RX6) (T := TX6) (N := 31) (n := 31) hts gok_5.2.1 (hts _ q1598)
        exact ⟨(c, iS), fun q hq => by cases hq; exact h⟩
      · obtain ⟨c, iS, h⟩ := u_known (C := RX7) (T := TX7) (N := 7) (n := 7) hts gok_6.2.1 (hts _ q549)
        exact ⟨(c, iS), fun q hq => by cases hq; exact h⟩
      · obtain ⟨c, iS, h⟩ := u_known (C := RX8) (T := TX8) (N := 3) (n := 3) hts gok_7.2.1 (hts _ q848)
        exact ⟨(c, iS), fun q hq => by cases hq; exact h⟩
      · obtain ⟨c, iS, h⟩ := u_known (C := RX9) (T := TX9) (N := 3) (n := 3) hts gok_8.2.1 (hts _ q871)
        exact ⟨(c, iS), fun q hq => by cases hq; exact h⟩
      · obtain ⟨c, iS, h⟩ := u_known (C := RX10) (T := TX10) (N := 3) (n := 3) hts gok_9.2.1 (hts _ q881)
        exact ⟨(c, iS), fun q hq => by cases hq; exact h⟩
      · obtain ⟨c, iS, h⟩ := u_known (C := RX11) (T := TX11) (N := 3) (n := 3) hts gok_10.2.1 (hts _ q891)
        exact ⟨(c, iS), fun q hq => by cases hq; exact h⟩
      · obtain ⟨c, iS, h⟩ := u_known (C := RX13) (T := TX13) (N := 1) (n := 1) hts gok_11.2.1 (hts _ q1010)
        exact ⟨(c, iS), fun q hq => by cases hq; exact h⟩
      · obtain ⟨c, iS, h⟩ := u_known (C := RX14) (T := TX14) (N := 1) (n := 1) hts gok_12.2.1 (hts _ q1023)
        exact ⟨(c, iS), fun q hq => by cases hq; exact h⟩
      · obtain ⟨c, iS, h⟩ := u_known (C := RX15) (T := TX15) (N := 1) (n := 1) hts gok_13.2.1 (hts _ q1033)
        exact ⟨(c, iS), fun q hq => by cases hq; exact h⟩
      · obtain ⟨c, iS, h⟩ := u_known (C := RX16) (T := TX16) (N := 3) (n := 3) hts gok_14.2.1 (hts _ q1047)
        exact ⟨(c, iS), fun q hq => by cases hq; exact h⟩
      · obtain ⟨c, iS, h⟩ := u_known (C := RX19) (T := TX19) (N := 2) (n := 2) hts gok_15.2.1 (hts _ q1100)
        exact ⟨(c, iS), fun q hq => by cases hq; exact h⟩
      · obtain ⟨c, iS, h⟩ := u_known (C := RX20) (T := TX20) (N := 2) (n := 2) hts gok_16.2.1 (hts _ q1113)
        exact ⟨(c, iS), fun q hq => by cases hq; exact h⟩
      · obtain ⟨c, iS, h⟩ := u_known (C := RX21) (T := TX21) (N := 1) (n := 1) hts gok_17.2.1 (hts _ q1127)
        exact ⟨(c, iS), fun q hq => by cases hq; exact h⟩
      · obtain ⟨c, iS, h⟩ := u_known (C := RX22) (T := TX22) (N := 2) (n := 2) hts gok_18.2.1 (hts _ q1137)
        exact ⟨(c, iS), fun q hq => by cases hq; exact h⟩
      · obtain ⟨c, iS, h⟩ := u_known (C := RX23) (T := TX23) (N := 2) (n := 2) hts gok_19.2.1 (hts _ q1523)
        exact ⟨(c, iS), fun q hq => by cases hq; exact h⟩
      · obtain ⟨c, iS, h⟩ := u_known (C := RJ2) (T := TJ2) (N := 3) (n := 3) hts gok_20.2.1 (hts _ q211)
        exact ⟨(c, iS), fun q hq => by cases hq; exact h⟩
      · obtain ⟨c, iS, h⟩ := u_known (C := RJ3) (T := TJ3) (N := 4) (n := 4) hts gok_21.2.1 (hts _ q752)
        exact ⟨(c, iS), fun q hq => by cases hq; exact h⟩
      · obtain ⟨c, iS, h⟩ := u_known (C := RJ13) (T := TJ13) (N := 4) (n := 4) hts gok_22.2.1 (hts _ q647)
        exact ⟨(c, iS), fun q hq => by cases hq; exact h⟩
      · obtain ⟨c, iS, h⟩ := u_known (C := RJ18) (T := TJ18) (N := 6) (n := 6) hts gok_23.2.1 (hts _ q1564)
        exact ⟨(c, iS), fun q hq => by cases hq; exact h⟩
      · obtain ⟨c, iS, h⟩ := u_known (C := RX18) (T := (fun _ => ("", "", "", false))) (N := 0) (n := 0) hts gok_24.2.1 (hts _ q1086)
        exact ⟨(c, iS), fun q hq => by cases hq; exact h⟩
    · exact ⟨(0, fun _ => 0), fun q hq => absurd (List.getElem?_eq_some_iff.mp hq).1 (by simpa using hk)⟩
  obtain ⟨f, hf⟩ := Classical.axiomOfChoice h
  exact ⟨fun k => (f k).1, fun k => (f k).2, hf⟩
theorem st_ap {s : State} {args : Array Value} {ty : FieldType} (h : (Cond.arrayClass ty).before args s = true) : ∃ c : ClassId, ArrOfT s c ty ∧ s.vm.findClass ("[" ++ ty.toString) = some c := by
  obtain ⟨c, k, comp, h1, h2, h3⟩ := Cond.arrayClass_spec h
  exact ⟨c, fun n z => ⟨fun k h => (by cases h), k, h2, comp, h3⟩, h1⟩
theorem st_ao {s : State} {args : Array Value} {C : String} (h : (Cond.arrayOver (.object C)).before args s = true) : ∃ c : ClassId, ArrOfT s c (.object C) ∧ va_RA s c (.object C) := by
  obtain ⟨comp, c, k, h1, h2, h3, h4, h5⟩ := Cond.arrayOver_spec h
  exact ⟨c, fun n z => ⟨fun k h => (by cases h), k, h3, comp, h4⟩, k, comp, h3, h4, h1, h5⟩
theorem st_arr {s : State} {args : Array Value} (hts : ∀ w ∈ lw_tbl, w.before args s = true) : ∃ d : Nat → ClassId, ∀ (k : Nat) (q : ClassId × FieldType), (gTys d)[k]? = some q → ArrOfT s q.1 q.2 ∧ va_RA s q.1 q.2 := by
  obtain ⟨c0, a0, b0⟩ := st_ap (hts _ (lw_all_tbl q276))
  obtain ⟨c1, a1, b1⟩ := st_ap (hts _ (lw_all_tbl q203))
  obtain ⟨c2, a2, b2⟩ := st_ap (hts _ (lw_all_tbl q1741))
  obtain ⟨c3, a3, b3⟩ := st_ap (hts _ (lw_all_tbl q1742))
  obtain ⟨c4, a4, b4⟩ := st_ao (hts _ q223)
  obtain ⟨c5, a5, b5⟩ := st_ao (hts _ q286)
  obtain ⟨c6, a6, b6⟩ := st_ao (hts _ q340)
  obtain ⟨c7, a7, b7⟩ := st_ao (hts _ q342)
  refine ⟨fun k => if k = 0 then c0 else if k = 1 then c1 else if k = 2 then c2 else if k = 3 then c3 else if k = 4 then c4 else if k = 5 then c5 else if k = 6 then c6 else c7, fun k q hq => ?_⟩
  have hk : k < 8 := (List.getElem?_eq_some_iff.mp hq).1
  rcases (show k = 0 ∨ k = 1 ∨ k = 2 ∨ k = 3 ∨ k = 4 ∨ k = 5 ∨ k = 6 ∨ k = 7 by omega) with rfl | rfl | rfl | rfl | rfl | rfl | rfl | rfl
  · cases hq; exact ⟨a0, b0⟩
  · cases hq; exact ⟨a1, b1⟩
  · cases hq; exact ⟨a2, b2⟩
  · cases hq; exact ⟨a3, b3⟩
  · cases hq; exact ⟨a4, b4⟩
  · cases hq; exact ⟨a5, b5⟩
  · cases hq; exact ⟨a6, b6⟩
  · cases hq; exact ⟨a7, b7⟩
def kByt : List (List Int32) := [[40, 41, 60, 61, 43, 45, 42, 59], [112, 97, 110, 101, 32, 112, 101, 114, 115, 111, 110, 32, 100, 101, 101, 100, 32, 108, 105, 103, 104, 116, 32, 102, 97, 100, 101, 115, 32], [112, 97, 110, 101, 32, 107, 101, 101, 112, 115, 32, 115, 101, 101, 115, 32, 112, 101, 114, 115, 111, 110, 32, 97, 116, 32, 100, 101, 101, 100, 32, 104, 97, 114, 109, 32, 108, 105, 103, 104, 116, 32, 102, 97, 100, 101, 115, 32, 119, 97, 108, 107, 32, 100, 111, 101, 115, 32, 119, 97, 115, 104, 32, 99, 117, 114, 116, 97, 105, 110, 32, 115, 116, 111, 110, 101, 32, 104, 111, 117, 114, 32, 112, 108, 97, 105, 110, 32, 102, 114, 111, 115, 116, 101, 100, 32, 116, 104, 105, 99, 107, 32, 109, 105, 114, 114, 111, 114, 32, 110, 111, 116, 32, 97, 110, 100, 32, 111, 114, 32], [112, 108, 97, 105, 110, 32, 102, 114, 111, 115, 116, 101, 100, 32, 116, 104, 105, 99, 107, 32, 109, 105, 114, 114, 111, 114, 32], [107, 101, 101, 112, 115, 32], [115, 101, 101, 115, 32], [97, 116, 32], [104, 97, 114, 109, 32], [97, 103, 101, 32, 98, 97, 100, 32, 108, 105, 116, 32, 110, 101, 119, 101, 114, 32], [110, 111, 116, 32], [97, 110, 100, 32, 111, 114, 32], [119, 97, 108, 107, 32, 100, 111, 101, 115, 32, 119, 97, 115, 104, 32, 99, 117, 114, 116, 97, 105, 110, 32, 115, 116, 111, 110, 101, 32, 104, 111, 117, 114, 32]]
def kLen : List Nat := [8, 29, 120, 27, 6, 5, 3, 5, 18, 4, 7, 34]
def kTm (i : Nat) : Term := .string "GlassStreet$Reader" (kIdx.getD i 0)
def kFl : List Cond := flatC (Cond.and given_1 narrow_1)
def kBl (i : Nat) : List Cond := [Cond.exactly (kTm i) "java/lang/String", Cond.eq (.field (kTm i) "java/lang/String" "coder" "B") (.int 0), Cond.arrayOf (.field (kTm i) "java/lang/String" "value" "[B") .byte, Cond.eq (.length (.field (kTm i) "java/lang/String" "value" "[B")) (.int (Int32.ofNat (kLen.getD i 0)))] ++ (List.range (kLen.getD i 0)).map (fun j => Cond.eq (.elem (.field (kTm i) "java/lang/String" "value" "[B") (.int (Int32.ofNat j))) (.int ((kByt.getD i []).getD j 0))) ++ (List.range i).map (fun j => Cond.not (Cond.eq (kTm j) (kTm i)))
def kPl : List Nat := [211, 223, 257, 383, 417, 431, 445, 458, 474, 504, 521, 542]
theorem kc_bl : (List.range 12).all (fun i => decide ((kFl.drop (kPl.getD i 0)).take (kBl i).length = kBl i)) = true := by decide +kernel
theorem kc_ln : (List.range 12).all (fun i => decide (kLen.getD i 0 < 2 ^ 31)) = true := by decide +kernel
theorem all_rng {n : Nat} {f : Nat → Bool} (h : (List.range n).all f = true) {i : Nat} (hi : i < n) : f i = true := List.all_eq_true.mp h i (List.mem_range.mpr hi)
theorem kc_mem {i : Nat} (hi : i < 12) {w : Cond} (hw : w ∈ kBl i) : w ∈ kFl := by
  have h := of_decide_eq_true (all_rng kc_bl hi)
  rw [← h] at hw
  exact List.mem_of_mem_drop (List.mem_of_mem_take hw)
theorem st_str {s : State} {args : Array Value} (hf : ∀ w ∈ kFl, w.before args s = true) {A : Nat → Prop} (hA : ∀ a : Nat, a < s.heap.size → ¬ A a) : ∃ adK adV : Nat → Nat, vk_S 12 kLen kByt adK adV A s s.heap ∧ ∀ i : Nat, i < 12 → (kTm i).eval args s none [] s = some (.ref (adK i)) := by
  refine vk_Sof (fun i hi => of_decide_eq_true (all_rng kc_ln hi)) (fun i hi => hf _ (kc_mem hi (by simp [kBl]))) (fun i hi => hf _ (kc_mem hi (by simp [kBl]))) (fun i hi => hf _ (kc_mem hi (by simp [kBl]))) (fun i hi => hf _ (kc_mem hi (by simp [kBl]))) (fun i hi j hj => hf _ (kc_mem hi ?_)) (fun i j hi hj hij => ?_) hA
  · exact List.mem_append_left _ (List.mem_append_right _ (List.mem_map.mpr ⟨j, List.mem_range.mpr hj, rfl⟩))
  · by_cases h : i < j
    · exact Or.inl (hf _ (kc_mem hj (List.mem_append_right _ (List.mem_map.mpr ⟨i, List.mem_range.mpr h, rfl⟩))))
    · exact Or.inr (hf _ (kc_mem hi (List.mem_append_right _ (List.mem_map.mpr ⟨j, List.mem_range.mpr (by omega), rfl⟩))))
theorem st_ref : ∀ i : Nat, i < 12 → Cond.stringRef "GlassStreet$Reader" (kIdx.getD i 0) (kTx.getD i "") ∈ lw_tbl := by
  intro i hi
  rcases (show i = 0 ∨ i = 1 ∨ i = 2 ∨ i = 3 ∨ i = 4 ∨ i = 5 ∨ i = 6 ∨ i = 7 ∨ i = 8 ∨ i = 9 ∨ i = 10 ∨ i = 11 by omega) with rfl | rfl | rfl | rfl | rfl | rfl | rfl | rfl | rfl | rfl | rfl | rfl
  · exact q424
  · exact q517
  · exact q645
  · exact q842
  · exact q900
  · exact q913
  · exact q985
  · exact q986
  · exact q1007
  · exact q1008
  · exact q1062
  · exact q1080
theorem st_q {s : State} {args : Array Value} {C n d : String} {A : Nat → Prop} (hl : (Cond.laysStatic C n d).before args s = true) (hini : (Cond.initialized C).before args s = true) (h : (Cond.isRef (.static C n d)).before args s = true) (hA : ∀ a : Nat, a < s.heap.size → ¬ A a) : ∃ r : Option Nat, va_Z C n d (va_rf r) A s s.heap := by
  rcases va_Zqof hl hini h hA with h | ⟨t, h⟩
  · exact ⟨none, h⟩
  · exact ⟨some t, h⟩
