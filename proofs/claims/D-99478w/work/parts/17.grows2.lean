/-! rows on cells of the generic world: new arrays, copies, statics, texts, casts -/
def gZero (t : Nat) : (Nat → Int32) ⊕ (Nat → Int64) ⊕ (Nat → UInt32) ⊕ (Nat → UInt64) ⊕ (Nat → Option Nat) := if t = 2 then .inr (.inl (fun _ => 0)) else .inl (fun _ => 0)
def gAty (t : Nat) : FieldType := gTyL.getD t .int
def gBytes (t : Nat) : Nat := match t with
  | 0 => 4
  | 1 => 1
  | 2 => 8
  | _ => 1
section GROWS2
variable {E : jE} {w : GW} {b : Nat × Nat} {L L' : List (Nat × Value)} {pc pc' : Nat} {st : List Value} {cc : ByteArray} {own : String}
theorem j_newarr (hE : jOk E cc own) {atype : ArrayType} {t : Nat} (ht : t < 4) (hty : newarray.typeOf atype = gAty t) (harr : Cond.arrayClass (newarray.typeOf atype) ∈ lw_all) {n : Int32} (hn : ¬ n < 0) (hby : n.toNatClampNeg * gBytes t ≤ 536870912) (hb : 1 ≤ b.1 ∧ n.toNatClampNeg ≤ b.2) (d : decode cc pc = .ok (.newarray atype, 2))
    (kk : ∀ q : Nat, w q = none → J E (gup w q (.inl (t, n.toNatClampNeg, gZero t))) (b.1 - 1, b.2 - n.toNatClampNeg) L (pc + 2) (.ref q :: st)) : J E w b L pc (.int n :: st) := by
  intro H q ls x z h1 h2 hP hS hl
  have hby2 : n.toNatClampNeg * componentBytes (newarray.typeOf atype) ≤ 536870912 := by
    rw [hty]
    rcases (show t = 0 ∨ t = 1 ∨ t = 2 ∨ t = 3 by omega) with rfl | rfl | rfl | rfl <;> exact hby
  refine va_newaK hE.x hE.bc (hE.ts _ harr) rfl d rfl hn rfl hby2 (jbud' h1 hb.1) (jbud' h2 hb.2) rfl fun H1 cA e1 z1 o1 hAr hNm => ?_
  have hd : cA = E.2.2.1.2.1 t := by
    have h5 := (hE.K.2 t (E.2.2.1.2.1 t, gAty t) (by rcases (show t = 0 ∨ t = 1 ∨ t = 2 ∨ t = 3 by omega) with rfl | rfl | rfl | rfl <;> rfl)).2
    rw [hty] at hNm
    have h6 : E.1.2.2.2.2.1.vm.findClass ("[" ++ (gAty t).toString) = some (E.2.2.1.2.1 t) := by
      rcases (show t = 0 ∨ t = 1 ∨ t = 2 ∨ t = 3 by omega) with rfl | rfl | rfl | rfl <;> exact h5
    exact Option.some.inj (hNm.symm.trans h6)
  subst hd
  refine kk H.size hP.new H1 q ls _ _ (jbud h1 hb.1) (jbud h2 hb.2) ?_ ⟨Nat.le_trans hS.1 (by omega), fun x h1 h2 => (o1 x (Nat.lt_of_lt_of_le h1 hS.1)).trans (hS.2.1 x h1 h2), hS.2.2⟩ hl
  intro y bb e he
  unfold gup at he
  by_cases hy : y = H.size
  · subst hy
    rw [if_pos rfl] at he
    cases he
    refine ⟨fun _ => ⟨?_, hE.A _ hS.1⟩, fun z => by cases z⟩
    show H1[H.size]? = some (vp_cell _ _)
    rw [e1, hty]
    rcases (show t = 0 ∨ t = 1 ∨ t = 2 ∨ t = 3 by omega) with rfl | rfl | rfl | rfl <;> rfl
  · rw [if_neg hy] at he
    exact hP.kept (by omega) o1 y bb e he
theorem j_newq (hE : jOk E cc own) {index t : Nat} (ht : 4 ≤ t ∧ t < 8) (hq : Cond.classLink own index (gTc t) ∈ lw_all) {n : Int32} (hn : ¬ n < 0) (hby : n.toNatClampNeg * 4 ≤ 536870912) (hb : 1 ≤ b.1 ∧ n.toNatClampNeg ≤ b.2) (d : decode cc pc = .ok (.anewarray index, 3))
    (kk : ∀ q : Nat, w q = none → J E (gup w q (.inl (t, n.toNatClampNeg, .inr (.inr (.inr (.inr (fun _ => none))))))) (b.1 - 1, b.2 - n.toNatClampNeg) L (pc + 3) (.ref q :: st)) : J E w b L pc (.int n :: st) := by
  intro H q ls x z h1 h2 hP hS hl
  obtain ⟨-, m1, m2, m3, m4, -⟩ := hE.inv.2.2.2.2.1
  have hover : va_AO (gTc t) E.1.2.2.2.2.1 := by
    obtain ⟨q1, q2⟩ := ht
    rcases (show t = 4 ∨ t = 5 ∨ t = 6 ∨ t = 7 by omega) with rfl | rfl | rfl | rfl
    · exact m1
    · exact m2
    · exact m3
    · exact m4
  have ht2 : (gTys E.2.2.1.2.1)[t]? = some (E.2.2.1.2.1 t, .object (gTc t)) := by
    obtain ⟨q1, q2⟩ := ht
    rcases (show t = 4 ∨ t = 5 ∨ t = 6 ∨ t = 7 by omega) with rfl | rfl | rfl | rfl <;> rfl
  refine W.anew hE.x hE.bc hE.ow (hE.ts _ hq) (va_AO.use hover) rfl d rfl hn hby (jbud' h1 hb.1) (jbud' h2 hb.2) fun cA kA comp f1 f2 f3 f4 => ?_
  obtain ⟨kA', comp', k1, k2, k3, k4⟩ := (hE.K.2 t _ ht2).2
  have hd : cA = E.2.2.1.2.1 t := Option.some.inj (f1.symm.trans k4)
  subst hd
  generalize hH1 : H.push ({ cls := E.2.2.1.2.1 t, slots := Array.replicate n.toNatClampNeg .null, vm := .none } : Cell) = H1
  have z1 : H1.size = H.size + 1 := by rw [← hH1, Array.size_push]
  have e1 : H1[H.size]? = some (arrV (E.2.2.1.2.1 t) n.toNatClampNeg (fun _ => .null)) := by rw [← hH1, Array.getElem?_push_size, ← arrV_new]
  have o1 : ∀ q : Nat, q < H.size → H1[q]? = H[q]? := fun q hq => by rw [← hH1, Array.getElem?_push, if_neg (Nat.ne_of_lt hq)]
  refine kk H.size hP.new H1 q ls _ _ (jbud h1 hb.1) (jbud h2 hb.2) ?_ ⟨Nat.le_trans hS.1 (by omega), fun x h1 h2 => (o1 x (Nat.lt_of_lt_of_le h1 hS.1)).trans (hS.2.1 x h1 h2), hS.2.2⟩ hl
  intro y bb e he
  unfold gup at he
  by_cases hy : y = H.size
  · subst hy
    rw [if_pos rfl] at he
    cases he
    refine ⟨fun _ => ⟨?_, hE.A _ hS.1⟩, fun z => by cases z⟩
    show H1[H.size]? = some (vp_cell _ _)
    rw [vp_cell_q]
    exact e1
  · rw [if_neg hy] at he
    exact hP.kept (by omega) o1 y bb e he
theorem nn32 (z : Int32) (hz : ¬ z < 0) : z.toInt = (z.toNatClampNeg : Int) := by
  have hz0 : (0 : Int) ≤ z.toInt := by
    have := Int32.not_lt.mp hz
    simpa using Int32.le_iff_toInt_le.mp this
  show z.toInt = ((z.toInt.toNat : Nat) : Int)
  omega
/-- the world behind a copy onto a -/
theorem jcp {Lx : List Loc} (hE : jOk E cc own) {H : Heap} {locs : List Loc} {a : Nat} {cell : Cell} {e : gC} (hP : GP E.2.2.1 E.2.2.2.1 w H) (hS : va_S E.2.2.2.1 E.1.2.2.2.2.1.heap H locs) (hl : a < H.size) (hA : E.2.2.2.1 a) (he : va_at E.2.2.1.1 gCl (a, g_toE E.2.2.1.2.1 e) (H.setIfInBounds a cell)) (hL : ∀ z ∈ Lx, z.base = a) : GP E.2.2.1 E.2.2.2.1 (gup w a e) (H.setIfInBounds a cell) ∧ va_S E.2.2.2.1 E.1.2.2.2.2.1.heap (H.setIfInBounds a cell) (locs ++ Lx) := by
  have oq : ∀ q : Nat, q ≠ a → (H.setIfInBounds a cell)[q]? = H[q]? := fun q hq => by simp [Array.getElem?_setIfInBounds, Ne.symm hq]
  refine ⟨hP.put hA he (by simp) oq, ⟨by simp; exact hS.1, fun q g1 g2 => ?_, fun q hq => ?_⟩⟩
  · rw [oq q (fun e => g2 (by rw [e]; exact hA))]
    exact hS.2.1 q g1 g2
  · rcases List.mem_append.mp hq with h | h
    · exact hS.2.2 q h
    · rw [hL q h]; exact hA
theorem j_acpB (hE : jOk E cc own) {f lo : Nat} (hR : jRoom E f lo) {index : Nat} (h1q : Cond.methodLink own index arraycopyName ∈ lw_all) (h2q : Cond.native arraycopyName ∈ lw_all) (h3q : Cond.static arraycopyName ∈ lw_all) (h4q : Cond.initialized "java/lang/System" ∈ lw_all) {a0 a n0 n1 : Nat} {g0 g1 : Nat → Int32} (e0 : w a0 = some (true, .inl (1, n0, .inl g0))) (e1 : w a = some (true, .inl (1, n1, .inl g1))) {sp dp n : Int32} (h1 : ¬ sp < 0) (h2 : ¬ dp < 0) (h3 : ¬ n < 0) (h4 : sp.toNatClampNeg + n.toNatClampNeg ≤ n0) (h5 : dp.toNatClampNeg + n.toNatClampNeg ≤ n1) (hfit : ∀ i : Nat, i < n.toNatClampNeg → fits .byte (.int (g0 (sp.toNatClampNeg + i))) = true) (hf : 1 ≤ f) (hlo : (st.map fun v => v.category).sum + (nativeFrameWords "java/lang/System" "arraycopy" 5 + 11) ≤ lo) (d : decode cc pc = .ok (.invokestatic index, 3))
    (kk : J E (gup w a (.inl (1, n1, .inl (va_cpy g0 g1 sp.toNatClampNeg dp.toNatClampNeg n.toNatClampNeg)))) b L (pc + 3) st) : J E w b L pc (.int n :: .int dp :: .ref a :: .int sp :: .ref a0 :: st) := by
  intro H q ls x z b1 b2 hP hS hl T hT X
  obtain ⟨hat0, -⟩ := (hP a0 true _ e0).1 rfl
  obtain ⟨hat1, hA⟩ := (hP a true _ e1).1 rfl
  have hc0 : H[a0]? = some (vp_cell (E.2.2.1.2.1 1) (n0, .inl g0)) := hat0
  have hc1 : H[a]? = some (vp_cell (E.2.2.1.2.1 1) (n1, .inl g1)) := hat1
  obtain ⟨-, k0, hk0, cm0, hkk0⟩ := (hE.K.2 1 _ rfl).1 n0 (fun j => .int (g0 j))
  obtain ⟨vm', X', step⟩ := X.arraycopy hE.x hE.ow (hE.ts _ h1q) (hE.ts _ h2q) (hE.ts _ h3q) (hE.ts _ h4q) (src := a0) (dst := a) (cs := vp_cell (E.2.2.1.2.1 1) (n0, .inl g0)) (cd := vp_cell (E.2.2.1.2.1 1) (n1, .inl g1)) (srcPos := sp) (destPos := dp) (n := n) (by rw [hT]; exact hc0) (by rw [hT]; exact hc1)
    (fun _ h => by cases h) (fun _ h => by cases h) (fun h => by cases h) (fun h => by cases h) hk0 hk0 hkk0 hkk0 (by simp [refKind]) h1 h2 h3
    (by rw [nn32 sp h1, nn32 n h3]; show ¬ _ > ((arrV _ n0 (fun j => .int (g0 j))).slots.size : Int); rw [arrV_size]; omega)
    (by rw [nn32 dp h2, nn32 n h3]; show ¬ _ > ((arrV _ n1 (fun j => .int (g1 j))).slots.size : Int); rw [arrV_size]; omega)
    (fun vm₁ _ i hi => by
      have e : (vp_cell (E.2.2.1.2.1 1) (n0, .inl g0)).slots.getD (sp.toNatClampNeg + i) .null = .int (g0 (sp.toNatClampNeg + i)) := by
        show (arrV _ n0 (fun j => .int (g0 j))).slots.getD _ _ = _
        rw [Array.getD_eq_getD_getElem?, arrV_read _ _ (by omega)]
        rfl
      refine ⟨?_, ?_⟩
      · rw [e]
        exact hfit i hi
      · rw [e]
        exact trivial)
    (g := F0 E.1.2.2.2.2.2.1 pc ls (.int n :: .int dp :: .ref a :: .int sp :: .ref a0 :: st)) rfl (by rw [hE.ml]; exact hl.1) (rest := st) rfl (by rw [hE.bc]; exact d) (Nat.le_trans hf hR.1) (by show 2 * 0 + _ + _ ≤ _; have := hR.2; omega)
  have ec : copied (vp_cell (E.2.2.1.2.1 1) (n0, .inl g0)) (vp_cell (E.2.2.1.2.1 1) (n1, .inl g1)) sp dp n = vp_cell (E.2.2.1.2.1 1) (n1, .inl (va_cpy g0 g1 sp.toNatClampNeg dp.toNatClampNeg n.toNatClampNeg)) := va_copied (fun z => .int z) _ _ g0 g1 h4
  rw [ec] at X' step
  have hlt : a < H.size := (Array.getElem?_eq_some_iff.mp hc1).1
  obtain ⟨hP1, hS1⟩ := jcp (Lx := ((vp_cell (E.2.2.1.2.1 1) (n0, .inl g0)).stretch sp.toNatClampNeg n.toNatClampNeg).zipIdx.map (fun (q : Value × Nat) => (⟨a, dp.toNatClampNeg + q.2⟩ : Loc))) hE hP hS hlt hA (e := .inl (1, n1, .inl (va_cpy g0 g1 sp.toNatClampNeg dp.toNatClampNeg n.toNatClampNeg))) (cell := vp_cell (E.2.2.1.2.1 1) (n1, .inl (va_cpy g0 g1 sp.toNatClampNeg dp.toNatClampNeg n.toNatClampNeg))) (show (H.setIfInBounds a _)[a]? = some _ by simp [Array.getElem?_setIfInBounds, hlt]) (fun z hz => by obtain ⟨i, -, hi⟩ := List.mem_map.mp hz; rw [← hi])
  obtain ⟨t, a1, c1⟩ := kk _ _ ls _ _ b1 b2 hP1 hS1 hl ((T.setVm vm').setCell a (vp_cell (E.2.2.1.2.1 1) (n1, .inl (va_cpy g0 g1 sp.toNatClampNeg dp.toNatClampNeg n.toNatClampNeg)))) (by rw [← hT]; rfl) X'
  exact ⟨t, step t a1, c1⟩
theorem j_acpQ (hE : jOk E cc own) {f lo : Nat} (hR : jRoom E f lo) {index : Nat} (h1q : Cond.methodLink own index arraycopyName ∈ lw_all) (h2q : Cond.native arraycopyName ∈ lw_all) (h3q : Cond.static arraycopyName ∈ lw_all) (h4q : Cond.initialized "java/lang/System" ∈ lw_all) {a0 a n0 n1 : Nat} {g0 g1 : Nat → Option Nat} (e0 : w a0 = some (true, .inl (4, n0, .inr (.inr (.inr (.inr g0)))))) (e1 : w a = some (true, .inl (4, n1, .inr (.inr (.inr (.inr g1)))))) {sp dp n : Int32} (h1 : ¬ sp < 0) (h2 : ¬ dp < 0) (h3 : ¬ n < 0) (h4 : sp.toNatClampNeg + n.toNatClampNeg ≤ n0) (h5 : dp.toNatClampNeg + n.toNatClampNeg ≤ n1) (hel : ∀ i : Nat, i < n.toNatClampNeg → ∀ y : Nat, g0 (sp.toNatClampNeg + i) = some y → ∃ c fs rr, w y = some (true, .inr (c, fs)) ∧ gCl[c]? = some rr ∧ Cond.castable rr.1 "java/lang/Object" ∈ lw_tbl) (hf : 1 ≤ f) (hlo : (st.map fun v => v.category).sum + (nativeFrameWords "java/lang/System" "arraycopy" 5 + 11) ≤ lo) (d : decode cc pc = .ok (.invokestatic index, 3))
    (kk : J E (gup w a (.inl (4, n1, .inr (.inr (.inr (.inr (va_cpy g0 g1 sp.toNatClampNeg dp.toNatClampNeg n.toNatClampNeg))))))) b L (pc + 3) st) : J E w b L pc (.int n :: .int dp :: .ref a :: .int sp :: .ref a0 :: st) := by
  intro H q ls x z b1 b2 hP hS hl T hT X
  obtain ⟨hat0, -⟩ := (hP a0 true _ e0).1 rfl
  obtain ⟨hat1, hA⟩ := (hP a true _ e1).1 rfl
  have hc0 : H[a0]? = some (vp_cell (E.2.2.1.2.1 4) (n0, .inr (.inr (.inr (.inr g0))))) := hat0
  have hc1 : H[a]? = some (vp_cell (E.2.2.1.2.1 4) (n1, .inr (.inr (.inr (.inr g1))))) := hat1
  obtain ⟨-, k0, hk0, cm0, hkk0⟩ := (hE.K.2 4 _ rfl).1 n0 (fun j => va_rf (g0 j))
  obtain ⟨vm', X', step⟩ := X.arraycopy hE.x hE.ow (hE.ts _ h1q) (hE.ts _ h2q) (hE.ts _ h3q) (hE.ts _ h4q) (src := a0) (dst := a) (cs := vp_cell (E.2.2.1.2.1 4) (n0, .inr (.inr (.inr (.inr g0))))) (cd := vp_cell (E.2.2.1.2.1 4) (n1, .inr (.inr (.inr (.inr g1))))) (srcPos := sp) (destPos := dp) (n := n) (by rw [hT]; exact hc0) (by rw [hT]; exact hc1)
    (fun _ h => by cases h) (fun _ h => by cases h) (fun h => by cases h) (fun h => by cases h) hk0 hk0 hkk0 hkk0 rfl h1 h2 h3
    (by rw [nn32 sp h1, nn32 n h3]; show ¬ _ > ((arrV _ n0 (fun j => va_rf (g0 j))).slots.size : Int); rw [arrV_size]; omega)
    (by rw [nn32 dp h2, nn32 n h3]; show ¬ _ > ((arrV _ n1 (fun j => va_rf (g1 j))).slots.size : Int); rw [arrV_size]; omega)
    (fun vm₁ hal i hi => by
      have e : (vp_cell (E.2.2.1.2.1 4) (n0, .inr (.inr (.inr (.inr g0))))).slots.getD (sp.toNatClampNeg + i) .null = va_rf (g0 (sp.toNatClampNeg + i)) := by
        show (arrV _ n0 (fun j => va_rf (g0 j))).slots.getD _ _ = _
        rw [Array.getD_eq_getD_getElem?, arrV_read _ _ (by omega)]
        rfl
      rw [e]
      cases hy : g0 (sp.toNatClampNeg + i) with
      | none => exact ⟨rfl, trivial⟩
      | some y =>
        obtain ⟨c9, fs9, rr, w1, w2, w3⟩ := hel i hi y hy
        obtain ⟨hatv, -⟩ := (hP y true _ w1).1 rfl
        obtain ⟨r', hr', cellV, u1, u2, u3, -⟩ := hatv
        have hcls := (hE.K.1 c9 rr w2).2
        obtain ⟨kA, comp, r1, r2, r3, -⟩ := (hE.K.2 4 _ rfl).2
        cases hk0.symm.trans r1
        cases hkk0.symm.trans r2
        obtain ⟨cC, tC, f1, f2, f3⟩ := Cond.castable_spec (hE.nst w3 rfl)
        cases hcls.1.symm.trans f1
        cases r3.symm.trans f2
        have g3 : E.1.2.2.2.2.1.vm.findClass rr.1 = some cellV.cls := by rw [u2]; exact hcls.1
        obtain ⟨kC, hkC, -⟩ := Vm.findClass_spec g3
        obtain ⟨kE, hkE, -⟩ := Vm.findClass_spec r3
        obtain ⟨kC', hkC', -⟩ := hal.2.2 _ _ hkC
        obtain ⟨kE', hkE', -⟩ := hal.2.2 _ _ hkE
        refine ⟨rfl, cellV, (show T.heap[y]? = some cellV by rw [hT]; exact u1), (fun q h => by rw [u3] at h; cases h), ⟨kC', hkC'⟩, ?_, ?_⟩
        · exact ⟨kE', hkE'⟩
        · show vm₁.assignable _ _ = true
          rw [hal.assignable, u2]
          exact f3)
    (g := F0 E.1.2.2.2.2.2.1 pc ls (.int n :: .int dp :: .ref a :: .int sp :: .ref a0 :: st)) rfl (by rw [hE.ml]; exact hl.1) (rest := st) rfl (by rw [hE.bc]; exact d) (Nat.le_trans hf hR.1) (by show 2 * 0 + _ + _ ≤ _; have := hR.2; omega)
  have ec : copied (vp_cell (E.2.2.1.2.1 4) (n0, .inr (.inr (.inr (.inr g0))))) (vp_cell (E.2.2.1.2.1 4) (n1, .inr (.inr (.inr (.inr g1))))) sp dp n = vp_cell (E.2.2.1.2.1 4) (n1, .inr (.inr (.inr (.inr (va_cpy g0 g1 sp.toNatClampNeg dp.toNatClampNeg n.toNatClampNeg))))) := by
    rw [vp_cell_q, vp_cell_q, vp_cell_q]
    exact va_copied (fun z => va_rf z) _ _ g0 g1 h4
  rw [ec] at X' step
  have hlt : a < H.size := (Array.getElem?_eq_some_iff.mp hc1).1
  obtain ⟨hP1, hS1⟩ := jcp (Lx := ((vp_cell (E.2.2.1.2.1 4) (n0, .inr (.inr (.inr (.inr g0))))).stretch sp.toNatClampNeg n.toNatClampNeg).zipIdx.map (fun (q : Value × Nat) => (⟨a, dp.toNatClampNeg + q.2⟩ : Loc))) hE hP hS hlt hA (e := .inl (4, n1, .inr (.inr (.inr (.inr (va_cpy g0 g1 sp.toNatClampNeg dp.toNatClampNeg n.toNatClampNeg)))))) (cell := vp_cell (E.2.2.1.2.1 4) (n1, .inr (.inr (.inr (.inr (va_cpy g0 g1 sp.toNatClampNeg dp.toNatClampNeg n.toNatClampNeg)))))) (show (H.setIfInBounds a _)[a]? = some _ by simp [Array.getElem?_setIfInBounds, hlt]) (fun z hz => by obtain ⟨i, -, hi⟩ := List.mem_map.mp hz; rw [← hi])
  obtain ⟨t, a1, c1⟩ := kk _ _ ls _ _ b1 b2 hP1 hS1 hl ((T.setVm vm').setCell a (vp_cell (E.2.2.1.2.1 4) (n1, .inr (.inr (.inr (.inr (va_cpy g0 g1 sp.toNatClampNeg dp.toNatClampNeg n.toNatClampNeg))))))) (by rw [← hT]; rfl) X'
  exact ⟨t, step t a1, c1⟩
/-! statics, texts, class objects -/
theorem j_gets (hE : jOk E cc own) {index : Nat} {C n d : String} {v : Value} (hq : Cond.fieldLink own index C n d ∈ lw_all) (hZ : va_Z C n d v E.2.2.2.1 E.1.2.2.2.2.1 E.1.2.2.2.2.1.heap) (dd : decode cc pc = .ok (.getstatic index, 3)) (kk : J E w b L (pc + 3) (v :: st)) : J E w b L pc st :=
  fun H q ls _ _ h1 h2 hP hS hl => va_gets hE.x hE.bc hZ hS hE.ow (hE.ts _ hq) (fun _ h => h) dd (kk H q ls _ _ h1 h2 hP hS hl)
theorem jOk.sstr (hE : jOk E cc own) (i : Nat) (hi : i < 12) {a : Nat} (ha : E.2.2.1.2.2.2 i = some a) : vk_R "GlassStreet$Reader" (kIdx.getD i 0) (kTx.getD i "") a E.1.2.2.2.2.1 := by
  obtain ⟨a', h1, h2⟩ := hE.inv.2.2.1 i hi
  cases h1.symm.trans ha
  exact h2
theorem j_ldcS (hE : jOk E cc "GlassStreet$Reader") {index : Nat} (i : Nat) (hi : i < 12) (hx : kIdx.getD i 0 = index) {c : Nat → Option Nat} (hc : E.2.2.1.2.2.2 = c) {r : Option Nat} (hr : r = c i) (dd : decode cc pc = .ok (.ldc index, 2)) (kk : J E w b L (pc + 2) (va_rf r :: st)) : J E w b L pc st := by
  intro H q ls _ _ h1 h2 hP hS hl
  obtain ⟨a, e1, e2⟩ := hE.inv.2.2.1 i hi
  rw [hc] at e1
  rw [e1] at hr
  subst hr hx
  exact va_ldcS hE.x hE.bc hE.ow e2 dd (kk H q ls _ _ h1 h2 hP hS hl)
theorem j_ldcwS (hE : jOk E cc "GlassStreet$Reader") {index : Nat} (i : Nat) (hi : i < 12) (hx : kIdx.getD i 0 = index) {c : Nat → Option Nat} (hc : E.2.2.1.2.2.2 = c) {r : Option Nat} (hr : r = c i) (dd : decode cc pc = .ok (.ldc_w index, 3)) (kk : J E w b L (pc + 3) (va_rf r :: st)) : J E w b L pc st := by
  intro H q ls _ _ h1 h2 hP hS hl
  obtain ⟨a, e1, ⟨e2, e3⟩⟩ := hE.inv.2.2.1 i hi
  rw [hc] at e1
  rw [e1] at hr
  subst hr hx
  intro T hT X
  obtain ⟨t, a1, b1⟩ := kk H q ls _ _ h1 h2 hP hS hl T hT X
  exact ⟨t, X.ldcStringW hE.x hE.ow e2 e3 (g := F0 E.1.2.2.2.2.2.1 pc ls st) rfl (by rw [hE.bc]; exact dd) t a1, b1⟩
theorem j_ldcM (hE : jOk E cc own) {index : Nat} (hq : Cond.classLink own index "[Ljava/lang/Object;" ∈ lw_all) {c : Nat → Option Nat} (hc : E.2.2.1.2.2.2 = c) {r : Option Nat} (hr : r = c 15) (dd : decode cc pc = .ok (.ldc index, 2)) (kk : J E w b L (pc + 2) (va_rf r :: st)) : J E w b L pc st := by
  intro H q ls _ _ h1 h2 hP hS hl
  obtain ⟨⟨mi, e1, e2⟩, -⟩ := hE.inv.2.2.2.2.1
  rw [hc] at e1
  rw [e1] at hr
  subst hr
  exact va_ldcM hE.x hE.bc hE.ow (hE.ts _ hq) e2 dd (kk H q ls _ _ h1 h2 hP hS hl)
/-! casts -/
theorem j_cast (hE : jOk E cc own) {index a : Nat} {nm : String} (hq : Cond.classLink own index nm ∈ lw_all) {c : Nat} {fs : List Value} {rr : vw_C} (he : w a = some (true, .inr (c, fs))) (hc : gCl[c]? = some rr) (hcast : rr.1 = nm ∨ Cond.castable rr.1 nm ∈ lw_tbl) (dd : decode cc pc = .ok (.checkcast index, 3)) (kk : J E w b L (pc + 3) (.ref a :: st)) : J E w b L pc (.ref a :: st) := by
  intro H q ls _ _ h1 h2 hP hS hl
  have hrec := gIs.recv hE hP hS ⟨true, c, fs, rr, he, hc, rfl⟩
  rcases hcast with h | h
  · subst h
    exact va_castS hE.x hE.bc hE.ow (hE.ts _ hq) (hE.K.1 c rr hc).2 hrec dd (kk H q ls _ _ h1 h2 hP hS hl)
  · exact va_castY hE.x hE.bc hE.ow (hE.ts _ hq) (hE.nw _ h rfl) hrec dd (kk H q ls _ _ h1 h2 hP hS hl)
theorem j_castA (hE : jOk E cc own) {index a t n : Nat} {x : (Nat → Int32) ⊕ (Nat → Int64) ⊕ (Nat → UInt32) ⊕ (Nat → UInt64) ⊕ (Nat → Option Nat)} {nm : String} (hq : Cond.classLink own index nm ∈ lw_all) (he : w a = some (true, .inl (t, n, x))) (ht : (t = 1 ∧ nm = "[B") ∨ (t = 4 ∧ nm = "[Ljava/lang/Object;")) (dd : decode cc pc = .ok (.checkcast index, 3)) (kk : J E w b L (pc + 3) (.ref a :: st)) : J E w b L pc (.ref a :: st) := by
  intro H q ls _ _ h1 h2 hP hS hl
  have hnm : E.1.2.2.2.2.1.vm.findClass nm = some (E.2.2.1.2.1 t) := by
    rcases ht with ⟨rfl, rfl⟩ | ⟨rfl, rfl⟩
    · exact (hE.K.2 1 _ rfl).2
    · obtain ⟨kA, comp, -, -, -, k4⟩ := (hE.K.2 4 _ rfl).2
      exact k4
  exact va_castA hE.x hE.bc hE.ow (hE.ts _ hq) (hP.one he) 0 rfl hnm dd (kk H q ls _ _ h1 h2 hP hS hl)
theorem j_instY (hE : jOk E cc own) {index a : Nat} {nm : String} (hq : Cond.classLink own index nm ∈ lw_all) {c : Nat} {fs : List Value} {rr : vw_C} (he : w a = some (true, .inr (c, fs))) (hc : gCl[c]? = some rr) (hcast : rr.1 = nm) (dd : decode cc pc = .ok (.instanceof index, 3)) (kk : J E w b L (pc + 3) (.int 1 :: st)) : J E w b L pc (.ref a :: st) := by
  intro H q ls _ _ h1 h2 hP hS hl
  subst hcast
  exact va_instE hE.x hE.bc hE.ow (hE.ts _ hq) (gIs.recv hE hP hS ⟨true, c, fs, rr, he, hc, rfl⟩) dd (kk H q ls _ _ h1 h2 hP hS hl)
theorem j_instN (hE : jOk E cc own) {index a : Nat} (hq : Cond.classLink own index "GlassStreet$Did" ∈ lw_all) {c : Nat} {fs : List Value} {rr : vw_C} (he : w a = some (true, .inr (c, fs))) (hc : gCl[c]? = some rr) (hcast : rr.1 ∈ gNotDid) (dd : decode cc pc = .ok (.instanceof index, 3)) (kk : J E w b L (pc + 3) (.int 0 :: st)) : J E w b L pc (.ref a :: st) := by
  intro H q ls _ _ h1 h2 hP hS hl
  exact va_instNo hE.x hE.bc hE.ow (hE.ts _ hq) (hE.inv.2.2.2.2.1.2.2.2.2.2.1 rr.1 hcast) (gIs.recv hE hP hS ⟨true, c, fs, rr, he, hc, rfl⟩) dd (kk H q ls _ _ h1 h2 hP hS hl)
end GROWS2
