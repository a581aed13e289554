/-! rows on the model's typed cells -/
def lenA (a : Nat) : Nat := match a with
  | 0 => 1000
  | 1 => 1002
  | 2 => 1002
  | 3 => 120
  | 4 => 2200
  | 5 => 2200
  | 6 => 16
  | 7 => 16
  | 8 => 250
  | 9 => 4
  | 10 => 1100
  | _ => 1518
def lenL (a : Nat) : Nat := match a with
  | 0 => 1002
  | 1 => 26
  | _ => 16
theorem mcell_a (ad : Nat → Nat) (m : MS) {a : Nat} (h : a < 12) : mcell ad m (a + 1) = .inl (0, lenA a, .inl (gA m a)) := by
  match a, h with
  | 0, _ => rfl
  | 1, _ => rfl
  | 2, _ => rfl
  | 3, _ => rfl
  | 4, _ => rfl
  | 5, _ => rfl
  | 6, _ => rfl
  | 7, _ => rfl
  | 8, _ => rfl
  | 9, _ => rfl
  | 10, _ => rfl
  | 11, _ => rfl
  | n + 12, h => exact absurd h (by omega)
theorem mcell_l (ad : Nat → Nat) (m : MS) {a : Nat} (h : a < 4) : mcell ad m (a + 14) = .inl (2, lenL a, .inr (.inl (gL m a))) := by
  match a, h with
  | 0, _ => rfl
  | 1, _ => rfl
  | 2, _ => rfl
  | 3, _ => rfl
  | n + 4, h => exact absurd h (by omega)
section MR2
variable {E : jE} {ad : Nat → Nat} {m : MS} {r : GW} {b : Nat × Nat} {L L' : List (Nat × Value)} {pc pc' : Nat} {st : List Value} {cc : ByteArray}
theorem jm_get (hE : jOk E cc RX6) (hA : adOk ad) (k : Nat) (hk : k < 31) {index : Nat} (hq : Cond.fieldLink RX6 index RX6 (TX6 k).2.1 (TX6 k).2.2.1 ∈ lw_all) (hr : (TX6 k).1 = RX6) {v : Value} (hv : (mflds ad m)[k]? = some v) (d : decode cc pc = .ok (.getfield index, 3)) (kk : J E (mwX ad m r) b L (pc + 3) (v :: st)) : J E (mwX ad m r) b L pc (.ref (ad 0) :: st) :=
  j_get hE (C := RX6) (T := TX6) (N := 31) (ci := 5) (fs := mflds ad m) in_X6 rfl k hk hq hr (mwX_at hA m r (i := 0) (by decide)) hv d kk
theorem jm_put (hE : jOk E cc RX6) (hA : adOk ad) (k : Nat) (hk : k < 31) {m' : MS} {index : Nat} (hq : Cond.fieldLink RX6 index RX6 (TX6 k).2.1 (TX6 k).2.2.1 ∈ lw_all) (hr : (TX6 k).1 = RX6) (hfin : (TX6 k).2.2.2 = false) {v : Value} (hv : (mflds ad m).set k v = mflds ad m') (h1 : m'.2.1 = m.2.1) (h2 : m'.2.2.1 = m.2.2.1) (hn : narrow (tyX6 k) v = v) (hfit : fits (tyX6 k) v = true) (d : decode cc pc = .ok (.putfield index, 3)) (kk : J E (mwX ad m' r) b L (pc + 3) st) : J E (mwX ad m r) b L pc (v :: .ref (ad 0) :: st) := by
  refine j_put hE (C := RX6) (T := TX6) (N := 31) (ci := 5) (fs := mflds ad m) tyX6 in_X6 tyX6_ok nmX6 rfl k hk hq hr hfin (mwX_at hA m r (i := 0) (by decide)) hn hfit hk d ?_
  rw [hv, mwX_up hA (m' := m') (e := .inr (5, mflds ad m')) (by decide) rfl (mc_f h1 h2)]
  exact kk
theorem jm_putF (hE : jOk E cc RX6) (hA : adOk ad) (k f : Nat) (hk : k < 31) {index : Nat} (hq : Cond.fieldLink RX6 index RX6 (TX6 k).2.1 (TX6 k).2.2.1 ∈ lw_all) (hr : (TX6 k).1 = RX6) (hfin : (TX6 k).2.2.2 = false) {x : Int32} (hv : (mflds ad m).set k (.int x) = mflds ad (sF m f x)) (hn : narrow (tyX6 k) (.int x) = .int x) (hfit : fits (tyX6 k) (.int x) = true) (d : decode cc pc = .ok (.putfield index, 3)) (kk : J E (mwX ad (sF m f x) r) b L (pc + 3) st) : J E (mwX ad m r) b L pc (.int x :: .ref (ad 0) :: st) :=
  jm_put hE hA k hk hq hr hfin hv rfl rfl hn hfit d kk
theorem jm_put0 (hE : jOk E cc RX6) (hA : adOk ad) (k : Nat) (hk : k < 31) {index : Nat} (hq : Cond.fieldLink RX6 index RX6 (TX6 k).2.1 (TX6 k).2.2.1 ∈ lw_all) (hr : (TX6 k).1 = RX6) (hfin : (TX6 k).2.2.2 = false) {x : Int64} (hv : (mflds ad m).set k (.long x) = mflds ad (s0 m x)) (hn : narrow (tyX6 k) (.long x) = .long x) (hfit : fits (tyX6 k) (.long x) = true) (d : decode cc pc = .ok (.putfield index, 3)) (kk : J E (mwX ad (s0 m x) r) b L (pc + 3) st) : J E (mwX ad m r) b L pc (.long x :: .ref (ad 0) :: st) :=
  jm_put hE hA k hk hq hr hfin hv rfl rfl hn hfit d kk
theorem jm_iald {own : String} (hE : jOk E cc own) (hA : adOk ad) (a : Nat) (ha : a < 12) {i : Int32} (hin : vp_in i (lenA a)) (d : decode cc pc = .ok (.iaload, 1)) (kk : J E (mwX ad m r) b L (pc + 1) (.int (rd (gA m a) i) :: st)) : J E (mwX ad m r) b L pc (.int i :: .ref (ad (a + 1)) :: st) :=
  j_iald hE (by rw [mwX_at hA m r (i := a + 1) (by omega), mcell_a ad m ha]) hin d kk
theorem jm_lald {own : String} (hE : jOk E cc own) (hA : adOk ad) (a : Nat) (ha : a < 4) {i : Int32} (hin : vp_in i (lenL a)) (d : decode cc pc = .ok (.laload, 1)) (kk : J E (mwX ad m r) b L (pc + 1) (.long (rdL (gL m a) i) :: st)) : J E (mwX ad m r) b L pc (.int i :: .ref (ad (a + 14)) :: st) :=
  j_lald hE (by rw [mwX_at hA m r (i := a + 14) (by omega), mcell_l ad m ha]) hin d kk
theorem jm_zald {own : String} (hE : jOk E cc own) (hA : adOk ad) {i : Int32} (hin : vp_in i 4) (d : decode cc pc = .ok (.baload, 1)) (kk : J E (mwX ad m r) b L (pc + 1) (.int (rd (gA m 12) i) :: st)) : J E (mwX ad m r) b L pc (.int i :: .ref (ad 13) :: st) :=
  j_zald hE (by rw [mwX_at hA m r (i := 13) (by omega)]; rfl) hin d kk
theorem gA_sA (m : MS) (a i : Nat) (x : Int32) (c : Nat) : gA (sA m a i x) c = if c = a then upd (gA m c) i x else gA m c := rfl
theorem gL_sL (m : MS) (a i : Nat) (x : Int64) (c : Nat) : gL (sL m a i x) c = if c = a then vp_updL (gL m c) i x else gL m c := rfl
theorem jm_iast {own : String} (hE : jOk E cc own) (hA : adOk ad) (a : Nat) (ha : a < 12) {i x : Int32} (hin : vp_in i (lenA a)) (d : decode cc pc = .ok (.iastore, 1)) (kk : J E (mwX ad (wA m a i x) r) b L (pc + 1) st) : J E (mwX ad m r) b L pc (.int x :: .int i :: .ref (ad (a + 1)) :: st) := by
  refine j_iast hE (n := lenA a) (f := gA m a) (by rw [mwX_at hA m r (i := a + 1) (by omega), mcell_a ad m ha]) hin d ?_
  rw [mwX_up hA (m' := wA m a i x) (by omega) (by rw [mcell_a ad _ ha]; unfold wA; rw [gA_sA, if_pos rfl]) (mc_a a _ x (by omega))]
  exact kk
theorem jm_zast {own : String} (hE : jOk E cc own) (hA : adOk ad) {i x : Int32} (hin : vp_in i 4) (hx : vp_nar .boolean x = x) (d : decode cc pc = .ok (.bastore, 1)) (kk : J E (mwX ad (wA m 12 i x) r) b L (pc + 1) st) : J E (mwX ad m r) b L pc (.int x :: .int i :: .ref (ad 13) :: st) := by
  refine j_zast hE (n := 4) (f := gA m 12) (by rw [mwX_at hA m r (i := 13) (by omega)]; rfl) hin hx d ?_
  rw [mwX_up hA (m' := wA m 12 i x) (i := 13) (e := .inl (3, 4, .inl (upd (gA m 12) i.toNatClampNeg x))) (by omega) rfl (mc_a 12 _ x (by omega))]
  exact kk
theorem jm_last {own : String} (hE : jOk E cc own) (hA : adOk ad) (a : Nat) (ha : a < 4) {i : Int32} {x : Int64} (hin : vp_in i (lenL a)) (d : decode cc pc = .ok (.lastore, 1)) (kk : J E (mwX ad (wL m a i x) r) b L (pc + 1) st) : J E (mwX ad m r) b L pc (.long x :: .int i :: .ref (ad (a + 14)) :: st) := by
  refine j_last hE (n := lenL a) (f := gL m a) (by rw [mwX_at hA m r (i := a + 14) (by omega), mcell_l ad m ha]) hin d ?_
  rw [mwX_up hA (m' := wL m a i x) (by omega) (by rw [mcell_l ad _ ha]; unfold wL; rw [gL_sL, if_pos rfl]) (mc_l a _ x (by omega))]
  exact kk
theorem mIs (hA : adOk ad) : gIs (mwX ad m r) (ad 0) RX6 := ⟨true, 5, mflds ad m, _, mwX_at hA m r (i := 0) (by decide), rfl, rfl⟩
/-- what a method of the model says: the world behind is the model's, changed, over the same rest -/
abbrev KMI (ad : Nat → Nat) (r : GW) (K : Int32 → MS → Prop) : Int32 → GW → Prop := fun v u => ∃ m', u = mwX ad m' r ∧ K v m'
abbrev KMV (ad : Nat → Nat) (r : GW) (K : MS → Prop) : GW → Prop := fun u => ∃ m', u = mwX ad m' r ∧ K m'
abbrev KPI (w : GW) (K : Int32 → Prop) : Int32 → GW → Prop := fun v u => u = w ∧ K v
abbrev KPV (w : GW) (K : Prop) : GW → Prop := fun u => u = w ∧ K
theorem jm_cI (hE : jOk E cc RX6) (hA : adOk ad) {f lo : Nat} (hR : jRoom E f lo) {y : MethodName} {bytes : ByteArray} {maxL index fr lc : Nat} {ty : FieldType} {As rest : List Value} {K : Int32 → MS → Prop} (hM : CtI E.1.2.1 y bytes maxL ty ({ frames := fr, cells := 0, slots := 0, locals := lc }) E.2.2.1 (.ref (ad 0) :: As) (mwX ad m r) (KMI ad r K))
    (hy : y.cls = RX6) (hq : GoodIn lw_all (wsV RX6 index y.cls y (ws_ y bytes maxL (some ty)))) (hd : jD y As.length) (hf : fr + 1 ≤ f ∧ 8 + (maxL + 11) + lc ≤ lo) (hst : st = As.reverse ++ .ref (ad 0) :: rest) (hcat : (rest.map fun v => v.category).sum ≤ 8) (d : decode cc pc = .ok (.invokevirtual index, 3))
    (k : ∀ (v : Int32) (m' : MS), K v m' → J E (mwX ad m' r) b L (pc + 3) (.int v :: rest)) : J E (mwX ad m r) b L pc st :=
  j_cvI hE hR hM hq hd hf ⟨Nat.zero_le _, Nat.zero_le _⟩ (by rw [hy]; exact mIs hA) hst hcat d (fun v u ⟨m', hu, hk⟩ => by rw [hu]; exact k v m' hk)
theorem jm_cV (hE : jOk E cc RX6) (hA : adOk ad) {f lo : Nat} (hR : jRoom E f lo) {y : MethodName} {bytes : ByteArray} {maxL index fr lc : Nat} {As rest : List Value} {K : MS → Prop} (hM : CtV E.1.2.1 y bytes maxL ({ frames := fr, cells := 0, slots := 0, locals := lc }) E.2.2.1 (.ref (ad 0) :: As) (mwX ad m r) (KMV ad r K))
    (hy : y.cls = RX6) (hq : GoodIn lw_all (wsV RX6 index y.cls y (ws_ y bytes maxL none))) (hd : jD y As.length) (hf : fr + 1 ≤ f ∧ 8 + (maxL + 11) + lc ≤ lo) (hst : st = As.reverse ++ .ref (ad 0) :: rest) (hcat : (rest.map fun v => v.category).sum ≤ 8) (d : decode cc pc = .ok (.invokevirtual index, 3))
    (k : ∀ (m' : MS), K m' → J E (mwX ad m' r) b L (pc + 3) rest) : J E (mwX ad m r) b L pc st :=
  j_cvV hE hR hM hq hd hf ⟨Nat.zero_le _, Nat.zero_le _⟩ (by rw [hy]; exact mIs hA) hst hcat d (fun u ⟨m', hu, hk⟩ => by rw [hu]; exact k m' hk)
theorem jm_pI (hE : jOk E cc RX6) (hA : adOk ad) {f lo : Nat} (hR : jRoom E f lo) {y : MethodName} {bytes : ByteArray} {maxL index fr lc : Nat} {ty : FieldType} {As rest : List Value} {K : Int32 → Prop} (hM : CtI E.1.2.1 y bytes maxL ty ({ frames := fr, cells := 0, slots := 0, locals := lc }) E.2.2.1 (.ref (ad 0) :: As) (mwX ad m r) (KPI (mwX ad m r) K))
    (hy : y.cls = RX6) (hq : GoodIn lw_all (wsV RX6 index y.cls y (ws_ y bytes maxL (some ty)))) (hd : jD y As.length) (hf : fr + 1 ≤ f ∧ 8 + (maxL + 11) + lc ≤ lo) (hst : st = As.reverse ++ .ref (ad 0) :: rest) (hcat : (rest.map fun v => v.category).sum ≤ 8) (d : decode cc pc = .ok (.invokevirtual index, 3))
    (k : ∀ (v : Int32), K v → J E (mwX ad m r) b L (pc + 3) (.int v :: rest)) : J E (mwX ad m r) b L pc st :=
  j_cvI hE hR hM hq hd hf ⟨Nat.zero_le _, Nat.zero_le _⟩ (by rw [hy]; exact mIs hA) hst hcat d (fun v u ⟨hu, hk⟩ => by rw [hu]; exact k v hk)
theorem j_psI {own : String} {w : GW} (hE : jOk E cc own) {f lo : Nat} (hR : jRoom E f lo) {y : MethodName} {bytes : ByteArray} {maxL index fr lc : Nat} {ty : FieldType} {As rest : List Value} {K : Int32 → Prop} (hM : CtI E.1.2.1 y bytes maxL ty ({ frames := fr, cells := 0, slots := 0, locals := lc }) E.2.2.1 As w (KPI w K))
    (hq : GoodIn lw_all (va_wsS own index y (ws_ y bytes maxL (some ty)))) (hd : jD y As.length) (hf : fr + 1 ≤ f ∧ 8 + (maxL + 11) + lc ≤ lo) (hst : st = As.reverse ++ rest) (hcat : (rest.map fun v => v.category).sum ≤ 8) (d : decode cc pc = .ok (.invokestatic index, 3))
    (k : ∀ (v : Int32), K v → J E w b L (pc + 3) (.int v :: rest)) : J E w b L pc st :=
  j_csI hE hR hM hq hd hf ⟨Nat.zero_le _, Nat.zero_le _⟩ hst hcat d (fun v u ⟨hu, hk⟩ => by rw [hu]; exact k v hk)
/-- a value with its own name -/
theorem j_top {w : GW} {x : Value} (k : J E w b L pc (x :: st)) : J E w b L pc (x :: st) := k
end MR2
/-! the constants that the code pushes -/
theorem kc_m8 : Int32.ofInt (-8) = (-8) := by decide +kernel
theorem kc_m1 : Int32.ofInt (-1) = (-1) := by decide +kernel
theorem kc_0 : Int32.ofInt 0 = 0 := by decide +kernel
theorem kc_1 : Int32.ofInt 1 = 1 := by decide +kernel
theorem kc_2 : Int32.ofInt 2 = nI 2 := by decide +kernel
theorem kc_3 : Int32.ofInt 3 = nI 3 := by decide +kernel
theorem kc_4 : Int32.ofInt 4 = nI 4 := by decide +kernel
theorem kc_5 : Int32.ofInt 5 = nI 5 := by decide +kernel
theorem kb_m2 : (Int8.ofInt (-2)).toInt32 = (-2) := by decide +kernel
theorem kb_6 : (Int8.ofInt 6).toInt32 = nI 6 := by decide +kernel
theorem kb_7 : (Int8.ofInt 7).toInt32 = nI 7 := by decide +kernel
theorem kb_8 : (Int8.ofInt 8).toInt32 = nI 8 := by decide +kernel
theorem kb_9 : (Int8.ofInt 9).toInt32 = nI 9 := by decide +kernel
theorem kb_10 : (Int8.ofInt 10).toInt32 = nI 10 := by decide +kernel
theorem kb_11 : (Int8.ofInt 11).toInt32 = nI 11 := by decide +kernel
theorem kb_12 : (Int8.ofInt 12).toInt32 = nI 12 := by decide +kernel
theorem kb_13 : (Int8.ofInt 13).toInt32 = nI 13 := by decide +kernel
theorem kb_14 : (Int8.ofInt 14).toInt32 = nI 14 := by decide +kernel
theorem kb_15 : (Int8.ofInt 15).toInt32 = nI 15 := by decide +kernel
theorem kb_16 : (Int8.ofInt 16).toInt32 = nI 16 := by decide +kernel
theorem kb_17 : (Int8.ofInt 17).toInt32 = nI 17 := by decide +kernel
theorem kb_18 : (Int8.ofInt 18).toInt32 = nI 18 := by decide +kernel
theorem kb_19 : (Int8.ofInt 19).toInt32 = nI 19 := by decide +kernel
theorem kb_20 : (Int8.ofInt 20).toInt32 = nI 20 := by decide +kernel
theorem kb_21 : (Int8.ofInt 21).toInt32 = nI 21 := by decide +kernel
theorem kb_22 : (Int8.ofInt 22).toInt32 = nI 22 := by decide +kernel
theorem kb_23 : (Int8.ofInt 23).toInt32 = nI 23 := by decide +kernel
theorem kb_24 : (Int8.ofInt 24).toInt32 = nI 24 := by decide +kernel
theorem kb_25 : (Int8.ofInt 25).toInt32 = nI 25 := by decide +kernel
theorem kb_26 : (Int8.ofInt 26).toInt32 = nI 26 := by decide +kernel
theorem kb_28 : (Int8.ofInt 28).toInt32 = nI 28 := by decide +kernel
theorem kb_30 : (Int8.ofInt 30).toInt32 = nI 30 := by decide +kernel
theorem kb_31 : (Int8.ofInt 31).toInt32 = nI 31 := by decide +kernel
theorem kb_32 : (Int8.ofInt 32).toInt32 = nI 32 := by decide +kernel
theorem kb_33 : (Int8.ofInt 33).toInt32 = nI 33 := by decide +kernel
theorem kb_38 : (Int8.ofInt 38).toInt32 = nI 38 := by decide +kernel
theorem kb_40 : (Int8.ofInt 40).toInt32 = nI 40 := by decide +kernel
theorem kb_41 : (Int8.ofInt 41).toInt32 = nI 41 := by decide +kernel
theorem kb_42 : (Int8.ofInt 42).toInt32 = nI 42 := by decide +kernel
theorem kb_43 : (Int8.ofInt 43).toInt32 = nI 43 := by decide +kernel
theorem kb_45 : (Int8.ofInt 45).toInt32 = nI 45 := by decide +kernel
theorem kb_48 : (Int8.ofInt 48).toInt32 = nI 48 := by decide +kernel
theorem kb_56 : (Int8.ofInt 56).toInt32 = nI 56 := by decide +kernel
theorem kb_57 : (Int8.ofInt 57).toInt32 = nI 57 := by decide +kernel
theorem kb_59 : (Int8.ofInt 59).toInt32 = nI 59 := by decide +kernel
theorem kb_60 : (Int8.ofInt 60).toInt32 = nI 60 := by decide +kernel
theorem kb_61 : (Int8.ofInt 61).toInt32 = nI 61 := by decide +kernel
theorem kb_62 : (Int8.ofInt 62).toInt32 = nI 62 := by decide +kernel
theorem kb_63 : (Int8.ofInt 63).toInt32 = nI 63 := by decide +kernel
theorem kb_64 : (Int8.ofInt 64).toInt32 = nI 64 := by decide +kernel
theorem kb_65 : (Int8.ofInt 65).toInt32 = nI 65 := by decide +kernel
theorem kb_66 : (Int8.ofInt 66).toInt32 = nI 66 := by decide +kernel
theorem kb_83 : (Int8.ofInt 83).toInt32 = nI 83 := by decide +kernel
theorem kb_88 : (Int8.ofInt 88).toInt32 = nI 88 := by decide +kernel
theorem kb_93 : (Int8.ofInt 93).toInt32 = nI 93 := by decide +kernel
theorem kb_96 : (Int8.ofInt 96).toInt32 = nI 96 := by decide +kernel
theorem kb_97 : (Int8.ofInt 97).toInt32 = nI 97 := by decide +kernel
theorem kb_99 : (Int8.ofInt 99).toInt32 = nI 99 := by decide +kernel
theorem kb_100 : (Int8.ofInt 100).toInt32 = nI 100 := by decide +kernel
theorem kb_120 : (Int8.ofInt 120).toInt32 = nI 120 := by decide +kernel
theorem kb_122 : (Int8.ofInt 122).toInt32 = nI 122 := by decide +kernel
theorem kb_124 : (Int8.ofInt 124).toInt32 = nI 124 := by decide +kernel
theorem kb_125 : (Int8.ofInt 125).toInt32 = nI 125 := by decide +kernel
theorem kb_126 : (Int8.ofInt 126).toInt32 = nI 126 := by decide +kernel
theorem kb_127 : (Int8.ofInt 127).toInt32 = nI 127 := by decide +kernel
theorem ks_250 : (Int16.ofInt 250).toInt32 = nI 250 := by decide +kernel
theorem ks_255 : (Int16.ofInt 255).toInt32 = nI 255 := by decide +kernel
theorem ks_495 : (Int16.ofInt 495).toInt32 = nI 495 := by decide +kernel
theorem ks_1000 : (Int16.ofInt 1000).toInt32 = nI 1000 := by decide +kernel
theorem ks_1002 : (Int16.ofInt 1002).toInt32 = nI 1002 := by decide +kernel
theorem ks_1023 : (Int16.ofInt 1023).toInt32 = nI 1023 := by decide +kernel
theorem ks_1024 : (Int16.ofInt 1024).toInt32 = nI 1024 := by decide +kernel
theorem ks_1100 : (Int16.ofInt 1100).toInt32 = nI 1100 := by decide +kernel
theorem ks_1386 : (Int16.ofInt 1386).toInt32 = nI 1386 := by decide +kernel
theorem ks_1387 : (Int16.ofInt 1387).toInt32 = nI 1387 := by decide +kernel
theorem ks_1392 : (Int16.ofInt 1392).toInt32 = nI 1392 := by decide +kernel
theorem ks_1398 : (Int16.ofInt 1398).toInt32 = nI 1398 := by decide +kernel
theorem ks_1404 : (Int16.ofInt 1404).toInt32 = nI 1404 := by decide +kernel
theorem ks_1452 : (Int16.ofInt 1452).toInt32 = nI 1452 := by decide +kernel
theorem ks_1453 : (Int16.ofInt 1453).toInt32 = nI 1453 := by decide +kernel
theorem ks_1470 : (Int16.ofInt 1470).toInt32 = nI 1470 := by decide +kernel
theorem ks_1518 : (Int16.ofInt 1518).toInt32 = nI 1518 := by decide +kernel
theorem ks_2200 : (Int16.ofInt 2200).toInt32 = nI 2200 := by decide +kernel
theorem ks_9999 : (Int16.ofInt 9999).toInt32 = nI 9999 := by decide +kernel
theorem mset_0 (ad : Nat → Nat) (m : MS) (x : Int32) : (mflds ad m).set 0 (.int x) = mflds ad (sF m 0 x) := rfl
theorem mset_1 (ad : Nat → Nat) (m : MS) (x : Int32) : (mflds ad m).set 2 (.int x) = mflds ad (sF m 1 x) := rfl
theorem mset_2 (ad : Nat → Nat) (m : MS) (x : Int32) : (mflds ad m).set 3 (.int x) = mflds ad (sF m 2 x) := rfl
theorem mset_3 (ad : Nat → Nat) (m : MS) (x : Int32) : (mflds ad m).set 7 (.int x) = mflds ad (sF m 3 x) := rfl
theorem mset_4 (ad : Nat → Nat) (m : MS) (x : Int32) : (mflds ad m).set 8 (.int x) = mflds ad (sF m 4 x) := rfl
theorem mset_5 (ad : Nat → Nat) (m : MS) (x : Int32) : (mflds ad m).set 13 (.int x) = mflds ad (sF m 5 x) := rfl
theorem mset_6 (ad : Nat → Nat) (m : MS) (x : Int32) : (mflds ad m).set 18 (.int x) = mflds ad (sF m 6 x) := rfl
theorem mset_7 (ad : Nat → Nat) (m : MS) (x : Int32) : (mflds ad m).set 19 (.int x) = mflds ad (sF m 7 x) := rfl
theorem mset_8 (ad : Nat → Nat) (m : MS) (x : Int32) : (mflds ad m).set 20 (.int x) = mflds ad (sF m 8 x) := rfl
theorem mset_9 (ad : Nat → Nat) (m : MS) (x : Int32) : (mflds ad m).set 25 (.int x) = mflds ad (sF m 9 x) := rfl
theorem mset_10 (ad : Nat → Nat) (m : MS) (x : Int32) : (mflds ad m).set 27 (.int x) = mflds ad (sF m 10 x) := rfl
theorem mset_11 (ad : Nat → Nat) (m : MS) (x : Int32) : (mflds ad m).set 29 (.int x) = mflds ad (sF m 11 x) := rfl
theorem mset_12 (ad : Nat → Nat) (m : MS) (x : Int32) : (mflds ad m).set 30 (.int x) = mflds ad (sF m 12 x) := rfl
theorem mset_g (ad : Nat → Nat) (m : MS) (x : Int64) : (mflds ad m).set 28 (.long x) = mflds ad (s0 m x) := rfl
