def wX2_init_0 (c : Nat → Option Nat) (x0 : Nat) (w0 : GW) (K : Prop) : Prop :=
  K
set_option maxRecDepth 100000 in
theorem bX2_init_0 {E : jE} (hE : jOk E cX2_init RX2) (hn : E.2.2.2.2 = 1) (hR : jRoom E 1 20) {c : Nat → Option Nat} (hc : E.2.2.1.2.2.2 = c) (hini : E.2.1.1.name = "<init>") {b : Nat × Nat} {w0 : GW} {K : Prop} (hK : jRv E (KPV w0 K)) {x0 : Nat}  (hw : wX2_init_0 c x0 w0 K) : J E w0 b [(0, .ref (x0))] 0 [] := by
  unfold wX2_init_0 at hw
  refine j_aload_n hE 0 dX2_init_0 rfl rfl ?_
  refine j_objInit hE hR q177 q_oi_inst q_oi_code (Nat.le_of_ble_eq_true rfl) (Nat.le_of_ble_eq_true rfl) dX2_init_1 ?_
  exact j_vret hE hK dX2_init_4 ⟨rfl, hw⟩
theorem jdX2_init : jD yX2_init 0 := by decide +kernel
abbrev wX2_init := wX2_init_0
theorem ctX2_init (l : Launch) (G : gG) {c : Nat → Option Nat} (hc : G.2.2.2 = c) (x0 : Nat) (w0 : GW) (K : Prop) (hw : wX2_init_0 c x0 w0 K) {F2 L2 : Nat} (h2 : 1 ≤ F2 ∧ 20 ≤ L2 := by exact ⟨Nat.le_refl _, Nat.le_refl _⟩) : CtV l yX2_init cX2_init 1 ({ frames := F2, cells := 0, slots := 0, locals := L2 }) G [.ref (x0)] w0 (KPV w0 K) :=
  CtV.ofI RX2 plainc_X2 rfl rfl (Nat.le_of_ble_eq_true rfl) (fun E hE hini hl hG hn hR hK => bX2_init_0 hE hn (hR.le h2.1 h2.2) (by rw [hG]; exact hc) hini hK hw)
def wJ0_init_0 (c : Nat → Option Nat) (x0 : Nat) (w0 : GW) (K : Prop) : Prop :=
  K
set_option maxRecDepth 100000 in
theorem bJ0_init_0 {E : jE} (hE : jOk E cJ0_init RJ0) (hn : E.2.2.2.2 = 1) (hR : jRoom E 1 20) {c : Nat → Option Nat} (hc : E.2.2.1.2.2.2 = c) (hini : E.2.1.1.name = "<init>") {b : Nat × Nat} {w0 : GW} {K : Prop} (hK : jRv E (KPV w0 K)) {x0 : Nat}  (hw : wJ0_init_0 c x0 w0 K) : J E w0 b [(0, .ref (x0))] 0 [] := by
  unfold wJ0_init_0 at hw
  refine j_aload_n hE 0 dJ0_init_0 rfl rfl ?_
  refine j_objInit hE hR q221 q_oi_inst q_oi_code (Nat.le_of_ble_eq_true rfl) (Nat.le_of_ble_eq_true rfl) dJ0_init_1 ?_
  exact j_vret hE hK dJ0_init_4 ⟨rfl, hw⟩
theorem jdJ0_init : jD yJ0_init 0 := by decide +kernel
abbrev wJ0_init := wJ0_init_0
theorem ctJ0_init (l : Launch) (G : gG) {c : Nat → Option Nat} (hc : G.2.2.2 = c) (x0 : Nat) (w0 : GW) (K : Prop) (hw : wJ0_init_0 c x0 w0 K) {F2 L2 : Nat} (h2 : 1 ≤ F2 ∧ 20 ≤ L2 := by exact ⟨Nat.le_refl _, Nat.le_refl _⟩) : CtV l yJ0_init cJ0_init 1 ({ frames := F2, cells := 0, slots := 0, locals := L2 }) G [.ref (x0)] w0 (KPV w0 K) :=
  CtV.ofI RJ0 plainc_J0 rfl rfl (Nat.le_of_ble_eq_true rfl) (fun E hE hini hl hG hn hR hK => bJ0_init_0 hE hn (hR.le h2.1 h2.2) (by rw [hG]; exact hc) hini hK hw)
def wJ1_init_0 (c : Nat → Option Nat) (x0 : Nat) (w : GW) (K : GW → Prop) : Prop :=
  wJ0_init c x0 w (∃ (n1 : Nat) (fs2 : List Value), w x0 = some (true, .inr (n1, fs2)) ∧ n1 ∈ ([20] : List Nat) ∧ 0 < fs2.length ∧ (∀ w6 : GW, w6 = gup w x0 (.inr (n1, fs2.set 0 (.int ((0 : Int32))))) → (K w6)))
set_option maxRecDepth 100000 in
theorem bJ1_init_0 {E : jE} (hE : jOk E cJ1_init RJ1) (hn : E.2.2.2.2 = 1) (hR : jRoom E 2 40) {c : Nat → Option Nat} (hc : E.2.2.1.2.2.2 = c) (hini : E.2.1.1.name = "<init>") {b : Nat × Nat} {K : GW → Prop} (hK : jRv E (K)) {x0 : Nat} {w : GW}  (hw : wJ1_init_0 c x0 w K) : J E w b [(0, .ref (x0))] 0 [] := by
  unfold wJ1_init_0 at hw
  refine j_aload_n hE 0 dJ1_init_0 rfl rfl ?_
  refine jc_vp (jr_I hE hR (As := []) (rest := []) ((ctJ0_init E.1.2.1 E.2.2.1 hc _ _ _ hw) E.2.2.2.1) (lw_meth q220) q124 q218 q219 rfl jdJ0_init ⟨Nat.le_of_ble_eq_true rfl, Nat.le_of_ble_eq_true rfl⟩ ⟨Nat.zero_le _, Nat.zero_le _⟩  rfl (Nat.le_of_ble_eq_true rfl) dJ1_init_1) (fun  hw => ?_)
  refine j_b0 ?_
  refine j_aload_n hE 0 dJ1_init_4 rfl rfl ?_
  refine j_iconst hE dJ1_init_5 kc_0 ?_
  obtain ⟨n1, fs2, h3, h4, h5, hw⟩ := hw
  refine j_putX hE h4 gw_java_util_AbstractList_modCount_J1 q228 h3 rfl rfl h5 dJ1_init_6 ?_
  refine j_nw (fun w6 e_w6 => ?_)
  replace hw := hw w6 e_w6
  exact j_vret hE hK dJ1_init_9 hw
theorem jdJ1_init : jD yJ1_init 0 := by decide +kernel
abbrev wJ1_init := wJ1_init_0
theorem ctJ1_init (l : Launch) (G : gG) {c : Nat → Option Nat} (hc : G.2.2.2 = c) (x0 : Nat) (w : GW) (K : GW → Prop) (hw : wJ1_init_0 c x0 w K) {F2 L2 : Nat} (h2 : 2 ≤ F2 ∧ 40 ≤ L2 := by exact ⟨Nat.le_refl _, Nat.le_refl _⟩) : CtV l yJ1_init cJ1_init 1 ({ frames := F2, cells := 0, slots := 0, locals := L2 }) G [.ref (x0)] w (K) :=
  CtV.ofI RJ1 plainc_J1 rfl rfl (Nat.le_of_ble_eq_true rfl) (fun E hE hini hl hG hn hR hK => bJ1_init_0 hE hn (hR.le h2.1 h2.2) (by rw [hG]; exact hc) hini hK hw)
def wJ2_init_0 (c : Nat → Option Nat) (x0 : Nat) (x1 : Int32) (w : GW) (bb : Nat × Nat) (K : GW → Prop) : Prop :=
  wJ1_init c x0 w (fun w1 => (x1 ≤ 0 → ((¬ x1 = 0 → (False)) ∧ (x1 = 0 → (∀ r4 : Option Nat, r4 = c 12 → (∃ (n5 : Nat) (fs6 : List Value), w1 x0 = some (true, .inr (n5, fs6)) ∧ n5 ∈ ([20] : List Nat) ∧ 1 < fs6.length ∧ (∀ w10 : GW, w10 = gup w1 x0 (.inr (n5, fs6.set 1 (va_rf r4))) → (K w10))))))) ∧ (¬ x1 ≤ 0 → (¬ x1 < 0 ∧ (x1).toNatClampNeg * 4 ≤ 536870912 ∧ 1 ≤ bb.1 ∧ (x1).toNatClampNeg ≤ bb.2 ∧ ∀ qa16 : Nat, w1 qa16 = none → (∀ w17 : GW, w17 = gup w1 qa16 (.inl (4, (x1).toNatClampNeg, .inr (.inr (.inr (.inr (fun _ => none)))))) → (∀ b18 : Nat × Nat, b18 = (bb.1 - 1, bb.2 - (x1).toNatClampNeg) → (∃ (n19 : Nat) (fs20 : List Value), w17 x0 = some (true, .inr (n19, fs20)) ∧ n19 ∈ ([20] : List Nat) ∧ 1 < fs20.length ∧ (∀ w24 : GW, w24 = gup w17 x0 (.inr (n19, fs20.set 1 (va_rf (some qa16)))) → (K w24))))))))
set_option maxRecDepth 100000 in
theorem bJ2_init_0 {E : jE} (hE : jOk E cJ2_init RJ2) (hn : E.2.2.2.2 = 2) (hR : jRoom E 3 60) {c : Nat → Option Nat} (hc : E.2.2.1.2.2.2 = c) (hini : E.2.1.1.name = "<init>") {K : GW → Prop} (hK : jRv E (K)) {x0 : Nat} {x1 : Int32} {w : GW} {bb : Nat × Nat}  (hw : wJ2_init_0 c x0 x1 w bb K) : J E w bb [(0, .ref (x0)), (1, .int (x1))] 0 [] := by
  unfold wJ2_init_0 at hw
  refine j_aload_n hE 0 dJ2_init_0 rfl rfl ?_
  refine jc_v (jr_I hE hR (As := []) (rest := []) ((ctJ1_init E.1.2.1 E.2.2.1 hc _ _ _ hw) E.2.2.2.1) (lw_meth q217) q125 q215 q216 rfl jdJ1_init ⟨Nat.le_of_ble_eq_true rfl, Nat.le_of_ble_eq_true rfl⟩ ⟨Nat.zero_le _, Nat.zero_le _⟩  rfl (Nat.le_of_ble_eq_true rfl) dJ2_init_1) (fun w1 hw => ?_)
  refine j_b0 ?_
  refine j_iload_n hE 1 dJ2_init_4 rfl rfl ?_
  refine j_if_le hE 19 dJ2_init_5 (by decide) (fun c2 => ?_) (fun c2 => ?_)
  · replace hw := hw.1 c2
    refine j_iload_n hE 1 dJ2_init_19 rfl rfl ?_
    refine j_if_ne hE 33 dJ2_init_20 (by decide) (fun c3 => ?_) (fun c3 => ?_)
    · replace hw := hw.1 c3
      exact hw.elim
    · replace hw := hw.2 c3
      refine j_aload_n hE 0 dJ2_init_23 rfl rfl ?_
      have hst := hE.inv.2.2.2.1.2.1
      rw [hc] at hst
      obtain ⟨r4, e_r4⟩ : ∃ r9 : Option Nat, r9 = c 12 := ⟨_, rfl⟩
      replace hw := hw r4 e_r4
      rw [← e_r4] at hst
      refine j_gets hE q224 hst dJ2_init_24 ?_
      obtain ⟨n5, fs6, h7, h8, h9, hw⟩ := hw
      refine j_putX hE h8 gw_java_util_ArrayList_elementData_J2 q226 h7 (va_rf_nar _ _ (by decide)) (va_rf_fit _ _ (by decide)) h9 dJ2_init_27 ?_
      refine j_nw (fun w10 e_w10 => ?_)
      replace hw := hw w10 e_w10
      refine j_goto hE 60 dJ2_init_30 (by decide) ?_
      exact j_vret hE hK dJ2_init_60 hw
  · replace hw := hw.2 c2
    refine j_aload_n hE 0 dJ2_init_8 rfl rfl ?_
    refine j_iload_n hE 1 dJ2_init_9 rfl rfl ?_
    obtain ⟨h11, h12, h13, h14, hw⟩ := hw
    refine j_newq hE (t := 4) ⟨by decide, by decide⟩ q222 h11 h12 ⟨h13, h14⟩ dJ2_init_10 (fun qa16 h15 => ?_)
    replace hw := hw qa16 h15
    refine j_nw (fun w17 e_w17 => ?_)
    replace hw := hw w17 e_w17
    refine j_nb (fun b18 e_b18 => ?_)
    replace hw := hw b18 e_b18
    obtain ⟨n19, fs20, h21, h22, h23, hw⟩ := hw
    refine j_putX hE h22 gw_java_util_ArrayList_elementData_J2 q226 h21 rfl rfl h23 dJ2_init_13 ?_
    refine j_nw (fun w24 e_w24 => ?_)
    replace hw := hw w24 e_w24
    refine j_goto hE 60 dJ2_init_16 (by decide) ?_
    exact j_vret hE hK dJ2_init_60 hw
theorem jdJ2_init : jD yJ2_init 1 := by decide +kernel
abbrev wJ2_init := wJ2_init_0
theorem ctJ2_init (l : Launch) (G : gG) {c : Nat → Option Nat} (hc : G.2.2.2 = c) (x0 : Nat) (x1 : Int32) (w : GW) (bb : Nat × Nat) (K : GW → Prop) (hw : wJ2_init_0 c x0 x1 w bb K) {F2 L2 : Nat} (h2 : 3 ≤ F2 ∧ 60 ≤ L2 := by exact ⟨Nat.le_refl _, Nat.le_refl _⟩) : CtV l yJ2_init cJ2_init 2 ({ frames := F2, cells := bb.1, slots := bb.2, locals := L2 }) G [.ref (x0), .int (x1)] w (K) :=
  CtV.ofI RJ2 plainc_J2 rfl rfl (Nat.le_of_ble_eq_true rfl) (fun E hE hini hl hG hn hR hK => bJ2_init_0 hE hn (hR.le h2.1 h2.2) (by rw [hG]; exact hc) hini hK hw)
def wX3_init_0 (c : Nat → Option Nat) (x0 : Nat) (w : GW) (bb : Nat × Nat) (K : GW → Prop) : Prop :=
  1 ≤ bb.1 ∧ 3 ≤ bb.2 ∧ ∀ qa3 : Nat, w qa3 = none → (∀ w5 : GW, w5 = gup w qa3 (.inr (20, [.int 0, va_rf none, .int 0])) → (∀ b6 : Nat × Nat, b6 = (bb.1 - 1, bb.2 - 3) → (∃ cb7 : Nat × Nat, (cb7.1 ≤ b6.1 ∧ cb7.2 ≤ b6.2) ∧ (wJ2_init c qa3 (nI 2) w5 cb7 (fun w9 => ∀ b10 : Nat × Nat, b10 = (b6.1 - cb7.1, b6.2 - cb7.2) → (∃ (n11 : Nat) (fs12 : List Value), w9 x0 = some (true, .inr (n11, fs12)) ∧ n11 ∈ ([2] : List Nat) ∧ 0 < fs12.length ∧ (∀ w16 : GW, w16 = gup w9 x0 (.inr (n11, fs12.set 0 (va_rf (some qa3)))) → (1 ≤ b10.1 ∧ 3 ≤ b10.2 ∧ ∀ qa19 : Nat, w16 qa19 = none → (∀ w21 : GW, w21 = gup w16 qa19 (.inr (20, [.int 0, va_rf none, .int 0])) → (∀ b22 : Nat × Nat, b22 = (b10.1 - 1, b10.2 - 3) → (∃ cb23 : Nat × Nat, (cb23.1 ≤ b22.1 ∧ cb23.2 ≤ b22.2) ∧ (wJ2_init c qa19 (nI 2) w21 cb23 (fun w25 => ∀ b26 : Nat × Nat, b26 = (b22.1 - cb23.1, b22.2 - cb23.2) → (∃ (n27 : Nat) (fs28 : List Value), w25 x0 = some (true, .inr (n27, fs28)) ∧ n27 ∈ ([2] : List Nat) ∧ 1 < fs28.length ∧ (∀ w32 : GW, w32 = gup w25 x0 (.inr (n27, fs28.set 1 (va_rf (some qa19)))) → (1 ≤ b26.1 ∧ 3 ≤ b26.2 ∧ ∀ qa35 : Nat, w32 qa35 = none → (∀ w37 : GW, w37 = gup w32 qa35 (.inr (20, [.int 0, va_rf none, .int 0])) → (∀ b38 : Nat × Nat, b38 = (b26.1 - 1, b26.2 - 3) → (∃ cb39 : Nat × Nat, (cb39.1 ≤ b38.1 ∧ cb39.2 ≤ b38.2) ∧ (wJ2_init c qa35 (nI 2) w37 cb39 (fun w41 => ∀ b42 : Nat × Nat, b42 = (b38.1 - cb39.1, b38.2 - cb39.2) → (∃ (n43 : Nat) (fs44 : List Value), w41 x0 = some (true, .inr (n43, fs44)) ∧ n43 ∈ ([2] : List Nat) ∧ 2 < fs44.length ∧ (∀ w48 : GW, w48 = gup w41 x0 (.inr (n43, fs44.set 2 (va_rf (some qa35)))) → (¬ (nI 5) < 0 ∧ (nI 5).toNatClampNeg * 4 ≤ 536870912 ∧ 1 ≤ b42.1 ∧ (nI 5).toNatClampNeg ≤ b42.2 ∧ ∀ qa54 : Nat, w48 qa54 = none → (∀ w55 : GW, w55 = gup w48 qa54 (.inl (0, (nI 5).toNatClampNeg, gZero 0)) → (∀ b56 : Nat × Nat, b56 = (b42.1 - 1, b42.2 - (nI 5).toNatClampNeg) → (∃ (n57 : Nat) (fs58 : List Value), w55 x0 = some (true, .inr (n57, fs58)) ∧ n57 ∈ ([2] : List Nat) ∧ 3 < fs58.length ∧ (∀ w62 : GW, w62 = gup w55 x0 (.inr (n57, fs58.set 3 (va_rf (some qa54)))) → (¬ (nI 5) < 0 ∧ (nI 5).toNatClampNeg * 4 ≤ 536870912 ∧ 1 ≤ b56.1 ∧ (nI 5).toNatClampNeg ≤ b56.2 ∧ ∀ qa68 : Nat, w62 qa68 = none → (∀ w69 : GW, w69 = gup w62 qa68 (.inl (0, (nI 5).toNatClampNeg, gZero 0)) → (∀ b70 : Nat × Nat, b70 = (b56.1 - 1, b56.2 - (nI 5).toNatClampNeg) → (∃ (n71 : Nat) (fs72 : List Value), w69 x0 = some (true, .inr (n71, fs72)) ∧ n71 ∈ ([2] : List Nat) ∧ 4 < fs72.length ∧ (∀ w76 : GW, w76 = gup w69 x0 (.inr (n71, fs72.set 4 (va_rf (some qa68)))) → (¬ (nI 12) < 0 ∧ (nI 12).toNatClampNeg * 4 ≤ 536870912 ∧ 1 ≤ b70.1 ∧ (nI 12).toNatClampNeg ≤ b70.2 ∧ ∀ qa82 : Nat, w76 qa82 = none → (∀ w83 : GW, w83 = gup w76 qa82 (.inl (0, (nI 12).toNatClampNeg, gZero 0)) → (∀ b84 : Nat × Nat, b84 = (b70.1 - 1, b70.2 - (nI 12).toNatClampNeg) → (∃ (n85 : Nat) (fs86 : List Value), w83 x0 = some (true, .inr (n85, fs86)) ∧ n85 ∈ ([2] : List Nat) ∧ 5 < fs86.length ∧ (∀ w90 : GW, w90 = gup w83 x0 (.inr (n85, fs86.set 5 (va_rf (some qa82)))) → (K w90)))))))))))))))))))))))))))))))))))))))
set_option maxRecDepth 100000 in
theorem bX3_init_0 {E : jE} (hE : jOk E cX3_init RX3) (hn : E.2.2.2.2 = 1) (hR : jRoom E 4 81) {c : Nat → Option Nat} (hc : E.2.2.1.2.2.2 = c) (hini : E.2.1.1.name = "<init>") {K : GW → Prop} (hK : jRv E (K)) {x0 : Nat} {w : GW} {bb : Nat × Nat}  (hw : wX3_init_0 c x0 w bb K) : J E w bb [(0, .ref (x0))] 0 [] := by
  unfold wX3_init_0 at hw
  refine j_aload_n hE 0 dX3_init_0 rfl rfl ?_
  refine j_objInit hE hR q209 q_oi_inst q_oi_code (Nat.le_of_ble_eq_true rfl) (Nat.le_of_ble_eq_true rfl) dX3_init_1 ?_
  refine j_aload_n hE 0 dX3_init_4 rfl rfl ?_
  obtain ⟨h1, h2, hw⟩ := hw
  refine j_new (c := 20) (fs := [.int 0, va_rf none, .int 0]) hE gok_20 q210 q211 q126 dfl_20 ⟨h1, h2⟩ dX3_init_5 (fun qa3 h4 => ?_)
  replace hw := hw qa3 h4
  refine j_nw (fun w5 e_w5 => ?_)
  replace hw := hw w5 e_w5
  refine j_nb (fun b6 e_b6 => ?_)
  replace hw := hw b6 e_b6
  refine j_dup hE dX3_init_8 rfl ?_
  refine j_iconst hE dX3_init_9 kc_2 ?_
  obtain ⟨cb7, h8, hw⟩ := hw
  refine jc_v (jr_I hE hR (As := [.int (nI 2)]) (rest := [.ref (qa3), .ref (x0)]) ((ctJ2_init E.1.2.1 E.2.2.1 hc _ _ _ _ _ hw) E.2.2.2.1) (lw_meth q214) q126 q212 q213 rfl jdJ2_init ⟨Nat.le_of_ble_eq_true rfl, Nat.le_of_ble_eq_true rfl⟩ h8  rfl (Nat.le_of_ble_eq_true rfl) dX3_init_10) (fun w9 hw => ?_)
  refine j_nb (fun b10 e_b10 => ?_)
  replace hw := hw b10 e_b10
  obtain ⟨n11, fs12, h13, h14, h15, hw⟩ := hw
  refine j_putXF hE hini h14 gw_GlassStreet_Houses_panes_X3 q238 h13 rfl rfl h15 dX3_init_13 ?_
  refine j_nw (fun w16 e_w16 => ?_)
  replace hw := hw w16 e_w16
  refine j_aload_n hE 0 dX3_init_16 rfl rfl ?_
  obtain ⟨h17, h18, hw⟩ := hw
  refine j_new (c := 20) (fs := [.int 0, va_rf none, .int 0]) hE gok_20 q210 q211 q126 dfl_20 ⟨h17, h18⟩ dX3_init_17 (fun qa19 h20 => ?_)
  replace hw := hw qa19 h20
  refine j_nw (fun w21 e_w21 => ?_)
  replace hw := hw w21 e_w21
  refine j_nb (fun b22 e_b22 => ?_)
  replace hw := hw b22 e_b22
  refine j_dup hE dX3_init_20 rfl ?_
  refine j_iconst hE dX3_init_21 kc_2 ?_
  obtain ⟨cb23, h24, hw⟩ := hw
  refine jc_v (jr_I hE hR (As := [.int (nI 2)]) (rest := [.ref (qa19), .ref (x0)]) ((ctJ2_init E.1.2.1 E.2.2.1 hc _ _ _ _ _ hw) E.2.2.2.1) (lw_meth q214) q126 q212 q213 rfl jdJ2_init ⟨Nat.le_of_ble_eq_true rfl, Nat.le_of_ble_eq_true rfl⟩ h24  rfl (Nat.le_of_ble_eq_true rfl) dX3_init_22) (fun w25 hw => ?_)
  refine j_nb (fun b26 e_b26 => ?_)
  replace hw := hw b26 e_b26
  obtain ⟨n27, fs28, h29, h30, h31, hw⟩ := hw
  refine j_putXF hE hini h30 gw_GlassStreet_Houses_people_X3 q241 h29 rfl rfl h31 dX3_init_25 ?_
  refine j_nw (fun w32 e_w32 => ?_)
  replace hw := hw w32 e_w32
  refine j_aload_n hE 0 dX3_init_28 rfl rfl ?_
  obtain ⟨h33, h34, hw⟩ := hw
  refine j_new (c := 20) (fs := [.int 0, va_rf none, .int 0]) hE gok_20 q210 q211 q126 dfl_20 ⟨h33, h34⟩ dX3_init_29 (fun qa35 h36 => ?_)
  replace hw := hw qa35 h36
  refine j_nw (fun w37 e_w37 => ?_)
  replace hw := hw w37 e_w37
  refine j_nb (fun b38 e_b38 => ?_)
  replace hw := hw b38 e_b38
  refine j_dup hE dX3_init_32 rfl ?_
  refine j_iconst hE dX3_init_33 kc_2 ?_
  obtain ⟨cb39, h40, hw⟩ := hw
  refine jc_v (jr_I hE hR (As := [.int (nI 2)]) (rest := [.ref (qa35), .ref (x0)]) ((ctJ2_init E.1.2.1 E.2.2.1 hc _ _ _ _ _ hw) E.2.2.2.1) (lw_meth q214) q126 q212 q213 rfl jdJ2_init ⟨Nat.le_of_ble_eq_true rfl, Nat.le_of_ble_eq_true rfl⟩ h40  rfl (Nat.le_of_ble_eq_true rfl) dX3_init_34) (fun w41 hw => ?_)
  refine j_nb (fun b42 e_b42 => ?_)
  replace hw := hw b42 e_b42
  obtain ⟨n43, fs44, h45, h46, h47, hw⟩ := hw
  refine j_putXF hE hini h46 gw_GlassStreet_Houses_deeds_X3 q244 h45 rfl rfl h47 dX3_init_37 ?_
  refine j_nw (fun w48 e_w48 => ?_)
  replace hw := hw w48 e_w48
  refine j_aload_n hE 0 dX3_init_40 rfl rfl ?_
  refine j_iconst hE dX3_init_41 kc_5 ?_
  obtain ⟨h49, h50, h51, h52, hw⟩ := hw
  refine j_newarr hE (atype := .int) (t := 0) (by decide) rfl q276 h49 h50 ⟨h51, h52⟩ dX3_init_42 (fun qa54 h53 => ?_)
  replace hw := hw qa54 h53
  refine j_nw (fun w55 e_w55 => ?_)
  replace hw := hw w55 e_w55
  refine j_nb (fun b56 e_b56 => ?_)
  replace hw := hw b56 e_b56
  obtain ⟨n57, fs58, h59, h60, h61, hw⟩ := hw
  refine j_putXF hE hini h60 gw_GlassStreet_Houses_at_X3 q247 h59 rfl rfl h61 dX3_init_44 ?_
  refine j_nw (fun w62 e_w62 => ?_)
  replace hw := hw w62 e_w62
  refine j_aload_n hE 0 dX3_init_47 rfl rfl ?_
  refine j_iconst hE dX3_init_48 kc_5 ?_
  obtain ⟨h63, h64, h65, h66, hw⟩ := hw
  refine j_newarr hE (atype := .int) (t := 0) (by decide) rfl q276 h63 h64 ⟨h65, h66⟩ dX3_init_49 (fun qa68 h67 => ?_)
  replace hw := hw qa68 h67
  refine j_nw (fun w69 e_w69 => ?_)
  replace hw := hw w69 e_w69
  refine j_nb (fun b70 e_b70 => ?_)
  replace hw := hw b70 e_b70
  obtain ⟨n71, fs72, h73, h74, h75, hw⟩ := hw
  refine j_putXF hE hini h74 gw_GlassStreet_Houses_harm_X3 q250 h73 rfl rfl h75 dX3_init_51 ?_
  refine j_nw (fun w76 e_w76 => ?_)
  replace hw := hw w76 e_w76
  refine j_aload_n hE 0 dX3_init_54 rfl rfl ?_
  refine j_bipush hE dX3_init_55 kb_12 ?_
  obtain ⟨h77, h78, h79, h80, hw⟩ := hw
  refine j_newarr hE (atype := .int) (t := 0) (by decide) rfl q276 h77 h78 ⟨h79, h80⟩ dX3_init_57 (fun qa82 h81 => ?_)
  replace hw := hw qa82 h81
  refine j_nw (fun w83 e_w83 => ?_)
  replace hw := hw w83 e_w83
  refine j_nb (fun b84 e_b84 => ?_)
  replace hw := hw b84 e_b84
  obtain ⟨n85, fs86, h87, h88, h89, hw⟩ := hw
  refine j_putXF hE hini h88 gw_GlassStreet_Houses_light_X3 q253 h87 rfl rfl h89 dX3_init_59 ?_
  refine j_nw (fun w90 e_w90 => ?_)
  replace hw := hw w90 e_w90
  exact j_vret hE hK dX3_init_62 hw
theorem jdX3_init : jD yX3_init 0 := by decide +kernel
abbrev wX3_init := wX3_init_0
theorem ctX3_init (l : Launch) (G : gG) {c : Nat → Option Nat} (hc : G.2.2.2 = c) (x0 : Nat) (w : GW) (bb : Nat × Nat) (K : GW → Prop) (hw : wX3_init_0 c x0 w bb K) {F2 L2 : Nat} (h2 : 4 ≤ F2 ∧ 81 ≤ L2 := by exact ⟨Nat.le_refl _, Nat.le_refl _⟩) : CtV l yX3_init cX3_init 1 ({ frames := F2, cells := bb.1, slots := bb.2, locals := L2 }) G [.ref (x0)] w (K) :=
  CtV.ofI RX3 plainc_X3 rfl rfl (Nat.le_of_ble_eq_true rfl) (fun E hE hini hl hG hn hR hK => bX3_init_0 hE hn (hR.le h2.1 h2.2) (by rw [hG]; exact hc) hini hK hw)
def wX5_init_0 (c : Nat → Option Nat) (x0 : Nat) (w : GW) (bb : Nat × Nat) (K : GW → Prop) : Prop :=
  ¬ (nI 6) < 0 ∧ (nI 6).toNatClampNeg * 4 ≤ 536870912 ∧ 1 ≤ bb.1 ∧ (nI 6).toNatClampNeg ≤ bb.2 ∧ ∀ qa6 : Nat, w qa6 = none → (∀ w7 : GW, w7 = gup w qa6 (.inl (0, (nI 6).toNatClampNeg, gZero 0)) → (∀ b8 : Nat × Nat, b8 = (bb.1 - 1, bb.2 - (nI 6).toNatClampNeg) → (∃ (n9 : Nat) (fs10 : List Value), w7 x0 = some (true, .inr (n9, fs10)) ∧ n9 ∈ ([4] : List Nat) ∧ 0 < fs10.length ∧ (∀ w14 : GW, w14 = gup w7 x0 (.inr (n9, fs10.set 0 (va_rf (some qa6)))) → (¬ (nI 6) < 0 ∧ (nI 6).toNatClampNeg * 4 ≤ 536870912 ∧ 1 ≤ b8.1 ∧ (nI 6).toNatClampNeg ≤ b8.2 ∧ ∀ qa20 : Nat, w14 qa20 = none → (∀ w21 : GW, w21 = gup w14 qa20 (.inl (0, (nI 6).toNatClampNeg, gZero 0)) → (∀ b22 : Nat × Nat, b22 = (b8.1 - 1, b8.2 - (nI 6).toNatClampNeg) → (∃ (n23 : Nat) (fs24 : List Value), w21 x0 = some (true, .inr (n23, fs24)) ∧ n23 ∈ ([4] : List Nat) ∧ 1 < fs24.length ∧ (∀ w28 : GW, w28 = gup w21 x0 (.inr (n23, fs24.set 1 (va_rf (some qa20)))) → (¬ (nI 6) < 0 ∧ (nI 6).toNatClampNeg * 4 ≤ 536870912 ∧ 1 ≤ b22.1 ∧ (nI 6).toNatClampNeg ≤ b22.2 ∧ ∀ qa34 : Nat, w28 qa34 = none → (∀ w35 : GW, w35 = gup w28 qa34 (.inl (0, (nI 6).toNatClampNeg, gZero 0)) → (∀ b36 : Nat × Nat, b36 = (b22.1 - 1, b22.2 - (nI 6).toNatClampNeg) → (∃ (n37 : Nat) (fs38 : List Value), w35 x0 = some (true, .inr (n37, fs38)) ∧ n37 ∈ ([4] : List Nat) ∧ 2 < fs38.length ∧ (∀ w42 : GW, w42 = gup w35 x0 (.inr (n37, fs38.set 2 (va_rf (some qa34)))) → (¬ (nI 6) < 0 ∧ (nI 6).toNatClampNeg * 4 ≤ 536870912 ∧ 1 ≤ b36.1 ∧ (nI 6).toNatClampNeg ≤ b36.2 ∧ ∀ qa48 : Nat, w42 qa48 = none → (∀ w49 : GW, w49 = gup w42 qa48 (.inl (0, (nI 6).toNatClampNeg, gZero 0)) → (∀ b50 : Nat × Nat, b50 = (b36.1 - 1, b36.2 - (nI 6).toNatClampNeg) → (∃ (n51 : Nat) (fs52 : List Value), w49 x0 = some (true, .inr (n51, fs52)) ∧ n51 ∈ ([4] : List Nat) ∧ 3 < fs52.length ∧ (∀ w56 : GW, w56 = gup w49 x0 (.inr (n51, fs52.set 3 (va_rf (some qa48)))) → (K w56))))))))))))))))))))
set_option maxRecDepth 100000 in
theorem bX5_init_0 {E : jE} (hE : jOk E cX5_init RX5) (hn : E.2.2.2.2 = 1) (hR : jRoom E 1 20) {c : Nat → Option Nat} (hc : E.2.2.1.2.2.2 = c) (hini : E.2.1.1.name = "<init>") {K : GW → Prop} (hK : jRv E (K)) {x0 : Nat} {w : GW} {bb : Nat × Nat}  (hw : wX5_init_0 c x0 w bb K) : J E w bb [(0, .ref (x0))] 0 [] := by
  unfold wX5_init_0 at hw
  refine j_aload_n hE 0 dX5_init_0 rfl rfl ?_
  refine j_objInit hE hR q291 q_oi_inst q_oi_code (Nat.le_of_ble_eq_true rfl) (Nat.le_of_ble_eq_true rfl) dX5_init_1 ?_
  refine j_aload_n hE 0 dX5_init_4 rfl rfl ?_
  refine j_bipush hE dX5_init_5 kb_6 ?_
  obtain ⟨h1, h2, h3, h4, hw⟩ := hw
  refine j_newarr hE (atype := .int) (t := 0) (by decide) rfl q276 h1 h2 ⟨h3, h4⟩ dX5_init_7 (fun qa6 h5 => ?_)
  replace hw := hw qa6 h5
  refine j_nw (fun w7 e_w7 => ?_)
  replace hw := hw w7 e_w7
  refine j_nb (fun b8 e_b8 => ?_)
  replace hw := hw b8 e_b8
  obtain ⟨n9, fs10, h11, h12, h13, hw⟩ := hw
  refine j_putXF hE hini h12 gw_GlassStreet_Marks_who_X5 q292 h11 rfl rfl h13 dX5_init_9 ?_
  refine j_nw (fun w14 e_w14 => ?_)
  replace hw := hw w14 e_w14
  refine j_aload_n hE 0 dX5_init_12 rfl rfl ?_
  refine j_bipush hE dX5_init_13 kb_6 ?_
  obtain ⟨h15, h16, h17, h18, hw⟩ := hw
  refine j_newarr hE (atype := .int) (t := 0) (by decide) rfl q276 h15 h16 ⟨h17, h18⟩ dX5_init_15 (fun qa20 h19 => ?_)
  replace hw := hw qa20 h19
  refine j_nw (fun w21 e_w21 => ?_)
  replace hw := hw w21 e_w21
  refine j_nb (fun b22 e_b22 => ?_)
  replace hw := hw b22 e_b22
  obtain ⟨n23, fs24, h25, h26, h27, hw⟩ := hw
  refine j_putXF hE hini h26 gw_GlassStreet_Marks_deed_X5 q294 h25 rfl rfl h27 dX5_init_17 ?_
  refine j_nw (fun w28 e_w28 => ?_)
  replace hw := hw w28 e_w28
  refine j_aload_n hE 0 dX5_init_20 rfl rfl ?_
  refine j_bipush hE dX5_init_21 kb_6 ?_
  obtain ⟨h29, h30, h31, h32, hw⟩ := hw
  refine j_newarr hE (atype := .int) (t := 0) (by decide) rfl q276 h29 h30 ⟨h31, h32⟩ dX5_init_23 (fun qa34 h33 => ?_)
  replace hw := hw qa34 h33
  refine j_nw (fun w35 e_w35 => ?_)
  replace hw := hw w35 e_w35
  refine j_nb (fun b36 e_b36 => ?_)
  replace hw := hw b36 e_b36
  obtain ⟨n37, fs38, h39, h40, h41, hw⟩ := hw
  refine j_putXF hE hini h40 gw_GlassStreet_Marks_cell_X5 q296 h39 rfl rfl h41 dX5_init_25 ?_
  refine j_nw (fun w42 e_w42 => ?_)
  replace hw := hw w42 e_w42
  refine j_aload_n hE 0 dX5_init_28 rfl rfl ?_
  refine j_bipush hE dX5_init_29 kb_6 ?_
  obtain ⟨h43, h44, h45, h46, hw⟩ := hw
  refine j_newarr hE (atype := .int) (t := 0) (by decide) rfl q276 h43 h44 ⟨h45, h46⟩ dX5_init_31 (fun qa48 h47 => ?_)
  replace hw := hw qa48 h47
  refine j_nw (fun w49 e_w49 => ?_)
  replace hw := hw w49 e_w49
  refine j_nb (fun b50 e_b50 => ?_)
  replace hw := hw b50 e_b50
  obtain ⟨n51, fs52, h53, h54, h55, hw⟩ := hw
  refine j_putXF hE hini h54 gw_GlassStreet_Marks_age_X5 q298 h53 rfl rfl h55 dX5_init_33 ?_
  refine j_nw (fun w56 e_w56 => ?_)
  replace hw := hw w56 e_w56
  exact j_vret hE hK dX5_init_36 hw
theorem jdX5_init : jD yX5_init 0 := by decide +kernel
abbrev wX5_init := wX5_init_0
theorem ctX5_init (l : Launch) (G : gG) {c : Nat → Option Nat} (hc : G.2.2.2 = c) (x0 : Nat) (w : GW) (bb : Nat × Nat) (K : GW → Prop) (hw : wX5_init_0 c x0 w bb K) {F2 L2 : Nat} (h2 : 1 ≤ F2 ∧ 20 ≤ L2 := by exact ⟨Nat.le_refl _, Nat.le_refl _⟩) : CtV l yX5_init cX5_init 1 ({ frames := F2, cells := bb.1, slots := bb.2, locals := L2 }) G [.ref (x0)] w (K) :=
  CtV.ofI RX5 plainc_X5 rfl rfl (Nat.le_of_ble_eq_true rfl) (fun E hE hini hl hG hn hR hK => bX5_init_0 hE hn (hR.le h2.1 h2.2) (by rw [hG]; exact hc) hini hK hw)
def wX4_init_22_b (c : Nat → Option Nat) (x0 : Nat) (x1 : Int32) (w : GW) (bb : Nat × Nat) (KL22 : Int32 × GW × (Nat × Nat) → Prop) (K : GW → Prop) : Prop :=
  ((nI 6) ≤ x1 → (K w)) ∧ (¬ (nI 6) ≤ x1 → (∃ f2 : Option Nat, gfm w x0 [3] 1 = some (va_rf f2) ∧ (1 ≤ bb.1 ∧ 5 ≤ bb.2 ∧ ∀ qa6 : Nat, w qa6 = none → (∀ w8 : GW, w8 = gup w qa6 (.inr (4, [va_rf none, va_rf none, va_rf none, va_rf none, .int 0])) → (∀ b9 : Nat × Nat, b9 = (bb.1 - 1, bb.2 - 5) → (∃ cb10 : Nat × Nat, (cb10.1 ≤ b9.1 ∧ cb10.2 ≤ b9.2) ∧ (wX5_init c qa6 w8 cb10 (fun w12 => ∀ b13 : Nat × Nat, b13 = (b9.1 - cb10.1, b9.2 - cb10.2) → (∃ a14 : Nat, f2 = some a14 ∧ (∃ (n15 : Nat) (f16 : Nat → Option Nat), w12 a14 = some (true, .inl (5, n15, .inr (.inr (.inr (.inr f16))))) ∧ vp_in x1 n15 ∧ ((∃ v9 c9, some qa6 = some v9 ∧ gmc w12 v9 = some c9 ∧ c9 ∈ ([4] : List Nat)) ∧ (∀ w20 : GW, w20 = gup w12 a14 (.inl (5, n15, .inr (.inr (.inr (.inr (va_up f16 (x1).toNatClampNeg (some qa6))))))) → (KL22 ((x1 + 1), w20, b13))))))))))))))
def wX4_init_22 (c : Nat → Option Nat) (x0 : Nat) (x1 : Int32) (w : GW) (bb : Nat × Nat) (K : GW → Prop) : Prop := lfp (σ := Int32 × GW × (Nat × Nat)) (fun KL s => wX4_init_22_b c x0 s.1 s.2.1 s.2.2 KL K) (x1, w, bb)
set_option maxRecDepth 100000 in
theorem bX4_init_22 {E : jE} (hE : jOk E cX4_init RX4) (hn : E.2.2.2.2 = 2) (hR : jRoom E 2 40) {c : Nat → Option Nat} (hc : E.2.2.1.2.2.2 = c) (hini : E.2.1.1.name = "<init>") {K : GW → Prop} (hK : jRv E (K)) {x0 : Nat} {x1 : Int32} {w : GW} {bb : Nat × Nat}  (hw : wX4_init_22 c x0 x1 w bb K) : J E w bb [(0, .ref (x0)), (1, .int (x1))] 22 [] := by
  refine lfp_sound (σ := Int32 × GW × (Nat × Nat)) (F := fun KL s => wX4_init_22_b c x0 s.1 s.2.1 s.2.2 KL K) (P := fun s => J E (s.2.1) (s.2.2) [(0, .ref (x0)), (1, .int (s.1))] 22 []) ?_ hw
  clear hw
  rintro KL22 ⟨x1, w, bb⟩ hw ih22
  have hw : wX4_init_22_b c x0 x1 w bb KL22 K := hw
  unfold wX4_init_22_b at hw
  refine j_iload_n hE 1 dX4_init_22 rfl rfl ?_
  refine j_bipush hE dX4_init_23 kb_6 ?_
  refine j_icmp_ge hE 47 dX4_init_25 (by decide) (fun c1 => ?_) (fun c1 => ?_)
  · replace hw := hw.1 c1
    exact j_vret hE hK dX4_init_47 hw
  · replace hw := hw.2 c1
    refine j_aload_n hE 0 dX4_init_28 rfl rfl ?_
    obtain ⟨f2, h3, hw⟩ := hw
    refine j_getM hE gf_GlassStreet_State_marks q318 h3 dX4_init_29 ?_
    refine j_iload_n hE 1 dX4_init_32 rfl rfl ?_
    obtain ⟨h4, h5, hw⟩ := hw
    refine j_new (c := 4) (fs := [va_rf none, va_rf none, va_rf none, va_rf none, .int 0]) hE gok_4 q285 q287 q128 dfl_4 ⟨h4, h5⟩ dX4_init_33 (fun qa6 h7 => ?_)
    replace hw := hw qa6 h7
    refine j_nw (fun w8 e_w8 => ?_)
    replace hw := hw w8 e_w8
    refine j_nb (fun b9 e_b9 => ?_)
    replace hw := hw b9 e_b9
    refine j_dup hE dX4_init_36 rfl ?_
    obtain ⟨cb10, h11, hw⟩ := hw
    refine jc_v (jr_IN hE hR (As := []) (rest := [.ref (qa6), .int (x1), va_rf (f2)]) ((ctX5_init E.1.2.1 E.2.2.1 hc _ _ _ _ hw) E.2.2.2.1) (lw_meth q290) q128 q288 q289 rfl jdX5_init ⟨Nat.le_of_ble_eq_true rfl, Nat.le_of_ble_eq_true rfl⟩ h11  rfl (by cases f2 <;> exact Nat.le_of_ble_eq_true rfl) dX4_init_37) (fun w12 hw => ?_)
    refine j_nb (fun b13 e_b13 => ?_)
    replace hw := hw b13 e_b13
    obtain ⟨a14, e9, hx⟩ := hw
    subst e9
    have hw := hx
    clear hx
    obtain ⟨n15, f16, h17, h18, hw⟩ := hw
    obtain ⟨h19, hw⟩ := hw
    refine j_astL (r := some qa6) hE elemc_5 (t := 5) ⟨by decide, by decide⟩ h17 h18 (Or.inr h19) dX4_init_40 ?_
    refine j_nw (fun w20 e_w20 => ?_)
    replace hw := hw w20 e_w20
    refine j_iinc (L' := [(1, .int (x1 + 1)), (0, .ref (x0))]) hE hn 1 dX4_init_41 rfl (congrArg (x1 + ·) kc_1) (Nat.le_of_ble_eq_true rfl) rfl ?_
    refine j_goto hE 22 dX4_init_44 (by decide) ?_
    refine j_sub [(0, .ref (x0)), (1, .int (x1 + 1))] [1, 0] rfl ?_
    have hz := ih22 ((x1 + 1), w20, b13) hw
    exact hz
def wX4_init_0 (c : Nat → Option Nat) (x0 : Nat) (w : GW) (bb : Nat × Nat) (K : GW → Prop) : Prop :=
  ¬ (nI 5) < 0 ∧ (nI 5).toNatClampNeg * 4 ≤ 536870912 ∧ 1 ≤ bb.1 ∧ (nI 5).toNatClampNeg ≤ bb.2 ∧ ∀ qa6 : Nat, w qa6 = none → (∀ w7 : GW, w7 = gup w qa6 (.inl (0, (nI 5).toNatClampNeg, gZero 0)) → (∀ b8 : Nat × Nat, b8 = (bb.1 - 1, bb.2 - (nI 5).toNatClampNeg) → (∃ (n9 : Nat) (fs10 : List Value), w7 x0 = some (true, .inr (n9, fs10)) ∧ n9 ∈ ([3] : List Nat) ∧ 0 < fs10.length ∧ (∀ w14 : GW, w14 = gup w7 x0 (.inr (n9, fs10.set 0 (va_rf (some qa6)))) → (¬ (nI 6) < 0 ∧ (nI 6).toNatClampNeg * 4 ≤ 536870912 ∧ 1 ≤ b8.1 ∧ (nI 6).toNatClampNeg ≤ b8.2 ∧ ∀ qa20 : Nat, w14 qa20 = none → (∀ w21 : GW, w21 = gup w14 qa20 (.inl (5, (nI 6).toNatClampNeg, .inr (.inr (.inr (.inr (fun _ => none)))))) → (∀ b22 : Nat × Nat, b22 = (b8.1 - 1, b8.2 - (nI 6).toNatClampNeg) → (∃ (n23 : Nat) (fs24 : List Value), w21 x0 = some (true, .inr (n23, fs24)) ∧ n23 ∈ ([3] : List Nat) ∧ 1 < fs24.length ∧ (∀ w28 : GW, w28 = gup w21 x0 (.inr (n23, fs24.set 1 (va_rf (some qa20)))) → (wX4_init_22 c x0 ((0 : Int32)) w28 b22 K))))))))))
set_option maxRecDepth 100000 in
theorem bX4_init_0 {E : jE} (hE : jOk E cX4_init RX4) (hn : E.2.2.2.2 = 2) (hR : jRoom E 2 40) {c : Nat → Option Nat} (hc : E.2.2.1.2.2.2 = c) (hini : E.2.1.1.name = "<init>") {K : GW → Prop} (hK : jRv E (K)) {x0 : Nat} {w : GW} {bb : Nat × Nat}  (hw : wX4_init_0 c x0 w bb K) : J E w bb [(0, .ref (x0))] 0 [] := by
  unfold wX4_init_0 at hw
  refine j_aload_n hE 0 dX4_init_0 rfl rfl ?_
  refine j_objInit hE hR q284 q_oi_inst q_oi_code (Nat.le_of_ble_eq_true rfl) (Nat.le_of_ble_eq_true rfl) dX4_init_1 ?_
  refine j_aload_n hE 0 dX4_init_4 rfl rfl ?_
  refine j_iconst hE dX4_init_5 kc_5 ?_
  obtain ⟨h1, h2, h3, h4, hw⟩ := hw
  refine j_newarr hE (atype := .int) (t := 0) (by decide) rfl q276 h1 h2 ⟨h3, h4⟩ dX4_init_6 (fun qa6 h5 => ?_)
  replace hw := hw qa6 h5
  refine j_nw (fun w7 e_w7 => ?_)
  replace hw := hw w7 e_w7
  refine j_nb (fun b8 e_b8 => ?_)
  replace hw := hw b8 e_b8
  obtain ⟨n9, fs10, h11, h12, h13, hw⟩ := hw
  refine j_putXF hE hini h12 gw_GlassStreet_State_at_X4 q315 h11 rfl rfl h13 dX4_init_8 ?_
  refine j_nw (fun w14 e_w14 => ?_)
  replace hw := hw w14 e_w14
  refine j_aload_n hE 0 dX4_init_11 rfl rfl ?_
  refine j_bipush hE dX4_init_12 kb_6 ?_
  obtain ⟨h15, h16, h17, h18, hw⟩ := hw
  refine j_newq hE (t := 5) ⟨by decide, by decide⟩ q285 h15 h16 ⟨h17, h18⟩ dX4_init_14 (fun qa20 h19 => ?_)
  replace hw := hw qa20 h19
  refine j_nw (fun w21 e_w21 => ?_)
  replace hw := hw w21 e_w21
  refine j_nb (fun b22 e_b22 => ?_)
  replace hw := hw b22 e_b22
  obtain ⟨n23, fs24, h25, h26, h27, hw⟩ := hw
  refine j_putXF hE hini h26 gw_GlassStreet_State_marks_X4 q318 h25 rfl rfl h27 dX4_init_17 ?_
  refine j_nw (fun w28 e_w28 => ?_)
  replace hw := hw w28 e_w28
  refine j_iconst hE dX4_init_20 kc_0 ?_
  refine j_istore_n (L' := [(1, .int ((0 : Int32))), (0, .ref (x0))]) hE hn dX4_init_21 rfl (Nat.le_of_ble_eq_true rfl) rfl ?_
  refine j_sub [(0, .ref (x0)), (1, .int ((0 : Int32)))] [1, 0] rfl ?_
  have hz := bX4_init_22 hE hn hR hc hini hK  hw
  exact hz
theorem jdX4_init : jD yX4_init 0 := by decide +kernel
abbrev wX4_init := wX4_init_0
theorem ctX4_init (l : Launch) (G : gG) {c : Nat → Option Nat} (hc : G.2.2.2 = c) (x0 : Nat) (w : GW) (bb : Nat × Nat) (K : GW → Prop) (hw : wX4_init_0 c x0 w bb K) {F2 L2 : Nat} (h2 : 2 ≤ F2 ∧ 40 ≤ L2 := by exact ⟨Nat.le_refl _, Nat.le_refl _⟩) : CtV l yX4_init cX4_init 2 ({ frames := F2, cells := bb.1, slots := bb.2, locals := L2 }) G [.ref (x0)] w (K) :=
  CtV.ofI RX4 plainc_X4 rfl rfl (Nat.le_of_ble_eq_true rfl) (fun E hE hini hl hG hn hR hK => bX4_init_0 hE hn (hR.le h2.1 h2.2) (by rw [hG]; exact hc) hini hK hw)
def wX1_forgets_2_b (c : Nat → Option Nat) (x0 : Nat) (x1 : Int32) (w : GW) (KL2 : Int32 × GW → Prop) (K : GW → Prop) : Prop :=
  ((nI 6) ≤ x1 → (K w)) ∧ (¬ (nI 6) ≤ x1 → (∃ f2 : Option Nat, gfm w x0 [0] 10 = some (va_rf f2) ∧ (∃ a4 : Nat, f2 = some a4 ∧ (∃ (n5 : Nat) (f6 : Nat → Int32), w a4 = some (true, .inl (0, n5, .inl f6)) ∧ vp_in x1 n5 ∧ (∀ w9 : GW, w9 = gup w a4 (.inl (0, n5, .inl (upd f6 (x1).toNatClampNeg ((-1 : Int32))))) → (KL2 ((x1 + 1), w9)))))))
def wX1_forgets_2 (c : Nat → Option Nat) (x0 : Nat) (x1 : Int32) (w : GW) (K : GW → Prop) : Prop := lfp (σ := Int32 × GW) (fun KL s => wX1_forgets_2_b c x0 s.1 s.2 KL K) (x1, w)
set_option maxRecDepth 100000 in
theorem bX1_forgets_2 {E : jE} (hE : jOk E cX1_forgets RX1) (hn : E.2.2.2.2 = 2) (hR : jRoom E 0 0) {c : Nat → Option Nat} (hc : E.2.2.1.2.2.2 = c) {b : Nat × Nat} {K : GW → Prop} (hK : jRv E (K)) {x0 : Nat} {x1 : Int32} {w : GW}  (hw : wX1_forgets_2 c x0 x1 w K) : J E w b [(0, .ref (x0)), (1, .int (x1))] 2 [] := by
  refine lfp_sound (σ := Int32 × GW) (F := fun KL s => wX1_forgets_2_b c x0 s.1 s.2 KL K) (P := fun s => J E (s.2) b [(0, .ref (x0)), (1, .int (s.1))] 2 []) ?_ hw
  clear hw
  rintro KL2 ⟨x1, w⟩ hw ih2
  have hw : wX1_forgets_2_b c x0 x1 w KL2 K := hw
  unfold wX1_forgets_2_b at hw
  refine j_iload_n hE 1 dX1_forgets_2 rfl rfl ?_
  refine j_bipush hE dX1_forgets_3 kb_6 ?_
  refine j_icmp_ge hE 21 dX1_forgets_5 (by decide) (fun c1 => ?_) (fun c1 => ?_)
  · replace hw := hw.1 c1
    exact j_vret hE hK dX1_forgets_21 hw
  · replace hw := hw.2 c1
    refine j_aload_n hE 0 dX1_forgets_8 rfl rfl ?_
    obtain ⟨f2, h3, hw⟩ := hw
    refine j_getM hE gf_GlassStreet_said q357 h3 dX1_forgets_9 ?_
    refine j_iload_n hE 1 dX1_forgets_12 rfl rfl ?_
    refine j_iconst hE dX1_forgets_13 kc_m1 ?_
    obtain ⟨a4, e9, hx⟩ := hw
    subst e9
    have hw := hx
    clear hx
    obtain ⟨n5, f6, h7, h8, hw⟩ := hw
    refine j_iast hE h7 h8 dX1_forgets_14 ?_
    refine j_nw (fun w9 e_w9 => ?_)
    replace hw := hw w9 e_w9
    refine j_iinc (L' := [(1, .int (x1 + 1)), (0, .ref (x0))]) hE hn 1 dX1_forgets_15 rfl (congrArg (x1 + ·) kc_1) (Nat.le_of_ble_eq_true rfl) rfl ?_
    refine j_goto hE 2 dX1_forgets_18 (by decide) ?_
    refine j_sub [(0, .ref (x0)), (1, .int (x1 + 1))] [1, 0] rfl ?_
    have hz := ih2 ((x1 + 1), w9) hw
    exact hz
def wX1_forgets_0 (c : Nat → Option Nat) (x0 : Nat) (w : GW) (K : GW → Prop) : Prop :=
  wX1_forgets_2 c x0 ((0 : Int32)) w K
set_option maxRecDepth 100000 in
theorem bX1_forgets_0 {E : jE} (hE : jOk E cX1_forgets RX1) (hn : E.2.2.2.2 = 2) (hR : jRoom E 0 0) {c : Nat → Option Nat} (hc : E.2.2.1.2.2.2 = c) {b : Nat × Nat} {K : GW → Prop} (hK : jRv E (K)) {x0 : Nat} {w : GW}  (hw : wX1_forgets_0 c x0 w K) : J E w b [(0, .ref (x0))] 0 [] := by
  unfold wX1_forgets_0 at hw
  refine j_iconst hE dX1_forgets_0 kc_0 ?_
  refine j_istore_n (L' := [(1, .int ((0 : Int32))), (0, .ref (x0))]) hE hn dX1_forgets_1 rfl (Nat.le_of_ble_eq_true rfl) rfl ?_
  refine j_sub [(0, .ref (x0)), (1, .int ((0 : Int32)))] [1, 0] rfl ?_
  have hz := bX1_forgets_2 (b := b) hE hn hR hc hK  hw
  exact hz
theorem jdX1_forgets : jD yX1_forgets 0 := by decide +kernel
abbrev wX1_forgets := wX1_forgets_0
theorem ctX1_forgets (l : Launch) (G : gG) {c : Nat → Option Nat} (hc : G.2.2.2 = c) (x0 : Nat) (w : GW) (K : GW → Prop) (hw : wX1_forgets_0 c x0 w K) {F2 L2 : Nat} (h2 : 0 ≤ F2 ∧ 0 ≤ L2 := by exact ⟨Nat.le_refl _, Nat.le_refl _⟩) : CtV l yX1_forgets cX1_forgets 2 ({ frames := F2, cells := 0, slots := 0, locals := L2 }) G [.ref (x0)] w (K) :=
  CtV.of RX1 plainc_X1 rfl (Nat.le_of_ble_eq_true rfl) (fun E hE hl hG hn hR hK => bX1_forgets_0 hE hn (hR.le h2.1 h2.2) (by rw [hG]; exact hc) hK hw)
def wX1_init_0 (c : Nat → Option Nat) (x0 : Nat) (w : GW) (bb : Nat × Nat) (K : GW → Prop) : Prop :=
  ¬ (nI 1000) < 0 ∧ (nI 1000).toNatClampNeg * 1 ≤ 536870912 ∧ 1 ≤ bb.1 ∧ (nI 1000).toNatClampNeg ≤ bb.2 ∧ ∀ qa6 : Nat, w qa6 = none → (∀ w7 : GW, w7 = gup w qa6 (.inl (1, (nI 1000).toNatClampNeg, gZero 1)) → (∀ b8 : Nat × Nat, b8 = (bb.1 - 1, bb.2 - (nI 1000).toNatClampNeg) → (∃ (n9 : Nat) (fs10 : List Value), w7 x0 = some (true, .inr (n9, fs10)) ∧ n9 ∈ ([0] : List Nat) ∧ 0 < fs10.length ∧ (∀ w14 : GW, w14 = gup w7 x0 (.inr (n9, fs10.set 0 (va_rf (some qa6)))) → (1 ≤ b8.1 ∧ 8 ≤ b8.2 ∧ ∀ qa17 : Nat, w14 qa17 = none → (∀ w19 : GW, w19 = gup w14 qa17 (.inr (1, [va_rf none, .int 0, .int 0, .int 0, .int 0, .int 0, .int 0, va_rf none])) → (∀ b20 : Nat × Nat, b20 = (b8.1 - 1, b8.2 - 8) → (wX2_init c qa17 w19 (∃ (n21 : Nat) (fs22 : List Value), w19 x0 = some (true, .inr (n21, fs22)) ∧ n21 ∈ ([0] : List Nat) ∧ 1 < fs22.length ∧ (∀ w26 : GW, w26 = gup w19 x0 (.inr (n21, fs22.set 1 (va_rf (some qa17)))) → (1 ≤ b20.1 ∧ 8 ≤ b20.2 ∧ ∀ qa29 : Nat, w26 qa29 = none → (∀ w31 : GW, w31 = gup w26 qa29 (.inr (2, [va_rf none, va_rf none, va_rf none, va_rf none, va_rf none, va_rf none, .int 0, va_rf none])) → (∀ b32 : Nat × Nat, b32 = (b20.1 - 1, b20.2 - 8) → (∃ cb33 : Nat × Nat, (cb33.1 ≤ b32.1 ∧ cb33.2 ≤ b32.2) ∧ (wX3_init c qa29 w31 cb33 (fun w35 => ∀ b36 : Nat × Nat, b36 = (b32.1 - cb33.1, b32.2 - cb33.2) → (∃ (n37 : Nat) (fs38 : List Value), w35 x0 = some (true, .inr (n37, fs38)) ∧ n37 ∈ ([0] : List Nat) ∧ 2 < fs38.length ∧ (∀ w42 : GW, w42 = gup w35 x0 (.inr (n37, fs38.set 2 (va_rf (some qa29)))) → (1 ≤ b36.1 ∧ 3 ≤ b36.2 ∧ ∀ qa45 : Nat, w42 qa45 = none → (∀ w47 : GW, w47 = gup w42 qa45 (.inr (20, [.int 0, va_rf none, .int 0])) → (∀ b48 : Nat × Nat, b48 = (b36.1 - 1, b36.2 - 3) → (∃ cb49 : Nat × Nat, (cb49.1 ≤ b48.1 ∧ cb49.2 ≤ b48.2) ∧ (wJ2_init c qa45 ((0 : Int32)) w47 cb49 (fun w51 => ∀ b52 : Nat × Nat, b52 = (b48.1 - cb49.1, b48.2 - cb49.2) → (∃ (n53 : Nat) (fs54 : List Value), w51 x0 = some (true, .inr (n53, fs54)) ∧ n53 ∈ ([0] : List Nat) ∧ 3 < fs54.length ∧ (∀ w58 : GW, w58 = gup w51 x0 (.inr (n53, fs54.set 3 (va_rf (some qa45)))) → (1 ≤ b52.1 ∧ 5 ≤ b52.2 ∧ ∀ qa61 : Nat, w58 qa61 = none → (∀ w63 : GW, w63 = gup w58 qa61 (.inr (3, [va_rf none, va_rf none, .int 0, .int 0, .int 0])) → (∀ b64 : Nat × Nat, b64 = (b52.1 - 1, b52.2 - 5) → (∃ cb65 : Nat × Nat, (cb65.1 ≤ b64.1 ∧ cb65.2 ≤ b64.2) ∧ (wX4_init c qa61 w63 cb65 (fun w67 => ∀ b68 : Nat × Nat, b68 = (b64.1 - cb65.1, b64.2 - cb65.2) → (∃ (n69 : Nat) (fs70 : List Value), w67 x0 = some (true, .inr (n69, fs70)) ∧ n69 ∈ ([0] : List Nat) ∧ 4 < fs70.length ∧ (∀ w74 : GW, w74 = gup w67 x0 (.inr (n69, fs70.set 4 (va_rf (some qa61)))) → (1 ≤ b68.1 ∧ 5 ≤ b68.2 ∧ ∀ qa77 : Nat, w74 qa77 = none → (∀ w79 : GW, w79 = gup w74 qa77 (.inr (3, [va_rf none, va_rf none, .int 0, .int 0, .int 0])) → (∀ b80 : Nat × Nat, b80 = (b68.1 - 1, b68.2 - 5) → (∃ cb81 : Nat × Nat, (cb81.1 ≤ b80.1 ∧ cb81.2 ≤ b80.2) ∧ (wX4_init c qa77 w79 cb81 (fun w83 => ∀ b84 : Nat × Nat, b84 = (b80.1 - cb81.1, b80.2 - cb81.2) → (∃ (n85 : Nat) (fs86 : List Value), w83 x0 = some (true, .inr (n85, fs86)) ∧ n85 ∈ ([0] : List Nat) ∧ 5 < fs86.length ∧ (∀ w90 : GW, w90 = gup w83 x0 (.inr (n85, fs86.set 5 (va_rf (some qa77)))) → (¬ (nI 4) < 0 ∧ (nI 4).toNatClampNeg * 4 ≤ 536870912 ∧ 1 ≤ b84.1 ∧ (nI 4).toNatClampNeg ≤ b84.2 ∧ ∀ qa96 : Nat, w90 qa96 = none → (∀ w97 : GW, w97 = gup w90 qa96 (.inl (0, (nI 4).toNatClampNeg, gZero 0)) → (∀ b98 : Nat × Nat, b98 = (b84.1 - 1, b84.2 - (nI 4).toNatClampNeg) → (∃ (n99 : Nat) (fs100 : List Value), w97 x0 = some (true, .inr (n99, fs100)) ∧ n99 ∈ ([0] : List Nat) ∧ 6 < fs100.length ∧ (∀ w104 : GW, w104 = gup w97 x0 (.inr (n99, fs100.set 6 (va_rf (some qa96)))) → (¬ (nI 16) < 0 ∧ (nI 16).toNatClampNeg * 4 ≤ 536870912 ∧ 1 ≤ b98.1 ∧ (nI 16).toNatClampNeg ≤ b98.2 ∧ ∀ qa110 : Nat, w104 qa110 = none → (∀ w111 : GW, w111 = gup w104 qa110 (.inl (6, (nI 16).toNatClampNeg, .inr (.inr (.inr (.inr (fun _ => none)))))) → (∀ b112 : Nat × Nat, b112 = (b98.1 - 1, b98.2 - (nI 16).toNatClampNeg) → (∃ (n113 : Nat) (fs114 : List Value), w111 x0 = some (true, .inr (n113, fs114)) ∧ n113 ∈ ([0] : List Nat) ∧ 8 < fs114.length ∧ (∀ w118 : GW, w118 = gup w111 x0 (.inr (n113, fs114.set 8 (va_rf (some qa110)))) → (¬ (nI 6) < 0 ∧ (nI 6).toNatClampNeg * 4 ≤ 536870912 ∧ 1 ≤ b112.1 ∧ (nI 6).toNatClampNeg ≤ b112.2 ∧ ∀ qa124 : Nat, w118 qa124 = none → (∀ w125 : GW, w125 = gup w118 qa124 (.inl (0, (nI 6).toNatClampNeg, gZero 0)) → (∀ b126 : Nat × Nat, b126 = (b112.1 - 1, b112.2 - (nI 6).toNatClampNeg) → (∃ (n127 : Nat) (fs128 : List Value), w125 x0 = some (true, .inr (n127, fs128)) ∧ n127 ∈ ([0] : List Nat) ∧ 10 < fs128.length ∧ (∀ w132 : GW, w132 = gup w125 x0 (.inr (n127, fs128.set 10 (va_rf (some qa124)))) → (¬ (nI 4) < 0 ∧ (nI 4).toNatClampNeg * 4 ≤ 536870912 ∧ 1 ≤ b126.1 ∧ (nI 4).toNatClampNeg ≤ b126.2 ∧ ∀ qa138 : Nat, w132 qa138 = none → (∀ w139 : GW, w139 = gup w132 qa138 (.inl (7, (nI 4).toNatClampNeg, .inr (.inr (.inr (.inr (fun _ => none)))))) → (∀ b140 : Nat × Nat, b140 = (b126.1 - 1, b126.2 - (nI 4).toNatClampNeg) → (∃ (n141 : Nat) (fs142 : List Value), w139 x0 = some (true, .inr (n141, fs142)) ∧ n141 ∈ ([0] : List Nat) ∧ 14 < fs142.length ∧ (∀ w146 : GW, w146 = gup w139 x0 (.inr (n141, fs142.set 14 (va_rf (some qa138)))) → (gmc w146 x0 = some 0 ∧ (wX1_forgets c x0 w146 (fun w148 => K w148)))))))))))))))))))))))))))))))))))))))))))))))))))))))))))))))))
set_option maxRecDepth 100000 in
theorem bX1_init_0 {E : jE} (hE : jOk E cX1_init RX1) (hn : E.2.2.2.2 = 1) (hR : jRoom E 5 101) {c : Nat → Option Nat} (hc : E.2.2.1.2.2.2 = c) (hini : E.2.1.1.name = "<init>") {K : GW → Prop} (hK : jRv E (K)) {x0 : Nat} {w : GW} {bb : Nat × Nat}  (hw : wX1_init_0 c x0 w bb K) : J E w bb [(0, .ref (x0))] 0 [] := by
  unfold wX1_init_0 at hw
  refine j_aload_n hE 0 dX1_init_0 rfl rfl ?_
  refine j_objInit hE hR q169 q_oi_inst q_oi_code (Nat.le_of_ble_eq_true rfl) (Nat.le_of_ble_eq_true rfl) dX1_init_1 ?_
  refine j_aload_n hE 0 dX1_init_4 rfl rfl ?_
  refine j_sipush hE dX1_init_5 ks_1000 ?_
  obtain ⟨h1, h2, h3, h4, hw⟩ := hw
  refine j_newarr hE (atype := .byte) (t := 1) (by decide) rfl q203 h1 h2 ⟨h3, h4⟩ dX1_init_8 (fun qa6 h5 => ?_)
  replace hw := hw qa6 h5
  refine j_nw (fun w7 e_w7 => ?_)
  replace hw := hw w7 e_w7
  refine j_nb (fun b8 e_b8 => ?_)
  replace hw := hw b8 e_b8
  obtain ⟨n9, fs10, h11, h12, h13, hw⟩ := hw
  refine j_putXF hE hini h12 gw_GlassStreet_tape_X1 q347 h11 rfl rfl h13 dX1_init_10 ?_
  refine j_nw (fun w14 e_w14 => ?_)
  replace hw := hw w14 e_w14
  refine j_aload_n hE 0 dX1_init_13 rfl rfl ?_
  obtain ⟨h15, h16, hw⟩ := hw
  refine j_new (c := 1) (fs := [va_rf none, .int 0, .int 0, .int 0, .int 0, .int 0, .int 0, va_rf none]) hE gok_1 q172 q173 q122 dfl_1 ⟨h15, h16⟩ dX1_init_14 (fun qa17 h18 => ?_)
  replace hw := hw qa17 h18
  refine j_nw (fun w19 e_w19 => ?_)
  replace hw := hw w19 e_w19
  refine j_nb (fun b20 e_b20 => ?_)
  replace hw := hw b20 e_b20
  refine j_dup hE dX1_init_17 rfl ?_
  refine jc_vp (jr_IN hE hR (As := []) (rest := [.ref (qa17), .ref (x0)]) ((ctX2_init E.1.2.1 E.2.2.1 hc _ _ _ hw) E.2.2.2.1) (lw_meth q176) q122 q174 q175 rfl jdX2_init ⟨Nat.le_of_ble_eq_true rfl, Nat.le_of_ble_eq_true rfl⟩ ⟨Nat.zero_le _, Nat.zero_le _⟩  rfl (Nat.le_of_ble_eq_true rfl) dX1_init_18) (fun  hw => ?_)
  refine j_b0 ?_
  obtain ⟨n21, fs22, h23, h24, h25, hw⟩ := hw
  refine j_putXF hE hini h24 gw_GlassStreet_reader_X1 q348 h23 rfl rfl h25 dX1_init_21 ?_
  refine j_nw (fun w26 e_w26 => ?_)
  replace hw := hw w26 e_w26
  refine j_aload_n hE 0 dX1_init_24 rfl rfl ?_
  obtain ⟨h27, h28, hw⟩ := hw
  refine j_new (c := 2) (fs := [va_rf none, va_rf none, va_rf none, va_rf none, va_rf none, va_rf none, .int 0, va_rf none]) hE gok_2 q204 q205 q123 dfl_2 ⟨h27, h28⟩ dX1_init_25 (fun qa29 h30 => ?_)
  replace hw := hw qa29 h30
  refine j_nw (fun w31 e_w31 => ?_)
  replace hw := hw w31 e_w31
  refine j_nb (fun b32 e_b32 => ?_)
  replace hw := hw b32 e_b32
  refine j_dup hE dX1_init_28 rfl ?_
  obtain ⟨cb33, h34, hw⟩ := hw
  refine jc_v (jr_IN hE hR (As := []) (rest := [.ref (qa29), .ref (x0)]) ((ctX3_init E.1.2.1 E.2.2.1 hc _ _ _ _ hw) E.2.2.2.1) (lw_meth q208) q123 q206 q207 rfl jdX3_init ⟨Nat.le_of_ble_eq_true rfl, Nat.le_of_ble_eq_true rfl⟩ h34  rfl (Nat.le_of_ble_eq_true rfl) dX1_init_29) (fun w35 hw => ?_)
  refine j_nb (fun b36 e_b36 => ?_)
  replace hw := hw b36 e_b36
  obtain ⟨n37, fs38, h39, h40, h41, hw⟩ := hw
  refine j_putX hE h40 gw_GlassStreet_houses_X1 q349 h39 rfl rfl h41 dX1_init_32 ?_
  refine j_nw (fun w42 e_w42 => ?_)
  replace hw := hw w42 e_w42
  refine j_aload_n hE 0 dX1_init_35 rfl rfl ?_
  obtain ⟨h43, h44, hw⟩ := hw
  refine j_new (c := 20) (fs := [.int 0, va_rf none, .int 0]) hE gok_20 q277 q211 q126 dfl_20 ⟨h43, h44⟩ dX1_init_36 (fun qa45 h46 => ?_)
  replace hw := hw qa45 h46
  refine j_nw (fun w47 e_w47 => ?_)
  replace hw := hw w47 e_w47
  refine j_nb (fun b48 e_b48 => ?_)
  replace hw := hw b48 e_b48
  refine j_dup hE dX1_init_39 rfl ?_
  refine j_iconst hE dX1_init_40 kc_0 ?_
  obtain ⟨cb49, h50, hw⟩ := hw
  refine jc_v (jr_I hE hR (As := [.int ((0 : Int32))]) (rest := [.ref (qa45), .ref (x0)]) ((ctJ2_init E.1.2.1 E.2.2.1 hc _ _ _ _ _ hw) E.2.2.2.1) (lw_meth q214) q126 q278 q213 rfl jdJ2_init ⟨Nat.le_of_ble_eq_true rfl, Nat.le_of_ble_eq_true rfl⟩ h50  rfl (Nat.le_of_ble_eq_true rfl) dX1_init_41) (fun w51 hw => ?_)
  refine j_nb (fun b52 e_b52 => ?_)
  replace hw := hw b52 e_b52
  obtain ⟨n53, fs54, h55, h56, h57, hw⟩ := hw
  refine j_putX hE h56 gw_GlassStreet_lines_X1 q350 h55 rfl rfl h57 dX1_init_44 ?_
  refine j_nw (fun w58 e_w58 => ?_)
  replace hw := hw w58 e_w58
  refine j_aload_n hE 0 dX1_init_47 rfl rfl ?_
  obtain ⟨h59, h60, hw⟩ := hw
  refine j_new (c := 3) (fs := [va_rf none, va_rf none, .int 0, .int 0, .int 0]) hE gok_3 q279 q280 q127 dfl_3 ⟨h59, h60⟩ dX1_init_48 (fun qa61 h62 => ?_)
  replace hw := hw qa61 h62
  refine j_nw (fun w63 e_w63 => ?_)
  replace hw := hw w63 e_w63
  refine j_nb (fun b64 e_b64 => ?_)
  replace hw := hw b64 e_b64
  refine j_dup hE dX1_init_51 rfl ?_
  obtain ⟨cb65, h66, hw⟩ := hw
  refine jc_v (jr_I hE hR (As := []) (rest := [.ref (qa61), .ref (x0)]) ((ctX4_init E.1.2.1 E.2.2.1 hc _ _ _ _ hw) E.2.2.2.1) (lw_meth q283) q127 q281 q282 rfl jdX4_init ⟨Nat.le_of_ble_eq_true rfl, Nat.le_of_ble_eq_true rfl⟩ h66  rfl (Nat.le_of_ble_eq_true rfl) dX1_init_52) (fun w67 hw => ?_)
  refine j_nb (fun b68 e_b68 => ?_)
  replace hw := hw b68 e_b68
  obtain ⟨n69, fs70, h71, h72, h73, hw⟩ := hw
  refine j_putXF hE hini h72 gw_GlassStreet_state_X1 q351 h71 rfl rfl h73 dX1_init_55 ?_
  refine j_nw (fun w74 e_w74 => ?_)
  replace hw := hw w74 e_w74
  refine j_aload_n hE 0 dX1_init_58 rfl rfl ?_
  obtain ⟨h75, h76, hw⟩ := hw
  refine j_new (c := 3) (fs := [va_rf none, va_rf none, .int 0, .int 0, .int 0]) hE gok_3 q279 q280 q127 dfl_3 ⟨h75, h76⟩ dX1_init_59 (fun qa77 h78 => ?_)
  replace hw := hw qa77 h78
  refine j_nw (fun w79 e_w79 => ?_)
  replace hw := hw w79 e_w79
  refine j_nb (fun b80 e_b80 => ?_)
  replace hw := hw b80 e_b80
  refine j_dup hE dX1_init_62 rfl ?_
  obtain ⟨cb81, h82, hw⟩ := hw
  refine jc_v (jr_I hE hR (As := []) (rest := [.ref (qa77), .ref (x0)]) ((ctX4_init E.1.2.1 E.2.2.1 hc _ _ _ _ hw) E.2.2.2.1) (lw_meth q283) q127 q281 q282 rfl jdX4_init ⟨Nat.le_of_ble_eq_true rfl, Nat.le_of_ble_eq_true rfl⟩ h82  rfl (Nat.le_of_ble_eq_true rfl) dX1_init_63) (fun w83 hw => ?_)
  refine j_nb (fun b84 e_b84 => ?_)
  replace hw := hw b84 e_b84
  obtain ⟨n85, fs86, h87, h88, h89, hw⟩ := hw
  refine j_putXF hE hini h88 gw_GlassStreet_trial_X1 q352 h87 rfl rfl h89 dX1_init_66 ?_
  refine j_nw (fun w90 e_w90 => ?_)
  replace hw := hw w90 e_w90
  refine j_aload_n hE 0 dX1_init_69 rfl rfl ?_
  refine j_iconst hE dX1_init_70 kc_4 ?_
  obtain ⟨h91, h92, h93, h94, hw⟩ := hw
  refine j_newarr hE (atype := .int) (t := 0) (by decide) rfl q276 h91 h92 ⟨h93, h94⟩ dX1_init_71 (fun qa96 h95 => ?_)
  replace hw := hw qa96 h95
  refine j_nw (fun w97 e_w97 => ?_)
  replace hw := hw w97 e_w97
  refine j_nb (fun b98 e_b98 => ?_)
  replace hw := hw b98 e_b98
  obtain ⟨n99, fs100, h101, h102, h103, hw⟩ := hw
  refine j_putXF hE hini h102 gw_GlassStreet_facts_X1 q353 h101 rfl rfl h103 dX1_init_73 ?_
  refine j_nw (fun w104 e_w104 => ?_)
  replace hw := hw w104 e_w104
  refine j_aload_n hE 0 dX1_init_76 rfl rfl ?_
  refine j_bipush hE dX1_init_77 kb_16 ?_
  obtain ⟨h105, h106, h107, h108, hw⟩ := hw
  refine j_newq hE (t := 6) ⟨by decide, by decide⟩ q279 h105 h106 ⟨h107, h108⟩ dX1_init_79 (fun qa110 h109 => ?_)
  replace hw := hw qa110 h109
  refine j_nw (fun w111 e_w111 => ?_)
  replace hw := hw w111 e_w111
  refine j_nb (fun b112 e_b112 => ?_)
  replace hw := hw b112 e_b112
  obtain ⟨n113, fs114, h115, h116, h117, hw⟩ := hw
  refine j_putXF hE hini h116 gw_GlassStreet_undone_X1 q355 h115 rfl rfl h117 dX1_init_82 ?_
  refine j_nw (fun w118 e_w118 => ?_)
  replace hw := hw w118 e_w118
  refine j_aload_n hE 0 dX1_init_85 rfl rfl ?_
  refine j_bipush hE dX1_init_86 kb_6 ?_
  obtain ⟨h119, h120, h121, h122, hw⟩ := hw
  refine j_newarr hE (atype := .int) (t := 0) (by decide) rfl q276 h119 h120 ⟨h121, h122⟩ dX1_init_88 (fun qa124 h123 => ?_)
  replace hw := hw qa124 h123
  refine j_nw (fun w125 e_w125 => ?_)
  replace hw := hw w125 e_w125
  refine j_nb (fun b126 e_b126 => ?_)
  replace hw := hw b126 e_b126
  obtain ⟨n127, fs128, h129, h130, h131, hw⟩ := hw
  refine j_putXF hE hini h130 gw_GlassStreet_said_X1 q357 h129 rfl rfl h131 dX1_init_90 ?_
  refine j_nw (fun w132 e_w132 => ?_)
  replace hw := hw w132 e_w132
  refine j_aload_n hE 0 dX1_init_93 rfl rfl ?_
  refine j_iconst hE dX1_init_94 kc_4 ?_
  obtain ⟨h133, h134, h135, h136, hw⟩ := hw
  refine j_newq hE (t := 7) ⟨by decide, by decide⟩ q341 h133 h134 ⟨h135, h136⟩ dX1_init_95 (fun qa138 h137 => ?_)
  replace hw := hw qa138 h137
  refine j_nw (fun w139 e_w139 => ?_)
  replace hw := hw w139 e_w139
  refine j_nb (fun b140 e_b140 => ?_)
  replace hw := hw b140 e_b140
  obtain ⟨n141, fs142, h143, h144, h145, hw⟩ := hw
  refine j_putXF hE hini h144 gw_GlassStreet_notches_X1 q361 h143 rfl rfl h145 dX1_init_98 ?_
  refine j_nw (fun w146 e_w146 => ?_)
  replace hw := hw w146 e_w146
  refine j_aload_n hE 0 dX1_init_101 rfl rfl ?_
  obtain ⟨h147, hw⟩ := hw
  refine jc_v (jr_V hE hR (As := []) (rest := []) ((ctX1_forgets E.1.2.1 E.2.2.1 hc _ _ _ hw) E.2.2.2.1) (lw_V q343 q345 qs0 q121 q346) jdX1_forgets ⟨Nat.le_of_ble_eq_true rfl, Nat.le_of_ble_eq_true rfl⟩ ⟨Nat.zero_le _, Nat.zero_le _⟩ (gmc_gIs h147 (r := (RX1, TX1, 15)) rfl) rfl (Nat.le_of_ble_eq_true rfl) dX1_init_102) (fun w148 hw => ?_)
  refine j_b0 ?_
  exact j_vret hE hK dX1_init_105 hw
theorem jdX1_init : jD yX1_init 0 := by decide +kernel
abbrev wX1_init := wX1_init_0
theorem ctX1_init (l : Launch) (G : gG) {c : Nat → Option Nat} (hc : G.2.2.2 = c) (x0 : Nat) (w : GW) (bb : Nat × Nat) (K : GW → Prop) (hw : wX1_init_0 c x0 w bb K) {F2 L2 : Nat} (h2 : 5 ≤ F2 ∧ 101 ≤ L2 := by exact ⟨Nat.le_refl _, Nat.le_refl _⟩) : CtV l yX1_init cX1_init 1 ({ frames := F2, cells := bb.1, slots := bb.2, locals := L2 }) G [.ref (x0)] w (K) :=
  CtV.ofI RX1 plainc_X1 rfl rfl (Nat.le_of_ble_eq_true rfl) (fun E hE hini hl hG hn hR hK => bX1_init_0 hE hn (hR.le h2.1 h2.2) (by rw [hG]; exact hc) hini hK hw)
def wX1_feed_74 (c : Nat → Option Nat) (x0 : Nat) (x1 : Int64) (x3 : Int64) (x5 : Int64) (x7 : Int32) (x8 : Int32) (w : GW) (KL3 : Int32 × GW → Prop) (K : Int32 → GW → Prop) : Prop :=
  ∃ f1 : Int32, gfm w x0 [0] 7 = some (.int f1) ∧ (((nI 1000) ≤ f1 → (KL3 ((x7 + 1), w))) ∧ (¬ (nI 1000) ≤ f1 → (∃ f4 : Option Nat, gfm w x0 [0] 0 = some (va_rf f4) ∧ (∃ f6 : Int32, gfm w x0 [0] 7 = some (.int f6) ∧ (∃ (n8 : Nat) (fs9 : List Value), w x0 = some (true, .inr (n8, fs9)) ∧ n8 ∈ ([0] : List Nat) ∧ 7 < fs9.length ∧ (∀ w13 : GW, w13 = gup w x0 (.inr (n8, fs9.set 7 (.int (f6 + ((1 : Int32)))))) → (∃ a14 : Nat, f4 = some a14 ∧ (∃ (n15 : Nat) (f16 : Nat → Int32), w13 a14 = some (true, .inl (1, n15, .inl f16)) ∧ vp_in f6 n15 ∧ (∀ w19 : GW, w19 = gup w13 a14 (.inl (1, n15, .inl (upd f16 (f6).toNatClampNeg (vp_nar .byte (i2b x8))))) → (KL3 ((x7 + 1), w19)))))))))))
set_option maxRecDepth 100000 in
theorem bX1_feed_74 {E : jE} (hE : jOk E cX1_feed RX1) (hn : E.2.2.2.2 = 9) (hR : jRoom E 0 0) {c : Nat → Option Nat} (hc : E.2.2.1.2.2.2 = c) {b : Nat × Nat} {K : Int32 → GW → Prop} (hK : jRi E .int (K)) {x0 : Nat} {x1 : Int64} {x3 : Int64} {x5 : Int64} {x7 : Int32} {x8 : Int32} {w : GW} {KL3 : Int32 × GW → Prop} (ih3 : ∀ s : Int32 × GW, KL3 s → J E (s.2) b [(0, .ref (x0)), (1, .long (x1)), (3, .long (x3)), (5, .long (x5)), (7, .int (s.1))] 3 []) (hw : wX1_feed_74 c x0 x1 x3 x5 x7 x8 w KL3 K) : J E w b [(0, .ref (x0)), (1, .long (x1)), (3, .long (x3)), (5, .long (x5)), (7, .int (x7)), (8, .int (x8))] 74 [] := by
  unfold wX1_feed_74 at hw
  refine j_aload_n hE 0 dX1_feed_74 rfl rfl ?_
  obtain ⟨f1, h2, hw⟩ := hw
  refine j_getM hE gf_GlassStreet_taped q354 h2 dX1_feed_75 ?_
  refine j_sipush hE dX1_feed_78 ks_1000 ?_
  refine j_icmp_ge hE 103 dX1_feed_81 (by decide) (fun c3 => ?_) (fun c3 => ?_)
  · replace hw := hw.1 c3
    refine j_iinc (L' := [(7, .int (x7 + 1)), (0, .ref (x0)), (1, .long (x1)), (3, .long (x3)), (5, .long (x5)), (8, .int (x8))]) hE hn 4 dX1_feed_103 rfl (congrArg (x7 + ·) kc_1) (Nat.le_of_ble_eq_true rfl) rfl ?_
    refine j_goto hE 3 dX1_feed_106 (by decide) ?_
    refine j_sub [(0, .ref (x0)), (1, .long (x1)), (3, .long (x3)), (5, .long (x5)), (7, .int (x7 + 1))] [1, 2, 3, 4, 0] rfl ?_
    have hz := ih3 ((x7 + 1), w) hw
    exact hz
  · replace hw := hw.2 c3
    refine j_aload_n hE 0 dX1_feed_84 rfl rfl ?_
    obtain ⟨f4, h5, hw⟩ := hw
    refine j_getM hE gf_GlassStreet_tape q347 h5 dX1_feed_85 ?_
    refine j_aload_n hE 0 dX1_feed_88 rfl rfl ?_
    refine j_dup hE dX1_feed_89 rfl ?_
    obtain ⟨f6, h7, hw⟩ := hw
    refine j_getM hE gf_GlassStreet_taped q354 h7 dX1_feed_90 ?_
    refine j_dup_x1 hE dX1_feed_93 rfl rfl ?_
    refine j_iconst hE dX1_feed_94 kc_1 ?_
    refine j_iadd hE dX1_feed_95 ?_
    obtain ⟨n8, fs9, h10, h11, h12, hw⟩ := hw
    refine j_putX hE h11 gw_GlassStreet_taped_X1 q354 h10 rfl rfl h12 dX1_feed_96 ?_
    refine j_nw (fun w13 e_w13 => ?_)
    replace hw := hw w13 e_w13
    refine j_iload hE 5 dX1_feed_99 rfl ?_
    refine j_i2b hE dX1_feed_101 ?_
    obtain ⟨a14, e9, hx⟩ := hw
    subst e9
    have hw := hx
    clear hx
    obtain ⟨n15, f16, h17, h18, hw⟩ := hw
    refine j_bast hE h17 h18 dX1_feed_102 ?_
    refine j_nw (fun w19 e_w19 => ?_)
    replace hw := hw w19 e_w19
    refine j_iinc (L' := [(7, .int (x7 + 1)), (0, .ref (x0)), (1, .long (x1)), (3, .long (x3)), (5, .long (x5)), (8, .int (x8))]) hE hn 4 dX1_feed_103 rfl (congrArg (x7 + ·) kc_1) (Nat.le_of_ble_eq_true rfl) rfl ?_
    refine j_goto hE 3 dX1_feed_106 (by decide) ?_
    refine j_sub [(0, .ref (x0)), (1, .long (x1)), (3, .long (x3)), (5, .long (x5)), (7, .int (x7 + 1))] [1, 2, 3, 4, 0] rfl ?_
    have hz := ih3 ((x7 + 1), w19) hw
    exact hz
def wX1_feed_34 (c : Nat → Option Nat) (x0 : Nat) (x1 : Int64) (x3 : Int64) (x5 : Int64) (x7 : Int32) (s0 : Int64) (w : GW) (KL3 : Int32 × GW → Prop) (K : Int32 → GW → Prop) : Prop :=
  ¬ (nI 8) = 0 ∧ (∀ v2 : Int32, v2 = ((lshr s0 ((nI 56) - ((nI 8) * (irem x7 (nI 8))))).toInt32) &&& (nI 255) → ((v2 = (nI 10) → (wX1_feed_74 c x0 x1 x3 x5 x7 v2 w KL3 K)) ∧ (¬ v2 = (nI 10) → ((v2 < (nI 32) → (KL3 ((x7 + 1), w))) ∧ (¬ v2 < (nI 32) → (((nI 126) < v2 → (KL3 ((x7 + 1), w))) ∧ (¬ (nI 126) < v2 → (wX1_feed_74 c x0 x1 x3 x5 x7 v2 w KL3 K))))))))
set_option maxRecDepth 100000 in
theorem bX1_feed_34 {E : jE} (hE : jOk E cX1_feed RX1) (hn : E.2.2.2.2 = 9) (hR : jRoom E 0 0) {c : Nat → Option Nat} (hc : E.2.2.1.2.2.2 = c) {b : Nat × Nat} {K : Int32 → GW → Prop} (hK : jRi E .int (K)) {x0 : Nat} {x1 : Int64} {x3 : Int64} {x5 : Int64} {x7 : Int32} {s0 : Int64} {w : GW} {KL3 : Int32 × GW → Prop} (ih3 : ∀ s : Int32 × GW, KL3 s → J E (s.2) b [(0, .ref (x0)), (1, .long (x1)), (3, .long (x3)), (5, .long (x5)), (7, .int (s.1))] 3 []) (hw : wX1_feed_34 c x0 x1 x3 x5 x7 s0 w KL3 K) : J E w b [(0, .ref (x0)), (1, .long (x1)), (3, .long (x3)), (5, .long (x5)), (7, .int (x7))] 34 [.long (s0)] := by
  unfold wX1_feed_34 at hw
  refine j_bipush hE dX1_feed_34 kb_56 ?_
  refine j_bipush hE dX1_feed_36 kb_8 ?_
  refine j_iload hE 4 dX1_feed_38 rfl ?_
  refine j_bipush hE dX1_feed_40 kb_8 ?_
  obtain ⟨h1, hw⟩ := hw
  refine j_irem hE dX1_feed_42 h1 ?_
  refine j_imul hE dX1_feed_43 ?_
  refine j_isub hE dX1_feed_44 ?_
  refine j_lshr hE dX1_feed_45 ?_
  refine j_l2i hE dX1_feed_46 ?_
  refine j_sipush hE dX1_feed_47 ks_255 ?_
  refine j_iand hE dX1_feed_50 ?_
  refine j_topi (fun v2 e_v2 => ?_)
  replace hw := hw v2 e_v2
  refine j_istore (L' := [(8, .int (v2)), (0, .ref (x0)), (1, .long (x1)), (3, .long (x3)), (5, .long (x5)), (7, .int (x7))]) hE hn dX1_feed_51 (Nat.le_of_ble_eq_true rfl) rfl ?_
  refine j_iload hE 0 dX1_feed_53 rfl ?_
  refine j_bipush hE dX1_feed_55 kb_10 ?_
  refine j_icmp_eq hE 74 dX1_feed_57 (by decide) (fun c3 => ?_) (fun c3 => ?_)
  · replace hw := hw.1 c3
    refine j_sub [(0, .ref (x0)), (1, .long (x1)), (3, .long (x3)), (5, .long (x5)), (7, .int (x7)), (8, .int (v2))] [1, 2, 3, 4, 5, 0] rfl ?_
    have hz := bX1_feed_74 (b := b) hE hn hR hc hK ih3 hw
    exact hz
  · replace hw := hw.2 c3
    refine j_iload hE 0 dX1_feed_60 rfl ?_
    refine j_bipush hE dX1_feed_62 kb_32 ?_
    refine j_icmp_lt hE 103 dX1_feed_64 (by decide) (fun c4 => ?_) (fun c4 => ?_)
    · replace hw := hw.1 c4
      refine j_iinc (L' := [(7, .int (x7 + 1)), (8, .int (v2)), (0, .ref (x0)), (1, .long (x1)), (3, .long (x3)), (5, .long (x5))]) hE hn 5 dX1_feed_103 rfl (congrArg (x7 + ·) kc_1) (Nat.le_of_ble_eq_true rfl) rfl ?_
      refine j_goto hE 3 dX1_feed_106 (by decide) ?_
      refine j_sub [(0, .ref (x0)), (1, .long (x1)), (3, .long (x3)), (5, .long (x5)), (7, .int (x7 + 1))] [2, 3, 4, 5, 0] rfl ?_
      have hz := ih3 ((x7 + 1), w) hw
      exact hz
    · replace hw := hw.2 c4
      refine j_iload hE 0 dX1_feed_67 rfl ?_
      refine j_bipush hE dX1_feed_69 kb_126 ?_
      refine j_icmp_gt hE 103 dX1_feed_71 (by decide) (fun c5 => ?_) (fun c5 => ?_)
      · replace hw := hw.1 c5
        refine j_iinc (L' := [(7, .int (x7 + 1)), (8, .int (v2)), (0, .ref (x0)), (1, .long (x1)), (3, .long (x3)), (5, .long (x5))]) hE hn 5 dX1_feed_103 rfl (congrArg (x7 + ·) kc_1) (Nat.le_of_ble_eq_true rfl) rfl ?_
        refine j_goto hE 3 dX1_feed_106 (by decide) ?_
        refine j_sub [(0, .ref (x0)), (1, .long (x1)), (3, .long (x3)), (5, .long (x5)), (7, .int (x7 + 1))] [2, 3, 4, 5, 0] rfl ?_
        have hz := ih3 ((x7 + 1), w) hw
        exact hz
      · replace hw := hw.2 c5
        refine j_sub [(0, .ref (x0)), (1, .long (x1)), (3, .long (x3)), (5, .long (x5)), (7, .int (x7)), (8, .int (v2))] [1, 2, 3, 4, 5, 0] rfl ?_
        have hz := bX1_feed_74 (b := b) hE hn hR hc hK ih3 hw
        exact hz
def wX1_feed_3_b (c : Nat → Option Nat) (x0 : Nat) (x1 : Int64) (x3 : Int64) (x5 : Int64) (x7 : Int32) (w : GW) (KL3 : Int32 × GW → Prop) (K : Int32 → GW → Prop) : Prop :=
  ((nI 24) ≤ x7 → (∃ f2 : Int32, gfm w x0 [0] 7 = some (.int f2) ∧ (K f2 w))) ∧ (¬ (nI 24) ≤ x7 → (((nI 8) ≤ x7 → (((nI 16) ≤ x7 → (wX1_feed_34 c x0 x1 x3 x5 x7 x5 w KL3 K)) ∧ (¬ (nI 16) ≤ x7 → (wX1_feed_34 c x0 x1 x3 x5 x7 x3 w KL3 K)))) ∧ (¬ (nI 8) ≤ x7 → (wX1_feed_34 c x0 x1 x3 x5 x7 x1 w KL3 K))))
def wX1_feed_3 (c : Nat → Option Nat) (x0 : Nat) (x1 : Int64) (x3 : Int64) (x5 : Int64) (x7 : Int32) (w : GW) (K : Int32 → GW → Prop) : Prop := lfp (σ := Int32 × GW) (fun KL s => wX1_feed_3_b c x0 x1 x3 x5 s.1 s.2 KL K) (x7, w)
set_option maxRecDepth 100000 in
theorem bX1_feed_3 {E : jE} (hE : jOk E cX1_feed RX1) (hn : E.2.2.2.2 = 9) (hR : jRoom E 0 0) {c : Nat → Option Nat} (hc : E.2.2.1.2.2.2 = c) {b : Nat × Nat} {K : Int32 → GW → Prop} (hK : jRi E .int (K)) {x0 : Nat} {x1 : Int64} {x3 : Int64} {x5 : Int64} {x7 : Int32} {w : GW}  (hw : wX1_feed_3 c x0 x1 x3 x5 x7 w K) : J E w b [(0, .ref (x0)), (1, .long (x1)), (3, .long (x3)), (5, .long (x5)), (7, .int (x7))] 3 [] := by
  refine lfp_sound (σ := Int32 × GW) (F := fun KL s => wX1_feed_3_b c x0 x1 x3 x5 s.1 s.2 KL K) (P := fun s => J E (s.2) b [(0, .ref (x0)), (1, .long (x1)), (3, .long (x3)), (5, .long (x5)), (7, .int (s.1))] 3 []) ?_ hw
  clear hw
  rintro KL3 ⟨x7, w⟩ hw ih3
  have hw : wX1_feed_3_b c x0 x1 x3 x5 x7 w KL3 K := hw
  unfold wX1_feed_3_b at hw
  refine j_iload hE 4 dX1_feed_3 rfl ?_
  refine j_bipush hE dX1_feed_5 kb_24 ?_
  refine j_icmp_ge hE 109 dX1_feed_7 (by decide) (fun c1 => ?_) (fun c1 => ?_)
  · replace hw := hw.1 c1
    refine j_aload_n hE 0 dX1_feed_109 rfl rfl ?_
    obtain ⟨f2, h3, hw⟩ := hw
    refine j_getM hE gf_GlassStreet_taped q354 h3 dX1_feed_110 ?_
    exact j_iret hE hK dX1_feed_113 rfl hw
  · replace hw := hw.2 c1
    refine j_iload hE 4 dX1_feed_10 rfl ?_
    refine j_bipush hE dX1_feed_12 kb_8 ?_
    refine j_icmp_ge hE 21 dX1_feed_14 (by decide) (fun c4 => ?_) (fun c4 => ?_)
    · replace hw := hw.1 c4
      refine j_iload hE 4 dX1_feed_21 rfl ?_
      refine j_bipush hE dX1_feed_23 kb_16 ?_
      refine j_icmp_ge hE 32 dX1_feed_25 (by decide) (fun c5 => ?_) (fun c5 => ?_)
      · replace hw := hw.1 c5
        refine j_lload hE 3 dX1_feed_32 rfl ?_
        have hz := bX1_feed_34 (b := b) hE hn hR hc hK ih3 hw
        exact hz
      · replace hw := hw.2 c5
        refine j_lload_n hE 2 dX1_feed_28 rfl rfl ?_
        refine j_goto hE 34 dX1_feed_29 (by decide) ?_
        have hz := bX1_feed_34 (b := b) hE hn hR hc hK ih3 hw
        exact hz
    · replace hw := hw.2 c4
      refine j_lload_n hE 1 dX1_feed_17 rfl rfl ?_
      refine j_goto hE 34 dX1_feed_18 (by decide) ?_
      have hz := bX1_feed_34 (b := b) hE hn hR hc hK ih3 hw
      exact hz
def wX1_feed_0 (c : Nat → Option Nat) (x0 : Nat) (x1 : Int64) (x3 : Int64) (x5 : Int64) (w : GW) (K : Int32 → GW → Prop) : Prop :=
  wX1_feed_3 c x0 x1 x3 x5 ((0 : Int32)) w K
set_option maxRecDepth 100000 in
theorem bX1_feed_0 {E : jE} (hE : jOk E cX1_feed RX1) (hn : E.2.2.2.2 = 9) (hR : jRoom E 0 0) {c : Nat → Option Nat} (hc : E.2.2.1.2.2.2 = c) {b : Nat × Nat} {K : Int32 → GW → Prop} (hK : jRi E .int (K)) {x0 : Nat} {x1 : Int64} {x3 : Int64} {x5 : Int64} {w : GW}  (hw : wX1_feed_0 c x0 x1 x3 x5 w K) : J E w b [(0, .ref (x0)), (1, .long (x1)), (3, .long (x3)), (5, .long (x5))] 0 [] := by
  unfold wX1_feed_0 at hw
  refine j_iconst hE dX1_feed_0 kc_0 ?_
  refine j_istore (L' := [(7, .int ((0 : Int32))), (0, .ref (x0)), (1, .long (x1)), (3, .long (x3)), (5, .long (x5))]) hE hn dX1_feed_1 (Nat.le_of_ble_eq_true rfl) rfl ?_
  refine j_sub [(0, .ref (x0)), (1, .long (x1)), (3, .long (x3)), (5, .long (x5)), (7, .int ((0 : Int32)))] [1, 2, 3, 4, 0] rfl ?_
  have hz := bX1_feed_3 (b := b) hE hn hR hc hK  hw
  exact hz
theorem jdX1_feed : jD yX1_feed 3 := by decide +kernel
abbrev wX1_feed := wX1_feed_0
theorem ctX1_feed (l : Launch) (G : gG) {c : Nat → Option Nat} (hc : G.2.2.2 = c) (x0 : Nat) (x1 : Int64) (x3 : Int64) (x5 : Int64) (w : GW) (K : Int32 → GW → Prop) (hw : wX1_feed_0 c x0 x1 x3 x5 w K) {F2 L2 : Nat} (h2 : 0 ≤ F2 ∧ 0 ≤ L2 := by exact ⟨Nat.le_refl _, Nat.le_refl _⟩) : CtI l yX1_feed cX1_feed 9 .int ({ frames := F2, cells := 0, slots := 0, locals := L2 }) G [.ref (x0), .long (x1), .long (x3), .long (x5)] w (K) :=
  CtI.of RX1 plainc_X1 rfl (Nat.le_of_ble_eq_true rfl) (fun E hE hl hG hn hR hK => bX1_feed_0 hE hn (hR.le h2.1 h2.2) (by rw [hG]; exact hc) hK hw)
def wX2_at_0 (c : Nat → Option Nat) (x0 : Nat) (x1 : Int32) (w0 : GW) (K : Int32 → Prop) : Prop :=
  ∃ f1 : Int32, gfm w0 x0 [1] 1 = some (.int f1) ∧ ((f1 ≤ x1 → (K ((0 : Int32)))) ∧ (¬ f1 ≤ x1 → (∃ f4 : Option Nat, gfm w0 x0 [1] 0 = some (va_rf f4) ∧ (∃ a6 : Nat, f4 = some a6 ∧ (∃ (n7 : Nat) (f8 : Nat → Int32), gai w0 a6 1 = some (n7, f8) ∧ vp_in x1 n7 ∧ (K (rd f8 x1)))))))
set_option maxRecDepth 100000 in
theorem bX2_at_0 {E : jE} (hE : jOk E cX2_at RX2) (hn : E.2.2.2.2 = 2) (hR : jRoom E 0 0) {c : Nat → Option Nat} (hc : E.2.2.1.2.2.2 = c) {b : Nat × Nat} {w0 : GW} {K : Int32 → Prop} (hK : jRi E .int (KPI w0 K)) {x0 : Nat} {x1 : Int32}  (hw : wX2_at_0 c x0 x1 w0 K) : J E w0 b [(0, .ref (x0)), (1, .int (x1))] 0 [] := by
  unfold wX2_at_0 at hw
  refine j_iload_n hE 1 dX2_at_0 rfl rfl ?_
  refine j_aload_n hE 0 dX2_at_1 rfl rfl ?_
  obtain ⟨f1, h2, hw⟩ := hw
  refine j_getM hE gf_GlassStreet_Reader_size q179 h2 dX2_at_2 ?_
  refine j_icmp_ge hE 17 dX2_at_5 (by decide) (fun c3 => ?_) (fun c3 => ?_)
  · replace hw := hw.1 c3
    refine j_iconst hE dX2_at_17 kc_0 ?_
    exact j_iret hE hK dX2_at_18 rfl ⟨rfl, hw⟩
  · replace hw := hw.2 c3
    refine j_aload_n hE 0 dX2_at_8 rfl rfl ?_
    obtain ⟨f4, h5, hw⟩ := hw
    refine j_getM hE gf_GlassStreet_Reader_text q178 h5 dX2_at_9 ?_
    refine j_iload_n hE 1 dX2_at_12 rfl rfl ?_
    obtain ⟨a6, e9, hx⟩ := hw
    subst e9
    have hw := hx
    clear hx
    obtain ⟨n7, f8, h9, h10, hw⟩ := hw
    refine j_aldB hE h9 h10 dX2_at_13 ?_
    refine j_goto hE 18 dX2_at_14 (by decide) ?_
    exact j_iret hE hK dX2_at_18 rfl ⟨rfl, hw⟩
theorem jdX2_at : jD yX2_at 1 := by decide +kernel
abbrev wX2_at := wX2_at_0
theorem ctX2_at (l : Launch) (G : gG) {c : Nat → Option Nat} (hc : G.2.2.2 = c) (x0 : Nat) (x1 : Int32) (w0 : GW) (K : Int32 → Prop) (hw : wX2_at_0 c x0 x1 w0 K) {F2 L2 : Nat} (h2 : 0 ≤ F2 ∧ 0 ≤ L2 := by exact ⟨Nat.le_refl _, Nat.le_refl _⟩) : CtI l yX2_at cX2_at 2 .int ({ frames := F2, cells := 0, slots := 0, locals := L2 }) G [.ref (x0), .int (x1)] w0 (KPI w0 K) :=
  CtI.of RX2 plainc_X2 rfl (Nat.le_of_ble_eq_true rfl) (fun E hE hl hG hn hR hK => bX2_at_0 hE hn (hR.le h2.1 h2.2) (by rw [hG]; exact hc) hK hw)
def wX2_isLetter_0 (c : Nat → Option Nat) (x0 : Int32) (w0 : GW) (K : Int32 → Prop) : Prop :=
  (x0 < (nI 97) → (K ((0 : Int32)))) ∧ (¬ x0 < (nI 97) → (((nI 122) < x0 → (K ((0 : Int32)))) ∧ (¬ (nI 122) < x0 → (K ((1 : Int32))))))
set_option maxRecDepth 100000 in
theorem bX2_isLetter_0 {E : jE} (hE : jOk E cX2_isLetter RX2) (hn : E.2.2.2.2 = 1) (hR : jRoom E 0 0) {c : Nat → Option Nat} (hc : E.2.2.1.2.2.2 = c) {b : Nat × Nat} {w0 : GW} {K : Int32 → Prop} (hK : jRi E .boolean (KPI w0 K)) {x0 : Int32}  (hw : wX2_isLetter_0 c x0 w0 K) : J E w0 b [(0, .int (x0))] 0 [] := by
  unfold wX2_isLetter_0 at hw
  refine j_iload_n hE 0 dX2_isLetter_0 rfl rfl ?_
  refine j_bipush hE dX2_isLetter_1 kb_97 ?_
  refine j_icmp_lt hE 16 dX2_isLetter_3 (by decide) (fun c1 => ?_) (fun c1 => ?_)
  · replace hw := hw.1 c1
    refine j_iconst hE dX2_isLetter_16 kc_0 ?_
    exact j_iret hE hK dX2_isLetter_17 rfl ⟨rfl, hw⟩
  · replace hw := hw.2 c1
    refine j_iload_n hE 0 dX2_isLetter_6 rfl rfl ?_
    refine j_bipush hE dX2_isLetter_7 kb_122 ?_
    refine j_icmp_gt hE 16 dX2_isLetter_9 (by decide) (fun c2 => ?_) (fun c2 => ?_)
    · replace hw := hw.1 c2
      refine j_iconst hE dX2_isLetter_16 kc_0 ?_
      exact j_iret hE hK dX2_isLetter_17 rfl ⟨rfl, hw⟩
    · replace hw := hw.2 c2
      refine j_iconst hE dX2_isLetter_12 kc_1 ?_
      refine j_goto hE 17 dX2_isLetter_13 (by decide) ?_
      exact j_iret hE hK dX2_isLetter_17 rfl ⟨rfl, hw⟩
theorem jdX2_isLetter : jD yX2_isLetter 1 := by decide +kernel
abbrev wX2_isLetter := wX2_isLetter_0
theorem ctX2_isLetter (l : Launch) (G : gG) {c : Nat → Option Nat} (hc : G.2.2.2 = c) (x0 : Int32) (w0 : GW) (K : Int32 → Prop) (hw : wX2_isLetter_0 c x0 w0 K) {F2 L2 : Nat} (h2 : 0 ≤ F2 ∧ 0 ≤ L2 := by exact ⟨Nat.le_refl _, Nat.le_refl _⟩) : CtI l yX2_isLetter cX2_isLetter 1 .boolean ({ frames := F2, cells := 0, slots := 0, locals := L2 }) G [.int (x0)] w0 (KPI w0 K) :=
  CtI.of RX2 plainc_X2 rfl (Nat.le_of_ble_eq_true rfl) (fun E hE hl hG hn hR hK => bX2_isLetter_0 hE hn (hR.le h2.1 h2.2) (by rw [hG]; exact hc) hK hw)
def wX2_isDigit_0 (c : Nat → Option Nat) (x0 : Int32) (w0 : GW) (K : Int32 → Prop) : Prop :=
  (x0 < (nI 48) → (K ((0 : Int32)))) ∧ (¬ x0 < (nI 48) → (((nI 57) < x0 → (K ((0 : Int32)))) ∧ (¬ (nI 57) < x0 → (K ((1 : Int32))))))
set_option maxRecDepth 100000 in
theorem bX2_isDigit_0 {E : jE} (hE : jOk E cX2_isDigit RX2) (hn : E.2.2.2.2 = 1) (hR : jRoom E 0 0) {c : Nat → Option Nat} (hc : E.2.2.1.2.2.2 = c) {b : Nat × Nat} {w0 : GW} {K : Int32 → Prop} (hK : jRi E .boolean (KPI w0 K)) {x0 : Int32}  (hw : wX2_isDigit_0 c x0 w0 K) : J E w0 b [(0, .int (x0))] 0 [] := by
  unfold wX2_isDigit_0 at hw
  refine j_iload_n hE 0 dX2_isDigit_0 rfl rfl ?_
  refine j_bipush hE dX2_isDigit_1 kb_48 ?_
  refine j_icmp_lt hE 16 dX2_isDigit_3 (by decide) (fun c1 => ?_) (fun c1 => ?_)
  · replace hw := hw.1 c1
    refine j_iconst hE dX2_isDigit_16 kc_0 ?_
    exact j_iret hE hK dX2_isDigit_17 rfl ⟨rfl, hw⟩
  · replace hw := hw.2 c1
    refine j_iload_n hE 0 dX2_isDigit_6 rfl rfl ?_
    refine j_bipush hE dX2_isDigit_7 kb_57 ?_
    refine j_icmp_gt hE 16 dX2_isDigit_9 (by decide) (fun c2 => ?_) (fun c2 => ?_)
    · replace hw := hw.1 c2
      refine j_iconst hE dX2_isDigit_16 kc_0 ?_
      exact j_iret hE hK dX2_isDigit_17 rfl ⟨rfl, hw⟩
    · replace hw := hw.2 c2
      refine j_iconst hE dX2_isDigit_12 kc_1 ?_
      refine j_goto hE 17 dX2_isDigit_13 (by decide) ?_
      exact j_iret hE hK dX2_isDigit_17 rfl ⟨rfl, hw⟩
theorem jdX2_isDigit : jD yX2_isDigit 1 := by decide +kernel
abbrev wX2_isDigit := wX2_isDigit_0
theorem ctX2_isDigit (l : Launch) (G : gG) {c : Nat → Option Nat} (hc : G.2.2.2 = c) (x0 : Int32) (w0 : GW) (K : Int32 → Prop) (hw : wX2_isDigit_0 c x0 w0 K) {F2 L2 : Nat} (h2 : 0 ≤ F2 ∧ 0 ≤ L2 := by exact ⟨Nat.le_refl _, Nat.le_refl _⟩) : CtI l yX2_isDigit cX2_isDigit 1 .boolean ({ frames := F2, cells := 0, slots := 0, locals := L2 }) G [.int (x0)] w0 (KPI w0 K) :=
  CtI.of RX2 plainc_X2 rfl (Nat.le_of_ble_eq_true rfl) (fun E hE hl hG hn hR hK => bX2_isDigit_0 hE hn (hR.le h2.1 h2.2) (by rw [hG]; exact hc) hK hw)
def wJ3_isLatin1_0 (c : Nat → Option Nat) (x0 : Nat) (w0 : GW) (K : Int32 → Prop) : Prop :=
  (((1 : Int32)) = 0 → (K ((0 : Int32)))) ∧ (¬ ((1 : Int32)) = 0 → (∃ f2 : Int32, gfd w0 x0 [21] 1 = some (.int f2) ∧ ((¬ f2 = 0 → (K ((0 : Int32)))) ∧ (f2 = 0 → (K ((1 : Int32)))))))
set_option maxRecDepth 100000 in
theorem bJ3_isLatin1_0 {E : jE} (hE : jOk E cJ3_isLatin1 RJ3) (hn : E.2.2.2.2 = 1) (hR : jRoom E 0 0) {c : Nat → Option Nat} (hc : E.2.2.1.2.2.2 = c) {b : Nat × Nat} {w0 : GW} {K : Int32 → Prop} (hK : jRi E .boolean (KPI w0 K)) {x0 : Nat}  (hw : wJ3_isLatin1_0 c x0 w0 K) : J E w0 b [(0, .ref (x0))] 0 [] := by
  unfold wJ3_isLatin1_0 at hw
  refine j_gets (v := .int 1) hE q437 hE.inv.2.2.2.1.1 dJ3_isLatin1_0 ?_
  refine j_if_eq hE 17 dJ3_isLatin1_3 (by decide) (fun c1 => ?_) (fun c1 => ?_)
  · replace hw := hw.1 c1
    refine j_iconst hE dJ3_isLatin1_17 kc_0 ?_
    exact j_iret hE hK dJ3_isLatin1_18 rfl ⟨rfl, hw⟩
  · replace hw := hw.2 c1
    refine j_aload_n hE 0 dJ3_isLatin1_6 rfl rfl ?_
    obtain ⟨f2, h3, hw⟩ := hw
    refine j_getX hE gf_java_lang_String_coder q794 h3 dJ3_isLatin1_7 ?_
    refine j_if_ne hE 17 dJ3_isLatin1_10 (by decide) (fun c4 => ?_) (fun c4 => ?_)
    · replace hw := hw.1 c4
      refine j_iconst hE dJ3_isLatin1_17 kc_0 ?_
      exact j_iret hE hK dJ3_isLatin1_18 rfl ⟨rfl, hw⟩
    · replace hw := hw.2 c4
      refine j_iconst hE dJ3_isLatin1_13 kc_1 ?_
      refine j_goto hE 18 dJ3_isLatin1_14 (by decide) ?_
      exact j_iret hE hK dJ3_isLatin1_18 rfl ⟨rfl, hw⟩
theorem jdJ3_isLatin1 : jD yJ3_isLatin1 0 := by decide +kernel
abbrev wJ3_isLatin1 := wJ3_isLatin1_0
theorem ctJ3_isLatin1 (l : Launch) (G : gG) {c : Nat → Option Nat} (hc : G.2.2.2 = c) (x0 : Nat) (w0 : GW) (K : Int32 → Prop) (hw : wJ3_isLatin1_0 c x0 w0 K) {F2 L2 : Nat} (h2 : 0 ≤ F2 ∧ 0 ≤ L2 := by exact ⟨Nat.le_refl _, Nat.le_refl _⟩) : CtI l yJ3_isLatin1 cJ3_isLatin1 1 .boolean ({ frames := F2, cells := 0, slots := 0, locals := L2 }) G [.ref (x0)] w0 (KPI w0 K) :=
  CtI.of RJ3 plainc_J3 rfl (Nat.le_of_ble_eq_true rfl) (fun E hE hl hG hn hR hK => bJ3_isLatin1_0 hE hn (hR.le h2.1 h2.2) (by rw [hG]; exact hc) hK hw)
def wJ3_coder_0 (c : Nat → Option Nat) (x0 : Nat) (w0 : GW) (K : Int32 → Prop) : Prop :=
  (((1 : Int32)) = 0 → (K ((1 : Int32)))) ∧ (¬ ((1 : Int32)) = 0 → (∃ f2 : Int32, gfd w0 x0 [21] 1 = some (.int f2) ∧ (narrow .byte (.int f2) = .int f2 ∧ K f2)))
set_option maxRecDepth 100000 in
theorem bJ3_coder_0 {E : jE} (hE : jOk E cJ3_coder RJ3) (hn : E.2.2.2.2 = 1) (hR : jRoom E 0 0) {c : Nat → Option Nat} (hc : E.2.2.1.2.2.2 = c) {b : Nat × Nat} {w0 : GW} {K : Int32 → Prop} (hK : jRi E .byte (KPI w0 K)) {x0 : Nat}  (hw : wJ3_coder_0 c x0 w0 K) : J E w0 b [(0, .ref (x0))] 0 [] := by
  unfold wJ3_coder_0 at hw
  refine j_gets (v := .int 1) hE q437 hE.inv.2.2.2.1.1 dJ3_coder_0 ?_
  refine j_if_eq hE 13 dJ3_coder_3 (by decide) (fun c1 => ?_) (fun c1 => ?_)
  · replace hw := hw.1 c1
    refine j_iconst hE dJ3_coder_13 kc_1 ?_
    exact j_iret hE hK dJ3_coder_14 rfl ⟨rfl, hw⟩
  · replace hw := hw.2 c1
    refine j_aload_n hE 0 dJ3_coder_6 rfl rfl ?_
    obtain ⟨f2, h3, hw⟩ := hw
    refine j_getX hE gf_java_lang_String_coder q794 h3 dJ3_coder_7 ?_
    refine j_goto hE 14 dJ3_coder_10 (by decide) ?_
    obtain ⟨hz, hw⟩ := hw
    exact j_iret hE hK dJ3_coder_14 hz ⟨rfl, hw⟩
theorem jdJ3_coder : jD yJ3_coder 0 := by decide +kernel
abbrev wJ3_coder := wJ3_coder_0
theorem ctJ3_coder (l : Launch) (G : gG) {c : Nat → Option Nat} (hc : G.2.2.2 = c) (x0 : Nat) (w0 : GW) (K : Int32 → Prop) (hw : wJ3_coder_0 c x0 w0 K) {F2 L2 : Nat} (h2 : 0 ≤ F2 ∧ 0 ≤ L2 := by exact ⟨Nat.le_refl _, Nat.le_refl _⟩) : CtI l yJ3_coder cJ3_coder 1 .byte ({ frames := F2, cells := 0, slots := 0, locals := L2 }) G [.ref (x0)] w0 (KPI w0 K) :=
  CtI.of RJ3 plainc_J3 rfl (Nat.le_of_ble_eq_true rfl) (fun E hE hl hG hn hR hK => bJ3_coder_0 hE hn (hR.le h2.1 h2.2) (by rw [hG]; exact hc) hK hw)
def wJ3_length_0 (c : Nat → Option Nat) (x0 : Nat) (w0 : GW) (K : Int32 → Prop) : Prop :=
  ∃ f1 : Option Nat, gfd w0 x0 [21] 0 = some (va_rf f1) ∧ (∃ a3 : Nat, f1 = some a3 ∧ (∃ n4 : Nat, galen w0 a3 1 = some n4 ∧ (gcls w0 x0 = some 21 ∧ (wJ3_coder c x0 w0 (fun r8 => K (ishr (nI n4) r8))))))
set_option maxRecDepth 100000 in
theorem bJ3_length_0 {E : jE} (hE : jOk E cJ3_length RJ3) (hn : E.2.2.2.2 = 1) (hR : jRoom E 1 20) {c : Nat → Option Nat} (hc : E.2.2.1.2.2.2 = c) {b : Nat × Nat} {w0 : GW} {K : Int32 → Prop} (hK : jRi E .int (KPI w0 K)) {x0 : Nat}  (hw : wJ3_length_0 c x0 w0 K) : J E w0 b [(0, .ref (x0))] 0 [] := by
  unfold wJ3_length_0 at hw
  refine j_aload_n hE 0 dJ3_length_0 rfl rfl ?_
  obtain ⟨f1, h2, hw⟩ := hw
  refine j_getX hE gf_java_lang_String_value q793 h2 dJ3_length_1 ?_
  obtain ⟨a3, e9, hx⟩ := hw
  subst e9
  have hw := hx
  clear hx
  obtain ⟨n4, h6, hw⟩ := hw
  refine j_alen hE h6 (Nat.le_of_ble_eq_true rfl) dJ3_length_4 ?_
  refine j_aload_n hE 0 dJ3_length_5 rfl rfl ?_
  obtain ⟨h9, hw⟩ := hw
  refine jc_ip (jr_V hE hR (As := []) (rest := [.int (nI n4)]) ((ctJ3_coder E.1.2.1 E.2.2.1 hc _ _ _ hw) E.2.2.2.1) (lw_V q443 q444 q445 q130 q446) jdJ3_coder ⟨Nat.le_of_ble_eq_true rfl, Nat.le_of_ble_eq_true rfl⟩ ⟨Nat.zero_le _, Nat.zero_le _⟩ (gcls_gIs h9 (r := (RJ3, TJ3, 4)) rfl) rfl (Nat.le_of_ble_eq_true rfl) dJ3_length_6) (fun r8 hw => ?_)
  refine j_b0 ?_
  refine j_ishr hE dJ3_length_9 ?_
  exact j_iret hE hK dJ3_length_10 rfl ⟨rfl, hw⟩
theorem jdJ3_length : jD yJ3_length 0 := by decide +kernel
abbrev wJ3_length := wJ3_length_0
theorem ctJ3_length (l : Launch) (G : gG) {c : Nat → Option Nat} (hc : G.2.2.2 = c) (x0 : Nat) (w0 : GW) (K : Int32 → Prop) (hw : wJ3_length_0 c x0 w0 K) {F2 L2 : Nat} (h2 : 1 ≤ F2 ∧ 20 ≤ L2 := by exact ⟨Nat.le_refl _, Nat.le_refl _⟩) : CtI l yJ3_length cJ3_length 1 .int ({ frames := F2, cells := 0, slots := 0, locals := L2 }) G [.ref (x0)] w0 (KPI w0 K) :=
  CtI.of RJ3 plainc_J3 rfl (Nat.le_of_ble_eq_true rfl) (fun E hE hl hG hn hR hK => bJ3_length_0 hE hn (hR.le h2.1 h2.2) (by rw [hG]; exact hc) hK hw)
def wJ4_canEncode_0 (c : Nat → Option Nat) (x0 : Int32) (w0 : GW) (K : Int32 → Prop) : Prop :=
  (x0 < 0 → (K ((0 : Int32)))) ∧ (¬ x0 < 0 → (((nI 255) < x0 → (K ((0 : Int32)))) ∧ (¬ (nI 255) < x0 → (K ((1 : Int32))))))
set_option maxRecDepth 100000 in
theorem bJ4_canEncode_0 {E : jE} (hE : jOk E cJ4_canEncode RJ4) (hn : E.2.2.2.2 = 1) (hR : jRoom E 0 0) {c : Nat → Option Nat} (hc : E.2.2.1.2.2.2 = c) {b : Nat × Nat} {w0 : GW} {K : Int32 → Prop} (hK : jRi E .boolean (KPI w0 K)) {x0 : Int32}  (hw : wJ4_canEncode_0 c x0 w0 K) : J E w0 b [(0, .int (x0))] 0 [] := by
  unfold wJ4_canEncode_0 at hw
  refine j_iload_n hE 0 dJ4_canEncode_0 rfl rfl ?_
  refine j_if_lt hE 15 dJ4_canEncode_1 (by decide) (fun c1 => ?_) (fun c1 => ?_)
  · replace hw := hw.1 c1
    refine j_iconst hE dJ4_canEncode_15 kc_0 ?_
    exact j_iret hE hK dJ4_canEncode_16 rfl ⟨rfl, hw⟩
  · replace hw := hw.2 c1
    refine j_iload_n hE 0 dJ4_canEncode_4 rfl rfl ?_
    refine j_sipush hE dJ4_canEncode_5 ks_255 ?_
    refine j_icmp_gt hE 15 dJ4_canEncode_8 (by decide) (fun c2 => ?_) (fun c2 => ?_)
    · replace hw := hw.1 c2
      refine j_iconst hE dJ4_canEncode_15 kc_0 ?_
      exact j_iret hE hK dJ4_canEncode_16 rfl ⟨rfl, hw⟩
    · replace hw := hw.2 c2
      refine j_iconst hE dJ4_canEncode_11 kc_1 ?_
      refine j_goto hE 16 dJ4_canEncode_12 (by decide) ?_
      exact j_iret hE hK dJ4_canEncode_16 rfl ⟨rfl, hw⟩
theorem jdJ4_canEncode : jD yJ4_canEncode 1 := by decide +kernel
abbrev wJ4_canEncode := wJ4_canEncode_0
theorem ctJ4_canEncode (l : Launch) (G : gG) {c : Nat → Option Nat} (hc : G.2.2.2 = c) (x0 : Int32) (w0 : GW) (K : Int32 → Prop) (hw : wJ4_canEncode_0 c x0 w0 K) {F2 L2 : Nat} (h2 : 0 ≤ F2 ∧ 0 ≤ L2 := by exact ⟨Nat.le_refl _, Nat.le_refl _⟩) : CtI l yJ4_canEncode cJ4_canEncode 1 .boolean ({ frames := F2, cells := 0, slots := 0, locals := L2 }) G [.int (x0)] w0 (KPI w0 K) :=
  CtI.of RJ4 plainc_J4 rfl (Nat.le_of_ble_eq_true rfl) (fun E hE hl hG hn hR hK => bJ4_canEncode_0 hE hn (hR.le h2.1 h2.2) (by rw [hG]; exact hc) hK hw)
def wJ4_indexOfChar_7_b (c : Nat → Option Nat) (x0 : Nat) (x3 : Int32) (x4 : Int32) (x5 : Int32) (w0 : GW) (KL7 : Int32 → Prop) (K : Int32 → Prop) : Prop :=
  (x3 ≤ x5 → (K ((-1 : Int32)))) ∧ (¬ x3 ≤ x5 → (∃ (n2 : Nat) (f3 : Nat → Int32), gai w0 x0 1 = some (n2, f3) ∧ vp_in x5 n2 ∧ ((¬ (rd f3 x5) = x4 → (KL7 (x5 + 1))) ∧ ((rd f3 x5) = x4 → (K x5)))))
def wJ4_indexOfChar_7 (c : Nat → Option Nat) (x0 : Nat) (x3 : Int32) (x4 : Int32) (x5 : Int32) (w0 : GW) (K : Int32 → Prop) : Prop := lfp (σ := Int32) (fun KL s => wJ4_indexOfChar_7_b c x0 x3 x4 s w0 KL K) x5
set_option maxRecDepth 100000 in
theorem bJ4_indexOfChar_7 {E : jE} (hE : jOk E cJ4_indexOfChar RJ4) (hn : E.2.2.2.2 = 6) (hR : jRoom E 0 0) {c : Nat → Option Nat} (hc : E.2.2.1.2.2.2 = c) {b : Nat × Nat} {w0 : GW} {K : Int32 → Prop} (hK : jRi E .int (KPI w0 K)) {x0 : Nat} {x3 : Int32} {x4 : Int32} {x5 : Int32}  (hw : wJ4_indexOfChar_7 c x0 x3 x4 x5 w0 K) : J E w0 b [(0, .ref (x0)), (3, .int (x3)), (4, .int (x4)), (5, .int (x5))] 7 [] := by
  refine lfp_sound (σ := Int32) (F := fun KL s => wJ4_indexOfChar_7_b c x0 x3 x4 s w0 KL K) (P := fun s => J E w0 b [(0, .ref (x0)), (3, .int (x3)), (4, .int (x4)), (5, .int (s))] 7 []) ?_ hw
  clear hw
  rintro KL7 x5 hw ih7
  have hw : wJ4_indexOfChar_7_b c x0 x3 x4 x5 w0 KL7 K := hw
  unfold wJ4_indexOfChar_7_b at hw
  refine j_iload hE 3 dJ4_indexOfChar_7 rfl ?_
  refine j_iload_n hE 1 dJ4_indexOfChar_9 rfl rfl ?_
  refine j_icmp_ge hE 31 dJ4_indexOfChar_10 (by decide) (fun c1 => ?_) (fun c1 => ?_)
  · replace hw := hw.1 c1
    refine j_iconst hE dJ4_indexOfChar_31 kc_m1 ?_
    exact j_iret hE hK dJ4_indexOfChar_32 rfl ⟨rfl, hw⟩
  · replace hw := hw.2 c1
    refine j_aload_n hE 0 dJ4_indexOfChar_13 rfl rfl ?_
    refine j_iload hE 3 dJ4_indexOfChar_14 rfl ?_
    obtain ⟨n2, f3, h4, h5, hw⟩ := hw
    refine j_aldB hE h4 h5 dJ4_indexOfChar_16 ?_
    refine j_iload hE 2 dJ4_indexOfChar_17 rfl ?_
    refine j_icmp_ne hE 25 dJ4_indexOfChar_19 (by decide) (fun c6 => ?_) (fun c6 => ?_)
    · replace hw := hw.1 c6
      refine j_iinc (L' := [(5, .int (x5 + 1)), (0, .ref (x0)), (3, .int (x3)), (4, .int (x4))]) hE hn 3 dJ4_indexOfChar_25 rfl (congrArg (x5 + ·) kc_1) (Nat.le_of_ble_eq_true rfl) rfl ?_
      refine j_goto hE 7 dJ4_indexOfChar_28 (by decide) ?_
      refine j_sub [(0, .ref (x0)), (3, .int (x3)), (4, .int (x4)), (5, .int (x5 + 1))] [1, 2, 3, 0] rfl ?_
      have hz := ih7 (x5 + 1) hw
      exact hz
    · replace hw := hw.2 c6
      refine j_iload hE 3 dJ4_indexOfChar_22 rfl ?_
      exact j_iret hE hK dJ4_indexOfChar_24 rfl ⟨rfl, hw⟩
def wJ4_indexOfChar_0 (c : Nat → Option Nat) (x0 : Nat) (x1 : Int32) (x2 : Int32) (x3 : Int32) (w0 : GW) (K : Int32 → Prop) : Prop :=
  ∀ v1 : Int32, v1 = i2b x1 → (wJ4_indexOfChar_7 c x0 x3 v1 x2 w0 K)
set_option maxRecDepth 100000 in
theorem bJ4_indexOfChar_0 {E : jE} (hE : jOk E cJ4_indexOfChar RJ4) (hn : E.2.2.2.2 = 6) (hR : jRoom E 0 0) {c : Nat → Option Nat} (hc : E.2.2.1.2.2.2 = c) {b : Nat × Nat} {w0 : GW} {K : Int32 → Prop} (hK : jRi E .int (KPI w0 K)) {x0 : Nat} {x1 : Int32} {x2 : Int32} {x3 : Int32}  (hw : wJ4_indexOfChar_0 c x0 x1 x2 x3 w0 K) : J E w0 b [(0, .ref (x0)), (1, .int (x1)), (2, .int (x2)), (3, .int (x3))] 0 [] := by
  unfold wJ4_indexOfChar_0 at hw
  refine j_iload_n hE 1 dJ4_indexOfChar_0 rfl rfl ?_
  refine j_i2b hE dJ4_indexOfChar_1 ?_
  refine j_topi (fun v1 e_v1 => ?_)
  replace hw := hw v1 e_v1
  refine j_istore (L' := [(4, .int (v1)), (0, .ref (x0)), (1, .int (x1)), (2, .int (x2)), (3, .int (x3))]) hE hn dJ4_indexOfChar_2 (Nat.le_of_ble_eq_true rfl) rfl ?_
  refine j_iload_n hE 3 dJ4_indexOfChar_4 rfl rfl ?_
  refine j_istore (L' := [(5, .int (x2)), (4, .int (v1)), (0, .ref (x0)), (1, .int (x1)), (2, .int (x2)), (3, .int (x3))]) hE hn dJ4_indexOfChar_5 (Nat.le_of_ble_eq_true rfl) rfl ?_
  refine j_sub [(0, .ref (x0)), (3, .int (x3)), (4, .int (v1)), (5, .int (x2))] [2, 5, 1, 0] rfl ?_
  have hz := bJ4_indexOfChar_7 (b := b) hE hn hR hc hK  hw
  exact hz
theorem jdJ4_indexOfChar : jD yJ4_indexOfChar 4 := by decide +kernel
abbrev wJ4_indexOfChar := wJ4_indexOfChar_0
theorem ctJ4_indexOfChar (l : Launch) (G : gG) {c : Nat → Option Nat} (hc : G.2.2.2 = c) (x0 : Nat) (x1 : Int32) (x2 : Int32) (x3 : Int32) (w0 : GW) (K : Int32 → Prop) (hw : wJ4_indexOfChar_0 c x0 x1 x2 x3 w0 K) {F2 L2 : Nat} (h2 : 0 ≤ F2 ∧ 0 ≤ L2 := by exact ⟨Nat.le_refl _, Nat.le_refl _⟩) : CtI l yJ4_indexOfChar cJ4_indexOfChar 6 .int ({ frames := F2, cells := 0, slots := 0, locals := L2 }) G [.ref (x0), .int (x1), .int (x2), .int (x3)] w0 (KPI w0 K) :=
  CtI.of RJ4 plainc_J4 rfl (Nat.le_of_ble_eq_true rfl) (fun E hE hl hG hn hR hK => bJ4_indexOfChar_0 hE hn (hR.le h2.1 h2.2) (by rw [hG]; exact hc) hK hw)
def wJ4_indexOf_0 (c : Nat → Option Nat) (x0 : Nat) (x1 : Int32) (x2 : Int32) (x3 : Int32) (w0 : GW) (K : Int32 → Prop) : Prop :=
  wJ4_canEncode c x1 w0 (fun r1 => (¬ r1 = 0 → (∀ v3 : Int32, v3 = (if x2 < ((0 : Int32)) then ((0 : Int32)) else x2) → (∃ n4 : Nat, galen w0 x0 1 = some n4 ∧ (∀ v8 : Int32, v8 = (if (nI n4) < x3 then (nI n4) else x3) → ((v3 < v8 → (wJ4_indexOfChar c x0 x1 v3 v8 w0 (fun r10 => K r10))) ∧ (¬ v3 < v8 → (K ((-1 : Int32))))))))) ∧ (r1 = 0 → (K ((-1 : Int32)))))
set_option maxRecDepth 100000 in
theorem bJ4_indexOf_0 {E : jE} (hE : jOk E cJ4_indexOf RJ4) (hn : E.2.2.2.2 = 4) (hR : jRoom E 1 60) {c : Nat → Option Nat} (hc : E.2.2.1.2.2.2 = c) {b : Nat × Nat} {w0 : GW} {K : Int32 → Prop} (hK : jRi E .int (KPI w0 K)) {x0 : Nat} {x1 : Int32} {x2 : Int32} {x3 : Int32}  (hw : wJ4_indexOf_0 c x0 x1 x2 x3 w0 K) : J E w0 b [(0, .ref (x0)), (1, .int (x1)), (2, .int (x2)), (3, .int (x3))] 0 [] := by
  unfold wJ4_indexOf_0 at hw
  refine j_iload_n hE 1 dJ4_indexOf_0 rfl rfl ?_
  refine jc_ip (jr_S hE hR (As := [.int (x1)]) (rest := []) ((ctJ4_canEncode E.1.2.1 E.2.2.1 hc _ _ _ hw) E.2.2.2.1) (lw_S q450 q451 q131 q452) jdJ4_canEncode ⟨Nat.le_of_ble_eq_true rfl, Nat.le_of_ble_eq_true rfl⟩ ⟨Nat.zero_le _, Nat.zero_le _⟩  rfl (Nat.le_of_ble_eq_true rfl) dJ4_indexOf_1) (fun r1 hw => ?_)
  refine j_b0 ?_
  refine j_if_ne hE 9 dJ4_indexOf_4 (by decide) (fun c2 => ?_) (fun c2 => ?_)
  · replace hw := hw.1 c2
    refine j_iload_n hE 2 dJ4_indexOf_9 rfl rfl ?_
    refine j_iconst hE dJ4_indexOf_10 kc_0 ?_
    refine j_mmax hE hR q453 (Nat.le_of_ble_eq_true rfl) (Nat.le_of_ble_eq_true rfl) dJ4_indexOf_11 ?_
    refine j_topi (fun v3 e_v3 => ?_)
    replace hw := hw v3 e_v3
    refine j_istore_n (L' := [(2, .int (v3)), (0, .ref (x0)), (1, .int (x1)), (3, .int (x3))]) hE hn dJ4_indexOf_14 rfl (Nat.le_of_ble_eq_true rfl) rfl ?_
    refine j_iload_n hE 3 dJ4_indexOf_15 rfl rfl ?_
    refine j_aload_n hE 1 dJ4_indexOf_16 rfl rfl ?_
    obtain ⟨n4, h6, hw⟩ := hw
    refine j_alen hE h6 (Nat.le_of_ble_eq_true rfl) dJ4_indexOf_17 ?_
    refine j_mmin hE hR q456 (Nat.le_of_ble_eq_true rfl) (Nat.le_of_ble_eq_true rfl) dJ4_indexOf_18 ?_
    refine j_topi (fun v8 e_v8 => ?_)
    replace hw := hw v8 e_v8
    refine j_istore_n (L' := [(3, .int (v8)), (2, .int (v3)), (0, .ref (x0)), (1, .int (x1))]) hE hn dJ4_indexOf_21 rfl (Nat.le_of_ble_eq_true rfl) rfl ?_
    refine j_iload_n hE 1 dJ4_indexOf_22 rfl rfl ?_
    refine j_iload_n hE 0 dJ4_indexOf_23 rfl rfl ?_
    refine j_icmp_lt hE 29 dJ4_indexOf_24 (by decide) (fun c9 => ?_) (fun c9 => ?_)
    · replace hw := hw.1 c9
      refine j_aload_n hE 2 dJ4_indexOf_29 rfl rfl ?_
      refine j_iload_n hE 3 dJ4_indexOf_30 rfl rfl ?_
      refine j_iload_n hE 1 dJ4_indexOf_31 rfl rfl ?_
      refine j_iload_n hE 0 dJ4_indexOf_32 rfl rfl ?_
      refine jc_ip (jr_S hE hR (As := [.ref (x0), .int (x1), .int (v3), .int (v8)]) (rest := []) ((ctJ4_indexOfChar E.1.2.1 E.2.2.1 hc _ _ _ _ _ _ hw) E.2.2.2.1) (lw_S q459 q460 q131 q461) jdJ4_indexOfChar ⟨Nat.le_of_ble_eq_true rfl, Nat.le_of_ble_eq_true rfl⟩ ⟨Nat.zero_le _, Nat.zero_le _⟩  rfl (Nat.le_of_ble_eq_true rfl) dJ4_indexOf_33) (fun r10 hw => ?_)
      refine j_b0 ?_
      exact j_iret hE hK dJ4_indexOf_36 rfl ⟨rfl, hw⟩
    · replace hw := hw.2 c9
      refine j_iconst hE dJ4_indexOf_27 kc_m1 ?_
      exact j_iret hE hK dJ4_indexOf_28 rfl ⟨rfl, hw⟩
  · replace hw := hw.2 c2
    refine j_iconst hE dJ4_indexOf_7 kc_m1 ?_
    exact j_iret hE hK dJ4_indexOf_8 rfl ⟨rfl, hw⟩
theorem jdJ4_indexOf : jD yJ4_indexOf 4 := by decide +kernel
abbrev wJ4_indexOf := wJ4_indexOf_0
theorem ctJ4_indexOf (l : Launch) (G : gG) {c : Nat → Option Nat} (hc : G.2.2.2 = c) (x0 : Nat) (x1 : Int32) (x2 : Int32) (x3 : Int32) (w0 : GW) (K : Int32 → Prop) (hw : wJ4_indexOf_0 c x0 x1 x2 x3 w0 K) {F2 L2 : Nat} (h2 : 1 ≤ F2 ∧ 60 ≤ L2 := by exact ⟨Nat.le_refl _, Nat.le_refl _⟩) : CtI l yJ4_indexOf cJ4_indexOf 4 .int ({ frames := F2, cells := 0, slots := 0, locals := L2 }) G [.ref (x0), .int (x1), .int (x2), .int (x3)] w0 (KPI w0 K) :=
  CtI.of RJ4 plainc_J4 rfl (Nat.le_of_ble_eq_true rfl) (fun E hE hl hG hn hR hK => bJ4_indexOf_0 hE hn (hR.le h2.1 h2.2) (by rw [hG]; exact hc) hK hw)
def wJ3_indexOf_2_0 (c : Nat → Option Nat) (x0 : Nat) (x1 : Int32) (x2 : Int32) (w0 : GW) (K : Int32 → Prop) : Prop :=
  gcls w0 x0 = some 21 ∧ (wJ3_isLatin1 c x0 w0 (fun r1 => (r1 = 0 → (∃ f4 : Option Nat, gfd w0 x0 [21] 0 = some (va_rf f4) ∧ (gcls w0 x0 = some 21 ∧ (wJ3_length c x0 w0 (fun r6 => False))))) ∧ (¬ r1 = 0 → (∃ f8 : Option Nat, gfd w0 x0 [21] 0 = some (va_rf f8) ∧ (gcls w0 x0 = some 21 ∧ (wJ3_length c x0 w0 (fun r10 => ∃ a12 : Nat, f8 = some a12 ∧ (wJ4_indexOf c a12 x1 x2 r10 w0 (fun r13 => K r13)))))))))
set_option maxRecDepth 100000 in
theorem bJ3_indexOf_2_0 {E : jE} (hE : jOk E cJ3_indexOf_2 RJ3) (hn : E.2.2.2.2 = 3) (hR : jRoom E 2 83) {c : Nat → Option Nat} (hc : E.2.2.1.2.2.2 = c) {b : Nat × Nat} {w0 : GW} {K : Int32 → Prop} (hK : jRi E .int (KPI w0 K)) {x0 : Nat} {x1 : Int32} {x2 : Int32}  (hw : wJ3_indexOf_2_0 c x0 x1 x2 w0 K) : J E w0 b [(0, .ref (x0)), (1, .int (x1)), (2, .int (x2))] 0 [] := by
  unfold wJ3_indexOf_2_0 at hw
  refine j_aload_n hE 0 dJ3_indexOf_2_0 rfl rfl ?_
  obtain ⟨h2, hw⟩ := hw
  refine jc_ip (jr_V hE hR (As := []) (rest := []) ((ctJ3_isLatin1 E.1.2.1 E.2.2.1 hc _ _ _ hw) E.2.2.2.1) (lw_V q433 q434 q435 q130 q436) jdJ3_isLatin1 ⟨Nat.le_of_ble_eq_true rfl, Nat.le_of_ble_eq_true rfl⟩ ⟨Nat.zero_le _, Nat.zero_le _⟩ (gcls_gIs h2 (r := (RJ3, TJ3, 4)) rfl) rfl (Nat.le_of_ble_eq_true rfl) dJ3_indexOf_2_1) (fun r1 hw => ?_)
  refine j_b0 ?_
  refine j_if_eq hE 23 dJ3_indexOf_2_4 (by decide) (fun c3 => ?_) (fun c3 => ?_)
  · replace hw := hw.1 c3
    refine j_aload_n hE 0 dJ3_indexOf_2_23 rfl rfl ?_
    obtain ⟨f4, h5, hw⟩ := hw
    refine j_getX hE gf_java_lang_String_value q793 h5 dJ3_indexOf_2_24 ?_
    refine j_iload_n hE 1 dJ3_indexOf_2_27 rfl rfl ?_
    refine j_iload_n hE 2 dJ3_indexOf_2_28 rfl rfl ?_
    refine j_aload_n hE 0 dJ3_indexOf_2_29 rfl rfl ?_
    obtain ⟨h7, hw⟩ := hw
    refine jc_ip (jr_V hE hR (As := []) (rest := [.int (x2), .int (x1), va_rf (f4)]) ((ctJ3_length E.1.2.1 E.2.2.1 hc _ _ _ hw) E.2.2.2.1) (lw_V q439 q440 q441 q130 q442) jdJ3_length ⟨Nat.le_of_ble_eq_true rfl, Nat.le_of_ble_eq_true rfl⟩ ⟨Nat.zero_le _, Nat.zero_le _⟩ (gcls_gIs h7 (r := (RJ3, TJ3, 4)) rfl) rfl (by cases f4 <;> exact Nat.le_of_ble_eq_true rfl) dJ3_indexOf_2_30) (fun r6 hw => ?_)
    refine j_b0 ?_
    exact hw.elim
  · replace hw := hw.2 c3
    refine j_aload_n hE 0 dJ3_indexOf_2_7 rfl rfl ?_
    obtain ⟨f8, h9, hw⟩ := hw
    refine j_getX hE gf_java_lang_String_value q793 h9 dJ3_indexOf_2_8 ?_
    refine j_iload_n hE 1 dJ3_indexOf_2_11 rfl rfl ?_
    refine j_iload_n hE 2 dJ3_indexOf_2_12 rfl rfl ?_
    refine j_aload_n hE 0 dJ3_indexOf_2_13 rfl rfl ?_
    obtain ⟨h11, hw⟩ := hw
    refine jc_ip (jr_V hE hR (As := []) (rest := [.int (x2), .int (x1), va_rf (f8)]) ((ctJ3_length E.1.2.1 E.2.2.1 hc _ _ _ hw) E.2.2.2.1) (lw_V q439 q440 q441 q130 q442) jdJ3_length ⟨Nat.le_of_ble_eq_true rfl, Nat.le_of_ble_eq_true rfl⟩ ⟨Nat.zero_le _, Nat.zero_le _⟩ (gcls_gIs h11 (r := (RJ3, TJ3, 4)) rfl) rfl (by cases f8 <;> exact Nat.le_of_ble_eq_true rfl) dJ3_indexOf_2_14) (fun r10 hw => ?_)
    refine j_b0 ?_
    obtain ⟨a12, e9, hx⟩ := hw
    subst e9
    have hw := hx
    clear hx
    refine jc_ip (jr_S hE hR (As := [.ref (a12), .int (x1), .int (x2), .int (r10)]) (rest := []) ((ctJ4_indexOf E.1.2.1 E.2.2.1 hc _ _ _ _ _ _ hw) E.2.2.2.1) (lw_S q447 q448 q131 q449) jdJ4_indexOf ⟨Nat.le_of_ble_eq_true rfl, Nat.le_of_ble_eq_true rfl⟩ ⟨Nat.zero_le _, Nat.zero_le _⟩  rfl (Nat.le_of_ble_eq_true rfl) dJ3_indexOf_2_17) (fun r13 hw => ?_)
    refine j_b0 ?_
    refine j_goto hE 36 dJ3_indexOf_2_20 (by decide) ?_
    exact j_iret hE hK dJ3_indexOf_2_36 rfl ⟨rfl, hw⟩
theorem jdJ3_indexOf_2 : jD yJ3_indexOf_2 2 := by decide +kernel
abbrev wJ3_indexOf_2 := wJ3_indexOf_2_0
theorem ctJ3_indexOf_2 (l : Launch) (G : gG) {c : Nat → Option Nat} (hc : G.2.2.2 = c) (x0 : Nat) (x1 : Int32) (x2 : Int32) (w0 : GW) (K : Int32 → Prop) (hw : wJ3_indexOf_2_0 c x0 x1 x2 w0 K) {F2 L2 : Nat} (h2 : 2 ≤ F2 ∧ 83 ≤ L2 := by exact ⟨Nat.le_refl _, Nat.le_refl _⟩) : CtI l yJ3_indexOf_2 cJ3_indexOf_2 3 .int ({ frames := F2, cells := 0, slots := 0, locals := L2 }) G [.ref (x0), .int (x1), .int (x2)] w0 (KPI w0 K) :=
  CtI.of RJ3 plainc_J3 rfl (Nat.le_of_ble_eq_true rfl) (fun E hE hl hG hn hR hK => bJ3_indexOf_2_0 hE hn (hR.le h2.1 h2.2) (by rw [hG]; exact hc) hK hw)
def wJ3_indexOf_0 (c : Nat → Option Nat) (x0 : Nat) (x1 : Int32) (w0 : GW) (K : Int32 → Prop) : Prop :=
  gcls w0 x0 = some 21 ∧ (wJ3_indexOf_2 c x0 x1 ((0 : Int32)) w0 (fun r1 => K r1))
set_option maxRecDepth 100000 in
theorem bJ3_indexOf_0 {E : jE} (hE : jOk E cJ3_indexOf RJ3) (hn : E.2.2.2.2 = 2) (hR : jRoom E 3 105) {c : Nat → Option Nat} (hc : E.2.2.1.2.2.2 = c) {b : Nat × Nat} {w0 : GW} {K : Int32 → Prop} (hK : jRi E .int (KPI w0 K)) {x0 : Nat} {x1 : Int32}  (hw : wJ3_indexOf_0 c x0 x1 w0 K) : J E w0 b [(0, .ref (x0)), (1, .int (x1))] 0 [] := by
  unfold wJ3_indexOf_0 at hw
  refine j_aload_n hE 0 dJ3_indexOf_0 rfl rfl ?_
  refine j_iload_n hE 1 dJ3_indexOf_1 rfl rfl ?_
  refine j_iconst hE dJ3_indexOf_2 kc_0 ?_
  obtain ⟨h2, hw⟩ := hw
  refine jc_ip (jr_V hE hR (As := [.int (x1), .int ((0 : Int32))]) (rest := []) ((ctJ3_indexOf_2 E.1.2.1 E.2.2.1 hc _ _ _ _ _ hw) E.2.2.2.1) (lw_V q429 q430 q431 q130 q432) jdJ3_indexOf_2 ⟨Nat.le_of_ble_eq_true rfl, Nat.le_of_ble_eq_true rfl⟩ ⟨Nat.zero_le _, Nat.zero_le _⟩ (gcls_gIs h2 (r := (RJ3, TJ3, 4)) rfl) rfl (Nat.le_of_ble_eq_true rfl) dJ3_indexOf_3) (fun r1 hw => ?_)
  refine j_b0 ?_
  exact j_iret hE hK dJ3_indexOf_6 rfl ⟨rfl, hw⟩
theorem jdJ3_indexOf : jD yJ3_indexOf 1 := by decide +kernel
abbrev wJ3_indexOf := wJ3_indexOf_0
theorem ctJ3_indexOf (l : Launch) (G : gG) {c : Nat → Option Nat} (hc : G.2.2.2 = c) (x0 : Nat) (x1 : Int32) (w0 : GW) (K : Int32 → Prop) (hw : wJ3_indexOf_0 c x0 x1 w0 K) {F2 L2 : Nat} (h2 : 3 ≤ F2 ∧ 105 ≤ L2 := by exact ⟨Nat.le_refl _, Nat.le_refl _⟩) : CtI l yJ3_indexOf cJ3_indexOf 2 .int ({ frames := F2, cells := 0, slots := 0, locals := L2 }) G [.ref (x0), .int (x1)] w0 (KPI w0 K) :=
  CtI.of RJ3 plainc_J3 rfl (Nat.le_of_ble_eq_true rfl) (fun E hE hl hG hn hR hK => bJ3_indexOf_0 hE hn (hR.le h2.1 h2.2) (by rw [hG]; exact hc) hK hw)
def wX2_next_93_b (c : Nat → Option Nat) (x0 : Nat) (w : GW) (KL93 : GW → Prop) (K : GW → Prop) : Prop :=
  ∃ f1 : Int32, gfm w x0 [1] 2 = some (.int f1) ∧ (gmc w x0 = some 1 ∧ (wX2_at c x0 f1 w (fun r3 => wX2_isLetter c r3 w (fun r5 => (r5 = 0 → (∃ f7 : Int32, gfm w x0 [1] 2 = some (.int f7) ∧ (∃ f9 : Int32, gfm w x0 [1] 4 = some (.int f9) ∧ (((f7 - f9) ≤ (nI 8) → (∃ (n12 : Nat) (fs13 : List Value), w x0 = some (true, .inr (n12, fs13)) ∧ n12 ∈ ([1] : List Nat) ∧ 3 < fs13.length ∧ (∀ w17 : GW, w17 = gup w x0 (.inr (n12, fs13.set 3 (.int ((1 : Int32))))) → (K w17)))) ∧ (¬ (f7 - f9) ≤ (nI 8) → (∃ (n18 : Nat) (fs19 : List Value), w x0 = some (true, .inr (n18, fs19)) ∧ n18 ∈ ([1] : List Nat) ∧ 3 < fs19.length ∧ (∀ w23 : GW, w23 = gup w x0 (.inr (n18, fs19.set 3 (.int (nI 4)))) → (K w23)))))))) ∧ (¬ r5 = 0 → (∃ f24 : Int32, gfm w x0 [1] 2 = some (.int f24) ∧ (∃ (n26 : Nat) (fs27 : List Value), w x0 = some (true, .inr (n26, fs27)) ∧ n26 ∈ ([1] : List Nat) ∧ 2 < fs27.length ∧ (∀ w31 : GW, w31 = gup w x0 (.inr (n26, fs27.set 2 (.int (f24 + ((1 : Int32)))))) → (KL93 (w31))))))))))
def wX2_next_93 (c : Nat → Option Nat) (x0 : Nat) (w : GW) (K : GW → Prop) : Prop := lfp (σ := GW) (fun KL s => wX2_next_93_b c x0 s KL K) w
set_option maxRecDepth 100000 in
theorem bX2_next_93 {E : jE} (hE : jOk E cX2_next RX2) (hn : E.2.2.2.2 = 1) (hR : jRoom E 4 126) {c : Nat → Option Nat} (hc : E.2.2.1.2.2.2 = c) {b : Nat × Nat} {K : GW → Prop} (hK : jRv E (K)) {x0 : Nat} {w : GW}  (hw : wX2_next_93 c x0 w K) : J E w b [(0, .ref (x0))] 93 [] := by
  refine lfp_sound (σ := GW) (F := fun KL s => wX2_next_93_b c x0 s KL K) (P := fun s => J E s b [(0, .ref (x0))] 93 []) ?_ hw
  clear hw
  rintro KL93 w hw ih93
  have hw : wX2_next_93_b c x0 w KL93 K := hw
  unfold wX2_next_93_b at hw
  refine j_aload_n hE 0 dX2_next_93 rfl rfl ?_
  refine j_aload_n hE 0 dX2_next_94 rfl rfl ?_
  obtain ⟨f1, h2, hw⟩ := hw
  refine j_getM hE gf_GlassStreet_Reader_to q180 h2 dX2_next_95 ?_
  obtain ⟨h4, hw⟩ := hw
  refine jc_ip (jr_V hE hR (As := [.int (f1)]) (rest := []) ((ctX2_at E.1.2.1 E.2.2.1 hc _ _ _ _ hw) E.2.2.2.1) (lw_V q414 q416 qs3 q122 q417) jdX2_at ⟨Nat.le_of_ble_eq_true rfl, Nat.le_of_ble_eq_true rfl⟩ ⟨Nat.zero_le _, Nat.zero_le _⟩ (gmc_gIs h4 (r := (RX2, TX2, 8)) rfl) rfl (Nat.le_of_ble_eq_true rfl) dX2_next_98) (fun r3 hw => ?_)
  refine j_b0 ?_
  refine jc_ip (jr_S hE hR (As := [.int (r3)]) (rest := []) ((ctX2_isLetter E.1.2.1 E.2.2.1 hc _ _ _ hw) E.2.2.2.1) (lw_S q418 q419 q122 q420) jdX2_isLetter ⟨Nat.le_of_ble_eq_true rfl, Nat.le_of_ble_eq_true rfl⟩ ⟨Nat.zero_le _, Nat.zero_le _⟩  rfl (Nat.le_of_ble_eq_true rfl) dX2_next_101) (fun r5 hw => ?_)
  refine j_b0 ?_
  refine j_if_eq hE 120 dX2_next_104 (by decide) (fun c6 => ?_) (fun c6 => ?_)
  · replace hw := hw.1 c6
    refine j_aload_n hE 0 dX2_next_120 rfl rfl ?_
    refine j_aload_n hE 0 dX2_next_121 rfl rfl ?_
    obtain ⟨f7, h8, hw⟩ := hw
    refine j_getM hE gf_GlassStreet_Reader_to q180 h8 dX2_next_122 ?_
    refine j_aload_n hE 0 dX2_next_125 rfl rfl ?_
    obtain ⟨f9, h10, hw⟩ := hw
    refine j_getM hE gf_GlassStreet_Reader_from q182 h10 dX2_next_126 ?_
    refine j_isub hE dX2_next_129 ?_
    refine j_bipush hE dX2_next_130 kb_8 ?_
    refine j_icmp_le hE 139 dX2_next_132 (by decide) (fun c11 => ?_) (fun c11 => ?_)
    · replace hw := hw.1 c11
      refine j_iconst hE dX2_next_139 kc_1 ?_
      obtain ⟨n12, fs13, h14, h15, h16, hw⟩ := hw
      refine j_putX hE h15 gw_GlassStreet_Reader_kind_X2 q181 h14 rfl rfl h16 dX2_next_140 ?_
      refine j_nw (fun w17 e_w17 => ?_)
      replace hw := hw w17 e_w17
      refine j_goto hE 296 dX2_next_143 (by decide) ?_
      exact j_vret hE hK dX2_next_296 hw
    · replace hw := hw.2 c11
      refine j_iconst hE dX2_next_135 kc_4 ?_
      refine j_goto hE 140 dX2_next_136 (by decide) ?_
      obtain ⟨n18, fs19, h20, h21, h22, hw⟩ := hw
      refine j_putX hE h21 gw_GlassStreet_Reader_kind_X2 q181 h20 rfl rfl h22 dX2_next_140 ?_
      refine j_nw (fun w23 e_w23 => ?_)
      replace hw := hw w23 e_w23
      refine j_goto hE 296 dX2_next_143 (by decide) ?_
      exact j_vret hE hK dX2_next_296 hw
  · replace hw := hw.2 c6
    refine j_aload_n hE 0 dX2_next_107 rfl rfl ?_
    refine j_dup hE dX2_next_108 rfl ?_
    obtain ⟨f24, h25, hw⟩ := hw
    refine j_getM hE gf_GlassStreet_Reader_to q180 h25 dX2_next_109 ?_
    refine j_iconst hE dX2_next_112 kc_1 ?_
    refine j_iadd hE dX2_next_113 ?_
    obtain ⟨n26, fs27, h28, h29, h30, hw⟩ := hw
    refine j_putX hE h29 gw_GlassStreet_Reader_to_X2 q180 h28 rfl rfl h30 dX2_next_114 ?_
    refine j_nw (fun w31 e_w31 => ?_)
    replace hw := hw w31 e_w31
    refine j_goto hE 93 dX2_next_117 (by decide) ?_
    have hz := ih93 (w31) hw
    exact hz
def wX2_next_165_b (c : Nat → Option Nat) (x0 : Nat) (w : GW) (KL165 : GW → Prop) (K : GW → Prop) : Prop :=
  ∃ f1 : Int32, gfm w x0 [1] 2 = some (.int f1) ∧ (gmc w x0 = some 1 ∧ (wX2_at c x0 f1 w (fun r3 => wX2_isDigit c r3 w (fun r5 => (r5 = 0 → (∃ f7 : Int32, gfm w x0 [1] 2 = some (.int f7) ∧ (∃ f9 : Int32, gfm w x0 [1] 4 = some (.int f9) ∧ (((f7 - f9) ≤ (nI 4) → (∃ (n12 : Nat) (fs13 : List Value), w x0 = some (true, .inr (n12, fs13)) ∧ n12 ∈ ([1] : List Nat) ∧ 3 < fs13.length ∧ (∀ w17 : GW, w17 = gup w x0 (.inr (n12, fs13.set 3 (.int (nI 2)))) → (K w17)))) ∧ (¬ (f7 - f9) ≤ (nI 4) → (∃ (n18 : Nat) (fs19 : List Value), w x0 = some (true, .inr (n18, fs19)) ∧ n18 ∈ ([1] : List Nat) ∧ 3 < fs19.length ∧ (∀ w23 : GW, w23 = gup w x0 (.inr (n18, fs19.set 3 (.int (nI 4)))) → (K w23)))))))) ∧ (¬ r5 = 0 → (∃ f24 : Int32, gfm w x0 [1] 2 = some (.int f24) ∧ (∃ f26 : Int32, gfm w x0 [1] 4 = some (.int f26) ∧ (((nI 4) ≤ (f24 - f26) → (∃ f29 : Int32, gfm w x0 [1] 5 = some (.int f29) ∧ (∃ (n31 : Nat) (fs32 : List Value), w x0 = some (true, .inr (n31, fs32)) ∧ n31 ∈ ([1] : List Nat) ∧ 5 < fs32.length ∧ (∀ w36 : GW, w36 = gup w x0 (.inr (n31, fs32.set 5 (.int f29))) → (∃ f37 : Int32, gfm w36 x0 [1] 2 = some (.int f37) ∧ (∃ (n39 : Nat) (fs40 : List Value), w36 x0 = some (true, .inr (n39, fs40)) ∧ n39 ∈ ([1] : List Nat) ∧ 2 < fs40.length ∧ (∀ w44 : GW, w44 = gup w36 x0 (.inr (n39, fs40.set 2 (.int (f37 + ((1 : Int32)))))) → (KL165 (w44))))))))) ∧ (¬ (nI 4) ≤ (f24 - f26) → (∃ f45 : Int32, gfm w x0 [1] 5 = some (.int f45) ∧ (∃ f47 : Int32, gfm w x0 [1] 2 = some (.int f47) ∧ (gmc w x0 = some 1 ∧ (wX2_at c x0 f47 w (fun r49 => ∃ (n51 : Nat) (fs52 : List Value), w x0 = some (true, .inr (n51, fs52)) ∧ n51 ∈ ([1] : List Nat) ∧ 5 < fs52.length ∧ (∀ w56 : GW, w56 = gup w x0 (.inr (n51, fs52.set 5 (.int ((((nI 10) * f45) + r49) - (nI 48))))) → (∃ f57 : Int32, gfm w56 x0 [1] 2 = some (.int f57) ∧ (∃ (n59 : Nat) (fs60 : List Value), w56 x0 = some (true, .inr (n59, fs60)) ∧ n59 ∈ ([1] : List Nat) ∧ 2 < fs60.length ∧ (∀ w64 : GW, w64 = gup w56 x0 (.inr (n59, fs60.set 2 (.int (f57 + ((1 : Int32)))))) → (KL165 (w64))))))))))))))))))))
def wX2_next_165 (c : Nat → Option Nat) (x0 : Nat) (w : GW) (K : GW → Prop) : Prop := lfp (σ := GW) (fun KL s => wX2_next_165_b c x0 s KL K) w
set_option maxRecDepth 100000 in
theorem bX2_next_165 {E : jE} (hE : jOk E cX2_next RX2) (hn : E.2.2.2.2 = 1) (hR : jRoom E 4 126) {c : Nat → Option Nat} (hc : E.2.2.1.2.2.2 = c) {b : Nat × Nat} {K : GW → Prop} (hK : jRv E (K)) {x0 : Nat} {w : GW}  (hw : wX2_next_165 c x0 w K) : J E w b [(0, .ref (x0))] 165 [] := by
  refine lfp_sound (σ := GW) (F := fun KL s => wX2_next_165_b c x0 s KL K) (P := fun s => J E s b [(0, .ref (x0))] 165 []) ?_ hw
  clear hw
  rintro KL165 w hw ih165
  have hw : wX2_next_165_b c x0 w KL165 K := hw
  unfold wX2_next_165_b at hw
  refine j_aload_n hE 0 dX2_next_165 rfl rfl ?_
  refine j_aload_n hE 0 dX2_next_166 rfl rfl ?_
  obtain ⟨f1, h2, hw⟩ := hw
  refine j_getM hE gf_GlassStreet_Reader_to q180 h2 dX2_next_167 ?_
  obtain ⟨h4, hw⟩ := hw
  refine jc_ip (jr_V hE hR (As := [.int (f1)]) (rest := []) ((ctX2_at E.1.2.1 E.2.2.1 hc _ _ _ _ hw) E.2.2.2.1) (lw_V q414 q416 qs3 q122 q417) jdX2_at ⟨Nat.le_of_ble_eq_true rfl, Nat.le_of_ble_eq_true rfl⟩ ⟨Nat.zero_le _, Nat.zero_le _⟩ (gmc_gIs h4 (r := (RX2, TX2, 8)) rfl) rfl (Nat.le_of_ble_eq_true rfl) dX2_next_170) (fun r3 hw => ?_)
  refine j_b0 ?_
  refine jc_ip (jr_S hE hR (As := [.int (r3)]) (rest := []) ((ctX2_isDigit E.1.2.1 E.2.2.1 hc _ _ _ hw) E.2.2.2.1) (lw_S q421 q422 q122 q423) jdX2_isDigit ⟨Nat.le_of_ble_eq_true rfl, Nat.le_of_ble_eq_true rfl⟩ ⟨Nat.zero_le _, Nat.zero_le _⟩  rfl (Nat.le_of_ble_eq_true rfl) dX2_next_173) (fun r5 hw => ?_)
  refine j_b0 ?_
  refine j_if_eq hE 235 dX2_next_176 (by decide) (fun c6 => ?_) (fun c6 => ?_)
  · replace hw := hw.1 c6
    refine j_aload_n hE 0 dX2_next_235 rfl rfl ?_
    refine j_aload_n hE 0 dX2_next_236 rfl rfl ?_
    obtain ⟨f7, h8, hw⟩ := hw
    refine j_getM hE gf_GlassStreet_Reader_to q180 h8 dX2_next_237 ?_
    refine j_aload_n hE 0 dX2_next_240 rfl rfl ?_
    obtain ⟨f9, h10, hw⟩ := hw
    refine j_getM hE gf_GlassStreet_Reader_from q182 h10 dX2_next_241 ?_
    refine j_isub hE dX2_next_244 ?_
    refine j_iconst hE dX2_next_245 kc_4 ?_
    refine j_icmp_le hE 253 dX2_next_246 (by decide) (fun c11 => ?_) (fun c11 => ?_)
    · replace hw := hw.1 c11
      refine j_iconst hE dX2_next_253 kc_2 ?_
      obtain ⟨n12, fs13, h14, h15, h16, hw⟩ := hw
      refine j_putX hE h15 gw_GlassStreet_Reader_kind_X2 q181 h14 rfl rfl h16 dX2_next_254 ?_
      refine j_nw (fun w17 e_w17 => ?_)
      replace hw := hw w17 e_w17
      refine j_goto hE 296 dX2_next_257 (by decide) ?_
      exact j_vret hE hK dX2_next_296 hw
    · replace hw := hw.2 c11
      refine j_iconst hE dX2_next_249 kc_4 ?_
      refine j_goto hE 254 dX2_next_250 (by decide) ?_
      obtain ⟨n18, fs19, h20, h21, h22, hw⟩ := hw
      refine j_putX hE h21 gw_GlassStreet_Reader_kind_X2 q181 h20 rfl rfl h22 dX2_next_254 ?_
      refine j_nw (fun w23 e_w23 => ?_)
      replace hw := hw w23 e_w23
      refine j_goto hE 296 dX2_next_257 (by decide) ?_
      exact j_vret hE hK dX2_next_296 hw
  · replace hw := hw.2 c6
    refine j_aload_n hE 0 dX2_next_179 rfl rfl ?_
    refine j_aload_n hE 0 dX2_next_180 rfl rfl ?_
    obtain ⟨f24, h25, hw⟩ := hw
    refine j_getM hE gf_GlassStreet_Reader_to q180 h25 dX2_next_181 ?_
    refine j_aload_n hE 0 dX2_next_184 rfl rfl ?_
    obtain ⟨f26, h27, hw⟩ := hw
    refine j_getM hE gf_GlassStreet_Reader_from q182 h27 dX2_next_185 ?_
    refine j_isub hE dX2_next_188 ?_
    refine j_iconst hE dX2_next_189 kc_4 ?_
    refine j_icmp_ge hE 215 dX2_next_190 (by decide) (fun c28 => ?_) (fun c28 => ?_)
    · replace hw := hw.1 c28
      refine j_aload_n hE 0 dX2_next_215 rfl rfl ?_
      obtain ⟨f29, h30, hw⟩ := hw
      refine j_getM hE gf_GlassStreet_Reader_value q183 h30 dX2_next_216 ?_
      obtain ⟨n31, fs32, h33, h34, h35, hw⟩ := hw
      refine j_putX hE h34 gw_GlassStreet_Reader_value_X2 q183 h33 rfl rfl h35 dX2_next_219 ?_
      refine j_nw (fun w36 e_w36 => ?_)
      replace hw := hw w36 e_w36
      refine j_aload_n hE 0 dX2_next_222 rfl rfl ?_
      refine j_dup hE dX2_next_223 rfl ?_
      obtain ⟨f37, h38, hw⟩ := hw
      refine j_getM hE gf_GlassStreet_Reader_to q180 h38 dX2_next_224 ?_
      refine j_iconst hE dX2_next_227 kc_1 ?_
      refine j_iadd hE dX2_next_228 ?_
      obtain ⟨n39, fs40, h41, h42, h43, hw⟩ := hw
      refine j_putX hE h42 gw_GlassStreet_Reader_to_X2 q180 h41 rfl rfl h43 dX2_next_229 ?_
      refine j_nw (fun w44 e_w44 => ?_)
      replace hw := hw w44 e_w44
      refine j_goto hE 165 dX2_next_232 (by decide) ?_
      have hz := ih165 (w44) hw
      exact hz
    · replace hw := hw.2 c28
      refine j_bipush hE dX2_next_193 kb_10 ?_
      refine j_aload_n hE 0 dX2_next_195 rfl rfl ?_
      obtain ⟨f45, h46, hw⟩ := hw
      refine j_getM hE gf_GlassStreet_Reader_value q183 h46 dX2_next_196 ?_
      refine j_imul hE dX2_next_199 ?_
      refine j_aload_n hE 0 dX2_next_200 rfl rfl ?_
      refine j_aload_n hE 0 dX2_next_201 rfl rfl ?_
      obtain ⟨f47, h48, hw⟩ := hw
      refine j_getM hE gf_GlassStreet_Reader_to q180 h48 dX2_next_202 ?_
      obtain ⟨h50, hw⟩ := hw
      refine jc_ip (jr_V hE hR (As := [.int (f47)]) (rest := [.int ((nI 10) * f45), .ref (x0)]) ((ctX2_at E.1.2.1 E.2.2.1 hc _ _ _ _ hw) E.2.2.2.1) (lw_V q414 q416 qs3 q122 q417) jdX2_at ⟨Nat.le_of_ble_eq_true rfl, Nat.le_of_ble_eq_true rfl⟩ ⟨Nat.zero_le _, Nat.zero_le _⟩ (gmc_gIs h50 (r := (RX2, TX2, 8)) rfl) rfl (Nat.le_of_ble_eq_true rfl) dX2_next_205) (fun r49 hw => ?_)
      refine j_b0 ?_
      refine j_iadd hE dX2_next_208 ?_
      refine j_bipush hE dX2_next_209 kb_48 ?_
      refine j_isub hE dX2_next_211 ?_
      refine j_goto hE 219 dX2_next_212 (by decide) ?_
      obtain ⟨n51, fs52, h53, h54, h55, hw⟩ := hw
      refine j_putX hE h54 gw_GlassStreet_Reader_value_X2 q183 h53 rfl rfl h55 dX2_next_219 ?_
      refine j_nw (fun w56 e_w56 => ?_)
      replace hw := hw w56 e_w56
      refine j_aload_n hE 0 dX2_next_222 rfl rfl ?_
      refine j_dup hE dX2_next_223 rfl ?_
      obtain ⟨f57, h58, hw⟩ := hw
      refine j_getM hE gf_GlassStreet_Reader_to q180 h58 dX2_next_224 ?_
      refine j_iconst hE dX2_next_227 kc_1 ?_
      refine j_iadd hE dX2_next_228 ?_
      obtain ⟨n59, fs60, h61, h62, h63, hw⟩ := hw
      refine j_putX hE h62 gw_GlassStreet_Reader_to_X2 q180 h61 rfl rfl h63 dX2_next_229 ?_
      refine j_nw (fun w64 e_w64 => ?_)
      replace hw := hw w64 e_w64
      refine j_goto hE 165 dX2_next_232 (by decide) ?_
      have hz := ih165 (w64) hw
      exact hz
def wX2_next_52 (c : Nat → Option Nat) (x0 : Nat) (w : GW) (K : GW → Prop) : Prop :=
  ∃ f1 : Int32, gfm w x0 [1] 2 = some (.int f1) ∧ (∃ (n3 : Nat) (fs4 : List Value), w x0 = some (true, .inr (n3, fs4)) ∧ n3 ∈ ([1] : List Nat) ∧ 4 < fs4.length ∧ (∀ w8 : GW, w8 = gup w x0 (.inr (n3, fs4.set 4 (.int f1))) → (∃ f9 : Int32, gfm w8 x0 [1] 2 = some (.int f9) ∧ (∃ f11 : Int32, gfm w8 x0 [1] 1 = some (.int f11) ∧ ((¬ f9 = f11 → (∃ f14 : Int32, gfm w8 x0 [1] 2 = some (.int f14) ∧ (gmc w8 x0 = some 1 ∧ (wX2_at c x0 f14 w8 (fun r16 => wX2_isLetter c r16 w8 (fun r18 => (r18 = 0 → (∃ f20 : Int32, gfm w8 x0 [1] 2 = some (.int f20) ∧ (gmc w8 x0 = some 1 ∧ (wX2_at c x0 f20 w8 (fun r22 => wX2_isDigit c r22 w8 (fun r24 => (r24 = 0 → (∀ r26 : Option Nat, r26 = c 0 → (∃ f27 : Int32, gfm w8 x0 [1] 2 = some (.int f27) ∧ (gmc w8 x0 = some 1 ∧ (wX2_at c x0 f27 w8 (fun r29 => ∃ a31 : Nat, r26 = some a31 ∧ (gcls w8 a31 = some 21 ∧ (wJ3_indexOf c a31 (i2c r29) w8 (fun r32 => (r32 < 0 → (∃ (n35 : Nat) (fs36 : List Value), w8 x0 = some (true, .inr (n35, fs36)) ∧ n35 ∈ ([1] : List Nat) ∧ 3 < fs36.length ∧ (∀ w40 : GW, w40 = gup w8 x0 (.inr (n35, fs36.set 3 (.int (nI 4)))) → (∃ f41 : Int32, gfm w40 x0 [1] 2 = some (.int f41) ∧ (∃ (n43 : Nat) (fs44 : List Value), w40 x0 = some (true, .inr (n43, fs44)) ∧ n43 ∈ ([1] : List Nat) ∧ 2 < fs44.length ∧ (∀ w48 : GW, w48 = gup w40 x0 (.inr (n43, fs44.set 2 (.int (f41 + ((1 : Int32)))))) → (K w48))))))) ∧ (¬ r32 < 0 → (∃ (n49 : Nat) (fs50 : List Value), w8 x0 = some (true, .inr (n49, fs50)) ∧ n49 ∈ ([1] : List Nat) ∧ 3 < fs50.length ∧ (∀ w54 : GW, w54 = gup w8 x0 (.inr (n49, fs50.set 3 (.int (nI 3)))) → (∃ f55 : Int32, gfm w54 x0 [1] 2 = some (.int f55) ∧ (∃ (n57 : Nat) (fs58 : List Value), w54 x0 = some (true, .inr (n57, fs58)) ∧ n57 ∈ ([1] : List Nat) ∧ 2 < fs58.length ∧ (∀ w62 : GW, w62 = gup w54 x0 (.inr (n57, fs58.set 2 (.int (f55 + ((1 : Int32)))))) → (K w62)))))))))))))))) ∧ (¬ r24 = 0 → (∃ (n63 : Nat) (fs64 : List Value), w8 x0 = some (true, .inr (n63, fs64)) ∧ n63 ∈ ([1] : List Nat) ∧ 5 < fs64.length ∧ (∀ w68 : GW, w68 = gup w8 x0 (.inr (n63, fs64.set 5 (.int ((0 : Int32))))) → (wX2_next_165 c x0 w68 K)))))))))) ∧ (¬ r18 = 0 → (wX2_next_93 c x0 w8 K)))))))) ∧ (f9 = f11 → (∃ (n69 : Nat) (fs70 : List Value), w8 x0 = some (true, .inr (n69, fs70)) ∧ n69 ∈ ([1] : List Nat) ∧ 3 < fs70.length ∧ (∀ w74 : GW, w74 = gup w8 x0 (.inr (n69, fs70.set 3 (.int ((0 : Int32))))) → (K w74)))))))))
set_option maxRecDepth 100000 in
theorem bX2_next_52 {E : jE} (hE : jOk E cX2_next RX2) (hn : E.2.2.2.2 = 1) (hR : jRoom E 4 126) {c : Nat → Option Nat} (hc : E.2.2.1.2.2.2 = c) {b : Nat × Nat} {K : GW → Prop} (hK : jRv E (K)) {x0 : Nat} {w : GW}  (hw : wX2_next_52 c x0 w K) : J E w b [(0, .ref (x0))] 52 [] := by
  unfold wX2_next_52 at hw
  refine j_aload_n hE 0 dX2_next_52 rfl rfl ?_
  refine j_aload_n hE 0 dX2_next_53 rfl rfl ?_
  obtain ⟨f1, h2, hw⟩ := hw
  refine j_getM hE gf_GlassStreet_Reader_to q180 h2 dX2_next_54 ?_
  obtain ⟨n3, fs4, h5, h6, h7, hw⟩ := hw
  refine j_putX hE h6 gw_GlassStreet_Reader_from_X2 q182 h5 rfl rfl h7 dX2_next_57 ?_
  refine j_nw (fun w8 e_w8 => ?_)
  replace hw := hw w8 e_w8
  refine j_aload_n hE 0 dX2_next_60 rfl rfl ?_
  obtain ⟨f9, h10, hw⟩ := hw
  refine j_getM hE gf_GlassStreet_Reader_to q180 h10 dX2_next_61 ?_
  refine j_aload_n hE 0 dX2_next_64 rfl rfl ?_
  obtain ⟨f11, h12, hw⟩ := hw
  refine j_getM hE gf_GlassStreet_Reader_size q179 h12 dX2_next_65 ?_
  refine j_icmp_ne hE 79 dX2_next_68 (by decide) (fun c13 => ?_) (fun c13 => ?_)
  · replace hw := hw.1 c13
    refine j_aload_n hE 0 dX2_next_79 rfl rfl ?_
    refine j_aload_n hE 0 dX2_next_80 rfl rfl ?_
    obtain ⟨f14, h15, hw⟩ := hw
    refine j_getM hE gf_GlassStreet_Reader_to q180 h15 dX2_next_81 ?_
    obtain ⟨h17, hw⟩ := hw
    refine jc_ip (jr_V hE hR (As := [.int (f14)]) (rest := []) ((ctX2_at E.1.2.1 E.2.2.1 hc _ _ _ _ hw) E.2.2.2.1) (lw_V q414 q416 qs3 q122 q417) jdX2_at ⟨Nat.le_of_ble_eq_true rfl, Nat.le_of_ble_eq_true rfl⟩ ⟨Nat.zero_le _, Nat.zero_le _⟩ (gmc_gIs h17 (r := (RX2, TX2, 8)) rfl) rfl (Nat.le_of_ble_eq_true rfl) dX2_next_84) (fun r16 hw => ?_)
    refine j_b0 ?_
    refine jc_ip (jr_S hE hR (As := [.int (r16)]) (rest := []) ((ctX2_isLetter E.1.2.1 E.2.2.1 hc _ _ _ hw) E.2.2.2.1) (lw_S q418 q419 q122 q420) jdX2_isLetter ⟨Nat.le_of_ble_eq_true rfl, Nat.le_of_ble_eq_true rfl⟩ ⟨Nat.zero_le _, Nat.zero_le _⟩  rfl (Nat.le_of_ble_eq_true rfl) dX2_next_87) (fun r18 hw => ?_)
    refine j_b0 ?_
    refine j_if_eq hE 146 dX2_next_90 (by decide) (fun c19 => ?_) (fun c19 => ?_)
    · replace hw := hw.1 c19
      refine j_aload_n hE 0 dX2_next_146 rfl rfl ?_
      refine j_aload_n hE 0 dX2_next_147 rfl rfl ?_
      obtain ⟨f20, h21, hw⟩ := hw
      refine j_getM hE gf_GlassStreet_Reader_to q180 h21 dX2_next_148 ?_
      obtain ⟨h23, hw⟩ := hw
      refine jc_ip (jr_V hE hR (As := [.int (f20)]) (rest := []) ((ctX2_at E.1.2.1 E.2.2.1 hc _ _ _ _ hw) E.2.2.2.1) (lw_V q414 q416 qs3 q122 q417) jdX2_at ⟨Nat.le_of_ble_eq_true rfl, Nat.le_of_ble_eq_true rfl⟩ ⟨Nat.zero_le _, Nat.zero_le _⟩ (gmc_gIs h23 (r := (RX2, TX2, 8)) rfl) rfl (Nat.le_of_ble_eq_true rfl) dX2_next_151) (fun r22 hw => ?_)
      refine j_b0 ?_
      refine jc_ip (jr_S hE hR (As := [.int (r22)]) (rest := []) ((ctX2_isDigit E.1.2.1 E.2.2.1 hc _ _ _ hw) E.2.2.2.1) (lw_S q421 q422 q122 q423) jdX2_isDigit ⟨Nat.le_of_ble_eq_true rfl, Nat.le_of_ble_eq_true rfl⟩ ⟨Nat.zero_le _, Nat.zero_le _⟩  rfl (Nat.le_of_ble_eq_true rfl) dX2_next_154) (fun r24 hw => ?_)
      refine j_b0 ?_
      refine j_if_eq hE 260 dX2_next_157 (by decide) (fun c25 => ?_) (fun c25 => ?_)
      · replace hw := hw.1 c25
        refine j_aload_n hE 0 dX2_next_260 rfl rfl ?_
        obtain ⟨r26, e_r26⟩ : ∃ r9 : Option Nat, r9 = c 0 := ⟨_, rfl⟩
        replace hw := hw r26 e_r26
        refine j_ldcS hE 0 (by decide) rfl hc e_r26 dX2_next_261 ?_
        refine j_aload_n hE 0 dX2_next_263 rfl rfl ?_
        refine j_aload_n hE 0 dX2_next_264 rfl rfl ?_
        obtain ⟨f27, h28, hw⟩ := hw
        refine j_getM hE gf_GlassStreet_Reader_to q180 h28 dX2_next_265 ?_
        obtain ⟨h30, hw⟩ := hw
        refine jc_ip (jr_V hE hR (As := [.int (f27)]) (rest := [va_rf (r26), .ref (x0)]) ((ctX2_at E.1.2.1 E.2.2.1 hc _ _ _ _ hw) E.2.2.2.1) (lw_V q414 q416 qs3 q122 q417) jdX2_at ⟨Nat.le_of_ble_eq_true rfl, Nat.le_of_ble_eq_true rfl⟩ ⟨Nat.zero_le _, Nat.zero_le _⟩ (gmc_gIs h30 (r := (RX2, TX2, 8)) rfl) rfl (by cases r26 <;> exact Nat.le_of_ble_eq_true rfl) dX2_next_268) (fun r29 hw => ?_)
        refine j_b0 ?_
        refine j_i2c hE dX2_next_271 ?_
        obtain ⟨a31, e9, hx⟩ := hw
        subst e9
        have hw := hx
        clear hx
        obtain ⟨h33, hw⟩ := hw
        refine jc_ip (jr_V hE hR (As := [.int (i2c r29)]) (rest := [.ref (x0)]) ((ctJ3_indexOf E.1.2.1 E.2.2.1 hc _ _ _ _ hw) E.2.2.2.1) (lw_V q425 q426 q427 q130 q428) jdJ3_indexOf ⟨Nat.le_of_ble_eq_true rfl, Nat.le_of_ble_eq_true rfl⟩ ⟨Nat.zero_le _, Nat.zero_le _⟩ (gcls_gIs h33 (r := (RJ3, TJ3, 4)) rfl) rfl (Nat.le_of_ble_eq_true rfl) dX2_next_272) (fun r32 hw => ?_)
        refine j_b0 ?_
        refine j_if_lt hE 282 dX2_next_275 (by decide) (fun c34 => ?_) (fun c34 => ?_)
        · replace hw := hw.1 c34
          refine j_iconst hE dX2_next_282 kc_4 ?_
          obtain ⟨n35, fs36, h37, h38, h39, hw⟩ := hw
          refine j_putX hE h38 gw_GlassStreet_Reader_kind_X2 q181 h37 rfl rfl h39 dX2_next_283 ?_
          refine j_nw (fun w40 e_w40 => ?_)
          replace hw := hw w40 e_w40
          refine j_aload_n hE 0 dX2_next_286 rfl rfl ?_
          refine j_dup hE dX2_next_287 rfl ?_
          obtain ⟨f41, h42, hw⟩ := hw
          refine j_getM hE gf_GlassStreet_Reader_to q180 h42 dX2_next_288 ?_
          refine j_iconst hE dX2_next_291 kc_1 ?_
          refine j_iadd hE dX2_next_292 ?_
          obtain ⟨n43, fs44, h45, h46, h47, hw⟩ := hw
          refine j_putX hE h46 gw_GlassStreet_Reader_to_X2 q180 h45 rfl rfl h47 dX2_next_293 ?_
          refine j_nw (fun w48 e_w48 => ?_)
          replace hw := hw w48 e_w48
          exact j_vret hE hK dX2_next_296 hw
        · replace hw := hw.2 c34
          refine j_iconst hE dX2_next_278 kc_3 ?_
          refine j_goto hE 283 dX2_next_279 (by decide) ?_
          obtain ⟨n49, fs50, h51, h52, h53, hw⟩ := hw
          refine j_putX hE h52 gw_GlassStreet_Reader_kind_X2 q181 h51 rfl rfl h53 dX2_next_283 ?_
          refine j_nw (fun w54 e_w54 => ?_)
          replace hw := hw w54 e_w54
          refine j_aload_n hE 0 dX2_next_286 rfl rfl ?_
          refine j_dup hE dX2_next_287 rfl ?_
          obtain ⟨f55, h56, hw⟩ := hw
          refine j_getM hE gf_GlassStreet_Reader_to q180 h56 dX2_next_288 ?_
          refine j_iconst hE dX2_next_291 kc_1 ?_
          refine j_iadd hE dX2_next_292 ?_
          obtain ⟨n57, fs58, h59, h60, h61, hw⟩ := hw
          refine j_putX hE h60 gw_GlassStreet_Reader_to_X2 q180 h59 rfl rfl h61 dX2_next_293 ?_
          refine j_nw (fun w62 e_w62 => ?_)
          replace hw := hw w62 e_w62
          exact j_vret hE hK dX2_next_296 hw
      · replace hw := hw.2 c25
        refine j_aload_n hE 0 dX2_next_160 rfl rfl ?_
        refine j_iconst hE dX2_next_161 kc_0 ?_
        obtain ⟨n63, fs64, h65, h66, h67, hw⟩ := hw
        refine j_putX hE h66 gw_GlassStreet_Reader_value_X2 q183 h65 rfl rfl h67 dX2_next_162 ?_
        refine j_nw (fun w68 e_w68 => ?_)
        replace hw := hw w68 e_w68
        have hz := bX2_next_165 (b := b) hE hn hR hc hK  hw
        exact hz
    · replace hw := hw.2 c19
      have hz := bX2_next_93 (b := b) hE hn hR hc hK  hw
      exact hz
  · replace hw := hw.2 c13
    refine j_aload_n hE 0 dX2_next_71 rfl rfl ?_
    refine j_iconst hE dX2_next_72 kc_0 ?_
    obtain ⟨n69, fs70, h71, h72, h73, hw⟩ := hw
    refine j_putX hE h72 gw_GlassStreet_Reader_kind_X2 q181 h71 rfl rfl h73 dX2_next_73 ?_
    refine j_nw (fun w74 e_w74 => ?_)
    replace hw := hw w74 e_w74
    refine j_goto hE 296 dX2_next_76 (by decide) ?_
    exact j_vret hE hK dX2_next_296 hw
def wX2_next_0_b (c : Nat → Option Nat) (x0 : Nat) (w : GW) (KL0 : GW → Prop) (K : GW → Prop) : Prop :=
  ∃ f1 : Int32, gfm w x0 [1] 2 = some (.int f1) ∧ (∃ f3 : Int32, gfm w x0 [1] 1 = some (.int f3) ∧ ((f3 ≤ f1 → (wX2_next_52 c x0 w K)) ∧ (¬ f3 ≤ f1 → (∃ f6 : Option Nat, gfm w x0 [1] 0 = some (va_rf f6) ∧ (∃ f8 : Int32, gfm w x0 [1] 2 = some (.int f8) ∧ (∃ a10 : Nat, f6 = some a10 ∧ (∃ (n11 : Nat) (f12 : Nat → Int32), gai w a10 1 = some (n11, f12) ∧ vp_in f8 n11 ∧ (((rd f12 f8) = (nI 10) → (∃ f16 : Int32, gfm w x0 [1] 2 = some (.int f16) ∧ (∃ (n18 : Nat) (fs19 : List Value), w x0 = some (true, .inr (n18, fs19)) ∧ n18 ∈ ([1] : List Nat) ∧ 2 < fs19.length ∧ (∀ w23 : GW, w23 = gup w x0 (.inr (n18, fs19.set 2 (.int (f16 + ((1 : Int32)))))) → (KL0 (w23)))))) ∧ (¬ (rd f12 f8) = (nI 10) → (∃ f24 : Option Nat, gfm w x0 [1] 0 = some (va_rf f24) ∧ (∃ f26 : Int32, gfm w x0 [1] 2 = some (.int f26) ∧ (∃ a28 : Nat, f24 = some a28 ∧ (∃ (n29 : Nat) (f30 : Nat → Int32), gai w a28 1 = some (n29, f30) ∧ vp_in f26 n29 ∧ ((¬ (rd f30 f26) = (nI 32) → (wX2_next_52 c x0 w K)) ∧ ((rd f30 f26) = (nI 32) → (∃ f34 : Int32, gfm w x0 [1] 2 = some (.int f34) ∧ (∃ (n36 : Nat) (fs37 : List Value), w x0 = some (true, .inr (n36, fs37)) ∧ n36 ∈ ([1] : List Nat) ∧ 2 < fs37.length ∧ (∀ w41 : GW, w41 = gup w x0 (.inr (n36, fs37.set 2 (.int (f34 + ((1 : Int32)))))) → (KL0 (w41))))))))))))))))))))
def wX2_next_0 (c : Nat → Option Nat) (x0 : Nat) (w : GW) (K : GW → Prop) : Prop := lfp (σ := GW) (fun KL s => wX2_next_0_b c x0 s KL K) w
set_option maxRecDepth 100000 in
theorem bX2_next_0 {E : jE} (hE : jOk E cX2_next RX2) (hn : E.2.2.2.2 = 1) (hR : jRoom E 4 126) {c : Nat → Option Nat} (hc : E.2.2.1.2.2.2 = c) {b : Nat × Nat} {K : GW → Prop} (hK : jRv E (K)) {x0 : Nat} {w : GW}  (hw : wX2_next_0 c x0 w K) : J E w b [(0, .ref (x0))] 0 [] := by
  refine lfp_sound (σ := GW) (F := fun KL s => wX2_next_0_b c x0 s KL K) (P := fun s => J E s b [(0, .ref (x0))] 0 []) ?_ hw
  clear hw
  rintro KL0 w hw ih0
  have hw : wX2_next_0_b c x0 w KL0 K := hw
  unfold wX2_next_0_b at hw
  refine j_aload_n hE 0 dX2_next_0 rfl rfl ?_
  obtain ⟨f1, h2, hw⟩ := hw
  refine j_getM hE gf_GlassStreet_Reader_to q180 h2 dX2_next_1 ?_
  refine j_aload_n hE 0 dX2_next_4 rfl rfl ?_
  obtain ⟨f3, h4, hw⟩ := hw
  refine j_getM hE gf_GlassStreet_Reader_size q179 h4 dX2_next_5 ?_
  refine j_icmp_ge hE 52 dX2_next_8 (by decide) (fun c5 => ?_) (fun c5 => ?_)
  · replace hw := hw.1 c5
    have hz := bX2_next_52 (b := b) hE hn hR hc hK  hw
    exact hz
  · replace hw := hw.2 c5
    refine j_aload_n hE 0 dX2_next_11 rfl rfl ?_
    obtain ⟨f6, h7, hw⟩ := hw
    refine j_getM hE gf_GlassStreet_Reader_text q178 h7 dX2_next_12 ?_
    refine j_aload_n hE 0 dX2_next_15 rfl rfl ?_
    obtain ⟨f8, h9, hw⟩ := hw
    refine j_getM hE gf_GlassStreet_Reader_to q180 h9 dX2_next_16 ?_
    obtain ⟨a10, e9, hx⟩ := hw
    subst e9
    have hw := hx
    clear hx
    obtain ⟨n11, f12, h13, h14, hw⟩ := hw
    refine j_aldB hE h13 h14 dX2_next_19 ?_
    refine j_bipush hE dX2_next_20 kb_10 ?_
    refine j_icmp_eq hE 39 dX2_next_22 (by decide) (fun c15 => ?_) (fun c15 => ?_)
    · replace hw := hw.1 c15
      refine j_aload_n hE 0 dX2_next_39 rfl rfl ?_
      refine j_dup hE dX2_next_40 rfl ?_
      obtain ⟨f16, h17, hw⟩ := hw
      refine j_getM hE gf_GlassStreet_Reader_to q180 h17 dX2_next_41 ?_
      refine j_iconst hE dX2_next_44 kc_1 ?_
      refine j_iadd hE dX2_next_45 ?_
      obtain ⟨n18, fs19, h20, h21, h22, hw⟩ := hw
      refine j_putX hE h21 gw_GlassStreet_Reader_to_X2 q180 h20 rfl rfl h22 dX2_next_46 ?_
      refine j_nw (fun w23 e_w23 => ?_)
      replace hw := hw w23 e_w23
      refine j_goto hE 0 dX2_next_49 (by decide) ?_
      have hz := ih0 (w23) hw
      exact hz
    · replace hw := hw.2 c15
      refine j_aload_n hE 0 dX2_next_25 rfl rfl ?_
      obtain ⟨f24, h25, hw⟩ := hw
      refine j_getM hE gf_GlassStreet_Reader_text q178 h25 dX2_next_26 ?_
      refine j_aload_n hE 0 dX2_next_29 rfl rfl ?_
      obtain ⟨f26, h27, hw⟩ := hw
      refine j_getM hE gf_GlassStreet_Reader_to q180 h27 dX2_next_30 ?_
      obtain ⟨a28, e9, hx⟩ := hw
      subst e9
      have hw := hx
      clear hx
      obtain ⟨n29, f30, h31, h32, hw⟩ := hw
      refine j_aldB hE h31 h32 dX2_next_33 ?_
      refine j_bipush hE dX2_next_34 kb_32 ?_
      refine j_icmp_ne hE 52 dX2_next_36 (by decide) (fun c33 => ?_) (fun c33 => ?_)
      · replace hw := hw.1 c33
        have hz := bX2_next_52 (b := b) hE hn hR hc hK  hw
        exact hz
      · replace hw := hw.2 c33
        refine j_aload_n hE 0 dX2_next_39 rfl rfl ?_
        refine j_dup hE dX2_next_40 rfl ?_
        obtain ⟨f34, h35, hw⟩ := hw
        refine j_getM hE gf_GlassStreet_Reader_to q180 h35 dX2_next_41 ?_
        refine j_iconst hE dX2_next_44 kc_1 ?_
        refine j_iadd hE dX2_next_45 ?_
        obtain ⟨n36, fs37, h38, h39, h40, hw⟩ := hw
        refine j_putX hE h39 gw_GlassStreet_Reader_to_X2 q180 h38 rfl rfl h40 dX2_next_46 ?_
        refine j_nw (fun w41 e_w41 => ?_)
        replace hw := hw w41 e_w41
        refine j_goto hE 0 dX2_next_49 (by decide) ?_
        have hz := ih0 (w41) hw
        exact hz
theorem jdX2_next : jD yX2_next 0 := by decide +kernel
abbrev wX2_next := wX2_next_0
theorem ctX2_next (l : Launch) (G : gG) {c : Nat → Option Nat} (hc : G.2.2.2 = c) (x0 : Nat) (w : GW) (K : GW → Prop) (hw : wX2_next_0 c x0 w K) {F2 L2 : Nat} (h2 : 4 ≤ F2 ∧ 126 ≤ L2 := by exact ⟨Nat.le_refl _, Nat.le_refl _⟩) : CtV l yX2_next cX2_next 1 ({ frames := F2, cells := 0, slots := 0, locals := L2 }) G [.ref (x0)] w (K) :=
  CtV.of RX2 plainc_X2 rfl (Nat.le_of_ble_eq_true rfl) (fun E hE hl hG hn hR hK => bX2_next_0 hE hn (hR.le h2.1 h2.2) (by rw [hG]; exact hc) hK hw)
def wX2_begin_0 (c : Nat → Option Nat) (x0 : Nat) (x1 : Nat) (x2 : Int32) (w : GW) (K : GW → Prop) : Prop :=
  ∃ (n1 : Nat) (fs2 : List Value), w x0 = some (true, .inr (n1, fs2)) ∧ n1 ∈ ([1] : List Nat) ∧ 0 < fs2.length ∧ (∀ w6 : GW, w6 = gup w x0 (.inr (n1, fs2.set 0 (va_rf (some x1)))) → (∃ (n7 : Nat) (fs8 : List Value), w6 x0 = some (true, .inr (n7, fs8)) ∧ n7 ∈ ([1] : List Nat) ∧ 1 < fs8.length ∧ (∀ w12 : GW, w12 = gup w6 x0 (.inr (n7, fs8.set 1 (.int x2))) → (∃ (n13 : Nat) (fs14 : List Value), w12 x0 = some (true, .inr (n13, fs14)) ∧ n13 ∈ ([1] : List Nat) ∧ 2 < fs14.length ∧ (∀ w18 : GW, w18 = gup w12 x0 (.inr (n13, fs14.set 2 (.int ((0 : Int32))))) → (∃ (n19 : Nat) (fs20 : List Value), w18 x0 = some (true, .inr (n19, fs20)) ∧ n19 ∈ ([1] : List Nat) ∧ 6 < fs20.length ∧ (∀ w24 : GW, w24 = gup w18 x0 (.inr (n19, fs20.set 6 (.int ((0 : Int32))))) → (gmc w24 x0 = some 1 ∧ (wX2_next c x0 w24 (fun w26 => K w26))))))))))
set_option maxRecDepth 100000 in
theorem bX2_begin_0 {E : jE} (hE : jOk E cX2_begin RX2) (hn : E.2.2.2.2 = 3) (hR : jRoom E 5 146) {c : Nat → Option Nat} (hc : E.2.2.1.2.2.2 = c) {b : Nat × Nat} {K : GW → Prop} (hK : jRv E (K)) {x0 : Nat} {x1 : Nat} {x2 : Int32} {w : GW}  (hw : wX2_begin_0 c x0 x1 x2 w K) : J E w b [(0, .ref (x0)), (1, .ref (x1)), (2, .int (x2))] 0 [] := by
  unfold wX2_begin_0 at hw
  refine j_aload_n hE 0 dX2_begin_0 rfl rfl ?_
  refine j_aload_n hE 1 dX2_begin_1 rfl rfl ?_
  obtain ⟨n1, fs2, h3, h4, h5, hw⟩ := hw
  refine j_putX hE h4 gw_GlassStreet_Reader_text_X2 q178 h3 rfl rfl h5 dX2_begin_2 ?_
  refine j_nw (fun w6 e_w6 => ?_)
  replace hw := hw w6 e_w6
  refine j_aload_n hE 0 dX2_begin_5 rfl rfl ?_
  refine j_iload_n hE 2 dX2_begin_6 rfl rfl ?_
  obtain ⟨n7, fs8, h9, h10, h11, hw⟩ := hw
  refine j_putX hE h10 gw_GlassStreet_Reader_size_X2 q179 h9 rfl rfl h11 dX2_begin_7 ?_
  refine j_nw (fun w12 e_w12 => ?_)
  replace hw := hw w12 e_w12
  refine j_aload_n hE 0 dX2_begin_10 rfl rfl ?_
  refine j_iconst hE dX2_begin_11 kc_0 ?_
  obtain ⟨n13, fs14, h15, h16, h17, hw⟩ := hw
  refine j_putX hE h16 gw_GlassStreet_Reader_to_X2 q180 h15 rfl rfl h17 dX2_begin_12 ?_
  refine j_nw (fun w18 e_w18 => ?_)
  replace hw := hw w18 e_w18
  refine j_aload_n hE 0 dX2_begin_15 rfl rfl ?_
  refine j_iconst hE dX2_begin_16 kc_0 ?_
  obtain ⟨n19, fs20, h21, h22, h23, hw⟩ := hw
  refine j_putX hE h22 gw_GlassStreet_Reader_within_X2 q184 h21 rfl rfl h23 dX2_begin_17 ?_
  refine j_nw (fun w24 e_w24 => ?_)
  replace hw := hw w24 e_w24
  refine j_aload_n hE 0 dX2_begin_20 rfl rfl ?_
  obtain ⟨h25, hw⟩ := hw
  refine jc_v (jr_V hE hR (As := []) (rest := []) ((ctX2_next E.1.2.1 E.2.2.1 hc _ _ _ hw) E.2.2.2.1) (lw_V q410 q412 qs2 q122 q413) jdX2_next ⟨Nat.le_of_ble_eq_true rfl, Nat.le_of_ble_eq_true rfl⟩ ⟨Nat.zero_le _, Nat.zero_le _⟩ (gmc_gIs h25 (r := (RX2, TX2, 8)) rfl) rfl (Nat.le_of_ble_eq_true rfl) dX2_begin_21) (fun w26 hw => ?_)
  refine j_b0 ?_
  exact j_vret hE hK dX2_begin_24 hw
theorem jdX2_begin : jD yX2_begin 2 := by decide +kernel
abbrev wX2_begin := wX2_begin_0
theorem ctX2_begin (l : Launch) (G : gG) {c : Nat → Option Nat} (hc : G.2.2.2 = c) (x0 : Nat) (x1 : Nat) (x2 : Int32) (w : GW) (K : GW → Prop) (hw : wX2_begin_0 c x0 x1 x2 w K) {F2 L2 : Nat} (h2 : 5 ≤ F2 ∧ 146 ≤ L2 := by exact ⟨Nat.le_refl _, Nat.le_refl _⟩) : CtV l yX2_begin cX2_begin 3 ({ frames := F2, cells := 0, slots := 0, locals := L2 }) G [.ref (x0), .ref (x1), .int (x2)] w (K) :=
  CtV.of RX2 plainc_X2 rfl (Nat.le_of_ble_eq_true rfl) (fun E hE hl hG hn hR hK => bX2_begin_0 hE hn (hR.le h2.1 h2.2) (by rw [hG]; exact hc) hK hw)
def wX1_reads_0 (c : Nat → Option Nat) (x0 : Nat) (w : GW) (K : GW → Prop) : Prop :=
  ∃ f1 : Option Nat, gfm w x0 [0] 1 = some (va_rf f1) ∧ (∃ f3 : Option Nat, gfm w x0 [0] 0 = some (va_rf f3) ∧ (∃ f5 : Int32, gfm w x0 [0] 7 = some (.int f5) ∧ (∃ a7 : Nat, f1 = some a7 ∧ (∃ a8 : Nat, f3 = some a8 ∧ (gmc w a7 = some 1 ∧ (wX2_begin c a7 a8 f5 w (fun w10 => ∃ (n11 : Nat) (fs12 : List Value), w10 x0 = some (true, .inr (n11, fs12)) ∧ n11 ∈ ([0] : List Nat) ∧ 7 < fs12.length ∧ (∀ w16 : GW, w16 = gup w10 x0 (.inr (n11, fs12.set 7 (.int ((0 : Int32))))) → (K w16)))))))))
set_option maxRecDepth 100000 in
theorem bX1_reads_0 {E : jE} (hE : jOk E cX1_reads RX1) (hn : E.2.2.2.2 = 1) (hR : jRoom E 6 168) {c : Nat → Option Nat} (hc : E.2.2.1.2.2.2 = c) {b : Nat × Nat} {K : GW → Prop} (hK : jRv E (K)) {x0 : Nat} {w : GW}  (hw : wX1_reads_0 c x0 w K) : J E w b [(0, .ref (x0))] 0 [] := by
  unfold wX1_reads_0 at hw
  refine j_aload_n hE 0 dX1_reads_0 rfl rfl ?_
  obtain ⟨f1, h2, hw⟩ := hw
  refine j_getM hE gf_GlassStreet_reader q348 h2 dX1_reads_1 ?_
  refine j_aload_n hE 0 dX1_reads_4 rfl rfl ?_
  obtain ⟨f3, h4, hw⟩ := hw
  refine j_getM hE gf_GlassStreet_tape q347 h4 dX1_reads_5 ?_
  refine j_aload_n hE 0 dX1_reads_8 rfl rfl ?_
  obtain ⟨f5, h6, hw⟩ := hw
  refine j_getM hE gf_GlassStreet_taped q354 h6 dX1_reads_9 ?_
  obtain ⟨a7, e9, hx⟩ := hw
  subst e9
  have hw := hx
  clear hx
  obtain ⟨a8, e9, hx⟩ := hw
  subst e9
  have hw := hx
  clear hx
  obtain ⟨h9, hw⟩ := hw
  refine jc_v (jr_V hE hR (As := [.ref (a8), .int (f5)]) (rest := []) ((ctX2_begin E.1.2.1 E.2.2.1 hc _ _ _ _ _ hw) E.2.2.2.1) (lw_V q406 q407 q408 q122 q409) jdX2_begin ⟨Nat.le_of_ble_eq_true rfl, Nat.le_of_ble_eq_true rfl⟩ ⟨Nat.zero_le _, Nat.zero_le _⟩ (gmc_gIs h9 (r := (RX2, TX2, 8)) rfl) rfl (Nat.le_of_ble_eq_true rfl) dX1_reads_12) (fun w10 hw => ?_)
  refine j_b0 ?_
  refine j_aload_n hE 0 dX1_reads_15 rfl rfl ?_
  refine j_iconst hE dX1_reads_16 kc_0 ?_
  obtain ⟨n11, fs12, h13, h14, h15, hw⟩ := hw
  refine j_putX hE h14 gw_GlassStreet_taped_X1 q354 h13 rfl rfl h15 dX1_reads_17 ?_
  refine j_nw (fun w16 e_w16 => ?_)
  replace hw := hw w16 e_w16
  exact j_vret hE hK dX1_reads_20 hw
theorem jdX1_reads : jD yX1_reads 0 := by decide +kernel
abbrev wX1_reads := wX1_reads_0
theorem ctX1_reads (l : Launch) (G : gG) {c : Nat → Option Nat} (hc : G.2.2.2 = c) (x0 : Nat) (w : GW) (K : GW → Prop) (hw : wX1_reads_0 c x0 w K) {F2 L2 : Nat} (h2 : 6 ≤ F2 ∧ 168 ≤ L2 := by exact ⟨Nat.le_refl _, Nat.le_refl _⟩) : CtV l yX1_reads cX1_reads 1 ({ frames := F2, cells := 0, slots := 0, locals := L2 }) G [.ref (x0)] w (K) :=
  CtV.of RX1 plainc_X1 rfl (Nat.le_of_ble_eq_true rfl) (fun E hE hl hG hn hR hK => bX1_reads_0 hE hn (hR.le h2.1 h2.2) (by rw [hG]; exact hc) hK hw)
def wJ7_checkIndex_9 (c : Nat → Option Nat) (x0 : Int32) (x1 : Int32) (x2 : Option Nat) (w0 : GW) (K : Int32 → Prop) : Prop :=
  False
set_option maxRecDepth 100000 in
theorem bJ7_checkIndex_9 {E : jE} (hE : jOk E cJ7_checkIndex RJ7) (hn : E.2.2.2.2 = 3) (hR : jRoom E 0 0) {c : Nat → Option Nat} (hc : E.2.2.1.2.2.2 = c) {b : Nat × Nat} {w0 : GW} {K : Int32 → Prop} (hK : jRi E .int (KPI w0 K)) {x0 : Int32} {x1 : Int32} {x2 : Option Nat}  (hw : wJ7_checkIndex_9 c x0 x1 x2 w0 K) : J E w0 b [(0, .int (x0)), (1, .int (x1)), (2, va_rf (x2))] 9 [] := by
  unfold wJ7_checkIndex_9 at hw
  refine j_aload_nq hE 2 dJ7_checkIndex_9 rfl rfl ?_
  refine j_iload_n hE 0 dJ7_checkIndex_10 rfl rfl ?_
  refine j_iload_n hE 1 dJ7_checkIndex_11 rfl rfl ?_
  exact hw.elim
def wJ7_checkIndex_0 (c : Nat → Option Nat) (x0 : Int32) (x1 : Int32) (x2 : Option Nat) (w0 : GW) (K : Int32 → Prop) : Prop :=
  (x0 < 0 → (wJ7_checkIndex_9 c x0 x1 x2 w0 K)) ∧ (¬ x0 < 0 → ((x0 < x1 → (K x0)) ∧ (¬ x0 < x1 → (wJ7_checkIndex_9 c x0 x1 x2 w0 K))))
set_option maxRecDepth 100000 in
theorem bJ7_checkIndex_0 {E : jE} (hE : jOk E cJ7_checkIndex RJ7) (hn : E.2.2.2.2 = 3) (hR : jRoom E 0 0) {c : Nat → Option Nat} (hc : E.2.2.1.2.2.2 = c) {b : Nat × Nat} {w0 : GW} {K : Int32 → Prop} (hK : jRi E .int (KPI w0 K)) {x0 : Int32} {x1 : Int32} {x2 : Option Nat}  (hw : wJ7_checkIndex_0 c x0 x1 x2 w0 K) : J E w0 b [(0, .int (x0)), (1, .int (x1)), (2, va_rf (x2))] 0 [] := by
  unfold wJ7_checkIndex_0 at hw
  refine j_iload_n hE 0 dJ7_checkIndex_0 rfl rfl ?_
  refine j_if_lt hE 9 dJ7_checkIndex_1 (by decide) (fun c1 => ?_) (fun c1 => ?_)
  · replace hw := hw.1 c1
    have hz := bJ7_checkIndex_9 (b := b) hE hn hR hc hK  hw
    exact hz
  · replace hw := hw.2 c1
    refine j_iload_n hE 0 dJ7_checkIndex_4 rfl rfl ?_
    refine j_iload_n hE 1 dJ7_checkIndex_5 rfl rfl ?_
    refine j_icmp_lt hE 16 dJ7_checkIndex_6 (by decide) (fun c2 => ?_) (fun c2 => ?_)
    · replace hw := hw.1 c2
      refine j_iload_n hE 0 dJ7_checkIndex_16 rfl rfl ?_
      exact j_iret hE hK dJ7_checkIndex_17 rfl ⟨rfl, hw⟩
    · replace hw := hw.2 c2
      have hz := bJ7_checkIndex_9 (b := b) hE hn hR hc hK  hw
      exact hz
theorem jdJ7_checkIndex : jD yJ7_checkIndex 3 := by decide +kernel
abbrev wJ7_checkIndex := wJ7_checkIndex_0
theorem ctJ7_checkIndex (l : Launch) (G : gG) {c : Nat → Option Nat} (hc : G.2.2.2 = c) (x0 : Int32) (x1 : Int32) (x2 : Option Nat) (w0 : GW) (K : Int32 → Prop) (hw : wJ7_checkIndex_0 c x0 x1 x2 w0 K) {F2 L2 : Nat} (h2 : 0 ≤ F2 ∧ 0 ≤ L2 := by exact ⟨Nat.le_refl _, Nat.le_refl _⟩) : CtI l yJ7_checkIndex cJ7_checkIndex 3 .int ({ frames := F2, cells := 0, slots := 0, locals := L2 }) G [.int (x0), .int (x1), va_rf (x2)] w0 (KPI w0 K) := by
  rcases x2 with _ | x2 <;> exact CtI.of RJ7 plainc_J7 rfl (Nat.le_of_ble_eq_true rfl) (fun E hE hl hG hn hR hK => bJ7_checkIndex_0 hE hn (hR.le h2.1 h2.2) (by rw [hG]; exact hc) hK hw)
def wJ3_checkIndex_0 (c : Nat → Option Nat) (x0 : Int32) (x1 : Int32) (w0 : GW) (K : Prop) : Prop :=
  ∀ r1 : Option Nat, r1 = c 16 → (wJ7_checkIndex c x0 x1 r1 w0 (fun r2 => K))
set_option maxRecDepth 100000 in
theorem bJ3_checkIndex_0 {E : jE} (hE : jOk E cJ3_checkIndex RJ3) (hn : E.2.2.2.2 = 2) (hR : jRoom E 1 22) {c : Nat → Option Nat} (hc : E.2.2.1.2.2.2 = c) {b : Nat × Nat} {w0 : GW} {K : Prop} (hK : jRv E (KPV w0 K)) {x0 : Int32} {x1 : Int32}  (hw : wJ3_checkIndex_0 c x0 x1 w0 K) : J E w0 b [(0, .int (x0)), (1, .int (x1))] 0 [] := by
  unfold wJ3_checkIndex_0 at hw
  refine j_iload_n hE 0 dJ3_checkIndex_0 rfl rfl ?_
  refine j_iload_n hE 1 dJ3_checkIndex_1 rfl rfl ?_
  have hst := hE.inv.2.2.2.1.2.2.2.2.1
  rw [hc] at hst
  obtain ⟨r1, e_r1⟩ : ∃ r9 : Option Nat, r9 = c 16 := ⟨_, rfl⟩
  replace hw := hw r1 e_r1
  rw [← e_r1] at hst
  refine j_gets hE q480 hst dJ3_checkIndex_2 ?_
  refine jc_ip (jr_S hE hR (As := [.int (x0), .int (x1), va_rf r1]) (rest := []) ((ctJ7_checkIndex E.1.2.1 E.2.2.1 hc _ _ _ _ _ hw) E.2.2.2.1) (lw_S q534 q535 q134 q536) jdJ7_checkIndex ⟨Nat.le_of_ble_eq_true rfl, Nat.le_of_ble_eq_true rfl⟩ ⟨Nat.zero_le _, Nat.zero_le _⟩  rfl (Nat.le_of_ble_eq_true rfl) dJ3_checkIndex_5) (fun r2 hw => ?_)
  refine j_b0 ?_
  refine j_pop hE dJ3_checkIndex_8 rfl ?_
  exact j_vret hE hK dJ3_checkIndex_9 ⟨rfl, hw⟩
theorem jdJ3_checkIndex : jD yJ3_checkIndex 2 := by decide +kernel
abbrev wJ3_checkIndex := wJ3_checkIndex_0
theorem ctJ3_checkIndex (l : Launch) (G : gG) {c : Nat → Option Nat} (hc : G.2.2.2 = c) (x0 : Int32) (x1 : Int32) (w0 : GW) (K : Prop) (hw : wJ3_checkIndex_0 c x0 x1 w0 K) {F2 L2 : Nat} (h2 : 1 ≤ F2 ∧ 22 ≤ L2 := by exact ⟨Nat.le_refl _, Nat.le_refl _⟩) : CtV l yJ3_checkIndex cJ3_checkIndex 2 ({ frames := F2, cells := 0, slots := 0, locals := L2 }) G [.int (x0), .int (x1)] w0 (KPV w0 K) :=
  CtV.of RJ3 plainc_J3 rfl (Nat.le_of_ble_eq_true rfl) (fun E hE hl hG hn hR hK => bJ3_checkIndex_0 hE hn (hR.le h2.1 h2.2) (by rw [hG]; exact hc) hK hw)
def wJ4_charAt_0 (c : Nat → Option Nat) (x0 : Nat) (x1 : Int32) (w0 : GW) (K : Int32 → Prop) : Prop :=
  ∃ n1 : Nat, galen w0 x0 1 = some n1 ∧ (wJ3_checkIndex c x1 (nI n1) w0 (∃ (n5 : Nat) (f6 : Nat → Int32), gai w0 x0 1 = some (n5, f6) ∧ vp_in x1 n5 ∧ (narrow .char (.int (i2c ((rd f6 x1) &&& (nI 255)))) = .int (i2c ((rd f6 x1) &&& (nI 255))) ∧ K (i2c ((rd f6 x1) &&& (nI 255))))))
set_option maxRecDepth 100000 in
theorem bJ4_charAt_0 {E : jE} (hE : jOk E cJ4_charAt RJ4) (hn : E.2.2.2.2 = 2) (hR : jRoom E 2 43) {c : Nat → Option Nat} (hc : E.2.2.1.2.2.2 = c) {b : Nat × Nat} {w0 : GW} {K : Int32 → Prop} (hK : jRi E .char (KPI w0 K)) {x0 : Nat} {x1 : Int32}  (hw : wJ4_charAt_0 c x0 x1 w0 K) : J E w0 b [(0, .ref (x0)), (1, .int (x1))] 0 [] := by
  unfold wJ4_charAt_0 at hw
  refine j_iload_n hE 1 dJ4_charAt_0 rfl rfl ?_
  refine j_aload_n hE 0 dJ4_charAt_1 rfl rfl ?_
  obtain ⟨n1, h3, hw⟩ := hw
  refine j_alen hE h3 (Nat.le_of_ble_eq_true rfl) dJ4_charAt_2 ?_
  refine jc_vp (jr_S hE hR (As := [.int (x1), .int (nI n1)]) (rest := []) ((ctJ3_checkIndex E.1.2.1 E.2.2.1 hc _ _ _ _ hw) E.2.2.2.1) (lw_S q531 q532 q130 q533) jdJ3_checkIndex ⟨Nat.le_of_ble_eq_true rfl, Nat.le_of_ble_eq_true rfl⟩ ⟨Nat.zero_le _, Nat.zero_le _⟩  rfl (Nat.le_of_ble_eq_true rfl) dJ4_charAt_3) (fun  hw => ?_)
  refine j_b0 ?_
  refine j_aload_n hE 0 dJ4_charAt_6 rfl rfl ?_
  refine j_iload_n hE 1 dJ4_charAt_7 rfl rfl ?_
  obtain ⟨n5, f6, h7, h8, hw⟩ := hw
  refine j_aldB hE h7 h8 dJ4_charAt_8 ?_
  refine j_sipush hE dJ4_charAt_9 ks_255 ?_
  refine j_iand hE dJ4_charAt_12 ?_
  refine j_i2c hE dJ4_charAt_13 ?_
  obtain ⟨hz, hw⟩ := hw
  exact j_iret hE hK dJ4_charAt_14 hz ⟨rfl, hw⟩
theorem jdJ4_charAt : jD yJ4_charAt 2 := by decide +kernel
abbrev wJ4_charAt := wJ4_charAt_0
theorem ctJ4_charAt (l : Launch) (G : gG) {c : Nat → Option Nat} (hc : G.2.2.2 = c) (x0 : Nat) (x1 : Int32) (w0 : GW) (K : Int32 → Prop) (hw : wJ4_charAt_0 c x0 x1 w0 K) {F2 L2 : Nat} (h2 : 2 ≤ F2 ∧ 43 ≤ L2 := by exact ⟨Nat.le_refl _, Nat.le_refl _⟩) : CtI l yJ4_charAt cJ4_charAt 2 .char ({ frames := F2, cells := 0, slots := 0, locals := L2 }) G [.ref (x0), .int (x1)] w0 (KPI w0 K) :=
  CtI.of RJ4 plainc_J4 rfl (Nat.le_of_ble_eq_true rfl) (fun E hE hl hG hn hR hK => bJ4_charAt_0 hE hn (hR.le h2.1 h2.2) (by rw [hG]; exact hc) hK hw)
def wJ3_charAt_0 (c : Nat → Option Nat) (x0 : Nat) (x1 : Int32) (w0 : GW) (K : Int32 → Prop) : Prop :=
  gcls w0 x0 = some 21 ∧ (wJ3_isLatin1 c x0 w0 (fun r1 => (r1 = 0 → (∃ f4 : Option Nat, gfd w0 x0 [21] 0 = some (va_rf f4) ∧ (False))) ∧ (¬ r1 = 0 → (∃ f6 : Option Nat, gfd w0 x0 [21] 0 = some (va_rf f6) ∧ (∃ a8 : Nat, f6 = some a8 ∧ (wJ4_charAt c a8 x1 w0 (fun r9 => narrow .char (.int r9) = .int r9 ∧ K r9)))))))
set_option maxRecDepth 100000 in
theorem bJ3_charAt_0 {E : jE} (hE : jOk E cJ3_charAt RJ3) (hn : E.2.2.2.2 = 2) (hR : jRoom E 3 64) {c : Nat → Option Nat} (hc : E.2.2.1.2.2.2 = c) {b : Nat × Nat} {w0 : GW} {K : Int32 → Prop} (hK : jRi E .char (KPI w0 K)) {x0 : Nat} {x1 : Int32}  (hw : wJ3_charAt_0 c x0 x1 w0 K) : J E w0 b [(0, .ref (x0)), (1, .int (x1))] 0 [] := by
  unfold wJ3_charAt_0 at hw
  refine j_aload_n hE 0 dJ3_charAt_0 rfl rfl ?_
  obtain ⟨h2, hw⟩ := hw
  refine jc_ip (jr_V hE hR (As := []) (rest := []) ((ctJ3_isLatin1 E.1.2.1 E.2.2.1 hc _ _ _ hw) E.2.2.2.1) (lw_V q433 q434 q435 q130 q436) jdJ3_isLatin1 ⟨Nat.le_of_ble_eq_true rfl, Nat.le_of_ble_eq_true rfl⟩ ⟨Nat.zero_le _, Nat.zero_le _⟩ (gcls_gIs h2 (r := (RJ3, TJ3, 4)) rfl) rfl (Nat.le_of_ble_eq_true rfl) dJ3_charAt_1) (fun r1 hw => ?_)
  refine j_b0 ?_
  refine j_if_eq hE 16 dJ3_charAt_4 (by decide) (fun c3 => ?_) (fun c3 => ?_)
  · replace hw := hw.1 c3
    refine j_aload_n hE 0 dJ3_charAt_16 rfl rfl ?_
    obtain ⟨f4, h5, hw⟩ := hw
    refine j_getX hE gf_java_lang_String_value q793 h5 dJ3_charAt_17 ?_
    refine j_iload_n hE 1 dJ3_charAt_20 rfl rfl ?_
    exact hw.elim
  · replace hw := hw.2 c3
    refine j_aload_n hE 0 dJ3_charAt_7 rfl rfl ?_
    obtain ⟨f6, h7, hw⟩ := hw
    refine j_getX hE gf_java_lang_String_value q793 h7 dJ3_charAt_8 ?_
    refine j_iload_n hE 1 dJ3_charAt_11 rfl rfl ?_
    obtain ⟨a8, e9, hx⟩ := hw
    subst e9
    have hw := hx
    clear hx
    refine jc_ip (jr_S hE hR (As := [.ref (a8), .int (x1)]) (rest := []) ((ctJ4_charAt E.1.2.1 E.2.2.1 hc _ _ _ _ hw) E.2.2.2.1) (lw_S q528 q529 q131 q530) jdJ4_charAt ⟨Nat.le_of_ble_eq_true rfl, Nat.le_of_ble_eq_true rfl⟩ ⟨Nat.zero_le _, Nat.zero_le _⟩  rfl (Nat.le_of_ble_eq_true rfl) dJ3_charAt_12) (fun r9 hw => ?_)
    refine j_b0 ?_
    obtain ⟨hz, hw⟩ := hw
    exact j_iret hE hK dJ3_charAt_15 hz ⟨rfl, hw⟩
theorem jdJ3_charAt : jD yJ3_charAt 1 := by decide +kernel
abbrev wJ3_charAt := wJ3_charAt_0
theorem ctJ3_charAt (l : Launch) (G : gG) {c : Nat → Option Nat} (hc : G.2.2.2 = c) (x0 : Nat) (x1 : Int32) (w0 : GW) (K : Int32 → Prop) (hw : wJ3_charAt_0 c x0 x1 w0 K) {F2 L2 : Nat} (h2 : 3 ≤ F2 ∧ 64 ≤ L2 := by exact ⟨Nat.le_refl _, Nat.le_refl _⟩) : CtI l yJ3_charAt cJ3_charAt 2 .char ({ frames := F2, cells := 0, slots := 0, locals := L2 }) G [.ref (x0), .int (x1)] w0 (KPI w0 K) :=
  CtI.of RJ3 plainc_J3 rfl (Nat.le_of_ble_eq_true rfl) (fun E hE hl hG hn hR hK => bJ3_charAt_0 hE hn (hR.le h2.1 h2.2) (by rw [hG]; exact hc) hK hw)
def wX2_which_103 (c : Nat → Option Nat) (x0 : Nat) (x1 : Nat) (x2 : Int32) (x3 : Int32) (x4 : Int32) (x5 : Int32) (w0 : GW) (KL4 : Int32 × Int32 → Prop) (K : Int32 → Prop) : Prop :=
  (x5 = 0 → (∀ v2 : Int32, v2 = x3 + (x4 + ((1 : Int32))) → (KL4 ((x2 + 1), v2)))) ∧ (¬ x5 = 0 → (K x2))
set_option maxRecDepth 100000 in
theorem bX2_which_103 {E : jE} (hE : jOk E cX2_which RX2) (hn : E.2.2.2.2 = 7) (hR : jRoom E 4 105) {c : Nat → Option Nat} (hc : E.2.2.1.2.2.2 = c) {b : Nat × Nat} {w0 : GW} {K : Int32 → Prop} (hK : jRi E .int (KPI w0 K)) {x0 : Nat} {x1 : Nat} {x2 : Int32} {x3 : Int32} {x4 : Int32} {x5 : Int32} {KL4 : Int32 × Int32 → Prop} (ih4 : ∀ s : Int32 × Int32, KL4 s → J E w0 b [(0, .ref (x0)), (1, .ref (x1)), (2, .int (s.1)), (3, .int (s.2))] 4 []) (hw : wX2_which_103 c x0 x1 x2 x3 x4 x5 w0 KL4 K) : J E w0 b [(0, .ref (x0)), (1, .ref (x1)), (2, .int (x2)), (3, .int (x3)), (4, .int (x4)), (5, .int (x5))] 103 [] := by
  unfold wX2_which_103 at hw
  refine j_iload hE 5 dX2_which_103 rfl ?_
  refine j_if_eq hE 110 dX2_which_105 (by decide) (fun c1 => ?_) (fun c1 => ?_)
  · replace hw := hw.1 c1
    refine j_iload_n hE 3 dX2_which_110 rfl rfl ?_
    refine j_iload hE 4 dX2_which_111 rfl ?_
    refine j_iconst hE dX2_which_113 kc_1 ?_
    refine j_iadd hE dX2_which_114 ?_
    refine j_iadd hE dX2_which_115 ?_
    refine j_topi (fun v2 e_v2 => ?_)
    replace hw := hw v2 e_v2
    refine j_istore_n (L' := [(3, .int (v2)), (0, .ref (x0)), (1, .ref (x1)), (2, .int (x2)), (4, .int (x4)), (5, .int (x5))]) hE hn dX2_which_116 rfl (Nat.le_of_ble_eq_true rfl) rfl ?_
    refine j_iinc (L' := [(2, .int (x2 + 1)), (3, .int (v2)), (0, .ref (x0)), (1, .ref (x1)), (4, .int (x4)), (5, .int (x5))]) hE hn 3 dX2_which_117 rfl (congrArg (x2 + ·) kc_1) (Nat.le_of_ble_eq_true rfl) rfl ?_
    refine j_goto hE 4 dX2_which_120 (by decide) ?_
    refine j_sub [(0, .ref (x0)), (1, .ref (x1)), (2, .int (x2 + 1)), (3, .int (v2))] [2, 3, 0, 1] rfl ?_
    have hz := ih4 ((x2 + 1), v2) hw
    exact hz
  · replace hw := hw.2 c1
    refine j_iload_n hE 2 dX2_which_108 rfl rfl ?_
    exact j_iret hE hK dX2_which_109 rfl ⟨rfl, hw⟩
def wX2_which_55_b (c : Nat → Option Nat) (x0 : Nat) (x1 : Nat) (x2 : Int32) (x3 : Int32) (x4 : Int32) (x5 : Int32) (x6 : Int32) (w0 : GW) (KL55 : Int32 × Int32 → Prop) (KL4 : Int32 × Int32 → Prop) (K : Int32 → Prop) : Prop :=
  (x5 = 0 → (wX2_which_103 c x0 x1 x2 x3 x4 x5 w0 KL4 K)) ∧ (¬ x5 = 0 → ((x4 ≤ x6 → (wX2_which_103 c x0 x1 x2 x3 x4 x5 w0 KL4 K)) ∧ (¬ x4 ≤ x6 → (∃ f3 : Option Nat, gfm w0 x0 [1] 0 = some (va_rf f3) ∧ (∃ f5 : Int32, gfm w0 x0 [1] 4 = some (.int f5) ∧ (∃ a7 : Nat, f3 = some a7 ∧ (∃ (n8 : Nat) (f9 : Nat → Int32), gai w0 a7 1 = some (n8, f9) ∧ vp_in (f5 + x6) n8 ∧ (gcls w0 x1 = some 21 ∧ (wJ3_charAt c x1 (x3 + x6) w0 (fun r12 => (¬ (rd f9 (f5 + x6)) = r12 → (KL55 (((0 : Int32)), (x6 + 1)))) ∧ ((rd f9 (f5 + x6)) = r12 → (KL55 (((1 : Int32)), (x6 + 1))))))))))))))
def wX2_which_55 (c : Nat → Option Nat) (x0 : Nat) (x1 : Nat) (x2 : Int32) (x3 : Int32) (x4 : Int32) (x5 : Int32) (x6 : Int32) (w0 : GW) (KL4 : Int32 × Int32 → Prop) (K : Int32 → Prop) : Prop := lfp (σ := Int32 × Int32) (fun KL s => wX2_which_55_b c x0 x1 x2 x3 x4 s.1 s.2 w0 KL KL4 K) (x5, x6)
set_option maxRecDepth 100000 in
theorem bX2_which_55 {E : jE} (hE : jOk E cX2_which RX2) (hn : E.2.2.2.2 = 7) (hR : jRoom E 4 105) {c : Nat → Option Nat} (hc : E.2.2.1.2.2.2 = c) {b : Nat × Nat} {w0 : GW} {K : Int32 → Prop} (hK : jRi E .int (KPI w0 K)) {x0 : Nat} {x1 : Nat} {x2 : Int32} {x3 : Int32} {x4 : Int32} {x5 : Int32} {x6 : Int32} {KL4 : Int32 × Int32 → Prop} (ih4 : ∀ s : Int32 × Int32, KL4 s → J E w0 b [(0, .ref (x0)), (1, .ref (x1)), (2, .int (s.1)), (3, .int (s.2))] 4 []) (hw : wX2_which_55 c x0 x1 x2 x3 x4 x5 x6 w0 KL4 K) : J E w0 b [(0, .ref (x0)), (1, .ref (x1)), (2, .int (x2)), (3, .int (x3)), (4, .int (x4)), (5, .int (x5)), (6, .int (x6))] 55 [] := by
  refine lfp_sound (σ := Int32 × Int32) (F := fun KL s => wX2_which_55_b c x0 x1 x2 x3 x4 s.1 s.2 w0 KL KL4 K) (P := fun s => J E w0 b [(0, .ref (x0)), (1, .ref (x1)), (2, .int (x2)), (3, .int (x3)), (4, .int (x4)), (5, .int (s.1)), (6, .int (s.2))] 55 []) ?_ hw
  clear hw
  rintro KL55 ⟨x5, x6⟩ hw ih55
  have hw : wX2_which_55_b c x0 x1 x2 x3 x4 x5 x6 w0 KL55 KL4 K := hw
  unfold wX2_which_55_b at hw
  refine j_iload hE 5 dX2_which_55 rfl ?_
  refine j_if_eq hE 103 dX2_which_57 (by decide) (fun c1 => ?_) (fun c1 => ?_)
  · replace hw := hw.1 c1
    refine j_sub [(0, .ref (x0)), (1, .ref (x1)), (2, .int (x2)), (3, .int (x3)), (4, .int (x4)), (5, .int (x5))] [0, 1, 2, 3, 4, 5] rfl ?_
    have hz := bX2_which_103 (b := b) hE hn hR hc hK ih4 hw
    exact hz
  · replace hw := hw.2 c1
    refine j_iload hE 6 dX2_which_60 rfl ?_
    refine j_iload hE 4 dX2_which_62 rfl ?_
    refine j_icmp_ge hE 103 dX2_which_64 (by decide) (fun c2 => ?_) (fun c2 => ?_)
    · replace hw := hw.1 c2
      refine j_sub [(0, .ref (x0)), (1, .ref (x1)), (2, .int (x2)), (3, .int (x3)), (4, .int (x4)), (5, .int (x5))] [0, 1, 2, 3, 4, 5] rfl ?_
      have hz := bX2_which_103 (b := b) hE hn hR hc hK ih4 hw
      exact hz
    · replace hw := hw.2 c2
      refine j_aload_n hE 0 dX2_which_67 rfl rfl ?_
      obtain ⟨f3, h4, hw⟩ := hw
      refine j_getM hE gf_GlassStreet_Reader_text q178 h4 dX2_which_68 ?_
      refine j_aload_n hE 0 dX2_which_71 rfl rfl ?_
      obtain ⟨f5, h6, hw⟩ := hw
      refine j_getM hE gf_GlassStreet_Reader_from q182 h6 dX2_which_72 ?_
      refine j_iload hE 6 dX2_which_75 rfl ?_
      refine j_iadd hE dX2_which_77 ?_
      obtain ⟨a7, e9, hx⟩ := hw
      subst e9
      have hw := hx
      clear hx
      obtain ⟨n8, f9, h10, h11, hw⟩ := hw
      refine j_aldB hE h10 h11 dX2_which_78 ?_
      refine j_aload_n hE 1 dX2_which_79 rfl rfl ?_
      refine j_iload_n hE 3 dX2_which_80 rfl rfl ?_
      refine j_iload hE 6 dX2_which_81 rfl ?_
      refine j_iadd hE dX2_which_83 ?_
      obtain ⟨h13, hw⟩ := hw
      refine jc_ip (jr_V hE hR (As := [.int (x3 + x6)]) (rest := [.int (rd f9 (f5 + x6))]) ((ctJ3_charAt E.1.2.1 E.2.2.1 hc _ _ _ _ hw) E.2.2.2.1) (lw_V q524 q525 q526 q130 q527) jdJ3_charAt ⟨Nat.le_of_ble_eq_true rfl, Nat.le_of_ble_eq_true rfl⟩ ⟨Nat.zero_le _, Nat.zero_le _⟩ (gcls_gIs h13 (r := (RJ3, TJ3, 4)) rfl) rfl (Nat.le_of_ble_eq_true rfl) dX2_which_84) (fun r12 hw => ?_)
      refine j_b0 ?_
      refine j_icmp_ne hE 94 dX2_which_87 (by decide) (fun c14 => ?_) (fun c14 => ?_)
      · replace hw := hw.1 c14
        refine j_iconst hE dX2_which_94 kc_0 ?_
        refine j_istore (L' := [(5, .int ((0 : Int32))), (0, .ref (x0)), (1, .ref (x1)), (2, .int (x2)), (3, .int (x3)), (4, .int (x4)), (6, .int (x6))]) hE hn dX2_which_95 (Nat.le_of_ble_eq_true rfl) rfl ?_
        refine j_iinc (L' := [(6, .int (x6 + 1)), (5, .int ((0 : Int32))), (0, .ref (x0)), (1, .ref (x1)), (2, .int (x2)), (3, .int (x3)), (4, .int (x4))]) hE hn 6 dX2_which_97 rfl (congrArg (x6 + ·) kc_1) (Nat.le_of_ble_eq_true rfl) rfl ?_
        refine j_goto hE 55 dX2_which_100 (by decide) ?_
        refine j_sub [(0, .ref (x0)), (1, .ref (x1)), (2, .int (x2)), (3, .int (x3)), (4, .int (x4)), (5, .int ((0 : Int32))), (6, .int (x6 + 1))] [2, 3, 4, 5, 6, 1, 0] rfl ?_
        have hz := ih55 (((0 : Int32)), (x6 + 1)) hw
        exact hz
      · replace hw := hw.2 c14
        refine j_iconst hE dX2_which_90 kc_1 ?_
        refine j_goto hE 95 dX2_which_91 (by decide) ?_
        refine j_istore (L' := [(5, .int ((1 : Int32))), (0, .ref (x0)), (1, .ref (x1)), (2, .int (x2)), (3, .int (x3)), (4, .int (x4)), (6, .int (x6))]) hE hn dX2_which_95 (Nat.le_of_ble_eq_true rfl) rfl ?_
        refine j_iinc (L' := [(6, .int (x6 + 1)), (5, .int ((1 : Int32))), (0, .ref (x0)), (1, .ref (x1)), (2, .int (x2)), (3, .int (x3)), (4, .int (x4))]) hE hn 6 dX2_which_97 rfl (congrArg (x6 + ·) kc_1) (Nat.le_of_ble_eq_true rfl) rfl ?_
        refine j_goto hE 55 dX2_which_100 (by decide) ?_
        refine j_sub [(0, .ref (x0)), (1, .ref (x1)), (2, .int (x2)), (3, .int (x3)), (4, .int (x4)), (5, .int ((1 : Int32))), (6, .int (x6 + 1))] [2, 3, 4, 5, 6, 1, 0] rfl ?_
        have hz := ih55 (((1 : Int32)), (x6 + 1)) hw
        exact hz
def wX2_which_4_b (c : Nat → Option Nat) (x0 : Nat) (x1 : Nat) (x2 : Int32) (x3 : Int32) (w0 : GW) (KL4 : Int32 × Int32 → Prop) (K : Int32 → Prop) : Prop :=
  gcls w0 x1 = some 21 ∧ (wJ3_length c x1 w0 (fun r1 => (r1 ≤ x3 → (K ((-1 : Int32)))) ∧ (¬ r1 ≤ x3 → (∃ f4 : Int32, gfm w0 x0 [1] 3 = some (.int f4) ∧ ((¬ f4 = ((1 : Int32)) → (K ((-1 : Int32)))) ∧ (f4 = ((1 : Int32)) → (gcls w0 x1 = some 21 ∧ (wJ3_indexOf_2 c x1 (nI 32) x3 w0 (fun r7 => ∀ v9 : Int32, v9 = r7 - x3 → (∃ f10 : Int32, gfm w0 x0 [1] 2 = some (.int f10) ∧ (∃ f12 : Int32, gfm w0 x0 [1] 4 = some (.int f12) ∧ ((¬ (f10 - f12) = v9 → (wX2_which_55 c x0 x1 x2 x3 v9 ((0 : Int32)) ((0 : Int32)) w0 KL4 K)) ∧ ((f10 - f12) = v9 → (wX2_which_55 c x0 x1 x2 x3 v9 ((1 : Int32)) ((0 : Int32)) w0 KL4 K))))))))))))))
def wX2_which_4 (c : Nat → Option Nat) (x0 : Nat) (x1 : Nat) (x2 : Int32) (x3 : Int32) (w0 : GW) (K : Int32 → Prop) : Prop := lfp (σ := Int32 × Int32) (fun KL s => wX2_which_4_b c x0 x1 s.1 s.2 w0 KL K) (x2, x3)
set_option maxRecDepth 100000 in
theorem bX2_which_4 {E : jE} (hE : jOk E cX2_which RX2) (hn : E.2.2.2.2 = 7) (hR : jRoom E 4 105) {c : Nat → Option Nat} (hc : E.2.2.1.2.2.2 = c) {b : Nat × Nat} {w0 : GW} {K : Int32 → Prop} (hK : jRi E .int (KPI w0 K)) {x0 : Nat} {x1 : Nat} {x2 : Int32} {x3 : Int32}  (hw : wX2_which_4 c x0 x1 x2 x3 w0 K) : J E w0 b [(0, .ref (x0)), (1, .ref (x1)), (2, .int (x2)), (3, .int (x3))] 4 [] := by
  refine lfp_sound (σ := Int32 × Int32) (F := fun KL s => wX2_which_4_b c x0 x1 s.1 s.2 w0 KL K) (P := fun s => J E w0 b [(0, .ref (x0)), (1, .ref (x1)), (2, .int (s.1)), (3, .int (s.2))] 4 []) ?_ hw
  clear hw
  rintro KL4 ⟨x2, x3⟩ hw ih4
  have hw : wX2_which_4_b c x0 x1 x2 x3 w0 KL4 K := hw
  unfold wX2_which_4_b at hw
  refine j_iload_n hE 3 dX2_which_4 rfl rfl ?_
  refine j_aload_n hE 1 dX2_which_5 rfl rfl ?_
  obtain ⟨h2, hw⟩ := hw
  refine jc_ip (jr_V hE hR (As := []) (rest := [.int (x3)]) ((ctJ3_length E.1.2.1 E.2.2.1 hc _ _ _ hw) E.2.2.2.1) (lw_V q522 q440 q441 q130 q442) jdJ3_length ⟨Nat.le_of_ble_eq_true rfl, Nat.le_of_ble_eq_true rfl⟩ ⟨Nat.zero_le _, Nat.zero_le _⟩ (gcls_gIs h2 (r := (RJ3, TJ3, 4)) rfl) rfl (Nat.le_of_ble_eq_true rfl) dX2_which_6) (fun r1 hw => ?_)
  refine j_b0 ?_
  refine j_icmp_ge hE 123 dX2_which_9 (by decide) (fun c3 => ?_) (fun c3 => ?_)
  · replace hw := hw.1 c3
    refine j_iconst hE dX2_which_123 kc_m1 ?_
    exact j_iret hE hK dX2_which_124 rfl ⟨rfl, hw⟩
  · replace hw := hw.2 c3
    refine j_aload_n hE 0 dX2_which_12 rfl rfl ?_
    obtain ⟨f4, h5, hw⟩ := hw
    refine j_getM hE gf_GlassStreet_Reader_kind q181 h5 dX2_which_13 ?_
    refine j_iconst hE dX2_which_16 kc_1 ?_
    refine j_icmp_ne hE 123 dX2_which_17 (by decide) (fun c6 => ?_) (fun c6 => ?_)
    · replace hw := hw.1 c6
      refine j_iconst hE dX2_which_123 kc_m1 ?_
      exact j_iret hE hK dX2_which_124 rfl ⟨rfl, hw⟩
    · replace hw := hw.2 c6
      refine j_aload_n hE 1 dX2_which_20 rfl rfl ?_
      refine j_bipush hE dX2_which_21 kb_32 ?_
      refine j_iload_n hE 3 dX2_which_23 rfl rfl ?_
      obtain ⟨h8, hw⟩ := hw
      refine jc_ip (jr_V hE hR (As := [.int (nI 32), .int (x3)]) (rest := []) ((ctJ3_indexOf_2 E.1.2.1 E.2.2.1 hc _ _ _ _ _ hw) E.2.2.2.1) (lw_V q523 q430 q431 q130 q432) jdJ3_indexOf_2 ⟨Nat.le_of_ble_eq_true rfl, Nat.le_of_ble_eq_true rfl⟩ ⟨Nat.zero_le _, Nat.zero_le _⟩ (gcls_gIs h8 (r := (RJ3, TJ3, 4)) rfl) rfl (Nat.le_of_ble_eq_true rfl) dX2_which_24) (fun r7 hw => ?_)
      refine j_b0 ?_
      refine j_iload_n hE 3 dX2_which_27 rfl rfl ?_
      refine j_isub hE dX2_which_28 ?_
      refine j_topi (fun v9 e_v9 => ?_)
      replace hw := hw v9 e_v9
      refine j_istore (L' := [(4, .int (v9)), (0, .ref (x0)), (1, .ref (x1)), (2, .int (x2)), (3, .int (x3))]) hE hn dX2_which_29 (Nat.le_of_ble_eq_true rfl) rfl ?_
      refine j_aload_n hE 1 dX2_which_31 rfl rfl ?_
      obtain ⟨f10, h11, hw⟩ := hw
      refine j_getM hE gf_GlassStreet_Reader_to q180 h11 dX2_which_32 ?_
      refine j_aload_n hE 1 dX2_which_35 rfl rfl ?_
      obtain ⟨f12, h13, hw⟩ := hw
      refine j_getM hE gf_GlassStreet_Reader_from q182 h13 dX2_which_36 ?_
      refine j_isub hE dX2_which_39 ?_
      refine j_iload hE 0 dX2_which_40 rfl ?_
      refine j_icmp_ne hE 49 dX2_which_42 (by decide) (fun c14 => ?_) (fun c14 => ?_)
      · replace hw := hw.1 c14
        refine j_iconst hE dX2_which_49 kc_0 ?_
        refine j_istore (L' := [(5, .int ((0 : Int32))), (4, .int (v9)), (0, .ref (x0)), (1, .ref (x1)), (2, .int (x2)), (3, .int (x3))]) hE hn dX2_which_50 (Nat.le_of_ble_eq_true rfl) rfl ?_
        refine j_iconst hE dX2_which_52 kc_0 ?_
        refine j_istore (L' := [(6, .int ((0 : Int32))), (5, .int ((0 : Int32))), (4, .int (v9)), (0, .ref (x0)), (1, .ref (x1)), (2, .int (x2)), (3, .int (x3))]) hE hn dX2_which_53 (Nat.le_of_ble_eq_true rfl) rfl ?_
        refine j_sub [(0, .ref (x0)), (1, .ref (x1)), (2, .int (x2)), (3, .int (x3)), (4, .int (v9)), (5, .int ((0 : Int32))), (6, .int ((0 : Int32)))] [3, 4, 5, 6, 2, 1, 0] rfl ?_
        have hz := bX2_which_55 (b := b) hE hn hR hc hK ih4 hw
        exact hz
      · replace hw := hw.2 c14
        refine j_iconst hE dX2_which_45 kc_1 ?_
        refine j_goto hE 50 dX2_which_46 (by decide) ?_
        refine j_istore (L' := [(5, .int ((1 : Int32))), (4, .int (v9)), (0, .ref (x0)), (1, .ref (x1)), (2, .int (x2)), (3, .int (x3))]) hE hn dX2_which_50 (Nat.le_of_ble_eq_true rfl) rfl ?_
        refine j_iconst hE dX2_which_52 kc_0 ?_
        refine j_istore (L' := [(6, .int ((0 : Int32))), (5, .int ((1 : Int32))), (4, .int (v9)), (0, .ref (x0)), (1, .ref (x1)), (2, .int (x2)), (3, .int (x3))]) hE hn dX2_which_53 (Nat.le_of_ble_eq_true rfl) rfl ?_
        refine j_sub [(0, .ref (x0)), (1, .ref (x1)), (2, .int (x2)), (3, .int (x3)), (4, .int (v9)), (5, .int ((1 : Int32))), (6, .int ((0 : Int32)))] [3, 4, 5, 6, 2, 1, 0] rfl ?_
        have hz := bX2_which_55 (b := b) hE hn hR hc hK ih4 hw
        exact hz
def wX2_which_0 (c : Nat → Option Nat) (x0 : Nat) (x1 : Nat) (w0 : GW) (K : Int32 → Prop) : Prop :=
  wX2_which_4 c x0 x1 ((0 : Int32)) ((0 : Int32)) w0 K
set_option maxRecDepth 100000 in
theorem bX2_which_0 {E : jE} (hE : jOk E cX2_which RX2) (hn : E.2.2.2.2 = 7) (hR : jRoom E 4 105) {c : Nat → Option Nat} (hc : E.2.2.1.2.2.2 = c) {b : Nat × Nat} {w0 : GW} {K : Int32 → Prop} (hK : jRi E .int (KPI w0 K)) {x0 : Nat} {x1 : Nat}  (hw : wX2_which_0 c x0 x1 w0 K) : J E w0 b [(0, .ref (x0)), (1, .ref (x1))] 0 [] := by
  unfold wX2_which_0 at hw
  refine j_iconst hE dX2_which_0 kc_0 ?_
  refine j_istore_n (L' := [(2, .int ((0 : Int32))), (0, .ref (x0)), (1, .ref (x1))]) hE hn dX2_which_1 rfl (Nat.le_of_ble_eq_true rfl) rfl ?_
  refine j_iconst hE dX2_which_2 kc_0 ?_
  refine j_istore_n (L' := [(3, .int ((0 : Int32))), (2, .int ((0 : Int32))), (0, .ref (x0)), (1, .ref (x1))]) hE hn dX2_which_3 rfl (Nat.le_of_ble_eq_true rfl) rfl ?_
  refine j_sub [(0, .ref (x0)), (1, .ref (x1)), (2, .int ((0 : Int32))), (3, .int ((0 : Int32)))] [2, 3, 1, 0] rfl ?_
  have hz := bX2_which_4 (b := b) hE hn hR hc hK  hw
  exact hz
theorem jdX2_which : jD yX2_which 1 := by decide +kernel
abbrev wX2_which := wX2_which_0
theorem ctX2_which (l : Launch) (G : gG) {c : Nat → Option Nat} (hc : G.2.2.2 = c) (x0 : Nat) (x1 : Nat) (w0 : GW) (K : Int32 → Prop) (hw : wX2_which_0 c x0 x1 w0 K) {F2 L2 : Nat} (h2 : 4 ≤ F2 ∧ 105 ≤ L2 := by exact ⟨Nat.le_refl _, Nat.le_refl _⟩) : CtI l yX2_which cX2_which 7 .int ({ frames := F2, cells := 0, slots := 0, locals := L2 }) G [.ref (x0), .ref (x1)] w0 (KPI w0 K) :=
  CtI.of RX2 plainc_X2 rfl (Nat.le_of_ble_eq_true rfl) (fun E hE hl hG hn hR hK => bX2_which_0 hE hn (hR.le h2.1 h2.2) (by rw [hG]; exact hc) hK hw)
def wJ9_init_2_41 (c : Nat → Option Nat) (x0 : Nat) (x1 : Option Nat) (x2 : Option Nat) (x3 : Int32) (w : GW) (K : GW → Prop) : Prop :=
  ∃ (n1 : Nat) (fs2 : List Value), w x0 = some (true, .inr (n1, fs2)) ∧ n1 ∈ ([6, 23] : List Nat) ∧ 3 < fs2.length ∧ (∀ w6 : GW, w6 = gup w x0 (.inr (n1, fs2.set 3 (va_rf x1))) → (∃ (n7 : Nat) (fs8 : List Value), w6 x0 = some (true, .inr (n7, fs8)) ∧ n7 ∈ ([6, 23] : List Nat) ∧ 0 < fs8.length ∧ (∀ w12 : GW, w12 = gup w6 x0 (.inr (n7, fs8.set 0 (va_rf x2))) → ((¬ x3 = 0 → (K w12)) ∧ (x3 = 0 → (∃ (n14 : Nat) (fs15 : List Value), w12 x0 = some (true, .inr (n14, fs15)) ∧ n14 ∈ ([6, 23] : List Nat) ∧ 2 < fs15.length ∧ (∀ w19 : GW, w19 = gup w12 x0 (.inr (n14, fs15.set 2 (va_rf none))) → (K w19))))))))
set_option maxRecDepth 100000 in
theorem bJ9_init_2_41 {E : jE} (hE : jOk E cJ9_init_2 RJ9) (hn : E.2.2.2.2 = 5) (hR : jRoom E 1 20) {c : Nat → Option Nat} (hc : E.2.2.1.2.2.2 = c) (hini : E.2.1.1.name = "<init>") {b : Nat × Nat} {K : GW → Prop} (hK : jRv E (K)) {x0 : Nat} {x1 : Option Nat} {x2 : Option Nat} {x3 : Int32} {w : GW}  (hw : wJ9_init_2_41 c x0 x1 x2 x3 w K) : J E w b [(0, .ref (x0)), (1, va_rf (x1)), (2, va_rf (x2)), (3, .int (x3))] 41 [] := by
  unfold wJ9_init_2_41 at hw
  refine j_aload_n hE 0 dJ9_init_2_41 rfl rfl ?_
  refine j_aload_nq hE 1 dJ9_init_2_42 rfl rfl ?_
  obtain ⟨n1, fs2, h3, h4, h5, hw⟩ := hw
  refine j_putX hE h4 gw_java_lang_Throwable_detailMessage_J9 q603 h3 (va_rf_nar _ _ (by decide)) (va_rf_fit _ _ (by decide)) h5 dJ9_init_2_43 ?_
  refine j_nw (fun w6 e_w6 => ?_)
  replace hw := hw w6 e_w6
  refine j_aload_n hE 0 dJ9_init_2_46 rfl rfl ?_
  refine j_aload_nq hE 2 dJ9_init_2_47 rfl rfl ?_
  obtain ⟨n7, fs8, h9, h10, h11, hw⟩ := hw
  refine j_putX hE h10 gw_java_lang_Throwable_cause_J9 q604 h9 (va_rf_nar _ _ (by decide)) (va_rf_fit _ _ (by decide)) h11 dJ9_init_2_48 ?_
  refine j_nw (fun w12 e_w12 => ?_)
  replace hw := hw w12 e_w12
  refine j_iload_n hE 3 dJ9_init_2_51 rfl rfl ?_
  refine j_if_ne hE 60 dJ9_init_2_52 (by decide) (fun c13 => ?_) (fun c13 => ?_)
  · replace hw := hw.1 c13
    exact j_vret hE hK dJ9_init_2_60 hw
  · replace hw := hw.2 c13
    refine j_aload_n hE 0 dJ9_init_2_55 rfl rfl ?_
    refine j_null hE dJ9_init_2_56 ?_
    obtain ⟨n14, fs15, h16, h17, h18, hw⟩ := hw
    refine j_putX hE h17 gw_java_lang_Throwable_suppressedExceptions_J9 q606 h16 rfl rfl h18 dJ9_init_2_57 ?_
    refine j_nw (fun w19 e_w19 => ?_)
    replace hw := hw w19 e_w19
    exact j_vret hE hK dJ9_init_2_60 hw
def wJ9_init_2_0 (c : Nat → Option Nat) (x0 : Nat) (x1 : Option Nat) (x2 : Option Nat) (x3 : Int32) (x4 : Int32) (w : GW) (K : GW → Prop) : Prop :=
  ∃ (n1 : Nat) (fs2 : List Value), w x0 = some (true, .inr (n1, fs2)) ∧ n1 ∈ ([6, 23] : List Nat) ∧ 0 < fs2.length ∧ (∀ w6 : GW, w6 = gup w x0 (.inr (n1, fs2.set 0 (va_rf (some x0)))) → (∀ r7 : Option Nat, r7 = c 13 → (∃ (n8 : Nat) (fs9 : List Value), w6 x0 = some (true, .inr (n8, fs9)) ∧ n8 ∈ ([6, 23] : List Nat) ∧ 1 < fs9.length ∧ (∀ w13 : GW, w13 = gup w6 x0 (.inr (n8, fs9.set 1 (va_rf r7))) → (∀ r14 : Option Nat, r14 = c 14 → (∃ (n15 : Nat) (fs16 : List Value), w13 x0 = some (true, .inr (n15, fs16)) ∧ n15 ∈ ([6, 23] : List Nat) ∧ 2 < fs16.length ∧ (∀ w20 : GW, w20 = gup w13 x0 (.inr (n15, fs16.set 2 (va_rf r14))) → ((x4 = 0 → (∃ (n22 : Nat) (fs23 : List Value), w20 x0 = some (true, .inr (n22, fs23)) ∧ n22 ∈ ([6, 23] : List Nat) ∧ 1 < fs23.length ∧ (∀ w27 : GW, w27 = gup w20 x0 (.inr (n22, fs23.set 1 (va_rf none))) → (wJ9_init_2_41 c x0 x1 x2 x3 w27 K)))) ∧ (¬ x4 = 0 → (False))))))))))
set_option maxRecDepth 100000 in
theorem bJ9_init_2_0 {E : jE} (hE : jOk E cJ9_init_2 RJ9) (hn : E.2.2.2.2 = 5) (hR : jRoom E 1 20) {c : Nat → Option Nat} (hc : E.2.2.1.2.2.2 = c) (hini : E.2.1.1.name = "<init>") {b : Nat × Nat} {K : GW → Prop} (hK : jRv E (K)) {x0 : Nat} {x1 : Option Nat} {x2 : Option Nat} {x3 : Int32} {x4 : Int32} {w : GW}  (hw : wJ9_init_2_0 c x0 x1 x2 x3 x4 w K) : J E w b [(0, .ref (x0)), (1, va_rf (x1)), (2, va_rf (x2)), (3, .int (x3)), (4, .int (x4))] 0 [] := by
  unfold wJ9_init_2_0 at hw
  refine j_aload_n hE 0 dJ9_init_2_0 rfl rfl ?_
  refine j_objInit hE hR q573 q_oi_inst q_oi_code (Nat.le_of_ble_eq_true rfl) (Nat.le_of_ble_eq_true rfl) dJ9_init_2_1 ?_
  refine j_aload_n hE 0 dJ9_init_2_4 rfl rfl ?_
  refine j_aload_n hE 0 dJ9_init_2_5 rfl rfl ?_
  obtain ⟨n1, fs2, h3, h4, h5, hw⟩ := hw
  refine j_putX hE h4 gw_java_lang_Throwable_cause_J9 q604 h3 rfl rfl h5 dJ9_init_2_6 ?_
  refine j_nw (fun w6 e_w6 => ?_)
  replace hw := hw w6 e_w6
  refine j_aload_n hE 0 dJ9_init_2_9 rfl rfl ?_
  have hst := hE.inv.2.2.2.1.2.2.1
  rw [hc] at hst
  obtain ⟨r7, e_r7⟩ : ∃ r9 : Option Nat, r9 = c 13 := ⟨_, rfl⟩
  replace hw := hw r7 e_r7
  rw [← e_r7] at hst
  refine j_gets hE q574 hst dJ9_init_2_10 ?_
  obtain ⟨n8, fs9, h10, h11, h12, hw⟩ := hw
  refine j_putX hE h11 gw_java_lang_Throwable_stackTrace_J9 q605 h10 (va_rf_nar _ _ (by decide)) (va_rf_fit _ _ (by decide)) h12 dJ9_init_2_13 ?_
  refine j_nw (fun w13 e_w13 => ?_)
  replace hw := hw w13 e_w13
  refine j_aload_n hE 0 dJ9_init_2_16 rfl rfl ?_
  have hst := hE.inv.2.2.2.1.2.2.2.1
  rw [hc] at hst
  obtain ⟨r14, e_r14⟩ : ∃ r9 : Option Nat, r9 = c 14 := ⟨_, rfl⟩
  replace hw := hw r14 e_r14
  rw [← e_r14] at hst
  refine j_gets hE q576 hst dJ9_init_2_17 ?_
  obtain ⟨n15, fs16, h17, h18, h19, hw⟩ := hw
  refine j_putX hE h18 gw_java_lang_Throwable_suppressedExceptions_J9 q606 h17 (va_rf_nar _ _ (by decide)) (va_rf_fit _ _ (by decide)) h19 dJ9_init_2_20 ?_
  refine j_nw (fun w20 e_w20 => ?_)
  replace hw := hw w20 e_w20
  refine j_iload hE 4 dJ9_init_2_23 rfl ?_
  refine j_if_eq hE 36 dJ9_init_2_25 (by decide) (fun c21 => ?_) (fun c21 => ?_)
  · replace hw := hw.1 c21
    refine j_aload_n hE 0 dJ9_init_2_36 rfl rfl ?_
    refine j_null hE dJ9_init_2_37 ?_
    obtain ⟨n22, fs23, h24, h25, h26, hw⟩ := hw
    refine j_putX hE h25 gw_java_lang_Throwable_stackTrace_J9 q605 h24 rfl rfl h26 dJ9_init_2_38 ?_
    refine j_nw (fun w27 e_w27 => ?_)
    replace hw := hw w27 e_w27
    refine j_sub [(0, .ref (x0)), (1, va_rf (x1)), (2, va_rf (x2)), (3, .int (x3))] [0, 1, 2, 3] rfl ?_
    have hz := bJ9_init_2_41 (b := b) hE hn hR hc hini hK  hw
    exact hz
  · replace hw := hw.2 c21
    refine j_aload_n hE 0 dJ9_init_2_28 rfl rfl ?_
    exact hw.elim
theorem jdJ9_init_2 : jD yJ9_init_2 4 := by decide +kernel
abbrev wJ9_init_2 := wJ9_init_2_0
theorem ctJ9_init_2 (l : Launch) (G : gG) {c : Nat → Option Nat} (hc : G.2.2.2 = c) (x0 : Nat) (x1 : Option Nat) (x2 : Option Nat) (x3 : Int32) (x4 : Int32) (w : GW) (K : GW → Prop) (hw : wJ9_init_2_0 c x0 x1 x2 x3 x4 w K) {F2 L2 : Nat} (h2 : 1 ≤ F2 ∧ 20 ≤ L2 := by exact ⟨Nat.le_refl _, Nat.le_refl _⟩) : CtV l yJ9_init_2 cJ9_init_2 5 ({ frames := F2, cells := 0, slots := 0, locals := L2 }) G [.ref (x0), va_rf (x1), va_rf (x2), .int (x3), .int (x4)] w (K) := by
  rcases x1 with _ | x1 <;> rcases x2 with _ | x2 <;> exact CtV.ofI RJ9 plainc_J9 rfl rfl (Nat.le_of_ble_eq_true rfl) (fun E hE hini hl hG hn hR hK => bJ9_init_2_0 hE hn (hR.le h2.1 h2.2) (by rw [hG]; exact hc) hini hK hw)
def wJ10_init_0 (c : Nat → Option Nat) (x0 : Nat) (x1 : Option Nat) (x2 : Option Nat) (x3 : Int32) (x4 : Int32) (w : GW) (K : GW → Prop) : Prop :=
  wJ9_init_2 c x0 x1 x2 x3 x4 w (fun w1 => K w1)
set_option maxRecDepth 100000 in
theorem bJ10_init_0 {E : jE} (hE : jOk E cJ10_init RJ10) (hn : E.2.2.2.2 = 5) (hR : jRoom E 2 44) {c : Nat → Option Nat} (hc : E.2.2.1.2.2.2 = c) (hini : E.2.1.1.name = "<init>") {b : Nat × Nat} {K : GW → Prop} (hK : jRv E (K)) {x0 : Nat} {x1 : Option Nat} {x2 : Option Nat} {x3 : Int32} {x4 : Int32} {w : GW}  (hw : wJ10_init_0 c x0 x1 x2 x3 x4 w K) : J E w b [(0, .ref (x0)), (1, va_rf (x1)), (2, va_rf (x2)), (3, .int (x3)), (4, .int (x4))] 0 [] := by
  unfold wJ10_init_0 at hw
  refine j_aload_n hE 0 dJ10_init_0 rfl rfl ?_
  refine j_aload_nq hE 1 dJ10_init_1 rfl rfl ?_
  refine j_aload_nq hE 2 dJ10_init_2 rfl rfl ?_
  refine j_iload_n hE 3 dJ10_init_3 rfl rfl ?_
  refine j_iload hE 4 dJ10_init_4 rfl ?_
  refine jc_v (jr_I hE hR (As := [va_rf x1, va_rf x2, .int (x3), .int (x4)]) (rest := []) ((ctJ9_init_2 E.1.2.1 E.2.2.1 hc _ _ _ _ _ _ _ hw) E.2.2.2.1) (lw_meth q599) q136 q597 q598 rfl jdJ9_init_2 ⟨Nat.le_of_ble_eq_true rfl, Nat.le_of_ble_eq_true rfl⟩ ⟨Nat.zero_le _, Nat.zero_le _⟩  rfl (Nat.le_of_ble_eq_true rfl) dJ10_init_6) (fun w1 hw => ?_)
  refine j_b0 ?_
  exact j_vret hE hK dJ10_init_9 hw
theorem jdJ10_init : jD yJ10_init 4 := by decide +kernel
abbrev wJ10_init := wJ10_init_0
theorem ctJ10_init (l : Launch) (G : gG) {c : Nat → Option Nat} (hc : G.2.2.2 = c) (x0 : Nat) (x1 : Option Nat) (x2 : Option Nat) (x3 : Int32) (x4 : Int32) (w : GW) (K : GW → Prop) (hw : wJ10_init_0 c x0 x1 x2 x3 x4 w K) {F2 L2 : Nat} (h2 : 2 ≤ F2 ∧ 44 ≤ L2 := by exact ⟨Nat.le_refl _, Nat.le_refl _⟩) : CtV l yJ10_init cJ10_init 5 ({ frames := F2, cells := 0, slots := 0, locals := L2 }) G [.ref (x0), va_rf (x1), va_rf (x2), .int (x3), .int (x4)] w (K) := by
  rcases x1 with _ | x1 <;> rcases x2 with _ | x2 <;> exact CtV.ofI RJ10 plainc_J10 rfl rfl (Nat.le_of_ble_eq_true rfl) (fun E hE hini hl hG hn hR hK => bJ10_init_0 hE hn (hR.le h2.1 h2.2) (by rw [hG]; exact hc) hini hK hw)
def wJ11_init_0 (c : Nat → Option Nat) (x0 : Nat) (x1 : Option Nat) (x2 : Option Nat) (x3 : Int32) (x4 : Int32) (w : GW) (K : GW → Prop) : Prop :=
  wJ10_init c x0 x1 x2 x3 x4 w (fun w1 => K w1)
set_option maxRecDepth 100000 in
theorem bJ11_init_0 {E : jE} (hE : jOk E cJ11_init RJ11) (hn : E.2.2.2.2 = 5) (hR : jRoom E 3 68) {c : Nat → Option Nat} (hc : E.2.2.1.2.2.2 = c) (hini : E.2.1.1.name = "<init>") {b : Nat × Nat} {K : GW → Prop} (hK : jRv E (K)) {x0 : Nat} {x1 : Option Nat} {x2 : Option Nat} {x3 : Int32} {x4 : Int32} {w : GW}  (hw : wJ11_init_0 c x0 x1 x2 x3 x4 w K) : J E w b [(0, .ref (x0)), (1, va_rf (x1)), (2, va_rf (x2)), (3, .int (x3)), (4, .int (x4))] 0 [] := by
  unfold wJ11_init_0 at hw
  refine j_aload_n hE 0 dJ11_init_0 rfl rfl ?_
  refine j_aload_nq hE 1 dJ11_init_1 rfl rfl ?_
  refine j_aload_nq hE 2 dJ11_init_2 rfl rfl ?_
  refine j_iload_n hE 3 dJ11_init_3 rfl rfl ?_
  refine j_iload hE 4 dJ11_init_4 rfl ?_
  refine jc_v (jr_I hE hR (As := [va_rf x1, va_rf x2, .int (x3), .int (x4)]) (rest := []) ((ctJ10_init E.1.2.1 E.2.2.1 hc _ _ _ _ _ _ _ hw) E.2.2.2.1) (lw_meth q596) q137 q594 q595 rfl jdJ10_init ⟨Nat.le_of_ble_eq_true rfl, Nat.le_of_ble_eq_true rfl⟩ ⟨Nat.zero_le _, Nat.zero_le _⟩  rfl (Nat.le_of_ble_eq_true rfl) dJ11_init_6) (fun w1 hw => ?_)
  refine j_b0 ?_
  exact j_vret hE hK dJ11_init_9 hw
theorem jdJ11_init : jD yJ11_init 4 := by decide +kernel
abbrev wJ11_init := wJ11_init_0
theorem ctJ11_init (l : Launch) (G : gG) {c : Nat → Option Nat} (hc : G.2.2.2 = c) (x0 : Nat) (x1 : Option Nat) (x2 : Option Nat) (x3 : Int32) (x4 : Int32) (w : GW) (K : GW → Prop) (hw : wJ11_init_0 c x0 x1 x2 x3 x4 w K) {F2 L2 : Nat} (h2 : 3 ≤ F2 ∧ 68 ≤ L2 := by exact ⟨Nat.le_refl _, Nat.le_refl _⟩) : CtV l yJ11_init cJ11_init 5 ({ frames := F2, cells := 0, slots := 0, locals := L2 }) G [.ref (x0), va_rf (x1), va_rf (x2), .int (x3), .int (x4)] w (K) := by
  rcases x1 with _ | x1 <;> rcases x2 with _ | x2 <;> exact CtV.ofI RJ11 plainc_J11 rfl rfl (Nat.le_of_ble_eq_true rfl) (fun E hE hini hl hG hn hR hK => bJ11_init_0 hE hn (hR.le h2.1 h2.2) (by rw [hG]; exact hc) hini hK hw)
def wX7_init_0 (c : Nat → Option Nat) (x0 : Nat) (x1 : Int32) (x2 : Int32) (w : GW) (K : GW → Prop) : Prop :=
  wJ11_init c x0 none none ((0 : Int32)) ((0 : Int32)) w (fun w1 => ∃ (n2 : Nat) (fs3 : List Value), w1 x0 = some (true, .inr (n2, fs3)) ∧ n2 ∈ ([6] : List Nat) ∧ 6 < fs3.length ∧ (∀ w7 : GW, w7 = gup w1 x0 (.inr (n2, fs3.set 6 (.int (x1 + ((nI 16) * x2))))) → (K w7)))
set_option maxRecDepth 100000 in
theorem bX7_init_0 {E : jE} (hE : jOk E cX7_init RX7) (hn : E.2.2.2.2 = 3) (hR : jRoom E 4 92) {c : Nat → Option Nat} (hc : E.2.2.1.2.2.2 = c) (hini : E.2.1.1.name = "<init>") {b : Nat × Nat} {K : GW → Prop} (hK : jRv E (K)) {x0 : Nat} {x1 : Int32} {x2 : Int32} {w : GW}  (hw : wX7_init_0 c x0 x1 x2 w K) : J E w b [(0, .ref (x0)), (1, .int (x1)), (2, .int (x2))] 0 [] := by
  unfold wX7_init_0 at hw
  refine j_aload_n hE 0 dX7_init_0 rfl rfl ?_
  refine j_null hE dX7_init_1 ?_
  refine j_null hE dX7_init_2 ?_
  refine j_iconst hE dX7_init_3 kc_0 ?_
  refine j_iconst hE dX7_init_4 kc_0 ?_
  refine jc_v (jr_I hE hR (As := [va_rf none, va_rf none, .int ((0 : Int32)), .int ((0 : Int32))]) (rest := []) ((ctJ11_init E.1.2.1 E.2.2.1 hc _ _ _ _ _ _ _ hw) E.2.2.2.1) (lw_meth q593) q138 q591 q592 rfl jdJ11_init ⟨Nat.le_of_ble_eq_true rfl, Nat.le_of_ble_eq_true rfl⟩ ⟨Nat.zero_le _, Nat.zero_le _⟩  rfl (Nat.le_of_ble_eq_true rfl) dX7_init_5) (fun w1 hw => ?_)
  refine j_b0 ?_
  refine j_aload_n hE 0 dX7_init_8 rfl rfl ?_
  refine j_iload_n hE 1 dX7_init_9 rfl rfl ?_
  refine j_bipush hE dX7_init_10 kb_16 ?_
  refine j_iload_n hE 2 dX7_init_12 rfl rfl ?_
  refine j_imul hE dX7_init_13 ?_
  refine j_iadd hE dX7_init_14 ?_
  obtain ⟨n2, fs3, h4, h5, h6, hw⟩ := hw
  refine j_putXF hE hini h5 gw_GlassStreet_Wrong_fault_X7 q600 h4 rfl rfl h6 dX7_init_15 ?_
  refine j_nw (fun w7 e_w7 => ?_)
  replace hw := hw w7 e_w7
  exact j_vret hE hK dX7_init_18 hw
theorem jdX7_init : jD yX7_init 2 := by decide +kernel
abbrev wX7_init := wX7_init_0
theorem ctX7_init (l : Launch) (G : gG) {c : Nat → Option Nat} (hc : G.2.2.2 = c) (x0 : Nat) (x1 : Int32) (x2 : Int32) (w : GW) (K : GW → Prop) (hw : wX7_init_0 c x0 x1 x2 w K) {F2 L2 : Nat} (h2 : 4 ≤ F2 ∧ 92 ≤ L2 := by exact ⟨Nat.le_refl _, Nat.le_refl _⟩) : CtV l yX7_init cX7_init 3 ({ frames := F2, cells := 0, slots := 0, locals := L2 }) G [.ref (x0), .int (x1), .int (x2)] w (K) :=
  CtV.ofI RX7 plainc_X7 rfl rfl (Nat.le_of_ble_eq_true rfl) (fun E hE hini hl hG hn hR hK => bX7_init_0 hE hn (hR.le h2.1 h2.2) (by rw [hG]; exact hc) hini hK hw)
def wX2_wrong_0 (c : Nat → Option Nat) (x0 : Nat) (x1 : Int32) (w : GW) (bb : Nat × Nat) (K : Option Nat → GW → Prop) : Prop :=
  1 ≤ bb.1 ∧ 7 ≤ bb.2 ∧ ∀ qa3 : Nat, w qa3 = none → (∀ w5 : GW, w5 = gup w qa3 (.inr (6, [va_rf none, va_rf none, va_rf none, va_rf none, va_rf none, .int 0, .int 0])) → (∀ b6 : Nat × Nat, b6 = (bb.1 - 1, bb.2 - 7) → (∃ f7 : Int32, gfm w5 x0 [1] 4 = some (.int f7) ∧ (wX7_init c qa3 x1 f7 w5 (fun w9 => K (some qa3) w9)))))
set_option maxRecDepth 100000 in
theorem bX2_wrong_0 {E : jE} (hE : jOk E cX2_wrong RX2) (hn : E.2.2.2.2 = 2) (hR : jRoom E 5 114) {c : Nat → Option Nat} (hc : E.2.2.1.2.2.2 = c) {K : Option Nat → GW → Prop} (hK : jRq E (.object "GlassStreet$Wrong") (K)) {x0 : Nat} {x1 : Int32} {w : GW} {bb : Nat × Nat}  (hw : wX2_wrong_0 c x0 x1 w bb K) : J E w bb [(0, .ref (x0)), (1, .int (x1))] 0 [] := by
  unfold wX2_wrong_0 at hw
  obtain ⟨h1, h2, hw⟩ := hw
  refine j_new (c := 6) (fs := [va_rf none, va_rf none, va_rf none, va_rf none, va_rf none, .int 0, .int 0]) hE gok_6 q548 q549 q139 dfl_6 ⟨h1, h2⟩ dX2_wrong_0 (fun qa3 h4 => ?_)
  replace hw := hw qa3 h4
  refine j_nw (fun w5 e_w5 => ?_)
  replace hw := hw w5 e_w5
  refine j_nb (fun b6 e_b6 => ?_)
  replace hw := hw b6 e_b6
  refine j_dup hE dX2_wrong_3 rfl ?_
  refine j_iload_n hE 1 dX2_wrong_4 rfl rfl ?_
  refine j_aload_n hE 0 dX2_wrong_5 rfl rfl ?_
  obtain ⟨f7, h8, hw⟩ := hw
  refine j_getM hE gf_GlassStreet_Reader_from q182 h8 dX2_wrong_6 ?_
  refine jc_v (jr_I hE hR (As := [.int (x1), .int (f7)]) (rest := [.ref (qa3)]) ((ctX7_init E.1.2.1 E.2.2.1 hc _ _ _ _ _ hw) E.2.2.2.1) (lw_meth q590) q139 q588 q589 rfl jdX7_init ⟨Nat.le_of_ble_eq_true rfl, Nat.le_of_ble_eq_true rfl⟩ ⟨Nat.zero_le _, Nat.zero_le _⟩  rfl (Nat.le_of_ble_eq_true rfl) dX2_wrong_9) (fun w9 hw => ?_)
  refine j_b0 ?_
  exact j_qret hE hK (r := some qa3) dX2_wrong_12 (by first | exact Or.inl ⟨_, rfl⟩ | exact Or.inr ⟨_, rfl⟩) hw
theorem jdX2_wrong : jD yX2_wrong 1 := by decide +kernel
abbrev wX2_wrong := wX2_wrong_0
theorem ctX2_wrong (l : Launch) (G : gG) {c : Nat → Option Nat} (hc : G.2.2.2 = c) (x0 : Nat) (x1 : Int32) (w : GW) (bb : Nat × Nat) (K : Option Nat → GW → Prop) (hw : wX2_wrong_0 c x0 x1 w bb K) {F2 L2 : Nat} (h2 : 5 ≤ F2 ∧ 114 ≤ L2 := by exact ⟨Nat.le_refl _, Nat.le_refl _⟩) : CtQ l yX2_wrong cX2_wrong 2 (.object "GlassStreet$Wrong") ({ frames := F2, cells := bb.1, slots := bb.2, locals := L2 }) G [.ref (x0), .int (x1)] w (K) :=
  CtQ.of RX2 plainc_X2 rfl (Nat.le_of_ble_eq_true rfl) (fun E hE hl hG hn hR hK => bX2_wrong_0 hE hn (hR.le h2.1 h2.2) (by rw [hG]; exact hc) hK hw)
def wX2_isTold_15 (c : Nat → Option Nat) (x0 : Nat) (x1 : Int32) (w0 : GW) (K : Int32 → Prop) : Prop :=
  (¬ x1 = (nI 4) → (K ((0 : Int32)))) ∧ (x1 = (nI 4) → (∃ f2 : Option Nat, gfm w0 x0 [1] 7 = some (va_rf f2) ∧ (∃ a4 : Nat, f2 = some a4 ∧ (∃ f5 : Option Nat, gfm w0 a4 [2] 7 = some (va_rf f5) ∧ ((f5 = none → (K ((0 : Int32)))) ∧ (¬ f5 = none → (K ((1 : Int32)))))))))
set_option maxRecDepth 100000 in
theorem bX2_isTold_15 {E : jE} (hE : jOk E cX2_isTold RX2) (hn : E.2.2.2.2 = 2) (hR : jRoom E 0 0) {c : Nat → Option Nat} (hc : E.2.2.1.2.2.2 = c) {b : Nat × Nat} {w0 : GW} {K : Int32 → Prop} (hK : jRi E .boolean (KPI w0 K)) {x0 : Nat} {x1 : Int32}  (hw : wX2_isTold_15 c x0 x1 w0 K) : J E w0 b [(0, .ref (x0)), (1, .int (x1))] 15 [] := by
  unfold wX2_isTold_15 at hw
  refine j_iload_n hE 1 dX2_isTold_15 rfl rfl ?_
  refine j_iconst hE dX2_isTold_16 kc_4 ?_
  refine j_icmp_ne hE 34 dX2_isTold_17 (by decide) (fun c1 => ?_) (fun c1 => ?_)
  · replace hw := hw.1 c1
    refine j_iconst hE dX2_isTold_34 kc_0 ?_
    exact j_iret hE hK dX2_isTold_35 rfl ⟨rfl, hw⟩
  · replace hw := hw.2 c1
    refine j_aload_n hE 0 dX2_isTold_20 rfl rfl ?_
    obtain ⟨f2, h3, hw⟩ := hw
    refine j_getM hE gf_GlassStreet_Reader_houses q185 h3 dX2_isTold_21 ?_
    obtain ⟨a4, e9, hx⟩ := hw
    subst e9
    have hw := hx
    clear hx
    obtain ⟨f5, h6, hw⟩ := hw
    refine j_getMN hE gf_GlassStreet_Houses_fades q257 h6 dX2_isTold_24 ?_
    refine j_ifnull (r := f5) hE 34 dX2_isTold_27 (by decide) (fun c7 => ?_) (fun c7 => ?_)
    · replace hw := hw.1 c7
      refine j_iconst hE dX2_isTold_34 kc_0 ?_
      exact j_iret hE hK dX2_isTold_35 rfl ⟨rfl, hw⟩
    · replace hw := hw.2 c7
      refine j_iconst hE dX2_isTold_30 kc_1 ?_
      refine j_goto hE 35 dX2_isTold_31 (by decide) ?_
      exact j_iret hE hK dX2_isTold_35 rfl ⟨rfl, hw⟩
def wX2_isTold_0 (c : Nat → Option Nat) (x0 : Nat) (x1 : Int32) (w0 : GW) (K : Int32 → Prop) : Prop :=
  (¬ x1 = (nI 3) → (wX2_isTold_15 c x0 x1 w0 K)) ∧ (x1 = (nI 3) → (∃ f2 : Option Nat, gfm w0 x0 [1] 7 = some (va_rf f2) ∧ (∃ a4 : Nat, f2 = some a4 ∧ (∃ f5 : Int32, gfm w0 a4 [2] 6 = some (.int f5) ∧ ((0 < f5 → (K ((1 : Int32)))) ∧ (¬ 0 < f5 → (wX2_isTold_15 c x0 x1 w0 K)))))))
set_option maxRecDepth 100000 in
theorem bX2_isTold_0 {E : jE} (hE : jOk E cX2_isTold RX2) (hn : E.2.2.2.2 = 2) (hR : jRoom E 0 0) {c : Nat → Option Nat} (hc : E.2.2.1.2.2.2 = c) {b : Nat × Nat} {w0 : GW} {K : Int32 → Prop} (hK : jRi E .boolean (KPI w0 K)) {x0 : Nat} {x1 : Int32}  (hw : wX2_isTold_0 c x0 x1 w0 K) : J E w0 b [(0, .ref (x0)), (1, .int (x1))] 0 [] := by
  unfold wX2_isTold_0 at hw
  refine j_iload_n hE 1 dX2_isTold_0 rfl rfl ?_
  refine j_iconst hE dX2_isTold_1 kc_3 ?_
  refine j_icmp_ne hE 15 dX2_isTold_2 (by decide) (fun c1 => ?_) (fun c1 => ?_)
  · replace hw := hw.1 c1
    have hz := bX2_isTold_15 (b := b) hE hn hR hc hK  hw
    exact hz
  · replace hw := hw.2 c1
    refine j_aload_n hE 0 dX2_isTold_5 rfl rfl ?_
    obtain ⟨f2, h3, hw⟩ := hw
    refine j_getM hE gf_GlassStreet_Reader_houses q185 h3 dX2_isTold_6 ?_
    obtain ⟨a4, e9, hx⟩ := hw
    subst e9
    have hw := hx
    clear hx
    obtain ⟨f5, h6, hw⟩ := hw
    refine j_getMN hE gf_GlassStreet_Houses_many q256 h6 dX2_isTold_9 ?_
    refine j_if_gt hE 30 dX2_isTold_12 (by decide) (fun c7 => ?_) (fun c7 => ?_)
    · replace hw := hw.1 c7
      refine j_iconst hE dX2_isTold_30 kc_1 ?_
      refine j_goto hE 35 dX2_isTold_31 (by decide) ?_
      exact j_iret hE hK dX2_isTold_35 rfl ⟨rfl, hw⟩
    · replace hw := hw.2 c7
      have hz := bX2_isTold_15 (b := b) hE hn hR hc hK  hw
      exact hz
theorem jdX2_isTold : jD yX2_isTold 1 := by decide +kernel
abbrev wX2_isTold := wX2_isTold_0
theorem ctX2_isTold (l : Launch) (G : gG) {c : Nat → Option Nat} (hc : G.2.2.2 = c) (x0 : Nat) (x1 : Int32) (w0 : GW) (K : Int32 → Prop) (hw : wX2_isTold_0 c x0 x1 w0 K) {F2 L2 : Nat} (h2 : 0 ≤ F2 ∧ 0 ≤ L2 := by exact ⟨Nat.le_refl _, Nat.le_refl _⟩) : CtI l yX2_isTold cX2_isTold 2 .boolean ({ frames := F2, cells := 0, slots := 0, locals := L2 }) G [.ref (x0), .int (x1)] w0 (KPI w0 K) :=
  CtI.of RX2 plainc_X2 rfl (Nat.le_of_ble_eq_true rfl) (fun E hE hl hG hn hR hK => bX2_isTold_0 hE hn (hR.le h2.1 h2.2) (by rw [hG]; exact hc) hK hw)
def wJ2_size_0 (c : Nat → Option Nat) (x0 : Nat) (w0 : GW) (K : Int32 → Prop) : Prop :=
  ∃ f1 : Int32, gfm w0 x0 [20] 2 = some (.int f1) ∧ (K f1)
set_option maxRecDepth 100000 in
theorem bJ2_size_0 {E : jE} (hE : jOk E cJ2_size RJ2) (hn : E.2.2.2.2 = 1) (hR : jRoom E 0 0) {c : Nat → Option Nat} (hc : E.2.2.1.2.2.2 = c) {b : Nat × Nat} {w0 : GW} {K : Int32 → Prop} (hK : jRi E .int (KPI w0 K)) {x0 : Nat}  (hw : wJ2_size_0 c x0 w0 K) : J E w0 b [(0, .ref (x0))] 0 [] := by
  unfold wJ2_size_0 at hw
  refine j_aload_n hE 0 dJ2_size_0 rfl rfl ?_
  obtain ⟨f1, h2, hw⟩ := hw
  refine j_getM hE gf_java_util_ArrayList_size q227 h2 dJ2_size_1 ?_
  exact j_iret hE hK dJ2_size_4 rfl ⟨rfl, hw⟩
theorem jdJ2_size : jD yJ2_size 0 := by decide +kernel
abbrev wJ2_size := wJ2_size_0
theorem ctJ2_size (l : Launch) (G : gG) {c : Nat → Option Nat} (hc : G.2.2.2 = c) (x0 : Nat) (w0 : GW) (K : Int32 → Prop) (hw : wJ2_size_0 c x0 w0 K) {F2 L2 : Nat} (h2 : 0 ≤ F2 ∧ 0 ≤ L2 := by exact ⟨Nat.le_refl _, Nat.le_refl _⟩) : CtI l yJ2_size cJ2_size 1 .int ({ frames := F2, cells := 0, slots := 0, locals := L2 }) G [.ref (x0)] w0 (KPI w0 K) :=
  CtI.of RJ2 plainc_J2 rfl (Nat.le_of_ble_eq_true rfl) (fun E hE hl hG hn hR hK => bJ2_size_0 hE hn (hR.le h2.1 h2.2) (by rw [hG]; exact hc) hK hw)
def wX2_isFull_38 (c : Nat → Option Nat) (x0 : Nat) (x1 : Int32) (w0 : GW) (K : Int32 → Prop) : Prop :=
  (¬ x1 = (nI 2) → (K ((0 : Int32)))) ∧ (x1 = (nI 2) → (∃ f2 : Option Nat, gfm w0 x0 [1] 7 = some (va_rf f2) ∧ (∃ a4 : Nat, f2 = some a4 ∧ (∃ f5 : Option Nat, gfm w0 a4 [2] 2 = some (va_rf f5) ∧ (∃ a7 : Nat, f5 = some a7 ∧ (gmc w0 a7 = some 20 ∧ (wJ2_size c a7 w0 (fun r8 => (¬ r8 = (nI 5) → (K ((0 : Int32)))) ∧ (r8 = (nI 5) → (K ((1 : Int32))))))))))))
set_option maxRecDepth 100000 in
theorem bX2_isFull_38 {E : jE} (hE : jOk E cX2_isFull RX2) (hn : E.2.2.2.2 = 2) (hR : jRoom E 1 20) {c : Nat → Option Nat} (hc : E.2.2.1.2.2.2 = c) {b : Nat × Nat} {w0 : GW} {K : Int32 → Prop} (hK : jRi E .boolean (KPI w0 K)) {x0 : Nat} {x1 : Int32}  (hw : wX2_isFull_38 c x0 x1 w0 K) : J E w0 b [(0, .ref (x0)), (1, .int (x1))] 38 [] := by
  unfold wX2_isFull_38 at hw
  refine j_iload_n hE 1 dX2_isFull_38 rfl rfl ?_
  refine j_iconst hE dX2_isFull_39 kc_2 ?_
  refine j_icmp_ne hE 61 dX2_isFull_40 (by decide) (fun c1 => ?_) (fun c1 => ?_)
  · replace hw := hw.1 c1
    refine j_iconst hE dX2_isFull_61 kc_0 ?_
    exact j_iret hE hK dX2_isFull_62 rfl ⟨rfl, hw⟩
  · replace hw := hw.2 c1
    refine j_aload_n hE 0 dX2_isFull_43 rfl rfl ?_
    obtain ⟨f2, h3, hw⟩ := hw
    refine j_getM hE gf_GlassStreet_Reader_houses q185 h3 dX2_isFull_44 ?_
    obtain ⟨a4, e9, hx⟩ := hw
    subst e9
    have hw := hx
    clear hx
    obtain ⟨f5, h6, hw⟩ := hw
    refine j_getMN hE gf_GlassStreet_Houses_deeds q246 h6 dX2_isFull_47 ?_
    obtain ⟨a7, e9, hx⟩ := hw
    subst e9
    have hw := hx
    clear hx
    obtain ⟨h9, hw⟩ := hw
    refine jc_ip (jr_V hE hR (As := []) (rest := []) ((ctJ2_size E.1.2.1 E.2.2.1 hc _ _ _ hw) E.2.2.2.1) (lw_V q625 q626 q627 q126 q628) jdJ2_size ⟨Nat.le_of_ble_eq_true rfl, Nat.le_of_ble_eq_true rfl⟩ ⟨Nat.zero_le _, Nat.zero_le _⟩ (gmc_gIs h9 (r := (RJ2, TJ2, 3)) rfl) rfl (Nat.le_of_ble_eq_true rfl) dX2_isFull_50) (fun r8 hw => ?_)
    refine j_b0 ?_
    refine j_iconst hE dX2_isFull_53 kc_5 ?_
    refine j_icmp_ne hE 61 dX2_isFull_54 (by decide) (fun c10 => ?_) (fun c10 => ?_)
    · replace hw := hw.1 c10
      refine j_iconst hE dX2_isFull_61 kc_0 ?_
      exact j_iret hE hK dX2_isFull_62 rfl ⟨rfl, hw⟩
    · replace hw := hw.2 c10
      refine j_iconst hE dX2_isFull_57 kc_1 ?_
      refine j_goto hE 62 dX2_isFull_58 (by decide) ?_
      exact j_iret hE hK dX2_isFull_62 rfl ⟨rfl, hw⟩
def wX2_isFull_19 (c : Nat → Option Nat) (x0 : Nat) (x1 : Int32) (w0 : GW) (K : Int32 → Prop) : Prop :=
  (¬ x1 = ((1 : Int32)) → (wX2_isFull_38 c x0 x1 w0 K)) ∧ (x1 = ((1 : Int32)) → (∃ f2 : Option Nat, gfm w0 x0 [1] 7 = some (va_rf f2) ∧ (∃ a4 : Nat, f2 = some a4 ∧ (∃ f5 : Option Nat, gfm w0 a4 [2] 1 = some (va_rf f5) ∧ (∃ a7 : Nat, f5 = some a7 ∧ (gmc w0 a7 = some 20 ∧ (wJ2_size c a7 w0 (fun r8 => (r8 = (nI 5) → (K ((1 : Int32)))) ∧ (¬ r8 = (nI 5) → (wX2_isFull_38 c x0 x1 w0 K))))))))))
set_option maxRecDepth 100000 in
theorem bX2_isFull_19 {E : jE} (hE : jOk E cX2_isFull RX2) (hn : E.2.2.2.2 = 2) (hR : jRoom E 1 20) {c : Nat → Option Nat} (hc : E.2.2.1.2.2.2 = c) {b : Nat × Nat} {w0 : GW} {K : Int32 → Prop} (hK : jRi E .boolean (KPI w0 K)) {x0 : Nat} {x1 : Int32}  (hw : wX2_isFull_19 c x0 x1 w0 K) : J E w0 b [(0, .ref (x0)), (1, .int (x1))] 19 [] := by
  unfold wX2_isFull_19 at hw
  refine j_iload_n hE 1 dX2_isFull_19 rfl rfl ?_
  refine j_iconst hE dX2_isFull_20 kc_1 ?_
  refine j_icmp_ne hE 38 dX2_isFull_21 (by decide) (fun c1 => ?_) (fun c1 => ?_)
  · replace hw := hw.1 c1
    have hz := bX2_isFull_38 (b := b) hE hn hR hc hK  hw
    exact hz
  · replace hw := hw.2 c1
    refine j_aload_n hE 0 dX2_isFull_24 rfl rfl ?_
    obtain ⟨f2, h3, hw⟩ := hw
    refine j_getM hE gf_GlassStreet_Reader_houses q185 h3 dX2_isFull_25 ?_
    obtain ⟨a4, e9, hx⟩ := hw
    subst e9
    have hw := hx
    clear hx
    obtain ⟨f5, h6, hw⟩ := hw
    refine j_getMN hE gf_GlassStreet_Houses_people q243 h6 dX2_isFull_28 ?_
    obtain ⟨a7, e9, hx⟩ := hw
    subst e9
    have hw := hx
    clear hx
    obtain ⟨h9, hw⟩ := hw
    refine jc_ip (jr_V hE hR (As := []) (rest := []) ((ctJ2_size E.1.2.1 E.2.2.1 hc _ _ _ hw) E.2.2.2.1) (lw_V q625 q626 q627 q126 q628) jdJ2_size ⟨Nat.le_of_ble_eq_true rfl, Nat.le_of_ble_eq_true rfl⟩ ⟨Nat.zero_le _, Nat.zero_le _⟩ (gmc_gIs h9 (r := (RJ2, TJ2, 3)) rfl) rfl (Nat.le_of_ble_eq_true rfl) dX2_isFull_31) (fun r8 hw => ?_)
    refine j_b0 ?_
    refine j_iconst hE dX2_isFull_34 kc_5 ?_
    refine j_icmp_eq hE 57 dX2_isFull_35 (by decide) (fun c10 => ?_) (fun c10 => ?_)
    · replace hw := hw.1 c10
      refine j_iconst hE dX2_isFull_57 kc_1 ?_
      refine j_goto hE 62 dX2_isFull_58 (by decide) ?_
      exact j_iret hE hK dX2_isFull_62 rfl ⟨rfl, hw⟩
    · replace hw := hw.2 c10
      have hz := bX2_isFull_38 (b := b) hE hn hR hc hK  hw
      exact hz
def wX2_isFull_0 (c : Nat → Option Nat) (x0 : Nat) (x1 : Int32) (w0 : GW) (K : Int32 → Prop) : Prop :=
  (¬ x1 = 0 → (wX2_isFull_19 c x0 x1 w0 K)) ∧ (x1 = 0 → (∃ f2 : Option Nat, gfm w0 x0 [1] 7 = some (va_rf f2) ∧ (∃ a4 : Nat, f2 = some a4 ∧ (∃ f5 : Option Nat, gfm w0 a4 [2] 0 = some (va_rf f5) ∧ (∃ a7 : Nat, f5 = some a7 ∧ (gmc w0 a7 = some 20 ∧ (wJ2_size c a7 w0 (fun r8 => (r8 = (nI 6) → (K ((1 : Int32)))) ∧ (¬ r8 = (nI 6) → (wX2_isFull_19 c x0 x1 w0 K))))))))))
set_option maxRecDepth 100000 in
theorem bX2_isFull_0 {E : jE} (hE : jOk E cX2_isFull RX2) (hn : E.2.2.2.2 = 2) (hR : jRoom E 1 20) {c : Nat → Option Nat} (hc : E.2.2.1.2.2.2 = c) {b : Nat × Nat} {w0 : GW} {K : Int32 → Prop} (hK : jRi E .boolean (KPI w0 K)) {x0 : Nat} {x1 : Int32}  (hw : wX2_isFull_0 c x0 x1 w0 K) : J E w0 b [(0, .ref (x0)), (1, .int (x1))] 0 [] := by
  unfold wX2_isFull_0 at hw
  refine j_iload_n hE 1 dX2_isFull_0 rfl rfl ?_
  refine j_if_ne hE 19 dX2_isFull_1 (by decide) (fun c1 => ?_) (fun c1 => ?_)
  · replace hw := hw.1 c1
    have hz := bX2_isFull_19 (b := b) hE hn hR hc hK  hw
    exact hz
  · replace hw := hw.2 c1
    refine j_aload_n hE 0 dX2_isFull_4 rfl rfl ?_
    obtain ⟨f2, h3, hw⟩ := hw
    refine j_getM hE gf_GlassStreet_Reader_houses q185 h3 dX2_isFull_5 ?_
    obtain ⟨a4, e9, hx⟩ := hw
    subst e9
    have hw := hx
    clear hx
    obtain ⟨f5, h6, hw⟩ := hw
    refine j_getMN hE gf_GlassStreet_Houses_panes q240 h6 dX2_isFull_8 ?_
    obtain ⟨a7, e9, hx⟩ := hw
    subst e9
    have hw := hx
    clear hx
    obtain ⟨h9, hw⟩ := hw
    refine jc_ip (jr_V hE hR (As := []) (rest := []) ((ctJ2_size E.1.2.1 E.2.2.1 hc _ _ _ hw) E.2.2.2.1) (lw_V q625 q626 q627 q126 q628) jdJ2_size ⟨Nat.le_of_ble_eq_true rfl, Nat.le_of_ble_eq_true rfl⟩ ⟨Nat.zero_le _, Nat.zero_le _⟩ (gmc_gIs h9 (r := (RJ2, TJ2, 3)) rfl) rfl (Nat.le_of_ble_eq_true rfl) dX2_isFull_11) (fun r8 hw => ?_)
    refine j_b0 ?_
    refine j_bipush hE dX2_isFull_14 kb_6 ?_
    refine j_icmp_eq hE 57 dX2_isFull_16 (by decide) (fun c10 => ?_) (fun c10 => ?_)
    · replace hw := hw.1 c10
      refine j_iconst hE dX2_isFull_57 kc_1 ?_
      refine j_goto hE 62 dX2_isFull_58 (by decide) ?_
      exact j_iret hE hK dX2_isFull_62 rfl ⟨rfl, hw⟩
    · replace hw := hw.2 c10
      have hz := bX2_isFull_19 (b := b) hE hn hR hc hK  hw
      exact hz
theorem jdX2_isFull : jD yX2_isFull 1 := by decide +kernel
abbrev wX2_isFull := wX2_isFull_0
theorem ctX2_isFull (l : Launch) (G : gG) {c : Nat → Option Nat} (hc : G.2.2.2 = c) (x0 : Nat) (x1 : Int32) (w0 : GW) (K : Int32 → Prop) (hw : wX2_isFull_0 c x0 x1 w0 K) {F2 L2 : Nat} (h2 : 1 ≤ F2 ∧ 20 ≤ L2 := by exact ⟨Nat.le_refl _, Nat.le_refl _⟩) : CtI l yX2_isFull cX2_isFull 2 .boolean ({ frames := F2, cells := 0, slots := 0, locals := L2 }) G [.ref (x0), .int (x1)] w0 (KPI w0 K) :=
  CtI.of RX2 plainc_X2 rfl (Nat.le_of_ble_eq_true rfl) (fun E hE hl hG hn hR hK => bX2_isFull_0 hE hn (hR.le h2.1 h2.2) (by rw [hG]; exact hc) hK hw)
def wJ12_init_0 (c : Nat → Option Nat) (x0 : Nat) (x1 : Int32) (w : GW) (bb : Nat × Nat) (K : GW → Prop) : Prop :=
  (((1 : Int32)) = 0 → (False)) ∧ (¬ ((1 : Int32)) = 0 → (¬ x1 < 0 ∧ (x1).toNatClampNeg * 1 ≤ 536870912 ∧ 1 ≤ bb.1 ∧ (x1).toNatClampNeg ≤ bb.2 ∧ ∀ qa7 : Nat, w qa7 = none → (∀ w8 : GW, w8 = gup w qa7 (.inl (1, (x1).toNatClampNeg, gZero 1)) → (∀ b9 : Nat × Nat, b9 = (bb.1 - 1, bb.2 - (x1).toNatClampNeg) → (∃ (n10 : Nat) (fs11 : List Value), w8 x0 = some (true, .inr (n10, fs11)) ∧ n10 ∈ ([22] : List Nat) ∧ 0 < fs11.length ∧ (∀ w15 : GW, w15 = gup w8 x0 (.inr (n10, fs11.set 0 (va_rf (some qa7)))) → (∃ (n16 : Nat) (fs17 : List Value), w15 x0 = some (true, .inr (n16, fs17)) ∧ n16 ∈ ([22] : List Nat) ∧ 1 < fs17.length ∧ (∀ w21 : GW, w21 = gup w15 x0 (.inr (n16, fs17.set 1 (.int ((0 : Int32))))) → (K w21)))))))))
set_option maxRecDepth 100000 in
theorem bJ12_init_0 {E : jE} (hE : jOk E cJ12_init RJ12) (hn : E.2.2.2.2 = 2) (hR : jRoom E 1 20) {c : Nat → Option Nat} (hc : E.2.2.1.2.2.2 = c) (hini : E.2.1.1.name = "<init>") {K : GW → Prop} (hK : jRv E (K)) {x0 : Nat} {x1 : Int32} {w : GW} {bb : Nat × Nat}  (hw : wJ12_init_0 c x0 x1 w bb K) : J E w bb [(0, .ref (x0)), (1, .int (x1))] 0 [] := by
  unfold wJ12_init_0 at hw
  refine j_aload_n hE 0 dJ12_init_0 rfl rfl ?_
  refine j_objInit hE hR q654 q_oi_inst q_oi_code (Nat.le_of_ble_eq_true rfl) (Nat.le_of_ble_eq_true rfl) dJ12_init_1 ?_
  refine j_gets (v := .int 1) hE q655 hE.inv.2.2.2.1.1 dJ12_init_4 ?_
  refine j_if_eq hE 25 dJ12_init_7 (by decide) (fun c1 => ?_) (fun c1 => ?_)
  · replace hw := hw.1 c1
    refine j_aload_n hE 0 dJ12_init_25 rfl rfl ?_
    refine j_iload_n hE 1 dJ12_init_26 rfl rfl ?_
    exact hw.elim
  · replace hw := hw.2 c1
    refine j_aload_n hE 0 dJ12_init_10 rfl rfl ?_
    refine j_iload_n hE 1 dJ12_init_11 rfl rfl ?_
    obtain ⟨h2, h3, h4, h5, hw⟩ := hw
    refine j_newarr hE (atype := .byte) (t := 1) (by decide) rfl q203 h2 h3 ⟨h4, h5⟩ dJ12_init_12 (fun qa7 h6 => ?_)
    replace hw := hw qa7 h6
    refine j_nw (fun w8 e_w8 => ?_)
    replace hw := hw w8 e_w8
    refine j_nb (fun b9 e_b9 => ?_)
    replace hw := hw b9 e_b9
    obtain ⟨n10, fs11, h12, h13, h14, hw⟩ := hw
    refine j_putX hE h13 gw_java_lang_AbstractStringBuilder_value_J12 q663 h12 rfl rfl h14 dJ12_init_14 ?_
    refine j_nw (fun w15 e_w15 => ?_)
    replace hw := hw w15 e_w15
    refine j_aload_n hE 0 dJ12_init_17 rfl rfl ?_
    refine j_iconst hE dJ12_init_18 kc_0 ?_
    obtain ⟨n16, fs17, h18, h19, h20, hw⟩ := hw
    refine j_putX hE h19 gw_java_lang_AbstractStringBuilder_coder_J12 q664 h18 rfl rfl h20 dJ12_init_19 ?_
    refine j_nw (fun w21 e_w21 => ?_)
    replace hw := hw w21 e_w21
    refine j_goto hE 38 dJ12_init_22 (by decide) ?_
    exact j_vret hE hK dJ12_init_38 hw
theorem jdJ12_init : jD yJ12_init 1 := by decide +kernel
abbrev wJ12_init := wJ12_init_0
theorem ctJ12_init (l : Launch) (G : gG) {c : Nat → Option Nat} (hc : G.2.2.2 = c) (x0 : Nat) (x1 : Int32) (w : GW) (bb : Nat × Nat) (K : GW → Prop) (hw : wJ12_init_0 c x0 x1 w bb K) {F2 L2 : Nat} (h2 : 1 ≤ F2 ∧ 20 ≤ L2 := by exact ⟨Nat.le_refl _, Nat.le_refl _⟩) : CtV l yJ12_init cJ12_init 2 ({ frames := F2, cells := bb.1, slots := bb.2, locals := L2 }) G [.ref (x0), .int (x1)] w (K) :=
  CtV.ofI RJ12 plainc_J12 rfl rfl (Nat.le_of_ble_eq_true rfl) (fun E hE hini hl hG hn hR hK => bJ12_init_0 hE hn (hR.le h2.1 h2.2) (by rw [hG]; exact hc) hini hK hw)
def wJ13_init_0 (c : Nat → Option Nat) (x0 : Nat) (x1 : Int32) (w : GW) (bb : Nat × Nat) (K : GW → Prop) : Prop :=
  ∃ cb1 : Nat × Nat, (cb1.1 ≤ bb.1 ∧ cb1.2 ≤ bb.2) ∧ (wJ12_init c x0 x1 w cb1 (fun w3 => ∀ b4 : Nat × Nat, b4 = (bb.1 - cb1.1, bb.2 - cb1.2) → (K w3)))
set_option maxRecDepth 100000 in
theorem bJ13_init_0 {E : jE} (hE : jOk E cJ13_init RJ13) (hn : E.2.2.2.2 = 2) (hR : jRoom E 2 41) {c : Nat → Option Nat} (hc : E.2.2.1.2.2.2 = c) (hini : E.2.1.1.name = "<init>") {K : GW → Prop} (hK : jRv E (K)) {x0 : Nat} {x1 : Int32} {w : GW} {bb : Nat × Nat}  (hw : wJ13_init_0 c x0 x1 w bb K) : J E w bb [(0, .ref (x0)), (1, .int (x1))] 0 [] := by
  unfold wJ13_init_0 at hw
  refine j_aload_n hE 0 dJ13_init_0 rfl rfl ?_
  refine j_iload_n hE 1 dJ13_init_1 rfl rfl ?_
  obtain ⟨cb1, h2, hw⟩ := hw
  refine jc_v (jr_I hE hR (As := [.int (x1)]) (rest := []) ((ctJ12_init E.1.2.1 E.2.2.1 hc _ _ _ _ _ hw) E.2.2.2.1) (lw_meth q653) q140 q651 q652 rfl jdJ12_init ⟨Nat.le_of_ble_eq_true rfl, Nat.le_of_ble_eq_true rfl⟩ h2  rfl (Nat.le_of_ble_eq_true rfl) dJ13_init_2) (fun w3 hw => ?_)
  refine j_nb (fun b4 e_b4 => ?_)
  replace hw := hw b4 e_b4
  exact j_vret hE hK dJ13_init_5 hw
theorem jdJ13_init : jD yJ13_init 1 := by decide +kernel
abbrev wJ13_init := wJ13_init_0
theorem ctJ13_init (l : Launch) (G : gG) {c : Nat → Option Nat} (hc : G.2.2.2 = c) (x0 : Nat) (x1 : Int32) (w : GW) (bb : Nat × Nat) (K : GW → Prop) (hw : wJ13_init_0 c x0 x1 w bb K) {F2 L2 : Nat} (h2 : 2 ≤ F2 ∧ 41 ≤ L2 := by exact ⟨Nat.le_refl _, Nat.le_refl _⟩) : CtV l yJ13_init cJ13_init 2 ({ frames := F2, cells := bb.1, slots := bb.2, locals := L2 }) G [.ref (x0), .int (x1)] w (K) :=
  CtV.ofI RJ13 plainc_J13 rfl rfl (Nat.le_of_ble_eq_true rfl) (fun E hE hini hl hG hn hR hK => bJ13_init_0 hE hn (hR.le h2.1 h2.2) (by rw [hG]; exact hc) hini hK hw)
def wJ14_hugeLength_0 (c : Nat → Option Nat) (x0 : Int32) (x1 : Int32) (w0 : GW) (K : Int32 → Prop) : Prop :=
  ∀ v1 : Int32, v1 = x0 + x1 → ((0 ≤ v1 → ((((2147483639 : Int32)) < v1 → (K v1)) ∧ (¬ ((2147483639 : Int32)) < v1 → (K ((2147483639 : Int32)))))) ∧ (¬ 0 ≤ v1 → (False)))
set_option maxRecDepth 100000 in
theorem bJ14_hugeLength_0 {E : jE} (hE : jOk E cJ14_hugeLength RJ14) (hn : E.2.2.2.2 = 3) (hR : jRoom E 0 0) {c : Nat → Option Nat} (hc : E.2.2.1.2.2.2 = c) {b : Nat × Nat} {w0 : GW} {K : Int32 → Prop} (hK : jRi E .int (KPI w0 K)) {x0 : Int32} {x1 : Int32}  (hw : wJ14_hugeLength_0 c x0 x1 w0 K) : J E w0 b [(0, .int (x0)), (1, .int (x1))] 0 [] := by
  unfold wJ14_hugeLength_0 at hw
  refine j_iload_n hE 0 dJ14_hugeLength_0 rfl rfl ?_
  refine j_iload_n hE 1 dJ14_hugeLength_1 rfl rfl ?_
  refine j_iadd hE dJ14_hugeLength_2 ?_
  refine j_topi (fun v1 e_v1 => ?_)
  replace hw := hw v1 e_v1
  refine j_istore_n (L' := [(2, .int (v1)), (0, .int (x0)), (1, .int (x1))]) hE hn dJ14_hugeLength_3 rfl (Nat.le_of_ble_eq_true rfl) rfl ?_
  refine j_iload_n hE 0 dJ14_hugeLength_4 rfl rfl ?_
  refine j_if_ge hE 49 dJ14_hugeLength_5 (by decide) (fun c2 => ?_) (fun c2 => ?_)
  · replace hw := hw.1 c2
    refine j_iload_n hE 0 dJ14_hugeLength_49 rfl rfl ?_
    refine j_ldc hE q695 dJ14_hugeLength_50 ?_
    refine j_icmp_gt hE 58 dJ14_hugeLength_52 (by decide) (fun c3 => ?_) (fun c3 => ?_)
    · replace hw := hw.1 c3
      refine j_iload_n hE 0 dJ14_hugeLength_58 rfl rfl ?_
      exact j_iret hE hK dJ14_hugeLength_59 rfl ⟨rfl, hw⟩
    · replace hw := hw.2 c3
      refine j_ldc hE q695 dJ14_hugeLength_55 ?_
      exact j_iret hE hK dJ14_hugeLength_57 rfl ⟨rfl, hw⟩
  · replace hw := hw.2 c2
    exact hw.elim
theorem jdJ14_hugeLength : jD yJ14_hugeLength 2 := by decide +kernel
abbrev wJ14_hugeLength := wJ14_hugeLength_0
theorem ctJ14_hugeLength (l : Launch) (G : gG) {c : Nat → Option Nat} (hc : G.2.2.2 = c) (x0 : Int32) (x1 : Int32) (w0 : GW) (K : Int32 → Prop) (hw : wJ14_hugeLength_0 c x0 x1 w0 K) {F2 L2 : Nat} (h2 : 0 ≤ F2 ∧ 0 ≤ L2 := by exact ⟨Nat.le_refl _, Nat.le_refl _⟩) : CtI l yJ14_hugeLength cJ14_hugeLength 3 .int ({ frames := F2, cells := 0, slots := 0, locals := L2 }) G [.int (x0), .int (x1)] w0 (KPI w0 K) :=
  CtI.of RJ14 plainc_J14 rfl (Nat.le_of_ble_eq_true rfl) (fun E hE hl hG hn hR hK => bJ14_hugeLength_0 hE hn (hR.le h2.1 h2.2) (by rw [hG]; exact hc) hK hw)
def wJ14_newLength_21 (c : Nat → Option Nat) (x0 : Int32) (x1 : Int32) (w0 : GW) (K : Int32 → Prop) : Prop :=
  wJ14_hugeLength c x0 x1 w0 (fun r1 => K r1)
set_option maxRecDepth 100000 in
theorem bJ14_newLength_21 {E : jE} (hE : jOk E cJ14_newLength RJ14) (hn : E.2.2.2.2 = 4) (hR : jRoom E 1 60) {c : Nat → Option Nat} (hc : E.2.2.1.2.2.2 = c) {b : Nat × Nat} {w0 : GW} {K : Int32 → Prop} (hK : jRi E .int (KPI w0 K)) {x0 : Int32} {x1 : Int32}  (hw : wJ14_newLength_21 c x0 x1 w0 K) : J E w0 b [(0, .int (x0)), (1, .int (x1))] 21 [] := by
  unfold wJ14_newLength_21 at hw
  refine j_iload_n hE 0 dJ14_newLength_21 rfl rfl ?_
  refine j_iload_n hE 1 dJ14_newLength_22 rfl rfl ?_
  refine jc_ip (jr_S hE hR (As := [.int (x0), .int (x1)]) (rest := []) ((ctJ14_hugeLength E.1.2.1 E.2.2.1 hc _ _ _ _ hw) E.2.2.2.1) (lw_S q696 q697 q142 q698) jdJ14_hugeLength ⟨Nat.le_of_ble_eq_true rfl, Nat.le_of_ble_eq_true rfl⟩ ⟨Nat.zero_le _, Nat.zero_le _⟩  rfl (Nat.le_of_ble_eq_true rfl) dJ14_newLength_23) (fun r1 hw => ?_)
  refine j_b0 ?_
  exact j_iret hE hK dJ14_newLength_26 rfl ⟨rfl, hw⟩
def wJ14_newLength_0 (c : Nat → Option Nat) (x0 : Int32) (x1 : Int32) (x2 : Int32) (w0 : GW) (K : Int32 → Prop) : Prop :=
  ∀ v1 : Int32, v1 = x0 + ((if x1 < x2 then x2 else x1)) → ((v1 ≤ ((0 : Int32)) → (wJ14_newLength_21 c x0 x1 w0 K)) ∧ (¬ v1 ≤ ((0 : Int32)) → ((((2147483639 : Int32)) < v1 → (wJ14_newLength_21 c x0 x1 w0 K)) ∧ (¬ ((2147483639 : Int32)) < v1 → (K v1)))))
set_option maxRecDepth 100000 in
theorem bJ14_newLength_0 {E : jE} (hE : jOk E cJ14_newLength RJ14) (hn : E.2.2.2.2 = 4) (hR : jRoom E 1 60) {c : Nat → Option Nat} (hc : E.2.2.1.2.2.2 = c) {b : Nat × Nat} {w0 : GW} {K : Int32 → Prop} (hK : jRi E .int (KPI w0 K)) {x0 : Int32} {x1 : Int32} {x2 : Int32}  (hw : wJ14_newLength_0 c x0 x1 x2 w0 K) : J E w0 b [(0, .int (x0)), (1, .int (x1)), (2, .int (x2))] 0 [] := by
  unfold wJ14_newLength_0 at hw
  refine j_iload_n hE 0 dJ14_newLength_0 rfl rfl ?_
  refine j_iload_n hE 1 dJ14_newLength_1 rfl rfl ?_
  refine j_iload_n hE 2 dJ14_newLength_2 rfl rfl ?_
  refine j_mmax hE hR q694 (Nat.le_of_ble_eq_true rfl) (Nat.le_of_ble_eq_true rfl) dJ14_newLength_3 ?_
  refine j_iadd hE dJ14_newLength_6 ?_
  refine j_topi (fun v1 e_v1 => ?_)
  replace hw := hw v1 e_v1
  refine j_istore_n (L' := [(3, .int (v1)), (0, .int (x0)), (1, .int (x1)), (2, .int (x2))]) hE hn dJ14_newLength_7 rfl (Nat.le_of_ble_eq_true rfl) rfl ?_
  refine j_iconst hE dJ14_newLength_8 kc_0 ?_
  refine j_iload_n hE 0 dJ14_newLength_9 rfl rfl ?_
  refine j_icmp_ge hE 21 dJ14_newLength_10 (by decide) (fun c2 => ?_) (fun c2 => ?_)
  · replace hw := hw.1 c2
    refine j_sub [(0, .int (x0)), (1, .int (x1))] [1, 2] rfl ?_
    have hz := bJ14_newLength_21 (b := b) hE hn hR hc hK  hw
    exact hz
  · replace hw := hw.2 c2
    refine j_iload_n hE 0 dJ14_newLength_13 rfl rfl ?_
    refine j_ldc hE q695 dJ14_newLength_14 ?_
    refine j_icmp_gt hE 21 dJ14_newLength_16 (by decide) (fun c3 => ?_) (fun c3 => ?_)
    · replace hw := hw.1 c3
      refine j_sub [(0, .int (x0)), (1, .int (x1))] [1, 2] rfl ?_
      have hz := bJ14_newLength_21 (b := b) hE hn hR hc hK  hw
      exact hz
    · replace hw := hw.2 c3
      refine j_iload_n hE 0 dJ14_newLength_19 rfl rfl ?_
      exact j_iret hE hK dJ14_newLength_20 rfl ⟨rfl, hw⟩
theorem jdJ14_newLength : jD yJ14_newLength 3 := by decide +kernel
abbrev wJ14_newLength := wJ14_newLength_0
theorem ctJ14_newLength (l : Launch) (G : gG) {c : Nat → Option Nat} (hc : G.2.2.2 = c) (x0 : Int32) (x1 : Int32) (x2 : Int32) (w0 : GW) (K : Int32 → Prop) (hw : wJ14_newLength_0 c x0 x1 x2 w0 K) {F2 L2 : Nat} (h2 : 1 ≤ F2 ∧ 60 ≤ L2 := by exact ⟨Nat.le_refl _, Nat.le_refl _⟩) : CtI l yJ14_newLength cJ14_newLength 4 .int ({ frames := F2, cells := 0, slots := 0, locals := L2 }) G [.int (x0), .int (x1), .int (x2)] w0 (KPI w0 K) :=
  CtI.of RJ14 plainc_J14 rfl (Nat.le_of_ble_eq_true rfl) (fun E hE hl hG hn hR hK => bJ14_newLength_0 hE hn (hR.le h2.1 h2.2) (by rw [hG]; exact hc) hK hw)
def wJ12_newCapacity_0 (c : Nat → Option Nat) (x0 : Nat) (x1 : Int32) (w0 : GW) (K : Int32 → Prop) : Prop :=
  ∃ f1 : Option Nat, gfm w0 x0 [22] 0 = some (va_rf f1) ∧ (∃ a3 : Nat, f1 = some a3 ∧ (∃ n4 : Nat, galen w0 a3 1 = some n4 ∧ (∃ f8 : Int32, gfm w0 x0 [22] 1 = some (.int f8) ∧ (∀ v10 : Int32, v10 = ishl x1 f8 → (∀ v11 : Int32, v11 = v10 - (nI n4) → (∃ f12 : Int32, gfm w0 x0 [22] 1 = some (.int f12) ∧ (wJ14_newLength c (nI n4) v11 ((nI n4) + (ishl (nI 2) f12)) w0 (fun r14 => (¬ r14 = ((2147483647 : Int32)) → (∃ f16 : Int32, gfm w0 x0 [22] 1 = some (.int f16) ∧ (K (ishr r14 f16)))) ∧ (r14 = ((2147483647 : Int32)) → (False))))))))))
set_option maxRecDepth 100000 in
theorem bJ12_newCapacity_0 {E : jE} (hE : jOk E cJ12_newCapacity RJ12) (hn : E.2.2.2.2 = 6) (hR : jRoom E 2 83) {c : Nat → Option Nat} (hc : E.2.2.1.2.2.2 = c) {b : Nat × Nat} {w0 : GW} {K : Int32 → Prop} (hK : jRi E .int (KPI w0 K)) {x0 : Nat} {x1 : Int32}  (hw : wJ12_newCapacity_0 c x0 x1 w0 K) : J E w0 b [(0, .ref (x0)), (1, .int (x1))] 0 [] := by
  unfold wJ12_newCapacity_0 at hw
  refine j_aload_n hE 0 dJ12_newCapacity_0 rfl rfl ?_
  obtain ⟨f1, h2, hw⟩ := hw
  refine j_getM hE gf_java_lang_AbstractStringBuilder_value q663 h2 dJ12_newCapacity_1 ?_
  obtain ⟨a3, e9, hx⟩ := hw
  subst e9
  have hw := hx
  clear hx
  obtain ⟨n4, h6, hw⟩ := hw
  refine j_alen hE h6 (Nat.le_of_ble_eq_true rfl) dJ12_newCapacity_4 ?_
  refine j_istore_n (L' := [(2, .int (nI n4)), (0, .ref (x0)), (1, .int (x1))]) hE hn dJ12_newCapacity_5 rfl (Nat.le_of_ble_eq_true rfl) rfl ?_
  refine j_iload_n hE 2 dJ12_newCapacity_6 rfl rfl ?_
  refine j_aload_n hE 1 dJ12_newCapacity_7 rfl rfl ?_
  obtain ⟨f8, h9, hw⟩ := hw
  refine j_getM hE gf_java_lang_AbstractStringBuilder_coder q664 h9 dJ12_newCapacity_8 ?_
  refine j_ishl hE dJ12_newCapacity_11 ?_
  refine j_topi (fun v10 e_v10 => ?_)
  replace hw := hw v10 e_v10
  refine j_istore_n (L' := [(3, .int (v10)), (2, .int (nI n4)), (0, .ref (x0)), (1, .int (x1))]) hE hn dJ12_newCapacity_12 rfl (Nat.le_of_ble_eq_true rfl) rfl ?_
  refine j_iload_n hE 0 dJ12_newCapacity_13 rfl rfl ?_
  refine j_iload_n hE 1 dJ12_newCapacity_14 rfl rfl ?_
  refine j_isub hE dJ12_newCapacity_15 ?_
  refine j_topi (fun v11 e_v11 => ?_)
  replace hw := hw v11 e_v11
  refine j_istore (L' := [(4, .int (v11)), (3, .int (v10)), (2, .int (nI n4)), (0, .ref (x0)), (1, .int (x1))]) hE hn dJ12_newCapacity_16 (Nat.le_of_ble_eq_true rfl) rfl ?_
  refine j_iload_n hE 2 dJ12_newCapacity_18 rfl rfl ?_
  refine j_iload hE 0 dJ12_newCapacity_19 rfl ?_
  refine j_iload_n hE 2 dJ12_newCapacity_21 rfl rfl ?_
  refine j_iconst hE dJ12_newCapacity_22 kc_2 ?_
  refine j_aload_n hE 3 dJ12_newCapacity_23 rfl rfl ?_
  obtain ⟨f12, h13, hw⟩ := hw
  refine j_getM hE gf_java_lang_AbstractStringBuilder_coder q664 h13 dJ12_newCapacity_24 ?_
  refine j_ishl hE dJ12_newCapacity_27 ?_
  refine j_iadd hE dJ12_newCapacity_28 ?_
  refine jc_ip (jr_S hE hR (As := [.int (nI n4), .int (v11), .int ((nI n4) + (ishl (nI 2) f12))]) (rest := []) ((ctJ14_newLength E.1.2.1 E.2.2.1 hc _ _ _ _ _ hw) E.2.2.2.1) (lw_S q691 q692 q142 q693) jdJ14_newLength ⟨Nat.le_of_ble_eq_true rfl, Nat.le_of_ble_eq_true rfl⟩ ⟨Nat.zero_le _, Nat.zero_le _⟩  rfl (Nat.le_of_ble_eq_true rfl) dJ12_newCapacity_29) (fun r14 hw => ?_)
  refine j_b0 ?_
  refine j_istore (L' := [(5, .int (r14)), (4, .int (v11)), (3, .int (v10)), (2, .int (nI n4)), (0, .ref (x0)), (1, .int (x1))]) hE hn dJ12_newCapacity_32 (Nat.le_of_ble_eq_true rfl) rfl ?_
  refine j_iload hE 0 dJ12_newCapacity_34 rfl ?_
  refine j_ldc hE q699 dJ12_newCapacity_36 ?_
  refine j_icmp_ne hE 51 dJ12_newCapacity_38 (by decide) (fun c15 => ?_) (fun c15 => ?_)
  · replace hw := hw.1 c15
    refine j_iload hE 0 dJ12_newCapacity_51 rfl ?_
    refine j_aload_n hE 4 dJ12_newCapacity_53 rfl rfl ?_
    obtain ⟨f16, h17, hw⟩ := hw
    refine j_getM hE gf_java_lang_AbstractStringBuilder_coder q664 h17 dJ12_newCapacity_54 ?_
    refine j_ishr hE dJ12_newCapacity_57 ?_
    exact j_iret hE hK dJ12_newCapacity_58 rfl ⟨rfl, hw⟩
  · replace hw := hw.2 c15
    exact hw.elim
theorem jdJ12_newCapacity : jD yJ12_newCapacity 1 := by decide +kernel
abbrev wJ12_newCapacity := wJ12_newCapacity_0
theorem ctJ12_newCapacity (l : Launch) (G : gG) {c : Nat → Option Nat} (hc : G.2.2.2 = c) (x0 : Nat) (x1 : Int32) (w0 : GW) (K : Int32 → Prop) (hw : wJ12_newCapacity_0 c x0 x1 w0 K) {F2 L2 : Nat} (h2 : 2 ≤ F2 ∧ 83 ≤ L2 := by exact ⟨Nat.le_refl _, Nat.le_refl _⟩) : CtI l yJ12_newCapacity cJ12_newCapacity 6 .int ({ frames := F2, cells := 0, slots := 0, locals := L2 }) G [.ref (x0), .int (x1)] w0 (KPI w0 K) :=
  CtI.of RJ12 plainc_J12 rfl (Nat.le_of_ble_eq_true rfl) (fun E hE hl hG hn hR hK => bJ12_newCapacity_0 hE hn (hR.le h2.1 h2.2) (by rw [hG]; exact hc) hK hw)
def wJ15_copyOf_0 (c : Nat → Option Nat) (x0 : Nat) (x1 : Int32) (w : GW) (bb : Nat × Nat) (K : Option Nat → GW → Prop) : Prop :=
  ∃ n1 : Nat, galen w x0 1 = some n1 ∧ ((¬ x1 = (nI n1) → (¬ x1 < 0 ∧ (x1).toNatClampNeg * 1 ≤ 536870912 ∧ 1 ≤ bb.1 ∧ (x1).toNatClampNeg ≤ bb.2 ∧ ∀ qa11 : Nat, w qa11 = none → (∀ w12 : GW, w12 = gup w qa11 (.inl (1, (x1).toNatClampNeg, gZero 1)) → (∀ b13 : Nat × Nat, b13 = (bb.1 - 1, bb.2 - (x1).toNatClampNeg) → (∃ n14 : Nat, galen w12 x0 1 = some n14 ∧ (∃ (n26 : Nat) (f28 : Nat → Int32) (n27 : Nat) (f29 : Nat → Int32), w12 x0 = some (true, .inl (1, n26, .inl f28)) ∧ w12 qa11 = some (true, .inl (1, n27, .inl f29)) ∧ ¬ ((0 : Int32)) < 0 ∧ ¬ ((0 : Int32)) < 0 ∧ ¬ ((if x1 < (nI n14) then x1 else (nI n14))) < 0 ∧ ((0 : Int32)).toNatClampNeg + ((if x1 < (nI n14) then x1 else (nI n14))).toNatClampNeg ≤ n26 ∧ ((0 : Int32)).toNatClampNeg + ((if x1 < (nI n14) then x1 else (nI n14))).toNatClampNeg ≤ n27 ∧ (∀ i : Nat, i < ((if x1 < (nI n14) then x1 else (nI n14))).toNatClampNeg → fits .byte (.int (f28 (((0 : Int32)).toNatClampNeg + i))) = true) ∧ (∀ w30 : GW, w30 = gup w12 qa11 (.inl (1, n27, .inl (va_cpy f28 f29 ((0 : Int32)).toNatClampNeg ((0 : Int32)).toNatClampNeg ((if x1 < (nI n14) then x1 else (nI n14))).toNatClampNeg))) → (K (some qa11) w30)))))))) ∧ (x1 = (nI n1) → (∃ (n31 : Nat) (f32 : Nat → Int32), w x0 = some (true, .inl (1, n31, .inl f32)) ∧ (∀ i : Nat, i < n31 → fits .byte (.int (f32 i)) = true) ∧ 1 ≤ bb.1 ∧ n31 ≤ bb.2 ∧ ∀ qa38 : Nat, w qa38 = none → (∀ w39 : GW, w39 = gup w qa38 (.inl (1, n31, .inl f32)) → (∀ b40 : Nat × Nat, b40 = (bb.1 - 1, bb.2 - n31) → (∃ (n41 : Nat) (x42 : _), w39 qa38 = some (true, .inl (1, n41, x42)) ∧ (K (some qa38) w39)))))))
set_option maxRecDepth 100000 in
theorem bJ15_copyOf_0 {E : jE} (hE : jOk E cJ15_copyOf RJ15) (hn : E.2.2.2.2 = 3) (hR : jRoom E 1 60) {c : Nat → Option Nat} (hc : E.2.2.1.2.2.2 = c) {K : Option Nat → GW → Prop} (hK : jRq E (.array .byte) (K)) {x0 : Nat} {x1 : Int32} {w : GW} {bb : Nat × Nat}  (hw : wJ15_copyOf_0 c x0 x1 w bb K) : J E w bb [(0, .ref (x0)), (1, .int (x1))] 0 [] := by
  unfold wJ15_copyOf_0 at hw
  refine j_iload_n hE 1 dJ15_copyOf_0 rfl rfl ?_
  refine j_aload_n hE 0 dJ15_copyOf_1 rfl rfl ?_
  obtain ⟨n1, h3, hw⟩ := hw
  refine j_alen hE h3 (Nat.le_of_ble_eq_true rfl) dJ15_copyOf_2 ?_
  refine j_icmp_ne hE 14 dJ15_copyOf_3 (by decide) (fun c5 => ?_) (fun c5 => ?_)
  · replace hw := hw.1 c5
    refine j_iload_n hE 1 dJ15_copyOf_14 rfl rfl ?_
    obtain ⟨h6, h7, h8, h9, hw⟩ := hw
    refine j_newarr hE (atype := .byte) (t := 1) (by decide) rfl q203 h6 h7 ⟨h8, h9⟩ dJ15_copyOf_15 (fun qa11 h10 => ?_)
    replace hw := hw qa11 h10
    refine j_nw (fun w12 e_w12 => ?_)
    replace hw := hw w12 e_w12
    refine j_nb (fun b13 e_b13 => ?_)
    replace hw := hw b13 e_b13
    refine j_astore_n (L' := [(2, .ref (qa11)), (0, .ref (x0)), (1, .int (x1))]) hE hn dJ15_copyOf_17 rfl (Nat.le_of_ble_eq_true rfl) rfl ?_
    refine j_aload_n hE 1 dJ15_copyOf_18 rfl rfl ?_
    refine j_iconst hE dJ15_copyOf_19 kc_0 ?_
    refine j_aload_n hE 0 dJ15_copyOf_20 rfl rfl ?_
    refine j_iconst hE dJ15_copyOf_21 kc_0 ?_
    refine j_aload_n hE 1 dJ15_copyOf_22 rfl rfl ?_
    obtain ⟨n14, h16, hw⟩ := hw
    refine j_alen hE h16 (Nat.le_of_ble_eq_true rfl) dJ15_copyOf_23 ?_
    refine j_iload_n hE 2 dJ15_copyOf_24 rfl rfl ?_
    refine j_mmin hE hR q710 (Nat.le_of_ble_eq_true rfl) (Nat.le_of_ble_eq_true rfl) dJ15_copyOf_25 ?_
    obtain ⟨n26, f28, n27, f29, h18, h19, h20, h21, h22, h23, h24, h25, hw⟩ := hw
    refine j_acpB hE hR q711 q713 q712 q144 h18 h19 h20 h21 h22 h23 h24 h25 (Nat.le_of_ble_eq_true rfl) (Nat.le_of_ble_eq_true rfl) dJ15_copyOf_28 ?_
    refine j_nw (fun w30 e_w30 => ?_)
    replace hw := hw w30 e_w30
    refine j_aload_n hE 0 dJ15_copyOf_31 rfl rfl ?_
    exact j_qret hE hK (r := some qa11) dJ15_copyOf_32 (by first | exact Or.inl ⟨_, rfl⟩ | exact Or.inr ⟨_, rfl⟩) hw
  · replace hw := hw.2 c5
    refine j_aload_n hE 0 dJ15_copyOf_6 rfl rfl ?_
    obtain ⟨n31, f32, h33, h34, h35, h36, hw⟩ := hw
    refine j_cloneB hE hR q703 q704 q705 q706 q707 q708 h33 h34 (Nat.le_of_ble_eq_true rfl) (Nat.le_of_ble_eq_true rfl) ⟨h35, h36⟩ dJ15_copyOf_7 (fun qa38 h37 => ?_)
    replace hw := hw qa38 h37
    refine j_nw (fun w39 e_w39 => ?_)
    replace hw := hw w39 e_w39
    refine j_nb (fun b40 e_b40 => ?_)
    replace hw := hw b40 e_b40
    obtain ⟨n41, x42, h43, hw⟩ := hw
    refine j_castA hE q709 h43 (by first | exact Or.inl ⟨rfl, rfl⟩ | exact Or.inr ⟨rfl, rfl⟩) dJ15_copyOf_10 ?_
    exact j_qret hE hK (r := some qa38) dJ15_copyOf_13 (by first | exact Or.inl ⟨_, rfl⟩ | exact Or.inr ⟨_, rfl⟩) hw
theorem jdJ15_copyOf : jD yJ15_copyOf 2 := by decide +kernel
abbrev wJ15_copyOf := wJ15_copyOf_0
theorem ctJ15_copyOf (l : Launch) (G : gG) {c : Nat → Option Nat} (hc : G.2.2.2 = c) (x0 : Nat) (x1 : Int32) (w : GW) (bb : Nat × Nat) (K : Option Nat → GW → Prop) (hw : wJ15_copyOf_0 c x0 x1 w bb K) {F2 L2 : Nat} (h2 : 1 ≤ F2 ∧ 60 ≤ L2 := by exact ⟨Nat.le_refl _, Nat.le_refl _⟩) : CtQ l yJ15_copyOf cJ15_copyOf 3 (.array .byte) ({ frames := F2, cells := bb.1, slots := bb.2, locals := L2 }) G [.ref (x0), .int (x1)] w (K) :=
  CtQ.of RJ15 plainc_J15 rfl (Nat.le_of_ble_eq_true rfl) (fun E hE hl hG hn hR hK => bJ15_copyOf_0 hE hn (hR.le h2.1 h2.2) (by rw [hG]; exact hc) hK hw)
def wJ12_ensureCapacityInternal_0 (c : Nat → Option Nat) (x0 : Nat) (x1 : Int32) (w : GW) (bb : Nat × Nat) (K : GW → Prop) : Prop :=
  ∃ f1 : Option Nat, gfm w x0 [22] 0 = some (va_rf f1) ∧ (∃ a3 : Nat, f1 = some a3 ∧ (∃ n4 : Nat, galen w a3 1 = some n4 ∧ (∃ f8 : Int32, gfm w x0 [22] 1 = some (.int f8) ∧ (∀ v10 : Int32, v10 = ishr (nI n4) f8 → (((x1 - v10) ≤ 0 → (K w)) ∧ (¬ (x1 - v10) ≤ 0 → (∃ f12 : Option Nat, gfm w x0 [22] 0 = some (va_rf f12) ∧ (gmc w x0 = some 22 ∧ (wJ12_newCapacity c x0 x1 w (fun r14 => ∃ f16 : Int32, gfm w x0 [22] 1 = some (.int f16) ∧ (∃ a18 : Nat, f12 = some a18 ∧ (∃ cb20 : Nat × Nat, (cb20.1 ≤ bb.1 ∧ cb20.2 ≤ bb.2) ∧ (wJ15_copyOf c a18 (ishl r14 f16) w cb20 (fun r19 w22 => ∀ b23 : Nat × Nat, b23 = (bb.1 - cb20.1, bb.2 - cb20.2) → (∃ (n24 : Nat) (fs25 : List Value), w22 x0 = some (true, .inr (n24, fs25)) ∧ n24 ∈ ([22] : List Nat) ∧ 0 < fs25.length ∧ (∀ w29 : GW, w29 = gup w22 x0 (.inr (n24, fs25.set 0 (va_rf r19))) → (K w29)))))))))))))))))
set_option maxRecDepth 100000 in
theorem bJ12_ensureCapacityInternal_0 {E : jE} (hE : jOk E cJ12_ensureCapacityInternal RJ12) (hn : E.2.2.2.2 = 3) (hR : jRoom E 3 108) {c : Nat → Option Nat} (hc : E.2.2.1.2.2.2 = c) {K : GW → Prop} (hK : jRv E (K)) {x0 : Nat} {x1 : Int32} {w : GW} {bb : Nat × Nat}  (hw : wJ12_ensureCapacityInternal_0 c x0 x1 w bb K) : J E w bb [(0, .ref (x0)), (1, .int (x1))] 0 [] := by
  unfold wJ12_ensureCapacityInternal_0 at hw
  refine j_aload_n hE 0 dJ12_ensureCapacityInternal_0 rfl rfl ?_
  obtain ⟨f1, h2, hw⟩ := hw
  refine j_getM hE gf_java_lang_AbstractStringBuilder_value q663 h2 dJ12_ensureCapacityInternal_1 ?_
  obtain ⟨a3, e9, hx⟩ := hw
  subst e9
  have hw := hx
  clear hx
  obtain ⟨n4, h6, hw⟩ := hw
  refine j_alen hE h6 (Nat.le_of_ble_eq_true rfl) dJ12_ensureCapacityInternal_4 ?_
  refine j_aload_n hE 0 dJ12_ensureCapacityInternal_5 rfl rfl ?_
  obtain ⟨f8, h9, hw⟩ := hw
  refine j_getM hE gf_java_lang_AbstractStringBuilder_coder q664 h9 dJ12_ensureCapacityInternal_6 ?_
  refine j_ishr hE dJ12_ensureCapacityInternal_9 ?_
  refine j_topi (fun v10 e_v10 => ?_)
  replace hw := hw v10 e_v10
  refine j_istore_n (L' := [(2, .int (v10)), (0, .ref (x0)), (1, .int (x1))]) hE hn dJ12_ensureCapacityInternal_10 rfl (Nat.le_of_ble_eq_true rfl) rfl ?_
  refine j_iload_n hE 2 dJ12_ensureCapacityInternal_11 rfl rfl ?_
  refine j_iload_n hE 0 dJ12_ensureCapacityInternal_12 rfl rfl ?_
  refine j_isub hE dJ12_ensureCapacityInternal_13 ?_
  refine j_if_le hE 38 dJ12_ensureCapacityInternal_14 (by decide) (fun c11 => ?_) (fun c11 => ?_)
  · replace hw := hw.1 c11
    exact j_vret hE hK dJ12_ensureCapacityInternal_38 hw
  · replace hw := hw.2 c11
    refine j_aload_n hE 1 dJ12_ensureCapacityInternal_17 rfl rfl ?_
    refine j_aload_n hE 1 dJ12_ensureCapacityInternal_18 rfl rfl ?_
    obtain ⟨f12, h13, hw⟩ := hw
    refine j_getM hE gf_java_lang_AbstractStringBuilder_value q663 h13 dJ12_ensureCapacityInternal_19 ?_
    refine j_aload_n hE 1 dJ12_ensureCapacityInternal_22 rfl rfl ?_
    refine j_iload_n hE 2 dJ12_ensureCapacityInternal_23 rfl rfl ?_
    obtain ⟨h15, hw⟩ := hw
    refine jc_ip (jr_X hE hR (As := [.int (x1)]) (rest := [va_rf (f12), .ref (x0)]) ((ctJ12_newCapacity E.1.2.1 E.2.2.1 hc _ _ _ _ hw) E.2.2.2.1) (lw_meth q690) q140 q687 q2186 (C := "java/lang/StringBuilder") (by simp [gXW]) q689 jdJ12_newCapacity ⟨Nat.le_of_ble_eq_true rfl, Nat.le_of_ble_eq_true rfl⟩ ⟨Nat.zero_le _, Nat.zero_le _⟩ (gmc_gIs h15 (r := (RJ13, TJ13, 4)) rfl) rfl (by cases f12 <;> exact Nat.le_of_ble_eq_true rfl) dJ12_ensureCapacityInternal_24) (fun r14 hw => ?_)
    refine j_b0 ?_
    refine j_aload_n hE 1 dJ12_ensureCapacityInternal_27 rfl rfl ?_
    obtain ⟨f16, h17, hw⟩ := hw
    refine j_getM hE gf_java_lang_AbstractStringBuilder_coder q664 h17 dJ12_ensureCapacityInternal_28 ?_
    refine j_ishl hE dJ12_ensureCapacityInternal_31 ?_
    obtain ⟨a18, e9, hx⟩ := hw
    subst e9
    have hw := hx
    clear hx
    obtain ⟨cb20, h21, hw⟩ := hw
    refine jc_q (jr_S hE hR (As := [.ref (a18), .int (ishl r14 f16)]) (rest := [.ref (x0)]) ((ctJ15_copyOf E.1.2.1 E.2.2.1 hc _ _ _ _ _ hw) E.2.2.2.1) (lw_S q700 q701 q143 q702) jdJ15_copyOf ⟨Nat.le_of_ble_eq_true rfl, Nat.le_of_ble_eq_true rfl⟩ h21  rfl (Nat.le_of_ble_eq_true rfl) dJ12_ensureCapacityInternal_32) (fun r19 w22 hw => ?_)
    refine j_nb (fun b23 e_b23 => ?_)
    replace hw := hw b23 e_b23
    obtain ⟨n24, fs25, h26, h27, h28, hw⟩ := hw
    refine j_putX hE h27 gw_java_lang_AbstractStringBuilder_value_J12 q663 h26 (va_rf_nar _ _ (by decide)) (va_rf_fit _ _ (by decide)) h28 dJ12_ensureCapacityInternal_35 ?_
    refine j_nw (fun w29 e_w29 => ?_)
    replace hw := hw w29 e_w29
    exact j_vret hE hK dJ12_ensureCapacityInternal_38 hw
theorem jdJ12_ensureCapacityInternal : jD yJ12_ensureCapacityInternal 1 := by decide +kernel
abbrev wJ12_ensureCapacityInternal := wJ12_ensureCapacityInternal_0
theorem ctJ12_ensureCapacityInternal (l : Launch) (G : gG) {c : Nat → Option Nat} (hc : G.2.2.2 = c) (x0 : Nat) (x1 : Int32) (w : GW) (bb : Nat × Nat) (K : GW → Prop) (hw : wJ12_ensureCapacityInternal_0 c x0 x1 w bb K) {F2 L2 : Nat} (h2 : 3 ≤ F2 ∧ 108 ≤ L2 := by exact ⟨Nat.le_refl _, Nat.le_refl _⟩) : CtV l yJ12_ensureCapacityInternal cJ12_ensureCapacityInternal 3 ({ frames := F2, cells := bb.1, slots := bb.2, locals := L2 }) G [.ref (x0), .int (x1)] w (K) :=
  CtV.of RJ12 plainc_J12 rfl (Nat.le_of_ble_eq_true rfl) (fun E hE hl hG hn hR hK => bJ12_ensureCapacityInternal_0 hE hn (hR.le h2.1 h2.2) (by rw [hG]; exact hc) hK hw)
def wJ12_isLatin1_0 (c : Nat → Option Nat) (x0 : Nat) (w0 : GW) (K : Int32 → Prop) : Prop :=
  (((1 : Int32)) = 0 → (K ((0 : Int32)))) ∧ (¬ ((1 : Int32)) = 0 → (∃ f2 : Int32, gfm w0 x0 [22] 1 = some (.int f2) ∧ ((¬ f2 = 0 → (K ((0 : Int32)))) ∧ (f2 = 0 → (K ((1 : Int32)))))))
set_option maxRecDepth 100000 in
theorem bJ12_isLatin1_0 {E : jE} (hE : jOk E cJ12_isLatin1 RJ12) (hn : E.2.2.2.2 = 1) (hR : jRoom E 0 0) {c : Nat → Option Nat} (hc : E.2.2.1.2.2.2 = c) {b : Nat × Nat} {w0 : GW} {K : Int32 → Prop} (hK : jRi E .boolean (KPI w0 K)) {x0 : Nat}  (hw : wJ12_isLatin1_0 c x0 w0 K) : J E w0 b [(0, .ref (x0))] 0 [] := by
  unfold wJ12_isLatin1_0 at hw
  refine j_gets (v := .int 1) hE q655 hE.inv.2.2.2.1.1 dJ12_isLatin1_0 ?_
  refine j_if_eq hE 17 dJ12_isLatin1_3 (by decide) (fun c1 => ?_) (fun c1 => ?_)
  · replace hw := hw.1 c1
    refine j_iconst hE dJ12_isLatin1_17 kc_0 ?_
    exact j_iret hE hK dJ12_isLatin1_18 rfl ⟨rfl, hw⟩
  · replace hw := hw.2 c1
    refine j_aload_n hE 0 dJ12_isLatin1_6 rfl rfl ?_
    obtain ⟨f2, h3, hw⟩ := hw
    refine j_getM hE gf_java_lang_AbstractStringBuilder_coder q664 h3 dJ12_isLatin1_7 ?_
    refine j_if_ne hE 17 dJ12_isLatin1_10 (by decide) (fun c4 => ?_) (fun c4 => ?_)
    · replace hw := hw.1 c4
      refine j_iconst hE dJ12_isLatin1_17 kc_0 ?_
      exact j_iret hE hK dJ12_isLatin1_18 rfl ⟨rfl, hw⟩
    · replace hw := hw.2 c4
      refine j_iconst hE dJ12_isLatin1_13 kc_1 ?_
      refine j_goto hE 18 dJ12_isLatin1_14 (by decide) ?_
      exact j_iret hE hK dJ12_isLatin1_18 rfl ⟨rfl, hw⟩
theorem jdJ12_isLatin1 : jD yJ12_isLatin1 0 := by decide +kernel
abbrev wJ12_isLatin1 := wJ12_isLatin1_0
theorem ctJ12_isLatin1 (l : Launch) (G : gG) {c : Nat → Option Nat} (hc : G.2.2.2 = c) (x0 : Nat) (w0 : GW) (K : Int32 → Prop) (hw : wJ12_isLatin1_0 c x0 w0 K) {F2 L2 : Nat} (h2 : 0 ≤ F2 ∧ 0 ≤ L2 := by exact ⟨Nat.le_refl _, Nat.le_refl _⟩) : CtI l yJ12_isLatin1 cJ12_isLatin1 1 .boolean ({ frames := F2, cells := 0, slots := 0, locals := L2 }) G [.ref (x0)] w0 (KPI w0 K) :=
  CtI.of RJ12 plainc_J12 rfl (Nat.le_of_ble_eq_true rfl) (fun E hE hl hG hn hR hK => bJ12_isLatin1_0 hE hn (hR.le h2.1 h2.2) (by rw [hG]; exact hc) hK hw)
def wJ4_canEncode_2_0 (c : Nat → Option Nat) (x0 : Int32) (w0 : GW) (K : Int32 → Prop) : Prop :=
  ((nI 255) < x0 → (K ((0 : Int32)))) ∧ (¬ (nI 255) < x0 → (K ((1 : Int32))))
set_option maxRecDepth 100000 in
theorem bJ4_canEncode_2_0 {E : jE} (hE : jOk E cJ4_canEncode_2 RJ4) (hn : E.2.2.2.2 = 1) (hR : jRoom E 0 0) {c : Nat → Option Nat} (hc : E.2.2.1.2.2.2 = c) {b : Nat × Nat} {w0 : GW} {K : Int32 → Prop} (hK : jRi E .boolean (KPI w0 K)) {x0 : Int32}  (hw : wJ4_canEncode_2_0 c x0 w0 K) : J E w0 b [(0, .int (x0))] 0 [] := by
  unfold wJ4_canEncode_2_0 at hw
  refine j_iload_n hE 0 dJ4_canEncode_2_0 rfl rfl ?_
  refine j_sipush hE dJ4_canEncode_2_1 ks_255 ?_
  refine j_icmp_gt hE 11 dJ4_canEncode_2_4 (by decide) (fun c1 => ?_) (fun c1 => ?_)
  · replace hw := hw.1 c1
    refine j_iconst hE dJ4_canEncode_2_11 kc_0 ?_
    exact j_iret hE hK dJ4_canEncode_2_12 rfl ⟨rfl, hw⟩
  · replace hw := hw.2 c1
    refine j_iconst hE dJ4_canEncode_2_7 kc_1 ?_
    refine j_goto hE 12 dJ4_canEncode_2_8 (by decide) ?_
    exact j_iret hE hK dJ4_canEncode_2_12 rfl ⟨rfl, hw⟩
theorem jdJ4_canEncode_2 : jD yJ4_canEncode_2 1 := by decide +kernel
abbrev wJ4_canEncode_2 := wJ4_canEncode_2_0
theorem ctJ4_canEncode_2 (l : Launch) (G : gG) {c : Nat → Option Nat} (hc : G.2.2.2 = c) (x0 : Int32) (w0 : GW) (K : Int32 → Prop) (hw : wJ4_canEncode_2_0 c x0 w0 K) {F2 L2 : Nat} (h2 : 0 ≤ F2 ∧ 0 ≤ L2 := by exact ⟨Nat.le_refl _, Nat.le_refl _⟩) : CtI l yJ4_canEncode_2 cJ4_canEncode_2 1 .boolean ({ frames := F2, cells := 0, slots := 0, locals := L2 }) G [.int (x0)] w0 (KPI w0 K) :=
  CtI.of RJ4 plainc_J4 rfl (Nat.le_of_ble_eq_true rfl) (fun E hE hl hG hn hR hK => bJ4_canEncode_2_0 hE hn (hR.le h2.1 h2.2) (by rw [hG]; exact hc) hK hw)
def wJ4_inflate_0 (c : Nat → Option Nat) (x0 : Nat) (x1 : Int32) (x2 : Nat) (x3 : Int32) (x4 : Int32) (w0 : GW) (K : Prop) : Prop :=
  False
set_option maxRecDepth 100000 in
theorem bJ4_inflate_0 {E : jE} (hE : jOk E cJ4_inflate RJ4) (hn : E.2.2.2.2 = 5) (hR : jRoom E 0 0) {c : Nat → Option Nat} (hc : E.2.2.1.2.2.2 = c) {b : Nat × Nat} {w0 : GW} {K : Prop} (hK : jRv E (KPV w0 K)) {x0 : Nat} {x1 : Int32} {x2 : Nat} {x3 : Int32} {x4 : Int32}  (hw : wJ4_inflate_0 c x0 x1 x2 x3 x4 w0 K) : J E w0 b [(0, .ref (x0)), (1, .int (x1)), (2, .ref (x2)), (3, .int (x3)), (4, .int (x4))] 0 [] := by
  unfold wJ4_inflate_0 at hw
  refine j_aload_n hE 0 dJ4_inflate_0 rfl rfl ?_
  refine j_iload_n hE 1 dJ4_inflate_1 rfl rfl ?_
  refine j_aload_n hE 2 dJ4_inflate_2 rfl rfl ?_
  refine j_iload_n hE 3 dJ4_inflate_3 rfl rfl ?_
  refine j_iload hE 4 dJ4_inflate_4 rfl ?_
  exact hw.elim
theorem jdJ4_inflate : jD yJ4_inflate 5 := by decide +kernel
abbrev wJ4_inflate := wJ4_inflate_0
theorem ctJ4_inflate (l : Launch) (G : gG) {c : Nat → Option Nat} (hc : G.2.2.2 = c) (x0 : Nat) (x1 : Int32) (x2 : Nat) (x3 : Int32) (x4 : Int32) (w0 : GW) (K : Prop) (hw : wJ4_inflate_0 c x0 x1 x2 x3 x4 w0 K) {F2 L2 : Nat} (h2 : 0 ≤ F2 ∧ 0 ≤ L2 := by exact ⟨Nat.le_refl _, Nat.le_refl _⟩) : CtV l yJ4_inflate cJ4_inflate 5 ({ frames := F2, cells := 0, slots := 0, locals := L2 }) G [.ref (x0), .int (x1), .ref (x2), .int (x3), .int (x4)] w0 (KPV w0 K) :=
  CtV.of RJ4 plainc_J4 rfl (Nat.le_of_ble_eq_true rfl) (fun E hE hl hG hn hR hK => bJ4_inflate_0 hE hn (hR.le h2.1 h2.2) (by rw [hG]; exact hc) hK hw)
def wJ12_inflate_0 (c : Nat → Option Nat) (x0 : Nat) (w : GW) (K : GW → Prop) : Prop :=
  gmc w x0 = some 22 ∧ (wJ12_isLatin1 c x0 w (fun r1 => (¬ r1 = 0 → (∃ f4 : Option Nat, gfm w x0 [22] 0 = some (va_rf f4) ∧ (∃ a6 : Nat, f4 = some a6 ∧ (∃ n7 : Nat, galen w a6 1 = some n7 ∧ (False))))) ∧ (r1 = 0 → (K w))))
set_option maxRecDepth 100000 in
theorem bJ12_inflate_0 {E : jE} (hE : jOk E cJ12_inflate RJ12) (hn : E.2.2.2.2 = 2) (hR : jRoom E 1 24) {c : Nat → Option Nat} (hc : E.2.2.1.2.2.2 = c) {b : Nat × Nat} {K : GW → Prop} (hK : jRv E (K)) {x0 : Nat} {w : GW}  (hw : wJ12_inflate_0 c x0 w K) : J E w b [(0, .ref (x0))] 0 [] := by
  unfold wJ12_inflate_0 at hw
  refine j_aload_n hE 0 dJ12_inflate_0 rfl rfl ?_
  obtain ⟨h2, hw⟩ := hw
  refine jc_ip (jr_U hE hR (As := []) (rest := []) ((ctJ12_isLatin1 E.1.2.1 E.2.2.1 hc _ _ _ hw) E.2.2.2.1) (lw_U (C := "java/lang/StringBuilder") (owner := "java/lang/AbstractStringBuilder") q714 q716 q717 q715 q140 q718) rfl ⟨by decide, by decide, jdJ12_isLatin1.2.2⟩ ⟨Nat.le_of_ble_eq_true rfl, Nat.le_of_ble_eq_true rfl⟩ ⟨Nat.zero_le _, Nat.zero_le _⟩ (gmc_gIs h2 (r := (RJ13, TJ13, 4)) rfl) rfl (Nat.le_of_ble_eq_true rfl) dJ12_inflate_1) (fun r1 hw => ?_)
  refine j_b0 ?_
  refine j_if_ne hE 8 dJ12_inflate_4 (by decide) (fun c3 => ?_) (fun c3 => ?_)
  · replace hw := hw.1 c3
    refine j_aload_n hE 0 dJ12_inflate_8 rfl rfl ?_
    obtain ⟨f4, h5, hw⟩ := hw
    refine j_getM hE gf_java_lang_AbstractStringBuilder_value q663 h5 dJ12_inflate_9 ?_
    obtain ⟨a6, e9, hx⟩ := hw
    subst e9
    have hw := hx
    clear hx
    obtain ⟨n7, h9, hw⟩ := hw
    refine j_alen hE h9 (Nat.le_of_ble_eq_true rfl) dJ12_inflate_12 ?_
    exact hw.elim
  · replace hw := hw.2 c3
    exact j_vret hE hK dJ12_inflate_7 hw
theorem jdJ12_inflate : jD yJ12_inflate 0 := by decide +kernel
abbrev wJ12_inflate := wJ12_inflate_0
theorem ctJ12_inflate (l : Launch) (G : gG) {c : Nat → Option Nat} (hc : G.2.2.2 = c) (x0 : Nat) (w : GW) (K : GW → Prop) (hw : wJ12_inflate_0 c x0 w K) {F2 L2 : Nat} (h2 : 1 ≤ F2 ∧ 24 ≤ L2 := by exact ⟨Nat.le_refl _, Nat.le_refl _⟩) : CtV l yJ12_inflate cJ12_inflate 2 ({ frames := F2, cells := 0, slots := 0, locals := L2 }) G [.ref (x0)] w (K) :=
  CtV.of RJ12 plainc_J12 rfl (Nat.le_of_ble_eq_true rfl) (fun E hE hl hG hn hR hK => bJ12_inflate_0 hE hn (hR.le h2.1 h2.2) (by rw [hG]; exact hc) hK hw)
def wJ12_append_56 (c : Nat → Option Nat) (x0 : Nat) (x1 : Int32) (w : GW) (bb : Nat × Nat) (K : Option Nat → GW → Prop) : Prop :=
  ∃ f1 : Option Nat, gfm w x0 [22] 0 = some (va_rf f1) ∧ (∃ f3 : Int32, gfm w x0 [22] 3 = some (.int f3) ∧ (∃ (n5 : Nat) (fs6 : List Value), w x0 = some (true, .inr (n5, fs6)) ∧ n5 ∈ ([22] : List Nat) ∧ 3 < fs6.length ∧ (∀ w10 : GW, w10 = gup w x0 (.inr (n5, fs6.set 3 (.int (f3 + ((1 : Int32)))))) → (False))))
set_option maxRecDepth 100000 in
theorem bJ12_append_56 {E : jE} (hE : jOk E cJ12_append RJ12) (hn : E.2.2.2.2 = 2) (hR : jRoom E 4 130) {c : Nat → Option Nat} (hc : E.2.2.1.2.2.2 = c) {K : Option Nat → GW → Prop} (hK : jRq E (.object "java/lang/AbstractStringBuilder") (K)) {x0 : Nat} {x1 : Int32} {w : GW} {bb : Nat × Nat}  (hw : wJ12_append_56 c x0 x1 w bb K) : J E w bb [(0, .ref (x0)), (1, .int (x1))] 56 [] := by
  unfold wJ12_append_56 at hw
  refine j_aload_n hE 0 dJ12_append_56 rfl rfl ?_
  obtain ⟨f1, h2, hw⟩ := hw
  refine j_getM hE gf_java_lang_AbstractStringBuilder_value q663 h2 dJ12_append_57 ?_
  refine j_aload_n hE 0 dJ12_append_60 rfl rfl ?_
  refine j_dup hE dJ12_append_61 rfl ?_
  obtain ⟨f3, h4, hw⟩ := hw
  refine j_getM hE gf_java_lang_AbstractStringBuilder_count q666 h4 dJ12_append_62 ?_
  refine j_dup_x1 hE dJ12_append_65 rfl rfl ?_
  refine j_iconst hE dJ12_append_66 kc_1 ?_
  refine j_iadd hE dJ12_append_67 ?_
  obtain ⟨n5, fs6, h7, h8, h9, hw⟩ := hw
  refine j_putX hE h8 gw_java_lang_AbstractStringBuilder_count_J12 q666 h7 rfl rfl h9 dJ12_append_68 ?_
  refine j_nw (fun w10 e_w10 => ?_)
  replace hw := hw w10 e_w10
  refine j_iload_n hE 1 dJ12_append_71 rfl rfl ?_
  exact hw.elim
def wJ12_append_45 (c : Nat → Option Nat) (x0 : Nat) (x1 : Int32) (w : GW) (bb : Nat × Nat) (K : Option Nat → GW → Prop) : Prop :=
  gmc w x0 = some 22 ∧ (wJ12_isLatin1 c x0 w (fun r1 => (r1 = 0 → (wJ12_append_56 c x0 x1 w bb K)) ∧ (¬ r1 = 0 → (gmc w x0 = some 22 ∧ (wJ12_inflate c x0 w (fun w5 => wJ12_append_56 c x0 x1 w5 bb K))))))
set_option maxRecDepth 100000 in
theorem bJ12_append_45 {E : jE} (hE : jOk E cJ12_append RJ12) (hn : E.2.2.2.2 = 2) (hR : jRoom E 4 130) {c : Nat → Option Nat} (hc : E.2.2.1.2.2.2 = c) {K : Option Nat → GW → Prop} (hK : jRq E (.object "java/lang/AbstractStringBuilder") (K)) {x0 : Nat} {x1 : Int32} {w : GW} {bb : Nat × Nat}  (hw : wJ12_append_45 c x0 x1 w bb K) : J E w bb [(0, .ref (x0)), (1, .int (x1))] 45 [] := by
  unfold wJ12_append_45 at hw
  refine j_aload_n hE 0 dJ12_append_45 rfl rfl ?_
  obtain ⟨h2, hw⟩ := hw
  refine jc_ip (jr_U hE hR (As := []) (rest := []) ((ctJ12_isLatin1 E.1.2.1 E.2.2.1 hc _ _ _ hw) E.2.2.2.1) (lw_U (C := "java/lang/StringBuilder") (owner := "java/lang/AbstractStringBuilder") q714 q716 q717 q715 q140 q718) rfl ⟨by decide, by decide, jdJ12_isLatin1.2.2⟩ ⟨Nat.le_of_ble_eq_true rfl, Nat.le_of_ble_eq_true rfl⟩ ⟨Nat.zero_le _, Nat.zero_le _⟩ (gmc_gIs h2 (r := (RJ13, TJ13, 4)) rfl) rfl (Nat.le_of_ble_eq_true rfl) dJ12_append_46) (fun r1 hw => ?_)
  refine j_b0 ?_
  refine j_if_eq hE 56 dJ12_append_49 (by decide) (fun c3 => ?_) (fun c3 => ?_)
  · replace hw := hw.1 c3
    have hz := bJ12_append_56 hE hn hR hc hK  hw
    exact hz
  · replace hw := hw.2 c3
    refine j_aload_n hE 0 dJ12_append_52 rfl rfl ?_
    obtain ⟨h4, hw⟩ := hw
    refine jc_v (jr_X hE hR (As := []) (rest := []) ((ctJ12_inflate E.1.2.1 E.2.2.1 hc _ _ _ hw) E.2.2.2.1) (lw_meth q725) q140 q722 q2187 (C := "java/lang/StringBuilder") (by simp [gXW]) q724 jdJ12_inflate ⟨Nat.le_of_ble_eq_true rfl, Nat.le_of_ble_eq_true rfl⟩ ⟨Nat.zero_le _, Nat.zero_le _⟩ (gmc_gIs h4 (r := (RJ13, TJ13, 4)) rfl) rfl (Nat.le_of_ble_eq_true rfl) dJ12_append_53) (fun w5 hw => ?_)
    refine j_b0 ?_
    have hz := bJ12_append_56 hE hn hR hc hK  hw
    exact hz
def wJ12_append_0 (c : Nat → Option Nat) (x0 : Nat) (x1 : Int32) (w : GW) (bb : Nat × Nat) (K : Option Nat → GW → Prop) : Prop :=
  ∃ f1 : Int32, gfm w x0 [22] 3 = some (.int f1) ∧ (gmc w x0 = some 22 ∧ (∃ cb4 : Nat × Nat, (cb4.1 ≤ bb.1 ∧ cb4.2 ≤ bb.2) ∧ (wJ12_ensureCapacityInternal c x0 (f1 + ((1 : Int32))) w cb4 (fun w6 => ∀ b7 : Nat × Nat, b7 = (bb.1 - cb4.1, bb.2 - cb4.2) → (gmc w6 x0 = some 22 ∧ (wJ12_isLatin1 c x0 w6 (fun r8 => (r8 = 0 → (wJ12_append_45 c x0 x1 w6 b7 K)) ∧ (¬ r8 = 0 → (wJ4_canEncode_2 c x1 w6 (fun r11 => (r11 = 0 → (wJ12_append_45 c x0 x1 w6 b7 K)) ∧ (¬ r11 = 0 → (∃ f13 : Option Nat, gfm w6 x0 [22] 0 = some (va_rf f13) ∧ (∃ f15 : Int32, gfm w6 x0 [22] 3 = some (.int f15) ∧ (∃ (n17 : Nat) (fs18 : List Value), w6 x0 = some (true, .inr (n17, fs18)) ∧ n17 ∈ ([22] : List Nat) ∧ 3 < fs18.length ∧ (∀ w22 : GW, w22 = gup w6 x0 (.inr (n17, fs18.set 3 (.int (f15 + ((1 : Int32)))))) → (∃ a23 : Nat, f13 = some a23 ∧ (∃ (n24 : Nat) (f25 : Nat → Int32), w22 a23 = some (true, .inl (1, n24, .inl f25)) ∧ vp_in f15 n24 ∧ (∀ w28 : GW, w28 = gup w22 a23 (.inl (1, n24, .inl (upd f25 (f15).toNatClampNeg (vp_nar .byte (i2b x1))))) → (K (some x0) w28)))))))))))))))))))
set_option maxRecDepth 100000 in
theorem bJ12_append_0 {E : jE} (hE : jOk E cJ12_append RJ12) (hn : E.2.2.2.2 = 2) (hR : jRoom E 4 130) {c : Nat → Option Nat} (hc : E.2.2.1.2.2.2 = c) {K : Option Nat → GW → Prop} (hK : jRq E (.object "java/lang/AbstractStringBuilder") (K)) {x0 : Nat} {x1 : Int32} {w : GW} {bb : Nat × Nat}  (hw : wJ12_append_0 c x0 x1 w bb K) : J E w bb [(0, .ref (x0)), (1, .int (x1))] 0 [] := by
  unfold wJ12_append_0 at hw
  refine j_aload_n hE 0 dJ12_append_0 rfl rfl ?_
  refine j_aload_n hE 0 dJ12_append_1 rfl rfl ?_
  obtain ⟨f1, h2, hw⟩ := hw
  refine j_getM hE gf_java_lang_AbstractStringBuilder_count q666 h2 dJ12_append_2 ?_
  refine j_iconst hE dJ12_append_5 kc_1 ?_
  refine j_iadd hE dJ12_append_6 ?_
  obtain ⟨h3, hw⟩ := hw
  obtain ⟨cb4, h5, hw⟩ := hw
  refine jc_v (jr_X hE hR (As := [.int (f1 + ((1 : Int32)))]) (rest := []) ((ctJ12_ensureCapacityInternal E.1.2.1 E.2.2.1 hc _ _ _ _ _ hw) E.2.2.2.1) (lw_meth q686) q140 q683 q2185 (C := "java/lang/StringBuilder") (by simp [gXW]) q685 jdJ12_ensureCapacityInternal ⟨Nat.le_of_ble_eq_true rfl, Nat.le_of_ble_eq_true rfl⟩ h5 (gmc_gIs h3 (r := (RJ13, TJ13, 4)) rfl) rfl (Nat.le_of_ble_eq_true rfl) dJ12_append_7) (fun w6 hw => ?_)
  refine j_nb (fun b7 e_b7 => ?_)
  replace hw := hw b7 e_b7
  refine j_aload_n hE 0 dJ12_append_10 rfl rfl ?_
  obtain ⟨h9, hw⟩ := hw
  refine jc_ip (jr_U hE hR (As := []) (rest := []) ((ctJ12_isLatin1 E.1.2.1 E.2.2.1 hc _ _ _ hw) E.2.2.2.1) (lw_U (C := "java/lang/StringBuilder") (owner := "java/lang/AbstractStringBuilder") q714 q716 q717 q715 q140 q718) rfl ⟨by decide, by decide, jdJ12_isLatin1.2.2⟩ ⟨Nat.le_of_ble_eq_true rfl, Nat.le_of_ble_eq_true rfl⟩ ⟨Nat.zero_le _, Nat.zero_le _⟩ (gmc_gIs h9 (r := (RJ13, TJ13, 4)) rfl) rfl (Nat.le_of_ble_eq_true rfl) dJ12_append_11) (fun r8 hw => ?_)
  refine j_b0 ?_
  refine j_if_eq hE 45 dJ12_append_14 (by decide) (fun c10 => ?_) (fun c10 => ?_)
  · replace hw := hw.1 c10
    have hz := bJ12_append_45 hE hn hR hc hK  hw
    exact hz
  · replace hw := hw.2 c10
    refine j_iload_n hE 1 dJ12_append_17 rfl rfl ?_
    refine jc_ip (jr_S hE hR (As := [.int (x1)]) (rest := []) ((ctJ4_canEncode_2 E.1.2.1 E.2.2.1 hc _ _ _ hw) E.2.2.2.1) (lw_S q719 q720 q131 q721) jdJ4_canEncode_2 ⟨Nat.le_of_ble_eq_true rfl, Nat.le_of_ble_eq_true rfl⟩ ⟨Nat.zero_le _, Nat.zero_le _⟩  rfl (Nat.le_of_ble_eq_true rfl) dJ12_append_18) (fun r11 hw => ?_)
    refine j_b0 ?_
    refine j_if_eq hE 45 dJ12_append_21 (by decide) (fun c12 => ?_) (fun c12 => ?_)
    · replace hw := hw.1 c12
      have hz := bJ12_append_45 hE hn hR hc hK  hw
      exact hz
    · replace hw := hw.2 c12
      refine j_aload_n hE 0 dJ12_append_24 rfl rfl ?_
      obtain ⟨f13, h14, hw⟩ := hw
      refine j_getM hE gf_java_lang_AbstractStringBuilder_value q663 h14 dJ12_append_25 ?_
      refine j_aload_n hE 0 dJ12_append_28 rfl rfl ?_
      refine j_dup hE dJ12_append_29 rfl ?_
      obtain ⟨f15, h16, hw⟩ := hw
      refine j_getM hE gf_java_lang_AbstractStringBuilder_count q666 h16 dJ12_append_30 ?_
      refine j_dup_x1 hE dJ12_append_33 rfl rfl ?_
      refine j_iconst hE dJ12_append_34 kc_1 ?_
      refine j_iadd hE dJ12_append_35 ?_
      obtain ⟨n17, fs18, h19, h20, h21, hw⟩ := hw
      refine j_putX hE h20 gw_java_lang_AbstractStringBuilder_count_J12 q666 h19 rfl rfl h21 dJ12_append_36 ?_
      refine j_nw (fun w22 e_w22 => ?_)
      replace hw := hw w22 e_w22
      refine j_iload_n hE 1 dJ12_append_39 rfl rfl ?_
      refine j_i2b hE dJ12_append_40 ?_
      obtain ⟨a23, e9, hx⟩ := hw
      subst e9
      have hw := hx
      clear hx
      obtain ⟨n24, f25, h26, h27, hw⟩ := hw
      refine j_bast hE h26 h27 dJ12_append_41 ?_
      refine j_nw (fun w28 e_w28 => ?_)
      replace hw := hw w28 e_w28
      refine j_goto hE 75 dJ12_append_42 (by decide) ?_
      refine j_aload_n hE 0 dJ12_append_75 rfl rfl ?_
      exact j_qret hE hK (r := some x0) dJ12_append_76 (by first | exact Or.inl ⟨_, rfl⟩ | exact Or.inr ⟨_, rfl⟩) hw
theorem jdJ12_append : jD yJ12_append 1 := by decide +kernel
abbrev wJ12_append := wJ12_append_0
theorem ctJ12_append (l : Launch) (G : gG) {c : Nat → Option Nat} (hc : G.2.2.2 = c) (x0 : Nat) (x1 : Int32) (w : GW) (bb : Nat × Nat) (K : Option Nat → GW → Prop) (hw : wJ12_append_0 c x0 x1 w bb K) {F2 L2 : Nat} (h2 : 4 ≤ F2 ∧ 130 ≤ L2 := by exact ⟨Nat.le_refl _, Nat.le_refl _⟩) : CtQ l yJ12_append cJ12_append 2 (.object "java/lang/AbstractStringBuilder") ({ frames := F2, cells := bb.1, slots := bb.2, locals := L2 }) G [.ref (x0), .int (x1)] w (K) :=
  CtQ.of RJ12 plainc_J12 rfl (Nat.le_of_ble_eq_true rfl) (fun E hE hl hG hn hR hK => bJ12_append_0 hE hn (hR.le h2.1 h2.2) (by rw [hG]; exact hc) hK hw)
def wJ13_append_0 (c : Nat → Option Nat) (x0 : Nat) (x1 : Int32) (w : GW) (bb : Nat × Nat) (K : Option Nat → GW → Prop) : Prop :=
  gmc w x0 = some 22 ∧ (∃ cb5 : Nat × Nat, (cb5.1 ≤ bb.1 ∧ cb5.2 ≤ bb.2) ∧ (wJ12_append c x0 x1 w cb5 (fun r1 w7 => ∀ b8 : Nat × Nat, b8 = (bb.1 - cb5.1, bb.2 - cb5.2) → (K (some x0) w7))))
set_option maxRecDepth 100000 in
theorem bJ13_append_0 {E : jE} (hE : jOk E cJ13_append RJ13) (hn : E.2.2.2.2 = 2) (hR : jRoom E 5 151) {c : Nat → Option Nat} (hc : E.2.2.1.2.2.2 = c) {K : Option Nat → GW → Prop} (hK : jRq E (.object "java/lang/StringBuilder") (K)) {x0 : Nat} {x1 : Int32} {w : GW} {bb : Nat × Nat}  (hw : wJ13_append_0 c x0 x1 w bb K) : J E w bb [(0, .ref (x0)), (1, .int (x1))] 0 [] := by
  unfold wJ13_append_0 at hw
  refine j_aload_n hE 0 dJ13_append_0 rfl rfl ?_
  refine j_iload_n hE 1 dJ13_append_1 rfl rfl ?_
  obtain ⟨h2, hw⟩ := hw
  obtain ⟨fs3, h4⟩ := gmc_at h2
  obtain ⟨cb5, h6, hw⟩ := hw
  refine jc_q (jr_SU hE hR (As := [.int (x1)]) (rest := []) ((ctJ12_append E.1.2.1 E.2.2.1 hc _ _ _ _ _ hw) E.2.2.2.1) (lw_SU q680 q2184 q675 q681 q140 q682) ⟨by decide, jdJ12_append.2.2⟩ ⟨Nat.le_of_ble_eq_true rfl, Nat.le_of_ble_eq_true rfl⟩ h6 h4 rfl rfl (Nat.le_of_ble_eq_true rfl) dJ13_append_2) (fun r1 w7 hw => ?_)
  refine j_nb (fun b8 e_b8 => ?_)
  replace hw := hw b8 e_b8
  refine j_pop hE dJ13_append_5 (va_rf_cat _) ?_
  refine j_aload_n hE 0 dJ13_append_6 rfl rfl ?_
  exact j_qret hE hK (r := some x0) dJ13_append_7 (by first | exact Or.inl ⟨_, rfl⟩ | exact Or.inr ⟨_, rfl⟩) hw
theorem jdJ13_append : jD yJ13_append 1 := by decide +kernel
abbrev wJ13_append := wJ13_append_0
theorem ctJ13_append (l : Launch) (G : gG) {c : Nat → Option Nat} (hc : G.2.2.2 = c) (x0 : Nat) (x1 : Int32) (w : GW) (bb : Nat × Nat) (K : Option Nat → GW → Prop) (hw : wJ13_append_0 c x0 x1 w bb K) {F2 L2 : Nat} (h2 : 5 ≤ F2 ∧ 151 ≤ L2 := by exact ⟨Nat.le_refl _, Nat.le_refl _⟩) : CtQ l yJ13_append cJ13_append 2 (.object "java/lang/StringBuilder") ({ frames := F2, cells := bb.1, slots := bb.2, locals := L2 }) G [.ref (x0), .int (x1)] w (K) :=
  CtQ.of RJ13 plainc_J13 rfl (Nat.le_of_ble_eq_true rfl) (fun E hE hl hG hn hR hK => bJ13_append_0 hE hn (hR.le h2.1 h2.2) (by rw [hG]; exact hc) hK hw)
def wJ12_getValue_0 (c : Nat → Option Nat) (x0 : Nat) (w0 : GW) (K : Option Nat → Prop) : Prop :=
  ∃ f1 : Option Nat, gfm w0 x0 [22] 0 = some (va_rf f1) ∧ (K f1)
set_option maxRecDepth 100000 in
theorem bJ12_getValue_0 {E : jE} (hE : jOk E cJ12_getValue RJ12) (hn : E.2.2.2.2 = 1) (hR : jRoom E 0 0) {c : Nat → Option Nat} (hc : E.2.2.1.2.2.2 = c) {b : Nat × Nat} {w0 : GW} {K : Option Nat → Prop} (hK : jRq E (.array .byte) (KPQ w0 K)) {x0 : Nat}  (hw : wJ12_getValue_0 c x0 w0 K) : J E w0 b [(0, .ref (x0))] 0 [] := by
  unfold wJ12_getValue_0 at hw
  refine j_aload_n hE 0 dJ12_getValue_0 rfl rfl ?_
  obtain ⟨f1, h2, hw⟩ := hw
  refine j_getM hE gf_java_lang_AbstractStringBuilder_value q663 h2 dJ12_getValue_1 ?_
  exact j_qret hE hK (r := f1) dJ12_getValue_4 (by first | exact Or.inl ⟨_, rfl⟩ | exact Or.inr ⟨_, rfl⟩) ⟨rfl, hw⟩
theorem jdJ12_getValue : jD yJ12_getValue 0 := by decide +kernel
abbrev wJ12_getValue := wJ12_getValue_0
theorem ctJ12_getValue (l : Launch) (G : gG) {c : Nat → Option Nat} (hc : G.2.2.2 = c) (x0 : Nat) (w0 : GW) (K : Option Nat → Prop) (hw : wJ12_getValue_0 c x0 w0 K) {F2 L2 : Nat} (h2 : 0 ≤ F2 ∧ 0 ≤ L2 := by exact ⟨Nat.le_refl _, Nat.le_refl _⟩) : CtQ l yJ12_getValue cJ12_getValue 1 (.array .byte) ({ frames := F2, cells := 0, slots := 0, locals := L2 }) G [.ref (x0)] w0 (KPQ w0 K) :=
  CtQ.of RJ12 plainc_J12 rfl (Nat.le_of_ble_eq_true rfl) (fun E hE hl hG hn hR hK => bJ12_getValue_0 hE hn (hR.le h2.1 h2.2) (by rw [hG]; exact hc) hK hw)
def wJ12_length_0 (c : Nat → Option Nat) (x0 : Nat) (w0 : GW) (K : Int32 → Prop) : Prop :=
  ∃ f1 : Int32, gfm w0 x0 [22] 3 = some (.int f1) ∧ (K f1)
set_option maxRecDepth 100000 in
theorem bJ12_length_0 {E : jE} (hE : jOk E cJ12_length RJ12) (hn : E.2.2.2.2 = 1) (hR : jRoom E 0 0) {c : Nat → Option Nat} (hc : E.2.2.1.2.2.2 = c) {b : Nat × Nat} {w0 : GW} {K : Int32 → Prop} (hK : jRi E .int (KPI w0 K)) {x0 : Nat}  (hw : wJ12_length_0 c x0 w0 K) : J E w0 b [(0, .ref (x0))] 0 [] := by
  unfold wJ12_length_0 at hw
  refine j_aload_n hE 0 dJ12_length_0 rfl rfl ?_
  obtain ⟨f1, h2, hw⟩ := hw
  refine j_getM hE gf_java_lang_AbstractStringBuilder_count q666 h2 dJ12_length_1 ?_
  exact j_iret hE hK dJ12_length_4 rfl ⟨rfl, hw⟩
theorem jdJ12_length : jD yJ12_length 0 := by decide +kernel
abbrev wJ12_length := wJ12_length_0
theorem ctJ12_length (l : Launch) (G : gG) {c : Nat → Option Nat} (hc : G.2.2.2 = c) (x0 : Nat) (w0 : GW) (K : Int32 → Prop) (hw : wJ12_length_0 c x0 w0 K) {F2 L2 : Nat} (h2 : 0 ≤ F2 ∧ 0 ≤ L2 := by exact ⟨Nat.le_refl _, Nat.le_refl _⟩) : CtI l yJ12_length cJ12_length 1 .int ({ frames := F2, cells := 0, slots := 0, locals := L2 }) G [.ref (x0)] w0 (KPI w0 K) :=
  CtI.of RJ12 plainc_J12 rfl (Nat.le_of_ble_eq_true rfl) (fun E hE hl hG hn hR hK => bJ12_length_0 hE hn (hR.le h2.1 h2.2) (by rw [hG]; exact hc) hK hw)
def wJ13_length_0 (c : Nat → Option Nat) (x0 : Nat) (w0 : GW) (K : Int32 → Prop) : Prop :=
  gmc w0 x0 = some 22 ∧ (wJ12_length c x0 w0 (fun r1 => K r1))
set_option maxRecDepth 100000 in
theorem bJ13_length_0 {E : jE} (hE : jOk E cJ13_length RJ13) (hn : E.2.2.2.2 = 1) (hR : jRoom E 1 20) {c : Nat → Option Nat} (hc : E.2.2.1.2.2.2 = c) {b : Nat × Nat} {w0 : GW} {K : Int32 → Prop} (hK : jRi E .int (KPI w0 K)) {x0 : Nat}  (hw : wJ13_length_0 c x0 w0 K) : J E w0 b [(0, .ref (x0))] 0 [] := by
  unfold wJ13_length_0 at hw
  refine j_aload_n hE 0 dJ13_length_0 rfl rfl ?_
  obtain ⟨h2, hw⟩ := hw
  obtain ⟨fs3, h4⟩ := gmc_at h2
  refine jc_ip (jr_SU hE hR (As := []) (rest := []) ((ctJ12_length E.1.2.1 E.2.2.1 hc _ _ _ hw) E.2.2.2.1) (lw_SU q771 q767 q675 q766 q140 q772) ⟨by decide, jdJ12_length.2.2⟩ ⟨Nat.le_of_ble_eq_true rfl, Nat.le_of_ble_eq_true rfl⟩ ⟨Nat.zero_le _, Nat.zero_le _⟩ h4 rfl rfl (Nat.le_of_ble_eq_true rfl) dJ13_length_1) (fun r1 hw => ?_)
  refine j_b0 ?_
  exact j_iret hE hK dJ13_length_4 rfl ⟨rfl, hw⟩
theorem jdJ13_length : jD yJ13_length 0 := by decide +kernel
abbrev wJ13_length := wJ13_length_0
theorem ctJ13_length (l : Launch) (G : gG) {c : Nat → Option Nat} (hc : G.2.2.2 = c) (x0 : Nat) (w0 : GW) (K : Int32 → Prop) (hw : wJ13_length_0 c x0 w0 K) {F2 L2 : Nat} (h2 : 1 ≤ F2 ∧ 20 ≤ L2 := by exact ⟨Nat.le_refl _, Nat.le_refl _⟩) : CtI l yJ13_length cJ13_length 1 .int ({ frames := F2, cells := 0, slots := 0, locals := L2 }) G [.ref (x0)] w0 (KPI w0 K) :=
  CtI.of RJ13 plainc_J13 rfl (Nat.le_of_ble_eq_true rfl) (fun E hE hl hG hn hR hK => bJ13_length_0 hE hn (hR.le h2.1 h2.2) (by rw [hG]; exact hc) hK hw)
def wJ15_checkLength_0 (c : Nat → Option Nat) (x0 : Int32) (x1 : Int32) (w0 : GW) (K : Prop) : Prop :=
  (x0 ≤ x1 → (K)) ∧ (¬ x0 ≤ x1 → (False))
set_option maxRecDepth 100000 in
theorem bJ15_checkLength_0 {E : jE} (hE : jOk E cJ15_checkLength RJ15) (hn : E.2.2.2.2 = 2) (hR : jRoom E 0 0) {c : Nat → Option Nat} (hc : E.2.2.1.2.2.2 = c) {b : Nat × Nat} {w0 : GW} {K : Prop} (hK : jRv E (KPV w0 K)) {x0 : Int32} {x1 : Int32}  (hw : wJ15_checkLength_0 c x0 x1 w0 K) : J E w0 b [(0, .int (x0)), (1, .int (x1))] 0 [] := by
  unfold wJ15_checkLength_0 at hw
  refine j_iload_n hE 1 dJ15_checkLength_0 rfl rfl ?_
  refine j_iload_n hE 0 dJ15_checkLength_1 rfl rfl ?_
  refine j_icmp_ge hE 37 dJ15_checkLength_2 (by decide) (fun c1 => ?_) (fun c1 => ?_)
  · replace hw := hw.1 c1
    exact j_vret hE hK dJ15_checkLength_37 ⟨rfl, hw⟩
  · replace hw := hw.2 c1
    exact hw.elim
theorem jdJ15_checkLength : jD yJ15_checkLength 2 := by decide +kernel
abbrev wJ15_checkLength := wJ15_checkLength_0
theorem ctJ15_checkLength (l : Launch) (G : gG) {c : Nat → Option Nat} (hc : G.2.2.2 = c) (x0 : Int32) (x1 : Int32) (w0 : GW) (K : Prop) (hw : wJ15_checkLength_0 c x0 x1 w0 K) {F2 L2 : Nat} (h2 : 0 ≤ F2 ∧ 0 ≤ L2 := by exact ⟨Nat.le_refl _, Nat.le_refl _⟩) : CtV l yJ15_checkLength cJ15_checkLength 2 ({ frames := F2, cells := 0, slots := 0, locals := L2 }) G [.int (x0), .int (x1)] w0 (KPV w0 K) :=
  CtV.of RJ15 plainc_J15 rfl (Nat.le_of_ble_eq_true rfl) (fun E hE hl hG hn hR hK => bJ15_checkLength_0 hE hn (hR.le h2.1 h2.2) (by rw [hG]; exact hc) hK hw)
def wJ15_copyOfRangeByte_0 (c : Nat → Option Nat) (x0 : Nat) (x1 : Int32) (x2 : Int32) (w : GW) (bb : Nat × Nat) (K : Option Nat → GW → Prop) : Prop :=
  wJ15_checkLength c x1 x2 w (∀ v1 : Int32, v1 = x2 - x1 → (¬ v1 < 0 ∧ (v1).toNatClampNeg * 1 ≤ 536870912 ∧ 1 ≤ bb.1 ∧ (v1).toNatClampNeg ≤ bb.2 ∧ ∀ qa7 : Nat, w qa7 = none → (∀ w8 : GW, w8 = gup w qa7 (.inl (1, (v1).toNatClampNeg, gZero 1)) → (∀ b9 : Nat × Nat, b9 = (bb.1 - 1, bb.2 - (v1).toNatClampNeg) → (∃ n10 : Nat, galen w8 x0 1 = some n10 ∧ (∃ (n22 : Nat) (f24 : Nat → Int32) (n23 : Nat) (f25 : Nat → Int32), w8 x0 = some (true, .inl (1, n22, .inl f24)) ∧ w8 qa7 = some (true, .inl (1, n23, .inl f25)) ∧ ¬ x1 < 0 ∧ ¬ ((0 : Int32)) < 0 ∧ ¬ ((if v1 < ((nI n10) - x1) then v1 else ((nI n10) - x1))) < 0 ∧ (x1).toNatClampNeg + ((if v1 < ((nI n10) - x1) then v1 else ((nI n10) - x1))).toNatClampNeg ≤ n22 ∧ ((0 : Int32)).toNatClampNeg + ((if v1 < ((nI n10) - x1) then v1 else ((nI n10) - x1))).toNatClampNeg ≤ n23 ∧ (∀ i : Nat, i < ((if v1 < ((nI n10) - x1) then v1 else ((nI n10) - x1))).toNatClampNeg → fits .byte (.int (f24 ((x1).toNatClampNeg + i))) = true) ∧ (∀ w26 : GW, w26 = gup w8 qa7 (.inl (1, n23, .inl (va_cpy f24 f25 (x1).toNatClampNeg ((0 : Int32)).toNatClampNeg ((if v1 < ((nI n10) - x1) then v1 else ((nI n10) - x1))).toNatClampNeg))) → (K (some qa7) w26))))))))
set_option maxRecDepth 100000 in
theorem bJ15_copyOfRangeByte_0 {E : jE} (hE : jOk E cJ15_copyOfRangeByte RJ15) (hn : E.2.2.2.2 = 5) (hR : jRoom E 1 60) {c : Nat → Option Nat} (hc : E.2.2.1.2.2.2 = c) {K : Option Nat → GW → Prop} (hK : jRq E (.array .byte) (K)) {x0 : Nat} {x1 : Int32} {x2 : Int32} {w : GW} {bb : Nat × Nat}  (hw : wJ15_copyOfRangeByte_0 c x0 x1 x2 w bb K) : J E w bb [(0, .ref (x0)), (1, .int (x1)), (2, .int (x2))] 0 [] := by
  unfold wJ15_copyOfRangeByte_0 at hw
  refine j_iload_n hE 1 dJ15_copyOfRangeByte_0 rfl rfl ?_
  refine j_iload_n hE 2 dJ15_copyOfRangeByte_1 rfl rfl ?_
  refine jc_vp (jr_S hE hR (As := [.int (x1), .int (x2)]) (rest := []) ((ctJ15_checkLength E.1.2.1 E.2.2.1 hc _ _ _ _ hw) E.2.2.2.1) (lw_S q780 q781 q143 q782) jdJ15_checkLength ⟨Nat.le_of_ble_eq_true rfl, Nat.le_of_ble_eq_true rfl⟩ ⟨Nat.zero_le _, Nat.zero_le _⟩  rfl (Nat.le_of_ble_eq_true rfl) dJ15_copyOfRangeByte_2) (fun  hw => ?_)
  refine j_b0 ?_
  refine j_iload_n hE 2 dJ15_copyOfRangeByte_5 rfl rfl ?_
  refine j_iload_n hE 1 dJ15_copyOfRangeByte_6 rfl rfl ?_
  refine j_isub hE dJ15_copyOfRangeByte_7 ?_
  refine j_topi (fun v1 e_v1 => ?_)
  replace hw := hw v1 e_v1
  refine j_istore_n (L' := [(3, .int (v1)), (0, .ref (x0)), (1, .int (x1)), (2, .int (x2))]) hE hn dJ15_copyOfRangeByte_8 rfl (Nat.le_of_ble_eq_true rfl) rfl ?_
  refine j_iload_n hE 0 dJ15_copyOfRangeByte_9 rfl rfl ?_
  obtain ⟨h2, h3, h4, h5, hw⟩ := hw
  refine j_newarr hE (atype := .byte) (t := 1) (by decide) rfl q203 h2 h3 ⟨h4, h5⟩ dJ15_copyOfRangeByte_10 (fun qa7 h6 => ?_)
  replace hw := hw qa7 h6
  refine j_nw (fun w8 e_w8 => ?_)
  replace hw := hw w8 e_w8
  refine j_nb (fun b9 e_b9 => ?_)
  replace hw := hw b9 e_b9
  refine j_astore (L' := [(4, .ref (qa7)), (3, .int (v1)), (0, .ref (x0)), (1, .int (x1)), (2, .int (x2))]) hE hn dJ15_copyOfRangeByte_12 (Nat.le_of_ble_eq_true rfl) rfl ?_
  refine j_aload_n hE 2 dJ15_copyOfRangeByte_14 rfl rfl ?_
  refine j_iload_n hE 3 dJ15_copyOfRangeByte_15 rfl rfl ?_
  refine j_aload hE 0 dJ15_copyOfRangeByte_16 rfl ?_
  refine j_iconst hE dJ15_copyOfRangeByte_18 kc_0 ?_
  refine j_aload_n hE 2 dJ15_copyOfRangeByte_19 rfl rfl ?_
  obtain ⟨n10, h12, hw⟩ := hw
  refine j_alen hE h12 (Nat.le_of_ble_eq_true rfl) dJ15_copyOfRangeByte_20 ?_
  refine j_iload_n hE 3 dJ15_copyOfRangeByte_21 rfl rfl ?_
  refine j_isub hE dJ15_copyOfRangeByte_22 ?_
  refine j_iload_n hE 1 dJ15_copyOfRangeByte_23 rfl rfl ?_
  refine j_mmin hE hR q710 (Nat.le_of_ble_eq_true rfl) (Nat.le_of_ble_eq_true rfl) dJ15_copyOfRangeByte_24 ?_
  obtain ⟨n22, f24, n23, f25, h14, h15, h16, h17, h18, h19, h20, h21, hw⟩ := hw
  refine j_acpB hE hR q711 q713 q712 q144 h14 h15 h16 h17 h18 h19 h20 h21 (Nat.le_of_ble_eq_true rfl) (Nat.le_of_ble_eq_true rfl) dJ15_copyOfRangeByte_27 ?_
  refine j_nw (fun w26 e_w26 => ?_)
  replace hw := hw w26 e_w26
  refine j_aload hE 0 dJ15_copyOfRangeByte_30 rfl ?_
  exact j_qret hE hK (r := some qa7) dJ15_copyOfRangeByte_32 (by first | exact Or.inl ⟨_, rfl⟩ | exact Or.inr ⟨_, rfl⟩) hw
theorem jdJ15_copyOfRangeByte : jD yJ15_copyOfRangeByte 3 := by decide +kernel
abbrev wJ15_copyOfRangeByte := wJ15_copyOfRangeByte_0
theorem ctJ15_copyOfRangeByte (l : Launch) (G : gG) {c : Nat → Option Nat} (hc : G.2.2.2 = c) (x0 : Nat) (x1 : Int32) (x2 : Int32) (w : GW) (bb : Nat × Nat) (K : Option Nat → GW → Prop) (hw : wJ15_copyOfRangeByte_0 c x0 x1 x2 w bb K) {F2 L2 : Nat} (h2 : 1 ≤ F2 ∧ 60 ≤ L2 := by exact ⟨Nat.le_refl _, Nat.le_refl _⟩) : CtQ l yJ15_copyOfRangeByte cJ15_copyOfRangeByte 5 (.array .byte) ({ frames := F2, cells := bb.1, slots := bb.2, locals := L2 }) G [.ref (x0), .int (x1), .int (x2)] w (K) :=
  CtQ.of RJ15 plainc_J15 rfl (Nat.le_of_ble_eq_true rfl) (fun E hE hl hG hn hR hK => bJ15_copyOfRangeByte_0 hE hn (hR.le h2.1 h2.2) (by rw [hG]; exact hc) hK hw)
def wJ15_copyOfRange_10 (c : Nat → Option Nat) (x0 : Nat) (x1 : Int32) (x2 : Int32) (w : GW) (bb : Nat × Nat) (K : Option Nat → GW → Prop) : Prop :=
  ∃ cb2 : Nat × Nat, (cb2.1 ≤ bb.1 ∧ cb2.2 ≤ bb.2) ∧ (wJ15_copyOfRangeByte c x0 x1 x2 w cb2 (fun r1 w4 => ∀ b5 : Nat × Nat, b5 = (bb.1 - cb2.1, bb.2 - cb2.2) → (K r1 w4)))
set_option maxRecDepth 100000 in
theorem bJ15_copyOfRange_10 {E : jE} (hE : jOk E cJ15_copyOfRange RJ15) (hn : E.2.2.2.2 = 3) (hR : jRoom E 2 84) {c : Nat → Option Nat} (hc : E.2.2.1.2.2.2 = c) {K : Option Nat → GW → Prop} (hK : jRq E (.array .byte) (K)) {x0 : Nat} {x1 : Int32} {x2 : Int32} {w : GW} {bb : Nat × Nat}  (hw : wJ15_copyOfRange_10 c x0 x1 x2 w bb K) : J E w bb [(0, .ref (x0)), (1, .int (x1)), (2, .int (x2))] 10 [] := by
  unfold wJ15_copyOfRange_10 at hw
  refine j_aload_n hE 0 dJ15_copyOfRange_10 rfl rfl ?_
  refine j_iload_n hE 1 dJ15_copyOfRange_11 rfl rfl ?_
  refine j_iload_n hE 2 dJ15_copyOfRange_12 rfl rfl ?_
  obtain ⟨cb2, h3, hw⟩ := hw
  refine jc_q (jr_S hE hR (As := [.ref (x0), .int (x1), .int (x2)]) (rest := []) ((ctJ15_copyOfRangeByte E.1.2.1 E.2.2.1 hc _ _ _ _ _ _ hw) E.2.2.2.1) (lw_S q777 q778 q143 q779) jdJ15_copyOfRangeByte ⟨Nat.le_of_ble_eq_true rfl, Nat.le_of_ble_eq_true rfl⟩ h3  rfl (Nat.le_of_ble_eq_true rfl) dJ15_copyOfRange_13) (fun r1 w4 hw => ?_)
  refine j_nb (fun b5 e_b5 => ?_)
  replace hw := hw b5 e_b5
  exact j_qret hE hK (r := r1) dJ15_copyOfRange_16 (by first | exact Or.inl ⟨_, rfl⟩ | exact Or.inr ⟨_, rfl⟩) hw
def wJ15_copyOfRange_0 (c : Nat → Option Nat) (x0 : Nat) (x1 : Int32) (x2 : Int32) (w : GW) (bb : Nat × Nat) (K : Option Nat → GW → Prop) : Prop :=
  (¬ x1 = 0 → (wJ15_copyOfRange_10 c x0 x1 x2 w bb K)) ∧ (x1 = 0 → (∃ n2 : Nat, galen w x0 1 = some n2 ∧ ((x2 = (nI n2) → (∃ (n7 : Nat) (f8 : Nat → Int32), w x0 = some (true, .inl (1, n7, .inl f8)) ∧ (∀ i : Nat, i < n7 → fits .byte (.int (f8 i)) = true) ∧ 1 ≤ bb.1 ∧ n7 ≤ bb.2 ∧ ∀ qa14 : Nat, w qa14 = none → (∀ w15 : GW, w15 = gup w qa14 (.inl (1, n7, .inl f8)) → (∀ b16 : Nat × Nat, b16 = (bb.1 - 1, bb.2 - n7) → (∃ (n17 : Nat) (x18 : _), w15 qa14 = some (true, .inl (1, n17, x18)) ∧ (K (some qa14) w15)))))) ∧ (¬ x2 = (nI n2) → (wJ15_copyOfRange_10 c x0 x1 x2 w bb K)))))
set_option maxRecDepth 100000 in
theorem bJ15_copyOfRange_0 {E : jE} (hE : jOk E cJ15_copyOfRange RJ15) (hn : E.2.2.2.2 = 3) (hR : jRoom E 2 84) {c : Nat → Option Nat} (hc : E.2.2.1.2.2.2 = c) {K : Option Nat → GW → Prop} (hK : jRq E (.array .byte) (K)) {x0 : Nat} {x1 : Int32} {x2 : Int32} {w : GW} {bb : Nat × Nat}  (hw : wJ15_copyOfRange_0 c x0 x1 x2 w bb K) : J E w bb [(0, .ref (x0)), (1, .int (x1)), (2, .int (x2))] 0 [] := by
  unfold wJ15_copyOfRange_0 at hw
  refine j_iload_n hE 1 dJ15_copyOfRange_0 rfl rfl ?_
  refine j_if_ne hE 10 dJ15_copyOfRange_1 (by decide) (fun c1 => ?_) (fun c1 => ?_)
  · replace hw := hw.1 c1
    have hz := bJ15_copyOfRange_10 hE hn hR hc hK  hw
    exact hz
  · replace hw := hw.2 c1
    refine j_iload_n hE 2 dJ15_copyOfRange_4 rfl rfl ?_
    refine j_aload_n hE 0 dJ15_copyOfRange_5 rfl rfl ?_
    obtain ⟨n2, h4, hw⟩ := hw
    refine j_alen hE h4 (Nat.le_of_ble_eq_true rfl) dJ15_copyOfRange_6 ?_
    refine j_icmp_eq hE 17 dJ15_copyOfRange_7 (by decide) (fun c6 => ?_) (fun c6 => ?_)
    · replace hw := hw.1 c6
      refine j_aload_n hE 0 dJ15_copyOfRange_17 rfl rfl ?_
      obtain ⟨n7, f8, h9, h10, h11, h12, hw⟩ := hw
      refine j_cloneB hE hR q703 q704 q705 q706 q707 q708 h9 h10 (Nat.le_of_ble_eq_true rfl) (Nat.le_of_ble_eq_true rfl) ⟨h11, h12⟩ dJ15_copyOfRange_18 (fun qa14 h13 => ?_)
      replace hw := hw qa14 h13
      refine j_nw (fun w15 e_w15 => ?_)
      replace hw := hw w15 e_w15
      refine j_nb (fun b16 e_b16 => ?_)
      replace hw := hw b16 e_b16
      obtain ⟨n17, x18, h19, hw⟩ := hw
      refine j_castA hE q709 h19 (by first | exact Or.inl ⟨rfl, rfl⟩ | exact Or.inr ⟨rfl, rfl⟩) dJ15_copyOfRange_21 ?_
      exact j_qret hE hK (r := some qa14) dJ15_copyOfRange_24 (by first | exact Or.inl ⟨_, rfl⟩ | exact Or.inr ⟨_, rfl⟩) hw
    · replace hw := hw.2 c6
      have hz := bJ15_copyOfRange_10 hE hn hR hc hK  hw
      exact hz
theorem jdJ15_copyOfRange : jD yJ15_copyOfRange 3 := by decide +kernel
abbrev wJ15_copyOfRange := wJ15_copyOfRange_0
theorem ctJ15_copyOfRange (l : Launch) (G : gG) {c : Nat → Option Nat} (hc : G.2.2.2 = c) (x0 : Nat) (x1 : Int32) (x2 : Int32) (w : GW) (bb : Nat × Nat) (K : Option Nat → GW → Prop) (hw : wJ15_copyOfRange_0 c x0 x1 x2 w bb K) {F2 L2 : Nat} (h2 : 2 ≤ F2 ∧ 84 ≤ L2 := by exact ⟨Nat.le_refl _, Nat.le_refl _⟩) : CtQ l yJ15_copyOfRange cJ15_copyOfRange 3 (.array .byte) ({ frames := F2, cells := bb.1, slots := bb.2, locals := L2 }) G [.ref (x0), .int (x1), .int (x2)] w (K) :=
  CtQ.of RJ15 plainc_J15 rfl (Nat.le_of_ble_eq_true rfl) (fun E hE hl hG hn hR hK => bJ15_copyOfRange_0 hE hn (hR.le h2.1 h2.2) (by rw [hG]; exact hc) hK hw)
def wJ3_init_2_79 (c : Nat → Option Nat) (x0 : Nat) (x3 : Option Nat) (x4 : Int32) (w : GW) (bb : Nat × Nat) (K : GW → Prop) : Prop :=
  ∃ (n1 : Nat) (fs2 : List Value), w x0 = some (true, .inr (n1, fs2)) ∧ n1 ∈ ([21] : List Nat) ∧ 1 < fs2.length ∧ (∀ w6 : GW, w6 = gup w x0 (.inr (n1, fs2.set 1 (.int ((1 : Int32))))) → (∃ a7 : Nat, x3 = some a7 ∧ (∃ cb9 : Nat × Nat, (cb9.1 ≤ bb.1 ∧ cb9.2 ≤ bb.2) ∧ (wJ15_copyOfRange c a7 ((0 : Int32)) (ishl x4 ((1 : Int32))) w6 cb9 (fun r8 w11 => ∀ b12 : Nat × Nat, b12 = (bb.1 - cb9.1, bb.2 - cb9.2) → (∃ (n13 : Nat) (fs14 : List Value), w11 x0 = some (true, .inr (n13, fs14)) ∧ n13 ∈ ([21] : List Nat) ∧ 0 < fs14.length ∧ (∀ w18 : GW, w18 = gup w11 x0 (.inr (n13, fs14.set 0 (va_rf r8))) → (K w18))))))))
set_option maxRecDepth 100000 in
theorem bJ3_init_2_79 {E : jE} (hE : jOk E cJ3_init_2 RJ3) (hn : E.2.2.2.2 = 5) (hR : jRoom E 3 106) {c : Nat → Option Nat} (hc : E.2.2.1.2.2.2 = c) (hini : E.2.1.1.name = "<init>") {K : GW → Prop} (hK : jRv E (K)) {x0 : Nat} {x3 : Option Nat} {x4 : Int32} {w : GW} {bb : Nat × Nat}  (hw : wJ3_init_2_79 c x0 x3 x4 w bb K) : J E w bb [(0, .ref (x0)), (3, va_rf (x3)), (4, .int (x4))] 79 [] := by
  unfold wJ3_init_2_79 at hw
  refine j_aload_n hE 0 dJ3_init_2_79 rfl rfl ?_
  refine j_iconst hE dJ3_init_2_80 kc_1 ?_
  obtain ⟨n1, fs2, h3, h4, h5, hw⟩ := hw
  refine j_putXF hE hini h4 gw_java_lang_String_coder_J3 q794 h3 rfl rfl h5 dJ3_init_2_81 ?_
  refine j_nw (fun w6 e_w6 => ?_)
  replace hw := hw w6 e_w6
  refine j_aload_n hE 0 dJ3_init_2_84 rfl rfl ?_
  refine j_aload_nq hE 1 dJ3_init_2_85 rfl rfl ?_
  refine j_iconst hE dJ3_init_2_86 kc_0 ?_
  refine j_iload hE 2 dJ3_init_2_87 rfl ?_
  refine j_iconst hE dJ3_init_2_89 kc_1 ?_
  refine j_ishl hE dJ3_init_2_90 ?_
  obtain ⟨a7, e9, hx⟩ := hw
  subst e9
  have hw := hx
  clear hx
  obtain ⟨cb9, h10, hw⟩ := hw
  refine jc_q (jr_S hE hR (As := [.ref (a7), .int ((0 : Int32)), .int (ishl x4 ((1 : Int32)))]) (rest := [.ref (x0)]) ((ctJ15_copyOfRange E.1.2.1 E.2.2.1 hc _ _ _ _ _ _ hw) E.2.2.2.1) (lw_S q774 q775 q143 q776) jdJ15_copyOfRange ⟨Nat.le_of_ble_eq_true rfl, Nat.le_of_ble_eq_true rfl⟩ h10  rfl (Nat.le_of_ble_eq_true rfl) dJ3_init_2_91) (fun r8 w11 hw => ?_)
  refine j_nb (fun b12 e_b12 => ?_)
  replace hw := hw b12 e_b12
  obtain ⟨n13, fs14, h15, h16, h17, hw⟩ := hw
  refine j_putXF hE hini h16 gw_java_lang_String_value_J3 q793 h15 (va_rf_nar _ _ (by decide)) (va_rf_fit _ _ (by decide)) h17 dJ3_init_2_94 ?_
  refine j_nw (fun w18 e_w18 => ?_)
  replace hw := hw w18 e_w18
  exact j_vret hE hK dJ3_init_2_97 hw
def wJ3_init_2_0 (c : Nat → Option Nat) (x0 : Nat) (x1 : Nat) (x2 : Option Nat) (w : GW) (bb : Nat × Nat) (K : GW → Prop) : Prop :=
  gmc w x1 = some 22 ∧ (wJ12_getValue c x1 w (fun r1 => gmc w x1 = some 22 ∧ (wJ13_length c x1 w (fun r3 => gmc w x1 = some 22 ∧ (wJ12_isLatin1 c x1 w (fun r5 => (r5 = 0 → ((((1 : Int32)) = 0 → (wJ3_init_2_79 c x0 r1 r3 w bb K)) ∧ (¬ ((1 : Int32)) = 0 → (∃ f9 : Int32, gfm w x1 [22] 2 = some (.int f9) ∧ ((f9 = 0 → (wJ3_init_2_79 c x0 r1 r3 w bb K)) ∧ (¬ f9 = 0 → (False))))))) ∧ (¬ r5 = 0 → (∃ (n12 : Nat) (fs13 : List Value), w x0 = some (true, .inr (n12, fs13)) ∧ n12 ∈ ([21] : List Nat) ∧ 1 < fs13.length ∧ (∀ w17 : GW, w17 = gup w x0 (.inr (n12, fs13.set 1 (.int ((0 : Int32))))) → (∃ a18 : Nat, r1 = some a18 ∧ (∃ cb20 : Nat × Nat, (cb20.1 ≤ bb.1 ∧ cb20.2 ≤ bb.2) ∧ (wJ15_copyOfRange c a18 ((0 : Int32)) r3 w17 cb20 (fun r19 w22 => ∀ b23 : Nat × Nat, b23 = (bb.1 - cb20.1, bb.2 - cb20.2) → (∃ (n24 : Nat) (fs25 : List Value), w22 x0 = some (true, .inr (n24, fs25)) ∧ n24 ∈ ([21] : List Nat) ∧ 0 < fs25.length ∧ (∀ w29 : GW, w29 = gup w22 x0 (.inr (n24, fs25.set 0 (va_rf r19))) → (K w29))))))))))))))))
set_option maxRecDepth 100000 in
theorem bJ3_init_2_0 {E : jE} (hE : jOk E cJ3_init_2 RJ3) (hn : E.2.2.2.2 = 5) (hR : jRoom E 3 106) {c : Nat → Option Nat} (hc : E.2.2.1.2.2.2 = c) (hini : E.2.1.1.name = "<init>") {K : GW → Prop} (hK : jRv E (K)) {x0 : Nat} {x1 : Nat} {x2 : Option Nat} {w : GW} {bb : Nat × Nat}  (hw : wJ3_init_2_0 c x0 x1 x2 w bb K) : J E w bb [(0, .ref (x0)), (1, .ref (x1)), (2, va_rf (x2))] 0 [] := by
  unfold wJ3_init_2_0 at hw
  refine j_aload_n hE 0 dJ3_init_2_0 rfl rfl ?_
  refine j_objInit hE hR q759 q_oi_inst q_oi_code (Nat.le_of_ble_eq_true rfl) (Nat.le_of_ble_eq_true rfl) dJ3_init_2_1 ?_
  refine j_aload_n hE 1 dJ3_init_2_4 rfl rfl ?_
  obtain ⟨h2, hw⟩ := hw
  refine jc_qp (jr_U hE hR (As := []) (rest := []) ((ctJ12_getValue E.1.2.1 E.2.2.1 hc _ _ _ hw) E.2.2.2.1) (lw_U (C := "java/lang/StringBuilder") (owner := "java/lang/AbstractStringBuilder") q760 q762 q763 q761 q140 q764) rfl ⟨by decide, by decide, jdJ12_getValue.2.2⟩ ⟨Nat.le_of_ble_eq_true rfl, Nat.le_of_ble_eq_true rfl⟩ ⟨Nat.zero_le _, Nat.zero_le _⟩ (gmc_gIs h2 (r := (RJ13, TJ13, 4)) rfl) rfl (Nat.le_of_ble_eq_true rfl) dJ3_init_2_5) (fun r1 hw => ?_)
  refine j_b0 ?_
  refine j_astore_nq (L' := [(3, va_rf (r1)), (0, .ref (x0)), (1, .ref (x1)), (2, va_rf (x2))]) hE hn dJ3_init_2_8 rfl (Nat.le_of_ble_eq_true rfl) (by cases x2 <;> rfl) ?_
  refine j_aload_n hE 2 dJ3_init_2_9 rfl rfl ?_
  obtain ⟨h4, hw⟩ := hw
  refine jc_ip (jr_O hE hR (As := []) (rest := []) ((ctJ13_length E.1.2.1 E.2.2.1 hc _ _ _ hw) E.2.2.2.1) (lw_O (C := "java/lang/StringBuilder") (owner := "java/lang/AbstractStringBuilder") q765 q767 q766 q768 q769 q141 q770) q772 ⟨by decide, by decide, jdJ13_length.2.2⟩ ⟨Nat.le_of_ble_eq_true rfl, Nat.le_of_ble_eq_true rfl⟩ ⟨Nat.zero_le _, Nat.zero_le _⟩ (gmc_gIs h4 (r := (RJ13, TJ13, 4)) rfl) rfl (Nat.le_of_ble_eq_true rfl) dJ3_init_2_10) (fun r3 hw => ?_)
  refine j_b0 ?_
  refine j_istore (L' := [(4, .int (r3)), (3, va_rf (r1)), (0, .ref (x0)), (1, .ref (x1)), (2, va_rf (x2))]) hE hn dJ3_init_2_13 (Nat.le_of_ble_eq_true rfl) (by cases r1 <;> rfl) ?_
  refine j_aload_n hE 3 dJ3_init_2_15 rfl rfl ?_
  obtain ⟨h6, hw⟩ := hw
  refine jc_ip (jr_U hE hR (As := []) (rest := []) ((ctJ12_isLatin1 E.1.2.1 E.2.2.1 hc _ _ _ hw) E.2.2.2.1) (lw_U (C := "java/lang/StringBuilder") (owner := "java/lang/AbstractStringBuilder") q773 q716 q717 q715 q140 q718) rfl ⟨by decide, by decide, jdJ12_isLatin1.2.2⟩ ⟨Nat.le_of_ble_eq_true rfl, Nat.le_of_ble_eq_true rfl⟩ ⟨Nat.zero_le _, Nat.zero_le _⟩ (gmc_gIs h6 (r := (RJ13, TJ13, 4)) rfl) rfl (Nat.le_of_ble_eq_true rfl) dJ3_init_2_16) (fun r5 hw => ?_)
  refine j_b0 ?_
  refine j_if_eq hE 41 dJ3_init_2_19 (by decide) (fun c7 => ?_) (fun c7 => ?_)
  · replace hw := hw.1 c7
    refine j_gets (v := .int 1) hE q437 hE.inv.2.2.2.1.1 dJ3_init_2_41 ?_
    refine j_if_eq hE 79 dJ3_init_2_44 (by decide) (fun c8 => ?_) (fun c8 => ?_)
    · replace hw := hw.1 c8
      refine j_sub [(0, .ref (x0)), (3, va_rf (r1)), (4, .int (r3))] [2, 1, 0] rfl ?_
      have hz := bJ3_init_2_79 hE hn hR hc hini hK  hw
      exact hz
    · replace hw := hw.2 c8
      refine j_aload_n hE 3 dJ3_init_2_47 rfl rfl ?_
      obtain ⟨f9, h10, hw⟩ := hw
      refine j_getM hE gf_java_lang_AbstractStringBuilder_maybeLatin1 q665 h10 dJ3_init_2_48 ?_
      refine j_if_eq hE 79 dJ3_init_2_51 (by decide) (fun c11 => ?_) (fun c11 => ?_)
      · replace hw := hw.1 c11
        refine j_sub [(0, .ref (x0)), (3, va_rf (r1)), (4, .int (r3))] [2, 1, 0] rfl ?_
        have hz := bJ3_init_2_79 hE hn hR hc hini hK  hw
        exact hz
      · replace hw := hw.2 c11
        refine j_aload_n hE 2 dJ3_init_2_54 rfl rfl ?_
        refine j_aload_nq hE 1 dJ3_init_2_55 rfl rfl ?_
        refine j_iconst hE dJ3_init_2_56 kc_0 ?_
        refine j_iload hE 0 dJ3_init_2_57 rfl ?_
        exact hw.elim
  · replace hw := hw.2 c7
    refine j_aload_n hE 2 dJ3_init_2_22 rfl rfl ?_
    refine j_iconst hE dJ3_init_2_23 kc_0 ?_
    obtain ⟨n12, fs13, h14, h15, h16, hw⟩ := hw
    refine j_putXF hE hini h15 gw_java_lang_String_coder_J3 q794 h14 rfl rfl h16 dJ3_init_2_24 ?_
    refine j_nw (fun w17 e_w17 => ?_)
    replace hw := hw w17 e_w17
    refine j_aload_n hE 2 dJ3_init_2_27 rfl rfl ?_
    refine j_aload_nq hE 1 dJ3_init_2_28 rfl rfl ?_
    refine j_iconst hE dJ3_init_2_29 kc_0 ?_
    refine j_iload hE 0 dJ3_init_2_30 rfl ?_
    obtain ⟨a18, e9, hx⟩ := hw
    subst e9
    have hw := hx
    clear hx
    obtain ⟨cb20, h21, hw⟩ := hw
    refine jc_q (jr_S hE hR (As := [.ref (a18), .int ((0 : Int32)), .int (r3)]) (rest := [.ref (x0)]) ((ctJ15_copyOfRange E.1.2.1 E.2.2.1 hc _ _ _ _ _ _ hw) E.2.2.2.1) (lw_S q774 q775 q143 q776) jdJ15_copyOfRange ⟨Nat.le_of_ble_eq_true rfl, Nat.le_of_ble_eq_true rfl⟩ h21  rfl (Nat.le_of_ble_eq_true rfl) dJ3_init_2_32) (fun r19 w22 hw => ?_)
    refine j_nb (fun b23 e_b23 => ?_)
    replace hw := hw b23 e_b23
    obtain ⟨n24, fs25, h26, h27, h28, hw⟩ := hw
    refine j_putXF hE hini h27 gw_java_lang_String_value_J3 q793 h26 (va_rf_nar _ _ (by decide)) (va_rf_fit _ _ (by decide)) h28 dJ3_init_2_35 ?_
    refine j_nw (fun w29 e_w29 => ?_)
    replace hw := hw w29 e_w29
    refine j_goto hE 97 dJ3_init_2_38 (by decide) ?_
    exact j_vret hE hK dJ3_init_2_97 hw
theorem jdJ3_init_2 : jD yJ3_init_2 2 := by decide +kernel
abbrev wJ3_init_2 := wJ3_init_2_0
theorem ctJ3_init_2 (l : Launch) (G : gG) {c : Nat → Option Nat} (hc : G.2.2.2 = c) (x0 : Nat) (x1 : Nat) (x2 : Option Nat) (w : GW) (bb : Nat × Nat) (K : GW → Prop) (hw : wJ3_init_2_0 c x0 x1 x2 w bb K) {F2 L2 : Nat} (h2 : 3 ≤ F2 ∧ 106 ≤ L2 := by exact ⟨Nat.le_refl _, Nat.le_refl _⟩) : CtV l yJ3_init_2 cJ3_init_2 5 ({ frames := F2, cells := bb.1, slots := bb.2, locals := L2 }) G [.ref (x0), .ref (x1), va_rf (x2)] w (K) := by
  rcases x2 with _ | x2 <;> exact CtV.ofI RJ3 plainc_J3 rfl rfl (Nat.le_of_ble_eq_true rfl) (fun E hE hini hl hG hn hR hK => bJ3_init_2_0 hE hn (hR.le h2.1 h2.2) (by rw [hG]; exact hc) hini hK hw)
def wJ3_init_0 (c : Nat → Option Nat) (x0 : Nat) (x1 : Nat) (w : GW) (bb : Nat × Nat) (K : GW → Prop) : Prop :=
  ∃ cb1 : Nat × Nat, (cb1.1 ≤ bb.1 ∧ cb1.2 ≤ bb.2) ∧ (wJ3_init_2 c x0 x1 none w cb1 (fun w3 => ∀ b4 : Nat × Nat, b4 = (bb.1 - cb1.1, bb.2 - cb1.2) → (K w3)))
set_option maxRecDepth 100000 in
theorem bJ3_init_0 {E : jE} (hE : jOk E cJ3_init RJ3) (hn : E.2.2.2.2 = 2) (hR : jRoom E 4 130) {c : Nat → Option Nat} (hc : E.2.2.1.2.2.2 = c) (hini : E.2.1.1.name = "<init>") {K : GW → Prop} (hK : jRv E (K)) {x0 : Nat} {x1 : Nat} {w : GW} {bb : Nat × Nat}  (hw : wJ3_init_0 c x0 x1 w bb K) : J E w bb [(0, .ref (x0)), (1, .ref (x1))] 0 [] := by
  unfold wJ3_init_0 at hw
  refine j_aload_n hE 0 dJ3_init_0 rfl rfl ?_
  refine j_aload_n hE 1 dJ3_init_1 rfl rfl ?_
  refine j_null hE dJ3_init_2 ?_
  obtain ⟨cb1, h2, hw⟩ := hw
  refine jc_v (jr_I hE hR (As := [.ref (x1), va_rf none]) (rest := []) ((ctJ3_init_2 E.1.2.1 E.2.2.1 hc _ _ _ _ _ _ hw) E.2.2.2.1) (lw_meth q758) q130 q756 q757 rfl jdJ3_init_2 ⟨Nat.le_of_ble_eq_true rfl, Nat.le_of_ble_eq_true rfl⟩ h2  rfl (Nat.le_of_ble_eq_true rfl) dJ3_init_3) (fun w3 hw => ?_)
  refine j_nb (fun b4 e_b4 => ?_)
  replace hw := hw b4 e_b4
  exact j_vret hE hK dJ3_init_6 hw
theorem jdJ3_init : jD yJ3_init 1 := by decide +kernel
abbrev wJ3_init := wJ3_init_0
theorem ctJ3_init (l : Launch) (G : gG) {c : Nat → Option Nat} (hc : G.2.2.2 = c) (x0 : Nat) (x1 : Nat) (w : GW) (bb : Nat × Nat) (K : GW → Prop) (hw : wJ3_init_0 c x0 x1 w bb K) {F2 L2 : Nat} (h2 : 4 ≤ F2 ∧ 130 ≤ L2 := by exact ⟨Nat.le_refl _, Nat.le_refl _⟩) : CtV l yJ3_init cJ3_init 2 ({ frames := F2, cells := bb.1, slots := bb.2, locals := L2 }) G [.ref (x0), .ref (x1)] w (K) :=
  CtV.ofI RJ3 plainc_J3 rfl rfl (Nat.le_of_ble_eq_true rfl) (fun E hE hini hl hG hn hR hK => bJ3_init_0 hE hn (hR.le h2.1 h2.2) (by rw [hG]; exact hc) hini hK hw)
def wJ13_toString_0 (c : Nat → Option Nat) (x0 : Nat) (w : GW) (bb : Nat × Nat) (K : Option Nat → GW → Prop) : Prop :=
  1 ≤ bb.1 ∧ 4 ≤ bb.2 ∧ ∀ qa3 : Nat, w qa3 = none → (∀ w5 : GW, w5 = gup w qa3 (.inr (21, [va_rf none, .int 0, .int 0, .int 0])) → (∀ b6 : Nat × Nat, b6 = (bb.1 - 1, bb.2 - 4) → (∃ cb7 : Nat × Nat, (cb7.1 ≤ b6.1 ∧ cb7.2 ≤ b6.2) ∧ (wJ3_init c qa3 x0 w5 cb7 (fun w9 => ∀ b10 : Nat × Nat, b10 = (b6.1 - cb7.1, b6.2 - cb7.2) → (K (some qa3) w9))))))
set_option maxRecDepth 100000 in
theorem bJ13_toString_0 {E : jE} (hE : jOk E cJ13_toString RJ13) (hn : E.2.2.2.2 = 1) (hR : jRoom E 5 151) {c : Nat → Option Nat} (hc : E.2.2.1.2.2.2 = c) {K : Option Nat → GW → Prop} (hK : jRq E (.object "java/lang/String") (K)) {x0 : Nat} {w : GW} {bb : Nat × Nat}  (hw : wJ13_toString_0 c x0 w bb K) : J E w bb [(0, .ref (x0))] 0 [] := by
  unfold wJ13_toString_0 at hw
  obtain ⟨h1, h2, hw⟩ := hw
  refine j_new (c := 21) (fs := [va_rf none, .int 0, .int 0, .int 0]) hE gok_21 q751 q752 q130 dfl_21 ⟨h1, h2⟩ dJ13_toString_0 (fun qa3 h4 => ?_)
  replace hw := hw qa3 h4
  refine j_nw (fun w5 e_w5 => ?_)
  replace hw := hw w5 e_w5
  refine j_nb (fun b6 e_b6 => ?_)
  replace hw := hw b6 e_b6
  refine j_dup hE dJ13_toString_3 rfl ?_
  refine j_aload_n hE 0 dJ13_toString_4 rfl rfl ?_
  obtain ⟨cb7, h8, hw⟩ := hw
  refine jc_v (jr_I hE hR (As := [.ref (x0)]) (rest := [.ref (qa3)]) ((ctJ3_init E.1.2.1 E.2.2.1 hc _ _ _ _ _ hw) E.2.2.2.1) (lw_meth q755) q130 q753 q754 rfl jdJ3_init ⟨Nat.le_of_ble_eq_true rfl, Nat.le_of_ble_eq_true rfl⟩ h8  rfl (Nat.le_of_ble_eq_true rfl) dJ13_toString_5) (fun w9 hw => ?_)
  refine j_nb (fun b10 e_b10 => ?_)
  replace hw := hw b10 e_b10
  exact j_qret hE hK (r := some qa3) dJ13_toString_8 (by first | exact Or.inl ⟨_, rfl⟩ | exact Or.inr ⟨_, rfl⟩) hw
theorem jdJ13_toString : jD yJ13_toString 0 := by decide +kernel
abbrev wJ13_toString := wJ13_toString_0
theorem ctJ13_toString (l : Launch) (G : gG) {c : Nat → Option Nat} (hc : G.2.2.2 = c) (x0 : Nat) (w : GW) (bb : Nat × Nat) (K : Option Nat → GW → Prop) (hw : wJ13_toString_0 c x0 w bb K) {F2 L2 : Nat} (h2 : 5 ≤ F2 ∧ 151 ≤ L2 := by exact ⟨Nat.le_refl _, Nat.le_refl _⟩) : CtQ l yJ13_toString cJ13_toString 1 (.object "java/lang/String") ({ frames := F2, cells := bb.1, slots := bb.2, locals := L2 }) G [.ref (x0)] w (K) :=
  CtQ.of RJ13 plainc_J13 rfl (Nat.le_of_ble_eq_true rfl) (fun E hE hl hG hn hR hK => bJ13_toString_0 hE hn (hR.le h2.1 h2.2) (by rw [hG]; exact hc) hK hw)
def wX2_name_17 (c : Nat → Option Nat) (x0 : Nat) (w : GW) (bb : Nat × Nat) (K : Option Nat → GW → Prop) (KX : String → Nat → GW → Prop) : Prop :=
  gmc w x0 = some 1 ∧ (∃ cb3 : Nat × Nat, (cb3.1 ≤ bb.1 ∧ cb3.2 ≤ bb.2) ∧ (wX2_wrong c x0 ((1 : Int32)) w cb3 (fun r1 w5 => ∀ b6 : Nat × Nat, b6 = (bb.1 - cb3.1, bb.2 - cb3.2) → (∃ a7 : Nat, r1 = some a7 ∧ (∃ (cc : Nat) (fs : List Value) (rr : vw_C), w5 a7 = some (true, .inr (cc, fs)) ∧ gCl[cc]? = some rr ∧ KX rr.1 a7 w5)))))
set_option maxRecDepth 100000 in
theorem bX2_name_17 {E : jE} (hE : jOk E cX2_name RX2) (hn : E.2.2.2.2 = 3) (hR : jRoom E 6 172) {c : Nat → Option Nat} (hc : E.2.2.1.2.2.2 = c) (hN : jNoH E) {K : Option Nat → GW → Prop} {KX : String → Nat → GW → Prop} (hK : jXq E (.object "java/lang/String") (K) KX) {x0 : Nat} {w : GW} {bb : Nat × Nat}  (hw : wX2_name_17 c x0 w bb K KX) : J E w bb [(0, .ref (x0))] 17 [] := by
  unfold wX2_name_17 at hw
  refine j_aload_n hE 0 dX2_name_17 rfl rfl ?_
  refine j_iconst hE dX2_name_18 kc_1 ?_
  obtain ⟨h2, hw⟩ := hw
  obtain ⟨cb3, h4, hw⟩ := hw
  refine jc_q (jr_V hE hR (As := [.int ((1 : Int32))]) (rest := []) ((ctX2_wrong E.1.2.1 E.2.2.1 hc _ _ _ _ _ hw) E.2.2.2.1) (lw_V q544 q546 qs5 q122 q547) jdX2_wrong ⟨Nat.le_of_ble_eq_true rfl, Nat.le_of_ble_eq_true rfl⟩ h4 (gmc_gIs h2 (r := (RX2, TX2, 8)) rfl) rfl (Nat.le_of_ble_eq_true rfl) dX2_name_19) (fun r1 w5 hw => ?_)
  refine j_nb (fun b6 e_b6 => ?_)
  replace hw := hw b6 e_b6
  obtain ⟨a7, e9, hx⟩ := hw
  subst e9
  have hw := hx
  clear hx
  obtain ⟨cc, fs, rr, h1, h2, hw⟩ := hw
  exact jx_throw hE h1 h2 dX2_name_22 (jx_out hE hK.2 hN hw)
def wX2_name_38_b (c : Nat → Option Nat) (x0 : Nat) (x1 : Nat) (x2 : Int32) (w : GW) (bb : Nat × Nat) (KL38 : Int32 × GW × (Nat × Nat) → Prop) (K : Option Nat → GW → Prop) (KX : String → Nat → GW → Prop) : Prop :=
  ∃ f1 : Int32, gfm w x0 [1] 2 = some (.int f1) ∧ ((f1 ≤ x2 → (gmc w x1 = some 22 ∧ (∃ cb6 : Nat × Nat, (cb6.1 ≤ bb.1 ∧ cb6.2 ≤ bb.2) ∧ (wJ13_toString c x1 w cb6 (fun r4 w8 => ∀ b9 : Nat × Nat, b9 = (bb.1 - cb6.1, bb.2 - cb6.2) → (K r4 w8)))))) ∧ (¬ f1 ≤ x2 → (∃ f10 : Option Nat, gfm w x0 [1] 0 = some (va_rf f10) ∧ (∃ a12 : Nat, f10 = some a12 ∧ (∃ (n13 : Nat) (f14 : Nat → Int32), gai w a12 1 = some (n13, f14) ∧ vp_in x2 n13 ∧ (gmc w x1 = some 22 ∧ (∃ cb19 : Nat × Nat, (cb19.1 ≤ bb.1 ∧ cb19.2 ≤ bb.2) ∧ (wJ13_append c x1 (i2c (rd f14 x2)) w cb19 (fun r17 w21 => ∀ b22 : Nat × Nat, b22 = (bb.1 - cb19.1, bb.2 - cb19.2) → (KL38 ((x2 + 1), w21, b22)))))))))))
def wX2_name_38 (c : Nat → Option Nat) (x0 : Nat) (x1 : Nat) (x2 : Int32) (w : GW) (bb : Nat × Nat) (K : Option Nat → GW → Prop) (KX : String → Nat → GW → Prop) : Prop := lfp (σ := Int32 × GW × (Nat × Nat)) (fun KL s => wX2_name_38_b c x0 x1 s.1 s.2.1 s.2.2 KL K KX) (x2, w, bb)
set_option maxRecDepth 100000 in
theorem bX2_name_38 {E : jE} (hE : jOk E cX2_name RX2) (hn : E.2.2.2.2 = 3) (hR : jRoom E 6 172) {c : Nat → Option Nat} (hc : E.2.2.1.2.2.2 = c) (hN : jNoH E) {K : Option Nat → GW → Prop} {KX : String → Nat → GW → Prop} (hK : jXq E (.object "java/lang/String") (K) KX) {x0 : Nat} {x1 : Nat} {x2 : Int32} {w : GW} {bb : Nat × Nat}  (hw : wX2_name_38 c x0 x1 x2 w bb K KX) : J E w bb [(0, .ref (x0)), (1, .ref (x1)), (2, .int (x2))] 38 [] := by
  refine lfp_sound (σ := Int32 × GW × (Nat × Nat)) (F := fun KL s => wX2_name_38_b c x0 x1 s.1 s.2.1 s.2.2 KL K KX) (P := fun s => J E (s.2.1) (s.2.2) [(0, .ref (x0)), (1, .ref (x1)), (2, .int (s.1))] 38 []) ?_ hw
  clear hw
  rintro KL38 ⟨x2, w, bb⟩ hw ih38
  have hw : wX2_name_38_b c x0 x1 x2 w bb KL38 K KX := hw
  unfold wX2_name_38_b at hw
  refine j_iload_n hE 2 dX2_name_38 rfl rfl ?_
  refine j_aload_n hE 0 dX2_name_39 rfl rfl ?_
  obtain ⟨f1, h2, hw⟩ := hw
  refine j_getM hE gf_GlassStreet_Reader_to q180 h2 dX2_name_40 ?_
  refine j_icmp_ge hE 64 dX2_name_43 (by decide) (fun c3 => ?_) (fun c3 => ?_)
  · replace hw := hw.1 c3
    refine j_aload_n hE 1 dX2_name_64 rfl rfl ?_
    obtain ⟨h5, hw⟩ := hw
    obtain ⟨cb6, h7, hw⟩ := hw
    refine jc_q (jr_V hE hR (As := []) (rest := []) ((ctJ13_toString E.1.2.1 E.2.2.1 hc _ _ _ _ hw) E.2.2.2.1) (lw_V q747 q748 q749 q141 q750) jdJ13_toString ⟨Nat.le_of_ble_eq_true rfl, Nat.le_of_ble_eq_true rfl⟩ h7 (gmc_gIs h5 (r := (RJ13, TJ13, 4)) rfl) rfl (Nat.le_of_ble_eq_true rfl) dX2_name_65) (fun r4 w8 hw => ?_)
    refine j_nb (fun b9 e_b9 => ?_)
    replace hw := hw b9 e_b9
    exact jx_qret hE hK (r := r4) dX2_name_68 (by first | exact Or.inl ⟨_, rfl⟩ | exact Or.inr ⟨_, rfl⟩) hw
  · replace hw := hw.2 c3
    refine j_aload_n hE 1 dX2_name_46 rfl rfl ?_
    refine j_aload_n hE 0 dX2_name_47 rfl rfl ?_
    obtain ⟨f10, h11, hw⟩ := hw
    refine j_getM hE gf_GlassStreet_Reader_text q178 h11 dX2_name_48 ?_
    refine j_iload_n hE 2 dX2_name_51 rfl rfl ?_
    obtain ⟨a12, e9, hx⟩ := hw
    subst e9
    have hw := hx
    clear hx
    obtain ⟨n13, f14, h15, h16, hw⟩ := hw
    refine j_aldB hE h15 h16 dX2_name_52 ?_
    refine j_i2c hE dX2_name_53 ?_
    obtain ⟨h18, hw⟩ := hw
    obtain ⟨cb19, h20, hw⟩ := hw
    refine jc_q (jr_V hE hR (As := [.int (i2c (rd f14 x2))]) (rest := []) ((ctJ13_append E.1.2.1 E.2.2.1 hc _ _ _ _ _ hw) E.2.2.2.1) (lw_V q676 q677 q678 q141 q679) jdJ13_append ⟨Nat.le_of_ble_eq_true rfl, Nat.le_of_ble_eq_true rfl⟩ h20 (gmc_gIs h18 (r := (RJ13, TJ13, 4)) rfl) rfl (Nat.le_of_ble_eq_true rfl) dX2_name_54) (fun r17 w21 hw => ?_)
    refine j_nb (fun b22 e_b22 => ?_)
    replace hw := hw b22 e_b22
    refine j_pop hE dX2_name_57 (va_rf_cat _) ?_
    refine j_iinc (L' := [(2, .int (x2 + 1)), (0, .ref (x0)), (1, .ref (x1))]) hE hn 2 dX2_name_58 rfl (congrArg (x2 + ·) kc_1) (Nat.le_of_ble_eq_true rfl) rfl ?_
    refine j_goto hE 38 dX2_name_61 (by decide) ?_
    refine j_sub [(0, .ref (x0)), (1, .ref (x1)), (2, .int (x2 + 1))] [1, 2, 0] rfl ?_
    have hz := ih38 ((x2 + 1), w21, b22) hw
    exact hz
def wX2_name_0 (c : Nat → Option Nat) (x0 : Nat) (w : GW) (bb : Nat × Nat) (K : Option Nat → GW → Prop) (KX : String → Nat → GW → Prop) : Prop :=
  ∃ f1 : Int32, gfm w x0 [1] 3 = some (.int f1) ∧ ((¬ f1 = ((1 : Int32)) → (wX2_name_17 c x0 w bb K KX)) ∧ (f1 = ((1 : Int32)) → (∀ r4 : Option Nat, r4 = c 2 → (∃ a5 : Nat, r4 = some a5 ∧ (gmc w x0 = some 1 ∧ (wX2_which c x0 a5 w (fun r6 => (r6 < 0 → (1 ≤ bb.1 ∧ 4 ≤ bb.2 ∧ ∀ qa11 : Nat, w qa11 = none → (∀ w13 : GW, w13 = gup w qa11 (.inr (22, [va_rf none, .int 0, .int 0, .int 0])) → (∀ b14 : Nat × Nat, b14 = (bb.1 - 1, bb.2 - 4) → (∃ cb15 : Nat × Nat, (cb15.1 ≤ b14.1 ∧ cb15.2 ≤ b14.2) ∧ (wJ13_init c qa11 (nI 8) w13 cb15 (fun w17 => ∀ b18 : Nat × Nat, b18 = (b14.1 - cb15.1, b14.2 - cb15.2) → (∃ f19 : Int32, gfm w17 x0 [1] 4 = some (.int f19) ∧ (wX2_name_38 c x0 qa11 f19 w17 b18 K KX))))))))) ∧ (¬ r6 < 0 → (wX2_name_17 c x0 w bb K KX)))))))))
set_option maxRecDepth 100000 in
theorem bX2_name_0 {E : jE} (hE : jOk E cX2_name RX2) (hn : E.2.2.2.2 = 3) (hR : jRoom E 6 172) {c : Nat → Option Nat} (hc : E.2.2.1.2.2.2 = c) (hN : jNoH E) {K : Option Nat → GW → Prop} {KX : String → Nat → GW → Prop} (hK : jXq E (.object "java/lang/String") (K) KX) {x0 : Nat} {w : GW} {bb : Nat × Nat}  (hw : wX2_name_0 c x0 w bb K KX) : J E w bb [(0, .ref (x0))] 0 [] := by
  unfold wX2_name_0 at hw
  refine j_aload_n hE 0 dX2_name_0 rfl rfl ?_
  obtain ⟨f1, h2, hw⟩ := hw
  refine j_getM hE gf_GlassStreet_Reader_kind q181 h2 dX2_name_1 ?_
  refine j_iconst hE dX2_name_4 kc_1 ?_
  refine j_icmp_ne hE 17 dX2_name_5 (by decide) (fun c3 => ?_) (fun c3 => ?_)
  · replace hw := hw.1 c3
    have hz := bX2_name_17 hE hn hR hc hN hK  hw
    exact hz
  · replace hw := hw.2 c3
    refine j_aload_n hE 0 dX2_name_8 rfl rfl ?_
    obtain ⟨r4, e_r4⟩ : ∃ r9 : Option Nat, r9 = c 2 := ⟨_, rfl⟩
    replace hw := hw r4 e_r4
    refine j_ldcS hE 2 (by decide) rfl hc e_r4 dX2_name_9 ?_
    obtain ⟨a5, e9, hx⟩ := hw
    subst e9
    have hw := hx
    clear hx
    obtain ⟨h7, hw⟩ := hw
    refine jc_ip (jr_V hE hR (As := [.ref (a5)]) (rest := []) ((ctX2_which E.1.2.1 E.2.2.1 hc _ _ _ _ hw) E.2.2.2.1) (lw_V q518 q520 qs4 q122 q521) jdX2_which ⟨Nat.le_of_ble_eq_true rfl, Nat.le_of_ble_eq_true rfl⟩ ⟨Nat.zero_le _, Nat.zero_le _⟩ (gmc_gIs h7 (r := (RX2, TX2, 8)) rfl) rfl (Nat.le_of_ble_eq_true rfl) dX2_name_11) (fun r6 hw => ?_)
    refine j_b0 ?_
    refine j_if_lt hE 23 dX2_name_14 (by decide) (fun c8 => ?_) (fun c8 => ?_)
    · replace hw := hw.1 c8
      obtain ⟨h9, h10, hw⟩ := hw
      refine j_new (c := 22) (fs := [va_rf none, .int 0, .int 0, .int 0]) hE gok_22 q646 q647 q141 dfl_22 ⟨h9, h10⟩ dX2_name_23 (fun qa11 h12 => ?_)
      replace hw := hw qa11 h12
      refine j_nw (fun w13 e_w13 => ?_)
      replace hw := hw w13 e_w13
      refine j_nb (fun b14 e_b14 => ?_)
      replace hw := hw b14 e_b14
      refine j_dup hE dX2_name_26 rfl ?_
      refine j_bipush hE dX2_name_27 kb_8 ?_
      obtain ⟨cb15, h16, hw⟩ := hw
      refine jc_v (jr_I hE hR (As := [.int (nI 8)]) (rest := [.ref (qa11)]) ((ctJ13_init E.1.2.1 E.2.2.1 hc _ _ _ _ _ hw) E.2.2.2.1) (lw_meth q650) q141 q648 q649 rfl jdJ13_init ⟨Nat.le_of_ble_eq_true rfl, Nat.le_of_ble_eq_true rfl⟩ h16  rfl (Nat.le_of_ble_eq_true rfl) dX2_name_29) (fun w17 hw => ?_)
      refine j_nb (fun b18 e_b18 => ?_)
      replace hw := hw b18 e_b18
      refine j_astore_n (L' := [(1, .ref (qa11)), (0, .ref (x0))]) hE hn dX2_name_32 rfl (Nat.le_of_ble_eq_true rfl) rfl ?_
      refine j_aload_n hE 1 dX2_name_33 rfl rfl ?_
      obtain ⟨f19, h20, hw⟩ := hw
      refine j_getM hE gf_GlassStreet_Reader_from q182 h20 dX2_name_34 ?_
      refine j_istore_n (L' := [(2, .int (f19)), (1, .ref (qa11)), (0, .ref (x0))]) hE hn dX2_name_37 rfl (Nat.le_of_ble_eq_true rfl) rfl ?_
      refine j_sub [(0, .ref (x0)), (1, .ref (qa11)), (2, .int (f19))] [2, 1, 0] rfl ?_
      have hz := bX2_name_38 hE hn hR hc hN hK  hw
      exact hz
    · replace hw := hw.2 c8
      have hz := bX2_name_17 hE hn hR hc hN hK  hw
      exact hz
theorem jdX2_name : jD yX2_name 0 := by decide +kernel
abbrev wX2_name := wX2_name_0
theorem ctX2_name (l : Launch) (G : gG) {c : Nat → Option Nat} (hc : G.2.2.2 = c) (x0 : Nat) (w : GW) (bb : Nat × Nat) (K : Option Nat → GW → Prop) (KX : String → Nat → GW → Prop) (hw : wX2_name_0 c x0 w bb K KX) {F2 L2 : Nat} (h2 : 6 ≤ F2 ∧ 172 ≤ L2 := by exact ⟨Nat.le_refl _, Nat.le_refl _⟩) : CtXQ l yX2_name cX2_name 3 (.object "java/lang/String") ({ frames := F2, cells := bb.1, slots := bb.2, locals := L2 }) G [.ref (x0)] w (K) KX :=
  CtXQ.of RX2 plainc_X2 rfl (Nat.le_of_ble_eq_true rfl) (fun E hE hl hG hn hR hN hK => bX2_name_0 hE hn (hR.le h2.1 h2.2) (by rw [hG]; exact hc) hN hK hw)
def wJ16_checkIndex_0 (c : Nat → Option Nat) (x0 : Int32) (x1 : Int32) (w0 : GW) (K : Int32 → Prop) : Prop :=
  wJ7_checkIndex c x0 x1 none w0 (fun r1 => K r1)
set_option maxRecDepth 100000 in
theorem bJ16_checkIndex_0 {E : jE} (hE : jOk E cJ16_checkIndex RJ16) (hn : E.2.2.2.2 = 2) (hR : jRoom E 1 22) {c : Nat → Option Nat} (hc : E.2.2.1.2.2.2 = c) {b : Nat × Nat} {w0 : GW} {K : Int32 → Prop} (hK : jRi E .int (KPI w0 K)) {x0 : Int32} {x1 : Int32}  (hw : wJ16_checkIndex_0 c x0 x1 w0 K) : J E w0 b [(0, .int (x0)), (1, .int (x1))] 0 [] := by
  unfold wJ16_checkIndex_0 at hw
  refine j_iload_n hE 0 dJ16_checkIndex_0 rfl rfl ?_
  refine j_iload_n hE 1 dJ16_checkIndex_1 rfl rfl ?_
  refine j_null hE dJ16_checkIndex_2 ?_
  refine jc_ip (jr_S hE hR (As := [.int (x0), .int (x1), va_rf none]) (rest := []) ((ctJ7_checkIndex E.1.2.1 E.2.2.1 hc _ _ _ _ _ hw) E.2.2.2.1) (lw_S q816 q535 q134 q536) jdJ7_checkIndex ⟨Nat.le_of_ble_eq_true rfl, Nat.le_of_ble_eq_true rfl⟩ ⟨Nat.zero_le _, Nat.zero_le _⟩  rfl (Nat.le_of_ble_eq_true rfl) dJ16_checkIndex_3) (fun r1 hw => ?_)
  refine j_b0 ?_
  exact j_iret hE hK dJ16_checkIndex_6 rfl ⟨rfl, hw⟩
theorem jdJ16_checkIndex : jD yJ16_checkIndex 2 := by decide +kernel
abbrev wJ16_checkIndex := wJ16_checkIndex_0
theorem ctJ16_checkIndex (l : Launch) (G : gG) {c : Nat → Option Nat} (hc : G.2.2.2 = c) (x0 : Int32) (x1 : Int32) (w0 : GW) (K : Int32 → Prop) (hw : wJ16_checkIndex_0 c x0 x1 w0 K) {F2 L2 : Nat} (h2 : 1 ≤ F2 ∧ 22 ≤ L2 := by exact ⟨Nat.le_refl _, Nat.le_refl _⟩) : CtI l yJ16_checkIndex cJ16_checkIndex 2 .int ({ frames := F2, cells := 0, slots := 0, locals := L2 }) G [.int (x0), .int (x1)] w0 (KPI w0 K) :=
  CtI.of RJ16 plainc_J16 rfl (Nat.le_of_ble_eq_true rfl) (fun E hE hl hG hn hR hK => bJ16_checkIndex_0 hE hn (hR.le h2.1 h2.2) (by rw [hG]; exact hc) hK hw)
def wJ2_elementData_0 (c : Nat → Option Nat) (x0 : Nat) (x1 : Int32) (w0 : GW) (K : Option Nat → Prop) : Prop :=
  ∃ f1 : Option Nat, gfm w0 x0 [20] 1 = some (va_rf f1) ∧ (∃ a3 : Nat, f1 = some a3 ∧ (∃ (n4 : Nat) (f5 : Nat → Option Nat), gaq w0 a3 4 = some (n4, f5) ∧ vp_in x1 n4 ∧ (∀ r8 : Option Nat, f5 (x1).toNatClampNeg = r8 → (K r8))))
set_option maxRecDepth 100000 in
theorem bJ2_elementData_0 {E : jE} (hE : jOk E cJ2_elementData RJ2) (hn : E.2.2.2.2 = 2) (hR : jRoom E 0 0) {c : Nat → Option Nat} (hc : E.2.2.1.2.2.2 = c) {b : Nat × Nat} {w0 : GW} {K : Option Nat → Prop} (hK : jRq E (.object "java/lang/Object") (KPQ w0 K)) {x0 : Nat} {x1 : Int32}  (hw : wJ2_elementData_0 c x0 x1 w0 K) : J E w0 b [(0, .ref (x0)), (1, .int (x1))] 0 [] := by
  unfold wJ2_elementData_0 at hw
  refine j_aload_n hE 0 dJ2_elementData_0 rfl rfl ?_
  obtain ⟨f1, h2, hw⟩ := hw
  refine j_getM hE gf_java_util_ArrayList_elementData q226 h2 dJ2_elementData_1 ?_
  refine j_iload_n hE 1 dJ2_elementData_4 rfl rfl ?_
  obtain ⟨a3, e9, hx⟩ := hw
  subst e9
  have hw := hx
  clear hx
  obtain ⟨n4, f5, h6, h7, hw⟩ := hw
  obtain ⟨r8, e_r8⟩ : ∃ r9, f5 (x1).toNatClampNeg = r9 := ⟨_, rfl⟩
  replace hw := hw r8 e_r8
  refine j_aldQ hE (t := 4) ⟨by decide, by decide⟩ h6 h7 e_r8 dJ2_elementData_5 ?_
  exact j_qret hE hK (r := r8) dJ2_elementData_6 (by first | exact Or.inl ⟨_, rfl⟩ | exact Or.inr ⟨_, rfl⟩) ⟨rfl, hw⟩
theorem jdJ2_elementData : jD yJ2_elementData 1 := by decide +kernel
abbrev wJ2_elementData := wJ2_elementData_0
theorem ctJ2_elementData (l : Launch) (G : gG) {c : Nat → Option Nat} (hc : G.2.2.2 = c) (x0 : Nat) (x1 : Int32) (w0 : GW) (K : Option Nat → Prop) (hw : wJ2_elementData_0 c x0 x1 w0 K) {F2 L2 : Nat} (h2 : 0 ≤ F2 ∧ 0 ≤ L2 := by exact ⟨Nat.le_refl _, Nat.le_refl _⟩) : CtQ l yJ2_elementData cJ2_elementData 2 (.object "java/lang/Object") ({ frames := F2, cells := 0, slots := 0, locals := L2 }) G [.ref (x0), .int (x1)] w0 (KPQ w0 K) :=
  CtQ.of RJ2 plainc_J2 rfl (Nat.le_of_ble_eq_true rfl) (fun E hE hl hG hn hR hK => bJ2_elementData_0 hE hn (hR.le h2.1 h2.2) (by rw [hG]; exact hc) hK hw)
def wJ2_get_0 (c : Nat → Option Nat) (x0 : Nat) (x1 : Int32) (w0 : GW) (K : Option Nat → Prop) : Prop :=
  ∃ f1 : Int32, gfm w0 x0 [20] 2 = some (.int f1) ∧ (wJ16_checkIndex c x1 f1 w0 (fun r3 => gmc w0 x0 = some 20 ∧ (wJ2_elementData c x0 x1 w0 (fun r4 => K r4))))
set_option maxRecDepth 100000 in
theorem bJ2_get_0 {E : jE} (hE : jOk E cJ2_get RJ2) (hn : E.2.2.2.2 = 2) (hR : jRoom E 2 43) {c : Nat → Option Nat} (hc : E.2.2.1.2.2.2 = c) {b : Nat × Nat} {w0 : GW} {K : Option Nat → Prop} (hK : jRq E (.object "java/lang/Object") (KPQ w0 K)) {x0 : Nat} {x1 : Int32}  (hw : wJ2_get_0 c x0 x1 w0 K) : J E w0 b [(0, .ref (x0)), (1, .int (x1))] 0 [] := by
  unfold wJ2_get_0 at hw
  refine j_iload_n hE 1 dJ2_get_0 rfl rfl ?_
  refine j_aload_n hE 0 dJ2_get_1 rfl rfl ?_
  obtain ⟨f1, h2, hw⟩ := hw
  refine j_getM hE gf_java_util_ArrayList_size q227 h2 dJ2_get_2 ?_
  refine jc_ip (jr_S hE hR (As := [.int (x1), .int (f1)]) (rest := []) ((ctJ16_checkIndex E.1.2.1 E.2.2.1 hc _ _ _ _ hw) E.2.2.2.1) (lw_S q813 q814 q145 q815) jdJ16_checkIndex ⟨Nat.le_of_ble_eq_true rfl, Nat.le_of_ble_eq_true rfl⟩ ⟨Nat.zero_le _, Nat.zero_le _⟩  rfl (Nat.le_of_ble_eq_true rfl) dJ2_get_5) (fun r3 hw => ?_)
  refine j_b0 ?_
  refine j_pop hE dJ2_get_8 rfl ?_
  refine j_aload_n hE 0 dJ2_get_9 rfl rfl ?_
  refine j_iload_n hE 1 dJ2_get_10 rfl rfl ?_
  obtain ⟨h5, hw⟩ := hw
  refine jc_qp (jr_V hE hR (As := [.int (x1)]) (rest := []) ((ctJ2_elementData E.1.2.1 E.2.2.1 hc _ _ _ _ hw) E.2.2.2.1) (lw_V q817 q818 q819 q126 q820) jdJ2_elementData ⟨Nat.le_of_ble_eq_true rfl, Nat.le_of_ble_eq_true rfl⟩ ⟨Nat.zero_le _, Nat.zero_le _⟩ (gmc_gIs h5 (r := (RJ2, TJ2, 3)) rfl) rfl (Nat.le_of_ble_eq_true rfl) dJ2_get_11) (fun r4 hw => ?_)
  refine j_b0 ?_
  exact j_qret hE hK (r := r4) dJ2_get_14 (by first | exact Or.inl ⟨_, rfl⟩ | exact Or.inr ⟨_, rfl⟩) ⟨rfl, hw⟩
theorem jdJ2_get : jD yJ2_get 1 := by decide +kernel
abbrev wJ2_get := wJ2_get_0
theorem ctJ2_get (l : Launch) (G : gG) {c : Nat → Option Nat} (hc : G.2.2.2 = c) (x0 : Nat) (x1 : Int32) (w0 : GW) (K : Option Nat → Prop) (hw : wJ2_get_0 c x0 x1 w0 K) {F2 L2 : Nat} (h2 : 2 ≤ F2 ∧ 43 ≤ L2 := by exact ⟨Nat.le_refl _, Nat.le_refl _⟩) : CtQ l yJ2_get cJ2_get 2 (.object "java/lang/Object") ({ frames := F2, cells := 0, slots := 0, locals := L2 }) G [.ref (x0), .int (x1)] w0 (KPQ w0 K) :=
  CtQ.of RJ2 plainc_J2 rfl (Nat.le_of_ble_eq_true rfl) (fun E hE hl hG hn hR hK => bJ2_get_0 hE hn (hR.le h2.1 h2.2) (by rw [hG]; exact hc) hK hw)
def wJ4_equals_9_b (c : Nat → Option Nat) (x0 : Nat) (x1 : Nat) (x2 : Int32) (w0 : GW) (KL9 : Int32 → Prop) (K : Int32 → Prop) : Prop :=
  ∃ n1 : Nat, galen w0 x0 1 = some n1 ∧ (((nI n1) ≤ x2 → (K ((1 : Int32)))) ∧ (¬ (nI n1) ≤ x2 → (∃ (n6 : Nat) (f7 : Nat → Int32), gai w0 x0 1 = some (n6, f7) ∧ vp_in x2 n6 ∧ (∃ (n10 : Nat) (f11 : Nat → Int32), gai w0 x1 1 = some (n10, f11) ∧ vp_in x2 n10 ∧ (((rd f7 x2) = (rd f11 x2) → (KL9 (x2 + 1))) ∧ (¬ (rd f7 x2) = (rd f11 x2) → (K ((0 : Int32)))))))))
def wJ4_equals_9 (c : Nat → Option Nat) (x0 : Nat) (x1 : Nat) (x2 : Int32) (w0 : GW) (K : Int32 → Prop) : Prop := lfp (σ := Int32) (fun KL s => wJ4_equals_9_b c x0 x1 s w0 KL K) x2
set_option maxRecDepth 100000 in
theorem bJ4_equals_9 {E : jE} (hE : jOk E cJ4_equals RJ4) (hn : E.2.2.2.2 = 3) (hR : jRoom E 0 0) {c : Nat → Option Nat} (hc : E.2.2.1.2.2.2 = c) {b : Nat × Nat} {w0 : GW} {K : Int32 → Prop} (hK : jRi E .boolean (KPI w0 K)) {x0 : Nat} {x1 : Nat} {x2 : Int32}  (hw : wJ4_equals_9 c x0 x1 x2 w0 K) : J E w0 b [(0, .ref (x0)), (1, .ref (x1)), (2, .int (x2))] 9 [] := by
  refine lfp_sound (σ := Int32) (F := fun KL s => wJ4_equals_9_b c x0 x1 s w0 KL K) (P := fun s => J E w0 b [(0, .ref (x0)), (1, .ref (x1)), (2, .int (s))] 9 []) ?_ hw
  clear hw
  rintro KL9 x2 hw ih9
  have hw : wJ4_equals_9_b c x0 x1 x2 w0 KL9 K := hw
  unfold wJ4_equals_9_b at hw
  refine j_iload_n hE 2 dJ4_equals_9 rfl rfl ?_
  refine j_aload_n hE 0 dJ4_equals_10 rfl rfl ?_
  obtain ⟨n1, h3, hw⟩ := hw
  refine j_alen hE h3 (Nat.le_of_ble_eq_true rfl) dJ4_equals_11 ?_
  refine j_icmp_ge hE 32 dJ4_equals_12 (by decide) (fun c5 => ?_) (fun c5 => ?_)
  · replace hw := hw.1 c5
    refine j_iconst hE dJ4_equals_32 kc_1 ?_
    exact j_iret hE hK dJ4_equals_33 rfl ⟨rfl, hw⟩
  · replace hw := hw.2 c5
    refine j_aload_n hE 0 dJ4_equals_15 rfl rfl ?_
    refine j_iload_n hE 2 dJ4_equals_16 rfl rfl ?_
    obtain ⟨n6, f7, h8, h9, hw⟩ := hw
    refine j_aldB hE h8 h9 dJ4_equals_17 ?_
    refine j_aload_n hE 1 dJ4_equals_18 rfl rfl ?_
    refine j_iload_n hE 2 dJ4_equals_19 rfl rfl ?_
    obtain ⟨n10, f11, h12, h13, hw⟩ := hw
    refine j_aldB hE h12 h13 dJ4_equals_20 ?_
    refine j_icmp_eq hE 26 dJ4_equals_21 (by decide) (fun c14 => ?_) (fun c14 => ?_)
    · replace hw := hw.1 c14
      refine j_iinc (L' := [(2, .int (x2 + 1)), (0, .ref (x0)), (1, .ref (x1))]) hE hn 2 dJ4_equals_26 rfl (congrArg (x2 + ·) kc_1) (Nat.le_of_ble_eq_true rfl) rfl ?_
      refine j_goto hE 9 dJ4_equals_29 (by decide) ?_
      refine j_sub [(0, .ref (x0)), (1, .ref (x1)), (2, .int (x2 + 1))] [1, 2, 0] rfl ?_
      have hz := ih9 (x2 + 1) hw
      exact hz
    · replace hw := hw.2 c14
      refine j_iconst hE dJ4_equals_24 kc_0 ?_
      exact j_iret hE hK dJ4_equals_25 rfl ⟨rfl, hw⟩
def wJ4_equals_0 (c : Nat → Option Nat) (x0 : Nat) (x1 : Nat) (w0 : GW) (K : Int32 → Prop) : Prop :=
  ∃ n1 : Nat, galen w0 x0 1 = some n1 ∧ (∃ n5 : Nat, galen w0 x1 1 = some n5 ∧ ((¬ (nI n1) = (nI n5) → (K ((0 : Int32)))) ∧ ((nI n1) = (nI n5) → (wJ4_equals_9 c x0 x1 ((0 : Int32)) w0 K))))
set_option maxRecDepth 100000 in
theorem bJ4_equals_0 {E : jE} (hE : jOk E cJ4_equals RJ4) (hn : E.2.2.2.2 = 3) (hR : jRoom E 0 0) {c : Nat → Option Nat} (hc : E.2.2.1.2.2.2 = c) {b : Nat × Nat} {w0 : GW} {K : Int32 → Prop} (hK : jRi E .boolean (KPI w0 K)) {x0 : Nat} {x1 : Nat}  (hw : wJ4_equals_0 c x0 x1 w0 K) : J E w0 b [(0, .ref (x0)), (1, .ref (x1))] 0 [] := by
  unfold wJ4_equals_0 at hw
  refine j_aload_n hE 0 dJ4_equals_0 rfl rfl ?_
  obtain ⟨n1, h3, hw⟩ := hw
  refine j_alen hE h3 (Nat.le_of_ble_eq_true rfl) dJ4_equals_1 ?_
  refine j_aload_n hE 1 dJ4_equals_2 rfl rfl ?_
  obtain ⟨n5, h7, hw⟩ := hw
  refine j_alen hE h7 (Nat.le_of_ble_eq_true rfl) dJ4_equals_3 ?_
  refine j_icmp_ne hE 34 dJ4_equals_4 (by decide) (fun c9 => ?_) (fun c9 => ?_)
  · replace hw := hw.1 c9
    refine j_iconst hE dJ4_equals_34 kc_0 ?_
    exact j_iret hE hK dJ4_equals_35 rfl ⟨rfl, hw⟩
  · replace hw := hw.2 c9
    refine j_iconst hE dJ4_equals_7 kc_0 ?_
    refine j_istore_n (L' := [(2, .int ((0 : Int32))), (0, .ref (x0)), (1, .ref (x1))]) hE hn dJ4_equals_8 rfl (Nat.le_of_ble_eq_true rfl) rfl ?_
    refine j_sub [(0, .ref (x0)), (1, .ref (x1)), (2, .int ((0 : Int32)))] [1, 2, 0] rfl ?_
    have hz := bJ4_equals_9 (b := b) hE hn hR hc hK  hw
    exact hz
theorem jdJ4_equals : jD yJ4_equals 2 := by decide +kernel
abbrev wJ4_equals := wJ4_equals_0
theorem ctJ4_equals (l : Launch) (G : gG) {c : Nat → Option Nat} (hc : G.2.2.2 = c) (x0 : Nat) (x1 : Nat) (w0 : GW) (K : Int32 → Prop) (hw : wJ4_equals_0 c x0 x1 w0 K) {F2 L2 : Nat} (h2 : 0 ≤ F2 ∧ 0 ≤ L2 := by exact ⟨Nat.le_refl _, Nat.le_refl _⟩) : CtI l yJ4_equals cJ4_equals 3 .boolean ({ frames := F2, cells := 0, slots := 0, locals := L2 }) G [.ref (x0), .ref (x1)] w0 (KPI w0 K) :=
  CtI.of RJ4 plainc_J4 rfl (Nat.le_of_ble_eq_true rfl) (fun E hE hl hG hn hR hK => bJ4_equals_0 hE hn (hR.le h2.1 h2.2) (by rw [hG]; exact hc) hK hw)
def wJ3_equals_36 (c : Nat → Option Nat) (x0 : Nat) (x2 : Nat) (w0 : GW) (K : Int32 → Prop) : Prop :=
  ∃ f1 : Option Nat, gfd w0 x0 [21] 0 = some (va_rf f1) ∧ (∃ f3 : Option Nat, gfd w0 x2 [21] 0 = some (va_rf f3) ∧ (∃ a5 : Nat, f1 = some a5 ∧ (∃ a6 : Nat, f3 = some a6 ∧ (wJ4_equals c a5 a6 w0 (fun r7 => (r7 = 0 → (K ((0 : Int32)))) ∧ (¬ r7 = 0 → (K ((1 : Int32)))))))))
set_option maxRecDepth 100000 in
theorem bJ3_equals_36 {E : jE} (hE : jOk E cJ3_equals RJ3) (hn : E.2.2.2.2 = 3) (hR : jRoom E 1 22) {c : Nat → Option Nat} (hc : E.2.2.1.2.2.2 = c) {b : Nat × Nat} {w0 : GW} {K : Int32 → Prop} (hK : jRi E .boolean (KPI w0 K)) {x0 : Nat} {x2 : Nat}  (hw : wJ3_equals_36 c x0 x2 w0 K) : J E w0 b [(0, .ref (x0)), (2, .ref (x2))] 36 [] := by
  unfold wJ3_equals_36 at hw
  refine j_aload_n hE 0 dJ3_equals_36 rfl rfl ?_
  obtain ⟨f1, h2, hw⟩ := hw
  refine j_getX hE gf_java_lang_String_value q793 h2 dJ3_equals_37 ?_
  refine j_aload_n hE 1 dJ3_equals_40 rfl rfl ?_
  obtain ⟨f3, h4, hw⟩ := hw
  refine j_getX hE gf_java_lang_String_value q793 h4 dJ3_equals_41 ?_
  obtain ⟨a5, e9, hx⟩ := hw
  subst e9
  have hw := hx
  clear hx
  obtain ⟨a6, e9, hx⟩ := hw
  subst e9
  have hw := hx
  clear hx
  refine jc_ip (jr_S hE hR (As := [.ref (a5), .ref (a6)]) (rest := []) ((ctJ4_equals E.1.2.1 E.2.2.1 hc _ _ _ _ hw) E.2.2.2.1) (lw_S q827 q828 q131 q829) jdJ4_equals ⟨Nat.le_of_ble_eq_true rfl, Nat.le_of_ble_eq_true rfl⟩ ⟨Nat.zero_le _, Nat.zero_le _⟩  rfl (Nat.le_of_ble_eq_true rfl) dJ3_equals_44) (fun r7 hw => ?_)
  refine j_b0 ?_
  refine j_if_eq hE 54 dJ3_equals_47 (by decide) (fun c8 => ?_) (fun c8 => ?_)
  · replace hw := hw.1 c8
    refine j_iconst hE dJ3_equals_54 kc_0 ?_
    exact j_iret hE hK dJ3_equals_55 rfl ⟨rfl, hw⟩
  · replace hw := hw.2 c8
    refine j_iconst hE dJ3_equals_50 kc_1 ?_
    refine j_goto hE 55 dJ3_equals_51 (by decide) ?_
    exact j_iret hE hK dJ3_equals_55 rfl ⟨rfl, hw⟩
def wJ3_equals_0 (c : Nat → Option Nat) (x0 : Nat) (x1 : Nat) (w0 : GW) (K : Int32 → Prop) : Prop :=
  (¬ some x0 = some x1 → (gmc w0 x1 = some 21 ∧ ((((1 : Int32)) = 0 → (K ((0 : Int32)))) ∧ (¬ ((1 : Int32)) = 0 → (∃ n4 : Nat, gmc w0 x1 = some n4 ∧ n4 ∈ ([21] : List Nat) ∧ ((((1 : Int32)) = 0 → (wJ3_equals_36 c x0 x1 w0 K)) ∧ (¬ ((1 : Int32)) = 0 → (∃ f8 : Int32, gfd w0 x0 [21] 1 = some (.int f8) ∧ (∃ f10 : Int32, gfd w0 x1 [21] 1 = some (.int f10) ∧ ((¬ f8 = f10 → (K ((0 : Int32)))) ∧ (f8 = f10 → (wJ3_equals_36 c x0 x1 w0 K)))))))))))) ∧ (some x0 = some x1 → (K ((1 : Int32))))
set_option maxRecDepth 100000 in
theorem bJ3_equals_0 {E : jE} (hE : jOk E cJ3_equals RJ3) (hn : E.2.2.2.2 = 3) (hR : jRoom E 1 22) {c : Nat → Option Nat} (hc : E.2.2.1.2.2.2 = c) {b : Nat × Nat} {w0 : GW} {K : Int32 → Prop} (hK : jRi E .boolean (KPI w0 K)) {x0 : Nat} {x1 : Nat}  (hw : wJ3_equals_0 c x0 x1 w0 K) : J E w0 b [(0, .ref (x0)), (1, .ref (x1))] 0 [] := by
  unfold wJ3_equals_0 at hw
  refine j_aload_n hE 0 dJ3_equals_0 rfl rfl ?_
  refine j_aload_n hE 1 dJ3_equals_1 rfl rfl ?_
  refine j_acmp_ne (rx := some x0) (ry := some x1) hE 7 dJ3_equals_2 (by decide) (fun c1 => ?_) (fun c1 => ?_)
  · replace hw := hw.1 c1
    refine j_aload_n hE 1 dJ3_equals_7 rfl rfl ?_
    obtain ⟨h2, hw⟩ := hw
    refine j_instS hE q826 h2 dJ3_equals_8 ?_
    refine j_if_eq hE 54 dJ3_equals_11 (by decide) (fun c3 => ?_) (fun c3 => ?_)
    · replace hw := hw.1 c3
      refine j_iconst hE dJ3_equals_54 kc_0 ?_
      exact j_iret hE hK dJ3_equals_55 rfl ⟨rfl, hw⟩
    · replace hw := hw.2 c3
      refine j_aload_n hE 1 dJ3_equals_14 rfl rfl ?_
      obtain ⟨n4, h5, h6, hw⟩ := hw
      refine j_castL hE cast_J3 q826 h5 h6 dJ3_equals_15 ?_
      refine j_astore_n (L' := [(2, .ref (x1)), (0, .ref (x0)), (1, .ref (x1))]) hE hn dJ3_equals_18 rfl (Nat.le_of_ble_eq_true rfl) rfl ?_
      refine j_gets (v := .int 1) hE q437 hE.inv.2.2.2.1.1 dJ3_equals_19 ?_
      refine j_if_eq hE 36 dJ3_equals_22 (by decide) (fun c7 => ?_) (fun c7 => ?_)
      · replace hw := hw.1 c7
        refine j_sub [(0, .ref (x0)), (2, .ref (x1))] [1, 0] rfl ?_
        have hz := bJ3_equals_36 (b := b) hE hn hR hc hK  hw
        exact hz
      · replace hw := hw.2 c7
        refine j_aload_n hE 1 dJ3_equals_25 rfl rfl ?_
        obtain ⟨f8, h9, hw⟩ := hw
        refine j_getX hE gf_java_lang_String_coder q794 h9 dJ3_equals_26 ?_
        refine j_aload_n hE 0 dJ3_equals_29 rfl rfl ?_
        obtain ⟨f10, h11, hw⟩ := hw
        refine j_getX hE gf_java_lang_String_coder q794 h11 dJ3_equals_30 ?_
        refine j_icmp_ne hE 54 dJ3_equals_33 (by decide) (fun c12 => ?_) (fun c12 => ?_)
        · replace hw := hw.1 c12
          refine j_iconst hE dJ3_equals_54 kc_0 ?_
          exact j_iret hE hK dJ3_equals_55 rfl ⟨rfl, hw⟩
        · replace hw := hw.2 c12
          refine j_sub [(0, .ref (x0)), (2, .ref (x1))] [1, 0] rfl ?_
          have hz := bJ3_equals_36 (b := b) hE hn hR hc hK  hw
          exact hz
  · replace hw := hw.2 c1
    refine j_iconst hE dJ3_equals_5 kc_1 ?_
    exact j_iret hE hK dJ3_equals_6 rfl ⟨rfl, hw⟩
theorem jdJ3_equals : jD yJ3_equals 1 := by decide +kernel
abbrev wJ3_equals := wJ3_equals_0
theorem ctJ3_equals (l : Launch) (G : gG) {c : Nat → Option Nat} (hc : G.2.2.2 = c) (x0 : Nat) (x1 : Nat) (w0 : GW) (K : Int32 → Prop) (hw : wJ3_equals_0 c x0 x1 w0 K) {F2 L2 : Nat} (h2 : 1 ≤ F2 ∧ 22 ≤ L2 := by exact ⟨Nat.le_refl _, Nat.le_refl _⟩) : CtI l yJ3_equals cJ3_equals 3 .boolean ({ frames := F2, cells := 0, slots := 0, locals := L2 }) G [.ref (x0), .ref (x1)] w0 (KPI w0 K) :=
  CtI.of RJ3 plainc_J3 rfl (Nat.le_of_ble_eq_true rfl) (fun E hE hl hG hn hR hK => bJ3_equals_0 hE hn (hR.le h2.1 h2.2) (by rw [hG]; exact hc) hK hw)
def wX3_pane_2_b (c : Nat → Option Nat) (x0 : Nat) (x1 : Nat) (x2 : Int32) (w0 : GW) (KL2 : Int32 → Prop) (K : Int32 → Prop) : Prop :=
  ∃ f1 : Option Nat, gfm w0 x0 [2] 0 = some (va_rf f1) ∧ (∃ a3 : Nat, f1 = some a3 ∧ (gmc w0 a3 = some 20 ∧ (wJ2_size c a3 w0 (fun r4 => (r4 ≤ x2 → (K ((-1 : Int32)))) ∧ (¬ r4 ≤ x2 → (∃ f7 : Option Nat, gfm w0 x0 [2] 0 = some (va_rf f7) ∧ (∃ a9 : Nat, f7 = some a9 ∧ (gmc w0 a9 = some 20 ∧ (wJ2_get c a9 x2 w0 (fun r10 => ∃ a12 : Nat, r10 = some a12 ∧ (∃ n13 : Nat, gmc w0 a12 = some n13 ∧ n13 ∈ ([7, 8, 9, 10] : List Nat) ∧ (∃ f16 : Option Nat, gfm w0 a12 [7, 8, 9, 10] 0 = some (va_rf f16) ∧ (∃ a18 : Nat, f16 = some a18 ∧ (gcls w0 a18 = some 21 ∧ (wJ3_equals c a18 x1 w0 (fun r19 => (r19 = 0 → (KL2 (x2 + 1))) ∧ (¬ r19 = 0 → (K x2))))))))))))))))))
def wX3_pane_2 (c : Nat → Option Nat) (x0 : Nat) (x1 : Nat) (x2 : Int32) (w0 : GW) (K : Int32 → Prop) : Prop := lfp (σ := Int32) (fun KL s => wX3_pane_2_b c x0 x1 s w0 KL K) x2
set_option maxRecDepth 100000 in
theorem bX3_pane_2 {E : jE} (hE : jOk E cX3_pane RX3) (hn : E.2.2.2.2 = 3) (hR : jRoom E 3 64) {c : Nat → Option Nat} (hc : E.2.2.1.2.2.2 = c) {b : Nat × Nat} {w0 : GW} {K : Int32 → Prop} (hK : jRi E .int (KPI w0 K)) {x0 : Nat} {x1 : Nat} {x2 : Int32}  (hw : wX3_pane_2 c x0 x1 x2 w0 K) : J E w0 b [(0, .ref (x0)), (1, .ref (x1)), (2, .int (x2))] 2 [] := by
  refine lfp_sound (σ := Int32) (F := fun KL s => wX3_pane_2_b c x0 x1 s w0 KL K) (P := fun s => J E w0 b [(0, .ref (x0)), (1, .ref (x1)), (2, .int (s))] 2 []) ?_ hw
  clear hw
  rintro KL2 x2 hw ih2
  have hw : wX3_pane_2_b c x0 x1 x2 w0 KL2 K := hw
  unfold wX3_pane_2_b at hw
  refine j_iload_n hE 2 dX3_pane_2 rfl rfl ?_
  refine j_aload_n hE 0 dX3_pane_3 rfl rfl ?_
  obtain ⟨f1, h2, hw⟩ := hw
  refine j_getM hE gf_GlassStreet_Houses_panes q238 h2 dX3_pane_4 ?_
  obtain ⟨a3, e9, hx⟩ := hw
  subst e9
  have hw := hx
  clear hx
  obtain ⟨h5, hw⟩ := hw
  refine jc_ip (jr_V hE hR (As := []) (rest := [.int (x2)]) ((ctJ2_size E.1.2.1 E.2.2.1 hc _ _ _ hw) E.2.2.2.1) (lw_V q808 q626 q627 q126 q628) jdJ2_size ⟨Nat.le_of_ble_eq_true rfl, Nat.le_of_ble_eq_true rfl⟩ ⟨Nat.zero_le _, Nat.zero_le _⟩ (gmc_gIs h5 (r := (RJ2, TJ2, 3)) rfl) rfl (Nat.le_of_ble_eq_true rfl) dX3_pane_7) (fun r4 hw => ?_)
  refine j_b0 ?_
  refine j_icmp_ge hE 42 dX3_pane_10 (by decide) (fun c6 => ?_) (fun c6 => ?_)
  · replace hw := hw.1 c6
    refine j_iconst hE dX3_pane_42 kc_m1 ?_
    exact j_iret hE hK dX3_pane_43 rfl ⟨rfl, hw⟩
  · replace hw := hw.2 c6
    refine j_aload_n hE 0 dX3_pane_13 rfl rfl ?_
    obtain ⟨f7, h8, hw⟩ := hw
    refine j_getM hE gf_GlassStreet_Houses_panes q238 h8 dX3_pane_14 ?_
    refine j_iload_n hE 2 dX3_pane_17 rfl rfl ?_
    obtain ⟨a9, e9, hx⟩ := hw
    subst e9
    have hw := hx
    clear hx
    obtain ⟨h11, hw⟩ := hw
    refine jc_qp (jr_V hE hR (As := [.int (x2)]) (rest := []) ((ctJ2_get E.1.2.1 E.2.2.1 hc _ _ _ _ hw) E.2.2.2.1) (lw_V q809 q810 q811 q126 q812) jdJ2_get ⟨Nat.le_of_ble_eq_true rfl, Nat.le_of_ble_eq_true rfl⟩ ⟨Nat.zero_le _, Nat.zero_le _⟩ (gmc_gIs h11 (r := (RJ2, TJ2, 3)) rfl) rfl (Nat.le_of_ble_eq_true rfl) dX3_pane_18) (fun r10 hw => ?_)
    refine j_b0 ?_
    obtain ⟨a12, e9, hx⟩ := hw
    subst e9
    have hw := hx
    clear hx
    obtain ⟨n13, h14, h15, hw⟩ := hw
    refine j_castL hE cast_X8 q821 h14 h15 dX3_pane_21 ?_
    obtain ⟨f16, h17, hw⟩ := hw
    refine j_getM hE gf_GlassStreet_Pane_name q854 h17 dX3_pane_24 ?_
    refine j_aload_n hE 1 dX3_pane_27 rfl rfl ?_
    obtain ⟨a18, e9, hx⟩ := hw
    subst e9
    have hw := hx
    clear hx
    obtain ⟨h20, hw⟩ := hw
    refine jc_ip (jr_V hE hR (As := [.ref (x1)]) (rest := []) ((ctJ3_equals E.1.2.1 E.2.2.1 hc _ _ _ _ hw) E.2.2.2.1) (lw_V q822 q823 q824 q130 q825) jdJ3_equals ⟨Nat.le_of_ble_eq_true rfl, Nat.le_of_ble_eq_true rfl⟩ ⟨Nat.zero_le _, Nat.zero_le _⟩ (gcls_gIs h20 (r := (RJ3, TJ3, 4)) rfl) rfl (Nat.le_of_ble_eq_true rfl) dX3_pane_28) (fun r19 hw => ?_)
    refine j_b0 ?_
    refine j_if_eq hE 36 dX3_pane_31 (by decide) (fun c21 => ?_) (fun c21 => ?_)
    · replace hw := hw.1 c21
      refine j_iinc (L' := [(2, .int (x2 + 1)), (0, .ref (x0)), (1, .ref (x1))]) hE hn 2 dX3_pane_36 rfl (congrArg (x2 + ·) kc_1) (Nat.le_of_ble_eq_true rfl) rfl ?_
      refine j_goto hE 2 dX3_pane_39 (by decide) ?_
      refine j_sub [(0, .ref (x0)), (1, .ref (x1)), (2, .int (x2 + 1))] [1, 2, 0] rfl ?_
      have hz := ih2 (x2 + 1) hw
      exact hz
    · replace hw := hw.2 c21
      refine j_iload_n hE 2 dX3_pane_34 rfl rfl ?_
      exact j_iret hE hK dX3_pane_35 rfl ⟨rfl, hw⟩
def wX3_pane_0 (c : Nat → Option Nat) (x0 : Nat) (x1 : Nat) (w0 : GW) (K : Int32 → Prop) : Prop :=
  wX3_pane_2 c x0 x1 ((0 : Int32)) w0 K
set_option maxRecDepth 100000 in
theorem bX3_pane_0 {E : jE} (hE : jOk E cX3_pane RX3) (hn : E.2.2.2.2 = 3) (hR : jRoom E 3 64) {c : Nat → Option Nat} (hc : E.2.2.1.2.2.2 = c) {b : Nat × Nat} {w0 : GW} {K : Int32 → Prop} (hK : jRi E .int (KPI w0 K)) {x0 : Nat} {x1 : Nat}  (hw : wX3_pane_0 c x0 x1 w0 K) : J E w0 b [(0, .ref (x0)), (1, .ref (x1))] 0 [] := by
  unfold wX3_pane_0 at hw
  refine j_iconst hE dX3_pane_0 kc_0 ?_
  refine j_istore_n (L' := [(2, .int ((0 : Int32))), (0, .ref (x0)), (1, .ref (x1))]) hE hn dX3_pane_1 rfl (Nat.le_of_ble_eq_true rfl) rfl ?_
  refine j_sub [(0, .ref (x0)), (1, .ref (x1)), (2, .int ((0 : Int32)))] [1, 2, 0] rfl ?_
  have hz := bX3_pane_2 (b := b) hE hn hR hc hK  hw
  exact hz
theorem jdX3_pane : jD yX3_pane 1 := by decide +kernel
abbrev wX3_pane := wX3_pane_0
theorem ctX3_pane (l : Launch) (G : gG) {c : Nat → Option Nat} (hc : G.2.2.2 = c) (x0 : Nat) (x1 : Nat) (w0 : GW) (K : Int32 → Prop) (hw : wX3_pane_0 c x0 x1 w0 K) {F2 L2 : Nat} (h2 : 3 ≤ F2 ∧ 64 ≤ L2 := by exact ⟨Nat.le_refl _, Nat.le_refl _⟩) : CtI l yX3_pane cX3_pane 3 .int ({ frames := F2, cells := 0, slots := 0, locals := L2 }) G [.ref (x0), .ref (x1)] w0 (KPI w0 K) :=
  CtI.of RX3 plainc_X3 rfl (Nat.le_of_ble_eq_true rfl) (fun E hE hl hG hn hR hK => bX3_pane_0 hE hn (hR.le h2.1 h2.2) (by rw [hG]; exact hc) hK hw)
def wX3_among_2_b (c : Nat → Option Nat) (x0 : Nat) (x1 : Nat) (x2 : Int32) (w0 : GW) (KL2 : Int32 → Prop) (K : Int32 → Prop) : Prop :=
  gmc w0 x0 = some 20 ∧ (wJ2_size c x0 w0 (fun r1 => (r1 ≤ x2 → (K ((-1 : Int32)))) ∧ (¬ r1 ≤ x2 → (gmc w0 x0 = some 20 ∧ (wJ2_get c x0 x2 w0 (fun r4 => ∃ a6 : Nat, r4 = some a6 ∧ (∃ n7 : Nat, gmc w0 a6 = some n7 ∧ n7 ∈ ([21] : List Nat) ∧ (gcls w0 a6 = some 21 ∧ (wJ3_equals c a6 x1 w0 (fun r10 => (r10 = 0 → (KL2 (x2 + 1))) ∧ (¬ r10 = 0 → (K x2))))))))))))
def wX3_among_2 (c : Nat → Option Nat) (x0 : Nat) (x1 : Nat) (x2 : Int32) (w0 : GW) (K : Int32 → Prop) : Prop := lfp (σ := Int32) (fun KL s => wX3_among_2_b c x0 x1 s w0 KL K) x2
set_option maxRecDepth 100000 in
theorem bX3_among_2 {E : jE} (hE : jOk E cX3_among RX3) (hn : E.2.2.2.2 = 3) (hR : jRoom E 3 64) {c : Nat → Option Nat} (hc : E.2.2.1.2.2.2 = c) {b : Nat × Nat} {w0 : GW} {K : Int32 → Prop} (hK : jRi E .int (KPI w0 K)) {x0 : Nat} {x1 : Nat} {x2 : Int32}  (hw : wX3_among_2 c x0 x1 x2 w0 K) : J E w0 b [(0, .ref (x0)), (1, .ref (x1)), (2, .int (x2))] 2 [] := by
  refine lfp_sound (σ := Int32) (F := fun KL s => wX3_among_2_b c x0 x1 s w0 KL K) (P := fun s => J E w0 b [(0, .ref (x0)), (1, .ref (x1)), (2, .int (s))] 2 []) ?_ hw
  clear hw
  rintro KL2 x2 hw ih2
  have hw : wX3_among_2_b c x0 x1 x2 w0 KL2 K := hw
  unfold wX3_among_2_b at hw
  refine j_iload_n hE 2 dX3_among_2 rfl rfl ?_
  refine j_aload_n hE 0 dX3_among_3 rfl rfl ?_
  obtain ⟨h2, hw⟩ := hw
  refine jc_ip (jr_V hE hR (As := []) (rest := [.int (x2)]) ((ctJ2_size E.1.2.1 E.2.2.1 hc _ _ _ hw) E.2.2.2.1) (lw_V q808 q626 q627 q126 q628) jdJ2_size ⟨Nat.le_of_ble_eq_true rfl, Nat.le_of_ble_eq_true rfl⟩ ⟨Nat.zero_le _, Nat.zero_le _⟩ (gmc_gIs h2 (r := (RJ2, TJ2, 3)) rfl) rfl (Nat.le_of_ble_eq_true rfl) dX3_among_4) (fun r1 hw => ?_)
  refine j_b0 ?_
  refine j_icmp_ge hE 33 dX3_among_7 (by decide) (fun c3 => ?_) (fun c3 => ?_)
  · replace hw := hw.1 c3
    refine j_iconst hE dX3_among_33 kc_m1 ?_
    exact j_iret hE hK dX3_among_34 rfl ⟨rfl, hw⟩
  · replace hw := hw.2 c3
    refine j_aload_n hE 0 dX3_among_10 rfl rfl ?_
    refine j_iload_n hE 2 dX3_among_11 rfl rfl ?_
    obtain ⟨h5, hw⟩ := hw
    refine jc_qp (jr_V hE hR (As := [.int (x2)]) (rest := []) ((ctJ2_get E.1.2.1 E.2.2.1 hc _ _ _ _ hw) E.2.2.2.1) (lw_V q809 q810 q811 q126 q812) jdJ2_get ⟨Nat.le_of_ble_eq_true rfl, Nat.le_of_ble_eq_true rfl⟩ ⟨Nat.zero_le _, Nat.zero_le _⟩ (gmc_gIs h5 (r := (RJ2, TJ2, 3)) rfl) rfl (Nat.le_of_ble_eq_true rfl) dX3_among_12) (fun r4 hw => ?_)
    refine j_b0 ?_
    obtain ⟨a6, e9, hx⟩ := hw
    subst e9
    have hw := hx
    clear hx
    obtain ⟨n7, h8, h9, hw⟩ := hw
    refine j_castL hE cast_J3 q837 h8 h9 dX3_among_15 ?_
    refine j_aload_n hE 1 dX3_among_18 rfl rfl ?_
    obtain ⟨h11, hw⟩ := hw
    refine jc_ip (jr_V hE hR (As := [.ref (x1)]) (rest := []) ((ctJ3_equals E.1.2.1 E.2.2.1 hc _ _ _ _ hw) E.2.2.2.1) (lw_V q822 q823 q824 q130 q825) jdJ3_equals ⟨Nat.le_of_ble_eq_true rfl, Nat.le_of_ble_eq_true rfl⟩ ⟨Nat.zero_le _, Nat.zero_le _⟩ (gcls_gIs h11 (r := (RJ3, TJ3, 4)) rfl) rfl (Nat.le_of_ble_eq_true rfl) dX3_among_19) (fun r10 hw => ?_)
    refine j_b0 ?_
    refine j_if_eq hE 27 dX3_among_22 (by decide) (fun c12 => ?_) (fun c12 => ?_)
    · replace hw := hw.1 c12
      refine j_iinc (L' := [(2, .int (x2 + 1)), (0, .ref (x0)), (1, .ref (x1))]) hE hn 2 dX3_among_27 rfl (congrArg (x2 + ·) kc_1) (Nat.le_of_ble_eq_true rfl) rfl ?_
      refine j_goto hE 2 dX3_among_30 (by decide) ?_
      refine j_sub [(0, .ref (x0)), (1, .ref (x1)), (2, .int (x2 + 1))] [1, 2, 0] rfl ?_
      have hz := ih2 (x2 + 1) hw
      exact hz
    · replace hw := hw.2 c12
      refine j_iload_n hE 2 dX3_among_25 rfl rfl ?_
      exact j_iret hE hK dX3_among_26 rfl ⟨rfl, hw⟩
def wX3_among_0 (c : Nat → Option Nat) (x0 : Nat) (x1 : Nat) (w0 : GW) (K : Int32 → Prop) : Prop :=
  wX3_among_2 c x0 x1 ((0 : Int32)) w0 K
set_option maxRecDepth 100000 in
theorem bX3_among_0 {E : jE} (hE : jOk E cX3_among RX3) (hn : E.2.2.2.2 = 3) (hR : jRoom E 3 64) {c : Nat → Option Nat} (hc : E.2.2.1.2.2.2 = c) {b : Nat × Nat} {w0 : GW} {K : Int32 → Prop} (hK : jRi E .int (KPI w0 K)) {x0 : Nat} {x1 : Nat}  (hw : wX3_among_0 c x0 x1 w0 K) : J E w0 b [(0, .ref (x0)), (1, .ref (x1))] 0 [] := by
  unfold wX3_among_0 at hw
  refine j_iconst hE dX3_among_0 kc_0 ?_
  refine j_istore_n (L' := [(2, .int ((0 : Int32))), (0, .ref (x0)), (1, .ref (x1))]) hE hn dX3_among_1 rfl (Nat.le_of_ble_eq_true rfl) rfl ?_
  refine j_sub [(0, .ref (x0)), (1, .ref (x1)), (2, .int ((0 : Int32)))] [1, 2, 0] rfl ?_
  have hz := bX3_among_2 (b := b) hE hn hR hc hK  hw
  exact hz
theorem jdX3_among : jD yX3_among 2 := by decide +kernel
abbrev wX3_among := wX3_among_0
theorem ctX3_among (l : Launch) (G : gG) {c : Nat → Option Nat} (hc : G.2.2.2 = c) (x0 : Nat) (x1 : Nat) (w0 : GW) (K : Int32 → Prop) (hw : wX3_among_0 c x0 x1 w0 K) {F2 L2 : Nat} (h2 : 3 ≤ F2 ∧ 64 ≤ L2 := by exact ⟨Nat.le_refl _, Nat.le_refl _⟩) : CtI l yX3_among cX3_among 3 .int ({ frames := F2, cells := 0, slots := 0, locals := L2 }) G [.ref (x0), .ref (x1)] w0 (KPI w0 K) :=
  CtI.of RX3 plainc_X3 rfl (Nat.le_of_ble_eq_true rfl) (fun E hE hl hG hn hR hK => bX3_among_0 hE hn (hR.le h2.1 h2.2) (by rw [hG]; exact hc) hK hw)
def wX3_person_0 (c : Nat → Option Nat) (x0 : Nat) (x1 : Nat) (w0 : GW) (K : Int32 → Prop) : Prop :=
  ∃ f1 : Option Nat, gfm w0 x0 [2] 1 = some (va_rf f1) ∧ (∃ a3 : Nat, f1 = some a3 ∧ (wX3_among c a3 x1 w0 (fun r4 => K r4)))
set_option maxRecDepth 100000 in
theorem bX3_person_0 {E : jE} (hE : jOk E cX3_person RX3) (hn : E.2.2.2.2 = 2) (hR : jRoom E 4 86) {c : Nat → Option Nat} (hc : E.2.2.1.2.2.2 = c) {b : Nat × Nat} {w0 : GW} {K : Int32 → Prop} (hK : jRi E .int (KPI w0 K)) {x0 : Nat} {x1 : Nat}  (hw : wX3_person_0 c x0 x1 w0 K) : J E w0 b [(0, .ref (x0)), (1, .ref (x1))] 0 [] := by
  unfold wX3_person_0 at hw
  refine j_aload_n hE 0 dX3_person_0 rfl rfl ?_
  obtain ⟨f1, h2, hw⟩ := hw
  refine j_getM hE gf_GlassStreet_Houses_people q241 h2 dX3_person_1 ?_
  refine j_aload_n hE 1 dX3_person_4 rfl rfl ?_
  obtain ⟨a3, e9, hx⟩ := hw
  subst e9
  have hw := hx
  clear hx
  refine jc_ip (jr_S hE hR (As := [.ref (a3), .ref (x1)]) (rest := []) ((ctX3_among E.1.2.1 E.2.2.1 hc _ _ _ _ hw) E.2.2.2.1) (lw_S q834 q835 q123 q836) jdX3_among ⟨Nat.le_of_ble_eq_true rfl, Nat.le_of_ble_eq_true rfl⟩ ⟨Nat.zero_le _, Nat.zero_le _⟩  rfl (Nat.le_of_ble_eq_true rfl) dX3_person_5) (fun r4 hw => ?_)
  refine j_b0 ?_
  exact j_iret hE hK dX3_person_8 rfl ⟨rfl, hw⟩
theorem jdX3_person : jD yX3_person 1 := by decide +kernel
abbrev wX3_person := wX3_person_0
theorem ctX3_person (l : Launch) (G : gG) {c : Nat → Option Nat} (hc : G.2.2.2 = c) (x0 : Nat) (x1 : Nat) (w0 : GW) (K : Int32 → Prop) (hw : wX3_person_0 c x0 x1 w0 K) {F2 L2 : Nat} (h2 : 4 ≤ F2 ∧ 86 ≤ L2 := by exact ⟨Nat.le_refl _, Nat.le_refl _⟩) : CtI l yX3_person cX3_person 2 .int ({ frames := F2, cells := 0, slots := 0, locals := L2 }) G [.ref (x0), .ref (x1)] w0 (KPI w0 K) :=
  CtI.of RX3 plainc_X3 rfl (Nat.le_of_ble_eq_true rfl) (fun E hE hl hG hn hR hK => bX3_person_0 hE hn (hR.le h2.1 h2.2) (by rw [hG]; exact hc) hK hw)
def wX3_deed_0 (c : Nat → Option Nat) (x0 : Nat) (x1 : Nat) (w0 : GW) (K : Int32 → Prop) : Prop :=
  ∃ f1 : Option Nat, gfm w0 x0 [2] 2 = some (va_rf f1) ∧ (∃ a3 : Nat, f1 = some a3 ∧ (wX3_among c a3 x1 w0 (fun r4 => K r4)))
set_option maxRecDepth 100000 in
theorem bX3_deed_0 {E : jE} (hE : jOk E cX3_deed RX3) (hn : E.2.2.2.2 = 2) (hR : jRoom E 4 86) {c : Nat → Option Nat} (hc : E.2.2.1.2.2.2 = c) {b : Nat × Nat} {w0 : GW} {K : Int32 → Prop} (hK : jRi E .int (KPI w0 K)) {x0 : Nat} {x1 : Nat}  (hw : wX3_deed_0 c x0 x1 w0 K) : J E w0 b [(0, .ref (x0)), (1, .ref (x1))] 0 [] := by
  unfold wX3_deed_0 at hw
  refine j_aload_n hE 0 dX3_deed_0 rfl rfl ?_
  obtain ⟨f1, h2, hw⟩ := hw
  refine j_getM hE gf_GlassStreet_Houses_deeds q244 h2 dX3_deed_1 ?_
  refine j_aload_n hE 1 dX3_deed_4 rfl rfl ?_
  obtain ⟨a3, e9, hx⟩ := hw
  subst e9
  have hw := hx
  clear hx
  refine jc_ip (jr_S hE hR (As := [.ref (a3), .ref (x1)]) (rest := []) ((ctX3_among E.1.2.1 E.2.2.1 hc _ _ _ _ hw) E.2.2.2.1) (lw_S q834 q835 q123 q836) jdX3_among ⟨Nat.le_of_ble_eq_true rfl, Nat.le_of_ble_eq_true rfl⟩ ⟨Nat.zero_le _, Nat.zero_le _⟩  rfl (Nat.le_of_ble_eq_true rfl) dX3_deed_5) (fun r4 hw => ?_)
  refine j_b0 ?_
  exact j_iret hE hK dX3_deed_8 rfl ⟨rfl, hw⟩
theorem jdX3_deed : jD yX3_deed 1 := by decide +kernel
abbrev wX3_deed := wX3_deed_0
theorem ctX3_deed (l : Launch) (G : gG) {c : Nat → Option Nat} (hc : G.2.2.2 = c) (x0 : Nat) (x1 : Nat) (w0 : GW) (K : Int32 → Prop) (hw : wX3_deed_0 c x0 x1 w0 K) {F2 L2 : Nat} (h2 : 4 ≤ F2 ∧ 86 ≤ L2 := by exact ⟨Nat.le_refl _, Nat.le_refl _⟩) : CtI l yX3_deed cX3_deed 2 .int ({ frames := F2, cells := 0, slots := 0, locals := L2 }) G [.ref (x0), .ref (x1)] w0 (KPI w0 K) :=
  CtI.of RX3 plainc_X3 rfl (Nat.le_of_ble_eq_true rfl) (fun E hE hl hG hn hR hK => bX3_deed_0 hE hn (hR.le h2.1 h2.2) (by rw [hG]; exact hc) hK hw)
def wX2_fresh_38 (c : Nat → Option Nat) (x0 : Nat) (w : GW) (bb : Nat × Nat) (K : Option Nat → GW → Prop) (KX : String → Nat → GW → Prop) : Prop :=
  gmc w x0 = some 1 ∧ (∃ cb3 : Nat × Nat, (cb3.1 ≤ bb.1 ∧ cb3.2 ≤ bb.2) ∧ (wX2_wrong c x0 (nI 3) w cb3 (fun r1 w5 => ∀ b6 : Nat × Nat, b6 = (bb.1 - cb3.1, bb.2 - cb3.2) → (∃ a7 : Nat, r1 = some a7 ∧ (∃ (cc : Nat) (fs : List Value) (rr : vw_C), w5 a7 = some (true, .inr (cc, fs)) ∧ gCl[cc]? = some rr ∧ KX rr.1 a7 w5)))))
set_option maxRecDepth 100000 in
theorem bX2_fresh_38 {E : jE} (hE : jOk E cX2_fresh RX2) (hn : E.2.2.2.2 = 2) (hR : jRoom E 7 194) {c : Nat → Option Nat} (hc : E.2.2.1.2.2.2 = c) (hN : jNoH E) {K : Option Nat → GW → Prop} {KX : String → Nat → GW → Prop} (hK : jXq E (.object "java/lang/String") (K) KX) {x0 : Nat} {w : GW} {bb : Nat × Nat}  (hw : wX2_fresh_38 c x0 w bb K KX) : J E w bb [(0, .ref (x0))] 38 [] := by
  unfold wX2_fresh_38 at hw
  refine j_aload_n hE 0 dX2_fresh_38 rfl rfl ?_
  refine j_iconst hE dX2_fresh_39 kc_3 ?_
  obtain ⟨h2, hw⟩ := hw
  obtain ⟨cb3, h4, hw⟩ := hw
  refine jc_q (jr_V hE hR (As := [.int (nI 3)]) (rest := []) ((ctX2_wrong E.1.2.1 E.2.2.1 hc _ _ _ _ _ hw) E.2.2.2.1) (lw_V q544 q546 qs5 q122 q547) jdX2_wrong ⟨Nat.le_of_ble_eq_true rfl, Nat.le_of_ble_eq_true rfl⟩ h4 (gmc_gIs h2 (r := (RX2, TX2, 8)) rfl) rfl (Nat.le_of_ble_eq_true rfl) dX2_fresh_40) (fun r1 w5 hw => ?_)
  refine j_nb (fun b6 e_b6 => ?_)
  replace hw := hw b6 e_b6
  obtain ⟨a7, e9, hx⟩ := hw
  subst e9
  have hw := hx
  clear hx
  obtain ⟨cc, fs, rr, h1, h2, hw⟩ := hw
  exact jx_throw hE h1 h2 dX2_fresh_43 (jx_out hE hK.2 hN hw)
def wX2_fresh_0 (c : Nat → Option Nat) (x0 : Nat) (w : GW) (bb : Nat × Nat) (K : Option Nat → GW → Prop) (KX : String → Nat → GW → Prop) : Prop :=
  gmc w x0 = some 1 ∧ (∃ cb3 : Nat × Nat, (cb3.1 ≤ bb.1 ∧ cb3.2 ≤ bb.2) ∧ (wX2_name c x0 w cb3 (fun r1 w5 => ∀ b6 : Nat × Nat, b6 = (bb.1 - cb3.1, bb.2 - cb3.2) → (∃ f7 : Option Nat, gfm w5 x0 [1] 7 = some (va_rf f7) ∧ (∃ a9 : Nat, f7 = some a9 ∧ (∃ a10 : Nat, r1 = some a10 ∧ (gmc w5 a9 = some 2 ∧ (wX3_pane c a9 a10 w5 (fun r11 => (0 ≤ r11 → (wX2_fresh_38 c x0 w5 b6 K KX)) ∧ (¬ 0 ≤ r11 → (∃ f14 : Option Nat, gfm w5 x0 [1] 7 = some (va_rf f14) ∧ (∃ a16 : Nat, f14 = some a16 ∧ (gmc w5 a16 = some 2 ∧ (wX3_person c a16 a10 w5 (fun r17 => (0 ≤ r17 → (wX2_fresh_38 c x0 w5 b6 K KX)) ∧ (¬ 0 ≤ r17 → (∃ f20 : Option Nat, gfm w5 x0 [1] 7 = some (va_rf f20) ∧ (∃ a22 : Nat, f20 = some a22 ∧ (gmc w5 a22 = some 2 ∧ (wX3_deed c a22 a10 w5 (fun r23 => (r23 < 0 → (gmc w5 x0 = some 1 ∧ (wX2_next c x0 w5 (fun w27 => K (some a10) w27)))) ∧ (¬ r23 < 0 → (wX2_fresh_38 c x0 w5 b6 K KX))))))))))))))))))))) KX))
set_option maxRecDepth 100000 in
theorem bX2_fresh_0 {E : jE} (hE : jOk E cX2_fresh RX2) (hn : E.2.2.2.2 = 2) (hR : jRoom E 7 194) {c : Nat → Option Nat} (hc : E.2.2.1.2.2.2 = c) (hN : jNoH E) {K : Option Nat → GW → Prop} {KX : String → Nat → GW → Prop} (hK : jXq E (.object "java/lang/String") (K) KX) {x0 : Nat} {w : GW} {bb : Nat × Nat}  (hw : wX2_fresh_0 c x0 w bb K KX) : J E w bb [(0, .ref (x0))] 0 [] := by
  unfold wX2_fresh_0 at hw
  refine j_aload_n hE 0 dX2_fresh_0 rfl rfl ?_
  obtain ⟨h2, hw⟩ := hw
  obtain ⟨cb3, h4, hw⟩ := hw
  refine jcx_q (jrx_V hE hR (As := []) (rest := []) ((ctX2_name E.1.2.1 E.2.2.1 hc _ _ _ _ _ hw) E.2.2.2.1) (lw_V q641 q643 qs12 q122 q644) jdX2_name ⟨Nat.le_of_ble_eq_true rfl, Nat.le_of_ble_eq_true rfl⟩ h4 (gmc_gIs h2 (r := (RX2, TX2, 8)) rfl) rfl (Nat.le_of_ble_eq_true rfl) dX2_fresh_1) (fun E9 q9 u9 hx => jx_out hE hK.2 hN hx) (fun r1 w5 hw => ?_)
  refine j_nb (fun b6 e_b6 => ?_)
  replace hw := hw b6 e_b6
  refine j_astore_nq (L' := [(1, va_rf (r1)), (0, .ref (x0))]) hE hn dX2_fresh_4 rfl (Nat.le_of_ble_eq_true rfl) rfl ?_
  refine j_aload_n hE 1 dX2_fresh_5 rfl rfl ?_
  obtain ⟨f7, h8, hw⟩ := hw
  refine j_getM hE gf_GlassStreet_Reader_houses q185 h8 dX2_fresh_6 ?_
  refine j_aload_nq hE 0 dX2_fresh_9 rfl rfl ?_
  obtain ⟨a9, e9, hx⟩ := hw
  subst e9
  have hw := hx
  clear hx
  obtain ⟨a10, e9, hx⟩ := hw
  subst e9
  have hw := hx
  clear hx
  obtain ⟨h12, hw⟩ := hw
  refine jc_ip (jr_V hE hR (As := [.ref (a10)]) (rest := []) ((ctX3_pane E.1.2.1 E.2.2.1 hc _ _ _ _ hw) E.2.2.2.1) (lw_V q804 q805 q806 q123 q807) jdX3_pane ⟨Nat.le_of_ble_eq_true rfl, Nat.le_of_ble_eq_true rfl⟩ ⟨Nat.zero_le _, Nat.zero_le _⟩ (gmc_gIs h12 (r := (RX3, TX3, 8)) rfl) rfl (Nat.le_of_ble_eq_true rfl) dX2_fresh_10) (fun r11 hw => ?_)
  refine j_b0 ?_
  refine j_if_ge hE 38 dX2_fresh_13 (by decide) (fun c13 => ?_) (fun c13 => ?_)
  · replace hw := hw.1 c13
    refine j_sub [(0, .ref (x0))] [1] rfl ?_
    have hz := bX2_fresh_38 hE hn hR hc hN hK  hw
    exact hz
  · replace hw := hw.2 c13
    refine j_aload_n hE 1 dX2_fresh_16 rfl rfl ?_
    obtain ⟨f14, h15, hw⟩ := hw
    refine j_getM hE gf_GlassStreet_Reader_houses q185 h15 dX2_fresh_17 ?_
    refine j_aload_n hE 0 dX2_fresh_20 rfl rfl ?_
    obtain ⟨a16, e9, hx⟩ := hw
    subst e9
    have hw := hx
    clear hx
    obtain ⟨h18, hw⟩ := hw
    refine jc_ip (jr_V hE hR (As := [.ref (a10)]) (rest := []) ((ctX3_person E.1.2.1 E.2.2.1 hc _ _ _ _ hw) E.2.2.2.1) (lw_V q830 q831 q832 q123 q833) jdX3_person ⟨Nat.le_of_ble_eq_true rfl, Nat.le_of_ble_eq_true rfl⟩ ⟨Nat.zero_le _, Nat.zero_le _⟩ (gmc_gIs h18 (r := (RX3, TX3, 8)) rfl) rfl (Nat.le_of_ble_eq_true rfl) dX2_fresh_21) (fun r17 hw => ?_)
    refine j_b0 ?_
    refine j_if_ge hE 38 dX2_fresh_24 (by decide) (fun c19 => ?_) (fun c19 => ?_)
    · replace hw := hw.1 c19
      refine j_sub [(0, .ref (x0))] [1] rfl ?_
      have hz := bX2_fresh_38 hE hn hR hc hN hK  hw
      exact hz
    · replace hw := hw.2 c19
      refine j_aload_n hE 1 dX2_fresh_27 rfl rfl ?_
      obtain ⟨f20, h21, hw⟩ := hw
      refine j_getM hE gf_GlassStreet_Reader_houses q185 h21 dX2_fresh_28 ?_
      refine j_aload_n hE 0 dX2_fresh_31 rfl rfl ?_
      obtain ⟨a22, e9, hx⟩ := hw
      subst e9
      have hw := hx
      clear hx
      obtain ⟨h24, hw⟩ := hw
      refine jc_ip (jr_V hE hR (As := [.ref (a10)]) (rest := []) ((ctX3_deed E.1.2.1 E.2.2.1 hc _ _ _ _ hw) E.2.2.2.1) (lw_V q838 q839 q840 q123 q841) jdX3_deed ⟨Nat.le_of_ble_eq_true rfl, Nat.le_of_ble_eq_true rfl⟩ ⟨Nat.zero_le _, Nat.zero_le _⟩ (gmc_gIs h24 (r := (RX3, TX3, 8)) rfl) rfl (Nat.le_of_ble_eq_true rfl) dX2_fresh_32) (fun r23 hw => ?_)
      refine j_b0 ?_
      refine j_if_lt hE 44 dX2_fresh_35 (by decide) (fun c25 => ?_) (fun c25 => ?_)
      · replace hw := hw.1 c25
        refine j_aload_n hE 1 dX2_fresh_44 rfl rfl ?_
        obtain ⟨h26, hw⟩ := hw
        refine jc_v (jr_V hE hR (As := []) (rest := []) ((ctX2_next E.1.2.1 E.2.2.1 hc _ _ _ hw) E.2.2.2.1) (lw_V q410 q412 qs2 q122 q413) jdX2_next ⟨Nat.le_of_ble_eq_true rfl, Nat.le_of_ble_eq_true rfl⟩ ⟨Nat.zero_le _, Nat.zero_le _⟩ (gmc_gIs h26 (r := (RX2, TX2, 8)) rfl) rfl (Nat.le_of_ble_eq_true rfl) dX2_fresh_45) (fun w27 hw => ?_)
        refine j_b0 ?_
        refine j_aload_n hE 0 dX2_fresh_48 rfl rfl ?_
        exact jx_qret hE hK (r := some a10) dX2_fresh_49 (by first | exact Or.inl ⟨_, rfl⟩ | exact Or.inr ⟨_, rfl⟩) hw
      · replace hw := hw.2 c25
        refine j_sub [(0, .ref (x0))] [1] rfl ?_
        have hz := bX2_fresh_38 hE hn hR hc hN hK  hw
        exact hz
theorem jdX2_fresh : jD yX2_fresh 0 := by decide +kernel
abbrev wX2_fresh := wX2_fresh_0
theorem ctX2_fresh (l : Launch) (G : gG) {c : Nat → Option Nat} (hc : G.2.2.2 = c) (x0 : Nat) (w : GW) (bb : Nat × Nat) (K : Option Nat → GW → Prop) (KX : String → Nat → GW → Prop) (hw : wX2_fresh_0 c x0 w bb K KX) {F2 L2 : Nat} (h2 : 7 ≤ F2 ∧ 194 ≤ L2 := by exact ⟨Nat.le_refl _, Nat.le_refl _⟩) : CtXQ l yX2_fresh cX2_fresh 2 (.object "java/lang/String") ({ frames := F2, cells := bb.1, slots := bb.2, locals := L2 }) G [.ref (x0)] w (K) KX :=
  CtXQ.of RX2 plainc_X2 rfl (Nat.le_of_ble_eq_true rfl) (fun E hE hl hG hn hR hN hK => bX2_fresh_0 hE hn (hR.le h2.1 h2.2) (by rw [hG]; exact hc) hN hK hw)
def wX2_one_0 (c : Nat → Option Nat) (x0 : Nat) (x1 : Nat) (w : GW) (bb : Nat × Nat) (K : Int32 → GW → Prop) (KX : String → Nat → GW → Prop) : Prop :=
  gmc w x0 = some 1 ∧ (wX2_which c x0 x1 w (fun r1 => (0 ≤ r1 → (gmc w x0 = some 1 ∧ (wX2_next c x0 w (fun w5 => K r1 w5)))) ∧ (¬ 0 ≤ r1 → (gmc w x0 = some 1 ∧ (∃ cb8 : Nat × Nat, (cb8.1 ≤ bb.1 ∧ cb8.2 ≤ bb.2) ∧ (wX2_wrong c x0 ((1 : Int32)) w cb8 (fun r6 w10 => ∀ b11 : Nat × Nat, b11 = (bb.1 - cb8.1, bb.2 - cb8.2) → (∃ a12 : Nat, r6 = some a12 ∧ (∃ (cc : Nat) (fs : List Value) (rr : vw_C), w10 a12 = some (true, .inr (cc, fs)) ∧ gCl[cc]? = some rr ∧ KX rr.1 a12 w10)))))))))
set_option maxRecDepth 100000 in
theorem bX2_one_0 {E : jE} (hE : jOk E cX2_one RX2) (hn : E.2.2.2.2 = 3) (hR : jRoom E 6 146) {c : Nat → Option Nat} (hc : E.2.2.1.2.2.2 = c) (hN : jNoH E) {K : Int32 → GW → Prop} {KX : String → Nat → GW → Prop} (hK : jXi E .int (K) KX) {x0 : Nat} {x1 : Nat} {w : GW} {bb : Nat × Nat}  (hw : wX2_one_0 c x0 x1 w bb K KX) : J E w bb [(0, .ref (x0)), (1, .ref (x1))] 0 [] := by
  unfold wX2_one_0 at hw
  refine j_aload_n hE 0 dX2_one_0 rfl rfl ?_
  refine j_aload_n hE 1 dX2_one_1 rfl rfl ?_
  obtain ⟨h2, hw⟩ := hw
  refine jc_ip (jr_V hE hR (As := [.ref (x1)]) (rest := []) ((ctX2_which E.1.2.1 E.2.2.1 hc _ _ _ _ hw) E.2.2.2.1) (lw_V q518 q520 qs4 q122 q521) jdX2_which ⟨Nat.le_of_ble_eq_true rfl, Nat.le_of_ble_eq_true rfl⟩ ⟨Nat.zero_le _, Nat.zero_le _⟩ (gmc_gIs h2 (r := (RX2, TX2, 8)) rfl) rfl (Nat.le_of_ble_eq_true rfl) dX2_one_2) (fun r1 hw => ?_)
  refine j_b0 ?_
  refine j_istore_n (L' := [(2, .int (r1)), (0, .ref (x0)), (1, .ref (x1))]) hE hn dX2_one_5 rfl (Nat.le_of_ble_eq_true rfl) rfl ?_
  refine j_iload_n hE 0 dX2_one_6 rfl rfl ?_
  refine j_if_ge hE 16 dX2_one_7 (by decide) (fun c3 => ?_) (fun c3 => ?_)
  · replace hw := hw.1 c3
    refine j_aload_n hE 1 dX2_one_16 rfl rfl ?_
    obtain ⟨h4, hw⟩ := hw
    refine jc_v (jr_V hE hR (As := []) (rest := []) ((ctX2_next E.1.2.1 E.2.2.1 hc _ _ _ hw) E.2.2.2.1) (lw_V q410 q412 qs2 q122 q413) jdX2_next ⟨Nat.le_of_ble_eq_true rfl, Nat.le_of_ble_eq_true rfl⟩ ⟨Nat.zero_le _, Nat.zero_le _⟩ (gmc_gIs h4 (r := (RX2, TX2, 8)) rfl) rfl (Nat.le_of_ble_eq_true rfl) dX2_one_17) (fun w5 hw => ?_)
    refine j_b0 ?_
    refine j_iload_n hE 0 dX2_one_20 rfl rfl ?_
    exact jx_iret hE hK dX2_one_21 rfl hw
  · replace hw := hw.2 c3
    refine j_aload_n hE 1 dX2_one_10 rfl rfl ?_
    refine j_iconst hE dX2_one_11 kc_1 ?_
    obtain ⟨h7, hw⟩ := hw
    obtain ⟨cb8, h9, hw⟩ := hw
    refine jc_q (jr_V hE hR (As := [.int ((1 : Int32))]) (rest := []) ((ctX2_wrong E.1.2.1 E.2.2.1 hc _ _ _ _ _ hw) E.2.2.2.1) (lw_V q544 q546 qs5 q122 q547) jdX2_wrong ⟨Nat.le_of_ble_eq_true rfl, Nat.le_of_ble_eq_true rfl⟩ h9 (gmc_gIs h7 (r := (RX2, TX2, 8)) rfl) rfl (Nat.le_of_ble_eq_true rfl) dX2_one_12) (fun r6 w10 hw => ?_)
    refine j_nb (fun b11 e_b11 => ?_)
    replace hw := hw b11 e_b11
    obtain ⟨a12, e9, hx⟩ := hw
    subst e9
    have hw := hx
    clear hx
    obtain ⟨cc, fs, rr, h1, h2, hw⟩ := hw
    exact jx_throw hE h1 h2 dX2_one_15 (jx_out hE hK.2 hN hw)
theorem jdX2_one : jD yX2_one 1 := by decide +kernel
abbrev wX2_one := wX2_one_0
theorem ctX2_one (l : Launch) (G : gG) {c : Nat → Option Nat} (hc : G.2.2.2 = c) (x0 : Nat) (x1 : Nat) (w : GW) (bb : Nat × Nat) (K : Int32 → GW → Prop) (KX : String → Nat → GW → Prop) (hw : wX2_one_0 c x0 x1 w bb K KX) {F2 L2 : Nat} (h2 : 6 ≤ F2 ∧ 146 ≤ L2 := by exact ⟨Nat.le_refl _, Nat.le_refl _⟩) : CtXI l yX2_one cX2_one 3 .int ({ frames := F2, cells := bb.1, slots := bb.2, locals := L2 }) G [.ref (x0), .ref (x1)] w (K) KX :=
  CtXI.of RX2 plainc_X2 rfl (Nat.le_of_ble_eq_true rfl) (fun E hE hl hG hn hR hN hK => bX2_one_0 hE hn (hR.le h2.1 h2.2) (by rw [hG]; exact hc) hN hK hw)
def wX8_init_0 (c : Nat → Option Nat) (x0 : Nat) (x1 : Nat) (w : GW) (K : GW → Prop) : Prop :=
  ∃ (n1 : Nat) (fs2 : List Value), w x0 = some (true, .inr (n1, fs2)) ∧ n1 ∈ ([7, 8, 9, 10] : List Nat) ∧ 0 < fs2.length ∧ (∀ w6 : GW, w6 = gup w x0 (.inr (n1, fs2.set 0 (va_rf (some x1)))) → (K w6))
set_option maxRecDepth 100000 in
theorem bX8_init_0 {E : jE} (hE : jOk E cX8_init RX8) (hn : E.2.2.2.2 = 2) (hR : jRoom E 1 20) {c : Nat → Option Nat} (hc : E.2.2.1.2.2.2 = c) (hini : E.2.1.1.name = "<init>") {b : Nat × Nat} {K : GW → Prop} (hK : jRv E (K)) {x0 : Nat} {x1 : Nat} {w : GW}  (hw : wX8_init_0 c x0 x1 w K) : J E w b [(0, .ref (x0)), (1, .ref (x1))] 0 [] := by
  unfold wX8_init_0 at hw
  refine j_aload_n hE 0 dX8_init_0 rfl rfl ?_
  refine j_objInit hE hR q852 q_oi_inst q_oi_code (Nat.le_of_ble_eq_true rfl) (Nat.le_of_ble_eq_true rfl) dX8_init_1 ?_
  refine j_aload_n hE 0 dX8_init_4 rfl rfl ?_
  refine j_aload_n hE 1 dX8_init_5 rfl rfl ?_
  obtain ⟨n1, fs2, h3, h4, h5, hw⟩ := hw
  refine j_putXF hE hini h4 gw_GlassStreet_Pane_name_X8 q853 h3 rfl rfl h5 dX8_init_6 ?_
  refine j_nw (fun w6 e_w6 => ?_)
  replace hw := hw w6 e_w6
  exact j_vret hE hK dX8_init_9 hw
theorem jdX8_init : jD yX8_init 1 := by decide +kernel
abbrev wX8_init := wX8_init_0
theorem ctX8_init (l : Launch) (G : gG) {c : Nat → Option Nat} (hc : G.2.2.2 = c) (x0 : Nat) (x1 : Nat) (w : GW) (K : GW → Prop) (hw : wX8_init_0 c x0 x1 w K) {F2 L2 : Nat} (h2 : 1 ≤ F2 ∧ 20 ≤ L2 := by exact ⟨Nat.le_refl _, Nat.le_refl _⟩) : CtV l yX8_init cX8_init 2 ({ frames := F2, cells := 0, slots := 0, locals := L2 }) G [.ref (x0), .ref (x1)] w (K) :=
  CtV.ofI RX8 plainc_X8 rfl rfl (Nat.le_of_ble_eq_true rfl) (fun E hE hini hl hG hn hR hK => bX8_init_0 hE hn (hR.le h2.1 h2.2) (by rw [hG]; exact hc) hini hK hw)
def wX9_init_0 (c : Nat → Option Nat) (x0 : Nat) (x1 : Nat) (w : GW) (K : GW → Prop) : Prop :=
  wX8_init c x0 x1 w (fun w1 => K w1)
set_option maxRecDepth 100000 in
theorem bX9_init_0 {E : jE} (hE : jOk E cX9_init RX9) (hn : E.2.2.2.2 = 2) (hR : jRoom E 2 41) {c : Nat → Option Nat} (hc : E.2.2.1.2.2.2 = c) (hini : E.2.1.1.name = "<init>") {b : Nat × Nat} {K : GW → Prop} (hK : jRv E (K)) {x0 : Nat} {x1 : Nat} {w : GW}  (hw : wX9_init_0 c x0 x1 w K) : J E w b [(0, .ref (x0)), (1, .ref (x1))] 0 [] := by
  unfold wX9_init_0 at hw
  refine j_aload_n hE 0 dX9_init_0 rfl rfl ?_
  refine j_aload_n hE 1 dX9_init_1 rfl rfl ?_
  refine jc_v (jr_I hE hR (As := [.ref (x1)]) (rest := []) ((ctX8_init E.1.2.1 E.2.2.1 hc _ _ _ _ hw) E.2.2.2.1) (lw_meth q851) q146 q875 q850 rfl jdX8_init ⟨Nat.le_of_ble_eq_true rfl, Nat.le_of_ble_eq_true rfl⟩ ⟨Nat.zero_le _, Nat.zero_le _⟩  rfl (Nat.le_of_ble_eq_true rfl) dX9_init_2) (fun w1 hw => ?_)
  refine j_b0 ?_
  exact j_vret hE hK dX9_init_5 hw
theorem jdX9_init : jD yX9_init 1 := by decide +kernel
abbrev wX9_init := wX9_init_0
theorem ctX9_init (l : Launch) (G : gG) {c : Nat → Option Nat} (hc : G.2.2.2 = c) (x0 : Nat) (x1 : Nat) (w : GW) (K : GW → Prop) (hw : wX9_init_0 c x0 x1 w K) {F2 L2 : Nat} (h2 : 2 ≤ F2 ∧ 41 ≤ L2 := by exact ⟨Nat.le_refl _, Nat.le_refl _⟩) : CtV l yX9_init cX9_init 2 ({ frames := F2, cells := 0, slots := 0, locals := L2 }) G [.ref (x0), .ref (x1)] w (K) :=
  CtV.ofI RX9 plainc_X9 rfl rfl (Nat.le_of_ble_eq_true rfl) (fun E hE hini hl hG hn hR hK => bX9_init_0 hE hn (hR.le h2.1 h2.2) (by rw [hG]; exact hc) hini hK hw)
def wX10_init_0 (c : Nat → Option Nat) (x0 : Nat) (x1 : Nat) (w : GW) (K : GW → Prop) : Prop :=
  wX8_init c x0 x1 w (fun w1 => K w1)
set_option maxRecDepth 100000 in
theorem bX10_init_0 {E : jE} (hE : jOk E cX10_init RX10) (hn : E.2.2.2.2 = 2) (hR : jRoom E 2 41) {c : Nat → Option Nat} (hc : E.2.2.1.2.2.2 = c) (hini : E.2.1.1.name = "<init>") {b : Nat × Nat} {K : GW → Prop} (hK : jRv E (K)) {x0 : Nat} {x1 : Nat} {w : GW}  (hw : wX10_init_0 c x0 x1 w K) : J E w b [(0, .ref (x0)), (1, .ref (x1))] 0 [] := by
  unfold wX10_init_0 at hw
  refine j_aload_n hE 0 dX10_init_0 rfl rfl ?_
  refine j_aload_n hE 1 dX10_init_1 rfl rfl ?_
  refine jc_v (jr_I hE hR (As := [.ref (x1)]) (rest := []) ((ctX8_init E.1.2.1 E.2.2.1 hc _ _ _ _ hw) E.2.2.2.1) (lw_meth q851) q146 q885 q850 rfl jdX8_init ⟨Nat.le_of_ble_eq_true rfl, Nat.le_of_ble_eq_true rfl⟩ ⟨Nat.zero_le _, Nat.zero_le _⟩  rfl (Nat.le_of_ble_eq_true rfl) dX10_init_2) (fun w1 hw => ?_)
  refine j_b0 ?_
  exact j_vret hE hK dX10_init_5 hw
theorem jdX10_init : jD yX10_init 1 := by decide +kernel
abbrev wX10_init := wX10_init_0
theorem ctX10_init (l : Launch) (G : gG) {c : Nat → Option Nat} (hc : G.2.2.2 = c) (x0 : Nat) (x1 : Nat) (w : GW) (K : GW → Prop) (hw : wX10_init_0 c x0 x1 w K) {F2 L2 : Nat} (h2 : 2 ≤ F2 ∧ 41 ≤ L2 := by exact ⟨Nat.le_refl _, Nat.le_refl _⟩) : CtV l yX10_init cX10_init 2 ({ frames := F2, cells := 0, slots := 0, locals := L2 }) G [.ref (x0), .ref (x1)] w (K) :=
  CtV.ofI RX10 plainc_X10 rfl rfl (Nat.le_of_ble_eq_true rfl) (fun E hE hini hl hG hn hR hK => bX10_init_0 hE hn (hR.le h2.1 h2.2) (by rw [hG]; exact hc) hini hK hw)
def wX11_init_0 (c : Nat → Option Nat) (x0 : Nat) (x1 : Nat) (w : GW) (K : GW → Prop) : Prop :=
  wX8_init c x0 x1 w (fun w1 => K w1)
set_option maxRecDepth 100000 in
theorem bX11_init_0 {E : jE} (hE : jOk E cX11_init RX11) (hn : E.2.2.2.2 = 2) (hR : jRoom E 2 41) {c : Nat → Option Nat} (hc : E.2.2.1.2.2.2 = c) (hini : E.2.1.1.name = "<init>") {b : Nat × Nat} {K : GW → Prop} (hK : jRv E (K)) {x0 : Nat} {x1 : Nat} {w : GW}  (hw : wX11_init_0 c x0 x1 w K) : J E w b [(0, .ref (x0)), (1, .ref (x1))] 0 [] := by
  unfold wX11_init_0 at hw
  refine j_aload_n hE 0 dX11_init_0 rfl rfl ?_
  refine j_aload_n hE 1 dX11_init_1 rfl rfl ?_
  refine jc_v (jr_I hE hR (As := [.ref (x1)]) (rest := []) ((ctX8_init E.1.2.1 E.2.2.1 hc _ _ _ _ hw) E.2.2.2.1) (lw_meth q851) q146 q895 q850 rfl jdX8_init ⟨Nat.le_of_ble_eq_true rfl, Nat.le_of_ble_eq_true rfl⟩ ⟨Nat.zero_le _, Nat.zero_le _⟩  rfl (Nat.le_of_ble_eq_true rfl) dX11_init_2) (fun w1 hw => ?_)
  refine j_b0 ?_
  exact j_vret hE hK dX11_init_5 hw
theorem jdX11_init : jD yX11_init 1 := by decide +kernel
abbrev wX11_init := wX11_init_0
theorem ctX11_init (l : Launch) (G : gG) {c : Nat → Option Nat} (hc : G.2.2.2 = c) (x0 : Nat) (x1 : Nat) (w : GW) (K : GW → Prop) (hw : wX11_init_0 c x0 x1 w K) {F2 L2 : Nat} (h2 : 2 ≤ F2 ∧ 41 ≤ L2 := by exact ⟨Nat.le_refl _, Nat.le_refl _⟩) : CtV l yX11_init cX11_init 2 ({ frames := F2, cells := 0, slots := 0, locals := L2 }) G [.ref (x0), .ref (x1)] w (K) :=
  CtV.ofI RX11 plainc_X11 rfl rfl (Nat.le_of_ble_eq_true rfl) (fun E hE hini hl hG hn hR hK => bX11_init_0 hE hn (hR.le h2.1 h2.2) (by rw [hG]; exact hc) hini hK hw)
def wX2_need_0 (c : Nat → Option Nat) (x0 : Nat) (x1 : Nat) (w : GW) (bb : Nat × Nat) (K : GW → Prop) (KX : String → Nat → GW → Prop) : Prop :=
  gmc w x0 = some 1 ∧ (wX2_which c x0 x1 w (fun r1 => (0 ≤ r1 → (gmc w x0 = some 1 ∧ (wX2_next c x0 w (fun w5 => K w5)))) ∧ (¬ 0 ≤ r1 → (gmc w x0 = some 1 ∧ (∃ cb8 : Nat × Nat, (cb8.1 ≤ bb.1 ∧ cb8.2 ≤ bb.2) ∧ (wX2_wrong c x0 ((1 : Int32)) w cb8 (fun r6 w10 => ∀ b11 : Nat × Nat, b11 = (bb.1 - cb8.1, bb.2 - cb8.2) → (∃ a12 : Nat, r6 = some a12 ∧ (∃ (cc : Nat) (fs : List Value) (rr : vw_C), w10 a12 = some (true, .inr (cc, fs)) ∧ gCl[cc]? = some rr ∧ KX rr.1 a12 w10)))))))))
set_option maxRecDepth 100000 in
theorem bX2_need_0 {E : jE} (hE : jOk E cX2_need RX2) (hn : E.2.2.2.2 = 2) (hR : jRoom E 6 146) {c : Nat → Option Nat} (hc : E.2.2.1.2.2.2 = c) (hN : jNoH E) {K : GW → Prop} {KX : String → Nat → GW → Prop} (hK : jXv E K KX) {x0 : Nat} {x1 : Nat} {w : GW} {bb : Nat × Nat}  (hw : wX2_need_0 c x0 x1 w bb K KX) : J E w bb [(0, .ref (x0)), (1, .ref (x1))] 0 [] := by
  unfold wX2_need_0 at hw
  refine j_aload_n hE 0 dX2_need_0 rfl rfl ?_
  refine j_aload_n hE 1 dX2_need_1 rfl rfl ?_
  obtain ⟨h2, hw⟩ := hw
  refine jc_ip (jr_V hE hR (As := [.ref (x1)]) (rest := []) ((ctX2_which E.1.2.1 E.2.2.1 hc _ _ _ _ hw) E.2.2.2.1) (lw_V q518 q520 qs4 q122 q521) jdX2_which ⟨Nat.le_of_ble_eq_true rfl, Nat.le_of_ble_eq_true rfl⟩ ⟨Nat.zero_le _, Nat.zero_le _⟩ (gmc_gIs h2 (r := (RX2, TX2, 8)) rfl) rfl (Nat.le_of_ble_eq_true rfl) dX2_need_2) (fun r1 hw => ?_)
  refine j_b0 ?_
  refine j_if_ge hE 14 dX2_need_5 (by decide) (fun c3 => ?_) (fun c3 => ?_)
  · replace hw := hw.1 c3
    refine j_aload_n hE 0 dX2_need_14 rfl rfl ?_
    obtain ⟨h4, hw⟩ := hw
    refine jc_v (jr_V hE hR (As := []) (rest := []) ((ctX2_next E.1.2.1 E.2.2.1 hc _ _ _ hw) E.2.2.2.1) (lw_V q410 q412 qs2 q122 q413) jdX2_next ⟨Nat.le_of_ble_eq_true rfl, Nat.le_of_ble_eq_true rfl⟩ ⟨Nat.zero_le _, Nat.zero_le _⟩ (gmc_gIs h4 (r := (RX2, TX2, 8)) rfl) rfl (Nat.le_of_ble_eq_true rfl) dX2_need_15) (fun w5 hw => ?_)
    refine j_b0 ?_
    exact jx_vret hE hK dX2_need_18 hw
  · replace hw := hw.2 c3
    refine j_aload_n hE 0 dX2_need_8 rfl rfl ?_
    refine j_iconst hE dX2_need_9 kc_1 ?_
    obtain ⟨h7, hw⟩ := hw
    obtain ⟨cb8, h9, hw⟩ := hw
    refine jc_q (jr_V hE hR (As := [.int ((1 : Int32))]) (rest := []) ((ctX2_wrong E.1.2.1 E.2.2.1 hc _ _ _ _ _ hw) E.2.2.2.1) (lw_V q544 q546 qs5 q122 q547) jdX2_wrong ⟨Nat.le_of_ble_eq_true rfl, Nat.le_of_ble_eq_true rfl⟩ h9 (gmc_gIs h7 (r := (RX2, TX2, 8)) rfl) rfl (Nat.le_of_ble_eq_true rfl) dX2_need_10) (fun r6 w10 hw => ?_)
    refine j_nb (fun b11 e_b11 => ?_)
    replace hw := hw b11 e_b11
    obtain ⟨a12, e9, hx⟩ := hw
    subst e9
    have hw := hx
    clear hx
    obtain ⟨cc, fs, rr, h1, h2, hw⟩ := hw
    exact jx_throw hE h1 h2 dX2_need_13 (jx_out hE hK.2 hN hw)
theorem jdX2_need : jD yX2_need 1 := by decide +kernel
abbrev wX2_need := wX2_need_0
theorem ctX2_need (l : Launch) (G : gG) {c : Nat → Option Nat} (hc : G.2.2.2 = c) (x0 : Nat) (x1 : Nat) (w : GW) (bb : Nat × Nat) (K : GW → Prop) (KX : String → Nat → GW → Prop) (hw : wX2_need_0 c x0 x1 w bb K KX) {F2 L2 : Nat} (h2 : 6 ≤ F2 ∧ 146 ≤ L2 := by exact ⟨Nat.le_refl _, Nat.le_refl _⟩) : CtXV l yX2_need cX2_need 2 ({ frames := F2, cells := bb.1, slots := bb.2, locals := L2 }) G [.ref (x0), .ref (x1)] w (K) KX :=
  CtXV.of RX2 plainc_X2 rfl (Nat.le_of_ble_eq_true rfl) (fun E hE hl hG hn hR hN hK => bX2_need_0 hE hn (hR.le h2.1 h2.2) (by rw [hG]; exact hc) hN hK hw)
def wX2_number_2_30 (c : Nat → Option Nat) (x0 : Nat) (w : GW) (bb : Nat × Nat) (K : Int32 → GW → Prop) (KX : String → Nat → GW → Prop) : Prop :=
  gmc w x0 = some 1 ∧ (∃ cb3 : Nat × Nat, (cb3.1 ≤ bb.1 ∧ cb3.2 ≤ bb.2) ∧ (wX2_wrong c x0 (nI 4) w cb3 (fun r1 w5 => ∀ b6 : Nat × Nat, b6 = (bb.1 - cb3.1, bb.2 - cb3.2) → (∃ a7 : Nat, r1 = some a7 ∧ (∃ (cc : Nat) (fs : List Value) (rr : vw_C), w5 a7 = some (true, .inr (cc, fs)) ∧ gCl[cc]? = some rr ∧ KX rr.1 a7 w5)))))
set_option maxRecDepth 100000 in
theorem bX2_number_2_30 {E : jE} (hE : jOk E cX2_number_2 RX2) (hn : E.2.2.2.2 = 4) (hR : jRoom E 6 146) {c : Nat → Option Nat} (hc : E.2.2.1.2.2.2 = c) (hN : jNoH E) {K : Int32 → GW → Prop} {KX : String → Nat → GW → Prop} (hK : jXi E .int (K) KX) {x0 : Nat} {w : GW} {bb : Nat × Nat}  (hw : wX2_number_2_30 c x0 w bb K KX) : J E w bb [(0, .ref (x0))] 30 [] := by
  unfold wX2_number_2_30 at hw
  refine j_aload_n hE 0 dX2_number_2_30 rfl rfl ?_
  refine j_iconst hE dX2_number_2_31 kc_4 ?_
  obtain ⟨h2, hw⟩ := hw
  obtain ⟨cb3, h4, hw⟩ := hw
  refine jc_q (jr_V hE hR (As := [.int (nI 4)]) (rest := []) ((ctX2_wrong E.1.2.1 E.2.2.1 hc _ _ _ _ _ hw) E.2.2.2.1) (lw_V q544 q546 qs5 q122 q547) jdX2_wrong ⟨Nat.le_of_ble_eq_true rfl, Nat.le_of_ble_eq_true rfl⟩ h4 (gmc_gIs h2 (r := (RX2, TX2, 8)) rfl) rfl (Nat.le_of_ble_eq_true rfl) dX2_number_2_32) (fun r1 w5 hw => ?_)
  refine j_nb (fun b6 e_b6 => ?_)
  replace hw := hw b6 e_b6
  obtain ⟨a7, e9, hx⟩ := hw
  subst e9
  have hw := hx
  clear hx
  obtain ⟨cc, fs, rr, h1, h2, hw⟩ := hw
  exact jx_throw hE h1 h2 dX2_number_2_35 (jx_out hE hK.2 hN hw)
def wX2_number_2_0 (c : Nat → Option Nat) (x0 : Nat) (x1 : Int32) (x2 : Int32) (w : GW) (bb : Nat × Nat) (K : Int32 → GW → Prop) (KX : String → Nat → GW → Prop) : Prop :=
  ∃ f1 : Int32, gfm w x0 [1] 3 = some (.int f1) ∧ ((f1 = (nI 2) → (∃ f4 : Int32, gfm w x0 [1] 5 = some (.int f4) ∧ ((f4 < x1 → (wX2_number_2_30 c x0 w bb K KX)) ∧ (¬ f4 < x1 → (∃ f7 : Int32, gfm w x0 [1] 5 = some (.int f7) ∧ ((f7 ≤ x2 → (∃ f10 : Int32, gfm w x0 [1] 5 = some (.int f10) ∧ (gmc w x0 = some 1 ∧ (wX2_next c x0 w (fun w13 => K f10 w13))))) ∧ (¬ f7 ≤ x2 → (wX2_number_2_30 c x0 w bb K KX)))))))) ∧ (¬ f1 = (nI 2) → (gmc w x0 = some 1 ∧ (∃ cb16 : Nat × Nat, (cb16.1 ≤ bb.1 ∧ cb16.2 ≤ bb.2) ∧ (wX2_wrong c x0 ((1 : Int32)) w cb16 (fun r14 w18 => ∀ b19 : Nat × Nat, b19 = (bb.1 - cb16.1, bb.2 - cb16.2) → (∃ a20 : Nat, r14 = some a20 ∧ (∃ (cc : Nat) (fs : List Value) (rr : vw_C), w18 a20 = some (true, .inr (cc, fs)) ∧ gCl[cc]? = some rr ∧ KX rr.1 a20 w18))))))))
set_option maxRecDepth 100000 in
theorem bX2_number_2_0 {E : jE} (hE : jOk E cX2_number_2 RX2) (hn : E.2.2.2.2 = 4) (hR : jRoom E 6 146) {c : Nat → Option Nat} (hc : E.2.2.1.2.2.2 = c) (hN : jNoH E) {K : Int32 → GW → Prop} {KX : String → Nat → GW → Prop} (hK : jXi E .int (K) KX) {x0 : Nat} {x1 : Int32} {x2 : Int32} {w : GW} {bb : Nat × Nat}  (hw : wX2_number_2_0 c x0 x1 x2 w bb K KX) : J E w bb [(0, .ref (x0)), (1, .int (x1)), (2, .int (x2))] 0 [] := by
  unfold wX2_number_2_0 at hw
  refine j_aload_n hE 0 dX2_number_2_0 rfl rfl ?_
  obtain ⟨f1, h2, hw⟩ := hw
  refine j_getM hE gf_GlassStreet_Reader_kind q181 h2 dX2_number_2_1 ?_
  refine j_iconst hE dX2_number_2_4 kc_2 ?_
  refine j_icmp_eq hE 14 dX2_number_2_5 (by decide) (fun c3 => ?_) (fun c3 => ?_)
  · replace hw := hw.1 c3
    refine j_aload_n hE 0 dX2_number_2_14 rfl rfl ?_
    obtain ⟨f4, h5, hw⟩ := hw
    refine j_getM hE gf_GlassStreet_Reader_value q183 h5 dX2_number_2_15 ?_
    refine j_iload_n hE 1 dX2_number_2_18 rfl rfl ?_
    refine j_icmp_lt hE 30 dX2_number_2_19 (by decide) (fun c6 => ?_) (fun c6 => ?_)
    · replace hw := hw.1 c6
      refine j_sub [(0, .ref (x0))] [0] rfl ?_
      have hz := bX2_number_2_30 hE hn hR hc hN hK  hw
      exact hz
    · replace hw := hw.2 c6
      refine j_aload_n hE 0 dX2_number_2_22 rfl rfl ?_
      obtain ⟨f7, h8, hw⟩ := hw
      refine j_getM hE gf_GlassStreet_Reader_value q183 h8 dX2_number_2_23 ?_
      refine j_iload_n hE 2 dX2_number_2_26 rfl rfl ?_
      refine j_icmp_le hE 36 dX2_number_2_27 (by decide) (fun c9 => ?_) (fun c9 => ?_)
      · replace hw := hw.1 c9
        refine j_aload_n hE 0 dX2_number_2_36 rfl rfl ?_
        obtain ⟨f10, h11, hw⟩ := hw
        refine j_getM hE gf_GlassStreet_Reader_value q183 h11 dX2_number_2_37 ?_
        refine j_istore_n (L' := [(3, .int (f10)), (0, .ref (x0)), (1, .int (x1)), (2, .int (x2))]) hE hn dX2_number_2_40 rfl (Nat.le_of_ble_eq_true rfl) rfl ?_
        refine j_aload_n hE 1 dX2_number_2_41 rfl rfl ?_
        obtain ⟨h12, hw⟩ := hw
        refine jc_v (jr_V hE hR (As := []) (rest := []) ((ctX2_next E.1.2.1 E.2.2.1 hc _ _ _ hw) E.2.2.2.1) (lw_V q410 q412 qs2 q122 q413) jdX2_next ⟨Nat.le_of_ble_eq_true rfl, Nat.le_of_ble_eq_true rfl⟩ ⟨Nat.zero_le _, Nat.zero_le _⟩ (gmc_gIs h12 (r := (RX2, TX2, 8)) rfl) rfl (Nat.le_of_ble_eq_true rfl) dX2_number_2_42) (fun w13 hw => ?_)
        refine j_b0 ?_
        refine j_iload_n hE 0 dX2_number_2_45 rfl rfl ?_
        exact jx_iret hE hK dX2_number_2_46 rfl hw
      · replace hw := hw.2 c9
        refine j_sub [(0, .ref (x0))] [0] rfl ?_
        have hz := bX2_number_2_30 hE hn hR hc hN hK  hw
        exact hz
  · replace hw := hw.2 c3
    refine j_aload_n hE 0 dX2_number_2_8 rfl rfl ?_
    refine j_iconst hE dX2_number_2_9 kc_1 ?_
    obtain ⟨h15, hw⟩ := hw
    obtain ⟨cb16, h17, hw⟩ := hw
    refine jc_q (jr_V hE hR (As := [.int ((1 : Int32))]) (rest := []) ((ctX2_wrong E.1.2.1 E.2.2.1 hc _ _ _ _ _ hw) E.2.2.2.1) (lw_V q544 q546 qs5 q122 q547) jdX2_wrong ⟨Nat.le_of_ble_eq_true rfl, Nat.le_of_ble_eq_true rfl⟩ h17 (gmc_gIs h15 (r := (RX2, TX2, 8)) rfl) rfl (Nat.le_of_ble_eq_true rfl) dX2_number_2_10) (fun r14 w18 hw => ?_)
    refine j_nb (fun b19 e_b19 => ?_)
    replace hw := hw b19 e_b19
    obtain ⟨a20, e9, hx⟩ := hw
    subst e9
    have hw := hx
    clear hx
    obtain ⟨cc, fs, rr, h1, h2, hw⟩ := hw
    exact jx_throw hE h1 h2 dX2_number_2_13 (jx_out hE hK.2 hN hw)
theorem jdX2_number_2 : jD yX2_number_2 2 := by decide +kernel
abbrev wX2_number_2 := wX2_number_2_0
theorem ctX2_number_2 (l : Launch) (G : gG) {c : Nat → Option Nat} (hc : G.2.2.2 = c) (x0 : Nat) (x1 : Int32) (x2 : Int32) (w : GW) (bb : Nat × Nat) (K : Int32 → GW → Prop) (KX : String → Nat → GW → Prop) (hw : wX2_number_2_0 c x0 x1 x2 w bb K KX) {F2 L2 : Nat} (h2 : 6 ≤ F2 ∧ 146 ≤ L2 := by exact ⟨Nat.le_refl _, Nat.le_refl _⟩) : CtXI l yX2_number_2 cX2_number_2 4 .int ({ frames := F2, cells := bb.1, slots := bb.2, locals := L2 }) G [.ref (x0), .int (x1), .int (x2)] w (K) KX :=
  CtXI.of RX2 plainc_X2 rfl (Nat.le_of_ble_eq_true rfl) (fun E hE hl hG hn hR hN hK => bX2_number_2_0 hE hn (hR.le h2.1 h2.2) (by rw [hG]; exact hc) hN hK hw)
def wX2_number_0 (c : Nat → Option Nat) (x0 : Nat) (x1 : Nat) (x2 : Int32) (x3 : Int32) (w : GW) (bb : Nat × Nat) (K : Int32 → GW → Prop) (KX : String → Nat → GW → Prop) : Prop :=
  gmc w x0 = some 1 ∧ (∃ cb2 : Nat × Nat, (cb2.1 ≤ bb.1 ∧ cb2.2 ≤ bb.2) ∧ (wX2_need c x0 x1 w cb2 (fun w4 => ∀ b5 : Nat × Nat, b5 = (bb.1 - cb2.1, bb.2 - cb2.2) → (gmc w4 x0 = some 1 ∧ (∃ cb8 : Nat × Nat, (cb8.1 ≤ b5.1 ∧ cb8.2 ≤ b5.2) ∧ (wX2_number_2 c x0 x2 x3 w4 cb8 (fun r6 w10 => ∀ b11 : Nat × Nat, b11 = (b5.1 - cb8.1, b5.2 - cb8.2) → (K r6 w10)) KX)))) KX))
set_option maxRecDepth 100000 in
theorem bX2_number_0 {E : jE} (hE : jOk E cX2_number RX2) (hn : E.2.2.2.2 = 4) (hR : jRoom E 7 169) {c : Nat → Option Nat} (hc : E.2.2.1.2.2.2 = c) (hN : jNoH E) {K : Int32 → GW → Prop} {KX : String → Nat → GW → Prop} (hK : jXi E .int (K) KX) {x0 : Nat} {x1 : Nat} {x2 : Int32} {x3 : Int32} {w : GW} {bb : Nat × Nat}  (hw : wX2_number_0 c x0 x1 x2 x3 w bb K KX) : J E w bb [(0, .ref (x0)), (1, .ref (x1)), (2, .int (x2)), (3, .int (x3))] 0 [] := by
  unfold wX2_number_0 at hw
  refine j_aload_n hE 0 dX2_number_0 rfl rfl ?_
  refine j_aload_n hE 1 dX2_number_1 rfl rfl ?_
  obtain ⟨h1, hw⟩ := hw
  obtain ⟨cb2, h3, hw⟩ := hw
  refine jcx_v (jrx_V hE hR (As := [.ref (x1)]) (rest := []) ((ctX2_need E.1.2.1 E.2.2.1 hc _ _ _ _ _ _ hw) E.2.2.2.1) (lw_V q905 q907 qs15 q122 q908) jdX2_need ⟨Nat.le_of_ble_eq_true rfl, Nat.le_of_ble_eq_true rfl⟩ h3 (gmc_gIs h1 (r := (RX2, TX2, 8)) rfl) rfl (Nat.le_of_ble_eq_true rfl) dX2_number_2) (fun E9 q9 u9 hx => jx_out hE hK.2 hN hx) (fun w4 hw => ?_)
  refine j_nb (fun b5 e_b5 => ?_)
  replace hw := hw b5 e_b5
  refine j_aload_n hE 0 dX2_number_5 rfl rfl ?_
  refine j_iload_n hE 2 dX2_number_6 rfl rfl ?_
  refine j_iload_n hE 3 dX2_number_7 rfl rfl ?_
  obtain ⟨h7, hw⟩ := hw
  obtain ⟨cb8, h9, hw⟩ := hw
  refine jcx_i (jrx_V hE hR (As := [.int (x2), .int (x3)]) (rest := []) ((ctX2_number_2 E.1.2.1 E.2.2.1 hc _ _ _ _ _ _ _ hw) E.2.2.2.1) (lw_V q909 q911 qs16 q122 q912) jdX2_number_2 ⟨Nat.le_of_ble_eq_true rfl, Nat.le_of_ble_eq_true rfl⟩ h9 (gmc_gIs h7 (r := (RX2, TX2, 8)) rfl) rfl (Nat.le_of_ble_eq_true rfl) dX2_number_8) (fun E9 q9 u9 hx => jx_out hE hK.2 hN hx) (fun r6 w10 hw => ?_)
  refine j_nb (fun b11 e_b11 => ?_)
  replace hw := hw b11 e_b11
  exact jx_iret hE hK dX2_number_11 rfl hw
theorem jdX2_number : jD yX2_number 3 := by decide +kernel
abbrev wX2_number := wX2_number_0
theorem ctX2_number (l : Launch) (G : gG) {c : Nat → Option Nat} (hc : G.2.2.2 = c) (x0 : Nat) (x1 : Nat) (x2 : Int32) (x3 : Int32) (w : GW) (bb : Nat × Nat) (K : Int32 → GW → Prop) (KX : String → Nat → GW → Prop) (hw : wX2_number_0 c x0 x1 x2 x3 w bb K KX) {F2 L2 : Nat} (h2 : 7 ≤ F2 ∧ 169 ≤ L2 := by exact ⟨Nat.le_refl _, Nat.le_refl _⟩) : CtXI l yX2_number cX2_number 4 .int ({ frames := F2, cells := bb.1, slots := bb.2, locals := L2 }) G [.ref (x0), .ref (x1), .int (x2), .int (x3)] w (K) KX :=
  CtXI.of RX2 plainc_X2 rfl (Nat.le_of_ble_eq_true rfl) (fun E hE hl hG hn hR hN hK => bX2_number_0 hE hn (hR.le h2.1 h2.2) (by rw [hG]; exact hc) hN hK hw)
def wX1_in_0 (c : Nat → Option Nat) (x0 : Int32) (x1 : Int32) (x2 : Int32) (w0 : GW) (K : Int32 → Prop) : Prop :=
  (x0 < x1 → (K ((0 : Int32)))) ∧ (¬ x0 < x1 → ((x2 < x0 → (K ((0 : Int32)))) ∧ (¬ x2 < x0 → (K ((1 : Int32))))))
set_option maxRecDepth 100000 in
theorem bX1_in_0 {E : jE} (hE : jOk E cX1_in RX1) (hn : E.2.2.2.2 = 3) (hR : jRoom E 0 0) {c : Nat → Option Nat} (hc : E.2.2.1.2.2.2 = c) {b : Nat × Nat} {w0 : GW} {K : Int32 → Prop} (hK : jRi E .boolean (KPI w0 K)) {x0 : Int32} {x1 : Int32} {x2 : Int32}  (hw : wX1_in_0 c x0 x1 x2 w0 K) : J E w0 b [(0, .int (x0)), (1, .int (x1)), (2, .int (x2))] 0 [] := by
  unfold wX1_in_0 at hw
  refine j_iload_n hE 0 dX1_in_0 rfl rfl ?_
  refine j_iload_n hE 1 dX1_in_1 rfl rfl ?_
  refine j_icmp_lt hE 14 dX1_in_2 (by decide) (fun c1 => ?_) (fun c1 => ?_)
  · replace hw := hw.1 c1
    refine j_iconst hE dX1_in_14 kc_0 ?_
    exact j_iret hE hK dX1_in_15 rfl ⟨rfl, hw⟩
  · replace hw := hw.2 c1
    refine j_iload_n hE 0 dX1_in_5 rfl rfl ?_
    refine j_iload_n hE 2 dX1_in_6 rfl rfl ?_
    refine j_icmp_gt hE 14 dX1_in_7 (by decide) (fun c2 => ?_) (fun c2 => ?_)
    · replace hw := hw.1 c2
      refine j_iconst hE dX1_in_14 kc_0 ?_
      exact j_iret hE hK dX1_in_15 rfl ⟨rfl, hw⟩
    · replace hw := hw.2 c2
      refine j_iconst hE dX1_in_10 kc_1 ?_
      refine j_goto hE 15 dX1_in_11 (by decide) ?_
      exact j_iret hE hK dX1_in_15 rfl ⟨rfl, hw⟩
theorem jdX1_in : jD yX1_in 3 := by decide +kernel
abbrev wX1_in := wX1_in_0
theorem ctX1_in (l : Launch) (G : gG) {c : Nat → Option Nat} (hc : G.2.2.2 = c) (x0 : Int32) (x1 : Int32) (x2 : Int32) (w0 : GW) (K : Int32 → Prop) (hw : wX1_in_0 c x0 x1 x2 w0 K) {F2 L2 : Nat} (h2 : 0 ≤ F2 ∧ 0 ≤ L2 := by exact ⟨Nat.le_refl _, Nat.le_refl _⟩) : CtI l yX1_in cX1_in 3 .boolean ({ frames := F2, cells := 0, slots := 0, locals := L2 }) G [.int (x0), .int (x1), .int (x2)] w0 (KPI w0 K) :=
  CtI.of RX1 plainc_X1 rfl (Nat.le_of_ble_eq_true rfl) (fun E hE hl hG hn hR hK => bX1_in_0 hE hn (hR.le h2.1 h2.2) (by rw [hG]; exact hc) hK hw)
def wX2_ahead_22_b (c : Nat → Option Nat) (x0 : Nat) (x1 : Int32) (x2 : Int32) (x3 : Int32) (x4 : Int32) (w : GW) (bb : Nat × Nat) (KL22 : Int32 × Int32 → Prop) (K : Int32 → GW → Prop) (KX : String → Nat → GW → Prop) : Prop :=
  ∃ f1 : Int32, gfm w x0 [1] 2 = some (.int f1) ∧ ((f1 ≤ x4 → (wX1_in c x3 x1 x2 w (fun r4 => (¬ r4 = 0 → (K x3 w)) ∧ (r4 = 0 → (gmc w x0 = some 1 ∧ (∃ cb8 : Nat × Nat, (cb8.1 ≤ bb.1 ∧ cb8.2 ≤ bb.2) ∧ (wX2_wrong c x0 (nI 4) w cb8 (fun r6 w10 => ∀ b11 : Nat × Nat, b11 = (bb.1 - cb8.1, bb.2 - cb8.2) → (∃ a12 : Nat, r6 = some a12 ∧ (∃ (cc : Nat) (fs : List Value) (rr : vw_C), w10 a12 = some (true, .inr (cc, fs)) ∧ gCl[cc]? = some rr ∧ KX rr.1 a12 w10)))))))))) ∧ (¬ f1 ≤ x4 → (∃ f13 : Option Nat, gfm w x0 [1] 0 = some (va_rf f13) ∧ (∃ a15 : Nat, f13 = some a15 ∧ (∃ (n16 : Nat) (f17 : Nat → Int32), gai w a15 1 = some (n16, f17) ∧ vp_in x4 n16 ∧ (∀ v20 : Int32, v20 = ((x3 * (nI 10)) + (rd f17 x4)) - (nI 48) → (KL22 (v20, (x4 + 1)))))))))
def wX2_ahead_22 (c : Nat → Option Nat) (x0 : Nat) (x1 : Int32) (x2 : Int32) (x3 : Int32) (x4 : Int32) (w : GW) (bb : Nat × Nat) (K : Int32 → GW → Prop) (KX : String → Nat → GW → Prop) : Prop := lfp (σ := Int32 × Int32) (fun KL s => wX2_ahead_22_b c x0 x1 x2 s.1 s.2 w bb KL K KX) (x3, x4)
set_option maxRecDepth 100000 in
theorem bX2_ahead_22 {E : jE} (hE : jOk E cX2_ahead RX2) (hn : E.2.2.2.2 = 5) (hR : jRoom E 6 135) {c : Nat → Option Nat} (hc : E.2.2.1.2.2.2 = c) (hN : jNoH E) {K : Int32 → GW → Prop} {KX : String → Nat → GW → Prop} (hK : jXi E .int (K) KX) {x0 : Nat} {x1 : Int32} {x2 : Int32} {x3 : Int32} {x4 : Int32} {w : GW} {bb : Nat × Nat}  (hw : wX2_ahead_22 c x0 x1 x2 x3 x4 w bb K KX) : J E w bb [(0, .ref (x0)), (1, .int (x1)), (2, .int (x2)), (3, .int (x3)), (4, .int (x4))] 22 [] := by
  refine lfp_sound (σ := Int32 × Int32) (F := fun KL s => wX2_ahead_22_b c x0 x1 x2 s.1 s.2 w bb KL K KX) (P := fun s => J E w bb [(0, .ref (x0)), (1, .int (x1)), (2, .int (x2)), (3, .int (s.1)), (4, .int (s.2))] 22 []) ?_ hw
  clear hw
  rintro KL22 ⟨x3, x4⟩ hw ih22
  have hw : wX2_ahead_22_b c x0 x1 x2 x3 x4 w bb KL22 K KX := hw
  unfold wX2_ahead_22_b at hw
  refine j_iload hE 4 dX2_ahead_22 rfl ?_
  refine j_aload_n hE 0 dX2_ahead_24 rfl rfl ?_
  obtain ⟨f1, h2, hw⟩ := hw
  refine j_getM hE gf_GlassStreet_Reader_to q180 h2 dX2_ahead_25 ?_
  refine j_icmp_ge hE 53 dX2_ahead_28 (by decide) (fun c3 => ?_) (fun c3 => ?_)
  · replace hw := hw.1 c3
    refine j_iload_n hE 3 dX2_ahead_53 rfl rfl ?_
    refine j_iload_n hE 1 dX2_ahead_54 rfl rfl ?_
    refine j_iload_n hE 2 dX2_ahead_55 rfl rfl ?_
    refine jc_ip (jr_SN hE hR (As := [.int (x3), .int (x1), .int (x2)]) (rest := []) ((ctX1_in E.1.2.1 E.2.2.1 hc _ _ _ _ _ hw) E.2.2.2.1) (lw_meth q920) q121 q918 q919 jdX1_in ⟨Nat.le_of_ble_eq_true rfl, Nat.le_of_ble_eq_true rfl⟩ ⟨Nat.zero_le _, Nat.zero_le _⟩  rfl (Nat.le_of_ble_eq_true rfl) dX2_ahead_56) (fun r4 hw => ?_)
    refine j_b0 ?_
    refine j_if_ne hE 68 dX2_ahead_59 (by decide) (fun c5 => ?_) (fun c5 => ?_)
    · replace hw := hw.1 c5
      refine j_iload_n hE 3 dX2_ahead_68 rfl rfl ?_
      exact jx_iret hE hK dX2_ahead_69 rfl hw
    · replace hw := hw.2 c5
      refine j_aload_n hE 0 dX2_ahead_62 rfl rfl ?_
      refine j_iconst hE dX2_ahead_63 kc_4 ?_
      obtain ⟨h7, hw⟩ := hw
      obtain ⟨cb8, h9, hw⟩ := hw
      refine jc_q (jr_V hE hR (As := [.int (nI 4)]) (rest := []) ((ctX2_wrong E.1.2.1 E.2.2.1 hc _ _ _ _ _ hw) E.2.2.2.1) (lw_V q544 q546 qs5 q122 q547) jdX2_wrong ⟨Nat.le_of_ble_eq_true rfl, Nat.le_of_ble_eq_true rfl⟩ h9 (gmc_gIs h7 (r := (RX2, TX2, 8)) rfl) rfl (Nat.le_of_ble_eq_true rfl) dX2_ahead_64) (fun r6 w10 hw => ?_)
      refine j_nb (fun b11 e_b11 => ?_)
      replace hw := hw b11 e_b11
      obtain ⟨a12, e9, hx⟩ := hw
      subst e9
      have hw := hx
      clear hx
      obtain ⟨cc, fs, rr, h1, h2, hw⟩ := hw
      exact jx_throw hE h1 h2 dX2_ahead_67 (jx_out hE hK.2 hN hw)
  · replace hw := hw.2 c3
    refine j_iload_n hE 3 dX2_ahead_31 rfl rfl ?_
    refine j_bipush hE dX2_ahead_32 kb_10 ?_
    refine j_imul hE dX2_ahead_34 ?_
    refine j_aload_n hE 0 dX2_ahead_35 rfl rfl ?_
    obtain ⟨f13, h14, hw⟩ := hw
    refine j_getM hE gf_GlassStreet_Reader_text q178 h14 dX2_ahead_36 ?_
    refine j_iload hE 4 dX2_ahead_39 rfl ?_
    obtain ⟨a15, e9, hx⟩ := hw
    subst e9
    have hw := hx
    clear hx
    obtain ⟨n16, f17, h18, h19, hw⟩ := hw
    refine j_aldB hE h18 h19 dX2_ahead_41 ?_
    refine j_iadd hE dX2_ahead_42 ?_
    refine j_bipush hE dX2_ahead_43 kb_48 ?_
    refine j_isub hE dX2_ahead_45 ?_
    refine j_topi (fun v20 e_v20 => ?_)
    replace hw := hw v20 e_v20
    refine j_istore_n (L' := [(3, .int (v20)), (0, .ref (x0)), (1, .int (x1)), (2, .int (x2)), (4, .int (x4))]) hE hn dX2_ahead_46 rfl (Nat.le_of_ble_eq_true rfl) rfl ?_
    refine j_iinc (L' := [(4, .int (x4 + 1)), (3, .int (v20)), (0, .ref (x0)), (1, .int (x1)), (2, .int (x2))]) hE hn 4 dX2_ahead_47 rfl (congrArg (x4 + ·) kc_1) (Nat.le_of_ble_eq_true rfl) rfl ?_
    refine j_goto hE 22 dX2_ahead_50 (by decide) ?_
    refine j_sub [(0, .ref (x0)), (1, .int (x1)), (2, .int (x2)), (3, .int (v20)), (4, .int (x4 + 1))] [2, 3, 4, 1, 0] rfl ?_
    have hz := ih22 (v20, (x4 + 1)) hw
    exact hz
def wX2_ahead_0 (c : Nat → Option Nat) (x0 : Nat) (x1 : Int32) (x2 : Int32) (w : GW) (bb : Nat × Nat) (K : Int32 → GW → Prop) (KX : String → Nat → GW → Prop) : Prop :=
  ∃ f1 : Int32, gfm w x0 [1] 3 = some (.int f1) ∧ ((f1 = (nI 2) → (∃ f4 : Int32, gfm w x0 [1] 4 = some (.int f4) ∧ (wX2_ahead_22 c x0 x1 x2 ((0 : Int32)) f4 w bb K KX))) ∧ (¬ f1 = (nI 2) → (gmc w x0 = some 1 ∧ (∃ cb8 : Nat × Nat, (cb8.1 ≤ bb.1 ∧ cb8.2 ≤ bb.2) ∧ (wX2_wrong c x0 ((1 : Int32)) w cb8 (fun r6 w10 => ∀ b11 : Nat × Nat, b11 = (bb.1 - cb8.1, bb.2 - cb8.2) → (∃ a12 : Nat, r6 = some a12 ∧ (∃ (cc : Nat) (fs : List Value) (rr : vw_C), w10 a12 = some (true, .inr (cc, fs)) ∧ gCl[cc]? = some rr ∧ KX rr.1 a12 w10))))))))
set_option maxRecDepth 100000 in
theorem bX2_ahead_0 {E : jE} (hE : jOk E cX2_ahead RX2) (hn : E.2.2.2.2 = 5) (hR : jRoom E 6 135) {c : Nat → Option Nat} (hc : E.2.2.1.2.2.2 = c) (hN : jNoH E) {K : Int32 → GW → Prop} {KX : String → Nat → GW → Prop} (hK : jXi E .int (K) KX) {x0 : Nat} {x1 : Int32} {x2 : Int32} {w : GW} {bb : Nat × Nat}  (hw : wX2_ahead_0 c x0 x1 x2 w bb K KX) : J E w bb [(0, .ref (x0)), (1, .int (x1)), (2, .int (x2))] 0 [] := by
  unfold wX2_ahead_0 at hw
  refine j_aload_n hE 0 dX2_ahead_0 rfl rfl ?_
  obtain ⟨f1, h2, hw⟩ := hw
  refine j_getM hE gf_GlassStreet_Reader_kind q181 h2 dX2_ahead_1 ?_
  refine j_iconst hE dX2_ahead_4 kc_2 ?_
  refine j_icmp_eq hE 14 dX2_ahead_5 (by decide) (fun c3 => ?_) (fun c3 => ?_)
  · replace hw := hw.1 c3
    refine j_iconst hE dX2_ahead_14 kc_0 ?_
    refine j_istore_n (L' := [(3, .int ((0 : Int32))), (0, .ref (x0)), (1, .int (x1)), (2, .int (x2))]) hE hn dX2_ahead_15 rfl (Nat.le_of_ble_eq_true rfl) rfl ?_
    refine j_aload_n hE 1 dX2_ahead_16 rfl rfl ?_
    obtain ⟨f4, h5, hw⟩ := hw
    refine j_getM hE gf_GlassStreet_Reader_from q182 h5 dX2_ahead_17 ?_
    refine j_istore (L' := [(4, .int (f4)), (3, .int ((0 : Int32))), (0, .ref (x0)), (1, .int (x1)), (2, .int (x2))]) hE hn dX2_ahead_20 (Nat.le_of_ble_eq_true rfl) rfl ?_
    refine j_sub [(0, .ref (x0)), (1, .int (x1)), (2, .int (x2)), (3, .int ((0 : Int32))), (4, .int (f4))] [2, 3, 4, 1, 0] rfl ?_
    have hz := bX2_ahead_22 hE hn hR hc hN hK  hw
    exact hz
  · replace hw := hw.2 c3
    refine j_aload_n hE 0 dX2_ahead_8 rfl rfl ?_
    refine j_iconst hE dX2_ahead_9 kc_1 ?_
    obtain ⟨h7, hw⟩ := hw
    obtain ⟨cb8, h9, hw⟩ := hw
    refine jc_q (jr_V hE hR (As := [.int ((1 : Int32))]) (rest := []) ((ctX2_wrong E.1.2.1 E.2.2.1 hc _ _ _ _ _ hw) E.2.2.2.1) (lw_V q544 q546 qs5 q122 q547) jdX2_wrong ⟨Nat.le_of_ble_eq_true rfl, Nat.le_of_ble_eq_true rfl⟩ h9 (gmc_gIs h7 (r := (RX2, TX2, 8)) rfl) rfl (Nat.le_of_ble_eq_true rfl) dX2_ahead_10) (fun r6 w10 hw => ?_)
    refine j_nb (fun b11 e_b11 => ?_)
    replace hw := hw b11 e_b11
    obtain ⟨a12, e9, hx⟩ := hw
    subst e9
    have hw := hx
    clear hx
    obtain ⟨cc, fs, rr, h1, h2, hw⟩ := hw
    exact jx_throw hE h1 h2 dX2_ahead_13 (jx_out hE hK.2 hN hw)
theorem jdX2_ahead : jD yX2_ahead 2 := by decide +kernel
abbrev wX2_ahead := wX2_ahead_0
theorem ctX2_ahead (l : Launch) (G : gG) {c : Nat → Option Nat} (hc : G.2.2.2 = c) (x0 : Nat) (x1 : Int32) (x2 : Int32) (w : GW) (bb : Nat × Nat) (K : Int32 → GW → Prop) (KX : String → Nat → GW → Prop) (hw : wX2_ahead_0 c x0 x1 x2 w bb K KX) {F2 L2 : Nat} (h2 : 6 ≤ F2 ∧ 135 ≤ L2 := by exact ⟨Nat.le_refl _, Nat.le_refl _⟩) : CtXI l yX2_ahead cX2_ahead 5 .int ({ frames := F2, cells := bb.1, slots := bb.2, locals := L2 }) G [.ref (x0), .int (x1), .int (x2)] w (K) KX :=
  CtXI.of RX2 plainc_X2 rfl (Nat.le_of_ble_eq_true rfl) (fun E hE hl hG hn hR hN hK => bX2_ahead_0 hE hn (hR.le h2.1 h2.2) (by rw [hG]; exact hc) hN hK hw)
def wX1_isIn_0 (c : Nat → Option Nat) (x0 : Int32) (x1 : Int32) (w0 : GW) (K : Int32 → Prop) : Prop :=
  (¬ ((ishr x0 x1) &&& ((1 : Int32))) = ((1 : Int32)) → (K ((0 : Int32)))) ∧ (((ishr x0 x1) &&& ((1 : Int32))) = ((1 : Int32)) → (K ((1 : Int32))))
set_option maxRecDepth 100000 in
theorem bX1_isIn_0 {E : jE} (hE : jOk E cX1_isIn RX1) (hn : E.2.2.2.2 = 2) (hR : jRoom E 0 0) {c : Nat → Option Nat} (hc : E.2.2.1.2.2.2 = c) {b : Nat × Nat} {w0 : GW} {K : Int32 → Prop} (hK : jRi E .boolean (KPI w0 K)) {x0 : Int32} {x1 : Int32}  (hw : wX1_isIn_0 c x0 x1 w0 K) : J E w0 b [(0, .int (x0)), (1, .int (x1))] 0 [] := by
  unfold wX1_isIn_0 at hw
  refine j_iload_n hE 0 dX1_isIn_0 rfl rfl ?_
  refine j_iload_n hE 1 dX1_isIn_1 rfl rfl ?_
  refine j_ishr hE dX1_isIn_2 ?_
  refine j_iconst hE dX1_isIn_3 kc_1 ?_
  refine j_iand hE dX1_isIn_4 ?_
  refine j_iconst hE dX1_isIn_5 kc_1 ?_
  refine j_icmp_ne hE 13 dX1_isIn_6 (by decide) (fun c1 => ?_) (fun c1 => ?_)
  · replace hw := hw.1 c1
    refine j_iconst hE dX1_isIn_13 kc_0 ?_
    exact j_iret hE hK dX1_isIn_14 rfl ⟨rfl, hw⟩
  · replace hw := hw.2 c1
    refine j_iconst hE dX1_isIn_9 kc_1 ?_
    refine j_goto hE 14 dX1_isIn_10 (by decide) ?_
    exact j_iret hE hK dX1_isIn_14 rfl ⟨rfl, hw⟩
theorem jdX1_isIn : jD yX1_isIn 2 := by decide +kernel
abbrev wX1_isIn := wX1_isIn_0
theorem ctX1_isIn (l : Launch) (G : gG) {c : Nat → Option Nat} (hc : G.2.2.2 = c) (x0 : Int32) (x1 : Int32) (w0 : GW) (K : Int32 → Prop) (hw : wX1_isIn_0 c x0 x1 w0 K) {F2 L2 : Nat} (h2 : 0 ≤ F2 ∧ 0 ≤ L2 := by exact ⟨Nat.le_refl _, Nat.le_refl _⟩) : CtI l yX1_isIn cX1_isIn 2 .boolean ({ frames := F2, cells := 0, slots := 0, locals := L2 }) G [.int (x0), .int (x1)] w0 (KPI w0 K) :=
  CtI.of RX1 plainc_X1 rfl (Nat.le_of_ble_eq_true rfl) (fun E hE hl hG hn hR hK => bX1_isIn_0 hE hn (hR.le h2.1 h2.2) (by rw [hG]; exact hc) hK hw)
def wX2_isSign_0 (c : Nat → Option Nat) (x0 : Nat) (x1 : Int32) (w0 : GW) (K : Int32 → Prop) : Prop :=
  ∃ f1 : Int32, gfm w0 x0 [1] 3 = some (.int f1) ∧ ((¬ f1 = (nI 3) → (K ((0 : Int32)))) ∧ (f1 = (nI 3) → (∃ f4 : Option Nat, gfm w0 x0 [1] 0 = some (va_rf f4) ∧ (∃ f6 : Int32, gfm w0 x0 [1] 4 = some (.int f6) ∧ (∃ a8 : Nat, f4 = some a8 ∧ (∃ (n9 : Nat) (f10 : Nat → Int32), gai w0 a8 1 = some (n9, f10) ∧ vp_in f6 n9 ∧ ((¬ (rd f10 f6) = x1 → (K ((0 : Int32)))) ∧ ((rd f10 f6) = x1 → (K ((1 : Int32)))))))))))
set_option maxRecDepth 100000 in
theorem bX2_isSign_0 {E : jE} (hE : jOk E cX2_isSign RX2) (hn : E.2.2.2.2 = 2) (hR : jRoom E 0 0) {c : Nat → Option Nat} (hc : E.2.2.1.2.2.2 = c) {b : Nat × Nat} {w0 : GW} {K : Int32 → Prop} (hK : jRi E .boolean (KPI w0 K)) {x0 : Nat} {x1 : Int32}  (hw : wX2_isSign_0 c x0 x1 w0 K) : J E w0 b [(0, .ref (x0)), (1, .int (x1))] 0 [] := by
  unfold wX2_isSign_0 at hw
  refine j_aload_n hE 0 dX2_isSign_0 rfl rfl ?_
  obtain ⟨f1, h2, hw⟩ := hw
  refine j_getM hE gf_GlassStreet_Reader_kind q181 h2 dX2_isSign_1 ?_
  refine j_iconst hE dX2_isSign_4 kc_3 ?_
  refine j_icmp_ne hE 25 dX2_isSign_5 (by decide) (fun c3 => ?_) (fun c3 => ?_)
  · replace hw := hw.1 c3
    refine j_iconst hE dX2_isSign_25 kc_0 ?_
    exact j_iret hE hK dX2_isSign_26 rfl ⟨rfl, hw⟩
  · replace hw := hw.2 c3
    refine j_aload_n hE 0 dX2_isSign_8 rfl rfl ?_
    obtain ⟨f4, h5, hw⟩ := hw
    refine j_getM hE gf_GlassStreet_Reader_text q178 h5 dX2_isSign_9 ?_
    refine j_aload_n hE 0 dX2_isSign_12 rfl rfl ?_
    obtain ⟨f6, h7, hw⟩ := hw
    refine j_getM hE gf_GlassStreet_Reader_from q182 h7 dX2_isSign_13 ?_
    obtain ⟨a8, e9, hx⟩ := hw
    subst e9
    have hw := hx
    clear hx
    obtain ⟨n9, f10, h11, h12, hw⟩ := hw
    refine j_aldB hE h11 h12 dX2_isSign_16 ?_
    refine j_iload_n hE 1 dX2_isSign_17 rfl rfl ?_
    refine j_icmp_ne hE 25 dX2_isSign_18 (by decide) (fun c13 => ?_) (fun c13 => ?_)
    · replace hw := hw.1 c13
      refine j_iconst hE dX2_isSign_25 kc_0 ?_
      exact j_iret hE hK dX2_isSign_26 rfl ⟨rfl, hw⟩
    · replace hw := hw.2 c13
      refine j_iconst hE dX2_isSign_21 kc_1 ?_
      refine j_goto hE 26 dX2_isSign_22 (by decide) ?_
      exact j_iret hE hK dX2_isSign_26 rfl ⟨rfl, hw⟩
theorem jdX2_isSign : jD yX2_isSign 1 := by decide +kernel
abbrev wX2_isSign := wX2_isSign_0
theorem ctX2_isSign (l : Launch) (G : gG) {c : Nat → Option Nat} (hc : G.2.2.2 = c) (x0 : Nat) (x1 : Int32) (w0 : GW) (K : Int32 → Prop) (hw : wX2_isSign_0 c x0 x1 w0 K) {F2 L2 : Nat} (h2 : 0 ≤ F2 ∧ 0 ≤ L2 := by exact ⟨Nat.le_refl _, Nat.le_refl _⟩) : CtI l yX2_isSign cX2_isSign 2 .boolean ({ frames := F2, cells := 0, slots := 0, locals := L2 }) G [.ref (x0), .int (x1)] w0 (KPI w0 K) :=
  CtI.of RX2 plainc_X2 rfl (Nat.le_of_ble_eq_true rfl) (fun E hE hl hG hn hR hK => bX2_isSign_0 hE hn (hR.le h2.1 h2.2) (by rw [hG]; exact hc) hK hw)
def wJ15_copyOf_3_24 (c : Nat → Option Nat) (x0 : Nat) (x1 : Int32) (s0 : Nat) (w : GW) (bb : Nat × Nat) (K : Option Nat → GW → Prop) : Prop :=
  ∃ n1 : Nat, galen w x0 4 = some n1 ∧ (∃ (n13 : Nat) (f15 : Nat → Option Nat) (n14 : Nat) (f16 : Nat → Option Nat), w x0 = some (true, .inl (4, n13, .inr (.inr (.inr (.inr f15))))) ∧ w s0 = some (true, .inl (4, n14, .inr (.inr (.inr (.inr f16))))) ∧ ¬ ((0 : Int32)) < 0 ∧ ¬ ((0 : Int32)) < 0 ∧ ¬ ((if x1 < (nI n1) then x1 else (nI n1))) < 0 ∧ ((0 : Int32)).toNatClampNeg + ((if x1 < (nI n1) then x1 else (nI n1))).toNatClampNeg ≤ n13 ∧ ((0 : Int32)).toNatClampNeg + ((if x1 < (nI n1) then x1 else (nI n1))).toNatClampNeg ≤ n14 ∧ (∀ i : Nat, i < ((if x1 < (nI n1) then x1 else (nI n1))).toNatClampNeg → ∀ y9 : Nat, f15 (((0 : Int32)).toNatClampNeg + i) = some y9 → ∃ c9, gmc w y9 = some c9 ∧ c9 ∈ ([7, 8, 9, 10, 21, 15, 16, 17, 18, 24] : List Nat)) ∧ (∀ w17 : GW, w17 = gup w s0 (.inl (4, n14, .inr (.inr (.inr (.inr (va_cpy f15 f16 ((0 : Int32)).toNatClampNeg ((0 : Int32)).toNatClampNeg ((if x1 < (nI n1) then x1 else (nI n1))).toNatClampNeg)))))) → (K (some s0) w17)))
set_option maxRecDepth 100000 in
theorem bJ15_copyOf_3_24 {E : jE} (hE : jOk E cJ15_copyOf_3 RJ15) (hn : E.2.2.2.2 = 4) (hR : jRoom E 1 60) {c : Nat → Option Nat} (hc : E.2.2.1.2.2.2 = c) {K : Option Nat → GW → Prop} (hK : jRq E (.array (.object "java/lang/Object")) (K)) {x0 : Nat} {x1 : Int32} {s0 : Nat} {w : GW} {bb : Nat × Nat}  (hw : wJ15_copyOf_3_24 c x0 x1 s0 w bb K) : J E w bb [(0, .ref (x0)), (1, .int (x1))] 24 [.ref (s0)] := by
  unfold wJ15_copyOf_3_24 at hw
  refine j_astore_n (L' := [(3, .ref (s0)), (0, .ref (x0)), (1, .int (x1))]) hE hn dJ15_copyOf_3_24 rfl (Nat.le_of_ble_eq_true rfl) rfl ?_
  refine j_aload_n hE 1 dJ15_copyOf_3_25 rfl rfl ?_
  refine j_iconst hE dJ15_copyOf_3_26 kc_0 ?_
  refine j_aload_n hE 0 dJ15_copyOf_3_27 rfl rfl ?_
  refine j_iconst hE dJ15_copyOf_3_28 kc_0 ?_
  refine j_aload_n hE 1 dJ15_copyOf_3_29 rfl rfl ?_
  obtain ⟨n1, h3, hw⟩ := hw
  refine j_alen hE h3 (Nat.le_of_ble_eq_true rfl) dJ15_copyOf_3_30 ?_
  refine j_iload_n hE 2 dJ15_copyOf_3_31 rfl rfl ?_
  refine j_mmin hE hR q710 (Nat.le_of_ble_eq_true rfl) (Nat.le_of_ble_eq_true rfl) dJ15_copyOf_3_32 ?_
  obtain ⟨n13, f15, n14, f16, h5, h6, h7, h8, h9, h10, h11, h12, hw⟩ := hw
  refine j_acpQ hE hR q711 q713 q712 q144 h5 h6 h7 h8 h9 h10 h11 (elem_obj h12) (Nat.le_of_ble_eq_true rfl) (Nat.le_of_ble_eq_true rfl) dJ15_copyOf_3_35 ?_
  refine j_nw (fun w17 e_w17 => ?_)
  replace hw := hw w17 e_w17
  refine j_aload_n hE 0 dJ15_copyOf_3_38 rfl rfl ?_
  exact j_qret hE hK (r := some s0) dJ15_copyOf_3_39 (by first | exact Or.inl ⟨_, rfl⟩ | exact Or.inr ⟨_, rfl⟩) hw
def wJ15_copyOf_3_0 (c : Nat → Option Nat) (x0 : Nat) (x1 : Int32) (x2 : Option Nat) (w : GW) (bb : Nat × Nat) (K : Option Nat → GW → Prop) : Prop :=
  ∀ r1 : Option Nat, r1 = c 15 → ((¬ x2 = r1 → (False)) ∧ (x2 = r1 → (¬ x1 < 0 ∧ (x1).toNatClampNeg * 4 ≤ 536870912 ∧ 1 ≤ bb.1 ∧ (x1).toNatClampNeg ≤ bb.2 ∧ ∀ qa8 : Nat, w qa8 = none → (∀ w9 : GW, w9 = gup w qa8 (.inl (4, (x1).toNatClampNeg, .inr (.inr (.inr (.inr (fun _ => none)))))) → (∀ b10 : Nat × Nat, b10 = (bb.1 - 1, bb.2 - (x1).toNatClampNeg) → (wJ15_copyOf_3_24 c x0 x1 qa8 w9 b10 K))))))
set_option maxRecDepth 100000 in
theorem bJ15_copyOf_3_0 {E : jE} (hE : jOk E cJ15_copyOf_3 RJ15) (hn : E.2.2.2.2 = 4) (hR : jRoom E 1 60) {c : Nat → Option Nat} (hc : E.2.2.1.2.2.2 = c) {K : Option Nat → GW → Prop} (hK : jRq E (.array (.object "java/lang/Object")) (K)) {x0 : Nat} {x1 : Int32} {x2 : Option Nat} {w : GW} {bb : Nat × Nat}  (hw : wJ15_copyOf_3_0 c x0 x1 x2 w bb K) : J E w bb [(0, .ref (x0)), (1, .int (x1)), (2, va_rf (x2))] 0 [] := by
  unfold wJ15_copyOf_3_0 at hw
  refine j_aload_nq hE 2 dJ15_copyOf_3_0 rfl rfl ?_
  obtain ⟨r1, e_r1⟩ : ∃ r9 : Option Nat, r9 = c 15 := ⟨_, rfl⟩
  replace hw := hw r1 e_r1
  refine j_ldcM hE q982 hc e_r1 dJ15_copyOf_3_1 ?_
  refine j_acmp_ne (rx := x2) (ry := r1) hE 13 dJ15_copyOf_3_3 (by decide) (fun c2 => ?_) (fun c2 => ?_)
  · replace hw := hw.1 c2
    refine j_aload_nq hE 2 dJ15_copyOf_3_13 rfl rfl ?_
    exact hw.elim
  · replace hw := hw.2 c2
    refine j_iload_n hE 1 dJ15_copyOf_3_6 rfl rfl ?_
    obtain ⟨h3, h4, h5, h6, hw⟩ := hw
    refine j_newq hE (t := 4) ⟨by decide, by decide⟩ q983 h3 h4 ⟨h5, h6⟩ dJ15_copyOf_3_7 (fun qa8 h7 => ?_)
    replace hw := hw qa8 h7
    refine j_nw (fun w9 e_w9 => ?_)
    replace hw := hw w9 e_w9
    refine j_nb (fun b10 e_b10 => ?_)
    replace hw := hw b10 e_b10
    refine j_goto hE 24 dJ15_copyOf_3_10 (by decide) ?_
    refine j_sub [(0, .ref (x0)), (1, .int (x1))] [0, 1] rfl ?_
    have hz := bJ15_copyOf_3_24 hE hn hR hc hK  hw
    exact hz
theorem jdJ15_copyOf_3 : jD yJ15_copyOf_3 3 := by decide +kernel
abbrev wJ15_copyOf_3 := wJ15_copyOf_3_0
theorem ctJ15_copyOf_3 (l : Launch) (G : gG) {c : Nat → Option Nat} (hc : G.2.2.2 = c) (x0 : Nat) (x1 : Int32) (x2 : Option Nat) (w : GW) (bb : Nat × Nat) (K : Option Nat → GW → Prop) (hw : wJ15_copyOf_3_0 c x0 x1 x2 w bb K) {F2 L2 : Nat} (h2 : 1 ≤ F2 ∧ 60 ≤ L2 := by exact ⟨Nat.le_refl _, Nat.le_refl _⟩) : CtQ l yJ15_copyOf_3 cJ15_copyOf_3 4 (.array (.object "java/lang/Object")) ({ frames := F2, cells := bb.1, slots := bb.2, locals := L2 }) G [.ref (x0), .int (x1), va_rf (x2)] w (K) := by
  rcases x2 with _ | x2 <;> exact CtQ.of RJ15 plainc_J15 rfl (Nat.le_of_ble_eq_true rfl) (fun E hE hl hG hn hR hK => bJ15_copyOf_3_0 hE hn (hR.le h2.1 h2.2) (by rw [hG]; exact hc) hK hw)
