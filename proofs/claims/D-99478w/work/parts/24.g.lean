def wJ15_copyOf_2_0 (c : Nat → Option Nat) (x0 : Nat) (x1 : Int32) (w : GW) (bb : Nat × Nat) (K : Option Nat → GW → Prop) : Prop :=
  ∃ (n1 : Nat) (x2 : _), w x0 = some (true, .inl (4, n1, x2)) ∧ (∀ r4 : Option Nat, r4 = c 15 → (∃ cb6 : Nat × Nat, (cb6.1 ≤ bb.1 ∧ cb6.2 ≤ bb.2) ∧ (wJ15_copyOf_3 c x0 x1 r4 w cb6 (fun r5 w8 => ∀ b9 : Nat × Nat, b9 = (bb.1 - cb6.1, bb.2 - cb6.2) → (K r5 w8)))))
set_option maxRecDepth 100000 in
theorem bJ15_copyOf_2_0 {E : jE} (hE : jOk E cJ15_copyOf_2 RJ15) (hn : E.2.2.2.2 = 2) (hR : jRoom E 2 83) {c : Nat → Option Nat} (hc : E.2.2.1.2.2.2 = c) {K : Option Nat → GW → Prop} (hK : jRq E (.array (.object "java/lang/Object")) (K)) {x0 : Nat} {x1 : Int32} {w : GW} {bb : Nat × Nat}  (hw : wJ15_copyOf_2_0 c x0 x1 w bb K) : J E w bb [(0, .ref (x0)), (1, .int (x1))] 0 [] := by
  unfold wJ15_copyOf_2_0 at hw
  refine j_aload_n hE 0 dJ15_copyOf_2_0 rfl rfl ?_
  refine j_iload_n hE 1 dJ15_copyOf_2_1 rfl rfl ?_
  refine j_aload_n hE 0 dJ15_copyOf_2_2 rfl rfl ?_
  obtain ⟨n1, x2, h3, hw⟩ := hw
  obtain ⟨r4, e_r4⟩ : ∃ r9 : Option Nat, r9 = c 15 := ⟨_, rfl⟩
  replace hw := hw r4 e_r4
  refine j_getC hE hR q950 q2225 q2224 q951 q978 h3 hc e_r4 (Nat.le_of_ble_eq_true rfl) (Nat.le_of_ble_eq_true rfl) dJ15_copyOf_2_3 ?_
  obtain ⟨cb6, h7, hw⟩ := hw
  refine jc_q (jr_S hE hR (As := [.ref (x0), .int (x1), va_rf r4]) (rest := []) ((ctJ15_copyOf_3 E.1.2.1 E.2.2.1 hc _ _ _ _ _ _ hw) E.2.2.2.1) (lw_S q979 q980 q143 q981) jdJ15_copyOf_3 ⟨Nat.le_of_ble_eq_true rfl, Nat.le_of_ble_eq_true rfl⟩ h7  rfl (Nat.le_of_ble_eq_true rfl) dJ15_copyOf_2_6) (fun r5 w8 hw => ?_)
  refine j_nb (fun b9 e_b9 => ?_)
  replace hw := hw b9 e_b9
  exact j_qret hE hK (r := r5) dJ15_copyOf_2_9 (by first | exact Or.inl ⟨_, rfl⟩ | exact Or.inr ⟨_, rfl⟩) hw
theorem jdJ15_copyOf_2 : jD yJ15_copyOf_2 2 := by decide +kernel
abbrev wJ15_copyOf_2 := wJ15_copyOf_2_0
theorem ctJ15_copyOf_2 (l : Launch) (G : gG) {c : Nat → Option Nat} (hc : G.2.2.2 = c) (x0 : Nat) (x1 : Int32) (w : GW) (bb : Nat × Nat) (K : Option Nat → GW → Prop) (hw : wJ15_copyOf_2_0 c x0 x1 w bb K) {F2 L2 : Nat} (h2 : 2 ≤ F2 ∧ 83 ≤ L2 := by exact ⟨Nat.le_refl _, Nat.le_refl _⟩) : CtQ l yJ15_copyOf_2 cJ15_copyOf_2 2 (.array (.object "java/lang/Object")) ({ frames := F2, cells := bb.1, slots := bb.2, locals := L2 }) G [.ref (x0), .int (x1)] w (K) :=
  CtQ.of RJ15 plainc_J15 rfl (Nat.le_of_ble_eq_true rfl) (fun E hE hl hG hn hR hK => bJ15_copyOf_2_0 hE hn (hR.le h2.1 h2.2) (by rw [hG]; exact hc) hK hw)
def wJ2_grow_2_20 (c : Nat → Option Nat) (x0 : Nat) (x1 : Int32) (x2 : Int32) (w : GW) (bb : Nat × Nat) (K : Option Nat → GW → Prop) : Prop :=
  wJ14_newLength c x2 (x1 - x2) (ishr x2 ((1 : Int32))) w (fun r1 => ∃ f2 : Option Nat, gfm w x0 [20] 1 = some (va_rf f2) ∧ (∃ a4 : Nat, f2 = some a4 ∧ (∃ cb6 : Nat × Nat, (cb6.1 ≤ bb.1 ∧ cb6.2 ≤ bb.2) ∧ (wJ15_copyOf_2 c a4 r1 w cb6 (fun r5 w8 => ∀ b9 : Nat × Nat, b9 = (bb.1 - cb6.1, bb.2 - cb6.2) → (∃ (n10 : Nat) (fs11 : List Value), w8 x0 = some (true, .inr (n10, fs11)) ∧ n10 ∈ ([20] : List Nat) ∧ 1 < fs11.length ∧ (∀ w15 : GW, w15 = gup w8 x0 (.inr (n10, fs11.set 1 (va_rf r5))) → (K r5 w15))))))))
set_option maxRecDepth 100000 in
theorem bJ2_grow_2_20 {E : jE} (hE : jOk E cJ2_grow_2 RJ2) (hn : E.2.2.2.2 = 4) (hR : jRoom E 3 104) {c : Nat → Option Nat} (hc : E.2.2.1.2.2.2 = c) {K : Option Nat → GW → Prop} (hK : jRq E (.array (.object "java/lang/Object")) (K)) {x0 : Nat} {x1 : Int32} {x2 : Int32} {w : GW} {bb : Nat × Nat}  (hw : wJ2_grow_2_20 c x0 x1 x2 w bb K) : J E w bb [(0, .ref (x0)), (1, .int (x1)), (2, .int (x2))] 20 [] := by
  unfold wJ2_grow_2_20 at hw
  refine j_iload_n hE 2 dJ2_grow_2_20 rfl rfl ?_
  refine j_iload_n hE 1 dJ2_grow_2_21 rfl rfl ?_
  refine j_iload_n hE 2 dJ2_grow_2_22 rfl rfl ?_
  refine j_isub hE dJ2_grow_2_23 ?_
  refine j_iload_n hE 2 dJ2_grow_2_24 rfl rfl ?_
  refine j_iconst hE dJ2_grow_2_25 kc_1 ?_
  refine j_ishr hE dJ2_grow_2_26 ?_
  refine jc_ip (jr_S hE hR (As := [.int (x2), .int (x1 - x2), .int (ishr x2 ((1 : Int32)))]) (rest := []) ((ctJ14_newLength E.1.2.1 E.2.2.1 hc _ _ _ _ _ hw) E.2.2.2.1) (lw_S q946 q692 q142 q693) jdJ14_newLength ⟨Nat.le_of_ble_eq_true rfl, Nat.le_of_ble_eq_true rfl⟩ ⟨Nat.zero_le _, Nat.zero_le _⟩  rfl (Nat.le_of_ble_eq_true rfl) dJ2_grow_2_27) (fun r1 hw => ?_)
  refine j_b0 ?_
  refine j_istore_n (L' := [(3, .int (r1)), (0, .ref (x0)), (1, .int (x1)), (2, .int (x2))]) hE hn dJ2_grow_2_30 rfl (Nat.le_of_ble_eq_true rfl) rfl ?_
  refine j_aload_n hE 1 dJ2_grow_2_31 rfl rfl ?_
  refine j_aload_n hE 1 dJ2_grow_2_32 rfl rfl ?_
  obtain ⟨f2, h3, hw⟩ := hw
  refine j_getM hE gf_java_util_ArrayList_elementData q226 h3 dJ2_grow_2_33 ?_
  refine j_iload_n hE 0 dJ2_grow_2_36 rfl rfl ?_
  obtain ⟨a4, e9, hx⟩ := hw
  subst e9
  have hw := hx
  clear hx
  obtain ⟨cb6, h7, hw⟩ := hw
  refine jc_q (jr_S hE hR (As := [.ref (a4), .int (r1)]) (rest := [.ref (x0)]) ((ctJ15_copyOf_2 E.1.2.1 E.2.2.1 hc _ _ _ _ _ hw) E.2.2.2.1) (lw_S q947 q948 q143 q949) jdJ15_copyOf_2 ⟨Nat.le_of_ble_eq_true rfl, Nat.le_of_ble_eq_true rfl⟩ h7  rfl (Nat.le_of_ble_eq_true rfl) dJ2_grow_2_37) (fun r5 w8 hw => ?_)
  refine j_nb (fun b9 e_b9 => ?_)
  replace hw := hw b9 e_b9
  refine j_dup_x1 hE dJ2_grow_2_40 (va_rf_cat _) rfl ?_
  obtain ⟨n10, fs11, h12, h13, h14, hw⟩ := hw
  refine j_putX hE h13 gw_java_util_ArrayList_elementData_J2 q226 h12 (va_rf_nar _ _ (by decide)) (va_rf_fit _ _ (by decide)) h14 dJ2_grow_2_41 ?_
  refine j_nw (fun w15 e_w15 => ?_)
  replace hw := hw w15 e_w15
  exact j_qret hE hK (r := r5) dJ2_grow_2_44 (by first | exact Or.inl ⟨_, rfl⟩ | exact Or.inr ⟨_, rfl⟩) hw
def wJ2_grow_2_0 (c : Nat → Option Nat) (x0 : Nat) (x1 : Int32) (w : GW) (bb : Nat × Nat) (K : Option Nat → GW → Prop) : Prop :=
  ∃ f1 : Option Nat, gfm w x0 [20] 1 = some (va_rf f1) ∧ (∃ a3 : Nat, f1 = some a3 ∧ (∃ n4 : Nat, galen w a3 4 = some n4 ∧ ((0 < (nI n4) → (wJ2_grow_2_20 c x0 x1 (nI n4) w bb K)) ∧ (¬ 0 < (nI n4) → (∃ f9 : Option Nat, gfm w x0 [20] 1 = some (va_rf f9) ∧ (False))))))
set_option maxRecDepth 100000 in
theorem bJ2_grow_2_0 {E : jE} (hE : jOk E cJ2_grow_2 RJ2) (hn : E.2.2.2.2 = 4) (hR : jRoom E 3 104) {c : Nat → Option Nat} (hc : E.2.2.1.2.2.2 = c) {K : Option Nat → GW → Prop} (hK : jRq E (.array (.object "java/lang/Object")) (K)) {x0 : Nat} {x1 : Int32} {w : GW} {bb : Nat × Nat}  (hw : wJ2_grow_2_0 c x0 x1 w bb K) : J E w bb [(0, .ref (x0)), (1, .int (x1))] 0 [] := by
  unfold wJ2_grow_2_0 at hw
  refine j_aload_n hE 0 dJ2_grow_2_0 rfl rfl ?_
  obtain ⟨f1, h2, hw⟩ := hw
  refine j_getM hE gf_java_util_ArrayList_elementData q226 h2 dJ2_grow_2_1 ?_
  obtain ⟨a3, e9, hx⟩ := hw
  subst e9
  have hw := hx
  clear hx
  obtain ⟨n4, h6, hw⟩ := hw
  refine j_alen hE h6 (Nat.le_of_ble_eq_true rfl) dJ2_grow_2_4 ?_
  refine j_istore_n (L' := [(2, .int (nI n4)), (0, .ref (x0)), (1, .int (x1))]) hE hn dJ2_grow_2_5 rfl (Nat.le_of_ble_eq_true rfl) rfl ?_
  refine j_iload_n hE 0 dJ2_grow_2_6 rfl rfl ?_
  refine j_if_gt hE 20 dJ2_grow_2_7 (by decide) (fun c8 => ?_) (fun c8 => ?_)
  · replace hw := hw.1 c8
    refine j_sub [(0, .ref (x0)), (1, .int (x1)), (2, .int (nI n4))] [1, 2, 0] rfl ?_
    have hz := bJ2_grow_2_20 hE hn hR hc hK  hw
    exact hz
  · replace hw := hw.2 c8
    refine j_aload_n hE 1 dJ2_grow_2_10 rfl rfl ?_
    obtain ⟨f9, h10, hw⟩ := hw
    refine j_getM hE gf_java_util_ArrayList_elementData q226 h10 dJ2_grow_2_11 ?_
    exact hw.elim
theorem jdJ2_grow_2 : jD yJ2_grow_2 1 := by decide +kernel
abbrev wJ2_grow_2 := wJ2_grow_2_0
theorem ctJ2_grow_2 (l : Launch) (G : gG) {c : Nat → Option Nat} (hc : G.2.2.2 = c) (x0 : Nat) (x1 : Int32) (w : GW) (bb : Nat × Nat) (K : Option Nat → GW → Prop) (hw : wJ2_grow_2_0 c x0 x1 w bb K) {F2 L2 : Nat} (h2 : 3 ≤ F2 ∧ 104 ≤ L2 := by exact ⟨Nat.le_refl _, Nat.le_refl _⟩) : CtQ l yJ2_grow_2 cJ2_grow_2 4 (.array (.object "java/lang/Object")) ({ frames := F2, cells := bb.1, slots := bb.2, locals := L2 }) G [.ref (x0), .int (x1)] w (K) :=
  CtQ.of RJ2 plainc_J2 rfl (Nat.le_of_ble_eq_true rfl) (fun E hE hl hG hn hR hK => bJ2_grow_2_0 hE hn (hR.le h2.1 h2.2) (by rw [hG]; exact hc) hK hw)
def wJ2_grow_0 (c : Nat → Option Nat) (x0 : Nat) (w : GW) (bb : Nat × Nat) (K : Option Nat → GW → Prop) : Prop :=
  ∃ f1 : Int32, gfm w x0 [20] 2 = some (.int f1) ∧ (gmc w x0 = some 20 ∧ (∃ cb5 : Nat × Nat, (cb5.1 ≤ bb.1 ∧ cb5.2 ≤ bb.2) ∧ (wJ2_grow_2 c x0 (f1 + ((1 : Int32))) w cb5 (fun r3 w7 => ∀ b8 : Nat × Nat, b8 = (bb.1 - cb5.1, bb.2 - cb5.2) → (K r3 w7)))))
set_option maxRecDepth 100000 in
theorem bJ2_grow_0 {E : jE} (hE : jOk E cJ2_grow RJ2) (hn : E.2.2.2.2 = 1) (hR : jRoom E 4 127) {c : Nat → Option Nat} (hc : E.2.2.1.2.2.2 = c) {K : Option Nat → GW → Prop} (hK : jRq E (.array (.object "java/lang/Object")) (K)) {x0 : Nat} {w : GW} {bb : Nat × Nat}  (hw : wJ2_grow_0 c x0 w bb K) : J E w bb [(0, .ref (x0))] 0 [] := by
  unfold wJ2_grow_0 at hw
  refine j_aload_n hE 0 dJ2_grow_0 rfl rfl ?_
  refine j_aload_n hE 0 dJ2_grow_1 rfl rfl ?_
  obtain ⟨f1, h2, hw⟩ := hw
  refine j_getM hE gf_java_util_ArrayList_size q227 h2 dJ2_grow_2 ?_
  refine j_iconst hE dJ2_grow_5 kc_1 ?_
  refine j_iadd hE dJ2_grow_6 ?_
  obtain ⟨h4, hw⟩ := hw
  obtain ⟨cb5, h6, hw⟩ := hw
  refine jc_q (jr_V hE hR (As := [.int (f1 + ((1 : Int32)))]) (rest := []) ((ctJ2_grow_2 E.1.2.1 E.2.2.1 hc _ _ _ _ _ hw) E.2.2.2.1) (lw_V q940 q942 qs21 q126 q943) jdJ2_grow_2 ⟨Nat.le_of_ble_eq_true rfl, Nat.le_of_ble_eq_true rfl⟩ h6 (gmc_gIs h4 (r := (RJ2, TJ2, 3)) rfl) rfl (Nat.le_of_ble_eq_true rfl) dJ2_grow_7) (fun r3 w7 hw => ?_)
  refine j_nb (fun b8 e_b8 => ?_)
  replace hw := hw b8 e_b8
  exact j_qret hE hK (r := r3) dJ2_grow_10 (by first | exact Or.inl ⟨_, rfl⟩ | exact Or.inr ⟨_, rfl⟩) hw
theorem jdJ2_grow : jD yJ2_grow 0 := by decide +kernel
abbrev wJ2_grow := wJ2_grow_0
theorem ctJ2_grow (l : Launch) (G : gG) {c : Nat → Option Nat} (hc : G.2.2.2 = c) (x0 : Nat) (w : GW) (bb : Nat × Nat) (K : Option Nat → GW → Prop) (hw : wJ2_grow_0 c x0 w bb K) {F2 L2 : Nat} (h2 : 4 ≤ F2 ∧ 127 ≤ L2 := by exact ⟨Nat.le_refl _, Nat.le_refl _⟩) : CtQ l yJ2_grow cJ2_grow 1 (.array (.object "java/lang/Object")) ({ frames := F2, cells := bb.1, slots := bb.2, locals := L2 }) G [.ref (x0)] w (K) :=
  CtQ.of RJ2 plainc_J2 rfl (Nat.le_of_ble_eq_true rfl) (fun E hE hl hG hn hR hK => bJ2_grow_0 hE hn (hR.le h2.1 h2.2) (by rw [hG]; exact hc) hK hw)
def wJ2_add_2_11 (c : Nat → Option Nat) (x0 : Nat) (x1 : Nat) (x2 : Option Nat) (x3 : Int32) (w : GW) (bb : Nat × Nat) (K : GW → Prop) : Prop :=
  ∃ a1 : Nat, x2 = some a1 ∧ (∃ (n2 : Nat) (f3 : Nat → Option Nat), w a1 = some (true, .inl (4, n2, .inr (.inr (.inr (.inr f3))))) ∧ vp_in x3 n2 ∧ ((∃ v9 c9, some x1 = some v9 ∧ gmc w v9 = some c9 ∧ c9 ∈ ([7, 8, 9, 10, 21, 15, 16, 17, 18, 24] : List Nat)) ∧ (∀ w7 : GW, w7 = gup w a1 (.inl (4, n2, .inr (.inr (.inr (.inr (va_up f3 (x3).toNatClampNeg (some x1))))))) → (∃ (n8 : Nat) (fs9 : List Value), w7 x0 = some (true, .inr (n8, fs9)) ∧ n8 ∈ ([20] : List Nat) ∧ 2 < fs9.length ∧ (∀ w13 : GW, w13 = gup w7 x0 (.inr (n8, fs9.set 2 (.int (x3 + ((1 : Int32)))))) → (K w13))))))
set_option maxRecDepth 100000 in
theorem bJ2_add_2_11 {E : jE} (hE : jOk E cJ2_add_2 RJ2) (hn : E.2.2.2.2 = 4) (hR : jRoom E 5 147) {c : Nat → Option Nat} (hc : E.2.2.1.2.2.2 = c) {K : GW → Prop} (hK : jRv E (K)) {x0 : Nat} {x1 : Nat} {x2 : Option Nat} {x3 : Int32} {w : GW} {bb : Nat × Nat}  (hw : wJ2_add_2_11 c x0 x1 x2 x3 w bb K) : J E w bb [(0, .ref (x0)), (1, .ref (x1)), (2, va_rf (x2)), (3, .int (x3))] 11 [] := by
  unfold wJ2_add_2_11 at hw
  refine j_aload_nq hE 2 dJ2_add_2_11 rfl rfl ?_
  refine j_iload_n hE 3 dJ2_add_2_12 rfl rfl ?_
  refine j_aload_n hE 1 dJ2_add_2_13 rfl rfl ?_
  obtain ⟨a1, e9, hx⟩ := hw
  subst e9
  have hw := hx
  clear hx
  obtain ⟨n2, f3, h4, h5, hw⟩ := hw
  obtain ⟨h6, hw⟩ := hw
  refine j_astL (r := some x1) hE elemc_4 (t := 4) ⟨by decide, by decide⟩ h4 h5 (Or.inr h6) dJ2_add_2_14 ?_
  refine j_nw (fun w7 e_w7 => ?_)
  replace hw := hw w7 e_w7
  refine j_aload_n hE 0 dJ2_add_2_15 rfl rfl ?_
  refine j_iload_n hE 3 dJ2_add_2_16 rfl rfl ?_
  refine j_iconst hE dJ2_add_2_17 kc_1 ?_
  refine j_iadd hE dJ2_add_2_18 ?_
  obtain ⟨n8, fs9, h10, h11, h12, hw⟩ := hw
  refine j_putX hE h11 gw_java_util_ArrayList_size_J2 q227 h10 rfl rfl h12 dJ2_add_2_19 ?_
  refine j_nw (fun w13 e_w13 => ?_)
  replace hw := hw w13 e_w13
  exact j_vret hE hK dJ2_add_2_22 hw
def wJ2_add_2_0 (c : Nat → Option Nat) (x0 : Nat) (x1 : Nat) (x2 : Nat) (x3 : Int32) (w : GW) (bb : Nat × Nat) (K : GW → Prop) : Prop :=
  ∃ n1 : Nat, galen w x2 4 = some n1 ∧ ((¬ x3 = (nI n1) → (wJ2_add_2_11 c x0 x1 (some x2) x3 w bb K)) ∧ (x3 = (nI n1) → (gmc w x0 = some 20 ∧ (∃ cb8 : Nat × Nat, (cb8.1 ≤ bb.1 ∧ cb8.2 ≤ bb.2) ∧ (wJ2_grow c x0 w cb8 (fun r6 w10 => ∀ b11 : Nat × Nat, b11 = (bb.1 - cb8.1, bb.2 - cb8.2) → (wJ2_add_2_11 c x0 x1 r6 x3 w10 b11 K)))))))
set_option maxRecDepth 100000 in
theorem bJ2_add_2_0 {E : jE} (hE : jOk E cJ2_add_2 RJ2) (hn : E.2.2.2.2 = 4) (hR : jRoom E 5 147) {c : Nat → Option Nat} (hc : E.2.2.1.2.2.2 = c) {K : GW → Prop} (hK : jRv E (K)) {x0 : Nat} {x1 : Nat} {x2 : Nat} {x3 : Int32} {w : GW} {bb : Nat × Nat}  (hw : wJ2_add_2_0 c x0 x1 x2 x3 w bb K) : J E w bb [(0, .ref (x0)), (1, .ref (x1)), (2, .ref (x2)), (3, .int (x3))] 0 [] := by
  unfold wJ2_add_2_0 at hw
  refine j_iload_n hE 3 dJ2_add_2_0 rfl rfl ?_
  refine j_aload_n hE 2 dJ2_add_2_1 rfl rfl ?_
  obtain ⟨n1, h3, hw⟩ := hw
  refine j_alen hE h3 (Nat.le_of_ble_eq_true rfl) dJ2_add_2_2 ?_
  refine j_icmp_ne hE 11 dJ2_add_2_3 (by decide) (fun c5 => ?_) (fun c5 => ?_)
  · replace hw := hw.1 c5
    have hz := bJ2_add_2_11 hE hn hR hc hK  hw
    exact hz
  · replace hw := hw.2 c5
    refine j_aload_n hE 0 dJ2_add_2_6 rfl rfl ?_
    obtain ⟨h7, hw⟩ := hw
    obtain ⟨cb8, h9, hw⟩ := hw
    refine jc_q (jr_V hE hR (As := []) (rest := []) ((ctJ2_grow E.1.2.1 E.2.2.1 hc _ _ _ _ hw) E.2.2.2.1) (lw_V q936 q938 qs20 q126 q939) jdJ2_grow ⟨Nat.le_of_ble_eq_true rfl, Nat.le_of_ble_eq_true rfl⟩ h9 (gmc_gIs h7 (r := (RJ2, TJ2, 3)) rfl) rfl (Nat.le_of_ble_eq_true rfl) dJ2_add_2_7) (fun r6 w10 hw => ?_)
    refine j_nb (fun b11 e_b11 => ?_)
    replace hw := hw b11 e_b11
    refine j_astore_nq (L' := [(2, va_rf (r6)), (0, .ref (x0)), (1, .ref (x1)), (3, .int (x3))]) hE hn dJ2_add_2_10 rfl (Nat.le_of_ble_eq_true rfl) rfl ?_
    refine j_sub [(0, .ref (x0)), (1, .ref (x1)), (2, va_rf (r6)), (3, .int (x3))] [1, 2, 0, 3] rfl ?_
    have hz := bJ2_add_2_11 hE hn hR hc hK  hw
    exact hz
theorem jdJ2_add_2 : jD yJ2_add_2 3 := by decide +kernel
abbrev wJ2_add_2 := wJ2_add_2_0
theorem ctJ2_add_2 (l : Launch) (G : gG) {c : Nat → Option Nat} (hc : G.2.2.2 = c) (x0 : Nat) (x1 : Nat) (x2 : Nat) (x3 : Int32) (w : GW) (bb : Nat × Nat) (K : GW → Prop) (hw : wJ2_add_2_0 c x0 x1 x2 x3 w bb K) {F2 L2 : Nat} (h2 : 5 ≤ F2 ∧ 147 ≤ L2 := by exact ⟨Nat.le_refl _, Nat.le_refl _⟩) : CtV l yJ2_add_2 cJ2_add_2 4 ({ frames := F2, cells := bb.1, slots := bb.2, locals := L2 }) G [.ref (x0), .ref (x1), .ref (x2), .int (x3)] w (K) :=
  CtV.of RJ2 plainc_J2 rfl (Nat.le_of_ble_eq_true rfl) (fun E hE hl hG hn hR hK => bJ2_add_2_0 hE hn (hR.le h2.1 h2.2) (by rw [hG]; exact hc) hK hw)
def wJ2_add_0 (c : Nat → Option Nat) (x0 : Nat) (x1 : Nat) (w : GW) (bb : Nat × Nat) (K : Int32 → GW → Prop) : Prop :=
  ∃ f1 : Int32, gfm w x0 [20] 0 = some (.int f1) ∧ (∃ (n3 : Nat) (fs4 : List Value), w x0 = some (true, .inr (n3, fs4)) ∧ n3 ∈ ([20] : List Nat) ∧ 0 < fs4.length ∧ (∀ w8 : GW, w8 = gup w x0 (.inr (n3, fs4.set 0 (.int (f1 + ((1 : Int32)))))) → (∃ f9 : Option Nat, gfm w8 x0 [20] 1 = some (va_rf f9) ∧ (∃ f11 : Int32, gfm w8 x0 [20] 2 = some (.int f11) ∧ (∃ a13 : Nat, f9 = some a13 ∧ (gmc w8 x0 = some 20 ∧ (∃ cb15 : Nat × Nat, (cb15.1 ≤ bb.1 ∧ cb15.2 ≤ bb.2) ∧ (wJ2_add_2 c x0 x1 a13 f11 w8 cb15 (fun w17 => ∀ b18 : Nat × Nat, b18 = (bb.1 - cb15.1, bb.2 - cb15.2) → (K ((1 : Int32)) w17))))))))))
set_option maxRecDepth 100000 in
theorem bJ2_add_0 {E : jE} (hE : jOk E cJ2_add RJ2) (hn : E.2.2.2.2 = 2) (hR : jRoom E 6 170) {c : Nat → Option Nat} (hc : E.2.2.1.2.2.2 = c) {K : Int32 → GW → Prop} (hK : jRi E .boolean (K)) {x0 : Nat} {x1 : Nat} {w : GW} {bb : Nat × Nat}  (hw : wJ2_add_0 c x0 x1 w bb K) : J E w bb [(0, .ref (x0)), (1, .ref (x1))] 0 [] := by
  unfold wJ2_add_0 at hw
  refine j_aload_n hE 0 dJ2_add_0 rfl rfl ?_
  refine j_dup hE dJ2_add_1 rfl ?_
  obtain ⟨f1, h2, hw⟩ := hw
  refine j_getM hE gf_java_util_ArrayList_modCount q229 h2 dJ2_add_2 ?_
  refine j_iconst hE dJ2_add_5 kc_1 ?_
  refine j_iadd hE dJ2_add_6 ?_
  obtain ⟨n3, fs4, h5, h6, h7, hw⟩ := hw
  refine j_putX hE h6 gw_java_util_ArrayList_modCount_J2 q229 h5 rfl rfl h7 dJ2_add_7 ?_
  refine j_nw (fun w8 e_w8 => ?_)
  replace hw := hw w8 e_w8
  refine j_aload_n hE 0 dJ2_add_10 rfl rfl ?_
  refine j_aload_n hE 1 dJ2_add_11 rfl rfl ?_
  refine j_aload_n hE 0 dJ2_add_12 rfl rfl ?_
  obtain ⟨f9, h10, hw⟩ := hw
  refine j_getM hE gf_java_util_ArrayList_elementData q226 h10 dJ2_add_13 ?_
  refine j_aload_n hE 0 dJ2_add_16 rfl rfl ?_
  obtain ⟨f11, h12, hw⟩ := hw
  refine j_getM hE gf_java_util_ArrayList_size q227 h12 dJ2_add_17 ?_
  obtain ⟨a13, e9, hx⟩ := hw
  subst e9
  have hw := hx
  clear hx
  obtain ⟨h14, hw⟩ := hw
  obtain ⟨cb15, h16, hw⟩ := hw
  refine jc_v (jr_V hE hR (As := [.ref (x1), .ref (a13), .int (f11)]) (rest := []) ((ctJ2_add_2 E.1.2.1 E.2.2.1 hc _ _ _ _ _ _ _ hw) E.2.2.2.1) (lw_V q932 q934 qs19 q126 q935) jdJ2_add_2 ⟨Nat.le_of_ble_eq_true rfl, Nat.le_of_ble_eq_true rfl⟩ h16 (gmc_gIs h14 (r := (RJ2, TJ2, 3)) rfl) rfl (Nat.le_of_ble_eq_true rfl) dJ2_add_20) (fun w17 hw => ?_)
  refine j_nb (fun b18 e_b18 => ?_)
  replace hw := hw b18 e_b18
  refine j_iconst hE dJ2_add_23 kc_1 ?_
  exact j_iret hE hK dJ2_add_24 rfl hw
theorem jdJ2_add : jD yJ2_add 1 := by decide +kernel
abbrev wJ2_add := wJ2_add_0
theorem ctJ2_add (l : Launch) (G : gG) {c : Nat → Option Nat} (hc : G.2.2.2 = c) (x0 : Nat) (x1 : Nat) (w : GW) (bb : Nat × Nat) (K : Int32 → GW → Prop) (hw : wJ2_add_0 c x0 x1 w bb K) {F2 L2 : Nat} (h2 : 6 ≤ F2 ∧ 170 ≤ L2 := by exact ⟨Nat.le_refl _, Nat.le_refl _⟩) : CtI l yJ2_add cJ2_add 2 .boolean ({ frames := F2, cells := bb.1, slots := bb.2, locals := L2 }) G [.ref (x0), .ref (x1)] w (K) :=
  CtI.of RJ2 plainc_J2 rfl (Nat.le_of_ble_eq_true rfl) (fun E hE hl hG hn hR hK => bJ2_add_0 hE hn (hR.le h2.1 h2.2) (by rw [hG]; exact hc) hK hw)
def wX2_pane_87_b (c : Nat → Option Nat) (x0 : Nat) (x3 : Option Nat) (w : GW) (bb : Nat × Nat) (KL87 : GW × (Nat × Nat) → Prop) (K : GW → Prop) (KX : String → Nat → GW → Prop) : Prop :=
  gmc w x0 = some 1 ∧ (∃ cb3 : Nat × Nat, (cb3.1 ≤ bb.1 ∧ cb3.2 ≤ bb.2) ∧ (wX2_ahead c x0 ((0 : Int32)) (nI 9) w cb3 (fun r1 w5 => ∀ b6 : Nat × Nat, b6 = (bb.1 - cb3.1, bb.2 - cb3.2) → (∃ a7 : Nat, x3 = some a7 ∧ (∃ f8 : Int32, gfm w5 a7 [7, 8, 9, 10] 2 = some (.int f8) ∧ (wX1_isIn c f8 r1 w5 (fun r10 => (r10 = 0 → (gmc w5 x0 = some 1 ∧ (wX2_next c x0 w5 (fun w13 => ∃ f14 : Int32, gfm w13 a7 [7, 8, 9, 10] 2 = some (.int f14) ∧ (∃ (n16 : Nat) (fs17 : List Value), w13 a7 = some (true, .inr (n16, fs17)) ∧ n16 ∈ ([7, 8, 9, 10] : List Nat) ∧ 2 < fs17.length ∧ (∀ w21 : GW, w21 = gup w13 a7 (.inr (n16, fs17.set 2 (.int (f14 ||| (ishl ((1 : Int32)) r1))))) → (gmc w21 x0 = some 1 ∧ (wX2_isSign c x0 (nI 59) w21 (fun r22 => (r22 = 0 → (KL87 (w21, b6))) ∧ (¬ r22 = 0 → (∃ f25 : Option Nat, gfm w21 x0 [1] 7 = some (va_rf f25) ∧ (∃ a27 : Nat, f25 = some a27 ∧ (∃ f28 : Option Nat, gfm w21 a27 [2] 0 = some (va_rf f28) ∧ (∃ a30 : Nat, f28 = some a30 ∧ (gmc w21 a30 = some 20 ∧ (∃ cb33 : Nat × Nat, (cb33.1 ≤ b6.1 ∧ cb33.2 ≤ b6.2) ∧ (wJ2_add c a30 a7 w21 cb33 (fun r31 w35 => ∀ b36 : Nat × Nat, b36 = (b6.1 - cb33.1, b6.2 - cb33.2) → (K w35))))))))))))))))))) ∧ (¬ r10 = 0 → (gmc w5 x0 = some 1 ∧ (∃ cb39 : Nat × Nat, (cb39.1 ≤ b6.1 ∧ cb39.2 ≤ b6.2) ∧ (wX2_wrong c x0 (nI 3) w5 cb39 (fun r37 w41 => ∀ b42 : Nat × Nat, b42 = (b6.1 - cb39.1, b6.2 - cb39.2) → (∃ a43 : Nat, r37 = some a43 ∧ (∃ (cc : Nat) (fs : List Value) (rr : vw_C), w41 a43 = some (true, .inr (cc, fs)) ∧ gCl[cc]? = some rr ∧ KX rr.1 a43 w41)))))))))))) KX))
def wX2_pane_87 (c : Nat → Option Nat) (x0 : Nat) (x3 : Option Nat) (w : GW) (bb : Nat × Nat) (K : GW → Prop) (KX : String → Nat → GW → Prop) : Prop := lfp (σ := GW × (Nat × Nat)) (fun KL s => wX2_pane_87_b c x0 x3 s.1 s.2 KL K KX) (w, bb)
set_option maxRecDepth 100000 in
theorem bX2_pane_87 {E : jE} (hE : jOk E cX2_pane RX2) (hn : E.2.2.2.2 = 5) (hR : jRoom E 8 215) {c : Nat → Option Nat} (hc : E.2.2.1.2.2.2 = c) (hN : jNoH E) {K : GW → Prop} {KX : String → Nat → GW → Prop} (hK : jXv E K KX) {x0 : Nat} {x3 : Option Nat} {w : GW} {bb : Nat × Nat}  (hw : wX2_pane_87 c x0 x3 w bb K KX) : J E w bb [(0, .ref (x0)), (3, va_rf (x3))] 87 [] := by
  refine lfp_sound (σ := GW × (Nat × Nat)) (F := fun KL s => wX2_pane_87_b c x0 x3 s.1 s.2 KL K KX) (P := fun s => J E (s.1) (s.2) [(0, .ref (x0)), (3, va_rf (x3))] 87 []) ?_ hw
  clear hw
  rintro KL87 ⟨w, bb⟩ hw ih87
  have hw : wX2_pane_87_b c x0 x3 w bb KL87 K KX := hw
  unfold wX2_pane_87_b at hw
  refine j_aload_n hE 0 dX2_pane_87 rfl rfl ?_
  refine j_iconst hE dX2_pane_88 kc_0 ?_
  refine j_bipush hE dX2_pane_89 kb_9 ?_
  obtain ⟨h2, hw⟩ := hw
  obtain ⟨cb3, h4, hw⟩ := hw
  refine jcx_i (jrx_V hE hR (As := [.int ((0 : Int32)), .int (nI 9)]) (rest := []) ((ctX2_ahead E.1.2.1 E.2.2.1 hc _ _ _ _ _ _ _ hw) E.2.2.2.1) (lw_V q914 q916 qs17 q122 q917) jdX2_ahead ⟨Nat.le_of_ble_eq_true rfl, Nat.le_of_ble_eq_true rfl⟩ h4 (gmc_gIs h2 (r := (RX2, TX2, 8)) rfl) rfl (Nat.le_of_ble_eq_true rfl) dX2_pane_91) (fun E9 q9 u9 hx => jx_out hE hK.2 hN hx) (fun r1 w5 hw => ?_)
  refine j_nb (fun b6 e_b6 => ?_)
  replace hw := hw b6 e_b6
  refine j_istore (L' := [(4, .int (r1)), (0, .ref (x0)), (3, va_rf (x3))]) hE hn dX2_pane_94 (Nat.le_of_ble_eq_true rfl) (by cases x3 <;> rfl) ?_
  refine j_aload_nq hE 2 dX2_pane_96 rfl rfl ?_
  obtain ⟨a7, e9, hx⟩ := hw
  subst e9
  have hw := hx
  clear hx
  obtain ⟨f8, h9, hw⟩ := hw
  refine j_getM hE gf_GlassStreet_Pane_cells q862 h9 dX2_pane_97 ?_
  refine j_iload hE 0 dX2_pane_100 rfl ?_
  refine jc_ip (jr_SN hE hR (As := [.int (f8), .int (r1)]) (rest := []) ((ctX1_isIn E.1.2.1 E.2.2.1 hc _ _ _ _ hw) E.2.2.2.1) (lw_meth q923) q121 q921 q922 jdX1_isIn ⟨Nat.le_of_ble_eq_true rfl, Nat.le_of_ble_eq_true rfl⟩ ⟨Nat.zero_le _, Nat.zero_le _⟩  rfl (Nat.le_of_ble_eq_true rfl) dX2_pane_102) (fun r10 hw => ?_)
  refine j_b0 ?_
  refine j_if_eq hE 114 dX2_pane_105 (by decide) (fun c11 => ?_) (fun c11 => ?_)
  · replace hw := hw.1 c11
    refine j_aload_n hE 1 dX2_pane_114 rfl rfl ?_
    obtain ⟨h12, hw⟩ := hw
    refine jc_v (jr_V hE hR (As := []) (rest := []) ((ctX2_next E.1.2.1 E.2.2.1 hc _ _ _ hw) E.2.2.2.1) (lw_V q410 q412 qs2 q122 q413) jdX2_next ⟨Nat.le_of_ble_eq_true rfl, Nat.le_of_ble_eq_true rfl⟩ ⟨Nat.zero_le _, Nat.zero_le _⟩ (gmc_gIs h12 (r := (RX2, TX2, 8)) rfl) rfl (Nat.le_of_ble_eq_true rfl) dX2_pane_115) (fun w13 hw => ?_)
    refine j_b0 ?_
    refine j_aload_n hE 2 dX2_pane_118 rfl rfl ?_
    refine j_dup hE dX2_pane_119 rfl ?_
    obtain ⟨f14, h15, hw⟩ := hw
    refine j_getM hE gf_GlassStreet_Pane_cells q862 h15 dX2_pane_120 ?_
    refine j_iconst hE dX2_pane_123 kc_1 ?_
    refine j_iload hE 0 dX2_pane_124 rfl ?_
    refine j_ishl hE dX2_pane_126 ?_
    refine j_ior hE dX2_pane_127 ?_
    obtain ⟨n16, fs17, h18, h19, h20, hw⟩ := hw
    refine j_putX hE h19 gw_GlassStreet_Pane_cells_X2 q862 h18 rfl rfl h20 dX2_pane_128 ?_
    refine j_nw (fun w21 e_w21 => ?_)
    replace hw := hw w21 e_w21
    refine j_aload_n hE 1 dX2_pane_131 rfl rfl ?_
    refine j_bipush hE dX2_pane_132 kb_59 ?_
    obtain ⟨h23, hw⟩ := hw
    refine jc_ip (jr_V hE hR (As := [.int (nI 59)]) (rest := []) ((ctX2_isSign E.1.2.1 E.2.2.1 hc _ _ _ _ hw) E.2.2.2.1) (lw_V q924 q926 qs18 q122 q927) jdX2_isSign ⟨Nat.le_of_ble_eq_true rfl, Nat.le_of_ble_eq_true rfl⟩ ⟨Nat.zero_le _, Nat.zero_le _⟩ (gmc_gIs h23 (r := (RX2, TX2, 8)) rfl) rfl (Nat.le_of_ble_eq_true rfl) dX2_pane_134) (fun r22 hw => ?_)
    refine j_b0 ?_
    refine j_if_eq hE 87 dX2_pane_137 (by decide) (fun c24 => ?_) (fun c24 => ?_)
    · replace hw := hw.1 c24
      refine j_sub [(0, .ref (x0)), (3, .ref (a7))] [1, 2] rfl ?_
      have hz := ih87 (w21, b6) hw
      exact hz
    · replace hw := hw.2 c24
      refine j_aload_n hE 1 dX2_pane_140 rfl rfl ?_
      obtain ⟨f25, h26, hw⟩ := hw
      refine j_getM hE gf_GlassStreet_Reader_houses q185 h26 dX2_pane_141 ?_
      obtain ⟨a27, e9, hx⟩ := hw
      subst e9
      have hw := hx
      clear hx
      obtain ⟨f28, h29, hw⟩ := hw
      refine j_getMN hE gf_GlassStreet_Houses_panes q240 h29 dX2_pane_144 ?_
      refine j_aload_n hE 2 dX2_pane_147 rfl rfl ?_
      obtain ⟨a30, e9, hx⟩ := hw
      subst e9
      have hw := hx
      clear hx
      obtain ⟨h32, hw⟩ := hw
      obtain ⟨cb33, h34, hw⟩ := hw
      refine jc_i (jr_V hE hR (As := [.ref (a7)]) (rest := []) ((ctJ2_add E.1.2.1 E.2.2.1 hc _ _ _ _ _ hw) E.2.2.2.1) (lw_V q928 q929 q930 q126 q931) jdJ2_add ⟨Nat.le_of_ble_eq_true rfl, Nat.le_of_ble_eq_true rfl⟩ h34 (gmc_gIs h32 (r := (RJ2, TJ2, 3)) rfl) rfl (Nat.le_of_ble_eq_true rfl) dX2_pane_148) (fun r31 w35 hw => ?_)
      refine j_nb (fun b36 e_b36 => ?_)
      replace hw := hw b36 e_b36
      refine j_pop hE dX2_pane_151 rfl ?_
      exact jx_vret hE hK dX2_pane_152 hw
  · replace hw := hw.2 c11
    refine j_aload_n hE 1 dX2_pane_108 rfl rfl ?_
    refine j_iconst hE dX2_pane_109 kc_3 ?_
    obtain ⟨h38, hw⟩ := hw
    obtain ⟨cb39, h40, hw⟩ := hw
    refine jc_q (jr_V hE hR (As := [.int (nI 3)]) (rest := []) ((ctX2_wrong E.1.2.1 E.2.2.1 hc _ _ _ _ _ hw) E.2.2.2.1) (lw_V q544 q546 qs5 q122 q547) jdX2_wrong ⟨Nat.le_of_ble_eq_true rfl, Nat.le_of_ble_eq_true rfl⟩ h40 (gmc_gIs h38 (r := (RX2, TX2, 8)) rfl) rfl (Nat.le_of_ble_eq_true rfl) dX2_pane_110) (fun r37 w41 hw => ?_)
    refine j_nb (fun b42 e_b42 => ?_)
    replace hw := hw b42 e_b42
    obtain ⟨a43, e9, hx⟩ := hw
    subst e9
    have hw := hx
    clear hx
    obtain ⟨cc, fs, rr, h1, h2, hw⟩ := hw
    exact jx_throw hE h1 h2 dX2_pane_113 (jx_out hE hK.2 hN hw)
def wX2_pane_67 (c : Nat → Option Nat) (x0 : Nat) (s0 : Option Nat) (w : GW) (bb : Nat × Nat) (K : GW → Prop) (KX : String → Nat → GW → Prop) : Prop :=
  ∀ r1 : Option Nat, r1 = c 4 → (∃ a2 : Nat, r1 = some a2 ∧ (gmc w x0 = some 1 ∧ (∃ cb5 : Nat × Nat, (cb5.1 ≤ bb.1 ∧ cb5.2 ≤ bb.2) ∧ (wX2_number c x0 a2 ((1 : Int32)) (nI 6) w cb5 (fun r3 w7 => ∀ b8 : Nat × Nat, b8 = (bb.1 - cb5.1, bb.2 - cb5.2) → (∃ a9 : Nat, s0 = some a9 ∧ (∃ (n10 : Nat) (fs11 : List Value), w7 a9 = some (true, .inr (n10, fs11)) ∧ n10 ∈ ([7, 8, 9, 10] : List Nat) ∧ 1 < fs11.length ∧ (∀ w15 : GW, w15 = gup w7 a9 (.inr (n10, fs11.set 1 (.int r3))) → (∀ r16 : Option Nat, r16 = c 5 → (∃ a17 : Nat, r16 = some a17 ∧ (gmc w15 x0 = some 1 ∧ (∃ cb19 : Nat × Nat, (cb19.1 ≤ b8.1 ∧ cb19.2 ≤ b8.2) ∧ (wX2_need c x0 a17 w15 cb19 (fun w21 => ∀ b22 : Nat × Nat, b22 = (b8.1 - cb19.1, b8.2 - cb19.2) → (wX2_pane_87 c x0 (some a9) w21 b22 K KX)) KX))))))))) KX))))
set_option maxRecDepth 100000 in
theorem bX2_pane_67 {E : jE} (hE : jOk E cX2_pane RX2) (hn : E.2.2.2.2 = 5) (hR : jRoom E 8 215) {c : Nat → Option Nat} (hc : E.2.2.1.2.2.2 = c) (hN : jNoH E) {K : GW → Prop} {KX : String → Nat → GW → Prop} (hK : jXv E K KX) {x0 : Nat} {s0 : Option Nat} {w : GW} {bb : Nat × Nat}  (hw : wX2_pane_67 c x0 s0 w bb K KX) : J E w bb [(0, .ref (x0))] 67 [va_rf (s0)] := by
  unfold wX2_pane_67 at hw
  refine j_astore_nq (L' := [(3, va_rf (s0)), (0, .ref (x0))]) hE hn dX2_pane_67 rfl (Nat.le_of_ble_eq_true rfl) rfl ?_
  refine j_aload_nq hE 0 dX2_pane_68 rfl rfl ?_
  refine j_aload_n hE 1 dX2_pane_69 rfl rfl ?_
  obtain ⟨r1, e_r1⟩ : ∃ r9 : Option Nat, r9 = c 4 := ⟨_, rfl⟩
  replace hw := hw r1 e_r1
  refine j_ldcS hE 4 (by decide) rfl hc e_r1 dX2_pane_70 ?_
  refine j_iconst hE dX2_pane_72 kc_1 ?_
  refine j_bipush hE dX2_pane_73 kb_6 ?_
  obtain ⟨a2, e9, hx⟩ := hw
  subst e9
  have hw := hx
  clear hx
  obtain ⟨h4, hw⟩ := hw
  obtain ⟨cb5, h6, hw⟩ := hw
  refine jcx_i (jrx_V hE hR (As := [.ref (a2), .int ((1 : Int32)), .int (nI 6)]) (rest := [va_rf (s0)]) ((ctX2_number E.1.2.1 E.2.2.1 hc _ _ _ _ _ _ _ _ hw) E.2.2.2.1) (lw_V q901 q903 qs14 q122 q904) jdX2_number ⟨Nat.le_of_ble_eq_true rfl, Nat.le_of_ble_eq_true rfl⟩ h6 (gmc_gIs h4 (r := (RX2, TX2, 8)) rfl) rfl (by cases s0 <;> exact Nat.le_of_ble_eq_true rfl) dX2_pane_75) (fun E9 q9 u9 hx => jx_out hE hK.2 hN hx) (fun r3 w7 hw => ?_)
  refine j_nb (fun b8 e_b8 => ?_)
  replace hw := hw b8 e_b8
  obtain ⟨a9, e9, hx⟩ := hw
  subst e9
  have hw := hx
  clear hx
  obtain ⟨n10, fs11, h12, h13, h14, hw⟩ := hw
  refine j_putX hE h13 gw_GlassStreet_Pane_keeps_X2 q856 h12 rfl rfl h14 dX2_pane_78 ?_
  refine j_nw (fun w15 e_w15 => ?_)
  replace hw := hw w15 e_w15
  refine j_aload_n hE 1 dX2_pane_81 rfl rfl ?_
  obtain ⟨r16, e_r16⟩ : ∃ r9 : Option Nat, r9 = c 5 := ⟨_, rfl⟩
  replace hw := hw r16 e_r16
  refine j_ldcS hE 5 (by decide) rfl hc e_r16 dX2_pane_82 ?_
  obtain ⟨a17, e9, hx⟩ := hw
  subst e9
  have hw := hx
  clear hx
  obtain ⟨h18, hw⟩ := hw
  obtain ⟨cb19, h20, hw⟩ := hw
  refine jcx_v (jrx_V hE hR (As := [.ref (a17)]) (rest := []) ((ctX2_need E.1.2.1 E.2.2.1 hc _ _ _ _ _ _ hw) E.2.2.2.1) (lw_V q905 q907 qs15 q122 q908) jdX2_need ⟨Nat.le_of_ble_eq_true rfl, Nat.le_of_ble_eq_true rfl⟩ h20 (gmc_gIs h18 (r := (RX2, TX2, 8)) rfl) rfl (Nat.le_of_ble_eq_true rfl) dX2_pane_84) (fun E9 q9 u9 hx => jx_out hE hK.2 hN hx) (fun w21 hw => ?_)
  refine j_nb (fun b22 e_b22 => ?_)
  replace hw := hw b22 e_b22
  refine j_sub [(0, .ref (x0)), (3, .ref (a9))] [1, 0] rfl ?_
  have hz := bX2_pane_87 hE hn hR hc hN hK  hw
  exact hz
def wX2_pane_0 (c : Nat → Option Nat) (x0 : Nat) (w : GW) (bb : Nat × Nat) (K : GW → Prop) (KX : String → Nat → GW → Prop) : Prop :=
  gmc w x0 = some 1 ∧ (∃ cb3 : Nat × Nat, (cb3.1 ≤ bb.1 ∧ cb3.2 ≤ bb.2) ∧ (wX2_fresh c x0 w cb3 (fun r1 w5 => ∀ b6 : Nat × Nat, b6 = (bb.1 - cb3.1, bb.2 - cb3.2) → (∀ r7 : Option Nat, r7 = c 3 → (∃ a8 : Nat, r7 = some a8 ∧ (gmc w5 x0 = some 1 ∧ (∃ cb11 : Nat × Nat, (cb11.1 ≤ b6.1 ∧ cb11.2 ≤ b6.2) ∧ (wX2_one c x0 a8 w5 cb11 (fun r9 w13 => ∀ b14 : Nat × Nat, b14 = (b6.1 - cb11.1, b6.2 - cb11.2) → ((¬ r9 = 0 → ((¬ r9 = ((1 : Int32)) → ((¬ r9 = (nI 2) → (1 ≤ b14.1 ∧ 3 ≤ b14.2 ∧ ∀ qa20 : Nat, w13 qa20 = none → (∀ w22 : GW, w22 = gup w13 qa20 (.inr (10, [va_rf none, .int 0, .int 0])) → (∀ b23 : Nat × Nat, b23 = (b14.1 - 1, b14.2 - 3) → (∃ a24 : Nat, r1 = some a24 ∧ (wX11_init c qa20 a24 w22 (fun w25 => wX2_pane_67 c x0 (some qa20) w25 b23 K KX))))))) ∧ (r9 = (nI 2) → (1 ≤ b14.1 ∧ 3 ≤ b14.2 ∧ ∀ qa28 : Nat, w13 qa28 = none → (∀ w30 : GW, w30 = gup w13 qa28 (.inr (9, [va_rf none, .int 0, .int 0])) → (∀ b31 : Nat × Nat, b31 = (b14.1 - 1, b14.2 - 3) → (∃ a32 : Nat, r1 = some a32 ∧ (wX10_init c qa28 a32 w30 (fun w33 => wX2_pane_67 c x0 (some qa28) w33 b31 K KX))))))))) ∧ (r9 = ((1 : Int32)) → (1 ≤ b14.1 ∧ 3 ≤ b14.2 ∧ ∀ qa36 : Nat, w13 qa36 = none → (∀ w38 : GW, w38 = gup w13 qa36 (.inr (8, [va_rf none, .int 0, .int 0])) → (∀ b39 : Nat × Nat, b39 = (b14.1 - 1, b14.2 - 3) → (∃ a40 : Nat, r1 = some a40 ∧ (wX9_init c qa36 a40 w38 (fun w41 => wX2_pane_67 c x0 (some qa36) w41 b39 K KX))))))))) ∧ (r9 = 0 → (1 ≤ b14.1 ∧ 3 ≤ b14.2 ∧ ∀ qa44 : Nat, w13 qa44 = none → (∀ w46 : GW, w46 = gup w13 qa44 (.inr (7, [va_rf none, .int 0, .int 0])) → (∀ b47 : Nat × Nat, b47 = (b14.1 - 1, b14.2 - 3) → (∃ a48 : Nat, r1 = some a48 ∧ (wX8_init c qa44 a48 w46 (fun w49 => wX2_pane_67 c x0 (some qa44) w49 b47 K KX))))))))) KX)))))) KX))
set_option maxRecDepth 100000 in
theorem bX2_pane_0 {E : jE} (hE : jOk E cX2_pane RX2) (hn : E.2.2.2.2 = 5) (hR : jRoom E 8 215) {c : Nat → Option Nat} (hc : E.2.2.1.2.2.2 = c) (hN : jNoH E) {K : GW → Prop} {KX : String → Nat → GW → Prop} (hK : jXv E K KX) {x0 : Nat} {w : GW} {bb : Nat × Nat}  (hw : wX2_pane_0 c x0 w bb K KX) : J E w bb [(0, .ref (x0))] 0 [] := by
  unfold wX2_pane_0 at hw
  refine j_aload_n hE 0 dX2_pane_0 rfl rfl ?_
  obtain ⟨h2, hw⟩ := hw
  obtain ⟨cb3, h4, hw⟩ := hw
  refine jcx_q (jrx_V hE hR (As := []) (rest := []) ((ctX2_fresh E.1.2.1 E.2.2.1 hc _ _ _ _ _ hw) E.2.2.2.1) (lw_V q637 q639 qs11 q122 q640) jdX2_fresh ⟨Nat.le_of_ble_eq_true rfl, Nat.le_of_ble_eq_true rfl⟩ h4 (gmc_gIs h2 (r := (RX2, TX2, 8)) rfl) rfl (Nat.le_of_ble_eq_true rfl) dX2_pane_1) (fun E9 q9 u9 hx => jx_out hE hK.2 hN hx) (fun r1 w5 hw => ?_)
  refine j_nb (fun b6 e_b6 => ?_)
  replace hw := hw b6 e_b6
  refine j_astore_nq (L' := [(1, va_rf (r1)), (0, .ref (x0))]) hE hn dX2_pane_4 rfl (Nat.le_of_ble_eq_true rfl) rfl ?_
  refine j_aload_n hE 1 dX2_pane_5 rfl rfl ?_
  obtain ⟨r7, e_r7⟩ : ∃ r9 : Option Nat, r9 = c 3 := ⟨_, rfl⟩
  replace hw := hw r7 e_r7
  refine j_ldcS hE 3 (by decide) rfl hc e_r7 dX2_pane_6 ?_
  obtain ⟨a8, e9, hx⟩ := hw
  subst e9
  have hw := hx
  clear hx
  obtain ⟨h10, hw⟩ := hw
  obtain ⟨cb11, h12, hw⟩ := hw
  refine jcx_i (jrx_V hE hR (As := [.ref (a8)]) (rest := []) ((ctX2_one E.1.2.1 E.2.2.1 hc _ _ _ _ _ _ hw) E.2.2.2.1) (lw_V q843 q845 qs13 q122 q846) jdX2_one ⟨Nat.le_of_ble_eq_true rfl, Nat.le_of_ble_eq_true rfl⟩ h12 (gmc_gIs h10 (r := (RX2, TX2, 8)) rfl) rfl (Nat.le_of_ble_eq_true rfl) dX2_pane_8) (fun E9 q9 u9 hx => jx_out hE hK.2 hN hx) (fun r9 w13 hw => ?_)
  refine j_nb (fun b14 e_b14 => ?_)
  replace hw := hw b14 e_b14
  refine j_istore_n (L' := [(2, .int (r9)), (1, va_rf (r1)), (0, .ref (x0))]) hE hn dX2_pane_11 rfl (Nat.le_of_ble_eq_true rfl) (by cases r1 <;> rfl) ?_
  refine j_iload_n hE 0 dX2_pane_12 rfl rfl ?_
  refine j_if_ne hE 27 dX2_pane_13 (by decide) (fun c15 => ?_) (fun c15 => ?_)
  · replace hw := hw.1 c15
    refine j_iload_n hE 0 dX2_pane_27 rfl rfl ?_
    refine j_iconst hE dX2_pane_28 kc_1 ?_
    refine j_icmp_ne hE 43 dX2_pane_29 (by decide) (fun c16 => ?_) (fun c16 => ?_)
    · replace hw := hw.1 c16
      refine j_iload_n hE 0 dX2_pane_43 rfl rfl ?_
      refine j_iconst hE dX2_pane_44 kc_2 ?_
      refine j_icmp_ne hE 59 dX2_pane_45 (by decide) (fun c17 => ?_) (fun c17 => ?_)
      · replace hw := hw.1 c17
        obtain ⟨h18, h19, hw⟩ := hw
        refine j_new (c := 10) (fs := [va_rf none, .int 0, .int 0]) hE gok_10 q890 q891 q149 dfl_10 ⟨h18, h19⟩ dX2_pane_59 (fun qa20 h21 => ?_)
        replace hw := hw qa20 h21
        refine j_nw (fun w22 e_w22 => ?_)
        replace hw := hw w22 e_w22
        refine j_nb (fun b23 e_b23 => ?_)
        replace hw := hw b23 e_b23
        refine j_dup hE dX2_pane_62 rfl ?_
        refine j_aload_nq hE 1 dX2_pane_63 rfl rfl ?_
        obtain ⟨a24, e9, hx⟩ := hw
        subst e9
        have hw := hx
        clear hx
        refine jc_v (jr_I hE hR (As := [.ref (a24)]) (rest := [.ref (qa20)]) ((ctX11_init E.1.2.1 E.2.2.1 hc _ _ _ _ hw) E.2.2.2.1) (lw_meth q894) q149 q892 q893 rfl jdX11_init ⟨Nat.le_of_ble_eq_true rfl, Nat.le_of_ble_eq_true rfl⟩ ⟨Nat.zero_le _, Nat.zero_le _⟩  rfl (Nat.le_of_ble_eq_true rfl) dX2_pane_64) (fun w25 hw => ?_)
        refine j_b0 ?_
        refine j_sub [(0, .ref (x0))] [2] rfl ?_
        have hz := bX2_pane_67 hE hn hR hc hN hK  hw
        exact hz
      · replace hw := hw.2 c17
        obtain ⟨h26, h27, hw⟩ := hw
        refine j_new (c := 9) (fs := [va_rf none, .int 0, .int 0]) hE gok_9 q880 q881 q148 dfl_9 ⟨h26, h27⟩ dX2_pane_48 (fun qa28 h29 => ?_)
        replace hw := hw qa28 h29
        refine j_nw (fun w30 e_w30 => ?_)
        replace hw := hw w30 e_w30
        refine j_nb (fun b31 e_b31 => ?_)
        replace hw := hw b31 e_b31
        refine j_dup hE dX2_pane_51 rfl ?_
        refine j_aload_nq hE 1 dX2_pane_52 rfl rfl ?_
        obtain ⟨a32, e9, hx⟩ := hw
        subst e9
        have hw := hx
        clear hx
        refine jc_v (jr_I hE hR (As := [.ref (a32)]) (rest := [.ref (qa28)]) ((ctX10_init E.1.2.1 E.2.2.1 hc _ _ _ _ hw) E.2.2.2.1) (lw_meth q884) q148 q882 q883 rfl jdX10_init ⟨Nat.le_of_ble_eq_true rfl, Nat.le_of_ble_eq_true rfl⟩ ⟨Nat.zero_le _, Nat.zero_le _⟩  rfl (Nat.le_of_ble_eq_true rfl) dX2_pane_53) (fun w33 hw => ?_)
        refine j_b0 ?_
        refine j_goto hE 67 dX2_pane_56 (by decide) ?_
        refine j_sub [(0, .ref (x0))] [2] rfl ?_
        have hz := bX2_pane_67 hE hn hR hc hN hK  hw
        exact hz
    · replace hw := hw.2 c16
      obtain ⟨h34, h35, hw⟩ := hw
      refine j_new (c := 8) (fs := [va_rf none, .int 0, .int 0]) hE gok_8 q870 q871 q147 dfl_8 ⟨h34, h35⟩ dX2_pane_32 (fun qa36 h37 => ?_)
      replace hw := hw qa36 h37
      refine j_nw (fun w38 e_w38 => ?_)
      replace hw := hw w38 e_w38
      refine j_nb (fun b39 e_b39 => ?_)
      replace hw := hw b39 e_b39
      refine j_dup hE dX2_pane_35 rfl ?_
      refine j_aload_nq hE 1 dX2_pane_36 rfl rfl ?_
      obtain ⟨a40, e9, hx⟩ := hw
      subst e9
      have hw := hx
      clear hx
      refine jc_v (jr_I hE hR (As := [.ref (a40)]) (rest := [.ref (qa36)]) ((ctX9_init E.1.2.1 E.2.2.1 hc _ _ _ _ hw) E.2.2.2.1) (lw_meth q874) q147 q872 q873 rfl jdX9_init ⟨Nat.le_of_ble_eq_true rfl, Nat.le_of_ble_eq_true rfl⟩ ⟨Nat.zero_le _, Nat.zero_le _⟩  rfl (Nat.le_of_ble_eq_true rfl) dX2_pane_37) (fun w41 hw => ?_)
      refine j_b0 ?_
      refine j_goto hE 67 dX2_pane_40 (by decide) ?_
      refine j_sub [(0, .ref (x0))] [2] rfl ?_
      have hz := bX2_pane_67 hE hn hR hc hN hK  hw
      exact hz
  · replace hw := hw.2 c15
    obtain ⟨h42, h43, hw⟩ := hw
    refine j_new (c := 7) (fs := [va_rf none, .int 0, .int 0]) hE gok_7 q847 q848 q146 dfl_7 ⟨h42, h43⟩ dX2_pane_16 (fun qa44 h45 => ?_)
    replace hw := hw qa44 h45
    refine j_nw (fun w46 e_w46 => ?_)
    replace hw := hw w46 e_w46
    refine j_nb (fun b47 e_b47 => ?_)
    replace hw := hw b47 e_b47
    refine j_dup hE dX2_pane_19 rfl ?_
    refine j_aload_nq hE 1 dX2_pane_20 rfl rfl ?_
    obtain ⟨a48, e9, hx⟩ := hw
    subst e9
    have hw := hx
    clear hx
    refine jc_v (jr_I hE hR (As := [.ref (a48)]) (rest := [.ref (qa44)]) ((ctX8_init E.1.2.1 E.2.2.1 hc _ _ _ _ hw) E.2.2.2.1) (lw_meth q851) q146 q849 q850 rfl jdX8_init ⟨Nat.le_of_ble_eq_true rfl, Nat.le_of_ble_eq_true rfl⟩ ⟨Nat.zero_le _, Nat.zero_le _⟩  rfl (Nat.le_of_ble_eq_true rfl) dX2_pane_21) (fun w49 hw => ?_)
    refine j_b0 ?_
    refine j_goto hE 67 dX2_pane_24 (by decide) ?_
    refine j_sub [(0, .ref (x0))] [2] rfl ?_
    have hz := bX2_pane_67 hE hn hR hc hN hK  hw
    exact hz
theorem jdX2_pane : jD yX2_pane 0 := by decide +kernel
abbrev wX2_pane := wX2_pane_0
theorem ctX2_pane (l : Launch) (G : gG) {c : Nat → Option Nat} (hc : G.2.2.2 = c) (x0 : Nat) (w : GW) (bb : Nat × Nat) (K : GW → Prop) (KX : String → Nat → GW → Prop) (hw : wX2_pane_0 c x0 w bb K KX) {F2 L2 : Nat} (h2 : 8 ≤ F2 ∧ 215 ≤ L2 := by exact ⟨Nat.le_refl _, Nat.le_refl _⟩) : CtXV l yX2_pane cX2_pane 5 ({ frames := F2, cells := bb.1, slots := bb.2, locals := L2 }) G [.ref (x0)] w (K) KX :=
  CtXV.of RX2 plainc_X2 rfl (Nat.le_of_ble_eq_true rfl) (fun E hE hl hG hn hR hN hK => bX2_pane_0 hE hn (hR.le h2.1 h2.2) (by rw [hG]; exact hc) hN hK hw)
def wX12_init_0 (c : Nat → Option Nat) (x0 : Nat) (w0 : GW) (K : Prop) : Prop :=
  K
set_option maxRecDepth 100000 in
theorem bX12_init_0 {E : jE} (hE : jOk E cX12_init RX12) (hn : E.2.2.2.2 = 1) (hR : jRoom E 1 20) {c : Nat → Option Nat} (hc : E.2.2.1.2.2.2 = c) (hini : E.2.1.1.name = "<init>") {b : Nat × Nat} {w0 : GW} {K : Prop} (hK : jRv E (KPV w0 K)) {x0 : Nat}  (hw : wX12_init_0 c x0 w0 K) : J E w0 b [(0, .ref (x0))] 0 [] := by
  unfold wX12_init_0 at hw
  refine j_aload_n hE 0 dX12_init_0 rfl rfl ?_
  refine j_objInit hE hR q1017 q_oi_inst q_oi_code (Nat.le_of_ble_eq_true rfl) (Nat.le_of_ble_eq_true rfl) dX12_init_1 ?_
  exact j_vret hE hK dX12_init_4 ⟨rfl, hw⟩
theorem jdX12_init : jD yX12_init 0 := by decide +kernel
abbrev wX12_init := wX12_init_0
theorem ctX12_init (l : Launch) (G : gG) {c : Nat → Option Nat} (hc : G.2.2.2 = c) (x0 : Nat) (w0 : GW) (K : Prop) (hw : wX12_init_0 c x0 w0 K) {F2 L2 : Nat} (h2 : 1 ≤ F2 ∧ 20 ≤ L2 := by exact ⟨Nat.le_refl _, Nat.le_refl _⟩) : CtV l yX12_init cX12_init 1 ({ frames := F2, cells := 0, slots := 0, locals := L2 }) G [.ref (x0)] w0 (KPV w0 K) :=
  CtV.ofI RX12 plainc_X12 rfl rfl (Nat.le_of_ble_eq_true rfl) (fun E hE hini hl hG hn hR hK => bX12_init_0 hE hn (hR.le h2.1 h2.2) (by rw [hG]; exact hc) hini hK hw)
def wX13_init_0 (c : Nat → Option Nat) (x0 : Nat) (x1 : Int32) (w : GW) (K : GW → Prop) : Prop :=
  wX12_init c x0 w (∃ (n1 : Nat) (fs2 : List Value), w x0 = some (true, .inr (n1, fs2)) ∧ n1 ∈ ([11] : List Nat) ∧ 0 < fs2.length ∧ (∀ w6 : GW, w6 = gup w x0 (.inr (n1, fs2.set 0 (.int x1))) → (K w6)))
set_option maxRecDepth 100000 in
theorem bX13_init_0 {E : jE} (hE : jOk E cX13_init RX13) (hn : E.2.2.2.2 = 2) (hR : jRoom E 2 40) {c : Nat → Option Nat} (hc : E.2.2.1.2.2.2 = c) (hini : E.2.1.1.name = "<init>") {b : Nat × Nat} {K : GW → Prop} (hK : jRv E (K)) {x0 : Nat} {x1 : Int32} {w : GW}  (hw : wX13_init_0 c x0 x1 w K) : J E w b [(0, .ref (x0)), (1, .int (x1))] 0 [] := by
  unfold wX13_init_0 at hw
  refine j_aload_n hE 0 dX13_init_0 rfl rfl ?_
  refine jc_vp (jr_IN hE hR (As := []) (rest := []) ((ctX12_init E.1.2.1 E.2.2.1 hc _ _ _ hw) E.2.2.2.1) (lw_meth q1016) q150 q1014 q1015 rfl jdX12_init ⟨Nat.le_of_ble_eq_true rfl, Nat.le_of_ble_eq_true rfl⟩ ⟨Nat.zero_le _, Nat.zero_le _⟩  rfl (Nat.le_of_ble_eq_true rfl) dX13_init_1) (fun  hw => ?_)
  refine j_b0 ?_
  refine j_aload_n hE 0 dX13_init_4 rfl rfl ?_
  refine j_iload_n hE 1 dX13_init_5 rfl rfl ?_
  obtain ⟨n1, fs2, h3, h4, h5, hw⟩ := hw
  refine j_putXF hE hini h4 gw_GlassStreet_Given_n_X13 q1018 h3 rfl rfl h5 dX13_init_6 ?_
  refine j_nw (fun w6 e_w6 => ?_)
  replace hw := hw w6 e_w6
  exact j_vret hE hK dX13_init_9 hw
theorem jdX13_init : jD yX13_init 1 := by decide +kernel
abbrev wX13_init := wX13_init_0
theorem ctX13_init (l : Launch) (G : gG) {c : Nat → Option Nat} (hc : G.2.2.2 = c) (x0 : Nat) (x1 : Int32) (w : GW) (K : GW → Prop) (hw : wX13_init_0 c x0 x1 w K) {F2 L2 : Nat} (h2 : 2 ≤ F2 ∧ 40 ≤ L2 := by exact ⟨Nat.le_refl _, Nat.le_refl _⟩) : CtV l yX13_init cX13_init 2 ({ frames := F2, cells := 0, slots := 0, locals := L2 }) G [.ref (x0), .int (x1)] w (K) :=
  CtV.ofI RX13 plainc_X13 rfl rfl (Nat.le_of_ble_eq_true rfl) (fun E hE hini hl hG hn hR hK => bX13_init_0 hE hn (hR.le h2.1 h2.2) (by rw [hG]; exact hc) hini hK hw)
def wX14_init_0 (c : Nat → Option Nat) (x0 : Nat) (x1 : Int32) (w : GW) (K : GW → Prop) : Prop :=
  wX12_init c x0 w (∃ (n1 : Nat) (fs2 : List Value), w x0 = some (true, .inr (n1, fs2)) ∧ n1 ∈ ([12] : List Nat) ∧ 0 < fs2.length ∧ (∀ w6 : GW, w6 = gup w x0 (.inr (n1, fs2.set 0 (.int x1))) → (K w6)))
set_option maxRecDepth 100000 in
theorem bX14_init_0 {E : jE} (hE : jOk E cX14_init RX14) (hn : E.2.2.2.2 = 2) (hR : jRoom E 2 40) {c : Nat → Option Nat} (hc : E.2.2.1.2.2.2 = c) (hini : E.2.1.1.name = "<init>") {b : Nat × Nat} {K : GW → Prop} (hK : jRv E (K)) {x0 : Nat} {x1 : Int32} {w : GW}  (hw : wX14_init_0 c x0 x1 w K) : J E w b [(0, .ref (x0)), (1, .int (x1))] 0 [] := by
  unfold wX14_init_0 at hw
  refine j_aload_n hE 0 dX14_init_0 rfl rfl ?_
  refine jc_vp (jr_IN hE hR (As := []) (rest := []) ((ctX12_init E.1.2.1 E.2.2.1 hc _ _ _ hw) E.2.2.2.1) (lw_meth q1016) q150 q1027 q1015 rfl jdX12_init ⟨Nat.le_of_ble_eq_true rfl, Nat.le_of_ble_eq_true rfl⟩ ⟨Nat.zero_le _, Nat.zero_le _⟩  rfl (Nat.le_of_ble_eq_true rfl) dX14_init_1) (fun  hw => ?_)
  refine j_b0 ?_
  refine j_aload_n hE 0 dX14_init_4 rfl rfl ?_
  refine j_iload_n hE 1 dX14_init_5 rfl rfl ?_
  obtain ⟨n1, fs2, h3, h4, h5, hw⟩ := hw
  refine j_putXF hE hini h4 gw_GlassStreet_Fact_which_X14 q1028 h3 rfl rfl h5 dX14_init_6 ?_
  refine j_nw (fun w6 e_w6 => ?_)
  replace hw := hw w6 e_w6
  exact j_vret hE hK dX14_init_9 hw
theorem jdX14_init : jD yX14_init 1 := by decide +kernel
abbrev wX14_init := wX14_init_0
theorem ctX14_init (l : Launch) (G : gG) {c : Nat → Option Nat} (hc : G.2.2.2 = c) (x0 : Nat) (x1 : Int32) (w : GW) (K : GW → Prop) (hw : wX14_init_0 c x0 x1 w K) {F2 L2 : Nat} (h2 : 2 ≤ F2 ∧ 40 ≤ L2 := by exact ⟨Nat.le_refl _, Nat.le_refl _⟩) : CtV l yX14_init cX14_init 2 ({ frames := F2, cells := 0, slots := 0, locals := L2 }) G [.ref (x0), .int (x1)] w (K) :=
  CtV.ofI RX14 plainc_X14 rfl rfl (Nat.le_of_ble_eq_true rfl) (fun E hE hini hl hG hn hR hK => bX14_init_0 hE hn (hR.le h2.1 h2.2) (by rw [hG]; exact hc) hini hK hw)
def wX15_init_0 (c : Nat → Option Nat) (x0 : Nat) (x1 : Nat) (w : GW) (K : GW → Prop) : Prop :=
  wX12_init c x0 w (∃ (n1 : Nat) (fs2 : List Value), w x0 = some (true, .inr (n1, fs2)) ∧ n1 ∈ ([13] : List Nat) ∧ 0 < fs2.length ∧ (∀ w6 : GW, w6 = gup w x0 (.inr (n1, fs2.set 0 (va_rf (some x1)))) → (K w6)))
set_option maxRecDepth 100000 in
theorem bX15_init_0 {E : jE} (hE : jOk E cX15_init RX15) (hn : E.2.2.2.2 = 2) (hR : jRoom E 2 40) {c : Nat → Option Nat} (hc : E.2.2.1.2.2.2 = c) (hini : E.2.1.1.name = "<init>") {b : Nat × Nat} {K : GW → Prop} (hK : jRv E (K)) {x0 : Nat} {x1 : Nat} {w : GW}  (hw : wX15_init_0 c x0 x1 w K) : J E w b [(0, .ref (x0)), (1, .ref (x1))] 0 [] := by
  unfold wX15_init_0 at hw
  refine j_aload_n hE 0 dX15_init_0 rfl rfl ?_
  refine jc_vp (jr_IN hE hR (As := []) (rest := []) ((ctX12_init E.1.2.1 E.2.2.1 hc _ _ _ hw) E.2.2.2.1) (lw_meth q1016) q150 q1037 q1015 rfl jdX12_init ⟨Nat.le_of_ble_eq_true rfl, Nat.le_of_ble_eq_true rfl⟩ ⟨Nat.zero_le _, Nat.zero_le _⟩  rfl (Nat.le_of_ble_eq_true rfl) dX15_init_1) (fun  hw => ?_)
  refine j_b0 ?_
  refine j_aload_n hE 0 dX15_init_4 rfl rfl ?_
  refine j_aload_n hE 1 dX15_init_5 rfl rfl ?_
  obtain ⟨n1, fs2, h3, h4, h5, hw⟩ := hw
  refine j_putXF hE hini h4 gw_GlassStreet_Not_part_X15 q1038 h3 rfl rfl h5 dX15_init_6 ?_
  refine j_nw (fun w6 e_w6 => ?_)
  replace hw := hw w6 e_w6
  exact j_vret hE hK dX15_init_9 hw
theorem jdX15_init : jD yX15_init 1 := by decide +kernel
abbrev wX15_init := wX15_init_0
theorem ctX15_init (l : Launch) (G : gG) {c : Nat → Option Nat} (hc : G.2.2.2 = c) (x0 : Nat) (x1 : Nat) (w : GW) (K : GW → Prop) (hw : wX15_init_0 c x0 x1 w K) {F2 L2 : Nat} (h2 : 2 ≤ F2 ∧ 40 ≤ L2 := by exact ⟨Nat.le_refl _, Nat.le_refl _⟩) : CtV l yX15_init cX15_init 2 ({ frames := F2, cells := 0, slots := 0, locals := L2 }) G [.ref (x0), .ref (x1)] w (K) :=
  CtV.ofI RX15 plainc_X15 rfl rfl (Nat.le_of_ble_eq_true rfl) (fun E hE hini hl hG hn hR hK => bX15_init_0 hE hn (hR.le h2.1 h2.2) (by rw [hG]; exact hc) hini hK hw)
def wX16_init_0 (c : Nat → Option Nat) (x0 : Nat) (x1 : Int32) (x2 : Nat) (x3 : Nat) (w : GW) (K : GW → Prop) : Prop :=
  wX12_init c x0 w (∃ (n1 : Nat) (fs2 : List Value), w x0 = some (true, .inr (n1, fs2)) ∧ n1 ∈ ([14] : List Nat) ∧ 0 < fs2.length ∧ (narrow .char (.int x1) = .int x1 ∧ (∀ w7 : GW, w7 = gup w x0 (.inr (n1, fs2.set 0 (.int x1))) → (∃ (n8 : Nat) (fs9 : List Value), w7 x0 = some (true, .inr (n8, fs9)) ∧ n8 ∈ ([14] : List Nat) ∧ 1 < fs9.length ∧ (∀ w13 : GW, w13 = gup w7 x0 (.inr (n8, fs9.set 1 (va_rf (some x2)))) → (∃ (n14 : Nat) (fs15 : List Value), w13 x0 = some (true, .inr (n14, fs15)) ∧ n14 ∈ ([14] : List Nat) ∧ 2 < fs15.length ∧ (∀ w19 : GW, w19 = gup w13 x0 (.inr (n14, fs15.set 2 (va_rf (some x3)))) → (K w19))))))))
set_option maxRecDepth 100000 in
theorem bX16_init_0 {E : jE} (hE : jOk E cX16_init RX16) (hn : E.2.2.2.2 = 4) (hR : jRoom E 2 40) {c : Nat → Option Nat} (hc : E.2.2.1.2.2.2 = c) (hini : E.2.1.1.name = "<init>") {b : Nat × Nat} {K : GW → Prop} (hK : jRv E (K)) {x0 : Nat} {x1 : Int32} {x2 : Nat} {x3 : Nat} {w : GW}  (hw : wX16_init_0 c x0 x1 x2 x3 w K) : J E w b [(0, .ref (x0)), (1, .int (x1)), (2, .ref (x2)), (3, .ref (x3))] 0 [] := by
  unfold wX16_init_0 at hw
  refine j_aload_n hE 0 dX16_init_0 rfl rfl ?_
  refine jc_vp (jr_IN hE hR (As := []) (rest := []) ((ctX12_init E.1.2.1 E.2.2.1 hc _ _ _ hw) E.2.2.2.1) (lw_meth q1016) q150 q1051 q1015 rfl jdX12_init ⟨Nat.le_of_ble_eq_true rfl, Nat.le_of_ble_eq_true rfl⟩ ⟨Nat.zero_le _, Nat.zero_le _⟩  rfl (Nat.le_of_ble_eq_true rfl) dX16_init_1) (fun  hw => ?_)
  refine j_b0 ?_
  refine j_aload_n hE 0 dX16_init_4 rfl rfl ?_
  refine j_iload_n hE 1 dX16_init_5 rfl rfl ?_
  obtain ⟨n1, fs2, h3, h4, h5, hw⟩ := hw
  obtain ⟨h6, hw⟩ := hw
  refine j_putXF hE hini h4 gw_GlassStreet_Two_way_X16 q1052 h3 h6 (fits_narrow _ _ h6) h5 dX16_init_6 ?_
  refine j_nw (fun w7 e_w7 => ?_)
  replace hw := hw w7 e_w7
  refine j_aload_n hE 0 dX16_init_9 rfl rfl ?_
  refine j_aload_n hE 2 dX16_init_10 rfl rfl ?_
  obtain ⟨n8, fs9, h10, h11, h12, hw⟩ := hw
  refine j_putXF hE hini h11 gw_GlassStreet_Two_a_X16 q1053 h10 rfl rfl h12 dX16_init_11 ?_
  refine j_nw (fun w13 e_w13 => ?_)
  replace hw := hw w13 e_w13
  refine j_aload_n hE 0 dX16_init_14 rfl rfl ?_
  refine j_aload_n hE 3 dX16_init_15 rfl rfl ?_
  obtain ⟨n14, fs15, h16, h17, h18, hw⟩ := hw
  refine j_putXF hE hini h17 gw_GlassStreet_Two_b_X16 q1054 h16 rfl rfl h18 dX16_init_16 ?_
  refine j_nw (fun w19 e_w19 => ?_)
  replace hw := hw w19 e_w19
  exact j_vret hE hK dX16_init_19 hw
theorem jdX16_init : jD yX16_init 3 := by decide +kernel
abbrev wX16_init := wX16_init_0
theorem ctX16_init (l : Launch) (G : gG) {c : Nat → Option Nat} (hc : G.2.2.2 = c) (x0 : Nat) (x1 : Int32) (x2 : Nat) (x3 : Nat) (w : GW) (K : GW → Prop) (hw : wX16_init_0 c x0 x1 x2 x3 w K) {F2 L2 : Nat} (h2 : 2 ≤ F2 ∧ 40 ≤ L2 := by exact ⟨Nat.le_refl _, Nat.le_refl _⟩) : CtV l yX16_init cX16_init 4 ({ frames := F2, cells := 0, slots := 0, locals := L2 }) G [.ref (x0), .int (x1), .ref (x2), .ref (x3)] w (K) :=
  CtV.ofI RX16 plainc_X16 rfl rfl (Nat.le_of_ble_eq_true rfl) (fun E hE hini hl hG hn hR hK => bX16_init_0 hE hn (hR.le h2.1 h2.2) (by rw [hG]; exact hc) hini hK hw)
def wX2_product_5_b (c : Nat → Option Nat) (P : Nat → GW → Nat × Nat → (Option Nat → GW → Prop) → (String → Nat → GW → Prop) → Prop) (x0 : Nat) (x1 : Option Nat) (w : GW) (bb : Nat × Nat) (KL5 : Option Nat × GW × (Nat × Nat) → Prop) (K : Option Nat → GW → Prop) (KX : String → Nat → GW → Prop) : Prop :=
  gmc w x0 = some 1 ∧ (wX2_isSign c x0 (nI 42) w (fun r1 => (r1 = 0 → (K x1 w)) ∧ (¬ r1 = 0 → (gmc w x0 = some 1 ∧ (wX2_next c x0 w (fun w5 => 1 ≤ bb.1 ∧ 3 ≤ bb.2 ∧ ∀ qa8 : Nat, w5 qa8 = none → (∀ w10 : GW, w10 = gup w5 qa8 (.inr (14, [.int 0, va_rf none, va_rf none])) → (∀ b11 : Nat × Nat, b11 = (bb.1 - 1, bb.2 - 3) → (gmc w10 x0 = some 1 ∧ (∃ cb14 : Nat × Nat, (cb14.1 ≤ b11.1 ∧ cb14.2 ≤ b11.2) ∧ (P x0 w10 cb14 (fun r12 w16 => ∀ b17 : Nat × Nat, b17 = (b11.1 - cb14.1, b11.2 - cb14.2) → (∃ a18 : Nat, x1 = some a18 ∧ (∃ a19 : Nat, r12 = some a19 ∧ (wX16_init c qa8 (nI 42) a18 a19 w16 (fun w20 => KL5 ((some qa8), w20, b17)))))) KX)))))))))))
def wX2_product_5 (c : Nat → Option Nat) (P : Nat → GW → Nat × Nat → (Option Nat → GW → Prop) → (String → Nat → GW → Prop) → Prop) (x0 : Nat) (x1 : Option Nat) (w : GW) (bb : Nat × Nat) (K : Option Nat → GW → Prop) (KX : String → Nat → GW → Prop) : Prop := lfp (σ := Option Nat × GW × (Nat × Nat)) (fun KL s => wX2_product_5_b c P x0 s.1 s.2.1 s.2.2 KL K KX) (x1, w, bb)
set_option maxRecDepth 100000 in
theorem bX2_product_5 {E : jE} {FT LT : Nat} (hE : jOk E cX2_product RX2) (hn : E.2.2.2.2 = 2) (hR : jRoom E (FT + 1) (LT + 60)) {c : Nat → Option Nat} (hc : E.2.2.1.2.2.2 = c) (hN : jNoH E) {K : Option Nat → GW → Prop} {KX : String → Nat → GW → Prop} (hK : jXq E (.object "GlassStreet$Expression") (K) KX) {P : Nat → GW → Nat × Nat → (Option Nat → GW → Prop) → (String → Nat → GW → Prop) → Prop} {x0 : Nat} {x1 : Option Nat} {w : GW} {bb : Nat × Nat} (hP : RecPt E.1.2.1 E.2.2.1 c FT LT P) (hF : 20 ≤ FT ∧ 600 ≤ LT) (hw : wX2_product_5 c P x0 x1 w bb K KX) : J E w bb [(0, .ref (x0)), (1, va_rf (x1))] 5 [] := by
  refine lfp_sound (σ := Option Nat × GW × (Nat × Nat)) (F := fun KL s => wX2_product_5_b c P x0 s.1 s.2.1 s.2.2 KL K KX) (P := fun s => J E (s.2.1) (s.2.2) [(0, .ref (x0)), (1, va_rf (s.1))] 5 []) ?_ hw
  clear hw
  rintro KL5 ⟨x1, w, bb⟩ hw ih5
  have hw : wX2_product_5_b c P x0 x1 w bb KL5 K KX := hw
  unfold wX2_product_5_b at hw
  refine j_aload_n hE 0 dX2_product_5 rfl rfl ?_
  refine j_bipush hE dX2_product_6 kb_42 ?_
  obtain ⟨h2, hw⟩ := hw
  refine jc_ip (jr_V hE hR (As := [.int (nI 42)]) (rest := []) ((ctX2_isSign E.1.2.1 E.2.2.1 hc _ _ _ _ hw) E.2.2.2.1) (lw_V q924 q926 qs18 q122 q927) jdX2_isSign ⟨by (try dsimp only); omega, by (try dsimp only); omega⟩ ⟨Nat.zero_le _, Nat.zero_le _⟩ (gmc_gIs h2 (r := (RX2, TX2, 8)) rfl) rfl (Nat.le_of_ble_eq_true rfl) dX2_product_8) (fun r1 hw => ?_)
  refine j_b0 ?_
  refine j_if_eq hE 36 dX2_product_11 (by decide) (fun c3 => ?_) (fun c3 => ?_)
  · replace hw := hw.1 c3
    refine j_aload_nq hE 1 dX2_product_36 rfl rfl ?_
    exact jx_qret hE hK (r := x1) dX2_product_37 (by first | exact Or.inl ⟨_, rfl⟩ | exact Or.inr ⟨_, rfl⟩) hw
  · replace hw := hw.2 c3
    refine j_aload_n hE 0 dX2_product_14 rfl rfl ?_
    obtain ⟨h4, hw⟩ := hw
    refine jc_v (jr_V hE hR (As := []) (rest := []) ((ctX2_next E.1.2.1 E.2.2.1 hc _ _ _ hw) E.2.2.2.1) (lw_V q410 q412 qs2 q122 q413) jdX2_next ⟨by (try dsimp only); omega, by (try dsimp only); omega⟩ ⟨Nat.zero_le _, Nat.zero_le _⟩ (gmc_gIs h4 (r := (RX2, TX2, 8)) rfl) rfl (Nat.le_of_ble_eq_true rfl) dX2_product_15) (fun w5 hw => ?_)
    refine j_b0 ?_
    obtain ⟨h6, h7, hw⟩ := hw
    refine j_new (c := 14) (fs := [.int 0, va_rf none, va_rf none]) hE gok_14 q1046 q1047 q154 dfl_14 ⟨h6, h7⟩ dX2_product_18 (fun qa8 h9 => ?_)
    replace hw := hw qa8 h9
    refine j_nw (fun w10 e_w10 => ?_)
    replace hw := hw w10 e_w10
    refine j_nb (fun b11 e_b11 => ?_)
    replace hw := hw b11 e_b11
    refine j_dup hE dX2_product_21 rfl ?_
    refine j_bipush hE dX2_product_22 kb_42 ?_
    refine j_aload_nq hE 1 dX2_product_24 rfl rfl ?_
    refine j_aload_n hE 0 dX2_product_25 rfl rfl ?_
    obtain ⟨h13, hw⟩ := hw
    obtain ⟨cb14, h15, hw⟩ := hw
    refine jcx_q (jrx_V hE hR (As := []) (rest := [va_rf (x1), .int (nI 42), .ref (qa8), .ref (qa8)]) ((hP _ _ _ _ _ hw) E.2.2.2.1) (lw_V q1003 q1005 qs26 q122 q1006) jdX2_part ⟨by (try dsimp only); omega, by (try dsimp only); omega⟩ h15 (gmc_gIs h13 (r := (RX2, TX2, 8)) rfl) rfl (by cases x1 <;> exact Nat.le_of_ble_eq_true rfl) dX2_product_26) (fun E9 q9 u9 hx => jx_out hE hK.2 hN hx) (fun r12 w16 hw => ?_)
    refine j_nb (fun b17 e_b17 => ?_)
    replace hw := hw b17 e_b17
    obtain ⟨a18, e9, hx⟩ := hw
    subst e9
    have hw := hx
    clear hx
    obtain ⟨a19, e9, hx⟩ := hw
    subst e9
    have hw := hx
    clear hx
    refine jc_v (jr_I hE hR (As := [.int (nI 42), .ref (a18), .ref (a19)]) (rest := [.ref (qa8)]) ((ctX16_init E.1.2.1 E.2.2.1 hc _ _ _ _ _ _ hw) E.2.2.2.1) (lw_meth q1050) q154 q1048 q1049 rfl jdX16_init ⟨by (try dsimp only); omega, by (try dsimp only); omega⟩ ⟨Nat.zero_le _, Nat.zero_le _⟩  rfl (Nat.le_of_ble_eq_true rfl) dX2_product_29) (fun w20 hw => ?_)
    refine j_b0 ?_
    refine j_astore_n (L' := [(1, .ref (qa8)), (0, .ref (x0))]) hE hn dX2_product_32 rfl (Nat.le_of_ble_eq_true rfl) rfl ?_
    refine j_goto hE 5 dX2_product_33 (by decide) ?_
    refine j_sub [(0, .ref (x0)), (1, .ref (qa8))] [1, 0] rfl ?_
    have hz := ih5 ((some qa8), w20, b17) hw
    exact hz
def wX2_product_0 (c : Nat → Option Nat) (P : Nat → GW → Nat × Nat → (Option Nat → GW → Prop) → (String → Nat → GW → Prop) → Prop) (x0 : Nat) (w : GW) (bb : Nat × Nat) (K : Option Nat → GW → Prop) (KX : String → Nat → GW → Prop) : Prop :=
  gmc w x0 = some 1 ∧ (∃ cb3 : Nat × Nat, (cb3.1 ≤ bb.1 ∧ cb3.2 ≤ bb.2) ∧ (P x0 w cb3 (fun r1 w5 => ∀ b6 : Nat × Nat, b6 = (bb.1 - cb3.1, bb.2 - cb3.2) → (wX2_product_5 c P x0 r1 w5 b6 K KX)) KX))
set_option maxRecDepth 100000 in
theorem bX2_product_0 {E : jE} {FT LT : Nat} (hE : jOk E cX2_product RX2) (hn : E.2.2.2.2 = 2) (hR : jRoom E (FT + 1) (LT + 60)) {c : Nat → Option Nat} (hc : E.2.2.1.2.2.2 = c) (hN : jNoH E) {K : Option Nat → GW → Prop} {KX : String → Nat → GW → Prop} (hK : jXq E (.object "GlassStreet$Expression") (K) KX) {P : Nat → GW → Nat × Nat → (Option Nat → GW → Prop) → (String → Nat → GW → Prop) → Prop} {x0 : Nat} {w : GW} {bb : Nat × Nat} (hP : RecPt E.1.2.1 E.2.2.1 c FT LT P) (hF : 20 ≤ FT ∧ 600 ≤ LT) (hw : wX2_product_0 c P x0 w bb K KX) : J E w bb [(0, .ref (x0))] 0 [] := by
  unfold wX2_product_0 at hw
  refine j_aload_n hE 0 dX2_product_0 rfl rfl ?_
  obtain ⟨h2, hw⟩ := hw
  obtain ⟨cb3, h4, hw⟩ := hw
  refine jcx_q (jrx_V hE hR (As := []) (rest := []) ((hP _ _ _ _ _ hw) E.2.2.2.1) (lw_V q1003 q1005 qs26 q122 q1006) jdX2_part ⟨by (try dsimp only); omega, by (try dsimp only); omega⟩ h4 (gmc_gIs h2 (r := (RX2, TX2, 8)) rfl) rfl (Nat.le_of_ble_eq_true rfl) dX2_product_1) (fun E9 q9 u9 hx => jx_out hE hK.2 hN hx) (fun r1 w5 hw => ?_)
  refine j_nb (fun b6 e_b6 => ?_)
  replace hw := hw b6 e_b6
  refine j_astore_nq (L' := [(1, va_rf (r1)), (0, .ref (x0))]) hE hn dX2_product_4 rfl (Nat.le_of_ble_eq_true rfl) rfl ?_
  refine j_sub [(0, .ref (x0)), (1, va_rf (r1))] [1, 0] rfl ?_
  have hz := bX2_product_5 hE hn hR hc hN hK hP hF  hw
  exact hz
theorem jdX2_product : jD yX2_product 0 := by decide +kernel
abbrev wX2_product := wX2_product_0
theorem ctX2_product (l : Launch) (G : gG) {c : Nat → Option Nat} (hc : G.2.2.2 = c) {FT LT : Nat} {P : Nat → GW → Nat × Nat → (Option Nat → GW → Prop) → (String → Nat → GW → Prop) → Prop} (hP : RecPt l G c FT LT P) (hF : 20 ≤ FT ∧ 600 ≤ LT) (x0 : Nat) (w : GW) (bb : Nat × Nat) (K : Option Nat → GW → Prop) (KX : String → Nat → GW → Prop) (hw : wX2_product_0 c P x0 w bb K KX) {F2 L2 : Nat} (h2 : FT + 1 ≤ F2 ∧ LT + 60 ≤ L2 := by exact ⟨Nat.le_refl _, Nat.le_refl _⟩) : CtXQ l yX2_product cX2_product 2 (.object "GlassStreet$Expression") ({ frames := F2, cells := bb.1, slots := bb.2, locals := L2 }) G [.ref (x0)] w (K) KX :=
  CtXQ.of RX2 plainc_X2 rfl (Nat.le_of_ble_eq_true rfl) (fun E hE hl hG hn hR hN hK => bX2_product_0 hE hn (hR.le h2.1 h2.2) (by rw [hG]; exact hc) hN hK (by rw [hl, hG]; exact hP) hF hw)
def wX2_sum_39 (c : Nat → Option Nat) (P : Nat → GW → Nat × Nat → (Option Nat → GW → Prop) → (String → Nat → GW → Prop) → Prop) (x0 : Nat) (x1 : Option Nat) (s0 : Int32) (w : GW) (bb : Nat × Nat) (KL5 : Option Nat × GW × (Nat × Nat) → Prop) (K : Option Nat → GW → Prop) (KX : String → Nat → GW → Prop) : Prop :=
  gmc w x0 = some 1 ∧ (wX2_next c x0 w (fun w2 => 1 ≤ bb.1 ∧ 3 ≤ bb.2 ∧ ∀ qa5 : Nat, w2 qa5 = none → (∀ w7 : GW, w7 = gup w2 qa5 (.inr (14, [.int 0, va_rf none, va_rf none])) → (∀ b8 : Nat × Nat, b8 = (bb.1 - 1, bb.2 - 3) → (gmc w7 x0 = some 1 ∧ (∃ cb11 : Nat × Nat, (cb11.1 ≤ b8.1 ∧ cb11.2 ≤ b8.2) ∧ (wX2_product c P x0 w7 cb11 (fun r9 w13 => ∀ b14 : Nat × Nat, b14 = (b8.1 - cb11.1, b8.2 - cb11.2) → (∃ a15 : Nat, x1 = some a15 ∧ (∃ a16 : Nat, r9 = some a16 ∧ (wX16_init c qa5 s0 a15 a16 w13 (fun w17 => KL5 ((some qa5), w17, b14)))))) KX)))))))
set_option maxRecDepth 100000 in
theorem bX2_sum_39 {E : jE} {FT LT : Nat} (hE : jOk E cX2_sum RX2) (hn : E.2.2.2.2 = 3) (hR : jRoom E (FT + 2) (LT + 81)) {c : Nat → Option Nat} (hc : E.2.2.1.2.2.2 = c) (hN : jNoH E) {K : Option Nat → GW → Prop} {KX : String → Nat → GW → Prop} (hK : jXq E (.object "GlassStreet$Expression") (K) KX) {P : Nat → GW → Nat × Nat → (Option Nat → GW → Prop) → (String → Nat → GW → Prop) → Prop} {x0 : Nat} {x1 : Option Nat} {s0 : Int32} {w : GW} {bb : Nat × Nat} {KL5 : Option Nat × GW × (Nat × Nat) → Prop} (hP : RecPt E.1.2.1 E.2.2.1 c FT LT P) (hF : 20 ≤ FT ∧ 600 ≤ LT) (ih5 : ∀ s : Option Nat × GW × (Nat × Nat), KL5 s → J E (s.2.1) (s.2.2) [(0, .ref (x0)), (1, va_rf (s.1))] 5 []) (hw : wX2_sum_39 c P x0 x1 s0 w bb KL5 K KX) : J E w bb [(0, .ref (x0)), (1, va_rf (x1))] 39 [.int (s0)] := by
  unfold wX2_sum_39 at hw
  refine j_istore_n (L' := [(2, .int (s0)), (0, .ref (x0)), (1, va_rf (x1))]) hE hn dX2_sum_39 rfl (Nat.le_of_ble_eq_true rfl) (by cases x1 <;> rfl) ?_
  refine j_aload_n hE 1 dX2_sum_40 rfl rfl ?_
  obtain ⟨h1, hw⟩ := hw
  refine jc_v (jr_V hE hR (As := []) (rest := []) ((ctX2_next E.1.2.1 E.2.2.1 hc _ _ _ hw) E.2.2.2.1) (lw_V q410 q412 qs2 q122 q413) jdX2_next ⟨by (try dsimp only); omega, by (try dsimp only); omega⟩ ⟨Nat.zero_le _, Nat.zero_le _⟩ (gmc_gIs h1 (r := (RX2, TX2, 8)) rfl) rfl (Nat.le_of_ble_eq_true rfl) dX2_sum_41) (fun w2 hw => ?_)
  refine j_b0 ?_
  obtain ⟨h3, h4, hw⟩ := hw
  refine j_new (c := 14) (fs := [.int 0, va_rf none, va_rf none]) hE gok_14 q1046 q1047 q154 dfl_14 ⟨h3, h4⟩ dX2_sum_44 (fun qa5 h6 => ?_)
  replace hw := hw qa5 h6
  refine j_nw (fun w7 e_w7 => ?_)
  replace hw := hw w7 e_w7
  refine j_nb (fun b8 e_b8 => ?_)
  replace hw := hw b8 e_b8
  refine j_dup hE dX2_sum_47 rfl ?_
  refine j_iload_n hE 0 dX2_sum_48 rfl rfl ?_
  refine j_aload_nq hE 2 dX2_sum_49 rfl rfl ?_
  refine j_aload_n hE 1 dX2_sum_50 rfl rfl ?_
  obtain ⟨h10, hw⟩ := hw
  obtain ⟨cb11, h12, hw⟩ := hw
  refine jcx_q (jrx_V hE hR (As := []) (rest := [va_rf (x1), .int (s0), .ref (qa5), .ref (qa5)]) ((ctX2_product E.1.2.1 E.2.2.1 hc hP hF _ _ _ _ _ hw) E.2.2.2.1) (lw_V q999 q1001 qs25 q122 q1002) jdX2_product ⟨by (try dsimp only); omega, by (try dsimp only); omega⟩ h12 (gmc_gIs h10 (r := (RX2, TX2, 8)) rfl) rfl (by cases x1 <;> exact Nat.le_of_ble_eq_true rfl) dX2_sum_51) (fun E9 q9 u9 hx => jx_out hE hK.2 hN hx) (fun r9 w13 hw => ?_)
  refine j_nb (fun b14 e_b14 => ?_)
  replace hw := hw b14 e_b14
  obtain ⟨a15, e9, hx⟩ := hw
  subst e9
  have hw := hx
  clear hx
  obtain ⟨a16, e9, hx⟩ := hw
  subst e9
  have hw := hx
  clear hx
  refine jc_v (jr_I hE hR (As := [.int (s0), .ref (a15), .ref (a16)]) (rest := [.ref (qa5)]) ((ctX16_init E.1.2.1 E.2.2.1 hc _ _ _ _ _ _ hw) E.2.2.2.1) (lw_meth q1050) q154 q1048 q1049 rfl jdX16_init ⟨by (try dsimp only); omega, by (try dsimp only); omega⟩ ⟨Nat.zero_le _, Nat.zero_le _⟩  rfl (Nat.le_of_ble_eq_true rfl) dX2_sum_54) (fun w17 hw => ?_)
  refine j_b0 ?_
  refine j_astore_n (L' := [(1, .ref (qa5)), (2, .int (s0)), (0, .ref (x0))]) hE hn dX2_sum_57 rfl (Nat.le_of_ble_eq_true rfl) rfl ?_
  refine j_goto hE 5 dX2_sum_58 (by decide) ?_
  refine j_sub [(0, .ref (x0)), (1, .ref (qa5))] [2, 0] rfl ?_
  have hz := ih5 ((some qa5), w17, b14) hw
  exact hz
def wX2_sum_23 (c : Nat → Option Nat) (P : Nat → GW → Nat × Nat → (Option Nat → GW → Prop) → (String → Nat → GW → Prop) → Prop) (x0 : Nat) (x1 : Option Nat) (w : GW) (bb : Nat × Nat) (KL5 : Option Nat × GW × (Nat × Nat) → Prop) (K : Option Nat → GW → Prop) (KX : String → Nat → GW → Prop) : Prop :=
  gmc w x0 = some 1 ∧ (wX2_isSign c x0 (nI 43) w (fun r1 => (r1 = 0 → (wX2_sum_39 c P x0 x1 (nI 45) w bb KL5 K KX)) ∧ (¬ r1 = 0 → (wX2_sum_39 c P x0 x1 (nI 43) w bb KL5 K KX))))
set_option maxRecDepth 100000 in
theorem bX2_sum_23 {E : jE} {FT LT : Nat} (hE : jOk E cX2_sum RX2) (hn : E.2.2.2.2 = 3) (hR : jRoom E (FT + 2) (LT + 81)) {c : Nat → Option Nat} (hc : E.2.2.1.2.2.2 = c) (hN : jNoH E) {K : Option Nat → GW → Prop} {KX : String → Nat → GW → Prop} (hK : jXq E (.object "GlassStreet$Expression") (K) KX) {P : Nat → GW → Nat × Nat → (Option Nat → GW → Prop) → (String → Nat → GW → Prop) → Prop} {x0 : Nat} {x1 : Option Nat} {w : GW} {bb : Nat × Nat} {KL5 : Option Nat × GW × (Nat × Nat) → Prop} (hP : RecPt E.1.2.1 E.2.2.1 c FT LT P) (hF : 20 ≤ FT ∧ 600 ≤ LT) (ih5 : ∀ s : Option Nat × GW × (Nat × Nat), KL5 s → J E (s.2.1) (s.2.2) [(0, .ref (x0)), (1, va_rf (s.1))] 5 []) (hw : wX2_sum_23 c P x0 x1 w bb KL5 K KX) : J E w bb [(0, .ref (x0)), (1, va_rf (x1))] 23 [] := by
  unfold wX2_sum_23 at hw
  refine j_aload_n hE 0 dX2_sum_23 rfl rfl ?_
  refine j_bipush hE dX2_sum_24 kb_43 ?_
  obtain ⟨h2, hw⟩ := hw
  refine jc_ip (jr_V hE hR (As := [.int (nI 43)]) (rest := []) ((ctX2_isSign E.1.2.1 E.2.2.1 hc _ _ _ _ hw) E.2.2.2.1) (lw_V q924 q926 qs18 q122 q927) jdX2_isSign ⟨by (try dsimp only); omega, by (try dsimp only); omega⟩ ⟨Nat.zero_le _, Nat.zero_le _⟩ (gmc_gIs h2 (r := (RX2, TX2, 8)) rfl) rfl (Nat.le_of_ble_eq_true rfl) dX2_sum_26) (fun r1 hw => ?_)
  refine j_b0 ?_
  refine j_if_eq hE 37 dX2_sum_29 (by decide) (fun c3 => ?_) (fun c3 => ?_)
  · replace hw := hw.1 c3
    refine j_bipush hE dX2_sum_37 kb_45 ?_
    have hz := bX2_sum_39 hE hn hR hc hN hK hP hF ih5 hw
    exact hz
  · replace hw := hw.2 c3
    refine j_bipush hE dX2_sum_32 kb_43 ?_
    refine j_goto hE 39 dX2_sum_34 (by decide) ?_
    have hz := bX2_sum_39 hE hn hR hc hN hK hP hF ih5 hw
    exact hz
def wX2_sum_5_b (c : Nat → Option Nat) (P : Nat → GW → Nat × Nat → (Option Nat → GW → Prop) → (String → Nat → GW → Prop) → Prop) (x0 : Nat) (x1 : Option Nat) (w : GW) (bb : Nat × Nat) (KL5 : Option Nat × GW × (Nat × Nat) → Prop) (K : Option Nat → GW → Prop) (KX : String → Nat → GW → Prop) : Prop :=
  gmc w x0 = some 1 ∧ (wX2_isSign c x0 (nI 43) w (fun r1 => (¬ r1 = 0 → (wX2_sum_23 c P x0 x1 w bb KL5 K KX)) ∧ (r1 = 0 → (gmc w x0 = some 1 ∧ (wX2_isSign c x0 (nI 45) w (fun r4 => (r4 = 0 → (K x1 w)) ∧ (¬ r4 = 0 → (wX2_sum_23 c P x0 x1 w bb KL5 K KX))))))))
def wX2_sum_5 (c : Nat → Option Nat) (P : Nat → GW → Nat × Nat → (Option Nat → GW → Prop) → (String → Nat → GW → Prop) → Prop) (x0 : Nat) (x1 : Option Nat) (w : GW) (bb : Nat × Nat) (K : Option Nat → GW → Prop) (KX : String → Nat → GW → Prop) : Prop := lfp (σ := Option Nat × GW × (Nat × Nat)) (fun KL s => wX2_sum_5_b c P x0 s.1 s.2.1 s.2.2 KL K KX) (x1, w, bb)
set_option maxRecDepth 100000 in
theorem bX2_sum_5 {E : jE} {FT LT : Nat} (hE : jOk E cX2_sum RX2) (hn : E.2.2.2.2 = 3) (hR : jRoom E (FT + 2) (LT + 81)) {c : Nat → Option Nat} (hc : E.2.2.1.2.2.2 = c) (hN : jNoH E) {K : Option Nat → GW → Prop} {KX : String → Nat → GW → Prop} (hK : jXq E (.object "GlassStreet$Expression") (K) KX) {P : Nat → GW → Nat × Nat → (Option Nat → GW → Prop) → (String → Nat → GW → Prop) → Prop} {x0 : Nat} {x1 : Option Nat} {w : GW} {bb : Nat × Nat} (hP : RecPt E.1.2.1 E.2.2.1 c FT LT P) (hF : 20 ≤ FT ∧ 600 ≤ LT) (hw : wX2_sum_5 c P x0 x1 w bb K KX) : J E w bb [(0, .ref (x0)), (1, va_rf (x1))] 5 [] := by
  refine lfp_sound (σ := Option Nat × GW × (Nat × Nat)) (F := fun KL s => wX2_sum_5_b c P x0 s.1 s.2.1 s.2.2 KL K KX) (P := fun s => J E (s.2.1) (s.2.2) [(0, .ref (x0)), (1, va_rf (s.1))] 5 []) ?_ hw
  clear hw
  rintro KL5 ⟨x1, w, bb⟩ hw ih5
  have hw : wX2_sum_5_b c P x0 x1 w bb KL5 K KX := hw
  unfold wX2_sum_5_b at hw
  refine j_aload_n hE 0 dX2_sum_5 rfl rfl ?_
  refine j_bipush hE dX2_sum_6 kb_43 ?_
  obtain ⟨h2, hw⟩ := hw
  refine jc_ip (jr_V hE hR (As := [.int (nI 43)]) (rest := []) ((ctX2_isSign E.1.2.1 E.2.2.1 hc _ _ _ _ hw) E.2.2.2.1) (lw_V q924 q926 qs18 q122 q927) jdX2_isSign ⟨by (try dsimp only); omega, by (try dsimp only); omega⟩ ⟨Nat.zero_le _, Nat.zero_le _⟩ (gmc_gIs h2 (r := (RX2, TX2, 8)) rfl) rfl (Nat.le_of_ble_eq_true rfl) dX2_sum_8) (fun r1 hw => ?_)
  refine j_b0 ?_
  refine j_if_ne hE 23 dX2_sum_11 (by decide) (fun c3 => ?_) (fun c3 => ?_)
  · replace hw := hw.1 c3
    have hz := bX2_sum_23 hE hn hR hc hN hK hP hF ih5 hw
    exact hz
  · replace hw := hw.2 c3
    refine j_aload_n hE 0 dX2_sum_14 rfl rfl ?_
    refine j_bipush hE dX2_sum_15 kb_45 ?_
    obtain ⟨h5, hw⟩ := hw
    refine jc_ip (jr_V hE hR (As := [.int (nI 45)]) (rest := []) ((ctX2_isSign E.1.2.1 E.2.2.1 hc _ _ _ _ hw) E.2.2.2.1) (lw_V q924 q926 qs18 q122 q927) jdX2_isSign ⟨by (try dsimp only); omega, by (try dsimp only); omega⟩ ⟨Nat.zero_le _, Nat.zero_le _⟩ (gmc_gIs h5 (r := (RX2, TX2, 8)) rfl) rfl (Nat.le_of_ble_eq_true rfl) dX2_sum_17) (fun r4 hw => ?_)
    refine j_b0 ?_
    refine j_if_eq hE 61 dX2_sum_20 (by decide) (fun c6 => ?_) (fun c6 => ?_)
    · replace hw := hw.1 c6
      refine j_aload_nq hE 1 dX2_sum_61 rfl rfl ?_
      exact jx_qret hE hK (r := x1) dX2_sum_62 (by first | exact Or.inl ⟨_, rfl⟩ | exact Or.inr ⟨_, rfl⟩) hw
    · replace hw := hw.2 c6
      have hz := bX2_sum_23 hE hn hR hc hN hK hP hF ih5 hw
      exact hz
def wX2_sum_0 (c : Nat → Option Nat) (P : Nat → GW → Nat × Nat → (Option Nat → GW → Prop) → (String → Nat → GW → Prop) → Prop) (x0 : Nat) (w : GW) (bb : Nat × Nat) (K : Option Nat → GW → Prop) (KX : String → Nat → GW → Prop) : Prop :=
  gmc w x0 = some 1 ∧ (∃ cb3 : Nat × Nat, (cb3.1 ≤ bb.1 ∧ cb3.2 ≤ bb.2) ∧ (wX2_product c P x0 w cb3 (fun r1 w5 => ∀ b6 : Nat × Nat, b6 = (bb.1 - cb3.1, bb.2 - cb3.2) → (wX2_sum_5 c P x0 r1 w5 b6 K KX)) KX))
set_option maxRecDepth 100000 in
theorem bX2_sum_0 {E : jE} {FT LT : Nat} (hE : jOk E cX2_sum RX2) (hn : E.2.2.2.2 = 3) (hR : jRoom E (FT + 2) (LT + 81)) {c : Nat → Option Nat} (hc : E.2.2.1.2.2.2 = c) (hN : jNoH E) {K : Option Nat → GW → Prop} {KX : String → Nat → GW → Prop} (hK : jXq E (.object "GlassStreet$Expression") (K) KX) {P : Nat → GW → Nat × Nat → (Option Nat → GW → Prop) → (String → Nat → GW → Prop) → Prop} {x0 : Nat} {w : GW} {bb : Nat × Nat} (hP : RecPt E.1.2.1 E.2.2.1 c FT LT P) (hF : 20 ≤ FT ∧ 600 ≤ LT) (hw : wX2_sum_0 c P x0 w bb K KX) : J E w bb [(0, .ref (x0))] 0 [] := by
  unfold wX2_sum_0 at hw
  refine j_aload_n hE 0 dX2_sum_0 rfl rfl ?_
  obtain ⟨h2, hw⟩ := hw
  obtain ⟨cb3, h4, hw⟩ := hw
  refine jcx_q (jrx_V hE hR (As := []) (rest := []) ((ctX2_product E.1.2.1 E.2.2.1 hc hP hF _ _ _ _ _ hw) E.2.2.2.1) (lw_V q999 q1001 qs25 q122 q1002) jdX2_product ⟨by (try dsimp only); omega, by (try dsimp only); omega⟩ h4 (gmc_gIs h2 (r := (RX2, TX2, 8)) rfl) rfl (Nat.le_of_ble_eq_true rfl) dX2_sum_1) (fun E9 q9 u9 hx => jx_out hE hK.2 hN hx) (fun r1 w5 hw => ?_)
  refine j_nb (fun b6 e_b6 => ?_)
  replace hw := hw b6 e_b6
  refine j_astore_nq (L' := [(1, va_rf (r1)), (0, .ref (x0))]) hE hn dX2_sum_4 rfl (Nat.le_of_ble_eq_true rfl) rfl ?_
  refine j_sub [(0, .ref (x0)), (1, va_rf (r1))] [1, 0] rfl ?_
  have hz := bX2_sum_5 hE hn hR hc hN hK hP hF  hw
  exact hz
theorem jdX2_sum : jD yX2_sum 0 := by decide +kernel
abbrev wX2_sum := wX2_sum_0
theorem ctX2_sum (l : Launch) (G : gG) {c : Nat → Option Nat} (hc : G.2.2.2 = c) {FT LT : Nat} {P : Nat → GW → Nat × Nat → (Option Nat → GW → Prop) → (String → Nat → GW → Prop) → Prop} (hP : RecPt l G c FT LT P) (hF : 20 ≤ FT ∧ 600 ≤ LT) (x0 : Nat) (w : GW) (bb : Nat × Nat) (K : Option Nat → GW → Prop) (KX : String → Nat → GW → Prop) (hw : wX2_sum_0 c P x0 w bb K KX) {F2 L2 : Nat} (h2 : FT + 2 ≤ F2 ∧ LT + 81 ≤ L2 := by exact ⟨Nat.le_refl _, Nat.le_refl _⟩) : CtXQ l yX2_sum cX2_sum 3 (.object "GlassStreet$Expression") ({ frames := F2, cells := bb.1, slots := bb.2, locals := L2 }) G [.ref (x0)] w (K) KX :=
  CtXQ.of RX2 plainc_X2 rfl (Nat.le_of_ble_eq_true rfl) (fun E hE hl hG hn hR hN hK => bX2_sum_0 hE hn (hR.le h2.1 h2.2) (by rw [hG]; exact hc) hN hK (by rw [hl, hG]; exact hP) hF hw)
def wX2_test_35 (c : Nat → Option Nat) (P : Nat → GW → Nat × Nat → (Option Nat → GW → Prop) → (String → Nat → GW → Prop) → Prop) (x0 : Nat) (x1 : Option Nat) (s0 : Int32) (w : GW) (bb : Nat × Nat) (K : Option Nat → GW → Prop) (KX : String → Nat → GW → Prop) : Prop :=
  (¬ s0 = (nI 32) → (gmc w x0 = some 1 ∧ (wX2_next c x0 w (fun w3 => 1 ≤ bb.1 ∧ 3 ≤ bb.2 ∧ ∀ qa6 : Nat, w3 qa6 = none → (∀ w8 : GW, w8 = gup w3 qa6 (.inr (14, [.int 0, va_rf none, va_rf none])) → (∀ b9 : Nat × Nat, b9 = (bb.1 - 1, bb.2 - 3) → (gmc w8 x0 = some 1 ∧ (∃ cb12 : Nat × Nat, (cb12.1 ≤ b9.1 ∧ cb12.2 ≤ b9.2) ∧ (wX2_sum c P x0 w8 cb12 (fun r10 w14 => ∀ b15 : Nat × Nat, b15 = (b9.1 - cb12.1, b9.2 - cb12.2) → (∃ a16 : Nat, x1 = some a16 ∧ (∃ a17 : Nat, r10 = some a17 ∧ (wX16_init c qa6 s0 a16 a17 w14 (fun w18 => K (some qa6) w18))))) KX))))))))) ∧ (s0 = (nI 32) → (K x1 w))
set_option maxRecDepth 100000 in
theorem bX2_test_35 {E : jE} {FT LT : Nat} (hE : jOk E cX2_test RX2) (hn : E.2.2.2.2 = 3) (hR : jRoom E (FT + 3) (LT + 103)) {c : Nat → Option Nat} (hc : E.2.2.1.2.2.2 = c) (hN : jNoH E) {K : Option Nat → GW → Prop} {KX : String → Nat → GW → Prop} (hK : jXq E (.object "GlassStreet$Expression") (K) KX) {P : Nat → GW → Nat × Nat → (Option Nat → GW → Prop) → (String → Nat → GW → Prop) → Prop} {x0 : Nat} {x1 : Option Nat} {s0 : Int32} {w : GW} {bb : Nat × Nat} (hP : RecPt E.1.2.1 E.2.2.1 c FT LT P) (hF : 20 ≤ FT ∧ 600 ≤ LT) (hw : wX2_test_35 c P x0 x1 s0 w bb K KX) : J E w bb [(0, .ref (x0)), (1, va_rf (x1))] 35 [.int (s0)] := by
  unfold wX2_test_35 at hw
  refine j_istore_n (L' := [(2, .int (s0)), (0, .ref (x0)), (1, va_rf (x1))]) hE hn dX2_test_35 rfl (Nat.le_of_ble_eq_true rfl) (by cases x1 <;> rfl) ?_
  refine j_iload_n hE 0 dX2_test_36 rfl rfl ?_
  refine j_bipush hE dX2_test_37 kb_32 ?_
  refine j_icmp_ne hE 44 dX2_test_39 (by decide) (fun c1 => ?_) (fun c1 => ?_)
  · replace hw := hw.1 c1
    refine j_aload_n hE 1 dX2_test_44 rfl rfl ?_
    obtain ⟨h2, hw⟩ := hw
    refine jc_v (jr_V hE hR (As := []) (rest := []) ((ctX2_next E.1.2.1 E.2.2.1 hc _ _ _ hw) E.2.2.2.1) (lw_V q410 q412 qs2 q122 q413) jdX2_next ⟨by (try dsimp only); omega, by (try dsimp only); omega⟩ ⟨Nat.zero_le _, Nat.zero_le _⟩ (gmc_gIs h2 (r := (RX2, TX2, 8)) rfl) rfl (Nat.le_of_ble_eq_true rfl) dX2_test_45) (fun w3 hw => ?_)
    refine j_b0 ?_
    obtain ⟨h4, h5, hw⟩ := hw
    refine j_new (c := 14) (fs := [.int 0, va_rf none, va_rf none]) hE gok_14 q1046 q1047 q154 dfl_14 ⟨h4, h5⟩ dX2_test_48 (fun qa6 h7 => ?_)
    replace hw := hw qa6 h7
    refine j_nw (fun w8 e_w8 => ?_)
    replace hw := hw w8 e_w8
    refine j_nb (fun b9 e_b9 => ?_)
    replace hw := hw b9 e_b9
    refine j_dup hE dX2_test_51 rfl ?_
    refine j_iload_n hE 0 dX2_test_52 rfl rfl ?_
    refine j_aload_nq hE 2 dX2_test_53 rfl rfl ?_
    refine j_aload_n hE 1 dX2_test_54 rfl rfl ?_
    obtain ⟨h11, hw⟩ := hw
    obtain ⟨cb12, h13, hw⟩ := hw
    refine jcx_q (jrx_V hE hR (As := []) (rest := [va_rf (x1), .int (s0), .ref (qa6), .ref (qa6)]) ((ctX2_sum E.1.2.1 E.2.2.1 hc hP hF _ _ _ _ _ hw) E.2.2.2.1) (lw_V q995 q997 qs24 q122 q998) jdX2_sum ⟨by (try dsimp only); omega, by (try dsimp only); omega⟩ h13 (gmc_gIs h11 (r := (RX2, TX2, 8)) rfl) rfl (by cases x1 <;> exact Nat.le_of_ble_eq_true rfl) dX2_test_55) (fun E9 q9 u9 hx => jx_out hE hK.2 hN hx) (fun r10 w14 hw => ?_)
    refine j_nb (fun b15 e_b15 => ?_)
    replace hw := hw b15 e_b15
    obtain ⟨a16, e9, hx⟩ := hw
    subst e9
    have hw := hx
    clear hx
    obtain ⟨a17, e9, hx⟩ := hw
    subst e9
    have hw := hx
    clear hx
    refine jc_v (jr_I hE hR (As := [.int (s0), .ref (a16), .ref (a17)]) (rest := [.ref (qa6)]) ((ctX16_init E.1.2.1 E.2.2.1 hc _ _ _ _ _ _ hw) E.2.2.2.1) (lw_meth q1050) q154 q1048 q1049 rfl jdX16_init ⟨by (try dsimp only); omega, by (try dsimp only); omega⟩ ⟨Nat.zero_le _, Nat.zero_le _⟩  rfl (Nat.le_of_ble_eq_true rfl) dX2_test_58) (fun w18 hw => ?_)
    refine j_b0 ?_
    exact jx_qret hE hK (r := some qa6) dX2_test_61 (by first | exact Or.inl ⟨_, rfl⟩ | exact Or.inr ⟨_, rfl⟩) hw
  · replace hw := hw.2 c1
    refine j_aload_nq hE 2 dX2_test_42 rfl rfl ?_
    exact jx_qret hE hK (r := x1) dX2_test_43 (by first | exact Or.inl ⟨_, rfl⟩ | exact Or.inr ⟨_, rfl⟩) hw
def wX2_test_0 (c : Nat → Option Nat) (P : Nat → GW → Nat × Nat → (Option Nat → GW → Prop) → (String → Nat → GW → Prop) → Prop) (x0 : Nat) (w : GW) (bb : Nat × Nat) (K : Option Nat → GW → Prop) (KX : String → Nat → GW → Prop) : Prop :=
  gmc w x0 = some 1 ∧ (∃ cb3 : Nat × Nat, (cb3.1 ≤ bb.1 ∧ cb3.2 ≤ bb.2) ∧ (wX2_sum c P x0 w cb3 (fun r1 w5 => ∀ b6 : Nat × Nat, b6 = (bb.1 - cb3.1, bb.2 - cb3.2) → (gmc w5 x0 = some 1 ∧ (wX2_isSign c x0 (nI 60) w5 (fun r7 => (r7 = 0 → (gmc w5 x0 = some 1 ∧ (wX2_isSign c x0 (nI 61) w5 (fun r10 => (r10 = 0 → (wX2_test_35 c P x0 r1 (nI 32) w5 b6 K KX)) ∧ (¬ r10 = 0 → (wX2_test_35 c P x0 r1 (nI 61) w5 b6 K KX)))))) ∧ (¬ r7 = 0 → (wX2_test_35 c P x0 r1 (nI 60) w5 b6 K KX)))))) KX))
set_option maxRecDepth 100000 in
theorem bX2_test_0 {E : jE} {FT LT : Nat} (hE : jOk E cX2_test RX2) (hn : E.2.2.2.2 = 3) (hR : jRoom E (FT + 3) (LT + 103)) {c : Nat → Option Nat} (hc : E.2.2.1.2.2.2 = c) (hN : jNoH E) {K : Option Nat → GW → Prop} {KX : String → Nat → GW → Prop} (hK : jXq E (.object "GlassStreet$Expression") (K) KX) {P : Nat → GW → Nat × Nat → (Option Nat → GW → Prop) → (String → Nat → GW → Prop) → Prop} {x0 : Nat} {w : GW} {bb : Nat × Nat} (hP : RecPt E.1.2.1 E.2.2.1 c FT LT P) (hF : 20 ≤ FT ∧ 600 ≤ LT) (hw : wX2_test_0 c P x0 w bb K KX) : J E w bb [(0, .ref (x0))] 0 [] := by
  unfold wX2_test_0 at hw
  refine j_aload_n hE 0 dX2_test_0 rfl rfl ?_
  obtain ⟨h2, hw⟩ := hw
  obtain ⟨cb3, h4, hw⟩ := hw
  refine jcx_q (jrx_V hE hR (As := []) (rest := []) ((ctX2_sum E.1.2.1 E.2.2.1 hc hP hF _ _ _ _ _ hw) E.2.2.2.1) (lw_V q995 q997 qs24 q122 q998) jdX2_sum ⟨by (try dsimp only); omega, by (try dsimp only); omega⟩ h4 (gmc_gIs h2 (r := (RX2, TX2, 8)) rfl) rfl (Nat.le_of_ble_eq_true rfl) dX2_test_1) (fun E9 q9 u9 hx => jx_out hE hK.2 hN hx) (fun r1 w5 hw => ?_)
  refine j_nb (fun b6 e_b6 => ?_)
  replace hw := hw b6 e_b6
  refine j_astore_nq (L' := [(1, va_rf (r1)), (0, .ref (x0))]) hE hn dX2_test_4 rfl (Nat.le_of_ble_eq_true rfl) rfl ?_
  refine j_aload_n hE 1 dX2_test_5 rfl rfl ?_
  refine j_bipush hE dX2_test_6 kb_60 ?_
  obtain ⟨h8, hw⟩ := hw
  refine jc_ip (jr_V hE hR (As := [.int (nI 60)]) (rest := []) ((ctX2_isSign E.1.2.1 E.2.2.1 hc _ _ _ _ hw) E.2.2.2.1) (lw_V q924 q926 qs18 q122 q927) jdX2_isSign ⟨by (try dsimp only); omega, by (try dsimp only); omega⟩ ⟨Nat.zero_le _, Nat.zero_le _⟩ (gmc_gIs h8 (r := (RX2, TX2, 8)) rfl) rfl (Nat.le_of_ble_eq_true rfl) dX2_test_8) (fun r7 hw => ?_)
  refine j_b0 ?_
  refine j_if_eq hE 19 dX2_test_11 (by decide) (fun c9 => ?_) (fun c9 => ?_)
  · replace hw := hw.1 c9
    refine j_aload_n hE 1 dX2_test_19 rfl rfl ?_
    refine j_bipush hE dX2_test_20 kb_61 ?_
    obtain ⟨h11, hw⟩ := hw
    refine jc_ip (jr_V hE hR (As := [.int (nI 61)]) (rest := []) ((ctX2_isSign E.1.2.1 E.2.2.1 hc _ _ _ _ hw) E.2.2.2.1) (lw_V q924 q926 qs18 q122 q927) jdX2_isSign ⟨by (try dsimp only); omega, by (try dsimp only); omega⟩ ⟨Nat.zero_le _, Nat.zero_le _⟩ (gmc_gIs h11 (r := (RX2, TX2, 8)) rfl) rfl (Nat.le_of_ble_eq_true rfl) dX2_test_22) (fun r10 hw => ?_)
    refine j_b0 ?_
    refine j_if_eq hE 33 dX2_test_25 (by decide) (fun c12 => ?_) (fun c12 => ?_)
    · replace hw := hw.1 c12
      refine j_bipush hE dX2_test_33 kb_32 ?_
      refine j_sub [(0, .ref (x0)), (1, va_rf (r1))] [1, 0] rfl ?_
      have hz := bX2_test_35 hE hn hR hc hN hK hP hF  hw
      exact hz
    · replace hw := hw.2 c12
      refine j_bipush hE dX2_test_28 kb_61 ?_
      refine j_goto hE 35 dX2_test_30 (by decide) ?_
      refine j_sub [(0, .ref (x0)), (1, va_rf (r1))] [1, 0] rfl ?_
      have hz := bX2_test_35 hE hn hR hc hN hK hP hF  hw
      exact hz
  · replace hw := hw.2 c9
    refine j_bipush hE dX2_test_14 kb_60 ?_
    refine j_goto hE 35 dX2_test_16 (by decide) ?_
    refine j_sub [(0, .ref (x0)), (1, va_rf (r1))] [1, 0] rfl ?_
    have hz := bX2_test_35 hE hn hR hc hN hK hP hF  hw
    exact hz
theorem jdX2_test : jD yX2_test 0 := by decide +kernel
abbrev wX2_test := wX2_test_0
theorem ctX2_test (l : Launch) (G : gG) {c : Nat → Option Nat} (hc : G.2.2.2 = c) {FT LT : Nat} {P : Nat → GW → Nat × Nat → (Option Nat → GW → Prop) → (String → Nat → GW → Prop) → Prop} (hP : RecPt l G c FT LT P) (hF : 20 ≤ FT ∧ 600 ≤ LT) (x0 : Nat) (w : GW) (bb : Nat × Nat) (K : Option Nat → GW → Prop) (KX : String → Nat → GW → Prop) (hw : wX2_test_0 c P x0 w bb K KX) {F2 L2 : Nat} (h2 : FT + 3 ≤ F2 ∧ LT + 103 ≤ L2 := by exact ⟨Nat.le_refl _, Nat.le_refl _⟩) : CtXQ l yX2_test cX2_test 3 (.object "GlassStreet$Expression") ({ frames := F2, cells := bb.1, slots := bb.2, locals := L2 }) G [.ref (x0)] w (K) KX :=
  CtXQ.of RX2 plainc_X2 rfl (Nat.le_of_ble_eq_true rfl) (fun E hE hl hG hn hR hN hK => bX2_test_0 hE hn (hR.le h2.1 h2.2) (by rw [hG]; exact hc) hN hK (by rw [hl, hG]; exact hP) hF hw)
def wX2_expression_38 (c : Nat → Option Nat) (P : Nat → GW → Nat × Nat → (Option Nat → GW → Prop) → (String → Nat → GW → Prop) → Prop) (x0 : Nat) (x1 : Option Nat) (s0 : Nat) (s1 : Nat) (s2 : Int32) (w : GW) (bb : Nat × Nat) (KL5 : Option Nat × GW × (Nat × Nat) → Prop) (K : Option Nat → GW → Prop) (KX : String → Nat → GW → Prop) : Prop :=
  gmc w x0 = some 1 ∧ (∃ cb3 : Nat × Nat, (cb3.1 ≤ bb.1 ∧ cb3.2 ≤ bb.2) ∧ (wX2_test c P x0 w cb3 (fun r1 w5 => ∀ b6 : Nat × Nat, b6 = (bb.1 - cb3.1, bb.2 - cb3.2) → (∃ a7 : Nat, x1 = some a7 ∧ (∃ a8 : Nat, r1 = some a8 ∧ (wX16_init c s1 s2 a7 a8 w5 (fun w9 => KL5 ((some s0), w9, b6)))))) KX))
set_option maxRecDepth 100000 in
theorem bX2_expression_38 {E : jE} {FT LT : Nat} (hE : jOk E cX2_expression RX2) (hn : E.2.2.2.2 = 3) (hR : jRoom E (FT + 4) (LT + 125)) {c : Nat → Option Nat} (hc : E.2.2.1.2.2.2 = c) (hN : jNoH E) {K : Option Nat → GW → Prop} {KX : String → Nat → GW → Prop} (hK : jXq E (.object "GlassStreet$Expression") (K) KX) {P : Nat → GW → Nat × Nat → (Option Nat → GW → Prop) → (String → Nat → GW → Prop) → Prop} {x0 : Nat} {x1 : Option Nat} {s0 : Nat} {s1 : Nat} {s2 : Int32} {w : GW} {bb : Nat × Nat} {KL5 : Option Nat × GW × (Nat × Nat) → Prop} (hP : RecPt E.1.2.1 E.2.2.1 c FT LT P) (hF : 20 ≤ FT ∧ 600 ≤ LT) (ih5 : ∀ s : Option Nat × GW × (Nat × Nat), KL5 s → J E (s.2.1) (s.2.2) [(0, .ref (x0)), (1, va_rf (s.1))] 5 []) (hw : wX2_expression_38 c P x0 x1 s0 s1 s2 w bb KL5 K KX) : J E w bb [(0, .ref (x0)), (1, va_rf (x1))] 38 [.int (s2), .ref (s1), .ref (s0)] := by
  unfold wX2_expression_38 at hw
  refine j_aload_nq hE 1 dX2_expression_38 rfl rfl ?_
  refine j_aload_n hE 0 dX2_expression_39 rfl rfl ?_
  obtain ⟨h2, hw⟩ := hw
  obtain ⟨cb3, h4, hw⟩ := hw
  refine jcx_q (jrx_V hE hR (As := []) (rest := [va_rf (x1), .int (s2), .ref (s1), .ref (s0)]) ((ctX2_test E.1.2.1 E.2.2.1 hc hP hF _ _ _ _ _ hw) E.2.2.2.1) (lw_V q991 q993 qs23 q122 q994) jdX2_test ⟨by (try dsimp only); omega, by (try dsimp only); omega⟩ h4 (gmc_gIs h2 (r := (RX2, TX2, 8)) rfl) rfl (by cases x1 <;> exact Nat.le_of_ble_eq_true rfl) dX2_expression_40) (fun E9 q9 u9 hx => jx_out hE hK.2 hN hx) (fun r1 w5 hw => ?_)
  refine j_nb (fun b6 e_b6 => ?_)
  replace hw := hw b6 e_b6
  obtain ⟨a7, e9, hx⟩ := hw
  subst e9
  have hw := hx
  clear hx
  obtain ⟨a8, e9, hx⟩ := hw
  subst e9
  have hw := hx
  clear hx
  refine jc_v (jr_I hE hR (As := [.int (s2), .ref (a7), .ref (a8)]) (rest := [.ref (s0)]) ((ctX16_init E.1.2.1 E.2.2.1 hc _ _ _ _ _ _ hw) E.2.2.2.1) (lw_meth q1050) q154 q1048 q1049 rfl jdX16_init ⟨by (try dsimp only); omega, by (try dsimp only); omega⟩ ⟨Nat.zero_le _, Nat.zero_le _⟩  rfl (Nat.le_of_ble_eq_true rfl) dX2_expression_43) (fun w9 hw => ?_)
  refine j_b0 ?_
  refine j_astore_n (L' := [(1, .ref (s0)), (0, .ref (x0))]) hE hn dX2_expression_46 rfl (Nat.le_of_ble_eq_true rfl) rfl ?_
  refine j_goto hE 5 dX2_expression_47 (by decide) ?_
  refine j_sub [(0, .ref (x0)), (1, .ref (s0))] [1, 0] rfl ?_
  have hz := ih5 ((some s0), w9, b6) hw
  exact hz
def wX2_expression_5_b (c : Nat → Option Nat) (P : Nat → GW → Nat × Nat → (Option Nat → GW → Prop) → (String → Nat → GW → Prop) → Prop) (x0 : Nat) (x1 : Option Nat) (w : GW) (bb : Nat × Nat) (KL5 : Option Nat × GW × (Nat × Nat) → Prop) (K : Option Nat → GW → Prop) (KX : String → Nat → GW → Prop) : Prop :=
  ∀ r1 : Option Nat, r1 = c 10 → (∃ a2 : Nat, r1 = some a2 ∧ (gmc w x0 = some 1 ∧ (wX2_which c x0 a2 w (fun r3 => (0 ≤ r3 → (gmc w x0 = some 1 ∧ (wX2_next c x0 w (fun w7 => 1 ≤ bb.1 ∧ 3 ≤ bb.2 ∧ ∀ qa10 : Nat, w7 qa10 = none → (∀ w12 : GW, w12 = gup w7 qa10 (.inr (14, [.int 0, va_rf none, va_rf none])) → (∀ b13 : Nat × Nat, b13 = (bb.1 - 1, bb.2 - 3) → ((¬ r3 = 0 → (wX2_expression_38 c P x0 x1 qa10 qa10 (nI 124) w12 b13 KL5 K KX)) ∧ (r3 = 0 → (wX2_expression_38 c P x0 x1 qa10 qa10 (nI 38) w12 b13 KL5 K KX))))))))) ∧ (¬ 0 ≤ r3 → (K x1 w))))))
def wX2_expression_5 (c : Nat → Option Nat) (P : Nat → GW → Nat × Nat → (Option Nat → GW → Prop) → (String → Nat → GW → Prop) → Prop) (x0 : Nat) (x1 : Option Nat) (w : GW) (bb : Nat × Nat) (K : Option Nat → GW → Prop) (KX : String → Nat → GW → Prop) : Prop := lfp (σ := Option Nat × GW × (Nat × Nat)) (fun KL s => wX2_expression_5_b c P x0 s.1 s.2.1 s.2.2 KL K KX) (x1, w, bb)
set_option maxRecDepth 100000 in
theorem bX2_expression_5 {E : jE} {FT LT : Nat} (hE : jOk E cX2_expression RX2) (hn : E.2.2.2.2 = 3) (hR : jRoom E (FT + 4) (LT + 125)) {c : Nat → Option Nat} (hc : E.2.2.1.2.2.2 = c) (hN : jNoH E) {K : Option Nat → GW → Prop} {KX : String → Nat → GW → Prop} (hK : jXq E (.object "GlassStreet$Expression") (K) KX) {P : Nat → GW → Nat × Nat → (Option Nat → GW → Prop) → (String → Nat → GW → Prop) → Prop} {x0 : Nat} {x1 : Option Nat} {w : GW} {bb : Nat × Nat} (hP : RecPt E.1.2.1 E.2.2.1 c FT LT P) (hF : 20 ≤ FT ∧ 600 ≤ LT) (hw : wX2_expression_5 c P x0 x1 w bb K KX) : J E w bb [(0, .ref (x0)), (1, va_rf (x1))] 5 [] := by
  refine lfp_sound (σ := Option Nat × GW × (Nat × Nat)) (F := fun KL s => wX2_expression_5_b c P x0 s.1 s.2.1 s.2.2 KL K KX) (P := fun s => J E (s.2.1) (s.2.2) [(0, .ref (x0)), (1, va_rf (s.1))] 5 []) ?_ hw
  clear hw
  rintro KL5 ⟨x1, w, bb⟩ hw ih5
  have hw : wX2_expression_5_b c P x0 x1 w bb KL5 K KX := hw
  unfold wX2_expression_5_b at hw
  refine j_aload_n hE 0 dX2_expression_5 rfl rfl ?_
  obtain ⟨r1, e_r1⟩ : ∃ r9 : Option Nat, r9 = c 10 := ⟨_, rfl⟩
  replace hw := hw r1 e_r1
  refine j_ldcwS hE 10 (by decide) rfl hc e_r1 dX2_expression_6 ?_
  obtain ⟨a2, e9, hx⟩ := hw
  subst e9
  have hw := hx
  clear hx
  obtain ⟨h4, hw⟩ := hw
  refine jc_ip (jr_V hE hR (As := [.ref (a2)]) (rest := []) ((ctX2_which E.1.2.1 E.2.2.1 hc _ _ _ _ hw) E.2.2.2.1) (lw_V q518 q520 qs4 q122 q521) jdX2_which ⟨by (try dsimp only); omega, by (try dsimp only); omega⟩ ⟨Nat.zero_le _, Nat.zero_le _⟩ (gmc_gIs h4 (r := (RX2, TX2, 8)) rfl) rfl (Nat.le_of_ble_eq_true rfl) dX2_expression_9) (fun r3 hw => ?_)
  refine j_b0 ?_
  refine j_istore_n (L' := [(2, .int (r3)), (0, .ref (x0)), (1, va_rf (x1))]) hE hn dX2_expression_12 rfl (Nat.le_of_ble_eq_true rfl) (by cases x1 <;> rfl) ?_
  refine j_iload_n hE 0 dX2_expression_13 rfl rfl ?_
  refine j_if_ge hE 19 dX2_expression_14 (by decide) (fun c5 => ?_) (fun c5 => ?_)
  · replace hw := hw.1 c5
    refine j_aload_n hE 1 dX2_expression_19 rfl rfl ?_
    obtain ⟨h6, hw⟩ := hw
    refine jc_v (jr_V hE hR (As := []) (rest := []) ((ctX2_next E.1.2.1 E.2.2.1 hc _ _ _ hw) E.2.2.2.1) (lw_V q410 q412 qs2 q122 q413) jdX2_next ⟨by (try dsimp only); omega, by (try dsimp only); omega⟩ ⟨Nat.zero_le _, Nat.zero_le _⟩ (gmc_gIs h6 (r := (RX2, TX2, 8)) rfl) rfl (Nat.le_of_ble_eq_true rfl) dX2_expression_20) (fun w7 hw => ?_)
    refine j_b0 ?_
    obtain ⟨h8, h9, hw⟩ := hw
    refine j_new (c := 14) (fs := [.int 0, va_rf none, va_rf none]) hE gok_14 q1046 q1047 q154 dfl_14 ⟨h8, h9⟩ dX2_expression_23 (fun qa10 h11 => ?_)
    replace hw := hw qa10 h11
    refine j_nw (fun w12 e_w12 => ?_)
    replace hw := hw w12 e_w12
    refine j_nb (fun b13 e_b13 => ?_)
    replace hw := hw b13 e_b13
    refine j_dup hE dX2_expression_26 rfl ?_
    refine j_iload_n hE 0 dX2_expression_27 rfl rfl ?_
    refine j_if_ne hE 36 dX2_expression_28 (by decide) (fun c14 => ?_) (fun c14 => ?_)
    · replace hw := hw.1 c14
      refine j_bipush hE dX2_expression_36 kb_124 ?_
      refine j_sub [(0, .ref (x0)), (1, va_rf (x1))] [1, 2] rfl ?_
      have hz := bX2_expression_38 hE hn hR hc hN hK hP hF ih5 hw
      exact hz
    · replace hw := hw.2 c14
      refine j_bipush hE dX2_expression_31 kb_38 ?_
      refine j_goto hE 38 dX2_expression_33 (by decide) ?_
      refine j_sub [(0, .ref (x0)), (1, va_rf (x1))] [1, 2] rfl ?_
      have hz := bX2_expression_38 hE hn hR hc hN hK hP hF ih5 hw
      exact hz
  · replace hw := hw.2 c5
    refine j_aload_nq hE 2 dX2_expression_17 rfl rfl ?_
    exact jx_qret hE hK (r := x1) dX2_expression_18 (by first | exact Or.inl ⟨_, rfl⟩ | exact Or.inr ⟨_, rfl⟩) hw
def wX2_expression_0 (c : Nat → Option Nat) (P : Nat → GW → Nat × Nat → (Option Nat → GW → Prop) → (String → Nat → GW → Prop) → Prop) (x0 : Nat) (w : GW) (bb : Nat × Nat) (K : Option Nat → GW → Prop) (KX : String → Nat → GW → Prop) : Prop :=
  gmc w x0 = some 1 ∧ (∃ cb3 : Nat × Nat, (cb3.1 ≤ bb.1 ∧ cb3.2 ≤ bb.2) ∧ (wX2_test c P x0 w cb3 (fun r1 w5 => ∀ b6 : Nat × Nat, b6 = (bb.1 - cb3.1, bb.2 - cb3.2) → (wX2_expression_5 c P x0 r1 w5 b6 K KX)) KX))
set_option maxRecDepth 100000 in
theorem bX2_expression_0 {E : jE} {FT LT : Nat} (hE : jOk E cX2_expression RX2) (hn : E.2.2.2.2 = 3) (hR : jRoom E (FT + 4) (LT + 125)) {c : Nat → Option Nat} (hc : E.2.2.1.2.2.2 = c) (hN : jNoH E) {K : Option Nat → GW → Prop} {KX : String → Nat → GW → Prop} (hK : jXq E (.object "GlassStreet$Expression") (K) KX) {P : Nat → GW → Nat × Nat → (Option Nat → GW → Prop) → (String → Nat → GW → Prop) → Prop} {x0 : Nat} {w : GW} {bb : Nat × Nat} (hP : RecPt E.1.2.1 E.2.2.1 c FT LT P) (hF : 20 ≤ FT ∧ 600 ≤ LT) (hw : wX2_expression_0 c P x0 w bb K KX) : J E w bb [(0, .ref (x0))] 0 [] := by
  unfold wX2_expression_0 at hw
  refine j_aload_n hE 0 dX2_expression_0 rfl rfl ?_
  obtain ⟨h2, hw⟩ := hw
  obtain ⟨cb3, h4, hw⟩ := hw
  refine jcx_q (jrx_V hE hR (As := []) (rest := []) ((ctX2_test E.1.2.1 E.2.2.1 hc hP hF _ _ _ _ _ hw) E.2.2.2.1) (lw_V q991 q993 qs23 q122 q994) jdX2_test ⟨by (try dsimp only); omega, by (try dsimp only); omega⟩ h4 (gmc_gIs h2 (r := (RX2, TX2, 8)) rfl) rfl (Nat.le_of_ble_eq_true rfl) dX2_expression_1) (fun E9 q9 u9 hx => jx_out hE hK.2 hN hx) (fun r1 w5 hw => ?_)
  refine j_nb (fun b6 e_b6 => ?_)
  replace hw := hw b6 e_b6
  refine j_astore_nq (L' := [(1, va_rf (r1)), (0, .ref (x0))]) hE hn dX2_expression_4 rfl (Nat.le_of_ble_eq_true rfl) rfl ?_
  refine j_sub [(0, .ref (x0)), (1, va_rf (r1))] [1, 0] rfl ?_
  have hz := bX2_expression_5 hE hn hR hc hN hK hP hF  hw
  exact hz
theorem jdX2_expression : jD yX2_expression 0 := by decide +kernel
abbrev wX2_expression := wX2_expression_0
theorem ctX2_expression (l : Launch) (G : gG) {c : Nat → Option Nat} (hc : G.2.2.2 = c) {FT LT : Nat} {P : Nat → GW → Nat × Nat → (Option Nat → GW → Prop) → (String → Nat → GW → Prop) → Prop} (hP : RecPt l G c FT LT P) (hF : 20 ≤ FT ∧ 600 ≤ LT) (x0 : Nat) (w : GW) (bb : Nat × Nat) (K : Option Nat → GW → Prop) (KX : String → Nat → GW → Prop) (hw : wX2_expression_0 c P x0 w bb K KX) {F2 L2 : Nat} (h2 : FT + 4 ≤ F2 ∧ LT + 125 ≤ L2 := by exact ⟨Nat.le_refl _, Nat.le_refl _⟩) : CtXQ l yX2_expression cX2_expression 3 (.object "GlassStreet$Expression") ({ frames := F2, cells := bb.1, slots := bb.2, locals := L2 }) G [.ref (x0)] w (K) KX :=
  CtXQ.of RX2 plainc_X2 rfl (Nat.le_of_ble_eq_true rfl) (fun E hE hl hG hn hR hN hK => bX2_expression_0 hE hn (hR.le h2.1 h2.2) (by rw [hG]; exact hc) hN hK (by rw [hl, hG]; exact hP) hF hw)
def wX2_need_2_0 (c : Nat → Option Nat) (x0 : Nat) (x1 : Int32) (w : GW) (bb : Nat × Nat) (K : GW → Prop) (KX : String → Nat → GW → Prop) : Prop :=
  gmc w x0 = some 1 ∧ (wX2_isSign c x0 x1 w (fun r1 => (¬ r1 = 0 → (gmc w x0 = some 1 ∧ (wX2_next c x0 w (fun w5 => K w5)))) ∧ (r1 = 0 → (gmc w x0 = some 1 ∧ (∃ cb8 : Nat × Nat, (cb8.1 ≤ bb.1 ∧ cb8.2 ≤ bb.2) ∧ (wX2_wrong c x0 ((1 : Int32)) w cb8 (fun r6 w10 => ∀ b11 : Nat × Nat, b11 = (bb.1 - cb8.1, bb.2 - cb8.2) → (∃ a12 : Nat, r6 = some a12 ∧ (∃ (cc : Nat) (fs : List Value) (rr : vw_C), w10 a12 = some (true, .inr (cc, fs)) ∧ gCl[cc]? = some rr ∧ KX rr.1 a12 w10)))))))))
set_option maxRecDepth 100000 in
theorem bX2_need_2_0 {E : jE} (hE : jOk E cX2_need_2 RX2) (hn : E.2.2.2.2 = 2) (hR : jRoom E 6 146) {c : Nat → Option Nat} (hc : E.2.2.1.2.2.2 = c) (hN : jNoH E) {K : GW → Prop} {KX : String → Nat → GW → Prop} (hK : jXv E K KX) {x0 : Nat} {x1 : Int32} {w : GW} {bb : Nat × Nat}  (hw : wX2_need_2_0 c x0 x1 w bb K KX) : J E w bb [(0, .ref (x0)), (1, .int (x1))] 0 [] := by
  unfold wX2_need_2_0 at hw
  refine j_aload_n hE 0 dX2_need_2_0 rfl rfl ?_
  refine j_iload_n hE 1 dX2_need_2_1 rfl rfl ?_
  obtain ⟨h2, hw⟩ := hw
  refine jc_ip (jr_V hE hR (As := [.int (x1)]) (rest := []) ((ctX2_isSign E.1.2.1 E.2.2.1 hc _ _ _ _ hw) E.2.2.2.1) (lw_V q924 q926 qs18 q122 q927) jdX2_isSign ⟨Nat.le_of_ble_eq_true rfl, Nat.le_of_ble_eq_true rfl⟩ ⟨Nat.zero_le _, Nat.zero_le _⟩ (gmc_gIs h2 (r := (RX2, TX2, 8)) rfl) rfl (Nat.le_of_ble_eq_true rfl) dX2_need_2_2) (fun r1 hw => ?_)
  refine j_b0 ?_
  refine j_if_ne hE 14 dX2_need_2_5 (by decide) (fun c3 => ?_) (fun c3 => ?_)
  · replace hw := hw.1 c3
    refine j_aload_n hE 0 dX2_need_2_14 rfl rfl ?_
    obtain ⟨h4, hw⟩ := hw
    refine jc_v (jr_V hE hR (As := []) (rest := []) ((ctX2_next E.1.2.1 E.2.2.1 hc _ _ _ hw) E.2.2.2.1) (lw_V q410 q412 qs2 q122 q413) jdX2_next ⟨Nat.le_of_ble_eq_true rfl, Nat.le_of_ble_eq_true rfl⟩ ⟨Nat.zero_le _, Nat.zero_le _⟩ (gmc_gIs h4 (r := (RX2, TX2, 8)) rfl) rfl (Nat.le_of_ble_eq_true rfl) dX2_need_2_15) (fun w5 hw => ?_)
    refine j_b0 ?_
    exact jx_vret hE hK dX2_need_2_18 hw
  · replace hw := hw.2 c3
    refine j_aload_n hE 0 dX2_need_2_8 rfl rfl ?_
    refine j_iconst hE dX2_need_2_9 kc_1 ?_
    obtain ⟨h7, hw⟩ := hw
    obtain ⟨cb8, h9, hw⟩ := hw
    refine jc_q (jr_V hE hR (As := [.int ((1 : Int32))]) (rest := []) ((ctX2_wrong E.1.2.1 E.2.2.1 hc _ _ _ _ _ hw) E.2.2.2.1) (lw_V q544 q546 qs5 q122 q547) jdX2_wrong ⟨Nat.le_of_ble_eq_true rfl, Nat.le_of_ble_eq_true rfl⟩ h9 (gmc_gIs h7 (r := (RX2, TX2, 8)) rfl) rfl (Nat.le_of_ble_eq_true rfl) dX2_need_2_10) (fun r6 w10 hw => ?_)
    refine j_nb (fun b11 e_b11 => ?_)
    replace hw := hw b11 e_b11
    obtain ⟨a12, e9, hx⟩ := hw
    subst e9
    have hw := hx
    clear hx
    obtain ⟨cc, fs, rr, h1, h2, hw⟩ := hw
    exact jx_throw hE h1 h2 dX2_need_2_13 (jx_out hE hK.2 hN hw)
theorem jdX2_need_2 : jD yX2_need_2 1 := by decide +kernel
abbrev wX2_need_2 := wX2_need_2_0
theorem ctX2_need_2 (l : Launch) (G : gG) {c : Nat → Option Nat} (hc : G.2.2.2 = c) (x0 : Nat) (x1 : Int32) (w : GW) (bb : Nat × Nat) (K : GW → Prop) (KX : String → Nat → GW → Prop) (hw : wX2_need_2_0 c x0 x1 w bb K KX) {F2 L2 : Nat} (h2 : 6 ≤ F2 ∧ 146 ≤ L2 := by exact ⟨Nat.le_refl _, Nat.le_refl _⟩) : CtXV l yX2_need_2 cX2_need_2 2 ({ frames := F2, cells := bb.1, slots := bb.2, locals := L2 }) G [.ref (x0), .int (x1)] w (K) KX :=
  CtXV.of RX2 plainc_X2 rfl (Nat.le_of_ble_eq_true rfl) (fun E hE hl hG hn hR hN hK => bX2_need_2_0 hE hn (hR.le h2.1 h2.2) (by rw [hG]; exact hc) hN hK hw)
def wX2_part_144 (c : Nat → Option Nat) (P : Nat → GW → Nat × Nat → (Option Nat → GW → Prop) → (String → Nat → GW → Prop) → Prop) (x0 : Nat) (x3 : Int32) (s0 : Option Nat) (w : GW) (bb : Nat × Nat) (K : Option Nat → GW → Prop) (KX : String → Nat → GW → Prop) : Prop :=
  (x3 = 0 → (∃ f2 : Int32, gfm w x0 [1] 6 = some (.int f2) ∧ (∃ (n4 : Nat) (fs5 : List Value), w x0 = some (true, .inr (n4, fs5)) ∧ n4 ∈ ([1] : List Nat) ∧ 6 < fs5.length ∧ (∀ w9 : GW, w9 = gup w x0 (.inr (n4, fs5.set 6 (.int (f2 - ((1 : Int32)))))) → (K s0 w9))))) ∧ (¬ x3 = 0 → (gmc w x0 = some 1 ∧ (∃ cb11 : Nat × Nat, (cb11.1 ≤ bb.1 ∧ cb11.2 ≤ bb.2) ∧ (wX2_need_2 c x0 (nI 41) w cb11 (fun w13 => ∀ b14 : Nat × Nat, b14 = (bb.1 - cb11.1, bb.2 - cb11.2) → (∃ f15 : Int32, gfm w13 x0 [1] 6 = some (.int f15) ∧ (∃ (n17 : Nat) (fs18 : List Value), w13 x0 = some (true, .inr (n17, fs18)) ∧ n17 ∈ ([1] : List Nat) ∧ 6 < fs18.length ∧ (∀ w22 : GW, w22 = gup w13 x0 (.inr (n17, fs18.set 6 (.int (f15 - ((1 : Int32)))))) → (K s0 w22))))) KX))))
set_option maxRecDepth 100000 in
theorem bX2_part_144 {E : jE} {FT LT : Nat} (hE : jOk E cX2_part RX2) (hn : E.2.2.2.2 = 5) (hR : jRoom E (FT + 5) (LT + 147)) {c : Nat → Option Nat} (hc : E.2.2.1.2.2.2 = c) (hN : jNoH E) {K : Option Nat → GW → Prop} {KX : String → Nat → GW → Prop} (hK : jXq E (.object "GlassStreet$Expression") (K) KX) {P : Nat → GW → Nat × Nat → (Option Nat → GW → Prop) → (String → Nat → GW → Prop) → Prop} {x0 : Nat} {x3 : Int32} {s0 : Option Nat} {w : GW} {bb : Nat × Nat} (hP : RecPt E.1.2.1 E.2.2.1 c FT LT P) (hF : 20 ≤ FT ∧ 600 ≤ LT) (hw : wX2_part_144 c P x0 x3 s0 w bb K KX) : J E w bb [(0, .ref (x0)), (3, .int (x3))] 144 [va_rf (s0)] := by
  unfold wX2_part_144 at hw
  refine j_astoreq (L' := [(4, va_rf (s0)), (0, .ref (x0)), (3, .int (x3))]) hE hn dX2_part_144 (Nat.le_of_ble_eq_true rfl) rfl ?_
  refine j_iload_n hE 2 dX2_part_146 rfl rfl ?_
  refine j_if_eq hE 156 dX2_part_147 (by decide) (fun c1 => ?_) (fun c1 => ?_)
  · replace hw := hw.1 c1
    refine j_aload_n hE 1 dX2_part_156 rfl rfl ?_
    refine j_dup hE dX2_part_157 rfl ?_
    obtain ⟨f2, h3, hw⟩ := hw
    refine j_getM hE gf_GlassStreet_Reader_within q184 h3 dX2_part_158 ?_
    refine j_iconst hE dX2_part_161 kc_1 ?_
    refine j_isub hE dX2_part_162 ?_
    obtain ⟨n4, fs5, h6, h7, h8, hw⟩ := hw
    refine j_putX hE h7 gw_GlassStreet_Reader_within_X2 q184 h6 rfl rfl h8 dX2_part_163 ?_
    refine j_nw (fun w9 e_w9 => ?_)
    replace hw := hw w9 e_w9
    refine j_aloadq hE 0 dX2_part_166 rfl ?_
    exact jx_qret hE hK (r := s0) dX2_part_168 (by first | exact Or.inl ⟨_, rfl⟩ | exact Or.inr ⟨_, rfl⟩) hw
  · replace hw := hw.2 c1
    refine j_aload_n hE 1 dX2_part_150 rfl rfl ?_
    refine j_bipush hE dX2_part_151 kb_41 ?_
    obtain ⟨h10, hw⟩ := hw
    obtain ⟨cb11, h12, hw⟩ := hw
    refine jcx_v (jrx_V hE hR (As := [.int (nI 41)]) (rest := []) ((ctX2_need_2 E.1.2.1 E.2.2.1 hc _ _ _ _ _ _ hw) E.2.2.2.1) (lw_V q1042 q1044 qs27 q122 q1045) jdX2_need_2 ⟨by (try dsimp only); omega, by (try dsimp only); omega⟩ h12 (gmc_gIs h10 (r := (RX2, TX2, 8)) rfl) rfl (Nat.le_of_ble_eq_true rfl) dX2_part_153) (fun E9 q9 u9 hx => jx_out hE hK.2 hN hx) (fun w13 hw => ?_)
    refine j_nb (fun b14 e_b14 => ?_)
    replace hw := hw b14 e_b14
    refine j_aload_n hE 1 dX2_part_156 rfl rfl ?_
    refine j_dup hE dX2_part_157 rfl ?_
    obtain ⟨f15, h16, hw⟩ := hw
    refine j_getM hE gf_GlassStreet_Reader_within q184 h16 dX2_part_158 ?_
    refine j_iconst hE dX2_part_161 kc_1 ?_
    refine j_isub hE dX2_part_162 ?_
    obtain ⟨n17, fs18, h19, h20, h21, hw⟩ := hw
    refine j_putX hE h20 gw_GlassStreet_Reader_within_X2 q184 h19 rfl rfl h21 dX2_part_163 ?_
    refine j_nw (fun w22 e_w22 => ?_)
    replace hw := hw w22 e_w22
    refine j_aloadq hE 0 dX2_part_166 rfl ?_
    exact jx_qret hE hK (r := s0) dX2_part_168 (by first | exact Or.inl ⟨_, rfl⟩ | exact Or.inr ⟨_, rfl⟩) hw
def wX2_part_57 (c : Nat → Option Nat) (P : Nat → GW → Nat × Nat → (Option Nat → GW → Prop) → (String → Nat → GW → Prop) → Prop) (x0 : Nat) (x1 : Int32) (x2 : Int32) (x3 : Int32) (w : GW) (bb : Nat × Nat) (K : Option Nat → GW → Prop) (KX : String → Nat → GW → Prop) : Prop :=
  ∃ f1 : Int32, gfm w x0 [1] 6 = some (.int f1) ∧ ((¬ f1 = (nI 5) → (∃ f4 : Int32, gfm w x0 [1] 3 = some (.int f4) ∧ ((¬ f4 = (nI 2) → (gmc w x0 = some 1 ∧ (wX2_next c x0 w (fun w8 => (x1 < 0 → (∃ f10 : Int32, gfm w8 x0 [1] 6 = some (.int f10) ∧ (∃ (n12 : Nat) (fs13 : List Value), w8 x0 = some (true, .inr (n12, fs13)) ∧ n12 ∈ ([1] : List Nat) ∧ 6 < fs13.length ∧ (∀ w17 : GW, w17 = gup w8 x0 (.inr (n12, fs13.set 6 (.int (f10 + ((1 : Int32)))))) → ((x2 = 0 → (gmc w17 x0 = some 1 ∧ (∃ cb21 : Nat × Nat, (cb21.1 ≤ bb.1 ∧ cb21.2 ≤ bb.2) ∧ (wX2_expression c P x0 w17 cb21 (fun r19 w23 => ∀ b24 : Nat × Nat, b24 = (bb.1 - cb21.1, bb.2 - cb21.2) → (wX2_part_144 c P x0 x3 r19 w23 b24 K KX)) KX)))) ∧ (¬ x2 = 0 → (1 ≤ bb.1 ∧ 1 ≤ bb.2 ∧ ∀ qa27 : Nat, w17 qa27 = none → (∀ w29 : GW, w29 = gup w17 qa27 (.inr (13, [va_rf none])) → (∀ b30 : Nat × Nat, b30 = (bb.1 - 1, bb.2 - 1) → (gmc w29 x0 = some 1 ∧ (∃ cb33 : Nat × Nat, (cb33.1 ≤ b30.1 ∧ cb33.2 ≤ b30.2) ∧ (P x0 w29 cb33 (fun r31 w35 => ∀ b36 : Nat × Nat, b36 = (b30.1 - cb33.1, b30.2 - cb33.2) → (∃ a37 : Nat, r31 = some a37 ∧ (wX15_init c qa27 a37 w35 (fun w38 => wX2_part_144 c P x0 x3 (some qa27) w38 b36 K KX)))) KX)))))))))))) ∧ (¬ x1 < 0 → (1 ≤ bb.1 ∧ 1 ≤ bb.2 ∧ ∀ qa41 : Nat, w8 qa41 = none → (∀ w43 : GW, w43 = gup w8 qa41 (.inr (12, [.int 0])) → (∀ b44 : Nat × Nat, b44 = (bb.1 - 1, bb.2 - 1) → (wX14_init c qa41 x1 w43 (fun w45 => K (some qa41) w45)))))))))) ∧ (f4 = (nI 2) → (1 ≤ bb.1 ∧ 1 ≤ bb.2 ∧ ∀ qa48 : Nat, w qa48 = none → (∀ w50 : GW, w50 = gup w qa48 (.inr (11, [.int 0])) → (∀ b51 : Nat × Nat, b51 = (bb.1 - 1, bb.2 - 1) → (gmc w50 x0 = some 1 ∧ (∃ cb54 : Nat × Nat, (cb54.1 ≤ b51.1 ∧ cb54.2 ≤ b51.2) ∧ (wX2_number_2 c x0 ((0 : Int32)) (nI 9999) w50 cb54 (fun r52 w56 => ∀ b57 : Nat × Nat, b57 = (b51.1 - cb54.1, b51.2 - cb54.2) → (wX13_init c qa48 r52 w56 (fun w58 => K (some qa48) w58))) KX)))))))))) ∧ (f1 = (nI 5) → (gmc w x0 = some 1 ∧ (∃ cb61 : Nat × Nat, (cb61.1 ≤ bb.1 ∧ cb61.2 ≤ bb.2) ∧ (wX2_wrong c x0 (nI 5) w cb61 (fun r59 w63 => ∀ b64 : Nat × Nat, b64 = (bb.1 - cb61.1, bb.2 - cb61.2) → (∃ a65 : Nat, r59 = some a65 ∧ (∃ (cc : Nat) (fs : List Value) (rr : vw_C), w63 a65 = some (true, .inr (cc, fs)) ∧ gCl[cc]? = some rr ∧ KX rr.1 a65 w63))))))))
set_option maxRecDepth 100000 in
theorem bX2_part_57 {E : jE} {FT LT : Nat} (hE : jOk E cX2_part RX2) (hn : E.2.2.2.2 = 5) (hR : jRoom E (FT + 5) (LT + 147)) {c : Nat → Option Nat} (hc : E.2.2.1.2.2.2 = c) (hN : jNoH E) {K : Option Nat → GW → Prop} {KX : String → Nat → GW → Prop} (hK : jXq E (.object "GlassStreet$Expression") (K) KX) {P : Nat → GW → Nat × Nat → (Option Nat → GW → Prop) → (String → Nat → GW → Prop) → Prop} {x0 : Nat} {x1 : Int32} {x2 : Int32} {x3 : Int32} {w : GW} {bb : Nat × Nat} (hP : RecPt E.1.2.1 E.2.2.1 c FT LT P) (hF : 20 ≤ FT ∧ 600 ≤ LT) (hw : wX2_part_57 c P x0 x1 x2 x3 w bb K KX) : J E w bb [(0, .ref (x0)), (1, .int (x1)), (2, .int (x2)), (3, .int (x3))] 57 [] := by
  unfold wX2_part_57 at hw
  refine j_aload_n hE 0 dX2_part_57 rfl rfl ?_
  obtain ⟨f1, h2, hw⟩ := hw
  refine j_getM hE gf_GlassStreet_Reader_within q184 h2 dX2_part_58 ?_
  refine j_iconst hE dX2_part_61 kc_5 ?_
  refine j_icmp_ne hE 71 dX2_part_62 (by decide) (fun c3 => ?_) (fun c3 => ?_)
  · replace hw := hw.1 c3
    refine j_aload_n hE 0 dX2_part_71 rfl rfl ?_
    obtain ⟨f4, h5, hw⟩ := hw
    refine j_getM hE gf_GlassStreet_Reader_kind q181 h5 dX2_part_72 ?_
    refine j_iconst hE dX2_part_75 kc_2 ?_
    refine j_icmp_ne hE 95 dX2_part_76 (by decide) (fun c6 => ?_) (fun c6 => ?_)
    · replace hw := hw.1 c6
      refine j_aload_n hE 0 dX2_part_95 rfl rfl ?_
      obtain ⟨h7, hw⟩ := hw
      refine jc_v (jr_V hE hR (As := []) (rest := []) ((ctX2_next E.1.2.1 E.2.2.1 hc _ _ _ hw) E.2.2.2.1) (lw_V q410 q412 qs2 q122 q413) jdX2_next ⟨by (try dsimp only); omega, by (try dsimp only); omega⟩ ⟨Nat.zero_le _, Nat.zero_le _⟩ (gmc_gIs h7 (r := (RX2, TX2, 8)) rfl) rfl (Nat.le_of_ble_eq_true rfl) dX2_part_96) (fun w8 hw => ?_)
      refine j_b0 ?_
      refine j_iload_n hE 1 dX2_part_99 rfl rfl ?_
      refine j_if_lt hE 112 dX2_part_100 (by decide) (fun c9 => ?_) (fun c9 => ?_)
      · replace hw := hw.1 c9
        refine j_aload_n hE 0 dX2_part_112 rfl rfl ?_
        refine j_dup hE dX2_part_113 rfl ?_
        obtain ⟨f10, h11, hw⟩ := hw
        refine j_getM hE gf_GlassStreet_Reader_within q184 h11 dX2_part_114 ?_
        refine j_iconst hE dX2_part_117 kc_1 ?_
        refine j_iadd hE dX2_part_118 ?_
        obtain ⟨n12, fs13, h14, h15, h16, hw⟩ := hw
        refine j_putX hE h15 gw_GlassStreet_Reader_within_X2 q184 h14 rfl rfl h16 dX2_part_119 ?_
        refine j_nw (fun w17 e_w17 => ?_)
        replace hw := hw w17 e_w17
        refine j_iload_n hE 2 dX2_part_122 rfl rfl ?_
        refine j_if_eq hE 140 dX2_part_123 (by decide) (fun c18 => ?_) (fun c18 => ?_)
        · replace hw := hw.1 c18
          refine j_aload_n hE 0 dX2_part_140 rfl rfl ?_
          obtain ⟨h20, hw⟩ := hw
          obtain ⟨cb21, h22, hw⟩ := hw
          refine jcx_q (jrx_V hE hR (As := []) (rest := []) ((ctX2_expression E.1.2.1 E.2.2.1 hc hP hF _ _ _ _ _ hw) E.2.2.2.1) (lw_V q987 q989 qs22 q122 q990) jdX2_expression ⟨by (try dsimp only); omega, by (try dsimp only); omega⟩ h22 (gmc_gIs h20 (r := (RX2, TX2, 8)) rfl) rfl (Nat.le_of_ble_eq_true rfl) dX2_part_141) (fun E9 q9 u9 hx => jx_out hE hK.2 hN hx) (fun r19 w23 hw => ?_)
          refine j_nb (fun b24 e_b24 => ?_)
          replace hw := hw b24 e_b24
          refine j_sub [(0, .ref (x0)), (3, .int (x3))] [0, 3] rfl ?_
          have hz := bX2_part_144 hE hn hR hc hN hK hP hF  hw
          exact hz
        · replace hw := hw.2 c18
          obtain ⟨h25, h26, hw⟩ := hw
          refine j_new (c := 13) (fs := [va_rf none]) hE gok_13 q1032 q1033 q153 dfl_13 ⟨h25, h26⟩ dX2_part_126 (fun qa27 h28 => ?_)
          replace hw := hw qa27 h28
          refine j_nw (fun w29 e_w29 => ?_)
          replace hw := hw w29 e_w29
          refine j_nb (fun b30 e_b30 => ?_)
          replace hw := hw b30 e_b30
          refine j_dup hE dX2_part_129 rfl ?_
          refine j_aload_n hE 0 dX2_part_130 rfl rfl ?_
          obtain ⟨h32, hw⟩ := hw
          obtain ⟨cb33, h34, hw⟩ := hw
          refine jcx_q (jrx_V hE hR (As := []) (rest := [.ref (qa27), .ref (qa27)]) ((hP _ _ _ _ _ hw) E.2.2.2.1) (lw_V q1003 q1005 qs26 q122 q1006) jdX2_part ⟨by (try dsimp only); omega, by (try dsimp only); omega⟩ h34 (gmc_gIs h32 (r := (RX2, TX2, 8)) rfl) rfl (Nat.le_of_ble_eq_true rfl) dX2_part_131) (fun E9 q9 u9 hx => jx_out hE hK.2 hN hx) (fun r31 w35 hw => ?_)
          refine j_nb (fun b36 e_b36 => ?_)
          replace hw := hw b36 e_b36
          obtain ⟨a37, e9, hx⟩ := hw
          subst e9
          have hw := hx
          clear hx
          refine jc_v (jr_I hE hR (As := [.ref (a37)]) (rest := [.ref (qa27)]) ((ctX15_init E.1.2.1 E.2.2.1 hc _ _ _ _ hw) E.2.2.2.1) (lw_meth q1036) q153 q1034 q1035 rfl jdX15_init ⟨by (try dsimp only); omega, by (try dsimp only); omega⟩ ⟨Nat.zero_le _, Nat.zero_le _⟩  rfl (Nat.le_of_ble_eq_true rfl) dX2_part_134) (fun w38 hw => ?_)
          refine j_b0 ?_
          refine j_goto hE 144 dX2_part_137 (by decide) ?_
          refine j_sub [(0, .ref (x0)), (3, .int (x3))] [0, 3] rfl ?_
          have hz := bX2_part_144 hE hn hR hc hN hK hP hF  hw
          exact hz
      · replace hw := hw.2 c9
        obtain ⟨h39, h40, hw⟩ := hw
        refine j_new (c := 12) (fs := [.int 0]) hE gok_12 q1022 q1023 q152 dfl_12 ⟨h39, h40⟩ dX2_part_103 (fun qa41 h42 => ?_)
        replace hw := hw qa41 h42
        refine j_nw (fun w43 e_w43 => ?_)
        replace hw := hw w43 e_w43
        refine j_nb (fun b44 e_b44 => ?_)
        replace hw := hw b44 e_b44
        refine j_dup hE dX2_part_106 rfl ?_
        refine j_iload_n hE 1 dX2_part_107 rfl rfl ?_
        refine jc_v (jr_I hE hR (As := [.int (x1)]) (rest := [.ref (qa41)]) ((ctX14_init E.1.2.1 E.2.2.1 hc _ _ _ _ hw) E.2.2.2.1) (lw_meth q1026) q152 q1024 q1025 rfl jdX14_init ⟨by (try dsimp only); omega, by (try dsimp only); omega⟩ ⟨Nat.zero_le _, Nat.zero_le _⟩  rfl (Nat.le_of_ble_eq_true rfl) dX2_part_108) (fun w45 hw => ?_)
        refine j_b0 ?_
        exact jx_qret hE hK (r := some qa41) dX2_part_111 (by first | exact Or.inl ⟨_, rfl⟩ | exact Or.inr ⟨_, rfl⟩) hw
    · replace hw := hw.2 c6
      obtain ⟨h46, h47, hw⟩ := hw
      refine j_new (c := 11) (fs := [.int 0]) hE gok_11 q1009 q1010 q151 dfl_11 ⟨h46, h47⟩ dX2_part_79 (fun qa48 h49 => ?_)
      replace hw := hw qa48 h49
      refine j_nw (fun w50 e_w50 => ?_)
      replace hw := hw w50 e_w50
      refine j_nb (fun b51 e_b51 => ?_)
      replace hw := hw b51 e_b51
      refine j_dup hE dX2_part_82 rfl ?_
      refine j_aload_n hE 0 dX2_part_83 rfl rfl ?_
      refine j_iconst hE dX2_part_84 kc_0 ?_
      refine j_sipush hE dX2_part_85 ks_9999 ?_
      obtain ⟨h53, hw⟩ := hw
      obtain ⟨cb54, h55, hw⟩ := hw
      refine jcx_i (jrx_V hE hR (As := [.int ((0 : Int32)), .int (nI 9999)]) (rest := [.ref (qa48), .ref (qa48)]) ((ctX2_number_2 E.1.2.1 E.2.2.1 hc _ _ _ _ _ _ _ hw) E.2.2.2.1) (lw_V q909 q911 qs16 q122 q912) jdX2_number_2 ⟨by (try dsimp only); omega, by (try dsimp only); omega⟩ h55 (gmc_gIs h53 (r := (RX2, TX2, 8)) rfl) rfl (Nat.le_of_ble_eq_true rfl) dX2_part_88) (fun E9 q9 u9 hx => jx_out hE hK.2 hN hx) (fun r52 w56 hw => ?_)
      refine j_nb (fun b57 e_b57 => ?_)
      replace hw := hw b57 e_b57
      refine jc_v (jr_I hE hR (As := [.int (r52)]) (rest := [.ref (qa48)]) ((ctX13_init E.1.2.1 E.2.2.1 hc _ _ _ _ hw) E.2.2.2.1) (lw_meth q1013) q151 q1011 q1012 rfl jdX13_init ⟨by (try dsimp only); omega, by (try dsimp only); omega⟩ ⟨Nat.zero_le _, Nat.zero_le _⟩  rfl (Nat.le_of_ble_eq_true rfl) dX2_part_91) (fun w58 hw => ?_)
      refine j_b0 ?_
      exact jx_qret hE hK (r := some qa48) dX2_part_94 (by first | exact Or.inl ⟨_, rfl⟩ | exact Or.inr ⟨_, rfl⟩) hw
  · replace hw := hw.2 c3
    refine j_aload_n hE 0 dX2_part_65 rfl rfl ?_
    refine j_iconst hE dX2_part_66 kc_5 ?_
    obtain ⟨h60, hw⟩ := hw
    obtain ⟨cb61, h62, hw⟩ := hw
    refine jc_q (jr_V hE hR (As := [.int (nI 5)]) (rest := []) ((ctX2_wrong E.1.2.1 E.2.2.1 hc _ _ _ _ _ hw) E.2.2.2.1) (lw_V q544 q546 qs5 q122 q547) jdX2_wrong ⟨by (try dsimp only); omega, by (try dsimp only); omega⟩ h62 (gmc_gIs h60 (r := (RX2, TX2, 8)) rfl) rfl (Nat.le_of_ble_eq_true rfl) dX2_part_67) (fun r59 w63 hw => ?_)
    refine j_nb (fun b64 e_b64 => ?_)
    replace hw := hw b64 e_b64
    obtain ⟨a65, e9, hx⟩ := hw
    subst e9
    have hw := hx
    clear hx
    obtain ⟨cc, fs, rr, h1, h2, hw⟩ := hw
    exact jx_throw hE h1 h2 dX2_part_70 (jx_out hE hK.2 hN hw)
def wX2_part_23 (c : Nat → Option Nat) (P : Nat → GW → Nat × Nat → (Option Nat → GW → Prop) → (String → Nat → GW → Prop) → Prop) (x0 : Nat) (x1 : Int32) (s0 : Int32) (w : GW) (bb : Nat × Nat) (K : Option Nat → GW → Prop) (KX : String → Nat → GW → Prop) : Prop :=
  gmc w x0 = some 1 ∧ (wX2_isSign c x0 (nI 40) w (fun r1 => (0 ≤ x1 → (wX2_part_57 c P x0 x1 s0 r1 w bb K KX)) ∧ (¬ 0 ≤ x1 → ((¬ s0 = 0 → (wX2_part_57 c P x0 x1 s0 r1 w bb K KX)) ∧ (s0 = 0 → ((¬ r1 = 0 → (wX2_part_57 c P x0 x1 s0 r1 w bb K KX)) ∧ (r1 = 0 → (∃ f6 : Int32, gfm w x0 [1] 3 = some (.int f6) ∧ ((f6 = (nI 2) → (wX2_part_57 c P x0 x1 s0 r1 w bb K KX)) ∧ (¬ f6 = (nI 2) → (gmc w x0 = some 1 ∧ (∃ cb11 : Nat × Nat, (cb11.1 ≤ bb.1 ∧ cb11.2 ≤ bb.2) ∧ (wX2_wrong c x0 ((1 : Int32)) w cb11 (fun r9 w13 => ∀ b14 : Nat × Nat, b14 = (bb.1 - cb11.1, bb.2 - cb11.2) → (∃ a15 : Nat, r9 = some a15 ∧ (∃ (cc : Nat) (fs : List Value) (rr : vw_C), w13 a15 = some (true, .inr (cc, fs)) ∧ gCl[cc]? = some rr ∧ KX rr.1 a15 w13))))))))))))))))
set_option maxRecDepth 100000 in
theorem bX2_part_23 {E : jE} {FT LT : Nat} (hE : jOk E cX2_part RX2) (hn : E.2.2.2.2 = 5) (hR : jRoom E (FT + 5) (LT + 147)) {c : Nat → Option Nat} (hc : E.2.2.1.2.2.2 = c) (hN : jNoH E) {K : Option Nat → GW → Prop} {KX : String → Nat → GW → Prop} (hK : jXq E (.object "GlassStreet$Expression") (K) KX) {P : Nat → GW → Nat × Nat → (Option Nat → GW → Prop) → (String → Nat → GW → Prop) → Prop} {x0 : Nat} {x1 : Int32} {s0 : Int32} {w : GW} {bb : Nat × Nat} (hP : RecPt E.1.2.1 E.2.2.1 c FT LT P) (hF : 20 ≤ FT ∧ 600 ≤ LT) (hw : wX2_part_23 c P x0 x1 s0 w bb K KX) : J E w bb [(0, .ref (x0)), (1, .int (x1))] 23 [.int (s0)] := by
  unfold wX2_part_23 at hw
  refine j_istore_n (L' := [(2, .int (s0)), (0, .ref (x0)), (1, .int (x1))]) hE hn dX2_part_23 rfl (Nat.le_of_ble_eq_true rfl) rfl ?_
  refine j_aload_n hE 1 dX2_part_24 rfl rfl ?_
  refine j_bipush hE dX2_part_25 kb_40 ?_
  obtain ⟨h2, hw⟩ := hw
  refine jc_ip (jr_V hE hR (As := [.int (nI 40)]) (rest := []) ((ctX2_isSign E.1.2.1 E.2.2.1 hc _ _ _ _ hw) E.2.2.2.1) (lw_V q924 q926 qs18 q122 q927) jdX2_isSign ⟨by (try dsimp only); omega, by (try dsimp only); omega⟩ ⟨Nat.zero_le _, Nat.zero_le _⟩ (gmc_gIs h2 (r := (RX2, TX2, 8)) rfl) rfl (Nat.le_of_ble_eq_true rfl) dX2_part_27) (fun r1 hw => ?_)
  refine j_b0 ?_
  refine j_istore_n (L' := [(3, .int (r1)), (2, .int (s0)), (0, .ref (x0)), (1, .int (x1))]) hE hn dX2_part_30 rfl (Nat.le_of_ble_eq_true rfl) rfl ?_
  refine j_iload_n hE 3 dX2_part_31 rfl rfl ?_
  refine j_if_ge hE 57 dX2_part_32 (by decide) (fun c3 => ?_) (fun c3 => ?_)
  · replace hw := hw.1 c3
    refine j_sub [(0, .ref (x0)), (1, .int (x1)), (2, .int (s0)), (3, .int (r1))] [2, 3, 1, 0] rfl ?_
    have hz := bX2_part_57 hE hn hR hc hN hK hP hF  hw
    exact hz
  · replace hw := hw.2 c3
    refine j_iload_n hE 1 dX2_part_35 rfl rfl ?_
    refine j_if_ne hE 57 dX2_part_36 (by decide) (fun c4 => ?_) (fun c4 => ?_)
    · replace hw := hw.1 c4
      refine j_sub [(0, .ref (x0)), (1, .int (x1)), (2, .int (s0)), (3, .int (r1))] [2, 3, 1, 0] rfl ?_
      have hz := bX2_part_57 hE hn hR hc hN hK hP hF  hw
      exact hz
    · replace hw := hw.2 c4
      refine j_iload_n hE 0 dX2_part_39 rfl rfl ?_
      refine j_if_ne hE 57 dX2_part_40 (by decide) (fun c5 => ?_) (fun c5 => ?_)
      · replace hw := hw.1 c5
        refine j_sub [(0, .ref (x0)), (1, .int (x1)), (2, .int (s0)), (3, .int (r1))] [2, 3, 1, 0] rfl ?_
        have hz := bX2_part_57 hE hn hR hc hN hK hP hF  hw
        exact hz
      · replace hw := hw.2 c5
        refine j_aload_n hE 2 dX2_part_43 rfl rfl ?_
        obtain ⟨f6, h7, hw⟩ := hw
        refine j_getM hE gf_GlassStreet_Reader_kind q181 h7 dX2_part_44 ?_
        refine j_iconst hE dX2_part_47 kc_2 ?_
        refine j_icmp_eq hE 57 dX2_part_48 (by decide) (fun c8 => ?_) (fun c8 => ?_)
        · replace hw := hw.1 c8
          refine j_sub [(0, .ref (x0)), (1, .int (x1)), (2, .int (s0)), (3, .int (r1))] [2, 3, 1, 0] rfl ?_
          have hz := bX2_part_57 hE hn hR hc hN hK hP hF  hw
          exact hz
        · replace hw := hw.2 c8
          refine j_aload_n hE 2 dX2_part_51 rfl rfl ?_
          refine j_iconst hE dX2_part_52 kc_1 ?_
          obtain ⟨h10, hw⟩ := hw
          obtain ⟨cb11, h12, hw⟩ := hw
          refine jc_q (jr_V hE hR (As := [.int ((1 : Int32))]) (rest := []) ((ctX2_wrong E.1.2.1 E.2.2.1 hc _ _ _ _ _ hw) E.2.2.2.1) (lw_V q544 q546 qs5 q122 q547) jdX2_wrong ⟨by (try dsimp only); omega, by (try dsimp only); omega⟩ h12 (gmc_gIs h10 (r := (RX2, TX2, 8)) rfl) rfl (Nat.le_of_ble_eq_true rfl) dX2_part_53) (fun r9 w13 hw => ?_)
          refine j_nb (fun b14 e_b14 => ?_)
          replace hw := hw b14 e_b14
          obtain ⟨a15, e9, hx⟩ := hw
          subst e9
          have hw := hx
          clear hx
          obtain ⟨cc, fs, rr, h1, h2, hw⟩ := hw
          exact jx_throw hE h1 h2 dX2_part_56 (jx_out hE hK.2 hN hw)
def wX2_part_0 (c : Nat → Option Nat) (P : Nat → GW → Nat × Nat → (Option Nat → GW → Prop) → (String → Nat → GW → Prop) → Prop) (x0 : Nat) (w : GW) (bb : Nat × Nat) (K : Option Nat → GW → Prop) (KX : String → Nat → GW → Prop) : Prop :=
  ∀ r1 : Option Nat, r1 = c 8 → (∃ a2 : Nat, r1 = some a2 ∧ (gmc w x0 = some 1 ∧ (wX2_which c x0 a2 w (fun r3 => ∀ r5 : Option Nat, r5 = c 9 → (∃ a6 : Nat, r5 = some a6 ∧ (gmc w x0 = some 1 ∧ (wX2_which c x0 a6 w (fun r7 => (r7 < 0 → (wX2_part_23 c P x0 r3 ((0 : Int32)) w bb K KX)) ∧ (¬ r7 < 0 → (wX2_part_23 c P x0 r3 ((1 : Int32)) w bb K KX))))))))))
set_option maxRecDepth 100000 in
theorem bX2_part_0 {E : jE} {FT LT : Nat} (hE : jOk E cX2_part RX2) (hn : E.2.2.2.2 = 5) (hR : jRoom E (FT + 5) (LT + 147)) {c : Nat → Option Nat} (hc : E.2.2.1.2.2.2 = c) (hN : jNoH E) {K : Option Nat → GW → Prop} {KX : String → Nat → GW → Prop} (hK : jXq E (.object "GlassStreet$Expression") (K) KX) {P : Nat → GW → Nat × Nat → (Option Nat → GW → Prop) → (String → Nat → GW → Prop) → Prop} {x0 : Nat} {w : GW} {bb : Nat × Nat} (hP : RecPt E.1.2.1 E.2.2.1 c FT LT P) (hF : 20 ≤ FT ∧ 600 ≤ LT) (hw : wX2_part_0 c P x0 w bb K KX) : J E w bb [(0, .ref (x0))] 0 [] := by
  unfold wX2_part_0 at hw
  refine j_aload_n hE 0 dX2_part_0 rfl rfl ?_
  obtain ⟨r1, e_r1⟩ : ∃ r9 : Option Nat, r9 = c 8 := ⟨_, rfl⟩
  replace hw := hw r1 e_r1
  refine j_ldcwS hE 8 (by decide) rfl hc e_r1 dX2_part_1 ?_
  obtain ⟨a2, e9, hx⟩ := hw
  subst e9
  have hw := hx
  clear hx
  obtain ⟨h4, hw⟩ := hw
  refine jc_ip (jr_V hE hR (As := [.ref (a2)]) (rest := []) ((ctX2_which E.1.2.1 E.2.2.1 hc _ _ _ _ hw) E.2.2.2.1) (lw_V q518 q520 qs4 q122 q521) jdX2_which ⟨by (try dsimp only); omega, by (try dsimp only); omega⟩ ⟨Nat.zero_le _, Nat.zero_le _⟩ (gmc_gIs h4 (r := (RX2, TX2, 8)) rfl) rfl (Nat.le_of_ble_eq_true rfl) dX2_part_4) (fun r3 hw => ?_)
  refine j_b0 ?_
  refine j_istore_n (L' := [(1, .int (r3)), (0, .ref (x0))]) hE hn dX2_part_7 rfl (Nat.le_of_ble_eq_true rfl) rfl ?_
  refine j_aload_n hE 1 dX2_part_8 rfl rfl ?_
  obtain ⟨r5, e_r5⟩ : ∃ r9 : Option Nat, r9 = c 9 := ⟨_, rfl⟩
  replace hw := hw r5 e_r5
  refine j_ldcwS hE 9 (by decide) rfl hc e_r5 dX2_part_9 ?_
  obtain ⟨a6, e9, hx⟩ := hw
  subst e9
  have hw := hx
  clear hx
  obtain ⟨h8, hw⟩ := hw
  refine jc_ip (jr_V hE hR (As := [.ref (a6)]) (rest := []) ((ctX2_which E.1.2.1 E.2.2.1 hc _ _ _ _ hw) E.2.2.2.1) (lw_V q518 q520 qs4 q122 q521) jdX2_which ⟨by (try dsimp only); omega, by (try dsimp only); omega⟩ ⟨Nat.zero_le _, Nat.zero_le _⟩ (gmc_gIs h8 (r := (RX2, TX2, 8)) rfl) rfl (Nat.le_of_ble_eq_true rfl) dX2_part_12) (fun r7 hw => ?_)
  refine j_b0 ?_
  refine j_if_lt hE 22 dX2_part_15 (by decide) (fun c9 => ?_) (fun c9 => ?_)
  · replace hw := hw.1 c9
    refine j_iconst hE dX2_part_22 kc_0 ?_
    refine j_sub [(0, .ref (x0)), (1, .int (r3))] [1, 0] rfl ?_
    have hz := bX2_part_23 hE hn hR hc hN hK hP hF  hw
    exact hz
  · replace hw := hw.2 c9
    refine j_iconst hE dX2_part_18 kc_1 ?_
    refine j_goto hE 23 dX2_part_19 (by decide) ?_
    refine j_sub [(0, .ref (x0)), (1, .int (r3))] [1, 0] rfl ?_
    have hz := bX2_part_23 hE hn hR hc hN hK hP hF  hw
    exact hz
theorem ctX2_part (l : Launch) (G : gG) {c : Nat → Option Nat} (hc : G.2.2.2 = c) {FT LT : Nat} {P : Nat → GW → Nat × Nat → (Option Nat → GW → Prop) → (String → Nat → GW → Prop) → Prop} (hP : RecPt l G c FT LT P) (hF : 20 ≤ FT ∧ 600 ≤ LT) (x0 : Nat) (w : GW) (bb : Nat × Nat) (K : Option Nat → GW → Prop) (KX : String → Nat → GW → Prop) (hw : wX2_part_0 c P x0 w bb K KX) {F2 L2 : Nat} (h2 : FT + 5 ≤ F2 ∧ LT + 147 ≤ L2 := by exact ⟨Nat.le_refl _, Nat.le_refl _⟩) : CtXQ l yX2_part cX2_part 5 (.object "GlassStreet$Expression") ({ frames := F2, cells := bb.1, slots := bb.2, locals := L2 }) G [.ref (x0)] w (K) KX :=
  CtXQ.of RX2 plainc_X2 rfl (Nat.le_of_ble_eq_true rfl) (fun E hE hl hG hn hR hN hK => bX2_part_0 hE hn (hR.le h2.1 h2.2) (by rw [hG]; exact hc) hN hK (by rw [hl, hG]; exact hP) hF hw)
def wX2_part (c : Nat → Option Nat) : Nat → Nat → GW → Nat × Nat → (Option Nat → GW → Prop) → (String → Nat → GW → Prop) → Prop
  | 0 => fun _ _ _ _ _ => False
  | n + 1 => fun a w bb K KX => wX2_part_0 c (wX2_part c n) a w bb K KX
theorem recPt (l : Launch) (G : gG) {c : Nat → Option Nat} (hc : G.2.2.2 = c) (n : Nat) : RecPt l G c (20 + 6 * n) (600 + 300 * n) (wX2_part c n) := by
  induction n with
  | zero => exact fun _ _ _ _ _ h => h.elim
  | succ n ih => exact fun a w bb K KX h => ctX2_part l G hc ih ⟨by omega, by omega⟩ a w bb K KX h ⟨by omega, by omega⟩
def wX2_line_133_b (c : Nat → Option Nat) (x0 : Nat) (w : GW) (bb : Nat × Nat) (KL133 : GW × (Nat × Nat) → Prop) (K : GW → Prop) (KX : String → Nat → GW → Prop) : Prop :=
  gmc w x0 = some 1 ∧ (∃ cb3 : Nat × Nat, (cb3.1 ≤ bb.1 ∧ cb3.2 ≤ bb.2) ∧ (wX2_ahead c x0 ((0 : Int32)) ((1 : Int32)) w cb3 (fun r1 w5 => ∀ b6 : Nat × Nat, b6 = (bb.1 - cb3.1, bb.2 - cb3.2) → (∃ f7 : Option Nat, gfm w5 x0 [1] 7 = some (va_rf f7) ∧ (∃ a9 : Nat, f7 = some a9 ∧ (∃ f10 : Int32, gfm w5 a9 [2] 6 = some (.int f10) ∧ ((¬ f10 = (nI 12) → (gmc w5 x0 = some 1 ∧ (wX2_next c x0 w5 (fun w14 => ∃ f15 : Option Nat, gfm w14 x0 [1] 7 = some (va_rf f15) ∧ (∃ a17 : Nat, f15 = some a17 ∧ (∃ f18 : Option Nat, gfm w14 a17 [2] 5 = some (va_rf f18) ∧ (∃ f20 : Option Nat, gfm w14 x0 [1] 7 = some (va_rf f20) ∧ (∃ a22 : Nat, f20 = some a22 ∧ (∃ f23 : Int32, gfm w14 a22 [2] 6 = some (.int f23) ∧ (∃ (n25 : Nat) (fs26 : List Value), w14 a22 = some (true, .inr (n25, fs26)) ∧ n25 ∈ ([2] : List Nat) ∧ 6 < fs26.length ∧ (∀ w30 : GW, w30 = gup w14 a22 (.inr (n25, fs26.set 6 (.int (f23 + ((1 : Int32)))))) → (∃ a31 : Nat, f18 = some a31 ∧ (∃ (n32 : Nat) (f33 : Nat → Int32), w30 a31 = some (true, .inl (0, n32, .inl f33)) ∧ vp_in f23 n32 ∧ (∀ w36 : GW, w36 = gup w30 a31 (.inl (0, n32, .inl (upd f33 (f23).toNatClampNeg r1))) → (gmc w36 x0 = some 1 ∧ (wX2_isSign c x0 (nI 59) w36 (fun r37 => (r37 = 0 → (KL133 (w36, b6))) ∧ (¬ r37 = 0 → (K w36))))))))))))))))))) ∧ (f10 = (nI 12) → (gmc w5 x0 = some 1 ∧ (∃ cb42 : Nat × Nat, (cb42.1 ≤ b6.1 ∧ cb42.2 ≤ b6.2) ∧ (wX2_wrong c x0 (nI 5) w5 cb42 (fun r40 w44 => ∀ b45 : Nat × Nat, b45 = (b6.1 - cb42.1, b6.2 - cb42.2) → (∃ a46 : Nat, r40 = some a46 ∧ (∃ (cc : Nat) (fs : List Value) (rr : vw_C), w44 a46 = some (true, .inr (cc, fs)) ∧ gCl[cc]? = some rr ∧ KX rr.1 a46 w44)))))))))))) KX))
def wX2_line_133 (c : Nat → Option Nat) (x0 : Nat) (w : GW) (bb : Nat × Nat) (K : GW → Prop) (KX : String → Nat → GW → Prop) : Prop := lfp (σ := GW × (Nat × Nat)) (fun KL s => wX2_line_133_b c x0 s.1 s.2 KL K KX) (w, bb)
set_option maxRecDepth 100000 in
theorem bX2_line_133 {E : jE} (hE : jOk E cX2_line RX2) (hn : E.2.2.2.2 = 3) (hR : jRoom E 73 3147) {c : Nat → Option Nat} (hc : E.2.2.1.2.2.2 = c) (hN : jNoH E) {K : GW → Prop} {KX : String → Nat → GW → Prop} (hK : jXv E K KX) {x0 : Nat} {w : GW} {bb : Nat × Nat}  (hw : wX2_line_133 c x0 w bb K KX) : J E w bb [(0, .ref (x0))] 133 [] := by
  refine lfp_sound (σ := GW × (Nat × Nat)) (F := fun KL s => wX2_line_133_b c x0 s.1 s.2 KL K KX) (P := fun s => J E (s.1) (s.2) [(0, .ref (x0))] 133 []) ?_ hw
  clear hw
  rintro KL133 ⟨w, bb⟩ hw ih133
  have hw : wX2_line_133_b c x0 w bb KL133 K KX := hw
  unfold wX2_line_133_b at hw
  refine j_aload_n hE 0 dX2_line_133 rfl rfl ?_
  refine j_iconst hE dX2_line_134 kc_0 ?_
  refine j_iconst hE dX2_line_135 kc_1 ?_
  obtain ⟨h2, hw⟩ := hw
  obtain ⟨cb3, h4, hw⟩ := hw
  refine jcx_i (jrx_V hE hR (As := [.int ((0 : Int32)), .int ((1 : Int32))]) (rest := []) ((ctX2_ahead E.1.2.1 E.2.2.1 hc _ _ _ _ _ _ _ hw) E.2.2.2.1) (lw_V q914 q916 qs17 q122 q917) jdX2_ahead ⟨Nat.le_of_ble_eq_true rfl, Nat.le_of_ble_eq_true rfl⟩ h4 (gmc_gIs h2 (r := (RX2, TX2, 8)) rfl) rfl (Nat.le_of_ble_eq_true rfl) dX2_line_136) (fun E9 q9 u9 hx => jx_out hE hK.2 hN hx) (fun r1 w5 hw => ?_)
  refine j_nb (fun b6 e_b6 => ?_)
  replace hw := hw b6 e_b6
  refine j_istore_n (L' := [(2, .int (r1)), (0, .ref (x0))]) hE hn dX2_line_139 rfl (Nat.le_of_ble_eq_true rfl) rfl ?_
  refine j_aload_n hE 1 dX2_line_140 rfl rfl ?_
  obtain ⟨f7, h8, hw⟩ := hw
  refine j_getM hE gf_GlassStreet_Reader_houses q185 h8 dX2_line_141 ?_
  obtain ⟨a9, e9, hx⟩ := hw
  subst e9
  have hw := hx
  clear hx
  obtain ⟨f10, h11, hw⟩ := hw
  refine j_getMN hE gf_GlassStreet_Houses_many q256 h11 dX2_line_144 ?_
  refine j_bipush hE dX2_line_147 kb_12 ?_
  refine j_icmp_ne hE 158 dX2_line_149 (by decide) (fun c12 => ?_) (fun c12 => ?_)
  · replace hw := hw.1 c12
    refine j_aload_n hE 1 dX2_line_158 rfl rfl ?_
    obtain ⟨h13, hw⟩ := hw
    refine jc_v (jr_V hE hR (As := []) (rest := []) ((ctX2_next E.1.2.1 E.2.2.1 hc _ _ _ hw) E.2.2.2.1) (lw_V q410 q412 qs2 q122 q413) jdX2_next ⟨Nat.le_of_ble_eq_true rfl, Nat.le_of_ble_eq_true rfl⟩ ⟨Nat.zero_le _, Nat.zero_le _⟩ (gmc_gIs h13 (r := (RX2, TX2, 8)) rfl) rfl (Nat.le_of_ble_eq_true rfl) dX2_line_159) (fun w14 hw => ?_)
    refine j_b0 ?_
    refine j_aload_n hE 1 dX2_line_162 rfl rfl ?_
    obtain ⟨f15, h16, hw⟩ := hw
    refine j_getM hE gf_GlassStreet_Reader_houses q185 h16 dX2_line_163 ?_
    obtain ⟨a17, e9, hx⟩ := hw
    subst e9
    have hw := hx
    clear hx
    obtain ⟨f18, h19, hw⟩ := hw
    refine j_getMN hE gf_GlassStreet_Houses_light q254 h19 dX2_line_166 ?_
    refine j_aload_n hE 1 dX2_line_169 rfl rfl ?_
    obtain ⟨f20, h21, hw⟩ := hw
    refine j_getM hE gf_GlassStreet_Reader_houses q185 h21 dX2_line_170 ?_
    refine j_dup hE dX2_line_173 (va_rf_cat _) ?_
    obtain ⟨a22, e9, hx⟩ := hw
    subst e9
    have hw := hx
    clear hx
    obtain ⟨f23, h24, hw⟩ := hw
    refine j_getMN hE gf_GlassStreet_Houses_many q256 h24 dX2_line_174 ?_
    refine j_dup_x1 hE dX2_line_177 rfl rfl ?_
    refine j_iconst hE dX2_line_178 kc_1 ?_
    refine j_iadd hE dX2_line_179 ?_
    obtain ⟨n25, fs26, h27, h28, h29, hw⟩ := hw
    refine j_putXN hE h28 gw_GlassStreet_Houses_many_X2 q256 h27 rfl rfl h29 dX2_line_180 ?_
    refine j_nw (fun w30 e_w30 => ?_)
    replace hw := hw w30 e_w30
    refine j_iload_n hE 0 dX2_line_183 rfl rfl ?_
    obtain ⟨a31, e9, hx⟩ := hw
    subst e9
    have hw := hx
    clear hx
    obtain ⟨n32, f33, h34, h35, hw⟩ := hw
    refine j_iast hE h34 h35 dX2_line_184 ?_
    refine j_nw (fun w36 e_w36 => ?_)
    replace hw := hw w36 e_w36
    refine j_aload_n hE 1 dX2_line_185 rfl rfl ?_
    refine j_bipush hE dX2_line_186 kb_59 ?_
    obtain ⟨h38, hw⟩ := hw
    refine jc_ip (jr_V hE hR (As := [.int (nI 59)]) (rest := []) ((ctX2_isSign E.1.2.1 E.2.2.1 hc _ _ _ _ hw) E.2.2.2.1) (lw_V q924 q926 qs18 q122 q927) jdX2_isSign ⟨Nat.le_of_ble_eq_true rfl, Nat.le_of_ble_eq_true rfl⟩ ⟨Nat.zero_le _, Nat.zero_le _⟩ (gmc_gIs h38 (r := (RX2, TX2, 8)) rfl) rfl (Nat.le_of_ble_eq_true rfl) dX2_line_188) (fun r37 hw => ?_)
    refine j_b0 ?_
    refine j_if_eq hE 133 dX2_line_191 (by decide) (fun c39 => ?_) (fun c39 => ?_)
    · replace hw := hw.1 c39
      refine j_sub [(0, .ref (x0))] [1] rfl ?_
      have hz := ih133 (w36, b6) hw
      exact hz
    · replace hw := hw.2 c39
      refine j_goto hE 208 dX2_line_194 (by decide) ?_
      exact jx_vret hE hK dX2_line_208 hw
  · replace hw := hw.2 c12
    refine j_aload_n hE 1 dX2_line_152 rfl rfl ?_
    refine j_iconst hE dX2_line_153 kc_5 ?_
    obtain ⟨h41, hw⟩ := hw
    obtain ⟨cb42, h43, hw⟩ := hw
    refine jc_q (jr_V hE hR (As := [.int (nI 5)]) (rest := []) ((ctX2_wrong E.1.2.1 E.2.2.1 hc _ _ _ _ _ hw) E.2.2.2.1) (lw_V q544 q546 qs5 q122 q547) jdX2_wrong ⟨Nat.le_of_ble_eq_true rfl, Nat.le_of_ble_eq_true rfl⟩ h43 (gmc_gIs h41 (r := (RX2, TX2, 8)) rfl) rfl (Nat.le_of_ble_eq_true rfl) dX2_line_154) (fun r40 w44 hw => ?_)
    refine j_nb (fun b45 e_b45 => ?_)
    replace hw := hw b45 e_b45
    obtain ⟨a46, e9, hx⟩ := hw
    subst e9
    have hw := hx
    clear hx
    obtain ⟨cc, fs, rr, h1, h2, hw⟩ := hw
    exact jx_throw hE h1 h2 dX2_line_157 (jx_out hE hK.2 hN hw)
def wX2_line_0 (c : Nat → Option Nat) (x0 : Nat) (x1 : Int32) (w : GW) (bb : Nat × Nat) (K : GW → Prop) (KX : String → Nat → GW → Prop) : Prop :=
  (x1 = 0 → (gmc w x0 = some 1 ∧ (∃ cb3 : Nat × Nat, (cb3.1 ≤ bb.1 ∧ cb3.2 ≤ bb.2) ∧ (wX2_pane c x0 w cb3 (fun w5 => ∀ b6 : Nat × Nat, b6 = (bb.1 - cb3.1, bb.2 - cb3.2) → (K w5)) KX)))) ∧ (¬ x1 = 0 → (x1 = 1 → (gmc w x0 = some 1 ∧ (∃ cb10 : Nat × Nat, (cb10.1 ≤ bb.1 ∧ cb10.2 ≤ bb.2) ∧ (wX2_fresh c x0 w cb10 (fun r8 w12 => ∀ b13 : Nat × Nat, b13 = (bb.1 - cb10.1, bb.2 - cb10.2) → (∃ f14 : Option Nat, gfm w12 x0 [1] 7 = some (va_rf f14) ∧ (∃ a16 : Nat, f14 = some a16 ∧ (∃ f17 : Option Nat, gfm w12 a16 [2] 3 = some (va_rf f17) ∧ (∃ f19 : Option Nat, gfm w12 x0 [1] 7 = some (va_rf f19) ∧ (∃ a21 : Nat, f19 = some a21 ∧ (∃ f22 : Option Nat, gfm w12 a21 [2] 1 = some (va_rf f22) ∧ (∃ a24 : Nat, f22 = some a24 ∧ (gmc w12 a24 = some 20 ∧ (wJ2_size c a24 w12 (fun r25 => ∀ r27 : Option Nat, r27 = c 6 → (∃ a28 : Nat, r27 = some a28 ∧ (gmc w12 x0 = some 1 ∧ (∃ cb31 : Nat × Nat, (cb31.1 ≤ b13.1 ∧ cb31.2 ≤ b13.2) ∧ (wX2_number c x0 a28 ((0 : Int32)) (nI 9) w12 cb31 (fun r29 w33 => ∀ b34 : Nat × Nat, b34 = (b13.1 - cb31.1, b13.2 - cb31.2) → (∃ a35 : Nat, f17 = some a35 ∧ (∃ (n36 : Nat) (f37 : Nat → Int32), w33 a35 = some (true, .inl (0, n36, .inl f37)) ∧ vp_in r25 n36 ∧ (∀ w40 : GW, w40 = gup w33 a35 (.inl (0, n36, .inl (upd f37 (r25).toNatClampNeg r29))) → (∃ f41 : Option Nat, gfm w40 x0 [1] 7 = some (va_rf f41) ∧ (∃ a43 : Nat, f41 = some a43 ∧ (∃ f44 : Option Nat, gfm w40 a43 [2] 1 = some (va_rf f44) ∧ (∃ a46 : Nat, f44 = some a46 ∧ (∃ a47 : Nat, r8 = some a47 ∧ (gmc w40 a46 = some 20 ∧ (∃ cb50 : Nat × Nat, (cb50.1 ≤ b34.1 ∧ cb50.2 ≤ b34.2) ∧ (wJ2_add c a46 a47 w40 cb50 (fun r48 w52 => ∀ b53 : Nat × Nat, b53 = (b34.1 - cb50.1, b34.2 - cb50.2) → (K w52)))))))))))))) KX))))))))))))))) KX)))) ∧ (¬ x1 = 1 → (x1 = nI 2 → (gmc w x0 = some 1 ∧ (∃ cb57 : Nat × Nat, (cb57.1 ≤ bb.1 ∧ cb57.2 ≤ bb.2) ∧ (wX2_fresh c x0 w cb57 (fun r55 w59 => ∀ b60 : Nat × Nat, b60 = (bb.1 - cb57.1, bb.2 - cb57.2) → (∃ f61 : Option Nat, gfm w59 x0 [1] 7 = some (va_rf f61) ∧ (∃ a63 : Nat, f61 = some a63 ∧ (∃ f64 : Option Nat, gfm w59 a63 [2] 4 = some (va_rf f64) ∧ (∃ f66 : Option Nat, gfm w59 x0 [1] 7 = some (va_rf f66) ∧ (∃ a68 : Nat, f66 = some a68 ∧ (∃ f69 : Option Nat, gfm w59 a68 [2] 2 = some (va_rf f69) ∧ (∃ a71 : Nat, f69 = some a71 ∧ (gmc w59 a71 = some 20 ∧ (wJ2_size c a71 w59 (fun r72 => ∀ r74 : Option Nat, r74 = c 7 → (∃ a75 : Nat, r74 = some a75 ∧ (gmc w59 x0 = some 1 ∧ (∃ cb78 : Nat × Nat, (cb78.1 ≤ b60.1 ∧ cb78.2 ≤ b60.2) ∧ (wX2_number c x0 a75 ((0 : Int32)) (nI 99) w59 cb78 (fun r76 w80 => ∀ b81 : Nat × Nat, b81 = (b60.1 - cb78.1, b60.2 - cb78.2) → (∃ a82 : Nat, f64 = some a82 ∧ (∃ (n83 : Nat) (f84 : Nat → Int32), w80 a82 = some (true, .inl (0, n83, .inl f84)) ∧ vp_in r72 n83 ∧ (∀ w87 : GW, w87 = gup w80 a82 (.inl (0, n83, .inl (upd f84 (r72).toNatClampNeg r76))) → (∃ f88 : Option Nat, gfm w87 x0 [1] 7 = some (va_rf f88) ∧ (∃ a90 : Nat, f88 = some a90 ∧ (∃ f91 : Option Nat, gfm w87 a90 [2] 2 = some (va_rf f91) ∧ (∃ a93 : Nat, f91 = some a93 ∧ (∃ a94 : Nat, r55 = some a94 ∧ (gmc w87 a93 = some 20 ∧ (∃ cb97 : Nat × Nat, (cb97.1 ≤ b81.1 ∧ cb97.2 ≤ b81.2) ∧ (wJ2_add c a93 a94 w87 cb97 (fun r95 w99 => ∀ b100 : Nat × Nat, b100 = (b81.1 - cb97.1, b81.2 - cb97.2) → (K w99)))))))))))))) KX))))))))))))))) KX)))) ∧ (¬ x1 = nI 2 → (x1 = nI 3 → (wX2_line_133 c x0 w bb K KX)) ∧ (¬ x1 = nI 3 → (∃ f102 : Option Nat, gfm w x0 [1] 7 = some (va_rf f102) ∧ (gmc w x0 = some 1 ∧ (∃ cb106 : Nat × Nat, (cb106.1 ≤ bb.1 ∧ cb106.2 ≤ bb.2) ∧ (wX2_expression c (wX2_part c 8) x0 w cb106 (fun r104 w108 => ∀ b109 : Nat × Nat, b109 = (bb.1 - cb106.1, bb.2 - cb106.2) → (∃ a110 : Nat, f102 = some a110 ∧ (∃ (n111 : Nat) (fs112 : List Value), w108 a110 = some (true, .inr (n111, fs112)) ∧ n111 ∈ ([2] : List Nat) ∧ 7 < fs112.length ∧ (∀ w116 : GW, w116 = gup w108 a110 (.inr (n111, fs112.set 7 (va_rf r104))) → (K w116))))) KX))))))))
set_option maxRecDepth 100000 in
theorem bX2_line_0 {E : jE} (hE : jOk E cX2_line RX2) (hn : E.2.2.2.2 = 3) (hR : jRoom E 73 3147) {c : Nat → Option Nat} (hc : E.2.2.1.2.2.2 = c) (hN : jNoH E) {K : GW → Prop} {KX : String → Nat → GW → Prop} (hK : jXv E K KX) {x0 : Nat} {x1 : Int32} {w : GW} {bb : Nat × Nat}  (hw : wX2_line_0 c x0 x1 w bb K KX) : J E w bb [(0, .ref (x0)), (1, .int (x1))] 0 [] := by
  unfold wX2_line_0 at hw
  refine j_iload_n hE 1 dX2_line_0 rfl rfl ?_
  by_cases c1 : x1 = 0
  · replace hw := hw.1 c1
    refine j_tin hE 32 dX2_line_1 (by rw [c1] <;> decide) (by rw [c1] <;> decide) (by rw [c1] <;> rfl) (by decide) ?_
    refine j_aload_n hE 0 dX2_line_32 rfl rfl ?_
    obtain ⟨h2, hw⟩ := hw
    obtain ⟨cb3, h4, hw⟩ := hw
    refine jcx_v (jrx_V hE hR (As := []) (rest := []) ((ctX2_pane E.1.2.1 E.2.2.1 hc _ _ _ _ _ hw) E.2.2.2.1) (lw_V q633 q635 qs10 q122 q636) jdX2_pane ⟨Nat.le_of_ble_eq_true rfl, Nat.le_of_ble_eq_true rfl⟩ h4 (gmc_gIs h2 (r := (RX2, TX2, 8)) rfl) rfl (Nat.le_of_ble_eq_true rfl) dX2_line_33) (fun E9 q9 u9 hx => jx_out hE hK.2 hN hx) (fun w5 hw => ?_)
    refine j_nb (fun b6 e_b6 => ?_)
    replace hw := hw b6 e_b6
    refine j_goto hE 208 dX2_line_36 (by decide) ?_
    exact jx_vret hE hK dX2_line_208 hw
  replace hw := hw.2 c1
  by_cases c7 : x1 = 1
  · replace hw := hw.1 c7
    refine j_tin hE 39 dX2_line_1 (by rw [c7] <;> decide) (by rw [c7] <;> decide) (by rw [c7] <;> rfl) (by decide) ?_
    refine j_aload_n hE 0 dX2_line_39 rfl rfl ?_
    obtain ⟨h9, hw⟩ := hw
    obtain ⟨cb10, h11, hw⟩ := hw
    refine jcx_q (jrx_V hE hR (As := []) (rest := []) ((ctX2_fresh E.1.2.1 E.2.2.1 hc _ _ _ _ _ hw) E.2.2.2.1) (lw_V q637 q639 qs11 q122 q640) jdX2_fresh ⟨Nat.le_of_ble_eq_true rfl, Nat.le_of_ble_eq_true rfl⟩ h11 (gmc_gIs h9 (r := (RX2, TX2, 8)) rfl) rfl (Nat.le_of_ble_eq_true rfl) dX2_line_40) (fun E9 q9 u9 hx => jx_out hE hK.2 hN hx) (fun r8 w12 hw => ?_)
    refine j_nb (fun b13 e_b13 => ?_)
    replace hw := hw b13 e_b13
    refine j_astore_nq (L' := [(2, va_rf (r8)), (0, .ref (x0)), (1, .int (x1))]) hE hn dX2_line_43 rfl (Nat.le_of_ble_eq_true rfl) rfl ?_
    refine j_aload_n hE 1 dX2_line_44 rfl rfl ?_
    obtain ⟨f14, h15, hw⟩ := hw
    refine j_getM hE gf_GlassStreet_Reader_houses q185 h15 dX2_line_45 ?_
    obtain ⟨a16, e9, hx⟩ := hw
    subst e9
    have hw := hx
    clear hx
    obtain ⟨f17, h18, hw⟩ := hw
    refine j_getMN hE gf_GlassStreet_Houses_at q249 h18 dX2_line_48 ?_
    refine j_aload_n hE 1 dX2_line_51 rfl rfl ?_
    obtain ⟨f19, h20, hw⟩ := hw
    refine j_getM hE gf_GlassStreet_Reader_houses q185 h20 dX2_line_52 ?_
    obtain ⟨a21, e9, hx⟩ := hw
    subst e9
    have hw := hx
    clear hx
    obtain ⟨f22, h23, hw⟩ := hw
    refine j_getMN hE gf_GlassStreet_Houses_people q243 h23 dX2_line_55 ?_
    obtain ⟨a24, e9, hx⟩ := hw
    subst e9
    have hw := hx
    clear hx
    obtain ⟨h26, hw⟩ := hw
    refine jc_ip (jr_V hE hR (As := []) (rest := [va_rf (f17)]) ((ctJ2_size E.1.2.1 E.2.2.1 hc _ _ _ hw) E.2.2.2.1) (lw_V q625 q626 q627 q126 q628) jdJ2_size ⟨Nat.le_of_ble_eq_true rfl, Nat.le_of_ble_eq_true rfl⟩ ⟨Nat.zero_le _, Nat.zero_le _⟩ (gmc_gIs h26 (r := (RJ2, TJ2, 3)) rfl) rfl (by cases f17 <;> exact Nat.le_of_ble_eq_true rfl) dX2_line_58) (fun r25 hw => ?_)
    refine j_b0 ?_
    refine j_aload_n hE 1 dX2_line_61 rfl rfl ?_
    obtain ⟨r27, e_r27⟩ : ∃ r9 : Option Nat, r9 = c 6 := ⟨_, rfl⟩
    replace hw := hw r27 e_r27
    refine j_ldcS hE 6 (by decide) rfl hc e_r27 dX2_line_62 ?_
    refine j_iconst hE dX2_line_64 kc_0 ?_
    refine j_bipush hE dX2_line_65 kb_9 ?_
    obtain ⟨a28, e9, hx⟩ := hw
    subst e9
    have hw := hx
    clear hx
    obtain ⟨h30, hw⟩ := hw
    obtain ⟨cb31, h32, hw⟩ := hw
    refine jcx_i (jrx_V hE hR (As := [.ref (a28), .int ((0 : Int32)), .int (nI 9)]) (rest := [.int (r25), va_rf (f17)]) ((ctX2_number E.1.2.1 E.2.2.1 hc _ _ _ _ _ _ _ _ hw) E.2.2.2.1) (lw_V q901 q903 qs14 q122 q904) jdX2_number ⟨Nat.le_of_ble_eq_true rfl, Nat.le_of_ble_eq_true rfl⟩ h32 (gmc_gIs h30 (r := (RX2, TX2, 8)) rfl) rfl (by cases f17 <;> exact Nat.le_of_ble_eq_true rfl) dX2_line_67) (fun E9 q9 u9 hx => jx_out hE hK.2 hN hx) (fun r29 w33 hw => ?_)
    refine j_nb (fun b34 e_b34 => ?_)
    replace hw := hw b34 e_b34
    obtain ⟨a35, e9, hx⟩ := hw
    subst e9
    have hw := hx
    clear hx
    obtain ⟨n36, f37, h38, h39, hw⟩ := hw
    refine j_iast hE h38 h39 dX2_line_70 ?_
    refine j_nw (fun w40 e_w40 => ?_)
    replace hw := hw w40 e_w40
    refine j_aload_n hE 1 dX2_line_71 rfl rfl ?_
    obtain ⟨f41, h42, hw⟩ := hw
    refine j_getM hE gf_GlassStreet_Reader_houses q185 h42 dX2_line_72 ?_
    obtain ⟨a43, e9, hx⟩ := hw
    subst e9
    have hw := hx
    clear hx
    obtain ⟨f44, h45, hw⟩ := hw
    refine j_getMN hE gf_GlassStreet_Houses_people q243 h45 dX2_line_75 ?_
    refine j_aload_nq hE 0 dX2_line_78 rfl rfl ?_
    obtain ⟨a46, e9, hx⟩ := hw
    subst e9
    have hw := hx
    clear hx
    obtain ⟨a47, e9, hx⟩ := hw
    subst e9
    have hw := hx
    clear hx
    obtain ⟨h49, hw⟩ := hw
    obtain ⟨cb50, h51, hw⟩ := hw
    refine jc_i (jr_V hE hR (As := [.ref (a47)]) (rest := []) ((ctJ2_add E.1.2.1 E.2.2.1 hc _ _ _ _ _ hw) E.2.2.2.1) (lw_V q928 q929 q930 q126 q931) jdJ2_add ⟨Nat.le_of_ble_eq_true rfl, Nat.le_of_ble_eq_true rfl⟩ h51 (gmc_gIs h49 (r := (RJ2, TJ2, 3)) rfl) rfl (Nat.le_of_ble_eq_true rfl) dX2_line_79) (fun r48 w52 hw => ?_)
    refine j_nb (fun b53 e_b53 => ?_)
    replace hw := hw b53 e_b53
    refine j_pop hE dX2_line_82 rfl ?_
    refine j_goto hE 208 dX2_line_83 (by decide) ?_
    exact jx_vret hE hK dX2_line_208 hw
  replace hw := hw.2 c7
  by_cases c54 : x1 = nI 2
  · replace hw := hw.1 c54
    refine j_tin hE 86 dX2_line_1 (by rw [c54] <;> decide) (by rw [c54] <;> decide) (by rw [c54] <;> rfl) (by decide) ?_
    refine j_aload_n hE 0 dX2_line_86 rfl rfl ?_
    obtain ⟨h56, hw⟩ := hw
    obtain ⟨cb57, h58, hw⟩ := hw
    refine jcx_q (jrx_V hE hR (As := []) (rest := []) ((ctX2_fresh E.1.2.1 E.2.2.1 hc _ _ _ _ _ hw) E.2.2.2.1) (lw_V q637 q639 qs11 q122 q640) jdX2_fresh ⟨Nat.le_of_ble_eq_true rfl, Nat.le_of_ble_eq_true rfl⟩ h58 (gmc_gIs h56 (r := (RX2, TX2, 8)) rfl) rfl (Nat.le_of_ble_eq_true rfl) dX2_line_87) (fun E9 q9 u9 hx => jx_out hE hK.2 hN hx) (fun r55 w59 hw => ?_)
    refine j_nb (fun b60 e_b60 => ?_)
    replace hw := hw b60 e_b60
    refine j_astore_nq (L' := [(2, va_rf (r55)), (0, .ref (x0)), (1, .int (x1))]) hE hn dX2_line_90 rfl (Nat.le_of_ble_eq_true rfl) rfl ?_
    refine j_aload_n hE 1 dX2_line_91 rfl rfl ?_
    obtain ⟨f61, h62, hw⟩ := hw
    refine j_getM hE gf_GlassStreet_Reader_houses q185 h62 dX2_line_92 ?_
    obtain ⟨a63, e9, hx⟩ := hw
    subst e9
    have hw := hx
    clear hx
    obtain ⟨f64, h65, hw⟩ := hw
    refine j_getMN hE gf_GlassStreet_Houses_harm q252 h65 dX2_line_95 ?_
    refine j_aload_n hE 1 dX2_line_98 rfl rfl ?_
    obtain ⟨f66, h67, hw⟩ := hw
    refine j_getM hE gf_GlassStreet_Reader_houses q185 h67 dX2_line_99 ?_
    obtain ⟨a68, e9, hx⟩ := hw
    subst e9
    have hw := hx
    clear hx
    obtain ⟨f69, h70, hw⟩ := hw
    refine j_getMN hE gf_GlassStreet_Houses_deeds q246 h70 dX2_line_102 ?_
    obtain ⟨a71, e9, hx⟩ := hw
    subst e9
    have hw := hx
    clear hx
    obtain ⟨h73, hw⟩ := hw
    refine jc_ip (jr_V hE hR (As := []) (rest := [va_rf (f64)]) ((ctJ2_size E.1.2.1 E.2.2.1 hc _ _ _ hw) E.2.2.2.1) (lw_V q625 q626 q627 q126 q628) jdJ2_size ⟨Nat.le_of_ble_eq_true rfl, Nat.le_of_ble_eq_true rfl⟩ ⟨Nat.zero_le _, Nat.zero_le _⟩ (gmc_gIs h73 (r := (RJ2, TJ2, 3)) rfl) rfl (by cases f64 <;> exact Nat.le_of_ble_eq_true rfl) dX2_line_105) (fun r72 hw => ?_)
    refine j_b0 ?_
    refine j_aload_n hE 1 dX2_line_108 rfl rfl ?_
    obtain ⟨r74, e_r74⟩ : ∃ r9 : Option Nat, r9 = c 7 := ⟨_, rfl⟩
    replace hw := hw r74 e_r74
    refine j_ldcS hE 7 (by decide) rfl hc e_r74 dX2_line_109 ?_
    refine j_iconst hE dX2_line_111 kc_0 ?_
    refine j_bipush hE dX2_line_112 kb_99 ?_
    obtain ⟨a75, e9, hx⟩ := hw
    subst e9
    have hw := hx
    clear hx
    obtain ⟨h77, hw⟩ := hw
    obtain ⟨cb78, h79, hw⟩ := hw
    refine jcx_i (jrx_V hE hR (As := [.ref (a75), .int ((0 : Int32)), .int (nI 99)]) (rest := [.int (r72), va_rf (f64)]) ((ctX2_number E.1.2.1 E.2.2.1 hc _ _ _ _ _ _ _ _ hw) E.2.2.2.1) (lw_V q901 q903 qs14 q122 q904) jdX2_number ⟨Nat.le_of_ble_eq_true rfl, Nat.le_of_ble_eq_true rfl⟩ h79 (gmc_gIs h77 (r := (RX2, TX2, 8)) rfl) rfl (by cases f64 <;> exact Nat.le_of_ble_eq_true rfl) dX2_line_114) (fun E9 q9 u9 hx => jx_out hE hK.2 hN hx) (fun r76 w80 hw => ?_)
    refine j_nb (fun b81 e_b81 => ?_)
    replace hw := hw b81 e_b81
    obtain ⟨a82, e9, hx⟩ := hw
    subst e9
    have hw := hx
    clear hx
    obtain ⟨n83, f84, h85, h86, hw⟩ := hw
    refine j_iast hE h85 h86 dX2_line_117 ?_
    refine j_nw (fun w87 e_w87 => ?_)
    replace hw := hw w87 e_w87
    refine j_aload_n hE 1 dX2_line_118 rfl rfl ?_
    obtain ⟨f88, h89, hw⟩ := hw
    refine j_getM hE gf_GlassStreet_Reader_houses q185 h89 dX2_line_119 ?_
    obtain ⟨a90, e9, hx⟩ := hw
    subst e9
    have hw := hx
    clear hx
    obtain ⟨f91, h92, hw⟩ := hw
    refine j_getMN hE gf_GlassStreet_Houses_deeds q246 h92 dX2_line_122 ?_
    refine j_aload_nq hE 0 dX2_line_125 rfl rfl ?_
    obtain ⟨a93, e9, hx⟩ := hw
    subst e9
    have hw := hx
    clear hx
    obtain ⟨a94, e9, hx⟩ := hw
    subst e9
    have hw := hx
    clear hx
    obtain ⟨h96, hw⟩ := hw
    obtain ⟨cb97, h98, hw⟩ := hw
    refine jc_i (jr_V hE hR (As := [.ref (a94)]) (rest := []) ((ctJ2_add E.1.2.1 E.2.2.1 hc _ _ _ _ _ hw) E.2.2.2.1) (lw_V q928 q929 q930 q126 q931) jdJ2_add ⟨Nat.le_of_ble_eq_true rfl, Nat.le_of_ble_eq_true rfl⟩ h98 (gmc_gIs h96 (r := (RJ2, TJ2, 3)) rfl) rfl (Nat.le_of_ble_eq_true rfl) dX2_line_126) (fun r95 w99 hw => ?_)
    refine j_nb (fun b100 e_b100 => ?_)
    replace hw := hw b100 e_b100
    refine j_pop hE dX2_line_129 rfl ?_
    refine j_goto hE 208 dX2_line_130 (by decide) ?_
    exact jx_vret hE hK dX2_line_208 hw
  replace hw := hw.2 c54
  by_cases c101 : x1 = nI 3
  · replace hw := hw.1 c101
    refine j_tin hE 133 dX2_line_1 (by rw [c101] <;> decide) (by rw [c101] <;> decide) (by rw [c101] <;> rfl) (by decide) ?_
    refine j_sub [(0, .ref (x0))] [0] rfl ?_
    have hz := bX2_line_133 hE hn hR hc hN hK  hw
    exact hz
  replace hw := hw.2 c101
  refine j_tout hE 197 dX2_line_1 (tsw_out x1 (0) (3) (fun k h1 h2 => ?_)) (by decide) ?_
  · rcases (show k = 0 ∨ k = 1 ∨ k = 2 ∨ k = 3 by omega) with rfl | rfl | rfl | rfl
    · exact tsw_ne _ _ _ (by decide) c1
    · exact tsw_ne _ _ _ (by decide) c7
    · exact tsw_ne _ _ _ (by decide) c54
    · exact tsw_ne _ _ _ (by decide) c101
  refine j_aload_n hE 0 dX2_line_197 rfl rfl ?_
  obtain ⟨f102, h103, hw⟩ := hw
  refine j_getM hE gf_GlassStreet_Reader_houses q185 h103 dX2_line_198 ?_
  refine j_aload_n hE 0 dX2_line_201 rfl rfl ?_
  obtain ⟨h105, hw⟩ := hw
  obtain ⟨cb106, h107, hw⟩ := hw
  refine jcx_q (jrx_V hE hR (As := []) (rest := [va_rf (f102)]) ((ctX2_expression E.1.2.1 E.2.2.1 hc (recPt E.1.2.1 E.2.2.1 hc 8) (by decide) _ _ _ _ _ hw) E.2.2.2.1) (lw_V q987 q989 qs22 q122 q990) jdX2_expression ⟨Nat.le_of_ble_eq_true rfl, Nat.le_of_ble_eq_true rfl⟩ h107 (gmc_gIs h105 (r := (RX2, TX2, 8)) rfl) rfl (by cases f102 <;> exact Nat.le_of_ble_eq_true rfl) dX2_line_202) (fun E9 q9 u9 hx => jx_out hE hK.2 hN hx) (fun r104 w108 hw => ?_)
  refine j_nb (fun b109 e_b109 => ?_)
  replace hw := hw b109 e_b109
  obtain ⟨a110, e9, hx⟩ := hw
  subst e9
  have hw := hx
  clear hx
  obtain ⟨n111, fs112, h113, h114, h115, hw⟩ := hw
  refine j_putXN hE h114 gw_GlassStreet_Houses_fades_X2 q257 h113 (va_rf_nar _ _ (by decide)) (va_rf_fit _ _ (by decide)) h115 dX2_line_205 ?_
  refine j_nw (fun w116 e_w116 => ?_)
  replace hw := hw w116 e_w116
  exact jx_vret hE hK dX2_line_208 hw
theorem jdX2_line : jD yX2_line 1 := by decide +kernel
abbrev wX2_line := wX2_line_0
theorem ctX2_line (l : Launch) (G : gG) {c : Nat → Option Nat} (hc : G.2.2.2 = c) (x0 : Nat) (x1 : Int32) (w : GW) (bb : Nat × Nat) (K : GW → Prop) (KX : String → Nat → GW → Prop) (hw : wX2_line_0 c x0 x1 w bb K KX) {F2 L2 : Nat} (h2 : 73 ≤ F2 ∧ 3147 ≤ L2 := by exact ⟨Nat.le_refl _, Nat.le_refl _⟩) : CtXV l yX2_line cX2_line 3 ({ frames := F2, cells := bb.1, slots := bb.2, locals := L2 }) G [.ref (x0), .int (x1)] w (K) KX :=
  CtXV.of RX2 plainc_X2 rfl (Nat.le_of_ble_eq_true rfl) (fun E hE hl hG hn hR hN hK => bX2_line_0 hE hn (hR.le h2.1 h2.2) (by rw [hG]; exact hc) hN hK hw)
def wX2_houses_11_b (c : Nat → Option Nat) (x0 : Nat) (w : GW) (bb : Nat × Nat) (KL11 : GW × (Nat × Nat) → Prop) (K : Option Nat → GW → Prop) (KX : String → Nat → GW → Prop) : Prop :=
  ∃ f1 : Int32, gfm w x0 [1] 3 = some (.int f1) ∧ ((f1 = 0 → (∃ f4 : Option Nat, gfm w x0 [1] 7 = some (va_rf f4) ∧ (K f4 w))) ∧ (¬ f1 = 0 → (∀ r6 : Option Nat, r6 = c 1 → (∃ a7 : Nat, r6 = some a7 ∧ (gmc w x0 = some 1 ∧ (wX2_which c x0 a7 w (fun r8 => (0 ≤ r8 → (gmc w x0 = some 1 ∧ (wX2_isTold c x0 r8 w (fun r11 => (r11 = 0 → (gmc w x0 = some 1 ∧ (wX2_isFull c x0 r8 w (fun r14 => (r14 = 0 → (gmc w x0 = some 1 ∧ (wX2_next c x0 w (fun w18 => gmc w18 x0 = some 1 ∧ (∃ cb20 : Nat × Nat, (cb20.1 ≤ bb.1 ∧ cb20.2 ≤ bb.2) ∧ (wX2_line c x0 r8 w18 cb20 (fun w22 => ∀ b23 : Nat × Nat, b23 = (bb.1 - cb20.1, bb.2 - cb20.2) → (gmc w22 x0 = some 1 ∧ (∃ cb25 : Nat × Nat, (cb25.1 ≤ b23.1 ∧ cb25.2 ≤ b23.2) ∧ (wX2_need_2 c x0 (nI 59) w22 cb25 (fun w27 => ∀ b28 : Nat × Nat, b28 = (b23.1 - cb25.1, b23.2 - cb25.2) → (KL11 (w27, b28))) KX)))) KX)))))) ∧ (¬ r14 = 0 → (gmc w x0 = some 1 ∧ (∃ cb31 : Nat × Nat, (cb31.1 ≤ bb.1 ∧ cb31.2 ≤ bb.2) ∧ (wX2_wrong c x0 (nI 5) w cb31 (fun r29 w33 => ∀ b34 : Nat × Nat, b34 = (bb.1 - cb31.1, bb.2 - cb31.2) → (∃ a35 : Nat, r29 = some a35 ∧ (∃ (cc : Nat) (fs : List Value) (rr : vw_C), w33 a35 = some (true, .inr (cc, fs)) ∧ gCl[cc]? = some rr ∧ KX rr.1 a35 w33))))))))))) ∧ (¬ r11 = 0 → (gmc w x0 = some 1 ∧ (∃ cb38 : Nat × Nat, (cb38.1 ≤ bb.1 ∧ cb38.2 ≤ bb.2) ∧ (wX2_wrong c x0 (nI 3) w cb38 (fun r36 w40 => ∀ b41 : Nat × Nat, b41 = (bb.1 - cb38.1, bb.2 - cb38.2) → (∃ a42 : Nat, r36 = some a42 ∧ (∃ (cc : Nat) (fs : List Value) (rr : vw_C), w40 a42 = some (true, .inr (cc, fs)) ∧ gCl[cc]? = some rr ∧ KX rr.1 a42 w40))))))))))) ∧ (¬ 0 ≤ r8 → (gmc w x0 = some 1 ∧ (∃ cb45 : Nat × Nat, (cb45.1 ≤ bb.1 ∧ cb45.2 ≤ bb.2) ∧ (wX2_wrong c x0 ((1 : Int32)) w cb45 (fun r43 w47 => ∀ b48 : Nat × Nat, b48 = (bb.1 - cb45.1, bb.2 - cb45.2) → (∃ a49 : Nat, r43 = some a49 ∧ (∃ (cc : Nat) (fs : List Value) (rr : vw_C), w47 a49 = some (true, .inr (cc, fs)) ∧ gCl[cc]? = some rr ∧ KX rr.1 a49 w47))))))))))))))
def wX2_houses_11 (c : Nat → Option Nat) (x0 : Nat) (w : GW) (bb : Nat × Nat) (K : Option Nat → GW → Prop) (KX : String → Nat → GW → Prop) : Prop := lfp (σ := GW × (Nat × Nat)) (fun KL s => wX2_houses_11_b c x0 s.1 s.2 KL K KX) (w, bb)
set_option maxRecDepth 100000 in
theorem bX2_houses_11 {E : jE} (hE : jOk E cX2_houses RX2) (hn : E.2.2.2.2 = 2) (hR : jRoom E 74 3169) {c : Nat → Option Nat} (hc : E.2.2.1.2.2.2 = c) (hN : jNoH E) {K : Option Nat → GW → Prop} {KX : String → Nat → GW → Prop} (hK : jXq E (.object "GlassStreet$Houses") (K) KX) {x0 : Nat} {w : GW} {bb : Nat × Nat}  (hw : wX2_houses_11 c x0 w bb K KX) : J E w bb [(0, .ref (x0))] 11 [] := by
  refine lfp_sound (σ := GW × (Nat × Nat)) (F := fun KL s => wX2_houses_11_b c x0 s.1 s.2 KL K KX) (P := fun s => J E (s.1) (s.2) [(0, .ref (x0))] 11 []) ?_ hw
  clear hw
  rintro KL11 ⟨w, bb⟩ hw ih11
  have hw : wX2_houses_11_b c x0 w bb KL11 K KX := hw
  unfold wX2_houses_11_b at hw
  refine j_aload_n hE 0 dX2_houses_11 rfl rfl ?_
  obtain ⟨f1, h2, hw⟩ := hw
  refine j_getM hE gf_GlassStreet_Reader_kind q181 h2 dX2_houses_12 ?_
  refine j_if_eq hE 81 dX2_houses_15 (by decide) (fun c3 => ?_) (fun c3 => ?_)
  · replace hw := hw.1 c3
    refine j_aload_n hE 0 dX2_houses_81 rfl rfl ?_
    obtain ⟨f4, h5, hw⟩ := hw
    refine j_getM hE gf_GlassStreet_Reader_houses q185 h5 dX2_houses_82 ?_
    exact jx_qret hE hK (r := f4) dX2_houses_85 (by first | exact Or.inl ⟨_, rfl⟩ | exact Or.inr ⟨_, rfl⟩) hw
  · replace hw := hw.2 c3
    refine j_aload_n hE 0 dX2_houses_18 rfl rfl ?_
    obtain ⟨r6, e_r6⟩ : ∃ r9 : Option Nat, r9 = c 1 := ⟨_, rfl⟩
    replace hw := hw r6 e_r6
    refine j_ldcS hE 1 (by decide) rfl hc e_r6 dX2_houses_19 ?_
    obtain ⟨a7, e9, hx⟩ := hw
    subst e9
    have hw := hx
    clear hx
    obtain ⟨h9, hw⟩ := hw
    refine jc_ip (jr_V hE hR (As := [.ref (a7)]) (rest := []) ((ctX2_which E.1.2.1 E.2.2.1 hc _ _ _ _ hw) E.2.2.2.1) (lw_V q518 q520 qs4 q122 q521) jdX2_which ⟨Nat.le_of_ble_eq_true rfl, Nat.le_of_ble_eq_true rfl⟩ ⟨Nat.zero_le _, Nat.zero_le _⟩ (gmc_gIs h9 (r := (RX2, TX2, 8)) rfl) rfl (Nat.le_of_ble_eq_true rfl) dX2_houses_21) (fun r8 hw => ?_)
    refine j_b0 ?_
    refine j_istore_n (L' := [(1, .int (r8)), (0, .ref (x0))]) hE hn dX2_houses_24 rfl (Nat.le_of_ble_eq_true rfl) rfl ?_
    refine j_iload_n hE 0 dX2_houses_25 rfl rfl ?_
    refine j_if_ge hE 35 dX2_houses_26 (by decide) (fun c10 => ?_) (fun c10 => ?_)
    · replace hw := hw.1 c10
      refine j_aload_n hE 1 dX2_houses_35 rfl rfl ?_
      refine j_iload_n hE 0 dX2_houses_36 rfl rfl ?_
      obtain ⟨h12, hw⟩ := hw
      refine jc_ip (jr_V hE hR (As := [.int (r8)]) (rest := []) ((ctX2_isTold E.1.2.1 E.2.2.1 hc _ _ _ _ hw) E.2.2.2.1) (lw_V q617 q619 qs7 q122 q620) jdX2_isTold ⟨Nat.le_of_ble_eq_true rfl, Nat.le_of_ble_eq_true rfl⟩ ⟨Nat.zero_le _, Nat.zero_le _⟩ (gmc_gIs h12 (r := (RX2, TX2, 8)) rfl) rfl (Nat.le_of_ble_eq_true rfl) dX2_houses_37) (fun r11 hw => ?_)
      refine j_b0 ?_
      refine j_if_eq hE 49 dX2_houses_40 (by decide) (fun c13 => ?_) (fun c13 => ?_)
      · replace hw := hw.1 c13
        refine j_aload_n hE 1 dX2_houses_49 rfl rfl ?_
        refine j_iload_n hE 0 dX2_houses_50 rfl rfl ?_
        obtain ⟨h15, hw⟩ := hw
        refine jc_ip (jr_V hE hR (As := [.int (r8)]) (rest := []) ((ctX2_isFull E.1.2.1 E.2.2.1 hc _ _ _ _ hw) E.2.2.2.1) (lw_V q621 q623 qs8 q122 q624) jdX2_isFull ⟨Nat.le_of_ble_eq_true rfl, Nat.le_of_ble_eq_true rfl⟩ ⟨Nat.zero_le _, Nat.zero_le _⟩ (gmc_gIs h15 (r := (RX2, TX2, 8)) rfl) rfl (Nat.le_of_ble_eq_true rfl) dX2_houses_51) (fun r14 hw => ?_)
        refine j_b0 ?_
        refine j_if_eq hE 63 dX2_houses_54 (by decide) (fun c16 => ?_) (fun c16 => ?_)
        · replace hw := hw.1 c16
          refine j_aload_n hE 1 dX2_houses_63 rfl rfl ?_
          obtain ⟨h17, hw⟩ := hw
          refine jc_v (jr_V hE hR (As := []) (rest := []) ((ctX2_next E.1.2.1 E.2.2.1 hc _ _ _ hw) E.2.2.2.1) (lw_V q410 q412 qs2 q122 q413) jdX2_next ⟨Nat.le_of_ble_eq_true rfl, Nat.le_of_ble_eq_true rfl⟩ ⟨Nat.zero_le _, Nat.zero_le _⟩ (gmc_gIs h17 (r := (RX2, TX2, 8)) rfl) rfl (Nat.le_of_ble_eq_true rfl) dX2_houses_64) (fun w18 hw => ?_)
          refine j_b0 ?_
          refine j_aload_n hE 1 dX2_houses_67 rfl rfl ?_
          refine j_iload_n hE 0 dX2_houses_68 rfl rfl ?_
          obtain ⟨h19, hw⟩ := hw
          obtain ⟨cb20, h21, hw⟩ := hw
          refine jcx_v (jrx_V hE hR (As := [.int (r8)]) (rest := []) ((ctX2_line E.1.2.1 E.2.2.1 hc _ _ _ _ _ _ hw) E.2.2.2.1) (lw_V q629 q631 qs9 q122 q632) jdX2_line ⟨Nat.le_of_ble_eq_true rfl, Nat.le_of_ble_eq_true rfl⟩ h21 (gmc_gIs h19 (r := (RX2, TX2, 8)) rfl) rfl (Nat.le_of_ble_eq_true rfl) dX2_houses_69) (fun E9 q9 u9 hx => jx_out hE hK.2 hN hx) (fun w22 hw => ?_)
          refine j_nb (fun b23 e_b23 => ?_)
          replace hw := hw b23 e_b23
          refine j_aload_n hE 1 dX2_houses_72 rfl rfl ?_
          refine j_bipush hE dX2_houses_73 kb_59 ?_
          obtain ⟨h24, hw⟩ := hw
          obtain ⟨cb25, h26, hw⟩ := hw
          refine jcx_v (jrx_V hE hR (As := [.int (nI 59)]) (rest := []) ((ctX2_need_2 E.1.2.1 E.2.2.1 hc _ _ _ _ _ _ hw) E.2.2.2.1) (lw_V q1042 q1044 qs27 q122 q1045) jdX2_need_2 ⟨Nat.le_of_ble_eq_true rfl, Nat.le_of_ble_eq_true rfl⟩ h26 (gmc_gIs h24 (r := (RX2, TX2, 8)) rfl) rfl (Nat.le_of_ble_eq_true rfl) dX2_houses_75) (fun E9 q9 u9 hx => jx_out hE hK.2 hN hx) (fun w27 hw => ?_)
          refine j_nb (fun b28 e_b28 => ?_)
          replace hw := hw b28 e_b28
          refine j_goto hE 11 dX2_houses_78 (by decide) ?_
          refine j_sub [(0, .ref (x0))] [1] rfl ?_
          have hz := ih11 (w27, b28) hw
          exact hz
        · replace hw := hw.2 c16
          refine j_aload_n hE 1 dX2_houses_57 rfl rfl ?_
          refine j_iconst hE dX2_houses_58 kc_5 ?_
          obtain ⟨h30, hw⟩ := hw
          obtain ⟨cb31, h32, hw⟩ := hw
          refine jc_q (jr_V hE hR (As := [.int (nI 5)]) (rest := []) ((ctX2_wrong E.1.2.1 E.2.2.1 hc _ _ _ _ _ hw) E.2.2.2.1) (lw_V q544 q546 qs5 q122 q547) jdX2_wrong ⟨Nat.le_of_ble_eq_true rfl, Nat.le_of_ble_eq_true rfl⟩ h32 (gmc_gIs h30 (r := (RX2, TX2, 8)) rfl) rfl (Nat.le_of_ble_eq_true rfl) dX2_houses_59) (fun r29 w33 hw => ?_)
          refine j_nb (fun b34 e_b34 => ?_)
          replace hw := hw b34 e_b34
          obtain ⟨a35, e9, hx⟩ := hw
          subst e9
          have hw := hx
          clear hx
          obtain ⟨cc, fs, rr, h1, h2, hw⟩ := hw
          exact jx_throw hE h1 h2 dX2_houses_62 (jx_out hE hK.2 hN hw)
      · replace hw := hw.2 c13
        refine j_aload_n hE 1 dX2_houses_43 rfl rfl ?_
        refine j_iconst hE dX2_houses_44 kc_3 ?_
        obtain ⟨h37, hw⟩ := hw
        obtain ⟨cb38, h39, hw⟩ := hw
        refine jc_q (jr_V hE hR (As := [.int (nI 3)]) (rest := []) ((ctX2_wrong E.1.2.1 E.2.2.1 hc _ _ _ _ _ hw) E.2.2.2.1) (lw_V q544 q546 qs5 q122 q547) jdX2_wrong ⟨Nat.le_of_ble_eq_true rfl, Nat.le_of_ble_eq_true rfl⟩ h39 (gmc_gIs h37 (r := (RX2, TX2, 8)) rfl) rfl (Nat.le_of_ble_eq_true rfl) dX2_houses_45) (fun r36 w40 hw => ?_)
        refine j_nb (fun b41 e_b41 => ?_)
        replace hw := hw b41 e_b41
        obtain ⟨a42, e9, hx⟩ := hw
        subst e9
        have hw := hx
        clear hx
        obtain ⟨cc, fs, rr, h1, h2, hw⟩ := hw
        exact jx_throw hE h1 h2 dX2_houses_48 (jx_out hE hK.2 hN hw)
    · replace hw := hw.2 c10
      refine j_aload_n hE 1 dX2_houses_29 rfl rfl ?_
      refine j_iconst hE dX2_houses_30 kc_1 ?_
      obtain ⟨h44, hw⟩ := hw
      obtain ⟨cb45, h46, hw⟩ := hw
      refine jc_q (jr_V hE hR (As := [.int ((1 : Int32))]) (rest := []) ((ctX2_wrong E.1.2.1 E.2.2.1 hc _ _ _ _ _ hw) E.2.2.2.1) (lw_V q544 q546 qs5 q122 q547) jdX2_wrong ⟨Nat.le_of_ble_eq_true rfl, Nat.le_of_ble_eq_true rfl⟩ h46 (gmc_gIs h44 (r := (RX2, TX2, 8)) rfl) rfl (Nat.le_of_ble_eq_true rfl) dX2_houses_31) (fun r43 w47 hw => ?_)
      refine j_nb (fun b48 e_b48 => ?_)
      replace hw := hw b48 e_b48
      obtain ⟨a49, e9, hx⟩ := hw
      subst e9
      have hw := hx
      clear hx
      obtain ⟨cc, fs, rr, h1, h2, hw⟩ := hw
      exact jx_throw hE h1 h2 dX2_houses_34 (jx_out hE hK.2 hN hw)
def wX2_houses_0 (c : Nat → Option Nat) (x0 : Nat) (w : GW) (bb : Nat × Nat) (K : Option Nat → GW → Prop) (KX : String → Nat → GW → Prop) : Prop :=
  1 ≤ bb.1 ∧ 8 ≤ bb.2 ∧ ∀ qa3 : Nat, w qa3 = none → (∀ w5 : GW, w5 = gup w qa3 (.inr (2, [va_rf none, va_rf none, va_rf none, va_rf none, va_rf none, va_rf none, .int 0, va_rf none])) → (∀ b6 : Nat × Nat, b6 = (bb.1 - 1, bb.2 - 8) → (∃ cb7 : Nat × Nat, (cb7.1 ≤ b6.1 ∧ cb7.2 ≤ b6.2) ∧ (wX3_init c qa3 w5 cb7 (fun w9 => ∀ b10 : Nat × Nat, b10 = (b6.1 - cb7.1, b6.2 - cb7.2) → (∃ (n11 : Nat) (fs12 : List Value), w9 x0 = some (true, .inr (n11, fs12)) ∧ n11 ∈ ([1] : List Nat) ∧ 7 < fs12.length ∧ (∀ w16 : GW, w16 = gup w9 x0 (.inr (n11, fs12.set 7 (va_rf (some qa3)))) → (wX2_houses_11 c x0 w16 b10 K KX))))))))
set_option maxRecDepth 100000 in
theorem bX2_houses_0 {E : jE} (hE : jOk E cX2_houses RX2) (hn : E.2.2.2.2 = 2) (hR : jRoom E 74 3169) {c : Nat → Option Nat} (hc : E.2.2.1.2.2.2 = c) (hN : jNoH E) {K : Option Nat → GW → Prop} {KX : String → Nat → GW → Prop} (hK : jXq E (.object "GlassStreet$Houses") (K) KX) {x0 : Nat} {w : GW} {bb : Nat × Nat}  (hw : wX2_houses_0 c x0 w bb K KX) : J E w bb [(0, .ref (x0))] 0 [] := by
  unfold wX2_houses_0 at hw
  refine j_aload_n hE 0 dX2_houses_0 rfl rfl ?_
  obtain ⟨h1, h2, hw⟩ := hw
  refine j_new (c := 2) (fs := [va_rf none, va_rf none, va_rf none, va_rf none, va_rf none, va_rf none, .int 0, va_rf none]) hE gok_2 q515 q205 q123 dfl_2 ⟨h1, h2⟩ dX2_houses_1 (fun qa3 h4 => ?_)
  replace hw := hw qa3 h4
  refine j_nw (fun w5 e_w5 => ?_)
  replace hw := hw w5 e_w5
  refine j_nb (fun b6 e_b6 => ?_)
  replace hw := hw b6 e_b6
  refine j_dup hE dX2_houses_4 rfl ?_
  obtain ⟨cb7, h8, hw⟩ := hw
  refine jc_v (jr_IN hE hR (As := []) (rest := [.ref (qa3), .ref (x0)]) ((ctX3_init E.1.2.1 E.2.2.1 hc _ _ _ _ hw) E.2.2.2.1) (lw_meth q208) q123 q516 q207 rfl jdX3_init ⟨Nat.le_of_ble_eq_true rfl, Nat.le_of_ble_eq_true rfl⟩ h8  rfl (Nat.le_of_ble_eq_true rfl) dX2_houses_5) (fun w9 hw => ?_)
  refine j_nb (fun b10 e_b10 => ?_)
  replace hw := hw b10 e_b10
  obtain ⟨n11, fs12, h13, h14, h15, hw⟩ := hw
  refine j_putX hE h14 gw_GlassStreet_Reader_houses_X2 q185 h13 rfl rfl h15 dX2_houses_8 ?_
  refine j_nw (fun w16 e_w16 => ?_)
  replace hw := hw w16 e_w16
  have hz := bX2_houses_11 hE hn hR hc hN hK  hw
  exact hz
theorem jdX2_houses : jD yX2_houses 0 := by decide +kernel
abbrev wX2_houses := wX2_houses_0
theorem ctX2_houses (l : Launch) (G : gG) {c : Nat → Option Nat} (hc : G.2.2.2 = c) (x0 : Nat) (w : GW) (bb : Nat × Nat) (K : Option Nat → GW → Prop) (KX : String → Nat → GW → Prop) (hw : wX2_houses_0 c x0 w bb K KX) {F2 L2 : Nat} (h2 : 74 ≤ F2 ∧ 3169 ≤ L2 := by exact ⟨Nat.le_refl _, Nat.le_refl _⟩) : CtXQ l yX2_houses cX2_houses 2 (.object "GlassStreet$Houses") ({ frames := F2, cells := bb.1, slots := bb.2, locals := L2 }) G [.ref (x0)] w (K) KX :=
  CtXQ.of RX2 plainc_X2 rfl (Nat.le_of_ble_eq_true rfl) (fun E hE hl hG hn hR hN hK => bX2_houses_0 hE hn (hR.le h2.1 h2.2) (by rw [hG]; exact hc) hN hK hw)
def wX1_copies_2_b (c : Nat → Option Nat) (x0 : Nat) (x1 : Nat) (x2 : Int32) (w : GW) (KL2 : Int32 × GW → Prop) (K : GW → Prop) : Prop :=
  ∃ n1 : Nat, galen w x1 0 = some n1 ∧ (((nI n1) ≤ x2 → (K w)) ∧ (¬ (nI n1) ≤ x2 → (∃ (n6 : Nat) (f7 : Nat → Int32), gai w x0 0 = some (n6, f7) ∧ vp_in x2 n6 ∧ (∃ (n10 : Nat) (f11 : Nat → Int32), w x1 = some (true, .inl (0, n10, .inl f11)) ∧ vp_in x2 n10 ∧ (∀ w14 : GW, w14 = gup w x1 (.inl (0, n10, .inl (upd f11 (x2).toNatClampNeg (rd f7 x2)))) → (KL2 ((x2 + 1), w14)))))))
def wX1_copies_2 (c : Nat → Option Nat) (x0 : Nat) (x1 : Nat) (x2 : Int32) (w : GW) (K : GW → Prop) : Prop := lfp (σ := Int32 × GW) (fun KL s => wX1_copies_2_b c x0 x1 s.1 s.2 KL K) (x2, w)
set_option maxRecDepth 100000 in
theorem bX1_copies_2 {E : jE} (hE : jOk E cX1_copies RX1) (hn : E.2.2.2.2 = 3) (hR : jRoom E 0 0) {c : Nat → Option Nat} (hc : E.2.2.1.2.2.2 = c) {b : Nat × Nat} {K : GW → Prop} (hK : jRv E (K)) {x0 : Nat} {x1 : Nat} {x2 : Int32} {w : GW}  (hw : wX1_copies_2 c x0 x1 x2 w K) : J E w b [(0, .ref (x0)), (1, .ref (x1)), (2, .int (x2))] 2 [] := by
  refine lfp_sound (σ := Int32 × GW) (F := fun KL s => wX1_copies_2_b c x0 x1 s.1 s.2 KL K) (P := fun s => J E (s.2) b [(0, .ref (x0)), (1, .ref (x1)), (2, .int (s.1))] 2 []) ?_ hw
  clear hw
  rintro KL2 ⟨x2, w⟩ hw ih2
  have hw : wX1_copies_2_b c x0 x1 x2 w KL2 K := hw
  unfold wX1_copies_2_b at hw
  refine j_iload_n hE 2 dX1_copies_2 rfl rfl ?_
  refine j_aload_n hE 1 dX1_copies_3 rfl rfl ?_
  obtain ⟨n1, h3, hw⟩ := hw
  refine j_alen hE h3 (Nat.le_of_ble_eq_true rfl) dX1_copies_4 ?_
  refine j_icmp_ge hE 20 dX1_copies_5 (by decide) (fun c5 => ?_) (fun c5 => ?_)
  · replace hw := hw.1 c5
    exact j_vret hE hK dX1_copies_20 hw
  · replace hw := hw.2 c5
    refine j_aload_n hE 1 dX1_copies_8 rfl rfl ?_
    refine j_iload_n hE 2 dX1_copies_9 rfl rfl ?_
    refine j_aload_n hE 0 dX1_copies_10 rfl rfl ?_
    refine j_iload_n hE 2 dX1_copies_11 rfl rfl ?_
    obtain ⟨n6, f7, h8, h9, hw⟩ := hw
    refine j_aldI hE h8 h9 dX1_copies_12 ?_
    obtain ⟨n10, f11, h12, h13, hw⟩ := hw
    refine j_iast hE h12 h13 dX1_copies_13 ?_
    refine j_nw (fun w14 e_w14 => ?_)
    replace hw := hw w14 e_w14
    refine j_iinc (L' := [(2, .int (x2 + 1)), (0, .ref (x0)), (1, .ref (x1))]) hE hn 2 dX1_copies_14 rfl (congrArg (x2 + ·) kc_1) (Nat.le_of_ble_eq_true rfl) rfl ?_
    refine j_goto hE 2 dX1_copies_17 (by decide) ?_
    refine j_sub [(0, .ref (x0)), (1, .ref (x1)), (2, .int (x2 + 1))] [1, 2, 0] rfl ?_
    have hz := ih2 ((x2 + 1), w14) hw
    exact hz
def wX1_copies_0 (c : Nat → Option Nat) (x0 : Nat) (x1 : Nat) (w : GW) (K : GW → Prop) : Prop :=
  wX1_copies_2 c x0 x1 ((0 : Int32)) w K
set_option maxRecDepth 100000 in
theorem bX1_copies_0 {E : jE} (hE : jOk E cX1_copies RX1) (hn : E.2.2.2.2 = 3) (hR : jRoom E 0 0) {c : Nat → Option Nat} (hc : E.2.2.1.2.2.2 = c) {b : Nat × Nat} {K : GW → Prop} (hK : jRv E (K)) {x0 : Nat} {x1 : Nat} {w : GW}  (hw : wX1_copies_0 c x0 x1 w K) : J E w b [(0, .ref (x0)), (1, .ref (x1))] 0 [] := by
  unfold wX1_copies_0 at hw
  refine j_iconst hE dX1_copies_0 kc_0 ?_
  refine j_istore_n (L' := [(2, .int ((0 : Int32))), (0, .ref (x0)), (1, .ref (x1))]) hE hn dX1_copies_1 rfl (Nat.le_of_ble_eq_true rfl) rfl ?_
  refine j_sub [(0, .ref (x0)), (1, .ref (x1)), (2, .int ((0 : Int32)))] [1, 2, 0] rfl ?_
  have hz := bX1_copies_2 (b := b) hE hn hR hc hK  hw
  exact hz
theorem jdX1_copies : jD yX1_copies 2 := by decide +kernel
abbrev wX1_copies := wX1_copies_0
theorem ctX1_copies (l : Launch) (G : gG) {c : Nat → Option Nat} (hc : G.2.2.2 = c) (x0 : Nat) (x1 : Nat) (w : GW) (K : GW → Prop) (hw : wX1_copies_0 c x0 x1 w K) {F2 L2 : Nat} (h2 : 0 ≤ F2 ∧ 0 ≤ L2 := by exact ⟨Nat.le_refl _, Nat.le_refl _⟩) : CtV l yX1_copies cX1_copies 3 ({ frames := F2, cells := 0, slots := 0, locals := L2 }) G [.ref (x0), .ref (x1)] w (K) :=
  CtV.of RX1 plainc_X1 rfl (Nat.le_of_ble_eq_true rfl) (fun E hE hl hG hn hR hK => bX1_copies_0 hE hn (hR.le h2.1 h2.2) (by rw [hG]; exact hc) hK hw)
def wX4_begin_13_b (c : Nat → Option Nat) (x0 : Nat) (x2 : Int32) (w : GW) (KL13 : Int32 × GW → Prop) (K : GW → Prop) : Prop :=
  ((nI 6) ≤ x2 → (∃ (n2 : Nat) (fs3 : List Value), w x0 = some (true, .inr (n2, fs3)) ∧ n2 ∈ ([3] : List Nat) ∧ 2 < fs3.length ∧ (∀ w7 : GW, w7 = gup w x0 (.inr (n2, fs3.set 2 (.int ((0 : Int32))))) → (∃ (n8 : Nat) (fs9 : List Value), w7 x0 = some (true, .inr (n8, fs9)) ∧ n8 ∈ ([3] : List Nat) ∧ 3 < fs9.length ∧ (∀ w13 : GW, w13 = gup w7 x0 (.inr (n8, fs9.set 3 (.int ((0 : Int32))))) → (∃ (n14 : Nat) (fs15 : List Value), w13 x0 = some (true, .inr (n14, fs15)) ∧ n14 ∈ ([3] : List Nat) ∧ 4 < fs15.length ∧ (∀ w19 : GW, w19 = gup w13 x0 (.inr (n14, fs15.set 4 (.int ((0 : Int32))))) → (K w19)))))))) ∧ (¬ (nI 6) ≤ x2 → (∃ f20 : Option Nat, gfm w x0 [3] 1 = some (va_rf f20) ∧ (∃ a22 : Nat, f20 = some a22 ∧ (∃ (n23 : Nat) (f24 : Nat → Option Nat), gaq w a22 5 = some (n23, f24) ∧ vp_in x2 n23 ∧ (∀ r27 : Option Nat, f24 (x2).toNatClampNeg = r27 → (∃ a28 : Nat, r27 = some a28 ∧ (∃ (n29 : Nat) (fs30 : List Value), w a28 = some (true, .inr (n29, fs30)) ∧ n29 ∈ ([4] : List Nat) ∧ 4 < fs30.length ∧ (∀ w34 : GW, w34 = gup w a28 (.inr (n29, fs30.set 4 (.int ((0 : Int32))))) → (KL13 ((x2 + 1), w34))))))))))
def wX4_begin_13 (c : Nat → Option Nat) (x0 : Nat) (x2 : Int32) (w : GW) (K : GW → Prop) : Prop := lfp (σ := Int32 × GW) (fun KL s => wX4_begin_13_b c x0 s.1 s.2 KL K) (x2, w)
set_option maxRecDepth 100000 in
theorem bX4_begin_13 {E : jE} (hE : jOk E cX4_begin RX4) (hn : E.2.2.2.2 = 3) (hR : jRoom E 1 22) {c : Nat → Option Nat} (hc : E.2.2.1.2.2.2 = c) {b : Nat × Nat} {K : GW → Prop} (hK : jRv E (K)) {x0 : Nat} {x2 : Int32} {w : GW}  (hw : wX4_begin_13 c x0 x2 w K) : J E w b [(0, .ref (x0)), (2, .int (x2))] 13 [] := by
  refine lfp_sound (σ := Int32 × GW) (F := fun KL s => wX4_begin_13_b c x0 s.1 s.2 KL K) (P := fun s => J E (s.2) b [(0, .ref (x0)), (2, .int (s.1))] 13 []) ?_ hw
  clear hw
  rintro KL13 ⟨x2, w⟩ hw ih13
  have hw : wX4_begin_13_b c x0 x2 w KL13 K := hw
  unfold wX4_begin_13_b at hw
  refine j_iload_n hE 1 dX4_begin_13 rfl rfl ?_
  refine j_bipush hE dX4_begin_14 kb_6 ?_
  refine j_icmp_ge hE 35 dX4_begin_16 (by decide) (fun c1 => ?_) (fun c1 => ?_)
  · replace hw := hw.1 c1
    refine j_aload_n hE 0 dX4_begin_35 rfl rfl ?_
    refine j_iconst hE dX4_begin_36 kc_0 ?_
    obtain ⟨n2, fs3, h4, h5, h6, hw⟩ := hw
    refine j_putX hE h5 gw_GlassStreet_State_hour_X4 q321 h4 rfl rfl h6 dX4_begin_37 ?_
    refine j_nw (fun w7 e_w7 => ?_)
    replace hw := hw w7 e_w7
    refine j_aload_n hE 0 dX4_begin_40 rfl rfl ?_
    refine j_iconst hE dX4_begin_41 kc_0 ?_
    obtain ⟨n8, fs9, h10, h11, h12, hw⟩ := hw
    refine j_putX hE h11 gw_GlassStreet_State_drawn_X4 q324 h10 rfl rfl h12 dX4_begin_42 ?_
    refine j_nw (fun w13 e_w13 => ?_)
    replace hw := hw w13 e_w13
    refine j_aload_n hE 0 dX4_begin_45 rfl rfl ?_
    refine j_iconst hE dX4_begin_46 kc_0 ?_
    obtain ⟨n14, fs15, h16, h17, h18, hw⟩ := hw
    refine j_putX hE h17 gw_GlassStreet_State_gone_X4 q327 h16 rfl rfl h18 dX4_begin_47 ?_
    refine j_nw (fun w19 e_w19 => ?_)
    replace hw := hw w19 e_w19
    exact j_vret hE hK dX4_begin_50 hw
  · replace hw := hw.2 c1
    refine j_aload_n hE 0 dX4_begin_19 rfl rfl ?_
    obtain ⟨f20, h21, hw⟩ := hw
    refine j_getM hE gf_GlassStreet_State_marks q318 h21 dX4_begin_20 ?_
    refine j_iload_n hE 1 dX4_begin_23 rfl rfl ?_
    obtain ⟨a22, e9, hx⟩ := hw
    subst e9
    have hw := hx
    clear hx
    obtain ⟨n23, f24, h25, h26, hw⟩ := hw
    obtain ⟨r27, e_r27⟩ : ∃ r9, f24 (x2).toNatClampNeg = r9 := ⟨_, rfl⟩
    replace hw := hw r27 e_r27
    refine j_aldQ hE (t := 5) ⟨by decide, by decide⟩ h25 h26 e_r27 dX4_begin_24 ?_
    refine j_iconst hE dX4_begin_25 kc_0 ?_
    obtain ⟨a28, e9, hx⟩ := hw
    subst e9
    have hw := hx
    clear hx
    obtain ⟨n29, fs30, h31, h32, h33, hw⟩ := hw
    refine j_putXN hE h32 gw_GlassStreet_Marks_many_X4 q302 h31 rfl rfl h33 dX4_begin_26 ?_
    refine j_nw (fun w34 e_w34 => ?_)
    replace hw := hw w34 e_w34
    refine j_iinc (L' := [(2, .int (x2 + 1)), (0, .ref (x0))]) hE hn 1 dX4_begin_29 rfl (congrArg (x2 + ·) kc_1) (Nat.le_of_ble_eq_true rfl) rfl ?_
    refine j_goto hE 13 dX4_begin_32 (by decide) ?_
    refine j_sub [(0, .ref (x0)), (2, .int (x2 + 1))] [1, 0] rfl ?_
    have hz := ih13 ((x2 + 1), w34) hw
    exact hz
def wX4_begin_0 (c : Nat → Option Nat) (x0 : Nat) (x1 : Nat) (w : GW) (K : GW → Prop) : Prop :=
  ∃ f1 : Option Nat, gfm w x1 [2] 3 = some (va_rf f1) ∧ (∃ f3 : Option Nat, gfm w x0 [3] 0 = some (va_rf f3) ∧ (∃ a5 : Nat, f1 = some a5 ∧ (∃ a6 : Nat, f3 = some a6 ∧ (wX1_copies c a5 a6 w (fun w7 => wX4_begin_13 c x0 ((0 : Int32)) w7 K)))))
set_option maxRecDepth 100000 in
theorem bX4_begin_0 {E : jE} (hE : jOk E cX4_begin RX4) (hn : E.2.2.2.2 = 3) (hR : jRoom E 1 22) {c : Nat → Option Nat} (hc : E.2.2.1.2.2.2 = c) {b : Nat × Nat} {K : GW → Prop} (hK : jRv E (K)) {x0 : Nat} {x1 : Nat} {w : GW}  (hw : wX4_begin_0 c x0 x1 w K) : J E w b [(0, .ref (x0)), (1, .ref (x1))] 0 [] := by
  unfold wX4_begin_0 at hw
  refine j_aload_n hE 1 dX4_begin_0 rfl rfl ?_
  obtain ⟨f1, h2, hw⟩ := hw
  refine j_getMN hE gf_GlassStreet_Houses_at q248 h2 dX4_begin_1 ?_
  refine j_aload_n hE 0 dX4_begin_4 rfl rfl ?_
  obtain ⟨f3, h4, hw⟩ := hw
  refine j_getM hE gf_GlassStreet_State_at q315 h4 dX4_begin_5 ?_
  obtain ⟨a5, e9, hx⟩ := hw
  subst e9
  have hw := hx
  clear hx
  obtain ⟨a6, e9, hx⟩ := hw
  subst e9
  have hw := hx
  clear hx
  refine jc_v (jr_SN hE hR (As := [.ref (a5), .ref (a6)]) (rest := []) ((ctX1_copies E.1.2.1 E.2.2.1 hc _ _ _ _ hw) E.2.2.2.1) (lw_meth q1069) q121 q1067 q1068 jdX1_copies ⟨Nat.le_of_ble_eq_true rfl, Nat.le_of_ble_eq_true rfl⟩ ⟨Nat.zero_le _, Nat.zero_le _⟩  rfl (Nat.le_of_ble_eq_true rfl) dX4_begin_8) (fun w7 hw => ?_)
  refine j_b0 ?_
  refine j_iconst hE dX4_begin_11 kc_0 ?_
  refine j_istore_n (L' := [(2, .int ((0 : Int32))), (0, .ref (x0)), (1, .ref (x1))]) hE hn dX4_begin_12 rfl (Nat.le_of_ble_eq_true rfl) rfl ?_
  refine j_sub [(0, .ref (x0)), (2, .int ((0 : Int32)))] [1, 0] rfl ?_
  have hz := bX4_begin_13 (b := b) hE hn hR hc hK  hw
  exact hz
theorem jdX4_begin : jD yX4_begin 1 := by decide +kernel
abbrev wX4_begin := wX4_begin_0
theorem ctX4_begin (l : Launch) (G : gG) {c : Nat → Option Nat} (hc : G.2.2.2 = c) (x0 : Nat) (x1 : Nat) (w : GW) (K : GW → Prop) (hw : wX4_begin_0 c x0 x1 w K) {F2 L2 : Nat} (h2 : 1 ≤ F2 ∧ 22 ≤ L2 := by exact ⟨Nat.le_refl _, Nat.le_refl _⟩) : CtV l yX4_begin cX4_begin 3 ({ frames := F2, cells := 0, slots := 0, locals := L2 }) G [.ref (x0), .ref (x1)] w (K) :=
  CtV.of RX4 plainc_X4 rfl (Nat.le_of_ble_eq_true rfl) (fun E hE hl hG hn hR hK => bX4_begin_0 hE hn (hR.le h2.1 h2.2) (by rw [hG]; exact hc) hK hw)
def wX1_street_58_b (c : Nat → Option Nat) (x0 : Nat) (x1 : Int32) (w : GW) (bb : Nat × Nat) (KL58 : Int32 × GW → Prop) (K : Int32 → GW → Prop) : Prop :=
  ((nI 4) ≤ x1 → (K ((0 : Int32)) w)) ∧ (¬ (nI 4) ≤ x1 → (∃ f2 : Option Nat, gfm w x0 [0] 14 = some (va_rf f2) ∧ (∃ a4 : Nat, f2 = some a4 ∧ (∃ (n5 : Nat) (f6 : Nat → Option Nat), w a4 = some (true, .inl (7, n5, .inr (.inr (.inr (.inr f6))))) ∧ vp_in x1 n5 ∧ (∀ w9 : GW, w9 = gup w a4 (.inl (7, n5, .inr (.inr (.inr (.inr (va_up f6 (x1).toNatClampNeg none)))))) → (KL58 ((x1 + 1), w9)))))))
def wX1_street_58 (c : Nat → Option Nat) (x0 : Nat) (x1 : Int32) (w : GW) (bb : Nat × Nat) (K : Int32 → GW → Prop) : Prop := lfp (σ := Int32 × GW) (fun KL s => wX1_street_58_b c x0 s.1 s.2 bb KL K) (x1, w)
set_option maxRecDepth 100000 in
theorem bX1_street_58 {E : jE} (hE : jOk E cX1_street RX1) (hn : E.2.2.2.2 = 2) (hR : jRoom E 75 3190) {c : Nat → Option Nat} (hc : E.2.2.1.2.2.2 = c) (hT : E.2.1.2.1.exceptionTable.toList = tableOf [(4, 15, 18, 87)]) {K : Int32 → GW → Prop} (hK : jXi E .int (K) (fun _ _ _ => False)) {x0 : Nat} {x1 : Int32} {w : GW} {bb : Nat × Nat}  (hw : wX1_street_58 c x0 x1 w bb K) : J E w bb [(0, .ref (x0)), (1, .int (x1))] 58 [] := by
  refine lfp_sound (σ := Int32 × GW) (F := fun KL s => wX1_street_58_b c x0 s.1 s.2 bb KL K) (P := fun s => J E (s.2) bb [(0, .ref (x0)), (1, .int (s.1))] 58 []) ?_ hw
  clear hw
  rintro KL58 ⟨x1, w⟩ hw ih58
  have hw : wX1_street_58_b c x0 x1 w bb KL58 K := hw
  unfold wX1_street_58_b at hw
  refine j_iload_n hE 1 dX1_street_58 rfl rfl ?_
  refine j_iconst hE dX1_street_59 kc_4 ?_
  refine j_icmp_ge hE 76 dX1_street_60 (by decide) (fun c1 => ?_) (fun c1 => ?_)
  · replace hw := hw.1 c1
    refine j_iconst hE dX1_street_76 kc_0 ?_
    exact jx_iret hE hK dX1_street_77 rfl hw
  · replace hw := hw.2 c1
    refine j_aload_n hE 0 dX1_street_63 rfl rfl ?_
    obtain ⟨f2, h3, hw⟩ := hw
    refine j_getM hE gf_GlassStreet_notches q361 h3 dX1_street_64 ?_
    refine j_iload_n hE 1 dX1_street_67 rfl rfl ?_
    refine j_null hE dX1_street_68 ?_
    obtain ⟨a4, e9, hx⟩ := hw
    subst e9
    have hw := hx
    clear hx
    obtain ⟨n5, f6, h7, h8, hw⟩ := hw
    refine j_astL (cs := []) (r := none) hE (fun _ h => nomatch h) (t := 7) ⟨by decide, by decide⟩ h7 h8 (Or.inl rfl) dX1_street_69 ?_
    refine j_nw (fun w9 e_w9 => ?_)
    replace hw := hw w9 e_w9
    refine j_iinc (L' := [(1, .int (x1 + 1)), (0, .ref (x0))]) hE hn 1 dX1_street_70 rfl (congrArg (x1 + ·) kc_1) (Nat.le_of_ble_eq_true rfl) rfl ?_
    refine j_goto hE 58 dX1_street_73 (by decide) ?_
    refine j_sub [(0, .ref (x0)), (1, .int (x1 + 1))] [1, 0] rfl ?_
    have hz := ih58 ((x1 + 1), w9) hw
    exact hz
def wX1_street_0 (c : Nat → Option Nat) (x0 : Nat) (w : GW) (bb : Nat × Nat) (K : Int32 → GW → Prop) : Prop :=
  gmc w x0 = some 0 ∧ (wX1_reads c x0 w (fun w2 => ∃ f3 : Option Nat, gfm w2 x0 [0] 1 = some (va_rf f3) ∧ (∃ a5 : Nat, f3 = some a5 ∧ (gmc w2 a5 = some 1 ∧ (∃ cb8 : Nat × Nat, (cb8.1 ≤ bb.1 ∧ cb8.2 ≤ bb.2) ∧ (wX2_houses c a5 w2 cb8 (fun r6 w10 => ∀ b16 : Nat × Nat, b16 = (bb.1 - cb8.1, bb.2 - cb8.2) → (∃ (n17 : Nat) (fs18 : List Value), w10 x0 = some (true, .inr (n17, fs18)) ∧ n17 ∈ ([0] : List Nat) ∧ 2 < fs18.length ∧ (∀ w22 : GW, w22 = gup w10 x0 (.inr (n17, fs18.set 2 (va_rf r6))) → (∃ f23 : Option Nat, gfm w22 x0 [0] 4 = some (va_rf f23) ∧ (∃ f25 : Option Nat, gfm w22 x0 [0] 2 = some (va_rf f25) ∧ (∃ a27 : Nat, f23 = some a27 ∧ (∃ a28 : Nat, f25 = some a28 ∧ (gmc w22 a27 = some 3 ∧ (wX4_begin c a27 a28 w22 (fun w30 => 1 ≤ b16.1 ∧ 3 ≤ b16.2 ∧ ∀ qa33 : Nat, w30 qa33 = none → (∀ w35 : GW, w35 = gup w30 qa33 (.inr (20, [.int 0, va_rf none, .int 0])) → (∀ b36 : Nat × Nat, b36 = (b16.1 - 1, b16.2 - 3) → (∃ cb37 : Nat × Nat, (cb37.1 ≤ b36.1 ∧ cb37.2 ≤ b36.2) ∧ (wJ2_init c qa33 ((0 : Int32)) w35 cb37 (fun w39 => ∀ b40 : Nat × Nat, b40 = (b36.1 - cb37.1, b36.2 - cb37.2) → (∃ (n41 : Nat) (fs42 : List Value), w39 x0 = some (true, .inr (n41, fs42)) ∧ n41 ∈ ([0] : List Nat) ∧ 3 < fs42.length ∧ (∀ w46 : GW, w46 = gup w39 x0 (.inr (n41, fs42.set 3 (va_rf (some qa33)))) → (gmc w46 x0 = some 0 ∧ (wX1_forgets c x0 w46 (fun w48 => ∃ (n49 : Nat) (fs50 : List Value), w48 x0 = some (true, .inr (n49, fs50)) ∧ n49 ∈ ([0] : List Nat) ∧ 9 < fs50.length ∧ (∀ w54 : GW, w54 = gup w48 x0 (.inr (n49, fs50.set 9 (.int ((0 : Int32))))) → (wX1_street_58 c x0 ((0 : Int32)) w54 b40 K)))))))))))))))))))))) (fun E9 qa11 w12 => Cond.castable E9 "GlassStreet$Wrong" ∈ lw_tbl ∧ ∀ b13 : Nat × Nat, b13 = (bb.1 - cb8.1, bb.2 - cb8.2) → (∃ f14 : Int32, gfm w12 qa11 [6] 6 = some (.int f14) ∧ (K f14 w12)))))))))
set_option maxRecDepth 100000 in
theorem bX1_street_0 {E : jE} (hE : jOk E cX1_street RX1) (hn : E.2.2.2.2 = 2) (hR : jRoom E 75 3190) {c : Nat → Option Nat} (hc : E.2.2.1.2.2.2 = c) (hT : E.2.1.2.1.exceptionTable.toList = tableOf [(4, 15, 18, 87)]) {K : Int32 → GW → Prop} (hK : jXi E .int (K) (fun _ _ _ => False)) {x0 : Nat} {w : GW} {bb : Nat × Nat}  (hw : wX1_street_0 c x0 w bb K) : J E w bb [(0, .ref (x0))] 0 [] := by
  unfold wX1_street_0 at hw
  refine j_aload_n hE 0 dX1_street_0 rfl rfl ?_
  obtain ⟨h1, hw⟩ := hw
  refine jc_v (jr_V hE hR (As := []) (rest := []) ((ctX1_reads E.1.2.1 E.2.2.1 hc _ _ _ hw) E.2.2.2.1) (lw_V q402 q404 qs1 q121 q405) jdX1_reads ⟨Nat.le_of_ble_eq_true rfl, Nat.le_of_ble_eq_true rfl⟩ ⟨Nat.zero_le _, Nat.zero_le _⟩ (gmc_gIs h1 (r := (RX1, TX1, 15)) rfl) rfl (Nat.le_of_ble_eq_true rfl) dX1_street_1) (fun w2 hw => ?_)
  refine j_b0 ?_
  refine j_aload_n hE 0 dX1_street_4 rfl rfl ?_
  refine j_aload_n hE 0 dX1_street_5 rfl rfl ?_
  obtain ⟨f3, h4, hw⟩ := hw
  refine j_getM hE gf_GlassStreet_reader q348 h4 dX1_street_6 ?_
  obtain ⟨a5, e9, hx⟩ := hw
  subst e9
  have hw := hx
  clear hx
  obtain ⟨h7, hw⟩ := hw
  obtain ⟨cb8, h9, hw⟩ := hw
  refine jcx_q (jrx_V hE hR (As := []) (rest := [.ref (x0)]) ((ctX2_houses E.1.2.1 E.2.2.1 hc _ _ _ _ _ hw) E.2.2.2.1) (lw_V q511 q512 q513 q122 q514) jdX2_houses ⟨Nat.le_of_ble_eq_true rfl, Nat.le_of_ble_eq_true rfl⟩ h9 (gmc_gIs h7 (r := (RX2, TX2, 8)) rfl) rfl (Nat.le_of_ble_eq_true rfl) dX1_street_9) (fun E9 qa11 w12 hw => ?_) (fun r6 w10 hw => ?_)
  · obtain ⟨hcs, hw⟩ := hw
    refine jx_catch hE hT q401 (by decide) ⟨by decide, by decide⟩ hcs ?_
    refine j_nb (fun b13 e_b13 => ?_)
    replace hw := hw b13 e_b13
    refine j_astore_n (L' := [(1, .ref (qa11)), (0, .ref (x0))]) hE hn dX1_street_18 rfl (Nat.le_of_ble_eq_true rfl) rfl ?_
    refine j_aload_n hE 0 dX1_street_19 rfl rfl ?_
    obtain ⟨f14, h15, hw⟩ := hw
    refine j_getMN hE gf_GlassStreet_Wrong_fault q601 h15 dX1_street_20 ?_
    exact jx_iret hE hK dX1_street_23 rfl hw
  refine j_nb (fun b16 e_b16 => ?_)
  replace hw := hw b16 e_b16
  obtain ⟨n17, fs18, h19, h20, h21, hw⟩ := hw
  refine j_putX hE h20 gw_GlassStreet_houses_X1 q349 h19 (va_rf_nar _ _ (by decide)) (va_rf_fit _ _ (by decide)) h21 dX1_street_12 ?_
  refine j_nw (fun w22 e_w22 => ?_)
  replace hw := hw w22 e_w22
  refine j_goto hE 24 dX1_street_15 (by decide) ?_
  refine j_aload_n hE 0 dX1_street_24 rfl rfl ?_
  obtain ⟨f23, h24, hw⟩ := hw
  refine j_getM hE gf_GlassStreet_state q351 h24 dX1_street_25 ?_
  refine j_aload_n hE 0 dX1_street_28 rfl rfl ?_
  obtain ⟨f25, h26, hw⟩ := hw
  refine j_getM hE gf_GlassStreet_houses q349 h26 dX1_street_29 ?_
  obtain ⟨a27, e9, hx⟩ := hw
  subst e9
  have hw := hx
  clear hx
  obtain ⟨a28, e9, hx⟩ := hw
  subst e9
  have hw := hx
  clear hx
  obtain ⟨h29, hw⟩ := hw
  refine jc_v (jr_V hE hR (As := [.ref (a28)]) (rest := []) ((ctX4_begin E.1.2.1 E.2.2.1 hc _ _ _ _ hw) E.2.2.2.1) (lw_V q1063 q1064 q1065 q127 q1066) jdX4_begin ⟨Nat.le_of_ble_eq_true rfl, Nat.le_of_ble_eq_true rfl⟩ ⟨Nat.zero_le _, Nat.zero_le _⟩ (gmc_gIs h29 (r := (RX4, TX4, 5)) rfl) rfl (Nat.le_of_ble_eq_true rfl) dX1_street_32) (fun w30 hw => ?_)
  refine j_b0 ?_
  refine j_aload_n hE 0 dX1_street_35 rfl rfl ?_
  obtain ⟨h31, h32, hw⟩ := hw
  refine j_new (c := 20) (fs := [.int 0, va_rf none, .int 0]) hE gok_20 q277 q211 q126 dfl_20 ⟨h31, h32⟩ dX1_street_36 (fun qa33 h34 => ?_)
  replace hw := hw qa33 h34
  refine j_nw (fun w35 e_w35 => ?_)
  replace hw := hw w35 e_w35
  refine j_nb (fun b36 e_b36 => ?_)
  replace hw := hw b36 e_b36
  refine j_dup hE dX1_street_39 rfl ?_
  refine j_iconst hE dX1_street_40 kc_0 ?_
  obtain ⟨cb37, h38, hw⟩ := hw
  refine jc_v (jr_I hE hR (As := [.int ((0 : Int32))]) (rest := [.ref (qa33), .ref (x0)]) ((ctJ2_init E.1.2.1 E.2.2.1 hc _ _ _ _ _ hw) E.2.2.2.1) (lw_meth q214) q126 q278 q213 rfl jdJ2_init ⟨Nat.le_of_ble_eq_true rfl, Nat.le_of_ble_eq_true rfl⟩ h38  rfl (Nat.le_of_ble_eq_true rfl) dX1_street_41) (fun w39 hw => ?_)
  refine j_nb (fun b40 e_b40 => ?_)
  replace hw := hw b40 e_b40
  obtain ⟨n41, fs42, h43, h44, h45, hw⟩ := hw
  refine j_putX hE h44 gw_GlassStreet_lines_X1 q350 h43 rfl rfl h45 dX1_street_44 ?_
  refine j_nw (fun w46 e_w46 => ?_)
  replace hw := hw w46 e_w46
  refine j_aload_n hE 0 dX1_street_47 rfl rfl ?_
  obtain ⟨h47, hw⟩ := hw
  refine jc_v (jr_V hE hR (As := []) (rest := []) ((ctX1_forgets E.1.2.1 E.2.2.1 hc _ _ _ hw) E.2.2.2.1) (lw_V q343 q345 qs0 q121 q346) jdX1_forgets ⟨Nat.le_of_ble_eq_true rfl, Nat.le_of_ble_eq_true rfl⟩ ⟨Nat.zero_le _, Nat.zero_le _⟩ (gmc_gIs h47 (r := (RX1, TX1, 15)) rfl) rfl (Nat.le_of_ble_eq_true rfl) dX1_street_48) (fun w48 hw => ?_)
  refine j_b0 ?_
  refine j_aload_n hE 0 dX1_street_51 rfl rfl ?_
  refine j_iconst hE dX1_street_52 kc_0 ?_
  obtain ⟨n49, fs50, h51, h52, h53, hw⟩ := hw
  refine j_putX hE h52 gw_GlassStreet_undos_X1 q356 h51 rfl rfl h53 dX1_street_53 ?_
  refine j_nw (fun w54 e_w54 => ?_)
  replace hw := hw w54 e_w54
  refine j_iconst hE dX1_street_56 kc_0 ?_
  refine j_istore_n (L' := [(1, .int ((0 : Int32))), (0, .ref (x0))]) hE hn dX1_street_57 rfl (Nat.le_of_ble_eq_true rfl) rfl ?_
  refine j_sub [(0, .ref (x0)), (1, .int ((0 : Int32)))] [1, 0] rfl ?_
  have hz := bX1_street_58 hE hn hR hc hT hK  hw
  exact hz
theorem jdX1_street : jD yX1_street 0 := by decide +kernel
abbrev wX1_street := wX1_street_0
theorem ctX1_street (l : Launch) (G : gG) {c : Nat → Option Nat} (hc : G.2.2.2 = c) (x0 : Nat) (w : GW) (bb : Nat × Nat) (K : Int32 → GW → Prop) (hw : wX1_street_0 c x0 w bb K) {F2 L2 : Nat} (h2 : 75 ≤ F2 ∧ 3190 ≤ L2 := by exact ⟨Nat.le_refl _, Nat.le_refl _⟩) : CtWI l yX1_street cX1_street 2 .int [(4, 15, 18, 87)] ({ frames := F2, cells := bb.1, slots := bb.2, locals := L2 }) G [.ref (x0)] w (K) :=
  CtWI.of RX1 plainc_X1 rfl (Nat.le_of_ble_eq_true rfl) (fun E hE hl hG hn hR hT hK => bX1_street_0 hE hn (hR.le h2.1 h2.2) (by rw [hG]; exact hc) hT hK hw)
def wX17_init_0 (c : Nat → Option Nat) (x0 : Nat) (w0 : GW) (K : Prop) : Prop :=
  K
set_option maxRecDepth 100000 in
theorem bX17_init_0 {E : jE} (hE : jOk E cX17_init RX17) (hn : E.2.2.2.2 = 1) (hR : jRoom E 1 20) {c : Nat → Option Nat} (hc : E.2.2.1.2.2.2 = c) (hini : E.2.1.1.name = "<init>") {b : Nat × Nat} {w0 : GW} {K : Prop} (hK : jRv E (KPV w0 K)) {x0 : Nat}  (hw : wX17_init_0 c x0 w0 K) : J E w0 b [(0, .ref (x0))] 0 [] := by
  unfold wX17_init_0 at hw
  refine j_aload_n hE 0 dX17_init_0 rfl rfl ?_
  refine j_objInit hE hR q1093 q_oi_inst q_oi_code (Nat.le_of_ble_eq_true rfl) (Nat.le_of_ble_eq_true rfl) dX17_init_1 ?_
  exact j_vret hE hK dX17_init_4 ⟨rfl, hw⟩
theorem jdX17_init : jD yX17_init 0 := by decide +kernel
abbrev wX17_init := wX17_init_0
theorem ctX17_init (l : Launch) (G : gG) {c : Nat → Option Nat} (hc : G.2.2.2 = c) (x0 : Nat) (w0 : GW) (K : Prop) (hw : wX17_init_0 c x0 w0 K) {F2 L2 : Nat} (h2 : 1 ≤ F2 ∧ 20 ≤ L2 := by exact ⟨Nat.le_refl _, Nat.le_refl _⟩) : CtV l yX17_init cX17_init 1 ({ frames := F2, cells := 0, slots := 0, locals := L2 }) G [.ref (x0)] w0 (KPV w0 K) :=
  CtV.ofI RX17 plainc_X17 rfl rfl (Nat.le_of_ble_eq_true rfl) (fun E hE hini hl hG hn hR hK => bX17_init_0 hE hn (hR.le h2.1 h2.2) (by rw [hG]; exact hc) hini hK hw)
def wX18_init_0 (c : Nat → Option Nat) (x0 : Nat) (w0 : GW) (K : Prop) : Prop :=
  wX17_init c x0 w0 (K)
set_option maxRecDepth 100000 in
theorem bX18_init_0 {E : jE} (hE : jOk E cX18_init RX18) (hn : E.2.2.2.2 = 1) (hR : jRoom E 2 40) {c : Nat → Option Nat} (hc : E.2.2.1.2.2.2 = c) (hini : E.2.1.1.name = "<init>") {b : Nat × Nat} {w0 : GW} {K : Prop} (hK : jRv E (KPV w0 K)) {x0 : Nat}  (hw : wX18_init_0 c x0 w0 K) : J E w0 b [(0, .ref (x0))] 0 [] := by
  unfold wX18_init_0 at hw
  refine j_aload_n hE 0 dX18_init_0 rfl rfl ?_
  refine jc_vp (jr_IN hE hR (As := []) (rest := []) ((ctX17_init E.1.2.1 E.2.2.1 hc _ _ _ hw) E.2.2.2.1) (lw_meth q1092) q155 q1090 q1091 rfl jdX17_init ⟨Nat.le_of_ble_eq_true rfl, Nat.le_of_ble_eq_true rfl⟩ ⟨Nat.zero_le _, Nat.zero_le _⟩  rfl (Nat.le_of_ble_eq_true rfl) dX18_init_1) (fun  hw => ?_)
  refine j_b0 ?_
  exact j_vret hE hK dX18_init_4 ⟨rfl, hw⟩
theorem jdX18_init : jD yX18_init 0 := by decide +kernel
abbrev wX18_init := wX18_init_0
theorem ctX18_init (l : Launch) (G : gG) {c : Nat → Option Nat} (hc : G.2.2.2 = c) (x0 : Nat) (w0 : GW) (K : Prop) (hw : wX18_init_0 c x0 w0 K) {F2 L2 : Nat} (h2 : 2 ≤ F2 ∧ 40 ≤ L2 := by exact ⟨Nat.le_refl _, Nat.le_refl _⟩) : CtV l yX18_init cX18_init 1 ({ frames := F2, cells := 0, slots := 0, locals := L2 }) G [.ref (x0)] w0 (KPV w0 K) :=
  CtV.ofI RX18 plainc_X18 rfl rfl (Nat.le_of_ble_eq_true rfl) (fun E hE hini hl hG hn hR hK => bX18_init_0 hE hn (hR.le h2.1 h2.2) (by rw [hG]; exact hc) hini hK hw)
def wX2_passed_0 (c : Nat → Option Nat) (x0 : Nat) (x1 : Int32) (w : GW) (bb : Nat × Nat) (K : Int32 → GW → Prop) (KX : String → Nat → GW → Prop) : Prop :=
  (0 ≤ x1 → (gmc w x0 = some 1 ∧ (wX2_next c x0 w (fun w3 => K x1 w3)))) ∧ (¬ 0 ≤ x1 → (gmc w x0 = some 1 ∧ (∃ cb6 : Nat × Nat, (cb6.1 ≤ bb.1 ∧ cb6.2 ≤ bb.2) ∧ (wX2_wrong c x0 (nI 2) w cb6 (fun r4 w8 => ∀ b9 : Nat × Nat, b9 = (bb.1 - cb6.1, bb.2 - cb6.2) → (∃ a10 : Nat, r4 = some a10 ∧ (∃ (cc : Nat) (fs : List Value) (rr : vw_C), w8 a10 = some (true, .inr (cc, fs)) ∧ gCl[cc]? = some rr ∧ KX rr.1 a10 w8)))))))
set_option maxRecDepth 100000 in
theorem bX2_passed_0 {E : jE} (hE : jOk E cX2_passed RX2) (hn : E.2.2.2.2 = 2) (hR : jRoom E 6 146) {c : Nat → Option Nat} (hc : E.2.2.1.2.2.2 = c) (hN : jNoH E) {K : Int32 → GW → Prop} {KX : String → Nat → GW → Prop} (hK : jXi E .int (K) KX) {x0 : Nat} {x1 : Int32} {w : GW} {bb : Nat × Nat}  (hw : wX2_passed_0 c x0 x1 w bb K KX) : J E w bb [(0, .ref (x0)), (1, .int (x1))] 0 [] := by
  unfold wX2_passed_0 at hw
  refine j_iload_n hE 1 dX2_passed_0 rfl rfl ?_
  refine j_if_ge hE 10 dX2_passed_1 (by decide) (fun c1 => ?_) (fun c1 => ?_)
  · replace hw := hw.1 c1
    refine j_aload_n hE 0 dX2_passed_10 rfl rfl ?_
    obtain ⟨h2, hw⟩ := hw
    refine jc_v (jr_V hE hR (As := []) (rest := []) ((ctX2_next E.1.2.1 E.2.2.1 hc _ _ _ hw) E.2.2.2.1) (lw_V q410 q412 qs2 q122 q413) jdX2_next ⟨Nat.le_of_ble_eq_true rfl, Nat.le_of_ble_eq_true rfl⟩ ⟨Nat.zero_le _, Nat.zero_le _⟩ (gmc_gIs h2 (r := (RX2, TX2, 8)) rfl) rfl (Nat.le_of_ble_eq_true rfl) dX2_passed_11) (fun w3 hw => ?_)
    refine j_b0 ?_
    refine j_iload_n hE 1 dX2_passed_14 rfl rfl ?_
    exact jx_iret hE hK dX2_passed_15 rfl hw
  · replace hw := hw.2 c1
    refine j_aload_n hE 0 dX2_passed_4 rfl rfl ?_
    refine j_iconst hE dX2_passed_5 kc_2 ?_
    obtain ⟨h5, hw⟩ := hw
    obtain ⟨cb6, h7, hw⟩ := hw
    refine jc_q (jr_V hE hR (As := [.int (nI 2)]) (rest := []) ((ctX2_wrong E.1.2.1 E.2.2.1 hc _ _ _ _ _ hw) E.2.2.2.1) (lw_V q544 q546 qs5 q122 q547) jdX2_wrong ⟨Nat.le_of_ble_eq_true rfl, Nat.le_of_ble_eq_true rfl⟩ h7 (gmc_gIs h5 (r := (RX2, TX2, 8)) rfl) rfl (Nat.le_of_ble_eq_true rfl) dX2_passed_6) (fun r4 w8 hw => ?_)
    refine j_nb (fun b9 e_b9 => ?_)
    replace hw := hw b9 e_b9
    obtain ⟨a10, e9, hx⟩ := hw
    subst e9
    have hw := hx
    clear hx
    obtain ⟨cc, fs, rr, h1, h2, hw⟩ := hw
    exact jx_throw hE h1 h2 dX2_passed_9 (jx_out hE hK.2 hN hw)
theorem jdX2_passed : jD yX2_passed 1 := by decide +kernel
abbrev wX2_passed := wX2_passed_0
theorem ctX2_passed (l : Launch) (G : gG) {c : Nat → Option Nat} (hc : G.2.2.2 = c) (x0 : Nat) (x1 : Int32) (w : GW) (bb : Nat × Nat) (K : Int32 → GW → Prop) (KX : String → Nat → GW → Prop) (hw : wX2_passed_0 c x0 x1 w bb K KX) {F2 L2 : Nat} (h2 : 6 ≤ F2 ∧ 146 ≤ L2 := by exact ⟨Nat.le_refl _, Nat.le_refl _⟩) : CtXI l yX2_passed cX2_passed 2 .int ({ frames := F2, cells := bb.1, slots := bb.2, locals := L2 }) G [.ref (x0), .int (x1)] w (K) KX :=
  CtXI.of RX2 plainc_X2 rfl (Nat.le_of_ble_eq_true rfl) (fun E hE hl hG hn hR hN hK => bX2_passed_0 hE hn (hR.le h2.1 h2.2) (by rw [hG]; exact hc) hN hK hw)
def wX19_init_0 (c : Nat → Option Nat) (x0 : Nat) (x1 : Int32) (x2 : Int32) (w : GW) (K : GW → Prop) : Prop :=
  wX17_init c x0 w (∃ (n1 : Nat) (fs2 : List Value), w x0 = some (true, .inr (n1, fs2)) ∧ n1 ∈ ([15] : List Nat) ∧ 0 < fs2.length ∧ (∀ w6 : GW, w6 = gup w x0 (.inr (n1, fs2.set 0 (.int x1))) → (∃ (n7 : Nat) (fs8 : List Value), w6 x0 = some (true, .inr (n7, fs8)) ∧ n7 ∈ ([15] : List Nat) ∧ 1 < fs8.length ∧ (∀ w12 : GW, w12 = gup w6 x0 (.inr (n7, fs8.set 1 (.int x2))) → (K w12)))))
set_option maxRecDepth 100000 in
theorem bX19_init_0 {E : jE} (hE : jOk E cX19_init RX19) (hn : E.2.2.2.2 = 3) (hR : jRoom E 2 40) {c : Nat → Option Nat} (hc : E.2.2.1.2.2.2 = c) (hini : E.2.1.1.name = "<init>") {b : Nat × Nat} {K : GW → Prop} (hK : jRv E (K)) {x0 : Nat} {x1 : Int32} {x2 : Int32} {w : GW}  (hw : wX19_init_0 c x0 x1 x2 w K) : J E w b [(0, .ref (x0)), (1, .int (x1)), (2, .int (x2))] 0 [] := by
  unfold wX19_init_0 at hw
  refine j_aload_n hE 0 dX19_init_0 rfl rfl ?_
  refine jc_vp (jr_IN hE hR (As := []) (rest := []) ((ctX17_init E.1.2.1 E.2.2.1 hc _ _ _ hw) E.2.2.2.1) (lw_meth q1092) q155 q1104 q1091 rfl jdX17_init ⟨Nat.le_of_ble_eq_true rfl, Nat.le_of_ble_eq_true rfl⟩ ⟨Nat.zero_le _, Nat.zero_le _⟩  rfl (Nat.le_of_ble_eq_true rfl) dX19_init_1) (fun  hw => ?_)
  refine j_b0 ?_
  refine j_aload_n hE 0 dX19_init_4 rfl rfl ?_
  refine j_iload_n hE 1 dX19_init_5 rfl rfl ?_
  obtain ⟨n1, fs2, h3, h4, h5, hw⟩ := hw
  refine j_putXF hE hini h4 gw_GlassStreet_Walked_person_X19 q1105 h3 rfl rfl h5 dX19_init_6 ?_
  refine j_nw (fun w6 e_w6 => ?_)
  replace hw := hw w6 e_w6
  refine j_aload_n hE 0 dX19_init_9 rfl rfl ?_
  refine j_iload_n hE 2 dX19_init_10 rfl rfl ?_
  obtain ⟨n7, fs8, h9, h10, h11, hw⟩ := hw
  refine j_putXF hE hini h10 gw_GlassStreet_Walked_cell_X19 q1106 h9 rfl rfl h11 dX19_init_11 ?_
  refine j_nw (fun w12 e_w12 => ?_)
  replace hw := hw w12 e_w12
  exact j_vret hE hK dX19_init_14 hw
theorem jdX19_init : jD yX19_init 2 := by decide +kernel
abbrev wX19_init := wX19_init_0
theorem ctX19_init (l : Launch) (G : gG) {c : Nat → Option Nat} (hc : G.2.2.2 = c) (x0 : Nat) (x1 : Int32) (x2 : Int32) (w : GW) (K : GW → Prop) (hw : wX19_init_0 c x0 x1 x2 w K) {F2 L2 : Nat} (h2 : 2 ≤ F2 ∧ 40 ≤ L2 := by exact ⟨Nat.le_refl _, Nat.le_refl _⟩) : CtV l yX19_init cX19_init 3 ({ frames := F2, cells := 0, slots := 0, locals := L2 }) G [.ref (x0), .int (x1), .int (x2)] w (K) :=
  CtV.ofI RX19 plainc_X19 rfl rfl (Nat.le_of_ble_eq_true rfl) (fun E hE hini hl hG hn hR hK => bX19_init_0 hE hn (hR.le h2.1 h2.2) (by rw [hG]; exact hc) hini hK hw)
def wX20_init_0 (c : Nat → Option Nat) (x0 : Nat) (x1 : Int32) (x2 : Int32) (w : GW) (K : GW → Prop) : Prop :=
  wX17_init c x0 w (∃ (n1 : Nat) (fs2 : List Value), w x0 = some (true, .inr (n1, fs2)) ∧ n1 ∈ ([16] : List Nat) ∧ 0 < fs2.length ∧ (∀ w6 : GW, w6 = gup w x0 (.inr (n1, fs2.set 0 (.int x1))) → (∃ (n7 : Nat) (fs8 : List Value), w6 x0 = some (true, .inr (n7, fs8)) ∧ n7 ∈ ([16] : List Nat) ∧ 1 < fs8.length ∧ (∀ w12 : GW, w12 = gup w6 x0 (.inr (n7, fs8.set 1 (.int x2))) → (K w12)))))
set_option maxRecDepth 100000 in
theorem bX20_init_0 {E : jE} (hE : jOk E cX20_init RX20) (hn : E.2.2.2.2 = 3) (hR : jRoom E 2 40) {c : Nat → Option Nat} (hc : E.2.2.1.2.2.2 = c) (hini : E.2.1.1.name = "<init>") {b : Nat × Nat} {K : GW → Prop} (hK : jRv E (K)) {x0 : Nat} {x1 : Int32} {x2 : Int32} {w : GW}  (hw : wX20_init_0 c x0 x1 x2 w K) : J E w b [(0, .ref (x0)), (1, .int (x1)), (2, .int (x2))] 0 [] := by
  unfold wX20_init_0 at hw
  refine j_aload_n hE 0 dX20_init_0 rfl rfl ?_
  refine jc_vp (jr_IN hE hR (As := []) (rest := []) ((ctX17_init E.1.2.1 E.2.2.1 hc _ _ _ hw) E.2.2.2.1) (lw_meth q1092) q155 q1117 q1091 rfl jdX17_init ⟨Nat.le_of_ble_eq_true rfl, Nat.le_of_ble_eq_true rfl⟩ ⟨Nat.zero_le _, Nat.zero_le _⟩  rfl (Nat.le_of_ble_eq_true rfl) dX20_init_1) (fun  hw => ?_)
  refine j_b0 ?_
  refine j_aload_n hE 0 dX20_init_4 rfl rfl ?_
  refine j_iload_n hE 1 dX20_init_5 rfl rfl ?_
  obtain ⟨n1, fs2, h3, h4, h5, hw⟩ := hw
  refine j_putXF hE hini h4 gw_GlassStreet_Did_person_X20 q1118 h3 rfl rfl h5 dX20_init_6 ?_
  refine j_nw (fun w6 e_w6 => ?_)
  replace hw := hw w6 e_w6
  refine j_aload_n hE 0 dX20_init_9 rfl rfl ?_
  refine j_iload_n hE 2 dX20_init_10 rfl rfl ?_
  obtain ⟨n7, fs8, h9, h10, h11, hw⟩ := hw
  refine j_putXF hE hini h10 gw_GlassStreet_Did_deed_X20 q1120 h9 rfl rfl h11 dX20_init_11 ?_
  refine j_nw (fun w12 e_w12 => ?_)
  replace hw := hw w12 e_w12
  exact j_vret hE hK dX20_init_14 hw
theorem jdX20_init : jD yX20_init 2 := by decide +kernel
abbrev wX20_init := wX20_init_0
theorem ctX20_init (l : Launch) (G : gG) {c : Nat → Option Nat} (hc : G.2.2.2 = c) (x0 : Nat) (x1 : Int32) (x2 : Int32) (w : GW) (K : GW → Prop) (hw : wX20_init_0 c x0 x1 x2 w K) {F2 L2 : Nat} (h2 : 2 ≤ F2 ∧ 40 ≤ L2 := by exact ⟨Nat.le_refl _, Nat.le_refl _⟩) : CtV l yX20_init cX20_init 3 ({ frames := F2, cells := 0, slots := 0, locals := L2 }) G [.ref (x0), .int (x1), .int (x2)] w (K) :=
  CtV.ofI RX20 plainc_X20 rfl rfl (Nat.le_of_ble_eq_true rfl) (fun E hE hini hl hG hn hR hK => bX20_init_0 hE hn (hR.le h2.1 h2.2) (by rw [hG]; exact hc) hini hK hw)
def wX21_init_0 (c : Nat → Option Nat) (x0 : Nat) (x1 : Int32) (w : GW) (K : GW → Prop) : Prop :=
  wX17_init c x0 w (∃ (n1 : Nat) (fs2 : List Value), w x0 = some (true, .inr (n1, fs2)) ∧ n1 ∈ ([17] : List Nat) ∧ 0 < fs2.length ∧ (∀ w6 : GW, w6 = gup w x0 (.inr (n1, fs2.set 0 (.int x1))) → (K w6)))
set_option maxRecDepth 100000 in
theorem bX21_init_0 {E : jE} (hE : jOk E cX21_init RX21) (hn : E.2.2.2.2 = 2) (hR : jRoom E 2 40) {c : Nat → Option Nat} (hc : E.2.2.1.2.2.2 = c) (hini : E.2.1.1.name = "<init>") {b : Nat × Nat} {K : GW → Prop} (hK : jRv E (K)) {x0 : Nat} {x1 : Int32} {w : GW}  (hw : wX21_init_0 c x0 x1 w K) : J E w b [(0, .ref (x0)), (1, .int (x1))] 0 [] := by
  unfold wX21_init_0 at hw
  refine j_aload_n hE 0 dX21_init_0 rfl rfl ?_
  refine jc_vp (jr_IN hE hR (As := []) (rest := []) ((ctX17_init E.1.2.1 E.2.2.1 hc _ _ _ hw) E.2.2.2.1) (lw_meth q1092) q155 q1131 q1091 rfl jdX17_init ⟨Nat.le_of_ble_eq_true rfl, Nat.le_of_ble_eq_true rfl⟩ ⟨Nat.zero_le _, Nat.zero_le _⟩  rfl (Nat.le_of_ble_eq_true rfl) dX21_init_1) (fun  hw => ?_)
  refine j_b0 ?_
  refine j_aload_n hE 0 dX21_init_4 rfl rfl ?_
  refine j_iload_n hE 1 dX21_init_5 rfl rfl ?_
  obtain ⟨n1, fs2, h3, h4, h5, hw⟩ := hw
  refine j_putXF hE hini h4 gw_GlassStreet_Washed_pane_X21 q1132 h3 rfl rfl h5 dX21_init_6 ?_
  refine j_nw (fun w6 e_w6 => ?_)
  replace hw := hw w6 e_w6
  exact j_vret hE hK dX21_init_9 hw
theorem jdX21_init : jD yX21_init 1 := by decide +kernel
abbrev wX21_init := wX21_init_0
theorem ctX21_init (l : Launch) (G : gG) {c : Nat → Option Nat} (hc : G.2.2.2 = c) (x0 : Nat) (x1 : Int32) (w : GW) (K : GW → Prop) (hw : wX21_init_0 c x0 x1 w K) {F2 L2 : Nat} (h2 : 2 ≤ F2 ∧ 40 ≤ L2 := by exact ⟨Nat.le_refl _, Nat.le_refl _⟩) : CtV l yX21_init cX21_init 2 ({ frames := F2, cells := 0, slots := 0, locals := L2 }) G [.ref (x0), .int (x1)] w (K) :=
  CtV.ofI RX21 plainc_X21 rfl rfl (Nat.le_of_ble_eq_true rfl) (fun E hE hini hl hG hn hR hK => bX21_init_0 hE hn (hR.le h2.1 h2.2) (by rw [hG]; exact hc) hini hK hw)
def wX22_init_0 (c : Nat → Option Nat) (x0 : Nat) (x1 : Int32) (x2 : Int32) (w : GW) (K : GW → Prop) : Prop :=
  wX17_init c x0 w (∃ (n1 : Nat) (fs2 : List Value), w x0 = some (true, .inr (n1, fs2)) ∧ n1 ∈ ([18] : List Nat) ∧ 0 < fs2.length ∧ (∀ w6 : GW, w6 = gup w x0 (.inr (n1, fs2.set 0 (.int x1))) → (∃ (n7 : Nat) (fs8 : List Value), w6 x0 = some (true, .inr (n7, fs8)) ∧ n7 ∈ ([18] : List Nat) ∧ 1 < fs8.length ∧ (narrow .boolean (.int x2) = .int x2 ∧ (∀ w13 : GW, w13 = gup w6 x0 (.inr (n7, fs8.set 1 (.int x2))) → (K w13))))))
set_option maxRecDepth 100000 in
theorem bX22_init_0 {E : jE} (hE : jOk E cX22_init RX22) (hn : E.2.2.2.2 = 3) (hR : jRoom E 2 40) {c : Nat → Option Nat} (hc : E.2.2.1.2.2.2 = c) (hini : E.2.1.1.name = "<init>") {b : Nat × Nat} {K : GW → Prop} (hK : jRv E (K)) {x0 : Nat} {x1 : Int32} {x2 : Int32} {w : GW}  (hw : wX22_init_0 c x0 x1 x2 w K) : J E w b [(0, .ref (x0)), (1, .int (x1)), (2, .int (x2))] 0 [] := by
  unfold wX22_init_0 at hw
  refine j_aload_n hE 0 dX22_init_0 rfl rfl ?_
  refine jc_vp (jr_IN hE hR (As := []) (rest := []) ((ctX17_init E.1.2.1 E.2.2.1 hc _ _ _ hw) E.2.2.2.1) (lw_meth q1092) q155 q1141 q1091 rfl jdX17_init ⟨Nat.le_of_ble_eq_true rfl, Nat.le_of_ble_eq_true rfl⟩ ⟨Nat.zero_le _, Nat.zero_le _⟩  rfl (Nat.le_of_ble_eq_true rfl) dX22_init_1) (fun  hw => ?_)
  refine j_b0 ?_
  refine j_aload_n hE 0 dX22_init_4 rfl rfl ?_
  refine j_iload_n hE 1 dX22_init_5 rfl rfl ?_
  obtain ⟨n1, fs2, h3, h4, h5, hw⟩ := hw
  refine j_putXF hE hini h4 gw_GlassStreet_Changed_pane_X22 q1142 h3 rfl rfl h5 dX22_init_6 ?_
  refine j_nw (fun w6 e_w6 => ?_)
  replace hw := hw w6 e_w6
  refine j_aload_n hE 0 dX22_init_9 rfl rfl ?_
  refine j_iload_n hE 2 dX22_init_10 rfl rfl ?_
  obtain ⟨n7, fs8, h9, h10, h11, hw⟩ := hw
  obtain ⟨h12, hw⟩ := hw
  refine j_putXF hE hini h10 gw_GlassStreet_Changed_isStone_X22 q1143 h9 h12 (fits_narrow _ _ h12) h11 dX22_init_11 ?_
  refine j_nw (fun w13 e_w13 => ?_)
  replace hw := hw w13 e_w13
  exact j_vret hE hK dX22_init_14 hw
theorem jdX22_init : jD yX22_init 2 := by decide +kernel
abbrev wX22_init := wX22_init_0
theorem ctX22_init (l : Launch) (G : gG) {c : Nat → Option Nat} (hc : G.2.2.2 = c) (x0 : Nat) (x1 : Int32) (x2 : Int32) (w : GW) (K : GW → Prop) (hw : wX22_init_0 c x0 x1 x2 w K) {F2 L2 : Nat} (h2 : 2 ≤ F2 ∧ 40 ≤ L2 := by exact ⟨Nat.le_refl _, Nat.le_refl _⟩) : CtV l yX22_init cX22_init 3 ({ frames := F2, cells := 0, slots := 0, locals := L2 }) G [.ref (x0), .int (x1), .int (x2)] w (K) :=
  CtV.ofI RX22 plainc_X22 rfl rfl (Nat.le_of_ble_eq_true rfl) (fun E hE hini hl hG hn hR hK => bX22_init_0 hE hn (hR.le h2.1 h2.2) (by rw [hG]; exact hc) hini hK hw)
def wX2_done_127 (c : Nat → Option Nat) (s0 : Nat) (s1 : Nat) (s2 : Int32) (s3 : Int32) (w : GW) (bb : Nat × Nat) (K : Option Nat → GW → Prop) (KX : String → Nat → GW → Prop) : Prop :=
  wX22_init c s1 s2 s3 w (fun w1 => K (some s0) w1)
set_option maxRecDepth 100000 in
theorem bX2_done_127 {E : jE} (hE : jOk E cX2_done RX2) (hn : E.2.2.2.2 = 3) (hR : jRoom E 7 194) {c : Nat → Option Nat} (hc : E.2.2.1.2.2.2 = c) (hN : jNoH E) {K : Option Nat → GW → Prop} {KX : String → Nat → GW → Prop} (hK : jXq E (.object "GlassStreet$Line") (K) KX) {s0 : Nat} {s1 : Nat} {s2 : Int32} {s3 : Int32} {w : GW} {bb : Nat × Nat}  (hw : wX2_done_127 c s0 s1 s2 s3 w bb K KX) : J E w bb [] 127 [.int (s3), .int (s2), .ref (s1), .ref (s0)] := by
  unfold wX2_done_127 at hw
  refine jc_v (jr_I hE hR (As := [.int (s2), .int (s3)]) (rest := [.ref (s0)]) ((ctX22_init E.1.2.1 E.2.2.1 hc _ _ _ _ _ hw) E.2.2.2.1) (lw_meth q1140) q160 q1138 q1139 rfl jdX22_init ⟨Nat.le_of_ble_eq_true rfl, Nat.le_of_ble_eq_true rfl⟩ ⟨Nat.zero_le _, Nat.zero_le _⟩  rfl (Nat.le_of_ble_eq_true rfl) dX2_done_127) (fun w1 hw => ?_)
  refine j_b0 ?_
  exact jx_qret hE hK (r := some s0) dX2_done_130 (by first | exact Or.inl ⟨_, rfl⟩ | exact Or.inr ⟨_, rfl⟩) hw
def wX2_done_0 (c : Nat → Option Nat) (x0 : Nat) (x1 : Int32) (w : GW) (bb : Nat × Nat) (K : Option Nat → GW → Prop) (KX : String → Nat → GW → Prop) : Prop :=
  (¬ x1 = (nI 5) → (((nI 2) ≤ x1 → (∃ f3 : Option Nat, gfm w x0 [1] 7 = some (va_rf f3) ∧ (gmc w x0 = some 1 ∧ (∃ cb7 : Nat × Nat, (cb7.1 ≤ bb.1 ∧ cb7.2 ≤ bb.2) ∧ (wX2_name c x0 w cb7 (fun r5 w9 => ∀ b10 : Nat × Nat, b10 = (bb.1 - cb7.1, bb.2 - cb7.2) → (∃ a11 : Nat, f3 = some a11 ∧ (∃ a12 : Nat, r5 = some a12 ∧ (gmc w9 a11 = some 2 ∧ (wX3_pane c a11 a12 w9 (fun r13 => gmc w9 x0 = some 1 ∧ (∃ cb17 : Nat × Nat, (cb17.1 ≤ b10.1 ∧ cb17.2 ≤ b10.2) ∧ (wX2_passed c x0 r13 w9 cb17 (fun r15 w19 => ∀ b20 : Nat × Nat, b20 = (b10.1 - cb17.1, b10.2 - cb17.2) → ((¬ x1 = (nI 2) → (1 ≤ b20.1 ∧ 2 ≤ b20.2 ∧ ∀ qa24 : Nat, w19 qa24 = none → (∀ w26 : GW, w26 = gup w19 qa24 (.inr (18, [.int 0, .int 0])) → (∀ b27 : Nat × Nat, b27 = (b20.1 - 1, b20.2 - 2) → ((¬ x1 = (nI 4) → (wX2_done_127 c qa24 qa24 r15 ((0 : Int32)) w26 b27 K KX)) ∧ (x1 = (nI 4) → (wX2_done_127 c qa24 qa24 r15 ((1 : Int32)) w26 b27 K KX))))))) ∧ (x1 = (nI 2) → (1 ≤ b20.1 ∧ 1 ≤ b20.2 ∧ ∀ qa31 : Nat, w19 qa31 = none → (∀ w33 : GW, w33 = gup w19 qa31 (.inr (17, [.int 0])) → (∀ b34 : Nat × Nat, b34 = (b20.1 - 1, b20.2 - 1) → (wX21_init c qa31 r15 w33 (fun w35 => K (some qa31) w35)))))))) KX)))))))) KX))))) ∧ (¬ (nI 2) ≤ x1 → (∃ f36 : Option Nat, gfm w x0 [1] 7 = some (va_rf f36) ∧ (gmc w x0 = some 1 ∧ (∃ cb40 : Nat × Nat, (cb40.1 ≤ bb.1 ∧ cb40.2 ≤ bb.2) ∧ (wX2_name c x0 w cb40 (fun r38 w42 => ∀ b43 : Nat × Nat, b43 = (bb.1 - cb40.1, bb.2 - cb40.2) → (∃ a44 : Nat, f36 = some a44 ∧ (∃ a45 : Nat, r38 = some a45 ∧ (gmc w42 a44 = some 2 ∧ (wX3_person c a44 a45 w42 (fun r46 => gmc w42 x0 = some 1 ∧ (∃ cb50 : Nat × Nat, (cb50.1 ≤ b43.1 ∧ cb50.2 ≤ b43.2) ∧ (wX2_passed c x0 r46 w42 cb50 (fun r48 w52 => ∀ b53 : Nat × Nat, b53 = (b43.1 - cb50.1, b43.2 - cb50.2) → ((¬ x1 = 0 → (1 ≤ b53.1 ∧ 2 ≤ b53.2 ∧ ∀ qa57 : Nat, w52 qa57 = none → (∀ w59 : GW, w59 = gup w52 qa57 (.inr (16, [.int 0, .int 0])) → (∀ b60 : Nat × Nat, b60 = (b53.1 - 1, b53.2 - 2) → (∃ f61 : Option Nat, gfm w59 x0 [1] 7 = some (va_rf f61) ∧ (gmc w59 x0 = some 1 ∧ (∃ cb65 : Nat × Nat, (cb65.1 ≤ b60.1 ∧ cb65.2 ≤ b60.2) ∧ (wX2_name c x0 w59 cb65 (fun r63 w67 => ∀ b68 : Nat × Nat, b68 = (b60.1 - cb65.1, b60.2 - cb65.2) → (∃ a69 : Nat, f61 = some a69 ∧ (∃ a70 : Nat, r63 = some a70 ∧ (gmc w67 a69 = some 2 ∧ (wX3_deed c a69 a70 w67 (fun r71 => gmc w67 x0 = some 1 ∧ (∃ cb75 : Nat × Nat, (cb75.1 ≤ b68.1 ∧ cb75.2 ≤ b68.2) ∧ (wX2_passed c x0 r71 w67 cb75 (fun r73 w77 => ∀ b78 : Nat × Nat, b78 = (b68.1 - cb75.1, b68.2 - cb75.2) → (wX20_init c qa57 r48 r73 w77 (fun w79 => K (some qa57) w79))) KX)))))))) KX)))))))) ∧ (x1 = 0 → (1 ≤ b53.1 ∧ 2 ≤ b53.2 ∧ ∀ qa82 : Nat, w52 qa82 = none → (∀ w84 : GW, w84 = gup w52 qa82 (.inr (15, [.int 0, .int 0])) → (∀ b85 : Nat × Nat, b85 = (b53.1 - 1, b53.2 - 2) → (gmc w84 x0 = some 1 ∧ (∃ cb88 : Nat × Nat, (cb88.1 ≤ b85.1 ∧ cb88.2 ≤ b85.2) ∧ (wX2_number_2 c x0 ((0 : Int32)) (nI 9) w84 cb88 (fun r86 w90 => ∀ b91 : Nat × Nat, b91 = (b85.1 - cb88.1, b85.2 - cb88.2) → (wX19_init c qa82 r48 r86 w90 (fun w92 => K (some qa82) w92))) KX))))))))) KX)))))))) KX))))))) ∧ (x1 = (nI 5) → (1 ≤ bb.1 ∧ 0 ≤ bb.2 ∧ ∀ qa95 : Nat, w qa95 = none → (∀ w97 : GW, w97 = gup w qa95 (.inr (24, [])) → (∀ b98 : Nat × Nat, b98 = (bb.1 - 1, bb.2 - 0) → (wX18_init c qa95 w97 (K (some qa95) w97))))))
set_option maxRecDepth 100000 in
theorem bX2_done_0 {E : jE} (hE : jOk E cX2_done RX2) (hn : E.2.2.2.2 = 3) (hR : jRoom E 7 194) {c : Nat → Option Nat} (hc : E.2.2.1.2.2.2 = c) (hN : jNoH E) {K : Option Nat → GW → Prop} {KX : String → Nat → GW → Prop} (hK : jXq E (.object "GlassStreet$Line") (K) KX) {x0 : Nat} {x1 : Int32} {w : GW} {bb : Nat × Nat}  (hw : wX2_done_0 c x0 x1 w bb K KX) : J E w bb [(0, .ref (x0)), (1, .int (x1))] 0 [] := by
  unfold wX2_done_0 at hw
  refine j_iload_n hE 1 dX2_done_0 rfl rfl ?_
  refine j_iconst hE dX2_done_1 kc_5 ?_
  refine j_icmp_ne hE 13 dX2_done_2 (by decide) (fun c1 => ?_) (fun c1 => ?_)
  · replace hw := hw.1 c1
    refine j_iload_n hE 1 dX2_done_13 rfl rfl ?_
    refine j_iconst hE dX2_done_14 kc_2 ?_
    refine j_icmp_ge hE 80 dX2_done_15 (by decide) (fun c2 => ?_) (fun c2 => ?_)
    · replace hw := hw.1 c2
      refine j_aload_n hE 0 dX2_done_80 rfl rfl ?_
      refine j_aload_n hE 0 dX2_done_81 rfl rfl ?_
      obtain ⟨f3, h4, hw⟩ := hw
      refine j_getM hE gf_GlassStreet_Reader_houses q185 h4 dX2_done_82 ?_
      refine j_aload_n hE 0 dX2_done_85 rfl rfl ?_
      obtain ⟨h6, hw⟩ := hw
      obtain ⟨cb7, h8, hw⟩ := hw
      refine jcx_q (jrx_V hE hR (As := []) (rest := [va_rf (f3), .ref (x0)]) ((ctX2_name E.1.2.1 E.2.2.1 hc _ _ _ _ _ hw) E.2.2.2.1) (lw_V q641 q643 qs12 q122 q644) jdX2_name ⟨Nat.le_of_ble_eq_true rfl, Nat.le_of_ble_eq_true rfl⟩ h8 (gmc_gIs h6 (r := (RX2, TX2, 8)) rfl) rfl (by cases f3 <;> exact Nat.le_of_ble_eq_true rfl) dX2_done_86) (fun E9 q9 u9 hx => jx_out hE hK.2 hN hx) (fun r5 w9 hw => ?_)
      refine j_nb (fun b10 e_b10 => ?_)
      replace hw := hw b10 e_b10
      obtain ⟨a11, e9, hx⟩ := hw
      subst e9
      have hw := hx
      clear hx
      obtain ⟨a12, e9, hx⟩ := hw
      subst e9
      have hw := hx
      clear hx
      obtain ⟨h14, hw⟩ := hw
      refine jc_ip (jr_V hE hR (As := [.ref (a12)]) (rest := [.ref (x0)]) ((ctX3_pane E.1.2.1 E.2.2.1 hc _ _ _ _ hw) E.2.2.2.1) (lw_V q804 q805 q806 q123 q807) jdX3_pane ⟨Nat.le_of_ble_eq_true rfl, Nat.le_of_ble_eq_true rfl⟩ ⟨Nat.zero_le _, Nat.zero_le _⟩ (gmc_gIs h14 (r := (RX3, TX3, 8)) rfl) rfl (Nat.le_of_ble_eq_true rfl) dX2_done_89) (fun r13 hw => ?_)
      refine j_b0 ?_
      obtain ⟨h16, hw⟩ := hw
      obtain ⟨cb17, h18, hw⟩ := hw
      refine jcx_i (jrx_V hE hR (As := [.int (r13)]) (rest := []) ((ctX2_passed E.1.2.1 E.2.2.1 hc _ _ _ _ _ _ hw) E.2.2.2.1) (lw_V q1095 q1097 qs29 q122 q1098) jdX2_passed ⟨Nat.le_of_ble_eq_true rfl, Nat.le_of_ble_eq_true rfl⟩ h18 (gmc_gIs h16 (r := (RX2, TX2, 8)) rfl) rfl (Nat.le_of_ble_eq_true rfl) dX2_done_92) (fun E9 q9 u9 hx => jx_out hE hK.2 hN hx) (fun r15 w19 hw => ?_)
      refine j_nb (fun b20 e_b20 => ?_)
      replace hw := hw b20 e_b20
      refine j_istore_n (L' := [(2, .int (r15)), (0, .ref (x0)), (1, .int (x1))]) hE hn dX2_done_95 rfl (Nat.le_of_ble_eq_true rfl) rfl ?_
      refine j_iload_n hE 2 dX2_done_96 rfl rfl ?_
      refine j_iconst hE dX2_done_97 kc_2 ?_
      refine j_icmp_ne hE 112 dX2_done_98 (by decide) (fun c21 => ?_) (fun c21 => ?_)
      · replace hw := hw.1 c21
        obtain ⟨h22, h23, hw⟩ := hw
        refine j_new (c := 18) (fs := [.int 0, .int 0]) hE gok_18 q1136 q1137 q160 dfl_18 ⟨h22, h23⟩ dX2_done_112 (fun qa24 h25 => ?_)
        replace hw := hw qa24 h25
        refine j_nw (fun w26 e_w26 => ?_)
        replace hw := hw w26 e_w26
        refine j_nb (fun b27 e_b27 => ?_)
        replace hw := hw b27 e_b27
        refine j_dup hE dX2_done_115 rfl ?_
        refine j_iload_n hE 0 dX2_done_116 rfl rfl ?_
        refine j_iload_n hE 2 dX2_done_117 rfl rfl ?_
        refine j_iconst hE dX2_done_118 kc_4 ?_
        refine j_icmp_ne hE 126 dX2_done_119 (by decide) (fun c28 => ?_) (fun c28 => ?_)
        · replace hw := hw.1 c28
          refine j_iconst hE dX2_done_126 kc_0 ?_
          refine j_sub [] [] rfl ?_
          have hz := bX2_done_127 hE hn hR hc hN hK  hw
          exact hz
        · replace hw := hw.2 c28
          refine j_iconst hE dX2_done_122 kc_1 ?_
          refine j_goto hE 127 dX2_done_123 (by decide) ?_
          refine j_sub [] [] rfl ?_
          have hz := bX2_done_127 hE hn hR hc hN hK  hw
          exact hz
      · replace hw := hw.2 c21
        obtain ⟨h29, h30, hw⟩ := hw
        refine j_new (c := 17) (fs := [.int 0]) hE gok_17 q1126 q1127 q159 dfl_17 ⟨h29, h30⟩ dX2_done_101 (fun qa31 h32 => ?_)
        replace hw := hw qa31 h32
        refine j_nw (fun w33 e_w33 => ?_)
        replace hw := hw w33 e_w33
        refine j_nb (fun b34 e_b34 => ?_)
        replace hw := hw b34 e_b34
        refine j_dup hE dX2_done_104 rfl ?_
        refine j_iload_n hE 0 dX2_done_105 rfl rfl ?_
        refine jc_v (jr_I hE hR (As := [.int (r15)]) (rest := [.ref (qa31)]) ((ctX21_init E.1.2.1 E.2.2.1 hc _ _ _ _ hw) E.2.2.2.1) (lw_meth q1130) q159 q1128 q1129 rfl jdX21_init ⟨Nat.le_of_ble_eq_true rfl, Nat.le_of_ble_eq_true rfl⟩ ⟨Nat.zero_le _, Nat.zero_le _⟩  rfl (Nat.le_of_ble_eq_true rfl) dX2_done_106) (fun w35 hw => ?_)
        refine j_b0 ?_
        refine j_goto hE 130 dX2_done_109 (by decide) ?_
        exact jx_qret hE hK (r := some qa31) dX2_done_130 (by first | exact Or.inl ⟨_, rfl⟩ | exact Or.inr ⟨_, rfl⟩) hw
    · replace hw := hw.2 c2
      refine j_aload_n hE 0 dX2_done_18 rfl rfl ?_
      refine j_aload_n hE 0 dX2_done_19 rfl rfl ?_
      obtain ⟨f36, h37, hw⟩ := hw
      refine j_getM hE gf_GlassStreet_Reader_houses q185 h37 dX2_done_20 ?_
      refine j_aload_n hE 0 dX2_done_23 rfl rfl ?_
      obtain ⟨h39, hw⟩ := hw
      obtain ⟨cb40, h41, hw⟩ := hw
      refine jcx_q (jrx_V hE hR (As := []) (rest := [va_rf (f36), .ref (x0)]) ((ctX2_name E.1.2.1 E.2.2.1 hc _ _ _ _ _ hw) E.2.2.2.1) (lw_V q641 q643 qs12 q122 q644) jdX2_name ⟨Nat.le_of_ble_eq_true rfl, Nat.le_of_ble_eq_true rfl⟩ h41 (gmc_gIs h39 (r := (RX2, TX2, 8)) rfl) rfl (by cases f36 <;> exact Nat.le_of_ble_eq_true rfl) dX2_done_24) (fun E9 q9 u9 hx => jx_out hE hK.2 hN hx) (fun r38 w42 hw => ?_)
      refine j_nb (fun b43 e_b43 => ?_)
      replace hw := hw b43 e_b43
      obtain ⟨a44, e9, hx⟩ := hw
      subst e9
      have hw := hx
      clear hx
      obtain ⟨a45, e9, hx⟩ := hw
      subst e9
      have hw := hx
      clear hx
      obtain ⟨h47, hw⟩ := hw
      refine jc_ip (jr_V hE hR (As := [.ref (a45)]) (rest := [.ref (x0)]) ((ctX3_person E.1.2.1 E.2.2.1 hc _ _ _ _ hw) E.2.2.2.1) (lw_V q830 q831 q832 q123 q833) jdX3_person ⟨Nat.le_of_ble_eq_true rfl, Nat.le_of_ble_eq_true rfl⟩ ⟨Nat.zero_le _, Nat.zero_le _⟩ (gmc_gIs h47 (r := (RX3, TX3, 8)) rfl) rfl (Nat.le_of_ble_eq_true rfl) dX2_done_27) (fun r46 hw => ?_)
      refine j_b0 ?_
      obtain ⟨h49, hw⟩ := hw
      obtain ⟨cb50, h51, hw⟩ := hw
      refine jcx_i (jrx_V hE hR (As := [.int (r46)]) (rest := []) ((ctX2_passed E.1.2.1 E.2.2.1 hc _ _ _ _ _ _ hw) E.2.2.2.1) (lw_V q1095 q1097 qs29 q122 q1098) jdX2_passed ⟨Nat.le_of_ble_eq_true rfl, Nat.le_of_ble_eq_true rfl⟩ h51 (gmc_gIs h49 (r := (RX2, TX2, 8)) rfl) rfl (Nat.le_of_ble_eq_true rfl) dX2_done_30) (fun E9 q9 u9 hx => jx_out hE hK.2 hN hx) (fun r48 w52 hw => ?_)
      refine j_nb (fun b53 e_b53 => ?_)
      replace hw := hw b53 e_b53
      refine j_istore_n (L' := [(2, .int (r48)), (0, .ref (x0)), (1, .int (x1))]) hE hn dX2_done_33 rfl (Nat.le_of_ble_eq_true rfl) rfl ?_
      refine j_iload_n hE 2 dX2_done_34 rfl rfl ?_
      refine j_if_ne hE 56 dX2_done_35 (by decide) (fun c54 => ?_) (fun c54 => ?_)
      · replace hw := hw.1 c54
        obtain ⟨h55, h56, hw⟩ := hw
        refine j_new (c := 16) (fs := [.int 0, .int 0]) hE gok_16 q1112 q1113 q158 dfl_16 ⟨h55, h56⟩ dX2_done_56 (fun qa57 h58 => ?_)
        replace hw := hw qa57 h58
        refine j_nw (fun w59 e_w59 => ?_)
        replace hw := hw w59 e_w59
        refine j_nb (fun b60 e_b60 => ?_)
        replace hw := hw b60 e_b60
        refine j_dup hE dX2_done_59 rfl ?_
        refine j_iload_n hE 0 dX2_done_60 rfl rfl ?_
        refine j_aload_n hE 1 dX2_done_61 rfl rfl ?_
        refine j_aload_n hE 1 dX2_done_62 rfl rfl ?_
        obtain ⟨f61, h62, hw⟩ := hw
        refine j_getM hE gf_GlassStreet_Reader_houses q185 h62 dX2_done_63 ?_
        refine j_aload_n hE 1 dX2_done_66 rfl rfl ?_
        obtain ⟨h64, hw⟩ := hw
        obtain ⟨cb65, h66, hw⟩ := hw
        refine jcx_q (jrx_V hE hR (As := []) (rest := [va_rf (f61), .ref (x0), .int (r48), .ref (qa57), .ref (qa57)]) ((ctX2_name E.1.2.1 E.2.2.1 hc _ _ _ _ _ hw) E.2.2.2.1) (lw_V q641 q643 qs12 q122 q644) jdX2_name ⟨Nat.le_of_ble_eq_true rfl, Nat.le_of_ble_eq_true rfl⟩ h66 (gmc_gIs h64 (r := (RX2, TX2, 8)) rfl) rfl (by cases f61 <;> exact Nat.le_of_ble_eq_true rfl) dX2_done_67) (fun E9 q9 u9 hx => jx_out hE hK.2 hN hx) (fun r63 w67 hw => ?_)
        refine j_nb (fun b68 e_b68 => ?_)
        replace hw := hw b68 e_b68
        obtain ⟨a69, e9, hx⟩ := hw
        subst e9
        have hw := hx
        clear hx
        obtain ⟨a70, e9, hx⟩ := hw
        subst e9
        have hw := hx
        clear hx
        obtain ⟨h72, hw⟩ := hw
        refine jc_ip (jr_V hE hR (As := [.ref (a70)]) (rest := [.ref (x0), .int (r48), .ref (qa57), .ref (qa57)]) ((ctX3_deed E.1.2.1 E.2.2.1 hc _ _ _ _ hw) E.2.2.2.1) (lw_V q838 q839 q840 q123 q841) jdX3_deed ⟨Nat.le_of_ble_eq_true rfl, Nat.le_of_ble_eq_true rfl⟩ ⟨Nat.zero_le _, Nat.zero_le _⟩ (gmc_gIs h72 (r := (RX3, TX3, 8)) rfl) rfl (Nat.le_of_ble_eq_true rfl) dX2_done_70) (fun r71 hw => ?_)
        refine j_b0 ?_
        obtain ⟨h74, hw⟩ := hw
        obtain ⟨cb75, h76, hw⟩ := hw
        refine jcx_i (jrx_V hE hR (As := [.int (r71)]) (rest := [.int (r48), .ref (qa57), .ref (qa57)]) ((ctX2_passed E.1.2.1 E.2.2.1 hc _ _ _ _ _ _ hw) E.2.2.2.1) (lw_V q1095 q1097 qs29 q122 q1098) jdX2_passed ⟨Nat.le_of_ble_eq_true rfl, Nat.le_of_ble_eq_true rfl⟩ h76 (gmc_gIs h74 (r := (RX2, TX2, 8)) rfl) rfl (Nat.le_of_ble_eq_true rfl) dX2_done_73) (fun E9 q9 u9 hx => jx_out hE hK.2 hN hx) (fun r73 w77 hw => ?_)
        refine j_nb (fun b78 e_b78 => ?_)
        replace hw := hw b78 e_b78
        refine jc_v (jr_I hE hR (As := [.int (r48), .int (r73)]) (rest := [.ref (qa57)]) ((ctX20_init E.1.2.1 E.2.2.1 hc _ _ _ _ _ hw) E.2.2.2.1) (lw_meth q1116) q158 q1114 q1115 rfl jdX20_init ⟨Nat.le_of_ble_eq_true rfl, Nat.le_of_ble_eq_true rfl⟩ ⟨Nat.zero_le _, Nat.zero_le _⟩  rfl (Nat.le_of_ble_eq_true rfl) dX2_done_76) (fun w79 hw => ?_)
        refine j_b0 ?_
        exact jx_qret hE hK (r := some qa57) dX2_done_79 (by first | exact Or.inl ⟨_, rfl⟩ | exact Or.inr ⟨_, rfl⟩) hw
      · replace hw := hw.2 c54
        obtain ⟨h80, h81, hw⟩ := hw
        refine j_new (c := 15) (fs := [.int 0, .int 0]) hE gok_15 q1099 q1100 q157 dfl_15 ⟨h80, h81⟩ dX2_done_38 (fun qa82 h83 => ?_)
        replace hw := hw qa82 h83
        refine j_nw (fun w84 e_w84 => ?_)
        replace hw := hw w84 e_w84
        refine j_nb (fun b85 e_b85 => ?_)
        replace hw := hw b85 e_b85
        refine j_dup hE dX2_done_41 rfl ?_
        refine j_iload_n hE 0 dX2_done_42 rfl rfl ?_
        refine j_aload_n hE 1 dX2_done_43 rfl rfl ?_
        refine j_iconst hE dX2_done_44 kc_0 ?_
        refine j_bipush hE dX2_done_45 kb_9 ?_
        obtain ⟨h87, hw⟩ := hw
        obtain ⟨cb88, h89, hw⟩ := hw
        refine jcx_i (jrx_V hE hR (As := [.int ((0 : Int32)), .int (nI 9)]) (rest := [.int (r48), .ref (qa82), .ref (qa82)]) ((ctX2_number_2 E.1.2.1 E.2.2.1 hc _ _ _ _ _ _ _ hw) E.2.2.2.1) (lw_V q909 q911 qs16 q122 q912) jdX2_number_2 ⟨Nat.le_of_ble_eq_true rfl, Nat.le_of_ble_eq_true rfl⟩ h89 (gmc_gIs h87 (r := (RX2, TX2, 8)) rfl) rfl (Nat.le_of_ble_eq_true rfl) dX2_done_47) (fun E9 q9 u9 hx => jx_out hE hK.2 hN hx) (fun r86 w90 hw => ?_)
        refine j_nb (fun b91 e_b91 => ?_)
        replace hw := hw b91 e_b91
        refine jc_v (jr_I hE hR (As := [.int (r48), .int (r86)]) (rest := [.ref (qa82)]) ((ctX19_init E.1.2.1 E.2.2.1 hc _ _ _ _ _ hw) E.2.2.2.1) (lw_meth q1103) q157 q1101 q1102 rfl jdX19_init ⟨Nat.le_of_ble_eq_true rfl, Nat.le_of_ble_eq_true rfl⟩ ⟨Nat.zero_le _, Nat.zero_le _⟩  rfl (Nat.le_of_ble_eq_true rfl) dX2_done_50) (fun w92 hw => ?_)
        refine j_b0 ?_
        refine j_goto hE 79 dX2_done_53 (by decide) ?_
        exact jx_qret hE hK (r := some qa82) dX2_done_79 (by first | exact Or.inl ⟨_, rfl⟩ | exact Or.inr ⟨_, rfl⟩) hw
  · replace hw := hw.2 c1
    obtain ⟨h93, h94, hw⟩ := hw
    refine j_new (c := 24) (fs := []) hE gok_24 q1085 q1086 q156 dfl_24 ⟨h93, h94⟩ dX2_done_5 (fun qa95 h96 => ?_)
    replace hw := hw qa95 h96
    refine j_nw (fun w97 e_w97 => ?_)
    replace hw := hw w97 e_w97
    refine j_nb (fun b98 e_b98 => ?_)
    replace hw := hw b98 e_b98
    refine j_dup hE dX2_done_8 rfl ?_
    refine jc_vp (jr_IN hE hR (As := []) (rest := [.ref (qa95)]) ((ctX18_init E.1.2.1 E.2.2.1 hc _ _ _ hw) E.2.2.2.1) (lw_meth q1089) q156 q1087 q1088 rfl jdX18_init ⟨Nat.le_of_ble_eq_true rfl, Nat.le_of_ble_eq_true rfl⟩ ⟨Nat.zero_le _, Nat.zero_le _⟩  rfl (Nat.le_of_ble_eq_true rfl) dX2_done_9) (fun  hw => ?_)
    refine j_b0 ?_
    exact jx_qret hE hK (r := some qa95) dX2_done_12 (by first | exact Or.inl ⟨_, rfl⟩ | exact Or.inr ⟨_, rfl⟩) hw
theorem jdX2_done : jD yX2_done 1 := by decide +kernel
abbrev wX2_done := wX2_done_0
theorem ctX2_done (l : Launch) (G : gG) {c : Nat → Option Nat} (hc : G.2.2.2 = c) (x0 : Nat) (x1 : Int32) (w : GW) (bb : Nat × Nat) (K : Option Nat → GW → Prop) (KX : String → Nat → GW → Prop) (hw : wX2_done_0 c x0 x1 w bb K KX) {F2 L2 : Nat} (h2 : 7 ≤ F2 ∧ 194 ≤ L2 := by exact ⟨Nat.le_refl _, Nat.le_refl _⟩) : CtXQ l yX2_done cX2_done 3 (.object "GlassStreet$Line") ({ frames := F2, cells := bb.1, slots := bb.2, locals := L2 }) G [.ref (x0), .int (x1)] w (K) KX :=
  CtXQ.of RX2 plainc_X2 rfl (Nat.le_of_ble_eq_true rfl) (fun E hE hl hG hn hR hN hK => bX2_done_0 hE hn (hR.le h2.1 h2.2) (by rw [hG]; exact hc) hN hK hw)
def wX2_day_14_b (c : Nat → Option Nat) (x0 : Nat) (x2 : Nat) (w : GW) (bb : Nat × Nat) (KL14 : GW × (Nat × Nat) → Prop) (K : Option Nat → GW → Prop) (KX : String → Nat → GW → Prop) : Prop :=
  ∃ f1 : Int32, gfm w x0 [1] 3 = some (.int f1) ∧ ((f1 = 0 → (K (some x2) w)) ∧ (¬ f1 = 0 → (∀ r4 : Option Nat, r4 = c 11 → (∃ a5 : Nat, r4 = some a5 ∧ (gmc w x0 = some 1 ∧ (wX2_which c x0 a5 w (fun r6 => (0 ≤ r6 → (gmc w x2 = some 20 ∧ (wJ2_size c x2 w (fun r9 => (¬ r9 = (nI 40) → (gmc w x0 = some 1 ∧ (wX2_next c x0 w (fun w13 => gmc w13 x0 = some 1 ∧ (∃ cb16 : Nat × Nat, (cb16.1 ≤ bb.1 ∧ cb16.2 ≤ bb.2) ∧ (wX2_done c x0 r6 w13 cb16 (fun r14 w18 => ∀ b19 : Nat × Nat, b19 = (bb.1 - cb16.1, bb.2 - cb16.2) → (∃ a20 : Nat, r14 = some a20 ∧ (gmc w18 x2 = some 20 ∧ (∃ cb23 : Nat × Nat, (cb23.1 ≤ b19.1 ∧ cb23.2 ≤ b19.2) ∧ (wJ2_add c x2 a20 w18 cb23 (fun r21 w25 => ∀ b26 : Nat × Nat, b26 = (b19.1 - cb23.1, b19.2 - cb23.2) → (gmc w25 x0 = some 1 ∧ (∃ cb28 : Nat × Nat, (cb28.1 ≤ b26.1 ∧ cb28.2 ≤ b26.2) ∧ (wX2_need_2 c x0 (nI 59) w25 cb28 (fun w30 => ∀ b31 : Nat × Nat, b31 = (b26.1 - cb28.1, b26.2 - cb28.2) → (KL14 (w30, b31))) KX))))))))) KX)))))) ∧ (r9 = (nI 40) → (gmc w x0 = some 1 ∧ (∃ cb34 : Nat × Nat, (cb34.1 ≤ bb.1 ∧ cb34.2 ≤ bb.2) ∧ (wX2_wrong c x0 (nI 5) w cb34 (fun r32 w36 => ∀ b37 : Nat × Nat, b37 = (bb.1 - cb34.1, bb.2 - cb34.2) → (∃ a38 : Nat, r32 = some a38 ∧ (∃ (cc : Nat) (fs : List Value) (rr : vw_C), w36 a38 = some (true, .inr (cc, fs)) ∧ gCl[cc]? = some rr ∧ KX rr.1 a38 w36))))))))))) ∧ (¬ 0 ≤ r6 → (gmc w x0 = some 1 ∧ (∃ cb41 : Nat × Nat, (cb41.1 ≤ bb.1 ∧ cb41.2 ≤ bb.2) ∧ (wX2_wrong c x0 ((1 : Int32)) w cb41 (fun r39 w43 => ∀ b44 : Nat × Nat, b44 = (bb.1 - cb41.1, bb.2 - cb41.2) → (∃ a45 : Nat, r39 = some a45 ∧ (∃ (cc : Nat) (fs : List Value) (rr : vw_C), w43 a45 = some (true, .inr (cc, fs)) ∧ gCl[cc]? = some rr ∧ KX rr.1 a45 w43))))))))))))))
def wX2_day_14 (c : Nat → Option Nat) (x0 : Nat) (x2 : Nat) (w : GW) (bb : Nat × Nat) (K : Option Nat → GW → Prop) (KX : String → Nat → GW → Prop) : Prop := lfp (σ := GW × (Nat × Nat)) (fun KL s => wX2_day_14_b c x0 x2 s.1 s.2 KL K KX) (w, bb)
set_option maxRecDepth 100000 in
theorem bX2_day_14 {E : jE} (hE : jOk E cX2_day RX2) (hn : E.2.2.2.2 = 4) (hR : jRoom E 8 216) {c : Nat → Option Nat} (hc : E.2.2.1.2.2.2 = c) (hN : jNoH E) {K : Option Nat → GW → Prop} {KX : String → Nat → GW → Prop} (hK : jXq E (.object "java/util/ArrayList") (K) KX) {x0 : Nat} {x2 : Nat} {w : GW} {bb : Nat × Nat}  (hw : wX2_day_14 c x0 x2 w bb K KX) : J E w bb [(0, .ref (x0)), (2, .ref (x2))] 14 [] := by
  refine lfp_sound (σ := GW × (Nat × Nat)) (F := fun KL s => wX2_day_14_b c x0 x2 s.1 s.2 KL K KX) (P := fun s => J E (s.1) (s.2) [(0, .ref (x0)), (2, .ref (x2))] 14 []) ?_ hw
  clear hw
  rintro KL14 ⟨w, bb⟩ hw ih14
  have hw : wX2_day_14_b c x0 x2 w bb KL14 K KX := hw
  unfold wX2_day_14_b at hw
  refine j_aload_n hE 0 dX2_day_14 rfl rfl ?_
  obtain ⟨f1, h2, hw⟩ := hw
  refine j_getM hE gf_GlassStreet_Reader_kind q181 h2 dX2_day_15 ?_
  refine j_if_eq hE 76 dX2_day_18 (by decide) (fun c3 => ?_) (fun c3 => ?_)
  · replace hw := hw.1 c3
    refine j_aload_n hE 1 dX2_day_76 rfl rfl ?_
    exact jx_qret hE hK (r := some x2) dX2_day_77 (by first | exact Or.inl ⟨_, rfl⟩ | exact Or.inr ⟨_, rfl⟩) hw
  · replace hw := hw.2 c3
    refine j_aload_n hE 0 dX2_day_21 rfl rfl ?_
    obtain ⟨r4, e_r4⟩ : ∃ r9 : Option Nat, r9 = c 11 := ⟨_, rfl⟩
    replace hw := hw r4 e_r4
    refine j_ldcS hE 11 (by decide) rfl hc e_r4 dX2_day_22 ?_
    obtain ⟨a5, e9, hx⟩ := hw
    subst e9
    have hw := hx
    clear hx
    obtain ⟨h7, hw⟩ := hw
    refine jc_ip (jr_V hE hR (As := [.ref (a5)]) (rest := []) ((ctX2_which E.1.2.1 E.2.2.1 hc _ _ _ _ hw) E.2.2.2.1) (lw_V q518 q520 qs4 q122 q521) jdX2_which ⟨Nat.le_of_ble_eq_true rfl, Nat.le_of_ble_eq_true rfl⟩ ⟨Nat.zero_le _, Nat.zero_le _⟩ (gmc_gIs h7 (r := (RX2, TX2, 8)) rfl) rfl (Nat.le_of_ble_eq_true rfl) dX2_day_24) (fun r6 hw => ?_)
    refine j_b0 ?_
    refine j_istore_n (L' := [(3, .int (r6)), (0, .ref (x0)), (2, .ref (x2))]) hE hn dX2_day_27 rfl (Nat.le_of_ble_eq_true rfl) rfl ?_
    refine j_iload_n hE 0 dX2_day_28 rfl rfl ?_
    refine j_if_ge hE 38 dX2_day_29 (by decide) (fun c8 => ?_) (fun c8 => ?_)
    · replace hw := hw.1 c8
      refine j_aload_n hE 2 dX2_day_38 rfl rfl ?_
      obtain ⟨h10, hw⟩ := hw
      refine jc_ip (jr_V hE hR (As := []) (rest := []) ((ctJ2_size E.1.2.1 E.2.2.1 hc _ _ _ hw) E.2.2.2.1) (lw_V q625 q626 q627 q126 q628) jdJ2_size ⟨Nat.le_of_ble_eq_true rfl, Nat.le_of_ble_eq_true rfl⟩ ⟨Nat.zero_le _, Nat.zero_le _⟩ (gmc_gIs h10 (r := (RJ2, TJ2, 3)) rfl) rfl (Nat.le_of_ble_eq_true rfl) dX2_day_39) (fun r9 hw => ?_)
      refine j_b0 ?_
      refine j_bipush hE dX2_day_42 kb_40 ?_
      refine j_icmp_ne hE 53 dX2_day_44 (by decide) (fun c11 => ?_) (fun c11 => ?_)
      · replace hw := hw.1 c11
        refine j_aload_n hE 1 dX2_day_53 rfl rfl ?_
        obtain ⟨h12, hw⟩ := hw
        refine jc_v (jr_V hE hR (As := []) (rest := []) ((ctX2_next E.1.2.1 E.2.2.1 hc _ _ _ hw) E.2.2.2.1) (lw_V q410 q412 qs2 q122 q413) jdX2_next ⟨Nat.le_of_ble_eq_true rfl, Nat.le_of_ble_eq_true rfl⟩ ⟨Nat.zero_le _, Nat.zero_le _⟩ (gmc_gIs h12 (r := (RX2, TX2, 8)) rfl) rfl (Nat.le_of_ble_eq_true rfl) dX2_day_54) (fun w13 hw => ?_)
        refine j_b0 ?_
        refine j_aload_n hE 2 dX2_day_57 rfl rfl ?_
        refine j_aload_n hE 1 dX2_day_58 rfl rfl ?_
        refine j_iload_n hE 0 dX2_day_59 rfl rfl ?_
        obtain ⟨h15, hw⟩ := hw
        obtain ⟨cb16, h17, hw⟩ := hw
        refine jcx_q (jrx_V hE hR (As := [.int (r6)]) (rest := [.ref (x2)]) ((ctX2_done E.1.2.1 E.2.2.1 hc _ _ _ _ _ _ hw) E.2.2.2.1) (lw_V q1081 q1083 qs28 q122 q1084) jdX2_done ⟨Nat.le_of_ble_eq_true rfl, Nat.le_of_ble_eq_true rfl⟩ h17 (gmc_gIs h15 (r := (RX2, TX2, 8)) rfl) rfl (Nat.le_of_ble_eq_true rfl) dX2_day_60) (fun E9 q9 u9 hx => jx_out hE hK.2 hN hx) (fun r14 w18 hw => ?_)
        refine j_nb (fun b19 e_b19 => ?_)
        replace hw := hw b19 e_b19
        obtain ⟨a20, e9, hx⟩ := hw
        subst e9
        have hw := hx
        clear hx
        obtain ⟨h22, hw⟩ := hw
        obtain ⟨cb23, h24, hw⟩ := hw
        refine jc_i (jr_V hE hR (As := [.ref (a20)]) (rest := []) ((ctJ2_add E.1.2.1 E.2.2.1 hc _ _ _ _ _ hw) E.2.2.2.1) (lw_V q928 q929 q930 q126 q931) jdJ2_add ⟨Nat.le_of_ble_eq_true rfl, Nat.le_of_ble_eq_true rfl⟩ h24 (gmc_gIs h22 (r := (RJ2, TJ2, 3)) rfl) rfl (Nat.le_of_ble_eq_true rfl) dX2_day_63) (fun r21 w25 hw => ?_)
        refine j_nb (fun b26 e_b26 => ?_)
        replace hw := hw b26 e_b26
        refine j_pop hE dX2_day_66 rfl ?_
        refine j_aload_n hE 1 dX2_day_67 rfl rfl ?_
        refine j_bipush hE dX2_day_68 kb_59 ?_
        obtain ⟨h27, hw⟩ := hw
        obtain ⟨cb28, h29, hw⟩ := hw
        refine jcx_v (jrx_V hE hR (As := [.int (nI 59)]) (rest := []) ((ctX2_need_2 E.1.2.1 E.2.2.1 hc _ _ _ _ _ _ hw) E.2.2.2.1) (lw_V q1042 q1044 qs27 q122 q1045) jdX2_need_2 ⟨Nat.le_of_ble_eq_true rfl, Nat.le_of_ble_eq_true rfl⟩ h29 (gmc_gIs h27 (r := (RX2, TX2, 8)) rfl) rfl (Nat.le_of_ble_eq_true rfl) dX2_day_70) (fun E9 q9 u9 hx => jx_out hE hK.2 hN hx) (fun w30 hw => ?_)
        refine j_nb (fun b31 e_b31 => ?_)
        replace hw := hw b31 e_b31
        refine j_goto hE 14 dX2_day_73 (by decide) ?_
        refine j_sub [(0, .ref (x0)), (2, .ref (x2))] [1, 2] rfl ?_
        have hz := ih14 (w30, b31) hw
        exact hz
      · replace hw := hw.2 c11
        refine j_aload_n hE 1 dX2_day_47 rfl rfl ?_
        refine j_iconst hE dX2_day_48 kc_5 ?_
        obtain ⟨h33, hw⟩ := hw
        obtain ⟨cb34, h35, hw⟩ := hw
        refine jc_q (jr_V hE hR (As := [.int (nI 5)]) (rest := []) ((ctX2_wrong E.1.2.1 E.2.2.1 hc _ _ _ _ _ hw) E.2.2.2.1) (lw_V q544 q546 qs5 q122 q547) jdX2_wrong ⟨Nat.le_of_ble_eq_true rfl, Nat.le_of_ble_eq_true rfl⟩ h35 (gmc_gIs h33 (r := (RX2, TX2, 8)) rfl) rfl (Nat.le_of_ble_eq_true rfl) dX2_day_49) (fun r32 w36 hw => ?_)
        refine j_nb (fun b37 e_b37 => ?_)
        replace hw := hw b37 e_b37
        obtain ⟨a38, e9, hx⟩ := hw
        subst e9
        have hw := hx
        clear hx
        obtain ⟨cc, fs, rr, h1, h2, hw⟩ := hw
        exact jx_throw hE h1 h2 dX2_day_52 (jx_out hE hK.2 hN hw)
    · replace hw := hw.2 c8
      refine j_aload_n hE 1 dX2_day_32 rfl rfl ?_
      refine j_iconst hE dX2_day_33 kc_1 ?_
      obtain ⟨h40, hw⟩ := hw
      obtain ⟨cb41, h42, hw⟩ := hw
      refine jc_q (jr_V hE hR (As := [.int ((1 : Int32))]) (rest := []) ((ctX2_wrong E.1.2.1 E.2.2.1 hc _ _ _ _ _ hw) E.2.2.2.1) (lw_V q544 q546 qs5 q122 q547) jdX2_wrong ⟨Nat.le_of_ble_eq_true rfl, Nat.le_of_ble_eq_true rfl⟩ h42 (gmc_gIs h40 (r := (RX2, TX2, 8)) rfl) rfl (Nat.le_of_ble_eq_true rfl) dX2_day_34) (fun r39 w43 hw => ?_)
      refine j_nb (fun b44 e_b44 => ?_)
      replace hw := hw b44 e_b44
      obtain ⟨a45, e9, hx⟩ := hw
      subst e9
      have hw := hx
      clear hx
      obtain ⟨cc, fs, rr, h1, h2, hw⟩ := hw
      exact jx_throw hE h1 h2 dX2_day_37 (jx_out hE hK.2 hN hw)
def wX2_day_0 (c : Nat → Option Nat) (x0 : Nat) (x1 : Nat) (w : GW) (bb : Nat × Nat) (K : Option Nat → GW → Prop) (KX : String → Nat → GW → Prop) : Prop :=
  ∃ (n1 : Nat) (fs2 : List Value), w x0 = some (true, .inr (n1, fs2)) ∧ n1 ∈ ([1] : List Nat) ∧ 7 < fs2.length ∧ (∀ w6 : GW, w6 = gup w x0 (.inr (n1, fs2.set 7 (va_rf (some x1)))) → (1 ≤ bb.1 ∧ 3 ≤ bb.2 ∧ ∀ qa9 : Nat, w6 qa9 = none → (∀ w11 : GW, w11 = gup w6 qa9 (.inr (20, [.int 0, va_rf none, .int 0])) → (∀ b12 : Nat × Nat, b12 = (bb.1 - 1, bb.2 - 3) → (∃ cb13 : Nat × Nat, (cb13.1 ≤ b12.1 ∧ cb13.2 ≤ b12.2) ∧ (wJ2_init c qa9 (nI 4) w11 cb13 (fun w15 => ∀ b16 : Nat × Nat, b16 = (b12.1 - cb13.1, b12.2 - cb13.2) → (wX2_day_14 c x0 qa9 w15 b16 K KX))))))))
set_option maxRecDepth 100000 in
theorem bX2_day_0 {E : jE} (hE : jOk E cX2_day RX2) (hn : E.2.2.2.2 = 4) (hR : jRoom E 8 216) {c : Nat → Option Nat} (hc : E.2.2.1.2.2.2 = c) (hN : jNoH E) {K : Option Nat → GW → Prop} {KX : String → Nat → GW → Prop} (hK : jXq E (.object "java/util/ArrayList") (K) KX) {x0 : Nat} {x1 : Nat} {w : GW} {bb : Nat × Nat}  (hw : wX2_day_0 c x0 x1 w bb K KX) : J E w bb [(0, .ref (x0)), (1, .ref (x1))] 0 [] := by
  unfold wX2_day_0 at hw
  refine j_aload_n hE 0 dX2_day_0 rfl rfl ?_
  refine j_aload_n hE 1 dX2_day_1 rfl rfl ?_
  obtain ⟨n1, fs2, h3, h4, h5, hw⟩ := hw
  refine j_putX hE h4 gw_GlassStreet_Reader_houses_X2 q185 h3 rfl rfl h5 dX2_day_2 ?_
  refine j_nw (fun w6 e_w6 => ?_)
  replace hw := hw w6 e_w6
  obtain ⟨h7, h8, hw⟩ := hw
  refine j_new (c := 20) (fs := [.int 0, va_rf none, .int 0]) hE gok_20 q1078 q211 q126 dfl_20 ⟨h7, h8⟩ dX2_day_5 (fun qa9 h10 => ?_)
  replace hw := hw qa9 h10
  refine j_nw (fun w11 e_w11 => ?_)
  replace hw := hw w11 e_w11
  refine j_nb (fun b12 e_b12 => ?_)
  replace hw := hw b12 e_b12
  refine j_dup hE dX2_day_8 rfl ?_
  refine j_iconst hE dX2_day_9 kc_4 ?_
  obtain ⟨cb13, h14, hw⟩ := hw
  refine jc_v (jr_I hE hR (As := [.int (nI 4)]) (rest := [.ref (qa9)]) ((ctJ2_init E.1.2.1 E.2.2.1 hc _ _ _ _ _ hw) E.2.2.2.1) (lw_meth q214) q126 q1079 q213 rfl jdJ2_init ⟨Nat.le_of_ble_eq_true rfl, Nat.le_of_ble_eq_true rfl⟩ h14  rfl (Nat.le_of_ble_eq_true rfl) dX2_day_10) (fun w15 hw => ?_)
  refine j_nb (fun b16 e_b16 => ?_)
  replace hw := hw b16 e_b16
  refine j_astore_n (L' := [(2, .ref (qa9)), (0, .ref (x0)), (1, .ref (x1))]) hE hn dX2_day_13 rfl (Nat.le_of_ble_eq_true rfl) rfl ?_
  refine j_sub [(0, .ref (x0)), (2, .ref (qa9))] [1, 0] rfl ?_
  have hz := bX2_day_14 hE hn hR hc hN hK  hw
  exact hz
theorem jdX2_day : jD yX2_day 1 := by decide +kernel
abbrev wX2_day := wX2_day_0
theorem ctX2_day (l : Launch) (G : gG) {c : Nat → Option Nat} (hc : G.2.2.2 = c) (x0 : Nat) (x1 : Nat) (w : GW) (bb : Nat × Nat) (K : Option Nat → GW → Prop) (KX : String → Nat → GW → Prop) (hw : wX2_day_0 c x0 x1 w bb K KX) {F2 L2 : Nat} (h2 : 8 ≤ F2 ∧ 216 ≤ L2 := by exact ⟨Nat.le_refl _, Nat.le_refl _⟩) : CtXQ l yX2_day cX2_day 4 (.object "java/util/ArrayList") ({ frames := F2, cells := bb.1, slots := bb.2, locals := L2 }) G [.ref (x0), .ref (x1)] w (K) KX :=
  CtXQ.of RX2 plainc_X2 rfl (Nat.le_of_ble_eq_true rfl) (fun E hE hl hG hn hR hN hK => bX2_day_0 hE hn (hR.le h2.1 h2.2) (by rw [hG]; exact hc) hN hK hw)
def wX1_day_0 (c : Nat → Option Nat) (x0 : Nat) (w : GW) (bb : Nat × Nat) (K : Int32 → GW → Prop) : Prop :=
  gmc w x0 = some 0 ∧ (wX1_reads c x0 w (fun w2 => ∃ f3 : Option Nat, gfm w2 x0 [0] 1 = some (va_rf f3) ∧ (∃ f5 : Option Nat, gfm w2 x0 [0] 2 = some (va_rf f5) ∧ (∃ a7 : Nat, f3 = some a7 ∧ (∃ a8 : Nat, f5 = some a8 ∧ (gmc w2 a7 = some 1 ∧ (∃ cb11 : Nat × Nat, (cb11.1 ≤ bb.1 ∧ cb11.2 ≤ bb.2) ∧ (wX2_day c a7 a8 w2 cb11 (fun r9 w13 => ∀ b19 : Nat × Nat, b19 = (bb.1 - cb11.1, bb.2 - cb11.2) → (∃ (n20 : Nat) (fs21 : List Value), w13 x0 = some (true, .inr (n20, fs21)) ∧ n20 ∈ ([0] : List Nat) ∧ 3 < fs21.length ∧ (∀ w25 : GW, w25 = gup w13 x0 (.inr (n20, fs21.set 3 (va_rf r9))) → (K ((0 : Int32)) w25)))) (fun E9 qa14 w15 => Cond.castable E9 "GlassStreet$Wrong" ∈ lw_tbl ∧ ∀ b16 : Nat × Nat, b16 = (bb.1 - cb11.1, bb.2 - cb11.2) → (∃ f17 : Int32, gfm w15 qa14 [6] 6 = some (.int f17) ∧ (K f17 w15)))))))))))
set_option maxRecDepth 100000 in
theorem bX1_day_0 {E : jE} (hE : jOk E cX1_day RX1) (hn : E.2.2.2.2 = 2) (hR : jRoom E 9 239) {c : Nat → Option Nat} (hc : E.2.2.1.2.2.2 = c) (hT : E.2.1.2.1.exceptionTable.toList = tableOf [(4, 19, 22, 87)]) {K : Int32 → GW → Prop} (hK : jXi E .int (K) (fun _ _ _ => False)) {x0 : Nat} {w : GW} {bb : Nat × Nat}  (hw : wX1_day_0 c x0 w bb K) : J E w bb [(0, .ref (x0))] 0 [] := by
  unfold wX1_day_0 at hw
  refine j_aload_n hE 0 dX1_day_0 rfl rfl ?_
  obtain ⟨h1, hw⟩ := hw
  refine jc_v (jr_V hE hR (As := []) (rest := []) ((ctX1_reads E.1.2.1 E.2.2.1 hc _ _ _ hw) E.2.2.2.1) (lw_V q402 q404 qs1 q121 q405) jdX1_reads ⟨Nat.le_of_ble_eq_true rfl, Nat.le_of_ble_eq_true rfl⟩ ⟨Nat.zero_le _, Nat.zero_le _⟩ (gmc_gIs h1 (r := (RX1, TX1, 15)) rfl) rfl (Nat.le_of_ble_eq_true rfl) dX1_day_1) (fun w2 hw => ?_)
  refine j_b0 ?_
  refine j_aload_n hE 0 dX1_day_4 rfl rfl ?_
  refine j_aload_n hE 0 dX1_day_5 rfl rfl ?_
  obtain ⟨f3, h4, hw⟩ := hw
  refine j_getM hE gf_GlassStreet_reader q348 h4 dX1_day_6 ?_
  refine j_aload_n hE 0 dX1_day_9 rfl rfl ?_
  obtain ⟨f5, h6, hw⟩ := hw
  refine j_getM hE gf_GlassStreet_houses q349 h6 dX1_day_10 ?_
  obtain ⟨a7, e9, hx⟩ := hw
  subst e9
  have hw := hx
  clear hx
  obtain ⟨a8, e9, hx⟩ := hw
  subst e9
  have hw := hx
  clear hx
  obtain ⟨h10, hw⟩ := hw
  obtain ⟨cb11, h12, hw⟩ := hw
  refine jcx_q (jrx_V hE hR (As := [.ref (a8)]) (rest := [.ref (x0)]) ((ctX2_day E.1.2.1 E.2.2.1 hc _ _ _ _ _ _ hw) E.2.2.2.1) (lw_V q1074 q1075 q1076 q122 q1077) jdX2_day ⟨Nat.le_of_ble_eq_true rfl, Nat.le_of_ble_eq_true rfl⟩ h12 (gmc_gIs h10 (r := (RX2, TX2, 8)) rfl) rfl (Nat.le_of_ble_eq_true rfl) dX1_day_13) (fun E9 qa14 w15 hw => ?_) (fun r9 w13 hw => ?_)
  · obtain ⟨hcs, hw⟩ := hw
    refine jx_catch hE hT q401 (by decide) ⟨by decide, by decide⟩ hcs ?_
    refine j_nb (fun b16 e_b16 => ?_)
    replace hw := hw b16 e_b16
    refine j_astore_n (L' := [(1, .ref (qa14)), (0, .ref (x0))]) hE hn dX1_day_22 rfl (Nat.le_of_ble_eq_true rfl) rfl ?_
    refine j_aload_n hE 0 dX1_day_23 rfl rfl ?_
    obtain ⟨f17, h18, hw⟩ := hw
    refine j_getMN hE gf_GlassStreet_Wrong_fault q601 h18 dX1_day_24 ?_
    exact jx_iret hE hK dX1_day_27 rfl hw
  refine j_nb (fun b19 e_b19 => ?_)
  replace hw := hw b19 e_b19
  obtain ⟨n20, fs21, h22, h23, h24, hw⟩ := hw
  refine j_putX hE h23 gw_GlassStreet_lines_X1 q350 h22 (va_rf_nar _ _ (by decide)) (va_rf_fit _ _ (by decide)) h24 dX1_day_16 ?_
  refine j_nw (fun w25 e_w25 => ?_)
  replace hw := hw w25 e_w25
  refine j_goto hE 28 dX1_day_19 (by decide) ?_
  refine j_iconst hE dX1_day_28 kc_0 ?_
  exact jx_iret hE hK dX1_day_29 rfl hw
theorem jdX1_day : jD yX1_day 0 := by decide +kernel
abbrev wX1_day := wX1_day_0
theorem ctX1_day (l : Launch) (G : gG) {c : Nat → Option Nat} (hc : G.2.2.2 = c) (x0 : Nat) (w : GW) (bb : Nat × Nat) (K : Int32 → GW → Prop) (hw : wX1_day_0 c x0 w bb K) {F2 L2 : Nat} (h2 : 9 ≤ F2 ∧ 239 ≤ L2 := by exact ⟨Nat.le_refl _, Nat.le_refl _⟩) : CtWI l yX1_day cX1_day 2 .int [(4, 19, 22, 87)] ({ frames := F2, cells := bb.1, slots := bb.2, locals := L2 }) G [.ref (x0)] w (K) :=
  CtWI.of RX1 plainc_X1 rfl (Nat.le_of_ble_eq_true rfl) (fun E hE hl hG hn hR hT hK => bX1_day_0 hE hn (hR.le h2.1 h2.2) (by rw [hG]; exact hc) hT hK hw)
def wX1_panes_0 (c : Nat → Option Nat) (x0 : Nat) (w0 : GW) (K : Int32 → Prop) : Prop :=
  ∃ f1 : Option Nat, gfm w0 x0 [0] 2 = some (va_rf f1) ∧ (∃ a3 : Nat, f1 = some a3 ∧ (∃ f4 : Option Nat, gfm w0 a3 [2] 0 = some (va_rf f4) ∧ (∃ a6 : Nat, f4 = some a6 ∧ (gmc w0 a6 = some 20 ∧ (wJ2_size c a6 w0 (fun r7 => K r7))))))
set_option maxRecDepth 100000 in
theorem bX1_panes_0 {E : jE} (hE : jOk E cX1_panes RX1) (hn : E.2.2.2.2 = 1) (hR : jRoom E 1 20) {c : Nat → Option Nat} (hc : E.2.2.1.2.2.2 = c) {b : Nat × Nat} {w0 : GW} {K : Int32 → Prop} (hK : jRi E .int (KPI w0 K)) {x0 : Nat}  (hw : wX1_panes_0 c x0 w0 K) : J E w0 b [(0, .ref (x0))] 0 [] := by
  unfold wX1_panes_0 at hw
  refine j_aload_n hE 0 dX1_panes_0 rfl rfl ?_
  obtain ⟨f1, h2, hw⟩ := hw
  refine j_getM hE gf_GlassStreet_houses q349 h2 dX1_panes_1 ?_
  obtain ⟨a3, e9, hx⟩ := hw
  subst e9
  have hw := hx
  clear hx
  obtain ⟨f4, h5, hw⟩ := hw
  refine j_getMN hE gf_GlassStreet_Houses_panes q239 h5 dX1_panes_4 ?_
  obtain ⟨a6, e9, hx⟩ := hw
  subst e9
  have hw := hx
  clear hx
  obtain ⟨h8, hw⟩ := hw
  refine jc_ip (jr_V hE hR (As := []) (rest := []) ((ctJ2_size E.1.2.1 E.2.2.1 hc _ _ _ hw) E.2.2.2.1) (lw_V q1161 q626 q627 q126 q628) jdJ2_size ⟨Nat.le_of_ble_eq_true rfl, Nat.le_of_ble_eq_true rfl⟩ ⟨Nat.zero_le _, Nat.zero_le _⟩ (gmc_gIs h8 (r := (RJ2, TJ2, 3)) rfl) rfl (Nat.le_of_ble_eq_true rfl) dX1_panes_7) (fun r7 hw => ?_)
  refine j_b0 ?_
  exact j_iret hE hK dX1_panes_10 rfl ⟨rfl, hw⟩
theorem jdX1_panes : jD yX1_panes 0 := by decide +kernel
abbrev wX1_panes := wX1_panes_0
theorem ctX1_panes (l : Launch) (G : gG) {c : Nat → Option Nat} (hc : G.2.2.2 = c) (x0 : Nat) (w0 : GW) (K : Int32 → Prop) (hw : wX1_panes_0 c x0 w0 K) {F2 L2 : Nat} (h2 : 1 ≤ F2 ∧ 20 ≤ L2 := by exact ⟨Nat.le_refl _, Nat.le_refl _⟩) : CtI l yX1_panes cX1_panes 1 .int ({ frames := F2, cells := 0, slots := 0, locals := L2 }) G [.ref (x0)] w0 (KPI w0 K) :=
  CtI.of RX1 plainc_X1 rfl (Nat.le_of_ble_eq_true rfl) (fun E hE hl hG hn hR hK => bX1_panes_0 hE hn (hR.le h2.1 h2.2) (by rw [hG]; exact hc) hK hw)
def wX1_isPane_0 (c : Nat → Option Nat) (x0 : Nat) (x1 : Int32) (w0 : GW) (K : Int32 → Prop) : Prop :=
  gmc w0 x0 = some 0 ∧ (wX1_panes c x0 w0 (fun r1 => wX1_in c x1 ((0 : Int32)) (r1 - ((1 : Int32))) w0 (fun r3 => narrow .boolean (.int r3) = .int r3 ∧ K r3)))
set_option maxRecDepth 100000 in
theorem bX1_isPane_0 {E : jE} (hE : jOk E cX1_isPane RX1) (hn : E.2.2.2.2 = 2) (hR : jRoom E 2 40) {c : Nat → Option Nat} (hc : E.2.2.1.2.2.2 = c) {b : Nat × Nat} {w0 : GW} {K : Int32 → Prop} (hK : jRi E .boolean (KPI w0 K)) {x0 : Nat} {x1 : Int32}  (hw : wX1_isPane_0 c x0 x1 w0 K) : J E w0 b [(0, .ref (x0)), (1, .int (x1))] 0 [] := by
  unfold wX1_isPane_0 at hw
  refine j_iload_n hE 1 dX1_isPane_0 rfl rfl ?_
  refine j_iconst hE dX1_isPane_1 kc_0 ?_
  refine j_aload_n hE 0 dX1_isPane_2 rfl rfl ?_
  obtain ⟨h2, hw⟩ := hw
  refine jc_ip (jr_V hE hR (As := []) (rest := [.int ((0 : Int32)), .int (x1)]) ((ctX1_panes E.1.2.1 E.2.2.1 hc _ _ _ hw) E.2.2.2.1) (lw_V q1157 q1159 qs31 q121 q1160) jdX1_panes ⟨Nat.le_of_ble_eq_true rfl, Nat.le_of_ble_eq_true rfl⟩ ⟨Nat.zero_le _, Nat.zero_le _⟩ (gmc_gIs h2 (r := (RX1, TX1, 15)) rfl) rfl (Nat.le_of_ble_eq_true rfl) dX1_isPane_3) (fun r1 hw => ?_)
  refine j_b0 ?_
  refine j_iconst hE dX1_isPane_6 kc_1 ?_
  refine j_isub hE dX1_isPane_7 ?_
  refine jc_ip (jr_S hE hR (As := [.int (x1), .int ((0 : Int32)), .int (r1 - ((1 : Int32)))]) (rest := []) ((ctX1_in E.1.2.1 E.2.2.1 hc _ _ _ _ _ hw) E.2.2.2.1) (lw_S q1162 q919 q121 q920) jdX1_in ⟨Nat.le_of_ble_eq_true rfl, Nat.le_of_ble_eq_true rfl⟩ ⟨Nat.zero_le _, Nat.zero_le _⟩  rfl (Nat.le_of_ble_eq_true rfl) dX1_isPane_8) (fun r3 hw => ?_)
  refine j_b0 ?_
  obtain ⟨hz, hw⟩ := hw
  exact j_iret hE hK dX1_isPane_11 hz ⟨rfl, hw⟩
theorem jdX1_isPane : jD yX1_isPane 1 := by decide +kernel
abbrev wX1_isPane := wX1_isPane_0
theorem ctX1_isPane (l : Launch) (G : gG) {c : Nat → Option Nat} (hc : G.2.2.2 = c) (x0 : Nat) (x1 : Int32) (w0 : GW) (K : Int32 → Prop) (hw : wX1_isPane_0 c x0 x1 w0 K) {F2 L2 : Nat} (h2 : 2 ≤ F2 ∧ 40 ≤ L2 := by exact ⟨Nat.le_refl _, Nat.le_refl _⟩) : CtI l yX1_isPane cX1_isPane 2 .boolean ({ frames := F2, cells := 0, slots := 0, locals := L2 }) G [.ref (x0), .int (x1)] w0 (KPI w0 K) :=
  CtI.of RX1 plainc_X1 rfl (Nat.le_of_ble_eq_true rfl) (fun E hE hl hG hn hR hK => bX1_isPane_0 hE hn (hR.le h2.1 h2.2) (by rw [hG]; exact hc) hK hw)
def wX1_pane_2_0 (c : Nat → Option Nat) (x0 : Nat) (x1 : Int32) (w0 : GW) (K : Option Nat → Prop) : Prop :=
  ∃ f1 : Option Nat, gfm w0 x0 [0] 2 = some (va_rf f1) ∧ (∃ a3 : Nat, f1 = some a3 ∧ (∃ f4 : Option Nat, gfm w0 a3 [2] 0 = some (va_rf f4) ∧ (∃ a6 : Nat, f4 = some a6 ∧ (gmc w0 a6 = some 20 ∧ (wJ2_get c a6 x1 w0 (fun r7 => ∃ a9 : Nat, r7 = some a9 ∧ (∃ n10 : Nat, gmc w0 a9 = some n10 ∧ n10 ∈ ([7, 8, 9, 10] : List Nat) ∧ (K (some a9)))))))))
set_option maxRecDepth 100000 in
theorem bX1_pane_2_0 {E : jE} (hE : jOk E cX1_pane_2 RX1) (hn : E.2.2.2.2 = 2) (hR : jRoom E 3 64) {c : Nat → Option Nat} (hc : E.2.2.1.2.2.2 = c) {b : Nat × Nat} {w0 : GW} {K : Option Nat → Prop} (hK : jRq E (.object "GlassStreet$Pane") (KPQ w0 K)) {x0 : Nat} {x1 : Int32}  (hw : wX1_pane_2_0 c x0 x1 w0 K) : J E w0 b [(0, .ref (x0)), (1, .int (x1))] 0 [] := by
  unfold wX1_pane_2_0 at hw
  refine j_aload_n hE 0 dX1_pane_2_0 rfl rfl ?_
  obtain ⟨f1, h2, hw⟩ := hw
  refine j_getM hE gf_GlassStreet_houses q349 h2 dX1_pane_2_1 ?_
  obtain ⟨a3, e9, hx⟩ := hw
  subst e9
  have hw := hx
  clear hx
  obtain ⟨f4, h5, hw⟩ := hw
  refine j_getMN hE gf_GlassStreet_Houses_panes q239 h5 dX1_pane_2_4 ?_
  refine j_iload_n hE 1 dX1_pane_2_7 rfl rfl ?_
  obtain ⟨a6, e9, hx⟩ := hw
  subst e9
  have hw := hx
  clear hx
  obtain ⟨h8, hw⟩ := hw
  refine jc_qp (jr_V hE hR (As := [.int (x1)]) (rest := []) ((ctJ2_get E.1.2.1 E.2.2.1 hc _ _ _ _ hw) E.2.2.2.1) (lw_V q1167 q810 q811 q126 q812) jdJ2_get ⟨Nat.le_of_ble_eq_true rfl, Nat.le_of_ble_eq_true rfl⟩ ⟨Nat.zero_le _, Nat.zero_le _⟩ (gmc_gIs h8 (r := (RJ2, TJ2, 3)) rfl) rfl (Nat.le_of_ble_eq_true rfl) dX1_pane_2_8) (fun r7 hw => ?_)
  refine j_b0 ?_
  obtain ⟨a9, e9, hx⟩ := hw
  subst e9
  have hw := hx
  clear hx
  obtain ⟨n10, h11, h12, hw⟩ := hw
  refine j_castL hE cast_X8 q1168 h11 h12 dX1_pane_2_11 ?_
  exact j_qret hE hK (r := some a9) dX1_pane_2_14 (by first | exact Or.inl ⟨_, rfl⟩ | exact Or.inr ⟨_, rfl⟩) ⟨rfl, hw⟩
theorem jdX1_pane_2 : jD yX1_pane_2 1 := by decide +kernel
abbrev wX1_pane_2 := wX1_pane_2_0
theorem ctX1_pane_2 (l : Launch) (G : gG) {c : Nat → Option Nat} (hc : G.2.2.2 = c) (x0 : Nat) (x1 : Int32) (w0 : GW) (K : Option Nat → Prop) (hw : wX1_pane_2_0 c x0 x1 w0 K) {F2 L2 : Nat} (h2 : 3 ≤ F2 ∧ 64 ≤ L2 := by exact ⟨Nat.le_refl _, Nat.le_refl _⟩) : CtQ l yX1_pane_2 cX1_pane_2 2 (.object "GlassStreet$Pane") ({ frames := F2, cells := 0, slots := 0, locals := L2 }) G [.ref (x0), .int (x1)] w0 (KPQ w0 K) :=
  CtQ.of RX1 plainc_X1 rfl (Nat.le_of_ble_eq_true rfl) (fun E hE hl hG hn hR hK => bX1_pane_2_0 hE hn (hR.le h2.1 h2.2) (by rw [hG]; exact hc) hK hw)
def wX8_kind_0 (c : Nat → Option Nat) (x0 : Nat) (w0 : GW) (K : Int32 → Prop) : Prop :=
  K ((0 : Int32))
set_option maxRecDepth 100000 in
theorem bX8_kind_0 {E : jE} (hE : jOk E cX8_kind RX8) (hn : E.2.2.2.2 = 1) (hR : jRoom E 0 0) {c : Nat → Option Nat} (hc : E.2.2.1.2.2.2 = c) {b : Nat × Nat} {w0 : GW} {K : Int32 → Prop} (hK : jRi E .int (KPI w0 K)) {x0 : Nat}  (hw : wX8_kind_0 c x0 w0 K) : J E w0 b [(0, .ref (x0))] 0 [] := by
  unfold wX8_kind_0 at hw
  refine j_iconst hE dX8_kind_0 kc_0 ?_
  exact j_iret hE hK dX8_kind_1 rfl ⟨rfl, hw⟩
theorem jdX8_kind : jD yX8_kind 0 := by decide +kernel
abbrev wX8_kind := wX8_kind_0
theorem ctX8_kind (l : Launch) (G : gG) {c : Nat → Option Nat} (hc : G.2.2.2 = c) (x0 : Nat) (w0 : GW) (K : Int32 → Prop) (hw : wX8_kind_0 c x0 w0 K) {F2 L2 : Nat} (h2 : 0 ≤ F2 ∧ 0 ≤ L2 := by exact ⟨Nat.le_refl _, Nat.le_refl _⟩) : CtI l yX8_kind cX8_kind 1 .int ({ frames := F2, cells := 0, slots := 0, locals := L2 }) G [.ref (x0)] w0 (KPI w0 K) :=
  CtI.of RX8 plainc_X8 rfl (Nat.le_of_ble_eq_true rfl) (fun E hE hl hG hn hR hK => bX8_kind_0 hE hn (hR.le h2.1 h2.2) (by rw [hG]; exact hc) hK hw)
def wX9_kind_0 (c : Nat → Option Nat) (x0 : Nat) (w0 : GW) (K : Int32 → Prop) : Prop :=
  K ((1 : Int32))
set_option maxRecDepth 100000 in
theorem bX9_kind_0 {E : jE} (hE : jOk E cX9_kind RX9) (hn : E.2.2.2.2 = 1) (hR : jRoom E 0 0) {c : Nat → Option Nat} (hc : E.2.2.1.2.2.2 = c) {b : Nat × Nat} {w0 : GW} {K : Int32 → Prop} (hK : jRi E .int (KPI w0 K)) {x0 : Nat}  (hw : wX9_kind_0 c x0 w0 K) : J E w0 b [(0, .ref (x0))] 0 [] := by
  unfold wX9_kind_0 at hw
  refine j_iconst hE dX9_kind_0 kc_1 ?_
  exact j_iret hE hK dX9_kind_1 rfl ⟨rfl, hw⟩
theorem jdX9_kind : jD yX9_kind 0 := by decide +kernel
abbrev wX9_kind := wX9_kind_0
theorem ctX9_kind (l : Launch) (G : gG) {c : Nat → Option Nat} (hc : G.2.2.2 = c) (x0 : Nat) (w0 : GW) (K : Int32 → Prop) (hw : wX9_kind_0 c x0 w0 K) {F2 L2 : Nat} (h2 : 0 ≤ F2 ∧ 0 ≤ L2 := by exact ⟨Nat.le_refl _, Nat.le_refl _⟩) : CtI l yX9_kind cX9_kind 1 .int ({ frames := F2, cells := 0, slots := 0, locals := L2 }) G [.ref (x0)] w0 (KPI w0 K) :=
  CtI.of RX9 plainc_X9 rfl (Nat.le_of_ble_eq_true rfl) (fun E hE hl hG hn hR hK => bX9_kind_0 hE hn (hR.le h2.1 h2.2) (by rw [hG]; exact hc) hK hw)
def wX10_kind_0 (c : Nat → Option Nat) (x0 : Nat) (w0 : GW) (K : Int32 → Prop) : Prop :=
  K (nI 2)
set_option maxRecDepth 100000 in
theorem bX10_kind_0 {E : jE} (hE : jOk E cX10_kind RX10) (hn : E.2.2.2.2 = 1) (hR : jRoom E 0 0) {c : Nat → Option Nat} (hc : E.2.2.1.2.2.2 = c) {b : Nat × Nat} {w0 : GW} {K : Int32 → Prop} (hK : jRi E .int (KPI w0 K)) {x0 : Nat}  (hw : wX10_kind_0 c x0 w0 K) : J E w0 b [(0, .ref (x0))] 0 [] := by
  unfold wX10_kind_0 at hw
  refine j_iconst hE dX10_kind_0 kc_2 ?_
  exact j_iret hE hK dX10_kind_1 rfl ⟨rfl, hw⟩
theorem jdX10_kind : jD yX10_kind 0 := by decide +kernel
abbrev wX10_kind := wX10_kind_0
theorem ctX10_kind (l : Launch) (G : gG) {c : Nat → Option Nat} (hc : G.2.2.2 = c) (x0 : Nat) (w0 : GW) (K : Int32 → Prop) (hw : wX10_kind_0 c x0 w0 K) {F2 L2 : Nat} (h2 : 0 ≤ F2 ∧ 0 ≤ L2 := by exact ⟨Nat.le_refl _, Nat.le_refl _⟩) : CtI l yX10_kind cX10_kind 1 .int ({ frames := F2, cells := 0, slots := 0, locals := L2 }) G [.ref (x0)] w0 (KPI w0 K) :=
  CtI.of RX10 plainc_X10 rfl (Nat.le_of_ble_eq_true rfl) (fun E hE hl hG hn hR hK => bX10_kind_0 hE hn (hR.le h2.1 h2.2) (by rw [hG]; exact hc) hK hw)
def wX11_kind_0 (c : Nat → Option Nat) (x0 : Nat) (w0 : GW) (K : Int32 → Prop) : Prop :=
  K (nI 3)
set_option maxRecDepth 100000 in
theorem bX11_kind_0 {E : jE} (hE : jOk E cX11_kind RX11) (hn : E.2.2.2.2 = 1) (hR : jRoom E 0 0) {c : Nat → Option Nat} (hc : E.2.2.1.2.2.2 = c) {b : Nat × Nat} {w0 : GW} {K : Int32 → Prop} (hK : jRi E .int (KPI w0 K)) {x0 : Nat}  (hw : wX11_kind_0 c x0 w0 K) : J E w0 b [(0, .ref (x0))] 0 [] := by
  unfold wX11_kind_0 at hw
  refine j_iconst hE dX11_kind_0 kc_3 ?_
  exact j_iret hE hK dX11_kind_1 rfl ⟨rfl, hw⟩
theorem jdX11_kind : jD yX11_kind 0 := by decide +kernel
abbrev wX11_kind := wX11_kind_0
theorem ctX11_kind (l : Launch) (G : gG) {c : Nat → Option Nat} (hc : G.2.2.2 = c) (x0 : Nat) (w0 : GW) (K : Int32 → Prop) (hw : wX11_kind_0 c x0 w0 K) {F2 L2 : Nat} (h2 : 0 ≤ F2 ∧ 0 ≤ L2 := by exact ⟨Nat.le_refl _, Nat.le_refl _⟩) : CtI l yX11_kind cX11_kind 1 .int ({ frames := F2, cells := 0, slots := 0, locals := L2 }) G [.ref (x0)] w0 (KPI w0 K) :=
  CtI.of RX11 plainc_X11 rfl (Nat.le_of_ble_eq_true rfl) (fun E hE hl hG hn hR hK => bX11_kind_0 hE hn (hR.le h2.1 h2.2) (by rw [hG]; exact hc) hK hw)
def wX4_isWhole_0 (c : Nat → Option Nat) (x0 : Nat) (x1 : Int32) (w0 : GW) (K : Int32 → Prop) : Prop :=
  ∃ f1 : Int32, gfm w0 x0 [3] 4 = some (.int f1) ∧ (wX1_isIn c f1 x1 w0 (fun r3 => (¬ r3 = 0 → (K ((0 : Int32)))) ∧ (r3 = 0 → (K ((1 : Int32))))))
set_option maxRecDepth 100000 in
theorem bX4_isWhole_0 {E : jE} (hE : jOk E cX4_isWhole RX4) (hn : E.2.2.2.2 = 2) (hR : jRoom E 1 21) {c : Nat → Option Nat} (hc : E.2.2.1.2.2.2 = c) {b : Nat × Nat} {w0 : GW} {K : Int32 → Prop} (hK : jRi E .boolean (KPI w0 K)) {x0 : Nat} {x1 : Int32}  (hw : wX4_isWhole_0 c x0 x1 w0 K) : J E w0 b [(0, .ref (x0)), (1, .int (x1))] 0 [] := by
  unfold wX4_isWhole_0 at hw
  refine j_aload_n hE 0 dX4_isWhole_0 rfl rfl ?_
  obtain ⟨f1, h2, hw⟩ := hw
  refine j_getM hE gf_GlassStreet_State_gone q327 h2 dX4_isWhole_1 ?_
  refine j_iload_n hE 1 dX4_isWhole_4 rfl rfl ?_
  refine jc_ip (jr_SN hE hR (As := [.int (f1), .int (x1)]) (rest := []) ((ctX1_isIn E.1.2.1 E.2.2.1 hc _ _ _ _ hw) E.2.2.2.1) (lw_meth q923) q121 q1192 q922 jdX1_isIn ⟨Nat.le_of_ble_eq_true rfl, Nat.le_of_ble_eq_true rfl⟩ ⟨Nat.zero_le _, Nat.zero_le _⟩  rfl (Nat.le_of_ble_eq_true rfl) dX4_isWhole_5) (fun r3 hw => ?_)
  refine j_b0 ?_
  refine j_if_ne hE 15 dX4_isWhole_8 (by decide) (fun c4 => ?_) (fun c4 => ?_)
  · replace hw := hw.1 c4
    refine j_iconst hE dX4_isWhole_15 kc_0 ?_
    exact j_iret hE hK dX4_isWhole_16 rfl ⟨rfl, hw⟩
  · replace hw := hw.2 c4
    refine j_iconst hE dX4_isWhole_11 kc_1 ?_
    refine j_goto hE 16 dX4_isWhole_12 (by decide) ?_
    exact j_iret hE hK dX4_isWhole_16 rfl ⟨rfl, hw⟩
theorem jdX4_isWhole : jD yX4_isWhole 1 := by decide +kernel
abbrev wX4_isWhole := wX4_isWhole_0
theorem ctX4_isWhole (l : Launch) (G : gG) {c : Nat → Option Nat} (hc : G.2.2.2 = c) (x0 : Nat) (x1 : Int32) (w0 : GW) (K : Int32 → Prop) (hw : wX4_isWhole_0 c x0 x1 w0 K) {F2 L2 : Nat} (h2 : 1 ≤ F2 ∧ 21 ≤ L2 := by exact ⟨Nat.le_refl _, Nat.le_refl _⟩) : CtI l yX4_isWhole cX4_isWhole 2 .boolean ({ frames := F2, cells := 0, slots := 0, locals := L2 }) G [.ref (x0), .int (x1)] w0 (KPI w0 K) :=
  CtI.of RX4 plainc_X4 rfl (Nat.le_of_ble_eq_true rfl) (fun E hE hl hG hn hR hK => bX4_isWhole_0 hE hn (hR.le h2.1 h2.2) (by rw [hG]; exact hc) hK hw)
def wX3_light_0 (c : Nat → Option Nat) (x0 : Nat) (x1 : Int32) (w0 : GW) (K : Int32 → Prop) : Prop :=
  ∃ f1 : Int32, gfm w0 x0 [2] 6 = some (.int f1) ∧ ((¬ f1 = 0 → (∃ f4 : Option Nat, gfm w0 x0 [2] 5 = some (va_rf f4) ∧ (∃ f6 : Int32, gfm w0 x0 [2] 6 = some (.int f6) ∧ (¬ f6 = 0 ∧ (∃ a9 : Nat, f4 = some a9 ∧ (∃ (n10 : Nat) (f11 : Nat → Int32), gai w0 a9 0 = some (n10, f11) ∧ vp_in (irem x1 f6) n10 ∧ (K (rd f11 (irem x1 f6))))))))) ∧ (f1 = 0 → (K ((1 : Int32)))))
set_option maxRecDepth 100000 in
theorem bX3_light_0 {E : jE} (hE : jOk E cX3_light RX3) (hn : E.2.2.2.2 = 2) (hR : jRoom E 0 0) {c : Nat → Option Nat} (hc : E.2.2.1.2.2.2 = c) {b : Nat × Nat} {w0 : GW} {K : Int32 → Prop} (hK : jRi E .int (KPI w0 K)) {x0 : Nat} {x1 : Int32}  (hw : wX3_light_0 c x0 x1 w0 K) : J E w0 b [(0, .ref (x0)), (1, .int (x1))] 0 [] := by
  unfold wX3_light_0 at hw
  refine j_aload_n hE 0 dX3_light_0 rfl rfl ?_
  obtain ⟨f1, h2, hw⟩ := hw
  refine j_getM hE gf_GlassStreet_Houses_many q255 h2 dX3_light_1 ?_
  refine j_if_ne hE 11 dX3_light_4 (by decide) (fun c3 => ?_) (fun c3 => ?_)
  · replace hw := hw.1 c3
    refine j_aload_n hE 0 dX3_light_11 rfl rfl ?_
    obtain ⟨f4, h5, hw⟩ := hw
    refine j_getM hE gf_GlassStreet_Houses_light q253 h5 dX3_light_12 ?_
    refine j_iload_n hE 1 dX3_light_15 rfl rfl ?_
    refine j_aload_n hE 0 dX3_light_16 rfl rfl ?_
    obtain ⟨f6, h7, hw⟩ := hw
    refine j_getM hE gf_GlassStreet_Houses_many q255 h7 dX3_light_17 ?_
    obtain ⟨h8, hw⟩ := hw
    refine j_irem hE dX3_light_20 h8 ?_
    obtain ⟨a9, e9, hx⟩ := hw
    subst e9
    have hw := hx
    clear hx
    obtain ⟨n10, f11, h12, h13, hw⟩ := hw
    refine j_aldI hE h12 h13 dX3_light_21 ?_
    exact j_iret hE hK dX3_light_22 rfl ⟨rfl, hw⟩
  · replace hw := hw.2 c3
    refine j_iconst hE dX3_light_7 kc_1 ?_
    refine j_goto hE 22 dX3_light_8 (by decide) ?_
    exact j_iret hE hK dX3_light_22 rfl ⟨rfl, hw⟩
theorem jdX3_light : jD yX3_light 1 := by decide +kernel
abbrev wX3_light := wX3_light_0
theorem ctX3_light (l : Launch) (G : gG) {c : Nat → Option Nat} (hc : G.2.2.2 = c) (x0 : Nat) (x1 : Int32) (w0 : GW) (K : Int32 → Prop) (hw : wX3_light_0 c x0 x1 w0 K) {F2 L2 : Nat} (h2 : 0 ≤ F2 ∧ 0 ≤ L2 := by exact ⟨Nat.le_refl _, Nat.le_refl _⟩) : CtI l yX3_light cX3_light 2 .int ({ frames := F2, cells := 0, slots := 0, locals := L2 }) G [.ref (x0), .int (x1)] w0 (KPI w0 K) :=
  CtI.of RX3 plainc_X3 rfl (Nat.le_of_ble_eq_true rfl) (fun E hE hl hG hn hR hK => bX3_light_0 hE hn (hR.le h2.1 h2.2) (by rw [hG]; exact hc) hK hw)
def wX8_sees_0 (c : Nat → Option Nat) (x0 : Nat) (x1 : Int32) (w0 : GW) (K : Int32 → Prop) : Prop :=
  ∃ f1 : Int32, gfm w0 x0 [7, 8, 9, 10] 2 = some (.int f1) ∧ (K f1)
set_option maxRecDepth 100000 in
theorem bX8_sees_0 {E : jE} (hE : jOk E cX8_sees RX8) (hn : E.2.2.2.2 = 2) (hR : jRoom E 0 0) {c : Nat → Option Nat} (hc : E.2.2.1.2.2.2 = c) {b : Nat × Nat} {w0 : GW} {K : Int32 → Prop} (hK : jRi E .int (KPI w0 K)) {x0 : Nat} {x1 : Int32}  (hw : wX8_sees_0 c x0 x1 w0 K) : J E w0 b [(0, .ref (x0)), (1, .int (x1))] 0 [] := by
  unfold wX8_sees_0 at hw
  refine j_aload_n hE 0 dX8_sees_0 rfl rfl ?_
  obtain ⟨f1, h2, hw⟩ := hw
  refine j_getM hE gf_GlassStreet_Pane_cells q857 h2 dX8_sees_1 ?_
  exact j_iret hE hK dX8_sees_4 rfl ⟨rfl, hw⟩
theorem jdX8_sees : jD yX8_sees 1 := by decide +kernel
abbrev wX8_sees := wX8_sees_0
theorem ctX8_sees (l : Launch) (G : gG) {c : Nat → Option Nat} (hc : G.2.2.2 = c) (x0 : Nat) (x1 : Int32) (w0 : GW) (K : Int32 → Prop) (hw : wX8_sees_0 c x0 x1 w0 K) {F2 L2 : Nat} (h2 : 0 ≤ F2 ∧ 0 ≤ L2 := by exact ⟨Nat.le_refl _, Nat.le_refl _⟩) : CtI l yX8_sees cX8_sees 2 .int ({ frames := F2, cells := 0, slots := 0, locals := L2 }) G [.ref (x0), .int (x1)] w0 (KPI w0 K) :=
  CtI.of RX8 plainc_X8 rfl (Nat.le_of_ble_eq_true rfl) (fun E hE hl hG hn hR hK => bX8_sees_0 hE hn (hR.le h2.1 h2.2) (by rw [hG]; exact hc) hK hw)
def wX10_sees_0 (c : Nat → Option Nat) (x0 : Nat) (x1 : Int32) (w0 : GW) (K : Int32 → Prop) : Prop :=
  (¬ x1 = 0 → (∃ f2 : Int32, gfm w0 x0 [9] 2 = some (.int f2) ∧ (K f2))) ∧ (x1 = 0 → (K ((0 : Int32))))
set_option maxRecDepth 100000 in
theorem bX10_sees_0 {E : jE} (hE : jOk E cX10_sees RX10) (hn : E.2.2.2.2 = 2) (hR : jRoom E 0 0) {c : Nat → Option Nat} (hc : E.2.2.1.2.2.2 = c) {b : Nat × Nat} {w0 : GW} {K : Int32 → Prop} (hK : jRi E .int (KPI w0 K)) {x0 : Nat} {x1 : Int32}  (hw : wX10_sees_0 c x0 x1 w0 K) : J E w0 b [(0, .ref (x0)), (1, .int (x1))] 0 [] := by
  unfold wX10_sees_0 at hw
  refine j_iload_n hE 1 dX10_sees_0 rfl rfl ?_
  refine j_if_ne hE 8 dX10_sees_1 (by decide) (fun c1 => ?_) (fun c1 => ?_)
  · replace hw := hw.1 c1
    refine j_aload_n hE 0 dX10_sees_8 rfl rfl ?_
    obtain ⟨f2, h3, hw⟩ := hw
    refine j_getM hE gf_GlassStreet_Thick_cells q860 h3 dX10_sees_9 ?_
    exact j_iret hE hK dX10_sees_12 rfl ⟨rfl, hw⟩
  · replace hw := hw.2 c1
    refine j_iconst hE dX10_sees_4 kc_0 ?_
    refine j_goto hE 12 dX10_sees_5 (by decide) ?_
    exact j_iret hE hK dX10_sees_12 rfl ⟨rfl, hw⟩
theorem jdX10_sees : jD yX10_sees 1 := by decide +kernel
abbrev wX10_sees := wX10_sees_0
theorem ctX10_sees (l : Launch) (G : gG) {c : Nat → Option Nat} (hc : G.2.2.2 = c) (x0 : Nat) (x1 : Int32) (w0 : GW) (K : Int32 → Prop) (hw : wX10_sees_0 c x0 x1 w0 K) {F2 L2 : Nat} (h2 : 0 ≤ F2 ∧ 0 ≤ L2 := by exact ⟨Nat.le_refl _, Nat.le_refl _⟩) : CtI l yX10_sees cX10_sees 2 .int ({ frames := F2, cells := 0, slots := 0, locals := L2 }) G [.ref (x0), .int (x1)] w0 (KPI w0 K) :=
  CtI.of RX10 plainc_X10 rfl (Nat.le_of_ble_eq_true rfl) (fun E hE hl hG hn hR hK => bX10_sees_0 hE hn (hR.le h2.1 h2.2) (by rw [hG]; exact hc) hK hw)
def wX1_turned_4_b (c : Nat → Option Nat) (x0 : Int32) (x1 : Int32) (x2 : Int32) (w0 : GW) (KL4 : Int32 × Int32 → Prop) (K : Int32 → Prop) : Prop :=
  ((nI 10) ≤ x2 → (K x1)) ∧ (¬ (nI 10) ≤ x2 → (wX1_isIn c x0 x2 w0 (fun r2 => (r2 = 0 → (KL4 (x1, (x2 + 1)))) ∧ (¬ r2 = 0 → (∀ v4 : Int32, v4 = x1 ||| (ishl ((1 : Int32)) ((nI 9) - x2)) → (KL4 (v4, (x2 + 1))))))))
def wX1_turned_4 (c : Nat → Option Nat) (x0 : Int32) (x1 : Int32) (x2 : Int32) (w0 : GW) (K : Int32 → Prop) : Prop := lfp (σ := Int32 × Int32) (fun KL s => wX1_turned_4_b c x0 s.1 s.2 w0 KL K) (x1, x2)
set_option maxRecDepth 100000 in
theorem bX1_turned_4 {E : jE} (hE : jOk E cX1_turned RX1) (hn : E.2.2.2.2 = 3) (hR : jRoom E 1 21) {c : Nat → Option Nat} (hc : E.2.2.1.2.2.2 = c) {b : Nat × Nat} {w0 : GW} {K : Int32 → Prop} (hK : jRi E .int (KPI w0 K)) {x0 : Int32} {x1 : Int32} {x2 : Int32}  (hw : wX1_turned_4 c x0 x1 x2 w0 K) : J E w0 b [(0, .int (x0)), (1, .int (x1)), (2, .int (x2))] 4 [] := by
  refine lfp_sound (σ := Int32 × Int32) (F := fun KL s => wX1_turned_4_b c x0 s.1 s.2 w0 KL K) (P := fun s => J E w0 b [(0, .int (x0)), (1, .int (s.1)), (2, .int (s.2))] 4 []) ?_ hw
  clear hw
  rintro KL4 ⟨x1, x2⟩ hw ih4
  have hw : wX1_turned_4_b c x0 x1 x2 w0 KL4 K := hw
  unfold wX1_turned_4_b at hw
  refine j_iload_n hE 2 dX1_turned_4 rfl rfl ?_
  refine j_bipush hE dX1_turned_5 kb_10 ?_
  refine j_icmp_ge hE 33 dX1_turned_7 (by decide) (fun c1 => ?_) (fun c1 => ?_)
  · replace hw := hw.1 c1
    refine j_iload_n hE 1 dX1_turned_33 rfl rfl ?_
    exact j_iret hE hK dX1_turned_34 rfl ⟨rfl, hw⟩
  · replace hw := hw.2 c1
    refine j_iload_n hE 0 dX1_turned_10 rfl rfl ?_
    refine j_iload_n hE 2 dX1_turned_11 rfl rfl ?_
    refine jc_ip (jr_S hE hR (As := [.int (x0), .int (x2)]) (rest := []) ((ctX1_isIn E.1.2.1 E.2.2.1 hc _ _ _ _ hw) E.2.2.2.1) (lw_S q1183 q922 q121 q923) jdX1_isIn ⟨Nat.le_of_ble_eq_true rfl, Nat.le_of_ble_eq_true rfl⟩ ⟨Nat.zero_le _, Nat.zero_le _⟩  rfl (Nat.le_of_ble_eq_true rfl) dX1_turned_12) (fun r2 hw => ?_)
    refine j_b0 ?_
    refine j_if_eq hE 27 dX1_turned_15 (by decide) (fun c3 => ?_) (fun c3 => ?_)
    · replace hw := hw.1 c3
      refine j_iinc (L' := [(2, .int (x2 + 1)), (0, .int (x0)), (1, .int (x1))]) hE hn 2 dX1_turned_27 rfl (congrArg (x2 + ·) kc_1) (Nat.le_of_ble_eq_true rfl) rfl ?_
      refine j_goto hE 4 dX1_turned_30 (by decide) ?_
      refine j_sub [(0, .int (x0)), (1, .int (x1)), (2, .int (x2 + 1))] [1, 2, 0] rfl ?_
      have hz := ih4 (x1, (x2 + 1)) hw
      exact hz
    · replace hw := hw.2 c3
      refine j_iload_n hE 1 dX1_turned_18 rfl rfl ?_
      refine j_iconst hE dX1_turned_19 kc_1 ?_
      refine j_bipush hE dX1_turned_20 kb_9 ?_
      refine j_iload_n hE 2 dX1_turned_22 rfl rfl ?_
      refine j_isub hE dX1_turned_23 ?_
      refine j_ishl hE dX1_turned_24 ?_
      refine j_ior hE dX1_turned_25 ?_
      refine j_topi (fun v4 e_v4 => ?_)
      replace hw := hw v4 e_v4
      refine j_istore_n (L' := [(1, .int (v4)), (0, .int (x0)), (2, .int (x2))]) hE hn dX1_turned_26 rfl (Nat.le_of_ble_eq_true rfl) rfl ?_
      refine j_iinc (L' := [(2, .int (x2 + 1)), (1, .int (v4)), (0, .int (x0))]) hE hn 2 dX1_turned_27 rfl (congrArg (x2 + ·) kc_1) (Nat.le_of_ble_eq_true rfl) rfl ?_
      refine j_goto hE 4 dX1_turned_30 (by decide) ?_
      refine j_sub [(0, .int (x0)), (1, .int (v4)), (2, .int (x2 + 1))] [2, 1, 0] rfl ?_
      have hz := ih4 (v4, (x2 + 1)) hw
      exact hz
def wX1_turned_0 (c : Nat → Option Nat) (x0 : Int32) (w0 : GW) (K : Int32 → Prop) : Prop :=
  wX1_turned_4 c x0 ((0 : Int32)) ((0 : Int32)) w0 K
set_option maxRecDepth 100000 in
theorem bX1_turned_0 {E : jE} (hE : jOk E cX1_turned RX1) (hn : E.2.2.2.2 = 3) (hR : jRoom E 1 21) {c : Nat → Option Nat} (hc : E.2.2.1.2.2.2 = c) {b : Nat × Nat} {w0 : GW} {K : Int32 → Prop} (hK : jRi E .int (KPI w0 K)) {x0 : Int32}  (hw : wX1_turned_0 c x0 w0 K) : J E w0 b [(0, .int (x0))] 0 [] := by
  unfold wX1_turned_0 at hw
  refine j_iconst hE dX1_turned_0 kc_0 ?_
  refine j_istore_n (L' := [(1, .int ((0 : Int32))), (0, .int (x0))]) hE hn dX1_turned_1 rfl (Nat.le_of_ble_eq_true rfl) rfl ?_
  refine j_iconst hE dX1_turned_2 kc_0 ?_
  refine j_istore_n (L' := [(2, .int ((0 : Int32))), (1, .int ((0 : Int32))), (0, .int (x0))]) hE hn dX1_turned_3 rfl (Nat.le_of_ble_eq_true rfl) rfl ?_
  refine j_sub [(0, .int (x0)), (1, .int ((0 : Int32))), (2, .int ((0 : Int32)))] [2, 1, 0] rfl ?_
  have hz := bX1_turned_4 (b := b) hE hn hR hc hK  hw
  exact hz
theorem jdX1_turned : jD yX1_turned 1 := by decide +kernel
abbrev wX1_turned := wX1_turned_0
theorem ctX1_turned (l : Launch) (G : gG) {c : Nat → Option Nat} (hc : G.2.2.2 = c) (x0 : Int32) (w0 : GW) (K : Int32 → Prop) (hw : wX1_turned_0 c x0 w0 K) {F2 L2 : Nat} (h2 : 1 ≤ F2 ∧ 21 ≤ L2 := by exact ⟨Nat.le_refl _, Nat.le_refl _⟩) : CtI l yX1_turned cX1_turned 3 .int ({ frames := F2, cells := 0, slots := 0, locals := L2 }) G [.int (x0)] w0 (KPI w0 K) :=
  CtI.of RX1 plainc_X1 rfl (Nat.le_of_ble_eq_true rfl) (fun E hE hl hG hn hR hK => bX1_turned_0 hE hn (hR.le h2.1 h2.2) (by rw [hG]; exact hc) hK hw)
def wX11_sees_0 (c : Nat → Option Nat) (x0 : Nat) (x1 : Int32) (w0 : GW) (K : Int32 → Prop) : Prop :=
  ∃ f1 : Int32, gfm w0 x0 [10] 2 = some (.int f1) ∧ (∃ f3 : Int32, gfm w0 x0 [10] 2 = some (.int f3) ∧ (wX1_turned c f3 w0 (fun r5 => K (f1 ||| r5))))
set_option maxRecDepth 100000 in
theorem bX11_sees_0 {E : jE} (hE : jOk E cX11_sees RX11) (hn : E.2.2.2.2 = 2) (hR : jRoom E 2 43) {c : Nat → Option Nat} (hc : E.2.2.1.2.2.2 = c) {b : Nat × Nat} {w0 : GW} {K : Int32 → Prop} (hK : jRi E .int (KPI w0 K)) {x0 : Nat} {x1 : Int32}  (hw : wX11_sees_0 c x0 x1 w0 K) : J E w0 b [(0, .ref (x0)), (1, .int (x1))] 0 [] := by
  unfold wX11_sees_0 at hw
  refine j_aload_n hE 0 dX11_sees_0 rfl rfl ?_
  obtain ⟨f1, h2, hw⟩ := hw
  refine j_getM hE gf_GlassStreet_Mirror_cells q858 h2 dX11_sees_1 ?_
  refine j_aload_n hE 0 dX11_sees_4 rfl rfl ?_
  obtain ⟨f3, h4, hw⟩ := hw
  refine j_getM hE gf_GlassStreet_Mirror_cells q858 h4 dX11_sees_5 ?_
  refine jc_ip (jr_SN hE hR (As := [.int (f3)]) (rest := [.int (f1)]) ((ctX1_turned E.1.2.1 E.2.2.1 hc _ _ _ hw) E.2.2.2.1) (lw_meth q1207) q121 q1205 q1206 jdX1_turned ⟨Nat.le_of_ble_eq_true rfl, Nat.le_of_ble_eq_true rfl⟩ ⟨Nat.zero_le _, Nat.zero_le _⟩  rfl (Nat.le_of_ble_eq_true rfl) dX11_sees_8) (fun r5 hw => ?_)
  refine j_b0 ?_
  refine j_ior hE dX11_sees_11 ?_
  exact j_iret hE hK dX11_sees_12 rfl ⟨rfl, hw⟩
theorem jdX11_sees : jD yX11_sees 1 := by decide +kernel
abbrev wX11_sees := wX11_sees_0
theorem ctX11_sees (l : Launch) (G : gG) {c : Nat → Option Nat} (hc : G.2.2.2 = c) (x0 : Nat) (x1 : Int32) (w0 : GW) (K : Int32 → Prop) (hw : wX11_sees_0 c x0 x1 w0 K) {F2 L2 : Nat} (h2 : 2 ≤ F2 ∧ 43 ≤ L2 := by exact ⟨Nat.le_refl _, Nat.le_refl _⟩) : CtI l yX11_sees cX11_sees 2 .int ({ frames := F2, cells := 0, slots := 0, locals := L2 }) G [.ref (x0), .int (x1)] w0 (KPI w0 K) :=
  CtI.of RX11 plainc_X11 rfl (Nat.le_of_ble_eq_true rfl) (fun E hE hl hG hn hR hK => bX11_sees_0 hE hn (hR.le h2.1 h2.2) (by rw [hG]; exact hc) hK hw)
def wD_sees (c : Nat → Option Nat) (a : Nat) (y0 : Int32) (w : GW) (K : Int32 → Prop) : Prop :=
  (gmc w a = some 7 ∧ wX8_sees c a y0 w K) ∨ (gmc w a = some 8 ∧ wX8_sees c a y0 w K) ∨ (gmc w a = some 9 ∧ wX10_sees c a y0 w K) ∨ (gmc w a = some 10 ∧ wX11_sees c a y0 w K)
theorem jrdX1_sees_35 {E : jE} {c : Nat → Option Nat} (hE : jOk E cX1_sees RX1) (hR : jRoom E 4 85) (hc : E.2.2.1.2.2.2 = c) {w9 : GW} {b : Nat × Nat} {L : List (Nat × Value)} {st : List Value} {x9 : Nat} {y0 : Int32} {K : Int32 → Prop} {As rest : List Value} (hst : st = As.reverse ++ .ref x9 :: rest) (hcat : (rest.map fun v => v.category).sum ≤ 8) (hb : 0 ≤ b.1 ∧ 0 ≤ b.2) (hw : wD_sees c x9 y0 w9 K) (hAs : As = [.int y0] := by rfl) : jRun E w9 b L 35 st rest 0 0 (va_Qi (KPI w9 K) (gB E.2.2.1 E.2.2.2.1) E.2.2.2.1 (.ref x9 :: As).toArray) := by
  subst hAs
  unfold wD_sees at hw
  rcases hw with ⟨hcl, hw⟩ | ⟨hcl, hw⟩ | ⟨hcl, hw⟩ | ⟨hcl, hw⟩
  · exact jr_V hE hR (rm := { frames := 2, cells := 0, slots := 0, locals := 43 }) ((ctX8_sees E.1.2.1 E.2.2.1 hc _ _ _ _ hw (h2 := ⟨Nat.le_of_ble_eq_true rfl, Nat.le_of_ble_eq_true rfl⟩)) E.2.2.2.1) (lw_V q1197 q1198 q1199 q146 q1211) jdX8_sees ⟨Nat.le_of_ble_eq_true rfl, Nat.le_of_ble_eq_true rfl⟩ hb (gmc_gIs hcl (r := (RX8, TX8, 3)) rfl) hst hcat dX1_sees_35
  · exact jr_U hE hR (rm := { frames := 2, cells := 0, slots := 0, locals := 43 }) ((ctX8_sees E.1.2.1 E.2.2.1 hc _ _ _ _ hw (h2 := ⟨Nat.le_of_ble_eq_true rfl, Nat.le_of_ble_eq_true rfl⟩)) E.2.2.2.1) (lw_U (C := "GlassStreet$Frosted") (owner := "GlassStreet$Pane") q1197 q1200 q1201 q1198 q146 q1211) rfl ⟨by decide, by decide, jdX8_sees.2.2⟩ ⟨Nat.le_of_ble_eq_true rfl, Nat.le_of_ble_eq_true rfl⟩ hb (gmc_gIs hcl (r := (RX9, TX9, 3)) rfl) hst hcat dX1_sees_35
  · exact jr_O hE hR (rm := { frames := 2, cells := 0, slots := 0, locals := 43 }) ((ctX10_sees E.1.2.1 E.2.2.1 hc _ _ _ _ hw (h2 := ⟨Nat.le_of_ble_eq_true rfl, Nat.le_of_ble_eq_true rfl⟩)) E.2.2.2.1) (lw_O (C := "GlassStreet$Thick") (owner := "GlassStreet$Pane") q1197 q1200 q1198 q1208 q1209 q148 q1210) q1211 ⟨by decide, by decide, jdX10_sees.2.2⟩ ⟨Nat.le_of_ble_eq_true rfl, Nat.le_of_ble_eq_true rfl⟩ hb (gmc_gIs hcl (r := (RX10, TX10, 3)) rfl) hst hcat dX1_sees_35
  · exact jr_O hE hR (rm := { frames := 2, cells := 0, slots := 0, locals := 43 }) ((ctX11_sees E.1.2.1 E.2.2.1 hc _ _ _ _ hw (h2 := ⟨Nat.le_of_ble_eq_true rfl, Nat.le_of_ble_eq_true rfl⟩)) E.2.2.2.1) (lw_O (C := "GlassStreet$Mirror") (owner := "GlassStreet$Pane") q1197 q1200 q1198 q1202 q1203 q149 q1204) q1211 ⟨by decide, by decide, jdX11_sees.2.2⟩ ⟨Nat.le_of_ble_eq_true rfl, Nat.le_of_ble_eq_true rfl⟩ hb (gmc_gIs hcl (r := (RX11, TX11, 3)) rfl) hst hcat dX1_sees_35
def wX1_sees_0 (c : Nat → Option Nat) (x0 : Nat) (x1 : Nat) (x2 : Int32) (w0 : GW) (K : Int32 → Prop) : Prop :=
  gmc w0 x1 = some 3 ∧ (wX4_isWhole c x1 x2 w0 (fun r1 => (r1 = 0 → (K ((0 : Int32)))) ∧ (¬ r1 = 0 → (∃ f4 : Int32, gfm w0 x1 [3] 3 = some (.int f4) ∧ (wX1_isIn c f4 x2 w0 (fun r6 => (¬ r6 = 0 → (K ((0 : Int32)))) ∧ (r6 = 0 → (gmc w0 x0 = some 0 ∧ (wX1_pane_2 c x0 x2 w0 (fun r8 => ∃ f10 : Option Nat, gfm w0 x0 [0] 2 = some (va_rf f10) ∧ (∃ f12 : Int32, gfm w0 x1 [3] 2 = some (.int f12) ∧ (∃ a14 : Nat, f10 = some a14 ∧ (gmc w0 a14 = some 2 ∧ (wX3_light c a14 f12 w0 (fun r15 => ∃ a17 : Nat, r8 = some a17 ∧ (wD_sees c a17 r15 w0 (fun r18 => K r18)))))))))))))))))
set_option maxRecDepth 100000 in
theorem bX1_sees_0 {E : jE} (hE : jOk E cX1_sees RX1) (hn : E.2.2.2.2 = 3) (hR : jRoom E 4 85) {c : Nat → Option Nat} (hc : E.2.2.1.2.2.2 = c) {b : Nat × Nat} {w0 : GW} {K : Int32 → Prop} (hK : jRi E .int (KPI w0 K)) {x0 : Nat} {x1 : Nat} {x2 : Int32}  (hw : wX1_sees_0 c x0 x1 x2 w0 K) : J E w0 b [(0, .ref (x0)), (1, .ref (x1)), (2, .int (x2))] 0 [] := by
  unfold wX1_sees_0 at hw
  refine j_aload_n hE 1 dX1_sees_0 rfl rfl ?_
  refine j_iload_n hE 2 dX1_sees_1 rfl rfl ?_
  obtain ⟨h2, hw⟩ := hw
  refine jc_ip (jr_V hE hR (As := [.int (x2)]) (rest := []) ((ctX4_isWhole E.1.2.1 E.2.2.1 hc _ _ _ _ hw) E.2.2.2.1) (lw_V q1188 q1189 q1190 q127 q1191) jdX4_isWhole ⟨Nat.le_of_ble_eq_true rfl, Nat.le_of_ble_eq_true rfl⟩ ⟨Nat.zero_le _, Nat.zero_le _⟩ (gmc_gIs h2 (r := (RX4, TX4, 5)) rfl) rfl (Nat.le_of_ble_eq_true rfl) dX1_sees_2) (fun r1 hw => ?_)
  refine j_b0 ?_
  refine j_if_eq hE 41 dX1_sees_5 (by decide) (fun c3 => ?_) (fun c3 => ?_)
  · replace hw := hw.1 c3
    refine j_iconst hE dX1_sees_41 kc_0 ?_
    exact j_iret hE hK dX1_sees_42 rfl ⟨rfl, hw⟩
  · replace hw := hw.2 c3
    refine j_aload_n hE 1 dX1_sees_8 rfl rfl ?_
    obtain ⟨f4, h5, hw⟩ := hw
    refine j_getMN hE gf_GlassStreet_State_drawn q325 h5 dX1_sees_9 ?_
    refine j_iload_n hE 2 dX1_sees_12 rfl rfl ?_
    refine jc_ip (jr_S hE hR (As := [.int (f4), .int (x2)]) (rest := []) ((ctX1_isIn E.1.2.1 E.2.2.1 hc _ _ _ _ hw) E.2.2.2.1) (lw_S q1183 q922 q121 q923) jdX1_isIn ⟨Nat.le_of_ble_eq_true rfl, Nat.le_of_ble_eq_true rfl⟩ ⟨Nat.zero_le _, Nat.zero_le _⟩  rfl (Nat.le_of_ble_eq_true rfl) dX1_sees_13) (fun r6 hw => ?_)
    refine j_b0 ?_
    refine j_if_ne hE 41 dX1_sees_16 (by decide) (fun c7 => ?_) (fun c7 => ?_)
    · replace hw := hw.1 c7
      refine j_iconst hE dX1_sees_41 kc_0 ?_
      exact j_iret hE hK dX1_sees_42 rfl ⟨rfl, hw⟩
    · replace hw := hw.2 c7
      refine j_aload_n hE 0 dX1_sees_19 rfl rfl ?_
      refine j_iload_n hE 2 dX1_sees_20 rfl rfl ?_
      obtain ⟨h9, hw⟩ := hw
      refine jc_qp (jr_V hE hR (As := [.int (x2)]) (rest := []) ((ctX1_pane_2 E.1.2.1 E.2.2.1 hc _ _ _ _ hw) E.2.2.2.1) (lw_V q1163 q1165 qs32 q121 q1166) jdX1_pane_2 ⟨Nat.le_of_ble_eq_true rfl, Nat.le_of_ble_eq_true rfl⟩ ⟨Nat.zero_le _, Nat.zero_le _⟩ (gmc_gIs h9 (r := (RX1, TX1, 15)) rfl) rfl (Nat.le_of_ble_eq_true rfl) dX1_sees_21) (fun r8 hw => ?_)
      refine j_b0 ?_
      refine j_aload_n hE 0 dX1_sees_24 rfl rfl ?_
      obtain ⟨f10, h11, hw⟩ := hw
      refine j_getM hE gf_GlassStreet_houses q349 h11 dX1_sees_25 ?_
      refine j_aload_n hE 1 dX1_sees_28 rfl rfl ?_
      obtain ⟨f12, h13, hw⟩ := hw
      refine j_getMN hE gf_GlassStreet_State_hour q322 h13 dX1_sees_29 ?_
      obtain ⟨a14, e9, hx⟩ := hw
      subst e9
      have hw := hx
      clear hx
      obtain ⟨h16, hw⟩ := hw
      refine jc_ip (jr_V hE hR (As := [.int (f12)]) (rest := [va_rf (r8)]) ((ctX3_light E.1.2.1 E.2.2.1 hc _ _ _ _ hw) E.2.2.2.1) (lw_V q1193 q1194 q1195 q123 q1196) jdX3_light ⟨Nat.le_of_ble_eq_true rfl, Nat.le_of_ble_eq_true rfl⟩ ⟨Nat.zero_le _, Nat.zero_le _⟩ (gmc_gIs h16 (r := (RX3, TX3, 8)) rfl) rfl (by cases r8 <;> exact Nat.le_of_ble_eq_true rfl) dX1_sees_32) (fun r15 hw => ?_)
      refine j_b0 ?_
      obtain ⟨a17, e9, hx⟩ := hw
      subst e9
      have hw := hx
      clear hx
      refine jc_ip (jrdX1_sees_35 hE hR hc (As := [.int (r15)]) (rest := []) rfl (Nat.le_of_ble_eq_true rfl) ⟨Nat.zero_le _, Nat.zero_le _⟩ hw) (fun r18 hw => ?_)
      refine j_b0 ?_
      refine j_goto hE 42 dX1_sees_38 (by decide) ?_
      exact j_iret hE hK dX1_sees_42 rfl ⟨rfl, hw⟩
theorem jdX1_sees : jD yX1_sees 2 := by decide +kernel
abbrev wX1_sees := wX1_sees_0
theorem ctX1_sees (l : Launch) (G : gG) {c : Nat → Option Nat} (hc : G.2.2.2 = c) (x0 : Nat) (x1 : Nat) (x2 : Int32) (w0 : GW) (K : Int32 → Prop) (hw : wX1_sees_0 c x0 x1 x2 w0 K) {F2 L2 : Nat} (h2 : 4 ≤ F2 ∧ 85 ≤ L2 := by exact ⟨Nat.le_refl _, Nat.le_refl _⟩) : CtI l yX1_sees cX1_sees 3 .int ({ frames := F2, cells := 0, slots := 0, locals := L2 }) G [.ref (x0), .ref (x1), .int (x2)] w0 (KPI w0 K) :=
  CtI.of RX1 plainc_X1 rfl (Nat.le_of_ble_eq_true rfl) (fun E hE hl hG hn hR hK => bX1_sees_0 hE hn (hR.le h2.1 h2.2) (by rw [hG]; exact hc) hK hw)
def wD_kind (c : Nat → Option Nat) (a : Nat)  (w : GW) (K : Int32 → Prop) : Prop :=
  (gmc w a = some 7 ∧ wX8_kind c a  w K) ∨ (gmc w a = some 8 ∧ wX9_kind c a  w K) ∨ (gmc w a = some 9 ∧ wX10_kind c a  w K) ∨ (gmc w a = some 10 ∧ wX11_kind c a  w K)
theorem jrdX1_pane_57 {E : jE} {c : Nat → Option Nat} (hE : jOk E cX1_pane RX1) (hR : jRoom E 5 107) (hc : E.2.2.1.2.2.2 = c) {w9 : GW} {b : Nat × Nat} {L : List (Nat × Value)} {st : List Value} {x9 : Nat}  {K : Int32 → Prop} {As rest : List Value} (hst : st = As.reverse ++ .ref x9 :: rest) (hcat : (rest.map fun v => v.category).sum ≤ 8) (hb : 0 ≤ b.1 ∧ 0 ≤ b.2) (hw : wD_kind c x9  w9 K) (hAs : As = [] := by rfl) : jRun E w9 b L 57 st rest 0 0 (va_Qi (KPI w9 K) (gB E.2.2.1 E.2.2.2.1) E.2.2.2.1 (.ref x9 :: As).toArray) := by
  subst hAs
  unfold wD_kind at hw
  rcases hw with ⟨hcl, hw⟩ | ⟨hcl, hw⟩ | ⟨hcl, hw⟩ | ⟨hcl, hw⟩
  · exact jr_V hE hR (rm := { frames := 0, cells := 0, slots := 0, locals := 0 }) ((ctX8_kind E.1.2.1 E.2.2.1 hc _ _ _ hw (h2 := ⟨Nat.le_of_ble_eq_true rfl, Nat.le_of_ble_eq_true rfl⟩)) E.2.2.2.1) (lw_V q1169 q1170 q1171 q146 q1182) jdX8_kind ⟨Nat.le_of_ble_eq_true rfl, Nat.le_of_ble_eq_true rfl⟩ hb (gmc_gIs hcl (r := (RX8, TX8, 3)) rfl) hst hcat dX1_pane_57
  · exact jr_O hE hR (rm := { frames := 0, cells := 0, slots := 0, locals := 0 }) ((ctX9_kind E.1.2.1 E.2.2.1 hc _ _ _ hw (h2 := ⟨Nat.le_of_ble_eq_true rfl, Nat.le_of_ble_eq_true rfl⟩)) E.2.2.2.1) (lw_O (C := "GlassStreet$Frosted") (owner := "GlassStreet$Pane") q1169 q1172 q1170 q1173 q1174 q147 q1175) q1182 ⟨by decide, by decide, jdX9_kind.2.2⟩ ⟨Nat.le_of_ble_eq_true rfl, Nat.le_of_ble_eq_true rfl⟩ hb (gmc_gIs hcl (r := (RX9, TX9, 3)) rfl) hst hcat dX1_pane_57
  · exact jr_O hE hR (rm := { frames := 0, cells := 0, slots := 0, locals := 0 }) ((ctX10_kind E.1.2.1 E.2.2.1 hc _ _ _ hw (h2 := ⟨Nat.le_of_ble_eq_true rfl, Nat.le_of_ble_eq_true rfl⟩)) E.2.2.2.1) (lw_O (C := "GlassStreet$Thick") (owner := "GlassStreet$Pane") q1169 q1172 q1170 q1179 q1180 q148 q1181) q1182 ⟨by decide, by decide, jdX10_kind.2.2⟩ ⟨Nat.le_of_ble_eq_true rfl, Nat.le_of_ble_eq_true rfl⟩ hb (gmc_gIs hcl (r := (RX10, TX10, 3)) rfl) hst hcat dX1_pane_57
  · exact jr_O hE hR (rm := { frames := 0, cells := 0, slots := 0, locals := 0 }) ((ctX11_kind E.1.2.1 E.2.2.1 hc _ _ _ hw (h2 := ⟨Nat.le_of_ble_eq_true rfl, Nat.le_of_ble_eq_true rfl⟩)) E.2.2.2.1) (lw_O (C := "GlassStreet$Mirror") (owner := "GlassStreet$Pane") q1169 q1172 q1170 q1176 q1177 q149 q1178) q1182 ⟨by decide, by decide, jdX11_kind.2.2⟩ ⟨Nat.le_of_ble_eq_true rfl, Nat.le_of_ble_eq_true rfl⟩ hb (gmc_gIs hcl (r := (RX11, TX11, 3)) rfl) hst hcat dX1_pane_57
def wX1_pane_0 (c : Nat → Option Nat) (x0 : Nat) (x1 : Int32) (x2 : Int32) (w0 : GW) (K : Int32 → Prop) : Prop :=
  gmc w0 x0 = some 0 ∧ (wX1_isPane c x0 x1 w0 (fun r1 => (¬ r1 = 0 → ((x2 = 0 → (gmc w0 x0 = some 0 ∧ (wX1_pane_2 c x0 x1 w0 (fun r5 => ∃ a7 : Nat, r5 = some a7 ∧ (wD_kind c a7 w0 (fun r8 => K r8)))))) ∧ (¬ x2 = 0 → (x2 = 1 → (gmc w0 x0 = some 0 ∧ (wX1_pane_2 c x0 x1 w0 (fun r10 => ∃ a12 : Nat, r10 = some a12 ∧ (∃ f13 : Int32, gfm w0 a12 [7, 8, 9, 10] 1 = some (.int f13) ∧ (K f13)))))) ∧ (¬ x2 = 1 → (x2 = nI 2 → (∃ f16 : Option Nat, gfm w0 x0 [0] 4 = some (va_rf f16) ∧ (∃ a18 : Nat, f16 = some a18 ∧ (∃ f19 : Option Nat, gfm w0 a18 [3] 1 = some (va_rf f19) ∧ (∃ a21 : Nat, f19 = some a21 ∧ (∃ (n22 : Nat) (f23 : Nat → Option Nat), gaq w0 a21 5 = some (n22, f23) ∧ vp_in x1 n22 ∧ (∀ r26 : Option Nat, f23 (x1).toNatClampNeg = r26 → (∃ a27 : Nat, r26 = some a27 ∧ (∃ f28 : Int32, gfm w0 a27 [4] 4 = some (.int f28) ∧ (K f28)))))))))) ∧ (¬ x2 = nI 2 → (x2 = nI 3 → (∃ f31 : Option Nat, gfm w0 x0 [0] 4 = some (va_rf f31) ∧ (∃ a33 : Nat, f31 = some a33 ∧ (∃ f34 : Int32, gfm w0 a33 [3] 3 = some (.int f34) ∧ (wX1_isIn c f34 x1 w0 (fun r36 => (r36 = 0 → (K ((0 : Int32)))) ∧ (¬ r36 = 0 → (K ((1 : Int32)))))))))) ∧ (¬ x2 = nI 3 → (x2 = nI 4 → (∃ f39 : Option Nat, gfm w0 x0 [0] 4 = some (va_rf f39) ∧ (∃ a41 : Nat, f39 = some a41 ∧ (∃ f42 : Int32, gfm w0 a41 [3] 4 = some (.int f42) ∧ (wX1_isIn c f42 x1 w0 (fun r44 => (r44 = 0 → (K ((0 : Int32)))) ∧ (¬ r44 = 0 → (K ((1 : Int32)))))))))) ∧ (¬ x2 = nI 4 → (x2 = nI 5 → (∃ f47 : Option Nat, gfm w0 x0 [0] 4 = some (va_rf f47) ∧ (∃ a49 : Nat, f47 = some a49 ∧ (gmc w0 x0 = some 0 ∧ (wX1_sees c x0 a49 x1 w0 (fun r50 => K r50)))))) ∧ (¬ x2 = nI 5 → (K ((-2))))))))))) ∧ (r1 = 0 → (K ((-2))))))
set_option maxRecDepth 100000 in
theorem bX1_pane_0 {E : jE} (hE : jOk E cX1_pane RX1) (hn : E.2.2.2.2 = 3) (hR : jRoom E 5 107) {c : Nat → Option Nat} (hc : E.2.2.1.2.2.2 = c) {b : Nat × Nat} {w0 : GW} {K : Int32 → Prop} (hK : jRi E .int (KPI w0 K)) {x0 : Nat} {x1 : Int32} {x2 : Int32}  (hw : wX1_pane_0 c x0 x1 x2 w0 K) : J E w0 b [(0, .ref (x0)), (1, .int (x1)), (2, .int (x2))] 0 [] := by
  unfold wX1_pane_0 at hw
  refine j_aload_n hE 0 dX1_pane_0 rfl rfl ?_
  refine j_iload_n hE 1 dX1_pane_1 rfl rfl ?_
  obtain ⟨h2, hw⟩ := hw
  refine jc_ip (jr_V hE hR (As := [.int (x1)]) (rest := []) ((ctX1_isPane E.1.2.1 E.2.2.1 hc _ _ _ _ hw) E.2.2.2.1) (lw_V q1153 q1155 qs30 q121 q1156) jdX1_isPane ⟨Nat.le_of_ble_eq_true rfl, Nat.le_of_ble_eq_true rfl⟩ ⟨Nat.zero_le _, Nat.zero_le _⟩ (gmc_gIs h2 (r := (RX1, TX1, 15)) rfl) rfl (Nat.le_of_ble_eq_true rfl) dX1_pane_2) (fun r1 hw => ?_)
  refine j_b0 ?_
  refine j_if_ne hE 11 dX1_pane_5 (by decide) (fun c3 => ?_) (fun c3 => ?_)
  · replace hw := hw.1 c3
    refine j_iload_n hE 2 dX1_pane_11 rfl rfl ?_
    by_cases c4 : x2 = 0
    · replace hw := hw.1 c4
      refine j_tin hE 52 dX1_pane_12 (by rw [c4] <;> decide) (by rw [c4] <;> decide) (by rw [c4] <;> rfl) (by decide) ?_
      refine j_aload_n hE 0 dX1_pane_52 rfl rfl ?_
      refine j_iload_n hE 1 dX1_pane_53 rfl rfl ?_
      obtain ⟨h6, hw⟩ := hw
      refine jc_qp (jr_V hE hR (As := [.int (x1)]) (rest := []) ((ctX1_pane_2 E.1.2.1 E.2.2.1 hc _ _ _ _ hw) E.2.2.2.1) (lw_V q1163 q1165 qs32 q121 q1166) jdX1_pane_2 ⟨Nat.le_of_ble_eq_true rfl, Nat.le_of_ble_eq_true rfl⟩ ⟨Nat.zero_le _, Nat.zero_le _⟩ (gmc_gIs h6 (r := (RX1, TX1, 15)) rfl) rfl (Nat.le_of_ble_eq_true rfl) dX1_pane_54) (fun r5 hw => ?_)
      refine j_b0 ?_
      obtain ⟨a7, e9, hx⟩ := hw
      subst e9
      have hw := hx
      clear hx
      refine jc_ip (jrdX1_pane_57 hE hR hc (As := []) (rest := []) rfl (Nat.le_of_ble_eq_true rfl) ⟨Nat.zero_le _, Nat.zero_le _⟩ hw) (fun r8 hw => ?_)
      refine j_b0 ?_
      exact j_iret hE hK dX1_pane_60 rfl ⟨rfl, hw⟩
    replace hw := hw.2 c4
    by_cases c9 : x2 = 1
    · replace hw := hw.1 c9
      refine j_tin hE 61 dX1_pane_12 (by rw [c9] <;> decide) (by rw [c9] <;> decide) (by rw [c9] <;> rfl) (by decide) ?_
      refine j_aload_n hE 0 dX1_pane_61 rfl rfl ?_
      refine j_iload_n hE 1 dX1_pane_62 rfl rfl ?_
      obtain ⟨h11, hw⟩ := hw
      refine jc_qp (jr_V hE hR (As := [.int (x1)]) (rest := []) ((ctX1_pane_2 E.1.2.1 E.2.2.1 hc _ _ _ _ hw) E.2.2.2.1) (lw_V q1163 q1165 qs32 q121 q1166) jdX1_pane_2 ⟨Nat.le_of_ble_eq_true rfl, Nat.le_of_ble_eq_true rfl⟩ ⟨Nat.zero_le _, Nat.zero_le _⟩ (gmc_gIs h11 (r := (RX1, TX1, 15)) rfl) rfl (Nat.le_of_ble_eq_true rfl) dX1_pane_63) (fun r10 hw => ?_)
      refine j_b0 ?_
      obtain ⟨a12, e9, hx⟩ := hw
      subst e9
      have hw := hx
      clear hx
      obtain ⟨f13, h14, hw⟩ := hw
      refine j_getM hE gf_GlassStreet_Pane_keeps q855 h14 dX1_pane_66 ?_
      exact j_iret hE hK dX1_pane_69 rfl ⟨rfl, hw⟩
    replace hw := hw.2 c9
    by_cases c15 : x2 = nI 2
    · replace hw := hw.1 c15
      refine j_tin hE 70 dX1_pane_12 (by rw [c15] <;> decide) (by rw [c15] <;> decide) (by rw [c15] <;> rfl) (by decide) ?_
      refine j_aload_n hE 0 dX1_pane_70 rfl rfl ?_
      obtain ⟨f16, h17, hw⟩ := hw
      refine j_getM hE gf_GlassStreet_state q351 h17 dX1_pane_71 ?_
      obtain ⟨a18, e9, hx⟩ := hw
      subst e9
      have hw := hx
      clear hx
      obtain ⟨f19, h20, hw⟩ := hw
      refine j_getMN hE gf_GlassStreet_State_marks q320 h20 dX1_pane_74 ?_
      refine j_iload_n hE 1 dX1_pane_77 rfl rfl ?_
      obtain ⟨a21, e9, hx⟩ := hw
      subst e9
      have hw := hx
      clear hx
      obtain ⟨n22, f23, h24, h25, hw⟩ := hw
      obtain ⟨r26, e_r26⟩ : ∃ r9, f23 (x1).toNatClampNeg = r9 := ⟨_, rfl⟩
      replace hw := hw r26 e_r26
      refine j_aldQ hE (t := 5) ⟨by decide, by decide⟩ h24 h25 e_r26 dX1_pane_78 ?_
      obtain ⟨a27, e9, hx⟩ := hw
      subst e9
      have hw := hx
      clear hx
      obtain ⟨f28, h29, hw⟩ := hw
      refine j_getMN hE gf_GlassStreet_Marks_many q303 h29 dX1_pane_79 ?_
      exact j_iret hE hK dX1_pane_82 rfl ⟨rfl, hw⟩
    replace hw := hw.2 c15
    by_cases c30 : x2 = nI 3
    · replace hw := hw.1 c30
      refine j_tin hE 83 dX1_pane_12 (by rw [c30] <;> decide) (by rw [c30] <;> decide) (by rw [c30] <;> rfl) (by decide) ?_
      refine j_aload_n hE 0 dX1_pane_83 rfl rfl ?_
      obtain ⟨f31, h32, hw⟩ := hw
      refine j_getM hE gf_GlassStreet_state q351 h32 dX1_pane_84 ?_
      obtain ⟨a33, e9, hx⟩ := hw
      subst e9
      have hw := hx
      clear hx
      obtain ⟨f34, h35, hw⟩ := hw
      refine j_getMN hE gf_GlassStreet_State_drawn q325 h35 dX1_pane_87 ?_
      refine j_iload_n hE 1 dX1_pane_90 rfl rfl ?_
      refine jc_ip (jr_S hE hR (As := [.int (f34), .int (x1)]) (rest := []) ((ctX1_isIn E.1.2.1 E.2.2.1 hc _ _ _ _ hw) E.2.2.2.1) (lw_S q1183 q922 q121 q923) jdX1_isIn ⟨Nat.le_of_ble_eq_true rfl, Nat.le_of_ble_eq_true rfl⟩ ⟨Nat.zero_le _, Nat.zero_le _⟩  rfl (Nat.le_of_ble_eq_true rfl) dX1_pane_91) (fun r36 hw => ?_)
      refine j_b0 ?_
      refine j_if_eq hE 101 dX1_pane_94 (by decide) (fun c37 => ?_) (fun c37 => ?_)
      · replace hw := hw.1 c37
        refine j_iconst hE dX1_pane_101 kc_0 ?_
        exact j_iret hE hK dX1_pane_102 rfl ⟨rfl, hw⟩
      · replace hw := hw.2 c37
        refine j_iconst hE dX1_pane_97 kc_1 ?_
        refine j_goto hE 102 dX1_pane_98 (by decide) ?_
        exact j_iret hE hK dX1_pane_102 rfl ⟨rfl, hw⟩
    replace hw := hw.2 c30
    by_cases c38 : x2 = nI 4
    · replace hw := hw.1 c38
      refine j_tin hE 103 dX1_pane_12 (by rw [c38] <;> decide) (by rw [c38] <;> decide) (by rw [c38] <;> rfl) (by decide) ?_
      refine j_aload_n hE 0 dX1_pane_103 rfl rfl ?_
      obtain ⟨f39, h40, hw⟩ := hw
      refine j_getM hE gf_GlassStreet_state q351 h40 dX1_pane_104 ?_
      obtain ⟨a41, e9, hx⟩ := hw
      subst e9
      have hw := hx
      clear hx
      obtain ⟨f42, h43, hw⟩ := hw
      refine j_getMN hE gf_GlassStreet_State_gone q328 h43 dX1_pane_107 ?_
      refine j_iload_n hE 1 dX1_pane_110 rfl rfl ?_
      refine jc_ip (jr_S hE hR (As := [.int (f42), .int (x1)]) (rest := []) ((ctX1_isIn E.1.2.1 E.2.2.1 hc _ _ _ _ hw) E.2.2.2.1) (lw_S q1183 q922 q121 q923) jdX1_isIn ⟨Nat.le_of_ble_eq_true rfl, Nat.le_of_ble_eq_true rfl⟩ ⟨Nat.zero_le _, Nat.zero_le _⟩  rfl (Nat.le_of_ble_eq_true rfl) dX1_pane_111) (fun r44 hw => ?_)
      refine j_b0 ?_
      refine j_if_eq hE 121 dX1_pane_114 (by decide) (fun c45 => ?_) (fun c45 => ?_)
      · replace hw := hw.1 c45
        refine j_iconst hE dX1_pane_121 kc_0 ?_
        exact j_iret hE hK dX1_pane_122 rfl ⟨rfl, hw⟩
      · replace hw := hw.2 c45
        refine j_iconst hE dX1_pane_117 kc_1 ?_
        refine j_goto hE 122 dX1_pane_118 (by decide) ?_
        exact j_iret hE hK dX1_pane_122 rfl ⟨rfl, hw⟩
    replace hw := hw.2 c38
    by_cases c46 : x2 = nI 5
    · replace hw := hw.1 c46
      refine j_tin hE 123 dX1_pane_12 (by rw [c46] <;> decide) (by rw [c46] <;> decide) (by rw [c46] <;> rfl) (by decide) ?_
      refine j_aload_n hE 0 dX1_pane_123 rfl rfl ?_
      refine j_aload_n hE 0 dX1_pane_124 rfl rfl ?_
      obtain ⟨f47, h48, hw⟩ := hw
      refine j_getM hE gf_GlassStreet_state q351 h48 dX1_pane_125 ?_
      refine j_iload_n hE 1 dX1_pane_128 rfl rfl ?_
      obtain ⟨a49, e9, hx⟩ := hw
      subst e9
      have hw := hx
      clear hx
      obtain ⟨h51, hw⟩ := hw
      refine jc_ip (jr_V hE hR (As := [.ref (a49), .int (x1)]) (rest := []) ((ctX1_sees E.1.2.1 E.2.2.1 hc _ _ _ _ _ hw) E.2.2.2.1) (lw_V q1184 q1186 qs33 q121 q1187) jdX1_sees ⟨Nat.le_of_ble_eq_true rfl, Nat.le_of_ble_eq_true rfl⟩ ⟨Nat.zero_le _, Nat.zero_le _⟩ (gmc_gIs h51 (r := (RX1, TX1, 15)) rfl) rfl (Nat.le_of_ble_eq_true rfl) dX1_pane_129) (fun r50 hw => ?_)
      refine j_b0 ?_
      exact j_iret hE hK dX1_pane_132 rfl ⟨rfl, hw⟩
    replace hw := hw.2 c46
    refine j_tout hE 133 dX1_pane_12 (tsw_out x2 (0) (5) (fun k h1 h2 => ?_)) (by decide) ?_
    · rcases (show k = 0 ∨ k = 1 ∨ k = 2 ∨ k = 3 ∨ k = 4 ∨ k = 5 by omega) with rfl | rfl | rfl | rfl | rfl | rfl
      · exact tsw_ne _ _ _ (by decide) c4
      · exact tsw_ne _ _ _ (by decide) c9
      · exact tsw_ne _ _ _ (by decide) c15
      · exact tsw_ne _ _ _ (by decide) c30
      · exact tsw_ne _ _ _ (by decide) c38
      · exact tsw_ne _ _ _ (by decide) c46
    refine j_bipush hE dX1_pane_133 kb_m2 ?_
    exact j_iret hE hK dX1_pane_135 rfl ⟨rfl, hw⟩
  · replace hw := hw.2 c3
    refine j_bipush hE dX1_pane_8 kb_m2 ?_
    exact j_iret hE hK dX1_pane_10 rfl ⟨rfl, hw⟩
theorem jdX1_pane : jD yX1_pane 2 := by decide +kernel
abbrev wX1_pane := wX1_pane_0
theorem ctX1_pane (l : Launch) (G : gG) {c : Nat → Option Nat} (hc : G.2.2.2 = c) (x0 : Nat) (x1 : Int32) (x2 : Int32) (w0 : GW) (K : Int32 → Prop) (hw : wX1_pane_0 c x0 x1 x2 w0 K) {F2 L2 : Nat} (h2 : 5 ≤ F2 ∧ 107 ≤ L2 := by exact ⟨Nat.le_refl _, Nat.le_refl _⟩) : CtI l yX1_pane cX1_pane 3 .int ({ frames := F2, cells := 0, slots := 0, locals := L2 }) G [.ref (x0), .int (x1), .int (x2)] w0 (KPI w0 K) :=
  CtI.of RX1 plainc_X1 rfl (Nat.le_of_ble_eq_true rfl) (fun E hE hl hG hn hR hK => bX1_pane_0 hE hn (hR.le h2.1 h2.2) (by rw [hG]; exact hc) hK hw)
def wX4_shows_0 (c : Nat → Option Nat) (x0 : Nat) (x1 : Int32) (w0 : GW) (K : Int32 → Prop) : Prop :=
  ∃ f1 : Int32, gfm w0 x0 [3] 4 = some (.int f1) ∧ (wX1_isIn c f1 x1 w0 (fun r3 => (¬ r3 = 0 → (K ((1 : Int32)))) ∧ (r3 = 0 → (∃ f5 : Int32, gfm w0 x0 [3] 3 = some (.int f5) ∧ (wX1_isIn c f5 x1 w0 (fun r7 => (¬ r7 = 0 → (K ((0 : Int32)))) ∧ (r7 = 0 → (K ((1 : Int32))))))))))
set_option maxRecDepth 100000 in
theorem bX4_shows_0 {E : jE} (hE : jOk E cX4_shows RX4) (hn : E.2.2.2.2 = 2) (hR : jRoom E 1 21) {c : Nat → Option Nat} (hc : E.2.2.1.2.2.2 = c) {b : Nat × Nat} {w0 : GW} {K : Int32 → Prop} (hK : jRi E .boolean (KPI w0 K)) {x0 : Nat} {x1 : Int32}  (hw : wX4_shows_0 c x0 x1 w0 K) : J E w0 b [(0, .ref (x0)), (1, .int (x1))] 0 [] := by
  unfold wX4_shows_0 at hw
  refine j_aload_n hE 0 dX4_shows_0 rfl rfl ?_
  obtain ⟨f1, h2, hw⟩ := hw
  refine j_getM hE gf_GlassStreet_State_gone q327 h2 dX4_shows_1 ?_
  refine j_iload_n hE 1 dX4_shows_4 rfl rfl ?_
  refine jc_ip (jr_SN hE hR (As := [.int (f1), .int (x1)]) (rest := []) ((ctX1_isIn E.1.2.1 E.2.2.1 hc _ _ _ _ hw) E.2.2.2.1) (lw_meth q923) q121 q1192 q922 jdX1_isIn ⟨Nat.le_of_ble_eq_true rfl, Nat.le_of_ble_eq_true rfl⟩ ⟨Nat.zero_le _, Nat.zero_le _⟩  rfl (Nat.le_of_ble_eq_true rfl) dX4_shows_5) (fun r3 hw => ?_)
  refine j_b0 ?_
  refine j_if_ne hE 22 dX4_shows_8 (by decide) (fun c4 => ?_) (fun c4 => ?_)
  · replace hw := hw.1 c4
    refine j_iconst hE dX4_shows_22 kc_1 ?_
    refine j_goto hE 27 dX4_shows_23 (by decide) ?_
    exact j_iret hE hK dX4_shows_27 rfl ⟨rfl, hw⟩
  · replace hw := hw.2 c4
    refine j_aload_n hE 0 dX4_shows_11 rfl rfl ?_
    obtain ⟨f5, h6, hw⟩ := hw
    refine j_getM hE gf_GlassStreet_State_drawn q324 h6 dX4_shows_12 ?_
    refine j_iload_n hE 1 dX4_shows_15 rfl rfl ?_
    refine jc_ip (jr_SN hE hR (As := [.int (f5), .int (x1)]) (rest := []) ((ctX1_isIn E.1.2.1 E.2.2.1 hc _ _ _ _ hw) E.2.2.2.1) (lw_meth q923) q121 q1192 q922 jdX1_isIn ⟨Nat.le_of_ble_eq_true rfl, Nat.le_of_ble_eq_true rfl⟩ ⟨Nat.zero_le _, Nat.zero_le _⟩  rfl (Nat.le_of_ble_eq_true rfl) dX4_shows_16) (fun r7 hw => ?_)
    refine j_b0 ?_
    refine j_if_ne hE 26 dX4_shows_19 (by decide) (fun c8 => ?_) (fun c8 => ?_)
    · replace hw := hw.1 c8
      refine j_iconst hE dX4_shows_26 kc_0 ?_
      exact j_iret hE hK dX4_shows_27 rfl ⟨rfl, hw⟩
    · replace hw := hw.2 c8
      refine j_iconst hE dX4_shows_22 kc_1 ?_
      refine j_goto hE 27 dX4_shows_23 (by decide) ?_
      exact j_iret hE hK dX4_shows_27 rfl ⟨rfl, hw⟩
theorem jdX4_shows : jD yX4_shows 1 := by decide +kernel
abbrev wX4_shows := wX4_shows_0
theorem ctX4_shows (l : Launch) (G : gG) {c : Nat → Option Nat} (hc : G.2.2.2 = c) (x0 : Nat) (x1 : Int32) (w0 : GW) (K : Int32 → Prop) (hw : wX4_shows_0 c x0 x1 w0 K) {F2 L2 : Nat} (h2 : 1 ≤ F2 ∧ 21 ≤ L2 := by exact ⟨Nat.le_refl _, Nat.le_refl _⟩) : CtI l yX4_shows cX4_shows 2 .boolean ({ frames := F2, cells := 0, slots := 0, locals := L2 }) G [.ref (x0), .int (x1)] w0 (KPI w0 K) :=
  CtI.of RX4 plainc_X4 rfl (Nat.le_of_ble_eq_true rfl) (fun E hE hl hG hn hR hK => bX4_shows_0 hE hn (hR.le h2.1 h2.2) (by rw [hG]; exact hc) hK hw)
def wX8_tellsWho_0 (c : Nat → Option Nat) (x0 : Nat) (w0 : GW) (K : Int32 → Prop) : Prop :=
  K ((1 : Int32))
set_option maxRecDepth 100000 in
theorem bX8_tellsWho_0 {E : jE} (hE : jOk E cX8_tellsWho RX8) (hn : E.2.2.2.2 = 1) (hR : jRoom E 0 0) {c : Nat → Option Nat} (hc : E.2.2.1.2.2.2 = c) {b : Nat × Nat} {w0 : GW} {K : Int32 → Prop} (hK : jRi E .boolean (KPI w0 K)) {x0 : Nat}  (hw : wX8_tellsWho_0 c x0 w0 K) : J E w0 b [(0, .ref (x0))] 0 [] := by
  unfold wX8_tellsWho_0 at hw
  refine j_iconst hE dX8_tellsWho_0 kc_1 ?_
  exact j_iret hE hK dX8_tellsWho_1 rfl ⟨rfl, hw⟩
theorem jdX8_tellsWho : jD yX8_tellsWho 0 := by decide +kernel
abbrev wX8_tellsWho := wX8_tellsWho_0
theorem ctX8_tellsWho (l : Launch) (G : gG) {c : Nat → Option Nat} (hc : G.2.2.2 = c) (x0 : Nat) (w0 : GW) (K : Int32 → Prop) (hw : wX8_tellsWho_0 c x0 w0 K) {F2 L2 : Nat} (h2 : 0 ≤ F2 ∧ 0 ≤ L2 := by exact ⟨Nat.le_refl _, Nat.le_refl _⟩) : CtI l yX8_tellsWho cX8_tellsWho 1 .boolean ({ frames := F2, cells := 0, slots := 0, locals := L2 }) G [.ref (x0)] w0 (KPI w0 K) :=
  CtI.of RX8 plainc_X8 rfl (Nat.le_of_ble_eq_true rfl) (fun E hE hl hG hn hR hK => bX8_tellsWho_0 hE hn (hR.le h2.1 h2.2) (by rw [hG]; exact hc) hK hw)
def wX9_tellsWho_0 (c : Nat → Option Nat) (x0 : Nat) (w0 : GW) (K : Int32 → Prop) : Prop :=
  K ((0 : Int32))
set_option maxRecDepth 100000 in
theorem bX9_tellsWho_0 {E : jE} (hE : jOk E cX9_tellsWho RX9) (hn : E.2.2.2.2 = 1) (hR : jRoom E 0 0) {c : Nat → Option Nat} (hc : E.2.2.1.2.2.2 = c) {b : Nat × Nat} {w0 : GW} {K : Int32 → Prop} (hK : jRi E .boolean (KPI w0 K)) {x0 : Nat}  (hw : wX9_tellsWho_0 c x0 w0 K) : J E w0 b [(0, .ref (x0))] 0 [] := by
  unfold wX9_tellsWho_0 at hw
  refine j_iconst hE dX9_tellsWho_0 kc_0 ?_
  exact j_iret hE hK dX9_tellsWho_1 rfl ⟨rfl, hw⟩
theorem jdX9_tellsWho : jD yX9_tellsWho 0 := by decide +kernel
abbrev wX9_tellsWho := wX9_tellsWho_0
theorem ctX9_tellsWho (l : Launch) (G : gG) {c : Nat → Option Nat} (hc : G.2.2.2 = c) (x0 : Nat) (w0 : GW) (K : Int32 → Prop) (hw : wX9_tellsWho_0 c x0 w0 K) {F2 L2 : Nat} (h2 : 0 ≤ F2 ∧ 0 ≤ L2 := by exact ⟨Nat.le_refl _, Nat.le_refl _⟩) : CtI l yX9_tellsWho cX9_tellsWho 1 .boolean ({ frames := F2, cells := 0, slots := 0, locals := L2 }) G [.ref (x0)] w0 (KPI w0 K) :=
  CtI.of RX9 plainc_X9 rfl (Nat.le_of_ble_eq_true rfl) (fun E hE hl hG hn hR hK => bX9_tellsWho_0 hE hn (hR.le h2.1 h2.2) (by rw [hG]; exact hc) hK hw)
def wD_tellsWho (c : Nat → Option Nat) (a : Nat)  (w : GW) (K : Int32 → Prop) : Prop :=
  (gmc w a = some 7 ∧ wX8_tellsWho c a  w K) ∨ (gmc w a = some 8 ∧ wX9_tellsWho c a  w K) ∨ (gmc w a = some 9 ∧ wX8_tellsWho c a  w K) ∨ (gmc w a = some 10 ∧ wX8_tellsWho c a  w K)
theorem jrdX1_tellsWho_5 {E : jE} {c : Nat → Option Nat} (hE : jOk E cX1_tellsWho RX1) (hR : jRoom E 4 85) (hc : E.2.2.1.2.2.2 = c) {w9 : GW} {b : Nat × Nat} {L : List (Nat × Value)} {st : List Value} {x9 : Nat}  {K : Int32 → Prop} {As rest : List Value} (hst : st = As.reverse ++ .ref x9 :: rest) (hcat : (rest.map fun v => v.category).sum ≤ 8) (hb : 0 ≤ b.1 ∧ 0 ≤ b.2) (hw : wD_tellsWho c x9  w9 K) (hAs : As = [] := by rfl) : jRun E w9 b L 5 st rest 0 0 (va_Qi (KPI w9 K) (gB E.2.2.1 E.2.2.2.1) E.2.2.2.1 (.ref x9 :: As).toArray) := by
  subst hAs
  unfold wD_tellsWho at hw
  rcases hw with ⟨hcl, hw⟩ | ⟨hcl, hw⟩ | ⟨hcl, hw⟩ | ⟨hcl, hw⟩
  · exact jr_V hE hR (rm := { frames := 0, cells := 0, slots := 0, locals := 0 }) ((ctX8_tellsWho E.1.2.1 E.2.2.1 hc _ _ _ hw (h2 := ⟨Nat.le_of_ble_eq_true rfl, Nat.le_of_ble_eq_true rfl⟩)) E.2.2.2.1) (lw_V q1224 q1225 q1226 q146 q1233) jdX8_tellsWho ⟨Nat.le_of_ble_eq_true rfl, Nat.le_of_ble_eq_true rfl⟩ hb (gmc_gIs hcl (r := (RX8, TX8, 3)) rfl) hst hcat dX1_tellsWho_5
  · exact jr_O hE hR (rm := { frames := 0, cells := 0, slots := 0, locals := 0 }) ((ctX9_tellsWho E.1.2.1 E.2.2.1 hc _ _ _ hw (h2 := ⟨Nat.le_of_ble_eq_true rfl, Nat.le_of_ble_eq_true rfl⟩)) E.2.2.2.1) (lw_O (C := "GlassStreet$Frosted") (owner := "GlassStreet$Pane") q1224 q1227 q1225 q1228 q1229 q147 q1230) q1233 ⟨by decide, by decide, jdX9_tellsWho.2.2⟩ ⟨Nat.le_of_ble_eq_true rfl, Nat.le_of_ble_eq_true rfl⟩ hb (gmc_gIs hcl (r := (RX9, TX9, 3)) rfl) hst hcat dX1_tellsWho_5
  · exact jr_U hE hR (rm := { frames := 0, cells := 0, slots := 0, locals := 0 }) ((ctX8_tellsWho E.1.2.1 E.2.2.1 hc _ _ _ hw (h2 := ⟨Nat.le_of_ble_eq_true rfl, Nat.le_of_ble_eq_true rfl⟩)) E.2.2.2.1) (lw_U (C := "GlassStreet$Thick") (owner := "GlassStreet$Pane") q1224 q1227 q1232 q1225 q146 q1233) rfl ⟨by decide, by decide, jdX8_tellsWho.2.2⟩ ⟨Nat.le_of_ble_eq_true rfl, Nat.le_of_ble_eq_true rfl⟩ hb (gmc_gIs hcl (r := (RX10, TX10, 3)) rfl) hst hcat dX1_tellsWho_5
  · exact jr_U hE hR (rm := { frames := 0, cells := 0, slots := 0, locals := 0 }) ((ctX8_tellsWho E.1.2.1 E.2.2.1 hc _ _ _ hw (h2 := ⟨Nat.le_of_ble_eq_true rfl, Nat.le_of_ble_eq_true rfl⟩)) E.2.2.2.1) (lw_U (C := "GlassStreet$Mirror") (owner := "GlassStreet$Pane") q1224 q1227 q1231 q1225 q146 q1233) rfl ⟨by decide, by decide, jdX8_tellsWho.2.2⟩ ⟨Nat.le_of_ble_eq_true rfl, Nat.le_of_ble_eq_true rfl⟩ hb (gmc_gIs hcl (r := (RX11, TX11, 3)) rfl) hst hcat dX1_tellsWho_5
def wX1_tellsWho_0 (c : Nat → Option Nat) (x0 : Nat) (x1 : Nat) (x2 : Int32) (w0 : GW) (K : Int32 → Prop) : Prop :=
  gmc w0 x0 = some 0 ∧ (wX1_pane_2 c x0 x2 w0 (fun r1 => ∃ a3 : Nat, r1 = some a3 ∧ (wD_tellsWho c a3 w0 (fun r4 => (¬ r4 = 0 → (K ((1 : Int32)))) ∧ (r4 = 0 → (gmc w0 x1 = some 3 ∧ (wX4_isWhole c x1 x2 w0 (fun r6 => (¬ r6 = 0 → (K ((0 : Int32)))) ∧ (r6 = 0 → (K ((1 : Int32))))))))))))
set_option maxRecDepth 100000 in
theorem bX1_tellsWho_0 {E : jE} (hE : jOk E cX1_tellsWho RX1) (hn : E.2.2.2.2 = 3) (hR : jRoom E 4 85) {c : Nat → Option Nat} (hc : E.2.2.1.2.2.2 = c) {b : Nat × Nat} {w0 : GW} {K : Int32 → Prop} (hK : jRi E .boolean (KPI w0 K)) {x0 : Nat} {x1 : Nat} {x2 : Int32}  (hw : wX1_tellsWho_0 c x0 x1 x2 w0 K) : J E w0 b [(0, .ref (x0)), (1, .ref (x1)), (2, .int (x2))] 0 [] := by
  unfold wX1_tellsWho_0 at hw
  refine j_aload_n hE 0 dX1_tellsWho_0 rfl rfl ?_
  refine j_iload_n hE 2 dX1_tellsWho_1 rfl rfl ?_
  obtain ⟨h2, hw⟩ := hw
  refine jc_qp (jr_V hE hR (As := [.int (x2)]) (rest := []) ((ctX1_pane_2 E.1.2.1 E.2.2.1 hc _ _ _ _ hw) E.2.2.2.1) (lw_V q1163 q1165 qs32 q121 q1166) jdX1_pane_2 ⟨Nat.le_of_ble_eq_true rfl, Nat.le_of_ble_eq_true rfl⟩ ⟨Nat.zero_le _, Nat.zero_le _⟩ (gmc_gIs h2 (r := (RX1, TX1, 15)) rfl) rfl (Nat.le_of_ble_eq_true rfl) dX1_tellsWho_2) (fun r1 hw => ?_)
  refine j_b0 ?_
  obtain ⟨a3, e9, hx⟩ := hw
  subst e9
  have hw := hx
  clear hx
  refine jc_ip (jrdX1_tellsWho_5 hE hR hc (As := []) (rest := []) rfl (Nat.le_of_ble_eq_true rfl) ⟨Nat.zero_le _, Nat.zero_le _⟩ hw) (fun r4 hw => ?_)
  refine j_b0 ?_
  refine j_if_ne hE 19 dX1_tellsWho_8 (by decide) (fun c5 => ?_) (fun c5 => ?_)
  · replace hw := hw.1 c5
    refine j_iconst hE dX1_tellsWho_19 kc_1 ?_
    refine j_goto hE 24 dX1_tellsWho_20 (by decide) ?_
    exact j_iret hE hK dX1_tellsWho_24 rfl ⟨rfl, hw⟩
  · replace hw := hw.2 c5
    refine j_aload_n hE 1 dX1_tellsWho_11 rfl rfl ?_
    refine j_iload_n hE 2 dX1_tellsWho_12 rfl rfl ?_
    obtain ⟨h7, hw⟩ := hw
    refine jc_ip (jr_V hE hR (As := [.int (x2)]) (rest := []) ((ctX4_isWhole E.1.2.1 E.2.2.1 hc _ _ _ _ hw) E.2.2.2.1) (lw_V q1188 q1189 q1190 q127 q1191) jdX4_isWhole ⟨Nat.le_of_ble_eq_true rfl, Nat.le_of_ble_eq_true rfl⟩ ⟨Nat.zero_le _, Nat.zero_le _⟩ (gmc_gIs h7 (r := (RX4, TX4, 5)) rfl) rfl (Nat.le_of_ble_eq_true rfl) dX1_tellsWho_13) (fun r6 hw => ?_)
    refine j_b0 ?_
    refine j_if_ne hE 23 dX1_tellsWho_16 (by decide) (fun c8 => ?_) (fun c8 => ?_)
    · replace hw := hw.1 c8
      refine j_iconst hE dX1_tellsWho_23 kc_0 ?_
      exact j_iret hE hK dX1_tellsWho_24 rfl ⟨rfl, hw⟩
    · replace hw := hw.2 c8
      refine j_iconst hE dX1_tellsWho_19 kc_1 ?_
      refine j_goto hE 24 dX1_tellsWho_20 (by decide) ?_
      exact j_iret hE hK dX1_tellsWho_24 rfl ⟨rfl, hw⟩
theorem jdX1_tellsWho : jD yX1_tellsWho 2 := by decide +kernel
abbrev wX1_tellsWho := wX1_tellsWho_0
theorem ctX1_tellsWho (l : Launch) (G : gG) {c : Nat → Option Nat} (hc : G.2.2.2 = c) (x0 : Nat) (x1 : Nat) (x2 : Int32) (w0 : GW) (K : Int32 → Prop) (hw : wX1_tellsWho_0 c x0 x1 x2 w0 K) {F2 L2 : Nat} (h2 : 4 ≤ F2 ∧ 85 ≤ L2 := by exact ⟨Nat.le_refl _, Nat.le_refl _⟩) : CtI l yX1_tellsWho cX1_tellsWho 3 .boolean ({ frames := F2, cells := 0, slots := 0, locals := L2 }) G [.ref (x0), .ref (x1), .int (x2)] w0 (KPI w0 K) :=
  CtI.of RX1 plainc_X1 rfl (Nat.le_of_ble_eq_true rfl) (fun E hE hl hG hn hR hK => bX1_tellsWho_0 hE hn (hR.le h2.1 h2.2) (by rw [hG]; exact hc) hK hw)
def wX1_shown_0 (c : Nat → Option Nat) (x0 : Nat) (x1 : Int32) (x2 : Int32) (x3 : Int32) (w0 : GW) (K : Int32 → Prop) : Prop :=
  gmc w0 x0 = some 0 ∧ (wX1_isPane c x0 x1 w0 (fun r1 => (r1 = 0 → (K ((-2)))) ∧ (¬ r1 = 0 → (∃ f4 : Option Nat, gfm w0 x0 [0] 4 = some (va_rf f4) ∧ (∃ a6 : Nat, f4 = some a6 ∧ (gmc w0 a6 = some 3 ∧ (wX4_shows c a6 x1 w0 (fun r7 => (r7 = 0 → (K ((-2)))) ∧ (¬ r7 = 0 → (∃ f10 : Option Nat, gfm w0 x0 [0] 4 = some (va_rf f10) ∧ (∃ a12 : Nat, f10 = some a12 ∧ (∃ f13 : Option Nat, gfm w0 a12 [3] 1 = some (va_rf f13) ∧ (∃ a15 : Nat, f13 = some a15 ∧ (∃ (n16 : Nat) (f17 : Nat → Option Nat), gaq w0 a15 5 = some (n16, f17) ∧ vp_in x1 n16 ∧ (∀ r20 : Option Nat, f17 (x1).toNatClampNeg = r20 → (∃ a21 : Nat, r20 = some a21 ∧ (∃ f22 : Int32, gfm w0 a21 [4] 4 = some (.int f22) ∧ (wX1_in c x2 ((0 : Int32)) (f22 - ((1 : Int32))) w0 (fun r24 => (¬ r24 = 0 → (∃ f26 : Option Nat, gfm w0 x0 [0] 4 = some (va_rf f26) ∧ (∃ a28 : Nat, f26 = some a28 ∧ (∃ f29 : Option Nat, gfm w0 a28 [3] 1 = some (va_rf f29) ∧ (∃ a31 : Nat, f29 = some a31 ∧ (∃ (n32 : Nat) (f33 : Nat → Option Nat), gaq w0 a31 5 = some (n32, f33) ∧ vp_in x1 n32 ∧ (∀ r36 : Option Nat, f33 (x1).toNatClampNeg = r36 → ((x3 = 0 → (∃ f38 : Option Nat, gfm w0 x0 [0] 4 = some (va_rf f38) ∧ (∃ a40 : Nat, f38 = some a40 ∧ (gmc w0 x0 = some 0 ∧ (wX1_tellsWho c x0 a40 x1 w0 (fun r41 => (r41 = 0 → (K ((-1 : Int32)))) ∧ (¬ r41 = 0 → (∃ a44 : Nat, r36 = some a44 ∧ (∃ f45 : Option Nat, gfm w0 a44 [4] 0 = some (va_rf f45) ∧ (∃ a47 : Nat, f45 = some a47 ∧ (∃ (n48 : Nat) (f49 : Nat → Int32), gai w0 a47 0 = some (n48, f49) ∧ vp_in x2 n48 ∧ (K (rd f49 x2))))))))))))) ∧ (¬ x3 = 0 → (x3 = 1 → (∃ a53 : Nat, r36 = some a53 ∧ (∃ f54 : Option Nat, gfm w0 a53 [4] 1 = some (va_rf f54) ∧ (∃ a56 : Nat, f54 = some a56 ∧ (∃ (n57 : Nat) (f58 : Nat → Int32), gai w0 a56 0 = some (n57, f58) ∧ vp_in x2 n57 ∧ (K (rd f58 x2))))))) ∧ (¬ x3 = 1 → (x3 = nI 2 → (∃ a62 : Nat, r36 = some a62 ∧ (∃ f63 : Option Nat, gfm w0 a62 [4] 2 = some (va_rf f63) ∧ (∃ a65 : Nat, f63 = some a65 ∧ (∃ (n66 : Nat) (f67 : Nat → Int32), gai w0 a65 0 = some (n66, f67) ∧ vp_in x2 n66 ∧ (K (rd f67 x2))))))) ∧ (¬ x3 = nI 2 → (x3 = nI 3 → (∃ a71 : Nat, r36 = some a71 ∧ (∃ f72 : Option Nat, gfm w0 a71 [4] 3 = some (va_rf f72) ∧ (∃ a74 : Nat, f72 = some a74 ∧ (∃ (n75 : Nat) (f76 : Nat → Int32), gai w0 a74 0 = some (n75, f76) ∧ vp_in x2 n75 ∧ (K (rd f76 x2))))))) ∧ (¬ x3 = nI 3 → (K ((-2))))))))))))))) ∧ (r24 = 0 → (K ((-2)))))))))))))))))))))))
set_option maxRecDepth 100000 in
theorem bX1_shown_0 {E : jE} (hE : jOk E cX1_shown RX1) (hn : E.2.2.2.2 = 5) (hR : jRoom E 5 107) {c : Nat → Option Nat} (hc : E.2.2.1.2.2.2 = c) {b : Nat × Nat} {w0 : GW} {K : Int32 → Prop} (hK : jRi E .int (KPI w0 K)) {x0 : Nat} {x1 : Int32} {x2 : Int32} {x3 : Int32}  (hw : wX1_shown_0 c x0 x1 x2 x3 w0 K) : J E w0 b [(0, .ref (x0)), (1, .int (x1)), (2, .int (x2)), (3, .int (x3))] 0 [] := by
  unfold wX1_shown_0 at hw
  refine j_aload_n hE 0 dX1_shown_0 rfl rfl ?_
  refine j_iload_n hE 1 dX1_shown_1 rfl rfl ?_
  obtain ⟨h2, hw⟩ := hw
  refine jc_ip (jr_V hE hR (As := [.int (x1)]) (rest := []) ((ctX1_isPane E.1.2.1 E.2.2.1 hc _ _ _ _ hw) E.2.2.2.1) (lw_V q1153 q1155 qs30 q121 q1156) jdX1_isPane ⟨Nat.le_of_ble_eq_true rfl, Nat.le_of_ble_eq_true rfl⟩ ⟨Nat.zero_le _, Nat.zero_le _⟩ (gmc_gIs h2 (r := (RX1, TX1, 15)) rfl) rfl (Nat.le_of_ble_eq_true rfl) dX1_shown_2) (fun r1 hw => ?_)
  refine j_b0 ?_
  refine j_if_eq hE 41 dX1_shown_5 (by decide) (fun c3 => ?_) (fun c3 => ?_)
  · replace hw := hw.1 c3
    refine j_bipush hE dX1_shown_41 kb_m2 ?_
    exact j_iret hE hK dX1_shown_43 rfl ⟨rfl, hw⟩
  · replace hw := hw.2 c3
    refine j_aload_n hE 0 dX1_shown_8 rfl rfl ?_
    obtain ⟨f4, h5, hw⟩ := hw
    refine j_getM hE gf_GlassStreet_state q351 h5 dX1_shown_9 ?_
    refine j_iload_n hE 1 dX1_shown_12 rfl rfl ?_
    obtain ⟨a6, e9, hx⟩ := hw
    subst e9
    have hw := hx
    clear hx
    obtain ⟨h8, hw⟩ := hw
    refine jc_ip (jr_V hE hR (As := [.int (x1)]) (rest := []) ((ctX4_shows E.1.2.1 E.2.2.1 hc _ _ _ _ hw) E.2.2.2.1) (lw_V q1216 q1217 q1218 q127 q1219) jdX4_shows ⟨Nat.le_of_ble_eq_true rfl, Nat.le_of_ble_eq_true rfl⟩ ⟨Nat.zero_le _, Nat.zero_le _⟩ (gmc_gIs h8 (r := (RX4, TX4, 5)) rfl) rfl (Nat.le_of_ble_eq_true rfl) dX1_shown_13) (fun r7 hw => ?_)
    refine j_b0 ?_
    refine j_if_eq hE 41 dX1_shown_16 (by decide) (fun c9 => ?_) (fun c9 => ?_)
    · replace hw := hw.1 c9
      refine j_bipush hE dX1_shown_41 kb_m2 ?_
      exact j_iret hE hK dX1_shown_43 rfl ⟨rfl, hw⟩
    · replace hw := hw.2 c9
      refine j_iload_n hE 2 dX1_shown_19 rfl rfl ?_
      refine j_iconst hE dX1_shown_20 kc_0 ?_
      refine j_aload_n hE 0 dX1_shown_21 rfl rfl ?_
      obtain ⟨f10, h11, hw⟩ := hw
      refine j_getM hE gf_GlassStreet_state q351 h11 dX1_shown_22 ?_
      obtain ⟨a12, e9, hx⟩ := hw
      subst e9
      have hw := hx
      clear hx
      obtain ⟨f13, h14, hw⟩ := hw
      refine j_getMN hE gf_GlassStreet_State_marks q320 h14 dX1_shown_25 ?_
      refine j_iload_n hE 1 dX1_shown_28 rfl rfl ?_
      obtain ⟨a15, e9, hx⟩ := hw
      subst e9
      have hw := hx
      clear hx
      obtain ⟨n16, f17, h18, h19, hw⟩ := hw
      obtain ⟨r20, e_r20⟩ : ∃ r9, f17 (x1).toNatClampNeg = r9 := ⟨_, rfl⟩
      replace hw := hw r20 e_r20
      refine j_aldQ hE (t := 5) ⟨by decide, by decide⟩ h18 h19 e_r20 dX1_shown_29 ?_
      obtain ⟨a21, e9, hx⟩ := hw
      subst e9
      have hw := hx
      clear hx
      obtain ⟨f22, h23, hw⟩ := hw
      refine j_getMN hE gf_GlassStreet_Marks_many q303 h23 dX1_shown_30 ?_
      refine j_iconst hE dX1_shown_33 kc_1 ?_
      refine j_isub hE dX1_shown_34 ?_
      refine jc_ip (jr_S hE hR (As := [.int (x2), .int ((0 : Int32)), .int (f22 - ((1 : Int32)))]) (rest := []) ((ctX1_in E.1.2.1 E.2.2.1 hc _ _ _ _ _ hw) E.2.2.2.1) (lw_S q1162 q919 q121 q920) jdX1_in ⟨Nat.le_of_ble_eq_true rfl, Nat.le_of_ble_eq_true rfl⟩ ⟨Nat.zero_le _, Nat.zero_le _⟩  rfl (Nat.le_of_ble_eq_true rfl) dX1_shown_35) (fun r24 hw => ?_)
      refine j_b0 ?_
      refine j_if_ne hE 44 dX1_shown_38 (by decide) (fun c25 => ?_) (fun c25 => ?_)
      · replace hw := hw.1 c25
        refine j_aload_n hE 0 dX1_shown_44 rfl rfl ?_
        obtain ⟨f26, h27, hw⟩ := hw
        refine j_getM hE gf_GlassStreet_state q351 h27 dX1_shown_45 ?_
        obtain ⟨a28, e9, hx⟩ := hw
        subst e9
        have hw := hx
        clear hx
        obtain ⟨f29, h30, hw⟩ := hw
        refine j_getMN hE gf_GlassStreet_State_marks q320 h30 dX1_shown_48 ?_
        refine j_iload_n hE 1 dX1_shown_51 rfl rfl ?_
        obtain ⟨a31, e9, hx⟩ := hw
        subst e9
        have hw := hx
        clear hx
        obtain ⟨n32, f33, h34, h35, hw⟩ := hw
        obtain ⟨r36, e_r36⟩ : ∃ r9, f33 (x1).toNatClampNeg = r9 := ⟨_, rfl⟩
        replace hw := hw r36 e_r36
        refine j_aldQ hE (t := 5) ⟨by decide, by decide⟩ h34 h35 e_r36 dX1_shown_52 ?_
        refine j_astoreq (L' := [(4, va_rf (r36)), (0, .ref (x0)), (1, .int (x1)), (2, .int (x2)), (3, .int (x3))]) hE hn dX1_shown_53 (Nat.le_of_ble_eq_true rfl) rfl ?_
        refine j_iload_n hE 4 dX1_shown_55 rfl rfl ?_
        by_cases c37 : x3 = 0
        · replace hw := hw.1 c37
          refine j_tin hE 88 dX1_shown_56 (by rw [c37] <;> decide) (by rw [c37] <;> decide) (by rw [c37] <;> rfl) (by decide) ?_
          refine j_aload_n hE 1 dX1_shown_88 rfl rfl ?_
          refine j_aload_n hE 1 dX1_shown_89 rfl rfl ?_
          obtain ⟨f38, h39, hw⟩ := hw
          refine j_getM hE gf_GlassStreet_state q351 h39 dX1_shown_90 ?_
          refine j_iload_n hE 2 dX1_shown_93 rfl rfl ?_
          obtain ⟨a40, e9, hx⟩ := hw
          subst e9
          have hw := hx
          clear hx
          obtain ⟨h42, hw⟩ := hw
          refine jc_ip (jr_V hE hR (As := [.ref (a40), .int (x1)]) (rest := []) ((ctX1_tellsWho E.1.2.1 E.2.2.1 hc _ _ _ _ _ hw) E.2.2.2.1) (lw_V q1220 q1222 qs34 q121 q1223) jdX1_tellsWho ⟨Nat.le_of_ble_eq_true rfl, Nat.le_of_ble_eq_true rfl⟩ ⟨Nat.zero_le _, Nat.zero_le _⟩ (gmc_gIs h42 (r := (RX1, TX1, 15)) rfl) rfl (Nat.le_of_ble_eq_true rfl) dX1_shown_94) (fun r41 hw => ?_)
          refine j_b0 ?_
          refine j_if_eq hE 110 dX1_shown_97 (by decide) (fun c43 => ?_) (fun c43 => ?_)
          · replace hw := hw.1 c43
            refine j_iconst hE dX1_shown_110 kc_m1 ?_
            exact j_iret hE hK dX1_shown_111 rfl ⟨rfl, hw⟩
          · replace hw := hw.2 c43
            refine j_aloadq hE 0 dX1_shown_100 rfl ?_
            obtain ⟨a44, e9, hx⟩ := hw
            subst e9
            have hw := hx
            clear hx
            obtain ⟨f45, h46, hw⟩ := hw
            refine j_getMN hE gf_GlassStreet_Marks_who q293 h46 dX1_shown_102 ?_
            refine j_iload_n hE 3 dX1_shown_105 rfl rfl ?_
            obtain ⟨a47, e9, hx⟩ := hw
            subst e9
            have hw := hx
            clear hx
            obtain ⟨n48, f49, h50, h51, hw⟩ := hw
            refine j_aldI hE h50 h51 dX1_shown_106 ?_
            refine j_goto hE 111 dX1_shown_107 (by decide) ?_
            exact j_iret hE hK dX1_shown_111 rfl ⟨rfl, hw⟩
        replace hw := hw.2 c37
        by_cases c52 : x3 = 1
        · replace hw := hw.1 c52
          refine j_tin hE 112 dX1_shown_56 (by rw [c52] <;> decide) (by rw [c52] <;> decide) (by rw [c52] <;> rfl) (by decide) ?_
          refine j_aloadq hE 0 dX1_shown_112 rfl ?_
          obtain ⟨a53, e9, hx⟩ := hw
          subst e9
          have hw := hx
          clear hx
          obtain ⟨f54, h55, hw⟩ := hw
          refine j_getMN hE gf_GlassStreet_Marks_deed q295 h55 dX1_shown_114 ?_
          refine j_iload_n hE 3 dX1_shown_117 rfl rfl ?_
          obtain ⟨a56, e9, hx⟩ := hw
          subst e9
          have hw := hx
          clear hx
          obtain ⟨n57, f58, h59, h60, hw⟩ := hw
          refine j_aldI hE h59 h60 dX1_shown_118 ?_
          exact j_iret hE hK dX1_shown_119 rfl ⟨rfl, hw⟩
        replace hw := hw.2 c52
        by_cases c61 : x3 = nI 2
        · replace hw := hw.1 c61
          refine j_tin hE 120 dX1_shown_56 (by rw [c61] <;> decide) (by rw [c61] <;> decide) (by rw [c61] <;> rfl) (by decide) ?_
          refine j_aloadq hE 0 dX1_shown_120 rfl ?_
          obtain ⟨a62, e9, hx⟩ := hw
          subst e9
          have hw := hx
          clear hx
          obtain ⟨f63, h64, hw⟩ := hw
          refine j_getMN hE gf_GlassStreet_Marks_cell q297 h64 dX1_shown_122 ?_
          refine j_iload_n hE 3 dX1_shown_125 rfl rfl ?_
          obtain ⟨a65, e9, hx⟩ := hw
          subst e9
          have hw := hx
          clear hx
          obtain ⟨n66, f67, h68, h69, hw⟩ := hw
          refine j_aldI hE h68 h69 dX1_shown_126 ?_
          exact j_iret hE hK dX1_shown_127 rfl ⟨rfl, hw⟩
        replace hw := hw.2 c61
        by_cases c70 : x3 = nI 3
        · replace hw := hw.1 c70
          refine j_tin hE 128 dX1_shown_56 (by rw [c70] <;> decide) (by rw [c70] <;> decide) (by rw [c70] <;> rfl) (by decide) ?_
          refine j_aloadq hE 0 dX1_shown_128 rfl ?_
          obtain ⟨a71, e9, hx⟩ := hw
          subst e9
          have hw := hx
          clear hx
          obtain ⟨f72, h73, hw⟩ := hw
          refine j_getMN hE gf_GlassStreet_Marks_age q299 h73 dX1_shown_130 ?_
          refine j_iload_n hE 3 dX1_shown_133 rfl rfl ?_
          obtain ⟨a74, e9, hx⟩ := hw
          subst e9
          have hw := hx
          clear hx
          obtain ⟨n75, f76, h77, h78, hw⟩ := hw
          refine j_aldI hE h77 h78 dX1_shown_134 ?_
          exact j_iret hE hK dX1_shown_135 rfl ⟨rfl, hw⟩
        replace hw := hw.2 c70
        refine j_tout hE 136 dX1_shown_56 (tsw_out x3 (0) (3) (fun k h1 h2 => ?_)) (by decide) ?_
        · rcases (show k = 0 ∨ k = 1 ∨ k = 2 ∨ k = 3 by omega) with rfl | rfl | rfl | rfl
          · exact tsw_ne _ _ _ (by decide) c37
          · exact tsw_ne _ _ _ (by decide) c52
          · exact tsw_ne _ _ _ (by decide) c61
          · exact tsw_ne _ _ _ (by decide) c70
        refine j_bipush hE dX1_shown_136 kb_m2 ?_
        exact j_iret hE hK dX1_shown_138 rfl ⟨rfl, hw⟩
      · replace hw := hw.2 c25
        refine j_bipush hE dX1_shown_41 kb_m2 ?_
        exact j_iret hE hK dX1_shown_43 rfl ⟨rfl, hw⟩
theorem jdX1_shown : jD yX1_shown 3 := by decide +kernel
abbrev wX1_shown := wX1_shown_0
theorem ctX1_shown (l : Launch) (G : gG) {c : Nat → Option Nat} (hc : G.2.2.2 = c) (x0 : Nat) (x1 : Int32) (x2 : Int32) (x3 : Int32) (w0 : GW) (K : Int32 → Prop) (hw : wX1_shown_0 c x0 x1 x2 x3 w0 K) {F2 L2 : Nat} (h2 : 5 ≤ F2 ∧ 107 ≤ L2 := by exact ⟨Nat.le_refl _, Nat.le_refl _⟩) : CtI l yX1_shown cX1_shown 5 .int ({ frames := F2, cells := 0, slots := 0, locals := L2 }) G [.ref (x0), .int (x1), .int (x2), .int (x3)] w0 (KPI w0 K) :=
  CtI.of RX1 plainc_X1 rfl (Nat.le_of_ble_eq_true rfl) (fun E hE hl hG hn hR hK => bX1_shown_0 hE hn (hR.le h2.1 h2.2) (by rw [hG]; exact hc) hK hw)
def wX1_people_0 (c : Nat → Option Nat) (x0 : Nat) (w0 : GW) (K : Int32 → Prop) : Prop :=
  ∃ f1 : Option Nat, gfm w0 x0 [0] 2 = some (va_rf f1) ∧ (∃ a3 : Nat, f1 = some a3 ∧ (∃ f4 : Option Nat, gfm w0 a3 [2] 1 = some (va_rf f4) ∧ (∃ a6 : Nat, f4 = some a6 ∧ (gmc w0 a6 = some 20 ∧ (wJ2_size c a6 w0 (fun r7 => K r7))))))
set_option maxRecDepth 100000 in
theorem bX1_people_0 {E : jE} (hE : jOk E cX1_people RX1) (hn : E.2.2.2.2 = 1) (hR : jRoom E 1 20) {c : Nat → Option Nat} (hc : E.2.2.1.2.2.2 = c) {b : Nat × Nat} {w0 : GW} {K : Int32 → Prop} (hK : jRi E .int (KPI w0 K)) {x0 : Nat}  (hw : wX1_people_0 c x0 w0 K) : J E w0 b [(0, .ref (x0))] 0 [] := by
  unfold wX1_people_0 at hw
  refine j_aload_n hE 0 dX1_people_0 rfl rfl ?_
  obtain ⟨f1, h2, hw⟩ := hw
  refine j_getM hE gf_GlassStreet_houses q349 h2 dX1_people_1 ?_
  obtain ⟨a3, e9, hx⟩ := hw
  subst e9
  have hw := hx
  clear hx
  obtain ⟨f4, h5, hw⟩ := hw
  refine j_getMN hE gf_GlassStreet_Houses_people q242 h5 dX1_people_4 ?_
  obtain ⟨a6, e9, hx⟩ := hw
  subst e9
  have hw := hx
  clear hx
  obtain ⟨h8, hw⟩ := hw
  refine jc_ip (jr_V hE hR (As := []) (rest := []) ((ctJ2_size E.1.2.1 E.2.2.1 hc _ _ _ hw) E.2.2.2.1) (lw_V q1161 q626 q627 q126 q628) jdJ2_size ⟨Nat.le_of_ble_eq_true rfl, Nat.le_of_ble_eq_true rfl⟩ ⟨Nat.zero_le _, Nat.zero_le _⟩ (gmc_gIs h8 (r := (RJ2, TJ2, 3)) rfl) rfl (Nat.le_of_ble_eq_true rfl) dX1_people_7) (fun r7 hw => ?_)
  refine j_b0 ?_
  exact j_iret hE hK dX1_people_10 rfl ⟨rfl, hw⟩
theorem jdX1_people : jD yX1_people 0 := by decide +kernel
abbrev wX1_people := wX1_people_0
theorem ctX1_people (l : Launch) (G : gG) {c : Nat → Option Nat} (hc : G.2.2.2 = c) (x0 : Nat) (w0 : GW) (K : Int32 → Prop) (hw : wX1_people_0 c x0 w0 K) {F2 L2 : Nat} (h2 : 1 ≤ F2 ∧ 20 ≤ L2 := by exact ⟨Nat.le_refl _, Nat.le_refl _⟩) : CtI l yX1_people cX1_people 1 .int ({ frames := F2, cells := 0, slots := 0, locals := L2 }) G [.ref (x0)] w0 (KPI w0 K) :=
  CtI.of RX1 plainc_X1 rfl (Nat.le_of_ble_eq_true rfl) (fun E hE hl hG hn hR hK => bX1_people_0 hE hn (hR.le h2.1 h2.2) (by rw [hG]; exact hc) hK hw)
def wX1_isPerson_0 (c : Nat → Option Nat) (x0 : Nat) (x1 : Int32) (w0 : GW) (K : Int32 → Prop) : Prop :=
  gmc w0 x0 = some 0 ∧ (wX1_people c x0 w0 (fun r1 => wX1_in c x1 ((0 : Int32)) (r1 - ((1 : Int32))) w0 (fun r3 => narrow .boolean (.int r3) = .int r3 ∧ K r3)))
set_option maxRecDepth 100000 in
theorem bX1_isPerson_0 {E : jE} (hE : jOk E cX1_isPerson RX1) (hn : E.2.2.2.2 = 2) (hR : jRoom E 2 40) {c : Nat → Option Nat} (hc : E.2.2.1.2.2.2 = c) {b : Nat × Nat} {w0 : GW} {K : Int32 → Prop} (hK : jRi E .boolean (KPI w0 K)) {x0 : Nat} {x1 : Int32}  (hw : wX1_isPerson_0 c x0 x1 w0 K) : J E w0 b [(0, .ref (x0)), (1, .int (x1))] 0 [] := by
  unfold wX1_isPerson_0 at hw
  refine j_iload_n hE 1 dX1_isPerson_0 rfl rfl ?_
  refine j_iconst hE dX1_isPerson_1 kc_0 ?_
  refine j_aload_n hE 0 dX1_isPerson_2 rfl rfl ?_
  obtain ⟨h2, hw⟩ := hw
  refine jc_ip (jr_V hE hR (As := []) (rest := [.int ((0 : Int32)), .int (x1)]) ((ctX1_people E.1.2.1 E.2.2.1 hc _ _ _ hw) E.2.2.2.1) (lw_V q1242 q1244 qs36 q121 q1245) jdX1_people ⟨Nat.le_of_ble_eq_true rfl, Nat.le_of_ble_eq_true rfl⟩ ⟨Nat.zero_le _, Nat.zero_le _⟩ (gmc_gIs h2 (r := (RX1, TX1, 15)) rfl) rfl (Nat.le_of_ble_eq_true rfl) dX1_isPerson_3) (fun r1 hw => ?_)
  refine j_b0 ?_
  refine j_iconst hE dX1_isPerson_6 kc_1 ?_
  refine j_isub hE dX1_isPerson_7 ?_
  refine jc_ip (jr_S hE hR (As := [.int (x1), .int ((0 : Int32)), .int (r1 - ((1 : Int32)))]) (rest := []) ((ctX1_in E.1.2.1 E.2.2.1 hc _ _ _ _ _ hw) E.2.2.2.1) (lw_S q1162 q919 q121 q920) jdX1_in ⟨Nat.le_of_ble_eq_true rfl, Nat.le_of_ble_eq_true rfl⟩ ⟨Nat.zero_le _, Nat.zero_le _⟩  rfl (Nat.le_of_ble_eq_true rfl) dX1_isPerson_8) (fun r3 hw => ?_)
  refine j_b0 ?_
  obtain ⟨hz, hw⟩ := hw
  exact j_iret hE hK dX1_isPerson_11 hz ⟨rfl, hw⟩
theorem jdX1_isPerson : jD yX1_isPerson 1 := by decide +kernel
abbrev wX1_isPerson := wX1_isPerson_0
theorem ctX1_isPerson (l : Launch) (G : gG) {c : Nat → Option Nat} (hc : G.2.2.2 = c) (x0 : Nat) (x1 : Int32) (w0 : GW) (K : Int32 → Prop) (hw : wX1_isPerson_0 c x0 x1 w0 K) {F2 L2 : Nat} (h2 : 2 ≤ F2 ∧ 40 ≤ L2 := by exact ⟨Nat.le_refl _, Nat.le_refl _⟩) : CtI l yX1_isPerson cX1_isPerson 2 .boolean ({ frames := F2, cells := 0, slots := 0, locals := L2 }) G [.ref (x0), .int (x1)] w0 (KPI w0 K) :=
  CtI.of RX1 plainc_X1 rfl (Nat.le_of_ble_eq_true rfl) (fun E hE hl hG hn hR hK => bX1_isPerson_0 hE hn (hR.le h2.1 h2.2) (by rw [hG]; exact hc) hK hw)
def wX1_person_0 (c : Nat → Option Nat) (x0 : Nat) (x1 : Int32) (w0 : GW) (K : Int32 → Prop) : Prop :=
  gmc w0 x0 = some 0 ∧ (wX1_isPerson c x0 x1 w0 (fun r1 => (r1 = 0 → (K ((-1 : Int32)))) ∧ (¬ r1 = 0 → (∃ f4 : Option Nat, gfm w0 x0 [0] 4 = some (va_rf f4) ∧ (∃ a6 : Nat, f4 = some a6 ∧ (∃ f7 : Option Nat, gfm w0 a6 [3] 0 = some (va_rf f7) ∧ (∃ a9 : Nat, f7 = some a9 ∧ (∃ (n10 : Nat) (f11 : Nat → Int32), gai w0 a9 0 = some (n10, f11) ∧ vp_in x1 n10 ∧ (K (rd f11 x1))))))))))
set_option maxRecDepth 100000 in
theorem bX1_person_0 {E : jE} (hE : jOk E cX1_person RX1) (hn : E.2.2.2.2 = 2) (hR : jRoom E 3 61) {c : Nat → Option Nat} (hc : E.2.2.1.2.2.2 = c) {b : Nat × Nat} {w0 : GW} {K : Int32 → Prop} (hK : jRi E .int (KPI w0 K)) {x0 : Nat} {x1 : Int32}  (hw : wX1_person_0 c x0 x1 w0 K) : J E w0 b [(0, .ref (x0)), (1, .int (x1))] 0 [] := by
  unfold wX1_person_0 at hw
  refine j_aload_n hE 0 dX1_person_0 rfl rfl ?_
  refine j_iload_n hE 1 dX1_person_1 rfl rfl ?_
  obtain ⟨h2, hw⟩ := hw
  refine jc_ip (jr_V hE hR (As := [.int (x1)]) (rest := []) ((ctX1_isPerson E.1.2.1 E.2.2.1 hc _ _ _ _ hw) E.2.2.2.1) (lw_V q1238 q1240 qs35 q121 q1241) jdX1_isPerson ⟨Nat.le_of_ble_eq_true rfl, Nat.le_of_ble_eq_true rfl⟩ ⟨Nat.zero_le _, Nat.zero_le _⟩ (gmc_gIs h2 (r := (RX1, TX1, 15)) rfl) rfl (Nat.le_of_ble_eq_true rfl) dX1_person_2) (fun r1 hw => ?_)
  refine j_b0 ?_
  refine j_if_eq hE 20 dX1_person_5 (by decide) (fun c3 => ?_) (fun c3 => ?_)
  · replace hw := hw.1 c3
    refine j_iconst hE dX1_person_20 kc_m1 ?_
    exact j_iret hE hK dX1_person_21 rfl ⟨rfl, hw⟩
  · replace hw := hw.2 c3
    refine j_aload_n hE 0 dX1_person_8 rfl rfl ?_
    obtain ⟨f4, h5, hw⟩ := hw
    refine j_getM hE gf_GlassStreet_state q351 h5 dX1_person_9 ?_
    obtain ⟨a6, e9, hx⟩ := hw
    subst e9
    have hw := hx
    clear hx
    obtain ⟨f7, h8, hw⟩ := hw
    refine j_getMN hE gf_GlassStreet_State_at q317 h8 dX1_person_12 ?_
    refine j_iload_n hE 1 dX1_person_15 rfl rfl ?_
    obtain ⟨a9, e9, hx⟩ := hw
    subst e9
    have hw := hx
    clear hx
    obtain ⟨n10, f11, h12, h13, hw⟩ := hw
    refine j_aldI hE h12 h13 dX1_person_16 ?_
    refine j_goto hE 21 dX1_person_17 (by decide) ?_
    exact j_iret hE hK dX1_person_21 rfl ⟨rfl, hw⟩
theorem jdX1_person : jD yX1_person 1 := by decide +kernel
abbrev wX1_person := wX1_person_0
theorem ctX1_person (l : Launch) (G : gG) {c : Nat → Option Nat} (hc : G.2.2.2 = c) (x0 : Nat) (x1 : Int32) (w0 : GW) (K : Int32 → Prop) (hw : wX1_person_0 c x0 x1 w0 K) {F2 L2 : Nat} (h2 : 3 ≤ F2 ∧ 61 ≤ L2 := by exact ⟨Nat.le_refl _, Nat.le_refl _⟩) : CtI l yX1_person cX1_person 2 .int ({ frames := F2, cells := 0, slots := 0, locals := L2 }) G [.ref (x0), .int (x1)] w0 (KPI w0 K) :=
  CtI.of RX1 plainc_X1 rfl (Nat.le_of_ble_eq_true rfl) (fun E hE hl hG hn hR hK => bX1_person_0 hE hn (hR.le h2.1 h2.2) (by rw [hG]; exact hc) hK hw)
def wX5_be_0 (c : Nat → Option Nat) (x0 : Nat) (x1 : Nat) (w : GW) (K : GW → Prop) : Prop :=
  ∃ f1 : Option Nat, gfm w x1 [4] 0 = some (va_rf f1) ∧ (∃ f3 : Option Nat, gfm w x0 [4] 0 = some (va_rf f3) ∧ (∃ a5 : Nat, f1 = some a5 ∧ (∃ a6 : Nat, f3 = some a6 ∧ (wX1_copies c a5 a6 w (fun w7 => ∃ f8 : Option Nat, gfm w7 x1 [4] 1 = some (va_rf f8) ∧ (∃ f10 : Option Nat, gfm w7 x0 [4] 1 = some (va_rf f10) ∧ (∃ a12 : Nat, f8 = some a12 ∧ (∃ a13 : Nat, f10 = some a13 ∧ (wX1_copies c a12 a13 w7 (fun w14 => ∃ f15 : Option Nat, gfm w14 x1 [4] 2 = some (va_rf f15) ∧ (∃ f17 : Option Nat, gfm w14 x0 [4] 2 = some (va_rf f17) ∧ (∃ a19 : Nat, f15 = some a19 ∧ (∃ a20 : Nat, f17 = some a20 ∧ (wX1_copies c a19 a20 w14 (fun w21 => ∃ f22 : Option Nat, gfm w21 x1 [4] 3 = some (va_rf f22) ∧ (∃ f24 : Option Nat, gfm w21 x0 [4] 3 = some (va_rf f24) ∧ (∃ a26 : Nat, f22 = some a26 ∧ (∃ a27 : Nat, f24 = some a27 ∧ (wX1_copies c a26 a27 w21 (fun w28 => ∃ f29 : Int32, gfm w28 x1 [4] 4 = some (.int f29) ∧ (∃ (n31 : Nat) (fs32 : List Value), w28 x0 = some (true, .inr (n31, fs32)) ∧ n31 ∈ ([4] : List Nat) ∧ 4 < fs32.length ∧ (∀ w36 : GW, w36 = gup w28 x0 (.inr (n31, fs32.set 4 (.int f29))) → (K w36)))))))))))))))))))))))
set_option maxRecDepth 100000 in
theorem bX5_be_0 {E : jE} (hE : jOk E cX5_be RX5) (hn : E.2.2.2.2 = 2) (hR : jRoom E 1 22) {c : Nat → Option Nat} (hc : E.2.2.1.2.2.2 = c) {b : Nat × Nat} {K : GW → Prop} (hK : jRv E (K)) {x0 : Nat} {x1 : Nat} {w : GW}  (hw : wX5_be_0 c x0 x1 w K) : J E w b [(0, .ref (x0)), (1, .ref (x1))] 0 [] := by
  unfold wX5_be_0 at hw
  refine j_aload_n hE 1 dX5_be_0 rfl rfl ?_
  obtain ⟨f1, h2, hw⟩ := hw
  refine j_getM hE gf_GlassStreet_Marks_who q292 h2 dX5_be_1 ?_
  refine j_aload_n hE 0 dX5_be_4 rfl rfl ?_
  obtain ⟨f3, h4, hw⟩ := hw
  refine j_getM hE gf_GlassStreet_Marks_who q292 h4 dX5_be_5 ?_
  obtain ⟨a5, e9, hx⟩ := hw
  subst e9
  have hw := hx
  clear hx
  obtain ⟨a6, e9, hx⟩ := hw
  subst e9
  have hw := hx
  clear hx
  refine jc_v (jr_SN hE hR (As := [.ref (a5), .ref (a6)]) (rest := []) ((ctX1_copies E.1.2.1 E.2.2.1 hc _ _ _ _ hw) E.2.2.2.1) (lw_meth q1069) q121 q1265 q1068 jdX1_copies ⟨Nat.le_of_ble_eq_true rfl, Nat.le_of_ble_eq_true rfl⟩ ⟨Nat.zero_le _, Nat.zero_le _⟩  rfl (Nat.le_of_ble_eq_true rfl) dX5_be_8) (fun w7 hw => ?_)
  refine j_b0 ?_
  refine j_aload_n hE 1 dX5_be_11 rfl rfl ?_
  obtain ⟨f8, h9, hw⟩ := hw
  refine j_getM hE gf_GlassStreet_Marks_deed q294 h9 dX5_be_12 ?_
  refine j_aload_n hE 0 dX5_be_15 rfl rfl ?_
  obtain ⟨f10, h11, hw⟩ := hw
  refine j_getM hE gf_GlassStreet_Marks_deed q294 h11 dX5_be_16 ?_
  obtain ⟨a12, e9, hx⟩ := hw
  subst e9
  have hw := hx
  clear hx
  obtain ⟨a13, e9, hx⟩ := hw
  subst e9
  have hw := hx
  clear hx
  refine jc_v (jr_SN hE hR (As := [.ref (a12), .ref (a13)]) (rest := []) ((ctX1_copies E.1.2.1 E.2.2.1 hc _ _ _ _ hw) E.2.2.2.1) (lw_meth q1069) q121 q1265 q1068 jdX1_copies ⟨Nat.le_of_ble_eq_true rfl, Nat.le_of_ble_eq_true rfl⟩ ⟨Nat.zero_le _, Nat.zero_le _⟩  rfl (Nat.le_of_ble_eq_true rfl) dX5_be_19) (fun w14 hw => ?_)
  refine j_b0 ?_
  refine j_aload_n hE 1 dX5_be_22 rfl rfl ?_
  obtain ⟨f15, h16, hw⟩ := hw
  refine j_getM hE gf_GlassStreet_Marks_cell q296 h16 dX5_be_23 ?_
  refine j_aload_n hE 0 dX5_be_26 rfl rfl ?_
  obtain ⟨f17, h18, hw⟩ := hw
  refine j_getM hE gf_GlassStreet_Marks_cell q296 h18 dX5_be_27 ?_
  obtain ⟨a19, e9, hx⟩ := hw
  subst e9
  have hw := hx
  clear hx
  obtain ⟨a20, e9, hx⟩ := hw
  subst e9
  have hw := hx
  clear hx
  refine jc_v (jr_SN hE hR (As := [.ref (a19), .ref (a20)]) (rest := []) ((ctX1_copies E.1.2.1 E.2.2.1 hc _ _ _ _ hw) E.2.2.2.1) (lw_meth q1069) q121 q1265 q1068 jdX1_copies ⟨Nat.le_of_ble_eq_true rfl, Nat.le_of_ble_eq_true rfl⟩ ⟨Nat.zero_le _, Nat.zero_le _⟩  rfl (Nat.le_of_ble_eq_true rfl) dX5_be_30) (fun w21 hw => ?_)
  refine j_b0 ?_
  refine j_aload_n hE 1 dX5_be_33 rfl rfl ?_
  obtain ⟨f22, h23, hw⟩ := hw
  refine j_getM hE gf_GlassStreet_Marks_age q298 h23 dX5_be_34 ?_
  refine j_aload_n hE 0 dX5_be_37 rfl rfl ?_
  obtain ⟨f24, h25, hw⟩ := hw
  refine j_getM hE gf_GlassStreet_Marks_age q298 h25 dX5_be_38 ?_
  obtain ⟨a26, e9, hx⟩ := hw
  subst e9
  have hw := hx
  clear hx
  obtain ⟨a27, e9, hx⟩ := hw
  subst e9
  have hw := hx
  clear hx
  refine jc_v (jr_SN hE hR (As := [.ref (a26), .ref (a27)]) (rest := []) ((ctX1_copies E.1.2.1 E.2.2.1 hc _ _ _ _ hw) E.2.2.2.1) (lw_meth q1069) q121 q1265 q1068 jdX1_copies ⟨Nat.le_of_ble_eq_true rfl, Nat.le_of_ble_eq_true rfl⟩ ⟨Nat.zero_le _, Nat.zero_le _⟩  rfl (Nat.le_of_ble_eq_true rfl) dX5_be_41) (fun w28 hw => ?_)
  refine j_b0 ?_
  refine j_aload_n hE 0 dX5_be_44 rfl rfl ?_
  refine j_aload_n hE 1 dX5_be_45 rfl rfl ?_
  obtain ⟨f29, h30, hw⟩ := hw
  refine j_getM hE gf_GlassStreet_Marks_many q301 h30 dX5_be_46 ?_
  obtain ⟨n31, fs32, h33, h34, h35, hw⟩ := hw
  refine j_putX hE h34 gw_GlassStreet_Marks_many_X5 q301 h33 rfl rfl h35 dX5_be_49 ?_
  refine j_nw (fun w36 e_w36 => ?_)
  replace hw := hw w36 e_w36
  exact j_vret hE hK dX5_be_52 hw
theorem jdX5_be : jD yX5_be 1 := by decide +kernel
abbrev wX5_be := wX5_be_0
theorem ctX5_be (l : Launch) (G : gG) {c : Nat → Option Nat} (hc : G.2.2.2 = c) (x0 : Nat) (x1 : Nat) (w : GW) (K : GW → Prop) (hw : wX5_be_0 c x0 x1 w K) {F2 L2 : Nat} (h2 : 1 ≤ F2 ∧ 22 ≤ L2 := by exact ⟨Nat.le_refl _, Nat.le_refl _⟩) : CtV l yX5_be cX5_be 2 ({ frames := F2, cells := 0, slots := 0, locals := L2 }) G [.ref (x0), .ref (x1)] w (K) :=
  CtV.of RX5 plainc_X5 rfl (Nat.le_of_ble_eq_true rfl) (fun E hE hl hG hn hR hK => bX5_be_0 hE hn (hR.le h2.1 h2.2) (by rw [hG]; exact hc) hK hw)
def wX4_be_13_b (c : Nat → Option Nat) (x0 : Nat) (x1 : Nat) (x2 : Int32) (w : GW) (KL13 : Int32 × GW → Prop) (K : GW → Prop) : Prop :=
  ((nI 6) ≤ x2 → (∃ f2 : Int32, gfm w x1 [3] 2 = some (.int f2) ∧ (∃ (n4 : Nat) (fs5 : List Value), w x0 = some (true, .inr (n4, fs5)) ∧ n4 ∈ ([3] : List Nat) ∧ 2 < fs5.length ∧ (∀ w9 : GW, w9 = gup w x0 (.inr (n4, fs5.set 2 (.int f2))) → (∃ f10 : Int32, gfm w9 x1 [3] 3 = some (.int f10) ∧ (∃ (n12 : Nat) (fs13 : List Value), w9 x0 = some (true, .inr (n12, fs13)) ∧ n12 ∈ ([3] : List Nat) ∧ 3 < fs13.length ∧ (∀ w17 : GW, w17 = gup w9 x0 (.inr (n12, fs13.set 3 (.int f10))) → (∃ f18 : Int32, gfm w17 x1 [3] 4 = some (.int f18) ∧ (∃ (n20 : Nat) (fs21 : List Value), w17 x0 = some (true, .inr (n20, fs21)) ∧ n20 ∈ ([3] : List Nat) ∧ 4 < fs21.length ∧ (∀ w25 : GW, w25 = gup w17 x0 (.inr (n20, fs21.set 4 (.int f18))) → (K w25))))))))))) ∧ (¬ (nI 6) ≤ x2 → (∃ f26 : Option Nat, gfm w x0 [3] 1 = some (va_rf f26) ∧ (∃ a28 : Nat, f26 = some a28 ∧ (∃ (n29 : Nat) (f30 : Nat → Option Nat), gaq w a28 5 = some (n29, f30) ∧ vp_in x2 n29 ∧ (∀ r33 : Option Nat, f30 (x2).toNatClampNeg = r33 → (∃ f34 : Option Nat, gfm w x1 [3] 1 = some (va_rf f34) ∧ (∃ a36 : Nat, f34 = some a36 ∧ (∃ (n37 : Nat) (f38 : Nat → Option Nat), gaq w a36 5 = some (n37, f38) ∧ vp_in x2 n37 ∧ (∀ r41 : Option Nat, f38 (x2).toNatClampNeg = r41 → (∃ a42 : Nat, r33 = some a42 ∧ (∃ a43 : Nat, r41 = some a43 ∧ (gmc w a42 = some 4 ∧ (wX5_be c a42 a43 w (fun w45 => KL13 ((x2 + 1), w45)))))))))))))))
def wX4_be_13 (c : Nat → Option Nat) (x0 : Nat) (x1 : Nat) (x2 : Int32) (w : GW) (K : GW → Prop) : Prop := lfp (σ := Int32 × GW) (fun KL s => wX4_be_13_b c x0 x1 s.1 s.2 KL K) (x2, w)
set_option maxRecDepth 100000 in
theorem bX4_be_13 {E : jE} (hE : jOk E cX4_be RX4) (hn : E.2.2.2.2 = 3) (hR : jRoom E 2 43) {c : Nat → Option Nat} (hc : E.2.2.1.2.2.2 = c) {b : Nat × Nat} {K : GW → Prop} (hK : jRv E (K)) {x0 : Nat} {x1 : Nat} {x2 : Int32} {w : GW}  (hw : wX4_be_13 c x0 x1 x2 w K) : J E w b [(0, .ref (x0)), (1, .ref (x1)), (2, .int (x2))] 13 [] := by
  refine lfp_sound (σ := Int32 × GW) (F := fun KL s => wX4_be_13_b c x0 x1 s.1 s.2 KL K) (P := fun s => J E (s.2) b [(0, .ref (x0)), (1, .ref (x1)), (2, .int (s.1))] 13 []) ?_ hw
  clear hw
  rintro KL13 ⟨x2, w⟩ hw ih13
  have hw : wX4_be_13_b c x0 x1 x2 w KL13 K := hw
  unfold wX4_be_13_b at hw
  refine j_iload_n hE 2 dX4_be_13 rfl rfl ?_
  refine j_bipush hE dX4_be_14 kb_6 ?_
  refine j_icmp_ge hE 40 dX4_be_16 (by decide) (fun c1 => ?_) (fun c1 => ?_)
  · replace hw := hw.1 c1
    refine j_aload_n hE 0 dX4_be_40 rfl rfl ?_
    refine j_aload_n hE 1 dX4_be_41 rfl rfl ?_
    obtain ⟨f2, h3, hw⟩ := hw
    refine j_getM hE gf_GlassStreet_State_hour q321 h3 dX4_be_42 ?_
    obtain ⟨n4, fs5, h6, h7, h8, hw⟩ := hw
    refine j_putX hE h7 gw_GlassStreet_State_hour_X4 q321 h6 rfl rfl h8 dX4_be_45 ?_
    refine j_nw (fun w9 e_w9 => ?_)
    replace hw := hw w9 e_w9
    refine j_aload_n hE 0 dX4_be_48 rfl rfl ?_
    refine j_aload_n hE 1 dX4_be_49 rfl rfl ?_
    obtain ⟨f10, h11, hw⟩ := hw
    refine j_getM hE gf_GlassStreet_State_drawn q324 h11 dX4_be_50 ?_
    obtain ⟨n12, fs13, h14, h15, h16, hw⟩ := hw
    refine j_putX hE h15 gw_GlassStreet_State_drawn_X4 q324 h14 rfl rfl h16 dX4_be_53 ?_
    refine j_nw (fun w17 e_w17 => ?_)
    replace hw := hw w17 e_w17
    refine j_aload_n hE 0 dX4_be_56 rfl rfl ?_
    refine j_aload_n hE 1 dX4_be_57 rfl rfl ?_
    obtain ⟨f18, h19, hw⟩ := hw
    refine j_getM hE gf_GlassStreet_State_gone q327 h19 dX4_be_58 ?_
    obtain ⟨n20, fs21, h22, h23, h24, hw⟩ := hw
    refine j_putX hE h23 gw_GlassStreet_State_gone_X4 q327 h22 rfl rfl h24 dX4_be_61 ?_
    refine j_nw (fun w25 e_w25 => ?_)
    replace hw := hw w25 e_w25
    exact j_vret hE hK dX4_be_64 hw
  · replace hw := hw.2 c1
    refine j_aload_n hE 0 dX4_be_19 rfl rfl ?_
    obtain ⟨f26, h27, hw⟩ := hw
    refine j_getM hE gf_GlassStreet_State_marks q318 h27 dX4_be_20 ?_
    refine j_iload_n hE 2 dX4_be_23 rfl rfl ?_
    obtain ⟨a28, e9, hx⟩ := hw
    subst e9
    have hw := hx
    clear hx
    obtain ⟨n29, f30, h31, h32, hw⟩ := hw
    obtain ⟨r33, e_r33⟩ : ∃ r9, f30 (x2).toNatClampNeg = r9 := ⟨_, rfl⟩
    replace hw := hw r33 e_r33
    refine j_aldQ hE (t := 5) ⟨by decide, by decide⟩ h31 h32 e_r33 dX4_be_24 ?_
    refine j_aload_n hE 1 dX4_be_25 rfl rfl ?_
    obtain ⟨f34, h35, hw⟩ := hw
    refine j_getM hE gf_GlassStreet_State_marks q318 h35 dX4_be_26 ?_
    refine j_iload_n hE 2 dX4_be_29 rfl rfl ?_
    obtain ⟨a36, e9, hx⟩ := hw
    subst e9
    have hw := hx
    clear hx
    obtain ⟨n37, f38, h39, h40, hw⟩ := hw
    obtain ⟨r41, e_r41⟩ : ∃ r9, f38 (x2).toNatClampNeg = r9 := ⟨_, rfl⟩
    replace hw := hw r41 e_r41
    refine j_aldQ hE (t := 5) ⟨by decide, by decide⟩ h39 h40 e_r41 dX4_be_30 ?_
    obtain ⟨a42, e9, hx⟩ := hw
    subst e9
    have hw := hx
    clear hx
    obtain ⟨a43, e9, hx⟩ := hw
    subst e9
    have hw := hx
    clear hx
    obtain ⟨h44, hw⟩ := hw
    refine jc_v (jr_V hE hR (As := [.ref (a43)]) (rest := []) ((ctX5_be E.1.2.1 E.2.2.1 hc _ _ _ _ hw) E.2.2.2.1) (lw_V q1261 q1262 q1263 q128 q1264) jdX5_be ⟨Nat.le_of_ble_eq_true rfl, Nat.le_of_ble_eq_true rfl⟩ ⟨Nat.zero_le _, Nat.zero_le _⟩ (gmc_gIs h44 (r := (RX5, TX5, 5)) rfl) rfl (Nat.le_of_ble_eq_true rfl) dX4_be_31) (fun w45 hw => ?_)
    refine j_b0 ?_
    refine j_iinc (L' := [(2, .int (x2 + 1)), (0, .ref (x0)), (1, .ref (x1))]) hE hn 2 dX4_be_34 rfl (congrArg (x2 + ·) kc_1) (Nat.le_of_ble_eq_true rfl) rfl ?_
    refine j_goto hE 13 dX4_be_37 (by decide) ?_
    refine j_sub [(0, .ref (x0)), (1, .ref (x1)), (2, .int (x2 + 1))] [1, 2, 0] rfl ?_
    have hz := ih13 ((x2 + 1), w45) hw
    exact hz
def wX4_be_0 (c : Nat → Option Nat) (x0 : Nat) (x1 : Nat) (w : GW) (K : GW → Prop) : Prop :=
  ∃ f1 : Option Nat, gfm w x1 [3] 0 = some (va_rf f1) ∧ (∃ f3 : Option Nat, gfm w x0 [3] 0 = some (va_rf f3) ∧ (∃ a5 : Nat, f1 = some a5 ∧ (∃ a6 : Nat, f3 = some a6 ∧ (wX1_copies c a5 a6 w (fun w7 => wX4_be_13 c x0 x1 ((0 : Int32)) w7 K)))))
set_option maxRecDepth 100000 in
theorem bX4_be_0 {E : jE} (hE : jOk E cX4_be RX4) (hn : E.2.2.2.2 = 3) (hR : jRoom E 2 43) {c : Nat → Option Nat} (hc : E.2.2.1.2.2.2 = c) {b : Nat × Nat} {K : GW → Prop} (hK : jRv E (K)) {x0 : Nat} {x1 : Nat} {w : GW}  (hw : wX4_be_0 c x0 x1 w K) : J E w b [(0, .ref (x0)), (1, .ref (x1))] 0 [] := by
  unfold wX4_be_0 at hw
  refine j_aload_n hE 1 dX4_be_0 rfl rfl ?_
  obtain ⟨f1, h2, hw⟩ := hw
  refine j_getM hE gf_GlassStreet_State_at q315 h2 dX4_be_1 ?_
  refine j_aload_n hE 0 dX4_be_4 rfl rfl ?_
  obtain ⟨f3, h4, hw⟩ := hw
  refine j_getM hE gf_GlassStreet_State_at q315 h4 dX4_be_5 ?_
  obtain ⟨a5, e9, hx⟩ := hw
  subst e9
  have hw := hx
  clear hx
  obtain ⟨a6, e9, hx⟩ := hw
  subst e9
  have hw := hx
  clear hx
  refine jc_v (jr_SN hE hR (As := [.ref (a5), .ref (a6)]) (rest := []) ((ctX1_copies E.1.2.1 E.2.2.1 hc _ _ _ _ hw) E.2.2.2.1) (lw_meth q1069) q121 q1067 q1068 jdX1_copies ⟨Nat.le_of_ble_eq_true rfl, Nat.le_of_ble_eq_true rfl⟩ ⟨Nat.zero_le _, Nat.zero_le _⟩  rfl (Nat.le_of_ble_eq_true rfl) dX4_be_8) (fun w7 hw => ?_)
  refine j_b0 ?_
  refine j_iconst hE dX4_be_11 kc_0 ?_
  refine j_istore_n (L' := [(2, .int ((0 : Int32))), (0, .ref (x0)), (1, .ref (x1))]) hE hn dX4_be_12 rfl (Nat.le_of_ble_eq_true rfl) rfl ?_
  refine j_sub [(0, .ref (x0)), (1, .ref (x1)), (2, .int ((0 : Int32)))] [1, 2, 0] rfl ?_
  have hz := bX4_be_13 (b := b) hE hn hR hc hK  hw
  exact hz
theorem jdX4_be : jD yX4_be 1 := by decide +kernel
abbrev wX4_be := wX4_be_0
theorem ctX4_be (l : Launch) (G : gG) {c : Nat → Option Nat} (hc : G.2.2.2 = c) (x0 : Nat) (x1 : Nat) (w : GW) (K : GW → Prop) (hw : wX4_be_0 c x0 x1 w K) {F2 L2 : Nat} (h2 : 2 ≤ F2 ∧ 43 ≤ L2 := by exact ⟨Nat.le_refl _, Nat.le_refl _⟩) : CtV l yX4_be cX4_be 3 ({ frames := F2, cells := 0, slots := 0, locals := L2 }) G [.ref (x0), .ref (x1)] w (K) :=
  CtV.of RX4 plainc_X4 rfl (Nat.le_of_ble_eq_true rfl) (fun E hE hl hG hn hR hK => bX4_be_0 hE hn (hR.le h2.1 h2.2) (by rw [hG]; exact hc) hK hw)
def wX1_keeps_92 (c : Nat → Option Nat) (x0 : Nat) (w : GW) (bb : Nat × Nat) (K : GW → Prop) : Prop :=
  ∃ f1 : Option Nat, gfm w x0 [0] 8 = some (va_rf f1) ∧ (∃ f3 : Int32, gfm w x0 [0] 9 = some (.int f3) ∧ (∃ (n5 : Nat) (fs6 : List Value), w x0 = some (true, .inr (n5, fs6)) ∧ n5 ∈ ([0] : List Nat) ∧ 9 < fs6.length ∧ (∀ w10 : GW, w10 = gup w x0 (.inr (n5, fs6.set 9 (.int (f3 + ((1 : Int32)))))) → (∃ a11 : Nat, f1 = some a11 ∧ (∃ (n12 : Nat) (f13 : Nat → Option Nat), gaq w10 a11 6 = some (n12, f13) ∧ vp_in f3 n12 ∧ (∀ r16 : Option Nat, f13 (f3).toNatClampNeg = r16 → (∃ f17 : Option Nat, gfm w10 x0 [0] 4 = some (va_rf f17) ∧ (∃ a19 : Nat, r16 = some a19 ∧ (∃ a20 : Nat, f17 = some a20 ∧ (gmc w10 a19 = some 3 ∧ (wX4_be c a19 a20 w10 (fun w22 => K w22))))))))))))
set_option maxRecDepth 100000 in
theorem bX1_keeps_92 {E : jE} (hE : jOk E cX1_keeps RX1) (hn : E.2.2.2.2 = 3) (hR : jRoom E 3 65) {c : Nat → Option Nat} (hc : E.2.2.1.2.2.2 = c) {K : GW → Prop} (hK : jRv E (K)) {x0 : Nat} {w : GW} {bb : Nat × Nat}  (hw : wX1_keeps_92 c x0 w bb K) : J E w bb [(0, .ref (x0))] 92 [] := by
  unfold wX1_keeps_92 at hw
  refine j_aload_n hE 0 dX1_keeps_92 rfl rfl ?_
  obtain ⟨f1, h2, hw⟩ := hw
  refine j_getM hE gf_GlassStreet_undone q355 h2 dX1_keeps_93 ?_
  refine j_aload_n hE 0 dX1_keeps_96 rfl rfl ?_
  refine j_dup hE dX1_keeps_97 rfl ?_
  obtain ⟨f3, h4, hw⟩ := hw
  refine j_getM hE gf_GlassStreet_undos q356 h4 dX1_keeps_98 ?_
  refine j_dup_x1 hE dX1_keeps_101 rfl rfl ?_
  refine j_iconst hE dX1_keeps_102 kc_1 ?_
  refine j_iadd hE dX1_keeps_103 ?_
  obtain ⟨n5, fs6, h7, h8, h9, hw⟩ := hw
  refine j_putX hE h8 gw_GlassStreet_undos_X1 q356 h7 rfl rfl h9 dX1_keeps_104 ?_
  refine j_nw (fun w10 e_w10 => ?_)
  replace hw := hw w10 e_w10
  obtain ⟨a11, e9, hx⟩ := hw
  subst e9
  have hw := hx
  clear hx
  obtain ⟨n12, f13, h14, h15, hw⟩ := hw
  obtain ⟨r16, e_r16⟩ : ∃ r9, f13 (f3).toNatClampNeg = r9 := ⟨_, rfl⟩
  replace hw := hw r16 e_r16
  refine j_aldQ hE (t := 6) ⟨by decide, by decide⟩ h14 h15 e_r16 dX1_keeps_107 ?_
  refine j_aload_n hE 0 dX1_keeps_108 rfl rfl ?_
  obtain ⟨f17, h18, hw⟩ := hw
  refine j_getM hE gf_GlassStreet_state q351 h18 dX1_keeps_109 ?_
  obtain ⟨a19, e9, hx⟩ := hw
  subst e9
  have hw := hx
  clear hx
  obtain ⟨a20, e9, hx⟩ := hw
  subst e9
  have hw := hx
  clear hx
  obtain ⟨h21, hw⟩ := hw
  refine jc_v (jr_V hE hR (As := [.ref (a20)]) (rest := []) ((ctX4_be E.1.2.1 E.2.2.1 hc _ _ _ _ hw) E.2.2.2.1) (lw_V q1257 q1258 q1259 q127 q1260) jdX4_be ⟨Nat.le_of_ble_eq_true rfl, Nat.le_of_ble_eq_true rfl⟩ ⟨Nat.zero_le _, Nat.zero_le _⟩ (gmc_gIs h21 (r := (RX4, TX4, 5)) rfl) rfl (Nat.le_of_ble_eq_true rfl) dX1_keeps_112) (fun w22 hw => ?_)
  refine j_b0 ?_
  exact j_vret hE hK dX1_keeps_115 hw
def wX1_keeps_64 (c : Nat → Option Nat) (x0 : Nat) (w : GW) (bb : Nat × Nat) (K : GW → Prop) : Prop :=
  ∃ f1 : Option Nat, gfm w x0 [0] 8 = some (va_rf f1) ∧ (∃ f3 : Int32, gfm w x0 [0] 9 = some (.int f3) ∧ (∃ a5 : Nat, f1 = some a5 ∧ (∃ (n6 : Nat) (f7 : Nat → Option Nat), gaq w a5 6 = some (n6, f7) ∧ vp_in f3 n6 ∧ (∀ r10 : Option Nat, f7 (f3).toNatClampNeg = r10 → ((¬ r10 = none → (wX1_keeps_92 c x0 w bb K)) ∧ (r10 = none → (∃ f12 : Option Nat, gfm w x0 [0] 8 = some (va_rf f12) ∧ (∃ f14 : Int32, gfm w x0 [0] 9 = some (.int f14) ∧ (1 ≤ bb.1 ∧ 5 ≤ bb.2 ∧ ∀ qa18 : Nat, w qa18 = none → (∀ w20 : GW, w20 = gup w qa18 (.inr (3, [va_rf none, va_rf none, .int 0, .int 0, .int 0])) → (∀ b21 : Nat × Nat, b21 = (bb.1 - 1, bb.2 - 5) → (∃ cb22 : Nat × Nat, (cb22.1 ≤ b21.1 ∧ cb22.2 ≤ b21.2) ∧ (wX4_init c qa18 w20 cb22 (fun w24 => ∀ b25 : Nat × Nat, b25 = (b21.1 - cb22.1, b21.2 - cb22.2) → (∃ a26 : Nat, f12 = some a26 ∧ (∃ (n27 : Nat) (f28 : Nat → Option Nat), w24 a26 = some (true, .inl (6, n27, .inr (.inr (.inr (.inr f28))))) ∧ vp_in f14 n27 ∧ ((∃ v9 c9, some qa18 = some v9 ∧ gmc w24 v9 = some c9 ∧ c9 ∈ ([3] : List Nat)) ∧ (∀ w32 : GW, w32 = gup w24 a26 (.inl (6, n27, .inr (.inr (.inr (.inr (va_up f28 (f14).toNatClampNeg (some qa18))))))) → (wX1_keeps_92 c x0 w32 b25 K)))))))))))))))))))
set_option maxRecDepth 100000 in
theorem bX1_keeps_64 {E : jE} (hE : jOk E cX1_keeps RX1) (hn : E.2.2.2.2 = 3) (hR : jRoom E 3 65) {c : Nat → Option Nat} (hc : E.2.2.1.2.2.2 = c) {K : GW → Prop} (hK : jRv E (K)) {x0 : Nat} {w : GW} {bb : Nat × Nat}  (hw : wX1_keeps_64 c x0 w bb K) : J E w bb [(0, .ref (x0))] 64 [] := by
  unfold wX1_keeps_64 at hw
  refine j_aload_n hE 0 dX1_keeps_64 rfl rfl ?_
  obtain ⟨f1, h2, hw⟩ := hw
  refine j_getM hE gf_GlassStreet_undone q355 h2 dX1_keeps_65 ?_
  refine j_aload_n hE 0 dX1_keeps_68 rfl rfl ?_
  obtain ⟨f3, h4, hw⟩ := hw
  refine j_getM hE gf_GlassStreet_undos q356 h4 dX1_keeps_69 ?_
  obtain ⟨a5, e9, hx⟩ := hw
  subst e9
  have hw := hx
  clear hx
  obtain ⟨n6, f7, h8, h9, hw⟩ := hw
  obtain ⟨r10, e_r10⟩ : ∃ r9, f7 (f3).toNatClampNeg = r9 := ⟨_, rfl⟩
  replace hw := hw r10 e_r10
  refine j_aldQ hE (t := 6) ⟨by decide, by decide⟩ h8 h9 e_r10 dX1_keeps_72 ?_
  refine j_ifnonnull (r := r10) hE 92 dX1_keeps_73 (by decide) (fun c11 => ?_) (fun c11 => ?_)
  · replace hw := hw.1 c11
    have hz := bX1_keeps_92 hE hn hR hc hK  hw
    exact hz
  · replace hw := hw.2 c11
    refine j_aload_n hE 0 dX1_keeps_76 rfl rfl ?_
    obtain ⟨f12, h13, hw⟩ := hw
    refine j_getM hE gf_GlassStreet_undone q355 h13 dX1_keeps_77 ?_
    refine j_aload_n hE 0 dX1_keeps_80 rfl rfl ?_
    obtain ⟨f14, h15, hw⟩ := hw
    refine j_getM hE gf_GlassStreet_undos q356 h15 dX1_keeps_81 ?_
    obtain ⟨h16, h17, hw⟩ := hw
    refine j_new (c := 3) (fs := [va_rf none, va_rf none, .int 0, .int 0, .int 0]) hE gok_3 q279 q280 q127 dfl_3 ⟨h16, h17⟩ dX1_keeps_84 (fun qa18 h19 => ?_)
    replace hw := hw qa18 h19
    refine j_nw (fun w20 e_w20 => ?_)
    replace hw := hw w20 e_w20
    refine j_nb (fun b21 e_b21 => ?_)
    replace hw := hw b21 e_b21
    refine j_dup hE dX1_keeps_87 rfl ?_
    obtain ⟨cb22, h23, hw⟩ := hw
    refine jc_v (jr_I hE hR (As := []) (rest := [.ref (qa18), .int (f14), va_rf (f12)]) ((ctX4_init E.1.2.1 E.2.2.1 hc _ _ _ _ hw) E.2.2.2.1) (lw_meth q283) q127 q281 q282 rfl jdX4_init ⟨Nat.le_of_ble_eq_true rfl, Nat.le_of_ble_eq_true rfl⟩ h23  rfl (by cases f12 <;> exact Nat.le_of_ble_eq_true rfl) dX1_keeps_88) (fun w24 hw => ?_)
    refine j_nb (fun b25 e_b25 => ?_)
    replace hw := hw b25 e_b25
    obtain ⟨a26, e9, hx⟩ := hw
    subst e9
    have hw := hx
    clear hx
    obtain ⟨n27, f28, h29, h30, hw⟩ := hw
    obtain ⟨h31, hw⟩ := hw
    refine j_astL (r := some qa18) hE elemc_6 (t := 6) ⟨by decide, by decide⟩ h29 h30 (Or.inr h31) dX1_keeps_91 ?_
    refine j_nw (fun w32 e_w32 => ?_)
    replace hw := hw w32 e_w32
    have hz := bX1_keeps_92 hE hn hR hc hK  hw
    exact hz
def wX1_keeps_18_b (c : Nat → Option Nat) (x0 : Nat) (x1 : Option Nat) (x2 : Int32) (w : GW) (bb : Nat × Nat) (KL18 : Int32 × GW → Prop) (K : GW → Prop) : Prop :=
  ((nI 16) ≤ (x2 + ((1 : Int32))) → (∃ f2 : Option Nat, gfm w x0 [0] 8 = some (va_rf f2) ∧ (∃ a4 : Nat, f2 = some a4 ∧ (∃ (n5 : Nat) (f6 : Nat → Option Nat), w a4 = some (true, .inl (6, n5, .inr (.inr (.inr (.inr f6))))) ∧ vp_in (nI 15) n5 ∧ ((x1 = none ∨ ∃ v9 c9, x1 = some v9 ∧ gmc w v9 = some c9 ∧ c9 ∈ ([3] : List Nat)) ∧ (∀ w10 : GW, w10 = gup w a4 (.inl (6, n5, .inr (.inr (.inr (.inr (va_up f6 (nI 15).toNatClampNeg x1)))))) → (∃ f11 : Int32, gfm w10 x0 [0] 9 = some (.int f11) ∧ (∃ (n13 : Nat) (fs14 : List Value), w10 x0 = some (true, .inr (n13, fs14)) ∧ n13 ∈ ([0] : List Nat) ∧ 9 < fs14.length ∧ (∀ w18 : GW, w18 = gup w10 x0 (.inr (n13, fs14.set 9 (.int (f11 - ((1 : Int32)))))) → (wX1_keeps_64 c x0 w18 bb K)))))))))) ∧ (¬ (nI 16) ≤ (x2 + ((1 : Int32))) → (∃ f19 : Option Nat, gfm w x0 [0] 8 = some (va_rf f19) ∧ (∃ f21 : Option Nat, gfm w x0 [0] 8 = some (va_rf f21) ∧ (∃ a23 : Nat, f21 = some a23 ∧ (∃ (n24 : Nat) (f25 : Nat → Option Nat), gaq w a23 6 = some (n24, f25) ∧ vp_in (x2 + ((1 : Int32))) n24 ∧ (∀ r28 : Option Nat, f25 (x2 + ((1 : Int32))).toNatClampNeg = r28 → (∃ a29 : Nat, f19 = some a29 ∧ (∃ (n30 : Nat) (f31 : Nat → Option Nat), w a29 = some (true, .inl (6, n30, .inr (.inr (.inr (.inr f31))))) ∧ vp_in x2 n30 ∧ ((r28 = none ∨ ∃ v9 c9, r28 = some v9 ∧ gmc w v9 = some c9 ∧ c9 ∈ ([3] : List Nat)) ∧ (∀ w35 : GW, w35 = gup w a29 (.inl (6, n30, .inr (.inr (.inr (.inr (va_up f31 (x2).toNatClampNeg r28)))))) → (KL18 ((x2 + 1), w35))))))))))))
def wX1_keeps_18 (c : Nat → Option Nat) (x0 : Nat) (x1 : Option Nat) (x2 : Int32) (w : GW) (bb : Nat × Nat) (K : GW → Prop) : Prop := lfp (σ := Int32 × GW) (fun KL s => wX1_keeps_18_b c x0 x1 s.1 s.2 bb KL K) (x2, w)
set_option maxRecDepth 100000 in
theorem bX1_keeps_18 {E : jE} (hE : jOk E cX1_keeps RX1) (hn : E.2.2.2.2 = 3) (hR : jRoom E 3 65) {c : Nat → Option Nat} (hc : E.2.2.1.2.2.2 = c) {K : GW → Prop} (hK : jRv E (K)) {x0 : Nat} {x1 : Option Nat} {x2 : Int32} {w : GW} {bb : Nat × Nat}  (hw : wX1_keeps_18 c x0 x1 x2 w bb K) : J E w bb [(0, .ref (x0)), (1, va_rf (x1)), (2, .int (x2))] 18 [] := by
  refine lfp_sound (σ := Int32 × GW) (F := fun KL s => wX1_keeps_18_b c x0 x1 s.1 s.2 bb KL K) (P := fun s => J E (s.2) bb [(0, .ref (x0)), (1, va_rf (x1)), (2, .int (s.1))] 18 []) ?_ hw
  clear hw
  rintro KL18 ⟨x2, w⟩ hw ih18
  have hw : wX1_keeps_18_b c x0 x1 x2 w bb KL18 K := hw
  unfold wX1_keeps_18_b at hw
  refine j_iload_n hE 2 dX1_keeps_18 rfl rfl ?_
  refine j_iconst hE dX1_keeps_19 kc_1 ?_
  refine j_iadd hE dX1_keeps_20 ?_
  refine j_bipush hE dX1_keeps_21 kb_16 ?_
  refine j_icmp_ge hE 46 dX1_keeps_23 (by decide) (fun c1 => ?_) (fun c1 => ?_)
  · replace hw := hw.1 c1
    refine j_aload_n hE 0 dX1_keeps_46 rfl rfl ?_
    obtain ⟨f2, h3, hw⟩ := hw
    refine j_getM hE gf_GlassStreet_undone q355 h3 dX1_keeps_47 ?_
    refine j_bipush hE dX1_keeps_50 kb_15 ?_
    refine j_aload_nq hE 1 dX1_keeps_52 rfl rfl ?_
    obtain ⟨a4, e9, hx⟩ := hw
    subst e9
    have hw := hx
    clear hx
    obtain ⟨n5, f6, h7, h8, hw⟩ := hw
    obtain ⟨h9, hw⟩ := hw
    refine j_astL (r := x1) hE elemc_6 (t := 6) ⟨by decide, by decide⟩ h7 h8 h9 dX1_keeps_53 ?_
    refine j_nw (fun w10 e_w10 => ?_)
    replace hw := hw w10 e_w10
    refine j_aload_n hE 0 dX1_keeps_54 rfl rfl ?_
    refine j_dup hE dX1_keeps_55 rfl ?_
    obtain ⟨f11, h12, hw⟩ := hw
    refine j_getM hE gf_GlassStreet_undos q356 h12 dX1_keeps_56 ?_
    refine j_iconst hE dX1_keeps_59 kc_1 ?_
    refine j_isub hE dX1_keeps_60 ?_
    obtain ⟨n13, fs14, h15, h16, h17, hw⟩ := hw
    refine j_putX hE h16 gw_GlassStreet_undos_X1 q356 h15 rfl rfl h17 dX1_keeps_61 ?_
    refine j_nw (fun w18 e_w18 => ?_)
    replace hw := hw w18 e_w18
    refine j_sub [(0, .ref (x0))] [0] rfl ?_
    have hz := bX1_keeps_64 hE hn hR hc hK  hw
    exact hz
  · replace hw := hw.2 c1
    refine j_aload_n hE 0 dX1_keeps_26 rfl rfl ?_
    obtain ⟨f19, h20, hw⟩ := hw
    refine j_getM hE gf_GlassStreet_undone q355 h20 dX1_keeps_27 ?_
    refine j_iload_n hE 2 dX1_keeps_30 rfl rfl ?_
    refine j_aload_n hE 0 dX1_keeps_31 rfl rfl ?_
    obtain ⟨f21, h22, hw⟩ := hw
    refine j_getM hE gf_GlassStreet_undone q355 h22 dX1_keeps_32 ?_
    refine j_iload_n hE 2 dX1_keeps_35 rfl rfl ?_
    refine j_iconst hE dX1_keeps_36 kc_1 ?_
    refine j_iadd hE dX1_keeps_37 ?_
    obtain ⟨a23, e9, hx⟩ := hw
    subst e9
    have hw := hx
    clear hx
    obtain ⟨n24, f25, h26, h27, hw⟩ := hw
    obtain ⟨r28, e_r28⟩ : ∃ r9, f25 (x2 + ((1 : Int32))).toNatClampNeg = r9 := ⟨_, rfl⟩
    replace hw := hw r28 e_r28
    refine j_aldQ hE (t := 6) ⟨by decide, by decide⟩ h26 h27 e_r28 dX1_keeps_38 ?_
    obtain ⟨a29, e9, hx⟩ := hw
    subst e9
    have hw := hx
    clear hx
    obtain ⟨n30, f31, h32, h33, hw⟩ := hw
    obtain ⟨h34, hw⟩ := hw
    refine j_astL (r := r28) hE elemc_6 (t := 6) ⟨by decide, by decide⟩ h32 h33 h34 dX1_keeps_39 ?_
    refine j_nw (fun w35 e_w35 => ?_)
    replace hw := hw w35 e_w35
    refine j_iinc (L' := [(2, .int (x2 + 1)), (0, .ref (x0)), (1, va_rf (x1))]) hE hn 2 dX1_keeps_40 rfl (congrArg (x2 + ·) kc_1) (Nat.le_of_ble_eq_true rfl) (by cases x1 <;> rfl) ?_
    refine j_goto hE 18 dX1_keeps_43 (by decide) ?_
    refine j_sub [(0, .ref (x0)), (1, va_rf (x1)), (2, .int (x2 + 1))] [1, 2, 0] rfl ?_
    have hz := ih18 ((x2 + 1), w35) hw
    exact hz
def wX1_keeps_0 (c : Nat → Option Nat) (x0 : Nat) (w : GW) (bb : Nat × Nat) (K : GW → Prop) : Prop :=
  ∃ f1 : Int32, gfm w x0 [0] 9 = some (.int f1) ∧ ((¬ f1 = (nI 16) → (wX1_keeps_64 c x0 w bb K)) ∧ (f1 = (nI 16) → (∃ f4 : Option Nat, gfm w x0 [0] 8 = some (va_rf f4) ∧ (∃ a6 : Nat, f4 = some a6 ∧ (∃ (n7 : Nat) (f8 : Nat → Option Nat), gaq w a6 6 = some (n7, f8) ∧ vp_in ((0 : Int32)) n7 ∧ (∀ r11 : Option Nat, f8 ((0 : Int32)).toNatClampNeg = r11 → (wX1_keeps_18 c x0 r11 ((0 : Int32)) w bb K)))))))
set_option maxRecDepth 100000 in
theorem bX1_keeps_0 {E : jE} (hE : jOk E cX1_keeps RX1) (hn : E.2.2.2.2 = 3) (hR : jRoom E 3 65) {c : Nat → Option Nat} (hc : E.2.2.1.2.2.2 = c) {K : GW → Prop} (hK : jRv E (K)) {x0 : Nat} {w : GW} {bb : Nat × Nat}  (hw : wX1_keeps_0 c x0 w bb K) : J E w bb [(0, .ref (x0))] 0 [] := by
  unfold wX1_keeps_0 at hw
  refine j_aload_n hE 0 dX1_keeps_0 rfl rfl ?_
  obtain ⟨f1, h2, hw⟩ := hw
  refine j_getM hE gf_GlassStreet_undos q356 h2 dX1_keeps_1 ?_
  refine j_bipush hE dX1_keeps_4 kb_16 ?_
  refine j_icmp_ne hE 64 dX1_keeps_6 (by decide) (fun c3 => ?_) (fun c3 => ?_)
  · replace hw := hw.1 c3
    have hz := bX1_keeps_64 hE hn hR hc hK  hw
    exact hz
  · replace hw := hw.2 c3
    refine j_aload_n hE 0 dX1_keeps_9 rfl rfl ?_
    obtain ⟨f4, h5, hw⟩ := hw
    refine j_getM hE gf_GlassStreet_undone q355 h5 dX1_keeps_10 ?_
    refine j_iconst hE dX1_keeps_13 kc_0 ?_
    obtain ⟨a6, e9, hx⟩ := hw
    subst e9
    have hw := hx
    clear hx
    obtain ⟨n7, f8, h9, h10, hw⟩ := hw
    obtain ⟨r11, e_r11⟩ : ∃ r9, f8 ((0 : Int32)).toNatClampNeg = r9 := ⟨_, rfl⟩
    replace hw := hw r11 e_r11
    refine j_aldQ hE (t := 6) ⟨by decide, by decide⟩ h9 h10 e_r11 dX1_keeps_14 ?_
    refine j_astore_nq (L' := [(1, va_rf (r11)), (0, .ref (x0))]) hE hn dX1_keeps_15 rfl (Nat.le_of_ble_eq_true rfl) rfl ?_
    refine j_iconst hE dX1_keeps_16 kc_0 ?_
    refine j_istore_n (L' := [(2, .int ((0 : Int32))), (1, va_rf (r11)), (0, .ref (x0))]) hE hn dX1_keeps_17 rfl (Nat.le_of_ble_eq_true rfl) (by cases r11 <;> rfl) ?_
    refine j_sub [(0, .ref (x0)), (1, va_rf (r11)), (2, .int ((0 : Int32)))] [2, 1, 0] rfl ?_
    have hz := bX1_keeps_18 hE hn hR hc hK  hw
    exact hz
theorem jdX1_keeps : jD yX1_keeps 0 := by decide +kernel
abbrev wX1_keeps := wX1_keeps_0
theorem ctX1_keeps (l : Launch) (G : gG) {c : Nat → Option Nat} (hc : G.2.2.2 = c) (x0 : Nat) (w : GW) (bb : Nat × Nat) (K : GW → Prop) (hw : wX1_keeps_0 c x0 w bb K) {F2 L2 : Nat} (h2 : 3 ≤ F2 ∧ 65 ≤ L2 := by exact ⟨Nat.le_refl _, Nat.le_refl _⟩) : CtV l yX1_keeps cX1_keeps 3 ({ frames := F2, cells := bb.1, slots := bb.2, locals := L2 }) G [.ref (x0)] w (K) :=
  CtV.of RX1 plainc_X1 rfl (Nat.le_of_ble_eq_true rfl) (fun E hE hl hG hn hR hK => bX1_keeps_0 hE hn (hR.le h2.1 h2.2) (by rw [hG]; exact hc) hK hw)
def wX1_walk_0 (c : Nat → Option Nat) (x0 : Nat) (x1 : Int32) (x2 : Int32) (w : GW) (bb : Nat × Nat) (K : Int32 → GW → Prop) : Prop :=
  gmc w x0 = some 0 ∧ (wX1_isPerson c x0 x1 w (fun r1 => (r1 = 0 → (K ((0 : Int32)) w)) ∧ (¬ r1 = 0 → (wX1_in c x2 ((0 : Int32)) (nI 9) w (fun r4 => (r4 = 0 → (K ((0 : Int32)) w)) ∧ (¬ r4 = 0 → (∃ f6 : Option Nat, gfm w x0 [0] 4 = some (va_rf f6) ∧ (∃ a8 : Nat, f6 = some a8 ∧ (∃ f9 : Option Nat, gfm w a8 [3] 0 = some (va_rf f9) ∧ (∃ a11 : Nat, f9 = some a11 ∧ (∃ (n12 : Nat) (f13 : Nat → Int32), gai w a11 0 = some (n12, f13) ∧ vp_in x1 n12 ∧ ((((if 0 ≤ ((rd f13 x1) - x2) then ((rd f13 x1) - x2) else 0 - ((rd f13 x1) - x2))) = ((1 : Int32)) → (gmc w x0 = some 0 ∧ (∃ cb18 : Nat × Nat, (cb18.1 ≤ bb.1 ∧ cb18.2 ≤ bb.2) ∧ (wX1_keeps c x0 w cb18 (fun w20 => ∀ b21 : Nat × Nat, b21 = (bb.1 - cb18.1, bb.2 - cb18.2) → (∃ f22 : Option Nat, gfm w20 x0 [0] 4 = some (va_rf f22) ∧ (∃ a24 : Nat, f22 = some a24 ∧ (∃ f25 : Option Nat, gfm w20 a24 [3] 0 = some (va_rf f25) ∧ (∃ a27 : Nat, f25 = some a27 ∧ (∃ (n28 : Nat) (f29 : Nat → Int32), w20 a27 = some (true, .inl (0, n28, .inl f29)) ∧ vp_in x1 n28 ∧ (∀ w32 : GW, w32 = gup w20 a27 (.inl (0, n28, .inl (upd f29 (x1).toNatClampNeg x2))) → (K ((1 : Int32)) w32)))))))))))) ∧ (¬ ((if 0 ≤ ((rd f13 x1) - x2) then ((rd f13 x1) - x2) else 0 - ((rd f13 x1) - x2))) = ((1 : Int32)) → (K ((0 : Int32)) w))))))))))))))
set_option maxRecDepth 100000 in
theorem bX1_walk_0 {E : jE} (hE : jOk E cX1_walk RX1) (hn : E.2.2.2.2 = 3) (hR : jRoom E 4 87) {c : Nat → Option Nat} (hc : E.2.2.1.2.2.2 = c) {K : Int32 → GW → Prop} (hK : jRi E .boolean (K)) {x0 : Nat} {x1 : Int32} {x2 : Int32} {w : GW} {bb : Nat × Nat}  (hw : wX1_walk_0 c x0 x1 x2 w bb K) : J E w bb [(0, .ref (x0)), (1, .int (x1)), (2, .int (x2))] 0 [] := by
  unfold wX1_walk_0 at hw
  refine j_aload_n hE 0 dX1_walk_0 rfl rfl ?_
  refine j_iload_n hE 1 dX1_walk_1 rfl rfl ?_
  obtain ⟨h2, hw⟩ := hw
  refine jc_ip (jr_V hE hR (As := [.int (x1)]) (rest := []) ((ctX1_isPerson E.1.2.1 E.2.2.1 hc _ _ _ _ hw) E.2.2.2.1) (lw_V q1238 q1240 qs35 q121 q1241) jdX1_isPerson ⟨Nat.le_of_ble_eq_true rfl, Nat.le_of_ble_eq_true rfl⟩ ⟨Nat.zero_le _, Nat.zero_le _⟩ (gmc_gIs h2 (r := (RX1, TX1, 15)) rfl) rfl (Nat.le_of_ble_eq_true rfl) dX1_walk_2) (fun r1 hw => ?_)
  refine j_b0 ?_
  refine j_if_eq hE 36 dX1_walk_5 (by decide) (fun c3 => ?_) (fun c3 => ?_)
  · replace hw := hw.1 c3
    refine j_iconst hE dX1_walk_36 kc_0 ?_
    exact j_iret hE hK dX1_walk_37 rfl hw
  · replace hw := hw.2 c3
    refine j_iload_n hE 2 dX1_walk_8 rfl rfl ?_
    refine j_iconst hE dX1_walk_9 kc_0 ?_
    refine j_bipush hE dX1_walk_10 kb_9 ?_
    refine jc_ip (jr_S hE hR (As := [.int (x2), .int ((0 : Int32)), .int (nI 9)]) (rest := []) ((ctX1_in E.1.2.1 E.2.2.1 hc _ _ _ _ _ hw) E.2.2.2.1) (lw_S q1162 q919 q121 q920) jdX1_in ⟨Nat.le_of_ble_eq_true rfl, Nat.le_of_ble_eq_true rfl⟩ ⟨Nat.zero_le _, Nat.zero_le _⟩  rfl (Nat.le_of_ble_eq_true rfl) dX1_walk_12) (fun r4 hw => ?_)
    refine j_b0 ?_
    refine j_if_eq hE 36 dX1_walk_15 (by decide) (fun c5 => ?_) (fun c5 => ?_)
    · replace hw := hw.1 c5
      refine j_iconst hE dX1_walk_36 kc_0 ?_
      exact j_iret hE hK dX1_walk_37 rfl hw
    · replace hw := hw.2 c5
      refine j_aload_n hE 0 dX1_walk_18 rfl rfl ?_
      obtain ⟨f6, h7, hw⟩ := hw
      refine j_getM hE gf_GlassStreet_state q351 h7 dX1_walk_19 ?_
      obtain ⟨a8, e9, hx⟩ := hw
      subst e9
      have hw := hx
      clear hx
      obtain ⟨f9, h10, hw⟩ := hw
      refine j_getMN hE gf_GlassStreet_State_at q317 h10 dX1_walk_22 ?_
      refine j_iload_n hE 1 dX1_walk_25 rfl rfl ?_
      obtain ⟨a11, e9, hx⟩ := hw
      subst e9
      have hw := hx
      clear hx
      obtain ⟨n12, f13, h14, h15, hw⟩ := hw
      refine j_aldI hE h14 h15 dX1_walk_26 ?_
      refine j_iload_n hE 2 dX1_walk_27 rfl rfl ?_
      refine j_isub hE dX1_walk_28 ?_
      refine j_mabs hE hR q1250 (Nat.le_of_ble_eq_true rfl) (Nat.le_of_ble_eq_true rfl) dX1_walk_29 ?_
      refine j_iconst hE dX1_walk_32 kc_1 ?_
      refine j_icmp_eq hE 38 dX1_walk_33 (by decide) (fun c16 => ?_) (fun c16 => ?_)
      · replace hw := hw.1 c16
        refine j_aload_n hE 0 dX1_walk_38 rfl rfl ?_
        obtain ⟨h17, hw⟩ := hw
        obtain ⟨cb18, h19, hw⟩ := hw
        refine jc_v (jr_V hE hR (As := []) (rest := []) ((ctX1_keeps E.1.2.1 E.2.2.1 hc _ _ _ _ hw) E.2.2.2.1) (lw_V q1253 q1255 qs37 q121 q1256) jdX1_keeps ⟨Nat.le_of_ble_eq_true rfl, Nat.le_of_ble_eq_true rfl⟩ h19 (gmc_gIs h17 (r := (RX1, TX1, 15)) rfl) rfl (Nat.le_of_ble_eq_true rfl) dX1_walk_39) (fun w20 hw => ?_)
        refine j_nb (fun b21 e_b21 => ?_)
        replace hw := hw b21 e_b21
        refine j_aload_n hE 0 dX1_walk_42 rfl rfl ?_
        obtain ⟨f22, h23, hw⟩ := hw
        refine j_getM hE gf_GlassStreet_state q351 h23 dX1_walk_43 ?_
        obtain ⟨a24, e9, hx⟩ := hw
        subst e9
        have hw := hx
        clear hx
        obtain ⟨f25, h26, hw⟩ := hw
        refine j_getMN hE gf_GlassStreet_State_at q317 h26 dX1_walk_46 ?_
        refine j_iload_n hE 1 dX1_walk_49 rfl rfl ?_
        refine j_iload_n hE 2 dX1_walk_50 rfl rfl ?_
        obtain ⟨a27, e9, hx⟩ := hw
        subst e9
        have hw := hx
        clear hx
        obtain ⟨n28, f29, h30, h31, hw⟩ := hw
        refine j_iast hE h30 h31 dX1_walk_51 ?_
        refine j_nw (fun w32 e_w32 => ?_)
        replace hw := hw w32 e_w32
        refine j_iconst hE dX1_walk_52 kc_1 ?_
        exact j_iret hE hK dX1_walk_53 rfl hw
      · replace hw := hw.2 c16
        refine j_iconst hE dX1_walk_36 kc_0 ?_
        exact j_iret hE hK dX1_walk_37 rfl hw
theorem jdX1_walk : jD yX1_walk 2 := by decide +kernel
abbrev wX1_walk := wX1_walk_0
theorem ctX1_walk (l : Launch) (G : gG) {c : Nat → Option Nat} (hc : G.2.2.2 = c) (x0 : Nat) (x1 : Int32) (x2 : Int32) (w : GW) (bb : Nat × Nat) (K : Int32 → GW → Prop) (hw : wX1_walk_0 c x0 x1 x2 w bb K) {F2 L2 : Nat} (h2 : 4 ≤ F2 ∧ 87 ≤ L2 := by exact ⟨Nat.le_refl _, Nat.le_refl _⟩) : CtI l yX1_walk cX1_walk 3 .boolean ({ frames := F2, cells := bb.1, slots := bb.2, locals := L2 }) G [.ref (x0), .int (x1), .int (x2)] w (K) :=
  CtI.of RX1 plainc_X1 rfl (Nat.le_of_ble_eq_true rfl) (fun E hE hl hG hn hR hK => bX1_walk_0 hE hn (hR.le h2.1 h2.2) (by rw [hG]; exact hc) hK hw)
def wX1_deeds_0 (c : Nat → Option Nat) (x0 : Nat) (w0 : GW) (K : Int32 → Prop) : Prop :=
  ∃ f1 : Option Nat, gfm w0 x0 [0] 2 = some (va_rf f1) ∧ (∃ a3 : Nat, f1 = some a3 ∧ (∃ f4 : Option Nat, gfm w0 a3 [2] 2 = some (va_rf f4) ∧ (∃ a6 : Nat, f4 = some a6 ∧ (gmc w0 a6 = some 20 ∧ (wJ2_size c a6 w0 (fun r7 => K r7))))))
set_option maxRecDepth 100000 in
theorem bX1_deeds_0 {E : jE} (hE : jOk E cX1_deeds RX1) (hn : E.2.2.2.2 = 1) (hR : jRoom E 1 20) {c : Nat → Option Nat} (hc : E.2.2.1.2.2.2 = c) {b : Nat × Nat} {w0 : GW} {K : Int32 → Prop} (hK : jRi E .int (KPI w0 K)) {x0 : Nat}  (hw : wX1_deeds_0 c x0 w0 K) : J E w0 b [(0, .ref (x0))] 0 [] := by
  unfold wX1_deeds_0 at hw
  refine j_aload_n hE 0 dX1_deeds_0 rfl rfl ?_
  obtain ⟨f1, h2, hw⟩ := hw
  refine j_getM hE gf_GlassStreet_houses q349 h2 dX1_deeds_1 ?_
  obtain ⟨a3, e9, hx⟩ := hw
  subst e9
  have hw := hx
  clear hx
  obtain ⟨f4, h5, hw⟩ := hw
  refine j_getMN hE gf_GlassStreet_Houses_deeds q245 h5 dX1_deeds_4 ?_
  obtain ⟨a6, e9, hx⟩ := hw
  subst e9
  have hw := hx
  clear hx
  obtain ⟨h8, hw⟩ := hw
  refine jc_ip (jr_V hE hR (As := []) (rest := []) ((ctJ2_size E.1.2.1 E.2.2.1 hc _ _ _ hw) E.2.2.2.1) (lw_V q1161 q626 q627 q126 q628) jdJ2_size ⟨Nat.le_of_ble_eq_true rfl, Nat.le_of_ble_eq_true rfl⟩ ⟨Nat.zero_le _, Nat.zero_le _⟩ (gmc_gIs h8 (r := (RJ2, TJ2, 3)) rfl) rfl (Nat.le_of_ble_eq_true rfl) dX1_deeds_7) (fun r7 hw => ?_)
  refine j_b0 ?_
  exact j_iret hE hK dX1_deeds_10 rfl ⟨rfl, hw⟩
theorem jdX1_deeds : jD yX1_deeds 0 := by decide +kernel
abbrev wX1_deeds := wX1_deeds_0
theorem ctX1_deeds (l : Launch) (G : gG) {c : Nat → Option Nat} (hc : G.2.2.2 = c) (x0 : Nat) (w0 : GW) (K : Int32 → Prop) (hw : wX1_deeds_0 c x0 w0 K) {F2 L2 : Nat} (h2 : 1 ≤ F2 ∧ 20 ≤ L2 := by exact ⟨Nat.le_refl _, Nat.le_refl _⟩) : CtI l yX1_deeds cX1_deeds 1 .int ({ frames := F2, cells := 0, slots := 0, locals := L2 }) G [.ref (x0)] w0 (KPI w0 K) :=
  CtI.of RX1 plainc_X1 rfl (Nat.le_of_ble_eq_true rfl) (fun E hE hl hG hn hR hK => bX1_deeds_0 hE hn (hR.le h2.1 h2.2) (by rw [hG]; exact hc) hK hw)
def wX1_isDeed_0 (c : Nat → Option Nat) (x0 : Nat) (x1 : Int32) (w0 : GW) (K : Int32 → Prop) : Prop :=
  gmc w0 x0 = some 0 ∧ (wX1_deeds c x0 w0 (fun r1 => wX1_in c x1 ((0 : Int32)) (r1 - ((1 : Int32))) w0 (fun r3 => narrow .boolean (.int r3) = .int r3 ∧ K r3)))
set_option maxRecDepth 100000 in
theorem bX1_isDeed_0 {E : jE} (hE : jOk E cX1_isDeed RX1) (hn : E.2.2.2.2 = 2) (hR : jRoom E 2 40) {c : Nat → Option Nat} (hc : E.2.2.1.2.2.2 = c) {b : Nat × Nat} {w0 : GW} {K : Int32 → Prop} (hK : jRi E .boolean (KPI w0 K)) {x0 : Nat} {x1 : Int32}  (hw : wX1_isDeed_0 c x0 x1 w0 K) : J E w0 b [(0, .ref (x0)), (1, .int (x1))] 0 [] := by
  unfold wX1_isDeed_0 at hw
  refine j_iload_n hE 1 dX1_isDeed_0 rfl rfl ?_
  refine j_iconst hE dX1_isDeed_1 kc_0 ?_
  refine j_aload_n hE 0 dX1_isDeed_2 rfl rfl ?_
  obtain ⟨h2, hw⟩ := hw
  refine jc_ip (jr_V hE hR (As := []) (rest := [.int ((0 : Int32)), .int (x1)]) ((ctX1_deeds E.1.2.1 E.2.2.1 hc _ _ _ hw) E.2.2.2.1) (lw_V q1274 q1276 qs39 q121 q1277) jdX1_deeds ⟨Nat.le_of_ble_eq_true rfl, Nat.le_of_ble_eq_true rfl⟩ ⟨Nat.zero_le _, Nat.zero_le _⟩ (gmc_gIs h2 (r := (RX1, TX1, 15)) rfl) rfl (Nat.le_of_ble_eq_true rfl) dX1_isDeed_3) (fun r1 hw => ?_)
  refine j_b0 ?_
  refine j_iconst hE dX1_isDeed_6 kc_1 ?_
  refine j_isub hE dX1_isDeed_7 ?_
  refine jc_ip (jr_S hE hR (As := [.int (x1), .int ((0 : Int32)), .int (r1 - ((1 : Int32)))]) (rest := []) ((ctX1_in E.1.2.1 E.2.2.1 hc _ _ _ _ _ hw) E.2.2.2.1) (lw_S q1162 q919 q121 q920) jdX1_in ⟨Nat.le_of_ble_eq_true rfl, Nat.le_of_ble_eq_true rfl⟩ ⟨Nat.zero_le _, Nat.zero_le _⟩  rfl (Nat.le_of_ble_eq_true rfl) dX1_isDeed_8) (fun r3 hw => ?_)
  refine j_b0 ?_
  obtain ⟨hz, hw⟩ := hw
  exact j_iret hE hK dX1_isDeed_11 hz ⟨rfl, hw⟩
theorem jdX1_isDeed : jD yX1_isDeed 1 := by decide +kernel
abbrev wX1_isDeed := wX1_isDeed_0
theorem ctX1_isDeed (l : Launch) (G : gG) {c : Nat → Option Nat} (hc : G.2.2.2 = c) (x0 : Nat) (x1 : Int32) (w0 : GW) (K : Int32 → Prop) (hw : wX1_isDeed_0 c x0 x1 w0 K) {F2 L2 : Nat} (h2 : 2 ≤ F2 ∧ 40 ≤ L2 := by exact ⟨Nat.le_refl _, Nat.le_refl _⟩) : CtI l yX1_isDeed cX1_isDeed 2 .boolean ({ frames := F2, cells := 0, slots := 0, locals := L2 }) G [.ref (x0), .int (x1)] w0 (KPI w0 K) :=
  CtI.of RX1 plainc_X1 rfl (Nat.le_of_ble_eq_true rfl) (fun E hE hl hG hn hR hK => bX1_isDeed_0 hE hn (hR.le h2.1 h2.2) (by rw [hG]; exact hc) hK hw)
def wX1_seeing_5_b (c : Nat → Option Nat) (x0 : Nat) (x1 : Nat) (x2 : Int32) (x3 : Int32) (x4 : Int32) (w0 : GW) (KL5 : Int32 × Int32 → Prop) (K : Int32 → Prop) : Prop :=
  gmc w0 x0 = some 0 ∧ (wX1_panes c x0 w0 (fun r1 => (r1 ≤ x4 → (K x3)) ∧ (¬ r1 ≤ x4 → (gmc w0 x0 = some 0 ∧ (wX1_sees c x0 x1 x4 w0 (fun r4 => wX1_isIn c r4 x2 w0 (fun r6 => (r6 = 0 → (KL5 (x3, (x4 + 1)))) ∧ (¬ r6 = 0 → (∀ v8 : Int32, v8 = x3 ||| (ishl ((1 : Int32)) x4) → (KL5 (v8, (x4 + 1))))))))))))
def wX1_seeing_5 (c : Nat → Option Nat) (x0 : Nat) (x1 : Nat) (x2 : Int32) (x3 : Int32) (x4 : Int32) (w0 : GW) (K : Int32 → Prop) : Prop := lfp (σ := Int32 × Int32) (fun KL s => wX1_seeing_5_b c x0 x1 x2 s.1 s.2 w0 KL K) (x3, x4)
set_option maxRecDepth 100000 in
theorem bX1_seeing_5 {E : jE} (hE : jOk E cX1_seeing RX1) (hn : E.2.2.2.2 = 5) (hR : jRoom E 5 107) {c : Nat → Option Nat} (hc : E.2.2.1.2.2.2 = c) {b : Nat × Nat} {w0 : GW} {K : Int32 → Prop} (hK : jRi E .int (KPI w0 K)) {x0 : Nat} {x1 : Nat} {x2 : Int32} {x3 : Int32} {x4 : Int32}  (hw : wX1_seeing_5 c x0 x1 x2 x3 x4 w0 K) : J E w0 b [(0, .ref (x0)), (1, .ref (x1)), (2, .int (x2)), (3, .int (x3)), (4, .int (x4))] 5 [] := by
  refine lfp_sound (σ := Int32 × Int32) (F := fun KL s => wX1_seeing_5_b c x0 x1 x2 s.1 s.2 w0 KL K) (P := fun s => J E w0 b [(0, .ref (x0)), (1, .ref (x1)), (2, .int (x2)), (3, .int (s.1)), (4, .int (s.2))] 5 []) ?_ hw
  clear hw
  rintro KL5 ⟨x3, x4⟩ hw ih5
  have hw : wX1_seeing_5_b c x0 x1 x2 x3 x4 w0 KL5 K := hw
  unfold wX1_seeing_5_b at hw
  refine j_iload hE 4 dX1_seeing_5 rfl ?_
  refine j_aload_n hE 0 dX1_seeing_7 rfl rfl ?_
  obtain ⟨h2, hw⟩ := hw
  refine jc_ip (jr_V hE hR (As := []) (rest := [.int (x4)]) ((ctX1_panes E.1.2.1 E.2.2.1 hc _ _ _ hw) E.2.2.2.1) (lw_V q1157 q1159 qs31 q121 q1160) jdX1_panes ⟨Nat.le_of_ble_eq_true rfl, Nat.le_of_ble_eq_true rfl⟩ ⟨Nat.zero_le _, Nat.zero_le _⟩ (gmc_gIs h2 (r := (RX1, TX1, 15)) rfl) rfl (Nat.le_of_ble_eq_true rfl) dX1_seeing_8) (fun r1 hw => ?_)
  refine j_b0 ?_
  refine j_icmp_ge hE 41 dX1_seeing_11 (by decide) (fun c3 => ?_) (fun c3 => ?_)
  · replace hw := hw.1 c3
    refine j_iload_n hE 3 dX1_seeing_41 rfl rfl ?_
    exact j_iret hE hK dX1_seeing_42 rfl ⟨rfl, hw⟩
  · replace hw := hw.2 c3
    refine j_aload_n hE 0 dX1_seeing_14 rfl rfl ?_
    refine j_aload_n hE 1 dX1_seeing_15 rfl rfl ?_
    refine j_iload hE 4 dX1_seeing_16 rfl ?_
    obtain ⟨h5, hw⟩ := hw
    refine jc_ip (jr_V hE hR (As := [.ref (x1), .int (x4)]) (rest := []) ((ctX1_sees E.1.2.1 E.2.2.1 hc _ _ _ _ _ hw) E.2.2.2.1) (lw_V q1184 q1186 qs33 q121 q1187) jdX1_sees ⟨Nat.le_of_ble_eq_true rfl, Nat.le_of_ble_eq_true rfl⟩ ⟨Nat.zero_le _, Nat.zero_le _⟩ (gmc_gIs h5 (r := (RX1, TX1, 15)) rfl) rfl (Nat.le_of_ble_eq_true rfl) dX1_seeing_18) (fun r4 hw => ?_)
    refine j_b0 ?_
    refine j_iload_n hE 2 dX1_seeing_21 rfl rfl ?_
    refine jc_ip (jr_S hE hR (As := [.int (r4), .int (x2)]) (rest := []) ((ctX1_isIn E.1.2.1 E.2.2.1 hc _ _ _ _ hw) E.2.2.2.1) (lw_S q1183 q922 q121 q923) jdX1_isIn ⟨Nat.le_of_ble_eq_true rfl, Nat.le_of_ble_eq_true rfl⟩ ⟨Nat.zero_le _, Nat.zero_le _⟩  rfl (Nat.le_of_ble_eq_true rfl) dX1_seeing_22) (fun r6 hw => ?_)
    refine j_b0 ?_
    refine j_if_eq hE 35 dX1_seeing_25 (by decide) (fun c7 => ?_) (fun c7 => ?_)
    · replace hw := hw.1 c7
      refine j_iinc (L' := [(4, .int (x4 + 1)), (0, .ref (x0)), (1, .ref (x1)), (2, .int (x2)), (3, .int (x3))]) hE hn 4 dX1_seeing_35 rfl (congrArg (x4 + ·) kc_1) (Nat.le_of_ble_eq_true rfl) rfl ?_
      refine j_goto hE 5 dX1_seeing_38 (by decide) ?_
      refine j_sub [(0, .ref (x0)), (1, .ref (x1)), (2, .int (x2)), (3, .int (x3)), (4, .int (x4 + 1))] [1, 2, 3, 4, 0] rfl ?_
      have hz := ih5 (x3, (x4 + 1)) hw
      exact hz
    · replace hw := hw.2 c7
      refine j_iload_n hE 3 dX1_seeing_28 rfl rfl ?_
      refine j_iconst hE dX1_seeing_29 kc_1 ?_
      refine j_iload hE 4 dX1_seeing_30 rfl ?_
      refine j_ishl hE dX1_seeing_32 ?_
      refine j_ior hE dX1_seeing_33 ?_
      refine j_topi (fun v8 e_v8 => ?_)
      replace hw := hw v8 e_v8
      refine j_istore_n (L' := [(3, .int (v8)), (0, .ref (x0)), (1, .ref (x1)), (2, .int (x2)), (4, .int (x4))]) hE hn dX1_seeing_34 rfl (Nat.le_of_ble_eq_true rfl) rfl ?_
      refine j_iinc (L' := [(4, .int (x4 + 1)), (3, .int (v8)), (0, .ref (x0)), (1, .ref (x1)), (2, .int (x2))]) hE hn 4 dX1_seeing_35 rfl (congrArg (x4 + ·) kc_1) (Nat.le_of_ble_eq_true rfl) rfl ?_
      refine j_goto hE 5 dX1_seeing_38 (by decide) ?_
      refine j_sub [(0, .ref (x0)), (1, .ref (x1)), (2, .int (x2)), (3, .int (v8)), (4, .int (x4 + 1))] [2, 3, 4, 1, 0] rfl ?_
      have hz := ih5 (v8, (x4 + 1)) hw
      exact hz
def wX1_seeing_0 (c : Nat → Option Nat) (x0 : Nat) (x1 : Nat) (x2 : Int32) (w0 : GW) (K : Int32 → Prop) : Prop :=
  wX1_seeing_5 c x0 x1 x2 ((0 : Int32)) ((0 : Int32)) w0 K
set_option maxRecDepth 100000 in
theorem bX1_seeing_0 {E : jE} (hE : jOk E cX1_seeing RX1) (hn : E.2.2.2.2 = 5) (hR : jRoom E 5 107) {c : Nat → Option Nat} (hc : E.2.2.1.2.2.2 = c) {b : Nat × Nat} {w0 : GW} {K : Int32 → Prop} (hK : jRi E .int (KPI w0 K)) {x0 : Nat} {x1 : Nat} {x2 : Int32}  (hw : wX1_seeing_0 c x0 x1 x2 w0 K) : J E w0 b [(0, .ref (x0)), (1, .ref (x1)), (2, .int (x2))] 0 [] := by
  unfold wX1_seeing_0 at hw
  refine j_iconst hE dX1_seeing_0 kc_0 ?_
  refine j_istore_n (L' := [(3, .int ((0 : Int32))), (0, .ref (x0)), (1, .ref (x1)), (2, .int (x2))]) hE hn dX1_seeing_1 rfl (Nat.le_of_ble_eq_true rfl) rfl ?_
  refine j_iconst hE dX1_seeing_2 kc_0 ?_
  refine j_istore (L' := [(4, .int ((0 : Int32))), (3, .int ((0 : Int32))), (0, .ref (x0)), (1, .ref (x1)), (2, .int (x2))]) hE hn dX1_seeing_3 (Nat.le_of_ble_eq_true rfl) rfl ?_
  refine j_sub [(0, .ref (x0)), (1, .ref (x1)), (2, .int (x2)), (3, .int ((0 : Int32))), (4, .int ((0 : Int32)))] [2, 3, 4, 1, 0] rfl ?_
  have hz := bX1_seeing_5 (b := b) hE hn hR hc hK  hw
  exact hz
theorem jdX1_seeing : jD yX1_seeing 2 := by decide +kernel
abbrev wX1_seeing := wX1_seeing_0
theorem ctX1_seeing (l : Launch) (G : gG) {c : Nat → Option Nat} (hc : G.2.2.2 = c) (x0 : Nat) (x1 : Nat) (x2 : Int32) (w0 : GW) (K : Int32 → Prop) (hw : wX1_seeing_0 c x0 x1 x2 w0 K) {F2 L2 : Nat} (h2 : 5 ≤ F2 ∧ 107 ≤ L2 := by exact ⟨Nat.le_refl _, Nat.le_refl _⟩) : CtI l yX1_seeing cX1_seeing 5 .int ({ frames := F2, cells := 0, slots := 0, locals := L2 }) G [.ref (x0), .ref (x1), .int (x2)] w0 (KPI w0 K) :=
  CtI.of RX1 plainc_X1 rfl (Nat.le_of_ble_eq_true rfl) (fun E hE hl hG hn hR hK => bX1_seeing_0 hE hn (hR.le h2.1 h2.2) (by rw [hG]; exact hc) hK hw)
