def wX1_worst_6_b (c : Nat → Option Nat) (x0 : Nat) (x1 : Int32) (x2 : Int32) (x3 : Int32) (w0 : GW) (KL6 : Int32 × Int32 × Int32 → Prop) (K : Int32 → Prop) : Prop :=
  gmc w0 x0 = some 0 ∧ (wX1_people c x0 w0 (fun r1 => (r1 ≤ x3 → (K x1)) ∧ (¬ r1 ≤ x3 → (∃ f4 : Option Nat, gfm w0 x0 [0] 4 = some (va_rf f4) ∧ (∃ a6 : Nat, f4 = some a6 ∧ (gmc w0 x0 = some 0 ∧ (wX1_shameOf c x0 a6 x3 w0 (fun r7 => (x2 < r7 → (KL6 (x3, r7, (x3 + 1)))) ∧ (¬ x2 < r7 → (KL6 (x1, x2, (x3 + 1))))))))))))
def wX1_worst_6 (c : Nat → Option Nat) (x0 : Nat) (x1 : Int32) (x2 : Int32) (x3 : Int32) (w0 : GW) (K : Int32 → Prop) : Prop := lfp (σ := Int32 × Int32 × Int32) (fun KL s => wX1_worst_6_b c x0 s.1 s.2.1 s.2.2 w0 KL K) (x1, x2, x3)
set_option maxRecDepth 100000 in
theorem bX1_worst_6 {E : jE} (hE : jOk E cX1_worst RX1) (hn : E.2.2.2.2 = 5) (hR : jRoom E 7 158) {c : Nat → Option Nat} (hc : E.2.2.1.2.2.2 = c) {b : Nat × Nat} {w0 : GW} {K : Int32 → Prop} (hK : jRi E .int (KPI w0 K)) {x0 : Nat} {x1 : Int32} {x2 : Int32} {x3 : Int32}  (hw : wX1_worst_6 c x0 x1 x2 x3 w0 K) : J E w0 b [(0, .ref (x0)), (1, .int (x1)), (2, .int (x2)), (3, .int (x3))] 6 [] := by
  refine lfp_sound (σ := Int32 × Int32 × Int32) (F := fun KL s => wX1_worst_6_b c x0 s.1 s.2.1 s.2.2 w0 KL K) (P := fun s => J E w0 b [(0, .ref (x0)), (1, .int (s.1)), (2, .int (s.2.1)), (3, .int (s.2.2))] 6 []) ?_ hw
  clear hw
  rintro KL6 ⟨x1, x2, x3⟩ hw ih6
  have hw : wX1_worst_6_b c x0 x1 x2 x3 w0 KL6 K := hw
  unfold wX1_worst_6_b at hw
  refine j_iload_n hE 3 dX1_worst_6 rfl rfl ?_
  refine j_aload_n hE 0 dX1_worst_7 rfl rfl ?_
  obtain ⟨h2, hw⟩ := hw
  refine jc_ip (jr_V hE hR (As := []) (rest := [.int (x3)]) ((ctX1_people E.1.2.1 E.2.2.1 hc _ _ _ hw) E.2.2.2.1) (lw_V q1242 q1244 qs36 q121 q1245) jdX1_people ⟨Nat.le_of_ble_eq_true rfl, Nat.le_of_ble_eq_true rfl⟩ ⟨Nat.zero_le _, Nat.zero_le _⟩ (gmc_gIs h2 (r := (RX1, TX1, 15)) rfl) rfl (Nat.le_of_ble_eq_true rfl) dX1_worst_8) (fun r1 hw => ?_)
  refine j_b0 ?_
  refine j_icmp_ge hE 45 dX1_worst_11 (by decide) (fun c3 => ?_) (fun c3 => ?_)
  · replace hw := hw.1 c3
    refine j_iload_n hE 1 dX1_worst_45 rfl rfl ?_
    exact j_iret hE hK dX1_worst_46 rfl ⟨rfl, hw⟩
  · replace hw := hw.2 c3
    refine j_aload_n hE 0 dX1_worst_14 rfl rfl ?_
    refine j_aload_n hE 0 dX1_worst_15 rfl rfl ?_
    obtain ⟨f4, h5, hw⟩ := hw
    refine j_getM hE gf_GlassStreet_state q351 h5 dX1_worst_16 ?_
    refine j_iload_n hE 3 dX1_worst_19 rfl rfl ?_
    obtain ⟨a6, e9, hx⟩ := hw
    subst e9
    have hw := hx
    clear hx
    obtain ⟨h8, hw⟩ := hw
    refine jc_ip (jr_V hE hR (As := [.ref (a6), .int (x3)]) (rest := []) ((ctX1_shameOf E.1.2.1 E.2.2.1 hc _ _ _ _ _ hw) E.2.2.2.1) (lw_V q1394 q1396 qs49 q121 q1397) jdX1_shameOf ⟨Nat.le_of_ble_eq_true rfl, Nat.le_of_ble_eq_true rfl⟩ ⟨Nat.zero_le _, Nat.zero_le _⟩ (gmc_gIs h8 (r := (RX1, TX1, 15)) rfl) rfl (Nat.le_of_ble_eq_true rfl) dX1_worst_20) (fun r7 hw => ?_)
    refine j_b0 ?_
    refine j_istore (L' := [(4, .int (r7)), (0, .ref (x0)), (1, .int (x1)), (2, .int (x2)), (3, .int (x3))]) hE hn dX1_worst_23 (Nat.le_of_ble_eq_true rfl) rfl ?_
    refine j_iload hE 0 dX1_worst_25 rfl ?_
    refine j_iload_n hE 3 dX1_worst_27 rfl rfl ?_
    refine j_icmp_gt hE 34 dX1_worst_28 (by decide) (fun c9 => ?_) (fun c9 => ?_)
    · replace hw := hw.1 c9
      refine j_iload_n hE 4 dX1_worst_34 rfl rfl ?_
      refine j_istore_n (L' := [(1, .int (x3)), (4, .int (r7)), (0, .ref (x0)), (2, .int (x2)), (3, .int (x3))]) hE hn dX1_worst_35 rfl (Nat.le_of_ble_eq_true rfl) rfl ?_
      refine j_iload hE 1 dX1_worst_36 rfl ?_
      refine j_istore_n (L' := [(2, .int (r7)), (1, .int (x3)), (4, .int (r7)), (0, .ref (x0)), (3, .int (x3))]) hE hn dX1_worst_38 rfl (Nat.le_of_ble_eq_true rfl) rfl ?_
      refine j_iinc (L' := [(3, .int (x3 + 1)), (2, .int (r7)), (1, .int (x3)), (4, .int (r7)), (0, .ref (x0))]) hE hn 4 dX1_worst_39 rfl (congrArg (x3 + ·) kc_1) (Nat.le_of_ble_eq_true rfl) rfl ?_
      refine j_goto hE 6 dX1_worst_42 (by decide) ?_
      refine j_sub [(0, .ref (x0)), (1, .int (x3)), (2, .int (r7)), (3, .int (x3 + 1))] [4, 2, 1, 0] rfl ?_
      have hz := ih6 (x3, r7, (x3 + 1)) hw
      exact hz
    · replace hw := hw.2 c9
      refine j_goto hE 39 dX1_worst_31 (by decide) ?_
      refine j_iinc (L' := [(3, .int (x3 + 1)), (4, .int (r7)), (0, .ref (x0)), (1, .int (x1)), (2, .int (x2))]) hE hn 4 dX1_worst_39 rfl (congrArg (x3 + ·) kc_1) (Nat.le_of_ble_eq_true rfl) rfl ?_
      refine j_goto hE 6 dX1_worst_42 (by decide) ?_
      refine j_sub [(0, .ref (x0)), (1, .int (x1)), (2, .int (x2)), (3, .int (x3 + 1))] [2, 3, 4, 0] rfl ?_
      have hz := ih6 (x1, x2, (x3 + 1)) hw
      exact hz
def wX1_worst_0 (c : Nat → Option Nat) (x0 : Nat) (w0 : GW) (K : Int32 → Prop) : Prop :=
  wX1_worst_6 c x0 ((-1 : Int32)) ((0 : Int32)) ((0 : Int32)) w0 K
set_option maxRecDepth 100000 in
theorem bX1_worst_0 {E : jE} (hE : jOk E cX1_worst RX1) (hn : E.2.2.2.2 = 5) (hR : jRoom E 7 158) {c : Nat → Option Nat} (hc : E.2.2.1.2.2.2 = c) {b : Nat × Nat} {w0 : GW} {K : Int32 → Prop} (hK : jRi E .int (KPI w0 K)) {x0 : Nat}  (hw : wX1_worst_0 c x0 w0 K) : J E w0 b [(0, .ref (x0))] 0 [] := by
  unfold wX1_worst_0 at hw
  refine j_iconst hE dX1_worst_0 kc_m1 ?_
  refine j_istore_n (L' := [(1, .int ((-1 : Int32))), (0, .ref (x0))]) hE hn dX1_worst_1 rfl (Nat.le_of_ble_eq_true rfl) rfl ?_
  refine j_iconst hE dX1_worst_2 kc_0 ?_
  refine j_istore_n (L' := [(2, .int ((0 : Int32))), (1, .int ((-1 : Int32))), (0, .ref (x0))]) hE hn dX1_worst_3 rfl (Nat.le_of_ble_eq_true rfl) rfl ?_
  refine j_iconst hE dX1_worst_4 kc_0 ?_
  refine j_istore_n (L' := [(3, .int ((0 : Int32))), (2, .int ((0 : Int32))), (1, .int ((-1 : Int32))), (0, .ref (x0))]) hE hn dX1_worst_5 rfl (Nat.le_of_ble_eq_true rfl) rfl ?_
  refine j_sub [(0, .ref (x0)), (1, .int ((-1 : Int32))), (2, .int ((0 : Int32))), (3, .int ((0 : Int32)))] [3, 2, 1, 0] rfl ?_
  have hz := bX1_worst_6 (b := b) hE hn hR hc hK  hw
  exact hz
theorem jdX1_worst : jD yX1_worst 0 := by decide +kernel
abbrev wX1_worst := wX1_worst_0
theorem ctX1_worst (l : Launch) (G : gG) {c : Nat → Option Nat} (hc : G.2.2.2 = c) (x0 : Nat) (w0 : GW) (K : Int32 → Prop) (hw : wX1_worst_0 c x0 w0 K) {F2 L2 : Nat} (h2 : 7 ≤ F2 ∧ 158 ≤ L2 := by exact ⟨Nat.le_refl _, Nat.le_refl _⟩) : CtI l yX1_worst cX1_worst 5 .int ({ frames := F2, cells := 0, slots := 0, locals := L2 }) G [.ref (x0)] w0 (KPI w0 K) :=
  CtI.of RX1 plainc_X1 rfl (Nat.le_of_ble_eq_true rfl) (fun E hE hl hG hn hR hK => bX1_worst_0 hE hn (hR.le h2.1 h2.2) (by rw [hG]; exact hc) hK hw)
def wX1_oldest_28_b (c : Nat → Option Nat) (x0 : Nat) (x3 : Int32) (x4 : Option Nat) (x1 : Int32) (x2 : Int32) (x5 : Int32) (w0 : GW) (KL28 : Int32 × Int32 × Int32 → Prop) (KL6 : Int32 × Int32 × Int32 → Prop) (K : Int32 → Prop) : Prop :=
  ∃ a1 : Nat, x4 = some a1 ∧ (∃ f2 : Int32, gfm w0 a1 [4] 4 = some (.int f2) ∧ ((f2 ≤ x5 → (KL6 (x1, x2, (x3 + 1)))) ∧ (¬ f2 ≤ x5 → (∃ f5 : Option Nat, gfm w0 a1 [4] 3 = some (va_rf f5) ∧ (∃ a7 : Nat, f5 = some a7 ∧ (∃ (n8 : Nat) (f9 : Nat → Int32), gai w0 a7 0 = some (n8, f9) ∧ vp_in x5 n8 ∧ ((x2 < (rd f9 x5) → (∃ f13 : Option Nat, gfm w0 a1 [4] 3 = some (va_rf f13) ∧ (∃ a15 : Nat, f13 = some a15 ∧ (∃ (n16 : Nat) (f17 : Nat → Int32), gai w0 a15 0 = some (n16, f17) ∧ vp_in x5 n16 ∧ (∀ v20 : Int32, v20 = rd f17 x5 → (KL28 (x3, v20, (x5 + 1)))))))) ∧ (¬ x2 < (rd f9 x5) → (KL28 (x1, x2, (x5 + 1)))))))))))
def wX1_oldest_28 (c : Nat → Option Nat) (x0 : Nat) (x3 : Int32) (x4 : Option Nat) (x1 : Int32) (x2 : Int32) (x5 : Int32) (w0 : GW) (KL6 : Int32 × Int32 × Int32 → Prop) (K : Int32 → Prop) : Prop := lfp (σ := Int32 × Int32 × Int32) (fun KL s => wX1_oldest_28_b c x0 x3 x4 s.1 s.2.1 s.2.2 w0 KL KL6 K) (x1, x2, x5)
set_option maxRecDepth 100000 in
theorem bX1_oldest_28 {E : jE} (hE : jOk E cX1_oldest RX1) (hn : E.2.2.2.2 = 6) (hR : jRoom E 2 40) {c : Nat → Option Nat} (hc : E.2.2.1.2.2.2 = c) {b : Nat × Nat} {w0 : GW} {K : Int32 → Prop} (hK : jRi E .int (KPI w0 K)) {x0 : Nat} {x3 : Int32} {x4 : Option Nat} {x1 : Int32} {x2 : Int32} {x5 : Int32} {KL6 : Int32 × Int32 × Int32 → Prop} (ih6 : ∀ s : Int32 × Int32 × Int32, KL6 s → J E w0 b [(0, .ref (x0)), (1, .int (s.1)), (2, .int (s.2.1)), (3, .int (s.2.2))] 6 []) (hw : wX1_oldest_28 c x0 x3 x4 x1 x2 x5 w0 KL6 K) : J E w0 b [(0, .ref (x0)), (1, .int (x1)), (2, .int (x2)), (3, .int (x3)), (4, va_rf (x4)), (5, .int (x5))] 28 [] := by
  refine lfp_sound (σ := Int32 × Int32 × Int32) (F := fun KL s => wX1_oldest_28_b c x0 x3 x4 s.1 s.2.1 s.2.2 w0 KL KL6 K) (P := fun s => J E w0 b [(0, .ref (x0)), (1, .int (s.1)), (2, .int (s.2.1)), (3, .int (x3)), (4, va_rf (x4)), (5, .int (s.2.2))] 28 []) ?_ hw
  clear hw
  rintro KL28 ⟨x1, x2, x5⟩ hw ih28
  have hw : wX1_oldest_28_b c x0 x3 x4 x1 x2 x5 w0 KL28 KL6 K := hw
  unfold wX1_oldest_28_b at hw
  refine j_iload hE 5 dX1_oldest_28 rfl ?_
  refine j_aloadq hE 4 dX1_oldest_30 rfl ?_
  obtain ⟨a1, e9, hx⟩ := hw
  subst e9
  have hw := hx
  clear hx
  obtain ⟨f2, h3, hw⟩ := hw
  refine j_getMN hE gf_GlassStreet_Marks_many q303 h3 dX1_oldest_32 ?_
  refine j_icmp_ge hE 70 dX1_oldest_35 (by decide) (fun c4 => ?_) (fun c4 => ?_)
  · replace hw := hw.1 c4
    refine j_iinc (L' := [(3, .int (x3 + 1)), (0, .ref (x0)), (1, .int (x1)), (2, .int (x2)), (4, .ref (a1)), (5, .int (x5))]) hE hn 3 dX1_oldest_70 rfl (congrArg (x3 + ·) kc_1) (Nat.le_of_ble_eq_true rfl) rfl ?_
    refine j_goto hE 6 dX1_oldest_73 (by decide) ?_
    refine j_sub [(0, .ref (x0)), (1, .int (x1)), (2, .int (x2)), (3, .int (x3 + 1))] [1, 2, 3, 0] rfl ?_
    have hz := ih6 (x1, x2, (x3 + 1)) hw
    exact hz
  · replace hw := hw.2 c4
    refine j_aload hE 4 dX1_oldest_38 rfl ?_
    obtain ⟨f5, h6, hw⟩ := hw
    refine j_getMN hE gf_GlassStreet_Marks_age q299 h6 dX1_oldest_40 ?_
    refine j_iload hE 5 dX1_oldest_43 rfl ?_
    obtain ⟨a7, e9, hx⟩ := hw
    subst e9
    have hw := hx
    clear hx
    obtain ⟨n8, f9, h10, h11, hw⟩ := hw
    refine j_aldI hE h10 h11 dX1_oldest_45 ?_
    refine j_iload_n hE 2 dX1_oldest_46 rfl rfl ?_
    refine j_icmp_gt hE 53 dX1_oldest_47 (by decide) (fun c12 => ?_) (fun c12 => ?_)
    · replace hw := hw.1 c12
      refine j_iload_n hE 3 dX1_oldest_53 rfl rfl ?_
      refine j_istore_n (L' := [(1, .int (x3)), (0, .ref (x0)), (2, .int (x2)), (3, .int (x3)), (4, .ref (a1)), (5, .int (x5))]) hE hn dX1_oldest_54 rfl (Nat.le_of_ble_eq_true rfl) rfl ?_
      refine j_aload hE 4 dX1_oldest_55 rfl ?_
      obtain ⟨f13, h14, hw⟩ := hw
      refine j_getMN hE gf_GlassStreet_Marks_age q299 h14 dX1_oldest_57 ?_
      refine j_iload hE 5 dX1_oldest_60 rfl ?_
      obtain ⟨a15, e9, hx⟩ := hw
      subst e9
      have hw := hx
      clear hx
      obtain ⟨n16, f17, h18, h19, hw⟩ := hw
      refine j_aldI hE h18 h19 dX1_oldest_62 ?_
      refine j_topi (fun v20 e_v20 => ?_)
      replace hw := hw v20 e_v20
      refine j_istore_n (L' := [(2, .int (v20)), (1, .int (x3)), (0, .ref (x0)), (3, .int (x3)), (4, .ref (a1)), (5, .int (x5))]) hE hn dX1_oldest_63 rfl (Nat.le_of_ble_eq_true rfl) rfl ?_
      refine j_iinc (L' := [(5, .int (x5 + 1)), (2, .int (v20)), (1, .int (x3)), (0, .ref (x0)), (3, .int (x3)), (4, .ref (a1))]) hE hn 5 dX1_oldest_64 rfl (congrArg (x5 + ·) kc_1) (Nat.le_of_ble_eq_true rfl) rfl ?_
      refine j_goto hE 28 dX1_oldest_67 (by decide) ?_
      refine j_sub [(0, .ref (x0)), (1, .int (x3)), (2, .int (v20)), (3, .int (x3)), (4, .ref (a1)), (5, .int (x5 + 1))] [3, 2, 1, 4, 5, 0] rfl ?_
      have hz := ih28 (x3, v20, (x5 + 1)) hw
      exact hz
    · replace hw := hw.2 c12
      refine j_goto hE 64 dX1_oldest_50 (by decide) ?_
      refine j_iinc (L' := [(5, .int (x5 + 1)), (0, .ref (x0)), (1, .int (x1)), (2, .int (x2)), (3, .int (x3)), (4, .ref (a1))]) hE hn 5 dX1_oldest_64 rfl (congrArg (x5 + ·) kc_1) (Nat.le_of_ble_eq_true rfl) rfl ?_
      refine j_goto hE 28 dX1_oldest_67 (by decide) ?_
      refine j_sub [(0, .ref (x0)), (1, .int (x1)), (2, .int (x2)), (3, .int (x3)), (4, .ref (a1)), (5, .int (x5 + 1))] [1, 2, 3, 4, 5, 0] rfl ?_
      have hz := ih28 (x1, x2, (x5 + 1)) hw
      exact hz
def wX1_oldest_6_b (c : Nat → Option Nat) (x0 : Nat) (x1 : Int32) (x2 : Int32) (x3 : Int32) (w0 : GW) (KL6 : Int32 × Int32 × Int32 → Prop) (K : Int32 → Prop) : Prop :=
  gmc w0 x0 = some 0 ∧ (wX1_panes c x0 w0 (fun r1 => (r1 ≤ x3 → (K x1)) ∧ (¬ r1 ≤ x3 → (∃ f4 : Option Nat, gfm w0 x0 [0] 4 = some (va_rf f4) ∧ (∃ a6 : Nat, f4 = some a6 ∧ (∃ f7 : Option Nat, gfm w0 a6 [3] 1 = some (va_rf f7) ∧ (∃ a9 : Nat, f7 = some a9 ∧ (∃ (n10 : Nat) (f11 : Nat → Option Nat), gaq w0 a9 5 = some (n10, f11) ∧ vp_in x3 n10 ∧ (∀ r14 : Option Nat, f11 (x3).toNatClampNeg = r14 → (wX1_oldest_28 c x0 x3 r14 x1 x2 ((0 : Int32)) w0 KL6 K))))))))))
def wX1_oldest_6 (c : Nat → Option Nat) (x0 : Nat) (x1 : Int32) (x2 : Int32) (x3 : Int32) (w0 : GW) (K : Int32 → Prop) : Prop := lfp (σ := Int32 × Int32 × Int32) (fun KL s => wX1_oldest_6_b c x0 s.1 s.2.1 s.2.2 w0 KL K) (x1, x2, x3)
set_option maxRecDepth 100000 in
theorem bX1_oldest_6 {E : jE} (hE : jOk E cX1_oldest RX1) (hn : E.2.2.2.2 = 6) (hR : jRoom E 2 40) {c : Nat → Option Nat} (hc : E.2.2.1.2.2.2 = c) {b : Nat × Nat} {w0 : GW} {K : Int32 → Prop} (hK : jRi E .int (KPI w0 K)) {x0 : Nat} {x1 : Int32} {x2 : Int32} {x3 : Int32}  (hw : wX1_oldest_6 c x0 x1 x2 x3 w0 K) : J E w0 b [(0, .ref (x0)), (1, .int (x1)), (2, .int (x2)), (3, .int (x3))] 6 [] := by
  refine lfp_sound (σ := Int32 × Int32 × Int32) (F := fun KL s => wX1_oldest_6_b c x0 s.1 s.2.1 s.2.2 w0 KL K) (P := fun s => J E w0 b [(0, .ref (x0)), (1, .int (s.1)), (2, .int (s.2.1)), (3, .int (s.2.2))] 6 []) ?_ hw
  clear hw
  rintro KL6 ⟨x1, x2, x3⟩ hw ih6
  have hw : wX1_oldest_6_b c x0 x1 x2 x3 w0 KL6 K := hw
  unfold wX1_oldest_6_b at hw
  refine j_iload_n hE 3 dX1_oldest_6 rfl rfl ?_
  refine j_aload_n hE 0 dX1_oldest_7 rfl rfl ?_
  obtain ⟨h2, hw⟩ := hw
  refine jc_ip (jr_V hE hR (As := []) (rest := [.int (x3)]) ((ctX1_panes E.1.2.1 E.2.2.1 hc _ _ _ hw) E.2.2.2.1) (lw_V q1157 q1159 qs31 q121 q1160) jdX1_panes ⟨Nat.le_of_ble_eq_true rfl, Nat.le_of_ble_eq_true rfl⟩ ⟨Nat.zero_le _, Nat.zero_le _⟩ (gmc_gIs h2 (r := (RX1, TX1, 15)) rfl) rfl (Nat.le_of_ble_eq_true rfl) dX1_oldest_8) (fun r1 hw => ?_)
  refine j_b0 ?_
  refine j_icmp_ge hE 76 dX1_oldest_11 (by decide) (fun c3 => ?_) (fun c3 => ?_)
  · replace hw := hw.1 c3
    refine j_iload_n hE 1 dX1_oldest_76 rfl rfl ?_
    exact j_iret hE hK dX1_oldest_77 rfl ⟨rfl, hw⟩
  · replace hw := hw.2 c3
    refine j_aload_n hE 0 dX1_oldest_14 rfl rfl ?_
    obtain ⟨f4, h5, hw⟩ := hw
    refine j_getM hE gf_GlassStreet_state q351 h5 dX1_oldest_15 ?_
    obtain ⟨a6, e9, hx⟩ := hw
    subst e9
    have hw := hx
    clear hx
    obtain ⟨f7, h8, hw⟩ := hw
    refine j_getMN hE gf_GlassStreet_State_marks q320 h8 dX1_oldest_18 ?_
    refine j_iload_n hE 3 dX1_oldest_21 rfl rfl ?_
    obtain ⟨a9, e9, hx⟩ := hw
    subst e9
    have hw := hx
    clear hx
    obtain ⟨n10, f11, h12, h13, hw⟩ := hw
    obtain ⟨r14, e_r14⟩ : ∃ r9, f11 (x3).toNatClampNeg = r9 := ⟨_, rfl⟩
    replace hw := hw r14 e_r14
    refine j_aldQ hE (t := 5) ⟨by decide, by decide⟩ h12 h13 e_r14 dX1_oldest_22 ?_
    refine j_astoreq (L' := [(4, va_rf (r14)), (0, .ref (x0)), (1, .int (x1)), (2, .int (x2)), (3, .int (x3))]) hE hn dX1_oldest_23 (Nat.le_of_ble_eq_true rfl) rfl ?_
    refine j_iconst hE dX1_oldest_25 kc_0 ?_
    refine j_istore (L' := [(5, .int ((0 : Int32))), (4, va_rf (r14)), (0, .ref (x0)), (1, .int (x1)), (2, .int (x2)), (3, .int (x3))]) hE hn dX1_oldest_26 (Nat.le_of_ble_eq_true rfl) (by cases r14 <;> rfl) ?_
    refine j_sub [(0, .ref (x0)), (1, .int (x1)), (2, .int (x2)), (3, .int (x3)), (4, va_rf (r14)), (5, .int ((0 : Int32)))] [2, 3, 4, 5, 1, 0] rfl ?_
    have hz := bX1_oldest_28 (b := b) hE hn hR hc hK ih6 hw
    exact hz
def wX1_oldest_0 (c : Nat → Option Nat) (x0 : Nat) (w0 : GW) (K : Int32 → Prop) : Prop :=
  wX1_oldest_6 c x0 ((-1 : Int32)) ((-1 : Int32)) ((0 : Int32)) w0 K
set_option maxRecDepth 100000 in
theorem bX1_oldest_0 {E : jE} (hE : jOk E cX1_oldest RX1) (hn : E.2.2.2.2 = 6) (hR : jRoom E 2 40) {c : Nat → Option Nat} (hc : E.2.2.1.2.2.2 = c) {b : Nat × Nat} {w0 : GW} {K : Int32 → Prop} (hK : jRi E .int (KPI w0 K)) {x0 : Nat}  (hw : wX1_oldest_0 c x0 w0 K) : J E w0 b [(0, .ref (x0))] 0 [] := by
  unfold wX1_oldest_0 at hw
  refine j_iconst hE dX1_oldest_0 kc_m1 ?_
  refine j_istore_n (L' := [(1, .int ((-1 : Int32))), (0, .ref (x0))]) hE hn dX1_oldest_1 rfl (Nat.le_of_ble_eq_true rfl) rfl ?_
  refine j_iconst hE dX1_oldest_2 kc_m1 ?_
  refine j_istore_n (L' := [(2, .int ((-1 : Int32))), (1, .int ((-1 : Int32))), (0, .ref (x0))]) hE hn dX1_oldest_3 rfl (Nat.le_of_ble_eq_true rfl) rfl ?_
  refine j_iconst hE dX1_oldest_4 kc_0 ?_
  refine j_istore_n (L' := [(3, .int ((0 : Int32))), (2, .int ((-1 : Int32))), (1, .int ((-1 : Int32))), (0, .ref (x0))]) hE hn dX1_oldest_5 rfl (Nat.le_of_ble_eq_true rfl) rfl ?_
  refine j_sub [(0, .ref (x0)), (1, .int ((-1 : Int32))), (2, .int ((-1 : Int32))), (3, .int ((0 : Int32)))] [3, 2, 1, 0] rfl ?_
  have hz := bX1_oldest_6 (b := b) hE hn hR hc hK  hw
  exact hz
theorem jdX1_oldest : jD yX1_oldest 0 := by decide +kernel
abbrev wX1_oldest := wX1_oldest_0
theorem ctX1_oldest (l : Launch) (G : gG) {c : Nat → Option Nat} (hc : G.2.2.2 = c) (x0 : Nat) (w0 : GW) (K : Int32 → Prop) (hw : wX1_oldest_0 c x0 w0 K) {F2 L2 : Nat} (h2 : 2 ≤ F2 ∧ 40 ≤ L2 := by exact ⟨Nat.le_refl _, Nat.le_refl _⟩) : CtI l yX1_oldest cX1_oldest 6 .int ({ frames := F2, cells := 0, slots := 0, locals := L2 }) G [.ref (x0)] w0 (KPI w0 K) :=
  CtI.of RX1 plainc_X1 rfl (Nat.le_of_ble_eq_true rfl) (fun E hE hl hG hn hR hK => bX1_oldest_0 hE hn (hR.le h2.1 h2.2) (by rw [hG]; exact hc) hK hw)
def wX1_cloak_117 (c : Nat → Option Nat) (x0 : Nat) (x1 : Int32) (x2 : Int32) (x3 : Int32) (x4 : Int32) (x5 : Int32) (w : GW) (KL81 : Int32 × Int32 × GW → Prop) (K : Int32 → GW → Prop) : Prop :=
  ∃ f1 : Option Nat, gfm w x0 [0] 5 = some (va_rf f1) ∧ (∃ f3 : Option Nat, gfm w x0 [0] 4 = some (va_rf f3) ∧ (∃ a5 : Nat, f1 = some a5 ∧ (∃ a6 : Nat, f3 = some a6 ∧ (gmc w a5 = some 3 ∧ (wX4_be c a5 a6 w (fun w8 => ∃ f9 : Option Nat, gfm w8 x0 [0] 5 = some (va_rf f9) ∧ (∃ a11 : Nat, f9 = some a11 ∧ (∃ f12 : Int32, gfm w8 a11 [3] 3 = some (.int f12) ∧ (∃ (n14 : Nat) (fs15 : List Value), w8 a11 = some (true, .inr (n14, fs15)) ∧ n14 ∈ ([3] : List Nat) ∧ 3 < fs15.length ∧ (∀ w19 : GW, w19 = gup w8 a11 (.inr (n14, fs15.set 3 (.int (f12 ||| x5)))) → (∃ f20 : Option Nat, gfm w19 x0 [0] 5 = some (va_rf f20) ∧ (∃ a22 : Nat, f20 = some a22 ∧ (gmc w19 x0 = some 0 ∧ (wX1_shameOf c x0 a22 x1 w19 (fun r23 => (x2 < r23 → (KL81 (x4, (x5 + 1), w19))) ∧ (¬ x2 < r23 → (KL81 (x5, (x5 + 1), w19))))))))))))))))))
set_option maxRecDepth 100000 in
theorem bX1_cloak_117 {E : jE} (hE : jOk E cX1_cloak RX1) (hn : E.2.2.2.2 = 6) (hR : jRoom E 7 158) {c : Nat → Option Nat} (hc : E.2.2.1.2.2.2 = c) {b : Nat × Nat} {K : Int32 → GW → Prop} (hK : jRi E .int (K)) {x0 : Nat} {x1 : Int32} {x2 : Int32} {x3 : Int32} {x4 : Int32} {x5 : Int32} {w : GW} {KL81 : Int32 × Int32 × GW → Prop} (ih81 : ∀ s : Int32 × Int32 × GW, KL81 s → J E (s.2.2) b [(0, .ref (x0)), (1, .int (x1)), (2, .int (x2)), (3, .int (x3)), (4, .int (s.1)), (5, .int (s.2.1))] 81 []) (hw : wX1_cloak_117 c x0 x1 x2 x3 x4 x5 w KL81 K) : J E w b [(0, .ref (x0)), (1, .int (x1)), (2, .int (x2)), (3, .int (x3)), (4, .int (x4)), (5, .int (x5))] 117 [] := by
  unfold wX1_cloak_117 at hw
  refine j_aload_n hE 0 dX1_cloak_117 rfl rfl ?_
  obtain ⟨f1, h2, hw⟩ := hw
  refine j_getM hE gf_GlassStreet_trial q352 h2 dX1_cloak_118 ?_
  refine j_aload_n hE 0 dX1_cloak_121 rfl rfl ?_
  obtain ⟨f3, h4, hw⟩ := hw
  refine j_getM hE gf_GlassStreet_state q351 h4 dX1_cloak_122 ?_
  obtain ⟨a5, e9, hx⟩ := hw
  subst e9
  have hw := hx
  clear hx
  obtain ⟨a6, e9, hx⟩ := hw
  subst e9
  have hw := hx
  clear hx
  obtain ⟨h7, hw⟩ := hw
  refine jc_v (jr_V hE hR (As := [.ref (a6)]) (rest := []) ((ctX4_be E.1.2.1 E.2.2.1 hc _ _ _ _ hw) E.2.2.2.1) (lw_V q1257 q1258 q1259 q127 q1260) jdX4_be ⟨Nat.le_of_ble_eq_true rfl, Nat.le_of_ble_eq_true rfl⟩ ⟨Nat.zero_le _, Nat.zero_le _⟩ (gmc_gIs h7 (r := (RX4, TX4, 5)) rfl) rfl (Nat.le_of_ble_eq_true rfl) dX1_cloak_125) (fun w8 hw => ?_)
  refine j_b0 ?_
  refine j_aload_n hE 0 dX1_cloak_128 rfl rfl ?_
  obtain ⟨f9, h10, hw⟩ := hw
  refine j_getM hE gf_GlassStreet_trial q352 h10 dX1_cloak_129 ?_
  refine j_dup hE dX1_cloak_132 (va_rf_cat _) ?_
  obtain ⟨a11, e9, hx⟩ := hw
  subst e9
  have hw := hx
  clear hx
  obtain ⟨f12, h13, hw⟩ := hw
  refine j_getMN hE gf_GlassStreet_State_drawn q325 h13 dX1_cloak_133 ?_
  refine j_iload hE 5 dX1_cloak_136 rfl ?_
  refine j_ior hE dX1_cloak_138 ?_
  obtain ⟨n14, fs15, h16, h17, h18, hw⟩ := hw
  refine j_putXN hE h17 gw_GlassStreet_State_drawn_X1 q325 h16 rfl rfl h18 dX1_cloak_139 ?_
  refine j_nw (fun w19 e_w19 => ?_)
  replace hw := hw w19 e_w19
  refine j_aload_n hE 0 dX1_cloak_142 rfl rfl ?_
  refine j_aload_n hE 0 dX1_cloak_143 rfl rfl ?_
  obtain ⟨f20, h21, hw⟩ := hw
  refine j_getM hE gf_GlassStreet_trial q352 h21 dX1_cloak_144 ?_
  refine j_iload_n hE 1 dX1_cloak_147 rfl rfl ?_
  obtain ⟨a22, e9, hx⟩ := hw
  subst e9
  have hw := hx
  clear hx
  obtain ⟨h24, hw⟩ := hw
  refine jc_ip (jr_V hE hR (As := [.ref (a22), .int (x1)]) (rest := []) ((ctX1_shameOf E.1.2.1 E.2.2.1 hc _ _ _ _ _ hw) E.2.2.2.1) (lw_V q1394 q1396 qs49 q121 q1397) jdX1_shameOf ⟨Nat.le_of_ble_eq_true rfl, Nat.le_of_ble_eq_true rfl⟩ ⟨Nat.zero_le _, Nat.zero_le _⟩ (gmc_gIs h24 (r := (RX1, TX1, 15)) rfl) rfl (Nat.le_of_ble_eq_true rfl) dX1_cloak_148) (fun r23 hw => ?_)
  refine j_b0 ?_
  refine j_iload_n hE 2 dX1_cloak_151 rfl rfl ?_
  refine j_icmp_gt hE 159 dX1_cloak_152 (by decide) (fun c25 => ?_) (fun c25 => ?_)
  · replace hw := hw.1 c25
    refine j_iinc (L' := [(5, .int (x5 + 1)), (0, .ref (x0)), (1, .int (x1)), (2, .int (x2)), (3, .int (x3)), (4, .int (x4))]) hE hn 5 dX1_cloak_159 rfl (congrArg (x5 + ·) kc_1) (Nat.le_of_ble_eq_true rfl) rfl ?_
    refine j_goto hE 81 dX1_cloak_162 (by decide) ?_
    refine j_sub [(0, .ref (x0)), (1, .int (x1)), (2, .int (x2)), (3, .int (x3)), (4, .int (x4)), (5, .int (x5 + 1))] [1, 2, 3, 4, 5, 0] rfl ?_
    have hz := ih81 (x4, (x5 + 1), w19) hw
    exact hz
  · replace hw := hw.2 c25
    refine j_iload hE 5 dX1_cloak_155 rfl ?_
    refine j_istore (L' := [(4, .int (x5)), (0, .ref (x0)), (1, .int (x1)), (2, .int (x2)), (3, .int (x3)), (5, .int (x5))]) hE hn dX1_cloak_157 (Nat.le_of_ble_eq_true rfl) rfl ?_
    refine j_iinc (L' := [(5, .int (x5 + 1)), (4, .int (x5)), (0, .ref (x0)), (1, .int (x1)), (2, .int (x2)), (3, .int (x3))]) hE hn 5 dX1_cloak_159 rfl (congrArg (x5 + ·) kc_1) (Nat.le_of_ble_eq_true rfl) rfl ?_
    refine j_goto hE 81 dX1_cloak_162 (by decide) ?_
    refine j_sub [(0, .ref (x0)), (1, .int (x1)), (2, .int (x2)), (3, .int (x3)), (4, .int (x5)), (5, .int (x5 + 1))] [2, 3, 4, 5, 1, 0] rfl ?_
    have hz := ih81 (x5, (x5 + 1), w19) hw
    exact hz
def wX1_cloak_81_b (c : Nat → Option Nat) (x0 : Nat) (x1 : Int32) (x2 : Int32) (x3 : Int32) (x4 : Int32) (x5 : Int32) (w : GW) (KL81 : Int32 × Int32 × GW → Prop) (K : Int32 → GW → Prop) : Prop :=
  (x3 < x5 → (K x4 w)) ∧ (¬ x3 < x5 → ((¬ (x5 &&& (x3 ^^^ ((-1 : Int32)))) = 0 → (KL81 (x4, (x5 + 1), w))) ∧ ((x5 &&& (x3 ^^^ ((-1 : Int32)))) = 0 → ((x4 < 0 → (wX1_cloak_117 c x0 x1 x2 x3 x4 x5 w KL81 K)) ∧ (¬ x4 < 0 → (wJ17_bitCount c x5 w (fun r4 => wJ17_bitCount c x4 w (fun r5 => (r4 < r5 → (wX1_cloak_117 c x0 x1 x2 x3 x4 x5 w KL81 K)) ∧ (¬ r4 < r5 → (KL81 (x4, (x5 + 1), w)))))))))))
def wX1_cloak_81 (c : Nat → Option Nat) (x0 : Nat) (x1 : Int32) (x2 : Int32) (x3 : Int32) (x4 : Int32) (x5 : Int32) (w : GW) (K : Int32 → GW → Prop) : Prop := lfp (σ := Int32 × Int32 × GW) (fun KL s => wX1_cloak_81_b c x0 x1 x2 x3 s.1 s.2.1 s.2.2 KL K) (x4, x5, w)
set_option maxRecDepth 100000 in
theorem bX1_cloak_81 {E : jE} (hE : jOk E cX1_cloak RX1) (hn : E.2.2.2.2 = 6) (hR : jRoom E 7 158) {c : Nat → Option Nat} (hc : E.2.2.1.2.2.2 = c) {b : Nat × Nat} {K : Int32 → GW → Prop} (hK : jRi E .int (K)) {x0 : Nat} {x1 : Int32} {x2 : Int32} {x3 : Int32} {x4 : Int32} {x5 : Int32} {w : GW}  (hw : wX1_cloak_81 c x0 x1 x2 x3 x4 x5 w K) : J E w b [(0, .ref (x0)), (1, .int (x1)), (2, .int (x2)), (3, .int (x3)), (4, .int (x4)), (5, .int (x5))] 81 [] := by
  refine lfp_sound (σ := Int32 × Int32 × GW) (F := fun KL s => wX1_cloak_81_b c x0 x1 x2 x3 s.1 s.2.1 s.2.2 KL K) (P := fun s => J E (s.2.2) b [(0, .ref (x0)), (1, .int (x1)), (2, .int (x2)), (3, .int (x3)), (4, .int (s.1)), (5, .int (s.2.1))] 81 []) ?_ hw
  clear hw
  rintro KL81 ⟨x4, x5, w⟩ hw ih81
  have hw : wX1_cloak_81_b c x0 x1 x2 x3 x4 x5 w KL81 K := hw
  unfold wX1_cloak_81_b at hw
  refine j_iload hE 5 dX1_cloak_81 rfl ?_
  refine j_iload_n hE 3 dX1_cloak_83 rfl rfl ?_
  refine j_icmp_gt hE 165 dX1_cloak_84 (by decide) (fun c1 => ?_) (fun c1 => ?_)
  · replace hw := hw.1 c1
    refine j_iload hE 4 dX1_cloak_165 rfl ?_
    exact j_iret hE hK dX1_cloak_167 rfl hw
  · replace hw := hw.2 c1
    refine j_iload hE 5 dX1_cloak_87 rfl ?_
    refine j_iload_n hE 3 dX1_cloak_89 rfl rfl ?_
    refine j_iconst hE dX1_cloak_90 kc_m1 ?_
    refine j_ixor hE dX1_cloak_91 ?_
    refine j_iand hE dX1_cloak_92 ?_
    refine j_if_ne hE 159 dX1_cloak_93 (by decide) (fun c2 => ?_) (fun c2 => ?_)
    · replace hw := hw.1 c2
      refine j_iinc (L' := [(5, .int (x5 + 1)), (0, .ref (x0)), (1, .int (x1)), (2, .int (x2)), (3, .int (x3)), (4, .int (x4))]) hE hn 5 dX1_cloak_159 rfl (congrArg (x5 + ·) kc_1) (Nat.le_of_ble_eq_true rfl) rfl ?_
      refine j_goto hE 81 dX1_cloak_162 (by decide) ?_
      refine j_sub [(0, .ref (x0)), (1, .int (x1)), (2, .int (x2)), (3, .int (x3)), (4, .int (x4)), (5, .int (x5 + 1))] [1, 2, 3, 4, 5, 0] rfl ?_
      have hz := ih81 (x4, (x5 + 1), w) hw
      exact hz
    · replace hw := hw.2 c2
      refine j_iload hE 4 dX1_cloak_96 rfl ?_
      refine j_if_lt hE 117 dX1_cloak_98 (by decide) (fun c3 => ?_) (fun c3 => ?_)
      · replace hw := hw.1 c3
        have hz := bX1_cloak_117 (b := b) hE hn hR hc hK ih81 hw
        exact hz
      · replace hw := hw.2 c3
        refine j_iload hE 5 dX1_cloak_101 rfl ?_
        refine jc_ip (jr_S hE hR (As := [.int (x5)]) (rest := []) ((ctJ17_bitCount E.1.2.1 E.2.2.1 hc _ _ _ hw) E.2.2.2.1) (lw_S q1414 q1415 q161 q1416) jdJ17_bitCount ⟨Nat.le_of_ble_eq_true rfl, Nat.le_of_ble_eq_true rfl⟩ ⟨Nat.zero_le _, Nat.zero_le _⟩  rfl (Nat.le_of_ble_eq_true rfl) dX1_cloak_103) (fun r4 hw => ?_)
        refine j_b0 ?_
        refine j_iload hE 4 dX1_cloak_106 rfl ?_
        refine jc_ip (jr_S hE hR (As := [.int (x4)]) (rest := [.int (r4)]) ((ctJ17_bitCount E.1.2.1 E.2.2.1 hc _ _ _ hw) E.2.2.2.1) (lw_S q1414 q1415 q161 q1416) jdJ17_bitCount ⟨Nat.le_of_ble_eq_true rfl, Nat.le_of_ble_eq_true rfl⟩ ⟨Nat.zero_le _, Nat.zero_le _⟩  rfl (Nat.le_of_ble_eq_true rfl) dX1_cloak_108) (fun r5 hw => ?_)
        refine j_b0 ?_
        refine j_icmp_lt hE 117 dX1_cloak_111 (by decide) (fun c6 => ?_) (fun c6 => ?_)
        · replace hw := hw.1 c6
          have hz := bX1_cloak_117 (b := b) hE hn hR hc hK ih81 hw
          exact hz
        · replace hw := hw.2 c6
          refine j_goto hE 159 dX1_cloak_114 (by decide) ?_
          refine j_iinc (L' := [(5, .int (x5 + 1)), (0, .ref (x0)), (1, .int (x1)), (2, .int (x2)), (3, .int (x3)), (4, .int (x4))]) hE hn 5 dX1_cloak_159 rfl (congrArg (x5 + ·) kc_1) (Nat.le_of_ble_eq_true rfl) rfl ?_
          refine j_goto hE 81 dX1_cloak_162 (by decide) ?_
          refine j_sub [(0, .ref (x0)), (1, .int (x1)), (2, .int (x2)), (3, .int (x3)), (4, .int (x4)), (5, .int (x5 + 1))] [1, 2, 3, 4, 5, 0] rfl ?_
          have hz := ih81 (x4, (x5 + 1), w) hw
          exact hz
def wX1_cloak_29_b (c : Nat → Option Nat) (x0 : Nat) (x1 : Int32) (x2 : Int32) (x4 : Int32) (x3 : Int32) (x5 : Int32) (w : GW) (KL29 : Int32 × Int32 → Prop) (K : Int32 → GW → Prop) : Prop :=
  gmc w x0 = some 0 ∧ (wX1_panes c x0 w (fun r1 => (r1 ≤ x5 → (wX1_cloak_81 c x0 x1 x2 x3 x4 ((0 : Int32)) w K)) ∧ (¬ r1 ≤ x5 → (∃ f4 : Option Nat, gfm w x0 [0] 4 = some (va_rf f4) ∧ (∃ a6 : Nat, f4 = some a6 ∧ (gmc w a6 = some 3 ∧ (wX4_isWhole c a6 x5 w (fun r7 => (r7 = 0 → (KL29 (x3, (x5 + 1)))) ∧ (¬ r7 = 0 → (∃ f10 : Option Nat, gfm w x0 [0] 4 = some (va_rf f10) ∧ (∃ a12 : Nat, f10 = some a12 ∧ (∃ f13 : Int32, gfm w a12 [3] 3 = some (.int f13) ∧ (wX1_isIn c f13 x5 w (fun r15 => (¬ r15 = 0 → (KL29 (x3, (x5 + 1)))) ∧ (r15 = 0 → (∀ v17 : Int32, v17 = x3 ||| (ishl ((1 : Int32)) x5) → (KL29 (v17, (x5 + 1)))))))))))))))))))
def wX1_cloak_29 (c : Nat → Option Nat) (x0 : Nat) (x1 : Int32) (x2 : Int32) (x4 : Int32) (x3 : Int32) (x5 : Int32) (w : GW) (K : Int32 → GW → Prop) : Prop := lfp (σ := Int32 × Int32) (fun KL s => wX1_cloak_29_b c x0 x1 x2 x4 s.1 s.2 w KL K) (x3, x5)
set_option maxRecDepth 100000 in
theorem bX1_cloak_29 {E : jE} (hE : jOk E cX1_cloak RX1) (hn : E.2.2.2.2 = 6) (hR : jRoom E 7 158) {c : Nat → Option Nat} (hc : E.2.2.1.2.2.2 = c) {b : Nat × Nat} {K : Int32 → GW → Prop} (hK : jRi E .int (K)) {x0 : Nat} {x1 : Int32} {x2 : Int32} {x4 : Int32} {x3 : Int32} {x5 : Int32} {w : GW}  (hw : wX1_cloak_29 c x0 x1 x2 x4 x3 x5 w K) : J E w b [(0, .ref (x0)), (1, .int (x1)), (2, .int (x2)), (3, .int (x3)), (4, .int (x4)), (5, .int (x5))] 29 [] := by
  refine lfp_sound (σ := Int32 × Int32) (F := fun KL s => wX1_cloak_29_b c x0 x1 x2 x4 s.1 s.2 w KL K) (P := fun s => J E w b [(0, .ref (x0)), (1, .int (x1)), (2, .int (x2)), (3, .int (s.1)), (4, .int (x4)), (5, .int (s.2))] 29 []) ?_ hw
  clear hw
  rintro KL29 ⟨x3, x5⟩ hw ih29
  have hw : wX1_cloak_29_b c x0 x1 x2 x4 x3 x5 w KL29 K := hw
  unfold wX1_cloak_29_b at hw
  refine j_iload hE 5 dX1_cloak_29 rfl ?_
  refine j_aload_n hE 0 dX1_cloak_31 rfl rfl ?_
  obtain ⟨h2, hw⟩ := hw
  refine jc_ip (jr_V hE hR (As := []) (rest := [.int (x5)]) ((ctX1_panes E.1.2.1 E.2.2.1 hc _ _ _ hw) E.2.2.2.1) (lw_V q1157 q1159 qs31 q121 q1160) jdX1_panes ⟨Nat.le_of_ble_eq_true rfl, Nat.le_of_ble_eq_true rfl⟩ ⟨Nat.zero_le _, Nat.zero_le _⟩ (gmc_gIs h2 (r := (RX1, TX1, 15)) rfl) rfl (Nat.le_of_ble_eq_true rfl) dX1_cloak_32) (fun r1 hw => ?_)
  refine j_b0 ?_
  refine j_icmp_ge hE 78 dX1_cloak_35 (by decide) (fun c3 => ?_) (fun c3 => ?_)
  · replace hw := hw.1 c3
    refine j_iconst hE dX1_cloak_78 kc_0 ?_
    refine j_istore (L' := [(5, .int ((0 : Int32))), (0, .ref (x0)), (1, .int (x1)), (2, .int (x2)), (3, .int (x3)), (4, .int (x4))]) hE hn dX1_cloak_79 (Nat.le_of_ble_eq_true rfl) rfl ?_
    refine j_sub [(0, .ref (x0)), (1, .int (x1)), (2, .int (x2)), (3, .int (x3)), (4, .int (x4)), (5, .int ((0 : Int32)))] [1, 2, 3, 4, 5, 0] rfl ?_
    have hz := bX1_cloak_81 (b := b) hE hn hR hc hK  hw
    exact hz
  · replace hw := hw.2 c3
    refine j_aload_n hE 0 dX1_cloak_38 rfl rfl ?_
    obtain ⟨f4, h5, hw⟩ := hw
    refine j_getM hE gf_GlassStreet_state q351 h5 dX1_cloak_39 ?_
    refine j_iload hE 5 dX1_cloak_42 rfl ?_
    obtain ⟨a6, e9, hx⟩ := hw
    subst e9
    have hw := hx
    clear hx
    obtain ⟨h8, hw⟩ := hw
    refine jc_ip (jr_V hE hR (As := [.int (x5)]) (rest := []) ((ctX4_isWhole E.1.2.1 E.2.2.1 hc _ _ _ _ hw) E.2.2.2.1) (lw_V q1188 q1189 q1190 q127 q1191) jdX4_isWhole ⟨Nat.le_of_ble_eq_true rfl, Nat.le_of_ble_eq_true rfl⟩ ⟨Nat.zero_le _, Nat.zero_le _⟩ (gmc_gIs h8 (r := (RX4, TX4, 5)) rfl) rfl (Nat.le_of_ble_eq_true rfl) dX1_cloak_44) (fun r7 hw => ?_)
    refine j_b0 ?_
    refine j_if_eq hE 72 dX1_cloak_47 (by decide) (fun c9 => ?_) (fun c9 => ?_)
    · replace hw := hw.1 c9
      refine j_iinc (L' := [(5, .int (x5 + 1)), (0, .ref (x0)), (1, .int (x1)), (2, .int (x2)), (3, .int (x3)), (4, .int (x4))]) hE hn 5 dX1_cloak_72 rfl (congrArg (x5 + ·) kc_1) (Nat.le_of_ble_eq_true rfl) rfl ?_
      refine j_goto hE 29 dX1_cloak_75 (by decide) ?_
      refine j_sub [(0, .ref (x0)), (1, .int (x1)), (2, .int (x2)), (3, .int (x3)), (4, .int (x4)), (5, .int (x5 + 1))] [1, 2, 3, 4, 5, 0] rfl ?_
      have hz := ih29 (x3, (x5 + 1)) hw
      exact hz
    · replace hw := hw.2 c9
      refine j_aload_n hE 0 dX1_cloak_50 rfl rfl ?_
      obtain ⟨f10, h11, hw⟩ := hw
      refine j_getM hE gf_GlassStreet_state q351 h11 dX1_cloak_51 ?_
      obtain ⟨a12, e9, hx⟩ := hw
      subst e9
      have hw := hx
      clear hx
      obtain ⟨f13, h14, hw⟩ := hw
      refine j_getMN hE gf_GlassStreet_State_drawn q325 h14 dX1_cloak_54 ?_
      refine j_iload hE 5 dX1_cloak_57 rfl ?_
      refine jc_ip (jr_S hE hR (As := [.int (f13), .int (x5)]) (rest := []) ((ctX1_isIn E.1.2.1 E.2.2.1 hc _ _ _ _ hw) E.2.2.2.1) (lw_S q1183 q922 q121 q923) jdX1_isIn ⟨Nat.le_of_ble_eq_true rfl, Nat.le_of_ble_eq_true rfl⟩ ⟨Nat.zero_le _, Nat.zero_le _⟩  rfl (Nat.le_of_ble_eq_true rfl) dX1_cloak_59) (fun r15 hw => ?_)
      refine j_b0 ?_
      refine j_if_ne hE 72 dX1_cloak_62 (by decide) (fun c16 => ?_) (fun c16 => ?_)
      · replace hw := hw.1 c16
        refine j_iinc (L' := [(5, .int (x5 + 1)), (0, .ref (x0)), (1, .int (x1)), (2, .int (x2)), (3, .int (x3)), (4, .int (x4))]) hE hn 5 dX1_cloak_72 rfl (congrArg (x5 + ·) kc_1) (Nat.le_of_ble_eq_true rfl) rfl ?_
        refine j_goto hE 29 dX1_cloak_75 (by decide) ?_
        refine j_sub [(0, .ref (x0)), (1, .int (x1)), (2, .int (x2)), (3, .int (x3)), (4, .int (x4)), (5, .int (x5 + 1))] [1, 2, 3, 4, 5, 0] rfl ?_
        have hz := ih29 (x3, (x5 + 1)) hw
        exact hz
      · replace hw := hw.2 c16
        refine j_iload_n hE 3 dX1_cloak_65 rfl rfl ?_
        refine j_iconst hE dX1_cloak_66 kc_1 ?_
        refine j_iload hE 5 dX1_cloak_67 rfl ?_
        refine j_ishl hE dX1_cloak_69 ?_
        refine j_ior hE dX1_cloak_70 ?_
        refine j_topi (fun v17 e_v17 => ?_)
        replace hw := hw v17 e_v17
        refine j_istore_n (L' := [(3, .int (v17)), (0, .ref (x0)), (1, .int (x1)), (2, .int (x2)), (4, .int (x4)), (5, .int (x5))]) hE hn dX1_cloak_71 rfl (Nat.le_of_ble_eq_true rfl) rfl ?_
        refine j_iinc (L' := [(5, .int (x5 + 1)), (3, .int (v17)), (0, .ref (x0)), (1, .int (x1)), (2, .int (x2)), (4, .int (x4))]) hE hn 5 dX1_cloak_72 rfl (congrArg (x5 + ·) kc_1) (Nat.le_of_ble_eq_true rfl) rfl ?_
        refine j_goto hE 29 dX1_cloak_75 (by decide) ?_
        refine j_sub [(0, .ref (x0)), (1, .int (x1)), (2, .int (x2)), (3, .int (v17)), (4, .int (x4)), (5, .int (x5 + 1))] [2, 3, 4, 1, 5, 0] rfl ?_
        have hz := ih29 (v17, (x5 + 1)) hw
        exact hz
def wX1_cloak_0 (c : Nat → Option Nat) (x0 : Nat) (x1 : Int32) (x2 : Int32) (w : GW) (K : Int32 → GW → Prop) : Prop :=
  gmc w x0 = some 0 ∧ (wX1_isPerson c x0 x1 w (fun r1 => (r1 = 0 → (K ((-1 : Int32)) w)) ∧ (¬ r1 = 0 → (wX1_in c x2 ((0 : Int32)) (nI 495) w (fun r4 => (¬ r4 = 0 → (wX1_cloak_29 c x0 x1 x2 ((-1 : Int32)) ((0 : Int32)) ((0 : Int32)) w K)) ∧ (r4 = 0 → (K ((-1 : Int32)) w)))))))
set_option maxRecDepth 100000 in
theorem bX1_cloak_0 {E : jE} (hE : jOk E cX1_cloak RX1) (hn : E.2.2.2.2 = 6) (hR : jRoom E 7 158) {c : Nat → Option Nat} (hc : E.2.2.1.2.2.2 = c) {b : Nat × Nat} {K : Int32 → GW → Prop} (hK : jRi E .int (K)) {x0 : Nat} {x1 : Int32} {x2 : Int32} {w : GW}  (hw : wX1_cloak_0 c x0 x1 x2 w K) : J E w b [(0, .ref (x0)), (1, .int (x1)), (2, .int (x2))] 0 [] := by
  unfold wX1_cloak_0 at hw
  refine j_aload_n hE 0 dX1_cloak_0 rfl rfl ?_
  refine j_iload_n hE 1 dX1_cloak_1 rfl rfl ?_
  obtain ⟨h2, hw⟩ := hw
  refine jc_ip (jr_V hE hR (As := [.int (x1)]) (rest := []) ((ctX1_isPerson E.1.2.1 E.2.2.1 hc _ _ _ _ hw) E.2.2.2.1) (lw_V q1238 q1240 qs35 q121 q1241) jdX1_isPerson ⟨Nat.le_of_ble_eq_true rfl, Nat.le_of_ble_eq_true rfl⟩ ⟨Nat.zero_le _, Nat.zero_le _⟩ (gmc_gIs h2 (r := (RX1, TX1, 15)) rfl) rfl (Nat.le_of_ble_eq_true rfl) dX1_cloak_2) (fun r1 hw => ?_)
  refine j_b0 ?_
  refine j_if_eq hE 19 dX1_cloak_5 (by decide) (fun c3 => ?_) (fun c3 => ?_)
  · replace hw := hw.1 c3
    refine j_iconst hE dX1_cloak_19 kc_m1 ?_
    exact j_iret hE hK dX1_cloak_20 rfl hw
  · replace hw := hw.2 c3
    refine j_iload_n hE 2 dX1_cloak_8 rfl rfl ?_
    refine j_iconst hE dX1_cloak_9 kc_0 ?_
    refine j_sipush hE dX1_cloak_10 ks_495 ?_
    refine jc_ip (jr_S hE hR (As := [.int (x2), .int ((0 : Int32)), .int (nI 495)]) (rest := []) ((ctX1_in E.1.2.1 E.2.2.1 hc _ _ _ _ _ hw) E.2.2.2.1) (lw_S q1162 q919 q121 q920) jdX1_in ⟨Nat.le_of_ble_eq_true rfl, Nat.le_of_ble_eq_true rfl⟩ ⟨Nat.zero_le _, Nat.zero_le _⟩  rfl (Nat.le_of_ble_eq_true rfl) dX1_cloak_13) (fun r4 hw => ?_)
    refine j_b0 ?_
    refine j_if_ne hE 21 dX1_cloak_16 (by decide) (fun c5 => ?_) (fun c5 => ?_)
    · replace hw := hw.1 c5
      refine j_iconst hE dX1_cloak_21 kc_0 ?_
      refine j_istore_n (L' := [(3, .int ((0 : Int32))), (0, .ref (x0)), (1, .int (x1)), (2, .int (x2))]) hE hn dX1_cloak_22 rfl (Nat.le_of_ble_eq_true rfl) rfl ?_
      refine j_iconst hE dX1_cloak_23 kc_m1 ?_
      refine j_istore (L' := [(4, .int ((-1 : Int32))), (3, .int ((0 : Int32))), (0, .ref (x0)), (1, .int (x1)), (2, .int (x2))]) hE hn dX1_cloak_24 (Nat.le_of_ble_eq_true rfl) rfl ?_
      refine j_iconst hE dX1_cloak_26 kc_0 ?_
      refine j_istore (L' := [(5, .int ((0 : Int32))), (4, .int ((-1 : Int32))), (3, .int ((0 : Int32))), (0, .ref (x0)), (1, .int (x1)), (2, .int (x2))]) hE hn dX1_cloak_27 (Nat.le_of_ble_eq_true rfl) rfl ?_
      refine j_sub [(0, .ref (x0)), (1, .int (x1)), (2, .int (x2)), (3, .int ((0 : Int32))), (4, .int ((-1 : Int32))), (5, .int ((0 : Int32)))] [3, 4, 5, 2, 1, 0] rfl ?_
      have hz := bX1_cloak_29 (b := b) hE hn hR hc hK  hw
      exact hz
    · replace hw := hw.2 c5
      refine j_iconst hE dX1_cloak_19 kc_m1 ?_
      exact j_iret hE hK dX1_cloak_20 rfl hw
theorem jdX1_cloak : jD yX1_cloak 2 := by decide +kernel
abbrev wX1_cloak := wX1_cloak_0
theorem ctX1_cloak (l : Launch) (G : gG) {c : Nat → Option Nat} (hc : G.2.2.2 = c) (x0 : Nat) (x1 : Int32) (x2 : Int32) (w : GW) (K : Int32 → GW → Prop) (hw : wX1_cloak_0 c x0 x1 x2 w K) {F2 L2 : Nat} (h2 : 7 ≤ F2 ∧ 158 ≤ L2 := by exact ⟨Nat.le_refl _, Nat.le_refl _⟩) : CtI l yX1_cloak cX1_cloak 6 .int ({ frames := F2, cells := 0, slots := 0, locals := L2 }) G [.ref (x0), .int (x1), .int (x2)] w (K) :=
  CtI.of RX1 plainc_X1 rfl (Nat.le_of_ble_eq_true rfl) (fun E hE hl hG hn hR hK => bX1_cloak_0 hE hn (hR.le h2.1 h2.2) (by rw [hG]; exact hc) hK hw)
def wX5_alike_5_b (c : Nat → Option Nat) (x0 : Nat) (x1 : Nat) (x2 : Int32) (x3 : Int32) (x4 : Int32) (w0 : GW) (KL5 : Int32 × Int32 → Prop) (K : Int32 → Prop) : Prop :=
  ∃ f1 : Int32, gfm w0 x0 [4] 4 = some (.int f1) ∧ ((f1 ≤ x4 → (K x3)) ∧ (¬ f1 ≤ x4 → (∃ f4 : Option Nat, gfm w0 x1 [4] 0 = some (va_rf f4) ∧ (∃ a6 : Nat, f4 = some a6 ∧ (∃ (n7 : Nat) (f8 : Nat → Int32), gai w0 a6 0 = some (n7, f8) ∧ vp_in x2 n7 ∧ (∃ f11 : Option Nat, gfm w0 x1 [4] 1 = some (va_rf f11) ∧ (∃ a13 : Nat, f11 = some a13 ∧ (∃ (n14 : Nat) (f15 : Nat → Int32), gai w0 a13 0 = some (n14, f15) ∧ vp_in x2 n14 ∧ (gmc w0 x0 = some 4 ∧ (wX5_isOf c x0 x4 (rd f8 x2) (rd f15 x2) w0 (fun r18 => (r18 = 0 → (KL5 (x3, (x4 + 1)))) ∧ (¬ r18 = 0 → (∃ f21 : Option Nat, gfm w0 x0 [4] 2 = some (va_rf f21) ∧ (∃ a23 : Nat, f21 = some a23 ∧ (∃ (n24 : Nat) (f25 : Nat → Int32), gai w0 a23 0 = some (n24, f25) ∧ vp_in x4 n24 ∧ (∃ f28 : Option Nat, gfm w0 x1 [4] 2 = some (va_rf f28) ∧ (∃ a30 : Nat, f28 = some a30 ∧ (∃ (n31 : Nat) (f32 : Nat → Int32), gai w0 a30 0 = some (n31, f32) ∧ vp_in x2 n31 ∧ ((¬ (rd f25 x4) = (rd f32 x2) → (KL5 (x3, (x4 + 1)))) ∧ ((rd f25 x4) = (rd f32 x2) → (KL5 ((x3 + 1), (x4 + 1)))))))))))))))))))))))
def wX5_alike_5 (c : Nat → Option Nat) (x0 : Nat) (x1 : Nat) (x2 : Int32) (x3 : Int32) (x4 : Int32) (w0 : GW) (K : Int32 → Prop) : Prop := lfp (σ := Int32 × Int32) (fun KL s => wX5_alike_5_b c x0 x1 x2 s.1 s.2 w0 KL K) (x3, x4)
set_option maxRecDepth 100000 in
theorem bX5_alike_5 {E : jE} (hE : jOk E cX5_alike RX5) (hn : E.2.2.2.2 = 5) (hR : jRoom E 1 23) {c : Nat → Option Nat} (hc : E.2.2.1.2.2.2 = c) {b : Nat × Nat} {w0 : GW} {K : Int32 → Prop} (hK : jRi E .int (KPI w0 K)) {x0 : Nat} {x1 : Nat} {x2 : Int32} {x3 : Int32} {x4 : Int32}  (hw : wX5_alike_5 c x0 x1 x2 x3 x4 w0 K) : J E w0 b [(0, .ref (x0)), (1, .ref (x1)), (2, .int (x2)), (3, .int (x3)), (4, .int (x4))] 5 [] := by
  refine lfp_sound (σ := Int32 × Int32) (F := fun KL s => wX5_alike_5_b c x0 x1 x2 s.1 s.2 w0 KL K) (P := fun s => J E w0 b [(0, .ref (x0)), (1, .ref (x1)), (2, .int (x2)), (3, .int (s.1)), (4, .int (s.2))] 5 []) ?_ hw
  clear hw
  rintro KL5 ⟨x3, x4⟩ hw ih5
  have hw : wX5_alike_5_b c x0 x1 x2 x3 x4 w0 KL5 K := hw
  unfold wX5_alike_5_b at hw
  refine j_iload hE 4 dX5_alike_5 rfl ?_
  refine j_aload_n hE 0 dX5_alike_7 rfl rfl ?_
  obtain ⟨f1, h2, hw⟩ := hw
  refine j_getM hE gf_GlassStreet_Marks_many q301 h2 dX5_alike_8 ?_
  refine j_icmp_ge hE 60 dX5_alike_11 (by decide) (fun c3 => ?_) (fun c3 => ?_)
  · replace hw := hw.1 c3
    refine j_iload_n hE 3 dX5_alike_60 rfl rfl ?_
    exact j_iret hE hK dX5_alike_61 rfl ⟨rfl, hw⟩
  · replace hw := hw.2 c3
    refine j_aload_n hE 0 dX5_alike_14 rfl rfl ?_
    refine j_iload hE 4 dX5_alike_15 rfl ?_
    refine j_aload_n hE 1 dX5_alike_17 rfl rfl ?_
    obtain ⟨f4, h5, hw⟩ := hw
    refine j_getM hE gf_GlassStreet_Marks_who q292 h5 dX5_alike_18 ?_
    refine j_iload_n hE 2 dX5_alike_21 rfl rfl ?_
    obtain ⟨a6, e9, hx⟩ := hw
    subst e9
    have hw := hx
    clear hx
    obtain ⟨n7, f8, h9, h10, hw⟩ := hw
    refine j_aldI hE h9 h10 dX5_alike_22 ?_
    refine j_aload_n hE 1 dX5_alike_23 rfl rfl ?_
    obtain ⟨f11, h12, hw⟩ := hw
    refine j_getM hE gf_GlassStreet_Marks_deed q294 h12 dX5_alike_24 ?_
    refine j_iload_n hE 2 dX5_alike_27 rfl rfl ?_
    obtain ⟨a13, e9, hx⟩ := hw
    subst e9
    have hw := hx
    clear hx
    obtain ⟨n14, f15, h16, h17, hw⟩ := hw
    refine j_aldI hE h16 h17 dX5_alike_28 ?_
    obtain ⟨h19, hw⟩ := hw
    refine jc_ip (jr_V hE hR (As := [.int (x4), .int (rd f8 x2), .int (rd f15 x2)]) (rest := []) ((ctX5_isOf E.1.2.1 E.2.2.1 hc _ _ _ _ _ _ hw) E.2.2.2.1) (lw_V q1497 q1425 q1426 q128 q1427) jdX5_isOf ⟨Nat.le_of_ble_eq_true rfl, Nat.le_of_ble_eq_true rfl⟩ ⟨Nat.zero_le _, Nat.zero_le _⟩ (gmc_gIs h19 (r := (RX5, TX5, 5)) rfl) rfl (Nat.le_of_ble_eq_true rfl) dX5_alike_29) (fun r18 hw => ?_)
    refine j_b0 ?_
    refine j_if_eq hE 54 dX5_alike_32 (by decide) (fun c20 => ?_) (fun c20 => ?_)
    · replace hw := hw.1 c20
      refine j_iinc (L' := [(4, .int (x4 + 1)), (0, .ref (x0)), (1, .ref (x1)), (2, .int (x2)), (3, .int (x3))]) hE hn 4 dX5_alike_54 rfl (congrArg (x4 + ·) kc_1) (Nat.le_of_ble_eq_true rfl) rfl ?_
      refine j_goto hE 5 dX5_alike_57 (by decide) ?_
      refine j_sub [(0, .ref (x0)), (1, .ref (x1)), (2, .int (x2)), (3, .int (x3)), (4, .int (x4 + 1))] [1, 2, 3, 4, 0] rfl ?_
      have hz := ih5 (x3, (x4 + 1)) hw
      exact hz
    · replace hw := hw.2 c20
      refine j_aload_n hE 0 dX5_alike_35 rfl rfl ?_
      obtain ⟨f21, h22, hw⟩ := hw
      refine j_getM hE gf_GlassStreet_Marks_cell q296 h22 dX5_alike_36 ?_
      refine j_iload hE 4 dX5_alike_39 rfl ?_
      obtain ⟨a23, e9, hx⟩ := hw
      subst e9
      have hw := hx
      clear hx
      obtain ⟨n24, f25, h26, h27, hw⟩ := hw
      refine j_aldI hE h26 h27 dX5_alike_41 ?_
      refine j_aload_n hE 1 dX5_alike_42 rfl rfl ?_
      obtain ⟨f28, h29, hw⟩ := hw
      refine j_getM hE gf_GlassStreet_Marks_cell q296 h29 dX5_alike_43 ?_
      refine j_iload_n hE 2 dX5_alike_46 rfl rfl ?_
      obtain ⟨a30, e9, hx⟩ := hw
      subst e9
      have hw := hx
      clear hx
      obtain ⟨n31, f32, h33, h34, hw⟩ := hw
      refine j_aldI hE h33 h34 dX5_alike_47 ?_
      refine j_icmp_ne hE 54 dX5_alike_48 (by decide) (fun c35 => ?_) (fun c35 => ?_)
      · replace hw := hw.1 c35
        refine j_iinc (L' := [(4, .int (x4 + 1)), (0, .ref (x0)), (1, .ref (x1)), (2, .int (x2)), (3, .int (x3))]) hE hn 4 dX5_alike_54 rfl (congrArg (x4 + ·) kc_1) (Nat.le_of_ble_eq_true rfl) rfl ?_
        refine j_goto hE 5 dX5_alike_57 (by decide) ?_
        refine j_sub [(0, .ref (x0)), (1, .ref (x1)), (2, .int (x2)), (3, .int (x3)), (4, .int (x4 + 1))] [1, 2, 3, 4, 0] rfl ?_
        have hz := ih5 (x3, (x4 + 1)) hw
        exact hz
      · replace hw := hw.2 c35
        refine j_iinc (L' := [(3, .int (x3 + 1)), (0, .ref (x0)), (1, .ref (x1)), (2, .int (x2)), (4, .int (x4))]) hE hn 3 dX5_alike_51 rfl (congrArg (x3 + ·) kc_1) (Nat.le_of_ble_eq_true rfl) rfl ?_
        refine j_iinc (L' := [(4, .int (x4 + 1)), (3, .int (x3 + 1)), (0, .ref (x0)), (1, .ref (x1)), (2, .int (x2))]) hE hn 4 dX5_alike_54 rfl (congrArg (x4 + ·) kc_1) (Nat.le_of_ble_eq_true rfl) rfl ?_
        refine j_goto hE 5 dX5_alike_57 (by decide) ?_
        refine j_sub [(0, .ref (x0)), (1, .ref (x1)), (2, .int (x2)), (3, .int (x3 + 1)), (4, .int (x4 + 1))] [2, 3, 4, 1, 0] rfl ?_
        have hz := ih5 ((x3 + 1), (x4 + 1)) hw
        exact hz
def wX5_alike_0 (c : Nat → Option Nat) (x0 : Nat) (x1 : Nat) (x2 : Int32) (w0 : GW) (K : Int32 → Prop) : Prop :=
  wX5_alike_5 c x0 x1 x2 ((0 : Int32)) ((0 : Int32)) w0 K
set_option maxRecDepth 100000 in
theorem bX5_alike_0 {E : jE} (hE : jOk E cX5_alike RX5) (hn : E.2.2.2.2 = 5) (hR : jRoom E 1 23) {c : Nat → Option Nat} (hc : E.2.2.1.2.2.2 = c) {b : Nat × Nat} {w0 : GW} {K : Int32 → Prop} (hK : jRi E .int (KPI w0 K)) {x0 : Nat} {x1 : Nat} {x2 : Int32}  (hw : wX5_alike_0 c x0 x1 x2 w0 K) : J E w0 b [(0, .ref (x0)), (1, .ref (x1)), (2, .int (x2))] 0 [] := by
  unfold wX5_alike_0 at hw
  refine j_iconst hE dX5_alike_0 kc_0 ?_
  refine j_istore_n (L' := [(3, .int ((0 : Int32))), (0, .ref (x0)), (1, .ref (x1)), (2, .int (x2))]) hE hn dX5_alike_1 rfl (Nat.le_of_ble_eq_true rfl) rfl ?_
  refine j_iconst hE dX5_alike_2 kc_0 ?_
  refine j_istore (L' := [(4, .int ((0 : Int32))), (3, .int ((0 : Int32))), (0, .ref (x0)), (1, .ref (x1)), (2, .int (x2))]) hE hn dX5_alike_3 (Nat.le_of_ble_eq_true rfl) rfl ?_
  refine j_sub [(0, .ref (x0)), (1, .ref (x1)), (2, .int (x2)), (3, .int ((0 : Int32))), (4, .int ((0 : Int32)))] [2, 3, 4, 1, 0] rfl ?_
  have hz := bX5_alike_5 (b := b) hE hn hR hc hK  hw
  exact hz
theorem jdX5_alike : jD yX5_alike 2 := by decide +kernel
abbrev wX5_alike := wX5_alike_0
theorem ctX5_alike (l : Launch) (G : gG) {c : Nat → Option Nat} (hc : G.2.2.2 = c) (x0 : Nat) (x1 : Nat) (x2 : Int32) (w0 : GW) (K : Int32 → Prop) (hw : wX5_alike_0 c x0 x1 x2 w0 K) {F2 L2 : Nat} (h2 : 1 ≤ F2 ∧ 23 ≤ L2 := by exact ⟨Nat.le_refl _, Nat.le_refl _⟩) : CtI l yX5_alike cX5_alike 5 .int ({ frames := F2, cells := 0, slots := 0, locals := L2 }) G [.ref (x0), .ref (x1), .int (x2)] w0 (KPI w0 K) :=
  CtI.of RX5 plainc_X5 rfl (Nat.le_of_ble_eq_true rfl) (fun E hE hl hG hn hR hK => bX5_alike_0 hE hn (hR.le h2.1 h2.2) (by rw [hG]; exact hc) hK hw)
def wX1_twin_65_b (c : Nat → Option Nat) (x3 : Option Nat) (x4 : Option Nat) (x5 : Int32) (x6 : Int32) (x7 : Int32) (x8 : Int32) (w0 : GW) (KL65 : Int32 × Int32 → Prop) (KL50 : Int32 × Int32 → Prop) (K : Int32 → Prop) : Prop :=
  (x6 ≤ x8 → (∃ a2 : Nat, x4 = some a2 ∧ (∃ a3 : Nat, x3 = some a3 ∧ (gmc w0 a2 = some 4 ∧ (wX5_alike c a2 a3 x6 w0 (fun r4 => (r4 ≤ x7 → (KL50 (x5, (x6 + 1)))) ∧ (¬ r4 ≤ x7 → (KL50 ((x5 + 1), (x6 + 1)))))))))) ∧ (¬ x6 ≤ x8 → (∃ a7 : Nat, x3 = some a7 ∧ (∃ f8 : Option Nat, gfm w0 a7 [4] 0 = some (va_rf f8) ∧ (∃ a10 : Nat, f8 = some a10 ∧ (∃ (n11 : Nat) (f12 : Nat → Int32), gai w0 a10 0 = some (n11, f12) ∧ vp_in x6 n11 ∧ (∃ f15 : Option Nat, gfm w0 a7 [4] 1 = some (va_rf f15) ∧ (∃ a17 : Nat, f15 = some a17 ∧ (∃ (n18 : Nat) (f19 : Nat → Int32), gai w0 a17 0 = some (n18, f19) ∧ vp_in x6 n18 ∧ (gmc w0 a7 = some 4 ∧ (wX5_isOf c a7 x8 (rd f12 x6) (rd f19 x6) w0 (fun r22 => (r22 = 0 → (KL65 (x7, (x8 + 1)))) ∧ (¬ r22 = 0 → (∃ f25 : Option Nat, gfm w0 a7 [4] 2 = some (va_rf f25) ∧ (∃ a27 : Nat, f25 = some a27 ∧ (∃ (n28 : Nat) (f29 : Nat → Int32), gai w0 a27 0 = some (n28, f29) ∧ vp_in x8 n28 ∧ (∃ f32 : Option Nat, gfm w0 a7 [4] 2 = some (va_rf f32) ∧ (∃ a34 : Nat, f32 = some a34 ∧ (∃ (n35 : Nat) (f36 : Nat → Int32), gai w0 a34 0 = some (n35, f36) ∧ vp_in x6 n35 ∧ ((¬ (rd f29 x8) = (rd f36 x6) → (KL65 (x7, (x8 + 1)))) ∧ ((rd f29 x8) = (rd f36 x6) → (KL65 ((x7 + 1), (x8 + 1)))))))))))))))))))))))
def wX1_twin_65 (c : Nat → Option Nat) (x3 : Option Nat) (x4 : Option Nat) (x5 : Int32) (x6 : Int32) (x7 : Int32) (x8 : Int32) (w0 : GW) (KL50 : Int32 × Int32 → Prop) (K : Int32 → Prop) : Prop := lfp (σ := Int32 × Int32) (fun KL s => wX1_twin_65_b c x3 x4 x5 x6 s.1 s.2 w0 KL KL50 K) (x7, x8)
set_option maxRecDepth 100000 in
theorem bX1_twin_65 {E : jE} (hE : jOk E cX1_twin RX1) (hn : E.2.2.2.2 = 9) (hR : jRoom E 3 61) {c : Nat → Option Nat} (hc : E.2.2.1.2.2.2 = c) {b : Nat × Nat} {w0 : GW} {K : Int32 → Prop} (hK : jRi E .int (KPI w0 K)) {x3 : Option Nat} {x4 : Option Nat} {x5 : Int32} {x6 : Int32} {x7 : Int32} {x8 : Int32} {KL50 : Int32 × Int32 → Prop} (ih50 : ∀ s : Int32 × Int32, KL50 s → J E w0 b [(3, va_rf (x3)), (4, va_rf (x4)), (5, .int (s.1)), (6, .int (s.2))] 50 []) (hw : wX1_twin_65 c x3 x4 x5 x6 x7 x8 w0 KL50 K) : J E w0 b [(3, va_rf (x3)), (4, va_rf (x4)), (5, .int (x5)), (6, .int (x6)), (7, .int (x7)), (8, .int (x8))] 65 [] := by
  refine lfp_sound (σ := Int32 × Int32) (F := fun KL s => wX1_twin_65_b c x3 x4 x5 x6 s.1 s.2 w0 KL KL50 K) (P := fun s => J E w0 b [(3, va_rf (x3)), (4, va_rf (x4)), (5, .int (x5)), (6, .int (x6)), (7, .int (s.1)), (8, .int (s.2))] 65 []) ?_ hw
  clear hw
  rintro KL65 ⟨x7, x8⟩ hw ih65
  have hw : wX1_twin_65_b c x3 x4 x5 x6 x7 x8 w0 KL65 KL50 K := hw
  unfold wX1_twin_65_b at hw
  refine j_iload hE 5 dX1_twin_65 rfl ?_
  refine j_iload hE 3 dX1_twin_67 rfl ?_
  refine j_icmp_ge hE 121 dX1_twin_69 (by decide) (fun c1 => ?_) (fun c1 => ?_)
  · replace hw := hw.1 c1
    refine j_iload hE 4 dX1_twin_121 rfl ?_
    refine j_aloadq hE 1 dX1_twin_123 rfl ?_
    refine j_aload_nq hE 0 dX1_twin_125 rfl rfl ?_
    refine j_iload hE 3 dX1_twin_126 rfl ?_
    obtain ⟨a2, e9, hx⟩ := hw
    subst e9
    have hw := hx
    clear hx
    obtain ⟨a3, e9, hx⟩ := hw
    subst e9
    have hw := hx
    clear hx
    obtain ⟨h5, hw⟩ := hw
    refine jc_ip (jr_V hE hR (As := [.ref (a3), .int (x6)]) (rest := [.int (x7)]) ((ctX5_alike E.1.2.1 E.2.2.1 hc _ _ _ _ _ hw) E.2.2.2.1) (lw_V q1493 q1494 q1495 q128 q1496) jdX5_alike ⟨Nat.le_of_ble_eq_true rfl, Nat.le_of_ble_eq_true rfl⟩ ⟨Nat.zero_le _, Nat.zero_le _⟩ (gmc_gIs h5 (r := (RX5, TX5, 5)) rfl) rfl (Nat.le_of_ble_eq_true rfl) dX1_twin_128) (fun r4 hw => ?_)
    refine j_b0 ?_
    refine j_icmp_ge hE 137 dX1_twin_131 (by decide) (fun c6 => ?_) (fun c6 => ?_)
    · replace hw := hw.1 c6
      refine j_iinc (L' := [(6, .int (x6 + 1)), (3, .ref (a3)), (4, .ref (a2)), (5, .int (x5)), (7, .int (x7)), (8, .int (x8))]) hE hn 3 dX1_twin_137 rfl (congrArg (x6 + ·) kc_1) (Nat.le_of_ble_eq_true rfl) rfl ?_
      refine j_goto hE 50 dX1_twin_140 (by decide) ?_
      refine j_sub [(3, .ref (a3)), (4, .ref (a2)), (5, .int (x5)), (6, .int (x6 + 1))] [1, 2, 3, 0] rfl ?_
      have hz := ih50 (x5, (x6 + 1)) hw
      exact hz
    · replace hw := hw.2 c6
      refine j_iinc (L' := [(5, .int (x5 + 1)), (3, .ref (a3)), (4, .ref (a2)), (6, .int (x6)), (7, .int (x7)), (8, .int (x8))]) hE hn 2 dX1_twin_134 rfl (congrArg (x5 + ·) kc_1) (Nat.le_of_ble_eq_true rfl) rfl ?_
      refine j_iinc (L' := [(6, .int (x6 + 1)), (5, .int (x5 + 1)), (3, .ref (a3)), (4, .ref (a2)), (7, .int (x7)), (8, .int (x8))]) hE hn 3 dX1_twin_137 rfl (congrArg (x6 + ·) kc_1) (Nat.le_of_ble_eq_true rfl) rfl ?_
      refine j_goto hE 50 dX1_twin_140 (by decide) ?_
      refine j_sub [(3, .ref (a3)), (4, .ref (a2)), (5, .int (x5 + 1)), (6, .int (x6 + 1))] [2, 3, 1, 0] rfl ?_
      have hz := ih50 ((x5 + 1), (x6 + 1)) hw
      exact hz
  · replace hw := hw.2 c1
    refine j_aload_nq hE 0 dX1_twin_72 rfl rfl ?_
    refine j_iload hE 5 dX1_twin_73 rfl ?_
    refine j_aload_nq hE 0 dX1_twin_75 rfl rfl ?_
    obtain ⟨a7, e9, hx⟩ := hw
    subst e9
    have hw := hx
    clear hx
    obtain ⟨f8, h9, hw⟩ := hw
    refine j_getMN hE gf_GlassStreet_Marks_who q293 h9 dX1_twin_76 ?_
    refine j_iload hE 3 dX1_twin_79 rfl ?_
    obtain ⟨a10, e9, hx⟩ := hw
    subst e9
    have hw := hx
    clear hx
    obtain ⟨n11, f12, h13, h14, hw⟩ := hw
    refine j_aldI hE h13 h14 dX1_twin_81 ?_
    refine j_aload_n hE 0 dX1_twin_82 rfl rfl ?_
    obtain ⟨f15, h16, hw⟩ := hw
    refine j_getMN hE gf_GlassStreet_Marks_deed q295 h16 dX1_twin_83 ?_
    refine j_iload hE 3 dX1_twin_86 rfl ?_
    obtain ⟨a17, e9, hx⟩ := hw
    subst e9
    have hw := hx
    clear hx
    obtain ⟨n18, f19, h20, h21, hw⟩ := hw
    refine j_aldI hE h20 h21 dX1_twin_88 ?_
    obtain ⟨h23, hw⟩ := hw
    refine jc_ip (jr_V hE hR (As := [.int (x8), .int (rd f12 x6), .int (rd f19 x6)]) (rest := []) ((ctX5_isOf E.1.2.1 E.2.2.1 hc _ _ _ _ _ _ hw) E.2.2.2.1) (lw_V q1424 q1425 q1426 q128 q1427) jdX5_isOf ⟨Nat.le_of_ble_eq_true rfl, Nat.le_of_ble_eq_true rfl⟩ ⟨Nat.zero_le _, Nat.zero_le _⟩ (gmc_gIs h23 (r := (RX5, TX5, 5)) rfl) rfl (Nat.le_of_ble_eq_true rfl) dX1_twin_89) (fun r22 hw => ?_)
    refine j_b0 ?_
    refine j_if_eq hE 115 dX1_twin_92 (by decide) (fun c24 => ?_) (fun c24 => ?_)
    · replace hw := hw.1 c24
      refine j_iinc (L' := [(8, .int (x8 + 1)), (3, .ref (a7)), (4, va_rf (x4)), (5, .int (x5)), (6, .int (x6)), (7, .int (x7))]) hE hn 5 dX1_twin_115 rfl (congrArg (x8 + ·) kc_1) (Nat.le_of_ble_eq_true rfl) rfl ?_
      refine j_goto hE 65 dX1_twin_118 (by decide) ?_
      refine j_sub [(3, .ref (a7)), (4, va_rf (x4)), (5, .int (x5)), (6, .int (x6)), (7, .int (x7)), (8, .int (x8 + 1))] [1, 2, 3, 4, 5, 0] rfl ?_
      have hz := ih65 (x7, (x8 + 1)) hw
      exact hz
    · replace hw := hw.2 c24
      refine j_aload_n hE 0 dX1_twin_95 rfl rfl ?_
      obtain ⟨f25, h26, hw⟩ := hw
      refine j_getMN hE gf_GlassStreet_Marks_cell q297 h26 dX1_twin_96 ?_
      refine j_iload hE 5 dX1_twin_99 rfl ?_
      obtain ⟨a27, e9, hx⟩ := hw
      subst e9
      have hw := hx
      clear hx
      obtain ⟨n28, f29, h30, h31, hw⟩ := hw
      refine j_aldI hE h30 h31 dX1_twin_101 ?_
      refine j_aload_n hE 0 dX1_twin_102 rfl rfl ?_
      obtain ⟨f32, h33, hw⟩ := hw
      refine j_getMN hE gf_GlassStreet_Marks_cell q297 h33 dX1_twin_103 ?_
      refine j_iload hE 3 dX1_twin_106 rfl ?_
      obtain ⟨a34, e9, hx⟩ := hw
      subst e9
      have hw := hx
      clear hx
      obtain ⟨n35, f36, h37, h38, hw⟩ := hw
      refine j_aldI hE h37 h38 dX1_twin_108 ?_
      refine j_icmp_ne hE 115 dX1_twin_109 (by decide) (fun c39 => ?_) (fun c39 => ?_)
      · replace hw := hw.1 c39
        refine j_iinc (L' := [(8, .int (x8 + 1)), (3, .ref (a7)), (4, va_rf (x4)), (5, .int (x5)), (6, .int (x6)), (7, .int (x7))]) hE hn 5 dX1_twin_115 rfl (congrArg (x8 + ·) kc_1) (Nat.le_of_ble_eq_true rfl) rfl ?_
        refine j_goto hE 65 dX1_twin_118 (by decide) ?_
        refine j_sub [(3, .ref (a7)), (4, va_rf (x4)), (5, .int (x5)), (6, .int (x6)), (7, .int (x7)), (8, .int (x8 + 1))] [1, 2, 3, 4, 5, 0] rfl ?_
        have hz := ih65 (x7, (x8 + 1)) hw
        exact hz
      · replace hw := hw.2 c39
        refine j_iinc (L' := [(7, .int (x7 + 1)), (3, .ref (a7)), (4, va_rf (x4)), (5, .int (x5)), (6, .int (x6)), (8, .int (x8))]) hE hn 4 dX1_twin_112 rfl (congrArg (x7 + ·) kc_1) (Nat.le_of_ble_eq_true rfl) rfl ?_
        refine j_iinc (L' := [(8, .int (x8 + 1)), (7, .int (x7 + 1)), (3, .ref (a7)), (4, va_rf (x4)), (5, .int (x5)), (6, .int (x6))]) hE hn 5 dX1_twin_115 rfl (congrArg (x8 + ·) kc_1) (Nat.le_of_ble_eq_true rfl) rfl ?_
        refine j_goto hE 65 dX1_twin_118 (by decide) ?_
        refine j_sub [(3, .ref (a7)), (4, va_rf (x4)), (5, .int (x5)), (6, .int (x6)), (7, .int (x7 + 1)), (8, .int (x8 + 1))] [2, 3, 4, 5, 1, 0] rfl ?_
        have hz := ih65 ((x7 + 1), (x8 + 1)) hw
        exact hz
def wX1_twin_50_b (c : Nat → Option Nat) (x3 : Option Nat) (x4 : Option Nat) (x5 : Int32) (x6 : Int32) (w0 : GW) (KL50 : Int32 × Int32 → Prop) (K : Int32 → Prop) : Prop :=
  ∃ a1 : Nat, x3 = some a1 ∧ (∃ f2 : Int32, gfm w0 a1 [4] 4 = some (.int f2) ∧ ((f2 ≤ x6 → (K x5)) ∧ (¬ f2 ≤ x6 → (wX1_twin_65 c (some a1) x4 x5 x6 ((0 : Int32)) ((0 : Int32)) w0 KL50 K))))
def wX1_twin_50 (c : Nat → Option Nat) (x3 : Option Nat) (x4 : Option Nat) (x5 : Int32) (x6 : Int32) (w0 : GW) (K : Int32 → Prop) : Prop := lfp (σ := Int32 × Int32) (fun KL s => wX1_twin_50_b c x3 x4 s.1 s.2 w0 KL K) (x5, x6)
set_option maxRecDepth 100000 in
theorem bX1_twin_50 {E : jE} (hE : jOk E cX1_twin RX1) (hn : E.2.2.2.2 = 9) (hR : jRoom E 3 61) {c : Nat → Option Nat} (hc : E.2.2.1.2.2.2 = c) {b : Nat × Nat} {w0 : GW} {K : Int32 → Prop} (hK : jRi E .int (KPI w0 K)) {x3 : Option Nat} {x4 : Option Nat} {x5 : Int32} {x6 : Int32}  (hw : wX1_twin_50 c x3 x4 x5 x6 w0 K) : J E w0 b [(3, va_rf (x3)), (4, va_rf (x4)), (5, .int (x5)), (6, .int (x6))] 50 [] := by
  refine lfp_sound (σ := Int32 × Int32) (F := fun KL s => wX1_twin_50_b c x3 x4 s.1 s.2 w0 KL K) (P := fun s => J E w0 b [(3, va_rf (x3)), (4, va_rf (x4)), (5, .int (s.1)), (6, .int (s.2))] 50 []) ?_ hw
  clear hw
  rintro KL50 ⟨x5, x6⟩ hw ih50
  have hw : wX1_twin_50_b c x3 x4 x5 x6 w0 KL50 K := hw
  unfold wX1_twin_50_b at hw
  refine j_iload hE 3 dX1_twin_50 rfl ?_
  refine j_aload_nq hE 0 dX1_twin_52 rfl rfl ?_
  obtain ⟨a1, e9, hx⟩ := hw
  subst e9
  have hw := hx
  clear hx
  obtain ⟨f2, h3, hw⟩ := hw
  refine j_getMN hE gf_GlassStreet_Marks_many q303 h3 dX1_twin_53 ?_
  refine j_icmp_ge hE 143 dX1_twin_56 (by decide) (fun c4 => ?_) (fun c4 => ?_)
  · replace hw := hw.1 c4
    refine j_iload hE 2 dX1_twin_143 rfl ?_
    exact j_iret hE hK dX1_twin_145 rfl ⟨rfl, hw⟩
  · replace hw := hw.2 c4
    refine j_iconst hE dX1_twin_59 kc_0 ?_
    refine j_istore (L' := [(7, .int ((0 : Int32))), (3, .ref (a1)), (4, va_rf (x4)), (5, .int (x5)), (6, .int (x6))]) hE hn dX1_twin_60 (Nat.le_of_ble_eq_true rfl) rfl ?_
    refine j_iconst hE dX1_twin_62 kc_0 ?_
    refine j_istore (L' := [(8, .int ((0 : Int32))), (7, .int ((0 : Int32))), (3, .ref (a1)), (4, va_rf (x4)), (5, .int (x5)), (6, .int (x6))]) hE hn dX1_twin_63 (Nat.le_of_ble_eq_true rfl) rfl ?_
    refine j_sub [(3, .ref (a1)), (4, va_rf (x4)), (5, .int (x5)), (6, .int (x6)), (7, .int ((0 : Int32))), (8, .int ((0 : Int32)))] [2, 3, 4, 5, 1, 0] rfl ?_
    have hz := bX1_twin_65 (b := b) hE hn hR hc hK ih50 hw
    exact hz
def wX1_twin_0 (c : Nat → Option Nat) (x0 : Nat) (x1 : Int32) (x2 : Int32) (w0 : GW) (K : Int32 → Prop) : Prop :=
  gmc w0 x0 = some 0 ∧ (wX1_isPane c x0 x1 w0 (fun r1 => (r1 = 0 → (K ((-1 : Int32)))) ∧ (¬ r1 = 0 → (gmc w0 x0 = some 0 ∧ (wX1_isPane c x0 x2 w0 (fun r4 => (r4 = 0 → (K ((-1 : Int32)))) ∧ (¬ r4 = 0 → ((¬ x1 = x2 → (∃ f8 : Option Nat, gfm w0 x0 [0] 4 = some (va_rf f8) ∧ (∃ a10 : Nat, f8 = some a10 ∧ (∃ f11 : Option Nat, gfm w0 a10 [3] 1 = some (va_rf f11) ∧ (∃ a13 : Nat, f11 = some a13 ∧ (∃ (n14 : Nat) (f15 : Nat → Option Nat), gaq w0 a13 5 = some (n14, f15) ∧ vp_in x1 n14 ∧ (∀ r18 : Option Nat, f15 (x1).toNatClampNeg = r18 → (∃ f19 : Option Nat, gfm w0 x0 [0] 4 = some (va_rf f19) ∧ (∃ a21 : Nat, f19 = some a21 ∧ (∃ f22 : Option Nat, gfm w0 a21 [3] 1 = some (va_rf f22) ∧ (∃ a24 : Nat, f22 = some a24 ∧ (∃ (n25 : Nat) (f26 : Nat → Option Nat), gaq w0 a24 5 = some (n25, f26) ∧ vp_in x2 n25 ∧ (∀ r29 : Option Nat, f26 (x2).toNatClampNeg = r29 → (wX1_twin_50 c r18 r29 ((0 : Int32)) ((0 : Int32)) w0 K)))))))))))))) ∧ (x1 = x2 → (K ((-1 : Int32))))))))))))
set_option maxRecDepth 100000 in
theorem bX1_twin_0 {E : jE} (hE : jOk E cX1_twin RX1) (hn : E.2.2.2.2 = 9) (hR : jRoom E 3 61) {c : Nat → Option Nat} (hc : E.2.2.1.2.2.2 = c) {b : Nat × Nat} {w0 : GW} {K : Int32 → Prop} (hK : jRi E .int (KPI w0 K)) {x0 : Nat} {x1 : Int32} {x2 : Int32}  (hw : wX1_twin_0 c x0 x1 x2 w0 K) : J E w0 b [(0, .ref (x0)), (1, .int (x1)), (2, .int (x2))] 0 [] := by
  unfold wX1_twin_0 at hw
  refine j_aload_n hE 0 dX1_twin_0 rfl rfl ?_
  refine j_iload_n hE 1 dX1_twin_1 rfl rfl ?_
  obtain ⟨h2, hw⟩ := hw
  refine jc_ip (jr_V hE hR (As := [.int (x1)]) (rest := []) ((ctX1_isPane E.1.2.1 E.2.2.1 hc _ _ _ _ hw) E.2.2.2.1) (lw_V q1153 q1155 qs30 q121 q1156) jdX1_isPane ⟨Nat.le_of_ble_eq_true rfl, Nat.le_of_ble_eq_true rfl⟩ ⟨Nat.zero_le _, Nat.zero_le _⟩ (gmc_gIs h2 (r := (RX1, TX1, 15)) rfl) rfl (Nat.le_of_ble_eq_true rfl) dX1_twin_2) (fun r1 hw => ?_)
  refine j_b0 ?_
  refine j_if_eq hE 21 dX1_twin_5 (by decide) (fun c3 => ?_) (fun c3 => ?_)
  · replace hw := hw.1 c3
    refine j_iconst hE dX1_twin_21 kc_m1 ?_
    exact j_iret hE hK dX1_twin_22 rfl ⟨rfl, hw⟩
  · replace hw := hw.2 c3
    refine j_aload_n hE 0 dX1_twin_8 rfl rfl ?_
    refine j_iload_n hE 2 dX1_twin_9 rfl rfl ?_
    obtain ⟨h5, hw⟩ := hw
    refine jc_ip (jr_V hE hR (As := [.int (x2)]) (rest := []) ((ctX1_isPane E.1.2.1 E.2.2.1 hc _ _ _ _ hw) E.2.2.2.1) (lw_V q1153 q1155 qs30 q121 q1156) jdX1_isPane ⟨Nat.le_of_ble_eq_true rfl, Nat.le_of_ble_eq_true rfl⟩ ⟨Nat.zero_le _, Nat.zero_le _⟩ (gmc_gIs h5 (r := (RX1, TX1, 15)) rfl) rfl (Nat.le_of_ble_eq_true rfl) dX1_twin_10) (fun r4 hw => ?_)
    refine j_b0 ?_
    refine j_if_eq hE 21 dX1_twin_13 (by decide) (fun c6 => ?_) (fun c6 => ?_)
    · replace hw := hw.1 c6
      refine j_iconst hE dX1_twin_21 kc_m1 ?_
      exact j_iret hE hK dX1_twin_22 rfl ⟨rfl, hw⟩
    · replace hw := hw.2 c6
      refine j_iload_n hE 1 dX1_twin_16 rfl rfl ?_
      refine j_iload_n hE 2 dX1_twin_17 rfl rfl ?_
      refine j_icmp_ne hE 23 dX1_twin_18 (by decide) (fun c7 => ?_) (fun c7 => ?_)
      · replace hw := hw.1 c7
        refine j_aload_n hE 0 dX1_twin_23 rfl rfl ?_
        obtain ⟨f8, h9, hw⟩ := hw
        refine j_getM hE gf_GlassStreet_state q351 h9 dX1_twin_24 ?_
        obtain ⟨a10, e9, hx⟩ := hw
        subst e9
        have hw := hx
        clear hx
        obtain ⟨f11, h12, hw⟩ := hw
        refine j_getMN hE gf_GlassStreet_State_marks q320 h12 dX1_twin_27 ?_
        refine j_iload_n hE 1 dX1_twin_30 rfl rfl ?_
        obtain ⟨a13, e9, hx⟩ := hw
        subst e9
        have hw := hx
        clear hx
        obtain ⟨n14, f15, h16, h17, hw⟩ := hw
        obtain ⟨r18, e_r18⟩ : ∃ r9, f15 (x1).toNatClampNeg = r9 := ⟨_, rfl⟩
        replace hw := hw r18 e_r18
        refine j_aldQ hE (t := 5) ⟨by decide, by decide⟩ h16 h17 e_r18 dX1_twin_31 ?_
        refine j_astore_nq (L' := [(3, va_rf (r18)), (0, .ref (x0)), (1, .int (x1)), (2, .int (x2))]) hE hn dX1_twin_32 rfl (Nat.le_of_ble_eq_true rfl) rfl ?_
        refine j_aload_n hE 1 dX1_twin_33 rfl rfl ?_
        obtain ⟨f19, h20, hw⟩ := hw
        refine j_getM hE gf_GlassStreet_state q351 h20 dX1_twin_34 ?_
        obtain ⟨a21, e9, hx⟩ := hw
        subst e9
        have hw := hx
        clear hx
        obtain ⟨f22, h23, hw⟩ := hw
        refine j_getMN hE gf_GlassStreet_State_marks q320 h23 dX1_twin_37 ?_
        refine j_iload_n hE 3 dX1_twin_40 rfl rfl ?_
        obtain ⟨a24, e9, hx⟩ := hw
        subst e9
        have hw := hx
        clear hx
        obtain ⟨n25, f26, h27, h28, hw⟩ := hw
        obtain ⟨r29, e_r29⟩ : ∃ r9, f26 (x2).toNatClampNeg = r9 := ⟨_, rfl⟩
        replace hw := hw r29 e_r29
        refine j_aldQ hE (t := 5) ⟨by decide, by decide⟩ h27 h28 e_r29 dX1_twin_41 ?_
        refine j_astoreq (L' := [(4, va_rf (r29)), (3, va_rf (r18)), (0, .ref (x0)), (1, .int (x1)), (2, .int (x2))]) hE hn dX1_twin_42 (Nat.le_of_ble_eq_true rfl) (by cases r18 <;> rfl) ?_
        refine j_iconst hE dX1_twin_44 kc_0 ?_
        refine j_istore (L' := [(5, .int ((0 : Int32))), (4, va_rf (r29)), (3, va_rf (r18)), (0, .ref (x0)), (1, .int (x1)), (2, .int (x2))]) hE hn dX1_twin_45 (Nat.le_of_ble_eq_true rfl) (by cases r29 <;> rfl) ?_
        refine j_iconst hE dX1_twin_47 kc_0 ?_
        refine j_istore (L' := [(6, .int ((0 : Int32))), (5, .int ((0 : Int32))), (4, va_rf (r29)), (3, va_rf (r18)), (0, .ref (x0)), (1, .int (x1)), (2, .int (x2))]) hE hn dX1_twin_48 (Nat.le_of_ble_eq_true rfl) rfl ?_
        refine j_sub [(3, va_rf (r18)), (4, va_rf (r29)), (5, .int ((0 : Int32))), (6, .int ((0 : Int32)))] [3, 2, 1, 0] rfl ?_
        have hz := bX1_twin_50 (b := b) hE hn hR hc hK  hw
        exact hz
      · replace hw := hw.2 c7
        refine j_iconst hE dX1_twin_21 kc_m1 ?_
        exact j_iret hE hK dX1_twin_22 rfl ⟨rfl, hw⟩
theorem jdX1_twin : jD yX1_twin 2 := by decide +kernel
abbrev wX1_twin := wX1_twin_0
theorem ctX1_twin (l : Launch) (G : gG) {c : Nat → Option Nat} (hc : G.2.2.2 = c) (x0 : Nat) (x1 : Int32) (x2 : Int32) (w0 : GW) (K : Int32 → Prop) (hw : wX1_twin_0 c x0 x1 x2 w0 K) {F2 L2 : Nat} (h2 : 3 ≤ F2 ∧ 61 ≤ L2 := by exact ⟨Nat.le_refl _, Nat.le_refl _⟩) : CtI l yX1_twin cX1_twin 9 .int ({ frames := F2, cells := 0, slots := 0, locals := L2 }) G [.ref (x0), .int (x1), .int (x2)] w0 (KPI w0 K) :=
  CtI.of RX1 plainc_X1 rfl (Nat.le_of_ble_eq_true rfl) (fun E hE hl hG hn hR hK => bX1_twin_0 hE hn (hR.le h2.1 h2.2) (by rw [hG]; exact hc) hK hw)
def wX1_run_23_b (c : Nat → Option Nat) (x0 : Nat) (x1 : Int32) (x2 : Int32) (w : GW) (KL23 : Int32 × GW → Prop) (K : Int32 → GW → Prop) : Prop :=
  ((nI 99) < x2 → (K ((-1 : Int32)) w)) ∧ (¬ (nI 99) < x2 → (∃ f2 : Option Nat, gfm w x0 [0] 5 = some (va_rf f2) ∧ (∃ a4 : Nat, f2 = some a4 ∧ (∃ f5 : Option Nat, gfm w a4 [3] 1 = some (va_rf f5) ∧ (∃ a7 : Nat, f5 = some a7 ∧ (∃ (n8 : Nat) (f9 : Nat → Option Nat), gaq w a7 5 = some (n8, f9) ∧ vp_in x1 n8 ∧ (∀ r12 : Option Nat, f9 (x1).toNatClampNeg = r12 → (∃ a13 : Nat, r12 = some a13 ∧ (∃ f14 : Int32, gfm w a13 [4] 4 = some (.int f14) ∧ ((¬ f14 = 0 → (∃ f17 : Option Nat, gfm w x0 [0] 5 = some (va_rf f17) ∧ (∃ a19 : Nat, f17 = some a19 ∧ (gmc w x0 = some 0 ∧ (wX1_passes c x0 a19 w (fun r20 w22 => KL23 ((x2 + 1), w22))))))) ∧ (f14 = 0 → (K x2 w))))))))))))
def wX1_run_23 (c : Nat → Option Nat) (x0 : Nat) (x1 : Int32) (x2 : Int32) (w : GW) (K : Int32 → GW → Prop) : Prop := lfp (σ := Int32 × GW) (fun KL s => wX1_run_23_b c x0 x1 s.1 s.2 KL K) (x2, w)
set_option maxRecDepth 100000 in
theorem bX1_run_23 {E : jE} (hE : jOk E cX1_run RX1) (hn : E.2.2.2.2 = 3) (hR : jRoom E 2228 66771) {c : Nat → Option Nat} (hc : E.2.2.1.2.2.2 = c) {b : Nat × Nat} {K : Int32 → GW → Prop} (hK : jRi E .int (K)) {x0 : Nat} {x1 : Int32} {x2 : Int32} {w : GW}  (hw : wX1_run_23 c x0 x1 x2 w K) : J E w b [(0, .ref (x0)), (1, .int (x1)), (2, .int (x2))] 23 [] := by
  refine lfp_sound (σ := Int32 × GW) (F := fun KL s => wX1_run_23_b c x0 x1 s.1 s.2 KL K) (P := fun s => J E (s.2) b [(0, .ref (x0)), (1, .int (x1)), (2, .int (s.1))] 23 []) ?_ hw
  clear hw
  rintro KL23 ⟨x2, w⟩ hw ih23
  have hw : wX1_run_23_b c x0 x1 x2 w KL23 K := hw
  unfold wX1_run_23_b at hw
  refine j_iload_n hE 2 dX1_run_23 rfl rfl ?_
  refine j_bipush hE dX1_run_24 kb_99 ?_
  refine j_icmp_gt hE 61 dX1_run_26 (by decide) (fun c1 => ?_) (fun c1 => ?_)
  · replace hw := hw.1 c1
    refine j_iconst hE dX1_run_61 kc_m1 ?_
    exact j_iret hE hK dX1_run_62 rfl hw
  · replace hw := hw.2 c1
    refine j_aload_n hE 0 dX1_run_29 rfl rfl ?_
    obtain ⟨f2, h3, hw⟩ := hw
    refine j_getM hE gf_GlassStreet_trial q352 h3 dX1_run_30 ?_
    obtain ⟨a4, e9, hx⟩ := hw
    subst e9
    have hw := hx
    clear hx
    obtain ⟨f5, h6, hw⟩ := hw
    refine j_getMN hE gf_GlassStreet_State_marks q320 h6 dX1_run_33 ?_
    refine j_iload_n hE 1 dX1_run_36 rfl rfl ?_
    obtain ⟨a7, e9, hx⟩ := hw
    subst e9
    have hw := hx
    clear hx
    obtain ⟨n8, f9, h10, h11, hw⟩ := hw
    obtain ⟨r12, e_r12⟩ : ∃ r9, f9 (x1).toNatClampNeg = r9 := ⟨_, rfl⟩
    replace hw := hw r12 e_r12
    refine j_aldQ hE (t := 5) ⟨by decide, by decide⟩ h10 h11 e_r12 dX1_run_37 ?_
    obtain ⟨a13, e9, hx⟩ := hw
    subst e9
    have hw := hx
    clear hx
    obtain ⟨f14, h15, hw⟩ := hw
    refine j_getMN hE gf_GlassStreet_Marks_many q303 h15 dX1_run_38 ?_
    refine j_if_ne hE 46 dX1_run_41 (by decide) (fun c16 => ?_) (fun c16 => ?_)
    · replace hw := hw.1 c16
      refine j_aload_n hE 0 dX1_run_46 rfl rfl ?_
      refine j_aload_n hE 0 dX1_run_47 rfl rfl ?_
      obtain ⟨f17, h18, hw⟩ := hw
      refine j_getM hE gf_GlassStreet_trial q352 h18 dX1_run_48 ?_
      obtain ⟨a19, e9, hx⟩ := hw
      subst e9
      have hw := hx
      clear hx
      obtain ⟨h21, hw⟩ := hw
      refine jc_i (jr_V hE hR (As := [.ref (a19)]) (rest := []) ((ctX1_passes E.1.2.1 E.2.2.1 hc _ _ _ _ hw) E.2.2.2.1) (lw_V q1314 q1316 qs43 q121 q1317) jdX1_passes ⟨Nat.le_of_ble_eq_true rfl, Nat.le_of_ble_eq_true rfl⟩ ⟨Nat.zero_le _, Nat.zero_le _⟩ (gmc_gIs h21 (r := (RX1, TX1, 15)) rfl) rfl (Nat.le_of_ble_eq_true rfl) dX1_run_51) (fun r20 w22 hw => ?_)
      refine j_b0 ?_
      refine j_pop hE dX1_run_54 rfl ?_
      refine j_iinc (L' := [(2, .int (x2 + 1)), (0, .ref (x0)), (1, .int (x1))]) hE hn 2 dX1_run_55 rfl (congrArg (x2 + ·) kc_1) (Nat.le_of_ble_eq_true rfl) rfl ?_
      refine j_goto hE 23 dX1_run_58 (by decide) ?_
      refine j_sub [(0, .ref (x0)), (1, .int (x1)), (2, .int (x2 + 1))] [1, 2, 0] rfl ?_
      have hz := ih23 ((x2 + 1), w22) hw
      exact hz
    · replace hw := hw.2 c16
      refine j_iload_n hE 2 dX1_run_44 rfl rfl ?_
      exact j_iret hE hK dX1_run_45 rfl hw
def wX1_run_0 (c : Nat → Option Nat) (x0 : Nat) (x1 : Int32) (w : GW) (K : Int32 → GW → Prop) : Prop :=
  gmc w x0 = some 0 ∧ (wX1_isPane c x0 x1 w (fun r1 => (¬ r1 = 0 → (∃ f4 : Option Nat, gfm w x0 [0] 5 = some (va_rf f4) ∧ (∃ f6 : Option Nat, gfm w x0 [0] 4 = some (va_rf f6) ∧ (∃ a8 : Nat, f4 = some a8 ∧ (∃ a9 : Nat, f6 = some a9 ∧ (gmc w a8 = some 3 ∧ (wX4_be c a8 a9 w (fun w11 => wX1_run_23 c x0 x1 ((0 : Int32)) w11 K)))))))) ∧ (r1 = 0 → (K ((-1 : Int32)) w))))
set_option maxRecDepth 100000 in
theorem bX1_run_0 {E : jE} (hE : jOk E cX1_run RX1) (hn : E.2.2.2.2 = 3) (hR : jRoom E 2228 66771) {c : Nat → Option Nat} (hc : E.2.2.1.2.2.2 = c) {b : Nat × Nat} {K : Int32 → GW → Prop} (hK : jRi E .int (K)) {x0 : Nat} {x1 : Int32} {w : GW}  (hw : wX1_run_0 c x0 x1 w K) : J E w b [(0, .ref (x0)), (1, .int (x1))] 0 [] := by
  unfold wX1_run_0 at hw
  refine j_aload_n hE 0 dX1_run_0 rfl rfl ?_
  refine j_iload_n hE 1 dX1_run_1 rfl rfl ?_
  obtain ⟨h2, hw⟩ := hw
  refine jc_ip (jr_V hE hR (As := [.int (x1)]) (rest := []) ((ctX1_isPane E.1.2.1 E.2.2.1 hc _ _ _ _ hw) E.2.2.2.1) (lw_V q1153 q1155 qs30 q121 q1156) jdX1_isPane ⟨Nat.le_of_ble_eq_true rfl, Nat.le_of_ble_eq_true rfl⟩ ⟨Nat.zero_le _, Nat.zero_le _⟩ (gmc_gIs h2 (r := (RX1, TX1, 15)) rfl) rfl (Nat.le_of_ble_eq_true rfl) dX1_run_2) (fun r1 hw => ?_)
  refine j_b0 ?_
  refine j_if_ne hE 10 dX1_run_5 (by decide) (fun c3 => ?_) (fun c3 => ?_)
  · replace hw := hw.1 c3
    refine j_aload_n hE 0 dX1_run_10 rfl rfl ?_
    obtain ⟨f4, h5, hw⟩ := hw
    refine j_getM hE gf_GlassStreet_trial q352 h5 dX1_run_11 ?_
    refine j_aload_n hE 0 dX1_run_14 rfl rfl ?_
    obtain ⟨f6, h7, hw⟩ := hw
    refine j_getM hE gf_GlassStreet_state q351 h7 dX1_run_15 ?_
    obtain ⟨a8, e9, hx⟩ := hw
    subst e9
    have hw := hx
    clear hx
    obtain ⟨a9, e9, hx⟩ := hw
    subst e9
    have hw := hx
    clear hx
    obtain ⟨h10, hw⟩ := hw
    refine jc_v (jr_V hE hR (As := [.ref (a9)]) (rest := []) ((ctX4_be E.1.2.1 E.2.2.1 hc _ _ _ _ hw) E.2.2.2.1) (lw_V q1257 q1258 q1259 q127 q1260) jdX4_be ⟨Nat.le_of_ble_eq_true rfl, Nat.le_of_ble_eq_true rfl⟩ ⟨Nat.zero_le _, Nat.zero_le _⟩ (gmc_gIs h10 (r := (RX4, TX4, 5)) rfl) rfl (Nat.le_of_ble_eq_true rfl) dX1_run_18) (fun w11 hw => ?_)
    refine j_b0 ?_
    refine j_iconst hE dX1_run_21 kc_0 ?_
    refine j_istore_n (L' := [(2, .int ((0 : Int32))), (0, .ref (x0)), (1, .int (x1))]) hE hn dX1_run_22 rfl (Nat.le_of_ble_eq_true rfl) rfl ?_
    refine j_sub [(0, .ref (x0)), (1, .int (x1)), (2, .int ((0 : Int32)))] [1, 2, 0] rfl ?_
    have hz := bX1_run_23 (b := b) hE hn hR hc hK  hw
    exact hz
  · replace hw := hw.2 c3
    refine j_iconst hE dX1_run_8 kc_m1 ?_
    exact j_iret hE hK dX1_run_9 rfl hw
theorem jdX1_run : jD yX1_run 1 := by decide +kernel
abbrev wX1_run := wX1_run_0
theorem ctX1_run (l : Launch) (G : gG) {c : Nat → Option Nat} (hc : G.2.2.2 = c) (x0 : Nat) (x1 : Int32) (w : GW) (K : Int32 → GW → Prop) (hw : wX1_run_0 c x0 x1 w K) {F2 L2 : Nat} (h2 : 2228 ≤ F2 ∧ 66771 ≤ L2 := by exact ⟨Nat.le_refl _, Nat.le_refl _⟩) : CtI l yX1_run cX1_run 3 .int ({ frames := F2, cells := 0, slots := 0, locals := L2 }) G [.ref (x0), .int (x1)] w (K) :=
  CtI.of RX1 plainc_X1 rfl (Nat.le_of_ble_eq_true rfl) (fun E hE hl hG hn hR hK => bX1_run_0 hE hn (hR.le h2.1 h2.2) (by rw [hG]; exact hc) hK hw)
def wX1_draws_0 (c : Nat → Option Nat) (x0 : Nat) (x1 : Int32) (w : GW) (K : Int32 → GW → Prop) : Prop :=
  ∃ f1 : Int64, gfm w x0 [0] 11 = some (.long f1) ∧ (¬ ((2147483648 : Int64)) = 0 ∧ (∃ (n4 : Nat) (fs5 : List Value), w x0 = some (true, .inr (n4, fs5)) ∧ n4 ∈ ([0] : List Nat) ∧ 11 < fs5.length ∧ (∀ w9 : GW, w9 = gup w x0 (.inr (n4, fs5.set 11 (.long (lrem ((f1 * ((1103515245 : Int64))) + ((12345 : Int64))) ((2147483648 : Int64)))))) → (∃ f10 : Int64, gfm w9 x0 [0] 11 = some (.long f10) ∧ (¬ ((65536 : Int64)) = 0 ∧ (¬ x1.toInt64 = 0 ∧ (K ((lrem (f10 / ((65536 : Int64))) x1.toInt64).toInt32) w9)))))))
set_option maxRecDepth 100000 in
theorem bX1_draws_0 {E : jE} (hE : jOk E cX1_draws RX1) (hn : E.2.2.2.2 = 2) (hR : jRoom E 0 0) {c : Nat → Option Nat} (hc : E.2.2.1.2.2.2 = c) {b : Nat × Nat} {K : Int32 → GW → Prop} (hK : jRi E .int (K)) {x0 : Nat} {x1 : Int32} {w : GW}  (hw : wX1_draws_0 c x0 x1 w K) : J E w b [(0, .ref (x0)), (1, .int (x1))] 0 [] := by
  unfold wX1_draws_0 at hw
  refine j_aload_n hE 0 dX1_draws_0 rfl rfl ?_
  refine j_aload_n hE 0 dX1_draws_1 rfl rfl ?_
  obtain ⟨f1, h2, hw⟩ := hw
  refine j_getM hE gf_GlassStreet_g q358 h2 dX1_draws_2 ?_
  refine j_ldc2 hE q1514 dX1_draws_5 ?_
  refine j_lmul hE dX1_draws_8 ?_
  refine j_ldc2 hE q1515 dX1_draws_9 ?_
  refine j_ladd hE dX1_draws_12 ?_
  refine j_ldc2 hE q1516 dX1_draws_13 ?_
  obtain ⟨h3, hw⟩ := hw
  refine j_lrem hE dX1_draws_16 h3 ?_
  obtain ⟨n4, fs5, h6, h7, h8, hw⟩ := hw
  refine j_putX hE h7 gw_GlassStreet_g_X1 q358 h6 rfl rfl h8 dX1_draws_17 ?_
  refine j_nw (fun w9 e_w9 => ?_)
  replace hw := hw w9 e_w9
  refine j_aload_n hE 0 dX1_draws_20 rfl rfl ?_
  obtain ⟨f10, h11, hw⟩ := hw
  refine j_getM hE gf_GlassStreet_g q358 h11 dX1_draws_21 ?_
  refine j_ldc2 hE q1517 dX1_draws_24 ?_
  obtain ⟨h12, hw⟩ := hw
  refine j_ldiv hE dX1_draws_27 h12 ?_
  refine j_iload_n hE 1 dX1_draws_28 rfl rfl ?_
  refine j_i2l hE dX1_draws_29 ?_
  obtain ⟨h13, hw⟩ := hw
  refine j_lrem hE dX1_draws_30 h13 ?_
  refine j_l2i hE dX1_draws_31 ?_
  exact j_iret hE hK dX1_draws_32 rfl hw
theorem jdX1_draws : jD yX1_draws 1 := by decide +kernel
abbrev wX1_draws := wX1_draws_0
theorem ctX1_draws (l : Launch) (G : gG) {c : Nat → Option Nat} (hc : G.2.2.2 = c) (x0 : Nat) (x1 : Int32) (w : GW) (K : Int32 → GW → Prop) (hw : wX1_draws_0 c x0 x1 w K) {F2 L2 : Nat} (h2 : 0 ≤ F2 ∧ 0 ≤ L2 := by exact ⟨Nat.le_refl _, Nat.le_refl _⟩) : CtI l yX1_draws cX1_draws 2 .int ({ frames := F2, cells := 0, slots := 0, locals := L2 }) G [.ref (x0), .int (x1)] w (K) :=
  CtI.of RX1 plainc_X1 rfl (Nat.le_of_ble_eq_true rfl) (fun E hE hl hG hn hR hK => bX1_draws_0 hE hn (hR.le h2.1 h2.2) (by rw [hG]; exact hc) hK hw)
def wX1_lives_0 (c : Nat → Option Nat) (x0 : Nat) (x1 : Nat) (x2 : Int32) (w : GW) (K : GW → Prop) : Prop :=
  gmc w x0 = some 0 ∧ (wX1_draws c x0 (nI 3) w (fun r1 w3 => (¬ r1 = 0 → ((¬ r1 = ((1 : Int32)) → (gmc w3 x0 = some 0 ∧ (wX1_deeds c x0 w3 (fun r6 => (r6 ≤ 0 → (K w3)) ∧ (¬ r6 ≤ 0 → (∃ f9 : Int32, gfm w3 x0 [0] 12 = some (.int f9) ∧ (∃ (n11 : Nat) (fs12 : List Value), w3 x0 = some (true, .inr (n11, fs12)) ∧ n11 ∈ ([0] : List Nat) ∧ 12 < fs12.length ∧ (∀ w16 : GW, w16 = gup w3 x0 (.inr (n11, fs12.set 12 (.int (f9 + ((1 : Int32)))))) → (gmc w16 x0 = some 0 ∧ (wX1_deeds c x0 w16 (fun r17 => gmc w16 x0 = some 0 ∧ (wX1_draws c x0 r17 w16 (fun r19 w21 => gmc w21 x0 = some 0 ∧ (wX1_done c x0 x1 x2 r19 w21 (fun r22 w24 => (¬ r22 = 0 → (K w24)) ∧ (r22 = 0 → (∃ f26 : Int32, gfm w24 x0 [0] 13 = some (.int f26) ∧ (∃ (n28 : Nat) (fs29 : List Value), w24 x0 = some (true, .inr (n28, fs29)) ∧ n28 ∈ ([0] : List Nat) ∧ 13 < fs29.length ∧ (∀ w33 : GW, w33 = gup w24 x0 (.inr (n28, fs29.set 13 (.int (f26 + ((1 : Int32)))))) → (K w33)))))))))))))))))))) ∧ (r1 = ((1 : Int32)) → (∃ f34 : Option Nat, gfm w3 x1 [3] 0 = some (va_rf f34) ∧ (∃ f36 : Option Nat, gfm w3 x1 [3] 0 = some (va_rf f36) ∧ (∃ a38 : Nat, f36 = some a38 ∧ (∃ (n39 : Nat) (f40 : Nat → Int32), gai w3 a38 0 = some (n39, f40) ∧ vp_in x2 n39 ∧ (∃ a43 : Nat, f34 = some a43 ∧ (∃ (n44 : Nat) (f45 : Nat → Int32), w3 a43 = some (true, .inl (0, n44, .inl f45)) ∧ vp_in x2 n44 ∧ (∀ w48 : GW, w48 = gup w3 a43 (.inl (0, n44, .inl (upd f45 (x2).toNatClampNeg ((if ((rd f40 x2) + ((1 : Int32))) < (nI 9) then ((rd f40 x2) + ((1 : Int32))) else (nI 9)))))) → (K w48))))))))))) ∧ (r1 = 0 → (∃ f49 : Option Nat, gfm w3 x1 [3] 0 = some (va_rf f49) ∧ (∃ f51 : Option Nat, gfm w3 x1 [3] 0 = some (va_rf f51) ∧ (∃ a53 : Nat, f51 = some a53 ∧ (∃ (n54 : Nat) (f55 : Nat → Int32), gai w3 a53 0 = some (n54, f55) ∧ vp_in x2 n54 ∧ (∃ a58 : Nat, f49 = some a58 ∧ (∃ (n59 : Nat) (f60 : Nat → Int32), w3 a58 = some (true, .inl (0, n59, .inl f60)) ∧ vp_in x2 n59 ∧ (∀ w63 : GW, w63 = gup w3 a58 (.inl (0, n59, .inl (upd f60 (x2).toNatClampNeg ((if ((0 : Int32)) < ((rd f55 x2) - ((1 : Int32))) then ((rd f55 x2) - ((1 : Int32))) else ((0 : Int32))))))) → (K w63)))))))))))
set_option maxRecDepth 100000 in
theorem bX1_lives_0 {E : jE} (hE : jOk E cX1_lives RX1) (hn : E.2.2.2.2 = 4) (hR : jRoom E 7 156) {c : Nat → Option Nat} (hc : E.2.2.1.2.2.2 = c) {b : Nat × Nat} {K : GW → Prop} (hK : jRv E (K)) {x0 : Nat} {x1 : Nat} {x2 : Int32} {w : GW}  (hw : wX1_lives_0 c x0 x1 x2 w K) : J E w b [(0, .ref (x0)), (1, .ref (x1)), (2, .int (x2))] 0 [] := by
  unfold wX1_lives_0 at hw
  refine j_aload_n hE 0 dX1_lives_0 rfl rfl ?_
  refine j_iconst hE dX1_lives_1 kc_3 ?_
  obtain ⟨h2, hw⟩ := hw
  refine jc_i (jr_V hE hR (As := [.int (nI 3)]) (rest := []) ((ctX1_draws E.1.2.1 E.2.2.1 hc _ _ _ _ hw) E.2.2.2.1) (lw_V q1510 q1512 qs52 q121 q1513) jdX1_draws ⟨Nat.le_of_ble_eq_true rfl, Nat.le_of_ble_eq_true rfl⟩ ⟨Nat.zero_le _, Nat.zero_le _⟩ (gmc_gIs h2 (r := (RX1, TX1, 15)) rfl) rfl (Nat.le_of_ble_eq_true rfl) dX1_lives_2) (fun r1 w3 hw => ?_)
  refine j_b0 ?_
  refine j_istore_n (L' := [(3, .int (r1)), (0, .ref (x0)), (1, .ref (x1)), (2, .int (x2))]) hE hn dX1_lives_5 rfl (Nat.le_of_ble_eq_true rfl) rfl ?_
  refine j_iload_n hE 0 dX1_lives_6 rfl rfl ?_
  refine j_if_ne hE 31 dX1_lives_7 (by decide) (fun c4 => ?_) (fun c4 => ?_)
  · replace hw := hw.1 c4
    refine j_iload_n hE 0 dX1_lives_31 rfl rfl ?_
    refine j_iconst hE dX1_lives_32 kc_1 ?_
    refine j_icmp_ne hE 58 dX1_lives_33 (by decide) (fun c5 => ?_) (fun c5 => ?_)
    · replace hw := hw.1 c5
      refine j_aload_n hE 1 dX1_lives_58 rfl rfl ?_
      obtain ⟨h7, hw⟩ := hw
      refine jc_ip (jr_V hE hR (As := []) (rest := []) ((ctX1_deeds E.1.2.1 E.2.2.1 hc _ _ _ hw) E.2.2.2.1) (lw_V q1274 q1276 qs39 q121 q1277) jdX1_deeds ⟨Nat.le_of_ble_eq_true rfl, Nat.le_of_ble_eq_true rfl⟩ ⟨Nat.zero_le _, Nat.zero_le _⟩ (gmc_gIs h7 (r := (RX1, TX1, 15)) rfl) rfl (Nat.le_of_ble_eq_true rfl) dX1_lives_59) (fun r6 hw => ?_)
      refine j_b0 ?_
      refine j_if_le hE 102 dX1_lives_62 (by decide) (fun c8 => ?_) (fun c8 => ?_)
      · replace hw := hw.1 c8
        exact j_vret hE hK dX1_lives_102 hw
      · replace hw := hw.2 c8
        refine j_aload_n hE 1 dX1_lives_65 rfl rfl ?_
        refine j_dup hE dX1_lives_66 rfl ?_
        obtain ⟨f9, h10, hw⟩ := hw
        refine j_getM hE gf_GlassStreet_did q359 h10 dX1_lives_67 ?_
        refine j_iconst hE dX1_lives_70 kc_1 ?_
        refine j_iadd hE dX1_lives_71 ?_
        obtain ⟨n11, fs12, h13, h14, h15, hw⟩ := hw
        refine j_putX hE h14 gw_GlassStreet_did_X1 q359 h13 rfl rfl h15 dX1_lives_72 ?_
        refine j_nw (fun w16 e_w16 => ?_)
        replace hw := hw w16 e_w16
        refine j_aload_n hE 1 dX1_lives_75 rfl rfl ?_
        refine j_aload_n hE 2 dX1_lives_76 rfl rfl ?_
        refine j_iload_n hE 3 dX1_lives_77 rfl rfl ?_
        refine j_aload_n hE 1 dX1_lives_78 rfl rfl ?_
        refine j_aload_n hE 1 dX1_lives_79 rfl rfl ?_
        obtain ⟨h18, hw⟩ := hw
        refine jc_ip (jr_V hE hR (As := []) (rest := [.ref (x0), .int (x2), .ref (x1), .ref (x0)]) ((ctX1_deeds E.1.2.1 E.2.2.1 hc _ _ _ hw) E.2.2.2.1) (lw_V q1274 q1276 qs39 q121 q1277) jdX1_deeds ⟨Nat.le_of_ble_eq_true rfl, Nat.le_of_ble_eq_true rfl⟩ ⟨Nat.zero_le _, Nat.zero_le _⟩ (gmc_gIs h18 (r := (RX1, TX1, 15)) rfl) rfl (Nat.le_of_ble_eq_true rfl) dX1_lives_80) (fun r17 hw => ?_)
        refine j_b0 ?_
        obtain ⟨h20, hw⟩ := hw
        refine jc_i (jr_V hE hR (As := [.int (r17)]) (rest := [.int (x2), .ref (x1), .ref (x0)]) ((ctX1_draws E.1.2.1 E.2.2.1 hc _ _ _ _ hw) E.2.2.2.1) (lw_V q1510 q1512 qs52 q121 q1513) jdX1_draws ⟨Nat.le_of_ble_eq_true rfl, Nat.le_of_ble_eq_true rfl⟩ ⟨Nat.zero_le _, Nat.zero_le _⟩ (gmc_gIs h20 (r := (RX1, TX1, 15)) rfl) rfl (Nat.le_of_ble_eq_true rfl) dX1_lives_83) (fun r19 w21 hw => ?_)
        refine j_b0 ?_
        obtain ⟨h23, hw⟩ := hw
        refine jc_i (jr_V hE hR (As := [.ref (x1), .int (x2), .int (r19)]) (rest := []) ((ctX1_done E.1.2.1 E.2.2.1 hc _ _ _ _ _ _ hw) E.2.2.2.1) (lw_V q1278 q1280 qs40 q121 q1281) jdX1_done ⟨Nat.le_of_ble_eq_true rfl, Nat.le_of_ble_eq_true rfl⟩ ⟨Nat.zero_le _, Nat.zero_le _⟩ (gmc_gIs h23 (r := (RX1, TX1, 15)) rfl) rfl (Nat.le_of_ble_eq_true rfl) dX1_lives_86) (fun r22 w24 hw => ?_)
        refine j_b0 ?_
        refine j_if_ne hE 102 dX1_lives_89 (by decide) (fun c25 => ?_) (fun c25 => ?_)
        · replace hw := hw.1 c25
          exact j_vret hE hK dX1_lives_102 hw
        · replace hw := hw.2 c25
          refine j_aload_n hE 1 dX1_lives_92 rfl rfl ?_
          refine j_dup hE dX1_lives_93 rfl ?_
          obtain ⟨f26, h27, hw⟩ := hw
          refine j_getM hE gf_GlassStreet_unseen q360 h27 dX1_lives_94 ?_
          refine j_iconst hE dX1_lives_97 kc_1 ?_
          refine j_iadd hE dX1_lives_98 ?_
          obtain ⟨n28, fs29, h30, h31, h32, hw⟩ := hw
          refine j_putX hE h31 gw_GlassStreet_unseen_X1 q360 h30 rfl rfl h32 dX1_lives_99 ?_
          refine j_nw (fun w33 e_w33 => ?_)
          replace hw := hw w33 e_w33
          exact j_vret hE hK dX1_lives_102 hw
    · replace hw := hw.2 c5
      refine j_aload_n hE 2 dX1_lives_36 rfl rfl ?_
      obtain ⟨f34, h35, hw⟩ := hw
      refine j_getMN hE gf_GlassStreet_State_at q317 h35 dX1_lives_37 ?_
      refine j_iload_n hE 3 dX1_lives_40 rfl rfl ?_
      refine j_bipush hE dX1_lives_41 kb_9 ?_
      refine j_aload_n hE 2 dX1_lives_43 rfl rfl ?_
      obtain ⟨f36, h37, hw⟩ := hw
      refine j_getMN hE gf_GlassStreet_State_at q317 h37 dX1_lives_44 ?_
      refine j_iload_n hE 3 dX1_lives_47 rfl rfl ?_
      obtain ⟨a38, e9, hx⟩ := hw
      subst e9
      have hw := hx
      clear hx
      obtain ⟨n39, f40, h41, h42, hw⟩ := hw
      refine j_aldI hE h41 h42 dX1_lives_48 ?_
      refine j_iconst hE dX1_lives_49 kc_1 ?_
      refine j_iadd hE dX1_lives_50 ?_
      refine j_mmin hE hR q1518 (Nat.le_of_ble_eq_true rfl) (by cases f34 <;> exact Nat.le_of_ble_eq_true rfl) dX1_lives_51 ?_
      obtain ⟨a43, e9, hx⟩ := hw
      subst e9
      have hw := hx
      clear hx
      obtain ⟨n44, f45, h46, h47, hw⟩ := hw
      refine j_iast hE h46 h47 dX1_lives_54 ?_
      refine j_nw (fun w48 e_w48 => ?_)
      replace hw := hw w48 e_w48
      refine j_goto hE 102 dX1_lives_55 (by decide) ?_
      exact j_vret hE hK dX1_lives_102 hw
  · replace hw := hw.2 c4
    refine j_aload_n hE 2 dX1_lives_10 rfl rfl ?_
    obtain ⟨f49, h50, hw⟩ := hw
    refine j_getMN hE gf_GlassStreet_State_at q317 h50 dX1_lives_11 ?_
    refine j_iload_n hE 3 dX1_lives_14 rfl rfl ?_
    refine j_iconst hE dX1_lives_15 kc_0 ?_
    refine j_aload_n hE 2 dX1_lives_16 rfl rfl ?_
    obtain ⟨f51, h52, hw⟩ := hw
    refine j_getMN hE gf_GlassStreet_State_at q317 h52 dX1_lives_17 ?_
    refine j_iload_n hE 3 dX1_lives_20 rfl rfl ?_
    obtain ⟨a53, e9, hx⟩ := hw
    subst e9
    have hw := hx
    clear hx
    obtain ⟨n54, f55, h56, h57, hw⟩ := hw
    refine j_aldI hE h56 h57 dX1_lives_21 ?_
    refine j_iconst hE dX1_lives_22 kc_1 ?_
    refine j_isub hE dX1_lives_23 ?_
    refine j_mmax hE hR q1385 (Nat.le_of_ble_eq_true rfl) (by cases f49 <;> exact Nat.le_of_ble_eq_true rfl) dX1_lives_24 ?_
    obtain ⟨a58, e9, hx⟩ := hw
    subst e9
    have hw := hx
    clear hx
    obtain ⟨n59, f60, h61, h62, hw⟩ := hw
    refine j_iast hE h61 h62 dX1_lives_27 ?_
    refine j_nw (fun w63 e_w63 => ?_)
    replace hw := hw w63 e_w63
    refine j_goto hE 102 dX1_lives_28 (by decide) ?_
    exact j_vret hE hK dX1_lives_102 hw
theorem jdX1_lives : jD yX1_lives 2 := by decide +kernel
abbrev wX1_lives := wX1_lives_0
theorem ctX1_lives (l : Launch) (G : gG) {c : Nat → Option Nat} (hc : G.2.2.2 = c) (x0 : Nat) (x1 : Nat) (x2 : Int32) (w : GW) (K : GW → Prop) (hw : wX1_lives_0 c x0 x1 x2 w K) {F2 L2 : Nat} (h2 : 7 ≤ F2 ∧ 156 ≤ L2 := by exact ⟨Nat.le_refl _, Nat.le_refl _⟩) : CtV l yX1_lives cX1_lives 4 ({ frames := F2, cells := 0, slots := 0, locals := L2 }) G [.ref (x0), .ref (x1), .int (x2)] w (K) :=
  CtV.of RX1 plainc_X1 rfl (Nat.le_of_ble_eq_true rfl) (fun E hE hl hG hn hR hK => bX1_lives_0 hE hn (hR.le h2.1 h2.2) (by rw [hG]; exact hc) hK hw)
def wX1_years_154 (c : Nat → Option Nat) (x0 : Nat) (x2 : Int32) (x3 : Int32) (x4 : Int32) (w : GW) (KL62 : Int32 × GW → Prop) (K : Int32 → GW → Prop) : Prop :=
  ∃ f1 : Option Nat, gfm w x0 [0] 5 = some (va_rf f1) ∧ (∃ a3 : Nat, f1 = some a3 ∧ (gmc w x0 = some 0 ∧ (wX1_passes c x0 a3 w (fun r4 w6 => KL62 ((x4 + 1), w6)))))
set_option maxRecDepth 100000 in
theorem bX1_years_154 {E : jE} (hE : jOk E cX1_years RX1) (hn : E.2.2.2.2 = 6) (hR : jRoom E 2228 66771) {c : Nat → Option Nat} (hc : E.2.2.1.2.2.2 = c) {b : Nat × Nat} {K : Int32 → GW → Prop} (hK : jRi E .int (K)) {x0 : Nat} {x2 : Int32} {x3 : Int32} {x4 : Int32} {w : GW} {KL62 : Int32 × GW → Prop} (ih62 : ∀ s : Int32 × GW, KL62 s → J E (s.2) b [(0, .ref (x0)), (2, .int (x2)), (3, .int (x3)), (4, .int (s.1))] 62 []) (hw : wX1_years_154 c x0 x2 x3 x4 w KL62 K) : J E w b [(0, .ref (x0)), (2, .int (x2)), (3, .int (x3)), (4, .int (x4))] 154 [] := by
  unfold wX1_years_154 at hw
  refine j_aload_n hE 0 dX1_years_154 rfl rfl ?_
  refine j_aload_n hE 0 dX1_years_155 rfl rfl ?_
  obtain ⟨f1, h2, hw⟩ := hw
  refine j_getM hE gf_GlassStreet_trial q352 h2 dX1_years_156 ?_
  obtain ⟨a3, e9, hx⟩ := hw
  subst e9
  have hw := hx
  clear hx
  obtain ⟨h5, hw⟩ := hw
  refine jc_i (jr_V hE hR (As := [.ref (a3)]) (rest := []) ((ctX1_passes E.1.2.1 E.2.2.1 hc _ _ _ _ hw) E.2.2.2.1) (lw_V q1314 q1316 qs43 q121 q1317) jdX1_passes ⟨Nat.le_of_ble_eq_true rfl, Nat.le_of_ble_eq_true rfl⟩ ⟨Nat.zero_le _, Nat.zero_le _⟩ (gmc_gIs h5 (r := (RX1, TX1, 15)) rfl) rfl (Nat.le_of_ble_eq_true rfl) dX1_years_159) (fun r4 w6 hw => ?_)
  refine j_b0 ?_
  refine j_pop hE dX1_years_162 rfl ?_
  refine j_iinc (L' := [(4, .int (x4 + 1)), (0, .ref (x0)), (2, .int (x2)), (3, .int (x3))]) hE hn 3 dX1_years_163 rfl (congrArg (x4 + ·) kc_1) (Nat.le_of_ble_eq_true rfl) rfl ?_
  refine j_goto hE 62 dX1_years_166 (by decide) ?_
  refine j_sub [(0, .ref (x0)), (2, .int (x2)), (3, .int (x3)), (4, .int (x4 + 1))] [1, 2, 3, 0] rfl ?_
  have hz := ih62 ((x4 + 1), w6) hw
  exact hz
def wX1_years_71_b (c : Nat → Option Nat) (x0 : Nat) (x2 : Int32) (x3 : Int32) (x4 : Int32) (x5 : Int32) (w : GW) (KL71 : Int32 × GW → Prop) (KL62 : Int32 × GW → Prop) (K : Int32 → GW → Prop) : Prop :=
  gmc w x0 = some 0 ∧ (wX1_people c x0 w (fun r1 => (r1 ≤ x5 → (gmc w x0 = some 0 ∧ (wX1_panes c x0 w (fun r4 => (r4 ≤ 0 → (wX1_years_154 c x0 x2 x3 x4 w KL62 K)) ∧ (¬ r4 ≤ 0 → (gmc w x0 = some 0 ∧ (wX1_draws c x0 (nI 9) w (fun r7 w9 => (¬ r7 = 0 → (wX1_years_154 c x0 x2 x3 x4 w9 KL62 K)) ∧ (r7 = 0 → (gmc w9 x0 = some 0 ∧ (wX1_panes c x0 w9 (fun r11 => gmc w9 x0 = some 0 ∧ (wX1_draws c x0 r11 w9 (fun r13 w15 => ∃ f16 : Option Nat, gfm w15 x0 [0] 5 = some (va_rf f16) ∧ (∃ a18 : Nat, f16 = some a18 ∧ (gmc w15 x0 = some 0 ∧ (wX1_canWash c x0 a18 r13 w15 (fun r19 => (r19 = 0 → (wX1_years_154 c x0 x2 x3 x4 w15 KL62 K)) ∧ (¬ r19 = 0 → (∃ f22 : Option Nat, gfm w15 x0 [0] 5 = some (va_rf f22) ∧ (∃ a24 : Nat, f22 = some a24 ∧ (∃ f25 : Option Nat, gfm w15 a24 [3] 1 = some (va_rf f25) ∧ (∃ a27 : Nat, f25 = some a27 ∧ (∃ (n28 : Nat) (f29 : Nat → Option Nat), gaq w15 a27 5 = some (n28, f29) ∧ vp_in r13 n28 ∧ (∀ r32 : Option Nat, f29 (r13).toNatClampNeg = r32 → (∃ a33 : Nat, r32 = some a33 ∧ (∃ f34 : Int32, gfm w15 a33 [4] 4 = some (.int f34) ∧ (∃ (n36 : Nat) (fs37 : List Value), w15 a33 = some (true, .inr (n36, fs37)) ∧ n36 ∈ ([4] : List Nat) ∧ 4 < fs37.length ∧ (∀ w41 : GW, w41 = gup w15 a33 (.inr (n36, fs37.set 4 (.int (f34 - ((1 : Int32)))))) → (wX1_years_154 c x0 x2 x3 x4 w41 KL62 K)))))))))))))))))))))))))))))) ∧ (¬ r1 ≤ x5 → (∃ f42 : Option Nat, gfm w x0 [0] 5 = some (va_rf f42) ∧ (∃ a44 : Nat, f42 = some a44 ∧ (gmc w x0 = some 0 ∧ (wX1_lives c x0 a44 x5 w (fun w46 => KL71 ((x5 + 1), w46)))))))))
def wX1_years_71 (c : Nat → Option Nat) (x0 : Nat) (x2 : Int32) (x3 : Int32) (x4 : Int32) (x5 : Int32) (w : GW) (KL62 : Int32 × GW → Prop) (K : Int32 → GW → Prop) : Prop := lfp (σ := Int32 × GW) (fun KL s => wX1_years_71_b c x0 x2 x3 x4 s.1 s.2 KL KL62 K) (x5, w)
set_option maxRecDepth 100000 in
theorem bX1_years_71 {E : jE} (hE : jOk E cX1_years RX1) (hn : E.2.2.2.2 = 6) (hR : jRoom E 2228 66771) {c : Nat → Option Nat} (hc : E.2.2.1.2.2.2 = c) {b : Nat × Nat} {K : Int32 → GW → Prop} (hK : jRi E .int (K)) {x0 : Nat} {x2 : Int32} {x3 : Int32} {x4 : Int32} {x5 : Int32} {w : GW} {KL62 : Int32 × GW → Prop} (ih62 : ∀ s : Int32 × GW, KL62 s → J E (s.2) b [(0, .ref (x0)), (2, .int (x2)), (3, .int (x3)), (4, .int (s.1))] 62 []) (hw : wX1_years_71 c x0 x2 x3 x4 x5 w KL62 K) : J E w b [(0, .ref (x0)), (2, .int (x2)), (3, .int (x3)), (4, .int (x4)), (5, .int (x5))] 71 [] := by
  refine lfp_sound (σ := Int32 × GW) (F := fun KL s => wX1_years_71_b c x0 x2 x3 x4 s.1 s.2 KL KL62 K) (P := fun s => J E (s.2) b [(0, .ref (x0)), (2, .int (x2)), (3, .int (x3)), (4, .int (x4)), (5, .int (s.1))] 71 []) ?_ hw
  clear hw
  rintro KL71 ⟨x5, w⟩ hw ih71
  have hw : wX1_years_71_b c x0 x2 x3 x4 x5 w KL71 KL62 K := hw
  unfold wX1_years_71_b at hw
  refine j_iload hE 4 dX1_years_71 rfl ?_
  refine j_aload_n hE 0 dX1_years_73 rfl rfl ?_
  obtain ⟨h2, hw⟩ := hw
  refine jc_ip (jr_V hE hR (As := []) (rest := [.int (x5)]) ((ctX1_people E.1.2.1 E.2.2.1 hc _ _ _ hw) E.2.2.2.1) (lw_V q1242 q1244 qs36 q121 q1245) jdX1_people ⟨Nat.le_of_ble_eq_true rfl, Nat.le_of_ble_eq_true rfl⟩ ⟨Nat.zero_le _, Nat.zero_le _⟩ (gmc_gIs h2 (r := (RX1, TX1, 15)) rfl) rfl (Nat.le_of_ble_eq_true rfl) dX1_years_74) (fun r1 hw => ?_)
  refine j_b0 ?_
  refine j_icmp_ge hE 96 dX1_years_77 (by decide) (fun c3 => ?_) (fun c3 => ?_)
  · replace hw := hw.1 c3
    refine j_aload_n hE 0 dX1_years_96 rfl rfl ?_
    obtain ⟨h5, hw⟩ := hw
    refine jc_ip (jr_V hE hR (As := []) (rest := []) ((ctX1_panes E.1.2.1 E.2.2.1 hc _ _ _ hw) E.2.2.2.1) (lw_V q1157 q1159 qs31 q121 q1160) jdX1_panes ⟨Nat.le_of_ble_eq_true rfl, Nat.le_of_ble_eq_true rfl⟩ ⟨Nat.zero_le _, Nat.zero_le _⟩ (gmc_gIs h5 (r := (RX1, TX1, 15)) rfl) rfl (Nat.le_of_ble_eq_true rfl) dX1_years_97) (fun r4 hw => ?_)
    refine j_b0 ?_
    refine j_if_le hE 154 dX1_years_100 (by decide) (fun c6 => ?_) (fun c6 => ?_)
    · replace hw := hw.1 c6
      refine j_sub [(0, .ref (x0)), (2, .int (x2)), (3, .int (x3)), (4, .int (x4))] [0, 1, 2, 3] rfl ?_
      have hz := bX1_years_154 (b := b) hE hn hR hc hK ih62 hw
      exact hz
    · replace hw := hw.2 c6
      refine j_aload_n hE 0 dX1_years_103 rfl rfl ?_
      refine j_bipush hE dX1_years_104 kb_9 ?_
      obtain ⟨h8, hw⟩ := hw
      refine jc_i (jr_V hE hR (As := [.int (nI 9)]) (rest := []) ((ctX1_draws E.1.2.1 E.2.2.1 hc _ _ _ _ hw) E.2.2.2.1) (lw_V q1510 q1512 qs52 q121 q1513) jdX1_draws ⟨Nat.le_of_ble_eq_true rfl, Nat.le_of_ble_eq_true rfl⟩ ⟨Nat.zero_le _, Nat.zero_le _⟩ (gmc_gIs h8 (r := (RX1, TX1, 15)) rfl) rfl (Nat.le_of_ble_eq_true rfl) dX1_years_106) (fun r7 w9 hw => ?_)
      refine j_b0 ?_
      refine j_if_ne hE 154 dX1_years_109 (by decide) (fun c10 => ?_) (fun c10 => ?_)
      · replace hw := hw.1 c10
        refine j_sub [(0, .ref (x0)), (2, .int (x2)), (3, .int (x3)), (4, .int (x4))] [0, 1, 2, 3] rfl ?_
        have hz := bX1_years_154 (b := b) hE hn hR hc hK ih62 hw
        exact hz
      · replace hw := hw.2 c10
        refine j_aload_n hE 0 dX1_years_112 rfl rfl ?_
        refine j_aload_n hE 0 dX1_years_113 rfl rfl ?_
        obtain ⟨h12, hw⟩ := hw
        refine jc_ip (jr_V hE hR (As := []) (rest := [.ref (x0)]) ((ctX1_panes E.1.2.1 E.2.2.1 hc _ _ _ hw) E.2.2.2.1) (lw_V q1157 q1159 qs31 q121 q1160) jdX1_panes ⟨Nat.le_of_ble_eq_true rfl, Nat.le_of_ble_eq_true rfl⟩ ⟨Nat.zero_le _, Nat.zero_le _⟩ (gmc_gIs h12 (r := (RX1, TX1, 15)) rfl) rfl (Nat.le_of_ble_eq_true rfl) dX1_years_114) (fun r11 hw => ?_)
        refine j_b0 ?_
        obtain ⟨h14, hw⟩ := hw
        refine jc_i (jr_V hE hR (As := [.int (r11)]) (rest := []) ((ctX1_draws E.1.2.1 E.2.2.1 hc _ _ _ _ hw) E.2.2.2.1) (lw_V q1510 q1512 qs52 q121 q1513) jdX1_draws ⟨Nat.le_of_ble_eq_true rfl, Nat.le_of_ble_eq_true rfl⟩ ⟨Nat.zero_le _, Nat.zero_le _⟩ (gmc_gIs h14 (r := (RX1, TX1, 15)) rfl) rfl (Nat.le_of_ble_eq_true rfl) dX1_years_117) (fun r13 w15 hw => ?_)
        refine j_b0 ?_
        refine j_istore (L' := [(5, .int (r13)), (0, .ref (x0)), (2, .int (x2)), (3, .int (x3)), (4, .int (x4))]) hE hn dX1_years_120 (Nat.le_of_ble_eq_true rfl) rfl ?_
        refine j_aload_n hE 1 dX1_years_122 rfl rfl ?_
        refine j_aload_n hE 1 dX1_years_123 rfl rfl ?_
        obtain ⟨f16, h17, hw⟩ := hw
        refine j_getM hE gf_GlassStreet_trial q352 h17 dX1_years_124 ?_
        refine j_iload hE 0 dX1_years_127 rfl ?_
        obtain ⟨a18, e9, hx⟩ := hw
        subst e9
        have hw := hx
        clear hx
        obtain ⟨h20, hw⟩ := hw
        refine jc_ip (jr_V hE hR (As := [.ref (a18), .int (r13)]) (rest := []) ((ctX1_canWash E.1.2.1 E.2.2.1 hc _ _ _ _ _ hw) E.2.2.2.1) (lw_V q1298 q1300 qs42 q121 q1301) jdX1_canWash ⟨Nat.le_of_ble_eq_true rfl, Nat.le_of_ble_eq_true rfl⟩ ⟨Nat.zero_le _, Nat.zero_le _⟩ (gmc_gIs h20 (r := (RX1, TX1, 15)) rfl) rfl (Nat.le_of_ble_eq_true rfl) dX1_years_129) (fun r19 hw => ?_)
        refine j_b0 ?_
        refine j_if_eq hE 154 dX1_years_132 (by decide) (fun c21 => ?_) (fun c21 => ?_)
        · replace hw := hw.1 c21
          refine j_sub [(0, .ref (x0)), (2, .int (x2)), (3, .int (x3)), (4, .int (x4))] [1, 2, 3, 4] rfl ?_
          have hz := bX1_years_154 (b := b) hE hn hR hc hK ih62 hw
          exact hz
        · replace hw := hw.2 c21
          refine j_aload_n hE 1 dX1_years_135 rfl rfl ?_
          obtain ⟨f22, h23, hw⟩ := hw
          refine j_getM hE gf_GlassStreet_trial q352 h23 dX1_years_136 ?_
          obtain ⟨a24, e9, hx⟩ := hw
          subst e9
          have hw := hx
          clear hx
          obtain ⟨f25, h26, hw⟩ := hw
          refine j_getMN hE gf_GlassStreet_State_marks q320 h26 dX1_years_139 ?_
          refine j_iload hE 0 dX1_years_142 rfl ?_
          obtain ⟨a27, e9, hx⟩ := hw
          subst e9
          have hw := hx
          clear hx
          obtain ⟨n28, f29, h30, h31, hw⟩ := hw
          obtain ⟨r32, e_r32⟩ : ∃ r9, f29 (r13).toNatClampNeg = r9 := ⟨_, rfl⟩
          replace hw := hw r32 e_r32
          refine j_aldQ hE (t := 5) ⟨by decide, by decide⟩ h30 h31 e_r32 dX1_years_144 ?_
          refine j_dup hE dX1_years_145 (va_rf_cat _) ?_
          obtain ⟨a33, e9, hx⟩ := hw
          subst e9
          have hw := hx
          clear hx
          obtain ⟨f34, h35, hw⟩ := hw
          refine j_getMN hE gf_GlassStreet_Marks_many q303 h35 dX1_years_146 ?_
          refine j_iconst hE dX1_years_149 kc_1 ?_
          refine j_isub hE dX1_years_150 ?_
          obtain ⟨n36, fs37, h38, h39, h40, hw⟩ := hw
          refine j_putXN hE h39 gw_GlassStreet_Marks_many_X1 q303 h38 rfl rfl h40 dX1_years_151 ?_
          refine j_nw (fun w41 e_w41 => ?_)
          replace hw := hw w41 e_w41
          refine j_sub [(0, .ref (x0)), (2, .int (x2)), (3, .int (x3)), (4, .int (x4))] [1, 2, 3, 4] rfl ?_
          have hz := bX1_years_154 (b := b) hE hn hR hc hK ih62 hw
          exact hz
  · replace hw := hw.2 c3
    refine j_aload_n hE 0 dX1_years_80 rfl rfl ?_
    refine j_aload_n hE 0 dX1_years_81 rfl rfl ?_
    obtain ⟨f42, h43, hw⟩ := hw
    refine j_getM hE gf_GlassStreet_trial q352 h43 dX1_years_82 ?_
    refine j_iload hE 4 dX1_years_85 rfl ?_
    obtain ⟨a44, e9, hx⟩ := hw
    subst e9
    have hw := hx
    clear hx
    obtain ⟨h45, hw⟩ := hw
    refine jc_v (jr_V hE hR (As := [.ref (a44), .int (x5)]) (rest := []) ((ctX1_lives E.1.2.1 E.2.2.1 hc _ _ _ _ _ hw) E.2.2.2.1) (lw_V q1506 q1508 qs51 q121 q1509) jdX1_lives ⟨Nat.le_of_ble_eq_true rfl, Nat.le_of_ble_eq_true rfl⟩ ⟨Nat.zero_le _, Nat.zero_le _⟩ (gmc_gIs h45 (r := (RX1, TX1, 15)) rfl) rfl (Nat.le_of_ble_eq_true rfl) dX1_years_87) (fun w46 hw => ?_)
    refine j_b0 ?_
    refine j_iinc (L' := [(5, .int (x5 + 1)), (0, .ref (x0)), (2, .int (x2)), (3, .int (x3)), (4, .int (x4))]) hE hn 4 dX1_years_90 rfl (congrArg (x5 + ·) kc_1) (Nat.le_of_ble_eq_true rfl) rfl ?_
    refine j_goto hE 71 dX1_years_93 (by decide) ?_
    refine j_sub [(0, .ref (x0)), (2, .int (x2)), (3, .int (x3)), (4, .int (x4)), (5, .int (x5 + 1))] [1, 2, 3, 4, 0] rfl ?_
    have hz := ih71 ((x5 + 1), w46) hw
    exact hz
def wX1_years_62_b (c : Nat → Option Nat) (x0 : Nat) (x2 : Int32) (x3 : Int32) (x4 : Int32) (w : GW) (KL62 : Int32 × GW → Prop) (K : Int32 → GW → Prop) : Prop :=
  (x2 ≤ x4 → ((¬ x3 = 0 → ((¬ x3 = ((1 : Int32)) → (∃ f4 : Option Nat, gfm w x0 [0] 5 = some (va_rf f4) ∧ (∃ a6 : Nat, f4 = some a6 ∧ (gmc w x0 = some 0 ∧ (wX1_harmOf c x0 a6 (nI 6) w (fun r7 => K r7 w)))))) ∧ (x3 = ((1 : Int32)) → (∃ f9 : Int32, gfm w x0 [0] 13 = some (.int f9) ∧ (K f9 w))))) ∧ (x3 = 0 → (∃ f11 : Int32, gfm w x0 [0] 12 = some (.int f11) ∧ (K f11 w))))) ∧ (¬ x2 ≤ x4 → (wX1_years_71 c x0 x2 x3 x4 ((0 : Int32)) w KL62 K))
def wX1_years_62 (c : Nat → Option Nat) (x0 : Nat) (x2 : Int32) (x3 : Int32) (x4 : Int32) (w : GW) (K : Int32 → GW → Prop) : Prop := lfp (σ := Int32 × GW) (fun KL s => wX1_years_62_b c x0 x2 x3 s.1 s.2 KL K) (x4, w)
set_option maxRecDepth 100000 in
theorem bX1_years_62 {E : jE} (hE : jOk E cX1_years RX1) (hn : E.2.2.2.2 = 6) (hR : jRoom E 2228 66771) {c : Nat → Option Nat} (hc : E.2.2.1.2.2.2 = c) {b : Nat × Nat} {K : Int32 → GW → Prop} (hK : jRi E .int (K)) {x0 : Nat} {x2 : Int32} {x3 : Int32} {x4 : Int32} {w : GW}  (hw : wX1_years_62 c x0 x2 x3 x4 w K) : J E w b [(0, .ref (x0)), (2, .int (x2)), (3, .int (x3)), (4, .int (x4))] 62 [] := by
  refine lfp_sound (σ := Int32 × GW) (F := fun KL s => wX1_years_62_b c x0 x2 x3 s.1 s.2 KL K) (P := fun s => J E (s.2) b [(0, .ref (x0)), (2, .int (x2)), (3, .int (x3)), (4, .int (s.1))] 62 []) ?_ hw
  clear hw
  rintro KL62 ⟨x4, w⟩ hw ih62
  have hw : wX1_years_62_b c x0 x2 x3 x4 w KL62 K := hw
  unfold wX1_years_62_b at hw
  refine j_iload hE 3 dX1_years_62 rfl ?_
  refine j_iload_n hE 1 dX1_years_64 rfl rfl ?_
  refine j_icmp_ge hE 169 dX1_years_65 (by decide) (fun c1 => ?_) (fun c1 => ?_)
  · replace hw := hw.1 c1
    refine j_iload_n hE 2 dX1_years_169 rfl rfl ?_
    refine j_if_ne hE 180 dX1_years_170 (by decide) (fun c2 => ?_) (fun c2 => ?_)
    · replace hw := hw.1 c2
      refine j_iload_n hE 2 dX1_years_180 rfl rfl ?_
      refine j_iconst hE dX1_years_181 kc_1 ?_
      refine j_icmp_ne hE 192 dX1_years_182 (by decide) (fun c3 => ?_) (fun c3 => ?_)
      · replace hw := hw.1 c3
        refine j_aload_n hE 0 dX1_years_192 rfl rfl ?_
        refine j_aload_n hE 0 dX1_years_193 rfl rfl ?_
        obtain ⟨f4, h5, hw⟩ := hw
        refine j_getM hE gf_GlassStreet_trial q352 h5 dX1_years_194 ?_
        refine j_bipush hE dX1_years_197 kb_6 ?_
        obtain ⟨a6, e9, hx⟩ := hw
        subst e9
        have hw := hx
        clear hx
        obtain ⟨h8, hw⟩ := hw
        refine jc_ip (jr_V hE hR (As := [.ref (a6), .int (nI 6)]) (rest := []) ((ctX1_harmOf E.1.2.1 E.2.2.1 hc _ _ _ _ _ hw) E.2.2.2.1) (lw_V q1377 q1379 qs46 q121 q1380) jdX1_harmOf ⟨Nat.le_of_ble_eq_true rfl, Nat.le_of_ble_eq_true rfl⟩ ⟨Nat.zero_le _, Nat.zero_le _⟩ (gmc_gIs h8 (r := (RX1, TX1, 15)) rfl) rfl (Nat.le_of_ble_eq_true rfl) dX1_years_199) (fun r7 hw => ?_)
        refine j_b0 ?_
        exact j_iret hE hK dX1_years_202 rfl hw
      · replace hw := hw.2 c3
        refine j_aload_n hE 0 dX1_years_185 rfl rfl ?_
        obtain ⟨f9, h10, hw⟩ := hw
        refine j_getM hE gf_GlassStreet_unseen q360 h10 dX1_years_186 ?_
        refine j_goto hE 202 dX1_years_189 (by decide) ?_
        exact j_iret hE hK dX1_years_202 rfl hw
    · replace hw := hw.2 c2
      refine j_aload_n hE 0 dX1_years_173 rfl rfl ?_
      obtain ⟨f11, h12, hw⟩ := hw
      refine j_getM hE gf_GlassStreet_did q359 h12 dX1_years_174 ?_
      refine j_goto hE 202 dX1_years_177 (by decide) ?_
      exact j_iret hE hK dX1_years_202 rfl hw
  · replace hw := hw.2 c1
    refine j_iconst hE dX1_years_68 kc_0 ?_
    refine j_istore (L' := [(5, .int ((0 : Int32))), (0, .ref (x0)), (2, .int (x2)), (3, .int (x3)), (4, .int (x4))]) hE hn dX1_years_69 (Nat.le_of_ble_eq_true rfl) rfl ?_
    refine j_sub [(0, .ref (x0)), (2, .int (x2)), (3, .int (x3)), (4, .int (x4)), (5, .int ((0 : Int32)))] [1, 2, 3, 4, 0] rfl ?_
    have hz := bX1_years_71 (b := b) hE hn hR hc hK ih62 hw
    exact hz
def wX1_years_0 (c : Nat → Option Nat) (x0 : Nat) (x1 : Int32) (x2 : Int32) (x3 : Int32) (w : GW) (K : Int32 → GW → Prop) : Prop :=
  wX1_in c x1 ((0 : Int32)) (nI 9999) w (fun r1 => (r1 = 0 → (K ((-1 : Int32)) w)) ∧ (¬ r1 = 0 → (wX1_in c x2 ((1 : Int32)) (nI 99) w (fun r3 => (r3 = 0 → (K ((-1 : Int32)) w)) ∧ (¬ r3 = 0 → (wX1_in c x3 ((0 : Int32)) (nI 2) w (fun r5 => (¬ r5 = 0 → (∃ (n7 : Nat) (fs8 : List Value), w x0 = some (true, .inr (n7, fs8)) ∧ n7 ∈ ([0] : List Nat) ∧ 11 < fs8.length ∧ (∀ w12 : GW, w12 = gup w x0 (.inr (n7, fs8.set 11 (.long x1.toInt64))) → (∃ (n13 : Nat) (fs14 : List Value), w12 x0 = some (true, .inr (n13, fs14)) ∧ n13 ∈ ([0] : List Nat) ∧ 12 < fs14.length ∧ (∀ w18 : GW, w18 = gup w12 x0 (.inr (n13, fs14.set 12 (.int ((0 : Int32))))) → (∃ (n19 : Nat) (fs20 : List Value), w18 x0 = some (true, .inr (n19, fs20)) ∧ n19 ∈ ([0] : List Nat) ∧ 13 < fs20.length ∧ (∀ w24 : GW, w24 = gup w18 x0 (.inr (n19, fs20.set 13 (.int ((0 : Int32))))) → (∃ f25 : Option Nat, gfm w24 x0 [0] 5 = some (va_rf f25) ∧ (∃ f27 : Option Nat, gfm w24 x0 [0] 4 = some (va_rf f27) ∧ (∃ a29 : Nat, f25 = some a29 ∧ (∃ a30 : Nat, f27 = some a30 ∧ (gmc w24 a29 = some 3 ∧ (wX4_be c a29 a30 w24 (fun w32 => wX1_years_62 c x0 x2 x3 ((0 : Int32)) w32 K)))))))))))))) ∧ (r5 = 0 → (K ((-1 : Int32)) w)))))))))
set_option maxRecDepth 100000 in
theorem bX1_years_0 {E : jE} (hE : jOk E cX1_years RX1) (hn : E.2.2.2.2 = 6) (hR : jRoom E 2228 66771) {c : Nat → Option Nat} (hc : E.2.2.1.2.2.2 = c) {b : Nat × Nat} {K : Int32 → GW → Prop} (hK : jRi E .int (K)) {x0 : Nat} {x1 : Int32} {x2 : Int32} {x3 : Int32} {w : GW}  (hw : wX1_years_0 c x0 x1 x2 x3 w K) : J E w b [(0, .ref (x0)), (1, .int (x1)), (2, .int (x2)), (3, .int (x3))] 0 [] := by
  unfold wX1_years_0 at hw
  refine j_iload_n hE 1 dX1_years_0 rfl rfl ?_
  refine j_iconst hE dX1_years_1 kc_0 ?_
  refine j_sipush hE dX1_years_2 ks_9999 ?_
  refine jc_ip (jr_S hE hR (As := [.int (x1), .int ((0 : Int32)), .int (nI 9999)]) (rest := []) ((ctX1_in E.1.2.1 E.2.2.1 hc _ _ _ _ _ hw) E.2.2.2.1) (lw_S q1162 q919 q121 q920) jdX1_in ⟨Nat.le_of_ble_eq_true rfl, Nat.le_of_ble_eq_true rfl⟩ ⟨Nat.zero_le _, Nat.zero_le _⟩  rfl (Nat.le_of_ble_eq_true rfl) dX1_years_5) (fun r1 hw => ?_)
  refine j_b0 ?_
  refine j_if_eq hE 30 dX1_years_8 (by decide) (fun c2 => ?_) (fun c2 => ?_)
  · replace hw := hw.1 c2
    refine j_iconst hE dX1_years_30 kc_m1 ?_
    exact j_iret hE hK dX1_years_31 rfl hw
  · replace hw := hw.2 c2
    refine j_iload_n hE 2 dX1_years_11 rfl rfl ?_
    refine j_iconst hE dX1_years_12 kc_1 ?_
    refine j_bipush hE dX1_years_13 kb_99 ?_
    refine jc_ip (jr_S hE hR (As := [.int (x2), .int ((1 : Int32)), .int (nI 99)]) (rest := []) ((ctX1_in E.1.2.1 E.2.2.1 hc _ _ _ _ _ hw) E.2.2.2.1) (lw_S q1162 q919 q121 q920) jdX1_in ⟨Nat.le_of_ble_eq_true rfl, Nat.le_of_ble_eq_true rfl⟩ ⟨Nat.zero_le _, Nat.zero_le _⟩  rfl (Nat.le_of_ble_eq_true rfl) dX1_years_15) (fun r3 hw => ?_)
    refine j_b0 ?_
    refine j_if_eq hE 30 dX1_years_18 (by decide) (fun c4 => ?_) (fun c4 => ?_)
    · replace hw := hw.1 c4
      refine j_iconst hE dX1_years_30 kc_m1 ?_
      exact j_iret hE hK dX1_years_31 rfl hw
    · replace hw := hw.2 c4
      refine j_iload_n hE 3 dX1_years_21 rfl rfl ?_
      refine j_iconst hE dX1_years_22 kc_0 ?_
      refine j_iconst hE dX1_years_23 kc_2 ?_
      refine jc_ip (jr_S hE hR (As := [.int (x3), .int ((0 : Int32)), .int (nI 2)]) (rest := []) ((ctX1_in E.1.2.1 E.2.2.1 hc _ _ _ _ _ hw) E.2.2.2.1) (lw_S q1162 q919 q121 q920) jdX1_in ⟨Nat.le_of_ble_eq_true rfl, Nat.le_of_ble_eq_true rfl⟩ ⟨Nat.zero_le _, Nat.zero_le _⟩  rfl (Nat.le_of_ble_eq_true rfl) dX1_years_24) (fun r5 hw => ?_)
      refine j_b0 ?_
      refine j_if_ne hE 32 dX1_years_27 (by decide) (fun c6 => ?_) (fun c6 => ?_)
      · replace hw := hw.1 c6
        refine j_aload_n hE 0 dX1_years_32 rfl rfl ?_
        refine j_iload_n hE 1 dX1_years_33 rfl rfl ?_
        refine j_i2l hE dX1_years_34 ?_
        obtain ⟨n7, fs8, h9, h10, h11, hw⟩ := hw
        refine j_putX hE h10 gw_GlassStreet_g_X1 q358 h9 rfl rfl h11 dX1_years_35 ?_
        refine j_nw (fun w12 e_w12 => ?_)
        replace hw := hw w12 e_w12
        refine j_aload_n hE 0 dX1_years_38 rfl rfl ?_
        refine j_iconst hE dX1_years_39 kc_0 ?_
        obtain ⟨n13, fs14, h15, h16, h17, hw⟩ := hw
        refine j_putX hE h16 gw_GlassStreet_did_X1 q359 h15 rfl rfl h17 dX1_years_40 ?_
        refine j_nw (fun w18 e_w18 => ?_)
        replace hw := hw w18 e_w18
        refine j_aload_n hE 0 dX1_years_43 rfl rfl ?_
        refine j_iconst hE dX1_years_44 kc_0 ?_
        obtain ⟨n19, fs20, h21, h22, h23, hw⟩ := hw
        refine j_putX hE h22 gw_GlassStreet_unseen_X1 q360 h21 rfl rfl h23 dX1_years_45 ?_
        refine j_nw (fun w24 e_w24 => ?_)
        replace hw := hw w24 e_w24
        refine j_aload_n hE 0 dX1_years_48 rfl rfl ?_
        obtain ⟨f25, h26, hw⟩ := hw
        refine j_getM hE gf_GlassStreet_trial q352 h26 dX1_years_49 ?_
        refine j_aload_n hE 0 dX1_years_52 rfl rfl ?_
        obtain ⟨f27, h28, hw⟩ := hw
        refine j_getM hE gf_GlassStreet_state q351 h28 dX1_years_53 ?_
        obtain ⟨a29, e9, hx⟩ := hw
        subst e9
        have hw := hx
        clear hx
        obtain ⟨a30, e9, hx⟩ := hw
        subst e9
        have hw := hx
        clear hx
        obtain ⟨h31, hw⟩ := hw
        refine jc_v (jr_V hE hR (As := [.ref (a30)]) (rest := []) ((ctX4_be E.1.2.1 E.2.2.1 hc _ _ _ _ hw) E.2.2.2.1) (lw_V q1257 q1258 q1259 q127 q1260) jdX4_be ⟨Nat.le_of_ble_eq_true rfl, Nat.le_of_ble_eq_true rfl⟩ ⟨Nat.zero_le _, Nat.zero_le _⟩ (gmc_gIs h31 (r := (RX4, TX4, 5)) rfl) rfl (Nat.le_of_ble_eq_true rfl) dX1_years_56) (fun w32 hw => ?_)
        refine j_b0 ?_
        refine j_iconst hE dX1_years_59 kc_0 ?_
        refine j_istore (L' := [(4, .int ((0 : Int32))), (0, .ref (x0)), (1, .int (x1)), (2, .int (x2)), (3, .int (x3))]) hE hn dX1_years_60 (Nat.le_of_ble_eq_true rfl) rfl ?_
        refine j_sub [(0, .ref (x0)), (2, .int (x2)), (3, .int (x3)), (4, .int ((0 : Int32)))] [1, 3, 4, 0] rfl ?_
        have hz := bX1_years_62 (b := b) hE hn hR hc hK  hw
        exact hz
      · replace hw := hw.2 c6
        refine j_iconst hE dX1_years_30 kc_m1 ?_
        exact j_iret hE hK dX1_years_31 rfl hw
theorem jdX1_years : jD yX1_years 3 := by decide +kernel
abbrev wX1_years := wX1_years_0
theorem ctX1_years (l : Launch) (G : gG) {c : Nat → Option Nat} (hc : G.2.2.2 = c) (x0 : Nat) (x1 : Int32) (x2 : Int32) (x3 : Int32) (w : GW) (K : Int32 → GW → Prop) (hw : wX1_years_0 c x0 x1 x2 x3 w K) {F2 L2 : Nat} (h2 : 2228 ≤ F2 ∧ 66771 ≤ L2 := by exact ⟨Nat.le_refl _, Nat.le_refl _⟩) : CtI l yX1_years cX1_years 6 .int ({ frames := F2, cells := 0, slots := 0, locals := L2 }) G [.ref (x0), .int (x1), .int (x2), .int (x3)] w (K) :=
  CtI.of RX1 plainc_X1 rfl (Nat.le_of_ble_eq_true rfl) (fun E hE hl hG hn hR hK => bX1_years_0 hE hn (hR.le h2.1 h2.2) (by rw [hG]; exact hc) hK hw)
def wX23_init_0 (c : Nat → Option Nat) (x0 : Nat) (w : GW) (bb : Nat × Nat) (K : GW → Prop) : Prop :=
  1 ≤ bb.1 ∧ 5 ≤ bb.2 ∧ ∀ qa3 : Nat, w qa3 = none → (∀ w5 : GW, w5 = gup w qa3 (.inr (3, [va_rf none, va_rf none, .int 0, .int 0, .int 0])) → (∀ b6 : Nat × Nat, b6 = (bb.1 - 1, bb.2 - 5) → (∃ cb7 : Nat × Nat, (cb7.1 ≤ b6.1 ∧ cb7.2 ≤ b6.2) ∧ (wX4_init c qa3 w5 cb7 (fun w9 => ∀ b10 : Nat × Nat, b10 = (b6.1 - cb7.1, b6.2 - cb7.2) → (∃ (n11 : Nat) (fs12 : List Value), w9 x0 = some (true, .inr (n11, fs12)) ∧ n11 ∈ ([19] : List Nat) ∧ 0 < fs12.length ∧ (∀ w16 : GW, w16 = gup w9 x0 (.inr (n11, fs12.set 0 (va_rf (some qa3)))) → (¬ (nI 6) < 0 ∧ (nI 6).toNatClampNeg * 4 ≤ 536870912 ∧ 1 ≤ b10.1 ∧ (nI 6).toNatClampNeg ≤ b10.2 ∧ ∀ qa22 : Nat, w16 qa22 = none → (∀ w23 : GW, w23 = gup w16 qa22 (.inl (0, (nI 6).toNatClampNeg, gZero 0)) → (∀ b24 : Nat × Nat, b24 = (b10.1 - 1, b10.2 - (nI 6).toNatClampNeg) → (∃ (n25 : Nat) (fs26 : List Value), w23 x0 = some (true, .inr (n25, fs26)) ∧ n25 ∈ ([19] : List Nat) ∧ 1 < fs26.length ∧ (∀ w30 : GW, w30 = gup w23 x0 (.inr (n25, fs26.set 1 (va_rf (some qa22)))) → (K w30)))))))))))))
set_option maxRecDepth 100000 in
theorem bX23_init_0 {E : jE} (hE : jOk E cX23_init RX23) (hn : E.2.2.2.2 = 1) (hR : jRoom E 3 61) {c : Nat → Option Nat} (hc : E.2.2.1.2.2.2 = c) (hini : E.2.1.1.name = "<init>") {K : GW → Prop} (hK : jRv E (K)) {x0 : Nat} {w : GW} {bb : Nat × Nat}  (hw : wX23_init_0 c x0 w bb K) : J E w bb [(0, .ref (x0))] 0 [] := by
  unfold wX23_init_0 at hw
  refine j_aload_n hE 0 dX23_init_0 rfl rfl ?_
  refine j_objInit hE hR q1527 q_oi_inst q_oi_code (Nat.le_of_ble_eq_true rfl) (Nat.le_of_ble_eq_true rfl) dX23_init_1 ?_
  refine j_aload_n hE 0 dX23_init_4 rfl rfl ?_
  obtain ⟨h1, h2, hw⟩ := hw
  refine j_new (c := 3) (fs := [va_rf none, va_rf none, .int 0, .int 0, .int 0]) hE gok_3 q1528 q280 q127 dfl_3 ⟨h1, h2⟩ dX23_init_5 (fun qa3 h4 => ?_)
  replace hw := hw qa3 h4
  refine j_nw (fun w5 e_w5 => ?_)
  replace hw := hw w5 e_w5
  refine j_nb (fun b6 e_b6 => ?_)
  replace hw := hw b6 e_b6
  refine j_dup hE dX23_init_8 rfl ?_
  obtain ⟨cb7, h8, hw⟩ := hw
  refine jc_v (jr_I hE hR (As := []) (rest := [.ref (qa3), .ref (x0)]) ((ctX4_init E.1.2.1 E.2.2.1 hc _ _ _ _ hw) E.2.2.2.1) (lw_meth q283) q127 q1529 q282 rfl jdX4_init ⟨Nat.le_of_ble_eq_true rfl, Nat.le_of_ble_eq_true rfl⟩ h8  rfl (Nat.le_of_ble_eq_true rfl) dX23_init_9) (fun w9 hw => ?_)
  refine j_nb (fun b10 e_b10 => ?_)
  replace hw := hw b10 e_b10
  obtain ⟨n11, fs12, h13, h14, h15, hw⟩ := hw
  refine j_putXF hE hini h14 gw_GlassStreet_Notch_state_X23 q1530 h13 rfl rfl h15 dX23_init_12 ?_
  refine j_nw (fun w16 e_w16 => ?_)
  replace hw := hw w16 e_w16
  refine j_aload_n hE 0 dX23_init_15 rfl rfl ?_
  refine j_bipush hE dX23_init_16 kb_6 ?_
  obtain ⟨h17, h18, h19, h20, hw⟩ := hw
  refine j_newarr hE (atype := .int) (t := 0) (by decide) rfl q276 h17 h18 ⟨h19, h20⟩ dX23_init_18 (fun qa22 h21 => ?_)
  replace hw := hw qa22 h21
  refine j_nw (fun w23 e_w23 => ?_)
  replace hw := hw w23 e_w23
  refine j_nb (fun b24 e_b24 => ?_)
  replace hw := hw b24 e_b24
  obtain ⟨n25, fs26, h27, h28, h29, hw⟩ := hw
  refine j_putXF hE hini h28 gw_GlassStreet_Notch_said_X23 q1532 h27 rfl rfl h29 dX23_init_20 ?_
  refine j_nw (fun w30 e_w30 => ?_)
  replace hw := hw w30 e_w30
  exact j_vret hE hK dX23_init_23 hw
theorem jdX23_init : jD yX23_init 0 := by decide +kernel
abbrev wX23_init := wX23_init_0
theorem ctX23_init (l : Launch) (G : gG) {c : Nat → Option Nat} (hc : G.2.2.2 = c) (x0 : Nat) (w : GW) (bb : Nat × Nat) (K : GW → Prop) (hw : wX23_init_0 c x0 w bb K) {F2 L2 : Nat} (h2 : 3 ≤ F2 ∧ 61 ≤ L2 := by exact ⟨Nat.le_refl _, Nat.le_refl _⟩) : CtV l yX23_init cX23_init 1 ({ frames := F2, cells := bb.1, slots := bb.2, locals := L2 }) G [.ref (x0)] w (K) :=
  CtV.ofI RX23 plainc_X23 rfl rfl (Nat.le_of_ble_eq_true rfl) (fun E hE hini hl hG hn hR hK => bX23_init_0 hE hn (hR.le h2.1 h2.2) (by rw [hG]; exact hc) hini hK hw)
def wX1_notch_46 (c : Nat → Option Nat) (x0 : Nat) (x1 : Int32) (x2 : Int32) (w : GW) (bb : Nat × Nat) (K : Int32 → GW → Prop) : Prop :=
  ∃ f1 : Option Nat, gfm w x0 [0] 14 = some (va_rf f1) ∧ (∃ a3 : Nat, f1 = some a3 ∧ (∃ (n4 : Nat) (f5 : Nat → Option Nat), gaq w a3 7 = some (n4, f5) ∧ vp_in x1 n4 ∧ (∀ r8 : Option Nat, f5 (x1).toNatClampNeg = r8 → ((x2 = 0 → (∃ a10 : Nat, r8 = some a10 ∧ (∃ f11 : Option Nat, gfm w a10 [19] 0 = some (va_rf f11) ∧ (∃ f13 : Option Nat, gfm w x0 [0] 4 = some (va_rf f13) ∧ (∃ a15 : Nat, f11 = some a15 ∧ (∃ a16 : Nat, f13 = some a16 ∧ (gmc w a15 = some 3 ∧ (wX4_be c a15 a16 w (fun w18 => ∃ f19 : Option Nat, gfm w18 x0 [0] 10 = some (va_rf f19) ∧ (∃ f21 : Option Nat, gfm w18 a10 [19] 1 = some (va_rf f21) ∧ (∃ a23 : Nat, f19 = some a23 ∧ (∃ a24 : Nat, f21 = some a24 ∧ (wX1_copies c a23 a24 w18 (fun w25 => K ((1 : Int32)) w25)))))))))))))) ∧ (¬ x2 = 0 → (∃ f26 : Option Nat, gfm w x0 [0] 4 = some (va_rf f26) ∧ (∃ a28 : Nat, r8 = some a28 ∧ (∃ f29 : Option Nat, gfm w a28 [19] 0 = some (va_rf f29) ∧ (∃ a31 : Nat, f26 = some a31 ∧ (∃ a32 : Nat, f29 = some a32 ∧ (gmc w a31 = some 3 ∧ (wX4_be c a31 a32 w (fun w34 => ∃ f35 : Option Nat, gfm w34 a28 [19] 1 = some (va_rf f35) ∧ (∃ f37 : Option Nat, gfm w34 x0 [0] 10 = some (va_rf f37) ∧ (∃ a39 : Nat, f35 = some a39 ∧ (∃ a40 : Nat, f37 = some a40 ∧ (wX1_copies c a39 a40 w34 (fun w41 => ∃ (n42 : Nat) (fs43 : List Value), w41 x0 = some (true, .inr (n42, fs43)) ∧ n42 ∈ ([0] : List Nat) ∧ 9 < fs43.length ∧ (∀ w47 : GW, w47 = gup w41 x0 (.inr (n42, fs43.set 9 (.int ((0 : Int32))))) → (K ((1 : Int32)) w47))))))))))))))))))))
set_option maxRecDepth 100000 in
theorem bX1_notch_46 {E : jE} (hE : jOk E cX1_notch RX1) (hn : E.2.2.2.2 = 4) (hR : jRoom E 4 81) {c : Nat → Option Nat} (hc : E.2.2.1.2.2.2 = c) {K : Int32 → GW → Prop} (hK : jRi E .boolean (K)) {x0 : Nat} {x1 : Int32} {x2 : Int32} {w : GW} {bb : Nat × Nat}  (hw : wX1_notch_46 c x0 x1 x2 w bb K) : J E w bb [(0, .ref (x0)), (1, .int (x1)), (2, .int (x2))] 46 [] := by
  unfold wX1_notch_46 at hw
  refine j_aload_n hE 0 dX1_notch_46 rfl rfl ?_
  obtain ⟨f1, h2, hw⟩ := hw
  refine j_getM hE gf_GlassStreet_notches q361 h2 dX1_notch_47 ?_
  refine j_iload_n hE 1 dX1_notch_50 rfl rfl ?_
  obtain ⟨a3, e9, hx⟩ := hw
  subst e9
  have hw := hx
  clear hx
  obtain ⟨n4, f5, h6, h7, hw⟩ := hw
  obtain ⟨r8, e_r8⟩ : ∃ r9, f5 (x1).toNatClampNeg = r9 := ⟨_, rfl⟩
  replace hw := hw r8 e_r8
  refine j_aldQ hE (t := 7) ⟨by decide, by decide⟩ h6 h7 e_r8 dX1_notch_51 ?_
  refine j_astore_nq (L' := [(3, va_rf (r8)), (0, .ref (x0)), (1, .int (x1)), (2, .int (x2))]) hE hn dX1_notch_52 rfl (Nat.le_of_ble_eq_true rfl) rfl ?_
  refine j_iload_n hE 3 dX1_notch_53 rfl rfl ?_
  refine j_if_eq hE 87 dX1_notch_54 (by decide) (fun c9 => ?_) (fun c9 => ?_)
  · replace hw := hw.1 c9
    refine j_aload_nq hE 0 dX1_notch_87 rfl rfl ?_
    obtain ⟨a10, e9, hx⟩ := hw
    subst e9
    have hw := hx
    clear hx
    obtain ⟨f11, h12, hw⟩ := hw
    refine j_getMN hE gf_GlassStreet_Notch_state q1531 h12 dX1_notch_88 ?_
    refine j_aload_n hE 1 dX1_notch_91 rfl rfl ?_
    obtain ⟨f13, h14, hw⟩ := hw
    refine j_getM hE gf_GlassStreet_state q351 h14 dX1_notch_92 ?_
    obtain ⟨a15, e9, hx⟩ := hw
    subst e9
    have hw := hx
    clear hx
    obtain ⟨a16, e9, hx⟩ := hw
    subst e9
    have hw := hx
    clear hx
    obtain ⟨h17, hw⟩ := hw
    refine jc_v (jr_V hE hR (As := [.ref (a16)]) (rest := []) ((ctX4_be E.1.2.1 E.2.2.1 hc _ _ _ _ hw) E.2.2.2.1) (lw_V q1257 q1258 q1259 q127 q1260) jdX4_be ⟨Nat.le_of_ble_eq_true rfl, Nat.le_of_ble_eq_true rfl⟩ ⟨Nat.zero_le _, Nat.zero_le _⟩ (gmc_gIs h17 (r := (RX4, TX4, 5)) rfl) rfl (Nat.le_of_ble_eq_true rfl) dX1_notch_95) (fun w18 hw => ?_)
    refine j_b0 ?_
    refine j_aload_n hE 1 dX1_notch_98 rfl rfl ?_
    obtain ⟨f19, h20, hw⟩ := hw
    refine j_getM hE gf_GlassStreet_said q357 h20 dX1_notch_99 ?_
    refine j_aload_n hE 0 dX1_notch_102 rfl rfl ?_
    obtain ⟨f21, h22, hw⟩ := hw
    refine j_getMN hE gf_GlassStreet_Notch_said q1533 h22 dX1_notch_103 ?_
    obtain ⟨a23, e9, hx⟩ := hw
    subst e9
    have hw := hx
    clear hx
    obtain ⟨a24, e9, hx⟩ := hw
    subst e9
    have hw := hx
    clear hx
    refine jc_v (jr_S hE hR (As := [.ref (a23), .ref (a24)]) (rest := []) ((ctX1_copies E.1.2.1 E.2.2.1 hc _ _ _ _ hw) E.2.2.2.1) (lw_S q1539 q1068 q121 q1069) jdX1_copies ⟨Nat.le_of_ble_eq_true rfl, Nat.le_of_ble_eq_true rfl⟩ ⟨Nat.zero_le _, Nat.zero_le _⟩  rfl (Nat.le_of_ble_eq_true rfl) dX1_notch_106) (fun w25 hw => ?_)
    refine j_b0 ?_
    refine j_iconst hE dX1_notch_109 kc_1 ?_
    exact j_iret hE hK dX1_notch_110 rfl hw
  · replace hw := hw.2 c9
    refine j_aload_n hE 1 dX1_notch_57 rfl rfl ?_
    obtain ⟨f26, h27, hw⟩ := hw
    refine j_getM hE gf_GlassStreet_state q351 h27 dX1_notch_58 ?_
    refine j_aload_nq hE 0 dX1_notch_61 rfl rfl ?_
    obtain ⟨a28, e9, hx⟩ := hw
    subst e9
    have hw := hx
    clear hx
    obtain ⟨f29, h30, hw⟩ := hw
    refine j_getMN hE gf_GlassStreet_Notch_state q1531 h30 dX1_notch_62 ?_
    obtain ⟨a31, e9, hx⟩ := hw
    subst e9
    have hw := hx
    clear hx
    obtain ⟨a32, e9, hx⟩ := hw
    subst e9
    have hw := hx
    clear hx
    obtain ⟨h33, hw⟩ := hw
    refine jc_v (jr_V hE hR (As := [.ref (a32)]) (rest := []) ((ctX4_be E.1.2.1 E.2.2.1 hc _ _ _ _ hw) E.2.2.2.1) (lw_V q1257 q1258 q1259 q127 q1260) jdX4_be ⟨Nat.le_of_ble_eq_true rfl, Nat.le_of_ble_eq_true rfl⟩ ⟨Nat.zero_le _, Nat.zero_le _⟩ (gmc_gIs h33 (r := (RX4, TX4, 5)) rfl) rfl (Nat.le_of_ble_eq_true rfl) dX1_notch_65) (fun w34 hw => ?_)
    refine j_b0 ?_
    refine j_aload_n hE 0 dX1_notch_68 rfl rfl ?_
    obtain ⟨f35, h36, hw⟩ := hw
    refine j_getMN hE gf_GlassStreet_Notch_said q1533 h36 dX1_notch_69 ?_
    refine j_aload_n hE 1 dX1_notch_72 rfl rfl ?_
    obtain ⟨f37, h38, hw⟩ := hw
    refine j_getM hE gf_GlassStreet_said q357 h38 dX1_notch_73 ?_
    obtain ⟨a39, e9, hx⟩ := hw
    subst e9
    have hw := hx
    clear hx
    obtain ⟨a40, e9, hx⟩ := hw
    subst e9
    have hw := hx
    clear hx
    refine jc_v (jr_S hE hR (As := [.ref (a39), .ref (a40)]) (rest := []) ((ctX1_copies E.1.2.1 E.2.2.1 hc _ _ _ _ hw) E.2.2.2.1) (lw_S q1539 q1068 q121 q1069) jdX1_copies ⟨Nat.le_of_ble_eq_true rfl, Nat.le_of_ble_eq_true rfl⟩ ⟨Nat.zero_le _, Nat.zero_le _⟩  rfl (Nat.le_of_ble_eq_true rfl) dX1_notch_76) (fun w41 hw => ?_)
    refine j_b0 ?_
    refine j_aload_n hE 1 dX1_notch_79 rfl rfl ?_
    refine j_iconst hE dX1_notch_80 kc_0 ?_
    obtain ⟨n42, fs43, h44, h45, h46, hw⟩ := hw
    refine j_putX hE h45 gw_GlassStreet_undos_X1 q356 h44 rfl rfl h46 dX1_notch_81 ?_
    refine j_nw (fun w47 e_w47 => ?_)
    replace hw := hw w47 e_w47
    refine j_goto hE 109 dX1_notch_84 (by decide) ?_
    refine j_iconst hE dX1_notch_109 kc_1 ?_
    exact j_iret hE hK dX1_notch_110 rfl hw
def wX1_notch_24 (c : Nat → Option Nat) (x0 : Nat) (x1 : Int32) (x2 : Int32) (w : GW) (bb : Nat × Nat) (K : Int32 → GW → Prop) : Prop :=
  ∃ f1 : Option Nat, gfm w x0 [0] 14 = some (va_rf f1) ∧ (∃ a3 : Nat, f1 = some a3 ∧ (∃ (n4 : Nat) (f5 : Nat → Option Nat), gaq w a3 7 = some (n4, f5) ∧ vp_in x1 n4 ∧ (∀ r8 : Option Nat, f5 (x1).toNatClampNeg = r8 → ((¬ r8 = none → (wX1_notch_46 c x0 x1 x2 w bb K)) ∧ (r8 = none → (∃ f10 : Option Nat, gfm w x0 [0] 14 = some (va_rf f10) ∧ (1 ≤ bb.1 ∧ 2 ≤ bb.2 ∧ ∀ qa14 : Nat, w qa14 = none → (∀ w16 : GW, w16 = gup w qa14 (.inr (19, [va_rf none, va_rf none])) → (∀ b17 : Nat × Nat, b17 = (bb.1 - 1, bb.2 - 2) → (∃ cb18 : Nat × Nat, (cb18.1 ≤ b17.1 ∧ cb18.2 ≤ b17.2) ∧ (wX23_init c qa14 w16 cb18 (fun w20 => ∀ b21 : Nat × Nat, b21 = (b17.1 - cb18.1, b17.2 - cb18.2) → (∃ a22 : Nat, f10 = some a22 ∧ (∃ (n23 : Nat) (f24 : Nat → Option Nat), w20 a22 = some (true, .inl (7, n23, .inr (.inr (.inr (.inr f24))))) ∧ vp_in x1 n23 ∧ ((∃ v9 c9, some qa14 = some v9 ∧ gmc w20 v9 = some c9 ∧ c9 ∈ ([19] : List Nat)) ∧ (∀ w28 : GW, w28 = gup w20 a22 (.inl (7, n23, .inr (.inr (.inr (.inr (va_up f24 (x1).toNatClampNeg (some qa14))))))) → (wX1_notch_46 c x0 x1 x2 w28 b21 K)))))))))))))))))
set_option maxRecDepth 100000 in
theorem bX1_notch_24 {E : jE} (hE : jOk E cX1_notch RX1) (hn : E.2.2.2.2 = 4) (hR : jRoom E 4 81) {c : Nat → Option Nat} (hc : E.2.2.1.2.2.2 = c) {K : Int32 → GW → Prop} (hK : jRi E .boolean (K)) {x0 : Nat} {x1 : Int32} {x2 : Int32} {w : GW} {bb : Nat × Nat}  (hw : wX1_notch_24 c x0 x1 x2 w bb K) : J E w bb [(0, .ref (x0)), (1, .int (x1)), (2, .int (x2))] 24 [] := by
  unfold wX1_notch_24 at hw
  refine j_aload_n hE 0 dX1_notch_24 rfl rfl ?_
  obtain ⟨f1, h2, hw⟩ := hw
  refine j_getM hE gf_GlassStreet_notches q361 h2 dX1_notch_25 ?_
  refine j_iload_n hE 1 dX1_notch_28 rfl rfl ?_
  obtain ⟨a3, e9, hx⟩ := hw
  subst e9
  have hw := hx
  clear hx
  obtain ⟨n4, f5, h6, h7, hw⟩ := hw
  obtain ⟨r8, e_r8⟩ : ∃ r9, f5 (x1).toNatClampNeg = r9 := ⟨_, rfl⟩
  replace hw := hw r8 e_r8
  refine j_aldQ hE (t := 7) ⟨by decide, by decide⟩ h6 h7 e_r8 dX1_notch_29 ?_
  refine j_ifnonnull (r := r8) hE 46 dX1_notch_30 (by decide) (fun c9 => ?_) (fun c9 => ?_)
  · replace hw := hw.1 c9
    have hz := bX1_notch_46 hE hn hR hc hK  hw
    exact hz
  · replace hw := hw.2 c9
    refine j_aload_n hE 0 dX1_notch_33 rfl rfl ?_
    obtain ⟨f10, h11, hw⟩ := hw
    refine j_getM hE gf_GlassStreet_notches q361 h11 dX1_notch_34 ?_
    refine j_iload_n hE 1 dX1_notch_37 rfl rfl ?_
    obtain ⟨h12, h13, hw⟩ := hw
    refine j_new (c := 19) (fs := [va_rf none, va_rf none]) hE gok_19 q341 q1523 q163 dfl_19 ⟨h12, h13⟩ dX1_notch_38 (fun qa14 h15 => ?_)
    replace hw := hw qa14 h15
    refine j_nw (fun w16 e_w16 => ?_)
    replace hw := hw w16 e_w16
    refine j_nb (fun b17 e_b17 => ?_)
    replace hw := hw b17 e_b17
    refine j_dup hE dX1_notch_41 rfl ?_
    obtain ⟨cb18, h19, hw⟩ := hw
    refine jc_v (jr_IN hE hR (As := []) (rest := [.ref (qa14), .int (x1), va_rf (f10)]) ((ctX23_init E.1.2.1 E.2.2.1 hc _ _ _ _ hw) E.2.2.2.1) (lw_meth q1526) q163 q1524 q1525 rfl jdX23_init ⟨Nat.le_of_ble_eq_true rfl, Nat.le_of_ble_eq_true rfl⟩ h19  rfl (by cases f10 <;> exact Nat.le_of_ble_eq_true rfl) dX1_notch_42) (fun w20 hw => ?_)
    refine j_nb (fun b21 e_b21 => ?_)
    replace hw := hw b21 e_b21
    obtain ⟨a22, e9, hx⟩ := hw
    subst e9
    have hw := hx
    clear hx
    obtain ⟨n23, f24, h25, h26, hw⟩ := hw
    obtain ⟨h27, hw⟩ := hw
    refine j_astL (r := some qa14) hE elemc_7 (t := 7) ⟨by decide, by decide⟩ h25 h26 (Or.inr h27) dX1_notch_45 ?_
    refine j_nw (fun w28 e_w28 => ?_)
    replace hw := hw w28 e_w28
    have hz := bX1_notch_46 hE hn hR hc hK  hw
    exact hz
def wX1_notch_0 (c : Nat → Option Nat) (x0 : Nat) (x1 : Int32) (x2 : Int32) (w : GW) (bb : Nat × Nat) (K : Int32 → GW → Prop) : Prop :=
  wX1_in c x1 ((0 : Int32)) (nI 3) w (fun r1 => (r1 = 0 → (K ((0 : Int32)) w)) ∧ (¬ r1 = 0 → ((x2 = 0 → (wX1_notch_24 c x0 x1 x2 w bb K)) ∧ (¬ x2 = 0 → (∃ f4 : Option Nat, gfm w x0 [0] 14 = some (va_rf f4) ∧ (∃ a6 : Nat, f4 = some a6 ∧ (∃ (n7 : Nat) (f8 : Nat → Option Nat), gaq w a6 7 = some (n7, f8) ∧ vp_in x1 n7 ∧ (∀ r11 : Option Nat, f8 (x1).toNatClampNeg = r11 → ((¬ r11 = none → (wX1_notch_24 c x0 x1 x2 w bb K)) ∧ (r11 = none → (K ((0 : Int32)) w)))))))))))
set_option maxRecDepth 100000 in
theorem bX1_notch_0 {E : jE} (hE : jOk E cX1_notch RX1) (hn : E.2.2.2.2 = 4) (hR : jRoom E 4 81) {c : Nat → Option Nat} (hc : E.2.2.1.2.2.2 = c) {K : Int32 → GW → Prop} (hK : jRi E .boolean (K)) {x0 : Nat} {x1 : Int32} {x2 : Int32} {w : GW} {bb : Nat × Nat}  (hw : wX1_notch_0 c x0 x1 x2 w bb K) : J E w bb [(0, .ref (x0)), (1, .int (x1)), (2, .int (x2))] 0 [] := by
  unfold wX1_notch_0 at hw
  refine j_iload_n hE 1 dX1_notch_0 rfl rfl ?_
  refine j_iconst hE dX1_notch_1 kc_0 ?_
  refine j_iconst hE dX1_notch_2 kc_3 ?_
  refine jc_ip (jr_S hE hR (As := [.int (x1), .int ((0 : Int32)), .int (nI 3)]) (rest := []) ((ctX1_in E.1.2.1 E.2.2.1 hc _ _ _ _ _ hw) E.2.2.2.1) (lw_S q1162 q919 q121 q920) jdX1_in ⟨Nat.le_of_ble_eq_true rfl, Nat.le_of_ble_eq_true rfl⟩ ⟨Nat.zero_le _, Nat.zero_le _⟩  rfl (Nat.le_of_ble_eq_true rfl) dX1_notch_3) (fun r1 hw => ?_)
  refine j_b0 ?_
  refine j_if_eq hE 22 dX1_notch_6 (by decide) (fun c2 => ?_) (fun c2 => ?_)
  · replace hw := hw.1 c2
    refine j_iconst hE dX1_notch_22 kc_0 ?_
    exact j_iret hE hK dX1_notch_23 rfl hw
  · replace hw := hw.2 c2
    refine j_iload_n hE 2 dX1_notch_9 rfl rfl ?_
    refine j_if_eq hE 24 dX1_notch_10 (by decide) (fun c3 => ?_) (fun c3 => ?_)
    · replace hw := hw.1 c3
      have hz := bX1_notch_24 hE hn hR hc hK  hw
      exact hz
    · replace hw := hw.2 c3
      refine j_aload_n hE 0 dX1_notch_13 rfl rfl ?_
      obtain ⟨f4, h5, hw⟩ := hw
      refine j_getM hE gf_GlassStreet_notches q361 h5 dX1_notch_14 ?_
      refine j_iload_n hE 1 dX1_notch_17 rfl rfl ?_
      obtain ⟨a6, e9, hx⟩ := hw
      subst e9
      have hw := hx
      clear hx
      obtain ⟨n7, f8, h9, h10, hw⟩ := hw
      obtain ⟨r11, e_r11⟩ : ∃ r9, f8 (x1).toNatClampNeg = r9 := ⟨_, rfl⟩
      replace hw := hw r11 e_r11
      refine j_aldQ hE (t := 7) ⟨by decide, by decide⟩ h9 h10 e_r11 dX1_notch_18 ?_
      refine j_ifnonnull (r := r11) hE 24 dX1_notch_19 (by decide) (fun c12 => ?_) (fun c12 => ?_)
      · replace hw := hw.1 c12
        have hz := bX1_notch_24 hE hn hR hc hK  hw
        exact hz
      · replace hw := hw.2 c12
        refine j_iconst hE dX1_notch_22 kc_0 ?_
        exact j_iret hE hK dX1_notch_23 rfl hw
theorem jdX1_notch : jD yX1_notch 2 := by decide +kernel
abbrev wX1_notch := wX1_notch_0
theorem ctX1_notch (l : Launch) (G : gG) {c : Nat → Option Nat} (hc : G.2.2.2 = c) (x0 : Nat) (x1 : Int32) (x2 : Int32) (w : GW) (bb : Nat × Nat) (K : Int32 → GW → Prop) (hw : wX1_notch_0 c x0 x1 x2 w bb K) {F2 L2 : Nat} (h2 : 4 ≤ F2 ∧ 81 ≤ L2 := by exact ⟨Nat.le_refl _, Nat.le_refl _⟩) : CtI l yX1_notch cX1_notch 4 .boolean ({ frames := F2, cells := bb.1, slots := bb.2, locals := L2 }) G [.ref (x0), .int (x1), .int (x2)] w (K) :=
  CtI.of RX1 plainc_X1 rfl (Nat.le_of_ble_eq_true rfl) (fun E hE hl hG hn hR hK => bX1_notch_0 hE hn (hR.le h2.1 h2.2) (by rw [hG]; exact hc) hK hw)
def wX1_allMarks_4_b (c : Nat → Option Nat) (x0 : Nat) (x1 : Int32) (x2 : Int32) (w0 : GW) (KL4 : Int32 × Int32 → Prop) (K : Int32 → Prop) : Prop :=
  gmc w0 x0 = some 0 ∧ (wX1_panes c x0 w0 (fun r1 => (r1 ≤ x2 → (K x1)) ∧ (¬ r1 ≤ x2 → (∃ f4 : Option Nat, gfm w0 x0 [0] 4 = some (va_rf f4) ∧ (∃ a6 : Nat, f4 = some a6 ∧ (∃ f7 : Option Nat, gfm w0 a6 [3] 1 = some (va_rf f7) ∧ (∃ a9 : Nat, f7 = some a9 ∧ (∃ (n10 : Nat) (f11 : Nat → Option Nat), gaq w0 a9 5 = some (n10, f11) ∧ vp_in x2 n10 ∧ (∀ r14 : Option Nat, f11 (x2).toNatClampNeg = r14 → (∃ a15 : Nat, r14 = some a15 ∧ (∃ f16 : Int32, gfm w0 a15 [4] 4 = some (.int f16) ∧ (∀ v18 : Int32, v18 = x1 + f16 → (KL4 (v18, (x2 + 1)))))))))))))))
def wX1_allMarks_4 (c : Nat → Option Nat) (x0 : Nat) (x1 : Int32) (x2 : Int32) (w0 : GW) (K : Int32 → Prop) : Prop := lfp (σ := Int32 × Int32) (fun KL s => wX1_allMarks_4_b c x0 s.1 s.2 w0 KL K) (x1, x2)
set_option maxRecDepth 100000 in
theorem bX1_allMarks_4 {E : jE} (hE : jOk E cX1_allMarks RX1) (hn : E.2.2.2.2 = 3) (hR : jRoom E 2 40) {c : Nat → Option Nat} (hc : E.2.2.1.2.2.2 = c) {b : Nat × Nat} {w0 : GW} {K : Int32 → Prop} (hK : jRi E .int (KPI w0 K)) {x0 : Nat} {x1 : Int32} {x2 : Int32}  (hw : wX1_allMarks_4 c x0 x1 x2 w0 K) : J E w0 b [(0, .ref (x0)), (1, .int (x1)), (2, .int (x2))] 4 [] := by
  refine lfp_sound (σ := Int32 × Int32) (F := fun KL s => wX1_allMarks_4_b c x0 s.1 s.2 w0 KL K) (P := fun s => J E w0 b [(0, .ref (x0)), (1, .int (s.1)), (2, .int (s.2))] 4 []) ?_ hw
  clear hw
  rintro KL4 ⟨x1, x2⟩ hw ih4
  have hw : wX1_allMarks_4_b c x0 x1 x2 w0 KL4 K := hw
  unfold wX1_allMarks_4_b at hw
  refine j_iload_n hE 2 dX1_allMarks_4 rfl rfl ?_
  refine j_aload_n hE 0 dX1_allMarks_5 rfl rfl ?_
  obtain ⟨h2, hw⟩ := hw
  refine jc_ip (jr_V hE hR (As := []) (rest := [.int (x2)]) ((ctX1_panes E.1.2.1 E.2.2.1 hc _ _ _ hw) E.2.2.2.1) (lw_V q1157 q1159 qs31 q121 q1160) jdX1_panes ⟨Nat.le_of_ble_eq_true rfl, Nat.le_of_ble_eq_true rfl⟩ ⟨Nat.zero_le _, Nat.zero_le _⟩ (gmc_gIs h2 (r := (RX1, TX1, 15)) rfl) rfl (Nat.le_of_ble_eq_true rfl) dX1_allMarks_6) (fun r1 hw => ?_)
  refine j_b0 ?_
  refine j_icmp_ge hE 33 dX1_allMarks_9 (by decide) (fun c3 => ?_) (fun c3 => ?_)
  · replace hw := hw.1 c3
    refine j_iload_n hE 1 dX1_allMarks_33 rfl rfl ?_
    exact j_iret hE hK dX1_allMarks_34 rfl ⟨rfl, hw⟩
  · replace hw := hw.2 c3
    refine j_iload_n hE 1 dX1_allMarks_12 rfl rfl ?_
    refine j_aload_n hE 0 dX1_allMarks_13 rfl rfl ?_
    obtain ⟨f4, h5, hw⟩ := hw
    refine j_getM hE gf_GlassStreet_state q351 h5 dX1_allMarks_14 ?_
    obtain ⟨a6, e9, hx⟩ := hw
    subst e9
    have hw := hx
    clear hx
    obtain ⟨f7, h8, hw⟩ := hw
    refine j_getMN hE gf_GlassStreet_State_marks q320 h8 dX1_allMarks_17 ?_
    refine j_iload_n hE 2 dX1_allMarks_20 rfl rfl ?_
    obtain ⟨a9, e9, hx⟩ := hw
    subst e9
    have hw := hx
    clear hx
    obtain ⟨n10, f11, h12, h13, hw⟩ := hw
    obtain ⟨r14, e_r14⟩ : ∃ r9, f11 (x2).toNatClampNeg = r9 := ⟨_, rfl⟩
    replace hw := hw r14 e_r14
    refine j_aldQ hE (t := 5) ⟨by decide, by decide⟩ h12 h13 e_r14 dX1_allMarks_21 ?_
    obtain ⟨a15, e9, hx⟩ := hw
    subst e9
    have hw := hx
    clear hx
    obtain ⟨f16, h17, hw⟩ := hw
    refine j_getMN hE gf_GlassStreet_Marks_many q303 h17 dX1_allMarks_22 ?_
    refine j_iadd hE dX1_allMarks_25 ?_
    refine j_topi (fun v18 e_v18 => ?_)
    replace hw := hw v18 e_v18
    refine j_istore_n (L' := [(1, .int (v18)), (0, .ref (x0)), (2, .int (x2))]) hE hn dX1_allMarks_26 rfl (Nat.le_of_ble_eq_true rfl) rfl ?_
    refine j_iinc (L' := [(2, .int (x2 + 1)), (1, .int (v18)), (0, .ref (x0))]) hE hn 2 dX1_allMarks_27 rfl (congrArg (x2 + ·) kc_1) (Nat.le_of_ble_eq_true rfl) rfl ?_
    refine j_goto hE 4 dX1_allMarks_30 (by decide) ?_
    refine j_sub [(0, .ref (x0)), (1, .int (v18)), (2, .int (x2 + 1))] [2, 1, 0] rfl ?_
    have hz := ih4 (v18, (x2 + 1)) hw
    exact hz
def wX1_allMarks_0 (c : Nat → Option Nat) (x0 : Nat) (w0 : GW) (K : Int32 → Prop) : Prop :=
  wX1_allMarks_4 c x0 ((0 : Int32)) ((0 : Int32)) w0 K
set_option maxRecDepth 100000 in
theorem bX1_allMarks_0 {E : jE} (hE : jOk E cX1_allMarks RX1) (hn : E.2.2.2.2 = 3) (hR : jRoom E 2 40) {c : Nat → Option Nat} (hc : E.2.2.1.2.2.2 = c) {b : Nat × Nat} {w0 : GW} {K : Int32 → Prop} (hK : jRi E .int (KPI w0 K)) {x0 : Nat}  (hw : wX1_allMarks_0 c x0 w0 K) : J E w0 b [(0, .ref (x0))] 0 [] := by
  unfold wX1_allMarks_0 at hw
  refine j_iconst hE dX1_allMarks_0 kc_0 ?_
  refine j_istore_n (L' := [(1, .int ((0 : Int32))), (0, .ref (x0))]) hE hn dX1_allMarks_1 rfl (Nat.le_of_ble_eq_true rfl) rfl ?_
  refine j_iconst hE dX1_allMarks_2 kc_0 ?_
  refine j_istore_n (L' := [(2, .int ((0 : Int32))), (1, .int ((0 : Int32))), (0, .ref (x0))]) hE hn dX1_allMarks_3 rfl (Nat.le_of_ble_eq_true rfl) rfl ?_
  refine j_sub [(0, .ref (x0)), (1, .int ((0 : Int32))), (2, .int ((0 : Int32)))] [2, 1, 0] rfl ?_
  have hz := bX1_allMarks_4 (b := b) hE hn hR hc hK  hw
  exact hz
theorem jdX1_allMarks : jD yX1_allMarks 0 := by decide +kernel
abbrev wX1_allMarks := wX1_allMarks_0
theorem ctX1_allMarks (l : Launch) (G : gG) {c : Nat → Option Nat} (hc : G.2.2.2 = c) (x0 : Nat) (w0 : GW) (K : Int32 → Prop) (hw : wX1_allMarks_0 c x0 w0 K) {F2 L2 : Nat} (h2 : 2 ≤ F2 ∧ 40 ≤ L2 := by exact ⟨Nat.le_refl _, Nat.le_refl _⟩) : CtI l yX1_allMarks cX1_allMarks 3 .int ({ frames := F2, cells := 0, slots := 0, locals := L2 }) G [.ref (x0)] w0 (KPI w0 K) :=
  CtI.of RX1 plainc_X1 rfl (Nat.le_of_ble_eq_true rfl) (fun E hE hl hG hn hR hK => bX1_allMarks_0 hE hn (hR.le h2.1 h2.2) (by rw [hG]; exact hc) hK hw)
def wX1_saidMany_4_b (c : Nat → Option Nat) (x0 : Nat) (x1 : Int32) (x2 : Int32) (w0 : GW) (KL4 : Int32 × Int32 → Prop) (K : Int32 → Prop) : Prop :=
  gmc w0 x0 = some 0 ∧ (wX1_panes c x0 w0 (fun r1 => (r1 ≤ x2 → (K x1)) ∧ (¬ r1 ≤ x2 → (∃ f4 : Option Nat, gfm w0 x0 [0] 10 = some (va_rf f4) ∧ (∃ a6 : Nat, f4 = some a6 ∧ (∃ (n7 : Nat) (f8 : Nat → Int32), gai w0 a6 0 = some (n7, f8) ∧ vp_in x2 n7 ∧ (((rd f8 x2) < 0 → (KL4 (x1, (x2 + 1)))) ∧ (¬ (rd f8 x2) < 0 → (KL4 ((x1 + 1), (x2 + 1)))))))))))
def wX1_saidMany_4 (c : Nat → Option Nat) (x0 : Nat) (x1 : Int32) (x2 : Int32) (w0 : GW) (K : Int32 → Prop) : Prop := lfp (σ := Int32 × Int32) (fun KL s => wX1_saidMany_4_b c x0 s.1 s.2 w0 KL K) (x1, x2)
set_option maxRecDepth 100000 in
theorem bX1_saidMany_4 {E : jE} (hE : jOk E cX1_saidMany RX1) (hn : E.2.2.2.2 = 3) (hR : jRoom E 2 40) {c : Nat → Option Nat} (hc : E.2.2.1.2.2.2 = c) {b : Nat × Nat} {w0 : GW} {K : Int32 → Prop} (hK : jRi E .int (KPI w0 K)) {x0 : Nat} {x1 : Int32} {x2 : Int32}  (hw : wX1_saidMany_4 c x0 x1 x2 w0 K) : J E w0 b [(0, .ref (x0)), (1, .int (x1)), (2, .int (x2))] 4 [] := by
  refine lfp_sound (σ := Int32 × Int32) (F := fun KL s => wX1_saidMany_4_b c x0 s.1 s.2 w0 KL K) (P := fun s => J E w0 b [(0, .ref (x0)), (1, .int (s.1)), (2, .int (s.2))] 4 []) ?_ hw
  clear hw
  rintro KL4 ⟨x1, x2⟩ hw ih4
  have hw : wX1_saidMany_4_b c x0 x1 x2 w0 KL4 K := hw
  unfold wX1_saidMany_4_b at hw
  refine j_iload_n hE 2 dX1_saidMany_4 rfl rfl ?_
  refine j_aload_n hE 0 dX1_saidMany_5 rfl rfl ?_
  obtain ⟨h2, hw⟩ := hw
  refine jc_ip (jr_V hE hR (As := []) (rest := [.int (x2)]) ((ctX1_panes E.1.2.1 E.2.2.1 hc _ _ _ hw) E.2.2.2.1) (lw_V q1157 q1159 qs31 q121 q1160) jdX1_panes ⟨Nat.le_of_ble_eq_true rfl, Nat.le_of_ble_eq_true rfl⟩ ⟨Nat.zero_le _, Nat.zero_le _⟩ (gmc_gIs h2 (r := (RX1, TX1, 15)) rfl) rfl (Nat.le_of_ble_eq_true rfl) dX1_saidMany_6) (fun r1 hw => ?_)
  refine j_b0 ?_
  refine j_icmp_ge hE 30 dX1_saidMany_9 (by decide) (fun c3 => ?_) (fun c3 => ?_)
  · replace hw := hw.1 c3
    refine j_iload_n hE 1 dX1_saidMany_30 rfl rfl ?_
    exact j_iret hE hK dX1_saidMany_31 rfl ⟨rfl, hw⟩
  · replace hw := hw.2 c3
    refine j_aload_n hE 0 dX1_saidMany_12 rfl rfl ?_
    obtain ⟨f4, h5, hw⟩ := hw
    refine j_getM hE gf_GlassStreet_said q357 h5 dX1_saidMany_13 ?_
    refine j_iload_n hE 2 dX1_saidMany_16 rfl rfl ?_
    obtain ⟨a6, e9, hx⟩ := hw
    subst e9
    have hw := hx
    clear hx
    obtain ⟨n7, f8, h9, h10, hw⟩ := hw
    refine j_aldI hE h9 h10 dX1_saidMany_17 ?_
    refine j_if_lt hE 24 dX1_saidMany_18 (by decide) (fun c11 => ?_) (fun c11 => ?_)
    · replace hw := hw.1 c11
      refine j_iinc (L' := [(2, .int (x2 + 1)), (0, .ref (x0)), (1, .int (x1))]) hE hn 2 dX1_saidMany_24 rfl (congrArg (x2 + ·) kc_1) (Nat.le_of_ble_eq_true rfl) rfl ?_
      refine j_goto hE 4 dX1_saidMany_27 (by decide) ?_
      refine j_sub [(0, .ref (x0)), (1, .int (x1)), (2, .int (x2 + 1))] [1, 2, 0] rfl ?_
      have hz := ih4 (x1, (x2 + 1)) hw
      exact hz
    · replace hw := hw.2 c11
      refine j_iinc (L' := [(1, .int (x1 + 1)), (0, .ref (x0)), (2, .int (x2))]) hE hn 1 dX1_saidMany_21 rfl (congrArg (x1 + ·) kc_1) (Nat.le_of_ble_eq_true rfl) rfl ?_
      refine j_iinc (L' := [(2, .int (x2 + 1)), (1, .int (x1 + 1)), (0, .ref (x0))]) hE hn 2 dX1_saidMany_24 rfl (congrArg (x2 + ·) kc_1) (Nat.le_of_ble_eq_true rfl) rfl ?_
      refine j_goto hE 4 dX1_saidMany_27 (by decide) ?_
      refine j_sub [(0, .ref (x0)), (1, .int (x1 + 1)), (2, .int (x2 + 1))] [2, 1, 0] rfl ?_
      have hz := ih4 ((x1 + 1), (x2 + 1)) hw
      exact hz
def wX1_saidMany_0 (c : Nat → Option Nat) (x0 : Nat) (w0 : GW) (K : Int32 → Prop) : Prop :=
  wX1_saidMany_4 c x0 ((0 : Int32)) ((0 : Int32)) w0 K
set_option maxRecDepth 100000 in
theorem bX1_saidMany_0 {E : jE} (hE : jOk E cX1_saidMany RX1) (hn : E.2.2.2.2 = 3) (hR : jRoom E 2 40) {c : Nat → Option Nat} (hc : E.2.2.1.2.2.2 = c) {b : Nat × Nat} {w0 : GW} {K : Int32 → Prop} (hK : jRi E .int (KPI w0 K)) {x0 : Nat}  (hw : wX1_saidMany_0 c x0 w0 K) : J E w0 b [(0, .ref (x0))] 0 [] := by
  unfold wX1_saidMany_0 at hw
  refine j_iconst hE dX1_saidMany_0 kc_0 ?_
  refine j_istore_n (L' := [(1, .int ((0 : Int32))), (0, .ref (x0))]) hE hn dX1_saidMany_1 rfl (Nat.le_of_ble_eq_true rfl) rfl ?_
  refine j_iconst hE dX1_saidMany_2 kc_0 ?_
  refine j_istore_n (L' := [(2, .int ((0 : Int32))), (1, .int ((0 : Int32))), (0, .ref (x0))]) hE hn dX1_saidMany_3 rfl (Nat.le_of_ble_eq_true rfl) rfl ?_
  refine j_sub [(0, .ref (x0)), (1, .int ((0 : Int32))), (2, .int ((0 : Int32)))] [2, 1, 0] rfl ?_
  have hz := bX1_saidMany_4 (b := b) hE hn hR hc hK  hw
  exact hz
theorem jdX1_saidMany : jD yX1_saidMany 0 := by decide +kernel
abbrev wX1_saidMany := wX1_saidMany_0
theorem ctX1_saidMany (l : Launch) (G : gG) {c : Nat → Option Nat} (hc : G.2.2.2 = c) (x0 : Nat) (w0 : GW) (K : Int32 → Prop) (hw : wX1_saidMany_0 c x0 w0 K) {F2 L2 : Nat} (h2 : 2 ≤ F2 ∧ 40 ≤ L2 := by exact ⟨Nat.le_refl _, Nat.le_refl _⟩) : CtI l yX1_saidMany cX1_saidMany 3 .int ({ frames := F2, cells := 0, slots := 0, locals := L2 }) G [.ref (x0)] w0 (KPI w0 K) :=
  CtI.of RX1 plainc_X1 rfl (Nat.le_of_ble_eq_true rfl) (fun E hE hl hG hn hR hK => bX1_saidMany_0 hE hn (hR.le h2.1 h2.2) (by rw [hG]; exact hc) hK hw)
def wX1_count_0 (c : Nat → Option Nat) (x0 : Nat) (x1 : Int32) (w0 : GW) (K : Int32 → Prop) : Prop :=
  (x1 = 0 → (gmc w0 x0 = some 0 ∧ (wX1_panes c x0 w0 (fun r2 => K r2)))) ∧ (¬ x1 = 0 → (x1 = 1 → (gmc w0 x0 = some 0 ∧ (wX1_people c x0 w0 (fun r5 => K r5)))) ∧ (¬ x1 = 1 → (x1 = nI 2 → (gmc w0 x0 = some 0 ∧ (wX1_deeds c x0 w0 (fun r8 => K r8)))) ∧ (¬ x1 = nI 2 → (x1 = nI 3 → (∃ f11 : Option Nat, gfm w0 x0 [0] 4 = some (va_rf f11) ∧ (∃ a13 : Nat, f11 = some a13 ∧ (∃ f14 : Int32, gfm w0 a13 [3] 2 = some (.int f14) ∧ (K f14))))) ∧ (¬ x1 = nI 3 → (x1 = nI 4 → (∃ f17 : Option Nat, gfm w0 x0 [0] 2 = some (va_rf f17) ∧ (∃ f19 : Option Nat, gfm w0 x0 [0] 4 = some (va_rf f19) ∧ (∃ a21 : Nat, f19 = some a21 ∧ (∃ f22 : Int32, gfm w0 a21 [3] 2 = some (.int f22) ∧ (∃ a24 : Nat, f17 = some a24 ∧ (gmc w0 a24 = some 2 ∧ (wX3_light c a24 f22 w0 (fun r25 => K r25))))))))) ∧ (¬ x1 = nI 4 → (x1 = nI 5 → (gmc w0 x0 = some 0 ∧ (wX1_allMarks c x0 w0 (fun r28 => K r28)))) ∧ (¬ x1 = nI 5 → (x1 = nI 6 → (∃ f31 : Option Nat, gfm w0 x0 [0] 4 = some (va_rf f31) ∧ (∃ a33 : Nat, f31 = some a33 ∧ (∃ f34 : Int32, gfm w0 a33 [3] 3 = some (.int f34) ∧ (K f34))))) ∧ (¬ x1 = nI 6 → (x1 = nI 7 → (∃ f37 : Option Nat, gfm w0 x0 [0] 4 = some (va_rf f37) ∧ (∃ a39 : Nat, f37 = some a39 ∧ (∃ f40 : Int32, gfm w0 a39 [3] 4 = some (.int f40) ∧ (K f40))))) ∧ (¬ x1 = nI 7 → (x1 = nI 8 → (∃ f43 : Option Nat, gfm w0 x0 [0] 3 = some (va_rf f43) ∧ (∃ a45 : Nat, f43 = some a45 ∧ (gmc w0 a45 = some 20 ∧ (wJ2_size c a45 w0 (fun r46 => K r46)))))) ∧ (¬ x1 = nI 8 → (x1 = nI 9 → (gmc w0 x0 = some 0 ∧ (wX1_saidMany c x0 w0 (fun r49 => K r49)))) ∧ (¬ x1 = nI 9 → (x1 = nI 10 → (∃ f52 : Int32, gfm w0 x0 [0] 9 = some (.int f52) ∧ (K f52))) ∧ (¬ x1 = nI 10 → (x1 = nI 11 → (∃ f55 : Int32, gfm w0 x0 [0] 7 = some (.int f55) ∧ (K f55))) ∧ (¬ x1 = nI 11 → (K ((-1 : Int32)))))))))))))))
set_option maxRecDepth 100000 in
theorem bX1_count_0 {E : jE} (hE : jOk E cX1_count RX1) (hn : E.2.2.2.2 = 2) (hR : jRoom E 3 62) {c : Nat → Option Nat} (hc : E.2.2.1.2.2.2 = c) {b : Nat × Nat} {w0 : GW} {K : Int32 → Prop} (hK : jRi E .int (KPI w0 K)) {x0 : Nat} {x1 : Int32}  (hw : wX1_count_0 c x0 x1 w0 K) : J E w0 b [(0, .ref (x0)), (1, .int (x1))] 0 [] := by
  unfold wX1_count_0 at hw
  refine j_iload_n hE 1 dX1_count_0 rfl rfl ?_
  by_cases c1 : x1 = 0
  · replace hw := hw.1 c1
    refine j_tin hE 64 dX1_count_1 (by rw [c1] <;> decide) (by rw [c1] <;> decide) (by rw [c1] <;> rfl) (by decide) ?_
    refine j_aload_n hE 0 dX1_count_64 rfl rfl ?_
    obtain ⟨h3, hw⟩ := hw
    refine jc_ip (jr_V hE hR (As := []) (rest := []) ((ctX1_panes E.1.2.1 E.2.2.1 hc _ _ _ hw) E.2.2.2.1) (lw_V q1157 q1159 qs31 q121 q1160) jdX1_panes ⟨Nat.le_of_ble_eq_true rfl, Nat.le_of_ble_eq_true rfl⟩ ⟨Nat.zero_le _, Nat.zero_le _⟩ (gmc_gIs h3 (r := (RX1, TX1, 15)) rfl) rfl (Nat.le_of_ble_eq_true rfl) dX1_count_65) (fun r2 hw => ?_)
    refine j_b0 ?_
    exact j_iret hE hK dX1_count_68 rfl ⟨rfl, hw⟩
  replace hw := hw.2 c1
  by_cases c4 : x1 = 1
  · replace hw := hw.1 c4
    refine j_tin hE 69 dX1_count_1 (by rw [c4] <;> decide) (by rw [c4] <;> decide) (by rw [c4] <;> rfl) (by decide) ?_
    refine j_aload_n hE 0 dX1_count_69 rfl rfl ?_
    obtain ⟨h6, hw⟩ := hw
    refine jc_ip (jr_V hE hR (As := []) (rest := []) ((ctX1_people E.1.2.1 E.2.2.1 hc _ _ _ hw) E.2.2.2.1) (lw_V q1242 q1244 qs36 q121 q1245) jdX1_people ⟨Nat.le_of_ble_eq_true rfl, Nat.le_of_ble_eq_true rfl⟩ ⟨Nat.zero_le _, Nat.zero_le _⟩ (gmc_gIs h6 (r := (RX1, TX1, 15)) rfl) rfl (Nat.le_of_ble_eq_true rfl) dX1_count_70) (fun r5 hw => ?_)
    refine j_b0 ?_
    exact j_iret hE hK dX1_count_73 rfl ⟨rfl, hw⟩
  replace hw := hw.2 c4
  by_cases c7 : x1 = nI 2
  · replace hw := hw.1 c7
    refine j_tin hE 74 dX1_count_1 (by rw [c7] <;> decide) (by rw [c7] <;> decide) (by rw [c7] <;> rfl) (by decide) ?_
    refine j_aload_n hE 0 dX1_count_74 rfl rfl ?_
    obtain ⟨h9, hw⟩ := hw
    refine jc_ip (jr_V hE hR (As := []) (rest := []) ((ctX1_deeds E.1.2.1 E.2.2.1 hc _ _ _ hw) E.2.2.2.1) (lw_V q1274 q1276 qs39 q121 q1277) jdX1_deeds ⟨Nat.le_of_ble_eq_true rfl, Nat.le_of_ble_eq_true rfl⟩ ⟨Nat.zero_le _, Nat.zero_le _⟩ (gmc_gIs h9 (r := (RX1, TX1, 15)) rfl) rfl (Nat.le_of_ble_eq_true rfl) dX1_count_75) (fun r8 hw => ?_)
    refine j_b0 ?_
    exact j_iret hE hK dX1_count_78 rfl ⟨rfl, hw⟩
  replace hw := hw.2 c7
  by_cases c10 : x1 = nI 3
  · replace hw := hw.1 c10
    refine j_tin hE 79 dX1_count_1 (by rw [c10] <;> decide) (by rw [c10] <;> decide) (by rw [c10] <;> rfl) (by decide) ?_
    refine j_aload_n hE 0 dX1_count_79 rfl rfl ?_
    obtain ⟨f11, h12, hw⟩ := hw
    refine j_getM hE gf_GlassStreet_state q351 h12 dX1_count_80 ?_
    obtain ⟨a13, e9, hx⟩ := hw
    subst e9
    have hw := hx
    clear hx
    obtain ⟨f14, h15, hw⟩ := hw
    refine j_getMN hE gf_GlassStreet_State_hour q322 h15 dX1_count_83 ?_
    exact j_iret hE hK dX1_count_86 rfl ⟨rfl, hw⟩
  replace hw := hw.2 c10
  by_cases c16 : x1 = nI 4
  · replace hw := hw.1 c16
    refine j_tin hE 87 dX1_count_1 (by rw [c16] <;> decide) (by rw [c16] <;> decide) (by rw [c16] <;> rfl) (by decide) ?_
    refine j_aload_n hE 0 dX1_count_87 rfl rfl ?_
    obtain ⟨f17, h18, hw⟩ := hw
    refine j_getM hE gf_GlassStreet_houses q349 h18 dX1_count_88 ?_
    refine j_aload_n hE 0 dX1_count_91 rfl rfl ?_
    obtain ⟨f19, h20, hw⟩ := hw
    refine j_getM hE gf_GlassStreet_state q351 h20 dX1_count_92 ?_
    obtain ⟨a21, e9, hx⟩ := hw
    subst e9
    have hw := hx
    clear hx
    obtain ⟨f22, h23, hw⟩ := hw
    refine j_getMN hE gf_GlassStreet_State_hour q322 h23 dX1_count_95 ?_
    obtain ⟨a24, e9, hx⟩ := hw
    subst e9
    have hw := hx
    clear hx
    obtain ⟨h26, hw⟩ := hw
    refine jc_ip (jr_V hE hR (As := [.int (f22)]) (rest := []) ((ctX3_light E.1.2.1 E.2.2.1 hc _ _ _ _ hw) E.2.2.2.1) (lw_V q1193 q1194 q1195 q123 q1196) jdX3_light ⟨Nat.le_of_ble_eq_true rfl, Nat.le_of_ble_eq_true rfl⟩ ⟨Nat.zero_le _, Nat.zero_le _⟩ (gmc_gIs h26 (r := (RX3, TX3, 8)) rfl) rfl (Nat.le_of_ble_eq_true rfl) dX1_count_98) (fun r25 hw => ?_)
    refine j_b0 ?_
    exact j_iret hE hK dX1_count_101 rfl ⟨rfl, hw⟩
  replace hw := hw.2 c16
  by_cases c27 : x1 = nI 5
  · replace hw := hw.1 c27
    refine j_tin hE 102 dX1_count_1 (by rw [c27] <;> decide) (by rw [c27] <;> decide) (by rw [c27] <;> rfl) (by decide) ?_
    refine j_aload_n hE 0 dX1_count_102 rfl rfl ?_
    obtain ⟨h29, hw⟩ := hw
    refine jc_ip (jr_V hE hR (As := []) (rest := []) ((ctX1_allMarks E.1.2.1 E.2.2.1 hc _ _ _ hw) E.2.2.2.1) (lw_V q1544 q1546 qs53 q121 q1547) jdX1_allMarks ⟨Nat.le_of_ble_eq_true rfl, Nat.le_of_ble_eq_true rfl⟩ ⟨Nat.zero_le _, Nat.zero_le _⟩ (gmc_gIs h29 (r := (RX1, TX1, 15)) rfl) rfl (Nat.le_of_ble_eq_true rfl) dX1_count_103) (fun r28 hw => ?_)
    refine j_b0 ?_
    exact j_iret hE hK dX1_count_106 rfl ⟨rfl, hw⟩
  replace hw := hw.2 c27
  by_cases c30 : x1 = nI 6
  · replace hw := hw.1 c30
    refine j_tin hE 107 dX1_count_1 (by rw [c30] <;> decide) (by rw [c30] <;> decide) (by rw [c30] <;> rfl) (by decide) ?_
    refine j_aload_n hE 0 dX1_count_107 rfl rfl ?_
    obtain ⟨f31, h32, hw⟩ := hw
    refine j_getM hE gf_GlassStreet_state q351 h32 dX1_count_108 ?_
    obtain ⟨a33, e9, hx⟩ := hw
    subst e9
    have hw := hx
    clear hx
    obtain ⟨f34, h35, hw⟩ := hw
    refine j_getMN hE gf_GlassStreet_State_drawn q325 h35 dX1_count_111 ?_
    exact j_iret hE hK dX1_count_114 rfl ⟨rfl, hw⟩
  replace hw := hw.2 c30
  by_cases c36 : x1 = nI 7
  · replace hw := hw.1 c36
    refine j_tin hE 115 dX1_count_1 (by rw [c36] <;> decide) (by rw [c36] <;> decide) (by rw [c36] <;> rfl) (by decide) ?_
    refine j_aload_n hE 0 dX1_count_115 rfl rfl ?_
    obtain ⟨f37, h38, hw⟩ := hw
    refine j_getM hE gf_GlassStreet_state q351 h38 dX1_count_116 ?_
    obtain ⟨a39, e9, hx⟩ := hw
    subst e9
    have hw := hx
    clear hx
    obtain ⟨f40, h41, hw⟩ := hw
    refine j_getMN hE gf_GlassStreet_State_gone q328 h41 dX1_count_119 ?_
    exact j_iret hE hK dX1_count_122 rfl ⟨rfl, hw⟩
  replace hw := hw.2 c36
  by_cases c42 : x1 = nI 8
  · replace hw := hw.1 c42
    refine j_tin hE 123 dX1_count_1 (by rw [c42] <;> decide) (by rw [c42] <;> decide) (by rw [c42] <;> rfl) (by decide) ?_
    refine j_aload_n hE 0 dX1_count_123 rfl rfl ?_
    obtain ⟨f43, h44, hw⟩ := hw
    refine j_getM hE gf_GlassStreet_lines q350 h44 dX1_count_124 ?_
    obtain ⟨a45, e9, hx⟩ := hw
    subst e9
    have hw := hx
    clear hx
    obtain ⟨h47, hw⟩ := hw
    refine jc_ip (jr_V hE hR (As := []) (rest := []) ((ctJ2_size E.1.2.1 E.2.2.1 hc _ _ _ hw) E.2.2.2.1) (lw_V q1161 q626 q627 q126 q628) jdJ2_size ⟨Nat.le_of_ble_eq_true rfl, Nat.le_of_ble_eq_true rfl⟩ ⟨Nat.zero_le _, Nat.zero_le _⟩ (gmc_gIs h47 (r := (RJ2, TJ2, 3)) rfl) rfl (Nat.le_of_ble_eq_true rfl) dX1_count_127) (fun r46 hw => ?_)
    refine j_b0 ?_
    exact j_iret hE hK dX1_count_130 rfl ⟨rfl, hw⟩
  replace hw := hw.2 c42
  by_cases c48 : x1 = nI 9
  · replace hw := hw.1 c48
    refine j_tin hE 131 dX1_count_1 (by rw [c48] <;> decide) (by rw [c48] <;> decide) (by rw [c48] <;> rfl) (by decide) ?_
    refine j_aload_n hE 0 dX1_count_131 rfl rfl ?_
    obtain ⟨h50, hw⟩ := hw
    refine jc_ip (jr_V hE hR (As := []) (rest := []) ((ctX1_saidMany E.1.2.1 E.2.2.1 hc _ _ _ hw) E.2.2.2.1) (lw_V q1548 q1550 qs54 q121 q1551) jdX1_saidMany ⟨Nat.le_of_ble_eq_true rfl, Nat.le_of_ble_eq_true rfl⟩ ⟨Nat.zero_le _, Nat.zero_le _⟩ (gmc_gIs h50 (r := (RX1, TX1, 15)) rfl) rfl (Nat.le_of_ble_eq_true rfl) dX1_count_132) (fun r49 hw => ?_)
    refine j_b0 ?_
    exact j_iret hE hK dX1_count_135 rfl ⟨rfl, hw⟩
  replace hw := hw.2 c48
  by_cases c51 : x1 = nI 10
  · replace hw := hw.1 c51
    refine j_tin hE 136 dX1_count_1 (by rw [c51] <;> decide) (by rw [c51] <;> decide) (by rw [c51] <;> rfl) (by decide) ?_
    refine j_aload_n hE 0 dX1_count_136 rfl rfl ?_
    obtain ⟨f52, h53, hw⟩ := hw
    refine j_getM hE gf_GlassStreet_undos q356 h53 dX1_count_137 ?_
    exact j_iret hE hK dX1_count_140 rfl ⟨rfl, hw⟩
  replace hw := hw.2 c51
  by_cases c54 : x1 = nI 11
  · replace hw := hw.1 c54
    refine j_tin hE 141 dX1_count_1 (by rw [c54] <;> decide) (by rw [c54] <;> decide) (by rw [c54] <;> rfl) (by decide) ?_
    refine j_aload_n hE 0 dX1_count_141 rfl rfl ?_
    obtain ⟨f55, h56, hw⟩ := hw
    refine j_getM hE gf_GlassStreet_taped q354 h56 dX1_count_142 ?_
    exact j_iret hE hK dX1_count_145 rfl ⟨rfl, hw⟩
  replace hw := hw.2 c54
  refine j_tout hE 146 dX1_count_1 (tsw_out x1 (0) (11) (fun k h1 h2 => ?_)) (by decide) ?_
  · rcases (show k = 0 ∨ k = 1 ∨ k = 2 ∨ k = 3 ∨ k = 4 ∨ k = 5 ∨ k = 6 ∨ k = 7 ∨ k = 8 ∨ k = 9 ∨ k = 10 ∨ k = 11 by omega) with rfl | rfl | rfl | rfl | rfl | rfl | rfl | rfl | rfl | rfl | rfl | rfl
    · exact tsw_ne _ _ _ (by decide) c1
    · exact tsw_ne _ _ _ (by decide) c4
    · exact tsw_ne _ _ _ (by decide) c7
    · exact tsw_ne _ _ _ (by decide) c10
    · exact tsw_ne _ _ _ (by decide) c16
    · exact tsw_ne _ _ _ (by decide) c27
    · exact tsw_ne _ _ _ (by decide) c30
    · exact tsw_ne _ _ _ (by decide) c36
    · exact tsw_ne _ _ _ (by decide) c42
    · exact tsw_ne _ _ _ (by decide) c48
    · exact tsw_ne _ _ _ (by decide) c51
    · exact tsw_ne _ _ _ (by decide) c54
  refine j_iconst hE dX1_count_146 kc_m1 ?_
  exact j_iret hE hK dX1_count_147 rfl ⟨rfl, hw⟩
theorem jdX1_count : jD yX1_count 1 := by decide +kernel
abbrev wX1_count := wX1_count_0
theorem ctX1_count (l : Launch) (G : gG) {c : Nat → Option Nat} (hc : G.2.2.2 = c) (x0 : Nat) (x1 : Int32) (w0 : GW) (K : Int32 → Prop) (hw : wX1_count_0 c x0 x1 w0 K) {F2 L2 : Nat} (h2 : 3 ≤ F2 ∧ 62 ≤ L2 := by exact ⟨Nat.le_refl _, Nat.le_refl _⟩) : CtI l yX1_count cX1_count 2 .int ({ frames := F2, cells := 0, slots := 0, locals := L2 }) G [.ref (x0), .int (x1)] w0 (KPI w0 K) :=
  CtI.of RX1 plainc_X1 rfl (Nat.le_of_ble_eq_true rfl) (fun E hE hl hG hn hR hK => bX1_count_0 hE hn (hR.le h2.1 h2.2) (by rw [hG]; exact hc) hK hw)
def wJ9_init_0 (c : Nat → Option Nat) (x0 : Nat) (w : GW) (K : GW → Prop) : Prop :=
  ∃ (n1 : Nat) (fs2 : List Value), w x0 = some (true, .inr (n1, fs2)) ∧ n1 ∈ ([6, 23] : List Nat) ∧ 0 < fs2.length ∧ (∀ w6 : GW, w6 = gup w x0 (.inr (n1, fs2.set 0 (va_rf (some x0)))) → (∀ r7 : Option Nat, r7 = c 13 → (∃ (n8 : Nat) (fs9 : List Value), w6 x0 = some (true, .inr (n8, fs9)) ∧ n8 ∈ ([6, 23] : List Nat) ∧ 1 < fs9.length ∧ (∀ w13 : GW, w13 = gup w6 x0 (.inr (n8, fs9.set 1 (va_rf r7))) → (∀ r14 : Option Nat, r14 = c 14 → (∃ (n15 : Nat) (fs16 : List Value), w13 x0 = some (true, .inr (n15, fs16)) ∧ n15 ∈ ([6, 23] : List Nat) ∧ 2 < fs16.length ∧ (∀ w20 : GW, w20 = gup w13 x0 (.inr (n15, fs16.set 2 (va_rf r14))) → (False))))))))
set_option maxRecDepth 100000 in
theorem bJ9_init_0 {E : jE} (hE : jOk E cJ9_init RJ9) (hn : E.2.2.2.2 = 1) (hR : jRoom E 1 20) {c : Nat → Option Nat} (hc : E.2.2.1.2.2.2 = c) (hini : E.2.1.1.name = "<init>") {b : Nat × Nat} {K : GW → Prop} (hK : jRv E (K)) {x0 : Nat} {w : GW}  (hw : wJ9_init_0 c x0 w K) : J E w b [(0, .ref (x0))] 0 [] := by
  unfold wJ9_init_0 at hw
  refine j_aload_n hE 0 dJ9_init_0 rfl rfl ?_
  refine j_objInit hE hR q573 q_oi_inst q_oi_code (Nat.le_of_ble_eq_true rfl) (Nat.le_of_ble_eq_true rfl) dJ9_init_1 ?_
  refine j_aload_n hE 0 dJ9_init_4 rfl rfl ?_
  refine j_aload_n hE 0 dJ9_init_5 rfl rfl ?_
  obtain ⟨n1, fs2, h3, h4, h5, hw⟩ := hw
  refine j_putX hE h4 gw_java_lang_Throwable_cause_J9 q604 h3 rfl rfl h5 dJ9_init_6 ?_
  refine j_nw (fun w6 e_w6 => ?_)
  replace hw := hw w6 e_w6
  refine j_aload_n hE 0 dJ9_init_9 rfl rfl ?_
  have hst := hE.inv.2.2.2.1.2.2.1
  rw [hc] at hst
  obtain ⟨r7, e_r7⟩ : ∃ r9 : Option Nat, r9 = c 13 := ⟨_, rfl⟩
  replace hw := hw r7 e_r7
  rw [← e_r7] at hst
  refine j_gets hE q574 hst dJ9_init_10 ?_
  obtain ⟨n8, fs9, h10, h11, h12, hw⟩ := hw
  refine j_putX hE h11 gw_java_lang_Throwable_stackTrace_J9 q605 h10 (va_rf_nar _ _ (by decide)) (va_rf_fit _ _ (by decide)) h12 dJ9_init_13 ?_
  refine j_nw (fun w13 e_w13 => ?_)
  replace hw := hw w13 e_w13
  refine j_aload_n hE 0 dJ9_init_16 rfl rfl ?_
  have hst := hE.inv.2.2.2.1.2.2.2.1
  rw [hc] at hst
  obtain ⟨r14, e_r14⟩ : ∃ r9 : Option Nat, r9 = c 14 := ⟨_, rfl⟩
  replace hw := hw r14 e_r14
  rw [← e_r14] at hst
  refine j_gets hE q576 hst dJ9_init_17 ?_
  obtain ⟨n15, fs16, h17, h18, h19, hw⟩ := hw
  refine j_putX hE h18 gw_java_lang_Throwable_suppressedExceptions_J9 q606 h17 (va_rf_nar _ _ (by decide)) (va_rf_fit _ _ (by decide)) h19 dJ9_init_20 ?_
  refine j_nw (fun w20 e_w20 => ?_)
  replace hw := hw w20 e_w20
  refine j_aload_n hE 0 dJ9_init_23 rfl rfl ?_
  exact hw.elim
theorem jdJ9_init : jD yJ9_init 0 := by decide +kernel
abbrev wJ9_init := wJ9_init_0
theorem ctJ9_init (l : Launch) (G : gG) {c : Nat → Option Nat} (hc : G.2.2.2 = c) (x0 : Nat) (w : GW) (K : GW → Prop) (hw : wJ9_init_0 c x0 w K) {F2 L2 : Nat} (h2 : 1 ≤ F2 ∧ 20 ≤ L2 := by exact ⟨Nat.le_refl _, Nat.le_refl _⟩) : CtV l yJ9_init cJ9_init 1 ({ frames := F2, cells := 0, slots := 0, locals := L2 }) G [.ref (x0)] w (K) :=
  CtV.ofI RJ9 plainc_J9 rfl rfl (Nat.le_of_ble_eq_true rfl) (fun E hE hini hl hG hn hR hK => bJ9_init_0 hE hn (hR.le h2.1 h2.2) (by rw [hG]; exact hc) hini hK hw)
def wJ10_init_2_0 (c : Nat → Option Nat) (x0 : Nat) (w : GW) (K : GW → Prop) : Prop :=
  wJ9_init c x0 w (fun w1 => K w1)
set_option maxRecDepth 100000 in
theorem bJ10_init_2_0 {E : jE} (hE : jOk E cJ10_init_2 RJ10) (hn : E.2.2.2.2 = 1) (hR : jRoom E 2 40) {c : Nat → Option Nat} (hc : E.2.2.1.2.2.2 = c) (hini : E.2.1.1.name = "<init>") {b : Nat × Nat} {K : GW → Prop} (hK : jRv E (K)) {x0 : Nat} {w : GW}  (hw : wJ10_init_2_0 c x0 w K) : J E w b [(0, .ref (x0))] 0 [] := by
  unfold wJ10_init_2_0 at hw
  refine j_aload_n hE 0 dJ10_init_2_0 rfl rfl ?_
  refine jc_v (jr_I hE hR (As := []) (rest := []) ((ctJ9_init E.1.2.1 E.2.2.1 hc _ _ _ hw) E.2.2.2.1) (lw_meth q572) q136 q1581 q571 rfl jdJ9_init ⟨Nat.le_of_ble_eq_true rfl, Nat.le_of_ble_eq_true rfl⟩ ⟨Nat.zero_le _, Nat.zero_le _⟩  rfl (Nat.le_of_ble_eq_true rfl) dJ10_init_2_1) (fun w1 hw => ?_)
  refine j_b0 ?_
  exact j_vret hE hK dJ10_init_2_4 hw
theorem jdJ10_init_2 : jD yJ10_init_2 0 := by decide +kernel
abbrev wJ10_init_2 := wJ10_init_2_0
theorem ctJ10_init_2 (l : Launch) (G : gG) {c : Nat → Option Nat} (hc : G.2.2.2 = c) (x0 : Nat) (w : GW) (K : GW → Prop) (hw : wJ10_init_2_0 c x0 w K) {F2 L2 : Nat} (h2 : 2 ≤ F2 ∧ 40 ≤ L2 := by exact ⟨Nat.le_refl _, Nat.le_refl _⟩) : CtV l yJ10_init_2 cJ10_init_2 1 ({ frames := F2, cells := 0, slots := 0, locals := L2 }) G [.ref (x0)] w (K) :=
  CtV.ofI RJ10 plainc_J10 rfl rfl (Nat.le_of_ble_eq_true rfl) (fun E hE hini hl hG hn hR hK => bJ10_init_2_0 hE hn (hR.le h2.1 h2.2) (by rw [hG]; exact hc) hini hK hw)
def wJ11_init_2_0 (c : Nat → Option Nat) (x0 : Nat) (w : GW) (K : GW → Prop) : Prop :=
  wJ10_init_2 c x0 w (fun w1 => K w1)
set_option maxRecDepth 100000 in
theorem bJ11_init_2_0 {E : jE} (hE : jOk E cJ11_init_2 RJ11) (hn : E.2.2.2.2 = 1) (hR : jRoom E 3 60) {c : Nat → Option Nat} (hc : E.2.2.1.2.2.2 = c) (hini : E.2.1.1.name = "<init>") {b : Nat × Nat} {K : GW → Prop} (hK : jRv E (K)) {x0 : Nat} {w : GW}  (hw : wJ11_init_2_0 c x0 w K) : J E w b [(0, .ref (x0))] 0 [] := by
  unfold wJ11_init_2_0 at hw
  refine j_aload_n hE 0 dJ11_init_2_0 rfl rfl ?_
  refine jc_v (jr_I hE hR (As := []) (rest := []) ((ctJ10_init_2 E.1.2.1 E.2.2.1 hc _ _ _ hw) E.2.2.2.1) (lw_meth q1580) q137 q1578 q1579 rfl jdJ10_init_2 ⟨Nat.le_of_ble_eq_true rfl, Nat.le_of_ble_eq_true rfl⟩ ⟨Nat.zero_le _, Nat.zero_le _⟩  rfl (Nat.le_of_ble_eq_true rfl) dJ11_init_2_1) (fun w1 hw => ?_)
  refine j_b0 ?_
  exact j_vret hE hK dJ11_init_2_4 hw
theorem jdJ11_init_2 : jD yJ11_init_2 0 := by decide +kernel
abbrev wJ11_init_2 := wJ11_init_2_0
theorem ctJ11_init_2 (l : Launch) (G : gG) {c : Nat → Option Nat} (hc : G.2.2.2 = c) (x0 : Nat) (w : GW) (K : GW → Prop) (hw : wJ11_init_2_0 c x0 w K) {F2 L2 : Nat} (h2 : 3 ≤ F2 ∧ 60 ≤ L2 := by exact ⟨Nat.le_refl _, Nat.le_refl _⟩) : CtV l yJ11_init_2 cJ11_init_2 1 ({ frames := F2, cells := 0, slots := 0, locals := L2 }) G [.ref (x0)] w (K) :=
  CtV.ofI RJ11 plainc_J11 rfl rfl (Nat.le_of_ble_eq_true rfl) (fun E hE hini hl hG hn hR hK => bJ11_init_2_0 hE hn (hR.le h2.1 h2.2) (by rw [hG]; exact hc) hini hK hw)
def wJ18_init_0 (c : Nat → Option Nat) (x0 : Nat) (w : GW) (K : GW → Prop) : Prop :=
  wJ11_init_2 c x0 w (fun w1 => K w1)
set_option maxRecDepth 100000 in
theorem bJ18_init_0 {E : jE} (hE : jOk E cJ18_init RJ18) (hn : E.2.2.2.2 = 1) (hR : jRoom E 4 80) {c : Nat → Option Nat} (hc : E.2.2.1.2.2.2 = c) (hini : E.2.1.1.name = "<init>") {b : Nat × Nat} {K : GW → Prop} (hK : jRv E (K)) {x0 : Nat} {w : GW}  (hw : wJ18_init_0 c x0 w K) : J E w b [(0, .ref (x0))] 0 [] := by
  unfold wJ18_init_0 at hw
  refine j_aload_n hE 0 dJ18_init_0 rfl rfl ?_
  refine jc_v (jr_I hE hR (As := []) (rest := []) ((ctJ11_init_2 E.1.2.1 E.2.2.1 hc _ _ _ hw) E.2.2.2.1) (lw_meth q1577) q138 q1575 q1576 rfl jdJ11_init_2 ⟨Nat.le_of_ble_eq_true rfl, Nat.le_of_ble_eq_true rfl⟩ ⟨Nat.zero_le _, Nat.zero_le _⟩  rfl (Nat.le_of_ble_eq_true rfl) dJ18_init_1) (fun w1 hw => ?_)
  refine j_b0 ?_
  exact j_vret hE hK dJ18_init_4 hw
theorem jdJ18_init : jD yJ18_init 0 := by decide +kernel
abbrev wJ18_init := wJ18_init_0
theorem ctJ18_init (l : Launch) (G : gG) {c : Nat → Option Nat} (hc : G.2.2.2 = c) (x0 : Nat) (w : GW) (K : GW → Prop) (hw : wJ18_init_0 c x0 w K) {F2 L2 : Nat} (h2 : 4 ≤ F2 ∧ 80 ≤ L2 := by exact ⟨Nat.le_refl _, Nat.le_refl _⟩) : CtV l yJ18_init cJ18_init 1 ({ frames := F2, cells := 0, slots := 0, locals := L2 }) G [.ref (x0)] w (K) :=
  CtV.ofI RJ18 plainc_J18 rfl rfl (Nat.le_of_ble_eq_true rfl) (fun E hE hini hl hG hn hR hK => bJ18_init_0 hE hn (hR.le h2.1 h2.2) (by rw [hG]; exact hc) hini hK hw)
def wX1_need_0 (c : Nat → Option Nat) (x0 : Int32) (w : GW) (bb : Nat × Nat) (K : GW → Prop) (KX : String → Nat → GW → Prop) : Prop :=
  (¬ x0 = 0 → (K w)) ∧ (x0 = 0 → (1 ≤ bb.1 ∧ 6 ≤ bb.2 ∧ (∀ q9 : Nat, KX nsN q9 w)))
set_option maxRecDepth 100000 in
theorem bX1_need_0 {E : jE} (hE : jOk E cX1_need RX1) (hn : E.2.2.2.2 = 1) (hR : jRoom E 6 100) {c : Nat → Option Nat} (hc : E.2.2.1.2.2.2 = c) (hN : jNoH E) (hst : E.1.2.1.stackTraces = false) {K : GW → Prop} {KX : String → Nat → GW → Prop} (hK : jXv E K KX) {x0 : Int32} {w : GW} {bb : Nat × Nat}  (hw : wX1_need_0 c x0 w bb K KX) : J E w bb [(0, .int (x0))] 0 [] := by
  unfold wX1_need_0 at hw
  refine j_iload_n hE 0 dX1_need_0 rfl rfl ?_
  refine j_if_ne hE 12 dX1_need_1 (by decide) (fun c1 => ?_) (fun c1 => ?_)
  · replace hw := hw.1 c1
    exact jx_vret hE hK dX1_need_12 hw
  · replace hw := hw.2 c1
    obtain ⟨h2, h3, hw⟩ := hw
    exact jx_throw0 hE hst hK.2 hN hR (Nat.le_of_ble_eq_true rfl) (Nat.le_of_ble_eq_true rfl) q1563 q162 ⟨h2, h3⟩ dX1_need_4 dX1_need_7 dX1_need_8 dX1_need_11 hw
theorem jdX1_need : jD yX1_need 1 := by decide +kernel
abbrev wX1_need := wX1_need_0
theorem ctX1_need (l : Launch) (G : gG) {c : Nat → Option Nat} (hc : G.2.2.2 = c) (hst : l.stackTraces = false) (x0 : Int32) (w : GW) (bb : Nat × Nat) (K : GW → Prop) (KX : String → Nat → GW → Prop) (hw : wX1_need_0 c x0 w bb K KX) {F2 L2 : Nat} (h2 : 6 ≤ F2 ∧ 100 ≤ L2 := by exact ⟨Nat.le_refl _, Nat.le_refl _⟩) : CtXV l yX1_need cX1_need 1 ({ frames := F2, cells := bb.1, slots := bb.2, locals := L2 }) G [.int (x0)] w (K) KX :=
  CtXV.of RX1 plainc_X1 rfl (Nat.le_of_ble_eq_true rfl) (fun E hE hl hG hn hR hN hK => bX1_need_0 hE hn (hR.le h2.1 h2.2) (by rw [hG]; exact hc) hN (by rw [hl]; exact hst) hK hw)
def wX1_gets_0 (c : Nat → Option Nat) (x0 : Int32) (x1 : Int32) (x2 : Int32) (x3 : Int32) (x4 : Int32) (w0 : GW) (K : Int32 → Prop) : Prop :=
  (¬ x3 = ((1 : Int32)) → ((¬ x4 = ((1 : Int32)) → (K x1)) ∧ (x4 = ((1 : Int32)) → (K x2)))) ∧ (x3 = ((1 : Int32)) → ((¬ x4 = ((1 : Int32)) → (K ((0 : Int32)))) ∧ (x4 = ((1 : Int32)) → (K x0))))
set_option maxRecDepth 100000 in
theorem bX1_gets_0 {E : jE} (hE : jOk E cX1_gets RX1) (hn : E.2.2.2.2 = 5) (hR : jRoom E 0 0) {c : Nat → Option Nat} (hc : E.2.2.1.2.2.2 = c) {b : Nat × Nat} {w0 : GW} {K : Int32 → Prop} (hK : jRi E .int (KPI w0 K)) {x0 : Int32} {x1 : Int32} {x2 : Int32} {x3 : Int32} {x4 : Int32}  (hw : wX1_gets_0 c x0 x1 x2 x3 x4 w0 K) : J E w0 b [(0, .int (x0)), (1, .int (x1)), (2, .int (x2)), (3, .int (x3)), (4, .int (x4))] 0 [] := by
  unfold wX1_gets_0 at hw
  refine j_iload_n hE 3 dX1_gets_0 rfl rfl ?_
  refine j_iconst hE dX1_gets_1 kc_1 ?_
  refine j_icmp_ne hE 19 dX1_gets_2 (by decide) (fun c1 => ?_) (fun c1 => ?_)
  · replace hw := hw.1 c1
    refine j_iload hE 4 dX1_gets_19 rfl ?_
    refine j_iconst hE dX1_gets_21 kc_1 ?_
    refine j_icmp_ne hE 29 dX1_gets_22 (by decide) (fun c2 => ?_) (fun c2 => ?_)
    · replace hw := hw.1 c2
      refine j_iload_n hE 1 dX1_gets_29 rfl rfl ?_
      exact j_iret hE hK dX1_gets_30 rfl ⟨rfl, hw⟩
    · replace hw := hw.2 c2
      refine j_iload_n hE 2 dX1_gets_25 rfl rfl ?_
      refine j_goto hE 30 dX1_gets_26 (by decide) ?_
      exact j_iret hE hK dX1_gets_30 rfl ⟨rfl, hw⟩
  · replace hw := hw.2 c1
    refine j_iload hE 4 dX1_gets_5 rfl ?_
    refine j_iconst hE dX1_gets_7 kc_1 ?_
    refine j_icmp_ne hE 15 dX1_gets_8 (by decide) (fun c3 => ?_) (fun c3 => ?_)
    · replace hw := hw.1 c3
      refine j_iconst hE dX1_gets_15 kc_0 ?_
      refine j_goto hE 30 dX1_gets_16 (by decide) ?_
      exact j_iret hE hK dX1_gets_30 rfl ⟨rfl, hw⟩
    · replace hw := hw.2 c3
      refine j_iload_n hE 0 dX1_gets_11 rfl rfl ?_
      refine j_goto hE 30 dX1_gets_12 (by decide) ?_
      exact j_iret hE hK dX1_gets_30 rfl ⟨rfl, hw⟩
theorem jdX1_gets : jD yX1_gets 5 := by decide +kernel
abbrev wX1_gets := wX1_gets_0
theorem ctX1_gets (l : Launch) (G : gG) {c : Nat → Option Nat} (hc : G.2.2.2 = c) (x0 : Int32) (x1 : Int32) (x2 : Int32) (x3 : Int32) (x4 : Int32) (w0 : GW) (K : Int32 → Prop) (hw : wX1_gets_0 c x0 x1 x2 x3 x4 w0 K) {F2 L2 : Nat} (h2 : 0 ≤ F2 ∧ 0 ≤ L2 := by exact ⟨Nat.le_refl _, Nat.le_refl _⟩) : CtI l yX1_gets cX1_gets 5 .int ({ frames := F2, cells := 0, slots := 0, locals := L2 }) G [.int (x0), .int (x1), .int (x2), .int (x3), .int (x4)] w0 (KPI w0 K) :=
  CtI.of RX1 plainc_X1 rfl (Nat.le_of_ble_eq_true rfl) (fun E hE hl hG hn hR hK => bX1_gets_0 hE hn (hR.le h2.1 h2.2) (by rw [hG]; exact hc) hK hw)
def wX1_rests_151 (c : Nat → Option Nat) (x5 : Int32) (s0 : Int32) (w : GW) (bb : Nat × Nat) (K : Int32 → GW → Prop) (KX : String → Nat → GW → Prop) : Prop :=
  ∃ cb1 : Nat × Nat, (cb1.1 ≤ bb.1 ∧ cb1.2 ≤ bb.2) ∧ (wX1_need c s0 w cb1 (fun w3 => ∀ b4 : Nat × Nat, b4 = (bb.1 - cb1.1, bb.2 - cb1.2) → (K x5 w3)) KX)
set_option maxRecDepth 100000 in
theorem bX1_rests_151 {E : jE} (hE : jOk E cX1_rests RX1) (hn : E.2.2.2.2 = 9) (hR : jRoom E 7 120) {c : Nat → Option Nat} (hc : E.2.2.1.2.2.2 = c) (hN : jNoH E) (hst : E.1.2.1.stackTraces = false) {K : Int32 → GW → Prop} {KX : String → Nat → GW → Prop} (hK : jXi E .int (K) KX) {x5 : Int32} {s0 : Int32} {w : GW} {bb : Nat × Nat}  (hw : wX1_rests_151 c x5 s0 w bb K KX) : J E w bb [(5, .int (x5))] 151 [.int (s0)] := by
  unfold wX1_rests_151 at hw
  obtain ⟨cb1, h2, hw⟩ := hw
  refine jcx_v (jrx_S hE hR (As := [.int (s0)]) (rest := []) ((ctX1_need E.1.2.1 E.2.2.1 hc hst _ _ _ _ _ hw) E.2.2.2.1) (lw_S q1560 q1561 q121 q1562) jdX1_need ⟨Nat.le_of_ble_eq_true rfl, Nat.le_of_ble_eq_true rfl⟩ h2  rfl (Nat.le_of_ble_eq_true rfl) dX1_rests_151) (fun E9 q9 u9 hx => jx_out hE hK.2 hN hx) (fun w3 hw => ?_)
  refine j_nb (fun b4 e_b4 => ?_)
  replace hw := hw b4 e_b4
  refine j_iload hE 0 dX1_rests_154 rfl ?_
  exact jx_iret hE hK dX1_rests_156 rfl hw
def wX1_rests_50_b (c : Nat → Option Nat) (x1 : Int32) (x2 : Int32) (x3 : Int32) (x4 : Int32) (x5 : Int32) (x6 : Int32) (w : GW) (bb : Nat × Nat) (KL50 : Int32 × Int32 → Prop) (K : Int32 → GW → Prop) (KX : String → Nat → GW → Prop) : Prop :=
  ((nI 4) ≤ x6 → ((¬ x4 = ((-1 : Int32)) → (wX1_rests_151 c x5 ((0 : Int32)) w bb K KX)) ∧ (x4 = ((-1 : Int32)) → (wX1_rests_151 c x5 ((1 : Int32)) w bb K KX)))) ∧ (¬ (nI 4) ≤ x6 → (¬ (nI 2) = 0 ∧ (∀ v4 : Int32, v4 = x6 / (nI 2) → (¬ (nI 2) = 0 ∧ (∀ v6 : Int32, v6 = irem x6 (nI 2) → (wX1_gets c x1 x2 x3 (((1 : Int32)) - v4) v6 w (fun r7 => wX1_gets c x1 x2 x3 v4 v6 w (fun r8 => (r8 < r7 → (KL50 (x5, (x6 + 1)))) ∧ (¬ r8 < r7 → (wX1_gets c x1 x2 x3 (((1 : Int32)) - v6) v4 w (fun r10 => wX1_gets c x1 x2 x3 v6 v4 w (fun r11 => (r10 ≤ r11 → ((¬ x5 = x4 → (KL50 ((x5 + 1), (x6 + 1)))) ∧ (x5 = x4 → (K x6 w)))) ∧ (¬ r10 ≤ r11 → (KL50 (x5, (x6 + 1))))))))))))))))
def wX1_rests_50 (c : Nat → Option Nat) (x1 : Int32) (x2 : Int32) (x3 : Int32) (x4 : Int32) (x5 : Int32) (x6 : Int32) (w : GW) (bb : Nat × Nat) (K : Int32 → GW → Prop) (KX : String → Nat → GW → Prop) : Prop := lfp (σ := Int32 × Int32) (fun KL s => wX1_rests_50_b c x1 x2 x3 x4 s.1 s.2 w bb KL K KX) (x5, x6)
set_option maxRecDepth 100000 in
theorem bX1_rests_50 {E : jE} (hE : jOk E cX1_rests RX1) (hn : E.2.2.2.2 = 9) (hR : jRoom E 7 120) {c : Nat → Option Nat} (hc : E.2.2.1.2.2.2 = c) (hN : jNoH E) (hst : E.1.2.1.stackTraces = false) {K : Int32 → GW → Prop} {KX : String → Nat → GW → Prop} (hK : jXi E .int (K) KX) {x1 : Int32} {x2 : Int32} {x3 : Int32} {x4 : Int32} {x5 : Int32} {x6 : Int32} {w : GW} {bb : Nat × Nat}  (hw : wX1_rests_50 c x1 x2 x3 x4 x5 x6 w bb K KX) : J E w bb [(1, .int (x1)), (2, .int (x2)), (3, .int (x3)), (4, .int (x4)), (5, .int (x5)), (6, .int (x6))] 50 [] := by
  refine lfp_sound (σ := Int32 × Int32) (F := fun KL s => wX1_rests_50_b c x1 x2 x3 x4 s.1 s.2 w bb KL K KX) (P := fun s => J E w bb [(1, .int (x1)), (2, .int (x2)), (3, .int (x3)), (4, .int (x4)), (5, .int (s.1)), (6, .int (s.2))] 50 []) ?_ hw
  clear hw
  rintro KL50 ⟨x5, x6⟩ hw ih50
  have hw : wX1_rests_50_b c x1 x2 x3 x4 x5 x6 w bb KL50 K KX := hw
  unfold wX1_rests_50_b at hw
  refine j_iload hE 5 dX1_rests_50 rfl ?_
  refine j_iconst hE dX1_rests_52 kc_4 ?_
  refine j_icmp_ge hE 140 dX1_rests_53 (by decide) (fun c1 => ?_) (fun c1 => ?_)
  · replace hw := hw.1 c1
    refine j_iload hE 3 dX1_rests_140 rfl ?_
    refine j_iconst hE dX1_rests_142 kc_m1 ?_
    refine j_icmp_ne hE 150 dX1_rests_143 (by decide) (fun c2 => ?_) (fun c2 => ?_)
    · replace hw := hw.1 c2
      refine j_iconst hE dX1_rests_150 kc_0 ?_
      refine j_sub [(5, .int (x5))] [4] rfl ?_
      have hz := bX1_rests_151 hE hn hR hc hN hst hK  hw
      exact hz
    · replace hw := hw.2 c2
      refine j_iconst hE dX1_rests_146 kc_1 ?_
      refine j_goto hE 151 dX1_rests_147 (by decide) ?_
      refine j_sub [(5, .int (x5))] [4] rfl ?_
      have hz := bX1_rests_151 hE hn hR hc hN hst hK  hw
      exact hz
  · replace hw := hw.2 c1
    refine j_iload hE 5 dX1_rests_56 rfl ?_
    refine j_iconst hE dX1_rests_58 kc_2 ?_
    obtain ⟨h3, hw⟩ := hw
    refine j_idiv hE dX1_rests_59 h3 ?_
    refine j_topi (fun v4 e_v4 => ?_)
    replace hw := hw v4 e_v4
    refine j_istore (L' := [(7, .int (v4)), (1, .int (x1)), (2, .int (x2)), (3, .int (x3)), (4, .int (x4)), (5, .int (x5)), (6, .int (x6))]) hE hn dX1_rests_60 (Nat.le_of_ble_eq_true rfl) rfl ?_
    refine j_iload hE 6 dX1_rests_62 rfl ?_
    refine j_iconst hE dX1_rests_64 kc_2 ?_
    obtain ⟨h5, hw⟩ := hw
    refine j_irem hE dX1_rests_65 h5 ?_
    refine j_topi (fun v6 e_v6 => ?_)
    replace hw := hw v6 e_v6
    refine j_istore (L' := [(8, .int (v6)), (7, .int (v4)), (1, .int (x1)), (2, .int (x2)), (3, .int (x3)), (4, .int (x4)), (5, .int (x5)), (6, .int (x6))]) hE hn dX1_rests_66 (Nat.le_of_ble_eq_true rfl) rfl ?_
    refine j_iload_n hE 2 dX1_rests_68 rfl rfl ?_
    refine j_iload_n hE 3 dX1_rests_69 rfl rfl ?_
    refine j_iload_n hE 4 dX1_rests_70 rfl rfl ?_
    refine j_iconst hE dX1_rests_71 kc_1 ?_
    refine j_iload hE 1 dX1_rests_72 rfl ?_
    refine j_isub hE dX1_rests_74 ?_
    refine j_iload hE 0 dX1_rests_75 rfl ?_
    refine jc_ip (jr_S hE hR (As := [.int (x1), .int (x2), .int (x3), .int (((1 : Int32)) - v4), .int (v6)]) (rest := []) ((ctX1_gets E.1.2.1 E.2.2.1 hc _ _ _ _ _ _ _ hw) E.2.2.2.1) (lw_S q1584 q1585 q121 q1586) jdX1_gets ⟨Nat.le_of_ble_eq_true rfl, Nat.le_of_ble_eq_true rfl⟩ ⟨Nat.zero_le _, Nat.zero_le _⟩  rfl (Nat.le_of_ble_eq_true rfl) dX1_rests_77) (fun r7 hw => ?_)
    refine j_b0 ?_
    refine j_iload_n hE 2 dX1_rests_80 rfl rfl ?_
    refine j_iload_n hE 3 dX1_rests_81 rfl rfl ?_
    refine j_iload_n hE 4 dX1_rests_82 rfl rfl ?_
    refine j_iload hE 1 dX1_rests_83 rfl ?_
    refine j_iload hE 0 dX1_rests_85 rfl ?_
    refine jc_ip (jr_S hE hR (As := [.int (x1), .int (x2), .int (x3), .int (v4), .int (v6)]) (rest := [.int (r7)]) ((ctX1_gets E.1.2.1 E.2.2.1 hc _ _ _ _ _ _ _ hw) E.2.2.2.1) (lw_S q1584 q1585 q121 q1586) jdX1_gets ⟨Nat.le_of_ble_eq_true rfl, Nat.le_of_ble_eq_true rfl⟩ ⟨Nat.zero_le _, Nat.zero_le _⟩  rfl (Nat.le_of_ble_eq_true rfl) dX1_rests_87) (fun r8 hw => ?_)
    refine j_b0 ?_
    refine j_icmp_gt hE 134 dX1_rests_90 (by decide) (fun c9 => ?_) (fun c9 => ?_)
    · replace hw := hw.1 c9
      refine j_iinc (L' := [(6, .int (x6 + 1)), (8, .int (v6)), (7, .int (v4)), (1, .int (x1)), (2, .int (x2)), (3, .int (x3)), (4, .int (x4)), (5, .int (x5))]) hE hn 7 dX1_rests_134 rfl (congrArg (x6 + ·) kc_1) (Nat.le_of_ble_eq_true rfl) rfl ?_
      refine j_goto hE 50 dX1_rests_137 (by decide) ?_
      refine j_sub [(1, .int (x1)), (2, .int (x2)), (3, .int (x3)), (4, .int (x4)), (5, .int (x5)), (6, .int (x6 + 1))] [3, 4, 5, 6, 7, 0] rfl ?_
      have hz := ih50 (x5, (x6 + 1)) hw
      exact hz
    · replace hw := hw.2 c9
      refine j_iload_n hE 2 dX1_rests_93 rfl rfl ?_
      refine j_iload_n hE 3 dX1_rests_94 rfl rfl ?_
      refine j_iload_n hE 4 dX1_rests_95 rfl rfl ?_
      refine j_iconst hE dX1_rests_96 kc_1 ?_
      refine j_iload hE 0 dX1_rests_97 rfl ?_
      refine j_isub hE dX1_rests_99 ?_
      refine j_iload hE 1 dX1_rests_100 rfl ?_
      refine jc_ip (jr_S hE hR (As := [.int (x1), .int (x2), .int (x3), .int (((1 : Int32)) - v6), .int (v4)]) (rest := []) ((ctX1_gets E.1.2.1 E.2.2.1 hc _ _ _ _ _ _ _ hw) E.2.2.2.1) (lw_S q1584 q1585 q121 q1586) jdX1_gets ⟨Nat.le_of_ble_eq_true rfl, Nat.le_of_ble_eq_true rfl⟩ ⟨Nat.zero_le _, Nat.zero_le _⟩  rfl (Nat.le_of_ble_eq_true rfl) dX1_rests_102) (fun r10 hw => ?_)
      refine j_b0 ?_
      refine j_iload_n hE 2 dX1_rests_105 rfl rfl ?_
      refine j_iload_n hE 3 dX1_rests_106 rfl rfl ?_
      refine j_iload_n hE 4 dX1_rests_107 rfl rfl ?_
      refine j_iload hE 0 dX1_rests_108 rfl ?_
      refine j_iload hE 1 dX1_rests_110 rfl ?_
      refine jc_ip (jr_S hE hR (As := [.int (x1), .int (x2), .int (x3), .int (v6), .int (v4)]) (rest := [.int (r10)]) ((ctX1_gets E.1.2.1 E.2.2.1 hc _ _ _ _ _ _ _ hw) E.2.2.2.1) (lw_S q1584 q1585 q121 q1586) jdX1_gets ⟨Nat.le_of_ble_eq_true rfl, Nat.le_of_ble_eq_true rfl⟩ ⟨Nat.zero_le _, Nat.zero_le _⟩  rfl (Nat.le_of_ble_eq_true rfl) dX1_rests_112) (fun r11 hw => ?_)
      refine j_b0 ?_
      refine j_icmp_le hE 121 dX1_rests_115 (by decide) (fun c12 => ?_) (fun c12 => ?_)
      · replace hw := hw.1 c12
        refine j_iload hE 6 dX1_rests_121 rfl ?_
        refine j_iload hE 5 dX1_rests_123 rfl ?_
        refine j_icmp_ne hE 131 dX1_rests_125 (by decide) (fun c13 => ?_) (fun c13 => ?_)
        · replace hw := hw.1 c13
          refine j_iinc (L' := [(5, .int (x5 + 1)), (8, .int (v6)), (7, .int (v4)), (1, .int (x1)), (2, .int (x2)), (3, .int (x3)), (4, .int (x4)), (6, .int (x6))]) hE hn 6 dX1_rests_131 rfl (congrArg (x5 + ·) kc_1) (Nat.le_of_ble_eq_true rfl) rfl ?_
          refine j_iinc (L' := [(6, .int (x6 + 1)), (5, .int (x5 + 1)), (8, .int (v6)), (7, .int (v4)), (1, .int (x1)), (2, .int (x2)), (3, .int (x3)), (4, .int (x4))]) hE hn 7 dX1_rests_134 rfl (congrArg (x6 + ·) kc_1) (Nat.le_of_ble_eq_true rfl) rfl ?_
          refine j_goto hE 50 dX1_rests_137 (by decide) ?_
          refine j_sub [(1, .int (x1)), (2, .int (x2)), (3, .int (x3)), (4, .int (x4)), (5, .int (x5 + 1)), (6, .int (x6 + 1))] [4, 5, 6, 7, 1, 0] rfl ?_
          have hz := ih50 ((x5 + 1), (x6 + 1)) hw
          exact hz
        · replace hw := hw.2 c13
          refine j_iload hE 7 dX1_rests_128 rfl ?_
          exact jx_iret hE hK dX1_rests_130 rfl hw
      · replace hw := hw.2 c12
        refine j_goto hE 134 dX1_rests_118 (by decide) ?_
        refine j_iinc (L' := [(6, .int (x6 + 1)), (8, .int (v6)), (7, .int (v4)), (1, .int (x1)), (2, .int (x2)), (3, .int (x3)), (4, .int (x4)), (5, .int (x5))]) hE hn 7 dX1_rests_134 rfl (congrArg (x6 + ·) kc_1) (Nat.le_of_ble_eq_true rfl) rfl ?_
        refine j_goto hE 50 dX1_rests_137 (by decide) ?_
        refine j_sub [(1, .int (x1)), (2, .int (x2)), (3, .int (x3)), (4, .int (x4)), (5, .int (x5)), (6, .int (x6 + 1))] [3, 4, 5, 6, 7, 0] rfl ?_
        have hz := ih50 (x5, (x6 + 1)) hw
        exact hz
def wX1_rests_41 (c : Nat → Option Nat) (x1 : Int32) (x2 : Int32) (x3 : Int32) (x4 : Int32) (s0 : Int32) (w : GW) (bb : Nat × Nat) (K : Int32 → GW → Prop) (KX : String → Nat → GW → Prop) : Prop :=
  ∃ cb1 : Nat × Nat, (cb1.1 ≤ bb.1 ∧ cb1.2 ≤ bb.2) ∧ (wX1_need c s0 w cb1 (fun w3 => ∀ b4 : Nat × Nat, b4 = (bb.1 - cb1.1, bb.2 - cb1.2) → (wX1_rests_50 c x1 x2 x3 x4 ((0 : Int32)) ((0 : Int32)) w3 b4 K KX)) KX)
set_option maxRecDepth 100000 in
theorem bX1_rests_41 {E : jE} (hE : jOk E cX1_rests RX1) (hn : E.2.2.2.2 = 9) (hR : jRoom E 7 120) {c : Nat → Option Nat} (hc : E.2.2.1.2.2.2 = c) (hN : jNoH E) (hst : E.1.2.1.stackTraces = false) {K : Int32 → GW → Prop} {KX : String → Nat → GW → Prop} (hK : jXi E .int (K) KX) {x1 : Int32} {x2 : Int32} {x3 : Int32} {x4 : Int32} {s0 : Int32} {w : GW} {bb : Nat × Nat}  (hw : wX1_rests_41 c x1 x2 x3 x4 s0 w bb K KX) : J E w bb [(1, .int (x1)), (2, .int (x2)), (3, .int (x3)), (4, .int (x4))] 41 [.int (s0)] := by
  unfold wX1_rests_41 at hw
  obtain ⟨cb1, h2, hw⟩ := hw
  refine jcx_v (jrx_S hE hR (As := [.int (s0)]) (rest := []) ((ctX1_need E.1.2.1 E.2.2.1 hc hst _ _ _ _ _ hw) E.2.2.2.1) (lw_S q1560 q1561 q121 q1562) jdX1_need ⟨Nat.le_of_ble_eq_true rfl, Nat.le_of_ble_eq_true rfl⟩ h2  rfl (Nat.le_of_ble_eq_true rfl) dX1_rests_41) (fun E9 q9 u9 hx => jx_out hE hK.2 hN hx) (fun w3 hw => ?_)
  refine j_nb (fun b4 e_b4 => ?_)
  replace hw := hw b4 e_b4
  refine j_iconst hE dX1_rests_44 kc_0 ?_
  refine j_istore (L' := [(5, .int ((0 : Int32))), (1, .int (x1)), (2, .int (x2)), (3, .int (x3)), (4, .int (x4))]) hE hn dX1_rests_45 (Nat.le_of_ble_eq_true rfl) rfl ?_
  refine j_iconst hE dX1_rests_47 kc_0 ?_
  refine j_istore (L' := [(6, .int ((0 : Int32))), (5, .int ((0 : Int32))), (1, .int (x1)), (2, .int (x2)), (3, .int (x3)), (4, .int (x4))]) hE hn dX1_rests_48 (Nat.le_of_ble_eq_true rfl) rfl ?_
  refine j_sub [(1, .int (x1)), (2, .int (x2)), (3, .int (x3)), (4, .int (x4)), (5, .int ((0 : Int32))), (6, .int ((0 : Int32)))] [2, 3, 4, 5, 1, 0] rfl ?_
  have hz := bX1_rests_50 hE hn hR hc hN hst hK  hw
  exact hz
def wX1_rests_40 (c : Nat → Option Nat) (x1 : Int32) (x2 : Int32) (x3 : Int32) (x4 : Int32) (w : GW) (bb : Nat × Nat) (K : Int32 → GW → Prop) (KX : String → Nat → GW → Prop) : Prop :=
  wX1_rests_41 c x1 x2 x3 x4 ((0 : Int32)) w bb K KX
set_option maxRecDepth 100000 in
theorem bX1_rests_40 {E : jE} (hE : jOk E cX1_rests RX1) (hn : E.2.2.2.2 = 9) (hR : jRoom E 7 120) {c : Nat → Option Nat} (hc : E.2.2.1.2.2.2 = c) (hN : jNoH E) (hst : E.1.2.1.stackTraces = false) {K : Int32 → GW → Prop} {KX : String → Nat → GW → Prop} (hK : jXi E .int (K) KX) {x1 : Int32} {x2 : Int32} {x3 : Int32} {x4 : Int32} {w : GW} {bb : Nat × Nat}  (hw : wX1_rests_40 c x1 x2 x3 x4 w bb K KX) : J E w bb [(1, .int (x1)), (2, .int (x2)), (3, .int (x3)), (4, .int (x4))] 40 [] := by
  unfold wX1_rests_40 at hw
  refine j_iconst hE dX1_rests_40 kc_0 ?_
  have hz := bX1_rests_41 hE hn hR hc hN hst hK  hw
  exact hz
def wX1_rests_0 (c : Nat → Option Nat) (x0 : Nat) (x1 : Int32) (x2 : Int32) (x3 : Int32) (x4 : Int32) (w : GW) (bb : Nat × Nat) (K : Int32 → GW → Prop) (KX : String → Nat → GW → Prop) : Prop :=
  wX1_in c x1 ((0 : Int32)) (nI 9) w (fun r1 => (r1 = 0 → (wX1_rests_40 c x1 x2 x3 x4 w bb K KX)) ∧ (¬ r1 = 0 → (wX1_in c x2 ((0 : Int32)) (nI 9) w (fun r3 => (r3 = 0 → (wX1_rests_40 c x1 x2 x3 x4 w bb K KX)) ∧ (¬ r3 = 0 → (wX1_in c x3 ((0 : Int32)) (nI 9) w (fun r5 => (r5 = 0 → (wX1_rests_40 c x1 x2 x3 x4 w bb K KX)) ∧ (¬ r5 = 0 → ((x4 < ((-1 : Int32)) → (wX1_rests_40 c x1 x2 x3 x4 w bb K KX)) ∧ (¬ x4 < ((-1 : Int32)) → (wX1_rests_41 c x1 x2 x3 x4 ((1 : Int32)) w bb K KX)))))))))))
set_option maxRecDepth 100000 in
theorem bX1_rests_0 {E : jE} (hE : jOk E cX1_rests RX1) (hn : E.2.2.2.2 = 9) (hR : jRoom E 7 120) {c : Nat → Option Nat} (hc : E.2.2.1.2.2.2 = c) (hN : jNoH E) (hst : E.1.2.1.stackTraces = false) {K : Int32 → GW → Prop} {KX : String → Nat → GW → Prop} (hK : jXi E .int (K) KX) {x0 : Nat} {x1 : Int32} {x2 : Int32} {x3 : Int32} {x4 : Int32} {w : GW} {bb : Nat × Nat}  (hw : wX1_rests_0 c x0 x1 x2 x3 x4 w bb K KX) : J E w bb [(0, .ref (x0)), (1, .int (x1)), (2, .int (x2)), (3, .int (x3)), (4, .int (x4))] 0 [] := by
  unfold wX1_rests_0 at hw
  refine j_iload_n hE 1 dX1_rests_0 rfl rfl ?_
  refine j_iconst hE dX1_rests_1 kc_0 ?_
  refine j_bipush hE dX1_rests_2 kb_9 ?_
  refine jc_ip (jr_S hE hR (As := [.int (x1), .int ((0 : Int32)), .int (nI 9)]) (rest := []) ((ctX1_in E.1.2.1 E.2.2.1 hc _ _ _ _ _ hw) E.2.2.2.1) (lw_S q1162 q919 q121 q920) jdX1_in ⟨Nat.le_of_ble_eq_true rfl, Nat.le_of_ble_eq_true rfl⟩ ⟨Nat.zero_le _, Nat.zero_le _⟩  rfl (Nat.le_of_ble_eq_true rfl) dX1_rests_4) (fun r1 hw => ?_)
  refine j_b0 ?_
  refine j_if_eq hE 40 dX1_rests_7 (by decide) (fun c2 => ?_) (fun c2 => ?_)
  · replace hw := hw.1 c2
    refine j_sub [(1, .int (x1)), (2, .int (x2)), (3, .int (x3)), (4, .int (x4))] [1, 2, 3, 4] rfl ?_
    have hz := bX1_rests_40 hE hn hR hc hN hst hK  hw
    exact hz
  · replace hw := hw.2 c2
    refine j_iload_n hE 2 dX1_rests_10 rfl rfl ?_
    refine j_iconst hE dX1_rests_11 kc_0 ?_
    refine j_bipush hE dX1_rests_12 kb_9 ?_
    refine jc_ip (jr_S hE hR (As := [.int (x2), .int ((0 : Int32)), .int (nI 9)]) (rest := []) ((ctX1_in E.1.2.1 E.2.2.1 hc _ _ _ _ _ hw) E.2.2.2.1) (lw_S q1162 q919 q121 q920) jdX1_in ⟨Nat.le_of_ble_eq_true rfl, Nat.le_of_ble_eq_true rfl⟩ ⟨Nat.zero_le _, Nat.zero_le _⟩  rfl (Nat.le_of_ble_eq_true rfl) dX1_rests_14) (fun r3 hw => ?_)
    refine j_b0 ?_
    refine j_if_eq hE 40 dX1_rests_17 (by decide) (fun c4 => ?_) (fun c4 => ?_)
    · replace hw := hw.1 c4
      refine j_sub [(1, .int (x1)), (2, .int (x2)), (3, .int (x3)), (4, .int (x4))] [1, 2, 3, 4] rfl ?_
      have hz := bX1_rests_40 hE hn hR hc hN hst hK  hw
      exact hz
    · replace hw := hw.2 c4
      refine j_iload_n hE 3 dX1_rests_20 rfl rfl ?_
      refine j_iconst hE dX1_rests_21 kc_0 ?_
      refine j_bipush hE dX1_rests_22 kb_9 ?_
      refine jc_ip (jr_S hE hR (As := [.int (x3), .int ((0 : Int32)), .int (nI 9)]) (rest := []) ((ctX1_in E.1.2.1 E.2.2.1 hc _ _ _ _ _ hw) E.2.2.2.1) (lw_S q1162 q919 q121 q920) jdX1_in ⟨Nat.le_of_ble_eq_true rfl, Nat.le_of_ble_eq_true rfl⟩ ⟨Nat.zero_le _, Nat.zero_le _⟩  rfl (Nat.le_of_ble_eq_true rfl) dX1_rests_24) (fun r5 hw => ?_)
      refine j_b0 ?_
      refine j_if_eq hE 40 dX1_rests_27 (by decide) (fun c6 => ?_) (fun c6 => ?_)
      · replace hw := hw.1 c6
        refine j_sub [(1, .int (x1)), (2, .int (x2)), (3, .int (x3)), (4, .int (x4))] [1, 2, 3, 4] rfl ?_
        have hz := bX1_rests_40 hE hn hR hc hN hst hK  hw
        exact hz
      · replace hw := hw.2 c6
        refine j_iload hE 4 dX1_rests_30 rfl ?_
        refine j_iconst hE dX1_rests_32 kc_m1 ?_
        refine j_icmp_lt hE 40 dX1_rests_33 (by decide) (fun c7 => ?_) (fun c7 => ?_)
        · replace hw := hw.1 c7
          refine j_sub [(1, .int (x1)), (2, .int (x2)), (3, .int (x3)), (4, .int (x4))] [1, 2, 3, 4] rfl ?_
          have hz := bX1_rests_40 hE hn hR hc hN hst hK  hw
          exact hz
        · replace hw := hw.2 c7
          refine j_iconst hE dX1_rests_36 kc_1 ?_
          refine j_goto hE 41 dX1_rests_37 (by decide) ?_
          refine j_sub [(1, .int (x1)), (2, .int (x2)), (3, .int (x3)), (4, .int (x4))] [1, 2, 3, 4] rfl ?_
          have hz := bX1_rests_41 hE hn hR hc hN hst hK  hw
          exact hz
theorem jdX1_rests : jD yX1_rests 4 := by decide +kernel
abbrev wX1_rests := wX1_rests_0
theorem ctX1_rests (l : Launch) (G : gG) {c : Nat → Option Nat} (hc : G.2.2.2 = c) (hst : l.stackTraces = false) (x0 : Nat) (x1 : Int32) (x2 : Int32) (x3 : Int32) (x4 : Int32) (w : GW) (bb : Nat × Nat) (K : Int32 → GW → Prop) (KX : String → Nat → GW → Prop) (hw : wX1_rests_0 c x0 x1 x2 x3 x4 w bb K KX) {F2 L2 : Nat} (h2 : 7 ≤ F2 ∧ 120 ≤ L2 := by exact ⟨Nat.le_refl _, Nat.le_refl _⟩) : CtXI l yX1_rests cX1_rests 9 .int ({ frames := F2, cells := bb.1, slots := bb.2, locals := L2 }) G [.ref (x0), .int (x1), .int (x2), .int (x3), .int (x4)] w (K) KX :=
  CtXI.of RX1 plainc_X1 rfl (Nat.le_of_ble_eq_true rfl) (fun E hE hl hG hn hR hN hK => bX1_rests_0 hE hn (hR.le h2.1 h2.2) (by rw [hG]; exact hc) hN (by rw [hl]; exact hst) hK hw)
set_option maxRecDepth 20000 in
def wX6_init_0 (c : Nat → Option Nat) (x0 : Nat) (w : GW) (bb : Nat × Nat) (K : GW → Prop) : Prop :=
  ¬ (nI 1000) < 0 ∧ (nI 1000).toNatClampNeg * 4 ≤ 536870912 ∧ 1 ≤ bb.1 ∧ (nI 1000).toNatClampNeg ≤ bb.2 ∧ ∀ qa6 : Nat, w qa6 = none → (∀ w7 : GW, w7 = gup w qa6 (.inl (0, (nI 1000).toNatClampNeg, gZero 0)) → (∀ b8 : Nat × Nat, b8 = (bb.1 - 1, bb.2 - (nI 1000).toNatClampNeg) → (∃ (n9 : Nat) (fs10 : List Value), w7 x0 = some (true, .inr (n9, fs10)) ∧ n9 ∈ ([5] : List Nat) ∧ 1 < fs10.length ∧ (∀ w14 : GW, w14 = gup w7 x0 (.inr (n9, fs10.set 1 (va_rf (some qa6)))) → (¬ (nI 1002) < 0 ∧ (nI 1002).toNatClampNeg * 4 ≤ 536870912 ∧ 1 ≤ b8.1 ∧ (nI 1002).toNatClampNeg ≤ b8.2 ∧ ∀ qa20 : Nat, w14 qa20 = none → (∀ w21 : GW, w21 = gup w14 qa20 (.inl (0, (nI 1002).toNatClampNeg, gZero 0)) → (∀ b22 : Nat × Nat, b22 = (b8.1 - 1, b8.2 - (nI 1002).toNatClampNeg) → (∃ (n23 : Nat) (fs24 : List Value), w21 x0 = some (true, .inr (n23, fs24)) ∧ n23 ∈ ([5] : List Nat) ∧ 4 < fs24.length ∧ (∀ w28 : GW, w28 = gup w21 x0 (.inr (n23, fs24.set 4 (va_rf (some qa20)))) → (¬ (nI 1002) < 0 ∧ (nI 1002).toNatClampNeg * 4 ≤ 536870912 ∧ 1 ≤ b22.1 ∧ (nI 1002).toNatClampNeg ≤ b22.2 ∧ ∀ qa34 : Nat, w28 qa34 = none → (∀ w35 : GW, w35 = gup w28 qa34 (.inl (0, (nI 1002).toNatClampNeg, gZero 0)) → (∀ b36 : Nat × Nat, b36 = (b22.1 - 1, b22.2 - (nI 1002).toNatClampNeg) → (∃ (n37 : Nat) (fs38 : List Value), w35 x0 = some (true, .inr (n37, fs38)) ∧ n37 ∈ ([5] : List Nat) ∧ 5 < fs38.length ∧ (∀ w42 : GW, w42 = gup w35 x0 (.inr (n37, fs38.set 5 (va_rf (some qa34)))) → (¬ (nI 1002) < 0 ∧ (nI 1002).toNatClampNeg * 8 ≤ 536870912 ∧ 1 ≤ b36.1 ∧ (nI 1002).toNatClampNeg ≤ b36.2 ∧ ∀ qa48 : Nat, w42 qa48 = none → (∀ w49 : GW, w49 = gup w42 qa48 (.inl (2, (nI 1002).toNatClampNeg, gZero 2)) → (∀ b50 : Nat × Nat, b50 = (b36.1 - 1, b36.2 - (nI 1002).toNatClampNeg) → (∃ (n51 : Nat) (fs52 : List Value), w49 x0 = some (true, .inr (n51, fs52)) ∧ n51 ∈ ([5] : List Nat) ∧ 6 < fs52.length ∧ (∀ w56 : GW, w56 = gup w49 x0 (.inr (n51, fs52.set 6 (va_rf (some qa48)))) → (¬ (nI 26) < 0 ∧ (nI 26).toNatClampNeg * 8 ≤ 536870912 ∧ 1 ≤ b50.1 ∧ (nI 26).toNatClampNeg ≤ b50.2 ∧ ∀ qa62 : Nat, w56 qa62 = none → (∀ w63 : GW, w63 = gup w56 qa62 (.inl (2, (nI 26).toNatClampNeg, gZero 2)) → (∀ b64 : Nat × Nat, b64 = (b50.1 - 1, b50.2 - (nI 26).toNatClampNeg) → (∃ (n65 : Nat) (f66 : Nat → Int64), w63 qa62 = some (true, .inl (2, n65, .inr (.inl f66))) ∧ vp_in ((0 : Int32)) n65 ∧ (∀ w69 : GW, w69 = gup w63 qa62 (.inl (2, n65, .inr (.inl (vp_updL f66 ((0 : Int32)).toNatClampNeg ((812340 : Int64)))))) → (∃ (n70 : Nat) (f71 : Nat → Int64), w69 qa62 = some (true, .inl (2, n70, .inr (.inl f71))) ∧ vp_in ((1 : Int32)) n70 ∧ (∀ w74 : GW, w74 = gup w69 qa62 (.inl (2, n70, .inr (.inl (vp_updL f71 ((1 : Int32)).toNatClampNeg ((20876492 : Int64)))))) → (∃ (n75 : Nat) (f76 : Nat → Int64), w74 qa62 = some (true, .inl (2, n75, .inr (.inl f76))) ∧ vp_in (nI 2) n75 ∧ (∀ w79 : GW, w79 = gup w74 qa62 (.inl (2, n75, .inr (.inl (vp_updL f76 (nI 2).toNatClampNeg ((969456 : Int64)))))) → (∃ (n80 : Nat) (f81 : Nat → Int64), w79 qa62 = some (true, .inl (2, n80, .inr (.inl f81))) ∧ vp_in (nI 3) n80 ∧ (∀ w84 : GW, w84 = gup w79 qa62 (.inl (2, n80, .inr (.inl (vp_updL f81 (nI 3).toNatClampNeg ((1119812451 : Int64)))))) → (∃ (n85 : Nat) (f86 : Nat → Int64), w84 qa62 = some (true, .inl (2, n85, .inr (.inl f86))) ∧ vp_in (nI 4) n85 ∧ (∀ w89 : GW, w89 = gup w84 qa62 (.inl (2, n85, .inr (.inl (vp_updL f86 (nI 4).toNatClampNeg ((57 : Int64)))))) → (∃ (n90 : Nat) (f91 : Nat → Int64), w89 qa62 = some (true, .inl (2, n90, .inr (.inl f91))) ∧ vp_in (nI 5) n90 ∧ (∀ w94 : GW, w94 = gup w89 qa62 (.inl (2, n90, .inr (.inl (vp_updL f91 (nI 5).toNatClampNeg ((209646 : Int64)))))) → (∃ (n95 : Nat) (f96 : Nat → Int64), w94 qa62 = some (true, .inl (2, n95, .inr (.inl f96))) ∧ vp_in (nI 6) n95 ∧ (∀ w99 : GW, w99 = gup w94 qa62 (.inl (2, n95, .inr (.inl (vp_updL f96 (nI 6).toNatClampNeg ((407272 : Int64)))))) → (∃ (n100 : Nat) (f101 : Nat → Int64), w99 qa62 = some (true, .inl (2, n100, .inr (.inl f101))) ∧ vp_in (nI 7) n100 ∧ (∀ w104 : GW, w104 = gup w99 qa62 (.inl (2, n100, .inr (.inl (vp_updL f101 (nI 7).toNatClampNeg ((22955708 : Int64)))))) → (∃ (n105 : Nat) (f106 : Nat → Int64), w104 qa62 = some (true, .inl (2, n105, .inr (.inl f106))) ∧ vp_in (nI 8) n105 ∧ (∀ w109 : GW, w109 = gup w104 qa62 (.inl (2, n105, .inr (.inl (vp_updL f106 (nI 8).toNatClampNeg ((11301299 : Int64)))))) → (∃ (n110 : Nat) (f111 : Nat → Int64), w109 qa62 = some (true, .inl (2, n110, .inr (.inl f111))) ∧ vp_in (nI 9) n110 ∧ (∀ w114 : GW, w114 = gup w109 qa62 (.inl (2, n110, .inr (.inl (vp_updL f111 (nI 9).toNatClampNeg ((1166843 : Int64)))))) → (∃ (n115 : Nat) (f116 : Nat → Int64), w114 qa62 = some (true, .inl (2, n115, .inr (.inl f116))) ∧ vp_in (nI 10) n115 ∧ (∀ w119 : GW, w119 = gup w114 qa62 (.inl (2, n115, .inr (.inl (vp_updL f116 (nI 10).toNatClampNeg ((223351 : Int64)))))) → (∃ (n120 : Nat) (f121 : Nat → Int64), w119 qa62 = some (true, .inl (2, n120, .inr (.inl f121))) ∧ vp_in (nI 11) n120 ∧ (∀ w124 : GW, w124 = gup w119 qa62 (.inl (2, n120, .inr (.inl (vp_updL f121 (nI 11).toNatClampNeg ((1167099 : Int64)))))) → (∃ (n125 : Nat) (f126 : Nat → Int64), w124 qa62 = some (true, .inl (2, n125, .inr (.inl f126))) ∧ vp_in (nI 12) n125 ∧ (∀ w129 : GW, w129 = gup w124 qa62 (.inl (2, n125, .inr (.inl (vp_updL f126 (nI 12).toNatClampNeg ((9188151998 : Int64)))))) → (∃ (n130 : Nat) (f131 : Nat → Int64), w129 qa62 = some (true, .inl (2, n130, .inr (.inl f131))) ∧ vp_in (nI 13) n130 ∧ (∀ w134 : GW, w134 = gup w129 qa62 (.inl (2, n130, .inr (.inl (vp_updL f131 (nI 13).toNatClampNeg ((36643177 : Int64)))))) → (∃ (n135 : Nat) (f136 : Nat → Int64), w134 qa62 = some (true, .inl (2, n135, .inr (.inl f136))) ∧ vp_in (nI 14) n135 ∧ (∀ w139 : GW, w139 = gup w134 qa62 (.inl (2, n135, .inr (.inl (vp_updL f136 (nI 14).toNatClampNeg ((426554 : Int64)))))) → (∃ (n140 : Nat) (f141 : Nat → Int64), w139 qa62 = some (true, .inl (2, n140, .inr (.inl f141))) ∧ vp_in (nI 15) n140 ∧ (∀ w144 : GW, w144 = gup w139 qa62 (.inl (2, n140, .inr (.inl (vp_updL f141 (nI 15).toNatClampNeg ((30596128 : Int64)))))) → (∃ (n145 : Nat) (f146 : Nat → Int64), w144 qa62 = some (true, .inl (2, n145, .inr (.inl f146))) ∧ vp_in (nI 16) n145 ∧ (∀ w149 : GW, w149 = gup w144 qa62 (.inl (2, n145, .inr (.inl (vp_updL f146 (nI 16).toNatClampNeg ((16671652071 : Int64)))))) → (∃ (n150 : Nat) (f151 : Nat → Int64), w149 qa62 = some (true, .inl (2, n150, .inr (.inl f151))) ∧ vp_in (nI 17) n150 ∧ (∀ w154 : GW, w154 = gup w149 qa62 (.inl (2, n150, .inr (.inl (vp_updL f151 (nI 17).toNatClampNeg ((37900887 : Int64)))))) → (∃ (n155 : Nat) (f156 : Nat → Int64), w154 qa62 = some (true, .inl (2, n155, .inr (.inl f156))) ∧ vp_in (nI 18) n155 ∧ (∀ w159 : GW, w159 = gup w154 qa62 (.inl (2, n155, .inr (.inl (vp_updL f156 (nI 18).toNatClampNeg ((919275859 : Int64)))))) → (∃ (n160 : Nat) (f161 : Nat → Int64), w159 qa62 = some (true, .inl (2, n160, .inr (.inl f161))) ∧ vp_in (nI 19) n160 ∧ (∀ w164 : GW, w164 = gup w159 qa62 (.inl (2, n160, .inr (.inl (vp_updL f161 (nI 19).toNatClampNeg ((19741 : Int64)))))) → (∃ (n165 : Nat) (f166 : Nat → Int64), w164 qa62 = some (true, .inl (2, n165, .inr (.inl f166))) ∧ vp_in (nI 20) n165 ∧ (∀ w169 : GW, w169 = gup w164 qa62 (.inl (2, n165, .inr (.inl (vp_updL f166 (nI 20).toNatClampNeg ((1891 : Int64)))))) → (∃ (n170 : Nat) (f171 : Nat → Int64), w169 qa62 = some (true, .inl (2, n170, .inr (.inl f171))) ∧ vp_in (nI 21) n170 ∧ (∀ w174 : GW, w174 = gup w169 qa62 (.inl (2, n170, .inr (.inl (vp_updL f171 (nI 21).toNatClampNeg ((573 : Int64)))))) → (∃ (n175 : Nat) (f176 : Nat → Int64), w174 qa62 = some (true, .inl (2, n175, .inr (.inl f176))) ∧ vp_in (nI 22) n175 ∧ (∀ w179 : GW, w179 = gup w174 qa62 (.inl (2, n175, .inr (.inl (vp_updL f176 (nI 22).toNatClampNeg ((1633 : Int64)))))) → (∃ (n180 : Nat) (f181 : Nat → Int64), w179 qa62 = some (true, .inl (2, n180, .inr (.inl f181))) ∧ vp_in (nI 23) n180 ∧ (∀ w184 : GW, w184 = gup w179 qa62 (.inl (2, n180, .inr (.inl (vp_updL f181 (nI 23).toNatClampNeg ((2779 : Int64)))))) → (∃ (n185 : Nat) (f186 : Nat → Int64), w184 qa62 = some (true, .inl (2, n185, .inr (.inl f186))) ∧ vp_in (nI 24) n185 ∧ (∀ w189 : GW, w189 = gup w184 qa62 (.inl (2, n185, .inr (.inl (vp_updL f186 (nI 24).toNatClampNeg ((16781 : Int64)))))) → (∃ (n190 : Nat) (f191 : Nat → Int64), w189 qa62 = some (true, .inl (2, n190, .inr (.inl f191))) ∧ vp_in (nI 25) n190 ∧ (∀ w194 : GW, w194 = gup w189 qa62 (.inl (2, n190, .inr (.inl (vp_updL f191 (nI 25).toNatClampNeg ((26523209 : Int64)))))) → (∃ (n195 : Nat) (fs196 : List Value), w194 x0 = some (true, .inr (n195, fs196)) ∧ n195 ∈ ([5] : List Nat) ∧ 9 < fs196.length ∧ (∀ w200 : GW, w200 = gup w194 x0 (.inr (n195, fs196.set 9 (va_rf (some qa62)))) → (¬ (nI 120) < 0 ∧ (nI 120).toNatClampNeg * 4 ≤ 536870912 ∧ 1 ≤ b64.1 ∧ (nI 120).toNatClampNeg ≤ b64.2 ∧ ∀ qa206 : Nat, w200 qa206 = none → (∀ w207 : GW, w207 = gup w200 qa206 (.inl (0, (nI 120).toNatClampNeg, gZero 0)) → (∀ b208 : Nat × Nat, b208 = (b64.1 - 1, b64.2 - (nI 120).toNatClampNeg) → (∃ (n209 : Nat) (fs210 : List Value), w207 x0 = some (true, .inr (n209, fs210)) ∧ n209 ∈ ([5] : List Nat) ∧ 10 < fs210.length ∧ (∀ w214 : GW, w214 = gup w207 x0 (.inr (n209, fs210.set 10 (va_rf (some qa206)))) → (¬ (nI 2200) < 0 ∧ (nI 2200).toNatClampNeg * 4 ≤ 536870912 ∧ 1 ≤ b208.1 ∧ (nI 2200).toNatClampNeg ≤ b208.2 ∧ ∀ qa220 : Nat, w214 qa220 = none → (∀ w221 : GW, w221 = gup w214 qa220 (.inl (0, (nI 2200).toNatClampNeg, gZero 0)) → (∀ b222 : Nat × Nat, b222 = (b208.1 - 1, b208.2 - (nI 2200).toNatClampNeg) → (∃ (n223 : Nat) (fs224 : List Value), w221 x0 = some (true, .inr (n223, fs224)) ∧ n223 ∈ ([5] : List Nat) ∧ 11 < fs224.length ∧ (∀ w228 : GW, w228 = gup w221 x0 (.inr (n223, fs224.set 11 (va_rf (some qa220)))) → (¬ (nI 2200) < 0 ∧ (nI 2200).toNatClampNeg * 4 ≤ 536870912 ∧ 1 ≤ b222.1 ∧ (nI 2200).toNatClampNeg ≤ b222.2 ∧ ∀ qa234 : Nat, w228 qa234 = none → (∀ w235 : GW, w235 = gup w228 qa234 (.inl (0, (nI 2200).toNatClampNeg, gZero 0)) → (∀ b236 : Nat × Nat, b236 = (b222.1 - 1, b222.2 - (nI 2200).toNatClampNeg) → (∃ (n237 : Nat) (fs238 : List Value), w235 x0 = some (true, .inr (n237, fs238)) ∧ n237 ∈ ([5] : List Nat) ∧ 12 < fs238.length ∧ (∀ w242 : GW, w242 = gup w235 x0 (.inr (n237, fs238.set 12 (va_rf (some qa234)))) → (¬ (nI 16) < 0 ∧ (nI 16).toNatClampNeg * 8 ≤ 536870912 ∧ 1 ≤ b236.1 ∧ (nI 16).toNatClampNeg ≤ b236.2 ∧ ∀ qa248 : Nat, w242 qa248 = none → (∀ w249 : GW, w249 = gup w242 qa248 (.inl (2, (nI 16).toNatClampNeg, gZero 2)) → (∀ b250 : Nat × Nat, b250 = (b236.1 - 1, b236.2 - (nI 16).toNatClampNeg) → (∃ (n251 : Nat) (fs252 : List Value), w249 x0 = some (true, .inr (n251, fs252)) ∧ n251 ∈ ([5] : List Nat) ∧ 14 < fs252.length ∧ (∀ w256 : GW, w256 = gup w249 x0 (.inr (n251, fs252.set 14 (va_rf (some qa248)))) → (¬ (nI 16) < 0 ∧ (nI 16).toNatClampNeg * 8 ≤ 536870912 ∧ 1 ≤ b250.1 ∧ (nI 16).toNatClampNeg ≤ b250.2 ∧ ∀ qa262 : Nat, w256 qa262 = none → (∀ w263 : GW, w263 = gup w256 qa262 (.inl (2, (nI 16).toNatClampNeg, gZero 2)) → (∀ b264 : Nat × Nat, b264 = (b250.1 - 1, b250.2 - (nI 16).toNatClampNeg) → (∃ (n265 : Nat) (fs266 : List Value), w263 x0 = some (true, .inr (n265, fs266)) ∧ n265 ∈ ([5] : List Nat) ∧ 15 < fs266.length ∧ (∀ w270 : GW, w270 = gup w263 x0 (.inr (n265, fs266.set 15 (va_rf (some qa262)))) → (¬ (nI 16) < 0 ∧ (nI 16).toNatClampNeg * 4 ≤ 536870912 ∧ 1 ≤ b264.1 ∧ (nI 16).toNatClampNeg ≤ b264.2 ∧ ∀ qa276 : Nat, w270 qa276 = none → (∀ w277 : GW, w277 = gup w270 qa276 (.inl (0, (nI 16).toNatClampNeg, gZero 0)) → (∀ b278 : Nat × Nat, b278 = (b264.1 - 1, b264.2 - (nI 16).toNatClampNeg) → (∃ (n279 : Nat) (fs280 : List Value), w277 x0 = some (true, .inr (n279, fs280)) ∧ n279 ∈ ([5] : List Nat) ∧ 16 < fs280.length ∧ (∀ w284 : GW, w284 = gup w277 x0 (.inr (n279, fs280.set 16 (va_rf (some qa276)))) → (¬ (nI 16) < 0 ∧ (nI 16).toNatClampNeg * 4 ≤ 536870912 ∧ 1 ≤ b278.1 ∧ (nI 16).toNatClampNeg ≤ b278.2 ∧ ∀ qa290 : Nat, w284 qa290 = none → (∀ w291 : GW, w291 = gup w284 qa290 (.inl (0, (nI 16).toNatClampNeg, gZero 0)) → (∀ b292 : Nat × Nat, b292 = (b278.1 - 1, b278.2 - (nI 16).toNatClampNeg) → (∃ (n293 : Nat) (fs294 : List Value), w291 x0 = some (true, .inr (n293, fs294)) ∧ n293 ∈ ([5] : List Nat) ∧ 17 < fs294.length ∧ (∀ w298 : GW, w298 = gup w291 x0 (.inr (n293, fs294.set 17 (va_rf (some qa290)))) → (¬ (nI 250) < 0 ∧ (nI 250).toNatClampNeg * 4 ≤ 536870912 ∧ 1 ≤ b292.1 ∧ (nI 250).toNatClampNeg ≤ b292.2 ∧ ∀ qa304 : Nat, w298 qa304 = none → (∀ w305 : GW, w305 = gup w298 qa304 (.inl (0, (nI 250).toNatClampNeg, gZero 0)) → (∀ b306 : Nat × Nat, b306 = (b292.1 - 1, b292.2 - (nI 250).toNatClampNeg) → (∃ (n307 : Nat) (fs308 : List Value), w305 x0 = some (true, .inr (n307, fs308)) ∧ n307 ∈ ([5] : List Nat) ∧ 21 < fs308.length ∧ (∀ w312 : GW, w312 = gup w305 x0 (.inr (n307, fs308.set 21 (va_rf (some qa304)))) → (¬ (nI 4) < 0 ∧ (nI 4).toNatClampNeg * 4 ≤ 536870912 ∧ 1 ≤ b306.1 ∧ (nI 4).toNatClampNeg ≤ b306.2 ∧ ∀ qa318 : Nat, w312 qa318 = none → (∀ w319 : GW, w319 = gup w312 qa318 (.inl (0, (nI 4).toNatClampNeg, gZero 0)) → (∀ b320 : Nat × Nat, b320 = (b306.1 - 1, b306.2 - (nI 4).toNatClampNeg) → (∃ (n321 : Nat) (fs322 : List Value), w319 x0 = some (true, .inr (n321, fs322)) ∧ n321 ∈ ([5] : List Nat) ∧ 22 < fs322.length ∧ (∀ w326 : GW, w326 = gup w319 x0 (.inr (n321, fs322.set 22 (va_rf (some qa318)))) → (¬ (nI 1100) < 0 ∧ (nI 1100).toNatClampNeg * 4 ≤ 536870912 ∧ 1 ≤ b320.1 ∧ (nI 1100).toNatClampNeg ≤ b320.2 ∧ ∀ qa332 : Nat, w326 qa332 = none → (∀ w333 : GW, w333 = gup w326 qa332 (.inl (0, (nI 1100).toNatClampNeg, gZero 0)) → (∀ b334 : Nat × Nat, b334 = (b320.1 - 1, b320.2 - (nI 1100).toNatClampNeg) → (∃ (n335 : Nat) (fs336 : List Value), w333 x0 = some (true, .inr (n335, fs336)) ∧ n335 ∈ ([5] : List Nat) ∧ 23 < fs336.length ∧ (∀ w340 : GW, w340 = gup w333 x0 (.inr (n335, fs336.set 23 (va_rf (some qa332)))) → (¬ (nI 1518) < 0 ∧ (nI 1518).toNatClampNeg * 4 ≤ 536870912 ∧ 1 ≤ b334.1 ∧ (nI 1518).toNatClampNeg ≤ b334.2 ∧ ∀ qa346 : Nat, w340 qa346 = none → (∀ w347 : GW, w347 = gup w340 qa346 (.inl (0, (nI 1518).toNatClampNeg, gZero 0)) → (∀ b348 : Nat × Nat, b348 = (b334.1 - 1, b334.2 - (nI 1518).toNatClampNeg) → (∃ (n349 : Nat) (fs350 : List Value), w347 x0 = some (true, .inr (n349, fs350)) ∧ n349 ∈ ([5] : List Nat) ∧ 24 < fs350.length ∧ (∀ w354 : GW, w354 = gup w347 x0 (.inr (n349, fs350.set 24 (va_rf (some qa346)))) → (¬ (nI 4) < 0 ∧ (nI 4).toNatClampNeg * 1 ≤ 536870912 ∧ 1 ≤ b348.1 ∧ (nI 4).toNatClampNeg ≤ b348.2 ∧ ∀ qa360 : Nat, w354 qa360 = none → (∀ w361 : GW, w361 = gup w354 qa360 (.inl (3, (nI 4).toNatClampNeg, gZero 3)) → (∀ b362 : Nat × Nat, b362 = (b348.1 - 1, b348.2 - (nI 4).toNatClampNeg) → (∃ (n363 : Nat) (fs364 : List Value), w361 x0 = some (true, .inr (n363, fs364)) ∧ n363 ∈ ([5] : List Nat) ∧ 26 < fs364.length ∧ (∀ w368 : GW, w368 = gup w361 x0 (.inr (n363, fs364.set 26 (va_rf (some qa360)))) → (∃ (ad369 : Nat → Nat) (m370 : MS) (r371 : GW), adOk ad369 ∧ w368 = mwX ad369 m370 r371 ∧ x0 = ad369 0 ∧ wX6_standsAsAlways ((0 : Int32)) m370 (fun m372 => ∀ w373 : GW, w373 = mwX ad369 m372 r371 → (∃ (ad374 : Nat → Nat) (m375 : MS) (r376 : GW), adOk ad374 ∧ w373 = mwX ad374 m375 r376 ∧ x0 = ad374 0 ∧ wX6_begins  m375 (fun m377 => ∀ w378 : GW, w378 = mwX ad374 m377 r376 → (K w378)))))))))))))))))))))))))))))))))))))))))))))))))))))))))))))))))))))))))))))))))))))))))))))))))))))))))))))))))))))))))))))))))))))))))))))
set_option maxRecDepth 100000 in
theorem bX6_init_0 {E : jE} (hE : jOk E cX6_init RX6) (hn : E.2.2.2.2 = 1) (hR : jRoom E 3 63) {c : Nat → Option Nat} (hc : E.2.2.1.2.2.2 = c) (hini : E.2.1.1.name = "<init>") {K : GW → Prop} (hK : jRv E (K)) {x0 : Nat} {w : GW} {bb : Nat × Nat}  (hw : wX6_init_0 c x0 w bb K) : J E w bb [(0, .ref (x0))] 0 [] := by
  unfold wX6_init_0 at hw
  refine j_aload_n hE 0 dX6_init_0 rfl rfl ?_
  refine j_objInit hE hR q1604 q_oi_inst q_oi_code (Nat.le_of_ble_eq_true rfl) (Nat.le_of_ble_eq_true rfl) dX6_init_1 ?_
  refine j_aload_n hE 0 dX6_init_4 rfl rfl ?_
  refine j_sipush hE dX6_init_5 ks_1000 ?_
  obtain ⟨h1, h2, h3, h4, hw⟩ := hw
  refine j_newarr hE (atype := .int) (t := 0) (by decide) rfl q276 h1 h2 ⟨h3, h4⟩ dX6_init_8 (fun qa6 h5 => ?_)
  replace hw := hw qa6 h5
  refine j_nw (fun w7 e_w7 => ?_)
  replace hw := hw w7 e_w7
  refine j_nb (fun b8 e_b8 => ?_)
  replace hw := hw b8 e_b8
  obtain ⟨n9, fs10, h11, h12, h13, hw⟩ := hw
  refine j_putXF hE hini h12 gw_GlassStreetModel_tape_X6 q1648 h11 rfl rfl h13 dX6_init_10 ?_
  refine j_nw (fun w14 e_w14 => ?_)
  replace hw := hw w14 e_w14
  refine j_aload_n hE 0 dX6_init_13 rfl rfl ?_
  refine j_sipush hE dX6_init_14 ks_1002 ?_
  obtain ⟨h15, h16, h17, h18, hw⟩ := hw
  refine j_newarr hE (atype := .int) (t := 0) (by decide) rfl q276 h15 h16 ⟨h17, h18⟩ dX6_init_17 (fun qa20 h19 => ?_)
  replace hw := hw qa20 h19
  refine j_nw (fun w21 e_w21 => ?_)
  replace hw := hw w21 e_w21
  refine j_nb (fun b22 e_b22 => ?_)
  replace hw := hw b22 e_b22
  obtain ⟨n23, fs24, h25, h26, h27, hw⟩ := hw
  refine j_putXF hE hini h26 gw_GlassStreetModel_sort_X6 q1651 h25 rfl rfl h27 dX6_init_19 ?_
  refine j_nw (fun w28 e_w28 => ?_)
  replace hw := hw w28 e_w28
  refine j_aload_n hE 0 dX6_init_22 rfl rfl ?_
  refine j_sipush hE dX6_init_23 ks_1002 ?_
  obtain ⟨h29, h30, h31, h32, hw⟩ := hw
  refine j_newarr hE (atype := .int) (t := 0) (by decide) rfl q276 h29 h30 ⟨h31, h32⟩ dX6_init_26 (fun qa34 h33 => ?_)
  replace hw := hw qa34 h33
  refine j_nw (fun w35 e_w35 => ?_)
  replace hw := hw w35 e_w35
  refine j_nb (fun b36 e_b36 => ?_)
  replace hw := hw b36 e_b36
  obtain ⟨n37, fs38, h39, h40, h41, hw⟩ := hw
  refine j_putXF hE hini h40 gw_GlassStreetModel_place_X6 q1652 h39 rfl rfl h41 dX6_init_28 ?_
  refine j_nw (fun w42 e_w42 => ?_)
  replace hw := hw w42 e_w42
  refine j_aload_n hE 0 dX6_init_31 rfl rfl ?_
  refine j_sipush hE dX6_init_32 ks_1002 ?_
  obtain ⟨h43, h44, h45, h46, hw⟩ := hw
  refine j_newarr hE (atype := .long) (t := 2) (by decide) rfl q1741 h43 h44 ⟨h45, h46⟩ dX6_init_35 (fun qa48 h47 => ?_)
  replace hw := hw qa48 h47
  refine j_nw (fun w49 e_w49 => ?_)
  replace hw := hw w49 e_w49
  refine j_nb (fun b50 e_b50 => ?_)
  replace hw := hw b50 e_b50
  obtain ⟨n51, fs52, h53, h54, h55, hw⟩ := hw
  refine j_putXF hE hini h54 gw_GlassStreetModel_value_X6 q1653 h53 rfl rfl h55 dX6_init_37 ?_
  refine j_nw (fun w56 e_w56 => ?_)
  replace hw := hw w56 e_w56
  refine j_aload_n hE 0 dX6_init_40 rfl rfl ?_
  refine j_bipush hE dX6_init_41 kb_26 ?_
  obtain ⟨h57, h58, h59, h60, hw⟩ := hw
  refine j_newarr hE (atype := .long) (t := 2) (by decide) rfl q1741 h57 h58 ⟨h59, h60⟩ dX6_init_43 (fun qa62 h61 => ?_)
  replace hw := hw qa62 h61
  refine j_nw (fun w63 e_w63 => ?_)
  replace hw := hw w63 e_w63
  refine j_nb (fun b64 e_b64 => ?_)
  replace hw := hw b64 e_b64
  refine j_dup hE dX6_init_45 rfl ?_
  refine j_iconst hE dX6_init_46 kc_0 ?_
  refine j_ldc2 hE q1605 dX6_init_47 ?_
  obtain ⟨n65, f66, h67, h68, hw⟩ := hw
  refine j_last hE h67 h68 dX6_init_50 ?_
  refine j_nw (fun w69 e_w69 => ?_)
  replace hw := hw w69 e_w69
  refine j_dup hE dX6_init_51 rfl ?_
  refine j_iconst hE dX6_init_52 kc_1 ?_
  refine j_ldc2 hE q1606 dX6_init_53 ?_
  obtain ⟨n70, f71, h72, h73, hw⟩ := hw
  refine j_last hE h72 h73 dX6_init_56 ?_
  refine j_nw (fun w74 e_w74 => ?_)
  replace hw := hw w74 e_w74
  refine j_dup hE dX6_init_57 rfl ?_
  refine j_iconst hE dX6_init_58 kc_2 ?_
  refine j_ldc2 hE q1607 dX6_init_59 ?_
  obtain ⟨n75, f76, h77, h78, hw⟩ := hw
  refine j_last hE h77 h78 dX6_init_62 ?_
  refine j_nw (fun w79 e_w79 => ?_)
  replace hw := hw w79 e_w79
  refine j_dup hE dX6_init_63 rfl ?_
  refine j_iconst hE dX6_init_64 kc_3 ?_
  refine j_ldc2 hE q1608 dX6_init_65 ?_
  obtain ⟨n80, f81, h82, h83, hw⟩ := hw
  refine j_last hE h82 h83 dX6_init_68 ?_
  refine j_nw (fun w84 e_w84 => ?_)
  replace hw := hw w84 e_w84
  refine j_dup hE dX6_init_69 rfl ?_
  refine j_iconst hE dX6_init_70 kc_4 ?_
  refine j_ldc2 hE q1609 dX6_init_71 ?_
  obtain ⟨n85, f86, h87, h88, hw⟩ := hw
  refine j_last hE h87 h88 dX6_init_74 ?_
  refine j_nw (fun w89 e_w89 => ?_)
  replace hw := hw w89 e_w89
  refine j_dup hE dX6_init_75 rfl ?_
  refine j_iconst hE dX6_init_76 kc_5 ?_
  refine j_ldc2 hE q1610 dX6_init_77 ?_
  obtain ⟨n90, f91, h92, h93, hw⟩ := hw
  refine j_last hE h92 h93 dX6_init_80 ?_
  refine j_nw (fun w94 e_w94 => ?_)
  replace hw := hw w94 e_w94
  refine j_dup hE dX6_init_81 rfl ?_
  refine j_bipush hE dX6_init_82 kb_6 ?_
  refine j_ldc2 hE q1611 dX6_init_84 ?_
  obtain ⟨n95, f96, h97, h98, hw⟩ := hw
  refine j_last hE h97 h98 dX6_init_87 ?_
  refine j_nw (fun w99 e_w99 => ?_)
  replace hw := hw w99 e_w99
  refine j_dup hE dX6_init_88 rfl ?_
  refine j_bipush hE dX6_init_89 kb_7 ?_
  refine j_ldc2 hE q1612 dX6_init_91 ?_
  obtain ⟨n100, f101, h102, h103, hw⟩ := hw
  refine j_last hE h102 h103 dX6_init_94 ?_
  refine j_nw (fun w104 e_w104 => ?_)
  replace hw := hw w104 e_w104
  refine j_dup hE dX6_init_95 rfl ?_
  refine j_bipush hE dX6_init_96 kb_8 ?_
  refine j_ldc2 hE q1613 dX6_init_98 ?_
  obtain ⟨n105, f106, h107, h108, hw⟩ := hw
  refine j_last hE h107 h108 dX6_init_101 ?_
  refine j_nw (fun w109 e_w109 => ?_)
  replace hw := hw w109 e_w109
  refine j_dup hE dX6_init_102 rfl ?_
  refine j_bipush hE dX6_init_103 kb_9 ?_
  refine j_ldc2 hE q1614 dX6_init_105 ?_
  obtain ⟨n110, f111, h112, h113, hw⟩ := hw
  refine j_last hE h112 h113 dX6_init_108 ?_
  refine j_nw (fun w114 e_w114 => ?_)
  replace hw := hw w114 e_w114
  refine j_dup hE dX6_init_109 rfl ?_
  refine j_bipush hE dX6_init_110 kb_10 ?_
  refine j_ldc2 hE q1615 dX6_init_112 ?_
  obtain ⟨n115, f116, h117, h118, hw⟩ := hw
  refine j_last hE h117 h118 dX6_init_115 ?_
  refine j_nw (fun w119 e_w119 => ?_)
  replace hw := hw w119 e_w119
  refine j_dup hE dX6_init_116 rfl ?_
  refine j_bipush hE dX6_init_117 kb_11 ?_
  refine j_ldc2 hE q1616 dX6_init_119 ?_
  obtain ⟨n120, f121, h122, h123, hw⟩ := hw
  refine j_last hE h122 h123 dX6_init_122 ?_
  refine j_nw (fun w124 e_w124 => ?_)
  replace hw := hw w124 e_w124
  refine j_dup hE dX6_init_123 rfl ?_
  refine j_bipush hE dX6_init_124 kb_12 ?_
  refine j_ldc2 hE q1617 dX6_init_126 ?_
  obtain ⟨n125, f126, h127, h128, hw⟩ := hw
  refine j_last hE h127 h128 dX6_init_129 ?_
  refine j_nw (fun w129 e_w129 => ?_)
  replace hw := hw w129 e_w129
  refine j_dup hE dX6_init_130 rfl ?_
  refine j_bipush hE dX6_init_131 kb_13 ?_
  refine j_ldc2 hE q1618 dX6_init_133 ?_
  obtain ⟨n130, f131, h132, h133, hw⟩ := hw
  refine j_last hE h132 h133 dX6_init_136 ?_
  refine j_nw (fun w134 e_w134 => ?_)
  replace hw := hw w134 e_w134
  refine j_dup hE dX6_init_137 rfl ?_
  refine j_bipush hE dX6_init_138 kb_14 ?_
  refine j_ldc2 hE q1619 dX6_init_140 ?_
  obtain ⟨n135, f136, h137, h138, hw⟩ := hw
  refine j_last hE h137 h138 dX6_init_143 ?_
  refine j_nw (fun w139 e_w139 => ?_)
  replace hw := hw w139 e_w139
  refine j_dup hE dX6_init_144 rfl ?_
  refine j_bipush hE dX6_init_145 kb_15 ?_
  refine j_ldc2 hE q1620 dX6_init_147 ?_
  obtain ⟨n140, f141, h142, h143, hw⟩ := hw
  refine j_last hE h142 h143 dX6_init_150 ?_
  refine j_nw (fun w144 e_w144 => ?_)
  replace hw := hw w144 e_w144
  refine j_dup hE dX6_init_151 rfl ?_
  refine j_bipush hE dX6_init_152 kb_16 ?_
  refine j_ldc2 hE q1621 dX6_init_154 ?_
  obtain ⟨n145, f146, h147, h148, hw⟩ := hw
  refine j_last hE h147 h148 dX6_init_157 ?_
  refine j_nw (fun w149 e_w149 => ?_)
  replace hw := hw w149 e_w149
  refine j_dup hE dX6_init_158 rfl ?_
  refine j_bipush hE dX6_init_159 kb_17 ?_
  refine j_ldc2 hE q1622 dX6_init_161 ?_
  obtain ⟨n150, f151, h152, h153, hw⟩ := hw
  refine j_last hE h152 h153 dX6_init_164 ?_
  refine j_nw (fun w154 e_w154 => ?_)
  replace hw := hw w154 e_w154
  refine j_dup hE dX6_init_165 rfl ?_
  refine j_bipush hE dX6_init_166 kb_18 ?_
  refine j_ldc2 hE q1623 dX6_init_168 ?_
  obtain ⟨n155, f156, h157, h158, hw⟩ := hw
  refine j_last hE h157 h158 dX6_init_171 ?_
  refine j_nw (fun w159 e_w159 => ?_)
  replace hw := hw w159 e_w159
  refine j_dup hE dX6_init_172 rfl ?_
  refine j_bipush hE dX6_init_173 kb_19 ?_
  refine j_ldc2 hE q1624 dX6_init_175 ?_
  obtain ⟨n160, f161, h162, h163, hw⟩ := hw
  refine j_last hE h162 h163 dX6_init_178 ?_
  refine j_nw (fun w164 e_w164 => ?_)
  replace hw := hw w164 e_w164
  refine j_dup hE dX6_init_179 rfl ?_
  refine j_bipush hE dX6_init_180 kb_20 ?_
  refine j_ldc2 hE q1625 dX6_init_182 ?_
  obtain ⟨n165, f166, h167, h168, hw⟩ := hw
  refine j_last hE h167 h168 dX6_init_185 ?_
  refine j_nw (fun w169 e_w169 => ?_)
  replace hw := hw w169 e_w169
  refine j_dup hE dX6_init_186 rfl ?_
  refine j_bipush hE dX6_init_187 kb_21 ?_
  refine j_ldc2 hE q1626 dX6_init_189 ?_
  obtain ⟨n170, f171, h172, h173, hw⟩ := hw
  refine j_last hE h172 h173 dX6_init_192 ?_
  refine j_nw (fun w174 e_w174 => ?_)
  replace hw := hw w174 e_w174
  refine j_dup hE dX6_init_193 rfl ?_
  refine j_bipush hE dX6_init_194 kb_22 ?_
  refine j_ldc2 hE q1627 dX6_init_196 ?_
  obtain ⟨n175, f176, h177, h178, hw⟩ := hw
  refine j_last hE h177 h178 dX6_init_199 ?_
  refine j_nw (fun w179 e_w179 => ?_)
  replace hw := hw w179 e_w179
  refine j_dup hE dX6_init_200 rfl ?_
  refine j_bipush hE dX6_init_201 kb_23 ?_
  refine j_ldc2 hE q1628 dX6_init_203 ?_
  obtain ⟨n180, f181, h182, h183, hw⟩ := hw
  refine j_last hE h182 h183 dX6_init_206 ?_
  refine j_nw (fun w184 e_w184 => ?_)
  replace hw := hw w184 e_w184
  refine j_dup hE dX6_init_207 rfl ?_
  refine j_bipush hE dX6_init_208 kb_24 ?_
  refine j_ldc2 hE q1629 dX6_init_210 ?_
  obtain ⟨n185, f186, h187, h188, hw⟩ := hw
  refine j_last hE h187 h188 dX6_init_213 ?_
  refine j_nw (fun w189 e_w189 => ?_)
  replace hw := hw w189 e_w189
  refine j_dup hE dX6_init_214 rfl ?_
  refine j_bipush hE dX6_init_215 kb_25 ?_
  refine j_ldc2 hE q1630 dX6_init_217 ?_
  obtain ⟨n190, f191, h192, h193, hw⟩ := hw
  refine j_last hE h192 h193 dX6_init_220 ?_
  refine j_nw (fun w194 e_w194 => ?_)
  replace hw := hw w194 e_w194
  obtain ⟨n195, fs196, h197, h198, h199, hw⟩ := hw
  refine j_putXF hE hini h198 gw_GlassStreetModel_words_X6 q1656 h197 rfl rfl h199 dX6_init_221 ?_
  refine j_nw (fun w200 e_w200 => ?_)
  replace hw := hw w200 e_w200
  refine j_aload_n hE 0 dX6_init_224 rfl rfl ?_
  refine j_bipush hE dX6_init_225 kb_120 ?_
  obtain ⟨h201, h202, h203, h204, hw⟩ := hw
  refine j_newarr hE (atype := .int) (t := 0) (by decide) rfl q276 h201 h202 ⟨h203, h204⟩ dX6_init_227 (fun qa206 h205 => ?_)
  replace hw := hw qa206 h205
  refine j_nw (fun w207 e_w207 => ?_)
  replace hw := hw w207 e_w207
  refine j_nb (fun b208 e_b208 => ?_)
  replace hw := hw b208 e_b208
  obtain ⟨n209, fs210, h211, h212, h213, hw⟩ := hw
  refine j_putXF hE hini h212 gw_GlassStreetModel_streets_X6 q1657 h211 rfl rfl h213 dX6_init_229 ?_
  refine j_nw (fun w214 e_w214 => ?_)
  replace hw := hw w214 e_w214
  refine j_aload_n hE 0 dX6_init_232 rfl rfl ?_
  refine j_sipush hE dX6_init_233 ks_2200 ?_
  obtain ⟨h215, h216, h217, h218, hw⟩ := hw
  refine j_newarr hE (atype := .int) (t := 0) (by decide) rfl q276 h215 h216 ⟨h217, h218⟩ dX6_init_236 (fun qa220 h219 => ?_)
  replace hw := hw qa220 h219
  refine j_nw (fun w221 e_w221 => ?_)
  replace hw := hw w221 e_w221
  refine j_nb (fun b222 e_b222 => ?_)
  replace hw := hw b222 e_b222
  obtain ⟨n223, fs224, h225, h226, h227, hw⟩ := hw
  refine j_putXF hE hini h226 gw_GlassStreetModel_op_X6 q1658 h225 rfl rfl h227 dX6_init_238 ?_
  refine j_nw (fun w228 e_w228 => ?_)
  replace hw := hw w228 e_w228
  refine j_aload_n hE 0 dX6_init_241 rfl rfl ?_
  refine j_sipush hE dX6_init_242 ks_2200 ?_
  obtain ⟨h229, h230, h231, h232, hw⟩ := hw
  refine j_newarr hE (atype := .int) (t := 0) (by decide) rfl q276 h229 h230 ⟨h231, h232⟩ dX6_init_245 (fun qa234 h233 => ?_)
  replace hw := hw qa234 h233
  refine j_nw (fun w235 e_w235 => ?_)
  replace hw := hw w235 e_w235
  refine j_nb (fun b236 e_b236 => ?_)
  replace hw := hw b236 e_b236
  obtain ⟨n237, fs238, h239, h240, h241, hw⟩ := hw
  refine j_putXF hE hini h240 gw_GlassStreetModel_arg_X6 q1659 h239 rfl rfl h241 dX6_init_247 ?_
  refine j_nw (fun w242 e_w242 => ?_)
  replace hw := hw w242 e_w242
  refine j_aload_n hE 0 dX6_init_250 rfl rfl ?_
  refine j_bipush hE dX6_init_251 kb_16 ?_
  obtain ⟨h243, h244, h245, h246, hw⟩ := hw
  refine j_newarr hE (atype := .long) (t := 2) (by decide) rfl q1741 h243 h244 ⟨h245, h246⟩ dX6_init_253 (fun qa248 h247 => ?_)
  replace hw := hw qa248 h247
  refine j_nw (fun w249 e_w249 => ?_)
  replace hw := hw w249 e_w249
  refine j_nb (fun b250 e_b250 => ?_)
  replace hw := hw b250 e_b250
  obtain ⟨n251, fs252, h253, h254, h255, hw⟩ := hw
  refine j_putXF hE hini h254 gw_GlassStreetModel_names_X6 q1661 h253 rfl rfl h255 dX6_init_255 ?_
  refine j_nw (fun w256 e_w256 => ?_)
  replace hw := hw w256 e_w256
  refine j_aload_n hE 0 dX6_init_258 rfl rfl ?_
  refine j_bipush hE dX6_init_259 kb_16 ?_
  obtain ⟨h257, h258, h259, h260, hw⟩ := hw
  refine j_newarr hE (atype := .long) (t := 2) (by decide) rfl q1741 h257 h258 ⟨h259, h260⟩ dX6_init_261 (fun qa262 h261 => ?_)
  replace hw := hw qa262 h261
  refine j_nw (fun w263 e_w263 => ?_)
  replace hw := hw w263 e_w263
  refine j_nb (fun b264 e_b264 => ?_)
  replace hw := hw b264 e_b264
  obtain ⟨n265, fs266, h267, h268, h269, hw⟩ := hw
  refine j_putXF hE hini h268 gw_GlassStreetModel_readNames_X6 q1662 h267 rfl rfl h269 dX6_init_263 ?_
  refine j_nw (fun w270 e_w270 => ?_)
  replace hw := hw w270 e_w270
  refine j_aload_n hE 0 dX6_init_266 rfl rfl ?_
  refine j_bipush hE dX6_init_267 kb_16 ?_
  obtain ⟨h271, h272, h273, h274, hw⟩ := hw
  refine j_newarr hE (atype := .int) (t := 0) (by decide) rfl q276 h271 h272 ⟨h273, h274⟩ dX6_init_269 (fun qa276 h275 => ?_)
  replace hw := hw qa276 h275
  refine j_nw (fun w277 e_w277 => ?_)
  replace hw := hw w277 e_w277
  refine j_nb (fun b278 e_b278 => ?_)
  replace hw := hw b278 e_b278
  obtain ⟨n279, fs280, h281, h282, h283, hw⟩ := hw
  refine j_putXF hE hini h282 gw_GlassStreetModel_nameOf_X6 q1663 h281 rfl rfl h283 dX6_init_271 ?_
  refine j_nw (fun w284 e_w284 => ?_)
  replace hw := hw w284 e_w284
  refine j_aload_n hE 0 dX6_init_274 rfl rfl ?_
  refine j_bipush hE dX6_init_275 kb_16 ?_
  obtain ⟨h285, h286, h287, h288, hw⟩ := hw
  refine j_newarr hE (atype := .int) (t := 0) (by decide) rfl q276 h285 h286 ⟨h287, h288⟩ dX6_init_277 (fun qa290 h289 => ?_)
  replace hw := hw qa290 h289
  refine j_nw (fun w291 e_w291 => ?_)
  replace hw := hw w291 e_w291
  refine j_nb (fun b292 e_b292 => ?_)
  replace hw := hw b292 e_b292
  obtain ⟨n293, fs294, h295, h296, h297, hw⟩ := hw
  refine j_putXF hE hini h296 gw_GlassStreetModel_readNameOf_X6 q1664 h295 rfl rfl h297 dX6_init_279 ?_
  refine j_nw (fun w298 e_w298 => ?_)
  replace hw := hw w298 e_w298
  refine j_aload_n hE 0 dX6_init_282 rfl rfl ?_
  refine j_sipush hE dX6_init_283 ks_250 ?_
  obtain ⟨h299, h300, h301, h302, hw⟩ := hw
  refine j_newarr hE (atype := .int) (t := 0) (by decide) rfl q276 h299 h300 ⟨h301, h302⟩ dX6_init_286 (fun qa304 h303 => ?_)
  replace hw := hw qa304 h303
  refine j_nw (fun w305 e_w305 => ?_)
  replace hw := hw w305 e_w305
  refine j_nb (fun b306 e_b306 => ?_)
  replace hw := hw b306 e_b306
  obtain ⟨n307, fs308, h309, h310, h311, hw⟩ := hw
  refine j_putXF hE hini h310 gw_GlassStreetModel_lines_X6 q1668 h309 rfl rfl h311 dX6_init_288 ?_
  refine j_nw (fun w312 e_w312 => ?_)
  replace hw := hw w312 e_w312
  refine j_aload_n hE 0 dX6_init_291 rfl rfl ?_
  refine j_iconst hE dX6_init_292 kc_4 ?_
  obtain ⟨h313, h314, h315, h316, hw⟩ := hw
  refine j_newarr hE (atype := .int) (t := 0) (by decide) rfl q276 h313 h314 ⟨h315, h316⟩ dX6_init_293 (fun qa318 h317 => ?_)
  replace hw := hw qa318 h317
  refine j_nw (fun w319 e_w319 => ?_)
  replace hw := hw w319 e_w319
  refine j_nb (fun b320 e_b320 => ?_)
  replace hw := hw b320 e_b320
  obtain ⟨n321, fs322, h323, h324, h325, hw⟩ := hw
  refine j_putXF hE hini h324 gw_GlassStreetModel_facts_X6 q1669 h323 rfl rfl h325 dX6_init_295 ?_
  refine j_nw (fun w326 e_w326 => ?_)
  replace hw := hw w326 e_w326
  refine j_aload_n hE 0 dX6_init_298 rfl rfl ?_
  refine j_sipush hE dX6_init_299 ks_1100 ?_
  obtain ⟨h327, h328, h329, h330, hw⟩ := hw
  refine j_newarr hE (atype := .int) (t := 0) (by decide) rfl q276 h327 h328 ⟨h329, h330⟩ dX6_init_302 (fun qa332 h331 => ?_)
  replace hw := hw qa332 h331
  refine j_nw (fun w333 e_w333 => ?_)
  replace hw := hw w333 e_w333
  refine j_nb (fun b334 e_b334 => ?_)
  replace hw := hw b334 e_b334
  obtain ⟨n335, fs336, h337, h338, h339, hw⟩ := hw
  refine j_putXF hE hini h338 gw_GlassStreetModel_pile_X6 q1670 h337 rfl rfl h339 dX6_init_304 ?_
  refine j_nw (fun w340 e_w340 => ?_)
  replace hw := hw w340 e_w340
  refine j_aload_n hE 0 dX6_init_307 rfl rfl ?_
  refine j_sipush hE dX6_init_308 ks_1518 ?_
  obtain ⟨h341, h342, h343, h344, hw⟩ := hw
  refine j_newarr hE (atype := .int) (t := 0) (by decide) rfl q276 h341 h342 ⟨h343, h344⟩ dX6_init_311 (fun qa346 h345 => ?_)
  replace hw := hw qa346 h345
  refine j_nw (fun w347 e_w347 => ?_)
  replace hw := hw w347 e_w347
  refine j_nb (fun b348 e_b348 => ?_)
  replace hw := hw b348 e_b348
  obtain ⟨n349, fs350, h351, h352, h353, hw⟩ := hw
  refine j_putXF hE hini h352 gw_GlassStreetModel_state_X6 q1671 h351 rfl rfl h353 dX6_init_313 ?_
  refine j_nw (fun w354 e_w354 => ?_)
  replace hw := hw w354 e_w354
  refine j_aload_n hE 0 dX6_init_316 rfl rfl ?_
  refine j_iconst hE dX6_init_317 kc_4 ?_
  obtain ⟨h355, h356, h357, h358, hw⟩ := hw
  refine j_newarr hE (atype := .boolean) (t := 3) (by decide) rfl q1742 h355 h356 ⟨h357, h358⟩ dX6_init_318 (fun qa360 h359 => ?_)
  replace hw := hw qa360 h359
  refine j_nw (fun w361 e_w361 => ?_)
  replace hw := hw w361 e_w361
  refine j_nb (fun b362 e_b362 => ?_)
  replace hw := hw b362 e_b362
  obtain ⟨n363, fs364, h365, h366, h367, hw⟩ := hw
  refine j_putXF hE hini h366 gw_GlassStreetModel_isNotched_X6 q1673 h365 rfl rfl h367 dX6_init_320 ?_
  refine j_nw (fun w368 e_w368 => ?_)
  replace hw := hw w368 e_w368
  refine j_aload_n hE 0 dX6_init_323 rfl rfl ?_
  refine j_iconst hE dX6_init_324 kc_0 ?_
  obtain ⟨ad369, m370, r371, hA, hw9, hx9, hw⟩ := hw
  rw [hw9, hx9]
  refine jm_cV hE hA hR (As := [.int ((0 : Int32))]) (rest := []) (ctX6_standsAsAlways E.1.2.1 E.2.2.1 hA _ _ _  _ hw) rfl lkX6_standsAsAlways jdX6_standsAsAlways ⟨Nat.le_of_ble_eq_true rfl, Nat.le_of_ble_eq_true rfl⟩ rfl (Nat.le_of_ble_eq_true rfl) dX6_init_325 (fun m372 hw => ?_)
  rw [← hx9]
  refine j_nw (fun w373 e_w373 => ?_)
  replace hw := hw w373 e_w373
  refine j_aload_n hE 0 dX6_init_328 rfl rfl ?_
  obtain ⟨ad374, m375, r376, hA, hw9, hx9, hw⟩ := hw
  rw [hw9, hx9]
  refine jm_cV hE hA hR (As := []) (rest := []) (ctX6_begins E.1.2.1 E.2.2.1 hA _ _  _ hw) rfl lkX6_begins jdX6_begins ⟨Nat.le_of_ble_eq_true rfl, Nat.le_of_ble_eq_true rfl⟩ rfl (Nat.le_of_ble_eq_true rfl) dX6_init_329 (fun m377 hw => ?_)
  rw [← hx9]
  refine j_nw (fun w378 e_w378 => ?_)
  replace hw := hw w378 e_w378
  exact j_vret hE hK dX6_init_332 hw
theorem jdX6_init : jD yX6_init 0 := by decide +kernel
abbrev wX6_init := wX6_init_0
theorem ctX6_init (l : Launch) (G : gG) {c : Nat → Option Nat} (hc : G.2.2.2 = c) (x0 : Nat) (w : GW) (bb : Nat × Nat) (K : GW → Prop) (hw : wX6_init_0 c x0 w bb K) {F2 L2 : Nat} (h2 : 3 ≤ F2 ∧ 63 ≤ L2 := by exact ⟨Nat.le_refl _, Nat.le_refl _⟩) : CtV l yX6_init cX6_init 1 ({ frames := F2, cells := bb.1, slots := bb.2, locals := L2 }) G [.ref (x0)] w (K) :=
  CtV.ofI RX6 plainc_X6 rfl rfl (Nat.le_of_ble_eq_true rfl) (fun E hE hini hl hG hn hR hK => bX6_init_0 hE hn (hR.le h2.1 h2.2) (by rw [hG]; exact hc) hini hK hw)
