def wX5_goes_2_b (c : Nat → Option Nat) (x0 : Nat) (x2 : Int32) (w : GW) (KL2 : Int32 × GW → Prop) (K : GW → Prop) : Prop :=
  ∃ f1 : Int32, gfm w x0 [4] 4 = some (.int f1) ∧ ((f1 ≤ (x2 + ((1 : Int32))) → (∃ f4 : Int32, gfm w x0 [4] 4 = some (.int f4) ∧ (∃ (n6 : Nat) (fs7 : List Value), w x0 = some (true, .inr (n6, fs7)) ∧ n6 ∈ ([4] : List Nat) ∧ 4 < fs7.length ∧ (∀ w11 : GW, w11 = gup w x0 (.inr (n6, fs7.set 4 (.int (f4 - ((1 : Int32)))))) → (K w11))))) ∧ (¬ f1 ≤ (x2 + ((1 : Int32))) → (∃ f12 : Option Nat, gfm w x0 [4] 0 = some (va_rf f12) ∧ (∃ f14 : Option Nat, gfm w x0 [4] 0 = some (va_rf f14) ∧ (∃ a16 : Nat, f14 = some a16 ∧ (∃ (n17 : Nat) (f18 : Nat → Int32), gai w a16 0 = some (n17, f18) ∧ vp_in (x2 + ((1 : Int32))) n17 ∧ (∃ a21 : Nat, f12 = some a21 ∧ (∃ (n22 : Nat) (f23 : Nat → Int32), w a21 = some (true, .inl (0, n22, .inl f23)) ∧ vp_in x2 n22 ∧ (∀ w26 : GW, w26 = gup w a21 (.inl (0, n22, .inl (upd f23 (x2).toNatClampNeg (rd f18 (x2 + ((1 : Int32))))))) → (∃ f27 : Option Nat, gfm w26 x0 [4] 1 = some (va_rf f27) ∧ (∃ f29 : Option Nat, gfm w26 x0 [4] 1 = some (va_rf f29) ∧ (∃ a31 : Nat, f29 = some a31 ∧ (∃ (n32 : Nat) (f33 : Nat → Int32), gai w26 a31 0 = some (n32, f33) ∧ vp_in (x2 + ((1 : Int32))) n32 ∧ (∃ a36 : Nat, f27 = some a36 ∧ (∃ (n37 : Nat) (f38 : Nat → Int32), w26 a36 = some (true, .inl (0, n37, .inl f38)) ∧ vp_in x2 n37 ∧ (∀ w41 : GW, w41 = gup w26 a36 (.inl (0, n37, .inl (upd f38 (x2).toNatClampNeg (rd f33 (x2 + ((1 : Int32))))))) → (∃ f42 : Option Nat, gfm w41 x0 [4] 2 = some (va_rf f42) ∧ (∃ f44 : Option Nat, gfm w41 x0 [4] 2 = some (va_rf f44) ∧ (∃ a46 : Nat, f44 = some a46 ∧ (∃ (n47 : Nat) (f48 : Nat → Int32), gai w41 a46 0 = some (n47, f48) ∧ vp_in (x2 + ((1 : Int32))) n47 ∧ (∃ a51 : Nat, f42 = some a51 ∧ (∃ (n52 : Nat) (f53 : Nat → Int32), w41 a51 = some (true, .inl (0, n52, .inl f53)) ∧ vp_in x2 n52 ∧ (∀ w56 : GW, w56 = gup w41 a51 (.inl (0, n52, .inl (upd f53 (x2).toNatClampNeg (rd f48 (x2 + ((1 : Int32))))))) → (∃ f57 : Option Nat, gfm w56 x0 [4] 3 = some (va_rf f57) ∧ (∃ f59 : Option Nat, gfm w56 x0 [4] 3 = some (va_rf f59) ∧ (∃ a61 : Nat, f59 = some a61 ∧ (∃ (n62 : Nat) (f63 : Nat → Int32), gai w56 a61 0 = some (n62, f63) ∧ vp_in (x2 + ((1 : Int32))) n62 ∧ (∃ a66 : Nat, f57 = some a66 ∧ (∃ (n67 : Nat) (f68 : Nat → Int32), w56 a66 = some (true, .inl (0, n67, .inl f68)) ∧ vp_in x2 n67 ∧ (∀ w71 : GW, w71 = gup w56 a66 (.inl (0, n67, .inl (upd f68 (x2).toNatClampNeg (rd f63 (x2 + ((1 : Int32))))))) → (KL2 ((x2 + 1), w71))))))))))))))))))))))))))))))))
def wX5_goes_2 (c : Nat → Option Nat) (x0 : Nat) (x2 : Int32) (w : GW) (K : GW → Prop) : Prop := lfp (σ := Int32 × GW) (fun KL s => wX5_goes_2_b c x0 s.1 s.2 KL K) (x2, w)
set_option maxRecDepth 100000 in
theorem bX5_goes_2 {E : jE} (hE : jOk E cX5_goes RX5) (hn : E.2.2.2.2 = 3) (hR : jRoom E 0 0) {c : Nat → Option Nat} (hc : E.2.2.1.2.2.2 = c) {b : Nat × Nat} {K : GW → Prop} (hK : jRv E (K)) {x0 : Nat} {x2 : Int32} {w : GW}  (hw : wX5_goes_2 c x0 x2 w K) : J E w b [(0, .ref (x0)), (2, .int (x2))] 2 [] := by
  refine lfp_sound (σ := Int32 × GW) (F := fun KL s => wX5_goes_2_b c x0 s.1 s.2 KL K) (P := fun s => J E (s.2) b [(0, .ref (x0)), (2, .int (s.1))] 2 []) ?_ hw
  clear hw
  rintro KL2 ⟨x2, w⟩ hw ih2
  have hw : wX5_goes_2_b c x0 x2 w KL2 K := hw
  unfold wX5_goes_2_b at hw
  refine j_iload_n hE 1 dX5_goes_2 rfl rfl ?_
  refine j_iconst hE dX5_goes_3 kc_1 ?_
  refine j_iadd hE dX5_goes_4 ?_
  refine j_aload_n hE 0 dX5_goes_5 rfl rfl ?_
  obtain ⟨f1, h2, hw⟩ := hw
  refine j_getM hE gf_GlassStreet_Marks_many q301 h2 dX5_goes_6 ?_
  refine j_icmp_ge hE 74 dX5_goes_9 (by decide) (fun c3 => ?_) (fun c3 => ?_)
  · replace hw := hw.1 c3
    refine j_aload_n hE 0 dX5_goes_74 rfl rfl ?_
    refine j_dup hE dX5_goes_75 rfl ?_
    obtain ⟨f4, h5, hw⟩ := hw
    refine j_getM hE gf_GlassStreet_Marks_many q301 h5 dX5_goes_76 ?_
    refine j_iconst hE dX5_goes_79 kc_1 ?_
    refine j_isub hE dX5_goes_80 ?_
    obtain ⟨n6, fs7, h8, h9, h10, hw⟩ := hw
    refine j_putX hE h9 gw_GlassStreet_Marks_many_X5 q301 h8 rfl rfl h10 dX5_goes_81 ?_
    refine j_nw (fun w11 e_w11 => ?_)
    replace hw := hw w11 e_w11
    exact j_vret hE hK dX5_goes_84 hw
  · replace hw := hw.2 c3
    refine j_aload_n hE 0 dX5_goes_12 rfl rfl ?_
    obtain ⟨f12, h13, hw⟩ := hw
    refine j_getM hE gf_GlassStreet_Marks_who q292 h13 dX5_goes_13 ?_
    refine j_iload_n hE 1 dX5_goes_16 rfl rfl ?_
    refine j_aload_n hE 0 dX5_goes_17 rfl rfl ?_
    obtain ⟨f14, h15, hw⟩ := hw
    refine j_getM hE gf_GlassStreet_Marks_who q292 h15 dX5_goes_18 ?_
    refine j_iload_n hE 1 dX5_goes_21 rfl rfl ?_
    refine j_iconst hE dX5_goes_22 kc_1 ?_
    refine j_iadd hE dX5_goes_23 ?_
    obtain ⟨a16, e9, hx⟩ := hw
    subst e9
    have hw := hx
    clear hx
    obtain ⟨n17, f18, h19, h20, hw⟩ := hw
    refine j_aldI hE h19 h20 dX5_goes_24 ?_
    obtain ⟨a21, e9, hx⟩ := hw
    subst e9
    have hw := hx
    clear hx
    obtain ⟨n22, f23, h24, h25, hw⟩ := hw
    refine j_iast hE h24 h25 dX5_goes_25 ?_
    refine j_nw (fun w26 e_w26 => ?_)
    replace hw := hw w26 e_w26
    refine j_aload_n hE 0 dX5_goes_26 rfl rfl ?_
    obtain ⟨f27, h28, hw⟩ := hw
    refine j_getM hE gf_GlassStreet_Marks_deed q294 h28 dX5_goes_27 ?_
    refine j_iload_n hE 1 dX5_goes_30 rfl rfl ?_
    refine j_aload_n hE 0 dX5_goes_31 rfl rfl ?_
    obtain ⟨f29, h30, hw⟩ := hw
    refine j_getM hE gf_GlassStreet_Marks_deed q294 h30 dX5_goes_32 ?_
    refine j_iload_n hE 1 dX5_goes_35 rfl rfl ?_
    refine j_iconst hE dX5_goes_36 kc_1 ?_
    refine j_iadd hE dX5_goes_37 ?_
    obtain ⟨a31, e9, hx⟩ := hw
    subst e9
    have hw := hx
    clear hx
    obtain ⟨n32, f33, h34, h35, hw⟩ := hw
    refine j_aldI hE h34 h35 dX5_goes_38 ?_
    obtain ⟨a36, e9, hx⟩ := hw
    subst e9
    have hw := hx
    clear hx
    obtain ⟨n37, f38, h39, h40, hw⟩ := hw
    refine j_iast hE h39 h40 dX5_goes_39 ?_
    refine j_nw (fun w41 e_w41 => ?_)
    replace hw := hw w41 e_w41
    refine j_aload_n hE 0 dX5_goes_40 rfl rfl ?_
    obtain ⟨f42, h43, hw⟩ := hw
    refine j_getM hE gf_GlassStreet_Marks_cell q296 h43 dX5_goes_41 ?_
    refine j_iload_n hE 1 dX5_goes_44 rfl rfl ?_
    refine j_aload_n hE 0 dX5_goes_45 rfl rfl ?_
    obtain ⟨f44, h45, hw⟩ := hw
    refine j_getM hE gf_GlassStreet_Marks_cell q296 h45 dX5_goes_46 ?_
    refine j_iload_n hE 1 dX5_goes_49 rfl rfl ?_
    refine j_iconst hE dX5_goes_50 kc_1 ?_
    refine j_iadd hE dX5_goes_51 ?_
    obtain ⟨a46, e9, hx⟩ := hw
    subst e9
    have hw := hx
    clear hx
    obtain ⟨n47, f48, h49, h50, hw⟩ := hw
    refine j_aldI hE h49 h50 dX5_goes_52 ?_
    obtain ⟨a51, e9, hx⟩ := hw
    subst e9
    have hw := hx
    clear hx
    obtain ⟨n52, f53, h54, h55, hw⟩ := hw
    refine j_iast hE h54 h55 dX5_goes_53 ?_
    refine j_nw (fun w56 e_w56 => ?_)
    replace hw := hw w56 e_w56
    refine j_aload_n hE 0 dX5_goes_54 rfl rfl ?_
    obtain ⟨f57, h58, hw⟩ := hw
    refine j_getM hE gf_GlassStreet_Marks_age q298 h58 dX5_goes_55 ?_
    refine j_iload_n hE 1 dX5_goes_58 rfl rfl ?_
    refine j_aload_n hE 0 dX5_goes_59 rfl rfl ?_
    obtain ⟨f59, h60, hw⟩ := hw
    refine j_getM hE gf_GlassStreet_Marks_age q298 h60 dX5_goes_60 ?_
    refine j_iload_n hE 1 dX5_goes_63 rfl rfl ?_
    refine j_iconst hE dX5_goes_64 kc_1 ?_
    refine j_iadd hE dX5_goes_65 ?_
    obtain ⟨a61, e9, hx⟩ := hw
    subst e9
    have hw := hx
    clear hx
    obtain ⟨n62, f63, h64, h65, hw⟩ := hw
    refine j_aldI hE h64 h65 dX5_goes_66 ?_
    obtain ⟨a66, e9, hx⟩ := hw
    subst e9
    have hw := hx
    clear hx
    obtain ⟨n67, f68, h69, h70, hw⟩ := hw
    refine j_iast hE h69 h70 dX5_goes_67 ?_
    refine j_nw (fun w71 e_w71 => ?_)
    replace hw := hw w71 e_w71
    refine j_iinc (L' := [(2, .int (x2 + 1)), (0, .ref (x0))]) hE hn 1 dX5_goes_68 rfl (congrArg (x2 + ·) kc_1) (Nat.le_of_ble_eq_true rfl) rfl ?_
    refine j_goto hE 2 dX5_goes_71 (by decide) ?_
    refine j_sub [(0, .ref (x0)), (2, .int (x2 + 1))] [1, 0] rfl ?_
    have hz := ih2 ((x2 + 1), w71) hw
    exact hz
def wX5_goes_0 (c : Nat → Option Nat) (x0 : Nat) (x1 : Int32) (w : GW) (K : GW → Prop) : Prop :=
  wX5_goes_2 c x0 x1 w K
set_option maxRecDepth 100000 in
theorem bX5_goes_0 {E : jE} (hE : jOk E cX5_goes RX5) (hn : E.2.2.2.2 = 3) (hR : jRoom E 0 0) {c : Nat → Option Nat} (hc : E.2.2.1.2.2.2 = c) {b : Nat × Nat} {K : GW → Prop} (hK : jRv E (K)) {x0 : Nat} {x1 : Int32} {w : GW}  (hw : wX5_goes_0 c x0 x1 w K) : J E w b [(0, .ref (x0)), (1, .int (x1))] 0 [] := by
  unfold wX5_goes_0 at hw
  refine j_iload_n hE 1 dX5_goes_0 rfl rfl ?_
  refine j_istore_n (L' := [(2, .int (x1)), (0, .ref (x0)), (1, .int (x1))]) hE hn dX5_goes_1 rfl (Nat.le_of_ble_eq_true rfl) rfl ?_
  refine j_sub [(0, .ref (x0)), (2, .int (x1))] [1, 0] rfl ?_
  have hz := bX5_goes_2 (b := b) hE hn hR hc hK  hw
  exact hz
theorem jdX5_goes : jD yX5_goes 1 := by decide +kernel
abbrev wX5_goes := wX5_goes_0
theorem ctX5_goes (l : Launch) (G : gG) {c : Nat → Option Nat} (hc : G.2.2.2 = c) (x0 : Nat) (x1 : Int32) (w : GW) (K : GW → Prop) (hw : wX5_goes_0 c x0 x1 w K) {F2 L2 : Nat} (h2 : 0 ≤ F2 ∧ 0 ≤ L2 := by exact ⟨Nat.le_refl _, Nat.le_refl _⟩) : CtV l yX5_goes cX5_goes 3 ({ frames := F2, cells := 0, slots := 0, locals := L2 }) G [.ref (x0), .int (x1)] w (K) :=
  CtV.of RX5 plainc_X5 rfl (Nat.le_of_ble_eq_true rfl) (fun E hE hl hG hn hR hK => bX5_goes_0 hE hn (hR.le h2.1 h2.2) (by rw [hG]; exact hc) hK hw)
def wX5_comes_14 (c : Nat → Option Nat) (x0 : Nat) (x1 : Int32) (x2 : Int32) (x3 : Int32) (w : GW) (K : GW → Prop) : Prop :=
  ∃ f1 : Option Nat, gfm w x0 [4] 0 = some (va_rf f1) ∧ (∃ f3 : Int32, gfm w x0 [4] 4 = some (.int f3) ∧ (∃ a5 : Nat, f1 = some a5 ∧ (∃ (n6 : Nat) (f7 : Nat → Int32), w a5 = some (true, .inl (0, n6, .inl f7)) ∧ vp_in f3 n6 ∧ (∀ w10 : GW, w10 = gup w a5 (.inl (0, n6, .inl (upd f7 (f3).toNatClampNeg x1))) → (∃ f11 : Option Nat, gfm w10 x0 [4] 1 = some (va_rf f11) ∧ (∃ f13 : Int32, gfm w10 x0 [4] 4 = some (.int f13) ∧ (∃ a15 : Nat, f11 = some a15 ∧ (∃ (n16 : Nat) (f17 : Nat → Int32), w10 a15 = some (true, .inl (0, n16, .inl f17)) ∧ vp_in f13 n16 ∧ (∀ w20 : GW, w20 = gup w10 a15 (.inl (0, n16, .inl (upd f17 (f13).toNatClampNeg x2))) → (∃ f21 : Option Nat, gfm w20 x0 [4] 2 = some (va_rf f21) ∧ (∃ f23 : Int32, gfm w20 x0 [4] 4 = some (.int f23) ∧ (∃ a25 : Nat, f21 = some a25 ∧ (∃ (n26 : Nat) (f27 : Nat → Int32), w20 a25 = some (true, .inl (0, n26, .inl f27)) ∧ vp_in f23 n26 ∧ (∀ w30 : GW, w30 = gup w20 a25 (.inl (0, n26, .inl (upd f27 (f23).toNatClampNeg x3))) → (∃ f31 : Option Nat, gfm w30 x0 [4] 3 = some (va_rf f31) ∧ (∃ f33 : Int32, gfm w30 x0 [4] 4 = some (.int f33) ∧ (∃ (n35 : Nat) (fs36 : List Value), w30 x0 = some (true, .inr (n35, fs36)) ∧ n35 ∈ ([4] : List Nat) ∧ 4 < fs36.length ∧ (∀ w40 : GW, w40 = gup w30 x0 (.inr (n35, fs36.set 4 (.int (f33 + ((1 : Int32)))))) → (∃ a41 : Nat, f31 = some a41 ∧ (∃ (n42 : Nat) (f43 : Nat → Int32), w40 a41 = some (true, .inl (0, n42, .inl f43)) ∧ vp_in f33 n42 ∧ (∀ w46 : GW, w46 = gup w40 a41 (.inl (0, n42, .inl (upd f43 (f33).toNatClampNeg ((0 : Int32))))) → (K w46))))))))))))))))))))))
set_option maxRecDepth 100000 in
theorem bX5_comes_14 {E : jE} (hE : jOk E cX5_comes RX5) (hn : E.2.2.2.2 = 5) (hR : jRoom E 1 22) {c : Nat → Option Nat} (hc : E.2.2.1.2.2.2 = c) {b : Nat × Nat} {K : GW → Prop} (hK : jRv E (K)) {x0 : Nat} {x1 : Int32} {x2 : Int32} {x3 : Int32} {w : GW}  (hw : wX5_comes_14 c x0 x1 x2 x3 w K) : J E w b [(0, .ref (x0)), (1, .int (x1)), (2, .int (x2)), (3, .int (x3))] 14 [] := by
  unfold wX5_comes_14 at hw
  refine j_aload_n hE 0 dX5_comes_14 rfl rfl ?_
  obtain ⟨f1, h2, hw⟩ := hw
  refine j_getM hE gf_GlassStreet_Marks_who q292 h2 dX5_comes_15 ?_
  refine j_aload_n hE 0 dX5_comes_18 rfl rfl ?_
  obtain ⟨f3, h4, hw⟩ := hw
  refine j_getM hE gf_GlassStreet_Marks_many q301 h4 dX5_comes_19 ?_
  refine j_iload_n hE 1 dX5_comes_22 rfl rfl ?_
  obtain ⟨a5, e9, hx⟩ := hw
  subst e9
  have hw := hx
  clear hx
  obtain ⟨n6, f7, h8, h9, hw⟩ := hw
  refine j_iast hE h8 h9 dX5_comes_23 ?_
  refine j_nw (fun w10 e_w10 => ?_)
  replace hw := hw w10 e_w10
  refine j_aload_n hE 0 dX5_comes_24 rfl rfl ?_
  obtain ⟨f11, h12, hw⟩ := hw
  refine j_getM hE gf_GlassStreet_Marks_deed q294 h12 dX5_comes_25 ?_
  refine j_aload_n hE 0 dX5_comes_28 rfl rfl ?_
  obtain ⟨f13, h14, hw⟩ := hw
  refine j_getM hE gf_GlassStreet_Marks_many q301 h14 dX5_comes_29 ?_
  refine j_iload_n hE 2 dX5_comes_32 rfl rfl ?_
  obtain ⟨a15, e9, hx⟩ := hw
  subst e9
  have hw := hx
  clear hx
  obtain ⟨n16, f17, h18, h19, hw⟩ := hw
  refine j_iast hE h18 h19 dX5_comes_33 ?_
  refine j_nw (fun w20 e_w20 => ?_)
  replace hw := hw w20 e_w20
  refine j_aload_n hE 0 dX5_comes_34 rfl rfl ?_
  obtain ⟨f21, h22, hw⟩ := hw
  refine j_getM hE gf_GlassStreet_Marks_cell q296 h22 dX5_comes_35 ?_
  refine j_aload_n hE 0 dX5_comes_38 rfl rfl ?_
  obtain ⟨f23, h24, hw⟩ := hw
  refine j_getM hE gf_GlassStreet_Marks_many q301 h24 dX5_comes_39 ?_
  refine j_iload_n hE 3 dX5_comes_42 rfl rfl ?_
  obtain ⟨a25, e9, hx⟩ := hw
  subst e9
  have hw := hx
  clear hx
  obtain ⟨n26, f27, h28, h29, hw⟩ := hw
  refine j_iast hE h28 h29 dX5_comes_43 ?_
  refine j_nw (fun w30 e_w30 => ?_)
  replace hw := hw w30 e_w30
  refine j_aload_n hE 0 dX5_comes_44 rfl rfl ?_
  obtain ⟨f31, h32, hw⟩ := hw
  refine j_getM hE gf_GlassStreet_Marks_age q298 h32 dX5_comes_45 ?_
  refine j_aload_n hE 0 dX5_comes_48 rfl rfl ?_
  refine j_dup hE dX5_comes_49 rfl ?_
  obtain ⟨f33, h34, hw⟩ := hw
  refine j_getM hE gf_GlassStreet_Marks_many q301 h34 dX5_comes_50 ?_
  refine j_dup_x1 hE dX5_comes_53 rfl rfl ?_
  refine j_iconst hE dX5_comes_54 kc_1 ?_
  refine j_iadd hE dX5_comes_55 ?_
  obtain ⟨n35, fs36, h37, h38, h39, hw⟩ := hw
  refine j_putX hE h38 gw_GlassStreet_Marks_many_X5 q301 h37 rfl rfl h39 dX5_comes_56 ?_
  refine j_nw (fun w40 e_w40 => ?_)
  replace hw := hw w40 e_w40
  refine j_iconst hE dX5_comes_59 kc_0 ?_
  obtain ⟨a41, e9, hx⟩ := hw
  subst e9
  have hw := hx
  clear hx
  obtain ⟨n42, f43, h44, h45, hw⟩ := hw
  refine j_iast hE h44 h45 dX5_comes_60 ?_
  refine j_nw (fun w46 e_w46 => ?_)
  replace hw := hw w46 e_w46
  exact j_vret hE hK dX5_comes_61 hw
def wX5_comes_0 (c : Nat → Option Nat) (x0 : Nat) (x1 : Int32) (x2 : Int32) (x3 : Int32) (x4 : Int32) (w : GW) (K : GW → Prop) : Prop :=
  ∃ f1 : Int32, gfm w x0 [4] 4 = some (.int f1) ∧ ((¬ f1 = x4 → (wX5_comes_14 c x0 x1 x2 x3 w K)) ∧ (f1 = x4 → (gmc w x0 = some 4 ∧ (wX5_goes c x0 ((0 : Int32)) w (fun w5 => wX5_comes_14 c x0 x1 x2 x3 w5 K)))))
set_option maxRecDepth 100000 in
theorem bX5_comes_0 {E : jE} (hE : jOk E cX5_comes RX5) (hn : E.2.2.2.2 = 5) (hR : jRoom E 1 22) {c : Nat → Option Nat} (hc : E.2.2.1.2.2.2 = c) {b : Nat × Nat} {K : GW → Prop} (hK : jRv E (K)) {x0 : Nat} {x1 : Int32} {x2 : Int32} {x3 : Int32} {x4 : Int32} {w : GW}  (hw : wX5_comes_0 c x0 x1 x2 x3 x4 w K) : J E w b [(0, .ref (x0)), (1, .int (x1)), (2, .int (x2)), (3, .int (x3)), (4, .int (x4))] 0 [] := by
  unfold wX5_comes_0 at hw
  refine j_aload_n hE 0 dX5_comes_0 rfl rfl ?_
  obtain ⟨f1, h2, hw⟩ := hw
  refine j_getM hE gf_GlassStreet_Marks_many q301 h2 dX5_comes_1 ?_
  refine j_iload hE 4 dX5_comes_4 rfl ?_
  refine j_icmp_ne hE 14 dX5_comes_6 (by decide) (fun c3 => ?_) (fun c3 => ?_)
  · replace hw := hw.1 c3
    refine j_sub [(0, .ref (x0)), (1, .int (x1)), (2, .int (x2)), (3, .int (x3))] [0, 1, 2, 3] rfl ?_
    have hz := bX5_comes_14 (b := b) hE hn hR hc hK  hw
    exact hz
  · replace hw := hw.2 c3
    refine j_aload_n hE 0 dX5_comes_9 rfl rfl ?_
    refine j_iconst hE dX5_comes_10 kc_0 ?_
    obtain ⟨h4, hw⟩ := hw
    refine jc_v (jr_V hE hR (As := [.int ((0 : Int32))]) (rest := []) ((ctX5_goes E.1.2.1 E.2.2.1 hc _ _ _ _ hw) E.2.2.2.1) (lw_V q1290 q1291 q1292 q128 q1293) jdX5_goes ⟨Nat.le_of_ble_eq_true rfl, Nat.le_of_ble_eq_true rfl⟩ ⟨Nat.zero_le _, Nat.zero_le _⟩ (gmc_gIs h4 (r := (RX5, TX5, 5)) rfl) rfl (Nat.le_of_ble_eq_true rfl) dX5_comes_11) (fun w5 hw => ?_)
    refine j_b0 ?_
    refine j_sub [(0, .ref (x0)), (1, .int (x1)), (2, .int (x2)), (3, .int (x3))] [0, 1, 2, 3] rfl ?_
    have hz := bX5_comes_14 (b := b) hE hn hR hc hK  hw
    exact hz
theorem jdX5_comes : jD yX5_comes 4 := by decide +kernel
abbrev wX5_comes := wX5_comes_0
theorem ctX5_comes (l : Launch) (G : gG) {c : Nat → Option Nat} (hc : G.2.2.2 = c) (x0 : Nat) (x1 : Int32) (x2 : Int32) (x3 : Int32) (x4 : Int32) (w : GW) (K : GW → Prop) (hw : wX5_comes_0 c x0 x1 x2 x3 x4 w K) {F2 L2 : Nat} (h2 : 1 ≤ F2 ∧ 22 ≤ L2 := by exact ⟨Nat.le_refl _, Nat.le_refl _⟩) : CtV l yX5_comes cX5_comes 5 ({ frames := F2, cells := 0, slots := 0, locals := L2 }) G [.ref (x0), .int (x1), .int (x2), .int (x3), .int (x4)] w (K) :=
  CtV.of RX5 plainc_X5 rfl (Nat.le_of_ble_eq_true rfl) (fun E hE hl hG hn hR hK => bX5_comes_0 hE hn (hR.le h2.1 h2.2) (by rw [hG]; exact hc) hK hw)
def wX1_done_16_b (c : Nat → Option Nat) (x0 : Nat) (x1 : Nat) (x2 : Int32) (x3 : Int32) (x4 : Int32) (x5 : Int32) (w : GW) (KL16 : Int32 × GW → Prop) (K : Int32 → GW → Prop) : Prop :=
  gmc w x0 = some 0 ∧ (wX1_panes c x0 w (fun r1 => (r1 ≤ x5 → (K x4 w)) ∧ (¬ r1 ≤ x5 → (wX1_isIn c x4 x5 w (fun r4 => (r4 = 0 → (KL16 ((x5 + 1), w))) ∧ (¬ r4 = 0 → (∃ f6 : Option Nat, gfm w x1 [3] 1 = some (va_rf f6) ∧ (∃ a8 : Nat, f6 = some a8 ∧ (∃ (n9 : Nat) (f10 : Nat → Option Nat), gaq w a8 5 = some (n9, f10) ∧ vp_in x5 n9 ∧ (∀ r13 : Option Nat, f10 (x5).toNatClampNeg = r13 → (∃ f14 : Option Nat, gfm w x1 [3] 0 = some (va_rf f14) ∧ (∃ a16 : Nat, f14 = some a16 ∧ (∃ (n17 : Nat) (f18 : Nat → Int32), gai w a16 0 = some (n17, f18) ∧ vp_in x2 n17 ∧ (gmc w x0 = some 0 ∧ (wX1_pane_2 c x0 x5 w (fun r21 => ∃ a23 : Nat, r21 = some a23 ∧ (∃ f24 : Int32, gfm w a23 [7, 8, 9, 10] 1 = some (.int f24) ∧ (∃ a26 : Nat, r13 = some a26 ∧ (gmc w a26 = some 4 ∧ (wX5_comes c a26 x2 x3 (rd f18 x2) f24 w (fun w28 => KL16 ((x5 + 1), w28))))))))))))))))))))))
def wX1_done_16 (c : Nat → Option Nat) (x0 : Nat) (x1 : Nat) (x2 : Int32) (x3 : Int32) (x4 : Int32) (x5 : Int32) (w : GW) (K : Int32 → GW → Prop) : Prop := lfp (σ := Int32 × GW) (fun KL s => wX1_done_16_b c x0 x1 x2 x3 x4 s.1 s.2 KL K) (x5, w)
set_option maxRecDepth 100000 in
theorem bX1_done_16 {E : jE} (hE : jOk E cX1_done RX1) (hn : E.2.2.2.2 = 6) (hR : jRoom E 6 131) {c : Nat → Option Nat} (hc : E.2.2.1.2.2.2 = c) {b : Nat × Nat} {K : Int32 → GW → Prop} (hK : jRi E .int (K)) {x0 : Nat} {x1 : Nat} {x2 : Int32} {x3 : Int32} {x4 : Int32} {x5 : Int32} {w : GW}  (hw : wX1_done_16 c x0 x1 x2 x3 x4 x5 w K) : J E w b [(0, .ref (x0)), (1, .ref (x1)), (2, .int (x2)), (3, .int (x3)), (4, .int (x4)), (5, .int (x5))] 16 [] := by
  refine lfp_sound (σ := Int32 × GW) (F := fun KL s => wX1_done_16_b c x0 x1 x2 x3 x4 s.1 s.2 KL K) (P := fun s => J E (s.2) b [(0, .ref (x0)), (1, .ref (x1)), (2, .int (x2)), (3, .int (x3)), (4, .int (x4)), (5, .int (s.1))] 16 []) ?_ hw
  clear hw
  rintro KL16 ⟨x5, w⟩ hw ih16
  have hw : wX1_done_16_b c x0 x1 x2 x3 x4 x5 w KL16 K := hw
  unfold wX1_done_16_b at hw
  refine j_iload hE 5 dX1_done_16 rfl ?_
  refine j_aload_n hE 0 dX1_done_18 rfl rfl ?_
  obtain ⟨h2, hw⟩ := hw
  refine jc_ip (jr_V hE hR (As := []) (rest := [.int (x5)]) ((ctX1_panes E.1.2.1 E.2.2.1 hc _ _ _ hw) E.2.2.2.1) (lw_V q1157 q1159 qs31 q121 q1160) jdX1_panes ⟨Nat.le_of_ble_eq_true rfl, Nat.le_of_ble_eq_true rfl⟩ ⟨Nat.zero_le _, Nat.zero_le _⟩ (gmc_gIs h2 (r := (RX1, TX1, 15)) rfl) rfl (Nat.le_of_ble_eq_true rfl) dX1_done_19) (fun r1 hw => ?_)
  refine j_b0 ?_
  refine j_icmp_ge hE 68 dX1_done_22 (by decide) (fun c3 => ?_) (fun c3 => ?_)
  · replace hw := hw.1 c3
    refine j_iload hE 4 dX1_done_68 rfl ?_
    exact j_iret hE hK dX1_done_70 rfl hw
  · replace hw := hw.2 c3
    refine j_iload hE 4 dX1_done_25 rfl ?_
    refine j_iload hE 5 dX1_done_27 rfl ?_
    refine jc_ip (jr_S hE hR (As := [.int (x4), .int (x5)]) (rest := []) ((ctX1_isIn E.1.2.1 E.2.2.1 hc _ _ _ _ hw) E.2.2.2.1) (lw_S q1183 q922 q121 q923) jdX1_isIn ⟨Nat.le_of_ble_eq_true rfl, Nat.le_of_ble_eq_true rfl⟩ ⟨Nat.zero_le _, Nat.zero_le _⟩  rfl (Nat.le_of_ble_eq_true rfl) dX1_done_29) (fun r4 hw => ?_)
    refine j_b0 ?_
    refine j_if_eq hE 62 dX1_done_32 (by decide) (fun c5 => ?_) (fun c5 => ?_)
    · replace hw := hw.1 c5
      refine j_iinc (L' := [(5, .int (x5 + 1)), (0, .ref (x0)), (1, .ref (x1)), (2, .int (x2)), (3, .int (x3)), (4, .int (x4))]) hE hn 5 dX1_done_62 rfl (congrArg (x5 + ·) kc_1) (Nat.le_of_ble_eq_true rfl) rfl ?_
      refine j_goto hE 16 dX1_done_65 (by decide) ?_
      refine j_sub [(0, .ref (x0)), (1, .ref (x1)), (2, .int (x2)), (3, .int (x3)), (4, .int (x4)), (5, .int (x5 + 1))] [1, 2, 3, 4, 5, 0] rfl ?_
      have hz := ih16 ((x5 + 1), w) hw
      exact hz
    · replace hw := hw.2 c5
      refine j_aload_n hE 1 dX1_done_35 rfl rfl ?_
      obtain ⟨f6, h7, hw⟩ := hw
      refine j_getMN hE gf_GlassStreet_State_marks q320 h7 dX1_done_36 ?_
      refine j_iload hE 5 dX1_done_39 rfl ?_
      obtain ⟨a8, e9, hx⟩ := hw
      subst e9
      have hw := hx
      clear hx
      obtain ⟨n9, f10, h11, h12, hw⟩ := hw
      obtain ⟨r13, e_r13⟩ : ∃ r9, f10 (x5).toNatClampNeg = r9 := ⟨_, rfl⟩
      replace hw := hw r13 e_r13
      refine j_aldQ hE (t := 5) ⟨by decide, by decide⟩ h11 h12 e_r13 dX1_done_41 ?_
      refine j_iload_n hE 2 dX1_done_42 rfl rfl ?_
      refine j_iload_n hE 3 dX1_done_43 rfl rfl ?_
      refine j_aload_n hE 1 dX1_done_44 rfl rfl ?_
      obtain ⟨f14, h15, hw⟩ := hw
      refine j_getMN hE gf_GlassStreet_State_at q317 h15 dX1_done_45 ?_
      refine j_iload_n hE 2 dX1_done_48 rfl rfl ?_
      obtain ⟨a16, e9, hx⟩ := hw
      subst e9
      have hw := hx
      clear hx
      obtain ⟨n17, f18, h19, h20, hw⟩ := hw
      refine j_aldI hE h19 h20 dX1_done_49 ?_
      refine j_aload_n hE 0 dX1_done_50 rfl rfl ?_
      refine j_iload hE 5 dX1_done_51 rfl ?_
      obtain ⟨h22, hw⟩ := hw
      refine jc_qp (jr_V hE hR (As := [.int (x5)]) (rest := [.int (rd f18 x2), .int (x3), .int (x2), va_rf (r13)]) ((ctX1_pane_2 E.1.2.1 E.2.2.1 hc _ _ _ _ hw) E.2.2.2.1) (lw_V q1163 q1165 qs32 q121 q1166) jdX1_pane_2 ⟨Nat.le_of_ble_eq_true rfl, Nat.le_of_ble_eq_true rfl⟩ ⟨Nat.zero_le _, Nat.zero_le _⟩ (gmc_gIs h22 (r := (RX1, TX1, 15)) rfl) rfl (by cases r13 <;> exact Nat.le_of_ble_eq_true rfl) dX1_done_53) (fun r21 hw => ?_)
      refine j_b0 ?_
      obtain ⟨a23, e9, hx⟩ := hw
      subst e9
      have hw := hx
      clear hx
      obtain ⟨f24, h25, hw⟩ := hw
      refine j_getM hE gf_GlassStreet_Pane_keeps q855 h25 dX1_done_56 ?_
      obtain ⟨a26, e9, hx⟩ := hw
      subst e9
      have hw := hx
      clear hx
      obtain ⟨h27, hw⟩ := hw
      refine jc_v (jr_V hE hR (As := [.int (x2), .int (x3), .int (rd f18 x2), .int (f24)]) (rest := []) ((ctX5_comes E.1.2.1 E.2.2.1 hc _ _ _ _ _ _ _ hw) E.2.2.2.1) (lw_V q1286 q1287 q1288 q128 q1289) jdX5_comes ⟨Nat.le_of_ble_eq_true rfl, Nat.le_of_ble_eq_true rfl⟩ ⟨Nat.zero_le _, Nat.zero_le _⟩ (gmc_gIs h27 (r := (RX5, TX5, 5)) rfl) rfl (Nat.le_of_ble_eq_true rfl) dX1_done_59) (fun w28 hw => ?_)
      refine j_b0 ?_
      refine j_iinc (L' := [(5, .int (x5 + 1)), (0, .ref (x0)), (1, .ref (x1)), (2, .int (x2)), (3, .int (x3)), (4, .int (x4))]) hE hn 5 dX1_done_62 rfl (congrArg (x5 + ·) kc_1) (Nat.le_of_ble_eq_true rfl) rfl ?_
      refine j_goto hE 16 dX1_done_65 (by decide) ?_
      refine j_sub [(0, .ref (x0)), (1, .ref (x1)), (2, .int (x2)), (3, .int (x3)), (4, .int (x4)), (5, .int (x5 + 1))] [1, 2, 3, 4, 5, 0] rfl ?_
      have hz := ih16 ((x5 + 1), w28) hw
      exact hz
def wX1_done_0 (c : Nat → Option Nat) (x0 : Nat) (x1 : Nat) (x2 : Int32) (x3 : Int32) (w : GW) (K : Int32 → GW → Prop) : Prop :=
  ∃ f1 : Option Nat, gfm w x1 [3] 0 = some (va_rf f1) ∧ (∃ a3 : Nat, f1 = some a3 ∧ (∃ (n4 : Nat) (f5 : Nat → Int32), gai w a3 0 = some (n4, f5) ∧ vp_in x2 n4 ∧ (gmc w x0 = some 0 ∧ (wX1_seeing c x0 x1 (rd f5 x2) w (fun r8 => wX1_done_16 c x0 x1 x2 x3 r8 ((0 : Int32)) w K)))))
set_option maxRecDepth 100000 in
theorem bX1_done_0 {E : jE} (hE : jOk E cX1_done RX1) (hn : E.2.2.2.2 = 6) (hR : jRoom E 6 131) {c : Nat → Option Nat} (hc : E.2.2.1.2.2.2 = c) {b : Nat × Nat} {K : Int32 → GW → Prop} (hK : jRi E .int (K)) {x0 : Nat} {x1 : Nat} {x2 : Int32} {x3 : Int32} {w : GW}  (hw : wX1_done_0 c x0 x1 x2 x3 w K) : J E w b [(0, .ref (x0)), (1, .ref (x1)), (2, .int (x2)), (3, .int (x3))] 0 [] := by
  unfold wX1_done_0 at hw
  refine j_aload_n hE 0 dX1_done_0 rfl rfl ?_
  refine j_aload_n hE 1 dX1_done_1 rfl rfl ?_
  refine j_aload_n hE 1 dX1_done_2 rfl rfl ?_
  obtain ⟨f1, h2, hw⟩ := hw
  refine j_getMN hE gf_GlassStreet_State_at q317 h2 dX1_done_3 ?_
  refine j_iload_n hE 2 dX1_done_6 rfl rfl ?_
  obtain ⟨a3, e9, hx⟩ := hw
  subst e9
  have hw := hx
  clear hx
  obtain ⟨n4, f5, h6, h7, hw⟩ := hw
  refine j_aldI hE h6 h7 dX1_done_7 ?_
  obtain ⟨h9, hw⟩ := hw
  refine jc_ip (jr_V hE hR (As := [.ref (x1), .int (rd f5 x2)]) (rest := []) ((ctX1_seeing E.1.2.1 E.2.2.1 hc _ _ _ _ _ hw) E.2.2.2.1) (lw_V q1282 q1284 qs41 q121 q1285) jdX1_seeing ⟨Nat.le_of_ble_eq_true rfl, Nat.le_of_ble_eq_true rfl⟩ ⟨Nat.zero_le _, Nat.zero_le _⟩ (gmc_gIs h9 (r := (RX1, TX1, 15)) rfl) rfl (Nat.le_of_ble_eq_true rfl) dX1_done_8) (fun r8 hw => ?_)
  refine j_b0 ?_
  refine j_istore (L' := [(4, .int (r8)), (0, .ref (x0)), (1, .ref (x1)), (2, .int (x2)), (3, .int (x3))]) hE hn dX1_done_11 (Nat.le_of_ble_eq_true rfl) rfl ?_
  refine j_iconst hE dX1_done_13 kc_0 ?_
  refine j_istore (L' := [(5, .int ((0 : Int32))), (4, .int (r8)), (0, .ref (x0)), (1, .ref (x1)), (2, .int (x2)), (3, .int (x3))]) hE hn dX1_done_14 (Nat.le_of_ble_eq_true rfl) rfl ?_
  refine j_sub [(0, .ref (x0)), (1, .ref (x1)), (2, .int (x2)), (3, .int (x3)), (4, .int (r8)), (5, .int ((0 : Int32)))] [2, 3, 4, 5, 1, 0] rfl ?_
  have hz := bX1_done_16 (b := b) hE hn hR hc hK  hw
  exact hz
theorem jdX1_done : jD yX1_done 3 := by decide +kernel
abbrev wX1_done := wX1_done_0
theorem ctX1_done (l : Launch) (G : gG) {c : Nat → Option Nat} (hc : G.2.2.2 = c) (x0 : Nat) (x1 : Nat) (x2 : Int32) (x3 : Int32) (w : GW) (K : Int32 → GW → Prop) (hw : wX1_done_0 c x0 x1 x2 x3 w K) {F2 L2 : Nat} (h2 : 6 ≤ F2 ∧ 131 ≤ L2 := by exact ⟨Nat.le_refl _, Nat.le_refl _⟩) : CtI l yX1_done cX1_done 6 .int ({ frames := F2, cells := 0, slots := 0, locals := L2 }) G [.ref (x0), .ref (x1), .int (x2), .int (x3)] w (K) :=
  CtI.of RX1 plainc_X1 rfl (Nat.le_of_ble_eq_true rfl) (fun E hE hl hG hn hR hK => bX1_done_0 hE hn (hR.le h2.1 h2.2) (by rw [hG]; exact hc) hK hw)
def wX1_does_0 (c : Nat → Option Nat) (x0 : Nat) (x1 : Int32) (x2 : Int32) (w : GW) (bb : Nat × Nat) (K : Int32 → GW → Prop) : Prop :=
  gmc w x0 = some 0 ∧ (wX1_isPerson c x0 x1 w (fun r1 => (r1 = 0 → (K ((-1 : Int32)) w)) ∧ (¬ r1 = 0 → (gmc w x0 = some 0 ∧ (wX1_isDeed c x0 x2 w (fun r4 => (¬ r4 = 0 → (gmc w x0 = some 0 ∧ (∃ cb8 : Nat × Nat, (cb8.1 ≤ bb.1 ∧ cb8.2 ≤ bb.2) ∧ (wX1_keeps c x0 w cb8 (fun w10 => ∀ b11 : Nat × Nat, b11 = (bb.1 - cb8.1, bb.2 - cb8.2) → (∃ f12 : Option Nat, gfm w10 x0 [0] 4 = some (va_rf f12) ∧ (∃ a14 : Nat, f12 = some a14 ∧ (gmc w10 x0 = some 0 ∧ (wX1_done c x0 a14 x1 x2 w10 (fun r15 w17 => K r15 w17)))))))))) ∧ (r4 = 0 → (K ((-1 : Int32)) w))))))))
set_option maxRecDepth 100000 in
theorem bX1_does_0 {E : jE} (hE : jOk E cX1_does RX1) (hn : E.2.2.2.2 = 3) (hR : jRoom E 7 156) {c : Nat → Option Nat} (hc : E.2.2.1.2.2.2 = c) {K : Int32 → GW → Prop} (hK : jRi E .int (K)) {x0 : Nat} {x1 : Int32} {x2 : Int32} {w : GW} {bb : Nat × Nat}  (hw : wX1_does_0 c x0 x1 x2 w bb K) : J E w bb [(0, .ref (x0)), (1, .int (x1)), (2, .int (x2))] 0 [] := by
  unfold wX1_does_0 at hw
  refine j_aload_n hE 0 dX1_does_0 rfl rfl ?_
  refine j_iload_n hE 1 dX1_does_1 rfl rfl ?_
  obtain ⟨h2, hw⟩ := hw
  refine jc_ip (jr_V hE hR (As := [.int (x1)]) (rest := []) ((ctX1_isPerson E.1.2.1 E.2.2.1 hc _ _ _ _ hw) E.2.2.2.1) (lw_V q1238 q1240 qs35 q121 q1241) jdX1_isPerson ⟨Nat.le_of_ble_eq_true rfl, Nat.le_of_ble_eq_true rfl⟩ ⟨Nat.zero_le _, Nat.zero_le _⟩ (gmc_gIs h2 (r := (RX1, TX1, 15)) rfl) rfl (Nat.le_of_ble_eq_true rfl) dX1_does_2) (fun r1 hw => ?_)
  refine j_b0 ?_
  refine j_if_eq hE 16 dX1_does_5 (by decide) (fun c3 => ?_) (fun c3 => ?_)
  · replace hw := hw.1 c3
    refine j_iconst hE dX1_does_16 kc_m1 ?_
    exact j_iret hE hK dX1_does_17 rfl hw
  · replace hw := hw.2 c3
    refine j_aload_n hE 0 dX1_does_8 rfl rfl ?_
    refine j_iload_n hE 2 dX1_does_9 rfl rfl ?_
    obtain ⟨h5, hw⟩ := hw
    refine jc_ip (jr_V hE hR (As := [.int (x2)]) (rest := []) ((ctX1_isDeed E.1.2.1 E.2.2.1 hc _ _ _ _ hw) E.2.2.2.1) (lw_V q1270 q1272 qs38 q121 q1273) jdX1_isDeed ⟨Nat.le_of_ble_eq_true rfl, Nat.le_of_ble_eq_true rfl⟩ ⟨Nat.zero_le _, Nat.zero_le _⟩ (gmc_gIs h5 (r := (RX1, TX1, 15)) rfl) rfl (Nat.le_of_ble_eq_true rfl) dX1_does_10) (fun r4 hw => ?_)
    refine j_b0 ?_
    refine j_if_ne hE 18 dX1_does_13 (by decide) (fun c6 => ?_) (fun c6 => ?_)
    · replace hw := hw.1 c6
      refine j_aload_n hE 0 dX1_does_18 rfl rfl ?_
      obtain ⟨h7, hw⟩ := hw
      obtain ⟨cb8, h9, hw⟩ := hw
      refine jc_v (jr_V hE hR (As := []) (rest := []) ((ctX1_keeps E.1.2.1 E.2.2.1 hc _ _ _ _ hw) E.2.2.2.1) (lw_V q1253 q1255 qs37 q121 q1256) jdX1_keeps ⟨Nat.le_of_ble_eq_true rfl, Nat.le_of_ble_eq_true rfl⟩ h9 (gmc_gIs h7 (r := (RX1, TX1, 15)) rfl) rfl (Nat.le_of_ble_eq_true rfl) dX1_does_19) (fun w10 hw => ?_)
      refine j_nb (fun b11 e_b11 => ?_)
      replace hw := hw b11 e_b11
      refine j_aload_n hE 0 dX1_does_22 rfl rfl ?_
      refine j_aload_n hE 0 dX1_does_23 rfl rfl ?_
      obtain ⟨f12, h13, hw⟩ := hw
      refine j_getM hE gf_GlassStreet_state q351 h13 dX1_does_24 ?_
      refine j_iload_n hE 1 dX1_does_27 rfl rfl ?_
      refine j_iload_n hE 2 dX1_does_28 rfl rfl ?_
      obtain ⟨a14, e9, hx⟩ := hw
      subst e9
      have hw := hx
      clear hx
      obtain ⟨h16, hw⟩ := hw
      refine jc_i (jr_V hE hR (As := [.ref (a14), .int (x1), .int (x2)]) (rest := []) ((ctX1_done E.1.2.1 E.2.2.1 hc _ _ _ _ _ _ hw) E.2.2.2.1) (lw_V q1278 q1280 qs40 q121 q1281) jdX1_done ⟨Nat.le_of_ble_eq_true rfl, Nat.le_of_ble_eq_true rfl⟩ ⟨Nat.zero_le _, Nat.zero_le _⟩ (gmc_gIs h16 (r := (RX1, TX1, 15)) rfl) rfl (Nat.le_of_ble_eq_true rfl) dX1_does_29) (fun r15 w17 hw => ?_)
      refine j_b0 ?_
      exact j_iret hE hK dX1_does_32 rfl hw
    · replace hw := hw.2 c6
      refine j_iconst hE dX1_does_16 kc_m1 ?_
      exact j_iret hE hK dX1_does_17 rfl hw
theorem jdX1_does : jD yX1_does 2 := by decide +kernel
abbrev wX1_does := wX1_does_0
theorem ctX1_does (l : Launch) (G : gG) {c : Nat → Option Nat} (hc : G.2.2.2 = c) (x0 : Nat) (x1 : Int32) (x2 : Int32) (w : GW) (bb : Nat × Nat) (K : Int32 → GW → Prop) (hw : wX1_does_0 c x0 x1 x2 w bb K) {F2 L2 : Nat} (h2 : 7 ≤ F2 ∧ 156 ≤ L2 := by exact ⟨Nat.le_refl _, Nat.le_refl _⟩) : CtI l yX1_does cX1_does 3 .int ({ frames := F2, cells := bb.1, slots := bb.2, locals := L2 }) G [.ref (x0), .int (x1), .int (x2)] w (K) :=
  CtI.of RX1 plainc_X1 rfl (Nat.le_of_ble_eq_true rfl) (fun E hE hl hG hn hR hK => bX1_does_0 hE hn (hR.le h2.1 h2.2) (by rw [hG]; exact hc) hK hw)
def wX1_canWash_0 (c : Nat → Option Nat) (x0 : Nat) (x1 : Nat) (x2 : Int32) (w0 : GW) (K : Int32 → Prop) : Prop :=
  gmc w0 x1 = some 3 ∧ (wX4_isWhole c x1 x2 w0 (fun r1 => (r1 = 0 → (K ((0 : Int32)))) ∧ (¬ r1 = 0 → (∃ f4 : Option Nat, gfm w0 x1 [3] 1 = some (va_rf f4) ∧ (∃ a6 : Nat, f4 = some a6 ∧ (∃ (n7 : Nat) (f8 : Nat → Option Nat), gaq w0 a6 5 = some (n7, f8) ∧ vp_in x2 n7 ∧ (∀ r11 : Option Nat, f8 (x2).toNatClampNeg = r11 → (∃ a12 : Nat, r11 = some a12 ∧ (∃ f13 : Int32, gfm w0 a12 [4] 4 = some (.int f13) ∧ ((f13 ≤ 0 → (K ((0 : Int32)))) ∧ (¬ f13 ≤ 0 → (K ((1 : Int32))))))))))))))
set_option maxRecDepth 100000 in
theorem bX1_canWash_0 {E : jE} (hE : jOk E cX1_canWash RX1) (hn : E.2.2.2.2 = 3) (hR : jRoom E 2 42) {c : Nat → Option Nat} (hc : E.2.2.1.2.2.2 = c) {b : Nat × Nat} {w0 : GW} {K : Int32 → Prop} (hK : jRi E .boolean (KPI w0 K)) {x0 : Nat} {x1 : Nat} {x2 : Int32}  (hw : wX1_canWash_0 c x0 x1 x2 w0 K) : J E w0 b [(0, .ref (x0)), (1, .ref (x1)), (2, .int (x2))] 0 [] := by
  unfold wX1_canWash_0 at hw
  refine j_aload_n hE 1 dX1_canWash_0 rfl rfl ?_
  refine j_iload_n hE 2 dX1_canWash_1 rfl rfl ?_
  obtain ⟨h2, hw⟩ := hw
  refine jc_ip (jr_V hE hR (As := [.int (x2)]) (rest := []) ((ctX4_isWhole E.1.2.1 E.2.2.1 hc _ _ _ _ hw) E.2.2.2.1) (lw_V q1188 q1189 q1190 q127 q1191) jdX4_isWhole ⟨Nat.le_of_ble_eq_true rfl, Nat.le_of_ble_eq_true rfl⟩ ⟨Nat.zero_le _, Nat.zero_le _⟩ (gmc_gIs h2 (r := (RX4, TX4, 5)) rfl) rfl (Nat.le_of_ble_eq_true rfl) dX1_canWash_2) (fun r1 hw => ?_)
  refine j_b0 ?_
  refine j_if_eq hE 24 dX1_canWash_5 (by decide) (fun c3 => ?_) (fun c3 => ?_)
  · replace hw := hw.1 c3
    refine j_iconst hE dX1_canWash_24 kc_0 ?_
    exact j_iret hE hK dX1_canWash_25 rfl ⟨rfl, hw⟩
  · replace hw := hw.2 c3
    refine j_aload_n hE 1 dX1_canWash_8 rfl rfl ?_
    obtain ⟨f4, h5, hw⟩ := hw
    refine j_getMN hE gf_GlassStreet_State_marks q320 h5 dX1_canWash_9 ?_
    refine j_iload_n hE 2 dX1_canWash_12 rfl rfl ?_
    obtain ⟨a6, e9, hx⟩ := hw
    subst e9
    have hw := hx
    clear hx
    obtain ⟨n7, f8, h9, h10, hw⟩ := hw
    obtain ⟨r11, e_r11⟩ : ∃ r9, f8 (x2).toNatClampNeg = r9 := ⟨_, rfl⟩
    replace hw := hw r11 e_r11
    refine j_aldQ hE (t := 5) ⟨by decide, by decide⟩ h9 h10 e_r11 dX1_canWash_13 ?_
    obtain ⟨a12, e9, hx⟩ := hw
    subst e9
    have hw := hx
    clear hx
    obtain ⟨f13, h14, hw⟩ := hw
    refine j_getMN hE gf_GlassStreet_Marks_many q303 h14 dX1_canWash_14 ?_
    refine j_if_le hE 24 dX1_canWash_17 (by decide) (fun c15 => ?_) (fun c15 => ?_)
    · replace hw := hw.1 c15
      refine j_iconst hE dX1_canWash_24 kc_0 ?_
      exact j_iret hE hK dX1_canWash_25 rfl ⟨rfl, hw⟩
    · replace hw := hw.2 c15
      refine j_iconst hE dX1_canWash_20 kc_1 ?_
      refine j_goto hE 25 dX1_canWash_21 (by decide) ?_
      exact j_iret hE hK dX1_canWash_25 rfl ⟨rfl, hw⟩
theorem jdX1_canWash : jD yX1_canWash 2 := by decide +kernel
abbrev wX1_canWash := wX1_canWash_0
theorem ctX1_canWash (l : Launch) (G : gG) {c : Nat → Option Nat} (hc : G.2.2.2 = c) (x0 : Nat) (x1 : Nat) (x2 : Int32) (w0 : GW) (K : Int32 → Prop) (hw : wX1_canWash_0 c x0 x1 x2 w0 K) {F2 L2 : Nat} (h2 : 2 ≤ F2 ∧ 42 ≤ L2 := by exact ⟨Nat.le_refl _, Nat.le_refl _⟩) : CtI l yX1_canWash cX1_canWash 3 .boolean ({ frames := F2, cells := 0, slots := 0, locals := L2 }) G [.ref (x0), .ref (x1), .int (x2)] w0 (KPI w0 K) :=
  CtI.of RX1 plainc_X1 rfl (Nat.le_of_ble_eq_true rfl) (fun E hE hl hG hn hR hK => bX1_canWash_0 hE hn (hR.le h2.1 h2.2) (by rw [hG]; exact hc) hK hw)
def wX1_wash_0 (c : Nat → Option Nat) (x0 : Nat) (x1 : Int32) (w : GW) (bb : Nat × Nat) (K : Int32 → GW → Prop) : Prop :=
  gmc w x0 = some 0 ∧ (wX1_isPane c x0 x1 w (fun r1 => (r1 = 0 → (K ((-1 : Int32)) w)) ∧ (¬ r1 = 0 → (∃ f4 : Option Nat, gfm w x0 [0] 4 = some (va_rf f4) ∧ (∃ a6 : Nat, f4 = some a6 ∧ (gmc w x0 = some 0 ∧ (wX1_canWash c x0 a6 x1 w (fun r7 => (¬ r7 = 0 → (gmc w x0 = some 0 ∧ (∃ cb11 : Nat × Nat, (cb11.1 ≤ bb.1 ∧ cb11.2 ≤ bb.2) ∧ (wX1_keeps c x0 w cb11 (fun w13 => ∀ b14 : Nat × Nat, b14 = (bb.1 - cb11.1, bb.2 - cb11.2) → (∃ f15 : Option Nat, gfm w13 x0 [0] 4 = some (va_rf f15) ∧ (∃ a17 : Nat, f15 = some a17 ∧ (∃ f18 : Option Nat, gfm w13 a17 [3] 1 = some (va_rf f18) ∧ (∃ a20 : Nat, f18 = some a20 ∧ (∃ (n21 : Nat) (f22 : Nat → Option Nat), gaq w13 a20 5 = some (n21, f22) ∧ vp_in x1 n21 ∧ (∀ r25 : Option Nat, f22 (x1).toNatClampNeg = r25 → (∃ a26 : Nat, r25 = some a26 ∧ (∃ f27 : Int32, gfm w13 a26 [4] 4 = some (.int f27) ∧ (∃ (n29 : Nat) (fs30 : List Value), w13 a26 = some (true, .inr (n29, fs30)) ∧ n29 ∈ ([4] : List Nat) ∧ 4 < fs30.length ∧ (∀ w34 : GW, w34 = gup w13 a26 (.inr (n29, fs30.set 4 (.int (f27 - ((1 : Int32)))))) → (K (f27 - ((1 : Int32))) w34)))))))))))))))) ∧ (r7 = 0 → (K ((-1 : Int32)) w))))))))))
set_option maxRecDepth 100000 in
theorem bX1_wash_0 {E : jE} (hE : jOk E cX1_wash RX1) (hn : E.2.2.2.2 = 2) (hR : jRoom E 4 87) {c : Nat → Option Nat} (hc : E.2.2.1.2.2.2 = c) {K : Int32 → GW → Prop} (hK : jRi E .int (K)) {x0 : Nat} {x1 : Int32} {w : GW} {bb : Nat × Nat}  (hw : wX1_wash_0 c x0 x1 w bb K) : J E w bb [(0, .ref (x0)), (1, .int (x1))] 0 [] := by
  unfold wX1_wash_0 at hw
  refine j_aload_n hE 0 dX1_wash_0 rfl rfl ?_
  refine j_iload_n hE 1 dX1_wash_1 rfl rfl ?_
  obtain ⟨h2, hw⟩ := hw
  refine jc_ip (jr_V hE hR (As := [.int (x1)]) (rest := []) ((ctX1_isPane E.1.2.1 E.2.2.1 hc _ _ _ _ hw) E.2.2.2.1) (lw_V q1153 q1155 qs30 q121 q1156) jdX1_isPane ⟨Nat.le_of_ble_eq_true rfl, Nat.le_of_ble_eq_true rfl⟩ ⟨Nat.zero_le _, Nat.zero_le _⟩ (gmc_gIs h2 (r := (RX1, TX1, 15)) rfl) rfl (Nat.le_of_ble_eq_true rfl) dX1_wash_2) (fun r1 hw => ?_)
  refine j_b0 ?_
  refine j_if_eq hE 20 dX1_wash_5 (by decide) (fun c3 => ?_) (fun c3 => ?_)
  · replace hw := hw.1 c3
    refine j_iconst hE dX1_wash_20 kc_m1 ?_
    exact j_iret hE hK dX1_wash_21 rfl hw
  · replace hw := hw.2 c3
    refine j_aload_n hE 0 dX1_wash_8 rfl rfl ?_
    refine j_aload_n hE 0 dX1_wash_9 rfl rfl ?_
    obtain ⟨f4, h5, hw⟩ := hw
    refine j_getM hE gf_GlassStreet_state q351 h5 dX1_wash_10 ?_
    refine j_iload_n hE 1 dX1_wash_13 rfl rfl ?_
    obtain ⟨a6, e9, hx⟩ := hw
    subst e9
    have hw := hx
    clear hx
    obtain ⟨h8, hw⟩ := hw
    refine jc_ip (jr_V hE hR (As := [.ref (a6), .int (x1)]) (rest := []) ((ctX1_canWash E.1.2.1 E.2.2.1 hc _ _ _ _ _ hw) E.2.2.2.1) (lw_V q1298 q1300 qs42 q121 q1301) jdX1_canWash ⟨Nat.le_of_ble_eq_true rfl, Nat.le_of_ble_eq_true rfl⟩ ⟨Nat.zero_le _, Nat.zero_le _⟩ (gmc_gIs h8 (r := (RX1, TX1, 15)) rfl) rfl (Nat.le_of_ble_eq_true rfl) dX1_wash_14) (fun r7 hw => ?_)
    refine j_b0 ?_
    refine j_if_ne hE 22 dX1_wash_17 (by decide) (fun c9 => ?_) (fun c9 => ?_)
    · replace hw := hw.1 c9
      refine j_aload_n hE 0 dX1_wash_22 rfl rfl ?_
      obtain ⟨h10, hw⟩ := hw
      obtain ⟨cb11, h12, hw⟩ := hw
      refine jc_v (jr_V hE hR (As := []) (rest := []) ((ctX1_keeps E.1.2.1 E.2.2.1 hc _ _ _ _ hw) E.2.2.2.1) (lw_V q1253 q1255 qs37 q121 q1256) jdX1_keeps ⟨Nat.le_of_ble_eq_true rfl, Nat.le_of_ble_eq_true rfl⟩ h12 (gmc_gIs h10 (r := (RX1, TX1, 15)) rfl) rfl (Nat.le_of_ble_eq_true rfl) dX1_wash_23) (fun w13 hw => ?_)
      refine j_nb (fun b14 e_b14 => ?_)
      replace hw := hw b14 e_b14
      refine j_aload_n hE 0 dX1_wash_26 rfl rfl ?_
      obtain ⟨f15, h16, hw⟩ := hw
      refine j_getM hE gf_GlassStreet_state q351 h16 dX1_wash_27 ?_
      obtain ⟨a17, e9, hx⟩ := hw
      subst e9
      have hw := hx
      clear hx
      obtain ⟨f18, h19, hw⟩ := hw
      refine j_getMN hE gf_GlassStreet_State_marks q320 h19 dX1_wash_30 ?_
      refine j_iload_n hE 1 dX1_wash_33 rfl rfl ?_
      obtain ⟨a20, e9, hx⟩ := hw
      subst e9
      have hw := hx
      clear hx
      obtain ⟨n21, f22, h23, h24, hw⟩ := hw
      obtain ⟨r25, e_r25⟩ : ∃ r9, f22 (x1).toNatClampNeg = r9 := ⟨_, rfl⟩
      replace hw := hw r25 e_r25
      refine j_aldQ hE (t := 5) ⟨by decide, by decide⟩ h23 h24 e_r25 dX1_wash_34 ?_
      refine j_dup hE dX1_wash_35 (va_rf_cat _) ?_
      obtain ⟨a26, e9, hx⟩ := hw
      subst e9
      have hw := hx
      clear hx
      obtain ⟨f27, h28, hw⟩ := hw
      refine j_getMN hE gf_GlassStreet_Marks_many q303 h28 dX1_wash_36 ?_
      refine j_iconst hE dX1_wash_39 kc_1 ?_
      refine j_isub hE dX1_wash_40 ?_
      refine j_dup_x1 hE dX1_wash_41 rfl rfl ?_
      obtain ⟨n29, fs30, h31, h32, h33, hw⟩ := hw
      refine j_putXN hE h32 gw_GlassStreet_Marks_many_X1 q303 h31 rfl rfl h33 dX1_wash_42 ?_
      refine j_nw (fun w34 e_w34 => ?_)
      replace hw := hw w34 e_w34
      exact j_iret hE hK dX1_wash_45 rfl hw
    · replace hw := hw.2 c9
      refine j_iconst hE dX1_wash_20 kc_m1 ?_
      exact j_iret hE hK dX1_wash_21 rfl hw
theorem jdX1_wash : jD yX1_wash 1 := by decide +kernel
abbrev wX1_wash := wX1_wash_0
theorem ctX1_wash (l : Launch) (G : gG) {c : Nat → Option Nat} (hc : G.2.2.2 = c) (x0 : Nat) (x1 : Int32) (w : GW) (bb : Nat × Nat) (K : Int32 → GW → Prop) (hw : wX1_wash_0 c x0 x1 w bb K) {F2 L2 : Nat} (h2 : 4 ≤ F2 ∧ 87 ≤ L2 := by exact ⟨Nat.le_refl _, Nat.le_refl _⟩) : CtI l yX1_wash cX1_wash 2 .int ({ frames := F2, cells := bb.1, slots := bb.2, locals := L2 }) G [.ref (x0), .int (x1)] w (K) :=
  CtI.of RX1 plainc_X1 rfl (Nat.le_of_ble_eq_true rfl) (fun E hE hl hG hn hR hK => bX1_wash_0 hE hn (hR.le h2.1 h2.2) (by rw [hG]; exact hc) hK hw)
def wX1_curtain_0 (c : Nat → Option Nat) (x0 : Nat) (x1 : Int32) (w : GW) (bb : Nat × Nat) (K : Int32 → GW → Prop) : Prop :=
  gmc w x0 = some 0 ∧ (wX1_isPane c x0 x1 w (fun r1 => (r1 = 0 → (K ((0 : Int32)) w)) ∧ (¬ r1 = 0 → (∃ f4 : Option Nat, gfm w x0 [0] 4 = some (va_rf f4) ∧ (∃ a6 : Nat, f4 = some a6 ∧ (gmc w a6 = some 3 ∧ (wX4_isWhole c a6 x1 w (fun r7 => (¬ r7 = 0 → (gmc w x0 = some 0 ∧ (∃ cb11 : Nat × Nat, (cb11.1 ≤ bb.1 ∧ cb11.2 ≤ bb.2) ∧ (wX1_keeps c x0 w cb11 (fun w13 => ∀ b14 : Nat × Nat, b14 = (bb.1 - cb11.1, bb.2 - cb11.2) → (∃ f15 : Option Nat, gfm w13 x0 [0] 4 = some (va_rf f15) ∧ (∃ a17 : Nat, f15 = some a17 ∧ (∃ f18 : Int32, gfm w13 a17 [3] 3 = some (.int f18) ∧ (∃ (n20 : Nat) (fs21 : List Value), w13 a17 = some (true, .inr (n20, fs21)) ∧ n20 ∈ ([3] : List Nat) ∧ 3 < fs21.length ∧ (∀ w25 : GW, w25 = gup w13 a17 (.inr (n20, fs21.set 3 (.int (f18 ^^^ (ishl ((1 : Int32)) x1))))) → (K ((1 : Int32)) w25))))))))))) ∧ (r7 = 0 → (K ((0 : Int32)) w))))))))))
set_option maxRecDepth 100000 in
theorem bX1_curtain_0 {E : jE} (hE : jOk E cX1_curtain RX1) (hn : E.2.2.2.2 = 2) (hR : jRoom E 4 87) {c : Nat → Option Nat} (hc : E.2.2.1.2.2.2 = c) {K : Int32 → GW → Prop} (hK : jRi E .boolean (K)) {x0 : Nat} {x1 : Int32} {w : GW} {bb : Nat × Nat}  (hw : wX1_curtain_0 c x0 x1 w bb K) : J E w bb [(0, .ref (x0)), (1, .int (x1))] 0 [] := by
  unfold wX1_curtain_0 at hw
  refine j_aload_n hE 0 dX1_curtain_0 rfl rfl ?_
  refine j_iload_n hE 1 dX1_curtain_1 rfl rfl ?_
  obtain ⟨h2, hw⟩ := hw
  refine jc_ip (jr_V hE hR (As := [.int (x1)]) (rest := []) ((ctX1_isPane E.1.2.1 E.2.2.1 hc _ _ _ _ hw) E.2.2.2.1) (lw_V q1153 q1155 qs30 q121 q1156) jdX1_isPane ⟨Nat.le_of_ble_eq_true rfl, Nat.le_of_ble_eq_true rfl⟩ ⟨Nat.zero_le _, Nat.zero_le _⟩ (gmc_gIs h2 (r := (RX1, TX1, 15)) rfl) rfl (Nat.le_of_ble_eq_true rfl) dX1_curtain_2) (fun r1 hw => ?_)
  refine j_b0 ?_
  refine j_if_eq hE 19 dX1_curtain_5 (by decide) (fun c3 => ?_) (fun c3 => ?_)
  · replace hw := hw.1 c3
    refine j_iconst hE dX1_curtain_19 kc_0 ?_
    exact j_iret hE hK dX1_curtain_20 rfl hw
  · replace hw := hw.2 c3
    refine j_aload_n hE 0 dX1_curtain_8 rfl rfl ?_
    obtain ⟨f4, h5, hw⟩ := hw
    refine j_getM hE gf_GlassStreet_state q351 h5 dX1_curtain_9 ?_
    refine j_iload_n hE 1 dX1_curtain_12 rfl rfl ?_
    obtain ⟨a6, e9, hx⟩ := hw
    subst e9
    have hw := hx
    clear hx
    obtain ⟨h8, hw⟩ := hw
    refine jc_ip (jr_V hE hR (As := [.int (x1)]) (rest := []) ((ctX4_isWhole E.1.2.1 E.2.2.1 hc _ _ _ _ hw) E.2.2.2.1) (lw_V q1188 q1189 q1190 q127 q1191) jdX4_isWhole ⟨Nat.le_of_ble_eq_true rfl, Nat.le_of_ble_eq_true rfl⟩ ⟨Nat.zero_le _, Nat.zero_le _⟩ (gmc_gIs h8 (r := (RX4, TX4, 5)) rfl) rfl (Nat.le_of_ble_eq_true rfl) dX1_curtain_13) (fun r7 hw => ?_)
    refine j_b0 ?_
    refine j_if_ne hE 21 dX1_curtain_16 (by decide) (fun c9 => ?_) (fun c9 => ?_)
    · replace hw := hw.1 c9
      refine j_aload_n hE 0 dX1_curtain_21 rfl rfl ?_
      obtain ⟨h10, hw⟩ := hw
      obtain ⟨cb11, h12, hw⟩ := hw
      refine jc_v (jr_V hE hR (As := []) (rest := []) ((ctX1_keeps E.1.2.1 E.2.2.1 hc _ _ _ _ hw) E.2.2.2.1) (lw_V q1253 q1255 qs37 q121 q1256) jdX1_keeps ⟨Nat.le_of_ble_eq_true rfl, Nat.le_of_ble_eq_true rfl⟩ h12 (gmc_gIs h10 (r := (RX1, TX1, 15)) rfl) rfl (Nat.le_of_ble_eq_true rfl) dX1_curtain_22) (fun w13 hw => ?_)
      refine j_nb (fun b14 e_b14 => ?_)
      replace hw := hw b14 e_b14
      refine j_aload_n hE 0 dX1_curtain_25 rfl rfl ?_
      obtain ⟨f15, h16, hw⟩ := hw
      refine j_getM hE gf_GlassStreet_state q351 h16 dX1_curtain_26 ?_
      refine j_dup hE dX1_curtain_29 (va_rf_cat _) ?_
      obtain ⟨a17, e9, hx⟩ := hw
      subst e9
      have hw := hx
      clear hx
      obtain ⟨f18, h19, hw⟩ := hw
      refine j_getMN hE gf_GlassStreet_State_drawn q325 h19 dX1_curtain_30 ?_
      refine j_iconst hE dX1_curtain_33 kc_1 ?_
      refine j_iload_n hE 1 dX1_curtain_34 rfl rfl ?_
      refine j_ishl hE dX1_curtain_35 ?_
      refine j_ixor hE dX1_curtain_36 ?_
      obtain ⟨n20, fs21, h22, h23, h24, hw⟩ := hw
      refine j_putXN hE h23 gw_GlassStreet_State_drawn_X1 q325 h22 rfl rfl h24 dX1_curtain_37 ?_
      refine j_nw (fun w25 e_w25 => ?_)
      replace hw := hw w25 e_w25
      refine j_iconst hE dX1_curtain_40 kc_1 ?_
      exact j_iret hE hK dX1_curtain_41 rfl hw
    · replace hw := hw.2 c9
      refine j_iconst hE dX1_curtain_19 kc_0 ?_
      exact j_iret hE hK dX1_curtain_20 rfl hw
theorem jdX1_curtain : jD yX1_curtain 1 := by decide +kernel
abbrev wX1_curtain := wX1_curtain_0
theorem ctX1_curtain (l : Launch) (G : gG) {c : Nat → Option Nat} (hc : G.2.2.2 = c) (x0 : Nat) (x1 : Int32) (w : GW) (bb : Nat × Nat) (K : Int32 → GW → Prop) (hw : wX1_curtain_0 c x0 x1 w bb K) {F2 L2 : Nat} (h2 : 4 ≤ F2 ∧ 87 ≤ L2 := by exact ⟨Nat.le_refl _, Nat.le_refl _⟩) : CtI l yX1_curtain cX1_curtain 2 .boolean ({ frames := F2, cells := bb.1, slots := bb.2, locals := L2 }) G [.ref (x0), .int (x1)] w (K) :=
  CtI.of RX1 plainc_X1 rfl (Nat.le_of_ble_eq_true rfl) (fun E hE hl hG hn hR hK => bX1_curtain_0 hE hn (hR.le h2.1 h2.2) (by rw [hG]; exact hc) hK hw)
def wX1_stone_0 (c : Nat → Option Nat) (x0 : Nat) (x1 : Int32) (w : GW) (bb : Nat × Nat) (K : Int32 → GW → Prop) : Prop :=
  gmc w x0 = some 0 ∧ (wX1_isPane c x0 x1 w (fun r1 => (r1 = 0 → (K ((0 : Int32)) w)) ∧ (¬ r1 = 0 → (∃ f4 : Option Nat, gfm w x0 [0] 4 = some (va_rf f4) ∧ (∃ a6 : Nat, f4 = some a6 ∧ (gmc w a6 = some 3 ∧ (wX4_isWhole c a6 x1 w (fun r7 => (¬ r7 = 0 → (gmc w x0 = some 0 ∧ (∃ cb11 : Nat × Nat, (cb11.1 ≤ bb.1 ∧ cb11.2 ≤ bb.2) ∧ (wX1_keeps c x0 w cb11 (fun w13 => ∀ b14 : Nat × Nat, b14 = (bb.1 - cb11.1, bb.2 - cb11.2) → (∃ f15 : Option Nat, gfm w13 x0 [0] 4 = some (va_rf f15) ∧ (∃ a17 : Nat, f15 = some a17 ∧ (∃ f18 : Int32, gfm w13 a17 [3] 4 = some (.int f18) ∧ (∃ (n20 : Nat) (fs21 : List Value), w13 a17 = some (true, .inr (n20, fs21)) ∧ n20 ∈ ([3] : List Nat) ∧ 4 < fs21.length ∧ (∀ w25 : GW, w25 = gup w13 a17 (.inr (n20, fs21.set 4 (.int (f18 ||| (ishl ((1 : Int32)) x1))))) → (K ((1 : Int32)) w25))))))))))) ∧ (r7 = 0 → (K ((0 : Int32)) w))))))))))
set_option maxRecDepth 100000 in
theorem bX1_stone_0 {E : jE} (hE : jOk E cX1_stone RX1) (hn : E.2.2.2.2 = 2) (hR : jRoom E 4 87) {c : Nat → Option Nat} (hc : E.2.2.1.2.2.2 = c) {K : Int32 → GW → Prop} (hK : jRi E .boolean (K)) {x0 : Nat} {x1 : Int32} {w : GW} {bb : Nat × Nat}  (hw : wX1_stone_0 c x0 x1 w bb K) : J E w bb [(0, .ref (x0)), (1, .int (x1))] 0 [] := by
  unfold wX1_stone_0 at hw
  refine j_aload_n hE 0 dX1_stone_0 rfl rfl ?_
  refine j_iload_n hE 1 dX1_stone_1 rfl rfl ?_
  obtain ⟨h2, hw⟩ := hw
  refine jc_ip (jr_V hE hR (As := [.int (x1)]) (rest := []) ((ctX1_isPane E.1.2.1 E.2.2.1 hc _ _ _ _ hw) E.2.2.2.1) (lw_V q1153 q1155 qs30 q121 q1156) jdX1_isPane ⟨Nat.le_of_ble_eq_true rfl, Nat.le_of_ble_eq_true rfl⟩ ⟨Nat.zero_le _, Nat.zero_le _⟩ (gmc_gIs h2 (r := (RX1, TX1, 15)) rfl) rfl (Nat.le_of_ble_eq_true rfl) dX1_stone_2) (fun r1 hw => ?_)
  refine j_b0 ?_
  refine j_if_eq hE 19 dX1_stone_5 (by decide) (fun c3 => ?_) (fun c3 => ?_)
  · replace hw := hw.1 c3
    refine j_iconst hE dX1_stone_19 kc_0 ?_
    exact j_iret hE hK dX1_stone_20 rfl hw
  · replace hw := hw.2 c3
    refine j_aload_n hE 0 dX1_stone_8 rfl rfl ?_
    obtain ⟨f4, h5, hw⟩ := hw
    refine j_getM hE gf_GlassStreet_state q351 h5 dX1_stone_9 ?_
    refine j_iload_n hE 1 dX1_stone_12 rfl rfl ?_
    obtain ⟨a6, e9, hx⟩ := hw
    subst e9
    have hw := hx
    clear hx
    obtain ⟨h8, hw⟩ := hw
    refine jc_ip (jr_V hE hR (As := [.int (x1)]) (rest := []) ((ctX4_isWhole E.1.2.1 E.2.2.1 hc _ _ _ _ hw) E.2.2.2.1) (lw_V q1188 q1189 q1190 q127 q1191) jdX4_isWhole ⟨Nat.le_of_ble_eq_true rfl, Nat.le_of_ble_eq_true rfl⟩ ⟨Nat.zero_le _, Nat.zero_le _⟩ (gmc_gIs h8 (r := (RX4, TX4, 5)) rfl) rfl (Nat.le_of_ble_eq_true rfl) dX1_stone_13) (fun r7 hw => ?_)
    refine j_b0 ?_
    refine j_if_ne hE 21 dX1_stone_16 (by decide) (fun c9 => ?_) (fun c9 => ?_)
    · replace hw := hw.1 c9
      refine j_aload_n hE 0 dX1_stone_21 rfl rfl ?_
      obtain ⟨h10, hw⟩ := hw
      obtain ⟨cb11, h12, hw⟩ := hw
      refine jc_v (jr_V hE hR (As := []) (rest := []) ((ctX1_keeps E.1.2.1 E.2.2.1 hc _ _ _ _ hw) E.2.2.2.1) (lw_V q1253 q1255 qs37 q121 q1256) jdX1_keeps ⟨Nat.le_of_ble_eq_true rfl, Nat.le_of_ble_eq_true rfl⟩ h12 (gmc_gIs h10 (r := (RX1, TX1, 15)) rfl) rfl (Nat.le_of_ble_eq_true rfl) dX1_stone_22) (fun w13 hw => ?_)
      refine j_nb (fun b14 e_b14 => ?_)
      replace hw := hw b14 e_b14
      refine j_aload_n hE 0 dX1_stone_25 rfl rfl ?_
      obtain ⟨f15, h16, hw⟩ := hw
      refine j_getM hE gf_GlassStreet_state q351 h16 dX1_stone_26 ?_
      refine j_dup hE dX1_stone_29 (va_rf_cat _) ?_
      obtain ⟨a17, e9, hx⟩ := hw
      subst e9
      have hw := hx
      clear hx
      obtain ⟨f18, h19, hw⟩ := hw
      refine j_getMN hE gf_GlassStreet_State_gone q328 h19 dX1_stone_30 ?_
      refine j_iconst hE dX1_stone_33 kc_1 ?_
      refine j_iload_n hE 1 dX1_stone_34 rfl rfl ?_
      refine j_ishl hE dX1_stone_35 ?_
      refine j_ior hE dX1_stone_36 ?_
      obtain ⟨n20, fs21, h22, h23, h24, hw⟩ := hw
      refine j_putXN hE h23 gw_GlassStreet_State_gone_X1 q328 h22 rfl rfl h24 dX1_stone_37 ?_
      refine j_nw (fun w25 e_w25 => ?_)
      replace hw := hw w25 e_w25
      refine j_iconst hE dX1_stone_40 kc_1 ?_
      exact j_iret hE hK dX1_stone_41 rfl hw
    · replace hw := hw.2 c9
      refine j_iconst hE dX1_stone_19 kc_0 ?_
      exact j_iret hE hK dX1_stone_20 rfl hw
theorem jdX1_stone : jD yX1_stone 1 := by decide +kernel
abbrev wX1_stone := wX1_stone_0
theorem ctX1_stone (l : Launch) (G : gG) {c : Nat → Option Nat} (hc : G.2.2.2 = c) (x0 : Nat) (x1 : Int32) (w : GW) (bb : Nat × Nat) (K : Int32 → GW → Prop) (hw : wX1_stone_0 c x0 x1 w bb K) {F2 L2 : Nat} (h2 : 4 ≤ F2 ∧ 87 ≤ L2 := by exact ⟨Nat.le_refl _, Nat.le_refl _⟩) : CtI l yX1_stone cX1_stone 2 .boolean ({ frames := F2, cells := bb.1, slots := bb.2, locals := L2 }) G [.ref (x0), .int (x1)] w (K) :=
  CtI.of RX1 plainc_X1 rfl (Nat.le_of_ble_eq_true rfl) (fun E hE hl hG hn hR hK => bX1_stone_0 hE hn (hR.le h2.1 h2.2) (by rw [hG]; exact hc) hK hw)
def wX13_worked_0 (c : Nat → Option Nat) (x0 : Nat) (x1 : Nat) (w0 : GW) (K : Int32 → Prop) : Prop :=
  ∃ f1 : Int32, gfm w0 x0 [11] 0 = some (.int f1) ∧ (K f1)
set_option maxRecDepth 100000 in
theorem bX13_worked_0 {E : jE} (hE : jOk E cX13_worked RX13) (hn : E.2.2.2.2 = 2) (hR : jRoom E 0 0) {c : Nat → Option Nat} (hc : E.2.2.1.2.2.2 = c) {b : Nat × Nat} {w0 : GW} {K : Int32 → Prop} (hK : jRi E .int (KPI w0 K)) {x0 : Nat} {x1 : Nat}  (hw : wX13_worked_0 c x0 x1 w0 K) : J E w0 b [(0, .ref (x0)), (1, .ref (x1))] 0 [] := by
  unfold wX13_worked_0 at hw
  refine j_aload_n hE 0 dX13_worked_0 rfl rfl ?_
  obtain ⟨f1, h2, hw⟩ := hw
  refine j_getM hE gf_GlassStreet_Given_n q1018 h2 dX13_worked_1 ?_
  exact j_iret hE hK dX13_worked_4 rfl ⟨rfl, hw⟩
theorem jdX13_worked : jD yX13_worked 1 := by decide +kernel
abbrev wX13_worked := wX13_worked_0
theorem ctX13_worked (l : Launch) (G : gG) {c : Nat → Option Nat} (hc : G.2.2.2 = c) (x0 : Nat) (x1 : Nat) (w0 : GW) (K : Int32 → Prop) (hw : wX13_worked_0 c x0 x1 w0 K) {F2 L2 : Nat} (h2 : 0 ≤ F2 ∧ 0 ≤ L2 := by exact ⟨Nat.le_refl _, Nat.le_refl _⟩) : CtI l yX13_worked cX13_worked 2 .int ({ frames := F2, cells := 0, slots := 0, locals := L2 }) G [.ref (x0), .ref (x1)] w0 (KPI w0 K) :=
  CtI.of RX13 plainc_X13 rfl (Nat.le_of_ble_eq_true rfl) (fun E hE hl hG hn hR hK => bX13_worked_0 hE hn (hR.le h2.1 h2.2) (by rw [hG]; exact hc) hK hw)
def wX14_worked_0 (c : Nat → Option Nat) (x0 : Nat) (x1 : Nat) (w0 : GW) (K : Int32 → Prop) : Prop :=
  ∃ f1 : Int32, gfm w0 x0 [12] 0 = some (.int f1) ∧ (∃ (n3 : Nat) (f4 : Nat → Int32), gai w0 x1 0 = some (n3, f4) ∧ vp_in f1 n3 ∧ (K (rd f4 f1)))
set_option maxRecDepth 100000 in
theorem bX14_worked_0 {E : jE} (hE : jOk E cX14_worked RX14) (hn : E.2.2.2.2 = 2) (hR : jRoom E 0 0) {c : Nat → Option Nat} (hc : E.2.2.1.2.2.2 = c) {b : Nat × Nat} {w0 : GW} {K : Int32 → Prop} (hK : jRi E .int (KPI w0 K)) {x0 : Nat} {x1 : Nat}  (hw : wX14_worked_0 c x0 x1 w0 K) : J E w0 b [(0, .ref (x0)), (1, .ref (x1))] 0 [] := by
  unfold wX14_worked_0 at hw
  refine j_aload_n hE 1 dX14_worked_0 rfl rfl ?_
  refine j_aload_n hE 0 dX14_worked_1 rfl rfl ?_
  obtain ⟨f1, h2, hw⟩ := hw
  refine j_getM hE gf_GlassStreet_Fact_which q1028 h2 dX14_worked_2 ?_
  obtain ⟨n3, f4, h5, h6, hw⟩ := hw
  refine j_aldI hE h5 h6 dX14_worked_5 ?_
  exact j_iret hE hK dX14_worked_6 rfl ⟨rfl, hw⟩
theorem jdX14_worked : jD yX14_worked 1 := by decide +kernel
abbrev wX14_worked := wX14_worked_0
theorem ctX14_worked (l : Launch) (G : gG) {c : Nat → Option Nat} (hc : G.2.2.2 = c) (x0 : Nat) (x1 : Nat) (w0 : GW) (K : Int32 → Prop) (hw : wX14_worked_0 c x0 x1 w0 K) {F2 L2 : Nat} (h2 : 0 ≤ F2 ∧ 0 ≤ L2 := by exact ⟨Nat.le_refl _, Nat.le_refl _⟩) : CtI l yX14_worked cX14_worked 2 .int ({ frames := F2, cells := 0, slots := 0, locals := L2 }) G [.ref (x0), .ref (x1)] w0 (KPI w0 K) :=
  CtI.of RX14 plainc_X14 rfl (Nat.le_of_ble_eq_true rfl) (fun E hE hl hG hn hR hK => bX14_worked_0 hE hn (hR.le h2.1 h2.2) (by rw [hG]; exact hc) hK hw)
theorem jrdX15_worked_5 {E : jE} {FT LT : Nat} {P : Nat → Nat → GW → (Int32 → Prop) → Prop} {c : Nat → Option Nat} (hE : jOk E cX15_worked RX15) (hR : jRoom E (FT + 1) (LT + 60)) (hP : RecW E.1.2.1 E.2.2.1 c FT LT P) (hF : 20 ≤ FT ∧ 600 ≤ LT) (hc : E.2.2.1.2.2.2 = c) {w9 : GW} {b : Nat × Nat} {L : List (Nat × Value)} {st : List Value} {x9 : Nat} {y0 : Nat} {K : Int32 → Prop} {As rest : List Value} (hst : st = As.reverse ++ .ref x9 :: rest) (hcat : (rest.map fun v => v.category).sum ≤ 8) (hb : 0 ≤ b.1 ∧ 0 ≤ b.2) (hw : P x9 y0 w9 K) (hAs : As = [.ref y0] := by rfl) : jRun E w9 b L 5 st rest 0 0 (va_Qi (KPI w9 K) (gB E.2.2.1 E.2.2.2.1) E.2.2.2.1 (.ref x9 :: As).toArray) := by
  subst hAs
  obtain ⟨C9, y9, by9, L9, hM9, hc9, hz9⟩ := hP x9 y0 w9 K hw
  rcases hc9 with ⟨rfl, rfl, rfl, rfl⟩ | ⟨rfl, rfl, rfl, rfl⟩ | ⟨rfl, rfl, rfl, rfl⟩ | ⟨rfl, rfl, rfl, rfl⟩
  · exact jr_A hE hR (rm := { frames := FT, cells := 0, slots := 0, locals := LT }) (hM9 E.2.2.2.1) (lw_U (C := "GlassStreet$Given") (owner := "GlassStreet$Expression") q1338 q1328 q1332 q1333 q151 q1334) q1327 ⟨by decide, by decide, jdX13_worked.2.2⟩ ⟨by (try dsimp only); omega, by (try dsimp only); omega⟩ hb (gmc_gIs hz9 (r := (RX13, TX13, 1)) rfl) hst hcat dX15_worked_5
  · exact jr_A hE hR (rm := { frames := FT, cells := 0, slots := 0, locals := LT }) (hM9 E.2.2.2.1) (lw_U (C := "GlassStreet$Fact") (owner := "GlassStreet$Expression") q1338 q1328 q1329 q1330 q152 q1331) q1327 ⟨by decide, by decide, jdX14_worked.2.2⟩ ⟨by (try dsimp only); omega, by (try dsimp only); omega⟩ hb (gmc_gIs hz9 (r := (RX14, TX14, 1)) rfl) hst hcat dX15_worked_5
  · exact jr_A hE hR (rm := { frames := FT, cells := 0, slots := 0, locals := LT }) (hM9 E.2.2.2.1) (lw_U (C := "GlassStreet$Not") (owner := "GlassStreet$Expression") q1338 q1328 q1335 q1336 q153 q1337) q1327 ⟨by decide, by decide, jdX15_worked.2.2⟩ ⟨by (try dsimp only); omega, by (try dsimp only); omega⟩ hb (gmc_gIs hz9 (r := (RX15, TX15, 1)) rfl) hst hcat dX15_worked_5
  · exact jr_A hE hR (rm := { frames := FT, cells := 0, slots := 0, locals := LT }) (hM9 E.2.2.2.1) (lw_U (C := "GlassStreet$Two") (owner := "GlassStreet$Expression") q1338 q1328 q1342 q1339 q154 q1340) q1327 ⟨by decide, by decide, jdX16_worked.2.2⟩ ⟨by (try dsimp only); omega, by (try dsimp only); omega⟩ hb (gmc_gIs hz9 (r := (RX16, TX16, 3)) rfl) hst hcat dX15_worked_5
def wX15_worked_0 (c : Nat → Option Nat) (P : Nat → Nat → GW → (Int32 → Prop) → Prop) (x0 : Nat) (x1 : Nat) (w0 : GW) (K : Int32 → Prop) : Prop :=
  ∃ f1 : Option Nat, gfm w0 x0 [13] 0 = some (va_rf f1) ∧ (∃ a3 : Nat, f1 = some a3 ∧ (P a3 x1 w0 (fun r4 => (¬ r4 = 0 → (K ((0 : Int32)))) ∧ (r4 = 0 → (K ((1 : Int32)))))))
set_option maxRecDepth 100000 in
theorem bX15_worked_0 {E : jE} {FT LT : Nat} (hE : jOk E cX15_worked RX15) (hn : E.2.2.2.2 = 2) (hR : jRoom E (FT + 1) (LT + 60)) {c : Nat → Option Nat} (hc : E.2.2.1.2.2.2 = c) {b : Nat × Nat} {w0 : GW} {K : Int32 → Prop} (hK : jRi E .int (KPI w0 K)) {P : Nat → Nat → GW → (Int32 → Prop) → Prop} {x0 : Nat} {x1 : Nat} (hP : RecW E.1.2.1 E.2.2.1 c FT LT P) (hF : 20 ≤ FT ∧ 600 ≤ LT) (hw : wX15_worked_0 c P x0 x1 w0 K) : J E w0 b [(0, .ref (x0)), (1, .ref (x1))] 0 [] := by
  unfold wX15_worked_0 at hw
  refine j_aload_n hE 0 dX15_worked_0 rfl rfl ?_
  obtain ⟨f1, h2, hw⟩ := hw
  refine j_getM hE gf_GlassStreet_Not_part q1038 h2 dX15_worked_1 ?_
  refine j_aload_n hE 1 dX15_worked_4 rfl rfl ?_
  obtain ⟨a3, e9, hx⟩ := hw
  subst e9
  have hw := hx
  clear hx
  refine jc_ip (jrdX15_worked_5 hE hR hP hF hc (As := [.ref (x1)]) (rest := []) rfl (Nat.le_of_ble_eq_true rfl) ⟨Nat.zero_le _, Nat.zero_le _⟩ hw) (fun r4 hw => ?_)
  refine j_b0 ?_
  refine j_if_ne hE 15 dX15_worked_8 (by decide) (fun c5 => ?_) (fun c5 => ?_)
  · replace hw := hw.1 c5
    refine j_iconst hE dX15_worked_15 kc_0 ?_
    exact j_iret hE hK dX15_worked_16 rfl ⟨rfl, hw⟩
  · replace hw := hw.2 c5
    refine j_iconst hE dX15_worked_11 kc_1 ?_
    refine j_goto hE 16 dX15_worked_12 (by decide) ?_
    exact j_iret hE hK dX15_worked_16 rfl ⟨rfl, hw⟩
abbrev wX15_worked := wX15_worked_0
theorem ctX15_worked (l : Launch) (G : gG) {c : Nat → Option Nat} (hc : G.2.2.2 = c) {FT LT : Nat} {P : Nat → Nat → GW → (Int32 → Prop) → Prop} (hP : RecW l G c FT LT P) (hF : 20 ≤ FT ∧ 600 ≤ LT) (x0 : Nat) (x1 : Nat) (w0 : GW) (K : Int32 → Prop) (hw : wX15_worked_0 c P x0 x1 w0 K) {F2 L2 : Nat} (h2 : FT + 1 ≤ F2 ∧ LT + 60 ≤ L2 := by exact ⟨Nat.le_refl _, Nat.le_refl _⟩) : CtI l yX15_worked cX15_worked 2 .int ({ frames := F2, cells := 0, slots := 0, locals := L2 }) G [.ref (x0), .ref (x1)] w0 (KPI w0 K) :=
  CtI.of RX15 plainc_X15 rfl (Nat.le_of_ble_eq_true rfl) (fun E hE hl hG hn hR hK => bX15_worked_0 hE hn (hR.le h2.1 h2.2) (by rw [hG]; exact hc) hK (by rw [hl, hG]; exact hP) hF hw)
theorem jrdX16_worked_5 {E : jE} {FT LT : Nat} {P : Nat → Nat → GW → (Int32 → Prop) → Prop} {c : Nat → Option Nat} (hE : jOk E cX16_worked RX16) (hR : jRoom E (FT + 1) (LT + 60)) (hP : RecW E.1.2.1 E.2.2.1 c FT LT P) (hF : 20 ≤ FT ∧ 600 ≤ LT) (hc : E.2.2.1.2.2.2 = c) {w9 : GW} {b : Nat × Nat} {L : List (Nat × Value)} {st : List Value} {x9 : Nat} {y0 : Nat} {K : Int32 → Prop} {As rest : List Value} (hst : st = As.reverse ++ .ref x9 :: rest) (hcat : (rest.map fun v => v.category).sum ≤ 8) (hb : 0 ≤ b.1 ∧ 0 ≤ b.2) (hw : P x9 y0 w9 K) (hAs : As = [.ref y0] := by rfl) : jRun E w9 b L 5 st rest 0 0 (va_Qi (KPI w9 K) (gB E.2.2.1 E.2.2.2.1) E.2.2.2.1 (.ref x9 :: As).toArray) := by
  subst hAs
  obtain ⟨C9, y9, by9, L9, hM9, hc9, hz9⟩ := hP x9 y0 w9 K hw
  rcases hc9 with ⟨rfl, rfl, rfl, rfl⟩ | ⟨rfl, rfl, rfl, rfl⟩ | ⟨rfl, rfl, rfl, rfl⟩ | ⟨rfl, rfl, rfl, rfl⟩
  · exact jr_A hE hR (rm := { frames := FT, cells := 0, slots := 0, locals := LT }) (hM9 E.2.2.2.1) (lw_U (C := "GlassStreet$Given") (owner := "GlassStreet$Expression") q1341 q1328 q1332 q1333 q151 q1334) q1327 ⟨by decide, by decide, jdX13_worked.2.2⟩ ⟨by (try dsimp only); omega, by (try dsimp only); omega⟩ hb (gmc_gIs hz9 (r := (RX13, TX13, 1)) rfl) hst hcat dX16_worked_5
  · exact jr_A hE hR (rm := { frames := FT, cells := 0, slots := 0, locals := LT }) (hM9 E.2.2.2.1) (lw_U (C := "GlassStreet$Fact") (owner := "GlassStreet$Expression") q1341 q1328 q1329 q1330 q152 q1331) q1327 ⟨by decide, by decide, jdX14_worked.2.2⟩ ⟨by (try dsimp only); omega, by (try dsimp only); omega⟩ hb (gmc_gIs hz9 (r := (RX14, TX14, 1)) rfl) hst hcat dX16_worked_5
  · exact jr_A hE hR (rm := { frames := FT, cells := 0, slots := 0, locals := LT }) (hM9 E.2.2.2.1) (lw_U (C := "GlassStreet$Not") (owner := "GlassStreet$Expression") q1341 q1328 q1335 q1336 q153 q1337) q1327 ⟨by decide, by decide, jdX15_worked.2.2⟩ ⟨by (try dsimp only); omega, by (try dsimp only); omega⟩ hb (gmc_gIs hz9 (r := (RX15, TX15, 1)) rfl) hst hcat dX16_worked_5
  · exact jr_A hE hR (rm := { frames := FT, cells := 0, slots := 0, locals := LT }) (hM9 E.2.2.2.1) (lw_U (C := "GlassStreet$Two") (owner := "GlassStreet$Expression") q1341 q1328 q1342 q1339 q154 q1340) q1327 ⟨by decide, by decide, jdX16_worked.2.2⟩ ⟨by (try dsimp only); omega, by (try dsimp only); omega⟩ hb (gmc_gIs hz9 (r := (RX16, TX16, 3)) rfl) hst hcat dX16_worked_5
theorem jrdX16_worked_14 {E : jE} {FT LT : Nat} {P : Nat → Nat → GW → (Int32 → Prop) → Prop} {c : Nat → Option Nat} (hE : jOk E cX16_worked RX16) (hR : jRoom E (FT + 1) (LT + 60)) (hP : RecW E.1.2.1 E.2.2.1 c FT LT P) (hF : 20 ≤ FT ∧ 600 ≤ LT) (hc : E.2.2.1.2.2.2 = c) {w9 : GW} {b : Nat × Nat} {L : List (Nat × Value)} {st : List Value} {x9 : Nat} {y0 : Nat} {K : Int32 → Prop} {As rest : List Value} (hst : st = As.reverse ++ .ref x9 :: rest) (hcat : (rest.map fun v => v.category).sum ≤ 8) (hb : 0 ≤ b.1 ∧ 0 ≤ b.2) (hw : P x9 y0 w9 K) (hAs : As = [.ref y0] := by rfl) : jRun E w9 b L 14 st rest 0 0 (va_Qi (KPI w9 K) (gB E.2.2.1 E.2.2.2.1) E.2.2.2.1 (.ref x9 :: As).toArray) := by
  subst hAs
  obtain ⟨C9, y9, by9, L9, hM9, hc9, hz9⟩ := hP x9 y0 w9 K hw
  rcases hc9 with ⟨rfl, rfl, rfl, rfl⟩ | ⟨rfl, rfl, rfl, rfl⟩ | ⟨rfl, rfl, rfl, rfl⟩ | ⟨rfl, rfl, rfl, rfl⟩
  · exact jr_A hE hR (rm := { frames := FT, cells := 0, slots := 0, locals := LT }) (hM9 E.2.2.2.1) (lw_U (C := "GlassStreet$Given") (owner := "GlassStreet$Expression") q1341 q1328 q1332 q1333 q151 q1334) q1327 ⟨by decide, by decide, jdX13_worked.2.2⟩ ⟨by (try dsimp only); omega, by (try dsimp only); omega⟩ hb (gmc_gIs hz9 (r := (RX13, TX13, 1)) rfl) hst hcat dX16_worked_14
  · exact jr_A hE hR (rm := { frames := FT, cells := 0, slots := 0, locals := LT }) (hM9 E.2.2.2.1) (lw_U (C := "GlassStreet$Fact") (owner := "GlassStreet$Expression") q1341 q1328 q1329 q1330 q152 q1331) q1327 ⟨by decide, by decide, jdX14_worked.2.2⟩ ⟨by (try dsimp only); omega, by (try dsimp only); omega⟩ hb (gmc_gIs hz9 (r := (RX14, TX14, 1)) rfl) hst hcat dX16_worked_14
  · exact jr_A hE hR (rm := { frames := FT, cells := 0, slots := 0, locals := LT }) (hM9 E.2.2.2.1) (lw_U (C := "GlassStreet$Not") (owner := "GlassStreet$Expression") q1341 q1328 q1335 q1336 q153 q1337) q1327 ⟨by decide, by decide, jdX15_worked.2.2⟩ ⟨by (try dsimp only); omega, by (try dsimp only); omega⟩ hb (gmc_gIs hz9 (r := (RX15, TX15, 1)) rfl) hst hcat dX16_worked_14
  · exact jr_A hE hR (rm := { frames := FT, cells := 0, slots := 0, locals := LT }) (hM9 E.2.2.2.1) (lw_U (C := "GlassStreet$Two") (owner := "GlassStreet$Expression") q1341 q1328 q1342 q1339 q154 q1340) q1327 ⟨by decide, by decide, jdX16_worked.2.2⟩ ⟨by (try dsimp only); omega, by (try dsimp only); omega⟩ hb (gmc_gIs hz9 (r := (RX16, TX16, 3)) rfl) hst hcat dX16_worked_14
def wX16_worked_0 (c : Nat → Option Nat) (P : Nat → Nat → GW → (Int32 → Prop) → Prop) (x0 : Nat) (x1 : Nat) (w0 : GW) (K : Int32 → Prop) : Prop :=
  ∃ f1 : Option Nat, gfm w0 x0 [14] 1 = some (va_rf f1) ∧ (∃ a3 : Nat, f1 = some a3 ∧ (P a3 x1 w0 (fun r4 => ∃ f5 : Option Nat, gfm w0 x0 [14] 2 = some (va_rf f5) ∧ (∃ a7 : Nat, f5 = some a7 ∧ (P a7 x1 w0 (fun r8 => ∃ f9 : Int32, gfm w0 x0 [14] 0 = some (.int f9) ∧ ((f9 = nI 38 → ((r4 = 0 → (K ((0 : Int32)))) ∧ (¬ r4 = 0 → ((r8 = 0 → (K ((0 : Int32)))) ∧ (¬ r8 = 0 → (K ((1 : Int32)))))))) ∧ (¬ f9 = nI 38 → (f9 = nI 42 → (K (r4 * r8))) ∧ (¬ f9 = nI 42 → (f9 = nI 43 → (K (r4 + r8))) ∧ (¬ f9 = nI 43 → (f9 = nI 45 → (K (r4 - r8))) ∧ (¬ f9 = nI 45 → (f9 = nI 60 → ((r8 ≤ r4 → (K ((0 : Int32)))) ∧ (¬ r8 ≤ r4 → (K ((1 : Int32)))))) ∧ (¬ f9 = nI 60 → (f9 = nI 61 → ((¬ r4 = r8 → (K ((0 : Int32)))) ∧ (r4 = r8 → (K ((1 : Int32)))))) ∧ (¬ f9 = nI 61 → ((¬ r4 = 0 → (K ((1 : Int32)))) ∧ (r4 = 0 → ((r8 = 0 → (K ((0 : Int32)))) ∧ (¬ r8 = 0 → (K ((1 : Int32))))))))))))))))))))
set_option maxRecDepth 100000 in
theorem bX16_worked_0 {E : jE} {FT LT : Nat} (hE : jOk E cX16_worked RX16) (hn : E.2.2.2.2 = 4) (hR : jRoom E (FT + 1) (LT + 60)) {c : Nat → Option Nat} (hc : E.2.2.1.2.2.2 = c) {b : Nat × Nat} {w0 : GW} {K : Int32 → Prop} (hK : jRi E .int (KPI w0 K)) {P : Nat → Nat → GW → (Int32 → Prop) → Prop} {x0 : Nat} {x1 : Nat} (hP : RecW E.1.2.1 E.2.2.1 c FT LT P) (hF : 20 ≤ FT ∧ 600 ≤ LT) (hw : wX16_worked_0 c P x0 x1 w0 K) : J E w0 b [(0, .ref (x0)), (1, .ref (x1))] 0 [] := by
  unfold wX16_worked_0 at hw
  refine j_aload_n hE 0 dX16_worked_0 rfl rfl ?_
  obtain ⟨f1, h2, hw⟩ := hw
  refine j_getM hE gf_GlassStreet_Two_a q1053 h2 dX16_worked_1 ?_
  refine j_aload_n hE 1 dX16_worked_4 rfl rfl ?_
  obtain ⟨a3, e9, hx⟩ := hw
  subst e9
  have hw := hx
  clear hx
  refine jc_ip (jrdX16_worked_5 hE hR hP hF hc (As := [.ref (x1)]) (rest := []) rfl (Nat.le_of_ble_eq_true rfl) ⟨Nat.zero_le _, Nat.zero_le _⟩ hw) (fun r4 hw => ?_)
  refine j_b0 ?_
  refine j_istore_n (L' := [(2, .int (r4)), (0, .ref (x0)), (1, .ref (x1))]) hE hn dX16_worked_8 rfl (Nat.le_of_ble_eq_true rfl) rfl ?_
  refine j_aload_n hE 1 dX16_worked_9 rfl rfl ?_
  obtain ⟨f5, h6, hw⟩ := hw
  refine j_getM hE gf_GlassStreet_Two_b q1054 h6 dX16_worked_10 ?_
  refine j_aload_n hE 2 dX16_worked_13 rfl rfl ?_
  obtain ⟨a7, e9, hx⟩ := hw
  subst e9
  have hw := hx
  clear hx
  refine jc_ip (jrdX16_worked_14 hE hR hP hF hc (As := [.ref (x1)]) (rest := []) rfl (Nat.le_of_ble_eq_true rfl) ⟨Nat.zero_le _, Nat.zero_le _⟩ hw) (fun r8 hw => ?_)
  refine j_b0 ?_
  refine j_istore_n (L' := [(3, .int (r8)), (2, .int (r4)), (0, .ref (x0)), (1, .ref (x1))]) hE hn dX16_worked_17 rfl (Nat.le_of_ble_eq_true rfl) rfl ?_
  refine j_aload_n hE 2 dX16_worked_18 rfl rfl ?_
  obtain ⟨f9, h10, hw⟩ := hw
  refine j_getM hE gf_GlassStreet_Two_way q1052 h10 dX16_worked_19 ?_
  by_cases c11 : f9 = nI 38
  · replace hw := hw.1 c11
    refine j_lks hE 114 dX16_worked_22 (by decide) (by rw [c11] <;> decide) (by decide) ?_
    refine j_iload_n hE 1 dX16_worked_114 rfl rfl ?_
    refine j_if_eq hE 126 dX16_worked_115 (by decide) (fun c12 => ?_) (fun c12 => ?_)
    · replace hw := hw.1 c12
      refine j_iconst hE dX16_worked_126 kc_0 ?_
      exact j_iret hE hK dX16_worked_127 rfl ⟨rfl, hw⟩
    · replace hw := hw.2 c12
      refine j_iload_n hE 0 dX16_worked_118 rfl rfl ?_
      refine j_if_eq hE 126 dX16_worked_119 (by decide) (fun c13 => ?_) (fun c13 => ?_)
      · replace hw := hw.1 c13
        refine j_iconst hE dX16_worked_126 kc_0 ?_
        exact j_iret hE hK dX16_worked_127 rfl ⟨rfl, hw⟩
      · replace hw := hw.2 c13
        refine j_iconst hE dX16_worked_122 kc_1 ?_
        refine j_goto hE 127 dX16_worked_123 (by decide) ?_
        exact j_iret hE hK dX16_worked_127 rfl ⟨rfl, hw⟩
  replace hw := hw.2 c11
  by_cases c14 : f9 = nI 42
  · replace hw := hw.1 c14
    refine j_lks hE 88 dX16_worked_22 (by decide) (by rw [c14] <;> decide) (by decide) ?_
    refine j_iload_n hE 1 dX16_worked_88 rfl rfl ?_
    refine j_iload_n hE 0 dX16_worked_89 rfl rfl ?_
    refine j_imul hE dX16_worked_90 ?_
    exact j_iret hE hK dX16_worked_91 rfl ⟨rfl, hw⟩
  replace hw := hw.2 c14
  by_cases c15 : f9 = nI 43
  · replace hw := hw.1 c15
    refine j_lks hE 80 dX16_worked_22 (by decide) (by rw [c15] <;> decide) (by decide) ?_
    refine j_iload_n hE 1 dX16_worked_80 rfl rfl ?_
    refine j_iload_n hE 0 dX16_worked_81 rfl rfl ?_
    refine j_iadd hE dX16_worked_82 ?_
    exact j_iret hE hK dX16_worked_83 rfl ⟨rfl, hw⟩
  replace hw := hw.2 c15
  by_cases c16 : f9 = nI 45
  · replace hw := hw.1 c16
    refine j_lks hE 84 dX16_worked_22 (by decide) (by rw [c16] <;> decide) (by decide) ?_
    refine j_iload_n hE 1 dX16_worked_84 rfl rfl ?_
    refine j_iload_n hE 0 dX16_worked_85 rfl rfl ?_
    refine j_isub hE dX16_worked_86 ?_
    exact j_iret hE hK dX16_worked_87 rfl ⟨rfl, hw⟩
  replace hw := hw.2 c16
  by_cases c17 : f9 = nI 60
  · replace hw := hw.1 c17
    refine j_lks hE 92 dX16_worked_22 (by decide) (by rw [c17] <;> decide) (by decide) ?_
    refine j_iload_n hE 1 dX16_worked_92 rfl rfl ?_
    refine j_iload_n hE 0 dX16_worked_93 rfl rfl ?_
    refine j_icmp_ge hE 101 dX16_worked_94 (by decide) (fun c18 => ?_) (fun c18 => ?_)
    · replace hw := hw.1 c18
      refine j_iconst hE dX16_worked_101 kc_0 ?_
      exact j_iret hE hK dX16_worked_102 rfl ⟨rfl, hw⟩
    · replace hw := hw.2 c18
      refine j_iconst hE dX16_worked_97 kc_1 ?_
      refine j_goto hE 102 dX16_worked_98 (by decide) ?_
      exact j_iret hE hK dX16_worked_102 rfl ⟨rfl, hw⟩
  replace hw := hw.2 c17
  by_cases c19 : f9 = nI 61
  · replace hw := hw.1 c19
    refine j_lks hE 103 dX16_worked_22 (by decide) (by rw [c19] <;> decide) (by decide) ?_
    refine j_iload_n hE 1 dX16_worked_103 rfl rfl ?_
    refine j_iload_n hE 0 dX16_worked_104 rfl rfl ?_
    refine j_icmp_ne hE 112 dX16_worked_105 (by decide) (fun c20 => ?_) (fun c20 => ?_)
    · replace hw := hw.1 c20
      refine j_iconst hE dX16_worked_112 kc_0 ?_
      exact j_iret hE hK dX16_worked_113 rfl ⟨rfl, hw⟩
    · replace hw := hw.2 c20
      refine j_iconst hE dX16_worked_108 kc_1 ?_
      refine j_goto hE 113 dX16_worked_109 (by decide) ?_
      exact j_iret hE hK dX16_worked_113 rfl ⟨rfl, hw⟩
  replace hw := hw.2 c19
  refine j_lks (off := 106) hE 128 dX16_worked_22 (by decide) (lks_out _ _ _ ?_) (by decide) ?_
  · intro k hk; simp at hk; rcases hk with rfl | rfl | rfl | rfl | rfl | rfl
    · exact tsw_ne _ _ _ (by decide) c11
    · exact tsw_ne _ _ _ (by decide) c14
    · exact tsw_ne _ _ _ (by decide) c15
    · exact tsw_ne _ _ _ (by decide) c16
    · exact tsw_ne _ _ _ (by decide) c17
    · exact tsw_ne _ _ _ (by decide) c19
  refine j_iload_n hE 1 dX16_worked_128 rfl rfl ?_
  refine j_if_ne hE 136 dX16_worked_129 (by decide) (fun c21 => ?_) (fun c21 => ?_)
  · replace hw := hw.1 c21
    refine j_iconst hE dX16_worked_136 kc_1 ?_
    refine j_goto hE 141 dX16_worked_137 (by decide) ?_
    exact j_iret hE hK dX16_worked_141 rfl ⟨rfl, hw⟩
  · replace hw := hw.2 c21
    refine j_iload_n hE 0 dX16_worked_132 rfl rfl ?_
    refine j_if_eq hE 140 dX16_worked_133 (by decide) (fun c22 => ?_) (fun c22 => ?_)
    · replace hw := hw.1 c22
      refine j_iconst hE dX16_worked_140 kc_0 ?_
      exact j_iret hE hK dX16_worked_141 rfl ⟨rfl, hw⟩
    · replace hw := hw.2 c22
      refine j_iconst hE dX16_worked_136 kc_1 ?_
      refine j_goto hE 141 dX16_worked_137 (by decide) ?_
      exact j_iret hE hK dX16_worked_141 rfl ⟨rfl, hw⟩
abbrev wX16_worked := wX16_worked_0
theorem ctX16_worked (l : Launch) (G : gG) {c : Nat → Option Nat} (hc : G.2.2.2 = c) {FT LT : Nat} {P : Nat → Nat → GW → (Int32 → Prop) → Prop} (hP : RecW l G c FT LT P) (hF : 20 ≤ FT ∧ 600 ≤ LT) (x0 : Nat) (x1 : Nat) (w0 : GW) (K : Int32 → Prop) (hw : wX16_worked_0 c P x0 x1 w0 K) {F2 L2 : Nat} (h2 : FT + 1 ≤ F2 ∧ LT + 60 ≤ L2 := by exact ⟨Nat.le_refl _, Nat.le_refl _⟩) : CtI l yX16_worked cX16_worked 4 .int ({ frames := F2, cells := 0, slots := 0, locals := L2 }) G [.ref (x0), .ref (x1)] w0 (KPI w0 K) :=
  CtI.of RX16 plainc_X16 rfl (Nat.le_of_ble_eq_true rfl) (fun E hE hl hG hn hR hK => bX16_worked_0 hE hn (hR.le h2.1 h2.2) (by rw [hG]; exact hc) hK (by rw [hl, hG]; exact hP) hF hw)
def wD_worked (c : Nat → Option Nat) : Nat → Nat → Nat → GW → (Int32 → Prop) → Prop
  | 0 => fun _ _ _ _ => False
  | n + 1 => fun a fa w K => (gmc w a = some 11 ∧ wX13_worked c a fa w K) ∨ (gmc w a = some 12 ∧ wX14_worked c a fa w K) ∨ (gmc w a = some 13 ∧ wX15_worked c (wD_worked c n) a fa w K) ∨ (gmc w a = some 14 ∧ wX16_worked c (wD_worked c n) a fa w K)
theorem recW (l : Launch) (G : gG) {c : Nat → Option Nat} (hc : G.2.2.2 = c) (n : Nat) : RecW l G c (20 + 2 * n) (600 + 60 * n) (wD_worked c n) := by
  induction n with
  | zero => exact fun _ _ _ _ h => h.elim
  | succ n ih =>
    intro a fa w K h
    rcases h with ⟨h1, h⟩ | ⟨h1, h⟩ | ⟨h1, h⟩ | ⟨h1, h⟩
    · exact ⟨11, _, _, _, ctX13_worked l G hc a fa w K h ⟨by omega, by omega⟩, Or.inl ⟨rfl, rfl, rfl, rfl⟩, h1⟩
    · exact ⟨12, _, _, _, ctX14_worked l G hc a fa w K h ⟨by omega, by omega⟩, Or.inr (Or.inl ⟨rfl, rfl, rfl, rfl⟩), h1⟩
    · exact ⟨13, _, _, _, ctX15_worked l G hc ih ⟨by omega, by omega⟩ a fa w K h ⟨by omega, by omega⟩, Or.inr (Or.inr (Or.inl ⟨rfl, rfl, rfl, rfl⟩)), h1⟩
    · exact ⟨14, _, _, _, ctX16_worked l G hc ih ⟨by omega, by omega⟩ a fa w K h ⟨by omega, by omega⟩, Or.inr (Or.inr (Or.inr ⟨rfl, rfl, rfl, rfl⟩)), h1⟩
theorem jrdX1_fades_101 {E : jE} {c : Nat → Option Nat} (hE : jOk E cX1_fades RX1) (hR : jRoom E 2225 66700) (hc : E.2.2.1.2.2.2 = c) {w9 : GW} {b : Nat × Nat} {L : List (Nat × Value)} {st : List Value} {x9 : Nat} {y0 : Nat} {K : Int32 → Prop} {As rest : List Value} (hst : st = As.reverse ++ .ref x9 :: rest) (hcat : (rest.map fun v => v.category).sum ≤ 8) (hb : 0 ≤ b.1 ∧ 0 ≤ b.2) (hw : wD_worked c 1100 x9 y0 w9 K) (hAs : As = [.ref y0] := by rfl) : jRun E w9 b L 101 st rest 0 0 (va_Qi (KPI w9 K) (gB E.2.2.1 E.2.2.2.1) E.2.2.2.1 (.ref x9 :: As).toArray) := by
  subst hAs
  obtain ⟨C9, y9, by9, L9, hM9, hc9, hz9⟩ := recW E.1.2.1 E.2.2.1 hc 1100 x9 y0 w9 K hw
  rcases hc9 with ⟨rfl, rfl, rfl, rfl⟩ | ⟨rfl, rfl, rfl, rfl⟩ | ⟨rfl, rfl, rfl, rfl⟩ | ⟨rfl, rfl, rfl, rfl⟩
  · exact jr_A hE hR (rm := { frames := 2220, cells := 0, slots := 0, locals := 66600 }) (hM9 E.2.2.2.1) (lw_U (C := "GlassStreet$Given") (owner := "GlassStreet$Expression") q1326 q1328 q1332 q1333 q151 q1334) q1327 ⟨by decide, by decide, jdX13_worked.2.2⟩ ⟨Nat.le_of_ble_eq_true rfl, Nat.le_of_ble_eq_true rfl⟩ hb (gmc_gIs hz9 (r := (RX13, TX13, 1)) rfl) hst hcat dX1_fades_101
  · exact jr_A hE hR (rm := { frames := 2220, cells := 0, slots := 0, locals := 66600 }) (hM9 E.2.2.2.1) (lw_U (C := "GlassStreet$Fact") (owner := "GlassStreet$Expression") q1326 q1328 q1329 q1330 q152 q1331) q1327 ⟨by decide, by decide, jdX14_worked.2.2⟩ ⟨Nat.le_of_ble_eq_true rfl, Nat.le_of_ble_eq_true rfl⟩ hb (gmc_gIs hz9 (r := (RX14, TX14, 1)) rfl) hst hcat dX1_fades_101
  · exact jr_A hE hR (rm := { frames := 2220, cells := 0, slots := 0, locals := 66600 }) (hM9 E.2.2.2.1) (lw_U (C := "GlassStreet$Not") (owner := "GlassStreet$Expression") q1326 q1328 q1335 q1336 q153 q1337) q1327 ⟨by decide, by decide, jdX15_worked.2.2⟩ ⟨Nat.le_of_ble_eq_true rfl, Nat.le_of_ble_eq_true rfl⟩ hb (gmc_gIs hz9 (r := (RX15, TX15, 1)) rfl) hst hcat dX1_fades_101
  · exact jr_A hE hR (rm := { frames := 2220, cells := 0, slots := 0, locals := 66600 }) (hM9 E.2.2.2.1) (lw_U (C := "GlassStreet$Two") (owner := "GlassStreet$Expression") q1326 q1328 q1342 q1339 q154 q1340) q1327 ⟨by decide, by decide, jdX16_worked.2.2⟩ ⟨Nat.le_of_ble_eq_true rfl, Nat.le_of_ble_eq_true rfl⟩ hb (gmc_gIs hz9 (r := (RX16, TX16, 3)) rfl) hst hcat dX1_fades_101
def wX1_fades_0 (c : Nat → Option Nat) (x0 : Nat) (x1 : Nat) (x2 : Nat) (x3 : Int32) (w : GW) (K : Int32 → GW → Prop) : Prop :=
  ∃ f1 : Option Nat, gfm w x0 [0] 2 = some (va_rf f1) ∧ (∃ a3 : Nat, f1 = some a3 ∧ (∃ f4 : Option Nat, gfm w a3 [2] 7 = some (va_rf f4) ∧ ((¬ f4 = none → (∃ f7 : Option Nat, gfm w x0 [0] 6 = some (va_rf f7) ∧ (∃ f9 : Option Nat, gfm w x2 [4] 3 = some (va_rf f9) ∧ (∃ a11 : Nat, f9 = some a11 ∧ (∃ (n12 : Nat) (f13 : Nat → Int32), gai w a11 0 = some (n12, f13) ∧ vp_in x3 n12 ∧ (∃ a16 : Nat, f7 = some a16 ∧ (∃ (n17 : Nat) (f18 : Nat → Int32), w a16 = some (true, .inl (0, n17, .inl f18)) ∧ vp_in ((0 : Int32)) n17 ∧ (∀ w21 : GW, w21 = gup w a16 (.inl (0, n17, .inl (upd f18 ((0 : Int32)).toNatClampNeg (rd f13 x3)))) → (∃ f22 : Option Nat, gfm w21 x0 [0] 6 = some (va_rf f22) ∧ (∃ f24 : Option Nat, gfm w21 x0 [0] 2 = some (va_rf f24) ∧ (∃ a26 : Nat, f24 = some a26 ∧ (∃ f27 : Option Nat, gfm w21 a26 [2] 4 = some (va_rf f27) ∧ (∃ f29 : Option Nat, gfm w21 x2 [4] 1 = some (va_rf f29) ∧ (∃ a31 : Nat, f29 = some a31 ∧ (∃ (n32 : Nat) (f33 : Nat → Int32), gai w21 a31 0 = some (n32, f33) ∧ vp_in x3 n32 ∧ (∃ a36 : Nat, f27 = some a36 ∧ (∃ (n37 : Nat) (f38 : Nat → Int32), gai w21 a36 0 = some (n37, f38) ∧ vp_in (rd f33 x3) n37 ∧ (∃ a41 : Nat, f22 = some a41 ∧ (∃ (n42 : Nat) (f43 : Nat → Int32), w21 a41 = some (true, .inl (0, n42, .inl f43)) ∧ vp_in ((1 : Int32)) n42 ∧ (∀ w46 : GW, w46 = gup w21 a41 (.inl (0, n42, .inl (upd f43 ((1 : Int32)).toNatClampNeg (rd f38 (rd f33 x3))))) → (∃ f47 : Option Nat, gfm w46 x0 [0] 6 = some (va_rf f47) ∧ (∃ f49 : Option Nat, gfm w46 x0 [0] 2 = some (va_rf f49) ∧ (∃ f51 : Int32, gfm w46 x1 [3] 2 = some (.int f51) ∧ (∃ a53 : Nat, f49 = some a53 ∧ (gmc w46 a53 = some 2 ∧ (wX3_light c a53 f51 w46 (fun r54 => ∃ a56 : Nat, f47 = some a56 ∧ (∃ (n57 : Nat) (f58 : Nat → Int32), w46 a56 = some (true, .inl (0, n57, .inl f58)) ∧ vp_in (nI 2) n57 ∧ (∀ w61 : GW, w61 = gup w46 a56 (.inl (0, n57, .inl (upd f58 (nI 2).toNatClampNeg r54))) → (∃ f62 : Option Nat, gfm w61 x0 [0] 6 = some (va_rf f62) ∧ (∃ f64 : Int32, gfm w61 x2 [4] 4 = some (.int f64) ∧ (∃ a66 : Nat, f62 = some a66 ∧ (∃ (n67 : Nat) (f68 : Nat → Int32), w61 a66 = some (true, .inl (0, n67, .inl f68)) ∧ vp_in (nI 3) n67 ∧ (∀ w71 : GW, w71 = gup w61 a66 (.inl (0, n67, .inl (upd f68 (nI 3).toNatClampNeg ((f64 - ((1 : Int32))) - x3)))) → (∃ f72 : Option Nat, gfm w71 x0 [0] 2 = some (va_rf f72) ∧ (∃ a74 : Nat, f72 = some a74 ∧ (∃ f75 : Option Nat, gfm w71 a74 [2] 7 = some (va_rf f75) ∧ (∃ f77 : Option Nat, gfm w71 x0 [0] 6 = some (va_rf f77) ∧ (∃ a79 : Nat, f75 = some a79 ∧ (∃ a80 : Nat, f77 = some a80 ∧ (wD_worked c 1100 a79 a80 w71 (fun r81 => (r81 = 0 → (K ((0 : Int32)) w71)) ∧ (¬ r81 = 0 → (K ((1 : Int32)) w71)))))))))))))))))))))))))))))))))))))))))))) ∧ (f4 = none → (∃ f83 : Option Nat, gfm w x2 [4] 3 = some (va_rf f83) ∧ (∃ a85 : Nat, f83 = some a85 ∧ (∃ (n86 : Nat) (f87 : Nat → Int32), gai w a85 0 = some (n86, f87) ∧ vp_in x3 n86 ∧ (((rd f87 x3) ≤ (nI 8) → (K ((0 : Int32)) w)) ∧ (¬ (rd f87 x3) ≤ (nI 8) → (K ((1 : Int32)) w))))))))))
set_option maxRecDepth 100000 in
theorem bX1_fades_0 {E : jE} (hE : jOk E cX1_fades RX1) (hn : E.2.2.2.2 = 4) (hR : jRoom E 2225 66700) {c : Nat → Option Nat} (hc : E.2.2.1.2.2.2 = c) {b : Nat × Nat} {K : Int32 → GW → Prop} (hK : jRi E .boolean (K)) {x0 : Nat} {x1 : Nat} {x2 : Nat} {x3 : Int32} {w : GW}  (hw : wX1_fades_0 c x0 x1 x2 x3 w K) : J E w b [(0, .ref (x0)), (1, .ref (x1)), (2, .ref (x2)), (3, .int (x3))] 0 [] := by
  unfold wX1_fades_0 at hw
  refine j_aload_n hE 0 dX1_fades_0 rfl rfl ?_
  obtain ⟨f1, h2, hw⟩ := hw
  refine j_getM hE gf_GlassStreet_houses q349 h2 dX1_fades_1 ?_
  obtain ⟨a3, e9, hx⟩ := hw
  subst e9
  have hw := hx
  clear hx
  obtain ⟨f4, h5, hw⟩ := hw
  refine j_getMN hE gf_GlassStreet_Houses_fades q258 h5 dX1_fades_4 ?_
  refine j_ifnonnull (r := f4) hE 27 dX1_fades_7 (by decide) (fun c6 => ?_) (fun c6 => ?_)
  · replace hw := hw.1 c6
    refine j_aload_n hE 0 dX1_fades_27 rfl rfl ?_
    obtain ⟨f7, h8, hw⟩ := hw
    refine j_getM hE gf_GlassStreet_facts q353 h8 dX1_fades_28 ?_
    refine j_iconst hE dX1_fades_31 kc_0 ?_
    refine j_aload_n hE 2 dX1_fades_32 rfl rfl ?_
    obtain ⟨f9, h10, hw⟩ := hw
    refine j_getMN hE gf_GlassStreet_Marks_age q299 h10 dX1_fades_33 ?_
    refine j_iload_n hE 3 dX1_fades_36 rfl rfl ?_
    obtain ⟨a11, e9, hx⟩ := hw
    subst e9
    have hw := hx
    clear hx
    obtain ⟨n12, f13, h14, h15, hw⟩ := hw
    refine j_aldI hE h14 h15 dX1_fades_37 ?_
    obtain ⟨a16, e9, hx⟩ := hw
    subst e9
    have hw := hx
    clear hx
    obtain ⟨n17, f18, h19, h20, hw⟩ := hw
    refine j_iast hE h19 h20 dX1_fades_38 ?_
    refine j_nw (fun w21 e_w21 => ?_)
    replace hw := hw w21 e_w21
    refine j_aload_n hE 0 dX1_fades_39 rfl rfl ?_
    obtain ⟨f22, h23, hw⟩ := hw
    refine j_getM hE gf_GlassStreet_facts q353 h23 dX1_fades_40 ?_
    refine j_iconst hE dX1_fades_43 kc_1 ?_
    refine j_aload_n hE 0 dX1_fades_44 rfl rfl ?_
    obtain ⟨f24, h25, hw⟩ := hw
    refine j_getM hE gf_GlassStreet_houses q349 h25 dX1_fades_45 ?_
    obtain ⟨a26, e9, hx⟩ := hw
    subst e9
    have hw := hx
    clear hx
    obtain ⟨f27, h28, hw⟩ := hw
    refine j_getMN hE gf_GlassStreet_Houses_harm q251 h28 dX1_fades_48 ?_
    refine j_aload_n hE 2 dX1_fades_51 rfl rfl ?_
    obtain ⟨f29, h30, hw⟩ := hw
    refine j_getMN hE gf_GlassStreet_Marks_deed q295 h30 dX1_fades_52 ?_
    refine j_iload_n hE 3 dX1_fades_55 rfl rfl ?_
    obtain ⟨a31, e9, hx⟩ := hw
    subst e9
    have hw := hx
    clear hx
    obtain ⟨n32, f33, h34, h35, hw⟩ := hw
    refine j_aldI hE h34 h35 dX1_fades_56 ?_
    obtain ⟨a36, e9, hx⟩ := hw
    subst e9
    have hw := hx
    clear hx
    obtain ⟨n37, f38, h39, h40, hw⟩ := hw
    refine j_aldI hE h39 h40 dX1_fades_57 ?_
    obtain ⟨a41, e9, hx⟩ := hw
    subst e9
    have hw := hx
    clear hx
    obtain ⟨n42, f43, h44, h45, hw⟩ := hw
    refine j_iast hE h44 h45 dX1_fades_58 ?_
    refine j_nw (fun w46 e_w46 => ?_)
    replace hw := hw w46 e_w46
    refine j_aload_n hE 0 dX1_fades_59 rfl rfl ?_
    obtain ⟨f47, h48, hw⟩ := hw
    refine j_getM hE gf_GlassStreet_facts q353 h48 dX1_fades_60 ?_
    refine j_iconst hE dX1_fades_63 kc_2 ?_
    refine j_aload_n hE 0 dX1_fades_64 rfl rfl ?_
    obtain ⟨f49, h50, hw⟩ := hw
    refine j_getM hE gf_GlassStreet_houses q349 h50 dX1_fades_65 ?_
    refine j_aload_n hE 1 dX1_fades_68 rfl rfl ?_
    obtain ⟨f51, h52, hw⟩ := hw
    refine j_getMN hE gf_GlassStreet_State_hour q322 h52 dX1_fades_69 ?_
    obtain ⟨a53, e9, hx⟩ := hw
    subst e9
    have hw := hx
    clear hx
    obtain ⟨h55, hw⟩ := hw
    refine jc_ip (jr_V hE hR (As := [.int (f51)]) (rest := [.int (nI 2), va_rf (f47)]) ((ctX3_light E.1.2.1 E.2.2.1 hc _ _ _ _ hw) E.2.2.2.1) (lw_V q1193 q1194 q1195 q123 q1196) jdX3_light ⟨Nat.le_of_ble_eq_true rfl, Nat.le_of_ble_eq_true rfl⟩ ⟨Nat.zero_le _, Nat.zero_le _⟩ (gmc_gIs h55 (r := (RX3, TX3, 8)) rfl) rfl (by cases f47 <;> exact Nat.le_of_ble_eq_true rfl) dX1_fades_72) (fun r54 hw => ?_)
    refine j_b0 ?_
    obtain ⟨a56, e9, hx⟩ := hw
    subst e9
    have hw := hx
    clear hx
    obtain ⟨n57, f58, h59, h60, hw⟩ := hw
    refine j_iast hE h59 h60 dX1_fades_75 ?_
    refine j_nw (fun w61 e_w61 => ?_)
    replace hw := hw w61 e_w61
    refine j_aload_n hE 0 dX1_fades_76 rfl rfl ?_
    obtain ⟨f62, h63, hw⟩ := hw
    refine j_getM hE gf_GlassStreet_facts q353 h63 dX1_fades_77 ?_
    refine j_iconst hE dX1_fades_80 kc_3 ?_
    refine j_aload_n hE 2 dX1_fades_81 rfl rfl ?_
    obtain ⟨f64, h65, hw⟩ := hw
    refine j_getMN hE gf_GlassStreet_Marks_many q303 h65 dX1_fades_82 ?_
    refine j_iconst hE dX1_fades_85 kc_1 ?_
    refine j_isub hE dX1_fades_86 ?_
    refine j_iload_n hE 3 dX1_fades_87 rfl rfl ?_
    refine j_isub hE dX1_fades_88 ?_
    obtain ⟨a66, e9, hx⟩ := hw
    subst e9
    have hw := hx
    clear hx
    obtain ⟨n67, f68, h69, h70, hw⟩ := hw
    refine j_iast hE h69 h70 dX1_fades_89 ?_
    refine j_nw (fun w71 e_w71 => ?_)
    replace hw := hw w71 e_w71
    refine j_aload_n hE 0 dX1_fades_90 rfl rfl ?_
    obtain ⟨f72, h73, hw⟩ := hw
    refine j_getM hE gf_GlassStreet_houses q349 h73 dX1_fades_91 ?_
    obtain ⟨a74, e9, hx⟩ := hw
    subst e9
    have hw := hx
    clear hx
    obtain ⟨f75, h76, hw⟩ := hw
    refine j_getMN hE gf_GlassStreet_Houses_fades q258 h76 dX1_fades_94 ?_
    refine j_aload_n hE 0 dX1_fades_97 rfl rfl ?_
    obtain ⟨f77, h78, hw⟩ := hw
    refine j_getM hE gf_GlassStreet_facts q353 h78 dX1_fades_98 ?_
    obtain ⟨a79, e9, hx⟩ := hw
    subst e9
    have hw := hx
    clear hx
    obtain ⟨a80, e9, hx⟩ := hw
    subst e9
    have hw := hx
    clear hx
    refine jc_ip (jrdX1_fades_101 hE hR hc (As := [.ref (a80)]) (rest := []) rfl (Nat.le_of_ble_eq_true rfl) ⟨Nat.zero_le _, Nat.zero_le _⟩ hw) (fun r81 hw => ?_)
    refine j_b0 ?_
    refine j_if_eq hE 111 dX1_fades_104 (by decide) (fun c82 => ?_) (fun c82 => ?_)
    · replace hw := hw.1 c82
      refine j_iconst hE dX1_fades_111 kc_0 ?_
      exact j_iret hE hK dX1_fades_112 rfl hw
    · replace hw := hw.2 c82
      refine j_iconst hE dX1_fades_107 kc_1 ?_
      refine j_goto hE 112 dX1_fades_108 (by decide) ?_
      exact j_iret hE hK dX1_fades_112 rfl hw
  · replace hw := hw.2 c6
    refine j_aload_n hE 2 dX1_fades_10 rfl rfl ?_
    obtain ⟨f83, h84, hw⟩ := hw
    refine j_getMN hE gf_GlassStreet_Marks_age q299 h84 dX1_fades_11 ?_
    refine j_iload_n hE 3 dX1_fades_14 rfl rfl ?_
    obtain ⟨a85, e9, hx⟩ := hw
    subst e9
    have hw := hx
    clear hx
    obtain ⟨n86, f87, h88, h89, hw⟩ := hw
    refine j_aldI hE h88 h89 dX1_fades_15 ?_
    refine j_bipush hE dX1_fades_16 kb_8 ?_
    refine j_icmp_le hE 25 dX1_fades_18 (by decide) (fun c90 => ?_) (fun c90 => ?_)
    · replace hw := hw.1 c90
      refine j_iconst hE dX1_fades_25 kc_0 ?_
      exact j_iret hE hK dX1_fades_26 rfl hw
    · replace hw := hw.2 c90
      refine j_iconst hE dX1_fades_21 kc_1 ?_
      refine j_goto hE 26 dX1_fades_22 (by decide) ?_
      exact j_iret hE hK dX1_fades_26 rfl hw
theorem jdX1_fades : jD yX1_fades 3 := by decide +kernel
abbrev wX1_fades := wX1_fades_0
theorem ctX1_fades (l : Launch) (G : gG) {c : Nat → Option Nat} (hc : G.2.2.2 = c) (x0 : Nat) (x1 : Nat) (x2 : Nat) (x3 : Int32) (w : GW) (K : Int32 → GW → Prop) (hw : wX1_fades_0 c x0 x1 x2 x3 w K) {F2 L2 : Nat} (h2 : 2225 ≤ F2 ∧ 66700 ≤ L2 := by exact ⟨Nat.le_refl _, Nat.le_refl _⟩) : CtI l yX1_fades cX1_fades 4 .boolean ({ frames := F2, cells := 0, slots := 0, locals := L2 }) G [.ref (x0), .ref (x1), .ref (x2), .int (x3)] w (K) :=
  CtI.of RX1 plainc_X1 rfl (Nat.le_of_ble_eq_true rfl) (fun E hE hl hG hn hR hK => bX1_fades_0 hE hn (hR.le h2.1 h2.2) (by rw [hG]; exact hc) hK hw)
def wX1_fadesOf_34_b (c : Nat → Option Nat) (x0 : Nat) (x1 : Nat) (x2 : Nat) (x3 : Int32) (x4 : Int32) (w : GW) (KL34 : Int32 × Int32 × GW → Prop) (K : Int32 → GW → Prop) : Prop :=
  ∃ f1 : Int32, gfm w x2 [4] 4 = some (.int f1) ∧ ((f1 ≤ x4 → (K x3 w)) ∧ (¬ f1 ≤ x4 → (gmc w x0 = some 0 ∧ (wX1_fades c x0 x1 x2 x4 w (fun r4 w6 => (r4 = 0 → (KL34 (x3, (x4 + 1), w6))) ∧ (¬ r4 = 0 → (gmc w6 x2 = some 4 ∧ (wX5_goes c x2 x4 w6 (fun w9 => KL34 ((x3 + 1), x4, w9))))))))))
def wX1_fadesOf_34 (c : Nat → Option Nat) (x0 : Nat) (x1 : Nat) (x2 : Nat) (x3 : Int32) (x4 : Int32) (w : GW) (K : Int32 → GW → Prop) : Prop := lfp (σ := Int32 × Int32 × GW) (fun KL s => wX1_fadesOf_34_b c x0 x1 x2 s.1 s.2.1 s.2.2 KL K) (x3, x4, w)
set_option maxRecDepth 100000 in
theorem bX1_fadesOf_34 {E : jE} (hE : jOk E cX1_fadesOf RX1) (hn : E.2.2.2.2 = 6) (hR : jRoom E 2226 66723) {c : Nat → Option Nat} (hc : E.2.2.1.2.2.2 = c) {b : Nat × Nat} {K : Int32 → GW → Prop} (hK : jRi E .int (K)) {x0 : Nat} {x1 : Nat} {x2 : Nat} {x3 : Int32} {x4 : Int32} {w : GW}  (hw : wX1_fadesOf_34 c x0 x1 x2 x3 x4 w K) : J E w b [(0, .ref (x0)), (1, .ref (x1)), (2, .ref (x2)), (3, .int (x3)), (4, .int (x4))] 34 [] := by
  refine lfp_sound (σ := Int32 × Int32 × GW) (F := fun KL s => wX1_fadesOf_34_b c x0 x1 x2 s.1 s.2.1 s.2.2 KL K) (P := fun s => J E (s.2.2) b [(0, .ref (x0)), (1, .ref (x1)), (2, .ref (x2)), (3, .int (s.1)), (4, .int (s.2.1))] 34 []) ?_ hw
  clear hw
  rintro KL34 ⟨x3, x4, w⟩ hw ih34
  have hw : wX1_fadesOf_34_b c x0 x1 x2 x3 x4 w KL34 K := hw
  unfold wX1_fadesOf_34_b at hw
  refine j_iload hE 4 dX1_fadesOf_34 rfl ?_
  refine j_aload_n hE 2 dX1_fadesOf_36 rfl rfl ?_
  obtain ⟨f1, h2, hw⟩ := hw
  refine j_getMN hE gf_GlassStreet_Marks_many q303 h2 dX1_fadesOf_37 ?_
  refine j_icmp_ge hE 72 dX1_fadesOf_40 (by decide) (fun c3 => ?_) (fun c3 => ?_)
  · replace hw := hw.1 c3
    refine j_iload_n hE 3 dX1_fadesOf_72 rfl rfl ?_
    exact j_iret hE hK dX1_fadesOf_73 rfl hw
  · replace hw := hw.2 c3
    refine j_aload_n hE 0 dX1_fadesOf_43 rfl rfl ?_
    refine j_aload_n hE 1 dX1_fadesOf_44 rfl rfl ?_
    refine j_aload_n hE 2 dX1_fadesOf_45 rfl rfl ?_
    refine j_iload hE 4 dX1_fadesOf_46 rfl ?_
    obtain ⟨h5, hw⟩ := hw
    refine jc_i (jr_V hE hR (As := [.ref (x1), .ref (x2), .int (x4)]) (rest := []) ((ctX1_fades E.1.2.1 E.2.2.1 hc _ _ _ _ _ _ hw) E.2.2.2.1) (lw_V q1322 q1324 qs45 q121 q1325) jdX1_fades ⟨Nat.le_of_ble_eq_true rfl, Nat.le_of_ble_eq_true rfl⟩ ⟨Nat.zero_le _, Nat.zero_le _⟩ (gmc_gIs h5 (r := (RX1, TX1, 15)) rfl) rfl (Nat.le_of_ble_eq_true rfl) dX1_fadesOf_48) (fun r4 w6 hw => ?_)
    refine j_b0 ?_
    refine j_if_eq hE 66 dX1_fadesOf_51 (by decide) (fun c7 => ?_) (fun c7 => ?_)
    · replace hw := hw.1 c7
      refine j_iinc (L' := [(4, .int (x4 + 1)), (0, .ref (x0)), (1, .ref (x1)), (2, .ref (x2)), (3, .int (x3))]) hE hn 4 dX1_fadesOf_66 rfl (congrArg (x4 + ·) kc_1) (Nat.le_of_ble_eq_true rfl) rfl ?_
      refine j_goto hE 34 dX1_fadesOf_69 (by decide) ?_
      refine j_sub [(0, .ref (x0)), (1, .ref (x1)), (2, .ref (x2)), (3, .int (x3)), (4, .int (x4 + 1))] [1, 2, 3, 4, 0] rfl ?_
      have hz := ih34 (x3, (x4 + 1), w6) hw
      exact hz
    · replace hw := hw.2 c7
      refine j_aload_n hE 2 dX1_fadesOf_54 rfl rfl ?_
      refine j_iload hE 4 dX1_fadesOf_55 rfl ?_
      obtain ⟨h8, hw⟩ := hw
      refine jc_v (jr_V hE hR (As := [.int (x4)]) (rest := []) ((ctX5_goes E.1.2.1 E.2.2.1 hc _ _ _ _ hw) E.2.2.2.1) (lw_V q1343 q1291 q1292 q128 q1293) jdX5_goes ⟨Nat.le_of_ble_eq_true rfl, Nat.le_of_ble_eq_true rfl⟩ ⟨Nat.zero_le _, Nat.zero_le _⟩ (gmc_gIs h8 (r := (RX5, TX5, 5)) rfl) rfl (Nat.le_of_ble_eq_true rfl) dX1_fadesOf_57) (fun w9 hw => ?_)
      refine j_b0 ?_
      refine j_iinc (L' := [(3, .int (x3 + 1)), (0, .ref (x0)), (1, .ref (x1)), (2, .ref (x2)), (4, .int (x4))]) hE hn 3 dX1_fadesOf_60 rfl (congrArg (x3 + ·) kc_1) (Nat.le_of_ble_eq_true rfl) rfl ?_
      refine j_goto hE 34 dX1_fadesOf_63 (by decide) ?_
      refine j_sub [(0, .ref (x0)), (1, .ref (x1)), (2, .ref (x2)), (3, .int (x3 + 1)), (4, .int (x4))] [1, 2, 3, 0, 4] rfl ?_
      have hz := ih34 ((x3 + 1), x4, w9) hw
      exact hz
def wX1_fadesOf_8_b (c : Nat → Option Nat) (x0 : Nat) (x1 : Nat) (x2 : Nat) (x3 : Int32) (x4 : Int32) (x5 : Int32) (w : GW) (KL8 : Int32 × GW → Prop) (K : Int32 → GW → Prop) : Prop :=
  ∃ f1 : Int32, gfm w x2 [4] 4 = some (.int f1) ∧ ((f1 ≤ x5 → (wX1_fadesOf_34 c x0 x1 x2 x3 x4 w K)) ∧ (¬ f1 ≤ x5 → (∃ f4 : Option Nat, gfm w x2 [4] 3 = some (va_rf f4) ∧ (∃ a6 : Nat, f4 = some a6 ∧ (∃ (n7 : Nat) (f8 : Nat → Int32), gai w a6 0 = some (n7, f8) ∧ vp_in x5 n7 ∧ (∃ (n11 : Nat) (f12 : Nat → Int32), w a6 = some (true, .inl (0, n11, .inl f12)) ∧ vp_in x5 n11 ∧ (∀ w15 : GW, w15 = gup w a6 (.inl (0, n11, .inl (upd f12 (x5).toNatClampNeg ((rd f8 x5) + ((1 : Int32)))))) → (KL8 ((x5 + 1), w15)))))))))
def wX1_fadesOf_8 (c : Nat → Option Nat) (x0 : Nat) (x1 : Nat) (x2 : Nat) (x3 : Int32) (x4 : Int32) (x5 : Int32) (w : GW) (K : Int32 → GW → Prop) : Prop := lfp (σ := Int32 × GW) (fun KL s => wX1_fadesOf_8_b c x0 x1 x2 x3 x4 s.1 s.2 KL K) (x5, w)
set_option maxRecDepth 100000 in
theorem bX1_fadesOf_8 {E : jE} (hE : jOk E cX1_fadesOf RX1) (hn : E.2.2.2.2 = 6) (hR : jRoom E 2226 66723) {c : Nat → Option Nat} (hc : E.2.2.1.2.2.2 = c) {b : Nat × Nat} {K : Int32 → GW → Prop} (hK : jRi E .int (K)) {x0 : Nat} {x1 : Nat} {x2 : Nat} {x3 : Int32} {x4 : Int32} {x5 : Int32} {w : GW}  (hw : wX1_fadesOf_8 c x0 x1 x2 x3 x4 x5 w K) : J E w b [(0, .ref (x0)), (1, .ref (x1)), (2, .ref (x2)), (3, .int (x3)), (4, .int (x4)), (5, .int (x5))] 8 [] := by
  refine lfp_sound (σ := Int32 × GW) (F := fun KL s => wX1_fadesOf_8_b c x0 x1 x2 x3 x4 s.1 s.2 KL K) (P := fun s => J E (s.2) b [(0, .ref (x0)), (1, .ref (x1)), (2, .ref (x2)), (3, .int (x3)), (4, .int (x4)), (5, .int (s.1))] 8 []) ?_ hw
  clear hw
  rintro KL8 ⟨x5, w⟩ hw ih8
  have hw : wX1_fadesOf_8_b c x0 x1 x2 x3 x4 x5 w KL8 K := hw
  unfold wX1_fadesOf_8_b at hw
  refine j_iload hE 5 dX1_fadesOf_8 rfl ?_
  refine j_aload_n hE 2 dX1_fadesOf_10 rfl rfl ?_
  obtain ⟨f1, h2, hw⟩ := hw
  refine j_getMN hE gf_GlassStreet_Marks_many q303 h2 dX1_fadesOf_11 ?_
  refine j_icmp_ge hE 34 dX1_fadesOf_14 (by decide) (fun c3 => ?_) (fun c3 => ?_)
  · replace hw := hw.1 c3
    refine j_sub [(0, .ref (x0)), (1, .ref (x1)), (2, .ref (x2)), (3, .int (x3)), (4, .int (x4))] [0, 1, 2, 3, 4] rfl ?_
    have hz := bX1_fadesOf_34 (b := b) hE hn hR hc hK  hw
    exact hz
  · replace hw := hw.2 c3
    refine j_aload_n hE 2 dX1_fadesOf_17 rfl rfl ?_
    obtain ⟨f4, h5, hw⟩ := hw
    refine j_getMN hE gf_GlassStreet_Marks_age q299 h5 dX1_fadesOf_18 ?_
    refine j_iload hE 5 dX1_fadesOf_21 rfl ?_
    refine j_dup2 hE dX1_fadesOf_23 rfl (va_rf_cat _) ?_
    obtain ⟨a6, e9, hx⟩ := hw
    subst e9
    have hw := hx
    clear hx
    obtain ⟨n7, f8, h9, h10, hw⟩ := hw
    refine j_aldI hE h9 h10 dX1_fadesOf_24 ?_
    refine j_iconst hE dX1_fadesOf_25 kc_1 ?_
    refine j_iadd hE dX1_fadesOf_26 ?_
    obtain ⟨n11, f12, h13, h14, hw⟩ := hw
    refine j_iast hE h13 h14 dX1_fadesOf_27 ?_
    refine j_nw (fun w15 e_w15 => ?_)
    replace hw := hw w15 e_w15
    refine j_iinc (L' := [(5, .int (x5 + 1)), (0, .ref (x0)), (1, .ref (x1)), (2, .ref (x2)), (3, .int (x3)), (4, .int (x4))]) hE hn 5 dX1_fadesOf_28 rfl (congrArg (x5 + ·) kc_1) (Nat.le_of_ble_eq_true rfl) rfl ?_
    refine j_goto hE 8 dX1_fadesOf_31 (by decide) ?_
    refine j_sub [(0, .ref (x0)), (1, .ref (x1)), (2, .ref (x2)), (3, .int (x3)), (4, .int (x4)), (5, .int (x5 + 1))] [1, 2, 3, 4, 5, 0] rfl ?_
    have hz := ih8 ((x5 + 1), w15) hw
    exact hz
def wX1_fadesOf_0 (c : Nat → Option Nat) (x0 : Nat) (x1 : Nat) (x2 : Nat) (w : GW) (K : Int32 → GW → Prop) : Prop :=
  wX1_fadesOf_8 c x0 x1 x2 ((0 : Int32)) ((0 : Int32)) ((0 : Int32)) w K
set_option maxRecDepth 100000 in
theorem bX1_fadesOf_0 {E : jE} (hE : jOk E cX1_fadesOf RX1) (hn : E.2.2.2.2 = 6) (hR : jRoom E 2226 66723) {c : Nat → Option Nat} (hc : E.2.2.1.2.2.2 = c) {b : Nat × Nat} {K : Int32 → GW → Prop} (hK : jRi E .int (K)) {x0 : Nat} {x1 : Nat} {x2 : Nat} {w : GW}  (hw : wX1_fadesOf_0 c x0 x1 x2 w K) : J E w b [(0, .ref (x0)), (1, .ref (x1)), (2, .ref (x2))] 0 [] := by
  unfold wX1_fadesOf_0 at hw
  refine j_iconst hE dX1_fadesOf_0 kc_0 ?_
  refine j_istore_n (L' := [(3, .int ((0 : Int32))), (0, .ref (x0)), (1, .ref (x1)), (2, .ref (x2))]) hE hn dX1_fadesOf_1 rfl (Nat.le_of_ble_eq_true rfl) rfl ?_
  refine j_iconst hE dX1_fadesOf_2 kc_0 ?_
  refine j_istore (L' := [(4, .int ((0 : Int32))), (3, .int ((0 : Int32))), (0, .ref (x0)), (1, .ref (x1)), (2, .ref (x2))]) hE hn dX1_fadesOf_3 (Nat.le_of_ble_eq_true rfl) rfl ?_
  refine j_iconst hE dX1_fadesOf_5 kc_0 ?_
  refine j_istore (L' := [(5, .int ((0 : Int32))), (4, .int ((0 : Int32))), (3, .int ((0 : Int32))), (0, .ref (x0)), (1, .ref (x1)), (2, .ref (x2))]) hE hn dX1_fadesOf_6 (Nat.le_of_ble_eq_true rfl) rfl ?_
  refine j_sub [(0, .ref (x0)), (1, .ref (x1)), (2, .ref (x2)), (3, .int ((0 : Int32))), (4, .int ((0 : Int32))), (5, .int ((0 : Int32)))] [3, 4, 5, 2, 1, 0] rfl ?_
  have hz := bX1_fadesOf_8 (b := b) hE hn hR hc hK  hw
  exact hz
theorem jdX1_fadesOf : jD yX1_fadesOf 2 := by decide +kernel
abbrev wX1_fadesOf := wX1_fadesOf_0
theorem ctX1_fadesOf (l : Launch) (G : gG) {c : Nat → Option Nat} (hc : G.2.2.2 = c) (x0 : Nat) (x1 : Nat) (x2 : Nat) (w : GW) (K : Int32 → GW → Prop) (hw : wX1_fadesOf_0 c x0 x1 x2 w K) {F2 L2 : Nat} (h2 : 2226 ≤ F2 ∧ 66723 ≤ L2 := by exact ⟨Nat.le_refl _, Nat.le_refl _⟩) : CtI l yX1_fadesOf cX1_fadesOf 6 .int ({ frames := F2, cells := 0, slots := 0, locals := L2 }) G [.ref (x0), .ref (x1), .ref (x2)] w (K) :=
  CtI.of RX1 plainc_X1 rfl (Nat.le_of_ble_eq_true rfl) (fun E hE hl hG hn hR hK => bX1_fadesOf_0 hE hn (hR.le h2.1 h2.2) (by rw [hG]; exact hc) hK hw)
def wX1_passes_4_b (c : Nat → Option Nat) (x0 : Nat) (x1 : Nat) (x2 : Int32) (x3 : Int32) (w : GW) (KL4 : Int32 × Int32 × GW → Prop) (K : Int32 → GW → Prop) : Prop :=
  gmc w x0 = some 0 ∧ (wX1_panes c x0 w (fun r1 => (r1 ≤ x3 → (∃ f4 : Int32, gfm w x1 [3] 2 = some (.int f4) ∧ (∃ (n6 : Nat) (fs7 : List Value), w x1 = some (true, .inr (n6, fs7)) ∧ n6 ∈ ([3] : List Nat) ∧ 2 < fs7.length ∧ (∀ w11 : GW, w11 = gup w x1 (.inr (n6, fs7.set 2 (.int (f4 + ((1 : Int32)))))) → (K x2 w11))))) ∧ (¬ r1 ≤ x3 → (gmc w x1 = some 3 ∧ (wX4_isWhole c x1 x3 w (fun r12 => (r12 = 0 → (KL4 (x2, (x3 + 1), w))) ∧ (¬ r12 = 0 → (∃ f15 : Option Nat, gfm w x1 [3] 1 = some (va_rf f15) ∧ (∃ a17 : Nat, f15 = some a17 ∧ (∃ (n18 : Nat) (f19 : Nat → Option Nat), gaq w a17 5 = some (n18, f19) ∧ vp_in x3 n18 ∧ (∀ r22 : Option Nat, f19 (x3).toNatClampNeg = r22 → (∃ a23 : Nat, r22 = some a23 ∧ (gmc w x0 = some 0 ∧ (wX1_fadesOf c x0 x1 a23 w (fun r24 w26 => ∀ v27 : Int32, v27 = x2 + r24 → (KL4 (v27, (x3 + 1), w26)))))))))))))))))
def wX1_passes_4 (c : Nat → Option Nat) (x0 : Nat) (x1 : Nat) (x2 : Int32) (x3 : Int32) (w : GW) (K : Int32 → GW → Prop) : Prop := lfp (σ := Int32 × Int32 × GW) (fun KL s => wX1_passes_4_b c x0 x1 s.1 s.2.1 s.2.2 KL K) (x2, x3, w)
set_option maxRecDepth 100000 in
theorem bX1_passes_4 {E : jE} (hE : jOk E cX1_passes RX1) (hn : E.2.2.2.2 = 4) (hR : jRoom E 2227 66748) {c : Nat → Option Nat} (hc : E.2.2.1.2.2.2 = c) {b : Nat × Nat} {K : Int32 → GW → Prop} (hK : jRi E .int (K)) {x0 : Nat} {x1 : Nat} {x2 : Int32} {x3 : Int32} {w : GW}  (hw : wX1_passes_4 c x0 x1 x2 x3 w K) : J E w b [(0, .ref (x0)), (1, .ref (x1)), (2, .int (x2)), (3, .int (x3))] 4 [] := by
  refine lfp_sound (σ := Int32 × Int32 × GW) (F := fun KL s => wX1_passes_4_b c x0 x1 s.1 s.2.1 s.2.2 KL K) (P := fun s => J E (s.2.2) b [(0, .ref (x0)), (1, .ref (x1)), (2, .int (s.1)), (3, .int (s.2.1))] 4 []) ?_ hw
  clear hw
  rintro KL4 ⟨x2, x3, w⟩ hw ih4
  have hw : wX1_passes_4_b c x0 x1 x2 x3 w KL4 K := hw
  unfold wX1_passes_4_b at hw
  refine j_iload_n hE 3 dX1_passes_4 rfl rfl ?_
  refine j_aload_n hE 0 dX1_passes_5 rfl rfl ?_
  obtain ⟨h2, hw⟩ := hw
  refine jc_ip (jr_V hE hR (As := []) (rest := [.int (x3)]) ((ctX1_panes E.1.2.1 E.2.2.1 hc _ _ _ hw) E.2.2.2.1) (lw_V q1157 q1159 qs31 q121 q1160) jdX1_panes ⟨Nat.le_of_ble_eq_true rfl, Nat.le_of_ble_eq_true rfl⟩ ⟨Nat.zero_le _, Nat.zero_le _⟩ (gmc_gIs h2 (r := (RX1, TX1, 15)) rfl) rfl (Nat.le_of_ble_eq_true rfl) dX1_passes_6) (fun r1 hw => ?_)
  refine j_b0 ?_
  refine j_icmp_ge hE 40 dX1_passes_9 (by decide) (fun c3 => ?_) (fun c3 => ?_)
  · replace hw := hw.1 c3
    refine j_aload_n hE 1 dX1_passes_40 rfl rfl ?_
    refine j_dup hE dX1_passes_41 rfl ?_
    obtain ⟨f4, h5, hw⟩ := hw
    refine j_getMN hE gf_GlassStreet_State_hour q322 h5 dX1_passes_42 ?_
    refine j_iconst hE dX1_passes_45 kc_1 ?_
    refine j_iadd hE dX1_passes_46 ?_
    obtain ⟨n6, fs7, h8, h9, h10, hw⟩ := hw
    refine j_putXN hE h9 gw_GlassStreet_State_hour_X1 q322 h8 rfl rfl h10 dX1_passes_47 ?_
    refine j_nw (fun w11 e_w11 => ?_)
    replace hw := hw w11 e_w11
    refine j_iload_n hE 2 dX1_passes_50 rfl rfl ?_
    exact j_iret hE hK dX1_passes_51 rfl hw
  · replace hw := hw.2 c3
    refine j_aload_n hE 1 dX1_passes_12 rfl rfl ?_
    refine j_iload_n hE 3 dX1_passes_13 rfl rfl ?_
    obtain ⟨h13, hw⟩ := hw
    refine jc_ip (jr_V hE hR (As := [.int (x3)]) (rest := []) ((ctX4_isWhole E.1.2.1 E.2.2.1 hc _ _ _ _ hw) E.2.2.2.1) (lw_V q1188 q1189 q1190 q127 q1191) jdX4_isWhole ⟨Nat.le_of_ble_eq_true rfl, Nat.le_of_ble_eq_true rfl⟩ ⟨Nat.zero_le _, Nat.zero_le _⟩ (gmc_gIs h13 (r := (RX4, TX4, 5)) rfl) rfl (Nat.le_of_ble_eq_true rfl) dX1_passes_14) (fun r12 hw => ?_)
    refine j_b0 ?_
    refine j_if_eq hE 34 dX1_passes_17 (by decide) (fun c14 => ?_) (fun c14 => ?_)
    · replace hw := hw.1 c14
      refine j_iinc (L' := [(3, .int (x3 + 1)), (0, .ref (x0)), (1, .ref (x1)), (2, .int (x2))]) hE hn 3 dX1_passes_34 rfl (congrArg (x3 + ·) kc_1) (Nat.le_of_ble_eq_true rfl) rfl ?_
      refine j_goto hE 4 dX1_passes_37 (by decide) ?_
      refine j_sub [(0, .ref (x0)), (1, .ref (x1)), (2, .int (x2)), (3, .int (x3 + 1))] [1, 2, 3, 0] rfl ?_
      have hz := ih4 (x2, (x3 + 1), w) hw
      exact hz
    · replace hw := hw.2 c14
      refine j_iload_n hE 2 dX1_passes_20 rfl rfl ?_
      refine j_aload_n hE 0 dX1_passes_21 rfl rfl ?_
      refine j_aload_n hE 1 dX1_passes_22 rfl rfl ?_
      refine j_aload_n hE 1 dX1_passes_23 rfl rfl ?_
      obtain ⟨f15, h16, hw⟩ := hw
      refine j_getMN hE gf_GlassStreet_State_marks q320 h16 dX1_passes_24 ?_
      refine j_iload_n hE 3 dX1_passes_27 rfl rfl ?_
      obtain ⟨a17, e9, hx⟩ := hw
      subst e9
      have hw := hx
      clear hx
      obtain ⟨n18, f19, h20, h21, hw⟩ := hw
      obtain ⟨r22, e_r22⟩ : ∃ r9, f19 (x3).toNatClampNeg = r9 := ⟨_, rfl⟩
      replace hw := hw r22 e_r22
      refine j_aldQ hE (t := 5) ⟨by decide, by decide⟩ h20 h21 e_r22 dX1_passes_28 ?_
      obtain ⟨a23, e9, hx⟩ := hw
      subst e9
      have hw := hx
      clear hx
      obtain ⟨h25, hw⟩ := hw
      refine jc_i (jr_V hE hR (As := [.ref (x1), .ref (a23)]) (rest := [.int (x2)]) ((ctX1_fadesOf E.1.2.1 E.2.2.1 hc _ _ _ _ _ hw) E.2.2.2.1) (lw_V q1318 q1320 qs44 q121 q1321) jdX1_fadesOf ⟨Nat.le_of_ble_eq_true rfl, Nat.le_of_ble_eq_true rfl⟩ ⟨Nat.zero_le _, Nat.zero_le _⟩ (gmc_gIs h25 (r := (RX1, TX1, 15)) rfl) rfl (Nat.le_of_ble_eq_true rfl) dX1_passes_29) (fun r24 w26 hw => ?_)
      refine j_b0 ?_
      refine j_iadd hE dX1_passes_32 ?_
      refine j_topi (fun v27 e_v27 => ?_)
      replace hw := hw v27 e_v27
      refine j_istore_n (L' := [(2, .int (v27)), (0, .ref (x0)), (1, .ref (x1)), (3, .int (x3))]) hE hn dX1_passes_33 rfl (Nat.le_of_ble_eq_true rfl) rfl ?_
      refine j_iinc (L' := [(3, .int (x3 + 1)), (2, .int (v27)), (0, .ref (x0)), (1, .ref (x1))]) hE hn 3 dX1_passes_34 rfl (congrArg (x3 + ·) kc_1) (Nat.le_of_ble_eq_true rfl) rfl ?_
      refine j_goto hE 4 dX1_passes_37 (by decide) ?_
      refine j_sub [(0, .ref (x0)), (1, .ref (x1)), (2, .int (v27)), (3, .int (x3 + 1))] [2, 3, 1, 0] rfl ?_
      have hz := ih4 (v27, (x3 + 1), w26) hw
      exact hz
def wX1_passes_0 (c : Nat → Option Nat) (x0 : Nat) (x1 : Nat) (w : GW) (K : Int32 → GW → Prop) : Prop :=
  wX1_passes_4 c x0 x1 ((0 : Int32)) ((0 : Int32)) w K
set_option maxRecDepth 100000 in
theorem bX1_passes_0 {E : jE} (hE : jOk E cX1_passes RX1) (hn : E.2.2.2.2 = 4) (hR : jRoom E 2227 66748) {c : Nat → Option Nat} (hc : E.2.2.1.2.2.2 = c) {b : Nat × Nat} {K : Int32 → GW → Prop} (hK : jRi E .int (K)) {x0 : Nat} {x1 : Nat} {w : GW}  (hw : wX1_passes_0 c x0 x1 w K) : J E w b [(0, .ref (x0)), (1, .ref (x1))] 0 [] := by
  unfold wX1_passes_0 at hw
  refine j_iconst hE dX1_passes_0 kc_0 ?_
  refine j_istore_n (L' := [(2, .int ((0 : Int32))), (0, .ref (x0)), (1, .ref (x1))]) hE hn dX1_passes_1 rfl (Nat.le_of_ble_eq_true rfl) rfl ?_
  refine j_iconst hE dX1_passes_2 kc_0 ?_
  refine j_istore_n (L' := [(3, .int ((0 : Int32))), (2, .int ((0 : Int32))), (0, .ref (x0)), (1, .ref (x1))]) hE hn dX1_passes_3 rfl (Nat.le_of_ble_eq_true rfl) rfl ?_
  refine j_sub [(0, .ref (x0)), (1, .ref (x1)), (2, .int ((0 : Int32))), (3, .int ((0 : Int32)))] [2, 3, 1, 0] rfl ?_
  have hz := bX1_passes_4 (b := b) hE hn hR hc hK  hw
  exact hz
theorem jdX1_passes : jD yX1_passes 1 := by decide +kernel
abbrev wX1_passes := wX1_passes_0
theorem ctX1_passes (l : Launch) (G : gG) {c : Nat → Option Nat} (hc : G.2.2.2 = c) (x0 : Nat) (x1 : Nat) (w : GW) (K : Int32 → GW → Prop) (hw : wX1_passes_0 c x0 x1 w K) {F2 L2 : Nat} (h2 : 2227 ≤ F2 ∧ 66748 ≤ L2 := by exact ⟨Nat.le_refl _, Nat.le_refl _⟩) : CtI l yX1_passes cX1_passes 4 .int ({ frames := F2, cells := 0, slots := 0, locals := L2 }) G [.ref (x0), .ref (x1)] w (K) :=
  CtI.of RX1 plainc_X1 rfl (Nat.le_of_ble_eq_true rfl) (fun E hE hl hG hn hR hK => bX1_passes_0 hE hn (hR.le h2.1 h2.2) (by rw [hG]; exact hc) hK hw)
def wX1_hour_0 (c : Nat → Option Nat) (x0 : Nat) (w : GW) (bb : Nat × Nat) (K : Int32 → GW → Prop) : Prop :=
  gmc w x0 = some 0 ∧ (∃ cb2 : Nat × Nat, (cb2.1 ≤ bb.1 ∧ cb2.2 ≤ bb.2) ∧ (wX1_keeps c x0 w cb2 (fun w4 => ∀ b5 : Nat × Nat, b5 = (bb.1 - cb2.1, bb.2 - cb2.2) → (∃ f6 : Option Nat, gfm w4 x0 [0] 4 = some (va_rf f6) ∧ (∃ a8 : Nat, f6 = some a8 ∧ (gmc w4 x0 = some 0 ∧ (wX1_passes c x0 a8 w4 (fun r9 w11 => K r9 w11))))))))
set_option maxRecDepth 100000 in
theorem bX1_hour_0 {E : jE} (hE : jOk E cX1_hour RX1) (hn : E.2.2.2.2 = 1) (hR : jRoom E 2228 66771) {c : Nat → Option Nat} (hc : E.2.2.1.2.2.2 = c) {K : Int32 → GW → Prop} (hK : jRi E .int (K)) {x0 : Nat} {w : GW} {bb : Nat × Nat}  (hw : wX1_hour_0 c x0 w bb K) : J E w bb [(0, .ref (x0))] 0 [] := by
  unfold wX1_hour_0 at hw
  refine j_aload_n hE 0 dX1_hour_0 rfl rfl ?_
  obtain ⟨h1, hw⟩ := hw
  obtain ⟨cb2, h3, hw⟩ := hw
  refine jc_v (jr_V hE hR (As := []) (rest := []) ((ctX1_keeps E.1.2.1 E.2.2.1 hc _ _ _ _ hw) E.2.2.2.1) (lw_V q1253 q1255 qs37 q121 q1256) jdX1_keeps ⟨Nat.le_of_ble_eq_true rfl, Nat.le_of_ble_eq_true rfl⟩ h3 (gmc_gIs h1 (r := (RX1, TX1, 15)) rfl) rfl (Nat.le_of_ble_eq_true rfl) dX1_hour_1) (fun w4 hw => ?_)
  refine j_nb (fun b5 e_b5 => ?_)
  replace hw := hw b5 e_b5
  refine j_aload_n hE 0 dX1_hour_4 rfl rfl ?_
  refine j_aload_n hE 0 dX1_hour_5 rfl rfl ?_
  obtain ⟨f6, h7, hw⟩ := hw
  refine j_getM hE gf_GlassStreet_state q351 h7 dX1_hour_6 ?_
  obtain ⟨a8, e9, hx⟩ := hw
  subst e9
  have hw := hx
  clear hx
  obtain ⟨h10, hw⟩ := hw
  refine jc_i (jr_V hE hR (As := [.ref (a8)]) (rest := []) ((ctX1_passes E.1.2.1 E.2.2.1 hc _ _ _ _ hw) E.2.2.2.1) (lw_V q1314 q1316 qs43 q121 q1317) jdX1_passes ⟨Nat.le_of_ble_eq_true rfl, Nat.le_of_ble_eq_true rfl⟩ ⟨Nat.zero_le _, Nat.zero_le _⟩ (gmc_gIs h10 (r := (RX1, TX1, 15)) rfl) rfl (Nat.le_of_ble_eq_true rfl) dX1_hour_9) (fun r9 w11 hw => ?_)
  refine j_b0 ?_
  exact j_iret hE hK dX1_hour_12 rfl hw
theorem jdX1_hour : jD yX1_hour 0 := by decide +kernel
abbrev wX1_hour := wX1_hour_0
theorem ctX1_hour (l : Launch) (G : gG) {c : Nat → Option Nat} (hc : G.2.2.2 = c) (x0 : Nat) (w : GW) (bb : Nat × Nat) (K : Int32 → GW → Prop) (hw : wX1_hour_0 c x0 w bb K) {F2 L2 : Nat} (h2 : 2228 ≤ F2 ∧ 66771 ≤ L2 := by exact ⟨Nat.le_refl _, Nat.le_refl _⟩) : CtI l yX1_hour cX1_hour 1 .int ({ frames := F2, cells := bb.1, slots := bb.2, locals := L2 }) G [.ref (x0)] w (K) :=
  CtI.of RX1 plainc_X1 rfl (Nat.le_of_ble_eq_true rfl) (fun E hE hl hG hn hR hK => bX1_hour_0 hE hn (hR.le h2.1 h2.2) (by rw [hG]; exact hc) hK hw)
def wX1_undo_0 (c : Nat → Option Nat) (x0 : Nat) (w : GW) (K : Int32 → GW → Prop) : Prop :=
  ∃ f1 : Int32, gfm w x0 [0] 9 = some (.int f1) ∧ ((¬ f1 = 0 → (∃ f4 : Option Nat, gfm w x0 [0] 4 = some (va_rf f4) ∧ (∃ f6 : Option Nat, gfm w x0 [0] 8 = some (va_rf f6) ∧ (∃ f8 : Int32, gfm w x0 [0] 9 = some (.int f8) ∧ (∃ (n10 : Nat) (fs11 : List Value), w x0 = some (true, .inr (n10, fs11)) ∧ n10 ∈ ([0] : List Nat) ∧ 9 < fs11.length ∧ (∀ w15 : GW, w15 = gup w x0 (.inr (n10, fs11.set 9 (.int (f8 - ((1 : Int32)))))) → (∃ a16 : Nat, f6 = some a16 ∧ (∃ (n17 : Nat) (f18 : Nat → Option Nat), gaq w15 a16 6 = some (n17, f18) ∧ vp_in (f8 - ((1 : Int32))) n17 ∧ (∀ r21 : Option Nat, f18 (f8 - ((1 : Int32))).toNatClampNeg = r21 → (∃ a22 : Nat, f4 = some a22 ∧ (∃ a23 : Nat, r21 = some a23 ∧ (gmc w15 a22 = some 3 ∧ (wX4_be c a22 a23 w15 (fun w25 => K ((1 : Int32)) w25)))))))))))))) ∧ (f1 = 0 → (K ((0 : Int32)) w)))
set_option maxRecDepth 100000 in
theorem bX1_undo_0 {E : jE} (hE : jOk E cX1_undo RX1) (hn : E.2.2.2.2 = 1) (hR : jRoom E 3 65) {c : Nat → Option Nat} (hc : E.2.2.1.2.2.2 = c) {b : Nat × Nat} {K : Int32 → GW → Prop} (hK : jRi E .boolean (K)) {x0 : Nat} {w : GW}  (hw : wX1_undo_0 c x0 w K) : J E w b [(0, .ref (x0))] 0 [] := by
  unfold wX1_undo_0 at hw
  refine j_aload_n hE 0 dX1_undo_0 rfl rfl ?_
  obtain ⟨f1, h2, hw⟩ := hw
  refine j_getM hE gf_GlassStreet_undos q356 h2 dX1_undo_1 ?_
  refine j_if_ne hE 9 dX1_undo_4 (by decide) (fun c3 => ?_) (fun c3 => ?_)
  · replace hw := hw.1 c3
    refine j_aload_n hE 0 dX1_undo_9 rfl rfl ?_
    obtain ⟨f4, h5, hw⟩ := hw
    refine j_getM hE gf_GlassStreet_state q351 h5 dX1_undo_10 ?_
    refine j_aload_n hE 0 dX1_undo_13 rfl rfl ?_
    obtain ⟨f6, h7, hw⟩ := hw
    refine j_getM hE gf_GlassStreet_undone q355 h7 dX1_undo_14 ?_
    refine j_aload_n hE 0 dX1_undo_17 rfl rfl ?_
    refine j_dup hE dX1_undo_18 rfl ?_
    obtain ⟨f8, h9, hw⟩ := hw
    refine j_getM hE gf_GlassStreet_undos q356 h9 dX1_undo_19 ?_
    refine j_iconst hE dX1_undo_22 kc_1 ?_
    refine j_isub hE dX1_undo_23 ?_
    refine j_dup_x1 hE dX1_undo_24 rfl rfl ?_
    obtain ⟨n10, fs11, h12, h13, h14, hw⟩ := hw
    refine j_putX hE h13 gw_GlassStreet_undos_X1 q356 h12 rfl rfl h14 dX1_undo_25 ?_
    refine j_nw (fun w15 e_w15 => ?_)
    replace hw := hw w15 e_w15
    obtain ⟨a16, e9, hx⟩ := hw
    subst e9
    have hw := hx
    clear hx
    obtain ⟨n17, f18, h19, h20, hw⟩ := hw
    obtain ⟨r21, e_r21⟩ : ∃ r9, f18 (f8 - ((1 : Int32))).toNatClampNeg = r9 := ⟨_, rfl⟩
    replace hw := hw r21 e_r21
    refine j_aldQ hE (t := 6) ⟨by decide, by decide⟩ h19 h20 e_r21 dX1_undo_28 ?_
    obtain ⟨a22, e9, hx⟩ := hw
    subst e9
    have hw := hx
    clear hx
    obtain ⟨a23, e9, hx⟩ := hw
    subst e9
    have hw := hx
    clear hx
    obtain ⟨h24, hw⟩ := hw
    refine jc_v (jr_V hE hR (As := [.ref (a23)]) (rest := []) ((ctX4_be E.1.2.1 E.2.2.1 hc _ _ _ _ hw) E.2.2.2.1) (lw_V q1257 q1258 q1259 q127 q1260) jdX4_be ⟨Nat.le_of_ble_eq_true rfl, Nat.le_of_ble_eq_true rfl⟩ ⟨Nat.zero_le _, Nat.zero_le _⟩ (gmc_gIs h24 (r := (RX4, TX4, 5)) rfl) rfl (Nat.le_of_ble_eq_true rfl) dX1_undo_29) (fun w25 hw => ?_)
    refine j_b0 ?_
    refine j_iconst hE dX1_undo_32 kc_1 ?_
    exact j_iret hE hK dX1_undo_33 rfl hw
  · replace hw := hw.2 c3
    refine j_iconst hE dX1_undo_7 kc_0 ?_
    exact j_iret hE hK dX1_undo_8 rfl hw
theorem jdX1_undo : jD yX1_undo 0 := by decide +kernel
abbrev wX1_undo := wX1_undo_0
theorem ctX1_undo (l : Launch) (G : gG) {c : Nat → Option Nat} (hc : G.2.2.2 = c) (x0 : Nat) (w : GW) (K : Int32 → GW → Prop) (hw : wX1_undo_0 c x0 w K) {F2 L2 : Nat} (h2 : 3 ≤ F2 ∧ 65 ≤ L2 := by exact ⟨Nat.le_refl _, Nat.le_refl _⟩) : CtI l yX1_undo cX1_undo 1 .boolean ({ frames := F2, cells := 0, slots := 0, locals := L2 }) G [.ref (x0)] w (K) :=
  CtI.of RX1 plainc_X1 rfl (Nat.le_of_ble_eq_true rfl) (fun E hE hl hG hn hR hK => bX1_undo_0 hE hn (hR.le h2.1 h2.2) (by rw [hG]; exact hc) hK hw)
def wX18_isDone_0 (c : Nat → Option Nat) (x0 : Nat) (x1 : Nat) (x2 : Nat) (w : GW) (K : Int32 → GW → Prop) : Prop :=
  gmc w x1 = some 0 ∧ (wX1_passes c x1 x2 w (fun r1 w3 => K ((1 : Int32)) w3))
set_option maxRecDepth 100000 in
theorem bX18_isDone_0 {E : jE} (hE : jOk E cX18_isDone RX18) (hn : E.2.2.2.2 = 3) (hR : jRoom E 2228 66771) {c : Nat → Option Nat} (hc : E.2.2.1.2.2.2 = c) {b : Nat × Nat} {K : Int32 → GW → Prop} (hK : jRi E .boolean (K)) {x0 : Nat} {x1 : Nat} {x2 : Nat} {w : GW}  (hw : wX18_isDone_0 c x0 x1 x2 w K) : J E w b [(0, .ref (x0)), (1, .ref (x1)), (2, .ref (x2))] 0 [] := by
  unfold wX18_isDone_0 at hw
  refine j_aload_n hE 1 dX18_isDone_0 rfl rfl ?_
  refine j_aload_n hE 2 dX18_isDone_1 rfl rfl ?_
  obtain ⟨h2, hw⟩ := hw
  refine jc_i (jr_VN hE hR (As := [.ref (x2)]) (rest := []) ((ctX1_passes E.1.2.1 E.2.2.1 hc _ _ _ _ hw) E.2.2.2.1) (lw_meth q1317) q121 q1368 q1316 qs43 jdX1_passes ⟨Nat.le_of_ble_eq_true rfl, Nat.le_of_ble_eq_true rfl⟩ ⟨Nat.zero_le _, Nat.zero_le _⟩ (gmc_gIs h2 (r := (RX1, TX1, 15)) rfl) rfl (Nat.le_of_ble_eq_true rfl) dX18_isDone_2) (fun r1 w3 hw => ?_)
  refine j_b0 ?_
  refine j_pop hE dX18_isDone_5 rfl ?_
  refine j_iconst hE dX18_isDone_6 kc_1 ?_
  exact j_iret hE hK dX18_isDone_7 rfl hw
theorem jdX18_isDone : jD yX18_isDone 2 := by decide +kernel
abbrev wX18_isDone := wX18_isDone_0
theorem ctX18_isDone (l : Launch) (G : gG) {c : Nat → Option Nat} (hc : G.2.2.2 = c) (x0 : Nat) (x1 : Nat) (x2 : Nat) (w : GW) (K : Int32 → GW → Prop) (hw : wX18_isDone_0 c x0 x1 x2 w K) {F2 L2 : Nat} (h2 : 2228 ≤ F2 ∧ 66771 ≤ L2 := by exact ⟨Nat.le_refl _, Nat.le_refl _⟩) : CtI l yX18_isDone cX18_isDone 3 .boolean ({ frames := F2, cells := 0, slots := 0, locals := L2 }) G [.ref (x0), .ref (x1), .ref (x2)] w (K) :=
  CtI.of RX18 plainc_X18 rfl (Nat.le_of_ble_eq_true rfl) (fun E hE hl hG hn hR hK => bX18_isDone_0 hE hn (hR.le h2.1 h2.2) (by rw [hG]; exact hc) hK hw)
def wX19_isDone_0 (c : Nat → Option Nat) (x0 : Nat) (x1 : Nat) (x2 : Nat) (w : GW) (K : Int32 → GW → Prop) : Prop :=
  ∃ f1 : Option Nat, gfm w x2 [3] 0 = some (va_rf f1) ∧ (∃ f3 : Int32, gfm w x0 [15] 0 = some (.int f3) ∧ (∃ a5 : Nat, f1 = some a5 ∧ (∃ (n6 : Nat) (f7 : Nat → Int32), gai w a5 0 = some (n6, f7) ∧ vp_in f3 n6 ∧ (∃ f10 : Int32, gfm w x0 [15] 1 = some (.int f10) ∧ ((((if 0 ≤ ((rd f7 f3) - f10) then ((rd f7 f3) - f10) else 0 - ((rd f7 f3) - f10))) = ((1 : Int32)) → (∃ f13 : Option Nat, gfm w x2 [3] 0 = some (va_rf f13) ∧ (∃ f15 : Int32, gfm w x0 [15] 0 = some (.int f15) ∧ (∃ f17 : Int32, gfm w x0 [15] 1 = some (.int f17) ∧ (∃ a19 : Nat, f13 = some a19 ∧ (∃ (n20 : Nat) (f21 : Nat → Int32), w a19 = some (true, .inl (0, n20, .inl f21)) ∧ vp_in f15 n20 ∧ (∀ w24 : GW, w24 = gup w a19 (.inl (0, n20, .inl (upd f21 (f15).toNatClampNeg f17))) → (K ((1 : Int32)) w24)))))))) ∧ (¬ ((if 0 ≤ ((rd f7 f3) - f10) then ((rd f7 f3) - f10) else 0 - ((rd f7 f3) - f10))) = ((1 : Int32)) → (K ((0 : Int32)) w)))))))
set_option maxRecDepth 100000 in
theorem bX19_isDone_0 {E : jE} (hE : jOk E cX19_isDone RX19) (hn : E.2.2.2.2 = 3) (hR : jRoom E 1 60) {c : Nat → Option Nat} (hc : E.2.2.1.2.2.2 = c) {b : Nat × Nat} {K : Int32 → GW → Prop} (hK : jRi E .boolean (K)) {x0 : Nat} {x1 : Nat} {x2 : Nat} {w : GW}  (hw : wX19_isDone_0 c x0 x1 x2 w K) : J E w b [(0, .ref (x0)), (1, .ref (x1)), (2, .ref (x2))] 0 [] := by
  unfold wX19_isDone_0 at hw
  refine j_aload_n hE 2 dX19_isDone_0 rfl rfl ?_
  obtain ⟨f1, h2, hw⟩ := hw
  refine j_getMN hE gf_GlassStreet_State_at q316 h2 dX19_isDone_1 ?_
  refine j_aload_n hE 0 dX19_isDone_4 rfl rfl ?_
  obtain ⟨f3, h4, hw⟩ := hw
  refine j_getM hE gf_GlassStreet_Walked_person q1105 h4 dX19_isDone_5 ?_
  obtain ⟨a5, e9, hx⟩ := hw
  subst e9
  have hw := hx
  clear hx
  obtain ⟨n6, f7, h8, h9, hw⟩ := hw
  refine j_aldI hE h8 h9 dX19_isDone_8 ?_
  refine j_aload_n hE 0 dX19_isDone_9 rfl rfl ?_
  obtain ⟨f10, h11, hw⟩ := hw
  refine j_getM hE gf_GlassStreet_Walked_cell q1106 h11 dX19_isDone_10 ?_
  refine j_isub hE dX19_isDone_13 ?_
  refine j_mabs hE hR q1372 (Nat.le_of_ble_eq_true rfl) (Nat.le_of_ble_eq_true rfl) dX19_isDone_14 ?_
  refine j_iconst hE dX19_isDone_17 kc_1 ?_
  refine j_icmp_eq hE 23 dX19_isDone_18 (by decide) (fun c12 => ?_) (fun c12 => ?_)
  · replace hw := hw.1 c12
    refine j_aload_n hE 2 dX19_isDone_23 rfl rfl ?_
    obtain ⟨f13, h14, hw⟩ := hw
    refine j_getMN hE gf_GlassStreet_State_at q316 h14 dX19_isDone_24 ?_
    refine j_aload_n hE 0 dX19_isDone_27 rfl rfl ?_
    obtain ⟨f15, h16, hw⟩ := hw
    refine j_getM hE gf_GlassStreet_Walked_person q1105 h16 dX19_isDone_28 ?_
    refine j_aload_n hE 0 dX19_isDone_31 rfl rfl ?_
    obtain ⟨f17, h18, hw⟩ := hw
    refine j_getM hE gf_GlassStreet_Walked_cell q1106 h18 dX19_isDone_32 ?_
    obtain ⟨a19, e9, hx⟩ := hw
    subst e9
    have hw := hx
    clear hx
    obtain ⟨n20, f21, h22, h23, hw⟩ := hw
    refine j_iast hE h22 h23 dX19_isDone_35 ?_
    refine j_nw (fun w24 e_w24 => ?_)
    replace hw := hw w24 e_w24
    refine j_iconst hE dX19_isDone_36 kc_1 ?_
    exact j_iret hE hK dX19_isDone_37 rfl hw
  · replace hw := hw.2 c12
    refine j_iconst hE dX19_isDone_21 kc_0 ?_
    exact j_iret hE hK dX19_isDone_22 rfl hw
theorem jdX19_isDone : jD yX19_isDone 2 := by decide +kernel
abbrev wX19_isDone := wX19_isDone_0
theorem ctX19_isDone (l : Launch) (G : gG) {c : Nat → Option Nat} (hc : G.2.2.2 = c) (x0 : Nat) (x1 : Nat) (x2 : Nat) (w : GW) (K : Int32 → GW → Prop) (hw : wX19_isDone_0 c x0 x1 x2 w K) {F2 L2 : Nat} (h2 : 1 ≤ F2 ∧ 60 ≤ L2 := by exact ⟨Nat.le_refl _, Nat.le_refl _⟩) : CtI l yX19_isDone cX19_isDone 3 .boolean ({ frames := F2, cells := 0, slots := 0, locals := L2 }) G [.ref (x0), .ref (x1), .ref (x2)] w (K) :=
  CtI.of RX19 plainc_X19 rfl (Nat.le_of_ble_eq_true rfl) (fun E hE hl hG hn hR hK => bX19_isDone_0 hE hn (hR.le h2.1 h2.2) (by rw [hG]; exact hc) hK hw)
def wX20_isDone_0 (c : Nat → Option Nat) (x0 : Nat) (x1 : Nat) (x2 : Nat) (w : GW) (K : Int32 → GW → Prop) : Prop :=
  ∃ f1 : Int32, gfm w x0 [16] 0 = some (.int f1) ∧ (∃ f3 : Int32, gfm w x0 [16] 1 = some (.int f3) ∧ (gmc w x1 = some 0 ∧ (wX1_done c x1 x2 f1 f3 w (fun r5 w7 => K ((1 : Int32)) w7))))
set_option maxRecDepth 100000 in
theorem bX20_isDone_0 {E : jE} (hE : jOk E cX20_isDone RX20) (hn : E.2.2.2.2 = 3) (hR : jRoom E 7 156) {c : Nat → Option Nat} (hc : E.2.2.1.2.2.2 = c) {b : Nat × Nat} {K : Int32 → GW → Prop} (hK : jRi E .boolean (K)) {x0 : Nat} {x1 : Nat} {x2 : Nat} {w : GW}  (hw : wX20_isDone_0 c x0 x1 x2 w K) : J E w b [(0, .ref (x0)), (1, .ref (x1)), (2, .ref (x2))] 0 [] := by
  unfold wX20_isDone_0 at hw
  refine j_aload_n hE 1 dX20_isDone_0 rfl rfl ?_
  refine j_aload_n hE 2 dX20_isDone_1 rfl rfl ?_
  refine j_aload_n hE 0 dX20_isDone_2 rfl rfl ?_
  obtain ⟨f1, h2, hw⟩ := hw
  refine j_getM hE gf_GlassStreet_Did_person q1118 h2 dX20_isDone_3 ?_
  refine j_aload_n hE 0 dX20_isDone_6 rfl rfl ?_
  obtain ⟨f3, h4, hw⟩ := hw
  refine j_getM hE gf_GlassStreet_Did_deed q1120 h4 dX20_isDone_7 ?_
  obtain ⟨h6, hw⟩ := hw
  refine jc_i (jr_VN hE hR (As := [.ref (x2), .int (f1), .int (f3)]) (rest := []) ((ctX1_done E.1.2.1 E.2.2.1 hc _ _ _ _ _ _ hw) E.2.2.2.1) (lw_meth q1281) q121 q1364 q1280 qs40 jdX1_done ⟨Nat.le_of_ble_eq_true rfl, Nat.le_of_ble_eq_true rfl⟩ ⟨Nat.zero_le _, Nat.zero_le _⟩ (gmc_gIs h6 (r := (RX1, TX1, 15)) rfl) rfl (Nat.le_of_ble_eq_true rfl) dX20_isDone_10) (fun r5 w7 hw => ?_)
  refine j_b0 ?_
  refine j_pop hE dX20_isDone_13 rfl ?_
  refine j_iconst hE dX20_isDone_14 kc_1 ?_
  exact j_iret hE hK dX20_isDone_15 rfl hw
theorem jdX20_isDone : jD yX20_isDone 2 := by decide +kernel
abbrev wX20_isDone := wX20_isDone_0
theorem ctX20_isDone (l : Launch) (G : gG) {c : Nat → Option Nat} (hc : G.2.2.2 = c) (x0 : Nat) (x1 : Nat) (x2 : Nat) (w : GW) (K : Int32 → GW → Prop) (hw : wX20_isDone_0 c x0 x1 x2 w K) {F2 L2 : Nat} (h2 : 7 ≤ F2 ∧ 156 ≤ L2 := by exact ⟨Nat.le_refl _, Nat.le_refl _⟩) : CtI l yX20_isDone cX20_isDone 3 .boolean ({ frames := F2, cells := 0, slots := 0, locals := L2 }) G [.ref (x0), .ref (x1), .ref (x2)] w (K) :=
  CtI.of RX20 plainc_X20 rfl (Nat.le_of_ble_eq_true rfl) (fun E hE hl hG hn hR hK => bX20_isDone_0 hE hn (hR.le h2.1 h2.2) (by rw [hG]; exact hc) hK hw)
def wX21_isDone_0 (c : Nat → Option Nat) (x0 : Nat) (x1 : Nat) (x2 : Nat) (w : GW) (K : Int32 → GW → Prop) : Prop :=
  ∃ f1 : Int32, gfm w x0 [17] 0 = some (.int f1) ∧ (gmc w x1 = some 0 ∧ (wX1_canWash c x1 x2 f1 w (fun r3 => (¬ r3 = 0 → (∃ f6 : Option Nat, gfm w x2 [3] 1 = some (va_rf f6) ∧ (∃ f8 : Int32, gfm w x0 [17] 0 = some (.int f8) ∧ (∃ a10 : Nat, f6 = some a10 ∧ (∃ (n11 : Nat) (f12 : Nat → Option Nat), gaq w a10 5 = some (n11, f12) ∧ vp_in f8 n11 ∧ (∀ r15 : Option Nat, f12 (f8).toNatClampNeg = r15 → (∃ a16 : Nat, r15 = some a16 ∧ (∃ f17 : Int32, gfm w a16 [4] 4 = some (.int f17) ∧ (∃ (n19 : Nat) (fs20 : List Value), w a16 = some (true, .inr (n19, fs20)) ∧ n19 ∈ ([4] : List Nat) ∧ 4 < fs20.length ∧ (∀ w24 : GW, w24 = gup w a16 (.inr (n19, fs20.set 4 (.int (f17 - ((1 : Int32)))))) → (K ((1 : Int32)) w24))))))))))) ∧ (r3 = 0 → (K ((0 : Int32)) w)))))
set_option maxRecDepth 100000 in
theorem bX21_isDone_0 {E : jE} (hE : jOk E cX21_isDone RX21) (hn : E.2.2.2.2 = 3) (hR : jRoom E 3 64) {c : Nat → Option Nat} (hc : E.2.2.1.2.2.2 = c) {b : Nat × Nat} {K : Int32 → GW → Prop} (hK : jRi E .boolean (K)) {x0 : Nat} {x1 : Nat} {x2 : Nat} {w : GW}  (hw : wX21_isDone_0 c x0 x1 x2 w K) : J E w b [(0, .ref (x0)), (1, .ref (x1)), (2, .ref (x2))] 0 [] := by
  unfold wX21_isDone_0 at hw
  refine j_aload_n hE 1 dX21_isDone_0 rfl rfl ?_
  refine j_aload_n hE 2 dX21_isDone_1 rfl rfl ?_
  refine j_aload_n hE 0 dX21_isDone_2 rfl rfl ?_
  obtain ⟨f1, h2, hw⟩ := hw
  refine j_getM hE gf_GlassStreet_Washed_pane q1132 h2 dX21_isDone_3 ?_
  obtain ⟨h4, hw⟩ := hw
  refine jc_ip (jr_VN hE hR (As := [.ref (x2), .int (f1)]) (rest := []) ((ctX1_canWash E.1.2.1 E.2.2.1 hc _ _ _ _ _ hw) E.2.2.2.1) (lw_meth q1301) q121 q1376 q1300 qs42 jdX1_canWash ⟨Nat.le_of_ble_eq_true rfl, Nat.le_of_ble_eq_true rfl⟩ ⟨Nat.zero_le _, Nat.zero_le _⟩ (gmc_gIs h4 (r := (RX1, TX1, 15)) rfl) rfl (Nat.le_of_ble_eq_true rfl) dX21_isDone_6) (fun r3 hw => ?_)
  refine j_b0 ?_
  refine j_if_ne hE 14 dX21_isDone_9 (by decide) (fun c5 => ?_) (fun c5 => ?_)
  · replace hw := hw.1 c5
    refine j_aload_n hE 2 dX21_isDone_14 rfl rfl ?_
    obtain ⟨f6, h7, hw⟩ := hw
    refine j_getMN hE gf_GlassStreet_State_marks q319 h7 dX21_isDone_15 ?_
    refine j_aload_n hE 0 dX21_isDone_18 rfl rfl ?_
    obtain ⟨f8, h9, hw⟩ := hw
    refine j_getM hE gf_GlassStreet_Washed_pane q1132 h9 dX21_isDone_19 ?_
    obtain ⟨a10, e9, hx⟩ := hw
    subst e9
    have hw := hx
    clear hx
    obtain ⟨n11, f12, h13, h14, hw⟩ := hw
    obtain ⟨r15, e_r15⟩ : ∃ r9, f12 (f8).toNatClampNeg = r9 := ⟨_, rfl⟩
    replace hw := hw r15 e_r15
    refine j_aldQ hE (t := 5) ⟨by decide, by decide⟩ h13 h14 e_r15 dX21_isDone_22 ?_
    refine j_dup hE dX21_isDone_23 (va_rf_cat _) ?_
    obtain ⟨a16, e9, hx⟩ := hw
    subst e9
    have hw := hx
    clear hx
    obtain ⟨f17, h18, hw⟩ := hw
    refine j_getMN hE gf_GlassStreet_Marks_many q300 h18 dX21_isDone_24 ?_
    refine j_iconst hE dX21_isDone_27 kc_1 ?_
    refine j_isub hE dX21_isDone_28 ?_
    obtain ⟨n19, fs20, h21, h22, h23, hw⟩ := hw
    refine j_putXN hE h22 gw_GlassStreet_Marks_many_X21 q300 h21 rfl rfl h23 dX21_isDone_29 ?_
    refine j_nw (fun w24 e_w24 => ?_)
    replace hw := hw w24 e_w24
    refine j_iconst hE dX21_isDone_32 kc_1 ?_
    exact j_iret hE hK dX21_isDone_33 rfl hw
  · replace hw := hw.2 c5
    refine j_iconst hE dX21_isDone_12 kc_0 ?_
    exact j_iret hE hK dX21_isDone_13 rfl hw
theorem jdX21_isDone : jD yX21_isDone 2 := by decide +kernel
abbrev wX21_isDone := wX21_isDone_0
theorem ctX21_isDone (l : Launch) (G : gG) {c : Nat → Option Nat} (hc : G.2.2.2 = c) (x0 : Nat) (x1 : Nat) (x2 : Nat) (w : GW) (K : Int32 → GW → Prop) (hw : wX21_isDone_0 c x0 x1 x2 w K) {F2 L2 : Nat} (h2 : 3 ≤ F2 ∧ 64 ≤ L2 := by exact ⟨Nat.le_refl _, Nat.le_refl _⟩) : CtI l yX21_isDone cX21_isDone 3 .boolean ({ frames := F2, cells := 0, slots := 0, locals := L2 }) G [.ref (x0), .ref (x1), .ref (x2)] w (K) :=
  CtI.of RX21 plainc_X21 rfl (Nat.le_of_ble_eq_true rfl) (fun E hE hl hG hn hR hK => bX21_isDone_0 hE hn (hR.le h2.1 h2.2) (by rw [hG]; exact hc) hK hw)
def wX22_isDone_0 (c : Nat → Option Nat) (x0 : Nat) (x1 : Nat) (x2 : Nat) (w : GW) (K : Int32 → GW → Prop) : Prop :=
  ∃ f1 : Int32, gfm w x0 [18] 0 = some (.int f1) ∧ (gmc w x2 = some 3 ∧ (wX4_isWhole c x2 f1 w (fun r3 => (¬ r3 = 0 → (∃ f6 : Int32, gfm w x0 [18] 1 = some (.int f6) ∧ ((f6 = 0 → (∃ f9 : Int32, gfm w x2 [3] 3 = some (.int f9) ∧ (∃ f11 : Int32, gfm w x0 [18] 0 = some (.int f11) ∧ (∃ (n13 : Nat) (fs14 : List Value), w x2 = some (true, .inr (n13, fs14)) ∧ n13 ∈ ([3] : List Nat) ∧ 3 < fs14.length ∧ (∀ w18 : GW, w18 = gup w x2 (.inr (n13, fs14.set 3 (.int (f9 ^^^ (ishl ((1 : Int32)) f11))))) → (K ((1 : Int32)) w18)))))) ∧ (¬ f6 = 0 → (∃ f19 : Int32, gfm w x2 [3] 4 = some (.int f19) ∧ (∃ f21 : Int32, gfm w x0 [18] 0 = some (.int f21) ∧ (∃ (n23 : Nat) (fs24 : List Value), w x2 = some (true, .inr (n23, fs24)) ∧ n23 ∈ ([3] : List Nat) ∧ 4 < fs24.length ∧ (∀ w28 : GW, w28 = gup w x2 (.inr (n23, fs24.set 4 (.int (f19 ||| (ishl ((1 : Int32)) f21))))) → (K ((1 : Int32)) w28))))))))) ∧ (r3 = 0 → (K ((0 : Int32)) w)))))
set_option maxRecDepth 100000 in
theorem bX22_isDone_0 {E : jE} (hE : jOk E cX22_isDone RX22) (hn : E.2.2.2.2 = 3) (hR : jRoom E 2 42) {c : Nat → Option Nat} (hc : E.2.2.1.2.2.2 = c) {b : Nat × Nat} {K : Int32 → GW → Prop} (hK : jRi E .boolean (K)) {x0 : Nat} {x1 : Nat} {x2 : Nat} {w : GW}  (hw : wX22_isDone_0 c x0 x1 x2 w K) : J E w b [(0, .ref (x0)), (1, .ref (x1)), (2, .ref (x2))] 0 [] := by
  unfold wX22_isDone_0 at hw
  refine j_aload_n hE 2 dX22_isDone_0 rfl rfl ?_
  refine j_aload_n hE 0 dX22_isDone_1 rfl rfl ?_
  obtain ⟨f1, h2, hw⟩ := hw
  refine j_getM hE gf_GlassStreet_Changed_pane q1142 h2 dX22_isDone_2 ?_
  obtain ⟨h4, hw⟩ := hw
  refine jc_ip (jr_V hE hR (As := [.int (f1)]) (rest := []) ((ctX4_isWhole E.1.2.1 E.2.2.1 hc _ _ _ _ hw) E.2.2.2.1) (lw_V q1360 q1189 q1190 q127 q1191) jdX4_isWhole ⟨Nat.le_of_ble_eq_true rfl, Nat.le_of_ble_eq_true rfl⟩ ⟨Nat.zero_le _, Nat.zero_le _⟩ (gmc_gIs h4 (r := (RX4, TX4, 5)) rfl) rfl (Nat.le_of_ble_eq_true rfl) dX22_isDone_5) (fun r3 hw => ?_)
  refine j_b0 ?_
  refine j_if_ne hE 13 dX22_isDone_8 (by decide) (fun c5 => ?_) (fun c5 => ?_)
  · replace hw := hw.1 c5
    refine j_aload_n hE 0 dX22_isDone_13 rfl rfl ?_
    obtain ⟨f6, h7, hw⟩ := hw
    refine j_getM hE gf_GlassStreet_Changed_isStone q1143 h7 dX22_isDone_14 ?_
    refine j_if_eq hE 38 dX22_isDone_17 (by decide) (fun c8 => ?_) (fun c8 => ?_)
    · replace hw := hw.1 c8
      refine j_aload_n hE 2 dX22_isDone_38 rfl rfl ?_
      refine j_dup hE dX22_isDone_39 rfl ?_
      obtain ⟨f9, h10, hw⟩ := hw
      refine j_getMN hE gf_GlassStreet_State_drawn q323 h10 dX22_isDone_40 ?_
      refine j_iconst hE dX22_isDone_43 kc_1 ?_
      refine j_aload_n hE 0 dX22_isDone_44 rfl rfl ?_
      obtain ⟨f11, h12, hw⟩ := hw
      refine j_getM hE gf_GlassStreet_Changed_pane q1142 h12 dX22_isDone_45 ?_
      refine j_ishl hE dX22_isDone_48 ?_
      refine j_ixor hE dX22_isDone_49 ?_
      obtain ⟨n13, fs14, h15, h16, h17, hw⟩ := hw
      refine j_putXN hE h16 gw_GlassStreet_State_drawn_X22 q323 h15 rfl rfl h17 dX22_isDone_50 ?_
      refine j_nw (fun w18 e_w18 => ?_)
      replace hw := hw w18 e_w18
      refine j_iconst hE dX22_isDone_53 kc_1 ?_
      exact j_iret hE hK dX22_isDone_54 rfl hw
    · replace hw := hw.2 c8
      refine j_aload_n hE 2 dX22_isDone_20 rfl rfl ?_
      refine j_dup hE dX22_isDone_21 rfl ?_
      obtain ⟨f19, h20, hw⟩ := hw
      refine j_getMN hE gf_GlassStreet_State_gone q326 h20 dX22_isDone_22 ?_
      refine j_iconst hE dX22_isDone_25 kc_1 ?_
      refine j_aload_n hE 0 dX22_isDone_26 rfl rfl ?_
      obtain ⟨f21, h22, hw⟩ := hw
      refine j_getM hE gf_GlassStreet_Changed_pane q1142 h22 dX22_isDone_27 ?_
      refine j_ishl hE dX22_isDone_30 ?_
      refine j_ior hE dX22_isDone_31 ?_
      obtain ⟨n23, fs24, h25, h26, h27, hw⟩ := hw
      refine j_putXN hE h26 gw_GlassStreet_State_gone_X22 q326 h25 rfl rfl h27 dX22_isDone_32 ?_
      refine j_nw (fun w28 e_w28 => ?_)
      replace hw := hw w28 e_w28
      refine j_goto hE 53 dX22_isDone_35 (by decide) ?_
      refine j_iconst hE dX22_isDone_53 kc_1 ?_
      exact j_iret hE hK dX22_isDone_54 rfl hw
  · replace hw := hw.2 c5
    refine j_iconst hE dX22_isDone_11 kc_0 ?_
    exact j_iret hE hK dX22_isDone_12 rfl hw
theorem jdX22_isDone : jD yX22_isDone 2 := by decide +kernel
abbrev wX22_isDone := wX22_isDone_0
theorem ctX22_isDone (l : Launch) (G : gG) {c : Nat → Option Nat} (hc : G.2.2.2 = c) (x0 : Nat) (x1 : Nat) (x2 : Nat) (w : GW) (K : Int32 → GW → Prop) (hw : wX22_isDone_0 c x0 x1 x2 w K) {F2 L2 : Nat} (h2 : 2 ≤ F2 ∧ 42 ≤ L2 := by exact ⟨Nat.le_refl _, Nat.le_refl _⟩) : CtI l yX22_isDone cX22_isDone 3 .boolean ({ frames := F2, cells := 0, slots := 0, locals := L2 }) G [.ref (x0), .ref (x1), .ref (x2)] w (K) :=
  CtI.of RX22 plainc_X22 rfl (Nat.le_of_ble_eq_true rfl) (fun E hE hl hG hn hR hK => bX22_isDone_0 hE hn (hR.le h2.1 h2.2) (by rw [hG]; exact hc) hK hw)
def wX1_showsOf_74 (c : Nat → Option Nat) (x3 : Int32) (x5 : Int32) (x6 : Option Nat) (x7 : Int32) (w0 : GW) (KL48 : Int32 × Int32 → Prop) (K : Int32 → Prop) : Prop :=
  ∃ a1 : Nat, x6 = some a1 ∧ (∃ f2 : Option Nat, gfm w0 a1 [4] 1 = some (va_rf f2) ∧ (∃ a4 : Nat, f2 = some a4 ∧ (∃ (n5 : Nat) (f6 : Nat → Int32), gai w0 a4 0 = some (n5, f6) ∧ vp_in x7 n5 ∧ (∀ v9 : Int32, v9 = x5 ||| (ishl ((1 : Int32)) (rd f6 x7)) → (KL48 (v9, (x7 + 1)))))))
set_option maxRecDepth 100000 in
theorem bX1_showsOf_74 {E : jE} (hE : jOk E cX1_showsOf RX1) (hn : E.2.2.2.2 = 8) (hR : jRoom E 5 107) {c : Nat → Option Nat} (hc : E.2.2.1.2.2.2 = c) {b : Nat × Nat} {w0 : GW} {K : Int32 → Prop} (hK : jRi E .int (KPI w0 K)) {x3 : Int32} {x5 : Int32} {x6 : Option Nat} {x7 : Int32} {KL48 : Int32 × Int32 → Prop} (ih48 : ∀ s : Int32 × Int32, KL48 s → J E w0 b [(3, .int (x3)), (5, .int (s.1)), (6, va_rf (x6)), (7, .int (s.2))] 48 []) (hw : wX1_showsOf_74 c x3 x5 x6 x7 w0 KL48 K) : J E w0 b [(3, .int (x3)), (5, .int (x5)), (6, va_rf (x6)), (7, .int (x7))] 74 [] := by
  unfold wX1_showsOf_74 at hw
  refine j_iload hE 1 dX1_showsOf_74 rfl ?_
  refine j_iconst hE dX1_showsOf_76 kc_1 ?_
  refine j_aloadq hE 2 dX1_showsOf_77 rfl ?_
  obtain ⟨a1, e9, hx⟩ := hw
  subst e9
  have hw := hx
  clear hx
  obtain ⟨f2, h3, hw⟩ := hw
  refine j_getMN hE gf_GlassStreet_Marks_deed q295 h3 dX1_showsOf_79 ?_
  refine j_iload hE 3 dX1_showsOf_82 rfl ?_
  obtain ⟨a4, e9, hx⟩ := hw
  subst e9
  have hw := hx
  clear hx
  obtain ⟨n5, f6, h7, h8, hw⟩ := hw
  refine j_aldI hE h7 h8 dX1_showsOf_84 ?_
  refine j_ishl hE dX1_showsOf_85 ?_
  refine j_ior hE dX1_showsOf_86 ?_
  refine j_topi (fun v9 e_v9 => ?_)
  replace hw := hw v9 e_v9
  refine j_istore (L' := [(5, .int (v9)), (3, .int (x3)), (6, .ref (a1)), (7, .int (x7))]) hE hn dX1_showsOf_87 (Nat.le_of_ble_eq_true rfl) rfl ?_
  refine j_iinc (L' := [(7, .int (x7 + 1)), (5, .int (v9)), (3, .int (x3)), (6, .ref (a1))]) hE hn 3 dX1_showsOf_89 rfl (congrArg (x7 + ·) kc_1) (Nat.le_of_ble_eq_true rfl) rfl ?_
  refine j_goto hE 48 dX1_showsOf_92 (by decide) ?_
  refine j_sub [(3, .int (x3)), (5, .int (v9)), (6, .ref (a1)), (7, .int (x7 + 1))] [2, 1, 3, 0] rfl ?_
  have hz := ih48 (v9, (x7 + 1)) hw
  exact hz
def wX1_showsOf_48_b (c : Nat → Option Nat) (x3 : Int32) (x6 : Option Nat) (x5 : Int32) (x7 : Int32) (w0 : GW) (KL48 : Int32 × Int32 → Prop) (K : Int32 → Prop) : Prop :=
  ∃ a1 : Nat, x6 = some a1 ∧ (∃ f2 : Int32, gfm w0 a1 [4] 4 = some (.int f2) ∧ ((f2 ≤ x7 → (K x5)) ∧ (¬ f2 ≤ x7 → ((x3 < 0 → (wX1_showsOf_74 c x3 x5 (some a1) x7 w0 KL48 K)) ∧ (¬ x3 < 0 → (∃ f6 : Option Nat, gfm w0 a1 [4] 0 = some (va_rf f6) ∧ (∃ a8 : Nat, f6 = some a8 ∧ (∃ (n9 : Nat) (f10 : Nat → Int32), gai w0 a8 0 = some (n9, f10) ∧ vp_in x7 n9 ∧ ((¬ (rd f10 x7) = x3 → (KL48 (x5, (x7 + 1)))) ∧ ((rd f10 x7) = x3 → (wX1_showsOf_74 c x3 x5 (some a1) x7 w0 KL48 K)))))))))))
def wX1_showsOf_48 (c : Nat → Option Nat) (x3 : Int32) (x6 : Option Nat) (x5 : Int32) (x7 : Int32) (w0 : GW) (K : Int32 → Prop) : Prop := lfp (σ := Int32 × Int32) (fun KL s => wX1_showsOf_48_b c x3 x6 s.1 s.2 w0 KL K) (x5, x7)
set_option maxRecDepth 100000 in
theorem bX1_showsOf_48 {E : jE} (hE : jOk E cX1_showsOf RX1) (hn : E.2.2.2.2 = 8) (hR : jRoom E 5 107) {c : Nat → Option Nat} (hc : E.2.2.1.2.2.2 = c) {b : Nat × Nat} {w0 : GW} {K : Int32 → Prop} (hK : jRi E .int (KPI w0 K)) {x3 : Int32} {x6 : Option Nat} {x5 : Int32} {x7 : Int32}  (hw : wX1_showsOf_48 c x3 x6 x5 x7 w0 K) : J E w0 b [(3, .int (x3)), (5, .int (x5)), (6, va_rf (x6)), (7, .int (x7))] 48 [] := by
  refine lfp_sound (σ := Int32 × Int32) (F := fun KL s => wX1_showsOf_48_b c x3 x6 s.1 s.2 w0 KL K) (P := fun s => J E w0 b [(3, .int (x3)), (5, .int (s.1)), (6, va_rf (x6)), (7, .int (s.2))] 48 []) ?_ hw
  clear hw
  rintro KL48 ⟨x5, x7⟩ hw ih48
  have hw : wX1_showsOf_48_b c x3 x6 x5 x7 w0 KL48 K := hw
  unfold wX1_showsOf_48_b at hw
  refine j_iload hE 3 dX1_showsOf_48 rfl ?_
  refine j_aloadq hE 2 dX1_showsOf_50 rfl ?_
  obtain ⟨a1, e9, hx⟩ := hw
  subst e9
  have hw := hx
  clear hx
  obtain ⟨f2, h3, hw⟩ := hw
  refine j_getMN hE gf_GlassStreet_Marks_many q303 h3 dX1_showsOf_52 ?_
  refine j_icmp_ge hE 95 dX1_showsOf_55 (by decide) (fun c4 => ?_) (fun c4 => ?_)
  · replace hw := hw.1 c4
    refine j_iload hE 1 dX1_showsOf_95 rfl ?_
    exact j_iret hE hK dX1_showsOf_97 rfl ⟨rfl, hw⟩
  · replace hw := hw.2 c4
    refine j_iload_n hE 0 dX1_showsOf_58 rfl rfl ?_
    refine j_if_lt hE 74 dX1_showsOf_59 (by decide) (fun c5 => ?_) (fun c5 => ?_)
    · replace hw := hw.1 c5
      have hz := bX1_showsOf_74 (b := b) hE hn hR hc hK ih48 hw
      exact hz
    · replace hw := hw.2 c5
      refine j_aload hE 2 dX1_showsOf_62 rfl ?_
      obtain ⟨f6, h7, hw⟩ := hw
      refine j_getMN hE gf_GlassStreet_Marks_who q293 h7 dX1_showsOf_64 ?_
      refine j_iload hE 3 dX1_showsOf_67 rfl ?_
      obtain ⟨a8, e9, hx⟩ := hw
      subst e9
      have hw := hx
      clear hx
      obtain ⟨n9, f10, h11, h12, hw⟩ := hw
      refine j_aldI hE h11 h12 dX1_showsOf_69 ?_
      refine j_iload_n hE 0 dX1_showsOf_70 rfl rfl ?_
      refine j_icmp_ne hE 89 dX1_showsOf_71 (by decide) (fun c13 => ?_) (fun c13 => ?_)
      · replace hw := hw.1 c13
        refine j_iinc (L' := [(7, .int (x7 + 1)), (3, .int (x3)), (5, .int (x5)), (6, .ref (a1))]) hE hn 3 dX1_showsOf_89 rfl (congrArg (x7 + ·) kc_1) (Nat.le_of_ble_eq_true rfl) rfl ?_
        refine j_goto hE 48 dX1_showsOf_92 (by decide) ?_
        refine j_sub [(3, .int (x3)), (5, .int (x5)), (6, .ref (a1)), (7, .int (x7 + 1))] [1, 2, 3, 0] rfl ?_
        have hz := ih48 (x5, (x7 + 1)) hw
        exact hz
      · replace hw := hw.2 c13
        have hz := bX1_showsOf_74 (b := b) hE hn hR hc hK ih48 hw
        exact hz
def wX1_showsOf_34 (c : Nat → Option Nat) (x3 : Int32) (x4 : Int32) (x5 : Int32) (x6 : Option Nat) (w0 : GW) (K : Int32 → Prop) : Prop :=
  ∃ a1 : Nat, x6 = some a1 ∧ (∃ f2 : Int32, gfm w0 a1 [4] 4 = some (.int f2) ∧ (∀ v4 : Int32, v4 = (if ((0 : Int32)) < (f2 - x4) then (f2 - x4) else ((0 : Int32))) → (wX1_showsOf_48 c x3 (some a1) x5 v4 w0 K)))
set_option maxRecDepth 100000 in
theorem bX1_showsOf_34 {E : jE} (hE : jOk E cX1_showsOf RX1) (hn : E.2.2.2.2 = 8) (hR : jRoom E 5 107) {c : Nat → Option Nat} (hc : E.2.2.1.2.2.2 = c) {b : Nat × Nat} {w0 : GW} {K : Int32 → Prop} (hK : jRi E .int (KPI w0 K)) {x3 : Int32} {x4 : Int32} {x5 : Int32} {x6 : Option Nat}  (hw : wX1_showsOf_34 c x3 x4 x5 x6 w0 K) : J E w0 b [(3, .int (x3)), (4, .int (x4)), (5, .int (x5)), (6, va_rf (x6))] 34 [] := by
  unfold wX1_showsOf_34 at hw
  refine j_iconst hE dX1_showsOf_34 kc_0 ?_
  refine j_aloadq hE 3 dX1_showsOf_35 rfl ?_
  obtain ⟨a1, e9, hx⟩ := hw
  subst e9
  have hw := hx
  clear hx
  obtain ⟨f2, h3, hw⟩ := hw
  refine j_getMN hE gf_GlassStreet_Marks_many q303 h3 dX1_showsOf_37 ?_
  refine j_iload hE 1 dX1_showsOf_40 rfl ?_
  refine j_isub hE dX1_showsOf_42 ?_
  refine j_mmax hE hR q1385 (Nat.le_of_ble_eq_true rfl) (Nat.le_of_ble_eq_true rfl) dX1_showsOf_43 ?_
  refine j_topi (fun v4 e_v4 => ?_)
  replace hw := hw v4 e_v4
  refine j_istore (L' := [(7, .int (v4)), (3, .int (x3)), (4, .int (x4)), (5, .int (x5)), (6, .ref (a1))]) hE hn dX1_showsOf_46 (Nat.le_of_ble_eq_true rfl) rfl ?_
  refine j_sub [(3, .int (x3)), (5, .int (x5)), (6, .ref (a1)), (7, .int (v4))] [1, 3, 4, 0] rfl ?_
  have hz := bX1_showsOf_48 (b := b) hE hn hR hc hK  hw
  exact hz
def wX1_showsOf_0 (c : Nat → Option Nat) (x0 : Nat) (x1 : Nat) (x2 : Int32) (x3 : Int32) (x4 : Int32) (w0 : GW) (K : Int32 → Prop) : Prop :=
  ∃ f1 : Option Nat, gfm w0 x1 [3] 1 = some (va_rf f1) ∧ (∃ a3 : Nat, f1 = some a3 ∧ (∃ (n4 : Nat) (f5 : Nat → Option Nat), gaq w0 a3 5 = some (n4, f5) ∧ vp_in x2 n4 ∧ (∀ r8 : Option Nat, f5 (x2).toNatClampNeg = r8 → (gmc w0 x1 = some 3 ∧ (wX4_shows c x1 x2 w0 (fun r9 => (r9 = 0 → (K ((0 : Int32)))) ∧ (¬ r9 = 0 → ((x3 < 0 → (wX1_showsOf_34 c x3 x4 ((0 : Int32)) r8 w0 K)) ∧ (¬ x3 < 0 → (gmc w0 x0 = some 0 ∧ (wX1_tellsWho c x0 x1 x2 w0 (fun r13 => (¬ r13 = 0 → (wX1_showsOf_34 c x3 x4 ((0 : Int32)) r8 w0 K)) ∧ (r13 = 0 → (K ((0 : Int32))))))))))))))))
set_option maxRecDepth 100000 in
theorem bX1_showsOf_0 {E : jE} (hE : jOk E cX1_showsOf RX1) (hn : E.2.2.2.2 = 8) (hR : jRoom E 5 107) {c : Nat → Option Nat} (hc : E.2.2.1.2.2.2 = c) {b : Nat × Nat} {w0 : GW} {K : Int32 → Prop} (hK : jRi E .int (KPI w0 K)) {x0 : Nat} {x1 : Nat} {x2 : Int32} {x3 : Int32} {x4 : Int32}  (hw : wX1_showsOf_0 c x0 x1 x2 x3 x4 w0 K) : J E w0 b [(0, .ref (x0)), (1, .ref (x1)), (2, .int (x2)), (3, .int (x3)), (4, .int (x4))] 0 [] := by
  unfold wX1_showsOf_0 at hw
  refine j_iconst hE dX1_showsOf_0 kc_0 ?_
  refine j_istore (L' := [(5, .int ((0 : Int32))), (0, .ref (x0)), (1, .ref (x1)), (2, .int (x2)), (3, .int (x3)), (4, .int (x4))]) hE hn dX1_showsOf_1 (Nat.le_of_ble_eq_true rfl) rfl ?_
  refine j_aload_n hE 2 dX1_showsOf_3 rfl rfl ?_
  obtain ⟨f1, h2, hw⟩ := hw
  refine j_getMN hE gf_GlassStreet_State_marks q320 h2 dX1_showsOf_4 ?_
  refine j_iload_n hE 3 dX1_showsOf_7 rfl rfl ?_
  obtain ⟨a3, e9, hx⟩ := hw
  subst e9
  have hw := hx
  clear hx
  obtain ⟨n4, f5, h6, h7, hw⟩ := hw
  obtain ⟨r8, e_r8⟩ : ∃ r9, f5 (x2).toNatClampNeg = r9 := ⟨_, rfl⟩
  replace hw := hw r8 e_r8
  refine j_aldQ hE (t := 5) ⟨by decide, by decide⟩ h6 h7 e_r8 dX1_showsOf_8 ?_
  refine j_astoreq (L' := [(6, va_rf (r8)), (5, .int ((0 : Int32))), (0, .ref (x0)), (1, .ref (x1)), (2, .int (x2)), (3, .int (x3)), (4, .int (x4))]) hE hn dX1_showsOf_9 (Nat.le_of_ble_eq_true rfl) rfl ?_
  refine j_aload_n hE 3 dX1_showsOf_11 rfl rfl ?_
  refine j_iload_n hE 4 dX1_showsOf_12 rfl rfl ?_
  obtain ⟨h10, hw⟩ := hw
  refine jc_ip (jr_V hE hR (As := [.int (x2)]) (rest := []) ((ctX4_shows E.1.2.1 E.2.2.1 hc _ _ _ _ hw) E.2.2.2.1) (lw_V q1216 q1217 q1218 q127 q1219) jdX4_shows ⟨Nat.le_of_ble_eq_true rfl, Nat.le_of_ble_eq_true rfl⟩ ⟨Nat.zero_le _, Nat.zero_le _⟩ (gmc_gIs h10 (r := (RX4, TX4, 5)) rfl) rfl (Nat.le_of_ble_eq_true rfl) dX1_showsOf_13) (fun r9 hw => ?_)
  refine j_b0 ?_
  refine j_if_eq hE 32 dX1_showsOf_16 (by decide) (fun c11 => ?_) (fun c11 => ?_)
  · replace hw := hw.1 c11
    refine j_iconst hE dX1_showsOf_32 kc_0 ?_
    exact j_iret hE hK dX1_showsOf_33 rfl ⟨rfl, hw⟩
  · replace hw := hw.2 c11
    refine j_iload_n hE 5 dX1_showsOf_19 rfl rfl ?_
    refine j_if_lt hE 34 dX1_showsOf_20 (by decide) (fun c12 => ?_) (fun c12 => ?_)
    · replace hw := hw.1 c12
      refine j_sub [(3, .int (x3)), (4, .int (x4)), (5, .int ((0 : Int32))), (6, va_rf (r8))] [5, 6, 1, 0] rfl ?_
      have hz := bX1_showsOf_34 (b := b) hE hn hR hc hK  hw
      exact hz
    · replace hw := hw.2 c12
      refine j_aload_n hE 2 dX1_showsOf_23 rfl rfl ?_
      refine j_aload_n hE 3 dX1_showsOf_24 rfl rfl ?_
      refine j_iload_n hE 4 dX1_showsOf_25 rfl rfl ?_
      obtain ⟨h14, hw⟩ := hw
      refine jc_ip (jr_V hE hR (As := [.ref (x1), .int (x2)]) (rest := []) ((ctX1_tellsWho E.1.2.1 E.2.2.1 hc _ _ _ _ _ hw) E.2.2.2.1) (lw_V q1220 q1222 qs34 q121 q1223) jdX1_tellsWho ⟨Nat.le_of_ble_eq_true rfl, Nat.le_of_ble_eq_true rfl⟩ ⟨Nat.zero_le _, Nat.zero_le _⟩ (gmc_gIs h14 (r := (RX1, TX1, 15)) rfl) rfl (Nat.le_of_ble_eq_true rfl) dX1_showsOf_26) (fun r13 hw => ?_)
      refine j_b0 ?_
      refine j_if_ne hE 34 dX1_showsOf_29 (by decide) (fun c15 => ?_) (fun c15 => ?_)
      · replace hw := hw.1 c15
        refine j_sub [(3, .int (x3)), (4, .int (x4)), (5, .int ((0 : Int32))), (6, va_rf (r8))] [5, 6, 1, 0] rfl ?_
        have hz := bX1_showsOf_34 (b := b) hE hn hR hc hK  hw
        exact hz
      · replace hw := hw.2 c15
        refine j_iconst hE dX1_showsOf_32 kc_0 ?_
        exact j_iret hE hK dX1_showsOf_33 rfl ⟨rfl, hw⟩
theorem jdX1_showsOf : jD yX1_showsOf 4 := by decide +kernel
abbrev wX1_showsOf := wX1_showsOf_0
theorem ctX1_showsOf (l : Launch) (G : gG) {c : Nat → Option Nat} (hc : G.2.2.2 = c) (x0 : Nat) (x1 : Nat) (x2 : Int32) (x3 : Int32) (x4 : Int32) (w0 : GW) (K : Int32 → Prop) (hw : wX1_showsOf_0 c x0 x1 x2 x3 x4 w0 K) {F2 L2 : Nat} (h2 : 5 ≤ F2 ∧ 107 ≤ L2 := by exact ⟨Nat.le_refl _, Nat.le_refl _⟩) : CtI l yX1_showsOf cX1_showsOf 8 .int ({ frames := F2, cells := 0, slots := 0, locals := L2 }) G [.ref (x0), .ref (x1), .int (x2), .int (x3), .int (x4)] w0 (KPI w0 K) :=
  CtI.of RX1 plainc_X1 rfl (Nat.le_of_ble_eq_true rfl) (fun E hE hl hG hn hR hK => bX1_showsOf_0 hE hn (hR.le h2.1 h2.2) (by rw [hG]; exact hc) hK hw)
def wX1_harmBy_4_b (c : Nat → Option Nat) (x0 : Nat) (x1 : Int32) (x2 : Int32) (x3 : Int32) (w0 : GW) (KL4 : Int32 × Int32 → Prop) (K : Int32 → Prop) : Prop :=
  gmc w0 x0 = some 0 ∧ (wX1_deeds c x0 w0 (fun r1 => (r1 ≤ x3 → (K x2)) ∧ (¬ r1 ≤ x3 → (wX1_isIn c x1 x3 w0 (fun r4 => (r4 = 0 → (KL4 (x2, (x3 + 1)))) ∧ (¬ r4 = 0 → (∃ f6 : Option Nat, gfm w0 x0 [0] 2 = some (va_rf f6) ∧ (∃ a8 : Nat, f6 = some a8 ∧ (∃ f9 : Option Nat, gfm w0 a8 [2] 4 = some (va_rf f9) ∧ (∃ a11 : Nat, f9 = some a11 ∧ (∃ (n12 : Nat) (f13 : Nat → Int32), gai w0 a11 0 = some (n12, f13) ∧ vp_in x3 n12 ∧ (∀ v16 : Int32, v16 = x2 + (rd f13 x3) → (KL4 (v16, (x3 + 1)))))))))))))))
def wX1_harmBy_4 (c : Nat → Option Nat) (x0 : Nat) (x1 : Int32) (x2 : Int32) (x3 : Int32) (w0 : GW) (K : Int32 → Prop) : Prop := lfp (σ := Int32 × Int32) (fun KL s => wX1_harmBy_4_b c x0 x1 s.1 s.2 w0 KL K) (x2, x3)
set_option maxRecDepth 100000 in
theorem bX1_harmBy_4 {E : jE} (hE : jOk E cX1_harmBy RX1) (hn : E.2.2.2.2 = 4) (hR : jRoom E 2 40) {c : Nat → Option Nat} (hc : E.2.2.1.2.2.2 = c) {b : Nat × Nat} {w0 : GW} {K : Int32 → Prop} (hK : jRi E .int (KPI w0 K)) {x0 : Nat} {x1 : Int32} {x2 : Int32} {x3 : Int32}  (hw : wX1_harmBy_4 c x0 x1 x2 x3 w0 K) : J E w0 b [(0, .ref (x0)), (1, .int (x1)), (2, .int (x2)), (3, .int (x3))] 4 [] := by
  refine lfp_sound (σ := Int32 × Int32) (F := fun KL s => wX1_harmBy_4_b c x0 x1 s.1 s.2 w0 KL K) (P := fun s => J E w0 b [(0, .ref (x0)), (1, .int (x1)), (2, .int (s.1)), (3, .int (s.2))] 4 []) ?_ hw
  clear hw
  rintro KL4 ⟨x2, x3⟩ hw ih4
  have hw : wX1_harmBy_4_b c x0 x1 x2 x3 w0 KL4 K := hw
  unfold wX1_harmBy_4_b at hw
  refine j_iload_n hE 3 dX1_harmBy_4 rfl rfl ?_
  refine j_aload_n hE 0 dX1_harmBy_5 rfl rfl ?_
  obtain ⟨h2, hw⟩ := hw
  refine jc_ip (jr_V hE hR (As := []) (rest := [.int (x3)]) ((ctX1_deeds E.1.2.1 E.2.2.1 hc _ _ _ hw) E.2.2.2.1) (lw_V q1274 q1276 qs39 q121 q1277) jdX1_deeds ⟨Nat.le_of_ble_eq_true rfl, Nat.le_of_ble_eq_true rfl⟩ ⟨Nat.zero_le _, Nat.zero_le _⟩ (gmc_gIs h2 (r := (RX1, TX1, 15)) rfl) rfl (Nat.le_of_ble_eq_true rfl) dX1_harmBy_6) (fun r1 hw => ?_)
  refine j_b0 ?_
  refine j_icmp_ge hE 38 dX1_harmBy_9 (by decide) (fun c3 => ?_) (fun c3 => ?_)
  · replace hw := hw.1 c3
    refine j_iload_n hE 2 dX1_harmBy_38 rfl rfl ?_
    exact j_iret hE hK dX1_harmBy_39 rfl ⟨rfl, hw⟩
  · replace hw := hw.2 c3
    refine j_iload_n hE 1 dX1_harmBy_12 rfl rfl ?_
    refine j_iload_n hE 3 dX1_harmBy_13 rfl rfl ?_
    refine jc_ip (jr_S hE hR (As := [.int (x1), .int (x3)]) (rest := []) ((ctX1_isIn E.1.2.1 E.2.2.1 hc _ _ _ _ hw) E.2.2.2.1) (lw_S q1183 q922 q121 q923) jdX1_isIn ⟨Nat.le_of_ble_eq_true rfl, Nat.le_of_ble_eq_true rfl⟩ ⟨Nat.zero_le _, Nat.zero_le _⟩  rfl (Nat.le_of_ble_eq_true rfl) dX1_harmBy_14) (fun r4 hw => ?_)
    refine j_b0 ?_
    refine j_if_eq hE 32 dX1_harmBy_17 (by decide) (fun c5 => ?_) (fun c5 => ?_)
    · replace hw := hw.1 c5
      refine j_iinc (L' := [(3, .int (x3 + 1)), (0, .ref (x0)), (1, .int (x1)), (2, .int (x2))]) hE hn 3 dX1_harmBy_32 rfl (congrArg (x3 + ·) kc_1) (Nat.le_of_ble_eq_true rfl) rfl ?_
      refine j_goto hE 4 dX1_harmBy_35 (by decide) ?_
      refine j_sub [(0, .ref (x0)), (1, .int (x1)), (2, .int (x2)), (3, .int (x3 + 1))] [1, 2, 3, 0] rfl ?_
      have hz := ih4 (x2, (x3 + 1)) hw
      exact hz
    · replace hw := hw.2 c5
      refine j_iload_n hE 2 dX1_harmBy_20 rfl rfl ?_
      refine j_aload_n hE 0 dX1_harmBy_21 rfl rfl ?_
      obtain ⟨f6, h7, hw⟩ := hw
      refine j_getM hE gf_GlassStreet_houses q349 h7 dX1_harmBy_22 ?_
      obtain ⟨a8, e9, hx⟩ := hw
      subst e9
      have hw := hx
      clear hx
      obtain ⟨f9, h10, hw⟩ := hw
      refine j_getMN hE gf_GlassStreet_Houses_harm q251 h10 dX1_harmBy_25 ?_
      refine j_iload_n hE 3 dX1_harmBy_28 rfl rfl ?_
      obtain ⟨a11, e9, hx⟩ := hw
      subst e9
      have hw := hx
      clear hx
      obtain ⟨n12, f13, h14, h15, hw⟩ := hw
      refine j_aldI hE h14 h15 dX1_harmBy_29 ?_
      refine j_iadd hE dX1_harmBy_30 ?_
      refine j_topi (fun v16 e_v16 => ?_)
      replace hw := hw v16 e_v16
      refine j_istore_n (L' := [(2, .int (v16)), (0, .ref (x0)), (1, .int (x1)), (3, .int (x3))]) hE hn dX1_harmBy_31 rfl (Nat.le_of_ble_eq_true rfl) rfl ?_
      refine j_iinc (L' := [(3, .int (x3 + 1)), (2, .int (v16)), (0, .ref (x0)), (1, .int (x1))]) hE hn 3 dX1_harmBy_32 rfl (congrArg (x3 + ·) kc_1) (Nat.le_of_ble_eq_true rfl) rfl ?_
      refine j_goto hE 4 dX1_harmBy_35 (by decide) ?_
      refine j_sub [(0, .ref (x0)), (1, .int (x1)), (2, .int (v16)), (3, .int (x3 + 1))] [2, 3, 1, 0] rfl ?_
      have hz := ih4 (v16, (x3 + 1)) hw
      exact hz
def wX1_harmBy_0 (c : Nat → Option Nat) (x0 : Nat) (x1 : Int32) (w0 : GW) (K : Int32 → Prop) : Prop :=
  wX1_harmBy_4 c x0 x1 ((0 : Int32)) ((0 : Int32)) w0 K
set_option maxRecDepth 100000 in
theorem bX1_harmBy_0 {E : jE} (hE : jOk E cX1_harmBy RX1) (hn : E.2.2.2.2 = 4) (hR : jRoom E 2 40) {c : Nat → Option Nat} (hc : E.2.2.1.2.2.2 = c) {b : Nat × Nat} {w0 : GW} {K : Int32 → Prop} (hK : jRi E .int (KPI w0 K)) {x0 : Nat} {x1 : Int32}  (hw : wX1_harmBy_0 c x0 x1 w0 K) : J E w0 b [(0, .ref (x0)), (1, .int (x1))] 0 [] := by
  unfold wX1_harmBy_0 at hw
  refine j_iconst hE dX1_harmBy_0 kc_0 ?_
  refine j_istore_n (L' := [(2, .int ((0 : Int32))), (0, .ref (x0)), (1, .int (x1))]) hE hn dX1_harmBy_1 rfl (Nat.le_of_ble_eq_true rfl) rfl ?_
  refine j_iconst hE dX1_harmBy_2 kc_0 ?_
  refine j_istore_n (L' := [(3, .int ((0 : Int32))), (2, .int ((0 : Int32))), (0, .ref (x0)), (1, .int (x1))]) hE hn dX1_harmBy_3 rfl (Nat.le_of_ble_eq_true rfl) rfl ?_
  refine j_sub [(0, .ref (x0)), (1, .int (x1)), (2, .int ((0 : Int32))), (3, .int ((0 : Int32)))] [2, 3, 1, 0] rfl ?_
  have hz := bX1_harmBy_4 (b := b) hE hn hR hc hK  hw
  exact hz
theorem jdX1_harmBy : jD yX1_harmBy 1 := by decide +kernel
abbrev wX1_harmBy := wX1_harmBy_0
theorem ctX1_harmBy (l : Launch) (G : gG) {c : Nat → Option Nat} (hc : G.2.2.2 = c) (x0 : Nat) (x1 : Int32) (w0 : GW) (K : Int32 → Prop) (hw : wX1_harmBy_0 c x0 x1 w0 K) {F2 L2 : Nat} (h2 : 2 ≤ F2 ∧ 40 ≤ L2 := by exact ⟨Nat.le_refl _, Nat.le_refl _⟩) : CtI l yX1_harmBy cX1_harmBy 4 .int ({ frames := F2, cells := 0, slots := 0, locals := L2 }) G [.ref (x0), .int (x1)] w0 (KPI w0 K) :=
  CtI.of RX1 plainc_X1 rfl (Nat.le_of_ble_eq_true rfl) (fun E hE hl hG hn hR hK => bX1_harmBy_0 hE hn (hR.le h2.1 h2.2) (by rw [hG]; exact hc) hK hw)
def wX1_harmOf_5_b (c : Nat → Option Nat) (x0 : Nat) (x1 : Nat) (x2 : Int32) (x3 : Int32) (x4 : Int32) (w0 : GW) (KL5 : Int32 × Int32 → Prop) (K : Int32 → Prop) : Prop :=
  gmc w0 x0 = some 0 ∧ (wX1_panes c x0 w0 (fun r1 => (r1 ≤ x4 → (gmc w0 x0 = some 0 ∧ (wX1_harmBy c x0 x3 w0 (fun r4 => K r4)))) ∧ (¬ r1 ≤ x4 → (gmc w0 x0 = some 0 ∧ (wX1_showsOf c x0 x1 x4 ((-1 : Int32)) x2 w0 (fun r6 => ∀ v8 : Int32, v8 = x3 ||| r6 → (KL5 (v8, (x4 + 1)))))))))
def wX1_harmOf_5 (c : Nat → Option Nat) (x0 : Nat) (x1 : Nat) (x2 : Int32) (x3 : Int32) (x4 : Int32) (w0 : GW) (K : Int32 → Prop) : Prop := lfp (σ := Int32 × Int32) (fun KL s => wX1_harmOf_5_b c x0 x1 x2 s.1 s.2 w0 KL K) (x3, x4)
set_option maxRecDepth 100000 in
theorem bX1_harmOf_5 {E : jE} (hE : jOk E cX1_harmOf RX1) (hn : E.2.2.2.2 = 5) (hR : jRoom E 6 134) {c : Nat → Option Nat} (hc : E.2.2.1.2.2.2 = c) {b : Nat × Nat} {w0 : GW} {K : Int32 → Prop} (hK : jRi E .int (KPI w0 K)) {x0 : Nat} {x1 : Nat} {x2 : Int32} {x3 : Int32} {x4 : Int32}  (hw : wX1_harmOf_5 c x0 x1 x2 x3 x4 w0 K) : J E w0 b [(0, .ref (x0)), (1, .ref (x1)), (2, .int (x2)), (3, .int (x3)), (4, .int (x4))] 5 [] := by
  refine lfp_sound (σ := Int32 × Int32) (F := fun KL s => wX1_harmOf_5_b c x0 x1 x2 s.1 s.2 w0 KL K) (P := fun s => J E w0 b [(0, .ref (x0)), (1, .ref (x1)), (2, .int (x2)), (3, .int (s.1)), (4, .int (s.2))] 5 []) ?_ hw
  clear hw
  rintro KL5 ⟨x3, x4⟩ hw ih5
  have hw : wX1_harmOf_5_b c x0 x1 x2 x3 x4 w0 KL5 K := hw
  unfold wX1_harmOf_5_b at hw
  refine j_iload hE 4 dX1_harmOf_5 rfl ?_
  refine j_aload_n hE 0 dX1_harmOf_7 rfl rfl ?_
  obtain ⟨h2, hw⟩ := hw
  refine jc_ip (jr_V hE hR (As := []) (rest := [.int (x4)]) ((ctX1_panes E.1.2.1 E.2.2.1 hc _ _ _ hw) E.2.2.2.1) (lw_V q1157 q1159 qs31 q121 q1160) jdX1_panes ⟨Nat.le_of_ble_eq_true rfl, Nat.le_of_ble_eq_true rfl⟩ ⟨Nat.zero_le _, Nat.zero_le _⟩ (gmc_gIs h2 (r := (RX1, TX1, 15)) rfl) rfl (Nat.le_of_ble_eq_true rfl) dX1_harmOf_8) (fun r1 hw => ?_)
  refine j_b0 ?_
  refine j_icmp_ge hE 32 dX1_harmOf_11 (by decide) (fun c3 => ?_) (fun c3 => ?_)
  · replace hw := hw.1 c3
    refine j_aload_n hE 0 dX1_harmOf_32 rfl rfl ?_
    refine j_iload_n hE 3 dX1_harmOf_33 rfl rfl ?_
    obtain ⟨h5, hw⟩ := hw
    refine jc_ip (jr_V hE hR (As := [.int (x3)]) (rest := []) ((ctX1_harmBy E.1.2.1 E.2.2.1 hc _ _ _ _ hw) E.2.2.2.1) (lw_V q1386 q1388 qs48 q121 q1389) jdX1_harmBy ⟨Nat.le_of_ble_eq_true rfl, Nat.le_of_ble_eq_true rfl⟩ ⟨Nat.zero_le _, Nat.zero_le _⟩ (gmc_gIs h5 (r := (RX1, TX1, 15)) rfl) rfl (Nat.le_of_ble_eq_true rfl) dX1_harmOf_34) (fun r4 hw => ?_)
    refine j_b0 ?_
    exact j_iret hE hK dX1_harmOf_37 rfl ⟨rfl, hw⟩
  · replace hw := hw.2 c3
    refine j_iload_n hE 3 dX1_harmOf_14 rfl rfl ?_
    refine j_aload_n hE 0 dX1_harmOf_15 rfl rfl ?_
    refine j_aload_n hE 1 dX1_harmOf_16 rfl rfl ?_
    refine j_iload hE 4 dX1_harmOf_17 rfl ?_
    refine j_iconst hE dX1_harmOf_19 kc_m1 ?_
    refine j_iload_n hE 2 dX1_harmOf_20 rfl rfl ?_
    obtain ⟨h7, hw⟩ := hw
    refine jc_ip (jr_V hE hR (As := [.ref (x1), .int (x4), .int ((-1 : Int32)), .int (x2)]) (rest := [.int (x3)]) ((ctX1_showsOf E.1.2.1 E.2.2.1 hc _ _ _ _ _ _ _ hw) E.2.2.2.1) (lw_V q1381 q1383 qs47 q121 q1384) jdX1_showsOf ⟨Nat.le_of_ble_eq_true rfl, Nat.le_of_ble_eq_true rfl⟩ ⟨Nat.zero_le _, Nat.zero_le _⟩ (gmc_gIs h7 (r := (RX1, TX1, 15)) rfl) rfl (Nat.le_of_ble_eq_true rfl) dX1_harmOf_21) (fun r6 hw => ?_)
    refine j_b0 ?_
    refine j_ior hE dX1_harmOf_24 ?_
    refine j_topi (fun v8 e_v8 => ?_)
    replace hw := hw v8 e_v8
    refine j_istore_n (L' := [(3, .int (v8)), (0, .ref (x0)), (1, .ref (x1)), (2, .int (x2)), (4, .int (x4))]) hE hn dX1_harmOf_25 rfl (Nat.le_of_ble_eq_true rfl) rfl ?_
    refine j_iinc (L' := [(4, .int (x4 + 1)), (3, .int (v8)), (0, .ref (x0)), (1, .ref (x1)), (2, .int (x2))]) hE hn 4 dX1_harmOf_26 rfl (congrArg (x4 + ·) kc_1) (Nat.le_of_ble_eq_true rfl) rfl ?_
    refine j_goto hE 5 dX1_harmOf_29 (by decide) ?_
    refine j_sub [(0, .ref (x0)), (1, .ref (x1)), (2, .int (x2)), (3, .int (v8)), (4, .int (x4 + 1))] [2, 3, 4, 1, 0] rfl ?_
    have hz := ih5 (v8, (x4 + 1)) hw
    exact hz
def wX1_harmOf_0 (c : Nat → Option Nat) (x0 : Nat) (x1 : Nat) (x2 : Int32) (w0 : GW) (K : Int32 → Prop) : Prop :=
  wX1_harmOf_5 c x0 x1 x2 ((0 : Int32)) ((0 : Int32)) w0 K
set_option maxRecDepth 100000 in
theorem bX1_harmOf_0 {E : jE} (hE : jOk E cX1_harmOf RX1) (hn : E.2.2.2.2 = 5) (hR : jRoom E 6 134) {c : Nat → Option Nat} (hc : E.2.2.1.2.2.2 = c) {b : Nat × Nat} {w0 : GW} {K : Int32 → Prop} (hK : jRi E .int (KPI w0 K)) {x0 : Nat} {x1 : Nat} {x2 : Int32}  (hw : wX1_harmOf_0 c x0 x1 x2 w0 K) : J E w0 b [(0, .ref (x0)), (1, .ref (x1)), (2, .int (x2))] 0 [] := by
  unfold wX1_harmOf_0 at hw
  refine j_iconst hE dX1_harmOf_0 kc_0 ?_
  refine j_istore_n (L' := [(3, .int ((0 : Int32))), (0, .ref (x0)), (1, .ref (x1)), (2, .int (x2))]) hE hn dX1_harmOf_1 rfl (Nat.le_of_ble_eq_true rfl) rfl ?_
  refine j_iconst hE dX1_harmOf_2 kc_0 ?_
  refine j_istore (L' := [(4, .int ((0 : Int32))), (3, .int ((0 : Int32))), (0, .ref (x0)), (1, .ref (x1)), (2, .int (x2))]) hE hn dX1_harmOf_3 (Nat.le_of_ble_eq_true rfl) rfl ?_
  refine j_sub [(0, .ref (x0)), (1, .ref (x1)), (2, .int (x2)), (3, .int ((0 : Int32))), (4, .int ((0 : Int32)))] [2, 3, 4, 1, 0] rfl ?_
  have hz := bX1_harmOf_5 (b := b) hE hn hR hc hK  hw
  exact hz
theorem jdX1_harmOf : jD yX1_harmOf 2 := by decide +kernel
abbrev wX1_harmOf := wX1_harmOf_0
theorem ctX1_harmOf (l : Launch) (G : gG) {c : Nat → Option Nat} (hc : G.2.2.2 = c) (x0 : Nat) (x1 : Nat) (x2 : Int32) (w0 : GW) (K : Int32 → Prop) (hw : wX1_harmOf_0 c x0 x1 x2 w0 K) {F2 L2 : Nat} (h2 : 6 ≤ F2 ∧ 134 ≤ L2 := by exact ⟨Nat.le_refl _, Nat.le_refl _⟩) : CtI l yX1_harmOf cX1_harmOf 5 .int ({ frames := F2, cells := 0, slots := 0, locals := L2 }) G [.ref (x0), .ref (x1), .int (x2)] w0 (KPI w0 K) :=
  CtI.of RX1 plainc_X1 rfl (Nat.le_of_ble_eq_true rfl) (fun E hE hl hG hn hR hK => bX1_harmOf_0 hE hn (hR.le h2.1 h2.2) (by rw [hG]; exact hc) hK hw)
def wD_isDone (c : Nat → Option Nat) (a : Nat) (y0 : Nat) (y1 : Nat) (w : GW) (K : Int32 → GW → Prop) : Prop :=
  (gmc w a = some 24 ∧ wX18_isDone c a y0 y1 w K) ∨ (gmc w a = some 15 ∧ wX19_isDone c a y0 y1 w K) ∨ (gmc w a = some 16 ∧ wX20_isDone c a y0 y1 w K) ∨ (gmc w a = some 17 ∧ wX21_isDone c a y0 y1 w K) ∨ (gmc w a = some 18 ∧ wX22_isDone c a y0 y1 w K)
theorem jrdX1_judged_105 {E : jE} {c : Nat → Option Nat} (hE : jOk E cX1_judged RX1) (hR : jRoom E 2229 66793) (hc : E.2.2.1.2.2.2 = c) {w9 : GW} {b : Nat × Nat} {L : List (Nat × Value)} {st : List Value} {x9 : Nat} {y0 : Nat} {y1 : Nat} {K : Int32 → GW → Prop} {As rest : List Value} (hst : st = As.reverse ++ .ref x9 :: rest) (hcat : (rest.map fun v => v.category).sum ≤ 8) (hb : 0 ≤ b.1 ∧ 0 ≤ b.2) (hw : wD_isDone c x9 y0 y1 w9 K) (hAs : As = [.ref y0, .ref y1] := by rfl) : jRun E w9 b L 105 st rest 0 0 (va_Qi (K) (gB E.2.2.1 E.2.2.2.1) E.2.2.2.1 (.ref x9 :: As).toArray) := by
  subst hAs
  unfold wD_isDone at hw
  rcases hw with ⟨hcl, hw⟩ | ⟨hcl, hw⟩ | ⟨hcl, hw⟩ | ⟨hcl, hw⟩ | ⟨hcl, hw⟩
  · exact jr_A hE hR (rm := { frames := 2228, cells := 0, slots := 0, locals := 66771 }) ((ctX18_isDone E.1.2.1 E.2.2.1 hc _ _ _ _ _ hw (h2 := ⟨Nat.le_of_ble_eq_true rfl, Nat.le_of_ble_eq_true rfl⟩)) E.2.2.2.1) (lw_U (C := "GlassStreet$Passed") (owner := "GlassStreet$Line") q1354 q1356 q1365 q1366 q156 q1367) q1355 ⟨by decide, by decide, jdX18_isDone.2.2⟩ ⟨Nat.le_of_ble_eq_true rfl, Nat.le_of_ble_eq_true rfl⟩ hb (gmc_gIs hcl (r := (RX18, fun _ => ("", "", "", false), 0)) rfl) hst hcat dX1_judged_105
  · exact jr_A hE hR (rm := { frames := 2228, cells := 0, slots := 0, locals := 66771 }) ((ctX19_isDone E.1.2.1 E.2.2.1 hc _ _ _ _ _ hw (h2 := ⟨Nat.le_of_ble_eq_true rfl, Nat.le_of_ble_eq_true rfl⟩)) E.2.2.2.1) (lw_U (C := "GlassStreet$Walked") (owner := "GlassStreet$Line") q1354 q1356 q1369 q1370 q157 q1371) q1355 ⟨by decide, by decide, jdX19_isDone.2.2⟩ ⟨Nat.le_of_ble_eq_true rfl, Nat.le_of_ble_eq_true rfl⟩ hb (gmc_gIs hcl (r := (RX19, TX19, 2)) rfl) hst hcat dX1_judged_105
  · exact jr_A hE hR (rm := { frames := 2228, cells := 0, slots := 0, locals := 66771 }) ((ctX20_isDone E.1.2.1 E.2.2.1 hc _ _ _ _ _ hw (h2 := ⟨Nat.le_of_ble_eq_true rfl, Nat.le_of_ble_eq_true rfl⟩)) E.2.2.2.1) (lw_U (C := "GlassStreet$Did") (owner := "GlassStreet$Line") q1354 q1356 q1361 q1362 q158 q1363) q1355 ⟨by decide, by decide, jdX20_isDone.2.2⟩ ⟨Nat.le_of_ble_eq_true rfl, Nat.le_of_ble_eq_true rfl⟩ hb (gmc_gIs hcl (r := (RX20, TX20, 2)) rfl) hst hcat dX1_judged_105
  · exact jr_A hE hR (rm := { frames := 2228, cells := 0, slots := 0, locals := 66771 }) ((ctX21_isDone E.1.2.1 E.2.2.1 hc _ _ _ _ _ hw (h2 := ⟨Nat.le_of_ble_eq_true rfl, Nat.le_of_ble_eq_true rfl⟩)) E.2.2.2.1) (lw_U (C := "GlassStreet$Washed") (owner := "GlassStreet$Line") q1354 q1356 q1373 q1374 q159 q1375) q1355 ⟨by decide, by decide, jdX21_isDone.2.2⟩ ⟨Nat.le_of_ble_eq_true rfl, Nat.le_of_ble_eq_true rfl⟩ hb (gmc_gIs hcl (r := (RX21, TX21, 1)) rfl) hst hcat dX1_judged_105
  · exact jr_A hE hR (rm := { frames := 2228, cells := 0, slots := 0, locals := 66771 }) ((ctX22_isDone E.1.2.1 E.2.2.1 hc _ _ _ _ _ hw (h2 := ⟨Nat.le_of_ble_eq_true rfl, Nat.le_of_ble_eq_true rfl⟩)) E.2.2.2.1) (lw_U (C := "GlassStreet$Changed") (owner := "GlassStreet$Line") q1354 q1356 q1357 q1358 q160 q1359) q1355 ⟨by decide, by decide, jdX22_isDone.2.2⟩ ⟨Nat.le_of_ble_eq_true rfl, Nat.le_of_ble_eq_true rfl⟩ hb (gmc_gIs hcl (r := (RX22, TX22, 2)) rfl) hst hcat dX1_judged_105
def wX1_judged_98 (c : Nat → Option Nat) (x0 : Nat) (x1 : Int32) (x2 : Int32) (x3 : Int32) (x4 : Int32) (x5 : Option Nat) (w : GW) (KL30 : Int32 × Int32 × Int32 × GW → Prop) (K : Int32 → GW → Prop) : Prop :=
  ∃ f1 : Option Nat, gfm w x0 [0] 5 = some (va_rf f1) ∧ (∃ a3 : Nat, x5 = some a3 ∧ (∃ a4 : Nat, f1 = some a4 ∧ (wD_isDone c a3 x0 a4 w (fun r5 w6 => (¬ r5 = 0 → (KL30 (x2, x3, (x4 + 1), w6))) ∧ (r5 = 0 → ((0 ≤ x2 → (KL30 (x2, x3, (x4 + 1), w6))) ∧ (¬ 0 ≤ x2 → (KL30 (x4, x3, (x4 + 1), w6)))))))))
set_option maxRecDepth 100000 in
theorem bX1_judged_98 {E : jE} (hE : jOk E cX1_judged RX1) (hn : E.2.2.2.2 = 6) (hR : jRoom E 2229 66793) {c : Nat → Option Nat} (hc : E.2.2.1.2.2.2 = c) {b : Nat × Nat} {K : Int32 → GW → Prop} (hK : jRi E .int (K)) {x0 : Nat} {x1 : Int32} {x2 : Int32} {x3 : Int32} {x4 : Int32} {x5 : Option Nat} {w : GW} {KL30 : Int32 × Int32 × Int32 × GW → Prop} (ih30 : ∀ s : Int32 × Int32 × Int32 × GW, KL30 s → J E (s.2.2.2) b [(0, .ref (x0)), (1, .int (x1)), (2, .int (s.1)), (3, .int (s.2.1)), (4, .int (s.2.2.1))] 30 []) (hw : wX1_judged_98 c x0 x1 x2 x3 x4 x5 w KL30 K) : J E w b [(0, .ref (x0)), (1, .int (x1)), (2, .int (x2)), (3, .int (x3)), (4, .int (x4)), (5, va_rf (x5))] 98 [] := by
  unfold wX1_judged_98 at hw
  refine j_aloadq hE 5 dX1_judged_98 rfl ?_
  refine j_aload_n hE 0 dX1_judged_100 rfl rfl ?_
  refine j_aload_n hE 0 dX1_judged_101 rfl rfl ?_
  obtain ⟨f1, h2, hw⟩ := hw
  refine j_getM hE gf_GlassStreet_trial q352 h2 dX1_judged_102 ?_
  obtain ⟨a3, e9, hx⟩ := hw
  subst e9
  have hw := hx
  clear hx
  obtain ⟨a4, e9, hx⟩ := hw
  subst e9
  have hw := hx
  clear hx
  refine jc_i (jrdX1_judged_105 hE hR hc (As := [.ref (x0), .ref (a4)]) (rest := []) rfl (Nat.le_of_ble_eq_true rfl) ⟨Nat.zero_le _, Nat.zero_le _⟩ hw) (fun r5 w6 hw => ?_)
  refine j_b0 ?_
  refine j_if_ne hE 118 dX1_judged_108 (by decide) (fun c7 => ?_) (fun c7 => ?_)
  · replace hw := hw.1 c7
    refine j_iinc (L' := [(4, .int (x4 + 1)), (0, .ref (x0)), (1, .int (x1)), (2, .int (x2)), (3, .int (x3)), (5, .ref (a3))]) hE hn 4 dX1_judged_118 rfl (congrArg (x4 + ·) kc_1) (Nat.le_of_ble_eq_true rfl) rfl ?_
    refine j_goto hE 30 dX1_judged_121 (by decide) ?_
    refine j_sub [(0, .ref (x0)), (1, .int (x1)), (2, .int (x2)), (3, .int (x3)), (4, .int (x4 + 1))] [1, 2, 3, 4, 0] rfl ?_
    have hz := ih30 (x2, x3, (x4 + 1), w6) hw
    exact hz
  · replace hw := hw.2 c7
    refine j_iload_n hE 2 dX1_judged_111 rfl rfl ?_
    refine j_if_ge hE 118 dX1_judged_112 (by decide) (fun c8 => ?_) (fun c8 => ?_)
    · replace hw := hw.1 c8
      refine j_iinc (L' := [(4, .int (x4 + 1)), (0, .ref (x0)), (1, .int (x1)), (2, .int (x2)), (3, .int (x3)), (5, .ref (a3))]) hE hn 4 dX1_judged_118 rfl (congrArg (x4 + ·) kc_1) (Nat.le_of_ble_eq_true rfl) rfl ?_
      refine j_goto hE 30 dX1_judged_121 (by decide) ?_
      refine j_sub [(0, .ref (x0)), (1, .int (x1)), (2, .int (x2)), (3, .int (x3)), (4, .int (x4 + 1))] [1, 2, 3, 4, 0] rfl ?_
      have hz := ih30 (x2, x3, (x4 + 1), w6) hw
      exact hz
    · replace hw := hw.2 c8
      refine j_iload hE 4 dX1_judged_115 rfl ?_
      refine j_istore_n (L' := [(2, .int (x4)), (0, .ref (x0)), (1, .int (x1)), (3, .int (x3)), (4, .int (x4)), (5, .ref (a3))]) hE hn dX1_judged_117 rfl (Nat.le_of_ble_eq_true rfl) rfl ?_
      refine j_iinc (L' := [(4, .int (x4 + 1)), (2, .int (x4)), (0, .ref (x0)), (1, .int (x1)), (3, .int (x3)), (5, .ref (a3))]) hE hn 4 dX1_judged_118 rfl (congrArg (x4 + ·) kc_1) (Nat.le_of_ble_eq_true rfl) rfl ?_
      refine j_goto hE 30 dX1_judged_121 (by decide) ?_
      refine j_sub [(0, .ref (x0)), (1, .int (x1)), (2, .int (x4)), (3, .int (x3)), (4, .int (x4 + 1))] [2, 3, 1, 4, 0] rfl ?_
      have hz := ih30 (x4, x3, (x4 + 1), w6) hw
      exact hz
def wX1_judged_30_b (c : Nat → Option Nat) (x0 : Nat) (x1 : Int32) (x2 : Int32) (x3 : Int32) (x4 : Int32) (w : GW) (KL30 : Int32 × Int32 × Int32 × GW → Prop) (K : Int32 → GW → Prop) : Prop :=
  ∃ f1 : Option Nat, gfm w x0 [0] 3 = some (va_rf f1) ∧ (∃ a3 : Nat, f1 = some a3 ∧ (gmc w a3 = some 20 ∧ (wJ2_size c a3 w (fun r4 => (r4 ≤ x4 → ((¬ x1 = 0 → ((¬ x1 = ((1 : Int32)) → (∃ f9 : Option Nat, gfm w x0 [0] 5 = some (va_rf f9) ∧ (∃ a11 : Nat, f9 = some a11 ∧ (gmc w x0 = some 0 ∧ (wX1_harmOf c x0 a11 (nI 6) w (fun r12 => K r12 w)))))) ∧ (x1 = ((1 : Int32)) → (K x3 w)))) ∧ (x1 = 0 → (K x2 w)))) ∧ (¬ r4 ≤ x4 → (∃ f14 : Option Nat, gfm w x0 [0] 3 = some (va_rf f14) ∧ (∃ a16 : Nat, f14 = some a16 ∧ (gmc w a16 = some 20 ∧ (wJ2_get c a16 x4 w (fun r17 => ∃ a19 : Nat, r17 = some a19 ∧ (∃ n20 : Nat, gmc w a19 = some n20 ∧ n20 ∈ ([15, 16, 17, 18, 24] : List Nat) ∧ ((0 ≤ x3 → (wX1_judged_98 c x0 x1 x2 x3 x4 (some a19) w KL30 K)) ∧ (¬ 0 ≤ x3 → (∃ n24 : Nat, gmc w a19 = some n24 ∧ ((n24 = 16 → ((((1 : Int32)) = 0 → (wX1_judged_98 c x0 x1 x2 x3 x4 (some a19) w KL30 K)) ∧ (¬ ((1 : Int32)) = 0 → (∃ f29 : Option Nat, gfm w x0 [0] 5 = some (va_rf f29) ∧ (∃ f31 : Option Nat, gfm w x0 [0] 5 = some (va_rf f31) ∧ (∃ a33 : Nat, f31 = some a33 ∧ (∃ f34 : Option Nat, gfm w a33 [3] 0 = some (va_rf f34) ∧ (∃ n36 : Nat, gmc w a19 = some n36 ∧ n36 ∈ ([16] : List Nat) ∧ (∃ f39 : Int32, gfm w a19 [16] 0 = some (.int f39) ∧ (∃ a41 : Nat, f34 = some a41 ∧ (∃ (n42 : Nat) (f43 : Nat → Int32), gai w a41 0 = some (n42, f43) ∧ vp_in f39 n42 ∧ (∃ a46 : Nat, f29 = some a46 ∧ (gmc w x0 = some 0 ∧ (wX1_seeing c x0 a46 (rd f43 f39) w (fun r47 => (¬ r47 = 0 → (wX1_judged_98 c x0 x1 x2 x3 x4 (some a19) w KL30 K)) ∧ (r47 = 0 → (wX1_judged_98 c x0 x1 x2 x4 x4 (some a19) w KL30 K))))))))))))))))) ∧ (¬ n24 = 16 → n24 ∈ ([15, 17, 18, 24] : List Nat) ∧ ((((0 : Int32)) = 0 → (wX1_judged_98 c x0 x1 x2 x3 x4 (some a19) w KL30 K)) ∧ (¬ ((0 : Int32)) = 0 → (∃ f51 : Option Nat, gfm w x0 [0] 5 = some (va_rf f51) ∧ (∃ f53 : Option Nat, gfm w x0 [0] 5 = some (va_rf f53) ∧ (∃ a55 : Nat, f53 = some a55 ∧ (∃ f56 : Option Nat, gfm w a55 [3] 0 = some (va_rf f56) ∧ (∃ n58 : Nat, gmc w a19 = some n58 ∧ n58 ∈ ([16] : List Nat) ∧ (∃ f61 : Int32, gfm w a19 [16] 0 = some (.int f61) ∧ (∃ a63 : Nat, f56 = some a63 ∧ (∃ (n64 : Nat) (f65 : Nat → Int32), gai w a63 0 = some (n64, f65) ∧ vp_in f61 n64 ∧ (∃ a68 : Nat, f51 = some a68 ∧ (gmc w x0 = some 0 ∧ (wX1_seeing c x0 a68 (rd f65 f61) w (fun r69 => (¬ r69 = 0 → (wX1_judged_98 c x0 x1 x2 x3 x4 (some a19) w KL30 K)) ∧ (r69 = 0 → (wX1_judged_98 c x0 x1 x2 x4 x4 (some a19) w KL30 K))))))))))))))))))))))))))))))))
def wX1_judged_30 (c : Nat → Option Nat) (x0 : Nat) (x1 : Int32) (x2 : Int32) (x3 : Int32) (x4 : Int32) (w : GW) (K : Int32 → GW → Prop) : Prop := lfp (σ := Int32 × Int32 × Int32 × GW) (fun KL s => wX1_judged_30_b c x0 x1 s.1 s.2.1 s.2.2.1 s.2.2.2 KL K) (x2, x3, x4, w)
set_option maxRecDepth 100000 in
theorem bX1_judged_30 {E : jE} (hE : jOk E cX1_judged RX1) (hn : E.2.2.2.2 = 6) (hR : jRoom E 2229 66793) {c : Nat → Option Nat} (hc : E.2.2.1.2.2.2 = c) {b : Nat × Nat} {K : Int32 → GW → Prop} (hK : jRi E .int (K)) {x0 : Nat} {x1 : Int32} {x2 : Int32} {x3 : Int32} {x4 : Int32} {w : GW}  (hw : wX1_judged_30 c x0 x1 x2 x3 x4 w K) : J E w b [(0, .ref (x0)), (1, .int (x1)), (2, .int (x2)), (3, .int (x3)), (4, .int (x4))] 30 [] := by
  refine lfp_sound (σ := Int32 × Int32 × Int32 × GW) (F := fun KL s => wX1_judged_30_b c x0 x1 s.1 s.2.1 s.2.2.1 s.2.2.2 KL K) (P := fun s => J E (s.2.2.2) b [(0, .ref (x0)), (1, .int (x1)), (2, .int (s.1)), (3, .int (s.2.1)), (4, .int (s.2.2.1))] 30 []) ?_ hw
  clear hw
  rintro KL30 ⟨x2, x3, x4, w⟩ hw ih30
  have hw : wX1_judged_30_b c x0 x1 x2 x3 x4 w KL30 K := hw
  unfold wX1_judged_30_b at hw
  refine j_iload hE 4 dX1_judged_30 rfl ?_
  refine j_aload_n hE 0 dX1_judged_32 rfl rfl ?_
  obtain ⟨f1, h2, hw⟩ := hw
  refine j_getM hE gf_GlassStreet_lines q350 h2 dX1_judged_33 ?_
  obtain ⟨a3, e9, hx⟩ := hw
  subst e9
  have hw := hx
  clear hx
  obtain ⟨h5, hw⟩ := hw
  refine jc_ip (jr_V hE hR (As := []) (rest := [.int (x4)]) ((ctJ2_size E.1.2.1 E.2.2.1 hc _ _ _ hw) E.2.2.2.1) (lw_V q1161 q626 q627 q126 q628) jdJ2_size ⟨Nat.le_of_ble_eq_true rfl, Nat.le_of_ble_eq_true rfl⟩ ⟨Nat.zero_le _, Nat.zero_le _⟩ (gmc_gIs h5 (r := (RJ2, TJ2, 3)) rfl) rfl (Nat.le_of_ble_eq_true rfl) dX1_judged_36) (fun r4 hw => ?_)
  refine j_b0 ?_
  refine j_icmp_ge hE 124 dX1_judged_39 (by decide) (fun c6 => ?_) (fun c6 => ?_)
  · replace hw := hw.1 c6
    refine j_iload_n hE 1 dX1_judged_124 rfl rfl ?_
    refine j_if_ne hE 132 dX1_judged_125 (by decide) (fun c7 => ?_) (fun c7 => ?_)
    · replace hw := hw.1 c7
      refine j_iload_n hE 1 dX1_judged_132 rfl rfl ?_
      refine j_iconst hE dX1_judged_133 kc_1 ?_
      refine j_icmp_ne hE 141 dX1_judged_134 (by decide) (fun c8 => ?_) (fun c8 => ?_)
      · replace hw := hw.1 c8
        refine j_aload_n hE 0 dX1_judged_141 rfl rfl ?_
        refine j_aload_n hE 0 dX1_judged_142 rfl rfl ?_
        obtain ⟨f9, h10, hw⟩ := hw
        refine j_getM hE gf_GlassStreet_trial q352 h10 dX1_judged_143 ?_
        refine j_bipush hE dX1_judged_146 kb_6 ?_
        obtain ⟨a11, e9, hx⟩ := hw
        subst e9
        have hw := hx
        clear hx
        obtain ⟨h13, hw⟩ := hw
        refine jc_ip (jr_V hE hR (As := [.ref (a11), .int (nI 6)]) (rest := []) ((ctX1_harmOf E.1.2.1 E.2.2.1 hc _ _ _ _ _ hw) E.2.2.2.1) (lw_V q1377 q1379 qs46 q121 q1380) jdX1_harmOf ⟨Nat.le_of_ble_eq_true rfl, Nat.le_of_ble_eq_true rfl⟩ ⟨Nat.zero_le _, Nat.zero_le _⟩ (gmc_gIs h13 (r := (RX1, TX1, 15)) rfl) rfl (Nat.le_of_ble_eq_true rfl) dX1_judged_148) (fun r12 hw => ?_)
        refine j_b0 ?_
        exact j_iret hE hK dX1_judged_151 rfl hw
      · replace hw := hw.2 c8
        refine j_iload_n hE 3 dX1_judged_137 rfl rfl ?_
        refine j_goto hE 151 dX1_judged_138 (by decide) ?_
        exact j_iret hE hK dX1_judged_151 rfl hw
    · replace hw := hw.2 c7
      refine j_iload_n hE 2 dX1_judged_128 rfl rfl ?_
      refine j_goto hE 151 dX1_judged_129 (by decide) ?_
      exact j_iret hE hK dX1_judged_151 rfl hw
  · replace hw := hw.2 c6
    refine j_aload_n hE 0 dX1_judged_42 rfl rfl ?_
    obtain ⟨f14, h15, hw⟩ := hw
    refine j_getM hE gf_GlassStreet_lines q350 h15 dX1_judged_43 ?_
    refine j_iload hE 4 dX1_judged_46 rfl ?_
    obtain ⟨a16, e9, hx⟩ := hw
    subst e9
    have hw := hx
    clear hx
    obtain ⟨h18, hw⟩ := hw
    refine jc_qp (jr_V hE hR (As := [.int (x4)]) (rest := []) ((ctJ2_get E.1.2.1 E.2.2.1 hc _ _ _ _ hw) E.2.2.2.1) (lw_V q1167 q810 q811 q126 q812) jdJ2_get ⟨Nat.le_of_ble_eq_true rfl, Nat.le_of_ble_eq_true rfl⟩ ⟨Nat.zero_le _, Nat.zero_le _⟩ (gmc_gIs h18 (r := (RJ2, TJ2, 3)) rfl) rfl (Nat.le_of_ble_eq_true rfl) dX1_judged_48) (fun r17 hw => ?_)
    refine j_b0 ?_
    obtain ⟨a19, e9, hx⟩ := hw
    subst e9
    have hw := hx
    clear hx
    obtain ⟨n20, h21, h22, hw⟩ := hw
    refine j_castL hE cast_X17 q1352 h21 h22 dX1_judged_51 ?_
    refine j_astore (L' := [(5, .ref (a19)), (0, .ref (x0)), (1, .int (x1)), (2, .int (x2)), (3, .int (x3)), (4, .int (x4))]) hE hn dX1_judged_54 (Nat.le_of_ble_eq_true rfl) rfl ?_
    refine j_iload_n hE 4 dX1_judged_56 rfl rfl ?_
    refine j_if_ge hE 98 dX1_judged_57 (by decide) (fun c23 => ?_) (fun c23 => ?_)
    · replace hw := hw.1 c23
      refine j_sub [(0, .ref (x0)), (1, .int (x1)), (2, .int (x2)), (3, .int (x3)), (4, .int (x4)), (5, .ref (a19))] [1, 2, 3, 4, 5, 0] rfl ?_
      have hz := bX1_judged_98 (b := b) hE hn hR hc hK ih30 hw
      exact hz
    · replace hw := hw.2 c23
      refine j_aload hE 0 dX1_judged_60 rfl ?_
      obtain ⟨n24, h25, hw⟩ := hw
      refine j_instD hE q1353 h25 dX1_judged_62 (fun c26 => ?_) (fun c26 => ?_)
      · replace hw := hw.1 c26
        refine j_if_eq hE 98 dX1_judged_65 (by decide) (fun c28 => ?_) (fun c28 => ?_)
        · replace hw := hw.1 c28
          refine j_sub [(0, .ref (x0)), (1, .int (x1)), (2, .int (x2)), (3, .int (x3)), (4, .int (x4)), (5, .ref (a19))] [1, 2, 3, 4, 5, 0] rfl ?_
          have hz := bX1_judged_98 (b := b) hE hn hR hc hK ih30 hw
          exact hz
        · replace hw := hw.2 c28
          refine j_aload_n hE 1 dX1_judged_68 rfl rfl ?_
          refine j_aload_n hE 1 dX1_judged_69 rfl rfl ?_
          obtain ⟨f29, h30, hw⟩ := hw
          refine j_getM hE gf_GlassStreet_trial q352 h30 dX1_judged_70 ?_
          refine j_aload_n hE 1 dX1_judged_73 rfl rfl ?_
          obtain ⟨f31, h32, hw⟩ := hw
          refine j_getM hE gf_GlassStreet_trial q352 h32 dX1_judged_74 ?_
          obtain ⟨a33, e9, hx⟩ := hw
          subst e9
          have hw := hx
          clear hx
          obtain ⟨f34, h35, hw⟩ := hw
          refine j_getMN hE gf_GlassStreet_State_at q317 h35 dX1_judged_77 ?_
          refine j_aload hE 0 dX1_judged_80 rfl ?_
          obtain ⟨n36, h37, h38, hw⟩ := hw
          refine j_castL hE cast_X20 q1353 h37 h38 dX1_judged_82 ?_
          obtain ⟨f39, h40, hw⟩ := hw
          refine j_getMN hE gf_GlassStreet_Did_person q1119 h40 dX1_judged_85 ?_
          obtain ⟨a41, e9, hx⟩ := hw
          subst e9
          have hw := hx
          clear hx
          obtain ⟨n42, f43, h44, h45, hw⟩ := hw
          refine j_aldI hE h44 h45 dX1_judged_88 ?_
          obtain ⟨a46, e9, hx⟩ := hw
          subst e9
          have hw := hx
          clear hx
          obtain ⟨h48, hw⟩ := hw
          refine jc_ip (jr_V hE hR (As := [.ref (a46), .int (rd f43 f39)]) (rest := []) ((ctX1_seeing E.1.2.1 E.2.2.1 hc _ _ _ _ _ hw) E.2.2.2.1) (lw_V q1282 q1284 qs41 q121 q1285) jdX1_seeing ⟨Nat.le_of_ble_eq_true rfl, Nat.le_of_ble_eq_true rfl⟩ ⟨Nat.zero_le _, Nat.zero_le _⟩ (gmc_gIs h48 (r := (RX1, TX1, 15)) rfl) rfl (Nat.le_of_ble_eq_true rfl) dX1_judged_89) (fun r47 hw => ?_)
          refine j_b0 ?_
          refine j_if_ne hE 98 dX1_judged_92 (by decide) (fun c49 => ?_) (fun c49 => ?_)
          · replace hw := hw.1 c49
            refine j_sub [(0, .ref (x0)), (1, .int (x1)), (2, .int (x2)), (3, .int (x3)), (4, .int (x4)), (5, .ref (a19))] [1, 2, 3, 4, 5, 0] rfl ?_
            have hz := bX1_judged_98 (b := b) hE hn hR hc hK ih30 hw
            exact hz
          · replace hw := hw.2 c49
            refine j_iload hE 5 dX1_judged_95 rfl ?_
            refine j_istore_n (L' := [(3, .int (x4)), (5, .ref (a19)), (0, .ref (x0)), (1, .int (x1)), (2, .int (x2)), (4, .int (x4))]) hE hn dX1_judged_97 rfl (Nat.le_of_ble_eq_true rfl) rfl ?_
            refine j_sub [(0, .ref (x0)), (1, .int (x1)), (2, .int (x2)), (3, .int (x4)), (4, .int (x4)), (5, .ref (a19))] [2, 3, 4, 0, 5, 1] rfl ?_
            have hz := bX1_judged_98 (b := b) hE hn hR hc hK ih30 hw
            exact hz
      · obtain ⟨h27, hw⟩ := hw.2 c26
        refine ⟨h27, ?_⟩
        refine j_if_eq hE 98 dX1_judged_65 (by decide) (fun c50 => ?_) (fun c50 => ?_)
        · replace hw := hw.1 c50
          refine j_sub [(0, .ref (x0)), (1, .int (x1)), (2, .int (x2)), (3, .int (x3)), (4, .int (x4)), (5, .ref (a19))] [1, 2, 3, 4, 5, 0] rfl ?_
          have hz := bX1_judged_98 (b := b) hE hn hR hc hK ih30 hw
          exact hz
        · replace hw := hw.2 c50
          refine j_aload_n hE 1 dX1_judged_68 rfl rfl ?_
          refine j_aload_n hE 1 dX1_judged_69 rfl rfl ?_
          obtain ⟨f51, h52, hw⟩ := hw
          refine j_getM hE gf_GlassStreet_trial q352 h52 dX1_judged_70 ?_
          refine j_aload_n hE 1 dX1_judged_73 rfl rfl ?_
          obtain ⟨f53, h54, hw⟩ := hw
          refine j_getM hE gf_GlassStreet_trial q352 h54 dX1_judged_74 ?_
          obtain ⟨a55, e9, hx⟩ := hw
          subst e9
          have hw := hx
          clear hx
          obtain ⟨f56, h57, hw⟩ := hw
          refine j_getMN hE gf_GlassStreet_State_at q317 h57 dX1_judged_77 ?_
          refine j_aload hE 0 dX1_judged_80 rfl ?_
          obtain ⟨n58, h59, h60, hw⟩ := hw
          refine j_castL hE cast_X20 q1353 h59 h60 dX1_judged_82 ?_
          obtain ⟨f61, h62, hw⟩ := hw
          refine j_getMN hE gf_GlassStreet_Did_person q1119 h62 dX1_judged_85 ?_
          obtain ⟨a63, e9, hx⟩ := hw
          subst e9
          have hw := hx
          clear hx
          obtain ⟨n64, f65, h66, h67, hw⟩ := hw
          refine j_aldI hE h66 h67 dX1_judged_88 ?_
          obtain ⟨a68, e9, hx⟩ := hw
          subst e9
          have hw := hx
          clear hx
          obtain ⟨h70, hw⟩ := hw
          refine jc_ip (jr_V hE hR (As := [.ref (a68), .int (rd f65 f61)]) (rest := []) ((ctX1_seeing E.1.2.1 E.2.2.1 hc _ _ _ _ _ hw) E.2.2.2.1) (lw_V q1282 q1284 qs41 q121 q1285) jdX1_seeing ⟨Nat.le_of_ble_eq_true rfl, Nat.le_of_ble_eq_true rfl⟩ ⟨Nat.zero_le _, Nat.zero_le _⟩ (gmc_gIs h70 (r := (RX1, TX1, 15)) rfl) rfl (Nat.le_of_ble_eq_true rfl) dX1_judged_89) (fun r69 hw => ?_)
          refine j_b0 ?_
          refine j_if_ne hE 98 dX1_judged_92 (by decide) (fun c71 => ?_) (fun c71 => ?_)
          · replace hw := hw.1 c71
            refine j_sub [(0, .ref (x0)), (1, .int (x1)), (2, .int (x2)), (3, .int (x3)), (4, .int (x4)), (5, .ref (a19))] [1, 2, 3, 4, 5, 0] rfl ?_
            have hz := bX1_judged_98 (b := b) hE hn hR hc hK ih30 hw
            exact hz
          · replace hw := hw.2 c71
            refine j_iload hE 5 dX1_judged_95 rfl ?_
            refine j_istore_n (L' := [(3, .int (x4)), (5, .ref (a19)), (0, .ref (x0)), (1, .int (x1)), (2, .int (x2)), (4, .int (x4))]) hE hn dX1_judged_97 rfl (Nat.le_of_ble_eq_true rfl) rfl ?_
            refine j_sub [(0, .ref (x0)), (1, .int (x1)), (2, .int (x2)), (3, .int (x4)), (4, .int (x4)), (5, .ref (a19))] [2, 3, 4, 0, 5, 1] rfl ?_
            have hz := bX1_judged_98 (b := b) hE hn hR hc hK ih30 hw
            exact hz
def wX1_judged_0 (c : Nat → Option Nat) (x0 : Nat) (x1 : Int32) (w : GW) (K : Int32 → GW → Prop) : Prop :=
  wX1_in c x1 ((0 : Int32)) (nI 2) w (fun r1 => (¬ r1 = 0 → (∃ f3 : Option Nat, gfm w x0 [0] 5 = some (va_rf f3) ∧ (∃ f5 : Option Nat, gfm w x0 [0] 2 = some (va_rf f5) ∧ (∃ a7 : Nat, f3 = some a7 ∧ (∃ a8 : Nat, f5 = some a8 ∧ (gmc w a7 = some 3 ∧ (wX4_begin c a7 a8 w (fun w10 => wX1_judged_30 c x0 x1 ((-1 : Int32)) ((-1 : Int32)) ((0 : Int32)) w10 K)))))))) ∧ (r1 = 0 → (K ((-2)) w)))
set_option maxRecDepth 100000 in
theorem bX1_judged_0 {E : jE} (hE : jOk E cX1_judged RX1) (hn : E.2.2.2.2 = 6) (hR : jRoom E 2229 66793) {c : Nat → Option Nat} (hc : E.2.2.1.2.2.2 = c) {b : Nat × Nat} {K : Int32 → GW → Prop} (hK : jRi E .int (K)) {x0 : Nat} {x1 : Int32} {w : GW}  (hw : wX1_judged_0 c x0 x1 w K) : J E w b [(0, .ref (x0)), (1, .int (x1))] 0 [] := by
  unfold wX1_judged_0 at hw
  refine j_iload_n hE 1 dX1_judged_0 rfl rfl ?_
  refine j_iconst hE dX1_judged_1 kc_0 ?_
  refine j_iconst hE dX1_judged_2 kc_2 ?_
  refine jc_ip (jr_S hE hR (As := [.int (x1), .int ((0 : Int32)), .int (nI 2)]) (rest := []) ((ctX1_in E.1.2.1 E.2.2.1 hc _ _ _ _ _ hw) E.2.2.2.1) (lw_S q1162 q919 q121 q920) jdX1_in ⟨Nat.le_of_ble_eq_true rfl, Nat.le_of_ble_eq_true rfl⟩ ⟨Nat.zero_le _, Nat.zero_le _⟩  rfl (Nat.le_of_ble_eq_true rfl) dX1_judged_3) (fun r1 hw => ?_)
  refine j_b0 ?_
  refine j_if_ne hE 12 dX1_judged_6 (by decide) (fun c2 => ?_) (fun c2 => ?_)
  · replace hw := hw.1 c2
    refine j_aload_n hE 0 dX1_judged_12 rfl rfl ?_
    obtain ⟨f3, h4, hw⟩ := hw
    refine j_getM hE gf_GlassStreet_trial q352 h4 dX1_judged_13 ?_
    refine j_aload_n hE 0 dX1_judged_16 rfl rfl ?_
    obtain ⟨f5, h6, hw⟩ := hw
    refine j_getM hE gf_GlassStreet_houses q349 h6 dX1_judged_17 ?_
    obtain ⟨a7, e9, hx⟩ := hw
    subst e9
    have hw := hx
    clear hx
    obtain ⟨a8, e9, hx⟩ := hw
    subst e9
    have hw := hx
    clear hx
    obtain ⟨h9, hw⟩ := hw
    refine jc_v (jr_V hE hR (As := [.ref (a8)]) (rest := []) ((ctX4_begin E.1.2.1 E.2.2.1 hc _ _ _ _ hw) E.2.2.2.1) (lw_V q1063 q1064 q1065 q127 q1066) jdX4_begin ⟨Nat.le_of_ble_eq_true rfl, Nat.le_of_ble_eq_true rfl⟩ ⟨Nat.zero_le _, Nat.zero_le _⟩ (gmc_gIs h9 (r := (RX4, TX4, 5)) rfl) rfl (Nat.le_of_ble_eq_true rfl) dX1_judged_20) (fun w10 hw => ?_)
    refine j_b0 ?_
    refine j_iconst hE dX1_judged_23 kc_m1 ?_
    refine j_istore_n (L' := [(2, .int ((-1 : Int32))), (0, .ref (x0)), (1, .int (x1))]) hE hn dX1_judged_24 rfl (Nat.le_of_ble_eq_true rfl) rfl ?_
    refine j_iconst hE dX1_judged_25 kc_m1 ?_
    refine j_istore_n (L' := [(3, .int ((-1 : Int32))), (2, .int ((-1 : Int32))), (0, .ref (x0)), (1, .int (x1))]) hE hn dX1_judged_26 rfl (Nat.le_of_ble_eq_true rfl) rfl ?_
    refine j_iconst hE dX1_judged_27 kc_0 ?_
    refine j_istore (L' := [(4, .int ((0 : Int32))), (3, .int ((-1 : Int32))), (2, .int ((-1 : Int32))), (0, .ref (x0)), (1, .int (x1))]) hE hn dX1_judged_28 (Nat.le_of_ble_eq_true rfl) rfl ?_
    refine j_sub [(0, .ref (x0)), (1, .int (x1)), (2, .int ((-1 : Int32))), (3, .int ((-1 : Int32))), (4, .int ((0 : Int32)))] [3, 4, 2, 1, 0] rfl ?_
    have hz := bX1_judged_30 (b := b) hE hn hR hc hK  hw
    exact hz
  · replace hw := hw.2 c2
    refine j_bipush hE dX1_judged_9 kb_m2 ?_
    exact j_iret hE hK dX1_judged_11 rfl hw
theorem jdX1_judged : jD yX1_judged 1 := by decide +kernel
abbrev wX1_judged := wX1_judged_0
theorem ctX1_judged (l : Launch) (G : gG) {c : Nat → Option Nat} (hc : G.2.2.2 = c) (x0 : Nat) (x1 : Int32) (w : GW) (K : Int32 → GW → Prop) (hw : wX1_judged_0 c x0 x1 w K) {F2 L2 : Nat} (h2 : 2229 ≤ F2 ∧ 66793 ≤ L2 := by exact ⟨Nat.le_refl _, Nat.le_refl _⟩) : CtI l yX1_judged cX1_judged 6 .int ({ frames := F2, cells := 0, slots := 0, locals := L2 }) G [.ref (x0), .int (x1)] w (K) :=
  CtI.of RX1 plainc_X1 rfl (Nat.le_of_ble_eq_true rfl) (fun E hE hl hG hn hR hK => bX1_judged_0 hE hn (hR.le h2.1 h2.2) (by rw [hG]; exact hc) hK hw)
def wX1_shameOf_5_b (c : Nat → Option Nat) (x0 : Nat) (x1 : Nat) (x2 : Int32) (x3 : Int32) (x4 : Int32) (w0 : GW) (KL5 : Int32 × Int32 → Prop) (K : Int32 → Prop) : Prop :=
  gmc w0 x0 = some 0 ∧ (wX1_panes c x0 w0 (fun r1 => (r1 ≤ x4 → (gmc w0 x0 = some 0 ∧ (wX1_harmBy c x0 x3 w0 (fun r4 => K r4)))) ∧ (¬ r1 ≤ x4 → (gmc w0 x0 = some 0 ∧ (wX1_showsOf c x0 x1 x4 x2 (nI 6) w0 (fun r6 => ∀ v8 : Int32, v8 = x3 ||| r6 → (KL5 (v8, (x4 + 1)))))))))
def wX1_shameOf_5 (c : Nat → Option Nat) (x0 : Nat) (x1 : Nat) (x2 : Int32) (x3 : Int32) (x4 : Int32) (w0 : GW) (K : Int32 → Prop) : Prop := lfp (σ := Int32 × Int32) (fun KL s => wX1_shameOf_5_b c x0 x1 x2 s.1 s.2 w0 KL K) (x3, x4)
set_option maxRecDepth 100000 in
theorem bX1_shameOf_5 {E : jE} (hE : jOk E cX1_shameOf RX1) (hn : E.2.2.2.2 = 5) (hR : jRoom E 6 134) {c : Nat → Option Nat} (hc : E.2.2.1.2.2.2 = c) {b : Nat × Nat} {w0 : GW} {K : Int32 → Prop} (hK : jRi E .int (KPI w0 K)) {x0 : Nat} {x1 : Nat} {x2 : Int32} {x3 : Int32} {x4 : Int32}  (hw : wX1_shameOf_5 c x0 x1 x2 x3 x4 w0 K) : J E w0 b [(0, .ref (x0)), (1, .ref (x1)), (2, .int (x2)), (3, .int (x3)), (4, .int (x4))] 5 [] := by
  refine lfp_sound (σ := Int32 × Int32) (F := fun KL s => wX1_shameOf_5_b c x0 x1 x2 s.1 s.2 w0 KL K) (P := fun s => J E w0 b [(0, .ref (x0)), (1, .ref (x1)), (2, .int (x2)), (3, .int (s.1)), (4, .int (s.2))] 5 []) ?_ hw
  clear hw
  rintro KL5 ⟨x3, x4⟩ hw ih5
  have hw : wX1_shameOf_5_b c x0 x1 x2 x3 x4 w0 KL5 K := hw
  unfold wX1_shameOf_5_b at hw
  refine j_iload hE 4 dX1_shameOf_5 rfl ?_
  refine j_aload_n hE 0 dX1_shameOf_7 rfl rfl ?_
  obtain ⟨h2, hw⟩ := hw
  refine jc_ip (jr_V hE hR (As := []) (rest := [.int (x4)]) ((ctX1_panes E.1.2.1 E.2.2.1 hc _ _ _ hw) E.2.2.2.1) (lw_V q1157 q1159 qs31 q121 q1160) jdX1_panes ⟨Nat.le_of_ble_eq_true rfl, Nat.le_of_ble_eq_true rfl⟩ ⟨Nat.zero_le _, Nat.zero_le _⟩ (gmc_gIs h2 (r := (RX1, TX1, 15)) rfl) rfl (Nat.le_of_ble_eq_true rfl) dX1_shameOf_8) (fun r1 hw => ?_)
  refine j_b0 ?_
  refine j_icmp_ge hE 33 dX1_shameOf_11 (by decide) (fun c3 => ?_) (fun c3 => ?_)
  · replace hw := hw.1 c3
    refine j_aload_n hE 0 dX1_shameOf_33 rfl rfl ?_
    refine j_iload_n hE 3 dX1_shameOf_34 rfl rfl ?_
    obtain ⟨h5, hw⟩ := hw
    refine jc_ip (jr_V hE hR (As := [.int (x3)]) (rest := []) ((ctX1_harmBy E.1.2.1 E.2.2.1 hc _ _ _ _ hw) E.2.2.2.1) (lw_V q1386 q1388 qs48 q121 q1389) jdX1_harmBy ⟨Nat.le_of_ble_eq_true rfl, Nat.le_of_ble_eq_true rfl⟩ ⟨Nat.zero_le _, Nat.zero_le _⟩ (gmc_gIs h5 (r := (RX1, TX1, 15)) rfl) rfl (Nat.le_of_ble_eq_true rfl) dX1_shameOf_35) (fun r4 hw => ?_)
    refine j_b0 ?_
    exact j_iret hE hK dX1_shameOf_38 rfl ⟨rfl, hw⟩
  · replace hw := hw.2 c3
    refine j_iload_n hE 3 dX1_shameOf_14 rfl rfl ?_
    refine j_aload_n hE 0 dX1_shameOf_15 rfl rfl ?_
    refine j_aload_n hE 1 dX1_shameOf_16 rfl rfl ?_
    refine j_iload hE 4 dX1_shameOf_17 rfl ?_
    refine j_iload_n hE 2 dX1_shameOf_19 rfl rfl ?_
    refine j_bipush hE dX1_shameOf_20 kb_6 ?_
    obtain ⟨h7, hw⟩ := hw
    refine jc_ip (jr_V hE hR (As := [.ref (x1), .int (x4), .int (x2), .int (nI 6)]) (rest := [.int (x3)]) ((ctX1_showsOf E.1.2.1 E.2.2.1 hc _ _ _ _ _ _ _ hw) E.2.2.2.1) (lw_V q1381 q1383 qs47 q121 q1384) jdX1_showsOf ⟨Nat.le_of_ble_eq_true rfl, Nat.le_of_ble_eq_true rfl⟩ ⟨Nat.zero_le _, Nat.zero_le _⟩ (gmc_gIs h7 (r := (RX1, TX1, 15)) rfl) rfl (Nat.le_of_ble_eq_true rfl) dX1_shameOf_22) (fun r6 hw => ?_)
    refine j_b0 ?_
    refine j_ior hE dX1_shameOf_25 ?_
    refine j_topi (fun v8 e_v8 => ?_)
    replace hw := hw v8 e_v8
    refine j_istore_n (L' := [(3, .int (v8)), (0, .ref (x0)), (1, .ref (x1)), (2, .int (x2)), (4, .int (x4))]) hE hn dX1_shameOf_26 rfl (Nat.le_of_ble_eq_true rfl) rfl ?_
    refine j_iinc (L' := [(4, .int (x4 + 1)), (3, .int (v8)), (0, .ref (x0)), (1, .ref (x1)), (2, .int (x2))]) hE hn 4 dX1_shameOf_27 rfl (congrArg (x4 + ·) kc_1) (Nat.le_of_ble_eq_true rfl) rfl ?_
    refine j_goto hE 5 dX1_shameOf_30 (by decide) ?_
    refine j_sub [(0, .ref (x0)), (1, .ref (x1)), (2, .int (x2)), (3, .int (v8)), (4, .int (x4 + 1))] [2, 3, 4, 1, 0] rfl ?_
    have hz := ih5 (v8, (x4 + 1)) hw
    exact hz
def wX1_shameOf_0 (c : Nat → Option Nat) (x0 : Nat) (x1 : Nat) (x2 : Int32) (w0 : GW) (K : Int32 → Prop) : Prop :=
  wX1_shameOf_5 c x0 x1 x2 ((0 : Int32)) ((0 : Int32)) w0 K
set_option maxRecDepth 100000 in
theorem bX1_shameOf_0 {E : jE} (hE : jOk E cX1_shameOf RX1) (hn : E.2.2.2.2 = 5) (hR : jRoom E 6 134) {c : Nat → Option Nat} (hc : E.2.2.1.2.2.2 = c) {b : Nat × Nat} {w0 : GW} {K : Int32 → Prop} (hK : jRi E .int (KPI w0 K)) {x0 : Nat} {x1 : Nat} {x2 : Int32}  (hw : wX1_shameOf_0 c x0 x1 x2 w0 K) : J E w0 b [(0, .ref (x0)), (1, .ref (x1)), (2, .int (x2))] 0 [] := by
  unfold wX1_shameOf_0 at hw
  refine j_iconst hE dX1_shameOf_0 kc_0 ?_
  refine j_istore_n (L' := [(3, .int ((0 : Int32))), (0, .ref (x0)), (1, .ref (x1)), (2, .int (x2))]) hE hn dX1_shameOf_1 rfl (Nat.le_of_ble_eq_true rfl) rfl ?_
  refine j_iconst hE dX1_shameOf_2 kc_0 ?_
  refine j_istore (L' := [(4, .int ((0 : Int32))), (3, .int ((0 : Int32))), (0, .ref (x0)), (1, .ref (x1)), (2, .int (x2))]) hE hn dX1_shameOf_3 (Nat.le_of_ble_eq_true rfl) rfl ?_
  refine j_sub [(0, .ref (x0)), (1, .ref (x1)), (2, .int (x2)), (3, .int ((0 : Int32))), (4, .int ((0 : Int32)))] [2, 3, 4, 1, 0] rfl ?_
  have hz := bX1_shameOf_5 (b := b) hE hn hR hc hK  hw
  exact hz
theorem jdX1_shameOf : jD yX1_shameOf 2 := by decide +kernel
abbrev wX1_shameOf := wX1_shameOf_0
theorem ctX1_shameOf (l : Launch) (G : gG) {c : Nat → Option Nat} (hc : G.2.2.2 = c) (x0 : Nat) (x1 : Nat) (x2 : Int32) (w0 : GW) (K : Int32 → Prop) (hw : wX1_shameOf_0 c x0 x1 x2 w0 K) {F2 L2 : Nat} (h2 : 6 ≤ F2 ∧ 134 ≤ L2 := by exact ⟨Nat.le_refl _, Nat.le_refl _⟩) : CtI l yX1_shameOf cX1_shameOf 5 .int ({ frames := F2, cells := 0, slots := 0, locals := L2 }) G [.ref (x0), .ref (x1), .int (x2)] w0 (KPI w0 K) :=
  CtI.of RX1 plainc_X1 rfl (Nat.le_of_ble_eq_true rfl) (fun E hE hl hG hn hR hK => bX1_shameOf_0 hE hn (hR.le h2.1 h2.2) (by rw [hG]; exact hc) hK hw)
def wX1_shame_0 (c : Nat → Option Nat) (x0 : Nat) (x1 : Int32) (w0 : GW) (K : Int32 → Prop) : Prop :=
  gmc w0 x0 = some 0 ∧ (wX1_isPerson c x0 x1 w0 (fun r1 => (r1 = 0 → (K ((-1 : Int32)))) ∧ (¬ r1 = 0 → (∃ f4 : Option Nat, gfm w0 x0 [0] 4 = some (va_rf f4) ∧ (∃ a6 : Nat, f4 = some a6 ∧ (gmc w0 x0 = some 0 ∧ (wX1_shameOf c x0 a6 x1 w0 (fun r7 => K r7))))))))
set_option maxRecDepth 100000 in
theorem bX1_shame_0 {E : jE} (hE : jOk E cX1_shame RX1) (hn : E.2.2.2.2 = 2) (hR : jRoom E 7 158) {c : Nat → Option Nat} (hc : E.2.2.1.2.2.2 = c) {b : Nat × Nat} {w0 : GW} {K : Int32 → Prop} (hK : jRi E .int (KPI w0 K)) {x0 : Nat} {x1 : Int32}  (hw : wX1_shame_0 c x0 x1 w0 K) : J E w0 b [(0, .ref (x0)), (1, .int (x1))] 0 [] := by
  unfold wX1_shame_0 at hw
  refine j_aload_n hE 0 dX1_shame_0 rfl rfl ?_
  refine j_iload_n hE 1 dX1_shame_1 rfl rfl ?_
  obtain ⟨h2, hw⟩ := hw
  refine jc_ip (jr_V hE hR (As := [.int (x1)]) (rest := []) ((ctX1_isPerson E.1.2.1 E.2.2.1 hc _ _ _ _ hw) E.2.2.2.1) (lw_V q1238 q1240 qs35 q121 q1241) jdX1_isPerson ⟨Nat.le_of_ble_eq_true rfl, Nat.le_of_ble_eq_true rfl⟩ ⟨Nat.zero_le _, Nat.zero_le _⟩ (gmc_gIs h2 (r := (RX1, TX1, 15)) rfl) rfl (Nat.le_of_ble_eq_true rfl) dX1_shame_2) (fun r1 hw => ?_)
  refine j_b0 ?_
  refine j_if_eq hE 20 dX1_shame_5 (by decide) (fun c3 => ?_) (fun c3 => ?_)
  · replace hw := hw.1 c3
    refine j_iconst hE dX1_shame_20 kc_m1 ?_
    exact j_iret hE hK dX1_shame_21 rfl ⟨rfl, hw⟩
  · replace hw := hw.2 c3
    refine j_aload_n hE 0 dX1_shame_8 rfl rfl ?_
    refine j_aload_n hE 0 dX1_shame_9 rfl rfl ?_
    obtain ⟨f4, h5, hw⟩ := hw
    refine j_getM hE gf_GlassStreet_state q351 h5 dX1_shame_10 ?_
    refine j_iload_n hE 1 dX1_shame_13 rfl rfl ?_
    obtain ⟨a6, e9, hx⟩ := hw
    subst e9
    have hw := hx
    clear hx
    obtain ⟨h8, hw⟩ := hw
    refine jc_ip (jr_V hE hR (As := [.ref (a6), .int (x1)]) (rest := []) ((ctX1_shameOf E.1.2.1 E.2.2.1 hc _ _ _ _ _ hw) E.2.2.2.1) (lw_V q1394 q1396 qs49 q121 q1397) jdX1_shameOf ⟨Nat.le_of_ble_eq_true rfl, Nat.le_of_ble_eq_true rfl⟩ ⟨Nat.zero_le _, Nat.zero_le _⟩ (gmc_gIs h8 (r := (RX1, TX1, 15)) rfl) rfl (Nat.le_of_ble_eq_true rfl) dX1_shame_14) (fun r7 hw => ?_)
    refine j_b0 ?_
    refine j_goto hE 21 dX1_shame_17 (by decide) ?_
    exact j_iret hE hK dX1_shame_21 rfl ⟨rfl, hw⟩
theorem jdX1_shame : jD yX1_shame 1 := by decide +kernel
abbrev wX1_shame := wX1_shame_0
theorem ctX1_shame (l : Launch) (G : gG) {c : Nat → Option Nat} (hc : G.2.2.2 = c) (x0 : Nat) (x1 : Int32) (w0 : GW) (K : Int32 → Prop) (hw : wX1_shame_0 c x0 x1 w0 K) {F2 L2 : Nat} (h2 : 7 ≤ F2 ∧ 158 ≤ L2 := by exact ⟨Nat.le_refl _, Nat.le_refl _⟩) : CtI l yX1_shame cX1_shame 2 .int ({ frames := F2, cells := 0, slots := 0, locals := L2 }) G [.ref (x0), .int (x1)] w0 (KPI w0 K) :=
  CtI.of RX1 plainc_X1 rfl (Nat.le_of_ble_eq_true rfl) (fun E hE hl hG hn hR hK => bX1_shame_0 hE hn (hR.le h2.1 h2.2) (by rw [hG]; exact hc) hK hw)
def wX1_harm_0 (c : Nat → Option Nat) (x0 : Nat) (w0 : GW) (K : Int32 → Prop) : Prop :=
  ∃ f1 : Option Nat, gfm w0 x0 [0] 4 = some (va_rf f1) ∧ (∃ a3 : Nat, f1 = some a3 ∧ (gmc w0 x0 = some 0 ∧ (wX1_harmOf c x0 a3 (nI 6) w0 (fun r4 => K r4))))
set_option maxRecDepth 100000 in
theorem bX1_harm_0 {E : jE} (hE : jOk E cX1_harm RX1) (hn : E.2.2.2.2 = 1) (hR : jRoom E 7 158) {c : Nat → Option Nat} (hc : E.2.2.1.2.2.2 = c) {b : Nat × Nat} {w0 : GW} {K : Int32 → Prop} (hK : jRi E .int (KPI w0 K)) {x0 : Nat}  (hw : wX1_harm_0 c x0 w0 K) : J E w0 b [(0, .ref (x0))] 0 [] := by
  unfold wX1_harm_0 at hw
  refine j_aload_n hE 0 dX1_harm_0 rfl rfl ?_
  refine j_aload_n hE 0 dX1_harm_1 rfl rfl ?_
  obtain ⟨f1, h2, hw⟩ := hw
  refine j_getM hE gf_GlassStreet_state q351 h2 dX1_harm_2 ?_
  refine j_bipush hE dX1_harm_5 kb_6 ?_
  obtain ⟨a3, e9, hx⟩ := hw
  subst e9
  have hw := hx
  clear hx
  obtain ⟨h5, hw⟩ := hw
  refine jc_ip (jr_V hE hR (As := [.ref (a3), .int (nI 6)]) (rest := []) ((ctX1_harmOf E.1.2.1 E.2.2.1 hc _ _ _ _ _ hw) E.2.2.2.1) (lw_V q1377 q1379 qs46 q121 q1380) jdX1_harmOf ⟨Nat.le_of_ble_eq_true rfl, Nat.le_of_ble_eq_true rfl⟩ ⟨Nat.zero_le _, Nat.zero_le _⟩ (gmc_gIs h5 (r := (RX1, TX1, 15)) rfl) rfl (Nat.le_of_ble_eq_true rfl) dX1_harm_7) (fun r4 hw => ?_)
  refine j_b0 ?_
  exact j_iret hE hK dX1_harm_10 rfl ⟨rfl, hw⟩
theorem jdX1_harm : jD yX1_harm 0 := by decide +kernel
abbrev wX1_harm := wX1_harm_0
theorem ctX1_harm (l : Launch) (G : gG) {c : Nat → Option Nat} (hc : G.2.2.2 = c) (x0 : Nat) (w0 : GW) (K : Int32 → Prop) (hw : wX1_harm_0 c x0 w0 K) {F2 L2 : Nat} (h2 : 7 ≤ F2 ∧ 158 ≤ L2 := by exact ⟨Nat.le_refl _, Nat.le_refl _⟩) : CtI l yX1_harm cX1_harm 1 .int ({ frames := F2, cells := 0, slots := 0, locals := L2 }) G [.ref (x0)] w0 (KPI w0 K) :=
  CtI.of RX1 plainc_X1 rfl (Nat.le_of_ble_eq_true rfl) (fun E hE hl hG hn hR hK => bX1_harm_0 hE hn (hR.le h2.1 h2.2) (by rw [hG]; exact hc) hK hw)
def wX1_memory_0 (c : Nat → Option Nat) (x0 : Nat) (x1 : Int32) (w0 : GW) (K : Int32 → Prop) : Prop :=
  wX1_in c x1 ((1 : Int32)) (nI 6) w0 (fun r1 => (r1 = 0 → (K ((-1 : Int32)))) ∧ (¬ r1 = 0 → (∃ f3 : Option Nat, gfm w0 x0 [0] 4 = some (va_rf f3) ∧ (∃ a5 : Nat, f3 = some a5 ∧ (gmc w0 x0 = some 0 ∧ (wX1_harmOf c x0 a5 x1 w0 (fun r6 => K r6)))))))
set_option maxRecDepth 100000 in
theorem bX1_memory_0 {E : jE} (hE : jOk E cX1_memory RX1) (hn : E.2.2.2.2 = 2) (hR : jRoom E 7 158) {c : Nat → Option Nat} (hc : E.2.2.1.2.2.2 = c) {b : Nat × Nat} {w0 : GW} {K : Int32 → Prop} (hK : jRi E .int (KPI w0 K)) {x0 : Nat} {x1 : Int32}  (hw : wX1_memory_0 c x0 x1 w0 K) : J E w0 b [(0, .ref (x0)), (1, .int (x1))] 0 [] := by
  unfold wX1_memory_0 at hw
  refine j_iload_n hE 1 dX1_memory_0 rfl rfl ?_
  refine j_iconst hE dX1_memory_1 kc_1 ?_
  refine j_bipush hE dX1_memory_2 kb_6 ?_
  refine jc_ip (jr_S hE hR (As := [.int (x1), .int ((1 : Int32)), .int (nI 6)]) (rest := []) ((ctX1_in E.1.2.1 E.2.2.1 hc _ _ _ _ _ hw) E.2.2.2.1) (lw_S q1162 q919 q121 q920) jdX1_in ⟨Nat.le_of_ble_eq_true rfl, Nat.le_of_ble_eq_true rfl⟩ ⟨Nat.zero_le _, Nat.zero_le _⟩  rfl (Nat.le_of_ble_eq_true rfl) dX1_memory_4) (fun r1 hw => ?_)
  refine j_b0 ?_
  refine j_if_eq hE 22 dX1_memory_7 (by decide) (fun c2 => ?_) (fun c2 => ?_)
  · replace hw := hw.1 c2
    refine j_iconst hE dX1_memory_22 kc_m1 ?_
    exact j_iret hE hK dX1_memory_23 rfl ⟨rfl, hw⟩
  · replace hw := hw.2 c2
    refine j_aload_n hE 0 dX1_memory_10 rfl rfl ?_
    refine j_aload_n hE 0 dX1_memory_11 rfl rfl ?_
    obtain ⟨f3, h4, hw⟩ := hw
    refine j_getM hE gf_GlassStreet_state q351 h4 dX1_memory_12 ?_
    refine j_iload_n hE 1 dX1_memory_15 rfl rfl ?_
    obtain ⟨a5, e9, hx⟩ := hw
    subst e9
    have hw := hx
    clear hx
    obtain ⟨h7, hw⟩ := hw
    refine jc_ip (jr_V hE hR (As := [.ref (a5), .int (x1)]) (rest := []) ((ctX1_harmOf E.1.2.1 E.2.2.1 hc _ _ _ _ _ hw) E.2.2.2.1) (lw_V q1377 q1379 qs46 q121 q1380) jdX1_harmOf ⟨Nat.le_of_ble_eq_true rfl, Nat.le_of_ble_eq_true rfl⟩ ⟨Nat.zero_le _, Nat.zero_le _⟩ (gmc_gIs h7 (r := (RX1, TX1, 15)) rfl) rfl (Nat.le_of_ble_eq_true rfl) dX1_memory_16) (fun r6 hw => ?_)
    refine j_b0 ?_
    refine j_goto hE 23 dX1_memory_19 (by decide) ?_
    exact j_iret hE hK dX1_memory_23 rfl ⟨rfl, hw⟩
theorem jdX1_memory : jD yX1_memory 1 := by decide +kernel
abbrev wX1_memory := wX1_memory_0
theorem ctX1_memory (l : Launch) (G : gG) {c : Nat → Option Nat} (hc : G.2.2.2 = c) (x0 : Nat) (x1 : Int32) (w0 : GW) (K : Int32 → Prop) (hw : wX1_memory_0 c x0 x1 w0 K) {F2 L2 : Nat} (h2 : 7 ≤ F2 ∧ 158 ≤ L2 := by exact ⟨Nat.le_refl _, Nat.le_refl _⟩) : CtI l yX1_memory cX1_memory 2 .int ({ frames := F2, cells := 0, slots := 0, locals := L2 }) G [.ref (x0), .int (x1)] w0 (KPI w0 K) :=
  CtI.of RX1 plainc_X1 rfl (Nat.le_of_ble_eq_true rfl) (fun E hE hl hG hn hR hK => bX1_memory_0 hE hn (hR.le h2.1 h2.2) (by rw [hG]; exact hc) hK hw)
def wX1_hide_28_b (c : Nat → Option Nat) (x0 : Nat) (x1 : Int32) (x2 : Int32) (x3 : Int32) (x4 : Int32) (x5 : Int32) (w0 : GW) (KL28 : Int32 × Int32 × Int32 → Prop) (K : Int32 → Prop) : Prop :=
  ((nI 10) ≤ x5 → ((0 ≤ x3 → ((¬ x2 = 0 → (K x3)) ∧ (x2 = 0 → (K x4)))) ∧ (¬ 0 ≤ x3 → (K ((-1 : Int32)))))) ∧ (¬ (nI 10) ≤ x5 → (∃ f4 : Option Nat, gfm w0 x0 [0] 4 = some (va_rf f4) ∧ (∃ a6 : Nat, f4 = some a6 ∧ (∃ f7 : Option Nat, gfm w0 a6 [3] 0 = some (va_rf f7) ∧ (∃ a9 : Nat, f7 = some a9 ∧ (∃ (n10 : Nat) (f11 : Nat → Int32), gai w0 a9 0 = some (n10, f11) ∧ vp_in x1 n10 ∧ (∀ v14 : Int32, v14 = (if 0 ≤ (x5 - (rd f11 x1)) then (x5 - (rd f11 x1)) else 0 - (x5 - (rd f11 x1))) → (∃ f15 : Option Nat, gfm w0 x0 [0] 4 = some (va_rf f15) ∧ (∃ a17 : Nat, f15 = some a17 ∧ (gmc w0 x0 = some 0 ∧ (wX1_seeing c x0 a17 x5 w0 (fun r18 => (¬ r18 = 0 → (KL28 (x3, x4, (x5 + 1)))) ∧ (r18 = 0 → ((v14 < x4 → (KL28 (x5, v14, (x5 + 1)))) ∧ (¬ v14 < x4 → (KL28 (x3, x4, (x5 + 1))))))))))))))))))
def wX1_hide_28 (c : Nat → Option Nat) (x0 : Nat) (x1 : Int32) (x2 : Int32) (x3 : Int32) (x4 : Int32) (x5 : Int32) (w0 : GW) (K : Int32 → Prop) : Prop := lfp (σ := Int32 × Int32 × Int32) (fun KL s => wX1_hide_28_b c x0 x1 x2 s.1 s.2.1 s.2.2 w0 KL K) (x3, x4, x5)
set_option maxRecDepth 100000 in
theorem bX1_hide_28 {E : jE} (hE : jOk E cX1_hide RX1) (hn : E.2.2.2.2 = 7) (hR : jRoom E 6 131) {c : Nat → Option Nat} (hc : E.2.2.1.2.2.2 = c) {b : Nat × Nat} {w0 : GW} {K : Int32 → Prop} (hK : jRi E .int (KPI w0 K)) {x0 : Nat} {x1 : Int32} {x2 : Int32} {x3 : Int32} {x4 : Int32} {x5 : Int32}  (hw : wX1_hide_28 c x0 x1 x2 x3 x4 x5 w0 K) : J E w0 b [(0, .ref (x0)), (1, .int (x1)), (2, .int (x2)), (3, .int (x3)), (4, .int (x4)), (5, .int (x5))] 28 [] := by
  refine lfp_sound (σ := Int32 × Int32 × Int32) (F := fun KL s => wX1_hide_28_b c x0 x1 x2 s.1 s.2.1 s.2.2 w0 KL K) (P := fun s => J E w0 b [(0, .ref (x0)), (1, .int (x1)), (2, .int (x2)), (3, .int (s.1)), (4, .int (s.2.1)), (5, .int (s.2.2))] 28 []) ?_ hw
  clear hw
  rintro KL28 ⟨x3, x4, x5⟩ hw ih28
  have hw : wX1_hide_28_b c x0 x1 x2 x3 x4 x5 w0 KL28 K := hw
  unfold wX1_hide_28_b at hw
  refine j_iload hE 5 dX1_hide_28 rfl ?_
  refine j_bipush hE dX1_hide_30 kb_10 ?_
  refine j_icmp_ge hE 88 dX1_hide_32 (by decide) (fun c1 => ?_) (fun c1 => ?_)
  · replace hw := hw.1 c1
    refine j_iload_n hE 3 dX1_hide_88 rfl rfl ?_
    refine j_if_ge hE 96 dX1_hide_89 (by decide) (fun c2 => ?_) (fun c2 => ?_)
    · replace hw := hw.1 c2
      refine j_iload_n hE 2 dX1_hide_96 rfl rfl ?_
      refine j_if_ne hE 105 dX1_hide_97 (by decide) (fun c3 => ?_) (fun c3 => ?_)
      · replace hw := hw.1 c3
        refine j_iload_n hE 3 dX1_hide_105 rfl rfl ?_
        exact j_iret hE hK dX1_hide_106 rfl ⟨rfl, hw⟩
      · replace hw := hw.2 c3
        refine j_iload hE 4 dX1_hide_100 rfl ?_
        refine j_goto hE 106 dX1_hide_102 (by decide) ?_
        exact j_iret hE hK dX1_hide_106 rfl ⟨rfl, hw⟩
    · replace hw := hw.2 c2
      refine j_iconst hE dX1_hide_92 kc_m1 ?_
      refine j_goto hE 106 dX1_hide_93 (by decide) ?_
      exact j_iret hE hK dX1_hide_106 rfl ⟨rfl, hw⟩
  · replace hw := hw.2 c1
    refine j_iload hE 5 dX1_hide_35 rfl ?_
    refine j_aload_n hE 0 dX1_hide_37 rfl rfl ?_
    obtain ⟨f4, h5, hw⟩ := hw
    refine j_getM hE gf_GlassStreet_state q351 h5 dX1_hide_38 ?_
    obtain ⟨a6, e9, hx⟩ := hw
    subst e9
    have hw := hx
    clear hx
    obtain ⟨f7, h8, hw⟩ := hw
    refine j_getMN hE gf_GlassStreet_State_at q317 h8 dX1_hide_41 ?_
    refine j_iload_n hE 1 dX1_hide_44 rfl rfl ?_
    obtain ⟨a9, e9, hx⟩ := hw
    subst e9
    have hw := hx
    clear hx
    obtain ⟨n10, f11, h12, h13, hw⟩ := hw
    refine j_aldI hE h12 h13 dX1_hide_45 ?_
    refine j_isub hE dX1_hide_46 ?_
    refine j_mabs hE hR q1250 (Nat.le_of_ble_eq_true rfl) (Nat.le_of_ble_eq_true rfl) dX1_hide_47 ?_
    refine j_topi (fun v14 e_v14 => ?_)
    replace hw := hw v14 e_v14
    refine j_istore (L' := [(6, .int (v14)), (0, .ref (x0)), (1, .int (x1)), (2, .int (x2)), (3, .int (x3)), (4, .int (x4)), (5, .int (x5))]) hE hn dX1_hide_50 (Nat.le_of_ble_eq_true rfl) rfl ?_
    refine j_aload_n hE 1 dX1_hide_52 rfl rfl ?_
    refine j_aload_n hE 1 dX1_hide_53 rfl rfl ?_
    obtain ⟨f15, h16, hw⟩ := hw
    refine j_getM hE gf_GlassStreet_state q351 h16 dX1_hide_54 ?_
    refine j_iload hE 6 dX1_hide_57 rfl ?_
    obtain ⟨a17, e9, hx⟩ := hw
    subst e9
    have hw := hx
    clear hx
    obtain ⟨h19, hw⟩ := hw
    refine jc_ip (jr_V hE hR (As := [.ref (a17), .int (x5)]) (rest := []) ((ctX1_seeing E.1.2.1 E.2.2.1 hc _ _ _ _ _ hw) E.2.2.2.1) (lw_V q1282 q1284 qs41 q121 q1285) jdX1_seeing ⟨Nat.le_of_ble_eq_true rfl, Nat.le_of_ble_eq_true rfl⟩ ⟨Nat.zero_le _, Nat.zero_le _⟩ (gmc_gIs h19 (r := (RX1, TX1, 15)) rfl) rfl (Nat.le_of_ble_eq_true rfl) dX1_hide_59) (fun r18 hw => ?_)
    refine j_b0 ?_
    refine j_if_ne hE 82 dX1_hide_62 (by decide) (fun c20 => ?_) (fun c20 => ?_)
    · replace hw := hw.1 c20
      refine j_iinc (L' := [(5, .int (x5 + 1)), (6, .int (v14)), (0, .ref (x0)), (1, .int (x1)), (2, .int (x2)), (3, .int (x3)), (4, .int (x4))]) hE hn 6 dX1_hide_82 rfl (congrArg (x5 + ·) kc_1) (Nat.le_of_ble_eq_true rfl) rfl ?_
      refine j_goto hE 28 dX1_hide_85 (by decide) ?_
      refine j_sub [(0, .ref (x0)), (1, .int (x1)), (2, .int (x2)), (3, .int (x3)), (4, .int (x4)), (5, .int (x5 + 1))] [2, 3, 4, 5, 6, 0] rfl ?_
      have hz := ih28 (x3, x4, (x5 + 1)) hw
      exact hz
    · replace hw := hw.2 c20
      refine j_iload hE 0 dX1_hide_65 rfl ?_
      refine j_iload hE 5 dX1_hide_67 rfl ?_
      refine j_icmp_lt hE 75 dX1_hide_69 (by decide) (fun c21 => ?_) (fun c21 => ?_)
      · replace hw := hw.1 c21
        refine j_iload hE 6 dX1_hide_75 rfl ?_
        refine j_istore_n (L' := [(3, .int (x5)), (6, .int (v14)), (0, .ref (x0)), (1, .int (x1)), (2, .int (x2)), (4, .int (x4)), (5, .int (x5))]) hE hn dX1_hide_77 rfl (Nat.le_of_ble_eq_true rfl) rfl ?_
        refine j_iload hE 1 dX1_hide_78 rfl ?_
        refine j_istore (L' := [(4, .int (v14)), (3, .int (x5)), (6, .int (v14)), (0, .ref (x0)), (1, .int (x1)), (2, .int (x2)), (5, .int (x5))]) hE hn dX1_hide_80 (Nat.le_of_ble_eq_true rfl) rfl ?_
        refine j_iinc (L' := [(5, .int (x5 + 1)), (4, .int (v14)), (3, .int (x5)), (6, .int (v14)), (0, .ref (x0)), (1, .int (x1)), (2, .int (x2))]) hE hn 6 dX1_hide_82 rfl (congrArg (x5 + ·) kc_1) (Nat.le_of_ble_eq_true rfl) rfl ?_
        refine j_goto hE 28 dX1_hide_85 (by decide) ?_
        refine j_sub [(0, .ref (x0)), (1, .int (x1)), (2, .int (x2)), (3, .int (x5)), (4, .int (v14)), (5, .int (x5 + 1))] [4, 5, 6, 2, 1, 0] rfl ?_
        have hz := ih28 (x5, v14, (x5 + 1)) hw
        exact hz
      · replace hw := hw.2 c21
        refine j_goto hE 82 dX1_hide_72 (by decide) ?_
        refine j_iinc (L' := [(5, .int (x5 + 1)), (6, .int (v14)), (0, .ref (x0)), (1, .int (x1)), (2, .int (x2)), (3, .int (x3)), (4, .int (x4))]) hE hn 6 dX1_hide_82 rfl (congrArg (x5 + ·) kc_1) (Nat.le_of_ble_eq_true rfl) rfl ?_
        refine j_goto hE 28 dX1_hide_85 (by decide) ?_
        refine j_sub [(0, .ref (x0)), (1, .int (x1)), (2, .int (x2)), (3, .int (x3)), (4, .int (x4)), (5, .int (x5 + 1))] [2, 3, 4, 5, 6, 0] rfl ?_
        have hz := ih28 (x3, x4, (x5 + 1)) hw
        exact hz
def wX1_hide_0 (c : Nat → Option Nat) (x0 : Nat) (x1 : Int32) (x2 : Int32) (w0 : GW) (K : Int32 → Prop) : Prop :=
  gmc w0 x0 = some 0 ∧ (wX1_isPerson c x0 x1 w0 (fun r1 => (r1 = 0 → (K ((-1 : Int32)))) ∧ (¬ r1 = 0 → (wX1_in c x2 ((0 : Int32)) ((1 : Int32)) w0 (fun r4 => (¬ r4 = 0 → (wX1_hide_28 c x0 x1 x2 ((-1 : Int32)) (nI 10) ((0 : Int32)) w0 K)) ∧ (r4 = 0 → (K ((-1 : Int32)))))))))
set_option maxRecDepth 100000 in
theorem bX1_hide_0 {E : jE} (hE : jOk E cX1_hide RX1) (hn : E.2.2.2.2 = 7) (hR : jRoom E 6 131) {c : Nat → Option Nat} (hc : E.2.2.1.2.2.2 = c) {b : Nat × Nat} {w0 : GW} {K : Int32 → Prop} (hK : jRi E .int (KPI w0 K)) {x0 : Nat} {x1 : Int32} {x2 : Int32}  (hw : wX1_hide_0 c x0 x1 x2 w0 K) : J E w0 b [(0, .ref (x0)), (1, .int (x1)), (2, .int (x2))] 0 [] := by
  unfold wX1_hide_0 at hw
  refine j_aload_n hE 0 dX1_hide_0 rfl rfl ?_
  refine j_iload_n hE 1 dX1_hide_1 rfl rfl ?_
  obtain ⟨h2, hw⟩ := hw
  refine jc_ip (jr_V hE hR (As := [.int (x1)]) (rest := []) ((ctX1_isPerson E.1.2.1 E.2.2.1 hc _ _ _ _ hw) E.2.2.2.1) (lw_V q1238 q1240 qs35 q121 q1241) jdX1_isPerson ⟨Nat.le_of_ble_eq_true rfl, Nat.le_of_ble_eq_true rfl⟩ ⟨Nat.zero_le _, Nat.zero_le _⟩ (gmc_gIs h2 (r := (RX1, TX1, 15)) rfl) rfl (Nat.le_of_ble_eq_true rfl) dX1_hide_2) (fun r1 hw => ?_)
  refine j_b0 ?_
  refine j_if_eq hE 17 dX1_hide_5 (by decide) (fun c3 => ?_) (fun c3 => ?_)
  · replace hw := hw.1 c3
    refine j_iconst hE dX1_hide_17 kc_m1 ?_
    exact j_iret hE hK dX1_hide_18 rfl ⟨rfl, hw⟩
  · replace hw := hw.2 c3
    refine j_iload_n hE 2 dX1_hide_8 rfl rfl ?_
    refine j_iconst hE dX1_hide_9 kc_0 ?_
    refine j_iconst hE dX1_hide_10 kc_1 ?_
    refine jc_ip (jr_S hE hR (As := [.int (x2), .int ((0 : Int32)), .int ((1 : Int32))]) (rest := []) ((ctX1_in E.1.2.1 E.2.2.1 hc _ _ _ _ _ hw) E.2.2.2.1) (lw_S q1162 q919 q121 q920) jdX1_in ⟨Nat.le_of_ble_eq_true rfl, Nat.le_of_ble_eq_true rfl⟩ ⟨Nat.zero_le _, Nat.zero_le _⟩  rfl (Nat.le_of_ble_eq_true rfl) dX1_hide_11) (fun r4 hw => ?_)
    refine j_b0 ?_
    refine j_if_ne hE 19 dX1_hide_14 (by decide) (fun c5 => ?_) (fun c5 => ?_)
    · replace hw := hw.1 c5
      refine j_iconst hE dX1_hide_19 kc_m1 ?_
      refine j_istore_n (L' := [(3, .int ((-1 : Int32))), (0, .ref (x0)), (1, .int (x1)), (2, .int (x2))]) hE hn dX1_hide_20 rfl (Nat.le_of_ble_eq_true rfl) rfl ?_
      refine j_bipush hE dX1_hide_21 kb_10 ?_
      refine j_istore (L' := [(4, .int (nI 10)), (3, .int ((-1 : Int32))), (0, .ref (x0)), (1, .int (x1)), (2, .int (x2))]) hE hn dX1_hide_23 (Nat.le_of_ble_eq_true rfl) rfl ?_
      refine j_iconst hE dX1_hide_25 kc_0 ?_
      refine j_istore (L' := [(5, .int ((0 : Int32))), (4, .int (nI 10)), (3, .int ((-1 : Int32))), (0, .ref (x0)), (1, .int (x1)), (2, .int (x2))]) hE hn dX1_hide_26 (Nat.le_of_ble_eq_true rfl) rfl ?_
      refine j_sub [(0, .ref (x0)), (1, .int (x1)), (2, .int (x2)), (3, .int ((-1 : Int32))), (4, .int (nI 10)), (5, .int ((0 : Int32)))] [3, 4, 5, 2, 1, 0] rfl ?_
      have hz := bX1_hide_28 (b := b) hE hn hR hc hK  hw
      exact hz
    · replace hw := hw.2 c5
      refine j_iconst hE dX1_hide_17 kc_m1 ?_
      exact j_iret hE hK dX1_hide_18 rfl ⟨rfl, hw⟩
theorem jdX1_hide : jD yX1_hide 2 := by decide +kernel
abbrev wX1_hide := wX1_hide_0
theorem ctX1_hide (l : Launch) (G : gG) {c : Nat → Option Nat} (hc : G.2.2.2 = c) (x0 : Nat) (x1 : Int32) (x2 : Int32) (w0 : GW) (K : Int32 → Prop) (hw : wX1_hide_0 c x0 x1 x2 w0 K) {F2 L2 : Nat} (h2 : 6 ≤ F2 ∧ 131 ≤ L2 := by exact ⟨Nat.le_refl _, Nat.le_refl _⟩) : CtI l yX1_hide cX1_hide 7 .int ({ frames := F2, cells := 0, slots := 0, locals := L2 }) G [.ref (x0), .int (x1), .int (x2)] w0 (KPI w0 K) :=
  CtI.of RX1 plainc_X1 rfl (Nat.le_of_ble_eq_true rfl) (fun E hE hl hG hn hR hK => bX1_hide_0 hE hn (hR.le h2.1 h2.2) (by rw [hG]; exact hc) hK hw)
def wJ17_bitCount_0 (c : Nat → Option Nat) (x0 : Int32) (w0 : GW) (K : Int32 → Prop) : Prop :=
  ∀ v1 : Int32, v1 = x0 - ((iushr x0 ((1 : Int32))) &&& ((1431655765 : Int32))) → (∀ v2 : Int32, v2 = (v1 &&& ((858993459 : Int32))) + ((iushr v1 (nI 2)) &&& ((858993459 : Int32))) → (∀ v3 : Int32, v3 = (v2 + (iushr v2 (nI 4))) &&& ((252645135 : Int32)) → (∀ v4 : Int32, v4 = v3 + (iushr v3 (nI 8)) → (∀ v5 : Int32, v5 = v4 + (iushr v4 (nI 16)) → (K (v5 &&& (nI 63)))))))
set_option maxRecDepth 100000 in
theorem bJ17_bitCount_0 {E : jE} (hE : jOk E cJ17_bitCount RJ17) (hn : E.2.2.2.2 = 1) (hR : jRoom E 0 0) {c : Nat → Option Nat} (hc : E.2.2.1.2.2.2 = c) {b : Nat × Nat} {w0 : GW} {K : Int32 → Prop} (hK : jRi E .int (KPI w0 K)) {x0 : Int32}  (hw : wJ17_bitCount_0 c x0 w0 K) : J E w0 b [(0, .int (x0))] 0 [] := by
  unfold wJ17_bitCount_0 at hw
  refine j_iload_n hE 0 dJ17_bitCount_0 rfl rfl ?_
  refine j_iload_n hE 0 dJ17_bitCount_1 rfl rfl ?_
  refine j_iconst hE dJ17_bitCount_2 kc_1 ?_
  refine j_iushr hE dJ17_bitCount_3 ?_
  refine j_ldcw hE q1417 dJ17_bitCount_4 ?_
  refine j_iand hE dJ17_bitCount_7 ?_
  refine j_isub hE dJ17_bitCount_8 ?_
  refine j_topi (fun v1 e_v1 => ?_)
  replace hw := hw v1 e_v1
  refine j_istore_n (L' := [(0, .int (v1))]) hE hn dJ17_bitCount_9 rfl (Nat.le_of_ble_eq_true rfl) rfl ?_
  refine j_iload_n hE 0 dJ17_bitCount_10 rfl rfl ?_
  refine j_ldcw hE q1418 dJ17_bitCount_11 ?_
  refine j_iand hE dJ17_bitCount_14 ?_
  refine j_iload_n hE 0 dJ17_bitCount_15 rfl rfl ?_
  refine j_iconst hE dJ17_bitCount_16 kc_2 ?_
  refine j_iushr hE dJ17_bitCount_17 ?_
  refine j_ldcw hE q1418 dJ17_bitCount_18 ?_
  refine j_iand hE dJ17_bitCount_21 ?_
  refine j_iadd hE dJ17_bitCount_22 ?_
  refine j_topi (fun v2 e_v2 => ?_)
  replace hw := hw v2 e_v2
  refine j_istore_n (L' := [(0, .int (v2))]) hE hn dJ17_bitCount_23 rfl (Nat.le_of_ble_eq_true rfl) rfl ?_
  refine j_iload_n hE 0 dJ17_bitCount_24 rfl rfl ?_
  refine j_iload_n hE 0 dJ17_bitCount_25 rfl rfl ?_
  refine j_iconst hE dJ17_bitCount_26 kc_4 ?_
  refine j_iushr hE dJ17_bitCount_27 ?_
  refine j_iadd hE dJ17_bitCount_28 ?_
  refine j_ldcw hE q1419 dJ17_bitCount_29 ?_
  refine j_iand hE dJ17_bitCount_32 ?_
  refine j_topi (fun v3 e_v3 => ?_)
  replace hw := hw v3 e_v3
  refine j_istore_n (L' := [(0, .int (v3))]) hE hn dJ17_bitCount_33 rfl (Nat.le_of_ble_eq_true rfl) rfl ?_
  refine j_iload_n hE 0 dJ17_bitCount_34 rfl rfl ?_
  refine j_iload_n hE 0 dJ17_bitCount_35 rfl rfl ?_
  refine j_bipush hE dJ17_bitCount_36 kb_8 ?_
  refine j_iushr hE dJ17_bitCount_38 ?_
  refine j_iadd hE dJ17_bitCount_39 ?_
  refine j_topi (fun v4 e_v4 => ?_)
  replace hw := hw v4 e_v4
  refine j_istore_n (L' := [(0, .int (v4))]) hE hn dJ17_bitCount_40 rfl (Nat.le_of_ble_eq_true rfl) rfl ?_
  refine j_iload_n hE 0 dJ17_bitCount_41 rfl rfl ?_
  refine j_iload_n hE 0 dJ17_bitCount_42 rfl rfl ?_
  refine j_bipush hE dJ17_bitCount_43 kb_16 ?_
  refine j_iushr hE dJ17_bitCount_45 ?_
  refine j_iadd hE dJ17_bitCount_46 ?_
  refine j_topi (fun v5 e_v5 => ?_)
  replace hw := hw v5 e_v5
  refine j_istore_n (L' := [(0, .int (v5))]) hE hn dJ17_bitCount_47 rfl (Nat.le_of_ble_eq_true rfl) rfl ?_
  refine j_iload_n hE 0 dJ17_bitCount_48 rfl rfl ?_
  refine j_bipush hE dJ17_bitCount_49 kb_63 ?_
  refine j_iand hE dJ17_bitCount_51 ?_
  exact j_iret hE hK dJ17_bitCount_52 rfl ⟨rfl, hw⟩
theorem jdJ17_bitCount : jD yJ17_bitCount 1 := by decide +kernel
abbrev wJ17_bitCount := wJ17_bitCount_0
theorem ctJ17_bitCount (l : Launch) (G : gG) {c : Nat → Option Nat} (hc : G.2.2.2 = c) (x0 : Int32) (w0 : GW) (K : Int32 → Prop) (hw : wJ17_bitCount_0 c x0 w0 K) {F2 L2 : Nat} (h2 : 0 ≤ F2 ∧ 0 ≤ L2 := by exact ⟨Nat.le_refl _, Nat.le_refl _⟩) : CtI l yJ17_bitCount cJ17_bitCount 1 .int ({ frames := F2, cells := 0, slots := 0, locals := L2 }) G [.int (x0)] w0 (KPI w0 K) :=
  CtI.of RJ17 plainc_J17 rfl (Nat.le_of_ble_eq_true rfl) (fun E hE hl hG hn hR hK => bJ17_bitCount_0 hE hn (hR.le h2.1 h2.2) (by rw [hG]; exact hc) hK hw)
def wX1_proof_48_b (c : Nat → Option Nat) (x0 : Nat) (x1 : Int32) (x2 : Int32) (x3 : Int32) (x4 : Int32) (x5 : Int32) (x6 : Int32) (w0 : GW) (KL48 : Int32 × Int32 → Prop) (KL31 : Int32 × Int32 → Prop) (K : Int32 → Prop) : Prop :=
  gmc w0 x0 = some 0 ∧ (wX1_panes c x0 w0 (fun r1 => (r1 ≤ x6 → ((¬ (x2 &&& (x5 ^^^ ((-1 : Int32)))) = 0 → (KL31 (x3, (x4 + 1)))) ∧ ((x2 &&& (x5 ^^^ ((-1 : Int32)))) = 0 → ((x3 < 0 → (KL31 (x4, (x4 + 1)))) ∧ (¬ x3 < 0 → (wJ17_bitCount c x4 w0 (fun r6 => wJ17_bitCount c x3 w0 (fun r7 => (r7 ≤ r6 → (KL31 (x3, (x4 + 1)))) ∧ (¬ r7 ≤ r6 → (KL31 (x4, (x4 + 1)))))))))))) ∧ (¬ r1 ≤ x6 → (wX1_isIn c x4 x6 w0 (fun r9 => (r9 = 0 → (KL48 (x5, (x6 + 1)))) ∧ (¬ r9 = 0 → (∃ f11 : Option Nat, gfm w0 x0 [0] 4 = some (va_rf f11) ∧ (∃ a13 : Nat, f11 = some a13 ∧ (gmc w0 x0 = some 0 ∧ (wX1_showsOf c x0 a13 x6 x1 (nI 6) w0 (fun r14 => ∀ v16 : Int32, v16 = x5 ||| r14 → (KL48 (v16, (x6 + 1))))))))))))))
def wX1_proof_48 (c : Nat → Option Nat) (x0 : Nat) (x1 : Int32) (x2 : Int32) (x3 : Int32) (x4 : Int32) (x5 : Int32) (x6 : Int32) (w0 : GW) (KL31 : Int32 × Int32 → Prop) (K : Int32 → Prop) : Prop := lfp (σ := Int32 × Int32) (fun KL s => wX1_proof_48_b c x0 x1 x2 x3 x4 s.1 s.2 w0 KL KL31 K) (x5, x6)
set_option maxRecDepth 100000 in
theorem bX1_proof_48 {E : jE} (hE : jOk E cX1_proof RX1) (hn : E.2.2.2.2 = 7) (hR : jRoom E 6 134) {c : Nat → Option Nat} (hc : E.2.2.1.2.2.2 = c) {b : Nat × Nat} {w0 : GW} {K : Int32 → Prop} (hK : jRi E .int (KPI w0 K)) {x0 : Nat} {x1 : Int32} {x2 : Int32} {x3 : Int32} {x4 : Int32} {x5 : Int32} {x6 : Int32} {KL31 : Int32 × Int32 → Prop} (ih31 : ∀ s : Int32 × Int32, KL31 s → J E w0 b [(0, .ref (x0)), (1, .int (x1)), (2, .int (x2)), (3, .int (s.1)), (4, .int (s.2))] 31 []) (hw : wX1_proof_48 c x0 x1 x2 x3 x4 x5 x6 w0 KL31 K) : J E w0 b [(0, .ref (x0)), (1, .int (x1)), (2, .int (x2)), (3, .int (x3)), (4, .int (x4)), (5, .int (x5)), (6, .int (x6))] 48 [] := by
  refine lfp_sound (σ := Int32 × Int32) (F := fun KL s => wX1_proof_48_b c x0 x1 x2 x3 x4 s.1 s.2 w0 KL KL31 K) (P := fun s => J E w0 b [(0, .ref (x0)), (1, .int (x1)), (2, .int (x2)), (3, .int (x3)), (4, .int (x4)), (5, .int (s.1)), (6, .int (s.2))] 48 []) ?_ hw
  clear hw
  rintro KL48 ⟨x5, x6⟩ hw ih48
  have hw : wX1_proof_48_b c x0 x1 x2 x3 x4 x5 x6 w0 KL48 KL31 K := hw
  unfold wX1_proof_48_b at hw
  refine j_iload hE 6 dX1_proof_48 rfl ?_
  refine j_aload_n hE 0 dX1_proof_50 rfl rfl ?_
  obtain ⟨h2, hw⟩ := hw
  refine jc_ip (jr_V hE hR (As := []) (rest := [.int (x6)]) ((ctX1_panes E.1.2.1 E.2.2.1 hc _ _ _ hw) E.2.2.2.1) (lw_V q1157 q1159 qs31 q121 q1160) jdX1_panes ⟨Nat.le_of_ble_eq_true rfl, Nat.le_of_ble_eq_true rfl⟩ ⟨Nat.zero_le _, Nat.zero_le _⟩ (gmc_gIs h2 (r := (RX1, TX1, 15)) rfl) rfl (Nat.le_of_ble_eq_true rfl) dX1_proof_51) (fun r1 hw => ?_)
  refine j_b0 ?_
  refine j_icmp_ge hE 91 dX1_proof_54 (by decide) (fun c3 => ?_) (fun c3 => ?_)
  · replace hw := hw.1 c3
    refine j_iload_n hE 2 dX1_proof_91 rfl rfl ?_
    refine j_iload hE 5 dX1_proof_92 rfl ?_
    refine j_iconst hE dX1_proof_94 kc_m1 ?_
    refine j_ixor hE dX1_proof_95 ?_
    refine j_iand hE dX1_proof_96 ?_
    refine j_if_ne hE 119 dX1_proof_97 (by decide) (fun c4 => ?_) (fun c4 => ?_)
    · replace hw := hw.1 c4
      refine j_iinc (L' := [(4, .int (x4 + 1)), (0, .ref (x0)), (1, .int (x1)), (2, .int (x2)), (3, .int (x3)), (5, .int (x5)), (6, .int (x6))]) hE hn 4 dX1_proof_119 rfl (congrArg (x4 + ·) kc_1) (Nat.le_of_ble_eq_true rfl) rfl ?_
      refine j_goto hE 31 dX1_proof_122 (by decide) ?_
      refine j_sub [(0, .ref (x0)), (1, .int (x1)), (2, .int (x2)), (3, .int (x3)), (4, .int (x4 + 1))] [1, 2, 3, 4, 0] rfl ?_
      have hz := ih31 (x3, (x4 + 1)) hw
      exact hz
    · replace hw := hw.2 c4
      refine j_iload_n hE 3 dX1_proof_100 rfl rfl ?_
      refine j_if_lt hE 116 dX1_proof_101 (by decide) (fun c5 => ?_) (fun c5 => ?_)
      · replace hw := hw.1 c5
        refine j_iload hE 4 dX1_proof_116 rfl ?_
        refine j_istore_n (L' := [(3, .int (x4)), (0, .ref (x0)), (1, .int (x1)), (2, .int (x2)), (4, .int (x4)), (5, .int (x5)), (6, .int (x6))]) hE hn dX1_proof_118 rfl (Nat.le_of_ble_eq_true rfl) rfl ?_
        refine j_iinc (L' := [(4, .int (x4 + 1)), (3, .int (x4)), (0, .ref (x0)), (1, .int (x1)), (2, .int (x2)), (5, .int (x5)), (6, .int (x6))]) hE hn 4 dX1_proof_119 rfl (congrArg (x4 + ·) kc_1) (Nat.le_of_ble_eq_true rfl) rfl ?_
        refine j_goto hE 31 dX1_proof_122 (by decide) ?_
        refine j_sub [(0, .ref (x0)), (1, .int (x1)), (2, .int (x2)), (3, .int (x4)), (4, .int (x4 + 1))] [2, 3, 4, 1, 0] rfl ?_
        have hz := ih31 (x4, (x4 + 1)) hw
        exact hz
      · replace hw := hw.2 c5
        refine j_iload hE 4 dX1_proof_104 rfl ?_
        refine jc_ip (jr_S hE hR (As := [.int (x4)]) (rest := []) ((ctJ17_bitCount E.1.2.1 E.2.2.1 hc _ _ _ hw) E.2.2.2.1) (lw_S q1414 q1415 q161 q1416) jdJ17_bitCount ⟨Nat.le_of_ble_eq_true rfl, Nat.le_of_ble_eq_true rfl⟩ ⟨Nat.zero_le _, Nat.zero_le _⟩  rfl (Nat.le_of_ble_eq_true rfl) dX1_proof_106) (fun r6 hw => ?_)
        refine j_b0 ?_
        refine j_iload_n hE 3 dX1_proof_109 rfl rfl ?_
        refine jc_ip (jr_S hE hR (As := [.int (x3)]) (rest := [.int (r6)]) ((ctJ17_bitCount E.1.2.1 E.2.2.1 hc _ _ _ hw) E.2.2.2.1) (lw_S q1414 q1415 q161 q1416) jdJ17_bitCount ⟨Nat.le_of_ble_eq_true rfl, Nat.le_of_ble_eq_true rfl⟩ ⟨Nat.zero_le _, Nat.zero_le _⟩  rfl (Nat.le_of_ble_eq_true rfl) dX1_proof_110) (fun r7 hw => ?_)
        refine j_b0 ?_
        refine j_icmp_ge hE 119 dX1_proof_113 (by decide) (fun c8 => ?_) (fun c8 => ?_)
        · replace hw := hw.1 c8
          refine j_iinc (L' := [(4, .int (x4 + 1)), (0, .ref (x0)), (1, .int (x1)), (2, .int (x2)), (3, .int (x3)), (5, .int (x5)), (6, .int (x6))]) hE hn 4 dX1_proof_119 rfl (congrArg (x4 + ·) kc_1) (Nat.le_of_ble_eq_true rfl) rfl ?_
          refine j_goto hE 31 dX1_proof_122 (by decide) ?_
          refine j_sub [(0, .ref (x0)), (1, .int (x1)), (2, .int (x2)), (3, .int (x3)), (4, .int (x4 + 1))] [1, 2, 3, 4, 0] rfl ?_
          have hz := ih31 (x3, (x4 + 1)) hw
          exact hz
        · replace hw := hw.2 c8
          refine j_iload hE 4 dX1_proof_116 rfl ?_
          refine j_istore_n (L' := [(3, .int (x4)), (0, .ref (x0)), (1, .int (x1)), (2, .int (x2)), (4, .int (x4)), (5, .int (x5)), (6, .int (x6))]) hE hn dX1_proof_118 rfl (Nat.le_of_ble_eq_true rfl) rfl ?_
          refine j_iinc (L' := [(4, .int (x4 + 1)), (3, .int (x4)), (0, .ref (x0)), (1, .int (x1)), (2, .int (x2)), (5, .int (x5)), (6, .int (x6))]) hE hn 4 dX1_proof_119 rfl (congrArg (x4 + ·) kc_1) (Nat.le_of_ble_eq_true rfl) rfl ?_
          refine j_goto hE 31 dX1_proof_122 (by decide) ?_
          refine j_sub [(0, .ref (x0)), (1, .int (x1)), (2, .int (x2)), (3, .int (x4)), (4, .int (x4 + 1))] [2, 3, 4, 1, 0] rfl ?_
          have hz := ih31 (x4, (x4 + 1)) hw
          exact hz
  · replace hw := hw.2 c3
    refine j_iload hE 4 dX1_proof_57 rfl ?_
    refine j_iload hE 6 dX1_proof_59 rfl ?_
    refine jc_ip (jr_S hE hR (As := [.int (x4), .int (x6)]) (rest := []) ((ctX1_isIn E.1.2.1 E.2.2.1 hc _ _ _ _ hw) E.2.2.2.1) (lw_S q1183 q922 q121 q923) jdX1_isIn ⟨Nat.le_of_ble_eq_true rfl, Nat.le_of_ble_eq_true rfl⟩ ⟨Nat.zero_le _, Nat.zero_le _⟩  rfl (Nat.le_of_ble_eq_true rfl) dX1_proof_61) (fun r9 hw => ?_)
    refine j_b0 ?_
    refine j_if_eq hE 85 dX1_proof_64 (by decide) (fun c10 => ?_) (fun c10 => ?_)
    · replace hw := hw.1 c10
      refine j_iinc (L' := [(6, .int (x6 + 1)), (0, .ref (x0)), (1, .int (x1)), (2, .int (x2)), (3, .int (x3)), (4, .int (x4)), (5, .int (x5))]) hE hn 6 dX1_proof_85 rfl (congrArg (x6 + ·) kc_1) (Nat.le_of_ble_eq_true rfl) rfl ?_
      refine j_goto hE 48 dX1_proof_88 (by decide) ?_
      refine j_sub [(0, .ref (x0)), (1, .int (x1)), (2, .int (x2)), (3, .int (x3)), (4, .int (x4)), (5, .int (x5)), (6, .int (x6 + 1))] [1, 2, 3, 4, 5, 6, 0] rfl ?_
      have hz := ih48 (x5, (x6 + 1)) hw
      exact hz
    · replace hw := hw.2 c10
      refine j_iload hE 5 dX1_proof_67 rfl ?_
      refine j_aload_n hE 0 dX1_proof_69 rfl rfl ?_
      refine j_aload_n hE 0 dX1_proof_70 rfl rfl ?_
      obtain ⟨f11, h12, hw⟩ := hw
      refine j_getM hE gf_GlassStreet_state q351 h12 dX1_proof_71 ?_
      refine j_iload hE 6 dX1_proof_74 rfl ?_
      refine j_iload_n hE 1 dX1_proof_76 rfl rfl ?_
      refine j_bipush hE dX1_proof_77 kb_6 ?_
      obtain ⟨a13, e9, hx⟩ := hw
      subst e9
      have hw := hx
      clear hx
      obtain ⟨h15, hw⟩ := hw
      refine jc_ip (jr_V hE hR (As := [.ref (a13), .int (x6), .int (x1), .int (nI 6)]) (rest := [.int (x5)]) ((ctX1_showsOf E.1.2.1 E.2.2.1 hc _ _ _ _ _ _ _ hw) E.2.2.2.1) (lw_V q1381 q1383 qs47 q121 q1384) jdX1_showsOf ⟨Nat.le_of_ble_eq_true rfl, Nat.le_of_ble_eq_true rfl⟩ ⟨Nat.zero_le _, Nat.zero_le _⟩ (gmc_gIs h15 (r := (RX1, TX1, 15)) rfl) rfl (Nat.le_of_ble_eq_true rfl) dX1_proof_79) (fun r14 hw => ?_)
      refine j_b0 ?_
      refine j_ior hE dX1_proof_82 ?_
      refine j_topi (fun v16 e_v16 => ?_)
      replace hw := hw v16 e_v16
      refine j_istore (L' := [(5, .int (v16)), (0, .ref (x0)), (1, .int (x1)), (2, .int (x2)), (3, .int (x3)), (4, .int (x4)), (6, .int (x6))]) hE hn dX1_proof_83 (Nat.le_of_ble_eq_true rfl) rfl ?_
      refine j_iinc (L' := [(6, .int (x6 + 1)), (5, .int (v16)), (0, .ref (x0)), (1, .int (x1)), (2, .int (x2)), (3, .int (x3)), (4, .int (x4))]) hE hn 6 dX1_proof_85 rfl (congrArg (x6 + ·) kc_1) (Nat.le_of_ble_eq_true rfl) rfl ?_
      refine j_goto hE 48 dX1_proof_88 (by decide) ?_
      refine j_sub [(0, .ref (x0)), (1, .int (x1)), (2, .int (x2)), (3, .int (x3)), (4, .int (x4)), (5, .int (v16)), (6, .int (x6 + 1))] [2, 3, 4, 5, 6, 1, 0] rfl ?_
      have hz := ih48 (v16, (x6 + 1)) hw
      exact hz
def wX1_proof_31_b (c : Nat → Option Nat) (x0 : Nat) (x1 : Int32) (x2 : Int32) (x3 : Int32) (x4 : Int32) (w0 : GW) (KL31 : Int32 × Int32 → Prop) (K : Int32 → Prop) : Prop :=
  gmc w0 x0 = some 0 ∧ (wX1_panes c x0 w0 (fun r1 => ((ishl ((1 : Int32)) r1) ≤ x4 → (K x3)) ∧ (¬ (ishl ((1 : Int32)) r1) ≤ x4 → (wX1_proof_48 c x0 x1 x2 x3 x4 ((0 : Int32)) ((0 : Int32)) w0 KL31 K))))
def wX1_proof_31 (c : Nat → Option Nat) (x0 : Nat) (x1 : Int32) (x2 : Int32) (x3 : Int32) (x4 : Int32) (w0 : GW) (K : Int32 → Prop) : Prop := lfp (σ := Int32 × Int32) (fun KL s => wX1_proof_31_b c x0 x1 x2 s.1 s.2 w0 KL K) (x3, x4)
set_option maxRecDepth 100000 in
theorem bX1_proof_31 {E : jE} (hE : jOk E cX1_proof RX1) (hn : E.2.2.2.2 = 7) (hR : jRoom E 6 134) {c : Nat → Option Nat} (hc : E.2.2.1.2.2.2 = c) {b : Nat × Nat} {w0 : GW} {K : Int32 → Prop} (hK : jRi E .int (KPI w0 K)) {x0 : Nat} {x1 : Int32} {x2 : Int32} {x3 : Int32} {x4 : Int32}  (hw : wX1_proof_31 c x0 x1 x2 x3 x4 w0 K) : J E w0 b [(0, .ref (x0)), (1, .int (x1)), (2, .int (x2)), (3, .int (x3)), (4, .int (x4))] 31 [] := by
  refine lfp_sound (σ := Int32 × Int32) (F := fun KL s => wX1_proof_31_b c x0 x1 x2 s.1 s.2 w0 KL K) (P := fun s => J E w0 b [(0, .ref (x0)), (1, .int (x1)), (2, .int (x2)), (3, .int (s.1)), (4, .int (s.2))] 31 []) ?_ hw
  clear hw
  rintro KL31 ⟨x3, x4⟩ hw ih31
  have hw : wX1_proof_31_b c x0 x1 x2 x3 x4 w0 KL31 K := hw
  unfold wX1_proof_31_b at hw
  refine j_iload hE 4 dX1_proof_31 rfl ?_
  refine j_iconst hE dX1_proof_33 kc_1 ?_
  refine j_aload_n hE 0 dX1_proof_34 rfl rfl ?_
  obtain ⟨h2, hw⟩ := hw
  refine jc_ip (jr_V hE hR (As := []) (rest := [.int ((1 : Int32)), .int (x4)]) ((ctX1_panes E.1.2.1 E.2.2.1 hc _ _ _ hw) E.2.2.2.1) (lw_V q1157 q1159 qs31 q121 q1160) jdX1_panes ⟨Nat.le_of_ble_eq_true rfl, Nat.le_of_ble_eq_true rfl⟩ ⟨Nat.zero_le _, Nat.zero_le _⟩ (gmc_gIs h2 (r := (RX1, TX1, 15)) rfl) rfl (Nat.le_of_ble_eq_true rfl) dX1_proof_35) (fun r1 hw => ?_)
  refine j_b0 ?_
  refine j_ishl hE dX1_proof_38 ?_
  refine j_icmp_ge hE 125 dX1_proof_39 (by decide) (fun c3 => ?_) (fun c3 => ?_)
  · replace hw := hw.1 c3
    refine j_iload_n hE 3 dX1_proof_125 rfl rfl ?_
    exact j_iret hE hK dX1_proof_126 rfl ⟨rfl, hw⟩
  · replace hw := hw.2 c3
    refine j_iconst hE dX1_proof_42 kc_0 ?_
    refine j_istore (L' := [(5, .int ((0 : Int32))), (0, .ref (x0)), (1, .int (x1)), (2, .int (x2)), (3, .int (x3)), (4, .int (x4))]) hE hn dX1_proof_43 (Nat.le_of_ble_eq_true rfl) rfl ?_
    refine j_iconst hE dX1_proof_45 kc_0 ?_
    refine j_istore (L' := [(6, .int ((0 : Int32))), (5, .int ((0 : Int32))), (0, .ref (x0)), (1, .int (x1)), (2, .int (x2)), (3, .int (x3)), (4, .int (x4))]) hE hn dX1_proof_46 (Nat.le_of_ble_eq_true rfl) rfl ?_
    refine j_sub [(0, .ref (x0)), (1, .int (x1)), (2, .int (x2)), (3, .int (x3)), (4, .int (x4)), (5, .int ((0 : Int32))), (6, .int ((0 : Int32)))] [2, 3, 4, 5, 6, 1, 0] rfl ?_
    have hz := bX1_proof_48 (b := b) hE hn hR hc hK ih31 hw
    exact hz
def wX1_proof_0 (c : Nat → Option Nat) (x0 : Nat) (x1 : Int32) (x2 : Int32) (w0 : GW) (K : Int32 → Prop) : Prop :=
  gmc w0 x0 = some 0 ∧ (wX1_isPerson c x0 x1 w0 (fun r1 => (r1 = 0 → (K ((-1 : Int32)))) ∧ (¬ r1 = 0 → (gmc w0 x0 = some 0 ∧ (wX1_deeds c x0 w0 (fun r4 => wX1_in c x2 ((0 : Int32)) ((ishl ((1 : Int32)) r4) - ((1 : Int32))) w0 (fun r6 => (¬ r6 = 0 → (wX1_proof_31 c x0 x1 x2 ((-1 : Int32)) ((0 : Int32)) w0 K)) ∧ (r6 = 0 → (K ((-1 : Int32)))))))))))
set_option maxRecDepth 100000 in
theorem bX1_proof_0 {E : jE} (hE : jOk E cX1_proof RX1) (hn : E.2.2.2.2 = 7) (hR : jRoom E 6 134) {c : Nat → Option Nat} (hc : E.2.2.1.2.2.2 = c) {b : Nat × Nat} {w0 : GW} {K : Int32 → Prop} (hK : jRi E .int (KPI w0 K)) {x0 : Nat} {x1 : Int32} {x2 : Int32}  (hw : wX1_proof_0 c x0 x1 x2 w0 K) : J E w0 b [(0, .ref (x0)), (1, .int (x1)), (2, .int (x2))] 0 [] := by
  unfold wX1_proof_0 at hw
  refine j_aload_n hE 0 dX1_proof_0 rfl rfl ?_
  refine j_iload_n hE 1 dX1_proof_1 rfl rfl ?_
  obtain ⟨h2, hw⟩ := hw
  refine jc_ip (jr_V hE hR (As := [.int (x1)]) (rest := []) ((ctX1_isPerson E.1.2.1 E.2.2.1 hc _ _ _ _ hw) E.2.2.2.1) (lw_V q1238 q1240 qs35 q121 q1241) jdX1_isPerson ⟨Nat.le_of_ble_eq_true rfl, Nat.le_of_ble_eq_true rfl⟩ ⟨Nat.zero_le _, Nat.zero_le _⟩ (gmc_gIs h2 (r := (RX1, TX1, 15)) rfl) rfl (Nat.le_of_ble_eq_true rfl) dX1_proof_2) (fun r1 hw => ?_)
  refine j_b0 ?_
  refine j_if_eq hE 24 dX1_proof_5 (by decide) (fun c3 => ?_) (fun c3 => ?_)
  · replace hw := hw.1 c3
    refine j_iconst hE dX1_proof_24 kc_m1 ?_
    exact j_iret hE hK dX1_proof_25 rfl ⟨rfl, hw⟩
  · replace hw := hw.2 c3
    refine j_iload_n hE 2 dX1_proof_8 rfl rfl ?_
    refine j_iconst hE dX1_proof_9 kc_0 ?_
    refine j_iconst hE dX1_proof_10 kc_1 ?_
    refine j_aload_n hE 0 dX1_proof_11 rfl rfl ?_
    obtain ⟨h5, hw⟩ := hw
    refine jc_ip (jr_V hE hR (As := []) (rest := [.int ((1 : Int32)), .int ((0 : Int32)), .int (x2)]) ((ctX1_deeds E.1.2.1 E.2.2.1 hc _ _ _ hw) E.2.2.2.1) (lw_V q1274 q1276 qs39 q121 q1277) jdX1_deeds ⟨Nat.le_of_ble_eq_true rfl, Nat.le_of_ble_eq_true rfl⟩ ⟨Nat.zero_le _, Nat.zero_le _⟩ (gmc_gIs h5 (r := (RX1, TX1, 15)) rfl) rfl (Nat.le_of_ble_eq_true rfl) dX1_proof_12) (fun r4 hw => ?_)
    refine j_b0 ?_
    refine j_ishl hE dX1_proof_15 ?_
    refine j_iconst hE dX1_proof_16 kc_1 ?_
    refine j_isub hE dX1_proof_17 ?_
    refine jc_ip (jr_S hE hR (As := [.int (x2), .int ((0 : Int32)), .int ((ishl ((1 : Int32)) r4) - ((1 : Int32)))]) (rest := []) ((ctX1_in E.1.2.1 E.2.2.1 hc _ _ _ _ _ hw) E.2.2.2.1) (lw_S q1162 q919 q121 q920) jdX1_in ⟨Nat.le_of_ble_eq_true rfl, Nat.le_of_ble_eq_true rfl⟩ ⟨Nat.zero_le _, Nat.zero_le _⟩  rfl (Nat.le_of_ble_eq_true rfl) dX1_proof_18) (fun r6 hw => ?_)
    refine j_b0 ?_
    refine j_if_ne hE 26 dX1_proof_21 (by decide) (fun c7 => ?_) (fun c7 => ?_)
    · replace hw := hw.1 c7
      refine j_iconst hE dX1_proof_26 kc_m1 ?_
      refine j_istore_n (L' := [(3, .int ((-1 : Int32))), (0, .ref (x0)), (1, .int (x1)), (2, .int (x2))]) hE hn dX1_proof_27 rfl (Nat.le_of_ble_eq_true rfl) rfl ?_
      refine j_iconst hE dX1_proof_28 kc_0 ?_
      refine j_istore (L' := [(4, .int ((0 : Int32))), (3, .int ((-1 : Int32))), (0, .ref (x0)), (1, .int (x1)), (2, .int (x2))]) hE hn dX1_proof_29 (Nat.le_of_ble_eq_true rfl) rfl ?_
      refine j_sub [(0, .ref (x0)), (1, .int (x1)), (2, .int (x2)), (3, .int ((-1 : Int32))), (4, .int ((0 : Int32)))] [2, 3, 4, 1, 0] rfl ?_
      have hz := bX1_proof_31 (b := b) hE hn hR hc hK  hw
      exact hz
    · replace hw := hw.2 c7
      refine j_iconst hE dX1_proof_24 kc_m1 ?_
      exact j_iret hE hK dX1_proof_25 rfl ⟨rfl, hw⟩
theorem jdX1_proof : jD yX1_proof 2 := by decide +kernel
abbrev wX1_proof := wX1_proof_0
theorem ctX1_proof (l : Launch) (G : gG) {c : Nat → Option Nat} (hc : G.2.2.2 = c) (x0 : Nat) (x1 : Int32) (x2 : Int32) (w0 : GW) (K : Int32 → Prop) (hw : wX1_proof_0 c x0 x1 x2 w0 K) {F2 L2 : Nat} (h2 : 6 ≤ F2 ∧ 134 ≤ L2 := by exact ⟨Nat.le_refl _, Nat.le_refl _⟩) : CtI l yX1_proof cX1_proof 7 .int ({ frames := F2, cells := 0, slots := 0, locals := L2 }) G [.ref (x0), .int (x1), .int (x2)] w0 (KPI w0 K) :=
  CtI.of RX1 plainc_X1 rfl (Nat.le_of_ble_eq_true rfl) (fun E hE hl hG hn hR hK => bX1_proof_0 hE hn (hR.le h2.1 h2.2) (by rw [hG]; exact hc) hK hw)
def wX5_isOf_0 (c : Nat → Option Nat) (x0 : Nat) (x1 : Int32) (x2 : Int32) (x3 : Int32) (w0 : GW) (K : Int32 → Prop) : Prop :=
  ∃ f1 : Option Nat, gfm w0 x0 [4] 0 = some (va_rf f1) ∧ (∃ a3 : Nat, f1 = some a3 ∧ (∃ (n4 : Nat) (f5 : Nat → Int32), gai w0 a3 0 = some (n4, f5) ∧ vp_in x1 n4 ∧ ((¬ (rd f5 x1) = x2 → (K ((0 : Int32)))) ∧ ((rd f5 x1) = x2 → (∃ f9 : Option Nat, gfm w0 x0 [4] 1 = some (va_rf f9) ∧ (∃ a11 : Nat, f9 = some a11 ∧ (∃ (n12 : Nat) (f13 : Nat → Int32), gai w0 a11 0 = some (n12, f13) ∧ vp_in x1 n12 ∧ ((¬ (rd f13 x1) = x3 → (K ((0 : Int32)))) ∧ ((rd f13 x1) = x3 → (K ((1 : Int32))))))))))))
set_option maxRecDepth 100000 in
theorem bX5_isOf_0 {E : jE} (hE : jOk E cX5_isOf RX5) (hn : E.2.2.2.2 = 4) (hR : jRoom E 0 0) {c : Nat → Option Nat} (hc : E.2.2.1.2.2.2 = c) {b : Nat × Nat} {w0 : GW} {K : Int32 → Prop} (hK : jRi E .boolean (KPI w0 K)) {x0 : Nat} {x1 : Int32} {x2 : Int32} {x3 : Int32}  (hw : wX5_isOf_0 c x0 x1 x2 x3 w0 K) : J E w0 b [(0, .ref (x0)), (1, .int (x1)), (2, .int (x2)), (3, .int (x3))] 0 [] := by
  unfold wX5_isOf_0 at hw
  refine j_aload_n hE 0 dX5_isOf_0 rfl rfl ?_
  obtain ⟨f1, h2, hw⟩ := hw
  refine j_getM hE gf_GlassStreet_Marks_who q292 h2 dX5_isOf_1 ?_
  refine j_iload_n hE 1 dX5_isOf_4 rfl rfl ?_
  obtain ⟨a3, e9, hx⟩ := hw
  subst e9
  have hw := hx
  clear hx
  obtain ⟨n4, f5, h6, h7, hw⟩ := hw
  refine j_aldI hE h6 h7 dX5_isOf_5 ?_
  refine j_iload_n hE 2 dX5_isOf_6 rfl rfl ?_
  refine j_icmp_ne hE 24 dX5_isOf_7 (by decide) (fun c8 => ?_) (fun c8 => ?_)
  · replace hw := hw.1 c8
    refine j_iconst hE dX5_isOf_24 kc_0 ?_
    exact j_iret hE hK dX5_isOf_25 rfl ⟨rfl, hw⟩
  · replace hw := hw.2 c8
    refine j_aload_n hE 0 dX5_isOf_10 rfl rfl ?_
    obtain ⟨f9, h10, hw⟩ := hw
    refine j_getM hE gf_GlassStreet_Marks_deed q294 h10 dX5_isOf_11 ?_
    refine j_iload_n hE 1 dX5_isOf_14 rfl rfl ?_
    obtain ⟨a11, e9, hx⟩ := hw
    subst e9
    have hw := hx
    clear hx
    obtain ⟨n12, f13, h14, h15, hw⟩ := hw
    refine j_aldI hE h14 h15 dX5_isOf_15 ?_
    refine j_iload_n hE 3 dX5_isOf_16 rfl rfl ?_
    refine j_icmp_ne hE 24 dX5_isOf_17 (by decide) (fun c16 => ?_) (fun c16 => ?_)
    · replace hw := hw.1 c16
      refine j_iconst hE dX5_isOf_24 kc_0 ?_
      exact j_iret hE hK dX5_isOf_25 rfl ⟨rfl, hw⟩
    · replace hw := hw.2 c16
      refine j_iconst hE dX5_isOf_20 kc_1 ?_
      refine j_goto hE 25 dX5_isOf_21 (by decide) ?_
      exact j_iret hE hK dX5_isOf_25 rfl ⟨rfl, hw⟩
theorem jdX5_isOf : jD yX5_isOf 3 := by decide +kernel
abbrev wX5_isOf := wX5_isOf_0
theorem ctX5_isOf (l : Launch) (G : gG) {c : Nat → Option Nat} (hc : G.2.2.2 = c) (x0 : Nat) (x1 : Int32) (x2 : Int32) (x3 : Int32) (w0 : GW) (K : Int32 → Prop) (hw : wX5_isOf_0 c x0 x1 x2 x3 w0 K) {F2 L2 : Nat} (h2 : 0 ≤ F2 ∧ 0 ≤ L2 := by exact ⟨Nat.le_refl _, Nat.le_refl _⟩) : CtI l yX5_isOf cX5_isOf 4 .boolean ({ frames := F2, cells := 0, slots := 0, locals := L2 }) G [.ref (x0), .int (x1), .int (x2), .int (x3)] w0 (KPI w0 K) :=
  CtI.of RX5 plainc_X5 rfl (Nat.le_of_ble_eq_true rfl) (fun E hE hl hG hn hR hK => bX5_isOf_0 hE hn (hR.le h2.1 h2.2) (by rw [hG]; exact hc) hK hw)
def wX1_washes_75 (c : Nat → Option Nat) (x0 : Nat) (x1 : Int32) (x2 : Int32) (x3 : Int32) (x4 : Int32) (x5 : Option Nat) (x6 : Int32) (w0 : GW) (KL23 : Int32 × Int32 → Prop) (K : Int32 → Prop) : Prop :=
  ∃ f1 : Option Nat, gfm w0 x0 [0] 4 = some (va_rf f1) ∧ (∃ a3 : Nat, f1 = some a3 ∧ (gmc w0 a3 = some 3 ∧ (wX4_isWhole c a3 x4 w0 (fun r4 => (r4 = 0 → (KL23 (x3, (x4 + 1)))) ∧ (¬ r4 = 0 → (∃ a7 : Nat, x5 = some a7 ∧ (∃ f8 : Int32, gfm w0 a7 [4] 4 = some (.int f8) ∧ (∀ v10 : Int32, v10 = x3 + (f8 - x6) → (KL23 (v10, (x4 + 1)))))))))))
set_option maxRecDepth 100000 in
theorem bX1_washes_75 {E : jE} (hE : jOk E cX1_washes RX1) (hn : E.2.2.2.2 = 7) (hR : jRoom E 3 61) {c : Nat → Option Nat} (hc : E.2.2.1.2.2.2 = c) {b : Nat × Nat} {w0 : GW} {K : Int32 → Prop} (hK : jRi E .int (KPI w0 K)) {x0 : Nat} {x1 : Int32} {x2 : Int32} {x3 : Int32} {x4 : Int32} {x5 : Option Nat} {x6 : Int32} {KL23 : Int32 × Int32 → Prop} (ih23 : ∀ s : Int32 × Int32, KL23 s → J E w0 b [(0, .ref (x0)), (1, .int (x1)), (2, .int (x2)), (3, .int (s.1)), (4, .int (s.2))] 23 []) (hw : wX1_washes_75 c x0 x1 x2 x3 x4 x5 x6 w0 KL23 K) : J E w0 b [(0, .ref (x0)), (1, .int (x1)), (2, .int (x2)), (3, .int (x3)), (4, .int (x4)), (5, va_rf (x5)), (6, .int (x6))] 75 [] := by
  unfold wX1_washes_75 at hw
  refine j_aload_n hE 0 dX1_washes_75 rfl rfl ?_
  obtain ⟨f1, h2, hw⟩ := hw
  refine j_getM hE gf_GlassStreet_state q351 h2 dX1_washes_76 ?_
  refine j_iload hE 4 dX1_washes_79 rfl ?_
  obtain ⟨a3, e9, hx⟩ := hw
  subst e9
  have hw := hx
  clear hx
  obtain ⟨h5, hw⟩ := hw
  refine jc_ip (jr_V hE hR (As := [.int (x4)]) (rest := []) ((ctX4_isWhole E.1.2.1 E.2.2.1 hc _ _ _ _ hw) E.2.2.2.1) (lw_V q1188 q1189 q1190 q127 q1191) jdX4_isWhole ⟨Nat.le_of_ble_eq_true rfl, Nat.le_of_ble_eq_true rfl⟩ ⟨Nat.zero_le _, Nat.zero_le _⟩ (gmc_gIs h5 (r := (RX4, TX4, 5)) rfl) rfl (Nat.le_of_ble_eq_true rfl) dX1_washes_81) (fun r4 hw => ?_)
  refine j_b0 ?_
  refine j_if_eq hE 98 dX1_washes_84 (by decide) (fun c6 => ?_) (fun c6 => ?_)
  · replace hw := hw.1 c6
    refine j_iinc (L' := [(4, .int (x4 + 1)), (0, .ref (x0)), (1, .int (x1)), (2, .int (x2)), (3, .int (x3)), (5, va_rf (x5)), (6, .int (x6))]) hE hn 4 dX1_washes_98 rfl (congrArg (x4 + ·) kc_1) (Nat.le_of_ble_eq_true rfl) rfl ?_
    refine j_goto hE 23 dX1_washes_101 (by decide) ?_
    refine j_sub [(0, .ref (x0)), (1, .int (x1)), (2, .int (x2)), (3, .int (x3)), (4, .int (x4 + 1))] [1, 2, 3, 4, 0] rfl ?_
    have hz := ih23 (x3, (x4 + 1)) hw
    exact hz
  · replace hw := hw.2 c6
    refine j_iload_n hE 3 dX1_washes_87 rfl rfl ?_
    refine j_aloadq hE 5 dX1_washes_88 rfl ?_
    obtain ⟨a7, e9, hx⟩ := hw
    subst e9
    have hw := hx
    clear hx
    obtain ⟨f8, h9, hw⟩ := hw
    refine j_getMN hE gf_GlassStreet_Marks_many q303 h9 dX1_washes_90 ?_
    refine j_iload hE 6 dX1_washes_93 rfl ?_
    refine j_isub hE dX1_washes_95 ?_
    refine j_iadd hE dX1_washes_96 ?_
    refine j_topi (fun v10 e_v10 => ?_)
    replace hw := hw v10 e_v10
    refine j_istore_n (L' := [(3, .int (v10)), (0, .ref (x0)), (1, .int (x1)), (2, .int (x2)), (4, .int (x4)), (5, .ref (a7)), (6, .int (x6))]) hE hn dX1_washes_97 rfl (Nat.le_of_ble_eq_true rfl) rfl ?_
    refine j_iinc (L' := [(4, .int (x4 + 1)), (3, .int (v10)), (0, .ref (x0)), (1, .int (x1)), (2, .int (x2)), (5, .ref (a7)), (6, .int (x6))]) hE hn 4 dX1_washes_98 rfl (congrArg (x4 + ·) kc_1) (Nat.le_of_ble_eq_true rfl) rfl ?_
    refine j_goto hE 23 dX1_washes_101 (by decide) ?_
    refine j_sub [(0, .ref (x0)), (1, .int (x1)), (2, .int (x2)), (3, .int (v10)), (4, .int (x4 + 1))] [2, 3, 4, 1, 0] rfl ?_
    have hz := ih23 (v10, (x4 + 1)) hw
    exact hz
def wX1_washes_47_b (c : Nat → Option Nat) (x0 : Nat) (x1 : Int32) (x2 : Int32) (x3 : Int32) (x4 : Int32) (x5 : Option Nat) (x6 : Int32) (w0 : GW) (KL47 : Int32 → Prop) (KL23 : Int32 × Int32 → Prop) (K : Int32 → Prop) : Prop :=
  ∃ a1 : Nat, x5 = some a1 ∧ (∃ f2 : Int32, gfm w0 a1 [4] 4 = some (.int f2) ∧ ((f2 ≤ x6 → (wX1_washes_75 c x0 x1 x2 x3 x4 (some a1) x6 w0 KL23 K)) ∧ (¬ f2 ≤ x6 → (gmc w0 a1 = some 4 ∧ (wX5_isOf c a1 x6 x1 x2 w0 (fun r5 => (¬ r5 = 0 → (wX1_washes_75 c x0 x1 x2 x3 x4 (some a1) x6 w0 KL23 K)) ∧ (r5 = 0 → (KL47 (x6 + 1)))))))))
def wX1_washes_47 (c : Nat → Option Nat) (x0 : Nat) (x1 : Int32) (x2 : Int32) (x3 : Int32) (x4 : Int32) (x5 : Option Nat) (x6 : Int32) (w0 : GW) (KL23 : Int32 × Int32 → Prop) (K : Int32 → Prop) : Prop := lfp (σ := Int32) (fun KL s => wX1_washes_47_b c x0 x1 x2 x3 x4 x5 s w0 KL KL23 K) x6
set_option maxRecDepth 100000 in
theorem bX1_washes_47 {E : jE} (hE : jOk E cX1_washes RX1) (hn : E.2.2.2.2 = 7) (hR : jRoom E 3 61) {c : Nat → Option Nat} (hc : E.2.2.1.2.2.2 = c) {b : Nat × Nat} {w0 : GW} {K : Int32 → Prop} (hK : jRi E .int (KPI w0 K)) {x0 : Nat} {x1 : Int32} {x2 : Int32} {x3 : Int32} {x4 : Int32} {x5 : Option Nat} {x6 : Int32} {KL23 : Int32 × Int32 → Prop} (ih23 : ∀ s : Int32 × Int32, KL23 s → J E w0 b [(0, .ref (x0)), (1, .int (x1)), (2, .int (x2)), (3, .int (s.1)), (4, .int (s.2))] 23 []) (hw : wX1_washes_47 c x0 x1 x2 x3 x4 x5 x6 w0 KL23 K) : J E w0 b [(0, .ref (x0)), (1, .int (x1)), (2, .int (x2)), (3, .int (x3)), (4, .int (x4)), (5, va_rf (x5)), (6, .int (x6))] 47 [] := by
  refine lfp_sound (σ := Int32) (F := fun KL s => wX1_washes_47_b c x0 x1 x2 x3 x4 x5 s w0 KL KL23 K) (P := fun s => J E w0 b [(0, .ref (x0)), (1, .int (x1)), (2, .int (x2)), (3, .int (x3)), (4, .int (x4)), (5, va_rf (x5)), (6, .int (s))] 47 []) ?_ hw
  clear hw
  rintro KL47 x6 hw ih47
  have hw : wX1_washes_47_b c x0 x1 x2 x3 x4 x5 x6 w0 KL47 KL23 K := hw
  unfold wX1_washes_47_b at hw
  refine j_iload hE 6 dX1_washes_47 rfl ?_
  refine j_aloadq hE 5 dX1_washes_49 rfl ?_
  obtain ⟨a1, e9, hx⟩ := hw
  subst e9
  have hw := hx
  clear hx
  obtain ⟨f2, h3, hw⟩ := hw
  refine j_getMN hE gf_GlassStreet_Marks_many q303 h3 dX1_washes_51 ?_
  refine j_icmp_ge hE 75 dX1_washes_54 (by decide) (fun c4 => ?_) (fun c4 => ?_)
  · replace hw := hw.1 c4
    have hz := bX1_washes_75 (b := b) hE hn hR hc hK ih23 hw
    exact hz
  · replace hw := hw.2 c4
    refine j_aload hE 5 dX1_washes_57 rfl ?_
    refine j_iload hE 6 dX1_washes_59 rfl ?_
    refine j_iload_n hE 1 dX1_washes_61 rfl rfl ?_
    refine j_iload_n hE 2 dX1_washes_62 rfl rfl ?_
    obtain ⟨h6, hw⟩ := hw
    refine jc_ip (jr_V hE hR (As := [.int (x6), .int (x1), .int (x2)]) (rest := []) ((ctX5_isOf E.1.2.1 E.2.2.1 hc _ _ _ _ _ _ hw) E.2.2.2.1) (lw_V q1424 q1425 q1426 q128 q1427) jdX5_isOf ⟨Nat.le_of_ble_eq_true rfl, Nat.le_of_ble_eq_true rfl⟩ ⟨Nat.zero_le _, Nat.zero_le _⟩ (gmc_gIs h6 (r := (RX5, TX5, 5)) rfl) rfl (Nat.le_of_ble_eq_true rfl) dX1_washes_63) (fun r5 hw => ?_)
    refine j_b0 ?_
    refine j_if_ne hE 75 dX1_washes_66 (by decide) (fun c7 => ?_) (fun c7 => ?_)
    · replace hw := hw.1 c7
      have hz := bX1_washes_75 (b := b) hE hn hR hc hK ih23 hw
      exact hz
    · replace hw := hw.2 c7
      refine j_iinc (L' := [(6, .int (x6 + 1)), (0, .ref (x0)), (1, .int (x1)), (2, .int (x2)), (3, .int (x3)), (4, .int (x4)), (5, .ref (a1))]) hE hn 6 dX1_washes_69 rfl (congrArg (x6 + ·) kc_1) (Nat.le_of_ble_eq_true rfl) rfl ?_
      refine j_goto hE 47 dX1_washes_72 (by decide) ?_
      refine j_sub [(0, .ref (x0)), (1, .int (x1)), (2, .int (x2)), (3, .int (x3)), (4, .int (x4)), (5, .ref (a1)), (6, .int (x6 + 1))] [1, 2, 3, 4, 5, 6, 0] rfl ?_
      have hz := ih47 (x6 + 1) hw
      exact hz
def wX1_washes_23_b (c : Nat → Option Nat) (x0 : Nat) (x1 : Int32) (x2 : Int32) (x3 : Int32) (x4 : Int32) (w0 : GW) (KL23 : Int32 × Int32 → Prop) (K : Int32 → Prop) : Prop :=
  gmc w0 x0 = some 0 ∧ (wX1_panes c x0 w0 (fun r1 => (r1 ≤ x4 → (K x3)) ∧ (¬ r1 ≤ x4 → (∃ f4 : Option Nat, gfm w0 x0 [0] 4 = some (va_rf f4) ∧ (∃ a6 : Nat, f4 = some a6 ∧ (∃ f7 : Option Nat, gfm w0 a6 [3] 1 = some (va_rf f7) ∧ (∃ a9 : Nat, f7 = some a9 ∧ (∃ (n10 : Nat) (f11 : Nat → Option Nat), gaq w0 a9 5 = some (n10, f11) ∧ vp_in x4 n10 ∧ (∀ r14 : Option Nat, f11 (x4).toNatClampNeg = r14 → (wX1_washes_47 c x0 x1 x2 x3 x4 r14 ((0 : Int32)) w0 KL23 K))))))))))
def wX1_washes_23 (c : Nat → Option Nat) (x0 : Nat) (x1 : Int32) (x2 : Int32) (x3 : Int32) (x4 : Int32) (w0 : GW) (K : Int32 → Prop) : Prop := lfp (σ := Int32 × Int32) (fun KL s => wX1_washes_23_b c x0 x1 x2 s.1 s.2 w0 KL K) (x3, x4)
set_option maxRecDepth 100000 in
theorem bX1_washes_23 {E : jE} (hE : jOk E cX1_washes RX1) (hn : E.2.2.2.2 = 7) (hR : jRoom E 3 61) {c : Nat → Option Nat} (hc : E.2.2.1.2.2.2 = c) {b : Nat × Nat} {w0 : GW} {K : Int32 → Prop} (hK : jRi E .int (KPI w0 K)) {x0 : Nat} {x1 : Int32} {x2 : Int32} {x3 : Int32} {x4 : Int32}  (hw : wX1_washes_23 c x0 x1 x2 x3 x4 w0 K) : J E w0 b [(0, .ref (x0)), (1, .int (x1)), (2, .int (x2)), (3, .int (x3)), (4, .int (x4))] 23 [] := by
  refine lfp_sound (σ := Int32 × Int32) (F := fun KL s => wX1_washes_23_b c x0 x1 x2 s.1 s.2 w0 KL K) (P := fun s => J E w0 b [(0, .ref (x0)), (1, .int (x1)), (2, .int (x2)), (3, .int (s.1)), (4, .int (s.2))] 23 []) ?_ hw
  clear hw
  rintro KL23 ⟨x3, x4⟩ hw ih23
  have hw : wX1_washes_23_b c x0 x1 x2 x3 x4 w0 KL23 K := hw
  unfold wX1_washes_23_b at hw
  refine j_iload hE 4 dX1_washes_23 rfl ?_
  refine j_aload_n hE 0 dX1_washes_25 rfl rfl ?_
  obtain ⟨h2, hw⟩ := hw
  refine jc_ip (jr_V hE hR (As := []) (rest := [.int (x4)]) ((ctX1_panes E.1.2.1 E.2.2.1 hc _ _ _ hw) E.2.2.2.1) (lw_V q1157 q1159 qs31 q121 q1160) jdX1_panes ⟨Nat.le_of_ble_eq_true rfl, Nat.le_of_ble_eq_true rfl⟩ ⟨Nat.zero_le _, Nat.zero_le _⟩ (gmc_gIs h2 (r := (RX1, TX1, 15)) rfl) rfl (Nat.le_of_ble_eq_true rfl) dX1_washes_26) (fun r1 hw => ?_)
  refine j_b0 ?_
  refine j_icmp_ge hE 104 dX1_washes_29 (by decide) (fun c3 => ?_) (fun c3 => ?_)
  · replace hw := hw.1 c3
    refine j_iload_n hE 3 dX1_washes_104 rfl rfl ?_
    exact j_iret hE hK dX1_washes_105 rfl ⟨rfl, hw⟩
  · replace hw := hw.2 c3
    refine j_aload_n hE 0 dX1_washes_32 rfl rfl ?_
    obtain ⟨f4, h5, hw⟩ := hw
    refine j_getM hE gf_GlassStreet_state q351 h5 dX1_washes_33 ?_
    obtain ⟨a6, e9, hx⟩ := hw
    subst e9
    have hw := hx
    clear hx
    obtain ⟨f7, h8, hw⟩ := hw
    refine j_getMN hE gf_GlassStreet_State_marks q320 h8 dX1_washes_36 ?_
    refine j_iload hE 4 dX1_washes_39 rfl ?_
    obtain ⟨a9, e9, hx⟩ := hw
    subst e9
    have hw := hx
    clear hx
    obtain ⟨n10, f11, h12, h13, hw⟩ := hw
    obtain ⟨r14, e_r14⟩ : ∃ r9, f11 (x4).toNatClampNeg = r9 := ⟨_, rfl⟩
    replace hw := hw r14 e_r14
    refine j_aldQ hE (t := 5) ⟨by decide, by decide⟩ h12 h13 e_r14 dX1_washes_41 ?_
    refine j_astoreq (L' := [(5, va_rf (r14)), (0, .ref (x0)), (1, .int (x1)), (2, .int (x2)), (3, .int (x3)), (4, .int (x4))]) hE hn dX1_washes_42 (Nat.le_of_ble_eq_true rfl) rfl ?_
    refine j_iconst hE dX1_washes_44 kc_0 ?_
    refine j_istore (L' := [(6, .int ((0 : Int32))), (5, va_rf (r14)), (0, .ref (x0)), (1, .int (x1)), (2, .int (x2)), (3, .int (x3)), (4, .int (x4))]) hE hn dX1_washes_45 (Nat.le_of_ble_eq_true rfl) (by cases r14 <;> rfl) ?_
    refine j_sub [(0, .ref (x0)), (1, .int (x1)), (2, .int (x2)), (3, .int (x3)), (4, .int (x4)), (5, va_rf (r14)), (6, .int ((0 : Int32)))] [2, 3, 4, 5, 6, 1, 0] rfl ?_
    have hz := bX1_washes_47 (b := b) hE hn hR hc hK ih23 hw
    exact hz
def wX1_washes_0 (c : Nat → Option Nat) (x0 : Nat) (x1 : Int32) (x2 : Int32) (w0 : GW) (K : Int32 → Prop) : Prop :=
  gmc w0 x0 = some 0 ∧ (wX1_isPerson c x0 x1 w0 (fun r1 => (r1 = 0 → (K ((-1 : Int32)))) ∧ (¬ r1 = 0 → (gmc w0 x0 = some 0 ∧ (wX1_isDeed c x0 x2 w0 (fun r4 => (¬ r4 = 0 → (wX1_washes_23 c x0 x1 x2 ((0 : Int32)) ((0 : Int32)) w0 K)) ∧ (r4 = 0 → (K ((-1 : Int32))))))))))
set_option maxRecDepth 100000 in
theorem bX1_washes_0 {E : jE} (hE : jOk E cX1_washes RX1) (hn : E.2.2.2.2 = 7) (hR : jRoom E 3 61) {c : Nat → Option Nat} (hc : E.2.2.1.2.2.2 = c) {b : Nat × Nat} {w0 : GW} {K : Int32 → Prop} (hK : jRi E .int (KPI w0 K)) {x0 : Nat} {x1 : Int32} {x2 : Int32}  (hw : wX1_washes_0 c x0 x1 x2 w0 K) : J E w0 b [(0, .ref (x0)), (1, .int (x1)), (2, .int (x2))] 0 [] := by
  unfold wX1_washes_0 at hw
  refine j_aload_n hE 0 dX1_washes_0 rfl rfl ?_
  refine j_iload_n hE 1 dX1_washes_1 rfl rfl ?_
  obtain ⟨h2, hw⟩ := hw
  refine jc_ip (jr_V hE hR (As := [.int (x1)]) (rest := []) ((ctX1_isPerson E.1.2.1 E.2.2.1 hc _ _ _ _ hw) E.2.2.2.1) (lw_V q1238 q1240 qs35 q121 q1241) jdX1_isPerson ⟨Nat.le_of_ble_eq_true rfl, Nat.le_of_ble_eq_true rfl⟩ ⟨Nat.zero_le _, Nat.zero_le _⟩ (gmc_gIs h2 (r := (RX1, TX1, 15)) rfl) rfl (Nat.le_of_ble_eq_true rfl) dX1_washes_2) (fun r1 hw => ?_)
  refine j_b0 ?_
  refine j_if_eq hE 16 dX1_washes_5 (by decide) (fun c3 => ?_) (fun c3 => ?_)
  · replace hw := hw.1 c3
    refine j_iconst hE dX1_washes_16 kc_m1 ?_
    exact j_iret hE hK dX1_washes_17 rfl ⟨rfl, hw⟩
  · replace hw := hw.2 c3
    refine j_aload_n hE 0 dX1_washes_8 rfl rfl ?_
    refine j_iload_n hE 2 dX1_washes_9 rfl rfl ?_
    obtain ⟨h5, hw⟩ := hw
    refine jc_ip (jr_V hE hR (As := [.int (x2)]) (rest := []) ((ctX1_isDeed E.1.2.1 E.2.2.1 hc _ _ _ _ hw) E.2.2.2.1) (lw_V q1270 q1272 qs38 q121 q1273) jdX1_isDeed ⟨Nat.le_of_ble_eq_true rfl, Nat.le_of_ble_eq_true rfl⟩ ⟨Nat.zero_le _, Nat.zero_le _⟩ (gmc_gIs h5 (r := (RX1, TX1, 15)) rfl) rfl (Nat.le_of_ble_eq_true rfl) dX1_washes_10) (fun r4 hw => ?_)
    refine j_b0 ?_
    refine j_if_ne hE 18 dX1_washes_13 (by decide) (fun c6 => ?_) (fun c6 => ?_)
    · replace hw := hw.1 c6
      refine j_iconst hE dX1_washes_18 kc_0 ?_
      refine j_istore_n (L' := [(3, .int ((0 : Int32))), (0, .ref (x0)), (1, .int (x1)), (2, .int (x2))]) hE hn dX1_washes_19 rfl (Nat.le_of_ble_eq_true rfl) rfl ?_
      refine j_iconst hE dX1_washes_20 kc_0 ?_
      refine j_istore (L' := [(4, .int ((0 : Int32))), (3, .int ((0 : Int32))), (0, .ref (x0)), (1, .int (x1)), (2, .int (x2))]) hE hn dX1_washes_21 (Nat.le_of_ble_eq_true rfl) rfl ?_
      refine j_sub [(0, .ref (x0)), (1, .int (x1)), (2, .int (x2)), (3, .int ((0 : Int32))), (4, .int ((0 : Int32)))] [2, 3, 4, 1, 0] rfl ?_
      have hz := bX1_washes_23 (b := b) hE hn hR hc hK  hw
      exact hz
    · replace hw := hw.2 c6
      refine j_iconst hE dX1_washes_16 kc_m1 ?_
      exact j_iret hE hK dX1_washes_17 rfl ⟨rfl, hw⟩
theorem jdX1_washes : jD yX1_washes 2 := by decide +kernel
abbrev wX1_washes := wX1_washes_0
theorem ctX1_washes (l : Launch) (G : gG) {c : Nat → Option Nat} (hc : G.2.2.2 = c) (x0 : Nat) (x1 : Int32) (x2 : Int32) (w0 : GW) (K : Int32 → Prop) (hw : wX1_washes_0 c x0 x1 x2 w0 K) {F2 L2 : Nat} (h2 : 3 ≤ F2 ∧ 61 ≤ L2 := by exact ⟨Nat.le_refl _, Nat.le_refl _⟩) : CtI l yX1_washes cX1_washes 7 .int ({ frames := F2, cells := 0, slots := 0, locals := L2 }) G [.ref (x0), .int (x1), .int (x2)] w0 (KPI w0 K) :=
  CtI.of RX1 plainc_X1 rfl (Nat.le_of_ble_eq_true rfl) (fun E hE hl hG hn hR hK => bX1_washes_0 hE hn (hR.le h2.1 h2.2) (by rw [hG]; exact hc) hK hw)
def wX1_dark_17_b (c : Nat → Option Nat) (x0 : Nat) (x1 : Int32) (x2 : Int32) (x3 : Int32) (w0 : GW) (KL17 : Int32 × Int32 → Prop) (K : Int32 → Prop) : Prop :=
  ((nI 10) ≤ x3 → (K x2)) ∧ (¬ (nI 10) ≤ x3 → (wX1_isIn c x1 x3 w0 (fun r2 => (¬ r2 = 0 → (∃ f4 : Option Nat, gfm w0 x0 [0] 4 = some (va_rf f4) ∧ (∃ a6 : Nat, f4 = some a6 ∧ (gmc w0 x0 = some 0 ∧ (wX1_seeing c x0 a6 x3 w0 (fun r7 => wJ17_bitCount c r7 w0 (fun r9 => (x2 < 0 → (KL17 (r7, (x3 + 1)))) ∧ (¬ x2 < 0 → (wJ17_bitCount c x2 w0 (fun r11 => (r9 < r11 → (KL17 (r7, (x3 + 1)))) ∧ (¬ r9 < r11 → (wJ17_bitCount c x2 w0 (fun r13 => (¬ r9 = r13 → (KL17 (x2, (x3 + 1)))) ∧ (r9 = r13 → ((x2 ≤ r7 → (KL17 (x2, (x3 + 1)))) ∧ (¬ x2 ≤ r7 → (KL17 (r7, (x3 + 1))))))))))))))))))) ∧ (r2 = 0 → (KL17 (x2, (x3 + 1)))))))
def wX1_dark_17 (c : Nat → Option Nat) (x0 : Nat) (x1 : Int32) (x2 : Int32) (x3 : Int32) (w0 : GW) (K : Int32 → Prop) : Prop := lfp (σ := Int32 × Int32) (fun KL s => wX1_dark_17_b c x0 x1 s.1 s.2 w0 KL K) (x2, x3)
set_option maxRecDepth 100000 in
theorem bX1_dark_17 {E : jE} (hE : jOk E cX1_dark RX1) (hn : E.2.2.2.2 = 6) (hR : jRoom E 6 131) {c : Nat → Option Nat} (hc : E.2.2.1.2.2.2 = c) {b : Nat × Nat} {w0 : GW} {K : Int32 → Prop} (hK : jRi E .int (KPI w0 K)) {x0 : Nat} {x1 : Int32} {x2 : Int32} {x3 : Int32}  (hw : wX1_dark_17 c x0 x1 x2 x3 w0 K) : J E w0 b [(0, .ref (x0)), (1, .int (x1)), (2, .int (x2)), (3, .int (x3))] 17 [] := by
  refine lfp_sound (σ := Int32 × Int32) (F := fun KL s => wX1_dark_17_b c x0 x1 s.1 s.2 w0 KL K) (P := fun s => J E w0 b [(0, .ref (x0)), (1, .int (x1)), (2, .int (s.1)), (3, .int (s.2))] 17 []) ?_ hw
  clear hw
  rintro KL17 ⟨x2, x3⟩ hw ih17
  have hw : wX1_dark_17_b c x0 x1 x2 x3 w0 KL17 K := hw
  unfold wX1_dark_17_b at hw
  refine j_iload_n hE 3 dX1_dark_17 rfl rfl ?_
  refine j_bipush hE dX1_dark_18 kb_10 ?_
  refine j_icmp_ge hE 89 dX1_dark_20 (by decide) (fun c1 => ?_) (fun c1 => ?_)
  · replace hw := hw.1 c1
    refine j_iload_n hE 2 dX1_dark_89 rfl rfl ?_
    exact j_iret hE hK dX1_dark_90 rfl ⟨rfl, hw⟩
  · replace hw := hw.2 c1
    refine j_iload_n hE 1 dX1_dark_23 rfl rfl ?_
    refine j_iload_n hE 3 dX1_dark_24 rfl rfl ?_
    refine jc_ip (jr_S hE hR (As := [.int (x1), .int (x3)]) (rest := []) ((ctX1_isIn E.1.2.1 E.2.2.1 hc _ _ _ _ hw) E.2.2.2.1) (lw_S q1183 q922 q121 q923) jdX1_isIn ⟨Nat.le_of_ble_eq_true rfl, Nat.le_of_ble_eq_true rfl⟩ ⟨Nat.zero_le _, Nat.zero_le _⟩  rfl (Nat.le_of_ble_eq_true rfl) dX1_dark_25) (fun r2 hw => ?_)
    refine j_b0 ?_
    refine j_if_ne hE 34 dX1_dark_28 (by decide) (fun c3 => ?_) (fun c3 => ?_)
    · replace hw := hw.1 c3
      refine j_aload_n hE 0 dX1_dark_34 rfl rfl ?_
      refine j_aload_n hE 0 dX1_dark_35 rfl rfl ?_
      obtain ⟨f4, h5, hw⟩ := hw
      refine j_getM hE gf_GlassStreet_state q351 h5 dX1_dark_36 ?_
      refine j_iload_n hE 3 dX1_dark_39 rfl rfl ?_
      obtain ⟨a6, e9, hx⟩ := hw
      subst e9
      have hw := hx
      clear hx
      obtain ⟨h8, hw⟩ := hw
      refine jc_ip (jr_V hE hR (As := [.ref (a6), .int (x3)]) (rest := []) ((ctX1_seeing E.1.2.1 E.2.2.1 hc _ _ _ _ _ hw) E.2.2.2.1) (lw_V q1282 q1284 qs41 q121 q1285) jdX1_seeing ⟨Nat.le_of_ble_eq_true rfl, Nat.le_of_ble_eq_true rfl⟩ ⟨Nat.zero_le _, Nat.zero_le _⟩ (gmc_gIs h8 (r := (RX1, TX1, 15)) rfl) rfl (Nat.le_of_ble_eq_true rfl) dX1_dark_40) (fun r7 hw => ?_)
      refine j_b0 ?_
      refine j_istore (L' := [(4, .int (r7)), (0, .ref (x0)), (1, .int (x1)), (2, .int (x2)), (3, .int (x3))]) hE hn dX1_dark_43 (Nat.le_of_ble_eq_true rfl) rfl ?_
      refine j_iload hE 0 dX1_dark_45 rfl ?_
      refine jc_ip (jr_S hE hR (As := [.int (r7)]) (rest := []) ((ctJ17_bitCount E.1.2.1 E.2.2.1 hc _ _ _ hw) E.2.2.2.1) (lw_S q1414 q1415 q161 q1416) jdJ17_bitCount ⟨Nat.le_of_ble_eq_true rfl, Nat.le_of_ble_eq_true rfl⟩ ⟨Nat.zero_le _, Nat.zero_le _⟩  rfl (Nat.le_of_ble_eq_true rfl) dX1_dark_47) (fun r9 hw => ?_)
      refine j_b0 ?_
      refine j_istore (L' := [(5, .int (r9)), (4, .int (r7)), (0, .ref (x0)), (1, .int (x1)), (2, .int (x2)), (3, .int (x3))]) hE hn dX1_dark_50 (Nat.le_of_ble_eq_true rfl) rfl ?_
      refine j_iload_n hE 4 dX1_dark_52 rfl rfl ?_
      refine j_if_lt hE 80 dX1_dark_53 (by decide) (fun c10 => ?_) (fun c10 => ?_)
      · replace hw := hw.1 c10
        refine j_iload hE 1 dX1_dark_80 rfl ?_
        refine j_istore_n (L' := [(2, .int (r7)), (5, .int (r9)), (4, .int (r7)), (0, .ref (x0)), (1, .int (x1)), (3, .int (x3))]) hE hn dX1_dark_82 rfl (Nat.le_of_ble_eq_true rfl) rfl ?_
        refine j_iinc (L' := [(3, .int (x3 + 1)), (2, .int (r7)), (5, .int (r9)), (4, .int (r7)), (0, .ref (x0)), (1, .int (x1))]) hE hn 5 dX1_dark_83 rfl (congrArg (x3 + ·) kc_1) (Nat.le_of_ble_eq_true rfl) rfl ?_
        refine j_goto hE 17 dX1_dark_86 (by decide) ?_
        refine j_sub [(0, .ref (x0)), (1, .int (x1)), (2, .int (r7)), (3, .int (x3 + 1))] [4, 5, 1, 0] rfl ?_
        have hz := ih17 (r7, (x3 + 1)) hw
        exact hz
      · replace hw := hw.2 c10
        refine j_iload hE 0 dX1_dark_56 rfl ?_
        refine j_iload_n hE 4 dX1_dark_58 rfl rfl ?_
        refine jc_ip (jr_S hE hR (As := [.int (x2)]) (rest := [.int (r9)]) ((ctJ17_bitCount E.1.2.1 E.2.2.1 hc _ _ _ hw) E.2.2.2.1) (lw_S q1414 q1415 q161 q1416) jdJ17_bitCount ⟨Nat.le_of_ble_eq_true rfl, Nat.le_of_ble_eq_true rfl⟩ ⟨Nat.zero_le _, Nat.zero_le _⟩  rfl (Nat.le_of_ble_eq_true rfl) dX1_dark_59) (fun r11 hw => ?_)
        refine j_b0 ?_
        refine j_icmp_lt hE 80 dX1_dark_62 (by decide) (fun c12 => ?_) (fun c12 => ?_)
        · replace hw := hw.1 c12
          refine j_iload hE 1 dX1_dark_80 rfl ?_
          refine j_istore_n (L' := [(2, .int (r7)), (5, .int (r9)), (4, .int (r7)), (0, .ref (x0)), (1, .int (x1)), (3, .int (x3))]) hE hn dX1_dark_82 rfl (Nat.le_of_ble_eq_true rfl) rfl ?_
          refine j_iinc (L' := [(3, .int (x3 + 1)), (2, .int (r7)), (5, .int (r9)), (4, .int (r7)), (0, .ref (x0)), (1, .int (x1))]) hE hn 5 dX1_dark_83 rfl (congrArg (x3 + ·) kc_1) (Nat.le_of_ble_eq_true rfl) rfl ?_
          refine j_goto hE 17 dX1_dark_86 (by decide) ?_
          refine j_sub [(0, .ref (x0)), (1, .int (x1)), (2, .int (r7)), (3, .int (x3 + 1))] [4, 5, 1, 0] rfl ?_
          have hz := ih17 (r7, (x3 + 1)) hw
          exact hz
        · replace hw := hw.2 c12
          refine j_iload hE 0 dX1_dark_65 rfl ?_
          refine j_iload_n hE 4 dX1_dark_67 rfl rfl ?_
          refine jc_ip (jr_S hE hR (As := [.int (x2)]) (rest := [.int (r9)]) ((ctJ17_bitCount E.1.2.1 E.2.2.1 hc _ _ _ hw) E.2.2.2.1) (lw_S q1414 q1415 q161 q1416) jdJ17_bitCount ⟨Nat.le_of_ble_eq_true rfl, Nat.le_of_ble_eq_true rfl⟩ ⟨Nat.zero_le _, Nat.zero_le _⟩  rfl (Nat.le_of_ble_eq_true rfl) dX1_dark_68) (fun r13 hw => ?_)
          refine j_b0 ?_
          refine j_icmp_ne hE 83 dX1_dark_71 (by decide) (fun c14 => ?_) (fun c14 => ?_)
          · replace hw := hw.1 c14
            refine j_iinc (L' := [(3, .int (x3 + 1)), (5, .int (r9)), (4, .int (r7)), (0, .ref (x0)), (1, .int (x1)), (2, .int (x2))]) hE hn 5 dX1_dark_83 rfl (congrArg (x3 + ·) kc_1) (Nat.le_of_ble_eq_true rfl) rfl ?_
            refine j_goto hE 17 dX1_dark_86 (by decide) ?_
            refine j_sub [(0, .ref (x0)), (1, .int (x1)), (2, .int (x2)), (3, .int (x3 + 1))] [3, 4, 5, 0] rfl ?_
            have hz := ih17 (x2, (x3 + 1)) hw
            exact hz
          · replace hw := hw.2 c14
            refine j_iload hE 1 dX1_dark_74 rfl ?_
            refine j_iload_n hE 4 dX1_dark_76 rfl rfl ?_
            refine j_icmp_ge hE 83 dX1_dark_77 (by decide) (fun c15 => ?_) (fun c15 => ?_)
            · replace hw := hw.1 c15
              refine j_iinc (L' := [(3, .int (x3 + 1)), (5, .int (r9)), (4, .int (r7)), (0, .ref (x0)), (1, .int (x1)), (2, .int (x2))]) hE hn 5 dX1_dark_83 rfl (congrArg (x3 + ·) kc_1) (Nat.le_of_ble_eq_true rfl) rfl ?_
              refine j_goto hE 17 dX1_dark_86 (by decide) ?_
              refine j_sub [(0, .ref (x0)), (1, .int (x1)), (2, .int (x2)), (3, .int (x3 + 1))] [3, 4, 5, 0] rfl ?_
              have hz := ih17 (x2, (x3 + 1)) hw
              exact hz
            · replace hw := hw.2 c15
              refine j_iload hE 1 dX1_dark_80 rfl ?_
              refine j_istore_n (L' := [(2, .int (r7)), (5, .int (r9)), (4, .int (r7)), (0, .ref (x0)), (1, .int (x1)), (3, .int (x3))]) hE hn dX1_dark_82 rfl (Nat.le_of_ble_eq_true rfl) rfl ?_
              refine j_iinc (L' := [(3, .int (x3 + 1)), (2, .int (r7)), (5, .int (r9)), (4, .int (r7)), (0, .ref (x0)), (1, .int (x1))]) hE hn 5 dX1_dark_83 rfl (congrArg (x3 + ·) kc_1) (Nat.le_of_ble_eq_true rfl) rfl ?_
              refine j_goto hE 17 dX1_dark_86 (by decide) ?_
              refine j_sub [(0, .ref (x0)), (1, .int (x1)), (2, .int (r7)), (3, .int (x3 + 1))] [4, 5, 1, 0] rfl ?_
              have hz := ih17 (r7, (x3 + 1)) hw
              exact hz
    · replace hw := hw.2 c3
      refine j_goto hE 83 dX1_dark_31 (by decide) ?_
      refine j_iinc (L' := [(3, .int (x3 + 1)), (0, .ref (x0)), (1, .int (x1)), (2, .int (x2))]) hE hn 3 dX1_dark_83 rfl (congrArg (x3 + ·) kc_1) (Nat.le_of_ble_eq_true rfl) rfl ?_
      refine j_goto hE 17 dX1_dark_86 (by decide) ?_
      refine j_sub [(0, .ref (x0)), (1, .int (x1)), (2, .int (x2)), (3, .int (x3 + 1))] [1, 2, 3, 0] rfl ?_
      have hz := ih17 (x2, (x3 + 1)) hw
      exact hz
def wX1_dark_0 (c : Nat → Option Nat) (x0 : Nat) (x1 : Int32) (w0 : GW) (K : Int32 → Prop) : Prop :=
  wX1_in c x1 ((1 : Int32)) (nI 1023) w0 (fun r1 => (¬ r1 = 0 → (wX1_dark_17 c x0 x1 ((-1 : Int32)) ((0 : Int32)) w0 K)) ∧ (r1 = 0 → (K ((-1 : Int32)))))
set_option maxRecDepth 100000 in
theorem bX1_dark_0 {E : jE} (hE : jOk E cX1_dark RX1) (hn : E.2.2.2.2 = 6) (hR : jRoom E 6 131) {c : Nat → Option Nat} (hc : E.2.2.1.2.2.2 = c) {b : Nat × Nat} {w0 : GW} {K : Int32 → Prop} (hK : jRi E .int (KPI w0 K)) {x0 : Nat} {x1 : Int32}  (hw : wX1_dark_0 c x0 x1 w0 K) : J E w0 b [(0, .ref (x0)), (1, .int (x1))] 0 [] := by
  unfold wX1_dark_0 at hw
  refine j_iload_n hE 1 dX1_dark_0 rfl rfl ?_
  refine j_iconst hE dX1_dark_1 kc_1 ?_
  refine j_sipush hE dX1_dark_2 ks_1023 ?_
  refine jc_ip (jr_S hE hR (As := [.int (x1), .int ((1 : Int32)), .int (nI 1023)]) (rest := []) ((ctX1_in E.1.2.1 E.2.2.1 hc _ _ _ _ _ hw) E.2.2.2.1) (lw_S q1162 q919 q121 q920) jdX1_in ⟨Nat.le_of_ble_eq_true rfl, Nat.le_of_ble_eq_true rfl⟩ ⟨Nat.zero_le _, Nat.zero_le _⟩  rfl (Nat.le_of_ble_eq_true rfl) dX1_dark_5) (fun r1 hw => ?_)
  refine j_b0 ?_
  refine j_if_ne hE 13 dX1_dark_8 (by decide) (fun c2 => ?_) (fun c2 => ?_)
  · replace hw := hw.1 c2
    refine j_iconst hE dX1_dark_13 kc_m1 ?_
    refine j_istore_n (L' := [(2, .int ((-1 : Int32))), (0, .ref (x0)), (1, .int (x1))]) hE hn dX1_dark_14 rfl (Nat.le_of_ble_eq_true rfl) rfl ?_
    refine j_iconst hE dX1_dark_15 kc_0 ?_
    refine j_istore_n (L' := [(3, .int ((0 : Int32))), (2, .int ((-1 : Int32))), (0, .ref (x0)), (1, .int (x1))]) hE hn dX1_dark_16 rfl (Nat.le_of_ble_eq_true rfl) rfl ?_
    refine j_sub [(0, .ref (x0)), (1, .int (x1)), (2, .int ((-1 : Int32))), (3, .int ((0 : Int32)))] [2, 3, 1, 0] rfl ?_
    have hz := bX1_dark_17 (b := b) hE hn hR hc hK  hw
    exact hz
  · replace hw := hw.2 c2
    refine j_iconst hE dX1_dark_11 kc_m1 ?_
    exact j_iret hE hK dX1_dark_12 rfl ⟨rfl, hw⟩
theorem jdX1_dark : jD yX1_dark 1 := by decide +kernel
abbrev wX1_dark := wX1_dark_0
theorem ctX1_dark (l : Launch) (G : gG) {c : Nat → Option Nat} (hc : G.2.2.2 = c) (x0 : Nat) (x1 : Int32) (w0 : GW) (K : Int32 → Prop) (hw : wX1_dark_0 c x0 x1 w0 K) {F2 L2 : Nat} (h2 : 6 ≤ F2 ∧ 131 ≤ L2 := by exact ⟨Nat.le_refl _, Nat.le_refl _⟩) : CtI l yX1_dark cX1_dark 6 .int ({ frames := F2, cells := 0, slots := 0, locals := L2 }) G [.ref (x0), .int (x1)] w0 (KPI w0 K) :=
  CtI.of RX1 plainc_X1 rfl (Nat.le_of_ble_eq_true rfl) (fun E hE hl hG hn hR hK => bX1_dark_0 hE hn (hR.le h2.1 h2.2) (by rw [hG]; exact hc) hK hw)
def wX1_say_0 (c : Nat → Option Nat) (x0 : Nat) (x1 : Int32) (x2 : Int32) (w : GW) (K : Int32 → GW → Prop) : Prop :=
  gmc w x0 = some 0 ∧ (wX1_isPane c x0 x1 w (fun r1 => (¬ r1 = 0 → (∃ f4 : Option Nat, gfm w x0 [0] 10 = some (va_rf f4) ∧ ((x2 = 0 → (∃ a7 : Nat, f4 = some a7 ∧ (∃ (n8 : Nat) (f9 : Nat → Int32), w a7 = some (true, .inl (0, n8, .inl f9)) ∧ vp_in x1 n8 ∧ (∀ w12 : GW, w12 = gup w a7 (.inl (0, n8, .inl (upd f9 (x1).toNatClampNeg ((0 : Int32))))) → (K ((1 : Int32)) w12))))) ∧ (¬ x2 = 0 → (∃ a13 : Nat, f4 = some a13 ∧ (∃ (n14 : Nat) (f15 : Nat → Int32), w a13 = some (true, .inl (0, n14, .inl f15)) ∧ vp_in x1 n14 ∧ (∀ w18 : GW, w18 = gup w a13 (.inl (0, n14, .inl (upd f15 (x1).toNatClampNeg ((1 : Int32))))) → (K ((1 : Int32)) w18)))))))) ∧ (r1 = 0 → (K ((0 : Int32)) w))))
set_option maxRecDepth 100000 in
theorem bX1_say_0 {E : jE} (hE : jOk E cX1_say RX1) (hn : E.2.2.2.2 = 3) (hR : jRoom E 3 61) {c : Nat → Option Nat} (hc : E.2.2.1.2.2.2 = c) {b : Nat × Nat} {K : Int32 → GW → Prop} (hK : jRi E .boolean (K)) {x0 : Nat} {x1 : Int32} {x2 : Int32} {w : GW}  (hw : wX1_say_0 c x0 x1 x2 w K) : J E w b [(0, .ref (x0)), (1, .int (x1)), (2, .int (x2))] 0 [] := by
  unfold wX1_say_0 at hw
  refine j_aload_n hE 0 dX1_say_0 rfl rfl ?_
  refine j_iload_n hE 1 dX1_say_1 rfl rfl ?_
  obtain ⟨h2, hw⟩ := hw
  refine jc_ip (jr_V hE hR (As := [.int (x1)]) (rest := []) ((ctX1_isPane E.1.2.1 E.2.2.1 hc _ _ _ _ hw) E.2.2.2.1) (lw_V q1153 q1155 qs30 q121 q1156) jdX1_isPane ⟨Nat.le_of_ble_eq_true rfl, Nat.le_of_ble_eq_true rfl⟩ ⟨Nat.zero_le _, Nat.zero_le _⟩ (gmc_gIs h2 (r := (RX1, TX1, 15)) rfl) rfl (Nat.le_of_ble_eq_true rfl) dX1_say_2) (fun r1 hw => ?_)
  refine j_b0 ?_
  refine j_if_ne hE 10 dX1_say_5 (by decide) (fun c3 => ?_) (fun c3 => ?_)
  · replace hw := hw.1 c3
    refine j_aload_n hE 0 dX1_say_10 rfl rfl ?_
    obtain ⟨f4, h5, hw⟩ := hw
    refine j_getM hE gf_GlassStreet_said q357 h5 dX1_say_11 ?_
    refine j_iload_n hE 1 dX1_say_14 rfl rfl ?_
    refine j_iload_n hE 2 dX1_say_15 rfl rfl ?_
    refine j_if_eq hE 23 dX1_say_16 (by decide) (fun c6 => ?_) (fun c6 => ?_)
    · replace hw := hw.1 c6
      refine j_iconst hE dX1_say_23 kc_0 ?_
      obtain ⟨a7, e9, hx⟩ := hw
      subst e9
      have hw := hx
      clear hx
      obtain ⟨n8, f9, h10, h11, hw⟩ := hw
      refine j_iast hE h10 h11 dX1_say_24 ?_
      refine j_nw (fun w12 e_w12 => ?_)
      replace hw := hw w12 e_w12
      refine j_iconst hE dX1_say_25 kc_1 ?_
      exact j_iret hE hK dX1_say_26 rfl hw
    · replace hw := hw.2 c6
      refine j_iconst hE dX1_say_19 kc_1 ?_
      refine j_goto hE 24 dX1_say_20 (by decide) ?_
      obtain ⟨a13, e9, hx⟩ := hw
      subst e9
      have hw := hx
      clear hx
      obtain ⟨n14, f15, h16, h17, hw⟩ := hw
      refine j_iast hE h16 h17 dX1_say_24 ?_
      refine j_nw (fun w18 e_w18 => ?_)
      replace hw := hw w18 e_w18
      refine j_iconst hE dX1_say_25 kc_1 ?_
      exact j_iret hE hK dX1_say_26 rfl hw
  · replace hw := hw.2 c3
    refine j_iconst hE dX1_say_8 kc_0 ?_
    exact j_iret hE hK dX1_say_9 rfl hw
theorem jdX1_say : jD yX1_say 2 := by decide +kernel
abbrev wX1_say := wX1_say_0
theorem ctX1_say (l : Launch) (G : gG) {c : Nat → Option Nat} (hc : G.2.2.2 = c) (x0 : Nat) (x1 : Int32) (x2 : Int32) (w : GW) (K : Int32 → GW → Prop) (hw : wX1_say_0 c x0 x1 x2 w K) {F2 L2 : Nat} (h2 : 3 ≤ F2 ∧ 61 ≤ L2 := by exact ⟨Nat.le_refl _, Nat.le_refl _⟩) : CtI l yX1_say cX1_say 3 .boolean ({ frames := F2, cells := 0, slots := 0, locals := L2 }) G [.ref (x0), .int (x1), .int (x2)] w (K) :=
  CtI.of RX1 plainc_X1 rfl (Nat.le_of_ble_eq_true rfl) (fun E hE hl hG hn hR hK => bX1_say_0 hE hn (hR.le h2.1 h2.2) (by rw [hG]; exact hc) hK hw)
def wX1_where_83 (c : Nat → Option Nat) (x0 : Nat) (x1 : Int32) (x2 : Int32) (x3 : Int32) (w0 : GW) (KL4 : Int32 × Int32 → Prop) (K : Int32 → Prop) : Prop :=
  (x3 = 0 → (KL4 (x1, (x2 + 1)))) ∧ (¬ x3 = 0 → (∀ v2 : Int32, v2 = x1 ||| (ishl ((1 : Int32)) x2) → (KL4 (v2, (x2 + 1)))))
set_option maxRecDepth 100000 in
theorem bX1_where_83 {E : jE} (hE : jOk E cX1_where RX1) (hn : E.2.2.2.2 = 5) (hR : jRoom E 5 107) {c : Nat → Option Nat} (hc : E.2.2.1.2.2.2 = c) {b : Nat × Nat} {w0 : GW} {K : Int32 → Prop} (hK : jRi E .int (KPI w0 K)) {x0 : Nat} {x1 : Int32} {x2 : Int32} {x3 : Int32} {KL4 : Int32 × Int32 → Prop} (ih4 : ∀ s : Int32 × Int32, KL4 s → J E w0 b [(0, .ref (x0)), (1, .int (s.1)), (2, .int (s.2))] 4 []) (hw : wX1_where_83 c x0 x1 x2 x3 w0 KL4 K) : J E w0 b [(0, .ref (x0)), (1, .int (x1)), (2, .int (x2)), (3, .int (x3))] 83 [] := by
  unfold wX1_where_83 at hw
  refine j_iload_n hE 3 dX1_where_83 rfl rfl ?_
  refine j_if_eq hE 93 dX1_where_84 (by decide) (fun c1 => ?_) (fun c1 => ?_)
  · replace hw := hw.1 c1
    refine j_iinc (L' := [(2, .int (x2 + 1)), (0, .ref (x0)), (1, .int (x1)), (3, .int (x3))]) hE hn 2 dX1_where_93 rfl (congrArg (x2 + ·) kc_1) (Nat.le_of_ble_eq_true rfl) rfl ?_
    refine j_goto hE 4 dX1_where_96 (by decide) ?_
    refine j_sub [(0, .ref (x0)), (1, .int (x1)), (2, .int (x2 + 1))] [1, 2, 0] rfl ?_
    have hz := ih4 (x1, (x2 + 1)) hw
    exact hz
  · replace hw := hw.2 c1
    refine j_iload_n hE 1 dX1_where_87 rfl rfl ?_
    refine j_iconst hE dX1_where_88 kc_1 ?_
    refine j_iload_n hE 2 dX1_where_89 rfl rfl ?_
    refine j_ishl hE dX1_where_90 ?_
    refine j_ior hE dX1_where_91 ?_
    refine j_topi (fun v2 e_v2 => ?_)
    replace hw := hw v2 e_v2
    refine j_istore_n (L' := [(1, .int (v2)), (0, .ref (x0)), (2, .int (x2)), (3, .int (x3))]) hE hn dX1_where_92 rfl (Nat.le_of_ble_eq_true rfl) rfl ?_
    refine j_iinc (L' := [(2, .int (x2 + 1)), (1, .int (v2)), (0, .ref (x0)), (3, .int (x3))]) hE hn 2 dX1_where_93 rfl (congrArg (x2 + ·) kc_1) (Nat.le_of_ble_eq_true rfl) rfl ?_
    refine j_goto hE 4 dX1_where_96 (by decide) ?_
    refine j_sub [(0, .ref (x0)), (1, .int (v2)), (2, .int (x2 + 1))] [2, 1, 0] rfl ?_
    have hz := ih4 (v2, (x2 + 1)) hw
    exact hz
def wX1_where_54 (c : Nat → Option Nat) (x0 : Nat) (x1 : Int32) (x2 : Int32) (x4 : Int32) (s0 : Int32) (w0 : GW) (KL4 : Int32 × Int32 → Prop) (KL15 : Int32 × Int32 → Prop) (K : Int32 → Prop) : Prop :=
  ∃ f1 : Option Nat, gfm w0 x0 [0] 4 = some (va_rf f1) ∧ (∃ a3 : Nat, f1 = some a3 ∧ (gmc w0 x0 = some 0 ∧ (wX1_sees c x0 a3 x4 w0 (fun r4 => wX1_isIn c r4 x2 w0 (fun r6 => (¬ s0 = r6 → (KL15 (((0 : Int32)), (x4 + 1)))) ∧ (s0 = r6 → (KL15 (((1 : Int32)), (x4 + 1)))))))))
set_option maxRecDepth 100000 in
theorem bX1_where_54 {E : jE} (hE : jOk E cX1_where RX1) (hn : E.2.2.2.2 = 5) (hR : jRoom E 5 107) {c : Nat → Option Nat} (hc : E.2.2.1.2.2.2 = c) {b : Nat × Nat} {w0 : GW} {K : Int32 → Prop} (hK : jRi E .int (KPI w0 K)) {x0 : Nat} {x1 : Int32} {x2 : Int32} {x4 : Int32} {s0 : Int32} {KL4 : Int32 × Int32 → Prop} {KL15 : Int32 × Int32 → Prop} (ih4 : ∀ s : Int32 × Int32, KL4 s → J E w0 b [(0, .ref (x0)), (1, .int (s.1)), (2, .int (s.2))] 4 []) (ih15 : ∀ s : Int32 × Int32, KL15 s → J E w0 b [(0, .ref (x0)), (1, .int (x1)), (2, .int (x2)), (3, .int (s.1)), (4, .int (s.2))] 15 []) (hw : wX1_where_54 c x0 x1 x2 x4 s0 w0 KL4 KL15 K) : J E w0 b [(0, .ref (x0)), (1, .int (x1)), (2, .int (x2)), (4, .int (x4))] 54 [.int (s0)] := by
  unfold wX1_where_54 at hw
  refine j_aload_n hE 0 dX1_where_54 rfl rfl ?_
  refine j_aload_n hE 0 dX1_where_55 rfl rfl ?_
  obtain ⟨f1, h2, hw⟩ := hw
  refine j_getM hE gf_GlassStreet_state q351 h2 dX1_where_56 ?_
  refine j_iload hE 3 dX1_where_59 rfl ?_
  obtain ⟨a3, e9, hx⟩ := hw
  subst e9
  have hw := hx
  clear hx
  obtain ⟨h5, hw⟩ := hw
  refine jc_ip (jr_V hE hR (As := [.ref (a3), .int (x4)]) (rest := [.int (s0)]) ((ctX1_sees E.1.2.1 E.2.2.1 hc _ _ _ _ _ hw) E.2.2.2.1) (lw_V q1184 q1186 qs33 q121 q1187) jdX1_sees ⟨Nat.le_of_ble_eq_true rfl, Nat.le_of_ble_eq_true rfl⟩ ⟨Nat.zero_le _, Nat.zero_le _⟩ (gmc_gIs h5 (r := (RX1, TX1, 15)) rfl) rfl (Nat.le_of_ble_eq_true rfl) dX1_where_61) (fun r4 hw => ?_)
  refine j_b0 ?_
  refine j_iload_n hE 2 dX1_where_64 rfl rfl ?_
  refine jc_ip (jr_S hE hR (As := [.int (r4), .int (x2)]) (rest := [.int (s0)]) ((ctX1_isIn E.1.2.1 E.2.2.1 hc _ _ _ _ hw) E.2.2.2.1) (lw_S q1183 q922 q121 q923) jdX1_isIn ⟨Nat.le_of_ble_eq_true rfl, Nat.le_of_ble_eq_true rfl⟩ ⟨Nat.zero_le _, Nat.zero_le _⟩  rfl (Nat.le_of_ble_eq_true rfl) dX1_where_65) (fun r6 hw => ?_)
  refine j_b0 ?_
  refine j_icmp_ne hE 75 dX1_where_68 (by decide) (fun c7 => ?_) (fun c7 => ?_)
  · replace hw := hw.1 c7
    refine j_iconst hE dX1_where_75 kc_0 ?_
    refine j_istore_n (L' := [(3, .int ((0 : Int32))), (0, .ref (x0)), (1, .int (x1)), (2, .int (x2)), (4, .int (x4))]) hE hn dX1_where_76 rfl (Nat.le_of_ble_eq_true rfl) rfl ?_
    refine j_iinc (L' := [(4, .int (x4 + 1)), (3, .int ((0 : Int32))), (0, .ref (x0)), (1, .int (x1)), (2, .int (x2))]) hE hn 4 dX1_where_77 rfl (congrArg (x4 + ·) kc_1) (Nat.le_of_ble_eq_true rfl) rfl ?_
    refine j_goto hE 15 dX1_where_80 (by decide) ?_
    refine j_sub [(0, .ref (x0)), (1, .int (x1)), (2, .int (x2)), (3, .int ((0 : Int32))), (4, .int (x4 + 1))] [2, 3, 4, 1, 0] rfl ?_
    have hz := ih15 (((0 : Int32)), (x4 + 1)) hw
    exact hz
  · replace hw := hw.2 c7
    refine j_iconst hE dX1_where_71 kc_1 ?_
    refine j_goto hE 76 dX1_where_72 (by decide) ?_
    refine j_istore_n (L' := [(3, .int ((1 : Int32))), (0, .ref (x0)), (1, .int (x1)), (2, .int (x2)), (4, .int (x4))]) hE hn dX1_where_76 rfl (Nat.le_of_ble_eq_true rfl) rfl ?_
    refine j_iinc (L' := [(4, .int (x4 + 1)), (3, .int ((1 : Int32))), (0, .ref (x0)), (1, .int (x1)), (2, .int (x2))]) hE hn 4 dX1_where_77 rfl (congrArg (x4 + ·) kc_1) (Nat.le_of_ble_eq_true rfl) rfl ?_
    refine j_goto hE 15 dX1_where_80 (by decide) ?_
    refine j_sub [(0, .ref (x0)), (1, .int (x1)), (2, .int (x2)), (3, .int ((1 : Int32))), (4, .int (x4 + 1))] [2, 3, 4, 1, 0] rfl ?_
    have hz := ih15 (((1 : Int32)), (x4 + 1)) hw
    exact hz
def wX1_where_15_b (c : Nat → Option Nat) (x0 : Nat) (x1 : Int32) (x2 : Int32) (x3 : Int32) (x4 : Int32) (w0 : GW) (KL15 : Int32 × Int32 → Prop) (KL4 : Int32 × Int32 → Prop) (K : Int32 → Prop) : Prop :=
  gmc w0 x0 = some 0 ∧ (wX1_panes c x0 w0 (fun r1 => (r1 ≤ x4 → (wX1_where_83 c x0 x1 x2 x3 w0 KL4 K)) ∧ (¬ r1 ≤ x4 → ((x3 = 0 → (wX1_where_83 c x0 x1 x2 x3 w0 KL4 K)) ∧ (¬ x3 = 0 → (∃ f5 : Option Nat, gfm w0 x0 [0] 10 = some (va_rf f5) ∧ (∃ a7 : Nat, f5 = some a7 ∧ (∃ (n8 : Nat) (f9 : Nat → Int32), gai w0 a7 0 = some (n8, f9) ∧ vp_in x4 n8 ∧ (((rd f9 x4) < 0 → (KL15 (((1 : Int32)), (x4 + 1)))) ∧ (¬ (rd f9 x4) < 0 → (∃ f13 : Option Nat, gfm w0 x0 [0] 10 = some (va_rf f13) ∧ (∃ a15 : Nat, f13 = some a15 ∧ (∃ (n16 : Nat) (f17 : Nat → Int32), gai w0 a15 0 = some (n16, f17) ∧ vp_in x4 n16 ∧ ((¬ (rd f17 x4) = ((1 : Int32)) → (wX1_where_54 c x0 x1 x2 x4 ((0 : Int32)) w0 KL4 KL15 K)) ∧ ((rd f17 x4) = ((1 : Int32)) → (wX1_where_54 c x0 x1 x2 x4 ((1 : Int32)) w0 KL4 KL15 K))))))))))))))))
def wX1_where_15 (c : Nat → Option Nat) (x0 : Nat) (x1 : Int32) (x2 : Int32) (x3 : Int32) (x4 : Int32) (w0 : GW) (KL4 : Int32 × Int32 → Prop) (K : Int32 → Prop) : Prop := lfp (σ := Int32 × Int32) (fun KL s => wX1_where_15_b c x0 x1 x2 s.1 s.2 w0 KL KL4 K) (x3, x4)
set_option maxRecDepth 100000 in
theorem bX1_where_15 {E : jE} (hE : jOk E cX1_where RX1) (hn : E.2.2.2.2 = 5) (hR : jRoom E 5 107) {c : Nat → Option Nat} (hc : E.2.2.1.2.2.2 = c) {b : Nat × Nat} {w0 : GW} {K : Int32 → Prop} (hK : jRi E .int (KPI w0 K)) {x0 : Nat} {x1 : Int32} {x2 : Int32} {x3 : Int32} {x4 : Int32} {KL4 : Int32 × Int32 → Prop} (ih4 : ∀ s : Int32 × Int32, KL4 s → J E w0 b [(0, .ref (x0)), (1, .int (s.1)), (2, .int (s.2))] 4 []) (hw : wX1_where_15 c x0 x1 x2 x3 x4 w0 KL4 K) : J E w0 b [(0, .ref (x0)), (1, .int (x1)), (2, .int (x2)), (3, .int (x3)), (4, .int (x4))] 15 [] := by
  refine lfp_sound (σ := Int32 × Int32) (F := fun KL s => wX1_where_15_b c x0 x1 x2 s.1 s.2 w0 KL KL4 K) (P := fun s => J E w0 b [(0, .ref (x0)), (1, .int (x1)), (2, .int (x2)), (3, .int (s.1)), (4, .int (s.2))] 15 []) ?_ hw
  clear hw
  rintro KL15 ⟨x3, x4⟩ hw ih15
  have hw : wX1_where_15_b c x0 x1 x2 x3 x4 w0 KL15 KL4 K := hw
  unfold wX1_where_15_b at hw
  refine j_iload hE 4 dX1_where_15 rfl ?_
  refine j_aload_n hE 0 dX1_where_17 rfl rfl ?_
  obtain ⟨h2, hw⟩ := hw
  refine jc_ip (jr_V hE hR (As := []) (rest := [.int (x4)]) ((ctX1_panes E.1.2.1 E.2.2.1 hc _ _ _ hw) E.2.2.2.1) (lw_V q1157 q1159 qs31 q121 q1160) jdX1_panes ⟨Nat.le_of_ble_eq_true rfl, Nat.le_of_ble_eq_true rfl⟩ ⟨Nat.zero_le _, Nat.zero_le _⟩ (gmc_gIs h2 (r := (RX1, TX1, 15)) rfl) rfl (Nat.le_of_ble_eq_true rfl) dX1_where_18) (fun r1 hw => ?_)
  refine j_b0 ?_
  refine j_icmp_ge hE 83 dX1_where_21 (by decide) (fun c3 => ?_) (fun c3 => ?_)
  · replace hw := hw.1 c3
    refine j_sub [(0, .ref (x0)), (1, .int (x1)), (2, .int (x2)), (3, .int (x3))] [0, 1, 2, 3] rfl ?_
    have hz := bX1_where_83 (b := b) hE hn hR hc hK ih4 hw
    exact hz
  · replace hw := hw.2 c3
    refine j_iload_n hE 3 dX1_where_24 rfl rfl ?_
    refine j_if_eq hE 83 dX1_where_25 (by decide) (fun c4 => ?_) (fun c4 => ?_)
    · replace hw := hw.1 c4
      refine j_sub [(0, .ref (x0)), (1, .int (x1)), (2, .int (x2)), (3, .int (x3))] [0, 1, 2, 3] rfl ?_
      have hz := bX1_where_83 (b := b) hE hn hR hc hK ih4 hw
      exact hz
    · replace hw := hw.2 c4
      refine j_aload_n hE 0 dX1_where_28 rfl rfl ?_
      obtain ⟨f5, h6, hw⟩ := hw
      refine j_getM hE gf_GlassStreet_said q357 h6 dX1_where_29 ?_
      refine j_iload hE 4 dX1_where_32 rfl ?_
      obtain ⟨a7, e9, hx⟩ := hw
      subst e9
      have hw := hx
      clear hx
      obtain ⟨n8, f9, h10, h11, hw⟩ := hw
      refine j_aldI hE h10 h11 dX1_where_34 ?_
      refine j_if_lt hE 71 dX1_where_35 (by decide) (fun c12 => ?_) (fun c12 => ?_)
      · replace hw := hw.1 c12
        refine j_iconst hE dX1_where_71 kc_1 ?_
        refine j_goto hE 76 dX1_where_72 (by decide) ?_
        refine j_istore_n (L' := [(3, .int ((1 : Int32))), (0, .ref (x0)), (1, .int (x1)), (2, .int (x2)), (4, .int (x4))]) hE hn dX1_where_76 rfl (Nat.le_of_ble_eq_true rfl) rfl ?_
        refine j_iinc (L' := [(4, .int (x4 + 1)), (3, .int ((1 : Int32))), (0, .ref (x0)), (1, .int (x1)), (2, .int (x2))]) hE hn 4 dX1_where_77 rfl (congrArg (x4 + ·) kc_1) (Nat.le_of_ble_eq_true rfl) rfl ?_
        refine j_goto hE 15 dX1_where_80 (by decide) ?_
        refine j_sub [(0, .ref (x0)), (1, .int (x1)), (2, .int (x2)), (3, .int ((1 : Int32))), (4, .int (x4 + 1))] [2, 3, 4, 1, 0] rfl ?_
        have hz := ih15 (((1 : Int32)), (x4 + 1)) hw
        exact hz
      · replace hw := hw.2 c12
        refine j_aload_n hE 0 dX1_where_38 rfl rfl ?_
        obtain ⟨f13, h14, hw⟩ := hw
        refine j_getM hE gf_GlassStreet_said q357 h14 dX1_where_39 ?_
        refine j_iload hE 4 dX1_where_42 rfl ?_
        obtain ⟨a15, e9, hx⟩ := hw
        subst e9
        have hw := hx
        clear hx
        obtain ⟨n16, f17, h18, h19, hw⟩ := hw
        refine j_aldI hE h18 h19 dX1_where_44 ?_
        refine j_iconst hE dX1_where_45 kc_1 ?_
        refine j_icmp_ne hE 53 dX1_where_46 (by decide) (fun c20 => ?_) (fun c20 => ?_)
        · replace hw := hw.1 c20
          refine j_iconst hE dX1_where_53 kc_0 ?_
          refine j_sub [(0, .ref (x0)), (1, .int (x1)), (2, .int (x2)), (4, .int (x4))] [0, 1, 2, 4] rfl ?_
          have hz := bX1_where_54 (b := b) hE hn hR hc hK ih4 ih15 hw
          exact hz
        · replace hw := hw.2 c20
          refine j_iconst hE dX1_where_49 kc_1 ?_
          refine j_goto hE 54 dX1_where_50 (by decide) ?_
          refine j_sub [(0, .ref (x0)), (1, .int (x1)), (2, .int (x2)), (4, .int (x4))] [0, 1, 2, 4] rfl ?_
          have hz := bX1_where_54 (b := b) hE hn hR hc hK ih4 ih15 hw
          exact hz
def wX1_where_4_b (c : Nat → Option Nat) (x0 : Nat) (x1 : Int32) (x2 : Int32) (w0 : GW) (KL4 : Int32 × Int32 → Prop) (K : Int32 → Prop) : Prop :=
  ((nI 10) ≤ x2 → (K x1)) ∧ (¬ (nI 10) ≤ x2 → (wX1_where_15 c x0 x1 x2 ((1 : Int32)) ((0 : Int32)) w0 KL4 K))
def wX1_where_4 (c : Nat → Option Nat) (x0 : Nat) (x1 : Int32) (x2 : Int32) (w0 : GW) (K : Int32 → Prop) : Prop := lfp (σ := Int32 × Int32) (fun KL s => wX1_where_4_b c x0 s.1 s.2 w0 KL K) (x1, x2)
set_option maxRecDepth 100000 in
theorem bX1_where_4 {E : jE} (hE : jOk E cX1_where RX1) (hn : E.2.2.2.2 = 5) (hR : jRoom E 5 107) {c : Nat → Option Nat} (hc : E.2.2.1.2.2.2 = c) {b : Nat × Nat} {w0 : GW} {K : Int32 → Prop} (hK : jRi E .int (KPI w0 K)) {x0 : Nat} {x1 : Int32} {x2 : Int32}  (hw : wX1_where_4 c x0 x1 x2 w0 K) : J E w0 b [(0, .ref (x0)), (1, .int (x1)), (2, .int (x2))] 4 [] := by
  refine lfp_sound (σ := Int32 × Int32) (F := fun KL s => wX1_where_4_b c x0 s.1 s.2 w0 KL K) (P := fun s => J E w0 b [(0, .ref (x0)), (1, .int (s.1)), (2, .int (s.2))] 4 []) ?_ hw
  clear hw
  rintro KL4 ⟨x1, x2⟩ hw ih4
  have hw : wX1_where_4_b c x0 x1 x2 w0 KL4 K := hw
  unfold wX1_where_4_b at hw
  refine j_iload_n hE 2 dX1_where_4 rfl rfl ?_
  refine j_bipush hE dX1_where_5 kb_10 ?_
  refine j_icmp_ge hE 99 dX1_where_7 (by decide) (fun c1 => ?_) (fun c1 => ?_)
  · replace hw := hw.1 c1
    refine j_iload_n hE 1 dX1_where_99 rfl rfl ?_
    exact j_iret hE hK dX1_where_100 rfl ⟨rfl, hw⟩
  · replace hw := hw.2 c1
    refine j_iconst hE dX1_where_10 kc_1 ?_
    refine j_istore_n (L' := [(3, .int ((1 : Int32))), (0, .ref (x0)), (1, .int (x1)), (2, .int (x2))]) hE hn dX1_where_11 rfl (Nat.le_of_ble_eq_true rfl) rfl ?_
    refine j_iconst hE dX1_where_12 kc_0 ?_
    refine j_istore (L' := [(4, .int ((0 : Int32))), (3, .int ((1 : Int32))), (0, .ref (x0)), (1, .int (x1)), (2, .int (x2))]) hE hn dX1_where_13 (Nat.le_of_ble_eq_true rfl) rfl ?_
    refine j_sub [(0, .ref (x0)), (1, .int (x1)), (2, .int (x2)), (3, .int ((1 : Int32))), (4, .int ((0 : Int32)))] [2, 3, 4, 1, 0] rfl ?_
    have hz := bX1_where_15 (b := b) hE hn hR hc hK ih4 hw
    exact hz
def wX1_where_0 (c : Nat → Option Nat) (x0 : Nat) (w0 : GW) (K : Int32 → Prop) : Prop :=
  wX1_where_4 c x0 ((0 : Int32)) ((0 : Int32)) w0 K
set_option maxRecDepth 100000 in
theorem bX1_where_0 {E : jE} (hE : jOk E cX1_where RX1) (hn : E.2.2.2.2 = 5) (hR : jRoom E 5 107) {c : Nat → Option Nat} (hc : E.2.2.1.2.2.2 = c) {b : Nat × Nat} {w0 : GW} {K : Int32 → Prop} (hK : jRi E .int (KPI w0 K)) {x0 : Nat}  (hw : wX1_where_0 c x0 w0 K) : J E w0 b [(0, .ref (x0))] 0 [] := by
  unfold wX1_where_0 at hw
  refine j_iconst hE dX1_where_0 kc_0 ?_
  refine j_istore_n (L' := [(1, .int ((0 : Int32))), (0, .ref (x0))]) hE hn dX1_where_1 rfl (Nat.le_of_ble_eq_true rfl) rfl ?_
  refine j_iconst hE dX1_where_2 kc_0 ?_
  refine j_istore_n (L' := [(2, .int ((0 : Int32))), (1, .int ((0 : Int32))), (0, .ref (x0))]) hE hn dX1_where_3 rfl (Nat.le_of_ble_eq_true rfl) rfl ?_
  refine j_sub [(0, .ref (x0)), (1, .int ((0 : Int32))), (2, .int ((0 : Int32)))] [2, 1, 0] rfl ?_
  have hz := bX1_where_4 (b := b) hE hn hR hc hK  hw
  exact hz
theorem jdX1_where : jD yX1_where 0 := by decide +kernel
abbrev wX1_where := wX1_where_0
theorem ctX1_where (l : Launch) (G : gG) {c : Nat → Option Nat} (hc : G.2.2.2 = c) (x0 : Nat) (w0 : GW) (K : Int32 → Prop) (hw : wX1_where_0 c x0 w0 K) {F2 L2 : Nat} (h2 : 5 ≤ F2 ∧ 107 ≤ L2 := by exact ⟨Nat.le_refl _, Nat.le_refl _⟩) : CtI l yX1_where cX1_where 5 .int ({ frames := F2, cells := 0, slots := 0, locals := L2 }) G [.ref (x0)] w0 (KPI w0 K) :=
  CtI.of RX1 plainc_X1 rfl (Nat.le_of_ble_eq_true rfl) (fun E hE hl hG hn hR hK => bX1_where_0 hE hn (hR.le h2.1 h2.2) (by rw [hG]; exact hc) hK hw)
def wX1_ask_15_b (c : Nat → Option Nat) (x0 : Nat) (x1 : Int32) (x2 : Int32) (x3 : Int32) (x4 : Int32) (w0 : GW) (KL15 : Int32 × Int32 × Int32 → Prop) (K : Int32 → Prop) : Prop :=
  gmc w0 x0 = some 0 ∧ (wX1_panes c x0 w0 (fun r1 => (r1 ≤ x4 → (K x3)) ∧ (¬ r1 ≤ x4 → (∃ f4 : Option Nat, gfm w0 x0 [0] 4 = some (va_rf f4) ∧ (∃ a6 : Nat, f4 = some a6 ∧ (gmc w0 x0 = some 0 ∧ (wX1_sees c x0 a6 x4 w0 (fun r7 => wJ17_bitCount c (x1 &&& r7) w0 (fun r9 => wJ17_bitCount c x1 w0 (fun r10 => ∀ v11 : Int32, v11 = (if r9 < (r10 - r9) then (r10 - r9) else r9) → (∃ f12 : Option Nat, gfm w0 x0 [0] 10 = some (va_rf f12) ∧ (∃ a14 : Nat, f12 = some a14 ∧ (∃ (n15 : Nat) (f16 : Nat → Int32), gai w0 a14 0 = some (n15, f16) ∧ vp_in x4 n15 ∧ ((0 ≤ (rd f16 x4) → (KL15 (x2, x3, (x4 + 1)))) ∧ (¬ 0 ≤ (rd f16 x4) → ((v11 < x2 → (KL15 (v11, x4, (x4 + 1)))) ∧ (¬ v11 < x2 → (KL15 (x2, x3, (x4 + 1))))))))))))))))))))
def wX1_ask_15 (c : Nat → Option Nat) (x0 : Nat) (x1 : Int32) (x2 : Int32) (x3 : Int32) (x4 : Int32) (w0 : GW) (K : Int32 → Prop) : Prop := lfp (σ := Int32 × Int32 × Int32) (fun KL s => wX1_ask_15_b c x0 x1 s.1 s.2.1 s.2.2 w0 KL K) (x2, x3, x4)
set_option maxRecDepth 100000 in
theorem bX1_ask_15 {E : jE} (hE : jOk E cX1_ask RX1) (hn : E.2.2.2.2 = 6) (hR : jRoom E 6 131) {c : Nat → Option Nat} (hc : E.2.2.1.2.2.2 = c) {b : Nat × Nat} {w0 : GW} {K : Int32 → Prop} (hK : jRi E .int (KPI w0 K)) {x0 : Nat} {x1 : Int32} {x2 : Int32} {x3 : Int32} {x4 : Int32}  (hw : wX1_ask_15 c x0 x1 x2 x3 x4 w0 K) : J E w0 b [(0, .ref (x0)), (1, .int (x1)), (2, .int (x2)), (3, .int (x3)), (4, .int (x4))] 15 [] := by
  refine lfp_sound (σ := Int32 × Int32 × Int32) (F := fun KL s => wX1_ask_15_b c x0 x1 s.1 s.2.1 s.2.2 w0 KL K) (P := fun s => J E w0 b [(0, .ref (x0)), (1, .int (x1)), (2, .int (s.1)), (3, .int (s.2.1)), (4, .int (s.2.2))] 15 []) ?_ hw
  clear hw
  rintro KL15 ⟨x2, x3, x4⟩ hw ih15
  have hw : wX1_ask_15_b c x0 x1 x2 x3 x4 w0 KL15 K := hw
  unfold wX1_ask_15_b at hw
  refine j_iload hE 4 dX1_ask_15 rfl ?_
  refine j_aload_n hE 0 dX1_ask_17 rfl rfl ?_
  obtain ⟨h2, hw⟩ := hw
  refine jc_ip (jr_V hE hR (As := []) (rest := [.int (x4)]) ((ctX1_panes E.1.2.1 E.2.2.1 hc _ _ _ hw) E.2.2.2.1) (lw_V q1157 q1159 qs31 q121 q1160) jdX1_panes ⟨Nat.le_of_ble_eq_true rfl, Nat.le_of_ble_eq_true rfl⟩ ⟨Nat.zero_le _, Nat.zero_le _⟩ (gmc_gIs h2 (r := (RX1, TX1, 15)) rfl) rfl (Nat.le_of_ble_eq_true rfl) dX1_ask_18) (fun r1 hw => ?_)
  refine j_b0 ?_
  refine j_icmp_ge hE 86 dX1_ask_21 (by decide) (fun c3 => ?_) (fun c3 => ?_)
  · replace hw := hw.1 c3
    refine j_iload_n hE 3 dX1_ask_86 rfl rfl ?_
    exact j_iret hE hK dX1_ask_87 rfl ⟨rfl, hw⟩
  · replace hw := hw.2 c3
    refine j_iload_n hE 1 dX1_ask_24 rfl rfl ?_
    refine j_aload_n hE 0 dX1_ask_25 rfl rfl ?_
    refine j_aload_n hE 0 dX1_ask_26 rfl rfl ?_
    obtain ⟨f4, h5, hw⟩ := hw
    refine j_getM hE gf_GlassStreet_state q351 h5 dX1_ask_27 ?_
    refine j_iload hE 4 dX1_ask_30 rfl ?_
    obtain ⟨a6, e9, hx⟩ := hw
    subst e9
    have hw := hx
    clear hx
    obtain ⟨h8, hw⟩ := hw
    refine jc_ip (jr_V hE hR (As := [.ref (a6), .int (x4)]) (rest := [.int (x1)]) ((ctX1_sees E.1.2.1 E.2.2.1 hc _ _ _ _ _ hw) E.2.2.2.1) (lw_V q1184 q1186 qs33 q121 q1187) jdX1_sees ⟨Nat.le_of_ble_eq_true rfl, Nat.le_of_ble_eq_true rfl⟩ ⟨Nat.zero_le _, Nat.zero_le _⟩ (gmc_gIs h8 (r := (RX1, TX1, 15)) rfl) rfl (Nat.le_of_ble_eq_true rfl) dX1_ask_32) (fun r7 hw => ?_)
    refine j_b0 ?_
    refine j_iand hE dX1_ask_35 ?_
    refine jc_ip (jr_S hE hR (As := [.int (x1 &&& r7)]) (rest := []) ((ctJ17_bitCount E.1.2.1 E.2.2.1 hc _ _ _ hw) E.2.2.2.1) (lw_S q1414 q1415 q161 q1416) jdJ17_bitCount ⟨Nat.le_of_ble_eq_true rfl, Nat.le_of_ble_eq_true rfl⟩ ⟨Nat.zero_le _, Nat.zero_le _⟩  rfl (Nat.le_of_ble_eq_true rfl) dX1_ask_36) (fun r9 hw => ?_)
    refine j_b0 ?_
    refine j_istore (L' := [(5, .int (r9)), (0, .ref (x0)), (1, .int (x1)), (2, .int (x2)), (3, .int (x3)), (4, .int (x4))]) hE hn dX1_ask_39 (Nat.le_of_ble_eq_true rfl) rfl ?_
    refine j_iload hE 0 dX1_ask_41 rfl ?_
    refine j_iload_n hE 2 dX1_ask_43 rfl rfl ?_
    refine jc_ip (jr_S hE hR (As := [.int (x1)]) (rest := [.int (r9)]) ((ctJ17_bitCount E.1.2.1 E.2.2.1 hc _ _ _ hw) E.2.2.2.1) (lw_S q1414 q1415 q161 q1416) jdJ17_bitCount ⟨Nat.le_of_ble_eq_true rfl, Nat.le_of_ble_eq_true rfl⟩ ⟨Nat.zero_le _, Nat.zero_le _⟩  rfl (Nat.le_of_ble_eq_true rfl) dX1_ask_44) (fun r10 hw => ?_)
    refine j_b0 ?_
    refine j_iload hE 0 dX1_ask_47 rfl ?_
    refine j_isub hE dX1_ask_49 ?_
    refine j_mmax hE hR q1385 (Nat.le_of_ble_eq_true rfl) (Nat.le_of_ble_eq_true rfl) dX1_ask_50 ?_
    refine j_topi (fun v11 e_v11 => ?_)
    replace hw := hw v11 e_v11
    refine j_istore (L' := [(5, .int (v11)), (0, .ref (x0)), (1, .int (x1)), (2, .int (x2)), (3, .int (x3)), (4, .int (x4))]) hE hn dX1_ask_53 (Nat.le_of_ble_eq_true rfl) rfl ?_
    refine j_aload_n hE 1 dX1_ask_55 rfl rfl ?_
    obtain ⟨f12, h13, hw⟩ := hw
    refine j_getM hE gf_GlassStreet_said q357 h13 dX1_ask_56 ?_
    refine j_iload hE 5 dX1_ask_59 rfl ?_
    obtain ⟨a14, e9, hx⟩ := hw
    subst e9
    have hw := hx
    clear hx
    obtain ⟨n15, f16, h17, h18, hw⟩ := hw
    refine j_aldI hE h17 h18 dX1_ask_61 ?_
    refine j_if_ge hE 80 dX1_ask_62 (by decide) (fun c19 => ?_) (fun c19 => ?_)
    · replace hw := hw.1 c19
      refine j_iinc (L' := [(4, .int (x4 + 1)), (5, .int (v11)), (0, .ref (x0)), (1, .int (x1)), (2, .int (x2)), (3, .int (x3))]) hE hn 5 dX1_ask_80 rfl (congrArg (x4 + ·) kc_1) (Nat.le_of_ble_eq_true rfl) rfl ?_
      refine j_goto hE 15 dX1_ask_83 (by decide) ?_
      refine j_sub [(0, .ref (x0)), (1, .int (x1)), (2, .int (x2)), (3, .int (x3)), (4, .int (x4 + 1))] [2, 3, 4, 5, 0] rfl ?_
      have hz := ih15 (x2, x3, (x4 + 1)) hw
      exact hz
    · replace hw := hw.2 c19
      refine j_iload hE 0 dX1_ask_65 rfl ?_
      refine j_iload_n hE 3 dX1_ask_67 rfl rfl ?_
      refine j_icmp_lt hE 74 dX1_ask_68 (by decide) (fun c20 => ?_) (fun c20 => ?_)
      · replace hw := hw.1 c20
        refine j_iload hE 0 dX1_ask_74 rfl ?_
        refine j_istore_n (L' := [(2, .int (v11)), (5, .int (v11)), (0, .ref (x0)), (1, .int (x1)), (3, .int (x3)), (4, .int (x4))]) hE hn dX1_ask_76 rfl (Nat.le_of_ble_eq_true rfl) rfl ?_
        refine j_iload hE 5 dX1_ask_77 rfl ?_
        refine j_istore_n (L' := [(3, .int (x4)), (2, .int (v11)), (5, .int (v11)), (0, .ref (x0)), (1, .int (x1)), (4, .int (x4))]) hE hn dX1_ask_79 rfl (Nat.le_of_ble_eq_true rfl) rfl ?_
        refine j_iinc (L' := [(4, .int (x4 + 1)), (3, .int (x4)), (2, .int (v11)), (5, .int (v11)), (0, .ref (x0)), (1, .int (x1))]) hE hn 5 dX1_ask_80 rfl (congrArg (x4 + ·) kc_1) (Nat.le_of_ble_eq_true rfl) rfl ?_
        refine j_goto hE 15 dX1_ask_83 (by decide) ?_
        refine j_sub [(0, .ref (x0)), (1, .int (x1)), (2, .int (v11)), (3, .int (x4)), (4, .int (x4 + 1))] [4, 5, 2, 1, 0] rfl ?_
        have hz := ih15 (v11, x4, (x4 + 1)) hw
        exact hz
      · replace hw := hw.2 c20
        refine j_goto hE 80 dX1_ask_71 (by decide) ?_
        refine j_iinc (L' := [(4, .int (x4 + 1)), (5, .int (v11)), (0, .ref (x0)), (1, .int (x1)), (2, .int (x2)), (3, .int (x3))]) hE hn 5 dX1_ask_80 rfl (congrArg (x4 + ·) kc_1) (Nat.le_of_ble_eq_true rfl) rfl ?_
        refine j_goto hE 15 dX1_ask_83 (by decide) ?_
        refine j_sub [(0, .ref (x0)), (1, .int (x1)), (2, .int (x2)), (3, .int (x3)), (4, .int (x4 + 1))] [2, 3, 4, 5, 0] rfl ?_
        have hz := ih15 (x2, x3, (x4 + 1)) hw
        exact hz
def wX1_ask_0 (c : Nat → Option Nat) (x0 : Nat) (w0 : GW) (K : Int32 → Prop) : Prop :=
  gmc w0 x0 = some 0 ∧ (wX1_where c x0 w0 (fun r1 => wJ17_bitCount c r1 w0 (fun r3 => wX1_ask_15 c x0 r1 r3 ((-1 : Int32)) ((0 : Int32)) w0 K)))
set_option maxRecDepth 100000 in
theorem bX1_ask_0 {E : jE} (hE : jOk E cX1_ask RX1) (hn : E.2.2.2.2 = 6) (hR : jRoom E 6 131) {c : Nat → Option Nat} (hc : E.2.2.1.2.2.2 = c) {b : Nat × Nat} {w0 : GW} {K : Int32 → Prop} (hK : jRi E .int (KPI w0 K)) {x0 : Nat}  (hw : wX1_ask_0 c x0 w0 K) : J E w0 b [(0, .ref (x0))] 0 [] := by
  unfold wX1_ask_0 at hw
  refine j_aload_n hE 0 dX1_ask_0 rfl rfl ?_
  obtain ⟨h2, hw⟩ := hw
  refine jc_ip (jr_V hE hR (As := []) (rest := []) ((ctX1_where E.1.2.1 E.2.2.1 hc _ _ _ hw) E.2.2.2.1) (lw_V q1444 q1437 q1438 q121 q1439) jdX1_where ⟨Nat.le_of_ble_eq_true rfl, Nat.le_of_ble_eq_true rfl⟩ ⟨Nat.zero_le _, Nat.zero_le _⟩ (gmc_gIs h2 (r := (RX1, TX1, 15)) rfl) rfl (Nat.le_of_ble_eq_true rfl) dX1_ask_1) (fun r1 hw => ?_)
  refine j_b0 ?_
  refine j_istore_n (L' := [(1, .int (r1)), (0, .ref (x0))]) hE hn dX1_ask_4 rfl (Nat.le_of_ble_eq_true rfl) rfl ?_
  refine j_iload_n hE 0 dX1_ask_5 rfl rfl ?_
  refine jc_ip (jr_S hE hR (As := [.int (r1)]) (rest := []) ((ctJ17_bitCount E.1.2.1 E.2.2.1 hc _ _ _ hw) E.2.2.2.1) (lw_S q1414 q1415 q161 q1416) jdJ17_bitCount ⟨Nat.le_of_ble_eq_true rfl, Nat.le_of_ble_eq_true rfl⟩ ⟨Nat.zero_le _, Nat.zero_le _⟩  rfl (Nat.le_of_ble_eq_true rfl) dX1_ask_6) (fun r3 hw => ?_)
  refine j_b0 ?_
  refine j_istore_n (L' := [(2, .int (r3)), (1, .int (r1)), (0, .ref (x0))]) hE hn dX1_ask_9 rfl (Nat.le_of_ble_eq_true rfl) rfl ?_
  refine j_iconst hE dX1_ask_10 kc_m1 ?_
  refine j_istore_n (L' := [(3, .int ((-1 : Int32))), (2, .int (r3)), (1, .int (r1)), (0, .ref (x0))]) hE hn dX1_ask_11 rfl (Nat.le_of_ble_eq_true rfl) rfl ?_
  refine j_iconst hE dX1_ask_12 kc_0 ?_
  refine j_istore (L' := [(4, .int ((0 : Int32))), (3, .int ((-1 : Int32))), (2, .int (r3)), (1, .int (r1)), (0, .ref (x0))]) hE hn dX1_ask_13 (Nat.le_of_ble_eq_true rfl) rfl ?_
  refine j_sub [(0, .ref (x0)), (1, .int (r1)), (2, .int (r3)), (3, .int ((-1 : Int32))), (4, .int ((0 : Int32)))] [4, 3, 2, 1, 0] rfl ?_
  have hz := bX1_ask_15 (b := b) hE hn hR hc hK  hw
  exact hz
theorem jdX1_ask : jD yX1_ask 0 := by decide +kernel
abbrev wX1_ask := wX1_ask_0
theorem ctX1_ask (l : Launch) (G : gG) {c : Nat → Option Nat} (hc : G.2.2.2 = c) (x0 : Nat) (w0 : GW) (K : Int32 → Prop) (hw : wX1_ask_0 c x0 w0 K) {F2 L2 : Nat} (h2 : 6 ≤ F2 ∧ 131 ≤ L2 := by exact ⟨Nat.le_refl _, Nat.le_refl _⟩) : CtI l yX1_ask cX1_ask 6 .int ({ frames := F2, cells := 0, slots := 0, locals := L2 }) G [.ref (x0)] w0 (KPI w0 K) :=
  CtI.of RX1 plainc_X1 rfl (Nat.le_of_ble_eq_true rfl) (fun E hE hl hG hn hR hK => bX1_ask_0 hE hn (hR.le h2.1 h2.2) (by rw [hG]; exact hc) hK hw)
def wX1_glass_34_b (c : Nat → Option Nat) (x0 : Nat) (x1 : Int32) (x2 : Int32) (x3 : Int32) (x4 : Int32) (x5 : Int32) (x6 : Int32) (w0 : GW) (KL34 : Int32 × Int32 → Prop) (KL19 : Int32 × Int32 × Int32 → Prop) (K : Int32 → Prop) : Prop :=
  gmc w0 x0 = some 0 ∧ (wX1_people c x0 w0 (fun r1 => (r1 ≤ x6 → ((x3 < x5 → (KL19 (x4, x5, (x4 + 1)))) ∧ (¬ x3 < x5 → (KL19 (x2, x3, (x4 + 1)))))) ∧ (¬ r1 ≤ x6 → (∃ f5 : Option Nat, gfm w0 x0 [0] 4 = some (va_rf f5) ∧ (∃ a7 : Nat, f5 = some a7 ∧ (∃ f8 : Option Nat, gfm w0 a7 [3] 0 = some (va_rf f8) ∧ (∃ a10 : Nat, f8 = some a10 ∧ (∃ (n11 : Nat) (f12 : Nat → Int32), gai w0 a10 0 = some (n11, f12) ∧ vp_in x6 n11 ∧ (wX1_in c (rd f12 x6) x4 ((x4 + x1) - ((1 : Int32))) w0 (fun r15 => (r15 = 0 → (KL34 (x5, (x6 + 1)))) ∧ (¬ r15 = 0 → (KL34 ((x5 + 1), (x6 + 1))))))))))))))
def wX1_glass_34 (c : Nat → Option Nat) (x0 : Nat) (x1 : Int32) (x2 : Int32) (x3 : Int32) (x4 : Int32) (x5 : Int32) (x6 : Int32) (w0 : GW) (KL19 : Int32 × Int32 × Int32 → Prop) (K : Int32 → Prop) : Prop := lfp (σ := Int32 × Int32) (fun KL s => wX1_glass_34_b c x0 x1 x2 x3 x4 s.1 s.2 w0 KL KL19 K) (x5, x6)
set_option maxRecDepth 100000 in
theorem bX1_glass_34 {E : jE} (hE : jOk E cX1_glass RX1) (hn : E.2.2.2.2 = 7) (hR : jRoom E 2 40) {c : Nat → Option Nat} (hc : E.2.2.1.2.2.2 = c) {b : Nat × Nat} {w0 : GW} {K : Int32 → Prop} (hK : jRi E .int (KPI w0 K)) {x0 : Nat} {x1 : Int32} {x2 : Int32} {x3 : Int32} {x4 : Int32} {x5 : Int32} {x6 : Int32} {KL19 : Int32 × Int32 × Int32 → Prop} (ih19 : ∀ s : Int32 × Int32 × Int32, KL19 s → J E w0 b [(0, .ref (x0)), (1, .int (x1)), (2, .int (s.1)), (3, .int (s.2.1)), (4, .int (s.2.2))] 19 []) (hw : wX1_glass_34 c x0 x1 x2 x3 x4 x5 x6 w0 KL19 K) : J E w0 b [(0, .ref (x0)), (1, .int (x1)), (2, .int (x2)), (3, .int (x3)), (4, .int (x4)), (5, .int (x5)), (6, .int (x6))] 34 [] := by
  refine lfp_sound (σ := Int32 × Int32) (F := fun KL s => wX1_glass_34_b c x0 x1 x2 x3 x4 s.1 s.2 w0 KL KL19 K) (P := fun s => J E w0 b [(0, .ref (x0)), (1, .int (x1)), (2, .int (x2)), (3, .int (x3)), (4, .int (x4)), (5, .int (s.1)), (6, .int (s.2))] 34 []) ?_ hw
  clear hw
  rintro KL34 ⟨x5, x6⟩ hw ih34
  have hw : wX1_glass_34_b c x0 x1 x2 x3 x4 x5 x6 w0 KL34 KL19 K := hw
  unfold wX1_glass_34_b at hw
  refine j_iload hE 6 dX1_glass_34 rfl ?_
  refine j_aload_n hE 0 dX1_glass_36 rfl rfl ?_
  obtain ⟨h2, hw⟩ := hw
  refine jc_ip (jr_V hE hR (As := []) (rest := [.int (x6)]) ((ctX1_people E.1.2.1 E.2.2.1 hc _ _ _ hw) E.2.2.2.1) (lw_V q1242 q1244 qs36 q121 q1245) jdX1_people ⟨Nat.le_of_ble_eq_true rfl, Nat.le_of_ble_eq_true rfl⟩ ⟨Nat.zero_le _, Nat.zero_le _⟩ (gmc_gIs h2 (r := (RX1, TX1, 15)) rfl) rfl (Nat.le_of_ble_eq_true rfl) dX1_glass_37) (fun r1 hw => ?_)
  refine j_b0 ?_
  refine j_icmp_ge hE 76 dX1_glass_40 (by decide) (fun c3 => ?_) (fun c3 => ?_)
  · replace hw := hw.1 c3
    refine j_iload hE 5 dX1_glass_76 rfl ?_
    refine j_iload_n hE 3 dX1_glass_78 rfl rfl ?_
    refine j_icmp_gt hE 85 dX1_glass_79 (by decide) (fun c4 => ?_) (fun c4 => ?_)
    · replace hw := hw.1 c4
      refine j_iload hE 4 dX1_glass_85 rfl ?_
      refine j_istore_n (L' := [(2, .int (x4)), (0, .ref (x0)), (1, .int (x1)), (3, .int (x3)), (4, .int (x4)), (5, .int (x5)), (6, .int (x6))]) hE hn dX1_glass_87 rfl (Nat.le_of_ble_eq_true rfl) rfl ?_
      refine j_iload hE 5 dX1_glass_88 rfl ?_
      refine j_istore_n (L' := [(3, .int (x5)), (2, .int (x4)), (0, .ref (x0)), (1, .int (x1)), (4, .int (x4)), (5, .int (x5)), (6, .int (x6))]) hE hn dX1_glass_90 rfl (Nat.le_of_ble_eq_true rfl) rfl ?_
      refine j_iinc (L' := [(4, .int (x4 + 1)), (3, .int (x5)), (2, .int (x4)), (0, .ref (x0)), (1, .int (x1)), (5, .int (x5)), (6, .int (x6))]) hE hn 4 dX1_glass_91 rfl (congrArg (x4 + ·) kc_1) (Nat.le_of_ble_eq_true rfl) rfl ?_
      refine j_goto hE 19 dX1_glass_94 (by decide) ?_
      refine j_sub [(0, .ref (x0)), (1, .int (x1)), (2, .int (x4)), (3, .int (x5)), (4, .int (x4 + 1))] [3, 4, 2, 1, 0] rfl ?_
      have hz := ih19 (x4, x5, (x4 + 1)) hw
      exact hz
    · replace hw := hw.2 c4
      refine j_goto hE 91 dX1_glass_82 (by decide) ?_
      refine j_iinc (L' := [(4, .int (x4 + 1)), (0, .ref (x0)), (1, .int (x1)), (2, .int (x2)), (3, .int (x3)), (5, .int (x5)), (6, .int (x6))]) hE hn 4 dX1_glass_91 rfl (congrArg (x4 + ·) kc_1) (Nat.le_of_ble_eq_true rfl) rfl ?_
      refine j_goto hE 19 dX1_glass_94 (by decide) ?_
      refine j_sub [(0, .ref (x0)), (1, .int (x1)), (2, .int (x2)), (3, .int (x3)), (4, .int (x4 + 1))] [1, 2, 3, 4, 0] rfl ?_
      have hz := ih19 (x2, x3, (x4 + 1)) hw
      exact hz
  · replace hw := hw.2 c3
    refine j_aload_n hE 0 dX1_glass_43 rfl rfl ?_
    obtain ⟨f5, h6, hw⟩ := hw
    refine j_getM hE gf_GlassStreet_state q351 h6 dX1_glass_44 ?_
    obtain ⟨a7, e9, hx⟩ := hw
    subst e9
    have hw := hx
    clear hx
    obtain ⟨f8, h9, hw⟩ := hw
    refine j_getMN hE gf_GlassStreet_State_at q317 h9 dX1_glass_47 ?_
    refine j_iload hE 6 dX1_glass_50 rfl ?_
    obtain ⟨a10, e9, hx⟩ := hw
    subst e9
    have hw := hx
    clear hx
    obtain ⟨n11, f12, h13, h14, hw⟩ := hw
    refine j_aldI hE h13 h14 dX1_glass_52 ?_
    refine j_iload hE 4 dX1_glass_53 rfl ?_
    refine j_iload hE 4 dX1_glass_55 rfl ?_
    refine j_iload_n hE 1 dX1_glass_57 rfl rfl ?_
    refine j_iadd hE dX1_glass_58 ?_
    refine j_iconst hE dX1_glass_59 kc_1 ?_
    refine j_isub hE dX1_glass_60 ?_
    refine jc_ip (jr_S hE hR (As := [.int (rd f12 x6), .int (x4), .int ((x4 + x1) - ((1 : Int32)))]) (rest := []) ((ctX1_in E.1.2.1 E.2.2.1 hc _ _ _ _ _ hw) E.2.2.2.1) (lw_S q1162 q919 q121 q920) jdX1_in ⟨Nat.le_of_ble_eq_true rfl, Nat.le_of_ble_eq_true rfl⟩ ⟨Nat.zero_le _, Nat.zero_le _⟩  rfl (Nat.le_of_ble_eq_true rfl) dX1_glass_61) (fun r15 hw => ?_)
    refine j_b0 ?_
    refine j_if_eq hE 70 dX1_glass_64 (by decide) (fun c16 => ?_) (fun c16 => ?_)
    · replace hw := hw.1 c16
      refine j_iinc (L' := [(6, .int (x6 + 1)), (0, .ref (x0)), (1, .int (x1)), (2, .int (x2)), (3, .int (x3)), (4, .int (x4)), (5, .int (x5))]) hE hn 6 dX1_glass_70 rfl (congrArg (x6 + ·) kc_1) (Nat.le_of_ble_eq_true rfl) rfl ?_
      refine j_goto hE 34 dX1_glass_73 (by decide) ?_
      refine j_sub [(0, .ref (x0)), (1, .int (x1)), (2, .int (x2)), (3, .int (x3)), (4, .int (x4)), (5, .int (x5)), (6, .int (x6 + 1))] [1, 2, 3, 4, 5, 6, 0] rfl ?_
      have hz := ih34 (x5, (x6 + 1)) hw
      exact hz
    · replace hw := hw.2 c16
      refine j_iinc (L' := [(5, .int (x5 + 1)), (0, .ref (x0)), (1, .int (x1)), (2, .int (x2)), (3, .int (x3)), (4, .int (x4)), (6, .int (x6))]) hE hn 5 dX1_glass_67 rfl (congrArg (x5 + ·) kc_1) (Nat.le_of_ble_eq_true rfl) rfl ?_
      refine j_iinc (L' := [(6, .int (x6 + 1)), (5, .int (x5 + 1)), (0, .ref (x0)), (1, .int (x1)), (2, .int (x2)), (3, .int (x3)), (4, .int (x4))]) hE hn 6 dX1_glass_70 rfl (congrArg (x6 + ·) kc_1) (Nat.le_of_ble_eq_true rfl) rfl ?_
      refine j_goto hE 34 dX1_glass_73 (by decide) ?_
      refine j_sub [(0, .ref (x0)), (1, .int (x1)), (2, .int (x2)), (3, .int (x3)), (4, .int (x4)), (5, .int (x5 + 1)), (6, .int (x6 + 1))] [2, 3, 4, 5, 6, 1, 0] rfl ?_
      have hz := ih34 ((x5 + 1), (x6 + 1)) hw
      exact hz
def wX1_glass_19_b (c : Nat → Option Nat) (x0 : Nat) (x1 : Int32) (x2 : Int32) (x3 : Int32) (x4 : Int32) (w0 : GW) (KL19 : Int32 × Int32 × Int32 → Prop) (K : Int32 → Prop) : Prop :=
  ((nI 10) < (x4 + x1) → (K x2)) ∧ (¬ (nI 10) < (x4 + x1) → (wX1_glass_34 c x0 x1 x2 x3 x4 ((0 : Int32)) ((0 : Int32)) w0 KL19 K))
def wX1_glass_19 (c : Nat → Option Nat) (x0 : Nat) (x1 : Int32) (x2 : Int32) (x3 : Int32) (x4 : Int32) (w0 : GW) (K : Int32 → Prop) : Prop := lfp (σ := Int32 × Int32 × Int32) (fun KL s => wX1_glass_19_b c x0 x1 s.1 s.2.1 s.2.2 w0 KL K) (x2, x3, x4)
set_option maxRecDepth 100000 in
theorem bX1_glass_19 {E : jE} (hE : jOk E cX1_glass RX1) (hn : E.2.2.2.2 = 7) (hR : jRoom E 2 40) {c : Nat → Option Nat} (hc : E.2.2.1.2.2.2 = c) {b : Nat × Nat} {w0 : GW} {K : Int32 → Prop} (hK : jRi E .int (KPI w0 K)) {x0 : Nat} {x1 : Int32} {x2 : Int32} {x3 : Int32} {x4 : Int32}  (hw : wX1_glass_19 c x0 x1 x2 x3 x4 w0 K) : J E w0 b [(0, .ref (x0)), (1, .int (x1)), (2, .int (x2)), (3, .int (x3)), (4, .int (x4))] 19 [] := by
  refine lfp_sound (σ := Int32 × Int32 × Int32) (F := fun KL s => wX1_glass_19_b c x0 x1 s.1 s.2.1 s.2.2 w0 KL K) (P := fun s => J E w0 b [(0, .ref (x0)), (1, .int (x1)), (2, .int (s.1)), (3, .int (s.2.1)), (4, .int (s.2.2))] 19 []) ?_ hw
  clear hw
  rintro KL19 ⟨x2, x3, x4⟩ hw ih19
  have hw : wX1_glass_19_b c x0 x1 x2 x3 x4 w0 KL19 K := hw
  unfold wX1_glass_19_b at hw
  refine j_iload hE 4 dX1_glass_19 rfl ?_
  refine j_iload_n hE 1 dX1_glass_21 rfl rfl ?_
  refine j_iadd hE dX1_glass_22 ?_
  refine j_bipush hE dX1_glass_23 kb_10 ?_
  refine j_icmp_gt hE 97 dX1_glass_25 (by decide) (fun c1 => ?_) (fun c1 => ?_)
  · replace hw := hw.1 c1
    refine j_iload_n hE 2 dX1_glass_97 rfl rfl ?_
    exact j_iret hE hK dX1_glass_98 rfl ⟨rfl, hw⟩
  · replace hw := hw.2 c1
    refine j_iconst hE dX1_glass_28 kc_0 ?_
    refine j_istore (L' := [(5, .int ((0 : Int32))), (0, .ref (x0)), (1, .int (x1)), (2, .int (x2)), (3, .int (x3)), (4, .int (x4))]) hE hn dX1_glass_29 (Nat.le_of_ble_eq_true rfl) rfl ?_
    refine j_iconst hE dX1_glass_31 kc_0 ?_
    refine j_istore (L' := [(6, .int ((0 : Int32))), (5, .int ((0 : Int32))), (0, .ref (x0)), (1, .int (x1)), (2, .int (x2)), (3, .int (x3)), (4, .int (x4))]) hE hn dX1_glass_32 (Nat.le_of_ble_eq_true rfl) rfl ?_
    refine j_sub [(0, .ref (x0)), (1, .int (x1)), (2, .int (x2)), (3, .int (x3)), (4, .int (x4)), (5, .int ((0 : Int32))), (6, .int ((0 : Int32)))] [2, 3, 4, 5, 6, 1, 0] rfl ?_
    have hz := bX1_glass_34 (b := b) hE hn hR hc hK ih19 hw
    exact hz
def wX1_glass_0 (c : Nat → Option Nat) (x0 : Nat) (x1 : Int32) (w0 : GW) (K : Int32 → Prop) : Prop :=
  wX1_in c x1 ((1 : Int32)) (nI 10) w0 (fun r1 => (¬ r1 = 0 → (wX1_glass_19 c x0 x1 ((0 : Int32)) ((-1 : Int32)) ((0 : Int32)) w0 K)) ∧ (r1 = 0 → (K ((-1 : Int32)))))
set_option maxRecDepth 100000 in
theorem bX1_glass_0 {E : jE} (hE : jOk E cX1_glass RX1) (hn : E.2.2.2.2 = 7) (hR : jRoom E 2 40) {c : Nat → Option Nat} (hc : E.2.2.1.2.2.2 = c) {b : Nat × Nat} {w0 : GW} {K : Int32 → Prop} (hK : jRi E .int (KPI w0 K)) {x0 : Nat} {x1 : Int32}  (hw : wX1_glass_0 c x0 x1 w0 K) : J E w0 b [(0, .ref (x0)), (1, .int (x1))] 0 [] := by
  unfold wX1_glass_0 at hw
  refine j_iload_n hE 1 dX1_glass_0 rfl rfl ?_
  refine j_iconst hE dX1_glass_1 kc_1 ?_
  refine j_bipush hE dX1_glass_2 kb_10 ?_
  refine jc_ip (jr_S hE hR (As := [.int (x1), .int ((1 : Int32)), .int (nI 10)]) (rest := []) ((ctX1_in E.1.2.1 E.2.2.1 hc _ _ _ _ _ hw) E.2.2.2.1) (lw_S q1162 q919 q121 q920) jdX1_in ⟨Nat.le_of_ble_eq_true rfl, Nat.le_of_ble_eq_true rfl⟩ ⟨Nat.zero_le _, Nat.zero_le _⟩  rfl (Nat.le_of_ble_eq_true rfl) dX1_glass_4) (fun r1 hw => ?_)
  refine j_b0 ?_
  refine j_if_ne hE 12 dX1_glass_7 (by decide) (fun c2 => ?_) (fun c2 => ?_)
  · replace hw := hw.1 c2
    refine j_iconst hE dX1_glass_12 kc_0 ?_
    refine j_istore_n (L' := [(2, .int ((0 : Int32))), (0, .ref (x0)), (1, .int (x1))]) hE hn dX1_glass_13 rfl (Nat.le_of_ble_eq_true rfl) rfl ?_
    refine j_iconst hE dX1_glass_14 kc_m1 ?_
    refine j_istore_n (L' := [(3, .int ((-1 : Int32))), (2, .int ((0 : Int32))), (0, .ref (x0)), (1, .int (x1))]) hE hn dX1_glass_15 rfl (Nat.le_of_ble_eq_true rfl) rfl ?_
    refine j_iconst hE dX1_glass_16 kc_0 ?_
    refine j_istore (L' := [(4, .int ((0 : Int32))), (3, .int ((-1 : Int32))), (2, .int ((0 : Int32))), (0, .ref (x0)), (1, .int (x1))]) hE hn dX1_glass_17 (Nat.le_of_ble_eq_true rfl) rfl ?_
    refine j_sub [(0, .ref (x0)), (1, .int (x1)), (2, .int ((0 : Int32))), (3, .int ((-1 : Int32))), (4, .int ((0 : Int32)))] [3, 4, 2, 1, 0] rfl ?_
    have hz := bX1_glass_19 (b := b) hE hn hR hc hK  hw
    exact hz
  · replace hw := hw.2 c2
    refine j_iconst hE dX1_glass_10 kc_m1 ?_
    exact j_iret hE hK dX1_glass_11 rfl ⟨rfl, hw⟩
theorem jdX1_glass : jD yX1_glass 1 := by decide +kernel
abbrev wX1_glass := wX1_glass_0
theorem ctX1_glass (l : Launch) (G : gG) {c : Nat → Option Nat} (hc : G.2.2.2 = c) (x0 : Nat) (x1 : Int32) (w0 : GW) (K : Int32 → Prop) (hw : wX1_glass_0 c x0 x1 w0 K) {F2 L2 : Nat} (h2 : 2 ≤ F2 ∧ 40 ≤ L2 := by exact ⟨Nat.le_refl _, Nat.le_refl _⟩) : CtI l yX1_glass cX1_glass 7 .int ({ frames := F2, cells := 0, slots := 0, locals := L2 }) G [.ref (x0), .int (x1)] w0 (KPI w0 K) :=
  CtI.of RX1 plainc_X1 rfl (Nat.le_of_ble_eq_true rfl) (fun E hE hl hG hn hR hK => bX1_glass_0 hE hn (hR.le h2.1 h2.2) (by rw [hG]; exact hc) hK hw)
def wX1_seen_0 (c : Nat → Option Nat) (x0 : Nat) (x1 : Int32) (w0 : GW) (K : Int32 → Prop) : Prop :=
  gmc w0 x0 = some 0 ∧ (wX1_isPerson c x0 x1 w0 (fun r1 => (r1 = 0 → (K ((-1 : Int32)))) ∧ (¬ r1 = 0 → (∃ f4 : Option Nat, gfm w0 x0 [0] 4 = some (va_rf f4) ∧ (∃ f6 : Option Nat, gfm w0 x0 [0] 4 = some (va_rf f6) ∧ (∃ a8 : Nat, f6 = some a8 ∧ (∃ f9 : Option Nat, gfm w0 a8 [3] 0 = some (va_rf f9) ∧ (∃ a11 : Nat, f9 = some a11 ∧ (∃ (n12 : Nat) (f13 : Nat → Int32), gai w0 a11 0 = some (n12, f13) ∧ vp_in x1 n12 ∧ (∃ a16 : Nat, f4 = some a16 ∧ (gmc w0 x0 = some 0 ∧ (wX1_seeing c x0 a16 (rd f13 x1) w0 (fun r17 => K r17)))))))))))))
set_option maxRecDepth 100000 in
theorem bX1_seen_0 {E : jE} (hE : jOk E cX1_seen RX1) (hn : E.2.2.2.2 = 2) (hR : jRoom E 6 131) {c : Nat → Option Nat} (hc : E.2.2.1.2.2.2 = c) {b : Nat × Nat} {w0 : GW} {K : Int32 → Prop} (hK : jRi E .int (KPI w0 K)) {x0 : Nat} {x1 : Int32}  (hw : wX1_seen_0 c x0 x1 w0 K) : J E w0 b [(0, .ref (x0)), (1, .int (x1))] 0 [] := by
  unfold wX1_seen_0 at hw
  refine j_aload_n hE 0 dX1_seen_0 rfl rfl ?_
  refine j_iload_n hE 1 dX1_seen_1 rfl rfl ?_
  obtain ⟨h2, hw⟩ := hw
  refine jc_ip (jr_V hE hR (As := [.int (x1)]) (rest := []) ((ctX1_isPerson E.1.2.1 E.2.2.1 hc _ _ _ _ hw) E.2.2.2.1) (lw_V q1238 q1240 qs35 q121 q1241) jdX1_isPerson ⟨Nat.le_of_ble_eq_true rfl, Nat.le_of_ble_eq_true rfl⟩ ⟨Nat.zero_le _, Nat.zero_le _⟩ (gmc_gIs h2 (r := (RX1, TX1, 15)) rfl) rfl (Nat.le_of_ble_eq_true rfl) dX1_seen_2) (fun r1 hw => ?_)
  refine j_b0 ?_
  refine j_if_eq hE 28 dX1_seen_5 (by decide) (fun c3 => ?_) (fun c3 => ?_)
  · replace hw := hw.1 c3
    refine j_iconst hE dX1_seen_28 kc_m1 ?_
    exact j_iret hE hK dX1_seen_29 rfl ⟨rfl, hw⟩
  · replace hw := hw.2 c3
    refine j_aload_n hE 0 dX1_seen_8 rfl rfl ?_
    refine j_aload_n hE 0 dX1_seen_9 rfl rfl ?_
    obtain ⟨f4, h5, hw⟩ := hw
    refine j_getM hE gf_GlassStreet_state q351 h5 dX1_seen_10 ?_
    refine j_aload_n hE 0 dX1_seen_13 rfl rfl ?_
    obtain ⟨f6, h7, hw⟩ := hw
    refine j_getM hE gf_GlassStreet_state q351 h7 dX1_seen_14 ?_
    obtain ⟨a8, e9, hx⟩ := hw
    subst e9
    have hw := hx
    clear hx
    obtain ⟨f9, h10, hw⟩ := hw
    refine j_getMN hE gf_GlassStreet_State_at q317 h10 dX1_seen_17 ?_
    refine j_iload_n hE 1 dX1_seen_20 rfl rfl ?_
    obtain ⟨a11, e9, hx⟩ := hw
    subst e9
    have hw := hx
    clear hx
    obtain ⟨n12, f13, h14, h15, hw⟩ := hw
    refine j_aldI hE h14 h15 dX1_seen_21 ?_
    obtain ⟨a16, e9, hx⟩ := hw
    subst e9
    have hw := hx
    clear hx
    obtain ⟨h18, hw⟩ := hw
    refine jc_ip (jr_V hE hR (As := [.ref (a16), .int (rd f13 x1)]) (rest := []) ((ctX1_seeing E.1.2.1 E.2.2.1 hc _ _ _ _ _ hw) E.2.2.2.1) (lw_V q1282 q1284 qs41 q121 q1285) jdX1_seeing ⟨Nat.le_of_ble_eq_true rfl, Nat.le_of_ble_eq_true rfl⟩ ⟨Nat.zero_le _, Nat.zero_le _⟩ (gmc_gIs h18 (r := (RX1, TX1, 15)) rfl) rfl (Nat.le_of_ble_eq_true rfl) dX1_seen_22) (fun r17 hw => ?_)
    refine j_b0 ?_
    refine j_goto hE 29 dX1_seen_25 (by decide) ?_
    exact j_iret hE hK dX1_seen_29 rfl ⟨rfl, hw⟩
theorem jdX1_seen : jD yX1_seen 1 := by decide +kernel
abbrev wX1_seen := wX1_seen_0
theorem ctX1_seen (l : Launch) (G : gG) {c : Nat → Option Nat} (hc : G.2.2.2 = c) (x0 : Nat) (x1 : Int32) (w0 : GW) (K : Int32 → Prop) (hw : wX1_seen_0 c x0 x1 w0 K) {F2 L2 : Nat} (h2 : 6 ≤ F2 ∧ 131 ≤ L2 := by exact ⟨Nat.le_refl _, Nat.le_refl _⟩) : CtI l yX1_seen cX1_seen 2 .int ({ frames := F2, cells := 0, slots := 0, locals := L2 }) G [.ref (x0), .int (x1)] w0 (KPI w0 K) :=
  CtI.of RX1 plainc_X1 rfl (Nat.le_of_ble_eq_true rfl) (fun E hE hl hG hn hR hK => bX1_seen_0 hE hn (hR.le h2.1 h2.2) (by rw [hG]; exact hc) hK hw)
def wX1_eyes_4_b (c : Nat → Option Nat) (x0 : Nat) (x1 : Int32) (x2 : Int32) (w0 : GW) (KL4 : Int32 × Int32 → Prop) (K : Int32 → Prop) : Prop :=
  ((nI 10) ≤ x2 → (K x1)) ∧ (¬ (nI 10) ≤ x2 → (∃ f2 : Option Nat, gfm w0 x0 [0] 4 = some (va_rf f2) ∧ (∃ a4 : Nat, f2 = some a4 ∧ (gmc w0 x0 = some 0 ∧ (wX1_seeing c x0 a4 x2 w0 (fun r5 => wJ17_bitCount c r5 w0 (fun r7 => ∃ f8 : Option Nat, gfm w0 x0 [0] 4 = some (va_rf f8) ∧ (∃ a10 : Nat, f8 = some a10 ∧ (gmc w0 x0 = some 0 ∧ (wX1_seeing c x0 a10 x1 w0 (fun r11 => wJ17_bitCount c r11 w0 (fun r13 => (r7 ≤ r13 → (KL4 (x1, (x2 + 1)))) ∧ (¬ r7 ≤ r13 → (KL4 (x2, (x2 + 1))))))))))))))))
def wX1_eyes_4 (c : Nat → Option Nat) (x0 : Nat) (x1 : Int32) (x2 : Int32) (w0 : GW) (K : Int32 → Prop) : Prop := lfp (σ := Int32 × Int32) (fun KL s => wX1_eyes_4_b c x0 s.1 s.2 w0 KL K) (x1, x2)
set_option maxRecDepth 100000 in
theorem bX1_eyes_4 {E : jE} (hE : jOk E cX1_eyes RX1) (hn : E.2.2.2.2 = 3) (hR : jRoom E 6 131) {c : Nat → Option Nat} (hc : E.2.2.1.2.2.2 = c) {b : Nat × Nat} {w0 : GW} {K : Int32 → Prop} (hK : jRi E .int (KPI w0 K)) {x0 : Nat} {x1 : Int32} {x2 : Int32}  (hw : wX1_eyes_4 c x0 x1 x2 w0 K) : J E w0 b [(0, .ref (x0)), (1, .int (x1)), (2, .int (x2))] 4 [] := by
  refine lfp_sound (σ := Int32 × Int32) (F := fun KL s => wX1_eyes_4_b c x0 s.1 s.2 w0 KL K) (P := fun s => J E w0 b [(0, .ref (x0)), (1, .int (s.1)), (2, .int (s.2))] 4 []) ?_ hw
  clear hw
  rintro KL4 ⟨x1, x2⟩ hw ih4
  have hw : wX1_eyes_4_b c x0 x1 x2 w0 KL4 K := hw
  unfold wX1_eyes_4_b at hw
  refine j_iload_n hE 2 dX1_eyes_4 rfl rfl ?_
  refine j_bipush hE dX1_eyes_5 kb_10 ?_
  refine j_icmp_ge hE 45 dX1_eyes_7 (by decide) (fun c1 => ?_) (fun c1 => ?_)
  · replace hw := hw.1 c1
    refine j_iload_n hE 1 dX1_eyes_45 rfl rfl ?_
    exact j_iret hE hK dX1_eyes_46 rfl ⟨rfl, hw⟩
  · replace hw := hw.2 c1
    refine j_aload_n hE 0 dX1_eyes_10 rfl rfl ?_
    refine j_aload_n hE 0 dX1_eyes_11 rfl rfl ?_
    obtain ⟨f2, h3, hw⟩ := hw
    refine j_getM hE gf_GlassStreet_state q351 h3 dX1_eyes_12 ?_
    refine j_iload_n hE 2 dX1_eyes_15 rfl rfl ?_
    obtain ⟨a4, e9, hx⟩ := hw
    subst e9
    have hw := hx
    clear hx
    obtain ⟨h6, hw⟩ := hw
    refine jc_ip (jr_V hE hR (As := [.ref (a4), .int (x2)]) (rest := []) ((ctX1_seeing E.1.2.1 E.2.2.1 hc _ _ _ _ _ hw) E.2.2.2.1) (lw_V q1282 q1284 qs41 q121 q1285) jdX1_seeing ⟨Nat.le_of_ble_eq_true rfl, Nat.le_of_ble_eq_true rfl⟩ ⟨Nat.zero_le _, Nat.zero_le _⟩ (gmc_gIs h6 (r := (RX1, TX1, 15)) rfl) rfl (Nat.le_of_ble_eq_true rfl) dX1_eyes_16) (fun r5 hw => ?_)
    refine j_b0 ?_
    refine jc_ip (jr_S hE hR (As := [.int (r5)]) (rest := []) ((ctJ17_bitCount E.1.2.1 E.2.2.1 hc _ _ _ hw) E.2.2.2.1) (lw_S q1414 q1415 q161 q1416) jdJ17_bitCount ⟨Nat.le_of_ble_eq_true rfl, Nat.le_of_ble_eq_true rfl⟩ ⟨Nat.zero_le _, Nat.zero_le _⟩  rfl (Nat.le_of_ble_eq_true rfl) dX1_eyes_19) (fun r7 hw => ?_)
    refine j_b0 ?_
    refine j_aload_n hE 0 dX1_eyes_22 rfl rfl ?_
    refine j_aload_n hE 0 dX1_eyes_23 rfl rfl ?_
    obtain ⟨f8, h9, hw⟩ := hw
    refine j_getM hE gf_GlassStreet_state q351 h9 dX1_eyes_24 ?_
    refine j_iload_n hE 1 dX1_eyes_27 rfl rfl ?_
    obtain ⟨a10, e9, hx⟩ := hw
    subst e9
    have hw := hx
    clear hx
    obtain ⟨h12, hw⟩ := hw
    refine jc_ip (jr_V hE hR (As := [.ref (a10), .int (x1)]) (rest := [.int (r7)]) ((ctX1_seeing E.1.2.1 E.2.2.1 hc _ _ _ _ _ hw) E.2.2.2.1) (lw_V q1282 q1284 qs41 q121 q1285) jdX1_seeing ⟨Nat.le_of_ble_eq_true rfl, Nat.le_of_ble_eq_true rfl⟩ ⟨Nat.zero_le _, Nat.zero_le _⟩ (gmc_gIs h12 (r := (RX1, TX1, 15)) rfl) rfl (Nat.le_of_ble_eq_true rfl) dX1_eyes_28) (fun r11 hw => ?_)
    refine j_b0 ?_
    refine jc_ip (jr_S hE hR (As := [.int (r11)]) (rest := [.int (r7)]) ((ctJ17_bitCount E.1.2.1 E.2.2.1 hc _ _ _ hw) E.2.2.2.1) (lw_S q1414 q1415 q161 q1416) jdJ17_bitCount ⟨Nat.le_of_ble_eq_true rfl, Nat.le_of_ble_eq_true rfl⟩ ⟨Nat.zero_le _, Nat.zero_le _⟩  rfl (Nat.le_of_ble_eq_true rfl) dX1_eyes_31) (fun r13 hw => ?_)
    refine j_b0 ?_
    refine j_icmp_le hE 39 dX1_eyes_34 (by decide) (fun c14 => ?_) (fun c14 => ?_)
    · replace hw := hw.1 c14
      refine j_iinc (L' := [(2, .int (x2 + 1)), (0, .ref (x0)), (1, .int (x1))]) hE hn 2 dX1_eyes_39 rfl (congrArg (x2 + ·) kc_1) (Nat.le_of_ble_eq_true rfl) rfl ?_
      refine j_goto hE 4 dX1_eyes_42 (by decide) ?_
      refine j_sub [(0, .ref (x0)), (1, .int (x1)), (2, .int (x2 + 1))] [1, 2, 0] rfl ?_
      have hz := ih4 (x1, (x2 + 1)) hw
      exact hz
    · replace hw := hw.2 c14
      refine j_iload_n hE 2 dX1_eyes_37 rfl rfl ?_
      refine j_istore_n (L' := [(1, .int (x2)), (0, .ref (x0)), (2, .int (x2))]) hE hn dX1_eyes_38 rfl (Nat.le_of_ble_eq_true rfl) rfl ?_
      refine j_iinc (L' := [(2, .int (x2 + 1)), (1, .int (x2)), (0, .ref (x0))]) hE hn 2 dX1_eyes_39 rfl (congrArg (x2 + ·) kc_1) (Nat.le_of_ble_eq_true rfl) rfl ?_
      refine j_goto hE 4 dX1_eyes_42 (by decide) ?_
      refine j_sub [(0, .ref (x0)), (1, .int (x2)), (2, .int (x2 + 1))] [2, 1, 0] rfl ?_
      have hz := ih4 (x2, (x2 + 1)) hw
      exact hz
def wX1_eyes_0 (c : Nat → Option Nat) (x0 : Nat) (w0 : GW) (K : Int32 → Prop) : Prop :=
  wX1_eyes_4 c x0 ((0 : Int32)) ((1 : Int32)) w0 K
set_option maxRecDepth 100000 in
theorem bX1_eyes_0 {E : jE} (hE : jOk E cX1_eyes RX1) (hn : E.2.2.2.2 = 3) (hR : jRoom E 6 131) {c : Nat → Option Nat} (hc : E.2.2.1.2.2.2 = c) {b : Nat × Nat} {w0 : GW} {K : Int32 → Prop} (hK : jRi E .int (KPI w0 K)) {x0 : Nat}  (hw : wX1_eyes_0 c x0 w0 K) : J E w0 b [(0, .ref (x0))] 0 [] := by
  unfold wX1_eyes_0 at hw
  refine j_iconst hE dX1_eyes_0 kc_0 ?_
  refine j_istore_n (L' := [(1, .int ((0 : Int32))), (0, .ref (x0))]) hE hn dX1_eyes_1 rfl (Nat.le_of_ble_eq_true rfl) rfl ?_
  refine j_iconst hE dX1_eyes_2 kc_1 ?_
  refine j_istore_n (L' := [(2, .int ((1 : Int32))), (1, .int ((0 : Int32))), (0, .ref (x0))]) hE hn dX1_eyes_3 rfl (Nat.le_of_ble_eq_true rfl) rfl ?_
  refine j_sub [(0, .ref (x0)), (1, .int ((0 : Int32))), (2, .int ((1 : Int32)))] [2, 1, 0] rfl ?_
  have hz := bX1_eyes_4 (b := b) hE hn hR hc hK  hw
  exact hz
theorem jdX1_eyes : jD yX1_eyes 0 := by decide +kernel
abbrev wX1_eyes := wX1_eyes_0
theorem ctX1_eyes (l : Launch) (G : gG) {c : Nat → Option Nat} (hc : G.2.2.2 = c) (x0 : Nat) (w0 : GW) (K : Int32 → Prop) (hw : wX1_eyes_0 c x0 w0 K) {F2 L2 : Nat} (h2 : 6 ≤ F2 ∧ 131 ≤ L2 := by exact ⟨Nat.le_refl _, Nat.le_refl _⟩) : CtI l yX1_eyes cX1_eyes 3 .int ({ frames := F2, cells := 0, slots := 0, locals := L2 }) G [.ref (x0)] w0 (KPI w0 K) :=
  CtI.of RX1 plainc_X1 rfl (Nat.le_of_ble_eq_true rfl) (fun E hE hl hG hn hR hK => bX1_eyes_0 hE hn (hR.le h2.1 h2.2) (by rw [hG]; exact hc) hK hw)
def wX1_blind_4_b (c : Nat → Option Nat) (x0 : Nat) (x1 : Int32) (x2 : Int32) (w0 : GW) (KL4 : Int32 × Int32 → Prop) (K : Int32 → Prop) : Prop :=
  ((nI 10) ≤ x2 → (K x1)) ∧ (¬ (nI 10) ≤ x2 → (∃ f2 : Option Nat, gfm w0 x0 [0] 4 = some (va_rf f2) ∧ (∃ a4 : Nat, f2 = some a4 ∧ (gmc w0 x0 = some 0 ∧ (wX1_seeing c x0 a4 x2 w0 (fun r5 => (¬ r5 = 0 → (KL4 (x1, (x2 + 1)))) ∧ (r5 = 0 → (∀ v8 : Int32, v8 = x1 ||| (ishl ((1 : Int32)) x2) → (KL4 (v8, (x2 + 1)))))))))))
def wX1_blind_4 (c : Nat → Option Nat) (x0 : Nat) (x1 : Int32) (x2 : Int32) (w0 : GW) (K : Int32 → Prop) : Prop := lfp (σ := Int32 × Int32) (fun KL s => wX1_blind_4_b c x0 s.1 s.2 w0 KL K) (x1, x2)
set_option maxRecDepth 100000 in
theorem bX1_blind_4 {E : jE} (hE : jOk E cX1_blind RX1) (hn : E.2.2.2.2 = 3) (hR : jRoom E 6 131) {c : Nat → Option Nat} (hc : E.2.2.1.2.2.2 = c) {b : Nat × Nat} {w0 : GW} {K : Int32 → Prop} (hK : jRi E .int (KPI w0 K)) {x0 : Nat} {x1 : Int32} {x2 : Int32}  (hw : wX1_blind_4 c x0 x1 x2 w0 K) : J E w0 b [(0, .ref (x0)), (1, .int (x1)), (2, .int (x2))] 4 [] := by
  refine lfp_sound (σ := Int32 × Int32) (F := fun KL s => wX1_blind_4_b c x0 s.1 s.2 w0 KL K) (P := fun s => J E w0 b [(0, .ref (x0)), (1, .int (s.1)), (2, .int (s.2))] 4 []) ?_ hw
  clear hw
  rintro KL4 ⟨x1, x2⟩ hw ih4
  have hw : wX1_blind_4_b c x0 x1 x2 w0 KL4 K := hw
  unfold wX1_blind_4_b at hw
  refine j_iload_n hE 2 dX1_blind_4 rfl rfl ?_
  refine j_bipush hE dX1_blind_5 kb_10 ?_
  refine j_icmp_ge hE 34 dX1_blind_7 (by decide) (fun c1 => ?_) (fun c1 => ?_)
  · replace hw := hw.1 c1
    refine j_iload_n hE 1 dX1_blind_34 rfl rfl ?_
    exact j_iret hE hK dX1_blind_35 rfl ⟨rfl, hw⟩
  · replace hw := hw.2 c1
    refine j_aload_n hE 0 dX1_blind_10 rfl rfl ?_
    refine j_aload_n hE 0 dX1_blind_11 rfl rfl ?_
    obtain ⟨f2, h3, hw⟩ := hw
    refine j_getM hE gf_GlassStreet_state q351 h3 dX1_blind_12 ?_
    refine j_iload_n hE 2 dX1_blind_15 rfl rfl ?_
    obtain ⟨a4, e9, hx⟩ := hw
    subst e9
    have hw := hx
    clear hx
    obtain ⟨h6, hw⟩ := hw
    refine jc_ip (jr_V hE hR (As := [.ref (a4), .int (x2)]) (rest := []) ((ctX1_seeing E.1.2.1 E.2.2.1 hc _ _ _ _ _ hw) E.2.2.2.1) (lw_V q1282 q1284 qs41 q121 q1285) jdX1_seeing ⟨Nat.le_of_ble_eq_true rfl, Nat.le_of_ble_eq_true rfl⟩ ⟨Nat.zero_le _, Nat.zero_le _⟩ (gmc_gIs h6 (r := (RX1, TX1, 15)) rfl) rfl (Nat.le_of_ble_eq_true rfl) dX1_blind_16) (fun r5 hw => ?_)
    refine j_b0 ?_
    refine j_if_ne hE 28 dX1_blind_19 (by decide) (fun c7 => ?_) (fun c7 => ?_)
    · replace hw := hw.1 c7
      refine j_iinc (L' := [(2, .int (x2 + 1)), (0, .ref (x0)), (1, .int (x1))]) hE hn 2 dX1_blind_28 rfl (congrArg (x2 + ·) kc_1) (Nat.le_of_ble_eq_true rfl) rfl ?_
      refine j_goto hE 4 dX1_blind_31 (by decide) ?_
      refine j_sub [(0, .ref (x0)), (1, .int (x1)), (2, .int (x2 + 1))] [1, 2, 0] rfl ?_
      have hz := ih4 (x1, (x2 + 1)) hw
      exact hz
    · replace hw := hw.2 c7
      refine j_iload_n hE 1 dX1_blind_22 rfl rfl ?_
      refine j_iconst hE dX1_blind_23 kc_1 ?_
      refine j_iload_n hE 2 dX1_blind_24 rfl rfl ?_
      refine j_ishl hE dX1_blind_25 ?_
      refine j_ior hE dX1_blind_26 ?_
      refine j_topi (fun v8 e_v8 => ?_)
      replace hw := hw v8 e_v8
      refine j_istore_n (L' := [(1, .int (v8)), (0, .ref (x0)), (2, .int (x2))]) hE hn dX1_blind_27 rfl (Nat.le_of_ble_eq_true rfl) rfl ?_
      refine j_iinc (L' := [(2, .int (x2 + 1)), (1, .int (v8)), (0, .ref (x0))]) hE hn 2 dX1_blind_28 rfl (congrArg (x2 + ·) kc_1) (Nat.le_of_ble_eq_true rfl) rfl ?_
      refine j_goto hE 4 dX1_blind_31 (by decide) ?_
      refine j_sub [(0, .ref (x0)), (1, .int (v8)), (2, .int (x2 + 1))] [2, 1, 0] rfl ?_
      have hz := ih4 (v8, (x2 + 1)) hw
      exact hz
def wX1_blind_0 (c : Nat → Option Nat) (x0 : Nat) (w0 : GW) (K : Int32 → Prop) : Prop :=
  wX1_blind_4 c x0 ((0 : Int32)) ((0 : Int32)) w0 K
set_option maxRecDepth 100000 in
theorem bX1_blind_0 {E : jE} (hE : jOk E cX1_blind RX1) (hn : E.2.2.2.2 = 3) (hR : jRoom E 6 131) {c : Nat → Option Nat} (hc : E.2.2.1.2.2.2 = c) {b : Nat × Nat} {w0 : GW} {K : Int32 → Prop} (hK : jRi E .int (KPI w0 K)) {x0 : Nat}  (hw : wX1_blind_0 c x0 w0 K) : J E w0 b [(0, .ref (x0))] 0 [] := by
  unfold wX1_blind_0 at hw
  refine j_iconst hE dX1_blind_0 kc_0 ?_
  refine j_istore_n (L' := [(1, .int ((0 : Int32))), (0, .ref (x0))]) hE hn dX1_blind_1 rfl (Nat.le_of_ble_eq_true rfl) rfl ?_
  refine j_iconst hE dX1_blind_2 kc_0 ?_
  refine j_istore_n (L' := [(2, .int ((0 : Int32))), (1, .int ((0 : Int32))), (0, .ref (x0))]) hE hn dX1_blind_3 rfl (Nat.le_of_ble_eq_true rfl) rfl ?_
  refine j_sub [(0, .ref (x0)), (1, .int ((0 : Int32))), (2, .int ((0 : Int32)))] [2, 1, 0] rfl ?_
  have hz := bX1_blind_4 (b := b) hE hn hR hc hK  hw
  exact hz
theorem jdX1_blind : jD yX1_blind 0 := by decide +kernel
abbrev wX1_blind := wX1_blind_0
theorem ctX1_blind (l : Launch) (G : gG) {c : Nat → Option Nat} (hc : G.2.2.2 = c) (x0 : Nat) (w0 : GW) (K : Int32 → Prop) (hw : wX1_blind_0 c x0 w0 K) {F2 L2 : Nat} (h2 : 6 ≤ F2 ∧ 131 ≤ L2 := by exact ⟨Nat.le_refl _, Nat.le_refl _⟩) : CtI l yX1_blind cX1_blind 3 .int ({ frames := F2, cells := 0, slots := 0, locals := L2 }) G [.ref (x0)] w0 (KPI w0 K) :=
  CtI.of RX1 plainc_X1 rfl (Nat.le_of_ble_eq_true rfl) (fun E hE hl hG hn hR hK => bX1_blind_0 hE hn (hR.le h2.1 h2.2) (by rw [hG]; exact hc) hK hw)
def wX1_young_26_b (c : Nat → Option Nat) (x0 : Nat) (x1 : Int32) (x3 : Int32) (x4 : Option Nat) (x2 : Int32) (x5 : Int32) (w0 : GW) (KL26 : Int32 × Int32 → Prop) (KL4 : Int32 × Int32 → Prop) (K : Int32 → Prop) : Prop :=
  ∃ a1 : Nat, x4 = some a1 ∧ (∃ f2 : Int32, gfm w0 a1 [4] 4 = some (.int f2) ∧ ((f2 ≤ x5 → (KL4 (x2, (x3 + 1)))) ∧ (¬ f2 ≤ x5 → (∃ f5 : Option Nat, gfm w0 a1 [4] 3 = some (va_rf f5) ∧ (∃ a7 : Nat, f5 = some a7 ∧ (∃ (n8 : Nat) (f9 : Nat → Int32), gai w0 a7 0 = some (n8, f9) ∧ vp_in x5 n8 ∧ ((x1 < (rd f9 x5) → (KL26 (x2, (x5 + 1)))) ∧ (¬ x1 < (rd f9 x5) → (KL26 ((x2 + 1), (x5 + 1)))))))))))
def wX1_young_26 (c : Nat → Option Nat) (x0 : Nat) (x1 : Int32) (x3 : Int32) (x4 : Option Nat) (x2 : Int32) (x5 : Int32) (w0 : GW) (KL4 : Int32 × Int32 → Prop) (K : Int32 → Prop) : Prop := lfp (σ := Int32 × Int32) (fun KL s => wX1_young_26_b c x0 x1 x3 x4 s.1 s.2 w0 KL KL4 K) (x2, x5)
set_option maxRecDepth 100000 in
theorem bX1_young_26 {E : jE} (hE : jOk E cX1_young RX1) (hn : E.2.2.2.2 = 6) (hR : jRoom E 2 40) {c : Nat → Option Nat} (hc : E.2.2.1.2.2.2 = c) {b : Nat × Nat} {w0 : GW} {K : Int32 → Prop} (hK : jRi E .int (KPI w0 K)) {x0 : Nat} {x1 : Int32} {x3 : Int32} {x4 : Option Nat} {x2 : Int32} {x5 : Int32} {KL4 : Int32 × Int32 → Prop} (ih4 : ∀ s : Int32 × Int32, KL4 s → J E w0 b [(0, .ref (x0)), (1, .int (x1)), (2, .int (s.1)), (3, .int (s.2))] 4 []) (hw : wX1_young_26 c x0 x1 x3 x4 x2 x5 w0 KL4 K) : J E w0 b [(0, .ref (x0)), (1, .int (x1)), (2, .int (x2)), (3, .int (x3)), (4, va_rf (x4)), (5, .int (x5))] 26 [] := by
  refine lfp_sound (σ := Int32 × Int32) (F := fun KL s => wX1_young_26_b c x0 x1 x3 x4 s.1 s.2 w0 KL KL4 K) (P := fun s => J E w0 b [(0, .ref (x0)), (1, .int (x1)), (2, .int (s.1)), (3, .int (x3)), (4, va_rf (x4)), (5, .int (s.2))] 26 []) ?_ hw
  clear hw
  rintro KL26 ⟨x2, x5⟩ hw ih26
  have hw : wX1_young_26_b c x0 x1 x3 x4 x2 x5 w0 KL26 KL4 K := hw
  unfold wX1_young_26_b at hw
  refine j_iload hE 5 dX1_young_26 rfl ?_
  refine j_aloadq hE 4 dX1_young_28 rfl ?_
  obtain ⟨a1, e9, hx⟩ := hw
  subst e9
  have hw := hx
  clear hx
  obtain ⟨f2, h3, hw⟩ := hw
  refine j_getMN hE gf_GlassStreet_Marks_many q303 h3 dX1_young_30 ?_
  refine j_icmp_ge hE 57 dX1_young_33 (by decide) (fun c4 => ?_) (fun c4 => ?_)
  · replace hw := hw.1 c4
    refine j_iinc (L' := [(3, .int (x3 + 1)), (0, .ref (x0)), (1, .int (x1)), (2, .int (x2)), (4, .ref (a1)), (5, .int (x5))]) hE hn 3 dX1_young_57 rfl (congrArg (x3 + ·) kc_1) (Nat.le_of_ble_eq_true rfl) rfl ?_
    refine j_goto hE 4 dX1_young_60 (by decide) ?_
    refine j_sub [(0, .ref (x0)), (1, .int (x1)), (2, .int (x2)), (3, .int (x3 + 1))] [1, 2, 3, 0] rfl ?_
    have hz := ih4 (x2, (x3 + 1)) hw
    exact hz
  · replace hw := hw.2 c4
    refine j_aload hE 4 dX1_young_36 rfl ?_
    obtain ⟨f5, h6, hw⟩ := hw
    refine j_getMN hE gf_GlassStreet_Marks_age q299 h6 dX1_young_38 ?_
    refine j_iload hE 5 dX1_young_41 rfl ?_
    obtain ⟨a7, e9, hx⟩ := hw
    subst e9
    have hw := hx
    clear hx
    obtain ⟨n8, f9, h10, h11, hw⟩ := hw
    refine j_aldI hE h10 h11 dX1_young_43 ?_
    refine j_iload_n hE 1 dX1_young_44 rfl rfl ?_
    refine j_icmp_gt hE 51 dX1_young_45 (by decide) (fun c12 => ?_) (fun c12 => ?_)
    · replace hw := hw.1 c12
      refine j_iinc (L' := [(5, .int (x5 + 1)), (0, .ref (x0)), (1, .int (x1)), (2, .int (x2)), (3, .int (x3)), (4, .ref (a1))]) hE hn 5 dX1_young_51 rfl (congrArg (x5 + ·) kc_1) (Nat.le_of_ble_eq_true rfl) rfl ?_
      refine j_goto hE 26 dX1_young_54 (by decide) ?_
      refine j_sub [(0, .ref (x0)), (1, .int (x1)), (2, .int (x2)), (3, .int (x3)), (4, .ref (a1)), (5, .int (x5 + 1))] [1, 2, 3, 4, 5, 0] rfl ?_
      have hz := ih26 (x2, (x5 + 1)) hw
      exact hz
    · replace hw := hw.2 c12
      refine j_iinc (L' := [(2, .int (x2 + 1)), (0, .ref (x0)), (1, .int (x1)), (3, .int (x3)), (4, .ref (a1)), (5, .int (x5))]) hE hn 2 dX1_young_48 rfl (congrArg (x2 + ·) kc_1) (Nat.le_of_ble_eq_true rfl) rfl ?_
      refine j_iinc (L' := [(5, .int (x5 + 1)), (2, .int (x2 + 1)), (0, .ref (x0)), (1, .int (x1)), (3, .int (x3)), (4, .ref (a1))]) hE hn 5 dX1_young_51 rfl (congrArg (x5 + ·) kc_1) (Nat.le_of_ble_eq_true rfl) rfl ?_
      refine j_goto hE 26 dX1_young_54 (by decide) ?_
      refine j_sub [(0, .ref (x0)), (1, .int (x1)), (2, .int (x2 + 1)), (3, .int (x3)), (4, .ref (a1)), (5, .int (x5 + 1))] [2, 3, 1, 4, 5, 0] rfl ?_
      have hz := ih26 ((x2 + 1), (x5 + 1)) hw
      exact hz
def wX1_young_4_b (c : Nat → Option Nat) (x0 : Nat) (x1 : Int32) (x2 : Int32) (x3 : Int32) (w0 : GW) (KL4 : Int32 × Int32 → Prop) (K : Int32 → Prop) : Prop :=
  gmc w0 x0 = some 0 ∧ (wX1_panes c x0 w0 (fun r1 => (r1 ≤ x3 → (K x2)) ∧ (¬ r1 ≤ x3 → (∃ f4 : Option Nat, gfm w0 x0 [0] 4 = some (va_rf f4) ∧ (∃ a6 : Nat, f4 = some a6 ∧ (∃ f7 : Option Nat, gfm w0 a6 [3] 1 = some (va_rf f7) ∧ (∃ a9 : Nat, f7 = some a9 ∧ (∃ (n10 : Nat) (f11 : Nat → Option Nat), gaq w0 a9 5 = some (n10, f11) ∧ vp_in x3 n10 ∧ (∀ r14 : Option Nat, f11 (x3).toNatClampNeg = r14 → (wX1_young_26 c x0 x1 x3 r14 x2 ((0 : Int32)) w0 KL4 K))))))))))
def wX1_young_4 (c : Nat → Option Nat) (x0 : Nat) (x1 : Int32) (x2 : Int32) (x3 : Int32) (w0 : GW) (K : Int32 → Prop) : Prop := lfp (σ := Int32 × Int32) (fun KL s => wX1_young_4_b c x0 x1 s.1 s.2 w0 KL K) (x2, x3)
set_option maxRecDepth 100000 in
theorem bX1_young_4 {E : jE} (hE : jOk E cX1_young RX1) (hn : E.2.2.2.2 = 6) (hR : jRoom E 2 40) {c : Nat → Option Nat} (hc : E.2.2.1.2.2.2 = c) {b : Nat × Nat} {w0 : GW} {K : Int32 → Prop} (hK : jRi E .int (KPI w0 K)) {x0 : Nat} {x1 : Int32} {x2 : Int32} {x3 : Int32}  (hw : wX1_young_4 c x0 x1 x2 x3 w0 K) : J E w0 b [(0, .ref (x0)), (1, .int (x1)), (2, .int (x2)), (3, .int (x3))] 4 [] := by
  refine lfp_sound (σ := Int32 × Int32) (F := fun KL s => wX1_young_4_b c x0 x1 s.1 s.2 w0 KL K) (P := fun s => J E w0 b [(0, .ref (x0)), (1, .int (x1)), (2, .int (s.1)), (3, .int (s.2))] 4 []) ?_ hw
  clear hw
  rintro KL4 ⟨x2, x3⟩ hw ih4
  have hw : wX1_young_4_b c x0 x1 x2 x3 w0 KL4 K := hw
  unfold wX1_young_4_b at hw
  refine j_iload_n hE 3 dX1_young_4 rfl rfl ?_
  refine j_aload_n hE 0 dX1_young_5 rfl rfl ?_
  obtain ⟨h2, hw⟩ := hw
  refine jc_ip (jr_V hE hR (As := []) (rest := [.int (x3)]) ((ctX1_panes E.1.2.1 E.2.2.1 hc _ _ _ hw) E.2.2.2.1) (lw_V q1157 q1159 qs31 q121 q1160) jdX1_panes ⟨Nat.le_of_ble_eq_true rfl, Nat.le_of_ble_eq_true rfl⟩ ⟨Nat.zero_le _, Nat.zero_le _⟩ (gmc_gIs h2 (r := (RX1, TX1, 15)) rfl) rfl (Nat.le_of_ble_eq_true rfl) dX1_young_6) (fun r1 hw => ?_)
  refine j_b0 ?_
  refine j_icmp_ge hE 63 dX1_young_9 (by decide) (fun c3 => ?_) (fun c3 => ?_)
  · replace hw := hw.1 c3
    refine j_iload_n hE 2 dX1_young_63 rfl rfl ?_
    exact j_iret hE hK dX1_young_64 rfl ⟨rfl, hw⟩
  · replace hw := hw.2 c3
    refine j_aload_n hE 0 dX1_young_12 rfl rfl ?_
    obtain ⟨f4, h5, hw⟩ := hw
    refine j_getM hE gf_GlassStreet_state q351 h5 dX1_young_13 ?_
    obtain ⟨a6, e9, hx⟩ := hw
    subst e9
    have hw := hx
    clear hx
    obtain ⟨f7, h8, hw⟩ := hw
    refine j_getMN hE gf_GlassStreet_State_marks q320 h8 dX1_young_16 ?_
    refine j_iload_n hE 3 dX1_young_19 rfl rfl ?_
    obtain ⟨a9, e9, hx⟩ := hw
    subst e9
    have hw := hx
    clear hx
    obtain ⟨n10, f11, h12, h13, hw⟩ := hw
    obtain ⟨r14, e_r14⟩ : ∃ r9, f11 (x3).toNatClampNeg = r9 := ⟨_, rfl⟩
    replace hw := hw r14 e_r14
    refine j_aldQ hE (t := 5) ⟨by decide, by decide⟩ h12 h13 e_r14 dX1_young_20 ?_
    refine j_astoreq (L' := [(4, va_rf (r14)), (0, .ref (x0)), (1, .int (x1)), (2, .int (x2)), (3, .int (x3))]) hE hn dX1_young_21 (Nat.le_of_ble_eq_true rfl) rfl ?_
    refine j_iconst hE dX1_young_23 kc_0 ?_
    refine j_istore (L' := [(5, .int ((0 : Int32))), (4, va_rf (r14)), (0, .ref (x0)), (1, .int (x1)), (2, .int (x2)), (3, .int (x3))]) hE hn dX1_young_24 (Nat.le_of_ble_eq_true rfl) (by cases r14 <;> rfl) ?_
    refine j_sub [(0, .ref (x0)), (1, .int (x1)), (2, .int (x2)), (3, .int (x3)), (4, va_rf (r14)), (5, .int ((0 : Int32)))] [2, 3, 4, 5, 1, 0] rfl ?_
    have hz := bX1_young_26 (b := b) hE hn hR hc hK ih4 hw
    exact hz
def wX1_young_0 (c : Nat → Option Nat) (x0 : Nat) (x1 : Int32) (w0 : GW) (K : Int32 → Prop) : Prop :=
  wX1_young_4 c x0 x1 ((0 : Int32)) ((0 : Int32)) w0 K
set_option maxRecDepth 100000 in
theorem bX1_young_0 {E : jE} (hE : jOk E cX1_young RX1) (hn : E.2.2.2.2 = 6) (hR : jRoom E 2 40) {c : Nat → Option Nat} (hc : E.2.2.1.2.2.2 = c) {b : Nat × Nat} {w0 : GW} {K : Int32 → Prop} (hK : jRi E .int (KPI w0 K)) {x0 : Nat} {x1 : Int32}  (hw : wX1_young_0 c x0 x1 w0 K) : J E w0 b [(0, .ref (x0)), (1, .int (x1))] 0 [] := by
  unfold wX1_young_0 at hw
  refine j_iconst hE dX1_young_0 kc_0 ?_
  refine j_istore_n (L' := [(2, .int ((0 : Int32))), (0, .ref (x0)), (1, .int (x1))]) hE hn dX1_young_1 rfl (Nat.le_of_ble_eq_true rfl) rfl ?_
  refine j_iconst hE dX1_young_2 kc_0 ?_
  refine j_istore_n (L' := [(3, .int ((0 : Int32))), (2, .int ((0 : Int32))), (0, .ref (x0)), (1, .int (x1))]) hE hn dX1_young_3 rfl (Nat.le_of_ble_eq_true rfl) rfl ?_
  refine j_sub [(0, .ref (x0)), (1, .int (x1)), (2, .int ((0 : Int32))), (3, .int ((0 : Int32)))] [2, 3, 1, 0] rfl ?_
  have hz := bX1_young_4 (b := b) hE hn hR hc hK  hw
  exact hz
theorem jdX1_young : jD yX1_young 1 := by decide +kernel
abbrev wX1_young := wX1_young_0
theorem ctX1_young (l : Launch) (G : gG) {c : Nat → Option Nat} (hc : G.2.2.2 = c) (x0 : Nat) (x1 : Int32) (w0 : GW) (K : Int32 → Prop) (hw : wX1_young_0 c x0 x1 w0 K) {F2 L2 : Nat} (h2 : 2 ≤ F2 ∧ 40 ≤ L2 := by exact ⟨Nat.le_refl _, Nat.le_refl _⟩) : CtI l yX1_young cX1_young 6 .int ({ frames := F2, cells := 0, slots := 0, locals := L2 }) G [.ref (x0), .int (x1)] w0 (KPI w0 K) :=
  CtI.of RX1 plainc_X1 rfl (Nat.le_of_ble_eq_true rfl) (fun E hE hl hG hn hR hK => bX1_young_0 hE hn (hR.le h2.1 h2.2) (by rw [hG]; exact hc) hK hw)
def wX1_isShownOf_0 (c : Nat → Option Nat) (x0 : Nat) (x1 : Int32) (x2 : Int32) (x3 : Int32) (w0 : GW) (K : Int32 → Prop) : Prop :=
  ∃ f1 : Option Nat, gfm w0 x0 [0] 4 = some (va_rf f1) ∧ (∃ a3 : Nat, f1 = some a3 ∧ (gmc w0 a3 = some 3 ∧ (wX4_shows c a3 x1 w0 (fun r4 => (r4 = 0 → (K ((0 : Int32)))) ∧ (¬ r4 = 0 → (∃ f7 : Option Nat, gfm w0 x0 [0] 4 = some (va_rf f7) ∧ (∃ a9 : Nat, f7 = some a9 ∧ (gmc w0 x0 = some 0 ∧ (wX1_tellsWho c x0 a9 x1 w0 (fun r10 => (r10 = 0 → (K ((0 : Int32)))) ∧ (¬ r10 = 0 → (∃ f13 : Option Nat, gfm w0 x0 [0] 4 = some (va_rf f13) ∧ (∃ a15 : Nat, f13 = some a15 ∧ (∃ f16 : Option Nat, gfm w0 a15 [3] 1 = some (va_rf f16) ∧ (∃ a18 : Nat, f16 = some a18 ∧ (∃ (n19 : Nat) (f20 : Nat → Option Nat), gaq w0 a18 5 = some (n19, f20) ∧ vp_in x1 n19 ∧ (∀ r23 : Option Nat, f20 (x1).toNatClampNeg = r23 → (∃ a24 : Nat, r23 = some a24 ∧ (∃ f25 : Option Nat, gfm w0 a24 [4] 0 = some (va_rf f25) ∧ (∃ a27 : Nat, f25 = some a27 ∧ (∃ (n28 : Nat) (f29 : Nat → Int32), gai w0 a27 0 = some (n28, f29) ∧ vp_in x2 n28 ∧ ((¬ (rd f29 x2) = x3 → (K ((0 : Int32)))) ∧ ((rd f29 x2) = x3 → (K ((1 : Int32))))))))))))))))))))))))))
set_option maxRecDepth 100000 in
theorem bX1_isShownOf_0 {E : jE} (hE : jOk E cX1_isShownOf RX1) (hn : E.2.2.2.2 = 4) (hR : jRoom E 5 107) {c : Nat → Option Nat} (hc : E.2.2.1.2.2.2 = c) {b : Nat × Nat} {w0 : GW} {K : Int32 → Prop} (hK : jRi E .boolean (KPI w0 K)) {x0 : Nat} {x1 : Int32} {x2 : Int32} {x3 : Int32}  (hw : wX1_isShownOf_0 c x0 x1 x2 x3 w0 K) : J E w0 b [(0, .ref (x0)), (1, .int (x1)), (2, .int (x2)), (3, .int (x3))] 0 [] := by
  unfold wX1_isShownOf_0 at hw
  refine j_aload_n hE 0 dX1_isShownOf_0 rfl rfl ?_
  obtain ⟨f1, h2, hw⟩ := hw
  refine j_getM hE gf_GlassStreet_state q351 h2 dX1_isShownOf_1 ?_
  refine j_iload_n hE 1 dX1_isShownOf_4 rfl rfl ?_
  obtain ⟨a3, e9, hx⟩ := hw
  subst e9
  have hw := hx
  clear hx
  obtain ⟨h5, hw⟩ := hw
  refine jc_ip (jr_V hE hR (As := [.int (x1)]) (rest := []) ((ctX4_shows E.1.2.1 E.2.2.1 hc _ _ _ _ hw) E.2.2.2.1) (lw_V q1216 q1217 q1218 q127 q1219) jdX4_shows ⟨Nat.le_of_ble_eq_true rfl, Nat.le_of_ble_eq_true rfl⟩ ⟨Nat.zero_le _, Nat.zero_le _⟩ (gmc_gIs h5 (r := (RX4, TX4, 5)) rfl) rfl (Nat.le_of_ble_eq_true rfl) dX1_isShownOf_5) (fun r4 hw => ?_)
  refine j_b0 ?_
  refine j_if_eq hE 45 dX1_isShownOf_8 (by decide) (fun c6 => ?_) (fun c6 => ?_)
  · replace hw := hw.1 c6
    refine j_iconst hE dX1_isShownOf_45 kc_0 ?_
    exact j_iret hE hK dX1_isShownOf_46 rfl ⟨rfl, hw⟩
  · replace hw := hw.2 c6
    refine j_aload_n hE 0 dX1_isShownOf_11 rfl rfl ?_
    refine j_aload_n hE 0 dX1_isShownOf_12 rfl rfl ?_
    obtain ⟨f7, h8, hw⟩ := hw
    refine j_getM hE gf_GlassStreet_state q351 h8 dX1_isShownOf_13 ?_
    refine j_iload_n hE 1 dX1_isShownOf_16 rfl rfl ?_
    obtain ⟨a9, e9, hx⟩ := hw
    subst e9
    have hw := hx
    clear hx
    obtain ⟨h11, hw⟩ := hw
    refine jc_ip (jr_V hE hR (As := [.ref (a9), .int (x1)]) (rest := []) ((ctX1_tellsWho E.1.2.1 E.2.2.1 hc _ _ _ _ _ hw) E.2.2.2.1) (lw_V q1220 q1222 qs34 q121 q1223) jdX1_tellsWho ⟨Nat.le_of_ble_eq_true rfl, Nat.le_of_ble_eq_true rfl⟩ ⟨Nat.zero_le _, Nat.zero_le _⟩ (gmc_gIs h11 (r := (RX1, TX1, 15)) rfl) rfl (Nat.le_of_ble_eq_true rfl) dX1_isShownOf_17) (fun r10 hw => ?_)
    refine j_b0 ?_
    refine j_if_eq hE 45 dX1_isShownOf_20 (by decide) (fun c12 => ?_) (fun c12 => ?_)
    · replace hw := hw.1 c12
      refine j_iconst hE dX1_isShownOf_45 kc_0 ?_
      exact j_iret hE hK dX1_isShownOf_46 rfl ⟨rfl, hw⟩
    · replace hw := hw.2 c12
      refine j_aload_n hE 0 dX1_isShownOf_23 rfl rfl ?_
      obtain ⟨f13, h14, hw⟩ := hw
      refine j_getM hE gf_GlassStreet_state q351 h14 dX1_isShownOf_24 ?_
      obtain ⟨a15, e9, hx⟩ := hw
      subst e9
      have hw := hx
      clear hx
      obtain ⟨f16, h17, hw⟩ := hw
      refine j_getMN hE gf_GlassStreet_State_marks q320 h17 dX1_isShownOf_27 ?_
      refine j_iload_n hE 1 dX1_isShownOf_30 rfl rfl ?_
      obtain ⟨a18, e9, hx⟩ := hw
      subst e9
      have hw := hx
      clear hx
      obtain ⟨n19, f20, h21, h22, hw⟩ := hw
      obtain ⟨r23, e_r23⟩ : ∃ r9, f20 (x1).toNatClampNeg = r9 := ⟨_, rfl⟩
      replace hw := hw r23 e_r23
      refine j_aldQ hE (t := 5) ⟨by decide, by decide⟩ h21 h22 e_r23 dX1_isShownOf_31 ?_
      obtain ⟨a24, e9, hx⟩ := hw
      subst e9
      have hw := hx
      clear hx
      obtain ⟨f25, h26, hw⟩ := hw
      refine j_getMN hE gf_GlassStreet_Marks_who q293 h26 dX1_isShownOf_32 ?_
      refine j_iload_n hE 2 dX1_isShownOf_35 rfl rfl ?_
      obtain ⟨a27, e9, hx⟩ := hw
      subst e9
      have hw := hx
      clear hx
      obtain ⟨n28, f29, h30, h31, hw⟩ := hw
      refine j_aldI hE h30 h31 dX1_isShownOf_36 ?_
      refine j_iload_n hE 3 dX1_isShownOf_37 rfl rfl ?_
      refine j_icmp_ne hE 45 dX1_isShownOf_38 (by decide) (fun c32 => ?_) (fun c32 => ?_)
      · replace hw := hw.1 c32
        refine j_iconst hE dX1_isShownOf_45 kc_0 ?_
        exact j_iret hE hK dX1_isShownOf_46 rfl ⟨rfl, hw⟩
      · replace hw := hw.2 c32
        refine j_iconst hE dX1_isShownOf_41 kc_1 ?_
        refine j_goto hE 46 dX1_isShownOf_42 (by decide) ?_
        exact j_iret hE hK dX1_isShownOf_46 rfl ⟨rfl, hw⟩
theorem jdX1_isShownOf : jD yX1_isShownOf 3 := by decide +kernel
abbrev wX1_isShownOf := wX1_isShownOf_0
theorem ctX1_isShownOf (l : Launch) (G : gG) {c : Nat → Option Nat} (hc : G.2.2.2 = c) (x0 : Nat) (x1 : Int32) (x2 : Int32) (x3 : Int32) (w0 : GW) (K : Int32 → Prop) (hw : wX1_isShownOf_0 c x0 x1 x2 x3 w0 K) {F2 L2 : Nat} (h2 : 5 ≤ F2 ∧ 107 ≤ L2 := by exact ⟨Nat.le_refl _, Nat.le_refl _⟩) : CtI l yX1_isShownOf cX1_isShownOf 4 .boolean ({ frames := F2, cells := 0, slots := 0, locals := L2 }) G [.ref (x0), .int (x1), .int (x2), .int (x3)] w0 (KPI w0 K) :=
  CtI.of RX1 plainc_X1 rfl (Nat.le_of_ble_eq_true rfl) (fun E hE hl hG hn hR hK => bX1_isShownOf_0 hE hn (hR.le h2.1 h2.2) (by rw [hG]; exact hc) hK hw)
def wX1_trail_25_b (c : Nat → Option Nat) (x0 : Nat) (x1 : Int32) (x3 : Int32) (x2 : Int32) (x4 : Int32) (w0 : GW) (KL25 : Int32 × Int32 → Prop) (KL14 : Int32 × Int32 → Prop) (K : Int32 → Prop) : Prop :=
  ∃ f1 : Option Nat, gfm w0 x0 [0] 4 = some (va_rf f1) ∧ (∃ a3 : Nat, f1 = some a3 ∧ (∃ f4 : Option Nat, gfm w0 a3 [3] 1 = some (va_rf f4) ∧ (∃ a6 : Nat, f4 = some a6 ∧ (∃ (n7 : Nat) (f8 : Nat → Option Nat), gaq w0 a6 5 = some (n7, f8) ∧ vp_in x3 n7 ∧ (∀ r11 : Option Nat, f8 (x3).toNatClampNeg = r11 → (∃ a12 : Nat, r11 = some a12 ∧ (∃ f13 : Int32, gfm w0 a12 [4] 4 = some (.int f13) ∧ ((f13 ≤ x4 → (KL14 (x2, (x3 + 1)))) ∧ (¬ f13 ≤ x4 → (gmc w0 x0 = some 0 ∧ (wX1_isShownOf c x0 x3 x4 x1 w0 (fun r16 => (r16 = 0 → (KL25 (x2, (x4 + 1)))) ∧ (¬ r16 = 0 → (∃ f19 : Option Nat, gfm w0 x0 [0] 4 = some (va_rf f19) ∧ (∃ a21 : Nat, f19 = some a21 ∧ (∃ f22 : Option Nat, gfm w0 a21 [3] 1 = some (va_rf f22) ∧ (∃ a24 : Nat, f22 = some a24 ∧ (∃ (n25 : Nat) (f26 : Nat → Option Nat), gaq w0 a24 5 = some (n25, f26) ∧ vp_in x3 n25 ∧ (∀ r29 : Option Nat, f26 (x3).toNatClampNeg = r29 → (∃ a30 : Nat, r29 = some a30 ∧ (∃ f31 : Option Nat, gfm w0 a30 [4] 2 = some (va_rf f31) ∧ (∃ a33 : Nat, f31 = some a33 ∧ (∃ (n34 : Nat) (f35 : Nat → Int32), gai w0 a33 0 = some (n34, f35) ∧ vp_in x4 n34 ∧ (∀ v38 : Int32, v38 = x2 ||| (ishl ((1 : Int32)) (rd f35 x4)) → (KL25 (v38, (x4 + 1)))))))))))))))))))))))))))
def wX1_trail_25 (c : Nat → Option Nat) (x0 : Nat) (x1 : Int32) (x3 : Int32) (x2 : Int32) (x4 : Int32) (w0 : GW) (KL14 : Int32 × Int32 → Prop) (K : Int32 → Prop) : Prop := lfp (σ := Int32 × Int32) (fun KL s => wX1_trail_25_b c x0 x1 x3 s.1 s.2 w0 KL KL14 K) (x2, x4)
set_option maxRecDepth 100000 in
theorem bX1_trail_25 {E : jE} (hE : jOk E cX1_trail RX1) (hn : E.2.2.2.2 = 5) (hR : jRoom E 6 130) {c : Nat → Option Nat} (hc : E.2.2.1.2.2.2 = c) {b : Nat × Nat} {w0 : GW} {K : Int32 → Prop} (hK : jRi E .int (KPI w0 K)) {x0 : Nat} {x1 : Int32} {x3 : Int32} {x2 : Int32} {x4 : Int32} {KL14 : Int32 × Int32 → Prop} (ih14 : ∀ s : Int32 × Int32, KL14 s → J E w0 b [(0, .ref (x0)), (1, .int (x1)), (2, .int (s.1)), (3, .int (s.2))] 14 []) (hw : wX1_trail_25 c x0 x1 x3 x2 x4 w0 KL14 K) : J E w0 b [(0, .ref (x0)), (1, .int (x1)), (2, .int (x2)), (3, .int (x3)), (4, .int (x4))] 25 [] := by
  refine lfp_sound (σ := Int32 × Int32) (F := fun KL s => wX1_trail_25_b c x0 x1 x3 s.1 s.2 w0 KL KL14 K) (P := fun s => J E w0 b [(0, .ref (x0)), (1, .int (x1)), (2, .int (s.1)), (3, .int (x3)), (4, .int (s.2))] 25 []) ?_ hw
  clear hw
  rintro KL25 ⟨x2, x4⟩ hw ih25
  have hw : wX1_trail_25_b c x0 x1 x3 x2 x4 w0 KL25 KL14 K := hw
  unfold wX1_trail_25_b at hw
  refine j_iload hE 4 dX1_trail_25 rfl ?_
  refine j_aload_n hE 0 dX1_trail_27 rfl rfl ?_
  obtain ⟨f1, h2, hw⟩ := hw
  refine j_getM hE gf_GlassStreet_state q351 h2 dX1_trail_28 ?_
  obtain ⟨a3, e9, hx⟩ := hw
  subst e9
  have hw := hx
  clear hx
  obtain ⟨f4, h5, hw⟩ := hw
  refine j_getMN hE gf_GlassStreet_State_marks q320 h5 dX1_trail_31 ?_
  refine j_iload_n hE 3 dX1_trail_34 rfl rfl ?_
  obtain ⟨a6, e9, hx⟩ := hw
  subst e9
  have hw := hx
  clear hx
  obtain ⟨n7, f8, h9, h10, hw⟩ := hw
  obtain ⟨r11, e_r11⟩ : ∃ r9, f8 (x3).toNatClampNeg = r9 := ⟨_, rfl⟩
  replace hw := hw r11 e_r11
  refine j_aldQ hE (t := 5) ⟨by decide, by decide⟩ h9 h10 e_r11 dX1_trail_35 ?_
  obtain ⟨a12, e9, hx⟩ := hw
  subst e9
  have hw := hx
  clear hx
  obtain ⟨f13, h14, hw⟩ := hw
  refine j_getMN hE gf_GlassStreet_Marks_many q303 h14 dX1_trail_36 ?_
  refine j_icmp_ge hE 79 dX1_trail_39 (by decide) (fun c15 => ?_) (fun c15 => ?_)
  · replace hw := hw.1 c15
    refine j_iinc (L' := [(3, .int (x3 + 1)), (0, .ref (x0)), (1, .int (x1)), (2, .int (x2)), (4, .int (x4))]) hE hn 3 dX1_trail_79 rfl (congrArg (x3 + ·) kc_1) (Nat.le_of_ble_eq_true rfl) rfl ?_
    refine j_goto hE 14 dX1_trail_82 (by decide) ?_
    refine j_sub [(0, .ref (x0)), (1, .int (x1)), (2, .int (x2)), (3, .int (x3 + 1))] [1, 2, 3, 0] rfl ?_
    have hz := ih14 (x2, (x3 + 1)) hw
    exact hz
  · replace hw := hw.2 c15
    refine j_aload_n hE 0 dX1_trail_42 rfl rfl ?_
    refine j_iload_n hE 3 dX1_trail_43 rfl rfl ?_
    refine j_iload hE 4 dX1_trail_44 rfl ?_
    refine j_iload_n hE 1 dX1_trail_46 rfl rfl ?_
    obtain ⟨h17, hw⟩ := hw
    refine jc_ip (jr_V hE hR (As := [.int (x3), .int (x4), .int (x1)]) (rest := []) ((ctX1_isShownOf E.1.2.1 E.2.2.1 hc _ _ _ _ _ _ hw) E.2.2.2.1) (lw_V q1469 q1471 qs50 q121 q1472) jdX1_isShownOf ⟨Nat.le_of_ble_eq_true rfl, Nat.le_of_ble_eq_true rfl⟩ ⟨Nat.zero_le _, Nat.zero_le _⟩ (gmc_gIs h17 (r := (RX1, TX1, 15)) rfl) rfl (Nat.le_of_ble_eq_true rfl) dX1_trail_47) (fun r16 hw => ?_)
    refine j_b0 ?_
    refine j_if_eq hE 73 dX1_trail_50 (by decide) (fun c18 => ?_) (fun c18 => ?_)
    · replace hw := hw.1 c18
      refine j_iinc (L' := [(4, .int (x4 + 1)), (0, .ref (x0)), (1, .int (x1)), (2, .int (x2)), (3, .int (x3))]) hE hn 4 dX1_trail_73 rfl (congrArg (x4 + ·) kc_1) (Nat.le_of_ble_eq_true rfl) rfl ?_
      refine j_goto hE 25 dX1_trail_76 (by decide) ?_
      refine j_sub [(0, .ref (x0)), (1, .int (x1)), (2, .int (x2)), (3, .int (x3)), (4, .int (x4 + 1))] [1, 2, 3, 4, 0] rfl ?_
      have hz := ih25 (x2, (x4 + 1)) hw
      exact hz
    · replace hw := hw.2 c18
      refine j_iload_n hE 2 dX1_trail_53 rfl rfl ?_
      refine j_iconst hE dX1_trail_54 kc_1 ?_
      refine j_aload_n hE 0 dX1_trail_55 rfl rfl ?_
      obtain ⟨f19, h20, hw⟩ := hw
      refine j_getM hE gf_GlassStreet_state q351 h20 dX1_trail_56 ?_
      obtain ⟨a21, e9, hx⟩ := hw
      subst e9
      have hw := hx
      clear hx
      obtain ⟨f22, h23, hw⟩ := hw
      refine j_getMN hE gf_GlassStreet_State_marks q320 h23 dX1_trail_59 ?_
      refine j_iload_n hE 3 dX1_trail_62 rfl rfl ?_
      obtain ⟨a24, e9, hx⟩ := hw
      subst e9
      have hw := hx
      clear hx
      obtain ⟨n25, f26, h27, h28, hw⟩ := hw
      obtain ⟨r29, e_r29⟩ : ∃ r9, f26 (x3).toNatClampNeg = r9 := ⟨_, rfl⟩
      replace hw := hw r29 e_r29
      refine j_aldQ hE (t := 5) ⟨by decide, by decide⟩ h27 h28 e_r29 dX1_trail_63 ?_
      obtain ⟨a30, e9, hx⟩ := hw
      subst e9
      have hw := hx
      clear hx
      obtain ⟨f31, h32, hw⟩ := hw
      refine j_getMN hE gf_GlassStreet_Marks_cell q297 h32 dX1_trail_64 ?_
      refine j_iload hE 4 dX1_trail_67 rfl ?_
      obtain ⟨a33, e9, hx⟩ := hw
      subst e9
      have hw := hx
      clear hx
      obtain ⟨n34, f35, h36, h37, hw⟩ := hw
      refine j_aldI hE h36 h37 dX1_trail_69 ?_
      refine j_ishl hE dX1_trail_70 ?_
      refine j_ior hE dX1_trail_71 ?_
      refine j_topi (fun v38 e_v38 => ?_)
      replace hw := hw v38 e_v38
      refine j_istore_n (L' := [(2, .int (v38)), (0, .ref (x0)), (1, .int (x1)), (3, .int (x3)), (4, .int (x4))]) hE hn dX1_trail_72 rfl (Nat.le_of_ble_eq_true rfl) rfl ?_
      refine j_iinc (L' := [(4, .int (x4 + 1)), (2, .int (v38)), (0, .ref (x0)), (1, .int (x1)), (3, .int (x3))]) hE hn 4 dX1_trail_73 rfl (congrArg (x4 + ·) kc_1) (Nat.le_of_ble_eq_true rfl) rfl ?_
      refine j_goto hE 25 dX1_trail_76 (by decide) ?_
      refine j_sub [(0, .ref (x0)), (1, .int (x1)), (2, .int (v38)), (3, .int (x3)), (4, .int (x4 + 1))] [2, 3, 1, 4, 0] rfl ?_
      have hz := ih25 (v38, (x4 + 1)) hw
      exact hz
def wX1_trail_14_b (c : Nat → Option Nat) (x0 : Nat) (x1 : Int32) (x2 : Int32) (x3 : Int32) (w0 : GW) (KL14 : Int32 × Int32 → Prop) (K : Int32 → Prop) : Prop :=
  gmc w0 x0 = some 0 ∧ (wX1_panes c x0 w0 (fun r1 => (r1 ≤ x3 → (K x2)) ∧ (¬ r1 ≤ x3 → (wX1_trail_25 c x0 x1 x3 x2 ((0 : Int32)) w0 KL14 K))))
def wX1_trail_14 (c : Nat → Option Nat) (x0 : Nat) (x1 : Int32) (x2 : Int32) (x3 : Int32) (w0 : GW) (K : Int32 → Prop) : Prop := lfp (σ := Int32 × Int32) (fun KL s => wX1_trail_14_b c x0 x1 s.1 s.2 w0 KL K) (x2, x3)
set_option maxRecDepth 100000 in
theorem bX1_trail_14 {E : jE} (hE : jOk E cX1_trail RX1) (hn : E.2.2.2.2 = 5) (hR : jRoom E 6 130) {c : Nat → Option Nat} (hc : E.2.2.1.2.2.2 = c) {b : Nat × Nat} {w0 : GW} {K : Int32 → Prop} (hK : jRi E .int (KPI w0 K)) {x0 : Nat} {x1 : Int32} {x2 : Int32} {x3 : Int32}  (hw : wX1_trail_14 c x0 x1 x2 x3 w0 K) : J E w0 b [(0, .ref (x0)), (1, .int (x1)), (2, .int (x2)), (3, .int (x3))] 14 [] := by
  refine lfp_sound (σ := Int32 × Int32) (F := fun KL s => wX1_trail_14_b c x0 x1 s.1 s.2 w0 KL K) (P := fun s => J E w0 b [(0, .ref (x0)), (1, .int (x1)), (2, .int (s.1)), (3, .int (s.2))] 14 []) ?_ hw
  clear hw
  rintro KL14 ⟨x2, x3⟩ hw ih14
  have hw : wX1_trail_14_b c x0 x1 x2 x3 w0 KL14 K := hw
  unfold wX1_trail_14_b at hw
  refine j_iload_n hE 3 dX1_trail_14 rfl rfl ?_
  refine j_aload_n hE 0 dX1_trail_15 rfl rfl ?_
  obtain ⟨h2, hw⟩ := hw
  refine jc_ip (jr_V hE hR (As := []) (rest := [.int (x3)]) ((ctX1_panes E.1.2.1 E.2.2.1 hc _ _ _ hw) E.2.2.2.1) (lw_V q1157 q1159 qs31 q121 q1160) jdX1_panes ⟨Nat.le_of_ble_eq_true rfl, Nat.le_of_ble_eq_true rfl⟩ ⟨Nat.zero_le _, Nat.zero_le _⟩ (gmc_gIs h2 (r := (RX1, TX1, 15)) rfl) rfl (Nat.le_of_ble_eq_true rfl) dX1_trail_16) (fun r1 hw => ?_)
  refine j_b0 ?_
  refine j_icmp_ge hE 85 dX1_trail_19 (by decide) (fun c3 => ?_) (fun c3 => ?_)
  · replace hw := hw.1 c3
    refine j_iload_n hE 2 dX1_trail_85 rfl rfl ?_
    exact j_iret hE hK dX1_trail_86 rfl ⟨rfl, hw⟩
  · replace hw := hw.2 c3
    refine j_iconst hE dX1_trail_22 kc_0 ?_
    refine j_istore (L' := [(4, .int ((0 : Int32))), (0, .ref (x0)), (1, .int (x1)), (2, .int (x2)), (3, .int (x3))]) hE hn dX1_trail_23 (Nat.le_of_ble_eq_true rfl) rfl ?_
    refine j_sub [(0, .ref (x0)), (1, .int (x1)), (2, .int (x2)), (3, .int (x3)), (4, .int ((0 : Int32)))] [1, 2, 3, 4, 0] rfl ?_
    have hz := bX1_trail_25 (b := b) hE hn hR hc hK ih14 hw
    exact hz
def wX1_trail_0 (c : Nat → Option Nat) (x0 : Nat) (x1 : Int32) (w0 : GW) (K : Int32 → Prop) : Prop :=
  gmc w0 x0 = some 0 ∧ (wX1_isPerson c x0 x1 w0 (fun r1 => (¬ r1 = 0 → (wX1_trail_14 c x0 x1 ((0 : Int32)) ((0 : Int32)) w0 K)) ∧ (r1 = 0 → (K ((-1 : Int32))))))
set_option maxRecDepth 100000 in
theorem bX1_trail_0 {E : jE} (hE : jOk E cX1_trail RX1) (hn : E.2.2.2.2 = 5) (hR : jRoom E 6 130) {c : Nat → Option Nat} (hc : E.2.2.1.2.2.2 = c) {b : Nat × Nat} {w0 : GW} {K : Int32 → Prop} (hK : jRi E .int (KPI w0 K)) {x0 : Nat} {x1 : Int32}  (hw : wX1_trail_0 c x0 x1 w0 K) : J E w0 b [(0, .ref (x0)), (1, .int (x1))] 0 [] := by
  unfold wX1_trail_0 at hw
  refine j_aload_n hE 0 dX1_trail_0 rfl rfl ?_
  refine j_iload_n hE 1 dX1_trail_1 rfl rfl ?_
  obtain ⟨h2, hw⟩ := hw
  refine jc_ip (jr_V hE hR (As := [.int (x1)]) (rest := []) ((ctX1_isPerson E.1.2.1 E.2.2.1 hc _ _ _ _ hw) E.2.2.2.1) (lw_V q1238 q1240 qs35 q121 q1241) jdX1_isPerson ⟨Nat.le_of_ble_eq_true rfl, Nat.le_of_ble_eq_true rfl⟩ ⟨Nat.zero_le _, Nat.zero_le _⟩ (gmc_gIs h2 (r := (RX1, TX1, 15)) rfl) rfl (Nat.le_of_ble_eq_true rfl) dX1_trail_2) (fun r1 hw => ?_)
  refine j_b0 ?_
  refine j_if_ne hE 10 dX1_trail_5 (by decide) (fun c3 => ?_) (fun c3 => ?_)
  · replace hw := hw.1 c3
    refine j_iconst hE dX1_trail_10 kc_0 ?_
    refine j_istore_n (L' := [(2, .int ((0 : Int32))), (0, .ref (x0)), (1, .int (x1))]) hE hn dX1_trail_11 rfl (Nat.le_of_ble_eq_true rfl) rfl ?_
    refine j_iconst hE dX1_trail_12 kc_0 ?_
    refine j_istore_n (L' := [(3, .int ((0 : Int32))), (2, .int ((0 : Int32))), (0, .ref (x0)), (1, .int (x1))]) hE hn dX1_trail_13 rfl (Nat.le_of_ble_eq_true rfl) rfl ?_
    refine j_sub [(0, .ref (x0)), (1, .int (x1)), (2, .int ((0 : Int32))), (3, .int ((0 : Int32)))] [2, 3, 1, 0] rfl ?_
    have hz := bX1_trail_14 (b := b) hE hn hR hc hK  hw
    exact hz
  · replace hw := hw.2 c3
    refine j_iconst hE dX1_trail_8 kc_m1 ?_
    exact j_iret hE hK dX1_trail_9 rfl ⟨rfl, hw⟩
theorem jdX1_trail : jD yX1_trail 1 := by decide +kernel
abbrev wX1_trail := wX1_trail_0
theorem ctX1_trail (l : Launch) (G : gG) {c : Nat → Option Nat} (hc : G.2.2.2 = c) (x0 : Nat) (x1 : Int32) (w0 : GW) (K : Int32 → Prop) (hw : wX1_trail_0 c x0 x1 w0 K) {F2 L2 : Nat} (h2 : 6 ≤ F2 ∧ 130 ≤ L2 := by exact ⟨Nat.le_refl _, Nat.le_refl _⟩) : CtI l yX1_trail cX1_trail 5 .int ({ frames := F2, cells := 0, slots := 0, locals := L2 }) G [.ref (x0), .int (x1)] w0 (KPI w0 K) :=
  CtI.of RX1 plainc_X1 rfl (Nat.le_of_ble_eq_true rfl) (fun E hE hl hG hn hR hK => bX1_trail_0 hE hn (hR.le h2.1 h2.2) (by rw [hG]; exact hc) hK hw)
def wX1_last_81 (c : Nat → Option Nat) (x0 : Nat) (x1 : Int32) (x4 : Int32) (x5 : Option Nat) (x6 : Int32) (w0 : GW) (KL7 : Int32 × Int32 × Int32 → Prop) (KL45 : Int32 × Int32 × Int32 → Prop) (K : Int32 → Prop) : Prop :=
  ∃ a1 : Nat, x5 = some a1 ∧ (∃ f2 : Option Nat, gfm w0 a1 [4] 2 = some (va_rf f2) ∧ (∃ a4 : Nat, f2 = some a4 ∧ (∃ (n5 : Nat) (f6 : Nat → Int32), gai w0 a4 0 = some (n5, f6) ∧ vp_in x6 n5 ∧ (∀ v9 : Int32, v9 = rd f6 x6 → (∃ f10 : Option Nat, gfm w0 a1 [4] 3 = some (va_rf f10) ∧ (∃ a12 : Nat, f10 = some a12 ∧ (∃ (n13 : Nat) (f14 : Nat → Int32), gai w0 a12 0 = some (n13, f14) ∧ vp_in x6 n13 ∧ (∀ v17 : Int32, v17 = rd f14 x6 → (KL45 (v9, v17, (x6 + (-1))))))))))))
set_option maxRecDepth 100000 in
theorem bX1_last_81 {E : jE} (hE : jOk E cX1_last RX1) (hn : E.2.2.2.2 = 7) (hR : jRoom E 6 130) {c : Nat → Option Nat} (hc : E.2.2.1.2.2.2 = c) {b : Nat × Nat} {w0 : GW} {K : Int32 → Prop} (hK : jRi E .int (KPI w0 K)) {x0 : Nat} {x1 : Int32} {x4 : Int32} {x5 : Option Nat} {x6 : Int32} {KL7 : Int32 × Int32 × Int32 → Prop} {KL45 : Int32 × Int32 × Int32 → Prop} (ih7 : ∀ s : Int32 × Int32 × Int32, KL7 s → J E w0 b [(0, .ref (x0)), (1, .int (x1)), (2, .int (s.1)), (3, .int (s.2.1)), (4, .int (s.2.2))] 7 []) (ih45 : ∀ s : Int32 × Int32 × Int32, KL45 s → J E w0 b [(0, .ref (x0)), (1, .int (x1)), (2, .int (s.1)), (3, .int (s.2.1)), (4, .int (x4)), (5, va_rf (x5)), (6, .int (s.2.2))] 45 []) (hw : wX1_last_81 c x0 x1 x4 x5 x6 w0 KL7 KL45 K) : J E w0 b [(0, .ref (x0)), (1, .int (x1)), (4, .int (x4)), (5, va_rf (x5)), (6, .int (x6))] 81 [] := by
  unfold wX1_last_81 at hw
  refine j_aloadq hE 3 dX1_last_81 rfl ?_
  obtain ⟨a1, e9, hx⟩ := hw
  subst e9
  have hw := hx
  clear hx
  obtain ⟨f2, h3, hw⟩ := hw
  refine j_getMN hE gf_GlassStreet_Marks_cell q297 h3 dX1_last_83 ?_
  refine j_iload hE 4 dX1_last_86 rfl ?_
  obtain ⟨a4, e9, hx⟩ := hw
  subst e9
  have hw := hx
  clear hx
  obtain ⟨n5, f6, h7, h8, hw⟩ := hw
  refine j_aldI hE h7 h8 dX1_last_88 ?_
  refine j_topi (fun v9 e_v9 => ?_)
  replace hw := hw v9 e_v9
  refine j_istore_n (L' := [(2, .int (v9)), (0, .ref (x0)), (1, .int (x1)), (4, .int (x4)), (5, .ref (a1)), (6, .int (x6))]) hE hn dX1_last_89 rfl (Nat.le_of_ble_eq_true rfl) rfl ?_
  refine j_aload hE 4 dX1_last_90 rfl ?_
  obtain ⟨f10, h11, hw⟩ := hw
  refine j_getMN hE gf_GlassStreet_Marks_age q299 h11 dX1_last_92 ?_
  refine j_iload hE 5 dX1_last_95 rfl ?_
  obtain ⟨a12, e9, hx⟩ := hw
  subst e9
  have hw := hx
  clear hx
  obtain ⟨n13, f14, h15, h16, hw⟩ := hw
  refine j_aldI hE h15 h16 dX1_last_97 ?_
  refine j_topi (fun v17 e_v17 => ?_)
  replace hw := hw v17 e_v17
  refine j_istore_n (L' := [(3, .int (v17)), (2, .int (v9)), (0, .ref (x0)), (1, .int (x1)), (4, .int (x4)), (5, .ref (a1)), (6, .int (x6))]) hE hn dX1_last_98 rfl (Nat.le_of_ble_eq_true rfl) rfl ?_
  refine j_iinc (L' := [(6, .int (x6 + (-1))), (3, .int (v17)), (2, .int (v9)), (0, .ref (x0)), (1, .int (x1)), (4, .int (x4)), (5, .ref (a1))]) hE hn 6 dX1_last_99 rfl (congrArg (x6 + ·) kc_m1) (Nat.le_of_ble_eq_true rfl) rfl ?_
  refine j_goto hE 45 dX1_last_102 (by decide) ?_
  refine j_sub [(0, .ref (x0)), (1, .int (x1)), (2, .int (v9)), (3, .int (v17)), (4, .int (x4)), (5, .ref (a1)), (6, .int (x6 + (-1)))] [3, 4, 2, 1, 5, 6, 0] rfl ?_
  have hz := ih45 (v9, v17, (x6 + (-1))) hw
  exact hz
def wX1_last_45_b (c : Nat → Option Nat) (x0 : Nat) (x1 : Int32) (x4 : Int32) (x5 : Option Nat) (x2 : Int32) (x3 : Int32) (x6 : Int32) (w0 : GW) (KL45 : Int32 × Int32 × Int32 → Prop) (KL7 : Int32 × Int32 × Int32 → Prop) (K : Int32 → Prop) : Prop :=
  (x6 < 0 → (KL7 (x2, x3, (x4 + 1)))) ∧ (¬ x6 < 0 → (gmc w0 x0 = some 0 ∧ (wX1_isShownOf c x0 x4 x6 x1 w0 (fun r2 => (r2 = 0 → (KL45 (x2, x3, (x6 + (-1))))) ∧ (¬ r2 = 0 → ((x2 < 0 → (wX1_last_81 c x0 x1 x4 x5 x6 w0 KL7 KL45 K)) ∧ (¬ x2 < 0 → (∃ a6 : Nat, x5 = some a6 ∧ (∃ f7 : Option Nat, gfm w0 a6 [4] 3 = some (va_rf f7) ∧ (∃ a9 : Nat, f7 = some a9 ∧ (∃ (n10 : Nat) (f11 : Nat → Int32), gai w0 a9 0 = some (n10, f11) ∧ vp_in x6 n10 ∧ (((rd f11 x6) < x3 → (wX1_last_81 c x0 x1 x4 (some a6) x6 w0 KL7 KL45 K)) ∧ (¬ (rd f11 x6) < x3 → (KL45 (x2, x3, (x6 + (-1)))))))))))))))))
def wX1_last_45 (c : Nat → Option Nat) (x0 : Nat) (x1 : Int32) (x4 : Int32) (x5 : Option Nat) (x2 : Int32) (x3 : Int32) (x6 : Int32) (w0 : GW) (KL7 : Int32 × Int32 × Int32 → Prop) (K : Int32 → Prop) : Prop := lfp (σ := Int32 × Int32 × Int32) (fun KL s => wX1_last_45_b c x0 x1 x4 x5 s.1 s.2.1 s.2.2 w0 KL KL7 K) (x2, x3, x6)
set_option maxRecDepth 100000 in
theorem bX1_last_45 {E : jE} (hE : jOk E cX1_last RX1) (hn : E.2.2.2.2 = 7) (hR : jRoom E 6 130) {c : Nat → Option Nat} (hc : E.2.2.1.2.2.2 = c) {b : Nat × Nat} {w0 : GW} {K : Int32 → Prop} (hK : jRi E .int (KPI w0 K)) {x0 : Nat} {x1 : Int32} {x4 : Int32} {x5 : Option Nat} {x2 : Int32} {x3 : Int32} {x6 : Int32} {KL7 : Int32 × Int32 × Int32 → Prop} (ih7 : ∀ s : Int32 × Int32 × Int32, KL7 s → J E w0 b [(0, .ref (x0)), (1, .int (x1)), (2, .int (s.1)), (3, .int (s.2.1)), (4, .int (s.2.2))] 7 []) (hw : wX1_last_45 c x0 x1 x4 x5 x2 x3 x6 w0 KL7 K) : J E w0 b [(0, .ref (x0)), (1, .int (x1)), (2, .int (x2)), (3, .int (x3)), (4, .int (x4)), (5, va_rf (x5)), (6, .int (x6))] 45 [] := by
  refine lfp_sound (σ := Int32 × Int32 × Int32) (F := fun KL s => wX1_last_45_b c x0 x1 x4 x5 s.1 s.2.1 s.2.2 w0 KL KL7 K) (P := fun s => J E w0 b [(0, .ref (x0)), (1, .int (x1)), (2, .int (s.1)), (3, .int (s.2.1)), (4, .int (x4)), (5, va_rf (x5)), (6, .int (s.2.2))] 45 []) ?_ hw
  clear hw
  rintro KL45 ⟨x2, x3, x6⟩ hw ih45
  have hw : wX1_last_45_b c x0 x1 x4 x5 x2 x3 x6 w0 KL45 KL7 K := hw
  unfold wX1_last_45_b at hw
  refine j_iload hE 6 dX1_last_45 rfl ?_
  refine j_if_lt hE 105 dX1_last_47 (by decide) (fun c1 => ?_) (fun c1 => ?_)
  · replace hw := hw.1 c1
    refine j_iinc (L' := [(4, .int (x4 + 1)), (0, .ref (x0)), (1, .int (x1)), (2, .int (x2)), (3, .int (x3)), (5, va_rf (x5)), (6, .int (x6))]) hE hn 4 dX1_last_105 rfl (congrArg (x4 + ·) kc_1) (Nat.le_of_ble_eq_true rfl) rfl ?_
    refine j_goto hE 7 dX1_last_108 (by decide) ?_
    refine j_sub [(0, .ref (x0)), (1, .int (x1)), (2, .int (x2)), (3, .int (x3)), (4, .int (x4 + 1))] [1, 2, 3, 4, 0] rfl ?_
    have hz := ih7 (x2, x3, (x4 + 1)) hw
    exact hz
  · replace hw := hw.2 c1
    refine j_aload_n hE 0 dX1_last_50 rfl rfl ?_
    refine j_iload hE 4 dX1_last_51 rfl ?_
    refine j_iload hE 6 dX1_last_53 rfl ?_
    refine j_iload_n hE 1 dX1_last_55 rfl rfl ?_
    obtain ⟨h3, hw⟩ := hw
    refine jc_ip (jr_V hE hR (As := [.int (x4), .int (x6), .int (x1)]) (rest := []) ((ctX1_isShownOf E.1.2.1 E.2.2.1 hc _ _ _ _ _ _ hw) E.2.2.2.1) (lw_V q1469 q1471 qs50 q121 q1472) jdX1_isShownOf ⟨Nat.le_of_ble_eq_true rfl, Nat.le_of_ble_eq_true rfl⟩ ⟨Nat.zero_le _, Nat.zero_le _⟩ (gmc_gIs h3 (r := (RX1, TX1, 15)) rfl) rfl (Nat.le_of_ble_eq_true rfl) dX1_last_56) (fun r2 hw => ?_)
    refine j_b0 ?_
    refine j_if_eq hE 99 dX1_last_59 (by decide) (fun c4 => ?_) (fun c4 => ?_)
    · replace hw := hw.1 c4
      refine j_iinc (L' := [(6, .int (x6 + (-1))), (0, .ref (x0)), (1, .int (x1)), (2, .int (x2)), (3, .int (x3)), (4, .int (x4)), (5, va_rf (x5))]) hE hn 6 dX1_last_99 rfl (congrArg (x6 + ·) kc_m1) (Nat.le_of_ble_eq_true rfl) (by cases x5 <;> rfl) ?_
      refine j_goto hE 45 dX1_last_102 (by decide) ?_
      refine j_sub [(0, .ref (x0)), (1, .int (x1)), (2, .int (x2)), (3, .int (x3)), (4, .int (x4)), (5, va_rf (x5)), (6, .int (x6 + (-1)))] [1, 2, 3, 4, 5, 6, 0] rfl ?_
      have hz := ih45 (x2, x3, (x6 + (-1))) hw
      exact hz
    · replace hw := hw.2 c4
      refine j_iload_n hE 2 dX1_last_62 rfl rfl ?_
      refine j_if_lt hE 81 dX1_last_63 (by decide) (fun c5 => ?_) (fun c5 => ?_)
      · replace hw := hw.1 c5
        refine j_sub [(0, .ref (x0)), (1, .int (x1)), (4, .int (x4)), (5, va_rf (x5)), (6, .int (x6))] [0, 1, 4, 5, 6] rfl ?_
        have hz := bX1_last_81 (b := b) hE hn hR hc hK ih7 ih45 hw
        exact hz
      · replace hw := hw.2 c5
        refine j_aloadq hE 5 dX1_last_66 rfl ?_
        obtain ⟨a6, e9, hx⟩ := hw
        subst e9
        have hw := hx
        clear hx
        obtain ⟨f7, h8, hw⟩ := hw
        refine j_getMN hE gf_GlassStreet_Marks_age q299 h8 dX1_last_68 ?_
        refine j_iload hE 6 dX1_last_71 rfl ?_
        obtain ⟨a9, e9, hx⟩ := hw
        subst e9
        have hw := hx
        clear hx
        obtain ⟨n10, f11, h12, h13, hw⟩ := hw
        refine j_aldI hE h12 h13 dX1_last_73 ?_
        refine j_iload_n hE 3 dX1_last_74 rfl rfl ?_
        refine j_icmp_lt hE 81 dX1_last_75 (by decide) (fun c14 => ?_) (fun c14 => ?_)
        · replace hw := hw.1 c14
          refine j_sub [(0, .ref (x0)), (1, .int (x1)), (4, .int (x4)), (5, .ref (a6)), (6, .int (x6))] [0, 1, 4, 5, 6] rfl ?_
          have hz := bX1_last_81 (b := b) hE hn hR hc hK ih7 ih45 hw
          exact hz
        · replace hw := hw.2 c14
          refine j_goto hE 99 dX1_last_78 (by decide) ?_
          refine j_iinc (L' := [(6, .int (x6 + (-1))), (0, .ref (x0)), (1, .int (x1)), (2, .int (x2)), (3, .int (x3)), (4, .int (x4)), (5, .ref (a6))]) hE hn 6 dX1_last_99 rfl (congrArg (x6 + ·) kc_m1) (Nat.le_of_ble_eq_true rfl) rfl ?_
          refine j_goto hE 45 dX1_last_102 (by decide) ?_
          refine j_sub [(0, .ref (x0)), (1, .int (x1)), (2, .int (x2)), (3, .int (x3)), (4, .int (x4)), (5, .ref (a6)), (6, .int (x6 + (-1)))] [1, 2, 3, 4, 5, 6, 0] rfl ?_
          have hz := ih45 (x2, x3, (x6 + (-1))) hw
          exact hz
def wX1_last_7_b (c : Nat → Option Nat) (x0 : Nat) (x1 : Int32) (x2 : Int32) (x3 : Int32) (x4 : Int32) (w0 : GW) (KL7 : Int32 × Int32 × Int32 → Prop) (K : Int32 → Prop) : Prop :=
  gmc w0 x0 = some 0 ∧ (wX1_panes c x0 w0 (fun r1 => (r1 ≤ x4 → (K x2)) ∧ (¬ r1 ≤ x4 → (gmc w0 x0 = some 0 ∧ (wX1_isPerson c x0 x1 w0 (fun r4 => (r4 = 0 → (K x2)) ∧ (¬ r4 = 0 → (∃ f7 : Option Nat, gfm w0 x0 [0] 4 = some (va_rf f7) ∧ (∃ a9 : Nat, f7 = some a9 ∧ (∃ f10 : Option Nat, gfm w0 a9 [3] 1 = some (va_rf f10) ∧ (∃ a12 : Nat, f10 = some a12 ∧ (∃ (n13 : Nat) (f14 : Nat → Option Nat), gaq w0 a12 5 = some (n13, f14) ∧ vp_in x4 n13 ∧ (∀ r17 : Option Nat, f14 (x4).toNatClampNeg = r17 → (∃ a18 : Nat, r17 = some a18 ∧ (∃ f19 : Int32, gfm w0 a18 [4] 4 = some (.int f19) ∧ (∀ v21 : Int32, v21 = f19 - ((1 : Int32)) → (wX1_last_45 c x0 x1 x4 (some a18) x2 x3 v21 w0 KL7 K)))))))))))))))))
def wX1_last_7 (c : Nat → Option Nat) (x0 : Nat) (x1 : Int32) (x2 : Int32) (x3 : Int32) (x4 : Int32) (w0 : GW) (K : Int32 → Prop) : Prop := lfp (σ := Int32 × Int32 × Int32) (fun KL s => wX1_last_7_b c x0 x1 s.1 s.2.1 s.2.2 w0 KL K) (x2, x3, x4)
set_option maxRecDepth 100000 in
theorem bX1_last_7 {E : jE} (hE : jOk E cX1_last RX1) (hn : E.2.2.2.2 = 7) (hR : jRoom E 6 130) {c : Nat → Option Nat} (hc : E.2.2.1.2.2.2 = c) {b : Nat × Nat} {w0 : GW} {K : Int32 → Prop} (hK : jRi E .int (KPI w0 K)) {x0 : Nat} {x1 : Int32} {x2 : Int32} {x3 : Int32} {x4 : Int32}  (hw : wX1_last_7 c x0 x1 x2 x3 x4 w0 K) : J E w0 b [(0, .ref (x0)), (1, .int (x1)), (2, .int (x2)), (3, .int (x3)), (4, .int (x4))] 7 [] := by
  refine lfp_sound (σ := Int32 × Int32 × Int32) (F := fun KL s => wX1_last_7_b c x0 x1 s.1 s.2.1 s.2.2 w0 KL K) (P := fun s => J E w0 b [(0, .ref (x0)), (1, .int (x1)), (2, .int (s.1)), (3, .int (s.2.1)), (4, .int (s.2.2))] 7 []) ?_ hw
  clear hw
  rintro KL7 ⟨x2, x3, x4⟩ hw ih7
  have hw : wX1_last_7_b c x0 x1 x2 x3 x4 w0 KL7 K := hw
  unfold wX1_last_7_b at hw
  refine j_iload hE 4 dX1_last_7 rfl ?_
  refine j_aload_n hE 0 dX1_last_9 rfl rfl ?_
  obtain ⟨h2, hw⟩ := hw
  refine jc_ip (jr_V hE hR (As := []) (rest := [.int (x4)]) ((ctX1_panes E.1.2.1 E.2.2.1 hc _ _ _ hw) E.2.2.2.1) (lw_V q1157 q1159 qs31 q121 q1160) jdX1_panes ⟨Nat.le_of_ble_eq_true rfl, Nat.le_of_ble_eq_true rfl⟩ ⟨Nat.zero_le _, Nat.zero_le _⟩ (gmc_gIs h2 (r := (RX1, TX1, 15)) rfl) rfl (Nat.le_of_ble_eq_true rfl) dX1_last_10) (fun r1 hw => ?_)
  refine j_b0 ?_
  refine j_icmp_ge hE 111 dX1_last_13 (by decide) (fun c3 => ?_) (fun c3 => ?_)
  · replace hw := hw.1 c3
    refine j_iload_n hE 2 dX1_last_111 rfl rfl ?_
    exact j_iret hE hK dX1_last_112 rfl ⟨rfl, hw⟩
  · replace hw := hw.2 c3
    refine j_aload_n hE 0 dX1_last_16 rfl rfl ?_
    refine j_iload_n hE 1 dX1_last_17 rfl rfl ?_
    obtain ⟨h5, hw⟩ := hw
    refine jc_ip (jr_V hE hR (As := [.int (x1)]) (rest := []) ((ctX1_isPerson E.1.2.1 E.2.2.1 hc _ _ _ _ hw) E.2.2.2.1) (lw_V q1238 q1240 qs35 q121 q1241) jdX1_isPerson ⟨Nat.le_of_ble_eq_true rfl, Nat.le_of_ble_eq_true rfl⟩ ⟨Nat.zero_le _, Nat.zero_le _⟩ (gmc_gIs h5 (r := (RX1, TX1, 15)) rfl) rfl (Nat.le_of_ble_eq_true rfl) dX1_last_18) (fun r4 hw => ?_)
    refine j_b0 ?_
    refine j_if_eq hE 111 dX1_last_21 (by decide) (fun c6 => ?_) (fun c6 => ?_)
    · replace hw := hw.1 c6
      refine j_iload_n hE 2 dX1_last_111 rfl rfl ?_
      exact j_iret hE hK dX1_last_112 rfl ⟨rfl, hw⟩
    · replace hw := hw.2 c6
      refine j_aload_n hE 0 dX1_last_24 rfl rfl ?_
      obtain ⟨f7, h8, hw⟩ := hw
      refine j_getM hE gf_GlassStreet_state q351 h8 dX1_last_25 ?_
      obtain ⟨a9, e9, hx⟩ := hw
      subst e9
      have hw := hx
      clear hx
      obtain ⟨f10, h11, hw⟩ := hw
      refine j_getMN hE gf_GlassStreet_State_marks q320 h11 dX1_last_28 ?_
      refine j_iload hE 4 dX1_last_31 rfl ?_
      obtain ⟨a12, e9, hx⟩ := hw
      subst e9
      have hw := hx
      clear hx
      obtain ⟨n13, f14, h15, h16, hw⟩ := hw
      obtain ⟨r17, e_r17⟩ : ∃ r9, f14 (x4).toNatClampNeg = r9 := ⟨_, rfl⟩
      replace hw := hw r17 e_r17
      refine j_aldQ hE (t := 5) ⟨by decide, by decide⟩ h15 h16 e_r17 dX1_last_33 ?_
      refine j_astoreq (L' := [(5, va_rf (r17)), (0, .ref (x0)), (1, .int (x1)), (2, .int (x2)), (3, .int (x3)), (4, .int (x4))]) hE hn dX1_last_34 (Nat.le_of_ble_eq_true rfl) rfl ?_
      refine j_aloadq hE 0 dX1_last_36 rfl ?_
      obtain ⟨a18, e9, hx⟩ := hw
      subst e9
      have hw := hx
      clear hx
      obtain ⟨f19, h20, hw⟩ := hw
      refine j_getMN hE gf_GlassStreet_Marks_many q303 h20 dX1_last_38 ?_
      refine j_iconst hE dX1_last_41 kc_1 ?_
      refine j_isub hE dX1_last_42 ?_
      refine j_topi (fun v21 e_v21 => ?_)
      replace hw := hw v21 e_v21
      refine j_istore (L' := [(6, .int (v21)), (5, .ref (a18)), (0, .ref (x0)), (1, .int (x1)), (2, .int (x2)), (3, .int (x3)), (4, .int (x4))]) hE hn dX1_last_43 (Nat.le_of_ble_eq_true rfl) rfl ?_
      refine j_sub [(0, .ref (x0)), (1, .int (x1)), (2, .int (x2)), (3, .int (x3)), (4, .int (x4)), (5, .ref (a18)), (6, .int (v21))] [2, 3, 4, 5, 6, 1, 0] rfl ?_
      have hz := bX1_last_45 (b := b) hE hn hR hc hK ih7 hw
      exact hz
def wX1_last_0 (c : Nat → Option Nat) (x0 : Nat) (x1 : Int32) (w0 : GW) (K : Int32 → Prop) : Prop :=
  wX1_last_7 c x0 x1 ((-1 : Int32)) ((0 : Int32)) ((0 : Int32)) w0 K
set_option maxRecDepth 100000 in
theorem bX1_last_0 {E : jE} (hE : jOk E cX1_last RX1) (hn : E.2.2.2.2 = 7) (hR : jRoom E 6 130) {c : Nat → Option Nat} (hc : E.2.2.1.2.2.2 = c) {b : Nat × Nat} {w0 : GW} {K : Int32 → Prop} (hK : jRi E .int (KPI w0 K)) {x0 : Nat} {x1 : Int32}  (hw : wX1_last_0 c x0 x1 w0 K) : J E w0 b [(0, .ref (x0)), (1, .int (x1))] 0 [] := by
  unfold wX1_last_0 at hw
  refine j_iconst hE dX1_last_0 kc_m1 ?_
  refine j_istore_n (L' := [(2, .int ((-1 : Int32))), (0, .ref (x0)), (1, .int (x1))]) hE hn dX1_last_1 rfl (Nat.le_of_ble_eq_true rfl) rfl ?_
  refine j_iconst hE dX1_last_2 kc_0 ?_
  refine j_istore_n (L' := [(3, .int ((0 : Int32))), (2, .int ((-1 : Int32))), (0, .ref (x0)), (1, .int (x1))]) hE hn dX1_last_3 rfl (Nat.le_of_ble_eq_true rfl) rfl ?_
  refine j_iconst hE dX1_last_4 kc_0 ?_
  refine j_istore (L' := [(4, .int ((0 : Int32))), (3, .int ((0 : Int32))), (2, .int ((-1 : Int32))), (0, .ref (x0)), (1, .int (x1))]) hE hn dX1_last_5 (Nat.le_of_ble_eq_true rfl) rfl ?_
  refine j_sub [(0, .ref (x0)), (1, .int (x1)), (2, .int ((-1 : Int32))), (3, .int ((0 : Int32))), (4, .int ((0 : Int32)))] [3, 4, 2, 1, 0] rfl ?_
  have hz := bX1_last_7 (b := b) hE hn hR hc hK  hw
  exact hz
theorem jdX1_last : jD yX1_last 1 := by decide +kernel
abbrev wX1_last := wX1_last_0
theorem ctX1_last (l : Launch) (G : gG) {c : Nat → Option Nat} (hc : G.2.2.2 = c) (x0 : Nat) (x1 : Int32) (w0 : GW) (K : Int32 → Prop) (hw : wX1_last_0 c x0 x1 w0 K) {F2 L2 : Nat} (h2 : 6 ≤ F2 ∧ 130 ≤ L2 := by exact ⟨Nat.le_refl _, Nat.le_refl _⟩) : CtI l yX1_last cX1_last 7 .int ({ frames := F2, cells := 0, slots := 0, locals := L2 }) G [.ref (x0), .int (x1)] w0 (KPI w0 K) :=
  CtI.of RX1 plainc_X1 rfl (Nat.le_of_ble_eq_true rfl) (fun E hE hl hG hn hR hK => bX1_last_0 hE hn (hR.le h2.1 h2.2) (by rw [hG]; exact hc) hK hw)
