theorem jdX6_takePart : jD yX6_takePart 1 := by decide +kernel
theorem lkX6_takePart : GoodIn lw_all (wsV RX6 259 yX6_takePart.cls yX6_takePart (ws_ yX6_takePart cX6_takePart 4 none)) := lw_V q1842 q1844 qs80 q129 q1845
def wX6_thrown_0 (m0 : MS) (K : Int32 → Prop) : Prop :=
  K (gF m0 0)
set_option maxRecDepth 100000 in
theorem bX6_thrown_0 {E : jE} (hE : jOk E cX6_thrown RX6) (hn : E.2.2.2.2 = 1) (hR : jRoom E 0 0) {ad : Nat → Nat} (hA : adOk ad) {r : GW} {m0 : MS} {b : Nat × Nat} {K : Int32 → Prop} (hK : jRi E .int (KPI (mwX ad m0 r) K))   (hw : wX6_thrown_0 m0 K) : J E (mwX ad m0 r) b [(0, .ref (ad 0))] 0 [] := by
  unfold wX6_thrown_0 at hw
  refine j_aload_n hE 0 dX6_thrown_0 rfl rfl ?_
  refine jm_get hE hA 0 (Nat.le_of_ble_eq_true rfl) q1647 rfl (v := .int (gF m0 0)) rfl dX6_thrown_1 ?_
  exact j_iret hE hK dX6_thrown_4 rfl ⟨rfl, hw⟩
abbrev wX6_thrown := wX6_thrown_0
theorem ctX6_thrown (l : Launch) (G : gG) {ad : Nat → Nat} (hA : adOk ad) (m0 : MS) (r : GW)  (K : Int32 → Prop) (hw : wX6_thrown m0 K) : CtI l yX6_thrown cX6_thrown 1 .int ({ frames := 0, cells := 0, slots := 0, locals := 0 }) G [.ref (ad 0)] (mwX ad m0 r) (KPI (mwX ad m0 r) K) :=
  CtI.of RX6 plain_X6 rfl (Nat.le_of_ble_eq_true rfl) (fun E hE _ _ hn hR hK => bX6_thrown_0 hE hn hR hA hK hw)
theorem jdX6_thrown : jD yX6_thrown 0 := by decide +kernel
def wX6_lay_38 (x1 : Int64) (x3 : Int32) (x4 : Int32) (m : MS) (KL3 : Int32 × MS → Prop) (K : MS → Prop) : Prop :=
  ((nI 1000) ≤ (gF m 1) → (KL3 (x3 + (-8), m))) ∧ (¬ (nI 1000) ≤ (gF m 1) → (vp_in (gF m 1) 1000 ∧ (∀ m3 : MS, m3 = wA m 0 (gF m 1) x4 → (∀ m4 : MS, m4 = sF m3 1 ((gF m3 1) + 1) → (KL3 (x3 + (-8), m4))))))
set_option maxRecDepth 100000 in
theorem bX6_lay_38 {E : jE} (hE : jOk E cX6_lay RX6) (hn : E.2.2.2.2 = 5) (hR : jRoom E 0 0) {ad : Nat → Nat} (hA : adOk ad) {r : GW} {b : Nat × Nat} {K : MS → Prop} (hK : jRv E (KMV ad r K)) {x1 : Int64} {x3 : Int32} {x4 : Int32} {m : MS} {KL3 : Int32 × MS → Prop} (ih3 : ∀ s : Int32 × MS, KL3 s → J E (mwX ad (s.2) r) b [(0, .ref (ad 0)), (1, .long (x1)), (3, .int (s.1))] 3 []) (hw : wX6_lay_38 x1 x3 x4 m KL3 K) : J E (mwX ad m r) b [(0, .ref (ad 0)), (1, .long (x1)), (3, .int (x3)), (4, .int (x4))] 38 [] := by
  unfold wX6_lay_38 at hw
  refine j_aload_n hE 0 dX6_lay_38 rfl rfl ?_
  refine jm_get hE hA 2 (Nat.le_of_ble_eq_true rfl) q1649 rfl (v := .int (gF m 1)) rfl dX6_lay_39 ?_
  refine j_sipush hE dX6_lay_42 ks_1000 ?_
  refine j_icmp_ge hE 69 dX6_lay_45 (by decide) (fun c1 => ?_) (fun c1 => ?_)
  · have hw := hw.1 c1
    refine j_iinc (L' := [(3, .int (x3 + (-8))), (0, .ref (ad 0)), (1, .long (x1)), (4, .int (x4))]) hE hn 2 dX6_lay_69 rfl (congrArg (x3 + ·) kc_m8) (Nat.le_of_ble_eq_true rfl) rfl ?_
    refine j_goto hE 3 dX6_lay_72 (by decide) ?_
    refine j_sub [(0, .ref (ad 0)), (1, .long (x1)), (3, .int (x3 + (-8)))] [1, 2, 0] rfl ?_
    have hz := ih3 (x3 + (-8), m) hw
    exact hz
  · have hw := hw.2 c1
    refine j_aload_n hE 0 dX6_lay_48 rfl rfl ?_
    refine jm_get hE hA 1 (Nat.le_of_ble_eq_true rfl) q1648 rfl (v := .ref (ad 1)) rfl dX6_lay_49 ?_
    refine j_aload_n hE 0 dX6_lay_52 rfl rfl ?_
    refine jm_get hE hA 2 (Nat.le_of_ble_eq_true rfl) q1649 rfl (v := .int (gF m 1)) rfl dX6_lay_53 ?_
    refine j_iload hE 3 dX6_lay_56 rfl ?_
    obtain ⟨h2, hw⟩ := hw
    refine jm_iast hE hA 0 (Nat.le_of_ble_eq_true rfl) h2 dX6_lay_58 ?_
    refine j_wm (fun m3 e_m3 => ?_)
    have hw := hw m3 e_m3
    refine j_aload_n hE 0 dX6_lay_59 rfl rfl ?_
    refine j_dup hE dX6_lay_60 rfl ?_
    refine jm_get hE hA 2 (Nat.le_of_ble_eq_true rfl) q1649 rfl (v := .int (gF m3 1)) rfl dX6_lay_61 ?_
    refine j_iconst hE dX6_lay_64 kc_1 ?_
    refine j_iadd hE dX6_lay_65 ?_
    refine jm_putF hE hA 2 1 (Nat.le_of_ble_eq_true rfl) q1649 rfl rfl (mset_1 _ _ _) rfl rfl dX6_lay_66 ?_
    refine j_wm (fun m4 e_m4 => ?_)
    have hw := hw m4 e_m4
    refine j_iinc (L' := [(3, .int (x3 + (-8))), (0, .ref (ad 0)), (1, .long (x1)), (4, .int (x4))]) hE hn 2 dX6_lay_69 rfl (congrArg (x3 + ·) kc_m8) (Nat.le_of_ble_eq_true rfl) rfl ?_
    refine j_goto hE 3 dX6_lay_72 (by decide) ?_
    refine j_sub [(0, .ref (ad 0)), (1, .long (x1)), (3, .int (x3 + (-8)))] [1, 2, 0] rfl ?_
    have hz := ih3 (x3 + (-8), m4) hw
    exact hz
def wX6_lay_3_b (x1 : Int64) (x3 : Int32) (m : MS) (KL3 : Int32 × MS → Prop) (K : MS → Prop) : Prop :=
  (x3 < 0 → (K m)) ∧ (¬ x3 < 0 → (∀ v2 : Int32, v2 = ((lshr x1 x3).toInt32) &&& (nI 255) → ((v2 = (nI 10) → (wX6_lay_38 x1 x3 v2 m KL3 K)) ∧ (¬ v2 = (nI 10) → ((v2 < (nI 32) → (KL3 (x3 + (-8), m))) ∧ (¬ v2 < (nI 32) → (((nI 126) < v2 → (KL3 (x3 + (-8), m))) ∧ (¬ (nI 126) < v2 → (wX6_lay_38 x1 x3 v2 m KL3 K)))))))))
def wX6_lay_3 (x1 : Int64) (x3 : Int32) (m : MS) (K : MS → Prop) : Prop := lfp (σ := Int32 × MS) (fun KL s => wX6_lay_3_b x1 s.1 s.2 KL K) (x3, m)
set_option maxRecDepth 100000 in
theorem bX6_lay_3 {E : jE} (hE : jOk E cX6_lay RX6) (hn : E.2.2.2.2 = 5) (hR : jRoom E 0 0) {ad : Nat → Nat} (hA : adOk ad) {r : GW} {b : Nat × Nat} {K : MS → Prop} (hK : jRv E (KMV ad r K)) {x1 : Int64} {x3 : Int32} {m : MS}  (hw : wX6_lay_3 x1 x3 m K) : J E (mwX ad m r) b [(0, .ref (ad 0)), (1, .long (x1)), (3, .int (x3))] 3 [] := by
  refine lfp_sound (σ := Int32 × MS) (F := fun KL s => wX6_lay_3_b x1 s.1 s.2 KL K) (P := fun s => J E (mwX ad (s.2) r) b [(0, .ref (ad 0)), (1, .long (x1)), (3, .int (s.1))] 3 []) ?_ hw
  clear hw
  rintro KL3 ⟨x3, m⟩ hw ih3
  have hw : wX6_lay_3_b x1 x3 m KL3 K := hw
  unfold wX6_lay_3_b at hw
  refine j_iload_n hE 2 dX6_lay_3 rfl rfl ?_
  refine j_if_lt hE 75 dX6_lay_4 (by decide) (fun c1 => ?_) (fun c1 => ?_)
  · have hw := hw.1 c1
    exact j_vret hE hK dX6_lay_75 ⟨_, rfl, hw⟩
  · have hw := hw.2 c1
    refine j_lload_n hE 1 dX6_lay_7 rfl rfl ?_
    refine j_iload_n hE 2 dX6_lay_8 rfl rfl ?_
    refine j_lshr hE dX6_lay_9 ?_
    refine j_l2i hE dX6_lay_10 ?_
    refine j_sipush hE dX6_lay_11 ks_255 ?_
    refine j_iand hE dX6_lay_14 ?_
    refine j_topi (fun v2 e_v2 => ?_)
    have hw := hw v2 e_v2
    refine j_istore (L' := [(4, .int (v2)), (0, .ref (ad 0)), (1, .long (x1)), (3, .int (x3))]) hE hn dX6_lay_15 (Nat.le_of_ble_eq_true rfl) rfl ?_
    refine j_iload hE 0 dX6_lay_17 rfl ?_
    refine j_bipush hE dX6_lay_19 kb_10 ?_
    refine j_icmp_eq hE 38 dX6_lay_21 (by decide) (fun c3 => ?_) (fun c3 => ?_)
    · have hw := hw.1 c3
      refine j_sub [(0, .ref (ad 0)), (1, .long (x1)), (3, .int (x3)), (4, .int (v2))] [1, 2, 3, 0] rfl ?_
      exact bX6_lay_38 hE hn hR hA hK ih3 hw
    · have hw := hw.2 c3
      refine j_iload hE 0 dX6_lay_24 rfl ?_
      refine j_bipush hE dX6_lay_26 kb_32 ?_
      refine j_icmp_lt hE 69 dX6_lay_28 (by decide) (fun c4 => ?_) (fun c4 => ?_)
      · have hw := hw.1 c4
        refine j_iinc (L' := [(3, .int (x3 + (-8))), (4, .int (v2)), (0, .ref (ad 0)), (1, .long (x1))]) hE hn 3 dX6_lay_69 rfl (congrArg (x3 + ·) kc_m8) (Nat.le_of_ble_eq_true rfl) rfl ?_
        refine j_goto hE 3 dX6_lay_72 (by decide) ?_
        refine j_sub [(0, .ref (ad 0)), (1, .long (x1)), (3, .int (x3 + (-8)))] [2, 3, 0] rfl ?_
        have hz := ih3 (x3 + (-8), m) hw
        exact hz
      · have hw := hw.2 c4
        refine j_iload hE 0 dX6_lay_31 rfl ?_
        refine j_bipush hE dX6_lay_33 kb_126 ?_
        refine j_icmp_gt hE 69 dX6_lay_35 (by decide) (fun c5 => ?_) (fun c5 => ?_)
        · have hw := hw.1 c5
          refine j_iinc (L' := [(3, .int (x3 + (-8))), (4, .int (v2)), (0, .ref (ad 0)), (1, .long (x1))]) hE hn 3 dX6_lay_69 rfl (congrArg (x3 + ·) kc_m8) (Nat.le_of_ble_eq_true rfl) rfl ?_
          refine j_goto hE 3 dX6_lay_72 (by decide) ?_
          refine j_sub [(0, .ref (ad 0)), (1, .long (x1)), (3, .int (x3 + (-8)))] [2, 3, 0] rfl ?_
          have hz := ih3 (x3 + (-8), m) hw
          exact hz
        · have hw := hw.2 c5
          refine j_sub [(0, .ref (ad 0)), (1, .long (x1)), (3, .int (x3)), (4, .int (v2))] [1, 2, 3, 0] rfl ?_
          exact bX6_lay_38 hE hn hR hA hK ih3 hw
def wX6_lay_0 (x1 : Int64) (m : MS) (K : MS → Prop) : Prop :=
  wX6_lay_3 x1 (nI 56) m K
set_option maxRecDepth 100000 in
theorem bX6_lay_0 {E : jE} (hE : jOk E cX6_lay RX6) (hn : E.2.2.2.2 = 5) (hR : jRoom E 0 0) {ad : Nat → Nat} (hA : adOk ad) {r : GW} {b : Nat × Nat} {K : MS → Prop} (hK : jRv E (KMV ad r K)) {x1 : Int64} {m : MS}  (hw : wX6_lay_0 x1 m K) : J E (mwX ad m r) b [(0, .ref (ad 0)), (1, .long (x1))] 0 [] := by
  unfold wX6_lay_0 at hw
  refine j_bipush hE dX6_lay_0 kb_56 ?_
  refine j_istore_n (L' := [(3, .int (nI 56)), (0, .ref (ad 0)), (1, .long (x1))]) hE hn dX6_lay_2 rfl (Nat.le_of_ble_eq_true rfl) rfl ?_
  refine j_sub [(0, .ref (ad 0)), (1, .long (x1)), (3, .int (nI 56))] [1, 2, 0] rfl ?_
  exact bX6_lay_3 hE hn hR hA hK  hw
abbrev wX6_lay := wX6_lay_0
theorem ctX6_lay (l : Launch) (G : gG) {ad : Nat → Nat} (hA : adOk ad) (m0 : MS) (r : GW) (x1 : Int64) (K : MS → Prop) (hw : wX6_lay x1 m0 K) : CtV l yX6_lay cX6_lay 5 ({ frames := 0, cells := 0, slots := 0, locals := 0 }) G [.ref (ad 0), .long (x1)] (mwX ad m0 r) (KMV ad r K) :=
  CtV.of RX6 plain_X6 rfl (Nat.le_of_ble_eq_true rfl) (fun E hE _ _ hn hR hK => bX6_lay_0 hE hn hR hA hK hw)
theorem jdX6_lay : jD yX6_lay 1 := by decide +kernel
theorem lkX6_lay : GoodIn lw_all (wsV RX6 7 yX6_lay.cls yX6_lay (ws_ yX6_lay cX6_lay 5 none)) := lw_V q1595 q1597 qs55 q129 q1599
def wX6_feed_0 (x1 : Int64) (x3 : Int64) (x5 : Int64) (m : MS) (K : Int32 → MS → Prop) : Prop :=
  ∀ m1 : MS, m1 = sF m 0 0 → (wX6_lay x1 m1 (fun  m2 => wX6_lay x3 m2 (fun  m3 => wX6_lay x5 m3 (fun  m4 => K (gF m4 1) m4))))
set_option maxRecDepth 100000 in
theorem bX6_feed_0 {E : jE} (hE : jOk E cX6_feed RX6) (hn : E.2.2.2.2 = 7) (hR : jRoom E 1 24) {ad : Nat → Nat} (hA : adOk ad) {r : GW} {b : Nat × Nat} {K : Int32 → MS → Prop} (hK : jRi E .int (KMI ad r K)) {x1 : Int64} {x3 : Int64} {x5 : Int64} {m : MS}  (hw : wX6_feed_0 x1 x3 x5 m K) : J E (mwX ad m r) b [(0, .ref (ad 0)), (1, .long (x1)), (3, .long (x3)), (5, .long (x5))] 0 [] := by
  unfold wX6_feed_0 at hw
  refine j_aload_n hE 0 dX6_feed_0 rfl rfl ?_
  refine j_iconst hE dX6_feed_1 kc_0 ?_
  refine jm_putF hE hA 0 0 (Nat.le_of_ble_eq_true rfl) q1647 rfl rfl (mset_0 _ _ _) rfl rfl dX6_feed_2 ?_
  refine j_wm (fun m1 e_m1 => ?_)
  have hw := hw m1 e_m1
  refine j_aload_n hE 0 dX6_feed_5 rfl rfl ?_
  refine j_lload_n hE 1 dX6_feed_6 rfl rfl ?_
  refine jm_cV hE hA hR (As := [.long (x1)]) (rest := []) (ctX6_lay E.1.2.1 E.2.2.1 hA _ _ _  _ hw) rfl lkX6_lay jdX6_lay ⟨Nat.le_of_ble_eq_true rfl, Nat.le_of_ble_eq_true rfl⟩ rfl (Nat.le_of_ble_eq_true rfl) dX6_feed_7 (fun  m2 hw => ?_)
  refine j_aload_n hE 0 dX6_feed_10 rfl rfl ?_
  refine j_lload_n hE 2 dX6_feed_11 rfl rfl ?_
  refine jm_cV hE hA hR (As := [.long (x3)]) (rest := []) (ctX6_lay E.1.2.1 E.2.2.1 hA _ _ _  _ hw) rfl lkX6_lay jdX6_lay ⟨Nat.le_of_ble_eq_true rfl, Nat.le_of_ble_eq_true rfl⟩ rfl (Nat.le_of_ble_eq_true rfl) dX6_feed_12 (fun  m3 hw => ?_)
  refine j_aload_n hE 0 dX6_feed_15 rfl rfl ?_
  refine j_lload hE 3 dX6_feed_16 rfl ?_
  refine jm_cV hE hA hR (As := [.long (x5)]) (rest := []) (ctX6_lay E.1.2.1 E.2.2.1 hA _ _ _  _ hw) rfl lkX6_lay jdX6_lay ⟨Nat.le_of_ble_eq_true rfl, Nat.le_of_ble_eq_true rfl⟩ rfl (Nat.le_of_ble_eq_true rfl) dX6_feed_18 (fun  m4 hw => ?_)
  refine j_aload_n hE 0 dX6_feed_21 rfl rfl ?_
  refine jm_get hE hA 2 (Nat.le_of_ble_eq_true rfl) q1649 rfl (v := .int (gF m4 1)) rfl dX6_feed_22 ?_
  exact j_iret hE hK dX6_feed_25 rfl ⟨_, rfl, hw⟩
abbrev wX6_feed := wX6_feed_0
theorem ctX6_feed (l : Launch) (G : gG) {ad : Nat → Nat} (hA : adOk ad) (m0 : MS) (r : GW) (x1 : Int64) (x3 : Int64) (x5 : Int64) (K : Int32 → MS → Prop) (hw : wX6_feed x1 x3 x5 m0 K) : CtI l yX6_feed cX6_feed 7 .int ({ frames := 1, cells := 0, slots := 0, locals := 24 }) G [.ref (ad 0), .long (x1), .long (x3), .long (x5)] (mwX ad m0 r) (KMI ad r K) :=
  CtI.of RX6 plain_X6 rfl (Nat.le_of_ble_eq_true rfl) (fun E hE _ _ hn hR hK => bX6_feed_0 hE hn hR hA hK hw)
theorem jdX6_feed : jD yX6_feed 3 := by decide +kernel
def wX6_standsAsAlways_2_b (x1 : Int32) (x2 : Int32) (m : MS) (KL2 : Int32 × MS → Prop) (K : MS → Prop) : Prop :=
  ((nI 60) ≤ x2 → (vp_in (x1 + (nI 3)) 120 ∧ (∀ m3 : MS, m3 = wA m 3 (x1 + (nI 3)) 1 → (vp_in (x1 + (nI 33)) 120 ∧ (∀ m5 : MS, m5 = wA m3 3 (x1 + (nI 33)) 1 → (vp_in (x1 + (nI 4)) 120 ∧ (∀ m7 : MS, m7 = wA m5 3 (x1 + (nI 4)) ((-1)) → (K m7)))))))) ∧ (¬ (nI 60) ≤ x2 → (vp_in (x1 + x2) 120 ∧ (∀ m9 : MS, m9 = wA m 3 (x1 + x2) 0 → (KL2 (x2 + 1, m9)))))
def wX6_standsAsAlways_2 (x1 : Int32) (x2 : Int32) (m : MS) (K : MS → Prop) : Prop := lfp (σ := Int32 × MS) (fun KL s => wX6_standsAsAlways_2_b x1 s.1 s.2 KL K) (x2, m)
set_option maxRecDepth 100000 in
theorem bX6_standsAsAlways_2 {E : jE} (hE : jOk E cX6_standsAsAlways RX6) (hn : E.2.2.2.2 = 3) (hR : jRoom E 0 0) {ad : Nat → Nat} (hA : adOk ad) {r : GW} {b : Nat × Nat} {K : MS → Prop} (hK : jRv E (KMV ad r K)) {x1 : Int32} {x2 : Int32} {m : MS}  (hw : wX6_standsAsAlways_2 x1 x2 m K) : J E (mwX ad m r) b [(0, .ref (ad 0)), (1, .int (x1)), (2, .int (x2))] 2 [] := by
  refine lfp_sound (σ := Int32 × MS) (F := fun KL s => wX6_standsAsAlways_2_b x1 s.1 s.2 KL K) (P := fun s => J E (mwX ad (s.2) r) b [(0, .ref (ad 0)), (1, .int (x1)), (2, .int (s.1))] 2 []) ?_ hw
  clear hw
  rintro KL2 ⟨x2, m⟩ hw ih2
  have hw : wX6_standsAsAlways_2_b x1 x2 m KL2 K := hw
  unfold wX6_standsAsAlways_2_b at hw
  refine j_iload_n hE 2 dX6_standsAsAlways_2 rfl rfl ?_
  refine j_bipush hE dX6_standsAsAlways_3 kb_60 ?_
  refine j_icmp_ge hE 23 dX6_standsAsAlways_5 (by decide) (fun c1 => ?_) (fun c1 => ?_)
  · have hw := hw.1 c1
    refine j_aload_n hE 0 dX6_standsAsAlways_23 rfl rfl ?_
    refine jm_get hE hA 10 (Nat.le_of_ble_eq_true rfl) q1657 rfl (v := .ref (ad 4)) rfl dX6_standsAsAlways_24 ?_
    refine j_iload_n hE 1 dX6_standsAsAlways_27 rfl rfl ?_
    refine j_iconst hE dX6_standsAsAlways_28 kc_3 ?_
    refine j_iadd hE dX6_standsAsAlways_29 ?_
    refine j_iconst hE dX6_standsAsAlways_30 kc_1 ?_
    obtain ⟨h2, hw⟩ := hw
    refine jm_iast hE hA 3 (Nat.le_of_ble_eq_true rfl) h2 dX6_standsAsAlways_31 ?_
    refine j_wm (fun m3 e_m3 => ?_)
    have hw := hw m3 e_m3
    refine j_aload_n hE 0 dX6_standsAsAlways_32 rfl rfl ?_
    refine jm_get hE hA 10 (Nat.le_of_ble_eq_true rfl) q1657 rfl (v := .ref (ad 4)) rfl dX6_standsAsAlways_33 ?_
    refine j_iload_n hE 1 dX6_standsAsAlways_36 rfl rfl ?_
    refine j_bipush hE dX6_standsAsAlways_37 kb_33 ?_
    refine j_iadd hE dX6_standsAsAlways_39 ?_
    refine j_iconst hE dX6_standsAsAlways_40 kc_1 ?_
    obtain ⟨h4, hw⟩ := hw
    refine jm_iast hE hA 3 (Nat.le_of_ble_eq_true rfl) h4 dX6_standsAsAlways_41 ?_
    refine j_wm (fun m5 e_m5 => ?_)
    have hw := hw m5 e_m5
    refine j_aload_n hE 0 dX6_standsAsAlways_42 rfl rfl ?_
    refine jm_get hE hA 10 (Nat.le_of_ble_eq_true rfl) q1657 rfl (v := .ref (ad 4)) rfl dX6_standsAsAlways_43 ?_
    refine j_iload_n hE 1 dX6_standsAsAlways_46 rfl rfl ?_
    refine j_iconst hE dX6_standsAsAlways_47 kc_4 ?_
    refine j_iadd hE dX6_standsAsAlways_48 ?_
    refine j_iconst hE dX6_standsAsAlways_49 kc_m1 ?_
    obtain ⟨h6, hw⟩ := hw
    refine jm_iast hE hA 3 (Nat.le_of_ble_eq_true rfl) h6 dX6_standsAsAlways_50 ?_
    refine j_wm (fun m7 e_m7 => ?_)
    have hw := hw m7 e_m7
    exact j_vret hE hK dX6_standsAsAlways_51 ⟨_, rfl, hw⟩
  · have hw := hw.2 c1
    refine j_aload_n hE 0 dX6_standsAsAlways_8 rfl rfl ?_
    refine jm_get hE hA 10 (Nat.le_of_ble_eq_true rfl) q1657 rfl (v := .ref (ad 4)) rfl dX6_standsAsAlways_9 ?_
    refine j_iload_n hE 1 dX6_standsAsAlways_12 rfl rfl ?_
    refine j_iload_n hE 2 dX6_standsAsAlways_13 rfl rfl ?_
    refine j_iadd hE dX6_standsAsAlways_14 ?_
    refine j_iconst hE dX6_standsAsAlways_15 kc_0 ?_
    obtain ⟨h8, hw⟩ := hw
    refine jm_iast hE hA 3 (Nat.le_of_ble_eq_true rfl) h8 dX6_standsAsAlways_16 ?_
    refine j_wm (fun m9 e_m9 => ?_)
    have hw := hw m9 e_m9
    refine j_iinc (L' := [(2, .int (x2 + 1)), (0, .ref (ad 0)), (1, .int (x1))]) hE hn 2 dX6_standsAsAlways_17 rfl (congrArg (x2 + ·) kc_1) (Nat.le_of_ble_eq_true rfl) rfl ?_
    refine j_goto hE 2 dX6_standsAsAlways_20 (by decide) ?_
    refine j_sub [(0, .ref (ad 0)), (1, .int (x1)), (2, .int (x2 + 1))] [1, 2, 0] rfl ?_
    have hz := ih2 (x2 + 1, m9) hw
    exact hz
def wX6_standsAsAlways_0 (x1 : Int32) (m : MS) (K : MS → Prop) : Prop :=
  wX6_standsAsAlways_2 x1 0 m K
set_option maxRecDepth 100000 in
theorem bX6_standsAsAlways_0 {E : jE} (hE : jOk E cX6_standsAsAlways RX6) (hn : E.2.2.2.2 = 3) (hR : jRoom E 0 0) {ad : Nat → Nat} (hA : adOk ad) {r : GW} {b : Nat × Nat} {K : MS → Prop} (hK : jRv E (KMV ad r K)) {x1 : Int32} {m : MS}  (hw : wX6_standsAsAlways_0 x1 m K) : J E (mwX ad m r) b [(0, .ref (ad 0)), (1, .int (x1))] 0 [] := by
  unfold wX6_standsAsAlways_0 at hw
  refine j_iconst hE dX6_standsAsAlways_0 kc_0 ?_
  refine j_istore_n (L' := [(2, .int (0)), (0, .ref (ad 0)), (1, .int (x1))]) hE hn dX6_standsAsAlways_1 rfl (Nat.le_of_ble_eq_true rfl) rfl ?_
  refine j_sub [(0, .ref (ad 0)), (1, .int (x1)), (2, .int (0))] [1, 2, 0] rfl ?_
  exact bX6_standsAsAlways_2 hE hn hR hA hK  hw
abbrev wX6_standsAsAlways := wX6_standsAsAlways_0
theorem ctX6_standsAsAlways (l : Launch) (G : gG) {ad : Nat → Nat} (hA : adOk ad) (m0 : MS) (r : GW) (x1 : Int32) (K : MS → Prop) (hw : wX6_standsAsAlways x1 m0 K) : CtV l yX6_standsAsAlways cX6_standsAsAlways 3 ({ frames := 0, cells := 0, slots := 0, locals := 0 }) G [.ref (ad 0), .int (x1)] (mwX ad m0 r) (KMV ad r K) :=
  CtV.of RX6 plain_X6 rfl (Nat.le_of_ble_eq_true rfl) (fun E hE _ _ hn hR hK => bX6_standsAsAlways_0 hE hn hR hA hK hw)
theorem jdX6_standsAsAlways : jD yX6_standsAsAlways 1 := by decide +kernel
theorem lkX6_standsAsAlways : GoodIn lw_all (wsV RX6 126 yX6_standsAsAlways.cls yX6_standsAsAlways (ws_ yX6_standsAsAlways cX6_standsAsAlways 3 none)) := lw_V q1631 q1633 qs56 q129 q1634
def wX6_people_0 (m0 : MS) (K : Int32 → Prop) : Prop :=
  vp_in 1 120 ∧ (K (rd (gA m0 3) 1))
set_option maxRecDepth 100000 in
theorem bX6_people_0 {E : jE} (hE : jOk E cX6_people RX6) (hn : E.2.2.2.2 = 1) (hR : jRoom E 0 0) {ad : Nat → Nat} (hA : adOk ad) {r : GW} {m0 : MS} {b : Nat × Nat} {K : Int32 → Prop} (hK : jRi E .int (KPI (mwX ad m0 r) K))   (hw : wX6_people_0 m0 K) : J E (mwX ad m0 r) b [(0, .ref (ad 0))] 0 [] := by
  unfold wX6_people_0 at hw
  refine j_aload_n hE 0 dX6_people_0 rfl rfl ?_
  refine jm_get hE hA 10 (Nat.le_of_ble_eq_true rfl) q1657 rfl (v := .ref (ad 4)) rfl dX6_people_1 ?_
  refine j_iconst hE dX6_people_4 kc_1 ?_
  obtain ⟨h1, hw⟩ := hw
  refine jm_iald hE hA 3 (Nat.le_of_ble_eq_true rfl) h1 dX6_people_5 ?_
  exact j_iret hE hK dX6_people_6 rfl ⟨rfl, hw⟩
abbrev wX6_people := wX6_people_0
theorem ctX6_people (l : Launch) (G : gG) {ad : Nat → Nat} (hA : adOk ad) (m0 : MS) (r : GW)  (K : Int32 → Prop) (hw : wX6_people m0 K) : CtI l yX6_people cX6_people 1 .int ({ frames := 0, cells := 0, slots := 0, locals := 0 }) G [.ref (ad 0)] (mwX ad m0 r) (KPI (mwX ad m0 r) K) :=
  CtI.of RX6 plain_X6 rfl (Nat.le_of_ble_eq_true rfl) (fun E hE _ _ hn hR hK => bX6_people_0 hE hn hR hA hK hw)
theorem jdX6_people : jD yX6_people 0 := by decide +kernel
theorem lkX6_people : GoodIn lw_all (wsV RX6 265 yX6_people.cls yX6_people (ws_ yX6_people cX6_people 1 (some .int))) := lw_V q1643 q1645 qs59 q129 q1646
def wX6_starts_25_b (x1 : Int32) (x2 : Int32) (m : MS) (KL25 : Int32 × MS → Prop) (K : MS → Prop) : Prop :=
  wX6_people  m (fun r1 => (r1 ≤ x2 → (K m)) ∧ (¬ r1 ≤ x2 → (vp_in ((nI 23) + x2) 120 ∧ (vp_in ((x1 + 1) + x2) 1518 ∧ (∀ m5 : MS, m5 = wA m 11 ((x1 + 1) + x2) (rd (gA m 3) ((nI 23) + x2)) → (KL25 (x2 + 1, m5)))))))
def wX6_starts_25 (x1 : Int32) (x2 : Int32) (m : MS) (K : MS → Prop) : Prop := lfp (σ := Int32 × MS) (fun KL s => wX6_starts_25_b x1 s.1 s.2 KL K) (x2, m)
set_option maxRecDepth 100000 in
theorem bX6_starts_25 {E : jE} (hE : jOk E cX6_starts RX6) (hn : E.2.2.2.2 = 3) (hR : jRoom E 1 20) {ad : Nat → Nat} (hA : adOk ad) {r : GW} {b : Nat × Nat} {K : MS → Prop} (hK : jRv E (KMV ad r K)) {x1 : Int32} {x2 : Int32} {m : MS}  (hw : wX6_starts_25 x1 x2 m K) : J E (mwX ad m r) b [(0, .ref (ad 0)), (1, .int (x1)), (2, .int (x2))] 25 [] := by
  refine lfp_sound (σ := Int32 × MS) (F := fun KL s => wX6_starts_25_b x1 s.1 s.2 KL K) (P := fun s => J E (mwX ad (s.2) r) b [(0, .ref (ad 0)), (1, .int (x1)), (2, .int (s.1))] 25 []) ?_ hw
  clear hw
  rintro KL25 ⟨x2, m⟩ hw ih25
  have hw : wX6_starts_25_b x1 x2 m KL25 K := hw
  unfold wX6_starts_25_b at hw
  refine j_iload_n hE 2 dX6_starts_25 rfl rfl ?_
  refine j_aload_n hE 0 dX6_starts_26 rfl rfl ?_
  refine jm_pI hE hA hR (As := []) (rest := [.int (x2)]) (ctX6_people E.1.2.1 E.2.2.1 hA _ _  _ hw) rfl lkX6_people jdX6_people ⟨Nat.le_of_ble_eq_true rfl, Nat.le_of_ble_eq_true rfl⟩ rfl (Nat.le_of_ble_eq_true rfl) dX6_starts_27 (fun r1 hw => ?_)
  refine j_icmp_ge hE 58 dX6_starts_30 (by decide) (fun c2 => ?_) (fun c2 => ?_)
  · have hw := hw.1 c2
    exact j_vret hE hK dX6_starts_58 ⟨_, rfl, hw⟩
  · have hw := hw.2 c2
    refine j_aload_n hE 0 dX6_starts_33 rfl rfl ?_
    refine jm_get hE hA 24 (Nat.le_of_ble_eq_true rfl) q1671 rfl (v := .ref (ad 12)) rfl dX6_starts_34 ?_
    refine j_iload_n hE 1 dX6_starts_37 rfl rfl ?_
    refine j_iconst hE dX6_starts_38 kc_1 ?_
    refine j_iadd hE dX6_starts_39 ?_
    refine j_iload_n hE 2 dX6_starts_40 rfl rfl ?_
    refine j_iadd hE dX6_starts_41 ?_
    refine j_aload_n hE 0 dX6_starts_42 rfl rfl ?_
    refine jm_get hE hA 10 (Nat.le_of_ble_eq_true rfl) q1657 rfl (v := .ref (ad 4)) rfl dX6_starts_43 ?_
    refine j_bipush hE dX6_starts_46 kb_23 ?_
    refine j_iload_n hE 2 dX6_starts_48 rfl rfl ?_
    refine j_iadd hE dX6_starts_49 ?_
    obtain ⟨h3, hw⟩ := hw
    refine jm_iald hE hA 3 (Nat.le_of_ble_eq_true rfl) h3 dX6_starts_50 ?_
    obtain ⟨h4, hw⟩ := hw
    refine jm_iast hE hA 11 (Nat.le_of_ble_eq_true rfl) h4 dX6_starts_51 ?_
    refine j_wm (fun m5 e_m5 => ?_)
    have hw := hw m5 e_m5
    refine j_iinc (L' := [(2, .int (x2 + 1)), (0, .ref (ad 0)), (1, .int (x1))]) hE hn 2 dX6_starts_52 rfl (congrArg (x2 + ·) kc_1) (Nat.le_of_ble_eq_true rfl) rfl ?_
    refine j_goto hE 25 dX6_starts_55 (by decide) ?_
    refine j_sub [(0, .ref (ad 0)), (1, .int (x1)), (2, .int (x2 + 1))] [1, 2, 0] rfl ?_
    have hz := ih25 (x2 + 1, m5) hw
    exact hz
def wX6_starts_2_b (x1 : Int32) (x2 : Int32) (m : MS) (KL2 : Int32 × MS → Prop) (K : MS → Prop) : Prop :=
  ((nI 60) ≤ x2 → (wX6_starts_25 x1 0 m K)) ∧ (¬ (nI 60) ≤ x2 → (vp_in (x1 + x2) 1518 ∧ (∀ m3 : MS, m3 = wA m 11 (x1 + x2) 0 → (KL2 (x2 + 1, m3)))))
def wX6_starts_2 (x1 : Int32) (x2 : Int32) (m : MS) (K : MS → Prop) : Prop := lfp (σ := Int32 × MS) (fun KL s => wX6_starts_2_b x1 s.1 s.2 KL K) (x2, m)
set_option maxRecDepth 100000 in
theorem bX6_starts_2 {E : jE} (hE : jOk E cX6_starts RX6) (hn : E.2.2.2.2 = 3) (hR : jRoom E 1 20) {ad : Nat → Nat} (hA : adOk ad) {r : GW} {b : Nat × Nat} {K : MS → Prop} (hK : jRv E (KMV ad r K)) {x1 : Int32} {x2 : Int32} {m : MS}  (hw : wX6_starts_2 x1 x2 m K) : J E (mwX ad m r) b [(0, .ref (ad 0)), (1, .int (x1)), (2, .int (x2))] 2 [] := by
  refine lfp_sound (σ := Int32 × MS) (F := fun KL s => wX6_starts_2_b x1 s.1 s.2 KL K) (P := fun s => J E (mwX ad (s.2) r) b [(0, .ref (ad 0)), (1, .int (x1)), (2, .int (s.1))] 2 []) ?_ hw
  clear hw
  rintro KL2 ⟨x2, m⟩ hw ih2
  have hw : wX6_starts_2_b x1 x2 m KL2 K := hw
  unfold wX6_starts_2_b at hw
  refine j_iload_n hE 2 dX6_starts_2 rfl rfl ?_
  refine j_bipush hE dX6_starts_3 kb_60 ?_
  refine j_icmp_ge hE 23 dX6_starts_5 (by decide) (fun c1 => ?_) (fun c1 => ?_)
  · have hw := hw.1 c1
    refine j_iconst hE dX6_starts_23 kc_0 ?_
    refine j_istore_n (L' := [(2, .int (0)), (0, .ref (ad 0)), (1, .int (x1))]) hE hn dX6_starts_24 rfl (Nat.le_of_ble_eq_true rfl) rfl ?_
    refine j_sub [(0, .ref (ad 0)), (1, .int (x1)), (2, .int (0))] [1, 2, 0] rfl ?_
    exact bX6_starts_25 hE hn hR hA hK  hw
  · have hw := hw.2 c1
    refine j_aload_n hE 0 dX6_starts_8 rfl rfl ?_
    refine jm_get hE hA 24 (Nat.le_of_ble_eq_true rfl) q1671 rfl (v := .ref (ad 12)) rfl dX6_starts_9 ?_
    refine j_iload_n hE 1 dX6_starts_12 rfl rfl ?_
    refine j_iload_n hE 2 dX6_starts_13 rfl rfl ?_
    refine j_iadd hE dX6_starts_14 ?_
    refine j_iconst hE dX6_starts_15 kc_0 ?_
    obtain ⟨h2, hw⟩ := hw
    refine jm_iast hE hA 11 (Nat.le_of_ble_eq_true rfl) h2 dX6_starts_16 ?_
    refine j_wm (fun m3 e_m3 => ?_)
    have hw := hw m3 e_m3
    refine j_iinc (L' := [(2, .int (x2 + 1)), (0, .ref (ad 0)), (1, .int (x1))]) hE hn 2 dX6_starts_17 rfl (congrArg (x2 + ·) kc_1) (Nat.le_of_ble_eq_true rfl) rfl ?_
    refine j_goto hE 2 dX6_starts_20 (by decide) ?_
    refine j_sub [(0, .ref (ad 0)), (1, .int (x1)), (2, .int (x2 + 1))] [1, 2, 0] rfl ?_
    have hz := ih2 (x2 + 1, m3) hw
    exact hz
def wX6_starts_0 (x1 : Int32) (m : MS) (K : MS → Prop) : Prop :=
  wX6_starts_2 x1 0 m K
set_option maxRecDepth 100000 in
theorem bX6_starts_0 {E : jE} (hE : jOk E cX6_starts RX6) (hn : E.2.2.2.2 = 3) (hR : jRoom E 1 20) {ad : Nat → Nat} (hA : adOk ad) {r : GW} {b : Nat × Nat} {K : MS → Prop} (hK : jRv E (KMV ad r K)) {x1 : Int32} {m : MS}  (hw : wX6_starts_0 x1 m K) : J E (mwX ad m r) b [(0, .ref (ad 0)), (1, .int (x1))] 0 [] := by
  unfold wX6_starts_0 at hw
  refine j_iconst hE dX6_starts_0 kc_0 ?_
  refine j_istore_n (L' := [(2, .int (0)), (0, .ref (ad 0)), (1, .int (x1))]) hE hn dX6_starts_1 rfl (Nat.le_of_ble_eq_true rfl) rfl ?_
  refine j_sub [(0, .ref (ad 0)), (1, .int (x1)), (2, .int (0))] [1, 2, 0] rfl ?_
  exact bX6_starts_2 hE hn hR hA hK  hw
abbrev wX6_starts := wX6_starts_0
theorem ctX6_starts (l : Launch) (G : gG) {ad : Nat → Nat} (hA : adOk ad) (m0 : MS) (r : GW) (x1 : Int32) (K : MS → Prop) (hw : wX6_starts x1 m0 K) : CtV l yX6_starts cX6_starts 3 ({ frames := 1, cells := 0, slots := 0, locals := 20 }) G [.ref (ad 0), .int (x1)] (mwX ad m0 r) (KMV ad r K) :=
  CtV.of RX6 plain_X6 rfl (Nat.le_of_ble_eq_true rfl) (fun E hE _ _ hn hR hK => bX6_starts_0 hE hn hR hA hK hw)
theorem jdX6_starts : jD yX6_starts 1 := by decide +kernel
theorem lkX6_starts : GoodIn lw_all (wsV RX6 269 yX6_starts.cls yX6_starts (ws_ yX6_starts cX6_starts 3 none)) := lw_V q1639 q1641 qs58 q129 q1642
def wX6_begins_43_b (x1 : Int32) (m : MS) (KL43 : Int32 × MS → Prop) (K : MS → Prop) : Prop :=
  ((nI 4) ≤ x1 → (K m)) ∧ (¬ (nI 4) ≤ x1 → (vp_in x1 4 ∧ (∀ m3 : MS, m3 = wA m 12 x1 0 → (KL43 (x1 + 1, m3)))))
def wX6_begins_43 (x1 : Int32) (m : MS) (K : MS → Prop) : Prop := lfp (σ := Int32 × MS) (fun KL s => wX6_begins_43_b s.1 s.2 KL K) (x1, m)
set_option maxRecDepth 100000 in
theorem bX6_begins_43 {E : jE} (hE : jOk E cX6_begins RX6) (hn : E.2.2.2.2 = 2) (hR : jRoom E 2 42) {ad : Nat → Nat} (hA : adOk ad) {r : GW} {b : Nat × Nat} {K : MS → Prop} (hK : jRv E (KMV ad r K)) {x1 : Int32} {m : MS}  (hw : wX6_begins_43 x1 m K) : J E (mwX ad m r) b [(0, .ref (ad 0)), (1, .int (x1))] 43 [] := by
  refine lfp_sound (σ := Int32 × MS) (F := fun KL s => wX6_begins_43_b s.1 s.2 KL K) (P := fun s => J E (mwX ad (s.2) r) b [(0, .ref (ad 0)), (1, .int (s.1))] 43 []) ?_ hw
  clear hw
  rintro KL43 ⟨x1, m⟩ hw ih43
  have hw : wX6_begins_43_b x1 m KL43 K := hw
  unfold wX6_begins_43_b at hw
  refine j_iload_n hE 1 dX6_begins_43 rfl rfl ?_
  refine j_iconst hE dX6_begins_44 kc_4 ?_
  refine j_icmp_ge hE 61 dX6_begins_45 (by decide) (fun c1 => ?_) (fun c1 => ?_)
  · have hw := hw.1 c1
    exact j_vret hE hK dX6_begins_61 ⟨_, rfl, hw⟩
  · have hw := hw.2 c1
    refine j_aload_n hE 0 dX6_begins_48 rfl rfl ?_
    refine jm_get hE hA 26 (Nat.le_of_ble_eq_true rfl) q1673 rfl (v := .ref (ad 13)) rfl dX6_begins_49 ?_
    refine j_iload_n hE 1 dX6_begins_52 rfl rfl ?_
    refine j_iconst hE dX6_begins_53 kc_0 ?_
    obtain ⟨h2, hw⟩ := hw
    refine jm_zast hE hA h2 rfl dX6_begins_54 ?_
    refine j_wm (fun m3 e_m3 => ?_)
    have hw := hw m3 e_m3
    refine j_iinc (L' := [(1, .int (x1 + 1)), (0, .ref (ad 0))]) hE hn 1 dX6_begins_55 rfl (congrArg (x1 + ·) kc_1) (Nat.le_of_ble_eq_true rfl) rfl ?_
    refine j_goto hE 43 dX6_begins_58 (by decide) ?_
    refine j_sub [(0, .ref (ad 0)), (1, .int (x1 + 1))] [1, 0] rfl ?_
    have hz := ih43 (x1 + 1, m3) hw
    exact hz
def wX6_begins_7_b (x1 : Int32) (m : MS) (KL7 : Int32 × MS → Prop) (K : MS → Prop) : Prop :=
  ((nI 6) ≤ x1 → (vp_in 0 250 ∧ (∀ m3 : MS, m3 = wA m 8 0 0 → (∀ m4 : MS, m4 = sF m3 9 0 → (wX6_begins_43 0 m4 K))))) ∧ (¬ (nI 6) ≤ x1 → (vp_in ((nI 60) + x1) 1518 ∧ (∀ m6 : MS, m6 = wA m 11 ((nI 60) + x1) ((-1)) → (KL7 (x1 + 1, m6)))))
def wX6_begins_7 (x1 : Int32) (m : MS) (K : MS → Prop) : Prop := lfp (σ := Int32 × MS) (fun KL s => wX6_begins_7_b s.1 s.2 KL K) (x1, m)
set_option maxRecDepth 100000 in
theorem bX6_begins_7 {E : jE} (hE : jOk E cX6_begins RX6) (hn : E.2.2.2.2 = 2) (hR : jRoom E 2 42) {ad : Nat → Nat} (hA : adOk ad) {r : GW} {b : Nat × Nat} {K : MS → Prop} (hK : jRv E (KMV ad r K)) {x1 : Int32} {m : MS}  (hw : wX6_begins_7 x1 m K) : J E (mwX ad m r) b [(0, .ref (ad 0)), (1, .int (x1))] 7 [] := by
  refine lfp_sound (σ := Int32 × MS) (F := fun KL s => wX6_begins_7_b s.1 s.2 KL K) (P := fun s => J E (mwX ad (s.2) r) b [(0, .ref (ad 0)), (1, .int (s.1))] 7 []) ?_ hw
  clear hw
  rintro KL7 ⟨x1, m⟩ hw ih7
  have hw : wX6_begins_7_b x1 m KL7 K := hw
  unfold wX6_begins_7_b at hw
  refine j_iload_n hE 1 dX6_begins_7 rfl rfl ?_
  refine j_bipush hE dX6_begins_8 kb_6 ?_
  refine j_icmp_ge hE 29 dX6_begins_10 (by decide) (fun c1 => ?_) (fun c1 => ?_)
  · have hw := hw.1 c1
    refine j_aload_n hE 0 dX6_begins_29 rfl rfl ?_
    refine jm_get hE hA 21 (Nat.le_of_ble_eq_true rfl) q1668 rfl (v := .ref (ad 9)) rfl dX6_begins_30 ?_
    refine j_iconst hE dX6_begins_33 kc_0 ?_
    refine j_iconst hE dX6_begins_34 kc_0 ?_
    obtain ⟨h2, hw⟩ := hw
    refine jm_iast hE hA 8 (Nat.le_of_ble_eq_true rfl) h2 dX6_begins_35 ?_
    refine j_wm (fun m3 e_m3 => ?_)
    have hw := hw m3 e_m3
    refine j_aload_n hE 0 dX6_begins_36 rfl rfl ?_
    refine j_iconst hE dX6_begins_37 kc_0 ?_
    refine jm_putF hE hA 25 9 (Nat.le_of_ble_eq_true rfl) q1672 rfl rfl (mset_9 _ _ _) rfl rfl dX6_begins_38 ?_
    refine j_wm (fun m4 e_m4 => ?_)
    have hw := hw m4 e_m4
    refine j_iconst hE dX6_begins_41 kc_0 ?_
    refine j_istore_n (L' := [(1, .int (0)), (0, .ref (ad 0))]) hE hn dX6_begins_42 rfl (Nat.le_of_ble_eq_true rfl) rfl ?_
    refine j_sub [(0, .ref (ad 0)), (1, .int (0))] [1, 0] rfl ?_
    exact bX6_begins_43 hE hn hR hA hK  hw
  · have hw := hw.2 c1
    refine j_aload_n hE 0 dX6_begins_13 rfl rfl ?_
    refine jm_get hE hA 24 (Nat.le_of_ble_eq_true rfl) q1671 rfl (v := .ref (ad 12)) rfl dX6_begins_14 ?_
    refine j_bipush hE dX6_begins_17 kb_60 ?_
    refine j_iload_n hE 1 dX6_begins_19 rfl rfl ?_
    refine j_iadd hE dX6_begins_20 ?_
    refine j_iconst hE dX6_begins_21 kc_m1 ?_
    obtain ⟨h5, hw⟩ := hw
    refine jm_iast hE hA 11 (Nat.le_of_ble_eq_true rfl) h5 dX6_begins_22 ?_
    refine j_wm (fun m6 e_m6 => ?_)
    have hw := hw m6 e_m6
    refine j_iinc (L' := [(1, .int (x1 + 1)), (0, .ref (ad 0))]) hE hn 1 dX6_begins_23 rfl (congrArg (x1 + ·) kc_1) (Nat.le_of_ble_eq_true rfl) rfl ?_
    refine j_goto hE 7 dX6_begins_26 (by decide) ?_
    refine j_sub [(0, .ref (ad 0)), (1, .int (x1 + 1))] [1, 0] rfl ?_
    have hz := ih7 (x1 + 1, m6) hw
    exact hz
def wX6_begins_0 (m : MS) (K : MS → Prop) : Prop :=
  wX6_starts 0 m (fun  m1 => wX6_begins_7 0 m1 K)
set_option maxRecDepth 100000 in
theorem bX6_begins_0 {E : jE} (hE : jOk E cX6_begins RX6) (hn : E.2.2.2.2 = 2) (hR : jRoom E 2 42) {ad : Nat → Nat} (hA : adOk ad) {r : GW} {b : Nat × Nat} {K : MS → Prop} (hK : jRv E (KMV ad r K)) {m : MS}  (hw : wX6_begins_0 m K) : J E (mwX ad m r) b [(0, .ref (ad 0))] 0 [] := by
  unfold wX6_begins_0 at hw
  refine j_aload_n hE 0 dX6_begins_0 rfl rfl ?_
  refine j_iconst hE dX6_begins_1 kc_0 ?_
  refine jm_cV hE hA hR (As := [.int (0)]) (rest := []) (ctX6_starts E.1.2.1 E.2.2.1 hA _ _ _  _ hw) rfl lkX6_starts jdX6_starts ⟨Nat.le_of_ble_eq_true rfl, Nat.le_of_ble_eq_true rfl⟩ rfl (Nat.le_of_ble_eq_true rfl) dX6_begins_2 (fun  m1 hw => ?_)
  refine j_iconst hE dX6_begins_5 kc_0 ?_
  refine j_istore_n (L' := [(1, .int (0)), (0, .ref (ad 0))]) hE hn dX6_begins_6 rfl (Nat.le_of_ble_eq_true rfl) rfl ?_
  refine j_sub [(0, .ref (ad 0)), (1, .int (0))] [1, 0] rfl ?_
  exact bX6_begins_7 hE hn hR hA hK  hw
abbrev wX6_begins := wX6_begins_0
theorem ctX6_begins (l : Launch) (G : gG) {ad : Nat → Nat} (hA : adOk ad) (m0 : MS) (r : GW)  (K : MS → Prop) (hw : wX6_begins m0 K) : CtV l yX6_begins cX6_begins 2 ({ frames := 2, cells := 0, slots := 0, locals := 42 }) G [.ref (ad 0)] (mwX ad m0 r) (KMV ad r K) :=
  CtV.of RX6 plain_X6 rfl (Nat.le_of_ble_eq_true rfl) (fun E hE _ _ hn hR hK => bX6_begins_0 hE hn hR hA hK hw)
theorem jdX6_begins : jD yX6_begins 0 := by decide +kernel
theorem lkX6_begins : GoodIn lw_all (wsV RX6 130 yX6_begins.cls yX6_begins (ws_ yX6_begins cX6_begins 2 none)) := lw_V q1635 q1637 qs57 q129 q1638
def wX6_isLetter_0 (x0 : Int32) (K : Int32 → Prop) : Prop :=
  (x0 < (nI 97) → (K 0)) ∧ (¬ x0 < (nI 97) → (((nI 122) < x0 → (K 0)) ∧ (¬ (nI 122) < x0 → (K 1))))
set_option maxRecDepth 100000 in
theorem bX6_isLetter_0 {E : jE} (hE : jOk E cX6_isLetter RX6) (hn : E.2.2.2.2 = 1) (hR : jRoom E 0 0) {w : GW} {b : Nat × Nat} {K : Int32 → Prop} (hK : jRi E .boolean (KPI w K)) {x0 : Int32}  (hw : wX6_isLetter_0 x0 K) : J E w b [(0, .int (x0))] 0 [] := by
  unfold wX6_isLetter_0 at hw
  refine j_iload_n hE 0 dX6_isLetter_0 rfl rfl ?_
  refine j_bipush hE dX6_isLetter_1 kb_97 ?_
  refine j_icmp_lt hE 16 dX6_isLetter_3 (by decide) (fun c1 => ?_) (fun c1 => ?_)
  · have hw := hw.1 c1
    refine j_iconst hE dX6_isLetter_16 kc_0 ?_
    exact j_iret hE hK dX6_isLetter_17 rfl ⟨rfl, hw⟩
  · have hw := hw.2 c1
    refine j_iload_n hE 0 dX6_isLetter_6 rfl rfl ?_
    refine j_bipush hE dX6_isLetter_7 kb_122 ?_
    refine j_icmp_gt hE 16 dX6_isLetter_9 (by decide) (fun c2 => ?_) (fun c2 => ?_)
    · have hw := hw.1 c2
      refine j_iconst hE dX6_isLetter_16 kc_0 ?_
      exact j_iret hE hK dX6_isLetter_17 rfl ⟨rfl, hw⟩
    · have hw := hw.2 c2
      refine j_iconst hE dX6_isLetter_12 kc_1 ?_
      refine j_goto hE 17 dX6_isLetter_13 (by decide) ?_
      exact j_iret hE hK dX6_isLetter_17 rfl ⟨rfl, hw⟩
abbrev wX6_isLetter := wX6_isLetter_0
theorem ctX6_isLetter (l : Launch) (G : gG) (w : GW) (x0 : Int32) (K : Int32 → Prop) (hw : wX6_isLetter x0 K) : CtI l yX6_isLetter cX6_isLetter 1 .boolean ({ frames := 0, cells := 0, slots := 0, locals := 0 }) G [.int (x0)] w (KPI w K) :=
  CtI.of RX6 plain_X6 rfl (Nat.le_of_ble_eq_true rfl) (fun E hE _ _ hn hR hK => bX6_isLetter_0 hE hn hR hK hw)
theorem jdX6_isLetter : jD yX6_isLetter 1 := by decide +kernel
theorem lkX6_isLetter : GoodIn lw_all (va_wsS RX6 133 yX6_isLetter (ws_ yX6_isLetter cX6_isLetter 1 (some .boolean))) := lw_S q1751 q1752 q129 q1753
def wX6_rank_0 (x0 : Int32) (K : Int32 → Prop) : Prop :=
  wX6_isLetter x0 (fun r1 => (r1 = 0 → (K (x0 - (nI 21)))) ∧ (¬ r1 = 0 → (K (x0 - (nI 96)))))
set_option maxRecDepth 100000 in
theorem bX6_rank_0 {E : jE} (hE : jOk E cX6_rank RX6) (hn : E.2.2.2.2 = 1) (hR : jRoom E 1 20) {w : GW} {b : Nat × Nat} {K : Int32 → Prop} (hK : jRi E .int (KPI w K)) {x0 : Int32}  (hw : wX6_rank_0 x0 K) : J E w b [(0, .int (x0))] 0 [] := by
  unfold wX6_rank_0 at hw
  refine j_iload_n hE 0 dX6_rank_0 rfl rfl ?_
  refine j_psI hE hR (As := [.int (x0)]) (rest := []) (ctX6_isLetter E.1.2.1 E.2.2.1 _ _  _ hw) lkX6_isLetter jdX6_isLetter ⟨Nat.le_of_ble_eq_true rfl, Nat.le_of_ble_eq_true rfl⟩ rfl (Nat.le_of_ble_eq_true rfl) dX6_rank_1 (fun r1 hw => ?_)
  refine j_if_eq hE 14 dX6_rank_4 (by decide) (fun c2 => ?_) (fun c2 => ?_)
  · have hw := hw.1 c2
    refine j_iload_n hE 0 dX6_rank_14 rfl rfl ?_
    refine j_bipush hE dX6_rank_15 kb_21 ?_
    refine j_isub hE dX6_rank_17 ?_
    exact j_iret hE hK dX6_rank_18 rfl ⟨rfl, hw⟩
  · have hw := hw.2 c2
    refine j_iload_n hE 0 dX6_rank_7 rfl rfl ?_
    refine j_bipush hE dX6_rank_8 kb_96 ?_
    refine j_isub hE dX6_rank_10 ?_
    refine j_goto hE 18 dX6_rank_11 (by decide) ?_
    exact j_iret hE hK dX6_rank_18 rfl ⟨rfl, hw⟩
abbrev wX6_rank := wX6_rank_0
theorem ctX6_rank (l : Launch) (G : gG) (w : GW) (x0 : Int32) (K : Int32 → Prop) (hw : wX6_rank x0 K) : CtI l yX6_rank cX6_rank 1 .int ({ frames := 1, cells := 0, slots := 0, locals := 20 }) G [.int (x0)] w (KPI w K) :=
  CtI.of RX6 plain_X6 rfl (Nat.le_of_ble_eq_true rfl) (fun E hE _ _ hn hR hK => bX6_rank_0 hE hn hR hK hw)
theorem jdX6_rank : jD yX6_rank 1 := by decide +kernel
theorem lkX6_rank : GoodIn lw_all (va_wsS RX6 142 yX6_rank (ws_ yX6_rank cX6_rank 1 (some .int))) := lw_S q1755 q1756 q129 q1757
def wX6_isDigit_0 (x0 : Int32) (K : Int32 → Prop) : Prop :=
  (x0 < (nI 48) → (K 0)) ∧ (¬ x0 < (nI 48) → (((nI 57) < x0 → (K 0)) ∧ (¬ (nI 57) < x0 → (K 1))))
set_option maxRecDepth 100000 in
theorem bX6_isDigit_0 {E : jE} (hE : jOk E cX6_isDigit RX6) (hn : E.2.2.2.2 = 1) (hR : jRoom E 0 0) {w : GW} {b : Nat × Nat} {K : Int32 → Prop} (hK : jRi E .boolean (KPI w K)) {x0 : Int32}  (hw : wX6_isDigit_0 x0 K) : J E w b [(0, .int (x0))] 0 [] := by
  unfold wX6_isDigit_0 at hw
  refine j_iload_n hE 0 dX6_isDigit_0 rfl rfl ?_
  refine j_bipush hE dX6_isDigit_1 kb_48 ?_
  refine j_icmp_lt hE 16 dX6_isDigit_3 (by decide) (fun c1 => ?_) (fun c1 => ?_)
  · have hw := hw.1 c1
    refine j_iconst hE dX6_isDigit_16 kc_0 ?_
    exact j_iret hE hK dX6_isDigit_17 rfl ⟨rfl, hw⟩
  · have hw := hw.2 c1
    refine j_iload_n hE 0 dX6_isDigit_6 rfl rfl ?_
    refine j_bipush hE dX6_isDigit_7 kb_57 ?_
    refine j_icmp_gt hE 16 dX6_isDigit_9 (by decide) (fun c2 => ?_) (fun c2 => ?_)
    · have hw := hw.1 c2
      refine j_iconst hE dX6_isDigit_16 kc_0 ?_
      exact j_iret hE hK dX6_isDigit_17 rfl ⟨rfl, hw⟩
    · have hw := hw.2 c2
      refine j_iconst hE dX6_isDigit_12 kc_1 ?_
      refine j_goto hE 17 dX6_isDigit_13 (by decide) ?_
      exact j_iret hE hK dX6_isDigit_17 rfl ⟨rfl, hw⟩
abbrev wX6_isDigit := wX6_isDigit_0
theorem ctX6_isDigit (l : Launch) (G : gG) (w : GW) (x0 : Int32) (K : Int32 → Prop) (hw : wX6_isDigit x0 K) : CtI l yX6_isDigit cX6_isDigit 1 .boolean ({ frames := 0, cells := 0, slots := 0, locals := 0 }) G [.int (x0)] w (KPI w K) :=
  CtI.of RX6 plain_X6 rfl (Nat.le_of_ble_eq_true rfl) (fun E hE _ _ hn hR hK => bX6_isDigit_0 hE hn hR hK hw)
theorem jdX6_isDigit : jD yX6_isDigit 1 := by decide +kernel
theorem lkX6_isDigit : GoodIn lw_all (va_wsS RX6 146 yX6_isDigit (ws_ yX6_isDigit cX6_isDigit 1 (some .boolean))) := lw_S q1758 q1759 q129 q1760
def wX6_isSignOf_0 (x0 : Int32) (K : Int32 → Prop) : Prop :=
  (x0 = (nI 40) → (K 1)) ∧ (¬ x0 = (nI 40) → ((x0 = (nI 41) → (K 1)) ∧ (¬ x0 = (nI 41) → ((x0 = (nI 59) → (K 1)) ∧ (¬ x0 = (nI 59) → ((x0 = (nI 61) → (K 1)) ∧ (¬ x0 = (nI 61) → ((x0 = (nI 60) → (K 1)) ∧ (¬ x0 = (nI 60) → ((x0 = (nI 43) → (K 1)) ∧ (¬ x0 = (nI 43) → ((x0 = (nI 45) → (K 1)) ∧ (¬ x0 = (nI 45) → ((¬ x0 = (nI 42) → (K 0)) ∧ (x0 = (nI 42) → (K 1))))))))))))))))
set_option maxRecDepth 100000 in
theorem bX6_isSignOf_0 {E : jE} (hE : jOk E cX6_isSignOf RX6) (hn : E.2.2.2.2 = 1) (hR : jRoom E 0 0) {w : GW} {b : Nat × Nat} {K : Int32 → Prop} (hK : jRi E .boolean (KPI w K)) {x0 : Int32}  (hw : wX6_isSignOf_0 x0 K) : J E w b [(0, .int (x0))] 0 [] := by
  unfold wX6_isSignOf_0 at hw
  refine j_iload_n hE 0 dX6_isSignOf_0 rfl rfl ?_
  refine j_bipush hE dX6_isSignOf_1 kb_40 ?_
  refine j_icmp_eq hE 48 dX6_isSignOf_3 (by decide) (fun c1 => ?_) (fun c1 => ?_)
  · have hw := hw.1 c1
    refine j_iconst hE dX6_isSignOf_48 kc_1 ?_
    refine j_goto hE 53 dX6_isSignOf_49 (by decide) ?_
    exact j_iret hE hK dX6_isSignOf_53 rfl ⟨rfl, hw⟩
  · have hw := hw.2 c1
    refine j_iload_n hE 0 dX6_isSignOf_6 rfl rfl ?_
    refine j_bipush hE dX6_isSignOf_7 kb_41 ?_
    refine j_icmp_eq hE 48 dX6_isSignOf_9 (by decide) (fun c2 => ?_) (fun c2 => ?_)
    · have hw := hw.1 c2
      refine j_iconst hE dX6_isSignOf_48 kc_1 ?_
      refine j_goto hE 53 dX6_isSignOf_49 (by decide) ?_
      exact j_iret hE hK dX6_isSignOf_53 rfl ⟨rfl, hw⟩
    · have hw := hw.2 c2
      refine j_iload_n hE 0 dX6_isSignOf_12 rfl rfl ?_
      refine j_bipush hE dX6_isSignOf_13 kb_59 ?_
      refine j_icmp_eq hE 48 dX6_isSignOf_15 (by decide) (fun c3 => ?_) (fun c3 => ?_)
      · have hw := hw.1 c3
        refine j_iconst hE dX6_isSignOf_48 kc_1 ?_
        refine j_goto hE 53 dX6_isSignOf_49 (by decide) ?_
        exact j_iret hE hK dX6_isSignOf_53 rfl ⟨rfl, hw⟩
      · have hw := hw.2 c3
        refine j_iload_n hE 0 dX6_isSignOf_18 rfl rfl ?_
        refine j_bipush hE dX6_isSignOf_19 kb_61 ?_
        refine j_icmp_eq hE 48 dX6_isSignOf_21 (by decide) (fun c4 => ?_) (fun c4 => ?_)
        · have hw := hw.1 c4
          refine j_iconst hE dX6_isSignOf_48 kc_1 ?_
          refine j_goto hE 53 dX6_isSignOf_49 (by decide) ?_
          exact j_iret hE hK dX6_isSignOf_53 rfl ⟨rfl, hw⟩
        · have hw := hw.2 c4
          refine j_iload_n hE 0 dX6_isSignOf_24 rfl rfl ?_
          refine j_bipush hE dX6_isSignOf_25 kb_60 ?_
          refine j_icmp_eq hE 48 dX6_isSignOf_27 (by decide) (fun c5 => ?_) (fun c5 => ?_)
          · have hw := hw.1 c5
            refine j_iconst hE dX6_isSignOf_48 kc_1 ?_
            refine j_goto hE 53 dX6_isSignOf_49 (by decide) ?_
            exact j_iret hE hK dX6_isSignOf_53 rfl ⟨rfl, hw⟩
          · have hw := hw.2 c5
            refine j_iload_n hE 0 dX6_isSignOf_30 rfl rfl ?_
            refine j_bipush hE dX6_isSignOf_31 kb_43 ?_
            refine j_icmp_eq hE 48 dX6_isSignOf_33 (by decide) (fun c6 => ?_) (fun c6 => ?_)
            · have hw := hw.1 c6
              refine j_iconst hE dX6_isSignOf_48 kc_1 ?_
              refine j_goto hE 53 dX6_isSignOf_49 (by decide) ?_
              exact j_iret hE hK dX6_isSignOf_53 rfl ⟨rfl, hw⟩
            · have hw := hw.2 c6
              refine j_iload_n hE 0 dX6_isSignOf_36 rfl rfl ?_
              refine j_bipush hE dX6_isSignOf_37 kb_45 ?_
              refine j_icmp_eq hE 48 dX6_isSignOf_39 (by decide) (fun c7 => ?_) (fun c7 => ?_)
              · have hw := hw.1 c7
                refine j_iconst hE dX6_isSignOf_48 kc_1 ?_
                refine j_goto hE 53 dX6_isSignOf_49 (by decide) ?_
                exact j_iret hE hK dX6_isSignOf_53 rfl ⟨rfl, hw⟩
              · have hw := hw.2 c7
                refine j_iload_n hE 0 dX6_isSignOf_42 rfl rfl ?_
                refine j_bipush hE dX6_isSignOf_43 kb_42 ?_
                refine j_icmp_ne hE 52 dX6_isSignOf_45 (by decide) (fun c8 => ?_) (fun c8 => ?_)
                · have hw := hw.1 c8
                  refine j_iconst hE dX6_isSignOf_52 kc_0 ?_
                  exact j_iret hE hK dX6_isSignOf_53 rfl ⟨rfl, hw⟩
                · have hw := hw.2 c8
                  refine j_iconst hE dX6_isSignOf_48 kc_1 ?_
                  refine j_goto hE 53 dX6_isSignOf_49 (by decide) ?_
                  exact j_iret hE hK dX6_isSignOf_53 rfl ⟨rfl, hw⟩
abbrev wX6_isSignOf := wX6_isSignOf_0
theorem ctX6_isSignOf (l : Launch) (G : gG) (w : GW) (x0 : Int32) (K : Int32 → Prop) (hw : wX6_isSignOf x0 K) : CtI l yX6_isSignOf cX6_isSignOf 1 .boolean ({ frames := 0, cells := 0, slots := 0, locals := 0 }) G [.int (x0)] w (KPI w K) :=
  CtI.of RX6 plain_X6 rfl (Nat.le_of_ble_eq_true rfl) (fun E hE _ _ hn hR hK => bX6_isSignOf_0 hE hn hR hK hw)
theorem jdX6_isSignOf : jD yX6_isSignOf 1 := by decide +kernel
theorem lkX6_isSignOf : GoodIn lw_all (va_wsS RX6 153 yX6_isSignOf (ws_ yX6_isSignOf cX6_isSignOf 1 (some .boolean))) := lw_S q1763 q1764 q129 q1765
def wX6_cutAll_129 (x1 : Int32) (x2 : Int32) (x4 : Int32) (x5 : Int64) (m : MS) (KL17 : Int32 × Int32 × MS → Prop) (K : MS → Prop) : Prop :=
  ((x2 - x4) ≤ (nI 8) → (vp_in x1 1002 ∧ (∀ m3 : MS, m3 = wA m 1 x1 1 → (vp_in x1 1002 ∧ (∀ m5 : MS, m5 = wL m3 0 x1 x5 → (KL17 (x1 + 1, x2, m5))))))) ∧ (¬ (x2 - x4) ≤ (nI 8) → (vp_in x1 1002 ∧ (∀ m7 : MS, m7 = wA m 1 x1 (nI 4) → (vp_in x1 1002 ∧ (∀ m9 : MS, m9 = wL m7 0 x1 x5 → (KL17 (x1 + 1, x2, m9)))))))
set_option maxRecDepth 100000 in
theorem bX6_cutAll_129 {E : jE} (hE : jOk E cX6_cutAll RX6) (hn : E.2.2.2.2 = 7) (hR : jRoom E 2 40) {ad : Nat → Nat} (hA : adOk ad) {r : GW} {b : Nat × Nat} {K : MS → Prop} (hK : jRv E (KMV ad r K)) {x1 : Int32} {x2 : Int32} {x4 : Int32} {x5 : Int64} {m : MS} {KL17 : Int32 × Int32 × MS → Prop} (ih17 : ∀ s : Int32 × Int32 × MS, KL17 s → J E (mwX ad (s.2.2) r) b [(0, .ref (ad 0)), (1, .int (s.1)), (2, .int (s.2.1))] 17 []) (hw : wX6_cutAll_129 x1 x2 x4 x5 m KL17 K) : J E (mwX ad m r) b [(0, .ref (ad 0)), (1, .int (x1)), (2, .int (x2)), (4, .int (x4)), (5, .long (x5))] 129 [] := by
  unfold wX6_cutAll_129 at hw
  refine j_aload_n hE 0 dX6_cutAll_129 rfl rfl ?_
  refine jm_get hE hA 4 (Nat.le_of_ble_eq_true rfl) q1651 rfl (v := .ref (ad 2)) rfl dX6_cutAll_130 ?_
  refine j_iload_n hE 1 dX6_cutAll_133 rfl rfl ?_
  refine j_iload_n hE 2 dX6_cutAll_134 rfl rfl ?_
  refine j_iload hE 3 dX6_cutAll_135 rfl ?_
  refine j_isub hE dX6_cutAll_137 ?_
  refine j_bipush hE dX6_cutAll_138 kb_8 ?_
  refine j_icmp_le hE 147 dX6_cutAll_140 (by decide) (fun c1 => ?_) (fun c1 => ?_)
  · have hw := hw.1 c1
    refine j_iconst hE dX6_cutAll_147 kc_1 ?_
    obtain ⟨h2, hw⟩ := hw
    refine jm_iast hE hA 1 (Nat.le_of_ble_eq_true rfl) h2 dX6_cutAll_148 ?_
    refine j_wm (fun m3 e_m3 => ?_)
    have hw := hw m3 e_m3
    refine j_goto hE 265 dX6_cutAll_149 (by decide) ?_
    refine j_aload_n hE 0 dX6_cutAll_265 rfl rfl ?_
    refine jm_get hE hA 6 (Nat.le_of_ble_eq_true rfl) q1653 rfl (v := .ref (ad 14)) rfl dX6_cutAll_266 ?_
    refine j_iload_n hE 1 dX6_cutAll_269 rfl rfl ?_
    refine j_lload hE 4 dX6_cutAll_270 rfl ?_
    obtain ⟨h4, hw⟩ := hw
    refine jm_last hE hA 0 (Nat.le_of_ble_eq_true rfl) h4 dX6_cutAll_272 ?_
    refine j_wm (fun m5 e_m5 => ?_)
    have hw := hw m5 e_m5
    refine j_iinc (L' := [(1, .int (x1 + 1)), (0, .ref (ad 0)), (2, .int (x2)), (4, .int (x4)), (5, .long (x5))]) hE hn 1 dX6_cutAll_273 rfl (congrArg (x1 + ·) kc_1) (Nat.le_of_ble_eq_true rfl) rfl ?_
    refine j_goto hE 17 dX6_cutAll_276 (by decide) ?_
    refine j_sub [(0, .ref (ad 0)), (1, .int (x1 + 1)), (2, .int (x2))] [1, 0, 2] rfl ?_
    have hz := ih17 (x1 + 1, x2, m5) hw
    exact hz
  · have hw := hw.2 c1
    refine j_iconst hE dX6_cutAll_143 kc_4 ?_
    refine j_goto hE 148 dX6_cutAll_144 (by decide) ?_
    obtain ⟨h6, hw⟩ := hw
    refine jm_iast hE hA 1 (Nat.le_of_ble_eq_true rfl) h6 dX6_cutAll_148 ?_
    refine j_wm (fun m7 e_m7 => ?_)
    have hw := hw m7 e_m7
    refine j_goto hE 265 dX6_cutAll_149 (by decide) ?_
    refine j_aload_n hE 0 dX6_cutAll_265 rfl rfl ?_
    refine jm_get hE hA 6 (Nat.le_of_ble_eq_true rfl) q1653 rfl (v := .ref (ad 14)) rfl dX6_cutAll_266 ?_
    refine j_iload_n hE 1 dX6_cutAll_269 rfl rfl ?_
    refine j_lload hE 4 dX6_cutAll_270 rfl ?_
    obtain ⟨h8, hw⟩ := hw
    refine jm_last hE hA 0 (Nat.le_of_ble_eq_true rfl) h8 dX6_cutAll_272 ?_
    refine j_wm (fun m9 e_m9 => ?_)
    have hw := hw m9 e_m9
    refine j_iinc (L' := [(1, .int (x1 + 1)), (0, .ref (ad 0)), (2, .int (x2)), (4, .int (x4)), (5, .long (x5))]) hE hn 1 dX6_cutAll_273 rfl (congrArg (x1 + ·) kc_1) (Nat.le_of_ble_eq_true rfl) rfl ?_
    refine j_goto hE 17 dX6_cutAll_276 (by decide) ?_
    refine j_sub [(0, .ref (ad 0)), (1, .int (x1 + 1)), (2, .int (x2))] [1, 0, 2] rfl ?_
    have hz := ih17 (x1 + 1, x2, m9) hw
    exact hz
def wX6_cutAll_70_b (x1 : Int32) (x4 : Int32) (x2 : Int32) (x5 : Int64) (m : MS) (KL70 : Int32 × Int64 → Prop) (KL17 : Int32 × Int32 × MS → Prop) (K : MS → Prop) : Prop :=
  ((gF m 2) ≤ x2 → (wX6_cutAll_129 x1 x2 x4 x5 m KL17 K)) ∧ (¬ (gF m 2) ≤ x2 → (vp_in x2 1000 ∧ (wX6_isLetter (rd (gA m 0) x2) (fun r3 => (r3 = 0 → (wX6_cutAll_129 x1 x2 x4 x5 m KL17 K)) ∧ (¬ r3 = 0 → (((nI 8) ≤ (x2 - x4) → (KL70 (x2 + 1, x5))) ∧ (¬ (nI 8) ≤ (x2 - x4) → (vp_in x2 1000 ∧ (wX6_rank (rd (gA m 0) x2) (fun r7 => ∀ v8 : Int64, v8 = (((37 : Int64)) * x5) + r7.toInt64 → (KL70 (x2 + 1, v8))))))))))))
def wX6_cutAll_70 (x1 : Int32) (x4 : Int32) (x2 : Int32) (x5 : Int64) (m : MS) (KL17 : Int32 × Int32 × MS → Prop) (K : MS → Prop) : Prop := lfp (σ := Int32 × Int64) (fun KL s => wX6_cutAll_70_b x1 x4 s.1 s.2 m KL KL17 K) (x2, x5)
set_option maxRecDepth 100000 in
theorem bX6_cutAll_70 {E : jE} (hE : jOk E cX6_cutAll RX6) (hn : E.2.2.2.2 = 7) (hR : jRoom E 2 40) {ad : Nat → Nat} (hA : adOk ad) {r : GW} {b : Nat × Nat} {K : MS → Prop} (hK : jRv E (KMV ad r K)) {x1 : Int32} {x4 : Int32} {x2 : Int32} {x5 : Int64} {m : MS} {KL17 : Int32 × Int32 × MS → Prop} (ih17 : ∀ s : Int32 × Int32 × MS, KL17 s → J E (mwX ad (s.2.2) r) b [(0, .ref (ad 0)), (1, .int (s.1)), (2, .int (s.2.1))] 17 []) (hw : wX6_cutAll_70 x1 x4 x2 x5 m KL17 K) : J E (mwX ad m r) b [(0, .ref (ad 0)), (1, .int (x1)), (2, .int (x2)), (4, .int (x4)), (5, .long (x5))] 70 [] := by
  refine lfp_sound (σ := Int32 × Int64) (F := fun KL s => wX6_cutAll_70_b x1 x4 s.1 s.2 m KL KL17 K) (P := fun s => J E (mwX ad m r) b [(0, .ref (ad 0)), (1, .int (x1)), (2, .int (s.1)), (4, .int (x4)), (5, .long (s.2))] 70 []) ?_ hw
  clear hw
  rintro KL70 ⟨x2, x5⟩ hw ih70
  have hw : wX6_cutAll_70_b x1 x4 x2 x5 m KL70 KL17 K := hw
  unfold wX6_cutAll_70_b at hw
  refine j_iload_n hE 2 dX6_cutAll_70 rfl rfl ?_
  refine j_aload_n hE 0 dX6_cutAll_71 rfl rfl ?_
  refine jm_get hE hA 3 (Nat.le_of_ble_eq_true rfl) q1650 rfl (v := .int (gF m 2)) rfl dX6_cutAll_72 ?_
  refine j_icmp_ge hE 129 dX6_cutAll_75 (by decide) (fun c1 => ?_) (fun c1 => ?_)
  · have hw := hw.1 c1
    exact bX6_cutAll_129 hE hn hR hA hK ih17 hw
  · have hw := hw.2 c1
    refine j_aload_n hE 0 dX6_cutAll_78 rfl rfl ?_
    refine jm_get hE hA 1 (Nat.le_of_ble_eq_true rfl) q1648 rfl (v := .ref (ad 1)) rfl dX6_cutAll_79 ?_
    refine j_iload_n hE 2 dX6_cutAll_82 rfl rfl ?_
    obtain ⟨h2, hw⟩ := hw
    refine jm_iald hE hA 0 (Nat.le_of_ble_eq_true rfl) h2 dX6_cutAll_83 ?_
    refine j_psI hE hR (As := [.int (rd (gA m 0) x2)]) (rest := []) (ctX6_isLetter E.1.2.1 E.2.2.1 _ _  _ hw) lkX6_isLetter jdX6_isLetter ⟨Nat.le_of_ble_eq_true rfl, Nat.le_of_ble_eq_true rfl⟩ rfl (Nat.le_of_ble_eq_true rfl) dX6_cutAll_84 (fun r3 hw => ?_)
    refine j_if_eq hE 129 dX6_cutAll_87 (by decide) (fun c4 => ?_) (fun c4 => ?_)
    · have hw := hw.1 c4
      exact bX6_cutAll_129 hE hn hR hA hK ih17 hw
    · have hw := hw.2 c4
      refine j_iload_n hE 2 dX6_cutAll_90 rfl rfl ?_
      refine j_iload hE 3 dX6_cutAll_91 rfl ?_
      refine j_isub hE dX6_cutAll_93 ?_
      refine j_bipush hE dX6_cutAll_94 kb_8 ?_
      refine j_icmp_ge hE 119 dX6_cutAll_96 (by decide) (fun c5 => ?_) (fun c5 => ?_)
      · have hw := hw.1 c5
        refine j_lload hE 4 dX6_cutAll_119 rfl ?_
        refine j_lstore (L' := [(5, .long (x5)), (0, .ref (ad 0)), (1, .int (x1)), (2, .int (x2)), (4, .int (x4))]) hE hn dX6_cutAll_121 (Nat.le_of_ble_eq_true rfl) rfl ?_
        refine j_iinc (L' := [(2, .int (x2 + 1)), (5, .long (x5)), (0, .ref (ad 0)), (1, .int (x1)), (4, .int (x4))]) hE hn 3 dX6_cutAll_123 rfl (congrArg (x2 + ·) kc_1) (Nat.le_of_ble_eq_true rfl) rfl ?_
        refine j_goto hE 70 dX6_cutAll_126 (by decide) ?_
        refine j_sub [(0, .ref (ad 0)), (1, .int (x1)), (2, .int (x2 + 1)), (4, .int (x4)), (5, .long (x5))] [2, 3, 0, 4, 1] rfl ?_
        have hz := ih70 (x2 + 1, x5) hw
        exact hz
      · have hw := hw.2 c5
        refine j_ldc2 hE q1754 dX6_cutAll_99 ?_
        refine j_lload hE 4 dX6_cutAll_102 rfl ?_
        refine j_lmul hE dX6_cutAll_104 ?_
        refine j_aload_n hE 0 dX6_cutAll_105 rfl rfl ?_
        refine jm_get hE hA 1 (Nat.le_of_ble_eq_true rfl) q1648 rfl (v := .ref (ad 1)) rfl dX6_cutAll_106 ?_
        refine j_iload_n hE 2 dX6_cutAll_109 rfl rfl ?_
        obtain ⟨h6, hw⟩ := hw
        refine jm_iald hE hA 0 (Nat.le_of_ble_eq_true rfl) h6 dX6_cutAll_110 ?_
        refine j_psI hE hR (As := [.int (rd (gA m 0) x2)]) (rest := [.long (((37 : Int64)) * x5)]) (ctX6_rank E.1.2.1 E.2.2.1 _ _  _ hw) lkX6_rank jdX6_rank ⟨Nat.le_of_ble_eq_true rfl, Nat.le_of_ble_eq_true rfl⟩ rfl (Nat.le_of_ble_eq_true rfl) dX6_cutAll_111 (fun r7 hw => ?_)
        refine j_i2l hE dX6_cutAll_114 ?_
        refine j_ladd hE dX6_cutAll_115 ?_
        refine j_goto hE 121 dX6_cutAll_116 (by decide) ?_
        refine j_topl (fun v8 e_v8 => ?_)
        have hw := hw v8 e_v8
        refine j_lstore (L' := [(5, .long (v8)), (0, .ref (ad 0)), (1, .int (x1)), (2, .int (x2)), (4, .int (x4))]) hE hn dX6_cutAll_121 (Nat.le_of_ble_eq_true rfl) rfl ?_
        refine j_iinc (L' := [(2, .int (x2 + 1)), (5, .long (v8)), (0, .ref (ad 0)), (1, .int (x1)), (4, .int (x4))]) hE hn 3 dX6_cutAll_123 rfl (congrArg (x2 + ·) kc_1) (Nat.le_of_ble_eq_true rfl) rfl ?_
        refine j_goto hE 70 dX6_cutAll_126 (by decide) ?_
        refine j_sub [(0, .ref (ad 0)), (1, .int (x1)), (2, .int (x2 + 1)), (4, .int (x4)), (5, .long (v8))] [2, 3, 0, 4, 1] rfl ?_
        have hz := ih70 (x2 + 1, v8) hw
        exact hz
def wX6_cutAll_218 (x1 : Int32) (x2 : Int32) (x4 : Int32) (x5 : Int64) (m : MS) (KL17 : Int32 × Int32 × MS → Prop) (K : MS → Prop) : Prop :=
  ((x2 - x4) ≤ (nI 4) → (vp_in x1 1002 ∧ (∀ m3 : MS, m3 = wA m 1 x1 (nI 2) → (vp_in x1 1002 ∧ (∀ m5 : MS, m5 = wL m3 0 x1 x5 → (KL17 (x1 + 1, x2, m5))))))) ∧ (¬ (x2 - x4) ≤ (nI 4) → (vp_in x1 1002 ∧ (∀ m7 : MS, m7 = wA m 1 x1 (nI 4) → (vp_in x1 1002 ∧ (∀ m9 : MS, m9 = wL m7 0 x1 x5 → (KL17 (x1 + 1, x2, m9)))))))
set_option maxRecDepth 100000 in
theorem bX6_cutAll_218 {E : jE} (hE : jOk E cX6_cutAll RX6) (hn : E.2.2.2.2 = 7) (hR : jRoom E 2 40) {ad : Nat → Nat} (hA : adOk ad) {r : GW} {b : Nat × Nat} {K : MS → Prop} (hK : jRv E (KMV ad r K)) {x1 : Int32} {x2 : Int32} {x4 : Int32} {x5 : Int64} {m : MS} {KL17 : Int32 × Int32 × MS → Prop} (ih17 : ∀ s : Int32 × Int32 × MS, KL17 s → J E (mwX ad (s.2.2) r) b [(0, .ref (ad 0)), (1, .int (s.1)), (2, .int (s.2.1))] 17 []) (hw : wX6_cutAll_218 x1 x2 x4 x5 m KL17 K) : J E (mwX ad m r) b [(0, .ref (ad 0)), (1, .int (x1)), (2, .int (x2)), (4, .int (x4)), (5, .long (x5))] 218 [] := by
  unfold wX6_cutAll_218 at hw
  refine j_aload_n hE 0 dX6_cutAll_218 rfl rfl ?_
  refine jm_get hE hA 4 (Nat.le_of_ble_eq_true rfl) q1651 rfl (v := .ref (ad 2)) rfl dX6_cutAll_219 ?_
  refine j_iload_n hE 1 dX6_cutAll_222 rfl rfl ?_
  refine j_iload_n hE 2 dX6_cutAll_223 rfl rfl ?_
  refine j_iload hE 3 dX6_cutAll_224 rfl ?_
  refine j_isub hE dX6_cutAll_226 ?_
  refine j_iconst hE dX6_cutAll_227 kc_4 ?_
  refine j_icmp_le hE 235 dX6_cutAll_228 (by decide) (fun c1 => ?_) (fun c1 => ?_)
  · have hw := hw.1 c1
    refine j_iconst hE dX6_cutAll_235 kc_2 ?_
    obtain ⟨h2, hw⟩ := hw
    refine jm_iast hE hA 1 (Nat.le_of_ble_eq_true rfl) h2 dX6_cutAll_236 ?_
    refine j_wm (fun m3 e_m3 => ?_)
    have hw := hw m3 e_m3
    refine j_goto hE 265 dX6_cutAll_237 (by decide) ?_
    refine j_aload_n hE 0 dX6_cutAll_265 rfl rfl ?_
    refine jm_get hE hA 6 (Nat.le_of_ble_eq_true rfl) q1653 rfl (v := .ref (ad 14)) rfl dX6_cutAll_266 ?_
    refine j_iload_n hE 1 dX6_cutAll_269 rfl rfl ?_
    refine j_lload hE 4 dX6_cutAll_270 rfl ?_
    obtain ⟨h4, hw⟩ := hw
    refine jm_last hE hA 0 (Nat.le_of_ble_eq_true rfl) h4 dX6_cutAll_272 ?_
    refine j_wm (fun m5 e_m5 => ?_)
    have hw := hw m5 e_m5
    refine j_iinc (L' := [(1, .int (x1 + 1)), (0, .ref (ad 0)), (2, .int (x2)), (4, .int (x4)), (5, .long (x5))]) hE hn 1 dX6_cutAll_273 rfl (congrArg (x1 + ·) kc_1) (Nat.le_of_ble_eq_true rfl) rfl ?_
    refine j_goto hE 17 dX6_cutAll_276 (by decide) ?_
    refine j_sub [(0, .ref (ad 0)), (1, .int (x1 + 1)), (2, .int (x2))] [1, 0, 2] rfl ?_
    have hz := ih17 (x1 + 1, x2, m5) hw
    exact hz
  · have hw := hw.2 c1
    refine j_iconst hE dX6_cutAll_231 kc_4 ?_
    refine j_goto hE 236 dX6_cutAll_232 (by decide) ?_
    obtain ⟨h6, hw⟩ := hw
    refine jm_iast hE hA 1 (Nat.le_of_ble_eq_true rfl) h6 dX6_cutAll_236 ?_
    refine j_wm (fun m7 e_m7 => ?_)
    have hw := hw m7 e_m7
    refine j_goto hE 265 dX6_cutAll_237 (by decide) ?_
    refine j_aload_n hE 0 dX6_cutAll_265 rfl rfl ?_
    refine jm_get hE hA 6 (Nat.le_of_ble_eq_true rfl) q1653 rfl (v := .ref (ad 14)) rfl dX6_cutAll_266 ?_
    refine j_iload_n hE 1 dX6_cutAll_269 rfl rfl ?_
    refine j_lload hE 4 dX6_cutAll_270 rfl ?_
    obtain ⟨h8, hw⟩ := hw
    refine jm_last hE hA 0 (Nat.le_of_ble_eq_true rfl) h8 dX6_cutAll_272 ?_
    refine j_wm (fun m9 e_m9 => ?_)
    have hw := hw m9 e_m9
    refine j_iinc (L' := [(1, .int (x1 + 1)), (0, .ref (ad 0)), (2, .int (x2)), (4, .int (x4)), (5, .long (x5))]) hE hn 1 dX6_cutAll_273 rfl (congrArg (x1 + ·) kc_1) (Nat.le_of_ble_eq_true rfl) rfl ?_
    refine j_goto hE 17 dX6_cutAll_276 (by decide) ?_
    refine j_sub [(0, .ref (ad 0)), (1, .int (x1 + 1)), (2, .int (x2))] [1, 0, 2] rfl ?_
    have hz := ih17 (x1 + 1, x2, m9) hw
    exact hz
def wX6_cutAll_159_b (x1 : Int32) (x4 : Int32) (x2 : Int32) (x5 : Int64) (m : MS) (KL159 : Int32 × Int64 → Prop) (KL17 : Int32 × Int32 × MS → Prop) (K : MS → Prop) : Prop :=
  ((gF m 2) ≤ x2 → (wX6_cutAll_218 x1 x2 x4 x5 m KL17 K)) ∧ (¬ (gF m 2) ≤ x2 → (vp_in x2 1000 ∧ (wX6_isDigit (rd (gA m 0) x2) (fun r3 => (r3 = 0 → (wX6_cutAll_218 x1 x2 x4 x5 m KL17 K)) ∧ (¬ r3 = 0 → (((nI 4) ≤ (x2 - x4) → (KL159 (x2 + 1, x5))) ∧ (¬ (nI 4) ≤ (x2 - x4) → (vp_in x2 1000 ∧ (∀ v7 : Int64, v7 = ((((10 : Int64)) * x5) + ((rd (gA m 0) x2).toInt64)) - ((48 : Int64)) → (KL159 (x2 + 1, v7)))))))))))
def wX6_cutAll_159 (x1 : Int32) (x4 : Int32) (x2 : Int32) (x5 : Int64) (m : MS) (KL17 : Int32 × Int32 × MS → Prop) (K : MS → Prop) : Prop := lfp (σ := Int32 × Int64) (fun KL s => wX6_cutAll_159_b x1 x4 s.1 s.2 m KL KL17 K) (x2, x5)
set_option maxRecDepth 100000 in
theorem bX6_cutAll_159 {E : jE} (hE : jOk E cX6_cutAll RX6) (hn : E.2.2.2.2 = 7) (hR : jRoom E 2 40) {ad : Nat → Nat} (hA : adOk ad) {r : GW} {b : Nat × Nat} {K : MS → Prop} (hK : jRv E (KMV ad r K)) {x1 : Int32} {x4 : Int32} {x2 : Int32} {x5 : Int64} {m : MS} {KL17 : Int32 × Int32 × MS → Prop} (ih17 : ∀ s : Int32 × Int32 × MS, KL17 s → J E (mwX ad (s.2.2) r) b [(0, .ref (ad 0)), (1, .int (s.1)), (2, .int (s.2.1))] 17 []) (hw : wX6_cutAll_159 x1 x4 x2 x5 m KL17 K) : J E (mwX ad m r) b [(0, .ref (ad 0)), (1, .int (x1)), (2, .int (x2)), (4, .int (x4)), (5, .long (x5))] 159 [] := by
  refine lfp_sound (σ := Int32 × Int64) (F := fun KL s => wX6_cutAll_159_b x1 x4 s.1 s.2 m KL KL17 K) (P := fun s => J E (mwX ad m r) b [(0, .ref (ad 0)), (1, .int (x1)), (2, .int (s.1)), (4, .int (x4)), (5, .long (s.2))] 159 []) ?_ hw
  clear hw
  rintro KL159 ⟨x2, x5⟩ hw ih159
  have hw : wX6_cutAll_159_b x1 x4 x2 x5 m KL159 KL17 K := hw
  unfold wX6_cutAll_159_b at hw
  refine j_iload_n hE 2 dX6_cutAll_159 rfl rfl ?_
  refine j_aload_n hE 0 dX6_cutAll_160 rfl rfl ?_
  refine jm_get hE hA 3 (Nat.le_of_ble_eq_true rfl) q1650 rfl (v := .int (gF m 2)) rfl dX6_cutAll_161 ?_
  refine j_icmp_ge hE 218 dX6_cutAll_164 (by decide) (fun c1 => ?_) (fun c1 => ?_)
  · have hw := hw.1 c1
    exact bX6_cutAll_218 hE hn hR hA hK ih17 hw
  · have hw := hw.2 c1
    refine j_aload_n hE 0 dX6_cutAll_167 rfl rfl ?_
    refine jm_get hE hA 1 (Nat.le_of_ble_eq_true rfl) q1648 rfl (v := .ref (ad 1)) rfl dX6_cutAll_168 ?_
    refine j_iload_n hE 2 dX6_cutAll_171 rfl rfl ?_
    obtain ⟨h2, hw⟩ := hw
    refine jm_iald hE hA 0 (Nat.le_of_ble_eq_true rfl) h2 dX6_cutAll_172 ?_
    refine j_psI hE hR (As := [.int (rd (gA m 0) x2)]) (rest := []) (ctX6_isDigit E.1.2.1 E.2.2.1 _ _  _ hw) lkX6_isDigit jdX6_isDigit ⟨Nat.le_of_ble_eq_true rfl, Nat.le_of_ble_eq_true rfl⟩ rfl (Nat.le_of_ble_eq_true rfl) dX6_cutAll_173 (fun r3 hw => ?_)
    refine j_if_eq hE 218 dX6_cutAll_176 (by decide) (fun c4 => ?_) (fun c4 => ?_)
    · have hw := hw.1 c4
      exact bX6_cutAll_218 hE hn hR hA hK ih17 hw
    · have hw := hw.2 c4
      refine j_iload_n hE 2 dX6_cutAll_179 rfl rfl ?_
      refine j_iload hE 3 dX6_cutAll_180 rfl ?_
      refine j_isub hE dX6_cutAll_182 ?_
      refine j_iconst hE dX6_cutAll_183 kc_4 ?_
      refine j_icmp_ge hE 208 dX6_cutAll_184 (by decide) (fun c5 => ?_) (fun c5 => ?_)
      · have hw := hw.1 c5
        refine j_lload hE 4 dX6_cutAll_208 rfl ?_
        refine j_lstore (L' := [(5, .long (x5)), (0, .ref (ad 0)), (1, .int (x1)), (2, .int (x2)), (4, .int (x4))]) hE hn dX6_cutAll_210 (Nat.le_of_ble_eq_true rfl) rfl ?_
        refine j_iinc (L' := [(2, .int (x2 + 1)), (5, .long (x5)), (0, .ref (ad 0)), (1, .int (x1)), (4, .int (x4))]) hE hn 3 dX6_cutAll_212 rfl (congrArg (x2 + ·) kc_1) (Nat.le_of_ble_eq_true rfl) rfl ?_
        refine j_goto hE 159 dX6_cutAll_215 (by decide) ?_
        refine j_sub [(0, .ref (ad 0)), (1, .int (x1)), (2, .int (x2 + 1)), (4, .int (x4)), (5, .long (x5))] [2, 3, 0, 4, 1] rfl ?_
        have hz := ih159 (x2 + 1, x5) hw
        exact hz
      · have hw := hw.2 c5
        refine j_ldc2 hE q1761 dX6_cutAll_187 ?_
        refine j_lload hE 4 dX6_cutAll_190 rfl ?_
        refine j_lmul hE dX6_cutAll_192 ?_
        refine j_aload_n hE 0 dX6_cutAll_193 rfl rfl ?_
        refine jm_get hE hA 1 (Nat.le_of_ble_eq_true rfl) q1648 rfl (v := .ref (ad 1)) rfl dX6_cutAll_194 ?_
        refine j_iload_n hE 2 dX6_cutAll_197 rfl rfl ?_
        obtain ⟨h6, hw⟩ := hw
        refine jm_iald hE hA 0 (Nat.le_of_ble_eq_true rfl) h6 dX6_cutAll_198 ?_
        refine j_i2l hE dX6_cutAll_199 ?_
        refine j_ladd hE dX6_cutAll_200 ?_
        refine j_ldc2 hE q1762 dX6_cutAll_201 ?_
        refine j_lsub hE dX6_cutAll_204 ?_
        refine j_goto hE 210 dX6_cutAll_205 (by decide) ?_
        refine j_topl (fun v7 e_v7 => ?_)
        have hw := hw v7 e_v7
        refine j_lstore (L' := [(5, .long (v7)), (0, .ref (ad 0)), (1, .int (x1)), (2, .int (x2)), (4, .int (x4))]) hE hn dX6_cutAll_210 (Nat.le_of_ble_eq_true rfl) rfl ?_
        refine j_iinc (L' := [(2, .int (x2 + 1)), (5, .long (v7)), (0, .ref (ad 0)), (1, .int (x1)), (4, .int (x4))]) hE hn 3 dX6_cutAll_212 rfl (congrArg (x2 + ·) kc_1) (Nat.le_of_ble_eq_true rfl) rfl ?_
        refine j_goto hE 159 dX6_cutAll_215 (by decide) ?_
        refine j_sub [(0, .ref (ad 0)), (1, .int (x1)), (2, .int (x2 + 1)), (4, .int (x4)), (5, .long (v7))] [2, 3, 0, 4, 1] rfl ?_
        have hz := ih159 (x2 + 1, v7) hw
        exact hz
def wX6_cutAll_17_b (x1 : Int32) (x2 : Int32) (m : MS) (KL17 : Int32 × Int32 × MS → Prop) (K : MS → Prop) : Prop :=
  ((gF m 2) ≤ x2 → (vp_in x1 1002 ∧ (∀ m3 : MS, m3 = wA m 1 x1 0 → (vp_in x1 1002 ∧ (∀ m5 : MS, m5 = wA m3 2 x1 (gF m3 2) → (∀ m6 : MS, m6 = sF m5 3 0 → (∀ m7 : MS, m7 = sF m6 4 0 → (K m7)))))))) ∧ (¬ (gF m 2) ≤ x2 → (vp_in x2 1000 ∧ (∀ v9 : Int32, v9 = rd (gA m 0) x2 → ((v9 = (nI 10) → (KL17 (x1, x2 + 1, m))) ∧ (¬ v9 = (nI 10) → ((¬ v9 = (nI 32) → (vp_in x1 1002 ∧ (∀ m13 : MS, m13 = wA m 2 x1 x2 → (wX6_isLetter v9 (fun r14 => (r14 = 0 → (wX6_isDigit v9 (fun r16 => (r16 = 0 → (∀ v18 : Int64, v18 = v9.toInt64 → (wX6_isSignOf v9 (fun r19 => (r19 = 0 → (vp_in x1 1002 ∧ (∀ m22 : MS, m22 = wA m13 1 x1 (nI 4) → (vp_in x1 1002 ∧ (∀ m24 : MS, m24 = wL m22 0 x1 v18 → (KL17 (x1 + 1, x2 + 1, m24))))))) ∧ (¬ r19 = 0 → (vp_in x1 1002 ∧ (∀ m26 : MS, m26 = wA m13 1 x1 (nI 3) → (vp_in x1 1002 ∧ (∀ m28 : MS, m28 = wL m26 0 x1 v18 → (KL17 (x1 + 1, x2 + 1, m28))))))))))) ∧ (¬ r16 = 0 → (wX6_cutAll_159 x1 x2 x2 ((0 : Int64)) m13 KL17 K))))) ∧ (¬ r14 = 0 → (wX6_cutAll_70 x1 x2 x2 ((0 : Int64)) m13 KL17 K))))))) ∧ (v9 = (nI 32) → (KL17 (x1, x2 + 1, m)))))))))
def wX6_cutAll_17 (x1 : Int32) (x2 : Int32) (m : MS) (K : MS → Prop) : Prop := lfp (σ := Int32 × Int32 × MS) (fun KL s => wX6_cutAll_17_b s.1 s.2.1 s.2.2 KL K) (x1, x2, m)
set_option maxRecDepth 100000 in
theorem bX6_cutAll_17 {E : jE} (hE : jOk E cX6_cutAll RX6) (hn : E.2.2.2.2 = 7) (hR : jRoom E 2 40) {ad : Nat → Nat} (hA : adOk ad) {r : GW} {b : Nat × Nat} {K : MS → Prop} (hK : jRv E (KMV ad r K)) {x1 : Int32} {x2 : Int32} {m : MS}  (hw : wX6_cutAll_17 x1 x2 m K) : J E (mwX ad m r) b [(0, .ref (ad 0)), (1, .int (x1)), (2, .int (x2))] 17 [] := by
  refine lfp_sound (σ := Int32 × Int32 × MS) (F := fun KL s => wX6_cutAll_17_b s.1 s.2.1 s.2.2 KL K) (P := fun s => J E (mwX ad (s.2.2) r) b [(0, .ref (ad 0)), (1, .int (s.1)), (2, .int (s.2.1))] 17 []) ?_ hw
  clear hw
  rintro KL17 ⟨x1, x2, m⟩ hw ih17
  have hw : wX6_cutAll_17_b x1 x2 m KL17 K := hw
  unfold wX6_cutAll_17_b at hw
  refine j_iload_n hE 2 dX6_cutAll_17 rfl rfl ?_
  refine j_aload_n hE 0 dX6_cutAll_18 rfl rfl ?_
  refine jm_get hE hA 3 (Nat.le_of_ble_eq_true rfl) q1650 rfl (v := .int (gF m 2)) rfl dX6_cutAll_19 ?_
  refine j_icmp_ge hE 279 dX6_cutAll_22 (by decide) (fun c1 => ?_) (fun c1 => ?_)
  · have hw := hw.1 c1
    refine j_aload_n hE 0 dX6_cutAll_279 rfl rfl ?_
    refine jm_get hE hA 4 (Nat.le_of_ble_eq_true rfl) q1651 rfl (v := .ref (ad 2)) rfl dX6_cutAll_280 ?_
    refine j_iload_n hE 1 dX6_cutAll_283 rfl rfl ?_
    refine j_iconst hE dX6_cutAll_284 kc_0 ?_
    obtain ⟨h2, hw⟩ := hw
    refine jm_iast hE hA 1 (Nat.le_of_ble_eq_true rfl) h2 dX6_cutAll_285 ?_
    refine j_wm (fun m3 e_m3 => ?_)
    have hw := hw m3 e_m3
    refine j_aload_n hE 0 dX6_cutAll_286 rfl rfl ?_
    refine jm_get hE hA 5 (Nat.le_of_ble_eq_true rfl) q1652 rfl (v := .ref (ad 3)) rfl dX6_cutAll_287 ?_
    refine j_iload_n hE 1 dX6_cutAll_290 rfl rfl ?_
    refine j_aload_n hE 0 dX6_cutAll_291 rfl rfl ?_
    refine jm_get hE hA 3 (Nat.le_of_ble_eq_true rfl) q1650 rfl (v := .int (gF m3 2)) rfl dX6_cutAll_292 ?_
    obtain ⟨h4, hw⟩ := hw
    refine jm_iast hE hA 2 (Nat.le_of_ble_eq_true rfl) h4 dX6_cutAll_295 ?_
    refine j_wm (fun m5 e_m5 => ?_)
    have hw := hw m5 e_m5
    refine j_aload_n hE 0 dX6_cutAll_296 rfl rfl ?_
    refine j_iconst hE dX6_cutAll_297 kc_0 ?_
    refine jm_putF hE hA 7 3 (Nat.le_of_ble_eq_true rfl) q1654 rfl rfl (mset_3 _ _ _) rfl rfl dX6_cutAll_298 ?_
    refine j_wm (fun m6 e_m6 => ?_)
    have hw := hw m6 e_m6
    refine j_aload_n hE 0 dX6_cutAll_301 rfl rfl ?_
    refine j_iconst hE dX6_cutAll_302 kc_0 ?_
    refine jm_putF hE hA 8 4 (Nat.le_of_ble_eq_true rfl) q1655 rfl rfl (mset_4 _ _ _) rfl rfl dX6_cutAll_303 ?_
    refine j_wm (fun m7 e_m7 => ?_)
    have hw := hw m7 e_m7
    exact j_vret hE hK dX6_cutAll_306 ⟨_, rfl, hw⟩
  · have hw := hw.2 c1
    refine j_aload_n hE 0 dX6_cutAll_25 rfl rfl ?_
    refine jm_get hE hA 1 (Nat.le_of_ble_eq_true rfl) q1648 rfl (v := .ref (ad 1)) rfl dX6_cutAll_26 ?_
    refine j_iload_n hE 2 dX6_cutAll_29 rfl rfl ?_
    obtain ⟨h8, hw⟩ := hw
    refine jm_iald hE hA 0 (Nat.le_of_ble_eq_true rfl) h8 dX6_cutAll_30 ?_
    refine j_topi (fun v9 e_v9 => ?_)
    have hw := hw v9 e_v9
    refine j_istore_n (L' := [(3, .int (v9)), (0, .ref (ad 0)), (1, .int (x1)), (2, .int (x2))]) hE hn dX6_cutAll_31 rfl (Nat.le_of_ble_eq_true rfl) rfl ?_
    refine j_iload_n hE 0 dX6_cutAll_32 rfl rfl ?_
    refine j_bipush hE dX6_cutAll_33 kb_10 ?_
    refine j_icmp_eq hE 44 dX6_cutAll_35 (by decide) (fun c10 => ?_) (fun c10 => ?_)
    · have hw := hw.1 c10
      refine j_iinc (L' := [(2, .int (x2 + 1)), (3, .int (v9)), (0, .ref (ad 0)), (1, .int (x1))]) hE hn 3 dX6_cutAll_44 rfl (congrArg (x2 + ·) kc_1) (Nat.le_of_ble_eq_true rfl) rfl ?_
      refine j_goto hE 17 dX6_cutAll_47 (by decide) ?_
      refine j_sub [(0, .ref (ad 0)), (1, .int (x1)), (2, .int (x2 + 1))] [2, 3, 0] rfl ?_
      have hz := ih17 (x1, x2 + 1, m) hw
      exact hz
    · have hw := hw.2 c10
      refine j_iload_n hE 0 dX6_cutAll_38 rfl rfl ?_
      refine j_bipush hE dX6_cutAll_39 kb_32 ?_
      refine j_icmp_ne hE 50 dX6_cutAll_41 (by decide) (fun c11 => ?_) (fun c11 => ?_)
      · have hw := hw.1 c11
        refine j_iload_n hE 3 dX6_cutAll_50 rfl rfl ?_
        refine j_istore (L' := [(4, .int (x2)), (3, .int (v9)), (0, .ref (ad 0)), (1, .int (x1)), (2, .int (x2))]) hE hn dX6_cutAll_51 (Nat.le_of_ble_eq_true rfl) rfl ?_
        refine j_lconst (v := 0) hE dX6_cutAll_53 rfl ?_
        refine j_lstore (L' := [(5, .long ((0 : Int64))), (4, .int (x2)), (3, .int (v9)), (0, .ref (ad 0)), (1, .int (x1)), (2, .int (x2))]) hE hn dX6_cutAll_54 (Nat.le_of_ble_eq_true rfl) rfl ?_
        refine j_aload_n hE 3 dX6_cutAll_56 rfl rfl ?_
        refine jm_get hE hA 5 (Nat.le_of_ble_eq_true rfl) q1652 rfl (v := .ref (ad 3)) rfl dX6_cutAll_57 ?_
        refine j_iload_n hE 4 dX6_cutAll_60 rfl rfl ?_
        refine j_iload_n hE 5 dX6_cutAll_61 rfl rfl ?_
        obtain ⟨h12, hw⟩ := hw
        refine jm_iast hE hA 2 (Nat.le_of_ble_eq_true rfl) h12 dX6_cutAll_62 ?_
        refine j_wm (fun m13 e_m13 => ?_)
        have hw := hw m13 e_m13
        refine j_iload_n hE 2 dX6_cutAll_63 rfl rfl ?_
        refine j_psI hE hR (As := [.int (v9)]) (rest := []) (ctX6_isLetter E.1.2.1 E.2.2.1 _ _  _ hw) lkX6_isLetter jdX6_isLetter ⟨Nat.le_of_ble_eq_true rfl, Nat.le_of_ble_eq_true rfl⟩ rfl (Nat.le_of_ble_eq_true rfl) dX6_cutAll_64 (fun r14 hw => ?_)
        refine j_if_eq hE 152 dX6_cutAll_67 (by decide) (fun c15 => ?_) (fun c15 => ?_)
        · have hw := hw.1 c15
          refine j_iload_n hE 2 dX6_cutAll_152 rfl rfl ?_
          refine j_psI hE hR (As := [.int (v9)]) (rest := []) (ctX6_isDigit E.1.2.1 E.2.2.1 _ _  _ hw) lkX6_isDigit jdX6_isDigit ⟨Nat.le_of_ble_eq_true rfl, Nat.le_of_ble_eq_true rfl⟩ rfl (Nat.le_of_ble_eq_true rfl) dX6_cutAll_153 (fun r16 hw => ?_)
          refine j_if_eq hE 240 dX6_cutAll_156 (by decide) (fun c17 => ?_) (fun c17 => ?_)
          · have hw := hw.1 c17
            refine j_iload_n hE 2 dX6_cutAll_240 rfl rfl ?_
            refine j_i2l hE dX6_cutAll_241 ?_
            refine j_topl (fun v18 e_v18 => ?_)
            have hw := hw v18 e_v18
            refine j_lstore (L' := [(5, .long (v18)), (4, .int (x2)), (3, .int (v9)), (0, .ref (ad 0)), (1, .int (x1)), (2, .int (x2))]) hE hn dX6_cutAll_242 (Nat.le_of_ble_eq_true rfl) rfl ?_
            refine j_aload_n hE 3 dX6_cutAll_244 rfl rfl ?_
            refine jm_get hE hA 4 (Nat.le_of_ble_eq_true rfl) q1651 rfl (v := .ref (ad 2)) rfl dX6_cutAll_245 ?_
            refine j_iload_n hE 4 dX6_cutAll_248 rfl rfl ?_
            refine j_iload_n hE 2 dX6_cutAll_249 rfl rfl ?_
            refine j_psI hE hR (As := [.int (v9)]) (rest := [.int (x1), .ref (ad 2)]) (ctX6_isSignOf E.1.2.1 E.2.2.1 _ _  _ hw) lkX6_isSignOf jdX6_isSignOf ⟨Nat.le_of_ble_eq_true rfl, Nat.le_of_ble_eq_true rfl⟩ rfl (Nat.le_of_ble_eq_true rfl) dX6_cutAll_250 (fun r19 hw => ?_)
            refine j_if_eq hE 260 dX6_cutAll_253 (by decide) (fun c20 => ?_) (fun c20 => ?_)
            · have hw := hw.1 c20
              refine j_iconst hE dX6_cutAll_260 kc_4 ?_
              obtain ⟨h21, hw⟩ := hw
              refine jm_iast hE hA 1 (Nat.le_of_ble_eq_true rfl) h21 dX6_cutAll_261 ?_
              refine j_wm (fun m22 e_m22 => ?_)
              have hw := hw m22 e_m22
              refine j_iinc (L' := [(2, .int (x2 + 1)), (5, .long (v18)), (4, .int (x2)), (3, .int (v9)), (0, .ref (ad 0)), (1, .int (x1))]) hE hn 5 dX6_cutAll_262 rfl (congrArg (x2 + ·) kc_1) (Nat.le_of_ble_eq_true rfl) rfl ?_
              refine j_aload_n hE 4 dX6_cutAll_265 rfl rfl ?_
              refine jm_get hE hA 6 (Nat.le_of_ble_eq_true rfl) q1653 rfl (v := .ref (ad 14)) rfl dX6_cutAll_266 ?_
              refine j_iload_n hE 5 dX6_cutAll_269 rfl rfl ?_
              refine j_lload hE 1 dX6_cutAll_270 rfl ?_
              obtain ⟨h23, hw⟩ := hw
              refine jm_last hE hA 0 (Nat.le_of_ble_eq_true rfl) h23 dX6_cutAll_272 ?_
              refine j_wm (fun m24 e_m24 => ?_)
              have hw := hw m24 e_m24
              refine j_iinc (L' := [(1, .int (x1 + 1)), (2, .int (x2 + 1)), (5, .long (v18)), (4, .int (x2)), (3, .int (v9)), (0, .ref (ad 0))]) hE hn 5 dX6_cutAll_273 rfl (congrArg (x1 + ·) kc_1) (Nat.le_of_ble_eq_true rfl) rfl ?_
              refine j_goto hE 17 dX6_cutAll_276 (by decide) ?_
              refine j_sub [(0, .ref (ad 0)), (1, .int (x1 + 1)), (2, .int (x2 + 1))] [5, 0, 1] rfl ?_
              have hz := ih17 (x1 + 1, x2 + 1, m24) hw
              exact hz
            · have hw := hw.2 c20
              refine j_iconst hE dX6_cutAll_256 kc_3 ?_
              refine j_goto hE 261 dX6_cutAll_257 (by decide) ?_
              obtain ⟨h25, hw⟩ := hw
              refine jm_iast hE hA 1 (Nat.le_of_ble_eq_true rfl) h25 dX6_cutAll_261 ?_
              refine j_wm (fun m26 e_m26 => ?_)
              have hw := hw m26 e_m26
              refine j_iinc (L' := [(2, .int (x2 + 1)), (5, .long (v18)), (4, .int (x2)), (3, .int (v9)), (0, .ref (ad 0)), (1, .int (x1))]) hE hn 5 dX6_cutAll_262 rfl (congrArg (x2 + ·) kc_1) (Nat.le_of_ble_eq_true rfl) rfl ?_
              refine j_aload_n hE 4 dX6_cutAll_265 rfl rfl ?_
              refine jm_get hE hA 6 (Nat.le_of_ble_eq_true rfl) q1653 rfl (v := .ref (ad 14)) rfl dX6_cutAll_266 ?_
              refine j_iload_n hE 5 dX6_cutAll_269 rfl rfl ?_
              refine j_lload hE 1 dX6_cutAll_270 rfl ?_
              obtain ⟨h27, hw⟩ := hw
              refine jm_last hE hA 0 (Nat.le_of_ble_eq_true rfl) h27 dX6_cutAll_272 ?_
              refine j_wm (fun m28 e_m28 => ?_)
              have hw := hw m28 e_m28
              refine j_iinc (L' := [(1, .int (x1 + 1)), (2, .int (x2 + 1)), (5, .long (v18)), (4, .int (x2)), (3, .int (v9)), (0, .ref (ad 0))]) hE hn 5 dX6_cutAll_273 rfl (congrArg (x1 + ·) kc_1) (Nat.le_of_ble_eq_true rfl) rfl ?_
              refine j_goto hE 17 dX6_cutAll_276 (by decide) ?_
              refine j_sub [(0, .ref (ad 0)), (1, .int (x1 + 1)), (2, .int (x2 + 1))] [5, 0, 1] rfl ?_
              have hz := ih17 (x1 + 1, x2 + 1, m28) hw
              exact hz
          · have hw := hw.2 c17
            refine j_sub [(0, .ref (ad 0)), (1, .int (x1)), (2, .int (x2)), (4, .int (x2)), (5, .long ((0 : Int64)))] [3, 4, 5, 1, 0] rfl ?_
            exact bX6_cutAll_159 hE hn hR hA hK ih17 hw
        · have hw := hw.2 c15
          refine j_sub [(0, .ref (ad 0)), (1, .int (x1)), (2, .int (x2)), (4, .int (x2)), (5, .long ((0 : Int64)))] [3, 4, 5, 1, 0] rfl ?_
          exact bX6_cutAll_70 hE hn hR hA hK ih17 hw
      · have hw := hw.2 c11
        refine j_iinc (L' := [(2, .int (x2 + 1)), (3, .int (v9)), (0, .ref (ad 0)), (1, .int (x1))]) hE hn 3 dX6_cutAll_44 rfl (congrArg (x2 + ·) kc_1) (Nat.le_of_ble_eq_true rfl) rfl ?_
        refine j_goto hE 17 dX6_cutAll_47 (by decide) ?_
        refine j_sub [(0, .ref (ad 0)), (1, .int (x1)), (2, .int (x2 + 1))] [2, 3, 0] rfl ?_
        have hz := ih17 (x1, x2 + 1, m) hw
        exact hz
def wX6_cutAll_0 (m : MS) (K : MS → Prop) : Prop :=
  ∀ m1 : MS, m1 = sF m 2 (gF m 1) → (∀ m2 : MS, m2 = sF m1 1 0 → (wX6_cutAll_17 0 0 m2 K))
set_option maxRecDepth 100000 in
theorem bX6_cutAll_0 {E : jE} (hE : jOk E cX6_cutAll RX6) (hn : E.2.2.2.2 = 7) (hR : jRoom E 2 40) {ad : Nat → Nat} (hA : adOk ad) {r : GW} {b : Nat × Nat} {K : MS → Prop} (hK : jRv E (KMV ad r K)) {m : MS}  (hw : wX6_cutAll_0 m K) : J E (mwX ad m r) b [(0, .ref (ad 0))] 0 [] := by
  unfold wX6_cutAll_0 at hw
  refine j_aload_n hE 0 dX6_cutAll_0 rfl rfl ?_
  refine j_aload_n hE 0 dX6_cutAll_1 rfl rfl ?_
  refine jm_get hE hA 2 (Nat.le_of_ble_eq_true rfl) q1649 rfl (v := .int (gF m 1)) rfl dX6_cutAll_2 ?_
  refine jm_putF hE hA 3 2 (Nat.le_of_ble_eq_true rfl) q1650 rfl rfl (mset_2 _ _ _) rfl rfl dX6_cutAll_5 ?_
  refine j_wm (fun m1 e_m1 => ?_)
  have hw := hw m1 e_m1
  refine j_aload_n hE 0 dX6_cutAll_8 rfl rfl ?_
  refine j_iconst hE dX6_cutAll_9 kc_0 ?_
  refine jm_putF hE hA 2 1 (Nat.le_of_ble_eq_true rfl) q1649 rfl rfl (mset_1 _ _ _) rfl rfl dX6_cutAll_10 ?_
  refine j_wm (fun m2 e_m2 => ?_)
  have hw := hw m2 e_m2
  refine j_iconst hE dX6_cutAll_13 kc_0 ?_
  refine j_istore_n (L' := [(1, .int (0)), (0, .ref (ad 0))]) hE hn dX6_cutAll_14 rfl (Nat.le_of_ble_eq_true rfl) rfl ?_
  refine j_iconst hE dX6_cutAll_15 kc_0 ?_
  refine j_istore_n (L' := [(2, .int (0)), (1, .int (0)), (0, .ref (ad 0))]) hE hn dX6_cutAll_16 rfl (Nat.le_of_ble_eq_true rfl) rfl ?_
  refine j_sub [(0, .ref (ad 0)), (1, .int (0)), (2, .int (0))] [2, 1, 0] rfl ?_
  exact bX6_cutAll_17 hE hn hR hA hK  hw
abbrev wX6_cutAll := wX6_cutAll_0
theorem ctX6_cutAll (l : Launch) (G : gG) {ad : Nat → Nat} (hA : adOk ad) (m0 : MS) (r : GW)  (K : MS → Prop) (hw : wX6_cutAll m0 K) : CtV l yX6_cutAll cX6_cutAll 7 ({ frames := 2, cells := 0, slots := 0, locals := 40 }) G [.ref (ad 0)] (mwX ad m0 r) (KMV ad r K) :=
  CtV.of RX6 plain_X6 rfl (Nat.le_of_ble_eq_true rfl) (fun E hE _ _ hn hR hK => bX6_cutAll_0 hE hn hR hA hK hw)
theorem jdX6_cutAll : jD yX6_cutAll 0 := by decide +kernel
theorem lkX6_cutAll : GoodIn lw_all (wsV RX6 202 yX6_cutAll.cls yX6_cutAll (ws_ yX6_cutAll cX6_cutAll 7 none)) := lw_V q1747 q1749 qs60 q129 q1750
def wX6_isWord_0 (x1 : Int32) (m0 : MS) (K : Int32 → Prop) : Prop :=
  (¬ (gF m0 4) = 0 → (K 0)) ∧ ((gF m0 4) = 0 → (vp_in (gF m0 3) 1002 ∧ ((¬ (rd (gA m0 1) (gF m0 3)) = 1 → (K 0)) ∧ ((rd (gA m0 1) (gF m0 3)) = 1 → (vp_in (gF m0 3) 1002 ∧ (vp_in x1 26 ∧ ((¬ (lg_cmp (rdL (gL m0 0) (gF m0 3)) (rdL (gL m0 1) x1)) = 0 → (K 0)) ∧ ((lg_cmp (rdL (gL m0 0) (gF m0 3)) (rdL (gL m0 1) x1)) = 0 → (K 1)))))))))
set_option maxRecDepth 100000 in
theorem bX6_isWord_0 {E : jE} (hE : jOk E cX6_isWord RX6) (hn : E.2.2.2.2 = 2) (hR : jRoom E 0 0) {ad : Nat → Nat} (hA : adOk ad) {r : GW} {m0 : MS} {b : Nat × Nat} {K : Int32 → Prop} (hK : jRi E .boolean (KPI (mwX ad m0 r) K)) {x1 : Int32}  (hw : wX6_isWord_0 x1 m0 K) : J E (mwX ad m0 r) b [(0, .ref (ad 0)), (1, .int (x1))] 0 [] := by
  unfold wX6_isWord_0 at hw
  refine j_aload_n hE 0 dX6_isWord_0 rfl rfl ?_
  refine jm_get hE hA 8 (Nat.le_of_ble_eq_true rfl) q1655 rfl (v := .int (gF m0 4)) rfl dX6_isWord_1 ?_
  refine j_if_ne hE 43 dX6_isWord_4 (by decide) (fun c1 => ?_) (fun c1 => ?_)
  · have hw := hw.1 c1
    refine j_iconst hE dX6_isWord_43 kc_0 ?_
    exact j_iret hE hK dX6_isWord_44 rfl ⟨rfl, hw⟩
  · have hw := hw.2 c1
    refine j_aload_n hE 0 dX6_isWord_7 rfl rfl ?_
    refine jm_get hE hA 4 (Nat.le_of_ble_eq_true rfl) q1651 rfl (v := .ref (ad 2)) rfl dX6_isWord_8 ?_
    refine j_aload_n hE 0 dX6_isWord_11 rfl rfl ?_
    refine jm_get hE hA 7 (Nat.le_of_ble_eq_true rfl) q1654 rfl (v := .int (gF m0 3)) rfl dX6_isWord_12 ?_
    obtain ⟨h2, hw⟩ := hw
    refine jm_iald hE hA 1 (Nat.le_of_ble_eq_true rfl) h2 dX6_isWord_15 ?_
    refine j_iconst hE dX6_isWord_16 kc_1 ?_
    refine j_icmp_ne hE 43 dX6_isWord_17 (by decide) (fun c3 => ?_) (fun c3 => ?_)
    · have hw := hw.1 c3
      refine j_iconst hE dX6_isWord_43 kc_0 ?_
      exact j_iret hE hK dX6_isWord_44 rfl ⟨rfl, hw⟩
    · have hw := hw.2 c3
      refine j_aload_n hE 0 dX6_isWord_20 rfl rfl ?_
      refine jm_get hE hA 6 (Nat.le_of_ble_eq_true rfl) q1653 rfl (v := .ref (ad 14)) rfl dX6_isWord_21 ?_
      refine j_aload_n hE 0 dX6_isWord_24 rfl rfl ?_
      refine jm_get hE hA 7 (Nat.le_of_ble_eq_true rfl) q1654 rfl (v := .int (gF m0 3)) rfl dX6_isWord_25 ?_
      obtain ⟨h4, hw⟩ := hw
      refine jm_lald hE hA 0 (Nat.le_of_ble_eq_true rfl) h4 dX6_isWord_28 ?_
      refine j_aload_n hE 0 dX6_isWord_29 rfl rfl ?_
      refine jm_get hE hA 9 (Nat.le_of_ble_eq_true rfl) q1656 rfl (v := .ref (ad 15)) rfl dX6_isWord_30 ?_
      refine j_iload_n hE 1 dX6_isWord_33 rfl rfl ?_
      obtain ⟨h5, hw⟩ := hw
      refine jm_lald hE hA 1 (Nat.le_of_ble_eq_true rfl) h5 dX6_isWord_34 ?_
      refine j_lcmp hE dX6_isWord_35 ?_
      refine j_if_ne hE 43 dX6_isWord_36 (by decide) (fun c6 => ?_) (fun c6 => ?_)
      · have hw := hw.1 c6
        refine j_iconst hE dX6_isWord_43 kc_0 ?_
        exact j_iret hE hK dX6_isWord_44 rfl ⟨rfl, hw⟩
      · have hw := hw.2 c6
        refine j_iconst hE dX6_isWord_39 kc_1 ?_
        refine j_goto hE 44 dX6_isWord_40 (by decide) ?_
        exact j_iret hE hK dX6_isWord_44 rfl ⟨rfl, hw⟩
abbrev wX6_isWord := wX6_isWord_0
theorem ctX6_isWord (l : Launch) (G : gG) {ad : Nat → Nat} (hA : adOk ad) (m0 : MS) (r : GW) (x1 : Int32) (K : Int32 → Prop) (hw : wX6_isWord x1 m0 K) : CtI l yX6_isWord cX6_isWord 2 .boolean ({ frames := 0, cells := 0, slots := 0, locals := 0 }) G [.ref (ad 0), .int (x1)] (mwX ad m0 r) (KPI (mwX ad m0 r) K) :=
  CtI.of RX6 plain_X6 rfl (Nat.le_of_ble_eq_true rfl) (fun E hE _ _ hn hR hK => bX6_isWord_0 hE hn hR hA hK hw)
theorem jdX6_isWord : jD yX6_isWord 1 := by decide +kernel
theorem lkX6_isWord : GoodIn lw_all (wsV RX6 168 yX6_isWord.cls yX6_isWord (ws_ yX6_isWord cX6_isWord 2 (some .boolean))) := lw_V q1770 q1772 qs62 q129 q1773
def wX6_wrong_0 (x1 : Int32) (m : MS) (K : MS → Prop) : Prop :=
  (¬ (gF m 4) = 0 → (K m)) ∧ ((gF m 4) = 0 → (vp_in (gF m 3) 1002 ∧ (∀ m3 : MS, m3 = sF m 4 (x1 + ((nI 16) * (rd (gA m 2) (gF m 3)))) → (K m3))))
set_option maxRecDepth 100000 in
theorem bX6_wrong_0 {E : jE} (hE : jOk E cX6_wrong RX6) (hn : E.2.2.2.2 = 2) (hR : jRoom E 0 0) {ad : Nat → Nat} (hA : adOk ad) {r : GW} {b : Nat × Nat} {K : MS → Prop} (hK : jRv E (KMV ad r K)) {x1 : Int32} {m : MS}  (hw : wX6_wrong_0 x1 m K) : J E (mwX ad m r) b [(0, .ref (ad 0)), (1, .int (x1))] 0 [] := by
  unfold wX6_wrong_0 at hw
  refine j_aload_n hE 0 dX6_wrong_0 rfl rfl ?_
  refine jm_get hE hA 8 (Nat.le_of_ble_eq_true rfl) q1655 rfl (v := .int (gF m 4)) rfl dX6_wrong_1 ?_
  refine j_if_ne hE 25 dX6_wrong_4 (by decide) (fun c1 => ?_) (fun c1 => ?_)
  · have hw := hw.1 c1
    exact j_vret hE hK dX6_wrong_25 ⟨_, rfl, hw⟩
  · have hw := hw.2 c1
    refine j_aload_n hE 0 dX6_wrong_7 rfl rfl ?_
    refine j_iload_n hE 1 dX6_wrong_8 rfl rfl ?_
    refine j_bipush hE dX6_wrong_9 kb_16 ?_
    refine j_aload_n hE 0 dX6_wrong_11 rfl rfl ?_
    refine jm_get hE hA 5 (Nat.le_of_ble_eq_true rfl) q1652 rfl (v := .ref (ad 3)) rfl dX6_wrong_12 ?_
    refine j_aload_n hE 0 dX6_wrong_15 rfl rfl ?_
    refine jm_get hE hA 7 (Nat.le_of_ble_eq_true rfl) q1654 rfl (v := .int (gF m 3)) rfl dX6_wrong_16 ?_
    obtain ⟨h2, hw⟩ := hw
    refine jm_iald hE hA 2 (Nat.le_of_ble_eq_true rfl) h2 dX6_wrong_19 ?_
    refine j_imul hE dX6_wrong_20 ?_
    refine j_iadd hE dX6_wrong_21 ?_
    refine jm_putF hE hA 8 4 (Nat.le_of_ble_eq_true rfl) q1655 rfl rfl (mset_4 _ _ _) rfl rfl dX6_wrong_22 ?_
    refine j_wm (fun m3 e_m3 => ?_)
    have hw := hw m3 e_m3
    exact j_vret hE hK dX6_wrong_25 ⟨_, rfl, hw⟩
abbrev wX6_wrong := wX6_wrong_0
theorem ctX6_wrong (l : Launch) (G : gG) {ad : Nat → Nat} (hA : adOk ad) (m0 : MS) (r : GW) (x1 : Int32) (K : MS → Prop) (hw : wX6_wrong x1 m0 K) : CtV l yX6_wrong cX6_wrong 2 ({ frames := 0, cells := 0, slots := 0, locals := 0 }) G [.ref (ad 0), .int (x1)] (mwX ad m0 r) (KMV ad r K) :=
  CtV.of RX6 plain_X6 rfl (Nat.le_of_ble_eq_true rfl) (fun E hE _ _ hn hR hK => bX6_wrong_0 hE hn hR hA hK hw)
theorem jdX6_wrong : jD yX6_wrong 1 := by decide +kernel
theorem lkX6_wrong : GoodIn lw_all (wsV RX6 165 yX6_wrong.cls yX6_wrong (ws_ yX6_wrong cX6_wrong 2 none)) := lw_V q1782 q1784 qs65 q129 q1785
def wX6_wordHere_5_b (x1 : Int32) (x2 : Int32) (x3 : Int32) (x4 : Int32) (m0 : MS) (KL5 : Int32 × Int32 → Prop) (K : Int32 → Prop) : Prop :=
  (x2 ≤ x4 → (K x3)) ∧ (¬ x2 ≤ x4 → (wX6_isWord (x1 + x4) m0 (fun r2 => (r2 = 0 → (KL5 (x3, x4 + 1))) ∧ (¬ r2 = 0 → (KL5 (x4, x4 + 1))))))
def wX6_wordHere_5 (x1 : Int32) (x2 : Int32) (x3 : Int32) (x4 : Int32) (m0 : MS) (K : Int32 → Prop) : Prop := lfp (σ := Int32 × Int32) (fun KL s => wX6_wordHere_5_b x1 x2 s.1 s.2 m0 KL K) (x3, x4)
set_option maxRecDepth 100000 in
theorem bX6_wordHere_5 {E : jE} (hE : jOk E cX6_wordHere RX6) (hn : E.2.2.2.2 = 5) (hR : jRoom E 1 21) {ad : Nat → Nat} (hA : adOk ad) {r : GW} {m0 : MS} {b : Nat × Nat} {K : Int32 → Prop} (hK : jRi E .int (KPI (mwX ad m0 r) K)) {x1 : Int32} {x2 : Int32} {x3 : Int32} {x4 : Int32}  (hw : wX6_wordHere_5 x1 x2 x3 x4 m0 K) : J E (mwX ad m0 r) b [(0, .ref (ad 0)), (1, .int (x1)), (2, .int (x2)), (3, .int (x3)), (4, .int (x4))] 5 [] := by
  refine lfp_sound (σ := Int32 × Int32) (F := fun KL s => wX6_wordHere_5_b x1 x2 s.1 s.2 m0 KL K) (P := fun s => J E (mwX ad m0 r) b [(0, .ref (ad 0)), (1, .int (x1)), (2, .int (x2)), (3, .int (s.1)), (4, .int (s.2))] 5 []) ?_ hw
  clear hw
  rintro KL5 ⟨x3, x4⟩ hw ih5
  have hw : wX6_wordHere_5_b x1 x2 x3 x4 m0 KL5 K := hw
  unfold wX6_wordHere_5_b at hw
  refine j_iload hE 4 dX6_wordHere_5 rfl ?_
  refine j_iload_n hE 2 dX6_wordHere_7 rfl rfl ?_
  refine j_icmp_ge hE 35 dX6_wordHere_8 (by decide) (fun c1 => ?_) (fun c1 => ?_)
  · have hw := hw.1 c1
    refine j_iload_n hE 3 dX6_wordHere_35 rfl rfl ?_
    exact j_iret hE hK dX6_wordHere_36 rfl ⟨rfl, hw⟩
  · have hw := hw.2 c1
    refine j_aload_n hE 0 dX6_wordHere_11 rfl rfl ?_
    refine j_iload_n hE 1 dX6_wordHere_12 rfl rfl ?_
    refine j_iload hE 4 dX6_wordHere_13 rfl ?_
    refine j_iadd hE dX6_wordHere_15 ?_
    refine jm_pI hE hA hR (As := [.int (x1 + x4)]) (rest := []) (ctX6_isWord E.1.2.1 E.2.2.1 hA _ _ _  _ hw) rfl lkX6_isWord jdX6_isWord ⟨Nat.le_of_ble_eq_true rfl, Nat.le_of_ble_eq_true rfl⟩ rfl (Nat.le_of_ble_eq_true rfl) dX6_wordHere_16 (fun r2 hw => ?_)
    refine j_if_eq hE 27 dX6_wordHere_19 (by decide) (fun c3 => ?_) (fun c3 => ?_)
    · have hw := hw.1 c3
      refine j_iload_n hE 3 dX6_wordHere_27 rfl rfl ?_
      refine j_istore_n (L' := [(3, .int (x3)), (0, .ref (ad 0)), (1, .int (x1)), (2, .int (x2)), (4, .int (x4))]) hE hn dX6_wordHere_28 rfl (Nat.le_of_ble_eq_true rfl) rfl ?_
      refine j_iinc (L' := [(4, .int (x4 + 1)), (3, .int (x3)), (0, .ref (ad 0)), (1, .int (x1)), (2, .int (x2))]) hE hn 4 dX6_wordHere_29 rfl (congrArg (x4 + ·) kc_1) (Nat.le_of_ble_eq_true rfl) rfl ?_
      refine j_goto hE 5 dX6_wordHere_32 (by decide) ?_
      refine j_sub [(0, .ref (ad 0)), (1, .int (x1)), (2, .int (x2)), (3, .int (x3)), (4, .int (x4 + 1))] [2, 3, 4, 1, 0] rfl ?_
      have hz := ih5 (x3, x4 + 1) hw
      exact hz
    · have hw := hw.2 c3
      refine j_iload hE 4 dX6_wordHere_22 rfl ?_
      refine j_goto hE 28 dX6_wordHere_24 (by decide) ?_
      refine j_istore_n (L' := [(3, .int (x4)), (0, .ref (ad 0)), (1, .int (x1)), (2, .int (x2)), (4, .int (x4))]) hE hn dX6_wordHere_28 rfl (Nat.le_of_ble_eq_true rfl) rfl ?_
      refine j_iinc (L' := [(4, .int (x4 + 1)), (3, .int (x4)), (0, .ref (ad 0)), (1, .int (x1)), (2, .int (x2))]) hE hn 4 dX6_wordHere_29 rfl (congrArg (x4 + ·) kc_1) (Nat.le_of_ble_eq_true rfl) rfl ?_
      refine j_goto hE 5 dX6_wordHere_32 (by decide) ?_
      refine j_sub [(0, .ref (ad 0)), (1, .int (x1)), (2, .int (x2)), (3, .int (x4)), (4, .int (x4 + 1))] [2, 3, 4, 1, 0] rfl ?_
      have hz := ih5 (x4, x4 + 1) hw
      exact hz
def wX6_wordHere_0 (x1 : Int32) (x2 : Int32) (m0 : MS) (K : Int32 → Prop) : Prop :=
  wX6_wordHere_5 x1 x2 ((-1)) 0 m0 K
set_option maxRecDepth 100000 in
theorem bX6_wordHere_0 {E : jE} (hE : jOk E cX6_wordHere RX6) (hn : E.2.2.2.2 = 5) (hR : jRoom E 1 21) {ad : Nat → Nat} (hA : adOk ad) {r : GW} {m0 : MS} {b : Nat × Nat} {K : Int32 → Prop} (hK : jRi E .int (KPI (mwX ad m0 r) K)) {x1 : Int32} {x2 : Int32}  (hw : wX6_wordHere_0 x1 x2 m0 K) : J E (mwX ad m0 r) b [(0, .ref (ad 0)), (1, .int (x1)), (2, .int (x2))] 0 [] := by
  unfold wX6_wordHere_0 at hw
  refine j_iconst hE dX6_wordHere_0 kc_m1 ?_
  refine j_istore_n (L' := [(3, .int ((-1))), (0, .ref (ad 0)), (1, .int (x1)), (2, .int (x2))]) hE hn dX6_wordHere_1 rfl (Nat.le_of_ble_eq_true rfl) rfl ?_
  refine j_iconst hE dX6_wordHere_2 kc_0 ?_
  refine j_istore (L' := [(4, .int (0)), (3, .int ((-1))), (0, .ref (ad 0)), (1, .int (x1)), (2, .int (x2))]) hE hn dX6_wordHere_3 (Nat.le_of_ble_eq_true rfl) rfl ?_
  refine j_sub [(0, .ref (ad 0)), (1, .int (x1)), (2, .int (x2)), (3, .int ((-1))), (4, .int (0))] [2, 3, 4, 1, 0] rfl ?_
  exact bX6_wordHere_5 hE hn hR hA hK  hw
abbrev wX6_wordHere := wX6_wordHere_0
theorem ctX6_wordHere (l : Launch) (G : gG) {ad : Nat → Nat} (hA : adOk ad) (m0 : MS) (r : GW) (x1 : Int32) (x2 : Int32) (K : Int32 → Prop) (hw : wX6_wordHere x1 x2 m0 K) : CtI l yX6_wordHere cX6_wordHere 5 .int ({ frames := 1, cells := 0, slots := 0, locals := 21 }) G [.ref (ad 0), .int (x1), .int (x2)] (mwX ad m0 r) (KPI (mwX ad m0 r) K) :=
  CtI.of RX6 plain_X6 rfl (Nat.le_of_ble_eq_true rfl) (fun E hE _ _ hn hR hK => bX6_wordHere_0 hE hn hR hA hK hw)
theorem jdX6_wordHere : jD yX6_wordHere 2 := by decide +kernel
theorem lkX6_wordHere : GoodIn lw_all (wsV RX6 181 yX6_wordHere.cls yX6_wordHere (ws_ yX6_wordHere cX6_wordHere 5 (some .int))) := lw_V q1790 q1792 qs67 q129 q1793
def wX6_isName_0 (m0 : MS) (K : Int32 → Prop) : Prop :=
  (¬ (gF m0 4) = 0 → (K 0)) ∧ ((gF m0 4) = 0 → (vp_in (gF m0 3) 1002 ∧ ((¬ (rd (gA m0 1) (gF m0 3)) = 1 → (K 0)) ∧ ((rd (gA m0 1) (gF m0 3)) = 1 → (wX6_wordHere 0 (nI 22) m0 (fun r4 => (0 ≤ r4 → (K 0)) ∧ (¬ 0 ≤ r4 → (K 1))))))))
set_option maxRecDepth 100000 in
theorem bX6_isName_0 {E : jE} (hE : jOk E cX6_isName RX6) (hn : E.2.2.2.2 = 1) (hR : jRoom E 2 45) {ad : Nat → Nat} (hA : adOk ad) {r : GW} {m0 : MS} {b : Nat × Nat} {K : Int32 → Prop} (hK : jRi E .boolean (KPI (mwX ad m0 r) K))   (hw : wX6_isName_0 m0 K) : J E (mwX ad m0 r) b [(0, .ref (ad 0))] 0 [] := by
  unfold wX6_isName_0 at hw
  refine j_aload_n hE 0 dX6_isName_0 rfl rfl ?_
  refine jm_get hE hA 8 (Nat.le_of_ble_eq_true rfl) q1655 rfl (v := .int (gF m0 4)) rfl dX6_isName_1 ?_
  refine j_if_ne hE 34 dX6_isName_4 (by decide) (fun c1 => ?_) (fun c1 => ?_)
  · have hw := hw.1 c1
    refine j_iconst hE dX6_isName_34 kc_0 ?_
    exact j_iret hE hK dX6_isName_35 rfl ⟨rfl, hw⟩
  · have hw := hw.2 c1
    refine j_aload_n hE 0 dX6_isName_7 rfl rfl ?_
    refine jm_get hE hA 4 (Nat.le_of_ble_eq_true rfl) q1651 rfl (v := .ref (ad 2)) rfl dX6_isName_8 ?_
    refine j_aload_n hE 0 dX6_isName_11 rfl rfl ?_
    refine jm_get hE hA 7 (Nat.le_of_ble_eq_true rfl) q1654 rfl (v := .int (gF m0 3)) rfl dX6_isName_12 ?_
    obtain ⟨h2, hw⟩ := hw
    refine jm_iald hE hA 1 (Nat.le_of_ble_eq_true rfl) h2 dX6_isName_15 ?_
    refine j_iconst hE dX6_isName_16 kc_1 ?_
    refine j_icmp_ne hE 34 dX6_isName_17 (by decide) (fun c3 => ?_) (fun c3 => ?_)
    · have hw := hw.1 c3
      refine j_iconst hE dX6_isName_34 kc_0 ?_
      exact j_iret hE hK dX6_isName_35 rfl ⟨rfl, hw⟩
    · have hw := hw.2 c3
      refine j_aload_n hE 0 dX6_isName_20 rfl rfl ?_
      refine j_iconst hE dX6_isName_21 kc_0 ?_
      refine j_bipush hE dX6_isName_22 kb_22 ?_
      refine jm_pI hE hA hR (As := [.int (0), .int (nI 22)]) (rest := []) (ctX6_wordHere E.1.2.1 E.2.2.1 hA _ _ _ _  _ hw) rfl lkX6_wordHere jdX6_wordHere ⟨Nat.le_of_ble_eq_true rfl, Nat.le_of_ble_eq_true rfl⟩ rfl (Nat.le_of_ble_eq_true rfl) dX6_isName_24 (fun r4 hw => ?_)
      refine j_if_ge hE 34 dX6_isName_27 (by decide) (fun c5 => ?_) (fun c5 => ?_)
      · have hw := hw.1 c5
        refine j_iconst hE dX6_isName_34 kc_0 ?_
        exact j_iret hE hK dX6_isName_35 rfl ⟨rfl, hw⟩
      · have hw := hw.2 c5
        refine j_iconst hE dX6_isName_30 kc_1 ?_
        refine j_goto hE 35 dX6_isName_31 (by decide) ?_
        exact j_iret hE hK dX6_isName_35 rfl ⟨rfl, hw⟩
abbrev wX6_isName := wX6_isName_0
theorem ctX6_isName (l : Launch) (G : gG) {ad : Nat → Nat} (hA : adOk ad) (m0 : MS) (r : GW)  (K : Int32 → Prop) (hw : wX6_isName m0 K) : CtI l yX6_isName cX6_isName 1 .boolean ({ frames := 2, cells := 0, slots := 0, locals := 45 }) G [.ref (ad 0)] (mwX ad m0 r) (KPI (mwX ad m0 r) K) :=
  CtI.of RX6 plain_X6 rfl (Nat.le_of_ble_eq_true rfl) (fun E hE _ _ hn hR hK => bX6_isName_0 hE hn hR hA hK hw)
theorem jdX6_isName : jD yX6_isName 0 := by decide +kernel
theorem lkX6_isName : GoodIn lw_all (wsV RX6 190 yX6_isName.cls yX6_isName (ws_ yX6_isName cX6_isName 1 (some .boolean))) := lw_V q1786 q1788 qs66 q129 q1789
def wX6_nameAt_40 (x1 : Int32) (x2 : Int32) (s0 : Int64) (m0 : MS) (KL2 : Int32 → Prop) (K : Int32 → Prop) : Prop :=
  vp_in (gF m0 3) 1002 ∧ ((¬ (lg_cmp s0 (rdL (gL m0 0) (gF m0 3))) = 0 → (KL2 (x2 + 1))) ∧ ((lg_cmp s0 (rdL (gL m0 0) (gF m0 3))) = 0 → ((x1 = 0 → (vp_in x2 16 ∧ (K (rd (gA m0 6) x2)))) ∧ (¬ x1 = 0 → (vp_in x2 16 ∧ (K (rd (gA m0 7) x2)))))))
set_option maxRecDepth 100000 in
theorem bX6_nameAt_40 {E : jE} (hE : jOk E cX6_nameAt RX6) (hn : E.2.2.2.2 = 3) (hR : jRoom E 0 0) {ad : Nat → Nat} (hA : adOk ad) {r : GW} {m0 : MS} {b : Nat × Nat} {K : Int32 → Prop} (hK : jRi E .int (KPI (mwX ad m0 r) K)) {x1 : Int32} {x2 : Int32} {s0 : Int64} {KL2 : Int32 → Prop} (ih2 : ∀ s : Int32, KL2 s → J E (mwX ad m0 r) b [(0, .ref (ad 0)), (1, .int (x1)), (2, .int (s))] 2 []) (hw : wX6_nameAt_40 x1 x2 s0 m0 KL2 K) : J E (mwX ad m0 r) b [(0, .ref (ad 0)), (1, .int (x1)), (2, .int (x2))] 40 [.long (s0)] := by
  unfold wX6_nameAt_40 at hw
  refine j_aload_n hE 0 dX6_nameAt_40 rfl rfl ?_
  refine jm_get hE hA 6 (Nat.le_of_ble_eq_true rfl) q1653 rfl (v := .ref (ad 14)) rfl dX6_nameAt_41 ?_
  refine j_aload_n hE 0 dX6_nameAt_44 rfl rfl ?_
  refine jm_get hE hA 7 (Nat.le_of_ble_eq_true rfl) q1654 rfl (v := .int (gF m0 3)) rfl dX6_nameAt_45 ?_
  obtain ⟨h1, hw⟩ := hw
  refine jm_lald hE hA 0 (Nat.le_of_ble_eq_true rfl) h1 dX6_nameAt_48 ?_
  refine j_lcmp hE dX6_nameAt_49 ?_
  refine j_if_ne hE 73 dX6_nameAt_50 (by decide) (fun c2 => ?_) (fun c2 => ?_)
  · have hw := hw.1 c2
    refine j_iinc (L' := [(2, .int (x2 + 1)), (0, .ref (ad 0)), (1, .int (x1))]) hE hn 2 dX6_nameAt_73 rfl (congrArg (x2 + ·) kc_1) (Nat.le_of_ble_eq_true rfl) rfl ?_
    refine j_goto hE 2 dX6_nameAt_76 (by decide) ?_
    refine j_sub [(0, .ref (ad 0)), (1, .int (x1)), (2, .int (x2 + 1))] [1, 2, 0] rfl ?_
    have hz := ih2 (x2 + 1) hw
    exact hz
  · have hw := hw.2 c2
    refine j_iload_n hE 1 dX6_nameAt_53 rfl rfl ?_
    refine j_if_eq hE 66 dX6_nameAt_54 (by decide) (fun c3 => ?_) (fun c3 => ?_)
    · have hw := hw.1 c3
      refine j_aload_n hE 0 dX6_nameAt_66 rfl rfl ?_
      refine jm_get hE hA 16 (Nat.le_of_ble_eq_true rfl) q1663 rfl (v := .ref (ad 7)) rfl dX6_nameAt_67 ?_
      refine j_iload_n hE 2 dX6_nameAt_70 rfl rfl ?_
      obtain ⟨h4, hw⟩ := hw
      refine jm_iald hE hA 6 (Nat.le_of_ble_eq_true rfl) h4 dX6_nameAt_71 ?_
      exact j_iret hE hK dX6_nameAt_72 rfl ⟨rfl, hw⟩
    · have hw := hw.2 c3
      refine j_aload_n hE 0 dX6_nameAt_57 rfl rfl ?_
      refine jm_get hE hA 17 (Nat.le_of_ble_eq_true rfl) q1664 rfl (v := .ref (ad 8)) rfl dX6_nameAt_58 ?_
      refine j_iload_n hE 2 dX6_nameAt_61 rfl rfl ?_
      obtain ⟨h5, hw⟩ := hw
      refine jm_iald hE hA 7 (Nat.le_of_ble_eq_true rfl) h5 dX6_nameAt_62 ?_
      refine j_goto hE 72 dX6_nameAt_63 (by decide) ?_
      exact j_iret hE hK dX6_nameAt_72 rfl ⟨rfl, hw⟩
def wX6_nameAt_18 (x1 : Int32) (x2 : Int32) (s0 : Int32) (s1 : Int32) (m0 : MS) (KL2 : Int32 → Prop) (K : Int32 → Prop) : Prop :=
  (s1 ≤ s0 → (K ((-1)))) ∧ (¬ s1 ≤ s0 → ((x1 = 0 → (vp_in x2 16 ∧ (wX6_nameAt_40 x1 x2 (rdL (gL m0 2) x2) m0 KL2 K))) ∧ (¬ x1 = 0 → (vp_in x2 16 ∧ (wX6_nameAt_40 x1 x2 (rdL (gL m0 3) x2) m0 KL2 K)))))
set_option maxRecDepth 100000 in
theorem bX6_nameAt_18 {E : jE} (hE : jOk E cX6_nameAt RX6) (hn : E.2.2.2.2 = 3) (hR : jRoom E 0 0) {ad : Nat → Nat} (hA : adOk ad) {r : GW} {m0 : MS} {b : Nat × Nat} {K : Int32 → Prop} (hK : jRi E .int (KPI (mwX ad m0 r) K)) {x1 : Int32} {x2 : Int32} {s0 : Int32} {s1 : Int32} {KL2 : Int32 → Prop} (ih2 : ∀ s : Int32, KL2 s → J E (mwX ad m0 r) b [(0, .ref (ad 0)), (1, .int (x1)), (2, .int (s))] 2 []) (hw : wX6_nameAt_18 x1 x2 s0 s1 m0 KL2 K) : J E (mwX ad m0 r) b [(0, .ref (ad 0)), (1, .int (x1)), (2, .int (x2))] 18 [.int (s1), .int (s0)] := by
  unfold wX6_nameAt_18 at hw
  refine j_icmp_ge hE 79 dX6_nameAt_18 (by decide) (fun c1 => ?_) (fun c1 => ?_)
  · have hw := hw.1 c1
    refine j_iconst hE dX6_nameAt_79 kc_m1 ?_
    exact j_iret hE hK dX6_nameAt_80 rfl ⟨rfl, hw⟩
  · have hw := hw.2 c1
    refine j_iload_n hE 1 dX6_nameAt_21 rfl rfl ?_
    refine j_if_eq hE 34 dX6_nameAt_22 (by decide) (fun c2 => ?_) (fun c2 => ?_)
    · have hw := hw.1 c2
      refine j_aload_n hE 0 dX6_nameAt_34 rfl rfl ?_
      refine jm_get hE hA 14 (Nat.le_of_ble_eq_true rfl) q1661 rfl (v := .ref (ad 16)) rfl dX6_nameAt_35 ?_
      refine j_iload_n hE 2 dX6_nameAt_38 rfl rfl ?_
      obtain ⟨h3, hw⟩ := hw
      refine jm_lald hE hA 2 (Nat.le_of_ble_eq_true rfl) h3 dX6_nameAt_39 ?_
      exact bX6_nameAt_40 hE hn hR hA hK ih2 hw
    · have hw := hw.2 c2
      refine j_aload_n hE 0 dX6_nameAt_25 rfl rfl ?_
      refine jm_get hE hA 15 (Nat.le_of_ble_eq_true rfl) q1662 rfl (v := .ref (ad 17)) rfl dX6_nameAt_26 ?_
      refine j_iload_n hE 2 dX6_nameAt_29 rfl rfl ?_
      obtain ⟨h4, hw⟩ := hw
      refine jm_lald hE hA 3 (Nat.le_of_ble_eq_true rfl) h4 dX6_nameAt_30 ?_
      refine j_goto hE 40 dX6_nameAt_31 (by decide) ?_
      exact bX6_nameAt_40 hE hn hR hA hK ih2 hw
def wX6_nameAt_2_b (x1 : Int32) (x2 : Int32) (m0 : MS) (KL2 : Int32 → Prop) (K : Int32 → Prop) : Prop :=
  (x1 = 0 → (wX6_nameAt_18 x1 x2 x2 (gF m0 6) m0 KL2 K)) ∧ (¬ x1 = 0 → (wX6_nameAt_18 x1 x2 x2 (gF m0 7) m0 KL2 K))
def wX6_nameAt_2 (x1 : Int32) (x2 : Int32) (m0 : MS) (K : Int32 → Prop) : Prop := lfp (σ := Int32) (fun KL s => wX6_nameAt_2_b x1 s m0 KL K) x2
set_option maxRecDepth 100000 in
theorem bX6_nameAt_2 {E : jE} (hE : jOk E cX6_nameAt RX6) (hn : E.2.2.2.2 = 3) (hR : jRoom E 0 0) {ad : Nat → Nat} (hA : adOk ad) {r : GW} {m0 : MS} {b : Nat × Nat} {K : Int32 → Prop} (hK : jRi E .int (KPI (mwX ad m0 r) K)) {x1 : Int32} {x2 : Int32}  (hw : wX6_nameAt_2 x1 x2 m0 K) : J E (mwX ad m0 r) b [(0, .ref (ad 0)), (1, .int (x1)), (2, .int (x2))] 2 [] := by
  refine lfp_sound (σ := Int32) (F := fun KL s => wX6_nameAt_2_b x1 s m0 KL K) (P := fun s => J E (mwX ad m0 r) b [(0, .ref (ad 0)), (1, .int (x1)), (2, .int (s))] 2 []) ?_ hw
  clear hw
  rintro KL2 x2 hw ih2
  have hw : wX6_nameAt_2_b x1 x2 m0 KL2 K := hw
  unfold wX6_nameAt_2_b at hw
  refine j_iload_n hE 2 dX6_nameAt_2 rfl rfl ?_
  refine j_iload_n hE 1 dX6_nameAt_3 rfl rfl ?_
  refine j_if_eq hE 14 dX6_nameAt_4 (by decide) (fun c1 => ?_) (fun c1 => ?_)
  · have hw := hw.1 c1
    refine j_aload_n hE 0 dX6_nameAt_14 rfl rfl ?_
    refine jm_get hE hA 18 (Nat.le_of_ble_eq_true rfl) q1665 rfl (v := .int (gF m0 6)) rfl dX6_nameAt_15 ?_
    exact bX6_nameAt_18 hE hn hR hA hK ih2 hw
  · have hw := hw.2 c1
    refine j_aload_n hE 0 dX6_nameAt_7 rfl rfl ?_
    refine jm_get hE hA 19 (Nat.le_of_ble_eq_true rfl) q1666 rfl (v := .int (gF m0 7)) rfl dX6_nameAt_8 ?_
    refine j_goto hE 18 dX6_nameAt_11 (by decide) ?_
    exact bX6_nameAt_18 hE hn hR hA hK ih2 hw
def wX6_nameAt_0 (x1 : Int32) (m0 : MS) (K : Int32 → Prop) : Prop :=
  wX6_nameAt_2 x1 0 m0 K
set_option maxRecDepth 100000 in
theorem bX6_nameAt_0 {E : jE} (hE : jOk E cX6_nameAt RX6) (hn : E.2.2.2.2 = 3) (hR : jRoom E 0 0) {ad : Nat → Nat} (hA : adOk ad) {r : GW} {m0 : MS} {b : Nat × Nat} {K : Int32 → Prop} (hK : jRi E .int (KPI (mwX ad m0 r) K)) {x1 : Int32}  (hw : wX6_nameAt_0 x1 m0 K) : J E (mwX ad m0 r) b [(0, .ref (ad 0)), (1, .int (x1))] 0 [] := by
  unfold wX6_nameAt_0 at hw
  refine j_iconst hE dX6_nameAt_0 kc_0 ?_
  refine j_istore_n (L' := [(2, .int (0)), (0, .ref (ad 0)), (1, .int (x1))]) hE hn dX6_nameAt_1 rfl (Nat.le_of_ble_eq_true rfl) rfl ?_
  refine j_sub [(0, .ref (ad 0)), (1, .int (x1)), (2, .int (0))] [1, 2, 0] rfl ?_
  exact bX6_nameAt_2 hE hn hR hA hK  hw
abbrev wX6_nameAt := wX6_nameAt_0
theorem ctX6_nameAt (l : Launch) (G : gG) {ad : Nat → Nat} (hA : adOk ad) (m0 : MS) (r : GW) (x1 : Int32) (K : Int32 → Prop) (hw : wX6_nameAt x1 m0 K) : CtI l yX6_nameAt cX6_nameAt 3 .int ({ frames := 0, cells := 0, slots := 0, locals := 0 }) G [.ref (ad 0), .int (x1)] (mwX ad m0 r) (KPI (mwX ad m0 r) K) :=
  CtI.of RX6 plain_X6 rfl (Nat.le_of_ble_eq_true rfl) (fun E hE _ _ hn hR hK => bX6_nameAt_0 hE hn hR hA hK hw)
theorem jdX6_nameAt : jD yX6_nameAt 1 := by decide +kernel
theorem lkX6_nameAt : GoodIn lw_all (wsV RX6 194 yX6_nameAt.cls yX6_nameAt (ws_ yX6_nameAt cX6_nameAt 3 (some .int))) := lw_V q1794 q1796 qs68 q129 q1797
def wX6_readName_61 (x1 : Int32) (x3 : Int32) (x4 : Int32) (m : MS) (K : MS → Prop) : Prop :=
  (¬ (gF m 4) = 0 → (K m)) ∧ ((gF m 4) = 0 → (vp_in (gF m 3) 1002 ∧ (vp_in (gF m 7) 16 ∧ (∀ m4 : MS, m4 = wL m 3 (gF m 7) (rdL (gL m 0) (gF m 3)) → (vp_in (gF m4 7) 16 ∧ (∀ m6 : MS, m6 = wA m4 7 (gF m4 7) (x3 + x4) → (∀ m7 : MS, m7 = sF m6 7 ((gF m6 7) + 1) → (∀ m8 : MS, m8 = sF m7 3 ((gF m7 3) + 1) → (vp_in ((nI 60) + x1) 120 ∧ (vp_in ((nI 60) + x1) 120 ∧ (∀ m11 : MS, m11 = wA m8 3 ((nI 60) + x1) ((rd (gA m8 3) ((nI 60) + x1)) + 1) → (K m11))))))))))))
set_option maxRecDepth 100000 in
theorem bX6_readName_61 {E : jE} (hE : jOk E cX6_readName RX6) (hn : E.2.2.2.2 = 5) (hR : jRoom E 3 65) {ad : Nat → Nat} (hA : adOk ad) {r : GW} {b : Nat × Nat} {K : MS → Prop} (hK : jRv E (KMV ad r K)) {x1 : Int32} {x3 : Int32} {x4 : Int32} {m : MS}  (hw : wX6_readName_61 x1 x3 x4 m K) : J E (mwX ad m r) b [(0, .ref (ad 0)), (1, .int (x1)), (3, .int (x3)), (4, .int (x4))] 61 [] := by
  unfold wX6_readName_61 at hw
  refine j_aload_n hE 0 dX6_readName_61 rfl rfl ?_
  refine jm_get hE hA 8 (Nat.le_of_ble_eq_true rfl) q1655 rfl (v := .int (gF m 4)) rfl dX6_readName_62 ?_
  refine j_if_ne hE 132 dX6_readName_65 (by decide) (fun c1 => ?_) (fun c1 => ?_)
  · have hw := hw.1 c1
    exact j_vret hE hK dX6_readName_132 ⟨_, rfl, hw⟩
  · have hw := hw.2 c1
    refine j_aload_n hE 0 dX6_readName_68 rfl rfl ?_
    refine jm_get hE hA 15 (Nat.le_of_ble_eq_true rfl) q1662 rfl (v := .ref (ad 17)) rfl dX6_readName_69 ?_
    refine j_aload_n hE 0 dX6_readName_72 rfl rfl ?_
    refine jm_get hE hA 19 (Nat.le_of_ble_eq_true rfl) q1666 rfl (v := .int (gF m 7)) rfl dX6_readName_73 ?_
    refine j_aload_n hE 0 dX6_readName_76 rfl rfl ?_
    refine jm_get hE hA 6 (Nat.le_of_ble_eq_true rfl) q1653 rfl (v := .ref (ad 14)) rfl dX6_readName_77 ?_
    refine j_aload_n hE 0 dX6_readName_80 rfl rfl ?_
    refine jm_get hE hA 7 (Nat.le_of_ble_eq_true rfl) q1654 rfl (v := .int (gF m 3)) rfl dX6_readName_81 ?_
    obtain ⟨h2, hw⟩ := hw
    refine jm_lald hE hA 0 (Nat.le_of_ble_eq_true rfl) h2 dX6_readName_84 ?_
    obtain ⟨h3, hw⟩ := hw
    refine jm_last hE hA 3 (Nat.le_of_ble_eq_true rfl) h3 dX6_readName_85 ?_
    refine j_wm (fun m4 e_m4 => ?_)
    have hw := hw m4 e_m4
    refine j_aload_n hE 0 dX6_readName_86 rfl rfl ?_
    refine jm_get hE hA 17 (Nat.le_of_ble_eq_true rfl) q1664 rfl (v := .ref (ad 8)) rfl dX6_readName_87 ?_
    refine j_aload_n hE 0 dX6_readName_90 rfl rfl ?_
    refine jm_get hE hA 19 (Nat.le_of_ble_eq_true rfl) q1666 rfl (v := .int (gF m4 7)) rfl dX6_readName_91 ?_
    refine j_iload_n hE 2 dX6_readName_94 rfl rfl ?_
    refine j_iload hE 3 dX6_readName_95 rfl ?_
    refine j_iadd hE dX6_readName_97 ?_
    obtain ⟨h5, hw⟩ := hw
    refine jm_iast hE hA 7 (Nat.le_of_ble_eq_true rfl) h5 dX6_readName_98 ?_
    refine j_wm (fun m6 e_m6 => ?_)
    have hw := hw m6 e_m6
    refine j_aload_n hE 0 dX6_readName_99 rfl rfl ?_
    refine j_dup hE dX6_readName_100 rfl ?_
    refine jm_get hE hA 19 (Nat.le_of_ble_eq_true rfl) q1666 rfl (v := .int (gF m6 7)) rfl dX6_readName_101 ?_
    refine j_iconst hE dX6_readName_104 kc_1 ?_
    refine j_iadd hE dX6_readName_105 ?_
    refine jm_putF hE hA 19 7 (Nat.le_of_ble_eq_true rfl) q1666 rfl rfl (mset_7 _ _ _) rfl rfl dX6_readName_106 ?_
    refine j_wm (fun m7 e_m7 => ?_)
    have hw := hw m7 e_m7
    refine j_aload_n hE 0 dX6_readName_109 rfl rfl ?_
    refine j_dup hE dX6_readName_110 rfl ?_
    refine jm_get hE hA 7 (Nat.le_of_ble_eq_true rfl) q1654 rfl (v := .int (gF m7 3)) rfl dX6_readName_111 ?_
    refine j_iconst hE dX6_readName_114 kc_1 ?_
    refine j_iadd hE dX6_readName_115 ?_
    refine jm_putF hE hA 7 3 (Nat.le_of_ble_eq_true rfl) q1654 rfl rfl (mset_3 _ _ _) rfl rfl dX6_readName_116 ?_
    refine j_wm (fun m8 e_m8 => ?_)
    have hw := hw m8 e_m8
    refine j_aload_n hE 0 dX6_readName_119 rfl rfl ?_
    refine jm_get hE hA 10 (Nat.le_of_ble_eq_true rfl) q1657 rfl (v := .ref (ad 4)) rfl dX6_readName_120 ?_
    refine j_bipush hE dX6_readName_123 kb_60 ?_
    refine j_iload_n hE 1 dX6_readName_125 rfl rfl ?_
    refine j_iadd hE dX6_readName_126 ?_
    refine j_dup2 hE dX6_readName_127 rfl rfl ?_
    obtain ⟨h9, hw⟩ := hw
    refine jm_iald hE hA 3 (Nat.le_of_ble_eq_true rfl) h9 dX6_readName_128 ?_
    refine j_iconst hE dX6_readName_129 kc_1 ?_
    refine j_iadd hE dX6_readName_130 ?_
    obtain ⟨h10, hw⟩ := hw
    refine jm_iast hE hA 3 (Nat.le_of_ble_eq_true rfl) h10 dX6_readName_131 ?_
    refine j_wm (fun m11 e_m11 => ?_)
    have hw := hw m11 e_m11
    exact j_vret hE hK dX6_readName_132 ⟨_, rfl, hw⟩
def wX6_readName_0 (x1 : Int32) (x2 : Int32) (x3 : Int32) (m : MS) (K : MS → Prop) : Prop :=
  vp_in ((nI 60) + x1) 120 ∧ (∀ v2 : Int32, v2 = rd (gA m 3) ((nI 60) + x1) → ((¬ v2 = x2 → (∀ m4 : MS, m4 = sF m 3 ((gF m 3) + 1) → (wX6_isName  m4 (fun r5 => (¬ r5 = 0 → (wX6_nameAt 1 m4 (fun r7 => (r7 < 0 → (wX6_readName_61 x1 x3 v2 m4 K)) ∧ (¬ r7 < 0 → (wX6_wrong (nI 3) m4 (fun  m9 => wX6_readName_61 x1 x3 v2 m9 K)))))) ∧ (r5 = 0 → (wX6_wrong 1 m4 (fun  m10 => wX6_readName_61 x1 x3 v2 m10 K))))))) ∧ (v2 = x2 → (wX6_wrong (nI 5) m (fun  m11 => K m11)))))
set_option maxRecDepth 100000 in
theorem bX6_readName_0 {E : jE} (hE : jOk E cX6_readName RX6) (hn : E.2.2.2.2 = 5) (hR : jRoom E 3 65) {ad : Nat → Nat} (hA : adOk ad) {r : GW} {b : Nat × Nat} {K : MS → Prop} (hK : jRv E (KMV ad r K)) {x1 : Int32} {x2 : Int32} {x3 : Int32} {m : MS}  (hw : wX6_readName_0 x1 x2 x3 m K) : J E (mwX ad m r) b [(0, .ref (ad 0)), (1, .int (x1)), (2, .int (x2)), (3, .int (x3))] 0 [] := by
  unfold wX6_readName_0 at hw
  refine j_aload_n hE 0 dX6_readName_0 rfl rfl ?_
  refine jm_get hE hA 10 (Nat.le_of_ble_eq_true rfl) q1657 rfl (v := .ref (ad 4)) rfl dX6_readName_1 ?_
  refine j_bipush hE dX6_readName_4 kb_60 ?_
  refine j_iload_n hE 1 dX6_readName_6 rfl rfl ?_
  refine j_iadd hE dX6_readName_7 ?_
  obtain ⟨h1, hw⟩ := hw
  refine jm_iald hE hA 3 (Nat.le_of_ble_eq_true rfl) h1 dX6_readName_8 ?_
  refine j_topi (fun v2 e_v2 => ?_)
  have hw := hw v2 e_v2
  refine j_istore (L' := [(4, .int (v2)), (0, .ref (ad 0)), (1, .int (x1)), (2, .int (x2)), (3, .int (x3))]) hE hn dX6_readName_9 (Nat.le_of_ble_eq_true rfl) rfl ?_
  refine j_iload hE 0 dX6_readName_11 rfl ?_
  refine j_iload_n hE 3 dX6_readName_13 rfl rfl ?_
  refine j_icmp_ne hE 23 dX6_readName_14 (by decide) (fun c3 => ?_) (fun c3 => ?_)
  · have hw := hw.1 c3
    refine j_aload_n hE 1 dX6_readName_23 rfl rfl ?_
    refine j_dup hE dX6_readName_24 rfl ?_
    refine jm_get hE hA 7 (Nat.le_of_ble_eq_true rfl) q1654 rfl (v := .int (gF m 3)) rfl dX6_readName_25 ?_
    refine j_iconst hE dX6_readName_28 kc_1 ?_
    refine j_iadd hE dX6_readName_29 ?_
    refine jm_putF hE hA 7 3 (Nat.le_of_ble_eq_true rfl) q1654 rfl rfl (mset_3 _ _ _) rfl rfl dX6_readName_30 ?_
    refine j_wm (fun m4 e_m4 => ?_)
    have hw := hw m4 e_m4
    refine j_aload_n hE 1 dX6_readName_33 rfl rfl ?_
    refine jm_pI hE hA hR (As := []) (rest := []) (ctX6_isName E.1.2.1 E.2.2.1 hA _ _  _ hw) rfl lkX6_isName jdX6_isName ⟨Nat.le_of_ble_eq_true rfl, Nat.le_of_ble_eq_true rfl⟩ rfl (Nat.le_of_ble_eq_true rfl) dX6_readName_34 (fun r5 hw => ?_)
    refine j_if_ne hE 48 dX6_readName_37 (by decide) (fun c6 => ?_) (fun c6 => ?_)
    · have hw := hw.1 c6
      refine j_aload_n hE 1 dX6_readName_48 rfl rfl ?_
      refine j_iconst hE dX6_readName_49 kc_1 ?_
      refine jm_pI hE hA hR (As := [.int (1)]) (rest := []) (ctX6_nameAt E.1.2.1 E.2.2.1 hA _ _ _  _ hw) rfl lkX6_nameAt jdX6_nameAt ⟨Nat.le_of_ble_eq_true rfl, Nat.le_of_ble_eq_true rfl⟩ rfl (Nat.le_of_ble_eq_true rfl) dX6_readName_50 (fun r7 hw => ?_)
      refine j_if_lt hE 61 dX6_readName_53 (by decide) (fun c8 => ?_) (fun c8 => ?_)
      · have hw := hw.1 c8
        refine j_sub [(0, .ref (ad 0)), (1, .int (x1)), (3, .int (x3)), (4, .int (v2))] [1, 2, 4, 0] rfl ?_
        exact bX6_readName_61 hE hn hR hA hK  hw
      · have hw := hw.2 c8
        refine j_aload_n hE 1 dX6_readName_56 rfl rfl ?_
        refine j_iconst hE dX6_readName_57 kc_3 ?_
        refine jm_cV hE hA hR (As := [.int (nI 3)]) (rest := []) (ctX6_wrong E.1.2.1 E.2.2.1 hA _ _ _  _ hw) rfl lkX6_wrong jdX6_wrong ⟨Nat.le_of_ble_eq_true rfl, Nat.le_of_ble_eq_true rfl⟩ rfl (Nat.le_of_ble_eq_true rfl) dX6_readName_58 (fun  m9 hw => ?_)
        refine j_sub [(0, .ref (ad 0)), (1, .int (x1)), (3, .int (x3)), (4, .int (v2))] [1, 2, 4, 0] rfl ?_
        exact bX6_readName_61 hE hn hR hA hK  hw
    · have hw := hw.2 c6
      refine j_aload_n hE 1 dX6_readName_40 rfl rfl ?_
      refine j_iconst hE dX6_readName_41 kc_1 ?_
      refine jm_cV hE hA hR (As := [.int (1)]) (rest := []) (ctX6_wrong E.1.2.1 E.2.2.1 hA _ _ _  _ hw) rfl lkX6_wrong jdX6_wrong ⟨Nat.le_of_ble_eq_true rfl, Nat.le_of_ble_eq_true rfl⟩ rfl (Nat.le_of_ble_eq_true rfl) dX6_readName_42 (fun  m10 hw => ?_)
      refine j_goto hE 61 dX6_readName_45 (by decide) ?_
      refine j_sub [(0, .ref (ad 0)), (1, .int (x1)), (3, .int (x3)), (4, .int (v2))] [1, 2, 4, 0] rfl ?_
      exact bX6_readName_61 hE hn hR hA hK  hw
  · have hw := hw.2 c3
    refine j_aload_n hE 1 dX6_readName_17 rfl rfl ?_
    refine j_iconst hE dX6_readName_18 kc_5 ?_
    refine jm_cV hE hA hR (As := [.int (nI 5)]) (rest := []) (ctX6_wrong E.1.2.1 E.2.2.1 hA _ _ _  _ hw) rfl lkX6_wrong jdX6_wrong ⟨Nat.le_of_ble_eq_true rfl, Nat.le_of_ble_eq_true rfl⟩ rfl (Nat.le_of_ble_eq_true rfl) dX6_readName_19 (fun  m11 hw => ?_)
    exact j_vret hE hK dX6_readName_22 ⟨_, rfl, hw⟩
abbrev wX6_readName := wX6_readName_0
theorem ctX6_readName (l : Launch) (G : gG) {ad : Nat → Nat} (hA : adOk ad) (m0 : MS) (r : GW) (x1 : Int32) (x2 : Int32) (x3 : Int32) (K : MS → Prop) (hw : wX6_readName x1 x2 x3 m0 K) : CtV l yX6_readName cX6_readName 5 ({ frames := 3, cells := 0, slots := 0, locals := 65 }) G [.ref (ad 0), .int (x1), .int (x2), .int (x3)] (mwX ad m0 r) (KMV ad r K) :=
  CtV.of RX6 plain_X6 rfl (Nat.le_of_ble_eq_true rfl) (fun E hE _ _ hn hR hK => bX6_readName_0 hE hn hR hA hK hw)
theorem jdX6_readName : jD yX6_readName 3 := by decide +kernel
theorem lkX6_readName : GoodIn lw_all (wsV RX6 220 yX6_readName.cls yX6_readName (ws_ yX6_readName cX6_readName 5 none)) := lw_V q1778 q1780 qs64 q129 q1781
def wX6_takeOne_51 (x3 : Int32) (s1 : Int32) (s2 : Int32) (m : MS) (K : Int32 → MS → Prop) : Prop :=
  ∀ m1 : MS, m1 = sF m 3 (s1 + s2) → (((gF m1 4) ≤ 0 → (K x3 m1)) ∧ (¬ (gF m1 4) ≤ 0 → (K 0 m1)))
set_option maxRecDepth 100000 in
theorem bX6_takeOne_51 {E : jE} (hE : jOk E cX6_takeOne RX6) (hn : E.2.2.2.2 = 4) (hR : jRoom E 2 45) {ad : Nat → Nat} (hA : adOk ad) {r : GW} {b : Nat × Nat} {K : Int32 → MS → Prop} (hK : jRi E .int (KMI ad r K)) {x3 : Int32} {s1 : Int32} {s2 : Int32} {m : MS}  (hw : wX6_takeOne_51 x3 s1 s2 m K) : J E (mwX ad m r) b [(0, .ref (ad 0)), (3, .int (x3))] 51 [.int (s2), .int (s1), .ref (ad 0)] := by
  unfold wX6_takeOne_51 at hw
  refine j_iadd hE dX6_takeOne_51 ?_
  refine jm_putF hE hA 7 3 (Nat.le_of_ble_eq_true rfl) q1654 rfl rfl (mset_3 _ _ _) rfl rfl dX6_takeOne_52 ?_
  refine j_wm (fun m1 e_m1 => ?_)
  have hw := hw m1 e_m1
  refine j_aload_n hE 0 dX6_takeOne_55 rfl rfl ?_
  refine jm_get hE hA 8 (Nat.le_of_ble_eq_true rfl) q1655 rfl (v := .int (gF m1 4)) rfl dX6_takeOne_56 ?_
  refine j_if_le hE 66 dX6_takeOne_59 (by decide) (fun c2 => ?_) (fun c2 => ?_)
  · have hw := hw.1 c2
    refine j_iload_n hE 1 dX6_takeOne_66 rfl rfl ?_
    exact j_iret hE hK dX6_takeOne_67 rfl ⟨_, rfl, hw⟩
  · have hw := hw.2 c2
    refine j_iconst hE dX6_takeOne_62 kc_0 ?_
    refine j_goto hE 67 dX6_takeOne_63 (by decide) ?_
    exact j_iret hE hK dX6_takeOne_67 rfl ⟨_, rfl, hw⟩
def wX6_takeOne_34 (x3 : Int32) (m : MS) (K : Int32 → MS → Prop) : Prop :=
  ((gF m 4) ≤ 0 → (wX6_takeOne_51 x3 (gF m 3) 1 m K)) ∧ (¬ (gF m 4) ≤ 0 → (wX6_takeOne_51 x3 (gF m 3) 0 m K))
set_option maxRecDepth 100000 in
theorem bX6_takeOne_34 {E : jE} (hE : jOk E cX6_takeOne RX6) (hn : E.2.2.2.2 = 4) (hR : jRoom E 2 45) {ad : Nat → Nat} (hA : adOk ad) {r : GW} {b : Nat × Nat} {K : Int32 → MS → Prop} (hK : jRi E .int (KMI ad r K)) {x3 : Int32} {m : MS}  (hw : wX6_takeOne_34 x3 m K) : J E (mwX ad m r) b [(0, .ref (ad 0)), (3, .int (x3))] 34 [] := by
  unfold wX6_takeOne_34 at hw
  refine j_aload_n hE 0 dX6_takeOne_34 rfl rfl ?_
  refine j_dup hE dX6_takeOne_35 rfl ?_
  refine jm_get hE hA 7 (Nat.le_of_ble_eq_true rfl) q1654 rfl (v := .int (gF m 3)) rfl dX6_takeOne_36 ?_
  refine j_aload_n hE 0 dX6_takeOne_39 rfl rfl ?_
  refine jm_get hE hA 8 (Nat.le_of_ble_eq_true rfl) q1655 rfl (v := .int (gF m 4)) rfl dX6_takeOne_40 ?_
  refine j_if_le hE 50 dX6_takeOne_43 (by decide) (fun c1 => ?_) (fun c1 => ?_)
  · have hw := hw.1 c1
    refine j_iconst hE dX6_takeOne_50 kc_1 ?_
    exact bX6_takeOne_51 hE hn hR hA hK  hw
  · have hw := hw.2 c1
    refine j_iconst hE dX6_takeOne_46 kc_0 ?_
    refine j_goto hE 51 dX6_takeOne_47 (by decide) ?_
    exact bX6_takeOne_51 hE hn hR hA hK  hw
def wX6_takeOne_17 (s0 : Int32) (m : MS) (K : Int32 → MS → Prop) : Prop :=
  (¬ (gF m 4) = 0 → (wX6_takeOne_34 s0 m K)) ∧ ((gF m 4) = 0 → ((0 ≤ s0 → (wX6_takeOne_34 s0 m K)) ∧ (¬ 0 ≤ s0 → (wX6_wrong 1 m (fun  m3 => wX6_takeOne_34 s0 m3 K)))))
set_option maxRecDepth 100000 in
theorem bX6_takeOne_17 {E : jE} (hE : jOk E cX6_takeOne RX6) (hn : E.2.2.2.2 = 4) (hR : jRoom E 2 45) {ad : Nat → Nat} (hA : adOk ad) {r : GW} {b : Nat × Nat} {K : Int32 → MS → Prop} (hK : jRi E .int (KMI ad r K)) {s0 : Int32} {m : MS}  (hw : wX6_takeOne_17 s0 m K) : J E (mwX ad m r) b [(0, .ref (ad 0))] 17 [.int (s0)] := by
  unfold wX6_takeOne_17 at hw
  refine j_istore_n (L' := [(3, .int (s0)), (0, .ref (ad 0))]) hE hn dX6_takeOne_17 rfl (Nat.le_of_ble_eq_true rfl) rfl ?_
  refine j_aload_n hE 1 dX6_takeOne_18 rfl rfl ?_
  refine jm_get hE hA 8 (Nat.le_of_ble_eq_true rfl) q1655 rfl (v := .int (gF m 4)) rfl dX6_takeOne_19 ?_
  refine j_if_ne hE 34 dX6_takeOne_22 (by decide) (fun c1 => ?_) (fun c1 => ?_)
  · have hw := hw.1 c1
    refine j_sub [(0, .ref (ad 0)), (3, .int (s0))] [1, 0] rfl ?_
    exact bX6_takeOne_34 hE hn hR hA hK  hw
  · have hw := hw.2 c1
    refine j_iload_n hE 0 dX6_takeOne_25 rfl rfl ?_
    refine j_if_ge hE 34 dX6_takeOne_26 (by decide) (fun c2 => ?_) (fun c2 => ?_)
    · have hw := hw.1 c2
      refine j_sub [(0, .ref (ad 0)), (3, .int (s0))] [1, 0] rfl ?_
      exact bX6_takeOne_34 hE hn hR hA hK  hw
    · have hw := hw.2 c2
      refine j_aload_n hE 1 dX6_takeOne_29 rfl rfl ?_
      refine j_iconst hE dX6_takeOne_30 kc_1 ?_
      refine jm_cV hE hA hR (As := [.int (1)]) (rest := []) (ctX6_wrong E.1.2.1 E.2.2.1 hA _ _ _  _ hw) rfl lkX6_wrong jdX6_wrong ⟨Nat.le_of_ble_eq_true rfl, Nat.le_of_ble_eq_true rfl⟩ rfl (Nat.le_of_ble_eq_true rfl) dX6_takeOne_31 (fun  m3 hw => ?_)
      refine j_sub [(0, .ref (ad 0)), (3, .int (s0))] [1, 0] rfl ?_
      exact bX6_takeOne_34 hE hn hR hA hK  hw
def wX6_takeOne_0 (x1 : Int32) (x2 : Int32) (m : MS) (K : Int32 → MS → Prop) : Prop :=
  ((gF m 4) ≤ 0 → (wX6_wordHere x1 x2 m (fun r2 => wX6_takeOne_17 r2 m K))) ∧ (¬ (gF m 4) ≤ 0 → (wX6_takeOne_17 ((-1)) m K))
set_option maxRecDepth 100000 in
theorem bX6_takeOne_0 {E : jE} (hE : jOk E cX6_takeOne RX6) (hn : E.2.2.2.2 = 4) (hR : jRoom E 2 45) {ad : Nat → Nat} (hA : adOk ad) {r : GW} {b : Nat × Nat} {K : Int32 → MS → Prop} (hK : jRi E .int (KMI ad r K)) {x1 : Int32} {x2 : Int32} {m : MS}  (hw : wX6_takeOne_0 x1 x2 m K) : J E (mwX ad m r) b [(0, .ref (ad 0)), (1, .int (x1)), (2, .int (x2))] 0 [] := by
  unfold wX6_takeOne_0 at hw
  refine j_aload_n hE 0 dX6_takeOne_0 rfl rfl ?_
  refine jm_get hE hA 8 (Nat.le_of_ble_eq_true rfl) q1655 rfl (v := .int (gF m 4)) rfl dX6_takeOne_1 ?_
  refine j_if_le hE 11 dX6_takeOne_4 (by decide) (fun c1 => ?_) (fun c1 => ?_)
  · have hw := hw.1 c1
    refine j_aload_n hE 0 dX6_takeOne_11 rfl rfl ?_
    refine j_iload_n hE 1 dX6_takeOne_12 rfl rfl ?_
    refine j_iload_n hE 2 dX6_takeOne_13 rfl rfl ?_
    refine jm_pI hE hA hR (As := [.int (x1), .int (x2)]) (rest := []) (ctX6_wordHere E.1.2.1 E.2.2.1 hA _ _ _ _  _ hw) rfl lkX6_wordHere jdX6_wordHere ⟨Nat.le_of_ble_eq_true rfl, Nat.le_of_ble_eq_true rfl⟩ rfl (Nat.le_of_ble_eq_true rfl) dX6_takeOne_14 (fun r2 hw => ?_)
    refine j_sub [(0, .ref (ad 0))] [0] rfl ?_
    exact bX6_takeOne_17 hE hn hR hA hK  hw
  · have hw := hw.2 c1
    refine j_iconst hE dX6_takeOne_7 kc_m1 ?_
    refine j_goto hE 17 dX6_takeOne_8 (by decide) ?_
    refine j_sub [(0, .ref (ad 0))] [0] rfl ?_
    exact bX6_takeOne_17 hE hn hR hA hK  hw
abbrev wX6_takeOne := wX6_takeOne_0
theorem ctX6_takeOne (l : Launch) (G : gG) {ad : Nat → Nat} (hA : adOk ad) (m0 : MS) (r : GW) (x1 : Int32) (x2 : Int32) (K : Int32 → MS → Prop) (hw : wX6_takeOne x1 x2 m0 K) : CtI l yX6_takeOne cX6_takeOne 4 .int ({ frames := 2, cells := 0, slots := 0, locals := 45 }) G [.ref (ad 0), .int (x1), .int (x2)] (mwX ad m0 r) (KMI ad r K) :=
  CtI.of RX6 plain_X6 rfl (Nat.le_of_ble_eq_true rfl) (fun E hE _ _ hn hR hK => bX6_takeOne_0 hE hn hR hA hK hw)
theorem jdX6_takeOne : jD yX6_takeOne 2 := by decide +kernel
theorem lkX6_takeOne : GoodIn lw_all (wsV RX6 231 yX6_takeOne.cls yX6_takeOne (ws_ yX6_takeOne cX6_takeOne 4 (some .int))) := lw_V q1798 q1800 qs69 q129 q1801
def wX6_hasWord_0 (x1 : Int32) (m : MS) (K : Int32 → MS → Prop) : Prop :=
  wX6_isWord x1 m (fun r1 => (r1 = 0 → (∀ m3 : MS, m3 = sF m 3 ((gF m 3) + 0) → (narrow .boolean (.int r1) = .int r1 ∧ K r1 m3))) ∧ (¬ r1 = 0 → (∀ m4 : MS, m4 = sF m 3 ((gF m 3) + 1) → (narrow .boolean (.int r1) = .int r1 ∧ K r1 m4))))
set_option maxRecDepth 100000 in
theorem bX6_hasWord_0 {E : jE} (hE : jOk E cX6_hasWord RX6) (hn : E.2.2.2.2 = 3) (hR : jRoom E 1 21) {ad : Nat → Nat} (hA : adOk ad) {r : GW} {b : Nat × Nat} {K : Int32 → MS → Prop} (hK : jRi E .boolean (KMI ad r K)) {x1 : Int32} {m : MS}  (hw : wX6_hasWord_0 x1 m K) : J E (mwX ad m r) b [(0, .ref (ad 0)), (1, .int (x1))] 0 [] := by
  unfold wX6_hasWord_0 at hw
  refine j_aload_n hE 0 dX6_hasWord_0 rfl rfl ?_
  refine j_iload_n hE 1 dX6_hasWord_1 rfl rfl ?_
  refine jm_pI hE hA hR (As := [.int (x1)]) (rest := []) (ctX6_isWord E.1.2.1 E.2.2.1 hA _ _ _  _ hw) rfl lkX6_isWord jdX6_isWord ⟨Nat.le_of_ble_eq_true rfl, Nat.le_of_ble_eq_true rfl⟩ rfl (Nat.le_of_ble_eq_true rfl) dX6_hasWord_2 (fun r1 hw => ?_)
  refine j_istore_n (L' := [(2, .int (r1)), (0, .ref (ad 0)), (1, .int (x1))]) hE hn dX6_hasWord_5 rfl (Nat.le_of_ble_eq_true rfl) rfl ?_
  refine j_aload_n hE 1 dX6_hasWord_6 rfl rfl ?_
  refine j_dup hE dX6_hasWord_7 rfl ?_
  refine jm_get hE hA 7 (Nat.le_of_ble_eq_true rfl) q1654 rfl (v := .int (gF m 3)) rfl dX6_hasWord_8 ?_
  refine j_iload_n hE 0 dX6_hasWord_11 rfl rfl ?_
  refine j_if_eq hE 19 dX6_hasWord_12 (by decide) (fun c2 => ?_) (fun c2 => ?_)
  · have hw := hw.1 c2
    refine j_iconst hE dX6_hasWord_19 kc_0 ?_
    refine j_iadd hE dX6_hasWord_20 ?_
    refine jm_putF hE hA 7 3 (Nat.le_of_ble_eq_true rfl) q1654 rfl rfl (mset_3 _ _ _) rfl rfl dX6_hasWord_21 ?_
    refine j_wm (fun m3 e_m3 => ?_)
    have hw := hw m3 e_m3
    refine j_iload_n hE 0 dX6_hasWord_24 rfl rfl ?_
    obtain ⟨hz, hw⟩ := hw
    exact j_iret hE hK dX6_hasWord_25 hz ⟨_, rfl, hw⟩
  · have hw := hw.2 c2
    refine j_iconst hE dX6_hasWord_15 kc_1 ?_
    refine j_goto hE 20 dX6_hasWord_16 (by decide) ?_
    refine j_iadd hE dX6_hasWord_20 ?_
    refine jm_putF hE hA 7 3 (Nat.le_of_ble_eq_true rfl) q1654 rfl rfl (mset_3 _ _ _) rfl rfl dX6_hasWord_21 ?_
    refine j_wm (fun m4 e_m4 => ?_)
    have hw := hw m4 e_m4
    refine j_iload_n hE 0 dX6_hasWord_24 rfl rfl ?_
    obtain ⟨hz, hw⟩ := hw
    exact j_iret hE hK dX6_hasWord_25 hz ⟨_, rfl, hw⟩
abbrev wX6_hasWord := wX6_hasWord_0
theorem ctX6_hasWord (l : Launch) (G : gG) {ad : Nat → Nat} (hA : adOk ad) (m0 : MS) (r : GW) (x1 : Int32) (K : Int32 → MS → Prop) (hw : wX6_hasWord x1 m0 K) : CtI l yX6_hasWord cX6_hasWord 3 .boolean ({ frames := 1, cells := 0, slots := 0, locals := 21 }) G [.ref (ad 0), .int (x1)] (mwX ad m0 r) (KMI ad r K) :=
  CtI.of RX6 plain_X6 rfl (Nat.le_of_ble_eq_true rfl) (fun E hE _ _ hn hR hK => bX6_hasWord_0 hE hn hR hA hK hw)
theorem jdX6_hasWord : jD yX6_hasWord 1 := by decide +kernel
theorem lkX6_hasWord : GoodIn lw_all (wsV RX6 171 yX6_hasWord.cls yX6_hasWord (ws_ yX6_hasWord cX6_hasWord 3 (some .boolean))) := lw_V q1810 q1812 qs72 q129 q1813
def wX6_takeWord_0 (x1 : Int32) (m : MS) (K : MS → Prop) : Prop :=
  wX6_hasWord x1 m (fun r1 m2 => (¬ r1 = 0 → (K m2)) ∧ (r1 = 0 → (wX6_wrong 1 m2 (fun  m4 => K m4))))
set_option maxRecDepth 100000 in
theorem bX6_takeWord_0 {E : jE} (hE : jOk E cX6_takeWord RX6) (hn : E.2.2.2.2 = 2) (hR : jRoom E 2 43) {ad : Nat → Nat} (hA : adOk ad) {r : GW} {b : Nat × Nat} {K : MS → Prop} (hK : jRv E (KMV ad r K)) {x1 : Int32} {m : MS}  (hw : wX6_takeWord_0 x1 m K) : J E (mwX ad m r) b [(0, .ref (ad 0)), (1, .int (x1))] 0 [] := by
  unfold wX6_takeWord_0 at hw
  refine j_aload_n hE 0 dX6_takeWord_0 rfl rfl ?_
  refine j_iload_n hE 1 dX6_takeWord_1 rfl rfl ?_
  refine jm_cI hE hA hR (As := [.int (x1)]) (rest := []) (ctX6_hasWord E.1.2.1 E.2.2.1 hA _ _ _  _ hw) rfl lkX6_hasWord jdX6_hasWord ⟨Nat.le_of_ble_eq_true rfl, Nat.le_of_ble_eq_true rfl⟩ rfl (Nat.le_of_ble_eq_true rfl) dX6_takeWord_2 (fun r1 m2 hw => ?_)
  refine j_if_ne hE 13 dX6_takeWord_5 (by decide) (fun c3 => ?_) (fun c3 => ?_)
  · have hw := hw.1 c3
    exact j_vret hE hK dX6_takeWord_13 ⟨_, rfl, hw⟩
  · have hw := hw.2 c3
    refine j_aload_n hE 0 dX6_takeWord_8 rfl rfl ?_
    refine j_iconst hE dX6_takeWord_9 kc_1 ?_
    refine jm_cV hE hA hR (As := [.int (1)]) (rest := []) (ctX6_wrong E.1.2.1 E.2.2.1 hA _ _ _  _ hw) rfl lkX6_wrong jdX6_wrong ⟨Nat.le_of_ble_eq_true rfl, Nat.le_of_ble_eq_true rfl⟩ rfl (Nat.le_of_ble_eq_true rfl) dX6_takeWord_10 (fun  m4 hw => ?_)
    exact j_vret hE hK dX6_takeWord_13 ⟨_, rfl, hw⟩
abbrev wX6_takeWord := wX6_takeWord_0
theorem ctX6_takeWord (l : Launch) (G : gG) {ad : Nat → Nat} (hA : adOk ad) (m0 : MS) (r : GW) (x1 : Int32) (K : MS → Prop) (hw : wX6_takeWord x1 m0 K) : CtV l yX6_takeWord cX6_takeWord 2 ({ frames := 2, cells := 0, slots := 0, locals := 43 }) G [.ref (ad 0), .int (x1)] (mwX ad m0 r) (KMV ad r K) :=
  CtV.of RX6 plain_X6 rfl (Nat.le_of_ble_eq_true rfl) (fun E hE _ _ hn hR hK => bX6_takeWord_0 hE hn hR hA hK hw)
theorem jdX6_takeWord : jD yX6_takeWord 1 := by decide +kernel
theorem lkX6_takeWord : GoodIn lw_all (wsV RX6 174 yX6_takeWord.cls yX6_takeWord (ws_ yX6_takeWord cX6_takeWord 2 none)) := lw_V q1806 q1808 qs71 q129 q1809
def wX6_takeNumber_70 (m : MS) (K : Int32 → MS → Prop) : Prop :=
  ((gF m 4) ≤ 0 → (∀ m2 : MS, m2 = sF m 3 ((gF m 3) + 1) → (vp_in ((gF m2 3) - 1) 1002 ∧ (K ((rdL (gL m2 0) ((gF m2 3) - 1)).toInt32) m2)))) ∧ (¬ (gF m 4) ≤ 0 → (K 0 m))
set_option maxRecDepth 100000 in
theorem bX6_takeNumber_70 {E : jE} (hE : jOk E cX6_takeNumber RX6) (hn : E.2.2.2.2 = 3) (hR : jRoom E 1 21) {ad : Nat → Nat} (hA : adOk ad) {r : GW} {b : Nat × Nat} {K : Int32 → MS → Prop} (hK : jRi E .int (KMI ad r K)) {m : MS}  (hw : wX6_takeNumber_70 m K) : J E (mwX ad m r) b [(0, .ref (ad 0))] 70 [] := by
  unfold wX6_takeNumber_70 at hw
  refine j_aload_n hE 0 dX6_takeNumber_70 rfl rfl ?_
  refine jm_get hE hA 8 (Nat.le_of_ble_eq_true rfl) q1655 rfl (v := .int (gF m 4)) rfl dX6_takeNumber_71 ?_
  refine j_if_le hE 79 dX6_takeNumber_74 (by decide) (fun c1 => ?_) (fun c1 => ?_)
  · have hw := hw.1 c1
    refine j_aload_n hE 0 dX6_takeNumber_79 rfl rfl ?_
    refine j_dup hE dX6_takeNumber_80 rfl ?_
    refine jm_get hE hA 7 (Nat.le_of_ble_eq_true rfl) q1654 rfl (v := .int (gF m 3)) rfl dX6_takeNumber_81 ?_
    refine j_iconst hE dX6_takeNumber_84 kc_1 ?_
    refine j_iadd hE dX6_takeNumber_85 ?_
    refine jm_putF hE hA 7 3 (Nat.le_of_ble_eq_true rfl) q1654 rfl rfl (mset_3 _ _ _) rfl rfl dX6_takeNumber_86 ?_
    refine j_wm (fun m2 e_m2 => ?_)
    have hw := hw m2 e_m2
    refine j_aload_n hE 0 dX6_takeNumber_89 rfl rfl ?_
    refine jm_get hE hA 6 (Nat.le_of_ble_eq_true rfl) q1653 rfl (v := .ref (ad 14)) rfl dX6_takeNumber_90 ?_
    refine j_aload_n hE 0 dX6_takeNumber_93 rfl rfl ?_
    refine jm_get hE hA 7 (Nat.le_of_ble_eq_true rfl) q1654 rfl (v := .int (gF m2 3)) rfl dX6_takeNumber_94 ?_
    refine j_iconst hE dX6_takeNumber_97 kc_1 ?_
    refine j_isub hE dX6_takeNumber_98 ?_
    obtain ⟨h3, hw⟩ := hw
    refine jm_lald hE hA 0 (Nat.le_of_ble_eq_true rfl) h3 dX6_takeNumber_99 ?_
    refine j_l2i hE dX6_takeNumber_100 ?_
    exact j_iret hE hK dX6_takeNumber_101 rfl ⟨_, rfl, hw⟩
  · have hw := hw.2 c1
    refine j_iconst hE dX6_takeNumber_77 kc_0 ?_
    exact j_iret hE hK dX6_takeNumber_78 rfl ⟨_, rfl, hw⟩
def wX6_takeNumber_65 (m : MS) (K : Int32 → MS → Prop) : Prop :=
  wX6_wrong (nI 4) m (fun  m1 => wX6_takeNumber_70 m1 K)
set_option maxRecDepth 100000 in
theorem bX6_takeNumber_65 {E : jE} (hE : jOk E cX6_takeNumber RX6) (hn : E.2.2.2.2 = 3) (hR : jRoom E 1 21) {ad : Nat → Nat} (hA : adOk ad) {r : GW} {b : Nat × Nat} {K : Int32 → MS → Prop} (hK : jRi E .int (KMI ad r K)) {m : MS}  (hw : wX6_takeNumber_65 m K) : J E (mwX ad m r) b [(0, .ref (ad 0))] 65 [] := by
  unfold wX6_takeNumber_65 at hw
  refine j_aload_n hE 0 dX6_takeNumber_65 rfl rfl ?_
  refine j_iconst hE dX6_takeNumber_66 kc_4 ?_
  refine jm_cV hE hA hR (As := [.int (nI 4)]) (rest := []) (ctX6_wrong E.1.2.1 E.2.2.1 hA _ _ _  _ hw) rfl lkX6_wrong jdX6_wrong ⟨Nat.le_of_ble_eq_true rfl, Nat.le_of_ble_eq_true rfl⟩ rfl (Nat.le_of_ble_eq_true rfl) dX6_takeNumber_67 (fun  m1 hw => ?_)
  exact bX6_takeNumber_70 hE hn hR hA hK  hw
def wX6_takeNumber_28 (x1 : Int32) (x2 : Int32) (m : MS) (K : Int32 → MS → Prop) : Prop :=
  (¬ (gF m 4) = 0 → (wX6_takeNumber_70 m K)) ∧ ((gF m 4) = 0 → (vp_in (gF m 3) 1002 ∧ (((lg_cmp (rdL (gL m 0) (gF m 3)) x1.toInt64) < 0 → (wX6_takeNumber_65 m K)) ∧ (¬ (lg_cmp (rdL (gL m 0) (gF m 3)) x1.toInt64) < 0 → (vp_in (gF m 3) 1002 ∧ (((lg_cmp (rdL (gL m 0) (gF m 3)) x2.toInt64) ≤ 0 → (wX6_takeNumber_70 m K)) ∧ (¬ (lg_cmp (rdL (gL m 0) (gF m 3)) x2.toInt64) ≤ 0 → (wX6_takeNumber_65 m K))))))))
set_option maxRecDepth 100000 in
theorem bX6_takeNumber_28 {E : jE} (hE : jOk E cX6_takeNumber RX6) (hn : E.2.2.2.2 = 3) (hR : jRoom E 1 21) {ad : Nat → Nat} (hA : adOk ad) {r : GW} {b : Nat × Nat} {K : Int32 → MS → Prop} (hK : jRi E .int (KMI ad r K)) {x1 : Int32} {x2 : Int32} {m : MS}  (hw : wX6_takeNumber_28 x1 x2 m K) : J E (mwX ad m r) b [(0, .ref (ad 0)), (1, .int (x1)), (2, .int (x2))] 28 [] := by
  unfold wX6_takeNumber_28 at hw
  refine j_aload_n hE 0 dX6_takeNumber_28 rfl rfl ?_
  refine jm_get hE hA 8 (Nat.le_of_ble_eq_true rfl) q1655 rfl (v := .int (gF m 4)) rfl dX6_takeNumber_29 ?_
  refine j_if_ne hE 70 dX6_takeNumber_32 (by decide) (fun c1 => ?_) (fun c1 => ?_)
  · have hw := hw.1 c1
    refine j_sub [(0, .ref (ad 0))] [0] rfl ?_
    exact bX6_takeNumber_70 hE hn hR hA hK  hw
  · have hw := hw.2 c1
    refine j_aload_n hE 0 dX6_takeNumber_35 rfl rfl ?_
    refine jm_get hE hA 6 (Nat.le_of_ble_eq_true rfl) q1653 rfl (v := .ref (ad 14)) rfl dX6_takeNumber_36 ?_
    refine j_aload_n hE 0 dX6_takeNumber_39 rfl rfl ?_
    refine jm_get hE hA 7 (Nat.le_of_ble_eq_true rfl) q1654 rfl (v := .int (gF m 3)) rfl dX6_takeNumber_40 ?_
    obtain ⟨h2, hw⟩ := hw
    refine jm_lald hE hA 0 (Nat.le_of_ble_eq_true rfl) h2 dX6_takeNumber_43 ?_
    refine j_iload_n hE 1 dX6_takeNumber_44 rfl rfl ?_
    refine j_i2l hE dX6_takeNumber_45 ?_
    refine j_lcmp hE dX6_takeNumber_46 ?_
    refine j_if_lt hE 65 dX6_takeNumber_47 (by decide) (fun c3 => ?_) (fun c3 => ?_)
    · have hw := hw.1 c3
      refine j_sub [(0, .ref (ad 0))] [0] rfl ?_
      exact bX6_takeNumber_65 hE hn hR hA hK  hw
    · have hw := hw.2 c3
      refine j_aload_n hE 0 dX6_takeNumber_50 rfl rfl ?_
      refine jm_get hE hA 6 (Nat.le_of_ble_eq_true rfl) q1653 rfl (v := .ref (ad 14)) rfl dX6_takeNumber_51 ?_
      refine j_aload_n hE 0 dX6_takeNumber_54 rfl rfl ?_
      refine jm_get hE hA 7 (Nat.le_of_ble_eq_true rfl) q1654 rfl (v := .int (gF m 3)) rfl dX6_takeNumber_55 ?_
      obtain ⟨h4, hw⟩ := hw
      refine jm_lald hE hA 0 (Nat.le_of_ble_eq_true rfl) h4 dX6_takeNumber_58 ?_
      refine j_iload_n hE 2 dX6_takeNumber_59 rfl rfl ?_
      refine j_i2l hE dX6_takeNumber_60 ?_
      refine j_lcmp hE dX6_takeNumber_61 ?_
      refine j_if_le hE 70 dX6_takeNumber_62 (by decide) (fun c5 => ?_) (fun c5 => ?_)
      · have hw := hw.1 c5
        refine j_sub [(0, .ref (ad 0))] [0] rfl ?_
        exact bX6_takeNumber_70 hE hn hR hA hK  hw
      · have hw := hw.2 c5
        refine j_sub [(0, .ref (ad 0))] [0] rfl ?_
        exact bX6_takeNumber_65 hE hn hR hA hK  hw
def wX6_takeNumber_0 (x1 : Int32) (x2 : Int32) (m : MS) (K : Int32 → MS → Prop) : Prop :=
  (¬ (gF m 4) = 0 → (wX6_takeNumber_28 x1 x2 m K)) ∧ ((gF m 4) = 0 → (vp_in (gF m 3) 1002 ∧ (((rd (gA m 1) (gF m 3)) = (nI 2) → (wX6_takeNumber_28 x1 x2 m K)) ∧ (¬ (rd (gA m 1) (gF m 3)) = (nI 2) → (wX6_wrong 1 m (fun  m4 => wX6_takeNumber_70 m4 K))))))
set_option maxRecDepth 100000 in
theorem bX6_takeNumber_0 {E : jE} (hE : jOk E cX6_takeNumber RX6) (hn : E.2.2.2.2 = 3) (hR : jRoom E 1 21) {ad : Nat → Nat} (hA : adOk ad) {r : GW} {b : Nat × Nat} {K : Int32 → MS → Prop} (hK : jRi E .int (KMI ad r K)) {x1 : Int32} {x2 : Int32} {m : MS}  (hw : wX6_takeNumber_0 x1 x2 m K) : J E (mwX ad m r) b [(0, .ref (ad 0)), (1, .int (x1)), (2, .int (x2))] 0 [] := by
  unfold wX6_takeNumber_0 at hw
  refine j_aload_n hE 0 dX6_takeNumber_0 rfl rfl ?_
  refine jm_get hE hA 8 (Nat.le_of_ble_eq_true rfl) q1655 rfl (v := .int (gF m 4)) rfl dX6_takeNumber_1 ?_
  refine j_if_ne hE 28 dX6_takeNumber_4 (by decide) (fun c1 => ?_) (fun c1 => ?_)
  · have hw := hw.1 c1
    exact bX6_takeNumber_28 hE hn hR hA hK  hw
  · have hw := hw.2 c1
    refine j_aload_n hE 0 dX6_takeNumber_7 rfl rfl ?_
    refine jm_get hE hA 4 (Nat.le_of_ble_eq_true rfl) q1651 rfl (v := .ref (ad 2)) rfl dX6_takeNumber_8 ?_
    refine j_aload_n hE 0 dX6_takeNumber_11 rfl rfl ?_
    refine jm_get hE hA 7 (Nat.le_of_ble_eq_true rfl) q1654 rfl (v := .int (gF m 3)) rfl dX6_takeNumber_12 ?_
    obtain ⟨h2, hw⟩ := hw
    refine jm_iald hE hA 1 (Nat.le_of_ble_eq_true rfl) h2 dX6_takeNumber_15 ?_
    refine j_iconst hE dX6_takeNumber_16 kc_2 ?_
    refine j_icmp_eq hE 28 dX6_takeNumber_17 (by decide) (fun c3 => ?_) (fun c3 => ?_)
    · have hw := hw.1 c3
      exact bX6_takeNumber_28 hE hn hR hA hK  hw
    · have hw := hw.2 c3
      refine j_aload_n hE 0 dX6_takeNumber_20 rfl rfl ?_
      refine j_iconst hE dX6_takeNumber_21 kc_1 ?_
      refine jm_cV hE hA hR (As := [.int (1)]) (rest := []) (ctX6_wrong E.1.2.1 E.2.2.1 hA _ _ _  _ hw) rfl lkX6_wrong jdX6_wrong ⟨Nat.le_of_ble_eq_true rfl, Nat.le_of_ble_eq_true rfl⟩ rfl (Nat.le_of_ble_eq_true rfl) dX6_takeNumber_22 (fun  m4 hw => ?_)
      refine j_goto hE 70 dX6_takeNumber_25 (by decide) ?_
      refine j_sub [(0, .ref (ad 0))] [0] rfl ?_
      exact bX6_takeNumber_70 hE hn hR hA hK  hw
abbrev wX6_takeNumber := wX6_takeNumber_0
theorem ctX6_takeNumber (l : Launch) (G : gG) {ad : Nat → Nat} (hA : adOk ad) (m0 : MS) (r : GW) (x1 : Int32) (x2 : Int32) (K : Int32 → MS → Prop) (hw : wX6_takeNumber x1 x2 m0 K) : CtI l yX6_takeNumber cX6_takeNumber 3 .int ({ frames := 1, cells := 0, slots := 0, locals := 21 }) G [.ref (ad 0), .int (x1), .int (x2)] (mwX ad m0 r) (KMI ad r K) :=
  CtI.of RX6 plain_X6 rfl (Nat.le_of_ble_eq_true rfl) (fun E hE _ _ hn hR hK => bX6_takeNumber_0 hE hn hR hA hK hw)
theorem jdX6_takeNumber : jD yX6_takeNumber 2 := by decide +kernel
theorem lkX6_takeNumber : GoodIn lw_all (wsV RX6 177 yX6_takeNumber.cls yX6_takeNumber (ws_ yX6_takeNumber cX6_takeNumber 3 (some .int))) := lw_V q1814 q1816 qs73 q129 q1817
def wX6_takeAfter_0 (x1 : Int32) (x2 : Int32) (x3 : Int32) (m : MS) (K : Int32 → MS → Prop) : Prop :=
  wX6_takeWord x1 m (fun  m1 => wX6_takeNumber x2 x3 m1 (fun r2 m3 => K r2 m3))
set_option maxRecDepth 100000 in
theorem bX6_takeAfter_0 {E : jE} (hE : jOk E cX6_takeAfter RX6) (hn : E.2.2.2.2 = 4) (hR : jRoom E 3 64) {ad : Nat → Nat} (hA : adOk ad) {r : GW} {b : Nat × Nat} {K : Int32 → MS → Prop} (hK : jRi E .int (KMI ad r K)) {x1 : Int32} {x2 : Int32} {x3 : Int32} {m : MS}  (hw : wX6_takeAfter_0 x1 x2 x3 m K) : J E (mwX ad m r) b [(0, .ref (ad 0)), (1, .int (x1)), (2, .int (x2)), (3, .int (x3))] 0 [] := by
  unfold wX6_takeAfter_0 at hw
  refine j_aload_n hE 0 dX6_takeAfter_0 rfl rfl ?_
  refine j_iload_n hE 1 dX6_takeAfter_1 rfl rfl ?_
  refine jm_cV hE hA hR (As := [.int (x1)]) (rest := []) (ctX6_takeWord E.1.2.1 E.2.2.1 hA _ _ _  _ hw) rfl lkX6_takeWord jdX6_takeWord ⟨Nat.le_of_ble_eq_true rfl, Nat.le_of_ble_eq_true rfl⟩ rfl (Nat.le_of_ble_eq_true rfl) dX6_takeAfter_2 (fun  m1 hw => ?_)
  refine j_aload_n hE 0 dX6_takeAfter_5 rfl rfl ?_
  refine j_iload_n hE 2 dX6_takeAfter_6 rfl rfl ?_
  refine j_iload_n hE 3 dX6_takeAfter_7 rfl rfl ?_
  refine jm_cI hE hA hR (As := [.int (x2), .int (x3)]) (rest := []) (ctX6_takeNumber E.1.2.1 E.2.2.1 hA _ _ _ _  _ hw) rfl lkX6_takeNumber jdX6_takeNumber ⟨Nat.le_of_ble_eq_true rfl, Nat.le_of_ble_eq_true rfl⟩ rfl (Nat.le_of_ble_eq_true rfl) dX6_takeAfter_8 (fun r2 m3 hw => ?_)
  exact j_iret hE hK dX6_takeAfter_11 rfl ⟨_, rfl, hw⟩
abbrev wX6_takeAfter := wX6_takeAfter_0
theorem ctX6_takeAfter (l : Launch) (G : gG) {ad : Nat → Nat} (hA : adOk ad) (m0 : MS) (r : GW) (x1 : Int32) (x2 : Int32) (x3 : Int32) (K : Int32 → MS → Prop) (hw : wX6_takeAfter x1 x2 x3 m0 K) : CtI l yX6_takeAfter cX6_takeAfter 4 .int ({ frames := 3, cells := 0, slots := 0, locals := 64 }) G [.ref (ad 0), .int (x1), .int (x2), .int (x3)] (mwX ad m0 r) (KMI ad r K) :=
  CtI.of RX6 plain_X6 rfl (Nat.le_of_ble_eq_true rfl) (fun E hE _ _ hn hR hK => bX6_takeAfter_0 hE hn hR hA hK hw)
theorem jdX6_takeAfter : jD yX6_takeAfter 3 := by decide +kernel
theorem lkX6_takeAfter : GoodIn lw_all (wsV RX6 224 yX6_takeAfter.cls yX6_takeAfter (ws_ yX6_takeAfter cX6_takeAfter 4 (some .int))) := lw_V q1802 q1804 qs70 q129 q1805
def wX6_readPane_125 (x1 : Int32) (x2 : Int32) (x3 : Int32) (x4 : Int32) (m : MS) (K : MS → Prop) : Prop :=
  (¬ (gF m 4) = 0 → (K m)) ∧ ((gF m 4) = 0 → (vp_in x1 120 ∧ (∀ m3 : MS, m3 = wA m 3 x1 x2 → (vp_in (x1 + 1) 120 ∧ (∀ m5 : MS, m5 = wA m3 3 (x1 + 1) x3 → (vp_in (x1 + (nI 2)) 120 ∧ (∀ m7 : MS, m7 = wA m5 3 (x1 + (nI 2)) x4 → (K m7))))))))
set_option maxRecDepth 100000 in
theorem bX6_readPane_125 {E : jE} (hE : jOk E cX6_readPane RX6) (hn : E.2.2.2.2 = 6) (hR : jRoom E 4 89) {ad : Nat → Nat} (hA : adOk ad) {r : GW} {b : Nat × Nat} {K : MS → Prop} (hK : jRv E (KMV ad r K)) {x1 : Int32} {x2 : Int32} {x3 : Int32} {x4 : Int32} {m : MS}  (hw : wX6_readPane_125 x1 x2 x3 x4 m K) : J E (mwX ad m r) b [(0, .ref (ad 0)), (1, .int (x1)), (2, .int (x2)), (3, .int (x3)), (4, .int (x4))] 125 [] := by
  unfold wX6_readPane_125 at hw
  refine j_aload_n hE 0 dX6_readPane_125 rfl rfl ?_
  refine jm_get hE hA 8 (Nat.le_of_ble_eq_true rfl) q1655 rfl (v := .int (gF m 4)) rfl dX6_readPane_126 ?_
  refine j_if_ne hE 158 dX6_readPane_129 (by decide) (fun c1 => ?_) (fun c1 => ?_)
  · have hw := hw.1 c1
    exact j_vret hE hK dX6_readPane_158 ⟨_, rfl, hw⟩
  · have hw := hw.2 c1
    refine j_aload_n hE 0 dX6_readPane_132 rfl rfl ?_
    refine jm_get hE hA 10 (Nat.le_of_ble_eq_true rfl) q1657 rfl (v := .ref (ad 4)) rfl dX6_readPane_133 ?_
    refine j_iload_n hE 1 dX6_readPane_136 rfl rfl ?_
    refine j_iload_n hE 2 dX6_readPane_137 rfl rfl ?_
    obtain ⟨h2, hw⟩ := hw
    refine jm_iast hE hA 3 (Nat.le_of_ble_eq_true rfl) h2 dX6_readPane_138 ?_
    refine j_wm (fun m3 e_m3 => ?_)
    have hw := hw m3 e_m3
    refine j_aload_n hE 0 dX6_readPane_139 rfl rfl ?_
    refine jm_get hE hA 10 (Nat.le_of_ble_eq_true rfl) q1657 rfl (v := .ref (ad 4)) rfl dX6_readPane_140 ?_
    refine j_iload_n hE 1 dX6_readPane_143 rfl rfl ?_
    refine j_iconst hE dX6_readPane_144 kc_1 ?_
    refine j_iadd hE dX6_readPane_145 ?_
    refine j_iload_n hE 3 dX6_readPane_146 rfl rfl ?_
    obtain ⟨h4, hw⟩ := hw
    refine jm_iast hE hA 3 (Nat.le_of_ble_eq_true rfl) h4 dX6_readPane_147 ?_
    refine j_wm (fun m5 e_m5 => ?_)
    have hw := hw m5 e_m5
    refine j_aload_n hE 0 dX6_readPane_148 rfl rfl ?_
    refine jm_get hE hA 10 (Nat.le_of_ble_eq_true rfl) q1657 rfl (v := .ref (ad 4)) rfl dX6_readPane_149 ?_
    refine j_iload_n hE 1 dX6_readPane_152 rfl rfl ?_
    refine j_iconst hE dX6_readPane_153 kc_2 ?_
    refine j_iadd hE dX6_readPane_154 ?_
    refine j_iload hE 4 dX6_readPane_155 rfl ?_
    obtain ⟨h6, hw⟩ := hw
    refine jm_iast hE hA 3 (Nat.le_of_ble_eq_true rfl) h6 dX6_readPane_157 ?_
    refine j_wm (fun m7 e_m7 => ?_)
    have hw := hw m7 e_m7
    exact j_vret hE hK dX6_readPane_158 ⟨_, rfl, hw⟩
def wX6_readPane_71 (x1 : Int32) (x2 : Int32) (x3 : Int32) (x4 : Int32) (m : MS) (KL46 : Int32 × MS → Prop) (K : MS → Prop) : Prop :=
  wX6_takeNumber 0 (nI 9) m (fun r1 m2 => (¬ (gF m2 4) = 0 → (∀ v4 : Int32, v4 = x4 ||| (ishl 1 r1) → (KL46 (v4, m2)))) ∧ ((gF m2 4) = 0 → ((¬ ((ishr x4 r1) &&& 1) = 1 → (∀ v6 : Int32, v6 = x4 ||| (ishl 1 r1) → (KL46 (v6, m2)))) ∧ (((ishr x4 r1) &&& 1) = 1 → (∀ m7 : MS, m7 = sF m2 3 ((gF m2 3) - 1) → (wX6_wrong (nI 3) m7 (fun  m8 => ∀ v9 : Int32, v9 = x4 ||| (ishl 1 r1) → (KL46 (v9, m8)))))))))
set_option maxRecDepth 100000 in
theorem bX6_readPane_71 {E : jE} (hE : jOk E cX6_readPane RX6) (hn : E.2.2.2.2 = 6) (hR : jRoom E 4 89) {ad : Nat → Nat} (hA : adOk ad) {r : GW} {b : Nat × Nat} {K : MS → Prop} (hK : jRv E (KMV ad r K)) {x1 : Int32} {x2 : Int32} {x3 : Int32} {x4 : Int32} {m : MS} {KL46 : Int32 × MS → Prop} (ih46 : ∀ s : Int32 × MS, KL46 s → J E (mwX ad (s.2) r) b [(0, .ref (ad 0)), (1, .int (x1)), (2, .int (x2)), (3, .int (x3)), (4, .int (s.1))] 46 []) (hw : wX6_readPane_71 x1 x2 x3 x4 m KL46 K) : J E (mwX ad m r) b [(0, .ref (ad 0)), (1, .int (x1)), (2, .int (x2)), (3, .int (x3)), (4, .int (x4))] 71 [] := by
  unfold wX6_readPane_71 at hw
  refine j_aload_n hE 0 dX6_readPane_71 rfl rfl ?_
  refine j_iconst hE dX6_readPane_72 kc_0 ?_
  refine j_bipush hE dX6_readPane_73 kb_9 ?_
  refine jm_cI hE hA hR (As := [.int (0), .int (nI 9)]) (rest := []) (ctX6_takeNumber E.1.2.1 E.2.2.1 hA _ _ _ _  _ hw) rfl lkX6_takeNumber jdX6_takeNumber ⟨Nat.le_of_ble_eq_true rfl, Nat.le_of_ble_eq_true rfl⟩ rfl (Nat.le_of_ble_eq_true rfl) dX6_readPane_75 (fun r1 m2 hw => ?_)
  refine j_istore (L' := [(5, .int (r1)), (0, .ref (ad 0)), (1, .int (x1)), (2, .int (x2)), (3, .int (x3)), (4, .int (x4))]) hE hn dX6_readPane_78 (Nat.le_of_ble_eq_true rfl) rfl ?_
  refine j_aload_n hE 1 dX6_readPane_80 rfl rfl ?_
  refine jm_get hE hA 8 (Nat.le_of_ble_eq_true rfl) q1655 rfl (v := .int (gF m2 4)) rfl dX6_readPane_81 ?_
  refine j_if_ne hE 113 dX6_readPane_84 (by decide) (fun c3 => ?_) (fun c3 => ?_)
  · have hw := hw.1 c3
    refine j_iload hE 5 dX6_readPane_113 rfl ?_
    refine j_iconst hE dX6_readPane_115 kc_1 ?_
    refine j_iload hE 0 dX6_readPane_116 rfl ?_
    refine j_ishl hE dX6_readPane_118 ?_
    refine j_ior hE dX6_readPane_119 ?_
    refine j_topi (fun v4 e_v4 => ?_)
    have hw := hw v4 e_v4
    refine j_istore (L' := [(4, .int (v4)), (5, .int (r1)), (0, .ref (ad 0)), (1, .int (x1)), (2, .int (x2)), (3, .int (x3))]) hE hn dX6_readPane_120 (Nat.le_of_ble_eq_true rfl) rfl ?_
    refine j_goto hE 46 dX6_readPane_122 (by decide) ?_
    refine j_sub [(0, .ref (ad 0)), (1, .int (x1)), (2, .int (x2)), (3, .int (x3)), (4, .int (v4))] [2, 3, 4, 5, 0] rfl ?_
    have hz := ih46 (v4, m2) hw
    exact hz
  · have hw := hw.2 c3
    refine j_iload hE 5 dX6_readPane_87 rfl ?_
    refine j_iload hE 0 dX6_readPane_89 rfl ?_
    refine j_ishr hE dX6_readPane_91 ?_
    refine j_iconst hE dX6_readPane_92 kc_1 ?_
    refine j_iand hE dX6_readPane_93 ?_
    refine j_iconst hE dX6_readPane_94 kc_1 ?_
    refine j_icmp_ne hE 113 dX6_readPane_95 (by decide) (fun c5 => ?_) (fun c5 => ?_)
    · have hw := hw.1 c5
      refine j_iload hE 5 dX6_readPane_113 rfl ?_
      refine j_iconst hE dX6_readPane_115 kc_1 ?_
      refine j_iload hE 0 dX6_readPane_116 rfl ?_
      refine j_ishl hE dX6_readPane_118 ?_
      refine j_ior hE dX6_readPane_119 ?_
      refine j_topi (fun v6 e_v6 => ?_)
      have hw := hw v6 e_v6
      refine j_istore (L' := [(4, .int (v6)), (5, .int (r1)), (0, .ref (ad 0)), (1, .int (x1)), (2, .int (x2)), (3, .int (x3))]) hE hn dX6_readPane_120 (Nat.le_of_ble_eq_true rfl) rfl ?_
      refine j_goto hE 46 dX6_readPane_122 (by decide) ?_
      refine j_sub [(0, .ref (ad 0)), (1, .int (x1)), (2, .int (x2)), (3, .int (x3)), (4, .int (v6))] [2, 3, 4, 5, 0] rfl ?_
      have hz := ih46 (v6, m2) hw
      exact hz
    · have hw := hw.2 c5
      refine j_aload_n hE 1 dX6_readPane_98 rfl rfl ?_
      refine j_dup hE dX6_readPane_99 rfl ?_
      refine jm_get hE hA 7 (Nat.le_of_ble_eq_true rfl) q1654 rfl (v := .int (gF m2 3)) rfl dX6_readPane_100 ?_
      refine j_iconst hE dX6_readPane_103 kc_1 ?_
      refine j_isub hE dX6_readPane_104 ?_
      refine jm_putF hE hA 7 3 (Nat.le_of_ble_eq_true rfl) q1654 rfl rfl (mset_3 _ _ _) rfl rfl dX6_readPane_105 ?_
      refine j_wm (fun m7 e_m7 => ?_)
      have hw := hw m7 e_m7
      refine j_aload_n hE 1 dX6_readPane_108 rfl rfl ?_
      refine j_iconst hE dX6_readPane_109 kc_3 ?_
      refine jm_cV hE hA hR (As := [.int (nI 3)]) (rest := []) (ctX6_wrong E.1.2.1 E.2.2.1 hA _ _ _  _ hw) rfl lkX6_wrong jdX6_wrong ⟨Nat.le_of_ble_eq_true rfl, Nat.le_of_ble_eq_true rfl⟩ rfl (Nat.le_of_ble_eq_true rfl) dX6_readPane_110 (fun  m8 hw => ?_)
      refine j_iload hE 5 dX6_readPane_113 rfl ?_
      refine j_iconst hE dX6_readPane_115 kc_1 ?_
      refine j_iload hE 0 dX6_readPane_116 rfl ?_
      refine j_ishl hE dX6_readPane_118 ?_
      refine j_ior hE dX6_readPane_119 ?_
      refine j_topi (fun v9 e_v9 => ?_)
      have hw := hw v9 e_v9
      refine j_istore (L' := [(4, .int (v9)), (5, .int (r1)), (0, .ref (ad 0)), (1, .int (x1)), (2, .int (x2)), (3, .int (x3))]) hE hn dX6_readPane_120 (Nat.le_of_ble_eq_true rfl) rfl ?_
      refine j_goto hE 46 dX6_readPane_122 (by decide) ?_
      refine j_sub [(0, .ref (ad 0)), (1, .int (x1)), (2, .int (x2)), (3, .int (x3)), (4, .int (v9))] [2, 3, 4, 5, 0] rfl ?_
      have hz := ih46 (v9, m8) hw
      exact hz
def wX6_readPane_46_b (x1 : Int32) (x2 : Int32) (x3 : Int32) (x4 : Int32) (m : MS) (KL46 : Int32 × MS → Prop) (K : MS → Prop) : Prop :=
  (¬ (gF m 4) = 0 → (wX6_readPane_125 x1 x2 x3 x4 m K)) ∧ ((gF m 4) = 0 → ((x4 = 0 → (wX6_readPane_71 x1 x2 x3 x4 m KL46 K)) ∧ (¬ x4 = 0 → (vp_in (gF m 3) 1002 ∧ ((¬ (rd (gA m 1) (gF m 3)) = (nI 2) → (wX6_readPane_125 x1 x2 x3 x4 m K)) ∧ ((rd (gA m 1) (gF m 3)) = (nI 2) → (wX6_readPane_71 x1 x2 x3 x4 m KL46 K)))))))
def wX6_readPane_46 (x1 : Int32) (x2 : Int32) (x3 : Int32) (x4 : Int32) (m : MS) (K : MS → Prop) : Prop := lfp (σ := Int32 × MS) (fun KL s => wX6_readPane_46_b x1 x2 x3 s.1 s.2 KL K) (x4, m)
set_option maxRecDepth 100000 in
theorem bX6_readPane_46 {E : jE} (hE : jOk E cX6_readPane RX6) (hn : E.2.2.2.2 = 6) (hR : jRoom E 4 89) {ad : Nat → Nat} (hA : adOk ad) {r : GW} {b : Nat × Nat} {K : MS → Prop} (hK : jRv E (KMV ad r K)) {x1 : Int32} {x2 : Int32} {x3 : Int32} {x4 : Int32} {m : MS}  (hw : wX6_readPane_46 x1 x2 x3 x4 m K) : J E (mwX ad m r) b [(0, .ref (ad 0)), (1, .int (x1)), (2, .int (x2)), (3, .int (x3)), (4, .int (x4))] 46 [] := by
  refine lfp_sound (σ := Int32 × MS) (F := fun KL s => wX6_readPane_46_b x1 x2 x3 s.1 s.2 KL K) (P := fun s => J E (mwX ad (s.2) r) b [(0, .ref (ad 0)), (1, .int (x1)), (2, .int (x2)), (3, .int (x3)), (4, .int (s.1))] 46 []) ?_ hw
  clear hw
  rintro KL46 ⟨x4, m⟩ hw ih46
  have hw : wX6_readPane_46_b x1 x2 x3 x4 m KL46 K := hw
  unfold wX6_readPane_46_b at hw
  refine j_aload_n hE 0 dX6_readPane_46 rfl rfl ?_
  refine jm_get hE hA 8 (Nat.le_of_ble_eq_true rfl) q1655 rfl (v := .int (gF m 4)) rfl dX6_readPane_47 ?_
  refine j_if_ne hE 125 dX6_readPane_50 (by decide) (fun c1 => ?_) (fun c1 => ?_)
  · have hw := hw.1 c1
    exact bX6_readPane_125 hE hn hR hA hK  hw
  · have hw := hw.2 c1
    refine j_iload hE 4 dX6_readPane_53 rfl ?_
    refine j_if_eq hE 71 dX6_readPane_55 (by decide) (fun c2 => ?_) (fun c2 => ?_)
    · have hw := hw.1 c2
      exact bX6_readPane_71 hE hn hR hA hK ih46 hw
    · have hw := hw.2 c2
      refine j_aload_n hE 0 dX6_readPane_58 rfl rfl ?_
      refine jm_get hE hA 4 (Nat.le_of_ble_eq_true rfl) q1651 rfl (v := .ref (ad 2)) rfl dX6_readPane_59 ?_
      refine j_aload_n hE 0 dX6_readPane_62 rfl rfl ?_
      refine jm_get hE hA 7 (Nat.le_of_ble_eq_true rfl) q1654 rfl (v := .int (gF m 3)) rfl dX6_readPane_63 ?_
      obtain ⟨h3, hw⟩ := hw
      refine jm_iald hE hA 1 (Nat.le_of_ble_eq_true rfl) h3 dX6_readPane_66 ?_
      refine j_iconst hE dX6_readPane_67 kc_2 ?_
      refine j_icmp_ne hE 125 dX6_readPane_68 (by decide) (fun c4 => ?_) (fun c4 => ?_)
      · have hw := hw.1 c4
        exact bX6_readPane_125 hE hn hR hA hK  hw
      · have hw := hw.2 c4
        exact bX6_readPane_71 hE hn hR hA hK ih46 hw
def wX6_readPane_0 (m : MS) (K : MS → Prop) : Prop :=
  vp_in (nI 60) 120 ∧ (∀ v2 : Int32, v2 = (nI 65) + ((nI 3) * (rd (gA m 3) (nI 60))) → (wX6_readName 0 (nI 6) 0 m (fun  m3 => wX6_takeOne (nI 15) (nI 4) m3 (fun r4 m5 => wX6_takeAfter 1 1 (nI 6) m5 (fun r6 m7 => wX6_takeWord (nI 2) m7 (fun  m8 => wX6_readPane_46 v2 r4 r6 0 m8 K))))))
set_option maxRecDepth 100000 in
theorem bX6_readPane_0 {E : jE} (hE : jOk E cX6_readPane RX6) (hn : E.2.2.2.2 = 6) (hR : jRoom E 4 89) {ad : Nat → Nat} (hA : adOk ad) {r : GW} {b : Nat × Nat} {K : MS → Prop} (hK : jRv E (KMV ad r K)) {m : MS}  (hw : wX6_readPane_0 m K) : J E (mwX ad m r) b [(0, .ref (ad 0))] 0 [] := by
  unfold wX6_readPane_0 at hw
  refine j_bipush hE dX6_readPane_0 kb_65 ?_
  refine j_iconst hE dX6_readPane_2 kc_3 ?_
  refine j_aload_n hE 0 dX6_readPane_3 rfl rfl ?_
  refine jm_get hE hA 10 (Nat.le_of_ble_eq_true rfl) q1657 rfl (v := .ref (ad 4)) rfl dX6_readPane_4 ?_
  refine j_bipush hE dX6_readPane_7 kb_60 ?_
  obtain ⟨h1, hw⟩ := hw
  refine jm_iald hE hA 3 (Nat.le_of_ble_eq_true rfl) h1 dX6_readPane_9 ?_
  refine j_imul hE dX6_readPane_10 ?_
  refine j_iadd hE dX6_readPane_11 ?_
  refine j_topi (fun v2 e_v2 => ?_)
  have hw := hw v2 e_v2
  refine j_istore_n (L' := [(1, .int (v2)), (0, .ref (ad 0))]) hE hn dX6_readPane_12 rfl (Nat.le_of_ble_eq_true rfl) rfl ?_
  refine j_aload_n hE 1 dX6_readPane_13 rfl rfl ?_
  refine j_iconst hE dX6_readPane_14 kc_0 ?_
  refine j_bipush hE dX6_readPane_15 kb_6 ?_
  refine j_iconst hE dX6_readPane_17 kc_0 ?_
  refine jm_cV hE hA hR (As := [.int (0), .int (nI 6), .int (0)]) (rest := []) (ctX6_readName E.1.2.1 E.2.2.1 hA _ _ _ _ _  _ hw) rfl lkX6_readName jdX6_readName ⟨Nat.le_of_ble_eq_true rfl, Nat.le_of_ble_eq_true rfl⟩ rfl (Nat.le_of_ble_eq_true rfl) dX6_readPane_18 (fun  m3 hw => ?_)
  refine j_aload_n hE 1 dX6_readPane_21 rfl rfl ?_
  refine j_bipush hE dX6_readPane_22 kb_15 ?_
  refine j_iconst hE dX6_readPane_24 kc_4 ?_
  refine jm_cI hE hA hR (As := [.int (nI 15), .int (nI 4)]) (rest := []) (ctX6_takeOne E.1.2.1 E.2.2.1 hA _ _ _ _  _ hw) rfl lkX6_takeOne jdX6_takeOne ⟨Nat.le_of_ble_eq_true rfl, Nat.le_of_ble_eq_true rfl⟩ rfl (Nat.le_of_ble_eq_true rfl) dX6_readPane_25 (fun r4 m5 hw => ?_)
  refine j_istore_n (L' := [(2, .int (r4)), (1, .int (v2)), (0, .ref (ad 0))]) hE hn dX6_readPane_28 rfl (Nat.le_of_ble_eq_true rfl) rfl ?_
  refine j_aload_n hE 2 dX6_readPane_29 rfl rfl ?_
  refine j_iconst hE dX6_readPane_30 kc_1 ?_
  refine j_iconst hE dX6_readPane_31 kc_1 ?_
  refine j_bipush hE dX6_readPane_32 kb_6 ?_
  refine jm_cI hE hA hR (As := [.int (1), .int (1), .int (nI 6)]) (rest := []) (ctX6_takeAfter E.1.2.1 E.2.2.1 hA _ _ _ _ _  _ hw) rfl lkX6_takeAfter jdX6_takeAfter ⟨Nat.le_of_ble_eq_true rfl, Nat.le_of_ble_eq_true rfl⟩ rfl (Nat.le_of_ble_eq_true rfl) dX6_readPane_34 (fun r6 m7 hw => ?_)
  refine j_istore_n (L' := [(3, .int (r6)), (2, .int (r4)), (1, .int (v2)), (0, .ref (ad 0))]) hE hn dX6_readPane_37 rfl (Nat.le_of_ble_eq_true rfl) rfl ?_
  refine j_aload_n hE 3 dX6_readPane_38 rfl rfl ?_
  refine j_iconst hE dX6_readPane_39 kc_2 ?_
  refine jm_cV hE hA hR (As := [.int (nI 2)]) (rest := []) (ctX6_takeWord E.1.2.1 E.2.2.1 hA _ _ _  _ hw) rfl lkX6_takeWord jdX6_takeWord ⟨Nat.le_of_ble_eq_true rfl, Nat.le_of_ble_eq_true rfl⟩ rfl (Nat.le_of_ble_eq_true rfl) dX6_readPane_40 (fun  m8 hw => ?_)
  refine j_iconst hE dX6_readPane_43 kc_0 ?_
  refine j_istore (L' := [(4, .int (0)), (3, .int (r6)), (2, .int (r4)), (1, .int (v2)), (0, .ref (ad 0))]) hE hn dX6_readPane_44 (Nat.le_of_ble_eq_true rfl) rfl ?_
  refine j_sub [(0, .ref (ad 0)), (1, .int (v2)), (2, .int (r4)), (3, .int (r6)), (4, .int (0))] [4, 3, 2, 1, 0] rfl ?_
  exact bX6_readPane_46 hE hn hR hA hK  hw
abbrev wX6_readPane := wX6_readPane_0
theorem ctX6_readPane (l : Launch) (G : gG) {ad : Nat → Nat} (hA : adOk ad) (m0 : MS) (r : GW)  (K : MS → Prop) (hw : wX6_readPane m0 K) : CtV l yX6_readPane cX6_readPane 6 ({ frames := 4, cells := 0, slots := 0, locals := 89 }) G [.ref (ad 0)] (mwX ad m0 r) (KMV ad r K) :=
  CtV.of RX6 plain_X6 rfl (Nat.le_of_ble_eq_true rfl) (fun E hE _ _ hn hR hK => bX6_readPane_0 hE hn hR hA hK hw)
theorem jdX6_readPane : jD yX6_readPane 0 := by decide +kernel
theorem lkX6_readPane : GoodIn lw_all (wsV RX6 217 yX6_readPane.cls yX6_readPane (ws_ yX6_readPane cX6_readPane 6 none)) := lw_V q1774 q1776 qs63 q129 q1777
def wX6_readLight_64 (x1 : Int32) (x2 : Int32) (m : MS) (KL2 : Int32 × MS → Prop) (K : MS → Prop) : Prop :=
  (¬ (gF m 4) = 0 → (KL2 (x1, m))) ∧ ((gF m 4) = 0 → (vp_in ((nI 93) + x1) 120 ∧ (∀ m3 : MS, m3 = wA m 3 ((nI 93) + x1) x2 → (KL2 (x1 + 1, m3)))))
set_option maxRecDepth 100000 in
theorem bX6_readLight_64 {E : jE} (hE : jOk E cX6_readLight RX6) (hn : E.2.2.2.2 = 3) (hR : jRoom E 2 43) {ad : Nat → Nat} (hA : adOk ad) {r : GW} {b : Nat × Nat} {K : MS → Prop} (hK : jRv E (KMV ad r K)) {x1 : Int32} {x2 : Int32} {m : MS} {KL2 : Int32 × MS → Prop} (ih2 : ∀ s : Int32 × MS, KL2 s → J E (mwX ad (s.2) r) b [(0, .ref (ad 0)), (1, .int (s.1))] 2 []) (hw : wX6_readLight_64 x1 x2 m KL2 K) : J E (mwX ad m r) b [(0, .ref (ad 0)), (1, .int (x1)), (2, .int (x2))] 64 [] := by
  unfold wX6_readLight_64 at hw
  refine j_aload_n hE 0 dX6_readLight_64 rfl rfl ?_
  refine jm_get hE hA 8 (Nat.le_of_ble_eq_true rfl) q1655 rfl (v := .int (gF m 4)) rfl dX6_readLight_65 ?_
  refine j_if_ne hE 84 dX6_readLight_68 (by decide) (fun c1 => ?_) (fun c1 => ?_)
  · have hw := hw.1 c1
    refine j_goto hE 2 dX6_readLight_84 (by decide) ?_
    refine j_sub [(0, .ref (ad 0)), (1, .int (x1))] [0, 1] rfl ?_
    have hz := ih2 (x1, m) hw
    exact hz
  · have hw := hw.2 c1
    refine j_aload_n hE 0 dX6_readLight_71 rfl rfl ?_
    refine jm_get hE hA 10 (Nat.le_of_ble_eq_true rfl) q1657 rfl (v := .ref (ad 4)) rfl dX6_readLight_72 ?_
    refine j_bipush hE dX6_readLight_75 kb_93 ?_
    refine j_iload_n hE 1 dX6_readLight_77 rfl rfl ?_
    refine j_iadd hE dX6_readLight_78 ?_
    refine j_iload_n hE 2 dX6_readLight_79 rfl rfl ?_
    obtain ⟨h2, hw⟩ := hw
    refine jm_iast hE hA 3 (Nat.le_of_ble_eq_true rfl) h2 dX6_readLight_80 ?_
    refine j_wm (fun m3 e_m3 => ?_)
    have hw := hw m3 e_m3
    refine j_iinc (L' := [(1, .int (x1 + 1)), (0, .ref (ad 0)), (2, .int (x2))]) hE hn 1 dX6_readLight_81 rfl (congrArg (x1 + ·) kc_1) (Nat.le_of_ble_eq_true rfl) rfl ?_
    refine j_goto hE 2 dX6_readLight_84 (by decide) ?_
    refine j_sub [(0, .ref (ad 0)), (1, .int (x1 + 1))] [1, 0] rfl ?_
    have hz := ih2 (x1 + 1, m3) hw
    exact hz
def wX6_readLight_26 (x1 : Int32) (m : MS) (KL2 : Int32 × MS → Prop) (K : MS → Prop) : Prop :=
  wX6_takeNumber 0 1 m (fun r1 m2 => (¬ (gF m2 4) = 0 → (wX6_readLight_64 x1 r1 m2 KL2 K)) ∧ ((gF m2 4) = 0 → ((¬ x1 = (nI 12) → (wX6_readLight_64 x1 r1 m2 KL2 K)) ∧ (x1 = (nI 12) → (∀ m5 : MS, m5 = sF m2 3 ((gF m2 3) - 1) → (wX6_wrong (nI 5) m5 (fun  m6 => KL2 (x1, m6))))))))
set_option maxRecDepth 100000 in
theorem bX6_readLight_26 {E : jE} (hE : jOk E cX6_readLight RX6) (hn : E.2.2.2.2 = 3) (hR : jRoom E 2 43) {ad : Nat → Nat} (hA : adOk ad) {r : GW} {b : Nat × Nat} {K : MS → Prop} (hK : jRv E (KMV ad r K)) {x1 : Int32} {m : MS} {KL2 : Int32 × MS → Prop} (ih2 : ∀ s : Int32 × MS, KL2 s → J E (mwX ad (s.2) r) b [(0, .ref (ad 0)), (1, .int (s.1))] 2 []) (hw : wX6_readLight_26 x1 m KL2 K) : J E (mwX ad m r) b [(0, .ref (ad 0)), (1, .int (x1))] 26 [] := by
  unfold wX6_readLight_26 at hw
  refine j_aload_n hE 0 dX6_readLight_26 rfl rfl ?_
  refine j_iconst hE dX6_readLight_27 kc_0 ?_
  refine j_iconst hE dX6_readLight_28 kc_1 ?_
  refine jm_cI hE hA hR (As := [.int (0), .int (1)]) (rest := []) (ctX6_takeNumber E.1.2.1 E.2.2.1 hA _ _ _ _  _ hw) rfl lkX6_takeNumber jdX6_takeNumber ⟨Nat.le_of_ble_eq_true rfl, Nat.le_of_ble_eq_true rfl⟩ rfl (Nat.le_of_ble_eq_true rfl) dX6_readLight_29 (fun r1 m2 hw => ?_)
  refine j_istore_n (L' := [(2, .int (r1)), (0, .ref (ad 0)), (1, .int (x1))]) hE hn dX6_readLight_32 rfl (Nat.le_of_ble_eq_true rfl) rfl ?_
  refine j_aload_n hE 1 dX6_readLight_33 rfl rfl ?_
  refine jm_get hE hA 8 (Nat.le_of_ble_eq_true rfl) q1655 rfl (v := .int (gF m2 4)) rfl dX6_readLight_34 ?_
  refine j_if_ne hE 64 dX6_readLight_37 (by decide) (fun c3 => ?_) (fun c3 => ?_)
  · have hw := hw.1 c3
    refine j_sub [(0, .ref (ad 0)), (1, .int (x1)), (2, .int (r1))] [1, 2, 0] rfl ?_
    exact bX6_readLight_64 hE hn hR hA hK ih2 hw
  · have hw := hw.2 c3
    refine j_iload_n hE 2 dX6_readLight_40 rfl rfl ?_
    refine j_bipush hE dX6_readLight_41 kb_12 ?_
    refine j_icmp_ne hE 64 dX6_readLight_43 (by decide) (fun c4 => ?_) (fun c4 => ?_)
    · have hw := hw.1 c4
      refine j_sub [(0, .ref (ad 0)), (1, .int (x1)), (2, .int (r1))] [1, 2, 0] rfl ?_
      exact bX6_readLight_64 hE hn hR hA hK ih2 hw
    · have hw := hw.2 c4
      refine j_aload_n hE 1 dX6_readLight_46 rfl rfl ?_
      refine j_dup hE dX6_readLight_47 rfl ?_
      refine jm_get hE hA 7 (Nat.le_of_ble_eq_true rfl) q1654 rfl (v := .int (gF m2 3)) rfl dX6_readLight_48 ?_
      refine j_iconst hE dX6_readLight_51 kc_1 ?_
      refine j_isub hE dX6_readLight_52 ?_
      refine jm_putF hE hA 7 3 (Nat.le_of_ble_eq_true rfl) q1654 rfl rfl (mset_3 _ _ _) rfl rfl dX6_readLight_53 ?_
      refine j_wm (fun m5 e_m5 => ?_)
      have hw := hw m5 e_m5
      refine j_aload_n hE 1 dX6_readLight_56 rfl rfl ?_
      refine j_iconst hE dX6_readLight_57 kc_5 ?_
      refine jm_cV hE hA hR (As := [.int (nI 5)]) (rest := []) (ctX6_wrong E.1.2.1 E.2.2.1 hA _ _ _  _ hw) rfl lkX6_wrong jdX6_wrong ⟨Nat.le_of_ble_eq_true rfl, Nat.le_of_ble_eq_true rfl⟩ rfl (Nat.le_of_ble_eq_true rfl) dX6_readLight_58 (fun  m6 hw => ?_)
      refine j_goto hE 84 dX6_readLight_61 (by decide) ?_
      refine j_goto hE 2 dX6_readLight_84 (by decide) ?_
      refine j_sub [(0, .ref (ad 0)), (1, .int (x1))] [1, 2] rfl ?_
      have hz := ih2 (x1, m6) hw
      exact hz
def wX6_readLight_2_b (x1 : Int32) (m : MS) (KL2 : Int32 × MS → Prop) (K : MS → Prop) : Prop :=
  (¬ (gF m 4) = 0 → (vp_in (nI 63) 120 ∧ (∀ m3 : MS, m3 = wA m 3 (nI 63) x1 → (K m3)))) ∧ ((gF m 4) = 0 → ((x1 = 0 → (wX6_readLight_26 x1 m KL2 K)) ∧ (¬ x1 = 0 → (vp_in (gF m 3) 1002 ∧ ((¬ (rd (gA m 1) (gF m 3)) = (nI 2) → (vp_in (nI 63) 120 ∧ (∀ m8 : MS, m8 = wA m 3 (nI 63) x1 → (K m8)))) ∧ ((rd (gA m 1) (gF m 3)) = (nI 2) → (wX6_readLight_26 x1 m KL2 K)))))))
def wX6_readLight_2 (x1 : Int32) (m : MS) (K : MS → Prop) : Prop := lfp (σ := Int32 × MS) (fun KL s => wX6_readLight_2_b s.1 s.2 KL K) (x1, m)
set_option maxRecDepth 100000 in
theorem bX6_readLight_2 {E : jE} (hE : jOk E cX6_readLight RX6) (hn : E.2.2.2.2 = 3) (hR : jRoom E 2 43) {ad : Nat → Nat} (hA : adOk ad) {r : GW} {b : Nat × Nat} {K : MS → Prop} (hK : jRv E (KMV ad r K)) {x1 : Int32} {m : MS}  (hw : wX6_readLight_2 x1 m K) : J E (mwX ad m r) b [(0, .ref (ad 0)), (1, .int (x1))] 2 [] := by
  refine lfp_sound (σ := Int32 × MS) (F := fun KL s => wX6_readLight_2_b s.1 s.2 KL K) (P := fun s => J E (mwX ad (s.2) r) b [(0, .ref (ad 0)), (1, .int (s.1))] 2 []) ?_ hw
  clear hw
  rintro KL2 ⟨x1, m⟩ hw ih2
  have hw : wX6_readLight_2_b x1 m KL2 K := hw
  unfold wX6_readLight_2_b at hw
  refine j_aload_n hE 0 dX6_readLight_2 rfl rfl ?_
  refine jm_get hE hA 8 (Nat.le_of_ble_eq_true rfl) q1655 rfl (v := .int (gF m 4)) rfl dX6_readLight_3 ?_
  refine j_if_ne hE 87 dX6_readLight_6 (by decide) (fun c1 => ?_) (fun c1 => ?_)
  · have hw := hw.1 c1
    refine j_aload_n hE 0 dX6_readLight_87 rfl rfl ?_
    refine jm_get hE hA 10 (Nat.le_of_ble_eq_true rfl) q1657 rfl (v := .ref (ad 4)) rfl dX6_readLight_88 ?_
    refine j_bipush hE dX6_readLight_91 kb_63 ?_
    refine j_iload_n hE 1 dX6_readLight_93 rfl rfl ?_
    obtain ⟨h2, hw⟩ := hw
    refine jm_iast hE hA 3 (Nat.le_of_ble_eq_true rfl) h2 dX6_readLight_94 ?_
    refine j_wm (fun m3 e_m3 => ?_)
    have hw := hw m3 e_m3
    exact j_vret hE hK dX6_readLight_95 ⟨_, rfl, hw⟩
  · have hw := hw.2 c1
    refine j_iload_n hE 1 dX6_readLight_9 rfl rfl ?_
    refine j_if_eq hE 26 dX6_readLight_10 (by decide) (fun c4 => ?_) (fun c4 => ?_)
    · have hw := hw.1 c4
      exact bX6_readLight_26 hE hn hR hA hK ih2 hw
    · have hw := hw.2 c4
      refine j_aload_n hE 0 dX6_readLight_13 rfl rfl ?_
      refine jm_get hE hA 4 (Nat.le_of_ble_eq_true rfl) q1651 rfl (v := .ref (ad 2)) rfl dX6_readLight_14 ?_
      refine j_aload_n hE 0 dX6_readLight_17 rfl rfl ?_
      refine jm_get hE hA 7 (Nat.le_of_ble_eq_true rfl) q1654 rfl (v := .int (gF m 3)) rfl dX6_readLight_18 ?_
      obtain ⟨h5, hw⟩ := hw
      refine jm_iald hE hA 1 (Nat.le_of_ble_eq_true rfl) h5 dX6_readLight_21 ?_
      refine j_iconst hE dX6_readLight_22 kc_2 ?_
      refine j_icmp_ne hE 87 dX6_readLight_23 (by decide) (fun c6 => ?_) (fun c6 => ?_)
      · have hw := hw.1 c6
        refine j_aload_n hE 0 dX6_readLight_87 rfl rfl ?_
        refine jm_get hE hA 10 (Nat.le_of_ble_eq_true rfl) q1657 rfl (v := .ref (ad 4)) rfl dX6_readLight_88 ?_
        refine j_bipush hE dX6_readLight_91 kb_63 ?_
        refine j_iload_n hE 1 dX6_readLight_93 rfl rfl ?_
        obtain ⟨h7, hw⟩ := hw
        refine jm_iast hE hA 3 (Nat.le_of_ble_eq_true rfl) h7 dX6_readLight_94 ?_
        refine j_wm (fun m8 e_m8 => ?_)
        have hw := hw m8 e_m8
        exact j_vret hE hK dX6_readLight_95 ⟨_, rfl, hw⟩
      · have hw := hw.2 c6
        exact bX6_readLight_26 hE hn hR hA hK ih2 hw
def wX6_readLight_0 (m : MS) (K : MS → Prop) : Prop :=
  wX6_readLight_2 0 m K
set_option maxRecDepth 100000 in
theorem bX6_readLight_0 {E : jE} (hE : jOk E cX6_readLight RX6) (hn : E.2.2.2.2 = 3) (hR : jRoom E 2 43) {ad : Nat → Nat} (hA : adOk ad) {r : GW} {b : Nat × Nat} {K : MS → Prop} (hK : jRv E (KMV ad r K)) {m : MS}  (hw : wX6_readLight_0 m K) : J E (mwX ad m r) b [(0, .ref (ad 0))] 0 [] := by
  unfold wX6_readLight_0 at hw
  refine j_iconst hE dX6_readLight_0 kc_0 ?_
  refine j_istore_n (L' := [(1, .int (0)), (0, .ref (ad 0))]) hE hn dX6_readLight_1 rfl (Nat.le_of_ble_eq_true rfl) rfl ?_
  refine j_sub [(0, .ref (ad 0)), (1, .int (0))] [1, 0] rfl ?_
  exact bX6_readLight_2 hE hn hR hA hK  hw
abbrev wX6_readLight := wX6_readLight_0
theorem ctX6_readLight (l : Launch) (G : gG) {ad : Nat → Nat} (hA : adOk ad) (m0 : MS) (r : GW)  (K : MS → Prop) (hw : wX6_readLight m0 K) : CtV l yX6_readLight cX6_readLight 3 ({ frames := 2, cells := 0, slots := 0, locals := 43 }) G [.ref (ad 0)] (mwX ad m0 r) (KMV ad r K) :=
  CtV.of RX6 plain_X6 rfl (Nat.le_of_ble_eq_true rfl) (fun E hE _ _ hn hR hK => bX6_readLight_0 hE hn hR hA hK hw)
theorem jdX6_readLight : jD yX6_readLight 0 := by decide +kernel
theorem lkX6_readLight : GoodIn lw_all (wsV RX6 234 yX6_readLight.cls yX6_readLight (ws_ yX6_readLight cX6_readLight 3 none)) := lw_V q1822 q1824 qs75 q129 q1825
def wX6_isSign_0 (x1 : Int32) (m0 : MS) (K : Int32 → Prop) : Prop :=
  (¬ (gF m0 4) = 0 → (K 0)) ∧ ((gF m0 4) = 0 → (vp_in (gF m0 3) 1002 ∧ ((¬ (rd (gA m0 1) (gF m0 3)) = (nI 3) → (K 0)) ∧ ((rd (gA m0 1) (gF m0 3)) = (nI 3) → (vp_in (gF m0 3) 1002 ∧ ((¬ (lg_cmp (rdL (gL m0 0) (gF m0 3)) x1.toInt64) = 0 → (K 0)) ∧ ((lg_cmp (rdL (gL m0 0) (gF m0 3)) x1.toInt64) = 0 → (K 1))))))))
set_option maxRecDepth 100000 in
theorem bX6_isSign_0 {E : jE} (hE : jOk E cX6_isSign RX6) (hn : E.2.2.2.2 = 2) (hR : jRoom E 0 0) {ad : Nat → Nat} (hA : adOk ad) {r : GW} {m0 : MS} {b : Nat × Nat} {K : Int32 → Prop} (hK : jRi E .boolean (KPI (mwX ad m0 r) K)) {x1 : Int32}  (hw : wX6_isSign_0 x1 m0 K) : J E (mwX ad m0 r) b [(0, .ref (ad 0)), (1, .int (x1))] 0 [] := by
  unfold wX6_isSign_0 at hw
  refine j_aload_n hE 0 dX6_isSign_0 rfl rfl ?_
  refine jm_get hE hA 8 (Nat.le_of_ble_eq_true rfl) q1655 rfl (v := .int (gF m0 4)) rfl dX6_isSign_1 ?_
  refine j_if_ne hE 39 dX6_isSign_4 (by decide) (fun c1 => ?_) (fun c1 => ?_)
  · have hw := hw.1 c1
    refine j_iconst hE dX6_isSign_39 kc_0 ?_
    exact j_iret hE hK dX6_isSign_40 rfl ⟨rfl, hw⟩
  · have hw := hw.2 c1
    refine j_aload_n hE 0 dX6_isSign_7 rfl rfl ?_
    refine jm_get hE hA 4 (Nat.le_of_ble_eq_true rfl) q1651 rfl (v := .ref (ad 2)) rfl dX6_isSign_8 ?_
    refine j_aload_n hE 0 dX6_isSign_11 rfl rfl ?_
    refine jm_get hE hA 7 (Nat.le_of_ble_eq_true rfl) q1654 rfl (v := .int (gF m0 3)) rfl dX6_isSign_12 ?_
    obtain ⟨h2, hw⟩ := hw
    refine jm_iald hE hA 1 (Nat.le_of_ble_eq_true rfl) h2 dX6_isSign_15 ?_
    refine j_iconst hE dX6_isSign_16 kc_3 ?_
    refine j_icmp_ne hE 39 dX6_isSign_17 (by decide) (fun c3 => ?_) (fun c3 => ?_)
    · have hw := hw.1 c3
      refine j_iconst hE dX6_isSign_39 kc_0 ?_
      exact j_iret hE hK dX6_isSign_40 rfl ⟨rfl, hw⟩
    · have hw := hw.2 c3
      refine j_aload_n hE 0 dX6_isSign_20 rfl rfl ?_
      refine jm_get hE hA 6 (Nat.le_of_ble_eq_true rfl) q1653 rfl (v := .ref (ad 14)) rfl dX6_isSign_21 ?_
      refine j_aload_n hE 0 dX6_isSign_24 rfl rfl ?_
      refine jm_get hE hA 7 (Nat.le_of_ble_eq_true rfl) q1654 rfl (v := .int (gF m0 3)) rfl dX6_isSign_25 ?_
      obtain ⟨h4, hw⟩ := hw
      refine jm_lald hE hA 0 (Nat.le_of_ble_eq_true rfl) h4 dX6_isSign_28 ?_
      refine j_iload_n hE 1 dX6_isSign_29 rfl rfl ?_
      refine j_i2l hE dX6_isSign_30 ?_
      refine j_lcmp hE dX6_isSign_31 ?_
      refine j_if_ne hE 39 dX6_isSign_32 (by decide) (fun c5 => ?_) (fun c5 => ?_)
      · have hw := hw.1 c5
        refine j_iconst hE dX6_isSign_39 kc_0 ?_
        exact j_iret hE hK dX6_isSign_40 rfl ⟨rfl, hw⟩
      · have hw := hw.2 c5
        refine j_iconst hE dX6_isSign_35 kc_1 ?_
        refine j_goto hE 40 dX6_isSign_36 (by decide) ?_
        exact j_iret hE hK dX6_isSign_40 rfl ⟨rfl, hw⟩
abbrev wX6_isSign := wX6_isSign_0
theorem ctX6_isSign (l : Launch) (G : gG) {ad : Nat → Nat} (hA : adOk ad) (m0 : MS) (r : GW) (x1 : Int32) (K : Int32 → Prop) (hw : wX6_isSign x1 m0 K) : CtI l yX6_isSign cX6_isSign 2 .boolean ({ frames := 0, cells := 0, slots := 0, locals := 0 }) G [.ref (ad 0), .int (x1)] (mwX ad m0 r) (KPI (mwX ad m0 r) K) :=
  CtI.of RX6 plain_X6 rfl (Nat.le_of_ble_eq_true rfl) (fun E hE _ _ hn hR hK => bX6_isSign_0 hE hn hR hA hK hw)
theorem jdX6_isSign : jD yX6_isSign 1 := by decide +kernel
theorem lkX6_isSign : GoodIn lw_all (wsV RX6 162 yX6_isSign.cls yX6_isSign (ws_ yX6_isSign cX6_isSign 2 (some .boolean))) := lw_V q1846 q1848 qs81 q129 q1849
def wX6_emit_0 (x1 : Int32) (x2 : Int32) (m : MS) (K : MS → Prop) : Prop :=
  vp_in ((nI 1100) + (gF m 5)) 2200 ∧ (∀ m2 : MS, m2 = wA m 4 ((nI 1100) + (gF m 5)) x1 → (vp_in ((nI 1100) + (gF m2 5)) 2200 ∧ (∀ m4 : MS, m4 = wA m2 5 ((nI 1100) + (gF m2 5)) x2 → (∀ m5 : MS, m5 = sF m4 5 ((gF m4 5) + 1) → (K m5)))))
set_option maxRecDepth 100000 in
theorem bX6_emit_0 {E : jE} (hE : jOk E cX6_emit RX6) (hn : E.2.2.2.2 = 3) (hR : jRoom E 0 0) {ad : Nat → Nat} (hA : adOk ad) {r : GW} {b : Nat × Nat} {K : MS → Prop} (hK : jRv E (KMV ad r K)) {x1 : Int32} {x2 : Int32} {m : MS}  (hw : wX6_emit_0 x1 x2 m K) : J E (mwX ad m r) b [(0, .ref (ad 0)), (1, .int (x1)), (2, .int (x2))] 0 [] := by
  unfold wX6_emit_0 at hw
  refine j_aload_n hE 0 dX6_emit_0 rfl rfl ?_
  refine jm_get hE hA 11 (Nat.le_of_ble_eq_true rfl) q1658 rfl (v := .ref (ad 5)) rfl dX6_emit_1 ?_
  refine j_sipush hE dX6_emit_4 ks_1100 ?_
  refine j_aload_n hE 0 dX6_emit_7 rfl rfl ?_
  refine jm_get hE hA 13 (Nat.le_of_ble_eq_true rfl) q1660 rfl (v := .int (gF m 5)) rfl dX6_emit_8 ?_
  refine j_iadd hE dX6_emit_11 ?_
  refine j_iload_n hE 1 dX6_emit_12 rfl rfl ?_
  obtain ⟨h1, hw⟩ := hw
  refine jm_iast hE hA 4 (Nat.le_of_ble_eq_true rfl) h1 dX6_emit_13 ?_
  refine j_wm (fun m2 e_m2 => ?_)
  have hw := hw m2 e_m2
  refine j_aload_n hE 0 dX6_emit_14 rfl rfl ?_
  refine jm_get hE hA 12 (Nat.le_of_ble_eq_true rfl) q1659 rfl (v := .ref (ad 6)) rfl dX6_emit_15 ?_
  refine j_sipush hE dX6_emit_18 ks_1100 ?_
  refine j_aload_n hE 0 dX6_emit_21 rfl rfl ?_
  refine jm_get hE hA 13 (Nat.le_of_ble_eq_true rfl) q1660 rfl (v := .int (gF m2 5)) rfl dX6_emit_22 ?_
  refine j_iadd hE dX6_emit_25 ?_
  refine j_iload_n hE 2 dX6_emit_26 rfl rfl ?_
  obtain ⟨h3, hw⟩ := hw
  refine jm_iast hE hA 5 (Nat.le_of_ble_eq_true rfl) h3 dX6_emit_27 ?_
  refine j_wm (fun m4 e_m4 => ?_)
  have hw := hw m4 e_m4
  refine j_aload_n hE 0 dX6_emit_28 rfl rfl ?_
  refine j_dup hE dX6_emit_29 rfl ?_
  refine jm_get hE hA 13 (Nat.le_of_ble_eq_true rfl) q1660 rfl (v := .int (gF m4 5)) rfl dX6_emit_30 ?_
  refine j_iconst hE dX6_emit_33 kc_1 ?_
  refine j_iadd hE dX6_emit_34 ?_
  refine jm_putF hE hA 13 5 (Nat.le_of_ble_eq_true rfl) q1660 rfl rfl (mset_5 _ _ _) rfl rfl dX6_emit_35 ?_
  refine j_wm (fun m5 e_m5 => ?_)
  have hw := hw m5 e_m5
  exact j_vret hE hK dX6_emit_38 ⟨_, rfl, hw⟩
abbrev wX6_emit := wX6_emit_0
theorem ctX6_emit (l : Launch) (G : gG) {ad : Nat → Nat} (hA : adOk ad) (m0 : MS) (r : GW) (x1 : Int32) (x2 : Int32) (K : MS → Prop) (hw : wX6_emit x1 x2 m0 K) : CtV l yX6_emit cX6_emit 3 ({ frames := 0, cells := 0, slots := 0, locals := 0 }) G [.ref (ad 0), .int (x1), .int (x2)] (mwX ad m0 r) (KMV ad r K) :=
  CtV.of RX6 plain_X6 rfl (Nat.le_of_ble_eq_true rfl) (fun E hE _ _ hn hR hK => bX6_emit_0 hE hn hR hA hK hw)
theorem jdX6_emit : jD yX6_emit 2 := by decide +kernel
theorem lkX6_emit : GoodIn lw_all (wsV RX6 240 yX6_emit.cls yX6_emit (ws_ yX6_emit cX6_emit 3 none)) := lw_V q1850 q1852 qs82 q129 q1853
def wX6_hasSign_0 (x1 : Int32) (m : MS) (K : Int32 → MS → Prop) : Prop :=
  wX6_isSign x1 m (fun r1 => (r1 = 0 → (∀ m3 : MS, m3 = sF m 3 ((gF m 3) + 0) → (narrow .boolean (.int r1) = .int r1 ∧ K r1 m3))) ∧ (¬ r1 = 0 → (∀ m4 : MS, m4 = sF m 3 ((gF m 3) + 1) → (narrow .boolean (.int r1) = .int r1 ∧ K r1 m4))))
set_option maxRecDepth 100000 in
theorem bX6_hasSign_0 {E : jE} (hE : jOk E cX6_hasSign RX6) (hn : E.2.2.2.2 = 3) (hR : jRoom E 1 21) {ad : Nat → Nat} (hA : adOk ad) {r : GW} {b : Nat × Nat} {K : Int32 → MS → Prop} (hK : jRi E .boolean (KMI ad r K)) {x1 : Int32} {m : MS}  (hw : wX6_hasSign_0 x1 m K) : J E (mwX ad m r) b [(0, .ref (ad 0)), (1, .int (x1))] 0 [] := by
  unfold wX6_hasSign_0 at hw
  refine j_aload_n hE 0 dX6_hasSign_0 rfl rfl ?_
  refine j_iload_n hE 1 dX6_hasSign_1 rfl rfl ?_
  refine jm_pI hE hA hR (As := [.int (x1)]) (rest := []) (ctX6_isSign E.1.2.1 E.2.2.1 hA _ _ _  _ hw) rfl lkX6_isSign jdX6_isSign ⟨Nat.le_of_ble_eq_true rfl, Nat.le_of_ble_eq_true rfl⟩ rfl (Nat.le_of_ble_eq_true rfl) dX6_hasSign_2 (fun r1 hw => ?_)
  refine j_istore_n (L' := [(2, .int (r1)), (0, .ref (ad 0)), (1, .int (x1))]) hE hn dX6_hasSign_5 rfl (Nat.le_of_ble_eq_true rfl) rfl ?_
  refine j_aload_n hE 1 dX6_hasSign_6 rfl rfl ?_
  refine j_dup hE dX6_hasSign_7 rfl ?_
  refine jm_get hE hA 7 (Nat.le_of_ble_eq_true rfl) q1654 rfl (v := .int (gF m 3)) rfl dX6_hasSign_8 ?_
  refine j_iload_n hE 0 dX6_hasSign_11 rfl rfl ?_
  refine j_if_eq hE 19 dX6_hasSign_12 (by decide) (fun c2 => ?_) (fun c2 => ?_)
  · have hw := hw.1 c2
    refine j_iconst hE dX6_hasSign_19 kc_0 ?_
    refine j_iadd hE dX6_hasSign_20 ?_
    refine jm_putF hE hA 7 3 (Nat.le_of_ble_eq_true rfl) q1654 rfl rfl (mset_3 _ _ _) rfl rfl dX6_hasSign_21 ?_
    refine j_wm (fun m3 e_m3 => ?_)
    have hw := hw m3 e_m3
    refine j_iload_n hE 0 dX6_hasSign_24 rfl rfl ?_
    obtain ⟨hz, hw⟩ := hw
    exact j_iret hE hK dX6_hasSign_25 hz ⟨_, rfl, hw⟩
  · have hw := hw.2 c2
    refine j_iconst hE dX6_hasSign_15 kc_1 ?_
    refine j_goto hE 20 dX6_hasSign_16 (by decide) ?_
    refine j_iadd hE dX6_hasSign_20 ?_
    refine jm_putF hE hA 7 3 (Nat.le_of_ble_eq_true rfl) q1654 rfl rfl (mset_3 _ _ _) rfl rfl dX6_hasSign_21 ?_
    refine j_wm (fun m4 e_m4 => ?_)
    have hw := hw m4 e_m4
    refine j_iload_n hE 0 dX6_hasSign_24 rfl rfl ?_
    obtain ⟨hz, hw⟩ := hw
    exact j_iret hE hK dX6_hasSign_25 hz ⟨_, rfl, hw⟩
abbrev wX6_hasSign := wX6_hasSign_0
theorem ctX6_hasSign (l : Launch) (G : gG) {ad : Nat → Nat} (hA : adOk ad) (m0 : MS) (r : GW) (x1 : Int32) (K : Int32 → MS → Prop) (hw : wX6_hasSign x1 m0 K) : CtI l yX6_hasSign cX6_hasSign 3 .boolean ({ frames := 1, cells := 0, slots := 0, locals := 21 }) G [.ref (ad 0), .int (x1)] (mwX ad m0 r) (KMI ad r K) :=
  CtI.of RX6 plain_X6 rfl (Nat.le_of_ble_eq_true rfl) (fun E hE _ _ hn hR hK => bX6_hasSign_0 hE hn hR hA hK hw)
theorem jdX6_hasSign : jD yX6_hasSign 1 := by decide +kernel
theorem lkX6_hasSign : GoodIn lw_all (wsV RX6 253 yX6_hasSign.cls yX6_hasSign (ws_ yX6_hasSign cX6_hasSign 3 (some .boolean))) := lw_V q1854 q1856 qs83 q129 q1857
def wX6_products_5_b (P : Int32 → MS → (MS → Prop) → Prop) (x1 : Int32) (m : MS) (KL5 : MS → Prop) (K : MS → Prop) : Prop :=
  wX6_hasSign (nI 42) m (fun r1 m2 => (r1 = 0 → (K m2)) ∧ (¬ r1 = 0 → (P x1 m2 (fun  m4 => wX6_emit (nI 6) 0 m4 (fun  m5 => KL5 (m5))))))
def wX6_products_5 (P : Int32 → MS → (MS → Prop) → Prop) (x1 : Int32) (m : MS) (K : MS → Prop) : Prop := lfp (σ := MS) (fun KL s => wX6_products_5_b P x1 s KL K) m
set_option maxRecDepth 100000 in
theorem bX6_products_5 {E : jE} {FT LT : Nat} (hE : jOk E cX6_products RX6) (hn : E.2.2.2.2 = 2) (hR : jRoom E (FT + 1) (LT + 33)) {ad : Nat → Nat} (hA : adOk ad) {r : GW} {b : Nat × Nat} {K : MS → Prop} (hK : jRv E (KMV ad r K)) {P : Int32 → MS → (MS → Prop) → Prop} {x1 : Int32} {m : MS} (hP : RecP E.1.2.1 E.2.2.1 ad r FT LT P) (hF : 20 ≤ FT ∧ 300 ≤ LT) (hw : wX6_products_5 P x1 m K) : J E (mwX ad m r) b [(0, .ref (ad 0)), (1, .int (x1))] 5 [] := by
  refine lfp_sound (σ := MS) (F := fun KL s => wX6_products_5_b P x1 s KL K) (P := fun s => J E (mwX ad s r) b [(0, .ref (ad 0)), (1, .int (x1))] 5 []) ?_ hw
  clear hw
  rintro KL5 m hw ih5
  have hw : wX6_products_5_b P x1 m KL5 K := hw
  unfold wX6_products_5_b at hw
  refine j_aload_n hE 0 dX6_products_5 rfl rfl ?_
  refine j_bipush hE dX6_products_6 kb_42 ?_
  refine jm_cI hE hA hR (As := [.int (nI 42)]) (rest := []) (ctX6_hasSign E.1.2.1 E.2.2.1 hA _ _ _  _ hw) rfl lkX6_hasSign jdX6_hasSign ⟨by omega, by omega⟩ rfl (Nat.le_of_ble_eq_true rfl) dX6_products_8 (fun r1 m2 hw => ?_)
  refine j_if_eq hE 29 dX6_products_11 (by decide) (fun c3 => ?_) (fun c3 => ?_)
  · have hw := hw.1 c3
    exact j_vret hE hK dX6_products_29 ⟨_, rfl, hw⟩
  · have hw := hw.2 c3
    refine j_aload_n hE 0 dX6_products_14 rfl rfl ?_
    refine j_iload_n hE 1 dX6_products_15 rfl rfl ?_
    refine jm_cV hE hA hR (As := [.int (x1)]) (rest := []) (hP _ _ _ hw) rfl lkX6_takePart jdX6_takePart ⟨by omega, by omega⟩ rfl (Nat.le_of_ble_eq_true rfl) dX6_products_16 (fun  m4 hw => ?_)
    refine j_aload_n hE 0 dX6_products_19 rfl rfl ?_
    refine j_bipush hE dX6_products_20 kb_6 ?_
    refine j_iconst hE dX6_products_22 kc_0 ?_
    refine jm_cV hE hA hR (As := [.int (nI 6), .int (0)]) (rest := []) (ctX6_emit E.1.2.1 E.2.2.1 hA _ _ _ _  _ hw) rfl lkX6_emit jdX6_emit ⟨by omega, by omega⟩ rfl (Nat.le_of_ble_eq_true rfl) dX6_products_23 (fun  m5 hw => ?_)
    refine j_goto hE 5 dX6_products_26 (by decide) ?_
    have hz := ih5 (m5) hw
    exact hz
def wX6_products_0 (P : Int32 → MS → (MS → Prop) → Prop) (x1 : Int32) (m : MS) (K : MS → Prop) : Prop :=
  P x1 m (fun  m1 => wX6_products_5 P x1 m1 K)
set_option maxRecDepth 100000 in
theorem bX6_products_0 {E : jE} {FT LT : Nat} (hE : jOk E cX6_products RX6) (hn : E.2.2.2.2 = 2) (hR : jRoom E (FT + 1) (LT + 33)) {ad : Nat → Nat} (hA : adOk ad) {r : GW} {b : Nat × Nat} {K : MS → Prop} (hK : jRv E (KMV ad r K)) {P : Int32 → MS → (MS → Prop) → Prop} {x1 : Int32} {m : MS} (hP : RecP E.1.2.1 E.2.2.1 ad r FT LT P) (hF : 20 ≤ FT ∧ 300 ≤ LT) (hw : wX6_products_0 P x1 m K) : J E (mwX ad m r) b [(0, .ref (ad 0)), (1, .int (x1))] 0 [] := by
  unfold wX6_products_0 at hw
  refine j_aload_n hE 0 dX6_products_0 rfl rfl ?_
  refine j_iload_n hE 1 dX6_products_1 rfl rfl ?_
  refine jm_cV hE hA hR (As := [.int (x1)]) (rest := []) (hP _ _ _ hw) rfl lkX6_takePart jdX6_takePart ⟨by omega, by omega⟩ rfl (Nat.le_of_ble_eq_true rfl) dX6_products_2 (fun  m1 hw => ?_)
  exact bX6_products_5 hE hn hR hA hK hP hF  hw
abbrev wX6_products := wX6_products_0
theorem jdX6_products : jD yX6_products 1 := by decide +kernel
theorem lkX6_products : GoodIn lw_all (wsV RX6 256 yX6_products.cls yX6_products (ws_ yX6_products cX6_products 2 none)) := lw_V q1838 q1840 qs79 q129 q1841
theorem ctX6_products (l : Launch) (G : gG) {ad : Nat → Nat} (hA : adOk ad) {r : GW} {FT LT : Nat} {P : Int32 → MS → (MS → Prop) → Prop} (hP : RecP l G ad r FT LT P) (hF : 20 ≤ FT ∧ 300 ≤ LT) (m : MS) (x1 : Int32) (K : MS → Prop) (hw : wX6_products_0 P x1 m K) : CtV l yX6_products cX6_products 2 ({ frames := FT + 1, cells := 0, slots := 0, locals := LT + 33 }) G [.ref (ad 0), .int (x1)] (mwX ad m r) (KMV ad r K) :=
  CtV.of RX6 plain_X6 rfl (Nat.le_of_ble_eq_true rfl) (fun E hE hl hG hn hR hK => bX6_products_0 hE hn hR hA hK (by rw [hl, hG]; exact hP) hF hw)
def wX6_sums_55 (P : Int32 → MS → (MS → Prop) → Prop) (x1 : Int32) (s1 : Int32) (m : MS) (KL5 : MS → Prop) (K : MS → Prop) : Prop :=
  wX6_emit s1 0 m (fun  m1 => KL5 (m1))
set_option maxRecDepth 100000 in
theorem bX6_sums_55 {E : jE} {FT LT : Nat} (hE : jOk E cX6_sums RX6) (hn : E.2.2.2.2 = 3) (hR : jRoom E (FT + 2) (LT + 54)) {ad : Nat → Nat} (hA : adOk ad) {r : GW} {b : Nat × Nat} {K : MS → Prop} (hK : jRv E (KMV ad r K)) {P : Int32 → MS → (MS → Prop) → Prop} {x1 : Int32} {s1 : Int32} {m : MS} {KL5 : MS → Prop} (hP : RecP E.1.2.1 E.2.2.1 ad r FT LT P) (hF : 20 ≤ FT ∧ 300 ≤ LT) (ih5 : ∀ s : MS, KL5 s → J E (mwX ad s r) b [(0, .ref (ad 0)), (1, .int (x1))] 5 []) (hw : wX6_sums_55 P x1 s1 m KL5 K) : J E (mwX ad m r) b [(0, .ref (ad 0)), (1, .int (x1))] 55 [.int (s1), .ref (ad 0)] := by
  unfold wX6_sums_55 at hw
  refine j_iconst hE dX6_sums_55 kc_0 ?_
  refine jm_cV hE hA hR (As := [.int (s1), .int (0)]) (rest := []) (ctX6_emit E.1.2.1 E.2.2.1 hA _ _ _ _  _ hw) rfl lkX6_emit jdX6_emit ⟨by omega, by omega⟩ rfl (Nat.le_of_ble_eq_true rfl) dX6_sums_56 (fun  m1 hw => ?_)
  refine j_goto hE 5 dX6_sums_59 (by decide) ?_
  have hz := ih5 (m1) hw
  exact hz
def wX6_sums_23 (P : Int32 → MS → (MS → Prop) → Prop) (x1 : Int32) (m : MS) (KL5 : MS → Prop) (K : MS → Prop) : Prop :=
  wX6_isSign (nI 43) m (fun r1 => ∀ m2 : MS, m2 = sF m 3 ((gF m 3) + 1) → (wX6_products P x1 m2 (fun  m3 => (r1 = 0 → (wX6_sums_55 P x1 (nI 5) m3 KL5 K)) ∧ (¬ r1 = 0 → (wX6_sums_55 P x1 (nI 4) m3 KL5 K)))))
set_option maxRecDepth 100000 in
theorem bX6_sums_23 {E : jE} {FT LT : Nat} (hE : jOk E cX6_sums RX6) (hn : E.2.2.2.2 = 3) (hR : jRoom E (FT + 2) (LT + 54)) {ad : Nat → Nat} (hA : adOk ad) {r : GW} {b : Nat × Nat} {K : MS → Prop} (hK : jRv E (KMV ad r K)) {P : Int32 → MS → (MS → Prop) → Prop} {x1 : Int32} {m : MS} {KL5 : MS → Prop} (hP : RecP E.1.2.1 E.2.2.1 ad r FT LT P) (hF : 20 ≤ FT ∧ 300 ≤ LT) (ih5 : ∀ s : MS, KL5 s → J E (mwX ad s r) b [(0, .ref (ad 0)), (1, .int (x1))] 5 []) (hw : wX6_sums_23 P x1 m KL5 K) : J E (mwX ad m r) b [(0, .ref (ad 0)), (1, .int (x1))] 23 [] := by
  unfold wX6_sums_23 at hw
  refine j_aload_n hE 0 dX6_sums_23 rfl rfl ?_
  refine j_bipush hE dX6_sums_24 kb_43 ?_
  refine jm_pI hE hA hR (As := [.int (nI 43)]) (rest := []) (ctX6_isSign E.1.2.1 E.2.2.1 hA _ _ _  _ hw) rfl lkX6_isSign jdX6_isSign ⟨by omega, by omega⟩ rfl (Nat.le_of_ble_eq_true rfl) dX6_sums_26 (fun r1 hw => ?_)
  refine j_istore_n (L' := [(2, .int (r1)), (0, .ref (ad 0)), (1, .int (x1))]) hE hn dX6_sums_29 rfl (Nat.le_of_ble_eq_true rfl) rfl ?_
  refine j_aload_n hE 1 dX6_sums_30 rfl rfl ?_
  refine j_dup hE dX6_sums_31 rfl ?_
  refine jm_get hE hA 7 (Nat.le_of_ble_eq_true rfl) q1654 rfl (v := .int (gF m 3)) rfl dX6_sums_32 ?_
  refine j_iconst hE dX6_sums_35 kc_1 ?_
  refine j_iadd hE dX6_sums_36 ?_
  refine jm_putF hE hA 7 3 (Nat.le_of_ble_eq_true rfl) q1654 rfl rfl (mset_3 _ _ _) rfl rfl dX6_sums_37 ?_
  refine j_wm (fun m2 e_m2 => ?_)
  have hw := hw m2 e_m2
  refine j_aload_n hE 1 dX6_sums_40 rfl rfl ?_
  refine j_iload_n hE 2 dX6_sums_41 rfl rfl ?_
  refine jm_cV hE hA hR (As := [.int (x1)]) (rest := []) (ctX6_products E.1.2.1 E.2.2.1 hA hP hF _ _  _ hw) rfl lkX6_products jdX6_products ⟨by omega, by omega⟩ rfl (Nat.le_of_ble_eq_true rfl) dX6_sums_42 (fun  m3 hw => ?_)
  refine j_aload_n hE 1 dX6_sums_45 rfl rfl ?_
  refine j_iload_n hE 0 dX6_sums_46 rfl rfl ?_
  refine j_if_eq hE 54 dX6_sums_47 (by decide) (fun c4 => ?_) (fun c4 => ?_)
  · have hw := hw.1 c4
    refine j_iconst hE dX6_sums_54 kc_5 ?_
    refine j_sub [(0, .ref (ad 0)), (1, .int (x1))] [1, 2] rfl ?_
    exact bX6_sums_55 hE hn hR hA hK hP hF ih5 hw
  · have hw := hw.2 c4
    refine j_iconst hE dX6_sums_50 kc_4 ?_
    refine j_goto hE 55 dX6_sums_51 (by decide) ?_
    refine j_sub [(0, .ref (ad 0)), (1, .int (x1))] [1, 2] rfl ?_
    exact bX6_sums_55 hE hn hR hA hK hP hF ih5 hw
def wX6_sums_5_b (P : Int32 → MS → (MS → Prop) → Prop) (x1 : Int32) (m : MS) (KL5 : MS → Prop) (K : MS → Prop) : Prop :=
  wX6_isSign (nI 43) m (fun r1 => (¬ r1 = 0 → (wX6_sums_23 P x1 m KL5 K)) ∧ (r1 = 0 → (wX6_isSign (nI 45) m (fun r3 => (r3 = 0 → (K m)) ∧ (¬ r3 = 0 → (wX6_sums_23 P x1 m KL5 K))))))
def wX6_sums_5 (P : Int32 → MS → (MS → Prop) → Prop) (x1 : Int32) (m : MS) (K : MS → Prop) : Prop := lfp (σ := MS) (fun KL s => wX6_sums_5_b P x1 s KL K) m
set_option maxRecDepth 100000 in
theorem bX6_sums_5 {E : jE} {FT LT : Nat} (hE : jOk E cX6_sums RX6) (hn : E.2.2.2.2 = 3) (hR : jRoom E (FT + 2) (LT + 54)) {ad : Nat → Nat} (hA : adOk ad) {r : GW} {b : Nat × Nat} {K : MS → Prop} (hK : jRv E (KMV ad r K)) {P : Int32 → MS → (MS → Prop) → Prop} {x1 : Int32} {m : MS} (hP : RecP E.1.2.1 E.2.2.1 ad r FT LT P) (hF : 20 ≤ FT ∧ 300 ≤ LT) (hw : wX6_sums_5 P x1 m K) : J E (mwX ad m r) b [(0, .ref (ad 0)), (1, .int (x1))] 5 [] := by
  refine lfp_sound (σ := MS) (F := fun KL s => wX6_sums_5_b P x1 s KL K) (P := fun s => J E (mwX ad s r) b [(0, .ref (ad 0)), (1, .int (x1))] 5 []) ?_ hw
  clear hw
  rintro KL5 m hw ih5
  have hw : wX6_sums_5_b P x1 m KL5 K := hw
  unfold wX6_sums_5_b at hw
  refine j_aload_n hE 0 dX6_sums_5 rfl rfl ?_
  refine j_bipush hE dX6_sums_6 kb_43 ?_
  refine jm_pI hE hA hR (As := [.int (nI 43)]) (rest := []) (ctX6_isSign E.1.2.1 E.2.2.1 hA _ _ _  _ hw) rfl lkX6_isSign jdX6_isSign ⟨by omega, by omega⟩ rfl (Nat.le_of_ble_eq_true rfl) dX6_sums_8 (fun r1 hw => ?_)
  refine j_if_ne hE 23 dX6_sums_11 (by decide) (fun c2 => ?_) (fun c2 => ?_)
  · have hw := hw.1 c2
    exact bX6_sums_23 hE hn hR hA hK hP hF ih5 hw
  · have hw := hw.2 c2
    refine j_aload_n hE 0 dX6_sums_14 rfl rfl ?_
    refine j_bipush hE dX6_sums_15 kb_45 ?_
    refine jm_pI hE hA hR (As := [.int (nI 45)]) (rest := []) (ctX6_isSign E.1.2.1 E.2.2.1 hA _ _ _  _ hw) rfl lkX6_isSign jdX6_isSign ⟨by omega, by omega⟩ rfl (Nat.le_of_ble_eq_true rfl) dX6_sums_17 (fun r3 hw => ?_)
    refine j_if_eq hE 62 dX6_sums_20 (by decide) (fun c4 => ?_) (fun c4 => ?_)
    · have hw := hw.1 c4
      exact j_vret hE hK dX6_sums_62 ⟨_, rfl, hw⟩
    · have hw := hw.2 c4
      exact bX6_sums_23 hE hn hR hA hK hP hF ih5 hw
def wX6_sums_0 (P : Int32 → MS → (MS → Prop) → Prop) (x1 : Int32) (m : MS) (K : MS → Prop) : Prop :=
  wX6_products P x1 m (fun  m1 => wX6_sums_5 P x1 m1 K)
set_option maxRecDepth 100000 in
theorem bX6_sums_0 {E : jE} {FT LT : Nat} (hE : jOk E cX6_sums RX6) (hn : E.2.2.2.2 = 3) (hR : jRoom E (FT + 2) (LT + 54)) {ad : Nat → Nat} (hA : adOk ad) {r : GW} {b : Nat × Nat} {K : MS → Prop} (hK : jRv E (KMV ad r K)) {P : Int32 → MS → (MS → Prop) → Prop} {x1 : Int32} {m : MS} (hP : RecP E.1.2.1 E.2.2.1 ad r FT LT P) (hF : 20 ≤ FT ∧ 300 ≤ LT) (hw : wX6_sums_0 P x1 m K) : J E (mwX ad m r) b [(0, .ref (ad 0)), (1, .int (x1))] 0 [] := by
  unfold wX6_sums_0 at hw
  refine j_aload_n hE 0 dX6_sums_0 rfl rfl ?_
  refine j_iload_n hE 1 dX6_sums_1 rfl rfl ?_
  refine jm_cV hE hA hR (As := [.int (x1)]) (rest := []) (ctX6_products E.1.2.1 E.2.2.1 hA hP hF _ _  _ hw) rfl lkX6_products jdX6_products ⟨by omega, by omega⟩ rfl (Nat.le_of_ble_eq_true rfl) dX6_sums_2 (fun  m1 hw => ?_)
  exact bX6_sums_5 hE hn hR hA hK hP hF  hw
abbrev wX6_sums := wX6_sums_0
theorem jdX6_sums : jD yX6_sums 1 := by decide +kernel
theorem lkX6_sums : GoodIn lw_all (wsV RX6 250 yX6_sums.cls yX6_sums (ws_ yX6_sums cX6_sums 3 none)) := lw_V q1834 q1836 qs78 q129 q1837
theorem ctX6_sums (l : Launch) (G : gG) {ad : Nat → Nat} (hA : adOk ad) {r : GW} {FT LT : Nat} {P : Int32 → MS → (MS → Prop) → Prop} (hP : RecP l G ad r FT LT P) (hF : 20 ≤ FT ∧ 300 ≤ LT) (m : MS) (x1 : Int32) (K : MS → Prop) (hw : wX6_sums_0 P x1 m K) : CtV l yX6_sums cX6_sums 3 ({ frames := FT + 2, cells := 0, slots := 0, locals := LT + 54 }) G [.ref (ad 0), .int (x1)] (mwX ad m r) (KMV ad r K) :=
  CtV.of RX6 plain_X6 rfl (Nat.le_of_ble_eq_true rfl) (fun E hE hl hG hn hR hK => bX6_sums_0 hE hn hR hA hK (by rw [hl, hG]; exact hP) hF hw)
def wX6_test_47 (P : Int32 → MS → (MS → Prop) → Prop) (s1 : Int32) (m : MS) (K : MS → Prop) : Prop :=
  wX6_emit s1 0 m (fun  m1 => K m1)
set_option maxRecDepth 100000 in
theorem bX6_test_47 {E : jE} {FT LT : Nat} (hE : jOk E cX6_test RX6) (hn : E.2.2.2.2 = 3) (hR : jRoom E (FT + 3) (LT + 76)) {ad : Nat → Nat} (hA : adOk ad) {r : GW} {b : Nat × Nat} {K : MS → Prop} (hK : jRv E (KMV ad r K)) {P : Int32 → MS → (MS → Prop) → Prop} {s1 : Int32} {m : MS} (hP : RecP E.1.2.1 E.2.2.1 ad r FT LT P) (hF : 20 ≤ FT ∧ 300 ≤ LT) (hw : wX6_test_47 P s1 m K) : J E (mwX ad m r) b [(0, .ref (ad 0))] 47 [.int (s1), .ref (ad 0)] := by
  unfold wX6_test_47 at hw
  refine j_iconst hE dX6_test_47 kc_0 ?_
  refine jm_cV hE hA hR (As := [.int (s1), .int (0)]) (rest := []) (ctX6_emit E.1.2.1 E.2.2.1 hA _ _ _ _  _ hw) rfl lkX6_emit jdX6_emit ⟨by omega, by omega⟩ rfl (Nat.le_of_ble_eq_true rfl) dX6_test_48 (fun  m1 hw => ?_)
  exact j_vret hE hK dX6_test_51 ⟨_, rfl, hw⟩
def wX6_test_30 (P : Int32 → MS → (MS → Prop) → Prop) (x1 : Int32) (x2 : Int32) (m : MS) (K : MS → Prop) : Prop :=
  wX6_sums P x1 m (fun  m1 => (x2 = 0 → (wX6_test_47 P (nI 8) m1 K)) ∧ (¬ x2 = 0 → (wX6_test_47 P (nI 7) m1 K)))
set_option maxRecDepth 100000 in
theorem bX6_test_30 {E : jE} {FT LT : Nat} (hE : jOk E cX6_test RX6) (hn : E.2.2.2.2 = 3) (hR : jRoom E (FT + 3) (LT + 76)) {ad : Nat → Nat} (hA : adOk ad) {r : GW} {b : Nat × Nat} {K : MS → Prop} (hK : jRv E (KMV ad r K)) {P : Int32 → MS → (MS → Prop) → Prop} {x1 : Int32} {x2 : Int32} {m : MS} (hP : RecP E.1.2.1 E.2.2.1 ad r FT LT P) (hF : 20 ≤ FT ∧ 300 ≤ LT) (hw : wX6_test_30 P x1 x2 m K) : J E (mwX ad m r) b [(0, .ref (ad 0)), (1, .int (x1)), (2, .int (x2))] 30 [] := by
  unfold wX6_test_30 at hw
  refine j_aload_n hE 0 dX6_test_30 rfl rfl ?_
  refine j_iload_n hE 1 dX6_test_31 rfl rfl ?_
  refine jm_cV hE hA hR (As := [.int (x1)]) (rest := []) (ctX6_sums E.1.2.1 E.2.2.1 hA hP hF _ _  _ hw) rfl lkX6_sums jdX6_sums ⟨by omega, by omega⟩ rfl (Nat.le_of_ble_eq_true rfl) dX6_test_32 (fun  m1 hw => ?_)
  refine j_aload_n hE 0 dX6_test_35 rfl rfl ?_
  refine j_iload_n hE 2 dX6_test_36 rfl rfl ?_
  refine j_if_eq hE 45 dX6_test_37 (by decide) (fun c2 => ?_) (fun c2 => ?_)
  · have hw := hw.1 c2
    refine j_bipush hE dX6_test_45 kb_8 ?_
    refine j_sub [(0, .ref (ad 0))] [0] rfl ?_
    exact bX6_test_47 hE hn hR hA hK hP hF  hw
  · have hw := hw.2 c2
    refine j_bipush hE dX6_test_40 kb_7 ?_
    refine j_goto hE 47 dX6_test_42 (by decide) ?_
    refine j_sub [(0, .ref (ad 0))] [0] rfl ?_
    exact bX6_test_47 hE hn hR hA hK hP hF  hw
def wX6_test_0 (P : Int32 → MS → (MS → Prop) → Prop) (x1 : Int32) (m : MS) (K : MS → Prop) : Prop :=
  wX6_sums P x1 m (fun  m1 => wX6_isSign (nI 60) m1 (fun r2 => wX6_hasSign (nI 60) m1 (fun r3 m4 => (¬ r3 = 0 → (wX6_test_30 P x1 r2 m4 K)) ∧ (r3 = 0 → (wX6_hasSign (nI 61) m4 (fun r6 m7 => (r6 = 0 → (K m7)) ∧ (¬ r6 = 0 → (wX6_test_30 P x1 r2 m7 K))))))))
set_option maxRecDepth 100000 in
theorem bX6_test_0 {E : jE} {FT LT : Nat} (hE : jOk E cX6_test RX6) (hn : E.2.2.2.2 = 3) (hR : jRoom E (FT + 3) (LT + 76)) {ad : Nat → Nat} (hA : adOk ad) {r : GW} {b : Nat × Nat} {K : MS → Prop} (hK : jRv E (KMV ad r K)) {P : Int32 → MS → (MS → Prop) → Prop} {x1 : Int32} {m : MS} (hP : RecP E.1.2.1 E.2.2.1 ad r FT LT P) (hF : 20 ≤ FT ∧ 300 ≤ LT) (hw : wX6_test_0 P x1 m K) : J E (mwX ad m r) b [(0, .ref (ad 0)), (1, .int (x1))] 0 [] := by
  unfold wX6_test_0 at hw
  refine j_aload_n hE 0 dX6_test_0 rfl rfl ?_
  refine j_iload_n hE 1 dX6_test_1 rfl rfl ?_
  refine jm_cV hE hA hR (As := [.int (x1)]) (rest := []) (ctX6_sums E.1.2.1 E.2.2.1 hA hP hF _ _  _ hw) rfl lkX6_sums jdX6_sums ⟨by omega, by omega⟩ rfl (Nat.le_of_ble_eq_true rfl) dX6_test_2 (fun  m1 hw => ?_)
  refine j_aload_n hE 0 dX6_test_5 rfl rfl ?_
  refine j_bipush hE dX6_test_6 kb_60 ?_
  refine jm_pI hE hA hR (As := [.int (nI 60)]) (rest := []) (ctX6_isSign E.1.2.1 E.2.2.1 hA _ _ _  _ hw) rfl lkX6_isSign jdX6_isSign ⟨by omega, by omega⟩ rfl (Nat.le_of_ble_eq_true rfl) dX6_test_8 (fun r2 hw => ?_)
  refine j_istore_n (L' := [(2, .int (r2)), (0, .ref (ad 0)), (1, .int (x1))]) hE hn dX6_test_11 rfl (Nat.le_of_ble_eq_true rfl) rfl ?_
  refine j_aload_n hE 1 dX6_test_12 rfl rfl ?_
  refine j_bipush hE dX6_test_13 kb_60 ?_
  refine jm_cI hE hA hR (As := [.int (nI 60)]) (rest := []) (ctX6_hasSign E.1.2.1 E.2.2.1 hA _ _ _  _ hw) rfl lkX6_hasSign jdX6_hasSign ⟨by omega, by omega⟩ rfl (Nat.le_of_ble_eq_true rfl) dX6_test_15 (fun r3 m4 hw => ?_)
  refine j_if_ne hE 30 dX6_test_18 (by decide) (fun c5 => ?_) (fun c5 => ?_)
  · have hw := hw.1 c5
    refine j_sub [(0, .ref (ad 0)), (1, .int (x1)), (2, .int (r2))] [1, 2, 0] rfl ?_
    exact bX6_test_30 hE hn hR hA hK hP hF  hw
  · have hw := hw.2 c5
    refine j_aload_n hE 1 dX6_test_21 rfl rfl ?_
    refine j_bipush hE dX6_test_22 kb_61 ?_
    refine jm_cI hE hA hR (As := [.int (nI 61)]) (rest := []) (ctX6_hasSign E.1.2.1 E.2.2.1 hA _ _ _  _ hw) rfl lkX6_hasSign jdX6_hasSign ⟨by omega, by omega⟩ rfl (Nat.le_of_ble_eq_true rfl) dX6_test_24 (fun r6 m7 hw => ?_)
    refine j_if_eq hE 51 dX6_test_27 (by decide) (fun c8 => ?_) (fun c8 => ?_)
    · have hw := hw.1 c8
      exact j_vret hE hK dX6_test_51 ⟨_, rfl, hw⟩
    · have hw := hw.2 c8
      refine j_sub [(0, .ref (ad 0)), (1, .int (x1)), (2, .int (r2))] [1, 2, 0] rfl ?_
      exact bX6_test_30 hE hn hR hA hK hP hF  hw
abbrev wX6_test := wX6_test_0
theorem jdX6_test : jD yX6_test 1 := by decide +kernel
theorem lkX6_test : GoodIn lw_all (wsV RX6 247 yX6_test.cls yX6_test (ws_ yX6_test cX6_test 3 none)) := lw_V q1830 q1832 qs77 q129 q1833
theorem ctX6_test (l : Launch) (G : gG) {ad : Nat → Nat} (hA : adOk ad) {r : GW} {FT LT : Nat} {P : Int32 → MS → (MS → Prop) → Prop} (hP : RecP l G ad r FT LT P) (hF : 20 ≤ FT ∧ 300 ≤ LT) (m : MS) (x1 : Int32) (K : MS → Prop) (hw : wX6_test_0 P x1 m K) : CtV l yX6_test cX6_test 3 ({ frames := FT + 3, cells := 0, slots := 0, locals := LT + 76 }) G [.ref (ad 0), .int (x1)] (mwX ad m r) (KMV ad r K) :=
  CtV.of RX6 plain_X6 rfl (Nat.le_of_ble_eq_true rfl) (fun E hE hl hG hn hR hK => bX6_test_0 hE hn hR hA hK (by rw [hl, hG]; exact hP) hF hw)
def wX6_whole_57 (P : Int32 → MS → (MS → Prop) → Prop) (x1 : Int32) (s1 : Int32) (m : MS) (KL5 : MS → Prop) (K : MS → Prop) : Prop :=
  wX6_emit s1 0 m (fun  m1 => KL5 (m1))
set_option maxRecDepth 100000 in
theorem bX6_whole_57 {E : jE} {FT LT : Nat} (hE : jOk E cX6_whole RX6) (hn : E.2.2.2.2 = 3) (hR : jRoom E (FT + 4) (LT + 98)) {ad : Nat → Nat} (hA : adOk ad) {r : GW} {b : Nat × Nat} {K : MS → Prop} (hK : jRv E (KMV ad r K)) {P : Int32 → MS → (MS → Prop) → Prop} {x1 : Int32} {s1 : Int32} {m : MS} {KL5 : MS → Prop} (hP : RecP E.1.2.1 E.2.2.1 ad r FT LT P) (hF : 20 ≤ FT ∧ 300 ≤ LT) (ih5 : ∀ s : MS, KL5 s → J E (mwX ad s r) b [(0, .ref (ad 0)), (1, .int (x1))] 5 []) (hw : wX6_whole_57 P x1 s1 m KL5 K) : J E (mwX ad m r) b [(0, .ref (ad 0)), (1, .int (x1))] 57 [.int (s1), .ref (ad 0)] := by
  unfold wX6_whole_57 at hw
  refine j_iconst hE dX6_whole_57 kc_0 ?_
  refine jm_cV hE hA hR (As := [.int (s1), .int (0)]) (rest := []) (ctX6_emit E.1.2.1 E.2.2.1 hA _ _ _ _  _ hw) rfl lkX6_emit jdX6_emit ⟨by omega, by omega⟩ rfl (Nat.le_of_ble_eq_true rfl) dX6_whole_58 (fun  m1 hw => ?_)
  refine j_goto hE 5 dX6_whole_61 (by decide) ?_
  have hz := ih5 (m1) hw
  exact hz
def wX6_whole_23 (P : Int32 → MS → (MS → Prop) → Prop) (x1 : Int32) (m : MS) (KL5 : MS → Prop) (K : MS → Prop) : Prop :=
  wX6_isWord (nI 20) m (fun r1 => ∀ m2 : MS, m2 = sF m 3 ((gF m 3) + 1) → (wX6_test P x1 m2 (fun  m3 => (r1 = 0 → (wX6_whole_57 P x1 (nI 10) m3 KL5 K)) ∧ (¬ r1 = 0 → (wX6_whole_57 P x1 (nI 9) m3 KL5 K)))))
set_option maxRecDepth 100000 in
theorem bX6_whole_23 {E : jE} {FT LT : Nat} (hE : jOk E cX6_whole RX6) (hn : E.2.2.2.2 = 3) (hR : jRoom E (FT + 4) (LT + 98)) {ad : Nat → Nat} (hA : adOk ad) {r : GW} {b : Nat × Nat} {K : MS → Prop} (hK : jRv E (KMV ad r K)) {P : Int32 → MS → (MS → Prop) → Prop} {x1 : Int32} {m : MS} {KL5 : MS → Prop} (hP : RecP E.1.2.1 E.2.2.1 ad r FT LT P) (hF : 20 ≤ FT ∧ 300 ≤ LT) (ih5 : ∀ s : MS, KL5 s → J E (mwX ad s r) b [(0, .ref (ad 0)), (1, .int (x1))] 5 []) (hw : wX6_whole_23 P x1 m KL5 K) : J E (mwX ad m r) b [(0, .ref (ad 0)), (1, .int (x1))] 23 [] := by
  unfold wX6_whole_23 at hw
  refine j_aload_n hE 0 dX6_whole_23 rfl rfl ?_
  refine j_bipush hE dX6_whole_24 kb_20 ?_
  refine jm_pI hE hA hR (As := [.int (nI 20)]) (rest := []) (ctX6_isWord E.1.2.1 E.2.2.1 hA _ _ _  _ hw) rfl lkX6_isWord jdX6_isWord ⟨by omega, by omega⟩ rfl (Nat.le_of_ble_eq_true rfl) dX6_whole_26 (fun r1 hw => ?_)
  refine j_istore_n (L' := [(2, .int (r1)), (0, .ref (ad 0)), (1, .int (x1))]) hE hn dX6_whole_29 rfl (Nat.le_of_ble_eq_true rfl) rfl ?_
  refine j_aload_n hE 1 dX6_whole_30 rfl rfl ?_
  refine j_dup hE dX6_whole_31 rfl ?_
  refine jm_get hE hA 7 (Nat.le_of_ble_eq_true rfl) q1654 rfl (v := .int (gF m 3)) rfl dX6_whole_32 ?_
  refine j_iconst hE dX6_whole_35 kc_1 ?_
  refine j_iadd hE dX6_whole_36 ?_
  refine jm_putF hE hA 7 3 (Nat.le_of_ble_eq_true rfl) q1654 rfl rfl (mset_3 _ _ _) rfl rfl dX6_whole_37 ?_
  refine j_wm (fun m2 e_m2 => ?_)
  have hw := hw m2 e_m2
  refine j_aload_n hE 1 dX6_whole_40 rfl rfl ?_
  refine j_iload_n hE 2 dX6_whole_41 rfl rfl ?_
  refine jm_cV hE hA hR (As := [.int (x1)]) (rest := []) (ctX6_test E.1.2.1 E.2.2.1 hA hP hF _ _  _ hw) rfl lkX6_test jdX6_test ⟨by omega, by omega⟩ rfl (Nat.le_of_ble_eq_true rfl) dX6_whole_42 (fun  m3 hw => ?_)
  refine j_aload_n hE 1 dX6_whole_45 rfl rfl ?_
  refine j_iload_n hE 0 dX6_whole_46 rfl rfl ?_
  refine j_if_eq hE 55 dX6_whole_47 (by decide) (fun c4 => ?_) (fun c4 => ?_)
  · have hw := hw.1 c4
    refine j_bipush hE dX6_whole_55 kb_10 ?_
    refine j_sub [(0, .ref (ad 0)), (1, .int (x1))] [1, 2] rfl ?_
    exact bX6_whole_57 hE hn hR hA hK hP hF ih5 hw
  · have hw := hw.2 c4
    refine j_bipush hE dX6_whole_50 kb_9 ?_
    refine j_goto hE 57 dX6_whole_52 (by decide) ?_
    refine j_sub [(0, .ref (ad 0)), (1, .int (x1))] [1, 2] rfl ?_
    exact bX6_whole_57 hE hn hR hA hK hP hF ih5 hw
def wX6_whole_5_b (P : Int32 → MS → (MS → Prop) → Prop) (x1 : Int32) (m : MS) (KL5 : MS → Prop) (K : MS → Prop) : Prop :=
  wX6_isWord (nI 20) m (fun r1 => (¬ r1 = 0 → (wX6_whole_23 P x1 m KL5 K)) ∧ (r1 = 0 → (wX6_isWord (nI 21) m (fun r3 => (r3 = 0 → (K m)) ∧ (¬ r3 = 0 → (wX6_whole_23 P x1 m KL5 K))))))
def wX6_whole_5 (P : Int32 → MS → (MS → Prop) → Prop) (x1 : Int32) (m : MS) (K : MS → Prop) : Prop := lfp (σ := MS) (fun KL s => wX6_whole_5_b P x1 s KL K) m
set_option maxRecDepth 100000 in
theorem bX6_whole_5 {E : jE} {FT LT : Nat} (hE : jOk E cX6_whole RX6) (hn : E.2.2.2.2 = 3) (hR : jRoom E (FT + 4) (LT + 98)) {ad : Nat → Nat} (hA : adOk ad) {r : GW} {b : Nat × Nat} {K : MS → Prop} (hK : jRv E (KMV ad r K)) {P : Int32 → MS → (MS → Prop) → Prop} {x1 : Int32} {m : MS} (hP : RecP E.1.2.1 E.2.2.1 ad r FT LT P) (hF : 20 ≤ FT ∧ 300 ≤ LT) (hw : wX6_whole_5 P x1 m K) : J E (mwX ad m r) b [(0, .ref (ad 0)), (1, .int (x1))] 5 [] := by
  refine lfp_sound (σ := MS) (F := fun KL s => wX6_whole_5_b P x1 s KL K) (P := fun s => J E (mwX ad s r) b [(0, .ref (ad 0)), (1, .int (x1))] 5 []) ?_ hw
  clear hw
  rintro KL5 m hw ih5
  have hw : wX6_whole_5_b P x1 m KL5 K := hw
  unfold wX6_whole_5_b at hw
  refine j_aload_n hE 0 dX6_whole_5 rfl rfl ?_
  refine j_bipush hE dX6_whole_6 kb_20 ?_
  refine jm_pI hE hA hR (As := [.int (nI 20)]) (rest := []) (ctX6_isWord E.1.2.1 E.2.2.1 hA _ _ _  _ hw) rfl lkX6_isWord jdX6_isWord ⟨by omega, by omega⟩ rfl (Nat.le_of_ble_eq_true rfl) dX6_whole_8 (fun r1 hw => ?_)
  refine j_if_ne hE 23 dX6_whole_11 (by decide) (fun c2 => ?_) (fun c2 => ?_)
  · have hw := hw.1 c2
    exact bX6_whole_23 hE hn hR hA hK hP hF ih5 hw
  · have hw := hw.2 c2
    refine j_aload_n hE 0 dX6_whole_14 rfl rfl ?_
    refine j_bipush hE dX6_whole_15 kb_21 ?_
    refine jm_pI hE hA hR (As := [.int (nI 21)]) (rest := []) (ctX6_isWord E.1.2.1 E.2.2.1 hA _ _ _  _ hw) rfl lkX6_isWord jdX6_isWord ⟨by omega, by omega⟩ rfl (Nat.le_of_ble_eq_true rfl) dX6_whole_17 (fun r3 hw => ?_)
    refine j_if_eq hE 64 dX6_whole_20 (by decide) (fun c4 => ?_) (fun c4 => ?_)
    · have hw := hw.1 c4
      exact j_vret hE hK dX6_whole_64 ⟨_, rfl, hw⟩
    · have hw := hw.2 c4
      exact bX6_whole_23 hE hn hR hA hK hP hF ih5 hw
def wX6_whole_0 (P : Int32 → MS → (MS → Prop) → Prop) (x1 : Int32) (m : MS) (K : MS → Prop) : Prop :=
  wX6_test P x1 m (fun  m1 => wX6_whole_5 P x1 m1 K)
set_option maxRecDepth 100000 in
theorem bX6_whole_0 {E : jE} {FT LT : Nat} (hE : jOk E cX6_whole RX6) (hn : E.2.2.2.2 = 3) (hR : jRoom E (FT + 4) (LT + 98)) {ad : Nat → Nat} (hA : adOk ad) {r : GW} {b : Nat × Nat} {K : MS → Prop} (hK : jRv E (KMV ad r K)) {P : Int32 → MS → (MS → Prop) → Prop} {x1 : Int32} {m : MS} (hP : RecP E.1.2.1 E.2.2.1 ad r FT LT P) (hF : 20 ≤ FT ∧ 300 ≤ LT) (hw : wX6_whole_0 P x1 m K) : J E (mwX ad m r) b [(0, .ref (ad 0)), (1, .int (x1))] 0 [] := by
  unfold wX6_whole_0 at hw
  refine j_aload_n hE 0 dX6_whole_0 rfl rfl ?_
  refine j_iload_n hE 1 dX6_whole_1 rfl rfl ?_
  refine jm_cV hE hA hR (As := [.int (x1)]) (rest := []) (ctX6_test E.1.2.1 E.2.2.1 hA hP hF _ _  _ hw) rfl lkX6_test jdX6_test ⟨by omega, by omega⟩ rfl (Nat.le_of_ble_eq_true rfl) dX6_whole_2 (fun  m1 hw => ?_)
  exact bX6_whole_5 hE hn hR hA hK hP hF  hw
abbrev wX6_whole := wX6_whole_0
theorem jdX6_whole : jD yX6_whole 1 := by decide +kernel
theorem lkX6_whole : GoodIn lw_all (wsV RX6 237 yX6_whole.cls yX6_whole (ws_ yX6_whole cX6_whole 3 none)) := lw_V q1826 q1828 qs76 q129 q1829
theorem ctX6_whole (l : Launch) (G : gG) {ad : Nat → Nat} (hA : adOk ad) {r : GW} {FT LT : Nat} {P : Int32 → MS → (MS → Prop) → Prop} (hP : RecP l G ad r FT LT P) (hF : 20 ≤ FT ∧ 300 ≤ LT) (m : MS) (x1 : Int32) (K : MS → Prop) (hw : wX6_whole_0 P x1 m K) : CtV l yX6_whole cX6_whole 3 ({ frames := FT + 4, cells := 0, slots := 0, locals := LT + 98 }) G [.ref (ad 0), .int (x1)] (mwX ad m r) (KMV ad r K) :=
  CtV.of RX6 plain_X6 rfl (Nat.le_of_ble_eq_true rfl) (fun E hE hl hG hn hR hK => bX6_whole_0 hE hn hR hA hK (by rw [hl, hG]; exact hP) hF hw)
def wX6_takeSign_0 (x1 : Int32) (m : MS) (K : MS → Prop) : Prop :=
  wX6_isSign x1 m (fun r1 => (r1 = 0 → (wX6_wrong 1 m (fun  m3 => K m3))) ∧ (¬ r1 = 0 → (∀ m4 : MS, m4 = sF m 3 ((gF m 3) + 1) → (K m4))))
set_option maxRecDepth 100000 in
theorem bX6_takeSign_0 {E : jE} (hE : jOk E cX6_takeSign RX6) (hn : E.2.2.2.2 = 2) (hR : jRoom E 1 21) {ad : Nat → Nat} (hA : adOk ad) {r : GW} {b : Nat × Nat} {K : MS → Prop} (hK : jRv E (KMV ad r K)) {x1 : Int32} {m : MS}  (hw : wX6_takeSign_0 x1 m K) : J E (mwX ad m r) b [(0, .ref (ad 0)), (1, .int (x1))] 0 [] := by
  unfold wX6_takeSign_0 at hw
  refine j_aload_n hE 0 dX6_takeSign_0 rfl rfl ?_
  refine j_iload_n hE 1 dX6_takeSign_1 rfl rfl ?_
  refine jm_pI hE hA hR (As := [.int (x1)]) (rest := []) (ctX6_isSign E.1.2.1 E.2.2.1 hA _ _ _  _ hw) rfl lkX6_isSign jdX6_isSign ⟨Nat.le_of_ble_eq_true rfl, Nat.le_of_ble_eq_true rfl⟩ rfl (Nat.le_of_ble_eq_true rfl) dX6_takeSign_2 (fun r1 hw => ?_)
  refine j_if_eq hE 21 dX6_takeSign_5 (by decide) (fun c2 => ?_) (fun c2 => ?_)
  · have hw := hw.1 c2
    refine j_aload_n hE 0 dX6_takeSign_21 rfl rfl ?_
    refine j_iconst hE dX6_takeSign_22 kc_1 ?_
    refine jm_cV hE hA hR (As := [.int (1)]) (rest := []) (ctX6_wrong E.1.2.1 E.2.2.1 hA _ _ _  _ hw) rfl lkX6_wrong jdX6_wrong ⟨Nat.le_of_ble_eq_true rfl, Nat.le_of_ble_eq_true rfl⟩ rfl (Nat.le_of_ble_eq_true rfl) dX6_takeSign_23 (fun  m3 hw => ?_)
    exact j_vret hE hK dX6_takeSign_26 ⟨_, rfl, hw⟩
  · have hw := hw.2 c2
    refine j_aload_n hE 0 dX6_takeSign_8 rfl rfl ?_
    refine j_dup hE dX6_takeSign_9 rfl ?_
    refine jm_get hE hA 7 (Nat.le_of_ble_eq_true rfl) q1654 rfl (v := .int (gF m 3)) rfl dX6_takeSign_10 ?_
    refine j_iconst hE dX6_takeSign_13 kc_1 ?_
    refine j_iadd hE dX6_takeSign_14 ?_
    refine jm_putF hE hA 7 3 (Nat.le_of_ble_eq_true rfl) q1654 rfl rfl (mset_3 _ _ _) rfl rfl dX6_takeSign_15 ?_
    refine j_wm (fun m4 e_m4 => ?_)
    have hw := hw m4 e_m4
    refine j_goto hE 26 dX6_takeSign_18 (by decide) ?_
    exact j_vret hE hK dX6_takeSign_26 ⟨_, rfl, hw⟩
abbrev wX6_takeSign := wX6_takeSign_0
theorem ctX6_takeSign (l : Launch) (G : gG) {ad : Nat → Nat} (hA : adOk ad) (m0 : MS) (r : GW) (x1 : Int32) (K : MS → Prop) (hw : wX6_takeSign x1 m0 K) : CtV l yX6_takeSign cX6_takeSign 2 ({ frames := 1, cells := 0, slots := 0, locals := 21 }) G [.ref (ad 0), .int (x1)] (mwX ad m0 r) (KMV ad r K) :=
  CtV.of RX6 plain_X6 rfl (Nat.le_of_ble_eq_true rfl) (fun E hE _ _ hn hR hK => bX6_takeSign_0 hE hn hR hA hK hw)
theorem jdX6_takeSign : jD yX6_takeSign 1 := by decide +kernel
theorem lkX6_takeSign : GoodIn lw_all (wsV RX6 214 yX6_takeSign.cls yX6_takeSign (ws_ yX6_takeSign cX6_takeSign 2 none)) := lw_V q1858 q1860 qs84 q129 q1861
def wX6_takePart_165 (P : Int32 → MS → (MS → Prop) → Prop) (s1 : Int32) (s2 : Int32) (m : MS) (K : MS → Prop) : Prop :=
  wX6_emit s1 s2 m (fun  m1 => ∀ m2 : MS, m2 = sF m1 3 ((gF m1 3) + 1) → (K m2))
set_option maxRecDepth 100000 in
theorem bX6_takePart_165 {E : jE} {FT LT : Nat} (hE : jOk E cX6_takePart RX6) (hn : E.2.2.2.2 = 4) (hR : jRoom E (FT + 5) (LT + 120)) {ad : Nat → Nat} (hA : adOk ad) {r : GW} {b : Nat × Nat} {K : MS → Prop} (hK : jRv E (KMV ad r K)) {P : Int32 → MS → (MS → Prop) → Prop} {s1 : Int32} {s2 : Int32} {m : MS} (hP : RecP E.1.2.1 E.2.2.1 ad r FT LT P) (hF : 20 ≤ FT ∧ 300 ≤ LT) (hw : wX6_takePart_165 P s1 s2 m K) : J E (mwX ad m r) b [(0, .ref (ad 0))] 165 [.int (s2), .int (s1), .ref (ad 0)] := by
  unfold wX6_takePart_165 at hw
  refine jm_cV hE hA hR (As := [.int (s1), .int (s2)]) (rest := []) (ctX6_emit E.1.2.1 E.2.2.1 hA _ _ _ _  _ hw) rfl lkX6_emit jdX6_emit ⟨by omega, by omega⟩ rfl (Nat.le_of_ble_eq_true rfl) dX6_takePart_165 (fun  m1 hw => ?_)
  refine j_aload_n hE 0 dX6_takePart_168 rfl rfl ?_
  refine j_dup hE dX6_takePart_169 rfl ?_
  refine jm_get hE hA 7 (Nat.le_of_ble_eq_true rfl) q1654 rfl (v := .int (gF m1 3)) rfl dX6_takePart_170 ?_
  refine j_iconst hE dX6_takePart_173 kc_1 ?_
  refine j_iadd hE dX6_takePart_174 ?_
  refine jm_putF hE hA 7 3 (Nat.le_of_ble_eq_true rfl) q1654 rfl rfl (mset_3 _ _ _) rfl rfl dX6_takePart_175 ?_
  refine j_wm (fun m2 e_m2 => ?_)
  have hw := hw m2 e_m2
  exact j_vret hE hK dX6_takePart_178 ⟨_, rfl, hw⟩
def wX6_takePart_147 (P : Int32 → MS → (MS → Prop) → Prop) (x2 : Int32) (x3 : Int32) (s1 : Int32) (m : MS) (K : MS → Prop) : Prop :=
  (x2 = 0 → (wX6_takePart_165 P s1 x3 m K)) ∧ (¬ x2 = 0 → (vp_in (gF m 3) 1002 ∧ (wX6_takePart_165 P s1 ((rdL (gL m 0) (gF m 3)).toInt32) m K)))
set_option maxRecDepth 100000 in
theorem bX6_takePart_147 {E : jE} {FT LT : Nat} (hE : jOk E cX6_takePart RX6) (hn : E.2.2.2.2 = 4) (hR : jRoom E (FT + 5) (LT + 120)) {ad : Nat → Nat} (hA : adOk ad) {r : GW} {b : Nat × Nat} {K : MS → Prop} (hK : jRv E (KMV ad r K)) {P : Int32 → MS → (MS → Prop) → Prop} {x2 : Int32} {x3 : Int32} {s1 : Int32} {m : MS} (hP : RecP E.1.2.1 E.2.2.1 ad r FT LT P) (hF : 20 ≤ FT ∧ 300 ≤ LT) (hw : wX6_takePart_147 P x2 x3 s1 m K) : J E (mwX ad m r) b [(0, .ref (ad 0)), (2, .int (x2)), (3, .int (x3))] 147 [.int (s1), .ref (ad 0)] := by
  unfold wX6_takePart_147 at hw
  refine j_iload_n hE 1 dX6_takePart_147 rfl rfl ?_
  refine j_if_eq hE 164 dX6_takePart_148 (by decide) (fun c1 => ?_) (fun c1 => ?_)
  · have hw := hw.1 c1
    refine j_iload_n hE 2 dX6_takePart_164 rfl rfl ?_
    refine j_sub [(0, .ref (ad 0))] [0] rfl ?_
    exact bX6_takePart_165 hE hn hR hA hK hP hF  hw
  · have hw := hw.2 c1
    refine j_aload_n hE 0 dX6_takePart_151 rfl rfl ?_
    refine jm_get hE hA 6 (Nat.le_of_ble_eq_true rfl) q1653 rfl (v := .ref (ad 14)) rfl dX6_takePart_152 ?_
    refine j_aload_n hE 0 dX6_takePart_155 rfl rfl ?_
    refine jm_get hE hA 7 (Nat.le_of_ble_eq_true rfl) q1654 rfl (v := .int (gF m 3)) rfl dX6_takePart_156 ?_
    obtain ⟨h2, hw⟩ := hw
    refine jm_lald hE hA 0 (Nat.le_of_ble_eq_true rfl) h2 dX6_takePart_159 ?_
    refine j_l2i hE dX6_takePart_160 ?_
    refine j_goto hE 165 dX6_takePart_161 (by decide) ?_
    refine j_sub [(0, .ref (ad 0))] [0] rfl ?_
    exact bX6_takePart_165 hE hn hR hA hK hP hF  hw
def wX6_takePart_79 (P : Int32 → MS → (MS → Prop) → Prop) (x1 : Int32) (x2 : Int32) (x3 : Int32) (m : MS) (K : MS → Prop) : Prop :=
  ((gF m 4) ≤ 0 → (wX6_hasWord (nI 19) m (fun r2 m3 => (r2 = 0 → (wX6_hasSign (nI 40) m3 (fun r5 m6 => (r5 = 0 → ((x2 = 0 → (wX6_takePart_147 P x2 x3 (nI 2) m6 K)) ∧ (¬ x2 = 0 → (wX6_takePart_147 P x2 x3 1 m6 K)))) ∧ (¬ r5 = 0 → (wX6_whole P (x1 + 1) m6 (fun  m9 => wX6_takeSign (nI 41) m9 (fun  m10 => K m10))))))) ∧ (¬ r2 = 0 → (P (x1 + 1) m3 (fun  m11 => wX6_emit (nI 3) 0 m11 (fun  m12 => K m12))))))) ∧ (¬ (gF m 4) ≤ 0 → (K m))
set_option maxRecDepth 100000 in
theorem bX6_takePart_79 {E : jE} {FT LT : Nat} (hE : jOk E cX6_takePart RX6) (hn : E.2.2.2.2 = 4) (hR : jRoom E (FT + 5) (LT + 120)) {ad : Nat → Nat} (hA : adOk ad) {r : GW} {b : Nat × Nat} {K : MS → Prop} (hK : jRv E (KMV ad r K)) {P : Int32 → MS → (MS → Prop) → Prop} {x1 : Int32} {x2 : Int32} {x3 : Int32} {m : MS} (hP : RecP E.1.2.1 E.2.2.1 ad r FT LT P) (hF : 20 ≤ FT ∧ 300 ≤ LT) (hw : wX6_takePart_79 P x1 x2 x3 m K) : J E (mwX ad m r) b [(0, .ref (ad 0)), (1, .int (x1)), (2, .int (x2)), (3, .int (x3))] 79 [] := by
  unfold wX6_takePart_79 at hw
  refine j_aload_n hE 0 dX6_takePart_79 rfl rfl ?_
  refine jm_get hE hA 8 (Nat.le_of_ble_eq_true rfl) q1655 rfl (v := .int (gF m 4)) rfl dX6_takePart_80 ?_
  refine j_if_le hE 87 dX6_takePart_83 (by decide) (fun c1 => ?_) (fun c1 => ?_)
  · have hw := hw.1 c1
    refine j_aload_n hE 0 dX6_takePart_87 rfl rfl ?_
    refine j_bipush hE dX6_takePart_88 kb_19 ?_
    refine jm_cI hE hA hR (As := [.int (nI 19)]) (rest := []) (ctX6_hasWord E.1.2.1 E.2.2.1 hA _ _ _  _ hw) rfl lkX6_hasWord jdX6_hasWord ⟨by omega, by omega⟩ rfl (Nat.le_of_ble_eq_true rfl) dX6_takePart_90 (fun r2 m3 hw => ?_)
    refine j_if_eq hE 112 dX6_takePart_93 (by decide) (fun c4 => ?_) (fun c4 => ?_)
    · have hw := hw.1 c4
      refine j_aload_n hE 0 dX6_takePart_112 rfl rfl ?_
      refine j_bipush hE dX6_takePart_113 kb_40 ?_
      refine jm_cI hE hA hR (As := [.int (nI 40)]) (rest := []) (ctX6_hasSign E.1.2.1 E.2.2.1 hA _ _ _  _ hw) rfl lkX6_hasSign jdX6_hasSign ⟨by omega, by omega⟩ rfl (Nat.le_of_ble_eq_true rfl) dX6_takePart_115 (fun r5 m6 hw => ?_)
      refine j_if_eq hE 137 dX6_takePart_118 (by decide) (fun c7 => ?_) (fun c7 => ?_)
      · have hw := hw.1 c7
        refine j_aload_n hE 0 dX6_takePart_137 rfl rfl ?_
        refine j_iload_n hE 2 dX6_takePart_138 rfl rfl ?_
        refine j_if_eq hE 146 dX6_takePart_139 (by decide) (fun c8 => ?_) (fun c8 => ?_)
        · have hw := hw.1 c8
          refine j_iconst hE dX6_takePart_146 kc_2 ?_
          refine j_sub [(0, .ref (ad 0)), (2, .int (x2)), (3, .int (x3))] [0, 2, 3] rfl ?_
          exact bX6_takePart_147 hE hn hR hA hK hP hF  hw
        · have hw := hw.2 c8
          refine j_iconst hE dX6_takePart_142 kc_1 ?_
          refine j_goto hE 147 dX6_takePart_143 (by decide) ?_
          refine j_sub [(0, .ref (ad 0)), (2, .int (x2)), (3, .int (x3))] [0, 2, 3] rfl ?_
          exact bX6_takePart_147 hE hn hR hA hK hP hF  hw
      · have hw := hw.2 c7
        refine j_aload_n hE 0 dX6_takePart_121 rfl rfl ?_
        refine j_iload_n hE 1 dX6_takePart_122 rfl rfl ?_
        refine j_iconst hE dX6_takePart_123 kc_1 ?_
        refine j_iadd hE dX6_takePart_124 ?_
        refine jm_cV hE hA hR (As := [.int (x1 + 1)]) (rest := []) (ctX6_whole E.1.2.1 E.2.2.1 hA hP hF _ _  _ hw) rfl lkX6_whole jdX6_whole ⟨by omega, by omega⟩ rfl (Nat.le_of_ble_eq_true rfl) dX6_takePart_125 (fun  m9 hw => ?_)
        refine j_aload_n hE 0 dX6_takePart_128 rfl rfl ?_
        refine j_bipush hE dX6_takePart_129 kb_41 ?_
        refine jm_cV hE hA hR (As := [.int (nI 41)]) (rest := []) (ctX6_takeSign E.1.2.1 E.2.2.1 hA _ _ _  _ hw) rfl lkX6_takeSign jdX6_takeSign ⟨by omega, by omega⟩ rfl (Nat.le_of_ble_eq_true rfl) dX6_takePart_131 (fun  m10 hw => ?_)
        refine j_goto hE 178 dX6_takePart_134 (by decide) ?_
        exact j_vret hE hK dX6_takePart_178 ⟨_, rfl, hw⟩
    · have hw := hw.2 c4
      refine j_aload_n hE 0 dX6_takePart_96 rfl rfl ?_
      refine j_iload_n hE 1 dX6_takePart_97 rfl rfl ?_
      refine j_iconst hE dX6_takePart_98 kc_1 ?_
      refine j_iadd hE dX6_takePart_99 ?_
      refine jm_cV hE hA hR (As := [.int (x1 + 1)]) (rest := []) (hP _ _ _ hw) rfl lkX6_takePart jdX6_takePart ⟨by omega, by omega⟩ rfl (Nat.le_of_ble_eq_true rfl) dX6_takePart_100 (fun  m11 hw => ?_)
      refine j_aload_n hE 0 dX6_takePart_103 rfl rfl ?_
      refine j_iconst hE dX6_takePart_104 kc_3 ?_
      refine j_iconst hE dX6_takePart_105 kc_0 ?_
      refine jm_cV hE hA hR (As := [.int (nI 3), .int (0)]) (rest := []) (ctX6_emit E.1.2.1 E.2.2.1 hA _ _ _ _  _ hw) rfl lkX6_emit jdX6_emit ⟨by omega, by omega⟩ rfl (Nat.le_of_ble_eq_true rfl) dX6_takePart_106 (fun  m12 hw => ?_)
      refine j_goto hE 178 dX6_takePart_109 (by decide) ?_
      exact j_vret hE hK dX6_takePart_178 ⟨_, rfl, hw⟩
  · have hw := hw.2 c1
    exact j_vret hE hK dX6_takePart_86 ⟨_, rfl, hw⟩
def wX6_takePart_69 (P : Int32 → MS → (MS → Prop) → Prop) (x1 : Int32) (x2 : Int32) (x3 : Int32) (m : MS) (K : MS → Prop) : Prop :=
  (¬ x1 = (nI 5) → (wX6_takePart_79 P x1 x2 x3 m K)) ∧ (x1 = (nI 5) → (wX6_wrong (nI 5) m (fun  m2 => wX6_takePart_79 P x1 x2 x3 m2 K)))
set_option maxRecDepth 100000 in
theorem bX6_takePart_69 {E : jE} {FT LT : Nat} (hE : jOk E cX6_takePart RX6) (hn : E.2.2.2.2 = 4) (hR : jRoom E (FT + 5) (LT + 120)) {ad : Nat → Nat} (hA : adOk ad) {r : GW} {b : Nat × Nat} {K : MS → Prop} (hK : jRv E (KMV ad r K)) {P : Int32 → MS → (MS → Prop) → Prop} {x1 : Int32} {x2 : Int32} {x3 : Int32} {m : MS} (hP : RecP E.1.2.1 E.2.2.1 ad r FT LT P) (hF : 20 ≤ FT ∧ 300 ≤ LT) (hw : wX6_takePart_69 P x1 x2 x3 m K) : J E (mwX ad m r) b [(0, .ref (ad 0)), (1, .int (x1)), (2, .int (x2)), (3, .int (x3))] 69 [] := by
  unfold wX6_takePart_69 at hw
  refine j_iload_n hE 1 dX6_takePart_69 rfl rfl ?_
  refine j_iconst hE dX6_takePart_70 kc_5 ?_
  refine j_icmp_ne hE 79 dX6_takePart_71 (by decide) (fun c1 => ?_) (fun c1 => ?_)
  · have hw := hw.1 c1
    exact bX6_takePart_79 hE hn hR hA hK hP hF  hw
  · have hw := hw.2 c1
    refine j_aload_n hE 0 dX6_takePart_74 rfl rfl ?_
    refine j_iconst hE dX6_takePart_75 kc_5 ?_
    refine jm_cV hE hA hR (As := [.int (nI 5)]) (rest := []) (ctX6_wrong E.1.2.1 E.2.2.1 hA _ _ _  _ hw) rfl lkX6_wrong jdX6_wrong ⟨by omega, by omega⟩ rfl (Nat.le_of_ble_eq_true rfl) dX6_takePart_76 (fun  m2 hw => ?_)
    exact bX6_takePart_79 hE hn hR hA hK hP hF  hw
def wX6_takePart_26 (P : Int32 → MS → (MS → Prop) → Prop) (x1 : Int32) (s0 : Int32) (m : MS) (K : MS → Prop) : Prop :=
  wX6_wordHere (nI 22) (nI 4) m (fun r1 => (0 ≤ r1 → (wX6_takePart_69 P x1 s0 r1 m K)) ∧ (¬ 0 ≤ r1 → ((¬ s0 = 0 → (wX6_takePart_69 P x1 s0 r1 m K)) ∧ (s0 = 0 → (wX6_isSign (nI 40) m (fun r4 => (¬ r4 = 0 → (wX6_takePart_69 P x1 s0 r1 m K)) ∧ (r4 = 0 → (wX6_isWord (nI 19) m (fun r6 => (¬ r6 = 0 → (wX6_takePart_69 P x1 s0 r1 m K)) ∧ (r6 = 0 → (wX6_wrong 1 m (fun  m8 => wX6_takePart_79 P x1 s0 r1 m8 K))))))))))))
set_option maxRecDepth 100000 in
theorem bX6_takePart_26 {E : jE} {FT LT : Nat} (hE : jOk E cX6_takePart RX6) (hn : E.2.2.2.2 = 4) (hR : jRoom E (FT + 5) (LT + 120)) {ad : Nat → Nat} (hA : adOk ad) {r : GW} {b : Nat × Nat} {K : MS → Prop} (hK : jRv E (KMV ad r K)) {P : Int32 → MS → (MS → Prop) → Prop} {x1 : Int32} {s0 : Int32} {m : MS} (hP : RecP E.1.2.1 E.2.2.1 ad r FT LT P) (hF : 20 ≤ FT ∧ 300 ≤ LT) (hw : wX6_takePart_26 P x1 s0 m K) : J E (mwX ad m r) b [(0, .ref (ad 0)), (1, .int (x1))] 26 [.int (s0)] := by
  unfold wX6_takePart_26 at hw
  refine j_istore_n (L' := [(2, .int (s0)), (0, .ref (ad 0)), (1, .int (x1))]) hE hn dX6_takePart_26 rfl (Nat.le_of_ble_eq_true rfl) rfl ?_
  refine j_aload_n hE 1 dX6_takePart_27 rfl rfl ?_
  refine j_bipush hE dX6_takePart_28 kb_22 ?_
  refine j_iconst hE dX6_takePart_30 kc_4 ?_
  refine jm_pI hE hA hR (As := [.int (nI 22), .int (nI 4)]) (rest := []) (ctX6_wordHere E.1.2.1 E.2.2.1 hA _ _ _ _  _ hw) rfl lkX6_wordHere jdX6_wordHere ⟨by omega, by omega⟩ rfl (Nat.le_of_ble_eq_true rfl) dX6_takePart_31 (fun r1 hw => ?_)
  refine j_istore_n (L' := [(3, .int (r1)), (2, .int (s0)), (0, .ref (ad 0)), (1, .int (x1))]) hE hn dX6_takePart_34 rfl (Nat.le_of_ble_eq_true rfl) rfl ?_
  refine j_iload_n hE 0 dX6_takePart_35 rfl rfl ?_
  refine j_if_ge hE 69 dX6_takePart_36 (by decide) (fun c2 => ?_) (fun c2 => ?_)
  · have hw := hw.1 c2
    refine j_sub [(0, .ref (ad 0)), (1, .int (x1)), (2, .int (s0)), (3, .int (r1))] [2, 3, 1, 0] rfl ?_
    exact bX6_takePart_69 hE hn hR hA hK hP hF  hw
  · have hw := hw.2 c2
    refine j_iload_n hE 1 dX6_takePart_39 rfl rfl ?_
    refine j_if_ne hE 69 dX6_takePart_40 (by decide) (fun c3 => ?_) (fun c3 => ?_)
    · have hw := hw.1 c3
      refine j_sub [(0, .ref (ad 0)), (1, .int (x1)), (2, .int (s0)), (3, .int (r1))] [2, 3, 1, 0] rfl ?_
      exact bX6_takePart_69 hE hn hR hA hK hP hF  hw
    · have hw := hw.2 c3
      refine j_aload_n hE 2 dX6_takePart_43 rfl rfl ?_
      refine j_bipush hE dX6_takePart_44 kb_40 ?_
      refine jm_pI hE hA hR (As := [.int (nI 40)]) (rest := []) (ctX6_isSign E.1.2.1 E.2.2.1 hA _ _ _  _ hw) rfl lkX6_isSign jdX6_isSign ⟨by omega, by omega⟩ rfl (Nat.le_of_ble_eq_true rfl) dX6_takePart_46 (fun r4 hw => ?_)
      refine j_if_ne hE 69 dX6_takePart_49 (by decide) (fun c5 => ?_) (fun c5 => ?_)
      · have hw := hw.1 c5
        refine j_sub [(0, .ref (ad 0)), (1, .int (x1)), (2, .int (s0)), (3, .int (r1))] [2, 3, 1, 0] rfl ?_
        exact bX6_takePart_69 hE hn hR hA hK hP hF  hw
      · have hw := hw.2 c5
        refine j_aload_n hE 2 dX6_takePart_52 rfl rfl ?_
        refine j_bipush hE dX6_takePart_53 kb_19 ?_
        refine jm_pI hE hA hR (As := [.int (nI 19)]) (rest := []) (ctX6_isWord E.1.2.1 E.2.2.1 hA _ _ _  _ hw) rfl lkX6_isWord jdX6_isWord ⟨by omega, by omega⟩ rfl (Nat.le_of_ble_eq_true rfl) dX6_takePart_55 (fun r6 hw => ?_)
        refine j_if_ne hE 69 dX6_takePart_58 (by decide) (fun c7 => ?_) (fun c7 => ?_)
        · have hw := hw.1 c7
          refine j_sub [(0, .ref (ad 0)), (1, .int (x1)), (2, .int (s0)), (3, .int (r1))] [2, 3, 1, 0] rfl ?_
          exact bX6_takePart_69 hE hn hR hA hK hP hF  hw
        · have hw := hw.2 c7
          refine j_aload_n hE 2 dX6_takePart_61 rfl rfl ?_
          refine j_iconst hE dX6_takePart_62 kc_1 ?_
          refine jm_cV hE hA hR (As := [.int (1)]) (rest := []) (ctX6_wrong E.1.2.1 E.2.2.1 hA _ _ _  _ hw) rfl lkX6_wrong jdX6_wrong ⟨by omega, by omega⟩ rfl (Nat.le_of_ble_eq_true rfl) dX6_takePart_63 (fun  m8 hw => ?_)
          refine j_goto hE 79 dX6_takePart_66 (by decide) ?_
          refine j_sub [(0, .ref (ad 0)), (1, .int (x1)), (2, .int (s0)), (3, .int (r1))] [2, 3, 1, 0] rfl ?_
          exact bX6_takePart_79 hE hn hR hA hK hP hF  hw
def wX6_takePart_0 (P : Int32 → MS → (MS → Prop) → Prop) (x1 : Int32) (m : MS) (K : MS → Prop) : Prop :=
  ((gF m 4) ≤ 0 → (vp_in (gF m 3) 1002 ∧ ((¬ (rd (gA m 1) (gF m 3)) = (nI 2) → (wX6_takePart_26 P x1 0 m K)) ∧ ((rd (gA m 1) (gF m 3)) = (nI 2) → (wX6_takePart_26 P x1 1 m K))))) ∧ (¬ (gF m 4) ≤ 0 → (K m))
set_option maxRecDepth 100000 in
theorem bX6_takePart_0 {E : jE} {FT LT : Nat} (hE : jOk E cX6_takePart RX6) (hn : E.2.2.2.2 = 4) (hR : jRoom E (FT + 5) (LT + 120)) {ad : Nat → Nat} (hA : adOk ad) {r : GW} {b : Nat × Nat} {K : MS → Prop} (hK : jRv E (KMV ad r K)) {P : Int32 → MS → (MS → Prop) → Prop} {x1 : Int32} {m : MS} (hP : RecP E.1.2.1 E.2.2.1 ad r FT LT P) (hF : 20 ≤ FT ∧ 300 ≤ LT) (hw : wX6_takePart_0 P x1 m K) : J E (mwX ad m r) b [(0, .ref (ad 0)), (1, .int (x1))] 0 [] := by
  unfold wX6_takePart_0 at hw
  refine j_aload_n hE 0 dX6_takePart_0 rfl rfl ?_
  refine jm_get hE hA 8 (Nat.le_of_ble_eq_true rfl) q1655 rfl (v := .int (gF m 4)) rfl dX6_takePart_1 ?_
  refine j_if_le hE 8 dX6_takePart_4 (by decide) (fun c1 => ?_) (fun c1 => ?_)
  · have hw := hw.1 c1
    refine j_aload_n hE 0 dX6_takePart_8 rfl rfl ?_
    refine jm_get hE hA 4 (Nat.le_of_ble_eq_true rfl) q1651 rfl (v := .ref (ad 2)) rfl dX6_takePart_9 ?_
    refine j_aload_n hE 0 dX6_takePart_12 rfl rfl ?_
    refine jm_get hE hA 7 (Nat.le_of_ble_eq_true rfl) q1654 rfl (v := .int (gF m 3)) rfl dX6_takePart_13 ?_
    obtain ⟨h2, hw⟩ := hw
    refine jm_iald hE hA 1 (Nat.le_of_ble_eq_true rfl) h2 dX6_takePart_16 ?_
    refine j_iconst hE dX6_takePart_17 kc_2 ?_
    refine j_icmp_ne hE 25 dX6_takePart_18 (by decide) (fun c3 => ?_) (fun c3 => ?_)
    · have hw := hw.1 c3
      refine j_iconst hE dX6_takePart_25 kc_0 ?_
      exact bX6_takePart_26 hE hn hR hA hK hP hF  hw
    · have hw := hw.2 c3
      refine j_iconst hE dX6_takePart_21 kc_1 ?_
      refine j_goto hE 26 dX6_takePart_22 (by decide) ?_
      exact bX6_takePart_26 hE hn hR hA hK hP hF  hw
  · have hw := hw.2 c1
    exact j_vret hE hK dX6_takePart_7 ⟨_, rfl, hw⟩
def wX6_takePart : Nat → Int32 → MS → (MS → Prop) → Prop
  | 0 => fun _ _ _ => False
  | n + 1 => wX6_takePart_0 (wX6_takePart n)
theorem ctX6_takePart_s (l : Launch) (G : gG) {ad : Nat → Nat} (hA : adOk ad) {r : GW} {FT LT : Nat} {P : Int32 → MS → (MS → Prop) → Prop} (hP : RecP l G ad r FT LT P) (hF : 20 ≤ FT ∧ 300 ≤ LT) {F2 L2 : Nat} (h2 : FT + 5 ≤ F2 ∧ LT + 120 ≤ L2) (m : MS) (x1 : Int32) (K : MS → Prop) (hw : wX6_takePart_0 P x1 m K) : CtV l yX6_takePart cX6_takePart 4 ({ frames := F2, cells := 0, slots := 0, locals := L2 }) G [.ref (ad 0), .int (x1)] (mwX ad m r) (KMV ad r K) :=
  CtV.of RX6 plain_X6 rfl (Nat.le_of_ble_eq_true rfl) (fun E hE hl hG hn hR hK => bX6_takePart_0 hE hn (hR.le h2.1 h2.2) hA hK (by rw [hl, hG]; exact hP) hF hw)
theorem recX6 (l : Launch) (G : gG) {ad : Nat → Nat} (hA : adOk ad) (r : GW) (n : Nat) : RecP l G ad r (20 + 5 * n) (300 + 200 * n) (wX6_takePart n) := by
  induction n with
  | zero => exact fun _ _ _ h => h.elim
  | succ n ih =>
    intro d m K h
    exact ctX6_takePart_s l G hA ih ⟨by omega, by omega⟩ ⟨by omega, by omega⟩ m d K h
def wX6_readOnce_37 (x1 : Int32) (m : MS) (K : MS → Prop) : Prop :=
  ((gF m 4) ≤ 0 → (∀ m2 : MS, m2 = sF m 8 ((gF m 8) ||| (ishl 1 x1)) → (∀ m3 : MS, m3 = sF m2 3 ((gF m2 3) + 1) → ((¬ x1 = 0 → (vp_in (nI 64) 120 ∧ (∀ m6 : MS, m6 = wA m3 3 (nI 64) (gF m3 5) → (wX6_whole (wX6_takePart 7) 0 m6 (fun  m7 => wX6_emit 0 0 m7 (fun  m8 => K m8)))))) ∧ (x1 = 0 → (wX6_readLight  m3 (fun  m9 => K m9))))))) ∧ (¬ (gF m 4) ≤ 0 → (K m))
set_option maxRecDepth 100000 in
theorem bX6_readOnce_37 {E : jE} (hE : jOk E cX6_readOnce RX6) (hn : E.2.2.2.2 = 2) (hR : jRoom E 60 1820) {ad : Nat → Nat} (hA : adOk ad) {r : GW} {b : Nat × Nat} {K : MS → Prop} (hK : jRv E (KMV ad r K)) {x1 : Int32} {m : MS}  (hw : wX6_readOnce_37 x1 m K) : J E (mwX ad m r) b [(0, .ref (ad 0)), (1, .int (x1))] 37 [] := by
  unfold wX6_readOnce_37 at hw
  refine j_aload_n hE 0 dX6_readOnce_37 rfl rfl ?_
  refine jm_get hE hA 8 (Nat.le_of_ble_eq_true rfl) q1655 rfl (v := .int (gF m 4)) rfl dX6_readOnce_38 ?_
  refine j_if_le hE 45 dX6_readOnce_41 (by decide) (fun c1 => ?_) (fun c1 => ?_)
  · have hw := hw.1 c1
    refine j_aload_n hE 0 dX6_readOnce_45 rfl rfl ?_
    refine j_dup hE dX6_readOnce_46 rfl ?_
    refine jm_get hE hA 20 (Nat.le_of_ble_eq_true rfl) q1667 rfl (v := .int (gF m 8)) rfl dX6_readOnce_47 ?_
    refine j_iconst hE dX6_readOnce_50 kc_1 ?_
    refine j_iload_n hE 1 dX6_readOnce_51 rfl rfl ?_
    refine j_ishl hE dX6_readOnce_52 ?_
    refine j_ior hE dX6_readOnce_53 ?_
    refine jm_putF hE hA 20 8 (Nat.le_of_ble_eq_true rfl) q1667 rfl rfl (mset_8 _ _ _) rfl rfl dX6_readOnce_54 ?_
    refine j_wm (fun m2 e_m2 => ?_)
    have hw := hw m2 e_m2
    refine j_aload_n hE 0 dX6_readOnce_57 rfl rfl ?_
    refine j_dup hE dX6_readOnce_58 rfl ?_
    refine jm_get hE hA 7 (Nat.le_of_ble_eq_true rfl) q1654 rfl (v := .int (gF m2 3)) rfl dX6_readOnce_59 ?_
    refine j_iconst hE dX6_readOnce_62 kc_1 ?_
    refine j_iadd hE dX6_readOnce_63 ?_
    refine jm_putF hE hA 7 3 (Nat.le_of_ble_eq_true rfl) q1654 rfl rfl (mset_3 _ _ _) rfl rfl dX6_readOnce_64 ?_
    refine j_wm (fun m3 e_m3 => ?_)
    have hw := hw m3 e_m3
    refine j_iload_n hE 1 dX6_readOnce_67 rfl rfl ?_
    refine j_if_ne hE 78 dX6_readOnce_68 (by decide) (fun c4 => ?_) (fun c4 => ?_)
    · have hw := hw.1 c4
      refine j_aload_n hE 0 dX6_readOnce_78 rfl rfl ?_
      refine jm_get hE hA 10 (Nat.le_of_ble_eq_true rfl) q1657 rfl (v := .ref (ad 4)) rfl dX6_readOnce_79 ?_
      refine j_bipush hE dX6_readOnce_82 kb_64 ?_
      refine j_aload_n hE 0 dX6_readOnce_84 rfl rfl ?_
      refine jm_get hE hA 13 (Nat.le_of_ble_eq_true rfl) q1660 rfl (v := .int (gF m3 5)) rfl dX6_readOnce_85 ?_
      obtain ⟨h5, hw⟩ := hw
      refine jm_iast hE hA 3 (Nat.le_of_ble_eq_true rfl) h5 dX6_readOnce_88 ?_
      refine j_wm (fun m6 e_m6 => ?_)
      have hw := hw m6 e_m6
      refine j_aload_n hE 0 dX6_readOnce_89 rfl rfl ?_
      refine j_iconst hE dX6_readOnce_90 kc_0 ?_
      refine jm_cV hE hA hR (As := [.int (0)]) (rest := []) (ctX6_whole E.1.2.1 E.2.2.1 hA (recX6 E.1.2.1 E.2.2.1 hA _ 7) (by decide) _ _  _ hw) rfl lkX6_whole jdX6_whole ⟨Nat.le_of_ble_eq_true rfl, Nat.le_of_ble_eq_true rfl⟩ rfl (Nat.le_of_ble_eq_true rfl) dX6_readOnce_91 (fun  m7 hw => ?_)
      refine j_aload_n hE 0 dX6_readOnce_94 rfl rfl ?_
      refine j_iconst hE dX6_readOnce_95 kc_0 ?_
      refine j_iconst hE dX6_readOnce_96 kc_0 ?_
      refine jm_cV hE hA hR (As := [.int (0), .int (0)]) (rest := []) (ctX6_emit E.1.2.1 E.2.2.1 hA _ _ _ _  _ hw) rfl lkX6_emit jdX6_emit ⟨Nat.le_of_ble_eq_true rfl, Nat.le_of_ble_eq_true rfl⟩ rfl (Nat.le_of_ble_eq_true rfl) dX6_readOnce_97 (fun  m8 hw => ?_)
      exact j_vret hE hK dX6_readOnce_100 ⟨_, rfl, hw⟩
    · have hw := hw.2 c4
      refine j_aload_n hE 0 dX6_readOnce_71 rfl rfl ?_
      refine jm_cV hE hA hR (As := []) (rest := []) (ctX6_readLight E.1.2.1 E.2.2.1 hA _ _  _ hw) rfl lkX6_readLight jdX6_readLight ⟨Nat.le_of_ble_eq_true rfl, Nat.le_of_ble_eq_true rfl⟩ rfl (Nat.le_of_ble_eq_true rfl) dX6_readOnce_72 (fun  m9 hw => ?_)
      refine j_goto hE 100 dX6_readOnce_75 (by decide) ?_
      exact j_vret hE hK dX6_readOnce_100 ⟨_, rfl, hw⟩
  · have hw := hw.2 c1
    exact j_vret hE hK dX6_readOnce_44 ⟨_, rfl, hw⟩
def wX6_readOnce_0 (m : MS) (K : MS → Prop) : Prop :=
  wX6_wordHere (nI 7) (nI 2) m (fun r1 => (0 ≤ r1 → ((¬ ((ishr (gF m 8) r1) &&& 1) = 1 → (wX6_readOnce_37 r1 m K)) ∧ (((ishr (gF m 8) r1) &&& 1) = 1 → (wX6_wrong (nI 3) m (fun  m4 => wX6_readOnce_37 r1 m4 K))))) ∧ (¬ 0 ≤ r1 → (wX6_wrong 1 m (fun  m5 => wX6_readOnce_37 r1 m5 K))))
set_option maxRecDepth 100000 in
theorem bX6_readOnce_0 {E : jE} (hE : jOk E cX6_readOnce RX6) (hn : E.2.2.2.2 = 2) (hR : jRoom E 60 1820) {ad : Nat → Nat} (hA : adOk ad) {r : GW} {b : Nat × Nat} {K : MS → Prop} (hK : jRv E (KMV ad r K)) {m : MS}  (hw : wX6_readOnce_0 m K) : J E (mwX ad m r) b [(0, .ref (ad 0))] 0 [] := by
  unfold wX6_readOnce_0 at hw
  refine j_aload_n hE 0 dX6_readOnce_0 rfl rfl ?_
  refine j_bipush hE dX6_readOnce_1 kb_7 ?_
  refine j_iconst hE dX6_readOnce_3 kc_2 ?_
  refine jm_pI hE hA hR (As := [.int (nI 7), .int (nI 2)]) (rest := []) (ctX6_wordHere E.1.2.1 E.2.2.1 hA _ _ _ _  _ hw) rfl lkX6_wordHere jdX6_wordHere ⟨Nat.le_of_ble_eq_true rfl, Nat.le_of_ble_eq_true rfl⟩ rfl (Nat.le_of_ble_eq_true rfl) dX6_readOnce_4 (fun r1 hw => ?_)
  refine j_istore_n (L' := [(1, .int (r1)), (0, .ref (ad 0))]) hE hn dX6_readOnce_7 rfl (Nat.le_of_ble_eq_true rfl) rfl ?_
  refine j_iload_n hE 0 dX6_readOnce_8 rfl rfl ?_
  refine j_if_ge hE 20 dX6_readOnce_9 (by decide) (fun c2 => ?_) (fun c2 => ?_)
  · have hw := hw.1 c2
    refine j_aload_n hE 1 dX6_readOnce_20 rfl rfl ?_
    refine jm_get hE hA 20 (Nat.le_of_ble_eq_true rfl) q1667 rfl (v := .int (gF m 8)) rfl dX6_readOnce_21 ?_
    refine j_iload_n hE 0 dX6_readOnce_24 rfl rfl ?_
    refine j_ishr hE dX6_readOnce_25 ?_
    refine j_iconst hE dX6_readOnce_26 kc_1 ?_
    refine j_iand hE dX6_readOnce_27 ?_
    refine j_iconst hE dX6_readOnce_28 kc_1 ?_
    refine j_icmp_ne hE 37 dX6_readOnce_29 (by decide) (fun c3 => ?_) (fun c3 => ?_)
    · have hw := hw.1 c3
      refine j_sub [(0, .ref (ad 0)), (1, .int (r1))] [1, 0] rfl ?_
      exact bX6_readOnce_37 hE hn hR hA hK  hw
    · have hw := hw.2 c3
      refine j_aload_n hE 1 dX6_readOnce_32 rfl rfl ?_
      refine j_iconst hE dX6_readOnce_33 kc_3 ?_
      refine jm_cV hE hA hR (As := [.int (nI 3)]) (rest := []) (ctX6_wrong E.1.2.1 E.2.2.1 hA _ _ _  _ hw) rfl lkX6_wrong jdX6_wrong ⟨Nat.le_of_ble_eq_true rfl, Nat.le_of_ble_eq_true rfl⟩ rfl (Nat.le_of_ble_eq_true rfl) dX6_readOnce_34 (fun  m4 hw => ?_)
      refine j_sub [(0, .ref (ad 0)), (1, .int (r1))] [1, 0] rfl ?_
      exact bX6_readOnce_37 hE hn hR hA hK  hw
  · have hw := hw.2 c2
    refine j_aload_n hE 1 dX6_readOnce_12 rfl rfl ?_
    refine j_iconst hE dX6_readOnce_13 kc_1 ?_
    refine jm_cV hE hA hR (As := [.int (1)]) (rest := []) (ctX6_wrong E.1.2.1 E.2.2.1 hA _ _ _  _ hw) rfl lkX6_wrong jdX6_wrong ⟨Nat.le_of_ble_eq_true rfl, Nat.le_of_ble_eq_true rfl⟩ rfl (Nat.le_of_ble_eq_true rfl) dX6_readOnce_14 (fun  m5 hw => ?_)
    refine j_goto hE 37 dX6_readOnce_17 (by decide) ?_
    refine j_sub [(0, .ref (ad 0)), (1, .int (r1))] [1, 0] rfl ?_
    exact bX6_readOnce_37 hE hn hR hA hK  hw
abbrev wX6_readOnce := wX6_readOnce_0
theorem ctX6_readOnce (l : Launch) (G : gG) {ad : Nat → Nat} (hA : adOk ad) (m0 : MS) (r : GW)  (K : MS → Prop) (hw : wX6_readOnce m0 K) : CtV l yX6_readOnce cX6_readOnce 2 ({ frames := 60, cells := 0, slots := 0, locals := 1820 }) G [.ref (ad 0)] (mwX ad m0 r) (KMV ad r K) :=
  CtV.of RX6 plain_X6 rfl (Nat.le_of_ble_eq_true rfl) (fun E hE _ _ hn hR hK => bX6_readOnce_0 hE hn hR hA hK hw)
theorem jdX6_readOnce : jD yX6_readOnce 0 := by decide +kernel
theorem lkX6_readOnce : GoodIn lw_all (wsV RX6 228 yX6_readOnce.cls yX6_readOnce (ws_ yX6_readOnce cX6_readOnce 2 none)) := lw_V q1818 q1820 qs74 q129 q1821
def wX6_readLine_0 (m : MS) (K : MS → Prop) : Prop :=
  wX6_isWord 0 m (fun r1 => (r1 = 0 → (wX6_isWord (nI 3) m (fun r3 => (r3 = 0 → (wX6_isWord (nI 5) m (fun r5 => (r5 = 0 → (wX6_readOnce  m (fun  m7 => K m7))) ∧ (¬ r5 = 0 → (vp_in (nI 62) 120 ∧ (∀ v9 : Int32, v9 = (nI 88) + (rd (gA m 3) (nI 62)) → (wX6_readName (nI 2) (nI 5) (nI 40) m (fun  m10 => wX6_takeAfter (nI 6) 0 (nI 99) m10 (fun r11 m12 => (¬ (gF m12 4) = 0 → (K m12)) ∧ ((gF m12 4) = 0 → (vp_in v9 120 ∧ (∀ m15 : MS, m15 = wA m12 3 v9 r11 → (K m15))))))))))))) ∧ (¬ r3 = 0 → (vp_in (nI 61) 120 ∧ (∀ v17 : Int32, v17 = (nI 83) + (rd (gA m 3) (nI 61)) → (wX6_readName 1 (nI 5) (nI 20) m (fun  m18 => wX6_takeAfter (nI 4) 0 (nI 9) m18 (fun r19 m20 => (¬ (gF m20 4) = 0 → (K m20)) ∧ ((gF m20 4) = 0 → (vp_in v17 120 ∧ (∀ m23 : MS, m23 = wA m20 3 v17 r19 → (K m23))))))))))))) ∧ (¬ r1 = 0 → (wX6_readPane  m (fun  m24 => K m24))))
set_option maxRecDepth 100000 in
theorem bX6_readLine_0 {E : jE} (hE : jOk E cX6_readLine RX6) (hn : E.2.2.2.2 = 3) (hR : jRoom E 61 1841) {ad : Nat → Nat} (hA : adOk ad) {r : GW} {b : Nat × Nat} {K : MS → Prop} (hK : jRv E (KMV ad r K)) {m : MS}  (hw : wX6_readLine_0 m K) : J E (mwX ad m r) b [(0, .ref (ad 0))] 0 [] := by
  unfold wX6_readLine_0 at hw
  refine j_aload_n hE 0 dX6_readLine_0 rfl rfl ?_
  refine j_iconst hE dX6_readLine_1 kc_0 ?_
  refine jm_pI hE hA hR (As := [.int (0)]) (rest := []) (ctX6_isWord E.1.2.1 E.2.2.1 hA _ _ _  _ hw) rfl lkX6_isWord jdX6_isWord ⟨Nat.le_of_ble_eq_true rfl, Nat.le_of_ble_eq_true rfl⟩ rfl (Nat.le_of_ble_eq_true rfl) dX6_readLine_2 (fun r1 hw => ?_)
  refine j_if_eq hE 15 dX6_readLine_5 (by decide) (fun c2 => ?_) (fun c2 => ?_)
  · have hw := hw.1 c2
    refine j_aload_n hE 0 dX6_readLine_15 rfl rfl ?_
    refine j_iconst hE dX6_readLine_16 kc_3 ?_
    refine jm_pI hE hA hR (As := [.int (nI 3)]) (rest := []) (ctX6_isWord E.1.2.1 E.2.2.1 hA _ _ _  _ hw) rfl lkX6_isWord jdX6_isWord ⟨Nat.le_of_ble_eq_true rfl, Nat.le_of_ble_eq_true rfl⟩ rfl (Nat.le_of_ble_eq_true rfl) dX6_readLine_17 (fun r3 hw => ?_)
    refine j_if_eq hE 68 dX6_readLine_20 (by decide) (fun c4 => ?_) (fun c4 => ?_)
    · have hw := hw.1 c4
      refine j_aload_n hE 0 dX6_readLine_68 rfl rfl ?_
      refine j_iconst hE dX6_readLine_69 kc_5 ?_
      refine jm_pI hE hA hR (As := [.int (nI 5)]) (rest := []) (ctX6_isWord E.1.2.1 E.2.2.1 hA _ _ _  _ hw) rfl lkX6_isWord jdX6_isWord ⟨Nat.le_of_ble_eq_true rfl, Nat.le_of_ble_eq_true rfl⟩ rfl (Nat.le_of_ble_eq_true rfl) dX6_readLine_70 (fun r5 hw => ?_)
      refine j_if_eq hE 122 dX6_readLine_73 (by decide) (fun c6 => ?_) (fun c6 => ?_)
      · have hw := hw.1 c6
        refine j_aload_n hE 0 dX6_readLine_122 rfl rfl ?_
        refine jm_cV hE hA hR (As := []) (rest := []) (ctX6_readOnce E.1.2.1 E.2.2.1 hA _ _  _ hw) rfl lkX6_readOnce jdX6_readOnce ⟨Nat.le_of_ble_eq_true rfl, Nat.le_of_ble_eq_true rfl⟩ rfl (Nat.le_of_ble_eq_true rfl) dX6_readLine_123 (fun  m7 hw => ?_)
        exact j_vret hE hK dX6_readLine_126 ⟨_, rfl, hw⟩
      · have hw := hw.2 c6
        refine j_bipush hE dX6_readLine_76 kb_88 ?_
        refine j_aload_n hE 0 dX6_readLine_78 rfl rfl ?_
        refine jm_get hE hA 10 (Nat.le_of_ble_eq_true rfl) q1657 rfl (v := .ref (ad 4)) rfl dX6_readLine_79 ?_
        refine j_bipush hE dX6_readLine_82 kb_62 ?_
        obtain ⟨h8, hw⟩ := hw
        refine jm_iald hE hA 3 (Nat.le_of_ble_eq_true rfl) h8 dX6_readLine_84 ?_
        refine j_iadd hE dX6_readLine_85 ?_
        refine j_topi (fun v9 e_v9 => ?_)
        have hw := hw v9 e_v9
        refine j_istore_n (L' := [(1, .int (v9)), (0, .ref (ad 0))]) hE hn dX6_readLine_86 rfl (Nat.le_of_ble_eq_true rfl) rfl ?_
        refine j_aload_n hE 1 dX6_readLine_87 rfl rfl ?_
        refine j_iconst hE dX6_readLine_88 kc_2 ?_
        refine j_iconst hE dX6_readLine_89 kc_5 ?_
        refine j_bipush hE dX6_readLine_90 kb_40 ?_
        refine jm_cV hE hA hR (As := [.int (nI 2), .int (nI 5), .int (nI 40)]) (rest := []) (ctX6_readName E.1.2.1 E.2.2.1 hA _ _ _ _ _  _ hw) rfl lkX6_readName jdX6_readName ⟨Nat.le_of_ble_eq_true rfl, Nat.le_of_ble_eq_true rfl⟩ rfl (Nat.le_of_ble_eq_true rfl) dX6_readLine_92 (fun  m10 hw => ?_)
        refine j_aload_n hE 1 dX6_readLine_95 rfl rfl ?_
        refine j_bipush hE dX6_readLine_96 kb_6 ?_
        refine j_iconst hE dX6_readLine_98 kc_0 ?_
        refine j_bipush hE dX6_readLine_99 kb_99 ?_
        refine jm_cI hE hA hR (As := [.int (nI 6), .int (0), .int (nI 99)]) (rest := []) (ctX6_takeAfter E.1.2.1 E.2.2.1 hA _ _ _ _ _  _ hw) rfl lkX6_takeAfter jdX6_takeAfter ⟨Nat.le_of_ble_eq_true rfl, Nat.le_of_ble_eq_true rfl⟩ rfl (Nat.le_of_ble_eq_true rfl) dX6_readLine_101 (fun r11 m12 hw => ?_)
        refine j_istore_n (L' := [(2, .int (r11)), (1, .int (v9)), (0, .ref (ad 0))]) hE hn dX6_readLine_104 rfl (Nat.le_of_ble_eq_true rfl) rfl ?_
        refine j_aload_n hE 2 dX6_readLine_105 rfl rfl ?_
        refine jm_get hE hA 8 (Nat.le_of_ble_eq_true rfl) q1655 rfl (v := .int (gF m12 4)) rfl dX6_readLine_106 ?_
        refine j_if_ne hE 119 dX6_readLine_109 (by decide) (fun c13 => ?_) (fun c13 => ?_)
        · have hw := hw.1 c13
          refine j_goto hE 126 dX6_readLine_119 (by decide) ?_
          exact j_vret hE hK dX6_readLine_126 ⟨_, rfl, hw⟩
        · have hw := hw.2 c13
          refine j_aload_n hE 2 dX6_readLine_112 rfl rfl ?_
          refine jm_get hE hA 10 (Nat.le_of_ble_eq_true rfl) q1657 rfl (v := .ref (ad 4)) rfl dX6_readLine_113 ?_
          refine j_iload_n hE 1 dX6_readLine_116 rfl rfl ?_
          refine j_iload_n hE 0 dX6_readLine_117 rfl rfl ?_
          obtain ⟨h14, hw⟩ := hw
          refine jm_iast hE hA 3 (Nat.le_of_ble_eq_true rfl) h14 dX6_readLine_118 ?_
          refine j_wm (fun m15 e_m15 => ?_)
          have hw := hw m15 e_m15
          refine j_goto hE 126 dX6_readLine_119 (by decide) ?_
          exact j_vret hE hK dX6_readLine_126 ⟨_, rfl, hw⟩
    · have hw := hw.2 c4
      refine j_bipush hE dX6_readLine_23 kb_83 ?_
      refine j_aload_n hE 0 dX6_readLine_25 rfl rfl ?_
      refine jm_get hE hA 10 (Nat.le_of_ble_eq_true rfl) q1657 rfl (v := .ref (ad 4)) rfl dX6_readLine_26 ?_
      refine j_bipush hE dX6_readLine_29 kb_61 ?_
      obtain ⟨h16, hw⟩ := hw
      refine jm_iald hE hA 3 (Nat.le_of_ble_eq_true rfl) h16 dX6_readLine_31 ?_
      refine j_iadd hE dX6_readLine_32 ?_
      refine j_topi (fun v17 e_v17 => ?_)
      have hw := hw v17 e_v17
      refine j_istore_n (L' := [(1, .int (v17)), (0, .ref (ad 0))]) hE hn dX6_readLine_33 rfl (Nat.le_of_ble_eq_true rfl) rfl ?_
      refine j_aload_n hE 1 dX6_readLine_34 rfl rfl ?_
      refine j_iconst hE dX6_readLine_35 kc_1 ?_
      refine j_iconst hE dX6_readLine_36 kc_5 ?_
      refine j_bipush hE dX6_readLine_37 kb_20 ?_
      refine jm_cV hE hA hR (As := [.int (1), .int (nI 5), .int (nI 20)]) (rest := []) (ctX6_readName E.1.2.1 E.2.2.1 hA _ _ _ _ _  _ hw) rfl lkX6_readName jdX6_readName ⟨Nat.le_of_ble_eq_true rfl, Nat.le_of_ble_eq_true rfl⟩ rfl (Nat.le_of_ble_eq_true rfl) dX6_readLine_39 (fun  m18 hw => ?_)
      refine j_aload_n hE 1 dX6_readLine_42 rfl rfl ?_
      refine j_iconst hE dX6_readLine_43 kc_4 ?_
      refine j_iconst hE dX6_readLine_44 kc_0 ?_
      refine j_bipush hE dX6_readLine_45 kb_9 ?_
      refine jm_cI hE hA hR (As := [.int (nI 4), .int (0), .int (nI 9)]) (rest := []) (ctX6_takeAfter E.1.2.1 E.2.2.1 hA _ _ _ _ _  _ hw) rfl lkX6_takeAfter jdX6_takeAfter ⟨Nat.le_of_ble_eq_true rfl, Nat.le_of_ble_eq_true rfl⟩ rfl (Nat.le_of_ble_eq_true rfl) dX6_readLine_47 (fun r19 m20 hw => ?_)
      refine j_istore_n (L' := [(2, .int (r19)), (1, .int (v17)), (0, .ref (ad 0))]) hE hn dX6_readLine_50 rfl (Nat.le_of_ble_eq_true rfl) rfl ?_
      refine j_aload_n hE 2 dX6_readLine_51 rfl rfl ?_
      refine jm_get hE hA 8 (Nat.le_of_ble_eq_true rfl) q1655 rfl (v := .int (gF m20 4)) rfl dX6_readLine_52 ?_
      refine j_if_ne hE 65 dX6_readLine_55 (by decide) (fun c21 => ?_) (fun c21 => ?_)
      · have hw := hw.1 c21
        refine j_goto hE 126 dX6_readLine_65 (by decide) ?_
        exact j_vret hE hK dX6_readLine_126 ⟨_, rfl, hw⟩
      · have hw := hw.2 c21
        refine j_aload_n hE 2 dX6_readLine_58 rfl rfl ?_
        refine jm_get hE hA 10 (Nat.le_of_ble_eq_true rfl) q1657 rfl (v := .ref (ad 4)) rfl dX6_readLine_59 ?_
        refine j_iload_n hE 1 dX6_readLine_62 rfl rfl ?_
        refine j_iload_n hE 0 dX6_readLine_63 rfl rfl ?_
        obtain ⟨h22, hw⟩ := hw
        refine jm_iast hE hA 3 (Nat.le_of_ble_eq_true rfl) h22 dX6_readLine_64 ?_
        refine j_wm (fun m23 e_m23 => ?_)
        have hw := hw m23 e_m23
        refine j_goto hE 126 dX6_readLine_65 (by decide) ?_
        exact j_vret hE hK dX6_readLine_126 ⟨_, rfl, hw⟩
  · have hw := hw.2 c2
    refine j_aload_n hE 0 dX6_readLine_8 rfl rfl ?_
    refine jm_cV hE hA hR (As := []) (rest := []) (ctX6_readPane E.1.2.1 E.2.2.1 hA _ _  _ hw) rfl lkX6_readPane jdX6_readPane ⟨Nat.le_of_ble_eq_true rfl, Nat.le_of_ble_eq_true rfl⟩ rfl (Nat.le_of_ble_eq_true rfl) dX6_readLine_9 (fun  m24 hw => ?_)
    refine j_goto hE 126 dX6_readLine_12 (by decide) ?_
    exact j_vret hE hK dX6_readLine_126 ⟨_, rfl, hw⟩
abbrev wX6_readLine := wX6_readLine_0
theorem ctX6_readLine (l : Launch) (G : gG) {ad : Nat → Nat} (hA : adOk ad) (m0 : MS) (r : GW)  (K : MS → Prop) (hw : wX6_readLine m0 K) : CtV l yX6_readLine cX6_readLine 3 ({ frames := 61, cells := 0, slots := 0, locals := 1841 }) G [.ref (ad 0)] (mwX ad m0 r) (KMV ad r K) :=
  CtV.of RX6 plain_X6 rfl (Nat.le_of_ble_eq_true rfl) (fun E hE _ _ hn hR hK => bX6_readLine_0 hE hn hR hA hK hw)
theorem jdX6_readLine : jD yX6_readLine 0 := by decide +kernel
theorem lkX6_readLine : GoodIn lw_all (wsV RX6 211 yX6_readLine.cls yX6_readLine (ws_ yX6_readLine cX6_readLine 3 none)) := lw_V q1766 q1768 qs61 q129 q1769
def wX6_street_153_b (x1 : Int32) (m : MS) (KL153 : Int32 × MS → Prop) (K : Int32 → MS → Prop) : Prop :=
  ((gF m 7) ≤ x1 → (∀ m2 : MS, m2 = sF m 6 (gF m 7) → (wX6_begins  m2 (fun  m3 => K 0 m3)))) ∧ (¬ (gF m 7) ≤ x1 → (vp_in x1 16 ∧ (vp_in x1 16 ∧ (∀ m6 : MS, m6 = wL m 2 x1 (rdL (gL m 3) x1) → (vp_in x1 16 ∧ (vp_in x1 16 ∧ (∀ m9 : MS, m9 = wA m6 6 x1 (rd (gA m6 7) x1) → (KL153 (x1 + 1, m9)))))))))
def wX6_street_153 (x1 : Int32) (m : MS) (K : Int32 → MS → Prop) : Prop := lfp (σ := Int32 × MS) (fun KL s => wX6_street_153_b s.1 s.2 KL K) (x1, m)
set_option maxRecDepth 100000 in
theorem bX6_street_153 {E : jE} (hE : jOk E cX6_street RX6) (hn : E.2.2.2.2 = 2) (hR : jRoom E 62 1863) {ad : Nat → Nat} (hA : adOk ad) {r : GW} {b : Nat × Nat} {K : Int32 → MS → Prop} (hK : jRi E .int (KMI ad r K)) {x1 : Int32} {m : MS}  (hw : wX6_street_153 x1 m K) : J E (mwX ad m r) b [(0, .ref (ad 0)), (1, .int (x1))] 153 [] := by
  refine lfp_sound (σ := Int32 × MS) (F := fun KL s => wX6_street_153_b s.1 s.2 KL K) (P := fun s => J E (mwX ad (s.2) r) b [(0, .ref (ad 0)), (1, .int (s.1))] 153 []) ?_ hw
  clear hw
  rintro KL153 ⟨x1, m⟩ hw ih153
  have hw : wX6_street_153_b x1 m KL153 K := hw
  unfold wX6_street_153_b at hw
  refine j_iload_n hE 1 dX6_street_153 rfl rfl ?_
  refine j_aload_n hE 0 dX6_street_154 rfl rfl ?_
  refine jm_get hE hA 19 (Nat.le_of_ble_eq_true rfl) q1666 rfl (v := .int (gF m 7)) rfl dX6_street_155 ?_
  refine j_icmp_ge hE 191 dX6_street_158 (by decide) (fun c1 => ?_) (fun c1 => ?_)
  · have hw := hw.1 c1
    refine j_aload_n hE 0 dX6_street_191 rfl rfl ?_
    refine j_aload_n hE 0 dX6_street_192 rfl rfl ?_
    refine jm_get hE hA 19 (Nat.le_of_ble_eq_true rfl) q1666 rfl (v := .int (gF m 7)) rfl dX6_street_193 ?_
    refine jm_putF hE hA 18 6 (Nat.le_of_ble_eq_true rfl) q1665 rfl rfl (mset_6 _ _ _) rfl rfl dX6_street_196 ?_
    refine j_wm (fun m2 e_m2 => ?_)
    have hw := hw m2 e_m2
    refine j_aload_n hE 0 dX6_street_199 rfl rfl ?_
    refine jm_cV hE hA hR (As := []) (rest := []) (ctX6_begins E.1.2.1 E.2.2.1 hA _ _  _ hw) rfl lkX6_begins jdX6_begins ⟨Nat.le_of_ble_eq_true rfl, Nat.le_of_ble_eq_true rfl⟩ rfl (Nat.le_of_ble_eq_true rfl) dX6_street_200 (fun  m3 hw => ?_)
    refine j_iconst hE dX6_street_203 kc_0 ?_
    exact j_iret hE hK dX6_street_204 rfl ⟨_, rfl, hw⟩
  · have hw := hw.2 c1
    refine j_aload_n hE 0 dX6_street_161 rfl rfl ?_
    refine jm_get hE hA 14 (Nat.le_of_ble_eq_true rfl) q1661 rfl (v := .ref (ad 16)) rfl dX6_street_162 ?_
    refine j_iload_n hE 1 dX6_street_165 rfl rfl ?_
    refine j_aload_n hE 0 dX6_street_166 rfl rfl ?_
    refine jm_get hE hA 15 (Nat.le_of_ble_eq_true rfl) q1662 rfl (v := .ref (ad 17)) rfl dX6_street_167 ?_
    refine j_iload_n hE 1 dX6_street_170 rfl rfl ?_
    obtain ⟨h4, hw⟩ := hw
    refine jm_lald hE hA 3 (Nat.le_of_ble_eq_true rfl) h4 dX6_street_171 ?_
    obtain ⟨h5, hw⟩ := hw
    refine jm_last hE hA 2 (Nat.le_of_ble_eq_true rfl) h5 dX6_street_172 ?_
    refine j_wm (fun m6 e_m6 => ?_)
    have hw := hw m6 e_m6
    refine j_aload_n hE 0 dX6_street_173 rfl rfl ?_
    refine jm_get hE hA 16 (Nat.le_of_ble_eq_true rfl) q1663 rfl (v := .ref (ad 7)) rfl dX6_street_174 ?_
    refine j_iload_n hE 1 dX6_street_177 rfl rfl ?_
    refine j_aload_n hE 0 dX6_street_178 rfl rfl ?_
    refine jm_get hE hA 17 (Nat.le_of_ble_eq_true rfl) q1664 rfl (v := .ref (ad 8)) rfl dX6_street_179 ?_
    refine j_iload_n hE 1 dX6_street_182 rfl rfl ?_
    obtain ⟨h7, hw⟩ := hw
    refine jm_iald hE hA 7 (Nat.le_of_ble_eq_true rfl) h7 dX6_street_183 ?_
    obtain ⟨h8, hw⟩ := hw
    refine jm_iast hE hA 6 (Nat.le_of_ble_eq_true rfl) h8 dX6_street_184 ?_
    refine j_wm (fun m9 e_m9 => ?_)
    have hw := hw m9 e_m9
    refine j_iinc (L' := [(1, .int (x1 + 1)), (0, .ref (ad 0))]) hE hn 1 dX6_street_185 rfl (congrArg (x1 + ·) kc_1) (Nat.le_of_ble_eq_true rfl) rfl ?_
    refine j_goto hE 153 dX6_street_188 (by decide) ?_
    refine j_sub [(0, .ref (ad 0)), (1, .int (x1 + 1))] [1, 0] rfl ?_
    have hz := ih153 (x1 + 1, m9) hw
    exact hz
def wX6_street_105_b (x1 : Int32) (m : MS) (KL105 : Int32 × MS → Prop) (K : Int32 → MS → Prop) : Prop :=
  ((gF m 5) ≤ x1 → (wX6_street_153 0 m K)) ∧ (¬ (gF m 5) ≤ x1 → (vp_in ((nI 1100) + x1) 2200 ∧ (vp_in x1 2200 ∧ (∀ m4 : MS, m4 = wA m 4 x1 (rd (gA m 4) ((nI 1100) + x1)) → (vp_in ((nI 1100) + x1) 2200 ∧ (vp_in x1 2200 ∧ (∀ m7 : MS, m7 = wA m4 5 x1 (rd (gA m4 5) ((nI 1100) + x1)) → (KL105 (x1 + 1, m7)))))))))
def wX6_street_105 (x1 : Int32) (m : MS) (K : Int32 → MS → Prop) : Prop := lfp (σ := Int32 × MS) (fun KL s => wX6_street_105_b s.1 s.2 KL K) (x1, m)
set_option maxRecDepth 100000 in
theorem bX6_street_105 {E : jE} (hE : jOk E cX6_street RX6) (hn : E.2.2.2.2 = 2) (hR : jRoom E 62 1863) {ad : Nat → Nat} (hA : adOk ad) {r : GW} {b : Nat × Nat} {K : Int32 → MS → Prop} (hK : jRi E .int (KMI ad r K)) {x1 : Int32} {m : MS}  (hw : wX6_street_105 x1 m K) : J E (mwX ad m r) b [(0, .ref (ad 0)), (1, .int (x1))] 105 [] := by
  refine lfp_sound (σ := Int32 × MS) (F := fun KL s => wX6_street_105_b s.1 s.2 KL K) (P := fun s => J E (mwX ad (s.2) r) b [(0, .ref (ad 0)), (1, .int (s.1))] 105 []) ?_ hw
  clear hw
  rintro KL105 ⟨x1, m⟩ hw ih105
  have hw : wX6_street_105_b x1 m KL105 K := hw
  unfold wX6_street_105_b at hw
  refine j_iload_n hE 1 dX6_street_105 rfl rfl ?_
  refine j_aload_n hE 0 dX6_street_106 rfl rfl ?_
  refine jm_get hE hA 13 (Nat.le_of_ble_eq_true rfl) q1660 rfl (v := .int (gF m 5)) rfl dX6_street_107 ?_
  refine j_icmp_ge hE 151 dX6_street_110 (by decide) (fun c1 => ?_) (fun c1 => ?_)
  · have hw := hw.1 c1
    refine j_iconst hE dX6_street_151 kc_0 ?_
    refine j_istore_n (L' := [(1, .int (0)), (0, .ref (ad 0))]) hE hn dX6_street_152 rfl (Nat.le_of_ble_eq_true rfl) rfl ?_
    refine j_sub [(0, .ref (ad 0)), (1, .int (0))] [1, 0] rfl ?_
    exact bX6_street_153 hE hn hR hA hK  hw
  · have hw := hw.2 c1
    refine j_aload_n hE 0 dX6_street_113 rfl rfl ?_
    refine jm_get hE hA 11 (Nat.le_of_ble_eq_true rfl) q1658 rfl (v := .ref (ad 5)) rfl dX6_street_114 ?_
    refine j_iload_n hE 1 dX6_street_117 rfl rfl ?_
    refine j_aload_n hE 0 dX6_street_118 rfl rfl ?_
    refine jm_get hE hA 11 (Nat.le_of_ble_eq_true rfl) q1658 rfl (v := .ref (ad 5)) rfl dX6_street_119 ?_
    refine j_sipush hE dX6_street_122 ks_1100 ?_
    refine j_iload_n hE 1 dX6_street_125 rfl rfl ?_
    refine j_iadd hE dX6_street_126 ?_
    obtain ⟨h2, hw⟩ := hw
    refine jm_iald hE hA 4 (Nat.le_of_ble_eq_true rfl) h2 dX6_street_127 ?_
    obtain ⟨h3, hw⟩ := hw
    refine jm_iast hE hA 4 (Nat.le_of_ble_eq_true rfl) h3 dX6_street_128 ?_
    refine j_wm (fun m4 e_m4 => ?_)
    have hw := hw m4 e_m4
    refine j_aload_n hE 0 dX6_street_129 rfl rfl ?_
    refine jm_get hE hA 12 (Nat.le_of_ble_eq_true rfl) q1659 rfl (v := .ref (ad 6)) rfl dX6_street_130 ?_
    refine j_iload_n hE 1 dX6_street_133 rfl rfl ?_
    refine j_aload_n hE 0 dX6_street_134 rfl rfl ?_
    refine jm_get hE hA 12 (Nat.le_of_ble_eq_true rfl) q1659 rfl (v := .ref (ad 6)) rfl dX6_street_135 ?_
    refine j_sipush hE dX6_street_138 ks_1100 ?_
    refine j_iload_n hE 1 dX6_street_141 rfl rfl ?_
    refine j_iadd hE dX6_street_142 ?_
    obtain ⟨h5, hw⟩ := hw
    refine jm_iald hE hA 5 (Nat.le_of_ble_eq_true rfl) h5 dX6_street_143 ?_
    obtain ⟨h6, hw⟩ := hw
    refine jm_iast hE hA 5 (Nat.le_of_ble_eq_true rfl) h6 dX6_street_144 ?_
    refine j_wm (fun m7 e_m7 => ?_)
    have hw := hw m7 e_m7
    refine j_iinc (L' := [(1, .int (x1 + 1)), (0, .ref (ad 0))]) hE hn 1 dX6_street_145 rfl (congrArg (x1 + ·) kc_1) (Nat.le_of_ble_eq_true rfl) rfl ?_
    refine j_goto hE 105 dX6_street_148 (by decide) ?_
    refine j_sub [(0, .ref (ad 0)), (1, .int (x1 + 1))] [1, 0] rfl ?_
    have hz := ih105 (x1 + 1, m7) hw
    exact hz
def wX6_street_76_b (x1 : Int32) (m : MS) (KL76 : Int32 × MS → Prop) (K : Int32 → MS → Prop) : Prop :=
  ((nI 60) ≤ x1 → (wX6_street_105 0 m K)) ∧ (¬ (nI 60) ≤ x1 → (vp_in ((nI 60) + x1) 120 ∧ (vp_in x1 120 ∧ (∀ m4 : MS, m4 = wA m 3 x1 (rd (gA m 3) ((nI 60) + x1)) → (KL76 (x1 + 1, m4))))))
def wX6_street_76 (x1 : Int32) (m : MS) (K : Int32 → MS → Prop) : Prop := lfp (σ := Int32 × MS) (fun KL s => wX6_street_76_b s.1 s.2 KL K) (x1, m)
set_option maxRecDepth 100000 in
theorem bX6_street_76 {E : jE} (hE : jOk E cX6_street RX6) (hn : E.2.2.2.2 = 2) (hR : jRoom E 62 1863) {ad : Nat → Nat} (hA : adOk ad) {r : GW} {b : Nat × Nat} {K : Int32 → MS → Prop} (hK : jRi E .int (KMI ad r K)) {x1 : Int32} {m : MS}  (hw : wX6_street_76 x1 m K) : J E (mwX ad m r) b [(0, .ref (ad 0)), (1, .int (x1))] 76 [] := by
  refine lfp_sound (σ := Int32 × MS) (F := fun KL s => wX6_street_76_b s.1 s.2 KL K) (P := fun s => J E (mwX ad (s.2) r) b [(0, .ref (ad 0)), (1, .int (s.1))] 76 []) ?_ hw
  clear hw
  rintro KL76 ⟨x1, m⟩ hw ih76
  have hw : wX6_street_76_b x1 m KL76 K := hw
  unfold wX6_street_76_b at hw
  refine j_iload_n hE 1 dX6_street_76 rfl rfl ?_
  refine j_bipush hE dX6_street_77 kb_60 ?_
  refine j_icmp_ge hE 103 dX6_street_79 (by decide) (fun c1 => ?_) (fun c1 => ?_)
  · have hw := hw.1 c1
    refine j_iconst hE dX6_street_103 kc_0 ?_
    refine j_istore_n (L' := [(1, .int (0)), (0, .ref (ad 0))]) hE hn dX6_street_104 rfl (Nat.le_of_ble_eq_true rfl) rfl ?_
    refine j_sub [(0, .ref (ad 0)), (1, .int (0))] [1, 0] rfl ?_
    exact bX6_street_105 hE hn hR hA hK  hw
  · have hw := hw.2 c1
    refine j_aload_n hE 0 dX6_street_82 rfl rfl ?_
    refine jm_get hE hA 10 (Nat.le_of_ble_eq_true rfl) q1657 rfl (v := .ref (ad 4)) rfl dX6_street_83 ?_
    refine j_iload_n hE 1 dX6_street_86 rfl rfl ?_
    refine j_aload_n hE 0 dX6_street_87 rfl rfl ?_
    refine jm_get hE hA 10 (Nat.le_of_ble_eq_true rfl) q1657 rfl (v := .ref (ad 4)) rfl dX6_street_88 ?_
    refine j_bipush hE dX6_street_91 kb_60 ?_
    refine j_iload_n hE 1 dX6_street_93 rfl rfl ?_
    refine j_iadd hE dX6_street_94 ?_
    obtain ⟨h2, hw⟩ := hw
    refine jm_iald hE hA 3 (Nat.le_of_ble_eq_true rfl) h2 dX6_street_95 ?_
    obtain ⟨h3, hw⟩ := hw
    refine jm_iast hE hA 3 (Nat.le_of_ble_eq_true rfl) h3 dX6_street_96 ?_
    refine j_wm (fun m4 e_m4 => ?_)
    have hw := hw m4 e_m4
    refine j_iinc (L' := [(1, .int (x1 + 1)), (0, .ref (ad 0))]) hE hn 1 dX6_street_97 rfl (congrArg (x1 + ·) kc_1) (Nat.le_of_ble_eq_true rfl) rfl ?_
    refine j_goto hE 76 dX6_street_100 (by decide) ?_
    refine j_sub [(0, .ref (ad 0)), (1, .int (x1 + 1))] [1, 0] rfl ?_
    have hz := ih76 (x1 + 1, m4) hw
    exact hz
def wX6_street_62 (m : MS) (K : Int32 → MS → Prop) : Prop :=
  ((gF m 4) ≤ 0 → (wX6_street_76 0 m K)) ∧ (¬ (gF m 4) ≤ 0 → (K (gF m 4) m))
set_option maxRecDepth 100000 in
theorem bX6_street_62 {E : jE} (hE : jOk E cX6_street RX6) (hn : E.2.2.2.2 = 2) (hR : jRoom E 62 1863) {ad : Nat → Nat} (hA : adOk ad) {r : GW} {b : Nat × Nat} {K : Int32 → MS → Prop} (hK : jRi E .int (KMI ad r K)) {m : MS}  (hw : wX6_street_62 m K) : J E (mwX ad m r) b [(0, .ref (ad 0))] 62 [] := by
  unfold wX6_street_62 at hw
  refine j_aload_n hE 0 dX6_street_62 rfl rfl ?_
  refine jm_get hE hA 8 (Nat.le_of_ble_eq_true rfl) q1655 rfl (v := .int (gF m 4)) rfl dX6_street_63 ?_
  refine j_if_le hE 74 dX6_street_66 (by decide) (fun c1 => ?_) (fun c1 => ?_)
  · have hw := hw.1 c1
    refine j_iconst hE dX6_street_74 kc_0 ?_
    refine j_istore_n (L' := [(1, .int (0)), (0, .ref (ad 0))]) hE hn dX6_street_75 rfl (Nat.le_of_ble_eq_true rfl) rfl ?_
    refine j_sub [(0, .ref (ad 0)), (1, .int (0))] [1, 0] rfl ?_
    exact bX6_street_76 hE hn hR hA hK  hw
  · have hw := hw.2 c1
    refine j_aload_n hE 0 dX6_street_69 rfl rfl ?_
    refine jm_get hE hA 8 (Nat.le_of_ble_eq_true rfl) q1655 rfl (v := .int (gF m 4)) rfl dX6_street_70 ?_
    exact j_iret hE hK dX6_street_73 rfl ⟨_, rfl, hw⟩
def wX6_street_30_b (m : MS) (KL30 : MS → Prop) (K : Int32 → MS → Prop) : Prop :=
  (¬ (gF m 4) = 0 → (wX6_street_62 m K)) ∧ ((gF m 4) = 0 → (vp_in (gF m 3) 1002 ∧ (((rd (gA m 1) (gF m 3)) = 0 → (wX6_street_62 m K)) ∧ (¬ (rd (gA m 1) (gF m 3)) = 0 → (wX6_readLine  m (fun  m4 => wX6_takeSign (nI 59) m4 (fun  m5 => KL30 (m5))))))))
def wX6_street_30 (m : MS) (K : Int32 → MS → Prop) : Prop := lfp (σ := MS) (fun KL s => wX6_street_30_b s KL K) m
set_option maxRecDepth 100000 in
theorem bX6_street_30 {E : jE} (hE : jOk E cX6_street RX6) (hn : E.2.2.2.2 = 2) (hR : jRoom E 62 1863) {ad : Nat → Nat} (hA : adOk ad) {r : GW} {b : Nat × Nat} {K : Int32 → MS → Prop} (hK : jRi E .int (KMI ad r K)) {m : MS}  (hw : wX6_street_30 m K) : J E (mwX ad m r) b [(0, .ref (ad 0))] 30 [] := by
  refine lfp_sound (σ := MS) (F := fun KL s => wX6_street_30_b s KL K) (P := fun s => J E (mwX ad s r) b [(0, .ref (ad 0))] 30 []) ?_ hw
  clear hw
  rintro KL30 m hw ih30
  have hw : wX6_street_30_b m KL30 K := hw
  unfold wX6_street_30_b at hw
  refine j_aload_n hE 0 dX6_street_30 rfl rfl ?_
  refine jm_get hE hA 8 (Nat.le_of_ble_eq_true rfl) q1655 rfl (v := .int (gF m 4)) rfl dX6_street_31 ?_
  refine j_if_ne hE 62 dX6_street_34 (by decide) (fun c1 => ?_) (fun c1 => ?_)
  · have hw := hw.1 c1
    exact bX6_street_62 hE hn hR hA hK  hw
  · have hw := hw.2 c1
    refine j_aload_n hE 0 dX6_street_37 rfl rfl ?_
    refine jm_get hE hA 4 (Nat.le_of_ble_eq_true rfl) q1651 rfl (v := .ref (ad 2)) rfl dX6_street_38 ?_
    refine j_aload_n hE 0 dX6_street_41 rfl rfl ?_
    refine jm_get hE hA 7 (Nat.le_of_ble_eq_true rfl) q1654 rfl (v := .int (gF m 3)) rfl dX6_street_42 ?_
    obtain ⟨h2, hw⟩ := hw
    refine jm_iald hE hA 1 (Nat.le_of_ble_eq_true rfl) h2 dX6_street_45 ?_
    refine j_if_eq hE 62 dX6_street_46 (by decide) (fun c3 => ?_) (fun c3 => ?_)
    · have hw := hw.1 c3
      exact bX6_street_62 hE hn hR hA hK  hw
    · have hw := hw.2 c3
      refine j_aload_n hE 0 dX6_street_49 rfl rfl ?_
      refine jm_cV hE hA hR (As := []) (rest := []) (ctX6_readLine E.1.2.1 E.2.2.1 hA _ _  _ hw) rfl lkX6_readLine jdX6_readLine ⟨Nat.le_of_ble_eq_true rfl, Nat.le_of_ble_eq_true rfl⟩ rfl (Nat.le_of_ble_eq_true rfl) dX6_street_50 (fun  m4 hw => ?_)
      refine j_aload_n hE 0 dX6_street_53 rfl rfl ?_
      refine j_bipush hE dX6_street_54 kb_59 ?_
      refine jm_cV hE hA hR (As := [.int (nI 59)]) (rest := []) (ctX6_takeSign E.1.2.1 E.2.2.1 hA _ _ _  _ hw) rfl lkX6_takeSign jdX6_takeSign ⟨Nat.le_of_ble_eq_true rfl, Nat.le_of_ble_eq_true rfl⟩ rfl (Nat.le_of_ble_eq_true rfl) dX6_street_56 (fun  m5 hw => ?_)
      refine j_goto hE 30 dX6_street_59 (by decide) ?_
      have hz := ih30 (m5) hw
      exact hz
def wX6_street_0 (m : MS) (K : Int32 → MS → Prop) : Prop :=
  ∀ m1 : MS, m1 = sF m 0 0 → (wX6_cutAll  m1 (fun  m2 => ∀ m3 : MS, m3 = sF m2 5 0 → (∀ m4 : MS, m4 = sF m3 7 0 → (∀ m5 : MS, m5 = sF m4 8 0 → (wX6_standsAsAlways (nI 60) m5 (fun  m6 => wX6_street_30 m6 K))))))
set_option maxRecDepth 100000 in
theorem bX6_street_0 {E : jE} (hE : jOk E cX6_street RX6) (hn : E.2.2.2.2 = 2) (hR : jRoom E 62 1863) {ad : Nat → Nat} (hA : adOk ad) {r : GW} {b : Nat × Nat} {K : Int32 → MS → Prop} (hK : jRi E .int (KMI ad r K)) {m : MS}  (hw : wX6_street_0 m K) : J E (mwX ad m r) b [(0, .ref (ad 0))] 0 [] := by
  unfold wX6_street_0 at hw
  refine j_aload_n hE 0 dX6_street_0 rfl rfl ?_
  refine j_iconst hE dX6_street_1 kc_0 ?_
  refine jm_putF hE hA 0 0 (Nat.le_of_ble_eq_true rfl) q1647 rfl rfl (mset_0 _ _ _) rfl rfl dX6_street_2 ?_
  refine j_wm (fun m1 e_m1 => ?_)
  have hw := hw m1 e_m1
  refine j_aload_n hE 0 dX6_street_5 rfl rfl ?_
  refine jm_cV hE hA hR (As := []) (rest := []) (ctX6_cutAll E.1.2.1 E.2.2.1 hA _ _  _ hw) rfl lkX6_cutAll jdX6_cutAll ⟨Nat.le_of_ble_eq_true rfl, Nat.le_of_ble_eq_true rfl⟩ rfl (Nat.le_of_ble_eq_true rfl) dX6_street_6 (fun  m2 hw => ?_)
  refine j_aload_n hE 0 dX6_street_9 rfl rfl ?_
  refine j_iconst hE dX6_street_10 kc_0 ?_
  refine jm_putF hE hA 13 5 (Nat.le_of_ble_eq_true rfl) q1660 rfl rfl (mset_5 _ _ _) rfl rfl dX6_street_11 ?_
  refine j_wm (fun m3 e_m3 => ?_)
  have hw := hw m3 e_m3
  refine j_aload_n hE 0 dX6_street_14 rfl rfl ?_
  refine j_iconst hE dX6_street_15 kc_0 ?_
  refine jm_putF hE hA 19 7 (Nat.le_of_ble_eq_true rfl) q1666 rfl rfl (mset_7 _ _ _) rfl rfl dX6_street_16 ?_
  refine j_wm (fun m4 e_m4 => ?_)
  have hw := hw m4 e_m4
  refine j_aload_n hE 0 dX6_street_19 rfl rfl ?_
  refine j_iconst hE dX6_street_20 kc_0 ?_
  refine jm_putF hE hA 20 8 (Nat.le_of_ble_eq_true rfl) q1667 rfl rfl (mset_8 _ _ _) rfl rfl dX6_street_21 ?_
  refine j_wm (fun m5 e_m5 => ?_)
  have hw := hw m5 e_m5
  refine j_aload_n hE 0 dX6_street_24 rfl rfl ?_
  refine j_bipush hE dX6_street_25 kb_60 ?_
  refine jm_cV hE hA hR (As := [.int (nI 60)]) (rest := []) (ctX6_standsAsAlways E.1.2.1 E.2.2.1 hA _ _ _  _ hw) rfl lkX6_standsAsAlways jdX6_standsAsAlways ⟨Nat.le_of_ble_eq_true rfl, Nat.le_of_ble_eq_true rfl⟩ rfl (Nat.le_of_ble_eq_true rfl) dX6_street_27 (fun  m6 hw => ?_)
  exact bX6_street_30 hE hn hR hA hK  hw
abbrev wX6_street := wX6_street_0
theorem ctX6_street (l : Launch) (G : gG) {ad : Nat → Nat} (hA : adOk ad) (m0 : MS) (r : GW)  (K : Int32 → MS → Prop) (hw : wX6_street m0 K) : CtI l yX6_street cX6_street 2 .int ({ frames := 62, cells := 0, slots := 0, locals := 1863 }) G [.ref (ad 0)] (mwX ad m0 r) (KMI ad r K) :=
  CtI.of RX6 plain_X6 rfl (Nat.le_of_ble_eq_true rfl) (fun E hE _ _ hn hR hK => bX6_street_0 hE hn hR hA hK hw)
theorem jdX6_street : jD yX6_street 0 := by decide +kernel
def wX6_within_0 (x0 : Int32) (x1 : Int32) (x2 : Int32) (K : Int32 → Prop) : Prop :=
  (x0 < x1 → (K 0)) ∧ (¬ x0 < x1 → ((x2 < x0 → (K 0)) ∧ (¬ x2 < x0 → (K 1))))
set_option maxRecDepth 100000 in
theorem bX6_within_0 {E : jE} (hE : jOk E cX6_within RX6) (hn : E.2.2.2.2 = 3) (hR : jRoom E 0 0) {w : GW} {b : Nat × Nat} {K : Int32 → Prop} (hK : jRi E .boolean (KPI w K)) {x0 : Int32} {x1 : Int32} {x2 : Int32}  (hw : wX6_within_0 x0 x1 x2 K) : J E w b [(0, .int (x0)), (1, .int (x1)), (2, .int (x2))] 0 [] := by
  unfold wX6_within_0 at hw
  refine j_iload_n hE 0 dX6_within_0 rfl rfl ?_
  refine j_iload_n hE 1 dX6_within_1 rfl rfl ?_
  refine j_icmp_lt hE 14 dX6_within_2 (by decide) (fun c1 => ?_) (fun c1 => ?_)
  · have hw := hw.1 c1
    refine j_iconst hE dX6_within_14 kc_0 ?_
    exact j_iret hE hK dX6_within_15 rfl ⟨rfl, hw⟩
  · have hw := hw.2 c1
    refine j_iload_n hE 0 dX6_within_5 rfl rfl ?_
    refine j_iload_n hE 2 dX6_within_6 rfl rfl ?_
    refine j_icmp_gt hE 14 dX6_within_7 (by decide) (fun c2 => ?_) (fun c2 => ?_)
    · have hw := hw.1 c2
      refine j_iconst hE dX6_within_14 kc_0 ?_
      exact j_iret hE hK dX6_within_15 rfl ⟨rfl, hw⟩
    · have hw := hw.2 c2
      refine j_iconst hE dX6_within_10 kc_1 ?_
      refine j_goto hE 15 dX6_within_11 (by decide) ?_
      exact j_iret hE hK dX6_within_15 rfl ⟨rfl, hw⟩
abbrev wX6_within := wX6_within_0
theorem ctX6_within (l : Launch) (G : gG) (w : GW) (x0 : Int32) (x1 : Int32) (x2 : Int32) (K : Int32 → Prop) (hw : wX6_within x0 x1 x2 K) : CtI l yX6_within cX6_within 3 .boolean ({ frames := 0, cells := 0, slots := 0, locals := 0 }) G [.int (x0), .int (x1), .int (x2)] w (KPI w K) :=
  CtI.of RX6 plain_X6 rfl (Nat.le_of_ble_eq_true rfl) (fun E hE _ _ hn hR hK => bX6_within_0 hE hn hR hK hw)
theorem jdX6_within : jD yX6_within 3 := by decide +kernel
theorem lkX6_within : GoodIn lw_all (va_wsS RX6 198 yX6_within (ws_ yX6_within cX6_within 3 (some .boolean))) := lw_S q1870 q1871 q129 q1872
def wX6_takeTold_76 (x2 : Int32) (s1 : Int32) (s2 : Int32) (m : MS) (K : Int32 → MS → Prop) : Prop :=
  ∀ m1 : MS, m1 = sF m 3 (s1 + s2) → (((gF m1 4) ≤ 0 → (K x2 m1)) ∧ (¬ (gF m1 4) ≤ 0 → (K 0 m1)))
set_option maxRecDepth 100000 in
theorem bX6_takeTold_76 {E : jE} (hE : jOk E cX6_takeTold RX6) (hn : E.2.2.2.2 = 3) (hR : jRoom E 3 65) {ad : Nat → Nat} (hA : adOk ad) {r : GW} {b : Nat × Nat} {K : Int32 → MS → Prop} (hK : jRi E .int (KMI ad r K)) {x2 : Int32} {s1 : Int32} {s2 : Int32} {m : MS}  (hw : wX6_takeTold_76 x2 s1 s2 m K) : J E (mwX ad m r) b [(0, .ref (ad 0)), (2, .int (x2))] 76 [.int (s2), .int (s1), .ref (ad 0)] := by
  unfold wX6_takeTold_76 at hw
  refine j_iadd hE dX6_takeTold_76 ?_
  refine jm_putF hE hA 7 3 (Nat.le_of_ble_eq_true rfl) q1654 rfl rfl (mset_3 _ _ _) rfl rfl dX6_takeTold_77 ?_
  refine j_wm (fun m1 e_m1 => ?_)
  have hw := hw m1 e_m1
  refine j_aload_n hE 0 dX6_takeTold_80 rfl rfl ?_
  refine jm_get hE hA 8 (Nat.le_of_ble_eq_true rfl) q1655 rfl (v := .int (gF m1 4)) rfl dX6_takeTold_81 ?_
  refine j_if_le hE 91 dX6_takeTold_84 (by decide) (fun c2 => ?_) (fun c2 => ?_)
  · have hw := hw.1 c2
    refine j_iload_n hE 1 dX6_takeTold_91 rfl rfl ?_
    exact j_iret hE hK dX6_takeTold_92 rfl ⟨_, rfl, hw⟩
  · have hw := hw.2 c2
    refine j_iconst hE dX6_takeTold_87 kc_0 ?_
    refine j_goto hE 92 dX6_takeTold_88 (by decide) ?_
    exact j_iret hE hK dX6_takeTold_92 rfl ⟨_, rfl, hw⟩
def wX6_takeTold_59 (x2 : Int32) (m : MS) (K : Int32 → MS → Prop) : Prop :=
  ((gF m 4) ≤ 0 → (wX6_takeTold_76 x2 (gF m 3) 1 m K)) ∧ (¬ (gF m 4) ≤ 0 → (wX6_takeTold_76 x2 (gF m 3) 0 m K))
set_option maxRecDepth 100000 in
theorem bX6_takeTold_59 {E : jE} (hE : jOk E cX6_takeTold RX6) (hn : E.2.2.2.2 = 3) (hR : jRoom E 3 65) {ad : Nat → Nat} (hA : adOk ad) {r : GW} {b : Nat × Nat} {K : Int32 → MS → Prop} (hK : jRi E .int (KMI ad r K)) {x2 : Int32} {m : MS}  (hw : wX6_takeTold_59 x2 m K) : J E (mwX ad m r) b [(0, .ref (ad 0)), (2, .int (x2))] 59 [] := by
  unfold wX6_takeTold_59 at hw
  refine j_aload_n hE 0 dX6_takeTold_59 rfl rfl ?_
  refine j_dup hE dX6_takeTold_60 rfl ?_
  refine jm_get hE hA 7 (Nat.le_of_ble_eq_true rfl) q1654 rfl (v := .int (gF m 3)) rfl dX6_takeTold_61 ?_
  refine j_aload_n hE 0 dX6_takeTold_64 rfl rfl ?_
  refine jm_get hE hA 8 (Nat.le_of_ble_eq_true rfl) q1655 rfl (v := .int (gF m 4)) rfl dX6_takeTold_65 ?_
  refine j_if_le hE 75 dX6_takeTold_68 (by decide) (fun c1 => ?_) (fun c1 => ?_)
  · have hw := hw.1 c1
    refine j_iconst hE dX6_takeTold_75 kc_1 ?_
    exact bX6_takeTold_76 hE hn hR hA hK  hw
  · have hw := hw.2 c1
    refine j_iconst hE dX6_takeTold_71 kc_0 ?_
    refine j_goto hE 76 dX6_takeTold_72 (by decide) ?_
    exact bX6_takeTold_76 hE hn hR hA hK  hw
def wX6_takeTold_37 (s0 : Int32) (m : MS) (K : Int32 → MS → Prop) : Prop :=
  (¬ (gF m 4) = 0 → (wX6_takeTold_59 s0 m K)) ∧ ((gF m 4) = 0 → (wX6_within s0 0 (nI 5) (fun r2 => (¬ r2 = 0 → (wX6_takeTold_59 s0 m K)) ∧ (r2 = 0 → (wX6_wrong (nI 2) m (fun  m4 => wX6_takeTold_59 s0 m4 K))))))
set_option maxRecDepth 100000 in
theorem bX6_takeTold_37 {E : jE} (hE : jOk E cX6_takeTold RX6) (hn : E.2.2.2.2 = 3) (hR : jRoom E 3 65) {ad : Nat → Nat} (hA : adOk ad) {r : GW} {b : Nat × Nat} {K : Int32 → MS → Prop} (hK : jRi E .int (KMI ad r K)) {s0 : Int32} {m : MS}  (hw : wX6_takeTold_37 s0 m K) : J E (mwX ad m r) b [(0, .ref (ad 0))] 37 [.int (s0)] := by
  unfold wX6_takeTold_37 at hw
  refine j_istore_n (L' := [(2, .int (s0)), (0, .ref (ad 0))]) hE hn dX6_takeTold_37 rfl (Nat.le_of_ble_eq_true rfl) rfl ?_
  refine j_aload_n hE 1 dX6_takeTold_38 rfl rfl ?_
  refine jm_get hE hA 8 (Nat.le_of_ble_eq_true rfl) q1655 rfl (v := .int (gF m 4)) rfl dX6_takeTold_39 ?_
  refine j_if_ne hE 59 dX6_takeTold_42 (by decide) (fun c1 => ?_) (fun c1 => ?_)
  · have hw := hw.1 c1
    refine j_sub [(0, .ref (ad 0)), (2, .int (s0))] [1, 0] rfl ?_
    exact bX6_takeTold_59 hE hn hR hA hK  hw
  · have hw := hw.2 c1
    refine j_iload_n hE 0 dX6_takeTold_45 rfl rfl ?_
    refine j_iconst hE dX6_takeTold_46 kc_0 ?_
    refine j_iconst hE dX6_takeTold_47 kc_5 ?_
    refine j_psI hE hR (As := [.int (s0), .int (0), .int (nI 5)]) (rest := []) (ctX6_within E.1.2.1 E.2.2.1 _ _ _ _  _ hw) lkX6_within jdX6_within ⟨Nat.le_of_ble_eq_true rfl, Nat.le_of_ble_eq_true rfl⟩ rfl (Nat.le_of_ble_eq_true rfl) dX6_takeTold_48 (fun r2 hw => ?_)
    refine j_if_ne hE 59 dX6_takeTold_51 (by decide) (fun c3 => ?_) (fun c3 => ?_)
    · have hw := hw.1 c3
      refine j_sub [(0, .ref (ad 0)), (2, .int (s0))] [1, 0] rfl ?_
      exact bX6_takeTold_59 hE hn hR hA hK  hw
    · have hw := hw.2 c3
      refine j_aload_n hE 1 dX6_takeTold_54 rfl rfl ?_
      refine j_iconst hE dX6_takeTold_55 kc_2 ?_
      refine jm_cV hE hA hR (As := [.int (nI 2)]) (rest := []) (ctX6_wrong E.1.2.1 E.2.2.1 hA _ _ _  _ hw) rfl lkX6_wrong jdX6_wrong ⟨Nat.le_of_ble_eq_true rfl, Nat.le_of_ble_eq_true rfl⟩ rfl (Nat.le_of_ble_eq_true rfl) dX6_takeTold_56 (fun  m4 hw => ?_)
      refine j_sub [(0, .ref (ad 0)), (2, .int (s0))] [1, 0] rfl ?_
      exact bX6_takeTold_59 hE hn hR hA hK  hw
def wX6_takeTold_19 (x1 : Int32) (m : MS) (K : Int32 → MS → Prop) : Prop :=
  ((gF m 4) ≤ 0 → (wX6_nameAt 0 m (fun r2 => wX6_takeTold_37 (r2 - x1) m K))) ∧ (¬ (gF m 4) ≤ 0 → (wX6_takeTold_37 ((-1)) m K))
set_option maxRecDepth 100000 in
theorem bX6_takeTold_19 {E : jE} (hE : jOk E cX6_takeTold RX6) (hn : E.2.2.2.2 = 3) (hR : jRoom E 3 65) {ad : Nat → Nat} (hA : adOk ad) {r : GW} {b : Nat × Nat} {K : Int32 → MS → Prop} (hK : jRi E .int (KMI ad r K)) {x1 : Int32} {m : MS}  (hw : wX6_takeTold_19 x1 m K) : J E (mwX ad m r) b [(0, .ref (ad 0)), (1, .int (x1))] 19 [] := by
  unfold wX6_takeTold_19 at hw
  refine j_aload_n hE 0 dX6_takeTold_19 rfl rfl ?_
  refine jm_get hE hA 8 (Nat.le_of_ble_eq_true rfl) q1655 rfl (v := .int (gF m 4)) rfl dX6_takeTold_20 ?_
  refine j_if_le hE 30 dX6_takeTold_23 (by decide) (fun c1 => ?_) (fun c1 => ?_)
  · have hw := hw.1 c1
    refine j_aload_n hE 0 dX6_takeTold_30 rfl rfl ?_
    refine j_iconst hE dX6_takeTold_31 kc_0 ?_
    refine jm_pI hE hA hR (As := [.int (0)]) (rest := []) (ctX6_nameAt E.1.2.1 E.2.2.1 hA _ _ _  _ hw) rfl lkX6_nameAt jdX6_nameAt ⟨Nat.le_of_ble_eq_true rfl, Nat.le_of_ble_eq_true rfl⟩ rfl (Nat.le_of_ble_eq_true rfl) dX6_takeTold_32 (fun r2 hw => ?_)
    refine j_iload_n hE 1 dX6_takeTold_35 rfl rfl ?_
    refine j_isub hE dX6_takeTold_36 ?_
    refine j_sub [(0, .ref (ad 0))] [0] rfl ?_
    exact bX6_takeTold_37 hE hn hR hA hK  hw
  · have hw := hw.2 c1
    refine j_iconst hE dX6_takeTold_26 kc_m1 ?_
    refine j_goto hE 37 dX6_takeTold_27 (by decide) ?_
    refine j_sub [(0, .ref (ad 0))] [0] rfl ?_
    exact bX6_takeTold_37 hE hn hR hA hK  hw
def wX6_takeTold_0 (x1 : Int32) (m : MS) (K : Int32 → MS → Prop) : Prop :=
  (¬ (gF m 4) = 0 → (wX6_takeTold_19 x1 m K)) ∧ ((gF m 4) = 0 → (wX6_isName  m (fun r2 => (¬ r2 = 0 → (wX6_takeTold_19 x1 m K)) ∧ (r2 = 0 → (wX6_wrong 1 m (fun  m4 => wX6_takeTold_19 x1 m4 K))))))
set_option maxRecDepth 100000 in
theorem bX6_takeTold_0 {E : jE} (hE : jOk E cX6_takeTold RX6) (hn : E.2.2.2.2 = 3) (hR : jRoom E 3 65) {ad : Nat → Nat} (hA : adOk ad) {r : GW} {b : Nat × Nat} {K : Int32 → MS → Prop} (hK : jRi E .int (KMI ad r K)) {x1 : Int32} {m : MS}  (hw : wX6_takeTold_0 x1 m K) : J E (mwX ad m r) b [(0, .ref (ad 0)), (1, .int (x1))] 0 [] := by
  unfold wX6_takeTold_0 at hw
  refine j_aload_n hE 0 dX6_takeTold_0 rfl rfl ?_
  refine jm_get hE hA 8 (Nat.le_of_ble_eq_true rfl) q1655 rfl (v := .int (gF m 4)) rfl dX6_takeTold_1 ?_
  refine j_if_ne hE 19 dX6_takeTold_4 (by decide) (fun c1 => ?_) (fun c1 => ?_)
  · have hw := hw.1 c1
    exact bX6_takeTold_19 hE hn hR hA hK  hw
  · have hw := hw.2 c1
    refine j_aload_n hE 0 dX6_takeTold_7 rfl rfl ?_
    refine jm_pI hE hA hR (As := []) (rest := []) (ctX6_isName E.1.2.1 E.2.2.1 hA _ _  _ hw) rfl lkX6_isName jdX6_isName ⟨Nat.le_of_ble_eq_true rfl, Nat.le_of_ble_eq_true rfl⟩ rfl (Nat.le_of_ble_eq_true rfl) dX6_takeTold_8 (fun r2 hw => ?_)
    refine j_if_ne hE 19 dX6_takeTold_11 (by decide) (fun c3 => ?_) (fun c3 => ?_)
    · have hw := hw.1 c3
      exact bX6_takeTold_19 hE hn hR hA hK  hw
    · have hw := hw.2 c3
      refine j_aload_n hE 0 dX6_takeTold_14 rfl rfl ?_
      refine j_iconst hE dX6_takeTold_15 kc_1 ?_
      refine jm_cV hE hA hR (As := [.int (1)]) (rest := []) (ctX6_wrong E.1.2.1 E.2.2.1 hA _ _ _  _ hw) rfl lkX6_wrong jdX6_wrong ⟨Nat.le_of_ble_eq_true rfl, Nat.le_of_ble_eq_true rfl⟩ rfl (Nat.le_of_ble_eq_true rfl) dX6_takeTold_16 (fun  m4 hw => ?_)
      exact bX6_takeTold_19 hE hn hR hA hK  hw
abbrev wX6_takeTold := wX6_takeTold_0
theorem ctX6_takeTold (l : Launch) (G : gG) {ad : Nat → Nat} (hA : adOk ad) (m0 : MS) (r : GW) (x1 : Int32) (K : Int32 → MS → Prop) (hw : wX6_takeTold x1 m0 K) : CtI l yX6_takeTold cX6_takeTold 3 .int ({ frames := 3, cells := 0, slots := 0, locals := 65 }) G [.ref (ad 0), .int (x1)] (mwX ad m0 r) (KMI ad r K) :=
  CtI.of RX6 plain_X6 rfl (Nat.le_of_ble_eq_true rfl) (fun E hE _ _ hn hR hK => bX6_takeTold_0 hE hn hR hA hK hw)
theorem jdX6_takeTold : jD yX6_takeTold 1 := by decide +kernel
theorem lkX6_takeTold : GoodIn lw_all (wsV RX6 244 yX6_takeTold.cls yX6_takeTold (ws_ yX6_takeTold cX6_takeTold 3 (some .int))) := lw_V q1866 q1868 qs85 q129 q1869
def wX6_day_195_b (x1 : Int32) (x2 : Int32) (m : MS) (KL195 : Int32 × MS → Prop) (K : Int32 → MS → Prop) : Prop :=
  (((nI 3) * x1) ≤ x2 → (K 0 m)) ∧ (¬ ((nI 3) * x1) ≤ x2 → (vp_in ((nI 125) + x2) 250 ∧ (vp_in (1 + x2) 250 ∧ (∀ m4 : MS, m4 = wA m 8 (1 + x2) (rd (gA m 8) ((nI 125) + x2)) → (KL195 (x2 + 1, m4))))))
def wX6_day_195 (x1 : Int32) (x2 : Int32) (m : MS) (K : Int32 → MS → Prop) : Prop := lfp (σ := Int32 × MS) (fun KL s => wX6_day_195_b x1 s.1 s.2 KL K) (x2, m)
set_option maxRecDepth 100000 in
theorem bX6_day_195 {E : jE} (hE : jOk E cX6_day RX6) (hn : E.2.2.2.2 = 3) (hR : jRoom E 4 87) {ad : Nat → Nat} (hA : adOk ad) {r : GW} {b : Nat × Nat} {K : Int32 → MS → Prop} (hK : jRi E .int (KMI ad r K)) {x1 : Int32} {x2 : Int32} {m : MS}  (hw : wX6_day_195 x1 x2 m K) : J E (mwX ad m r) b [(0, .ref (ad 0)), (1, .int (x1)), (2, .int (x2))] 195 [] := by
  refine lfp_sound (σ := Int32 × MS) (F := fun KL s => wX6_day_195_b x1 s.1 s.2 KL K) (P := fun s => J E (mwX ad (s.2) r) b [(0, .ref (ad 0)), (1, .int (x1)), (2, .int (s.1))] 195 []) ?_ hw
  clear hw
  rintro KL195 ⟨x2, m⟩ hw ih195
  have hw : wX6_day_195_b x1 x2 m KL195 K := hw
  unfold wX6_day_195_b at hw
  refine j_iload_n hE 2 dX6_day_195 rfl rfl ?_
  refine j_iconst hE dX6_day_196 kc_3 ?_
  refine j_iload_n hE 1 dX6_day_197 rfl rfl ?_
  refine j_imul hE dX6_day_198 ?_
  refine j_icmp_ge hE 225 dX6_day_199 (by decide) (fun c1 => ?_) (fun c1 => ?_)
  · have hw := hw.1 c1
    refine j_iconst hE dX6_day_225 kc_0 ?_
    exact j_iret hE hK dX6_day_226 rfl ⟨_, rfl, hw⟩
  · have hw := hw.2 c1
    refine j_aload_n hE 0 dX6_day_202 rfl rfl ?_
    refine jm_get hE hA 21 (Nat.le_of_ble_eq_true rfl) q1668 rfl (v := .ref (ad 9)) rfl dX6_day_203 ?_
    refine j_iconst hE dX6_day_206 kc_1 ?_
    refine j_iload_n hE 2 dX6_day_207 rfl rfl ?_
    refine j_iadd hE dX6_day_208 ?_
    refine j_aload_n hE 0 dX6_day_209 rfl rfl ?_
    refine jm_get hE hA 21 (Nat.le_of_ble_eq_true rfl) q1668 rfl (v := .ref (ad 9)) rfl dX6_day_210 ?_
    refine j_bipush hE dX6_day_213 kb_125 ?_
    refine j_iload_n hE 2 dX6_day_215 rfl rfl ?_
    refine j_iadd hE dX6_day_216 ?_
    obtain ⟨h2, hw⟩ := hw
    refine jm_iald hE hA 8 (Nat.le_of_ble_eq_true rfl) h2 dX6_day_217 ?_
    obtain ⟨h3, hw⟩ := hw
    refine jm_iast hE hA 8 (Nat.le_of_ble_eq_true rfl) h3 dX6_day_218 ?_
    refine j_wm (fun m4 e_m4 => ?_)
    have hw := hw m4 e_m4
    refine j_iinc (L' := [(2, .int (x2 + 1)), (0, .ref (ad 0)), (1, .int (x1))]) hE hn 2 dX6_day_219 rfl (congrArg (x2 + ·) kc_1) (Nat.le_of_ble_eq_true rfl) rfl ?_
    refine j_goto hE 195 dX6_day_222 (by decide) ?_
    refine j_sub [(0, .ref (ad 0)), (1, .int (x1)), (2, .int (x2 + 1))] [1, 2, 0] rfl ?_
    have hz := ih195 (x2 + 1, m4) hw
    exact hz
def wX6_day_174 (x1 : Int32) (m : MS) (K : Int32 → MS → Prop) : Prop :=
  ((gF m 4) ≤ 0 → (vp_in 0 250 ∧ (∀ m3 : MS, m3 = wA m 8 0 x1 → (wX6_day_195 x1 0 m3 K)))) ∧ (¬ (gF m 4) ≤ 0 → (K (gF m 4) m))
set_option maxRecDepth 100000 in
theorem bX6_day_174 {E : jE} (hE : jOk E cX6_day RX6) (hn : E.2.2.2.2 = 3) (hR : jRoom E 4 87) {ad : Nat → Nat} (hA : adOk ad) {r : GW} {b : Nat × Nat} {K : Int32 → MS → Prop} (hK : jRi E .int (KMI ad r K)) {x1 : Int32} {m : MS}  (hw : wX6_day_174 x1 m K) : J E (mwX ad m r) b [(0, .ref (ad 0)), (1, .int (x1))] 174 [] := by
  unfold wX6_day_174 at hw
  refine j_aload_n hE 0 dX6_day_174 rfl rfl ?_
  refine jm_get hE hA 8 (Nat.le_of_ble_eq_true rfl) q1655 rfl (v := .int (gF m 4)) rfl dX6_day_175 ?_
  refine j_if_le hE 186 dX6_day_178 (by decide) (fun c1 => ?_) (fun c1 => ?_)
  · have hw := hw.1 c1
    refine j_aload_n hE 0 dX6_day_186 rfl rfl ?_
    refine jm_get hE hA 21 (Nat.le_of_ble_eq_true rfl) q1668 rfl (v := .ref (ad 9)) rfl dX6_day_187 ?_
    refine j_iconst hE dX6_day_190 kc_0 ?_
    refine j_iload_n hE 1 dX6_day_191 rfl rfl ?_
    obtain ⟨h2, hw⟩ := hw
    refine jm_iast hE hA 8 (Nat.le_of_ble_eq_true rfl) h2 dX6_day_192 ?_
    refine j_wm (fun m3 e_m3 => ?_)
    have hw := hw m3 e_m3
    refine j_iconst hE dX6_day_193 kc_0 ?_
    refine j_istore_n (L' := [(2, .int (0)), (0, .ref (ad 0)), (1, .int (x1))]) hE hn dX6_day_194 rfl (Nat.le_of_ble_eq_true rfl) rfl ?_
    refine j_sub [(0, .ref (ad 0)), (1, .int (x1)), (2, .int (0))] [1, 2, 0] rfl ?_
    exact bX6_day_195 hE hn hR hA hK  hw
  · have hw := hw.2 c1
    refine j_aload_n hE 0 dX6_day_181 rfl rfl ?_
    refine jm_get hE hA 8 (Nat.le_of_ble_eq_true rfl) q1655 rfl (v := .int (gF m 4)) rfl dX6_day_182 ?_
    exact j_iret hE hK dX6_day_185 rfl ⟨_, rfl, hw⟩
def wX6_day_165 (x1 : Int32) (m : MS) (KL11 : Int32 × MS → Prop) (K : Int32 → MS → Prop) : Prop :=
  wX6_takeSign (nI 59) m (fun  m1 => KL11 (x1, m1))
set_option maxRecDepth 100000 in
theorem bX6_day_165 {E : jE} (hE : jOk E cX6_day RX6) (hn : E.2.2.2.2 = 3) (hR : jRoom E 4 87) {ad : Nat → Nat} (hA : adOk ad) {r : GW} {b : Nat × Nat} {K : Int32 → MS → Prop} (hK : jRi E .int (KMI ad r K)) {x1 : Int32} {m : MS} {KL11 : Int32 × MS → Prop} (ih11 : ∀ s : Int32 × MS, KL11 s → J E (mwX ad (s.2) r) b [(0, .ref (ad 0)), (1, .int (s.1))] 11 []) (hw : wX6_day_165 x1 m KL11 K) : J E (mwX ad m r) b [(0, .ref (ad 0)), (1, .int (x1))] 165 [] := by
  unfold wX6_day_165 at hw
  refine j_aload_n hE 0 dX6_day_165 rfl rfl ?_
  refine j_bipush hE dX6_day_166 kb_59 ?_
  refine jm_cV hE hA hR (As := [.int (nI 59)]) (rest := []) (ctX6_takeSign E.1.2.1 E.2.2.1 hA _ _ _  _ hw) rfl lkX6_takeSign jdX6_takeSign ⟨Nat.le_of_ble_eq_true rfl, Nat.le_of_ble_eq_true rfl⟩ rfl (Nat.le_of_ble_eq_true rfl) dX6_day_168 (fun  m1 hw => ?_)
  refine j_goto hE 11 dX6_day_171 (by decide) ?_
  have hz := ih11 (x1, m1) hw
  exact hz
def wX6_day_161 (x1 : Int32) (s1 : Int32) (s2 : Int32) (m : MS) (KL11 : Int32 × MS → Prop) (K : Int32 → MS → Prop) : Prop :=
  vp_in s1 250 ∧ (∀ m2 : MS, m2 = wA m 8 s1 s2 → (wX6_day_165 (x1 + 1) m2 KL11 K))
set_option maxRecDepth 100000 in
theorem bX6_day_161 {E : jE} (hE : jOk E cX6_day RX6) (hn : E.2.2.2.2 = 3) (hR : jRoom E 4 87) {ad : Nat → Nat} (hA : adOk ad) {r : GW} {b : Nat × Nat} {K : Int32 → MS → Prop} (hK : jRi E .int (KMI ad r K)) {x1 : Int32} {s1 : Int32} {s2 : Int32} {m : MS} {KL11 : Int32 × MS → Prop} (ih11 : ∀ s : Int32 × MS, KL11 s → J E (mwX ad (s.2) r) b [(0, .ref (ad 0)), (1, .int (s.1))] 11 []) (hw : wX6_day_161 x1 s1 s2 m KL11 K) : J E (mwX ad m r) b [(0, .ref (ad 0)), (1, .int (x1))] 161 [.int (s2), .int (s1), .ref (ad 9)] := by
  unfold wX6_day_161 at hw
  obtain ⟨h1, hw⟩ := hw
  refine jm_iast hE hA 8 (Nat.le_of_ble_eq_true rfl) h1 dX6_day_161 ?_
  refine j_wm (fun m2 e_m2 => ?_)
  have hw := hw m2 e_m2
  refine j_iinc (L' := [(1, .int (x1 + 1)), (0, .ref (ad 0))]) hE hn 1 dX6_day_162 rfl (congrArg (x1 + ·) kc_1) (Nat.le_of_ble_eq_true rfl) rfl ?_
  refine j_sub [(0, .ref (ad 0)), (1, .int (x1 + 1))] [1, 0] rfl ?_
  exact bX6_day_165 hE hn hR hA hK ih11 hw
def wX6_day_121 (x1 : Int32) (x2 : Int32) (s1 : Int32) (s2 : Int32) (m : MS) (KL11 : Int32 × MS → Prop) (K : Int32 → MS → Prop) : Prop :=
  vp_in s1 250 ∧ (∀ m2 : MS, m2 = wA m 8 s1 s2 → ((¬ x2 = 0 → ((¬ x2 = 1 → (wX6_day_161 x1 ((nI 127) + ((nI 3) * x1)) 0 m2 KL11 K)) ∧ (x2 = 1 → (wX6_takeTold (nI 40) m2 (fun r5 m6 => wX6_day_161 x1 ((nI 127) + ((nI 3) * x1)) r5 m6 KL11 K))))) ∧ (x2 = 0 → (wX6_takeNumber 0 (nI 9) m2 (fun r7 m8 => wX6_day_161 x1 ((nI 127) + ((nI 3) * x1)) r7 m8 KL11 K)))))
set_option maxRecDepth 100000 in
theorem bX6_day_121 {E : jE} (hE : jOk E cX6_day RX6) (hn : E.2.2.2.2 = 3) (hR : jRoom E 4 87) {ad : Nat → Nat} (hA : adOk ad) {r : GW} {b : Nat × Nat} {K : Int32 → MS → Prop} (hK : jRi E .int (KMI ad r K)) {x1 : Int32} {x2 : Int32} {s1 : Int32} {s2 : Int32} {m : MS} {KL11 : Int32 × MS → Prop} (ih11 : ∀ s : Int32 × MS, KL11 s → J E (mwX ad (s.2) r) b [(0, .ref (ad 0)), (1, .int (s.1))] 11 []) (hw : wX6_day_121 x1 x2 s1 s2 m KL11 K) : J E (mwX ad m r) b [(0, .ref (ad 0)), (1, .int (x1)), (2, .int (x2))] 121 [.int (s2), .int (s1), .ref (ad 9)] := by
  unfold wX6_day_121 at hw
  obtain ⟨h1, hw⟩ := hw
  refine jm_iast hE hA 8 (Nat.le_of_ble_eq_true rfl) h1 dX6_day_121 ?_
  refine j_wm (fun m2 e_m2 => ?_)
  have hw := hw m2 e_m2
  refine j_aload_n hE 0 dX6_day_122 rfl rfl ?_
  refine jm_get hE hA 21 (Nat.le_of_ble_eq_true rfl) q1668 rfl (v := .ref (ad 9)) rfl dX6_day_123 ?_
  refine j_bipush hE dX6_day_126 kb_127 ?_
  refine j_iconst hE dX6_day_128 kc_3 ?_
  refine j_iload_n hE 1 dX6_day_129 rfl rfl ?_
  refine j_imul hE dX6_day_130 ?_
  refine j_iadd hE dX6_day_131 ?_
  refine j_iload_n hE 2 dX6_day_132 rfl rfl ?_
  refine j_if_ne hE 146 dX6_day_133 (by decide) (fun c3 => ?_) (fun c3 => ?_)
  · have hw := hw.1 c3
    refine j_iload_n hE 2 dX6_day_146 rfl rfl ?_
    refine j_iconst hE dX6_day_147 kc_1 ?_
    refine j_icmp_ne hE 160 dX6_day_148 (by decide) (fun c4 => ?_) (fun c4 => ?_)
    · have hw := hw.1 c4
      refine j_iconst hE dX6_day_160 kc_0 ?_
      refine j_sub [(0, .ref (ad 0)), (1, .int (x1))] [0, 1] rfl ?_
      exact bX6_day_161 hE hn hR hA hK ih11 hw
    · have hw := hw.2 c4
      refine j_aload_n hE 0 dX6_day_151 rfl rfl ?_
      refine j_bipush hE dX6_day_152 kb_40 ?_
      refine jm_cI hE hA hR (As := [.int (nI 40)]) (rest := [.int ((nI 127) + ((nI 3) * x1)), .ref (ad 9)]) (ctX6_takeTold E.1.2.1 E.2.2.1 hA _ _ _  _ hw) rfl lkX6_takeTold jdX6_takeTold ⟨Nat.le_of_ble_eq_true rfl, Nat.le_of_ble_eq_true rfl⟩ rfl (Nat.le_of_ble_eq_true rfl) dX6_day_154 (fun r5 m6 hw => ?_)
      refine j_goto hE 161 dX6_day_157 (by decide) ?_
      refine j_sub [(0, .ref (ad 0)), (1, .int (x1))] [0, 1] rfl ?_
      exact bX6_day_161 hE hn hR hA hK ih11 hw
  · have hw := hw.2 c3
    refine j_aload_n hE 0 dX6_day_136 rfl rfl ?_
    refine j_iconst hE dX6_day_137 kc_0 ?_
    refine j_bipush hE dX6_day_138 kb_9 ?_
    refine jm_cI hE hA hR (As := [.int (0), .int (nI 9)]) (rest := [.int ((nI 127) + ((nI 3) * x1)), .ref (ad 9)]) (ctX6_takeNumber E.1.2.1 E.2.2.1 hA _ _ _ _  _ hw) rfl lkX6_takeNumber jdX6_takeNumber ⟨Nat.le_of_ble_eq_true rfl, Nat.le_of_ble_eq_true rfl⟩ rfl (Nat.le_of_ble_eq_true rfl) dX6_day_140 (fun r7 m8 hw => ?_)
    refine j_goto hE 161 dX6_day_143 (by decide) ?_
    refine j_sub [(0, .ref (ad 0)), (1, .int (x1))] [0, 1] rfl ?_
    exact bX6_day_161 hE hn hR hA hK ih11 hw
def wX6_day_118 (x1 : Int32) (x2 : Int32) (s1 : Int32) (s3 : Int32) (m : MS) (KL11 : Int32 × MS → Prop) (K : Int32 → MS → Prop) : Prop :=
  wX6_takeTold s3 m (fun r1 m2 => wX6_day_121 x1 x2 s1 r1 m2 KL11 K)
set_option maxRecDepth 100000 in
theorem bX6_day_118 {E : jE} (hE : jOk E cX6_day RX6) (hn : E.2.2.2.2 = 3) (hR : jRoom E 4 87) {ad : Nat → Nat} (hA : adOk ad) {r : GW} {b : Nat × Nat} {K : Int32 → MS → Prop} (hK : jRi E .int (KMI ad r K)) {x1 : Int32} {x2 : Int32} {s1 : Int32} {s3 : Int32} {m : MS} {KL11 : Int32 × MS → Prop} (ih11 : ∀ s : Int32 × MS, KL11 s → J E (mwX ad (s.2) r) b [(0, .ref (ad 0)), (1, .int (s.1))] 11 []) (hw : wX6_day_118 x1 x2 s1 s3 m KL11 K) : J E (mwX ad m r) b [(0, .ref (ad 0)), (1, .int (x1)), (2, .int (x2))] 118 [.int (s3), .ref (ad 0), .int (s1), .ref (ad 9)] := by
  unfold wX6_day_118 at hw
  refine jm_cI hE hA hR (As := [.int (s3)]) (rest := [.int (s1), .ref (ad 9)]) (ctX6_takeTold E.1.2.1 E.2.2.1 hA _ _ _  _ hw) rfl lkX6_takeTold jdX6_takeTold ⟨Nat.le_of_ble_eq_true rfl, Nat.le_of_ble_eq_true rfl⟩ rfl (Nat.le_of_ble_eq_true rfl) dX6_day_118 (fun r1 m2 hw => ?_)
  exact bX6_day_121 hE hn hR hA hK ih11 hw
def wX6_day_11_b (x1 : Int32) (m : MS) (KL11 : Int32 × MS → Prop) (K : Int32 → MS → Prop) : Prop :=
  (¬ (gF m 4) = 0 → (wX6_day_174 x1 m K)) ∧ ((gF m 4) = 0 → (vp_in (gF m 3) 1002 ∧ (((rd (gA m 1) (gF m 3)) = 0 → (wX6_day_174 x1 m K)) ∧ (¬ (rd (gA m 1) (gF m 3)) = 0 → (wX6_wordHere (nI 9) (nI 6) m (fun r4 => (0 ≤ r4 → ((¬ x1 = (nI 40) → (∀ m7 : MS, m7 = sF m 3 ((gF m 3) + 1) → (vp_in ((nI 125) + ((nI 3) * x1)) 250 ∧ (∀ m9 : MS, m9 = wA m7 8 ((nI 125) + ((nI 3) * x1)) r4 → ((¬ r4 = (nI 5) → (((nI 2) ≤ r4 → (wX6_day_118 x1 r4 ((nI 126) + ((nI 3) * x1)) 0 m9 KL11 K)) ∧ (¬ (nI 2) ≤ r4 → (wX6_day_118 x1 r4 ((nI 126) + ((nI 3) * x1)) (nI 20) m9 KL11 K)))) ∧ (r4 = (nI 5) → (wX6_day_121 x1 r4 ((nI 126) + ((nI 3) * x1)) 0 m9 KL11 K))))))) ∧ (x1 = (nI 40) → (wX6_wrong (nI 5) m (fun  m12 => wX6_day_165 x1 m12 KL11 K))))) ∧ (¬ 0 ≤ r4 → (wX6_wrong 1 m (fun  m13 => wX6_day_165 x1 m13 KL11 K)))))))))
def wX6_day_11 (x1 : Int32) (m : MS) (K : Int32 → MS → Prop) : Prop := lfp (σ := Int32 × MS) (fun KL s => wX6_day_11_b s.1 s.2 KL K) (x1, m)
set_option maxRecDepth 100000 in
theorem bX6_day_11 {E : jE} (hE : jOk E cX6_day RX6) (hn : E.2.2.2.2 = 3) (hR : jRoom E 4 87) {ad : Nat → Nat} (hA : adOk ad) {r : GW} {b : Nat × Nat} {K : Int32 → MS → Prop} (hK : jRi E .int (KMI ad r K)) {x1 : Int32} {m : MS}  (hw : wX6_day_11 x1 m K) : J E (mwX ad m r) b [(0, .ref (ad 0)), (1, .int (x1))] 11 [] := by
  refine lfp_sound (σ := Int32 × MS) (F := fun KL s => wX6_day_11_b s.1 s.2 KL K) (P := fun s => J E (mwX ad (s.2) r) b [(0, .ref (ad 0)), (1, .int (s.1))] 11 []) ?_ hw
  clear hw
  rintro KL11 ⟨x1, m⟩ hw ih11
  have hw : wX6_day_11_b x1 m KL11 K := hw
  unfold wX6_day_11_b at hw
  refine j_aload_n hE 0 dX6_day_11 rfl rfl ?_
  refine jm_get hE hA 8 (Nat.le_of_ble_eq_true rfl) q1655 rfl (v := .int (gF m 4)) rfl dX6_day_12 ?_
  refine j_if_ne hE 174 dX6_day_15 (by decide) (fun c1 => ?_) (fun c1 => ?_)
  · have hw := hw.1 c1
    exact bX6_day_174 hE hn hR hA hK  hw
  · have hw := hw.2 c1
    refine j_aload_n hE 0 dX6_day_18 rfl rfl ?_
    refine jm_get hE hA 4 (Nat.le_of_ble_eq_true rfl) q1651 rfl (v := .ref (ad 2)) rfl dX6_day_19 ?_
    refine j_aload_n hE 0 dX6_day_22 rfl rfl ?_
    refine jm_get hE hA 7 (Nat.le_of_ble_eq_true rfl) q1654 rfl (v := .int (gF m 3)) rfl dX6_day_23 ?_
    obtain ⟨h2, hw⟩ := hw
    refine jm_iald hE hA 1 (Nat.le_of_ble_eq_true rfl) h2 dX6_day_26 ?_
    refine j_if_eq hE 174 dX6_day_27 (by decide) (fun c3 => ?_) (fun c3 => ?_)
    · have hw := hw.1 c3
      exact bX6_day_174 hE hn hR hA hK  hw
    · have hw := hw.2 c3
      refine j_aload_n hE 0 dX6_day_30 rfl rfl ?_
      refine j_bipush hE dX6_day_31 kb_9 ?_
      refine j_bipush hE dX6_day_33 kb_6 ?_
      refine jm_pI hE hA hR (As := [.int (nI 9), .int (nI 6)]) (rest := []) (ctX6_wordHere E.1.2.1 E.2.2.1 hA _ _ _ _  _ hw) rfl lkX6_wordHere jdX6_wordHere ⟨Nat.le_of_ble_eq_true rfl, Nat.le_of_ble_eq_true rfl⟩ rfl (Nat.le_of_ble_eq_true rfl) dX6_day_35 (fun r4 hw => ?_)
      refine j_istore_n (L' := [(2, .int (r4)), (0, .ref (ad 0)), (1, .int (x1))]) hE hn dX6_day_38 rfl (Nat.le_of_ble_eq_true rfl) rfl ?_
      refine j_iload_n hE 0 dX6_day_39 rfl rfl ?_
      refine j_if_ge hE 51 dX6_day_40 (by decide) (fun c5 => ?_) (fun c5 => ?_)
      · have hw := hw.1 c5
        refine j_iload_n hE 2 dX6_day_51 rfl rfl ?_
        refine j_bipush hE dX6_day_52 kb_40 ?_
        refine j_icmp_ne hE 65 dX6_day_54 (by decide) (fun c6 => ?_) (fun c6 => ?_)
        · have hw := hw.1 c6
          refine j_aload_n hE 1 dX6_day_65 rfl rfl ?_
          refine j_dup hE dX6_day_66 rfl ?_
          refine jm_get hE hA 7 (Nat.le_of_ble_eq_true rfl) q1654 rfl (v := .int (gF m 3)) rfl dX6_day_67 ?_
          refine j_iconst hE dX6_day_70 kc_1 ?_
          refine j_iadd hE dX6_day_71 ?_
          refine jm_putF hE hA 7 3 (Nat.le_of_ble_eq_true rfl) q1654 rfl rfl (mset_3 _ _ _) rfl rfl dX6_day_72 ?_
          refine j_wm (fun m7 e_m7 => ?_)
          have hw := hw m7 e_m7
          refine j_aload_n hE 1 dX6_day_75 rfl rfl ?_
          refine jm_get hE hA 21 (Nat.le_of_ble_eq_true rfl) q1668 rfl (v := .ref (ad 9)) rfl dX6_day_76 ?_
          refine j_bipush hE dX6_day_79 kb_125 ?_
          refine j_iconst hE dX6_day_81 kc_3 ?_
          refine j_iload_n hE 2 dX6_day_82 rfl rfl ?_
          refine j_imul hE dX6_day_83 ?_
          refine j_iadd hE dX6_day_84 ?_
          refine j_iload_n hE 0 dX6_day_85 rfl rfl ?_
          obtain ⟨h8, hw⟩ := hw
          refine jm_iast hE hA 8 (Nat.le_of_ble_eq_true rfl) h8 dX6_day_86 ?_
          refine j_wm (fun m9 e_m9 => ?_)
          have hw := hw m9 e_m9
          refine j_aload_n hE 1 dX6_day_87 rfl rfl ?_
          refine jm_get hE hA 21 (Nat.le_of_ble_eq_true rfl) q1668 rfl (v := .ref (ad 9)) rfl dX6_day_88 ?_
          refine j_bipush hE dX6_day_91 kb_126 ?_
          refine j_iconst hE dX6_day_93 kc_3 ?_
          refine j_iload_n hE 2 dX6_day_94 rfl rfl ?_
          refine j_imul hE dX6_day_95 ?_
          refine j_iadd hE dX6_day_96 ?_
          refine j_iload_n hE 0 dX6_day_97 rfl rfl ?_
          refine j_iconst hE dX6_day_98 kc_5 ?_
          refine j_icmp_ne hE 106 dX6_day_99 (by decide) (fun c10 => ?_) (fun c10 => ?_)
          · have hw := hw.1 c10
            refine j_aload_n hE 1 dX6_day_106 rfl rfl ?_
            refine j_iload_n hE 0 dX6_day_107 rfl rfl ?_
            refine j_iconst hE dX6_day_108 kc_2 ?_
            refine j_icmp_ge hE 117 dX6_day_109 (by decide) (fun c11 => ?_) (fun c11 => ?_)
            · have hw := hw.1 c11
              refine j_iconst hE dX6_day_117 kc_0 ?_
              refine j_sub [(0, .ref (ad 0)), (1, .int (x1)), (2, .int (r4))] [1, 2, 0] rfl ?_
              exact bX6_day_118 hE hn hR hA hK ih11 hw
            · have hw := hw.2 c11
              refine j_bipush hE dX6_day_112 kb_20 ?_
              refine j_goto hE 118 dX6_day_114 (by decide) ?_
              refine j_sub [(0, .ref (ad 0)), (1, .int (x1)), (2, .int (r4))] [1, 2, 0] rfl ?_
              exact bX6_day_118 hE hn hR hA hK ih11 hw
          · have hw := hw.2 c10
            refine j_iconst hE dX6_day_102 kc_0 ?_
            refine j_goto hE 121 dX6_day_103 (by decide) ?_
            refine j_sub [(0, .ref (ad 0)), (1, .int (x1)), (2, .int (r4))] [1, 2, 0] rfl ?_
            exact bX6_day_121 hE hn hR hA hK ih11 hw
        · have hw := hw.2 c6
          refine j_aload_n hE 1 dX6_day_57 rfl rfl ?_
          refine j_iconst hE dX6_day_58 kc_5 ?_
          refine jm_cV hE hA hR (As := [.int (nI 5)]) (rest := []) (ctX6_wrong E.1.2.1 E.2.2.1 hA _ _ _  _ hw) rfl lkX6_wrong jdX6_wrong ⟨Nat.le_of_ble_eq_true rfl, Nat.le_of_ble_eq_true rfl⟩ rfl (Nat.le_of_ble_eq_true rfl) dX6_day_59 (fun  m12 hw => ?_)
          refine j_goto hE 165 dX6_day_62 (by decide) ?_
          refine j_sub [(0, .ref (ad 0)), (1, .int (x1))] [1, 2] rfl ?_
          exact bX6_day_165 hE hn hR hA hK ih11 hw
      · have hw := hw.2 c5
        refine j_aload_n hE 1 dX6_day_43 rfl rfl ?_
        refine j_iconst hE dX6_day_44 kc_1 ?_
        refine jm_cV hE hA hR (As := [.int (1)]) (rest := []) (ctX6_wrong E.1.2.1 E.2.2.1 hA _ _ _  _ hw) rfl lkX6_wrong jdX6_wrong ⟨Nat.le_of_ble_eq_true rfl, Nat.le_of_ble_eq_true rfl⟩ rfl (Nat.le_of_ble_eq_true rfl) dX6_day_45 (fun  m13 hw => ?_)
        refine j_goto hE 165 dX6_day_48 (by decide) ?_
        refine j_sub [(0, .ref (ad 0)), (1, .int (x1))] [1, 2] rfl ?_
        exact bX6_day_165 hE hn hR hA hK ih11 hw
def wX6_day_0 (m : MS) (K : Int32 → MS → Prop) : Prop :=
  ∀ m1 : MS, m1 = sF m 0 0 → (wX6_cutAll  m1 (fun  m2 => wX6_day_11 0 m2 K))
set_option maxRecDepth 100000 in
theorem bX6_day_0 {E : jE} (hE : jOk E cX6_day RX6) (hn : E.2.2.2.2 = 3) (hR : jRoom E 4 87) {ad : Nat → Nat} (hA : adOk ad) {r : GW} {b : Nat × Nat} {K : Int32 → MS → Prop} (hK : jRi E .int (KMI ad r K)) {m : MS}  (hw : wX6_day_0 m K) : J E (mwX ad m r) b [(0, .ref (ad 0))] 0 [] := by
  unfold wX6_day_0 at hw
  refine j_aload_n hE 0 dX6_day_0 rfl rfl ?_
  refine j_iconst hE dX6_day_1 kc_0 ?_
  refine jm_putF hE hA 0 0 (Nat.le_of_ble_eq_true rfl) q1647 rfl rfl (mset_0 _ _ _) rfl rfl dX6_day_2 ?_
  refine j_wm (fun m1 e_m1 => ?_)
  have hw := hw m1 e_m1
  refine j_aload_n hE 0 dX6_day_5 rfl rfl ?_
  refine jm_cV hE hA hR (As := []) (rest := []) (ctX6_cutAll E.1.2.1 E.2.2.1 hA _ _  _ hw) rfl lkX6_cutAll jdX6_cutAll ⟨Nat.le_of_ble_eq_true rfl, Nat.le_of_ble_eq_true rfl⟩ rfl (Nat.le_of_ble_eq_true rfl) dX6_day_6 (fun  m2 hw => ?_)
  refine j_iconst hE dX6_day_9 kc_0 ?_
  refine j_istore_n (L' := [(1, .int (0)), (0, .ref (ad 0))]) hE hn dX6_day_10 rfl (Nat.le_of_ble_eq_true rfl) rfl ?_
  refine j_sub [(0, .ref (ad 0)), (1, .int (0))] [1, 0] rfl ?_
  exact bX6_day_11 hE hn hR hA hK  hw
abbrev wX6_day := wX6_day_0
theorem ctX6_day (l : Launch) (G : gG) {ad : Nat → Nat} (hA : adOk ad) (m0 : MS) (r : GW)  (K : Int32 → MS → Prop) (hw : wX6_day m0 K) : CtI l yX6_day cX6_day 3 .int ({ frames := 4, cells := 0, slots := 0, locals := 87 }) G [.ref (ad 0)] (mwX ad m0 r) (KMI ad r K) :=
  CtI.of RX6 plain_X6 rfl (Nat.le_of_ble_eq_true rfl) (fun E hE _ _ hn hR hK => bX6_day_0 hE hn hR hA hK hw)
theorem jdX6_day : jD yX6_day 0 := by decide +kernel
def wX6_panes_0 (m0 : MS) (K : Int32 → Prop) : Prop :=
  vp_in 0 120 ∧ (K (rd (gA m0 3) 0))
set_option maxRecDepth 100000 in
theorem bX6_panes_0 {E : jE} (hE : jOk E cX6_panes RX6) (hn : E.2.2.2.2 = 1) (hR : jRoom E 0 0) {ad : Nat → Nat} (hA : adOk ad) {r : GW} {m0 : MS} {b : Nat × Nat} {K : Int32 → Prop} (hK : jRi E .int (KPI (mwX ad m0 r) K))   (hw : wX6_panes_0 m0 K) : J E (mwX ad m0 r) b [(0, .ref (ad 0))] 0 [] := by
  unfold wX6_panes_0 at hw
  refine j_aload_n hE 0 dX6_panes_0 rfl rfl ?_
  refine jm_get hE hA 10 (Nat.le_of_ble_eq_true rfl) q1657 rfl (v := .ref (ad 4)) rfl dX6_panes_1 ?_
  refine j_iconst hE dX6_panes_4 kc_0 ?_
  obtain ⟨h1, hw⟩ := hw
  refine jm_iald hE hA 3 (Nat.le_of_ble_eq_true rfl) h1 dX6_panes_5 ?_
  exact j_iret hE hK dX6_panes_6 rfl ⟨rfl, hw⟩
abbrev wX6_panes := wX6_panes_0
theorem ctX6_panes (l : Launch) (G : gG) {ad : Nat → Nat} (hA : adOk ad) (m0 : MS) (r : GW)  (K : Int32 → Prop) (hw : wX6_panes m0 K) : CtI l yX6_panes cX6_panes 1 .int ({ frames := 0, cells := 0, slots := 0, locals := 0 }) G [.ref (ad 0)] (mwX ad m0 r) (KPI (mwX ad m0 r) K) :=
  CtI.of RX6 plain_X6 rfl (Nat.le_of_ble_eq_true rfl) (fun E hE _ _ hn hR hK => bX6_panes_0 hE hn hR hA hK hw)
theorem jdX6_panes : jD yX6_panes 0 := by decide +kernel
theorem lkX6_panes : GoodIn lw_all (wsV RX6 278 yX6_panes.cls yX6_panes (ws_ yX6_panes cX6_panes 1 (some .int))) := lw_V q1881 q1883 qs87 q129 q1884
def wX6_isPane_0 (x1 : Int32) (m0 : MS) (K : Int32 → Prop) : Prop :=
  (x1 < 0 → (K 0)) ∧ (¬ x1 < 0 → (wX6_panes  m0 (fun r2 => (r2 ≤ x1 → (K 0)) ∧ (¬ r2 ≤ x1 → (K 1)))))
set_option maxRecDepth 100000 in
theorem bX6_isPane_0 {E : jE} (hE : jOk E cX6_isPane RX6) (hn : E.2.2.2.2 = 2) (hR : jRoom E 1 20) {ad : Nat → Nat} (hA : adOk ad) {r : GW} {m0 : MS} {b : Nat × Nat} {K : Int32 → Prop} (hK : jRi E .boolean (KPI (mwX ad m0 r) K)) {x1 : Int32}  (hw : wX6_isPane_0 x1 m0 K) : J E (mwX ad m0 r) b [(0, .ref (ad 0)), (1, .int (x1))] 0 [] := by
  unfold wX6_isPane_0 at hw
  refine j_iload_n hE 1 dX6_isPane_0 rfl rfl ?_
  refine j_if_lt hE 16 dX6_isPane_1 (by decide) (fun c1 => ?_) (fun c1 => ?_)
  · have hw := hw.1 c1
    refine j_iconst hE dX6_isPane_16 kc_0 ?_
    exact j_iret hE hK dX6_isPane_17 rfl ⟨rfl, hw⟩
  · have hw := hw.2 c1
    refine j_iload_n hE 1 dX6_isPane_4 rfl rfl ?_
    refine j_aload_n hE 0 dX6_isPane_5 rfl rfl ?_
    refine jm_pI hE hA hR (As := []) (rest := [.int (x1)]) (ctX6_panes E.1.2.1 E.2.2.1 hA _ _  _ hw) rfl lkX6_panes jdX6_panes ⟨Nat.le_of_ble_eq_true rfl, Nat.le_of_ble_eq_true rfl⟩ rfl (Nat.le_of_ble_eq_true rfl) dX6_isPane_6 (fun r2 hw => ?_)
    refine j_icmp_ge hE 16 dX6_isPane_9 (by decide) (fun c3 => ?_) (fun c3 => ?_)
    · have hw := hw.1 c3
      refine j_iconst hE dX6_isPane_16 kc_0 ?_
      exact j_iret hE hK dX6_isPane_17 rfl ⟨rfl, hw⟩
    · have hw := hw.2 c3
      refine j_iconst hE dX6_isPane_12 kc_1 ?_
      refine j_goto hE 17 dX6_isPane_13 (by decide) ?_
      exact j_iret hE hK dX6_isPane_17 rfl ⟨rfl, hw⟩
abbrev wX6_isPane := wX6_isPane_0
theorem ctX6_isPane (l : Launch) (G : gG) {ad : Nat → Nat} (hA : adOk ad) (m0 : MS) (r : GW) (x1 : Int32) (K : Int32 → Prop) (hw : wX6_isPane x1 m0 K) : CtI l yX6_isPane cX6_isPane 2 .boolean ({ frames := 1, cells := 0, slots := 0, locals := 20 }) G [.ref (ad 0), .int (x1)] (mwX ad m0 r) (KPI (mwX ad m0 r) K) :=
  CtI.of RX6 plain_X6 rfl (Nat.le_of_ble_eq_true rfl) (fun E hE _ _ hn hR hK => bX6_isPane_0 hE hn hR hA hK hw)
theorem jdX6_isPane : jD yX6_isPane 1 := by decide +kernel
theorem lkX6_isPane : GoodIn lw_all (wsV RX6 337 yX6_isPane.cls yX6_isPane (ws_ yX6_isPane cX6_isPane 2 (some .boolean))) := lw_V q1877 q1879 qs86 q129 q1880
def wX6_paneOf_0 (x1 : Int32) (x2 : Int32) (m0 : MS) (K : Int32 → Prop) : Prop :=
  vp_in (((nI 5) + ((nI 3) * x1)) + x2) 120 ∧ (K (rd (gA m0 3) (((nI 5) + ((nI 3) * x1)) + x2)))
set_option maxRecDepth 100000 in
theorem bX6_paneOf_0 {E : jE} (hE : jOk E cX6_paneOf RX6) (hn : E.2.2.2.2 = 3) (hR : jRoom E 0 0) {ad : Nat → Nat} (hA : adOk ad) {r : GW} {m0 : MS} {b : Nat × Nat} {K : Int32 → Prop} (hK : jRi E .int (KPI (mwX ad m0 r) K)) {x1 : Int32} {x2 : Int32}  (hw : wX6_paneOf_0 x1 x2 m0 K) : J E (mwX ad m0 r) b [(0, .ref (ad 0)), (1, .int (x1)), (2, .int (x2))] 0 [] := by
  unfold wX6_paneOf_0 at hw
  refine j_aload_n hE 0 dX6_paneOf_0 rfl rfl ?_
  refine jm_get hE hA 10 (Nat.le_of_ble_eq_true rfl) q1657 rfl (v := .ref (ad 4)) rfl dX6_paneOf_1 ?_
  refine j_iconst hE dX6_paneOf_4 kc_5 ?_
  refine j_iconst hE dX6_paneOf_5 kc_3 ?_
  refine j_iload_n hE 1 dX6_paneOf_6 rfl rfl ?_
  refine j_imul hE dX6_paneOf_7 ?_
  refine j_iadd hE dX6_paneOf_8 ?_
  refine j_iload_n hE 2 dX6_paneOf_9 rfl rfl ?_
  refine j_iadd hE dX6_paneOf_10 ?_
  obtain ⟨h1, hw⟩ := hw
  refine jm_iald hE hA 3 (Nat.le_of_ble_eq_true rfl) h1 dX6_paneOf_11 ?_
  exact j_iret hE hK dX6_paneOf_12 rfl ⟨rfl, hw⟩
abbrev wX6_paneOf := wX6_paneOf_0
theorem ctX6_paneOf (l : Launch) (G : gG) {ad : Nat → Nat} (hA : adOk ad) (m0 : MS) (r : GW) (x1 : Int32) (x2 : Int32) (K : Int32 → Prop) (hw : wX6_paneOf x1 x2 m0 K) : CtI l yX6_paneOf cX6_paneOf 3 .int ({ frames := 0, cells := 0, slots := 0, locals := 0 }) G [.ref (ad 0), .int (x1), .int (x2)] (mwX ad m0 r) (KPI (mwX ad m0 r) K) :=
  CtI.of RX6 plain_X6 rfl (Nat.le_of_ble_eq_true rfl) (fun E hE _ _ hn hR hK => bX6_paneOf_0 hE hn hR hA hK hw)
theorem jdX6_paneOf : jD yX6_paneOf 2 := by decide +kernel
theorem lkX6_paneOf : GoodIn lw_all (wsV RX6 284 yX6_paneOf.cls yX6_paneOf (ws_ yX6_paneOf cX6_paneOf 3 (some .int))) := lw_V q1885 q1887 qs88 q129 q1888
def wX6_isWhole_0 (x1 : Int32) (x2 : Int32) (m0 : MS) (K : Int32 → Prop) : Prop :=
  vp_in ((x1 + (nI 12)) + x2) 1518 ∧ ((¬ (rd (gA m0 11) ((x1 + (nI 12)) + x2)) = 0 → (K 0)) ∧ ((rd (gA m0 11) ((x1 + (nI 12)) + x2)) = 0 → (K 1)))
set_option maxRecDepth 100000 in
theorem bX6_isWhole_0 {E : jE} (hE : jOk E cX6_isWhole RX6) (hn : E.2.2.2.2 = 3) (hR : jRoom E 0 0) {ad : Nat → Nat} (hA : adOk ad) {r : GW} {m0 : MS} {b : Nat × Nat} {K : Int32 → Prop} (hK : jRi E .boolean (KPI (mwX ad m0 r) K)) {x1 : Int32} {x2 : Int32}  (hw : wX6_isWhole_0 x1 x2 m0 K) : J E (mwX ad m0 r) b [(0, .ref (ad 0)), (1, .int (x1)), (2, .int (x2))] 0 [] := by
  unfold wX6_isWhole_0 at hw
  refine j_aload_n hE 0 dX6_isWhole_0 rfl rfl ?_
  refine jm_get hE hA 24 (Nat.le_of_ble_eq_true rfl) q1671 rfl (v := .ref (ad 12)) rfl dX6_isWhole_1 ?_
  refine j_iload_n hE 1 dX6_isWhole_4 rfl rfl ?_
  refine j_bipush hE dX6_isWhole_5 kb_12 ?_
  refine j_iadd hE dX6_isWhole_7 ?_
  refine j_iload_n hE 2 dX6_isWhole_8 rfl rfl ?_
  refine j_iadd hE dX6_isWhole_9 ?_
  obtain ⟨h1, hw⟩ := hw
  refine jm_iald hE hA 11 (Nat.le_of_ble_eq_true rfl) h1 dX6_isWhole_10 ?_
  refine j_if_ne hE 18 dX6_isWhole_11 (by decide) (fun c2 => ?_) (fun c2 => ?_)
  · have hw := hw.1 c2
    refine j_iconst hE dX6_isWhole_18 kc_0 ?_
    exact j_iret hE hK dX6_isWhole_19 rfl ⟨rfl, hw⟩
  · have hw := hw.2 c2
    refine j_iconst hE dX6_isWhole_14 kc_1 ?_
    refine j_goto hE 19 dX6_isWhole_15 (by decide) ?_
    exact j_iret hE hK dX6_isWhole_19 rfl ⟨rfl, hw⟩
abbrev wX6_isWhole := wX6_isWhole_0
theorem ctX6_isWhole (l : Launch) (G : gG) {ad : Nat → Nat} (hA : adOk ad) (m0 : MS) (r : GW) (x1 : Int32) (x2 : Int32) (K : Int32 → Prop) (hw : wX6_isWhole x1 x2 m0 K) : CtI l yX6_isWhole cX6_isWhole 3 .boolean ({ frames := 0, cells := 0, slots := 0, locals := 0 }) G [.ref (ad 0), .int (x1), .int (x2)] (mwX ad m0 r) (KPI (mwX ad m0 r) K) :=
  CtI.of RX6 plain_X6 rfl (Nat.le_of_ble_eq_true rfl) (fun E hE _ _ hn hR hK => bX6_isWhole_0 hE hn hR hA hK hw)
theorem jdX6_isWhole : jD yX6_isWhole 2 := by decide +kernel
theorem lkX6_isWhole : GoodIn lw_all (wsV RX6 287 yX6_isWhole.cls yX6_isWhole (ws_ yX6_isWhole cX6_isWhole 3 (some .boolean))) := lw_V q1893 q1895 qs90 q129 q1896
def wX6_lightOf_0 (x1 : Int32) (m0 : MS) (K : Int32 → Prop) : Prop :=
  vp_in (nI 3) 120 ∧ (¬ (rd (gA m0 3) (nI 3)) = 0 ∧ (vp_in ((nI 33) + (irem x1 (rd (gA m0 3) (nI 3)))) 120 ∧ (K (rd (gA m0 3) ((nI 33) + (irem x1 (rd (gA m0 3) (nI 3))))))))
set_option maxRecDepth 100000 in
theorem bX6_lightOf_0 {E : jE} (hE : jOk E cX6_lightOf RX6) (hn : E.2.2.2.2 = 2) (hR : jRoom E 0 0) {ad : Nat → Nat} (hA : adOk ad) {r : GW} {m0 : MS} {b : Nat × Nat} {K : Int32 → Prop} (hK : jRi E .int (KPI (mwX ad m0 r) K)) {x1 : Int32}  (hw : wX6_lightOf_0 x1 m0 K) : J E (mwX ad m0 r) b [(0, .ref (ad 0)), (1, .int (x1))] 0 [] := by
  unfold wX6_lightOf_0 at hw
  refine j_aload_n hE 0 dX6_lightOf_0 rfl rfl ?_
  refine jm_get hE hA 10 (Nat.le_of_ble_eq_true rfl) q1657 rfl (v := .ref (ad 4)) rfl dX6_lightOf_1 ?_
  refine j_bipush hE dX6_lightOf_4 kb_33 ?_
  refine j_iload_n hE 1 dX6_lightOf_6 rfl rfl ?_
  refine j_aload_n hE 0 dX6_lightOf_7 rfl rfl ?_
  refine jm_get hE hA 10 (Nat.le_of_ble_eq_true rfl) q1657 rfl (v := .ref (ad 4)) rfl dX6_lightOf_8 ?_
  refine j_iconst hE dX6_lightOf_11 kc_3 ?_
  obtain ⟨h1, hw⟩ := hw
  refine jm_iald hE hA 3 (Nat.le_of_ble_eq_true rfl) h1 dX6_lightOf_12 ?_
  obtain ⟨h2, hw⟩ := hw
  refine j_irem hE dX6_lightOf_13 h2 ?_
  refine j_iadd hE dX6_lightOf_14 ?_
  obtain ⟨h3, hw⟩ := hw
  refine jm_iald hE hA 3 (Nat.le_of_ble_eq_true rfl) h3 dX6_lightOf_15 ?_
  exact j_iret hE hK dX6_lightOf_16 rfl ⟨rfl, hw⟩
abbrev wX6_lightOf := wX6_lightOf_0
theorem ctX6_lightOf (l : Launch) (G : gG) {ad : Nat → Nat} (hA : adOk ad) (m0 : MS) (r : GW) (x1 : Int32) (K : Int32 → Prop) (hw : wX6_lightOf x1 m0 K) : CtI l yX6_lightOf cX6_lightOf 2 .int ({ frames := 0, cells := 0, slots := 0, locals := 0 }) G [.ref (ad 0), .int (x1)] (mwX ad m0 r) (KPI (mwX ad m0 r) K) :=
  CtI.of RX6 plain_X6 rfl (Nat.le_of_ble_eq_true rfl) (fun E hE _ _ hn hR hK => bX6_lightOf_0 hE hn hR hA hK hw)
theorem jdX6_lightOf : jD yX6_lightOf 1 := by decide +kernel
theorem lkX6_lightOf : GoodIn lw_all (wsV RX6 291 yX6_lightOf.cls yX6_lightOf (ws_ yX6_lightOf cX6_lightOf 2 (some .int))) := lw_V q1897 q1899 qs91 q129 q1900
def wX6_sightOf_116 (x3 : Int32) (s0 : Int32) (m0 : MS) (K : Int32 → Prop) : Prop :=
  (s0 = 0 → (K 0)) ∧ (¬ s0 = 0 → (K x3))
set_option maxRecDepth 100000 in
theorem bX6_sightOf_116 {E : jE} (hE : jOk E cX6_sightOf RX6) (hn : E.2.2.2.2 = 6) (hR : jRoom E 1 22) {ad : Nat → Nat} (hA : adOk ad) {r : GW} {m0 : MS} {b : Nat × Nat} {K : Int32 → Prop} (hK : jRi E .int (KPI (mwX ad m0 r) K)) {x3 : Int32} {s0 : Int32}  (hw : wX6_sightOf_116 x3 s0 m0 K) : J E (mwX ad m0 r) b [(0, .ref (ad 0)), (3, .int (x3))] 116 [.int (s0)] := by
  unfold wX6_sightOf_116 at hw
  refine j_istore (L' := [(5, .int (s0)), (0, .ref (ad 0)), (3, .int (x3))]) hE hn dX6_sightOf_116 (Nat.le_of_ble_eq_true rfl) rfl ?_
  refine j_iload hE 0 dX6_sightOf_118 rfl ?_
  refine j_if_eq hE 127 dX6_sightOf_120 (by decide) (fun c1 => ?_) (fun c1 => ?_)
  · have hw := hw.1 c1
    refine j_iconst hE dX6_sightOf_127 kc_0 ?_
    exact j_iret hE hK dX6_sightOf_128 rfl ⟨rfl, hw⟩
  · have hw := hw.2 c1
    refine j_iload_n hE 2 dX6_sightOf_123 rfl rfl ?_
    refine j_goto hE 128 dX6_sightOf_124 (by decide) ?_
    exact j_iret hE hK dX6_sightOf_128 rfl ⟨rfl, hw⟩
def wX6_sightOf_115 (x3 : Int32) (m0 : MS) (K : Int32 → Prop) : Prop :=
  wX6_sightOf_116 x3 0 m0 K
set_option maxRecDepth 100000 in
theorem bX6_sightOf_115 {E : jE} (hE : jOk E cX6_sightOf RX6) (hn : E.2.2.2.2 = 6) (hR : jRoom E 1 22) {ad : Nat → Nat} (hA : adOk ad) {r : GW} {m0 : MS} {b : Nat × Nat} {K : Int32 → Prop} (hK : jRi E .int (KPI (mwX ad m0 r) K)) {x3 : Int32}  (hw : wX6_sightOf_115 x3 m0 K) : J E (mwX ad m0 r) b [(0, .ref (ad 0)), (3, .int (x3))] 115 [] := by
  unfold wX6_sightOf_115 at hw
  refine j_iconst hE dX6_sightOf_115 kc_0 ?_
  exact bX6_sightOf_116 hE hn hR hA hK  hw
def wX6_sightOf_111 (x3 : Int32) (m0 : MS) (K : Int32 → Prop) : Prop :=
  wX6_sightOf_116 x3 1 m0 K
set_option maxRecDepth 100000 in
theorem bX6_sightOf_111 {E : jE} (hE : jOk E cX6_sightOf RX6) (hn : E.2.2.2.2 = 6) (hR : jRoom E 1 22) {ad : Nat → Nat} (hA : adOk ad) {r : GW} {m0 : MS} {b : Nat × Nat} {K : Int32 → Prop} (hK : jRi E .int (KPI (mwX ad m0 r) K)) {x3 : Int32}  (hw : wX6_sightOf_111 x3 m0 K) : J E (mwX ad m0 r) b [(0, .ref (ad 0)), (3, .int (x3))] 111 [] := by
  unfold wX6_sightOf_111 at hw
  refine j_iconst hE dX6_sightOf_111 kc_1 ?_
  refine j_goto hE 116 dX6_sightOf_112 (by decide) ?_
  exact bX6_sightOf_116 hE hn hR hA hK  hw
def wX6_sightOf_60 (x1 : Int32) (x2 : Int32) (s0 : Int32) (s1 : Int32) (m0 : MS) (K : Int32 → Prop) : Prop :=
  ∀ v1 : Int32, v1 = s0 ||| s1 → (wX6_isWhole x1 x2 m0 (fun r2 => (r2 = 0 → (wX6_sightOf_115 v1 m0 K)) ∧ (¬ r2 = 0 → (vp_in ((x1 + (nI 6)) + x2) 1518 ∧ ((¬ (rd (gA m0 11) ((x1 + (nI 6)) + x2)) = 0 → (wX6_sightOf_115 v1 m0 K)) ∧ ((rd (gA m0 11) ((x1 + (nI 6)) + x2)) = 0 → (wX6_paneOf x2 0 m0 (fun r6 => (¬ r6 = (nI 2) → (wX6_sightOf_111 v1 m0 K)) ∧ (r6 = (nI 2) → (vp_in (x1 + 0) 1518 ∧ (wX6_lightOf (rd (gA m0 11) (x1 + 0)) m0 (fun r9 => (¬ r9 = 1 → (wX6_sightOf_115 v1 m0 K)) ∧ (r9 = 1 → (wX6_sightOf_111 v1 m0 K))))))))))))))
set_option maxRecDepth 100000 in
theorem bX6_sightOf_60 {E : jE} (hE : jOk E cX6_sightOf RX6) (hn : E.2.2.2.2 = 6) (hR : jRoom E 1 22) {ad : Nat → Nat} (hA : adOk ad) {r : GW} {m0 : MS} {b : Nat × Nat} {K : Int32 → Prop} (hK : jRi E .int (KPI (mwX ad m0 r) K)) {x1 : Int32} {x2 : Int32} {s0 : Int32} {s1 : Int32}  (hw : wX6_sightOf_60 x1 x2 s0 s1 m0 K) : J E (mwX ad m0 r) b [(0, .ref (ad 0)), (1, .int (x1)), (2, .int (x2))] 60 [.int (s1), .int (s0)] := by
  unfold wX6_sightOf_60 at hw
  refine j_ior hE dX6_sightOf_60 ?_
  refine j_topi (fun v1 e_v1 => ?_)
  have hw := hw v1 e_v1
  refine j_istore_n (L' := [(3, .int (v1)), (0, .ref (ad 0)), (1, .int (x1)), (2, .int (x2))]) hE hn dX6_sightOf_61 rfl (Nat.le_of_ble_eq_true rfl) rfl ?_
  refine j_aload_n hE 1 dX6_sightOf_62 rfl rfl ?_
  refine j_iload_n hE 2 dX6_sightOf_63 rfl rfl ?_
  refine j_iload_n hE 3 dX6_sightOf_64 rfl rfl ?_
  refine jm_pI hE hA hR (As := [.int (x1), .int (x2)]) (rest := []) (ctX6_isWhole E.1.2.1 E.2.2.1 hA _ _ _ _  _ hw) rfl lkX6_isWhole jdX6_isWhole ⟨Nat.le_of_ble_eq_true rfl, Nat.le_of_ble_eq_true rfl⟩ rfl (Nat.le_of_ble_eq_true rfl) dX6_sightOf_65 (fun r2 hw => ?_)
  refine j_if_eq hE 115 dX6_sightOf_68 (by decide) (fun c3 => ?_) (fun c3 => ?_)
  · have hw := hw.1 c3
    refine j_sub [(0, .ref (ad 0)), (3, .int (v1))] [1, 0] rfl ?_
    exact bX6_sightOf_115 hE hn hR hA hK  hw
  · have hw := hw.2 c3
    refine j_aload_n hE 1 dX6_sightOf_71 rfl rfl ?_
    refine jm_get hE hA 24 (Nat.le_of_ble_eq_true rfl) q1671 rfl (v := .ref (ad 12)) rfl dX6_sightOf_72 ?_
    refine j_iload_n hE 2 dX6_sightOf_75 rfl rfl ?_
    refine j_bipush hE dX6_sightOf_76 kb_6 ?_
    refine j_iadd hE dX6_sightOf_78 ?_
    refine j_iload_n hE 3 dX6_sightOf_79 rfl rfl ?_
    refine j_iadd hE dX6_sightOf_80 ?_
    obtain ⟨h4, hw⟩ := hw
    refine jm_iald hE hA 11 (Nat.le_of_ble_eq_true rfl) h4 dX6_sightOf_81 ?_
    refine j_if_ne hE 115 dX6_sightOf_82 (by decide) (fun c5 => ?_) (fun c5 => ?_)
    · have hw := hw.1 c5
      refine j_sub [(0, .ref (ad 0)), (3, .int (v1))] [1, 0] rfl ?_
      exact bX6_sightOf_115 hE hn hR hA hK  hw
    · have hw := hw.2 c5
      refine j_aload_n hE 1 dX6_sightOf_85 rfl rfl ?_
      refine j_iload_n hE 3 dX6_sightOf_86 rfl rfl ?_
      refine j_iconst hE dX6_sightOf_87 kc_0 ?_
      refine jm_pI hE hA hR (As := [.int (x2), .int (0)]) (rest := []) (ctX6_paneOf E.1.2.1 E.2.2.1 hA _ _ _ _  _ hw) rfl lkX6_paneOf jdX6_paneOf ⟨Nat.le_of_ble_eq_true rfl, Nat.le_of_ble_eq_true rfl⟩ rfl (Nat.le_of_ble_eq_true rfl) dX6_sightOf_88 (fun r6 hw => ?_)
      refine j_iconst hE dX6_sightOf_91 kc_2 ?_
      refine j_icmp_ne hE 111 dX6_sightOf_92 (by decide) (fun c7 => ?_) (fun c7 => ?_)
      · have hw := hw.1 c7
        refine j_sub [(0, .ref (ad 0)), (3, .int (v1))] [1, 0] rfl ?_
        exact bX6_sightOf_111 hE hn hR hA hK  hw
      · have hw := hw.2 c7
        refine j_aload_n hE 1 dX6_sightOf_95 rfl rfl ?_
        refine j_aload_n hE 1 dX6_sightOf_96 rfl rfl ?_
        refine jm_get hE hA 24 (Nat.le_of_ble_eq_true rfl) q1671 rfl (v := .ref (ad 12)) rfl dX6_sightOf_97 ?_
        refine j_iload_n hE 2 dX6_sightOf_100 rfl rfl ?_
        refine j_iconst hE dX6_sightOf_101 kc_0 ?_
        refine j_iadd hE dX6_sightOf_102 ?_
        obtain ⟨h8, hw⟩ := hw
        refine jm_iald hE hA 11 (Nat.le_of_ble_eq_true rfl) h8 dX6_sightOf_103 ?_
        refine jm_pI hE hA hR (As := [.int (rd (gA m0 11) (x1 + 0))]) (rest := []) (ctX6_lightOf E.1.2.1 E.2.2.1 hA _ _ _  _ hw) rfl lkX6_lightOf jdX6_lightOf ⟨Nat.le_of_ble_eq_true rfl, Nat.le_of_ble_eq_true rfl⟩ rfl (Nat.le_of_ble_eq_true rfl) dX6_sightOf_104 (fun r9 hw => ?_)
        refine j_iconst hE dX6_sightOf_107 kc_1 ?_
        refine j_icmp_ne hE 115 dX6_sightOf_108 (by decide) (fun c10 => ?_) (fun c10 => ?_)
        · have hw := hw.1 c10
          refine j_sub [(0, .ref (ad 0)), (3, .int (v1))] [1, 0] rfl ?_
          exact bX6_sightOf_115 hE hn hR hA hK  hw
        · have hw := hw.2 c10
          refine j_sub [(0, .ref (ad 0)), (3, .int (v1))] [1, 0] rfl ?_
          exact bX6_sightOf_111 hE hn hR hA hK  hw
def wX6_sightOf_13_b (x1 : Int32) (x2 : Int32) (x3 : Int32) (x4 : Int32) (x5 : Int32) (m0 : MS) (KL13 : Int32 × Int32 → Prop) (K : Int32 → Prop) : Prop :=
  ((nI 10) ≤ x5 → (wX6_paneOf x2 0 m0 (fun r2 => (¬ r2 = (nI 3) → (wX6_sightOf_60 x1 x2 x3 0 m0 K)) ∧ (r2 = (nI 3) → (wX6_sightOf_60 x1 x2 x3 x4 m0 K))))) ∧ (¬ (nI 10) ≤ x5 → (∀ v4 : Int32, v4 = x4 ||| (ishl ((ishr x3 x5) &&& 1) ((nI 9) - x5)) → (KL13 (v4, x5 + 1))))
def wX6_sightOf_13 (x1 : Int32) (x2 : Int32) (x3 : Int32) (x4 : Int32) (x5 : Int32) (m0 : MS) (K : Int32 → Prop) : Prop := lfp (σ := Int32 × Int32) (fun KL s => wX6_sightOf_13_b x1 x2 x3 s.1 s.2 m0 KL K) (x4, x5)
set_option maxRecDepth 100000 in
theorem bX6_sightOf_13 {E : jE} (hE : jOk E cX6_sightOf RX6) (hn : E.2.2.2.2 = 6) (hR : jRoom E 1 22) {ad : Nat → Nat} (hA : adOk ad) {r : GW} {m0 : MS} {b : Nat × Nat} {K : Int32 → Prop} (hK : jRi E .int (KPI (mwX ad m0 r) K)) {x1 : Int32} {x2 : Int32} {x3 : Int32} {x4 : Int32} {x5 : Int32}  (hw : wX6_sightOf_13 x1 x2 x3 x4 x5 m0 K) : J E (mwX ad m0 r) b [(0, .ref (ad 0)), (1, .int (x1)), (2, .int (x2)), (3, .int (x3)), (4, .int (x4)), (5, .int (x5))] 13 [] := by
  refine lfp_sound (σ := Int32 × Int32) (F := fun KL s => wX6_sightOf_13_b x1 x2 x3 s.1 s.2 m0 KL K) (P := fun s => J E (mwX ad m0 r) b [(0, .ref (ad 0)), (1, .int (x1)), (2, .int (x2)), (3, .int (x3)), (4, .int (s.1)), (5, .int (s.2))] 13 []) ?_ hw
  clear hw
  rintro KL13 ⟨x4, x5⟩ hw ih13
  have hw : wX6_sightOf_13_b x1 x2 x3 x4 x5 m0 KL13 K := hw
  unfold wX6_sightOf_13_b at hw
  refine j_iload hE 5 dX6_sightOf_13 rfl ?_
  refine j_bipush hE dX6_sightOf_15 kb_10 ?_
  refine j_icmp_ge hE 43 dX6_sightOf_17 (by decide) (fun c1 => ?_) (fun c1 => ?_)
  · have hw := hw.1 c1
    refine j_iload_n hE 3 dX6_sightOf_43 rfl rfl ?_
    refine j_aload_n hE 0 dX6_sightOf_44 rfl rfl ?_
    refine j_iload_n hE 2 dX6_sightOf_45 rfl rfl ?_
    refine j_iconst hE dX6_sightOf_46 kc_0 ?_
    refine jm_pI hE hA hR (As := [.int (x2), .int (0)]) (rest := [.int (x3)]) (ctX6_paneOf E.1.2.1 E.2.2.1 hA _ _ _ _  _ hw) rfl lkX6_paneOf jdX6_paneOf ⟨Nat.le_of_ble_eq_true rfl, Nat.le_of_ble_eq_true rfl⟩ rfl (Nat.le_of_ble_eq_true rfl) dX6_sightOf_47 (fun r2 hw => ?_)
    refine j_iconst hE dX6_sightOf_50 kc_3 ?_
    refine j_icmp_ne hE 59 dX6_sightOf_51 (by decide) (fun c3 => ?_) (fun c3 => ?_)
    · have hw := hw.1 c3
      refine j_iconst hE dX6_sightOf_59 kc_0 ?_
      refine j_sub [(0, .ref (ad 0)), (1, .int (x1)), (2, .int (x2))] [0, 1, 2] rfl ?_
      exact bX6_sightOf_60 hE hn hR hA hK  hw
    · have hw := hw.2 c3
      refine j_iload hE 4 dX6_sightOf_54 rfl ?_
      refine j_goto hE 60 dX6_sightOf_56 (by decide) ?_
      refine j_sub [(0, .ref (ad 0)), (1, .int (x1)), (2, .int (x2))] [0, 1, 2] rfl ?_
      exact bX6_sightOf_60 hE hn hR hA hK  hw
  · have hw := hw.2 c1
    refine j_iload hE 4 dX6_sightOf_20 rfl ?_
    refine j_iload_n hE 3 dX6_sightOf_22 rfl rfl ?_
    refine j_iload hE 5 dX6_sightOf_23 rfl ?_
    refine j_ishr hE dX6_sightOf_25 ?_
    refine j_iconst hE dX6_sightOf_26 kc_1 ?_
    refine j_iand hE dX6_sightOf_27 ?_
    refine j_bipush hE dX6_sightOf_28 kb_9 ?_
    refine j_iload hE 5 dX6_sightOf_30 rfl ?_
    refine j_isub hE dX6_sightOf_32 ?_
    refine j_ishl hE dX6_sightOf_33 ?_
    refine j_ior hE dX6_sightOf_34 ?_
    refine j_topi (fun v4 e_v4 => ?_)
    have hw := hw v4 e_v4
    refine j_istore (L' := [(4, .int (v4)), (0, .ref (ad 0)), (1, .int (x1)), (2, .int (x2)), (3, .int (x3)), (5, .int (x5))]) hE hn dX6_sightOf_35 (Nat.le_of_ble_eq_true rfl) rfl ?_
    refine j_iinc (L' := [(5, .int (x5 + 1)), (4, .int (v4)), (0, .ref (ad 0)), (1, .int (x1)), (2, .int (x2)), (3, .int (x3))]) hE hn 5 dX6_sightOf_37 rfl (congrArg (x5 + ·) kc_1) (Nat.le_of_ble_eq_true rfl) rfl ?_
    refine j_goto hE 13 dX6_sightOf_40 (by decide) ?_
    refine j_sub [(0, .ref (ad 0)), (1, .int (x1)), (2, .int (x2)), (3, .int (x3)), (4, .int (v4)), (5, .int (x5 + 1))] [2, 3, 4, 5, 1, 0] rfl ?_
    have hz := ih13 (v4, x5 + 1) hw
    exact hz
def wX6_sightOf_0 (x1 : Int32) (x2 : Int32) (m0 : MS) (K : Int32 → Prop) : Prop :=
  wX6_paneOf x2 (nI 2) m0 (fun r1 => wX6_sightOf_13 x1 x2 r1 0 0 m0 K)
set_option maxRecDepth 100000 in
theorem bX6_sightOf_0 {E : jE} (hE : jOk E cX6_sightOf RX6) (hn : E.2.2.2.2 = 6) (hR : jRoom E 1 22) {ad : Nat → Nat} (hA : adOk ad) {r : GW} {m0 : MS} {b : Nat × Nat} {K : Int32 → Prop} (hK : jRi E .int (KPI (mwX ad m0 r) K)) {x1 : Int32} {x2 : Int32}  (hw : wX6_sightOf_0 x1 x2 m0 K) : J E (mwX ad m0 r) b [(0, .ref (ad 0)), (1, .int (x1)), (2, .int (x2))] 0 [] := by
  unfold wX6_sightOf_0 at hw
  refine j_aload_n hE 0 dX6_sightOf_0 rfl rfl ?_
  refine j_iload_n hE 2 dX6_sightOf_1 rfl rfl ?_
  refine j_iconst hE dX6_sightOf_2 kc_2 ?_
  refine jm_pI hE hA hR (As := [.int (x2), .int (nI 2)]) (rest := []) (ctX6_paneOf E.1.2.1 E.2.2.1 hA _ _ _ _  _ hw) rfl lkX6_paneOf jdX6_paneOf ⟨Nat.le_of_ble_eq_true rfl, Nat.le_of_ble_eq_true rfl⟩ rfl (Nat.le_of_ble_eq_true rfl) dX6_sightOf_3 (fun r1 hw => ?_)
  refine j_istore_n (L' := [(3, .int (r1)), (0, .ref (ad 0)), (1, .int (x1)), (2, .int (x2))]) hE hn dX6_sightOf_6 rfl (Nat.le_of_ble_eq_true rfl) rfl ?_
  refine j_iconst hE dX6_sightOf_7 kc_0 ?_
  refine j_istore (L' := [(4, .int (0)), (3, .int (r1)), (0, .ref (ad 0)), (1, .int (x1)), (2, .int (x2))]) hE hn dX6_sightOf_8 (Nat.le_of_ble_eq_true rfl) rfl ?_
  refine j_iconst hE dX6_sightOf_10 kc_0 ?_
  refine j_istore (L' := [(5, .int (0)), (4, .int (0)), (3, .int (r1)), (0, .ref (ad 0)), (1, .int (x1)), (2, .int (x2))]) hE hn dX6_sightOf_11 (Nat.le_of_ble_eq_true rfl) rfl ?_
  refine j_sub [(0, .ref (ad 0)), (1, .int (x1)), (2, .int (x2)), (3, .int (r1)), (4, .int (0)), (5, .int (0))] [3, 4, 5, 2, 1, 0] rfl ?_
  exact bX6_sightOf_13 hE hn hR hA hK  hw
abbrev wX6_sightOf := wX6_sightOf_0
theorem ctX6_sightOf (l : Launch) (G : gG) {ad : Nat → Nat} (hA : adOk ad) (m0 : MS) (r : GW) (x1 : Int32) (x2 : Int32) (K : Int32 → Prop) (hw : wX6_sightOf x1 x2 m0 K) : CtI l yX6_sightOf cX6_sightOf 6 .int ({ frames := 1, cells := 0, slots := 0, locals := 22 }) G [.ref (ad 0), .int (x1), .int (x2)] (mwX ad m0 r) (KPI (mwX ad m0 r) K) :=
  CtI.of RX6 plain_X6 rfl (Nat.le_of_ble_eq_true rfl) (fun E hE _ _ hn hR hK => bX6_sightOf_0 hE hn hR hA hK hw)
theorem jdX6_sightOf : jD yX6_sightOf 2 := by decide +kernel
theorem lkX6_sightOf : GoodIn lw_all (wsV RX6 294 yX6_sightOf.cls yX6_sightOf (ws_ yX6_sightOf cX6_sightOf 6 (some .int))) := lw_V q1889 q1891 qs89 q129 q1892
def wX6_pane_0 (x1 : Int32) (x2 : Int32) (m : MS) (K : Int32 → MS → Prop) : Prop :=
  ∀ m1 : MS, m1 = sF m 0 0 → (wX6_isPane x1 m1 (fun r2 => (r2 = 0 → (K ((-2)) m1)) ∧ (¬ r2 = 0 → (wX6_within x2 0 (nI 5) (fun r4 => (¬ r4 = 0 → ((x2 = 0 → (wX6_paneOf x1 x2 m1 (fun r7 => K r7 m1))) ∧ (¬ x2 = 0 → (x2 = 1 → (wX6_paneOf x1 x2 m1 (fun r9 => K r9 m1))) ∧ (¬ x2 = 1 → (x2 = nI 2 → (vp_in ((nI 18) + x1) 1518 ∧ (K (rd (gA m1 11) ((nI 18) + x1)) m1))) ∧ (¬ x2 = nI 2 → (x2 = nI 3 → (vp_in ((nI 6) + x1) 1518 ∧ (K (rd (gA m1 11) ((nI 6) + x1)) m1))) ∧ (¬ x2 = nI 3 → (x2 = nI 4 → (vp_in ((nI 12) + x1) 1518 ∧ (K (rd (gA m1 11) ((nI 12) + x1)) m1))) ∧ (¬ x2 = nI 4 → (wX6_sightOf 0 x1 m1 (fun r16 => K r16 m1))))))))) ∧ (r4 = 0 → (K ((-2)) m1)))))))
set_option maxRecDepth 100000 in
theorem bX6_pane_0 {E : jE} (hE : jOk E cX6_pane RX6) (hn : E.2.2.2.2 = 3) (hR : jRoom E 2 47) {ad : Nat → Nat} (hA : adOk ad) {r : GW} {b : Nat × Nat} {K : Int32 → MS → Prop} (hK : jRi E .int (KMI ad r K)) {x1 : Int32} {x2 : Int32} {m : MS}  (hw : wX6_pane_0 x1 x2 m K) : J E (mwX ad m r) b [(0, .ref (ad 0)), (1, .int (x1)), (2, .int (x2))] 0 [] := by
  unfold wX6_pane_0 at hw
  refine j_aload_n hE 0 dX6_pane_0 rfl rfl ?_
  refine j_iconst hE dX6_pane_1 kc_0 ?_
  refine jm_putF hE hA 0 0 (Nat.le_of_ble_eq_true rfl) q1647 rfl rfl (mset_0 _ _ _) rfl rfl dX6_pane_2 ?_
  refine j_wm (fun m1 e_m1 => ?_)
  have hw := hw m1 e_m1
  refine j_aload_n hE 0 dX6_pane_5 rfl rfl ?_
  refine j_iload_n hE 1 dX6_pane_6 rfl rfl ?_
  refine jm_pI hE hA hR (As := [.int (x1)]) (rest := []) (ctX6_isPane E.1.2.1 E.2.2.1 hA _ _ _  _ hw) rfl lkX6_isPane jdX6_isPane ⟨Nat.le_of_ble_eq_true rfl, Nat.le_of_ble_eq_true rfl⟩ rfl (Nat.le_of_ble_eq_true rfl) dX6_pane_7 (fun r2 hw => ?_)
  refine j_if_eq hE 22 dX6_pane_10 (by decide) (fun c3 => ?_) (fun c3 => ?_)
  · have hw := hw.1 c3
    refine j_bipush hE dX6_pane_22 kb_m2 ?_
    exact j_iret hE hK dX6_pane_24 rfl ⟨_, rfl, hw⟩
  · have hw := hw.2 c3
    refine j_iload_n hE 2 dX6_pane_13 rfl rfl ?_
    refine j_iconst hE dX6_pane_14 kc_0 ?_
    refine j_iconst hE dX6_pane_15 kc_5 ?_
    refine j_psI hE hR (As := [.int (x2), .int (0), .int (nI 5)]) (rest := []) (ctX6_within E.1.2.1 E.2.2.1 _ _ _ _  _ hw) lkX6_within jdX6_within ⟨Nat.le_of_ble_eq_true rfl, Nat.le_of_ble_eq_true rfl⟩ rfl (Nat.le_of_ble_eq_true rfl) dX6_pane_16 (fun r4 hw => ?_)
    refine j_if_ne hE 25 dX6_pane_19 (by decide) (fun c5 => ?_) (fun c5 => ?_)
    · have hw := hw.1 c5
      refine j_iload_n hE 2 dX6_pane_25 rfl rfl ?_
      by_cases c6 : x2 = 0
      · have hw := hw.1 c6
        refine j_tin hE 60 dX6_pane_26 (by rw [c6]; decide) (by rw [c6]; decide) (by rw [c6]; rfl) (by decide) ?_
        refine j_aload_n hE 0 dX6_pane_60 rfl rfl ?_
        refine j_iload_n hE 1 dX6_pane_61 rfl rfl ?_
        refine j_iload_n hE 2 dX6_pane_62 rfl rfl ?_
        refine jm_pI hE hA hR (As := [.int (x1), .int (x2)]) (rest := []) (ctX6_paneOf E.1.2.1 E.2.2.1 hA _ _ _ _  _ hw) rfl lkX6_paneOf jdX6_paneOf ⟨Nat.le_of_ble_eq_true rfl, Nat.le_of_ble_eq_true rfl⟩ rfl (Nat.le_of_ble_eq_true rfl) dX6_pane_63 (fun r7 hw => ?_)
        exact j_iret hE hK dX6_pane_66 rfl ⟨_, rfl, hw⟩
      replace hw := hw.2 c6
      by_cases c8 : x2 = 1
      · have hw := hw.1 c8
        refine j_tin hE 60 dX6_pane_26 (by rw [c8]; decide) (by rw [c8]; decide) (by rw [c8]; rfl) (by decide) ?_
        refine j_aload_n hE 0 dX6_pane_60 rfl rfl ?_
        refine j_iload_n hE 1 dX6_pane_61 rfl rfl ?_
        refine j_iload_n hE 2 dX6_pane_62 rfl rfl ?_
        refine jm_pI hE hA hR (As := [.int (x1), .int (x2)]) (rest := []) (ctX6_paneOf E.1.2.1 E.2.2.1 hA _ _ _ _  _ hw) rfl lkX6_paneOf jdX6_paneOf ⟨Nat.le_of_ble_eq_true rfl, Nat.le_of_ble_eq_true rfl⟩ rfl (Nat.le_of_ble_eq_true rfl) dX6_pane_63 (fun r9 hw => ?_)
        exact j_iret hE hK dX6_pane_66 rfl ⟨_, rfl, hw⟩
      replace hw := hw.2 c8
      by_cases c10 : x2 = nI 2
      · have hw := hw.1 c10
        refine j_tin hE 67 dX6_pane_26 (by rw [c10]; decide) (by rw [c10]; decide) (by rw [c10]; rfl) (by decide) ?_
        refine j_aload_n hE 0 dX6_pane_67 rfl rfl ?_
        refine jm_get hE hA 24 (Nat.le_of_ble_eq_true rfl) q1671 rfl (v := .ref (ad 12)) rfl dX6_pane_68 ?_
        refine j_bipush hE dX6_pane_71 kb_18 ?_
        refine j_iload_n hE 1 dX6_pane_73 rfl rfl ?_
        refine j_iadd hE dX6_pane_74 ?_
        obtain ⟨h11, hw⟩ := hw
        refine jm_iald hE hA 11 (Nat.le_of_ble_eq_true rfl) h11 dX6_pane_75 ?_
        exact j_iret hE hK dX6_pane_76 rfl ⟨_, rfl, hw⟩
      replace hw := hw.2 c10
      by_cases c12 : x2 = nI 3
      · have hw := hw.1 c12
        refine j_tin hE 77 dX6_pane_26 (by rw [c12]; decide) (by rw [c12]; decide) (by rw [c12]; rfl) (by decide) ?_
        refine j_aload_n hE 0 dX6_pane_77 rfl rfl ?_
        refine jm_get hE hA 24 (Nat.le_of_ble_eq_true rfl) q1671 rfl (v := .ref (ad 12)) rfl dX6_pane_78 ?_
        refine j_bipush hE dX6_pane_81 kb_6 ?_
        refine j_iload_n hE 1 dX6_pane_83 rfl rfl ?_
        refine j_iadd hE dX6_pane_84 ?_
        obtain ⟨h13, hw⟩ := hw
        refine jm_iald hE hA 11 (Nat.le_of_ble_eq_true rfl) h13 dX6_pane_85 ?_
        exact j_iret hE hK dX6_pane_86 rfl ⟨_, rfl, hw⟩
      replace hw := hw.2 c12
      by_cases c14 : x2 = nI 4
      · have hw := hw.1 c14
        refine j_tin hE 87 dX6_pane_26 (by rw [c14]; decide) (by rw [c14]; decide) (by rw [c14]; rfl) (by decide) ?_
        refine j_aload_n hE 0 dX6_pane_87 rfl rfl ?_
        refine jm_get hE hA 24 (Nat.le_of_ble_eq_true rfl) q1671 rfl (v := .ref (ad 12)) rfl dX6_pane_88 ?_
        refine j_bipush hE dX6_pane_91 kb_12 ?_
        refine j_iload_n hE 1 dX6_pane_93 rfl rfl ?_
        refine j_iadd hE dX6_pane_94 ?_
        obtain ⟨h15, hw⟩ := hw
        refine jm_iald hE hA 11 (Nat.le_of_ble_eq_true rfl) h15 dX6_pane_95 ?_
        exact j_iret hE hK dX6_pane_96 rfl ⟨_, rfl, hw⟩
      replace hw := hw.2 c14
      refine j_tout hE 97 dX6_pane_26 (tsw_out x2 (0) (4) (fun k h1 h2 => ?_)) (by decide) ?_
      · rcases (show k = 0 ∨ k = 1 ∨ k = 2 ∨ k = 3 ∨ k = 4 by omega) with rfl | rfl | rfl | rfl | rfl
        · exact tsw_ne _ _ _ (by decide) c6
        · exact tsw_ne _ _ _ (by decide) c8
        · exact tsw_ne _ _ _ (by decide) c10
        · exact tsw_ne _ _ _ (by decide) c12
        · exact tsw_ne _ _ _ (by decide) c14
      refine j_aload_n hE 0 dX6_pane_97 rfl rfl ?_
      refine j_iconst hE dX6_pane_98 kc_0 ?_
      refine j_iload_n hE 1 dX6_pane_99 rfl rfl ?_
      refine jm_pI hE hA hR (As := [.int (0), .int (x1)]) (rest := []) (ctX6_sightOf E.1.2.1 E.2.2.1 hA _ _ _ _  _ hw) rfl lkX6_sightOf jdX6_sightOf ⟨Nat.le_of_ble_eq_true rfl, Nat.le_of_ble_eq_true rfl⟩ rfl (Nat.le_of_ble_eq_true rfl) dX6_pane_100 (fun r16 hw => ?_)
      exact j_iret hE hK dX6_pane_103 rfl ⟨_, rfl, hw⟩
    · have hw := hw.2 c5
      refine j_bipush hE dX6_pane_22 kb_m2 ?_
      exact j_iret hE hK dX6_pane_24 rfl ⟨_, rfl, hw⟩
abbrev wX6_pane := wX6_pane_0
theorem ctX6_pane (l : Launch) (G : gG) {ad : Nat → Nat} (hA : adOk ad) (m0 : MS) (r : GW) (x1 : Int32) (x2 : Int32) (K : Int32 → MS → Prop) (hw : wX6_pane x1 x2 m0 K) : CtI l yX6_pane cX6_pane 3 .int ({ frames := 2, cells := 0, slots := 0, locals := 47 }) G [.ref (ad 0), .int (x1), .int (x2)] (mwX ad m0 r) (KMI ad r K) :=
  CtI.of RX6 plain_X6 rfl (Nat.le_of_ble_eq_true rfl) (fun E hE _ _ hn hR hK => bX6_pane_0 hE hn hR hA hK hw)
theorem jdX6_pane : jD yX6_pane 2 := by decide +kernel
def wX6_isShown_0 (x1 : Int32) (x2 : Int32) (m0 : MS) (K : Int32 → Prop) : Prop :=
  wX6_isWhole x1 x2 m0 (fun r1 => (r1 = 0 → (K 1)) ∧ (¬ r1 = 0 → (vp_in ((x1 + (nI 6)) + x2) 1518 ∧ ((¬ (rd (gA m0 11) ((x1 + (nI 6)) + x2)) = 0 → (K 0)) ∧ ((rd (gA m0 11) ((x1 + (nI 6)) + x2)) = 0 → (K 1))))))
set_option maxRecDepth 100000 in
theorem bX6_isShown_0 {E : jE} (hE : jOk E cX6_isShown RX6) (hn : E.2.2.2.2 = 3) (hR : jRoom E 1 22) {ad : Nat → Nat} (hA : adOk ad) {r : GW} {m0 : MS} {b : Nat × Nat} {K : Int32 → Prop} (hK : jRi E .boolean (KPI (mwX ad m0 r) K)) {x1 : Int32} {x2 : Int32}  (hw : wX6_isShown_0 x1 x2 m0 K) : J E (mwX ad m0 r) b [(0, .ref (ad 0)), (1, .int (x1)), (2, .int (x2))] 0 [] := by
  unfold wX6_isShown_0 at hw
  refine j_aload_n hE 0 dX6_isShown_0 rfl rfl ?_
  refine j_iload_n hE 1 dX6_isShown_1 rfl rfl ?_
  refine j_iload_n hE 2 dX6_isShown_2 rfl rfl ?_
  refine jm_pI hE hA hR (As := [.int (x1), .int (x2)]) (rest := []) (ctX6_isWhole E.1.2.1 E.2.2.1 hA _ _ _ _  _ hw) rfl lkX6_isWhole jdX6_isWhole ⟨Nat.le_of_ble_eq_true rfl, Nat.le_of_ble_eq_true rfl⟩ rfl (Nat.le_of_ble_eq_true rfl) dX6_isShown_3 (fun r1 hw => ?_)
  refine j_if_eq hE 23 dX6_isShown_6 (by decide) (fun c2 => ?_) (fun c2 => ?_)
  · have hw := hw.1 c2
    refine j_iconst hE dX6_isShown_23 kc_1 ?_
    refine j_goto hE 28 dX6_isShown_24 (by decide) ?_
    exact j_iret hE hK dX6_isShown_28 rfl ⟨rfl, hw⟩
  · have hw := hw.2 c2
    refine j_aload_n hE 0 dX6_isShown_9 rfl rfl ?_
    refine jm_get hE hA 24 (Nat.le_of_ble_eq_true rfl) q1671 rfl (v := .ref (ad 12)) rfl dX6_isShown_10 ?_
    refine j_iload_n hE 1 dX6_isShown_13 rfl rfl ?_
    refine j_bipush hE dX6_isShown_14 kb_6 ?_
    refine j_iadd hE dX6_isShown_16 ?_
    refine j_iload_n hE 2 dX6_isShown_17 rfl rfl ?_
    refine j_iadd hE dX6_isShown_18 ?_
    obtain ⟨h3, hw⟩ := hw
    refine jm_iald hE hA 11 (Nat.le_of_ble_eq_true rfl) h3 dX6_isShown_19 ?_
    refine j_if_ne hE 27 dX6_isShown_20 (by decide) (fun c4 => ?_) (fun c4 => ?_)
    · have hw := hw.1 c4
      refine j_iconst hE dX6_isShown_27 kc_0 ?_
      exact j_iret hE hK dX6_isShown_28 rfl ⟨rfl, hw⟩
    · have hw := hw.2 c4
      refine j_iconst hE dX6_isShown_23 kc_1 ?_
      refine j_goto hE 28 dX6_isShown_24 (by decide) ?_
      exact j_iret hE hK dX6_isShown_28 rfl ⟨rfl, hw⟩
abbrev wX6_isShown := wX6_isShown_0
theorem ctX6_isShown (l : Launch) (G : gG) {ad : Nat → Nat} (hA : adOk ad) (m0 : MS) (r : GW) (x1 : Int32) (x2 : Int32) (K : Int32 → Prop) (hw : wX6_isShown x1 x2 m0 K) : CtI l yX6_isShown cX6_isShown 3 .boolean ({ frames := 1, cells := 0, slots := 0, locals := 22 }) G [.ref (ad 0), .int (x1), .int (x2)] (mwX ad m0 r) (KPI (mwX ad m0 r) K) :=
  CtI.of RX6 plain_X6 rfl (Nat.le_of_ble_eq_true rfl) (fun E hE _ _ hn hR hK => bX6_isShown_0 hE hn hR hA hK hw)
theorem jdX6_isShown : jD yX6_isShown 2 := by decide +kernel
theorem lkX6_isShown : GoodIn lw_all (wsV RX6 324 yX6_isShown.cls yX6_isShown (ws_ yX6_isShown cX6_isShown 3 (some .boolean))) := lw_V q1905 q1907 qs92 q129 q1908
def wX6_markOf_0 (x1 : Int32) (x2 : Int32) (x3 : Int32) (m0 : MS) (K : Int32 → Prop) : Prop :=
  vp_in (((x1 + (nI 24)) + ((nI 6) * x2)) + x3) 1518 ∧ (K (rd (gA m0 11) (((x1 + (nI 24)) + ((nI 6) * x2)) + x3)))
set_option maxRecDepth 100000 in
theorem bX6_markOf_0 {E : jE} (hE : jOk E cX6_markOf RX6) (hn : E.2.2.2.2 = 4) (hR : jRoom E 0 0) {ad : Nat → Nat} (hA : adOk ad) {r : GW} {m0 : MS} {b : Nat × Nat} {K : Int32 → Prop} (hK : jRi E .int (KPI (mwX ad m0 r) K)) {x1 : Int32} {x2 : Int32} {x3 : Int32}  (hw : wX6_markOf_0 x1 x2 x3 m0 K) : J E (mwX ad m0 r) b [(0, .ref (ad 0)), (1, .int (x1)), (2, .int (x2)), (3, .int (x3))] 0 [] := by
  unfold wX6_markOf_0 at hw
  refine j_aload_n hE 0 dX6_markOf_0 rfl rfl ?_
  refine jm_get hE hA 24 (Nat.le_of_ble_eq_true rfl) q1671 rfl (v := .ref (ad 12)) rfl dX6_markOf_1 ?_
  refine j_iload_n hE 1 dX6_markOf_4 rfl rfl ?_
  refine j_bipush hE dX6_markOf_5 kb_24 ?_
  refine j_iadd hE dX6_markOf_7 ?_
  refine j_bipush hE dX6_markOf_8 kb_6 ?_
  refine j_iload_n hE 2 dX6_markOf_10 rfl rfl ?_
  refine j_imul hE dX6_markOf_11 ?_
  refine j_iadd hE dX6_markOf_12 ?_
  refine j_iload_n hE 3 dX6_markOf_13 rfl rfl ?_
  refine j_iadd hE dX6_markOf_14 ?_
  obtain ⟨h1, hw⟩ := hw
  refine jm_iald hE hA 11 (Nat.le_of_ble_eq_true rfl) h1 dX6_markOf_15 ?_
  exact j_iret hE hK dX6_markOf_16 rfl ⟨rfl, hw⟩
abbrev wX6_markOf := wX6_markOf_0
theorem ctX6_markOf (l : Launch) (G : gG) {ad : Nat → Nat} (hA : adOk ad) (m0 : MS) (r : GW) (x1 : Int32) (x2 : Int32) (x3 : Int32) (K : Int32 → Prop) (hw : wX6_markOf x1 x2 x3 m0 K) : CtI l yX6_markOf cX6_markOf 4 .int ({ frames := 0, cells := 0, slots := 0, locals := 0 }) G [.ref (ad 0), .int (x1), .int (x2), .int (x3)] (mwX ad m0 r) (KPI (mwX ad m0 r) K) :=
  CtI.of RX6 plain_X6 rfl (Nat.le_of_ble_eq_true rfl) (fun E hE _ _ hn hR hK => bX6_markOf_0 hE hn hR hA hK hw)
theorem jdX6_markOf : jD yX6_markOf 3 := by decide +kernel
theorem lkX6_markOf : GoodIn lw_all (wsV RX6 300 yX6_markOf.cls yX6_markOf (ws_ yX6_markOf cX6_markOf 4 (some .int))) := lw_V q1909 q1911 qs93 q129 q1912
def wX6_whoOf_0 (x0 : Int32) (K : Int32 → Prop) : Prop :=
  K (x0 &&& (nI 7))
set_option maxRecDepth 100000 in
theorem bX6_whoOf_0 {E : jE} (hE : jOk E cX6_whoOf RX6) (hn : E.2.2.2.2 = 1) (hR : jRoom E 0 0) {w : GW} {b : Nat × Nat} {K : Int32 → Prop} (hK : jRi E .int (KPI w K)) {x0 : Int32}  (hw : wX6_whoOf_0 x0 K) : J E w b [(0, .int (x0))] 0 [] := by
  unfold wX6_whoOf_0 at hw
  refine j_iload_n hE 0 dX6_whoOf_0 rfl rfl ?_
  refine j_bipush hE dX6_whoOf_1 kb_7 ?_
  refine j_iand hE dX6_whoOf_3 ?_
  exact j_iret hE hK dX6_whoOf_4 rfl ⟨rfl, hw⟩
abbrev wX6_whoOf := wX6_whoOf_0
theorem ctX6_whoOf (l : Launch) (G : gG) (w : GW) (x0 : Int32) (K : Int32 → Prop) (hw : wX6_whoOf x0 K) : CtI l yX6_whoOf cX6_whoOf 1 .int ({ frames := 0, cells := 0, slots := 0, locals := 0 }) G [.int (x0)] w (KPI w K) :=
  CtI.of RX6 plain_X6 rfl (Nat.le_of_ble_eq_true rfl) (fun E hE _ _ hn hR hK => bX6_whoOf_0 hE hn hR hK hw)
theorem jdX6_whoOf : jD yX6_whoOf 1 := by decide +kernel
theorem lkX6_whoOf : GoodIn lw_all (va_wsS RX6 321 yX6_whoOf (ws_ yX6_whoOf cX6_whoOf 1 (some .int))) := lw_S q1917 q1918 q129 q1919
def wX6_shownOf_23 (x3 : Int32) (m0 : MS) (K : Int32 → Prop) : Prop :=
  wX6_whoOf x3 (fun r1 => K r1)
set_option maxRecDepth 100000 in
theorem bX6_shownOf_23 {E : jE} (hE : jOk E cX6_shownOf RX6) (hn : E.2.2.2.2 = 4) (hR : jRoom E 1 22) {ad : Nat → Nat} (hA : adOk ad) {r : GW} {m0 : MS} {b : Nat × Nat} {K : Int32 → Prop} (hK : jRi E .int (KPI (mwX ad m0 r) K)) {x3 : Int32}  (hw : wX6_shownOf_23 x3 m0 K) : J E (mwX ad m0 r) b [(0, .ref (ad 0)), (3, .int (x3))] 23 [] := by
  unfold wX6_shownOf_23 at hw
  refine j_iload_n hE 1 dX6_shownOf_23 rfl rfl ?_
  refine j_psI hE hR (As := [.int (x3)]) (rest := []) (ctX6_whoOf E.1.2.1 E.2.2.1 _ _  _ hw) lkX6_whoOf jdX6_whoOf ⟨Nat.le_of_ble_eq_true rfl, Nat.le_of_ble_eq_true rfl⟩ rfl (Nat.le_of_ble_eq_true rfl) dX6_shownOf_24 (fun r1 hw => ?_)
  exact j_iret hE hK dX6_shownOf_27 rfl ⟨rfl, hw⟩
def wX6_shownOf_0 (x1 : Int32) (x2 : Int32) (x3 : Int32) (m0 : MS) (K : Int32 → Prop) : Prop :=
  wX6_isWhole x1 x2 m0 (fun r1 => (r1 = 0 → (wX6_shownOf_23 x3 m0 K)) ∧ (¬ r1 = 0 → (wX6_paneOf x2 0 m0 (fun r3 => (¬ r3 = 1 → (wX6_shownOf_23 x3 m0 K)) ∧ (r3 = 1 → (K ((-1))))))))
set_option maxRecDepth 100000 in
theorem bX6_shownOf_0 {E : jE} (hE : jOk E cX6_shownOf RX6) (hn : E.2.2.2.2 = 4) (hR : jRoom E 1 22) {ad : Nat → Nat} (hA : adOk ad) {r : GW} {m0 : MS} {b : Nat × Nat} {K : Int32 → Prop} (hK : jRi E .int (KPI (mwX ad m0 r) K)) {x1 : Int32} {x2 : Int32} {x3 : Int32}  (hw : wX6_shownOf_0 x1 x2 x3 m0 K) : J E (mwX ad m0 r) b [(0, .ref (ad 0)), (1, .int (x1)), (2, .int (x2)), (3, .int (x3))] 0 [] := by
  unfold wX6_shownOf_0 at hw
  refine j_aload_n hE 0 dX6_shownOf_0 rfl rfl ?_
  refine j_iload_n hE 1 dX6_shownOf_1 rfl rfl ?_
  refine j_iload_n hE 2 dX6_shownOf_2 rfl rfl ?_
  refine jm_pI hE hA hR (As := [.int (x1), .int (x2)]) (rest := []) (ctX6_isWhole E.1.2.1 E.2.2.1 hA _ _ _ _  _ hw) rfl lkX6_isWhole jdX6_isWhole ⟨Nat.le_of_ble_eq_true rfl, Nat.le_of_ble_eq_true rfl⟩ rfl (Nat.le_of_ble_eq_true rfl) dX6_shownOf_3 (fun r1 hw => ?_)
  refine j_if_eq hE 23 dX6_shownOf_6 (by decide) (fun c2 => ?_) (fun c2 => ?_)
  · have hw := hw.1 c2
    refine j_sub [(0, .ref (ad 0)), (3, .int (x3))] [0, 3] rfl ?_
    exact bX6_shownOf_23 hE hn hR hA hK  hw
  · have hw := hw.2 c2
    refine j_aload_n hE 0 dX6_shownOf_9 rfl rfl ?_
    refine j_iload_n hE 2 dX6_shownOf_10 rfl rfl ?_
    refine j_iconst hE dX6_shownOf_11 kc_0 ?_
    refine jm_pI hE hA hR (As := [.int (x2), .int (0)]) (rest := []) (ctX6_paneOf E.1.2.1 E.2.2.1 hA _ _ _ _  _ hw) rfl lkX6_paneOf jdX6_paneOf ⟨Nat.le_of_ble_eq_true rfl, Nat.le_of_ble_eq_true rfl⟩ rfl (Nat.le_of_ble_eq_true rfl) dX6_shownOf_12 (fun r3 hw => ?_)
    refine j_iconst hE dX6_shownOf_15 kc_1 ?_
    refine j_icmp_ne hE 23 dX6_shownOf_16 (by decide) (fun c4 => ?_) (fun c4 => ?_)
    · have hw := hw.1 c4
      refine j_sub [(0, .ref (ad 0)), (3, .int (x3))] [0, 3] rfl ?_
      exact bX6_shownOf_23 hE hn hR hA hK  hw
    · have hw := hw.2 c4
      refine j_iconst hE dX6_shownOf_19 kc_m1 ?_
      refine j_goto hE 27 dX6_shownOf_20 (by decide) ?_
      exact j_iret hE hK dX6_shownOf_27 rfl ⟨rfl, hw⟩
abbrev wX6_shownOf := wX6_shownOf_0
theorem ctX6_shownOf (l : Launch) (G : gG) {ad : Nat → Nat} (hA : adOk ad) (m0 : MS) (r : GW) (x1 : Int32) (x2 : Int32) (x3 : Int32) (K : Int32 → Prop) (hw : wX6_shownOf x1 x2 x3 m0 K) : CtI l yX6_shownOf cX6_shownOf 4 .int ({ frames := 1, cells := 0, slots := 0, locals := 22 }) G [.ref (ad 0), .int (x1), .int (x2), .int (x3)] (mwX ad m0 r) (KPI (mwX ad m0 r) K) :=
  CtI.of RX6 plain_X6 rfl (Nat.le_of_ble_eq_true rfl) (fun E hE _ _ hn hR hK => bX6_shownOf_0 hE hn hR hA hK hw)
theorem jdX6_shownOf : jD yX6_shownOf 3 := by decide +kernel
theorem lkX6_shownOf : GoodIn lw_all (wsV RX6 327 yX6_shownOf.cls yX6_shownOf (ws_ yX6_shownOf cX6_shownOf 4 (some .int))) := lw_V q1913 q1915 qs94 q129 q1916
def wX6_deedOf_0 (x0 : Int32) (K : Int32 → Prop) : Prop :=
  K ((ishr x0 (nI 3)) &&& (nI 7))
set_option maxRecDepth 100000 in
theorem bX6_deedOf_0 {E : jE} (hE : jOk E cX6_deedOf RX6) (hn : E.2.2.2.2 = 1) (hR : jRoom E 0 0) {w : GW} {b : Nat × Nat} {K : Int32 → Prop} (hK : jRi E .int (KPI w K)) {x0 : Int32}  (hw : wX6_deedOf_0 x0 K) : J E w b [(0, .int (x0))] 0 [] := by
  unfold wX6_deedOf_0 at hw
  refine j_iload_n hE 0 dX6_deedOf_0 rfl rfl ?_
  refine j_iconst hE dX6_deedOf_1 kc_3 ?_
  refine j_ishr hE dX6_deedOf_2 ?_
  refine j_bipush hE dX6_deedOf_3 kb_7 ?_
  refine j_iand hE dX6_deedOf_5 ?_
  exact j_iret hE hK dX6_deedOf_6 rfl ⟨rfl, hw⟩
abbrev wX6_deedOf := wX6_deedOf_0
theorem ctX6_deedOf (l : Launch) (G : gG) (w : GW) (x0 : Int32) (K : Int32 → Prop) (hw : wX6_deedOf x0 K) : CtI l yX6_deedOf cX6_deedOf 1 .int ({ frames := 0, cells := 0, slots := 0, locals := 0 }) G [.int (x0)] w (KPI w K) :=
  CtI.of RX6 plain_X6 rfl (Nat.le_of_ble_eq_true rfl) (fun E hE _ _ hn hR hK => bX6_deedOf_0 hE hn hR hK hw)
theorem jdX6_deedOf : jD yX6_deedOf 1 := by decide +kernel
theorem lkX6_deedOf : GoodIn lw_all (va_wsS RX6 312 yX6_deedOf (ws_ yX6_deedOf cX6_deedOf 1 (some .int))) := lw_S q1920 q1921 q129 q1922
def wX6_cellOf_0 (x0 : Int32) (K : Int32 → Prop) : Prop :=
  K ((ishr x0 (nI 6)) &&& (nI 15))
set_option maxRecDepth 100000 in
theorem bX6_cellOf_0 {E : jE} (hE : jOk E cX6_cellOf RX6) (hn : E.2.2.2.2 = 1) (hR : jRoom E 0 0) {w : GW} {b : Nat × Nat} {K : Int32 → Prop} (hK : jRi E .int (KPI w K)) {x0 : Int32}  (hw : wX6_cellOf_0 x0 K) : J E w b [(0, .int (x0))] 0 [] := by
  unfold wX6_cellOf_0 at hw
  refine j_iload_n hE 0 dX6_cellOf_0 rfl rfl ?_
  refine j_bipush hE dX6_cellOf_1 kb_6 ?_
  refine j_ishr hE dX6_cellOf_3 ?_
  refine j_bipush hE dX6_cellOf_4 kb_15 ?_
  refine j_iand hE dX6_cellOf_6 ?_
  exact j_iret hE hK dX6_cellOf_7 rfl ⟨rfl, hw⟩
abbrev wX6_cellOf := wX6_cellOf_0
theorem ctX6_cellOf (l : Launch) (G : gG) (w : GW) (x0 : Int32) (K : Int32 → Prop) (hw : wX6_cellOf x0 K) : CtI l yX6_cellOf cX6_cellOf 1 .int ({ frames := 0, cells := 0, slots := 0, locals := 0 }) G [.int (x0)] w (KPI w K) :=
  CtI.of RX6 plain_X6 rfl (Nat.le_of_ble_eq_true rfl) (fun E hE _ _ hn hR hK => bX6_cellOf_0 hE hn hR hK hw)
theorem jdX6_cellOf : jD yX6_cellOf 1 := by decide +kernel
theorem lkX6_cellOf : GoodIn lw_all (va_wsS RX6 340 yX6_cellOf (ws_ yX6_cellOf cX6_cellOf 1 (some .int))) := lw_S q1923 q1924 q129 q1925
def wX6_ageOf_0 (x0 : Int32) (K : Int32 → Prop) : Prop :=
  K (ishr x0 (nI 10))
set_option maxRecDepth 100000 in
theorem bX6_ageOf_0 {E : jE} (hE : jOk E cX6_ageOf RX6) (hn : E.2.2.2.2 = 1) (hR : jRoom E 0 0) {w : GW} {b : Nat × Nat} {K : Int32 → Prop} (hK : jRi E .int (KPI w K)) {x0 : Int32}  (hw : wX6_ageOf_0 x0 K) : J E w b [(0, .int (x0))] 0 [] := by
  unfold wX6_ageOf_0 at hw
  refine j_iload_n hE 0 dX6_ageOf_0 rfl rfl ?_
  refine j_bipush hE dX6_ageOf_1 kb_10 ?_
  refine j_ishr hE dX6_ageOf_3 ?_
  exact j_iret hE hK dX6_ageOf_4 rfl ⟨rfl, hw⟩
abbrev wX6_ageOf := wX6_ageOf_0
theorem ctX6_ageOf (l : Launch) (G : gG) (w : GW) (x0 : Int32) (K : Int32 → Prop) (hw : wX6_ageOf x0 K) : CtI l yX6_ageOf cX6_ageOf 1 .int ({ frames := 0, cells := 0, slots := 0, locals := 0 }) G [.int (x0)] w (KPI w K) :=
  CtI.of RX6 plain_X6 rfl (Nat.le_of_ble_eq_true rfl) (fun E hE _ _ hn hR hK => bX6_ageOf_0 hE hn hR hK hw)
theorem jdX6_ageOf : jD yX6_ageOf 1 := by decide +kernel
theorem lkX6_ageOf : GoodIn lw_all (va_wsS RX6 309 yX6_ageOf (ws_ yX6_ageOf cX6_ageOf 1 (some .int))) := lw_S q1926 q1927 q129 q1928
def wX6_shown_0 (x1 : Int32) (x2 : Int32) (x3 : Int32) (m : MS) (K : Int32 → MS → Prop) : Prop :=
  ∀ m1 : MS, m1 = sF m 0 0 → (wX6_isPane x1 m1 (fun r2 => (r2 = 0 → (K ((-2)) m1)) ∧ (¬ r2 = 0 → (wX6_isShown 0 x1 m1 (fun r4 => (r4 = 0 → (K ((-2)) m1)) ∧ (¬ r4 = 0 → (vp_in ((nI 18) + x1) 1518 ∧ (wX6_within x2 0 ((rd (gA m1 11) ((nI 18) + x1)) - 1) (fun r7 => (r7 = 0 → (K ((-2)) m1)) ∧ (¬ r7 = 0 → (wX6_within x3 0 (nI 3) (fun r9 => (¬ r9 = 0 → (wX6_markOf 0 x1 x2 m1 (fun r11 => (¬ x3 = 0 → ((¬ x3 = 1 → ((¬ x3 = (nI 2) → (wX6_ageOf r11 (fun r15 => K r15 m1))) ∧ (x3 = (nI 2) → (wX6_cellOf r11 (fun r16 => K r16 m1))))) ∧ (x3 = 1 → (wX6_deedOf r11 (fun r17 => K r17 m1))))) ∧ (x3 = 0 → (wX6_shownOf 0 x1 r11 m1 (fun r18 => K r18 m1)))))) ∧ (r9 = 0 → (K ((-2)) m1))))))))))))))
set_option maxRecDepth 100000 in
theorem bX6_shown_0 {E : jE} (hE : jOk E cX6_shown RX6) (hn : E.2.2.2.2 = 5) (hR : jRoom E 2 45) {ad : Nat → Nat} (hA : adOk ad) {r : GW} {b : Nat × Nat} {K : Int32 → MS → Prop} (hK : jRi E .int (KMI ad r K)) {x1 : Int32} {x2 : Int32} {x3 : Int32} {m : MS}  (hw : wX6_shown_0 x1 x2 x3 m K) : J E (mwX ad m r) b [(0, .ref (ad 0)), (1, .int (x1)), (2, .int (x2)), (3, .int (x3))] 0 [] := by
  unfold wX6_shown_0 at hw
  refine j_aload_n hE 0 dX6_shown_0 rfl rfl ?_
  refine j_iconst hE dX6_shown_1 kc_0 ?_
  refine jm_putF hE hA 0 0 (Nat.le_of_ble_eq_true rfl) q1647 rfl rfl (mset_0 _ _ _) rfl rfl dX6_shown_2 ?_
  refine j_wm (fun m1 e_m1 => ?_)
  have hw := hw m1 e_m1
  refine j_aload_n hE 0 dX6_shown_5 rfl rfl ?_
  refine j_iload_n hE 1 dX6_shown_6 rfl rfl ?_
  refine jm_pI hE hA hR (As := [.int (x1)]) (rest := []) (ctX6_isPane E.1.2.1 E.2.2.1 hA _ _ _  _ hw) rfl lkX6_isPane jdX6_isPane ⟨Nat.le_of_ble_eq_true rfl, Nat.le_of_ble_eq_true rfl⟩ rfl (Nat.le_of_ble_eq_true rfl) dX6_shown_7 (fun r2 hw => ?_)
  refine j_if_eq hE 50 dX6_shown_10 (by decide) (fun c3 => ?_) (fun c3 => ?_)
  · have hw := hw.1 c3
    refine j_bipush hE dX6_shown_50 kb_m2 ?_
    exact j_iret hE hK dX6_shown_52 rfl ⟨_, rfl, hw⟩
  · have hw := hw.2 c3
    refine j_aload_n hE 0 dX6_shown_13 rfl rfl ?_
    refine j_iconst hE dX6_shown_14 kc_0 ?_
    refine j_iload_n hE 1 dX6_shown_15 rfl rfl ?_
    refine jm_pI hE hA hR (As := [.int (0), .int (x1)]) (rest := []) (ctX6_isShown E.1.2.1 E.2.2.1 hA _ _ _ _  _ hw) rfl lkX6_isShown jdX6_isShown ⟨Nat.le_of_ble_eq_true rfl, Nat.le_of_ble_eq_true rfl⟩ rfl (Nat.le_of_ble_eq_true rfl) dX6_shown_16 (fun r4 hw => ?_)
    refine j_if_eq hE 50 dX6_shown_19 (by decide) (fun c5 => ?_) (fun c5 => ?_)
    · have hw := hw.1 c5
      refine j_bipush hE dX6_shown_50 kb_m2 ?_
      exact j_iret hE hK dX6_shown_52 rfl ⟨_, rfl, hw⟩
    · have hw := hw.2 c5
      refine j_iload_n hE 2 dX6_shown_22 rfl rfl ?_
      refine j_iconst hE dX6_shown_23 kc_0 ?_
      refine j_aload_n hE 0 dX6_shown_24 rfl rfl ?_
      refine jm_get hE hA 24 (Nat.le_of_ble_eq_true rfl) q1671 rfl (v := .ref (ad 12)) rfl dX6_shown_25 ?_
      refine j_bipush hE dX6_shown_28 kb_18 ?_
      refine j_iload_n hE 1 dX6_shown_30 rfl rfl ?_
      refine j_iadd hE dX6_shown_31 ?_
      obtain ⟨h6, hw⟩ := hw
      refine jm_iald hE hA 11 (Nat.le_of_ble_eq_true rfl) h6 dX6_shown_32 ?_
      refine j_iconst hE dX6_shown_33 kc_1 ?_
      refine j_isub hE dX6_shown_34 ?_
      refine j_psI hE hR (As := [.int (x2), .int (0), .int ((rd (gA m1 11) ((nI 18) + x1)) - 1)]) (rest := []) (ctX6_within E.1.2.1 E.2.2.1 _ _ _ _  _ hw) lkX6_within jdX6_within ⟨Nat.le_of_ble_eq_true rfl, Nat.le_of_ble_eq_true rfl⟩ rfl (Nat.le_of_ble_eq_true rfl) dX6_shown_35 (fun r7 hw => ?_)
      refine j_if_eq hE 50 dX6_shown_38 (by decide) (fun c8 => ?_) (fun c8 => ?_)
      · have hw := hw.1 c8
        refine j_bipush hE dX6_shown_50 kb_m2 ?_
        exact j_iret hE hK dX6_shown_52 rfl ⟨_, rfl, hw⟩
      · have hw := hw.2 c8
        refine j_iload_n hE 3 dX6_shown_41 rfl rfl ?_
        refine j_iconst hE dX6_shown_42 kc_0 ?_
        refine j_iconst hE dX6_shown_43 kc_3 ?_
        refine j_psI hE hR (As := [.int (x3), .int (0), .int (nI 3)]) (rest := []) (ctX6_within E.1.2.1 E.2.2.1 _ _ _ _  _ hw) lkX6_within jdX6_within ⟨Nat.le_of_ble_eq_true rfl, Nat.le_of_ble_eq_true rfl⟩ rfl (Nat.le_of_ble_eq_true rfl) dX6_shown_44 (fun r9 hw => ?_)
        refine j_if_ne hE 53 dX6_shown_47 (by decide) (fun c10 => ?_) (fun c10 => ?_)
        · have hw := hw.1 c10
          refine j_aload_n hE 0 dX6_shown_53 rfl rfl ?_
          refine j_iconst hE dX6_shown_54 kc_0 ?_
          refine j_iload_n hE 1 dX6_shown_55 rfl rfl ?_
          refine j_iload_n hE 2 dX6_shown_56 rfl rfl ?_
          refine jm_pI hE hA hR (As := [.int (0), .int (x1), .int (x2)]) (rest := []) (ctX6_markOf E.1.2.1 E.2.2.1 hA _ _ _ _ _  _ hw) rfl lkX6_markOf jdX6_markOf ⟨Nat.le_of_ble_eq_true rfl, Nat.le_of_ble_eq_true rfl⟩ rfl (Nat.le_of_ble_eq_true rfl) dX6_shown_57 (fun r11 hw => ?_)
          refine j_istore (L' := [(4, .int (r11)), (0, .ref (ad 0)), (1, .int (x1)), (2, .int (x2)), (3, .int (x3))]) hE hn dX6_shown_60 (Nat.le_of_ble_eq_true rfl) rfl ?_
          refine j_iload_n hE 4 dX6_shown_62 rfl rfl ?_
          refine j_if_ne hE 77 dX6_shown_63 (by decide) (fun c12 => ?_) (fun c12 => ?_)
          · have hw := hw.1 c12
            refine j_iload_n hE 4 dX6_shown_77 rfl rfl ?_
            refine j_iconst hE dX6_shown_78 kc_1 ?_
            refine j_icmp_ne hE 90 dX6_shown_79 (by decide) (fun c13 => ?_) (fun c13 => ?_)
            · have hw := hw.1 c13
              refine j_iload_n hE 4 dX6_shown_90 rfl rfl ?_
              refine j_iconst hE dX6_shown_91 kc_2 ?_
              refine j_icmp_ne hE 103 dX6_shown_92 (by decide) (fun c14 => ?_) (fun c14 => ?_)
              · have hw := hw.1 c14
                refine j_iload hE 0 dX6_shown_103 rfl ?_
                refine j_psI hE hR (As := [.int (r11)]) (rest := []) (ctX6_ageOf E.1.2.1 E.2.2.1 _ _  _ hw) lkX6_ageOf jdX6_ageOf ⟨Nat.le_of_ble_eq_true rfl, Nat.le_of_ble_eq_true rfl⟩ rfl (Nat.le_of_ble_eq_true rfl) dX6_shown_105 (fun r15 hw => ?_)
                exact j_iret hE hK dX6_shown_108 rfl ⟨_, rfl, hw⟩
              · have hw := hw.2 c14
                refine j_iload hE 0 dX6_shown_95 rfl ?_
                refine j_psI hE hR (As := [.int (r11)]) (rest := []) (ctX6_cellOf E.1.2.1 E.2.2.1 _ _  _ hw) lkX6_cellOf jdX6_cellOf ⟨Nat.le_of_ble_eq_true rfl, Nat.le_of_ble_eq_true rfl⟩ rfl (Nat.le_of_ble_eq_true rfl) dX6_shown_97 (fun r16 hw => ?_)
                refine j_goto hE 108 dX6_shown_100 (by decide) ?_
                exact j_iret hE hK dX6_shown_108 rfl ⟨_, rfl, hw⟩
            · have hw := hw.2 c13
              refine j_iload hE 0 dX6_shown_82 rfl ?_
              refine j_psI hE hR (As := [.int (r11)]) (rest := []) (ctX6_deedOf E.1.2.1 E.2.2.1 _ _  _ hw) lkX6_deedOf jdX6_deedOf ⟨Nat.le_of_ble_eq_true rfl, Nat.le_of_ble_eq_true rfl⟩ rfl (Nat.le_of_ble_eq_true rfl) dX6_shown_84 (fun r17 hw => ?_)
              refine j_goto hE 108 dX6_shown_87 (by decide) ?_
              exact j_iret hE hK dX6_shown_108 rfl ⟨_, rfl, hw⟩
          · have hw := hw.2 c12
            refine j_aload_n hE 1 dX6_shown_66 rfl rfl ?_
            refine j_iconst hE dX6_shown_67 kc_0 ?_
            refine j_iload_n hE 2 dX6_shown_68 rfl rfl ?_
            refine j_iload hE 0 dX6_shown_69 rfl ?_
            refine jm_pI hE hA hR (As := [.int (0), .int (x1), .int (r11)]) (rest := []) (ctX6_shownOf E.1.2.1 E.2.2.1 hA _ _ _ _ _  _ hw) rfl lkX6_shownOf jdX6_shownOf ⟨Nat.le_of_ble_eq_true rfl, Nat.le_of_ble_eq_true rfl⟩ rfl (Nat.le_of_ble_eq_true rfl) dX6_shown_71 (fun r18 hw => ?_)
            refine j_goto hE 108 dX6_shown_74 (by decide) ?_
            exact j_iret hE hK dX6_shown_108 rfl ⟨_, rfl, hw⟩
        · have hw := hw.2 c10
          refine j_bipush hE dX6_shown_50 kb_m2 ?_
          exact j_iret hE hK dX6_shown_52 rfl ⟨_, rfl, hw⟩
abbrev wX6_shown := wX6_shown_0
theorem ctX6_shown (l : Launch) (G : gG) {ad : Nat → Nat} (hA : adOk ad) (m0 : MS) (r : GW) (x1 : Int32) (x2 : Int32) (x3 : Int32) (K : Int32 → MS → Prop) (hw : wX6_shown x1 x2 x3 m0 K) : CtI l yX6_shown cX6_shown 5 .int ({ frames := 2, cells := 0, slots := 0, locals := 45 }) G [.ref (ad 0), .int (x1), .int (x2), .int (x3)] (mwX ad m0 r) (KMI ad r K) :=
  CtI.of RX6 plain_X6 rfl (Nat.le_of_ble_eq_true rfl) (fun E hE _ _ hn hR hK => bX6_shown_0 hE hn hR hA hK hw)
theorem jdX6_shown : jD yX6_shown 3 := by decide +kernel
def wX6_isPerson_0 (x1 : Int32) (m0 : MS) (K : Int32 → Prop) : Prop :=
  (x1 < 0 → (K 0)) ∧ (¬ x1 < 0 → (wX6_people  m0 (fun r2 => (r2 ≤ x1 → (K 0)) ∧ (¬ r2 ≤ x1 → (K 1)))))
set_option maxRecDepth 100000 in
theorem bX6_isPerson_0 {E : jE} (hE : jOk E cX6_isPerson RX6) (hn : E.2.2.2.2 = 2) (hR : jRoom E 1 20) {ad : Nat → Nat} (hA : adOk ad) {r : GW} {m0 : MS} {b : Nat × Nat} {K : Int32 → Prop} (hK : jRi E .boolean (KPI (mwX ad m0 r) K)) {x1 : Int32}  (hw : wX6_isPerson_0 x1 m0 K) : J E (mwX ad m0 r) b [(0, .ref (ad 0)), (1, .int (x1))] 0 [] := by
  unfold wX6_isPerson_0 at hw
  refine j_iload_n hE 1 dX6_isPerson_0 rfl rfl ?_
  refine j_if_lt hE 16 dX6_isPerson_1 (by decide) (fun c1 => ?_) (fun c1 => ?_)
  · have hw := hw.1 c1
    refine j_iconst hE dX6_isPerson_16 kc_0 ?_
    exact j_iret hE hK dX6_isPerson_17 rfl ⟨rfl, hw⟩
  · have hw := hw.2 c1
    refine j_iload_n hE 1 dX6_isPerson_4 rfl rfl ?_
    refine j_aload_n hE 0 dX6_isPerson_5 rfl rfl ?_
    refine jm_pI hE hA hR (As := []) (rest := [.int (x1)]) (ctX6_people E.1.2.1 E.2.2.1 hA _ _  _ hw) rfl lkX6_people jdX6_people ⟨Nat.le_of_ble_eq_true rfl, Nat.le_of_ble_eq_true rfl⟩ rfl (Nat.le_of_ble_eq_true rfl) dX6_isPerson_6 (fun r2 hw => ?_)
    refine j_icmp_ge hE 16 dX6_isPerson_9 (by decide) (fun c3 => ?_) (fun c3 => ?_)
    · have hw := hw.1 c3
      refine j_iconst hE dX6_isPerson_16 kc_0 ?_
      exact j_iret hE hK dX6_isPerson_17 rfl ⟨rfl, hw⟩
    · have hw := hw.2 c3
      refine j_iconst hE dX6_isPerson_12 kc_1 ?_
      refine j_goto hE 17 dX6_isPerson_13 (by decide) ?_
      exact j_iret hE hK dX6_isPerson_17 rfl ⟨rfl, hw⟩
abbrev wX6_isPerson := wX6_isPerson_0
theorem ctX6_isPerson (l : Launch) (G : gG) {ad : Nat → Nat} (hA : adOk ad) (m0 : MS) (r : GW) (x1 : Int32) (K : Int32 → Prop) (hw : wX6_isPerson x1 m0 K) : CtI l yX6_isPerson cX6_isPerson 2 .boolean ({ frames := 1, cells := 0, slots := 0, locals := 20 }) G [.ref (ad 0), .int (x1)] (mwX ad m0 r) (KPI (mwX ad m0 r) K) :=
  CtI.of RX6 plain_X6 rfl (Nat.le_of_ble_eq_true rfl) (fun E hE _ _ hn hR hK => bX6_isPerson_0 hE hn hR hA hK hw)
theorem jdX6_isPerson : jD yX6_isPerson 1 := by decide +kernel
theorem lkX6_isPerson : GoodIn lw_all (wsV RX6 343 yX6_isPerson.cls yX6_isPerson (ws_ yX6_isPerson cX6_isPerson 2 (some .boolean))) := lw_V q1933 q1935 qs95 q129 q1936
def wX6_person_0 (x1 : Int32) (m : MS) (K : Int32 → MS → Prop) : Prop :=
  ∀ m1 : MS, m1 = sF m 0 0 → (wX6_isPerson x1 m1 (fun r2 => (r2 = 0 → (K ((-1)) m1)) ∧ (¬ r2 = 0 → (vp_in (1 + x1) 1518 ∧ (K (rd (gA m1 11) (1 + x1)) m1)))))
set_option maxRecDepth 100000 in
theorem bX6_person_0 {E : jE} (hE : jOk E cX6_person RX6) (hn : E.2.2.2.2 = 2) (hR : jRoom E 2 41) {ad : Nat → Nat} (hA : adOk ad) {r : GW} {b : Nat × Nat} {K : Int32 → MS → Prop} (hK : jRi E .int (KMI ad r K)) {x1 : Int32} {m : MS}  (hw : wX6_person_0 x1 m K) : J E (mwX ad m r) b [(0, .ref (ad 0)), (1, .int (x1))] 0 [] := by
  unfold wX6_person_0 at hw
  refine j_aload_n hE 0 dX6_person_0 rfl rfl ?_
  refine j_iconst hE dX6_person_1 kc_0 ?_
  refine jm_putF hE hA 0 0 (Nat.le_of_ble_eq_true rfl) q1647 rfl rfl (mset_0 _ _ _) rfl rfl dX6_person_2 ?_
  refine j_wm (fun m1 e_m1 => ?_)
  have hw := hw m1 e_m1
  refine j_aload_n hE 0 dX6_person_5 rfl rfl ?_
  refine j_iload_n hE 1 dX6_person_6 rfl rfl ?_
  refine jm_pI hE hA hR (As := [.int (x1)]) (rest := []) (ctX6_isPerson E.1.2.1 E.2.2.1 hA _ _ _  _ hw) rfl lkX6_isPerson jdX6_isPerson ⟨Nat.le_of_ble_eq_true rfl, Nat.le_of_ble_eq_true rfl⟩ rfl (Nat.le_of_ble_eq_true rfl) dX6_person_7 (fun r2 hw => ?_)
  refine j_if_eq hE 24 dX6_person_10 (by decide) (fun c3 => ?_) (fun c3 => ?_)
  · have hw := hw.1 c3
    refine j_iconst hE dX6_person_24 kc_m1 ?_
    exact j_iret hE hK dX6_person_25 rfl ⟨_, rfl, hw⟩
  · have hw := hw.2 c3
    refine j_aload_n hE 0 dX6_person_13 rfl rfl ?_
    refine jm_get hE hA 24 (Nat.le_of_ble_eq_true rfl) q1671 rfl (v := .ref (ad 12)) rfl dX6_person_14 ?_
    refine j_iconst hE dX6_person_17 kc_1 ?_
    refine j_iload_n hE 1 dX6_person_18 rfl rfl ?_
    refine j_iadd hE dX6_person_19 ?_
    obtain ⟨h4, hw⟩ := hw
    refine jm_iald hE hA 11 (Nat.le_of_ble_eq_true rfl) h4 dX6_person_20 ?_
    refine j_goto hE 25 dX6_person_21 (by decide) ?_
    exact j_iret hE hK dX6_person_25 rfl ⟨_, rfl, hw⟩
abbrev wX6_person := wX6_person_0
theorem ctX6_person (l : Launch) (G : gG) {ad : Nat → Nat} (hA : adOk ad) (m0 : MS) (r : GW) (x1 : Int32) (K : Int32 → MS → Prop) (hw : wX6_person x1 m0 K) : CtI l yX6_person cX6_person 2 .int ({ frames := 2, cells := 0, slots := 0, locals := 41 }) G [.ref (ad 0), .int (x1)] (mwX ad m0 r) (KMI ad r K) :=
  CtI.of RX6 plain_X6 rfl (Nat.le_of_ble_eq_true rfl) (fun E hE _ _ hn hR hK => bX6_person_0 hE hn hR hA hK hw)
theorem jdX6_person : jD yX6_person 1 := by decide +kernel
def wX6_mayWalk_0 (x1 : Int32) (x2 : Int32) (x3 : Int32) (m0 : MS) (K : Int32 → Prop) : Prop :=
  vp_in ((x1 + 1) + x2) 1518 ∧ (∀ v2 : Int32, v2 = x3 - (rd (gA m0 11) ((x1 + 1) + x2)) → (wX6_within x3 0 (nI 9) (fun r3 => (r3 = 0 → (K 0)) ∧ (¬ r3 = 0 → ((v2 = 1 → (K 1)) ∧ (¬ v2 = 1 → ((¬ v2 = ((-1)) → (K 0)) ∧ (v2 = ((-1)) → (K 1)))))))))
set_option maxRecDepth 100000 in
theorem bX6_mayWalk_0 {E : jE} (hE : jOk E cX6_mayWalk RX6) (hn : E.2.2.2.2 = 5) (hR : jRoom E 1 22) {ad : Nat → Nat} (hA : adOk ad) {r : GW} {m0 : MS} {b : Nat × Nat} {K : Int32 → Prop} (hK : jRi E .boolean (KPI (mwX ad m0 r) K)) {x1 : Int32} {x2 : Int32} {x3 : Int32}  (hw : wX6_mayWalk_0 x1 x2 x3 m0 K) : J E (mwX ad m0 r) b [(0, .ref (ad 0)), (1, .int (x1)), (2, .int (x2)), (3, .int (x3))] 0 [] := by
  unfold wX6_mayWalk_0 at hw
  refine j_iload_n hE 3 dX6_mayWalk_0 rfl rfl ?_
  refine j_aload_n hE 0 dX6_mayWalk_1 rfl rfl ?_
  refine jm_get hE hA 24 (Nat.le_of_ble_eq_true rfl) q1671 rfl (v := .ref (ad 12)) rfl dX6_mayWalk_2 ?_
  refine j_iload_n hE 1 dX6_mayWalk_5 rfl rfl ?_
  refine j_iconst hE dX6_mayWalk_6 kc_1 ?_
  refine j_iadd hE dX6_mayWalk_7 ?_
  refine j_iload_n hE 2 dX6_mayWalk_8 rfl rfl ?_
  refine j_iadd hE dX6_mayWalk_9 ?_
  obtain ⟨h1, hw⟩ := hw
  refine jm_iald hE hA 11 (Nat.le_of_ble_eq_true rfl) h1 dX6_mayWalk_10 ?_
  refine j_isub hE dX6_mayWalk_11 ?_
  refine j_topi (fun v2 e_v2 => ?_)
  have hw := hw v2 e_v2
  refine j_istore (L' := [(4, .int (v2)), (0, .ref (ad 0)), (1, .int (x1)), (2, .int (x2)), (3, .int (x3))]) hE hn dX6_mayWalk_12 (Nat.le_of_ble_eq_true rfl) rfl ?_
  refine j_iload_n hE 4 dX6_mayWalk_14 rfl rfl ?_
  refine j_iconst hE dX6_mayWalk_15 kc_0 ?_
  refine j_bipush hE dX6_mayWalk_16 kb_9 ?_
  refine j_psI hE hR (As := [.int (x3), .int (0), .int (nI 9)]) (rest := []) (ctX6_within E.1.2.1 E.2.2.1 _ _ _ _  _ hw) lkX6_within jdX6_within ⟨Nat.le_of_ble_eq_true rfl, Nat.le_of_ble_eq_true rfl⟩ rfl (Nat.le_of_ble_eq_true rfl) dX6_mayWalk_18 (fun r3 hw => ?_)
  refine j_if_eq hE 40 dX6_mayWalk_21 (by decide) (fun c4 => ?_) (fun c4 => ?_)
  · have hw := hw.1 c4
    refine j_iconst hE dX6_mayWalk_40 kc_0 ?_
    exact j_iret hE hK dX6_mayWalk_41 rfl ⟨rfl, hw⟩
  · have hw := hw.2 c4
    refine j_iload hE 0 dX6_mayWalk_24 rfl ?_
    refine j_iconst hE dX6_mayWalk_26 kc_1 ?_
    refine j_icmp_eq hE 36 dX6_mayWalk_27 (by decide) (fun c5 => ?_) (fun c5 => ?_)
    · have hw := hw.1 c5
      refine j_iconst hE dX6_mayWalk_36 kc_1 ?_
      refine j_goto hE 41 dX6_mayWalk_37 (by decide) ?_
      exact j_iret hE hK dX6_mayWalk_41 rfl ⟨rfl, hw⟩
    · have hw := hw.2 c5
      refine j_iload hE 0 dX6_mayWalk_30 rfl ?_
      refine j_iconst hE dX6_mayWalk_32 kc_m1 ?_
      refine j_icmp_ne hE 40 dX6_mayWalk_33 (by decide) (fun c6 => ?_) (fun c6 => ?_)
      · have hw := hw.1 c6
        refine j_iconst hE dX6_mayWalk_40 kc_0 ?_
        exact j_iret hE hK dX6_mayWalk_41 rfl ⟨rfl, hw⟩
      · have hw := hw.2 c6
        refine j_iconst hE dX6_mayWalk_36 kc_1 ?_
        refine j_goto hE 41 dX6_mayWalk_37 (by decide) ?_
        exact j_iret hE hK dX6_mayWalk_41 rfl ⟨rfl, hw⟩
abbrev wX6_mayWalk := wX6_mayWalk_0
theorem ctX6_mayWalk (l : Launch) (G : gG) {ad : Nat → Nat} (hA : adOk ad) (m0 : MS) (r : GW) (x1 : Int32) (x2 : Int32) (x3 : Int32) (K : Int32 → Prop) (hw : wX6_mayWalk x1 x2 x3 m0 K) : CtI l yX6_mayWalk cX6_mayWalk 5 .boolean ({ frames := 1, cells := 0, slots := 0, locals := 22 }) G [.ref (ad 0), .int (x1), .int (x2), .int (x3)] (mwX ad m0 r) (KPI (mwX ad m0 r) K) :=
  CtI.of RX6 plain_X6 rfl (Nat.le_of_ble_eq_true rfl) (fun E hE _ _ hn hR hK => bX6_mayWalk_0 hE hn hR hA hK hw)
theorem jdX6_mayWalk : jD yX6_mayWalk 3 := by decide +kernel
theorem lkX6_mayWalk : GoodIn lw_all (wsV RX6 346 yX6_mayWalk.cls yX6_mayWalk (ws_ yX6_mayWalk cX6_mayWalk 5 (some .boolean))) := lw_V q1941 q1943 qs96 q129 q1944
def wX6_copies_3_b (x1 : Int32) (x2 : Int32) (x3 : Int32) (x4 : Int32) (m : MS) (KL3 : Int32 × MS → Prop) (K : MS → Prop) : Prop :=
  (x3 ≤ x4 → (K m)) ∧ (¬ x3 ≤ x4 → (vp_in (x1 + x4) 1518 ∧ (vp_in (x2 + x4) 1518 ∧ (∀ m4 : MS, m4 = wA m 11 (x2 + x4) (rd (gA m 11) (x1 + x4)) → (KL3 (x4 + 1, m4))))))
def wX6_copies_3 (x1 : Int32) (x2 : Int32) (x3 : Int32) (x4 : Int32) (m : MS) (K : MS → Prop) : Prop := lfp (σ := Int32 × MS) (fun KL s => wX6_copies_3_b x1 x2 x3 s.1 s.2 KL K) (x4, m)
set_option maxRecDepth 100000 in
theorem bX6_copies_3 {E : jE} (hE : jOk E cX6_copies RX6) (hn : E.2.2.2.2 = 5) (hR : jRoom E 0 0) {ad : Nat → Nat} (hA : adOk ad) {r : GW} {b : Nat × Nat} {K : MS → Prop} (hK : jRv E (KMV ad r K)) {x1 : Int32} {x2 : Int32} {x3 : Int32} {x4 : Int32} {m : MS}  (hw : wX6_copies_3 x1 x2 x3 x4 m K) : J E (mwX ad m r) b [(0, .ref (ad 0)), (1, .int (x1)), (2, .int (x2)), (3, .int (x3)), (4, .int (x4))] 3 [] := by
  refine lfp_sound (σ := Int32 × MS) (F := fun KL s => wX6_copies_3_b x1 x2 x3 s.1 s.2 KL K) (P := fun s => J E (mwX ad (s.2) r) b [(0, .ref (ad 0)), (1, .int (x1)), (2, .int (x2)), (3, .int (x3)), (4, .int (s.1))] 3 []) ?_ hw
  clear hw
  rintro KL3 ⟨x4, m⟩ hw ih3
  have hw : wX6_copies_3_b x1 x2 x3 x4 m KL3 K := hw
  unfold wX6_copies_3_b at hw
  refine j_iload hE 4 dX6_copies_3 rfl ?_
  refine j_iload_n hE 3 dX6_copies_5 rfl rfl ?_
  refine j_icmp_ge hE 33 dX6_copies_6 (by decide) (fun c1 => ?_) (fun c1 => ?_)
  · have hw := hw.1 c1
    exact j_vret hE hK dX6_copies_33 ⟨_, rfl, hw⟩
  · have hw := hw.2 c1
    refine j_aload_n hE 0 dX6_copies_9 rfl rfl ?_
    refine jm_get hE hA 24 (Nat.le_of_ble_eq_true rfl) q1671 rfl (v := .ref (ad 12)) rfl dX6_copies_10 ?_
    refine j_iload_n hE 2 dX6_copies_13 rfl rfl ?_
    refine j_iload hE 4 dX6_copies_14 rfl ?_
    refine j_iadd hE dX6_copies_16 ?_
    refine j_aload_n hE 0 dX6_copies_17 rfl rfl ?_
    refine jm_get hE hA 24 (Nat.le_of_ble_eq_true rfl) q1671 rfl (v := .ref (ad 12)) rfl dX6_copies_18 ?_
    refine j_iload_n hE 1 dX6_copies_21 rfl rfl ?_
    refine j_iload hE 4 dX6_copies_22 rfl ?_
    refine j_iadd hE dX6_copies_24 ?_
    obtain ⟨h2, hw⟩ := hw
    refine jm_iald hE hA 11 (Nat.le_of_ble_eq_true rfl) h2 dX6_copies_25 ?_
    obtain ⟨h3, hw⟩ := hw
    refine jm_iast hE hA 11 (Nat.le_of_ble_eq_true rfl) h3 dX6_copies_26 ?_
    refine j_wm (fun m4 e_m4 => ?_)
    have hw := hw m4 e_m4
    refine j_iinc (L' := [(4, .int (x4 + 1)), (0, .ref (ad 0)), (1, .int (x1)), (2, .int (x2)), (3, .int (x3))]) hE hn 4 dX6_copies_27 rfl (congrArg (x4 + ·) kc_1) (Nat.le_of_ble_eq_true rfl) rfl ?_
    refine j_goto hE 3 dX6_copies_30 (by decide) ?_
    refine j_sub [(0, .ref (ad 0)), (1, .int (x1)), (2, .int (x2)), (3, .int (x3)), (4, .int (x4 + 1))] [1, 2, 3, 4, 0] rfl ?_
    have hz := ih3 (x4 + 1, m4) hw
    exact hz
def wX6_copies_0 (x1 : Int32) (x2 : Int32) (x3 : Int32) (m : MS) (K : MS → Prop) : Prop :=
  wX6_copies_3 x1 x2 x3 0 m K
set_option maxRecDepth 100000 in
theorem bX6_copies_0 {E : jE} (hE : jOk E cX6_copies RX6) (hn : E.2.2.2.2 = 5) (hR : jRoom E 0 0) {ad : Nat → Nat} (hA : adOk ad) {r : GW} {b : Nat × Nat} {K : MS → Prop} (hK : jRv E (KMV ad r K)) {x1 : Int32} {x2 : Int32} {x3 : Int32} {m : MS}  (hw : wX6_copies_0 x1 x2 x3 m K) : J E (mwX ad m r) b [(0, .ref (ad 0)), (1, .int (x1)), (2, .int (x2)), (3, .int (x3))] 0 [] := by
  unfold wX6_copies_0 at hw
  refine j_iconst hE dX6_copies_0 kc_0 ?_
  refine j_istore (L' := [(4, .int (0)), (0, .ref (ad 0)), (1, .int (x1)), (2, .int (x2)), (3, .int (x3))]) hE hn dX6_copies_1 (Nat.le_of_ble_eq_true rfl) rfl ?_
  refine j_sub [(0, .ref (ad 0)), (1, .int (x1)), (2, .int (x2)), (3, .int (x3)), (4, .int (0))] [1, 2, 3, 4, 0] rfl ?_
  exact bX6_copies_3 hE hn hR hA hK  hw
abbrev wX6_copies := wX6_copies_0
theorem ctX6_copies (l : Launch) (G : gG) {ad : Nat → Nat} (hA : adOk ad) (m0 : MS) (r : GW) (x1 : Int32) (x2 : Int32) (x3 : Int32) (K : MS → Prop) (hw : wX6_copies x1 x2 x3 m0 K) : CtV l yX6_copies cX6_copies 5 ({ frames := 0, cells := 0, slots := 0, locals := 0 }) G [.ref (ad 0), .int (x1), .int (x2), .int (x3)] (mwX ad m0 r) (KMV ad r K) :=
  CtV.of RX6 plain_X6 rfl (Nat.le_of_ble_eq_true rfl) (fun E hE _ _ hn hR hK => bX6_copies_0 hE hn hR hA hK hw)
theorem jdX6_copies : jD yX6_copies 3 := by decide +kernel
theorem lkX6_copies : GoodIn lw_all (wsV RX6 275 yX6_copies.cls yX6_copies (ws_ yX6_copies cX6_copies 5 none)) := lw_V q1949 q1951 qs98 q129 q1952
def wX6_keeps_53 (m : MS) (K : MS → Prop) : Prop :=
  wX6_copies 0 ((nI 66) * ((nI 5) + (gF m 9))) (nI 60) m (fun  m1 => ∀ m2 : MS, m2 = sF m1 9 ((gF m1 9) + 1) → (K m2))
set_option maxRecDepth 100000 in
theorem bX6_keeps_53 {E : jE} (hE : jOk E cX6_keeps RX6) (hn : E.2.2.2.2 = 2) (hR : jRoom E 1 24) {ad : Nat → Nat} (hA : adOk ad) {r : GW} {b : Nat × Nat} {K : MS → Prop} (hK : jRv E (KMV ad r K)) {m : MS}  (hw : wX6_keeps_53 m K) : J E (mwX ad m r) b [(0, .ref (ad 0))] 53 [] := by
  unfold wX6_keeps_53 at hw
  refine j_aload_n hE 0 dX6_keeps_53 rfl rfl ?_
  refine j_iconst hE dX6_keeps_54 kc_0 ?_
  refine j_bipush hE dX6_keeps_55 kb_66 ?_
  refine j_iconst hE dX6_keeps_57 kc_5 ?_
  refine j_aload_n hE 0 dX6_keeps_58 rfl rfl ?_
  refine jm_get hE hA 25 (Nat.le_of_ble_eq_true rfl) q1672 rfl (v := .int (gF m 9)) rfl dX6_keeps_59 ?_
  refine j_iadd hE dX6_keeps_62 ?_
  refine j_imul hE dX6_keeps_63 ?_
  refine j_bipush hE dX6_keeps_64 kb_60 ?_
  refine jm_cV hE hA hR (As := [.int (0), .int ((nI 66) * ((nI 5) + (gF m 9))), .int (nI 60)]) (rest := []) (ctX6_copies E.1.2.1 E.2.2.1 hA _ _ _ _ _  _ hw) rfl lkX6_copies jdX6_copies ⟨Nat.le_of_ble_eq_true rfl, Nat.le_of_ble_eq_true rfl⟩ rfl (Nat.le_of_ble_eq_true rfl) dX6_keeps_66 (fun  m1 hw => ?_)
  refine j_aload_n hE 0 dX6_keeps_69 rfl rfl ?_
  refine j_dup hE dX6_keeps_70 rfl ?_
  refine jm_get hE hA 25 (Nat.le_of_ble_eq_true rfl) q1672 rfl (v := .int (gF m1 9)) rfl dX6_keeps_71 ?_
  refine j_iconst hE dX6_keeps_74 kc_1 ?_
  refine j_iadd hE dX6_keeps_75 ?_
  refine jm_putF hE hA 25 9 (Nat.le_of_ble_eq_true rfl) q1672 rfl rfl (mset_9 _ _ _) rfl rfl dX6_keeps_76 ?_
  refine j_wm (fun m2 e_m2 => ?_)
  have hw := hw m2 e_m2
  exact j_vret hE hK dX6_keeps_79 ⟨_, rfl, hw⟩
def wX6_keeps_11_b (x1 : Int32) (m : MS) (KL11 : Int32 × MS → Prop) (K : MS → Prop) : Prop :=
  ((nI 16) ≤ x1 → (∀ m2 : MS, m2 = sF m 9 ((gF m 9) - 1) → (wX6_keeps_53 m2 K))) ∧ (¬ (nI 16) ≤ x1 → (wX6_copies ((nI 66) * ((nI 5) + x1)) ((nI 66) * (((nI 5) + x1) - 1)) (nI 60) m (fun  m3 => KL11 (x1 + 1, m3))))
def wX6_keeps_11 (x1 : Int32) (m : MS) (K : MS → Prop) : Prop := lfp (σ := Int32 × MS) (fun KL s => wX6_keeps_11_b s.1 s.2 KL K) (x1, m)
set_option maxRecDepth 100000 in
theorem bX6_keeps_11 {E : jE} (hE : jOk E cX6_keeps RX6) (hn : E.2.2.2.2 = 2) (hR : jRoom E 1 24) {ad : Nat → Nat} (hA : adOk ad) {r : GW} {b : Nat × Nat} {K : MS → Prop} (hK : jRv E (KMV ad r K)) {x1 : Int32} {m : MS}  (hw : wX6_keeps_11 x1 m K) : J E (mwX ad m r) b [(0, .ref (ad 0)), (1, .int (x1))] 11 [] := by
  refine lfp_sound (σ := Int32 × MS) (F := fun KL s => wX6_keeps_11_b s.1 s.2 KL K) (P := fun s => J E (mwX ad (s.2) r) b [(0, .ref (ad 0)), (1, .int (s.1))] 11 []) ?_ hw
  clear hw
  rintro KL11 ⟨x1, m⟩ hw ih11
  have hw : wX6_keeps_11_b x1 m KL11 K := hw
  unfold wX6_keeps_11_b at hw
  refine j_iload_n hE 1 dX6_keeps_11 rfl rfl ?_
  refine j_bipush hE dX6_keeps_12 kb_16 ?_
  refine j_icmp_ge hE 43 dX6_keeps_14 (by decide) (fun c1 => ?_) (fun c1 => ?_)
  · have hw := hw.1 c1
    refine j_aload_n hE 0 dX6_keeps_43 rfl rfl ?_
    refine j_dup hE dX6_keeps_44 rfl ?_
    refine jm_get hE hA 25 (Nat.le_of_ble_eq_true rfl) q1672 rfl (v := .int (gF m 9)) rfl dX6_keeps_45 ?_
    refine j_iconst hE dX6_keeps_48 kc_1 ?_
    refine j_isub hE dX6_keeps_49 ?_
    refine jm_putF hE hA 25 9 (Nat.le_of_ble_eq_true rfl) q1672 rfl rfl (mset_9 _ _ _) rfl rfl dX6_keeps_50 ?_
    refine j_wm (fun m2 e_m2 => ?_)
    have hw := hw m2 e_m2
    refine j_sub [(0, .ref (ad 0))] [0] rfl ?_
    exact bX6_keeps_53 hE hn hR hA hK  hw
  · have hw := hw.2 c1
    refine j_aload_n hE 0 dX6_keeps_17 rfl rfl ?_
    refine j_bipush hE dX6_keeps_18 kb_66 ?_
    refine j_iconst hE dX6_keeps_20 kc_5 ?_
    refine j_iload_n hE 1 dX6_keeps_21 rfl rfl ?_
    refine j_iadd hE dX6_keeps_22 ?_
    refine j_imul hE dX6_keeps_23 ?_
    refine j_bipush hE dX6_keeps_24 kb_66 ?_
    refine j_iconst hE dX6_keeps_26 kc_5 ?_
    refine j_iload_n hE 1 dX6_keeps_27 rfl rfl ?_
    refine j_iadd hE dX6_keeps_28 ?_
    refine j_iconst hE dX6_keeps_29 kc_1 ?_
    refine j_isub hE dX6_keeps_30 ?_
    refine j_imul hE dX6_keeps_31 ?_
    refine j_bipush hE dX6_keeps_32 kb_60 ?_
    refine jm_cV hE hA hR (As := [.int ((nI 66) * ((nI 5) + x1)), .int ((nI 66) * (((nI 5) + x1) - 1)), .int (nI 60)]) (rest := []) (ctX6_copies E.1.2.1 E.2.2.1 hA _ _ _ _ _  _ hw) rfl lkX6_copies jdX6_copies ⟨Nat.le_of_ble_eq_true rfl, Nat.le_of_ble_eq_true rfl⟩ rfl (Nat.le_of_ble_eq_true rfl) dX6_keeps_34 (fun  m3 hw => ?_)
    refine j_iinc (L' := [(1, .int (x1 + 1)), (0, .ref (ad 0))]) hE hn 1 dX6_keeps_37 rfl (congrArg (x1 + ·) kc_1) (Nat.le_of_ble_eq_true rfl) rfl ?_
    refine j_goto hE 11 dX6_keeps_40 (by decide) ?_
    refine j_sub [(0, .ref (ad 0)), (1, .int (x1 + 1))] [1, 0] rfl ?_
    have hz := ih11 (x1 + 1, m3) hw
    exact hz
def wX6_keeps_0 (m : MS) (K : MS → Prop) : Prop :=
  (¬ (gF m 9) = (nI 16) → (wX6_keeps_53 m K)) ∧ ((gF m 9) = (nI 16) → (wX6_keeps_11 1 m K))
set_option maxRecDepth 100000 in
theorem bX6_keeps_0 {E : jE} (hE : jOk E cX6_keeps RX6) (hn : E.2.2.2.2 = 2) (hR : jRoom E 1 24) {ad : Nat → Nat} (hA : adOk ad) {r : GW} {b : Nat × Nat} {K : MS → Prop} (hK : jRv E (KMV ad r K)) {m : MS}  (hw : wX6_keeps_0 m K) : J E (mwX ad m r) b [(0, .ref (ad 0))] 0 [] := by
  unfold wX6_keeps_0 at hw
  refine j_aload_n hE 0 dX6_keeps_0 rfl rfl ?_
  refine jm_get hE hA 25 (Nat.le_of_ble_eq_true rfl) q1672 rfl (v := .int (gF m 9)) rfl dX6_keeps_1 ?_
  refine j_bipush hE dX6_keeps_4 kb_16 ?_
  refine j_icmp_ne hE 53 dX6_keeps_6 (by decide) (fun c1 => ?_) (fun c1 => ?_)
  · have hw := hw.1 c1
    exact bX6_keeps_53 hE hn hR hA hK  hw
  · have hw := hw.2 c1
    refine j_iconst hE dX6_keeps_9 kc_1 ?_
    refine j_istore_n (L' := [(1, .int (1)), (0, .ref (ad 0))]) hE hn dX6_keeps_10 rfl (Nat.le_of_ble_eq_true rfl) rfl ?_
    refine j_sub [(0, .ref (ad 0)), (1, .int (1))] [1, 0] rfl ?_
    exact bX6_keeps_11 hE hn hR hA hK  hw
abbrev wX6_keeps := wX6_keeps_0
theorem ctX6_keeps (l : Launch) (G : gG) {ad : Nat → Nat} (hA : adOk ad) (m0 : MS) (r : GW)  (K : MS → Prop) (hw : wX6_keeps m0 K) : CtV l yX6_keeps cX6_keeps 2 ({ frames := 1, cells := 0, slots := 0, locals := 24 }) G [.ref (ad 0)] (mwX ad m0 r) (KMV ad r K) :=
  CtV.of RX6 plain_X6 rfl (Nat.le_of_ble_eq_true rfl) (fun E hE _ _ hn hR hK => bX6_keeps_0 hE hn hR hA hK hw)
theorem jdX6_keeps : jD yX6_keeps 0 := by decide +kernel
theorem lkX6_keeps : GoodIn lw_all (wsV RX6 349 yX6_keeps.cls yX6_keeps (ws_ yX6_keeps cX6_keeps 2 none)) := lw_V q1945 q1947 qs97 q129 q1948
def wX6_walk_0 (x1 : Int32) (x2 : Int32) (m : MS) (K : Int32 → MS → Prop) : Prop :=
  ∀ m1 : MS, m1 = sF m 0 0 → (wX6_isPerson x1 m1 (fun r2 => (r2 = 0 → (K 0 m1)) ∧ (¬ r2 = 0 → (wX6_mayWalk 0 x1 x2 m1 (fun r4 => (¬ r4 = 0 → (wX6_keeps  m1 (fun  m6 => vp_in (1 + x1) 1518 ∧ (∀ m8 : MS, m8 = wA m6 11 (1 + x1) x2 → (K 1 m8))))) ∧ (r4 = 0 → (K 0 m1)))))))
set_option maxRecDepth 100000 in
theorem bX6_walk_0 {E : jE} (hE : jOk E cX6_walk RX6) (hn : E.2.2.2.2 = 3) (hR : jRoom E 2 46) {ad : Nat → Nat} (hA : adOk ad) {r : GW} {b : Nat × Nat} {K : Int32 → MS → Prop} (hK : jRi E .boolean (KMI ad r K)) {x1 : Int32} {x2 : Int32} {m : MS}  (hw : wX6_walk_0 x1 x2 m K) : J E (mwX ad m r) b [(0, .ref (ad 0)), (1, .int (x1)), (2, .int (x2))] 0 [] := by
  unfold wX6_walk_0 at hw
  refine j_aload_n hE 0 dX6_walk_0 rfl rfl ?_
  refine j_iconst hE dX6_walk_1 kc_0 ?_
  refine jm_putF hE hA 0 0 (Nat.le_of_ble_eq_true rfl) q1647 rfl rfl (mset_0 _ _ _) rfl rfl dX6_walk_2 ?_
  refine j_wm (fun m1 e_m1 => ?_)
  have hw := hw m1 e_m1
  refine j_aload_n hE 0 dX6_walk_5 rfl rfl ?_
  refine j_iload_n hE 1 dX6_walk_6 rfl rfl ?_
  refine jm_pI hE hA hR (As := [.int (x1)]) (rest := []) (ctX6_isPerson E.1.2.1 E.2.2.1 hA _ _ _  _ hw) rfl lkX6_isPerson jdX6_isPerson ⟨Nat.le_of_ble_eq_true rfl, Nat.le_of_ble_eq_true rfl⟩ rfl (Nat.le_of_ble_eq_true rfl) dX6_walk_7 (fun r2 hw => ?_)
  refine j_if_eq hE 23 dX6_walk_10 (by decide) (fun c3 => ?_) (fun c3 => ?_)
  · have hw := hw.1 c3
    refine j_iconst hE dX6_walk_23 kc_0 ?_
    exact j_iret hE hK dX6_walk_24 rfl ⟨_, rfl, hw⟩
  · have hw := hw.2 c3
    refine j_aload_n hE 0 dX6_walk_13 rfl rfl ?_
    refine j_iconst hE dX6_walk_14 kc_0 ?_
    refine j_iload_n hE 1 dX6_walk_15 rfl rfl ?_
    refine j_iload_n hE 2 dX6_walk_16 rfl rfl ?_
    refine jm_pI hE hA hR (As := [.int (0), .int (x1), .int (x2)]) (rest := []) (ctX6_mayWalk E.1.2.1 E.2.2.1 hA _ _ _ _ _  _ hw) rfl lkX6_mayWalk jdX6_mayWalk ⟨Nat.le_of_ble_eq_true rfl, Nat.le_of_ble_eq_true rfl⟩ rfl (Nat.le_of_ble_eq_true rfl) dX6_walk_17 (fun r4 hw => ?_)
    refine j_if_ne hE 25 dX6_walk_20 (by decide) (fun c5 => ?_) (fun c5 => ?_)
    · have hw := hw.1 c5
      refine j_aload_n hE 0 dX6_walk_25 rfl rfl ?_
      refine jm_cV hE hA hR (As := []) (rest := []) (ctX6_keeps E.1.2.1 E.2.2.1 hA _ _  _ hw) rfl lkX6_keeps jdX6_keeps ⟨Nat.le_of_ble_eq_true rfl, Nat.le_of_ble_eq_true rfl⟩ rfl (Nat.le_of_ble_eq_true rfl) dX6_walk_26 (fun  m6 hw => ?_)
      refine j_aload_n hE 0 dX6_walk_29 rfl rfl ?_
      refine jm_get hE hA 24 (Nat.le_of_ble_eq_true rfl) q1671 rfl (v := .ref (ad 12)) rfl dX6_walk_30 ?_
      refine j_iconst hE dX6_walk_33 kc_1 ?_
      refine j_iload_n hE 1 dX6_walk_34 rfl rfl ?_
      refine j_iadd hE dX6_walk_35 ?_
      refine j_iload_n hE 2 dX6_walk_36 rfl rfl ?_
      obtain ⟨h7, hw⟩ := hw
      refine jm_iast hE hA 11 (Nat.le_of_ble_eq_true rfl) h7 dX6_walk_37 ?_
      refine j_wm (fun m8 e_m8 => ?_)
      have hw := hw m8 e_m8
      refine j_iconst hE dX6_walk_38 kc_1 ?_
      exact j_iret hE hK dX6_walk_39 rfl ⟨_, rfl, hw⟩
    · have hw := hw.2 c5
      refine j_iconst hE dX6_walk_23 kc_0 ?_
      exact j_iret hE hK dX6_walk_24 rfl ⟨_, rfl, hw⟩
abbrev wX6_walk := wX6_walk_0
theorem ctX6_walk (l : Launch) (G : gG) {ad : Nat → Nat} (hA : adOk ad) (m0 : MS) (r : GW) (x1 : Int32) (x2 : Int32) (K : Int32 → MS → Prop) (hw : wX6_walk x1 x2 m0 K) : CtI l yX6_walk cX6_walk 3 .boolean ({ frames := 2, cells := 0, slots := 0, locals := 46 }) G [.ref (ad 0), .int (x1), .int (x2)] (mwX ad m0 r) (KMI ad r K) :=
  CtI.of RX6 plain_X6 rfl (Nat.le_of_ble_eq_true rfl) (fun E hE _ _ hn hR hK => bX6_walk_0 hE hn hR hA hK hw)
theorem jdX6_walk : jD yX6_walk 2 := by decide +kernel
def wX6_deeds_0 (m0 : MS) (K : Int32 → Prop) : Prop :=
  vp_in (nI 2) 120 ∧ (K (rd (gA m0 3) (nI 2)))
set_option maxRecDepth 100000 in
theorem bX6_deeds_0 {E : jE} (hE : jOk E cX6_deeds RX6) (hn : E.2.2.2.2 = 1) (hR : jRoom E 0 0) {ad : Nat → Nat} (hA : adOk ad) {r : GW} {m0 : MS} {b : Nat × Nat} {K : Int32 → Prop} (hK : jRi E .int (KPI (mwX ad m0 r) K))   (hw : wX6_deeds_0 m0 K) : J E (mwX ad m0 r) b [(0, .ref (ad 0))] 0 [] := by
  unfold wX6_deeds_0 at hw
  refine j_aload_n hE 0 dX6_deeds_0 rfl rfl ?_
  refine jm_get hE hA 10 (Nat.le_of_ble_eq_true rfl) q1657 rfl (v := .ref (ad 4)) rfl dX6_deeds_1 ?_
  refine j_iconst hE dX6_deeds_4 kc_2 ?_
  obtain ⟨h1, hw⟩ := hw
  refine jm_iald hE hA 3 (Nat.le_of_ble_eq_true rfl) h1 dX6_deeds_5 ?_
  exact j_iret hE hK dX6_deeds_6 rfl ⟨rfl, hw⟩
abbrev wX6_deeds := wX6_deeds_0
theorem ctX6_deeds (l : Launch) (G : gG) {ad : Nat → Nat} (hA : adOk ad) (m0 : MS) (r : GW)  (K : Int32 → Prop) (hw : wX6_deeds m0 K) : CtI l yX6_deeds cX6_deeds 1 .int ({ frames := 0, cells := 0, slots := 0, locals := 0 }) G [.ref (ad 0)] (mwX ad m0 r) (KPI (mwX ad m0 r) K) :=
  CtI.of RX6 plain_X6 rfl (Nat.le_of_ble_eq_true rfl) (fun E hE _ _ hn hR hK => bX6_deeds_0 hE hn hR hA hK hw)
theorem jdX6_deeds : jD yX6_deeds 0 := by decide +kernel
theorem lkX6_deeds : GoodIn lw_all (wsV RX6 281 yX6_deeds.cls yX6_deeds (ws_ yX6_deeds cX6_deeds 1 (some .int))) := lw_V q1961 q1963 qs100 q129 q1964
def wX6_isDeed_0 (x1 : Int32) (m0 : MS) (K : Int32 → Prop) : Prop :=
  (x1 < 0 → (K 0)) ∧ (¬ x1 < 0 → (wX6_deeds  m0 (fun r2 => (r2 ≤ x1 → (K 0)) ∧ (¬ r2 ≤ x1 → (K 1)))))
set_option maxRecDepth 100000 in
theorem bX6_isDeed_0 {E : jE} (hE : jOk E cX6_isDeed RX6) (hn : E.2.2.2.2 = 2) (hR : jRoom E 1 20) {ad : Nat → Nat} (hA : adOk ad) {r : GW} {m0 : MS} {b : Nat × Nat} {K : Int32 → Prop} (hK : jRi E .boolean (KPI (mwX ad m0 r) K)) {x1 : Int32}  (hw : wX6_isDeed_0 x1 m0 K) : J E (mwX ad m0 r) b [(0, .ref (ad 0)), (1, .int (x1))] 0 [] := by
  unfold wX6_isDeed_0 at hw
  refine j_iload_n hE 1 dX6_isDeed_0 rfl rfl ?_
  refine j_if_lt hE 16 dX6_isDeed_1 (by decide) (fun c1 => ?_) (fun c1 => ?_)
  · have hw := hw.1 c1
    refine j_iconst hE dX6_isDeed_16 kc_0 ?_
    exact j_iret hE hK dX6_isDeed_17 rfl ⟨rfl, hw⟩
  · have hw := hw.2 c1
    refine j_iload_n hE 1 dX6_isDeed_4 rfl rfl ?_
    refine j_aload_n hE 0 dX6_isDeed_5 rfl rfl ?_
    refine jm_pI hE hA hR (As := []) (rest := [.int (x1)]) (ctX6_deeds E.1.2.1 E.2.2.1 hA _ _  _ hw) rfl lkX6_deeds jdX6_deeds ⟨Nat.le_of_ble_eq_true rfl, Nat.le_of_ble_eq_true rfl⟩ rfl (Nat.le_of_ble_eq_true rfl) dX6_isDeed_6 (fun r2 hw => ?_)
    refine j_icmp_ge hE 16 dX6_isDeed_9 (by decide) (fun c3 => ?_) (fun c3 => ?_)
    · have hw := hw.1 c3
      refine j_iconst hE dX6_isDeed_16 kc_0 ?_
      exact j_iret hE hK dX6_isDeed_17 rfl ⟨rfl, hw⟩
    · have hw := hw.2 c3
      refine j_iconst hE dX6_isDeed_12 kc_1 ?_
      refine j_goto hE 17 dX6_isDeed_13 (by decide) ?_
      exact j_iret hE hK dX6_isDeed_17 rfl ⟨rfl, hw⟩
abbrev wX6_isDeed := wX6_isDeed_0
theorem ctX6_isDeed (l : Launch) (G : gG) {ad : Nat → Nat} (hA : adOk ad) (m0 : MS) (r : GW) (x1 : Int32) (K : Int32 → Prop) (hw : wX6_isDeed x1 m0 K) : CtI l yX6_isDeed cX6_isDeed 2 .boolean ({ frames := 1, cells := 0, slots := 0, locals := 20 }) G [.ref (ad 0), .int (x1)] (mwX ad m0 r) (KPI (mwX ad m0 r) K) :=
  CtI.of RX6 plain_X6 rfl (Nat.le_of_ble_eq_true rfl) (fun E hE _ _ hn hR hK => bX6_isDeed_0 hE hn hR hA hK hw)
theorem jdX6_isDeed : jD yX6_isDeed 1 := by decide +kernel
theorem lkX6_isDeed : GoodIn lw_all (wsV RX6 352 yX6_isDeed.cls yX6_isDeed (ws_ yX6_isDeed cX6_isDeed 2 (some .boolean))) := lw_V q1957 q1959 qs99 q129 q1960
def wX6_doesSee_0 (x1 : Int32) (x2 : Int32) (x3 : Int32) (m0 : MS) (K : Int32 → Prop) : Prop :=
  wX6_sightOf x1 x2 m0 (fun r1 => (¬ ((ishr r1 x3) &&& 1) = 1 → (K 0)) ∧ (((ishr r1 x3) &&& 1) = 1 → (K 1)))
set_option maxRecDepth 100000 in
theorem bX6_doesSee_0 {E : jE} (hE : jOk E cX6_doesSee RX6) (hn : E.2.2.2.2 = 4) (hR : jRoom E 2 47) {ad : Nat → Nat} (hA : adOk ad) {r : GW} {m0 : MS} {b : Nat × Nat} {K : Int32 → Prop} (hK : jRi E .boolean (KPI (mwX ad m0 r) K)) {x1 : Int32} {x2 : Int32} {x3 : Int32}  (hw : wX6_doesSee_0 x1 x2 x3 m0 K) : J E (mwX ad m0 r) b [(0, .ref (ad 0)), (1, .int (x1)), (2, .int (x2)), (3, .int (x3))] 0 [] := by
  unfold wX6_doesSee_0 at hw
  refine j_aload_n hE 0 dX6_doesSee_0 rfl rfl ?_
  refine j_iload_n hE 1 dX6_doesSee_1 rfl rfl ?_
  refine j_iload_n hE 2 dX6_doesSee_2 rfl rfl ?_
  refine jm_pI hE hA hR (As := [.int (x1), .int (x2)]) (rest := []) (ctX6_sightOf E.1.2.1 E.2.2.1 hA _ _ _ _  _ hw) rfl lkX6_sightOf jdX6_sightOf ⟨Nat.le_of_ble_eq_true rfl, Nat.le_of_ble_eq_true rfl⟩ rfl (Nat.le_of_ble_eq_true rfl) dX6_doesSee_3 (fun r1 hw => ?_)
  refine j_iload_n hE 3 dX6_doesSee_6 rfl rfl ?_
  refine j_ishr hE dX6_doesSee_7 ?_
  refine j_iconst hE dX6_doesSee_8 kc_1 ?_
  refine j_iand hE dX6_doesSee_9 ?_
  refine j_iconst hE dX6_doesSee_10 kc_1 ?_
  refine j_icmp_ne hE 18 dX6_doesSee_11 (by decide) (fun c2 => ?_) (fun c2 => ?_)
  · have hw := hw.1 c2
    refine j_iconst hE dX6_doesSee_18 kc_0 ?_
    exact j_iret hE hK dX6_doesSee_19 rfl ⟨rfl, hw⟩
  · have hw := hw.2 c2
    refine j_iconst hE dX6_doesSee_14 kc_1 ?_
    refine j_goto hE 19 dX6_doesSee_15 (by decide) ?_
    exact j_iret hE hK dX6_doesSee_19 rfl ⟨rfl, hw⟩
abbrev wX6_doesSee := wX6_doesSee_0
theorem ctX6_doesSee (l : Launch) (G : gG) {ad : Nat → Nat} (hA : adOk ad) (m0 : MS) (r : GW) (x1 : Int32) (x2 : Int32) (x3 : Int32) (K : Int32 → Prop) (hw : wX6_doesSee x1 x2 x3 m0 K) : CtI l yX6_doesSee cX6_doesSee 4 .boolean ({ frames := 2, cells := 0, slots := 0, locals := 47 }) G [.ref (ad 0), .int (x1), .int (x2), .int (x3)] (mwX ad m0 r) (KPI (mwX ad m0 r) K) :=
  CtI.of RX6 plain_X6 rfl (Nat.le_of_ble_eq_true rfl) (fun E hE _ _ hn hR hK => bX6_doesSee_0 hE hn hR hA hK hw)
theorem jdX6_doesSee : jD yX6_doesSee 3 := by decide +kernel
theorem lkX6_doesSee : GoodIn lw_all (wsV RX6 297 yX6_doesSee.cls yX6_doesSee (ws_ yX6_doesSee cX6_doesSee 4 (some .boolean))) := lw_V q1973 q1975 qs103 q129 q1976
def wX6_seersOf_5_b (x1 : Int32) (x2 : Int32) (x3 : Int32) (x4 : Int32) (m0 : MS) (KL5 : Int32 × Int32 → Prop) (K : Int32 → Prop) : Prop :=
  wX6_panes  m0 (fun r1 => (r1 ≤ x4 → (K x3)) ∧ (¬ r1 ≤ x4 → (wX6_doesSee x1 x4 x2 m0 (fun r3 => (r3 = 0 → (∀ v5 : Int32, v5 = x3 ||| 0 → (KL5 (v5, x4 + 1)))) ∧ (¬ r3 = 0 → (∀ v6 : Int32, v6 = x3 ||| (ishl 1 x4) → (KL5 (v6, x4 + 1))))))))
def wX6_seersOf_5 (x1 : Int32) (x2 : Int32) (x3 : Int32) (x4 : Int32) (m0 : MS) (K : Int32 → Prop) : Prop := lfp (σ := Int32 × Int32) (fun KL s => wX6_seersOf_5_b x1 x2 s.1 s.2 m0 KL K) (x3, x4)
set_option maxRecDepth 100000 in
theorem bX6_seersOf_5 {E : jE} (hE : jOk E cX6_seersOf RX6) (hn : E.2.2.2.2 = 5) (hR : jRoom E 3 70) {ad : Nat → Nat} (hA : adOk ad) {r : GW} {m0 : MS} {b : Nat × Nat} {K : Int32 → Prop} (hK : jRi E .int (KPI (mwX ad m0 r) K)) {x1 : Int32} {x2 : Int32} {x3 : Int32} {x4 : Int32}  (hw : wX6_seersOf_5 x1 x2 x3 x4 m0 K) : J E (mwX ad m0 r) b [(0, .ref (ad 0)), (1, .int (x1)), (2, .int (x2)), (3, .int (x3)), (4, .int (x4))] 5 [] := by
  refine lfp_sound (σ := Int32 × Int32) (F := fun KL s => wX6_seersOf_5_b x1 x2 s.1 s.2 m0 KL K) (P := fun s => J E (mwX ad m0 r) b [(0, .ref (ad 0)), (1, .int (x1)), (2, .int (x2)), (3, .int (s.1)), (4, .int (s.2))] 5 []) ?_ hw
  clear hw
  rintro KL5 ⟨x3, x4⟩ hw ih5
  have hw : wX6_seersOf_5_b x1 x2 x3 x4 m0 KL5 K := hw
  unfold wX6_seersOf_5_b at hw
  refine j_iload hE 4 dX6_seersOf_5 rfl ?_
  refine j_aload_n hE 0 dX6_seersOf_7 rfl rfl ?_
  refine jm_pI hE hA hR (As := []) (rest := [.int (x4)]) (ctX6_panes E.1.2.1 E.2.2.1 hA _ _  _ hw) rfl lkX6_panes jdX6_panes ⟨Nat.le_of_ble_eq_true rfl, Nat.le_of_ble_eq_true rfl⟩ rfl (Nat.le_of_ble_eq_true rfl) dX6_seersOf_8 (fun r1 hw => ?_)
  refine j_icmp_ge hE 42 dX6_seersOf_11 (by decide) (fun c2 => ?_) (fun c2 => ?_)
  · have hw := hw.1 c2
    refine j_iload_n hE 3 dX6_seersOf_42 rfl rfl ?_
    exact j_iret hE hK dX6_seersOf_43 rfl ⟨rfl, hw⟩
  · have hw := hw.2 c2
    refine j_iload_n hE 3 dX6_seersOf_14 rfl rfl ?_
    refine j_aload_n hE 0 dX6_seersOf_15 rfl rfl ?_
    refine j_iload_n hE 1 dX6_seersOf_16 rfl rfl ?_
    refine j_iload hE 4 dX6_seersOf_17 rfl ?_
    refine j_iload_n hE 2 dX6_seersOf_19 rfl rfl ?_
    refine jm_pI hE hA hR (As := [.int (x1), .int (x4), .int (x2)]) (rest := [.int (x3)]) (ctX6_doesSee E.1.2.1 E.2.2.1 hA _ _ _ _ _  _ hw) rfl lkX6_doesSee jdX6_doesSee ⟨Nat.le_of_ble_eq_true rfl, Nat.le_of_ble_eq_true rfl⟩ rfl (Nat.le_of_ble_eq_true rfl) dX6_seersOf_20 (fun r3 hw => ?_)
    refine j_if_eq hE 33 dX6_seersOf_23 (by decide) (fun c4 => ?_) (fun c4 => ?_)
    · have hw := hw.1 c4
      refine j_iconst hE dX6_seersOf_33 kc_0 ?_
      refine j_ior hE dX6_seersOf_34 ?_
      refine j_topi (fun v5 e_v5 => ?_)
      have hw := hw v5 e_v5
      refine j_istore_n (L' := [(3, .int (v5)), (0, .ref (ad 0)), (1, .int (x1)), (2, .int (x2)), (4, .int (x4))]) hE hn dX6_seersOf_35 rfl (Nat.le_of_ble_eq_true rfl) rfl ?_
      refine j_iinc (L' := [(4, .int (x4 + 1)), (3, .int (v5)), (0, .ref (ad 0)), (1, .int (x1)), (2, .int (x2))]) hE hn 4 dX6_seersOf_36 rfl (congrArg (x4 + ·) kc_1) (Nat.le_of_ble_eq_true rfl) rfl ?_
      refine j_goto hE 5 dX6_seersOf_39 (by decide) ?_
      refine j_sub [(0, .ref (ad 0)), (1, .int (x1)), (2, .int (x2)), (3, .int (v5)), (4, .int (x4 + 1))] [2, 3, 4, 1, 0] rfl ?_
      have hz := ih5 (v5, x4 + 1) hw
      exact hz
    · have hw := hw.2 c4
      refine j_iconst hE dX6_seersOf_26 kc_1 ?_
      refine j_iload hE 4 dX6_seersOf_27 rfl ?_
      refine j_ishl hE dX6_seersOf_29 ?_
      refine j_goto hE 34 dX6_seersOf_30 (by decide) ?_
      refine j_ior hE dX6_seersOf_34 ?_
      refine j_topi (fun v6 e_v6 => ?_)
      have hw := hw v6 e_v6
      refine j_istore_n (L' := [(3, .int (v6)), (0, .ref (ad 0)), (1, .int (x1)), (2, .int (x2)), (4, .int (x4))]) hE hn dX6_seersOf_35 rfl (Nat.le_of_ble_eq_true rfl) rfl ?_
      refine j_iinc (L' := [(4, .int (x4 + 1)), (3, .int (v6)), (0, .ref (ad 0)), (1, .int (x1)), (2, .int (x2))]) hE hn 4 dX6_seersOf_36 rfl (congrArg (x4 + ·) kc_1) (Nat.le_of_ble_eq_true rfl) rfl ?_
      refine j_goto hE 5 dX6_seersOf_39 (by decide) ?_
      refine j_sub [(0, .ref (ad 0)), (1, .int (x1)), (2, .int (x2)), (3, .int (v6)), (4, .int (x4 + 1))] [2, 3, 4, 1, 0] rfl ?_
      have hz := ih5 (v6, x4 + 1) hw
      exact hz
def wX6_seersOf_0 (x1 : Int32) (x2 : Int32) (m0 : MS) (K : Int32 → Prop) : Prop :=
  wX6_seersOf_5 x1 x2 0 0 m0 K
set_option maxRecDepth 100000 in
theorem bX6_seersOf_0 {E : jE} (hE : jOk E cX6_seersOf RX6) (hn : E.2.2.2.2 = 5) (hR : jRoom E 3 70) {ad : Nat → Nat} (hA : adOk ad) {r : GW} {m0 : MS} {b : Nat × Nat} {K : Int32 → Prop} (hK : jRi E .int (KPI (mwX ad m0 r) K)) {x1 : Int32} {x2 : Int32}  (hw : wX6_seersOf_0 x1 x2 m0 K) : J E (mwX ad m0 r) b [(0, .ref (ad 0)), (1, .int (x1)), (2, .int (x2))] 0 [] := by
  unfold wX6_seersOf_0 at hw
  refine j_iconst hE dX6_seersOf_0 kc_0 ?_
  refine j_istore_n (L' := [(3, .int (0)), (0, .ref (ad 0)), (1, .int (x1)), (2, .int (x2))]) hE hn dX6_seersOf_1 rfl (Nat.le_of_ble_eq_true rfl) rfl ?_
  refine j_iconst hE dX6_seersOf_2 kc_0 ?_
  refine j_istore (L' := [(4, .int (0)), (3, .int (0)), (0, .ref (ad 0)), (1, .int (x1)), (2, .int (x2))]) hE hn dX6_seersOf_3 (Nat.le_of_ble_eq_true rfl) rfl ?_
  refine j_sub [(0, .ref (ad 0)), (1, .int (x1)), (2, .int (x2)), (3, .int (0)), (4, .int (0))] [2, 3, 4, 1, 0] rfl ?_
  exact bX6_seersOf_5 hE hn hR hA hK  hw
abbrev wX6_seersOf := wX6_seersOf_0
theorem ctX6_seersOf (l : Launch) (G : gG) {ad : Nat → Nat} (hA : adOk ad) (m0 : MS) (r : GW) (x1 : Int32) (x2 : Int32) (K : Int32 → Prop) (hw : wX6_seersOf x1 x2 m0 K) : CtI l yX6_seersOf cX6_seersOf 5 .int ({ frames := 3, cells := 0, slots := 0, locals := 70 }) G [.ref (ad 0), .int (x1), .int (x2)] (mwX ad m0 r) (KPI (mwX ad m0 r) K) :=
  CtI.of RX6 plain_X6 rfl (Nat.le_of_ble_eq_true rfl) (fun E hE _ _ hn hR hK => bX6_seersOf_0 hE hn hR hA hK hw)
theorem jdX6_seersOf : jD yX6_seersOf 2 := by decide +kernel
theorem lkX6_seersOf : GoodIn lw_all (wsV RX6 303 yX6_seersOf.cls yX6_seersOf (ws_ yX6_seersOf cX6_seersOf 5 (some .int))) := lw_V q1969 q1971 qs102 q129 q1972
def wX6_forgets_18_b (x1 : Int32) (x2 : Int32) (x4 : Int32) (m : MS) (KL18 : Int32 × MS → Prop) (K : MS → Prop) : Prop :=
  vp_in ((x1 + (nI 18)) + x2) 1518 ∧ (((rd (gA m 11) ((x1 + (nI 18)) + x2)) ≤ x4 → (K m)) ∧ (¬ (rd (gA m 11) ((x1 + (nI 18)) + x2)) ≤ x4 → (wX6_markOf x1 x2 (x4 + 1) m (fun r3 => vp_in (((x1 + (nI 24)) + ((nI 6) * x2)) + x4) 1518 ∧ (∀ m5 : MS, m5 = wA m 11 (((x1 + (nI 24)) + ((nI 6) * x2)) + x4) r3 → (KL18 (x4 + 1, m5)))))))
def wX6_forgets_18 (x1 : Int32) (x2 : Int32) (x4 : Int32) (m : MS) (K : MS → Prop) : Prop := lfp (σ := Int32 × MS) (fun KL s => wX6_forgets_18_b x1 x2 s.1 s.2 KL K) (x4, m)
set_option maxRecDepth 100000 in
theorem bX6_forgets_18 {E : jE} (hE : jOk E cX6_forgets RX6) (hn : E.2.2.2.2 = 5) (hR : jRoom E 1 23) {ad : Nat → Nat} (hA : adOk ad) {r : GW} {b : Nat × Nat} {K : MS → Prop} (hK : jRv E (KMV ad r K)) {x1 : Int32} {x2 : Int32} {x4 : Int32} {m : MS}  (hw : wX6_forgets_18 x1 x2 x4 m K) : J E (mwX ad m r) b [(0, .ref (ad 0)), (1, .int (x1)), (2, .int (x2)), (4, .int (x4))] 18 [] := by
  refine lfp_sound (σ := Int32 × MS) (F := fun KL s => wX6_forgets_18_b x1 x2 s.1 s.2 KL K) (P := fun s => J E (mwX ad (s.2) r) b [(0, .ref (ad 0)), (1, .int (x1)), (2, .int (x2)), (4, .int (s.1))] 18 []) ?_ hw
  clear hw
  rintro KL18 ⟨x4, m⟩ hw ih18
  have hw : wX6_forgets_18_b x1 x2 x4 m KL18 K := hw
  unfold wX6_forgets_18_b at hw
  refine j_iload hE 3 dX6_forgets_18 rfl ?_
  refine j_aload_n hE 0 dX6_forgets_20 rfl rfl ?_
  refine jm_get hE hA 24 (Nat.le_of_ble_eq_true rfl) q1671 rfl (v := .ref (ad 12)) rfl dX6_forgets_21 ?_
  refine j_iload_n hE 1 dX6_forgets_24 rfl rfl ?_
  refine j_bipush hE dX6_forgets_25 kb_18 ?_
  refine j_iadd hE dX6_forgets_27 ?_
  refine j_iload_n hE 2 dX6_forgets_28 rfl rfl ?_
  refine j_iadd hE dX6_forgets_29 ?_
  obtain ⟨h1, hw⟩ := hw
  refine jm_iald hE hA 11 (Nat.le_of_ble_eq_true rfl) h1 dX6_forgets_30 ?_
  refine j_icmp_ge hE 67 dX6_forgets_31 (by decide) (fun c2 => ?_) (fun c2 => ?_)
  · have hw := hw.1 c2
    exact j_vret hE hK dX6_forgets_67 ⟨_, rfl, hw⟩
  · have hw := hw.2 c2
    refine j_aload_n hE 0 dX6_forgets_34 rfl rfl ?_
    refine jm_get hE hA 24 (Nat.le_of_ble_eq_true rfl) q1671 rfl (v := .ref (ad 12)) rfl dX6_forgets_35 ?_
    refine j_iload_n hE 1 dX6_forgets_38 rfl rfl ?_
    refine j_bipush hE dX6_forgets_39 kb_24 ?_
    refine j_iadd hE dX6_forgets_41 ?_
    refine j_bipush hE dX6_forgets_42 kb_6 ?_
    refine j_iload_n hE 2 dX6_forgets_44 rfl rfl ?_
    refine j_imul hE dX6_forgets_45 ?_
    refine j_iadd hE dX6_forgets_46 ?_
    refine j_iload hE 3 dX6_forgets_47 rfl ?_
    refine j_iadd hE dX6_forgets_49 ?_
    refine j_aload_n hE 0 dX6_forgets_50 rfl rfl ?_
    refine j_iload_n hE 1 dX6_forgets_51 rfl rfl ?_
    refine j_iload_n hE 2 dX6_forgets_52 rfl rfl ?_
    refine j_iload hE 3 dX6_forgets_53 rfl ?_
    refine j_iconst hE dX6_forgets_55 kc_1 ?_
    refine j_iadd hE dX6_forgets_56 ?_
    refine jm_pI hE hA hR (As := [.int (x1), .int (x2), .int (x4 + 1)]) (rest := [.int (((x1 + (nI 24)) + ((nI 6) * x2)) + x4), .ref (ad 12)]) (ctX6_markOf E.1.2.1 E.2.2.1 hA _ _ _ _ _  _ hw) rfl lkX6_markOf jdX6_markOf ⟨Nat.le_of_ble_eq_true rfl, Nat.le_of_ble_eq_true rfl⟩ rfl (Nat.le_of_ble_eq_true rfl) dX6_forgets_57 (fun r3 hw => ?_)
    obtain ⟨h4, hw⟩ := hw
    refine jm_iast hE hA 11 (Nat.le_of_ble_eq_true rfl) h4 dX6_forgets_60 ?_
    refine j_wm (fun m5 e_m5 => ?_)
    have hw := hw m5 e_m5
    refine j_iinc (L' := [(4, .int (x4 + 1)), (0, .ref (ad 0)), (1, .int (x1)), (2, .int (x2))]) hE hn 3 dX6_forgets_61 rfl (congrArg (x4 + ·) kc_1) (Nat.le_of_ble_eq_true rfl) rfl ?_
    refine j_goto hE 18 dX6_forgets_64 (by decide) ?_
    refine j_sub [(0, .ref (ad 0)), (1, .int (x1)), (2, .int (x2)), (4, .int (x4 + 1))] [1, 2, 3, 0] rfl ?_
    have hz := ih18 (x4 + 1, m5) hw
    exact hz
def wX6_forgets_0 (x1 : Int32) (x2 : Int32) (x3 : Int32) (m : MS) (K : MS → Prop) : Prop :=
  vp_in ((x1 + (nI 18)) + x2) 1518 ∧ (vp_in ((x1 + (nI 18)) + x2) 1518 ∧ (∀ m3 : MS, m3 = wA m 11 ((x1 + (nI 18)) + x2) ((rd (gA m 11) ((x1 + (nI 18)) + x2)) - 1) → (wX6_forgets_18 x1 x2 x3 m3 K)))
set_option maxRecDepth 100000 in
theorem bX6_forgets_0 {E : jE} (hE : jOk E cX6_forgets RX6) (hn : E.2.2.2.2 = 5) (hR : jRoom E 1 23) {ad : Nat → Nat} (hA : adOk ad) {r : GW} {b : Nat × Nat} {K : MS → Prop} (hK : jRv E (KMV ad r K)) {x1 : Int32} {x2 : Int32} {x3 : Int32} {m : MS}  (hw : wX6_forgets_0 x1 x2 x3 m K) : J E (mwX ad m r) b [(0, .ref (ad 0)), (1, .int (x1)), (2, .int (x2)), (3, .int (x3))] 0 [] := by
  unfold wX6_forgets_0 at hw
  refine j_aload_n hE 0 dX6_forgets_0 rfl rfl ?_
  refine jm_get hE hA 24 (Nat.le_of_ble_eq_true rfl) q1671 rfl (v := .ref (ad 12)) rfl dX6_forgets_1 ?_
  refine j_iload_n hE 1 dX6_forgets_4 rfl rfl ?_
  refine j_bipush hE dX6_forgets_5 kb_18 ?_
  refine j_iadd hE dX6_forgets_7 ?_
  refine j_iload_n hE 2 dX6_forgets_8 rfl rfl ?_
  refine j_iadd hE dX6_forgets_9 ?_
  refine j_dup2 hE dX6_forgets_10 rfl rfl ?_
  obtain ⟨h1, hw⟩ := hw
  refine jm_iald hE hA 11 (Nat.le_of_ble_eq_true rfl) h1 dX6_forgets_11 ?_
  refine j_iconst hE dX6_forgets_12 kc_1 ?_
  refine j_isub hE dX6_forgets_13 ?_
  obtain ⟨h2, hw⟩ := hw
  refine jm_iast hE hA 11 (Nat.le_of_ble_eq_true rfl) h2 dX6_forgets_14 ?_
  refine j_wm (fun m3 e_m3 => ?_)
  have hw := hw m3 e_m3
  refine j_iload_n hE 3 dX6_forgets_15 rfl rfl ?_
  refine j_istore (L' := [(4, .int (x3)), (0, .ref (ad 0)), (1, .int (x1)), (2, .int (x2)), (3, .int (x3))]) hE hn dX6_forgets_16 (Nat.le_of_ble_eq_true rfl) rfl ?_
  refine j_sub [(0, .ref (ad 0)), (1, .int (x1)), (2, .int (x2)), (4, .int (x3))] [1, 2, 3, 0] rfl ?_
  exact bX6_forgets_18 hE hn hR hA hK  hw
abbrev wX6_forgets := wX6_forgets_0
theorem ctX6_forgets (l : Launch) (G : gG) {ad : Nat → Nat} (hA : adOk ad) (m0 : MS) (r : GW) (x1 : Int32) (x2 : Int32) (x3 : Int32) (K : MS → Prop) (hw : wX6_forgets x1 x2 x3 m0 K) : CtV l yX6_forgets cX6_forgets 5 ({ frames := 1, cells := 0, slots := 0, locals := 23 }) G [.ref (ad 0), .int (x1), .int (x2), .int (x3)] (mwX ad m0 r) (KMV ad r K) :=
  CtV.of RX6 plain_X6 rfl (Nat.le_of_ble_eq_true rfl) (fun E hE _ _ hn hR hK => bX6_forgets_0 hE hn hR hA hK hw)
theorem jdX6_forgets : jD yX6_forgets 3 := by decide +kernel
theorem lkX6_forgets : GoodIn lw_all (wsV RX6 306 yX6_forgets.cls yX6_forgets (ws_ yX6_forgets cX6_forgets 5 none)) := lw_V q1977 q1979 qs104 q129 q1980
def wX6_does_2_62 (x1 : Int32) (x2 : Int32) (x3 : Int32) (x4 : Int32) (x5 : Int32) (x6 : Int32) (m : MS) (KL12 : Int32 × MS → Prop) (K : Int32 → MS → Prop) : Prop :=
  vp_in ((x1 + (nI 18)) + x6) 1518 ∧ (vp_in (((x1 + (nI 24)) + ((nI 6) * x6)) + (rd (gA m 11) ((x1 + (nI 18)) + x6))) 1518 ∧ (∀ m3 : MS, m3 = wA m 11 (((x1 + (nI 24)) + ((nI 6) * x6)) + (rd (gA m 11) ((x1 + (nI 18)) + x6))) (((ishl x4 (nI 6)) ||| (ishl x3 (nI 3))) ||| x2) → (vp_in ((x1 + (nI 18)) + x6) 1518 ∧ (vp_in ((x1 + (nI 18)) + x6) 1518 ∧ (∀ m6 : MS, m6 = wA m3 11 ((x1 + (nI 18)) + x6) ((rd (gA m3 11) ((x1 + (nI 18)) + x6)) + 1) → (KL12 (x6 + 1, m6)))))))
set_option maxRecDepth 100000 in
theorem bX6_does_2_62 {E : jE} (hE : jOk E cX6_does_2 RX6) (hn : E.2.2.2.2 = 7) (hR : jRoom E 4 94) {ad : Nat → Nat} (hA : adOk ad) {r : GW} {b : Nat × Nat} {K : Int32 → MS → Prop} (hK : jRi E .int (KMI ad r K)) {x1 : Int32} {x2 : Int32} {x3 : Int32} {x4 : Int32} {x5 : Int32} {x6 : Int32} {m : MS} {KL12 : Int32 × MS → Prop} (ih12 : ∀ s : Int32 × MS, KL12 s → J E (mwX ad (s.2) r) b [(0, .ref (ad 0)), (1, .int (x1)), (2, .int (x2)), (3, .int (x3)), (4, .int (x4)), (5, .int (x5)), (6, .int (s.1))] 12 []) (hw : wX6_does_2_62 x1 x2 x3 x4 x5 x6 m KL12 K) : J E (mwX ad m r) b [(0, .ref (ad 0)), (1, .int (x1)), (2, .int (x2)), (3, .int (x3)), (4, .int (x4)), (5, .int (x5)), (6, .int (x6))] 62 [] := by
  unfold wX6_does_2_62 at hw
  refine j_aload_n hE 0 dX6_does_2_62 rfl rfl ?_
  refine jm_get hE hA 24 (Nat.le_of_ble_eq_true rfl) q1671 rfl (v := .ref (ad 12)) rfl dX6_does_2_63 ?_
  refine j_iload_n hE 1 dX6_does_2_66 rfl rfl ?_
  refine j_bipush hE dX6_does_2_67 kb_24 ?_
  refine j_iadd hE dX6_does_2_69 ?_
  refine j_bipush hE dX6_does_2_70 kb_6 ?_
  refine j_iload hE 6 dX6_does_2_72 rfl ?_
  refine j_imul hE dX6_does_2_74 ?_
  refine j_iadd hE dX6_does_2_75 ?_
  refine j_aload_n hE 0 dX6_does_2_76 rfl rfl ?_
  refine jm_get hE hA 24 (Nat.le_of_ble_eq_true rfl) q1671 rfl (v := .ref (ad 12)) rfl dX6_does_2_77 ?_
  refine j_iload_n hE 1 dX6_does_2_80 rfl rfl ?_
  refine j_bipush hE dX6_does_2_81 kb_18 ?_
  refine j_iadd hE dX6_does_2_83 ?_
  refine j_iload hE 6 dX6_does_2_84 rfl ?_
  refine j_iadd hE dX6_does_2_86 ?_
  obtain ⟨h1, hw⟩ := hw
  refine jm_iald hE hA 11 (Nat.le_of_ble_eq_true rfl) h1 dX6_does_2_87 ?_
  refine j_iadd hE dX6_does_2_88 ?_
  refine j_iload hE 4 dX6_does_2_89 rfl ?_
  refine j_bipush hE dX6_does_2_91 kb_6 ?_
  refine j_ishl hE dX6_does_2_93 ?_
  refine j_iload_n hE 3 dX6_does_2_94 rfl rfl ?_
  refine j_iconst hE dX6_does_2_95 kc_3 ?_
  refine j_ishl hE dX6_does_2_96 ?_
  refine j_ior hE dX6_does_2_97 ?_
  refine j_iload_n hE 2 dX6_does_2_98 rfl rfl ?_
  refine j_ior hE dX6_does_2_99 ?_
  obtain ⟨h2, hw⟩ := hw
  refine jm_iast hE hA 11 (Nat.le_of_ble_eq_true rfl) h2 dX6_does_2_100 ?_
  refine j_wm (fun m3 e_m3 => ?_)
  have hw := hw m3 e_m3
  refine j_aload_n hE 0 dX6_does_2_101 rfl rfl ?_
  refine jm_get hE hA 24 (Nat.le_of_ble_eq_true rfl) q1671 rfl (v := .ref (ad 12)) rfl dX6_does_2_102 ?_
  refine j_iload_n hE 1 dX6_does_2_105 rfl rfl ?_
  refine j_bipush hE dX6_does_2_106 kb_18 ?_
  refine j_iadd hE dX6_does_2_108 ?_
  refine j_iload hE 6 dX6_does_2_109 rfl ?_
  refine j_iadd hE dX6_does_2_111 ?_
  refine j_dup2 hE dX6_does_2_112 rfl rfl ?_
  obtain ⟨h4, hw⟩ := hw
  refine jm_iald hE hA 11 (Nat.le_of_ble_eq_true rfl) h4 dX6_does_2_113 ?_
  refine j_iconst hE dX6_does_2_114 kc_1 ?_
  refine j_iadd hE dX6_does_2_115 ?_
  obtain ⟨h5, hw⟩ := hw
  refine jm_iast hE hA 11 (Nat.le_of_ble_eq_true rfl) h5 dX6_does_2_116 ?_
  refine j_wm (fun m6 e_m6 => ?_)
  have hw := hw m6 e_m6
  refine j_iinc (L' := [(6, .int (x6 + 1)), (0, .ref (ad 0)), (1, .int (x1)), (2, .int (x2)), (3, .int (x3)), (4, .int (x4)), (5, .int (x5))]) hE hn 6 dX6_does_2_117 rfl (congrArg (x6 + ·) kc_1) (Nat.le_of_ble_eq_true rfl) rfl ?_
  refine j_goto hE 12 dX6_does_2_120 (by decide) ?_
  refine j_sub [(0, .ref (ad 0)), (1, .int (x1)), (2, .int (x2)), (3, .int (x3)), (4, .int (x4)), (5, .int (x5)), (6, .int (x6 + 1))] [1, 2, 3, 4, 5, 6, 0] rfl ?_
  have hz := ih12 (x6 + 1, m6) hw
  exact hz
def wX6_does_2_12_b (x1 : Int32) (x2 : Int32) (x3 : Int32) (x4 : Int32) (x5 : Int32) (x6 : Int32) (m : MS) (KL12 : Int32 × MS → Prop) (K : Int32 → MS → Prop) : Prop :=
  wX6_panes  m (fun r1 => (r1 ≤ x6 → (K x5 m)) ∧ (¬ r1 ≤ x6 → ((¬ ((ishr x5 x6) &&& 1) = 1 → (KL12 (x6 + 1, m))) ∧ (((ishr x5 x6) &&& 1) = 1 → (vp_in ((x1 + (nI 18)) + x6) 1518 ∧ (wX6_paneOf x6 1 m (fun r5 => (¬ (rd (gA m 11) ((x1 + (nI 18)) + x6)) = r5 → (wX6_does_2_62 x1 x2 x3 x4 x5 x6 m KL12 K)) ∧ ((rd (gA m 11) ((x1 + (nI 18)) + x6)) = r5 → (wX6_forgets x1 x6 0 m (fun  m7 => wX6_does_2_62 x1 x2 x3 x4 x5 x6 m7 KL12 K))))))))))
def wX6_does_2_12 (x1 : Int32) (x2 : Int32) (x3 : Int32) (x4 : Int32) (x5 : Int32) (x6 : Int32) (m : MS) (K : Int32 → MS → Prop) : Prop := lfp (σ := Int32 × MS) (fun KL s => wX6_does_2_12_b x1 x2 x3 x4 x5 s.1 s.2 KL K) (x6, m)
set_option maxRecDepth 100000 in
theorem bX6_does_2_12 {E : jE} (hE : jOk E cX6_does_2 RX6) (hn : E.2.2.2.2 = 7) (hR : jRoom E 4 94) {ad : Nat → Nat} (hA : adOk ad) {r : GW} {b : Nat × Nat} {K : Int32 → MS → Prop} (hK : jRi E .int (KMI ad r K)) {x1 : Int32} {x2 : Int32} {x3 : Int32} {x4 : Int32} {x5 : Int32} {x6 : Int32} {m : MS}  (hw : wX6_does_2_12 x1 x2 x3 x4 x5 x6 m K) : J E (mwX ad m r) b [(0, .ref (ad 0)), (1, .int (x1)), (2, .int (x2)), (3, .int (x3)), (4, .int (x4)), (5, .int (x5)), (6, .int (x6))] 12 [] := by
  refine lfp_sound (σ := Int32 × MS) (F := fun KL s => wX6_does_2_12_b x1 x2 x3 x4 x5 s.1 s.2 KL K) (P := fun s => J E (mwX ad (s.2) r) b [(0, .ref (ad 0)), (1, .int (x1)), (2, .int (x2)), (3, .int (x3)), (4, .int (x4)), (5, .int (x5)), (6, .int (s.1))] 12 []) ?_ hw
  clear hw
  rintro KL12 ⟨x6, m⟩ hw ih12
  have hw : wX6_does_2_12_b x1 x2 x3 x4 x5 x6 m KL12 K := hw
  unfold wX6_does_2_12_b at hw
  refine j_iload hE 6 dX6_does_2_12 rfl ?_
  refine j_aload_n hE 0 dX6_does_2_14 rfl rfl ?_
  refine jm_pI hE hA hR (As := []) (rest := [.int (x6)]) (ctX6_panes E.1.2.1 E.2.2.1 hA _ _  _ hw) rfl lkX6_panes jdX6_panes ⟨Nat.le_of_ble_eq_true rfl, Nat.le_of_ble_eq_true rfl⟩ rfl (Nat.le_of_ble_eq_true rfl) dX6_does_2_15 (fun r1 hw => ?_)
  refine j_icmp_ge hE 123 dX6_does_2_18 (by decide) (fun c2 => ?_) (fun c2 => ?_)
  · have hw := hw.1 c2
    refine j_iload hE 5 dX6_does_2_123 rfl ?_
    exact j_iret hE hK dX6_does_2_125 rfl ⟨_, rfl, hw⟩
  · have hw := hw.2 c2
    refine j_iload hE 5 dX6_does_2_21 rfl ?_
    refine j_iload hE 6 dX6_does_2_23 rfl ?_
    refine j_ishr hE dX6_does_2_25 ?_
    refine j_iconst hE dX6_does_2_26 kc_1 ?_
    refine j_iand hE dX6_does_2_27 ?_
    refine j_iconst hE dX6_does_2_28 kc_1 ?_
    refine j_icmp_ne hE 117 dX6_does_2_29 (by decide) (fun c3 => ?_) (fun c3 => ?_)
    · have hw := hw.1 c3
      refine j_iinc (L' := [(6, .int (x6 + 1)), (0, .ref (ad 0)), (1, .int (x1)), (2, .int (x2)), (3, .int (x3)), (4, .int (x4)), (5, .int (x5))]) hE hn 6 dX6_does_2_117 rfl (congrArg (x6 + ·) kc_1) (Nat.le_of_ble_eq_true rfl) rfl ?_
      refine j_goto hE 12 dX6_does_2_120 (by decide) ?_
      refine j_sub [(0, .ref (ad 0)), (1, .int (x1)), (2, .int (x2)), (3, .int (x3)), (4, .int (x4)), (5, .int (x5)), (6, .int (x6 + 1))] [1, 2, 3, 4, 5, 6, 0] rfl ?_
      have hz := ih12 (x6 + 1, m) hw
      exact hz
    · have hw := hw.2 c3
      refine j_aload_n hE 0 dX6_does_2_32 rfl rfl ?_
      refine jm_get hE hA 24 (Nat.le_of_ble_eq_true rfl) q1671 rfl (v := .ref (ad 12)) rfl dX6_does_2_33 ?_
      refine j_iload_n hE 1 dX6_does_2_36 rfl rfl ?_
      refine j_bipush hE dX6_does_2_37 kb_18 ?_
      refine j_iadd hE dX6_does_2_39 ?_
      refine j_iload hE 6 dX6_does_2_40 rfl ?_
      refine j_iadd hE dX6_does_2_42 ?_
      obtain ⟨h4, hw⟩ := hw
      refine jm_iald hE hA 11 (Nat.le_of_ble_eq_true rfl) h4 dX6_does_2_43 ?_
      refine j_aload_n hE 0 dX6_does_2_44 rfl rfl ?_
      refine j_iload hE 6 dX6_does_2_45 rfl ?_
      refine j_iconst hE dX6_does_2_47 kc_1 ?_
      refine jm_pI hE hA hR (As := [.int (x6), .int (1)]) (rest := [.int (rd (gA m 11) ((x1 + (nI 18)) + x6))]) (ctX6_paneOf E.1.2.1 E.2.2.1 hA _ _ _ _  _ hw) rfl lkX6_paneOf jdX6_paneOf ⟨Nat.le_of_ble_eq_true rfl, Nat.le_of_ble_eq_true rfl⟩ rfl (Nat.le_of_ble_eq_true rfl) dX6_does_2_48 (fun r5 hw => ?_)
      refine j_icmp_ne hE 62 dX6_does_2_51 (by decide) (fun c6 => ?_) (fun c6 => ?_)
      · have hw := hw.1 c6
        exact bX6_does_2_62 hE hn hR hA hK ih12 hw
      · have hw := hw.2 c6
        refine j_aload_n hE 0 dX6_does_2_54 rfl rfl ?_
        refine j_iload_n hE 1 dX6_does_2_55 rfl rfl ?_
        refine j_iload hE 6 dX6_does_2_56 rfl ?_
        refine j_iconst hE dX6_does_2_58 kc_0 ?_
        refine jm_cV hE hA hR (As := [.int (x1), .int (x6), .int (0)]) (rest := []) (ctX6_forgets E.1.2.1 E.2.2.1 hA _ _ _ _ _  _ hw) rfl lkX6_forgets jdX6_forgets ⟨Nat.le_of_ble_eq_true rfl, Nat.le_of_ble_eq_true rfl⟩ rfl (Nat.le_of_ble_eq_true rfl) dX6_does_2_59 (fun  m7 hw => ?_)
        exact bX6_does_2_62 hE hn hR hA hK ih12 hw
def wX6_does_2_0 (x1 : Int32) (x2 : Int32) (x3 : Int32) (x4 : Int32) (m : MS) (K : Int32 → MS → Prop) : Prop :=
  wX6_seersOf x1 x4 m (fun r1 => wX6_does_2_12 x1 x2 x3 x4 r1 0 m K)
set_option maxRecDepth 100000 in
theorem bX6_does_2_0 {E : jE} (hE : jOk E cX6_does_2 RX6) (hn : E.2.2.2.2 = 7) (hR : jRoom E 4 94) {ad : Nat → Nat} (hA : adOk ad) {r : GW} {b : Nat × Nat} {K : Int32 → MS → Prop} (hK : jRi E .int (KMI ad r K)) {x1 : Int32} {x2 : Int32} {x3 : Int32} {x4 : Int32} {m : MS}  (hw : wX6_does_2_0 x1 x2 x3 x4 m K) : J E (mwX ad m r) b [(0, .ref (ad 0)), (1, .int (x1)), (2, .int (x2)), (3, .int (x3)), (4, .int (x4))] 0 [] := by
  unfold wX6_does_2_0 at hw
  refine j_aload_n hE 0 dX6_does_2_0 rfl rfl ?_
  refine j_iload_n hE 1 dX6_does_2_1 rfl rfl ?_
  refine j_iload hE 4 dX6_does_2_2 rfl ?_
  refine jm_pI hE hA hR (As := [.int (x1), .int (x4)]) (rest := []) (ctX6_seersOf E.1.2.1 E.2.2.1 hA _ _ _ _  _ hw) rfl lkX6_seersOf jdX6_seersOf ⟨Nat.le_of_ble_eq_true rfl, Nat.le_of_ble_eq_true rfl⟩ rfl (Nat.le_of_ble_eq_true rfl) dX6_does_2_4 (fun r1 hw => ?_)
  refine j_istore (L' := [(5, .int (r1)), (0, .ref (ad 0)), (1, .int (x1)), (2, .int (x2)), (3, .int (x3)), (4, .int (x4))]) hE hn dX6_does_2_7 (Nat.le_of_ble_eq_true rfl) rfl ?_
  refine j_iconst hE dX6_does_2_9 kc_0 ?_
  refine j_istore (L' := [(6, .int (0)), (5, .int (r1)), (0, .ref (ad 0)), (1, .int (x1)), (2, .int (x2)), (3, .int (x3)), (4, .int (x4))]) hE hn dX6_does_2_10 (Nat.le_of_ble_eq_true rfl) rfl ?_
  refine j_sub [(0, .ref (ad 0)), (1, .int (x1)), (2, .int (x2)), (3, .int (x3)), (4, .int (x4)), (5, .int (r1)), (6, .int (0))] [2, 3, 4, 5, 6, 1, 0] rfl ?_
  exact bX6_does_2_12 hE hn hR hA hK  hw
abbrev wX6_does_2 := wX6_does_2_0
theorem ctX6_does_2 (l : Launch) (G : gG) {ad : Nat → Nat} (hA : adOk ad) (m0 : MS) (r : GW) (x1 : Int32) (x2 : Int32) (x3 : Int32) (x4 : Int32) (K : Int32 → MS → Prop) (hw : wX6_does_2 x1 x2 x3 x4 m0 K) : CtI l yX6_does_2 cX6_does_2 7 .int ({ frames := 4, cells := 0, slots := 0, locals := 94 }) G [.ref (ad 0), .int (x1), .int (x2), .int (x3), .int (x4)] (mwX ad m0 r) (KMI ad r K) :=
  CtI.of RX6 plain_X6 rfl (Nat.le_of_ble_eq_true rfl) (fun E hE _ _ hn hR hK => bX6_does_2_0 hE hn hR hA hK hw)
theorem jdX6_does_2 : jD yX6_does_2 4 := by decide +kernel
theorem lkX6_does_2 : GoodIn lw_all (wsV RX6 355 yX6_does_2.cls yX6_does_2 (ws_ yX6_does_2 cX6_does_2 7 (some .int))) := lw_V q1965 q1967 qs101 q129 q1968
def wX6_does_0 (x1 : Int32) (x2 : Int32) (m : MS) (K : Int32 → MS → Prop) : Prop :=
  ∀ m1 : MS, m1 = sF m 0 0 → (wX6_isPerson x1 m1 (fun r2 => (r2 = 0 → (K ((-1)) m1)) ∧ (¬ r2 = 0 → (wX6_isDeed x2 m1 (fun r4 => (¬ r4 = 0 → (wX6_keeps  m1 (fun  m6 => vp_in (1 + x1) 1518 ∧ (wX6_does_2 0 x1 x2 (rd (gA m6 11) (1 + x1)) m6 (fun r8 m9 => K r8 m9))))) ∧ (r4 = 0 → (K ((-1)) m1)))))))
set_option maxRecDepth 100000 in
theorem bX6_does_0 {E : jE} (hE : jOk E cX6_does RX6) (hn : E.2.2.2.2 = 3) (hR : jRoom E 5 120) {ad : Nat → Nat} (hA : adOk ad) {r : GW} {b : Nat × Nat} {K : Int32 → MS → Prop} (hK : jRi E .int (KMI ad r K)) {x1 : Int32} {x2 : Int32} {m : MS}  (hw : wX6_does_0 x1 x2 m K) : J E (mwX ad m r) b [(0, .ref (ad 0)), (1, .int (x1)), (2, .int (x2))] 0 [] := by
  unfold wX6_does_0 at hw
  refine j_aload_n hE 0 dX6_does_0 rfl rfl ?_
  refine j_iconst hE dX6_does_1 kc_0 ?_
  refine jm_putF hE hA 0 0 (Nat.le_of_ble_eq_true rfl) q1647 rfl rfl (mset_0 _ _ _) rfl rfl dX6_does_2 ?_
  refine j_wm (fun m1 e_m1 => ?_)
  have hw := hw m1 e_m1
  refine j_aload_n hE 0 dX6_does_5 rfl rfl ?_
  refine j_iload_n hE 1 dX6_does_6 rfl rfl ?_
  refine jm_pI hE hA hR (As := [.int (x1)]) (rest := []) (ctX6_isPerson E.1.2.1 E.2.2.1 hA _ _ _  _ hw) rfl lkX6_isPerson jdX6_isPerson ⟨Nat.le_of_ble_eq_true rfl, Nat.le_of_ble_eq_true rfl⟩ rfl (Nat.le_of_ble_eq_true rfl) dX6_does_7 (fun r2 hw => ?_)
  refine j_if_eq hE 21 dX6_does_10 (by decide) (fun c3 => ?_) (fun c3 => ?_)
  · have hw := hw.1 c3
    refine j_iconst hE dX6_does_21 kc_m1 ?_
    exact j_iret hE hK dX6_does_22 rfl ⟨_, rfl, hw⟩
  · have hw := hw.2 c3
    refine j_aload_n hE 0 dX6_does_13 rfl rfl ?_
    refine j_iload_n hE 2 dX6_does_14 rfl rfl ?_
    refine jm_pI hE hA hR (As := [.int (x2)]) (rest := []) (ctX6_isDeed E.1.2.1 E.2.2.1 hA _ _ _  _ hw) rfl lkX6_isDeed jdX6_isDeed ⟨Nat.le_of_ble_eq_true rfl, Nat.le_of_ble_eq_true rfl⟩ rfl (Nat.le_of_ble_eq_true rfl) dX6_does_15 (fun r4 hw => ?_)
    refine j_if_ne hE 23 dX6_does_18 (by decide) (fun c5 => ?_) (fun c5 => ?_)
    · have hw := hw.1 c5
      refine j_aload_n hE 0 dX6_does_23 rfl rfl ?_
      refine jm_cV hE hA hR (As := []) (rest := []) (ctX6_keeps E.1.2.1 E.2.2.1 hA _ _  _ hw) rfl lkX6_keeps jdX6_keeps ⟨Nat.le_of_ble_eq_true rfl, Nat.le_of_ble_eq_true rfl⟩ rfl (Nat.le_of_ble_eq_true rfl) dX6_does_24 (fun  m6 hw => ?_)
      refine j_aload_n hE 0 dX6_does_27 rfl rfl ?_
      refine j_iconst hE dX6_does_28 kc_0 ?_
      refine j_iload_n hE 1 dX6_does_29 rfl rfl ?_
      refine j_iload_n hE 2 dX6_does_30 rfl rfl ?_
      refine j_aload_n hE 0 dX6_does_31 rfl rfl ?_
      refine jm_get hE hA 24 (Nat.le_of_ble_eq_true rfl) q1671 rfl (v := .ref (ad 12)) rfl dX6_does_32 ?_
      refine j_iconst hE dX6_does_35 kc_1 ?_
      refine j_iload_n hE 1 dX6_does_36 rfl rfl ?_
      refine j_iadd hE dX6_does_37 ?_
      obtain ⟨h7, hw⟩ := hw
      refine jm_iald hE hA 11 (Nat.le_of_ble_eq_true rfl) h7 dX6_does_38 ?_
      refine jm_cI hE hA hR (As := [.int (0), .int (x1), .int (x2), .int (rd (gA m6 11) (1 + x1))]) (rest := []) (ctX6_does_2 E.1.2.1 E.2.2.1 hA _ _ _ _ _ _  _ hw) rfl lkX6_does_2 jdX6_does_2 ⟨Nat.le_of_ble_eq_true rfl, Nat.le_of_ble_eq_true rfl⟩ rfl (Nat.le_of_ble_eq_true rfl) dX6_does_39 (fun r8 m9 hw => ?_)
      exact j_iret hE hK dX6_does_42 rfl ⟨_, rfl, hw⟩
    · have hw := hw.2 c5
      refine j_iconst hE dX6_does_21 kc_m1 ?_
      exact j_iret hE hK dX6_does_22 rfl ⟨_, rfl, hw⟩
abbrev wX6_does := wX6_does_0
theorem ctX6_does (l : Launch) (G : gG) {ad : Nat → Nat} (hA : adOk ad) (m0 : MS) (r : GW) (x1 : Int32) (x2 : Int32) (K : Int32 → MS → Prop) (hw : wX6_does x1 x2 m0 K) : CtI l yX6_does cX6_does 3 .int ({ frames := 5, cells := 0, slots := 0, locals := 120 }) G [.ref (ad 0), .int (x1), .int (x2)] (mwX ad m0 r) (KMI ad r K) :=
  CtI.of RX6 plain_X6 rfl (Nat.le_of_ble_eq_true rfl) (fun E hE _ _ hn hR hK => bX6_does_0 hE hn hR hA hK hw)
theorem jdX6_does : jD yX6_does 2 := by decide +kernel
def wX6_mayWash_0 (x1 : Int32) (x2 : Int32) (m0 : MS) (K : Int32 → Prop) : Prop :=
  wX6_isWhole x1 x2 m0 (fun r1 => (r1 = 0 → (K 0)) ∧ (¬ r1 = 0 → (vp_in ((x1 + (nI 18)) + x2) 1518 ∧ (((rd (gA m0 11) ((x1 + (nI 18)) + x2)) ≤ 0 → (K 0)) ∧ (¬ (rd (gA m0 11) ((x1 + (nI 18)) + x2)) ≤ 0 → (K 1))))))
set_option maxRecDepth 100000 in
theorem bX6_mayWash_0 {E : jE} (hE : jOk E cX6_mayWash RX6) (hn : E.2.2.2.2 = 3) (hR : jRoom E 1 22) {ad : Nat → Nat} (hA : adOk ad) {r : GW} {m0 : MS} {b : Nat × Nat} {K : Int32 → Prop} (hK : jRi E .boolean (KPI (mwX ad m0 r) K)) {x1 : Int32} {x2 : Int32}  (hw : wX6_mayWash_0 x1 x2 m0 K) : J E (mwX ad m0 r) b [(0, .ref (ad 0)), (1, .int (x1)), (2, .int (x2))] 0 [] := by
  unfold wX6_mayWash_0 at hw
  refine j_aload_n hE 0 dX6_mayWash_0 rfl rfl ?_
  refine j_iload_n hE 1 dX6_mayWash_1 rfl rfl ?_
  refine j_iload_n hE 2 dX6_mayWash_2 rfl rfl ?_
  refine jm_pI hE hA hR (As := [.int (x1), .int (x2)]) (rest := []) (ctX6_isWhole E.1.2.1 E.2.2.1 hA _ _ _ _  _ hw) rfl lkX6_isWhole jdX6_isWhole ⟨Nat.le_of_ble_eq_true rfl, Nat.le_of_ble_eq_true rfl⟩ rfl (Nat.le_of_ble_eq_true rfl) dX6_mayWash_3 (fun r1 hw => ?_)
  refine j_if_eq hE 27 dX6_mayWash_6 (by decide) (fun c2 => ?_) (fun c2 => ?_)
  · have hw := hw.1 c2
    refine j_iconst hE dX6_mayWash_27 kc_0 ?_
    exact j_iret hE hK dX6_mayWash_28 rfl ⟨rfl, hw⟩
  · have hw := hw.2 c2
    refine j_aload_n hE 0 dX6_mayWash_9 rfl rfl ?_
    refine jm_get hE hA 24 (Nat.le_of_ble_eq_true rfl) q1671 rfl (v := .ref (ad 12)) rfl dX6_mayWash_10 ?_
    refine j_iload_n hE 1 dX6_mayWash_13 rfl rfl ?_
    refine j_bipush hE dX6_mayWash_14 kb_18 ?_
    refine j_iadd hE dX6_mayWash_16 ?_
    refine j_iload_n hE 2 dX6_mayWash_17 rfl rfl ?_
    refine j_iadd hE dX6_mayWash_18 ?_
    obtain ⟨h3, hw⟩ := hw
    refine jm_iald hE hA 11 (Nat.le_of_ble_eq_true rfl) h3 dX6_mayWash_19 ?_
    refine j_if_le hE 27 dX6_mayWash_20 (by decide) (fun c4 => ?_) (fun c4 => ?_)
    · have hw := hw.1 c4
      refine j_iconst hE dX6_mayWash_27 kc_0 ?_
      exact j_iret hE hK dX6_mayWash_28 rfl ⟨rfl, hw⟩
    · have hw := hw.2 c4
      refine j_iconst hE dX6_mayWash_23 kc_1 ?_
      refine j_goto hE 28 dX6_mayWash_24 (by decide) ?_
      exact j_iret hE hK dX6_mayWash_28 rfl ⟨rfl, hw⟩
abbrev wX6_mayWash := wX6_mayWash_0
theorem ctX6_mayWash (l : Launch) (G : gG) {ad : Nat → Nat} (hA : adOk ad) (m0 : MS) (r : GW) (x1 : Int32) (x2 : Int32) (K : Int32 → Prop) (hw : wX6_mayWash x1 x2 m0 K) : CtI l yX6_mayWash cX6_mayWash 3 .boolean ({ frames := 1, cells := 0, slots := 0, locals := 22 }) G [.ref (ad 0), .int (x1), .int (x2)] (mwX ad m0 r) (KPI (mwX ad m0 r) K) :=
  CtI.of RX6 plain_X6 rfl (Nat.le_of_ble_eq_true rfl) (fun E hE _ _ hn hR hK => bX6_mayWash_0 hE hn hR hA hK hw)
theorem jdX6_mayWash : jD yX6_mayWash 2 := by decide +kernel
theorem lkX6_mayWash : GoodIn lw_all (wsV RX6 358 yX6_mayWash.cls yX6_mayWash (ws_ yX6_mayWash cX6_mayWash 3 (some .boolean))) := lw_V q1985 q1987 qs105 q129 q1988
def wX6_wash_0 (x1 : Int32) (m : MS) (K : Int32 → MS → Prop) : Prop :=
  ∀ m1 : MS, m1 = sF m 0 0 → (wX6_isPane x1 m1 (fun r2 => (r2 = 0 → (K ((-1)) m1)) ∧ (¬ r2 = 0 → (wX6_mayWash 0 x1 m1 (fun r4 => (¬ r4 = 0 → (wX6_keeps  m1 (fun  m6 => vp_in ((nI 18) + x1) 1518 ∧ (vp_in ((nI 18) + x1) 1518 ∧ (∀ m9 : MS, m9 = wA m6 11 ((nI 18) + x1) ((rd (gA m6 11) ((nI 18) + x1)) - 1) → (vp_in ((nI 18) + x1) 1518 ∧ (K (rd (gA m9 11) ((nI 18) + x1)) m9))))))) ∧ (r4 = 0 → (K ((-1)) m1)))))))
set_option maxRecDepth 100000 in
theorem bX6_wash_0 {E : jE} (hE : jOk E cX6_wash RX6) (hn : E.2.2.2.2 = 2) (hR : jRoom E 2 45) {ad : Nat → Nat} (hA : adOk ad) {r : GW} {b : Nat × Nat} {K : Int32 → MS → Prop} (hK : jRi E .int (KMI ad r K)) {x1 : Int32} {m : MS}  (hw : wX6_wash_0 x1 m K) : J E (mwX ad m r) b [(0, .ref (ad 0)), (1, .int (x1))] 0 [] := by
  unfold wX6_wash_0 at hw
  refine j_aload_n hE 0 dX6_wash_0 rfl rfl ?_
  refine j_iconst hE dX6_wash_1 kc_0 ?_
  refine jm_putF hE hA 0 0 (Nat.le_of_ble_eq_true rfl) q1647 rfl rfl (mset_0 _ _ _) rfl rfl dX6_wash_2 ?_
  refine j_wm (fun m1 e_m1 => ?_)
  have hw := hw m1 e_m1
  refine j_aload_n hE 0 dX6_wash_5 rfl rfl ?_
  refine j_iload_n hE 1 dX6_wash_6 rfl rfl ?_
  refine jm_pI hE hA hR (As := [.int (x1)]) (rest := []) (ctX6_isPane E.1.2.1 E.2.2.1 hA _ _ _  _ hw) rfl lkX6_isPane jdX6_isPane ⟨Nat.le_of_ble_eq_true rfl, Nat.le_of_ble_eq_true rfl⟩ rfl (Nat.le_of_ble_eq_true rfl) dX6_wash_7 (fun r2 hw => ?_)
  refine j_if_eq hE 22 dX6_wash_10 (by decide) (fun c3 => ?_) (fun c3 => ?_)
  · have hw := hw.1 c3
    refine j_iconst hE dX6_wash_22 kc_m1 ?_
    exact j_iret hE hK dX6_wash_23 rfl ⟨_, rfl, hw⟩
  · have hw := hw.2 c3
    refine j_aload_n hE 0 dX6_wash_13 rfl rfl ?_
    refine j_iconst hE dX6_wash_14 kc_0 ?_
    refine j_iload_n hE 1 dX6_wash_15 rfl rfl ?_
    refine jm_pI hE hA hR (As := [.int (0), .int (x1)]) (rest := []) (ctX6_mayWash E.1.2.1 E.2.2.1 hA _ _ _ _  _ hw) rfl lkX6_mayWash jdX6_mayWash ⟨Nat.le_of_ble_eq_true rfl, Nat.le_of_ble_eq_true rfl⟩ rfl (Nat.le_of_ble_eq_true rfl) dX6_wash_16 (fun r4 hw => ?_)
    refine j_if_ne hE 24 dX6_wash_19 (by decide) (fun c5 => ?_) (fun c5 => ?_)
    · have hw := hw.1 c5
      refine j_aload_n hE 0 dX6_wash_24 rfl rfl ?_
      refine jm_cV hE hA hR (As := []) (rest := []) (ctX6_keeps E.1.2.1 E.2.2.1 hA _ _  _ hw) rfl lkX6_keeps jdX6_keeps ⟨Nat.le_of_ble_eq_true rfl, Nat.le_of_ble_eq_true rfl⟩ rfl (Nat.le_of_ble_eq_true rfl) dX6_wash_25 (fun  m6 hw => ?_)
      refine j_aload_n hE 0 dX6_wash_28 rfl rfl ?_
      refine jm_get hE hA 24 (Nat.le_of_ble_eq_true rfl) q1671 rfl (v := .ref (ad 12)) rfl dX6_wash_29 ?_
      refine j_bipush hE dX6_wash_32 kb_18 ?_
      refine j_iload_n hE 1 dX6_wash_34 rfl rfl ?_
      refine j_iadd hE dX6_wash_35 ?_
      refine j_dup2 hE dX6_wash_36 rfl rfl ?_
      obtain ⟨h7, hw⟩ := hw
      refine jm_iald hE hA 11 (Nat.le_of_ble_eq_true rfl) h7 dX6_wash_37 ?_
      refine j_iconst hE dX6_wash_38 kc_1 ?_
      refine j_isub hE dX6_wash_39 ?_
      obtain ⟨h8, hw⟩ := hw
      refine jm_iast hE hA 11 (Nat.le_of_ble_eq_true rfl) h8 dX6_wash_40 ?_
      refine j_wm (fun m9 e_m9 => ?_)
      have hw := hw m9 e_m9
      refine j_aload_n hE 0 dX6_wash_41 rfl rfl ?_
      refine jm_get hE hA 24 (Nat.le_of_ble_eq_true rfl) q1671 rfl (v := .ref (ad 12)) rfl dX6_wash_42 ?_
      refine j_bipush hE dX6_wash_45 kb_18 ?_
      refine j_iload_n hE 1 dX6_wash_47 rfl rfl ?_
      refine j_iadd hE dX6_wash_48 ?_
      obtain ⟨h10, hw⟩ := hw
      refine jm_iald hE hA 11 (Nat.le_of_ble_eq_true rfl) h10 dX6_wash_49 ?_
      exact j_iret hE hK dX6_wash_50 rfl ⟨_, rfl, hw⟩
    · have hw := hw.2 c5
      refine j_iconst hE dX6_wash_22 kc_m1 ?_
      exact j_iret hE hK dX6_wash_23 rfl ⟨_, rfl, hw⟩
abbrev wX6_wash := wX6_wash_0
theorem ctX6_wash (l : Launch) (G : gG) {ad : Nat → Nat} (hA : adOk ad) (m0 : MS) (r : GW) (x1 : Int32) (K : Int32 → MS → Prop) (hw : wX6_wash x1 m0 K) : CtI l yX6_wash cX6_wash 2 .int ({ frames := 2, cells := 0, slots := 0, locals := 45 }) G [.ref (ad 0), .int (x1)] (mwX ad m0 r) (KMI ad r K) :=
  CtI.of RX6 plain_X6 rfl (Nat.le_of_ble_eq_true rfl) (fun E hE _ _ hn hR hK => bX6_wash_0 hE hn hR hA hK hw)
theorem jdX6_wash : jD yX6_wash 1 := by decide +kernel
def wX6_curtain_0 (x1 : Int32) (m : MS) (K : Int32 → MS → Prop) : Prop :=
  ∀ m1 : MS, m1 = sF m 0 0 → (wX6_isPane x1 m1 (fun r2 => (r2 = 0 → (K 0 m1)) ∧ (¬ r2 = 0 → (wX6_isWhole 0 x1 m1 (fun r4 => (¬ r4 = 0 → (wX6_keeps  m1 (fun  m6 => vp_in ((nI 6) + x1) 1518 ∧ (vp_in ((nI 6) + x1) 1518 ∧ (∀ m9 : MS, m9 = wA m6 11 ((nI 6) + x1) (1 - (rd (gA m6 11) ((nI 6) + x1))) → (K 1 m9)))))) ∧ (r4 = 0 → (K 0 m1)))))))
set_option maxRecDepth 100000 in
theorem bX6_curtain_0 {E : jE} (hE : jOk E cX6_curtain RX6) (hn : E.2.2.2.2 = 2) (hR : jRoom E 2 45) {ad : Nat → Nat} (hA : adOk ad) {r : GW} {b : Nat × Nat} {K : Int32 → MS → Prop} (hK : jRi E .boolean (KMI ad r K)) {x1 : Int32} {m : MS}  (hw : wX6_curtain_0 x1 m K) : J E (mwX ad m r) b [(0, .ref (ad 0)), (1, .int (x1))] 0 [] := by
  unfold wX6_curtain_0 at hw
  refine j_aload_n hE 0 dX6_curtain_0 rfl rfl ?_
  refine j_iconst hE dX6_curtain_1 kc_0 ?_
  refine jm_putF hE hA 0 0 (Nat.le_of_ble_eq_true rfl) q1647 rfl rfl (mset_0 _ _ _) rfl rfl dX6_curtain_2 ?_
  refine j_wm (fun m1 e_m1 => ?_)
  have hw := hw m1 e_m1
  refine j_aload_n hE 0 dX6_curtain_5 rfl rfl ?_
  refine j_iload_n hE 1 dX6_curtain_6 rfl rfl ?_
  refine jm_pI hE hA hR (As := [.int (x1)]) (rest := []) (ctX6_isPane E.1.2.1 E.2.2.1 hA _ _ _  _ hw) rfl lkX6_isPane jdX6_isPane ⟨Nat.le_of_ble_eq_true rfl, Nat.le_of_ble_eq_true rfl⟩ rfl (Nat.le_of_ble_eq_true rfl) dX6_curtain_7 (fun r2 hw => ?_)
  refine j_if_eq hE 22 dX6_curtain_10 (by decide) (fun c3 => ?_) (fun c3 => ?_)
  · have hw := hw.1 c3
    refine j_iconst hE dX6_curtain_22 kc_0 ?_
    exact j_iret hE hK dX6_curtain_23 rfl ⟨_, rfl, hw⟩
  · have hw := hw.2 c3
    refine j_aload_n hE 0 dX6_curtain_13 rfl rfl ?_
    refine j_iconst hE dX6_curtain_14 kc_0 ?_
    refine j_iload_n hE 1 dX6_curtain_15 rfl rfl ?_
    refine jm_pI hE hA hR (As := [.int (0), .int (x1)]) (rest := []) (ctX6_isWhole E.1.2.1 E.2.2.1 hA _ _ _ _  _ hw) rfl lkX6_isWhole jdX6_isWhole ⟨Nat.le_of_ble_eq_true rfl, Nat.le_of_ble_eq_true rfl⟩ rfl (Nat.le_of_ble_eq_true rfl) dX6_curtain_16 (fun r4 hw => ?_)
    refine j_if_ne hE 24 dX6_curtain_19 (by decide) (fun c5 => ?_) (fun c5 => ?_)
    · have hw := hw.1 c5
      refine j_aload_n hE 0 dX6_curtain_24 rfl rfl ?_
      refine jm_cV hE hA hR (As := []) (rest := []) (ctX6_keeps E.1.2.1 E.2.2.1 hA _ _  _ hw) rfl lkX6_keeps jdX6_keeps ⟨Nat.le_of_ble_eq_true rfl, Nat.le_of_ble_eq_true rfl⟩ rfl (Nat.le_of_ble_eq_true rfl) dX6_curtain_25 (fun  m6 hw => ?_)
      refine j_aload_n hE 0 dX6_curtain_28 rfl rfl ?_
      refine jm_get hE hA 24 (Nat.le_of_ble_eq_true rfl) q1671 rfl (v := .ref (ad 12)) rfl dX6_curtain_29 ?_
      refine j_bipush hE dX6_curtain_32 kb_6 ?_
      refine j_iload_n hE 1 dX6_curtain_34 rfl rfl ?_
      refine j_iadd hE dX6_curtain_35 ?_
      refine j_iconst hE dX6_curtain_36 kc_1 ?_
      refine j_aload_n hE 0 dX6_curtain_37 rfl rfl ?_
      refine jm_get hE hA 24 (Nat.le_of_ble_eq_true rfl) q1671 rfl (v := .ref (ad 12)) rfl dX6_curtain_38 ?_
      refine j_bipush hE dX6_curtain_41 kb_6 ?_
      refine j_iload_n hE 1 dX6_curtain_43 rfl rfl ?_
      refine j_iadd hE dX6_curtain_44 ?_
      obtain ⟨h7, hw⟩ := hw
      refine jm_iald hE hA 11 (Nat.le_of_ble_eq_true rfl) h7 dX6_curtain_45 ?_
      refine j_isub hE dX6_curtain_46 ?_
      obtain ⟨h8, hw⟩ := hw
      refine jm_iast hE hA 11 (Nat.le_of_ble_eq_true rfl) h8 dX6_curtain_47 ?_
      refine j_wm (fun m9 e_m9 => ?_)
      have hw := hw m9 e_m9
      refine j_iconst hE dX6_curtain_48 kc_1 ?_
      exact j_iret hE hK dX6_curtain_49 rfl ⟨_, rfl, hw⟩
    · have hw := hw.2 c5
      refine j_iconst hE dX6_curtain_22 kc_0 ?_
      exact j_iret hE hK dX6_curtain_23 rfl ⟨_, rfl, hw⟩
abbrev wX6_curtain := wX6_curtain_0
theorem ctX6_curtain (l : Launch) (G : gG) {ad : Nat → Nat} (hA : adOk ad) (m0 : MS) (r : GW) (x1 : Int32) (K : Int32 → MS → Prop) (hw : wX6_curtain x1 m0 K) : CtI l yX6_curtain cX6_curtain 2 .boolean ({ frames := 2, cells := 0, slots := 0, locals := 45 }) G [.ref (ad 0), .int (x1)] (mwX ad m0 r) (KMI ad r K) :=
  CtI.of RX6 plain_X6 rfl (Nat.le_of_ble_eq_true rfl) (fun E hE _ _ hn hR hK => bX6_curtain_0 hE hn hR hA hK hw)
theorem jdX6_curtain : jD yX6_curtain 1 := by decide +kernel
def wX6_stone_0 (x1 : Int32) (m : MS) (K : Int32 → MS → Prop) : Prop :=
  ∀ m1 : MS, m1 = sF m 0 0 → (wX6_isPane x1 m1 (fun r2 => (r2 = 0 → (K 0 m1)) ∧ (¬ r2 = 0 → (wX6_isWhole 0 x1 m1 (fun r4 => (¬ r4 = 0 → (wX6_keeps  m1 (fun  m6 => vp_in ((nI 12) + x1) 1518 ∧ (∀ m8 : MS, m8 = wA m6 11 ((nI 12) + x1) 1 → (K 1 m8))))) ∧ (r4 = 0 → (K 0 m1)))))))
set_option maxRecDepth 100000 in
theorem bX6_stone_0 {E : jE} (hE : jOk E cX6_stone RX6) (hn : E.2.2.2.2 = 2) (hR : jRoom E 2 45) {ad : Nat → Nat} (hA : adOk ad) {r : GW} {b : Nat × Nat} {K : Int32 → MS → Prop} (hK : jRi E .boolean (KMI ad r K)) {x1 : Int32} {m : MS}  (hw : wX6_stone_0 x1 m K) : J E (mwX ad m r) b [(0, .ref (ad 0)), (1, .int (x1))] 0 [] := by
  unfold wX6_stone_0 at hw
  refine j_aload_n hE 0 dX6_stone_0 rfl rfl ?_
  refine j_iconst hE dX6_stone_1 kc_0 ?_
  refine jm_putF hE hA 0 0 (Nat.le_of_ble_eq_true rfl) q1647 rfl rfl (mset_0 _ _ _) rfl rfl dX6_stone_2 ?_
  refine j_wm (fun m1 e_m1 => ?_)
  have hw := hw m1 e_m1
  refine j_aload_n hE 0 dX6_stone_5 rfl rfl ?_
  refine j_iload_n hE 1 dX6_stone_6 rfl rfl ?_
  refine jm_pI hE hA hR (As := [.int (x1)]) (rest := []) (ctX6_isPane E.1.2.1 E.2.2.1 hA _ _ _  _ hw) rfl lkX6_isPane jdX6_isPane ⟨Nat.le_of_ble_eq_true rfl, Nat.le_of_ble_eq_true rfl⟩ rfl (Nat.le_of_ble_eq_true rfl) dX6_stone_7 (fun r2 hw => ?_)
  refine j_if_eq hE 22 dX6_stone_10 (by decide) (fun c3 => ?_) (fun c3 => ?_)
  · have hw := hw.1 c3
    refine j_iconst hE dX6_stone_22 kc_0 ?_
    exact j_iret hE hK dX6_stone_23 rfl ⟨_, rfl, hw⟩
  · have hw := hw.2 c3
    refine j_aload_n hE 0 dX6_stone_13 rfl rfl ?_
    refine j_iconst hE dX6_stone_14 kc_0 ?_
    refine j_iload_n hE 1 dX6_stone_15 rfl rfl ?_
    refine jm_pI hE hA hR (As := [.int (0), .int (x1)]) (rest := []) (ctX6_isWhole E.1.2.1 E.2.2.1 hA _ _ _ _  _ hw) rfl lkX6_isWhole jdX6_isWhole ⟨Nat.le_of_ble_eq_true rfl, Nat.le_of_ble_eq_true rfl⟩ rfl (Nat.le_of_ble_eq_true rfl) dX6_stone_16 (fun r4 hw => ?_)
    refine j_if_ne hE 24 dX6_stone_19 (by decide) (fun c5 => ?_) (fun c5 => ?_)
    · have hw := hw.1 c5
      refine j_aload_n hE 0 dX6_stone_24 rfl rfl ?_
      refine jm_cV hE hA hR (As := []) (rest := []) (ctX6_keeps E.1.2.1 E.2.2.1 hA _ _  _ hw) rfl lkX6_keeps jdX6_keeps ⟨Nat.le_of_ble_eq_true rfl, Nat.le_of_ble_eq_true rfl⟩ rfl (Nat.le_of_ble_eq_true rfl) dX6_stone_25 (fun  m6 hw => ?_)
      refine j_aload_n hE 0 dX6_stone_28 rfl rfl ?_
      refine jm_get hE hA 24 (Nat.le_of_ble_eq_true rfl) q1671 rfl (v := .ref (ad 12)) rfl dX6_stone_29 ?_
      refine j_bipush hE dX6_stone_32 kb_12 ?_
      refine j_iload_n hE 1 dX6_stone_34 rfl rfl ?_
      refine j_iadd hE dX6_stone_35 ?_
      refine j_iconst hE dX6_stone_36 kc_1 ?_
      obtain ⟨h7, hw⟩ := hw
      refine jm_iast hE hA 11 (Nat.le_of_ble_eq_true rfl) h7 dX6_stone_37 ?_
      refine j_wm (fun m8 e_m8 => ?_)
      have hw := hw m8 e_m8
      refine j_iconst hE dX6_stone_38 kc_1 ?_
      exact j_iret hE hK dX6_stone_39 rfl ⟨_, rfl, hw⟩
    · have hw := hw.2 c5
      refine j_iconst hE dX6_stone_22 kc_0 ?_
      exact j_iret hE hK dX6_stone_23 rfl ⟨_, rfl, hw⟩
abbrev wX6_stone := wX6_stone_0
theorem ctX6_stone (l : Launch) (G : gG) {ad : Nat → Nat} (hA : adOk ad) (m0 : MS) (r : GW) (x1 : Int32) (K : Int32 → MS → Prop) (hw : wX6_stone x1 m0 K) : CtI l yX6_stone cX6_stone 2 .boolean ({ frames := 2, cells := 0, slots := 0, locals := 45 }) G [.ref (ad 0), .int (x1)] (mwX ad m0 r) (KMI ad r K) :=
  CtI.of RX6 plain_X6 rfl (Nat.le_of_ble_eq_true rfl) (fun E hE _ _ hn hR hK => bX6_stone_0 hE hn hR hA hK hw)
theorem jdX6_stone : jD yX6_stone 1 := by decide +kernel
def wX6_both_0 (x0 : Int32) (x1 : Int32) (x2 : Int32) (K : Int32 → Prop) : Prop :=
  (x0 = nI 4 → (K (x1 + x2))) ∧ (¬ x0 = nI 4 → (x0 = nI 5 → (K (x1 - x2))) ∧ (¬ x0 = nI 5 → (x0 = nI 6 → (K (x1 * x2))) ∧ (¬ x0 = nI 6 → (x0 = nI 7 → ((x2 ≤ x1 → (K 0)) ∧ (¬ x2 ≤ x1 → (K 1)))) ∧ (¬ x0 = nI 7 → (x0 = nI 8 → ((¬ x1 = x2 → (K 0)) ∧ (x1 = x2 → (K 1)))) ∧ (¬ x0 = nI 8 → (x0 = nI 9 → ((x1 = 0 → (K 0)) ∧ (¬ x1 = 0 → ((x2 = 0 → (K 0)) ∧ (¬ x2 = 0 → (K 1)))))) ∧ (¬ x0 = nI 9 → ((¬ x1 = 0 → (K 1)) ∧ (x1 = 0 → ((x2 = 0 → (K 0)) ∧ (¬ x2 = 0 → (K 1)))))))))))
set_option maxRecDepth 100000 in
theorem bX6_both_0 {E : jE} (hE : jOk E cX6_both RX6) (hn : E.2.2.2.2 = 3) (hR : jRoom E 0 0) {w : GW} {b : Nat × Nat} {K : Int32 → Prop} (hK : jRi E .int (KPI w K)) {x0 : Int32} {x1 : Int32} {x2 : Int32}  (hw : wX6_both_0 x0 x1 x2 K) : J E w b [(0, .int (x0)), (1, .int (x1)), (2, .int (x2))] 0 [] := by
  unfold wX6_both_0 at hw
  refine j_iload_n hE 0 dX6_both_0 rfl rfl ?_
  by_cases c1 : x0 = nI 4
  · have hw := hw.1 c1
    refine j_tin hE 40 dX6_both_1 (by rw [c1]; decide) (by rw [c1]; decide) (by rw [c1]; rfl) (by decide) ?_
    refine j_iload_n hE 1 dX6_both_40 rfl rfl ?_
    refine j_iload_n hE 2 dX6_both_41 rfl rfl ?_
    refine j_iadd hE dX6_both_42 ?_
    exact j_iret hE hK dX6_both_43 rfl ⟨rfl, hw⟩
  replace hw := hw.2 c1
  by_cases c2 : x0 = nI 5
  · have hw := hw.1 c2
    refine j_tin hE 44 dX6_both_1 (by rw [c2]; decide) (by rw [c2]; decide) (by rw [c2]; rfl) (by decide) ?_
    refine j_iload_n hE 1 dX6_both_44 rfl rfl ?_
    refine j_iload_n hE 2 dX6_both_45 rfl rfl ?_
    refine j_isub hE dX6_both_46 ?_
    exact j_iret hE hK dX6_both_47 rfl ⟨rfl, hw⟩
  replace hw := hw.2 c2
  by_cases c3 : x0 = nI 6
  · have hw := hw.1 c3
    refine j_tin hE 48 dX6_both_1 (by rw [c3]; decide) (by rw [c3]; decide) (by rw [c3]; rfl) (by decide) ?_
    refine j_iload_n hE 1 dX6_both_48 rfl rfl ?_
    refine j_iload_n hE 2 dX6_both_49 rfl rfl ?_
    refine j_imul hE dX6_both_50 ?_
    exact j_iret hE hK dX6_both_51 rfl ⟨rfl, hw⟩
  replace hw := hw.2 c3
  by_cases c4 : x0 = nI 7
  · have hw := hw.1 c4
    refine j_tin hE 52 dX6_both_1 (by rw [c4]; decide) (by rw [c4]; decide) (by rw [c4]; rfl) (by decide) ?_
    refine j_iload_n hE 1 dX6_both_52 rfl rfl ?_
    refine j_iload_n hE 2 dX6_both_53 rfl rfl ?_
    refine j_icmp_ge hE 61 dX6_both_54 (by decide) (fun c5 => ?_) (fun c5 => ?_)
    · have hw := hw.1 c5
      refine j_iconst hE dX6_both_61 kc_0 ?_
      exact j_iret hE hK dX6_both_62 rfl ⟨rfl, hw⟩
    · have hw := hw.2 c5
      refine j_iconst hE dX6_both_57 kc_1 ?_
      refine j_goto hE 62 dX6_both_58 (by decide) ?_
      exact j_iret hE hK dX6_both_62 rfl ⟨rfl, hw⟩
  replace hw := hw.2 c4
  by_cases c6 : x0 = nI 8
  · have hw := hw.1 c6
    refine j_tin hE 63 dX6_both_1 (by rw [c6]; decide) (by rw [c6]; decide) (by rw [c6]; rfl) (by decide) ?_
    refine j_iload_n hE 1 dX6_both_63 rfl rfl ?_
    refine j_iload_n hE 2 dX6_both_64 rfl rfl ?_
    refine j_icmp_ne hE 72 dX6_both_65 (by decide) (fun c7 => ?_) (fun c7 => ?_)
    · have hw := hw.1 c7
      refine j_iconst hE dX6_both_72 kc_0 ?_
      exact j_iret hE hK dX6_both_73 rfl ⟨rfl, hw⟩
    · have hw := hw.2 c7
      refine j_iconst hE dX6_both_68 kc_1 ?_
      refine j_goto hE 73 dX6_both_69 (by decide) ?_
      exact j_iret hE hK dX6_both_73 rfl ⟨rfl, hw⟩
  replace hw := hw.2 c6
  by_cases c8 : x0 = nI 9
  · have hw := hw.1 c8
    refine j_tin hE 74 dX6_both_1 (by rw [c8]; decide) (by rw [c8]; decide) (by rw [c8]; rfl) (by decide) ?_
    refine j_iload_n hE 1 dX6_both_74 rfl rfl ?_
    refine j_if_eq hE 86 dX6_both_75 (by decide) (fun c9 => ?_) (fun c9 => ?_)
    · have hw := hw.1 c9
      refine j_iconst hE dX6_both_86 kc_0 ?_
      exact j_iret hE hK dX6_both_87 rfl ⟨rfl, hw⟩
    · have hw := hw.2 c9
      refine j_iload_n hE 2 dX6_both_78 rfl rfl ?_
      refine j_if_eq hE 86 dX6_both_79 (by decide) (fun c10 => ?_) (fun c10 => ?_)
      · have hw := hw.1 c10
        refine j_iconst hE dX6_both_86 kc_0 ?_
        exact j_iret hE hK dX6_both_87 rfl ⟨rfl, hw⟩
      · have hw := hw.2 c10
        refine j_iconst hE dX6_both_82 kc_1 ?_
        refine j_goto hE 87 dX6_both_83 (by decide) ?_
        exact j_iret hE hK dX6_both_87 rfl ⟨rfl, hw⟩
  replace hw := hw.2 c8
  refine j_tout hE 88 dX6_both_1 (tsw_out x0 (4) (9) (fun k h1 h2 => ?_)) (by decide) ?_
  · rcases (show k = 4 ∨ k = 5 ∨ k = 6 ∨ k = 7 ∨ k = 8 ∨ k = 9 by omega) with rfl | rfl | rfl | rfl | rfl | rfl
    · exact tsw_ne _ _ _ (by decide) c1
    · exact tsw_ne _ _ _ (by decide) c2
    · exact tsw_ne _ _ _ (by decide) c3
    · exact tsw_ne _ _ _ (by decide) c4
    · exact tsw_ne _ _ _ (by decide) c6
    · exact tsw_ne _ _ _ (by decide) c8
  refine j_iload_n hE 1 dX6_both_88 rfl rfl ?_
  refine j_if_ne hE 96 dX6_both_89 (by decide) (fun c11 => ?_) (fun c11 => ?_)
  · have hw := hw.1 c11
    refine j_iconst hE dX6_both_96 kc_1 ?_
    refine j_goto hE 101 dX6_both_97 (by decide) ?_
    exact j_iret hE hK dX6_both_101 rfl ⟨rfl, hw⟩
  · have hw := hw.2 c11
    refine j_iload_n hE 2 dX6_both_92 rfl rfl ?_
    refine j_if_eq hE 100 dX6_both_93 (by decide) (fun c12 => ?_) (fun c12 => ?_)
    · have hw := hw.1 c12
      refine j_iconst hE dX6_both_100 kc_0 ?_
      exact j_iret hE hK dX6_both_101 rfl ⟨rfl, hw⟩
    · have hw := hw.2 c12
      refine j_iconst hE dX6_both_96 kc_1 ?_
      refine j_goto hE 101 dX6_both_97 (by decide) ?_
      exact j_iret hE hK dX6_both_101 rfl ⟨rfl, hw⟩
abbrev wX6_both := wX6_both_0
theorem ctX6_both (l : Launch) (G : gG) (w : GW) (x0 : Int32) (x1 : Int32) (x2 : Int32) (K : Int32 → Prop) (hw : wX6_both x0 x1 x2 K) : CtI l yX6_both cX6_both 3 .int ({ frames := 0, cells := 0, slots := 0, locals := 0 }) G [.int (x0), .int (x1), .int (x2)] w (KPI w K) :=
  CtI.of RX6 plain_X6 rfl (Nat.le_of_ble_eq_true rfl) (fun E hE _ _ hn hR hK => bX6_both_0 hE hn hR hK hw)
theorem jdX6_both : jD yX6_both 3 := by decide +kernel
theorem lkX6_both : GoodIn lw_all (va_wsS RX6 262 yX6_both (ws_ yX6_both cX6_both 3 (some .int))) := lw_S q2013 q2014 q129 q2015
def wX6_worthAt_33 (x2 : Int32) (x3 : Int32) (x4 : Int32) (m : MS) (KL4 : Int32 × Int32 × MS → Prop) (K : Int32 → MS → Prop) : Prop :=
  (¬ x4 = 1 → (vp_in x3 2200 ∧ (vp_in (rd (gA m 5) x3) 4 ∧ (vp_in x2 1100 ∧ (∀ m5 : MS, m5 = wA m 10 x2 (rd (gA m 9) (rd (gA m 5) x3)) → (KL4 (x2 + 1, x3 + 1, m5))))))) ∧ (x4 = 1 → (vp_in x3 2200 ∧ (vp_in x2 1100 ∧ (∀ m8 : MS, m8 = wA m 10 x2 (rd (gA m 5) x3) → (KL4 (x2 + 1, x3 + 1, m8))))))
set_option maxRecDepth 100000 in
theorem bX6_worthAt_33 {E : jE} (hE : jOk E cX6_worthAt RX6) (hn : E.2.2.2.2 = 5) (hR : jRoom E 1 22) {ad : Nat → Nat} (hA : adOk ad) {r : GW} {b : Nat × Nat} {K : Int32 → MS → Prop} (hK : jRi E .int (KMI ad r K)) {x2 : Int32} {x3 : Int32} {x4 : Int32} {m : MS} {KL4 : Int32 × Int32 × MS → Prop} (ih4 : ∀ s : Int32 × Int32 × MS, KL4 s → J E (mwX ad (s.2.2) r) b [(0, .ref (ad 0)), (2, .int (s.1)), (3, .int (s.2.1))] 4 []) (hw : wX6_worthAt_33 x2 x3 x4 m KL4 K) : J E (mwX ad m r) b [(0, .ref (ad 0)), (2, .int (x2)), (3, .int (x3)), (4, .int (x4))] 33 [] := by
  unfold wX6_worthAt_33 at hw
  refine j_aload_n hE 0 dX6_worthAt_33 rfl rfl ?_
  refine jm_get hE hA 23 (Nat.le_of_ble_eq_true rfl) q1670 rfl (v := .ref (ad 11)) rfl dX6_worthAt_34 ?_
  refine j_iload_n hE 1 dX6_worthAt_37 rfl rfl ?_
  refine j_iload hE 3 dX6_worthAt_38 rfl ?_
  refine j_iconst hE dX6_worthAt_40 kc_1 ?_
  refine j_icmp_ne hE 53 dX6_worthAt_41 (by decide) (fun c1 => ?_) (fun c1 => ?_)
  · have hw := hw.1 c1
    refine j_aload_n hE 0 dX6_worthAt_53 rfl rfl ?_
    refine jm_get hE hA 22 (Nat.le_of_ble_eq_true rfl) q1669 rfl (v := .ref (ad 10)) rfl dX6_worthAt_54 ?_
    refine j_aload_n hE 0 dX6_worthAt_57 rfl rfl ?_
    refine jm_get hE hA 12 (Nat.le_of_ble_eq_true rfl) q1659 rfl (v := .ref (ad 6)) rfl dX6_worthAt_58 ?_
    refine j_iload_n hE 2 dX6_worthAt_61 rfl rfl ?_
    obtain ⟨h2, hw⟩ := hw
    refine jm_iald hE hA 5 (Nat.le_of_ble_eq_true rfl) h2 dX6_worthAt_62 ?_
    obtain ⟨h3, hw⟩ := hw
    refine jm_iald hE hA 9 (Nat.le_of_ble_eq_true rfl) h3 dX6_worthAt_63 ?_
    obtain ⟨h4, hw⟩ := hw
    refine jm_iast hE hA 10 (Nat.le_of_ble_eq_true rfl) h4 dX6_worthAt_64 ?_
    refine j_wm (fun m5 e_m5 => ?_)
    have hw := hw m5 e_m5
    refine j_iinc (L' := [(2, .int (x2 + 1)), (0, .ref (ad 0)), (3, .int (x3)), (4, .int (x4))]) hE hn 1 dX6_worthAt_65 rfl (congrArg (x2 + ·) kc_1) (Nat.le_of_ble_eq_true rfl) rfl ?_
    refine j_goto hE 134 dX6_worthAt_68 (by decide) ?_
    refine j_iinc (L' := [(3, .int (x3 + 1)), (2, .int (x2 + 1)), (0, .ref (ad 0)), (4, .int (x4))]) hE hn 2 dX6_worthAt_134 rfl (congrArg (x3 + ·) kc_1) (Nat.le_of_ble_eq_true rfl) rfl ?_
    refine j_goto hE 4 dX6_worthAt_137 (by decide) ?_
    refine j_sub [(0, .ref (ad 0)), (2, .int (x2 + 1)), (3, .int (x3 + 1))] [2, 1, 0] rfl ?_
    have hz := ih4 (x2 + 1, x3 + 1, m5) hw
    exact hz
  · have hw := hw.2 c1
    refine j_aload_n hE 0 dX6_worthAt_44 rfl rfl ?_
    refine jm_get hE hA 12 (Nat.le_of_ble_eq_true rfl) q1659 rfl (v := .ref (ad 6)) rfl dX6_worthAt_45 ?_
    refine j_iload_n hE 2 dX6_worthAt_48 rfl rfl ?_
    obtain ⟨h6, hw⟩ := hw
    refine jm_iald hE hA 5 (Nat.le_of_ble_eq_true rfl) h6 dX6_worthAt_49 ?_
    refine j_goto hE 64 dX6_worthAt_50 (by decide) ?_
    obtain ⟨h7, hw⟩ := hw
    refine jm_iast hE hA 10 (Nat.le_of_ble_eq_true rfl) h7 dX6_worthAt_64 ?_
    refine j_wm (fun m8 e_m8 => ?_)
    have hw := hw m8 e_m8
    refine j_iinc (L' := [(2, .int (x2 + 1)), (0, .ref (ad 0)), (3, .int (x3)), (4, .int (x4))]) hE hn 1 dX6_worthAt_65 rfl (congrArg (x2 + ·) kc_1) (Nat.le_of_ble_eq_true rfl) rfl ?_
    refine j_goto hE 134 dX6_worthAt_68 (by decide) ?_
    refine j_iinc (L' := [(3, .int (x3 + 1)), (2, .int (x2 + 1)), (0, .ref (ad 0)), (4, .int (x4))]) hE hn 2 dX6_worthAt_134 rfl (congrArg (x3 + ·) kc_1) (Nat.le_of_ble_eq_true rfl) rfl ?_
    refine j_goto hE 4 dX6_worthAt_137 (by decide) ?_
    refine j_sub [(0, .ref (ad 0)), (2, .int (x2 + 1)), (3, .int (x3 + 1))] [2, 1, 0] rfl ?_
    have hz := ih4 (x2 + 1, x3 + 1, m8) hw
    exact hz
def wX6_worthAt_4_b (x2 : Int32) (x3 : Int32) (m : MS) (KL4 : Int32 × Int32 × MS → Prop) (K : Int32 → MS → Prop) : Prop :=
  vp_in x3 2200 ∧ (((rd (gA m 4) x3) = 0 → (vp_in 0 1100 ∧ (K (rd (gA m 10) 0) m))) ∧ (¬ (rd (gA m 4) x3) = 0 → (vp_in x3 2200 ∧ (∀ v5 : Int32, v5 = rd (gA m 4) x3 → ((v5 = 1 → (wX6_worthAt_33 x2 x3 v5 m KL4 K)) ∧ (¬ v5 = 1 → ((¬ v5 = (nI 2) → ((¬ v5 = (nI 3) → (vp_in ((x2 + (-1)) - 1) 1100 ∧ (vp_in (x2 + (-1)) 1100 ∧ (wX6_both v5 (rd (gA m 10) ((x2 + (-1)) - 1)) (rd (gA m 10) (x2 + (-1))) (fun r11 => vp_in ((x2 + (-1)) - 1) 1100 ∧ (∀ m13 : MS, m13 = wA m 10 ((x2 + (-1)) - 1) r11 → (KL4 (x2 + (-1), x3 + 1, m13)))))))) ∧ (v5 = (nI 3) → (vp_in (x2 - 1) 1100 ∧ ((¬ (rd (gA m 10) (x2 - 1)) = 0 → (vp_in (x2 - 1) 1100 ∧ (∀ m17 : MS, m17 = wA m 10 (x2 - 1) 0 → (KL4 (x2, x3 + 1, m17))))) ∧ ((rd (gA m 10) (x2 - 1)) = 0 → (vp_in (x2 - 1) 1100 ∧ (∀ m19 : MS, m19 = wA m 10 (x2 - 1) 1 → (KL4 (x2, x3 + 1, m19)))))))))) ∧ (v5 = (nI 2) → (wX6_worthAt_33 x2 x3 v5 m KL4 K)))))))))
def wX6_worthAt_4 (x2 : Int32) (x3 : Int32) (m : MS) (K : Int32 → MS → Prop) : Prop := lfp (σ := Int32 × Int32 × MS) (fun KL s => wX6_worthAt_4_b s.1 s.2.1 s.2.2 KL K) (x2, x3, m)
set_option maxRecDepth 100000 in
theorem bX6_worthAt_4 {E : jE} (hE : jOk E cX6_worthAt RX6) (hn : E.2.2.2.2 = 5) (hR : jRoom E 1 22) {ad : Nat → Nat} (hA : adOk ad) {r : GW} {b : Nat × Nat} {K : Int32 → MS → Prop} (hK : jRi E .int (KMI ad r K)) {x2 : Int32} {x3 : Int32} {m : MS}  (hw : wX6_worthAt_4 x2 x3 m K) : J E (mwX ad m r) b [(0, .ref (ad 0)), (2, .int (x2)), (3, .int (x3))] 4 [] := by
  refine lfp_sound (σ := Int32 × Int32 × MS) (F := fun KL s => wX6_worthAt_4_b s.1 s.2.1 s.2.2 KL K) (P := fun s => J E (mwX ad (s.2.2) r) b [(0, .ref (ad 0)), (2, .int (s.1)), (3, .int (s.2.1))] 4 []) ?_ hw
  clear hw
  rintro KL4 ⟨x2, x3, m⟩ hw ih4
  have hw : wX6_worthAt_4_b x2 x3 m KL4 K := hw
  unfold wX6_worthAt_4_b at hw
  refine j_aload_n hE 0 dX6_worthAt_4 rfl rfl ?_
  refine jm_get hE hA 11 (Nat.le_of_ble_eq_true rfl) q1658 rfl (v := .ref (ad 5)) rfl dX6_worthAt_5 ?_
  refine j_iload_n hE 2 dX6_worthAt_8 rfl rfl ?_
  obtain ⟨h1, hw⟩ := hw
  refine jm_iald hE hA 4 (Nat.le_of_ble_eq_true rfl) h1 dX6_worthAt_9 ?_
  refine j_if_eq hE 140 dX6_worthAt_10 (by decide) (fun c2 => ?_) (fun c2 => ?_)
  · have hw := hw.1 c2
    refine j_aload_n hE 0 dX6_worthAt_140 rfl rfl ?_
    refine jm_get hE hA 23 (Nat.le_of_ble_eq_true rfl) q1670 rfl (v := .ref (ad 11)) rfl dX6_worthAt_141 ?_
    refine j_iconst hE dX6_worthAt_144 kc_0 ?_
    obtain ⟨h3, hw⟩ := hw
    refine jm_iald hE hA 10 (Nat.le_of_ble_eq_true rfl) h3 dX6_worthAt_145 ?_
    exact j_iret hE hK dX6_worthAt_146 rfl ⟨_, rfl, hw⟩
  · have hw := hw.2 c2
    refine j_aload_n hE 0 dX6_worthAt_13 rfl rfl ?_
    refine jm_get hE hA 11 (Nat.le_of_ble_eq_true rfl) q1658 rfl (v := .ref (ad 5)) rfl dX6_worthAt_14 ?_
    refine j_iload_n hE 2 dX6_worthAt_17 rfl rfl ?_
    obtain ⟨h4, hw⟩ := hw
    refine jm_iald hE hA 4 (Nat.le_of_ble_eq_true rfl) h4 dX6_worthAt_18 ?_
    refine j_topi (fun v5 e_v5 => ?_)
    have hw := hw v5 e_v5
    refine j_istore (L' := [(4, .int (v5)), (0, .ref (ad 0)), (2, .int (x2)), (3, .int (x3))]) hE hn dX6_worthAt_19 (Nat.le_of_ble_eq_true rfl) rfl ?_
    refine j_iload hE 0 dX6_worthAt_21 rfl ?_
    refine j_iconst hE dX6_worthAt_23 kc_1 ?_
    refine j_icmp_eq hE 33 dX6_worthAt_24 (by decide) (fun c6 => ?_) (fun c6 => ?_)
    · have hw := hw.1 c6
      refine j_sub [(0, .ref (ad 0)), (2, .int (x2)), (3, .int (x3)), (4, .int (v5))] [1, 2, 3, 0] rfl ?_
      exact bX6_worthAt_33 hE hn hR hA hK ih4 hw
    · have hw := hw.2 c6
      refine j_iload hE 0 dX6_worthAt_27 rfl ?_
      refine j_iconst hE dX6_worthAt_29 kc_2 ?_
      refine j_icmp_ne hE 71 dX6_worthAt_30 (by decide) (fun c7 => ?_) (fun c7 => ?_)
      · have hw := hw.1 c7
        refine j_iload hE 0 dX6_worthAt_71 rfl ?_
        refine j_iconst hE dX6_worthAt_73 kc_3 ?_
        refine j_icmp_ne hE 104 dX6_worthAt_74 (by decide) (fun c8 => ?_) (fun c8 => ?_)
        · have hw := hw.1 c8
          refine j_iinc (L' := [(2, .int (x2 + (-1))), (4, .int (v5)), (0, .ref (ad 0)), (3, .int (x3))]) hE hn 2 dX6_worthAt_104 rfl (congrArg (x2 + ·) kc_m1) (Nat.le_of_ble_eq_true rfl) rfl ?_
          refine j_aload_n hE 2 dX6_worthAt_107 rfl rfl ?_
          refine jm_get hE hA 23 (Nat.le_of_ble_eq_true rfl) q1670 rfl (v := .ref (ad 11)) rfl dX6_worthAt_108 ?_
          refine j_iload_n hE 0 dX6_worthAt_111 rfl rfl ?_
          refine j_iconst hE dX6_worthAt_112 kc_1 ?_
          refine j_isub hE dX6_worthAt_113 ?_
          refine j_iload hE 1 dX6_worthAt_114 rfl ?_
          refine j_aload_n hE 2 dX6_worthAt_116 rfl rfl ?_
          refine jm_get hE hA 23 (Nat.le_of_ble_eq_true rfl) q1670 rfl (v := .ref (ad 11)) rfl dX6_worthAt_117 ?_
          refine j_iload_n hE 0 dX6_worthAt_120 rfl rfl ?_
          refine j_iconst hE dX6_worthAt_121 kc_1 ?_
          refine j_isub hE dX6_worthAt_122 ?_
          obtain ⟨h9, hw⟩ := hw
          refine jm_iald hE hA 10 (Nat.le_of_ble_eq_true rfl) h9 dX6_worthAt_123 ?_
          refine j_aload_n hE 2 dX6_worthAt_124 rfl rfl ?_
          refine jm_get hE hA 23 (Nat.le_of_ble_eq_true rfl) q1670 rfl (v := .ref (ad 11)) rfl dX6_worthAt_125 ?_
          refine j_iload_n hE 0 dX6_worthAt_128 rfl rfl ?_
          obtain ⟨h10, hw⟩ := hw
          refine jm_iald hE hA 10 (Nat.le_of_ble_eq_true rfl) h10 dX6_worthAt_129 ?_
          refine j_psI hE hR (As := [.int (v5), .int (rd (gA m 10) ((x2 + (-1)) - 1)), .int (rd (gA m 10) (x2 + (-1)))]) (rest := [.int ((x2 + (-1)) - 1), .ref (ad 11)]) (ctX6_both E.1.2.1 E.2.2.1 _ _ _ _  _ hw) lkX6_both jdX6_both ⟨Nat.le_of_ble_eq_true rfl, Nat.le_of_ble_eq_true rfl⟩ rfl (Nat.le_of_ble_eq_true rfl) dX6_worthAt_130 (fun r11 hw => ?_)
          obtain ⟨h12, hw⟩ := hw
          refine jm_iast hE hA 10 (Nat.le_of_ble_eq_true rfl) h12 dX6_worthAt_133 ?_
          refine j_wm (fun m13 e_m13 => ?_)
          have hw := hw m13 e_m13
          refine j_iinc (L' := [(3, .int (x3 + 1)), (2, .int (x2 + (-1))), (4, .int (v5)), (0, .ref (ad 0))]) hE hn 3 dX6_worthAt_134 rfl (congrArg (x3 + ·) kc_1) (Nat.le_of_ble_eq_true rfl) rfl ?_
          refine j_goto hE 4 dX6_worthAt_137 (by decide) ?_
          refine j_sub [(0, .ref (ad 0)), (2, .int (x2 + (-1))), (3, .int (x3 + 1))] [3, 1, 0] rfl ?_
          have hz := ih4 (x2 + (-1), x3 + 1, m13) hw
          exact hz
        · have hw := hw.2 c8
          refine j_aload_n hE 1 dX6_worthAt_77 rfl rfl ?_
          refine jm_get hE hA 23 (Nat.le_of_ble_eq_true rfl) q1670 rfl (v := .ref (ad 11)) rfl dX6_worthAt_78 ?_
          refine j_iload_n hE 2 dX6_worthAt_81 rfl rfl ?_
          refine j_iconst hE dX6_worthAt_82 kc_1 ?_
          refine j_isub hE dX6_worthAt_83 ?_
          refine j_aload_n hE 1 dX6_worthAt_84 rfl rfl ?_
          refine jm_get hE hA 23 (Nat.le_of_ble_eq_true rfl) q1670 rfl (v := .ref (ad 11)) rfl dX6_worthAt_85 ?_
          refine j_iload_n hE 2 dX6_worthAt_88 rfl rfl ?_
          refine j_iconst hE dX6_worthAt_89 kc_1 ?_
          refine j_isub hE dX6_worthAt_90 ?_
          obtain ⟨h14, hw⟩ := hw
          refine jm_iald hE hA 10 (Nat.le_of_ble_eq_true rfl) h14 dX6_worthAt_91 ?_
          refine j_if_ne hE 99 dX6_worthAt_92 (by decide) (fun c15 => ?_) (fun c15 => ?_)
          · have hw := hw.1 c15
            refine j_iconst hE dX6_worthAt_99 kc_0 ?_
            obtain ⟨h16, hw⟩ := hw
            refine jm_iast hE hA 10 (Nat.le_of_ble_eq_true rfl) h16 dX6_worthAt_100 ?_
            refine j_wm (fun m17 e_m17 => ?_)
            have hw := hw m17 e_m17
            refine j_goto hE 134 dX6_worthAt_101 (by decide) ?_
            refine j_iinc (L' := [(3, .int (x3 + 1)), (4, .int (v5)), (0, .ref (ad 0)), (2, .int (x2))]) hE hn 3 dX6_worthAt_134 rfl (congrArg (x3 + ·) kc_1) (Nat.le_of_ble_eq_true rfl) rfl ?_
            refine j_goto hE 4 dX6_worthAt_137 (by decide) ?_
            refine j_sub [(0, .ref (ad 0)), (2, .int (x2)), (3, .int (x3 + 1))] [2, 3, 0] rfl ?_
            have hz := ih4 (x2, x3 + 1, m17) hw
            exact hz
          · have hw := hw.2 c15
            refine j_iconst hE dX6_worthAt_95 kc_1 ?_
            refine j_goto hE 100 dX6_worthAt_96 (by decide) ?_
            obtain ⟨h18, hw⟩ := hw
            refine jm_iast hE hA 10 (Nat.le_of_ble_eq_true rfl) h18 dX6_worthAt_100 ?_
            refine j_wm (fun m19 e_m19 => ?_)
            have hw := hw m19 e_m19
            refine j_goto hE 134 dX6_worthAt_101 (by decide) ?_
            refine j_iinc (L' := [(3, .int (x3 + 1)), (4, .int (v5)), (0, .ref (ad 0)), (2, .int (x2))]) hE hn 3 dX6_worthAt_134 rfl (congrArg (x3 + ·) kc_1) (Nat.le_of_ble_eq_true rfl) rfl ?_
            refine j_goto hE 4 dX6_worthAt_137 (by decide) ?_
            refine j_sub [(0, .ref (ad 0)), (2, .int (x2)), (3, .int (x3 + 1))] [2, 3, 0] rfl ?_
            have hz := ih4 (x2, x3 + 1, m19) hw
            exact hz
      · have hw := hw.2 c7
        refine j_sub [(0, .ref (ad 0)), (2, .int (x2)), (3, .int (x3)), (4, .int (v5))] [1, 2, 3, 0] rfl ?_
        exact bX6_worthAt_33 hE hn hR hA hK ih4 hw
def wX6_worthAt_0 (x1 : Int32) (m : MS) (K : Int32 → MS → Prop) : Prop :=
  wX6_worthAt_4 0 x1 m K
set_option maxRecDepth 100000 in
theorem bX6_worthAt_0 {E : jE} (hE : jOk E cX6_worthAt RX6) (hn : E.2.2.2.2 = 5) (hR : jRoom E 1 22) {ad : Nat → Nat} (hA : adOk ad) {r : GW} {b : Nat × Nat} {K : Int32 → MS → Prop} (hK : jRi E .int (KMI ad r K)) {x1 : Int32} {m : MS}  (hw : wX6_worthAt_0 x1 m K) : J E (mwX ad m r) b [(0, .ref (ad 0)), (1, .int (x1))] 0 [] := by
  unfold wX6_worthAt_0 at hw
  refine j_iconst hE dX6_worthAt_0 kc_0 ?_
  refine j_istore_n (L' := [(2, .int (0)), (0, .ref (ad 0)), (1, .int (x1))]) hE hn dX6_worthAt_1 rfl (Nat.le_of_ble_eq_true rfl) rfl ?_
  refine j_iload_n hE 2 dX6_worthAt_2 rfl rfl ?_
  refine j_istore_n (L' := [(3, .int (x1)), (2, .int (0)), (0, .ref (ad 0)), (1, .int (x1))]) hE hn dX6_worthAt_3 rfl (Nat.le_of_ble_eq_true rfl) rfl ?_
  refine j_sub [(0, .ref (ad 0)), (2, .int (0)), (3, .int (x1))] [2, 1, 0] rfl ?_
  exact bX6_worthAt_4 hE hn hR hA hK  hw
abbrev wX6_worthAt := wX6_worthAt_0
theorem ctX6_worthAt (l : Launch) (G : gG) {ad : Nat → Nat} (hA : adOk ad) (m0 : MS) (r : GW) (x1 : Int32) (K : Int32 → MS → Prop) (hw : wX6_worthAt x1 m0 K) : CtI l yX6_worthAt cX6_worthAt 5 .int ({ frames := 1, cells := 0, slots := 0, locals := 22 }) G [.ref (ad 0), .int (x1)] (mwX ad m0 r) (KMI ad r K) :=
  CtI.of RX6 plain_X6 rfl (Nat.le_of_ble_eq_true rfl) (fun E hE _ _ hn hR hK => bX6_worthAt_0 hE hn hR hA hK hw)
theorem jdX6_worthAt : jD yX6_worthAt 1 := by decide +kernel
theorem lkX6_worthAt : GoodIn lw_all (wsV RX6 315 yX6_worthAt.cls yX6_worthAt (ws_ yX6_worthAt cX6_worthAt 5 (some .int))) := lw_V q2009 q2011 qs108 q129 q2012
def wX6_isFaded_0 (x1 : Int32) (x2 : Int32) (x3 : Int32) (m : MS) (K : Int32 → MS → Prop) : Prop :=
  wX6_markOf x1 x2 x3 m (fun r1 => vp_in (nI 4) 120 ∧ ((0 ≤ (rd (gA m 3) (nI 4)) → (wX6_ageOf r1 (fun r4 => vp_in 0 4 ∧ (∀ m6 : MS, m6 = wA m 9 0 r4 → (wX6_deedOf r1 (fun r7 => vp_in ((nI 28) + r7) 120 ∧ (vp_in 1 4 ∧ (∀ m10 : MS, m10 = wA m6 9 1 (rd (gA m6 3) ((nI 28) + r7)) → (vp_in (x1 + 0) 1518 ∧ (wX6_lightOf (rd (gA m10 11) (x1 + 0)) m10 (fun r12 => vp_in (nI 2) 4 ∧ (∀ m14 : MS, m14 = wA m10 9 (nI 2) r12 → (vp_in ((x1 + (nI 18)) + x2) 1518 ∧ (vp_in (nI 3) 4 ∧ (∀ m17 : MS, m17 = wA m14 9 (nI 3) (((rd (gA m14 11) ((x1 + (nI 18)) + x2)) - 1) - x3) → (vp_in (nI 4) 120 ∧ (wX6_worthAt (rd (gA m17 3) (nI 4)) m17 (fun r19 m20 => (r19 = 0 → (K 0 m20)) ∧ (¬ r19 = 0 → (K 1 m20)))))))))))))))))))) ∧ (¬ 0 ≤ (rd (gA m 3) (nI 4)) → (wX6_ageOf r1 (fun r22 => (r22 ≤ (nI 8) → (K 0 m)) ∧ (¬ r22 ≤ (nI 8) → (K 1 m)))))))
set_option maxRecDepth 100000 in
theorem bX6_isFaded_0 {E : jE} (hE : jOk E cX6_isFaded RX6) (hn : E.2.2.2.2 = 5) (hR : jRoom E 2 46) {ad : Nat → Nat} (hA : adOk ad) {r : GW} {b : Nat × Nat} {K : Int32 → MS → Prop} (hK : jRi E .boolean (KMI ad r K)) {x1 : Int32} {x2 : Int32} {x3 : Int32} {m : MS}  (hw : wX6_isFaded_0 x1 x2 x3 m K) : J E (mwX ad m r) b [(0, .ref (ad 0)), (1, .int (x1)), (2, .int (x2)), (3, .int (x3))] 0 [] := by
  unfold wX6_isFaded_0 at hw
  refine j_aload_n hE 0 dX6_isFaded_0 rfl rfl ?_
  refine j_iload_n hE 1 dX6_isFaded_1 rfl rfl ?_
  refine j_iload_n hE 2 dX6_isFaded_2 rfl rfl ?_
  refine j_iload_n hE 3 dX6_isFaded_3 rfl rfl ?_
  refine jm_pI hE hA hR (As := [.int (x1), .int (x2), .int (x3)]) (rest := []) (ctX6_markOf E.1.2.1 E.2.2.1 hA _ _ _ _ _  _ hw) rfl lkX6_markOf jdX6_markOf ⟨Nat.le_of_ble_eq_true rfl, Nat.le_of_ble_eq_true rfl⟩ rfl (Nat.le_of_ble_eq_true rfl) dX6_isFaded_4 (fun r1 hw => ?_)
  refine j_istore (L' := [(4, .int (r1)), (0, .ref (ad 0)), (1, .int (x1)), (2, .int (x2)), (3, .int (x3))]) hE hn dX6_isFaded_7 (Nat.le_of_ble_eq_true rfl) rfl ?_
  refine j_aload_n hE 1 dX6_isFaded_9 rfl rfl ?_
  refine jm_get hE hA 10 (Nat.le_of_ble_eq_true rfl) q1657 rfl (v := .ref (ad 4)) rfl dX6_isFaded_10 ?_
  refine j_iconst hE dX6_isFaded_13 kc_4 ?_
  obtain ⟨h2, hw⟩ := hw
  refine jm_iald hE hA 3 (Nat.le_of_ble_eq_true rfl) h2 dX6_isFaded_14 ?_
  refine j_if_ge hE 34 dX6_isFaded_15 (by decide) (fun c3 => ?_) (fun c3 => ?_)
  · have hw := hw.1 c3
    refine j_aload_n hE 1 dX6_isFaded_34 rfl rfl ?_
    refine jm_get hE hA 22 (Nat.le_of_ble_eq_true rfl) q1669 rfl (v := .ref (ad 10)) rfl dX6_isFaded_35 ?_
    refine j_iconst hE dX6_isFaded_38 kc_0 ?_
    refine j_iload hE 0 dX6_isFaded_39 rfl ?_
    refine j_psI hE hR (As := [.int (r1)]) (rest := [.int (0), .ref (ad 10)]) (ctX6_ageOf E.1.2.1 E.2.2.1 _ _  _ hw) lkX6_ageOf jdX6_ageOf ⟨Nat.le_of_ble_eq_true rfl, Nat.le_of_ble_eq_true rfl⟩ rfl (Nat.le_of_ble_eq_true rfl) dX6_isFaded_41 (fun r4 hw => ?_)
    obtain ⟨h5, hw⟩ := hw
    refine jm_iast hE hA 9 (Nat.le_of_ble_eq_true rfl) h5 dX6_isFaded_44 ?_
    refine j_wm (fun m6 e_m6 => ?_)
    have hw := hw m6 e_m6
    refine j_aload_n hE 1 dX6_isFaded_45 rfl rfl ?_
    refine jm_get hE hA 22 (Nat.le_of_ble_eq_true rfl) q1669 rfl (v := .ref (ad 10)) rfl dX6_isFaded_46 ?_
    refine j_iconst hE dX6_isFaded_49 kc_1 ?_
    refine j_aload_n hE 1 dX6_isFaded_50 rfl rfl ?_
    refine jm_get hE hA 10 (Nat.le_of_ble_eq_true rfl) q1657 rfl (v := .ref (ad 4)) rfl dX6_isFaded_51 ?_
    refine j_bipush hE dX6_isFaded_54 kb_28 ?_
    refine j_iload hE 0 dX6_isFaded_56 rfl ?_
    refine j_psI hE hR (As := [.int (r1)]) (rest := [.int (nI 28), .ref (ad 4), .int (1), .ref (ad 10)]) (ctX6_deedOf E.1.2.1 E.2.2.1 _ _  _ hw) lkX6_deedOf jdX6_deedOf ⟨Nat.le_of_ble_eq_true rfl, Nat.le_of_ble_eq_true rfl⟩ rfl (Nat.le_of_ble_eq_true rfl) dX6_isFaded_58 (fun r7 hw => ?_)
    refine j_iadd hE dX6_isFaded_61 ?_
    obtain ⟨h8, hw⟩ := hw
    refine jm_iald hE hA 3 (Nat.le_of_ble_eq_true rfl) h8 dX6_isFaded_62 ?_
    obtain ⟨h9, hw⟩ := hw
    refine jm_iast hE hA 9 (Nat.le_of_ble_eq_true rfl) h9 dX6_isFaded_63 ?_
    refine j_wm (fun m10 e_m10 => ?_)
    have hw := hw m10 e_m10
    refine j_aload_n hE 1 dX6_isFaded_64 rfl rfl ?_
    refine jm_get hE hA 22 (Nat.le_of_ble_eq_true rfl) q1669 rfl (v := .ref (ad 10)) rfl dX6_isFaded_65 ?_
    refine j_iconst hE dX6_isFaded_68 kc_2 ?_
    refine j_aload_n hE 1 dX6_isFaded_69 rfl rfl ?_
    refine j_aload_n hE 1 dX6_isFaded_70 rfl rfl ?_
    refine jm_get hE hA 24 (Nat.le_of_ble_eq_true rfl) q1671 rfl (v := .ref (ad 12)) rfl dX6_isFaded_71 ?_
    refine j_iload_n hE 2 dX6_isFaded_74 rfl rfl ?_
    refine j_iconst hE dX6_isFaded_75 kc_0 ?_
    refine j_iadd hE dX6_isFaded_76 ?_
    obtain ⟨h11, hw⟩ := hw
    refine jm_iald hE hA 11 (Nat.le_of_ble_eq_true rfl) h11 dX6_isFaded_77 ?_
    refine jm_pI hE hA hR (As := [.int (rd (gA m10 11) (x1 + 0))]) (rest := [.int (nI 2), .ref (ad 10)]) (ctX6_lightOf E.1.2.1 E.2.2.1 hA _ _ _  _ hw) rfl lkX6_lightOf jdX6_lightOf ⟨Nat.le_of_ble_eq_true rfl, Nat.le_of_ble_eq_true rfl⟩ rfl (Nat.le_of_ble_eq_true rfl) dX6_isFaded_78 (fun r12 hw => ?_)
    obtain ⟨h13, hw⟩ := hw
    refine jm_iast hE hA 9 (Nat.le_of_ble_eq_true rfl) h13 dX6_isFaded_81 ?_
    refine j_wm (fun m14 e_m14 => ?_)
    have hw := hw m14 e_m14
    refine j_aload_n hE 1 dX6_isFaded_82 rfl rfl ?_
    refine jm_get hE hA 22 (Nat.le_of_ble_eq_true rfl) q1669 rfl (v := .ref (ad 10)) rfl dX6_isFaded_83 ?_
    refine j_iconst hE dX6_isFaded_86 kc_3 ?_
    refine j_aload_n hE 1 dX6_isFaded_87 rfl rfl ?_
    refine jm_get hE hA 24 (Nat.le_of_ble_eq_true rfl) q1671 rfl (v := .ref (ad 12)) rfl dX6_isFaded_88 ?_
    refine j_iload_n hE 2 dX6_isFaded_91 rfl rfl ?_
    refine j_bipush hE dX6_isFaded_92 kb_18 ?_
    refine j_iadd hE dX6_isFaded_94 ?_
    refine j_iload_n hE 3 dX6_isFaded_95 rfl rfl ?_
    refine j_iadd hE dX6_isFaded_96 ?_
    obtain ⟨h15, hw⟩ := hw
    refine jm_iald hE hA 11 (Nat.le_of_ble_eq_true rfl) h15 dX6_isFaded_97 ?_
    refine j_iconst hE dX6_isFaded_98 kc_1 ?_
    refine j_isub hE dX6_isFaded_99 ?_
    refine j_iload_n hE 4 dX6_isFaded_100 rfl rfl ?_
    refine j_isub hE dX6_isFaded_101 ?_
    obtain ⟨h16, hw⟩ := hw
    refine jm_iast hE hA 9 (Nat.le_of_ble_eq_true rfl) h16 dX6_isFaded_102 ?_
    refine j_wm (fun m17 e_m17 => ?_)
    have hw := hw m17 e_m17
    refine j_aload_n hE 1 dX6_isFaded_103 rfl rfl ?_
    refine j_aload_n hE 1 dX6_isFaded_104 rfl rfl ?_
    refine jm_get hE hA 10 (Nat.le_of_ble_eq_true rfl) q1657 rfl (v := .ref (ad 4)) rfl dX6_isFaded_105 ?_
    refine j_iconst hE dX6_isFaded_108 kc_4 ?_
    obtain ⟨h18, hw⟩ := hw
    refine jm_iald hE hA 3 (Nat.le_of_ble_eq_true rfl) h18 dX6_isFaded_109 ?_
    refine jm_cI hE hA hR (As := [.int (rd (gA m17 3) (nI 4))]) (rest := []) (ctX6_worthAt E.1.2.1 E.2.2.1 hA _ _ _  _ hw) rfl lkX6_worthAt jdX6_worthAt ⟨Nat.le_of_ble_eq_true rfl, Nat.le_of_ble_eq_true rfl⟩ rfl (Nat.le_of_ble_eq_true rfl) dX6_isFaded_110 (fun r19 m20 hw => ?_)
    refine j_if_eq hE 120 dX6_isFaded_113 (by decide) (fun c21 => ?_) (fun c21 => ?_)
    · have hw := hw.1 c21
      refine j_iconst hE dX6_isFaded_120 kc_0 ?_
      exact j_iret hE hK dX6_isFaded_121 rfl ⟨_, rfl, hw⟩
    · have hw := hw.2 c21
      refine j_iconst hE dX6_isFaded_116 kc_1 ?_
      refine j_goto hE 121 dX6_isFaded_117 (by decide) ?_
      exact j_iret hE hK dX6_isFaded_121 rfl ⟨_, rfl, hw⟩
  · have hw := hw.2 c3
    refine j_iload hE 0 dX6_isFaded_18 rfl ?_
    refine j_psI hE hR (As := [.int (r1)]) (rest := []) (ctX6_ageOf E.1.2.1 E.2.2.1 _ _  _ hw) lkX6_ageOf jdX6_ageOf ⟨Nat.le_of_ble_eq_true rfl, Nat.le_of_ble_eq_true rfl⟩ rfl (Nat.le_of_ble_eq_true rfl) dX6_isFaded_20 (fun r22 hw => ?_)
    refine j_bipush hE dX6_isFaded_23 kb_8 ?_
    refine j_icmp_le hE 32 dX6_isFaded_25 (by decide) (fun c23 => ?_) (fun c23 => ?_)
    · have hw := hw.1 c23
      refine j_iconst hE dX6_isFaded_32 kc_0 ?_
      exact j_iret hE hK dX6_isFaded_33 rfl ⟨_, rfl, hw⟩
    · have hw := hw.2 c23
      refine j_iconst hE dX6_isFaded_28 kc_1 ?_
      refine j_goto hE 33 dX6_isFaded_29 (by decide) ?_
      exact j_iret hE hK dX6_isFaded_33 rfl ⟨_, rfl, hw⟩
abbrev wX6_isFaded := wX6_isFaded_0
theorem ctX6_isFaded (l : Launch) (G : gG) {ad : Nat → Nat} (hA : adOk ad) (m0 : MS) (r : GW) (x1 : Int32) (x2 : Int32) (x3 : Int32) (K : Int32 → MS → Prop) (hw : wX6_isFaded x1 x2 x3 m0 K) : CtI l yX6_isFaded cX6_isFaded 5 .boolean ({ frames := 2, cells := 0, slots := 0, locals := 46 }) G [.ref (ad 0), .int (x1), .int (x2), .int (x3)] (mwX ad m0 r) (KMI ad r K) :=
  CtI.of RX6 plain_X6 rfl (Nat.le_of_ble_eq_true rfl) (fun E hE _ _ hn hR hK => bX6_isFaded_0 hE hn hR hA hK hw)
theorem jdX6_isFaded : jD yX6_isFaded 3 := by decide +kernel
theorem lkX6_isFaded : GoodIn lw_all (wsV RX6 318 yX6_isFaded.cls yX6_isFaded (ws_ yX6_isFaded cX6_isFaded 5 (some .boolean))) := lw_V q2005 q2007 qs107 q129 q2008
def wX6_passes_15_b (x1 : Int32) (x2 : Int32) (x3 : Int32) (x4 : Int32) (m : MS) (KL15 : Int32 × MS → Prop) (KL4 : Int32 × MS → Prop) (K : Int32 → MS → Prop) : Prop :=
  vp_in ((x1 + (nI 18)) + x3) 1518 ∧ (((rd (gA m 11) ((x1 + (nI 18)) + x3)) ≤ x4 → (KL4 (x3 + 1, m))) ∧ (¬ (rd (gA m 11) ((x1 + (nI 18)) + x3)) ≤ x4 → (wX6_isWhole x1 x3 m (fun r3 => (r3 = 0 → (KL4 (x3 + 1, m))) ∧ (¬ r3 = 0 → (vp_in (((x1 + (nI 24)) + ((nI 6) * x3)) + x4) 1518 ∧ (vp_in (((x1 + (nI 24)) + ((nI 6) * x3)) + x4) 1518 ∧ (∀ m7 : MS, m7 = wA m 11 (((x1 + (nI 24)) + ((nI 6) * x3)) + x4) ((rd (gA m 11) (((x1 + (nI 24)) + ((nI 6) * x3)) + x4)) + (nI 1024)) → (KL15 (x4 + 1, m7))))))))))
def wX6_passes_15 (x1 : Int32) (x2 : Int32) (x3 : Int32) (x4 : Int32) (m : MS) (KL4 : Int32 × MS → Prop) (K : Int32 → MS → Prop) : Prop := lfp (σ := Int32 × MS) (fun KL s => wX6_passes_15_b x1 x2 x3 s.1 s.2 KL KL4 K) (x4, m)
set_option maxRecDepth 100000 in
theorem bX6_passes_15 {E : jE} (hE : jOk E cX6_passes RX6) (hn : E.2.2.2.2 = 5) (hR : jRoom E 3 70) {ad : Nat → Nat} (hA : adOk ad) {r : GW} {b : Nat × Nat} {K : Int32 → MS → Prop} (hK : jRi E .int (KMI ad r K)) {x1 : Int32} {x2 : Int32} {x3 : Int32} {x4 : Int32} {m : MS} {KL4 : Int32 × MS → Prop} (ih4 : ∀ s : Int32 × MS, KL4 s → J E (mwX ad (s.2) r) b [(0, .ref (ad 0)), (1, .int (x1)), (2, .int (x2)), (3, .int (s.1))] 4 []) (hw : wX6_passes_15 x1 x2 x3 x4 m KL4 K) : J E (mwX ad m r) b [(0, .ref (ad 0)), (1, .int (x1)), (2, .int (x2)), (3, .int (x3)), (4, .int (x4))] 15 [] := by
  refine lfp_sound (σ := Int32 × MS) (F := fun KL s => wX6_passes_15_b x1 x2 x3 s.1 s.2 KL KL4 K) (P := fun s => J E (mwX ad (s.2) r) b [(0, .ref (ad 0)), (1, .int (x1)), (2, .int (x2)), (3, .int (x3)), (4, .int (s.1))] 15 []) ?_ hw
  clear hw
  rintro KL15 ⟨x4, m⟩ hw ih15
  have hw : wX6_passes_15_b x1 x2 x3 x4 m KL15 KL4 K := hw
  unfold wX6_passes_15_b at hw
  refine j_iload hE 4 dX6_passes_15 rfl ?_
  refine j_aload_n hE 0 dX6_passes_17 rfl rfl ?_
  refine jm_get hE hA 24 (Nat.le_of_ble_eq_true rfl) q1671 rfl (v := .ref (ad 12)) rfl dX6_passes_18 ?_
  refine j_iload_n hE 1 dX6_passes_21 rfl rfl ?_
  refine j_bipush hE dX6_passes_22 kb_18 ?_
  refine j_iadd hE dX6_passes_24 ?_
  refine j_iload_n hE 3 dX6_passes_25 rfl rfl ?_
  refine j_iadd hE dX6_passes_26 ?_
  obtain ⟨h1, hw⟩ := hw
  refine jm_iald hE hA 11 (Nat.le_of_ble_eq_true rfl) h1 dX6_passes_27 ?_
  refine j_icmp_ge hE 69 dX6_passes_28 (by decide) (fun c2 => ?_) (fun c2 => ?_)
  · have hw := hw.1 c2
    refine j_iinc (L' := [(3, .int (x3 + 1)), (0, .ref (ad 0)), (1, .int (x1)), (2, .int (x2)), (4, .int (x4))]) hE hn 3 dX6_passes_69 rfl (congrArg (x3 + ·) kc_1) (Nat.le_of_ble_eq_true rfl) rfl ?_
    refine j_goto hE 4 dX6_passes_72 (by decide) ?_
    refine j_sub [(0, .ref (ad 0)), (1, .int (x1)), (2, .int (x2)), (3, .int (x3 + 1))] [1, 2, 3, 0] rfl ?_
    have hz := ih4 (x3 + 1, m) hw
    exact hz
  · have hw := hw.2 c2
    refine j_aload_n hE 0 dX6_passes_31 rfl rfl ?_
    refine j_iload_n hE 1 dX6_passes_32 rfl rfl ?_
    refine j_iload_n hE 3 dX6_passes_33 rfl rfl ?_
    refine jm_pI hE hA hR (As := [.int (x1), .int (x3)]) (rest := []) (ctX6_isWhole E.1.2.1 E.2.2.1 hA _ _ _ _  _ hw) rfl lkX6_isWhole jdX6_isWhole ⟨Nat.le_of_ble_eq_true rfl, Nat.le_of_ble_eq_true rfl⟩ rfl (Nat.le_of_ble_eq_true rfl) dX6_passes_34 (fun r3 hw => ?_)
    refine j_if_eq hE 69 dX6_passes_37 (by decide) (fun c4 => ?_) (fun c4 => ?_)
    · have hw := hw.1 c4
      refine j_iinc (L' := [(3, .int (x3 + 1)), (0, .ref (ad 0)), (1, .int (x1)), (2, .int (x2)), (4, .int (x4))]) hE hn 3 dX6_passes_69 rfl (congrArg (x3 + ·) kc_1) (Nat.le_of_ble_eq_true rfl) rfl ?_
      refine j_goto hE 4 dX6_passes_72 (by decide) ?_
      refine j_sub [(0, .ref (ad 0)), (1, .int (x1)), (2, .int (x2)), (3, .int (x3 + 1))] [1, 2, 3, 0] rfl ?_
      have hz := ih4 (x3 + 1, m) hw
      exact hz
    · have hw := hw.2 c4
      refine j_aload_n hE 0 dX6_passes_40 rfl rfl ?_
      refine jm_get hE hA 24 (Nat.le_of_ble_eq_true rfl) q1671 rfl (v := .ref (ad 12)) rfl dX6_passes_41 ?_
      refine j_iload_n hE 1 dX6_passes_44 rfl rfl ?_
      refine j_bipush hE dX6_passes_45 kb_24 ?_
      refine j_iadd hE dX6_passes_47 ?_
      refine j_bipush hE dX6_passes_48 kb_6 ?_
      refine j_iload_n hE 3 dX6_passes_50 rfl rfl ?_
      refine j_imul hE dX6_passes_51 ?_
      refine j_iadd hE dX6_passes_52 ?_
      refine j_iload hE 4 dX6_passes_53 rfl ?_
      refine j_iadd hE dX6_passes_55 ?_
      refine j_dup2 hE dX6_passes_56 rfl rfl ?_
      obtain ⟨h5, hw⟩ := hw
      refine jm_iald hE hA 11 (Nat.le_of_ble_eq_true rfl) h5 dX6_passes_57 ?_
      refine j_sipush hE dX6_passes_58 ks_1024 ?_
      refine j_iadd hE dX6_passes_61 ?_
      obtain ⟨h6, hw⟩ := hw
      refine jm_iast hE hA 11 (Nat.le_of_ble_eq_true rfl) h6 dX6_passes_62 ?_
      refine j_wm (fun m7 e_m7 => ?_)
      have hw := hw m7 e_m7
      refine j_iinc (L' := [(4, .int (x4 + 1)), (0, .ref (ad 0)), (1, .int (x1)), (2, .int (x2)), (3, .int (x3))]) hE hn 4 dX6_passes_63 rfl (congrArg (x4 + ·) kc_1) (Nat.le_of_ble_eq_true rfl) rfl ?_
      refine j_goto hE 15 dX6_passes_66 (by decide) ?_
      refine j_sub [(0, .ref (ad 0)), (1, .int (x1)), (2, .int (x2)), (3, .int (x3)), (4, .int (x4 + 1))] [1, 2, 3, 4, 0] rfl ?_
      have hz := ih15 (x4 + 1, m7) hw
      exact hz
def wX6_passes_88_b (x1 : Int32) (x3 : Int32) (x2 : Int32) (x4 : Int32) (m : MS) (KL88 : Int32 × Int32 × MS → Prop) (KL77 : Int32 × Int32 × MS → Prop) (K : Int32 → MS → Prop) : Prop :=
  wX6_isWhole x1 x3 m (fun r1 => (r1 = 0 → (KL77 (x2, x3 + 1, m))) ∧ (¬ r1 = 0 → (vp_in ((x1 + (nI 18)) + x3) 1518 ∧ (((rd (gA m 11) ((x1 + (nI 18)) + x3)) ≤ x4 → (KL77 (x2, x3 + 1, m))) ∧ (¬ (rd (gA m 11) ((x1 + (nI 18)) + x3)) ≤ x4 → (wX6_isFaded x1 x3 x4 m (fun r5 m6 => (r5 = 0 → (KL88 (x2, x4 + 1, m6))) ∧ (¬ r5 = 0 → (wX6_forgets x1 x3 x4 m6 (fun  m8 => KL88 (x2 + 1, x4, m8)))))))))))
def wX6_passes_88 (x1 : Int32) (x3 : Int32) (x2 : Int32) (x4 : Int32) (m : MS) (KL77 : Int32 × Int32 × MS → Prop) (K : Int32 → MS → Prop) : Prop := lfp (σ := Int32 × Int32 × MS) (fun KL s => wX6_passes_88_b x1 x3 s.1 s.2.1 s.2.2 KL KL77 K) (x2, x4, m)
set_option maxRecDepth 100000 in
theorem bX6_passes_88 {E : jE} (hE : jOk E cX6_passes RX6) (hn : E.2.2.2.2 = 5) (hR : jRoom E 3 70) {ad : Nat → Nat} (hA : adOk ad) {r : GW} {b : Nat × Nat} {K : Int32 → MS → Prop} (hK : jRi E .int (KMI ad r K)) {x1 : Int32} {x3 : Int32} {x2 : Int32} {x4 : Int32} {m : MS} {KL77 : Int32 × Int32 × MS → Prop} (ih77 : ∀ s : Int32 × Int32 × MS, KL77 s → J E (mwX ad (s.2.2) r) b [(0, .ref (ad 0)), (1, .int (x1)), (2, .int (s.1)), (3, .int (s.2.1))] 77 []) (hw : wX6_passes_88 x1 x3 x2 x4 m KL77 K) : J E (mwX ad m r) b [(0, .ref (ad 0)), (1, .int (x1)), (2, .int (x2)), (3, .int (x3)), (4, .int (x4))] 88 [] := by
  refine lfp_sound (σ := Int32 × Int32 × MS) (F := fun KL s => wX6_passes_88_b x1 x3 s.1 s.2.1 s.2.2 KL KL77 K) (P := fun s => J E (mwX ad (s.2.2) r) b [(0, .ref (ad 0)), (1, .int (x1)), (2, .int (s.1)), (3, .int (x3)), (4, .int (s.2.1))] 88 []) ?_ hw
  clear hw
  rintro KL88 ⟨x2, x4, m⟩ hw ih88
  have hw : wX6_passes_88_b x1 x3 x2 x4 m KL88 KL77 K := hw
  unfold wX6_passes_88_b at hw
  refine j_aload_n hE 0 dX6_passes_88 rfl rfl ?_
  refine j_iload_n hE 1 dX6_passes_89 rfl rfl ?_
  refine j_iload_n hE 3 dX6_passes_90 rfl rfl ?_
  refine jm_pI hE hA hR (As := [.int (x1), .int (x3)]) (rest := []) (ctX6_isWhole E.1.2.1 E.2.2.1 hA _ _ _ _  _ hw) rfl lkX6_isWhole jdX6_isWhole ⟨Nat.le_of_ble_eq_true rfl, Nat.le_of_ble_eq_true rfl⟩ rfl (Nat.le_of_ble_eq_true rfl) dX6_passes_91 (fun r1 hw => ?_)
  refine j_if_eq hE 144 dX6_passes_94 (by decide) (fun c2 => ?_) (fun c2 => ?_)
  · have hw := hw.1 c2
    refine j_iinc (L' := [(3, .int (x3 + 1)), (0, .ref (ad 0)), (1, .int (x1)), (2, .int (x2)), (4, .int (x4))]) hE hn 3 dX6_passes_144 rfl (congrArg (x3 + ·) kc_1) (Nat.le_of_ble_eq_true rfl) rfl ?_
    refine j_goto hE 77 dX6_passes_147 (by decide) ?_
    refine j_sub [(0, .ref (ad 0)), (1, .int (x1)), (2, .int (x2)), (3, .int (x3 + 1))] [1, 2, 3, 0] rfl ?_
    have hz := ih77 (x2, x3 + 1, m) hw
    exact hz
  · have hw := hw.2 c2
    refine j_iload hE 4 dX6_passes_97 rfl ?_
    refine j_aload_n hE 0 dX6_passes_99 rfl rfl ?_
    refine jm_get hE hA 24 (Nat.le_of_ble_eq_true rfl) q1671 rfl (v := .ref (ad 12)) rfl dX6_passes_100 ?_
    refine j_iload_n hE 1 dX6_passes_103 rfl rfl ?_
    refine j_bipush hE dX6_passes_104 kb_18 ?_
    refine j_iadd hE dX6_passes_106 ?_
    refine j_iload_n hE 3 dX6_passes_107 rfl rfl ?_
    refine j_iadd hE dX6_passes_108 ?_
    obtain ⟨h3, hw⟩ := hw
    refine jm_iald hE hA 11 (Nat.le_of_ble_eq_true rfl) h3 dX6_passes_109 ?_
    refine j_icmp_ge hE 144 dX6_passes_110 (by decide) (fun c4 => ?_) (fun c4 => ?_)
    · have hw := hw.1 c4
      refine j_iinc (L' := [(3, .int (x3 + 1)), (0, .ref (ad 0)), (1, .int (x1)), (2, .int (x2)), (4, .int (x4))]) hE hn 3 dX6_passes_144 rfl (congrArg (x3 + ·) kc_1) (Nat.le_of_ble_eq_true rfl) rfl ?_
      refine j_goto hE 77 dX6_passes_147 (by decide) ?_
      refine j_sub [(0, .ref (ad 0)), (1, .int (x1)), (2, .int (x2)), (3, .int (x3 + 1))] [1, 2, 3, 0] rfl ?_
      have hz := ih77 (x2, x3 + 1, m) hw
      exact hz
    · have hw := hw.2 c4
      refine j_aload_n hE 0 dX6_passes_113 rfl rfl ?_
      refine j_iload_n hE 1 dX6_passes_114 rfl rfl ?_
      refine j_iload_n hE 3 dX6_passes_115 rfl rfl ?_
      refine j_iload hE 4 dX6_passes_116 rfl ?_
      refine jm_cI hE hA hR (As := [.int (x1), .int (x3), .int (x4)]) (rest := []) (ctX6_isFaded E.1.2.1 E.2.2.1 hA _ _ _ _ _  _ hw) rfl lkX6_isFaded jdX6_isFaded ⟨Nat.le_of_ble_eq_true rfl, Nat.le_of_ble_eq_true rfl⟩ rfl (Nat.le_of_ble_eq_true rfl) dX6_passes_118 (fun r5 m6 hw => ?_)
      refine j_if_eq hE 138 dX6_passes_121 (by decide) (fun c7 => ?_) (fun c7 => ?_)
      · have hw := hw.1 c7
        refine j_iinc (L' := [(4, .int (x4 + 1)), (0, .ref (ad 0)), (1, .int (x1)), (2, .int (x2)), (3, .int (x3))]) hE hn 4 dX6_passes_138 rfl (congrArg (x4 + ·) kc_1) (Nat.le_of_ble_eq_true rfl) rfl ?_
        refine j_goto hE 88 dX6_passes_141 (by decide) ?_
        refine j_sub [(0, .ref (ad 0)), (1, .int (x1)), (2, .int (x2)), (3, .int (x3)), (4, .int (x4 + 1))] [1, 2, 3, 4, 0] rfl ?_
        have hz := ih88 (x2, x4 + 1, m6) hw
        exact hz
      · have hw := hw.2 c7
        refine j_aload_n hE 0 dX6_passes_124 rfl rfl ?_
        refine j_iload_n hE 1 dX6_passes_125 rfl rfl ?_
        refine j_iload_n hE 3 dX6_passes_126 rfl rfl ?_
        refine j_iload hE 4 dX6_passes_127 rfl ?_
        refine jm_cV hE hA hR (As := [.int (x1), .int (x3), .int (x4)]) (rest := []) (ctX6_forgets E.1.2.1 E.2.2.1 hA _ _ _ _ _  _ hw) rfl lkX6_forgets jdX6_forgets ⟨Nat.le_of_ble_eq_true rfl, Nat.le_of_ble_eq_true rfl⟩ rfl (Nat.le_of_ble_eq_true rfl) dX6_passes_129 (fun  m8 hw => ?_)
        refine j_iinc (L' := [(2, .int (x2 + 1)), (0, .ref (ad 0)), (1, .int (x1)), (3, .int (x3)), (4, .int (x4))]) hE hn 2 dX6_passes_132 rfl (congrArg (x2 + ·) kc_1) (Nat.le_of_ble_eq_true rfl) rfl ?_
        refine j_goto hE 88 dX6_passes_135 (by decide) ?_
        refine j_sub [(0, .ref (ad 0)), (1, .int (x1)), (2, .int (x2 + 1)), (3, .int (x3)), (4, .int (x4))] [1, 2, 0, 3, 4] rfl ?_
        have hz := ih88 (x2 + 1, x4, m8) hw
        exact hz
def wX6_passes_77_b (x1 : Int32) (x2 : Int32) (x3 : Int32) (m : MS) (KL77 : Int32 × Int32 × MS → Prop) (K : Int32 → MS → Prop) : Prop :=
  wX6_panes  m (fun r1 => (r1 ≤ x3 → (vp_in (x1 + 0) 1518 ∧ (vp_in (x1 + 0) 1518 ∧ (∀ m5 : MS, m5 = wA m 11 (x1 + 0) ((rd (gA m 11) (x1 + 0)) + 1) → (K x2 m5))))) ∧ (¬ r1 ≤ x3 → (wX6_passes_88 x1 x3 x2 0 m KL77 K)))
def wX6_passes_77 (x1 : Int32) (x2 : Int32) (x3 : Int32) (m : MS) (K : Int32 → MS → Prop) : Prop := lfp (σ := Int32 × Int32 × MS) (fun KL s => wX6_passes_77_b x1 s.1 s.2.1 s.2.2 KL K) (x2, x3, m)
set_option maxRecDepth 100000 in
theorem bX6_passes_77 {E : jE} (hE : jOk E cX6_passes RX6) (hn : E.2.2.2.2 = 5) (hR : jRoom E 3 70) {ad : Nat → Nat} (hA : adOk ad) {r : GW} {b : Nat × Nat} {K : Int32 → MS → Prop} (hK : jRi E .int (KMI ad r K)) {x1 : Int32} {x2 : Int32} {x3 : Int32} {m : MS}  (hw : wX6_passes_77 x1 x2 x3 m K) : J E (mwX ad m r) b [(0, .ref (ad 0)), (1, .int (x1)), (2, .int (x2)), (3, .int (x3))] 77 [] := by
  refine lfp_sound (σ := Int32 × Int32 × MS) (F := fun KL s => wX6_passes_77_b x1 s.1 s.2.1 s.2.2 KL K) (P := fun s => J E (mwX ad (s.2.2) r) b [(0, .ref (ad 0)), (1, .int (x1)), (2, .int (s.1)), (3, .int (s.2.1))] 77 []) ?_ hw
  clear hw
  rintro KL77 ⟨x2, x3, m⟩ hw ih77
  have hw : wX6_passes_77_b x1 x2 x3 m KL77 K := hw
  unfold wX6_passes_77_b at hw
  refine j_iload_n hE 3 dX6_passes_77 rfl rfl ?_
  refine j_aload_n hE 0 dX6_passes_78 rfl rfl ?_
  refine jm_pI hE hA hR (As := []) (rest := [.int (x3)]) (ctX6_panes E.1.2.1 E.2.2.1 hA _ _  _ hw) rfl lkX6_panes jdX6_panes ⟨Nat.le_of_ble_eq_true rfl, Nat.le_of_ble_eq_true rfl⟩ rfl (Nat.le_of_ble_eq_true rfl) dX6_passes_79 (fun r1 hw => ?_)
  refine j_icmp_ge hE 150 dX6_passes_82 (by decide) (fun c2 => ?_) (fun c2 => ?_)
  · have hw := hw.1 c2
    refine j_aload_n hE 0 dX6_passes_150 rfl rfl ?_
    refine jm_get hE hA 24 (Nat.le_of_ble_eq_true rfl) q1671 rfl (v := .ref (ad 12)) rfl dX6_passes_151 ?_
    refine j_iload_n hE 1 dX6_passes_154 rfl rfl ?_
    refine j_iconst hE dX6_passes_155 kc_0 ?_
    refine j_iadd hE dX6_passes_156 ?_
    refine j_dup2 hE dX6_passes_157 rfl rfl ?_
    obtain ⟨h3, hw⟩ := hw
    refine jm_iald hE hA 11 (Nat.le_of_ble_eq_true rfl) h3 dX6_passes_158 ?_
    refine j_iconst hE dX6_passes_159 kc_1 ?_
    refine j_iadd hE dX6_passes_160 ?_
    obtain ⟨h4, hw⟩ := hw
    refine jm_iast hE hA 11 (Nat.le_of_ble_eq_true rfl) h4 dX6_passes_161 ?_
    refine j_wm (fun m5 e_m5 => ?_)
    have hw := hw m5 e_m5
    refine j_iload_n hE 2 dX6_passes_162 rfl rfl ?_
    exact j_iret hE hK dX6_passes_163 rfl ⟨_, rfl, hw⟩
  · have hw := hw.2 c2
    refine j_iconst hE dX6_passes_85 kc_0 ?_
    refine j_istore (L' := [(4, .int (0)), (0, .ref (ad 0)), (1, .int (x1)), (2, .int (x2)), (3, .int (x3))]) hE hn dX6_passes_86 (Nat.le_of_ble_eq_true rfl) rfl ?_
    refine j_sub [(0, .ref (ad 0)), (1, .int (x1)), (2, .int (x2)), (3, .int (x3)), (4, .int (0))] [1, 2, 3, 4, 0] rfl ?_
    exact bX6_passes_88 hE hn hR hA hK ih77 hw
def wX6_passes_4_b (x1 : Int32) (x2 : Int32) (x3 : Int32) (m : MS) (KL4 : Int32 × MS → Prop) (K : Int32 → MS → Prop) : Prop :=
  wX6_panes  m (fun r1 => (r1 ≤ x3 → (wX6_passes_77 x1 x2 0 m K)) ∧ (¬ r1 ≤ x3 → (wX6_passes_15 x1 x2 x3 0 m KL4 K)))
def wX6_passes_4 (x1 : Int32) (x2 : Int32) (x3 : Int32) (m : MS) (K : Int32 → MS → Prop) : Prop := lfp (σ := Int32 × MS) (fun KL s => wX6_passes_4_b x1 x2 s.1 s.2 KL K) (x3, m)
set_option maxRecDepth 100000 in
theorem bX6_passes_4 {E : jE} (hE : jOk E cX6_passes RX6) (hn : E.2.2.2.2 = 5) (hR : jRoom E 3 70) {ad : Nat → Nat} (hA : adOk ad) {r : GW} {b : Nat × Nat} {K : Int32 → MS → Prop} (hK : jRi E .int (KMI ad r K)) {x1 : Int32} {x2 : Int32} {x3 : Int32} {m : MS}  (hw : wX6_passes_4 x1 x2 x3 m K) : J E (mwX ad m r) b [(0, .ref (ad 0)), (1, .int (x1)), (2, .int (x2)), (3, .int (x3))] 4 [] := by
  refine lfp_sound (σ := Int32 × MS) (F := fun KL s => wX6_passes_4_b x1 x2 s.1 s.2 KL K) (P := fun s => J E (mwX ad (s.2) r) b [(0, .ref (ad 0)), (1, .int (x1)), (2, .int (x2)), (3, .int (s.1))] 4 []) ?_ hw
  clear hw
  rintro KL4 ⟨x3, m⟩ hw ih4
  have hw : wX6_passes_4_b x1 x2 x3 m KL4 K := hw
  unfold wX6_passes_4_b at hw
  refine j_iload_n hE 3 dX6_passes_4 rfl rfl ?_
  refine j_aload_n hE 0 dX6_passes_5 rfl rfl ?_
  refine jm_pI hE hA hR (As := []) (rest := [.int (x3)]) (ctX6_panes E.1.2.1 E.2.2.1 hA _ _  _ hw) rfl lkX6_panes jdX6_panes ⟨Nat.le_of_ble_eq_true rfl, Nat.le_of_ble_eq_true rfl⟩ rfl (Nat.le_of_ble_eq_true rfl) dX6_passes_6 (fun r1 hw => ?_)
  refine j_icmp_ge hE 75 dX6_passes_9 (by decide) (fun c2 => ?_) (fun c2 => ?_)
  · have hw := hw.1 c2
    refine j_iconst hE dX6_passes_75 kc_0 ?_
    refine j_istore_n (L' := [(3, .int (0)), (0, .ref (ad 0)), (1, .int (x1)), (2, .int (x2))]) hE hn dX6_passes_76 rfl (Nat.le_of_ble_eq_true rfl) rfl ?_
    refine j_sub [(0, .ref (ad 0)), (1, .int (x1)), (2, .int (x2)), (3, .int (0))] [1, 2, 3, 0] rfl ?_
    exact bX6_passes_77 hE hn hR hA hK  hw
  · have hw := hw.2 c2
    refine j_iconst hE dX6_passes_12 kc_0 ?_
    refine j_istore (L' := [(4, .int (0)), (0, .ref (ad 0)), (1, .int (x1)), (2, .int (x2)), (3, .int (x3))]) hE hn dX6_passes_13 (Nat.le_of_ble_eq_true rfl) rfl ?_
    refine j_sub [(0, .ref (ad 0)), (1, .int (x1)), (2, .int (x2)), (3, .int (x3)), (4, .int (0))] [1, 2, 3, 4, 0] rfl ?_
    exact bX6_passes_15 hE hn hR hA hK ih4 hw
def wX6_passes_0 (x1 : Int32) (m : MS) (K : Int32 → MS → Prop) : Prop :=
  wX6_passes_4 x1 0 0 m K
set_option maxRecDepth 100000 in
theorem bX6_passes_0 {E : jE} (hE : jOk E cX6_passes RX6) (hn : E.2.2.2.2 = 5) (hR : jRoom E 3 70) {ad : Nat → Nat} (hA : adOk ad) {r : GW} {b : Nat × Nat} {K : Int32 → MS → Prop} (hK : jRi E .int (KMI ad r K)) {x1 : Int32} {m : MS}  (hw : wX6_passes_0 x1 m K) : J E (mwX ad m r) b [(0, .ref (ad 0)), (1, .int (x1))] 0 [] := by
  unfold wX6_passes_0 at hw
  refine j_iconst hE dX6_passes_0 kc_0 ?_
  refine j_istore_n (L' := [(2, .int (0)), (0, .ref (ad 0)), (1, .int (x1))]) hE hn dX6_passes_1 rfl (Nat.le_of_ble_eq_true rfl) rfl ?_
  refine j_iconst hE dX6_passes_2 kc_0 ?_
  refine j_istore_n (L' := [(3, .int (0)), (2, .int (0)), (0, .ref (ad 0)), (1, .int (x1))]) hE hn dX6_passes_3 rfl (Nat.le_of_ble_eq_true rfl) rfl ?_
  refine j_sub [(0, .ref (ad 0)), (1, .int (x1)), (2, .int (0)), (3, .int (0))] [2, 3, 1, 0] rfl ?_
  exact bX6_passes_4 hE hn hR hA hK  hw
abbrev wX6_passes := wX6_passes_0
theorem ctX6_passes (l : Launch) (G : gG) {ad : Nat → Nat} (hA : adOk ad) (m0 : MS) (r : GW) (x1 : Int32) (K : Int32 → MS → Prop) (hw : wX6_passes x1 m0 K) : CtI l yX6_passes cX6_passes 5 .int ({ frames := 3, cells := 0, slots := 0, locals := 70 }) G [.ref (ad 0), .int (x1)] (mwX ad m0 r) (KMI ad r K) :=
  CtI.of RX6 plain_X6 rfl (Nat.le_of_ble_eq_true rfl) (fun E hE _ _ hn hR hK => bX6_passes_0 hE hn hR hA hK hw)
theorem jdX6_passes : jD yX6_passes 1 := by decide +kernel
theorem lkX6_passes : GoodIn lw_all (wsV RX6 361 yX6_passes.cls yX6_passes (ws_ yX6_passes cX6_passes 5 (some .int))) := lw_V q2001 q2003 qs106 q129 q2004
def wX6_hour_0 (m : MS) (K : Int32 → MS → Prop) : Prop :=
  ∀ m1 : MS, m1 = sF m 0 0 → (wX6_keeps  m1 (fun  m2 => wX6_passes 0 m2 (fun r3 m4 => K r3 m4)))
set_option maxRecDepth 100000 in
theorem bX6_hour_0 {E : jE} (hE : jOk E cX6_hour RX6) (hn : E.2.2.2.2 = 1) (hR : jRoom E 4 94) {ad : Nat → Nat} (hA : adOk ad) {r : GW} {b : Nat × Nat} {K : Int32 → MS → Prop} (hK : jRi E .int (KMI ad r K)) {m : MS}  (hw : wX6_hour_0 m K) : J E (mwX ad m r) b [(0, .ref (ad 0))] 0 [] := by
  unfold wX6_hour_0 at hw
  refine j_aload_n hE 0 dX6_hour_0 rfl rfl ?_
  refine j_iconst hE dX6_hour_1 kc_0 ?_
  refine jm_putF hE hA 0 0 (Nat.le_of_ble_eq_true rfl) q1647 rfl rfl (mset_0 _ _ _) rfl rfl dX6_hour_2 ?_
  refine j_wm (fun m1 e_m1 => ?_)
  have hw := hw m1 e_m1
  refine j_aload_n hE 0 dX6_hour_5 rfl rfl ?_
  refine jm_cV hE hA hR (As := []) (rest := []) (ctX6_keeps E.1.2.1 E.2.2.1 hA _ _  _ hw) rfl lkX6_keeps jdX6_keeps ⟨Nat.le_of_ble_eq_true rfl, Nat.le_of_ble_eq_true rfl⟩ rfl (Nat.le_of_ble_eq_true rfl) dX6_hour_6 (fun  m2 hw => ?_)
  refine j_aload_n hE 0 dX6_hour_9 rfl rfl ?_
  refine j_iconst hE dX6_hour_10 kc_0 ?_
  refine jm_cI hE hA hR (As := [.int (0)]) (rest := []) (ctX6_passes E.1.2.1 E.2.2.1 hA _ _ _  _ hw) rfl lkX6_passes jdX6_passes ⟨Nat.le_of_ble_eq_true rfl, Nat.le_of_ble_eq_true rfl⟩ rfl (Nat.le_of_ble_eq_true rfl) dX6_hour_11 (fun r3 m4 hw => ?_)
  exact j_iret hE hK dX6_hour_14 rfl ⟨_, rfl, hw⟩
abbrev wX6_hour := wX6_hour_0
theorem ctX6_hour (l : Launch) (G : gG) {ad : Nat → Nat} (hA : adOk ad) (m0 : MS) (r : GW)  (K : Int32 → MS → Prop) (hw : wX6_hour m0 K) : CtI l yX6_hour cX6_hour 1 .int ({ frames := 4, cells := 0, slots := 0, locals := 94 }) G [.ref (ad 0)] (mwX ad m0 r) (KMI ad r K) :=
  CtI.of RX6 plain_X6 rfl (Nat.le_of_ble_eq_true rfl) (fun E hE _ _ hn hR hK => bX6_hour_0 hE hn hR hA hK hw)
theorem jdX6_hour : jD yX6_hour 0 := by decide +kernel
def wX6_undo_0 (m : MS) (K : Int32 → MS → Prop) : Prop :=
  ∀ m1 : MS, m1 = sF m 0 0 → ((¬ (gF m1 9) = 0 → (∀ m3 : MS, m3 = sF m1 9 ((gF m1 9) - 1) → (wX6_copies ((nI 66) * ((nI 5) + (gF m3 9))) 0 (nI 60) m3 (fun  m4 => K 1 m4)))) ∧ ((gF m1 9) = 0 → (K 0 m1)))
set_option maxRecDepth 100000 in
theorem bX6_undo_0 {E : jE} (hE : jOk E cX6_undo RX6) (hn : E.2.2.2.2 = 1) (hR : jRoom E 1 24) {ad : Nat → Nat} (hA : adOk ad) {r : GW} {b : Nat × Nat} {K : Int32 → MS → Prop} (hK : jRi E .boolean (KMI ad r K)) {m : MS}  (hw : wX6_undo_0 m K) : J E (mwX ad m r) b [(0, .ref (ad 0))] 0 [] := by
  unfold wX6_undo_0 at hw
  refine j_aload_n hE 0 dX6_undo_0 rfl rfl ?_
  refine j_iconst hE dX6_undo_1 kc_0 ?_
  refine jm_putF hE hA 0 0 (Nat.le_of_ble_eq_true rfl) q1647 rfl rfl (mset_0 _ _ _) rfl rfl dX6_undo_2 ?_
  refine j_wm (fun m1 e_m1 => ?_)
  have hw := hw m1 e_m1
  refine j_aload_n hE 0 dX6_undo_5 rfl rfl ?_
  refine jm_get hE hA 25 (Nat.le_of_ble_eq_true rfl) q1672 rfl (v := .int (gF m1 9)) rfl dX6_undo_6 ?_
  refine j_if_ne hE 14 dX6_undo_9 (by decide) (fun c2 => ?_) (fun c2 => ?_)
  · have hw := hw.1 c2
    refine j_aload_n hE 0 dX6_undo_14 rfl rfl ?_
    refine j_dup hE dX6_undo_15 rfl ?_
    refine jm_get hE hA 25 (Nat.le_of_ble_eq_true rfl) q1672 rfl (v := .int (gF m1 9)) rfl dX6_undo_16 ?_
    refine j_iconst hE dX6_undo_19 kc_1 ?_
    refine j_isub hE dX6_undo_20 ?_
    refine jm_putF hE hA 25 9 (Nat.le_of_ble_eq_true rfl) q1672 rfl rfl (mset_9 _ _ _) rfl rfl dX6_undo_21 ?_
    refine j_wm (fun m3 e_m3 => ?_)
    have hw := hw m3 e_m3
    refine j_aload_n hE 0 dX6_undo_24 rfl rfl ?_
    refine j_bipush hE dX6_undo_25 kb_66 ?_
    refine j_iconst hE dX6_undo_27 kc_5 ?_
    refine j_aload_n hE 0 dX6_undo_28 rfl rfl ?_
    refine jm_get hE hA 25 (Nat.le_of_ble_eq_true rfl) q1672 rfl (v := .int (gF m3 9)) rfl dX6_undo_29 ?_
    refine j_iadd hE dX6_undo_32 ?_
    refine j_imul hE dX6_undo_33 ?_
    refine j_iconst hE dX6_undo_34 kc_0 ?_
    refine j_bipush hE dX6_undo_35 kb_60 ?_
    refine jm_cV hE hA hR (As := [.int ((nI 66) * ((nI 5) + (gF m3 9))), .int (0), .int (nI 60)]) (rest := []) (ctX6_copies E.1.2.1 E.2.2.1 hA _ _ _ _ _  _ hw) rfl lkX6_copies jdX6_copies ⟨Nat.le_of_ble_eq_true rfl, Nat.le_of_ble_eq_true rfl⟩ rfl (Nat.le_of_ble_eq_true rfl) dX6_undo_37 (fun  m4 hw => ?_)
    refine j_iconst hE dX6_undo_40 kc_1 ?_
    exact j_iret hE hK dX6_undo_41 rfl ⟨_, rfl, hw⟩
  · have hw := hw.2 c2
    refine j_iconst hE dX6_undo_12 kc_0 ?_
    exact j_iret hE hK dX6_undo_13 rfl ⟨_, rfl, hw⟩
abbrev wX6_undo := wX6_undo_0
theorem ctX6_undo (l : Launch) (G : gG) {ad : Nat → Nat} (hA : adOk ad) (m0 : MS) (r : GW)  (K : Int32 → MS → Prop) (hw : wX6_undo m0 K) : CtI l yX6_undo cX6_undo 1 .boolean ({ frames := 1, cells := 0, slots := 0, locals := 24 }) G [.ref (ad 0)] (mwX ad m0 r) (KMI ad r K) :=
  CtI.of RX6 plain_X6 rfl (Nat.le_of_ble_eq_true rfl) (fun E hE _ _ hn hR hK => bX6_undo_0 hE hn hR hA hK hw)
theorem jdX6_undo : jD yX6_undo 0 := by decide +kernel
def wX6_done_218 (x4 : Int32) (m : MS) (K : Int32 → MS → Prop) : Prop :=
  (x4 = 0 → (narrow .boolean (.int x4) = .int x4 ∧ K x4 m)) ∧ (¬ x4 = 0 → (wX6_passes (nI 1386) m (fun r2 m3 => narrow .boolean (.int x4) = .int x4 ∧ K x4 m3)))
set_option maxRecDepth 100000 in
theorem bX6_done_218 {E : jE} (hE : jOk E cX6_done RX6) (hn : E.2.2.2.2 = 5) (hR : jRoom E 5 120) {ad : Nat → Nat} (hA : adOk ad) {r : GW} {b : Nat × Nat} {K : Int32 → MS → Prop} (hK : jRi E .boolean (KMI ad r K)) {x4 : Int32} {m : MS}  (hw : wX6_done_218 x4 m K) : J E (mwX ad m r) b [(0, .ref (ad 0)), (4, .int (x4))] 218 [] := by
  unfold wX6_done_218 at hw
  refine j_iload hE 1 dX6_done_218 rfl ?_
  refine j_if_eq hE 231 dX6_done_220 (by decide) (fun c1 => ?_) (fun c1 => ?_)
  · have hw := hw.1 c1
    refine j_iload hE 1 dX6_done_231 rfl ?_
    obtain ⟨hz, hw⟩ := hw
    exact j_iret hE hK dX6_done_233 hz ⟨_, rfl, hw⟩
  · have hw := hw.2 c1
    refine j_aload_n hE 0 dX6_done_223 rfl rfl ?_
    refine j_sipush hE dX6_done_224 ks_1386 ?_
    refine jm_cI hE hA hR (As := [.int (nI 1386)]) (rest := []) (ctX6_passes E.1.2.1 E.2.2.1 hA _ _ _  _ hw) rfl lkX6_passes jdX6_passes ⟨Nat.le_of_ble_eq_true rfl, Nat.le_of_ble_eq_true rfl⟩ rfl (Nat.le_of_ble_eq_true rfl) dX6_done_227 (fun r2 m3 hw => ?_)
    refine j_pop hE dX6_done_230 rfl ?_
    refine j_iload hE 1 dX6_done_231 rfl ?_
    obtain ⟨hz, hw⟩ := hw
    exact j_iret hE hK dX6_done_233 hz ⟨_, rfl, hw⟩
def wX6_done_194 (x1 : Int32) (x2 : Int32) (x4 : Int32) (m : MS) (K : Int32 → MS → Prop) : Prop :=
  (x4 = 0 → (wX6_done_218 x4 m K)) ∧ (¬ x4 = 0 → ((¬ x1 = (nI 4) → (wX6_done_218 x4 m K)) ∧ (x1 = (nI 4) → (vp_in ((nI 1398) + x2) 1518 ∧ (∀ m4 : MS, m4 = wA m 11 ((nI 1398) + x2) 1 → (narrow .boolean (.int x4) = .int x4 ∧ K x4 m4))))))
set_option maxRecDepth 100000 in
theorem bX6_done_194 {E : jE} (hE : jOk E cX6_done RX6) (hn : E.2.2.2.2 = 5) (hR : jRoom E 5 120) {ad : Nat → Nat} (hA : adOk ad) {r : GW} {b : Nat × Nat} {K : Int32 → MS → Prop} (hK : jRi E .boolean (KMI ad r K)) {x1 : Int32} {x2 : Int32} {x4 : Int32} {m : MS}  (hw : wX6_done_194 x1 x2 x4 m K) : J E (mwX ad m r) b [(0, .ref (ad 0)), (1, .int (x1)), (2, .int (x2)), (4, .int (x4))] 194 [] := by
  unfold wX6_done_194 at hw
  refine j_iload hE 3 dX6_done_194 rfl ?_
  refine j_if_eq hE 218 dX6_done_196 (by decide) (fun c1 => ?_) (fun c1 => ?_)
  · have hw := hw.1 c1
    refine j_sub [(0, .ref (ad 0)), (4, .int (x4))] [0, 3] rfl ?_
    exact bX6_done_218 hE hn hR hA hK  hw
  · have hw := hw.2 c1
    refine j_iload_n hE 1 dX6_done_199 rfl rfl ?_
    refine j_iconst hE dX6_done_200 kc_4 ?_
    refine j_icmp_ne hE 218 dX6_done_201 (by decide) (fun c2 => ?_) (fun c2 => ?_)
    · have hw := hw.1 c2
      refine j_sub [(0, .ref (ad 0)), (4, .int (x4))] [0, 3] rfl ?_
      exact bX6_done_218 hE hn hR hA hK  hw
    · have hw := hw.2 c2
      refine j_aload_n hE 0 dX6_done_204 rfl rfl ?_
      refine jm_get hE hA 24 (Nat.le_of_ble_eq_true rfl) q1671 rfl (v := .ref (ad 12)) rfl dX6_done_205 ?_
      refine j_sipush hE dX6_done_208 ks_1398 ?_
      refine j_iload_n hE 2 dX6_done_211 rfl rfl ?_
      refine j_iadd hE dX6_done_212 ?_
      refine j_iconst hE dX6_done_213 kc_1 ?_
      obtain ⟨h3, hw⟩ := hw
      refine jm_iast hE hA 11 (Nat.le_of_ble_eq_true rfl) h3 dX6_done_214 ?_
      refine j_wm (fun m4 e_m4 => ?_)
      have hw := hw m4 e_m4
      refine j_goto hE 231 dX6_done_215 (by decide) ?_
      refine j_iload hE 3 dX6_done_231 rfl ?_
      obtain ⟨hz, hw⟩ := hw
      exact j_iret hE hK dX6_done_233 hz ⟨_, rfl, hw⟩
def wX6_done_159 (x1 : Int32) (x2 : Int32) (x4 : Int32) (m : MS) (K : Int32 → MS → Prop) : Prop :=
  (x4 = 0 → (wX6_done_194 x1 x2 x4 m K)) ∧ (¬ x4 = 0 → ((¬ x1 = (nI 3) → (wX6_done_194 x1 x2 x4 m K)) ∧ (x1 = (nI 3) → (vp_in ((nI 1392) + x2) 1518 ∧ (vp_in ((nI 1392) + x2) 1518 ∧ (∀ m5 : MS, m5 = wA m 11 ((nI 1392) + x2) (1 - (rd (gA m 11) ((nI 1392) + x2))) → (narrow .boolean (.int x4) = .int x4 ∧ K x4 m5)))))))
set_option maxRecDepth 100000 in
theorem bX6_done_159 {E : jE} (hE : jOk E cX6_done RX6) (hn : E.2.2.2.2 = 5) (hR : jRoom E 5 120) {ad : Nat → Nat} (hA : adOk ad) {r : GW} {b : Nat × Nat} {K : Int32 → MS → Prop} (hK : jRi E .boolean (KMI ad r K)) {x1 : Int32} {x2 : Int32} {x4 : Int32} {m : MS}  (hw : wX6_done_159 x1 x2 x4 m K) : J E (mwX ad m r) b [(0, .ref (ad 0)), (1, .int (x1)), (2, .int (x2)), (4, .int (x4))] 159 [] := by
  unfold wX6_done_159 at hw
  refine j_iload hE 3 dX6_done_159 rfl ?_
  refine j_if_eq hE 194 dX6_done_161 (by decide) (fun c1 => ?_) (fun c1 => ?_)
  · have hw := hw.1 c1
    exact bX6_done_194 hE hn hR hA hK  hw
  · have hw := hw.2 c1
    refine j_iload_n hE 1 dX6_done_164 rfl rfl ?_
    refine j_iconst hE dX6_done_165 kc_3 ?_
    refine j_icmp_ne hE 194 dX6_done_166 (by decide) (fun c2 => ?_) (fun c2 => ?_)
    · have hw := hw.1 c2
      exact bX6_done_194 hE hn hR hA hK  hw
    · have hw := hw.2 c2
      refine j_aload_n hE 0 dX6_done_169 rfl rfl ?_
      refine jm_get hE hA 24 (Nat.le_of_ble_eq_true rfl) q1671 rfl (v := .ref (ad 12)) rfl dX6_done_170 ?_
      refine j_sipush hE dX6_done_173 ks_1392 ?_
      refine j_iload_n hE 2 dX6_done_176 rfl rfl ?_
      refine j_iadd hE dX6_done_177 ?_
      refine j_iconst hE dX6_done_178 kc_1 ?_
      refine j_aload_n hE 0 dX6_done_179 rfl rfl ?_
      refine jm_get hE hA 24 (Nat.le_of_ble_eq_true rfl) q1671 rfl (v := .ref (ad 12)) rfl dX6_done_180 ?_
      refine j_sipush hE dX6_done_183 ks_1392 ?_
      refine j_iload_n hE 2 dX6_done_186 rfl rfl ?_
      refine j_iadd hE dX6_done_187 ?_
      obtain ⟨h3, hw⟩ := hw
      refine jm_iald hE hA 11 (Nat.le_of_ble_eq_true rfl) h3 dX6_done_188 ?_
      refine j_isub hE dX6_done_189 ?_
      obtain ⟨h4, hw⟩ := hw
      refine jm_iast hE hA 11 (Nat.le_of_ble_eq_true rfl) h4 dX6_done_190 ?_
      refine j_wm (fun m5 e_m5 => ?_)
      have hw := hw m5 e_m5
      refine j_goto hE 231 dX6_done_191 (by decide) ?_
      refine j_iload hE 3 dX6_done_231 rfl ?_
      obtain ⟨hz, hw⟩ := hw
      exact j_iret hE hK dX6_done_233 hz ⟨_, rfl, hw⟩
def wX6_done_132 (x1 : Int32) (x2 : Int32) (x4 : Int32) (m : MS) (K : Int32 → MS → Prop) : Prop :=
  (x4 = 0 → (wX6_done_159 x1 x2 x4 m K)) ∧ (¬ x4 = 0 → ((¬ x1 = (nI 2) → (wX6_done_159 x1 x2 x4 m K)) ∧ (x1 = (nI 2) → (vp_in ((nI 1404) + x2) 1518 ∧ (vp_in ((nI 1404) + x2) 1518 ∧ (∀ m5 : MS, m5 = wA m 11 ((nI 1404) + x2) ((rd (gA m 11) ((nI 1404) + x2)) - 1) → (narrow .boolean (.int x4) = .int x4 ∧ K x4 m5)))))))
set_option maxRecDepth 100000 in
theorem bX6_done_132 {E : jE} (hE : jOk E cX6_done RX6) (hn : E.2.2.2.2 = 5) (hR : jRoom E 5 120) {ad : Nat → Nat} (hA : adOk ad) {r : GW} {b : Nat × Nat} {K : Int32 → MS → Prop} (hK : jRi E .boolean (KMI ad r K)) {x1 : Int32} {x2 : Int32} {x4 : Int32} {m : MS}  (hw : wX6_done_132 x1 x2 x4 m K) : J E (mwX ad m r) b [(0, .ref (ad 0)), (1, .int (x1)), (2, .int (x2)), (4, .int (x4))] 132 [] := by
  unfold wX6_done_132 at hw
  refine j_iload hE 3 dX6_done_132 rfl ?_
  refine j_if_eq hE 159 dX6_done_134 (by decide) (fun c1 => ?_) (fun c1 => ?_)
  · have hw := hw.1 c1
    exact bX6_done_159 hE hn hR hA hK  hw
  · have hw := hw.2 c1
    refine j_iload_n hE 1 dX6_done_137 rfl rfl ?_
    refine j_iconst hE dX6_done_138 kc_2 ?_
    refine j_icmp_ne hE 159 dX6_done_139 (by decide) (fun c2 => ?_) (fun c2 => ?_)
    · have hw := hw.1 c2
      exact bX6_done_159 hE hn hR hA hK  hw
    · have hw := hw.2 c2
      refine j_aload_n hE 0 dX6_done_142 rfl rfl ?_
      refine jm_get hE hA 24 (Nat.le_of_ble_eq_true rfl) q1671 rfl (v := .ref (ad 12)) rfl dX6_done_143 ?_
      refine j_sipush hE dX6_done_146 ks_1404 ?_
      refine j_iload_n hE 2 dX6_done_149 rfl rfl ?_
      refine j_iadd hE dX6_done_150 ?_
      refine j_dup2 hE dX6_done_151 rfl rfl ?_
      obtain ⟨h3, hw⟩ := hw
      refine jm_iald hE hA 11 (Nat.le_of_ble_eq_true rfl) h3 dX6_done_152 ?_
      refine j_iconst hE dX6_done_153 kc_1 ?_
      refine j_isub hE dX6_done_154 ?_
      obtain ⟨h4, hw⟩ := hw
      refine jm_iast hE hA 11 (Nat.le_of_ble_eq_true rfl) h4 dX6_done_155 ?_
      refine j_wm (fun m5 e_m5 => ?_)
      have hw := hw m5 e_m5
      refine j_goto hE 231 dX6_done_156 (by decide) ?_
      refine j_iload hE 3 dX6_done_231 rfl ?_
      obtain ⟨hz, hw⟩ := hw
      exact j_iret hE hK dX6_done_233 hz ⟨_, rfl, hw⟩
def wX6_done_88 (x1 : Int32) (x2 : Int32) (x3 : Int32) (x4 : Int32) (m : MS) (K : Int32 → MS → Prop) : Prop :=
  (x4 = 0 → (wX6_done_132 x1 x2 x4 m K)) ∧ (¬ x4 = 0 → ((¬ x1 = 1 → (wX6_done_132 x1 x2 x4 m K)) ∧ (x1 = 1 → (vp_in ((nI 1387) + x2) 1518 ∧ (wX6_does_2 (nI 1386) x2 x3 (rd (gA m 11) ((nI 1387) + x2)) m (fun r4 m5 => (¬ r4 = 0 → (∀ m7 : MS, m7 = sF m5 10 0 → (narrow .boolean (.int x4) = .int x4 ∧ K x4 m7))) ∧ (r4 = 0 → (∀ m8 : MS, m8 = sF m5 10 1 → (narrow .boolean (.int x4) = .int x4 ∧ K x4 m8)))))))))
set_option maxRecDepth 100000 in
theorem bX6_done_88 {E : jE} (hE : jOk E cX6_done RX6) (hn : E.2.2.2.2 = 5) (hR : jRoom E 5 120) {ad : Nat → Nat} (hA : adOk ad) {r : GW} {b : Nat × Nat} {K : Int32 → MS → Prop} (hK : jRi E .boolean (KMI ad r K)) {x1 : Int32} {x2 : Int32} {x3 : Int32} {x4 : Int32} {m : MS}  (hw : wX6_done_88 x1 x2 x3 x4 m K) : J E (mwX ad m r) b [(0, .ref (ad 0)), (1, .int (x1)), (2, .int (x2)), (3, .int (x3)), (4, .int (x4))] 88 [] := by
  unfold wX6_done_88 at hw
  refine j_iload hE 4 dX6_done_88 rfl ?_
  refine j_if_eq hE 132 dX6_done_90 (by decide) (fun c1 => ?_) (fun c1 => ?_)
  · have hw := hw.1 c1
    refine j_sub [(0, .ref (ad 0)), (1, .int (x1)), (2, .int (x2)), (4, .int (x4))] [0, 1, 2, 4] rfl ?_
    exact bX6_done_132 hE hn hR hA hK  hw
  · have hw := hw.2 c1
    refine j_iload_n hE 1 dX6_done_93 rfl rfl ?_
    refine j_iconst hE dX6_done_94 kc_1 ?_
    refine j_icmp_ne hE 132 dX6_done_95 (by decide) (fun c2 => ?_) (fun c2 => ?_)
    · have hw := hw.1 c2
      refine j_sub [(0, .ref (ad 0)), (1, .int (x1)), (2, .int (x2)), (4, .int (x4))] [0, 1, 2, 4] rfl ?_
      exact bX6_done_132 hE hn hR hA hK  hw
    · have hw := hw.2 c2
      refine j_aload_n hE 0 dX6_done_98 rfl rfl ?_
      refine j_aload_n hE 0 dX6_done_99 rfl rfl ?_
      refine j_sipush hE dX6_done_100 ks_1386 ?_
      refine j_iload_n hE 2 dX6_done_103 rfl rfl ?_
      refine j_iload_n hE 3 dX6_done_104 rfl rfl ?_
      refine j_aload_n hE 0 dX6_done_105 rfl rfl ?_
      refine jm_get hE hA 24 (Nat.le_of_ble_eq_true rfl) q1671 rfl (v := .ref (ad 12)) rfl dX6_done_106 ?_
      refine j_sipush hE dX6_done_109 ks_1387 ?_
      refine j_iload_n hE 2 dX6_done_112 rfl rfl ?_
      refine j_iadd hE dX6_done_113 ?_
      obtain ⟨h3, hw⟩ := hw
      refine jm_iald hE hA 11 (Nat.le_of_ble_eq_true rfl) h3 dX6_done_114 ?_
      refine jm_cI hE hA hR (As := [.int (nI 1386), .int (x2), .int (x3), .int (rd (gA m 11) ((nI 1387) + x2))]) (rest := [.ref (ad 0)]) (ctX6_does_2 E.1.2.1 E.2.2.1 hA _ _ _ _ _ _  _ hw) rfl lkX6_does_2 jdX6_does_2 ⟨Nat.le_of_ble_eq_true rfl, Nat.le_of_ble_eq_true rfl⟩ rfl (Nat.le_of_ble_eq_true rfl) dX6_done_115 (fun r4 m5 hw => ?_)
      refine j_if_ne hE 125 dX6_done_118 (by decide) (fun c6 => ?_) (fun c6 => ?_)
      · have hw := hw.1 c6
        refine j_iconst hE dX6_done_125 kc_0 ?_
        refine jm_putF hE hA 27 10 (Nat.le_of_ble_eq_true rfl) q1674 rfl rfl (mset_10 _ _ _) rfl rfl dX6_done_126 ?_
        refine j_wm (fun m7 e_m7 => ?_)
        have hw := hw m7 e_m7
        refine j_goto hE 231 dX6_done_129 (by decide) ?_
        refine j_iload hE 4 dX6_done_231 rfl ?_
        obtain ⟨hz, hw⟩ := hw
        exact j_iret hE hK dX6_done_233 hz ⟨_, rfl, hw⟩
      · have hw := hw.2 c6
        refine j_iconst hE dX6_done_121 kc_1 ?_
        refine j_goto hE 126 dX6_done_122 (by decide) ?_
        refine jm_putF hE hA 27 10 (Nat.le_of_ble_eq_true rfl) q1674 rfl rfl (mset_10 _ _ _) rfl rfl dX6_done_126 ?_
        refine j_wm (fun m8 e_m8 => ?_)
        have hw := hw m8 e_m8
        refine j_goto hE 231 dX6_done_129 (by decide) ?_
        refine j_iload hE 4 dX6_done_231 rfl ?_
        obtain ⟨hz, hw⟩ := hw
        exact j_iret hE hK dX6_done_233 hz ⟨_, rfl, hw⟩
def wX6_done_58 (x1 : Int32) (x2 : Int32) (x3 : Int32) (s0 : Int32) (m : MS) (K : Int32 → MS → Prop) : Prop :=
  ∀ m1 : MS, m1 = sF m 10 0 → ((s0 = 0 → (wX6_done_88 x1 x2 x3 s0 m1 K)) ∧ (¬ s0 = 0 → ((¬ x1 = 0 → (wX6_done_88 x1 x2 x3 s0 m1 K)) ∧ (x1 = 0 → (vp_in ((nI 1387) + x2) 1518 ∧ (∀ m5 : MS, m5 = wA m1 11 ((nI 1387) + x2) x3 → (narrow .boolean (.int s0) = .int s0 ∧ K s0 m5)))))))
set_option maxRecDepth 100000 in
theorem bX6_done_58 {E : jE} (hE : jOk E cX6_done RX6) (hn : E.2.2.2.2 = 5) (hR : jRoom E 5 120) {ad : Nat → Nat} (hA : adOk ad) {r : GW} {b : Nat × Nat} {K : Int32 → MS → Prop} (hK : jRi E .boolean (KMI ad r K)) {x1 : Int32} {x2 : Int32} {x3 : Int32} {s0 : Int32} {m : MS}  (hw : wX6_done_58 x1 x2 x3 s0 m K) : J E (mwX ad m r) b [(0, .ref (ad 0)), (1, .int (x1)), (2, .int (x2)), (3, .int (x3))] 58 [.int (s0)] := by
  unfold wX6_done_58 at hw
  refine j_istore (L' := [(4, .int (s0)), (0, .ref (ad 0)), (1, .int (x1)), (2, .int (x2)), (3, .int (x3))]) hE hn dX6_done_58 (Nat.le_of_ble_eq_true rfl) rfl ?_
  refine j_aload_n hE 1 dX6_done_60 rfl rfl ?_
  refine j_iconst hE dX6_done_61 kc_0 ?_
  refine jm_putF hE hA 27 10 (Nat.le_of_ble_eq_true rfl) q1674 rfl rfl (mset_10 _ _ _) rfl rfl dX6_done_62 ?_
  refine j_wm (fun m1 e_m1 => ?_)
  have hw := hw m1 e_m1
  refine j_iload hE 0 dX6_done_65 rfl ?_
  refine j_if_eq hE 88 dX6_done_67 (by decide) (fun c2 => ?_) (fun c2 => ?_)
  · have hw := hw.1 c2
    refine j_sub [(0, .ref (ad 0)), (1, .int (x1)), (2, .int (x2)), (3, .int (x3)), (4, .int (s0))] [1, 2, 3, 4, 0] rfl ?_
    exact bX6_done_88 hE hn hR hA hK  hw
  · have hw := hw.2 c2
    refine j_iload_n hE 2 dX6_done_70 rfl rfl ?_
    refine j_if_ne hE 88 dX6_done_71 (by decide) (fun c3 => ?_) (fun c3 => ?_)
    · have hw := hw.1 c3
      refine j_sub [(0, .ref (ad 0)), (1, .int (x1)), (2, .int (x2)), (3, .int (x3)), (4, .int (s0))] [1, 2, 3, 4, 0] rfl ?_
      exact bX6_done_88 hE hn hR hA hK  hw
    · have hw := hw.2 c3
      refine j_aload_n hE 1 dX6_done_74 rfl rfl ?_
      refine jm_get hE hA 24 (Nat.le_of_ble_eq_true rfl) q1671 rfl (v := .ref (ad 12)) rfl dX6_done_75 ?_
      refine j_sipush hE dX6_done_78 ks_1387 ?_
      refine j_iload_n hE 3 dX6_done_81 rfl rfl ?_
      refine j_iadd hE dX6_done_82 ?_
      refine j_iload_n hE 4 dX6_done_83 rfl rfl ?_
      obtain ⟨h4, hw⟩ := hw
      refine jm_iast hE hA 11 (Nat.le_of_ble_eq_true rfl) h4 dX6_done_84 ?_
      refine j_wm (fun m5 e_m5 => ?_)
      have hw := hw m5 e_m5
      refine j_goto hE 231 dX6_done_85 (by decide) ?_
      refine j_iload hE 0 dX6_done_231 rfl ?_
      obtain ⟨hz, hw⟩ := hw
      exact j_iret hE hK dX6_done_233 hz ⟨_, rfl, hw⟩
def wX6_done_53 (x1 : Int32) (x2 : Int32) (x3 : Int32) (m : MS) (K : Int32 → MS → Prop) : Prop :=
  wX6_done_58 x1 x2 x3 1 m K
set_option maxRecDepth 100000 in
theorem bX6_done_53 {E : jE} (hE : jOk E cX6_done RX6) (hn : E.2.2.2.2 = 5) (hR : jRoom E 5 120) {ad : Nat → Nat} (hA : adOk ad) {r : GW} {b : Nat × Nat} {K : Int32 → MS → Prop} (hK : jRi E .boolean (KMI ad r K)) {x1 : Int32} {x2 : Int32} {x3 : Int32} {m : MS}  (hw : wX6_done_53 x1 x2 x3 m K) : J E (mwX ad m r) b [(0, .ref (ad 0)), (1, .int (x1)), (2, .int (x2)), (3, .int (x3))] 53 [] := by
  unfold wX6_done_53 at hw
  refine j_iconst hE dX6_done_53 kc_1 ?_
  refine j_goto hE 58 dX6_done_54 (by decide) ?_
  exact bX6_done_58 hE hn hR hA hK  hw
def wX6_done_0 (x1 : Int32) (x2 : Int32) (x3 : Int32) (m : MS) (K : Int32 → MS → Prop) : Prop :=
  (¬ x1 = 0 → ((¬ x1 = (nI 2) → ((x1 = 1 → (wX6_done_53 x1 x2 x3 m K)) ∧ (¬ x1 = 1 → ((x1 = (nI 5) → (wX6_done_53 x1 x2 x3 m K)) ∧ (¬ x1 = (nI 5) → (wX6_isWhole (nI 1386) x2 m (fun r5 => (r5 = 0 → (wX6_done_58 x1 x2 x3 0 m K)) ∧ (¬ r5 = 0 → (wX6_done_53 x1 x2 x3 m K))))))))) ∧ (x1 = (nI 2) → (wX6_mayWash (nI 1386) x2 m (fun r7 => wX6_done_58 x1 x2 x3 r7 m K))))) ∧ (x1 = 0 → (wX6_mayWalk (nI 1386) x2 x3 m (fun r8 => wX6_done_58 x1 x2 x3 r8 m K)))
set_option maxRecDepth 100000 in
theorem bX6_done_0 {E : jE} (hE : jOk E cX6_done RX6) (hn : E.2.2.2.2 = 5) (hR : jRoom E 5 120) {ad : Nat → Nat} (hA : adOk ad) {r : GW} {b : Nat × Nat} {K : Int32 → MS → Prop} (hK : jRi E .boolean (KMI ad r K)) {x1 : Int32} {x2 : Int32} {x3 : Int32} {m : MS}  (hw : wX6_done_0 x1 x2 x3 m K) : J E (mwX ad m r) b [(0, .ref (ad 0)), (1, .int (x1)), (2, .int (x2)), (3, .int (x3))] 0 [] := by
  unfold wX6_done_0 at hw
  refine j_iload_n hE 1 dX6_done_0 rfl rfl ?_
  refine j_if_ne hE 16 dX6_done_1 (by decide) (fun c1 => ?_) (fun c1 => ?_)
  · have hw := hw.1 c1
    refine j_iload_n hE 1 dX6_done_16 rfl rfl ?_
    refine j_iconst hE dX6_done_17 kc_2 ?_
    refine j_icmp_ne hE 32 dX6_done_18 (by decide) (fun c2 => ?_) (fun c2 => ?_)
    · have hw := hw.1 c2
      refine j_iload_n hE 1 dX6_done_32 rfl rfl ?_
      refine j_iconst hE dX6_done_33 kc_1 ?_
      refine j_icmp_eq hE 53 dX6_done_34 (by decide) (fun c3 => ?_) (fun c3 => ?_)
      · have hw := hw.1 c3
        exact bX6_done_53 hE hn hR hA hK  hw
      · have hw := hw.2 c3
        refine j_iload_n hE 1 dX6_done_37 rfl rfl ?_
        refine j_iconst hE dX6_done_38 kc_5 ?_
        refine j_icmp_eq hE 53 dX6_done_39 (by decide) (fun c4 => ?_) (fun c4 => ?_)
        · have hw := hw.1 c4
          exact bX6_done_53 hE hn hR hA hK  hw
        · have hw := hw.2 c4
          refine j_aload_n hE 0 dX6_done_42 rfl rfl ?_
          refine j_sipush hE dX6_done_43 ks_1386 ?_
          refine j_iload_n hE 2 dX6_done_46 rfl rfl ?_
          refine jm_pI hE hA hR (As := [.int (nI 1386), .int (x2)]) (rest := []) (ctX6_isWhole E.1.2.1 E.2.2.1 hA _ _ _ _  _ hw) rfl lkX6_isWhole jdX6_isWhole ⟨Nat.le_of_ble_eq_true rfl, Nat.le_of_ble_eq_true rfl⟩ rfl (Nat.le_of_ble_eq_true rfl) dX6_done_47 (fun r5 hw => ?_)
          refine j_if_eq hE 57 dX6_done_50 (by decide) (fun c6 => ?_) (fun c6 => ?_)
          · have hw := hw.1 c6
            refine j_iconst hE dX6_done_57 kc_0 ?_
            exact bX6_done_58 hE hn hR hA hK  hw
          · have hw := hw.2 c6
            exact bX6_done_53 hE hn hR hA hK  hw
    · have hw := hw.2 c2
      refine j_aload_n hE 0 dX6_done_21 rfl rfl ?_
      refine j_sipush hE dX6_done_22 ks_1386 ?_
      refine j_iload_n hE 2 dX6_done_25 rfl rfl ?_
      refine jm_pI hE hA hR (As := [.int (nI 1386), .int (x2)]) (rest := []) (ctX6_mayWash E.1.2.1 E.2.2.1 hA _ _ _ _  _ hw) rfl lkX6_mayWash jdX6_mayWash ⟨Nat.le_of_ble_eq_true rfl, Nat.le_of_ble_eq_true rfl⟩ rfl (Nat.le_of_ble_eq_true rfl) dX6_done_26 (fun r7 hw => ?_)
      refine j_goto hE 58 dX6_done_29 (by decide) ?_
      exact bX6_done_58 hE hn hR hA hK  hw
  · have hw := hw.2 c1
    refine j_aload_n hE 0 dX6_done_4 rfl rfl ?_
    refine j_sipush hE dX6_done_5 ks_1386 ?_
    refine j_iload_n hE 2 dX6_done_8 rfl rfl ?_
    refine j_iload_n hE 3 dX6_done_9 rfl rfl ?_
    refine jm_pI hE hA hR (As := [.int (nI 1386), .int (x2), .int (x3)]) (rest := []) (ctX6_mayWalk E.1.2.1 E.2.2.1 hA _ _ _ _ _  _ hw) rfl lkX6_mayWalk jdX6_mayWalk ⟨Nat.le_of_ble_eq_true rfl, Nat.le_of_ble_eq_true rfl⟩ rfl (Nat.le_of_ble_eq_true rfl) dX6_done_10 (fun r8 hw => ?_)
    refine j_goto hE 58 dX6_done_13 (by decide) ?_
    exact bX6_done_58 hE hn hR hA hK  hw
abbrev wX6_done := wX6_done_0
theorem ctX6_done (l : Launch) (G : gG) {ad : Nat → Nat} (hA : adOk ad) (m0 : MS) (r : GW) (x1 : Int32) (x2 : Int32) (x3 : Int32) (K : Int32 → MS → Prop) (hw : wX6_done x1 x2 x3 m0 K) : CtI l yX6_done cX6_done 5 .boolean ({ frames := 5, cells := 0, slots := 0, locals := 120 }) G [.ref (ad 0), .int (x1), .int (x2), .int (x3)] (mwX ad m0 r) (KMI ad r K) :=
  CtI.of RX6 plain_X6 rfl (Nat.le_of_ble_eq_true rfl) (fun E hE _ _ hn hR hK => bX6_done_0 hE hn hR hA hK hw)
theorem jdX6_done : jD yX6_done 3 := by decide +kernel
theorem lkX6_done : GoodIn lw_all (wsV RX6 368 yX6_done.cls yX6_done (ws_ yX6_done cX6_done 5 (some .boolean))) := lw_V q2024 q2026 qs109 q129 q2027
def wX6_deedsBy_78 (x1 : Int32) (x2 : Int32) (x3 : Int32) (x6 : Int32) (x7 : Int32) (x8 : Int32) (s0 : Int32) (m0 : MS) (KL34 : Int32 × Int32 → Prop) (K : Int32 → Prop) : Prop :=
  wX6_deedOf x8 (fun r1 => ∀ v2 : Int32, v2 = s0 ||| (ishl 1 r1) → (KL34 (v2, x7 + 1)))
set_option maxRecDepth 100000 in
theorem bX6_deedsBy_78 {E : jE} (hE : jOk E cX6_deedsBy RX6) (hn : E.2.2.2.2 = 9) (hR : jRoom E 2 45) {ad : Nat → Nat} (hA : adOk ad) {r : GW} {m0 : MS} {b : Nat × Nat} {K : Int32 → Prop} (hK : jRi E .int (KPI (mwX ad m0 r) K)) {x1 : Int32} {x2 : Int32} {x3 : Int32} {x6 : Int32} {x7 : Int32} {x8 : Int32} {s0 : Int32} {KL34 : Int32 × Int32 → Prop} (ih34 : ∀ s : Int32 × Int32, KL34 s → J E (mwX ad m0 r) b [(0, .ref (ad 0)), (1, .int (x1)), (2, .int (x2)), (3, .int (x3)), (5, .int (s.1)), (6, .int (x6)), (7, .int (s.2))] 34 []) (hw : wX6_deedsBy_78 x1 x2 x3 x6 x7 x8 s0 m0 KL34 K) : J E (mwX ad m0 r) b [(0, .ref (ad 0)), (1, .int (x1)), (2, .int (x2)), (3, .int (x3)), (6, .int (x6)), (7, .int (x7)), (8, .int (x8))] 78 [.int (s0)] := by
  unfold wX6_deedsBy_78 at hw
  refine j_iconst hE dX6_deedsBy_78 kc_1 ?_
  refine j_iload hE 6 dX6_deedsBy_79 rfl ?_
  refine j_psI hE hR (As := [.int (x8)]) (rest := [.int (1), .int (s0)]) (ctX6_deedOf E.1.2.1 E.2.2.1 _ _  _ hw) lkX6_deedOf jdX6_deedOf ⟨Nat.le_of_ble_eq_true rfl, Nat.le_of_ble_eq_true rfl⟩ rfl (Nat.le_of_ble_eq_true rfl) dX6_deedsBy_81 (fun r1 hw => ?_)
  refine j_ishl hE dX6_deedsBy_84 ?_
  refine j_goto hE 89 dX6_deedsBy_85 (by decide) ?_
  refine j_ior hE dX6_deedsBy_89 ?_
  refine j_topi (fun v2 e_v2 => ?_)
  have hw := hw v2 e_v2
  refine j_istore (L' := [(5, .int (v2)), (0, .ref (ad 0)), (1, .int (x1)), (2, .int (x2)), (3, .int (x3)), (6, .int (x6)), (7, .int (x7)), (8, .int (x8))]) hE hn dX6_deedsBy_90 (Nat.le_of_ble_eq_true rfl) rfl ?_
  refine j_iinc (L' := [(7, .int (x7 + 1)), (5, .int (v2)), (0, .ref (ad 0)), (1, .int (x1)), (2, .int (x2)), (3, .int (x3)), (6, .int (x6)), (8, .int (x8))]) hE hn 6 dX6_deedsBy_92 rfl (congrArg (x7 + ·) kc_1) (Nat.le_of_ble_eq_true rfl) rfl ?_
  refine j_goto hE 34 dX6_deedsBy_95 (by decide) ?_
  refine j_sub [(0, .ref (ad 0)), (1, .int (x1)), (2, .int (x2)), (3, .int (x3)), (5, .int (v2)), (6, .int (x6)), (7, .int (x7 + 1))] [2, 3, 4, 5, 1, 6, 0] rfl ?_
  have hz := ih34 (v2, x7 + 1) hw
  exact hz
def wX6_deedsBy_34_b (x1 : Int32) (x2 : Int32) (x3 : Int32) (x6 : Int32) (x5 : Int32) (x7 : Int32) (m0 : MS) (KL34 : Int32 × Int32 → Prop) (K : Int32 → Prop) : Prop :=
  (x6 ≤ x7 → (K x5)) ∧ (¬ x6 ≤ x7 → (wX6_isShown x1 x2 m0 (fun r2 => (r2 = 0 → (K x5)) ∧ (¬ r2 = 0 → (wX6_markOf x1 x2 x7 m0 (fun r4 => (x3 < 0 → (wX6_deedsBy_78 x1 x2 x3 x6 x7 r4 x5 m0 KL34 K)) ∧ (¬ x3 < 0 → (wX6_shownOf x1 x2 r4 m0 (fun r6 => (¬ r6 = x3 → (∀ v8 : Int32, v8 = x5 ||| 0 → (KL34 (v8, x7 + 1)))) ∧ (r6 = x3 → (wX6_deedsBy_78 x1 x2 x3 x6 x7 r4 x5 m0 KL34 K)))))))))))
def wX6_deedsBy_34 (x1 : Int32) (x2 : Int32) (x3 : Int32) (x6 : Int32) (x5 : Int32) (x7 : Int32) (m0 : MS) (K : Int32 → Prop) : Prop := lfp (σ := Int32 × Int32) (fun KL s => wX6_deedsBy_34_b x1 x2 x3 x6 s.1 s.2 m0 KL K) (x5, x7)
set_option maxRecDepth 100000 in
theorem bX6_deedsBy_34 {E : jE} (hE : jOk E cX6_deedsBy RX6) (hn : E.2.2.2.2 = 9) (hR : jRoom E 2 45) {ad : Nat → Nat} (hA : adOk ad) {r : GW} {m0 : MS} {b : Nat × Nat} {K : Int32 → Prop} (hK : jRi E .int (KPI (mwX ad m0 r) K)) {x1 : Int32} {x2 : Int32} {x3 : Int32} {x6 : Int32} {x5 : Int32} {x7 : Int32}  (hw : wX6_deedsBy_34 x1 x2 x3 x6 x5 x7 m0 K) : J E (mwX ad m0 r) b [(0, .ref (ad 0)), (1, .int (x1)), (2, .int (x2)), (3, .int (x3)), (5, .int (x5)), (6, .int (x6)), (7, .int (x7))] 34 [] := by
  refine lfp_sound (σ := Int32 × Int32) (F := fun KL s => wX6_deedsBy_34_b x1 x2 x3 x6 s.1 s.2 m0 KL K) (P := fun s => J E (mwX ad m0 r) b [(0, .ref (ad 0)), (1, .int (x1)), (2, .int (x2)), (3, .int (x3)), (5, .int (s.1)), (6, .int (x6)), (7, .int (s.2))] 34 []) ?_ hw
  clear hw
  rintro KL34 ⟨x5, x7⟩ hw ih34
  have hw : wX6_deedsBy_34_b x1 x2 x3 x6 x5 x7 m0 KL34 K := hw
  unfold wX6_deedsBy_34_b at hw
  refine j_iload hE 6 dX6_deedsBy_34 rfl ?_
  refine j_iload hE 5 dX6_deedsBy_36 rfl ?_
  refine j_icmp_ge hE 98 dX6_deedsBy_38 (by decide) (fun c1 => ?_) (fun c1 => ?_)
  · have hw := hw.1 c1
    refine j_iload hE 4 dX6_deedsBy_98 rfl ?_
    exact j_iret hE hK dX6_deedsBy_100 rfl ⟨rfl, hw⟩
  · have hw := hw.2 c1
    refine j_aload_n hE 0 dX6_deedsBy_41 rfl rfl ?_
    refine j_iload_n hE 1 dX6_deedsBy_42 rfl rfl ?_
    refine j_iload_n hE 2 dX6_deedsBy_43 rfl rfl ?_
    refine jm_pI hE hA hR (As := [.int (x1), .int (x2)]) (rest := []) (ctX6_isShown E.1.2.1 E.2.2.1 hA _ _ _ _  _ hw) rfl lkX6_isShown jdX6_isShown ⟨Nat.le_of_ble_eq_true rfl, Nat.le_of_ble_eq_true rfl⟩ rfl (Nat.le_of_ble_eq_true rfl) dX6_deedsBy_44 (fun r2 hw => ?_)
    refine j_if_eq hE 98 dX6_deedsBy_47 (by decide) (fun c3 => ?_) (fun c3 => ?_)
    · have hw := hw.1 c3
      refine j_iload hE 4 dX6_deedsBy_98 rfl ?_
      exact j_iret hE hK dX6_deedsBy_100 rfl ⟨rfl, hw⟩
    · have hw := hw.2 c3
      refine j_aload_n hE 0 dX6_deedsBy_50 rfl rfl ?_
      refine j_iload_n hE 1 dX6_deedsBy_51 rfl rfl ?_
      refine j_iload_n hE 2 dX6_deedsBy_52 rfl rfl ?_
      refine j_iload hE 6 dX6_deedsBy_53 rfl ?_
      refine jm_pI hE hA hR (As := [.int (x1), .int (x2), .int (x7)]) (rest := []) (ctX6_markOf E.1.2.1 E.2.2.1 hA _ _ _ _ _  _ hw) rfl lkX6_markOf jdX6_markOf ⟨Nat.le_of_ble_eq_true rfl, Nat.le_of_ble_eq_true rfl⟩ rfl (Nat.le_of_ble_eq_true rfl) dX6_deedsBy_55 (fun r4 hw => ?_)
      refine j_istore (L' := [(8, .int (r4)), (0, .ref (ad 0)), (1, .int (x1)), (2, .int (x2)), (3, .int (x3)), (5, .int (x5)), (6, .int (x6)), (7, .int (x7))]) hE hn dX6_deedsBy_58 (Nat.le_of_ble_eq_true rfl) rfl ?_
      refine j_iload hE 5 dX6_deedsBy_60 rfl ?_
      refine j_iload_n hE 4 dX6_deedsBy_62 rfl rfl ?_
      refine j_if_lt hE 78 dX6_deedsBy_63 (by decide) (fun c5 => ?_) (fun c5 => ?_)
      · have hw := hw.1 c5
        refine j_sub [(0, .ref (ad 0)), (1, .int (x1)), (2, .int (x2)), (3, .int (x3)), (6, .int (x6)), (7, .int (x7)), (8, .int (r4))] [1, 2, 3, 4, 6, 7, 0] rfl ?_
        exact bX6_deedsBy_78 hE hn hR hA hK ih34 hw
      · have hw := hw.2 c5
        refine j_aload_n hE 1 dX6_deedsBy_66 rfl rfl ?_
        refine j_iload_n hE 2 dX6_deedsBy_67 rfl rfl ?_
        refine j_iload_n hE 3 dX6_deedsBy_68 rfl rfl ?_
        refine j_iload hE 0 dX6_deedsBy_69 rfl ?_
        refine jm_pI hE hA hR (As := [.int (x1), .int (x2), .int (r4)]) (rest := [.int (x5)]) (ctX6_shownOf E.1.2.1 E.2.2.1 hA _ _ _ _ _  _ hw) rfl lkX6_shownOf jdX6_shownOf ⟨Nat.le_of_ble_eq_true rfl, Nat.le_of_ble_eq_true rfl⟩ rfl (Nat.le_of_ble_eq_true rfl) dX6_deedsBy_71 (fun r6 hw => ?_)
        refine j_iload_n hE 4 dX6_deedsBy_74 rfl rfl ?_
        refine j_icmp_ne hE 88 dX6_deedsBy_75 (by decide) (fun c7 => ?_) (fun c7 => ?_)
        · have hw := hw.1 c7
          refine j_iconst hE dX6_deedsBy_88 kc_0 ?_
          refine j_ior hE dX6_deedsBy_89 ?_
          refine j_topi (fun v8 e_v8 => ?_)
          have hw := hw v8 e_v8
          refine j_istore (L' := [(5, .int (v8)), (8, .int (r4)), (0, .ref (ad 0)), (1, .int (x1)), (2, .int (x2)), (3, .int (x3)), (6, .int (x6)), (7, .int (x7))]) hE hn dX6_deedsBy_90 (Nat.le_of_ble_eq_true rfl) rfl ?_
          refine j_iinc (L' := [(7, .int (x7 + 1)), (5, .int (v8)), (8, .int (r4)), (0, .ref (ad 0)), (1, .int (x1)), (2, .int (x2)), (3, .int (x3)), (6, .int (x6))]) hE hn 7 dX6_deedsBy_92 rfl (congrArg (x7 + ·) kc_1) (Nat.le_of_ble_eq_true rfl) rfl ?_
          refine j_goto hE 34 dX6_deedsBy_95 (by decide) ?_
          refine j_sub [(0, .ref (ad 0)), (1, .int (x1)), (2, .int (x2)), (3, .int (x3)), (5, .int (v8)), (6, .int (x6)), (7, .int (x7 + 1))] [3, 4, 5, 6, 1, 7, 0] rfl ?_
          have hz := ih34 (v8, x7 + 1) hw
          exact hz
        · have hw := hw.2 c7
          refine j_sub [(0, .ref (ad 0)), (1, .int (x1)), (2, .int (x2)), (3, .int (x3)), (6, .int (x6)), (7, .int (x7)), (8, .int (r4))] [1, 2, 3, 4, 6, 7, 0] rfl ?_
          exact bX6_deedsBy_78 hE hn hR hA hK ih34 hw
def wX6_deedsBy_0 (x1 : Int32) (x2 : Int32) (x3 : Int32) (x4 : Int32) (m0 : MS) (K : Int32 → Prop) : Prop :=
  vp_in ((x1 + (nI 18)) + x2) 1518 ∧ (∀ v2 : Int32, v2 = rd (gA m0 11) ((x1 + (nI 18)) + x2) → ((v2 ≤ x4 → (wX6_deedsBy_34 x1 x2 x3 v2 0 0 m0 K)) ∧ (¬ v2 ≤ x4 → (∀ v4 : Int32, v4 = v2 - x4 → (wX6_deedsBy_34 x1 x2 x3 v2 0 v4 m0 K)))))
set_option maxRecDepth 100000 in
theorem bX6_deedsBy_0 {E : jE} (hE : jOk E cX6_deedsBy RX6) (hn : E.2.2.2.2 = 9) (hR : jRoom E 2 45) {ad : Nat → Nat} (hA : adOk ad) {r : GW} {m0 : MS} {b : Nat × Nat} {K : Int32 → Prop} (hK : jRi E .int (KPI (mwX ad m0 r) K)) {x1 : Int32} {x2 : Int32} {x3 : Int32} {x4 : Int32}  (hw : wX6_deedsBy_0 x1 x2 x3 x4 m0 K) : J E (mwX ad m0 r) b [(0, .ref (ad 0)), (1, .int (x1)), (2, .int (x2)), (3, .int (x3)), (4, .int (x4))] 0 [] := by
  unfold wX6_deedsBy_0 at hw
  refine j_iconst hE dX6_deedsBy_0 kc_0 ?_
  refine j_istore (L' := [(5, .int (0)), (0, .ref (ad 0)), (1, .int (x1)), (2, .int (x2)), (3, .int (x3)), (4, .int (x4))]) hE hn dX6_deedsBy_1 (Nat.le_of_ble_eq_true rfl) rfl ?_
  refine j_aload_n hE 1 dX6_deedsBy_3 rfl rfl ?_
  refine jm_get hE hA 24 (Nat.le_of_ble_eq_true rfl) q1671 rfl (v := .ref (ad 12)) rfl dX6_deedsBy_4 ?_
  refine j_iload_n hE 2 dX6_deedsBy_7 rfl rfl ?_
  refine j_bipush hE dX6_deedsBy_8 kb_18 ?_
  refine j_iadd hE dX6_deedsBy_10 ?_
  refine j_iload_n hE 3 dX6_deedsBy_11 rfl rfl ?_
  refine j_iadd hE dX6_deedsBy_12 ?_
  obtain ⟨h1, hw⟩ := hw
  refine jm_iald hE hA 11 (Nat.le_of_ble_eq_true rfl) h1 dX6_deedsBy_13 ?_
  refine j_topi (fun v2 e_v2 => ?_)
  have hw := hw v2 e_v2
  refine j_istore (L' := [(6, .int (v2)), (5, .int (0)), (0, .ref (ad 0)), (1, .int (x1)), (2, .int (x2)), (3, .int (x3)), (4, .int (x4))]) hE hn dX6_deedsBy_14 (Nat.le_of_ble_eq_true rfl) rfl ?_
  refine j_iload hE 0 dX6_deedsBy_16 rfl ?_
  refine j_iload hE 6 dX6_deedsBy_18 rfl ?_
  refine j_icmp_le hE 31 dX6_deedsBy_20 (by decide) (fun c3 => ?_) (fun c3 => ?_)
  · have hw := hw.1 c3
    refine j_iconst hE dX6_deedsBy_31 kc_0 ?_
    refine j_istore (L' := [(7, .int (0)), (6, .int (v2)), (5, .int (0)), (0, .ref (ad 0)), (1, .int (x1)), (2, .int (x2)), (3, .int (x3)), (4, .int (x4))]) hE hn dX6_deedsBy_32 (Nat.le_of_ble_eq_true rfl) rfl ?_
    refine j_sub [(0, .ref (ad 0)), (1, .int (x1)), (2, .int (x2)), (3, .int (x3)), (5, .int (0)), (6, .int (v2)), (7, .int (0))] [3, 4, 5, 6, 2, 1, 0] rfl ?_
    exact bX6_deedsBy_34 hE hn hR hA hK  hw
  · have hw := hw.2 c3
    refine j_iload hE 0 dX6_deedsBy_23 rfl ?_
    refine j_iload hE 6 dX6_deedsBy_25 rfl ?_
    refine j_isub hE dX6_deedsBy_27 ?_
    refine j_goto hE 32 dX6_deedsBy_28 (by decide) ?_
    refine j_topi (fun v4 e_v4 => ?_)
    have hw := hw v4 e_v4
    refine j_istore (L' := [(7, .int (v4)), (6, .int (v2)), (5, .int (0)), (0, .ref (ad 0)), (1, .int (x1)), (2, .int (x2)), (3, .int (x3)), (4, .int (x4))]) hE hn dX6_deedsBy_32 (Nat.le_of_ble_eq_true rfl) rfl ?_
    refine j_sub [(0, .ref (ad 0)), (1, .int (x1)), (2, .int (x2)), (3, .int (x3)), (5, .int (0)), (6, .int (v2)), (7, .int (v4))] [3, 4, 5, 6, 2, 1, 0] rfl ?_
    exact bX6_deedsBy_34 hE hn hR hA hK  hw
abbrev wX6_deedsBy := wX6_deedsBy_0
theorem ctX6_deedsBy (l : Launch) (G : gG) {ad : Nat → Nat} (hA : adOk ad) (m0 : MS) (r : GW) (x1 : Int32) (x2 : Int32) (x3 : Int32) (x4 : Int32) (K : Int32 → Prop) (hw : wX6_deedsBy x1 x2 x3 x4 m0 K) : CtI l yX6_deedsBy cX6_deedsBy 9 .int ({ frames := 2, cells := 0, slots := 0, locals := 45 }) G [.ref (ad 0), .int (x1), .int (x2), .int (x3), .int (x4)] (mwX ad m0 r) (KPI (mwX ad m0 r) K) :=
  CtI.of RX6 plain_X6 rfl (Nat.le_of_ble_eq_true rfl) (fun E hE _ _ hn hR hK => bX6_deedsBy_0 hE hn hR hA hK hw)
theorem jdX6_deedsBy : jD yX6_deedsBy 4 := by decide +kernel
theorem lkX6_deedsBy : GoodIn lw_all (wsV RX6 330 yX6_deedsBy.cls yX6_deedsBy (ws_ yX6_deedsBy cX6_deedsBy 9 (some .int))) := lw_V q2032 q2034 qs111 q129 q2035
def wX6_harmOf_4_b (x1 : Int32) (x2 : Int32) (x3 : Int32) (m0 : MS) (KL4 : Int32 × Int32 → Prop) (K : Int32 → Prop) : Prop :=
  wX6_deeds  m0 (fun r1 => (r1 ≤ x3 → (K x2)) ∧ (¬ r1 ≤ x3 → ((¬ ((ishr x1 x3) &&& 1) = 1 → (∀ v4 : Int32, v4 = x2 + 0 → (KL4 (v4, x3 + 1)))) ∧ (((ishr x1 x3) &&& 1) = 1 → (vp_in ((nI 28) + x3) 120 ∧ (∀ v6 : Int32, v6 = x2 + (rd (gA m0 3) ((nI 28) + x3)) → (KL4 (v6, x3 + 1))))))))
def wX6_harmOf_4 (x1 : Int32) (x2 : Int32) (x3 : Int32) (m0 : MS) (K : Int32 → Prop) : Prop := lfp (σ := Int32 × Int32) (fun KL s => wX6_harmOf_4_b x1 s.1 s.2 m0 KL K) (x2, x3)
set_option maxRecDepth 100000 in
theorem bX6_harmOf_4 {E : jE} (hE : jOk E cX6_harmOf RX6) (hn : E.2.2.2.2 = 4) (hR : jRoom E 1 20) {ad : Nat → Nat} (hA : adOk ad) {r : GW} {m0 : MS} {b : Nat × Nat} {K : Int32 → Prop} (hK : jRi E .int (KPI (mwX ad m0 r) K)) {x1 : Int32} {x2 : Int32} {x3 : Int32}  (hw : wX6_harmOf_4 x1 x2 x3 m0 K) : J E (mwX ad m0 r) b [(0, .ref (ad 0)), (1, .int (x1)), (2, .int (x2)), (3, .int (x3))] 4 [] := by
  refine lfp_sound (σ := Int32 × Int32) (F := fun KL s => wX6_harmOf_4_b x1 s.1 s.2 m0 KL K) (P := fun s => J E (mwX ad m0 r) b [(0, .ref (ad 0)), (1, .int (x1)), (2, .int (s.1)), (3, .int (s.2))] 4 []) ?_ hw
  clear hw
  rintro KL4 ⟨x2, x3⟩ hw ih4
  have hw : wX6_harmOf_4_b x1 x2 x3 m0 KL4 K := hw
  unfold wX6_harmOf_4_b at hw
  refine j_iload_n hE 3 dX6_harmOf_4 rfl rfl ?_
  refine j_aload_n hE 0 dX6_harmOf_5 rfl rfl ?_
  refine jm_pI hE hA hR (As := []) (rest := [.int (x3)]) (ctX6_deeds E.1.2.1 E.2.2.1 hA _ _  _ hw) rfl lkX6_deeds jdX6_deeds ⟨Nat.le_of_ble_eq_true rfl, Nat.le_of_ble_eq_true rfl⟩ rfl (Nat.le_of_ble_eq_true rfl) dX6_harmOf_6 (fun r1 hw => ?_)
  refine j_icmp_ge hE 43 dX6_harmOf_9 (by decide) (fun c2 => ?_) (fun c2 => ?_)
  · have hw := hw.1 c2
    refine j_iload_n hE 2 dX6_harmOf_43 rfl rfl ?_
    exact j_iret hE hK dX6_harmOf_44 rfl ⟨rfl, hw⟩
  · have hw := hw.2 c2
    refine j_iload_n hE 2 dX6_harmOf_12 rfl rfl ?_
    refine j_iload_n hE 1 dX6_harmOf_13 rfl rfl ?_
    refine j_iload_n hE 3 dX6_harmOf_14 rfl rfl ?_
    refine j_ishr hE dX6_harmOf_15 ?_
    refine j_iconst hE dX6_harmOf_16 kc_1 ?_
    refine j_iand hE dX6_harmOf_17 ?_
    refine j_iconst hE dX6_harmOf_18 kc_1 ?_
    refine j_icmp_ne hE 34 dX6_harmOf_19 (by decide) (fun c3 => ?_) (fun c3 => ?_)
    · have hw := hw.1 c3
      refine j_iconst hE dX6_harmOf_34 kc_0 ?_
      refine j_iadd hE dX6_harmOf_35 ?_
      refine j_topi (fun v4 e_v4 => ?_)
      have hw := hw v4 e_v4
      refine j_istore_n (L' := [(2, .int (v4)), (0, .ref (ad 0)), (1, .int (x1)), (3, .int (x3))]) hE hn dX6_harmOf_36 rfl (Nat.le_of_ble_eq_true rfl) rfl ?_
      refine j_iinc (L' := [(3, .int (x3 + 1)), (2, .int (v4)), (0, .ref (ad 0)), (1, .int (x1))]) hE hn 3 dX6_harmOf_37 rfl (congrArg (x3 + ·) kc_1) (Nat.le_of_ble_eq_true rfl) rfl ?_
      refine j_goto hE 4 dX6_harmOf_40 (by decide) ?_
      refine j_sub [(0, .ref (ad 0)), (1, .int (x1)), (2, .int (v4)), (3, .int (x3 + 1))] [2, 3, 1, 0] rfl ?_
      have hz := ih4 (v4, x3 + 1) hw
      exact hz
    · have hw := hw.2 c3
      refine j_aload_n hE 0 dX6_harmOf_22 rfl rfl ?_
      refine jm_get hE hA 10 (Nat.le_of_ble_eq_true rfl) q1657 rfl (v := .ref (ad 4)) rfl dX6_harmOf_23 ?_
      refine j_bipush hE dX6_harmOf_26 kb_28 ?_
      refine j_iload_n hE 3 dX6_harmOf_28 rfl rfl ?_
      refine j_iadd hE dX6_harmOf_29 ?_
      obtain ⟨h5, hw⟩ := hw
      refine jm_iald hE hA 3 (Nat.le_of_ble_eq_true rfl) h5 dX6_harmOf_30 ?_
      refine j_goto hE 35 dX6_harmOf_31 (by decide) ?_
      refine j_iadd hE dX6_harmOf_35 ?_
      refine j_topi (fun v6 e_v6 => ?_)
      have hw := hw v6 e_v6
      refine j_istore_n (L' := [(2, .int (v6)), (0, .ref (ad 0)), (1, .int (x1)), (3, .int (x3))]) hE hn dX6_harmOf_36 rfl (Nat.le_of_ble_eq_true rfl) rfl ?_
      refine j_iinc (L' := [(3, .int (x3 + 1)), (2, .int (v6)), (0, .ref (ad 0)), (1, .int (x1))]) hE hn 3 dX6_harmOf_37 rfl (congrArg (x3 + ·) kc_1) (Nat.le_of_ble_eq_true rfl) rfl ?_
      refine j_goto hE 4 dX6_harmOf_40 (by decide) ?_
      refine j_sub [(0, .ref (ad 0)), (1, .int (x1)), (2, .int (v6)), (3, .int (x3 + 1))] [2, 3, 1, 0] rfl ?_
      have hz := ih4 (v6, x3 + 1) hw
      exact hz
def wX6_harmOf_0 (x1 : Int32) (m0 : MS) (K : Int32 → Prop) : Prop :=
  wX6_harmOf_4 x1 0 0 m0 K
set_option maxRecDepth 100000 in
theorem bX6_harmOf_0 {E : jE} (hE : jOk E cX6_harmOf RX6) (hn : E.2.2.2.2 = 4) (hR : jRoom E 1 20) {ad : Nat → Nat} (hA : adOk ad) {r : GW} {m0 : MS} {b : Nat × Nat} {K : Int32 → Prop} (hK : jRi E .int (KPI (mwX ad m0 r) K)) {x1 : Int32}  (hw : wX6_harmOf_0 x1 m0 K) : J E (mwX ad m0 r) b [(0, .ref (ad 0)), (1, .int (x1))] 0 [] := by
  unfold wX6_harmOf_0 at hw
  refine j_iconst hE dX6_harmOf_0 kc_0 ?_
  refine j_istore_n (L' := [(2, .int (0)), (0, .ref (ad 0)), (1, .int (x1))]) hE hn dX6_harmOf_1 rfl (Nat.le_of_ble_eq_true rfl) rfl ?_
  refine j_iconst hE dX6_harmOf_2 kc_0 ?_
  refine j_istore_n (L' := [(3, .int (0)), (2, .int (0)), (0, .ref (ad 0)), (1, .int (x1))]) hE hn dX6_harmOf_3 rfl (Nat.le_of_ble_eq_true rfl) rfl ?_
  refine j_sub [(0, .ref (ad 0)), (1, .int (x1)), (2, .int (0)), (3, .int (0))] [2, 3, 1, 0] rfl ?_
  exact bX6_harmOf_4 hE hn hR hA hK  hw
abbrev wX6_harmOf := wX6_harmOf_0
theorem ctX6_harmOf (l : Launch) (G : gG) {ad : Nat → Nat} (hA : adOk ad) (m0 : MS) (r : GW) (x1 : Int32) (K : Int32 → Prop) (hw : wX6_harmOf x1 m0 K) : CtI l yX6_harmOf cX6_harmOf 4 .int ({ frames := 1, cells := 0, slots := 0, locals := 20 }) G [.ref (ad 0), .int (x1)] (mwX ad m0 r) (KPI (mwX ad m0 r) K) :=
  CtI.of RX6 plain_X6 rfl (Nat.le_of_ble_eq_true rfl) (fun E hE _ _ hn hR hK => bX6_harmOf_0 hE hn hR hA hK hw)
theorem jdX6_harmOf : jD yX6_harmOf 1 := by decide +kernel
theorem lkX6_harmOf : GoodIn lw_all (wsV RX6 334 yX6_harmOf.cls yX6_harmOf (ws_ yX6_harmOf cX6_harmOf 4 (some .int))) := lw_V q2036 q2038 qs112 q129 q2039
def wX6_harmShown_6_b (x1 : Int32) (x2 : Int32) (x3 : Int32) (x4 : Int32) (x5 : Int32) (m0 : MS) (KL6 : Int32 × Int32 → Prop) (K : Int32 → Prop) : Prop :=
  wX6_panes  m0 (fun r1 => (r1 ≤ x5 → (wX6_harmOf x4 m0 (fun r3 => K r3))) ∧ (¬ r1 ≤ x5 → (wX6_deedsBy x1 x5 x2 x3 m0 (fun r4 => ∀ v5 : Int32, v5 = x4 ||| r4 → (KL6 (v5, x5 + 1))))))
def wX6_harmShown_6 (x1 : Int32) (x2 : Int32) (x3 : Int32) (x4 : Int32) (x5 : Int32) (m0 : MS) (K : Int32 → Prop) : Prop := lfp (σ := Int32 × Int32) (fun KL s => wX6_harmShown_6_b x1 x2 x3 s.1 s.2 m0 KL K) (x4, x5)
set_option maxRecDepth 100000 in
theorem bX6_harmShown_6 {E : jE} (hE : jOk E cX6_harmShown RX6) (hn : E.2.2.2.2 = 6) (hR : jRoom E 3 73) {ad : Nat → Nat} (hA : adOk ad) {r : GW} {m0 : MS} {b : Nat × Nat} {K : Int32 → Prop} (hK : jRi E .int (KPI (mwX ad m0 r) K)) {x1 : Int32} {x2 : Int32} {x3 : Int32} {x4 : Int32} {x5 : Int32}  (hw : wX6_harmShown_6 x1 x2 x3 x4 x5 m0 K) : J E (mwX ad m0 r) b [(0, .ref (ad 0)), (1, .int (x1)), (2, .int (x2)), (3, .int (x3)), (4, .int (x4)), (5, .int (x5))] 6 [] := by
  refine lfp_sound (σ := Int32 × Int32) (F := fun KL s => wX6_harmShown_6_b x1 x2 x3 s.1 s.2 m0 KL K) (P := fun s => J E (mwX ad m0 r) b [(0, .ref (ad 0)), (1, .int (x1)), (2, .int (x2)), (3, .int (x3)), (4, .int (s.1)), (5, .int (s.2))] 6 []) ?_ hw
  clear hw
  rintro KL6 ⟨x4, x5⟩ hw ih6
  have hw : wX6_harmShown_6_b x1 x2 x3 x4 x5 m0 KL6 K := hw
  unfold wX6_harmShown_6_b at hw
  refine j_iload hE 5 dX6_harmShown_6 rfl ?_
  refine j_aload_n hE 0 dX6_harmShown_8 rfl rfl ?_
  refine jm_pI hE hA hR (As := []) (rest := [.int (x5)]) (ctX6_panes E.1.2.1 E.2.2.1 hA _ _  _ hw) rfl lkX6_panes jdX6_panes ⟨Nat.le_of_ble_eq_true rfl, Nat.le_of_ble_eq_true rfl⟩ rfl (Nat.le_of_ble_eq_true rfl) dX6_harmShown_9 (fun r1 hw => ?_)
  refine j_icmp_ge hE 35 dX6_harmShown_12 (by decide) (fun c2 => ?_) (fun c2 => ?_)
  · have hw := hw.1 c2
    refine j_aload_n hE 0 dX6_harmShown_35 rfl rfl ?_
    refine j_iload hE 4 dX6_harmShown_36 rfl ?_
    refine jm_pI hE hA hR (As := [.int (x4)]) (rest := []) (ctX6_harmOf E.1.2.1 E.2.2.1 hA _ _ _  _ hw) rfl lkX6_harmOf jdX6_harmOf ⟨Nat.le_of_ble_eq_true rfl, Nat.le_of_ble_eq_true rfl⟩ rfl (Nat.le_of_ble_eq_true rfl) dX6_harmShown_38 (fun r3 hw => ?_)
    exact j_iret hE hK dX6_harmShown_41 rfl ⟨rfl, hw⟩
  · have hw := hw.2 c2
    refine j_iload hE 4 dX6_harmShown_15 rfl ?_
    refine j_aload_n hE 0 dX6_harmShown_17 rfl rfl ?_
    refine j_iload_n hE 1 dX6_harmShown_18 rfl rfl ?_
    refine j_iload hE 5 dX6_harmShown_19 rfl ?_
    refine j_iload_n hE 2 dX6_harmShown_21 rfl rfl ?_
    refine j_iload_n hE 3 dX6_harmShown_22 rfl rfl ?_
    refine jm_pI hE hA hR (As := [.int (x1), .int (x5), .int (x2), .int (x3)]) (rest := [.int (x4)]) (ctX6_deedsBy E.1.2.1 E.2.2.1 hA _ _ _ _ _ _  _ hw) rfl lkX6_deedsBy jdX6_deedsBy ⟨Nat.le_of_ble_eq_true rfl, Nat.le_of_ble_eq_true rfl⟩ rfl (Nat.le_of_ble_eq_true rfl) dX6_harmShown_23 (fun r4 hw => ?_)
    refine j_ior hE dX6_harmShown_26 ?_
    refine j_topi (fun v5 e_v5 => ?_)
    have hw := hw v5 e_v5
    refine j_istore (L' := [(4, .int (v5)), (0, .ref (ad 0)), (1, .int (x1)), (2, .int (x2)), (3, .int (x3)), (5, .int (x5))]) hE hn dX6_harmShown_27 (Nat.le_of_ble_eq_true rfl) rfl ?_
    refine j_iinc (L' := [(5, .int (x5 + 1)), (4, .int (v5)), (0, .ref (ad 0)), (1, .int (x1)), (2, .int (x2)), (3, .int (x3))]) hE hn 5 dX6_harmShown_29 rfl (congrArg (x5 + ·) kc_1) (Nat.le_of_ble_eq_true rfl) rfl ?_
    refine j_goto hE 6 dX6_harmShown_32 (by decide) ?_
    refine j_sub [(0, .ref (ad 0)), (1, .int (x1)), (2, .int (x2)), (3, .int (x3)), (4, .int (v5)), (5, .int (x5 + 1))] [2, 3, 4, 5, 1, 0] rfl ?_
    have hz := ih6 (v5, x5 + 1) hw
    exact hz
def wX6_harmShown_0 (x1 : Int32) (x2 : Int32) (x3 : Int32) (m0 : MS) (K : Int32 → Prop) : Prop :=
  wX6_harmShown_6 x1 x2 x3 0 0 m0 K
set_option maxRecDepth 100000 in
theorem bX6_harmShown_0 {E : jE} (hE : jOk E cX6_harmShown RX6) (hn : E.2.2.2.2 = 6) (hR : jRoom E 3 73) {ad : Nat → Nat} (hA : adOk ad) {r : GW} {m0 : MS} {b : Nat × Nat} {K : Int32 → Prop} (hK : jRi E .int (KPI (mwX ad m0 r) K)) {x1 : Int32} {x2 : Int32} {x3 : Int32}  (hw : wX6_harmShown_0 x1 x2 x3 m0 K) : J E (mwX ad m0 r) b [(0, .ref (ad 0)), (1, .int (x1)), (2, .int (x2)), (3, .int (x3))] 0 [] := by
  unfold wX6_harmShown_0 at hw
  refine j_iconst hE dX6_harmShown_0 kc_0 ?_
  refine j_istore (L' := [(4, .int (0)), (0, .ref (ad 0)), (1, .int (x1)), (2, .int (x2)), (3, .int (x3))]) hE hn dX6_harmShown_1 (Nat.le_of_ble_eq_true rfl) rfl ?_
  refine j_iconst hE dX6_harmShown_3 kc_0 ?_
  refine j_istore (L' := [(5, .int (0)), (4, .int (0)), (0, .ref (ad 0)), (1, .int (x1)), (2, .int (x2)), (3, .int (x3))]) hE hn dX6_harmShown_4 (Nat.le_of_ble_eq_true rfl) rfl ?_
  refine j_sub [(0, .ref (ad 0)), (1, .int (x1)), (2, .int (x2)), (3, .int (x3)), (4, .int (0)), (5, .int (0))] [2, 3, 4, 5, 1, 0] rfl ?_
  exact bX6_harmShown_6 hE hn hR hA hK  hw
abbrev wX6_harmShown := wX6_harmShown_0
theorem ctX6_harmShown (l : Launch) (G : gG) {ad : Nat → Nat} (hA : adOk ad) (m0 : MS) (r : GW) (x1 : Int32) (x2 : Int32) (x3 : Int32) (K : Int32 → Prop) (hw : wX6_harmShown x1 x2 x3 m0 K) : CtI l yX6_harmShown cX6_harmShown 6 .int ({ frames := 3, cells := 0, slots := 0, locals := 73 }) G [.ref (ad 0), .int (x1), .int (x2), .int (x3)] (mwX ad m0 r) (KPI (mwX ad m0 r) K) :=
  CtI.of RX6 plain_X6 rfl (Nat.le_of_ble_eq_true rfl) (fun E hE _ _ hn hR hK => bX6_harmShown_0 hE hn hR hA hK hw)
theorem jdX6_harmShown : jD yX6_harmShown 3 := by decide +kernel
theorem lkX6_harmShown : GoodIn lw_all (wsV RX6 371 yX6_harmShown.cls yX6_harmShown (ws_ yX6_harmShown cX6_harmShown 6 (some .int))) := lw_V q2028 q2030 qs110 q129 q2031
def wX6_judged_96 (x1 : Int32) (x3 : Int32) (x4 : Int32) (s0 : Int32) (m : MS) (KL31 : Int32 × Int32 × Int32 × MS → Prop) (K : Int32 → MS → Prop) : Prop :=
  ((gF m 10) = 0 → (KL31 (s0, x3, x4 + 1, m))) ∧ (¬ (gF m 10) = 0 → ((0 ≤ x3 → (KL31 (s0, x3, x4 + 1, m))) ∧ (¬ 0 ≤ x3 → (KL31 (s0, x4, x4 + 1, m)))))
set_option maxRecDepth 100000 in
theorem bX6_judged_96 {E : jE} (hE : jOk E cX6_judged RX6) (hn : E.2.2.2.2 = 6) (hR : jRoom E 6 144) {ad : Nat → Nat} (hA : adOk ad) {r : GW} {b : Nat × Nat} {K : Int32 → MS → Prop} (hK : jRi E .int (KMI ad r K)) {x1 : Int32} {x3 : Int32} {x4 : Int32} {s0 : Int32} {m : MS} {KL31 : Int32 × Int32 × Int32 × MS → Prop} (ih31 : ∀ s : Int32 × Int32 × Int32 × MS, KL31 s → J E (mwX ad (s.2.2.2) r) b [(0, .ref (ad 0)), (1, .int (x1)), (2, .int (s.1)), (3, .int (s.2.1)), (4, .int (s.2.2.1))] 31 []) (hw : wX6_judged_96 x1 x3 x4 s0 m KL31 K) : J E (mwX ad m r) b [(0, .ref (ad 0)), (1, .int (x1)), (3, .int (x3)), (4, .int (x4))] 96 [.int (s0)] := by
  unfold wX6_judged_96 at hw
  refine j_istore_n (L' := [(2, .int (s0)), (0, .ref (ad 0)), (1, .int (x1)), (3, .int (x3)), (4, .int (x4))]) hE hn dX6_judged_96 rfl (Nat.le_of_ble_eq_true rfl) rfl ?_
  refine j_aload_n hE 1 dX6_judged_97 rfl rfl ?_
  refine jm_get hE hA 27 (Nat.le_of_ble_eq_true rfl) q1674 rfl (v := .int (gF m 10)) rfl dX6_judged_98 ?_
  refine j_if_eq hE 113 dX6_judged_101 (by decide) (fun c1 => ?_) (fun c1 => ?_)
  · have hw := hw.1 c1
    refine j_iload_n hE 3 dX6_judged_113 rfl rfl ?_
    refine j_istore_n (L' := [(3, .int (x3)), (2, .int (s0)), (0, .ref (ad 0)), (1, .int (x1)), (4, .int (x4))]) hE hn dX6_judged_114 rfl (Nat.le_of_ble_eq_true rfl) rfl ?_
    refine j_iinc (L' := [(4, .int (x4 + 1)), (3, .int (x3)), (2, .int (s0)), (0, .ref (ad 0)), (1, .int (x1))]) hE hn 4 dX6_judged_115 rfl (congrArg (x4 + ·) kc_1) (Nat.le_of_ble_eq_true rfl) rfl ?_
    refine j_goto hE 31 dX6_judged_118 (by decide) ?_
    refine j_sub [(0, .ref (ad 0)), (1, .int (x1)), (2, .int (s0)), (3, .int (x3)), (4, .int (x4 + 1))] [3, 4, 2, 1, 0] rfl ?_
    have hz := ih31 (s0, x3, x4 + 1, m) hw
    exact hz
  · have hw := hw.2 c1
    refine j_iload_n hE 3 dX6_judged_104 rfl rfl ?_
    refine j_if_ge hE 113 dX6_judged_105 (by decide) (fun c2 => ?_) (fun c2 => ?_)
    · have hw := hw.1 c2
      refine j_iload_n hE 3 dX6_judged_113 rfl rfl ?_
      refine j_istore_n (L' := [(3, .int (x3)), (2, .int (s0)), (0, .ref (ad 0)), (1, .int (x1)), (4, .int (x4))]) hE hn dX6_judged_114 rfl (Nat.le_of_ble_eq_true rfl) rfl ?_
      refine j_iinc (L' := [(4, .int (x4 + 1)), (3, .int (x3)), (2, .int (s0)), (0, .ref (ad 0)), (1, .int (x1))]) hE hn 4 dX6_judged_115 rfl (congrArg (x4 + ·) kc_1) (Nat.le_of_ble_eq_true rfl) rfl ?_
      refine j_goto hE 31 dX6_judged_118 (by decide) ?_
      refine j_sub [(0, .ref (ad 0)), (1, .int (x1)), (2, .int (s0)), (3, .int (x3)), (4, .int (x4 + 1))] [3, 4, 2, 1, 0] rfl ?_
      have hz := ih31 (s0, x3, x4 + 1, m) hw
      exact hz
    · have hw := hw.2 c2
      refine j_iload hE 4 dX6_judged_108 rfl ?_
      refine j_goto hE 114 dX6_judged_110 (by decide) ?_
      refine j_istore_n (L' := [(3, .int (x4)), (2, .int (s0)), (0, .ref (ad 0)), (1, .int (x1)), (4, .int (x4))]) hE hn dX6_judged_114 rfl (Nat.le_of_ble_eq_true rfl) rfl ?_
      refine j_iinc (L' := [(4, .int (x4 + 1)), (3, .int (x4)), (2, .int (s0)), (0, .ref (ad 0)), (1, .int (x1))]) hE hn 4 dX6_judged_115 rfl (congrArg (x4 + ·) kc_1) (Nat.le_of_ble_eq_true rfl) rfl ?_
      refine j_goto hE 31 dX6_judged_118 (by decide) ?_
      refine j_sub [(0, .ref (ad 0)), (1, .int (x1)), (2, .int (s0)), (3, .int (x4)), (4, .int (x4 + 1))] [3, 4, 2, 1, 0] rfl ?_
      have hz := ih31 (s0, x4, x4 + 1, m) hw
      exact hz
def wX6_judged_95 (x1 : Int32) (x2 : Int32) (x3 : Int32) (x4 : Int32) (m : MS) (KL31 : Int32 × Int32 × Int32 × MS → Prop) (K : Int32 → MS → Prop) : Prop :=
  wX6_judged_96 x1 x3 x4 x2 m KL31 K
set_option maxRecDepth 100000 in
theorem bX6_judged_95 {E : jE} (hE : jOk E cX6_judged RX6) (hn : E.2.2.2.2 = 6) (hR : jRoom E 6 144) {ad : Nat → Nat} (hA : adOk ad) {r : GW} {b : Nat × Nat} {K : Int32 → MS → Prop} (hK : jRi E .int (KMI ad r K)) {x1 : Int32} {x2 : Int32} {x3 : Int32} {x4 : Int32} {m : MS} {KL31 : Int32 × Int32 × Int32 × MS → Prop} (ih31 : ∀ s : Int32 × Int32 × Int32 × MS, KL31 s → J E (mwX ad (s.2.2.2) r) b [(0, .ref (ad 0)), (1, .int (x1)), (2, .int (s.1)), (3, .int (s.2.1)), (4, .int (s.2.2.1))] 31 []) (hw : wX6_judged_95 x1 x2 x3 x4 m KL31 K) : J E (mwX ad m r) b [(0, .ref (ad 0)), (1, .int (x1)), (2, .int (x2)), (3, .int (x3)), (4, .int (x4))] 95 [] := by
  unfold wX6_judged_95 at hw
  refine j_iload_n hE 2 dX6_judged_95 rfl rfl ?_
  refine j_sub [(0, .ref (ad 0)), (1, .int (x1)), (3, .int (x3)), (4, .int (x4))] [0, 1, 3, 4] rfl ?_
  exact bX6_judged_96 hE hn hR hA hK ih31 hw
def wX6_judged_31_b (x1 : Int32) (x2 : Int32) (x3 : Int32) (x4 : Int32) (m : MS) (KL31 : Int32 × Int32 × Int32 × MS → Prop) (K : Int32 → MS → Prop) : Prop :=
  vp_in 0 250 ∧ (((rd (gA m 8) 0) ≤ x4 → ((¬ x1 = 0 → ((¬ x1 = 1 → (wX6_harmShown (nI 1386) ((-1)) (nI 6) m (fun r5 => K r5 m))) ∧ (x1 = 1 → (K x3 m)))) ∧ (x1 = 0 → (K x2 m)))) ∧ (¬ (rd (gA m 8) 0) ≤ x4 → (vp_in (1 + ((nI 3) * x4)) 250 ∧ (vp_in ((nI 2) + ((nI 3) * x4)) 250 ∧ (vp_in ((nI 3) + ((nI 3) * x4)) 250 ∧ (wX6_done (rd (gA m 8) (1 + ((nI 3) * x4))) (rd (gA m 8) ((nI 2) + ((nI 3) * x4))) (rd (gA m 8) ((nI 3) + ((nI 3) * x4))) m (fun r9 m10 => (¬ r9 = 0 → (wX6_judged_95 x1 x2 x3 x4 m10 KL31 K)) ∧ (r9 = 0 → ((0 ≤ x2 → (wX6_judged_95 x1 x2 x3 x4 m10 KL31 K)) ∧ (¬ 0 ≤ x2 → (wX6_judged_96 x1 x3 x4 x4 m10 KL31 K)))))))))))
def wX6_judged_31 (x1 : Int32) (x2 : Int32) (x3 : Int32) (x4 : Int32) (m : MS) (K : Int32 → MS → Prop) : Prop := lfp (σ := Int32 × Int32 × Int32 × MS) (fun KL s => wX6_judged_31_b x1 s.1 s.2.1 s.2.2.1 s.2.2.2 KL K) (x2, x3, x4, m)
set_option maxRecDepth 100000 in
theorem bX6_judged_31 {E : jE} (hE : jOk E cX6_judged RX6) (hn : E.2.2.2.2 = 6) (hR : jRoom E 6 144) {ad : Nat → Nat} (hA : adOk ad) {r : GW} {b : Nat × Nat} {K : Int32 → MS → Prop} (hK : jRi E .int (KMI ad r K)) {x1 : Int32} {x2 : Int32} {x3 : Int32} {x4 : Int32} {m : MS}  (hw : wX6_judged_31 x1 x2 x3 x4 m K) : J E (mwX ad m r) b [(0, .ref (ad 0)), (1, .int (x1)), (2, .int (x2)), (3, .int (x3)), (4, .int (x4))] 31 [] := by
  refine lfp_sound (σ := Int32 × Int32 × Int32 × MS) (F := fun KL s => wX6_judged_31_b x1 s.1 s.2.1 s.2.2.1 s.2.2.2 KL K) (P := fun s => J E (mwX ad (s.2.2.2) r) b [(0, .ref (ad 0)), (1, .int (x1)), (2, .int (s.1)), (3, .int (s.2.1)), (4, .int (s.2.2.1))] 31 []) ?_ hw
  clear hw
  rintro KL31 ⟨x2, x3, x4, m⟩ hw ih31
  have hw : wX6_judged_31_b x1 x2 x3 x4 m KL31 K := hw
  unfold wX6_judged_31_b at hw
  refine j_iload hE 4 dX6_judged_31 rfl ?_
  refine j_aload_n hE 0 dX6_judged_33 rfl rfl ?_
  refine jm_get hE hA 21 (Nat.le_of_ble_eq_true rfl) q1668 rfl (v := .ref (ad 9)) rfl dX6_judged_34 ?_
  refine j_iconst hE dX6_judged_37 kc_0 ?_
  obtain ⟨h1, hw⟩ := hw
  refine jm_iald hE hA 8 (Nat.le_of_ble_eq_true rfl) h1 dX6_judged_38 ?_
  refine j_icmp_ge hE 121 dX6_judged_39 (by decide) (fun c2 => ?_) (fun c2 => ?_)
  · have hw := hw.1 c2
    refine j_iload_n hE 1 dX6_judged_121 rfl rfl ?_
    refine j_if_ne hE 129 dX6_judged_122 (by decide) (fun c3 => ?_) (fun c3 => ?_)
    · have hw := hw.1 c3
      refine j_iload_n hE 1 dX6_judged_129 rfl rfl ?_
      refine j_iconst hE dX6_judged_130 kc_1 ?_
      refine j_icmp_ne hE 138 dX6_judged_131 (by decide) (fun c4 => ?_) (fun c4 => ?_)
      · have hw := hw.1 c4
        refine j_aload_n hE 0 dX6_judged_138 rfl rfl ?_
        refine j_sipush hE dX6_judged_139 ks_1386 ?_
        refine j_iconst hE dX6_judged_142 kc_m1 ?_
        refine j_bipush hE dX6_judged_143 kb_6 ?_
        refine jm_pI hE hA hR (As := [.int (nI 1386), .int ((-1)), .int (nI 6)]) (rest := []) (ctX6_harmShown E.1.2.1 E.2.2.1 hA _ _ _ _ _  _ hw) rfl lkX6_harmShown jdX6_harmShown ⟨Nat.le_of_ble_eq_true rfl, Nat.le_of_ble_eq_true rfl⟩ rfl (Nat.le_of_ble_eq_true rfl) dX6_judged_145 (fun r5 hw => ?_)
        exact j_iret hE hK dX6_judged_148 rfl ⟨_, rfl, hw⟩
      · have hw := hw.2 c4
        refine j_iload_n hE 3 dX6_judged_134 rfl rfl ?_
        refine j_goto hE 148 dX6_judged_135 (by decide) ?_
        exact j_iret hE hK dX6_judged_148 rfl ⟨_, rfl, hw⟩
    · have hw := hw.2 c3
      refine j_iload_n hE 2 dX6_judged_125 rfl rfl ?_
      refine j_goto hE 148 dX6_judged_126 (by decide) ?_
      exact j_iret hE hK dX6_judged_148 rfl ⟨_, rfl, hw⟩
  · have hw := hw.2 c2
    refine j_aload_n hE 0 dX6_judged_42 rfl rfl ?_
    refine j_aload_n hE 0 dX6_judged_43 rfl rfl ?_
    refine jm_get hE hA 21 (Nat.le_of_ble_eq_true rfl) q1668 rfl (v := .ref (ad 9)) rfl dX6_judged_44 ?_
    refine j_iconst hE dX6_judged_47 kc_1 ?_
    refine j_iconst hE dX6_judged_48 kc_3 ?_
    refine j_iload hE 4 dX6_judged_49 rfl ?_
    refine j_imul hE dX6_judged_51 ?_
    refine j_iadd hE dX6_judged_52 ?_
    obtain ⟨h6, hw⟩ := hw
    refine jm_iald hE hA 8 (Nat.le_of_ble_eq_true rfl) h6 dX6_judged_53 ?_
    refine j_aload_n hE 0 dX6_judged_54 rfl rfl ?_
    refine jm_get hE hA 21 (Nat.le_of_ble_eq_true rfl) q1668 rfl (v := .ref (ad 9)) rfl dX6_judged_55 ?_
    refine j_iconst hE dX6_judged_58 kc_2 ?_
    refine j_iconst hE dX6_judged_59 kc_3 ?_
    refine j_iload hE 4 dX6_judged_60 rfl ?_
    refine j_imul hE dX6_judged_62 ?_
    refine j_iadd hE dX6_judged_63 ?_
    obtain ⟨h7, hw⟩ := hw
    refine jm_iald hE hA 8 (Nat.le_of_ble_eq_true rfl) h7 dX6_judged_64 ?_
    refine j_aload_n hE 0 dX6_judged_65 rfl rfl ?_
    refine jm_get hE hA 21 (Nat.le_of_ble_eq_true rfl) q1668 rfl (v := .ref (ad 9)) rfl dX6_judged_66 ?_
    refine j_iconst hE dX6_judged_69 kc_3 ?_
    refine j_iconst hE dX6_judged_70 kc_3 ?_
    refine j_iload hE 4 dX6_judged_71 rfl ?_
    refine j_imul hE dX6_judged_73 ?_
    refine j_iadd hE dX6_judged_74 ?_
    obtain ⟨h8, hw⟩ := hw
    refine jm_iald hE hA 8 (Nat.le_of_ble_eq_true rfl) h8 dX6_judged_75 ?_
    refine jm_cI hE hA hR (As := [.int (rd (gA m 8) (1 + ((nI 3) * x4))), .int (rd (gA m 8) ((nI 2) + ((nI 3) * x4))), .int (rd (gA m 8) ((nI 3) + ((nI 3) * x4)))]) (rest := []) (ctX6_done E.1.2.1 E.2.2.1 hA _ _ _ _ _  _ hw) rfl lkX6_done jdX6_done ⟨Nat.le_of_ble_eq_true rfl, Nat.le_of_ble_eq_true rfl⟩ rfl (Nat.le_of_ble_eq_true rfl) dX6_judged_76 (fun r9 m10 hw => ?_)
    refine j_istore (L' := [(5, .int (r9)), (0, .ref (ad 0)), (1, .int (x1)), (2, .int (x2)), (3, .int (x3)), (4, .int (x4))]) hE hn dX6_judged_79 (Nat.le_of_ble_eq_true rfl) rfl ?_
    refine j_iload hE 0 dX6_judged_81 rfl ?_
    refine j_if_ne hE 95 dX6_judged_83 (by decide) (fun c11 => ?_) (fun c11 => ?_)
    · have hw := hw.1 c11
      refine j_sub [(0, .ref (ad 0)), (1, .int (x1)), (2, .int (x2)), (3, .int (x3)), (4, .int (x4))] [1, 2, 3, 4, 5] rfl ?_
      exact bX6_judged_95 hE hn hR hA hK ih31 hw
    · have hw := hw.2 c11
      refine j_iload_n hE 3 dX6_judged_86 rfl rfl ?_
      refine j_if_ge hE 95 dX6_judged_87 (by decide) (fun c12 => ?_) (fun c12 => ?_)
      · have hw := hw.1 c12
        refine j_sub [(0, .ref (ad 0)), (1, .int (x1)), (2, .int (x2)), (3, .int (x3)), (4, .int (x4))] [1, 2, 3, 4, 5] rfl ?_
        exact bX6_judged_95 hE hn hR hA hK ih31 hw
      · have hw := hw.2 c12
        refine j_iload hE 5 dX6_judged_90 rfl ?_
        refine j_goto hE 96 dX6_judged_92 (by decide) ?_
        refine j_sub [(0, .ref (ad 0)), (1, .int (x1)), (3, .int (x3)), (4, .int (x4))] [1, 2, 4, 5] rfl ?_
        exact bX6_judged_96 hE hn hR hA hK ih31 hw
def wX6_judged_0 (x1 : Int32) (m : MS) (K : Int32 → MS → Prop) : Prop :=
  ∀ m1 : MS, m1 = sF m 0 0 → (wX6_within x1 0 (nI 2) (fun r2 => (¬ r2 = 0 → (wX6_starts (nI 1386) m1 (fun  m4 => wX6_judged_31 x1 ((-1)) ((-1)) 0 m4 K))) ∧ (r2 = 0 → (K ((-2)) m1))))
set_option maxRecDepth 100000 in
theorem bX6_judged_0 {E : jE} (hE : jOk E cX6_judged RX6) (hn : E.2.2.2.2 = 6) (hR : jRoom E 6 144) {ad : Nat → Nat} (hA : adOk ad) {r : GW} {b : Nat × Nat} {K : Int32 → MS → Prop} (hK : jRi E .int (KMI ad r K)) {x1 : Int32} {m : MS}  (hw : wX6_judged_0 x1 m K) : J E (mwX ad m r) b [(0, .ref (ad 0)), (1, .int (x1))] 0 [] := by
  unfold wX6_judged_0 at hw
  refine j_aload_n hE 0 dX6_judged_0 rfl rfl ?_
  refine j_iconst hE dX6_judged_1 kc_0 ?_
  refine jm_putF hE hA 0 0 (Nat.le_of_ble_eq_true rfl) q1647 rfl rfl (mset_0 _ _ _) rfl rfl dX6_judged_2 ?_
  refine j_wm (fun m1 e_m1 => ?_)
  have hw := hw m1 e_m1
  refine j_iload_n hE 1 dX6_judged_5 rfl rfl ?_
  refine j_iconst hE dX6_judged_6 kc_0 ?_
  refine j_iconst hE dX6_judged_7 kc_2 ?_
  refine j_psI hE hR (As := [.int (x1), .int (0), .int (nI 2)]) (rest := []) (ctX6_within E.1.2.1 E.2.2.1 _ _ _ _  _ hw) lkX6_within jdX6_within ⟨Nat.le_of_ble_eq_true rfl, Nat.le_of_ble_eq_true rfl⟩ rfl (Nat.le_of_ble_eq_true rfl) dX6_judged_8 (fun r2 hw => ?_)
  refine j_if_ne hE 17 dX6_judged_11 (by decide) (fun c3 => ?_) (fun c3 => ?_)
  · have hw := hw.1 c3
    refine j_aload_n hE 0 dX6_judged_17 rfl rfl ?_
    refine j_sipush hE dX6_judged_18 ks_1386 ?_
    refine jm_cV hE hA hR (As := [.int (nI 1386)]) (rest := []) (ctX6_starts E.1.2.1 E.2.2.1 hA _ _ _  _ hw) rfl lkX6_starts jdX6_starts ⟨Nat.le_of_ble_eq_true rfl, Nat.le_of_ble_eq_true rfl⟩ rfl (Nat.le_of_ble_eq_true rfl) dX6_judged_21 (fun  m4 hw => ?_)
    refine j_iconst hE dX6_judged_24 kc_m1 ?_
    refine j_istore_n (L' := [(2, .int ((-1))), (0, .ref (ad 0)), (1, .int (x1))]) hE hn dX6_judged_25 rfl (Nat.le_of_ble_eq_true rfl) rfl ?_
    refine j_iconst hE dX6_judged_26 kc_m1 ?_
    refine j_istore_n (L' := [(3, .int ((-1))), (2, .int ((-1))), (0, .ref (ad 0)), (1, .int (x1))]) hE hn dX6_judged_27 rfl (Nat.le_of_ble_eq_true rfl) rfl ?_
    refine j_iconst hE dX6_judged_28 kc_0 ?_
    refine j_istore (L' := [(4, .int (0)), (3, .int ((-1))), (2, .int ((-1))), (0, .ref (ad 0)), (1, .int (x1))]) hE hn dX6_judged_29 (Nat.le_of_ble_eq_true rfl) rfl ?_
    refine j_sub [(0, .ref (ad 0)), (1, .int (x1)), (2, .int ((-1))), (3, .int ((-1))), (4, .int (0))] [3, 4, 2, 1, 0] rfl ?_
    exact bX6_judged_31 hE hn hR hA hK  hw
  · have hw := hw.2 c3
    refine j_bipush hE dX6_judged_14 kb_m2 ?_
    exact j_iret hE hK dX6_judged_16 rfl ⟨_, rfl, hw⟩
abbrev wX6_judged := wX6_judged_0
theorem ctX6_judged (l : Launch) (G : gG) {ad : Nat → Nat} (hA : adOk ad) (m0 : MS) (r : GW) (x1 : Int32) (K : Int32 → MS → Prop) (hw : wX6_judged x1 m0 K) : CtI l yX6_judged cX6_judged 6 .int ({ frames := 6, cells := 0, slots := 0, locals := 144 }) G [.ref (ad 0), .int (x1)] (mwX ad m0 r) (KMI ad r K) :=
  CtI.of RX6 plain_X6 rfl (Nat.le_of_ble_eq_true rfl) (fun E hE _ _ hn hR hK => bX6_judged_0 hE hn hR hA hK hw)
theorem jdX6_judged : jD yX6_judged 1 := by decide +kernel
def wX6_shame_0 (x1 : Int32) (m : MS) (K : Int32 → MS → Prop) : Prop :=
  ∀ m1 : MS, m1 = sF m 0 0 → (wX6_isPerson x1 m1 (fun r2 => (r2 = 0 → (K ((-1)) m1)) ∧ (¬ r2 = 0 → (wX6_harmShown 0 x1 (nI 6) m1 (fun r4 => K r4 m1)))))
set_option maxRecDepth 100000 in
theorem bX6_shame_0 {E : jE} (hE : jOk E cX6_shame RX6) (hn : E.2.2.2.2 = 2) (hR : jRoom E 4 98) {ad : Nat → Nat} (hA : adOk ad) {r : GW} {b : Nat × Nat} {K : Int32 → MS → Prop} (hK : jRi E .int (KMI ad r K)) {x1 : Int32} {m : MS}  (hw : wX6_shame_0 x1 m K) : J E (mwX ad m r) b [(0, .ref (ad 0)), (1, .int (x1))] 0 [] := by
  unfold wX6_shame_0 at hw
  refine j_aload_n hE 0 dX6_shame_0 rfl rfl ?_
  refine j_iconst hE dX6_shame_1 kc_0 ?_
  refine jm_putF hE hA 0 0 (Nat.le_of_ble_eq_true rfl) q1647 rfl rfl (mset_0 _ _ _) rfl rfl dX6_shame_2 ?_
  refine j_wm (fun m1 e_m1 => ?_)
  have hw := hw m1 e_m1
  refine j_aload_n hE 0 dX6_shame_5 rfl rfl ?_
  refine j_iload_n hE 1 dX6_shame_6 rfl rfl ?_
  refine jm_pI hE hA hR (As := [.int (x1)]) (rest := []) (ctX6_isPerson E.1.2.1 E.2.2.1 hA _ _ _  _ hw) rfl lkX6_isPerson jdX6_isPerson ⟨Nat.le_of_ble_eq_true rfl, Nat.le_of_ble_eq_true rfl⟩ rfl (Nat.le_of_ble_eq_true rfl) dX6_shame_7 (fun r2 hw => ?_)
  refine j_if_eq hE 24 dX6_shame_10 (by decide) (fun c3 => ?_) (fun c3 => ?_)
  · have hw := hw.1 c3
    refine j_iconst hE dX6_shame_24 kc_m1 ?_
    exact j_iret hE hK dX6_shame_25 rfl ⟨_, rfl, hw⟩
  · have hw := hw.2 c3
    refine j_aload_n hE 0 dX6_shame_13 rfl rfl ?_
    refine j_iconst hE dX6_shame_14 kc_0 ?_
    refine j_iload_n hE 1 dX6_shame_15 rfl rfl ?_
    refine j_bipush hE dX6_shame_16 kb_6 ?_
    refine jm_pI hE hA hR (As := [.int (0), .int (x1), .int (nI 6)]) (rest := []) (ctX6_harmShown E.1.2.1 E.2.2.1 hA _ _ _ _ _  _ hw) rfl lkX6_harmShown jdX6_harmShown ⟨Nat.le_of_ble_eq_true rfl, Nat.le_of_ble_eq_true rfl⟩ rfl (Nat.le_of_ble_eq_true rfl) dX6_shame_18 (fun r4 hw => ?_)
    refine j_goto hE 25 dX6_shame_21 (by decide) ?_
    exact j_iret hE hK dX6_shame_25 rfl ⟨_, rfl, hw⟩
abbrev wX6_shame := wX6_shame_0
theorem ctX6_shame (l : Launch) (G : gG) {ad : Nat → Nat} (hA : adOk ad) (m0 : MS) (r : GW) (x1 : Int32) (K : Int32 → MS → Prop) (hw : wX6_shame x1 m0 K) : CtI l yX6_shame cX6_shame 2 .int ({ frames := 4, cells := 0, slots := 0, locals := 98 }) G [.ref (ad 0), .int (x1)] (mwX ad m0 r) (KMI ad r K) :=
  CtI.of RX6 plain_X6 rfl (Nat.le_of_ble_eq_true rfl) (fun E hE _ _ hn hR hK => bX6_shame_0 hE hn hR hA hK hw)
theorem jdX6_shame : jD yX6_shame 1 := by decide +kernel
def wX6_harm_0 (m : MS) (K : Int32 → MS → Prop) : Prop :=
  ∀ m1 : MS, m1 = sF m 0 0 → (wX6_harmShown 0 ((-1)) (nI 6) m1 (fun r2 => K r2 m1))
set_option maxRecDepth 100000 in
theorem bX6_harm_0 {E : jE} (hE : jOk E cX6_harm RX6) (hn : E.2.2.2.2 = 1) (hR : jRoom E 4 98) {ad : Nat → Nat} (hA : adOk ad) {r : GW} {b : Nat × Nat} {K : Int32 → MS → Prop} (hK : jRi E .int (KMI ad r K)) {m : MS}  (hw : wX6_harm_0 m K) : J E (mwX ad m r) b [(0, .ref (ad 0))] 0 [] := by
  unfold wX6_harm_0 at hw
  refine j_aload_n hE 0 dX6_harm_0 rfl rfl ?_
  refine j_iconst hE dX6_harm_1 kc_0 ?_
  refine jm_putF hE hA 0 0 (Nat.le_of_ble_eq_true rfl) q1647 rfl rfl (mset_0 _ _ _) rfl rfl dX6_harm_2 ?_
  refine j_wm (fun m1 e_m1 => ?_)
  have hw := hw m1 e_m1
  refine j_aload_n hE 0 dX6_harm_5 rfl rfl ?_
  refine j_iconst hE dX6_harm_6 kc_0 ?_
  refine j_iconst hE dX6_harm_7 kc_m1 ?_
  refine j_bipush hE dX6_harm_8 kb_6 ?_
  refine jm_pI hE hA hR (As := [.int (0), .int ((-1)), .int (nI 6)]) (rest := []) (ctX6_harmShown E.1.2.1 E.2.2.1 hA _ _ _ _ _  _ hw) rfl lkX6_harmShown jdX6_harmShown ⟨Nat.le_of_ble_eq_true rfl, Nat.le_of_ble_eq_true rfl⟩ rfl (Nat.le_of_ble_eq_true rfl) dX6_harm_10 (fun r2 hw => ?_)
  exact j_iret hE hK dX6_harm_13 rfl ⟨_, rfl, hw⟩
abbrev wX6_harm := wX6_harm_0
theorem ctX6_harm (l : Launch) (G : gG) {ad : Nat → Nat} (hA : adOk ad) (m0 : MS) (r : GW)  (K : Int32 → MS → Prop) (hw : wX6_harm m0 K) : CtI l yX6_harm cX6_harm 1 .int ({ frames := 4, cells := 0, slots := 0, locals := 98 }) G [.ref (ad 0)] (mwX ad m0 r) (KMI ad r K) :=
  CtI.of RX6 plain_X6 rfl (Nat.le_of_ble_eq_true rfl) (fun E hE _ _ hn hR hK => bX6_harm_0 hE hn hR hA hK hw)
theorem jdX6_harm : jD yX6_harm 0 := by decide +kernel
def wX6_memory_0 (x1 : Int32) (m : MS) (K : Int32 → MS → Prop) : Prop :=
  ∀ m1 : MS, m1 = sF m 0 0 → (wX6_within x1 1 (nI 6) (fun r2 => (r2 = 0 → (K ((-1)) m1)) ∧ (¬ r2 = 0 → (wX6_harmShown 0 ((-1)) x1 m1 (fun r4 => K r4 m1)))))
set_option maxRecDepth 100000 in
theorem bX6_memory_0 {E : jE} (hE : jOk E cX6_memory RX6) (hn : E.2.2.2.2 = 2) (hR : jRoom E 4 98) {ad : Nat → Nat} (hA : adOk ad) {r : GW} {b : Nat × Nat} {K : Int32 → MS → Prop} (hK : jRi E .int (KMI ad r K)) {x1 : Int32} {m : MS}  (hw : wX6_memory_0 x1 m K) : J E (mwX ad m r) b [(0, .ref (ad 0)), (1, .int (x1))] 0 [] := by
  unfold wX6_memory_0 at hw
  refine j_aload_n hE 0 dX6_memory_0 rfl rfl ?_
  refine j_iconst hE dX6_memory_1 kc_0 ?_
  refine jm_putF hE hA 0 0 (Nat.le_of_ble_eq_true rfl) q1647 rfl rfl (mset_0 _ _ _) rfl rfl dX6_memory_2 ?_
  refine j_wm (fun m1 e_m1 => ?_)
  have hw := hw m1 e_m1
  refine j_iload_n hE 1 dX6_memory_5 rfl rfl ?_
  refine j_iconst hE dX6_memory_6 kc_1 ?_
  refine j_bipush hE dX6_memory_7 kb_6 ?_
  refine j_psI hE hR (As := [.int (x1), .int (1), .int (nI 6)]) (rest := []) (ctX6_within E.1.2.1 E.2.2.1 _ _ _ _  _ hw) lkX6_within jdX6_within ⟨Nat.le_of_ble_eq_true rfl, Nat.le_of_ble_eq_true rfl⟩ rfl (Nat.le_of_ble_eq_true rfl) dX6_memory_9 (fun r2 hw => ?_)
  refine j_if_eq hE 25 dX6_memory_12 (by decide) (fun c3 => ?_) (fun c3 => ?_)
  · have hw := hw.1 c3
    refine j_iconst hE dX6_memory_25 kc_m1 ?_
    exact j_iret hE hK dX6_memory_26 rfl ⟨_, rfl, hw⟩
  · have hw := hw.2 c3
    refine j_aload_n hE 0 dX6_memory_15 rfl rfl ?_
    refine j_iconst hE dX6_memory_16 kc_0 ?_
    refine j_iconst hE dX6_memory_17 kc_m1 ?_
    refine j_iload_n hE 1 dX6_memory_18 rfl rfl ?_
    refine jm_pI hE hA hR (As := [.int (0), .int ((-1)), .int (x1)]) (rest := []) (ctX6_harmShown E.1.2.1 E.2.2.1 hA _ _ _ _ _  _ hw) rfl lkX6_harmShown jdX6_harmShown ⟨Nat.le_of_ble_eq_true rfl, Nat.le_of_ble_eq_true rfl⟩ rfl (Nat.le_of_ble_eq_true rfl) dX6_memory_19 (fun r4 hw => ?_)
    refine j_goto hE 26 dX6_memory_22 (by decide) ?_
    exact j_iret hE hK dX6_memory_26 rfl ⟨_, rfl, hw⟩
abbrev wX6_memory := wX6_memory_0
theorem ctX6_memory (l : Launch) (G : gG) {ad : Nat → Nat} (hA : adOk ad) (m0 : MS) (r : GW) (x1 : Int32) (K : Int32 → MS → Prop) (hw : wX6_memory x1 m0 K) : CtI l yX6_memory cX6_memory 2 .int ({ frames := 4, cells := 0, slots := 0, locals := 98 }) G [.ref (ad 0), .int (x1)] (mwX ad m0 r) (KMI ad r K) :=
  CtI.of RX6 plain_X6 rfl (Nat.le_of_ble_eq_true rfl) (fun E hE _ _ hn hR hK => bX6_memory_0 hE hn hR hA hK hw)
theorem jdX6_memory : jD yX6_memory 1 := by decide +kernel
def wX6_trail_30_b (x1 : Int32) (x3 : Int32) (x2 : Int32) (x4 : Int32) (m : MS) (KL30 : Int32 × Int32 → Prop) (KL19 : Int32 × Int32 → Prop) (K : Int32 → MS → Prop) : Prop :=
  vp_in ((nI 18) + x3) 1518 ∧ (((rd (gA m 11) ((nI 18) + x3)) ≤ x4 → (KL19 (x2, x3 + 1))) ∧ (¬ (rd (gA m 11) ((nI 18) + x3)) ≤ x4 → (wX6_isShown 0 x3 m (fun r3 => (r3 = 0 → (KL19 (x2, x3 + 1))) ∧ (¬ r3 = 0 → (wX6_markOf 0 x3 x4 m (fun r5 => wX6_shownOf 0 x3 r5 m (fun r6 => (¬ r6 = x1 → (∀ v8 : Int32, v8 = x2 ||| 0 → (KL30 (v8, x4 + 1)))) ∧ (r6 = x1 → (wX6_cellOf r5 (fun r9 => ∀ v10 : Int32, v10 = x2 ||| (ishl 1 r9) → (KL30 (v10, x4 + 1)))))))))))))
def wX6_trail_30 (x1 : Int32) (x3 : Int32) (x2 : Int32) (x4 : Int32) (m : MS) (KL19 : Int32 × Int32 → Prop) (K : Int32 → MS → Prop) : Prop := lfp (σ := Int32 × Int32) (fun KL s => wX6_trail_30_b x1 x3 s.1 s.2 m KL KL19 K) (x2, x4)
set_option maxRecDepth 100000 in
theorem bX6_trail_30 {E : jE} (hE : jOk E cX6_trail RX6) (hn : E.2.2.2.2 = 6) (hR : jRoom E 2 45) {ad : Nat → Nat} (hA : adOk ad) {r : GW} {b : Nat × Nat} {K : Int32 → MS → Prop} (hK : jRi E .int (KMI ad r K)) {x1 : Int32} {x3 : Int32} {x2 : Int32} {x4 : Int32} {m : MS} {KL19 : Int32 × Int32 → Prop} (ih19 : ∀ s : Int32 × Int32, KL19 s → J E (mwX ad m r) b [(0, .ref (ad 0)), (1, .int (x1)), (2, .int (s.1)), (3, .int (s.2))] 19 []) (hw : wX6_trail_30 x1 x3 x2 x4 m KL19 K) : J E (mwX ad m r) b [(0, .ref (ad 0)), (1, .int (x1)), (2, .int (x2)), (3, .int (x3)), (4, .int (x4))] 30 [] := by
  refine lfp_sound (σ := Int32 × Int32) (F := fun KL s => wX6_trail_30_b x1 x3 s.1 s.2 m KL KL19 K) (P := fun s => J E (mwX ad m r) b [(0, .ref (ad 0)), (1, .int (x1)), (2, .int (s.1)), (3, .int (x3)), (4, .int (s.2))] 30 []) ?_ hw
  clear hw
  rintro KL30 ⟨x2, x4⟩ hw ih30
  have hw : wX6_trail_30_b x1 x3 x2 x4 m KL30 KL19 K := hw
  unfold wX6_trail_30_b at hw
  refine j_iload hE 4 dX6_trail_30 rfl ?_
  refine j_aload_n hE 0 dX6_trail_32 rfl rfl ?_
  refine jm_get hE hA 24 (Nat.le_of_ble_eq_true rfl) q1671 rfl (v := .ref (ad 12)) rfl dX6_trail_33 ?_
  refine j_bipush hE dX6_trail_36 kb_18 ?_
  refine j_iload_n hE 3 dX6_trail_38 rfl rfl ?_
  refine j_iadd hE dX6_trail_39 ?_
  obtain ⟨h1, hw⟩ := hw
  refine jm_iald hE hA 11 (Nat.le_of_ble_eq_true rfl) h1 dX6_trail_40 ?_
  refine j_icmp_ge hE 95 dX6_trail_41 (by decide) (fun c2 => ?_) (fun c2 => ?_)
  · have hw := hw.1 c2
    refine j_iinc (L' := [(3, .int (x3 + 1)), (0, .ref (ad 0)), (1, .int (x1)), (2, .int (x2)), (4, .int (x4))]) hE hn 3 dX6_trail_95 rfl (congrArg (x3 + ·) kc_1) (Nat.le_of_ble_eq_true rfl) rfl ?_
    refine j_goto hE 19 dX6_trail_98 (by decide) ?_
    refine j_sub [(0, .ref (ad 0)), (1, .int (x1)), (2, .int (x2)), (3, .int (x3 + 1))] [1, 2, 3, 0] rfl ?_
    have hz := ih19 (x2, x3 + 1) hw
    exact hz
  · have hw := hw.2 c2
    refine j_aload_n hE 0 dX6_trail_44 rfl rfl ?_
    refine j_iconst hE dX6_trail_45 kc_0 ?_
    refine j_iload_n hE 3 dX6_trail_46 rfl rfl ?_
    refine jm_pI hE hA hR (As := [.int (0), .int (x3)]) (rest := []) (ctX6_isShown E.1.2.1 E.2.2.1 hA _ _ _ _  _ hw) rfl lkX6_isShown jdX6_isShown ⟨Nat.le_of_ble_eq_true rfl, Nat.le_of_ble_eq_true rfl⟩ rfl (Nat.le_of_ble_eq_true rfl) dX6_trail_47 (fun r3 hw => ?_)
    refine j_if_eq hE 95 dX6_trail_50 (by decide) (fun c4 => ?_) (fun c4 => ?_)
    · have hw := hw.1 c4
      refine j_iinc (L' := [(3, .int (x3 + 1)), (0, .ref (ad 0)), (1, .int (x1)), (2, .int (x2)), (4, .int (x4))]) hE hn 3 dX6_trail_95 rfl (congrArg (x3 + ·) kc_1) (Nat.le_of_ble_eq_true rfl) rfl ?_
      refine j_goto hE 19 dX6_trail_98 (by decide) ?_
      refine j_sub [(0, .ref (ad 0)), (1, .int (x1)), (2, .int (x2)), (3, .int (x3 + 1))] [1, 2, 3, 0] rfl ?_
      have hz := ih19 (x2, x3 + 1) hw
      exact hz
    · have hw := hw.2 c4
      refine j_aload_n hE 0 dX6_trail_53 rfl rfl ?_
      refine j_iconst hE dX6_trail_54 kc_0 ?_
      refine j_iload_n hE 3 dX6_trail_55 rfl rfl ?_
      refine j_iload hE 4 dX6_trail_56 rfl ?_
      refine jm_pI hE hA hR (As := [.int (0), .int (x3), .int (x4)]) (rest := []) (ctX6_markOf E.1.2.1 E.2.2.1 hA _ _ _ _ _  _ hw) rfl lkX6_markOf jdX6_markOf ⟨Nat.le_of_ble_eq_true rfl, Nat.le_of_ble_eq_true rfl⟩ rfl (Nat.le_of_ble_eq_true rfl) dX6_trail_58 (fun r5 hw => ?_)
      refine j_istore (L' := [(5, .int (r5)), (0, .ref (ad 0)), (1, .int (x1)), (2, .int (x2)), (3, .int (x3)), (4, .int (x4))]) hE hn dX6_trail_61 (Nat.le_of_ble_eq_true rfl) rfl ?_
      refine j_iload_n hE 3 dX6_trail_63 rfl rfl ?_
      refine j_aload_n hE 1 dX6_trail_64 rfl rfl ?_
      refine j_iconst hE dX6_trail_65 kc_0 ?_
      refine j_iload_n hE 4 dX6_trail_66 rfl rfl ?_
      refine j_iload hE 0 dX6_trail_67 rfl ?_
      refine jm_pI hE hA hR (As := [.int (0), .int (x3), .int (r5)]) (rest := [.int (x2)]) (ctX6_shownOf E.1.2.1 E.2.2.1 hA _ _ _ _ _  _ hw) rfl lkX6_shownOf jdX6_shownOf ⟨Nat.le_of_ble_eq_true rfl, Nat.le_of_ble_eq_true rfl⟩ rfl (Nat.le_of_ble_eq_true rfl) dX6_trail_69 (fun r6 hw => ?_)
      refine j_iload_n hE 2 dX6_trail_72 rfl rfl ?_
      refine j_icmp_ne hE 86 dX6_trail_73 (by decide) (fun c7 => ?_) (fun c7 => ?_)
      · have hw := hw.1 c7
        refine j_iconst hE dX6_trail_86 kc_0 ?_
        refine j_ior hE dX6_trail_87 ?_
        refine j_topi (fun v8 e_v8 => ?_)
        have hw := hw v8 e_v8
        refine j_istore_n (L' := [(2, .int (v8)), (5, .int (r5)), (0, .ref (ad 0)), (1, .int (x1)), (3, .int (x3)), (4, .int (x4))]) hE hn dX6_trail_88 rfl (Nat.le_of_ble_eq_true rfl) rfl ?_
        refine j_iinc (L' := [(4, .int (x4 + 1)), (2, .int (v8)), (5, .int (r5)), (0, .ref (ad 0)), (1, .int (x1)), (3, .int (x3))]) hE hn 5 dX6_trail_89 rfl (congrArg (x4 + ·) kc_1) (Nat.le_of_ble_eq_true rfl) rfl ?_
        refine j_goto hE 30 dX6_trail_92 (by decide) ?_
        refine j_sub [(0, .ref (ad 0)), (1, .int (x1)), (2, .int (v8)), (3, .int (x3)), (4, .int (x4 + 1))] [3, 4, 1, 5, 0] rfl ?_
        have hz := ih30 (v8, x4 + 1) hw
        exact hz
      · have hw := hw.2 c7
        refine j_iconst hE dX6_trail_76 kc_1 ?_
        refine j_iload hE 0 dX6_trail_77 rfl ?_
        refine j_psI hE hR (As := [.int (r5)]) (rest := [.int (1), .int (x2)]) (ctX6_cellOf E.1.2.1 E.2.2.1 _ _  _ hw) lkX6_cellOf jdX6_cellOf ⟨Nat.le_of_ble_eq_true rfl, Nat.le_of_ble_eq_true rfl⟩ rfl (Nat.le_of_ble_eq_true rfl) dX6_trail_79 (fun r9 hw => ?_)
        refine j_ishl hE dX6_trail_82 ?_
        refine j_goto hE 87 dX6_trail_83 (by decide) ?_
        refine j_ior hE dX6_trail_87 ?_
        refine j_topi (fun v10 e_v10 => ?_)
        have hw := hw v10 e_v10
        refine j_istore_n (L' := [(2, .int (v10)), (5, .int (r5)), (0, .ref (ad 0)), (1, .int (x1)), (3, .int (x3)), (4, .int (x4))]) hE hn dX6_trail_88 rfl (Nat.le_of_ble_eq_true rfl) rfl ?_
        refine j_iinc (L' := [(4, .int (x4 + 1)), (2, .int (v10)), (5, .int (r5)), (0, .ref (ad 0)), (1, .int (x1)), (3, .int (x3))]) hE hn 5 dX6_trail_89 rfl (congrArg (x4 + ·) kc_1) (Nat.le_of_ble_eq_true rfl) rfl ?_
        refine j_goto hE 30 dX6_trail_92 (by decide) ?_
        refine j_sub [(0, .ref (ad 0)), (1, .int (x1)), (2, .int (v10)), (3, .int (x3)), (4, .int (x4 + 1))] [3, 4, 1, 5, 0] rfl ?_
        have hz := ih30 (v10, x4 + 1) hw
        exact hz
def wX6_trail_19_b (x1 : Int32) (x2 : Int32) (x3 : Int32) (m : MS) (KL19 : Int32 × Int32 → Prop) (K : Int32 → MS → Prop) : Prop :=
  wX6_panes  m (fun r1 => (r1 ≤ x3 → (K x2 m)) ∧ (¬ r1 ≤ x3 → (wX6_trail_30 x1 x3 x2 0 m KL19 K)))
def wX6_trail_19 (x1 : Int32) (x2 : Int32) (x3 : Int32) (m : MS) (K : Int32 → MS → Prop) : Prop := lfp (σ := Int32 × Int32) (fun KL s => wX6_trail_19_b x1 s.1 s.2 m KL K) (x2, x3)
set_option maxRecDepth 100000 in
theorem bX6_trail_19 {E : jE} (hE : jOk E cX6_trail RX6) (hn : E.2.2.2.2 = 6) (hR : jRoom E 2 45) {ad : Nat → Nat} (hA : adOk ad) {r : GW} {b : Nat × Nat} {K : Int32 → MS → Prop} (hK : jRi E .int (KMI ad r K)) {x1 : Int32} {x2 : Int32} {x3 : Int32} {m : MS}  (hw : wX6_trail_19 x1 x2 x3 m K) : J E (mwX ad m r) b [(0, .ref (ad 0)), (1, .int (x1)), (2, .int (x2)), (3, .int (x3))] 19 [] := by
  refine lfp_sound (σ := Int32 × Int32) (F := fun KL s => wX6_trail_19_b x1 s.1 s.2 m KL K) (P := fun s => J E (mwX ad m r) b [(0, .ref (ad 0)), (1, .int (x1)), (2, .int (s.1)), (3, .int (s.2))] 19 []) ?_ hw
  clear hw
  rintro KL19 ⟨x2, x3⟩ hw ih19
  have hw : wX6_trail_19_b x1 x2 x3 m KL19 K := hw
  unfold wX6_trail_19_b at hw
  refine j_iload_n hE 3 dX6_trail_19 rfl rfl ?_
  refine j_aload_n hE 0 dX6_trail_20 rfl rfl ?_
  refine jm_pI hE hA hR (As := []) (rest := [.int (x3)]) (ctX6_panes E.1.2.1 E.2.2.1 hA _ _  _ hw) rfl lkX6_panes jdX6_panes ⟨Nat.le_of_ble_eq_true rfl, Nat.le_of_ble_eq_true rfl⟩ rfl (Nat.le_of_ble_eq_true rfl) dX6_trail_21 (fun r1 hw => ?_)
  refine j_icmp_ge hE 101 dX6_trail_24 (by decide) (fun c2 => ?_) (fun c2 => ?_)
  · have hw := hw.1 c2
    refine j_iload_n hE 2 dX6_trail_101 rfl rfl ?_
    exact j_iret hE hK dX6_trail_102 rfl ⟨_, rfl, hw⟩
  · have hw := hw.2 c2
    refine j_iconst hE dX6_trail_27 kc_0 ?_
    refine j_istore (L' := [(4, .int (0)), (0, .ref (ad 0)), (1, .int (x1)), (2, .int (x2)), (3, .int (x3))]) hE hn dX6_trail_28 (Nat.le_of_ble_eq_true rfl) rfl ?_
    refine j_sub [(0, .ref (ad 0)), (1, .int (x1)), (2, .int (x2)), (3, .int (x3)), (4, .int (0))] [1, 2, 3, 4, 0] rfl ?_
    exact bX6_trail_30 hE hn hR hA hK ih19 hw
def wX6_trail_0 (x1 : Int32) (m : MS) (K : Int32 → MS → Prop) : Prop :=
  ∀ m1 : MS, m1 = sF m 0 0 → (wX6_isPerson x1 m1 (fun r2 => (¬ r2 = 0 → (wX6_trail_19 x1 0 0 m1 K)) ∧ (r2 = 0 → (K ((-1)) m1))))
set_option maxRecDepth 100000 in
theorem bX6_trail_0 {E : jE} (hE : jOk E cX6_trail RX6) (hn : E.2.2.2.2 = 6) (hR : jRoom E 2 45) {ad : Nat → Nat} (hA : adOk ad) {r : GW} {b : Nat × Nat} {K : Int32 → MS → Prop} (hK : jRi E .int (KMI ad r K)) {x1 : Int32} {m : MS}  (hw : wX6_trail_0 x1 m K) : J E (mwX ad m r) b [(0, .ref (ad 0)), (1, .int (x1))] 0 [] := by
  unfold wX6_trail_0 at hw
  refine j_aload_n hE 0 dX6_trail_0 rfl rfl ?_
  refine j_iconst hE dX6_trail_1 kc_0 ?_
  refine jm_putF hE hA 0 0 (Nat.le_of_ble_eq_true rfl) q1647 rfl rfl (mset_0 _ _ _) rfl rfl dX6_trail_2 ?_
  refine j_wm (fun m1 e_m1 => ?_)
  have hw := hw m1 e_m1
  refine j_aload_n hE 0 dX6_trail_5 rfl rfl ?_
  refine j_iload_n hE 1 dX6_trail_6 rfl rfl ?_
  refine jm_pI hE hA hR (As := [.int (x1)]) (rest := []) (ctX6_isPerson E.1.2.1 E.2.2.1 hA _ _ _  _ hw) rfl lkX6_isPerson jdX6_isPerson ⟨Nat.le_of_ble_eq_true rfl, Nat.le_of_ble_eq_true rfl⟩ rfl (Nat.le_of_ble_eq_true rfl) dX6_trail_7 (fun r2 hw => ?_)
  refine j_if_ne hE 15 dX6_trail_10 (by decide) (fun c3 => ?_) (fun c3 => ?_)
  · have hw := hw.1 c3
    refine j_iconst hE dX6_trail_15 kc_0 ?_
    refine j_istore_n (L' := [(2, .int (0)), (0, .ref (ad 0)), (1, .int (x1))]) hE hn dX6_trail_16 rfl (Nat.le_of_ble_eq_true rfl) rfl ?_
    refine j_iconst hE dX6_trail_17 kc_0 ?_
    refine j_istore_n (L' := [(3, .int (0)), (2, .int (0)), (0, .ref (ad 0)), (1, .int (x1))]) hE hn dX6_trail_18 rfl (Nat.le_of_ble_eq_true rfl) rfl ?_
    refine j_sub [(0, .ref (ad 0)), (1, .int (x1)), (2, .int (0)), (3, .int (0))] [2, 3, 1, 0] rfl ?_
    exact bX6_trail_19 hE hn hR hA hK  hw
  · have hw := hw.2 c3
    refine j_iconst hE dX6_trail_13 kc_m1 ?_
    exact j_iret hE hK dX6_trail_14 rfl ⟨_, rfl, hw⟩
abbrev wX6_trail := wX6_trail_0
theorem ctX6_trail (l : Launch) (G : gG) {ad : Nat → Nat} (hA : adOk ad) (m0 : MS) (r : GW) (x1 : Int32) (K : Int32 → MS → Prop) (hw : wX6_trail x1 m0 K) : CtI l yX6_trail cX6_trail 6 .int ({ frames := 2, cells := 0, slots := 0, locals := 45 }) G [.ref (ad 0), .int (x1)] (mwX ad m0 r) (KMI ad r K) :=
  CtI.of RX6 plain_X6 rfl (Nat.le_of_ble_eq_true rfl) (fun E hE _ _ hn hR hK => bX6_trail_0 hE hn hR hA hK hw)
theorem jdX6_trail : jD yX6_trail 1 := by decide +kernel
def wX6_last_116 (x1 : Int32) (x3 : Int32) (x4 : Int32) (x5 : Int32) (x6 : Int32) (x7 : Int32) (s0 : Int32) (m : MS) (KL12 : Int32 × Int32 × Int32 → Prop) (KL43 : Int32 × Int32 × Int32 → Prop) (K : Int32 → MS → Prop) : Prop :=
  (x7 = 0 → (KL43 (s0, x3, x5 + (-1)))) ∧ (¬ x7 = 0 → (wX6_ageOf x6 (fun r2 => KL43 (s0, r2, x5 + (-1)))))
set_option maxRecDepth 100000 in
theorem bX6_last_116 {E : jE} (hE : jOk E cX6_last RX6) (hn : E.2.2.2.2 = 8) (hR : jRoom E 2 45) {ad : Nat → Nat} (hA : adOk ad) {r : GW} {b : Nat × Nat} {K : Int32 → MS → Prop} (hK : jRi E .int (KMI ad r K)) {x1 : Int32} {x3 : Int32} {x4 : Int32} {x5 : Int32} {x6 : Int32} {x7 : Int32} {s0 : Int32} {m : MS} {KL12 : Int32 × Int32 × Int32 → Prop} {KL43 : Int32 × Int32 × Int32 → Prop} (ih12 : ∀ s : Int32 × Int32 × Int32, KL12 s → J E (mwX ad m r) b [(0, .ref (ad 0)), (1, .int (x1)), (2, .int (s.1)), (3, .int (s.2.1)), (4, .int (s.2.2))] 12 []) (ih43 : ∀ s : Int32 × Int32 × Int32, KL43 s → J E (mwX ad m r) b [(0, .ref (ad 0)), (1, .int (x1)), (2, .int (s.1)), (3, .int (s.2.1)), (4, .int (x4)), (5, .int (s.2.2))] 43 []) (hw : wX6_last_116 x1 x3 x4 x5 x6 x7 s0 m KL12 KL43 K) : J E (mwX ad m r) b [(0, .ref (ad 0)), (1, .int (x1)), (3, .int (x3)), (4, .int (x4)), (5, .int (x5)), (6, .int (x6)), (7, .int (x7))] 116 [.int (s0)] := by
  unfold wX6_last_116 at hw
  refine j_istore_n (L' := [(2, .int (s0)), (0, .ref (ad 0)), (1, .int (x1)), (3, .int (x3)), (4, .int (x4)), (5, .int (x5)), (6, .int (x6)), (7, .int (x7))]) hE hn dX6_last_116 rfl (Nat.le_of_ble_eq_true rfl) rfl ?_
  refine j_iload hE 7 dX6_last_117 rfl ?_
  refine j_if_eq hE 130 dX6_last_119 (by decide) (fun c1 => ?_) (fun c1 => ?_)
  · have hw := hw.1 c1
    refine j_iload_n hE 3 dX6_last_130 rfl rfl ?_
    refine j_istore_n (L' := [(3, .int (x3)), (2, .int (s0)), (0, .ref (ad 0)), (1, .int (x1)), (4, .int (x4)), (5, .int (x5)), (6, .int (x6)), (7, .int (x7))]) hE hn dX6_last_131 rfl (Nat.le_of_ble_eq_true rfl) rfl ?_
    refine j_iinc (L' := [(5, .int (x5 + (-1))), (3, .int (x3)), (2, .int (s0)), (0, .ref (ad 0)), (1, .int (x1)), (4, .int (x4)), (6, .int (x6)), (7, .int (x7))]) hE hn 5 dX6_last_132 rfl (congrArg (x5 + ·) kc_m1) (Nat.le_of_ble_eq_true rfl) rfl ?_
    refine j_goto hE 43 dX6_last_135 (by decide) ?_
    refine j_sub [(0, .ref (ad 0)), (1, .int (x1)), (2, .int (s0)), (3, .int (x3)), (4, .int (x4)), (5, .int (x5 + (-1)))] [3, 4, 2, 1, 5, 0] rfl ?_
    have hz := ih43 (s0, x3, x5 + (-1)) hw
    exact hz
  · have hw := hw.2 c1
    refine j_iload hE 6 dX6_last_122 rfl ?_
    refine j_psI hE hR (As := [.int (x6)]) (rest := []) (ctX6_ageOf E.1.2.1 E.2.2.1 _ _  _ hw) lkX6_ageOf jdX6_ageOf ⟨Nat.le_of_ble_eq_true rfl, Nat.le_of_ble_eq_true rfl⟩ rfl (Nat.le_of_ble_eq_true rfl) dX6_last_124 (fun r2 hw => ?_)
    refine j_goto hE 131 dX6_last_127 (by decide) ?_
    refine j_istore_n (L' := [(3, .int (r2)), (2, .int (s0)), (0, .ref (ad 0)), (1, .int (x1)), (4, .int (x4)), (5, .int (x5)), (6, .int (x6)), (7, .int (x7))]) hE hn dX6_last_131 rfl (Nat.le_of_ble_eq_true rfl) rfl ?_
    refine j_iinc (L' := [(5, .int (x5 + (-1))), (3, .int (r2)), (2, .int (s0)), (0, .ref (ad 0)), (1, .int (x1)), (4, .int (x4)), (6, .int (x6)), (7, .int (x7))]) hE hn 5 dX6_last_132 rfl (congrArg (x5 + ·) kc_m1) (Nat.le_of_ble_eq_true rfl) rfl ?_
    refine j_goto hE 43 dX6_last_135 (by decide) ?_
    refine j_sub [(0, .ref (ad 0)), (1, .int (x1)), (2, .int (s0)), (3, .int (r2)), (4, .int (x4)), (5, .int (x5 + (-1)))] [3, 4, 2, 1, 5, 0] rfl ?_
    have hz := ih43 (s0, r2, x5 + (-1)) hw
    exact hz
def wX6_last_100 (x1 : Int32) (x2 : Int32) (x3 : Int32) (x4 : Int32) (x5 : Int32) (x6 : Int32) (s0 : Int32) (m : MS) (KL12 : Int32 × Int32 × Int32 → Prop) (KL43 : Int32 × Int32 × Int32 → Prop) (K : Int32 → MS → Prop) : Prop :=
  (s0 = 0 → (wX6_last_116 x1 x3 x4 x5 x6 s0 x2 m KL12 KL43 K)) ∧ (¬ s0 = 0 → (wX6_cellOf x6 (fun r2 => wX6_last_116 x1 x3 x4 x5 x6 s0 r2 m KL12 KL43 K)))
set_option maxRecDepth 100000 in
theorem bX6_last_100 {E : jE} (hE : jOk E cX6_last RX6) (hn : E.2.2.2.2 = 8) (hR : jRoom E 2 45) {ad : Nat → Nat} (hA : adOk ad) {r : GW} {b : Nat × Nat} {K : Int32 → MS → Prop} (hK : jRi E .int (KMI ad r K)) {x1 : Int32} {x2 : Int32} {x3 : Int32} {x4 : Int32} {x5 : Int32} {x6 : Int32} {s0 : Int32} {m : MS} {KL12 : Int32 × Int32 × Int32 → Prop} {KL43 : Int32 × Int32 × Int32 → Prop} (ih12 : ∀ s : Int32 × Int32 × Int32, KL12 s → J E (mwX ad m r) b [(0, .ref (ad 0)), (1, .int (x1)), (2, .int (s.1)), (3, .int (s.2.1)), (4, .int (s.2.2))] 12 []) (ih43 : ∀ s : Int32 × Int32 × Int32, KL43 s → J E (mwX ad m r) b [(0, .ref (ad 0)), (1, .int (x1)), (2, .int (s.1)), (3, .int (s.2.1)), (4, .int (x4)), (5, .int (s.2.2))] 43 []) (hw : wX6_last_100 x1 x2 x3 x4 x5 x6 s0 m KL12 KL43 K) : J E (mwX ad m r) b [(0, .ref (ad 0)), (1, .int (x1)), (2, .int (x2)), (3, .int (x3)), (4, .int (x4)), (5, .int (x5)), (6, .int (x6))] 100 [.int (s0)] := by
  unfold wX6_last_100 at hw
  refine j_istore (L' := [(7, .int (s0)), (0, .ref (ad 0)), (1, .int (x1)), (2, .int (x2)), (3, .int (x3)), (4, .int (x4)), (5, .int (x5)), (6, .int (x6))]) hE hn dX6_last_100 (Nat.le_of_ble_eq_true rfl) rfl ?_
  refine j_iload hE 0 dX6_last_102 rfl ?_
  refine j_if_eq hE 115 dX6_last_104 (by decide) (fun c1 => ?_) (fun c1 => ?_)
  · have hw := hw.1 c1
    refine j_iload_n hE 3 dX6_last_115 rfl rfl ?_
    refine j_sub [(0, .ref (ad 0)), (1, .int (x1)), (3, .int (x3)), (4, .int (x4)), (5, .int (x5)), (6, .int (x6)), (7, .int (s0))] [1, 2, 4, 5, 6, 7, 0] rfl ?_
    exact bX6_last_116 hE hn hR hA hK ih12 ih43 hw
  · have hw := hw.2 c1
    refine j_iload hE 7 dX6_last_107 rfl ?_
    refine j_psI hE hR (As := [.int (x6)]) (rest := []) (ctX6_cellOf E.1.2.1 E.2.2.1 _ _  _ hw) lkX6_cellOf jdX6_cellOf ⟨Nat.le_of_ble_eq_true rfl, Nat.le_of_ble_eq_true rfl⟩ rfl (Nat.le_of_ble_eq_true rfl) dX6_last_109 (fun r2 hw => ?_)
    refine j_goto hE 116 dX6_last_112 (by decide) ?_
    refine j_sub [(0, .ref (ad 0)), (1, .int (x1)), (3, .int (x3)), (4, .int (x4)), (5, .int (x5)), (6, .int (x6)), (7, .int (s0))] [1, 2, 4, 5, 6, 7, 0] rfl ?_
    exact bX6_last_116 hE hn hR hA hK ih12 ih43 hw
def wX6_last_99 (x1 : Int32) (x2 : Int32) (x3 : Int32) (x4 : Int32) (x5 : Int32) (x6 : Int32) (m : MS) (KL12 : Int32 × Int32 × Int32 → Prop) (KL43 : Int32 × Int32 × Int32 → Prop) (K : Int32 → MS → Prop) : Prop :=
  wX6_last_100 x1 x2 x3 x4 x5 x6 0 m KL12 KL43 K
set_option maxRecDepth 100000 in
theorem bX6_last_99 {E : jE} (hE : jOk E cX6_last RX6) (hn : E.2.2.2.2 = 8) (hR : jRoom E 2 45) {ad : Nat → Nat} (hA : adOk ad) {r : GW} {b : Nat × Nat} {K : Int32 → MS → Prop} (hK : jRi E .int (KMI ad r K)) {x1 : Int32} {x2 : Int32} {x3 : Int32} {x4 : Int32} {x5 : Int32} {x6 : Int32} {m : MS} {KL12 : Int32 × Int32 × Int32 → Prop} {KL43 : Int32 × Int32 × Int32 → Prop} (ih12 : ∀ s : Int32 × Int32 × Int32, KL12 s → J E (mwX ad m r) b [(0, .ref (ad 0)), (1, .int (x1)), (2, .int (s.1)), (3, .int (s.2.1)), (4, .int (s.2.2))] 12 []) (ih43 : ∀ s : Int32 × Int32 × Int32, KL43 s → J E (mwX ad m r) b [(0, .ref (ad 0)), (1, .int (x1)), (2, .int (s.1)), (3, .int (s.2.1)), (4, .int (x4)), (5, .int (s.2.2))] 43 []) (hw : wX6_last_99 x1 x2 x3 x4 x5 x6 m KL12 KL43 K) : J E (mwX ad m r) b [(0, .ref (ad 0)), (1, .int (x1)), (2, .int (x2)), (3, .int (x3)), (4, .int (x4)), (5, .int (x5)), (6, .int (x6))] 99 [] := by
  unfold wX6_last_99 at hw
  refine j_iconst hE dX6_last_99 kc_0 ?_
  exact bX6_last_100 hE hn hR hA hK ih12 ih43 hw
def wX6_last_95 (x1 : Int32) (x2 : Int32) (x3 : Int32) (x4 : Int32) (x5 : Int32) (x6 : Int32) (m : MS) (KL12 : Int32 × Int32 × Int32 → Prop) (KL43 : Int32 × Int32 × Int32 → Prop) (K : Int32 → MS → Prop) : Prop :=
  wX6_last_100 x1 x2 x3 x4 x5 x6 1 m KL12 KL43 K
set_option maxRecDepth 100000 in
theorem bX6_last_95 {E : jE} (hE : jOk E cX6_last RX6) (hn : E.2.2.2.2 = 8) (hR : jRoom E 2 45) {ad : Nat → Nat} (hA : adOk ad) {r : GW} {b : Nat × Nat} {K : Int32 → MS → Prop} (hK : jRi E .int (KMI ad r K)) {x1 : Int32} {x2 : Int32} {x3 : Int32} {x4 : Int32} {x5 : Int32} {x6 : Int32} {m : MS} {KL12 : Int32 × Int32 × Int32 → Prop} {KL43 : Int32 × Int32 × Int32 → Prop} (ih12 : ∀ s : Int32 × Int32 × Int32, KL12 s → J E (mwX ad m r) b [(0, .ref (ad 0)), (1, .int (x1)), (2, .int (s.1)), (3, .int (s.2.1)), (4, .int (s.2.2))] 12 []) (ih43 : ∀ s : Int32 × Int32 × Int32, KL43 s → J E (mwX ad m r) b [(0, .ref (ad 0)), (1, .int (x1)), (2, .int (s.1)), (3, .int (s.2.1)), (4, .int (x4)), (5, .int (s.2.2))] 43 []) (hw : wX6_last_95 x1 x2 x3 x4 x5 x6 m KL12 KL43 K) : J E (mwX ad m r) b [(0, .ref (ad 0)), (1, .int (x1)), (2, .int (x2)), (3, .int (x3)), (4, .int (x4)), (5, .int (x5)), (6, .int (x6))] 95 [] := by
  unfold wX6_last_95 at hw
  refine j_iconst hE dX6_last_95 kc_1 ?_
  refine j_goto hE 100 dX6_last_96 (by decide) ?_
  exact bX6_last_100 hE hn hR hA hK ih12 ih43 hw
def wX6_last_43_b (x1 : Int32) (x4 : Int32) (x2 : Int32) (x3 : Int32) (x5 : Int32) (m : MS) (KL43 : Int32 × Int32 × Int32 → Prop) (KL12 : Int32 × Int32 × Int32 → Prop) (K : Int32 → MS → Prop) : Prop :=
  (x5 < 0 → (KL12 (x2, x3, x4 + 1))) ∧ (¬ x5 < 0 → (wX6_isShown 0 x4 m (fun r2 => (r2 = 0 → (KL12 (x2, x3, x4 + 1))) ∧ (¬ r2 = 0 → (wX6_markOf 0 x4 x5 m (fun r4 => wX6_shownOf 0 x4 r4 m (fun r5 => (¬ r5 = x1 → (wX6_last_99 x1 x2 x3 x4 x5 r4 m KL12 KL43 K)) ∧ (r5 = x1 → ((x2 < 0 → (wX6_last_95 x1 x2 x3 x4 x5 r4 m KL12 KL43 K)) ∧ (¬ x2 < 0 → (wX6_ageOf r4 (fun r8 => (x3 ≤ r8 → (wX6_last_99 x1 x2 x3 x4 x5 r4 m KL12 KL43 K)) ∧ (¬ x3 ≤ r8 → (wX6_last_95 x1 x2 x3 x4 x5 r4 m KL12 KL43 K))))))))))))))
def wX6_last_43 (x1 : Int32) (x4 : Int32) (x2 : Int32) (x3 : Int32) (x5 : Int32) (m : MS) (KL12 : Int32 × Int32 × Int32 → Prop) (K : Int32 → MS → Prop) : Prop := lfp (σ := Int32 × Int32 × Int32) (fun KL s => wX6_last_43_b x1 x4 s.1 s.2.1 s.2.2 m KL KL12 K) (x2, x3, x5)
set_option maxRecDepth 100000 in
theorem bX6_last_43 {E : jE} (hE : jOk E cX6_last RX6) (hn : E.2.2.2.2 = 8) (hR : jRoom E 2 45) {ad : Nat → Nat} (hA : adOk ad) {r : GW} {b : Nat × Nat} {K : Int32 → MS → Prop} (hK : jRi E .int (KMI ad r K)) {x1 : Int32} {x4 : Int32} {x2 : Int32} {x3 : Int32} {x5 : Int32} {m : MS} {KL12 : Int32 × Int32 × Int32 → Prop} (ih12 : ∀ s : Int32 × Int32 × Int32, KL12 s → J E (mwX ad m r) b [(0, .ref (ad 0)), (1, .int (x1)), (2, .int (s.1)), (3, .int (s.2.1)), (4, .int (s.2.2))] 12 []) (hw : wX6_last_43 x1 x4 x2 x3 x5 m KL12 K) : J E (mwX ad m r) b [(0, .ref (ad 0)), (1, .int (x1)), (2, .int (x2)), (3, .int (x3)), (4, .int (x4)), (5, .int (x5))] 43 [] := by
  refine lfp_sound (σ := Int32 × Int32 × Int32) (F := fun KL s => wX6_last_43_b x1 x4 s.1 s.2.1 s.2.2 m KL KL12 K) (P := fun s => J E (mwX ad m r) b [(0, .ref (ad 0)), (1, .int (x1)), (2, .int (s.1)), (3, .int (s.2.1)), (4, .int (x4)), (5, .int (s.2.2))] 43 []) ?_ hw
  clear hw
  rintro KL43 ⟨x2, x3, x5⟩ hw ih43
  have hw : wX6_last_43_b x1 x4 x2 x3 x5 m KL43 KL12 K := hw
  unfold wX6_last_43_b at hw
  refine j_iload hE 5 dX6_last_43 rfl ?_
  refine j_if_lt hE 138 dX6_last_45 (by decide) (fun c1 => ?_) (fun c1 => ?_)
  · have hw := hw.1 c1
    refine j_iinc (L' := [(4, .int (x4 + 1)), (0, .ref (ad 0)), (1, .int (x1)), (2, .int (x2)), (3, .int (x3)), (5, .int (x5))]) hE hn 4 dX6_last_138 rfl (congrArg (x4 + ·) kc_1) (Nat.le_of_ble_eq_true rfl) rfl ?_
    refine j_goto hE 12 dX6_last_141 (by decide) ?_
    refine j_sub [(0, .ref (ad 0)), (1, .int (x1)), (2, .int (x2)), (3, .int (x3)), (4, .int (x4 + 1))] [1, 2, 3, 4, 0] rfl ?_
    have hz := ih12 (x2, x3, x4 + 1) hw
    exact hz
  · have hw := hw.2 c1
    refine j_aload_n hE 0 dX6_last_48 rfl rfl ?_
    refine j_iconst hE dX6_last_49 kc_0 ?_
    refine j_iload hE 4 dX6_last_50 rfl ?_
    refine jm_pI hE hA hR (As := [.int (0), .int (x4)]) (rest := []) (ctX6_isShown E.1.2.1 E.2.2.1 hA _ _ _ _  _ hw) rfl lkX6_isShown jdX6_isShown ⟨Nat.le_of_ble_eq_true rfl, Nat.le_of_ble_eq_true rfl⟩ rfl (Nat.le_of_ble_eq_true rfl) dX6_last_52 (fun r2 hw => ?_)
    refine j_if_eq hE 138 dX6_last_55 (by decide) (fun c3 => ?_) (fun c3 => ?_)
    · have hw := hw.1 c3
      refine j_iinc (L' := [(4, .int (x4 + 1)), (0, .ref (ad 0)), (1, .int (x1)), (2, .int (x2)), (3, .int (x3)), (5, .int (x5))]) hE hn 4 dX6_last_138 rfl (congrArg (x4 + ·) kc_1) (Nat.le_of_ble_eq_true rfl) rfl ?_
      refine j_goto hE 12 dX6_last_141 (by decide) ?_
      refine j_sub [(0, .ref (ad 0)), (1, .int (x1)), (2, .int (x2)), (3, .int (x3)), (4, .int (x4 + 1))] [1, 2, 3, 4, 0] rfl ?_
      have hz := ih12 (x2, x3, x4 + 1) hw
      exact hz
    · have hw := hw.2 c3
      refine j_aload_n hE 0 dX6_last_58 rfl rfl ?_
      refine j_iconst hE dX6_last_59 kc_0 ?_
      refine j_iload hE 4 dX6_last_60 rfl ?_
      refine j_iload hE 5 dX6_last_62 rfl ?_
      refine jm_pI hE hA hR (As := [.int (0), .int (x4), .int (x5)]) (rest := []) (ctX6_markOf E.1.2.1 E.2.2.1 hA _ _ _ _ _  _ hw) rfl lkX6_markOf jdX6_markOf ⟨Nat.le_of_ble_eq_true rfl, Nat.le_of_ble_eq_true rfl⟩ rfl (Nat.le_of_ble_eq_true rfl) dX6_last_64 (fun r4 hw => ?_)
      refine j_istore (L' := [(6, .int (r4)), (0, .ref (ad 0)), (1, .int (x1)), (2, .int (x2)), (3, .int (x3)), (4, .int (x4)), (5, .int (x5))]) hE hn dX6_last_67 (Nat.le_of_ble_eq_true rfl) rfl ?_
      refine j_aload_n hE 1 dX6_last_69 rfl rfl ?_
      refine j_iconst hE dX6_last_70 kc_0 ?_
      refine j_iload hE 5 dX6_last_71 rfl ?_
      refine j_iload hE 0 dX6_last_73 rfl ?_
      refine jm_pI hE hA hR (As := [.int (0), .int (x4), .int (r4)]) (rest := []) (ctX6_shownOf E.1.2.1 E.2.2.1 hA _ _ _ _ _  _ hw) rfl lkX6_shownOf jdX6_shownOf ⟨Nat.le_of_ble_eq_true rfl, Nat.le_of_ble_eq_true rfl⟩ rfl (Nat.le_of_ble_eq_true rfl) dX6_last_75 (fun r5 hw => ?_)
      refine j_iload_n hE 2 dX6_last_78 rfl rfl ?_
      refine j_icmp_ne hE 99 dX6_last_79 (by decide) (fun c6 => ?_) (fun c6 => ?_)
      · have hw := hw.1 c6
        refine j_sub [(0, .ref (ad 0)), (1, .int (x1)), (2, .int (x2)), (3, .int (x3)), (4, .int (x4)), (5, .int (x5)), (6, .int (r4))] [1, 2, 3, 4, 5, 6, 0] rfl ?_
        exact bX6_last_99 hE hn hR hA hK ih12 ih43 hw
      · have hw := hw.2 c6
        refine j_iload_n hE 3 dX6_last_82 rfl rfl ?_
        refine j_if_lt hE 95 dX6_last_83 (by decide) (fun c7 => ?_) (fun c7 => ?_)
        · have hw := hw.1 c7
          refine j_sub [(0, .ref (ad 0)), (1, .int (x1)), (2, .int (x2)), (3, .int (x3)), (4, .int (x4)), (5, .int (x5)), (6, .int (r4))] [1, 2, 3, 4, 5, 6, 0] rfl ?_
          exact bX6_last_95 hE hn hR hA hK ih12 ih43 hw
        · have hw := hw.2 c7
          refine j_iload hE 0 dX6_last_86 rfl ?_
          refine j_psI hE hR (As := [.int (r4)]) (rest := []) (ctX6_ageOf E.1.2.1 E.2.2.1 _ _  _ hw) lkX6_ageOf jdX6_ageOf ⟨Nat.le_of_ble_eq_true rfl, Nat.le_of_ble_eq_true rfl⟩ rfl (Nat.le_of_ble_eq_true rfl) dX6_last_88 (fun r8 hw => ?_)
          refine j_iload_n hE 4 dX6_last_91 rfl rfl ?_
          refine j_icmp_ge hE 99 dX6_last_92 (by decide) (fun c9 => ?_) (fun c9 => ?_)
          · have hw := hw.1 c9
            refine j_sub [(0, .ref (ad 0)), (1, .int (x1)), (2, .int (x2)), (3, .int (x3)), (4, .int (x4)), (5, .int (x5)), (6, .int (r4))] [1, 2, 3, 4, 5, 6, 0] rfl ?_
            exact bX6_last_99 hE hn hR hA hK ih12 ih43 hw
          · have hw := hw.2 c9
            refine j_sub [(0, .ref (ad 0)), (1, .int (x1)), (2, .int (x2)), (3, .int (x3)), (4, .int (x4)), (5, .int (x5)), (6, .int (r4))] [1, 2, 3, 4, 5, 6, 0] rfl ?_
            exact bX6_last_95 hE hn hR hA hK ih12 ih43 hw
def wX6_last_12_b (x1 : Int32) (x2 : Int32) (x3 : Int32) (x4 : Int32) (m : MS) (KL12 : Int32 × Int32 × Int32 → Prop) (K : Int32 → MS → Prop) : Prop :=
  wX6_panes  m (fun r1 => (r1 ≤ x4 → (K x2 m)) ∧ (¬ r1 ≤ x4 → (wX6_isPerson x1 m (fun r3 => (r3 = 0 → (K x2 m)) ∧ (¬ r3 = 0 → (vp_in ((nI 18) + x4) 1518 ∧ (∀ v6 : Int32, v6 = (rd (gA m 11) ((nI 18) + x4)) - 1 → (wX6_last_43 x1 x4 x2 x3 v6 m KL12 K))))))))
def wX6_last_12 (x1 : Int32) (x2 : Int32) (x3 : Int32) (x4 : Int32) (m : MS) (K : Int32 → MS → Prop) : Prop := lfp (σ := Int32 × Int32 × Int32) (fun KL s => wX6_last_12_b x1 s.1 s.2.1 s.2.2 m KL K) (x2, x3, x4)
set_option maxRecDepth 100000 in
theorem bX6_last_12 {E : jE} (hE : jOk E cX6_last RX6) (hn : E.2.2.2.2 = 8) (hR : jRoom E 2 45) {ad : Nat → Nat} (hA : adOk ad) {r : GW} {b : Nat × Nat} {K : Int32 → MS → Prop} (hK : jRi E .int (KMI ad r K)) {x1 : Int32} {x2 : Int32} {x3 : Int32} {x4 : Int32} {m : MS}  (hw : wX6_last_12 x1 x2 x3 x4 m K) : J E (mwX ad m r) b [(0, .ref (ad 0)), (1, .int (x1)), (2, .int (x2)), (3, .int (x3)), (4, .int (x4))] 12 [] := by
  refine lfp_sound (σ := Int32 × Int32 × Int32) (F := fun KL s => wX6_last_12_b x1 s.1 s.2.1 s.2.2 m KL K) (P := fun s => J E (mwX ad m r) b [(0, .ref (ad 0)), (1, .int (x1)), (2, .int (s.1)), (3, .int (s.2.1)), (4, .int (s.2.2))] 12 []) ?_ hw
  clear hw
  rintro KL12 ⟨x2, x3, x4⟩ hw ih12
  have hw : wX6_last_12_b x1 x2 x3 x4 m KL12 K := hw
  unfold wX6_last_12_b at hw
  refine j_iload hE 4 dX6_last_12 rfl ?_
  refine j_aload_n hE 0 dX6_last_14 rfl rfl ?_
  refine jm_pI hE hA hR (As := []) (rest := [.int (x4)]) (ctX6_panes E.1.2.1 E.2.2.1 hA _ _  _ hw) rfl lkX6_panes jdX6_panes ⟨Nat.le_of_ble_eq_true rfl, Nat.le_of_ble_eq_true rfl⟩ rfl (Nat.le_of_ble_eq_true rfl) dX6_last_15 (fun r1 hw => ?_)
  refine j_icmp_ge hE 144 dX6_last_18 (by decide) (fun c2 => ?_) (fun c2 => ?_)
  · have hw := hw.1 c2
    refine j_iload_n hE 2 dX6_last_144 rfl rfl ?_
    exact j_iret hE hK dX6_last_145 rfl ⟨_, rfl, hw⟩
  · have hw := hw.2 c2
    refine j_aload_n hE 0 dX6_last_21 rfl rfl ?_
    refine j_iload_n hE 1 dX6_last_22 rfl rfl ?_
    refine jm_pI hE hA hR (As := [.int (x1)]) (rest := []) (ctX6_isPerson E.1.2.1 E.2.2.1 hA _ _ _  _ hw) rfl lkX6_isPerson jdX6_isPerson ⟨Nat.le_of_ble_eq_true rfl, Nat.le_of_ble_eq_true rfl⟩ rfl (Nat.le_of_ble_eq_true rfl) dX6_last_23 (fun r3 hw => ?_)
    refine j_if_eq hE 144 dX6_last_26 (by decide) (fun c4 => ?_) (fun c4 => ?_)
    · have hw := hw.1 c4
      refine j_iload_n hE 2 dX6_last_144 rfl rfl ?_
      exact j_iret hE hK dX6_last_145 rfl ⟨_, rfl, hw⟩
    · have hw := hw.2 c4
      refine j_aload_n hE 0 dX6_last_29 rfl rfl ?_
      refine jm_get hE hA 24 (Nat.le_of_ble_eq_true rfl) q1671 rfl (v := .ref (ad 12)) rfl dX6_last_30 ?_
      refine j_bipush hE dX6_last_33 kb_18 ?_
      refine j_iload hE 4 dX6_last_35 rfl ?_
      refine j_iadd hE dX6_last_37 ?_
      obtain ⟨h5, hw⟩ := hw
      refine jm_iald hE hA 11 (Nat.le_of_ble_eq_true rfl) h5 dX6_last_38 ?_
      refine j_iconst hE dX6_last_39 kc_1 ?_
      refine j_isub hE dX6_last_40 ?_
      refine j_topi (fun v6 e_v6 => ?_)
      have hw := hw v6 e_v6
      refine j_istore (L' := [(5, .int (v6)), (0, .ref (ad 0)), (1, .int (x1)), (2, .int (x2)), (3, .int (x3)), (4, .int (x4))]) hE hn dX6_last_41 (Nat.le_of_ble_eq_true rfl) rfl ?_
      refine j_sub [(0, .ref (ad 0)), (1, .int (x1)), (2, .int (x2)), (3, .int (x3)), (4, .int (x4)), (5, .int (v6))] [1, 2, 3, 4, 5, 0] rfl ?_
      exact bX6_last_43 hE hn hR hA hK ih12 hw
def wX6_last_0 (x1 : Int32) (m : MS) (K : Int32 → MS → Prop) : Prop :=
  ∀ m1 : MS, m1 = sF m 0 0 → (wX6_last_12 x1 ((-1)) 0 0 m1 K)
set_option maxRecDepth 100000 in
theorem bX6_last_0 {E : jE} (hE : jOk E cX6_last RX6) (hn : E.2.2.2.2 = 8) (hR : jRoom E 2 45) {ad : Nat → Nat} (hA : adOk ad) {r : GW} {b : Nat × Nat} {K : Int32 → MS → Prop} (hK : jRi E .int (KMI ad r K)) {x1 : Int32} {m : MS}  (hw : wX6_last_0 x1 m K) : J E (mwX ad m r) b [(0, .ref (ad 0)), (1, .int (x1))] 0 [] := by
  unfold wX6_last_0 at hw
  refine j_aload_n hE 0 dX6_last_0 rfl rfl ?_
  refine j_iconst hE dX6_last_1 kc_0 ?_
  refine jm_putF hE hA 0 0 (Nat.le_of_ble_eq_true rfl) q1647 rfl rfl (mset_0 _ _ _) rfl rfl dX6_last_2 ?_
  refine j_wm (fun m1 e_m1 => ?_)
  have hw := hw m1 e_m1
  refine j_iconst hE dX6_last_5 kc_m1 ?_
  refine j_istore_n (L' := [(2, .int ((-1))), (0, .ref (ad 0)), (1, .int (x1))]) hE hn dX6_last_6 rfl (Nat.le_of_ble_eq_true rfl) rfl ?_
  refine j_iconst hE dX6_last_7 kc_0 ?_
  refine j_istore_n (L' := [(3, .int (0)), (2, .int ((-1))), (0, .ref (ad 0)), (1, .int (x1))]) hE hn dX6_last_8 rfl (Nat.le_of_ble_eq_true rfl) rfl ?_
  refine j_iconst hE dX6_last_9 kc_0 ?_
  refine j_istore (L' := [(4, .int (0)), (3, .int (0)), (2, .int ((-1))), (0, .ref (ad 0)), (1, .int (x1))]) hE hn dX6_last_10 (Nat.le_of_ble_eq_true rfl) rfl ?_
  refine j_sub [(0, .ref (ad 0)), (1, .int (x1)), (2, .int ((-1))), (3, .int (0)), (4, .int (0))] [3, 4, 2, 1, 0] rfl ?_
  exact bX6_last_12 hE hn hR hA hK  hw
abbrev wX6_last := wX6_last_0
theorem ctX6_last (l : Launch) (G : gG) {ad : Nat → Nat} (hA : adOk ad) (m0 : MS) (r : GW) (x1 : Int32) (K : Int32 → MS → Prop) (hw : wX6_last x1 m0 K) : CtI l yX6_last cX6_last 8 .int ({ frames := 2, cells := 0, slots := 0, locals := 45 }) G [.ref (ad 0), .int (x1)] (mwX ad m0 r) (KMI ad r K) :=
  CtI.of RX6 plain_X6 rfl (Nat.le_of_ble_eq_true rfl) (fun E hE _ _ hn hR hK => bX6_last_0 hE hn hR hA hK hw)
theorem jdX6_last : jD yX6_last 1 := by decide +kernel
def wX6_worst_40 (x2 : Int32) (x3 : Int32) (x4 : Int32) (s0 : Int32) (m : MS) (KL11 : Int32 × Int32 × Int32 → Prop) (K : Int32 → MS → Prop) : Prop :=
  (x4 ≤ x2 → (KL11 (s0, x2, x3 + 1))) ∧ (¬ x4 ≤ x2 → (KL11 (s0, x4, x3 + 1)))
set_option maxRecDepth 100000 in
theorem bX6_worst_40 {E : jE} (hE : jOk E cX6_worst RX6) (hn : E.2.2.2.2 = 5) (hR : jRoom E 4 98) {ad : Nat → Nat} (hA : adOk ad) {r : GW} {b : Nat × Nat} {K : Int32 → MS → Prop} (hK : jRi E .int (KMI ad r K)) {x2 : Int32} {x3 : Int32} {x4 : Int32} {s0 : Int32} {m : MS} {KL11 : Int32 × Int32 × Int32 → Prop} (ih11 : ∀ s : Int32 × Int32 × Int32, KL11 s → J E (mwX ad m r) b [(0, .ref (ad 0)), (1, .int (s.1)), (2, .int (s.2.1)), (3, .int (s.2.2))] 11 []) (hw : wX6_worst_40 x2 x3 x4 s0 m KL11 K) : J E (mwX ad m r) b [(0, .ref (ad 0)), (2, .int (x2)), (3, .int (x3)), (4, .int (x4))] 40 [.int (s0)] := by
  unfold wX6_worst_40 at hw
  refine j_istore_n (L' := [(1, .int (s0)), (0, .ref (ad 0)), (2, .int (x2)), (3, .int (x3)), (4, .int (x4))]) hE hn dX6_worst_40 rfl (Nat.le_of_ble_eq_true rfl) rfl ?_
  refine j_iload hE 4 dX6_worst_41 rfl ?_
  refine j_iload_n hE 2 dX6_worst_43 rfl rfl ?_
  refine j_icmp_le hE 52 dX6_worst_44 (by decide) (fun c1 => ?_) (fun c1 => ?_)
  · have hw := hw.1 c1
    refine j_iload_n hE 2 dX6_worst_52 rfl rfl ?_
    refine j_istore_n (L' := [(2, .int (x2)), (1, .int (s0)), (0, .ref (ad 0)), (3, .int (x3)), (4, .int (x4))]) hE hn dX6_worst_53 rfl (Nat.le_of_ble_eq_true rfl) rfl ?_
    refine j_iinc (L' := [(3, .int (x3 + 1)), (2, .int (x2)), (1, .int (s0)), (0, .ref (ad 0)), (4, .int (x4))]) hE hn 3 dX6_worst_54 rfl (congrArg (x3 + ·) kc_1) (Nat.le_of_ble_eq_true rfl) rfl ?_
    refine j_goto hE 11 dX6_worst_57 (by decide) ?_
    refine j_sub [(0, .ref (ad 0)), (1, .int (s0)), (2, .int (x2)), (3, .int (x3 + 1))] [3, 2, 1, 0] rfl ?_
    have hz := ih11 (s0, x2, x3 + 1) hw
    exact hz
  · have hw := hw.2 c1
    refine j_iload hE 4 dX6_worst_47 rfl ?_
    refine j_goto hE 53 dX6_worst_49 (by decide) ?_
    refine j_istore_n (L' := [(2, .int (x4)), (1, .int (s0)), (0, .ref (ad 0)), (3, .int (x3)), (4, .int (x4))]) hE hn dX6_worst_53 rfl (Nat.le_of_ble_eq_true rfl) rfl ?_
    refine j_iinc (L' := [(3, .int (x3 + 1)), (2, .int (x4)), (1, .int (s0)), (0, .ref (ad 0)), (4, .int (x4))]) hE hn 3 dX6_worst_54 rfl (congrArg (x3 + ·) kc_1) (Nat.le_of_ble_eq_true rfl) rfl ?_
    refine j_goto hE 11 dX6_worst_57 (by decide) ?_
    refine j_sub [(0, .ref (ad 0)), (1, .int (s0)), (2, .int (x4)), (3, .int (x3 + 1))] [3, 2, 1, 0] rfl ?_
    have hz := ih11 (s0, x4, x3 + 1) hw
    exact hz
def wX6_worst_11_b (x1 : Int32) (x2 : Int32) (x3 : Int32) (m : MS) (KL11 : Int32 × Int32 × Int32 → Prop) (K : Int32 → MS → Prop) : Prop :=
  wX6_people  m (fun r1 => (r1 ≤ x3 → (K x1 m)) ∧ (¬ r1 ≤ x3 → (wX6_harmShown 0 x3 (nI 6) m (fun r3 => (r3 ≤ x2 → (wX6_worst_40 x2 x3 r3 x1 m KL11 K)) ∧ (¬ r3 ≤ x2 → (wX6_worst_40 x2 x3 r3 x3 m KL11 K))))))
def wX6_worst_11 (x1 : Int32) (x2 : Int32) (x3 : Int32) (m : MS) (K : Int32 → MS → Prop) : Prop := lfp (σ := Int32 × Int32 × Int32) (fun KL s => wX6_worst_11_b s.1 s.2.1 s.2.2 m KL K) (x1, x2, x3)
set_option maxRecDepth 100000 in
theorem bX6_worst_11 {E : jE} (hE : jOk E cX6_worst RX6) (hn : E.2.2.2.2 = 5) (hR : jRoom E 4 98) {ad : Nat → Nat} (hA : adOk ad) {r : GW} {b : Nat × Nat} {K : Int32 → MS → Prop} (hK : jRi E .int (KMI ad r K)) {x1 : Int32} {x2 : Int32} {x3 : Int32} {m : MS}  (hw : wX6_worst_11 x1 x2 x3 m K) : J E (mwX ad m r) b [(0, .ref (ad 0)), (1, .int (x1)), (2, .int (x2)), (3, .int (x3))] 11 [] := by
  refine lfp_sound (σ := Int32 × Int32 × Int32) (F := fun KL s => wX6_worst_11_b s.1 s.2.1 s.2.2 m KL K) (P := fun s => J E (mwX ad m r) b [(0, .ref (ad 0)), (1, .int (s.1)), (2, .int (s.2.1)), (3, .int (s.2.2))] 11 []) ?_ hw
  clear hw
  rintro KL11 ⟨x1, x2, x3⟩ hw ih11
  have hw : wX6_worst_11_b x1 x2 x3 m KL11 K := hw
  unfold wX6_worst_11_b at hw
  refine j_iload_n hE 3 dX6_worst_11 rfl rfl ?_
  refine j_aload_n hE 0 dX6_worst_12 rfl rfl ?_
  refine jm_pI hE hA hR (As := []) (rest := [.int (x3)]) (ctX6_people E.1.2.1 E.2.2.1 hA _ _  _ hw) rfl lkX6_people jdX6_people ⟨Nat.le_of_ble_eq_true rfl, Nat.le_of_ble_eq_true rfl⟩ rfl (Nat.le_of_ble_eq_true rfl) dX6_worst_13 (fun r1 hw => ?_)
  refine j_icmp_ge hE 60 dX6_worst_16 (by decide) (fun c2 => ?_) (fun c2 => ?_)
  · have hw := hw.1 c2
    refine j_iload_n hE 1 dX6_worst_60 rfl rfl ?_
    exact j_iret hE hK dX6_worst_61 rfl ⟨_, rfl, hw⟩
  · have hw := hw.2 c2
    refine j_aload_n hE 0 dX6_worst_19 rfl rfl ?_
    refine j_iconst hE dX6_worst_20 kc_0 ?_
    refine j_iload_n hE 3 dX6_worst_21 rfl rfl ?_
    refine j_bipush hE dX6_worst_22 kb_6 ?_
    refine jm_pI hE hA hR (As := [.int (0), .int (x3), .int (nI 6)]) (rest := []) (ctX6_harmShown E.1.2.1 E.2.2.1 hA _ _ _ _ _  _ hw) rfl lkX6_harmShown jdX6_harmShown ⟨Nat.le_of_ble_eq_true rfl, Nat.le_of_ble_eq_true rfl⟩ rfl (Nat.le_of_ble_eq_true rfl) dX6_worst_24 (fun r3 hw => ?_)
    refine j_istore (L' := [(4, .int (r3)), (0, .ref (ad 0)), (1, .int (x1)), (2, .int (x2)), (3, .int (x3))]) hE hn dX6_worst_27 (Nat.le_of_ble_eq_true rfl) rfl ?_
    refine j_iload hE 0 dX6_worst_29 rfl ?_
    refine j_iload_n hE 3 dX6_worst_31 rfl rfl ?_
    refine j_icmp_le hE 39 dX6_worst_32 (by decide) (fun c4 => ?_) (fun c4 => ?_)
    · have hw := hw.1 c4
      refine j_iload_n hE 2 dX6_worst_39 rfl rfl ?_
      refine j_sub [(0, .ref (ad 0)), (2, .int (x2)), (3, .int (x3)), (4, .int (r3))] [1, 3, 4, 0] rfl ?_
      exact bX6_worst_40 hE hn hR hA hK ih11 hw
    · have hw := hw.2 c4
      refine j_iload_n hE 4 dX6_worst_35 rfl rfl ?_
      refine j_goto hE 40 dX6_worst_36 (by decide) ?_
      refine j_sub [(0, .ref (ad 0)), (2, .int (x2)), (3, .int (x3)), (4, .int (r3))] [1, 3, 4, 0] rfl ?_
      exact bX6_worst_40 hE hn hR hA hK ih11 hw
def wX6_worst_0 (m : MS) (K : Int32 → MS → Prop) : Prop :=
  ∀ m1 : MS, m1 = sF m 0 0 → (wX6_worst_11 ((-1)) 0 0 m1 K)
set_option maxRecDepth 100000 in
theorem bX6_worst_0 {E : jE} (hE : jOk E cX6_worst RX6) (hn : E.2.2.2.2 = 5) (hR : jRoom E 4 98) {ad : Nat → Nat} (hA : adOk ad) {r : GW} {b : Nat × Nat} {K : Int32 → MS → Prop} (hK : jRi E .int (KMI ad r K)) {m : MS}  (hw : wX6_worst_0 m K) : J E (mwX ad m r) b [(0, .ref (ad 0))] 0 [] := by
  unfold wX6_worst_0 at hw
  refine j_aload_n hE 0 dX6_worst_0 rfl rfl ?_
  refine j_iconst hE dX6_worst_1 kc_0 ?_
  refine jm_putF hE hA 0 0 (Nat.le_of_ble_eq_true rfl) q1647 rfl rfl (mset_0 _ _ _) rfl rfl dX6_worst_2 ?_
  refine j_wm (fun m1 e_m1 => ?_)
  have hw := hw m1 e_m1
  refine j_iconst hE dX6_worst_5 kc_m1 ?_
  refine j_istore_n (L' := [(1, .int ((-1))), (0, .ref (ad 0))]) hE hn dX6_worst_6 rfl (Nat.le_of_ble_eq_true rfl) rfl ?_
  refine j_iconst hE dX6_worst_7 kc_0 ?_
  refine j_istore_n (L' := [(2, .int (0)), (1, .int ((-1))), (0, .ref (ad 0))]) hE hn dX6_worst_8 rfl (Nat.le_of_ble_eq_true rfl) rfl ?_
  refine j_iconst hE dX6_worst_9 kc_0 ?_
  refine j_istore_n (L' := [(3, .int (0)), (2, .int (0)), (1, .int ((-1))), (0, .ref (ad 0))]) hE hn dX6_worst_10 rfl (Nat.le_of_ble_eq_true rfl) rfl ?_
  refine j_sub [(0, .ref (ad 0)), (1, .int ((-1))), (2, .int (0)), (3, .int (0))] [3, 2, 1, 0] rfl ?_
  exact bX6_worst_11 hE hn hR hA hK  hw
abbrev wX6_worst := wX6_worst_0
theorem ctX6_worst (l : Launch) (G : gG) {ad : Nat → Nat} (hA : adOk ad) (m0 : MS) (r : GW)  (K : Int32 → MS → Prop) (hw : wX6_worst m0 K) : CtI l yX6_worst cX6_worst 5 .int ({ frames := 4, cells := 0, slots := 0, locals := 98 }) G [.ref (ad 0)] (mwX ad m0 r) (KMI ad r K) :=
  CtI.of RX6 plain_X6 rfl (Nat.le_of_ble_eq_true rfl) (fun E hE _ _ hn hR hK => bX6_worst_0 hE hn hR hA hK hw)
theorem jdX6_worst : jD yX6_worst 0 := by decide +kernel
def wX6_oldest_60 (x2 : Int32) (x3 : Int32) (x4 : Int32) (x5 : Int32) (s0 : Int32) (m : MS) (KL11 : Int32 × Int32 × Int32 → Prop) (KL22 : Int32 × Int32 × Int32 → Prop) (K : Int32 → MS → Prop) : Prop :=
  (x5 ≤ x2 → (KL22 (s0, x2, x4 + 1))) ∧ (¬ x5 ≤ x2 → (KL22 (s0, x5, x4 + 1)))
set_option maxRecDepth 100000 in
theorem bX6_oldest_60 {E : jE} (hE : jOk E cX6_oldest RX6) (hn : E.2.2.2.2 = 6) (hR : jRoom E 1 23) {ad : Nat → Nat} (hA : adOk ad) {r : GW} {b : Nat × Nat} {K : Int32 → MS → Prop} (hK : jRi E .int (KMI ad r K)) {x2 : Int32} {x3 : Int32} {x4 : Int32} {x5 : Int32} {s0 : Int32} {m : MS} {KL11 : Int32 × Int32 × Int32 → Prop} {KL22 : Int32 × Int32 × Int32 → Prop} (ih11 : ∀ s : Int32 × Int32 × Int32, KL11 s → J E (mwX ad m r) b [(0, .ref (ad 0)), (1, .int (s.1)), (2, .int (s.2.1)), (3, .int (s.2.2))] 11 []) (ih22 : ∀ s : Int32 × Int32 × Int32, KL22 s → J E (mwX ad m r) b [(0, .ref (ad 0)), (1, .int (s.1)), (2, .int (s.2.1)), (3, .int (x3)), (4, .int (s.2.2))] 22 []) (hw : wX6_oldest_60 x2 x3 x4 x5 s0 m KL11 KL22 K) : J E (mwX ad m r) b [(0, .ref (ad 0)), (2, .int (x2)), (3, .int (x3)), (4, .int (x4)), (5, .int (x5))] 60 [.int (s0)] := by
  unfold wX6_oldest_60 at hw
  refine j_istore_n (L' := [(1, .int (s0)), (0, .ref (ad 0)), (2, .int (x2)), (3, .int (x3)), (4, .int (x4)), (5, .int (x5))]) hE hn dX6_oldest_60 rfl (Nat.le_of_ble_eq_true rfl) rfl ?_
  refine j_iload hE 5 dX6_oldest_61 rfl ?_
  refine j_iload_n hE 2 dX6_oldest_63 rfl rfl ?_
  refine j_icmp_le hE 72 dX6_oldest_64 (by decide) (fun c1 => ?_) (fun c1 => ?_)
  · have hw := hw.1 c1
    refine j_iload_n hE 2 dX6_oldest_72 rfl rfl ?_
    refine j_istore_n (L' := [(2, .int (x2)), (1, .int (s0)), (0, .ref (ad 0)), (3, .int (x3)), (4, .int (x4)), (5, .int (x5))]) hE hn dX6_oldest_73 rfl (Nat.le_of_ble_eq_true rfl) rfl ?_
    refine j_iinc (L' := [(4, .int (x4 + 1)), (2, .int (x2)), (1, .int (s0)), (0, .ref (ad 0)), (3, .int (x3)), (5, .int (x5))]) hE hn 4 dX6_oldest_74 rfl (congrArg (x4 + ·) kc_1) (Nat.le_of_ble_eq_true rfl) rfl ?_
    refine j_goto hE 22 dX6_oldest_77 (by decide) ?_
    refine j_sub [(0, .ref (ad 0)), (1, .int (s0)), (2, .int (x2)), (3, .int (x3)), (4, .int (x4 + 1))] [3, 2, 1, 4, 0] rfl ?_
    have hz := ih22 (s0, x2, x4 + 1) hw
    exact hz
  · have hw := hw.2 c1
    refine j_iload hE 5 dX6_oldest_67 rfl ?_
    refine j_goto hE 73 dX6_oldest_69 (by decide) ?_
    refine j_istore_n (L' := [(2, .int (x5)), (1, .int (s0)), (0, .ref (ad 0)), (3, .int (x3)), (4, .int (x4)), (5, .int (x5))]) hE hn dX6_oldest_73 rfl (Nat.le_of_ble_eq_true rfl) rfl ?_
    refine j_iinc (L' := [(4, .int (x4 + 1)), (2, .int (x5)), (1, .int (s0)), (0, .ref (ad 0)), (3, .int (x3)), (5, .int (x5))]) hE hn 4 dX6_oldest_74 rfl (congrArg (x4 + ·) kc_1) (Nat.le_of_ble_eq_true rfl) rfl ?_
    refine j_goto hE 22 dX6_oldest_77 (by decide) ?_
    refine j_sub [(0, .ref (ad 0)), (1, .int (s0)), (2, .int (x5)), (3, .int (x3)), (4, .int (x4 + 1))] [3, 2, 1, 4, 0] rfl ?_
    have hz := ih22 (s0, x5, x4 + 1) hw
    exact hz
def wX6_oldest_22_b (x3 : Int32) (x1 : Int32) (x2 : Int32) (x4 : Int32) (m : MS) (KL22 : Int32 × Int32 × Int32 → Prop) (KL11 : Int32 × Int32 × Int32 → Prop) (K : Int32 → MS → Prop) : Prop :=
  vp_in ((nI 18) + x3) 1518 ∧ (((rd (gA m 11) ((nI 18) + x3)) ≤ x4 → (KL11 (x1, x2, x3 + 1))) ∧ (¬ (rd (gA m 11) ((nI 18) + x3)) ≤ x4 → (wX6_markOf 0 x3 x4 m (fun r3 => wX6_ageOf r3 (fun r4 => (r4 ≤ x2 → (wX6_oldest_60 x2 x3 x4 r4 x1 m KL11 KL22 K)) ∧ (¬ r4 ≤ x2 → (wX6_oldest_60 x2 x3 x4 r4 x3 m KL11 KL22 K)))))))
def wX6_oldest_22 (x3 : Int32) (x1 : Int32) (x2 : Int32) (x4 : Int32) (m : MS) (KL11 : Int32 × Int32 × Int32 → Prop) (K : Int32 → MS → Prop) : Prop := lfp (σ := Int32 × Int32 × Int32) (fun KL s => wX6_oldest_22_b x3 s.1 s.2.1 s.2.2 m KL KL11 K) (x1, x2, x4)
set_option maxRecDepth 100000 in
theorem bX6_oldest_22 {E : jE} (hE : jOk E cX6_oldest RX6) (hn : E.2.2.2.2 = 6) (hR : jRoom E 1 23) {ad : Nat → Nat} (hA : adOk ad) {r : GW} {b : Nat × Nat} {K : Int32 → MS → Prop} (hK : jRi E .int (KMI ad r K)) {x3 : Int32} {x1 : Int32} {x2 : Int32} {x4 : Int32} {m : MS} {KL11 : Int32 × Int32 × Int32 → Prop} (ih11 : ∀ s : Int32 × Int32 × Int32, KL11 s → J E (mwX ad m r) b [(0, .ref (ad 0)), (1, .int (s.1)), (2, .int (s.2.1)), (3, .int (s.2.2))] 11 []) (hw : wX6_oldest_22 x3 x1 x2 x4 m KL11 K) : J E (mwX ad m r) b [(0, .ref (ad 0)), (1, .int (x1)), (2, .int (x2)), (3, .int (x3)), (4, .int (x4))] 22 [] := by
  refine lfp_sound (σ := Int32 × Int32 × Int32) (F := fun KL s => wX6_oldest_22_b x3 s.1 s.2.1 s.2.2 m KL KL11 K) (P := fun s => J E (mwX ad m r) b [(0, .ref (ad 0)), (1, .int (s.1)), (2, .int (s.2.1)), (3, .int (x3)), (4, .int (s.2.2))] 22 []) ?_ hw
  clear hw
  rintro KL22 ⟨x1, x2, x4⟩ hw ih22
  have hw : wX6_oldest_22_b x3 x1 x2 x4 m KL22 KL11 K := hw
  unfold wX6_oldest_22_b at hw
  refine j_iload hE 4 dX6_oldest_22 rfl ?_
  refine j_aload_n hE 0 dX6_oldest_24 rfl rfl ?_
  refine jm_get hE hA 24 (Nat.le_of_ble_eq_true rfl) q1671 rfl (v := .ref (ad 12)) rfl dX6_oldest_25 ?_
  refine j_bipush hE dX6_oldest_28 kb_18 ?_
  refine j_iload_n hE 3 dX6_oldest_30 rfl rfl ?_
  refine j_iadd hE dX6_oldest_31 ?_
  obtain ⟨h1, hw⟩ := hw
  refine jm_iald hE hA 11 (Nat.le_of_ble_eq_true rfl) h1 dX6_oldest_32 ?_
  refine j_icmp_ge hE 80 dX6_oldest_33 (by decide) (fun c2 => ?_) (fun c2 => ?_)
  · have hw := hw.1 c2
    refine j_iinc (L' := [(3, .int (x3 + 1)), (0, .ref (ad 0)), (1, .int (x1)), (2, .int (x2)), (4, .int (x4))]) hE hn 3 dX6_oldest_80 rfl (congrArg (x3 + ·) kc_1) (Nat.le_of_ble_eq_true rfl) rfl ?_
    refine j_goto hE 11 dX6_oldest_83 (by decide) ?_
    refine j_sub [(0, .ref (ad 0)), (1, .int (x1)), (2, .int (x2)), (3, .int (x3 + 1))] [1, 2, 3, 0] rfl ?_
    have hz := ih11 (x1, x2, x3 + 1) hw
    exact hz
  · have hw := hw.2 c2
    refine j_aload_n hE 0 dX6_oldest_36 rfl rfl ?_
    refine j_iconst hE dX6_oldest_37 kc_0 ?_
    refine j_iload_n hE 3 dX6_oldest_38 rfl rfl ?_
    refine j_iload hE 4 dX6_oldest_39 rfl ?_
    refine jm_pI hE hA hR (As := [.int (0), .int (x3), .int (x4)]) (rest := []) (ctX6_markOf E.1.2.1 E.2.2.1 hA _ _ _ _ _  _ hw) rfl lkX6_markOf jdX6_markOf ⟨Nat.le_of_ble_eq_true rfl, Nat.le_of_ble_eq_true rfl⟩ rfl (Nat.le_of_ble_eq_true rfl) dX6_oldest_41 (fun r3 hw => ?_)
    refine j_psI hE hR (As := [.int (r3)]) (rest := []) (ctX6_ageOf E.1.2.1 E.2.2.1 _ _  _ hw) lkX6_ageOf jdX6_ageOf ⟨Nat.le_of_ble_eq_true rfl, Nat.le_of_ble_eq_true rfl⟩ rfl (Nat.le_of_ble_eq_true rfl) dX6_oldest_44 (fun r4 hw => ?_)
    refine j_istore (L' := [(5, .int (r4)), (0, .ref (ad 0)), (1, .int (x1)), (2, .int (x2)), (3, .int (x3)), (4, .int (x4))]) hE hn dX6_oldest_47 (Nat.le_of_ble_eq_true rfl) rfl ?_
    refine j_iload hE 0 dX6_oldest_49 rfl ?_
    refine j_iload_n hE 3 dX6_oldest_51 rfl rfl ?_
    refine j_icmp_le hE 59 dX6_oldest_52 (by decide) (fun c5 => ?_) (fun c5 => ?_)
    · have hw := hw.1 c5
      refine j_iload_n hE 2 dX6_oldest_59 rfl rfl ?_
      refine j_sub [(0, .ref (ad 0)), (2, .int (x2)), (3, .int (x3)), (4, .int (x4)), (5, .int (r4))] [1, 3, 4, 5, 0] rfl ?_
      exact bX6_oldest_60 hE hn hR hA hK ih11 ih22 hw
    · have hw := hw.2 c5
      refine j_iload_n hE 4 dX6_oldest_55 rfl rfl ?_
      refine j_goto hE 60 dX6_oldest_56 (by decide) ?_
      refine j_sub [(0, .ref (ad 0)), (2, .int (x2)), (3, .int (x3)), (4, .int (x4)), (5, .int (r4))] [1, 3, 4, 5, 0] rfl ?_
      exact bX6_oldest_60 hE hn hR hA hK ih11 ih22 hw
def wX6_oldest_11_b (x1 : Int32) (x2 : Int32) (x3 : Int32) (m : MS) (KL11 : Int32 × Int32 × Int32 → Prop) (K : Int32 → MS → Prop) : Prop :=
  wX6_panes  m (fun r1 => (r1 ≤ x3 → (K x1 m)) ∧ (¬ r1 ≤ x3 → (wX6_oldest_22 x3 x1 x2 0 m KL11 K)))
def wX6_oldest_11 (x1 : Int32) (x2 : Int32) (x3 : Int32) (m : MS) (K : Int32 → MS → Prop) : Prop := lfp (σ := Int32 × Int32 × Int32) (fun KL s => wX6_oldest_11_b s.1 s.2.1 s.2.2 m KL K) (x1, x2, x3)
set_option maxRecDepth 100000 in
theorem bX6_oldest_11 {E : jE} (hE : jOk E cX6_oldest RX6) (hn : E.2.2.2.2 = 6) (hR : jRoom E 1 23) {ad : Nat → Nat} (hA : adOk ad) {r : GW} {b : Nat × Nat} {K : Int32 → MS → Prop} (hK : jRi E .int (KMI ad r K)) {x1 : Int32} {x2 : Int32} {x3 : Int32} {m : MS}  (hw : wX6_oldest_11 x1 x2 x3 m K) : J E (mwX ad m r) b [(0, .ref (ad 0)), (1, .int (x1)), (2, .int (x2)), (3, .int (x3))] 11 [] := by
  refine lfp_sound (σ := Int32 × Int32 × Int32) (F := fun KL s => wX6_oldest_11_b s.1 s.2.1 s.2.2 m KL K) (P := fun s => J E (mwX ad m r) b [(0, .ref (ad 0)), (1, .int (s.1)), (2, .int (s.2.1)), (3, .int (s.2.2))] 11 []) ?_ hw
  clear hw
  rintro KL11 ⟨x1, x2, x3⟩ hw ih11
  have hw : wX6_oldest_11_b x1 x2 x3 m KL11 K := hw
  unfold wX6_oldest_11_b at hw
  refine j_iload_n hE 3 dX6_oldest_11 rfl rfl ?_
  refine j_aload_n hE 0 dX6_oldest_12 rfl rfl ?_
  refine jm_pI hE hA hR (As := []) (rest := [.int (x3)]) (ctX6_panes E.1.2.1 E.2.2.1 hA _ _  _ hw) rfl lkX6_panes jdX6_panes ⟨Nat.le_of_ble_eq_true rfl, Nat.le_of_ble_eq_true rfl⟩ rfl (Nat.le_of_ble_eq_true rfl) dX6_oldest_13 (fun r1 hw => ?_)
  refine j_icmp_ge hE 86 dX6_oldest_16 (by decide) (fun c2 => ?_) (fun c2 => ?_)
  · have hw := hw.1 c2
    refine j_iload_n hE 1 dX6_oldest_86 rfl rfl ?_
    exact j_iret hE hK dX6_oldest_87 rfl ⟨_, rfl, hw⟩
  · have hw := hw.2 c2
    refine j_iconst hE dX6_oldest_19 kc_0 ?_
    refine j_istore (L' := [(4, .int (0)), (0, .ref (ad 0)), (1, .int (x1)), (2, .int (x2)), (3, .int (x3))]) hE hn dX6_oldest_20 (Nat.le_of_ble_eq_true rfl) rfl ?_
    refine j_sub [(0, .ref (ad 0)), (1, .int (x1)), (2, .int (x2)), (3, .int (x3)), (4, .int (0))] [1, 2, 3, 4, 0] rfl ?_
    exact bX6_oldest_22 hE hn hR hA hK ih11 hw
def wX6_oldest_0 (m : MS) (K : Int32 → MS → Prop) : Prop :=
  ∀ m1 : MS, m1 = sF m 0 0 → (wX6_oldest_11 ((-1)) ((-1)) 0 m1 K)
set_option maxRecDepth 100000 in
theorem bX6_oldest_0 {E : jE} (hE : jOk E cX6_oldest RX6) (hn : E.2.2.2.2 = 6) (hR : jRoom E 1 23) {ad : Nat → Nat} (hA : adOk ad) {r : GW} {b : Nat × Nat} {K : Int32 → MS → Prop} (hK : jRi E .int (KMI ad r K)) {m : MS}  (hw : wX6_oldest_0 m K) : J E (mwX ad m r) b [(0, .ref (ad 0))] 0 [] := by
  unfold wX6_oldest_0 at hw
  refine j_aload_n hE 0 dX6_oldest_0 rfl rfl ?_
  refine j_iconst hE dX6_oldest_1 kc_0 ?_
  refine jm_putF hE hA 0 0 (Nat.le_of_ble_eq_true rfl) q1647 rfl rfl (mset_0 _ _ _) rfl rfl dX6_oldest_2 ?_
  refine j_wm (fun m1 e_m1 => ?_)
  have hw := hw m1 e_m1
  refine j_iconst hE dX6_oldest_5 kc_m1 ?_
  refine j_istore_n (L' := [(1, .int ((-1))), (0, .ref (ad 0))]) hE hn dX6_oldest_6 rfl (Nat.le_of_ble_eq_true rfl) rfl ?_
  refine j_iconst hE dX6_oldest_7 kc_m1 ?_
  refine j_istore_n (L' := [(2, .int ((-1))), (1, .int ((-1))), (0, .ref (ad 0))]) hE hn dX6_oldest_8 rfl (Nat.le_of_ble_eq_true rfl) rfl ?_
  refine j_iconst hE dX6_oldest_9 kc_0 ?_
  refine j_istore_n (L' := [(3, .int (0)), (2, .int ((-1))), (1, .int ((-1))), (0, .ref (ad 0))]) hE hn dX6_oldest_10 rfl (Nat.le_of_ble_eq_true rfl) rfl ?_
  refine j_sub [(0, .ref (ad 0)), (1, .int ((-1))), (2, .int ((-1))), (3, .int (0))] [3, 2, 1, 0] rfl ?_
  exact bX6_oldest_11 hE hn hR hA hK  hw
abbrev wX6_oldest := wX6_oldest_0
theorem ctX6_oldest (l : Launch) (G : gG) {ad : Nat → Nat} (hA : adOk ad) (m0 : MS) (r : GW)  (K : Int32 → MS → Prop) (hw : wX6_oldest m0 K) : CtI l yX6_oldest cX6_oldest 6 .int ({ frames := 1, cells := 0, slots := 0, locals := 23 }) G [.ref (ad 0)] (mwX ad m0 r) (KMI ad r K) :=
  CtI.of RX6 plain_X6 rfl (Nat.le_of_ble_eq_true rfl) (fun E hE _ _ hn hR hK => bX6_oldest_0 hE hn hR hA hK hw)
theorem jdX6_oldest : jD yX6_oldest 0 := by decide +kernel
def wX6_young_20_b (x1 : Int32) (x3 : Int32) (x2 : Int32) (x4 : Int32) (m : MS) (KL20 : Int32 × Int32 → Prop) (KL9 : Int32 × Int32 → Prop) (K : Int32 → MS → Prop) : Prop :=
  vp_in ((nI 18) + x3) 1518 ∧ (((rd (gA m 11) ((nI 18) + x3)) ≤ x4 → (KL9 (x2, x3 + 1))) ∧ (¬ (rd (gA m 11) ((nI 18) + x3)) ≤ x4 → (wX6_markOf 0 x3 x4 m (fun r3 => wX6_ageOf r3 (fun r4 => (x1 < r4 → (∀ v6 : Int32, v6 = x2 + 0 → (KL20 (v6, x4 + 1)))) ∧ (¬ x1 < r4 → (∀ v7 : Int32, v7 = x2 + 1 → (KL20 (v7, x4 + 1)))))))))
def wX6_young_20 (x1 : Int32) (x3 : Int32) (x2 : Int32) (x4 : Int32) (m : MS) (KL9 : Int32 × Int32 → Prop) (K : Int32 → MS → Prop) : Prop := lfp (σ := Int32 × Int32) (fun KL s => wX6_young_20_b x1 x3 s.1 s.2 m KL KL9 K) (x2, x4)
set_option maxRecDepth 100000 in
theorem bX6_young_20 {E : jE} (hE : jOk E cX6_young RX6) (hn : E.2.2.2.2 = 5) (hR : jRoom E 1 23) {ad : Nat → Nat} (hA : adOk ad) {r : GW} {b : Nat × Nat} {K : Int32 → MS → Prop} (hK : jRi E .int (KMI ad r K)) {x1 : Int32} {x3 : Int32} {x2 : Int32} {x4 : Int32} {m : MS} {KL9 : Int32 × Int32 → Prop} (ih9 : ∀ s : Int32 × Int32, KL9 s → J E (mwX ad m r) b [(0, .ref (ad 0)), (1, .int (x1)), (2, .int (s.1)), (3, .int (s.2))] 9 []) (hw : wX6_young_20 x1 x3 x2 x4 m KL9 K) : J E (mwX ad m r) b [(0, .ref (ad 0)), (1, .int (x1)), (2, .int (x2)), (3, .int (x3)), (4, .int (x4))] 20 [] := by
  refine lfp_sound (σ := Int32 × Int32) (F := fun KL s => wX6_young_20_b x1 x3 s.1 s.2 m KL KL9 K) (P := fun s => J E (mwX ad m r) b [(0, .ref (ad 0)), (1, .int (x1)), (2, .int (s.1)), (3, .int (x3)), (4, .int (s.2))] 20 []) ?_ hw
  clear hw
  rintro KL20 ⟨x2, x4⟩ hw ih20
  have hw : wX6_young_20_b x1 x3 x2 x4 m KL20 KL9 K := hw
  unfold wX6_young_20_b at hw
  refine j_iload hE 4 dX6_young_20 rfl ?_
  refine j_aload_n hE 0 dX6_young_22 rfl rfl ?_
  refine jm_get hE hA 24 (Nat.le_of_ble_eq_true rfl) q1671 rfl (v := .ref (ad 12)) rfl dX6_young_23 ?_
  refine j_bipush hE dX6_young_26 kb_18 ?_
  refine j_iload_n hE 3 dX6_young_28 rfl rfl ?_
  refine j_iadd hE dX6_young_29 ?_
  obtain ⟨h1, hw⟩ := hw
  refine jm_iald hE hA 11 (Nat.le_of_ble_eq_true rfl) h1 dX6_young_30 ?_
  refine j_icmp_ge hE 63 dX6_young_31 (by decide) (fun c2 => ?_) (fun c2 => ?_)
  · have hw := hw.1 c2
    refine j_iinc (L' := [(3, .int (x3 + 1)), (0, .ref (ad 0)), (1, .int (x1)), (2, .int (x2)), (4, .int (x4))]) hE hn 3 dX6_young_63 rfl (congrArg (x3 + ·) kc_1) (Nat.le_of_ble_eq_true rfl) rfl ?_
    refine j_goto hE 9 dX6_young_66 (by decide) ?_
    refine j_sub [(0, .ref (ad 0)), (1, .int (x1)), (2, .int (x2)), (3, .int (x3 + 1))] [1, 2, 3, 0] rfl ?_
    have hz := ih9 (x2, x3 + 1) hw
    exact hz
  · have hw := hw.2 c2
    refine j_iload_n hE 2 dX6_young_34 rfl rfl ?_
    refine j_aload_n hE 0 dX6_young_35 rfl rfl ?_
    refine j_iconst hE dX6_young_36 kc_0 ?_
    refine j_iload_n hE 3 dX6_young_37 rfl rfl ?_
    refine j_iload hE 4 dX6_young_38 rfl ?_
    refine jm_pI hE hA hR (As := [.int (0), .int (x3), .int (x4)]) (rest := [.int (x2)]) (ctX6_markOf E.1.2.1 E.2.2.1 hA _ _ _ _ _  _ hw) rfl lkX6_markOf jdX6_markOf ⟨Nat.le_of_ble_eq_true rfl, Nat.le_of_ble_eq_true rfl⟩ rfl (Nat.le_of_ble_eq_true rfl) dX6_young_40 (fun r3 hw => ?_)
    refine j_psI hE hR (As := [.int (r3)]) (rest := [.int (x2)]) (ctX6_ageOf E.1.2.1 E.2.2.1 _ _  _ hw) lkX6_ageOf jdX6_ageOf ⟨Nat.le_of_ble_eq_true rfl, Nat.le_of_ble_eq_true rfl⟩ rfl (Nat.le_of_ble_eq_true rfl) dX6_young_43 (fun r4 hw => ?_)
    refine j_iload_n hE 1 dX6_young_46 rfl rfl ?_
    refine j_icmp_gt hE 54 dX6_young_47 (by decide) (fun c5 => ?_) (fun c5 => ?_)
    · have hw := hw.1 c5
      refine j_iconst hE dX6_young_54 kc_0 ?_
      refine j_iadd hE dX6_young_55 ?_
      refine j_topi (fun v6 e_v6 => ?_)
      have hw := hw v6 e_v6
      refine j_istore_n (L' := [(2, .int (v6)), (0, .ref (ad 0)), (1, .int (x1)), (3, .int (x3)), (4, .int (x4))]) hE hn dX6_young_56 rfl (Nat.le_of_ble_eq_true rfl) rfl ?_
      refine j_iinc (L' := [(4, .int (x4 + 1)), (2, .int (v6)), (0, .ref (ad 0)), (1, .int (x1)), (3, .int (x3))]) hE hn 4 dX6_young_57 rfl (congrArg (x4 + ·) kc_1) (Nat.le_of_ble_eq_true rfl) rfl ?_
      refine j_goto hE 20 dX6_young_60 (by decide) ?_
      refine j_sub [(0, .ref (ad 0)), (1, .int (x1)), (2, .int (v6)), (3, .int (x3)), (4, .int (x4 + 1))] [2, 3, 1, 4, 0] rfl ?_
      have hz := ih20 (v6, x4 + 1) hw
      exact hz
    · have hw := hw.2 c5
      refine j_iconst hE dX6_young_50 kc_1 ?_
      refine j_goto hE 55 dX6_young_51 (by decide) ?_
      refine j_iadd hE dX6_young_55 ?_
      refine j_topi (fun v7 e_v7 => ?_)
      have hw := hw v7 e_v7
      refine j_istore_n (L' := [(2, .int (v7)), (0, .ref (ad 0)), (1, .int (x1)), (3, .int (x3)), (4, .int (x4))]) hE hn dX6_young_56 rfl (Nat.le_of_ble_eq_true rfl) rfl ?_
      refine j_iinc (L' := [(4, .int (x4 + 1)), (2, .int (v7)), (0, .ref (ad 0)), (1, .int (x1)), (3, .int (x3))]) hE hn 4 dX6_young_57 rfl (congrArg (x4 + ·) kc_1) (Nat.le_of_ble_eq_true rfl) rfl ?_
      refine j_goto hE 20 dX6_young_60 (by decide) ?_
      refine j_sub [(0, .ref (ad 0)), (1, .int (x1)), (2, .int (v7)), (3, .int (x3)), (4, .int (x4 + 1))] [2, 3, 1, 4, 0] rfl ?_
      have hz := ih20 (v7, x4 + 1) hw
      exact hz
def wX6_young_9_b (x1 : Int32) (x2 : Int32) (x3 : Int32) (m : MS) (KL9 : Int32 × Int32 → Prop) (K : Int32 → MS → Prop) : Prop :=
  wX6_panes  m (fun r1 => (r1 ≤ x3 → (K x2 m)) ∧ (¬ r1 ≤ x3 → (wX6_young_20 x1 x3 x2 0 m KL9 K)))
def wX6_young_9 (x1 : Int32) (x2 : Int32) (x3 : Int32) (m : MS) (K : Int32 → MS → Prop) : Prop := lfp (σ := Int32 × Int32) (fun KL s => wX6_young_9_b x1 s.1 s.2 m KL K) (x2, x3)
set_option maxRecDepth 100000 in
theorem bX6_young_9 {E : jE} (hE : jOk E cX6_young RX6) (hn : E.2.2.2.2 = 5) (hR : jRoom E 1 23) {ad : Nat → Nat} (hA : adOk ad) {r : GW} {b : Nat × Nat} {K : Int32 → MS → Prop} (hK : jRi E .int (KMI ad r K)) {x1 : Int32} {x2 : Int32} {x3 : Int32} {m : MS}  (hw : wX6_young_9 x1 x2 x3 m K) : J E (mwX ad m r) b [(0, .ref (ad 0)), (1, .int (x1)), (2, .int (x2)), (3, .int (x3))] 9 [] := by
  refine lfp_sound (σ := Int32 × Int32) (F := fun KL s => wX6_young_9_b x1 s.1 s.2 m KL K) (P := fun s => J E (mwX ad m r) b [(0, .ref (ad 0)), (1, .int (x1)), (2, .int (s.1)), (3, .int (s.2))] 9 []) ?_ hw
  clear hw
  rintro KL9 ⟨x2, x3⟩ hw ih9
  have hw : wX6_young_9_b x1 x2 x3 m KL9 K := hw
  unfold wX6_young_9_b at hw
  refine j_iload_n hE 3 dX6_young_9 rfl rfl ?_
  refine j_aload_n hE 0 dX6_young_10 rfl rfl ?_
  refine jm_pI hE hA hR (As := []) (rest := [.int (x3)]) (ctX6_panes E.1.2.1 E.2.2.1 hA _ _  _ hw) rfl lkX6_panes jdX6_panes ⟨Nat.le_of_ble_eq_true rfl, Nat.le_of_ble_eq_true rfl⟩ rfl (Nat.le_of_ble_eq_true rfl) dX6_young_11 (fun r1 hw => ?_)
  refine j_icmp_ge hE 69 dX6_young_14 (by decide) (fun c2 => ?_) (fun c2 => ?_)
  · have hw := hw.1 c2
    refine j_iload_n hE 2 dX6_young_69 rfl rfl ?_
    exact j_iret hE hK dX6_young_70 rfl ⟨_, rfl, hw⟩
  · have hw := hw.2 c2
    refine j_iconst hE dX6_young_17 kc_0 ?_
    refine j_istore (L' := [(4, .int (0)), (0, .ref (ad 0)), (1, .int (x1)), (2, .int (x2)), (3, .int (x3))]) hE hn dX6_young_18 (Nat.le_of_ble_eq_true rfl) rfl ?_
    refine j_sub [(0, .ref (ad 0)), (1, .int (x1)), (2, .int (x2)), (3, .int (x3)), (4, .int (0))] [1, 2, 3, 4, 0] rfl ?_
    exact bX6_young_20 hE hn hR hA hK ih9 hw
def wX6_young_0 (x1 : Int32) (m : MS) (K : Int32 → MS → Prop) : Prop :=
  ∀ m1 : MS, m1 = sF m 0 0 → (wX6_young_9 x1 0 0 m1 K)
set_option maxRecDepth 100000 in
theorem bX6_young_0 {E : jE} (hE : jOk E cX6_young RX6) (hn : E.2.2.2.2 = 5) (hR : jRoom E 1 23) {ad : Nat → Nat} (hA : adOk ad) {r : GW} {b : Nat × Nat} {K : Int32 → MS → Prop} (hK : jRi E .int (KMI ad r K)) {x1 : Int32} {m : MS}  (hw : wX6_young_0 x1 m K) : J E (mwX ad m r) b [(0, .ref (ad 0)), (1, .int (x1))] 0 [] := by
  unfold wX6_young_0 at hw
  refine j_aload_n hE 0 dX6_young_0 rfl rfl ?_
  refine j_iconst hE dX6_young_1 kc_0 ?_
  refine jm_putF hE hA 0 0 (Nat.le_of_ble_eq_true rfl) q1647 rfl rfl (mset_0 _ _ _) rfl rfl dX6_young_2 ?_
  refine j_wm (fun m1 e_m1 => ?_)
  have hw := hw m1 e_m1
  refine j_iconst hE dX6_young_5 kc_0 ?_
  refine j_istore_n (L' := [(2, .int (0)), (0, .ref (ad 0)), (1, .int (x1))]) hE hn dX6_young_6 rfl (Nat.le_of_ble_eq_true rfl) rfl ?_
  refine j_iconst hE dX6_young_7 kc_0 ?_
  refine j_istore_n (L' := [(3, .int (0)), (2, .int (0)), (0, .ref (ad 0)), (1, .int (x1))]) hE hn dX6_young_8 rfl (Nat.le_of_ble_eq_true rfl) rfl ?_
  refine j_sub [(0, .ref (ad 0)), (1, .int (x1)), (2, .int (0)), (3, .int (0))] [2, 3, 1, 0] rfl ?_
  exact bX6_young_9 hE hn hR hA hK  hw
abbrev wX6_young := wX6_young_0
theorem ctX6_young (l : Launch) (G : gG) {ad : Nat → Nat} (hA : adOk ad) (m0 : MS) (r : GW) (x1 : Int32) (K : Int32 → MS → Prop) (hw : wX6_young x1 m0 K) : CtI l yX6_young cX6_young 5 .int ({ frames := 1, cells := 0, slots := 0, locals := 23 }) G [.ref (ad 0), .int (x1)] (mwX ad m0 r) (KMI ad r K) :=
  CtI.of RX6 plain_X6 rfl (Nat.le_of_ble_eq_true rfl) (fun E hE _ _ hn hR hK => bX6_young_0 hE hn hR hA hK hw)
theorem jdX6_young : jD yX6_young 1 := by decide +kernel
def wX6_bits_4_b (x0 : Int32) (x1 : Int32) (x2 : Int32) (KL4 : Int32 × Int32 → Prop) (K : Int32 → Prop) : Prop :=
  ((nI 30) ≤ x2 → (K x1)) ∧ (¬ (nI 30) ≤ x2 → (∀ v2 : Int32, v2 = x1 + ((ishr x0 x2) &&& 1) → (KL4 (v2, x2 + 1))))
def wX6_bits_4 (x0 : Int32) (x1 : Int32) (x2 : Int32) (K : Int32 → Prop) : Prop := lfp (σ := Int32 × Int32) (fun KL s => wX6_bits_4_b x0 s.1 s.2 KL K) (x1, x2)
set_option maxRecDepth 100000 in
theorem bX6_bits_4 {E : jE} (hE : jOk E cX6_bits RX6) (hn : E.2.2.2.2 = 3) (hR : jRoom E 0 0) {w : GW} {b : Nat × Nat} {K : Int32 → Prop} (hK : jRi E .int (KPI w K)) {x0 : Int32} {x1 : Int32} {x2 : Int32}  (hw : wX6_bits_4 x0 x1 x2 K) : J E w b [(0, .int (x0)), (1, .int (x1)), (2, .int (x2))] 4 [] := by
  refine lfp_sound (σ := Int32 × Int32) (F := fun KL s => wX6_bits_4_b x0 s.1 s.2 KL K) (P := fun s => J E w b [(0, .int (x0)), (1, .int (s.1)), (2, .int (s.2))] 4 []) ?_ hw
  clear hw
  rintro KL4 ⟨x1, x2⟩ hw ih4
  have hw : wX6_bits_4_b x0 x1 x2 KL4 K := hw
  unfold wX6_bits_4_b at hw
  refine j_iload_n hE 2 dX6_bits_4 rfl rfl ?_
  refine j_bipush hE dX6_bits_5 kb_30 ?_
  refine j_icmp_ge hE 24 dX6_bits_7 (by decide) (fun c1 => ?_) (fun c1 => ?_)
  · have hw := hw.1 c1
    refine j_iload_n hE 1 dX6_bits_24 rfl rfl ?_
    exact j_iret hE hK dX6_bits_25 rfl ⟨rfl, hw⟩
  · have hw := hw.2 c1
    refine j_iload_n hE 1 dX6_bits_10 rfl rfl ?_
    refine j_iload_n hE 0 dX6_bits_11 rfl rfl ?_
    refine j_iload_n hE 2 dX6_bits_12 rfl rfl ?_
    refine j_ishr hE dX6_bits_13 ?_
    refine j_iconst hE dX6_bits_14 kc_1 ?_
    refine j_iand hE dX6_bits_15 ?_
    refine j_iadd hE dX6_bits_16 ?_
    refine j_topi (fun v2 e_v2 => ?_)
    have hw := hw v2 e_v2
    refine j_istore_n (L' := [(1, .int (v2)), (0, .int (x0)), (2, .int (x2))]) hE hn dX6_bits_17 rfl (Nat.le_of_ble_eq_true rfl) rfl ?_
    refine j_iinc (L' := [(2, .int (x2 + 1)), (1, .int (v2)), (0, .int (x0))]) hE hn 2 dX6_bits_18 rfl (congrArg (x2 + ·) kc_1) (Nat.le_of_ble_eq_true rfl) rfl ?_
    refine j_goto hE 4 dX6_bits_21 (by decide) ?_
    refine j_sub [(0, .int (x0)), (1, .int (v2)), (2, .int (x2 + 1))] [2, 1, 0] rfl ?_
    have hz := ih4 (v2, x2 + 1) hw
    exact hz
def wX6_bits_0 (x0 : Int32) (K : Int32 → Prop) : Prop :=
  wX6_bits_4 x0 0 0 K
set_option maxRecDepth 100000 in
theorem bX6_bits_0 {E : jE} (hE : jOk E cX6_bits RX6) (hn : E.2.2.2.2 = 3) (hR : jRoom E 0 0) {w : GW} {b : Nat × Nat} {K : Int32 → Prop} (hK : jRi E .int (KPI w K)) {x0 : Int32}  (hw : wX6_bits_0 x0 K) : J E w b [(0, .int (x0))] 0 [] := by
  unfold wX6_bits_0 at hw
  refine j_iconst hE dX6_bits_0 kc_0 ?_
  refine j_istore_n (L' := [(1, .int (0)), (0, .int (x0))]) hE hn dX6_bits_1 rfl (Nat.le_of_ble_eq_true rfl) rfl ?_
  refine j_iconst hE dX6_bits_2 kc_0 ?_
  refine j_istore_n (L' := [(2, .int (0)), (1, .int (0)), (0, .int (x0))]) hE hn dX6_bits_3 rfl (Nat.le_of_ble_eq_true rfl) rfl ?_
  refine j_sub [(0, .int (x0)), (1, .int (0)), (2, .int (0))] [2, 1, 0] rfl ?_
  exact bX6_bits_4 hE hn hR hK  hw
abbrev wX6_bits := wX6_bits_0
theorem ctX6_bits (l : Launch) (G : gG) (w : GW) (x0 : Int32) (K : Int32 → Prop) (hw : wX6_bits x0 K) : CtI l yX6_bits cX6_bits 3 .int ({ frames := 0, cells := 0, slots := 0, locals := 0 }) G [.int (x0)] w (KPI w K) :=
  CtI.of RX6 plain_X6 rfl (Nat.le_of_ble_eq_true rfl) (fun E hE _ _ hn hR hK => bX6_bits_0 hE hn hR hK hw)
theorem jdX6_bits : jD yX6_bits 1 := by decide +kernel
theorem lkX6_bits : GoodIn lw_all (va_wsS RX6 374 yX6_bits (ws_ yX6_bits cX6_bits 3 (some .int))) := lw_S q2076 q2077 q129 q2078
def wX6_cloak_136 (x1 : Int32) (x2 : Int32) (x3 : Int32) (x4 : Int32) (x6 : Int32) (x7 : Int32) (x8 : Int32) (s0 : Int32) (m : MS) (KL31 : Int32 × Int32 → Prop) (KL71 : Int32 × Int32 × Int32 → Prop) (K : Int32 → MS → Prop) : Prop :=
  (x8 = 0 → (wX6_deedsBy 0 x7 x1 (nI 6) m (fun r2 => ∀ v3 : Int32, v3 = x6 ||| r2 → (KL71 (s0, v3, x7 + 1))))) ∧ (¬ x8 = 0 → (∀ v4 : Int32, v4 = x6 ||| 0 → (KL71 (s0, v4, x7 + 1))))
set_option maxRecDepth 100000 in
theorem bX6_cloak_136 {E : jE} (hE : jOk E cX6_cloak RX6) (hn : E.2.2.2.2 = 9) (hR : jRoom E 3 73) {ad : Nat → Nat} (hA : adOk ad) {r : GW} {b : Nat × Nat} {K : Int32 → MS → Prop} (hK : jRi E .int (KMI ad r K)) {x1 : Int32} {x2 : Int32} {x3 : Int32} {x4 : Int32} {x6 : Int32} {x7 : Int32} {x8 : Int32} {s0 : Int32} {m : MS} {KL31 : Int32 × Int32 → Prop} {KL71 : Int32 × Int32 × Int32 → Prop} (ih31 : ∀ s : Int32 × Int32, KL31 s → J E (mwX ad m r) b [(0, .ref (ad 0)), (1, .int (x1)), (2, .int (x2)), (3, .int (s.1)), (4, .int (s.2))] 31 []) (ih71 : ∀ s : Int32 × Int32 × Int32, KL71 s → J E (mwX ad m r) b [(0, .ref (ad 0)), (1, .int (x1)), (2, .int (x2)), (3, .int (x3)), (4, .int (x4)), (5, .int (s.1)), (6, .int (s.2.1)), (7, .int (s.2.2))] 71 []) (hw : wX6_cloak_136 x1 x2 x3 x4 x6 x7 x8 s0 m KL31 KL71 K) : J E (mwX ad m r) b [(0, .ref (ad 0)), (1, .int (x1)), (2, .int (x2)), (3, .int (x3)), (4, .int (x4)), (6, .int (x6)), (7, .int (x7)), (8, .int (x8))] 136 [.int (s0)] := by
  unfold wX6_cloak_136 at hw
  refine j_istore (L' := [(5, .int (s0)), (0, .ref (ad 0)), (1, .int (x1)), (2, .int (x2)), (3, .int (x3)), (4, .int (x4)), (6, .int (x6)), (7, .int (x7)), (8, .int (x8))]) hE hn dX6_cloak_136 (Nat.le_of_ble_eq_true rfl) rfl ?_
  refine j_iload hE 6 dX6_cloak_138 rfl ?_
  refine j_iload hE 8 dX6_cloak_140 rfl ?_
  refine j_if_eq hE 149 dX6_cloak_142 (by decide) (fun c1 => ?_) (fun c1 => ?_)
  · have hw := hw.1 c1
    refine j_aload_n hE 1 dX6_cloak_149 rfl rfl ?_
    refine j_iconst hE dX6_cloak_150 kc_0 ?_
    refine j_iload hE 7 dX6_cloak_151 rfl ?_
    refine j_iload_n hE 2 dX6_cloak_153 rfl rfl ?_
    refine j_bipush hE dX6_cloak_154 kb_6 ?_
    refine jm_pI hE hA hR (As := [.int (0), .int (x7), .int (x1), .int (nI 6)]) (rest := [.int (x6)]) (ctX6_deedsBy E.1.2.1 E.2.2.1 hA _ _ _ _ _ _  _ hw) rfl lkX6_deedsBy jdX6_deedsBy ⟨Nat.le_of_ble_eq_true rfl, Nat.le_of_ble_eq_true rfl⟩ rfl (Nat.le_of_ble_eq_true rfl) dX6_cloak_156 (fun r2 hw => ?_)
    refine j_ior hE dX6_cloak_159 ?_
    refine j_topi (fun v3 e_v3 => ?_)
    have hw := hw v3 e_v3
    refine j_istore (L' := [(6, .int (v3)), (5, .int (s0)), (0, .ref (ad 0)), (1, .int (x1)), (2, .int (x2)), (3, .int (x3)), (4, .int (x4)), (7, .int (x7)), (8, .int (x8))]) hE hn dX6_cloak_160 (Nat.le_of_ble_eq_true rfl) rfl ?_
    refine j_iinc (L' := [(7, .int (x7 + 1)), (6, .int (v3)), (5, .int (s0)), (0, .ref (ad 0)), (1, .int (x1)), (2, .int (x2)), (3, .int (x3)), (4, .int (x4)), (8, .int (x8))]) hE hn 7 dX6_cloak_162 rfl (congrArg (x7 + ·) kc_1) (Nat.le_of_ble_eq_true rfl) rfl ?_
    refine j_goto hE 71 dX6_cloak_165 (by decide) ?_
    refine j_sub [(0, .ref (ad 0)), (1, .int (x1)), (2, .int (x2)), (3, .int (x3)), (4, .int (x4)), (5, .int (s0)), (6, .int (v3)), (7, .int (x7 + 1))] [3, 4, 5, 6, 7, 2, 1, 0] rfl ?_
    have hz := ih71 (s0, v3, x7 + 1) hw
    exact hz
  · have hw := hw.2 c1
    refine j_iconst hE dX6_cloak_145 kc_0 ?_
    refine j_goto hE 159 dX6_cloak_146 (by decide) ?_
    refine j_ior hE dX6_cloak_159 ?_
    refine j_topi (fun v4 e_v4 => ?_)
    have hw := hw v4 e_v4
    refine j_istore (L' := [(6, .int (v4)), (5, .int (s0)), (0, .ref (ad 0)), (1, .int (x1)), (2, .int (x2)), (3, .int (x3)), (4, .int (x4)), (7, .int (x7)), (8, .int (x8))]) hE hn dX6_cloak_160 (Nat.le_of_ble_eq_true rfl) rfl ?_
    refine j_iinc (L' := [(7, .int (x7 + 1)), (6, .int (v4)), (5, .int (s0)), (0, .ref (ad 0)), (1, .int (x1)), (2, .int (x2)), (3, .int (x3)), (4, .int (x4)), (8, .int (x8))]) hE hn 7 dX6_cloak_162 rfl (congrArg (x7 + ·) kc_1) (Nat.le_of_ble_eq_true rfl) rfl ?_
    refine j_goto hE 71 dX6_cloak_165 (by decide) ?_
    refine j_sub [(0, .ref (ad 0)), (1, .int (x1)), (2, .int (x2)), (3, .int (x3)), (4, .int (x4)), (5, .int (s0)), (6, .int (v4)), (7, .int (x7 + 1))] [3, 4, 5, 6, 7, 2, 1, 0] rfl ?_
    have hz := ih71 (s0, v4, x7 + 1) hw
    exact hz
def wX6_cloak_135 (x1 : Int32) (x2 : Int32) (x3 : Int32) (x4 : Int32) (x6 : Int32) (x7 : Int32) (x8 : Int32) (m : MS) (KL31 : Int32 × Int32 → Prop) (KL71 : Int32 × Int32 × Int32 → Prop) (K : Int32 → MS → Prop) : Prop :=
  wX6_cloak_136 x1 x2 x3 x4 x6 x7 x8 0 m KL31 KL71 K
set_option maxRecDepth 100000 in
theorem bX6_cloak_135 {E : jE} (hE : jOk E cX6_cloak RX6) (hn : E.2.2.2.2 = 9) (hR : jRoom E 3 73) {ad : Nat → Nat} (hA : adOk ad) {r : GW} {b : Nat × Nat} {K : Int32 → MS → Prop} (hK : jRi E .int (KMI ad r K)) {x1 : Int32} {x2 : Int32} {x3 : Int32} {x4 : Int32} {x6 : Int32} {x7 : Int32} {x8 : Int32} {m : MS} {KL31 : Int32 × Int32 → Prop} {KL71 : Int32 × Int32 × Int32 → Prop} (ih31 : ∀ s : Int32 × Int32, KL31 s → J E (mwX ad m r) b [(0, .ref (ad 0)), (1, .int (x1)), (2, .int (x2)), (3, .int (s.1)), (4, .int (s.2))] 31 []) (ih71 : ∀ s : Int32 × Int32 × Int32, KL71 s → J E (mwX ad m r) b [(0, .ref (ad 0)), (1, .int (x1)), (2, .int (x2)), (3, .int (x3)), (4, .int (x4)), (5, .int (s.1)), (6, .int (s.2.1)), (7, .int (s.2.2))] 71 []) (hw : wX6_cloak_135 x1 x2 x3 x4 x6 x7 x8 m KL31 KL71 K) : J E (mwX ad m r) b [(0, .ref (ad 0)), (1, .int (x1)), (2, .int (x2)), (3, .int (x3)), (4, .int (x4)), (6, .int (x6)), (7, .int (x7)), (8, .int (x8))] 135 [] := by
  unfold wX6_cloak_135 at hw
  refine j_iconst hE dX6_cloak_135 kc_0 ?_
  exact bX6_cloak_136 hE hn hR hA hK ih31 ih71 hw
def wX6_cloak_131 (x1 : Int32) (x2 : Int32) (x3 : Int32) (x4 : Int32) (x6 : Int32) (x7 : Int32) (x8 : Int32) (m : MS) (KL31 : Int32 × Int32 → Prop) (KL71 : Int32 × Int32 × Int32 → Prop) (K : Int32 → MS → Prop) : Prop :=
  wX6_cloak_136 x1 x2 x3 x4 x6 x7 x8 1 m KL31 KL71 K
set_option maxRecDepth 100000 in
theorem bX6_cloak_131 {E : jE} (hE : jOk E cX6_cloak RX6) (hn : E.2.2.2.2 = 9) (hR : jRoom E 3 73) {ad : Nat → Nat} (hA : adOk ad) {r : GW} {b : Nat × Nat} {K : Int32 → MS → Prop} (hK : jRi E .int (KMI ad r K)) {x1 : Int32} {x2 : Int32} {x3 : Int32} {x4 : Int32} {x6 : Int32} {x7 : Int32} {x8 : Int32} {m : MS} {KL31 : Int32 × Int32 → Prop} {KL71 : Int32 × Int32 × Int32 → Prop} (ih31 : ∀ s : Int32 × Int32, KL31 s → J E (mwX ad m r) b [(0, .ref (ad 0)), (1, .int (x1)), (2, .int (x2)), (3, .int (s.1)), (4, .int (s.2))] 31 []) (ih71 : ∀ s : Int32 × Int32 × Int32, KL71 s → J E (mwX ad m r) b [(0, .ref (ad 0)), (1, .int (x1)), (2, .int (x2)), (3, .int (x3)), (4, .int (x4)), (5, .int (s.1)), (6, .int (s.2.1)), (7, .int (s.2.2))] 71 []) (hw : wX6_cloak_131 x1 x2 x3 x4 x6 x7 x8 m KL31 KL71 K) : J E (mwX ad m r) b [(0, .ref (ad 0)), (1, .int (x1)), (2, .int (x2)), (3, .int (x3)), (4, .int (x4)), (6, .int (x6)), (7, .int (x7)), (8, .int (x8))] 131 [] := by
  unfold wX6_cloak_131 at hw
  refine j_iconst hE dX6_cloak_131 kc_1 ?_
  refine j_goto hE 136 dX6_cloak_132 (by decide) ?_
  exact bX6_cloak_136 hE hn hR hA hK ih31 ih71 hw
def wX6_cloak_96 (x1 : Int32) (x2 : Int32) (x3 : Int32) (x4 : Int32) (x5 : Int32) (x6 : Int32) (x7 : Int32) (s0 : Int32) (m : MS) (KL31 : Int32 × Int32 → Prop) (KL71 : Int32 × Int32 × Int32 → Prop) (K : Int32 → MS → Prop) : Prop :=
  (x5 = 0 → (wX6_cloak_135 x1 x2 x3 x4 x6 x7 s0 m KL31 KL71 K)) ∧ (¬ x5 = 0 → ((s0 = 0 → (wX6_cloak_131 x1 x2 x3 x4 x6 x7 s0 m KL31 KL71 K)) ∧ (¬ s0 = 0 → (wX6_isWhole 0 x7 m (fun r3 => (r3 = 0 → (wX6_cloak_135 x1 x2 x3 x4 x6 x7 s0 m KL31 KL71 K)) ∧ (¬ r3 = 0 → (vp_in ((nI 6) + x7) 1518 ∧ ((¬ (rd (gA m 11) ((nI 6) + x7)) = 0 → (wX6_cloak_135 x1 x2 x3 x4 x6 x7 s0 m KL31 KL71 K)) ∧ ((rd (gA m 11) ((nI 6) + x7)) = 0 → (wX6_cloak_131 x1 x2 x3 x4 x6 x7 s0 m KL31 KL71 K))))))))))
set_option maxRecDepth 100000 in
theorem bX6_cloak_96 {E : jE} (hE : jOk E cX6_cloak RX6) (hn : E.2.2.2.2 = 9) (hR : jRoom E 3 73) {ad : Nat → Nat} (hA : adOk ad) {r : GW} {b : Nat × Nat} {K : Int32 → MS → Prop} (hK : jRi E .int (KMI ad r K)) {x1 : Int32} {x2 : Int32} {x3 : Int32} {x4 : Int32} {x5 : Int32} {x6 : Int32} {x7 : Int32} {s0 : Int32} {m : MS} {KL31 : Int32 × Int32 → Prop} {KL71 : Int32 × Int32 × Int32 → Prop} (ih31 : ∀ s : Int32 × Int32, KL31 s → J E (mwX ad m r) b [(0, .ref (ad 0)), (1, .int (x1)), (2, .int (x2)), (3, .int (s.1)), (4, .int (s.2))] 31 []) (ih71 : ∀ s : Int32 × Int32 × Int32, KL71 s → J E (mwX ad m r) b [(0, .ref (ad 0)), (1, .int (x1)), (2, .int (x2)), (3, .int (x3)), (4, .int (x4)), (5, .int (s.1)), (6, .int (s.2.1)), (7, .int (s.2.2))] 71 []) (hw : wX6_cloak_96 x1 x2 x3 x4 x5 x6 x7 s0 m KL31 KL71 K) : J E (mwX ad m r) b [(0, .ref (ad 0)), (1, .int (x1)), (2, .int (x2)), (3, .int (x3)), (4, .int (x4)), (5, .int (x5)), (6, .int (x6)), (7, .int (x7))] 96 [.int (s0)] := by
  unfold wX6_cloak_96 at hw
  refine j_istore (L' := [(8, .int (s0)), (0, .ref (ad 0)), (1, .int (x1)), (2, .int (x2)), (3, .int (x3)), (4, .int (x4)), (5, .int (x5)), (6, .int (x6)), (7, .int (x7))]) hE hn dX6_cloak_96 (Nat.le_of_ble_eq_true rfl) rfl ?_
  refine j_iload hE 6 dX6_cloak_98 rfl ?_
  refine j_if_eq hE 135 dX6_cloak_100 (by decide) (fun c1 => ?_) (fun c1 => ?_)
  · have hw := hw.1 c1
    refine j_sub [(0, .ref (ad 0)), (1, .int (x1)), (2, .int (x2)), (3, .int (x3)), (4, .int (x4)), (6, .int (x6)), (7, .int (x7)), (8, .int (s0))] [1, 2, 3, 4, 5, 7, 8, 0] rfl ?_
    exact bX6_cloak_135 hE hn hR hA hK ih31 ih71 hw
  · have hw := hw.2 c1
    refine j_iload hE 0 dX6_cloak_103 rfl ?_
    refine j_if_eq hE 131 dX6_cloak_105 (by decide) (fun c2 => ?_) (fun c2 => ?_)
    · have hw := hw.1 c2
      refine j_sub [(0, .ref (ad 0)), (1, .int (x1)), (2, .int (x2)), (3, .int (x3)), (4, .int (x4)), (6, .int (x6)), (7, .int (x7)), (8, .int (s0))] [1, 2, 3, 4, 5, 7, 8, 0] rfl ?_
      exact bX6_cloak_131 hE hn hR hA hK ih31 ih71 hw
    · have hw := hw.2 c2
      refine j_aload_n hE 1 dX6_cloak_108 rfl rfl ?_
      refine j_iconst hE dX6_cloak_109 kc_0 ?_
      refine j_iload hE 8 dX6_cloak_110 rfl ?_
      refine jm_pI hE hA hR (As := [.int (0), .int (x7)]) (rest := []) (ctX6_isWhole E.1.2.1 E.2.2.1 hA _ _ _ _  _ hw) rfl lkX6_isWhole jdX6_isWhole ⟨Nat.le_of_ble_eq_true rfl, Nat.le_of_ble_eq_true rfl⟩ rfl (Nat.le_of_ble_eq_true rfl) dX6_cloak_112 (fun r3 hw => ?_)
      refine j_if_eq hE 135 dX6_cloak_115 (by decide) (fun c4 => ?_) (fun c4 => ?_)
      · have hw := hw.1 c4
        refine j_sub [(0, .ref (ad 0)), (1, .int (x1)), (2, .int (x2)), (3, .int (x3)), (4, .int (x4)), (6, .int (x6)), (7, .int (x7)), (8, .int (s0))] [1, 2, 3, 4, 5, 7, 8, 0] rfl ?_
        exact bX6_cloak_135 hE hn hR hA hK ih31 ih71 hw
      · have hw := hw.2 c4
        refine j_aload_n hE 1 dX6_cloak_118 rfl rfl ?_
        refine jm_get hE hA 24 (Nat.le_of_ble_eq_true rfl) q1671 rfl (v := .ref (ad 12)) rfl dX6_cloak_119 ?_
        refine j_bipush hE dX6_cloak_122 kb_6 ?_
        refine j_iload hE 8 dX6_cloak_124 rfl ?_
        refine j_iadd hE dX6_cloak_126 ?_
        obtain ⟨h5, hw⟩ := hw
        refine jm_iald hE hA 11 (Nat.le_of_ble_eq_true rfl) h5 dX6_cloak_127 ?_
        refine j_if_ne hE 135 dX6_cloak_128 (by decide) (fun c6 => ?_) (fun c6 => ?_)
        · have hw := hw.1 c6
          refine j_sub [(0, .ref (ad 0)), (1, .int (x1)), (2, .int (x2)), (3, .int (x3)), (4, .int (x4)), (6, .int (x6)), (7, .int (x7)), (8, .int (s0))] [1, 2, 3, 4, 5, 7, 8, 0] rfl ?_
          exact bX6_cloak_135 hE hn hR hA hK ih31 ih71 hw
        · have hw := hw.2 c6
          refine j_sub [(0, .ref (ad 0)), (1, .int (x1)), (2, .int (x2)), (3, .int (x3)), (4, .int (x4)), (6, .int (x6)), (7, .int (x7)), (8, .int (s0))] [1, 2, 3, 4, 5, 7, 8, 0] rfl ?_
          exact bX6_cloak_131 hE hn hR hA hK ih31 ih71 hw
def wX6_cloak_71_b (x1 : Int32) (x2 : Int32) (x3 : Int32) (x4 : Int32) (x5 : Int32) (x6 : Int32) (x7 : Int32) (m : MS) (KL71 : Int32 × Int32 × Int32 → Prop) (KL31 : Int32 × Int32 → Prop) (K : Int32 → MS → Prop) : Prop :=
  wX6_panes  m (fun r1 => (r1 ≤ x7 → ((x5 = 0 → (KL31 (x3, x4 + 1))) ∧ (¬ x5 = 0 → (wX6_harmOf x6 m (fun r4 => (x2 < r4 → (KL31 (x3, x4 + 1))) ∧ (¬ x2 < r4 → (KL31 (x4, x4 + 1)))))))) ∧ (¬ r1 ≤ x7 → ((¬ ((ishr x4 x7) &&& 1) = 1 → (wX6_cloak_96 x1 x2 x3 x4 x5 x6 x7 0 m KL31 KL71 K)) ∧ (((ishr x4 x7) &&& 1) = 1 → (wX6_cloak_96 x1 x2 x3 x4 x5 x6 x7 1 m KL31 KL71 K)))))
def wX6_cloak_71 (x1 : Int32) (x2 : Int32) (x3 : Int32) (x4 : Int32) (x5 : Int32) (x6 : Int32) (x7 : Int32) (m : MS) (KL31 : Int32 × Int32 → Prop) (K : Int32 → MS → Prop) : Prop := lfp (σ := Int32 × Int32 × Int32) (fun KL s => wX6_cloak_71_b x1 x2 x3 x4 s.1 s.2.1 s.2.2 m KL KL31 K) (x5, x6, x7)
set_option maxRecDepth 100000 in
theorem bX6_cloak_71 {E : jE} (hE : jOk E cX6_cloak RX6) (hn : E.2.2.2.2 = 9) (hR : jRoom E 3 73) {ad : Nat → Nat} (hA : adOk ad) {r : GW} {b : Nat × Nat} {K : Int32 → MS → Prop} (hK : jRi E .int (KMI ad r K)) {x1 : Int32} {x2 : Int32} {x3 : Int32} {x4 : Int32} {x5 : Int32} {x6 : Int32} {x7 : Int32} {m : MS} {KL31 : Int32 × Int32 → Prop} (ih31 : ∀ s : Int32 × Int32, KL31 s → J E (mwX ad m r) b [(0, .ref (ad 0)), (1, .int (x1)), (2, .int (x2)), (3, .int (s.1)), (4, .int (s.2))] 31 []) (hw : wX6_cloak_71 x1 x2 x3 x4 x5 x6 x7 m KL31 K) : J E (mwX ad m r) b [(0, .ref (ad 0)), (1, .int (x1)), (2, .int (x2)), (3, .int (x3)), (4, .int (x4)), (5, .int (x5)), (6, .int (x6)), (7, .int (x7))] 71 [] := by
  refine lfp_sound (σ := Int32 × Int32 × Int32) (F := fun KL s => wX6_cloak_71_b x1 x2 x3 x4 s.1 s.2.1 s.2.2 m KL KL31 K) (P := fun s => J E (mwX ad m r) b [(0, .ref (ad 0)), (1, .int (x1)), (2, .int (x2)), (3, .int (x3)), (4, .int (x4)), (5, .int (s.1)), (6, .int (s.2.1)), (7, .int (s.2.2))] 71 []) ?_ hw
  clear hw
  rintro KL71 ⟨x5, x6, x7⟩ hw ih71
  have hw : wX6_cloak_71_b x1 x2 x3 x4 x5 x6 x7 m KL71 KL31 K := hw
  unfold wX6_cloak_71_b at hw
  refine j_iload hE 7 dX6_cloak_71 rfl ?_
  refine j_aload_n hE 0 dX6_cloak_73 rfl rfl ?_
  refine jm_pI hE hA hR (As := []) (rest := [.int (x7)]) (ctX6_panes E.1.2.1 E.2.2.1 hA _ _  _ hw) rfl lkX6_panes jdX6_panes ⟨Nat.le_of_ble_eq_true rfl, Nat.le_of_ble_eq_true rfl⟩ rfl (Nat.le_of_ble_eq_true rfl) dX6_cloak_74 (fun r1 hw => ?_)
  refine j_icmp_ge hE 168 dX6_cloak_77 (by decide) (fun c2 => ?_) (fun c2 => ?_)
  · have hw := hw.1 c2
    refine j_iload hE 5 dX6_cloak_168 rfl ?_
    refine j_if_eq hE 188 dX6_cloak_170 (by decide) (fun c3 => ?_) (fun c3 => ?_)
    · have hw := hw.1 c3
      refine j_iload_n hE 3 dX6_cloak_188 rfl rfl ?_
      refine j_istore_n (L' := [(3, .int (x3)), (0, .ref (ad 0)), (1, .int (x1)), (2, .int (x2)), (4, .int (x4)), (5, .int (x5)), (6, .int (x6)), (7, .int (x7))]) hE hn dX6_cloak_189 rfl (Nat.le_of_ble_eq_true rfl) rfl ?_
      refine j_iinc (L' := [(4, .int (x4 + 1)), (3, .int (x3)), (0, .ref (ad 0)), (1, .int (x1)), (2, .int (x2)), (5, .int (x5)), (6, .int (x6)), (7, .int (x7))]) hE hn 4 dX6_cloak_190 rfl (congrArg (x4 + ·) kc_1) (Nat.le_of_ble_eq_true rfl) rfl ?_
      refine j_goto hE 31 dX6_cloak_193 (by decide) ?_
      refine j_sub [(0, .ref (ad 0)), (1, .int (x1)), (2, .int (x2)), (3, .int (x3)), (4, .int (x4 + 1))] [2, 3, 4, 1, 0] rfl ?_
      have hz := ih31 (x3, x4 + 1) hw
      exact hz
    · have hw := hw.2 c3
      refine j_aload_n hE 0 dX6_cloak_173 rfl rfl ?_
      refine j_iload hE 6 dX6_cloak_174 rfl ?_
      refine jm_pI hE hA hR (As := [.int (x6)]) (rest := []) (ctX6_harmOf E.1.2.1 E.2.2.1 hA _ _ _  _ hw) rfl lkX6_harmOf jdX6_harmOf ⟨Nat.le_of_ble_eq_true rfl, Nat.le_of_ble_eq_true rfl⟩ rfl (Nat.le_of_ble_eq_true rfl) dX6_cloak_176 (fun r4 hw => ?_)
      refine j_iload_n hE 2 dX6_cloak_179 rfl rfl ?_
      refine j_icmp_gt hE 188 dX6_cloak_180 (by decide) (fun c5 => ?_) (fun c5 => ?_)
      · have hw := hw.1 c5
        refine j_iload_n hE 3 dX6_cloak_188 rfl rfl ?_
        refine j_istore_n (L' := [(3, .int (x3)), (0, .ref (ad 0)), (1, .int (x1)), (2, .int (x2)), (4, .int (x4)), (5, .int (x5)), (6, .int (x6)), (7, .int (x7))]) hE hn dX6_cloak_189 rfl (Nat.le_of_ble_eq_true rfl) rfl ?_
        refine j_iinc (L' := [(4, .int (x4 + 1)), (3, .int (x3)), (0, .ref (ad 0)), (1, .int (x1)), (2, .int (x2)), (5, .int (x5)), (6, .int (x6)), (7, .int (x7))]) hE hn 4 dX6_cloak_190 rfl (congrArg (x4 + ·) kc_1) (Nat.le_of_ble_eq_true rfl) rfl ?_
        refine j_goto hE 31 dX6_cloak_193 (by decide) ?_
        refine j_sub [(0, .ref (ad 0)), (1, .int (x1)), (2, .int (x2)), (3, .int (x3)), (4, .int (x4 + 1))] [2, 3, 4, 1, 0] rfl ?_
        have hz := ih31 (x3, x4 + 1) hw
        exact hz
      · have hw := hw.2 c5
        refine j_iload hE 4 dX6_cloak_183 rfl ?_
        refine j_goto hE 189 dX6_cloak_185 (by decide) ?_
        refine j_istore_n (L' := [(3, .int (x4)), (0, .ref (ad 0)), (1, .int (x1)), (2, .int (x2)), (4, .int (x4)), (5, .int (x5)), (6, .int (x6)), (7, .int (x7))]) hE hn dX6_cloak_189 rfl (Nat.le_of_ble_eq_true rfl) rfl ?_
        refine j_iinc (L' := [(4, .int (x4 + 1)), (3, .int (x4)), (0, .ref (ad 0)), (1, .int (x1)), (2, .int (x2)), (5, .int (x5)), (6, .int (x6)), (7, .int (x7))]) hE hn 4 dX6_cloak_190 rfl (congrArg (x4 + ·) kc_1) (Nat.le_of_ble_eq_true rfl) rfl ?_
        refine j_goto hE 31 dX6_cloak_193 (by decide) ?_
        refine j_sub [(0, .ref (ad 0)), (1, .int (x1)), (2, .int (x2)), (3, .int (x4)), (4, .int (x4 + 1))] [2, 3, 4, 1, 0] rfl ?_
        have hz := ih31 (x4, x4 + 1) hw
        exact hz
  · have hw := hw.2 c2
    refine j_iload hE 4 dX6_cloak_80 rfl ?_
    refine j_iload hE 7 dX6_cloak_82 rfl ?_
    refine j_ishr hE dX6_cloak_84 ?_
    refine j_iconst hE dX6_cloak_85 kc_1 ?_
    refine j_iand hE dX6_cloak_86 ?_
    refine j_iconst hE dX6_cloak_87 kc_1 ?_
    refine j_icmp_ne hE 95 dX6_cloak_88 (by decide) (fun c6 => ?_) (fun c6 => ?_)
    · have hw := hw.1 c6
      refine j_iconst hE dX6_cloak_95 kc_0 ?_
      exact bX6_cloak_96 hE hn hR hA hK ih31 ih71 hw
    · have hw := hw.2 c6
      refine j_iconst hE dX6_cloak_91 kc_1 ?_
      refine j_goto hE 96 dX6_cloak_92 (by decide) ?_
      exact bX6_cloak_96 hE hn hR hA hK ih31 ih71 hw
def wX6_cloak_31_b (x1 : Int32) (x2 : Int32) (x3 : Int32) (x4 : Int32) (m : MS) (KL31 : Int32 × Int32 → Prop) (K : Int32 → MS → Prop) : Prop :=
  wX6_panes  m (fun r1 => ((ishl 1 r1) ≤ x4 → (K x3 m)) ∧ (¬ (ishl 1 r1) ≤ x4 → ((x3 < 0 → (wX6_cloak_71 x1 x2 x3 x4 1 0 0 m KL31 K)) ∧ (¬ x3 < 0 → (wX6_bits x4 (fun r4 => wX6_bits x3 (fun r5 => (r5 ≤ r4 → (wX6_cloak_71 x1 x2 x3 x4 0 0 0 m KL31 K)) ∧ (¬ r5 ≤ r4 → (wX6_cloak_71 x1 x2 x3 x4 1 0 0 m KL31 K)))))))))
def wX6_cloak_31 (x1 : Int32) (x2 : Int32) (x3 : Int32) (x4 : Int32) (m : MS) (K : Int32 → MS → Prop) : Prop := lfp (σ := Int32 × Int32) (fun KL s => wX6_cloak_31_b x1 x2 s.1 s.2 m KL K) (x3, x4)
set_option maxRecDepth 100000 in
theorem bX6_cloak_31 {E : jE} (hE : jOk E cX6_cloak RX6) (hn : E.2.2.2.2 = 9) (hR : jRoom E 3 73) {ad : Nat → Nat} (hA : adOk ad) {r : GW} {b : Nat × Nat} {K : Int32 → MS → Prop} (hK : jRi E .int (KMI ad r K)) {x1 : Int32} {x2 : Int32} {x3 : Int32} {x4 : Int32} {m : MS}  (hw : wX6_cloak_31 x1 x2 x3 x4 m K) : J E (mwX ad m r) b [(0, .ref (ad 0)), (1, .int (x1)), (2, .int (x2)), (3, .int (x3)), (4, .int (x4))] 31 [] := by
  refine lfp_sound (σ := Int32 × Int32) (F := fun KL s => wX6_cloak_31_b x1 x2 s.1 s.2 m KL K) (P := fun s => J E (mwX ad m r) b [(0, .ref (ad 0)), (1, .int (x1)), (2, .int (x2)), (3, .int (s.1)), (4, .int (s.2))] 31 []) ?_ hw
  clear hw
  rintro KL31 ⟨x3, x4⟩ hw ih31
  have hw : wX6_cloak_31_b x1 x2 x3 x4 m KL31 K := hw
  unfold wX6_cloak_31_b at hw
  refine j_iload hE 4 dX6_cloak_31 rfl ?_
  refine j_iconst hE dX6_cloak_33 kc_1 ?_
  refine j_aload_n hE 0 dX6_cloak_34 rfl rfl ?_
  refine jm_pI hE hA hR (As := []) (rest := [.int (1), .int (x4)]) (ctX6_panes E.1.2.1 E.2.2.1 hA _ _  _ hw) rfl lkX6_panes jdX6_panes ⟨Nat.le_of_ble_eq_true rfl, Nat.le_of_ble_eq_true rfl⟩ rfl (Nat.le_of_ble_eq_true rfl) dX6_cloak_35 (fun r1 hw => ?_)
  refine j_ishl hE dX6_cloak_38 ?_
  refine j_icmp_ge hE 196 dX6_cloak_39 (by decide) (fun c2 => ?_) (fun c2 => ?_)
  · have hw := hw.1 c2
    refine j_iload_n hE 3 dX6_cloak_196 rfl rfl ?_
    exact j_iret hE hK dX6_cloak_197 rfl ⟨_, rfl, hw⟩
  · have hw := hw.2 c2
    refine j_iload_n hE 3 dX6_cloak_42 rfl rfl ?_
    refine j_if_lt hE 58 dX6_cloak_43 (by decide) (fun c3 => ?_) (fun c3 => ?_)
    · have hw := hw.1 c3
      refine j_iconst hE dX6_cloak_58 kc_1 ?_
      refine j_goto hE 63 dX6_cloak_59 (by decide) ?_
      refine j_istore (L' := [(5, .int (1)), (0, .ref (ad 0)), (1, .int (x1)), (2, .int (x2)), (3, .int (x3)), (4, .int (x4))]) hE hn dX6_cloak_63 (Nat.le_of_ble_eq_true rfl) rfl ?_
      refine j_iconst hE dX6_cloak_65 kc_0 ?_
      refine j_istore (L' := [(6, .int (0)), (5, .int (1)), (0, .ref (ad 0)), (1, .int (x1)), (2, .int (x2)), (3, .int (x3)), (4, .int (x4))]) hE hn dX6_cloak_66 (Nat.le_of_ble_eq_true rfl) rfl ?_
      refine j_iconst hE dX6_cloak_68 kc_0 ?_
      refine j_istore (L' := [(7, .int (0)), (6, .int (0)), (5, .int (1)), (0, .ref (ad 0)), (1, .int (x1)), (2, .int (x2)), (3, .int (x3)), (4, .int (x4))]) hE hn dX6_cloak_69 (Nat.le_of_ble_eq_true rfl) rfl ?_
      refine j_sub [(0, .ref (ad 0)), (1, .int (x1)), (2, .int (x2)), (3, .int (x3)), (4, .int (x4)), (5, .int (1)), (6, .int (0)), (7, .int (0))] [3, 4, 5, 6, 7, 2, 1, 0] rfl ?_
      exact bX6_cloak_71 hE hn hR hA hK ih31 hw
    · have hw := hw.2 c3
      refine j_iload hE 4 dX6_cloak_46 rfl ?_
      refine j_psI hE hR (As := [.int (x4)]) (rest := []) (ctX6_bits E.1.2.1 E.2.2.1 _ _  _ hw) lkX6_bits jdX6_bits ⟨Nat.le_of_ble_eq_true rfl, Nat.le_of_ble_eq_true rfl⟩ rfl (Nat.le_of_ble_eq_true rfl) dX6_cloak_48 (fun r4 hw => ?_)
      refine j_iload_n hE 3 dX6_cloak_51 rfl rfl ?_
      refine j_psI hE hR (As := [.int (x3)]) (rest := [.int (r4)]) (ctX6_bits E.1.2.1 E.2.2.1 _ _  _ hw) lkX6_bits jdX6_bits ⟨Nat.le_of_ble_eq_true rfl, Nat.le_of_ble_eq_true rfl⟩ rfl (Nat.le_of_ble_eq_true rfl) dX6_cloak_52 (fun r5 hw => ?_)
      refine j_icmp_ge hE 62 dX6_cloak_55 (by decide) (fun c6 => ?_) (fun c6 => ?_)
      · have hw := hw.1 c6
        refine j_iconst hE dX6_cloak_62 kc_0 ?_
        refine j_istore (L' := [(5, .int (0)), (0, .ref (ad 0)), (1, .int (x1)), (2, .int (x2)), (3, .int (x3)), (4, .int (x4))]) hE hn dX6_cloak_63 (Nat.le_of_ble_eq_true rfl) rfl ?_
        refine j_iconst hE dX6_cloak_65 kc_0 ?_
        refine j_istore (L' := [(6, .int (0)), (5, .int (0)), (0, .ref (ad 0)), (1, .int (x1)), (2, .int (x2)), (3, .int (x3)), (4, .int (x4))]) hE hn dX6_cloak_66 (Nat.le_of_ble_eq_true rfl) rfl ?_
        refine j_iconst hE dX6_cloak_68 kc_0 ?_
        refine j_istore (L' := [(7, .int (0)), (6, .int (0)), (5, .int (0)), (0, .ref (ad 0)), (1, .int (x1)), (2, .int (x2)), (3, .int (x3)), (4, .int (x4))]) hE hn dX6_cloak_69 (Nat.le_of_ble_eq_true rfl) rfl ?_
        refine j_sub [(0, .ref (ad 0)), (1, .int (x1)), (2, .int (x2)), (3, .int (x3)), (4, .int (x4)), (5, .int (0)), (6, .int (0)), (7, .int (0))] [3, 4, 5, 6, 7, 2, 1, 0] rfl ?_
        exact bX6_cloak_71 hE hn hR hA hK ih31 hw
      · have hw := hw.2 c6
        refine j_iconst hE dX6_cloak_58 kc_1 ?_
        refine j_goto hE 63 dX6_cloak_59 (by decide) ?_
        refine j_istore (L' := [(5, .int (1)), (0, .ref (ad 0)), (1, .int (x1)), (2, .int (x2)), (3, .int (x3)), (4, .int (x4))]) hE hn dX6_cloak_63 (Nat.le_of_ble_eq_true rfl) rfl ?_
        refine j_iconst hE dX6_cloak_65 kc_0 ?_
        refine j_istore (L' := [(6, .int (0)), (5, .int (1)), (0, .ref (ad 0)), (1, .int (x1)), (2, .int (x2)), (3, .int (x3)), (4, .int (x4))]) hE hn dX6_cloak_66 (Nat.le_of_ble_eq_true rfl) rfl ?_
        refine j_iconst hE dX6_cloak_68 kc_0 ?_
        refine j_istore (L' := [(7, .int (0)), (6, .int (0)), (5, .int (1)), (0, .ref (ad 0)), (1, .int (x1)), (2, .int (x2)), (3, .int (x3)), (4, .int (x4))]) hE hn dX6_cloak_69 (Nat.le_of_ble_eq_true rfl) rfl ?_
        refine j_sub [(0, .ref (ad 0)), (1, .int (x1)), (2, .int (x2)), (3, .int (x3)), (4, .int (x4)), (5, .int (1)), (6, .int (0)), (7, .int (0))] [3, 4, 5, 6, 7, 2, 1, 0] rfl ?_
        exact bX6_cloak_71 hE hn hR hA hK ih31 hw
def wX6_cloak_0 (x1 : Int32) (x2 : Int32) (m : MS) (K : Int32 → MS → Prop) : Prop :=
  ∀ m1 : MS, m1 = sF m 0 0 → (wX6_isPerson x1 m1 (fun r2 => (r2 = 0 → (K ((-1)) m1)) ∧ (¬ r2 = 0 → (wX6_within x2 0 (nI 495) (fun r4 => (¬ r4 = 0 → (wX6_cloak_31 x1 x2 ((-1)) 0 m1 K)) ∧ (r4 = 0 → (K ((-1)) m1)))))))
set_option maxRecDepth 100000 in
theorem bX6_cloak_0 {E : jE} (hE : jOk E cX6_cloak RX6) (hn : E.2.2.2.2 = 9) (hR : jRoom E 3 73) {ad : Nat → Nat} (hA : adOk ad) {r : GW} {b : Nat × Nat} {K : Int32 → MS → Prop} (hK : jRi E .int (KMI ad r K)) {x1 : Int32} {x2 : Int32} {m : MS}  (hw : wX6_cloak_0 x1 x2 m K) : J E (mwX ad m r) b [(0, .ref (ad 0)), (1, .int (x1)), (2, .int (x2))] 0 [] := by
  unfold wX6_cloak_0 at hw
  refine j_aload_n hE 0 dX6_cloak_0 rfl rfl ?_
  refine j_iconst hE dX6_cloak_1 kc_0 ?_
  refine jm_putF hE hA 0 0 (Nat.le_of_ble_eq_true rfl) q1647 rfl rfl (mset_0 _ _ _) rfl rfl dX6_cloak_2 ?_
  refine j_wm (fun m1 e_m1 => ?_)
  have hw := hw m1 e_m1
  refine j_aload_n hE 0 dX6_cloak_5 rfl rfl ?_
  refine j_iload_n hE 1 dX6_cloak_6 rfl rfl ?_
  refine jm_pI hE hA hR (As := [.int (x1)]) (rest := []) (ctX6_isPerson E.1.2.1 E.2.2.1 hA _ _ _  _ hw) rfl lkX6_isPerson jdX6_isPerson ⟨Nat.le_of_ble_eq_true rfl, Nat.le_of_ble_eq_true rfl⟩ rfl (Nat.le_of_ble_eq_true rfl) dX6_cloak_7 (fun r2 hw => ?_)
  refine j_if_eq hE 24 dX6_cloak_10 (by decide) (fun c3 => ?_) (fun c3 => ?_)
  · have hw := hw.1 c3
    refine j_iconst hE dX6_cloak_24 kc_m1 ?_
    exact j_iret hE hK dX6_cloak_25 rfl ⟨_, rfl, hw⟩
  · have hw := hw.2 c3
    refine j_iload_n hE 2 dX6_cloak_13 rfl rfl ?_
    refine j_iconst hE dX6_cloak_14 kc_0 ?_
    refine j_sipush hE dX6_cloak_15 ks_495 ?_
    refine j_psI hE hR (As := [.int (x2), .int (0), .int (nI 495)]) (rest := []) (ctX6_within E.1.2.1 E.2.2.1 _ _ _ _  _ hw) lkX6_within jdX6_within ⟨Nat.le_of_ble_eq_true rfl, Nat.le_of_ble_eq_true rfl⟩ rfl (Nat.le_of_ble_eq_true rfl) dX6_cloak_18 (fun r4 hw => ?_)
    refine j_if_ne hE 26 dX6_cloak_21 (by decide) (fun c5 => ?_) (fun c5 => ?_)
    · have hw := hw.1 c5
      refine j_iconst hE dX6_cloak_26 kc_m1 ?_
      refine j_istore_n (L' := [(3, .int ((-1))), (0, .ref (ad 0)), (1, .int (x1)), (2, .int (x2))]) hE hn dX6_cloak_27 rfl (Nat.le_of_ble_eq_true rfl) rfl ?_
      refine j_iconst hE dX6_cloak_28 kc_0 ?_
      refine j_istore (L' := [(4, .int (0)), (3, .int ((-1))), (0, .ref (ad 0)), (1, .int (x1)), (2, .int (x2))]) hE hn dX6_cloak_29 (Nat.le_of_ble_eq_true rfl) rfl ?_
      refine j_sub [(0, .ref (ad 0)), (1, .int (x1)), (2, .int (x2)), (3, .int ((-1))), (4, .int (0))] [2, 3, 4, 1, 0] rfl ?_
      exact bX6_cloak_31 hE hn hR hA hK  hw
    · have hw := hw.2 c5
      refine j_iconst hE dX6_cloak_24 kc_m1 ?_
      exact j_iret hE hK dX6_cloak_25 rfl ⟨_, rfl, hw⟩
abbrev wX6_cloak := wX6_cloak_0
theorem ctX6_cloak (l : Launch) (G : gG) {ad : Nat → Nat} (hA : adOk ad) (m0 : MS) (r : GW) (x1 : Int32) (x2 : Int32) (K : Int32 → MS → Prop) (hw : wX6_cloak x1 x2 m0 K) : CtI l yX6_cloak cX6_cloak 9 .int ({ frames := 3, cells := 0, slots := 0, locals := 73 }) G [.ref (ad 0), .int (x1), .int (x2)] (mwX ad m0 r) (KMI ad r K) :=
  CtI.of RX6 plain_X6 rfl (Nat.le_of_ble_eq_true rfl) (fun E hE _ _ hn hR hK => bX6_cloak_0 hE hn hR hA hK hw)
theorem jdX6_cloak : jD yX6_cloak 2 := by decide +kernel
def wX6_hide_103 (x1 : Int32) (x2 : Int32) (x4 : Int32) (x5 : Int32) (x6 : Int32) (x7 : Int32) (s0 : Int32) (m : MS) (KL33 : Int32 × Int32 × Int32 → Prop) (K : Int32 → MS → Prop) : Prop :=
  (x7 = 0 → (KL33 (s0, x4, x5 + 1))) ∧ (¬ x7 = 0 → (KL33 (s0, x6, x5 + 1)))
set_option maxRecDepth 100000 in
theorem bX6_hide_103 {E : jE} (hE : jOk E cX6_hide RX6) (hn : E.2.2.2.2 = 8) (hR : jRoom E 4 94) {ad : Nat → Nat} (hA : adOk ad) {r : GW} {b : Nat × Nat} {K : Int32 → MS → Prop} (hK : jRi E .int (KMI ad r K)) {x1 : Int32} {x2 : Int32} {x4 : Int32} {x5 : Int32} {x6 : Int32} {x7 : Int32} {s0 : Int32} {m : MS} {KL33 : Int32 × Int32 × Int32 → Prop} (ih33 : ∀ s : Int32 × Int32 × Int32, KL33 s → J E (mwX ad m r) b [(0, .ref (ad 0)), (1, .int (x1)), (2, .int (x2)), (3, .int (s.1)), (4, .int (s.2.1)), (5, .int (s.2.2))] 33 []) (hw : wX6_hide_103 x1 x2 x4 x5 x6 x7 s0 m KL33 K) : J E (mwX ad m r) b [(0, .ref (ad 0)), (1, .int (x1)), (2, .int (x2)), (4, .int (x4)), (5, .int (x5)), (6, .int (x6)), (7, .int (x7))] 103 [.int (s0)] := by
  unfold wX6_hide_103 at hw
  refine j_istore_n (L' := [(3, .int (s0)), (0, .ref (ad 0)), (1, .int (x1)), (2, .int (x2)), (4, .int (x4)), (5, .int (x5)), (6, .int (x6)), (7, .int (x7))]) hE hn dX6_hide_103 rfl (Nat.le_of_ble_eq_true rfl) rfl ?_
  refine j_iload hE 7 dX6_hide_104 rfl ?_
  refine j_if_eq hE 114 dX6_hide_106 (by decide) (fun c1 => ?_) (fun c1 => ?_)
  · have hw := hw.1 c1
    refine j_iload hE 4 dX6_hide_114 rfl ?_
    refine j_istore (L' := [(4, .int (x4)), (3, .int (s0)), (0, .ref (ad 0)), (1, .int (x1)), (2, .int (x2)), (5, .int (x5)), (6, .int (x6)), (7, .int (x7))]) hE hn dX6_hide_116 (Nat.le_of_ble_eq_true rfl) rfl ?_
    refine j_iinc (L' := [(5, .int (x5 + 1)), (4, .int (x4)), (3, .int (s0)), (0, .ref (ad 0)), (1, .int (x1)), (2, .int (x2)), (6, .int (x6)), (7, .int (x7))]) hE hn 5 dX6_hide_118 rfl (congrArg (x5 + ·) kc_1) (Nat.le_of_ble_eq_true rfl) rfl ?_
    refine j_goto hE 33 dX6_hide_121 (by decide) ?_
    refine j_sub [(0, .ref (ad 0)), (1, .int (x1)), (2, .int (x2)), (3, .int (s0)), (4, .int (x4)), (5, .int (x5 + 1))] [3, 4, 5, 2, 1, 0] rfl ?_
    have hz := ih33 (s0, x4, x5 + 1) hw
    exact hz
  · have hw := hw.2 c1
    refine j_iload hE 6 dX6_hide_109 rfl ?_
    refine j_goto hE 116 dX6_hide_111 (by decide) ?_
    refine j_istore (L' := [(4, .int (x6)), (3, .int (s0)), (0, .ref (ad 0)), (1, .int (x1)), (2, .int (x2)), (5, .int (x5)), (6, .int (x6)), (7, .int (x7))]) hE hn dX6_hide_116 (Nat.le_of_ble_eq_true rfl) rfl ?_
    refine j_iinc (L' := [(5, .int (x5 + 1)), (4, .int (x6)), (3, .int (s0)), (0, .ref (ad 0)), (1, .int (x1)), (2, .int (x2)), (6, .int (x6)), (7, .int (x7))]) hE hn 5 dX6_hide_118 rfl (congrArg (x5 + ·) kc_1) (Nat.le_of_ble_eq_true rfl) rfl ?_
    refine j_goto hE 33 dX6_hide_121 (by decide) ?_
    refine j_sub [(0, .ref (ad 0)), (1, .int (x1)), (2, .int (x2)), (3, .int (s0)), (4, .int (x6)), (5, .int (x5 + 1))] [3, 4, 5, 2, 1, 0] rfl ?_
    have hz := ih33 (s0, x6, x5 + 1) hw
    exact hz
def wX6_hide_90 (x1 : Int32) (x2 : Int32) (x3 : Int32) (x4 : Int32) (x5 : Int32) (x6 : Int32) (s0 : Int32) (m : MS) (KL33 : Int32 × Int32 × Int32 → Prop) (K : Int32 → MS → Prop) : Prop :=
  (s0 = 0 → (wX6_hide_103 x1 x2 x4 x5 x6 s0 x3 m KL33 K)) ∧ (¬ s0 = 0 → (wX6_hide_103 x1 x2 x4 x5 x6 s0 x5 m KL33 K))
set_option maxRecDepth 100000 in
theorem bX6_hide_90 {E : jE} (hE : jOk E cX6_hide RX6) (hn : E.2.2.2.2 = 8) (hR : jRoom E 4 94) {ad : Nat → Nat} (hA : adOk ad) {r : GW} {b : Nat × Nat} {K : Int32 → MS → Prop} (hK : jRi E .int (KMI ad r K)) {x1 : Int32} {x2 : Int32} {x3 : Int32} {x4 : Int32} {x5 : Int32} {x6 : Int32} {s0 : Int32} {m : MS} {KL33 : Int32 × Int32 × Int32 → Prop} (ih33 : ∀ s : Int32 × Int32 × Int32, KL33 s → J E (mwX ad m r) b [(0, .ref (ad 0)), (1, .int (x1)), (2, .int (x2)), (3, .int (s.1)), (4, .int (s.2.1)), (5, .int (s.2.2))] 33 []) (hw : wX6_hide_90 x1 x2 x3 x4 x5 x6 s0 m KL33 K) : J E (mwX ad m r) b [(0, .ref (ad 0)), (1, .int (x1)), (2, .int (x2)), (3, .int (x3)), (4, .int (x4)), (5, .int (x5)), (6, .int (x6))] 90 [.int (s0)] := by
  unfold wX6_hide_90 at hw
  refine j_istore (L' := [(7, .int (s0)), (0, .ref (ad 0)), (1, .int (x1)), (2, .int (x2)), (3, .int (x3)), (4, .int (x4)), (5, .int (x5)), (6, .int (x6))]) hE hn dX6_hide_90 (Nat.le_of_ble_eq_true rfl) rfl ?_
  refine j_iload hE 0 dX6_hide_92 rfl ?_
  refine j_if_eq hE 102 dX6_hide_94 (by decide) (fun c1 => ?_) (fun c1 => ?_)
  · have hw := hw.1 c1
    refine j_iload_n hE 4 dX6_hide_102 rfl rfl ?_
    refine j_sub [(0, .ref (ad 0)), (1, .int (x1)), (2, .int (x2)), (4, .int (x4)), (5, .int (x5)), (6, .int (x6)), (7, .int (s0))] [1, 2, 3, 5, 6, 7, 0] rfl ?_
    exact bX6_hide_103 hE hn hR hA hK ih33 hw
  · have hw := hw.2 c1
    refine j_iload hE 6 dX6_hide_97 rfl ?_
    refine j_goto hE 103 dX6_hide_99 (by decide) ?_
    refine j_sub [(0, .ref (ad 0)), (1, .int (x1)), (2, .int (x2)), (4, .int (x4)), (5, .int (x5)), (6, .int (x6)), (7, .int (s0))] [1, 2, 3, 5, 6, 7, 0] rfl ?_
    exact bX6_hide_103 hE hn hR hA hK ih33 hw
def wX6_hide_89 (x1 : Int32) (x2 : Int32) (x3 : Int32) (x4 : Int32) (x5 : Int32) (x6 : Int32) (m : MS) (KL33 : Int32 × Int32 × Int32 → Prop) (K : Int32 → MS → Prop) : Prop :=
  wX6_hide_90 x1 x2 x3 x4 x5 x6 0 m KL33 K
set_option maxRecDepth 100000 in
theorem bX6_hide_89 {E : jE} (hE : jOk E cX6_hide RX6) (hn : E.2.2.2.2 = 8) (hR : jRoom E 4 94) {ad : Nat → Nat} (hA : adOk ad) {r : GW} {b : Nat × Nat} {K : Int32 → MS → Prop} (hK : jRi E .int (KMI ad r K)) {x1 : Int32} {x2 : Int32} {x3 : Int32} {x4 : Int32} {x5 : Int32} {x6 : Int32} {m : MS} {KL33 : Int32 × Int32 × Int32 → Prop} (ih33 : ∀ s : Int32 × Int32 × Int32, KL33 s → J E (mwX ad m r) b [(0, .ref (ad 0)), (1, .int (x1)), (2, .int (x2)), (3, .int (s.1)), (4, .int (s.2.1)), (5, .int (s.2.2))] 33 []) (hw : wX6_hide_89 x1 x2 x3 x4 x5 x6 m KL33 K) : J E (mwX ad m r) b [(0, .ref (ad 0)), (1, .int (x1)), (2, .int (x2)), (3, .int (x3)), (4, .int (x4)), (5, .int (x5)), (6, .int (x6))] 89 [] := by
  unfold wX6_hide_89 at hw
  refine j_iconst hE dX6_hide_89 kc_0 ?_
  exact bX6_hide_90 hE hn hR hA hK ih33 hw
def wX6_hide_66 (x1 : Int32) (x2 : Int32) (x3 : Int32) (x4 : Int32) (x5 : Int32) (s0 : Int32) (m : MS) (KL33 : Int32 × Int32 × Int32 → Prop) (K : Int32 → MS → Prop) : Prop :=
  wX6_seersOf 0 x5 m (fun r1 => (¬ r1 = 0 → (wX6_hide_89 x1 x2 x3 x4 x5 s0 m KL33 K)) ∧ (r1 = 0 → ((x4 ≤ s0 → (wX6_hide_89 x1 x2 x3 x4 x5 s0 m KL33 K)) ∧ (¬ x4 ≤ s0 → (wX6_hide_90 x1 x2 x3 x4 x5 s0 1 m KL33 K)))))
set_option maxRecDepth 100000 in
theorem bX6_hide_66 {E : jE} (hE : jOk E cX6_hide RX6) (hn : E.2.2.2.2 = 8) (hR : jRoom E 4 94) {ad : Nat → Nat} (hA : adOk ad) {r : GW} {b : Nat × Nat} {K : Int32 → MS → Prop} (hK : jRi E .int (KMI ad r K)) {x1 : Int32} {x2 : Int32} {x3 : Int32} {x4 : Int32} {x5 : Int32} {s0 : Int32} {m : MS} {KL33 : Int32 × Int32 × Int32 → Prop} (ih33 : ∀ s : Int32 × Int32 × Int32, KL33 s → J E (mwX ad m r) b [(0, .ref (ad 0)), (1, .int (x1)), (2, .int (x2)), (3, .int (s.1)), (4, .int (s.2.1)), (5, .int (s.2.2))] 33 []) (hw : wX6_hide_66 x1 x2 x3 x4 x5 s0 m KL33 K) : J E (mwX ad m r) b [(0, .ref (ad 0)), (1, .int (x1)), (2, .int (x2)), (3, .int (x3)), (4, .int (x4)), (5, .int (x5))] 66 [.int (s0)] := by
  unfold wX6_hide_66 at hw
  refine j_istore (L' := [(6, .int (s0)), (0, .ref (ad 0)), (1, .int (x1)), (2, .int (x2)), (3, .int (x3)), (4, .int (x4)), (5, .int (x5))]) hE hn dX6_hide_66 (Nat.le_of_ble_eq_true rfl) rfl ?_
  refine j_aload_n hE 1 dX6_hide_68 rfl rfl ?_
  refine j_iconst hE dX6_hide_69 kc_0 ?_
  refine j_iload hE 6 dX6_hide_70 rfl ?_
  refine jm_pI hE hA hR (As := [.int (0), .int (x5)]) (rest := []) (ctX6_seersOf E.1.2.1 E.2.2.1 hA _ _ _ _  _ hw) rfl lkX6_seersOf jdX6_seersOf ⟨Nat.le_of_ble_eq_true rfl, Nat.le_of_ble_eq_true rfl⟩ rfl (Nat.le_of_ble_eq_true rfl) dX6_hide_72 (fun r1 hw => ?_)
  refine j_if_ne hE 89 dX6_hide_75 (by decide) (fun c2 => ?_) (fun c2 => ?_)
  · have hw := hw.1 c2
    refine j_sub [(0, .ref (ad 0)), (1, .int (x1)), (2, .int (x2)), (3, .int (x3)), (4, .int (x4)), (5, .int (x5)), (6, .int (s0))] [1, 2, 3, 4, 5, 6, 0] rfl ?_
    exact bX6_hide_89 hE hn hR hA hK ih33 hw
  · have hw := hw.2 c2
    refine j_iload hE 0 dX6_hide_78 rfl ?_
    refine j_iload hE 5 dX6_hide_80 rfl ?_
    refine j_icmp_ge hE 89 dX6_hide_82 (by decide) (fun c3 => ?_) (fun c3 => ?_)
    · have hw := hw.1 c3
      refine j_sub [(0, .ref (ad 0)), (1, .int (x1)), (2, .int (x2)), (3, .int (x3)), (4, .int (x4)), (5, .int (x5)), (6, .int (s0))] [1, 2, 3, 4, 5, 6, 0] rfl ?_
      exact bX6_hide_89 hE hn hR hA hK ih33 hw
    · have hw := hw.2 c3
      refine j_iconst hE dX6_hide_85 kc_1 ?_
      refine j_goto hE 90 dX6_hide_86 (by decide) ?_
      refine j_sub [(0, .ref (ad 0)), (1, .int (x1)), (2, .int (x2)), (3, .int (x3)), (4, .int (x4)), (5, .int (x5)), (6, .int (s0))] [1, 2, 3, 4, 5, 6, 0] rfl ?_
      exact bX6_hide_90 hE hn hR hA hK ih33 hw
def wX6_hide_33_b (x1 : Int32) (x2 : Int32) (x3 : Int32) (x4 : Int32) (x5 : Int32) (m : MS) (KL33 : Int32 × Int32 × Int32 → Prop) (K : Int32 → MS → Prop) : Prop :=
  ((nI 10) ≤ x5 → ((x3 < 0 → (K x3 m)) ∧ (¬ x3 < 0 → ((¬ x2 = 1 → (K x4 m)) ∧ (x2 = 1 → (K x3 m)))))) ∧ (¬ (nI 10) ≤ x5 → (vp_in (1 + x1) 1518 ∧ (∀ v5 : Int32, v5 = x5 - (rd (gA m 11) (1 + x1)) → ((0 ≤ v5 → (wX6_hide_66 x1 x2 x3 x4 x5 v5 m KL33 K)) ∧ (¬ 0 ≤ v5 → (wX6_hide_66 x1 x2 x3 x4 x5 (-v5) m KL33 K))))))
def wX6_hide_33 (x1 : Int32) (x2 : Int32) (x3 : Int32) (x4 : Int32) (x5 : Int32) (m : MS) (K : Int32 → MS → Prop) : Prop := lfp (σ := Int32 × Int32 × Int32) (fun KL s => wX6_hide_33_b x1 x2 s.1 s.2.1 s.2.2 m KL K) (x3, x4, x5)
set_option maxRecDepth 100000 in
theorem bX6_hide_33 {E : jE} (hE : jOk E cX6_hide RX6) (hn : E.2.2.2.2 = 8) (hR : jRoom E 4 94) {ad : Nat → Nat} (hA : adOk ad) {r : GW} {b : Nat × Nat} {K : Int32 → MS → Prop} (hK : jRi E .int (KMI ad r K)) {x1 : Int32} {x2 : Int32} {x3 : Int32} {x4 : Int32} {x5 : Int32} {m : MS}  (hw : wX6_hide_33 x1 x2 x3 x4 x5 m K) : J E (mwX ad m r) b [(0, .ref (ad 0)), (1, .int (x1)), (2, .int (x2)), (3, .int (x3)), (4, .int (x4)), (5, .int (x5))] 33 [] := by
  refine lfp_sound (σ := Int32 × Int32 × Int32) (F := fun KL s => wX6_hide_33_b x1 x2 s.1 s.2.1 s.2.2 m KL K) (P := fun s => J E (mwX ad m r) b [(0, .ref (ad 0)), (1, .int (x1)), (2, .int (x2)), (3, .int (s.1)), (4, .int (s.2.1)), (5, .int (s.2.2))] 33 []) ?_ hw
  clear hw
  rintro KL33 ⟨x3, x4, x5⟩ hw ih33
  have hw : wX6_hide_33_b x1 x2 x3 x4 x5 m KL33 K := hw
  unfold wX6_hide_33_b at hw
  refine j_iload hE 5 dX6_hide_33 rfl ?_
  refine j_bipush hE dX6_hide_35 kb_10 ?_
  refine j_icmp_ge hE 124 dX6_hide_37 (by decide) (fun c1 => ?_) (fun c1 => ?_)
  · have hw := hw.1 c1
    refine j_iload_n hE 3 dX6_hide_124 rfl rfl ?_
    refine j_if_lt hE 133 dX6_hide_125 (by decide) (fun c2 => ?_) (fun c2 => ?_)
    · have hw := hw.1 c2
      refine j_iload_n hE 3 dX6_hide_133 rfl rfl ?_
      refine j_goto hE 139 dX6_hide_134 (by decide) ?_
      exact j_iret hE hK dX6_hide_139 rfl ⟨_, rfl, hw⟩
    · have hw := hw.2 c2
      refine j_iload_n hE 2 dX6_hide_128 rfl rfl ?_
      refine j_iconst hE dX6_hide_129 kc_1 ?_
      refine j_icmp_ne hE 137 dX6_hide_130 (by decide) (fun c3 => ?_) (fun c3 => ?_)
      · have hw := hw.1 c3
        refine j_iload hE 4 dX6_hide_137 rfl ?_
        exact j_iret hE hK dX6_hide_139 rfl ⟨_, rfl, hw⟩
      · have hw := hw.2 c3
        refine j_iload_n hE 3 dX6_hide_133 rfl rfl ?_
        refine j_goto hE 139 dX6_hide_134 (by decide) ?_
        exact j_iret hE hK dX6_hide_139 rfl ⟨_, rfl, hw⟩
  · have hw := hw.2 c1
    refine j_iload hE 5 dX6_hide_40 rfl ?_
    refine j_aload_n hE 0 dX6_hide_42 rfl rfl ?_
    refine jm_get hE hA 24 (Nat.le_of_ble_eq_true rfl) q1671 rfl (v := .ref (ad 12)) rfl dX6_hide_43 ?_
    refine j_iconst hE dX6_hide_46 kc_1 ?_
    refine j_iload_n hE 1 dX6_hide_47 rfl rfl ?_
    refine j_iadd hE dX6_hide_48 ?_
    obtain ⟨h4, hw⟩ := hw
    refine jm_iald hE hA 11 (Nat.le_of_ble_eq_true rfl) h4 dX6_hide_49 ?_
    refine j_isub hE dX6_hide_50 ?_
    refine j_topi (fun v5 e_v5 => ?_)
    have hw := hw v5 e_v5
    refine j_istore (L' := [(6, .int (v5)), (0, .ref (ad 0)), (1, .int (x1)), (2, .int (x2)), (3, .int (x3)), (4, .int (x4)), (5, .int (x5))]) hE hn dX6_hide_51 (Nat.le_of_ble_eq_true rfl) rfl ?_
    refine j_iload hE 0 dX6_hide_53 rfl ?_
    refine j_if_ge hE 64 dX6_hide_55 (by decide) (fun c6 => ?_) (fun c6 => ?_)
    · have hw := hw.1 c6
      refine j_iload hE 0 dX6_hide_64 rfl ?_
      refine j_sub [(0, .ref (ad 0)), (1, .int (x1)), (2, .int (x2)), (3, .int (x3)), (4, .int (x4)), (5, .int (x5))] [1, 2, 3, 4, 5, 6] rfl ?_
      exact bX6_hide_66 hE hn hR hA hK ih33 hw
    · have hw := hw.2 c6
      refine j_iload hE 0 dX6_hide_58 rfl ?_
      refine j_ineg hE dX6_hide_60 ?_
      refine j_goto hE 66 dX6_hide_61 (by decide) ?_
      refine j_sub [(0, .ref (ad 0)), (1, .int (x1)), (2, .int (x2)), (3, .int (x3)), (4, .int (x4)), (5, .int (x5))] [1, 2, 3, 4, 5, 6] rfl ?_
      exact bX6_hide_66 hE hn hR hA hK ih33 hw
def wX6_hide_0 (x1 : Int32) (x2 : Int32) (m : MS) (K : Int32 → MS → Prop) : Prop :=
  ∀ m1 : MS, m1 = sF m 0 0 → (wX6_isPerson x1 m1 (fun r2 => (r2 = 0 → (K ((-1)) m1)) ∧ (¬ r2 = 0 → (wX6_within x2 0 1 (fun r4 => (¬ r4 = 0 → (wX6_hide_33 x1 x2 ((-1)) (nI 10) 0 m1 K)) ∧ (r4 = 0 → (K ((-1)) m1)))))))
set_option maxRecDepth 100000 in
theorem bX6_hide_0 {E : jE} (hE : jOk E cX6_hide RX6) (hn : E.2.2.2.2 = 8) (hR : jRoom E 4 94) {ad : Nat → Nat} (hA : adOk ad) {r : GW} {b : Nat × Nat} {K : Int32 → MS → Prop} (hK : jRi E .int (KMI ad r K)) {x1 : Int32} {x2 : Int32} {m : MS}  (hw : wX6_hide_0 x1 x2 m K) : J E (mwX ad m r) b [(0, .ref (ad 0)), (1, .int (x1)), (2, .int (x2))] 0 [] := by
  unfold wX6_hide_0 at hw
  refine j_aload_n hE 0 dX6_hide_0 rfl rfl ?_
  refine j_iconst hE dX6_hide_1 kc_0 ?_
  refine jm_putF hE hA 0 0 (Nat.le_of_ble_eq_true rfl) q1647 rfl rfl (mset_0 _ _ _) rfl rfl dX6_hide_2 ?_
  refine j_wm (fun m1 e_m1 => ?_)
  have hw := hw m1 e_m1
  refine j_aload_n hE 0 dX6_hide_5 rfl rfl ?_
  refine j_iload_n hE 1 dX6_hide_6 rfl rfl ?_
  refine jm_pI hE hA hR (As := [.int (x1)]) (rest := []) (ctX6_isPerson E.1.2.1 E.2.2.1 hA _ _ _  _ hw) rfl lkX6_isPerson jdX6_isPerson ⟨Nat.le_of_ble_eq_true rfl, Nat.le_of_ble_eq_true rfl⟩ rfl (Nat.le_of_ble_eq_true rfl) dX6_hide_7 (fun r2 hw => ?_)
  refine j_if_eq hE 22 dX6_hide_10 (by decide) (fun c3 => ?_) (fun c3 => ?_)
  · have hw := hw.1 c3
    refine j_iconst hE dX6_hide_22 kc_m1 ?_
    exact j_iret hE hK dX6_hide_23 rfl ⟨_, rfl, hw⟩
  · have hw := hw.2 c3
    refine j_iload_n hE 2 dX6_hide_13 rfl rfl ?_
    refine j_iconst hE dX6_hide_14 kc_0 ?_
    refine j_iconst hE dX6_hide_15 kc_1 ?_
    refine j_psI hE hR (As := [.int (x2), .int (0), .int (1)]) (rest := []) (ctX6_within E.1.2.1 E.2.2.1 _ _ _ _  _ hw) lkX6_within jdX6_within ⟨Nat.le_of_ble_eq_true rfl, Nat.le_of_ble_eq_true rfl⟩ rfl (Nat.le_of_ble_eq_true rfl) dX6_hide_16 (fun r4 hw => ?_)
    refine j_if_ne hE 24 dX6_hide_19 (by decide) (fun c5 => ?_) (fun c5 => ?_)
    · have hw := hw.1 c5
      refine j_iconst hE dX6_hide_24 kc_m1 ?_
      refine j_istore_n (L' := [(3, .int ((-1))), (0, .ref (ad 0)), (1, .int (x1)), (2, .int (x2))]) hE hn dX6_hide_25 rfl (Nat.le_of_ble_eq_true rfl) rfl ?_
      refine j_bipush hE dX6_hide_26 kb_10 ?_
      refine j_istore (L' := [(4, .int (nI 10)), (3, .int ((-1))), (0, .ref (ad 0)), (1, .int (x1)), (2, .int (x2))]) hE hn dX6_hide_28 (Nat.le_of_ble_eq_true rfl) rfl ?_
      refine j_iconst hE dX6_hide_30 kc_0 ?_
      refine j_istore (L' := [(5, .int (0)), (4, .int (nI 10)), (3, .int ((-1))), (0, .ref (ad 0)), (1, .int (x1)), (2, .int (x2))]) hE hn dX6_hide_31 (Nat.le_of_ble_eq_true rfl) rfl ?_
      refine j_sub [(0, .ref (ad 0)), (1, .int (x1)), (2, .int (x2)), (3, .int ((-1))), (4, .int (nI 10)), (5, .int (0))] [3, 4, 5, 2, 1, 0] rfl ?_
      exact bX6_hide_33 hE hn hR hA hK  hw
    · have hw := hw.2 c5
      refine j_iconst hE dX6_hide_22 kc_m1 ?_
      exact j_iret hE hK dX6_hide_23 rfl ⟨_, rfl, hw⟩
abbrev wX6_hide := wX6_hide_0
theorem ctX6_hide (l : Launch) (G : gG) {ad : Nat → Nat} (hA : adOk ad) (m0 : MS) (r : GW) (x1 : Int32) (x2 : Int32) (K : Int32 → MS → Prop) (hw : wX6_hide x1 x2 m0 K) : CtI l yX6_hide cX6_hide 8 .int ({ frames := 4, cells := 0, slots := 0, locals := 94 }) G [.ref (ad 0), .int (x1), .int (x2)] (mwX ad m0 r) (KMI ad r K) :=
  CtI.of RX6 plain_X6 rfl (Nat.le_of_ble_eq_true rfl) (fun E hE _ _ hn hR hK => bX6_hide_0 hE hn hR hA hK hw)
theorem jdX6_hide : jD yX6_hide 2 := by decide +kernel
def wX6_proof_53_b (x1 : Int32) (x2 : Int32) (x3 : Int32) (x4 : Int32) (x5 : Int32) (x6 : Int32) (m : MS) (KL53 : Int32 × Int32 → Prop) (KL36 : Int32 × Int32 → Prop) (K : Int32 → MS → Prop) : Prop :=
  wX6_panes  m (fun r1 => (r1 ≤ x6 → ((¬ (x2 &&& (x5 ^^^ ((-1)))) = 0 → (KL36 (x3, x4 + 1))) ∧ ((x2 &&& (x5 ^^^ ((-1)))) = 0 → ((x3 < 0 → (KL36 (x4, x4 + 1))) ∧ (¬ x3 < 0 → (wX6_bits x4 (fun r5 => wX6_bits x3 (fun r6 => (r6 ≤ r5 → (KL36 (x3, x4 + 1))) ∧ (¬ r6 ≤ r5 → (KL36 (x4, x4 + 1))))))))))) ∧ (¬ r1 ≤ x6 → ((¬ ((ishr x4 x6) &&& 1) = 1 → (∀ v9 : Int32, v9 = x5 ||| 0 → (KL53 (v9, x6 + 1)))) ∧ (((ishr x4 x6) &&& 1) = 1 → (wX6_deedsBy 0 x6 x1 (nI 6) m (fun r10 => ∀ v11 : Int32, v11 = x5 ||| r10 → (KL53 (v11, x6 + 1))))))))
def wX6_proof_53 (x1 : Int32) (x2 : Int32) (x3 : Int32) (x4 : Int32) (x5 : Int32) (x6 : Int32) (m : MS) (KL36 : Int32 × Int32 → Prop) (K : Int32 → MS → Prop) : Prop := lfp (σ := Int32 × Int32) (fun KL s => wX6_proof_53_b x1 x2 x3 x4 s.1 s.2 m KL KL36 K) (x5, x6)
set_option maxRecDepth 100000 in
theorem bX6_proof_53 {E : jE} (hE : jOk E cX6_proof RX6) (hn : E.2.2.2.2 = 7) (hR : jRoom E 3 73) {ad : Nat → Nat} (hA : adOk ad) {r : GW} {b : Nat × Nat} {K : Int32 → MS → Prop} (hK : jRi E .int (KMI ad r K)) {x1 : Int32} {x2 : Int32} {x3 : Int32} {x4 : Int32} {x5 : Int32} {x6 : Int32} {m : MS} {KL36 : Int32 × Int32 → Prop} (ih36 : ∀ s : Int32 × Int32, KL36 s → J E (mwX ad m r) b [(0, .ref (ad 0)), (1, .int (x1)), (2, .int (x2)), (3, .int (s.1)), (4, .int (s.2))] 36 []) (hw : wX6_proof_53 x1 x2 x3 x4 x5 x6 m KL36 K) : J E (mwX ad m r) b [(0, .ref (ad 0)), (1, .int (x1)), (2, .int (x2)), (3, .int (x3)), (4, .int (x4)), (5, .int (x5)), (6, .int (x6))] 53 [] := by
  refine lfp_sound (σ := Int32 × Int32) (F := fun KL s => wX6_proof_53_b x1 x2 x3 x4 s.1 s.2 m KL KL36 K) (P := fun s => J E (mwX ad m r) b [(0, .ref (ad 0)), (1, .int (x1)), (2, .int (x2)), (3, .int (x3)), (4, .int (x4)), (5, .int (s.1)), (6, .int (s.2))] 53 []) ?_ hw
  clear hw
  rintro KL53 ⟨x5, x6⟩ hw ih53
  have hw : wX6_proof_53_b x1 x2 x3 x4 x5 x6 m KL53 KL36 K := hw
  unfold wX6_proof_53_b at hw
  refine j_iload hE 6 dX6_proof_53 rfl ?_
  refine j_aload_n hE 0 dX6_proof_55 rfl rfl ?_
  refine jm_pI hE hA hR (As := []) (rest := [.int (x6)]) (ctX6_panes E.1.2.1 E.2.2.1 hA _ _  _ hw) rfl lkX6_panes jdX6_panes ⟨Nat.le_of_ble_eq_true rfl, Nat.le_of_ble_eq_true rfl⟩ rfl (Nat.le_of_ble_eq_true rfl) dX6_proof_56 (fun r1 hw => ?_)
  refine j_icmp_ge hE 98 dX6_proof_59 (by decide) (fun c2 => ?_) (fun c2 => ?_)
  · have hw := hw.1 c2
    refine j_iload_n hE 2 dX6_proof_98 rfl rfl ?_
    refine j_iload hE 5 dX6_proof_99 rfl ?_
    refine j_iconst hE dX6_proof_101 kc_m1 ?_
    refine j_ixor hE dX6_proof_102 ?_
    refine j_iand hE dX6_proof_103 ?_
    refine j_if_ne hE 128 dX6_proof_104 (by decide) (fun c3 => ?_) (fun c3 => ?_)
    · have hw := hw.1 c3
      refine j_iload_n hE 3 dX6_proof_128 rfl rfl ?_
      refine j_istore_n (L' := [(3, .int (x3)), (0, .ref (ad 0)), (1, .int (x1)), (2, .int (x2)), (4, .int (x4)), (5, .int (x5)), (6, .int (x6))]) hE hn dX6_proof_129 rfl (Nat.le_of_ble_eq_true rfl) rfl ?_
      refine j_iinc (L' := [(4, .int (x4 + 1)), (3, .int (x3)), (0, .ref (ad 0)), (1, .int (x1)), (2, .int (x2)), (5, .int (x5)), (6, .int (x6))]) hE hn 4 dX6_proof_130 rfl (congrArg (x4 + ·) kc_1) (Nat.le_of_ble_eq_true rfl) rfl ?_
      refine j_goto hE 36 dX6_proof_133 (by decide) ?_
      refine j_sub [(0, .ref (ad 0)), (1, .int (x1)), (2, .int (x2)), (3, .int (x3)), (4, .int (x4 + 1))] [2, 3, 4, 1, 0] rfl ?_
      have hz := ih36 (x3, x4 + 1) hw
      exact hz
    · have hw := hw.2 c3
      refine j_iload_n hE 3 dX6_proof_107 rfl rfl ?_
      refine j_if_lt hE 123 dX6_proof_108 (by decide) (fun c4 => ?_) (fun c4 => ?_)
      · have hw := hw.1 c4
        refine j_iload hE 4 dX6_proof_123 rfl ?_
        refine j_goto hE 129 dX6_proof_125 (by decide) ?_
        refine j_istore_n (L' := [(3, .int (x4)), (0, .ref (ad 0)), (1, .int (x1)), (2, .int (x2)), (4, .int (x4)), (5, .int (x5)), (6, .int (x6))]) hE hn dX6_proof_129 rfl (Nat.le_of_ble_eq_true rfl) rfl ?_
        refine j_iinc (L' := [(4, .int (x4 + 1)), (3, .int (x4)), (0, .ref (ad 0)), (1, .int (x1)), (2, .int (x2)), (5, .int (x5)), (6, .int (x6))]) hE hn 4 dX6_proof_130 rfl (congrArg (x4 + ·) kc_1) (Nat.le_of_ble_eq_true rfl) rfl ?_
        refine j_goto hE 36 dX6_proof_133 (by decide) ?_
        refine j_sub [(0, .ref (ad 0)), (1, .int (x1)), (2, .int (x2)), (3, .int (x4)), (4, .int (x4 + 1))] [2, 3, 4, 1, 0] rfl ?_
        have hz := ih36 (x4, x4 + 1) hw
        exact hz
      · have hw := hw.2 c4
        refine j_iload hE 4 dX6_proof_111 rfl ?_
        refine j_psI hE hR (As := [.int (x4)]) (rest := []) (ctX6_bits E.1.2.1 E.2.2.1 _ _  _ hw) lkX6_bits jdX6_bits ⟨Nat.le_of_ble_eq_true rfl, Nat.le_of_ble_eq_true rfl⟩ rfl (Nat.le_of_ble_eq_true rfl) dX6_proof_113 (fun r5 hw => ?_)
        refine j_iload_n hE 3 dX6_proof_116 rfl rfl ?_
        refine j_psI hE hR (As := [.int (x3)]) (rest := [.int (r5)]) (ctX6_bits E.1.2.1 E.2.2.1 _ _  _ hw) lkX6_bits jdX6_bits ⟨Nat.le_of_ble_eq_true rfl, Nat.le_of_ble_eq_true rfl⟩ rfl (Nat.le_of_ble_eq_true rfl) dX6_proof_117 (fun r6 hw => ?_)
        refine j_icmp_ge hE 128 dX6_proof_120 (by decide) (fun c7 => ?_) (fun c7 => ?_)
        · have hw := hw.1 c7
          refine j_iload_n hE 3 dX6_proof_128 rfl rfl ?_
          refine j_istore_n (L' := [(3, .int (x3)), (0, .ref (ad 0)), (1, .int (x1)), (2, .int (x2)), (4, .int (x4)), (5, .int (x5)), (6, .int (x6))]) hE hn dX6_proof_129 rfl (Nat.le_of_ble_eq_true rfl) rfl ?_
          refine j_iinc (L' := [(4, .int (x4 + 1)), (3, .int (x3)), (0, .ref (ad 0)), (1, .int (x1)), (2, .int (x2)), (5, .int (x5)), (6, .int (x6))]) hE hn 4 dX6_proof_130 rfl (congrArg (x4 + ·) kc_1) (Nat.le_of_ble_eq_true rfl) rfl ?_
          refine j_goto hE 36 dX6_proof_133 (by decide) ?_
          refine j_sub [(0, .ref (ad 0)), (1, .int (x1)), (2, .int (x2)), (3, .int (x3)), (4, .int (x4 + 1))] [2, 3, 4, 1, 0] rfl ?_
          have hz := ih36 (x3, x4 + 1) hw
          exact hz
        · have hw := hw.2 c7
          refine j_iload hE 4 dX6_proof_123 rfl ?_
          refine j_goto hE 129 dX6_proof_125 (by decide) ?_
          refine j_istore_n (L' := [(3, .int (x4)), (0, .ref (ad 0)), (1, .int (x1)), (2, .int (x2)), (4, .int (x4)), (5, .int (x5)), (6, .int (x6))]) hE hn dX6_proof_129 rfl (Nat.le_of_ble_eq_true rfl) rfl ?_
          refine j_iinc (L' := [(4, .int (x4 + 1)), (3, .int (x4)), (0, .ref (ad 0)), (1, .int (x1)), (2, .int (x2)), (5, .int (x5)), (6, .int (x6))]) hE hn 4 dX6_proof_130 rfl (congrArg (x4 + ·) kc_1) (Nat.le_of_ble_eq_true rfl) rfl ?_
          refine j_goto hE 36 dX6_proof_133 (by decide) ?_
          refine j_sub [(0, .ref (ad 0)), (1, .int (x1)), (2, .int (x2)), (3, .int (x4)), (4, .int (x4 + 1))] [2, 3, 4, 1, 0] rfl ?_
          have hz := ih36 (x4, x4 + 1) hw
          exact hz
  · have hw := hw.2 c2
    refine j_iload hE 5 dX6_proof_62 rfl ?_
    refine j_iload hE 4 dX6_proof_64 rfl ?_
    refine j_iload hE 6 dX6_proof_66 rfl ?_
    refine j_ishr hE dX6_proof_68 ?_
    refine j_iconst hE dX6_proof_69 kc_1 ?_
    refine j_iand hE dX6_proof_70 ?_
    refine j_iconst hE dX6_proof_71 kc_1 ?_
    refine j_icmp_ne hE 88 dX6_proof_72 (by decide) (fun c8 => ?_) (fun c8 => ?_)
    · have hw := hw.1 c8
      refine j_iconst hE dX6_proof_88 kc_0 ?_
      refine j_ior hE dX6_proof_89 ?_
      refine j_topi (fun v9 e_v9 => ?_)
      have hw := hw v9 e_v9
      refine j_istore (L' := [(5, .int (v9)), (0, .ref (ad 0)), (1, .int (x1)), (2, .int (x2)), (3, .int (x3)), (4, .int (x4)), (6, .int (x6))]) hE hn dX6_proof_90 (Nat.le_of_ble_eq_true rfl) rfl ?_
      refine j_iinc (L' := [(6, .int (x6 + 1)), (5, .int (v9)), (0, .ref (ad 0)), (1, .int (x1)), (2, .int (x2)), (3, .int (x3)), (4, .int (x4))]) hE hn 6 dX6_proof_92 rfl (congrArg (x6 + ·) kc_1) (Nat.le_of_ble_eq_true rfl) rfl ?_
      refine j_goto hE 53 dX6_proof_95 (by decide) ?_
      refine j_sub [(0, .ref (ad 0)), (1, .int (x1)), (2, .int (x2)), (3, .int (x3)), (4, .int (x4)), (5, .int (v9)), (6, .int (x6 + 1))] [2, 3, 4, 5, 6, 1, 0] rfl ?_
      have hz := ih53 (v9, x6 + 1) hw
      exact hz
    · have hw := hw.2 c8
      refine j_aload_n hE 0 dX6_proof_75 rfl rfl ?_
      refine j_iconst hE dX6_proof_76 kc_0 ?_
      refine j_iload hE 6 dX6_proof_77 rfl ?_
      refine j_iload_n hE 1 dX6_proof_79 rfl rfl ?_
      refine j_bipush hE dX6_proof_80 kb_6 ?_
      refine jm_pI hE hA hR (As := [.int (0), .int (x6), .int (x1), .int (nI 6)]) (rest := [.int (x5)]) (ctX6_deedsBy E.1.2.1 E.2.2.1 hA _ _ _ _ _ _  _ hw) rfl lkX6_deedsBy jdX6_deedsBy ⟨Nat.le_of_ble_eq_true rfl, Nat.le_of_ble_eq_true rfl⟩ rfl (Nat.le_of_ble_eq_true rfl) dX6_proof_82 (fun r10 hw => ?_)
      refine j_goto hE 89 dX6_proof_85 (by decide) ?_
      refine j_ior hE dX6_proof_89 ?_
      refine j_topi (fun v11 e_v11 => ?_)
      have hw := hw v11 e_v11
      refine j_istore (L' := [(5, .int (v11)), (0, .ref (ad 0)), (1, .int (x1)), (2, .int (x2)), (3, .int (x3)), (4, .int (x4)), (6, .int (x6))]) hE hn dX6_proof_90 (Nat.le_of_ble_eq_true rfl) rfl ?_
      refine j_iinc (L' := [(6, .int (x6 + 1)), (5, .int (v11)), (0, .ref (ad 0)), (1, .int (x1)), (2, .int (x2)), (3, .int (x3)), (4, .int (x4))]) hE hn 6 dX6_proof_92 rfl (congrArg (x6 + ·) kc_1) (Nat.le_of_ble_eq_true rfl) rfl ?_
      refine j_goto hE 53 dX6_proof_95 (by decide) ?_
      refine j_sub [(0, .ref (ad 0)), (1, .int (x1)), (2, .int (x2)), (3, .int (x3)), (4, .int (x4)), (5, .int (v11)), (6, .int (x6 + 1))] [2, 3, 4, 5, 6, 1, 0] rfl ?_
      have hz := ih53 (v11, x6 + 1) hw
      exact hz
def wX6_proof_36_b (x1 : Int32) (x2 : Int32) (x3 : Int32) (x4 : Int32) (m : MS) (KL36 : Int32 × Int32 → Prop) (K : Int32 → MS → Prop) : Prop :=
  wX6_panes  m (fun r1 => ((ishl 1 r1) ≤ x4 → (K x3 m)) ∧ (¬ (ishl 1 r1) ≤ x4 → (wX6_proof_53 x1 x2 x3 x4 0 0 m KL36 K)))
def wX6_proof_36 (x1 : Int32) (x2 : Int32) (x3 : Int32) (x4 : Int32) (m : MS) (K : Int32 → MS → Prop) : Prop := lfp (σ := Int32 × Int32) (fun KL s => wX6_proof_36_b x1 x2 s.1 s.2 m KL K) (x3, x4)
set_option maxRecDepth 100000 in
theorem bX6_proof_36 {E : jE} (hE : jOk E cX6_proof RX6) (hn : E.2.2.2.2 = 7) (hR : jRoom E 3 73) {ad : Nat → Nat} (hA : adOk ad) {r : GW} {b : Nat × Nat} {K : Int32 → MS → Prop} (hK : jRi E .int (KMI ad r K)) {x1 : Int32} {x2 : Int32} {x3 : Int32} {x4 : Int32} {m : MS}  (hw : wX6_proof_36 x1 x2 x3 x4 m K) : J E (mwX ad m r) b [(0, .ref (ad 0)), (1, .int (x1)), (2, .int (x2)), (3, .int (x3)), (4, .int (x4))] 36 [] := by
  refine lfp_sound (σ := Int32 × Int32) (F := fun KL s => wX6_proof_36_b x1 x2 s.1 s.2 m KL K) (P := fun s => J E (mwX ad m r) b [(0, .ref (ad 0)), (1, .int (x1)), (2, .int (x2)), (3, .int (s.1)), (4, .int (s.2))] 36 []) ?_ hw
  clear hw
  rintro KL36 ⟨x3, x4⟩ hw ih36
  have hw : wX6_proof_36_b x1 x2 x3 x4 m KL36 K := hw
  unfold wX6_proof_36_b at hw
  refine j_iload hE 4 dX6_proof_36 rfl ?_
  refine j_iconst hE dX6_proof_38 kc_1 ?_
  refine j_aload_n hE 0 dX6_proof_39 rfl rfl ?_
  refine jm_pI hE hA hR (As := []) (rest := [.int (1), .int (x4)]) (ctX6_panes E.1.2.1 E.2.2.1 hA _ _  _ hw) rfl lkX6_panes jdX6_panes ⟨Nat.le_of_ble_eq_true rfl, Nat.le_of_ble_eq_true rfl⟩ rfl (Nat.le_of_ble_eq_true rfl) dX6_proof_40 (fun r1 hw => ?_)
  refine j_ishl hE dX6_proof_43 ?_
  refine j_icmp_ge hE 136 dX6_proof_44 (by decide) (fun c2 => ?_) (fun c2 => ?_)
  · have hw := hw.1 c2
    refine j_iload_n hE 3 dX6_proof_136 rfl rfl ?_
    exact j_iret hE hK dX6_proof_137 rfl ⟨_, rfl, hw⟩
  · have hw := hw.2 c2
    refine j_iconst hE dX6_proof_47 kc_0 ?_
    refine j_istore (L' := [(5, .int (0)), (0, .ref (ad 0)), (1, .int (x1)), (2, .int (x2)), (3, .int (x3)), (4, .int (x4))]) hE hn dX6_proof_48 (Nat.le_of_ble_eq_true rfl) rfl ?_
    refine j_iconst hE dX6_proof_50 kc_0 ?_
    refine j_istore (L' := [(6, .int (0)), (5, .int (0)), (0, .ref (ad 0)), (1, .int (x1)), (2, .int (x2)), (3, .int (x3)), (4, .int (x4))]) hE hn dX6_proof_51 (Nat.le_of_ble_eq_true rfl) rfl ?_
    refine j_sub [(0, .ref (ad 0)), (1, .int (x1)), (2, .int (x2)), (3, .int (x3)), (4, .int (x4)), (5, .int (0)), (6, .int (0))] [2, 3, 4, 5, 6, 1, 0] rfl ?_
    exact bX6_proof_53 hE hn hR hA hK ih36 hw
def wX6_proof_0 (x1 : Int32) (x2 : Int32) (m : MS) (K : Int32 → MS → Prop) : Prop :=
  ∀ m1 : MS, m1 = sF m 0 0 → (wX6_isPerson x1 m1 (fun r2 => (r2 = 0 → (K ((-1)) m1)) ∧ (¬ r2 = 0 → (wX6_deeds  m1 (fun r4 => wX6_within x2 0 ((ishl 1 r4) - 1) (fun r5 => (¬ r5 = 0 → (wX6_proof_36 x1 x2 ((-1)) 0 m1 K)) ∧ (r5 = 0 → (K ((-1)) m1))))))))
set_option maxRecDepth 100000 in
theorem bX6_proof_0 {E : jE} (hE : jOk E cX6_proof RX6) (hn : E.2.2.2.2 = 7) (hR : jRoom E 3 73) {ad : Nat → Nat} (hA : adOk ad) {r : GW} {b : Nat × Nat} {K : Int32 → MS → Prop} (hK : jRi E .int (KMI ad r K)) {x1 : Int32} {x2 : Int32} {m : MS}  (hw : wX6_proof_0 x1 x2 m K) : J E (mwX ad m r) b [(0, .ref (ad 0)), (1, .int (x1)), (2, .int (x2))] 0 [] := by
  unfold wX6_proof_0 at hw
  refine j_aload_n hE 0 dX6_proof_0 rfl rfl ?_
  refine j_iconst hE dX6_proof_1 kc_0 ?_
  refine jm_putF hE hA 0 0 (Nat.le_of_ble_eq_true rfl) q1647 rfl rfl (mset_0 _ _ _) rfl rfl dX6_proof_2 ?_
  refine j_wm (fun m1 e_m1 => ?_)
  have hw := hw m1 e_m1
  refine j_aload_n hE 0 dX6_proof_5 rfl rfl ?_
  refine j_iload_n hE 1 dX6_proof_6 rfl rfl ?_
  refine jm_pI hE hA hR (As := [.int (x1)]) (rest := []) (ctX6_isPerson E.1.2.1 E.2.2.1 hA _ _ _  _ hw) rfl lkX6_isPerson jdX6_isPerson ⟨Nat.le_of_ble_eq_true rfl, Nat.le_of_ble_eq_true rfl⟩ rfl (Nat.le_of_ble_eq_true rfl) dX6_proof_7 (fun r2 hw => ?_)
  refine j_if_eq hE 29 dX6_proof_10 (by decide) (fun c3 => ?_) (fun c3 => ?_)
  · have hw := hw.1 c3
    refine j_iconst hE dX6_proof_29 kc_m1 ?_
    exact j_iret hE hK dX6_proof_30 rfl ⟨_, rfl, hw⟩
  · have hw := hw.2 c3
    refine j_iload_n hE 2 dX6_proof_13 rfl rfl ?_
    refine j_iconst hE dX6_proof_14 kc_0 ?_
    refine j_iconst hE dX6_proof_15 kc_1 ?_
    refine j_aload_n hE 0 dX6_proof_16 rfl rfl ?_
    refine jm_pI hE hA hR (As := []) (rest := [.int (1), .int (0), .int (x2)]) (ctX6_deeds E.1.2.1 E.2.2.1 hA _ _  _ hw) rfl lkX6_deeds jdX6_deeds ⟨Nat.le_of_ble_eq_true rfl, Nat.le_of_ble_eq_true rfl⟩ rfl (Nat.le_of_ble_eq_true rfl) dX6_proof_17 (fun r4 hw => ?_)
    refine j_ishl hE dX6_proof_20 ?_
    refine j_iconst hE dX6_proof_21 kc_1 ?_
    refine j_isub hE dX6_proof_22 ?_
    refine j_psI hE hR (As := [.int (x2), .int (0), .int ((ishl 1 r4) - 1)]) (rest := []) (ctX6_within E.1.2.1 E.2.2.1 _ _ _ _  _ hw) lkX6_within jdX6_within ⟨Nat.le_of_ble_eq_true rfl, Nat.le_of_ble_eq_true rfl⟩ rfl (Nat.le_of_ble_eq_true rfl) dX6_proof_23 (fun r5 hw => ?_)
    refine j_if_ne hE 31 dX6_proof_26 (by decide) (fun c6 => ?_) (fun c6 => ?_)
    · have hw := hw.1 c6
      refine j_iconst hE dX6_proof_31 kc_m1 ?_
      refine j_istore_n (L' := [(3, .int ((-1))), (0, .ref (ad 0)), (1, .int (x1)), (2, .int (x2))]) hE hn dX6_proof_32 rfl (Nat.le_of_ble_eq_true rfl) rfl ?_
      refine j_iconst hE dX6_proof_33 kc_0 ?_
      refine j_istore (L' := [(4, .int (0)), (3, .int ((-1))), (0, .ref (ad 0)), (1, .int (x1)), (2, .int (x2))]) hE hn dX6_proof_34 (Nat.le_of_ble_eq_true rfl) rfl ?_
      refine j_sub [(0, .ref (ad 0)), (1, .int (x1)), (2, .int (x2)), (3, .int ((-1))), (4, .int (0))] [2, 3, 4, 1, 0] rfl ?_
      exact bX6_proof_36 hE hn hR hA hK  hw
    · have hw := hw.2 c6
      refine j_iconst hE dX6_proof_29 kc_m1 ?_
      exact j_iret hE hK dX6_proof_30 rfl ⟨_, rfl, hw⟩
abbrev wX6_proof := wX6_proof_0
theorem ctX6_proof (l : Launch) (G : gG) {ad : Nat → Nat} (hA : adOk ad) (m0 : MS) (r : GW) (x1 : Int32) (x2 : Int32) (K : Int32 → MS → Prop) (hw : wX6_proof x1 x2 m0 K) : CtI l yX6_proof cX6_proof 7 .int ({ frames := 3, cells := 0, slots := 0, locals := 73 }) G [.ref (ad 0), .int (x1), .int (x2)] (mwX ad m0 r) (KMI ad r K) :=
  CtI.of RX6 plain_X6 rfl (Nat.le_of_ble_eq_true rfl) (fun E hE _ _ hn hR hK => bX6_proof_0 hE hn hR hA hK hw)
theorem jdX6_proof : jD yX6_proof 2 := by decide +kernel
def wX6_washes_113 (x1 : Int32) (x2 : Int32) (x3 : Int32) (x4 : Int32) (x5 : Int32) (m : MS) (KL28 : Int32 × Int32 → Prop) (K : Int32 → MS → Prop) : Prop :=
  (0 ≤ x5 → (vp_in ((nI 18) + x4) 1518 ∧ (∀ v3 : Int32, v3 = x3 + ((rd (gA m 11) ((nI 18) + x4)) - x5) → (KL28 (v3, x4 + 1))))) ∧ (¬ 0 ≤ x5 → (∀ v4 : Int32, v4 = x3 + 0 → (KL28 (v4, x4 + 1))))
set_option maxRecDepth 100000 in
theorem bX6_washes_113 {E : jE} (hE : jOk E cX6_washes RX6) (hn : E.2.2.2.2 = 8) (hR : jRoom E 2 41) {ad : Nat → Nat} (hA : adOk ad) {r : GW} {b : Nat × Nat} {K : Int32 → MS → Prop} (hK : jRi E .int (KMI ad r K)) {x1 : Int32} {x2 : Int32} {x3 : Int32} {x4 : Int32} {x5 : Int32} {m : MS} {KL28 : Int32 × Int32 → Prop} (ih28 : ∀ s : Int32 × Int32, KL28 s → J E (mwX ad m r) b [(0, .ref (ad 0)), (1, .int (x1)), (2, .int (x2)), (3, .int (s.1)), (4, .int (s.2))] 28 []) (hw : wX6_washes_113 x1 x2 x3 x4 x5 m KL28 K) : J E (mwX ad m r) b [(0, .ref (ad 0)), (1, .int (x1)), (2, .int (x2)), (3, .int (x3)), (4, .int (x4)), (5, .int (x5))] 113 [] := by
  unfold wX6_washes_113 at hw
  refine j_iload_n hE 3 dX6_washes_113 rfl rfl ?_
  refine j_iload hE 5 dX6_washes_114 rfl ?_
  refine j_if_ge hE 123 dX6_washes_116 (by decide) (fun c1 => ?_) (fun c1 => ?_)
  · have hw := hw.1 c1
    refine j_aload_n hE 0 dX6_washes_123 rfl rfl ?_
    refine jm_get hE hA 24 (Nat.le_of_ble_eq_true rfl) q1671 rfl (v := .ref (ad 12)) rfl dX6_washes_124 ?_
    refine j_bipush hE dX6_washes_127 kb_18 ?_
    refine j_iload hE 4 dX6_washes_129 rfl ?_
    refine j_iadd hE dX6_washes_131 ?_
    obtain ⟨h2, hw⟩ := hw
    refine jm_iald hE hA 11 (Nat.le_of_ble_eq_true rfl) h2 dX6_washes_132 ?_
    refine j_iload hE 5 dX6_washes_133 rfl ?_
    refine j_isub hE dX6_washes_135 ?_
    refine j_iadd hE dX6_washes_136 ?_
    refine j_topi (fun v3 e_v3 => ?_)
    have hw := hw v3 e_v3
    refine j_istore_n (L' := [(3, .int (v3)), (0, .ref (ad 0)), (1, .int (x1)), (2, .int (x2)), (4, .int (x4)), (5, .int (x5))]) hE hn dX6_washes_137 rfl (Nat.le_of_ble_eq_true rfl) rfl ?_
    refine j_iinc (L' := [(4, .int (x4 + 1)), (3, .int (v3)), (0, .ref (ad 0)), (1, .int (x1)), (2, .int (x2)), (5, .int (x5))]) hE hn 4 dX6_washes_138 rfl (congrArg (x4 + ·) kc_1) (Nat.le_of_ble_eq_true rfl) rfl ?_
    refine j_goto hE 28 dX6_washes_141 (by decide) ?_
    refine j_sub [(0, .ref (ad 0)), (1, .int (x1)), (2, .int (x2)), (3, .int (v3)), (4, .int (x4 + 1))] [2, 3, 4, 1, 0] rfl ?_
    have hz := ih28 (v3, x4 + 1) hw
    exact hz
  · have hw := hw.2 c1
    refine j_iconst hE dX6_washes_119 kc_0 ?_
    refine j_goto hE 136 dX6_washes_120 (by decide) ?_
    refine j_iadd hE dX6_washes_136 ?_
    refine j_topi (fun v4 e_v4 => ?_)
    have hw := hw v4 e_v4
    refine j_istore_n (L' := [(3, .int (v4)), (0, .ref (ad 0)), (1, .int (x1)), (2, .int (x2)), (4, .int (x4)), (5, .int (x5))]) hE hn dX6_washes_137 rfl (Nat.le_of_ble_eq_true rfl) rfl ?_
    refine j_iinc (L' := [(4, .int (x4 + 1)), (3, .int (v4)), (0, .ref (ad 0)), (1, .int (x1)), (2, .int (x2)), (5, .int (x5))]) hE hn 4 dX6_washes_138 rfl (congrArg (x4 + ·) kc_1) (Nat.le_of_ble_eq_true rfl) rfl ?_
    refine j_goto hE 28 dX6_washes_141 (by decide) ?_
    refine j_sub [(0, .ref (ad 0)), (1, .int (x1)), (2, .int (x2)), (3, .int (v4)), (4, .int (x4 + 1))] [2, 3, 4, 1, 0] rfl ?_
    have hz := ih28 (v4, x4 + 1) hw
    exact hz
def wX6_washes_54_b (x1 : Int32) (x2 : Int32) (x3 : Int32) (x4 : Int32) (x5 : Int32) (x6 : Int32) (m : MS) (KL54 : Int32 × Int32 → Prop) (KL28 : Int32 × Int32 → Prop) (K : Int32 → MS → Prop) : Prop :=
  (x6 < 0 → (wX6_washes_113 x1 x2 x3 x4 x5 m KL28 K)) ∧ (¬ x6 < 0 → (wX6_isWhole 0 x4 m (fun r2 => (r2 = 0 → (wX6_washes_113 x1 x2 x3 x4 x5 m KL28 K)) ∧ (¬ r2 = 0 → (wX6_markOf 0 x4 x6 m (fun r4 => wX6_whoOf r4 (fun r5 => (¬ r5 = x1 → (KL54 (x5, x6 + (-1)))) ∧ (r5 = x1 → (wX6_deedOf r4 (fun r7 => (¬ r7 = x2 → (KL54 (x5, x6 + (-1)))) ∧ (r7 = x2 → (KL54 (x6, x6 + (-1))))))))))))))
def wX6_washes_54 (x1 : Int32) (x2 : Int32) (x3 : Int32) (x4 : Int32) (x5 : Int32) (x6 : Int32) (m : MS) (KL28 : Int32 × Int32 → Prop) (K : Int32 → MS → Prop) : Prop := lfp (σ := Int32 × Int32) (fun KL s => wX6_washes_54_b x1 x2 x3 x4 s.1 s.2 m KL KL28 K) (x5, x6)
set_option maxRecDepth 100000 in
theorem bX6_washes_54 {E : jE} (hE : jOk E cX6_washes RX6) (hn : E.2.2.2.2 = 8) (hR : jRoom E 2 41) {ad : Nat → Nat} (hA : adOk ad) {r : GW} {b : Nat × Nat} {K : Int32 → MS → Prop} (hK : jRi E .int (KMI ad r K)) {x1 : Int32} {x2 : Int32} {x3 : Int32} {x4 : Int32} {x5 : Int32} {x6 : Int32} {m : MS} {KL28 : Int32 × Int32 → Prop} (ih28 : ∀ s : Int32 × Int32, KL28 s → J E (mwX ad m r) b [(0, .ref (ad 0)), (1, .int (x1)), (2, .int (x2)), (3, .int (s.1)), (4, .int (s.2))] 28 []) (hw : wX6_washes_54 x1 x2 x3 x4 x5 x6 m KL28 K) : J E (mwX ad m r) b [(0, .ref (ad 0)), (1, .int (x1)), (2, .int (x2)), (3, .int (x3)), (4, .int (x4)), (5, .int (x5)), (6, .int (x6))] 54 [] := by
  refine lfp_sound (σ := Int32 × Int32) (F := fun KL s => wX6_washes_54_b x1 x2 x3 x4 s.1 s.2 m KL KL28 K) (P := fun s => J E (mwX ad m r) b [(0, .ref (ad 0)), (1, .int (x1)), (2, .int (x2)), (3, .int (x3)), (4, .int (x4)), (5, .int (s.1)), (6, .int (s.2))] 54 []) ?_ hw
  clear hw
  rintro KL54 ⟨x5, x6⟩ hw ih54
  have hw : wX6_washes_54_b x1 x2 x3 x4 x5 x6 m KL54 KL28 K := hw
  unfold wX6_washes_54_b at hw
  refine j_iload hE 6 dX6_washes_54 rfl ?_
  refine j_if_lt hE 113 dX6_washes_56 (by decide) (fun c1 => ?_) (fun c1 => ?_)
  · have hw := hw.1 c1
    refine j_sub [(0, .ref (ad 0)), (1, .int (x1)), (2, .int (x2)), (3, .int (x3)), (4, .int (x4)), (5, .int (x5))] [0, 1, 2, 3, 4, 5] rfl ?_
    exact bX6_washes_113 hE hn hR hA hK ih28 hw
  · have hw := hw.2 c1
    refine j_aload_n hE 0 dX6_washes_59 rfl rfl ?_
    refine j_iconst hE dX6_washes_60 kc_0 ?_
    refine j_iload hE 4 dX6_washes_61 rfl ?_
    refine jm_pI hE hA hR (As := [.int (0), .int (x4)]) (rest := []) (ctX6_isWhole E.1.2.1 E.2.2.1 hA _ _ _ _  _ hw) rfl lkX6_isWhole jdX6_isWhole ⟨Nat.le_of_ble_eq_true rfl, Nat.le_of_ble_eq_true rfl⟩ rfl (Nat.le_of_ble_eq_true rfl) dX6_washes_63 (fun r2 hw => ?_)
    refine j_if_eq hE 113 dX6_washes_66 (by decide) (fun c3 => ?_) (fun c3 => ?_)
    · have hw := hw.1 c3
      refine j_sub [(0, .ref (ad 0)), (1, .int (x1)), (2, .int (x2)), (3, .int (x3)), (4, .int (x4)), (5, .int (x5))] [0, 1, 2, 3, 4, 5] rfl ?_
      exact bX6_washes_113 hE hn hR hA hK ih28 hw
    · have hw := hw.2 c3
      refine j_aload_n hE 0 dX6_washes_69 rfl rfl ?_
      refine j_iconst hE dX6_washes_70 kc_0 ?_
      refine j_iload hE 4 dX6_washes_71 rfl ?_
      refine j_iload hE 6 dX6_washes_73 rfl ?_
      refine jm_pI hE hA hR (As := [.int (0), .int (x4), .int (x6)]) (rest := []) (ctX6_markOf E.1.2.1 E.2.2.1 hA _ _ _ _ _  _ hw) rfl lkX6_markOf jdX6_markOf ⟨Nat.le_of_ble_eq_true rfl, Nat.le_of_ble_eq_true rfl⟩ rfl (Nat.le_of_ble_eq_true rfl) dX6_washes_75 (fun r4 hw => ?_)
      refine j_istore (L' := [(7, .int (r4)), (0, .ref (ad 0)), (1, .int (x1)), (2, .int (x2)), (3, .int (x3)), (4, .int (x4)), (5, .int (x5)), (6, .int (x6))]) hE hn dX6_washes_78 (Nat.le_of_ble_eq_true rfl) rfl ?_
      refine j_iload hE 0 dX6_washes_80 rfl ?_
      refine j_psI hE hR (As := [.int (r4)]) (rest := []) (ctX6_whoOf E.1.2.1 E.2.2.1 _ _  _ hw) lkX6_whoOf jdX6_whoOf ⟨Nat.le_of_ble_eq_true rfl, Nat.le_of_ble_eq_true rfl⟩ rfl (Nat.le_of_ble_eq_true rfl) dX6_washes_82 (fun r5 hw => ?_)
      refine j_iload_n hE 2 dX6_washes_85 rfl rfl ?_
      refine j_icmp_ne hE 103 dX6_washes_86 (by decide) (fun c6 => ?_) (fun c6 => ?_)
      · have hw := hw.1 c6
        refine j_iload hE 6 dX6_washes_103 rfl ?_
        refine j_istore (L' := [(5, .int (x5)), (7, .int (r4)), (0, .ref (ad 0)), (1, .int (x1)), (2, .int (x2)), (3, .int (x3)), (4, .int (x4)), (6, .int (x6))]) hE hn dX6_washes_105 (Nat.le_of_ble_eq_true rfl) rfl ?_
        refine j_iinc (L' := [(6, .int (x6 + (-1))), (5, .int (x5)), (7, .int (r4)), (0, .ref (ad 0)), (1, .int (x1)), (2, .int (x2)), (3, .int (x3)), (4, .int (x4))]) hE hn 7 dX6_washes_107 rfl (congrArg (x6 + ·) kc_m1) (Nat.le_of_ble_eq_true rfl) rfl ?_
        refine j_goto hE 54 dX6_washes_110 (by decide) ?_
        refine j_sub [(0, .ref (ad 0)), (1, .int (x1)), (2, .int (x2)), (3, .int (x3)), (4, .int (x4)), (5, .int (x5)), (6, .int (x6 + (-1)))] [3, 4, 5, 6, 7, 1, 0] rfl ?_
        have hz := ih54 (x5, x6 + (-1)) hw
        exact hz
      · have hw := hw.2 c6
        refine j_iload hE 0 dX6_washes_89 rfl ?_
        refine j_psI hE hR (As := [.int (r4)]) (rest := []) (ctX6_deedOf E.1.2.1 E.2.2.1 _ _  _ hw) lkX6_deedOf jdX6_deedOf ⟨Nat.le_of_ble_eq_true rfl, Nat.le_of_ble_eq_true rfl⟩ rfl (Nat.le_of_ble_eq_true rfl) dX6_washes_91 (fun r7 hw => ?_)
        refine j_iload_n hE 3 dX6_washes_94 rfl rfl ?_
        refine j_icmp_ne hE 103 dX6_washes_95 (by decide) (fun c8 => ?_) (fun c8 => ?_)
        · have hw := hw.1 c8
          refine j_iload hE 6 dX6_washes_103 rfl ?_
          refine j_istore (L' := [(5, .int (x5)), (7, .int (r4)), (0, .ref (ad 0)), (1, .int (x1)), (2, .int (x2)), (3, .int (x3)), (4, .int (x4)), (6, .int (x6))]) hE hn dX6_washes_105 (Nat.le_of_ble_eq_true rfl) rfl ?_
          refine j_iinc (L' := [(6, .int (x6 + (-1))), (5, .int (x5)), (7, .int (r4)), (0, .ref (ad 0)), (1, .int (x1)), (2, .int (x2)), (3, .int (x3)), (4, .int (x4))]) hE hn 7 dX6_washes_107 rfl (congrArg (x6 + ·) kc_m1) (Nat.le_of_ble_eq_true rfl) rfl ?_
          refine j_goto hE 54 dX6_washes_110 (by decide) ?_
          refine j_sub [(0, .ref (ad 0)), (1, .int (x1)), (2, .int (x2)), (3, .int (x3)), (4, .int (x4)), (5, .int (x5)), (6, .int (x6 + (-1)))] [3, 4, 5, 6, 7, 1, 0] rfl ?_
          have hz := ih54 (x5, x6 + (-1)) hw
          exact hz
        · have hw := hw.2 c8
          refine j_iload hE 7 dX6_washes_98 rfl ?_
          refine j_goto hE 105 dX6_washes_100 (by decide) ?_
          refine j_istore (L' := [(5, .int (x6)), (7, .int (r4)), (0, .ref (ad 0)), (1, .int (x1)), (2, .int (x2)), (3, .int (x3)), (4, .int (x4)), (6, .int (x6))]) hE hn dX6_washes_105 (Nat.le_of_ble_eq_true rfl) rfl ?_
          refine j_iinc (L' := [(6, .int (x6 + (-1))), (5, .int (x6)), (7, .int (r4)), (0, .ref (ad 0)), (1, .int (x1)), (2, .int (x2)), (3, .int (x3)), (4, .int (x4))]) hE hn 7 dX6_washes_107 rfl (congrArg (x6 + ·) kc_m1) (Nat.le_of_ble_eq_true rfl) rfl ?_
          refine j_goto hE 54 dX6_washes_110 (by decide) ?_
          refine j_sub [(0, .ref (ad 0)), (1, .int (x1)), (2, .int (x2)), (3, .int (x3)), (4, .int (x4)), (5, .int (x6)), (6, .int (x6 + (-1)))] [3, 4, 5, 6, 7, 1, 0] rfl ?_
          have hz := ih54 (x6, x6 + (-1)) hw
          exact hz
def wX6_washes_28_b (x1 : Int32) (x2 : Int32) (x3 : Int32) (x4 : Int32) (m : MS) (KL28 : Int32 × Int32 → Prop) (K : Int32 → MS → Prop) : Prop :=
  wX6_panes  m (fun r1 => (r1 ≤ x4 → (K x3 m)) ∧ (¬ r1 ≤ x4 → (vp_in ((nI 18) + x4) 1518 ∧ (∀ v4 : Int32, v4 = (rd (gA m 11) ((nI 18) + x4)) - 1 → (wX6_washes_54 x1 x2 x3 x4 ((-1)) v4 m KL28 K)))))
def wX6_washes_28 (x1 : Int32) (x2 : Int32) (x3 : Int32) (x4 : Int32) (m : MS) (K : Int32 → MS → Prop) : Prop := lfp (σ := Int32 × Int32) (fun KL s => wX6_washes_28_b x1 x2 s.1 s.2 m KL K) (x3, x4)
set_option maxRecDepth 100000 in
theorem bX6_washes_28 {E : jE} (hE : jOk E cX6_washes RX6) (hn : E.2.2.2.2 = 8) (hR : jRoom E 2 41) {ad : Nat → Nat} (hA : adOk ad) {r : GW} {b : Nat × Nat} {K : Int32 → MS → Prop} (hK : jRi E .int (KMI ad r K)) {x1 : Int32} {x2 : Int32} {x3 : Int32} {x4 : Int32} {m : MS}  (hw : wX6_washes_28 x1 x2 x3 x4 m K) : J E (mwX ad m r) b [(0, .ref (ad 0)), (1, .int (x1)), (2, .int (x2)), (3, .int (x3)), (4, .int (x4))] 28 [] := by
  refine lfp_sound (σ := Int32 × Int32) (F := fun KL s => wX6_washes_28_b x1 x2 s.1 s.2 m KL K) (P := fun s => J E (mwX ad m r) b [(0, .ref (ad 0)), (1, .int (x1)), (2, .int (x2)), (3, .int (s.1)), (4, .int (s.2))] 28 []) ?_ hw
  clear hw
  rintro KL28 ⟨x3, x4⟩ hw ih28
  have hw : wX6_washes_28_b x1 x2 x3 x4 m KL28 K := hw
  unfold wX6_washes_28_b at hw
  refine j_iload hE 4 dX6_washes_28 rfl ?_
  refine j_aload_n hE 0 dX6_washes_30 rfl rfl ?_
  refine jm_pI hE hA hR (As := []) (rest := [.int (x4)]) (ctX6_panes E.1.2.1 E.2.2.1 hA _ _  _ hw) rfl lkX6_panes jdX6_panes ⟨Nat.le_of_ble_eq_true rfl, Nat.le_of_ble_eq_true rfl⟩ rfl (Nat.le_of_ble_eq_true rfl) dX6_washes_31 (fun r1 hw => ?_)
  refine j_icmp_ge hE 144 dX6_washes_34 (by decide) (fun c2 => ?_) (fun c2 => ?_)
  · have hw := hw.1 c2
    refine j_iload_n hE 3 dX6_washes_144 rfl rfl ?_
    exact j_iret hE hK dX6_washes_145 rfl ⟨_, rfl, hw⟩
  · have hw := hw.2 c2
    refine j_iconst hE dX6_washes_37 kc_m1 ?_
    refine j_istore (L' := [(5, .int ((-1))), (0, .ref (ad 0)), (1, .int (x1)), (2, .int (x2)), (3, .int (x3)), (4, .int (x4))]) hE hn dX6_washes_38 (Nat.le_of_ble_eq_true rfl) rfl ?_
    refine j_aload_n hE 1 dX6_washes_40 rfl rfl ?_
    refine jm_get hE hA 24 (Nat.le_of_ble_eq_true rfl) q1671 rfl (v := .ref (ad 12)) rfl dX6_washes_41 ?_
    refine j_bipush hE dX6_washes_44 kb_18 ?_
    refine j_iload hE 5 dX6_washes_46 rfl ?_
    refine j_iadd hE dX6_washes_48 ?_
    obtain ⟨h3, hw⟩ := hw
    refine jm_iald hE hA 11 (Nat.le_of_ble_eq_true rfl) h3 dX6_washes_49 ?_
    refine j_iconst hE dX6_washes_50 kc_1 ?_
    refine j_isub hE dX6_washes_51 ?_
    refine j_topi (fun v4 e_v4 => ?_)
    have hw := hw v4 e_v4
    refine j_istore (L' := [(6, .int (v4)), (5, .int ((-1))), (0, .ref (ad 0)), (1, .int (x1)), (2, .int (x2)), (3, .int (x3)), (4, .int (x4))]) hE hn dX6_washes_52 (Nat.le_of_ble_eq_true rfl) rfl ?_
    refine j_sub [(0, .ref (ad 0)), (1, .int (x1)), (2, .int (x2)), (3, .int (x3)), (4, .int (x4)), (5, .int ((-1))), (6, .int (v4))] [2, 3, 4, 5, 6, 1, 0] rfl ?_
    exact bX6_washes_54 hE hn hR hA hK ih28 hw
def wX6_washes_0 (x1 : Int32) (x2 : Int32) (m : MS) (K : Int32 → MS → Prop) : Prop :=
  ∀ m1 : MS, m1 = sF m 0 0 → (wX6_isPerson x1 m1 (fun r2 => (r2 = 0 → (K ((-1)) m1)) ∧ (¬ r2 = 0 → (wX6_isDeed x2 m1 (fun r4 => (¬ r4 = 0 → (wX6_washes_28 x1 x2 0 0 m1 K)) ∧ (r4 = 0 → (K ((-1)) m1)))))))
set_option maxRecDepth 100000 in
theorem bX6_washes_0 {E : jE} (hE : jOk E cX6_washes RX6) (hn : E.2.2.2.2 = 8) (hR : jRoom E 2 41) {ad : Nat → Nat} (hA : adOk ad) {r : GW} {b : Nat × Nat} {K : Int32 → MS → Prop} (hK : jRi E .int (KMI ad r K)) {x1 : Int32} {x2 : Int32} {m : MS}  (hw : wX6_washes_0 x1 x2 m K) : J E (mwX ad m r) b [(0, .ref (ad 0)), (1, .int (x1)), (2, .int (x2))] 0 [] := by
  unfold wX6_washes_0 at hw
  refine j_aload_n hE 0 dX6_washes_0 rfl rfl ?_
  refine j_iconst hE dX6_washes_1 kc_0 ?_
  refine jm_putF hE hA 0 0 (Nat.le_of_ble_eq_true rfl) q1647 rfl rfl (mset_0 _ _ _) rfl rfl dX6_washes_2 ?_
  refine j_wm (fun m1 e_m1 => ?_)
  have hw := hw m1 e_m1
  refine j_aload_n hE 0 dX6_washes_5 rfl rfl ?_
  refine j_iload_n hE 1 dX6_washes_6 rfl rfl ?_
  refine jm_pI hE hA hR (As := [.int (x1)]) (rest := []) (ctX6_isPerson E.1.2.1 E.2.2.1 hA _ _ _  _ hw) rfl lkX6_isPerson jdX6_isPerson ⟨Nat.le_of_ble_eq_true rfl, Nat.le_of_ble_eq_true rfl⟩ rfl (Nat.le_of_ble_eq_true rfl) dX6_washes_7 (fun r2 hw => ?_)
  refine j_if_eq hE 21 dX6_washes_10 (by decide) (fun c3 => ?_) (fun c3 => ?_)
  · have hw := hw.1 c3
    refine j_iconst hE dX6_washes_21 kc_m1 ?_
    exact j_iret hE hK dX6_washes_22 rfl ⟨_, rfl, hw⟩
  · have hw := hw.2 c3
    refine j_aload_n hE 0 dX6_washes_13 rfl rfl ?_
    refine j_iload_n hE 2 dX6_washes_14 rfl rfl ?_
    refine jm_pI hE hA hR (As := [.int (x2)]) (rest := []) (ctX6_isDeed E.1.2.1 E.2.2.1 hA _ _ _  _ hw) rfl lkX6_isDeed jdX6_isDeed ⟨Nat.le_of_ble_eq_true rfl, Nat.le_of_ble_eq_true rfl⟩ rfl (Nat.le_of_ble_eq_true rfl) dX6_washes_15 (fun r4 hw => ?_)
    refine j_if_ne hE 23 dX6_washes_18 (by decide) (fun c5 => ?_) (fun c5 => ?_)
    · have hw := hw.1 c5
      refine j_iconst hE dX6_washes_23 kc_0 ?_
      refine j_istore_n (L' := [(3, .int (0)), (0, .ref (ad 0)), (1, .int (x1)), (2, .int (x2))]) hE hn dX6_washes_24 rfl (Nat.le_of_ble_eq_true rfl) rfl ?_
      refine j_iconst hE dX6_washes_25 kc_0 ?_
      refine j_istore (L' := [(4, .int (0)), (3, .int (0)), (0, .ref (ad 0)), (1, .int (x1)), (2, .int (x2))]) hE hn dX6_washes_26 (Nat.le_of_ble_eq_true rfl) rfl ?_
      refine j_sub [(0, .ref (ad 0)), (1, .int (x1)), (2, .int (x2)), (3, .int (0)), (4, .int (0))] [2, 3, 4, 1, 0] rfl ?_
      exact bX6_washes_28 hE hn hR hA hK  hw
    · have hw := hw.2 c5
      refine j_iconst hE dX6_washes_21 kc_m1 ?_
      exact j_iret hE hK dX6_washes_22 rfl ⟨_, rfl, hw⟩
abbrev wX6_washes := wX6_washes_0
theorem ctX6_washes (l : Launch) (G : gG) {ad : Nat → Nat} (hA : adOk ad) (m0 : MS) (r : GW) (x1 : Int32) (x2 : Int32) (K : Int32 → MS → Prop) (hw : wX6_washes x1 x2 m0 K) : CtI l yX6_washes cX6_washes 8 .int ({ frames := 2, cells := 0, slots := 0, locals := 41 }) G [.ref (ad 0), .int (x1), .int (x2)] (mwX ad m0 r) (KMI ad r K) :=
  CtI.of RX6 plain_X6 rfl (Nat.le_of_ble_eq_true rfl) (fun E hE _ _ hn hR hK => bX6_washes_0 hE hn hR hA hK hw)
theorem jdX6_washes : jD yX6_washes 2 := by decide +kernel
def wX6_dark_84 (x1 : Int32) (x2 : Int32) (x3 : Int32) (x4 : Int32) (s0 : Int32) (m : MS) (KL22 : Int32 × Int32 → Prop) (K : Int32 → MS → Prop) : Prop :=
  (s0 = 0 → (KL22 (x2, x3 + 1))) ∧ (¬ s0 = 0 → (KL22 (x4, x3 + 1)))
set_option maxRecDepth 100000 in
theorem bX6_dark_84 {E : jE} (hE : jOk E cX6_dark RX6) (hn : E.2.2.2.2 = 6) (hR : jRoom E 4 94) {ad : Nat → Nat} (hA : adOk ad) {r : GW} {b : Nat × Nat} {K : Int32 → MS → Prop} (hK : jRi E .int (KMI ad r K)) {x1 : Int32} {x2 : Int32} {x3 : Int32} {x4 : Int32} {s0 : Int32} {m : MS} {KL22 : Int32 × Int32 → Prop} (ih22 : ∀ s : Int32 × Int32, KL22 s → J E (mwX ad m r) b [(0, .ref (ad 0)), (1, .int (x1)), (2, .int (s.1)), (3, .int (s.2))] 22 []) (hw : wX6_dark_84 x1 x2 x3 x4 s0 m KL22 K) : J E (mwX ad m r) b [(0, .ref (ad 0)), (1, .int (x1)), (2, .int (x2)), (3, .int (x3)), (4, .int (x4))] 84 [.int (s0)] := by
  unfold wX6_dark_84 at hw
  refine j_istore (L' := [(5, .int (s0)), (0, .ref (ad 0)), (1, .int (x1)), (2, .int (x2)), (3, .int (x3)), (4, .int (x4))]) hE hn dX6_dark_84 (Nat.le_of_ble_eq_true rfl) rfl ?_
  refine j_iload hE 0 dX6_dark_86 rfl ?_
  refine j_if_eq hE 96 dX6_dark_88 (by decide) (fun c1 => ?_) (fun c1 => ?_)
  · have hw := hw.1 c1
    refine j_iload_n hE 3 dX6_dark_96 rfl rfl ?_
    refine j_istore_n (L' := [(2, .int (x2)), (5, .int (s0)), (0, .ref (ad 0)), (1, .int (x1)), (3, .int (x3)), (4, .int (x4))]) hE hn dX6_dark_97 rfl (Nat.le_of_ble_eq_true rfl) rfl ?_
    refine j_iinc (L' := [(3, .int (x3 + 1)), (2, .int (x2)), (5, .int (s0)), (0, .ref (ad 0)), (1, .int (x1)), (4, .int (x4))]) hE hn 4 dX6_dark_98 rfl (congrArg (x3 + ·) kc_1) (Nat.le_of_ble_eq_true rfl) rfl ?_
    refine j_goto hE 22 dX6_dark_101 (by decide) ?_
    refine j_sub [(0, .ref (ad 0)), (1, .int (x1)), (2, .int (x2)), (3, .int (x3 + 1))] [3, 4, 1, 0] rfl ?_
    have hz := ih22 (x2, x3 + 1) hw
    exact hz
  · have hw := hw.2 c1
    refine j_iload hE 5 dX6_dark_91 rfl ?_
    refine j_goto hE 97 dX6_dark_93 (by decide) ?_
    refine j_istore_n (L' := [(2, .int (x4)), (5, .int (s0)), (0, .ref (ad 0)), (1, .int (x1)), (3, .int (x3)), (4, .int (x4))]) hE hn dX6_dark_97 rfl (Nat.le_of_ble_eq_true rfl) rfl ?_
    refine j_iinc (L' := [(3, .int (x3 + 1)), (2, .int (x4)), (5, .int (s0)), (0, .ref (ad 0)), (1, .int (x1)), (4, .int (x4))]) hE hn 4 dX6_dark_98 rfl (congrArg (x3 + ·) kc_1) (Nat.le_of_ble_eq_true rfl) rfl ?_
    refine j_goto hE 22 dX6_dark_101 (by decide) ?_
    refine j_sub [(0, .ref (ad 0)), (1, .int (x1)), (2, .int (x4)), (3, .int (x3 + 1))] [3, 4, 1, 0] rfl ?_
    have hz := ih22 (x4, x3 + 1) hw
    exact hz
def wX6_dark_83 (x1 : Int32) (x2 : Int32) (x3 : Int32) (x4 : Int32) (m : MS) (KL22 : Int32 × Int32 → Prop) (K : Int32 → MS → Prop) : Prop :=
  wX6_dark_84 x1 x2 x3 x4 0 m KL22 K
set_option maxRecDepth 100000 in
theorem bX6_dark_83 {E : jE} (hE : jOk E cX6_dark RX6) (hn : E.2.2.2.2 = 6) (hR : jRoom E 4 94) {ad : Nat → Nat} (hA : adOk ad) {r : GW} {b : Nat × Nat} {K : Int32 → MS → Prop} (hK : jRi E .int (KMI ad r K)) {x1 : Int32} {x2 : Int32} {x3 : Int32} {x4 : Int32} {m : MS} {KL22 : Int32 × Int32 → Prop} (ih22 : ∀ s : Int32 × Int32, KL22 s → J E (mwX ad m r) b [(0, .ref (ad 0)), (1, .int (x1)), (2, .int (s.1)), (3, .int (s.2))] 22 []) (hw : wX6_dark_83 x1 x2 x3 x4 m KL22 K) : J E (mwX ad m r) b [(0, .ref (ad 0)), (1, .int (x1)), (2, .int (x2)), (3, .int (x3)), (4, .int (x4))] 83 [] := by
  unfold wX6_dark_83 at hw
  refine j_iconst hE dX6_dark_83 kc_0 ?_
  exact bX6_dark_84 hE hn hR hA hK ih22 hw
def wX6_dark_79 (x1 : Int32) (x2 : Int32) (x3 : Int32) (x4 : Int32) (m : MS) (KL22 : Int32 × Int32 → Prop) (K : Int32 → MS → Prop) : Prop :=
  wX6_dark_84 x1 x2 x3 x4 1 m KL22 K
set_option maxRecDepth 100000 in
theorem bX6_dark_79 {E : jE} (hE : jOk E cX6_dark RX6) (hn : E.2.2.2.2 = 6) (hR : jRoom E 4 94) {ad : Nat → Nat} (hA : adOk ad) {r : GW} {b : Nat × Nat} {K : Int32 → MS → Prop} (hK : jRi E .int (KMI ad r K)) {x1 : Int32} {x2 : Int32} {x3 : Int32} {x4 : Int32} {m : MS} {KL22 : Int32 × Int32 → Prop} (ih22 : ∀ s : Int32 × Int32, KL22 s → J E (mwX ad m r) b [(0, .ref (ad 0)), (1, .int (x1)), (2, .int (s.1)), (3, .int (s.2))] 22 []) (hw : wX6_dark_79 x1 x2 x3 x4 m KL22 K) : J E (mwX ad m r) b [(0, .ref (ad 0)), (1, .int (x1)), (2, .int (x2)), (3, .int (x3)), (4, .int (x4))] 79 [] := by
  unfold wX6_dark_79 at hw
  refine j_iconst hE dX6_dark_79 kc_1 ?_
  refine j_goto hE 84 dX6_dark_80 (by decide) ?_
  exact bX6_dark_84 hE hn hR hA hK ih22 hw
def wX6_dark_22_b (x1 : Int32) (x2 : Int32) (x3 : Int32) (m : MS) (KL22 : Int32 × Int32 → Prop) (K : Int32 → MS → Prop) : Prop :=
  ((nI 10) ≤ x3 → (K x2 m)) ∧ (¬ (nI 10) ≤ x3 → (wX6_seersOf 0 x3 m (fun r2 => (¬ ((ishr x1 x3) &&& 1) = 1 → (wX6_dark_83 x1 x2 x3 r2 m KL22 K)) ∧ (((ishr x1 x3) &&& 1) = 1 → ((x2 < 0 → (wX6_dark_79 x1 x2 x3 r2 m KL22 K)) ∧ (¬ x2 < 0 → (wX6_bits r2 (fun r5 => wX6_bits x2 (fun r6 => (r5 < r6 → (wX6_dark_79 x1 x2 x3 r2 m KL22 K)) ∧ (¬ r5 < r6 → (wX6_bits r2 (fun r8 => wX6_bits x2 (fun r9 => (¬ r8 = r9 → (wX6_dark_83 x1 x2 x3 r2 m KL22 K)) ∧ (r8 = r9 → ((x2 ≤ r2 → (wX6_dark_83 x1 x2 x3 r2 m KL22 K)) ∧ (¬ x2 ≤ r2 → (wX6_dark_79 x1 x2 x3 r2 m KL22 K)))))))))))))))))
def wX6_dark_22 (x1 : Int32) (x2 : Int32) (x3 : Int32) (m : MS) (K : Int32 → MS → Prop) : Prop := lfp (σ := Int32 × Int32) (fun KL s => wX6_dark_22_b x1 s.1 s.2 m KL K) (x2, x3)
set_option maxRecDepth 100000 in
theorem bX6_dark_22 {E : jE} (hE : jOk E cX6_dark RX6) (hn : E.2.2.2.2 = 6) (hR : jRoom E 4 94) {ad : Nat → Nat} (hA : adOk ad) {r : GW} {b : Nat × Nat} {K : Int32 → MS → Prop} (hK : jRi E .int (KMI ad r K)) {x1 : Int32} {x2 : Int32} {x3 : Int32} {m : MS}  (hw : wX6_dark_22 x1 x2 x3 m K) : J E (mwX ad m r) b [(0, .ref (ad 0)), (1, .int (x1)), (2, .int (x2)), (3, .int (x3))] 22 [] := by
  refine lfp_sound (σ := Int32 × Int32) (F := fun KL s => wX6_dark_22_b x1 s.1 s.2 m KL K) (P := fun s => J E (mwX ad m r) b [(0, .ref (ad 0)), (1, .int (x1)), (2, .int (s.1)), (3, .int (s.2))] 22 []) ?_ hw
  clear hw
  rintro KL22 ⟨x2, x3⟩ hw ih22
  have hw : wX6_dark_22_b x1 x2 x3 m KL22 K := hw
  unfold wX6_dark_22_b at hw
  refine j_iload_n hE 3 dX6_dark_22 rfl rfl ?_
  refine j_bipush hE dX6_dark_23 kb_10 ?_
  refine j_icmp_ge hE 104 dX6_dark_25 (by decide) (fun c1 => ?_) (fun c1 => ?_)
  · have hw := hw.1 c1
    refine j_iload_n hE 2 dX6_dark_104 rfl rfl ?_
    exact j_iret hE hK dX6_dark_105 rfl ⟨_, rfl, hw⟩
  · have hw := hw.2 c1
    refine j_aload_n hE 0 dX6_dark_28 rfl rfl ?_
    refine j_iconst hE dX6_dark_29 kc_0 ?_
    refine j_iload_n hE 3 dX6_dark_30 rfl rfl ?_
    refine jm_pI hE hA hR (As := [.int (0), .int (x3)]) (rest := []) (ctX6_seersOf E.1.2.1 E.2.2.1 hA _ _ _ _  _ hw) rfl lkX6_seersOf jdX6_seersOf ⟨Nat.le_of_ble_eq_true rfl, Nat.le_of_ble_eq_true rfl⟩ rfl (Nat.le_of_ble_eq_true rfl) dX6_dark_31 (fun r2 hw => ?_)
    refine j_istore (L' := [(4, .int (r2)), (0, .ref (ad 0)), (1, .int (x1)), (2, .int (x2)), (3, .int (x3))]) hE hn dX6_dark_34 (Nat.le_of_ble_eq_true rfl) rfl ?_
    refine j_iload_n hE 2 dX6_dark_36 rfl rfl ?_
    refine j_iload_n hE 4 dX6_dark_37 rfl rfl ?_
    refine j_ishr hE dX6_dark_38 ?_
    refine j_iconst hE dX6_dark_39 kc_1 ?_
    refine j_iand hE dX6_dark_40 ?_
    refine j_iconst hE dX6_dark_41 kc_1 ?_
    refine j_icmp_ne hE 83 dX6_dark_42 (by decide) (fun c3 => ?_) (fun c3 => ?_)
    · have hw := hw.1 c3
      refine j_sub [(0, .ref (ad 0)), (1, .int (x1)), (2, .int (x2)), (3, .int (x3)), (4, .int (r2))] [1, 2, 3, 4, 0] rfl ?_
      exact bX6_dark_83 hE hn hR hA hK ih22 hw
    · have hw := hw.2 c3
      refine j_iload_n hE 3 dX6_dark_45 rfl rfl ?_
      refine j_if_lt hE 79 dX6_dark_46 (by decide) (fun c4 => ?_) (fun c4 => ?_)
      · have hw := hw.1 c4
        refine j_sub [(0, .ref (ad 0)), (1, .int (x1)), (2, .int (x2)), (3, .int (x3)), (4, .int (r2))] [1, 2, 3, 4, 0] rfl ?_
        exact bX6_dark_79 hE hn hR hA hK ih22 hw
      · have hw := hw.2 c4
        refine j_iload hE 0 dX6_dark_49 rfl ?_
        refine j_psI hE hR (As := [.int (r2)]) (rest := []) (ctX6_bits E.1.2.1 E.2.2.1 _ _  _ hw) lkX6_bits jdX6_bits ⟨Nat.le_of_ble_eq_true rfl, Nat.le_of_ble_eq_true rfl⟩ rfl (Nat.le_of_ble_eq_true rfl) dX6_dark_51 (fun r5 hw => ?_)
        refine j_iload_n hE 3 dX6_dark_54 rfl rfl ?_
        refine j_psI hE hR (As := [.int (x2)]) (rest := [.int (r5)]) (ctX6_bits E.1.2.1 E.2.2.1 _ _  _ hw) lkX6_bits jdX6_bits ⟨Nat.le_of_ble_eq_true rfl, Nat.le_of_ble_eq_true rfl⟩ rfl (Nat.le_of_ble_eq_true rfl) dX6_dark_55 (fun r6 hw => ?_)
        refine j_icmp_lt hE 79 dX6_dark_58 (by decide) (fun c7 => ?_) (fun c7 => ?_)
        · have hw := hw.1 c7
          refine j_sub [(0, .ref (ad 0)), (1, .int (x1)), (2, .int (x2)), (3, .int (x3)), (4, .int (r2))] [1, 2, 3, 4, 0] rfl ?_
          exact bX6_dark_79 hE hn hR hA hK ih22 hw
        · have hw := hw.2 c7
          refine j_iload hE 0 dX6_dark_61 rfl ?_
          refine j_psI hE hR (As := [.int (r2)]) (rest := []) (ctX6_bits E.1.2.1 E.2.2.1 _ _  _ hw) lkX6_bits jdX6_bits ⟨Nat.le_of_ble_eq_true rfl, Nat.le_of_ble_eq_true rfl⟩ rfl (Nat.le_of_ble_eq_true rfl) dX6_dark_63 (fun r8 hw => ?_)
          refine j_iload_n hE 3 dX6_dark_66 rfl rfl ?_
          refine j_psI hE hR (As := [.int (x2)]) (rest := [.int (r8)]) (ctX6_bits E.1.2.1 E.2.2.1 _ _  _ hw) lkX6_bits jdX6_bits ⟨Nat.le_of_ble_eq_true rfl, Nat.le_of_ble_eq_true rfl⟩ rfl (Nat.le_of_ble_eq_true rfl) dX6_dark_67 (fun r9 hw => ?_)
          refine j_icmp_ne hE 83 dX6_dark_70 (by decide) (fun c10 => ?_) (fun c10 => ?_)
          · have hw := hw.1 c10
            refine j_sub [(0, .ref (ad 0)), (1, .int (x1)), (2, .int (x2)), (3, .int (x3)), (4, .int (r2))] [1, 2, 3, 4, 0] rfl ?_
            exact bX6_dark_83 hE hn hR hA hK ih22 hw
          · have hw := hw.2 c10
            refine j_iload hE 0 dX6_dark_73 rfl ?_
            refine j_iload_n hE 3 dX6_dark_75 rfl rfl ?_
            refine j_icmp_ge hE 83 dX6_dark_76 (by decide) (fun c11 => ?_) (fun c11 => ?_)
            · have hw := hw.1 c11
              refine j_sub [(0, .ref (ad 0)), (1, .int (x1)), (2, .int (x2)), (3, .int (x3)), (4, .int (r2))] [1, 2, 3, 4, 0] rfl ?_
              exact bX6_dark_83 hE hn hR hA hK ih22 hw
            · have hw := hw.2 c11
              refine j_sub [(0, .ref (ad 0)), (1, .int (x1)), (2, .int (x2)), (3, .int (x3)), (4, .int (r2))] [1, 2, 3, 4, 0] rfl ?_
              exact bX6_dark_79 hE hn hR hA hK ih22 hw
def wX6_dark_0 (x1 : Int32) (m : MS) (K : Int32 → MS → Prop) : Prop :=
  ∀ m1 : MS, m1 = sF m 0 0 → (wX6_within x1 1 (nI 1023) (fun r2 => (¬ r2 = 0 → (wX6_dark_22 x1 ((-1)) 0 m1 K)) ∧ (r2 = 0 → (K ((-1)) m1))))
set_option maxRecDepth 100000 in
theorem bX6_dark_0 {E : jE} (hE : jOk E cX6_dark RX6) (hn : E.2.2.2.2 = 6) (hR : jRoom E 4 94) {ad : Nat → Nat} (hA : adOk ad) {r : GW} {b : Nat × Nat} {K : Int32 → MS → Prop} (hK : jRi E .int (KMI ad r K)) {x1 : Int32} {m : MS}  (hw : wX6_dark_0 x1 m K) : J E (mwX ad m r) b [(0, .ref (ad 0)), (1, .int (x1))] 0 [] := by
  unfold wX6_dark_0 at hw
  refine j_aload_n hE 0 dX6_dark_0 rfl rfl ?_
  refine j_iconst hE dX6_dark_1 kc_0 ?_
  refine jm_putF hE hA 0 0 (Nat.le_of_ble_eq_true rfl) q1647 rfl rfl (mset_0 _ _ _) rfl rfl dX6_dark_2 ?_
  refine j_wm (fun m1 e_m1 => ?_)
  have hw := hw m1 e_m1
  refine j_iload_n hE 1 dX6_dark_5 rfl rfl ?_
  refine j_iconst hE dX6_dark_6 kc_1 ?_
  refine j_sipush hE dX6_dark_7 ks_1023 ?_
  refine j_psI hE hR (As := [.int (x1), .int (1), .int (nI 1023)]) (rest := []) (ctX6_within E.1.2.1 E.2.2.1 _ _ _ _  _ hw) lkX6_within jdX6_within ⟨Nat.le_of_ble_eq_true rfl, Nat.le_of_ble_eq_true rfl⟩ rfl (Nat.le_of_ble_eq_true rfl) dX6_dark_10 (fun r2 hw => ?_)
  refine j_if_ne hE 18 dX6_dark_13 (by decide) (fun c3 => ?_) (fun c3 => ?_)
  · have hw := hw.1 c3
    refine j_iconst hE dX6_dark_18 kc_m1 ?_
    refine j_istore_n (L' := [(2, .int ((-1))), (0, .ref (ad 0)), (1, .int (x1))]) hE hn dX6_dark_19 rfl (Nat.le_of_ble_eq_true rfl) rfl ?_
    refine j_iconst hE dX6_dark_20 kc_0 ?_
    refine j_istore_n (L' := [(3, .int (0)), (2, .int ((-1))), (0, .ref (ad 0)), (1, .int (x1))]) hE hn dX6_dark_21 rfl (Nat.le_of_ble_eq_true rfl) rfl ?_
    refine j_sub [(0, .ref (ad 0)), (1, .int (x1)), (2, .int ((-1))), (3, .int (0))] [2, 3, 1, 0] rfl ?_
    exact bX6_dark_22 hE hn hR hA hK  hw
  · have hw := hw.2 c3
    refine j_iconst hE dX6_dark_16 kc_m1 ?_
    exact j_iret hE hK dX6_dark_17 rfl ⟨_, rfl, hw⟩
abbrev wX6_dark := wX6_dark_0
theorem ctX6_dark (l : Launch) (G : gG) {ad : Nat → Nat} (hA : adOk ad) (m0 : MS) (r : GW) (x1 : Int32) (K : Int32 → MS → Prop) (hw : wX6_dark x1 m0 K) : CtI l yX6_dark cX6_dark 6 .int ({ frames := 4, cells := 0, slots := 0, locals := 94 }) G [.ref (ad 0), .int (x1)] (mwX ad m0 r) (KMI ad r K) :=
  CtI.of RX6 plain_X6 rfl (Nat.le_of_ble_eq_true rfl) (fun E hE _ _ hn hR hK => bX6_dark_0 hE hn hR hA hK hw)
theorem jdX6_dark : jD yX6_dark 1 := by decide +kernel
def wX6_say_0 (x1 : Int32) (x2 : Int32) (m : MS) (K : Int32 → MS → Prop) : Prop :=
  ∀ m1 : MS, m1 = sF m 0 0 → (wX6_isPane x1 m1 (fun r2 => (¬ r2 = 0 → ((x2 = 0 → (vp_in ((nI 60) + x1) 1518 ∧ (∀ m6 : MS, m6 = wA m1 11 ((nI 60) + x1) 0 → (K 1 m6)))) ∧ (¬ x2 = 0 → (vp_in ((nI 60) + x1) 1518 ∧ (∀ m8 : MS, m8 = wA m1 11 ((nI 60) + x1) 1 → (K 1 m8)))))) ∧ (r2 = 0 → (K 0 m1))))
set_option maxRecDepth 100000 in
theorem bX6_say_0 {E : jE} (hE : jOk E cX6_say RX6) (hn : E.2.2.2.2 = 3) (hR : jRoom E 2 41) {ad : Nat → Nat} (hA : adOk ad) {r : GW} {b : Nat × Nat} {K : Int32 → MS → Prop} (hK : jRi E .boolean (KMI ad r K)) {x1 : Int32} {x2 : Int32} {m : MS}  (hw : wX6_say_0 x1 x2 m K) : J E (mwX ad m r) b [(0, .ref (ad 0)), (1, .int (x1)), (2, .int (x2))] 0 [] := by
  unfold wX6_say_0 at hw
  refine j_aload_n hE 0 dX6_say_0 rfl rfl ?_
  refine j_iconst hE dX6_say_1 kc_0 ?_
  refine jm_putF hE hA 0 0 (Nat.le_of_ble_eq_true rfl) q1647 rfl rfl (mset_0 _ _ _) rfl rfl dX6_say_2 ?_
  refine j_wm (fun m1 e_m1 => ?_)
  have hw := hw m1 e_m1
  refine j_aload_n hE 0 dX6_say_5 rfl rfl ?_
  refine j_iload_n hE 1 dX6_say_6 rfl rfl ?_
  refine jm_pI hE hA hR (As := [.int (x1)]) (rest := []) (ctX6_isPane E.1.2.1 E.2.2.1 hA _ _ _  _ hw) rfl lkX6_isPane jdX6_isPane ⟨Nat.le_of_ble_eq_true rfl, Nat.le_of_ble_eq_true rfl⟩ rfl (Nat.le_of_ble_eq_true rfl) dX6_say_7 (fun r2 hw => ?_)
  refine j_if_ne hE 15 dX6_say_10 (by decide) (fun c3 => ?_) (fun c3 => ?_)
  · have hw := hw.1 c3
    refine j_aload_n hE 0 dX6_say_15 rfl rfl ?_
    refine jm_get hE hA 24 (Nat.le_of_ble_eq_true rfl) q1671 rfl (v := .ref (ad 12)) rfl dX6_say_16 ?_
    refine j_bipush hE dX6_say_19 kb_60 ?_
    refine j_iload_n hE 1 dX6_say_21 rfl rfl ?_
    refine j_iadd hE dX6_say_22 ?_
    refine j_iload_n hE 2 dX6_say_23 rfl rfl ?_
    refine j_if_eq hE 31 dX6_say_24 (by decide) (fun c4 => ?_) (fun c4 => ?_)
    · have hw := hw.1 c4
      refine j_iconst hE dX6_say_31 kc_0 ?_
      obtain ⟨h5, hw⟩ := hw
      refine jm_iast hE hA 11 (Nat.le_of_ble_eq_true rfl) h5 dX6_say_32 ?_
      refine j_wm (fun m6 e_m6 => ?_)
      have hw := hw m6 e_m6
      refine j_iconst hE dX6_say_33 kc_1 ?_
      exact j_iret hE hK dX6_say_34 rfl ⟨_, rfl, hw⟩
    · have hw := hw.2 c4
      refine j_iconst hE dX6_say_27 kc_1 ?_
      refine j_goto hE 32 dX6_say_28 (by decide) ?_
      obtain ⟨h7, hw⟩ := hw
      refine jm_iast hE hA 11 (Nat.le_of_ble_eq_true rfl) h7 dX6_say_32 ?_
      refine j_wm (fun m8 e_m8 => ?_)
      have hw := hw m8 e_m8
      refine j_iconst hE dX6_say_33 kc_1 ?_
      exact j_iret hE hK dX6_say_34 rfl ⟨_, rfl, hw⟩
  · have hw := hw.2 c3
    refine j_iconst hE dX6_say_13 kc_0 ?_
    exact j_iret hE hK dX6_say_14 rfl ⟨_, rfl, hw⟩
abbrev wX6_say := wX6_say_0
theorem ctX6_say (l : Launch) (G : gG) {ad : Nat → Nat} (hA : adOk ad) (m0 : MS) (r : GW) (x1 : Int32) (x2 : Int32) (K : Int32 → MS → Prop) (hw : wX6_say x1 x2 m0 K) : CtI l yX6_say cX6_say 3 .boolean ({ frames := 2, cells := 0, slots := 0, locals := 41 }) G [.ref (ad 0), .int (x1), .int (x2)] (mwX ad m0 r) (KMI ad r K) :=
  CtI.of RX6 plain_X6 rfl (Nat.le_of_ble_eq_true rfl) (fun E hE _ _ hn hR hK => bX6_say_0 hE hn hR hA hK hw)
theorem jdX6_say : jD yX6_say 2 := by decide +kernel
def wX6_cellsNow_68 (x1 : Int32) (x2 : Int32) (x4 : Int32) (s0 : Int32) (s1 : Int32) (m0 : MS) (KL4 : Int32 × Int32 → Prop) (KL15 : Int32 × Int32 → Prop) (K : Int32 → Prop) : Prop :=
  (¬ s0 = s1 → (KL15 (0, x4 + 1))) ∧ (s0 = s1 → (KL15 (1, x4 + 1)))
set_option maxRecDepth 100000 in
theorem bX6_cellsNow_68 {E : jE} (hE : jOk E cX6_cellsNow RX6) (hn : E.2.2.2.2 = 5) (hR : jRoom E 3 70) {ad : Nat → Nat} (hA : adOk ad) {r : GW} {m0 : MS} {b : Nat × Nat} {K : Int32 → Prop} (hK : jRi E .int (KPI (mwX ad m0 r) K)) {x1 : Int32} {x2 : Int32} {x4 : Int32} {s0 : Int32} {s1 : Int32} {KL4 : Int32 × Int32 → Prop} {KL15 : Int32 × Int32 → Prop} (ih4 : ∀ s : Int32 × Int32, KL4 s → J E (mwX ad m0 r) b [(0, .ref (ad 0)), (1, .int (s.1)), (2, .int (s.2))] 4 []) (ih15 : ∀ s : Int32 × Int32, KL15 s → J E (mwX ad m0 r) b [(0, .ref (ad 0)), (1, .int (x1)), (2, .int (x2)), (3, .int (s.1)), (4, .int (s.2))] 15 []) (hw : wX6_cellsNow_68 x1 x2 x4 s0 s1 m0 KL4 KL15 K) : J E (mwX ad m0 r) b [(0, .ref (ad 0)), (1, .int (x1)), (2, .int (x2)), (4, .int (x4))] 68 [.int (s1), .int (s0)] := by
  unfold wX6_cellsNow_68 at hw
  refine j_icmp_ne hE 75 dX6_cellsNow_68 (by decide) (fun c1 => ?_) (fun c1 => ?_)
  · have hw := hw.1 c1
    refine j_iconst hE dX6_cellsNow_75 kc_0 ?_
    refine j_istore_n (L' := [(3, .int (0)), (0, .ref (ad 0)), (1, .int (x1)), (2, .int (x2)), (4, .int (x4))]) hE hn dX6_cellsNow_76 rfl (Nat.le_of_ble_eq_true rfl) rfl ?_
    refine j_iinc (L' := [(4, .int (x4 + 1)), (3, .int (0)), (0, .ref (ad 0)), (1, .int (x1)), (2, .int (x2))]) hE hn 4 dX6_cellsNow_77 rfl (congrArg (x4 + ·) kc_1) (Nat.le_of_ble_eq_true rfl) rfl ?_
    refine j_goto hE 15 dX6_cellsNow_80 (by decide) ?_
    refine j_sub [(0, .ref (ad 0)), (1, .int (x1)), (2, .int (x2)), (3, .int (0)), (4, .int (x4 + 1))] [2, 3, 4, 1, 0] rfl ?_
    have hz := ih15 (0, x4 + 1) hw
    exact hz
  · have hw := hw.2 c1
    refine j_iconst hE dX6_cellsNow_71 kc_1 ?_
    refine j_goto hE 76 dX6_cellsNow_72 (by decide) ?_
    refine j_istore_n (L' := [(3, .int (1)), (0, .ref (ad 0)), (1, .int (x1)), (2, .int (x2)), (4, .int (x4))]) hE hn dX6_cellsNow_76 rfl (Nat.le_of_ble_eq_true rfl) rfl ?_
    refine j_iinc (L' := [(4, .int (x4 + 1)), (3, .int (1)), (0, .ref (ad 0)), (1, .int (x1)), (2, .int (x2))]) hE hn 4 dX6_cellsNow_77 rfl (congrArg (x4 + ·) kc_1) (Nat.le_of_ble_eq_true rfl) rfl ?_
    refine j_goto hE 15 dX6_cellsNow_80 (by decide) ?_
    refine j_sub [(0, .ref (ad 0)), (1, .int (x1)), (2, .int (x2)), (3, .int (1)), (4, .int (x4 + 1))] [2, 3, 4, 1, 0] rfl ?_
    have hz := ih15 (1, x4 + 1) hw
    exact hz
def wX6_cellsNow_15_b (x1 : Int32) (x2 : Int32) (x3 : Int32) (x4 : Int32) (m0 : MS) (KL15 : Int32 × Int32 → Prop) (KL4 : Int32 × Int32 → Prop) (K : Int32 → Prop) : Prop :=
  wX6_panes  m0 (fun r1 => (r1 ≤ x4 → ((x3 = 0 → (∀ v4 : Int32, v4 = x1 ||| 0 → (KL4 (v4, x2 + 1)))) ∧ (¬ x3 = 0 → (∀ v5 : Int32, v5 = x1 ||| (ishl 1 x2) → (KL4 (v5, x2 + 1)))))) ∧ (¬ r1 ≤ x4 → ((x3 = 0 → (KL15 (0, x4 + 1))) ∧ (¬ x3 = 0 → (vp_in ((nI 60) + x4) 1518 ∧ (((rd (gA m0 11) ((nI 60) + x4)) < 0 → (KL15 (1, x4 + 1))) ∧ (¬ (rd (gA m0 11) ((nI 60) + x4)) < 0 → (wX6_doesSee 0 x4 x2 m0 (fun r9 => vp_in ((nI 60) + x4) 1518 ∧ ((¬ (rd (gA m0 11) ((nI 60) + x4)) = 1 → (wX6_cellsNow_68 x1 x2 x4 r9 0 m0 KL4 KL15 K)) ∧ ((rd (gA m0 11) ((nI 60) + x4)) = 1 → (wX6_cellsNow_68 x1 x2 x4 r9 1 m0 KL4 KL15 K))))))))))))
def wX6_cellsNow_15 (x1 : Int32) (x2 : Int32) (x3 : Int32) (x4 : Int32) (m0 : MS) (KL4 : Int32 × Int32 → Prop) (K : Int32 → Prop) : Prop := lfp (σ := Int32 × Int32) (fun KL s => wX6_cellsNow_15_b x1 x2 s.1 s.2 m0 KL KL4 K) (x3, x4)
set_option maxRecDepth 100000 in
theorem bX6_cellsNow_15 {E : jE} (hE : jOk E cX6_cellsNow RX6) (hn : E.2.2.2.2 = 5) (hR : jRoom E 3 70) {ad : Nat → Nat} (hA : adOk ad) {r : GW} {m0 : MS} {b : Nat × Nat} {K : Int32 → Prop} (hK : jRi E .int (KPI (mwX ad m0 r) K)) {x1 : Int32} {x2 : Int32} {x3 : Int32} {x4 : Int32} {KL4 : Int32 × Int32 → Prop} (ih4 : ∀ s : Int32 × Int32, KL4 s → J E (mwX ad m0 r) b [(0, .ref (ad 0)), (1, .int (s.1)), (2, .int (s.2))] 4 []) (hw : wX6_cellsNow_15 x1 x2 x3 x4 m0 KL4 K) : J E (mwX ad m0 r) b [(0, .ref (ad 0)), (1, .int (x1)), (2, .int (x2)), (3, .int (x3)), (4, .int (x4))] 15 [] := by
  refine lfp_sound (σ := Int32 × Int32) (F := fun KL s => wX6_cellsNow_15_b x1 x2 s.1 s.2 m0 KL KL4 K) (P := fun s => J E (mwX ad m0 r) b [(0, .ref (ad 0)), (1, .int (x1)), (2, .int (x2)), (3, .int (s.1)), (4, .int (s.2))] 15 []) ?_ hw
  clear hw
  rintro KL15 ⟨x3, x4⟩ hw ih15
  have hw : wX6_cellsNow_15_b x1 x2 x3 x4 m0 KL15 KL4 K := hw
  unfold wX6_cellsNow_15_b at hw
  refine j_iload hE 4 dX6_cellsNow_15 rfl ?_
  refine j_aload_n hE 0 dX6_cellsNow_17 rfl rfl ?_
  refine jm_pI hE hA hR (As := []) (rest := [.int (x4)]) (ctX6_panes E.1.2.1 E.2.2.1 hA _ _  _ hw) rfl lkX6_panes jdX6_panes ⟨Nat.le_of_ble_eq_true rfl, Nat.le_of_ble_eq_true rfl⟩ rfl (Nat.le_of_ble_eq_true rfl) dX6_cellsNow_18 (fun r1 hw => ?_)
  refine j_icmp_ge hE 83 dX6_cellsNow_21 (by decide) (fun c2 => ?_) (fun c2 => ?_)
  · have hw := hw.1 c2
    refine j_iload_n hE 1 dX6_cellsNow_83 rfl rfl ?_
    refine j_iload_n hE 3 dX6_cellsNow_84 rfl rfl ?_
    refine j_if_eq hE 94 dX6_cellsNow_85 (by decide) (fun c3 => ?_) (fun c3 => ?_)
    · have hw := hw.1 c3
      refine j_iconst hE dX6_cellsNow_94 kc_0 ?_
      refine j_ior hE dX6_cellsNow_95 ?_
      refine j_topi (fun v4 e_v4 => ?_)
      have hw := hw v4 e_v4
      refine j_istore_n (L' := [(1, .int (v4)), (0, .ref (ad 0)), (2, .int (x2)), (3, .int (x3)), (4, .int (x4))]) hE hn dX6_cellsNow_96 rfl (Nat.le_of_ble_eq_true rfl) rfl ?_
      refine j_iinc (L' := [(2, .int (x2 + 1)), (1, .int (v4)), (0, .ref (ad 0)), (3, .int (x3)), (4, .int (x4))]) hE hn 2 dX6_cellsNow_97 rfl (congrArg (x2 + ·) kc_1) (Nat.le_of_ble_eq_true rfl) rfl ?_
      refine j_goto hE 4 dX6_cellsNow_100 (by decide) ?_
      refine j_sub [(0, .ref (ad 0)), (1, .int (v4)), (2, .int (x2 + 1))] [2, 1, 0] rfl ?_
      have hz := ih4 (v4, x2 + 1) hw
      exact hz
    · have hw := hw.2 c3
      refine j_iconst hE dX6_cellsNow_88 kc_1 ?_
      refine j_iload_n hE 2 dX6_cellsNow_89 rfl rfl ?_
      refine j_ishl hE dX6_cellsNow_90 ?_
      refine j_goto hE 95 dX6_cellsNow_91 (by decide) ?_
      refine j_ior hE dX6_cellsNow_95 ?_
      refine j_topi (fun v5 e_v5 => ?_)
      have hw := hw v5 e_v5
      refine j_istore_n (L' := [(1, .int (v5)), (0, .ref (ad 0)), (2, .int (x2)), (3, .int (x3)), (4, .int (x4))]) hE hn dX6_cellsNow_96 rfl (Nat.le_of_ble_eq_true rfl) rfl ?_
      refine j_iinc (L' := [(2, .int (x2 + 1)), (1, .int (v5)), (0, .ref (ad 0)), (3, .int (x3)), (4, .int (x4))]) hE hn 2 dX6_cellsNow_97 rfl (congrArg (x2 + ·) kc_1) (Nat.le_of_ble_eq_true rfl) rfl ?_
      refine j_goto hE 4 dX6_cellsNow_100 (by decide) ?_
      refine j_sub [(0, .ref (ad 0)), (1, .int (v5)), (2, .int (x2 + 1))] [2, 1, 0] rfl ?_
      have hz := ih4 (v5, x2 + 1) hw
      exact hz
  · have hw := hw.2 c2
    refine j_iload_n hE 3 dX6_cellsNow_24 rfl rfl ?_
    refine j_if_eq hE 75 dX6_cellsNow_25 (by decide) (fun c6 => ?_) (fun c6 => ?_)
    · have hw := hw.1 c6
      refine j_iconst hE dX6_cellsNow_75 kc_0 ?_
      refine j_istore_n (L' := [(3, .int (0)), (0, .ref (ad 0)), (1, .int (x1)), (2, .int (x2)), (4, .int (x4))]) hE hn dX6_cellsNow_76 rfl (Nat.le_of_ble_eq_true rfl) rfl ?_
      refine j_iinc (L' := [(4, .int (x4 + 1)), (3, .int (0)), (0, .ref (ad 0)), (1, .int (x1)), (2, .int (x2))]) hE hn 4 dX6_cellsNow_77 rfl (congrArg (x4 + ·) kc_1) (Nat.le_of_ble_eq_true rfl) rfl ?_
      refine j_goto hE 15 dX6_cellsNow_80 (by decide) ?_
      refine j_sub [(0, .ref (ad 0)), (1, .int (x1)), (2, .int (x2)), (3, .int (0)), (4, .int (x4 + 1))] [2, 3, 4, 1, 0] rfl ?_
      have hz := ih15 (0, x4 + 1) hw
      exact hz
    · have hw := hw.2 c6
      refine j_aload_n hE 0 dX6_cellsNow_28 rfl rfl ?_
      refine jm_get hE hA 24 (Nat.le_of_ble_eq_true rfl) q1671 rfl (v := .ref (ad 12)) rfl dX6_cellsNow_29 ?_
      refine j_bipush hE dX6_cellsNow_32 kb_60 ?_
      refine j_iload hE 4 dX6_cellsNow_34 rfl ?_
      refine j_iadd hE dX6_cellsNow_36 ?_
      obtain ⟨h7, hw⟩ := hw
      refine jm_iald hE hA 11 (Nat.le_of_ble_eq_true rfl) h7 dX6_cellsNow_37 ?_
      refine j_if_lt hE 71 dX6_cellsNow_38 (by decide) (fun c8 => ?_) (fun c8 => ?_)
      · have hw := hw.1 c8
        refine j_iconst hE dX6_cellsNow_71 kc_1 ?_
        refine j_goto hE 76 dX6_cellsNow_72 (by decide) ?_
        refine j_istore_n (L' := [(3, .int (1)), (0, .ref (ad 0)), (1, .int (x1)), (2, .int (x2)), (4, .int (x4))]) hE hn dX6_cellsNow_76 rfl (Nat.le_of_ble_eq_true rfl) rfl ?_
        refine j_iinc (L' := [(4, .int (x4 + 1)), (3, .int (1)), (0, .ref (ad 0)), (1, .int (x1)), (2, .int (x2))]) hE hn 4 dX6_cellsNow_77 rfl (congrArg (x4 + ·) kc_1) (Nat.le_of_ble_eq_true rfl) rfl ?_
        refine j_goto hE 15 dX6_cellsNow_80 (by decide) ?_
        refine j_sub [(0, .ref (ad 0)), (1, .int (x1)), (2, .int (x2)), (3, .int (1)), (4, .int (x4 + 1))] [2, 3, 4, 1, 0] rfl ?_
        have hz := ih15 (1, x4 + 1) hw
        exact hz
      · have hw := hw.2 c8
        refine j_aload_n hE 0 dX6_cellsNow_41 rfl rfl ?_
        refine j_iconst hE dX6_cellsNow_42 kc_0 ?_
        refine j_iload hE 4 dX6_cellsNow_43 rfl ?_
        refine j_iload_n hE 2 dX6_cellsNow_45 rfl rfl ?_
        refine jm_pI hE hA hR (As := [.int (0), .int (x4), .int (x2)]) (rest := []) (ctX6_doesSee E.1.2.1 E.2.2.1 hA _ _ _ _ _  _ hw) rfl lkX6_doesSee jdX6_doesSee ⟨Nat.le_of_ble_eq_true rfl, Nat.le_of_ble_eq_true rfl⟩ rfl (Nat.le_of_ble_eq_true rfl) dX6_cellsNow_46 (fun r9 hw => ?_)
        refine j_aload_n hE 0 dX6_cellsNow_49 rfl rfl ?_
        refine jm_get hE hA 24 (Nat.le_of_ble_eq_true rfl) q1671 rfl (v := .ref (ad 12)) rfl dX6_cellsNow_50 ?_
        refine j_bipush hE dX6_cellsNow_53 kb_60 ?_
        refine j_iload hE 4 dX6_cellsNow_55 rfl ?_
        refine j_iadd hE dX6_cellsNow_57 ?_
        obtain ⟨h10, hw⟩ := hw
        refine jm_iald hE hA 11 (Nat.le_of_ble_eq_true rfl) h10 dX6_cellsNow_58 ?_
        refine j_iconst hE dX6_cellsNow_59 kc_1 ?_
        refine j_icmp_ne hE 67 dX6_cellsNow_60 (by decide) (fun c11 => ?_) (fun c11 => ?_)
        · have hw := hw.1 c11
          refine j_iconst hE dX6_cellsNow_67 kc_0 ?_
          refine j_sub [(0, .ref (ad 0)), (1, .int (x1)), (2, .int (x2)), (4, .int (x4))] [0, 1, 2, 4] rfl ?_
          exact bX6_cellsNow_68 hE hn hR hA hK ih4 ih15 hw
        · have hw := hw.2 c11
          refine j_iconst hE dX6_cellsNow_63 kc_1 ?_
          refine j_goto hE 68 dX6_cellsNow_64 (by decide) ?_
          refine j_sub [(0, .ref (ad 0)), (1, .int (x1)), (2, .int (x2)), (4, .int (x4))] [0, 1, 2, 4] rfl ?_
          exact bX6_cellsNow_68 hE hn hR hA hK ih4 ih15 hw
def wX6_cellsNow_4_b (x1 : Int32) (x2 : Int32) (m0 : MS) (KL4 : Int32 × Int32 → Prop) (K : Int32 → Prop) : Prop :=
  ((nI 10) ≤ x2 → (K x1)) ∧ (¬ (nI 10) ≤ x2 → (wX6_cellsNow_15 x1 x2 1 0 m0 KL4 K))
def wX6_cellsNow_4 (x1 : Int32) (x2 : Int32) (m0 : MS) (K : Int32 → Prop) : Prop := lfp (σ := Int32 × Int32) (fun KL s => wX6_cellsNow_4_b s.1 s.2 m0 KL K) (x1, x2)
set_option maxRecDepth 100000 in
theorem bX6_cellsNow_4 {E : jE} (hE : jOk E cX6_cellsNow RX6) (hn : E.2.2.2.2 = 5) (hR : jRoom E 3 70) {ad : Nat → Nat} (hA : adOk ad) {r : GW} {m0 : MS} {b : Nat × Nat} {K : Int32 → Prop} (hK : jRi E .int (KPI (mwX ad m0 r) K)) {x1 : Int32} {x2 : Int32}  (hw : wX6_cellsNow_4 x1 x2 m0 K) : J E (mwX ad m0 r) b [(0, .ref (ad 0)), (1, .int (x1)), (2, .int (x2))] 4 [] := by
  refine lfp_sound (σ := Int32 × Int32) (F := fun KL s => wX6_cellsNow_4_b s.1 s.2 m0 KL K) (P := fun s => J E (mwX ad m0 r) b [(0, .ref (ad 0)), (1, .int (s.1)), (2, .int (s.2))] 4 []) ?_ hw
  clear hw
  rintro KL4 ⟨x1, x2⟩ hw ih4
  have hw : wX6_cellsNow_4_b x1 x2 m0 KL4 K := hw
  unfold wX6_cellsNow_4_b at hw
  refine j_iload_n hE 2 dX6_cellsNow_4 rfl rfl ?_
  refine j_bipush hE dX6_cellsNow_5 kb_10 ?_
  refine j_icmp_ge hE 103 dX6_cellsNow_7 (by decide) (fun c1 => ?_) (fun c1 => ?_)
  · have hw := hw.1 c1
    refine j_iload_n hE 1 dX6_cellsNow_103 rfl rfl ?_
    exact j_iret hE hK dX6_cellsNow_104 rfl ⟨rfl, hw⟩
  · have hw := hw.2 c1
    refine j_iconst hE dX6_cellsNow_10 kc_1 ?_
    refine j_istore_n (L' := [(3, .int (1)), (0, .ref (ad 0)), (1, .int (x1)), (2, .int (x2))]) hE hn dX6_cellsNow_11 rfl (Nat.le_of_ble_eq_true rfl) rfl ?_
    refine j_iconst hE dX6_cellsNow_12 kc_0 ?_
    refine j_istore (L' := [(4, .int (0)), (3, .int (1)), (0, .ref (ad 0)), (1, .int (x1)), (2, .int (x2))]) hE hn dX6_cellsNow_13 (Nat.le_of_ble_eq_true rfl) rfl ?_
    refine j_sub [(0, .ref (ad 0)), (1, .int (x1)), (2, .int (x2)), (3, .int (1)), (4, .int (0))] [2, 3, 4, 1, 0] rfl ?_
    exact bX6_cellsNow_15 hE hn hR hA hK ih4 hw
def wX6_cellsNow_0 (m0 : MS) (K : Int32 → Prop) : Prop :=
  wX6_cellsNow_4 0 0 m0 K
set_option maxRecDepth 100000 in
theorem bX6_cellsNow_0 {E : jE} (hE : jOk E cX6_cellsNow RX6) (hn : E.2.2.2.2 = 5) (hR : jRoom E 3 70) {ad : Nat → Nat} (hA : adOk ad) {r : GW} {m0 : MS} {b : Nat × Nat} {K : Int32 → Prop} (hK : jRi E .int (KPI (mwX ad m0 r) K))   (hw : wX6_cellsNow_0 m0 K) : J E (mwX ad m0 r) b [(0, .ref (ad 0))] 0 [] := by
  unfold wX6_cellsNow_0 at hw
  refine j_iconst hE dX6_cellsNow_0 kc_0 ?_
  refine j_istore_n (L' := [(1, .int (0)), (0, .ref (ad 0))]) hE hn dX6_cellsNow_1 rfl (Nat.le_of_ble_eq_true rfl) rfl ?_
  refine j_iconst hE dX6_cellsNow_2 kc_0 ?_
  refine j_istore_n (L' := [(2, .int (0)), (1, .int (0)), (0, .ref (ad 0))]) hE hn dX6_cellsNow_3 rfl (Nat.le_of_ble_eq_true rfl) rfl ?_
  refine j_sub [(0, .ref (ad 0)), (1, .int (0)), (2, .int (0))] [2, 1, 0] rfl ?_
  exact bX6_cellsNow_4 hE hn hR hA hK  hw
abbrev wX6_cellsNow := wX6_cellsNow_0
theorem ctX6_cellsNow (l : Launch) (G : gG) {ad : Nat → Nat} (hA : adOk ad) (m0 : MS) (r : GW)  (K : Int32 → Prop) (hw : wX6_cellsNow m0 K) : CtI l yX6_cellsNow cX6_cellsNow 5 .int ({ frames := 3, cells := 0, slots := 0, locals := 70 }) G [.ref (ad 0)] (mwX ad m0 r) (KPI (mwX ad m0 r) K) :=
  CtI.of RX6 plain_X6 rfl (Nat.le_of_ble_eq_true rfl) (fun E hE _ _ hn hR hK => bX6_cellsNow_0 hE hn hR hA hK hw)
theorem jdX6_cellsNow : jD yX6_cellsNow 0 := by decide +kernel
theorem lkX6_cellsNow : GoodIn lw_all (wsV RX6 377 yX6_cellsNow.cls yX6_cellsNow (ws_ yX6_cellsNow cX6_cellsNow 5 (some .int))) := lw_V q2103 q2105 qs113 q129 q2106
def wX6_where_0 (m : MS) (K : Int32 → MS → Prop) : Prop :=
  ∀ m1 : MS, m1 = sF m 0 0 → (wX6_cellsNow  m1 (fun r2 => K r2 m1))
set_option maxRecDepth 100000 in
theorem bX6_where_0 {E : jE} (hE : jOk E cX6_where RX6) (hn : E.2.2.2.2 = 1) (hR : jRoom E 4 94) {ad : Nat → Nat} (hA : adOk ad) {r : GW} {b : Nat × Nat} {K : Int32 → MS → Prop} (hK : jRi E .int (KMI ad r K)) {m : MS}  (hw : wX6_where_0 m K) : J E (mwX ad m r) b [(0, .ref (ad 0))] 0 [] := by
  unfold wX6_where_0 at hw
  refine j_aload_n hE 0 dX6_where_0 rfl rfl ?_
  refine j_iconst hE dX6_where_1 kc_0 ?_
  refine jm_putF hE hA 0 0 (Nat.le_of_ble_eq_true rfl) q1647 rfl rfl (mset_0 _ _ _) rfl rfl dX6_where_2 ?_
  refine j_wm (fun m1 e_m1 => ?_)
  have hw := hw m1 e_m1
  refine j_aload_n hE 0 dX6_where_5 rfl rfl ?_
  refine jm_pI hE hA hR (As := []) (rest := []) (ctX6_cellsNow E.1.2.1 E.2.2.1 hA _ _  _ hw) rfl lkX6_cellsNow jdX6_cellsNow ⟨Nat.le_of_ble_eq_true rfl, Nat.le_of_ble_eq_true rfl⟩ rfl (Nat.le_of_ble_eq_true rfl) dX6_where_6 (fun r2 hw => ?_)
  exact j_iret hE hK dX6_where_9 rfl ⟨_, rfl, hw⟩
abbrev wX6_where := wX6_where_0
theorem ctX6_where (l : Launch) (G : gG) {ad : Nat → Nat} (hA : adOk ad) (m0 : MS) (r : GW)  (K : Int32 → MS → Prop) (hw : wX6_where m0 K) : CtI l yX6_where cX6_where 1 .int ({ frames := 4, cells := 0, slots := 0, locals := 94 }) G [.ref (ad 0)] (mwX ad m0 r) (KMI ad r K) :=
  CtI.of RX6 plain_X6 rfl (Nat.le_of_ble_eq_true rfl) (fun E hE _ _ hn hR hK => bX6_where_0 hE hn hR hA hK hw)
theorem jdX6_where : jD yX6_where 0 := by decide +kernel
def wX6_ask_106 (x1 : Int32) (x3 : Int32) (x4 : Int32) (x6 : Int32) (x7 : Int32) (s0 : Int32) (m : MS) (KL20 : Int32 × Int32 × Int32 → Prop) (K : Int32 → MS → Prop) : Prop :=
  (x7 = 0 → (KL20 (s0, x3, x4 + 1))) ∧ (¬ x7 = 0 → (KL20 (s0, x6, x4 + 1)))
set_option maxRecDepth 100000 in
theorem bX6_ask_106 {E : jE} (hE : jOk E cX6_ask RX6) (hn : E.2.2.2.2 = 8) (hR : jRoom E 4 94) {ad : Nat → Nat} (hA : adOk ad) {r : GW} {b : Nat × Nat} {K : Int32 → MS → Prop} (hK : jRi E .int (KMI ad r K)) {x1 : Int32} {x3 : Int32} {x4 : Int32} {x6 : Int32} {x7 : Int32} {s0 : Int32} {m : MS} {KL20 : Int32 × Int32 × Int32 → Prop} (ih20 : ∀ s : Int32 × Int32 × Int32, KL20 s → J E (mwX ad m r) b [(0, .ref (ad 0)), (1, .int (x1)), (2, .int (s.1)), (3, .int (s.2.1)), (4, .int (s.2.2))] 20 []) (hw : wX6_ask_106 x1 x3 x4 x6 x7 s0 m KL20 K) : J E (mwX ad m r) b [(0, .ref (ad 0)), (1, .int (x1)), (3, .int (x3)), (4, .int (x4)), (6, .int (x6)), (7, .int (x7))] 106 [.int (s0)] := by
  unfold wX6_ask_106 at hw
  refine j_istore_n (L' := [(2, .int (s0)), (0, .ref (ad 0)), (1, .int (x1)), (3, .int (x3)), (4, .int (x4)), (6, .int (x6)), (7, .int (x7))]) hE hn dX6_ask_106 rfl (Nat.le_of_ble_eq_true rfl) rfl ?_
  refine j_iload hE 6 dX6_ask_107 rfl ?_
  refine j_if_eq hE 117 dX6_ask_109 (by decide) (fun c1 => ?_) (fun c1 => ?_)
  · have hw := hw.1 c1
    refine j_iload_n hE 3 dX6_ask_117 rfl rfl ?_
    refine j_istore_n (L' := [(3, .int (x3)), (2, .int (s0)), (0, .ref (ad 0)), (1, .int (x1)), (4, .int (x4)), (6, .int (x6)), (7, .int (x7))]) hE hn dX6_ask_118 rfl (Nat.le_of_ble_eq_true rfl) rfl ?_
    refine j_iinc (L' := [(4, .int (x4 + 1)), (3, .int (x3)), (2, .int (s0)), (0, .ref (ad 0)), (1, .int (x1)), (6, .int (x6)), (7, .int (x7))]) hE hn 4 dX6_ask_119 rfl (congrArg (x4 + ·) kc_1) (Nat.le_of_ble_eq_true rfl) rfl ?_
    refine j_goto hE 20 dX6_ask_122 (by decide) ?_
    refine j_sub [(0, .ref (ad 0)), (1, .int (x1)), (2, .int (s0)), (3, .int (x3)), (4, .int (x4 + 1))] [3, 4, 2, 1, 0] rfl ?_
    have hz := ih20 (s0, x3, x4 + 1) hw
    exact hz
  · have hw := hw.2 c1
    refine j_iload hE 5 dX6_ask_112 rfl ?_
    refine j_goto hE 118 dX6_ask_114 (by decide) ?_
    refine j_istore_n (L' := [(3, .int (x6)), (2, .int (s0)), (0, .ref (ad 0)), (1, .int (x1)), (4, .int (x4)), (6, .int (x6)), (7, .int (x7))]) hE hn dX6_ask_118 rfl (Nat.le_of_ble_eq_true rfl) rfl ?_
    refine j_iinc (L' := [(4, .int (x4 + 1)), (3, .int (x6)), (2, .int (s0)), (0, .ref (ad 0)), (1, .int (x1)), (6, .int (x6)), (7, .int (x7))]) hE hn 4 dX6_ask_119 rfl (congrArg (x4 + ·) kc_1) (Nat.le_of_ble_eq_true rfl) rfl ?_
    refine j_goto hE 20 dX6_ask_122 (by decide) ?_
    refine j_sub [(0, .ref (ad 0)), (1, .int (x1)), (2, .int (s0)), (3, .int (x6)), (4, .int (x4 + 1))] [3, 4, 2, 1, 0] rfl ?_
    have hz := ih20 (s0, x6, x4 + 1) hw
    exact hz
def wX6_ask_93 (x1 : Int32) (x2 : Int32) (x3 : Int32) (x4 : Int32) (x6 : Int32) (s0 : Int32) (m : MS) (KL20 : Int32 × Int32 × Int32 → Prop) (K : Int32 → MS → Prop) : Prop :=
  (s0 = 0 → (wX6_ask_106 x1 x3 x4 x6 s0 x2 m KL20 K)) ∧ (¬ s0 = 0 → (wX6_ask_106 x1 x3 x4 x6 s0 x4 m KL20 K))
set_option maxRecDepth 100000 in
theorem bX6_ask_93 {E : jE} (hE : jOk E cX6_ask RX6) (hn : E.2.2.2.2 = 8) (hR : jRoom E 4 94) {ad : Nat → Nat} (hA : adOk ad) {r : GW} {b : Nat × Nat} {K : Int32 → MS → Prop} (hK : jRi E .int (KMI ad r K)) {x1 : Int32} {x2 : Int32} {x3 : Int32} {x4 : Int32} {x6 : Int32} {s0 : Int32} {m : MS} {KL20 : Int32 × Int32 × Int32 → Prop} (ih20 : ∀ s : Int32 × Int32 × Int32, KL20 s → J E (mwX ad m r) b [(0, .ref (ad 0)), (1, .int (x1)), (2, .int (s.1)), (3, .int (s.2.1)), (4, .int (s.2.2))] 20 []) (hw : wX6_ask_93 x1 x2 x3 x4 x6 s0 m KL20 K) : J E (mwX ad m r) b [(0, .ref (ad 0)), (1, .int (x1)), (2, .int (x2)), (3, .int (x3)), (4, .int (x4)), (6, .int (x6))] 93 [.int (s0)] := by
  unfold wX6_ask_93 at hw
  refine j_istore (L' := [(7, .int (s0)), (0, .ref (ad 0)), (1, .int (x1)), (2, .int (x2)), (3, .int (x3)), (4, .int (x4)), (6, .int (x6))]) hE hn dX6_ask_93 (Nat.le_of_ble_eq_true rfl) rfl ?_
  refine j_iload hE 0 dX6_ask_95 rfl ?_
  refine j_if_eq hE 105 dX6_ask_97 (by decide) (fun c1 => ?_) (fun c1 => ?_)
  · have hw := hw.1 c1
    refine j_iload_n hE 3 dX6_ask_105 rfl rfl ?_
    refine j_sub [(0, .ref (ad 0)), (1, .int (x1)), (3, .int (x3)), (4, .int (x4)), (6, .int (x6)), (7, .int (s0))] [1, 2, 4, 5, 6, 0] rfl ?_
    exact bX6_ask_106 hE hn hR hA hK ih20 hw
  · have hw := hw.2 c1
    refine j_iload hE 5 dX6_ask_100 rfl ?_
    refine j_goto hE 106 dX6_ask_102 (by decide) ?_
    refine j_sub [(0, .ref (ad 0)), (1, .int (x1)), (3, .int (x3)), (4, .int (x4)), (6, .int (x6)), (7, .int (s0))] [1, 2, 4, 5, 6, 0] rfl ?_
    exact bX6_ask_106 hE hn hR hA hK ih20 hw
def wX6_ask_92 (x1 : Int32) (x2 : Int32) (x3 : Int32) (x4 : Int32) (x6 : Int32) (m : MS) (KL20 : Int32 × Int32 × Int32 → Prop) (K : Int32 → MS → Prop) : Prop :=
  wX6_ask_93 x1 x2 x3 x4 x6 0 m KL20 K
set_option maxRecDepth 100000 in
theorem bX6_ask_92 {E : jE} (hE : jOk E cX6_ask RX6) (hn : E.2.2.2.2 = 8) (hR : jRoom E 4 94) {ad : Nat → Nat} (hA : adOk ad) {r : GW} {b : Nat × Nat} {K : Int32 → MS → Prop} (hK : jRi E .int (KMI ad r K)) {x1 : Int32} {x2 : Int32} {x3 : Int32} {x4 : Int32} {x6 : Int32} {m : MS} {KL20 : Int32 × Int32 × Int32 → Prop} (ih20 : ∀ s : Int32 × Int32 × Int32, KL20 s → J E (mwX ad m r) b [(0, .ref (ad 0)), (1, .int (x1)), (2, .int (s.1)), (3, .int (s.2.1)), (4, .int (s.2.2))] 20 []) (hw : wX6_ask_92 x1 x2 x3 x4 x6 m KL20 K) : J E (mwX ad m r) b [(0, .ref (ad 0)), (1, .int (x1)), (2, .int (x2)), (3, .int (x3)), (4, .int (x4)), (6, .int (x6))] 92 [] := by
  unfold wX6_ask_92 at hw
  refine j_iconst hE dX6_ask_92 kc_0 ?_
  exact bX6_ask_93 hE hn hR hA hK ih20 hw
def wX6_ask_67 (x1 : Int32) (x2 : Int32) (x3 : Int32) (x4 : Int32) (s0 : Int32) (m : MS) (KL20 : Int32 × Int32 × Int32 → Prop) (K : Int32 → MS → Prop) : Prop :=
  vp_in ((nI 60) + x4) 1518 ∧ ((0 ≤ (rd (gA m 11) ((nI 60) + x4)) → (wX6_ask_92 x1 x2 x3 x4 s0 m KL20 K)) ∧ (¬ 0 ≤ (rd (gA m 11) ((nI 60) + x4)) → ((x3 ≤ s0 → (wX6_ask_92 x1 x2 x3 x4 s0 m KL20 K)) ∧ (¬ x3 ≤ s0 → (wX6_ask_93 x1 x2 x3 x4 s0 1 m KL20 K)))))
set_option maxRecDepth 100000 in
theorem bX6_ask_67 {E : jE} (hE : jOk E cX6_ask RX6) (hn : E.2.2.2.2 = 8) (hR : jRoom E 4 94) {ad : Nat → Nat} (hA : adOk ad) {r : GW} {b : Nat × Nat} {K : Int32 → MS → Prop} (hK : jRi E .int (KMI ad r K)) {x1 : Int32} {x2 : Int32} {x3 : Int32} {x4 : Int32} {s0 : Int32} {m : MS} {KL20 : Int32 × Int32 × Int32 → Prop} (ih20 : ∀ s : Int32 × Int32 × Int32, KL20 s → J E (mwX ad m r) b [(0, .ref (ad 0)), (1, .int (x1)), (2, .int (s.1)), (3, .int (s.2.1)), (4, .int (s.2.2))] 20 []) (hw : wX6_ask_67 x1 x2 x3 x4 s0 m KL20 K) : J E (mwX ad m r) b [(0, .ref (ad 0)), (1, .int (x1)), (2, .int (x2)), (3, .int (x3)), (4, .int (x4))] 67 [.int (s0)] := by
  unfold wX6_ask_67 at hw
  refine j_istore (L' := [(6, .int (s0)), (0, .ref (ad 0)), (1, .int (x1)), (2, .int (x2)), (3, .int (x3)), (4, .int (x4))]) hE hn dX6_ask_67 (Nat.le_of_ble_eq_true rfl) rfl ?_
  refine j_aload_n hE 1 dX6_ask_69 rfl rfl ?_
  refine jm_get hE hA 24 (Nat.le_of_ble_eq_true rfl) q1671 rfl (v := .ref (ad 12)) rfl dX6_ask_70 ?_
  refine j_bipush hE dX6_ask_73 kb_60 ?_
  refine j_iload hE 5 dX6_ask_75 rfl ?_
  refine j_iadd hE dX6_ask_77 ?_
  obtain ⟨h1, hw⟩ := hw
  refine jm_iald hE hA 11 (Nat.le_of_ble_eq_true rfl) h1 dX6_ask_78 ?_
  refine j_if_ge hE 92 dX6_ask_79 (by decide) (fun c2 => ?_) (fun c2 => ?_)
  · have hw := hw.1 c2
    refine j_sub [(0, .ref (ad 0)), (1, .int (x1)), (2, .int (x2)), (3, .int (x3)), (4, .int (x4)), (6, .int (s0))] [1, 2, 3, 4, 5, 0] rfl ?_
    exact bX6_ask_92 hE hn hR hA hK ih20 hw
  · have hw := hw.2 c2
    refine j_iload hE 0 dX6_ask_82 rfl ?_
    refine j_iload_n hE 4 dX6_ask_84 rfl rfl ?_
    refine j_icmp_ge hE 92 dX6_ask_85 (by decide) (fun c3 => ?_) (fun c3 => ?_)
    · have hw := hw.1 c3
      refine j_sub [(0, .ref (ad 0)), (1, .int (x1)), (2, .int (x2)), (3, .int (x3)), (4, .int (x4)), (6, .int (s0))] [1, 2, 3, 4, 5, 0] rfl ?_
      exact bX6_ask_92 hE hn hR hA hK ih20 hw
    · have hw := hw.2 c3
      refine j_iconst hE dX6_ask_88 kc_1 ?_
      refine j_goto hE 93 dX6_ask_89 (by decide) ?_
      refine j_sub [(0, .ref (ad 0)), (1, .int (x1)), (2, .int (x2)), (3, .int (x3)), (4, .int (x4)), (6, .int (s0))] [1, 2, 3, 4, 5, 0] rfl ?_
      exact bX6_ask_93 hE hn hR hA hK ih20 hw
def wX6_ask_20_b (x1 : Int32) (x2 : Int32) (x3 : Int32) (x4 : Int32) (m : MS) (KL20 : Int32 × Int32 × Int32 → Prop) (K : Int32 → MS → Prop) : Prop :=
  wX6_panes  m (fun r1 => (r1 ≤ x4 → (K x2 m)) ∧ (¬ r1 ≤ x4 → (wX6_sightOf 0 x4 m (fun r3 => wX6_bits (x1 &&& r3) (fun r4 => wX6_bits x1 (fun r5 => (r4 ≤ (r5 - r4) → (wX6_bits x1 (fun r7 => wX6_ask_67 x1 x2 x3 x4 (r7 - r4) m KL20 K))) ∧ (¬ r4 ≤ (r5 - r4) → (wX6_ask_67 x1 x2 x3 x4 r4 m KL20 K))))))))
def wX6_ask_20 (x1 : Int32) (x2 : Int32) (x3 : Int32) (x4 : Int32) (m : MS) (K : Int32 → MS → Prop) : Prop := lfp (σ := Int32 × Int32 × Int32) (fun KL s => wX6_ask_20_b x1 s.1 s.2.1 s.2.2 m KL K) (x2, x3, x4)
set_option maxRecDepth 100000 in
theorem bX6_ask_20 {E : jE} (hE : jOk E cX6_ask RX6) (hn : E.2.2.2.2 = 8) (hR : jRoom E 4 94) {ad : Nat → Nat} (hA : adOk ad) {r : GW} {b : Nat × Nat} {K : Int32 → MS → Prop} (hK : jRi E .int (KMI ad r K)) {x1 : Int32} {x2 : Int32} {x3 : Int32} {x4 : Int32} {m : MS}  (hw : wX6_ask_20 x1 x2 x3 x4 m K) : J E (mwX ad m r) b [(0, .ref (ad 0)), (1, .int (x1)), (2, .int (x2)), (3, .int (x3)), (4, .int (x4))] 20 [] := by
  refine lfp_sound (σ := Int32 × Int32 × Int32) (F := fun KL s => wX6_ask_20_b x1 s.1 s.2.1 s.2.2 m KL K) (P := fun s => J E (mwX ad m r) b [(0, .ref (ad 0)), (1, .int (x1)), (2, .int (s.1)), (3, .int (s.2.1)), (4, .int (s.2.2))] 20 []) ?_ hw
  clear hw
  rintro KL20 ⟨x2, x3, x4⟩ hw ih20
  have hw : wX6_ask_20_b x1 x2 x3 x4 m KL20 K := hw
  unfold wX6_ask_20_b at hw
  refine j_iload hE 4 dX6_ask_20 rfl ?_
  refine j_aload_n hE 0 dX6_ask_22 rfl rfl ?_
  refine jm_pI hE hA hR (As := []) (rest := [.int (x4)]) (ctX6_panes E.1.2.1 E.2.2.1 hA _ _  _ hw) rfl lkX6_panes jdX6_panes ⟨Nat.le_of_ble_eq_true rfl, Nat.le_of_ble_eq_true rfl⟩ rfl (Nat.le_of_ble_eq_true rfl) dX6_ask_23 (fun r1 hw => ?_)
  refine j_icmp_ge hE 125 dX6_ask_26 (by decide) (fun c2 => ?_) (fun c2 => ?_)
  · have hw := hw.1 c2
    refine j_iload_n hE 2 dX6_ask_125 rfl rfl ?_
    exact j_iret hE hK dX6_ask_126 rfl ⟨_, rfl, hw⟩
  · have hw := hw.2 c2
    refine j_iload_n hE 1 dX6_ask_29 rfl rfl ?_
    refine j_aload_n hE 0 dX6_ask_30 rfl rfl ?_
    refine j_iconst hE dX6_ask_31 kc_0 ?_
    refine j_iload hE 4 dX6_ask_32 rfl ?_
    refine jm_pI hE hA hR (As := [.int (0), .int (x4)]) (rest := [.int (x1)]) (ctX6_sightOf E.1.2.1 E.2.2.1 hA _ _ _ _  _ hw) rfl lkX6_sightOf jdX6_sightOf ⟨Nat.le_of_ble_eq_true rfl, Nat.le_of_ble_eq_true rfl⟩ rfl (Nat.le_of_ble_eq_true rfl) dX6_ask_34 (fun r3 hw => ?_)
    refine j_iand hE dX6_ask_37 ?_
    refine j_psI hE hR (As := [.int (x1 &&& r3)]) (rest := []) (ctX6_bits E.1.2.1 E.2.2.1 _ _  _ hw) lkX6_bits jdX6_bits ⟨Nat.le_of_ble_eq_true rfl, Nat.le_of_ble_eq_true rfl⟩ rfl (Nat.le_of_ble_eq_true rfl) dX6_ask_38 (fun r4 hw => ?_)
    refine j_istore (L' := [(5, .int (r4)), (0, .ref (ad 0)), (1, .int (x1)), (2, .int (x2)), (3, .int (x3)), (4, .int (x4))]) hE hn dX6_ask_41 (Nat.le_of_ble_eq_true rfl) rfl ?_
    refine j_iload hE 0 dX6_ask_43 rfl ?_
    refine j_iload_n hE 2 dX6_ask_45 rfl rfl ?_
    refine j_psI hE hR (As := [.int (x1)]) (rest := [.int (r4)]) (ctX6_bits E.1.2.1 E.2.2.1 _ _  _ hw) lkX6_bits jdX6_bits ⟨Nat.le_of_ble_eq_true rfl, Nat.le_of_ble_eq_true rfl⟩ rfl (Nat.le_of_ble_eq_true rfl) dX6_ask_46 (fun r5 hw => ?_)
    refine j_iload hE 0 dX6_ask_49 rfl ?_
    refine j_isub hE dX6_ask_51 ?_
    refine j_icmp_le hE 60 dX6_ask_52 (by decide) (fun c6 => ?_) (fun c6 => ?_)
    · have hw := hw.1 c6
      refine j_iload_n hE 2 dX6_ask_60 rfl rfl ?_
      refine j_psI hE hR (As := [.int (x1)]) (rest := []) (ctX6_bits E.1.2.1 E.2.2.1 _ _  _ hw) lkX6_bits jdX6_bits ⟨Nat.le_of_ble_eq_true rfl, Nat.le_of_ble_eq_true rfl⟩ rfl (Nat.le_of_ble_eq_true rfl) dX6_ask_61 (fun r7 hw => ?_)
      refine j_iload hE 0 dX6_ask_64 rfl ?_
      refine j_isub hE dX6_ask_66 ?_
      refine j_sub [(0, .ref (ad 0)), (1, .int (x1)), (2, .int (x2)), (3, .int (x3)), (4, .int (x4))] [1, 2, 3, 4, 5] rfl ?_
      exact bX6_ask_67 hE hn hR hA hK ih20 hw
    · have hw := hw.2 c6
      refine j_iload hE 0 dX6_ask_55 rfl ?_
      refine j_goto hE 67 dX6_ask_57 (by decide) ?_
      refine j_sub [(0, .ref (ad 0)), (1, .int (x1)), (2, .int (x2)), (3, .int (x3)), (4, .int (x4))] [1, 2, 3, 4, 5] rfl ?_
      exact bX6_ask_67 hE hn hR hA hK ih20 hw
def wX6_ask_0 (m : MS) (K : Int32 → MS → Prop) : Prop :=
  ∀ m1 : MS, m1 = sF m 0 0 → (wX6_cellsNow  m1 (fun r2 => wX6_bits r2 (fun r3 => wX6_ask_20 r2 ((-1)) r3 0 m1 K)))
set_option maxRecDepth 100000 in
theorem bX6_ask_0 {E : jE} (hE : jOk E cX6_ask RX6) (hn : E.2.2.2.2 = 8) (hR : jRoom E 4 94) {ad : Nat → Nat} (hA : adOk ad) {r : GW} {b : Nat × Nat} {K : Int32 → MS → Prop} (hK : jRi E .int (KMI ad r K)) {m : MS}  (hw : wX6_ask_0 m K) : J E (mwX ad m r) b [(0, .ref (ad 0))] 0 [] := by
  unfold wX6_ask_0 at hw
  refine j_aload_n hE 0 dX6_ask_0 rfl rfl ?_
  refine j_iconst hE dX6_ask_1 kc_0 ?_
  refine jm_putF hE hA 0 0 (Nat.le_of_ble_eq_true rfl) q1647 rfl rfl (mset_0 _ _ _) rfl rfl dX6_ask_2 ?_
  refine j_wm (fun m1 e_m1 => ?_)
  have hw := hw m1 e_m1
  refine j_aload_n hE 0 dX6_ask_5 rfl rfl ?_
  refine jm_pI hE hA hR (As := []) (rest := []) (ctX6_cellsNow E.1.2.1 E.2.2.1 hA _ _  _ hw) rfl lkX6_cellsNow jdX6_cellsNow ⟨Nat.le_of_ble_eq_true rfl, Nat.le_of_ble_eq_true rfl⟩ rfl (Nat.le_of_ble_eq_true rfl) dX6_ask_6 (fun r2 hw => ?_)
  refine j_istore_n (L' := [(1, .int (r2)), (0, .ref (ad 0))]) hE hn dX6_ask_9 rfl (Nat.le_of_ble_eq_true rfl) rfl ?_
  refine j_iconst hE dX6_ask_10 kc_m1 ?_
  refine j_istore_n (L' := [(2, .int ((-1))), (1, .int (r2)), (0, .ref (ad 0))]) hE hn dX6_ask_11 rfl (Nat.le_of_ble_eq_true rfl) rfl ?_
  refine j_iload_n hE 1 dX6_ask_12 rfl rfl ?_
  refine j_psI hE hR (As := [.int (r2)]) (rest := []) (ctX6_bits E.1.2.1 E.2.2.1 _ _  _ hw) lkX6_bits jdX6_bits ⟨Nat.le_of_ble_eq_true rfl, Nat.le_of_ble_eq_true rfl⟩ rfl (Nat.le_of_ble_eq_true rfl) dX6_ask_13 (fun r3 hw => ?_)
  refine j_istore_n (L' := [(3, .int (r3)), (2, .int ((-1))), (1, .int (r2)), (0, .ref (ad 0))]) hE hn dX6_ask_16 rfl (Nat.le_of_ble_eq_true rfl) rfl ?_
  refine j_iconst hE dX6_ask_17 kc_0 ?_
  refine j_istore (L' := [(4, .int (0)), (3, .int (r3)), (2, .int ((-1))), (1, .int (r2)), (0, .ref (ad 0))]) hE hn dX6_ask_18 (Nat.le_of_ble_eq_true rfl) rfl ?_
  refine j_sub [(0, .ref (ad 0)), (1, .int (r2)), (2, .int ((-1))), (3, .int (r3)), (4, .int (0))] [4, 3, 2, 1, 0] rfl ?_
  exact bX6_ask_20 hE hn hR hA hK  hw
abbrev wX6_ask := wX6_ask_0
theorem ctX6_ask (l : Launch) (G : gG) {ad : Nat → Nat} (hA : adOk ad) (m0 : MS) (r : GW)  (K : Int32 → MS → Prop) (hw : wX6_ask m0 K) : CtI l yX6_ask cX6_ask 8 .int ({ frames := 4, cells := 0, slots := 0, locals := 94 }) G [.ref (ad 0)] (mwX ad m0 r) (KMI ad r K) :=
  CtI.of RX6 plain_X6 rfl (Nat.le_of_ble_eq_true rfl) (fun E hE _ _ hn hR hK => bX6_ask_0 hE hn hR hA hK hw)
theorem jdX6_ask : jD yX6_ask 0 := by decide +kernel
def wX6_peopleIn_5_b (x1 : Int32) (x2 : Int32) (x3 : Int32) (x4 : Int32) (m0 : MS) (KL5 : Int32 × Int32 → Prop) (K : Int32 → Prop) : Prop :=
  wX6_people  m0 (fun r1 => (r1 ≤ x4 → (K x3)) ∧ (¬ r1 ≤ x4 → (vp_in (1 + x4) 1518 ∧ (wX6_within (rd (gA m0 11) (1 + x4)) x1 ((x1 + x2) - 1) (fun r4 => (r4 = 0 → (∀ v6 : Int32, v6 = x3 + 0 → (KL5 (v6, x4 + 1)))) ∧ (¬ r4 = 0 → (∀ v7 : Int32, v7 = x3 + 1 → (KL5 (v7, x4 + 1)))))))))
def wX6_peopleIn_5 (x1 : Int32) (x2 : Int32) (x3 : Int32) (x4 : Int32) (m0 : MS) (K : Int32 → Prop) : Prop := lfp (σ := Int32 × Int32) (fun KL s => wX6_peopleIn_5_b x1 x2 s.1 s.2 m0 KL K) (x3, x4)
set_option maxRecDepth 100000 in
theorem bX6_peopleIn_5 {E : jE} (hE : jOk E cX6_peopleIn RX6) (hn : E.2.2.2.2 = 5) (hR : jRoom E 1 22) {ad : Nat → Nat} (hA : adOk ad) {r : GW} {m0 : MS} {b : Nat × Nat} {K : Int32 → Prop} (hK : jRi E .int (KPI (mwX ad m0 r) K)) {x1 : Int32} {x2 : Int32} {x3 : Int32} {x4 : Int32}  (hw : wX6_peopleIn_5 x1 x2 x3 x4 m0 K) : J E (mwX ad m0 r) b [(0, .ref (ad 0)), (1, .int (x1)), (2, .int (x2)), (3, .int (x3)), (4, .int (x4))] 5 [] := by
  refine lfp_sound (σ := Int32 × Int32) (F := fun KL s => wX6_peopleIn_5_b x1 x2 s.1 s.2 m0 KL K) (P := fun s => J E (mwX ad m0 r) b [(0, .ref (ad 0)), (1, .int (x1)), (2, .int (x2)), (3, .int (s.1)), (4, .int (s.2))] 5 []) ?_ hw
  clear hw
  rintro KL5 ⟨x3, x4⟩ hw ih5
  have hw : wX6_peopleIn_5_b x1 x2 x3 x4 m0 KL5 K := hw
  unfold wX6_peopleIn_5_b at hw
  refine j_iload hE 4 dX6_peopleIn_5 rfl ?_
  refine j_aload_n hE 0 dX6_peopleIn_7 rfl rfl ?_
  refine jm_pI hE hA hR (As := []) (rest := [.int (x4)]) (ctX6_people E.1.2.1 E.2.2.1 hA _ _  _ hw) rfl lkX6_people jdX6_people ⟨Nat.le_of_ble_eq_true rfl, Nat.le_of_ble_eq_true rfl⟩ rfl (Nat.le_of_ble_eq_true rfl) dX6_peopleIn_8 (fun r1 hw => ?_)
  refine j_icmp_ge hE 49 dX6_peopleIn_11 (by decide) (fun c2 => ?_) (fun c2 => ?_)
  · have hw := hw.1 c2
    refine j_iload_n hE 3 dX6_peopleIn_49 rfl rfl ?_
    exact j_iret hE hK dX6_peopleIn_50 rfl ⟨rfl, hw⟩
  · have hw := hw.2 c2
    refine j_iload_n hE 3 dX6_peopleIn_14 rfl rfl ?_
    refine j_aload_n hE 0 dX6_peopleIn_15 rfl rfl ?_
    refine jm_get hE hA 24 (Nat.le_of_ble_eq_true rfl) q1671 rfl (v := .ref (ad 12)) rfl dX6_peopleIn_16 ?_
    refine j_iconst hE dX6_peopleIn_19 kc_1 ?_
    refine j_iload hE 4 dX6_peopleIn_20 rfl ?_
    refine j_iadd hE dX6_peopleIn_22 ?_
    obtain ⟨h3, hw⟩ := hw
    refine jm_iald hE hA 11 (Nat.le_of_ble_eq_true rfl) h3 dX6_peopleIn_23 ?_
    refine j_iload_n hE 1 dX6_peopleIn_24 rfl rfl ?_
    refine j_iload_n hE 1 dX6_peopleIn_25 rfl rfl ?_
    refine j_iload_n hE 2 dX6_peopleIn_26 rfl rfl ?_
    refine j_iadd hE dX6_peopleIn_27 ?_
    refine j_iconst hE dX6_peopleIn_28 kc_1 ?_
    refine j_isub hE dX6_peopleIn_29 ?_
    refine j_psI hE hR (As := [.int (rd (gA m0 11) (1 + x4)), .int (x1), .int ((x1 + x2) - 1)]) (rest := [.int (x3)]) (ctX6_within E.1.2.1 E.2.2.1 _ _ _ _  _ hw) lkX6_within jdX6_within ⟨Nat.le_of_ble_eq_true rfl, Nat.le_of_ble_eq_true rfl⟩ rfl (Nat.le_of_ble_eq_true rfl) dX6_peopleIn_30 (fun r4 hw => ?_)
    refine j_if_eq hE 40 dX6_peopleIn_33 (by decide) (fun c5 => ?_) (fun c5 => ?_)
    · have hw := hw.1 c5
      refine j_iconst hE dX6_peopleIn_40 kc_0 ?_
      refine j_iadd hE dX6_peopleIn_41 ?_
      refine j_topi (fun v6 e_v6 => ?_)
      have hw := hw v6 e_v6
      refine j_istore_n (L' := [(3, .int (v6)), (0, .ref (ad 0)), (1, .int (x1)), (2, .int (x2)), (4, .int (x4))]) hE hn dX6_peopleIn_42 rfl (Nat.le_of_ble_eq_true rfl) rfl ?_
      refine j_iinc (L' := [(4, .int (x4 + 1)), (3, .int (v6)), (0, .ref (ad 0)), (1, .int (x1)), (2, .int (x2))]) hE hn 4 dX6_peopleIn_43 rfl (congrArg (x4 + ·) kc_1) (Nat.le_of_ble_eq_true rfl) rfl ?_
      refine j_goto hE 5 dX6_peopleIn_46 (by decide) ?_
      refine j_sub [(0, .ref (ad 0)), (1, .int (x1)), (2, .int (x2)), (3, .int (v6)), (4, .int (x4 + 1))] [2, 3, 4, 1, 0] rfl ?_
      have hz := ih5 (v6, x4 + 1) hw
      exact hz
    · have hw := hw.2 c5
      refine j_iconst hE dX6_peopleIn_36 kc_1 ?_
      refine j_goto hE 41 dX6_peopleIn_37 (by decide) ?_
      refine j_iadd hE dX6_peopleIn_41 ?_
      refine j_topi (fun v7 e_v7 => ?_)
      have hw := hw v7 e_v7
      refine j_istore_n (L' := [(3, .int (v7)), (0, .ref (ad 0)), (1, .int (x1)), (2, .int (x2)), (4, .int (x4))]) hE hn dX6_peopleIn_42 rfl (Nat.le_of_ble_eq_true rfl) rfl ?_
      refine j_iinc (L' := [(4, .int (x4 + 1)), (3, .int (v7)), (0, .ref (ad 0)), (1, .int (x1)), (2, .int (x2))]) hE hn 4 dX6_peopleIn_43 rfl (congrArg (x4 + ·) kc_1) (Nat.le_of_ble_eq_true rfl) rfl ?_
      refine j_goto hE 5 dX6_peopleIn_46 (by decide) ?_
      refine j_sub [(0, .ref (ad 0)), (1, .int (x1)), (2, .int (x2)), (3, .int (v7)), (4, .int (x4 + 1))] [2, 3, 4, 1, 0] rfl ?_
      have hz := ih5 (v7, x4 + 1) hw
      exact hz
def wX6_peopleIn_0 (x1 : Int32) (x2 : Int32) (m0 : MS) (K : Int32 → Prop) : Prop :=
  wX6_peopleIn_5 x1 x2 0 0 m0 K
set_option maxRecDepth 100000 in
theorem bX6_peopleIn_0 {E : jE} (hE : jOk E cX6_peopleIn RX6) (hn : E.2.2.2.2 = 5) (hR : jRoom E 1 22) {ad : Nat → Nat} (hA : adOk ad) {r : GW} {m0 : MS} {b : Nat × Nat} {K : Int32 → Prop} (hK : jRi E .int (KPI (mwX ad m0 r) K)) {x1 : Int32} {x2 : Int32}  (hw : wX6_peopleIn_0 x1 x2 m0 K) : J E (mwX ad m0 r) b [(0, .ref (ad 0)), (1, .int (x1)), (2, .int (x2))] 0 [] := by
  unfold wX6_peopleIn_0 at hw
  refine j_iconst hE dX6_peopleIn_0 kc_0 ?_
  refine j_istore_n (L' := [(3, .int (0)), (0, .ref (ad 0)), (1, .int (x1)), (2, .int (x2))]) hE hn dX6_peopleIn_1 rfl (Nat.le_of_ble_eq_true rfl) rfl ?_
  refine j_iconst hE dX6_peopleIn_2 kc_0 ?_
  refine j_istore (L' := [(4, .int (0)), (3, .int (0)), (0, .ref (ad 0)), (1, .int (x1)), (2, .int (x2))]) hE hn dX6_peopleIn_3 (Nat.le_of_ble_eq_true rfl) rfl ?_
  refine j_sub [(0, .ref (ad 0)), (1, .int (x1)), (2, .int (x2)), (3, .int (0)), (4, .int (0))] [2, 3, 4, 1, 0] rfl ?_
  exact bX6_peopleIn_5 hE hn hR hA hK  hw
abbrev wX6_peopleIn := wX6_peopleIn_0
theorem ctX6_peopleIn (l : Launch) (G : gG) {ad : Nat → Nat} (hA : adOk ad) (m0 : MS) (r : GW) (x1 : Int32) (x2 : Int32) (K : Int32 → Prop) (hw : wX6_peopleIn x1 x2 m0 K) : CtI l yX6_peopleIn cX6_peopleIn 5 .int ({ frames := 1, cells := 0, slots := 0, locals := 22 }) G [.ref (ad 0), .int (x1), .int (x2)] (mwX ad m0 r) (KPI (mwX ad m0 r) K) :=
  CtI.of RX6 plain_X6 rfl (Nat.le_of_ble_eq_true rfl) (fun E hE _ _ hn hR hK => bX6_peopleIn_0 hE hn hR hA hK hw)
theorem jdX6_peopleIn : jD yX6_peopleIn 2 := by decide +kernel
theorem lkX6_peopleIn : GoodIn lw_all (wsV RX6 380 yX6_peopleIn.cls yX6_peopleIn (ws_ yX6_peopleIn cX6_peopleIn 5 (some .int))) := lw_V q2115 q2117 qs114 q129 q2118
def wX6_glass_21_b (x1 : Int32) (x2 : Int32) (x3 : Int32) (m : MS) (KL21 : Int32 × Int32 → Prop) (K : Int32 → MS → Prop) : Prop :=
  ((nI 10) < (x3 + x1) → (K x2 m)) ∧ (¬ (nI 10) < (x3 + x1) → (wX6_peopleIn x3 x1 m (fun r2 => wX6_peopleIn x2 x1 m (fun r3 => (r2 ≤ r3 → (KL21 (x2, x3 + 1))) ∧ (¬ r2 ≤ r3 → (KL21 (x3, x3 + 1)))))))
def wX6_glass_21 (x1 : Int32) (x2 : Int32) (x3 : Int32) (m : MS) (K : Int32 → MS → Prop) : Prop := lfp (σ := Int32 × Int32) (fun KL s => wX6_glass_21_b x1 s.1 s.2 m KL K) (x2, x3)
set_option maxRecDepth 100000 in
theorem bX6_glass_21 {E : jE} (hE : jOk E cX6_glass RX6) (hn : E.2.2.2.2 = 4) (hR : jRoom E 2 46) {ad : Nat → Nat} (hA : adOk ad) {r : GW} {b : Nat × Nat} {K : Int32 → MS → Prop} (hK : jRi E .int (KMI ad r K)) {x1 : Int32} {x2 : Int32} {x3 : Int32} {m : MS}  (hw : wX6_glass_21 x1 x2 x3 m K) : J E (mwX ad m r) b [(0, .ref (ad 0)), (1, .int (x1)), (2, .int (x2)), (3, .int (x3))] 21 [] := by
  refine lfp_sound (σ := Int32 × Int32) (F := fun KL s => wX6_glass_21_b x1 s.1 s.2 m KL K) (P := fun s => J E (mwX ad m r) b [(0, .ref (ad 0)), (1, .int (x1)), (2, .int (s.1)), (3, .int (s.2))] 21 []) ?_ hw
  clear hw
  rintro KL21 ⟨x2, x3⟩ hw ih21
  have hw : wX6_glass_21_b x1 x2 x3 m KL21 K := hw
  unfold wX6_glass_21_b at hw
  refine j_iload_n hE 3 dX6_glass_21 rfl rfl ?_
  refine j_iload_n hE 1 dX6_glass_22 rfl rfl ?_
  refine j_iadd hE dX6_glass_23 ?_
  refine j_bipush hE dX6_glass_24 kb_10 ?_
  refine j_icmp_gt hE 56 dX6_glass_26 (by decide) (fun c1 => ?_) (fun c1 => ?_)
  · have hw := hw.1 c1
    refine j_iload_n hE 2 dX6_glass_56 rfl rfl ?_
    exact j_iret hE hK dX6_glass_57 rfl ⟨_, rfl, hw⟩
  · have hw := hw.2 c1
    refine j_aload_n hE 0 dX6_glass_29 rfl rfl ?_
    refine j_iload_n hE 3 dX6_glass_30 rfl rfl ?_
    refine j_iload_n hE 1 dX6_glass_31 rfl rfl ?_
    refine jm_pI hE hA hR (As := [.int (x3), .int (x1)]) (rest := []) (ctX6_peopleIn E.1.2.1 E.2.2.1 hA _ _ _ _  _ hw) rfl lkX6_peopleIn jdX6_peopleIn ⟨Nat.le_of_ble_eq_true rfl, Nat.le_of_ble_eq_true rfl⟩ rfl (Nat.le_of_ble_eq_true rfl) dX6_glass_32 (fun r2 hw => ?_)
    refine j_aload_n hE 0 dX6_glass_35 rfl rfl ?_
    refine j_iload_n hE 2 dX6_glass_36 rfl rfl ?_
    refine j_iload_n hE 1 dX6_glass_37 rfl rfl ?_
    refine jm_pI hE hA hR (As := [.int (x2), .int (x1)]) (rest := [.int (r2)]) (ctX6_peopleIn E.1.2.1 E.2.2.1 hA _ _ _ _  _ hw) rfl lkX6_peopleIn jdX6_peopleIn ⟨Nat.le_of_ble_eq_true rfl, Nat.le_of_ble_eq_true rfl⟩ rfl (Nat.le_of_ble_eq_true rfl) dX6_glass_38 (fun r3 hw => ?_)
    refine j_icmp_le hE 48 dX6_glass_41 (by decide) (fun c4 => ?_) (fun c4 => ?_)
    · have hw := hw.1 c4
      refine j_iload_n hE 2 dX6_glass_48 rfl rfl ?_
      refine j_istore_n (L' := [(2, .int (x2)), (0, .ref (ad 0)), (1, .int (x1)), (3, .int (x3))]) hE hn dX6_glass_49 rfl (Nat.le_of_ble_eq_true rfl) rfl ?_
      refine j_iinc (L' := [(3, .int (x3 + 1)), (2, .int (x2)), (0, .ref (ad 0)), (1, .int (x1))]) hE hn 3 dX6_glass_50 rfl (congrArg (x3 + ·) kc_1) (Nat.le_of_ble_eq_true rfl) rfl ?_
      refine j_goto hE 21 dX6_glass_53 (by decide) ?_
      refine j_sub [(0, .ref (ad 0)), (1, .int (x1)), (2, .int (x2)), (3, .int (x3 + 1))] [2, 3, 1, 0] rfl ?_
      have hz := ih21 (x2, x3 + 1) hw
      exact hz
    · have hw := hw.2 c4
      refine j_iload_n hE 3 dX6_glass_44 rfl rfl ?_
      refine j_goto hE 49 dX6_glass_45 (by decide) ?_
      refine j_istore_n (L' := [(2, .int (x3)), (0, .ref (ad 0)), (1, .int (x1)), (3, .int (x3))]) hE hn dX6_glass_49 rfl (Nat.le_of_ble_eq_true rfl) rfl ?_
      refine j_iinc (L' := [(3, .int (x3 + 1)), (2, .int (x3)), (0, .ref (ad 0)), (1, .int (x1))]) hE hn 3 dX6_glass_50 rfl (congrArg (x3 + ·) kc_1) (Nat.le_of_ble_eq_true rfl) rfl ?_
      refine j_goto hE 21 dX6_glass_53 (by decide) ?_
      refine j_sub [(0, .ref (ad 0)), (1, .int (x1)), (2, .int (x3)), (3, .int (x3 + 1))] [2, 3, 1, 0] rfl ?_
      have hz := ih21 (x3, x3 + 1) hw
      exact hz
def wX6_glass_0 (x1 : Int32) (m : MS) (K : Int32 → MS → Prop) : Prop :=
  ∀ m1 : MS, m1 = sF m 0 0 → (wX6_within x1 1 (nI 10) (fun r2 => (¬ r2 = 0 → (wX6_glass_21 x1 0 1 m1 K)) ∧ (r2 = 0 → (K ((-1)) m1))))
set_option maxRecDepth 100000 in
theorem bX6_glass_0 {E : jE} (hE : jOk E cX6_glass RX6) (hn : E.2.2.2.2 = 4) (hR : jRoom E 2 46) {ad : Nat → Nat} (hA : adOk ad) {r : GW} {b : Nat × Nat} {K : Int32 → MS → Prop} (hK : jRi E .int (KMI ad r K)) {x1 : Int32} {m : MS}  (hw : wX6_glass_0 x1 m K) : J E (mwX ad m r) b [(0, .ref (ad 0)), (1, .int (x1))] 0 [] := by
  unfold wX6_glass_0 at hw
  refine j_aload_n hE 0 dX6_glass_0 rfl rfl ?_
  refine j_iconst hE dX6_glass_1 kc_0 ?_
  refine jm_putF hE hA 0 0 (Nat.le_of_ble_eq_true rfl) q1647 rfl rfl (mset_0 _ _ _) rfl rfl dX6_glass_2 ?_
  refine j_wm (fun m1 e_m1 => ?_)
  have hw := hw m1 e_m1
  refine j_iload_n hE 1 dX6_glass_5 rfl rfl ?_
  refine j_iconst hE dX6_glass_6 kc_1 ?_
  refine j_bipush hE dX6_glass_7 kb_10 ?_
  refine j_psI hE hR (As := [.int (x1), .int (1), .int (nI 10)]) (rest := []) (ctX6_within E.1.2.1 E.2.2.1 _ _ _ _  _ hw) lkX6_within jdX6_within ⟨Nat.le_of_ble_eq_true rfl, Nat.le_of_ble_eq_true rfl⟩ rfl (Nat.le_of_ble_eq_true rfl) dX6_glass_9 (fun r2 hw => ?_)
  refine j_if_ne hE 17 dX6_glass_12 (by decide) (fun c3 => ?_) (fun c3 => ?_)
  · have hw := hw.1 c3
    refine j_iconst hE dX6_glass_17 kc_0 ?_
    refine j_istore_n (L' := [(2, .int (0)), (0, .ref (ad 0)), (1, .int (x1))]) hE hn dX6_glass_18 rfl (Nat.le_of_ble_eq_true rfl) rfl ?_
    refine j_iconst hE dX6_glass_19 kc_1 ?_
    refine j_istore_n (L' := [(3, .int (1)), (2, .int (0)), (0, .ref (ad 0)), (1, .int (x1))]) hE hn dX6_glass_20 rfl (Nat.le_of_ble_eq_true rfl) rfl ?_
    refine j_sub [(0, .ref (ad 0)), (1, .int (x1)), (2, .int (0)), (3, .int (1))] [2, 3, 1, 0] rfl ?_
    exact bX6_glass_21 hE hn hR hA hK  hw
  · have hw := hw.2 c3
    refine j_iconst hE dX6_glass_15 kc_m1 ?_
    exact j_iret hE hK dX6_glass_16 rfl ⟨_, rfl, hw⟩
abbrev wX6_glass := wX6_glass_0
theorem ctX6_glass (l : Launch) (G : gG) {ad : Nat → Nat} (hA : adOk ad) (m0 : MS) (r : GW) (x1 : Int32) (K : Int32 → MS → Prop) (hw : wX6_glass x1 m0 K) : CtI l yX6_glass cX6_glass 4 .int ({ frames := 2, cells := 0, slots := 0, locals := 46 }) G [.ref (ad 0), .int (x1)] (mwX ad m0 r) (KMI ad r K) :=
  CtI.of RX6 plain_X6 rfl (Nat.le_of_ble_eq_true rfl) (fun E hE _ _ hn hR hK => bX6_glass_0 hE hn hR hA hK hw)
theorem jdX6_glass : jD yX6_glass 1 := by decide +kernel
def wX6_seen_0 (x1 : Int32) (m : MS) (K : Int32 → MS → Prop) : Prop :=
  ∀ m1 : MS, m1 = sF m 0 0 → (wX6_isPerson x1 m1 (fun r2 => (r2 = 0 → (K ((-1)) m1)) ∧ (¬ r2 = 0 → (vp_in (1 + x1) 1518 ∧ (wX6_seersOf 0 (rd (gA m1 11) (1 + x1)) m1 (fun r5 => K r5 m1))))))
set_option maxRecDepth 100000 in
theorem bX6_seen_0 {E : jE} (hE : jOk E cX6_seen RX6) (hn : E.2.2.2.2 = 2) (hR : jRoom E 4 94) {ad : Nat → Nat} (hA : adOk ad) {r : GW} {b : Nat × Nat} {K : Int32 → MS → Prop} (hK : jRi E .int (KMI ad r K)) {x1 : Int32} {m : MS}  (hw : wX6_seen_0 x1 m K) : J E (mwX ad m r) b [(0, .ref (ad 0)), (1, .int (x1))] 0 [] := by
  unfold wX6_seen_0 at hw
  refine j_aload_n hE 0 dX6_seen_0 rfl rfl ?_
  refine j_iconst hE dX6_seen_1 kc_0 ?_
  refine jm_putF hE hA 0 0 (Nat.le_of_ble_eq_true rfl) q1647 rfl rfl (mset_0 _ _ _) rfl rfl dX6_seen_2 ?_
  refine j_wm (fun m1 e_m1 => ?_)
  have hw := hw m1 e_m1
  refine j_aload_n hE 0 dX6_seen_5 rfl rfl ?_
  refine j_iload_n hE 1 dX6_seen_6 rfl rfl ?_
  refine jm_pI hE hA hR (As := [.int (x1)]) (rest := []) (ctX6_isPerson E.1.2.1 E.2.2.1 hA _ _ _  _ hw) rfl lkX6_isPerson jdX6_isPerson ⟨Nat.le_of_ble_eq_true rfl, Nat.le_of_ble_eq_true rfl⟩ rfl (Nat.le_of_ble_eq_true rfl) dX6_seen_7 (fun r2 hw => ?_)
  refine j_if_eq hE 29 dX6_seen_10 (by decide) (fun c3 => ?_) (fun c3 => ?_)
  · have hw := hw.1 c3
    refine j_iconst hE dX6_seen_29 kc_m1 ?_
    exact j_iret hE hK dX6_seen_30 rfl ⟨_, rfl, hw⟩
  · have hw := hw.2 c3
    refine j_aload_n hE 0 dX6_seen_13 rfl rfl ?_
    refine j_iconst hE dX6_seen_14 kc_0 ?_
    refine j_aload_n hE 0 dX6_seen_15 rfl rfl ?_
    refine jm_get hE hA 24 (Nat.le_of_ble_eq_true rfl) q1671 rfl (v := .ref (ad 12)) rfl dX6_seen_16 ?_
    refine j_iconst hE dX6_seen_19 kc_1 ?_
    refine j_iload_n hE 1 dX6_seen_20 rfl rfl ?_
    refine j_iadd hE dX6_seen_21 ?_
    obtain ⟨h4, hw⟩ := hw
    refine jm_iald hE hA 11 (Nat.le_of_ble_eq_true rfl) h4 dX6_seen_22 ?_
    refine jm_pI hE hA hR (As := [.int (0), .int (rd (gA m1 11) (1 + x1))]) (rest := []) (ctX6_seersOf E.1.2.1 E.2.2.1 hA _ _ _ _  _ hw) rfl lkX6_seersOf jdX6_seersOf ⟨Nat.le_of_ble_eq_true rfl, Nat.le_of_ble_eq_true rfl⟩ rfl (Nat.le_of_ble_eq_true rfl) dX6_seen_23 (fun r5 hw => ?_)
    refine j_goto hE 30 dX6_seen_26 (by decide) ?_
    exact j_iret hE hK dX6_seen_30 rfl ⟨_, rfl, hw⟩
abbrev wX6_seen := wX6_seen_0
theorem ctX6_seen (l : Launch) (G : gG) {ad : Nat → Nat} (hA : adOk ad) (m0 : MS) (r : GW) (x1 : Int32) (K : Int32 → MS → Prop) (hw : wX6_seen x1 m0 K) : CtI l yX6_seen cX6_seen 2 .int ({ frames := 4, cells := 0, slots := 0, locals := 94 }) G [.ref (ad 0), .int (x1)] (mwX ad m0 r) (KMI ad r K) :=
  CtI.of RX6 plain_X6 rfl (Nat.le_of_ble_eq_true rfl) (fun E hE _ _ hn hR hK => bX6_seen_0 hE hn hR hA hK hw)
theorem jdX6_seen : jD yX6_seen 1 := by decide +kernel
def wX6_eyes_9_b (x1 : Int32) (x2 : Int32) (m : MS) (KL9 : Int32 × Int32 → Prop) (K : Int32 → MS → Prop) : Prop :=
  ((nI 10) ≤ x2 → (K x1 m)) ∧ (¬ (nI 10) ≤ x2 → (wX6_seersOf 0 x2 m (fun r2 => wX6_bits r2 (fun r3 => wX6_seersOf 0 x1 m (fun r4 => wX6_bits r4 (fun r5 => (r3 ≤ r5 → (KL9 (x1, x2 + 1))) ∧ (¬ r3 ≤ r5 → (KL9 (x2, x2 + 1)))))))))
def wX6_eyes_9 (x1 : Int32) (x2 : Int32) (m : MS) (K : Int32 → MS → Prop) : Prop := lfp (σ := Int32 × Int32) (fun KL s => wX6_eyes_9_b s.1 s.2 m KL K) (x1, x2)
set_option maxRecDepth 100000 in
theorem bX6_eyes_9 {E : jE} (hE : jOk E cX6_eyes RX6) (hn : E.2.2.2.2 = 3) (hR : jRoom E 4 94) {ad : Nat → Nat} (hA : adOk ad) {r : GW} {b : Nat × Nat} {K : Int32 → MS → Prop} (hK : jRi E .int (KMI ad r K)) {x1 : Int32} {x2 : Int32} {m : MS}  (hw : wX6_eyes_9 x1 x2 m K) : J E (mwX ad m r) b [(0, .ref (ad 0)), (1, .int (x1)), (2, .int (x2))] 9 [] := by
  refine lfp_sound (σ := Int32 × Int32) (F := fun KL s => wX6_eyes_9_b s.1 s.2 m KL K) (P := fun s => J E (mwX ad m r) b [(0, .ref (ad 0)), (1, .int (s.1)), (2, .int (s.2))] 9 []) ?_ hw
  clear hw
  rintro KL9 ⟨x1, x2⟩ hw ih9
  have hw : wX6_eyes_9_b x1 x2 m KL9 K := hw
  unfold wX6_eyes_9_b at hw
  refine j_iload_n hE 2 dX6_eyes_9 rfl rfl ?_
  refine j_bipush hE dX6_eyes_10 kb_10 ?_
  refine j_icmp_ge hE 48 dX6_eyes_12 (by decide) (fun c1 => ?_) (fun c1 => ?_)
  · have hw := hw.1 c1
    refine j_iload_n hE 1 dX6_eyes_48 rfl rfl ?_
    exact j_iret hE hK dX6_eyes_49 rfl ⟨_, rfl, hw⟩
  · have hw := hw.2 c1
    refine j_aload_n hE 0 dX6_eyes_15 rfl rfl ?_
    refine j_iconst hE dX6_eyes_16 kc_0 ?_
    refine j_iload_n hE 2 dX6_eyes_17 rfl rfl ?_
    refine jm_pI hE hA hR (As := [.int (0), .int (x2)]) (rest := []) (ctX6_seersOf E.1.2.1 E.2.2.1 hA _ _ _ _  _ hw) rfl lkX6_seersOf jdX6_seersOf ⟨Nat.le_of_ble_eq_true rfl, Nat.le_of_ble_eq_true rfl⟩ rfl (Nat.le_of_ble_eq_true rfl) dX6_eyes_18 (fun r2 hw => ?_)
    refine j_psI hE hR (As := [.int (r2)]) (rest := []) (ctX6_bits E.1.2.1 E.2.2.1 _ _  _ hw) lkX6_bits jdX6_bits ⟨Nat.le_of_ble_eq_true rfl, Nat.le_of_ble_eq_true rfl⟩ rfl (Nat.le_of_ble_eq_true rfl) dX6_eyes_21 (fun r3 hw => ?_)
    refine j_aload_n hE 0 dX6_eyes_24 rfl rfl ?_
    refine j_iconst hE dX6_eyes_25 kc_0 ?_
    refine j_iload_n hE 1 dX6_eyes_26 rfl rfl ?_
    refine jm_pI hE hA hR (As := [.int (0), .int (x1)]) (rest := [.int (r3)]) (ctX6_seersOf E.1.2.1 E.2.2.1 hA _ _ _ _  _ hw) rfl lkX6_seersOf jdX6_seersOf ⟨Nat.le_of_ble_eq_true rfl, Nat.le_of_ble_eq_true rfl⟩ rfl (Nat.le_of_ble_eq_true rfl) dX6_eyes_27 (fun r4 hw => ?_)
    refine j_psI hE hR (As := [.int (r4)]) (rest := [.int (r3)]) (ctX6_bits E.1.2.1 E.2.2.1 _ _  _ hw) lkX6_bits jdX6_bits ⟨Nat.le_of_ble_eq_true rfl, Nat.le_of_ble_eq_true rfl⟩ rfl (Nat.le_of_ble_eq_true rfl) dX6_eyes_30 (fun r5 hw => ?_)
    refine j_icmp_le hE 40 dX6_eyes_33 (by decide) (fun c6 => ?_) (fun c6 => ?_)
    · have hw := hw.1 c6
      refine j_iload_n hE 1 dX6_eyes_40 rfl rfl ?_
      refine j_istore_n (L' := [(1, .int (x1)), (0, .ref (ad 0)), (2, .int (x2))]) hE hn dX6_eyes_41 rfl (Nat.le_of_ble_eq_true rfl) rfl ?_
      refine j_iinc (L' := [(2, .int (x2 + 1)), (1, .int (x1)), (0, .ref (ad 0))]) hE hn 2 dX6_eyes_42 rfl (congrArg (x2 + ·) kc_1) (Nat.le_of_ble_eq_true rfl) rfl ?_
      refine j_goto hE 9 dX6_eyes_45 (by decide) ?_
      refine j_sub [(0, .ref (ad 0)), (1, .int (x1)), (2, .int (x2 + 1))] [2, 1, 0] rfl ?_
      have hz := ih9 (x1, x2 + 1) hw
      exact hz
    · have hw := hw.2 c6
      refine j_iload_n hE 2 dX6_eyes_36 rfl rfl ?_
      refine j_goto hE 41 dX6_eyes_37 (by decide) ?_
      refine j_istore_n (L' := [(1, .int (x2)), (0, .ref (ad 0)), (2, .int (x2))]) hE hn dX6_eyes_41 rfl (Nat.le_of_ble_eq_true rfl) rfl ?_
      refine j_iinc (L' := [(2, .int (x2 + 1)), (1, .int (x2)), (0, .ref (ad 0))]) hE hn 2 dX6_eyes_42 rfl (congrArg (x2 + ·) kc_1) (Nat.le_of_ble_eq_true rfl) rfl ?_
      refine j_goto hE 9 dX6_eyes_45 (by decide) ?_
      refine j_sub [(0, .ref (ad 0)), (1, .int (x2)), (2, .int (x2 + 1))] [2, 1, 0] rfl ?_
      have hz := ih9 (x2, x2 + 1) hw
      exact hz
def wX6_eyes_0 (m : MS) (K : Int32 → MS → Prop) : Prop :=
  ∀ m1 : MS, m1 = sF m 0 0 → (wX6_eyes_9 0 1 m1 K)
set_option maxRecDepth 100000 in
theorem bX6_eyes_0 {E : jE} (hE : jOk E cX6_eyes RX6) (hn : E.2.2.2.2 = 3) (hR : jRoom E 4 94) {ad : Nat → Nat} (hA : adOk ad) {r : GW} {b : Nat × Nat} {K : Int32 → MS → Prop} (hK : jRi E .int (KMI ad r K)) {m : MS}  (hw : wX6_eyes_0 m K) : J E (mwX ad m r) b [(0, .ref (ad 0))] 0 [] := by
  unfold wX6_eyes_0 at hw
  refine j_aload_n hE 0 dX6_eyes_0 rfl rfl ?_
  refine j_iconst hE dX6_eyes_1 kc_0 ?_
  refine jm_putF hE hA 0 0 (Nat.le_of_ble_eq_true rfl) q1647 rfl rfl (mset_0 _ _ _) rfl rfl dX6_eyes_2 ?_
  refine j_wm (fun m1 e_m1 => ?_)
  have hw := hw m1 e_m1
  refine j_iconst hE dX6_eyes_5 kc_0 ?_
  refine j_istore_n (L' := [(1, .int (0)), (0, .ref (ad 0))]) hE hn dX6_eyes_6 rfl (Nat.le_of_ble_eq_true rfl) rfl ?_
  refine j_iconst hE dX6_eyes_7 kc_1 ?_
  refine j_istore_n (L' := [(2, .int (1)), (1, .int (0)), (0, .ref (ad 0))]) hE hn dX6_eyes_8 rfl (Nat.le_of_ble_eq_true rfl) rfl ?_
  refine j_sub [(0, .ref (ad 0)), (1, .int (0)), (2, .int (1))] [2, 1, 0] rfl ?_
  exact bX6_eyes_9 hE hn hR hA hK  hw
abbrev wX6_eyes := wX6_eyes_0
theorem ctX6_eyes (l : Launch) (G : gG) {ad : Nat → Nat} (hA : adOk ad) (m0 : MS) (r : GW)  (K : Int32 → MS → Prop) (hw : wX6_eyes m0 K) : CtI l yX6_eyes cX6_eyes 3 .int ({ frames := 4, cells := 0, slots := 0, locals := 94 }) G [.ref (ad 0)] (mwX ad m0 r) (KMI ad r K) :=
  CtI.of RX6 plain_X6 rfl (Nat.le_of_ble_eq_true rfl) (fun E hE _ _ hn hR hK => bX6_eyes_0 hE hn hR hA hK hw)
theorem jdX6_eyes : jD yX6_eyes 0 := by decide +kernel
def wX6_blind_9_b (x1 : Int32) (x2 : Int32) (m : MS) (KL9 : Int32 × Int32 → Prop) (K : Int32 → MS → Prop) : Prop :=
  ((nI 10) ≤ x2 → (K x1 m)) ∧ (¬ (nI 10) ≤ x2 → (wX6_seersOf 0 x2 m (fun r2 => (¬ r2 = 0 → (∀ v4 : Int32, v4 = x1 ||| 0 → (KL9 (v4, x2 + 1)))) ∧ (r2 = 0 → (∀ v5 : Int32, v5 = x1 ||| (ishl 1 x2) → (KL9 (v5, x2 + 1)))))))
def wX6_blind_9 (x1 : Int32) (x2 : Int32) (m : MS) (K : Int32 → MS → Prop) : Prop := lfp (σ := Int32 × Int32) (fun KL s => wX6_blind_9_b s.1 s.2 m KL K) (x1, x2)
set_option maxRecDepth 100000 in
theorem bX6_blind_9 {E : jE} (hE : jOk E cX6_blind RX6) (hn : E.2.2.2.2 = 3) (hR : jRoom E 4 94) {ad : Nat → Nat} (hA : adOk ad) {r : GW} {b : Nat × Nat} {K : Int32 → MS → Prop} (hK : jRi E .int (KMI ad r K)) {x1 : Int32} {x2 : Int32} {m : MS}  (hw : wX6_blind_9 x1 x2 m K) : J E (mwX ad m r) b [(0, .ref (ad 0)), (1, .int (x1)), (2, .int (x2))] 9 [] := by
  refine lfp_sound (σ := Int32 × Int32) (F := fun KL s => wX6_blind_9_b s.1 s.2 m KL K) (P := fun s => J E (mwX ad m r) b [(0, .ref (ad 0)), (1, .int (s.1)), (2, .int (s.2))] 9 []) ?_ hw
  clear hw
  rintro KL9 ⟨x1, x2⟩ hw ih9
  have hw : wX6_blind_9_b x1 x2 m KL9 K := hw
  unfold wX6_blind_9_b at hw
  refine j_iload_n hE 2 dX6_blind_9 rfl rfl ?_
  refine j_bipush hE dX6_blind_10 kb_10 ?_
  refine j_icmp_ge hE 40 dX6_blind_12 (by decide) (fun c1 => ?_) (fun c1 => ?_)
  · have hw := hw.1 c1
    refine j_iload_n hE 1 dX6_blind_40 rfl rfl ?_
    exact j_iret hE hK dX6_blind_41 rfl ⟨_, rfl, hw⟩
  · have hw := hw.2 c1
    refine j_iload_n hE 1 dX6_blind_15 rfl rfl ?_
    refine j_aload_n hE 0 dX6_blind_16 rfl rfl ?_
    refine j_iconst hE dX6_blind_17 kc_0 ?_
    refine j_iload_n hE 2 dX6_blind_18 rfl rfl ?_
    refine jm_pI hE hA hR (As := [.int (0), .int (x2)]) (rest := [.int (x1)]) (ctX6_seersOf E.1.2.1 E.2.2.1 hA _ _ _ _  _ hw) rfl lkX6_seersOf jdX6_seersOf ⟨Nat.le_of_ble_eq_true rfl, Nat.le_of_ble_eq_true rfl⟩ rfl (Nat.le_of_ble_eq_true rfl) dX6_blind_19 (fun r2 hw => ?_)
    refine j_if_ne hE 31 dX6_blind_22 (by decide) (fun c3 => ?_) (fun c3 => ?_)
    · have hw := hw.1 c3
      refine j_iconst hE dX6_blind_31 kc_0 ?_
      refine j_ior hE dX6_blind_32 ?_
      refine j_topi (fun v4 e_v4 => ?_)
      have hw := hw v4 e_v4
      refine j_istore_n (L' := [(1, .int (v4)), (0, .ref (ad 0)), (2, .int (x2))]) hE hn dX6_blind_33 rfl (Nat.le_of_ble_eq_true rfl) rfl ?_
      refine j_iinc (L' := [(2, .int (x2 + 1)), (1, .int (v4)), (0, .ref (ad 0))]) hE hn 2 dX6_blind_34 rfl (congrArg (x2 + ·) kc_1) (Nat.le_of_ble_eq_true rfl) rfl ?_
      refine j_goto hE 9 dX6_blind_37 (by decide) ?_
      refine j_sub [(0, .ref (ad 0)), (1, .int (v4)), (2, .int (x2 + 1))] [2, 1, 0] rfl ?_
      have hz := ih9 (v4, x2 + 1) hw
      exact hz
    · have hw := hw.2 c3
      refine j_iconst hE dX6_blind_25 kc_1 ?_
      refine j_iload_n hE 2 dX6_blind_26 rfl rfl ?_
      refine j_ishl hE dX6_blind_27 ?_
      refine j_goto hE 32 dX6_blind_28 (by decide) ?_
      refine j_ior hE dX6_blind_32 ?_
      refine j_topi (fun v5 e_v5 => ?_)
      have hw := hw v5 e_v5
      refine j_istore_n (L' := [(1, .int (v5)), (0, .ref (ad 0)), (2, .int (x2))]) hE hn dX6_blind_33 rfl (Nat.le_of_ble_eq_true rfl) rfl ?_
      refine j_iinc (L' := [(2, .int (x2 + 1)), (1, .int (v5)), (0, .ref (ad 0))]) hE hn 2 dX6_blind_34 rfl (congrArg (x2 + ·) kc_1) (Nat.le_of_ble_eq_true rfl) rfl ?_
      refine j_goto hE 9 dX6_blind_37 (by decide) ?_
      refine j_sub [(0, .ref (ad 0)), (1, .int (v5)), (2, .int (x2 + 1))] [2, 1, 0] rfl ?_
      have hz := ih9 (v5, x2 + 1) hw
      exact hz
def wX6_blind_0 (m : MS) (K : Int32 → MS → Prop) : Prop :=
  ∀ m1 : MS, m1 = sF m 0 0 → (wX6_blind_9 0 0 m1 K)
set_option maxRecDepth 100000 in
theorem bX6_blind_0 {E : jE} (hE : jOk E cX6_blind RX6) (hn : E.2.2.2.2 = 3) (hR : jRoom E 4 94) {ad : Nat → Nat} (hA : adOk ad) {r : GW} {b : Nat × Nat} {K : Int32 → MS → Prop} (hK : jRi E .int (KMI ad r K)) {m : MS}  (hw : wX6_blind_0 m K) : J E (mwX ad m r) b [(0, .ref (ad 0))] 0 [] := by
  unfold wX6_blind_0 at hw
  refine j_aload_n hE 0 dX6_blind_0 rfl rfl ?_
  refine j_iconst hE dX6_blind_1 kc_0 ?_
  refine jm_putF hE hA 0 0 (Nat.le_of_ble_eq_true rfl) q1647 rfl rfl (mset_0 _ _ _) rfl rfl dX6_blind_2 ?_
  refine j_wm (fun m1 e_m1 => ?_)
  have hw := hw m1 e_m1
  refine j_iconst hE dX6_blind_5 kc_0 ?_
  refine j_istore_n (L' := [(1, .int (0)), (0, .ref (ad 0))]) hE hn dX6_blind_6 rfl (Nat.le_of_ble_eq_true rfl) rfl ?_
  refine j_iconst hE dX6_blind_7 kc_0 ?_
  refine j_istore_n (L' := [(2, .int (0)), (1, .int (0)), (0, .ref (ad 0))]) hE hn dX6_blind_8 rfl (Nat.le_of_ble_eq_true rfl) rfl ?_
  refine j_sub [(0, .ref (ad 0)), (1, .int (0)), (2, .int (0))] [2, 1, 0] rfl ?_
  exact bX6_blind_9 hE hn hR hA hK  hw
abbrev wX6_blind := wX6_blind_0
theorem ctX6_blind (l : Launch) (G : gG) {ad : Nat → Nat} (hA : adOk ad) (m0 : MS) (r : GW)  (K : Int32 → MS → Prop) (hw : wX6_blind m0 K) : CtI l yX6_blind cX6_blind 3 .int ({ frames := 4, cells := 0, slots := 0, locals := 94 }) G [.ref (ad 0)] (mwX ad m0 r) (KMI ad r K) :=
  CtI.of RX6 plain_X6 rfl (Nat.le_of_ble_eq_true rfl) (fun E hE _ _ hn hR hK => bX6_blind_0 hE hn hR hA hK hw)
theorem jdX6_blind : jD yX6_blind 0 := by decide +kernel
def wX6_likeIn_5_b (x1 : Int32) (x2 : Int32) (x3 : Int32) (x4 : Int32) (m0 : MS) (KL5 : Int32 × Int32 → Prop) (K : Int32 → Prop) : Prop :=
  vp_in ((nI 18) + x1) 1518 ∧ (((rd (gA m0 11) ((nI 18) + x1)) ≤ x4 → (K x3)) ∧ (¬ (rd (gA m0 11) ((nI 18) + x1)) ≤ x4 → (wX6_markOf 0 x1 x4 m0 (fun r3 => (¬ (r3 &&& (nI 1023)) = (x2 &&& (nI 1023)) → (∀ v5 : Int32, v5 = x3 + 0 → (KL5 (v5, x4 + 1)))) ∧ ((r3 &&& (nI 1023)) = (x2 &&& (nI 1023)) → (∀ v6 : Int32, v6 = x3 + 1 → (KL5 (v6, x4 + 1))))))))
def wX6_likeIn_5 (x1 : Int32) (x2 : Int32) (x3 : Int32) (x4 : Int32) (m0 : MS) (K : Int32 → Prop) : Prop := lfp (σ := Int32 × Int32) (fun KL s => wX6_likeIn_5_b x1 x2 s.1 s.2 m0 KL K) (x3, x4)
set_option maxRecDepth 100000 in
theorem bX6_likeIn_5 {E : jE} (hE : jOk E cX6_likeIn RX6) (hn : E.2.2.2.2 = 5) (hR : jRoom E 1 23) {ad : Nat → Nat} (hA : adOk ad) {r : GW} {m0 : MS} {b : Nat × Nat} {K : Int32 → Prop} (hK : jRi E .int (KPI (mwX ad m0 r) K)) {x1 : Int32} {x2 : Int32} {x3 : Int32} {x4 : Int32}  (hw : wX6_likeIn_5 x1 x2 x3 x4 m0 K) : J E (mwX ad m0 r) b [(0, .ref (ad 0)), (1, .int (x1)), (2, .int (x2)), (3, .int (x3)), (4, .int (x4))] 5 [] := by
  refine lfp_sound (σ := Int32 × Int32) (F := fun KL s => wX6_likeIn_5_b x1 x2 s.1 s.2 m0 KL K) (P := fun s => J E (mwX ad m0 r) b [(0, .ref (ad 0)), (1, .int (x1)), (2, .int (x2)), (3, .int (s.1)), (4, .int (s.2))] 5 []) ?_ hw
  clear hw
  rintro KL5 ⟨x3, x4⟩ hw ih5
  have hw : wX6_likeIn_5_b x1 x2 x3 x4 m0 KL5 K := hw
  unfold wX6_likeIn_5_b at hw
  refine j_iload hE 4 dX6_likeIn_5 rfl ?_
  refine j_aload_n hE 0 dX6_likeIn_7 rfl rfl ?_
  refine jm_get hE hA 24 (Nat.le_of_ble_eq_true rfl) q1671 rfl (v := .ref (ad 12)) rfl dX6_likeIn_8 ?_
  refine j_bipush hE dX6_likeIn_11 kb_18 ?_
  refine j_iload_n hE 1 dX6_likeIn_13 rfl rfl ?_
  refine j_iadd hE dX6_likeIn_14 ?_
  obtain ⟨h1, hw⟩ := hw
  refine jm_iald hE hA 11 (Nat.le_of_ble_eq_true rfl) h1 dX6_likeIn_15 ?_
  refine j_icmp_ge hE 53 dX6_likeIn_16 (by decide) (fun c2 => ?_) (fun c2 => ?_)
  · have hw := hw.1 c2
    refine j_iload_n hE 3 dX6_likeIn_53 rfl rfl ?_
    exact j_iret hE hK dX6_likeIn_54 rfl ⟨rfl, hw⟩
  · have hw := hw.2 c2
    refine j_iload_n hE 3 dX6_likeIn_19 rfl rfl ?_
    refine j_aload_n hE 0 dX6_likeIn_20 rfl rfl ?_
    refine j_iconst hE dX6_likeIn_21 kc_0 ?_
    refine j_iload_n hE 1 dX6_likeIn_22 rfl rfl ?_
    refine j_iload hE 4 dX6_likeIn_23 rfl ?_
    refine jm_pI hE hA hR (As := [.int (0), .int (x1), .int (x4)]) (rest := [.int (x3)]) (ctX6_markOf E.1.2.1 E.2.2.1 hA _ _ _ _ _  _ hw) rfl lkX6_markOf jdX6_markOf ⟨Nat.le_of_ble_eq_true rfl, Nat.le_of_ble_eq_true rfl⟩ rfl (Nat.le_of_ble_eq_true rfl) dX6_likeIn_25 (fun r3 hw => ?_)
    refine j_sipush hE dX6_likeIn_28 ks_1023 ?_
    refine j_iand hE dX6_likeIn_31 ?_
    refine j_iload_n hE 2 dX6_likeIn_32 rfl rfl ?_
    refine j_sipush hE dX6_likeIn_33 ks_1023 ?_
    refine j_iand hE dX6_likeIn_36 ?_
    refine j_icmp_ne hE 44 dX6_likeIn_37 (by decide) (fun c4 => ?_) (fun c4 => ?_)
    · have hw := hw.1 c4
      refine j_iconst hE dX6_likeIn_44 kc_0 ?_
      refine j_iadd hE dX6_likeIn_45 ?_
      refine j_topi (fun v5 e_v5 => ?_)
      have hw := hw v5 e_v5
      refine j_istore_n (L' := [(3, .int (v5)), (0, .ref (ad 0)), (1, .int (x1)), (2, .int (x2)), (4, .int (x4))]) hE hn dX6_likeIn_46 rfl (Nat.le_of_ble_eq_true rfl) rfl ?_
      refine j_iinc (L' := [(4, .int (x4 + 1)), (3, .int (v5)), (0, .ref (ad 0)), (1, .int (x1)), (2, .int (x2))]) hE hn 4 dX6_likeIn_47 rfl (congrArg (x4 + ·) kc_1) (Nat.le_of_ble_eq_true rfl) rfl ?_
      refine j_goto hE 5 dX6_likeIn_50 (by decide) ?_
      refine j_sub [(0, .ref (ad 0)), (1, .int (x1)), (2, .int (x2)), (3, .int (v5)), (4, .int (x4 + 1))] [2, 3, 4, 1, 0] rfl ?_
      have hz := ih5 (v5, x4 + 1) hw
      exact hz
    · have hw := hw.2 c4
      refine j_iconst hE dX6_likeIn_40 kc_1 ?_
      refine j_goto hE 45 dX6_likeIn_41 (by decide) ?_
      refine j_iadd hE dX6_likeIn_45 ?_
      refine j_topi (fun v6 e_v6 => ?_)
      have hw := hw v6 e_v6
      refine j_istore_n (L' := [(3, .int (v6)), (0, .ref (ad 0)), (1, .int (x1)), (2, .int (x2)), (4, .int (x4))]) hE hn dX6_likeIn_46 rfl (Nat.le_of_ble_eq_true rfl) rfl ?_
      refine j_iinc (L' := [(4, .int (x4 + 1)), (3, .int (v6)), (0, .ref (ad 0)), (1, .int (x1)), (2, .int (x2))]) hE hn 4 dX6_likeIn_47 rfl (congrArg (x4 + ·) kc_1) (Nat.le_of_ble_eq_true rfl) rfl ?_
      refine j_goto hE 5 dX6_likeIn_50 (by decide) ?_
      refine j_sub [(0, .ref (ad 0)), (1, .int (x1)), (2, .int (x2)), (3, .int (v6)), (4, .int (x4 + 1))] [2, 3, 4, 1, 0] rfl ?_
      have hz := ih5 (v6, x4 + 1) hw
      exact hz
def wX6_likeIn_0 (x1 : Int32) (x2 : Int32) (m0 : MS) (K : Int32 → Prop) : Prop :=
  wX6_likeIn_5 x1 x2 0 0 m0 K
set_option maxRecDepth 100000 in
theorem bX6_likeIn_0 {E : jE} (hE : jOk E cX6_likeIn RX6) (hn : E.2.2.2.2 = 5) (hR : jRoom E 1 23) {ad : Nat → Nat} (hA : adOk ad) {r : GW} {m0 : MS} {b : Nat × Nat} {K : Int32 → Prop} (hK : jRi E .int (KPI (mwX ad m0 r) K)) {x1 : Int32} {x2 : Int32}  (hw : wX6_likeIn_0 x1 x2 m0 K) : J E (mwX ad m0 r) b [(0, .ref (ad 0)), (1, .int (x1)), (2, .int (x2))] 0 [] := by
  unfold wX6_likeIn_0 at hw
  refine j_iconst hE dX6_likeIn_0 kc_0 ?_
  refine j_istore_n (L' := [(3, .int (0)), (0, .ref (ad 0)), (1, .int (x1)), (2, .int (x2))]) hE hn dX6_likeIn_1 rfl (Nat.le_of_ble_eq_true rfl) rfl ?_
  refine j_iconst hE dX6_likeIn_2 kc_0 ?_
  refine j_istore (L' := [(4, .int (0)), (3, .int (0)), (0, .ref (ad 0)), (1, .int (x1)), (2, .int (x2))]) hE hn dX6_likeIn_3 (Nat.le_of_ble_eq_true rfl) rfl ?_
  refine j_sub [(0, .ref (ad 0)), (1, .int (x1)), (2, .int (x2)), (3, .int (0)), (4, .int (0))] [2, 3, 4, 1, 0] rfl ?_
  exact bX6_likeIn_5 hE hn hR hA hK  hw
abbrev wX6_likeIn := wX6_likeIn_0
theorem ctX6_likeIn (l : Launch) (G : gG) {ad : Nat → Nat} (hA : adOk ad) (m0 : MS) (r : GW) (x1 : Int32) (x2 : Int32) (K : Int32 → Prop) (hw : wX6_likeIn x1 x2 m0 K) : CtI l yX6_likeIn cX6_likeIn 5 .int ({ frames := 1, cells := 0, slots := 0, locals := 23 }) G [.ref (ad 0), .int (x1), .int (x2)] (mwX ad m0 r) (KPI (mwX ad m0 r) K) :=
  CtI.of RX6 plain_X6 rfl (Nat.le_of_ble_eq_true rfl) (fun E hE _ _ hn hR hK => bX6_likeIn_0 hE hn hR hA hK hw)
theorem jdX6_likeIn : jD yX6_likeIn 2 := by decide +kernel
theorem lkX6_likeIn : GoodIn lw_all (wsV RX6 383 yX6_likeIn.cls yX6_likeIn (ws_ yX6_likeIn cX6_likeIn 5 (some .int))) := lw_V q2135 q2137 qs115 q129 q2138
def wX6_twin_63_b (x1 : Int32) (x2 : Int32) (x3 : Int32) (x4 : Int32) (x5 : Int32) (x6 : Int32) (x7 : Int32) (m : MS) (KL63 : Int32 × Int32 → Prop) (KL33 : Int32 × Int32 → Prop) (K : Int32 → MS → Prop) : Prop :=
  (x4 ≤ x7 → (wX6_likeIn x1 x5 m (fun r2 => wX6_likeIn x2 x5 m (fun r3 => (x6 ≤ 0 → ((r3 ≤ r2 → (∀ v6 : Int32, v6 = x3 + r3 → (KL33 (v6, x4 + 1)))) ∧ (¬ r3 ≤ r2 → (∀ v7 : Int32, v7 = x3 + r2 → (KL33 (v7, x4 + 1)))))) ∧ (¬ x6 ≤ 0 → (∀ v8 : Int32, v8 = x3 + 0 → (KL33 (v8, x4 + 1)))))))) ∧ (¬ x4 ≤ x7 → (wX6_markOf 0 x1 x7 m (fun r9 => (¬ (r9 &&& (nI 1023)) = (x5 &&& (nI 1023)) → (∀ v11 : Int32, v11 = x6 + 0 → (KL63 (v11, x7 + 1)))) ∧ ((r9 &&& (nI 1023)) = (x5 &&& (nI 1023)) → (∀ v12 : Int32, v12 = x6 + 1 → (KL63 (v12, x7 + 1)))))))
def wX6_twin_63 (x1 : Int32) (x2 : Int32) (x3 : Int32) (x4 : Int32) (x5 : Int32) (x6 : Int32) (x7 : Int32) (m : MS) (KL33 : Int32 × Int32 → Prop) (K : Int32 → MS → Prop) : Prop := lfp (σ := Int32 × Int32) (fun KL s => wX6_twin_63_b x1 x2 x3 x4 x5 s.1 s.2 m KL KL33 K) (x6, x7)
set_option maxRecDepth 100000 in
theorem bX6_twin_63 {E : jE} (hE : jOk E cX6_twin RX6) (hn : E.2.2.2.2 = 9) (hR : jRoom E 2 47) {ad : Nat → Nat} (hA : adOk ad) {r : GW} {b : Nat × Nat} {K : Int32 → MS → Prop} (hK : jRi E .int (KMI ad r K)) {x1 : Int32} {x2 : Int32} {x3 : Int32} {x4 : Int32} {x5 : Int32} {x6 : Int32} {x7 : Int32} {m : MS} {KL33 : Int32 × Int32 → Prop} (ih33 : ∀ s : Int32 × Int32, KL33 s → J E (mwX ad m r) b [(0, .ref (ad 0)), (1, .int (x1)), (2, .int (x2)), (3, .int (s.1)), (4, .int (s.2))] 33 []) (hw : wX6_twin_63 x1 x2 x3 x4 x5 x6 x7 m KL33 K) : J E (mwX ad m r) b [(0, .ref (ad 0)), (1, .int (x1)), (2, .int (x2)), (3, .int (x3)), (4, .int (x4)), (5, .int (x5)), (6, .int (x6)), (7, .int (x7))] 63 [] := by
  refine lfp_sound (σ := Int32 × Int32) (F := fun KL s => wX6_twin_63_b x1 x2 x3 x4 x5 s.1 s.2 m KL KL33 K) (P := fun s => J E (mwX ad m r) b [(0, .ref (ad 0)), (1, .int (x1)), (2, .int (x2)), (3, .int (x3)), (4, .int (x4)), (5, .int (x5)), (6, .int (s.1)), (7, .int (s.2))] 63 []) ?_ hw
  clear hw
  rintro KL63 ⟨x6, x7⟩ hw ih63
  have hw : wX6_twin_63_b x1 x2 x3 x4 x5 x6 x7 m KL63 KL33 K := hw
  unfold wX6_twin_63_b at hw
  refine j_iload hE 7 dX6_twin_63 rfl ?_
  refine j_iload hE 4 dX6_twin_65 rfl ?_
  refine j_icmp_ge hE 107 dX6_twin_67 (by decide) (fun c1 => ?_) (fun c1 => ?_)
  · have hw := hw.1 c1
    refine j_aload_n hE 0 dX6_twin_107 rfl rfl ?_
    refine j_iload_n hE 1 dX6_twin_108 rfl rfl ?_
    refine j_iload hE 5 dX6_twin_109 rfl ?_
    refine jm_pI hE hA hR (As := [.int (x1), .int (x5)]) (rest := []) (ctX6_likeIn E.1.2.1 E.2.2.1 hA _ _ _ _  _ hw) rfl lkX6_likeIn jdX6_likeIn ⟨Nat.le_of_ble_eq_true rfl, Nat.le_of_ble_eq_true rfl⟩ rfl (Nat.le_of_ble_eq_true rfl) dX6_twin_111 (fun r2 hw => ?_)
    refine j_istore (L' := [(7, .int (r2)), (0, .ref (ad 0)), (1, .int (x1)), (2, .int (x2)), (3, .int (x3)), (4, .int (x4)), (5, .int (x5)), (6, .int (x6))]) hE hn dX6_twin_114 (Nat.le_of_ble_eq_true rfl) rfl ?_
    refine j_aload_n hE 1 dX6_twin_116 rfl rfl ?_
    refine j_iload_n hE 3 dX6_twin_117 rfl rfl ?_
    refine j_iload hE 6 dX6_twin_118 rfl ?_
    refine jm_pI hE hA hR (As := [.int (x2), .int (x5)]) (rest := []) (ctX6_likeIn E.1.2.1 E.2.2.1 hA _ _ _ _  _ hw) rfl lkX6_likeIn jdX6_likeIn ⟨Nat.le_of_ble_eq_true rfl, Nat.le_of_ble_eq_true rfl⟩ rfl (Nat.le_of_ble_eq_true rfl) dX6_twin_120 (fun r3 hw => ?_)
    refine j_istore (L' := [(8, .int (r3)), (7, .int (r2)), (0, .ref (ad 0)), (1, .int (x1)), (2, .int (x2)), (3, .int (x3)), (4, .int (x4)), (5, .int (x5)), (6, .int (x6))]) hE hn dX6_twin_123 (Nat.le_of_ble_eq_true rfl) rfl ?_
    refine j_iload_n hE 5 dX6_twin_125 rfl rfl ?_
    refine j_iload hE 8 dX6_twin_126 rfl ?_
    refine j_if_le hE 135 dX6_twin_128 (by decide) (fun c4 => ?_) (fun c4 => ?_)
    · have hw := hw.1 c4
      refine j_iload hE 1 dX6_twin_135 rfl ?_
      refine j_iload hE 0 dX6_twin_137 rfl ?_
      refine j_icmp_ge hE 147 dX6_twin_139 (by decide) (fun c5 => ?_) (fun c5 => ?_)
      · have hw := hw.1 c5
        refine j_iload hE 0 dX6_twin_147 rfl ?_
        refine j_iadd hE dX6_twin_149 ?_
        refine j_topi (fun v6 e_v6 => ?_)
        have hw := hw v6 e_v6
        refine j_istore_n (L' := [(3, .int (v6)), (8, .int (r3)), (7, .int (r2)), (0, .ref (ad 0)), (1, .int (x1)), (2, .int (x2)), (4, .int (x4)), (5, .int (x5)), (6, .int (x6))]) hE hn dX6_twin_150 rfl (Nat.le_of_ble_eq_true rfl) rfl ?_
        refine j_iinc (L' := [(4, .int (x4 + 1)), (3, .int (v6)), (8, .int (r3)), (7, .int (r2)), (0, .ref (ad 0)), (1, .int (x1)), (2, .int (x2)), (5, .int (x5)), (6, .int (x6))]) hE hn 6 dX6_twin_151 rfl (congrArg (x4 + ·) kc_1) (Nat.le_of_ble_eq_true rfl) rfl ?_
        refine j_goto hE 33 dX6_twin_154 (by decide) ?_
        refine j_sub [(0, .ref (ad 0)), (1, .int (x1)), (2, .int (x2)), (3, .int (v6)), (4, .int (x4 + 1))] [4, 5, 6, 1, 0] rfl ?_
        have hz := ih33 (v6, x4 + 1) hw
        exact hz
      · have hw := hw.2 c5
        refine j_iload hE 1 dX6_twin_142 rfl ?_
        refine j_goto hE 149 dX6_twin_144 (by decide) ?_
        refine j_iadd hE dX6_twin_149 ?_
        refine j_topi (fun v7 e_v7 => ?_)
        have hw := hw v7 e_v7
        refine j_istore_n (L' := [(3, .int (v7)), (8, .int (r3)), (7, .int (r2)), (0, .ref (ad 0)), (1, .int (x1)), (2, .int (x2)), (4, .int (x4)), (5, .int (x5)), (6, .int (x6))]) hE hn dX6_twin_150 rfl (Nat.le_of_ble_eq_true rfl) rfl ?_
        refine j_iinc (L' := [(4, .int (x4 + 1)), (3, .int (v7)), (8, .int (r3)), (7, .int (r2)), (0, .ref (ad 0)), (1, .int (x1)), (2, .int (x2)), (5, .int (x5)), (6, .int (x6))]) hE hn 6 dX6_twin_151 rfl (congrArg (x4 + ·) kc_1) (Nat.le_of_ble_eq_true rfl) rfl ?_
        refine j_goto hE 33 dX6_twin_154 (by decide) ?_
        refine j_sub [(0, .ref (ad 0)), (1, .int (x1)), (2, .int (x2)), (3, .int (v7)), (4, .int (x4 + 1))] [4, 5, 6, 1, 0] rfl ?_
        have hz := ih33 (v7, x4 + 1) hw
        exact hz
    · have hw := hw.2 c4
      refine j_iconst hE dX6_twin_131 kc_0 ?_
      refine j_goto hE 149 dX6_twin_132 (by decide) ?_
      refine j_iadd hE dX6_twin_149 ?_
      refine j_topi (fun v8 e_v8 => ?_)
      have hw := hw v8 e_v8
      refine j_istore_n (L' := [(3, .int (v8)), (8, .int (r3)), (7, .int (r2)), (0, .ref (ad 0)), (1, .int (x1)), (2, .int (x2)), (4, .int (x4)), (5, .int (x5)), (6, .int (x6))]) hE hn dX6_twin_150 rfl (Nat.le_of_ble_eq_true rfl) rfl ?_
      refine j_iinc (L' := [(4, .int (x4 + 1)), (3, .int (v8)), (8, .int (r3)), (7, .int (r2)), (0, .ref (ad 0)), (1, .int (x1)), (2, .int (x2)), (5, .int (x5)), (6, .int (x6))]) hE hn 6 dX6_twin_151 rfl (congrArg (x4 + ·) kc_1) (Nat.le_of_ble_eq_true rfl) rfl ?_
      refine j_goto hE 33 dX6_twin_154 (by decide) ?_
      refine j_sub [(0, .ref (ad 0)), (1, .int (x1)), (2, .int (x2)), (3, .int (v8)), (4, .int (x4 + 1))] [4, 5, 6, 1, 0] rfl ?_
      have hz := ih33 (v8, x4 + 1) hw
      exact hz
  · have hw := hw.2 c1
    refine j_iload hE 6 dX6_twin_70 rfl ?_
    refine j_aload_n hE 0 dX6_twin_72 rfl rfl ?_
    refine j_iconst hE dX6_twin_73 kc_0 ?_
    refine j_iload_n hE 1 dX6_twin_74 rfl rfl ?_
    refine j_iload hE 7 dX6_twin_75 rfl ?_
    refine jm_pI hE hA hR (As := [.int (0), .int (x1), .int (x7)]) (rest := [.int (x6)]) (ctX6_markOf E.1.2.1 E.2.2.1 hA _ _ _ _ _  _ hw) rfl lkX6_markOf jdX6_markOf ⟨Nat.le_of_ble_eq_true rfl, Nat.le_of_ble_eq_true rfl⟩ rfl (Nat.le_of_ble_eq_true rfl) dX6_twin_77 (fun r9 hw => ?_)
    refine j_sipush hE dX6_twin_80 ks_1023 ?_
    refine j_iand hE dX6_twin_83 ?_
    refine j_iload hE 5 dX6_twin_84 rfl ?_
    refine j_sipush hE dX6_twin_86 ks_1023 ?_
    refine j_iand hE dX6_twin_89 ?_
    refine j_icmp_ne hE 97 dX6_twin_90 (by decide) (fun c10 => ?_) (fun c10 => ?_)
    · have hw := hw.1 c10
      refine j_iconst hE dX6_twin_97 kc_0 ?_
      refine j_iadd hE dX6_twin_98 ?_
      refine j_topi (fun v11 e_v11 => ?_)
      have hw := hw v11 e_v11
      refine j_istore (L' := [(6, .int (v11)), (0, .ref (ad 0)), (1, .int (x1)), (2, .int (x2)), (3, .int (x3)), (4, .int (x4)), (5, .int (x5)), (7, .int (x7))]) hE hn dX6_twin_99 (Nat.le_of_ble_eq_true rfl) rfl ?_
      refine j_iinc (L' := [(7, .int (x7 + 1)), (6, .int (v11)), (0, .ref (ad 0)), (1, .int (x1)), (2, .int (x2)), (3, .int (x3)), (4, .int (x4)), (5, .int (x5))]) hE hn 7 dX6_twin_101 rfl (congrArg (x7 + ·) kc_1) (Nat.le_of_ble_eq_true rfl) rfl ?_
      refine j_goto hE 63 dX6_twin_104 (by decide) ?_
      refine j_sub [(0, .ref (ad 0)), (1, .int (x1)), (2, .int (x2)), (3, .int (x3)), (4, .int (x4)), (5, .int (x5)), (6, .int (v11)), (7, .int (x7 + 1))] [2, 3, 4, 5, 6, 7, 1, 0] rfl ?_
      have hz := ih63 (v11, x7 + 1) hw
      exact hz
    · have hw := hw.2 c10
      refine j_iconst hE dX6_twin_93 kc_1 ?_
      refine j_goto hE 98 dX6_twin_94 (by decide) ?_
      refine j_iadd hE dX6_twin_98 ?_
      refine j_topi (fun v12 e_v12 => ?_)
      have hw := hw v12 e_v12
      refine j_istore (L' := [(6, .int (v12)), (0, .ref (ad 0)), (1, .int (x1)), (2, .int (x2)), (3, .int (x3)), (4, .int (x4)), (5, .int (x5)), (7, .int (x7))]) hE hn dX6_twin_99 (Nat.le_of_ble_eq_true rfl) rfl ?_
      refine j_iinc (L' := [(7, .int (x7 + 1)), (6, .int (v12)), (0, .ref (ad 0)), (1, .int (x1)), (2, .int (x2)), (3, .int (x3)), (4, .int (x4)), (5, .int (x5))]) hE hn 7 dX6_twin_101 rfl (congrArg (x7 + ·) kc_1) (Nat.le_of_ble_eq_true rfl) rfl ?_
      refine j_goto hE 63 dX6_twin_104 (by decide) ?_
      refine j_sub [(0, .ref (ad 0)), (1, .int (x1)), (2, .int (x2)), (3, .int (x3)), (4, .int (x4)), (5, .int (x5)), (6, .int (v12)), (7, .int (x7 + 1))] [2, 3, 4, 5, 6, 7, 1, 0] rfl ?_
      have hz := ih63 (v12, x7 + 1) hw
      exact hz
def wX6_twin_33_b (x1 : Int32) (x2 : Int32) (x3 : Int32) (x4 : Int32) (m : MS) (KL33 : Int32 × Int32 → Prop) (K : Int32 → MS → Prop) : Prop :=
  vp_in ((nI 18) + x1) 1518 ∧ (((rd (gA m 11) ((nI 18) + x1)) ≤ x4 → (K x3 m)) ∧ (¬ (rd (gA m 11) ((nI 18) + x1)) ≤ x4 → (wX6_markOf 0 x1 x4 m (fun r3 => wX6_twin_63 x1 x2 x3 x4 r3 0 0 m KL33 K))))
def wX6_twin_33 (x1 : Int32) (x2 : Int32) (x3 : Int32) (x4 : Int32) (m : MS) (K : Int32 → MS → Prop) : Prop := lfp (σ := Int32 × Int32) (fun KL s => wX6_twin_33_b x1 x2 s.1 s.2 m KL K) (x3, x4)
set_option maxRecDepth 100000 in
theorem bX6_twin_33 {E : jE} (hE : jOk E cX6_twin RX6) (hn : E.2.2.2.2 = 9) (hR : jRoom E 2 47) {ad : Nat → Nat} (hA : adOk ad) {r : GW} {b : Nat × Nat} {K : Int32 → MS → Prop} (hK : jRi E .int (KMI ad r K)) {x1 : Int32} {x2 : Int32} {x3 : Int32} {x4 : Int32} {m : MS}  (hw : wX6_twin_33 x1 x2 x3 x4 m K) : J E (mwX ad m r) b [(0, .ref (ad 0)), (1, .int (x1)), (2, .int (x2)), (3, .int (x3)), (4, .int (x4))] 33 [] := by
  refine lfp_sound (σ := Int32 × Int32) (F := fun KL s => wX6_twin_33_b x1 x2 s.1 s.2 m KL K) (P := fun s => J E (mwX ad m r) b [(0, .ref (ad 0)), (1, .int (x1)), (2, .int (x2)), (3, .int (s.1)), (4, .int (s.2))] 33 []) ?_ hw
  clear hw
  rintro KL33 ⟨x3, x4⟩ hw ih33
  have hw : wX6_twin_33_b x1 x2 x3 x4 m KL33 K := hw
  unfold wX6_twin_33_b at hw
  refine j_iload hE 4 dX6_twin_33 rfl ?_
  refine j_aload_n hE 0 dX6_twin_35 rfl rfl ?_
  refine jm_get hE hA 24 (Nat.le_of_ble_eq_true rfl) q1671 rfl (v := .ref (ad 12)) rfl dX6_twin_36 ?_
  refine j_bipush hE dX6_twin_39 kb_18 ?_
  refine j_iload_n hE 1 dX6_twin_41 rfl rfl ?_
  refine j_iadd hE dX6_twin_42 ?_
  obtain ⟨h1, hw⟩ := hw
  refine jm_iald hE hA 11 (Nat.le_of_ble_eq_true rfl) h1 dX6_twin_43 ?_
  refine j_icmp_ge hE 157 dX6_twin_44 (by decide) (fun c2 => ?_) (fun c2 => ?_)
  · have hw := hw.1 c2
    refine j_iload_n hE 3 dX6_twin_157 rfl rfl ?_
    exact j_iret hE hK dX6_twin_158 rfl ⟨_, rfl, hw⟩
  · have hw := hw.2 c2
    refine j_aload_n hE 0 dX6_twin_47 rfl rfl ?_
    refine j_iconst hE dX6_twin_48 kc_0 ?_
    refine j_iload_n hE 1 dX6_twin_49 rfl rfl ?_
    refine j_iload hE 4 dX6_twin_50 rfl ?_
    refine jm_pI hE hA hR (As := [.int (0), .int (x1), .int (x4)]) (rest := []) (ctX6_markOf E.1.2.1 E.2.2.1 hA _ _ _ _ _  _ hw) rfl lkX6_markOf jdX6_markOf ⟨Nat.le_of_ble_eq_true rfl, Nat.le_of_ble_eq_true rfl⟩ rfl (Nat.le_of_ble_eq_true rfl) dX6_twin_52 (fun r3 hw => ?_)
    refine j_istore (L' := [(5, .int (r3)), (0, .ref (ad 0)), (1, .int (x1)), (2, .int (x2)), (3, .int (x3)), (4, .int (x4))]) hE hn dX6_twin_55 (Nat.le_of_ble_eq_true rfl) rfl ?_
    refine j_iconst hE dX6_twin_57 kc_0 ?_
    refine j_istore (L' := [(6, .int (0)), (5, .int (r3)), (0, .ref (ad 0)), (1, .int (x1)), (2, .int (x2)), (3, .int (x3)), (4, .int (x4))]) hE hn dX6_twin_58 (Nat.le_of_ble_eq_true rfl) rfl ?_
    refine j_iconst hE dX6_twin_60 kc_0 ?_
    refine j_istore (L' := [(7, .int (0)), (6, .int (0)), (5, .int (r3)), (0, .ref (ad 0)), (1, .int (x1)), (2, .int (x2)), (3, .int (x3)), (4, .int (x4))]) hE hn dX6_twin_61 (Nat.le_of_ble_eq_true rfl) rfl ?_
    refine j_sub [(0, .ref (ad 0)), (1, .int (x1)), (2, .int (x2)), (3, .int (x3)), (4, .int (x4)), (5, .int (r3)), (6, .int (0)), (7, .int (0))] [3, 4, 5, 6, 7, 2, 1, 0] rfl ?_
    exact bX6_twin_63 hE hn hR hA hK ih33 hw
def wX6_twin_0 (x1 : Int32) (x2 : Int32) (m : MS) (K : Int32 → MS → Prop) : Prop :=
  ∀ m1 : MS, m1 = sF m 0 0 → (wX6_isPane x1 m1 (fun r2 => (r2 = 0 → (K ((-1)) m1)) ∧ (¬ r2 = 0 → (wX6_isPane x2 m1 (fun r4 => (r4 = 0 → (K ((-1)) m1)) ∧ (¬ r4 = 0 → ((¬ x1 = x2 → (wX6_twin_33 x1 x2 0 0 m1 K)) ∧ (x1 = x2 → (K ((-1)) m1)))))))))
set_option maxRecDepth 100000 in
theorem bX6_twin_0 {E : jE} (hE : jOk E cX6_twin RX6) (hn : E.2.2.2.2 = 9) (hR : jRoom E 2 47) {ad : Nat → Nat} (hA : adOk ad) {r : GW} {b : Nat × Nat} {K : Int32 → MS → Prop} (hK : jRi E .int (KMI ad r K)) {x1 : Int32} {x2 : Int32} {m : MS}  (hw : wX6_twin_0 x1 x2 m K) : J E (mwX ad m r) b [(0, .ref (ad 0)), (1, .int (x1)), (2, .int (x2))] 0 [] := by
  unfold wX6_twin_0 at hw
  refine j_aload_n hE 0 dX6_twin_0 rfl rfl ?_
  refine j_iconst hE dX6_twin_1 kc_0 ?_
  refine jm_putF hE hA 0 0 (Nat.le_of_ble_eq_true rfl) q1647 rfl rfl (mset_0 _ _ _) rfl rfl dX6_twin_2 ?_
  refine j_wm (fun m1 e_m1 => ?_)
  have hw := hw m1 e_m1
  refine j_aload_n hE 0 dX6_twin_5 rfl rfl ?_
  refine j_iload_n hE 1 dX6_twin_6 rfl rfl ?_
  refine jm_pI hE hA hR (As := [.int (x1)]) (rest := []) (ctX6_isPane E.1.2.1 E.2.2.1 hA _ _ _  _ hw) rfl lkX6_isPane jdX6_isPane ⟨Nat.le_of_ble_eq_true rfl, Nat.le_of_ble_eq_true rfl⟩ rfl (Nat.le_of_ble_eq_true rfl) dX6_twin_7 (fun r2 hw => ?_)
  refine j_if_eq hE 26 dX6_twin_10 (by decide) (fun c3 => ?_) (fun c3 => ?_)
  · have hw := hw.1 c3
    refine j_iconst hE dX6_twin_26 kc_m1 ?_
    exact j_iret hE hK dX6_twin_27 rfl ⟨_, rfl, hw⟩
  · have hw := hw.2 c3
    refine j_aload_n hE 0 dX6_twin_13 rfl rfl ?_
    refine j_iload_n hE 2 dX6_twin_14 rfl rfl ?_
    refine jm_pI hE hA hR (As := [.int (x2)]) (rest := []) (ctX6_isPane E.1.2.1 E.2.2.1 hA _ _ _  _ hw) rfl lkX6_isPane jdX6_isPane ⟨Nat.le_of_ble_eq_true rfl, Nat.le_of_ble_eq_true rfl⟩ rfl (Nat.le_of_ble_eq_true rfl) dX6_twin_15 (fun r4 hw => ?_)
    refine j_if_eq hE 26 dX6_twin_18 (by decide) (fun c5 => ?_) (fun c5 => ?_)
    · have hw := hw.1 c5
      refine j_iconst hE dX6_twin_26 kc_m1 ?_
      exact j_iret hE hK dX6_twin_27 rfl ⟨_, rfl, hw⟩
    · have hw := hw.2 c5
      refine j_iload_n hE 1 dX6_twin_21 rfl rfl ?_
      refine j_iload_n hE 2 dX6_twin_22 rfl rfl ?_
      refine j_icmp_ne hE 28 dX6_twin_23 (by decide) (fun c6 => ?_) (fun c6 => ?_)
      · have hw := hw.1 c6
        refine j_iconst hE dX6_twin_28 kc_0 ?_
        refine j_istore_n (L' := [(3, .int (0)), (0, .ref (ad 0)), (1, .int (x1)), (2, .int (x2))]) hE hn dX6_twin_29 rfl (Nat.le_of_ble_eq_true rfl) rfl ?_
        refine j_iconst hE dX6_twin_30 kc_0 ?_
        refine j_istore (L' := [(4, .int (0)), (3, .int (0)), (0, .ref (ad 0)), (1, .int (x1)), (2, .int (x2))]) hE hn dX6_twin_31 (Nat.le_of_ble_eq_true rfl) rfl ?_
        refine j_sub [(0, .ref (ad 0)), (1, .int (x1)), (2, .int (x2)), (3, .int (0)), (4, .int (0))] [2, 3, 4, 1, 0] rfl ?_
        exact bX6_twin_33 hE hn hR hA hK  hw
      · have hw := hw.2 c6
        refine j_iconst hE dX6_twin_26 kc_m1 ?_
        exact j_iret hE hK dX6_twin_27 rfl ⟨_, rfl, hw⟩
abbrev wX6_twin := wX6_twin_0
theorem ctX6_twin (l : Launch) (G : gG) {ad : Nat → Nat} (hA : adOk ad) (m0 : MS) (r : GW) (x1 : Int32) (x2 : Int32) (K : Int32 → MS → Prop) (hw : wX6_twin x1 x2 m0 K) : CtI l yX6_twin cX6_twin 9 .int ({ frames := 2, cells := 0, slots := 0, locals := 47 }) G [.ref (ad 0), .int (x1), .int (x2)] (mwX ad m0 r) (KMI ad r K) :=
  CtI.of RX6 plain_X6 rfl (Nat.le_of_ble_eq_true rfl) (fun E hE _ _ hn hR hK => bX6_twin_0 hE hn hR hA hK hw)
theorem jdX6_twin : jD yX6_twin 2 := by decide +kernel
def wX6_run_27_b (x1 : Int32) (x2 : Int32) (m : MS) (KL27 : Int32 × MS → Prop) (K : Int32 → MS → Prop) : Prop :=
  ((nI 100) ≤ x2 → (K ((-1)) m)) ∧ (¬ (nI 100) ≤ x2 → (vp_in ((nI 1404) + x1) 1518 ∧ ((¬ (rd (gA m 11) ((nI 1404) + x1)) = 0 → (wX6_passes (nI 1386) m (fun r4 m5 => KL27 (x2 + 1, m5)))) ∧ ((rd (gA m 11) ((nI 1404) + x1)) = 0 → (K x2 m)))))
def wX6_run_27 (x1 : Int32) (x2 : Int32) (m : MS) (K : Int32 → MS → Prop) : Prop := lfp (σ := Int32 × MS) (fun KL s => wX6_run_27_b x1 s.1 s.2 KL K) (x2, m)
set_option maxRecDepth 100000 in
theorem bX6_run_27 {E : jE} (hE : jOk E cX6_run RX6) (hn : E.2.2.2.2 = 3) (hR : jRoom E 4 94) {ad : Nat → Nat} (hA : adOk ad) {r : GW} {b : Nat × Nat} {K : Int32 → MS → Prop} (hK : jRi E .int (KMI ad r K)) {x1 : Int32} {x2 : Int32} {m : MS}  (hw : wX6_run_27 x1 x2 m K) : J E (mwX ad m r) b [(0, .ref (ad 0)), (1, .int (x1)), (2, .int (x2))] 27 [] := by
  refine lfp_sound (σ := Int32 × MS) (F := fun KL s => wX6_run_27_b x1 s.1 s.2 KL K) (P := fun s => J E (mwX ad (s.2) r) b [(0, .ref (ad 0)), (1, .int (x1)), (2, .int (s.1))] 27 []) ?_ hw
  clear hw
  rintro KL27 ⟨x2, m⟩ hw ih27
  have hw : wX6_run_27_b x1 x2 m KL27 K := hw
  unfold wX6_run_27_b at hw
  refine j_iload_n hE 2 dX6_run_27 rfl rfl ?_
  refine j_bipush hE dX6_run_28 kb_100 ?_
  refine j_icmp_ge hE 62 dX6_run_30 (by decide) (fun c1 => ?_) (fun c1 => ?_)
  · have hw := hw.1 c1
    refine j_iconst hE dX6_run_62 kc_m1 ?_
    exact j_iret hE hK dX6_run_63 rfl ⟨_, rfl, hw⟩
  · have hw := hw.2 c1
    refine j_aload_n hE 0 dX6_run_33 rfl rfl ?_
    refine jm_get hE hA 24 (Nat.le_of_ble_eq_true rfl) q1671 rfl (v := .ref (ad 12)) rfl dX6_run_34 ?_
    refine j_sipush hE dX6_run_37 ks_1404 ?_
    refine j_iload_n hE 1 dX6_run_40 rfl rfl ?_
    refine j_iadd hE dX6_run_41 ?_
    obtain ⟨h2, hw⟩ := hw
    refine jm_iald hE hA 11 (Nat.le_of_ble_eq_true rfl) h2 dX6_run_42 ?_
    refine j_if_ne hE 48 dX6_run_43 (by decide) (fun c3 => ?_) (fun c3 => ?_)
    · have hw := hw.1 c3
      refine j_aload_n hE 0 dX6_run_48 rfl rfl ?_
      refine j_sipush hE dX6_run_49 ks_1386 ?_
      refine jm_cI hE hA hR (As := [.int (nI 1386)]) (rest := []) (ctX6_passes E.1.2.1 E.2.2.1 hA _ _ _  _ hw) rfl lkX6_passes jdX6_passes ⟨Nat.le_of_ble_eq_true rfl, Nat.le_of_ble_eq_true rfl⟩ rfl (Nat.le_of_ble_eq_true rfl) dX6_run_52 (fun r4 m5 hw => ?_)
      refine j_pop hE dX6_run_55 rfl ?_
      refine j_iinc (L' := [(2, .int (x2 + 1)), (0, .ref (ad 0)), (1, .int (x1))]) hE hn 2 dX6_run_56 rfl (congrArg (x2 + ·) kc_1) (Nat.le_of_ble_eq_true rfl) rfl ?_
      refine j_goto hE 27 dX6_run_59 (by decide) ?_
      refine j_sub [(0, .ref (ad 0)), (1, .int (x1)), (2, .int (x2 + 1))] [1, 2, 0] rfl ?_
      have hz := ih27 (x2 + 1, m5) hw
      exact hz
    · have hw := hw.2 c3
      refine j_iload_n hE 2 dX6_run_46 rfl rfl ?_
      exact j_iret hE hK dX6_run_47 rfl ⟨_, rfl, hw⟩
def wX6_run_0 (x1 : Int32) (m : MS) (K : Int32 → MS → Prop) : Prop :=
  ∀ m1 : MS, m1 = sF m 0 0 → (wX6_isPane x1 m1 (fun r2 => (¬ r2 = 0 → (wX6_copies 0 (nI 1386) (nI 60) m1 (fun  m4 => wX6_run_27 x1 0 m4 K))) ∧ (r2 = 0 → (K ((-1)) m1))))
set_option maxRecDepth 100000 in
theorem bX6_run_0 {E : jE} (hE : jOk E cX6_run RX6) (hn : E.2.2.2.2 = 3) (hR : jRoom E 4 94) {ad : Nat → Nat} (hA : adOk ad) {r : GW} {b : Nat × Nat} {K : Int32 → MS → Prop} (hK : jRi E .int (KMI ad r K)) {x1 : Int32} {m : MS}  (hw : wX6_run_0 x1 m K) : J E (mwX ad m r) b [(0, .ref (ad 0)), (1, .int (x1))] 0 [] := by
  unfold wX6_run_0 at hw
  refine j_aload_n hE 0 dX6_run_0 rfl rfl ?_
  refine j_iconst hE dX6_run_1 kc_0 ?_
  refine jm_putF hE hA 0 0 (Nat.le_of_ble_eq_true rfl) q1647 rfl rfl (mset_0 _ _ _) rfl rfl dX6_run_2 ?_
  refine j_wm (fun m1 e_m1 => ?_)
  have hw := hw m1 e_m1
  refine j_aload_n hE 0 dX6_run_5 rfl rfl ?_
  refine j_iload_n hE 1 dX6_run_6 rfl rfl ?_
  refine jm_pI hE hA hR (As := [.int (x1)]) (rest := []) (ctX6_isPane E.1.2.1 E.2.2.1 hA _ _ _  _ hw) rfl lkX6_isPane jdX6_isPane ⟨Nat.le_of_ble_eq_true rfl, Nat.le_of_ble_eq_true rfl⟩ rfl (Nat.le_of_ble_eq_true rfl) dX6_run_7 (fun r2 hw => ?_)
  refine j_if_ne hE 15 dX6_run_10 (by decide) (fun c3 => ?_) (fun c3 => ?_)
  · have hw := hw.1 c3
    refine j_aload_n hE 0 dX6_run_15 rfl rfl ?_
    refine j_iconst hE dX6_run_16 kc_0 ?_
    refine j_sipush hE dX6_run_17 ks_1386 ?_
    refine j_bipush hE dX6_run_20 kb_60 ?_
    refine jm_cV hE hA hR (As := [.int (0), .int (nI 1386), .int (nI 60)]) (rest := []) (ctX6_copies E.1.2.1 E.2.2.1 hA _ _ _ _ _  _ hw) rfl lkX6_copies jdX6_copies ⟨Nat.le_of_ble_eq_true rfl, Nat.le_of_ble_eq_true rfl⟩ rfl (Nat.le_of_ble_eq_true rfl) dX6_run_22 (fun  m4 hw => ?_)
    refine j_iconst hE dX6_run_25 kc_0 ?_
    refine j_istore_n (L' := [(2, .int (0)), (0, .ref (ad 0)), (1, .int (x1))]) hE hn dX6_run_26 rfl (Nat.le_of_ble_eq_true rfl) rfl ?_
    refine j_sub [(0, .ref (ad 0)), (1, .int (x1)), (2, .int (0))] [1, 2, 0] rfl ?_
    exact bX6_run_27 hE hn hR hA hK  hw
  · have hw := hw.2 c3
    refine j_iconst hE dX6_run_13 kc_m1 ?_
    exact j_iret hE hK dX6_run_14 rfl ⟨_, rfl, hw⟩
abbrev wX6_run := wX6_run_0
theorem ctX6_run (l : Launch) (G : gG) {ad : Nat → Nat} (hA : adOk ad) (m0 : MS) (r : GW) (x1 : Int32) (K : Int32 → MS → Prop) (hw : wX6_run x1 m0 K) : CtI l yX6_run cX6_run 3 .int ({ frames := 4, cells := 0, slots := 0, locals := 94 }) G [.ref (ad 0), .int (x1)] (mwX ad m0 r) (KMI ad r K) :=
  CtI.of RX6 plain_X6 rfl (Nat.le_of_ble_eq_true rfl) (fun E hE _ _ hn hR hK => bX6_run_0 hE hn hR hA hK hw)
theorem jdX6_run : jD yX6_run 1 := by decide +kernel
def wX6_getsBy_0 (x0 : Int32) (x1 : Int32) (x2 : Int32) (x3 : Int32) (x4 : Int32) (K : Int32 → Prop) : Prop :=
  (¬ x0 = 1 → ((¬ x1 = 1 → (K x3)) ∧ (x1 = 1 → (K x4)))) ∧ (x0 = 1 → ((¬ x1 = 1 → (K 0)) ∧ (x1 = 1 → (K x2))))
set_option maxRecDepth 100000 in
theorem bX6_getsBy_0 {E : jE} (hE : jOk E cX6_getsBy RX6) (hn : E.2.2.2.2 = 5) (hR : jRoom E 0 0) {w : GW} {b : Nat × Nat} {K : Int32 → Prop} (hK : jRi E .int (KPI w K)) {x0 : Int32} {x1 : Int32} {x2 : Int32} {x3 : Int32} {x4 : Int32}  (hw : wX6_getsBy_0 x0 x1 x2 x3 x4 K) : J E w b [(0, .int (x0)), (1, .int (x1)), (2, .int (x2)), (3, .int (x3)), (4, .int (x4))] 0 [] := by
  unfold wX6_getsBy_0 at hw
  refine j_iload_n hE 0 dX6_getsBy_0 rfl rfl ?_
  refine j_iconst hE dX6_getsBy_1 kc_1 ?_
  refine j_icmp_ne hE 18 dX6_getsBy_2 (by decide) (fun c1 => ?_) (fun c1 => ?_)
  · have hw := hw.1 c1
    refine j_iload_n hE 1 dX6_getsBy_18 rfl rfl ?_
    refine j_iconst hE dX6_getsBy_19 kc_1 ?_
    refine j_icmp_ne hE 28 dX6_getsBy_20 (by decide) (fun c2 => ?_) (fun c2 => ?_)
    · have hw := hw.1 c2
      refine j_iload_n hE 3 dX6_getsBy_28 rfl rfl ?_
      exact j_iret hE hK dX6_getsBy_29 rfl ⟨rfl, hw⟩
    · have hw := hw.2 c2
      refine j_iload hE 4 dX6_getsBy_23 rfl ?_
      refine j_goto hE 29 dX6_getsBy_25 (by decide) ?_
      exact j_iret hE hK dX6_getsBy_29 rfl ⟨rfl, hw⟩
  · have hw := hw.2 c1
    refine j_iload_n hE 1 dX6_getsBy_5 rfl rfl ?_
    refine j_iconst hE dX6_getsBy_6 kc_1 ?_
    refine j_icmp_ne hE 14 dX6_getsBy_7 (by decide) (fun c3 => ?_) (fun c3 => ?_)
    · have hw := hw.1 c3
      refine j_iconst hE dX6_getsBy_14 kc_0 ?_
      refine j_goto hE 29 dX6_getsBy_15 (by decide) ?_
      exact j_iret hE hK dX6_getsBy_29 rfl ⟨rfl, hw⟩
    · have hw := hw.2 c3
      refine j_iload_n hE 2 dX6_getsBy_10 rfl rfl ?_
      refine j_goto hE 29 dX6_getsBy_11 (by decide) ?_
      exact j_iret hE hK dX6_getsBy_29 rfl ⟨rfl, hw⟩
abbrev wX6_getsBy := wX6_getsBy_0
theorem ctX6_getsBy (l : Launch) (G : gG) (w : GW) (x0 : Int32) (x1 : Int32) (x2 : Int32) (x3 : Int32) (x4 : Int32) (K : Int32 → Prop) (hw : wX6_getsBy x0 x1 x2 x3 x4 K) : CtI l yX6_getsBy cX6_getsBy 5 .int ({ frames := 0, cells := 0, slots := 0, locals := 0 }) G [.int (x0), .int (x1), .int (x2), .int (x3), .int (x4)] w (KPI w K) :=
  CtI.of RX6 plain_X6 rfl (Nat.le_of_ble_eq_true rfl) (fun E hE _ _ hn hR hK => bX6_getsBy_0 hE hn hR hK hw)
theorem jdX6_getsBy : jD yX6_getsBy 5 := by decide +kernel
theorem lkX6_getsBy : GoodIn lw_all (va_wsS RX6 386 yX6_getsBy (ws_ yX6_getsBy cX6_getsBy 5 (some .int))) := lw_S q2147 q2148 q129 q2149
def wX6_rests_195 (x4 : Int32) (x6 : Int32) (x7 : Int32) (s1 : Int32) (m : MS) (K : Int32 → MS → Prop) : Prop :=
  ∀ m1 : MS, m1 = sF m 0 s1 → (((gF m1 0) ≤ 0 → ((0 ≤ x4 → (K x7 m1)) ∧ (¬ 0 ≤ x4 → (K x6 m1)))) ∧ (¬ (gF m1 0) ≤ 0 → (K 0 m1)))
set_option maxRecDepth 100000 in
theorem bX6_rests_195 {E : jE} (hE : jOk E cX6_rests RX6) (hn : E.2.2.2.2 = 12) (hR : jRoom E 1 24) {ad : Nat → Nat} (hA : adOk ad) {r : GW} {b : Nat × Nat} {K : Int32 → MS → Prop} (hK : jRi E .int (KMI ad r K)) {x4 : Int32} {x6 : Int32} {x7 : Int32} {s1 : Int32} {m : MS}  (hw : wX6_rests_195 x4 x6 x7 s1 m K) : J E (mwX ad m r) b [(0, .ref (ad 0)), (4, .int (x4)), (6, .int (x6)), (7, .int (x7))] 195 [.int (s1), .ref (ad 0)] := by
  unfold wX6_rests_195 at hw
  refine jm_putF hE hA 0 0 (Nat.le_of_ble_eq_true rfl) q1647 rfl rfl (mset_0 _ _ _) rfl rfl dX6_rests_195 ?_
  refine j_wm (fun m1 e_m1 => ?_)
  have hw := hw m1 e_m1
  refine j_aload_n hE 0 dX6_rests_198 rfl rfl ?_
  refine jm_get hE hA 0 (Nat.le_of_ble_eq_true rfl) q1647 rfl (v := .int (gF m1 0)) rfl dX6_rests_199 ?_
  refine j_if_le hE 209 dX6_rests_202 (by decide) (fun c2 => ?_) (fun c2 => ?_)
  · have hw := hw.1 c2
    refine j_iload hE 1 dX6_rests_209 rfl ?_
    refine j_if_ge hE 219 dX6_rests_211 (by decide) (fun c3 => ?_) (fun c3 => ?_)
    · have hw := hw.1 c3
      refine j_iload hE 3 dX6_rests_219 rfl ?_
      exact j_iret hE hK dX6_rests_221 rfl ⟨_, rfl, hw⟩
    · have hw := hw.2 c3
      refine j_iload hE 2 dX6_rests_214 rfl ?_
      refine j_goto hE 221 dX6_rests_216 (by decide) ?_
      exact j_iret hE hK dX6_rests_221 rfl ⟨_, rfl, hw⟩
  · have hw := hw.2 c2
    refine j_iconst hE dX6_rests_205 kc_0 ?_
    refine j_goto hE 221 dX6_rests_206 (by decide) ?_
    exact j_iret hE hK dX6_rests_221 rfl ⟨_, rfl, hw⟩
def wX6_rests_194 (x4 : Int32) (x6 : Int32) (x7 : Int32) (m : MS) (K : Int32 → MS → Prop) : Prop :=
  wX6_rests_195 x4 x6 x7 1 m K
set_option maxRecDepth 100000 in
theorem bX6_rests_194 {E : jE} (hE : jOk E cX6_rests RX6) (hn : E.2.2.2.2 = 12) (hR : jRoom E 1 24) {ad : Nat → Nat} (hA : adOk ad) {r : GW} {b : Nat × Nat} {K : Int32 → MS → Prop} (hK : jRi E .int (KMI ad r K)) {x4 : Int32} {x6 : Int32} {x7 : Int32} {m : MS}  (hw : wX6_rests_194 x4 x6 x7 m K) : J E (mwX ad m r) b [(0, .ref (ad 0)), (4, .int (x4)), (6, .int (x6)), (7, .int (x7))] 194 [.ref (ad 0)] := by
  unfold wX6_rests_194 at hw
  refine j_iconst hE dX6_rests_194 kc_1 ?_
  exact bX6_rests_195 hE hn hR hA hK  hw
def wX6_rests_190 (x4 : Int32) (x6 : Int32) (x7 : Int32) (m : MS) (K : Int32 → MS → Prop) : Prop :=
  wX6_rests_195 x4 x6 x7 0 m K
set_option maxRecDepth 100000 in
theorem bX6_rests_190 {E : jE} (hE : jOk E cX6_rests RX6) (hn : E.2.2.2.2 = 12) (hR : jRoom E 1 24) {ad : Nat → Nat} (hA : adOk ad) {r : GW} {b : Nat × Nat} {K : Int32 → MS → Prop} (hK : jRi E .int (KMI ad r K)) {x4 : Int32} {x6 : Int32} {x7 : Int32} {m : MS}  (hw : wX6_rests_190 x4 x6 x7 m K) : J E (mwX ad m r) b [(0, .ref (ad 0)), (4, .int (x4)), (6, .int (x6)), (7, .int (x7))] 190 [.ref (ad 0)] := by
  unfold wX6_rests_190 at hw
  refine j_iconst hE dX6_rests_190 kc_0 ?_
  refine j_goto hE 195 dX6_rests_191 (by decide) ?_
  exact bX6_rests_195 hE hn hR hA hK  hw
def wX6_rests_174 (x4 : Int32) (x5 : Int32) (x6 : Int32) (x7 : Int32) (m : MS) (K : Int32 → MS → Prop) : Prop :=
  (x5 = 0 → (wX6_rests_194 x4 x6 x7 m K)) ∧ (¬ x5 = 0 → ((x4 < 0 → (wX6_rests_190 x4 x6 x7 m K)) ∧ (¬ x4 < 0 → ((x7 < 0 → (wX6_rests_194 x4 x6 x7 m K)) ∧ (¬ x7 < 0 → (wX6_rests_190 x4 x6 x7 m K))))))
set_option maxRecDepth 100000 in
theorem bX6_rests_174 {E : jE} (hE : jOk E cX6_rests RX6) (hn : E.2.2.2.2 = 12) (hR : jRoom E 1 24) {ad : Nat → Nat} (hA : adOk ad) {r : GW} {b : Nat × Nat} {K : Int32 → MS → Prop} (hK : jRi E .int (KMI ad r K)) {x4 : Int32} {x5 : Int32} {x6 : Int32} {x7 : Int32} {m : MS}  (hw : wX6_rests_174 x4 x5 x6 x7 m K) : J E (mwX ad m r) b [(0, .ref (ad 0)), (4, .int (x4)), (5, .int (x5)), (6, .int (x6)), (7, .int (x7))] 174 [] := by
  unfold wX6_rests_174 at hw
  refine j_aload_n hE 0 dX6_rests_174 rfl rfl ?_
  refine j_iload hE 2 dX6_rests_175 rfl ?_
  refine j_if_eq hE 194 dX6_rests_177 (by decide) (fun c1 => ?_) (fun c1 => ?_)
  · have hw := hw.1 c1
    refine j_sub [(0, .ref (ad 0)), (4, .int (x4)), (6, .int (x6)), (7, .int (x7))] [0, 1, 3, 4] rfl ?_
    exact bX6_rests_194 hE hn hR hA hK  hw
  · have hw := hw.2 c1
    refine j_iload hE 1 dX6_rests_180 rfl ?_
    refine j_if_lt hE 190 dX6_rests_182 (by decide) (fun c2 => ?_) (fun c2 => ?_)
    · have hw := hw.1 c2
      refine j_sub [(0, .ref (ad 0)), (4, .int (x4)), (6, .int (x6)), (7, .int (x7))] [0, 1, 3, 4] rfl ?_
      exact bX6_rests_190 hE hn hR hA hK  hw
    · have hw := hw.2 c2
      refine j_iload hE 4 dX6_rests_185 rfl ?_
      refine j_if_lt hE 194 dX6_rests_187 (by decide) (fun c3 => ?_) (fun c3 => ?_)
      · have hw := hw.1 c3
        refine j_sub [(0, .ref (ad 0)), (4, .int (x4)), (6, .int (x6)), (7, .int (x7))] [0, 1, 3, 4] rfl ?_
        exact bX6_rests_194 hE hn hR hA hK  hw
      · have hw := hw.2 c3
        refine j_sub [(0, .ref (ad 0)), (4, .int (x4)), (6, .int (x6)), (7, .int (x7))] [0, 1, 3, 4] rfl ?_
        exact bX6_rests_190 hE hn hR hA hK  hw
def wX6_rests_151 (x1 : Int32) (x2 : Int32) (x3 : Int32) (x4 : Int32) (x5 : Int32) (x6 : Int32) (x8 : Int32) (x11 : Int32) (s0 : Int32) (m : MS) (KL52 : Int32 × Int32 × Int32 → Prop) (K : Int32 → MS → Prop) : Prop :=
  (x11 = 0 → (∀ v2 : Int32, v2 = x6 + 0 → (KL52 (v2, s0, x8 + 1)))) ∧ (¬ x11 = 0 → (∀ v3 : Int32, v3 = x6 + 1 → (KL52 (v3, s0, x8 + 1))))
set_option maxRecDepth 100000 in
theorem bX6_rests_151 {E : jE} (hE : jOk E cX6_rests RX6) (hn : E.2.2.2.2 = 12) (hR : jRoom E 1 24) {ad : Nat → Nat} (hA : adOk ad) {r : GW} {b : Nat × Nat} {K : Int32 → MS → Prop} (hK : jRi E .int (KMI ad r K)) {x1 : Int32} {x2 : Int32} {x3 : Int32} {x4 : Int32} {x5 : Int32} {x6 : Int32} {x8 : Int32} {x11 : Int32} {s0 : Int32} {m : MS} {KL52 : Int32 × Int32 × Int32 → Prop} (ih52 : ∀ s : Int32 × Int32 × Int32, KL52 s → J E (mwX ad m r) b [(0, .ref (ad 0)), (1, .int (x1)), (2, .int (x2)), (3, .int (x3)), (4, .int (x4)), (5, .int (x5)), (6, .int (s.1)), (7, .int (s.2.1)), (8, .int (s.2.2))] 52 []) (hw : wX6_rests_151 x1 x2 x3 x4 x5 x6 x8 x11 s0 m KL52 K) : J E (mwX ad m r) b [(0, .ref (ad 0)), (1, .int (x1)), (2, .int (x2)), (3, .int (x3)), (4, .int (x4)), (5, .int (x5)), (6, .int (x6)), (8, .int (x8)), (11, .int (x11))] 151 [.int (s0)] := by
  unfold wX6_rests_151 at hw
  refine j_istore (L' := [(7, .int (s0)), (0, .ref (ad 0)), (1, .int (x1)), (2, .int (x2)), (3, .int (x3)), (4, .int (x4)), (5, .int (x5)), (6, .int (x6)), (8, .int (x8)), (11, .int (x11))]) hE hn dX6_rests_151 (Nat.le_of_ble_eq_true rfl) rfl ?_
  refine j_iload hE 7 dX6_rests_153 rfl ?_
  refine j_iload hE 9 dX6_rests_155 rfl ?_
  refine j_if_eq hE 164 dX6_rests_157 (by decide) (fun c1 => ?_) (fun c1 => ?_)
  · have hw := hw.1 c1
    refine j_iconst hE dX6_rests_164 kc_0 ?_
    refine j_iadd hE dX6_rests_165 ?_
    refine j_topi (fun v2 e_v2 => ?_)
    have hw := hw v2 e_v2
    refine j_istore (L' := [(6, .int (v2)), (7, .int (s0)), (0, .ref (ad 0)), (1, .int (x1)), (2, .int (x2)), (3, .int (x3)), (4, .int (x4)), (5, .int (x5)), (8, .int (x8)), (11, .int (x11))]) hE hn dX6_rests_166 (Nat.le_of_ble_eq_true rfl) rfl ?_
    refine j_iinc (L' := [(8, .int (x8 + 1)), (6, .int (v2)), (7, .int (s0)), (0, .ref (ad 0)), (1, .int (x1)), (2, .int (x2)), (3, .int (x3)), (4, .int (x4)), (5, .int (x5)), (11, .int (x11))]) hE hn 8 dX6_rests_168 rfl (congrArg (x8 + ·) kc_1) (Nat.le_of_ble_eq_true rfl) rfl ?_
    refine j_goto hE 52 dX6_rests_171 (by decide) ?_
    refine j_sub [(0, .ref (ad 0)), (1, .int (x1)), (2, .int (x2)), (3, .int (x3)), (4, .int (x4)), (5, .int (x5)), (6, .int (v2)), (7, .int (s0)), (8, .int (x8 + 1))] [3, 4, 5, 6, 7, 8, 1, 2, 0] rfl ?_
    have hz := ih52 (v2, s0, x8 + 1) hw
    exact hz
  · have hw := hw.2 c1
    refine j_iconst hE dX6_rests_160 kc_1 ?_
    refine j_goto hE 165 dX6_rests_161 (by decide) ?_
    refine j_iadd hE dX6_rests_165 ?_
    refine j_topi (fun v3 e_v3 => ?_)
    have hw := hw v3 e_v3
    refine j_istore (L' := [(6, .int (v3)), (7, .int (s0)), (0, .ref (ad 0)), (1, .int (x1)), (2, .int (x2)), (3, .int (x3)), (4, .int (x4)), (5, .int (x5)), (8, .int (x8)), (11, .int (x11))]) hE hn dX6_rests_166 (Nat.le_of_ble_eq_true rfl) rfl ?_
    refine j_iinc (L' := [(8, .int (x8 + 1)), (6, .int (v3)), (7, .int (s0)), (0, .ref (ad 0)), (1, .int (x1)), (2, .int (x2)), (3, .int (x3)), (4, .int (x4)), (5, .int (x5)), (11, .int (x11))]) hE hn 8 dX6_rests_168 rfl (congrArg (x8 + ·) kc_1) (Nat.le_of_ble_eq_true rfl) rfl ?_
    refine j_goto hE 52 dX6_rests_171 (by decide) ?_
    refine j_sub [(0, .ref (ad 0)), (1, .int (x1)), (2, .int (x2)), (3, .int (x3)), (4, .int (x4)), (5, .int (x5)), (6, .int (v3)), (7, .int (s0)), (8, .int (x8 + 1))] [3, 4, 5, 6, 7, 8, 1, 2, 0] rfl ?_
    have hz := ih52 (v3, s0, x8 + 1) hw
    exact hz
def wX6_rests_149 (x1 : Int32) (x2 : Int32) (x3 : Int32) (x4 : Int32) (x5 : Int32) (x6 : Int32) (x7 : Int32) (x8 : Int32) (x11 : Int32) (m : MS) (KL52 : Int32 × Int32 × Int32 → Prop) (K : Int32 → MS → Prop) : Prop :=
  wX6_rests_151 x1 x2 x3 x4 x5 x6 x8 x11 x7 m KL52 K
set_option maxRecDepth 100000 in
theorem bX6_rests_149 {E : jE} (hE : jOk E cX6_rests RX6) (hn : E.2.2.2.2 = 12) (hR : jRoom E 1 24) {ad : Nat → Nat} (hA : adOk ad) {r : GW} {b : Nat × Nat} {K : Int32 → MS → Prop} (hK : jRi E .int (KMI ad r K)) {x1 : Int32} {x2 : Int32} {x3 : Int32} {x4 : Int32} {x5 : Int32} {x6 : Int32} {x7 : Int32} {x8 : Int32} {x11 : Int32} {m : MS} {KL52 : Int32 × Int32 × Int32 → Prop} (ih52 : ∀ s : Int32 × Int32 × Int32, KL52 s → J E (mwX ad m r) b [(0, .ref (ad 0)), (1, .int (x1)), (2, .int (x2)), (3, .int (x3)), (4, .int (x4)), (5, .int (x5)), (6, .int (s.1)), (7, .int (s.2.1)), (8, .int (s.2.2))] 52 []) (hw : wX6_rests_149 x1 x2 x3 x4 x5 x6 x7 x8 x11 m KL52 K) : J E (mwX ad m r) b [(0, .ref (ad 0)), (1, .int (x1)), (2, .int (x2)), (3, .int (x3)), (4, .int (x4)), (5, .int (x5)), (6, .int (x6)), (7, .int (x7)), (8, .int (x8)), (11, .int (x11))] 149 [] := by
  unfold wX6_rests_149 at hw
  refine j_iload hE 7 dX6_rests_149 rfl ?_
  refine j_sub [(0, .ref (ad 0)), (1, .int (x1)), (2, .int (x2)), (3, .int (x3)), (4, .int (x4)), (5, .int (x5)), (6, .int (x6)), (8, .int (x8)), (11, .int (x11))] [0, 1, 2, 3, 4, 5, 6, 8, 9] rfl ?_
  exact bX6_rests_151 hE hn hR hA hK ih52 hw
def wX6_rests_130 (x1 : Int32) (x2 : Int32) (x3 : Int32) (x4 : Int32) (x5 : Int32) (x6 : Int32) (x7 : Int32) (x8 : Int32) (s0 : Int32) (m : MS) (KL52 : Int32 × Int32 × Int32 → Prop) (K : Int32 → MS → Prop) : Prop :=
  (s0 = 0 → (wX6_rests_149 x1 x2 x3 x4 x5 x6 x7 x8 s0 m KL52 K)) ∧ (¬ s0 = 0 → ((¬ x6 = x4 → (wX6_rests_149 x1 x2 x3 x4 x5 x6 x7 x8 s0 m KL52 K)) ∧ (x6 = x4 → (wX6_rests_151 x1 x2 x3 x4 x5 x6 x8 s0 x8 m KL52 K))))
set_option maxRecDepth 100000 in
theorem bX6_rests_130 {E : jE} (hE : jOk E cX6_rests RX6) (hn : E.2.2.2.2 = 12) (hR : jRoom E 1 24) {ad : Nat → Nat} (hA : adOk ad) {r : GW} {b : Nat × Nat} {K : Int32 → MS → Prop} (hK : jRi E .int (KMI ad r K)) {x1 : Int32} {x2 : Int32} {x3 : Int32} {x4 : Int32} {x5 : Int32} {x6 : Int32} {x7 : Int32} {x8 : Int32} {s0 : Int32} {m : MS} {KL52 : Int32 × Int32 × Int32 → Prop} (ih52 : ∀ s : Int32 × Int32 × Int32, KL52 s → J E (mwX ad m r) b [(0, .ref (ad 0)), (1, .int (x1)), (2, .int (x2)), (3, .int (x3)), (4, .int (x4)), (5, .int (x5)), (6, .int (s.1)), (7, .int (s.2.1)), (8, .int (s.2.2))] 52 []) (hw : wX6_rests_130 x1 x2 x3 x4 x5 x6 x7 x8 s0 m KL52 K) : J E (mwX ad m r) b [(0, .ref (ad 0)), (1, .int (x1)), (2, .int (x2)), (3, .int (x3)), (4, .int (x4)), (5, .int (x5)), (6, .int (x6)), (7, .int (x7)), (8, .int (x8))] 130 [.int (s0)] := by
  unfold wX6_rests_130 at hw
  refine j_istore (L' := [(11, .int (s0)), (0, .ref (ad 0)), (1, .int (x1)), (2, .int (x2)), (3, .int (x3)), (4, .int (x4)), (5, .int (x5)), (6, .int (x6)), (7, .int (x7)), (8, .int (x8))]) hE hn dX6_rests_130 (Nat.le_of_ble_eq_true rfl) rfl ?_
  refine j_iload hE 0 dX6_rests_132 rfl ?_
  refine j_if_eq hE 149 dX6_rests_134 (by decide) (fun c1 => ?_) (fun c1 => ?_)
  · have hw := hw.1 c1
    refine j_sub [(0, .ref (ad 0)), (1, .int (x1)), (2, .int (x2)), (3, .int (x3)), (4, .int (x4)), (5, .int (x5)), (6, .int (x6)), (7, .int (x7)), (8, .int (x8)), (11, .int (s0))] [1, 2, 3, 4, 5, 6, 7, 8, 9, 0] rfl ?_
    exact bX6_rests_149 hE hn hR hA hK ih52 hw
  · have hw := hw.2 c1
    refine j_iload hE 7 dX6_rests_137 rfl ?_
    refine j_iload hE 5 dX6_rests_139 rfl ?_
    refine j_icmp_ne hE 149 dX6_rests_141 (by decide) (fun c2 => ?_) (fun c2 => ?_)
    · have hw := hw.1 c2
      refine j_sub [(0, .ref (ad 0)), (1, .int (x1)), (2, .int (x2)), (3, .int (x3)), (4, .int (x4)), (5, .int (x5)), (6, .int (x6)), (7, .int (x7)), (8, .int (x8)), (11, .int (s0))] [1, 2, 3, 4, 5, 6, 7, 8, 9, 0] rfl ?_
      exact bX6_rests_149 hE hn hR hA hK ih52 hw
    · have hw := hw.2 c2
      refine j_iload hE 9 dX6_rests_144 rfl ?_
      refine j_goto hE 151 dX6_rests_146 (by decide) ?_
      refine j_sub [(0, .ref (ad 0)), (1, .int (x1)), (2, .int (x2)), (3, .int (x3)), (4, .int (x4)), (5, .int (x5)), (6, .int (x6)), (8, .int (x8)), (11, .int (s0))] [1, 2, 3, 4, 5, 6, 7, 9, 0] rfl ?_
      exact bX6_rests_151 hE hn hR hA hK ih52 hw
def wX6_rests_129 (x1 : Int32) (x2 : Int32) (x3 : Int32) (x4 : Int32) (x5 : Int32) (x6 : Int32) (x7 : Int32) (x8 : Int32) (m : MS) (KL52 : Int32 × Int32 × Int32 → Prop) (K : Int32 → MS → Prop) : Prop :=
  wX6_rests_130 x1 x2 x3 x4 x5 x6 x7 x8 0 m KL52 K
set_option maxRecDepth 100000 in
theorem bX6_rests_129 {E : jE} (hE : jOk E cX6_rests RX6) (hn : E.2.2.2.2 = 12) (hR : jRoom E 1 24) {ad : Nat → Nat} (hA : adOk ad) {r : GW} {b : Nat × Nat} {K : Int32 → MS → Prop} (hK : jRi E .int (KMI ad r K)) {x1 : Int32} {x2 : Int32} {x3 : Int32} {x4 : Int32} {x5 : Int32} {x6 : Int32} {x7 : Int32} {x8 : Int32} {m : MS} {KL52 : Int32 × Int32 × Int32 → Prop} (ih52 : ∀ s : Int32 × Int32 × Int32, KL52 s → J E (mwX ad m r) b [(0, .ref (ad 0)), (1, .int (x1)), (2, .int (x2)), (3, .int (x3)), (4, .int (x4)), (5, .int (x5)), (6, .int (s.1)), (7, .int (s.2.1)), (8, .int (s.2.2))] 52 []) (hw : wX6_rests_129 x1 x2 x3 x4 x5 x6 x7 x8 m KL52 K) : J E (mwX ad m r) b [(0, .ref (ad 0)), (1, .int (x1)), (2, .int (x2)), (3, .int (x3)), (4, .int (x4)), (5, .int (x5)), (6, .int (x6)), (7, .int (x7)), (8, .int (x8))] 129 [] := by
  unfold wX6_rests_129 at hw
  refine j_iconst hE dX6_rests_129 kc_0 ?_
  exact bX6_rests_130 hE hn hR hA hK ih52 hw
def wX6_rests_52_b (x1 : Int32) (x2 : Int32) (x3 : Int32) (x4 : Int32) (x5 : Int32) (x6 : Int32) (x7 : Int32) (x8 : Int32) (m : MS) (KL52 : Int32 × Int32 × Int32 → Prop) (K : Int32 → MS → Prop) : Prop :=
  ((nI 4) ≤ x8 → (wX6_rests_174 x4 x5 x6 x7 m K)) ∧ (¬ (nI 4) ≤ x8 → ((x5 = 0 → (wX6_rests_174 x4 x5 x6 x7 m K)) ∧ (¬ x5 = 0 → (¬ (nI 2) = 0 ∧ (∀ v4 : Int32, v4 = x8 / (nI 2) → (¬ (nI 2) = 0 ∧ (∀ v6 : Int32, v6 = irem x8 (nI 2) → (wX6_getsBy (1 - v4) v6 x1 x2 x3 (fun r7 => wX6_getsBy v4 v6 x1 x2 x3 (fun r8 => (r8 < r7 → (wX6_rests_129 x1 x2 x3 x4 x5 x6 x7 x8 m KL52 K)) ∧ (¬ r8 < r7 → (wX6_getsBy (1 - v6) v4 x1 x2 x3 (fun r10 => wX6_getsBy v6 v4 x1 x2 x3 (fun r11 => (r11 < r10 → (wX6_rests_129 x1 x2 x3 x4 x5 x6 x7 x8 m KL52 K)) ∧ (¬ r11 < r10 → (wX6_rests_130 x1 x2 x3 x4 x5 x6 x7 x8 1 m KL52 K))))))))))))))))
def wX6_rests_52 (x1 : Int32) (x2 : Int32) (x3 : Int32) (x4 : Int32) (x5 : Int32) (x6 : Int32) (x7 : Int32) (x8 : Int32) (m : MS) (K : Int32 → MS → Prop) : Prop := lfp (σ := Int32 × Int32 × Int32) (fun KL s => wX6_rests_52_b x1 x2 x3 x4 x5 s.1 s.2.1 s.2.2 m KL K) (x6, x7, x8)
set_option maxRecDepth 100000 in
theorem bX6_rests_52 {E : jE} (hE : jOk E cX6_rests RX6) (hn : E.2.2.2.2 = 12) (hR : jRoom E 1 24) {ad : Nat → Nat} (hA : adOk ad) {r : GW} {b : Nat × Nat} {K : Int32 → MS → Prop} (hK : jRi E .int (KMI ad r K)) {x1 : Int32} {x2 : Int32} {x3 : Int32} {x4 : Int32} {x5 : Int32} {x6 : Int32} {x7 : Int32} {x8 : Int32} {m : MS}  (hw : wX6_rests_52 x1 x2 x3 x4 x5 x6 x7 x8 m K) : J E (mwX ad m r) b [(0, .ref (ad 0)), (1, .int (x1)), (2, .int (x2)), (3, .int (x3)), (4, .int (x4)), (5, .int (x5)), (6, .int (x6)), (7, .int (x7)), (8, .int (x8))] 52 [] := by
  refine lfp_sound (σ := Int32 × Int32 × Int32) (F := fun KL s => wX6_rests_52_b x1 x2 x3 x4 x5 s.1 s.2.1 s.2.2 m KL K) (P := fun s => J E (mwX ad m r) b [(0, .ref (ad 0)), (1, .int (x1)), (2, .int (x2)), (3, .int (x3)), (4, .int (x4)), (5, .int (x5)), (6, .int (s.1)), (7, .int (s.2.1)), (8, .int (s.2.2))] 52 []) ?_ hw
  clear hw
  rintro KL52 ⟨x6, x7, x8⟩ hw ih52
  have hw : wX6_rests_52_b x1 x2 x3 x4 x5 x6 x7 x8 m KL52 K := hw
  unfold wX6_rests_52_b at hw
  refine j_iload hE 8 dX6_rests_52 rfl ?_
  refine j_iconst hE dX6_rests_54 kc_4 ?_
  refine j_icmp_ge hE 174 dX6_rests_55 (by decide) (fun c1 => ?_) (fun c1 => ?_)
  · have hw := hw.1 c1
    refine j_sub [(0, .ref (ad 0)), (4, .int (x4)), (5, .int (x5)), (6, .int (x6)), (7, .int (x7))] [0, 4, 5, 6, 7] rfl ?_
    exact bX6_rests_174 hE hn hR hA hK  hw
  · have hw := hw.2 c1
    refine j_iload hE 5 dX6_rests_58 rfl ?_
    refine j_if_eq hE 174 dX6_rests_60 (by decide) (fun c2 => ?_) (fun c2 => ?_)
    · have hw := hw.1 c2
      refine j_sub [(0, .ref (ad 0)), (4, .int (x4)), (5, .int (x5)), (6, .int (x6)), (7, .int (x7))] [0, 4, 5, 6, 7] rfl ?_
      exact bX6_rests_174 hE hn hR hA hK  hw
    · have hw := hw.2 c2
      refine j_iload hE 8 dX6_rests_63 rfl ?_
      refine j_iconst hE dX6_rests_65 kc_2 ?_
      obtain ⟨h3, hw⟩ := hw
      refine j_idiv hE dX6_rests_66 h3 ?_
      refine j_topi (fun v4 e_v4 => ?_)
      have hw := hw v4 e_v4
      refine j_istore (L' := [(9, .int (v4)), (0, .ref (ad 0)), (1, .int (x1)), (2, .int (x2)), (3, .int (x3)), (4, .int (x4)), (5, .int (x5)), (6, .int (x6)), (7, .int (x7)), (8, .int (x8))]) hE hn dX6_rests_67 (Nat.le_of_ble_eq_true rfl) rfl ?_
      refine j_iload hE 9 dX6_rests_69 rfl ?_
      refine j_iconst hE dX6_rests_71 kc_2 ?_
      obtain ⟨h5, hw⟩ := hw
      refine j_irem hE dX6_rests_72 h5 ?_
      refine j_topi (fun v6 e_v6 => ?_)
      have hw := hw v6 e_v6
      refine j_istore (L' := [(10, .int (v6)), (9, .int (v4)), (0, .ref (ad 0)), (1, .int (x1)), (2, .int (x2)), (3, .int (x3)), (4, .int (x4)), (5, .int (x5)), (6, .int (x6)), (7, .int (x7)), (8, .int (x8))]) hE hn dX6_rests_73 (Nat.le_of_ble_eq_true rfl) rfl ?_
      refine j_iconst hE dX6_rests_75 kc_1 ?_
      refine j_iload hE 1 dX6_rests_76 rfl ?_
      refine j_isub hE dX6_rests_78 ?_
      refine j_iload hE 0 dX6_rests_79 rfl ?_
      refine j_iload_n hE 3 dX6_rests_81 rfl rfl ?_
      refine j_iload_n hE 4 dX6_rests_82 rfl rfl ?_
      refine j_iload_n hE 5 dX6_rests_83 rfl rfl ?_
      refine j_psI hE hR (As := [.int (1 - v4), .int (v6), .int (x1), .int (x2), .int (x3)]) (rest := []) (ctX6_getsBy E.1.2.1 E.2.2.1 _ _ _ _ _ _  _ hw) lkX6_getsBy jdX6_getsBy ⟨Nat.le_of_ble_eq_true rfl, Nat.le_of_ble_eq_true rfl⟩ rfl (Nat.le_of_ble_eq_true rfl) dX6_rests_84 (fun r7 hw => ?_)
      refine j_iload hE 1 dX6_rests_87 rfl ?_
      refine j_iload hE 0 dX6_rests_89 rfl ?_
      refine j_iload_n hE 3 dX6_rests_91 rfl rfl ?_
      refine j_iload_n hE 4 dX6_rests_92 rfl rfl ?_
      refine j_iload_n hE 5 dX6_rests_93 rfl rfl ?_
      refine j_psI hE hR (As := [.int (v4), .int (v6), .int (x1), .int (x2), .int (x3)]) (rest := [.int (r7)]) (ctX6_getsBy E.1.2.1 E.2.2.1 _ _ _ _ _ _  _ hw) lkX6_getsBy jdX6_getsBy ⟨Nat.le_of_ble_eq_true rfl, Nat.le_of_ble_eq_true rfl⟩ rfl (Nat.le_of_ble_eq_true rfl) dX6_rests_94 (fun r8 hw => ?_)
      refine j_icmp_gt hE 129 dX6_rests_97 (by decide) (fun c9 => ?_) (fun c9 => ?_)
      · have hw := hw.1 c9
        refine j_sub [(0, .ref (ad 0)), (1, .int (x1)), (2, .int (x2)), (3, .int (x3)), (4, .int (x4)), (5, .int (x5)), (6, .int (x6)), (7, .int (x7)), (8, .int (x8))] [2, 3, 4, 5, 6, 7, 8, 9, 10] rfl ?_
        exact bX6_rests_129 hE hn hR hA hK ih52 hw
      · have hw := hw.2 c9
        refine j_iconst hE dX6_rests_100 kc_1 ?_
        refine j_iload hE 0 dX6_rests_101 rfl ?_
        refine j_isub hE dX6_rests_103 ?_
        refine j_iload hE 1 dX6_rests_104 rfl ?_
        refine j_iload_n hE 3 dX6_rests_106 rfl rfl ?_
        refine j_iload_n hE 4 dX6_rests_107 rfl rfl ?_
        refine j_iload_n hE 5 dX6_rests_108 rfl rfl ?_
        refine j_psI hE hR (As := [.int (1 - v6), .int (v4), .int (x1), .int (x2), .int (x3)]) (rest := []) (ctX6_getsBy E.1.2.1 E.2.2.1 _ _ _ _ _ _  _ hw) lkX6_getsBy jdX6_getsBy ⟨Nat.le_of_ble_eq_true rfl, Nat.le_of_ble_eq_true rfl⟩ rfl (Nat.le_of_ble_eq_true rfl) dX6_rests_109 (fun r10 hw => ?_)
        refine j_iload hE 0 dX6_rests_112 rfl ?_
        refine j_iload hE 1 dX6_rests_114 rfl ?_
        refine j_iload_n hE 3 dX6_rests_116 rfl rfl ?_
        refine j_iload_n hE 4 dX6_rests_117 rfl rfl ?_
        refine j_iload_n hE 5 dX6_rests_118 rfl rfl ?_
        refine j_psI hE hR (As := [.int (v6), .int (v4), .int (x1), .int (x2), .int (x3)]) (rest := [.int (r10)]) (ctX6_getsBy E.1.2.1 E.2.2.1 _ _ _ _ _ _  _ hw) lkX6_getsBy jdX6_getsBy ⟨Nat.le_of_ble_eq_true rfl, Nat.le_of_ble_eq_true rfl⟩ rfl (Nat.le_of_ble_eq_true rfl) dX6_rests_119 (fun r11 hw => ?_)
        refine j_icmp_gt hE 129 dX6_rests_122 (by decide) (fun c12 => ?_) (fun c12 => ?_)
        · have hw := hw.1 c12
          refine j_sub [(0, .ref (ad 0)), (1, .int (x1)), (2, .int (x2)), (3, .int (x3)), (4, .int (x4)), (5, .int (x5)), (6, .int (x6)), (7, .int (x7)), (8, .int (x8))] [2, 3, 4, 5, 6, 7, 8, 9, 10] rfl ?_
          exact bX6_rests_129 hE hn hR hA hK ih52 hw
        · have hw := hw.2 c12
          refine j_iconst hE dX6_rests_125 kc_1 ?_
          refine j_goto hE 130 dX6_rests_126 (by decide) ?_
          refine j_sub [(0, .ref (ad 0)), (1, .int (x1)), (2, .int (x2)), (3, .int (x3)), (4, .int (x4)), (5, .int (x5)), (6, .int (x6)), (7, .int (x7)), (8, .int (x8))] [2, 3, 4, 5, 6, 7, 8, 9, 10] rfl ?_
          exact bX6_rests_130 hE hn hR hA hK ih52 hw
def wX6_rests_0 (x1 : Int32) (x2 : Int32) (x3 : Int32) (x4 : Int32) (m : MS) (K : Int32 → MS → Prop) : Prop :=
  wX6_within x1 0 (nI 9) (fun r1 => (r1 = 0 → (wX6_rests_52 x1 x2 x3 x4 0 0 ((-1)) 0 m K)) ∧ (¬ r1 = 0 → (wX6_within x2 0 (nI 9) (fun r3 => (r3 = 0 → (wX6_rests_52 x1 x2 x3 x4 0 0 ((-1)) 0 m K)) ∧ (¬ r3 = 0 → (wX6_within x3 0 (nI 9) (fun r5 => (r5 = 0 → (wX6_rests_52 x1 x2 x3 x4 0 0 ((-1)) 0 m K)) ∧ (¬ r5 = 0 → ((x4 < ((-1)) → (wX6_rests_52 x1 x2 x3 x4 0 0 ((-1)) 0 m K)) ∧ (¬ x4 < ((-1)) → (wX6_rests_52 x1 x2 x3 x4 1 0 ((-1)) 0 m K)))))))))))
set_option maxRecDepth 100000 in
theorem bX6_rests_0 {E : jE} (hE : jOk E cX6_rests RX6) (hn : E.2.2.2.2 = 12) (hR : jRoom E 1 24) {ad : Nat → Nat} (hA : adOk ad) {r : GW} {b : Nat × Nat} {K : Int32 → MS → Prop} (hK : jRi E .int (KMI ad r K)) {x1 : Int32} {x2 : Int32} {x3 : Int32} {x4 : Int32} {m : MS}  (hw : wX6_rests_0 x1 x2 x3 x4 m K) : J E (mwX ad m r) b [(0, .ref (ad 0)), (1, .int (x1)), (2, .int (x2)), (3, .int (x3)), (4, .int (x4))] 0 [] := by
  unfold wX6_rests_0 at hw
  refine j_iload_n hE 1 dX6_rests_0 rfl rfl ?_
  refine j_iconst hE dX6_rests_1 kc_0 ?_
  refine j_bipush hE dX6_rests_2 kb_9 ?_
  refine j_psI hE hR (As := [.int (x1), .int (0), .int (nI 9)]) (rest := []) (ctX6_within E.1.2.1 E.2.2.1 _ _ _ _  _ hw) lkX6_within jdX6_within ⟨Nat.le_of_ble_eq_true rfl, Nat.le_of_ble_eq_true rfl⟩ rfl (Nat.le_of_ble_eq_true rfl) dX6_rests_4 (fun r1 hw => ?_)
  refine j_if_eq hE 40 dX6_rests_7 (by decide) (fun c2 => ?_) (fun c2 => ?_)
  · have hw := hw.1 c2
    refine j_iconst hE dX6_rests_40 kc_0 ?_
    refine j_istore (L' := [(5, .int (0)), (0, .ref (ad 0)), (1, .int (x1)), (2, .int (x2)), (3, .int (x3)), (4, .int (x4))]) hE hn dX6_rests_41 (Nat.le_of_ble_eq_true rfl) rfl ?_
    refine j_iconst hE dX6_rests_43 kc_0 ?_
    refine j_istore (L' := [(6, .int (0)), (5, .int (0)), (0, .ref (ad 0)), (1, .int (x1)), (2, .int (x2)), (3, .int (x3)), (4, .int (x4))]) hE hn dX6_rests_44 (Nat.le_of_ble_eq_true rfl) rfl ?_
    refine j_iconst hE dX6_rests_46 kc_m1 ?_
    refine j_istore (L' := [(7, .int ((-1))), (6, .int (0)), (5, .int (0)), (0, .ref (ad 0)), (1, .int (x1)), (2, .int (x2)), (3, .int (x3)), (4, .int (x4))]) hE hn dX6_rests_47 (Nat.le_of_ble_eq_true rfl) rfl ?_
    refine j_iconst hE dX6_rests_49 kc_0 ?_
    refine j_istore (L' := [(8, .int (0)), (7, .int ((-1))), (6, .int (0)), (5, .int (0)), (0, .ref (ad 0)), (1, .int (x1)), (2, .int (x2)), (3, .int (x3)), (4, .int (x4))]) hE hn dX6_rests_50 (Nat.le_of_ble_eq_true rfl) rfl ?_
    refine j_sub [(0, .ref (ad 0)), (1, .int (x1)), (2, .int (x2)), (3, .int (x3)), (4, .int (x4)), (5, .int (0)), (6, .int (0)), (7, .int ((-1))), (8, .int (0))] [4, 5, 6, 7, 8, 3, 2, 1, 0] rfl ?_
    exact bX6_rests_52 hE hn hR hA hK  hw
  · have hw := hw.2 c2
    refine j_iload_n hE 2 dX6_rests_10 rfl rfl ?_
    refine j_iconst hE dX6_rests_11 kc_0 ?_
    refine j_bipush hE dX6_rests_12 kb_9 ?_
    refine j_psI hE hR (As := [.int (x2), .int (0), .int (nI 9)]) (rest := []) (ctX6_within E.1.2.1 E.2.2.1 _ _ _ _  _ hw) lkX6_within jdX6_within ⟨Nat.le_of_ble_eq_true rfl, Nat.le_of_ble_eq_true rfl⟩ rfl (Nat.le_of_ble_eq_true rfl) dX6_rests_14 (fun r3 hw => ?_)
    refine j_if_eq hE 40 dX6_rests_17 (by decide) (fun c4 => ?_) (fun c4 => ?_)
    · have hw := hw.1 c4
      refine j_iconst hE dX6_rests_40 kc_0 ?_
      refine j_istore (L' := [(5, .int (0)), (0, .ref (ad 0)), (1, .int (x1)), (2, .int (x2)), (3, .int (x3)), (4, .int (x4))]) hE hn dX6_rests_41 (Nat.le_of_ble_eq_true rfl) rfl ?_
      refine j_iconst hE dX6_rests_43 kc_0 ?_
      refine j_istore (L' := [(6, .int (0)), (5, .int (0)), (0, .ref (ad 0)), (1, .int (x1)), (2, .int (x2)), (3, .int (x3)), (4, .int (x4))]) hE hn dX6_rests_44 (Nat.le_of_ble_eq_true rfl) rfl ?_
      refine j_iconst hE dX6_rests_46 kc_m1 ?_
      refine j_istore (L' := [(7, .int ((-1))), (6, .int (0)), (5, .int (0)), (0, .ref (ad 0)), (1, .int (x1)), (2, .int (x2)), (3, .int (x3)), (4, .int (x4))]) hE hn dX6_rests_47 (Nat.le_of_ble_eq_true rfl) rfl ?_
      refine j_iconst hE dX6_rests_49 kc_0 ?_
      refine j_istore (L' := [(8, .int (0)), (7, .int ((-1))), (6, .int (0)), (5, .int (0)), (0, .ref (ad 0)), (1, .int (x1)), (2, .int (x2)), (3, .int (x3)), (4, .int (x4))]) hE hn dX6_rests_50 (Nat.le_of_ble_eq_true rfl) rfl ?_
      refine j_sub [(0, .ref (ad 0)), (1, .int (x1)), (2, .int (x2)), (3, .int (x3)), (4, .int (x4)), (5, .int (0)), (6, .int (0)), (7, .int ((-1))), (8, .int (0))] [4, 5, 6, 7, 8, 3, 2, 1, 0] rfl ?_
      exact bX6_rests_52 hE hn hR hA hK  hw
    · have hw := hw.2 c4
      refine j_iload_n hE 3 dX6_rests_20 rfl rfl ?_
      refine j_iconst hE dX6_rests_21 kc_0 ?_
      refine j_bipush hE dX6_rests_22 kb_9 ?_
      refine j_psI hE hR (As := [.int (x3), .int (0), .int (nI 9)]) (rest := []) (ctX6_within E.1.2.1 E.2.2.1 _ _ _ _  _ hw) lkX6_within jdX6_within ⟨Nat.le_of_ble_eq_true rfl, Nat.le_of_ble_eq_true rfl⟩ rfl (Nat.le_of_ble_eq_true rfl) dX6_rests_24 (fun r5 hw => ?_)
      refine j_if_eq hE 40 dX6_rests_27 (by decide) (fun c6 => ?_) (fun c6 => ?_)
      · have hw := hw.1 c6
        refine j_iconst hE dX6_rests_40 kc_0 ?_
        refine j_istore (L' := [(5, .int (0)), (0, .ref (ad 0)), (1, .int (x1)), (2, .int (x2)), (3, .int (x3)), (4, .int (x4))]) hE hn dX6_rests_41 (Nat.le_of_ble_eq_true rfl) rfl ?_
        refine j_iconst hE dX6_rests_43 kc_0 ?_
        refine j_istore (L' := [(6, .int (0)), (5, .int (0)), (0, .ref (ad 0)), (1, .int (x1)), (2, .int (x2)), (3, .int (x3)), (4, .int (x4))]) hE hn dX6_rests_44 (Nat.le_of_ble_eq_true rfl) rfl ?_
        refine j_iconst hE dX6_rests_46 kc_m1 ?_
        refine j_istore (L' := [(7, .int ((-1))), (6, .int (0)), (5, .int (0)), (0, .ref (ad 0)), (1, .int (x1)), (2, .int (x2)), (3, .int (x3)), (4, .int (x4))]) hE hn dX6_rests_47 (Nat.le_of_ble_eq_true rfl) rfl ?_
        refine j_iconst hE dX6_rests_49 kc_0 ?_
        refine j_istore (L' := [(8, .int (0)), (7, .int ((-1))), (6, .int (0)), (5, .int (0)), (0, .ref (ad 0)), (1, .int (x1)), (2, .int (x2)), (3, .int (x3)), (4, .int (x4))]) hE hn dX6_rests_50 (Nat.le_of_ble_eq_true rfl) rfl ?_
        refine j_sub [(0, .ref (ad 0)), (1, .int (x1)), (2, .int (x2)), (3, .int (x3)), (4, .int (x4)), (5, .int (0)), (6, .int (0)), (7, .int ((-1))), (8, .int (0))] [4, 5, 6, 7, 8, 3, 2, 1, 0] rfl ?_
        exact bX6_rests_52 hE hn hR hA hK  hw
      · have hw := hw.2 c6
        refine j_iload hE 4 dX6_rests_30 rfl ?_
        refine j_iconst hE dX6_rests_32 kc_m1 ?_
        refine j_icmp_lt hE 40 dX6_rests_33 (by decide) (fun c7 => ?_) (fun c7 => ?_)
        · have hw := hw.1 c7
          refine j_iconst hE dX6_rests_40 kc_0 ?_
          refine j_istore (L' := [(5, .int (0)), (0, .ref (ad 0)), (1, .int (x1)), (2, .int (x2)), (3, .int (x3)), (4, .int (x4))]) hE hn dX6_rests_41 (Nat.le_of_ble_eq_true rfl) rfl ?_
          refine j_iconst hE dX6_rests_43 kc_0 ?_
          refine j_istore (L' := [(6, .int (0)), (5, .int (0)), (0, .ref (ad 0)), (1, .int (x1)), (2, .int (x2)), (3, .int (x3)), (4, .int (x4))]) hE hn dX6_rests_44 (Nat.le_of_ble_eq_true rfl) rfl ?_
          refine j_iconst hE dX6_rests_46 kc_m1 ?_
          refine j_istore (L' := [(7, .int ((-1))), (6, .int (0)), (5, .int (0)), (0, .ref (ad 0)), (1, .int (x1)), (2, .int (x2)), (3, .int (x3)), (4, .int (x4))]) hE hn dX6_rests_47 (Nat.le_of_ble_eq_true rfl) rfl ?_
          refine j_iconst hE dX6_rests_49 kc_0 ?_
          refine j_istore (L' := [(8, .int (0)), (7, .int ((-1))), (6, .int (0)), (5, .int (0)), (0, .ref (ad 0)), (1, .int (x1)), (2, .int (x2)), (3, .int (x3)), (4, .int (x4))]) hE hn dX6_rests_50 (Nat.le_of_ble_eq_true rfl) rfl ?_
          refine j_sub [(0, .ref (ad 0)), (1, .int (x1)), (2, .int (x2)), (3, .int (x3)), (4, .int (x4)), (5, .int (0)), (6, .int (0)), (7, .int ((-1))), (8, .int (0))] [4, 5, 6, 7, 8, 3, 2, 1, 0] rfl ?_
          exact bX6_rests_52 hE hn hR hA hK  hw
        · have hw := hw.2 c7
          refine j_iconst hE dX6_rests_36 kc_1 ?_
          refine j_goto hE 41 dX6_rests_37 (by decide) ?_
          refine j_istore (L' := [(5, .int (1)), (0, .ref (ad 0)), (1, .int (x1)), (2, .int (x2)), (3, .int (x3)), (4, .int (x4))]) hE hn dX6_rests_41 (Nat.le_of_ble_eq_true rfl) rfl ?_
          refine j_iconst hE dX6_rests_43 kc_0 ?_
          refine j_istore (L' := [(6, .int (0)), (5, .int (1)), (0, .ref (ad 0)), (1, .int (x1)), (2, .int (x2)), (3, .int (x3)), (4, .int (x4))]) hE hn dX6_rests_44 (Nat.le_of_ble_eq_true rfl) rfl ?_
          refine j_iconst hE dX6_rests_46 kc_m1 ?_
          refine j_istore (L' := [(7, .int ((-1))), (6, .int (0)), (5, .int (1)), (0, .ref (ad 0)), (1, .int (x1)), (2, .int (x2)), (3, .int (x3)), (4, .int (x4))]) hE hn dX6_rests_47 (Nat.le_of_ble_eq_true rfl) rfl ?_
          refine j_iconst hE dX6_rests_49 kc_0 ?_
          refine j_istore (L' := [(8, .int (0)), (7, .int ((-1))), (6, .int (0)), (5, .int (1)), (0, .ref (ad 0)), (1, .int (x1)), (2, .int (x2)), (3, .int (x3)), (4, .int (x4))]) hE hn dX6_rests_50 (Nat.le_of_ble_eq_true rfl) rfl ?_
          refine j_sub [(0, .ref (ad 0)), (1, .int (x1)), (2, .int (x2)), (3, .int (x3)), (4, .int (x4)), (5, .int (1)), (6, .int (0)), (7, .int ((-1))), (8, .int (0))] [4, 5, 6, 7, 8, 3, 2, 1, 0] rfl ?_
          exact bX6_rests_52 hE hn hR hA hK  hw
abbrev wX6_rests := wX6_rests_0
theorem ctX6_rests (l : Launch) (G : gG) {ad : Nat → Nat} (hA : adOk ad) (m0 : MS) (r : GW) (x1 : Int32) (x2 : Int32) (x3 : Int32) (x4 : Int32) (K : Int32 → MS → Prop) (hw : wX6_rests x1 x2 x3 x4 m0 K) : CtI l yX6_rests cX6_rests 12 .int ({ frames := 1, cells := 0, slots := 0, locals := 24 }) G [.ref (ad 0), .int (x1), .int (x2), .int (x3), .int (x4)] (mwX ad m0 r) (KMI ad r K) :=
  CtI.of RX6 plain_X6 rfl (Nat.le_of_ble_eq_true rfl) (fun E hE _ _ hn hR hK => bX6_rests_0 hE hn hR hA hK hw)
theorem jdX6_rests : jD yX6_rests 4 := by decide +kernel
def wX6_draw_0 (x1 : Int32) (m : MS) (K : Int32 → MS → Prop) : Prop :=
  ¬ ((2147483648 : Int64)) = 0 ∧ (∀ m2 : MS, m2 = s0 m (lrem (((g0 m) * ((1103515245 : Int64))) + ((12345 : Int64))) ((2147483648 : Int64))) → (¬ ((65536 : Int64)) = 0 ∧ (¬ x1.toInt64 = 0 ∧ (K ((lrem ((g0 m2) / ((65536 : Int64))) x1.toInt64).toInt32) m2))))
set_option maxRecDepth 100000 in
theorem bX6_draw_0 {E : jE} (hE : jOk E cX6_draw RX6) (hn : E.2.2.2.2 = 2) (hR : jRoom E 0 0) {ad : Nat → Nat} (hA : adOk ad) {r : GW} {b : Nat × Nat} {K : Int32 → MS → Prop} (hK : jRi E .int (KMI ad r K)) {x1 : Int32} {m : MS}  (hw : wX6_draw_0 x1 m K) : J E (mwX ad m r) b [(0, .ref (ad 0)), (1, .int (x1))] 0 [] := by
  unfold wX6_draw_0 at hw
  refine j_aload_n hE 0 dX6_draw_0 rfl rfl ?_
  refine j_aload_n hE 0 dX6_draw_1 rfl rfl ?_
  refine jm_get hE hA 28 (Nat.le_of_ble_eq_true rfl) q1675 rfl (v := .long (g0 m)) rfl dX6_draw_2 ?_
  refine j_ldc2 hE q2162 dX6_draw_5 ?_
  refine j_lmul hE dX6_draw_8 ?_
  refine j_ldc2 hE q2163 dX6_draw_9 ?_
  refine j_ladd hE dX6_draw_12 ?_
  refine j_ldc2 hE q2164 dX6_draw_13 ?_
  obtain ⟨h1, hw⟩ := hw
  refine j_lrem hE dX6_draw_16 h1 ?_
  refine jm_put0 hE hA 28 (Nat.le_of_ble_eq_true rfl) q1675 rfl rfl (mset_g _ _ _) rfl rfl dX6_draw_17 ?_
  refine j_wm (fun m2 e_m2 => ?_)
  have hw := hw m2 e_m2
  refine j_aload_n hE 0 dX6_draw_20 rfl rfl ?_
  refine jm_get hE hA 28 (Nat.le_of_ble_eq_true rfl) q1675 rfl (v := .long (g0 m2)) rfl dX6_draw_21 ?_
  refine j_ldc2 hE q2165 dX6_draw_24 ?_
  obtain ⟨h3, hw⟩ := hw
  refine j_ldiv hE dX6_draw_27 h3 ?_
  refine j_iload_n hE 1 dX6_draw_28 rfl rfl ?_
  refine j_i2l hE dX6_draw_29 ?_
  obtain ⟨h4, hw⟩ := hw
  refine j_lrem hE dX6_draw_30 h4 ?_
  refine j_l2i hE dX6_draw_31 ?_
  exact j_iret hE hK dX6_draw_32 rfl ⟨_, rfl, hw⟩
abbrev wX6_draw := wX6_draw_0
theorem ctX6_draw (l : Launch) (G : gG) {ad : Nat → Nat} (hA : adOk ad) (m0 : MS) (r : GW) (x1 : Int32) (K : Int32 → MS → Prop) (hw : wX6_draw x1 m0 K) : CtI l yX6_draw cX6_draw 2 .int ({ frames := 0, cells := 0, slots := 0, locals := 0 }) G [.ref (ad 0), .int (x1)] (mwX ad m0 r) (KMI ad r K) :=
  CtI.of RX6 plain_X6 rfl (Nat.le_of_ble_eq_true rfl) (fun E hE _ _ hn hR hK => bX6_draw_0 hE hn hR hA hK hw)
theorem jdX6_draw : jD yX6_draw 1 := by decide +kernel
theorem lkX6_draw : GoodIn lw_all (wsV RX6 402 yX6_draw.cls yX6_draw (ws_ yX6_draw cX6_draw 2 (some .int))) := lw_V q2158 q2160 qs117 q129 q2161
def wX6_drawsPerson_35 (x1 : Int32) (x3 : Int32) (s0 : Int32) (m : MS) (K : MS → Prop) : Prop :=
  wX6_within s0 0 (nI 9) (fun r1 => (r1 = 0 → (vp_in ((nI 1453) + x1) 1518 ∧ (∀ m4 : MS, m4 = wA m 11 ((nI 1453) + x1) x3 → (K m4)))) ∧ (¬ r1 = 0 → (vp_in ((nI 1453) + x1) 1518 ∧ (∀ m6 : MS, m6 = wA m 11 ((nI 1453) + x1) s0 → (K m6)))))
set_option maxRecDepth 100000 in
theorem bX6_drawsPerson_35 {E : jE} (hE : jOk E cX6_drawsPerson RX6) (hn : E.2.2.2.2 = 5) (hR : jRoom E 5 120) {ad : Nat → Nat} (hA : adOk ad) {r : GW} {b : Nat × Nat} {K : MS → Prop} (hK : jRv E (KMV ad r K)) {x1 : Int32} {x3 : Int32} {s0 : Int32} {m : MS}  (hw : wX6_drawsPerson_35 x1 x3 s0 m K) : J E (mwX ad m r) b [(0, .ref (ad 0)), (1, .int (x1)), (3, .int (x3))] 35 [.int (s0)] := by
  unfold wX6_drawsPerson_35 at hw
  refine j_istore (L' := [(4, .int (s0)), (0, .ref (ad 0)), (1, .int (x1)), (3, .int (x3))]) hE hn dX6_drawsPerson_35 (Nat.le_of_ble_eq_true rfl) rfl ?_
  refine j_aload_n hE 1 dX6_drawsPerson_37 rfl rfl ?_
  refine jm_get hE hA 24 (Nat.le_of_ble_eq_true rfl) q1671 rfl (v := .ref (ad 12)) rfl dX6_drawsPerson_38 ?_
  refine j_sipush hE dX6_drawsPerson_41 ks_1453 ?_
  refine j_iload_n hE 2 dX6_drawsPerson_44 rfl rfl ?_
  refine j_iadd hE dX6_drawsPerson_45 ?_
  refine j_iload hE 0 dX6_drawsPerson_46 rfl ?_
  refine j_iconst hE dX6_drawsPerson_48 kc_0 ?_
  refine j_bipush hE dX6_drawsPerson_49 kb_9 ?_
  refine j_psI hE hR (As := [.int (s0), .int (0), .int (nI 9)]) (rest := [.int ((nI 1453) + x1), .ref (ad 12)]) (ctX6_within E.1.2.1 E.2.2.1 _ _ _ _  _ hw) lkX6_within jdX6_within ⟨Nat.le_of_ble_eq_true rfl, Nat.le_of_ble_eq_true rfl⟩ rfl (Nat.le_of_ble_eq_true rfl) dX6_drawsPerson_51 (fun r1 hw => ?_)
  refine j_if_eq hE 62 dX6_drawsPerson_54 (by decide) (fun c2 => ?_) (fun c2 => ?_)
  · have hw := hw.1 c2
    refine j_iload_n hE 3 dX6_drawsPerson_62 rfl rfl ?_
    obtain ⟨h3, hw⟩ := hw
    refine jm_iast hE hA 11 (Nat.le_of_ble_eq_true rfl) h3 dX6_drawsPerson_63 ?_
    refine j_wm (fun m4 e_m4 => ?_)
    have hw := hw m4 e_m4
    refine j_goto hE 122 dX6_drawsPerson_64 (by decide) ?_
    exact j_vret hE hK dX6_drawsPerson_122 ⟨_, rfl, hw⟩
  · have hw := hw.2 c2
    refine j_iload hE 0 dX6_drawsPerson_57 rfl ?_
    refine j_goto hE 63 dX6_drawsPerson_59 (by decide) ?_
    obtain ⟨h5, hw⟩ := hw
    refine jm_iast hE hA 11 (Nat.le_of_ble_eq_true rfl) h5 dX6_drawsPerson_63 ?_
    refine j_wm (fun m6 e_m6 => ?_)
    have hw := hw m6 e_m6
    refine j_goto hE 122 dX6_drawsPerson_64 (by decide) ?_
    exact j_vret hE hK dX6_drawsPerson_122 ⟨_, rfl, hw⟩
def wX6_drawsPerson_0 (x1 : Int32) (m : MS) (K : MS → Prop) : Prop :=
  wX6_draw (nI 3) m (fun r1 m2 => vp_in ((nI 1453) + x1) 1518 ∧ (∀ v4 : Int32, v4 = rd (gA m2 11) ((nI 1453) + x1) → (((nI 2) ≤ r1 → (wX6_deeds  m2 (fun r6 => (r6 ≤ 0 → (K m2)) ∧ (¬ r6 ≤ 0 → (wX6_deeds  m2 (fun r8 => wX6_draw r8 m2 (fun r9 m10 => wX6_does_2 (nI 1452) x1 r9 v4 m10 (fun r11 m12 => ∀ m13 : MS, m13 = sF m12 11 ((gF m12 11) + 1) → ((¬ r11 = 0 → (∀ m15 : MS, m15 = sF m13 12 ((gF m13 12) + 0) → (K m15))) ∧ (r11 = 0 → (∀ m16 : MS, m16 = sF m13 12 ((gF m13 12) + 1) → (K m16)))))))))))) ∧ (¬ (nI 2) ≤ r1 → ((¬ r1 = 0 → (wX6_drawsPerson_35 x1 v4 (v4 + 1) m2 K)) ∧ (r1 = 0 → (wX6_drawsPerson_35 x1 v4 (v4 - 1) m2 K)))))))
set_option maxRecDepth 100000 in
theorem bX6_drawsPerson_0 {E : jE} (hE : jOk E cX6_drawsPerson RX6) (hn : E.2.2.2.2 = 5) (hR : jRoom E 5 120) {ad : Nat → Nat} (hA : adOk ad) {r : GW} {b : Nat × Nat} {K : MS → Prop} (hK : jRv E (KMV ad r K)) {x1 : Int32} {m : MS}  (hw : wX6_drawsPerson_0 x1 m K) : J E (mwX ad m r) b [(0, .ref (ad 0)), (1, .int (x1))] 0 [] := by
  unfold wX6_drawsPerson_0 at hw
  refine j_aload_n hE 0 dX6_drawsPerson_0 rfl rfl ?_
  refine j_iconst hE dX6_drawsPerson_1 kc_3 ?_
  refine jm_cI hE hA hR (As := [.int (nI 3)]) (rest := []) (ctX6_draw E.1.2.1 E.2.2.1 hA _ _ _  _ hw) rfl lkX6_draw jdX6_draw ⟨Nat.le_of_ble_eq_true rfl, Nat.le_of_ble_eq_true rfl⟩ rfl (Nat.le_of_ble_eq_true rfl) dX6_drawsPerson_2 (fun r1 m2 hw => ?_)
  refine j_istore_n (L' := [(2, .int (r1)), (0, .ref (ad 0)), (1, .int (x1))]) hE hn dX6_drawsPerson_5 rfl (Nat.le_of_ble_eq_true rfl) rfl ?_
  refine j_aload_n hE 1 dX6_drawsPerson_6 rfl rfl ?_
  refine jm_get hE hA 24 (Nat.le_of_ble_eq_true rfl) q1671 rfl (v := .ref (ad 12)) rfl dX6_drawsPerson_7 ?_
  refine j_sipush hE dX6_drawsPerson_10 ks_1453 ?_
  refine j_iload_n hE 2 dX6_drawsPerson_13 rfl rfl ?_
  refine j_iadd hE dX6_drawsPerson_14 ?_
  obtain ⟨h3, hw⟩ := hw
  refine jm_iald hE hA 11 (Nat.le_of_ble_eq_true rfl) h3 dX6_drawsPerson_15 ?_
  refine j_topi (fun v4 e_v4 => ?_)
  have hw := hw v4 e_v4
  refine j_istore_n (L' := [(3, .int (v4)), (2, .int (r1)), (0, .ref (ad 0)), (1, .int (x1))]) hE hn dX6_drawsPerson_16 rfl (Nat.le_of_ble_eq_true rfl) rfl ?_
  refine j_iload_n hE 1 dX6_drawsPerson_17 rfl rfl ?_
  refine j_iconst hE dX6_drawsPerson_18 kc_2 ?_
  refine j_icmp_ge hE 67 dX6_drawsPerson_19 (by decide) (fun c5 => ?_) (fun c5 => ?_)
  · have hw := hw.1 c5
    refine j_aload_n hE 2 dX6_drawsPerson_67 rfl rfl ?_
    refine jm_pI hE hA hR (As := []) (rest := []) (ctX6_deeds E.1.2.1 E.2.2.1 hA _ _  _ hw) rfl lkX6_deeds jdX6_deeds ⟨Nat.le_of_ble_eq_true rfl, Nat.le_of_ble_eq_true rfl⟩ rfl (Nat.le_of_ble_eq_true rfl) dX6_drawsPerson_68 (fun r6 hw => ?_)
    refine j_if_le hE 122 dX6_drawsPerson_71 (by decide) (fun c7 => ?_) (fun c7 => ?_)
    · have hw := hw.1 c7
      exact j_vret hE hK dX6_drawsPerson_122 ⟨_, rfl, hw⟩
    · have hw := hw.2 c7
      refine j_aload_n hE 2 dX6_drawsPerson_74 rfl rfl ?_
      refine j_sipush hE dX6_drawsPerson_75 ks_1452 ?_
      refine j_iload_n hE 3 dX6_drawsPerson_78 rfl rfl ?_
      refine j_aload_n hE 2 dX6_drawsPerson_79 rfl rfl ?_
      refine j_aload_n hE 2 dX6_drawsPerson_80 rfl rfl ?_
      refine jm_pI hE hA hR (As := []) (rest := [.ref (ad 0), .int (x1), .int (nI 1452), .ref (ad 0)]) (ctX6_deeds E.1.2.1 E.2.2.1 hA _ _  _ hw) rfl lkX6_deeds jdX6_deeds ⟨Nat.le_of_ble_eq_true rfl, Nat.le_of_ble_eq_true rfl⟩ rfl (Nat.le_of_ble_eq_true rfl) dX6_drawsPerson_81 (fun r8 hw => ?_)
      refine jm_cI hE hA hR (As := [.int (r8)]) (rest := [.int (x1), .int (nI 1452), .ref (ad 0)]) (ctX6_draw E.1.2.1 E.2.2.1 hA _ _ _  _ hw) rfl lkX6_draw jdX6_draw ⟨Nat.le_of_ble_eq_true rfl, Nat.le_of_ble_eq_true rfl⟩ rfl (Nat.le_of_ble_eq_true rfl) dX6_drawsPerson_84 (fun r9 m10 hw => ?_)
      refine j_iload_n hE 0 dX6_drawsPerson_87 rfl rfl ?_
      refine jm_cI hE hA hR (As := [.int (nI 1452), .int (x1), .int (r9), .int (v4)]) (rest := []) (ctX6_does_2 E.1.2.1 E.2.2.1 hA _ _ _ _ _ _  _ hw) rfl lkX6_does_2 jdX6_does_2 ⟨Nat.le_of_ble_eq_true rfl, Nat.le_of_ble_eq_true rfl⟩ rfl (Nat.le_of_ble_eq_true rfl) dX6_drawsPerson_88 (fun r11 m12 hw => ?_)
      refine j_istore (L' := [(4, .int (r11)), (3, .int (v4)), (2, .int (r1)), (0, .ref (ad 0)), (1, .int (x1))]) hE hn dX6_drawsPerson_91 (Nat.le_of_ble_eq_true rfl) rfl ?_
      refine j_aload_n hE 3 dX6_drawsPerson_93 rfl rfl ?_
      refine j_dup hE dX6_drawsPerson_94 rfl ?_
      refine jm_get hE hA 29 (Nat.le_of_ble_eq_true rfl) q1676 rfl (v := .int (gF m12 11)) rfl dX6_drawsPerson_95 ?_
      refine j_iconst hE dX6_drawsPerson_98 kc_1 ?_
      refine j_iadd hE dX6_drawsPerson_99 ?_
      refine jm_putF hE hA 29 11 (Nat.le_of_ble_eq_true rfl) q1676 rfl rfl (mset_11 _ _ _) rfl rfl dX6_drawsPerson_100 ?_
      refine j_wm (fun m13 e_m13 => ?_)
      have hw := hw m13 e_m13
      refine j_aload_n hE 3 dX6_drawsPerson_103 rfl rfl ?_
      refine j_dup hE dX6_drawsPerson_104 rfl ?_
      refine jm_get hE hA 30 (Nat.le_of_ble_eq_true rfl) q1677 rfl (v := .int (gF m13 12)) rfl dX6_drawsPerson_105 ?_
      refine j_iload hE 0 dX6_drawsPerson_108 rfl ?_
      refine j_if_ne hE 117 dX6_drawsPerson_110 (by decide) (fun c14 => ?_) (fun c14 => ?_)
      · have hw := hw.1 c14
        refine j_iconst hE dX6_drawsPerson_117 kc_0 ?_
        refine j_iadd hE dX6_drawsPerson_118 ?_
        refine jm_putF hE hA 30 12 (Nat.le_of_ble_eq_true rfl) q1677 rfl rfl (mset_12 _ _ _) rfl rfl dX6_drawsPerson_119 ?_
        refine j_wm (fun m15 e_m15 => ?_)
        have hw := hw m15 e_m15
        exact j_vret hE hK dX6_drawsPerson_122 ⟨_, rfl, hw⟩
      · have hw := hw.2 c14
        refine j_iconst hE dX6_drawsPerson_113 kc_1 ?_
        refine j_goto hE 118 dX6_drawsPerson_114 (by decide) ?_
        refine j_iadd hE dX6_drawsPerson_118 ?_
        refine jm_putF hE hA 30 12 (Nat.le_of_ble_eq_true rfl) q1677 rfl rfl (mset_12 _ _ _) rfl rfl dX6_drawsPerson_119 ?_
        refine j_wm (fun m16 e_m16 => ?_)
        have hw := hw m16 e_m16
        exact j_vret hE hK dX6_drawsPerson_122 ⟨_, rfl, hw⟩
  · have hw := hw.2 c5
    refine j_iload_n hE 1 dX6_drawsPerson_22 rfl rfl ?_
    refine j_if_ne hE 32 dX6_drawsPerson_23 (by decide) (fun c17 => ?_) (fun c17 => ?_)
    · have hw := hw.1 c17
      refine j_iload_n hE 0 dX6_drawsPerson_32 rfl rfl ?_
      refine j_iconst hE dX6_drawsPerson_33 kc_1 ?_
      refine j_iadd hE dX6_drawsPerson_34 ?_
      refine j_sub [(0, .ref (ad 0)), (1, .int (x1)), (3, .int (v4))] [2, 3, 0] rfl ?_
      exact bX6_drawsPerson_35 hE hn hR hA hK  hw
    · have hw := hw.2 c17
      refine j_iload_n hE 0 dX6_drawsPerson_26 rfl rfl ?_
      refine j_iconst hE dX6_drawsPerson_27 kc_1 ?_
      refine j_isub hE dX6_drawsPerson_28 ?_
      refine j_goto hE 35 dX6_drawsPerson_29 (by decide) ?_
      refine j_sub [(0, .ref (ad 0)), (1, .int (x1)), (3, .int (v4))] [2, 3, 0] rfl ?_
      exact bX6_drawsPerson_35 hE hn hR hA hK  hw
abbrev wX6_drawsPerson := wX6_drawsPerson_0
theorem ctX6_drawsPerson (l : Launch) (G : gG) {ad : Nat → Nat} (hA : adOk ad) (m0 : MS) (r : GW) (x1 : Int32) (K : MS → Prop) (hw : wX6_drawsPerson x1 m0 K) : CtV l yX6_drawsPerson cX6_drawsPerson 5 ({ frames := 5, cells := 0, slots := 0, locals := 120 }) G [.ref (ad 0), .int (x1)] (mwX ad m0 r) (KMV ad r K) :=
  CtV.of RX6 plain_X6 rfl (Nat.le_of_ble_eq_true rfl) (fun E hE _ _ hn hR hK => bX6_drawsPerson_0 hE hn hR hA hK hw)
theorem jdX6_drawsPerson : jD yX6_drawsPerson 1 := by decide +kernel
theorem lkX6_drawsPerson : GoodIn lw_all (wsV RX6 411 yX6_drawsPerson.cls yX6_drawsPerson (ws_ yX6_drawsPerson cX6_drawsPerson 5 none)) := lw_V q2154 q2156 qs116 q129 q2157
def wX6_years_153 (x2 : Int32) (x3 : Int32) (x4 : Int32) (m : MS) (KL66 : Int32 × MS → Prop) (K : Int32 → MS → Prop) : Prop :=
  wX6_passes (nI 1452) m (fun r1 m2 => KL66 (x4 + 1, m2))
set_option maxRecDepth 100000 in
theorem bX6_years_153 {E : jE} (hE : jOk E cX6_years RX6) (hn : E.2.2.2.2 = 6) (hR : jRoom E 6 144) {ad : Nat → Nat} (hA : adOk ad) {r : GW} {b : Nat × Nat} {K : Int32 → MS → Prop} (hK : jRi E .int (KMI ad r K)) {x2 : Int32} {x3 : Int32} {x4 : Int32} {m : MS} {KL66 : Int32 × MS → Prop} (ih66 : ∀ s : Int32 × MS, KL66 s → J E (mwX ad (s.2) r) b [(0, .ref (ad 0)), (2, .int (x2)), (3, .int (x3)), (4, .int (s.1))] 66 []) (hw : wX6_years_153 x2 x3 x4 m KL66 K) : J E (mwX ad m r) b [(0, .ref (ad 0)), (2, .int (x2)), (3, .int (x3)), (4, .int (x4))] 153 [] := by
  unfold wX6_years_153 at hw
  refine j_aload_n hE 0 dX6_years_153 rfl rfl ?_
  refine j_sipush hE dX6_years_154 ks_1452 ?_
  refine jm_cI hE hA hR (As := [.int (nI 1452)]) (rest := []) (ctX6_passes E.1.2.1 E.2.2.1 hA _ _ _  _ hw) rfl lkX6_passes jdX6_passes ⟨Nat.le_of_ble_eq_true rfl, Nat.le_of_ble_eq_true rfl⟩ rfl (Nat.le_of_ble_eq_true rfl) dX6_years_157 (fun r1 m2 hw => ?_)
  refine j_pop hE dX6_years_160 rfl ?_
  refine j_iinc (L' := [(4, .int (x4 + 1)), (0, .ref (ad 0)), (2, .int (x2)), (3, .int (x3))]) hE hn 3 dX6_years_161 rfl (congrArg (x4 + ·) kc_1) (Nat.le_of_ble_eq_true rfl) rfl ?_
  refine j_goto hE 66 dX6_years_164 (by decide) ?_
  refine j_sub [(0, .ref (ad 0)), (2, .int (x2)), (3, .int (x3)), (4, .int (x4 + 1))] [1, 2, 3, 0] rfl ?_
  have hz := ih66 (x4 + 1, m2) hw
  exact hz
def wX6_years_151 (x2 : Int32) (x3 : Int32) (x4 : Int32) (s1 : Int32) (s2 : Int32) (s3 : Int32) (m : MS) (KL66 : Int32 × MS → Prop) (K : Int32 → MS → Prop) : Prop :=
  vp_in s1 1518 ∧ (∀ m2 : MS, m2 = wA m 11 s1 (s2 - s3) → (wX6_years_153 x2 x3 x4 m2 KL66 K))
set_option maxRecDepth 100000 in
theorem bX6_years_151 {E : jE} (hE : jOk E cX6_years RX6) (hn : E.2.2.2.2 = 6) (hR : jRoom E 6 144) {ad : Nat → Nat} (hA : adOk ad) {r : GW} {b : Nat × Nat} {K : Int32 → MS → Prop} (hK : jRi E .int (KMI ad r K)) {x2 : Int32} {x3 : Int32} {x4 : Int32} {s1 : Int32} {s2 : Int32} {s3 : Int32} {m : MS} {KL66 : Int32 × MS → Prop} (ih66 : ∀ s : Int32 × MS, KL66 s → J E (mwX ad (s.2) r) b [(0, .ref (ad 0)), (2, .int (x2)), (3, .int (x3)), (4, .int (s.1))] 66 []) (hw : wX6_years_151 x2 x3 x4 s1 s2 s3 m KL66 K) : J E (mwX ad m r) b [(0, .ref (ad 0)), (2, .int (x2)), (3, .int (x3)), (4, .int (x4))] 151 [.int (s3), .int (s2), .int (s1), .ref (ad 12)] := by
  unfold wX6_years_151 at hw
  refine j_isub hE dX6_years_151 ?_
  obtain ⟨h1, hw⟩ := hw
  refine jm_iast hE hA 11 (Nat.le_of_ble_eq_true rfl) h1 dX6_years_152 ?_
  refine j_wm (fun m2 e_m2 => ?_)
  have hw := hw m2 e_m2
  exact bX6_years_153 hE hn hR hA hK ih66 hw
def wX6_years_75_b (x2 : Int32) (x3 : Int32) (x4 : Int32) (x5 : Int32) (m : MS) (KL75 : Int32 × MS → Prop) (KL66 : Int32 × MS → Prop) (K : Int32 → MS → Prop) : Prop :=
  wX6_people  m (fun r1 => (r1 ≤ x5 → (wX6_panes  m (fun r3 => (r3 ≤ 0 → (wX6_years_153 x2 x3 x4 m KL66 K)) ∧ (¬ r3 ≤ 0 → (wX6_draw (nI 9) m (fun r5 m6 => (¬ r5 = 0 → (wX6_years_153 x2 x3 x4 m6 KL66 K)) ∧ (r5 = 0 → (wX6_panes  m6 (fun r8 => wX6_draw r8 m6 (fun r9 m10 => vp_in ((nI 1470) + r9) 1518 ∧ (wX6_mayWash (nI 1452) r9 m10 (fun r12 => (r12 = 0 → (wX6_years_151 x2 x3 x4 ((nI 1470) + r9) (rd (gA m10 11) ((nI 1470) + r9)) 0 m10 KL66 K)) ∧ (¬ r12 = 0 → (wX6_years_151 x2 x3 x4 ((nI 1470) + r9) (rd (gA m10 11) ((nI 1470) + r9)) 1 m10 KL66 K)))))))))))))) ∧ (¬ r1 ≤ x5 → (wX6_drawsPerson x5 m (fun  m14 => KL75 (x5 + 1, m14)))))
def wX6_years_75 (x2 : Int32) (x3 : Int32) (x4 : Int32) (x5 : Int32) (m : MS) (KL66 : Int32 × MS → Prop) (K : Int32 → MS → Prop) : Prop := lfp (σ := Int32 × MS) (fun KL s => wX6_years_75_b x2 x3 x4 s.1 s.2 KL KL66 K) (x5, m)
set_option maxRecDepth 100000 in
theorem bX6_years_75 {E : jE} (hE : jOk E cX6_years RX6) (hn : E.2.2.2.2 = 6) (hR : jRoom E 6 144) {ad : Nat → Nat} (hA : adOk ad) {r : GW} {b : Nat × Nat} {K : Int32 → MS → Prop} (hK : jRi E .int (KMI ad r K)) {x2 : Int32} {x3 : Int32} {x4 : Int32} {x5 : Int32} {m : MS} {KL66 : Int32 × MS → Prop} (ih66 : ∀ s : Int32 × MS, KL66 s → J E (mwX ad (s.2) r) b [(0, .ref (ad 0)), (2, .int (x2)), (3, .int (x3)), (4, .int (s.1))] 66 []) (hw : wX6_years_75 x2 x3 x4 x5 m KL66 K) : J E (mwX ad m r) b [(0, .ref (ad 0)), (2, .int (x2)), (3, .int (x3)), (4, .int (x4)), (5, .int (x5))] 75 [] := by
  refine lfp_sound (σ := Int32 × MS) (F := fun KL s => wX6_years_75_b x2 x3 x4 s.1 s.2 KL KL66 K) (P := fun s => J E (mwX ad (s.2) r) b [(0, .ref (ad 0)), (2, .int (x2)), (3, .int (x3)), (4, .int (x4)), (5, .int (s.1))] 75 []) ?_ hw
  clear hw
  rintro KL75 ⟨x5, m⟩ hw ih75
  have hw : wX6_years_75_b x2 x3 x4 x5 m KL75 KL66 K := hw
  unfold wX6_years_75_b at hw
  refine j_iload hE 4 dX6_years_75 rfl ?_
  refine j_aload_n hE 0 dX6_years_77 rfl rfl ?_
  refine jm_pI hE hA hR (As := []) (rest := [.int (x5)]) (ctX6_people E.1.2.1 E.2.2.1 hA _ _  _ hw) rfl lkX6_people jdX6_people ⟨Nat.le_of_ble_eq_true rfl, Nat.le_of_ble_eq_true rfl⟩ rfl (Nat.le_of_ble_eq_true rfl) dX6_years_78 (fun r1 hw => ?_)
  refine j_icmp_ge hE 96 dX6_years_81 (by decide) (fun c2 => ?_) (fun c2 => ?_)
  · have hw := hw.1 c2
    refine j_aload_n hE 0 dX6_years_96 rfl rfl ?_
    refine jm_pI hE hA hR (As := []) (rest := []) (ctX6_panes E.1.2.1 E.2.2.1 hA _ _  _ hw) rfl lkX6_panes jdX6_panes ⟨Nat.le_of_ble_eq_true rfl, Nat.le_of_ble_eq_true rfl⟩ rfl (Nat.le_of_ble_eq_true rfl) dX6_years_97 (fun r3 hw => ?_)
    refine j_if_le hE 153 dX6_years_100 (by decide) (fun c4 => ?_) (fun c4 => ?_)
    · have hw := hw.1 c4
      refine j_sub [(0, .ref (ad 0)), (2, .int (x2)), (3, .int (x3)), (4, .int (x4))] [0, 1, 2, 3] rfl ?_
      exact bX6_years_153 hE hn hR hA hK ih66 hw
    · have hw := hw.2 c4
      refine j_aload_n hE 0 dX6_years_103 rfl rfl ?_
      refine j_bipush hE dX6_years_104 kb_9 ?_
      refine jm_cI hE hA hR (As := [.int (nI 9)]) (rest := []) (ctX6_draw E.1.2.1 E.2.2.1 hA _ _ _  _ hw) rfl lkX6_draw jdX6_draw ⟨Nat.le_of_ble_eq_true rfl, Nat.le_of_ble_eq_true rfl⟩ rfl (Nat.le_of_ble_eq_true rfl) dX6_years_106 (fun r5 m6 hw => ?_)
      refine j_if_ne hE 153 dX6_years_109 (by decide) (fun c7 => ?_) (fun c7 => ?_)
      · have hw := hw.1 c7
        refine j_sub [(0, .ref (ad 0)), (2, .int (x2)), (3, .int (x3)), (4, .int (x4))] [0, 1, 2, 3] rfl ?_
        exact bX6_years_153 hE hn hR hA hK ih66 hw
      · have hw := hw.2 c7
        refine j_aload_n hE 0 dX6_years_112 rfl rfl ?_
        refine j_aload_n hE 0 dX6_years_113 rfl rfl ?_
        refine jm_pI hE hA hR (As := []) (rest := [.ref (ad 0)]) (ctX6_panes E.1.2.1 E.2.2.1 hA _ _  _ hw) rfl lkX6_panes jdX6_panes ⟨Nat.le_of_ble_eq_true rfl, Nat.le_of_ble_eq_true rfl⟩ rfl (Nat.le_of_ble_eq_true rfl) dX6_years_114 (fun r8 hw => ?_)
        refine jm_cI hE hA hR (As := [.int (r8)]) (rest := []) (ctX6_draw E.1.2.1 E.2.2.1 hA _ _ _  _ hw) rfl lkX6_draw jdX6_draw ⟨Nat.le_of_ble_eq_true rfl, Nat.le_of_ble_eq_true rfl⟩ rfl (Nat.le_of_ble_eq_true rfl) dX6_years_117 (fun r9 m10 hw => ?_)
        refine j_istore (L' := [(5, .int (r9)), (0, .ref (ad 0)), (2, .int (x2)), (3, .int (x3)), (4, .int (x4))]) hE hn dX6_years_120 (Nat.le_of_ble_eq_true rfl) rfl ?_
        refine j_aload_n hE 1 dX6_years_122 rfl rfl ?_
        refine jm_get hE hA 24 (Nat.le_of_ble_eq_true rfl) q1671 rfl (v := .ref (ad 12)) rfl dX6_years_123 ?_
        refine j_sipush hE dX6_years_126 ks_1470 ?_
        refine j_iload hE 0 dX6_years_129 rfl ?_
        refine j_iadd hE dX6_years_131 ?_
        refine j_dup2 hE dX6_years_132 rfl rfl ?_
        obtain ⟨h11, hw⟩ := hw
        refine jm_iald hE hA 11 (Nat.le_of_ble_eq_true rfl) h11 dX6_years_133 ?_
        refine j_aload_n hE 1 dX6_years_134 rfl rfl ?_
        refine j_sipush hE dX6_years_135 ks_1452 ?_
        refine j_iload hE 0 dX6_years_138 rfl ?_
        refine jm_pI hE hA hR (As := [.int (nI 1452), .int (r9)]) (rest := [.int (rd (gA m10 11) ((nI 1470) + r9)), .int ((nI 1470) + r9), .ref (ad 12)]) (ctX6_mayWash E.1.2.1 E.2.2.1 hA _ _ _ _  _ hw) rfl lkX6_mayWash jdX6_mayWash ⟨Nat.le_of_ble_eq_true rfl, Nat.le_of_ble_eq_true rfl⟩ rfl (Nat.le_of_ble_eq_true rfl) dX6_years_140 (fun r12 hw => ?_)
        refine j_if_eq hE 150 dX6_years_143 (by decide) (fun c13 => ?_) (fun c13 => ?_)
        · have hw := hw.1 c13
          refine j_iconst hE dX6_years_150 kc_0 ?_
          refine j_sub [(0, .ref (ad 0)), (2, .int (x2)), (3, .int (x3)), (4, .int (x4))] [1, 2, 3, 4] rfl ?_
          exact bX6_years_151 hE hn hR hA hK ih66 hw
        · have hw := hw.2 c13
          refine j_iconst hE dX6_years_146 kc_1 ?_
          refine j_goto hE 151 dX6_years_147 (by decide) ?_
          refine j_sub [(0, .ref (ad 0)), (2, .int (x2)), (3, .int (x3)), (4, .int (x4))] [1, 2, 3, 4] rfl ?_
          exact bX6_years_151 hE hn hR hA hK ih66 hw
  · have hw := hw.2 c2
    refine j_aload_n hE 0 dX6_years_84 rfl rfl ?_
    refine j_iload hE 4 dX6_years_85 rfl ?_
    refine jm_cV hE hA hR (As := [.int (x5)]) (rest := []) (ctX6_drawsPerson E.1.2.1 E.2.2.1 hA _ _ _  _ hw) rfl lkX6_drawsPerson jdX6_drawsPerson ⟨Nat.le_of_ble_eq_true rfl, Nat.le_of_ble_eq_true rfl⟩ rfl (Nat.le_of_ble_eq_true rfl) dX6_years_87 (fun  m14 hw => ?_)
    refine j_iinc (L' := [(5, .int (x5 + 1)), (0, .ref (ad 0)), (2, .int (x2)), (3, .int (x3)), (4, .int (x4))]) hE hn 4 dX6_years_90 rfl (congrArg (x5 + ·) kc_1) (Nat.le_of_ble_eq_true rfl) rfl ?_
    refine j_goto hE 75 dX6_years_93 (by decide) ?_
    refine j_sub [(0, .ref (ad 0)), (2, .int (x2)), (3, .int (x3)), (4, .int (x4)), (5, .int (x5 + 1))] [1, 2, 3, 4, 0] rfl ?_
    have hz := ih75 (x5 + 1, m14) hw
    exact hz
def wX6_years_66_b (x2 : Int32) (x3 : Int32) (x4 : Int32) (m : MS) (KL66 : Int32 × MS → Prop) (K : Int32 → MS → Prop) : Prop :=
  (x2 ≤ x4 → ((¬ x3 = 0 → ((¬ x3 = 1 → (wX6_harmShown (nI 1452) ((-1)) (nI 6) m (fun r4 => K r4 m))) ∧ (x3 = 1 → (K (gF m 12) m)))) ∧ (x3 = 0 → (K (gF m 11) m)))) ∧ (¬ x2 ≤ x4 → (wX6_years_75 x2 x3 x4 0 m KL66 K))
def wX6_years_66 (x2 : Int32) (x3 : Int32) (x4 : Int32) (m : MS) (K : Int32 → MS → Prop) : Prop := lfp (σ := Int32 × MS) (fun KL s => wX6_years_66_b x2 x3 s.1 s.2 KL K) (x4, m)
set_option maxRecDepth 100000 in
theorem bX6_years_66 {E : jE} (hE : jOk E cX6_years RX6) (hn : E.2.2.2.2 = 6) (hR : jRoom E 6 144) {ad : Nat → Nat} (hA : adOk ad) {r : GW} {b : Nat × Nat} {K : Int32 → MS → Prop} (hK : jRi E .int (KMI ad r K)) {x2 : Int32} {x3 : Int32} {x4 : Int32} {m : MS}  (hw : wX6_years_66 x2 x3 x4 m K) : J E (mwX ad m r) b [(0, .ref (ad 0)), (2, .int (x2)), (3, .int (x3)), (4, .int (x4))] 66 [] := by
  refine lfp_sound (σ := Int32 × MS) (F := fun KL s => wX6_years_66_b x2 x3 s.1 s.2 KL K) (P := fun s => J E (mwX ad (s.2) r) b [(0, .ref (ad 0)), (2, .int (x2)), (3, .int (x3)), (4, .int (s.1))] 66 []) ?_ hw
  clear hw
  rintro KL66 ⟨x4, m⟩ hw ih66
  have hw : wX6_years_66_b x2 x3 x4 m KL66 K := hw
  unfold wX6_years_66_b at hw
  refine j_iload hE 3 dX6_years_66 rfl ?_
  refine j_iload_n hE 1 dX6_years_68 rfl rfl ?_
  refine j_icmp_ge hE 167 dX6_years_69 (by decide) (fun c1 => ?_) (fun c1 => ?_)
  · have hw := hw.1 c1
    refine j_iload_n hE 2 dX6_years_167 rfl rfl ?_
    refine j_if_ne hE 178 dX6_years_168 (by decide) (fun c2 => ?_) (fun c2 => ?_)
    · have hw := hw.1 c2
      refine j_iload_n hE 2 dX6_years_178 rfl rfl ?_
      refine j_iconst hE dX6_years_179 kc_1 ?_
      refine j_icmp_ne hE 190 dX6_years_180 (by decide) (fun c3 => ?_) (fun c3 => ?_)
      · have hw := hw.1 c3
        refine j_aload_n hE 0 dX6_years_190 rfl rfl ?_
        refine j_sipush hE dX6_years_191 ks_1452 ?_
        refine j_iconst hE dX6_years_194 kc_m1 ?_
        refine j_bipush hE dX6_years_195 kb_6 ?_
        refine jm_pI hE hA hR (As := [.int (nI 1452), .int ((-1)), .int (nI 6)]) (rest := []) (ctX6_harmShown E.1.2.1 E.2.2.1 hA _ _ _ _ _  _ hw) rfl lkX6_harmShown jdX6_harmShown ⟨Nat.le_of_ble_eq_true rfl, Nat.le_of_ble_eq_true rfl⟩ rfl (Nat.le_of_ble_eq_true rfl) dX6_years_197 (fun r4 hw => ?_)
        exact j_iret hE hK dX6_years_200 rfl ⟨_, rfl, hw⟩
      · have hw := hw.2 c3
        refine j_aload_n hE 0 dX6_years_183 rfl rfl ?_
        refine jm_get hE hA 30 (Nat.le_of_ble_eq_true rfl) q1677 rfl (v := .int (gF m 12)) rfl dX6_years_184 ?_
        refine j_goto hE 200 dX6_years_187 (by decide) ?_
        exact j_iret hE hK dX6_years_200 rfl ⟨_, rfl, hw⟩
    · have hw := hw.2 c2
      refine j_aload_n hE 0 dX6_years_171 rfl rfl ?_
      refine jm_get hE hA 29 (Nat.le_of_ble_eq_true rfl) q1676 rfl (v := .int (gF m 11)) rfl dX6_years_172 ?_
      refine j_goto hE 200 dX6_years_175 (by decide) ?_
      exact j_iret hE hK dX6_years_200 rfl ⟨_, rfl, hw⟩
  · have hw := hw.2 c1
    refine j_iconst hE dX6_years_72 kc_0 ?_
    refine j_istore (L' := [(5, .int (0)), (0, .ref (ad 0)), (2, .int (x2)), (3, .int (x3)), (4, .int (x4))]) hE hn dX6_years_73 (Nat.le_of_ble_eq_true rfl) rfl ?_
    refine j_sub [(0, .ref (ad 0)), (2, .int (x2)), (3, .int (x3)), (4, .int (x4)), (5, .int (0))] [1, 2, 3, 4, 0] rfl ?_
    exact bX6_years_75 hE hn hR hA hK ih66 hw
def wX6_years_0 (x1 : Int32) (x2 : Int32) (x3 : Int32) (m : MS) (K : Int32 → MS → Prop) : Prop :=
  ∀ m1 : MS, m1 = sF m 0 0 → (wX6_within x1 0 (nI 9999) (fun r2 => (r2 = 0 → (K ((-1)) m1)) ∧ (¬ r2 = 0 → (wX6_within x2 1 (nI 99) (fun r4 => (r4 = 0 → (K ((-1)) m1)) ∧ (¬ r4 = 0 → (wX6_within x3 0 (nI 2) (fun r6 => (¬ r6 = 0 → (wX6_copies 0 (nI 1452) (nI 60) m1 (fun  m8 => ∀ m9 : MS, m9 = s0 m8 x1.toInt64 → (∀ m10 : MS, m10 = sF m9 11 0 → (∀ m11 : MS, m11 = sF m10 12 0 → (wX6_years_66 x2 x3 0 m11 K)))))) ∧ (r6 = 0 → (K ((-1)) m1))))))))))
set_option maxRecDepth 100000 in
theorem bX6_years_0 {E : jE} (hE : jOk E cX6_years RX6) (hn : E.2.2.2.2 = 6) (hR : jRoom E 6 144) {ad : Nat → Nat} (hA : adOk ad) {r : GW} {b : Nat × Nat} {K : Int32 → MS → Prop} (hK : jRi E .int (KMI ad r K)) {x1 : Int32} {x2 : Int32} {x3 : Int32} {m : MS}  (hw : wX6_years_0 x1 x2 x3 m K) : J E (mwX ad m r) b [(0, .ref (ad 0)), (1, .int (x1)), (2, .int (x2)), (3, .int (x3))] 0 [] := by
  unfold wX6_years_0 at hw
  refine j_aload_n hE 0 dX6_years_0 rfl rfl ?_
  refine j_iconst hE dX6_years_1 kc_0 ?_
  refine jm_putF hE hA 0 0 (Nat.le_of_ble_eq_true rfl) q1647 rfl rfl (mset_0 _ _ _) rfl rfl dX6_years_2 ?_
  refine j_wm (fun m1 e_m1 => ?_)
  have hw := hw m1 e_m1
  refine j_iload_n hE 1 dX6_years_5 rfl rfl ?_
  refine j_iconst hE dX6_years_6 kc_0 ?_
  refine j_sipush hE dX6_years_7 ks_9999 ?_
  refine j_psI hE hR (As := [.int (x1), .int (0), .int (nI 9999)]) (rest := []) (ctX6_within E.1.2.1 E.2.2.1 _ _ _ _  _ hw) lkX6_within jdX6_within ⟨Nat.le_of_ble_eq_true rfl, Nat.le_of_ble_eq_true rfl⟩ rfl (Nat.le_of_ble_eq_true rfl) dX6_years_10 (fun r2 hw => ?_)
  refine j_if_eq hE 35 dX6_years_13 (by decide) (fun c3 => ?_) (fun c3 => ?_)
  · have hw := hw.1 c3
    refine j_iconst hE dX6_years_35 kc_m1 ?_
    exact j_iret hE hK dX6_years_36 rfl ⟨_, rfl, hw⟩
  · have hw := hw.2 c3
    refine j_iload_n hE 2 dX6_years_16 rfl rfl ?_
    refine j_iconst hE dX6_years_17 kc_1 ?_
    refine j_bipush hE dX6_years_18 kb_99 ?_
    refine j_psI hE hR (As := [.int (x2), .int (1), .int (nI 99)]) (rest := []) (ctX6_within E.1.2.1 E.2.2.1 _ _ _ _  _ hw) lkX6_within jdX6_within ⟨Nat.le_of_ble_eq_true rfl, Nat.le_of_ble_eq_true rfl⟩ rfl (Nat.le_of_ble_eq_true rfl) dX6_years_20 (fun r4 hw => ?_)
    refine j_if_eq hE 35 dX6_years_23 (by decide) (fun c5 => ?_) (fun c5 => ?_)
    · have hw := hw.1 c5
      refine j_iconst hE dX6_years_35 kc_m1 ?_
      exact j_iret hE hK dX6_years_36 rfl ⟨_, rfl, hw⟩
    · have hw := hw.2 c5
      refine j_iload_n hE 3 dX6_years_26 rfl rfl ?_
      refine j_iconst hE dX6_years_27 kc_0 ?_
      refine j_iconst hE dX6_years_28 kc_2 ?_
      refine j_psI hE hR (As := [.int (x3), .int (0), .int (nI 2)]) (rest := []) (ctX6_within E.1.2.1 E.2.2.1 _ _ _ _  _ hw) lkX6_within jdX6_within ⟨Nat.le_of_ble_eq_true rfl, Nat.le_of_ble_eq_true rfl⟩ rfl (Nat.le_of_ble_eq_true rfl) dX6_years_29 (fun r6 hw => ?_)
      refine j_if_ne hE 37 dX6_years_32 (by decide) (fun c7 => ?_) (fun c7 => ?_)
      · have hw := hw.1 c7
        refine j_aload_n hE 0 dX6_years_37 rfl rfl ?_
        refine j_iconst hE dX6_years_38 kc_0 ?_
        refine j_sipush hE dX6_years_39 ks_1452 ?_
        refine j_bipush hE dX6_years_42 kb_60 ?_
        refine jm_cV hE hA hR (As := [.int (0), .int (nI 1452), .int (nI 60)]) (rest := []) (ctX6_copies E.1.2.1 E.2.2.1 hA _ _ _ _ _  _ hw) rfl lkX6_copies jdX6_copies ⟨Nat.le_of_ble_eq_true rfl, Nat.le_of_ble_eq_true rfl⟩ rfl (Nat.le_of_ble_eq_true rfl) dX6_years_44 (fun  m8 hw => ?_)
        refine j_aload_n hE 0 dX6_years_47 rfl rfl ?_
        refine j_iload_n hE 1 dX6_years_48 rfl rfl ?_
        refine j_i2l hE dX6_years_49 ?_
        refine jm_put0 hE hA 28 (Nat.le_of_ble_eq_true rfl) q1675 rfl rfl (mset_g _ _ _) rfl rfl dX6_years_50 ?_
        refine j_wm (fun m9 e_m9 => ?_)
        have hw := hw m9 e_m9
        refine j_aload_n hE 0 dX6_years_53 rfl rfl ?_
        refine j_iconst hE dX6_years_54 kc_0 ?_
        refine jm_putF hE hA 29 11 (Nat.le_of_ble_eq_true rfl) q1676 rfl rfl (mset_11 _ _ _) rfl rfl dX6_years_55 ?_
        refine j_wm (fun m10 e_m10 => ?_)
        have hw := hw m10 e_m10
        refine j_aload_n hE 0 dX6_years_58 rfl rfl ?_
        refine j_iconst hE dX6_years_59 kc_0 ?_
        refine jm_putF hE hA 30 12 (Nat.le_of_ble_eq_true rfl) q1677 rfl rfl (mset_12 _ _ _) rfl rfl dX6_years_60 ?_
        refine j_wm (fun m11 e_m11 => ?_)
        have hw := hw m11 e_m11
        refine j_iconst hE dX6_years_63 kc_0 ?_
        refine j_istore (L' := [(4, .int (0)), (0, .ref (ad 0)), (1, .int (x1)), (2, .int (x2)), (3, .int (x3))]) hE hn dX6_years_64 (Nat.le_of_ble_eq_true rfl) rfl ?_
        refine j_sub [(0, .ref (ad 0)), (2, .int (x2)), (3, .int (x3)), (4, .int (0))] [1, 3, 4, 0] rfl ?_
        exact bX6_years_66 hE hn hR hA hK  hw
      · have hw := hw.2 c7
        refine j_iconst hE dX6_years_35 kc_m1 ?_
        exact j_iret hE hK dX6_years_36 rfl ⟨_, rfl, hw⟩
abbrev wX6_years := wX6_years_0
theorem ctX6_years (l : Launch) (G : gG) {ad : Nat → Nat} (hA : adOk ad) (m0 : MS) (r : GW) (x1 : Int32) (x2 : Int32) (x3 : Int32) (K : Int32 → MS → Prop) (hw : wX6_years x1 x2 x3 m0 K) : CtI l yX6_years cX6_years 6 .int ({ frames := 6, cells := 0, slots := 0, locals := 144 }) G [.ref (ad 0), .int (x1), .int (x2), .int (x3)] (mwX ad m0 r) (KMI ad r K) :=
  CtI.of RX6 plain_X6 rfl (Nat.le_of_ble_eq_true rfl) (fun E hE _ _ hn hR hK => bX6_years_0 hE hn hR hA hK hw)
theorem jdX6_years : jD yX6_years 3 := by decide +kernel
def wX6_notch_65 (x2 : Int32) (s1 : Int32) (s2 : Int32) (m : MS) (K : Int32 → MS → Prop) : Prop :=
  wX6_copies s1 s2 (nI 66) m (fun  m1 => (x2 = 0 → (∀ m3 : MS, m3 = sF m1 9 (gF m1 9) → (K 1 m3))) ∧ (¬ x2 = 0 → (∀ m4 : MS, m4 = sF m1 9 0 → (K 1 m4))))
set_option maxRecDepth 100000 in
theorem bX6_notch_65 {E : jE} (hE : jOk E cX6_notch RX6) (hn : E.2.2.2.2 = 3) (hR : jRoom E 1 24) {ad : Nat → Nat} (hA : adOk ad) {r : GW} {b : Nat × Nat} {K : Int32 → MS → Prop} (hK : jRi E .boolean (KMI ad r K)) {x2 : Int32} {s1 : Int32} {s2 : Int32} {m : MS}  (hw : wX6_notch_65 x2 s1 s2 m K) : J E (mwX ad m r) b [(0, .ref (ad 0)), (2, .int (x2))] 65 [.int (s2), .int (s1), .ref (ad 0)] := by
  unfold wX6_notch_65 at hw
  refine j_bipush hE dX6_notch_65 kb_66 ?_
  refine jm_cV hE hA hR (As := [.int (s1), .int (s2), .int (nI 66)]) (rest := []) (ctX6_copies E.1.2.1 E.2.2.1 hA _ _ _ _ _  _ hw) rfl lkX6_copies jdX6_copies ⟨Nat.le_of_ble_eq_true rfl, Nat.le_of_ble_eq_true rfl⟩ rfl (Nat.le_of_ble_eq_true rfl) dX6_notch_67 (fun  m1 hw => ?_)
  refine j_aload_n hE 0 dX6_notch_70 rfl rfl ?_
  refine j_iload_n hE 1 dX6_notch_71 rfl rfl ?_
  refine j_if_eq hE 79 dX6_notch_72 (by decide) (fun c2 => ?_) (fun c2 => ?_)
  · have hw := hw.1 c2
    refine j_aload_n hE 0 dX6_notch_79 rfl rfl ?_
    refine jm_get hE hA 25 (Nat.le_of_ble_eq_true rfl) q1672 rfl (v := .int (gF m1 9)) rfl dX6_notch_80 ?_
    refine jm_putF hE hA 25 9 (Nat.le_of_ble_eq_true rfl) q1672 rfl rfl (mset_9 _ _ _) rfl rfl dX6_notch_83 ?_
    refine j_wm (fun m3 e_m3 => ?_)
    have hw := hw m3 e_m3
    refine j_iconst hE dX6_notch_86 kc_1 ?_
    exact j_iret hE hK dX6_notch_87 rfl ⟨_, rfl, hw⟩
  · have hw := hw.2 c2
    refine j_iconst hE dX6_notch_75 kc_0 ?_
    refine j_goto hE 83 dX6_notch_76 (by decide) ?_
    refine jm_putF hE hA 25 9 (Nat.le_of_ble_eq_true rfl) q1672 rfl rfl (mset_9 _ _ _) rfl rfl dX6_notch_83 ?_
    refine j_wm (fun m4 e_m4 => ?_)
    have hw := hw m4 e_m4
    refine j_iconst hE dX6_notch_86 kc_1 ?_
    exact j_iret hE hK dX6_notch_87 rfl ⟨_, rfl, hw⟩
def wX6_notch_51 (x1 : Int32) (x2 : Int32) (s1 : Int32) (m : MS) (K : Int32 → MS → Prop) : Prop :=
  (x2 = 0 → (wX6_notch_65 x2 s1 ((nI 66) * (1 + x1)) m K)) ∧ (¬ x2 = 0 → (wX6_notch_65 x2 s1 0 m K))
set_option maxRecDepth 100000 in
theorem bX6_notch_51 {E : jE} (hE : jOk E cX6_notch RX6) (hn : E.2.2.2.2 = 3) (hR : jRoom E 1 24) {ad : Nat → Nat} (hA : adOk ad) {r : GW} {b : Nat × Nat} {K : Int32 → MS → Prop} (hK : jRi E .boolean (KMI ad r K)) {x1 : Int32} {x2 : Int32} {s1 : Int32} {m : MS}  (hw : wX6_notch_51 x1 x2 s1 m K) : J E (mwX ad m r) b [(0, .ref (ad 0)), (1, .int (x1)), (2, .int (x2))] 51 [.int (s1), .ref (ad 0)] := by
  unfold wX6_notch_51 at hw
  refine j_iload_n hE 2 dX6_notch_51 rfl rfl ?_
  refine j_if_eq hE 59 dX6_notch_52 (by decide) (fun c1 => ?_) (fun c1 => ?_)
  · have hw := hw.1 c1
    refine j_bipush hE dX6_notch_59 kb_66 ?_
    refine j_iconst hE dX6_notch_61 kc_1 ?_
    refine j_iload_n hE 1 dX6_notch_62 rfl rfl ?_
    refine j_iadd hE dX6_notch_63 ?_
    refine j_imul hE dX6_notch_64 ?_
    refine j_sub [(0, .ref (ad 0)), (2, .int (x2))] [0, 2] rfl ?_
    exact bX6_notch_65 hE hn hR hA hK  hw
  · have hw := hw.2 c1
    refine j_iconst hE dX6_notch_55 kc_0 ?_
    refine j_goto hE 65 dX6_notch_56 (by decide) ?_
    refine j_sub [(0, .ref (ad 0)), (2, .int (x2))] [0, 2] rfl ?_
    exact bX6_notch_65 hE hn hR hA hK  hw
def wX6_notch_29 (x1 : Int32) (x2 : Int32) (m : MS) (K : Int32 → MS → Prop) : Prop :=
  vp_in x1 4 ∧ (∀ m2 : MS, m2 = wA m 12 x1 1 → ((x2 = 0 → (wX6_notch_51 x1 x2 0 m2 K)) ∧ (¬ x2 = 0 → (wX6_notch_51 x1 x2 ((nI 66) * (1 + x1)) m2 K))))
set_option maxRecDepth 100000 in
theorem bX6_notch_29 {E : jE} (hE : jOk E cX6_notch RX6) (hn : E.2.2.2.2 = 3) (hR : jRoom E 1 24) {ad : Nat → Nat} (hA : adOk ad) {r : GW} {b : Nat × Nat} {K : Int32 → MS → Prop} (hK : jRi E .boolean (KMI ad r K)) {x1 : Int32} {x2 : Int32} {m : MS}  (hw : wX6_notch_29 x1 x2 m K) : J E (mwX ad m r) b [(0, .ref (ad 0)), (1, .int (x1)), (2, .int (x2))] 29 [] := by
  unfold wX6_notch_29 at hw
  refine j_aload_n hE 0 dX6_notch_29 rfl rfl ?_
  refine jm_get hE hA 26 (Nat.le_of_ble_eq_true rfl) q1673 rfl (v := .ref (ad 13)) rfl dX6_notch_30 ?_
  refine j_iload_n hE 1 dX6_notch_33 rfl rfl ?_
  refine j_iconst hE dX6_notch_34 kc_1 ?_
  obtain ⟨h1, hw⟩ := hw
  refine jm_zast hE hA h1 rfl dX6_notch_35 ?_
  refine j_wm (fun m2 e_m2 => ?_)
  have hw := hw m2 e_m2
  refine j_aload_n hE 0 dX6_notch_36 rfl rfl ?_
  refine j_iload_n hE 2 dX6_notch_37 rfl rfl ?_
  refine j_if_eq hE 50 dX6_notch_38 (by decide) (fun c3 => ?_) (fun c3 => ?_)
  · have hw := hw.1 c3
    refine j_iconst hE dX6_notch_50 kc_0 ?_
    exact bX6_notch_51 hE hn hR hA hK  hw
  · have hw := hw.2 c3
    refine j_bipush hE dX6_notch_41 kb_66 ?_
    refine j_iconst hE dX6_notch_43 kc_1 ?_
    refine j_iload_n hE 1 dX6_notch_44 rfl rfl ?_
    refine j_iadd hE dX6_notch_45 ?_
    refine j_imul hE dX6_notch_46 ?_
    refine j_goto hE 51 dX6_notch_47 (by decide) ?_
    exact bX6_notch_51 hE hn hR hA hK  hw
def wX6_notch_0 (x1 : Int32) (x2 : Int32) (m : MS) (K : Int32 → MS → Prop) : Prop :=
  ∀ m1 : MS, m1 = sF m 0 0 → (wX6_within x1 0 (nI 3) (fun r2 => (r2 = 0 → (K 0 m1)) ∧ (¬ r2 = 0 → ((x2 = 0 → (wX6_notch_29 x1 x2 m1 K)) ∧ (¬ x2 = 0 → (vp_in x1 4 ∧ ((¬ (rd (gA m1 12) x1) = 0 → (wX6_notch_29 x1 x2 m1 K)) ∧ ((rd (gA m1 12) x1) = 0 → (K 0 m1)))))))))
set_option maxRecDepth 100000 in
theorem bX6_notch_0 {E : jE} (hE : jOk E cX6_notch RX6) (hn : E.2.2.2.2 = 3) (hR : jRoom E 1 24) {ad : Nat → Nat} (hA : adOk ad) {r : GW} {b : Nat × Nat} {K : Int32 → MS → Prop} (hK : jRi E .boolean (KMI ad r K)) {x1 : Int32} {x2 : Int32} {m : MS}  (hw : wX6_notch_0 x1 x2 m K) : J E (mwX ad m r) b [(0, .ref (ad 0)), (1, .int (x1)), (2, .int (x2))] 0 [] := by
  unfold wX6_notch_0 at hw
  refine j_aload_n hE 0 dX6_notch_0 rfl rfl ?_
  refine j_iconst hE dX6_notch_1 kc_0 ?_
  refine jm_putF hE hA 0 0 (Nat.le_of_ble_eq_true rfl) q1647 rfl rfl (mset_0 _ _ _) rfl rfl dX6_notch_2 ?_
  refine j_wm (fun m1 e_m1 => ?_)
  have hw := hw m1 e_m1
  refine j_iload_n hE 1 dX6_notch_5 rfl rfl ?_
  refine j_iconst hE dX6_notch_6 kc_0 ?_
  refine j_iconst hE dX6_notch_7 kc_3 ?_
  refine j_psI hE hR (As := [.int (x1), .int (0), .int (nI 3)]) (rest := []) (ctX6_within E.1.2.1 E.2.2.1 _ _ _ _  _ hw) lkX6_within jdX6_within ⟨Nat.le_of_ble_eq_true rfl, Nat.le_of_ble_eq_true rfl⟩ rfl (Nat.le_of_ble_eq_true rfl) dX6_notch_8 (fun r2 hw => ?_)
  refine j_if_eq hE 27 dX6_notch_11 (by decide) (fun c3 => ?_) (fun c3 => ?_)
  · have hw := hw.1 c3
    refine j_iconst hE dX6_notch_27 kc_0 ?_
    exact j_iret hE hK dX6_notch_28 rfl ⟨_, rfl, hw⟩
  · have hw := hw.2 c3
    refine j_iload_n hE 2 dX6_notch_14 rfl rfl ?_
    refine j_if_eq hE 29 dX6_notch_15 (by decide) (fun c4 => ?_) (fun c4 => ?_)
    · have hw := hw.1 c4
      exact bX6_notch_29 hE hn hR hA hK  hw
    · have hw := hw.2 c4
      refine j_aload_n hE 0 dX6_notch_18 rfl rfl ?_
      refine jm_get hE hA 26 (Nat.le_of_ble_eq_true rfl) q1673 rfl (v := .ref (ad 13)) rfl dX6_notch_19 ?_
      refine j_iload_n hE 1 dX6_notch_22 rfl rfl ?_
      obtain ⟨h5, hw⟩ := hw
      refine jm_zald hE hA h5 dX6_notch_23 ?_
      refine j_if_ne hE 29 dX6_notch_24 (by decide) (fun c6 => ?_) (fun c6 => ?_)
      · have hw := hw.1 c6
        exact bX6_notch_29 hE hn hR hA hK  hw
      · have hw := hw.2 c6
        refine j_iconst hE dX6_notch_27 kc_0 ?_
        exact j_iret hE hK dX6_notch_28 rfl ⟨_, rfl, hw⟩
abbrev wX6_notch := wX6_notch_0
theorem ctX6_notch (l : Launch) (G : gG) {ad : Nat → Nat} (hA : adOk ad) (m0 : MS) (r : GW) (x1 : Int32) (x2 : Int32) (K : Int32 → MS → Prop) (hw : wX6_notch x1 x2 m0 K) : CtI l yX6_notch cX6_notch 3 .boolean ({ frames := 1, cells := 0, slots := 0, locals := 24 }) G [.ref (ad 0), .int (x1), .int (x2)] (mwX ad m0 r) (KMI ad r K) :=
  CtI.of RX6 plain_X6 rfl (Nat.le_of_ble_eq_true rfl) (fun E hE _ _ hn hR hK => bX6_notch_0 hE hn hR hA hK hw)
theorem jdX6_notch : jD yX6_notch 2 := by decide +kernel
def wX6_marksMany_4_b (x1 : Int32) (x2 : Int32) (m0 : MS) (KL4 : Int32 × Int32 → Prop) (K : Int32 → Prop) : Prop :=
  wX6_panes  m0 (fun r1 => (r1 ≤ x2 → (K x1)) ∧ (¬ r1 ≤ x2 → (vp_in ((nI 18) + x2) 1518 ∧ (∀ v4 : Int32, v4 = x1 + (rd (gA m0 11) ((nI 18) + x2)) → (KL4 (v4, x2 + 1))))))
def wX6_marksMany_4 (x1 : Int32) (x2 : Int32) (m0 : MS) (K : Int32 → Prop) : Prop := lfp (σ := Int32 × Int32) (fun KL s => wX6_marksMany_4_b s.1 s.2 m0 KL K) (x1, x2)
set_option maxRecDepth 100000 in
theorem bX6_marksMany_4 {E : jE} (hE : jOk E cX6_marksMany RX6) (hn : E.2.2.2.2 = 3) (hR : jRoom E 1 20) {ad : Nat → Nat} (hA : adOk ad) {r : GW} {m0 : MS} {b : Nat × Nat} {K : Int32 → Prop} (hK : jRi E .int (KPI (mwX ad m0 r) K)) {x1 : Int32} {x2 : Int32}  (hw : wX6_marksMany_4 x1 x2 m0 K) : J E (mwX ad m0 r) b [(0, .ref (ad 0)), (1, .int (x1)), (2, .int (x2))] 4 [] := by
  refine lfp_sound (σ := Int32 × Int32) (F := fun KL s => wX6_marksMany_4_b s.1 s.2 m0 KL K) (P := fun s => J E (mwX ad m0 r) b [(0, .ref (ad 0)), (1, .int (s.1)), (2, .int (s.2))] 4 []) ?_ hw
  clear hw
  rintro KL4 ⟨x1, x2⟩ hw ih4
  have hw : wX6_marksMany_4_b x1 x2 m0 KL4 K := hw
  unfold wX6_marksMany_4_b at hw
  refine j_iload_n hE 2 dX6_marksMany_4 rfl rfl ?_
  refine j_aload_n hE 0 dX6_marksMany_5 rfl rfl ?_
  refine jm_pI hE hA hR (As := []) (rest := [.int (x2)]) (ctX6_panes E.1.2.1 E.2.2.1 hA _ _  _ hw) rfl lkX6_panes jdX6_panes ⟨Nat.le_of_ble_eq_true rfl, Nat.le_of_ble_eq_true rfl⟩ rfl (Nat.le_of_ble_eq_true rfl) dX6_marksMany_6 (fun r1 hw => ?_)
  refine j_icmp_ge hE 30 dX6_marksMany_9 (by decide) (fun c2 => ?_) (fun c2 => ?_)
  · have hw := hw.1 c2
    refine j_iload_n hE 1 dX6_marksMany_30 rfl rfl ?_
    exact j_iret hE hK dX6_marksMany_31 rfl ⟨rfl, hw⟩
  · have hw := hw.2 c2
    refine j_iload_n hE 1 dX6_marksMany_12 rfl rfl ?_
    refine j_aload_n hE 0 dX6_marksMany_13 rfl rfl ?_
    refine jm_get hE hA 24 (Nat.le_of_ble_eq_true rfl) q1671 rfl (v := .ref (ad 12)) rfl dX6_marksMany_14 ?_
    refine j_bipush hE dX6_marksMany_17 kb_18 ?_
    refine j_iload_n hE 2 dX6_marksMany_19 rfl rfl ?_
    refine j_iadd hE dX6_marksMany_20 ?_
    obtain ⟨h3, hw⟩ := hw
    refine jm_iald hE hA 11 (Nat.le_of_ble_eq_true rfl) h3 dX6_marksMany_21 ?_
    refine j_iadd hE dX6_marksMany_22 ?_
    refine j_topi (fun v4 e_v4 => ?_)
    have hw := hw v4 e_v4
    refine j_istore_n (L' := [(1, .int (v4)), (0, .ref (ad 0)), (2, .int (x2))]) hE hn dX6_marksMany_23 rfl (Nat.le_of_ble_eq_true rfl) rfl ?_
    refine j_iinc (L' := [(2, .int (x2 + 1)), (1, .int (v4)), (0, .ref (ad 0))]) hE hn 2 dX6_marksMany_24 rfl (congrArg (x2 + ·) kc_1) (Nat.le_of_ble_eq_true rfl) rfl ?_
    refine j_goto hE 4 dX6_marksMany_27 (by decide) ?_
    refine j_sub [(0, .ref (ad 0)), (1, .int (v4)), (2, .int (x2 + 1))] [2, 1, 0] rfl ?_
    have hz := ih4 (v4, x2 + 1) hw
    exact hz
def wX6_marksMany_0 (m0 : MS) (K : Int32 → Prop) : Prop :=
  wX6_marksMany_4 0 0 m0 K
set_option maxRecDepth 100000 in
theorem bX6_marksMany_0 {E : jE} (hE : jOk E cX6_marksMany RX6) (hn : E.2.2.2.2 = 3) (hR : jRoom E 1 20) {ad : Nat → Nat} (hA : adOk ad) {r : GW} {m0 : MS} {b : Nat × Nat} {K : Int32 → Prop} (hK : jRi E .int (KPI (mwX ad m0 r) K))   (hw : wX6_marksMany_0 m0 K) : J E (mwX ad m0 r) b [(0, .ref (ad 0))] 0 [] := by
  unfold wX6_marksMany_0 at hw
  refine j_iconst hE dX6_marksMany_0 kc_0 ?_
  refine j_istore_n (L' := [(1, .int (0)), (0, .ref (ad 0))]) hE hn dX6_marksMany_1 rfl (Nat.le_of_ble_eq_true rfl) rfl ?_
  refine j_iconst hE dX6_marksMany_2 kc_0 ?_
  refine j_istore_n (L' := [(2, .int (0)), (1, .int (0)), (0, .ref (ad 0))]) hE hn dX6_marksMany_3 rfl (Nat.le_of_ble_eq_true rfl) rfl ?_
  refine j_sub [(0, .ref (ad 0)), (1, .int (0)), (2, .int (0))] [2, 1, 0] rfl ?_
  exact bX6_marksMany_4 hE hn hR hA hK  hw
abbrev wX6_marksMany := wX6_marksMany_0
theorem ctX6_marksMany (l : Launch) (G : gG) {ad : Nat → Nat} (hA : adOk ad) (m0 : MS) (r : GW)  (K : Int32 → Prop) (hw : wX6_marksMany m0 K) : CtI l yX6_marksMany cX6_marksMany 3 .int ({ frames := 1, cells := 0, slots := 0, locals := 20 }) G [.ref (ad 0)] (mwX ad m0 r) (KPI (mwX ad m0 r) K) :=
  CtI.of RX6 plain_X6 rfl (Nat.le_of_ble_eq_true rfl) (fun E hE _ _ hn hR hK => bX6_marksMany_0 hE hn hR hA hK hw)
theorem jdX6_marksMany : jD yX6_marksMany 0 := by decide +kernel
theorem lkX6_marksMany : GoodIn lw_all (wsV RX6 414 yX6_marksMany.cls yX6_marksMany (ws_ yX6_marksMany cX6_marksMany 3 (some .int))) := lw_V q2174 q2176 qs118 q129 q2177
def wX6_bitsOf_5_b (x1 : Int32) (x2 : Int32) (x3 : Int32) (x4 : Int32) (m0 : MS) (KL5 : Int32 × Int32 → Prop) (K : Int32 → Prop) : Prop :=
  wX6_panes  m0 (fun r1 => (r1 ≤ x4 → (K x3)) ∧ (¬ r1 ≤ x4 → (vp_in (x1 + x4) 1518 ∧ ((¬ (rd (gA m0 11) (x1 + x4)) = x2 → (∀ v5 : Int32, v5 = x3 ||| 0 → (KL5 (v5, x4 + 1)))) ∧ ((rd (gA m0 11) (x1 + x4)) = x2 → (∀ v6 : Int32, v6 = x3 ||| (ishl 1 x4) → (KL5 (v6, x4 + 1))))))))
def wX6_bitsOf_5 (x1 : Int32) (x2 : Int32) (x3 : Int32) (x4 : Int32) (m0 : MS) (K : Int32 → Prop) : Prop := lfp (σ := Int32 × Int32) (fun KL s => wX6_bitsOf_5_b x1 x2 s.1 s.2 m0 KL K) (x3, x4)
set_option maxRecDepth 100000 in
theorem bX6_bitsOf_5 {E : jE} (hE : jOk E cX6_bitsOf RX6) (hn : E.2.2.2.2 = 5) (hR : jRoom E 1 20) {ad : Nat → Nat} (hA : adOk ad) {r : GW} {m0 : MS} {b : Nat × Nat} {K : Int32 → Prop} (hK : jRi E .int (KPI (mwX ad m0 r) K)) {x1 : Int32} {x2 : Int32} {x3 : Int32} {x4 : Int32}  (hw : wX6_bitsOf_5 x1 x2 x3 x4 m0 K) : J E (mwX ad m0 r) b [(0, .ref (ad 0)), (1, .int (x1)), (2, .int (x2)), (3, .int (x3)), (4, .int (x4))] 5 [] := by
  refine lfp_sound (σ := Int32 × Int32) (F := fun KL s => wX6_bitsOf_5_b x1 x2 s.1 s.2 m0 KL K) (P := fun s => J E (mwX ad m0 r) b [(0, .ref (ad 0)), (1, .int (x1)), (2, .int (x2)), (3, .int (s.1)), (4, .int (s.2))] 5 []) ?_ hw
  clear hw
  rintro KL5 ⟨x3, x4⟩ hw ih5
  have hw : wX6_bitsOf_5_b x1 x2 x3 x4 m0 KL5 K := hw
  unfold wX6_bitsOf_5_b at hw
  refine j_iload hE 4 dX6_bitsOf_5 rfl ?_
  refine j_aload_n hE 0 dX6_bitsOf_7 rfl rfl ?_
  refine jm_pI hE hA hR (As := []) (rest := [.int (x4)]) (ctX6_panes E.1.2.1 E.2.2.1 hA _ _  _ hw) rfl lkX6_panes jdX6_panes ⟨Nat.le_of_ble_eq_true rfl, Nat.le_of_ble_eq_true rfl⟩ rfl (Nat.le_of_ble_eq_true rfl) dX6_bitsOf_8 (fun r1 hw => ?_)
  refine j_icmp_ge hE 44 dX6_bitsOf_11 (by decide) (fun c2 => ?_) (fun c2 => ?_)
  · have hw := hw.1 c2
    refine j_iload_n hE 3 dX6_bitsOf_44 rfl rfl ?_
    exact j_iret hE hK dX6_bitsOf_45 rfl ⟨rfl, hw⟩
  · have hw := hw.2 c2
    refine j_iload_n hE 3 dX6_bitsOf_14 rfl rfl ?_
    refine j_aload_n hE 0 dX6_bitsOf_15 rfl rfl ?_
    refine jm_get hE hA 24 (Nat.le_of_ble_eq_true rfl) q1671 rfl (v := .ref (ad 12)) rfl dX6_bitsOf_16 ?_
    refine j_iload_n hE 1 dX6_bitsOf_19 rfl rfl ?_
    refine j_iload hE 4 dX6_bitsOf_20 rfl ?_
    refine j_iadd hE dX6_bitsOf_22 ?_
    obtain ⟨h3, hw⟩ := hw
    refine jm_iald hE hA 11 (Nat.le_of_ble_eq_true rfl) h3 dX6_bitsOf_23 ?_
    refine j_iload_n hE 2 dX6_bitsOf_24 rfl rfl ?_
    refine j_icmp_ne hE 35 dX6_bitsOf_25 (by decide) (fun c4 => ?_) (fun c4 => ?_)
    · have hw := hw.1 c4
      refine j_iconst hE dX6_bitsOf_35 kc_0 ?_
      refine j_ior hE dX6_bitsOf_36 ?_
      refine j_topi (fun v5 e_v5 => ?_)
      have hw := hw v5 e_v5
      refine j_istore_n (L' := [(3, .int (v5)), (0, .ref (ad 0)), (1, .int (x1)), (2, .int (x2)), (4, .int (x4))]) hE hn dX6_bitsOf_37 rfl (Nat.le_of_ble_eq_true rfl) rfl ?_
      refine j_iinc (L' := [(4, .int (x4 + 1)), (3, .int (v5)), (0, .ref (ad 0)), (1, .int (x1)), (2, .int (x2))]) hE hn 4 dX6_bitsOf_38 rfl (congrArg (x4 + ·) kc_1) (Nat.le_of_ble_eq_true rfl) rfl ?_
      refine j_goto hE 5 dX6_bitsOf_41 (by decide) ?_
      refine j_sub [(0, .ref (ad 0)), (1, .int (x1)), (2, .int (x2)), (3, .int (v5)), (4, .int (x4 + 1))] [2, 3, 4, 1, 0] rfl ?_
      have hz := ih5 (v5, x4 + 1) hw
      exact hz
    · have hw := hw.2 c4
      refine j_iconst hE dX6_bitsOf_28 kc_1 ?_
      refine j_iload hE 4 dX6_bitsOf_29 rfl ?_
      refine j_ishl hE dX6_bitsOf_31 ?_
      refine j_goto hE 36 dX6_bitsOf_32 (by decide) ?_
      refine j_ior hE dX6_bitsOf_36 ?_
      refine j_topi (fun v6 e_v6 => ?_)
      have hw := hw v6 e_v6
      refine j_istore_n (L' := [(3, .int (v6)), (0, .ref (ad 0)), (1, .int (x1)), (2, .int (x2)), (4, .int (x4))]) hE hn dX6_bitsOf_37 rfl (Nat.le_of_ble_eq_true rfl) rfl ?_
      refine j_iinc (L' := [(4, .int (x4 + 1)), (3, .int (v6)), (0, .ref (ad 0)), (1, .int (x1)), (2, .int (x2))]) hE hn 4 dX6_bitsOf_38 rfl (congrArg (x4 + ·) kc_1) (Nat.le_of_ble_eq_true rfl) rfl ?_
      refine j_goto hE 5 dX6_bitsOf_41 (by decide) ?_
      refine j_sub [(0, .ref (ad 0)), (1, .int (x1)), (2, .int (x2)), (3, .int (v6)), (4, .int (x4 + 1))] [2, 3, 4, 1, 0] rfl ?_
      have hz := ih5 (v6, x4 + 1) hw
      exact hz
def wX6_bitsOf_0 (x1 : Int32) (x2 : Int32) (m0 : MS) (K : Int32 → Prop) : Prop :=
  wX6_bitsOf_5 x1 x2 0 0 m0 K
set_option maxRecDepth 100000 in
theorem bX6_bitsOf_0 {E : jE} (hE : jOk E cX6_bitsOf RX6) (hn : E.2.2.2.2 = 5) (hR : jRoom E 1 20) {ad : Nat → Nat} (hA : adOk ad) {r : GW} {m0 : MS} {b : Nat × Nat} {K : Int32 → Prop} (hK : jRi E .int (KPI (mwX ad m0 r) K)) {x1 : Int32} {x2 : Int32}  (hw : wX6_bitsOf_0 x1 x2 m0 K) : J E (mwX ad m0 r) b [(0, .ref (ad 0)), (1, .int (x1)), (2, .int (x2))] 0 [] := by
  unfold wX6_bitsOf_0 at hw
  refine j_iconst hE dX6_bitsOf_0 kc_0 ?_
  refine j_istore_n (L' := [(3, .int (0)), (0, .ref (ad 0)), (1, .int (x1)), (2, .int (x2))]) hE hn dX6_bitsOf_1 rfl (Nat.le_of_ble_eq_true rfl) rfl ?_
  refine j_iconst hE dX6_bitsOf_2 kc_0 ?_
  refine j_istore (L' := [(4, .int (0)), (3, .int (0)), (0, .ref (ad 0)), (1, .int (x1)), (2, .int (x2))]) hE hn dX6_bitsOf_3 (Nat.le_of_ble_eq_true rfl) rfl ?_
  refine j_sub [(0, .ref (ad 0)), (1, .int (x1)), (2, .int (x2)), (3, .int (0)), (4, .int (0))] [2, 3, 4, 1, 0] rfl ?_
  exact bX6_bitsOf_5 hE hn hR hA hK  hw
abbrev wX6_bitsOf := wX6_bitsOf_0
theorem ctX6_bitsOf (l : Launch) (G : gG) {ad : Nat → Nat} (hA : adOk ad) (m0 : MS) (r : GW) (x1 : Int32) (x2 : Int32) (K : Int32 → Prop) (hw : wX6_bitsOf x1 x2 m0 K) : CtI l yX6_bitsOf cX6_bitsOf 5 .int ({ frames := 1, cells := 0, slots := 0, locals := 20 }) G [.ref (ad 0), .int (x1), .int (x2)] (mwX ad m0 r) (KPI (mwX ad m0 r) K) :=
  CtI.of RX6 plain_X6 rfl (Nat.le_of_ble_eq_true rfl) (fun E hE _ _ hn hR hK => bX6_bitsOf_0 hE hn hR hA hK hw)
theorem jdX6_bitsOf : jD yX6_bitsOf 2 := by decide +kernel
theorem lkX6_bitsOf : GoodIn lw_all (wsV RX6 417 yX6_bitsOf.cls yX6_bitsOf (ws_ yX6_bitsOf cX6_bitsOf 5 (some .int))) := lw_V q2178 q2180 qs119 q129 q2181
def wX6_count_0 (x1 : Int32) (m : MS) (K : Int32 → MS → Prop) : Prop :=
  ∀ m1 : MS, m1 = sF m 0 0 → ((x1 = 0 → (vp_in x1 120 ∧ (K (rd (gA m1 3) x1) m1))) ∧ (¬ x1 = 0 → (x1 = 1 → (vp_in x1 120 ∧ (K (rd (gA m1 3) x1) m1))) ∧ (¬ x1 = 1 → (x1 = nI 2 → (vp_in x1 120 ∧ (K (rd (gA m1 3) x1) m1))) ∧ (¬ x1 = nI 2 → (x1 = nI 3 → (vp_in 0 1518 ∧ (K (rd (gA m1 11) 0) m1))) ∧ (¬ x1 = nI 3 → (x1 = nI 4 → (vp_in 0 1518 ∧ (wX6_lightOf (rd (gA m1 11) 0) m1 (fun r12 => K r12 m1)))) ∧ (¬ x1 = nI 4 → (x1 = nI 5 → (wX6_marksMany  m1 (fun r14 => K r14 m1))) ∧ (¬ x1 = nI 5 → (x1 = nI 6 → (wX6_bitsOf (nI 6) 1 m1 (fun r16 => K r16 m1))) ∧ (¬ x1 = nI 6 → (x1 = nI 7 → (wX6_bitsOf (nI 12) 1 m1 (fun r18 => K r18 m1))) ∧ (¬ x1 = nI 7 → (x1 = nI 8 → (vp_in 0 250 ∧ (K (rd (gA m1 8) 0) m1))) ∧ (¬ x1 = nI 8 → (x1 = nI 9 → (wX6_bitsOf (nI 60) 0 m1 (fun r22 => wX6_bitsOf (nI 60) 1 m1 (fun r23 => wX6_bits (r22 ||| r23) (fun r24 => K r24 m1))))) ∧ (¬ x1 = nI 9 → (x1 = nI 10 → (K (gF m1 9) m1)) ∧ (¬ x1 = nI 10 → (x1 = nI 11 → (K (gF m1 1) m1)) ∧ (¬ x1 = nI 11 → (K ((-1)) m1))))))))))))))
set_option maxRecDepth 100000 in
theorem bX6_count_0 {E : jE} (hE : jOk E cX6_count RX6) (hn : E.2.2.2.2 = 2) (hR : jRoom E 2 44) {ad : Nat → Nat} (hA : adOk ad) {r : GW} {b : Nat × Nat} {K : Int32 → MS → Prop} (hK : jRi E .int (KMI ad r K)) {x1 : Int32} {m : MS}  (hw : wX6_count_0 x1 m K) : J E (mwX ad m r) b [(0, .ref (ad 0)), (1, .int (x1))] 0 [] := by
  unfold wX6_count_0 at hw
  refine j_aload_n hE 0 dX6_count_0 rfl rfl ?_
  refine j_iconst hE dX6_count_1 kc_0 ?_
  refine jm_putF hE hA 0 0 (Nat.le_of_ble_eq_true rfl) q1647 rfl rfl (mset_0 _ _ _) rfl rfl dX6_count_2 ?_
  refine j_wm (fun m1 e_m1 => ?_)
  have hw := hw m1 e_m1
  refine j_iload_n hE 1 dX6_count_5 rfl rfl ?_
  by_cases c2 : x1 = 0
  · have hw := hw.1 c2
    refine j_tin hE 68 dX6_count_6 (by rw [c2]; decide) (by rw [c2]; decide) (by rw [c2]; rfl) (by decide) ?_
    refine j_aload_n hE 0 dX6_count_68 rfl rfl ?_
    refine jm_get hE hA 10 (Nat.le_of_ble_eq_true rfl) q1657 rfl (v := .ref (ad 4)) rfl dX6_count_69 ?_
    refine j_iload_n hE 1 dX6_count_72 rfl rfl ?_
    obtain ⟨h3, hw⟩ := hw
    refine jm_iald hE hA 3 (Nat.le_of_ble_eq_true rfl) h3 dX6_count_73 ?_
    exact j_iret hE hK dX6_count_74 rfl ⟨_, rfl, hw⟩
  replace hw := hw.2 c2
  by_cases c4 : x1 = 1
  · have hw := hw.1 c4
    refine j_tin hE 68 dX6_count_6 (by rw [c4]; decide) (by rw [c4]; decide) (by rw [c4]; rfl) (by decide) ?_
    refine j_aload_n hE 0 dX6_count_68 rfl rfl ?_
    refine jm_get hE hA 10 (Nat.le_of_ble_eq_true rfl) q1657 rfl (v := .ref (ad 4)) rfl dX6_count_69 ?_
    refine j_iload_n hE 1 dX6_count_72 rfl rfl ?_
    obtain ⟨h5, hw⟩ := hw
    refine jm_iald hE hA 3 (Nat.le_of_ble_eq_true rfl) h5 dX6_count_73 ?_
    exact j_iret hE hK dX6_count_74 rfl ⟨_, rfl, hw⟩
  replace hw := hw.2 c4
  by_cases c6 : x1 = nI 2
  · have hw := hw.1 c6
    refine j_tin hE 68 dX6_count_6 (by rw [c6]; decide) (by rw [c6]; decide) (by rw [c6]; rfl) (by decide) ?_
    refine j_aload_n hE 0 dX6_count_68 rfl rfl ?_
    refine jm_get hE hA 10 (Nat.le_of_ble_eq_true rfl) q1657 rfl (v := .ref (ad 4)) rfl dX6_count_69 ?_
    refine j_iload_n hE 1 dX6_count_72 rfl rfl ?_
    obtain ⟨h7, hw⟩ := hw
    refine jm_iald hE hA 3 (Nat.le_of_ble_eq_true rfl) h7 dX6_count_73 ?_
    exact j_iret hE hK dX6_count_74 rfl ⟨_, rfl, hw⟩
  replace hw := hw.2 c6
  by_cases c8 : x1 = nI 3
  · have hw := hw.1 c8
    refine j_tin hE 75 dX6_count_6 (by rw [c8]; decide) (by rw [c8]; decide) (by rw [c8]; rfl) (by decide) ?_
    refine j_aload_n hE 0 dX6_count_75 rfl rfl ?_
    refine jm_get hE hA 24 (Nat.le_of_ble_eq_true rfl) q1671 rfl (v := .ref (ad 12)) rfl dX6_count_76 ?_
    refine j_iconst hE dX6_count_79 kc_0 ?_
    obtain ⟨h9, hw⟩ := hw
    refine jm_iald hE hA 11 (Nat.le_of_ble_eq_true rfl) h9 dX6_count_80 ?_
    exact j_iret hE hK dX6_count_81 rfl ⟨_, rfl, hw⟩
  replace hw := hw.2 c8
  by_cases c10 : x1 = nI 4
  · have hw := hw.1 c10
    refine j_tin hE 82 dX6_count_6 (by rw [c10]; decide) (by rw [c10]; decide) (by rw [c10]; rfl) (by decide) ?_
    refine j_aload_n hE 0 dX6_count_82 rfl rfl ?_
    refine j_aload_n hE 0 dX6_count_83 rfl rfl ?_
    refine jm_get hE hA 24 (Nat.le_of_ble_eq_true rfl) q1671 rfl (v := .ref (ad 12)) rfl dX6_count_84 ?_
    refine j_iconst hE dX6_count_87 kc_0 ?_
    obtain ⟨h11, hw⟩ := hw
    refine jm_iald hE hA 11 (Nat.le_of_ble_eq_true rfl) h11 dX6_count_88 ?_
    refine jm_pI hE hA hR (As := [.int (rd (gA m1 11) 0)]) (rest := []) (ctX6_lightOf E.1.2.1 E.2.2.1 hA _ _ _  _ hw) rfl lkX6_lightOf jdX6_lightOf ⟨Nat.le_of_ble_eq_true rfl, Nat.le_of_ble_eq_true rfl⟩ rfl (Nat.le_of_ble_eq_true rfl) dX6_count_89 (fun r12 hw => ?_)
    exact j_iret hE hK dX6_count_92 rfl ⟨_, rfl, hw⟩
  replace hw := hw.2 c10
  by_cases c13 : x1 = nI 5
  · have hw := hw.1 c13
    refine j_tin hE 93 dX6_count_6 (by rw [c13]; decide) (by rw [c13]; decide) (by rw [c13]; rfl) (by decide) ?_
    refine j_aload_n hE 0 dX6_count_93 rfl rfl ?_
    refine jm_pI hE hA hR (As := []) (rest := []) (ctX6_marksMany E.1.2.1 E.2.2.1 hA _ _  _ hw) rfl lkX6_marksMany jdX6_marksMany ⟨Nat.le_of_ble_eq_true rfl, Nat.le_of_ble_eq_true rfl⟩ rfl (Nat.le_of_ble_eq_true rfl) dX6_count_94 (fun r14 hw => ?_)
    exact j_iret hE hK dX6_count_97 rfl ⟨_, rfl, hw⟩
  replace hw := hw.2 c13
  by_cases c15 : x1 = nI 6
  · have hw := hw.1 c15
    refine j_tin hE 98 dX6_count_6 (by rw [c15]; decide) (by rw [c15]; decide) (by rw [c15]; rfl) (by decide) ?_
    refine j_aload_n hE 0 dX6_count_98 rfl rfl ?_
    refine j_bipush hE dX6_count_99 kb_6 ?_
    refine j_iconst hE dX6_count_101 kc_1 ?_
    refine jm_pI hE hA hR (As := [.int (nI 6), .int (1)]) (rest := []) (ctX6_bitsOf E.1.2.1 E.2.2.1 hA _ _ _ _  _ hw) rfl lkX6_bitsOf jdX6_bitsOf ⟨Nat.le_of_ble_eq_true rfl, Nat.le_of_ble_eq_true rfl⟩ rfl (Nat.le_of_ble_eq_true rfl) dX6_count_102 (fun r16 hw => ?_)
    exact j_iret hE hK dX6_count_105 rfl ⟨_, rfl, hw⟩
  replace hw := hw.2 c15
  by_cases c17 : x1 = nI 7
  · have hw := hw.1 c17
    refine j_tin hE 106 dX6_count_6 (by rw [c17]; decide) (by rw [c17]; decide) (by rw [c17]; rfl) (by decide) ?_
    refine j_aload_n hE 0 dX6_count_106 rfl rfl ?_
    refine j_bipush hE dX6_count_107 kb_12 ?_
    refine j_iconst hE dX6_count_109 kc_1 ?_
    refine jm_pI hE hA hR (As := [.int (nI 12), .int (1)]) (rest := []) (ctX6_bitsOf E.1.2.1 E.2.2.1 hA _ _ _ _  _ hw) rfl lkX6_bitsOf jdX6_bitsOf ⟨Nat.le_of_ble_eq_true rfl, Nat.le_of_ble_eq_true rfl⟩ rfl (Nat.le_of_ble_eq_true rfl) dX6_count_110 (fun r18 hw => ?_)
    exact j_iret hE hK dX6_count_113 rfl ⟨_, rfl, hw⟩
  replace hw := hw.2 c17
  by_cases c19 : x1 = nI 8
  · have hw := hw.1 c19
    refine j_tin hE 114 dX6_count_6 (by rw [c19]; decide) (by rw [c19]; decide) (by rw [c19]; rfl) (by decide) ?_
    refine j_aload_n hE 0 dX6_count_114 rfl rfl ?_
    refine jm_get hE hA 21 (Nat.le_of_ble_eq_true rfl) q1668 rfl (v := .ref (ad 9)) rfl dX6_count_115 ?_
    refine j_iconst hE dX6_count_118 kc_0 ?_
    obtain ⟨h20, hw⟩ := hw
    refine jm_iald hE hA 8 (Nat.le_of_ble_eq_true rfl) h20 dX6_count_119 ?_
    exact j_iret hE hK dX6_count_120 rfl ⟨_, rfl, hw⟩
  replace hw := hw.2 c19
  by_cases c21 : x1 = nI 9
  · have hw := hw.1 c21
    refine j_tin hE 121 dX6_count_6 (by rw [c21]; decide) (by rw [c21]; decide) (by rw [c21]; rfl) (by decide) ?_
    refine j_aload_n hE 0 dX6_count_121 rfl rfl ?_
    refine j_bipush hE dX6_count_122 kb_60 ?_
    refine j_iconst hE dX6_count_124 kc_0 ?_
    refine jm_pI hE hA hR (As := [.int (nI 60), .int (0)]) (rest := []) (ctX6_bitsOf E.1.2.1 E.2.2.1 hA _ _ _ _  _ hw) rfl lkX6_bitsOf jdX6_bitsOf ⟨Nat.le_of_ble_eq_true rfl, Nat.le_of_ble_eq_true rfl⟩ rfl (Nat.le_of_ble_eq_true rfl) dX6_count_125 (fun r22 hw => ?_)
    refine j_aload_n hE 0 dX6_count_128 rfl rfl ?_
    refine j_bipush hE dX6_count_129 kb_60 ?_
    refine j_iconst hE dX6_count_131 kc_1 ?_
    refine jm_pI hE hA hR (As := [.int (nI 60), .int (1)]) (rest := [.int (r22)]) (ctX6_bitsOf E.1.2.1 E.2.2.1 hA _ _ _ _  _ hw) rfl lkX6_bitsOf jdX6_bitsOf ⟨Nat.le_of_ble_eq_true rfl, Nat.le_of_ble_eq_true rfl⟩ rfl (Nat.le_of_ble_eq_true rfl) dX6_count_132 (fun r23 hw => ?_)
    refine j_ior hE dX6_count_135 ?_
    refine j_psI hE hR (As := [.int (r22 ||| r23)]) (rest := []) (ctX6_bits E.1.2.1 E.2.2.1 _ _  _ hw) lkX6_bits jdX6_bits ⟨Nat.le_of_ble_eq_true rfl, Nat.le_of_ble_eq_true rfl⟩ rfl (Nat.le_of_ble_eq_true rfl) dX6_count_136 (fun r24 hw => ?_)
    exact j_iret hE hK dX6_count_139 rfl ⟨_, rfl, hw⟩
  replace hw := hw.2 c21
  by_cases c25 : x1 = nI 10
  · have hw := hw.1 c25
    refine j_tin hE 140 dX6_count_6 (by rw [c25]; decide) (by rw [c25]; decide) (by rw [c25]; rfl) (by decide) ?_
    refine j_aload_n hE 0 dX6_count_140 rfl rfl ?_
    refine jm_get hE hA 25 (Nat.le_of_ble_eq_true rfl) q1672 rfl (v := .int (gF m1 9)) rfl dX6_count_141 ?_
    exact j_iret hE hK dX6_count_144 rfl ⟨_, rfl, hw⟩
  replace hw := hw.2 c25
  by_cases c26 : x1 = nI 11
  · have hw := hw.1 c26
    refine j_tin hE 145 dX6_count_6 (by rw [c26]; decide) (by rw [c26]; decide) (by rw [c26]; rfl) (by decide) ?_
    refine j_aload_n hE 0 dX6_count_145 rfl rfl ?_
    refine jm_get hE hA 2 (Nat.le_of_ble_eq_true rfl) q1649 rfl (v := .int (gF m1 1)) rfl dX6_count_146 ?_
    exact j_iret hE hK dX6_count_149 rfl ⟨_, rfl, hw⟩
  replace hw := hw.2 c26
  refine j_tout hE 150 dX6_count_6 (tsw_out x1 (0) (11) (fun k h1 h2 => ?_)) (by decide) ?_
  · rcases (show k = 0 ∨ k = 1 ∨ k = 2 ∨ k = 3 ∨ k = 4 ∨ k = 5 ∨ k = 6 ∨ k = 7 ∨ k = 8 ∨ k = 9 ∨ k = 10 ∨ k = 11 by omega) with rfl | rfl | rfl | rfl | rfl | rfl | rfl | rfl | rfl | rfl | rfl | rfl
    · exact tsw_ne _ _ _ (by decide) c2
    · exact tsw_ne _ _ _ (by decide) c4
    · exact tsw_ne _ _ _ (by decide) c6
    · exact tsw_ne _ _ _ (by decide) c8
    · exact tsw_ne _ _ _ (by decide) c10
    · exact tsw_ne _ _ _ (by decide) c13
    · exact tsw_ne _ _ _ (by decide) c15
    · exact tsw_ne _ _ _ (by decide) c17
    · exact tsw_ne _ _ _ (by decide) c19
    · exact tsw_ne _ _ _ (by decide) c21
    · exact tsw_ne _ _ _ (by decide) c25
    · exact tsw_ne _ _ _ (by decide) c26
  refine j_iconst hE dX6_count_150 kc_m1 ?_
  exact j_iret hE hK dX6_count_151 rfl ⟨_, rfl, hw⟩
abbrev wX6_count := wX6_count_0
theorem ctX6_count (l : Launch) (G : gG) {ad : Nat → Nat} (hA : adOk ad) (m0 : MS) (r : GW) (x1 : Int32) (K : Int32 → MS → Prop) (hw : wX6_count x1 m0 K) : CtI l yX6_count cX6_count 2 .int ({ frames := 2, cells := 0, slots := 0, locals := 44 }) G [.ref (ad 0), .int (x1)] (mwX ad m0 r) (KMI ad r K) :=
  CtI.of RX6 plain_X6 rfl (Nat.le_of_ble_eq_true rfl) (fun E hE _ _ hn hR hK => bX6_count_0 hE hn hR hA hK hw)
theorem jdX6_count : jD yX6_count 1 := by decide +kernel
