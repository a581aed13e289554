def wX0_rests_0 (c : Nat → Option Nat) (x0 : Nat) (x1 : Int32) (x2 : Int32) (x3 : Int32) (x4 : Int32) (x5 : Nat) (w : GW) (bb : Nat × Nat) (K : Int32 → GW → Prop) : Prop :=
  gmc w x0 = some 0 ∧ (∃ cb3 : Nat × Nat, (cb3.1 ≤ bb.1 ∧ cb3.2 ≤ bb.2) ∧ (wX1_rests c x0 x1 x2 x3 x4 w cb3 (fun r1 w5 => ∀ b9 : Nat × Nat, b9 = (bb.1 - cb3.1, bb.2 - cb3.2) → (∃ (n10 : Nat) (f11 : Nat → Int64), w5 x5 = some (true, .inl (2, n10, .inr (.inl f11))) ∧ vp_in ((0 : Int32)) n10 ∧ (∀ w14 : GW, w14 = gup w5 x5 (.inl (2, n10, .inr (.inl (vp_updL f11 ((0 : Int32)).toNatClampNeg r1.toInt64)))) → (K ((0 : Int32)) w14)))) (fun E9 qa6 w7 => Cond.castable E9 "java/util/NoSuchElementException" ∈ lw_tbl ∧ ∀ b8 : Nat × Nat, b8 = (bb.1 - cb3.1, bb.2 - cb3.2) → (K ((1 : Int32)) w7))))
set_option maxRecDepth 100000 in
theorem bX0_rests_0 {E : jE} (hE : jOk E cX0_rests RX0) (hn : E.2.2.2.2 = 7) (hR : jRoom E 8 148) {c : Nat → Option Nat} (hc : E.2.2.1.2.2.2 = c) (hst : E.1.2.1.stackTraces = false) (hT : E.2.1.2.1.exceptionTable.toList = tableOf [(0, 14, 17, 13)]) {K : Int32 → GW → Prop} (hK : jXi E .int (K) (fun _ _ _ => False)) {x0 : Nat} {x1 : Int32} {x2 : Int32} {x3 : Int32} {x4 : Int32} {x5 : Nat} {w : GW} {bb : Nat × Nat}  (hw : wX0_rests_0 c x0 x1 x2 x3 x4 x5 w bb K) : J E w bb [(0, .ref (x0)), (1, .int (x1)), (2, .int (x2)), (3, .int (x3)), (4, .int (x4)), (5, .ref (x5))] 0 [] := by
  unfold wX0_rests_0 at hw
  refine j_aload hE 5 dX0_rests_0 rfl ?_
  refine j_iconst hE dX0_rests_2 kc_0 ?_
  refine j_aload_n hE 0 dX0_rests_3 rfl rfl ?_
  refine j_iload_n hE 1 dX0_rests_4 rfl rfl ?_
  refine j_iload_n hE 2 dX0_rests_5 rfl rfl ?_
  refine j_iload_n hE 3 dX0_rests_6 rfl rfl ?_
  refine j_iload hE 4 dX0_rests_7 rfl ?_
  obtain ⟨h2, hw⟩ := hw
  obtain ⟨cb3, h4, hw⟩ := hw
  refine jcx_i (jrx_V hE hR (As := [.int (x1), .int (x2), .int (x3), .int (x4)]) (rest := [.int ((0 : Int32)), .ref (x5)]) ((ctX1_rests E.1.2.1 E.2.2.1 hc hst _ _ _ _ _ _ _ _ _ hw) E.2.2.2.1) (lw_V q1556 q1557 q1558 q121 q1559) jdX1_rests ⟨Nat.le_of_ble_eq_true rfl, Nat.le_of_ble_eq_true rfl⟩ h4 (gmc_gIs h2 (r := (RX1, TX1, 15)) rfl) rfl (Nat.le_of_ble_eq_true rfl) dX0_rests_9) (fun E9 qa6 w7 hw => ?_) (fun r1 w5 hw => ?_)
  · obtain ⟨hcs, hw⟩ := hw
    refine jx_catch hE hT q1555 (by decide) ⟨by decide, by decide⟩ hcs ?_
    refine j_nb (fun b8 e_b8 => ?_)
    replace hw := hw b8 e_b8
    refine j_astore (L' := [(6, .ref (qa6)), (0, .ref (x0)), (1, .int (x1)), (2, .int (x2)), (3, .int (x3)), (4, .int (x4)), (5, .ref (x5))]) hE hn dX0_rests_17 (Nat.le_of_ble_eq_true rfl) rfl ?_
    refine j_iconst hE dX0_rests_19 kc_1 ?_
    exact jx_iret hE hK dX0_rests_20 rfl hw
  refine j_nb (fun b9 e_b9 => ?_)
  replace hw := hw b9 e_b9
  refine j_i2l hE dX0_rests_12 ?_
  obtain ⟨n10, f11, h12, h13, hw⟩ := hw
  refine j_last hE h12 h13 dX0_rests_13 ?_
  refine j_nw (fun w14 e_w14 => ?_)
  replace hw := hw w14 e_w14
  refine j_goto hE 21 dX0_rests_14 (by decide) ?_
  refine j_iconst hE dX0_rests_21 kc_0 ?_
  exact jx_iret hE hK dX0_rests_22 rfl hw
theorem jdX0_rests : jD yX0_rests 6 := by decide +kernel
abbrev wX0_rests := wX0_rests_0
theorem ctX0_rests (l : Launch) (G : gG) {c : Nat → Option Nat} (hc : G.2.2.2 = c) (hst : l.stackTraces = false) (x0 : Nat) (x1 : Int32) (x2 : Int32) (x3 : Int32) (x4 : Int32) (x5 : Nat) (w : GW) (bb : Nat × Nat) (K : Int32 → GW → Prop) (hw : wX0_rests_0 c x0 x1 x2 x3 x4 x5 w bb K) {F2 L2 : Nat} (h2 : 8 ≤ F2 ∧ 148 ≤ L2 := by exact ⟨Nat.le_refl _, Nat.le_refl _⟩) : CtWI l yX0_rests cX0_rests 7 .int [(0, 14, 17, 13)] ({ frames := F2, cells := bb.1, slots := bb.2, locals := L2 }) G [.ref (x0), .int (x1), .int (x2), .int (x3), .int (x4), .ref (x5)] w (K) :=
  CtWI.of RX0 plainc_X0 rfl (Nat.le_of_ble_eq_true rfl) (fun E hE hl hG hn hR hT hK => bX0_rests_0 hE hn (hR.le h2.1 h2.2) (by rw [hG]; exact hc) (by rw [hl]; exact hst) hT hK hw)
def wL_law_1473 (c : Nat → Option Nat) (x0 : Nat) (x1 : Nat) (x2 : Nat) (x3 : Nat) (x4 : Int32) (w : GW) (bb : Nat × Nat) (KL23 : Int32 × GW × (Nat × Nat) → Prop) (K : Int32 → GW → Prop) : Prop :=
  KL23 ((x4 + nI 7), w, bb)
set_option maxRecDepth 100000 in
theorem bL_law_1473 {E : jE} (hE : jOk E cL_law RX0) (hn : E.2.2.2.2 = 7) (hR : jRoom E 2230 66818) {c : Nat → Option Nat} (hc : E.2.2.1.2.2.2 = c) (hst : E.1.2.1.stackTraces = false) {K : Int32 → GW → Prop} (hK : jRL E K) {x0 : Nat} {x1 : Nat} {x2 : Nat} {x3 : Nat} {x4 : Int32} {w : GW} {bb : Nat × Nat} {KL23 : Int32 × GW × (Nat × Nat) → Prop} (ih23 : ∀ s : Int32 × GW × (Nat × Nat), KL23 s → J E (s.2.1) (s.2.2) [(0, .ref (x0)), (1, .ref (x1)), (2, .ref (x2)), (3, .ref (x3)), (4, .int (s.1))] 23 []) (hw : wL_law_1473 c x0 x1 x2 x3 x4 w bb KL23 K) : J E w bb [(0, .ref (x0)), (1, .ref (x1)), (2, .ref (x2)), (3, .ref (x3)), (4, .int (x4))] 1473 [] := by
  unfold wL_law_1473 at hw
  refine j_iinc (L' := [(4, .int (x4 + nI 7)), (0, .ref (x0)), (1, .ref (x1)), (2, .ref (x2)), (3, .ref (x3))]) hE hn 4 dL_law_1473 rfl (congrArg (x4 + ·) kc_7) (Nat.le_of_ble_eq_true rfl) rfl ?_
  refine j_goto hE 23 dL_law_1476 (by decide) ?_
  refine j_sub [(0, .ref (x0)), (1, .ref (x1)), (2, .ref (x2)), (3, .ref (x3)), (4, .int (x4 + nI 7))] [1, 2, 3, 4, 0] rfl ?_
  have hz := ih23 ((x4 + nI 7), w, bb) hw
  exact hz
def wL_law_216 (c : Nat → Option Nat) (x0 : Nat) (x1 : Nat) (x2 : Nat) (x3 : Nat) (x4 : Int32) (w : GW) (bb : Nat × Nat) (KL23 : Int32 × GW × (Nat × Nat) → Prop) (K : Int32 → GW → Prop) : Prop :=
  ∃ (n1 : Nat) (f2 : Nat → Int32), gai w x0 0 = some (n1, f2) ∧ vp_in (x4 + ((1 : Int32))) n1 ∧ (∃ (n5 : Nat) (f6 : Nat → Int32), gai w x0 0 = some (n5, f6) ∧ vp_in (x4 + (nI 2)) n5 ∧ (∃ (n9 : Nat) (f10 : Nat → Int32), gai w x0 0 = some (n9, f10) ∧ vp_in (x4 + (nI 3)) n9 ∧ (∃ (n13 : Nat) (f14 : Nat → Int32), gai w x0 0 = some (n13, f14) ∧ vp_in (x4 + (nI 4)) n13 ∧ (∃ (n17 : Nat) (f18 : Nat → Int32), gai w x0 0 = some (n17, f18) ∧ vp_in (x4 + (nI 5)) n17 ∧ (∃ (n21 : Nat) (f22 : Nat → Int32), gai w x0 0 = some (n21, f22) ∧ vp_in (x4 + (nI 6)) n21 ∧ (gmc w x1 = some 0 ∧ (wX1_feed c x1 ((lshl ((rd f2 (x4 + ((1 : Int32)))).toInt64) (nI 32)) ||| (((rd f6 (x4 + (nI 2))).toInt64) &&& ((4294967295 : Int64)))) ((lshl ((rd f10 (x4 + (nI 3))).toInt64) (nI 32)) ||| (((rd f14 (x4 + (nI 4))).toInt64) &&& ((4294967295 : Int64)))) ((lshl ((rd f18 (x4 + (nI 5))).toInt64) (nI 32)) ||| (((rd f22 (x4 + (nI 6))).toInt64) &&& ((4294967295 : Int64)))) w (fun r25 w27 => ∃ (n28 : Nat) (f29 : Nat → Int32), gai w27 x0 0 = some (n28, f29) ∧ vp_in (x4 + ((1 : Int32))) n28 ∧ (∃ (n32 : Nat) (f33 : Nat → Int32), gai w27 x0 0 = some (n32, f33) ∧ vp_in (x4 + (nI 2)) n32 ∧ (∃ (n36 : Nat) (f37 : Nat → Int32), gai w27 x0 0 = some (n36, f37) ∧ vp_in (x4 + (nI 3)) n36 ∧ (∃ (n40 : Nat) (f41 : Nat → Int32), gai w27 x0 0 = some (n40, f41) ∧ vp_in (x4 + (nI 4)) n40 ∧ (∃ (n44 : Nat) (f45 : Nat → Int32), gai w27 x0 0 = some (n44, f45) ∧ vp_in (x4 + (nI 5)) n44 ∧ (∃ (n48 : Nat) (f49 : Nat → Int32), gai w27 x0 0 = some (n48, f49) ∧ vp_in (x4 + (nI 6)) n48 ∧ (∃ (ad52 : Nat → Nat) (m53 : MS) (r54 : GW), adOk ad52 ∧ w27 = mwX ad52 m53 r54 ∧ x2 = ad52 0 ∧ wX6_feed ((lshl ((rd f29 (x4 + ((1 : Int32)))).toInt64) (nI 32)) ||| (((rd f33 (x4 + (nI 2))).toInt64) &&& ((4294967295 : Int64)))) ((lshl ((rd f37 (x4 + (nI 3))).toInt64) (nI 32)) ||| (((rd f41 (x4 + (nI 4))).toInt64) &&& ((4294967295 : Int64)))) ((lshl ((rd f45 (x4 + (nI 5))).toInt64) (nI 32)) ||| (((rd f49 (x4 + (nI 6))).toInt64) &&& ((4294967295 : Int64)))) m53 (fun v56 m55 => ∀ w60 : GW, w60 = mwX ad52 m55 r54 → ((r25 = v56 → (wL_law_1473 c x0 x1 x2 x3 x4 w60 bb KL23 K)) ∧ (¬ r25 = v56 → (K ((0 : Int32)) w60))))))))))))))))))
set_option maxRecDepth 100000 in
theorem bL_law_216 {E : jE} (hE : jOk E cL_law RX0) (hn : E.2.2.2.2 = 7) (hR : jRoom E 2230 66818) {c : Nat → Option Nat} (hc : E.2.2.1.2.2.2 = c) (hst : E.1.2.1.stackTraces = false) {K : Int32 → GW → Prop} (hK : jRL E K) {x0 : Nat} {x1 : Nat} {x2 : Nat} {x3 : Nat} {x4 : Int32} {w : GW} {bb : Nat × Nat} {KL23 : Int32 × GW × (Nat × Nat) → Prop} (ih23 : ∀ s : Int32 × GW × (Nat × Nat), KL23 s → J E (s.2.1) (s.2.2) [(0, .ref (x0)), (1, .ref (x1)), (2, .ref (x2)), (3, .ref (x3)), (4, .int (s.1))] 23 []) (hw : wL_law_216 c x0 x1 x2 x3 x4 w bb KL23 K) : J E w bb [(0, .ref (x0)), (1, .ref (x1)), (2, .ref (x2)), (3, .ref (x3)), (4, .int (x4))] 216 [] := by
  unfold wL_law_216 at hw
  refine j_aload_n hE 1 dL_law_216 rfl rfl ?_
  refine j_aload_n hE 0 dL_law_217 rfl rfl ?_
  refine j_iload hE 4 dL_law_218 rfl ?_
  refine j_iconst hE dL_law_220 kc_1 ?_
  refine j_iadd hE dL_law_221 ?_
  obtain ⟨n1, f2, h3, h4, hw⟩ := hw
  refine j_aldI hE h3 h4 dL_law_222 ?_
  refine j_i2l hE dL_law_223 ?_
  refine j_bipush hE dL_law_224 kb_32 ?_
  refine j_lshl hE dL_law_226 ?_
  refine j_aload_n hE 0 dL_law_227 rfl rfl ?_
  refine j_iload hE 4 dL_law_228 rfl ?_
  refine j_iconst hE dL_law_230 kc_2 ?_
  refine j_iadd hE dL_law_231 ?_
  obtain ⟨n5, f6, h7, h8, hw⟩ := hw
  refine j_aldI hE h7 h8 dL_law_232 ?_
  refine j_i2l hE dL_law_233 ?_
  refine j_ldc2 hE q2182 dL_law_234 ?_
  refine j_land hE dL_law_237 ?_
  refine j_lor hE dL_law_238 ?_
  refine j_aload_n hE 0 dL_law_239 rfl rfl ?_
  refine j_iload hE 4 dL_law_240 rfl ?_
  refine j_iconst hE dL_law_242 kc_3 ?_
  refine j_iadd hE dL_law_243 ?_
  obtain ⟨n9, f10, h11, h12, hw⟩ := hw
  refine j_aldI hE h11 h12 dL_law_244 ?_
  refine j_i2l hE dL_law_245 ?_
  refine j_bipush hE dL_law_246 kb_32 ?_
  refine j_lshl hE dL_law_248 ?_
  refine j_aload_n hE 0 dL_law_249 rfl rfl ?_
  refine j_iload hE 4 dL_law_250 rfl ?_
  refine j_iconst hE dL_law_252 kc_4 ?_
  refine j_iadd hE dL_law_253 ?_
  obtain ⟨n13, f14, h15, h16, hw⟩ := hw
  refine j_aldI hE h15 h16 dL_law_254 ?_
  refine j_i2l hE dL_law_255 ?_
  refine j_ldc2 hE q2182 dL_law_256 ?_
  refine j_land hE dL_law_259 ?_
  refine j_lor hE dL_law_260 ?_
  refine j_aload_n hE 0 dL_law_261 rfl rfl ?_
  refine j_iload hE 4 dL_law_262 rfl ?_
  refine j_iconst hE dL_law_264 kc_5 ?_
  refine j_iadd hE dL_law_265 ?_
  obtain ⟨n17, f18, h19, h20, hw⟩ := hw
  refine j_aldI hE h19 h20 dL_law_266 ?_
  refine j_i2l hE dL_law_267 ?_
  refine j_bipush hE dL_law_268 kb_32 ?_
  refine j_lshl hE dL_law_270 ?_
  refine j_aload_n hE 0 dL_law_271 rfl rfl ?_
  refine j_iload hE 4 dL_law_272 rfl ?_
  refine j_bipush hE dL_law_274 kb_6 ?_
  refine j_iadd hE dL_law_276 ?_
  obtain ⟨n21, f22, h23, h24, hw⟩ := hw
  refine j_aldI hE h23 h24 dL_law_277 ?_
  refine j_i2l hE dL_law_278 ?_
  refine j_ldc2 hE q2182 dL_law_279 ?_
  refine j_land hE dL_law_282 ?_
  refine j_lor hE dL_law_283 ?_
  obtain ⟨h26, hw⟩ := hw
  refine jc_i (jr_V hE hR (As := [.long ((lshl ((rd f2 (x4 + ((1 : Int32)))).toInt64) (nI 32)) ||| (((rd f6 (x4 + (nI 2))).toInt64) &&& ((4294967295 : Int64)))), .long ((lshl ((rd f10 (x4 + (nI 3))).toInt64) (nI 32)) ||| (((rd f14 (x4 + (nI 4))).toInt64) &&& ((4294967295 : Int64)))), .long ((lshl ((rd f18 (x4 + (nI 5))).toInt64) (nI 32)) ||| (((rd f22 (x4 + (nI 6))).toInt64) &&& ((4294967295 : Int64))))]) (rest := []) ((ctX1_feed E.1.2.1 E.2.2.1 hc _ _ _ _ _ _ hw) E.2.2.2.1) (lw_V q393 q394 q395 q121 q396) jdX1_feed ⟨Nat.le_of_ble_eq_true rfl, Nat.le_of_ble_eq_true rfl⟩ ⟨Nat.zero_le _, Nat.zero_le _⟩ (gmc_gIs h26 (r := (RX1, TX1, 15)) rfl) rfl (Nat.le_of_ble_eq_true rfl) dL_law_284) (fun r25 w27 hw => ?_)
  refine j_b0 ?_
  refine j_aload_n hE 2 dL_law_287 rfl rfl ?_
  refine j_aload_n hE 0 dL_law_288 rfl rfl ?_
  refine j_iload hE 4 dL_law_289 rfl ?_
  refine j_iconst hE dL_law_291 kc_1 ?_
  refine j_iadd hE dL_law_292 ?_
  obtain ⟨n28, f29, h30, h31, hw⟩ := hw
  refine j_aldI hE h30 h31 dL_law_293 ?_
  refine j_i2l hE dL_law_294 ?_
  refine j_bipush hE dL_law_295 kb_32 ?_
  refine j_lshl hE dL_law_297 ?_
  refine j_aload_n hE 0 dL_law_298 rfl rfl ?_
  refine j_iload hE 4 dL_law_299 rfl ?_
  refine j_iconst hE dL_law_301 kc_2 ?_
  refine j_iadd hE dL_law_302 ?_
  obtain ⟨n32, f33, h34, h35, hw⟩ := hw
  refine j_aldI hE h34 h35 dL_law_303 ?_
  refine j_i2l hE dL_law_304 ?_
  refine j_ldc2 hE q2182 dL_law_305 ?_
  refine j_land hE dL_law_308 ?_
  refine j_lor hE dL_law_309 ?_
  refine j_aload_n hE 0 dL_law_310 rfl rfl ?_
  refine j_iload hE 4 dL_law_311 rfl ?_
  refine j_iconst hE dL_law_313 kc_3 ?_
  refine j_iadd hE dL_law_314 ?_
  obtain ⟨n36, f37, h38, h39, hw⟩ := hw
  refine j_aldI hE h38 h39 dL_law_315 ?_
  refine j_i2l hE dL_law_316 ?_
  refine j_bipush hE dL_law_317 kb_32 ?_
  refine j_lshl hE dL_law_319 ?_
  refine j_aload_n hE 0 dL_law_320 rfl rfl ?_
  refine j_iload hE 4 dL_law_321 rfl ?_
  refine j_iconst hE dL_law_323 kc_4 ?_
  refine j_iadd hE dL_law_324 ?_
  obtain ⟨n40, f41, h42, h43, hw⟩ := hw
  refine j_aldI hE h42 h43 dL_law_325 ?_
  refine j_i2l hE dL_law_326 ?_
  refine j_ldc2 hE q2182 dL_law_327 ?_
  refine j_land hE dL_law_330 ?_
  refine j_lor hE dL_law_331 ?_
  refine j_aload_n hE 0 dL_law_332 rfl rfl ?_
  refine j_iload hE 4 dL_law_333 rfl ?_
  refine j_iconst hE dL_law_335 kc_5 ?_
  refine j_iadd hE dL_law_336 ?_
  obtain ⟨n44, f45, h46, h47, hw⟩ := hw
  refine j_aldI hE h46 h47 dL_law_337 ?_
  refine j_i2l hE dL_law_338 ?_
  refine j_bipush hE dL_law_339 kb_32 ?_
  refine j_lshl hE dL_law_341 ?_
  refine j_aload_n hE 0 dL_law_342 rfl rfl ?_
  refine j_iload hE 4 dL_law_343 rfl ?_
  refine j_bipush hE dL_law_345 kb_6 ?_
  refine j_iadd hE dL_law_347 ?_
  obtain ⟨n48, f49, h50, h51, hw⟩ := hw
  refine j_aldI hE h50 h51 dL_law_348 ?_
  refine j_i2l hE dL_law_349 ?_
  refine j_ldc2 hE q2182 dL_law_350 ?_
  refine j_land hE dL_law_353 ?_
  refine j_lor hE dL_law_354 ?_
  obtain ⟨ad52, m53, r54, h59, h58, h57, hw⟩ := hw
  rw [h58, h57]
  refine j_cvI hE hR (As := [.long ((lshl ((rd f29 (x4 + ((1 : Int32)))).toInt64) (nI 32)) ||| (((rd f33 (x4 + (nI 2))).toInt64) &&& ((4294967295 : Int64)))), .long ((lshl ((rd f37 (x4 + (nI 3))).toInt64) (nI 32)) ||| (((rd f41 (x4 + (nI 4))).toInt64) &&& ((4294967295 : Int64)))), .long ((lshl ((rd f45 (x4 + (nI 5))).toInt64) (nI 32)) ||| (((rd f49 (x4 + (nI 6))).toInt64) &&& ((4294967295 : Int64))))]) (rest := [.int (r25)]) (ctX6_feed E.1.2.1 E.2.2.1 h59 _ _ _ _ _ _ hw) (lw_V q1591 q1592 q1593 q129 q1594) jdX6_feed ⟨Nat.le_of_ble_eq_true rfl, Nat.le_of_ble_eq_true rfl⟩ ⟨Nat.zero_le _, Nat.zero_le _⟩ (mIs h59) rfl (Nat.le_of_ble_eq_true rfl) dL_law_355 (fun v56 u9 hk => ?_)
  obtain ⟨m55, e9, hw⟩ := hk
  subst e9
  (try rw [← h57])
  refine j_b0 ?_
  refine j_nw (fun w60 e_w60 => ?_)
  replace hw := hw w60 e_w60
  refine j_icmp_eq hE 1473 dL_law_358 (by decide) (fun c61 => ?_) (fun c61 => ?_)
  · replace hw := hw.1 c61
    have hz := bL_law_1473 hE hn hR hc hst hK ih23 hw
    exact hz
  · replace hw := hw.2 c61
    refine j_iconst hE dL_law_361 kc_0 ?_
    exact jl_iret hE hK dL_law_362 rfl hw
def wL_law_363 (c : Nat → Option Nat) (x0 : Nat) (x1 : Nat) (x2 : Nat) (x3 : Nat) (x4 : Int32) (w : GW) (bb : Nat × Nat) (KL23 : Int32 × GW × (Nat × Nat) → Prop) (K : Int32 → GW → Prop) : Prop :=
  gmc w x1 = some 0 ∧ (∃ cb3 : Nat × Nat, (cb3.1 ≤ bb.1 ∧ cb3.2 ≤ bb.2) ∧ (wX1_street c x1 w cb3 (fun r1 w5 => ∀ b6 : Nat × Nat, b6 = (bb.1 - cb3.1, bb.2 - cb3.2) → (∃ (ad7 : Nat → Nat) (m8 : MS) (r9 : GW), adOk ad7 ∧ w5 = mwX ad7 m8 r9 ∧ x2 = ad7 0 ∧ wX6_street  m8 (fun v11 m10 => ∀ w15 : GW, w15 = mwX ad7 m10 r9 → ((r1 = v11 → (wL_law_1473 c x0 x1 x2 x3 x4 w15 b6 KL23 K)) ∧ (¬ r1 = v11 → (K ((0 : Int32)) w15))))))))
set_option maxRecDepth 100000 in
theorem bL_law_363 {E : jE} (hE : jOk E cL_law RX0) (hn : E.2.2.2.2 = 7) (hR : jRoom E 2230 66818) {c : Nat → Option Nat} (hc : E.2.2.1.2.2.2 = c) (hst : E.1.2.1.stackTraces = false) {K : Int32 → GW → Prop} (hK : jRL E K) {x0 : Nat} {x1 : Nat} {x2 : Nat} {x3 : Nat} {x4 : Int32} {w : GW} {bb : Nat × Nat} {KL23 : Int32 × GW × (Nat × Nat) → Prop} (ih23 : ∀ s : Int32 × GW × (Nat × Nat), KL23 s → J E (s.2.1) (s.2.2) [(0, .ref (x0)), (1, .ref (x1)), (2, .ref (x2)), (3, .ref (x3)), (4, .int (s.1))] 23 []) (hw : wL_law_363 c x0 x1 x2 x3 x4 w bb KL23 K) : J E w bb [(0, .ref (x0)), (1, .ref (x1)), (2, .ref (x2)), (3, .ref (x3)), (4, .int (x4))] 363 [] := by
  unfold wL_law_363 at hw
  refine j_aload_n hE 1 dL_law_363 rfl rfl ?_
  obtain ⟨h2, hw⟩ := hw
  obtain ⟨cb3, h4, hw⟩ := hw
  refine jc_i (jr_VW hE hR (As := []) (rest := []) ((ctX1_street E.1.2.1 E.2.2.1 hc _ _ _ _ hw) E.2.2.2.1) (lw_VW q397 q398 q399 q121 q400) jdX1_street ⟨Nat.le_of_ble_eq_true rfl, Nat.le_of_ble_eq_true rfl⟩ h4 (gmc_gIs h2 (r := (RX1, TX1, 15)) rfl) rfl (Nat.le_of_ble_eq_true rfl) dL_law_364) (fun r1 w5 hw => ?_)
  refine j_nb (fun b6 e_b6 => ?_)
  replace hw := hw b6 e_b6
  refine j_aload_n hE 2 dL_law_367 rfl rfl ?_
  obtain ⟨ad7, m8, r9, h14, h13, h12, hw⟩ := hw
  rw [h13, h12]
  refine j_cvI hE hR (As := []) (rest := [.int (r1)]) (ctX6_street E.1.2.1 E.2.2.1 h14 _ _ _ hw) (lw_V q1743 q1744 q1745 q129 q1746) jdX6_street ⟨Nat.le_of_ble_eq_true rfl, Nat.le_of_ble_eq_true rfl⟩ ⟨Nat.zero_le _, Nat.zero_le _⟩ (mIs h14) rfl (Nat.le_of_ble_eq_true rfl) dL_law_368 (fun v11 u9 hk => ?_)
  obtain ⟨m10, e9, hw⟩ := hk
  subst e9
  (try rw [← h12])
  refine j_b0 ?_
  refine j_nw (fun w15 e_w15 => ?_)
  replace hw := hw w15 e_w15
  refine j_icmp_eq hE 1473 dL_law_371 (by decide) (fun c16 => ?_) (fun c16 => ?_)
  · replace hw := hw.1 c16
    have hz := bL_law_1473 hE hn hR hc hst hK ih23 hw
    exact hz
  · replace hw := hw.2 c16
    refine j_iconst hE dL_law_374 kc_0 ?_
    exact jl_iret hE hK dL_law_375 rfl hw
def wL_law_376 (c : Nat → Option Nat) (x0 : Nat) (x1 : Nat) (x2 : Nat) (x3 : Nat) (x4 : Int32) (w : GW) (bb : Nat × Nat) (KL23 : Int32 × GW × (Nat × Nat) → Prop) (K : Int32 → GW → Prop) : Prop :=
  gmc w x1 = some 0 ∧ (∃ cb3 : Nat × Nat, (cb3.1 ≤ bb.1 ∧ cb3.2 ≤ bb.2) ∧ (wX1_day c x1 w cb3 (fun r1 w5 => ∀ b6 : Nat × Nat, b6 = (bb.1 - cb3.1, bb.2 - cb3.2) → (∃ (ad7 : Nat → Nat) (m8 : MS) (r9 : GW), adOk ad7 ∧ w5 = mwX ad7 m8 r9 ∧ x2 = ad7 0 ∧ wX6_day  m8 (fun v11 m10 => ∀ w15 : GW, w15 = mwX ad7 m10 r9 → ((r1 = v11 → (wL_law_1473 c x0 x1 x2 x3 x4 w15 b6 KL23 K)) ∧ (¬ r1 = v11 → (K ((0 : Int32)) w15))))))))
set_option maxRecDepth 100000 in
theorem bL_law_376 {E : jE} (hE : jOk E cL_law RX0) (hn : E.2.2.2.2 = 7) (hR : jRoom E 2230 66818) {c : Nat → Option Nat} (hc : E.2.2.1.2.2.2 = c) (hst : E.1.2.1.stackTraces = false) {K : Int32 → GW → Prop} (hK : jRL E K) {x0 : Nat} {x1 : Nat} {x2 : Nat} {x3 : Nat} {x4 : Int32} {w : GW} {bb : Nat × Nat} {KL23 : Int32 × GW × (Nat × Nat) → Prop} (ih23 : ∀ s : Int32 × GW × (Nat × Nat), KL23 s → J E (s.2.1) (s.2.2) [(0, .ref (x0)), (1, .ref (x1)), (2, .ref (x2)), (3, .ref (x3)), (4, .int (s.1))] 23 []) (hw : wL_law_376 c x0 x1 x2 x3 x4 w bb KL23 K) : J E w bb [(0, .ref (x0)), (1, .ref (x1)), (2, .ref (x2)), (3, .ref (x3)), (4, .int (x4))] 376 [] := by
  unfold wL_law_376 at hw
  refine j_aload_n hE 1 dL_law_376 rfl rfl ?_
  obtain ⟨h2, hw⟩ := hw
  obtain ⟨cb3, h4, hw⟩ := hw
  refine jc_i (jr_VW hE hR (As := []) (rest := []) ((ctX1_day E.1.2.1 E.2.2.1 hc _ _ _ _ hw) E.2.2.2.1) (lw_VW q1070 q1071 q1072 q121 q1073) jdX1_day ⟨Nat.le_of_ble_eq_true rfl, Nat.le_of_ble_eq_true rfl⟩ h4 (gmc_gIs h2 (r := (RX1, TX1, 15)) rfl) rfl (Nat.le_of_ble_eq_true rfl) dL_law_377) (fun r1 w5 hw => ?_)
  refine j_nb (fun b6 e_b6 => ?_)
  replace hw := hw b6 e_b6
  refine j_aload_n hE 2 dL_law_380 rfl rfl ?_
  obtain ⟨ad7, m8, r9, h14, h13, h12, hw⟩ := hw
  rw [h13, h12]
  refine j_cvI hE hR (As := []) (rest := [.int (r1)]) (ctX6_day E.1.2.1 E.2.2.1 h14 _ _ _ hw) (lw_V q1862 q1863 q1864 q129 q1865) jdX6_day ⟨Nat.le_of_ble_eq_true rfl, Nat.le_of_ble_eq_true rfl⟩ ⟨Nat.zero_le _, Nat.zero_le _⟩ (mIs h14) rfl (Nat.le_of_ble_eq_true rfl) dL_law_381 (fun v11 u9 hk => ?_)
  obtain ⟨m10, e9, hw⟩ := hk
  subst e9
  (try rw [← h12])
  refine j_b0 ?_
  refine j_nw (fun w15 e_w15 => ?_)
  replace hw := hw w15 e_w15
  refine j_icmp_eq hE 1473 dL_law_384 (by decide) (fun c16 => ?_) (fun c16 => ?_)
  · replace hw := hw.1 c16
    have hz := bL_law_1473 hE hn hR hc hst hK ih23 hw
    exact hz
  · replace hw := hw.2 c16
    refine j_iconst hE dL_law_387 kc_0 ?_
    exact jl_iret hE hK dL_law_388 rfl hw
def wL_law_389 (c : Nat → Option Nat) (x0 : Nat) (x1 : Nat) (x2 : Nat) (x3 : Nat) (x4 : Int32) (w : GW) (bb : Nat × Nat) (KL23 : Int32 × GW × (Nat × Nat) → Prop) (K : Int32 → GW → Prop) : Prop :=
  ∃ (n1 : Nat) (f2 : Nat → Int32), gai w x0 0 = some (n1, f2) ∧ vp_in (x4 + ((1 : Int32))) n1 ∧ (∃ (n5 : Nat) (f6 : Nat → Int32), gai w x0 0 = some (n5, f6) ∧ vp_in (x4 + (nI 2)) n5 ∧ (gmc w x1 = some 0 ∧ (wX1_pane c x1 (rd f2 (x4 + ((1 : Int32)))) (rd f6 (x4 + (nI 2))) w (fun r9 => ∃ (n11 : Nat) (f12 : Nat → Int32), gai w x0 0 = some (n11, f12) ∧ vp_in (x4 + ((1 : Int32))) n11 ∧ (∃ (n15 : Nat) (f16 : Nat → Int32), gai w x0 0 = some (n15, f16) ∧ vp_in (x4 + (nI 2)) n15 ∧ (∃ (ad19 : Nat → Nat) (m20 : MS) (r21 : GW), adOk ad19 ∧ w = mwX ad19 m20 r21 ∧ x2 = ad19 0 ∧ wX6_pane (rd f12 (x4 + ((1 : Int32)))) (rd f16 (x4 + (nI 2))) m20 (fun v23 m22 => ∀ w27 : GW, w27 = mwX ad19 m22 r21 → ((r9 = v23 → (wL_law_1473 c x0 x1 x2 x3 x4 w27 bb KL23 K)) ∧ (¬ r9 = v23 → (K ((0 : Int32)) w27))))))))))
set_option maxRecDepth 100000 in
theorem bL_law_389 {E : jE} (hE : jOk E cL_law RX0) (hn : E.2.2.2.2 = 7) (hR : jRoom E 2230 66818) {c : Nat → Option Nat} (hc : E.2.2.1.2.2.2 = c) (hst : E.1.2.1.stackTraces = false) {K : Int32 → GW → Prop} (hK : jRL E K) {x0 : Nat} {x1 : Nat} {x2 : Nat} {x3 : Nat} {x4 : Int32} {w : GW} {bb : Nat × Nat} {KL23 : Int32 × GW × (Nat × Nat) → Prop} (ih23 : ∀ s : Int32 × GW × (Nat × Nat), KL23 s → J E (s.2.1) (s.2.2) [(0, .ref (x0)), (1, .ref (x1)), (2, .ref (x2)), (3, .ref (x3)), (4, .int (s.1))] 23 []) (hw : wL_law_389 c x0 x1 x2 x3 x4 w bb KL23 K) : J E w bb [(0, .ref (x0)), (1, .ref (x1)), (2, .ref (x2)), (3, .ref (x3)), (4, .int (x4))] 389 [] := by
  unfold wL_law_389 at hw
  refine j_aload_n hE 1 dL_law_389 rfl rfl ?_
  refine j_aload_n hE 0 dL_law_390 rfl rfl ?_
  refine j_iload hE 4 dL_law_391 rfl ?_
  refine j_iconst hE dL_law_393 kc_1 ?_
  refine j_iadd hE dL_law_394 ?_
  obtain ⟨n1, f2, h3, h4, hw⟩ := hw
  refine j_aldI hE h3 h4 dL_law_395 ?_
  refine j_aload_n hE 0 dL_law_396 rfl rfl ?_
  refine j_iload hE 4 dL_law_397 rfl ?_
  refine j_iconst hE dL_law_399 kc_2 ?_
  refine j_iadd hE dL_law_400 ?_
  obtain ⟨n5, f6, h7, h8, hw⟩ := hw
  refine j_aldI hE h7 h8 dL_law_401 ?_
  obtain ⟨h10, hw⟩ := hw
  refine jc_ip (jr_V hE hR (As := [.int (rd f2 (x4 + ((1 : Int32)))), .int (rd f6 (x4 + (nI 2)))]) (rest := []) ((ctX1_pane E.1.2.1 E.2.2.1 hc _ _ _ _ _ hw) E.2.2.2.1) (lw_V q1149 q1150 q1151 q121 q1152) jdX1_pane ⟨Nat.le_of_ble_eq_true rfl, Nat.le_of_ble_eq_true rfl⟩ ⟨Nat.zero_le _, Nat.zero_le _⟩ (gmc_gIs h10 (r := (RX1, TX1, 15)) rfl) rfl (Nat.le_of_ble_eq_true rfl) dL_law_402) (fun r9 hw => ?_)
  refine j_b0 ?_
  refine j_aload_n hE 2 dL_law_405 rfl rfl ?_
  refine j_aload_n hE 0 dL_law_406 rfl rfl ?_
  refine j_iload hE 4 dL_law_407 rfl ?_
  refine j_iconst hE dL_law_409 kc_1 ?_
  refine j_iadd hE dL_law_410 ?_
  obtain ⟨n11, f12, h13, h14, hw⟩ := hw
  refine j_aldI hE h13 h14 dL_law_411 ?_
  refine j_aload_n hE 0 dL_law_412 rfl rfl ?_
  refine j_iload hE 4 dL_law_413 rfl ?_
  refine j_iconst hE dL_law_415 kc_2 ?_
  refine j_iadd hE dL_law_416 ?_
  obtain ⟨n15, f16, h17, h18, hw⟩ := hw
  refine j_aldI hE h17 h18 dL_law_417 ?_
  obtain ⟨ad19, m20, r21, h26, h25, h24, hw⟩ := hw
  rw [h25, h24]
  refine j_cvI hE hR (As := [.int (rd f12 (x4 + ((1 : Int32)))), .int (rd f16 (x4 + (nI 2)))]) (rest := [.int (r9)]) (ctX6_pane E.1.2.1 E.2.2.1 h26 _ _ _ _ _ hw) (lw_V q1873 q1874 q1875 q129 q1876) jdX6_pane ⟨Nat.le_of_ble_eq_true rfl, Nat.le_of_ble_eq_true rfl⟩ ⟨Nat.zero_le _, Nat.zero_le _⟩ (mIs h26) rfl (Nat.le_of_ble_eq_true rfl) dL_law_418 (fun v23 u9 hk => ?_)
  obtain ⟨m22, e9, hw⟩ := hk
  subst e9
  (try rw [← h24])
  refine j_b0 ?_
  refine j_nw (fun w27 e_w27 => ?_)
  replace hw := hw w27 e_w27
  refine j_icmp_eq hE 1473 dL_law_421 (by decide) (fun c28 => ?_) (fun c28 => ?_)
  · replace hw := hw.1 c28
    have hz := bL_law_1473 hE hn hR hc hst hK ih23 hw
    exact hz
  · replace hw := hw.2 c28
    refine j_iconst hE dL_law_424 kc_0 ?_
    exact jl_iret hE hK dL_law_425 rfl hw
def wL_law_426 (c : Nat → Option Nat) (x0 : Nat) (x1 : Nat) (x2 : Nat) (x3 : Nat) (x4 : Int32) (w : GW) (bb : Nat × Nat) (KL23 : Int32 × GW × (Nat × Nat) → Prop) (K : Int32 → GW → Prop) : Prop :=
  ∃ (n1 : Nat) (f2 : Nat → Int32), gai w x0 0 = some (n1, f2) ∧ vp_in (x4 + ((1 : Int32))) n1 ∧ (∃ (n5 : Nat) (f6 : Nat → Int32), gai w x0 0 = some (n5, f6) ∧ vp_in (x4 + (nI 2)) n5 ∧ (∃ (n9 : Nat) (f10 : Nat → Int32), gai w x0 0 = some (n9, f10) ∧ vp_in (x4 + (nI 3)) n9 ∧ (gmc w x1 = some 0 ∧ (wX1_shown c x1 (rd f2 (x4 + ((1 : Int32)))) (rd f6 (x4 + (nI 2))) (rd f10 (x4 + (nI 3))) w (fun r13 => ∃ (n15 : Nat) (f16 : Nat → Int32), gai w x0 0 = some (n15, f16) ∧ vp_in (x4 + ((1 : Int32))) n15 ∧ (∃ (n19 : Nat) (f20 : Nat → Int32), gai w x0 0 = some (n19, f20) ∧ vp_in (x4 + (nI 2)) n19 ∧ (∃ (n23 : Nat) (f24 : Nat → Int32), gai w x0 0 = some (n23, f24) ∧ vp_in (x4 + (nI 3)) n23 ∧ (∃ (ad27 : Nat → Nat) (m28 : MS) (r29 : GW), adOk ad27 ∧ w = mwX ad27 m28 r29 ∧ x2 = ad27 0 ∧ wX6_shown (rd f16 (x4 + ((1 : Int32)))) (rd f20 (x4 + (nI 2))) (rd f24 (x4 + (nI 3))) m28 (fun v31 m30 => ∀ w35 : GW, w35 = mwX ad27 m30 r29 → ((r13 = v31 → (wL_law_1473 c x0 x1 x2 x3 x4 w35 bb KL23 K)) ∧ (¬ r13 = v31 → (K ((0 : Int32)) w35))))))))))))
set_option maxRecDepth 100000 in
theorem bL_law_426 {E : jE} (hE : jOk E cL_law RX0) (hn : E.2.2.2.2 = 7) (hR : jRoom E 2230 66818) {c : Nat → Option Nat} (hc : E.2.2.1.2.2.2 = c) (hst : E.1.2.1.stackTraces = false) {K : Int32 → GW → Prop} (hK : jRL E K) {x0 : Nat} {x1 : Nat} {x2 : Nat} {x3 : Nat} {x4 : Int32} {w : GW} {bb : Nat × Nat} {KL23 : Int32 × GW × (Nat × Nat) → Prop} (ih23 : ∀ s : Int32 × GW × (Nat × Nat), KL23 s → J E (s.2.1) (s.2.2) [(0, .ref (x0)), (1, .ref (x1)), (2, .ref (x2)), (3, .ref (x3)), (4, .int (s.1))] 23 []) (hw : wL_law_426 c x0 x1 x2 x3 x4 w bb KL23 K) : J E w bb [(0, .ref (x0)), (1, .ref (x1)), (2, .ref (x2)), (3, .ref (x3)), (4, .int (x4))] 426 [] := by
  unfold wL_law_426 at hw
  refine j_aload_n hE 1 dL_law_426 rfl rfl ?_
  refine j_aload_n hE 0 dL_law_427 rfl rfl ?_
  refine j_iload hE 4 dL_law_428 rfl ?_
  refine j_iconst hE dL_law_430 kc_1 ?_
  refine j_iadd hE dL_law_431 ?_
  obtain ⟨n1, f2, h3, h4, hw⟩ := hw
  refine j_aldI hE h3 h4 dL_law_432 ?_
  refine j_aload_n hE 0 dL_law_433 rfl rfl ?_
  refine j_iload hE 4 dL_law_434 rfl ?_
  refine j_iconst hE dL_law_436 kc_2 ?_
  refine j_iadd hE dL_law_437 ?_
  obtain ⟨n5, f6, h7, h8, hw⟩ := hw
  refine j_aldI hE h7 h8 dL_law_438 ?_
  refine j_aload_n hE 0 dL_law_439 rfl rfl ?_
  refine j_iload hE 4 dL_law_440 rfl ?_
  refine j_iconst hE dL_law_442 kc_3 ?_
  refine j_iadd hE dL_law_443 ?_
  obtain ⟨n9, f10, h11, h12, hw⟩ := hw
  refine j_aldI hE h11 h12 dL_law_444 ?_
  obtain ⟨h14, hw⟩ := hw
  refine jc_ip (jr_V hE hR (As := [.int (rd f2 (x4 + ((1 : Int32)))), .int (rd f6 (x4 + (nI 2))), .int (rd f10 (x4 + (nI 3)))]) (rest := []) ((ctX1_shown E.1.2.1 E.2.2.1 hc _ _ _ _ _ _ hw) E.2.2.2.1) (lw_V q1212 q1213 q1214 q121 q1215) jdX1_shown ⟨Nat.le_of_ble_eq_true rfl, Nat.le_of_ble_eq_true rfl⟩ ⟨Nat.zero_le _, Nat.zero_le _⟩ (gmc_gIs h14 (r := (RX1, TX1, 15)) rfl) rfl (Nat.le_of_ble_eq_true rfl) dL_law_445) (fun r13 hw => ?_)
  refine j_b0 ?_
  refine j_aload_n hE 2 dL_law_448 rfl rfl ?_
  refine j_aload_n hE 0 dL_law_449 rfl rfl ?_
  refine j_iload hE 4 dL_law_450 rfl ?_
  refine j_iconst hE dL_law_452 kc_1 ?_
  refine j_iadd hE dL_law_453 ?_
  obtain ⟨n15, f16, h17, h18, hw⟩ := hw
  refine j_aldI hE h17 h18 dL_law_454 ?_
  refine j_aload_n hE 0 dL_law_455 rfl rfl ?_
  refine j_iload hE 4 dL_law_456 rfl ?_
  refine j_iconst hE dL_law_458 kc_2 ?_
  refine j_iadd hE dL_law_459 ?_
  obtain ⟨n19, f20, h21, h22, hw⟩ := hw
  refine j_aldI hE h21 h22 dL_law_460 ?_
  refine j_aload_n hE 0 dL_law_461 rfl rfl ?_
  refine j_iload hE 4 dL_law_462 rfl ?_
  refine j_iconst hE dL_law_464 kc_3 ?_
  refine j_iadd hE dL_law_465 ?_
  obtain ⟨n23, f24, h25, h26, hw⟩ := hw
  refine j_aldI hE h25 h26 dL_law_466 ?_
  obtain ⟨ad27, m28, r29, h34, h33, h32, hw⟩ := hw
  rw [h33, h32]
  refine j_cvI hE hR (As := [.int (rd f16 (x4 + ((1 : Int32)))), .int (rd f20 (x4 + (nI 2))), .int (rd f24 (x4 + (nI 3)))]) (rest := [.int (r13)]) (ctX6_shown E.1.2.1 E.2.2.1 h34 _ _ _ _ _ _ hw) (lw_V q1901 q1902 q1903 q129 q1904) jdX6_shown ⟨Nat.le_of_ble_eq_true rfl, Nat.le_of_ble_eq_true rfl⟩ ⟨Nat.zero_le _, Nat.zero_le _⟩ (mIs h34) rfl (Nat.le_of_ble_eq_true rfl) dL_law_467 (fun v31 u9 hk => ?_)
  obtain ⟨m30, e9, hw⟩ := hk
  subst e9
  (try rw [← h32])
  refine j_b0 ?_
  refine j_nw (fun w35 e_w35 => ?_)
  replace hw := hw w35 e_w35
  refine j_icmp_eq hE 1473 dL_law_470 (by decide) (fun c36 => ?_) (fun c36 => ?_)
  · replace hw := hw.1 c36
    have hz := bL_law_1473 hE hn hR hc hst hK ih23 hw
    exact hz
  · replace hw := hw.2 c36
    refine j_iconst hE dL_law_473 kc_0 ?_
    exact jl_iret hE hK dL_law_474 rfl hw
def wL_law_475 (c : Nat → Option Nat) (x0 : Nat) (x1 : Nat) (x2 : Nat) (x3 : Nat) (x4 : Int32) (w : GW) (bb : Nat × Nat) (KL23 : Int32 × GW × (Nat × Nat) → Prop) (K : Int32 → GW → Prop) : Prop :=
  ∃ (n1 : Nat) (f2 : Nat → Int32), gai w x0 0 = some (n1, f2) ∧ vp_in (x4 + ((1 : Int32))) n1 ∧ (gmc w x1 = some 0 ∧ (wX1_person c x1 (rd f2 (x4 + ((1 : Int32)))) w (fun r5 => ∃ (n7 : Nat) (f8 : Nat → Int32), gai w x0 0 = some (n7, f8) ∧ vp_in (x4 + ((1 : Int32))) n7 ∧ (∃ (ad11 : Nat → Nat) (m12 : MS) (r13 : GW), adOk ad11 ∧ w = mwX ad11 m12 r13 ∧ x2 = ad11 0 ∧ wX6_person (rd f8 (x4 + ((1 : Int32)))) m12 (fun v15 m14 => ∀ w19 : GW, w19 = mwX ad11 m14 r13 → ((r5 = v15 → (wL_law_1473 c x0 x1 x2 x3 x4 w19 bb KL23 K)) ∧ (¬ r5 = v15 → (K ((0 : Int32)) w19))))))))
set_option maxRecDepth 100000 in
theorem bL_law_475 {E : jE} (hE : jOk E cL_law RX0) (hn : E.2.2.2.2 = 7) (hR : jRoom E 2230 66818) {c : Nat → Option Nat} (hc : E.2.2.1.2.2.2 = c) (hst : E.1.2.1.stackTraces = false) {K : Int32 → GW → Prop} (hK : jRL E K) {x0 : Nat} {x1 : Nat} {x2 : Nat} {x3 : Nat} {x4 : Int32} {w : GW} {bb : Nat × Nat} {KL23 : Int32 × GW × (Nat × Nat) → Prop} (ih23 : ∀ s : Int32 × GW × (Nat × Nat), KL23 s → J E (s.2.1) (s.2.2) [(0, .ref (x0)), (1, .ref (x1)), (2, .ref (x2)), (3, .ref (x3)), (4, .int (s.1))] 23 []) (hw : wL_law_475 c x0 x1 x2 x3 x4 w bb KL23 K) : J E w bb [(0, .ref (x0)), (1, .ref (x1)), (2, .ref (x2)), (3, .ref (x3)), (4, .int (x4))] 475 [] := by
  unfold wL_law_475 at hw
  refine j_aload_n hE 1 dL_law_475 rfl rfl ?_
  refine j_aload_n hE 0 dL_law_476 rfl rfl ?_
  refine j_iload hE 4 dL_law_477 rfl ?_
  refine j_iconst hE dL_law_479 kc_1 ?_
  refine j_iadd hE dL_law_480 ?_
  obtain ⟨n1, f2, h3, h4, hw⟩ := hw
  refine j_aldI hE h3 h4 dL_law_481 ?_
  obtain ⟨h6, hw⟩ := hw
  refine jc_ip (jr_V hE hR (As := [.int (rd f2 (x4 + ((1 : Int32))))]) (rest := []) ((ctX1_person E.1.2.1 E.2.2.1 hc _ _ _ _ hw) E.2.2.2.1) (lw_V q1234 q1235 q1236 q121 q1237) jdX1_person ⟨Nat.le_of_ble_eq_true rfl, Nat.le_of_ble_eq_true rfl⟩ ⟨Nat.zero_le _, Nat.zero_le _⟩ (gmc_gIs h6 (r := (RX1, TX1, 15)) rfl) rfl (Nat.le_of_ble_eq_true rfl) dL_law_482) (fun r5 hw => ?_)
  refine j_b0 ?_
  refine j_aload_n hE 2 dL_law_485 rfl rfl ?_
  refine j_aload_n hE 0 dL_law_486 rfl rfl ?_
  refine j_iload hE 4 dL_law_487 rfl ?_
  refine j_iconst hE dL_law_489 kc_1 ?_
  refine j_iadd hE dL_law_490 ?_
  obtain ⟨n7, f8, h9, h10, hw⟩ := hw
  refine j_aldI hE h9 h10 dL_law_491 ?_
  obtain ⟨ad11, m12, r13, h18, h17, h16, hw⟩ := hw
  rw [h17, h16]
  refine j_cvI hE hR (As := [.int (rd f8 (x4 + ((1 : Int32))))]) (rest := [.int (r5)]) (ctX6_person E.1.2.1 E.2.2.1 h18 _ _ _ _ hw) (lw_V q1929 q1930 q1931 q129 q1932) jdX6_person ⟨Nat.le_of_ble_eq_true rfl, Nat.le_of_ble_eq_true rfl⟩ ⟨Nat.zero_le _, Nat.zero_le _⟩ (mIs h18) rfl (Nat.le_of_ble_eq_true rfl) dL_law_492 (fun v15 u9 hk => ?_)
  obtain ⟨m14, e9, hw⟩ := hk
  subst e9
  (try rw [← h16])
  refine j_b0 ?_
  refine j_nw (fun w19 e_w19 => ?_)
  replace hw := hw w19 e_w19
  refine j_icmp_eq hE 1473 dL_law_495 (by decide) (fun c20 => ?_) (fun c20 => ?_)
  · replace hw := hw.1 c20
    have hz := bL_law_1473 hE hn hR hc hst hK ih23 hw
    exact hz
  · replace hw := hw.2 c20
    refine j_iconst hE dL_law_498 kc_0 ?_
    exact jl_iret hE hK dL_law_499 rfl hw
def wL_law_500 (c : Nat → Option Nat) (x0 : Nat) (x1 : Nat) (x2 : Nat) (x3 : Nat) (x4 : Int32) (w : GW) (bb : Nat × Nat) (KL23 : Int32 × GW × (Nat × Nat) → Prop) (K : Int32 → GW → Prop) : Prop :=
  ∃ (n1 : Nat) (f2 : Nat → Int32), gai w x0 0 = some (n1, f2) ∧ vp_in (x4 + ((1 : Int32))) n1 ∧ (∃ (n5 : Nat) (f6 : Nat → Int32), gai w x0 0 = some (n5, f6) ∧ vp_in (x4 + (nI 2)) n5 ∧ (gmc w x1 = some 0 ∧ (∃ cb11 : Nat × Nat, (cb11.1 ≤ bb.1 ∧ cb11.2 ≤ bb.2) ∧ (wX1_walk c x1 (rd f2 (x4 + ((1 : Int32)))) (rd f6 (x4 + (nI 2))) w cb11 (fun r9 w13 => ∀ b14 : Nat × Nat, b14 = (bb.1 - cb11.1, bb.2 - cb11.2) → (∃ (n15 : Nat) (f16 : Nat → Int32), gai w13 x0 0 = some (n15, f16) ∧ vp_in (x4 + ((1 : Int32))) n15 ∧ (∃ (n19 : Nat) (f20 : Nat → Int32), gai w13 x0 0 = some (n19, f20) ∧ vp_in (x4 + (nI 2)) n19 ∧ (∃ (ad23 : Nat → Nat) (m24 : MS) (r25 : GW), adOk ad23 ∧ w13 = mwX ad23 m24 r25 ∧ x2 = ad23 0 ∧ wX6_walk (rd f16 (x4 + ((1 : Int32)))) (rd f20 (x4 + (nI 2))) m24 (fun v27 m26 => ∀ w31 : GW, w31 = mwX ad23 m26 r25 → ((r9 = v27 → (wL_law_1473 c x0 x1 x2 x3 x4 w31 b14 KL23 K)) ∧ (¬ r9 = v27 → (K ((0 : Int32)) w31))))))))))))
set_option maxRecDepth 100000 in
theorem bL_law_500 {E : jE} (hE : jOk E cL_law RX0) (hn : E.2.2.2.2 = 7) (hR : jRoom E 2230 66818) {c : Nat → Option Nat} (hc : E.2.2.1.2.2.2 = c) (hst : E.1.2.1.stackTraces = false) {K : Int32 → GW → Prop} (hK : jRL E K) {x0 : Nat} {x1 : Nat} {x2 : Nat} {x3 : Nat} {x4 : Int32} {w : GW} {bb : Nat × Nat} {KL23 : Int32 × GW × (Nat × Nat) → Prop} (ih23 : ∀ s : Int32 × GW × (Nat × Nat), KL23 s → J E (s.2.1) (s.2.2) [(0, .ref (x0)), (1, .ref (x1)), (2, .ref (x2)), (3, .ref (x3)), (4, .int (s.1))] 23 []) (hw : wL_law_500 c x0 x1 x2 x3 x4 w bb KL23 K) : J E w bb [(0, .ref (x0)), (1, .ref (x1)), (2, .ref (x2)), (3, .ref (x3)), (4, .int (x4))] 500 [] := by
  unfold wL_law_500 at hw
  refine j_aload_n hE 1 dL_law_500 rfl rfl ?_
  refine j_aload_n hE 0 dL_law_501 rfl rfl ?_
  refine j_iload hE 4 dL_law_502 rfl ?_
  refine j_iconst hE dL_law_504 kc_1 ?_
  refine j_iadd hE dL_law_505 ?_
  obtain ⟨n1, f2, h3, h4, hw⟩ := hw
  refine j_aldI hE h3 h4 dL_law_506 ?_
  refine j_aload_n hE 0 dL_law_507 rfl rfl ?_
  refine j_iload hE 4 dL_law_508 rfl ?_
  refine j_iconst hE dL_law_510 kc_2 ?_
  refine j_iadd hE dL_law_511 ?_
  obtain ⟨n5, f6, h7, h8, hw⟩ := hw
  refine j_aldI hE h7 h8 dL_law_512 ?_
  obtain ⟨h10, hw⟩ := hw
  obtain ⟨cb11, h12, hw⟩ := hw
  refine jc_i (jr_V hE hR (As := [.int (rd f2 (x4 + ((1 : Int32)))), .int (rd f6 (x4 + (nI 2)))]) (rest := []) ((ctX1_walk E.1.2.1 E.2.2.1 hc _ _ _ _ _ _ hw) E.2.2.2.1) (lw_V q1246 q1247 q1248 q121 q1249) jdX1_walk ⟨Nat.le_of_ble_eq_true rfl, Nat.le_of_ble_eq_true rfl⟩ h12 (gmc_gIs h10 (r := (RX1, TX1, 15)) rfl) rfl (Nat.le_of_ble_eq_true rfl) dL_law_513) (fun r9 w13 hw => ?_)
  refine j_nb (fun b14 e_b14 => ?_)
  replace hw := hw b14 e_b14
  refine j_aload_n hE 2 dL_law_516 rfl rfl ?_
  refine j_aload_n hE 0 dL_law_517 rfl rfl ?_
  refine j_iload hE 4 dL_law_518 rfl ?_
  refine j_iconst hE dL_law_520 kc_1 ?_
  refine j_iadd hE dL_law_521 ?_
  obtain ⟨n15, f16, h17, h18, hw⟩ := hw
  refine j_aldI hE h17 h18 dL_law_522 ?_
  refine j_aload_n hE 0 dL_law_523 rfl rfl ?_
  refine j_iload hE 4 dL_law_524 rfl ?_
  refine j_iconst hE dL_law_526 kc_2 ?_
  refine j_iadd hE dL_law_527 ?_
  obtain ⟨n19, f20, h21, h22, hw⟩ := hw
  refine j_aldI hE h21 h22 dL_law_528 ?_
  obtain ⟨ad23, m24, r25, h30, h29, h28, hw⟩ := hw
  rw [h29, h28]
  refine j_cvI hE hR (As := [.int (rd f16 (x4 + ((1 : Int32)))), .int (rd f20 (x4 + (nI 2)))]) (rest := [.int (r9)]) (ctX6_walk E.1.2.1 E.2.2.1 h30 _ _ _ _ _ hw) (lw_V q1937 q1938 q1939 q129 q1940) jdX6_walk ⟨Nat.le_of_ble_eq_true rfl, Nat.le_of_ble_eq_true rfl⟩ ⟨Nat.zero_le _, Nat.zero_le _⟩ (mIs h30) rfl (Nat.le_of_ble_eq_true rfl) dL_law_529 (fun v27 u9 hk => ?_)
  obtain ⟨m26, e9, hw⟩ := hk
  subst e9
  (try rw [← h28])
  refine j_b0 ?_
  refine j_nw (fun w31 e_w31 => ?_)
  replace hw := hw w31 e_w31
  refine j_icmp_eq hE 1473 dL_law_532 (by decide) (fun c32 => ?_) (fun c32 => ?_)
  · replace hw := hw.1 c32
    have hz := bL_law_1473 hE hn hR hc hst hK ih23 hw
    exact hz
  · replace hw := hw.2 c32
    refine j_iconst hE dL_law_535 kc_0 ?_
    exact jl_iret hE hK dL_law_536 rfl hw
def wL_law_537 (c : Nat → Option Nat) (x0 : Nat) (x1 : Nat) (x2 : Nat) (x3 : Nat) (x4 : Int32) (w : GW) (bb : Nat × Nat) (KL23 : Int32 × GW × (Nat × Nat) → Prop) (K : Int32 → GW → Prop) : Prop :=
  ∃ (n1 : Nat) (f2 : Nat → Int32), gai w x0 0 = some (n1, f2) ∧ vp_in (x4 + ((1 : Int32))) n1 ∧ (∃ (n5 : Nat) (f6 : Nat → Int32), gai w x0 0 = some (n5, f6) ∧ vp_in (x4 + (nI 2)) n5 ∧ (gmc w x1 = some 0 ∧ (∃ cb11 : Nat × Nat, (cb11.1 ≤ bb.1 ∧ cb11.2 ≤ bb.2) ∧ (wX1_does c x1 (rd f2 (x4 + ((1 : Int32)))) (rd f6 (x4 + (nI 2))) w cb11 (fun r9 w13 => ∀ b14 : Nat × Nat, b14 = (bb.1 - cb11.1, bb.2 - cb11.2) → (∃ (n15 : Nat) (f16 : Nat → Int32), gai w13 x0 0 = some (n15, f16) ∧ vp_in (x4 + ((1 : Int32))) n15 ∧ (∃ (n19 : Nat) (f20 : Nat → Int32), gai w13 x0 0 = some (n19, f20) ∧ vp_in (x4 + (nI 2)) n19 ∧ (∃ (ad23 : Nat → Nat) (m24 : MS) (r25 : GW), adOk ad23 ∧ w13 = mwX ad23 m24 r25 ∧ x2 = ad23 0 ∧ wX6_does (rd f16 (x4 + ((1 : Int32)))) (rd f20 (x4 + (nI 2))) m24 (fun v27 m26 => ∀ w31 : GW, w31 = mwX ad23 m26 r25 → ((r9 = v27 → (wL_law_1473 c x0 x1 x2 x3 x4 w31 b14 KL23 K)) ∧ (¬ r9 = v27 → (K ((0 : Int32)) w31))))))))))))
set_option maxRecDepth 100000 in
theorem bL_law_537 {E : jE} (hE : jOk E cL_law RX0) (hn : E.2.2.2.2 = 7) (hR : jRoom E 2230 66818) {c : Nat → Option Nat} (hc : E.2.2.1.2.2.2 = c) (hst : E.1.2.1.stackTraces = false) {K : Int32 → GW → Prop} (hK : jRL E K) {x0 : Nat} {x1 : Nat} {x2 : Nat} {x3 : Nat} {x4 : Int32} {w : GW} {bb : Nat × Nat} {KL23 : Int32 × GW × (Nat × Nat) → Prop} (ih23 : ∀ s : Int32 × GW × (Nat × Nat), KL23 s → J E (s.2.1) (s.2.2) [(0, .ref (x0)), (1, .ref (x1)), (2, .ref (x2)), (3, .ref (x3)), (4, .int (s.1))] 23 []) (hw : wL_law_537 c x0 x1 x2 x3 x4 w bb KL23 K) : J E w bb [(0, .ref (x0)), (1, .ref (x1)), (2, .ref (x2)), (3, .ref (x3)), (4, .int (x4))] 537 [] := by
  unfold wL_law_537 at hw
  refine j_aload_n hE 1 dL_law_537 rfl rfl ?_
  refine j_aload_n hE 0 dL_law_538 rfl rfl ?_
  refine j_iload hE 4 dL_law_539 rfl ?_
  refine j_iconst hE dL_law_541 kc_1 ?_
  refine j_iadd hE dL_law_542 ?_
  obtain ⟨n1, f2, h3, h4, hw⟩ := hw
  refine j_aldI hE h3 h4 dL_law_543 ?_
  refine j_aload_n hE 0 dL_law_544 rfl rfl ?_
  refine j_iload hE 4 dL_law_545 rfl ?_
  refine j_iconst hE dL_law_547 kc_2 ?_
  refine j_iadd hE dL_law_548 ?_
  obtain ⟨n5, f6, h7, h8, hw⟩ := hw
  refine j_aldI hE h7 h8 dL_law_549 ?_
  obtain ⟨h10, hw⟩ := hw
  obtain ⟨cb11, h12, hw⟩ := hw
  refine jc_i (jr_V hE hR (As := [.int (rd f2 (x4 + ((1 : Int32)))), .int (rd f6 (x4 + (nI 2)))]) (rest := []) ((ctX1_does E.1.2.1 E.2.2.1 hc _ _ _ _ _ _ hw) E.2.2.2.1) (lw_V q1266 q1267 q1268 q121 q1269) jdX1_does ⟨Nat.le_of_ble_eq_true rfl, Nat.le_of_ble_eq_true rfl⟩ h12 (gmc_gIs h10 (r := (RX1, TX1, 15)) rfl) rfl (Nat.le_of_ble_eq_true rfl) dL_law_550) (fun r9 w13 hw => ?_)
  refine j_nb (fun b14 e_b14 => ?_)
  replace hw := hw b14 e_b14
  refine j_aload_n hE 2 dL_law_553 rfl rfl ?_
  refine j_aload_n hE 0 dL_law_554 rfl rfl ?_
  refine j_iload hE 4 dL_law_555 rfl ?_
  refine j_iconst hE dL_law_557 kc_1 ?_
  refine j_iadd hE dL_law_558 ?_
  obtain ⟨n15, f16, h17, h18, hw⟩ := hw
  refine j_aldI hE h17 h18 dL_law_559 ?_
  refine j_aload_n hE 0 dL_law_560 rfl rfl ?_
  refine j_iload hE 4 dL_law_561 rfl ?_
  refine j_iconst hE dL_law_563 kc_2 ?_
  refine j_iadd hE dL_law_564 ?_
  obtain ⟨n19, f20, h21, h22, hw⟩ := hw
  refine j_aldI hE h21 h22 dL_law_565 ?_
  obtain ⟨ad23, m24, r25, h30, h29, h28, hw⟩ := hw
  rw [h29, h28]
  refine j_cvI hE hR (As := [.int (rd f16 (x4 + ((1 : Int32)))), .int (rd f20 (x4 + (nI 2)))]) (rest := [.int (r9)]) (ctX6_does E.1.2.1 E.2.2.1 h30 _ _ _ _ _ hw) (lw_V q1953 q1954 q1955 q129 q1956) jdX6_does ⟨Nat.le_of_ble_eq_true rfl, Nat.le_of_ble_eq_true rfl⟩ ⟨Nat.zero_le _, Nat.zero_le _⟩ (mIs h30) rfl (Nat.le_of_ble_eq_true rfl) dL_law_566 (fun v27 u9 hk => ?_)
  obtain ⟨m26, e9, hw⟩ := hk
  subst e9
  (try rw [← h28])
  refine j_b0 ?_
  refine j_nw (fun w31 e_w31 => ?_)
  replace hw := hw w31 e_w31
  refine j_icmp_eq hE 1473 dL_law_569 (by decide) (fun c32 => ?_) (fun c32 => ?_)
  · replace hw := hw.1 c32
    have hz := bL_law_1473 hE hn hR hc hst hK ih23 hw
    exact hz
  · replace hw := hw.2 c32
    refine j_iconst hE dL_law_572 kc_0 ?_
    exact jl_iret hE hK dL_law_573 rfl hw
def wL_law_574 (c : Nat → Option Nat) (x0 : Nat) (x1 : Nat) (x2 : Nat) (x3 : Nat) (x4 : Int32) (w : GW) (bb : Nat × Nat) (KL23 : Int32 × GW × (Nat × Nat) → Prop) (K : Int32 → GW → Prop) : Prop :=
  ∃ (n1 : Nat) (f2 : Nat → Int32), gai w x0 0 = some (n1, f2) ∧ vp_in (x4 + ((1 : Int32))) n1 ∧ (gmc w x1 = some 0 ∧ (∃ cb7 : Nat × Nat, (cb7.1 ≤ bb.1 ∧ cb7.2 ≤ bb.2) ∧ (wX1_wash c x1 (rd f2 (x4 + ((1 : Int32)))) w cb7 (fun r5 w9 => ∀ b10 : Nat × Nat, b10 = (bb.1 - cb7.1, bb.2 - cb7.2) → (∃ (n11 : Nat) (f12 : Nat → Int32), gai w9 x0 0 = some (n11, f12) ∧ vp_in (x4 + ((1 : Int32))) n11 ∧ (∃ (ad15 : Nat → Nat) (m16 : MS) (r17 : GW), adOk ad15 ∧ w9 = mwX ad15 m16 r17 ∧ x2 = ad15 0 ∧ wX6_wash (rd f12 (x4 + ((1 : Int32)))) m16 (fun v19 m18 => ∀ w23 : GW, w23 = mwX ad15 m18 r17 → ((r5 = v19 → (wL_law_1473 c x0 x1 x2 x3 x4 w23 b10 KL23 K)) ∧ (¬ r5 = v19 → (K ((0 : Int32)) w23))))))))))
set_option maxRecDepth 100000 in
theorem bL_law_574 {E : jE} (hE : jOk E cL_law RX0) (hn : E.2.2.2.2 = 7) (hR : jRoom E 2230 66818) {c : Nat → Option Nat} (hc : E.2.2.1.2.2.2 = c) (hst : E.1.2.1.stackTraces = false) {K : Int32 → GW → Prop} (hK : jRL E K) {x0 : Nat} {x1 : Nat} {x2 : Nat} {x3 : Nat} {x4 : Int32} {w : GW} {bb : Nat × Nat} {KL23 : Int32 × GW × (Nat × Nat) → Prop} (ih23 : ∀ s : Int32 × GW × (Nat × Nat), KL23 s → J E (s.2.1) (s.2.2) [(0, .ref (x0)), (1, .ref (x1)), (2, .ref (x2)), (3, .ref (x3)), (4, .int (s.1))] 23 []) (hw : wL_law_574 c x0 x1 x2 x3 x4 w bb KL23 K) : J E w bb [(0, .ref (x0)), (1, .ref (x1)), (2, .ref (x2)), (3, .ref (x3)), (4, .int (x4))] 574 [] := by
  unfold wL_law_574 at hw
  refine j_aload_n hE 1 dL_law_574 rfl rfl ?_
  refine j_aload_n hE 0 dL_law_575 rfl rfl ?_
  refine j_iload hE 4 dL_law_576 rfl ?_
  refine j_iconst hE dL_law_578 kc_1 ?_
  refine j_iadd hE dL_law_579 ?_
  obtain ⟨n1, f2, h3, h4, hw⟩ := hw
  refine j_aldI hE h3 h4 dL_law_580 ?_
  obtain ⟨h6, hw⟩ := hw
  obtain ⟨cb7, h8, hw⟩ := hw
  refine jc_i (jr_V hE hR (As := [.int (rd f2 (x4 + ((1 : Int32))))]) (rest := []) ((ctX1_wash E.1.2.1 E.2.2.1 hc _ _ _ _ _ hw) E.2.2.2.1) (lw_V q1294 q1295 q1296 q121 q1297) jdX1_wash ⟨Nat.le_of_ble_eq_true rfl, Nat.le_of_ble_eq_true rfl⟩ h8 (gmc_gIs h6 (r := (RX1, TX1, 15)) rfl) rfl (Nat.le_of_ble_eq_true rfl) dL_law_581) (fun r5 w9 hw => ?_)
  refine j_nb (fun b10 e_b10 => ?_)
  replace hw := hw b10 e_b10
  refine j_aload_n hE 2 dL_law_584 rfl rfl ?_
  refine j_aload_n hE 0 dL_law_585 rfl rfl ?_
  refine j_iload hE 4 dL_law_586 rfl ?_
  refine j_iconst hE dL_law_588 kc_1 ?_
  refine j_iadd hE dL_law_589 ?_
  obtain ⟨n11, f12, h13, h14, hw⟩ := hw
  refine j_aldI hE h13 h14 dL_law_590 ?_
  obtain ⟨ad15, m16, r17, h22, h21, h20, hw⟩ := hw
  rw [h21, h20]
  refine j_cvI hE hR (As := [.int (rd f12 (x4 + ((1 : Int32))))]) (rest := [.int (r5)]) (ctX6_wash E.1.2.1 E.2.2.1 h22 _ _ _ _ hw) (lw_V q1981 q1982 q1983 q129 q1984) jdX6_wash ⟨Nat.le_of_ble_eq_true rfl, Nat.le_of_ble_eq_true rfl⟩ ⟨Nat.zero_le _, Nat.zero_le _⟩ (mIs h22) rfl (Nat.le_of_ble_eq_true rfl) dL_law_591 (fun v19 u9 hk => ?_)
  obtain ⟨m18, e9, hw⟩ := hk
  subst e9
  (try rw [← h20])
  refine j_b0 ?_
  refine j_nw (fun w23 e_w23 => ?_)
  replace hw := hw w23 e_w23
  refine j_icmp_eq hE 1473 dL_law_594 (by decide) (fun c24 => ?_) (fun c24 => ?_)
  · replace hw := hw.1 c24
    have hz := bL_law_1473 hE hn hR hc hst hK ih23 hw
    exact hz
  · replace hw := hw.2 c24
    refine j_iconst hE dL_law_597 kc_0 ?_
    exact jl_iret hE hK dL_law_598 rfl hw
def wL_law_599 (c : Nat → Option Nat) (x0 : Nat) (x1 : Nat) (x2 : Nat) (x3 : Nat) (x4 : Int32) (w : GW) (bb : Nat × Nat) (KL23 : Int32 × GW × (Nat × Nat) → Prop) (K : Int32 → GW → Prop) : Prop :=
  ∃ (n1 : Nat) (f2 : Nat → Int32), gai w x0 0 = some (n1, f2) ∧ vp_in (x4 + ((1 : Int32))) n1 ∧ (gmc w x1 = some 0 ∧ (∃ cb7 : Nat × Nat, (cb7.1 ≤ bb.1 ∧ cb7.2 ≤ bb.2) ∧ (wX1_curtain c x1 (rd f2 (x4 + ((1 : Int32)))) w cb7 (fun r5 w9 => ∀ b10 : Nat × Nat, b10 = (bb.1 - cb7.1, bb.2 - cb7.2) → (∃ (n11 : Nat) (f12 : Nat → Int32), gai w9 x0 0 = some (n11, f12) ∧ vp_in (x4 + ((1 : Int32))) n11 ∧ (∃ (ad15 : Nat → Nat) (m16 : MS) (r17 : GW), adOk ad15 ∧ w9 = mwX ad15 m16 r17 ∧ x2 = ad15 0 ∧ wX6_curtain (rd f12 (x4 + ((1 : Int32)))) m16 (fun v19 m18 => ∀ w23 : GW, w23 = mwX ad15 m18 r17 → ((r5 = v19 → (wL_law_1473 c x0 x1 x2 x3 x4 w23 b10 KL23 K)) ∧ (¬ r5 = v19 → (K ((0 : Int32)) w23))))))))))
set_option maxRecDepth 100000 in
theorem bL_law_599 {E : jE} (hE : jOk E cL_law RX0) (hn : E.2.2.2.2 = 7) (hR : jRoom E 2230 66818) {c : Nat → Option Nat} (hc : E.2.2.1.2.2.2 = c) (hst : E.1.2.1.stackTraces = false) {K : Int32 → GW → Prop} (hK : jRL E K) {x0 : Nat} {x1 : Nat} {x2 : Nat} {x3 : Nat} {x4 : Int32} {w : GW} {bb : Nat × Nat} {KL23 : Int32 × GW × (Nat × Nat) → Prop} (ih23 : ∀ s : Int32 × GW × (Nat × Nat), KL23 s → J E (s.2.1) (s.2.2) [(0, .ref (x0)), (1, .ref (x1)), (2, .ref (x2)), (3, .ref (x3)), (4, .int (s.1))] 23 []) (hw : wL_law_599 c x0 x1 x2 x3 x4 w bb KL23 K) : J E w bb [(0, .ref (x0)), (1, .ref (x1)), (2, .ref (x2)), (3, .ref (x3)), (4, .int (x4))] 599 [] := by
  unfold wL_law_599 at hw
  refine j_aload_n hE 1 dL_law_599 rfl rfl ?_
  refine j_aload_n hE 0 dL_law_600 rfl rfl ?_
  refine j_iload hE 4 dL_law_601 rfl ?_
  refine j_iconst hE dL_law_603 kc_1 ?_
  refine j_iadd hE dL_law_604 ?_
  obtain ⟨n1, f2, h3, h4, hw⟩ := hw
  refine j_aldI hE h3 h4 dL_law_605 ?_
  obtain ⟨h6, hw⟩ := hw
  obtain ⟨cb7, h8, hw⟩ := hw
  refine jc_i (jr_V hE hR (As := [.int (rd f2 (x4 + ((1 : Int32))))]) (rest := []) ((ctX1_curtain E.1.2.1 E.2.2.1 hc _ _ _ _ _ hw) E.2.2.2.1) (lw_V q1302 q1303 q1304 q121 q1305) jdX1_curtain ⟨Nat.le_of_ble_eq_true rfl, Nat.le_of_ble_eq_true rfl⟩ h8 (gmc_gIs h6 (r := (RX1, TX1, 15)) rfl) rfl (Nat.le_of_ble_eq_true rfl) dL_law_606) (fun r5 w9 hw => ?_)
  refine j_nb (fun b10 e_b10 => ?_)
  replace hw := hw b10 e_b10
  refine j_aload_n hE 2 dL_law_609 rfl rfl ?_
  refine j_aload_n hE 0 dL_law_610 rfl rfl ?_
  refine j_iload hE 4 dL_law_611 rfl ?_
  refine j_iconst hE dL_law_613 kc_1 ?_
  refine j_iadd hE dL_law_614 ?_
  obtain ⟨n11, f12, h13, h14, hw⟩ := hw
  refine j_aldI hE h13 h14 dL_law_615 ?_
  obtain ⟨ad15, m16, r17, h22, h21, h20, hw⟩ := hw
  rw [h21, h20]
  refine j_cvI hE hR (As := [.int (rd f12 (x4 + ((1 : Int32))))]) (rest := [.int (r5)]) (ctX6_curtain E.1.2.1 E.2.2.1 h22 _ _ _ _ hw) (lw_V q1989 q1990 q1991 q129 q1992) jdX6_curtain ⟨Nat.le_of_ble_eq_true rfl, Nat.le_of_ble_eq_true rfl⟩ ⟨Nat.zero_le _, Nat.zero_le _⟩ (mIs h22) rfl (Nat.le_of_ble_eq_true rfl) dL_law_616 (fun v19 u9 hk => ?_)
  obtain ⟨m18, e9, hw⟩ := hk
  subst e9
  (try rw [← h20])
  refine j_b0 ?_
  refine j_nw (fun w23 e_w23 => ?_)
  replace hw := hw w23 e_w23
  refine j_icmp_eq hE 1473 dL_law_619 (by decide) (fun c24 => ?_) (fun c24 => ?_)
  · replace hw := hw.1 c24
    have hz := bL_law_1473 hE hn hR hc hst hK ih23 hw
    exact hz
  · replace hw := hw.2 c24
    refine j_iconst hE dL_law_622 kc_0 ?_
    exact jl_iret hE hK dL_law_623 rfl hw
def wL_law_624 (c : Nat → Option Nat) (x0 : Nat) (x1 : Nat) (x2 : Nat) (x3 : Nat) (x4 : Int32) (w : GW) (bb : Nat × Nat) (KL23 : Int32 × GW × (Nat × Nat) → Prop) (K : Int32 → GW → Prop) : Prop :=
  ∃ (n1 : Nat) (f2 : Nat → Int32), gai w x0 0 = some (n1, f2) ∧ vp_in (x4 + ((1 : Int32))) n1 ∧ (gmc w x1 = some 0 ∧ (∃ cb7 : Nat × Nat, (cb7.1 ≤ bb.1 ∧ cb7.2 ≤ bb.2) ∧ (wX1_stone c x1 (rd f2 (x4 + ((1 : Int32)))) w cb7 (fun r5 w9 => ∀ b10 : Nat × Nat, b10 = (bb.1 - cb7.1, bb.2 - cb7.2) → (∃ (n11 : Nat) (f12 : Nat → Int32), gai w9 x0 0 = some (n11, f12) ∧ vp_in (x4 + ((1 : Int32))) n11 ∧ (∃ (ad15 : Nat → Nat) (m16 : MS) (r17 : GW), adOk ad15 ∧ w9 = mwX ad15 m16 r17 ∧ x2 = ad15 0 ∧ wX6_stone (rd f12 (x4 + ((1 : Int32)))) m16 (fun v19 m18 => ∀ w23 : GW, w23 = mwX ad15 m18 r17 → ((r5 = v19 → (wL_law_1473 c x0 x1 x2 x3 x4 w23 b10 KL23 K)) ∧ (¬ r5 = v19 → (K ((0 : Int32)) w23))))))))))
set_option maxRecDepth 100000 in
theorem bL_law_624 {E : jE} (hE : jOk E cL_law RX0) (hn : E.2.2.2.2 = 7) (hR : jRoom E 2230 66818) {c : Nat → Option Nat} (hc : E.2.2.1.2.2.2 = c) (hst : E.1.2.1.stackTraces = false) {K : Int32 → GW → Prop} (hK : jRL E K) {x0 : Nat} {x1 : Nat} {x2 : Nat} {x3 : Nat} {x4 : Int32} {w : GW} {bb : Nat × Nat} {KL23 : Int32 × GW × (Nat × Nat) → Prop} (ih23 : ∀ s : Int32 × GW × (Nat × Nat), KL23 s → J E (s.2.1) (s.2.2) [(0, .ref (x0)), (1, .ref (x1)), (2, .ref (x2)), (3, .ref (x3)), (4, .int (s.1))] 23 []) (hw : wL_law_624 c x0 x1 x2 x3 x4 w bb KL23 K) : J E w bb [(0, .ref (x0)), (1, .ref (x1)), (2, .ref (x2)), (3, .ref (x3)), (4, .int (x4))] 624 [] := by
  unfold wL_law_624 at hw
  refine j_aload_n hE 1 dL_law_624 rfl rfl ?_
  refine j_aload_n hE 0 dL_law_625 rfl rfl ?_
  refine j_iload hE 4 dL_law_626 rfl ?_
  refine j_iconst hE dL_law_628 kc_1 ?_
  refine j_iadd hE dL_law_629 ?_
  obtain ⟨n1, f2, h3, h4, hw⟩ := hw
  refine j_aldI hE h3 h4 dL_law_630 ?_
  obtain ⟨h6, hw⟩ := hw
  obtain ⟨cb7, h8, hw⟩ := hw
  refine jc_i (jr_V hE hR (As := [.int (rd f2 (x4 + ((1 : Int32))))]) (rest := []) ((ctX1_stone E.1.2.1 E.2.2.1 hc _ _ _ _ _ hw) E.2.2.2.1) (lw_V q1306 q1307 q1308 q121 q1309) jdX1_stone ⟨Nat.le_of_ble_eq_true rfl, Nat.le_of_ble_eq_true rfl⟩ h8 (gmc_gIs h6 (r := (RX1, TX1, 15)) rfl) rfl (Nat.le_of_ble_eq_true rfl) dL_law_631) (fun r5 w9 hw => ?_)
  refine j_nb (fun b10 e_b10 => ?_)
  replace hw := hw b10 e_b10
  refine j_aload_n hE 2 dL_law_634 rfl rfl ?_
  refine j_aload_n hE 0 dL_law_635 rfl rfl ?_
  refine j_iload hE 4 dL_law_636 rfl ?_
  refine j_iconst hE dL_law_638 kc_1 ?_
  refine j_iadd hE dL_law_639 ?_
  obtain ⟨n11, f12, h13, h14, hw⟩ := hw
  refine j_aldI hE h13 h14 dL_law_640 ?_
  obtain ⟨ad15, m16, r17, h22, h21, h20, hw⟩ := hw
  rw [h21, h20]
  refine j_cvI hE hR (As := [.int (rd f12 (x4 + ((1 : Int32))))]) (rest := [.int (r5)]) (ctX6_stone E.1.2.1 E.2.2.1 h22 _ _ _ _ hw) (lw_V q1993 q1994 q1995 q129 q1996) jdX6_stone ⟨Nat.le_of_ble_eq_true rfl, Nat.le_of_ble_eq_true rfl⟩ ⟨Nat.zero_le _, Nat.zero_le _⟩ (mIs h22) rfl (Nat.le_of_ble_eq_true rfl) dL_law_641 (fun v19 u9 hk => ?_)
  obtain ⟨m18, e9, hw⟩ := hk
  subst e9
  (try rw [← h20])
  refine j_b0 ?_
  refine j_nw (fun w23 e_w23 => ?_)
  replace hw := hw w23 e_w23
  refine j_icmp_eq hE 1473 dL_law_644 (by decide) (fun c24 => ?_) (fun c24 => ?_)
  · replace hw := hw.1 c24
    have hz := bL_law_1473 hE hn hR hc hst hK ih23 hw
    exact hz
  · replace hw := hw.2 c24
    refine j_iconst hE dL_law_647 kc_0 ?_
    exact jl_iret hE hK dL_law_648 rfl hw
def wL_law_649 (c : Nat → Option Nat) (x0 : Nat) (x1 : Nat) (x2 : Nat) (x3 : Nat) (x4 : Int32) (w : GW) (bb : Nat × Nat) (KL23 : Int32 × GW × (Nat × Nat) → Prop) (K : Int32 → GW → Prop) : Prop :=
  gmc w x1 = some 0 ∧ (∃ cb3 : Nat × Nat, (cb3.1 ≤ bb.1 ∧ cb3.2 ≤ bb.2) ∧ (wX1_hour c x1 w cb3 (fun r1 w5 => ∀ b6 : Nat × Nat, b6 = (bb.1 - cb3.1, bb.2 - cb3.2) → (∃ (ad7 : Nat → Nat) (m8 : MS) (r9 : GW), adOk ad7 ∧ w5 = mwX ad7 m8 r9 ∧ x2 = ad7 0 ∧ wX6_hour  m8 (fun v11 m10 => ∀ w15 : GW, w15 = mwX ad7 m10 r9 → ((r1 = v11 → (wL_law_1473 c x0 x1 x2 x3 x4 w15 b6 KL23 K)) ∧ (¬ r1 = v11 → (K ((0 : Int32)) w15))))))))
set_option maxRecDepth 100000 in
theorem bL_law_649 {E : jE} (hE : jOk E cL_law RX0) (hn : E.2.2.2.2 = 7) (hR : jRoom E 2230 66818) {c : Nat → Option Nat} (hc : E.2.2.1.2.2.2 = c) (hst : E.1.2.1.stackTraces = false) {K : Int32 → GW → Prop} (hK : jRL E K) {x0 : Nat} {x1 : Nat} {x2 : Nat} {x3 : Nat} {x4 : Int32} {w : GW} {bb : Nat × Nat} {KL23 : Int32 × GW × (Nat × Nat) → Prop} (ih23 : ∀ s : Int32 × GW × (Nat × Nat), KL23 s → J E (s.2.1) (s.2.2) [(0, .ref (x0)), (1, .ref (x1)), (2, .ref (x2)), (3, .ref (x3)), (4, .int (s.1))] 23 []) (hw : wL_law_649 c x0 x1 x2 x3 x4 w bb KL23 K) : J E w bb [(0, .ref (x0)), (1, .ref (x1)), (2, .ref (x2)), (3, .ref (x3)), (4, .int (x4))] 649 [] := by
  unfold wL_law_649 at hw
  refine j_aload_n hE 1 dL_law_649 rfl rfl ?_
  obtain ⟨h2, hw⟩ := hw
  obtain ⟨cb3, h4, hw⟩ := hw
  refine jc_i (jr_V hE hR (As := []) (rest := []) ((ctX1_hour E.1.2.1 E.2.2.1 hc _ _ _ _ hw) E.2.2.2.1) (lw_V q1310 q1311 q1312 q121 q1313) jdX1_hour ⟨Nat.le_of_ble_eq_true rfl, Nat.le_of_ble_eq_true rfl⟩ h4 (gmc_gIs h2 (r := (RX1, TX1, 15)) rfl) rfl (Nat.le_of_ble_eq_true rfl) dL_law_650) (fun r1 w5 hw => ?_)
  refine j_nb (fun b6 e_b6 => ?_)
  replace hw := hw b6 e_b6
  refine j_aload_n hE 2 dL_law_653 rfl rfl ?_
  obtain ⟨ad7, m8, r9, h14, h13, h12, hw⟩ := hw
  rw [h13, h12]
  refine j_cvI hE hR (As := []) (rest := [.int (r1)]) (ctX6_hour E.1.2.1 E.2.2.1 h14 _ _ _ hw) (lw_V q1997 q1998 q1999 q129 q2000) jdX6_hour ⟨Nat.le_of_ble_eq_true rfl, Nat.le_of_ble_eq_true rfl⟩ ⟨Nat.zero_le _, Nat.zero_le _⟩ (mIs h14) rfl (Nat.le_of_ble_eq_true rfl) dL_law_654 (fun v11 u9 hk => ?_)
  obtain ⟨m10, e9, hw⟩ := hk
  subst e9
  (try rw [← h12])
  refine j_b0 ?_
  refine j_nw (fun w15 e_w15 => ?_)
  replace hw := hw w15 e_w15
  refine j_icmp_eq hE 1473 dL_law_657 (by decide) (fun c16 => ?_) (fun c16 => ?_)
  · replace hw := hw.1 c16
    have hz := bL_law_1473 hE hn hR hc hst hK ih23 hw
    exact hz
  · replace hw := hw.2 c16
    refine j_iconst hE dL_law_660 kc_0 ?_
    exact jl_iret hE hK dL_law_661 rfl hw
def wL_law_662 (c : Nat → Option Nat) (x0 : Nat) (x1 : Nat) (x2 : Nat) (x3 : Nat) (x4 : Int32) (w : GW) (bb : Nat × Nat) (KL23 : Int32 × GW × (Nat × Nat) → Prop) (K : Int32 → GW → Prop) : Prop :=
  gmc w x1 = some 0 ∧ (wX1_undo c x1 w (fun r1 w3 => ∃ (ad4 : Nat → Nat) (m5 : MS) (r6 : GW), adOk ad4 ∧ w3 = mwX ad4 m5 r6 ∧ x2 = ad4 0 ∧ wX6_undo  m5 (fun v8 m7 => ∀ w12 : GW, w12 = mwX ad4 m7 r6 → ((r1 = v8 → (wL_law_1473 c x0 x1 x2 x3 x4 w12 bb KL23 K)) ∧ (¬ r1 = v8 → (K ((0 : Int32)) w12))))))
set_option maxRecDepth 100000 in
theorem bL_law_662 {E : jE} (hE : jOk E cL_law RX0) (hn : E.2.2.2.2 = 7) (hR : jRoom E 2230 66818) {c : Nat → Option Nat} (hc : E.2.2.1.2.2.2 = c) (hst : E.1.2.1.stackTraces = false) {K : Int32 → GW → Prop} (hK : jRL E K) {x0 : Nat} {x1 : Nat} {x2 : Nat} {x3 : Nat} {x4 : Int32} {w : GW} {bb : Nat × Nat} {KL23 : Int32 × GW × (Nat × Nat) → Prop} (ih23 : ∀ s : Int32 × GW × (Nat × Nat), KL23 s → J E (s.2.1) (s.2.2) [(0, .ref (x0)), (1, .ref (x1)), (2, .ref (x2)), (3, .ref (x3)), (4, .int (s.1))] 23 []) (hw : wL_law_662 c x0 x1 x2 x3 x4 w bb KL23 K) : J E w bb [(0, .ref (x0)), (1, .ref (x1)), (2, .ref (x2)), (3, .ref (x3)), (4, .int (x4))] 662 [] := by
  unfold wL_law_662 at hw
  refine j_aload_n hE 1 dL_law_662 rfl rfl ?_
  obtain ⟨h2, hw⟩ := hw
  refine jc_i (jr_V hE hR (As := []) (rest := []) ((ctX1_undo E.1.2.1 E.2.2.1 hc _ _ _ hw) E.2.2.2.1) (lw_V q1344 q1345 q1346 q121 q1347) jdX1_undo ⟨Nat.le_of_ble_eq_true rfl, Nat.le_of_ble_eq_true rfl⟩ ⟨Nat.zero_le _, Nat.zero_le _⟩ (gmc_gIs h2 (r := (RX1, TX1, 15)) rfl) rfl (Nat.le_of_ble_eq_true rfl) dL_law_663) (fun r1 w3 hw => ?_)
  refine j_b0 ?_
  refine j_aload_n hE 2 dL_law_666 rfl rfl ?_
  obtain ⟨ad4, m5, r6, h11, h10, h9, hw⟩ := hw
  rw [h10, h9]
  refine j_cvI hE hR (As := []) (rest := [.int (r1)]) (ctX6_undo E.1.2.1 E.2.2.1 h11 _ _ _ hw) (lw_V q2016 q2017 q2018 q129 q2019) jdX6_undo ⟨Nat.le_of_ble_eq_true rfl, Nat.le_of_ble_eq_true rfl⟩ ⟨Nat.zero_le _, Nat.zero_le _⟩ (mIs h11) rfl (Nat.le_of_ble_eq_true rfl) dL_law_667 (fun v8 u9 hk => ?_)
  obtain ⟨m7, e9, hw⟩ := hk
  subst e9
  (try rw [← h9])
  refine j_b0 ?_
  refine j_nw (fun w12 e_w12 => ?_)
  replace hw := hw w12 e_w12
  refine j_icmp_eq hE 1473 dL_law_670 (by decide) (fun c13 => ?_) (fun c13 => ?_)
  · replace hw := hw.1 c13
    have hz := bL_law_1473 hE hn hR hc hst hK ih23 hw
    exact hz
  · replace hw := hw.2 c13
    refine j_iconst hE dL_law_673 kc_0 ?_
    exact jl_iret hE hK dL_law_674 rfl hw
def wL_law_675 (c : Nat → Option Nat) (x0 : Nat) (x1 : Nat) (x2 : Nat) (x3 : Nat) (x4 : Int32) (w : GW) (bb : Nat × Nat) (KL23 : Int32 × GW × (Nat × Nat) → Prop) (K : Int32 → GW → Prop) : Prop :=
  ∃ (n1 : Nat) (f2 : Nat → Int32), gai w x0 0 = some (n1, f2) ∧ vp_in (x4 + ((1 : Int32))) n1 ∧ (gmc w x1 = some 0 ∧ (wX1_judged c x1 (rd f2 (x4 + ((1 : Int32)))) w (fun r5 w7 => ∃ (n8 : Nat) (f9 : Nat → Int32), gai w7 x0 0 = some (n8, f9) ∧ vp_in (x4 + ((1 : Int32))) n8 ∧ (∃ (ad12 : Nat → Nat) (m13 : MS) (r14 : GW), adOk ad12 ∧ w7 = mwX ad12 m13 r14 ∧ x2 = ad12 0 ∧ wX6_judged (rd f9 (x4 + ((1 : Int32)))) m13 (fun v16 m15 => ∀ w20 : GW, w20 = mwX ad12 m15 r14 → ((r5 = v16 → (wL_law_1473 c x0 x1 x2 x3 x4 w20 bb KL23 K)) ∧ (¬ r5 = v16 → (K ((0 : Int32)) w20))))))))
set_option maxRecDepth 100000 in
theorem bL_law_675 {E : jE} (hE : jOk E cL_law RX0) (hn : E.2.2.2.2 = 7) (hR : jRoom E 2230 66818) {c : Nat → Option Nat} (hc : E.2.2.1.2.2.2 = c) (hst : E.1.2.1.stackTraces = false) {K : Int32 → GW → Prop} (hK : jRL E K) {x0 : Nat} {x1 : Nat} {x2 : Nat} {x3 : Nat} {x4 : Int32} {w : GW} {bb : Nat × Nat} {KL23 : Int32 × GW × (Nat × Nat) → Prop} (ih23 : ∀ s : Int32 × GW × (Nat × Nat), KL23 s → J E (s.2.1) (s.2.2) [(0, .ref (x0)), (1, .ref (x1)), (2, .ref (x2)), (3, .ref (x3)), (4, .int (s.1))] 23 []) (hw : wL_law_675 c x0 x1 x2 x3 x4 w bb KL23 K) : J E w bb [(0, .ref (x0)), (1, .ref (x1)), (2, .ref (x2)), (3, .ref (x3)), (4, .int (x4))] 675 [] := by
  unfold wL_law_675 at hw
  refine j_aload_n hE 1 dL_law_675 rfl rfl ?_
  refine j_aload_n hE 0 dL_law_676 rfl rfl ?_
  refine j_iload hE 4 dL_law_677 rfl ?_
  refine j_iconst hE dL_law_679 kc_1 ?_
  refine j_iadd hE dL_law_680 ?_
  obtain ⟨n1, f2, h3, h4, hw⟩ := hw
  refine j_aldI hE h3 h4 dL_law_681 ?_
  obtain ⟨h6, hw⟩ := hw
  refine jc_i (jr_V hE hR (As := [.int (rd f2 (x4 + ((1 : Int32))))]) (rest := []) ((ctX1_judged E.1.2.1 E.2.2.1 hc _ _ _ _ hw) E.2.2.2.1) (lw_V q1348 q1349 q1350 q121 q1351) jdX1_judged ⟨Nat.le_of_ble_eq_true rfl, Nat.le_of_ble_eq_true rfl⟩ ⟨Nat.zero_le _, Nat.zero_le _⟩ (gmc_gIs h6 (r := (RX1, TX1, 15)) rfl) rfl (Nat.le_of_ble_eq_true rfl) dL_law_682) (fun r5 w7 hw => ?_)
  refine j_b0 ?_
  refine j_aload_n hE 2 dL_law_685 rfl rfl ?_
  refine j_aload_n hE 0 dL_law_686 rfl rfl ?_
  refine j_iload hE 4 dL_law_687 rfl ?_
  refine j_iconst hE dL_law_689 kc_1 ?_
  refine j_iadd hE dL_law_690 ?_
  obtain ⟨n8, f9, h10, h11, hw⟩ := hw
  refine j_aldI hE h10 h11 dL_law_691 ?_
  obtain ⟨ad12, m13, r14, h19, h18, h17, hw⟩ := hw
  rw [h18, h17]
  refine j_cvI hE hR (As := [.int (rd f9 (x4 + ((1 : Int32))))]) (rest := [.int (r5)]) (ctX6_judged E.1.2.1 E.2.2.1 h19 _ _ _ _ hw) (lw_V q2020 q2021 q2022 q129 q2023) jdX6_judged ⟨Nat.le_of_ble_eq_true rfl, Nat.le_of_ble_eq_true rfl⟩ ⟨Nat.zero_le _, Nat.zero_le _⟩ (mIs h19) rfl (Nat.le_of_ble_eq_true rfl) dL_law_692 (fun v16 u9 hk => ?_)
  obtain ⟨m15, e9, hw⟩ := hk
  subst e9
  (try rw [← h17])
  refine j_b0 ?_
  refine j_nw (fun w20 e_w20 => ?_)
  replace hw := hw w20 e_w20
  refine j_icmp_eq hE 1473 dL_law_695 (by decide) (fun c21 => ?_) (fun c21 => ?_)
  · replace hw := hw.1 c21
    have hz := bL_law_1473 hE hn hR hc hst hK ih23 hw
    exact hz
  · replace hw := hw.2 c21
    refine j_iconst hE dL_law_698 kc_0 ?_
    exact jl_iret hE hK dL_law_699 rfl hw
def wL_law_700 (c : Nat → Option Nat) (x0 : Nat) (x1 : Nat) (x2 : Nat) (x3 : Nat) (x4 : Int32) (w : GW) (bb : Nat × Nat) (KL23 : Int32 × GW × (Nat × Nat) → Prop) (K : Int32 → GW → Prop) : Prop :=
  ∃ (n1 : Nat) (f2 : Nat → Int32), gai w x0 0 = some (n1, f2) ∧ vp_in (x4 + ((1 : Int32))) n1 ∧ (gmc w x1 = some 0 ∧ (wX1_shame c x1 (rd f2 (x4 + ((1 : Int32)))) w (fun r5 => ∃ (n7 : Nat) (f8 : Nat → Int32), gai w x0 0 = some (n7, f8) ∧ vp_in (x4 + ((1 : Int32))) n7 ∧ (∃ (ad11 : Nat → Nat) (m12 : MS) (r13 : GW), adOk ad11 ∧ w = mwX ad11 m12 r13 ∧ x2 = ad11 0 ∧ wX6_shame (rd f8 (x4 + ((1 : Int32)))) m12 (fun v15 m14 => ∀ w19 : GW, w19 = mwX ad11 m14 r13 → ((r5 = v15 → (wL_law_1473 c x0 x1 x2 x3 x4 w19 bb KL23 K)) ∧ (¬ r5 = v15 → (K ((0 : Int32)) w19))))))))
set_option maxRecDepth 100000 in
theorem bL_law_700 {E : jE} (hE : jOk E cL_law RX0) (hn : E.2.2.2.2 = 7) (hR : jRoom E 2230 66818) {c : Nat → Option Nat} (hc : E.2.2.1.2.2.2 = c) (hst : E.1.2.1.stackTraces = false) {K : Int32 → GW → Prop} (hK : jRL E K) {x0 : Nat} {x1 : Nat} {x2 : Nat} {x3 : Nat} {x4 : Int32} {w : GW} {bb : Nat × Nat} {KL23 : Int32 × GW × (Nat × Nat) → Prop} (ih23 : ∀ s : Int32 × GW × (Nat × Nat), KL23 s → J E (s.2.1) (s.2.2) [(0, .ref (x0)), (1, .ref (x1)), (2, .ref (x2)), (3, .ref (x3)), (4, .int (s.1))] 23 []) (hw : wL_law_700 c x0 x1 x2 x3 x4 w bb KL23 K) : J E w bb [(0, .ref (x0)), (1, .ref (x1)), (2, .ref (x2)), (3, .ref (x3)), (4, .int (x4))] 700 [] := by
  unfold wL_law_700 at hw
  refine j_aload_n hE 1 dL_law_700 rfl rfl ?_
  refine j_aload_n hE 0 dL_law_701 rfl rfl ?_
  refine j_iload hE 4 dL_law_702 rfl ?_
  refine j_iconst hE dL_law_704 kc_1 ?_
  refine j_iadd hE dL_law_705 ?_
  obtain ⟨n1, f2, h3, h4, hw⟩ := hw
  refine j_aldI hE h3 h4 dL_law_706 ?_
  obtain ⟨h6, hw⟩ := hw
  refine jc_ip (jr_V hE hR (As := [.int (rd f2 (x4 + ((1 : Int32))))]) (rest := []) ((ctX1_shame E.1.2.1 E.2.2.1 hc _ _ _ _ hw) E.2.2.2.1) (lw_V q1390 q1391 q1392 q121 q1393) jdX1_shame ⟨Nat.le_of_ble_eq_true rfl, Nat.le_of_ble_eq_true rfl⟩ ⟨Nat.zero_le _, Nat.zero_le _⟩ (gmc_gIs h6 (r := (RX1, TX1, 15)) rfl) rfl (Nat.le_of_ble_eq_true rfl) dL_law_707) (fun r5 hw => ?_)
  refine j_b0 ?_
  refine j_aload_n hE 2 dL_law_710 rfl rfl ?_
  refine j_aload_n hE 0 dL_law_711 rfl rfl ?_
  refine j_iload hE 4 dL_law_712 rfl ?_
  refine j_iconst hE dL_law_714 kc_1 ?_
  refine j_iadd hE dL_law_715 ?_
  obtain ⟨n7, f8, h9, h10, hw⟩ := hw
  refine j_aldI hE h9 h10 dL_law_716 ?_
  obtain ⟨ad11, m12, r13, h18, h17, h16, hw⟩ := hw
  rw [h17, h16]
  refine j_cvI hE hR (As := [.int (rd f8 (x4 + ((1 : Int32))))]) (rest := [.int (r5)]) (ctX6_shame E.1.2.1 E.2.2.1 h18 _ _ _ _ hw) (lw_V q2040 q2041 q2042 q129 q2043) jdX6_shame ⟨Nat.le_of_ble_eq_true rfl, Nat.le_of_ble_eq_true rfl⟩ ⟨Nat.zero_le _, Nat.zero_le _⟩ (mIs h18) rfl (Nat.le_of_ble_eq_true rfl) dL_law_717 (fun v15 u9 hk => ?_)
  obtain ⟨m14, e9, hw⟩ := hk
  subst e9
  (try rw [← h16])
  refine j_b0 ?_
  refine j_nw (fun w19 e_w19 => ?_)
  replace hw := hw w19 e_w19
  refine j_icmp_eq hE 1473 dL_law_720 (by decide) (fun c20 => ?_) (fun c20 => ?_)
  · replace hw := hw.1 c20
    have hz := bL_law_1473 hE hn hR hc hst hK ih23 hw
    exact hz
  · replace hw := hw.2 c20
    refine j_iconst hE dL_law_723 kc_0 ?_
    exact jl_iret hE hK dL_law_724 rfl hw
def wL_law_725 (c : Nat → Option Nat) (x0 : Nat) (x1 : Nat) (x2 : Nat) (x3 : Nat) (x4 : Int32) (w : GW) (bb : Nat × Nat) (KL23 : Int32 × GW × (Nat × Nat) → Prop) (K : Int32 → GW → Prop) : Prop :=
  gmc w x1 = some 0 ∧ (wX1_harm c x1 w (fun r1 => ∃ (ad3 : Nat → Nat) (m4 : MS) (r5 : GW), adOk ad3 ∧ w = mwX ad3 m4 r5 ∧ x2 = ad3 0 ∧ wX6_harm  m4 (fun v7 m6 => ∀ w11 : GW, w11 = mwX ad3 m6 r5 → ((r1 = v7 → (wL_law_1473 c x0 x1 x2 x3 x4 w11 bb KL23 K)) ∧ (¬ r1 = v7 → (K ((0 : Int32)) w11))))))
set_option maxRecDepth 100000 in
theorem bL_law_725 {E : jE} (hE : jOk E cL_law RX0) (hn : E.2.2.2.2 = 7) (hR : jRoom E 2230 66818) {c : Nat → Option Nat} (hc : E.2.2.1.2.2.2 = c) (hst : E.1.2.1.stackTraces = false) {K : Int32 → GW → Prop} (hK : jRL E K) {x0 : Nat} {x1 : Nat} {x2 : Nat} {x3 : Nat} {x4 : Int32} {w : GW} {bb : Nat × Nat} {KL23 : Int32 × GW × (Nat × Nat) → Prop} (ih23 : ∀ s : Int32 × GW × (Nat × Nat), KL23 s → J E (s.2.1) (s.2.2) [(0, .ref (x0)), (1, .ref (x1)), (2, .ref (x2)), (3, .ref (x3)), (4, .int (s.1))] 23 []) (hw : wL_law_725 c x0 x1 x2 x3 x4 w bb KL23 K) : J E w bb [(0, .ref (x0)), (1, .ref (x1)), (2, .ref (x2)), (3, .ref (x3)), (4, .int (x4))] 725 [] := by
  unfold wL_law_725 at hw
  refine j_aload_n hE 1 dL_law_725 rfl rfl ?_
  obtain ⟨h2, hw⟩ := hw
  refine jc_ip (jr_V hE hR (As := []) (rest := []) ((ctX1_harm E.1.2.1 E.2.2.1 hc _ _ _ hw) E.2.2.2.1) (lw_V q1398 q1399 q1400 q121 q1401) jdX1_harm ⟨Nat.le_of_ble_eq_true rfl, Nat.le_of_ble_eq_true rfl⟩ ⟨Nat.zero_le _, Nat.zero_le _⟩ (gmc_gIs h2 (r := (RX1, TX1, 15)) rfl) rfl (Nat.le_of_ble_eq_true rfl) dL_law_726) (fun r1 hw => ?_)
  refine j_b0 ?_
  refine j_aload_n hE 2 dL_law_729 rfl rfl ?_
  obtain ⟨ad3, m4, r5, h10, h9, h8, hw⟩ := hw
  rw [h9, h8]
  refine j_cvI hE hR (As := []) (rest := [.int (r1)]) (ctX6_harm E.1.2.1 E.2.2.1 h10 _ _ _ hw) (lw_V q2044 q2045 q2046 q129 q2047) jdX6_harm ⟨Nat.le_of_ble_eq_true rfl, Nat.le_of_ble_eq_true rfl⟩ ⟨Nat.zero_le _, Nat.zero_le _⟩ (mIs h10) rfl (Nat.le_of_ble_eq_true rfl) dL_law_730 (fun v7 u9 hk => ?_)
  obtain ⟨m6, e9, hw⟩ := hk
  subst e9
  (try rw [← h8])
  refine j_b0 ?_
  refine j_nw (fun w11 e_w11 => ?_)
  replace hw := hw w11 e_w11
  refine j_icmp_eq hE 1473 dL_law_733 (by decide) (fun c12 => ?_) (fun c12 => ?_)
  · replace hw := hw.1 c12
    have hz := bL_law_1473 hE hn hR hc hst hK ih23 hw
    exact hz
  · replace hw := hw.2 c12
    refine j_iconst hE dL_law_736 kc_0 ?_
    exact jl_iret hE hK dL_law_737 rfl hw
def wL_law_738 (c : Nat → Option Nat) (x0 : Nat) (x1 : Nat) (x2 : Nat) (x3 : Nat) (x4 : Int32) (w : GW) (bb : Nat × Nat) (KL23 : Int32 × GW × (Nat × Nat) → Prop) (K : Int32 → GW → Prop) : Prop :=
  ∃ (n1 : Nat) (f2 : Nat → Int32), gai w x0 0 = some (n1, f2) ∧ vp_in (x4 + ((1 : Int32))) n1 ∧ (∃ (n5 : Nat) (f6 : Nat → Int32), gai w x0 0 = some (n5, f6) ∧ vp_in (x4 + (nI 2)) n5 ∧ (gmc w x1 = some 0 ∧ (wX1_hide c x1 (rd f2 (x4 + ((1 : Int32)))) (rd f6 (x4 + (nI 2))) w (fun r9 => ∃ (n11 : Nat) (f12 : Nat → Int32), gai w x0 0 = some (n11, f12) ∧ vp_in (x4 + ((1 : Int32))) n11 ∧ (∃ (n15 : Nat) (f16 : Nat → Int32), gai w x0 0 = some (n15, f16) ∧ vp_in (x4 + (nI 2)) n15 ∧ (∃ (ad19 : Nat → Nat) (m20 : MS) (r21 : GW), adOk ad19 ∧ w = mwX ad19 m20 r21 ∧ x2 = ad19 0 ∧ wX6_hide (rd f12 (x4 + ((1 : Int32)))) (rd f16 (x4 + (nI 2))) m20 (fun v23 m22 => ∀ w27 : GW, w27 = mwX ad19 m22 r21 → ((r9 = v23 → (wL_law_1473 c x0 x1 x2 x3 x4 w27 bb KL23 K)) ∧ (¬ r9 = v23 → (K ((0 : Int32)) w27))))))))))
set_option maxRecDepth 100000 in
theorem bL_law_738 {E : jE} (hE : jOk E cL_law RX0) (hn : E.2.2.2.2 = 7) (hR : jRoom E 2230 66818) {c : Nat → Option Nat} (hc : E.2.2.1.2.2.2 = c) (hst : E.1.2.1.stackTraces = false) {K : Int32 → GW → Prop} (hK : jRL E K) {x0 : Nat} {x1 : Nat} {x2 : Nat} {x3 : Nat} {x4 : Int32} {w : GW} {bb : Nat × Nat} {KL23 : Int32 × GW × (Nat × Nat) → Prop} (ih23 : ∀ s : Int32 × GW × (Nat × Nat), KL23 s → J E (s.2.1) (s.2.2) [(0, .ref (x0)), (1, .ref (x1)), (2, .ref (x2)), (3, .ref (x3)), (4, .int (s.1))] 23 []) (hw : wL_law_738 c x0 x1 x2 x3 x4 w bb KL23 K) : J E w bb [(0, .ref (x0)), (1, .ref (x1)), (2, .ref (x2)), (3, .ref (x3)), (4, .int (x4))] 738 [] := by
  unfold wL_law_738 at hw
  refine j_aload_n hE 1 dL_law_738 rfl rfl ?_
  refine j_aload_n hE 0 dL_law_739 rfl rfl ?_
  refine j_iload hE 4 dL_law_740 rfl ?_
  refine j_iconst hE dL_law_742 kc_1 ?_
  refine j_iadd hE dL_law_743 ?_
  obtain ⟨n1, f2, h3, h4, hw⟩ := hw
  refine j_aldI hE h3 h4 dL_law_744 ?_
  refine j_aload_n hE 0 dL_law_745 rfl rfl ?_
  refine j_iload hE 4 dL_law_746 rfl ?_
  refine j_iconst hE dL_law_748 kc_2 ?_
  refine j_iadd hE dL_law_749 ?_
  obtain ⟨n5, f6, h7, h8, hw⟩ := hw
  refine j_aldI hE h7 h8 dL_law_750 ?_
  obtain ⟨h10, hw⟩ := hw
  refine jc_ip (jr_V hE hR (As := [.int (rd f2 (x4 + ((1 : Int32)))), .int (rd f6 (x4 + (nI 2)))]) (rest := []) ((ctX1_hide E.1.2.1 E.2.2.1 hc _ _ _ _ _ hw) E.2.2.2.1) (lw_V q1406 q1407 q1408 q121 q1409) jdX1_hide ⟨Nat.le_of_ble_eq_true rfl, Nat.le_of_ble_eq_true rfl⟩ ⟨Nat.zero_le _, Nat.zero_le _⟩ (gmc_gIs h10 (r := (RX1, TX1, 15)) rfl) rfl (Nat.le_of_ble_eq_true rfl) dL_law_751) (fun r9 hw => ?_)
  refine j_b0 ?_
  refine j_aload_n hE 2 dL_law_754 rfl rfl ?_
  refine j_aload_n hE 0 dL_law_755 rfl rfl ?_
  refine j_iload hE 4 dL_law_756 rfl ?_
  refine j_iconst hE dL_law_758 kc_1 ?_
  refine j_iadd hE dL_law_759 ?_
  obtain ⟨n11, f12, h13, h14, hw⟩ := hw
  refine j_aldI hE h13 h14 dL_law_760 ?_
  refine j_aload_n hE 0 dL_law_761 rfl rfl ?_
  refine j_iload hE 4 dL_law_762 rfl ?_
  refine j_iconst hE dL_law_764 kc_2 ?_
  refine j_iadd hE dL_law_765 ?_
  obtain ⟨n15, f16, h17, h18, hw⟩ := hw
  refine j_aldI hE h17 h18 dL_law_766 ?_
  obtain ⟨ad19, m20, r21, h26, h25, h24, hw⟩ := hw
  rw [h25, h24]
  refine j_cvI hE hR (As := [.int (rd f12 (x4 + ((1 : Int32)))), .int (rd f16 (x4 + (nI 2)))]) (rest := [.int (r9)]) (ctX6_hide E.1.2.1 E.2.2.1 h26 _ _ _ _ _ hw) (lw_V q2079 q2080 q2081 q129 q2082) jdX6_hide ⟨Nat.le_of_ble_eq_true rfl, Nat.le_of_ble_eq_true rfl⟩ ⟨Nat.zero_le _, Nat.zero_le _⟩ (mIs h26) rfl (Nat.le_of_ble_eq_true rfl) dL_law_767 (fun v23 u9 hk => ?_)
  obtain ⟨m22, e9, hw⟩ := hk
  subst e9
  (try rw [← h24])
  refine j_b0 ?_
  refine j_nw (fun w27 e_w27 => ?_)
  replace hw := hw w27 e_w27
  refine j_icmp_eq hE 1473 dL_law_770 (by decide) (fun c28 => ?_) (fun c28 => ?_)
  · replace hw := hw.1 c28
    have hz := bL_law_1473 hE hn hR hc hst hK ih23 hw
    exact hz
  · replace hw := hw.2 c28
    refine j_iconst hE dL_law_773 kc_0 ?_
    exact jl_iret hE hK dL_law_774 rfl hw
def wL_law_775 (c : Nat → Option Nat) (x0 : Nat) (x1 : Nat) (x2 : Nat) (x3 : Nat) (x4 : Int32) (w : GW) (bb : Nat × Nat) (KL23 : Int32 × GW × (Nat × Nat) → Prop) (K : Int32 → GW → Prop) : Prop :=
  ∃ (n1 : Nat) (f2 : Nat → Int32), gai w x0 0 = some (n1, f2) ∧ vp_in (x4 + ((1 : Int32))) n1 ∧ (∃ (n5 : Nat) (f6 : Nat → Int32), gai w x0 0 = some (n5, f6) ∧ vp_in (x4 + (nI 2)) n5 ∧ (gmc w x1 = some 0 ∧ (wX1_proof c x1 (rd f2 (x4 + ((1 : Int32)))) (rd f6 (x4 + (nI 2))) w (fun r9 => ∃ (n11 : Nat) (f12 : Nat → Int32), gai w x0 0 = some (n11, f12) ∧ vp_in (x4 + ((1 : Int32))) n11 ∧ (∃ (n15 : Nat) (f16 : Nat → Int32), gai w x0 0 = some (n15, f16) ∧ vp_in (x4 + (nI 2)) n15 ∧ (∃ (ad19 : Nat → Nat) (m20 : MS) (r21 : GW), adOk ad19 ∧ w = mwX ad19 m20 r21 ∧ x2 = ad19 0 ∧ wX6_proof (rd f12 (x4 + ((1 : Int32)))) (rd f16 (x4 + (nI 2))) m20 (fun v23 m22 => ∀ w27 : GW, w27 = mwX ad19 m22 r21 → ((r9 = v23 → (wL_law_1473 c x0 x1 x2 x3 x4 w27 bb KL23 K)) ∧ (¬ r9 = v23 → (K ((0 : Int32)) w27))))))))))
set_option maxRecDepth 100000 in
theorem bL_law_775 {E : jE} (hE : jOk E cL_law RX0) (hn : E.2.2.2.2 = 7) (hR : jRoom E 2230 66818) {c : Nat → Option Nat} (hc : E.2.2.1.2.2.2 = c) (hst : E.1.2.1.stackTraces = false) {K : Int32 → GW → Prop} (hK : jRL E K) {x0 : Nat} {x1 : Nat} {x2 : Nat} {x3 : Nat} {x4 : Int32} {w : GW} {bb : Nat × Nat} {KL23 : Int32 × GW × (Nat × Nat) → Prop} (ih23 : ∀ s : Int32 × GW × (Nat × Nat), KL23 s → J E (s.2.1) (s.2.2) [(0, .ref (x0)), (1, .ref (x1)), (2, .ref (x2)), (3, .ref (x3)), (4, .int (s.1))] 23 []) (hw : wL_law_775 c x0 x1 x2 x3 x4 w bb KL23 K) : J E w bb [(0, .ref (x0)), (1, .ref (x1)), (2, .ref (x2)), (3, .ref (x3)), (4, .int (x4))] 775 [] := by
  unfold wL_law_775 at hw
  refine j_aload_n hE 1 dL_law_775 rfl rfl ?_
  refine j_aload_n hE 0 dL_law_776 rfl rfl ?_
  refine j_iload hE 4 dL_law_777 rfl ?_
  refine j_iconst hE dL_law_779 kc_1 ?_
  refine j_iadd hE dL_law_780 ?_
  obtain ⟨n1, f2, h3, h4, hw⟩ := hw
  refine j_aldI hE h3 h4 dL_law_781 ?_
  refine j_aload_n hE 0 dL_law_782 rfl rfl ?_
  refine j_iload hE 4 dL_law_783 rfl ?_
  refine j_iconst hE dL_law_785 kc_2 ?_
  refine j_iadd hE dL_law_786 ?_
  obtain ⟨n5, f6, h7, h8, hw⟩ := hw
  refine j_aldI hE h7 h8 dL_law_787 ?_
  obtain ⟨h10, hw⟩ := hw
  refine jc_ip (jr_V hE hR (As := [.int (rd f2 (x4 + ((1 : Int32)))), .int (rd f6 (x4 + (nI 2)))]) (rest := []) ((ctX1_proof E.1.2.1 E.2.2.1 hc _ _ _ _ _ hw) E.2.2.2.1) (lw_V q1410 q1411 q1412 q121 q1413) jdX1_proof ⟨Nat.le_of_ble_eq_true rfl, Nat.le_of_ble_eq_true rfl⟩ ⟨Nat.zero_le _, Nat.zero_le _⟩ (gmc_gIs h10 (r := (RX1, TX1, 15)) rfl) rfl (Nat.le_of_ble_eq_true rfl) dL_law_788) (fun r9 hw => ?_)
  refine j_b0 ?_
  refine j_aload_n hE 2 dL_law_791 rfl rfl ?_
  refine j_aload_n hE 0 dL_law_792 rfl rfl ?_
  refine j_iload hE 4 dL_law_793 rfl ?_
  refine j_iconst hE dL_law_795 kc_1 ?_
  refine j_iadd hE dL_law_796 ?_
  obtain ⟨n11, f12, h13, h14, hw⟩ := hw
  refine j_aldI hE h13 h14 dL_law_797 ?_
  refine j_aload_n hE 0 dL_law_798 rfl rfl ?_
  refine j_iload hE 4 dL_law_799 rfl ?_
  refine j_iconst hE dL_law_801 kc_2 ?_
  refine j_iadd hE dL_law_802 ?_
  obtain ⟨n15, f16, h17, h18, hw⟩ := hw
  refine j_aldI hE h17 h18 dL_law_803 ?_
  obtain ⟨ad19, m20, r21, h26, h25, h24, hw⟩ := hw
  rw [h25, h24]
  refine j_cvI hE hR (As := [.int (rd f12 (x4 + ((1 : Int32)))), .int (rd f16 (x4 + (nI 2)))]) (rest := [.int (r9)]) (ctX6_proof E.1.2.1 E.2.2.1 h26 _ _ _ _ _ hw) (lw_V q2083 q2084 q2085 q129 q2086) jdX6_proof ⟨Nat.le_of_ble_eq_true rfl, Nat.le_of_ble_eq_true rfl⟩ ⟨Nat.zero_le _, Nat.zero_le _⟩ (mIs h26) rfl (Nat.le_of_ble_eq_true rfl) dL_law_804 (fun v23 u9 hk => ?_)
  obtain ⟨m22, e9, hw⟩ := hk
  subst e9
  (try rw [← h24])
  refine j_b0 ?_
  refine j_nw (fun w27 e_w27 => ?_)
  replace hw := hw w27 e_w27
  refine j_icmp_eq hE 1473 dL_law_807 (by decide) (fun c28 => ?_) (fun c28 => ?_)
  · replace hw := hw.1 c28
    have hz := bL_law_1473 hE hn hR hc hst hK ih23 hw
    exact hz
  · replace hw := hw.2 c28
    refine j_iconst hE dL_law_810 kc_0 ?_
    exact jl_iret hE hK dL_law_811 rfl hw
def wL_law_812 (c : Nat → Option Nat) (x0 : Nat) (x1 : Nat) (x2 : Nat) (x3 : Nat) (x4 : Int32) (w : GW) (bb : Nat × Nat) (KL23 : Int32 × GW × (Nat × Nat) → Prop) (K : Int32 → GW → Prop) : Prop :=
  ∃ (n1 : Nat) (f2 : Nat → Int32), gai w x0 0 = some (n1, f2) ∧ vp_in (x4 + ((1 : Int32))) n1 ∧ (∃ (n5 : Nat) (f6 : Nat → Int32), gai w x0 0 = some (n5, f6) ∧ vp_in (x4 + (nI 2)) n5 ∧ (gmc w x1 = some 0 ∧ (wX1_washes c x1 (rd f2 (x4 + ((1 : Int32)))) (rd f6 (x4 + (nI 2))) w (fun r9 => ∃ (n11 : Nat) (f12 : Nat → Int32), gai w x0 0 = some (n11, f12) ∧ vp_in (x4 + ((1 : Int32))) n11 ∧ (∃ (n15 : Nat) (f16 : Nat → Int32), gai w x0 0 = some (n15, f16) ∧ vp_in (x4 + (nI 2)) n15 ∧ (∃ (ad19 : Nat → Nat) (m20 : MS) (r21 : GW), adOk ad19 ∧ w = mwX ad19 m20 r21 ∧ x2 = ad19 0 ∧ wX6_washes (rd f12 (x4 + ((1 : Int32)))) (rd f16 (x4 + (nI 2))) m20 (fun v23 m22 => ∀ w27 : GW, w27 = mwX ad19 m22 r21 → ((r9 = v23 → (wL_law_1473 c x0 x1 x2 x3 x4 w27 bb KL23 K)) ∧ (¬ r9 = v23 → (K ((0 : Int32)) w27))))))))))
set_option maxRecDepth 100000 in
theorem bL_law_812 {E : jE} (hE : jOk E cL_law RX0) (hn : E.2.2.2.2 = 7) (hR : jRoom E 2230 66818) {c : Nat → Option Nat} (hc : E.2.2.1.2.2.2 = c) (hst : E.1.2.1.stackTraces = false) {K : Int32 → GW → Prop} (hK : jRL E K) {x0 : Nat} {x1 : Nat} {x2 : Nat} {x3 : Nat} {x4 : Int32} {w : GW} {bb : Nat × Nat} {KL23 : Int32 × GW × (Nat × Nat) → Prop} (ih23 : ∀ s : Int32 × GW × (Nat × Nat), KL23 s → J E (s.2.1) (s.2.2) [(0, .ref (x0)), (1, .ref (x1)), (2, .ref (x2)), (3, .ref (x3)), (4, .int (s.1))] 23 []) (hw : wL_law_812 c x0 x1 x2 x3 x4 w bb KL23 K) : J E w bb [(0, .ref (x0)), (1, .ref (x1)), (2, .ref (x2)), (3, .ref (x3)), (4, .int (x4))] 812 [] := by
  unfold wL_law_812 at hw
  refine j_aload_n hE 1 dL_law_812 rfl rfl ?_
  refine j_aload_n hE 0 dL_law_813 rfl rfl ?_
  refine j_iload hE 4 dL_law_814 rfl ?_
  refine j_iconst hE dL_law_816 kc_1 ?_
  refine j_iadd hE dL_law_817 ?_
  obtain ⟨n1, f2, h3, h4, hw⟩ := hw
  refine j_aldI hE h3 h4 dL_law_818 ?_
  refine j_aload_n hE 0 dL_law_819 rfl rfl ?_
  refine j_iload hE 4 dL_law_820 rfl ?_
  refine j_iconst hE dL_law_822 kc_2 ?_
  refine j_iadd hE dL_law_823 ?_
  obtain ⟨n5, f6, h7, h8, hw⟩ := hw
  refine j_aldI hE h7 h8 dL_law_824 ?_
  obtain ⟨h10, hw⟩ := hw
  refine jc_ip (jr_V hE hR (As := [.int (rd f2 (x4 + ((1 : Int32)))), .int (rd f6 (x4 + (nI 2)))]) (rest := []) ((ctX1_washes E.1.2.1 E.2.2.1 hc _ _ _ _ _ hw) E.2.2.2.1) (lw_V q1420 q1421 q1422 q121 q1423) jdX1_washes ⟨Nat.le_of_ble_eq_true rfl, Nat.le_of_ble_eq_true rfl⟩ ⟨Nat.zero_le _, Nat.zero_le _⟩ (gmc_gIs h10 (r := (RX1, TX1, 15)) rfl) rfl (Nat.le_of_ble_eq_true rfl) dL_law_825) (fun r9 hw => ?_)
  refine j_b0 ?_
  refine j_aload_n hE 2 dL_law_828 rfl rfl ?_
  refine j_aload_n hE 0 dL_law_829 rfl rfl ?_
  refine j_iload hE 4 dL_law_830 rfl ?_
  refine j_iconst hE dL_law_832 kc_1 ?_
  refine j_iadd hE dL_law_833 ?_
  obtain ⟨n11, f12, h13, h14, hw⟩ := hw
  refine j_aldI hE h13 h14 dL_law_834 ?_
  refine j_aload_n hE 0 dL_law_835 rfl rfl ?_
  refine j_iload hE 4 dL_law_836 rfl ?_
  refine j_iconst hE dL_law_838 kc_2 ?_
  refine j_iadd hE dL_law_839 ?_
  obtain ⟨n15, f16, h17, h18, hw⟩ := hw
  refine j_aldI hE h17 h18 dL_law_840 ?_
  obtain ⟨ad19, m20, r21, h26, h25, h24, hw⟩ := hw
  rw [h25, h24]
  refine j_cvI hE hR (As := [.int (rd f12 (x4 + ((1 : Int32)))), .int (rd f16 (x4 + (nI 2)))]) (rest := [.int (r9)]) (ctX6_washes E.1.2.1 E.2.2.1 h26 _ _ _ _ _ hw) (lw_V q2087 q2088 q2089 q129 q2090) jdX6_washes ⟨Nat.le_of_ble_eq_true rfl, Nat.le_of_ble_eq_true rfl⟩ ⟨Nat.zero_le _, Nat.zero_le _⟩ (mIs h26) rfl (Nat.le_of_ble_eq_true rfl) dL_law_841 (fun v23 u9 hk => ?_)
  obtain ⟨m22, e9, hw⟩ := hk
  subst e9
  (try rw [← h24])
  refine j_b0 ?_
  refine j_nw (fun w27 e_w27 => ?_)
  replace hw := hw w27 e_w27
  refine j_icmp_eq hE 1473 dL_law_844 (by decide) (fun c28 => ?_) (fun c28 => ?_)
  · replace hw := hw.1 c28
    have hz := bL_law_1473 hE hn hR hc hst hK ih23 hw
    exact hz
  · replace hw := hw.2 c28
    refine j_iconst hE dL_law_847 kc_0 ?_
    exact jl_iret hE hK dL_law_848 rfl hw
def wL_law_849 (c : Nat → Option Nat) (x0 : Nat) (x1 : Nat) (x2 : Nat) (x3 : Nat) (x4 : Int32) (w : GW) (bb : Nat × Nat) (KL23 : Int32 × GW × (Nat × Nat) → Prop) (K : Int32 → GW → Prop) : Prop :=
  ∃ (n1 : Nat) (f2 : Nat → Int32), gai w x0 0 = some (n1, f2) ∧ vp_in (x4 + ((1 : Int32))) n1 ∧ (gmc w x1 = some 0 ∧ (wX1_dark c x1 (rd f2 (x4 + ((1 : Int32)))) w (fun r5 => ∃ (n7 : Nat) (f8 : Nat → Int32), gai w x0 0 = some (n7, f8) ∧ vp_in (x4 + ((1 : Int32))) n7 ∧ (∃ (ad11 : Nat → Nat) (m12 : MS) (r13 : GW), adOk ad11 ∧ w = mwX ad11 m12 r13 ∧ x2 = ad11 0 ∧ wX6_dark (rd f8 (x4 + ((1 : Int32)))) m12 (fun v15 m14 => ∀ w19 : GW, w19 = mwX ad11 m14 r13 → ((r5 = v15 → (wL_law_1473 c x0 x1 x2 x3 x4 w19 bb KL23 K)) ∧ (¬ r5 = v15 → (K ((0 : Int32)) w19))))))))
set_option maxRecDepth 100000 in
theorem bL_law_849 {E : jE} (hE : jOk E cL_law RX0) (hn : E.2.2.2.2 = 7) (hR : jRoom E 2230 66818) {c : Nat → Option Nat} (hc : E.2.2.1.2.2.2 = c) (hst : E.1.2.1.stackTraces = false) {K : Int32 → GW → Prop} (hK : jRL E K) {x0 : Nat} {x1 : Nat} {x2 : Nat} {x3 : Nat} {x4 : Int32} {w : GW} {bb : Nat × Nat} {KL23 : Int32 × GW × (Nat × Nat) → Prop} (ih23 : ∀ s : Int32 × GW × (Nat × Nat), KL23 s → J E (s.2.1) (s.2.2) [(0, .ref (x0)), (1, .ref (x1)), (2, .ref (x2)), (3, .ref (x3)), (4, .int (s.1))] 23 []) (hw : wL_law_849 c x0 x1 x2 x3 x4 w bb KL23 K) : J E w bb [(0, .ref (x0)), (1, .ref (x1)), (2, .ref (x2)), (3, .ref (x3)), (4, .int (x4))] 849 [] := by
  unfold wL_law_849 at hw
  refine j_aload_n hE 1 dL_law_849 rfl rfl ?_
  refine j_aload_n hE 0 dL_law_850 rfl rfl ?_
  refine j_iload hE 4 dL_law_851 rfl ?_
  refine j_iconst hE dL_law_853 kc_1 ?_
  refine j_iadd hE dL_law_854 ?_
  obtain ⟨n1, f2, h3, h4, hw⟩ := hw
  refine j_aldI hE h3 h4 dL_law_855 ?_
  obtain ⟨h6, hw⟩ := hw
  refine jc_ip (jr_V hE hR (As := [.int (rd f2 (x4 + ((1 : Int32))))]) (rest := []) ((ctX1_dark E.1.2.1 E.2.2.1 hc _ _ _ _ hw) E.2.2.2.1) (lw_V q1428 q1429 q1430 q121 q1431) jdX1_dark ⟨Nat.le_of_ble_eq_true rfl, Nat.le_of_ble_eq_true rfl⟩ ⟨Nat.zero_le _, Nat.zero_le _⟩ (gmc_gIs h6 (r := (RX1, TX1, 15)) rfl) rfl (Nat.le_of_ble_eq_true rfl) dL_law_856) (fun r5 hw => ?_)
  refine j_b0 ?_
  refine j_aload_n hE 2 dL_law_859 rfl rfl ?_
  refine j_aload_n hE 0 dL_law_860 rfl rfl ?_
  refine j_iload hE 4 dL_law_861 rfl ?_
  refine j_iconst hE dL_law_863 kc_1 ?_
  refine j_iadd hE dL_law_864 ?_
  obtain ⟨n7, f8, h9, h10, hw⟩ := hw
  refine j_aldI hE h9 h10 dL_law_865 ?_
  obtain ⟨ad11, m12, r13, h18, h17, h16, hw⟩ := hw
  rw [h17, h16]
  refine j_cvI hE hR (As := [.int (rd f8 (x4 + ((1 : Int32))))]) (rest := [.int (r5)]) (ctX6_dark E.1.2.1 E.2.2.1 h18 _ _ _ _ hw) (lw_V q2091 q2092 q2093 q129 q2094) jdX6_dark ⟨Nat.le_of_ble_eq_true rfl, Nat.le_of_ble_eq_true rfl⟩ ⟨Nat.zero_le _, Nat.zero_le _⟩ (mIs h18) rfl (Nat.le_of_ble_eq_true rfl) dL_law_866 (fun v15 u9 hk => ?_)
  obtain ⟨m14, e9, hw⟩ := hk
  subst e9
  (try rw [← h16])
  refine j_b0 ?_
  refine j_nw (fun w19 e_w19 => ?_)
  replace hw := hw w19 e_w19
  refine j_icmp_eq hE 1473 dL_law_869 (by decide) (fun c20 => ?_) (fun c20 => ?_)
  · replace hw := hw.1 c20
    have hz := bL_law_1473 hE hn hR hc hst hK ih23 hw
    exact hz
  · replace hw := hw.2 c20
    refine j_iconst hE dL_law_872 kc_0 ?_
    exact jl_iret hE hK dL_law_873 rfl hw
def wL_law_919 (c : Nat → Option Nat) (x0 : Nat) (x1 : Nat) (x2 : Nat) (x3 : Nat) (x4 : Int32) (s0 : Int32) (s1 : Nat) (s2 : Int32) (s3 : Int32) (w : GW) (bb : Nat × Nat) (KL23 : Int32 × GW × (Nat × Nat) → Prop) (K : Int32 → GW → Prop) : Prop :=
  ∃ (ad1 : Nat → Nat) (m2 : MS) (r3 : GW), adOk ad1 ∧ w = mwX ad1 m2 r3 ∧ s1 = ad1 0 ∧ wX6_say s2 s3 m2 (fun v5 m4 => ∀ w9 : GW, w9 = mwX ad1 m4 r3 → ((s0 = v5 → (wL_law_1473 c x0 x1 x2 x3 x4 w9 bb KL23 K)) ∧ (¬ s0 = v5 → (K ((0 : Int32)) w9))))
set_option maxRecDepth 100000 in
theorem bL_law_919 {E : jE} (hE : jOk E cL_law RX0) (hn : E.2.2.2.2 = 7) (hR : jRoom E 2230 66818) {c : Nat → Option Nat} (hc : E.2.2.1.2.2.2 = c) (hst : E.1.2.1.stackTraces = false) {K : Int32 → GW → Prop} (hK : jRL E K) {x0 : Nat} {x1 : Nat} {x2 : Nat} {x3 : Nat} {x4 : Int32} {s0 : Int32} {s1 : Nat} {s2 : Int32} {s3 : Int32} {w : GW} {bb : Nat × Nat} {KL23 : Int32 × GW × (Nat × Nat) → Prop} (ih23 : ∀ s : Int32 × GW × (Nat × Nat), KL23 s → J E (s.2.1) (s.2.2) [(0, .ref (x0)), (1, .ref (x1)), (2, .ref (x2)), (3, .ref (x3)), (4, .int (s.1))] 23 []) (hw : wL_law_919 c x0 x1 x2 x3 x4 s0 s1 s2 s3 w bb KL23 K) : J E w bb [(0, .ref (x0)), (1, .ref (x1)), (2, .ref (x2)), (3, .ref (x3)), (4, .int (x4))] 919 [.int (s3), .int (s2), .ref (s1), .int (s0)] := by
  unfold wL_law_919 at hw
  obtain ⟨ad1, m2, r3, h8, h7, h6, hw⟩ := hw
  rw [h7, h6]
  refine j_cvI hE hR (As := [.int (s2), .int (s3)]) (rest := [.int (s0)]) (ctX6_say E.1.2.1 E.2.2.1 h8 _ _ _ _ _ hw) (lw_V q2095 q2096 q2097 q129 q2098) jdX6_say ⟨Nat.le_of_ble_eq_true rfl, Nat.le_of_ble_eq_true rfl⟩ ⟨Nat.zero_le _, Nat.zero_le _⟩ (mIs h8) rfl (Nat.le_of_ble_eq_true rfl) dL_law_919 (fun v5 u9 hk => ?_)
  obtain ⟨m4, e9, hw⟩ := hk
  subst e9
  (try rw [← h6])
  refine j_b0 ?_
  refine j_nw (fun w9 e_w9 => ?_)
  replace hw := hw w9 e_w9
  refine j_icmp_eq hE 1473 dL_law_922 (by decide) (fun c10 => ?_) (fun c10 => ?_)
  · replace hw := hw.1 c10
    have hz := bL_law_1473 hE hn hR hc hst hK ih23 hw
    exact hz
  · replace hw := hw.2 c10
    refine j_iconst hE dL_law_925 kc_0 ?_
    exact jl_iret hE hK dL_law_926 rfl hw
def wL_law_895 (c : Nat → Option Nat) (x0 : Nat) (x1 : Nat) (x2 : Nat) (x3 : Nat) (x4 : Int32) (s0 : Nat) (s1 : Int32) (s2 : Int32) (w : GW) (bb : Nat × Nat) (KL23 : Int32 × GW × (Nat × Nat) → Prop) (K : Int32 → GW → Prop) : Prop :=
  gmc w s0 = some 0 ∧ (wX1_say c s0 s1 s2 w (fun r1 w3 => ∃ (n4 : Nat) (f5 : Nat → Int32), gai w3 x0 0 = some (n4, f5) ∧ vp_in (x4 + ((1 : Int32))) n4 ∧ (∃ (n8 : Nat) (f9 : Nat → Int32), gai w3 x0 0 = some (n8, f9) ∧ vp_in (x4 + (nI 2)) n8 ∧ (((rd f9 (x4 + (nI 2))) = 0 → (wL_law_919 c x0 x1 x2 x3 x4 r1 x2 (rd f5 (x4 + ((1 : Int32)))) ((0 : Int32)) w3 bb KL23 K)) ∧ (¬ (rd f9 (x4 + (nI 2))) = 0 → (wL_law_919 c x0 x1 x2 x3 x4 r1 x2 (rd f5 (x4 + ((1 : Int32)))) ((1 : Int32)) w3 bb KL23 K))))))
set_option maxRecDepth 100000 in
theorem bL_law_895 {E : jE} (hE : jOk E cL_law RX0) (hn : E.2.2.2.2 = 7) (hR : jRoom E 2230 66818) {c : Nat → Option Nat} (hc : E.2.2.1.2.2.2 = c) (hst : E.1.2.1.stackTraces = false) {K : Int32 → GW → Prop} (hK : jRL E K) {x0 : Nat} {x1 : Nat} {x2 : Nat} {x3 : Nat} {x4 : Int32} {s0 : Nat} {s1 : Int32} {s2 : Int32} {w : GW} {bb : Nat × Nat} {KL23 : Int32 × GW × (Nat × Nat) → Prop} (ih23 : ∀ s : Int32 × GW × (Nat × Nat), KL23 s → J E (s.2.1) (s.2.2) [(0, .ref (x0)), (1, .ref (x1)), (2, .ref (x2)), (3, .ref (x3)), (4, .int (s.1))] 23 []) (hw : wL_law_895 c x0 x1 x2 x3 x4 s0 s1 s2 w bb KL23 K) : J E w bb [(0, .ref (x0)), (1, .ref (x1)), (2, .ref (x2)), (3, .ref (x3)), (4, .int (x4))] 895 [.int (s2), .int (s1), .ref (s0)] := by
  unfold wL_law_895 at hw
  obtain ⟨h2, hw⟩ := hw
  refine jc_i (jr_V hE hR (As := [.int (s1), .int (s2)]) (rest := []) ((ctX1_say E.1.2.1 E.2.2.1 hc _ _ _ _ _ hw) E.2.2.2.1) (lw_V q1432 q1433 q1434 q121 q1435) jdX1_say ⟨Nat.le_of_ble_eq_true rfl, Nat.le_of_ble_eq_true rfl⟩ ⟨Nat.zero_le _, Nat.zero_le _⟩ (gmc_gIs h2 (r := (RX1, TX1, 15)) rfl) rfl (Nat.le_of_ble_eq_true rfl) dL_law_895) (fun r1 w3 hw => ?_)
  refine j_b0 ?_
  refine j_aload_n hE 2 dL_law_898 rfl rfl ?_
  refine j_aload_n hE 0 dL_law_899 rfl rfl ?_
  refine j_iload hE 4 dL_law_900 rfl ?_
  refine j_iconst hE dL_law_902 kc_1 ?_
  refine j_iadd hE dL_law_903 ?_
  obtain ⟨n4, f5, h6, h7, hw⟩ := hw
  refine j_aldI hE h6 h7 dL_law_904 ?_
  refine j_aload_n hE 0 dL_law_905 rfl rfl ?_
  refine j_iload hE 4 dL_law_906 rfl ?_
  refine j_iconst hE dL_law_908 kc_2 ?_
  refine j_iadd hE dL_law_909 ?_
  obtain ⟨n8, f9, h10, h11, hw⟩ := hw
  refine j_aldI hE h10 h11 dL_law_910 ?_
  refine j_if_eq hE 918 dL_law_911 (by decide) (fun c12 => ?_) (fun c12 => ?_)
  · replace hw := hw.1 c12
    refine j_iconst hE dL_law_918 kc_0 ?_
    have hz := bL_law_919 hE hn hR hc hst hK ih23 hw
    exact hz
  · replace hw := hw.2 c12
    refine j_iconst hE dL_law_914 kc_1 ?_
    refine j_goto hE 919 dL_law_915 (by decide) ?_
    have hz := bL_law_919 hE hn hR hc hst hK ih23 hw
    exact hz
def wL_law_874 (c : Nat → Option Nat) (x0 : Nat) (x1 : Nat) (x2 : Nat) (x3 : Nat) (x4 : Int32) (w : GW) (bb : Nat × Nat) (KL23 : Int32 × GW × (Nat × Nat) → Prop) (K : Int32 → GW → Prop) : Prop :=
  ∃ (n1 : Nat) (f2 : Nat → Int32), gai w x0 0 = some (n1, f2) ∧ vp_in (x4 + ((1 : Int32))) n1 ∧ (∃ (n5 : Nat) (f6 : Nat → Int32), gai w x0 0 = some (n5, f6) ∧ vp_in (x4 + (nI 2)) n5 ∧ (((rd f6 (x4 + (nI 2))) = 0 → (wL_law_895 c x0 x1 x2 x3 x4 x1 (rd f2 (x4 + ((1 : Int32)))) ((0 : Int32)) w bb KL23 K)) ∧ (¬ (rd f6 (x4 + (nI 2))) = 0 → (wL_law_895 c x0 x1 x2 x3 x4 x1 (rd f2 (x4 + ((1 : Int32)))) ((1 : Int32)) w bb KL23 K))))
set_option maxRecDepth 100000 in
theorem bL_law_874 {E : jE} (hE : jOk E cL_law RX0) (hn : E.2.2.2.2 = 7) (hR : jRoom E 2230 66818) {c : Nat → Option Nat} (hc : E.2.2.1.2.2.2 = c) (hst : E.1.2.1.stackTraces = false) {K : Int32 → GW → Prop} (hK : jRL E K) {x0 : Nat} {x1 : Nat} {x2 : Nat} {x3 : Nat} {x4 : Int32} {w : GW} {bb : Nat × Nat} {KL23 : Int32 × GW × (Nat × Nat) → Prop} (ih23 : ∀ s : Int32 × GW × (Nat × Nat), KL23 s → J E (s.2.1) (s.2.2) [(0, .ref (x0)), (1, .ref (x1)), (2, .ref (x2)), (3, .ref (x3)), (4, .int (s.1))] 23 []) (hw : wL_law_874 c x0 x1 x2 x3 x4 w bb KL23 K) : J E w bb [(0, .ref (x0)), (1, .ref (x1)), (2, .ref (x2)), (3, .ref (x3)), (4, .int (x4))] 874 [] := by
  unfold wL_law_874 at hw
  refine j_aload_n hE 1 dL_law_874 rfl rfl ?_
  refine j_aload_n hE 0 dL_law_875 rfl rfl ?_
  refine j_iload hE 4 dL_law_876 rfl ?_
  refine j_iconst hE dL_law_878 kc_1 ?_
  refine j_iadd hE dL_law_879 ?_
  obtain ⟨n1, f2, h3, h4, hw⟩ := hw
  refine j_aldI hE h3 h4 dL_law_880 ?_
  refine j_aload_n hE 0 dL_law_881 rfl rfl ?_
  refine j_iload hE 4 dL_law_882 rfl ?_
  refine j_iconst hE dL_law_884 kc_2 ?_
  refine j_iadd hE dL_law_885 ?_
  obtain ⟨n5, f6, h7, h8, hw⟩ := hw
  refine j_aldI hE h7 h8 dL_law_886 ?_
  refine j_if_eq hE 894 dL_law_887 (by decide) (fun c9 => ?_) (fun c9 => ?_)
  · replace hw := hw.1 c9
    refine j_iconst hE dL_law_894 kc_0 ?_
    have hz := bL_law_895 hE hn hR hc hst hK ih23 hw
    exact hz
  · replace hw := hw.2 c9
    refine j_iconst hE dL_law_890 kc_1 ?_
    refine j_goto hE 895 dL_law_891 (by decide) ?_
    have hz := bL_law_895 hE hn hR hc hst hK ih23 hw
    exact hz
def wL_law_927 (c : Nat → Option Nat) (x0 : Nat) (x1 : Nat) (x2 : Nat) (x3 : Nat) (x4 : Int32) (w : GW) (bb : Nat × Nat) (KL23 : Int32 × GW × (Nat × Nat) → Prop) (K : Int32 → GW → Prop) : Prop :=
  gmc w x1 = some 0 ∧ (wX1_where c x1 w (fun r1 => ∃ (ad3 : Nat → Nat) (m4 : MS) (r5 : GW), adOk ad3 ∧ w = mwX ad3 m4 r5 ∧ x2 = ad3 0 ∧ wX6_where  m4 (fun v7 m6 => ∀ w11 : GW, w11 = mwX ad3 m6 r5 → ((r1 = v7 → (wL_law_1473 c x0 x1 x2 x3 x4 w11 bb KL23 K)) ∧ (¬ r1 = v7 → (K ((0 : Int32)) w11))))))
set_option maxRecDepth 100000 in
theorem bL_law_927 {E : jE} (hE : jOk E cL_law RX0) (hn : E.2.2.2.2 = 7) (hR : jRoom E 2230 66818) {c : Nat → Option Nat} (hc : E.2.2.1.2.2.2 = c) (hst : E.1.2.1.stackTraces = false) {K : Int32 → GW → Prop} (hK : jRL E K) {x0 : Nat} {x1 : Nat} {x2 : Nat} {x3 : Nat} {x4 : Int32} {w : GW} {bb : Nat × Nat} {KL23 : Int32 × GW × (Nat × Nat) → Prop} (ih23 : ∀ s : Int32 × GW × (Nat × Nat), KL23 s → J E (s.2.1) (s.2.2) [(0, .ref (x0)), (1, .ref (x1)), (2, .ref (x2)), (3, .ref (x3)), (4, .int (s.1))] 23 []) (hw : wL_law_927 c x0 x1 x2 x3 x4 w bb KL23 K) : J E w bb [(0, .ref (x0)), (1, .ref (x1)), (2, .ref (x2)), (3, .ref (x3)), (4, .int (x4))] 927 [] := by
  unfold wL_law_927 at hw
  refine j_aload_n hE 1 dL_law_927 rfl rfl ?_
  obtain ⟨h2, hw⟩ := hw
  refine jc_ip (jr_V hE hR (As := []) (rest := []) ((ctX1_where E.1.2.1 E.2.2.1 hc _ _ _ hw) E.2.2.2.1) (lw_V q1436 q1437 q1438 q121 q1439) jdX1_where ⟨Nat.le_of_ble_eq_true rfl, Nat.le_of_ble_eq_true rfl⟩ ⟨Nat.zero_le _, Nat.zero_le _⟩ (gmc_gIs h2 (r := (RX1, TX1, 15)) rfl) rfl (Nat.le_of_ble_eq_true rfl) dL_law_928) (fun r1 hw => ?_)
  refine j_b0 ?_
  refine j_aload_n hE 2 dL_law_931 rfl rfl ?_
  obtain ⟨ad3, m4, r5, h10, h9, h8, hw⟩ := hw
  rw [h9, h8]
  refine j_cvI hE hR (As := []) (rest := [.int (r1)]) (ctX6_where E.1.2.1 E.2.2.1 h10 _ _ _ hw) (lw_V q2099 q2100 q2101 q129 q2102) jdX6_where ⟨Nat.le_of_ble_eq_true rfl, Nat.le_of_ble_eq_true rfl⟩ ⟨Nat.zero_le _, Nat.zero_le _⟩ (mIs h10) rfl (Nat.le_of_ble_eq_true rfl) dL_law_932 (fun v7 u9 hk => ?_)
  obtain ⟨m6, e9, hw⟩ := hk
  subst e9
  (try rw [← h8])
  refine j_b0 ?_
  refine j_nw (fun w11 e_w11 => ?_)
  replace hw := hw w11 e_w11
  refine j_icmp_eq hE 1473 dL_law_935 (by decide) (fun c12 => ?_) (fun c12 => ?_)
  · replace hw := hw.1 c12
    have hz := bL_law_1473 hE hn hR hc hst hK ih23 hw
    exact hz
  · replace hw := hw.2 c12
    refine j_iconst hE dL_law_938 kc_0 ?_
    exact jl_iret hE hK dL_law_939 rfl hw
def wL_law_940 (c : Nat → Option Nat) (x0 : Nat) (x1 : Nat) (x2 : Nat) (x3 : Nat) (x4 : Int32) (w : GW) (bb : Nat × Nat) (KL23 : Int32 × GW × (Nat × Nat) → Prop) (K : Int32 → GW → Prop) : Prop :=
  gmc w x1 = some 0 ∧ (wX1_ask c x1 w (fun r1 => ∃ (ad3 : Nat → Nat) (m4 : MS) (r5 : GW), adOk ad3 ∧ w = mwX ad3 m4 r5 ∧ x2 = ad3 0 ∧ wX6_ask  m4 (fun v7 m6 => ∀ w11 : GW, w11 = mwX ad3 m6 r5 → ((r1 = v7 → (wL_law_1473 c x0 x1 x2 x3 x4 w11 bb KL23 K)) ∧ (¬ r1 = v7 → (K ((0 : Int32)) w11))))))
set_option maxRecDepth 100000 in
theorem bL_law_940 {E : jE} (hE : jOk E cL_law RX0) (hn : E.2.2.2.2 = 7) (hR : jRoom E 2230 66818) {c : Nat → Option Nat} (hc : E.2.2.1.2.2.2 = c) (hst : E.1.2.1.stackTraces = false) {K : Int32 → GW → Prop} (hK : jRL E K) {x0 : Nat} {x1 : Nat} {x2 : Nat} {x3 : Nat} {x4 : Int32} {w : GW} {bb : Nat × Nat} {KL23 : Int32 × GW × (Nat × Nat) → Prop} (ih23 : ∀ s : Int32 × GW × (Nat × Nat), KL23 s → J E (s.2.1) (s.2.2) [(0, .ref (x0)), (1, .ref (x1)), (2, .ref (x2)), (3, .ref (x3)), (4, .int (s.1))] 23 []) (hw : wL_law_940 c x0 x1 x2 x3 x4 w bb KL23 K) : J E w bb [(0, .ref (x0)), (1, .ref (x1)), (2, .ref (x2)), (3, .ref (x3)), (4, .int (x4))] 940 [] := by
  unfold wL_law_940 at hw
  refine j_aload_n hE 1 dL_law_940 rfl rfl ?_
  obtain ⟨h2, hw⟩ := hw
  refine jc_ip (jr_V hE hR (As := []) (rest := []) ((ctX1_ask E.1.2.1 E.2.2.1 hc _ _ _ hw) E.2.2.2.1) (lw_V q1440 q1441 q1442 q121 q1443) jdX1_ask ⟨Nat.le_of_ble_eq_true rfl, Nat.le_of_ble_eq_true rfl⟩ ⟨Nat.zero_le _, Nat.zero_le _⟩ (gmc_gIs h2 (r := (RX1, TX1, 15)) rfl) rfl (Nat.le_of_ble_eq_true rfl) dL_law_941) (fun r1 hw => ?_)
  refine j_b0 ?_
  refine j_aload_n hE 2 dL_law_944 rfl rfl ?_
  obtain ⟨ad3, m4, r5, h10, h9, h8, hw⟩ := hw
  rw [h9, h8]
  refine j_cvI hE hR (As := []) (rest := [.int (r1)]) (ctX6_ask E.1.2.1 E.2.2.1 h10 _ _ _ hw) (lw_V q2107 q2108 q2109 q129 q2110) jdX6_ask ⟨Nat.le_of_ble_eq_true rfl, Nat.le_of_ble_eq_true rfl⟩ ⟨Nat.zero_le _, Nat.zero_le _⟩ (mIs h10) rfl (Nat.le_of_ble_eq_true rfl) dL_law_945 (fun v7 u9 hk => ?_)
  obtain ⟨m6, e9, hw⟩ := hk
  subst e9
  (try rw [← h8])
  refine j_b0 ?_
  refine j_nw (fun w11 e_w11 => ?_)
  replace hw := hw w11 e_w11
  refine j_icmp_eq hE 1473 dL_law_948 (by decide) (fun c12 => ?_) (fun c12 => ?_)
  · replace hw := hw.1 c12
    have hz := bL_law_1473 hE hn hR hc hst hK ih23 hw
    exact hz
  · replace hw := hw.2 c12
    refine j_iconst hE dL_law_951 kc_0 ?_
    exact jl_iret hE hK dL_law_952 rfl hw
def wL_law_953 (c : Nat → Option Nat) (x0 : Nat) (x1 : Nat) (x2 : Nat) (x3 : Nat) (x4 : Int32) (w : GW) (bb : Nat × Nat) (KL23 : Int32 × GW × (Nat × Nat) → Prop) (K : Int32 → GW → Prop) : Prop :=
  ∃ (n1 : Nat) (f2 : Nat → Int32), gai w x0 0 = some (n1, f2) ∧ vp_in (x4 + ((1 : Int32))) n1 ∧ (gmc w x1 = some 0 ∧ (wX1_memory c x1 (rd f2 (x4 + ((1 : Int32)))) w (fun r5 => ∃ (n7 : Nat) (f8 : Nat → Int32), gai w x0 0 = some (n7, f8) ∧ vp_in (x4 + ((1 : Int32))) n7 ∧ (∃ (ad11 : Nat → Nat) (m12 : MS) (r13 : GW), adOk ad11 ∧ w = mwX ad11 m12 r13 ∧ x2 = ad11 0 ∧ wX6_memory (rd f8 (x4 + ((1 : Int32)))) m12 (fun v15 m14 => ∀ w19 : GW, w19 = mwX ad11 m14 r13 → ((r5 = v15 → (wL_law_1473 c x0 x1 x2 x3 x4 w19 bb KL23 K)) ∧ (¬ r5 = v15 → (K ((0 : Int32)) w19))))))))
set_option maxRecDepth 100000 in
theorem bL_law_953 {E : jE} (hE : jOk E cL_law RX0) (hn : E.2.2.2.2 = 7) (hR : jRoom E 2230 66818) {c : Nat → Option Nat} (hc : E.2.2.1.2.2.2 = c) (hst : E.1.2.1.stackTraces = false) {K : Int32 → GW → Prop} (hK : jRL E K) {x0 : Nat} {x1 : Nat} {x2 : Nat} {x3 : Nat} {x4 : Int32} {w : GW} {bb : Nat × Nat} {KL23 : Int32 × GW × (Nat × Nat) → Prop} (ih23 : ∀ s : Int32 × GW × (Nat × Nat), KL23 s → J E (s.2.1) (s.2.2) [(0, .ref (x0)), (1, .ref (x1)), (2, .ref (x2)), (3, .ref (x3)), (4, .int (s.1))] 23 []) (hw : wL_law_953 c x0 x1 x2 x3 x4 w bb KL23 K) : J E w bb [(0, .ref (x0)), (1, .ref (x1)), (2, .ref (x2)), (3, .ref (x3)), (4, .int (x4))] 953 [] := by
  unfold wL_law_953 at hw
  refine j_aload_n hE 1 dL_law_953 rfl rfl ?_
  refine j_aload_n hE 0 dL_law_954 rfl rfl ?_
  refine j_iload hE 4 dL_law_955 rfl ?_
  refine j_iconst hE dL_law_957 kc_1 ?_
  refine j_iadd hE dL_law_958 ?_
  obtain ⟨n1, f2, h3, h4, hw⟩ := hw
  refine j_aldI hE h3 h4 dL_law_959 ?_
  obtain ⟨h6, hw⟩ := hw
  refine jc_ip (jr_V hE hR (As := [.int (rd f2 (x4 + ((1 : Int32))))]) (rest := []) ((ctX1_memory E.1.2.1 E.2.2.1 hc _ _ _ _ hw) E.2.2.2.1) (lw_V q1402 q1403 q1404 q121 q1405) jdX1_memory ⟨Nat.le_of_ble_eq_true rfl, Nat.le_of_ble_eq_true rfl⟩ ⟨Nat.zero_le _, Nat.zero_le _⟩ (gmc_gIs h6 (r := (RX1, TX1, 15)) rfl) rfl (Nat.le_of_ble_eq_true rfl) dL_law_960) (fun r5 hw => ?_)
  refine j_b0 ?_
  refine j_aload_n hE 2 dL_law_963 rfl rfl ?_
  refine j_aload_n hE 0 dL_law_964 rfl rfl ?_
  refine j_iload hE 4 dL_law_965 rfl ?_
  refine j_iconst hE dL_law_967 kc_1 ?_
  refine j_iadd hE dL_law_968 ?_
  obtain ⟨n7, f8, h9, h10, hw⟩ := hw
  refine j_aldI hE h9 h10 dL_law_969 ?_
  obtain ⟨ad11, m12, r13, h18, h17, h16, hw⟩ := hw
  rw [h17, h16]
  refine j_cvI hE hR (As := [.int (rd f8 (x4 + ((1 : Int32))))]) (rest := [.int (r5)]) (ctX6_memory E.1.2.1 E.2.2.1 h18 _ _ _ _ hw) (lw_V q2048 q2049 q2050 q129 q2051) jdX6_memory ⟨Nat.le_of_ble_eq_true rfl, Nat.le_of_ble_eq_true rfl⟩ ⟨Nat.zero_le _, Nat.zero_le _⟩ (mIs h18) rfl (Nat.le_of_ble_eq_true rfl) dL_law_970 (fun v15 u9 hk => ?_)
  obtain ⟨m14, e9, hw⟩ := hk
  subst e9
  (try rw [← h16])
  refine j_b0 ?_
  refine j_nw (fun w19 e_w19 => ?_)
  replace hw := hw w19 e_w19
  refine j_icmp_eq hE 1473 dL_law_973 (by decide) (fun c20 => ?_) (fun c20 => ?_)
  · replace hw := hw.1 c20
    have hz := bL_law_1473 hE hn hR hc hst hK ih23 hw
    exact hz
  · replace hw := hw.2 c20
    refine j_iconst hE dL_law_976 kc_0 ?_
    exact jl_iret hE hK dL_law_977 rfl hw
def wL_law_978 (c : Nat → Option Nat) (x0 : Nat) (x1 : Nat) (x2 : Nat) (x3 : Nat) (x4 : Int32) (w : GW) (bb : Nat × Nat) (KL23 : Int32 × GW × (Nat × Nat) → Prop) (K : Int32 → GW → Prop) : Prop :=
  ∃ (n1 : Nat) (f2 : Nat → Int32), gai w x0 0 = some (n1, f2) ∧ vp_in (x4 + ((1 : Int32))) n1 ∧ (gmc w x1 = some 0 ∧ (wX1_glass c x1 (rd f2 (x4 + ((1 : Int32)))) w (fun r5 => ∃ (n7 : Nat) (f8 : Nat → Int32), gai w x0 0 = some (n7, f8) ∧ vp_in (x4 + ((1 : Int32))) n7 ∧ (∃ (ad11 : Nat → Nat) (m12 : MS) (r13 : GW), adOk ad11 ∧ w = mwX ad11 m12 r13 ∧ x2 = ad11 0 ∧ wX6_glass (rd f8 (x4 + ((1 : Int32)))) m12 (fun v15 m14 => ∀ w19 : GW, w19 = mwX ad11 m14 r13 → ((r5 = v15 → (wL_law_1473 c x0 x1 x2 x3 x4 w19 bb KL23 K)) ∧ (¬ r5 = v15 → (K ((0 : Int32)) w19))))))))
set_option maxRecDepth 100000 in
theorem bL_law_978 {E : jE} (hE : jOk E cL_law RX0) (hn : E.2.2.2.2 = 7) (hR : jRoom E 2230 66818) {c : Nat → Option Nat} (hc : E.2.2.1.2.2.2 = c) (hst : E.1.2.1.stackTraces = false) {K : Int32 → GW → Prop} (hK : jRL E K) {x0 : Nat} {x1 : Nat} {x2 : Nat} {x3 : Nat} {x4 : Int32} {w : GW} {bb : Nat × Nat} {KL23 : Int32 × GW × (Nat × Nat) → Prop} (ih23 : ∀ s : Int32 × GW × (Nat × Nat), KL23 s → J E (s.2.1) (s.2.2) [(0, .ref (x0)), (1, .ref (x1)), (2, .ref (x2)), (3, .ref (x3)), (4, .int (s.1))] 23 []) (hw : wL_law_978 c x0 x1 x2 x3 x4 w bb KL23 K) : J E w bb [(0, .ref (x0)), (1, .ref (x1)), (2, .ref (x2)), (3, .ref (x3)), (4, .int (x4))] 978 [] := by
  unfold wL_law_978 at hw
  refine j_aload_n hE 1 dL_law_978 rfl rfl ?_
  refine j_aload_n hE 0 dL_law_979 rfl rfl ?_
  refine j_iload hE 4 dL_law_980 rfl ?_
  refine j_iconst hE dL_law_982 kc_1 ?_
  refine j_iadd hE dL_law_983 ?_
  obtain ⟨n1, f2, h3, h4, hw⟩ := hw
  refine j_aldI hE h3 h4 dL_law_984 ?_
  obtain ⟨h6, hw⟩ := hw
  refine jc_ip (jr_V hE hR (As := [.int (rd f2 (x4 + ((1 : Int32))))]) (rest := []) ((ctX1_glass E.1.2.1 E.2.2.1 hc _ _ _ _ hw) E.2.2.2.1) (lw_V q1445 q1446 q1447 q121 q1448) jdX1_glass ⟨Nat.le_of_ble_eq_true rfl, Nat.le_of_ble_eq_true rfl⟩ ⟨Nat.zero_le _, Nat.zero_le _⟩ (gmc_gIs h6 (r := (RX1, TX1, 15)) rfl) rfl (Nat.le_of_ble_eq_true rfl) dL_law_985) (fun r5 hw => ?_)
  refine j_b0 ?_
  refine j_aload_n hE 2 dL_law_988 rfl rfl ?_
  refine j_aload_n hE 0 dL_law_989 rfl rfl ?_
  refine j_iload hE 4 dL_law_990 rfl ?_
  refine j_iconst hE dL_law_992 kc_1 ?_
  refine j_iadd hE dL_law_993 ?_
  obtain ⟨n7, f8, h9, h10, hw⟩ := hw
  refine j_aldI hE h9 h10 dL_law_994 ?_
  obtain ⟨ad11, m12, r13, h18, h17, h16, hw⟩ := hw
  rw [h17, h16]
  refine j_cvI hE hR (As := [.int (rd f8 (x4 + ((1 : Int32))))]) (rest := [.int (r5)]) (ctX6_glass E.1.2.1 E.2.2.1 h18 _ _ _ _ hw) (lw_V q2111 q2112 q2113 q129 q2114) jdX6_glass ⟨Nat.le_of_ble_eq_true rfl, Nat.le_of_ble_eq_true rfl⟩ ⟨Nat.zero_le _, Nat.zero_le _⟩ (mIs h18) rfl (Nat.le_of_ble_eq_true rfl) dL_law_995 (fun v15 u9 hk => ?_)
  obtain ⟨m14, e9, hw⟩ := hk
  subst e9
  (try rw [← h16])
  refine j_b0 ?_
  refine j_nw (fun w19 e_w19 => ?_)
  replace hw := hw w19 e_w19
  refine j_icmp_eq hE 1473 dL_law_998 (by decide) (fun c20 => ?_) (fun c20 => ?_)
  · replace hw := hw.1 c20
    have hz := bL_law_1473 hE hn hR hc hst hK ih23 hw
    exact hz
  · replace hw := hw.2 c20
    refine j_iconst hE dL_law_1001 kc_0 ?_
    exact jl_iret hE hK dL_law_1002 rfl hw
def wL_law_1003 (c : Nat → Option Nat) (x0 : Nat) (x1 : Nat) (x2 : Nat) (x3 : Nat) (x4 : Int32) (w : GW) (bb : Nat × Nat) (KL23 : Int32 × GW × (Nat × Nat) → Prop) (K : Int32 → GW → Prop) : Prop :=
  ∃ (n1 : Nat) (f2 : Nat → Int32), gai w x0 0 = some (n1, f2) ∧ vp_in (x4 + ((1 : Int32))) n1 ∧ (gmc w x1 = some 0 ∧ (wX1_seen c x1 (rd f2 (x4 + ((1 : Int32)))) w (fun r5 => ∃ (n7 : Nat) (f8 : Nat → Int32), gai w x0 0 = some (n7, f8) ∧ vp_in (x4 + ((1 : Int32))) n7 ∧ (∃ (ad11 : Nat → Nat) (m12 : MS) (r13 : GW), adOk ad11 ∧ w = mwX ad11 m12 r13 ∧ x2 = ad11 0 ∧ wX6_seen (rd f8 (x4 + ((1 : Int32)))) m12 (fun v15 m14 => ∀ w19 : GW, w19 = mwX ad11 m14 r13 → ((r5 = v15 → (wL_law_1473 c x0 x1 x2 x3 x4 w19 bb KL23 K)) ∧ (¬ r5 = v15 → (K ((0 : Int32)) w19))))))))
set_option maxRecDepth 100000 in
theorem bL_law_1003 {E : jE} (hE : jOk E cL_law RX0) (hn : E.2.2.2.2 = 7) (hR : jRoom E 2230 66818) {c : Nat → Option Nat} (hc : E.2.2.1.2.2.2 = c) (hst : E.1.2.1.stackTraces = false) {K : Int32 → GW → Prop} (hK : jRL E K) {x0 : Nat} {x1 : Nat} {x2 : Nat} {x3 : Nat} {x4 : Int32} {w : GW} {bb : Nat × Nat} {KL23 : Int32 × GW × (Nat × Nat) → Prop} (ih23 : ∀ s : Int32 × GW × (Nat × Nat), KL23 s → J E (s.2.1) (s.2.2) [(0, .ref (x0)), (1, .ref (x1)), (2, .ref (x2)), (3, .ref (x3)), (4, .int (s.1))] 23 []) (hw : wL_law_1003 c x0 x1 x2 x3 x4 w bb KL23 K) : J E w bb [(0, .ref (x0)), (1, .ref (x1)), (2, .ref (x2)), (3, .ref (x3)), (4, .int (x4))] 1003 [] := by
  unfold wL_law_1003 at hw
  refine j_aload_n hE 1 dL_law_1003 rfl rfl ?_
  refine j_aload_n hE 0 dL_law_1004 rfl rfl ?_
  refine j_iload hE 4 dL_law_1005 rfl ?_
  refine j_iconst hE dL_law_1007 kc_1 ?_
  refine j_iadd hE dL_law_1008 ?_
  obtain ⟨n1, f2, h3, h4, hw⟩ := hw
  refine j_aldI hE h3 h4 dL_law_1009 ?_
  obtain ⟨h6, hw⟩ := hw
  refine jc_ip (jr_V hE hR (As := [.int (rd f2 (x4 + ((1 : Int32))))]) (rest := []) ((ctX1_seen E.1.2.1 E.2.2.1 hc _ _ _ _ hw) E.2.2.2.1) (lw_V q1449 q1450 q1451 q121 q1452) jdX1_seen ⟨Nat.le_of_ble_eq_true rfl, Nat.le_of_ble_eq_true rfl⟩ ⟨Nat.zero_le _, Nat.zero_le _⟩ (gmc_gIs h6 (r := (RX1, TX1, 15)) rfl) rfl (Nat.le_of_ble_eq_true rfl) dL_law_1010) (fun r5 hw => ?_)
  refine j_b0 ?_
  refine j_aload_n hE 2 dL_law_1013 rfl rfl ?_
  refine j_aload_n hE 0 dL_law_1014 rfl rfl ?_
  refine j_iload hE 4 dL_law_1015 rfl ?_
  refine j_iconst hE dL_law_1017 kc_1 ?_
  refine j_iadd hE dL_law_1018 ?_
  obtain ⟨n7, f8, h9, h10, hw⟩ := hw
  refine j_aldI hE h9 h10 dL_law_1019 ?_
  obtain ⟨ad11, m12, r13, h18, h17, h16, hw⟩ := hw
  rw [h17, h16]
  refine j_cvI hE hR (As := [.int (rd f8 (x4 + ((1 : Int32))))]) (rest := [.int (r5)]) (ctX6_seen E.1.2.1 E.2.2.1 h18 _ _ _ _ hw) (lw_V q2119 q2120 q2121 q129 q2122) jdX6_seen ⟨Nat.le_of_ble_eq_true rfl, Nat.le_of_ble_eq_true rfl⟩ ⟨Nat.zero_le _, Nat.zero_le _⟩ (mIs h18) rfl (Nat.le_of_ble_eq_true rfl) dL_law_1020 (fun v15 u9 hk => ?_)
  obtain ⟨m14, e9, hw⟩ := hk
  subst e9
  (try rw [← h16])
  refine j_b0 ?_
  refine j_nw (fun w19 e_w19 => ?_)
  replace hw := hw w19 e_w19
  refine j_icmp_eq hE 1473 dL_law_1023 (by decide) (fun c20 => ?_) (fun c20 => ?_)
  · replace hw := hw.1 c20
    have hz := bL_law_1473 hE hn hR hc hst hK ih23 hw
    exact hz
  · replace hw := hw.2 c20
    refine j_iconst hE dL_law_1026 kc_0 ?_
    exact jl_iret hE hK dL_law_1027 rfl hw
def wL_law_1028 (c : Nat → Option Nat) (x0 : Nat) (x1 : Nat) (x2 : Nat) (x3 : Nat) (x4 : Int32) (w : GW) (bb : Nat × Nat) (KL23 : Int32 × GW × (Nat × Nat) → Prop) (K : Int32 → GW → Prop) : Prop :=
  gmc w x1 = some 0 ∧ (wX1_eyes c x1 w (fun r1 => ∃ (ad3 : Nat → Nat) (m4 : MS) (r5 : GW), adOk ad3 ∧ w = mwX ad3 m4 r5 ∧ x2 = ad3 0 ∧ wX6_eyes  m4 (fun v7 m6 => ∀ w11 : GW, w11 = mwX ad3 m6 r5 → ((r1 = v7 → (wL_law_1473 c x0 x1 x2 x3 x4 w11 bb KL23 K)) ∧ (¬ r1 = v7 → (K ((0 : Int32)) w11))))))
set_option maxRecDepth 100000 in
theorem bL_law_1028 {E : jE} (hE : jOk E cL_law RX0) (hn : E.2.2.2.2 = 7) (hR : jRoom E 2230 66818) {c : Nat → Option Nat} (hc : E.2.2.1.2.2.2 = c) (hst : E.1.2.1.stackTraces = false) {K : Int32 → GW → Prop} (hK : jRL E K) {x0 : Nat} {x1 : Nat} {x2 : Nat} {x3 : Nat} {x4 : Int32} {w : GW} {bb : Nat × Nat} {KL23 : Int32 × GW × (Nat × Nat) → Prop} (ih23 : ∀ s : Int32 × GW × (Nat × Nat), KL23 s → J E (s.2.1) (s.2.2) [(0, .ref (x0)), (1, .ref (x1)), (2, .ref (x2)), (3, .ref (x3)), (4, .int (s.1))] 23 []) (hw : wL_law_1028 c x0 x1 x2 x3 x4 w bb KL23 K) : J E w bb [(0, .ref (x0)), (1, .ref (x1)), (2, .ref (x2)), (3, .ref (x3)), (4, .int (x4))] 1028 [] := by
  unfold wL_law_1028 at hw
  refine j_aload_n hE 1 dL_law_1028 rfl rfl ?_
  obtain ⟨h2, hw⟩ := hw
  refine jc_ip (jr_V hE hR (As := []) (rest := []) ((ctX1_eyes E.1.2.1 E.2.2.1 hc _ _ _ hw) E.2.2.2.1) (lw_V q1453 q1454 q1455 q121 q1456) jdX1_eyes ⟨Nat.le_of_ble_eq_true rfl, Nat.le_of_ble_eq_true rfl⟩ ⟨Nat.zero_le _, Nat.zero_le _⟩ (gmc_gIs h2 (r := (RX1, TX1, 15)) rfl) rfl (Nat.le_of_ble_eq_true rfl) dL_law_1029) (fun r1 hw => ?_)
  refine j_b0 ?_
  refine j_aload_n hE 2 dL_law_1032 rfl rfl ?_
  obtain ⟨ad3, m4, r5, h10, h9, h8, hw⟩ := hw
  rw [h9, h8]
  refine j_cvI hE hR (As := []) (rest := [.int (r1)]) (ctX6_eyes E.1.2.1 E.2.2.1 h10 _ _ _ hw) (lw_V q2123 q2124 q2125 q129 q2126) jdX6_eyes ⟨Nat.le_of_ble_eq_true rfl, Nat.le_of_ble_eq_true rfl⟩ ⟨Nat.zero_le _, Nat.zero_le _⟩ (mIs h10) rfl (Nat.le_of_ble_eq_true rfl) dL_law_1033 (fun v7 u9 hk => ?_)
  obtain ⟨m6, e9, hw⟩ := hk
  subst e9
  (try rw [← h8])
  refine j_b0 ?_
  refine j_nw (fun w11 e_w11 => ?_)
  replace hw := hw w11 e_w11
  refine j_icmp_eq hE 1473 dL_law_1036 (by decide) (fun c12 => ?_) (fun c12 => ?_)
  · replace hw := hw.1 c12
    have hz := bL_law_1473 hE hn hR hc hst hK ih23 hw
    exact hz
  · replace hw := hw.2 c12
    refine j_iconst hE dL_law_1039 kc_0 ?_
    exact jl_iret hE hK dL_law_1040 rfl hw
def wL_law_1041 (c : Nat → Option Nat) (x0 : Nat) (x1 : Nat) (x2 : Nat) (x3 : Nat) (x4 : Int32) (w : GW) (bb : Nat × Nat) (KL23 : Int32 × GW × (Nat × Nat) → Prop) (K : Int32 → GW → Prop) : Prop :=
  gmc w x1 = some 0 ∧ (wX1_blind c x1 w (fun r1 => ∃ (ad3 : Nat → Nat) (m4 : MS) (r5 : GW), adOk ad3 ∧ w = mwX ad3 m4 r5 ∧ x2 = ad3 0 ∧ wX6_blind  m4 (fun v7 m6 => ∀ w11 : GW, w11 = mwX ad3 m6 r5 → ((r1 = v7 → (wL_law_1473 c x0 x1 x2 x3 x4 w11 bb KL23 K)) ∧ (¬ r1 = v7 → (K ((0 : Int32)) w11))))))
set_option maxRecDepth 100000 in
theorem bL_law_1041 {E : jE} (hE : jOk E cL_law RX0) (hn : E.2.2.2.2 = 7) (hR : jRoom E 2230 66818) {c : Nat → Option Nat} (hc : E.2.2.1.2.2.2 = c) (hst : E.1.2.1.stackTraces = false) {K : Int32 → GW → Prop} (hK : jRL E K) {x0 : Nat} {x1 : Nat} {x2 : Nat} {x3 : Nat} {x4 : Int32} {w : GW} {bb : Nat × Nat} {KL23 : Int32 × GW × (Nat × Nat) → Prop} (ih23 : ∀ s : Int32 × GW × (Nat × Nat), KL23 s → J E (s.2.1) (s.2.2) [(0, .ref (x0)), (1, .ref (x1)), (2, .ref (x2)), (3, .ref (x3)), (4, .int (s.1))] 23 []) (hw : wL_law_1041 c x0 x1 x2 x3 x4 w bb KL23 K) : J E w bb [(0, .ref (x0)), (1, .ref (x1)), (2, .ref (x2)), (3, .ref (x3)), (4, .int (x4))] 1041 [] := by
  unfold wL_law_1041 at hw
  refine j_aload_n hE 1 dL_law_1041 rfl rfl ?_
  obtain ⟨h2, hw⟩ := hw
  refine jc_ip (jr_V hE hR (As := []) (rest := []) ((ctX1_blind E.1.2.1 E.2.2.1 hc _ _ _ hw) E.2.2.2.1) (lw_V q1457 q1458 q1459 q121 q1460) jdX1_blind ⟨Nat.le_of_ble_eq_true rfl, Nat.le_of_ble_eq_true rfl⟩ ⟨Nat.zero_le _, Nat.zero_le _⟩ (gmc_gIs h2 (r := (RX1, TX1, 15)) rfl) rfl (Nat.le_of_ble_eq_true rfl) dL_law_1042) (fun r1 hw => ?_)
  refine j_b0 ?_
  refine j_aload_n hE 2 dL_law_1045 rfl rfl ?_
  obtain ⟨ad3, m4, r5, h10, h9, h8, hw⟩ := hw
  rw [h9, h8]
  refine j_cvI hE hR (As := []) (rest := [.int (r1)]) (ctX6_blind E.1.2.1 E.2.2.1 h10 _ _ _ hw) (lw_V q2127 q2128 q2129 q129 q2130) jdX6_blind ⟨Nat.le_of_ble_eq_true rfl, Nat.le_of_ble_eq_true rfl⟩ ⟨Nat.zero_le _, Nat.zero_le _⟩ (mIs h10) rfl (Nat.le_of_ble_eq_true rfl) dL_law_1046 (fun v7 u9 hk => ?_)
  obtain ⟨m6, e9, hw⟩ := hk
  subst e9
  (try rw [← h8])
  refine j_b0 ?_
  refine j_nw (fun w11 e_w11 => ?_)
  replace hw := hw w11 e_w11
  refine j_icmp_eq hE 1473 dL_law_1049 (by decide) (fun c12 => ?_) (fun c12 => ?_)
  · replace hw := hw.1 c12
    have hz := bL_law_1473 hE hn hR hc hst hK ih23 hw
    exact hz
  · replace hw := hw.2 c12
    refine j_iconst hE dL_law_1052 kc_0 ?_
    exact jl_iret hE hK dL_law_1053 rfl hw
def wL_law_1054 (c : Nat → Option Nat) (x0 : Nat) (x1 : Nat) (x2 : Nat) (x3 : Nat) (x4 : Int32) (w : GW) (bb : Nat × Nat) (KL23 : Int32 × GW × (Nat × Nat) → Prop) (K : Int32 → GW → Prop) : Prop :=
  ∃ (n1 : Nat) (f2 : Nat → Int32), gai w x0 0 = some (n1, f2) ∧ vp_in (x4 + ((1 : Int32))) n1 ∧ (gmc w x1 = some 0 ∧ (wX1_young c x1 (rd f2 (x4 + ((1 : Int32)))) w (fun r5 => ∃ (n7 : Nat) (f8 : Nat → Int32), gai w x0 0 = some (n7, f8) ∧ vp_in (x4 + ((1 : Int32))) n7 ∧ (∃ (ad11 : Nat → Nat) (m12 : MS) (r13 : GW), adOk ad11 ∧ w = mwX ad11 m12 r13 ∧ x2 = ad11 0 ∧ wX6_young (rd f8 (x4 + ((1 : Int32)))) m12 (fun v15 m14 => ∀ w19 : GW, w19 = mwX ad11 m14 r13 → ((r5 = v15 → (wL_law_1473 c x0 x1 x2 x3 x4 w19 bb KL23 K)) ∧ (¬ r5 = v15 → (K ((0 : Int32)) w19))))))))
set_option maxRecDepth 100000 in
theorem bL_law_1054 {E : jE} (hE : jOk E cL_law RX0) (hn : E.2.2.2.2 = 7) (hR : jRoom E 2230 66818) {c : Nat → Option Nat} (hc : E.2.2.1.2.2.2 = c) (hst : E.1.2.1.stackTraces = false) {K : Int32 → GW → Prop} (hK : jRL E K) {x0 : Nat} {x1 : Nat} {x2 : Nat} {x3 : Nat} {x4 : Int32} {w : GW} {bb : Nat × Nat} {KL23 : Int32 × GW × (Nat × Nat) → Prop} (ih23 : ∀ s : Int32 × GW × (Nat × Nat), KL23 s → J E (s.2.1) (s.2.2) [(0, .ref (x0)), (1, .ref (x1)), (2, .ref (x2)), (3, .ref (x3)), (4, .int (s.1))] 23 []) (hw : wL_law_1054 c x0 x1 x2 x3 x4 w bb KL23 K) : J E w bb [(0, .ref (x0)), (1, .ref (x1)), (2, .ref (x2)), (3, .ref (x3)), (4, .int (x4))] 1054 [] := by
  unfold wL_law_1054 at hw
  refine j_aload_n hE 1 dL_law_1054 rfl rfl ?_
  refine j_aload_n hE 0 dL_law_1055 rfl rfl ?_
  refine j_iload hE 4 dL_law_1056 rfl ?_
  refine j_iconst hE dL_law_1058 kc_1 ?_
  refine j_iadd hE dL_law_1059 ?_
  obtain ⟨n1, f2, h3, h4, hw⟩ := hw
  refine j_aldI hE h3 h4 dL_law_1060 ?_
  obtain ⟨h6, hw⟩ := hw
  refine jc_ip (jr_V hE hR (As := [.int (rd f2 (x4 + ((1 : Int32))))]) (rest := []) ((ctX1_young E.1.2.1 E.2.2.1 hc _ _ _ _ hw) E.2.2.2.1) (lw_V q1461 q1462 q1463 q121 q1464) jdX1_young ⟨Nat.le_of_ble_eq_true rfl, Nat.le_of_ble_eq_true rfl⟩ ⟨Nat.zero_le _, Nat.zero_le _⟩ (gmc_gIs h6 (r := (RX1, TX1, 15)) rfl) rfl (Nat.le_of_ble_eq_true rfl) dL_law_1061) (fun r5 hw => ?_)
  refine j_b0 ?_
  refine j_aload_n hE 2 dL_law_1064 rfl rfl ?_
  refine j_aload_n hE 0 dL_law_1065 rfl rfl ?_
  refine j_iload hE 4 dL_law_1066 rfl ?_
  refine j_iconst hE dL_law_1068 kc_1 ?_
  refine j_iadd hE dL_law_1069 ?_
  obtain ⟨n7, f8, h9, h10, hw⟩ := hw
  refine j_aldI hE h9 h10 dL_law_1070 ?_
  obtain ⟨ad11, m12, r13, h18, h17, h16, hw⟩ := hw
  rw [h17, h16]
  refine j_cvI hE hR (As := [.int (rd f8 (x4 + ((1 : Int32))))]) (rest := [.int (r5)]) (ctX6_young E.1.2.1 E.2.2.1 h18 _ _ _ _ hw) (lw_V q2068 q2069 q2070 q129 q2071) jdX6_young ⟨Nat.le_of_ble_eq_true rfl, Nat.le_of_ble_eq_true rfl⟩ ⟨Nat.zero_le _, Nat.zero_le _⟩ (mIs h18) rfl (Nat.le_of_ble_eq_true rfl) dL_law_1071 (fun v15 u9 hk => ?_)
  obtain ⟨m14, e9, hw⟩ := hk
  subst e9
  (try rw [← h16])
  refine j_b0 ?_
  refine j_nw (fun w19 e_w19 => ?_)
  replace hw := hw w19 e_w19
  refine j_icmp_eq hE 1473 dL_law_1074 (by decide) (fun c20 => ?_) (fun c20 => ?_)
  · replace hw := hw.1 c20
    have hz := bL_law_1473 hE hn hR hc hst hK ih23 hw
    exact hz
  · replace hw := hw.2 c20
    refine j_iconst hE dL_law_1077 kc_0 ?_
    exact jl_iret hE hK dL_law_1078 rfl hw
def wL_law_1079 (c : Nat → Option Nat) (x0 : Nat) (x1 : Nat) (x2 : Nat) (x3 : Nat) (x4 : Int32) (w : GW) (bb : Nat × Nat) (KL23 : Int32 × GW × (Nat × Nat) → Prop) (K : Int32 → GW → Prop) : Prop :=
  ∃ (n1 : Nat) (f2 : Nat → Int32), gai w x0 0 = some (n1, f2) ∧ vp_in (x4 + ((1 : Int32))) n1 ∧ (gmc w x1 = some 0 ∧ (wX1_trail c x1 (rd f2 (x4 + ((1 : Int32)))) w (fun r5 => ∃ (n7 : Nat) (f8 : Nat → Int32), gai w x0 0 = some (n7, f8) ∧ vp_in (x4 + ((1 : Int32))) n7 ∧ (∃ (ad11 : Nat → Nat) (m12 : MS) (r13 : GW), adOk ad11 ∧ w = mwX ad11 m12 r13 ∧ x2 = ad11 0 ∧ wX6_trail (rd f8 (x4 + ((1 : Int32)))) m12 (fun v15 m14 => ∀ w19 : GW, w19 = mwX ad11 m14 r13 → ((r5 = v15 → (wL_law_1473 c x0 x1 x2 x3 x4 w19 bb KL23 K)) ∧ (¬ r5 = v15 → (K ((0 : Int32)) w19))))))))
set_option maxRecDepth 100000 in
theorem bL_law_1079 {E : jE} (hE : jOk E cL_law RX0) (hn : E.2.2.2.2 = 7) (hR : jRoom E 2230 66818) {c : Nat → Option Nat} (hc : E.2.2.1.2.2.2 = c) (hst : E.1.2.1.stackTraces = false) {K : Int32 → GW → Prop} (hK : jRL E K) {x0 : Nat} {x1 : Nat} {x2 : Nat} {x3 : Nat} {x4 : Int32} {w : GW} {bb : Nat × Nat} {KL23 : Int32 × GW × (Nat × Nat) → Prop} (ih23 : ∀ s : Int32 × GW × (Nat × Nat), KL23 s → J E (s.2.1) (s.2.2) [(0, .ref (x0)), (1, .ref (x1)), (2, .ref (x2)), (3, .ref (x3)), (4, .int (s.1))] 23 []) (hw : wL_law_1079 c x0 x1 x2 x3 x4 w bb KL23 K) : J E w bb [(0, .ref (x0)), (1, .ref (x1)), (2, .ref (x2)), (3, .ref (x3)), (4, .int (x4))] 1079 [] := by
  unfold wL_law_1079 at hw
  refine j_aload_n hE 1 dL_law_1079 rfl rfl ?_
  refine j_aload_n hE 0 dL_law_1080 rfl rfl ?_
  refine j_iload hE 4 dL_law_1081 rfl ?_
  refine j_iconst hE dL_law_1083 kc_1 ?_
  refine j_iadd hE dL_law_1084 ?_
  obtain ⟨n1, f2, h3, h4, hw⟩ := hw
  refine j_aldI hE h3 h4 dL_law_1085 ?_
  obtain ⟨h6, hw⟩ := hw
  refine jc_ip (jr_V hE hR (As := [.int (rd f2 (x4 + ((1 : Int32))))]) (rest := []) ((ctX1_trail E.1.2.1 E.2.2.1 hc _ _ _ _ hw) E.2.2.2.1) (lw_V q1465 q1466 q1467 q121 q1468) jdX1_trail ⟨Nat.le_of_ble_eq_true rfl, Nat.le_of_ble_eq_true rfl⟩ ⟨Nat.zero_le _, Nat.zero_le _⟩ (gmc_gIs h6 (r := (RX1, TX1, 15)) rfl) rfl (Nat.le_of_ble_eq_true rfl) dL_law_1086) (fun r5 hw => ?_)
  refine j_b0 ?_
  refine j_aload_n hE 2 dL_law_1089 rfl rfl ?_
  refine j_aload_n hE 0 dL_law_1090 rfl rfl ?_
  refine j_iload hE 4 dL_law_1091 rfl ?_
  refine j_iconst hE dL_law_1093 kc_1 ?_
  refine j_iadd hE dL_law_1094 ?_
  obtain ⟨n7, f8, h9, h10, hw⟩ := hw
  refine j_aldI hE h9 h10 dL_law_1095 ?_
  obtain ⟨ad11, m12, r13, h18, h17, h16, hw⟩ := hw
  rw [h17, h16]
  refine j_cvI hE hR (As := [.int (rd f8 (x4 + ((1 : Int32))))]) (rest := [.int (r5)]) (ctX6_trail E.1.2.1 E.2.2.1 h18 _ _ _ _ hw) (lw_V q2052 q2053 q2054 q129 q2055) jdX6_trail ⟨Nat.le_of_ble_eq_true rfl, Nat.le_of_ble_eq_true rfl⟩ ⟨Nat.zero_le _, Nat.zero_le _⟩ (mIs h18) rfl (Nat.le_of_ble_eq_true rfl) dL_law_1096 (fun v15 u9 hk => ?_)
  obtain ⟨m14, e9, hw⟩ := hk
  subst e9
  (try rw [← h16])
  refine j_b0 ?_
  refine j_nw (fun w19 e_w19 => ?_)
  replace hw := hw w19 e_w19
  refine j_icmp_eq hE 1473 dL_law_1099 (by decide) (fun c20 => ?_) (fun c20 => ?_)
  · replace hw := hw.1 c20
    have hz := bL_law_1473 hE hn hR hc hst hK ih23 hw
    exact hz
  · replace hw := hw.2 c20
    refine j_iconst hE dL_law_1102 kc_0 ?_
    exact jl_iret hE hK dL_law_1103 rfl hw
def wL_law_1104 (c : Nat → Option Nat) (x0 : Nat) (x1 : Nat) (x2 : Nat) (x3 : Nat) (x4 : Int32) (w : GW) (bb : Nat × Nat) (KL23 : Int32 × GW × (Nat × Nat) → Prop) (K : Int32 → GW → Prop) : Prop :=
  ∃ (n1 : Nat) (f2 : Nat → Int32), gai w x0 0 = some (n1, f2) ∧ vp_in (x4 + ((1 : Int32))) n1 ∧ (gmc w x1 = some 0 ∧ (wX1_last c x1 (rd f2 (x4 + ((1 : Int32)))) w (fun r5 => ∃ (n7 : Nat) (f8 : Nat → Int32), gai w x0 0 = some (n7, f8) ∧ vp_in (x4 + ((1 : Int32))) n7 ∧ (∃ (ad11 : Nat → Nat) (m12 : MS) (r13 : GW), adOk ad11 ∧ w = mwX ad11 m12 r13 ∧ x2 = ad11 0 ∧ wX6_last (rd f8 (x4 + ((1 : Int32)))) m12 (fun v15 m14 => ∀ w19 : GW, w19 = mwX ad11 m14 r13 → ((r5 = v15 → (wL_law_1473 c x0 x1 x2 x3 x4 w19 bb KL23 K)) ∧ (¬ r5 = v15 → (K ((0 : Int32)) w19))))))))
set_option maxRecDepth 100000 in
theorem bL_law_1104 {E : jE} (hE : jOk E cL_law RX0) (hn : E.2.2.2.2 = 7) (hR : jRoom E 2230 66818) {c : Nat → Option Nat} (hc : E.2.2.1.2.2.2 = c) (hst : E.1.2.1.stackTraces = false) {K : Int32 → GW → Prop} (hK : jRL E K) {x0 : Nat} {x1 : Nat} {x2 : Nat} {x3 : Nat} {x4 : Int32} {w : GW} {bb : Nat × Nat} {KL23 : Int32 × GW × (Nat × Nat) → Prop} (ih23 : ∀ s : Int32 × GW × (Nat × Nat), KL23 s → J E (s.2.1) (s.2.2) [(0, .ref (x0)), (1, .ref (x1)), (2, .ref (x2)), (3, .ref (x3)), (4, .int (s.1))] 23 []) (hw : wL_law_1104 c x0 x1 x2 x3 x4 w bb KL23 K) : J E w bb [(0, .ref (x0)), (1, .ref (x1)), (2, .ref (x2)), (3, .ref (x3)), (4, .int (x4))] 1104 [] := by
  unfold wL_law_1104 at hw
  refine j_aload_n hE 1 dL_law_1104 rfl rfl ?_
  refine j_aload_n hE 0 dL_law_1105 rfl rfl ?_
  refine j_iload hE 4 dL_law_1106 rfl ?_
  refine j_iconst hE dL_law_1108 kc_1 ?_
  refine j_iadd hE dL_law_1109 ?_
  obtain ⟨n1, f2, h3, h4, hw⟩ := hw
  refine j_aldI hE h3 h4 dL_law_1110 ?_
  obtain ⟨h6, hw⟩ := hw
  refine jc_ip (jr_V hE hR (As := [.int (rd f2 (x4 + ((1 : Int32))))]) (rest := []) ((ctX1_last E.1.2.1 E.2.2.1 hc _ _ _ _ hw) E.2.2.2.1) (lw_V q1473 q1474 q1475 q121 q1476) jdX1_last ⟨Nat.le_of_ble_eq_true rfl, Nat.le_of_ble_eq_true rfl⟩ ⟨Nat.zero_le _, Nat.zero_le _⟩ (gmc_gIs h6 (r := (RX1, TX1, 15)) rfl) rfl (Nat.le_of_ble_eq_true rfl) dL_law_1111) (fun r5 hw => ?_)
  refine j_b0 ?_
  refine j_aload_n hE 2 dL_law_1114 rfl rfl ?_
  refine j_aload_n hE 0 dL_law_1115 rfl rfl ?_
  refine j_iload hE 4 dL_law_1116 rfl ?_
  refine j_iconst hE dL_law_1118 kc_1 ?_
  refine j_iadd hE dL_law_1119 ?_
  obtain ⟨n7, f8, h9, h10, hw⟩ := hw
  refine j_aldI hE h9 h10 dL_law_1120 ?_
  obtain ⟨ad11, m12, r13, h18, h17, h16, hw⟩ := hw
  rw [h17, h16]
  refine j_cvI hE hR (As := [.int (rd f8 (x4 + ((1 : Int32))))]) (rest := [.int (r5)]) (ctX6_last E.1.2.1 E.2.2.1 h18 _ _ _ _ hw) (lw_V q2056 q2057 q2058 q129 q2059) jdX6_last ⟨Nat.le_of_ble_eq_true rfl, Nat.le_of_ble_eq_true rfl⟩ ⟨Nat.zero_le _, Nat.zero_le _⟩ (mIs h18) rfl (Nat.le_of_ble_eq_true rfl) dL_law_1121 (fun v15 u9 hk => ?_)
  obtain ⟨m14, e9, hw⟩ := hk
  subst e9
  (try rw [← h16])
  refine j_b0 ?_
  refine j_nw (fun w19 e_w19 => ?_)
  replace hw := hw w19 e_w19
  refine j_icmp_eq hE 1473 dL_law_1124 (by decide) (fun c20 => ?_) (fun c20 => ?_)
  · replace hw := hw.1 c20
    have hz := bL_law_1473 hE hn hR hc hst hK ih23 hw
    exact hz
  · replace hw := hw.2 c20
    refine j_iconst hE dL_law_1127 kc_0 ?_
    exact jl_iret hE hK dL_law_1128 rfl hw
def wL_law_1129 (c : Nat → Option Nat) (x0 : Nat) (x1 : Nat) (x2 : Nat) (x3 : Nat) (x4 : Int32) (w : GW) (bb : Nat × Nat) (KL23 : Int32 × GW × (Nat × Nat) → Prop) (K : Int32 → GW → Prop) : Prop :=
  gmc w x1 = some 0 ∧ (wX1_worst c x1 w (fun r1 => ∃ (ad3 : Nat → Nat) (m4 : MS) (r5 : GW), adOk ad3 ∧ w = mwX ad3 m4 r5 ∧ x2 = ad3 0 ∧ wX6_worst  m4 (fun v7 m6 => ∀ w11 : GW, w11 = mwX ad3 m6 r5 → ((r1 = v7 → (wL_law_1473 c x0 x1 x2 x3 x4 w11 bb KL23 K)) ∧ (¬ r1 = v7 → (K ((0 : Int32)) w11))))))
set_option maxRecDepth 100000 in
theorem bL_law_1129 {E : jE} (hE : jOk E cL_law RX0) (hn : E.2.2.2.2 = 7) (hR : jRoom E 2230 66818) {c : Nat → Option Nat} (hc : E.2.2.1.2.2.2 = c) (hst : E.1.2.1.stackTraces = false) {K : Int32 → GW → Prop} (hK : jRL E K) {x0 : Nat} {x1 : Nat} {x2 : Nat} {x3 : Nat} {x4 : Int32} {w : GW} {bb : Nat × Nat} {KL23 : Int32 × GW × (Nat × Nat) → Prop} (ih23 : ∀ s : Int32 × GW × (Nat × Nat), KL23 s → J E (s.2.1) (s.2.2) [(0, .ref (x0)), (1, .ref (x1)), (2, .ref (x2)), (3, .ref (x3)), (4, .int (s.1))] 23 []) (hw : wL_law_1129 c x0 x1 x2 x3 x4 w bb KL23 K) : J E w bb [(0, .ref (x0)), (1, .ref (x1)), (2, .ref (x2)), (3, .ref (x3)), (4, .int (x4))] 1129 [] := by
  unfold wL_law_1129 at hw
  refine j_aload_n hE 1 dL_law_1129 rfl rfl ?_
  obtain ⟨h2, hw⟩ := hw
  refine jc_ip (jr_V hE hR (As := []) (rest := []) ((ctX1_worst E.1.2.1 E.2.2.1 hc _ _ _ hw) E.2.2.2.1) (lw_V q1477 q1478 q1479 q121 q1480) jdX1_worst ⟨Nat.le_of_ble_eq_true rfl, Nat.le_of_ble_eq_true rfl⟩ ⟨Nat.zero_le _, Nat.zero_le _⟩ (gmc_gIs h2 (r := (RX1, TX1, 15)) rfl) rfl (Nat.le_of_ble_eq_true rfl) dL_law_1130) (fun r1 hw => ?_)
  refine j_b0 ?_
  refine j_aload_n hE 2 dL_law_1133 rfl rfl ?_
  obtain ⟨ad3, m4, r5, h10, h9, h8, hw⟩ := hw
  rw [h9, h8]
  refine j_cvI hE hR (As := []) (rest := [.int (r1)]) (ctX6_worst E.1.2.1 E.2.2.1 h10 _ _ _ hw) (lw_V q2060 q2061 q2062 q129 q2063) jdX6_worst ⟨Nat.le_of_ble_eq_true rfl, Nat.le_of_ble_eq_true rfl⟩ ⟨Nat.zero_le _, Nat.zero_le _⟩ (mIs h10) rfl (Nat.le_of_ble_eq_true rfl) dL_law_1134 (fun v7 u9 hk => ?_)
  obtain ⟨m6, e9, hw⟩ := hk
  subst e9
  (try rw [← h8])
  refine j_b0 ?_
  refine j_nw (fun w11 e_w11 => ?_)
  replace hw := hw w11 e_w11
  refine j_icmp_eq hE 1473 dL_law_1137 (by decide) (fun c12 => ?_) (fun c12 => ?_)
  · replace hw := hw.1 c12
    have hz := bL_law_1473 hE hn hR hc hst hK ih23 hw
    exact hz
  · replace hw := hw.2 c12
    refine j_iconst hE dL_law_1140 kc_0 ?_
    exact jl_iret hE hK dL_law_1141 rfl hw
def wL_law_1142 (c : Nat → Option Nat) (x0 : Nat) (x1 : Nat) (x2 : Nat) (x3 : Nat) (x4 : Int32) (w : GW) (bb : Nat × Nat) (KL23 : Int32 × GW × (Nat × Nat) → Prop) (K : Int32 → GW → Prop) : Prop :=
  gmc w x1 = some 0 ∧ (wX1_oldest c x1 w (fun r1 => ∃ (ad3 : Nat → Nat) (m4 : MS) (r5 : GW), adOk ad3 ∧ w = mwX ad3 m4 r5 ∧ x2 = ad3 0 ∧ wX6_oldest  m4 (fun v7 m6 => ∀ w11 : GW, w11 = mwX ad3 m6 r5 → ((r1 = v7 → (wL_law_1473 c x0 x1 x2 x3 x4 w11 bb KL23 K)) ∧ (¬ r1 = v7 → (K ((0 : Int32)) w11))))))
set_option maxRecDepth 100000 in
theorem bL_law_1142 {E : jE} (hE : jOk E cL_law RX0) (hn : E.2.2.2.2 = 7) (hR : jRoom E 2230 66818) {c : Nat → Option Nat} (hc : E.2.2.1.2.2.2 = c) (hst : E.1.2.1.stackTraces = false) {K : Int32 → GW → Prop} (hK : jRL E K) {x0 : Nat} {x1 : Nat} {x2 : Nat} {x3 : Nat} {x4 : Int32} {w : GW} {bb : Nat × Nat} {KL23 : Int32 × GW × (Nat × Nat) → Prop} (ih23 : ∀ s : Int32 × GW × (Nat × Nat), KL23 s → J E (s.2.1) (s.2.2) [(0, .ref (x0)), (1, .ref (x1)), (2, .ref (x2)), (3, .ref (x3)), (4, .int (s.1))] 23 []) (hw : wL_law_1142 c x0 x1 x2 x3 x4 w bb KL23 K) : J E w bb [(0, .ref (x0)), (1, .ref (x1)), (2, .ref (x2)), (3, .ref (x3)), (4, .int (x4))] 1142 [] := by
  unfold wL_law_1142 at hw
  refine j_aload_n hE 1 dL_law_1142 rfl rfl ?_
  obtain ⟨h2, hw⟩ := hw
  refine jc_ip (jr_V hE hR (As := []) (rest := []) ((ctX1_oldest E.1.2.1 E.2.2.1 hc _ _ _ hw) E.2.2.2.1) (lw_V q1481 q1482 q1483 q121 q1484) jdX1_oldest ⟨Nat.le_of_ble_eq_true rfl, Nat.le_of_ble_eq_true rfl⟩ ⟨Nat.zero_le _, Nat.zero_le _⟩ (gmc_gIs h2 (r := (RX1, TX1, 15)) rfl) rfl (Nat.le_of_ble_eq_true rfl) dL_law_1143) (fun r1 hw => ?_)
  refine j_b0 ?_
  refine j_aload_n hE 2 dL_law_1146 rfl rfl ?_
  obtain ⟨ad3, m4, r5, h10, h9, h8, hw⟩ := hw
  rw [h9, h8]
  refine j_cvI hE hR (As := []) (rest := [.int (r1)]) (ctX6_oldest E.1.2.1 E.2.2.1 h10 _ _ _ hw) (lw_V q2064 q2065 q2066 q129 q2067) jdX6_oldest ⟨Nat.le_of_ble_eq_true rfl, Nat.le_of_ble_eq_true rfl⟩ ⟨Nat.zero_le _, Nat.zero_le _⟩ (mIs h10) rfl (Nat.le_of_ble_eq_true rfl) dL_law_1147 (fun v7 u9 hk => ?_)
  obtain ⟨m6, e9, hw⟩ := hk
  subst e9
  (try rw [← h8])
  refine j_b0 ?_
  refine j_nw (fun w11 e_w11 => ?_)
  replace hw := hw w11 e_w11
  refine j_icmp_eq hE 1473 dL_law_1150 (by decide) (fun c12 => ?_) (fun c12 => ?_)
  · replace hw := hw.1 c12
    have hz := bL_law_1473 hE hn hR hc hst hK ih23 hw
    exact hz
  · replace hw := hw.2 c12
    refine j_iconst hE dL_law_1153 kc_0 ?_
    exact jl_iret hE hK dL_law_1154 rfl hw
def wL_law_1155 (c : Nat → Option Nat) (x0 : Nat) (x1 : Nat) (x2 : Nat) (x3 : Nat) (x4 : Int32) (w : GW) (bb : Nat × Nat) (KL23 : Int32 × GW × (Nat × Nat) → Prop) (K : Int32 → GW → Prop) : Prop :=
  ∃ (n1 : Nat) (f2 : Nat → Int32), gai w x0 0 = some (n1, f2) ∧ vp_in (x4 + ((1 : Int32))) n1 ∧ (∃ (n5 : Nat) (f6 : Nat → Int32), gai w x0 0 = some (n5, f6) ∧ vp_in (x4 + (nI 2)) n5 ∧ (gmc w x1 = some 0 ∧ (wX1_cloak c x1 (rd f2 (x4 + ((1 : Int32)))) (rd f6 (x4 + (nI 2))) w (fun r9 w11 => ∃ (n12 : Nat) (f13 : Nat → Int32), gai w11 x0 0 = some (n12, f13) ∧ vp_in (x4 + ((1 : Int32))) n12 ∧ (∃ (n16 : Nat) (f17 : Nat → Int32), gai w11 x0 0 = some (n16, f17) ∧ vp_in (x4 + (nI 2)) n16 ∧ (∃ (ad20 : Nat → Nat) (m21 : MS) (r22 : GW), adOk ad20 ∧ w11 = mwX ad20 m21 r22 ∧ x2 = ad20 0 ∧ wX6_cloak (rd f13 (x4 + ((1 : Int32)))) (rd f17 (x4 + (nI 2))) m21 (fun v24 m23 => ∀ w28 : GW, w28 = mwX ad20 m23 r22 → ((r9 = v24 → (wL_law_1473 c x0 x1 x2 x3 x4 w28 bb KL23 K)) ∧ (¬ r9 = v24 → (K ((0 : Int32)) w28))))))))))
set_option maxRecDepth 100000 in
theorem bL_law_1155 {E : jE} (hE : jOk E cL_law RX0) (hn : E.2.2.2.2 = 7) (hR : jRoom E 2230 66818) {c : Nat → Option Nat} (hc : E.2.2.1.2.2.2 = c) (hst : E.1.2.1.stackTraces = false) {K : Int32 → GW → Prop} (hK : jRL E K) {x0 : Nat} {x1 : Nat} {x2 : Nat} {x3 : Nat} {x4 : Int32} {w : GW} {bb : Nat × Nat} {KL23 : Int32 × GW × (Nat × Nat) → Prop} (ih23 : ∀ s : Int32 × GW × (Nat × Nat), KL23 s → J E (s.2.1) (s.2.2) [(0, .ref (x0)), (1, .ref (x1)), (2, .ref (x2)), (3, .ref (x3)), (4, .int (s.1))] 23 []) (hw : wL_law_1155 c x0 x1 x2 x3 x4 w bb KL23 K) : J E w bb [(0, .ref (x0)), (1, .ref (x1)), (2, .ref (x2)), (3, .ref (x3)), (4, .int (x4))] 1155 [] := by
  unfold wL_law_1155 at hw
  refine j_aload_n hE 1 dL_law_1155 rfl rfl ?_
  refine j_aload_n hE 0 dL_law_1156 rfl rfl ?_
  refine j_iload hE 4 dL_law_1157 rfl ?_
  refine j_iconst hE dL_law_1159 kc_1 ?_
  refine j_iadd hE dL_law_1160 ?_
  obtain ⟨n1, f2, h3, h4, hw⟩ := hw
  refine j_aldI hE h3 h4 dL_law_1161 ?_
  refine j_aload_n hE 0 dL_law_1162 rfl rfl ?_
  refine j_iload hE 4 dL_law_1163 rfl ?_
  refine j_iconst hE dL_law_1165 kc_2 ?_
  refine j_iadd hE dL_law_1166 ?_
  obtain ⟨n5, f6, h7, h8, hw⟩ := hw
  refine j_aldI hE h7 h8 dL_law_1167 ?_
  obtain ⟨h10, hw⟩ := hw
  refine jc_i (jr_V hE hR (As := [.int (rd f2 (x4 + ((1 : Int32)))), .int (rd f6 (x4 + (nI 2)))]) (rest := []) ((ctX1_cloak E.1.2.1 E.2.2.1 hc _ _ _ _ _ hw) E.2.2.2.1) (lw_V q1485 q1486 q1487 q121 q1488) jdX1_cloak ⟨Nat.le_of_ble_eq_true rfl, Nat.le_of_ble_eq_true rfl⟩ ⟨Nat.zero_le _, Nat.zero_le _⟩ (gmc_gIs h10 (r := (RX1, TX1, 15)) rfl) rfl (Nat.le_of_ble_eq_true rfl) dL_law_1168) (fun r9 w11 hw => ?_)
  refine j_b0 ?_
  refine j_aload_n hE 2 dL_law_1171 rfl rfl ?_
  refine j_aload_n hE 0 dL_law_1172 rfl rfl ?_
  refine j_iload hE 4 dL_law_1173 rfl ?_
  refine j_iconst hE dL_law_1175 kc_1 ?_
  refine j_iadd hE dL_law_1176 ?_
  obtain ⟨n12, f13, h14, h15, hw⟩ := hw
  refine j_aldI hE h14 h15 dL_law_1177 ?_
  refine j_aload_n hE 0 dL_law_1178 rfl rfl ?_
  refine j_iload hE 4 dL_law_1179 rfl ?_
  refine j_iconst hE dL_law_1181 kc_2 ?_
  refine j_iadd hE dL_law_1182 ?_
  obtain ⟨n16, f17, h18, h19, hw⟩ := hw
  refine j_aldI hE h18 h19 dL_law_1183 ?_
  obtain ⟨ad20, m21, r22, h27, h26, h25, hw⟩ := hw
  rw [h26, h25]
  refine j_cvI hE hR (As := [.int (rd f13 (x4 + ((1 : Int32)))), .int (rd f17 (x4 + (nI 2)))]) (rest := [.int (r9)]) (ctX6_cloak E.1.2.1 E.2.2.1 h27 _ _ _ _ _ hw) (lw_V q2072 q2073 q2074 q129 q2075) jdX6_cloak ⟨Nat.le_of_ble_eq_true rfl, Nat.le_of_ble_eq_true rfl⟩ ⟨Nat.zero_le _, Nat.zero_le _⟩ (mIs h27) rfl (Nat.le_of_ble_eq_true rfl) dL_law_1184 (fun v24 u9 hk => ?_)
  obtain ⟨m23, e9, hw⟩ := hk
  subst e9
  (try rw [← h25])
  refine j_b0 ?_
  refine j_nw (fun w28 e_w28 => ?_)
  replace hw := hw w28 e_w28
  refine j_icmp_eq hE 1473 dL_law_1187 (by decide) (fun c29 => ?_) (fun c29 => ?_)
  · replace hw := hw.1 c29
    have hz := bL_law_1473 hE hn hR hc hst hK ih23 hw
    exact hz
  · replace hw := hw.2 c29
    refine j_iconst hE dL_law_1190 kc_0 ?_
    exact jl_iret hE hK dL_law_1191 rfl hw
def wL_law_1192 (c : Nat → Option Nat) (x0 : Nat) (x1 : Nat) (x2 : Nat) (x3 : Nat) (x4 : Int32) (w : GW) (bb : Nat × Nat) (KL23 : Int32 × GW × (Nat × Nat) → Prop) (K : Int32 → GW → Prop) : Prop :=
  ∃ (n1 : Nat) (f2 : Nat → Int32), gai w x0 0 = some (n1, f2) ∧ vp_in (x4 + ((1 : Int32))) n1 ∧ (∃ (n5 : Nat) (f6 : Nat → Int32), gai w x0 0 = some (n5, f6) ∧ vp_in (x4 + (nI 2)) n5 ∧ (gmc w x1 = some 0 ∧ (wX1_twin c x1 (rd f2 (x4 + ((1 : Int32)))) (rd f6 (x4 + (nI 2))) w (fun r9 => ∃ (n11 : Nat) (f12 : Nat → Int32), gai w x0 0 = some (n11, f12) ∧ vp_in (x4 + ((1 : Int32))) n11 ∧ (∃ (n15 : Nat) (f16 : Nat → Int32), gai w x0 0 = some (n15, f16) ∧ vp_in (x4 + (nI 2)) n15 ∧ (∃ (ad19 : Nat → Nat) (m20 : MS) (r21 : GW), adOk ad19 ∧ w = mwX ad19 m20 r21 ∧ x2 = ad19 0 ∧ wX6_twin (rd f12 (x4 + ((1 : Int32)))) (rd f16 (x4 + (nI 2))) m20 (fun v23 m22 => ∀ w27 : GW, w27 = mwX ad19 m22 r21 → ((r9 = v23 → (wL_law_1473 c x0 x1 x2 x3 x4 w27 bb KL23 K)) ∧ (¬ r9 = v23 → (K ((0 : Int32)) w27))))))))))
set_option maxRecDepth 100000 in
theorem bL_law_1192 {E : jE} (hE : jOk E cL_law RX0) (hn : E.2.2.2.2 = 7) (hR : jRoom E 2230 66818) {c : Nat → Option Nat} (hc : E.2.2.1.2.2.2 = c) (hst : E.1.2.1.stackTraces = false) {K : Int32 → GW → Prop} (hK : jRL E K) {x0 : Nat} {x1 : Nat} {x2 : Nat} {x3 : Nat} {x4 : Int32} {w : GW} {bb : Nat × Nat} {KL23 : Int32 × GW × (Nat × Nat) → Prop} (ih23 : ∀ s : Int32 × GW × (Nat × Nat), KL23 s → J E (s.2.1) (s.2.2) [(0, .ref (x0)), (1, .ref (x1)), (2, .ref (x2)), (3, .ref (x3)), (4, .int (s.1))] 23 []) (hw : wL_law_1192 c x0 x1 x2 x3 x4 w bb KL23 K) : J E w bb [(0, .ref (x0)), (1, .ref (x1)), (2, .ref (x2)), (3, .ref (x3)), (4, .int (x4))] 1192 [] := by
  unfold wL_law_1192 at hw
  refine j_aload_n hE 1 dL_law_1192 rfl rfl ?_
  refine j_aload_n hE 0 dL_law_1193 rfl rfl ?_
  refine j_iload hE 4 dL_law_1194 rfl ?_
  refine j_iconst hE dL_law_1196 kc_1 ?_
  refine j_iadd hE dL_law_1197 ?_
  obtain ⟨n1, f2, h3, h4, hw⟩ := hw
  refine j_aldI hE h3 h4 dL_law_1198 ?_
  refine j_aload_n hE 0 dL_law_1199 rfl rfl ?_
  refine j_iload hE 4 dL_law_1200 rfl ?_
  refine j_iconst hE dL_law_1202 kc_2 ?_
  refine j_iadd hE dL_law_1203 ?_
  obtain ⟨n5, f6, h7, h8, hw⟩ := hw
  refine j_aldI hE h7 h8 dL_law_1204 ?_
  obtain ⟨h10, hw⟩ := hw
  refine jc_ip (jr_V hE hR (As := [.int (rd f2 (x4 + ((1 : Int32)))), .int (rd f6 (x4 + (nI 2)))]) (rest := []) ((ctX1_twin E.1.2.1 E.2.2.1 hc _ _ _ _ _ hw) E.2.2.2.1) (lw_V q1489 q1490 q1491 q121 q1492) jdX1_twin ⟨Nat.le_of_ble_eq_true rfl, Nat.le_of_ble_eq_true rfl⟩ ⟨Nat.zero_le _, Nat.zero_le _⟩ (gmc_gIs h10 (r := (RX1, TX1, 15)) rfl) rfl (Nat.le_of_ble_eq_true rfl) dL_law_1205) (fun r9 hw => ?_)
  refine j_b0 ?_
  refine j_aload_n hE 2 dL_law_1208 rfl rfl ?_
  refine j_aload_n hE 0 dL_law_1209 rfl rfl ?_
  refine j_iload hE 4 dL_law_1210 rfl ?_
  refine j_iconst hE dL_law_1212 kc_1 ?_
  refine j_iadd hE dL_law_1213 ?_
  obtain ⟨n11, f12, h13, h14, hw⟩ := hw
  refine j_aldI hE h13 h14 dL_law_1214 ?_
  refine j_aload_n hE 0 dL_law_1215 rfl rfl ?_
  refine j_iload hE 4 dL_law_1216 rfl ?_
  refine j_iconst hE dL_law_1218 kc_2 ?_
  refine j_iadd hE dL_law_1219 ?_
  obtain ⟨n15, f16, h17, h18, hw⟩ := hw
  refine j_aldI hE h17 h18 dL_law_1220 ?_
  obtain ⟨ad19, m20, r21, h26, h25, h24, hw⟩ := hw
  rw [h25, h24]
  refine j_cvI hE hR (As := [.int (rd f12 (x4 + ((1 : Int32)))), .int (rd f16 (x4 + (nI 2)))]) (rest := [.int (r9)]) (ctX6_twin E.1.2.1 E.2.2.1 h26 _ _ _ _ _ hw) (lw_V q2131 q2132 q2133 q129 q2134) jdX6_twin ⟨Nat.le_of_ble_eq_true rfl, Nat.le_of_ble_eq_true rfl⟩ ⟨Nat.zero_le _, Nat.zero_le _⟩ (mIs h26) rfl (Nat.le_of_ble_eq_true rfl) dL_law_1221 (fun v23 u9 hk => ?_)
  obtain ⟨m22, e9, hw⟩ := hk
  subst e9
  (try rw [← h24])
  refine j_b0 ?_
  refine j_nw (fun w27 e_w27 => ?_)
  replace hw := hw w27 e_w27
  refine j_icmp_eq hE 1473 dL_law_1224 (by decide) (fun c28 => ?_) (fun c28 => ?_)
  · replace hw := hw.1 c28
    have hz := bL_law_1473 hE hn hR hc hst hK ih23 hw
    exact hz
  · replace hw := hw.2 c28
    refine j_iconst hE dL_law_1227 kc_0 ?_
    exact jl_iret hE hK dL_law_1228 rfl hw
def wL_law_1229 (c : Nat → Option Nat) (x0 : Nat) (x1 : Nat) (x2 : Nat) (x3 : Nat) (x4 : Int32) (w : GW) (bb : Nat × Nat) (KL23 : Int32 × GW × (Nat × Nat) → Prop) (K : Int32 → GW → Prop) : Prop :=
  ∃ (n1 : Nat) (f2 : Nat → Int32), gai w x0 0 = some (n1, f2) ∧ vp_in (x4 + ((1 : Int32))) n1 ∧ (gmc w x1 = some 0 ∧ (wX1_run c x1 (rd f2 (x4 + ((1 : Int32)))) w (fun r5 w7 => ∃ (n8 : Nat) (f9 : Nat → Int32), gai w7 x0 0 = some (n8, f9) ∧ vp_in (x4 + ((1 : Int32))) n8 ∧ (∃ (ad12 : Nat → Nat) (m13 : MS) (r14 : GW), adOk ad12 ∧ w7 = mwX ad12 m13 r14 ∧ x2 = ad12 0 ∧ wX6_run (rd f9 (x4 + ((1 : Int32)))) m13 (fun v16 m15 => ∀ w20 : GW, w20 = mwX ad12 m15 r14 → ((r5 = v16 → (wL_law_1473 c x0 x1 x2 x3 x4 w20 bb KL23 K)) ∧ (¬ r5 = v16 → (K ((0 : Int32)) w20))))))))
set_option maxRecDepth 100000 in
theorem bL_law_1229 {E : jE} (hE : jOk E cL_law RX0) (hn : E.2.2.2.2 = 7) (hR : jRoom E 2230 66818) {c : Nat → Option Nat} (hc : E.2.2.1.2.2.2 = c) (hst : E.1.2.1.stackTraces = false) {K : Int32 → GW → Prop} (hK : jRL E K) {x0 : Nat} {x1 : Nat} {x2 : Nat} {x3 : Nat} {x4 : Int32} {w : GW} {bb : Nat × Nat} {KL23 : Int32 × GW × (Nat × Nat) → Prop} (ih23 : ∀ s : Int32 × GW × (Nat × Nat), KL23 s → J E (s.2.1) (s.2.2) [(0, .ref (x0)), (1, .ref (x1)), (2, .ref (x2)), (3, .ref (x3)), (4, .int (s.1))] 23 []) (hw : wL_law_1229 c x0 x1 x2 x3 x4 w bb KL23 K) : J E w bb [(0, .ref (x0)), (1, .ref (x1)), (2, .ref (x2)), (3, .ref (x3)), (4, .int (x4))] 1229 [] := by
  unfold wL_law_1229 at hw
  refine j_aload_n hE 1 dL_law_1229 rfl rfl ?_
  refine j_aload_n hE 0 dL_law_1230 rfl rfl ?_
  refine j_iload hE 4 dL_law_1231 rfl ?_
  refine j_iconst hE dL_law_1233 kc_1 ?_
  refine j_iadd hE dL_law_1234 ?_
  obtain ⟨n1, f2, h3, h4, hw⟩ := hw
  refine j_aldI hE h3 h4 dL_law_1235 ?_
  obtain ⟨h6, hw⟩ := hw
  refine jc_i (jr_V hE hR (As := [.int (rd f2 (x4 + ((1 : Int32))))]) (rest := []) ((ctX1_run E.1.2.1 E.2.2.1 hc _ _ _ _ hw) E.2.2.2.1) (lw_V q1498 q1499 q1500 q121 q1501) jdX1_run ⟨Nat.le_of_ble_eq_true rfl, Nat.le_of_ble_eq_true rfl⟩ ⟨Nat.zero_le _, Nat.zero_le _⟩ (gmc_gIs h6 (r := (RX1, TX1, 15)) rfl) rfl (Nat.le_of_ble_eq_true rfl) dL_law_1236) (fun r5 w7 hw => ?_)
  refine j_b0 ?_
  refine j_aload_n hE 2 dL_law_1239 rfl rfl ?_
  refine j_aload_n hE 0 dL_law_1240 rfl rfl ?_
  refine j_iload hE 4 dL_law_1241 rfl ?_
  refine j_iconst hE dL_law_1243 kc_1 ?_
  refine j_iadd hE dL_law_1244 ?_
  obtain ⟨n8, f9, h10, h11, hw⟩ := hw
  refine j_aldI hE h10 h11 dL_law_1245 ?_
  obtain ⟨ad12, m13, r14, h19, h18, h17, hw⟩ := hw
  rw [h18, h17]
  refine j_cvI hE hR (As := [.int (rd f9 (x4 + ((1 : Int32))))]) (rest := [.int (r5)]) (ctX6_run E.1.2.1 E.2.2.1 h19 _ _ _ _ hw) (lw_V q2139 q2140 q2141 q129 q2142) jdX6_run ⟨Nat.le_of_ble_eq_true rfl, Nat.le_of_ble_eq_true rfl⟩ ⟨Nat.zero_le _, Nat.zero_le _⟩ (mIs h19) rfl (Nat.le_of_ble_eq_true rfl) dL_law_1246 (fun v16 u9 hk => ?_)
  obtain ⟨m15, e9, hw⟩ := hk
  subst e9
  (try rw [← h17])
  refine j_b0 ?_
  refine j_nw (fun w20 e_w20 => ?_)
  replace hw := hw w20 e_w20
  refine j_icmp_eq hE 1473 dL_law_1249 (by decide) (fun c21 => ?_) (fun c21 => ?_)
  · replace hw := hw.1 c21
    have hz := bL_law_1473 hE hn hR hc hst hK ih23 hw
    exact hz
  · replace hw := hw.2 c21
    refine j_iconst hE dL_law_1252 kc_0 ?_
    exact jl_iret hE hK dL_law_1253 rfl hw
def wL_law_1254 (c : Nat → Option Nat) (x0 : Nat) (x1 : Nat) (x2 : Nat) (x3 : Nat) (x4 : Int32) (w : GW) (bb : Nat × Nat) (KL23 : Int32 × GW × (Nat × Nat) → Prop) (K : Int32 → GW → Prop) : Prop :=
  ∃ (n1 : Nat) (f2 : Nat → Int32), gai w x0 0 = some (n1, f2) ∧ vp_in (x4 + ((1 : Int32))) n1 ∧ (∃ (n5 : Nat) (f6 : Nat → Int32), gai w x0 0 = some (n5, f6) ∧ vp_in (x4 + (nI 2)) n5 ∧ (∃ (n9 : Nat) (f10 : Nat → Int32), gai w x0 0 = some (n9, f10) ∧ vp_in (x4 + (nI 3)) n9 ∧ (∃ (n13 : Nat) (f14 : Nat → Int32), gai w x0 0 = some (n13, f14) ∧ vp_in (x4 + (nI 4)) n13 ∧ (∃ cb18 : Nat × Nat, (cb18.1 ≤ bb.1 ∧ cb18.2 ≤ bb.2) ∧ (wX0_rests c x1 (rd f2 (x4 + ((1 : Int32)))) (rd f6 (x4 + (nI 2))) (rd f10 (x4 + (nI 3))) (rd f14 (x4 + (nI 4))) x3 w cb18 (fun r17 w20 => ∀ b21 : Nat × Nat, b21 = (bb.1 - cb18.1, bb.2 - cb18.2) → (∃ (n22 : Nat) (f23 : Nat → Int32), gai w20 x0 0 = some (n22, f23) ∧ vp_in (x4 + ((1 : Int32))) n22 ∧ (∃ (n26 : Nat) (f27 : Nat → Int32), gai w20 x0 0 = some (n26, f27) ∧ vp_in (x4 + (nI 2)) n26 ∧ (∃ (n30 : Nat) (f31 : Nat → Int32), gai w20 x0 0 = some (n30, f31) ∧ vp_in (x4 + (nI 3)) n30 ∧ (∃ (n34 : Nat) (f35 : Nat → Int32), gai w20 x0 0 = some (n34, f35) ∧ vp_in (x4 + (nI 4)) n34 ∧ (∃ (ad38 : Nat → Nat) (m39 : MS) (r40 : GW), adOk ad38 ∧ w20 = mwX ad38 m39 r40 ∧ x2 = ad38 0 ∧ wX6_rests (rd f23 (x4 + ((1 : Int32)))) (rd f27 (x4 + (nI 2))) (rd f31 (x4 + (nI 3))) (rd f35 (x4 + (nI 4))) m39 (fun v42 m41 => ∀ w46 : GW, w46 = mwX ad38 m41 r40 → (∃ (ad47 : Nat → Nat) (m48 : MS) (r49 : GW), adOk ad47 ∧ w46 = mwX ad47 m48 r49 ∧ x2 = ad47 0 ∧ wX6_thrown  m48 (fun v51 => (v51 = r17 → ((¬ r17 = 0 → (wL_law_1473 c x0 x1 x2 x3 x4 w46 b21 KL23 K)) ∧ (r17 = 0 → (∃ (n57 : Nat) (f58 : Nat → Int64), gal w46 x3 2 = some (n57, f58) ∧ vp_in ((0 : Int32)) n57 ∧ (((lg_cmp (rdL f58 ((0 : Int32))) v42.toInt64) = 0 → (wL_law_1473 c x0 x1 x2 x3 x4 w46 b21 KL23 K)) ∧ (¬ (lg_cmp (rdL f58 ((0 : Int32))) v42.toInt64) = 0 → (K ((0 : Int32)) w46))))))) ∧ (¬ v51 = r17 → (K ((0 : Int32)) w46))))))))))))))))
set_option maxRecDepth 100000 in
theorem bL_law_1254 {E : jE} (hE : jOk E cL_law RX0) (hn : E.2.2.2.2 = 7) (hR : jRoom E 2230 66818) {c : Nat → Option Nat} (hc : E.2.2.1.2.2.2 = c) (hst : E.1.2.1.stackTraces = false) {K : Int32 → GW → Prop} (hK : jRL E K) {x0 : Nat} {x1 : Nat} {x2 : Nat} {x3 : Nat} {x4 : Int32} {w : GW} {bb : Nat × Nat} {KL23 : Int32 × GW × (Nat × Nat) → Prop} (ih23 : ∀ s : Int32 × GW × (Nat × Nat), KL23 s → J E (s.2.1) (s.2.2) [(0, .ref (x0)), (1, .ref (x1)), (2, .ref (x2)), (3, .ref (x3)), (4, .int (s.1))] 23 []) (hw : wL_law_1254 c x0 x1 x2 x3 x4 w bb KL23 K) : J E w bb [(0, .ref (x0)), (1, .ref (x1)), (2, .ref (x2)), (3, .ref (x3)), (4, .int (x4))] 1254 [] := by
  unfold wL_law_1254 at hw
  refine j_aload_n hE 1 dL_law_1254 rfl rfl ?_
  refine j_aload_n hE 0 dL_law_1255 rfl rfl ?_
  refine j_iload hE 4 dL_law_1256 rfl ?_
  refine j_iconst hE dL_law_1258 kc_1 ?_
  refine j_iadd hE dL_law_1259 ?_
  obtain ⟨n1, f2, h3, h4, hw⟩ := hw
  refine j_aldI hE h3 h4 dL_law_1260 ?_
  refine j_aload_n hE 0 dL_law_1261 rfl rfl ?_
  refine j_iload hE 4 dL_law_1262 rfl ?_
  refine j_iconst hE dL_law_1264 kc_2 ?_
  refine j_iadd hE dL_law_1265 ?_
  obtain ⟨n5, f6, h7, h8, hw⟩ := hw
  refine j_aldI hE h7 h8 dL_law_1266 ?_
  refine j_aload_n hE 0 dL_law_1267 rfl rfl ?_
  refine j_iload hE 4 dL_law_1268 rfl ?_
  refine j_iconst hE dL_law_1270 kc_3 ?_
  refine j_iadd hE dL_law_1271 ?_
  obtain ⟨n9, f10, h11, h12, hw⟩ := hw
  refine j_aldI hE h11 h12 dL_law_1272 ?_
  refine j_aload_n hE 0 dL_law_1273 rfl rfl ?_
  refine j_iload hE 4 dL_law_1274 rfl ?_
  refine j_iconst hE dL_law_1276 kc_4 ?_
  refine j_iadd hE dL_law_1277 ?_
  obtain ⟨n13, f14, h15, h16, hw⟩ := hw
  refine j_aldI hE h15 h16 dL_law_1278 ?_
  refine j_aload_n hE 3 dL_law_1279 rfl rfl ?_
  obtain ⟨cb18, h19, hw⟩ := hw
  refine jc_i (jr_SW hE hR (As := [.ref (x1), .int (rd f2 (x4 + ((1 : Int32)))), .int (rd f6 (x4 + (nI 2))), .int (rd f10 (x4 + (nI 3))), .int (rd f14 (x4 + (nI 4))), .ref (x3)]) (rest := []) ((ctX0_rests E.1.2.1 E.2.2.1 hc hst _ _ _ _ _ _ _ _ _ hw) E.2.2.2.1) (lw_SW q1552 q1553 q120 q1554) jdX0_rests ⟨Nat.le_of_ble_eq_true rfl, Nat.le_of_ble_eq_true rfl⟩ h19  rfl (Nat.le_of_ble_eq_true rfl) dL_law_1280) (fun r17 w20 hw => ?_)
  refine j_nb (fun b21 e_b21 => ?_)
  replace hw := hw b21 e_b21
  refine j_istore (L' := [(5, .int (r17)), (0, .ref (x0)), (1, .ref (x1)), (2, .ref (x2)), (3, .ref (x3)), (4, .int (x4))]) hE hn dL_law_1283 (Nat.le_of_ble_eq_true rfl) rfl ?_
  refine j_aload_n hE 3 dL_law_1285 rfl rfl ?_
  refine j_aload_n hE 1 dL_law_1286 rfl rfl ?_
  refine j_iload hE 5 dL_law_1287 rfl ?_
  refine j_iconst hE dL_law_1289 kc_1 ?_
  refine j_iadd hE dL_law_1290 ?_
  obtain ⟨n22, f23, h24, h25, hw⟩ := hw
  refine j_aldI hE h24 h25 dL_law_1291 ?_
  refine j_aload_n hE 1 dL_law_1292 rfl rfl ?_
  refine j_iload hE 5 dL_law_1293 rfl ?_
  refine j_iconst hE dL_law_1295 kc_2 ?_
  refine j_iadd hE dL_law_1296 ?_
  obtain ⟨n26, f27, h28, h29, hw⟩ := hw
  refine j_aldI hE h28 h29 dL_law_1297 ?_
  refine j_aload_n hE 1 dL_law_1298 rfl rfl ?_
  refine j_iload hE 5 dL_law_1299 rfl ?_
  refine j_iconst hE dL_law_1301 kc_3 ?_
  refine j_iadd hE dL_law_1302 ?_
  obtain ⟨n30, f31, h32, h33, hw⟩ := hw
  refine j_aldI hE h32 h33 dL_law_1303 ?_
  refine j_aload_n hE 1 dL_law_1304 rfl rfl ?_
  refine j_iload hE 5 dL_law_1305 rfl ?_
  refine j_iconst hE dL_law_1307 kc_4 ?_
  refine j_iadd hE dL_law_1308 ?_
  obtain ⟨n34, f35, h36, h37, hw⟩ := hw
  refine j_aldI hE h36 h37 dL_law_1309 ?_
  obtain ⟨ad38, m39, r40, h45, h44, h43, hw⟩ := hw
  rw [h44, h43]
  refine j_cvI hE hR (As := [.int (rd f23 (x4 + ((1 : Int32)))), .int (rd f27 (x4 + (nI 2))), .int (rd f31 (x4 + (nI 3))), .int (rd f35 (x4 + (nI 4)))]) (rest := []) (ctX6_rests E.1.2.1 E.2.2.1 h45 _ _ _ _ _ _ _ hw) (lw_V q2143 q2144 q2145 q129 q2146) jdX6_rests ⟨Nat.le_of_ble_eq_true rfl, Nat.le_of_ble_eq_true rfl⟩ ⟨Nat.zero_le _, Nat.zero_le _⟩ (mIs h45) rfl (Nat.le_of_ble_eq_true rfl) dL_law_1310 (fun v42 u9 hk => ?_)
  obtain ⟨m41, e9, hw⟩ := hk
  subst e9
  (try rw [← h43])
  refine j_b0 ?_
  refine j_nw (fun w46 e_w46 => ?_)
  replace hw := hw w46 e_w46
  refine j_istore (L' := [(6, .int (v42)), (5, .int (r17)), (0, .ref (x0)), (1, .ref (x1)), (2, .ref (x2)), (3, .ref (x3)), (4, .int (x4))]) hE hn dL_law_1313 (Nat.le_of_ble_eq_true rfl) rfl ?_
  refine j_aload_n hE 4 dL_law_1315 rfl rfl ?_
  obtain ⟨ad47, m48, r49, h54, h53, h52, hw⟩ := hw
  rw [h53, h52]
  refine j_cvI hE hR (As := []) (rest := []) (ctX6_thrown E.1.2.1 E.2.2.1 h54 _ _ _ hw) (lw_V q1587 q1588 q1589 q129 q1590) jdX6_thrown ⟨Nat.le_of_ble_eq_true rfl, Nat.le_of_ble_eq_true rfl⟩ ⟨Nat.zero_le _, Nat.zero_le _⟩ (mIs h54) rfl (Nat.le_of_ble_eq_true rfl) dL_law_1316 (fun v51 u9 hk => ?_)
  obtain ⟨e9, hw⟩ := hk
  subst e9
  rw [← h53]
  (try rw [← h52])
  refine j_b0 ?_
  refine j_iload hE 1 dL_law_1319 rfl ?_
  refine j_icmp_eq hE 1326 dL_law_1321 (by decide) (fun c55 => ?_) (fun c55 => ?_)
  · replace hw := hw.1 c55
    refine j_iload hE 1 dL_law_1326 rfl ?_
    refine j_if_ne hE 1343 dL_law_1328 (by decide) (fun c56 => ?_) (fun c56 => ?_)
    · replace hw := hw.1 c56
      refine j_goto hE 1473 dL_law_1343 (by decide) ?_
      refine j_sub [(0, .ref (x0)), (1, .ref (x1)), (2, .ref (x2)), (3, .ref (x3)), (4, .int (x4))] [2, 3, 4, 5, 6] rfl ?_
      have hz := bL_law_1473 hE hn hR hc hst hK ih23 hw
      exact hz
    · replace hw := hw.2 c56
      refine j_aload_n hE 5 dL_law_1331 rfl rfl ?_
      refine j_iconst hE dL_law_1332 kc_0 ?_
      obtain ⟨n57, f58, h59, h60, hw⟩ := hw
      refine j_aldL hE h59 h60 dL_law_1333 ?_
      refine j_iload hE 0 dL_law_1334 rfl ?_
      refine j_i2l hE dL_law_1336 ?_
      refine j_lcmp hE dL_law_1337 ?_
      refine j_if_eq hE 1343 dL_law_1338 (by decide) (fun c61 => ?_) (fun c61 => ?_)
      · replace hw := hw.1 c61
        refine j_goto hE 1473 dL_law_1343 (by decide) ?_
        refine j_sub [(0, .ref (x0)), (1, .ref (x1)), (2, .ref (x2)), (3, .ref (x3)), (4, .int (x4))] [2, 3, 4, 5, 6] rfl ?_
        have hz := bL_law_1473 hE hn hR hc hst hK ih23 hw
        exact hz
      · replace hw := hw.2 c61
        refine j_iconst hE dL_law_1341 kc_0 ?_
        exact jl_iret hE hK dL_law_1342 rfl hw
  · replace hw := hw.2 c55
    refine j_iconst hE dL_law_1324 kc_0 ?_
    exact jl_iret hE hK dL_law_1325 rfl hw
def wL_law_1346 (c : Nat → Option Nat) (x0 : Nat) (x1 : Nat) (x2 : Nat) (x3 : Nat) (x4 : Int32) (w : GW) (bb : Nat × Nat) (KL23 : Int32 × GW × (Nat × Nat) → Prop) (K : Int32 → GW → Prop) : Prop :=
  ∃ (n1 : Nat) (f2 : Nat → Int32), gai w x0 0 = some (n1, f2) ∧ vp_in (x4 + ((1 : Int32))) n1 ∧ (∃ (n5 : Nat) (f6 : Nat → Int32), gai w x0 0 = some (n5, f6) ∧ vp_in (x4 + (nI 2)) n5 ∧ (∃ (n9 : Nat) (f10 : Nat → Int32), gai w x0 0 = some (n9, f10) ∧ vp_in (x4 + (nI 3)) n9 ∧ (gmc w x1 = some 0 ∧ (wX1_years c x1 (rd f2 (x4 + ((1 : Int32)))) (rd f6 (x4 + (nI 2))) (rd f10 (x4 + (nI 3))) w (fun r13 w15 => ∃ (n16 : Nat) (f17 : Nat → Int32), gai w15 x0 0 = some (n16, f17) ∧ vp_in (x4 + ((1 : Int32))) n16 ∧ (∃ (n20 : Nat) (f21 : Nat → Int32), gai w15 x0 0 = some (n20, f21) ∧ vp_in (x4 + (nI 2)) n20 ∧ (∃ (n24 : Nat) (f25 : Nat → Int32), gai w15 x0 0 = some (n24, f25) ∧ vp_in (x4 + (nI 3)) n24 ∧ (∃ (ad28 : Nat → Nat) (m29 : MS) (r30 : GW), adOk ad28 ∧ w15 = mwX ad28 m29 r30 ∧ x2 = ad28 0 ∧ wX6_years (rd f17 (x4 + ((1 : Int32)))) (rd f21 (x4 + (nI 2))) (rd f25 (x4 + (nI 3))) m29 (fun v32 m31 => ∀ w36 : GW, w36 = mwX ad28 m31 r30 → ((r13 = v32 → (wL_law_1473 c x0 x1 x2 x3 x4 w36 bb KL23 K)) ∧ (¬ r13 = v32 → (K ((0 : Int32)) w36))))))))))))
set_option maxRecDepth 100000 in
theorem bL_law_1346 {E : jE} (hE : jOk E cL_law RX0) (hn : E.2.2.2.2 = 7) (hR : jRoom E 2230 66818) {c : Nat → Option Nat} (hc : E.2.2.1.2.2.2 = c) (hst : E.1.2.1.stackTraces = false) {K : Int32 → GW → Prop} (hK : jRL E K) {x0 : Nat} {x1 : Nat} {x2 : Nat} {x3 : Nat} {x4 : Int32} {w : GW} {bb : Nat × Nat} {KL23 : Int32 × GW × (Nat × Nat) → Prop} (ih23 : ∀ s : Int32 × GW × (Nat × Nat), KL23 s → J E (s.2.1) (s.2.2) [(0, .ref (x0)), (1, .ref (x1)), (2, .ref (x2)), (3, .ref (x3)), (4, .int (s.1))] 23 []) (hw : wL_law_1346 c x0 x1 x2 x3 x4 w bb KL23 K) : J E w bb [(0, .ref (x0)), (1, .ref (x1)), (2, .ref (x2)), (3, .ref (x3)), (4, .int (x4))] 1346 [] := by
  unfold wL_law_1346 at hw
  refine j_aload_n hE 1 dL_law_1346 rfl rfl ?_
  refine j_aload_n hE 0 dL_law_1347 rfl rfl ?_
  refine j_iload hE 4 dL_law_1348 rfl ?_
  refine j_iconst hE dL_law_1350 kc_1 ?_
  refine j_iadd hE dL_law_1351 ?_
  obtain ⟨n1, f2, h3, h4, hw⟩ := hw
  refine j_aldI hE h3 h4 dL_law_1352 ?_
  refine j_aload_n hE 0 dL_law_1353 rfl rfl ?_
  refine j_iload hE 4 dL_law_1354 rfl ?_
  refine j_iconst hE dL_law_1356 kc_2 ?_
  refine j_iadd hE dL_law_1357 ?_
  obtain ⟨n5, f6, h7, h8, hw⟩ := hw
  refine j_aldI hE h7 h8 dL_law_1358 ?_
  refine j_aload_n hE 0 dL_law_1359 rfl rfl ?_
  refine j_iload hE 4 dL_law_1360 rfl ?_
  refine j_iconst hE dL_law_1362 kc_3 ?_
  refine j_iadd hE dL_law_1363 ?_
  obtain ⟨n9, f10, h11, h12, hw⟩ := hw
  refine j_aldI hE h11 h12 dL_law_1364 ?_
  obtain ⟨h14, hw⟩ := hw
  refine jc_i (jr_V hE hR (As := [.int (rd f2 (x4 + ((1 : Int32)))), .int (rd f6 (x4 + (nI 2))), .int (rd f10 (x4 + (nI 3)))]) (rest := []) ((ctX1_years E.1.2.1 E.2.2.1 hc _ _ _ _ _ _ hw) E.2.2.2.1) (lw_V q1502 q1503 q1504 q121 q1505) jdX1_years ⟨Nat.le_of_ble_eq_true rfl, Nat.le_of_ble_eq_true rfl⟩ ⟨Nat.zero_le _, Nat.zero_le _⟩ (gmc_gIs h14 (r := (RX1, TX1, 15)) rfl) rfl (Nat.le_of_ble_eq_true rfl) dL_law_1365) (fun r13 w15 hw => ?_)
  refine j_b0 ?_
  refine j_aload_n hE 2 dL_law_1368 rfl rfl ?_
  refine j_aload_n hE 0 dL_law_1369 rfl rfl ?_
  refine j_iload hE 4 dL_law_1370 rfl ?_
  refine j_iconst hE dL_law_1372 kc_1 ?_
  refine j_iadd hE dL_law_1373 ?_
  obtain ⟨n16, f17, h18, h19, hw⟩ := hw
  refine j_aldI hE h18 h19 dL_law_1374 ?_
  refine j_aload_n hE 0 dL_law_1375 rfl rfl ?_
  refine j_iload hE 4 dL_law_1376 rfl ?_
  refine j_iconst hE dL_law_1378 kc_2 ?_
  refine j_iadd hE dL_law_1379 ?_
  obtain ⟨n20, f21, h22, h23, hw⟩ := hw
  refine j_aldI hE h22 h23 dL_law_1380 ?_
  refine j_aload_n hE 0 dL_law_1381 rfl rfl ?_
  refine j_iload hE 4 dL_law_1382 rfl ?_
  refine j_iconst hE dL_law_1384 kc_3 ?_
  refine j_iadd hE dL_law_1385 ?_
  obtain ⟨n24, f25, h26, h27, hw⟩ := hw
  refine j_aldI hE h26 h27 dL_law_1386 ?_
  obtain ⟨ad28, m29, r30, h35, h34, h33, hw⟩ := hw
  rw [h34, h33]
  refine j_cvI hE hR (As := [.int (rd f17 (x4 + ((1 : Int32)))), .int (rd f21 (x4 + (nI 2))), .int (rd f25 (x4 + (nI 3)))]) (rest := [.int (r13)]) (ctX6_years E.1.2.1 E.2.2.1 h35 _ _ _ _ _ _ hw) (lw_V q2150 q2151 q2152 q129 q2153) jdX6_years ⟨Nat.le_of_ble_eq_true rfl, Nat.le_of_ble_eq_true rfl⟩ ⟨Nat.zero_le _, Nat.zero_le _⟩ (mIs h35) rfl (Nat.le_of_ble_eq_true rfl) dL_law_1387 (fun v32 u9 hk => ?_)
  obtain ⟨m31, e9, hw⟩ := hk
  subst e9
  (try rw [← h33])
  refine j_b0 ?_
  refine j_nw (fun w36 e_w36 => ?_)
  replace hw := hw w36 e_w36
  refine j_icmp_eq hE 1473 dL_law_1390 (by decide) (fun c37 => ?_) (fun c37 => ?_)
  · replace hw := hw.1 c37
    have hz := bL_law_1473 hE hn hR hc hst hK ih23 hw
    exact hz
  · replace hw := hw.2 c37
    refine j_iconst hE dL_law_1393 kc_0 ?_
    exact jl_iret hE hK dL_law_1394 rfl hw
def wL_law_1440 (c : Nat → Option Nat) (x0 : Nat) (x1 : Nat) (x2 : Nat) (x3 : Nat) (x4 : Int32) (s0 : Int32) (s1 : Nat) (s2 : Int32) (s3 : Int32) (w : GW) (bb : Nat × Nat) (KL23 : Int32 × GW × (Nat × Nat) → Prop) (K : Int32 → GW → Prop) : Prop :=
  ∃ (ad1 : Nat → Nat) (m2 : MS) (r3 : GW), adOk ad1 ∧ w = mwX ad1 m2 r3 ∧ s1 = ad1 0 ∧ wX6_notch s2 s3 m2 (fun v5 m4 => ∀ w9 : GW, w9 = mwX ad1 m4 r3 → ((s0 = v5 → (wL_law_1473 c x0 x1 x2 x3 x4 w9 bb KL23 K)) ∧ (¬ s0 = v5 → (K ((0 : Int32)) w9))))
set_option maxRecDepth 100000 in
theorem bL_law_1440 {E : jE} (hE : jOk E cL_law RX0) (hn : E.2.2.2.2 = 7) (hR : jRoom E 2230 66818) {c : Nat → Option Nat} (hc : E.2.2.1.2.2.2 = c) (hst : E.1.2.1.stackTraces = false) {K : Int32 → GW → Prop} (hK : jRL E K) {x0 : Nat} {x1 : Nat} {x2 : Nat} {x3 : Nat} {x4 : Int32} {s0 : Int32} {s1 : Nat} {s2 : Int32} {s3 : Int32} {w : GW} {bb : Nat × Nat} {KL23 : Int32 × GW × (Nat × Nat) → Prop} (ih23 : ∀ s : Int32 × GW × (Nat × Nat), KL23 s → J E (s.2.1) (s.2.2) [(0, .ref (x0)), (1, .ref (x1)), (2, .ref (x2)), (3, .ref (x3)), (4, .int (s.1))] 23 []) (hw : wL_law_1440 c x0 x1 x2 x3 x4 s0 s1 s2 s3 w bb KL23 K) : J E w bb [(0, .ref (x0)), (1, .ref (x1)), (2, .ref (x2)), (3, .ref (x3)), (4, .int (x4))] 1440 [.int (s3), .int (s2), .ref (s1), .int (s0)] := by
  unfold wL_law_1440 at hw
  obtain ⟨ad1, m2, r3, h8, h7, h6, hw⟩ := hw
  rw [h7, h6]
  refine j_cvI hE hR (As := [.int (s2), .int (s3)]) (rest := [.int (s0)]) (ctX6_notch E.1.2.1 E.2.2.1 h8 _ _ _ _ _ hw) (lw_V q2166 q2167 q2168 q129 q2169) jdX6_notch ⟨Nat.le_of_ble_eq_true rfl, Nat.le_of_ble_eq_true rfl⟩ ⟨Nat.zero_le _, Nat.zero_le _⟩ (mIs h8) rfl (Nat.le_of_ble_eq_true rfl) dL_law_1440 (fun v5 u9 hk => ?_)
  obtain ⟨m4, e9, hw⟩ := hk
  subst e9
  (try rw [← h6])
  refine j_b0 ?_
  refine j_nw (fun w9 e_w9 => ?_)
  replace hw := hw w9 e_w9
  refine j_icmp_eq hE 1473 dL_law_1443 (by decide) (fun c10 => ?_) (fun c10 => ?_)
  · replace hw := hw.1 c10
    have hz := bL_law_1473 hE hn hR hc hst hK ih23 hw
    exact hz
  · replace hw := hw.2 c10
    refine j_iconst hE dL_law_1446 kc_0 ?_
    exact jl_iret hE hK dL_law_1447 rfl hw
def wL_law_1416 (c : Nat → Option Nat) (x0 : Nat) (x1 : Nat) (x2 : Nat) (x3 : Nat) (x4 : Int32) (s0 : Nat) (s1 : Int32) (s2 : Int32) (w : GW) (bb : Nat × Nat) (KL23 : Int32 × GW × (Nat × Nat) → Prop) (K : Int32 → GW → Prop) : Prop :=
  gmc w s0 = some 0 ∧ (∃ cb3 : Nat × Nat, (cb3.1 ≤ bb.1 ∧ cb3.2 ≤ bb.2) ∧ (wX1_notch c s0 s1 s2 w cb3 (fun r1 w5 => ∀ b6 : Nat × Nat, b6 = (bb.1 - cb3.1, bb.2 - cb3.2) → (∃ (n7 : Nat) (f8 : Nat → Int32), gai w5 x0 0 = some (n7, f8) ∧ vp_in (x4 + ((1 : Int32))) n7 ∧ (∃ (n11 : Nat) (f12 : Nat → Int32), gai w5 x0 0 = some (n11, f12) ∧ vp_in (x4 + (nI 2)) n11 ∧ (((rd f12 (x4 + (nI 2))) = 0 → (wL_law_1440 c x0 x1 x2 x3 x4 r1 x2 (rd f8 (x4 + ((1 : Int32)))) ((0 : Int32)) w5 b6 KL23 K)) ∧ (¬ (rd f12 (x4 + (nI 2))) = 0 → (wL_law_1440 c x0 x1 x2 x3 x4 r1 x2 (rd f8 (x4 + ((1 : Int32)))) ((1 : Int32)) w5 b6 KL23 K))))))))
set_option maxRecDepth 100000 in
theorem bL_law_1416 {E : jE} (hE : jOk E cL_law RX0) (hn : E.2.2.2.2 = 7) (hR : jRoom E 2230 66818) {c : Nat → Option Nat} (hc : E.2.2.1.2.2.2 = c) (hst : E.1.2.1.stackTraces = false) {K : Int32 → GW → Prop} (hK : jRL E K) {x0 : Nat} {x1 : Nat} {x2 : Nat} {x3 : Nat} {x4 : Int32} {s0 : Nat} {s1 : Int32} {s2 : Int32} {w : GW} {bb : Nat × Nat} {KL23 : Int32 × GW × (Nat × Nat) → Prop} (ih23 : ∀ s : Int32 × GW × (Nat × Nat), KL23 s → J E (s.2.1) (s.2.2) [(0, .ref (x0)), (1, .ref (x1)), (2, .ref (x2)), (3, .ref (x3)), (4, .int (s.1))] 23 []) (hw : wL_law_1416 c x0 x1 x2 x3 x4 s0 s1 s2 w bb KL23 K) : J E w bb [(0, .ref (x0)), (1, .ref (x1)), (2, .ref (x2)), (3, .ref (x3)), (4, .int (x4))] 1416 [.int (s2), .int (s1), .ref (s0)] := by
  unfold wL_law_1416 at hw
  obtain ⟨h2, hw⟩ := hw
  obtain ⟨cb3, h4, hw⟩ := hw
  refine jc_i (jr_V hE hR (As := [.int (s1), .int (s2)]) (rest := []) ((ctX1_notch E.1.2.1 E.2.2.1 hc _ _ _ _ _ _ hw) E.2.2.2.1) (lw_V q1519 q1520 q1521 q121 q1522) jdX1_notch ⟨Nat.le_of_ble_eq_true rfl, Nat.le_of_ble_eq_true rfl⟩ h4 (gmc_gIs h2 (r := (RX1, TX1, 15)) rfl) rfl (Nat.le_of_ble_eq_true rfl) dL_law_1416) (fun r1 w5 hw => ?_)
  refine j_nb (fun b6 e_b6 => ?_)
  replace hw := hw b6 e_b6
  refine j_aload_n hE 2 dL_law_1419 rfl rfl ?_
  refine j_aload_n hE 0 dL_law_1420 rfl rfl ?_
  refine j_iload hE 4 dL_law_1421 rfl ?_
  refine j_iconst hE dL_law_1423 kc_1 ?_
  refine j_iadd hE dL_law_1424 ?_
  obtain ⟨n7, f8, h9, h10, hw⟩ := hw
  refine j_aldI hE h9 h10 dL_law_1425 ?_
  refine j_aload_n hE 0 dL_law_1426 rfl rfl ?_
  refine j_iload hE 4 dL_law_1427 rfl ?_
  refine j_iconst hE dL_law_1429 kc_2 ?_
  refine j_iadd hE dL_law_1430 ?_
  obtain ⟨n11, f12, h13, h14, hw⟩ := hw
  refine j_aldI hE h13 h14 dL_law_1431 ?_
  refine j_if_eq hE 1439 dL_law_1432 (by decide) (fun c15 => ?_) (fun c15 => ?_)
  · replace hw := hw.1 c15
    refine j_iconst hE dL_law_1439 kc_0 ?_
    have hz := bL_law_1440 hE hn hR hc hst hK ih23 hw
    exact hz
  · replace hw := hw.2 c15
    refine j_iconst hE dL_law_1435 kc_1 ?_
    refine j_goto hE 1440 dL_law_1436 (by decide) ?_
    have hz := bL_law_1440 hE hn hR hc hst hK ih23 hw
    exact hz
def wL_law_1395 (c : Nat → Option Nat) (x0 : Nat) (x1 : Nat) (x2 : Nat) (x3 : Nat) (x4 : Int32) (w : GW) (bb : Nat × Nat) (KL23 : Int32 × GW × (Nat × Nat) → Prop) (K : Int32 → GW → Prop) : Prop :=
  ∃ (n1 : Nat) (f2 : Nat → Int32), gai w x0 0 = some (n1, f2) ∧ vp_in (x4 + ((1 : Int32))) n1 ∧ (∃ (n5 : Nat) (f6 : Nat → Int32), gai w x0 0 = some (n5, f6) ∧ vp_in (x4 + (nI 2)) n5 ∧ (((rd f6 (x4 + (nI 2))) = 0 → (wL_law_1416 c x0 x1 x2 x3 x4 x1 (rd f2 (x4 + ((1 : Int32)))) ((0 : Int32)) w bb KL23 K)) ∧ (¬ (rd f6 (x4 + (nI 2))) = 0 → (wL_law_1416 c x0 x1 x2 x3 x4 x1 (rd f2 (x4 + ((1 : Int32)))) ((1 : Int32)) w bb KL23 K))))
set_option maxRecDepth 100000 in
theorem bL_law_1395 {E : jE} (hE : jOk E cL_law RX0) (hn : E.2.2.2.2 = 7) (hR : jRoom E 2230 66818) {c : Nat → Option Nat} (hc : E.2.2.1.2.2.2 = c) (hst : E.1.2.1.stackTraces = false) {K : Int32 → GW → Prop} (hK : jRL E K) {x0 : Nat} {x1 : Nat} {x2 : Nat} {x3 : Nat} {x4 : Int32} {w : GW} {bb : Nat × Nat} {KL23 : Int32 × GW × (Nat × Nat) → Prop} (ih23 : ∀ s : Int32 × GW × (Nat × Nat), KL23 s → J E (s.2.1) (s.2.2) [(0, .ref (x0)), (1, .ref (x1)), (2, .ref (x2)), (3, .ref (x3)), (4, .int (s.1))] 23 []) (hw : wL_law_1395 c x0 x1 x2 x3 x4 w bb KL23 K) : J E w bb [(0, .ref (x0)), (1, .ref (x1)), (2, .ref (x2)), (3, .ref (x3)), (4, .int (x4))] 1395 [] := by
  unfold wL_law_1395 at hw
  refine j_aload_n hE 1 dL_law_1395 rfl rfl ?_
  refine j_aload_n hE 0 dL_law_1396 rfl rfl ?_
  refine j_iload hE 4 dL_law_1397 rfl ?_
  refine j_iconst hE dL_law_1399 kc_1 ?_
  refine j_iadd hE dL_law_1400 ?_
  obtain ⟨n1, f2, h3, h4, hw⟩ := hw
  refine j_aldI hE h3 h4 dL_law_1401 ?_
  refine j_aload_n hE 0 dL_law_1402 rfl rfl ?_
  refine j_iload hE 4 dL_law_1403 rfl ?_
  refine j_iconst hE dL_law_1405 kc_2 ?_
  refine j_iadd hE dL_law_1406 ?_
  obtain ⟨n5, f6, h7, h8, hw⟩ := hw
  refine j_aldI hE h7 h8 dL_law_1407 ?_
  refine j_if_eq hE 1415 dL_law_1408 (by decide) (fun c9 => ?_) (fun c9 => ?_)
  · replace hw := hw.1 c9
    refine j_iconst hE dL_law_1415 kc_0 ?_
    have hz := bL_law_1416 hE hn hR hc hst hK ih23 hw
    exact hz
  · replace hw := hw.2 c9
    refine j_iconst hE dL_law_1411 kc_1 ?_
    refine j_goto hE 1416 dL_law_1412 (by decide) ?_
    have hz := bL_law_1416 hE hn hR hc hst hK ih23 hw
    exact hz
def wL_law_1448 (c : Nat → Option Nat) (x0 : Nat) (x1 : Nat) (x2 : Nat) (x3 : Nat) (x4 : Int32) (w : GW) (bb : Nat × Nat) (KL23 : Int32 × GW × (Nat × Nat) → Prop) (K : Int32 → GW → Prop) : Prop :=
  ∃ (n1 : Nat) (f2 : Nat → Int32), gai w x0 0 = some (n1, f2) ∧ vp_in (x4 + ((1 : Int32))) n1 ∧ (gmc w x1 = some 0 ∧ (wX1_count c x1 (rd f2 (x4 + ((1 : Int32)))) w (fun r5 => ∃ (n7 : Nat) (f8 : Nat → Int32), gai w x0 0 = some (n7, f8) ∧ vp_in (x4 + ((1 : Int32))) n7 ∧ (∃ (ad11 : Nat → Nat) (m12 : MS) (r13 : GW), adOk ad11 ∧ w = mwX ad11 m12 r13 ∧ x2 = ad11 0 ∧ wX6_count (rd f8 (x4 + ((1 : Int32)))) m12 (fun v15 m14 => ∀ w19 : GW, w19 = mwX ad11 m14 r13 → ((r5 = v15 → (wL_law_1473 c x0 x1 x2 x3 x4 w19 bb KL23 K)) ∧ (¬ r5 = v15 → (K ((0 : Int32)) w19))))))))
set_option maxRecDepth 100000 in
theorem bL_law_1448 {E : jE} (hE : jOk E cL_law RX0) (hn : E.2.2.2.2 = 7) (hR : jRoom E 2230 66818) {c : Nat → Option Nat} (hc : E.2.2.1.2.2.2 = c) (hst : E.1.2.1.stackTraces = false) {K : Int32 → GW → Prop} (hK : jRL E K) {x0 : Nat} {x1 : Nat} {x2 : Nat} {x3 : Nat} {x4 : Int32} {w : GW} {bb : Nat × Nat} {KL23 : Int32 × GW × (Nat × Nat) → Prop} (ih23 : ∀ s : Int32 × GW × (Nat × Nat), KL23 s → J E (s.2.1) (s.2.2) [(0, .ref (x0)), (1, .ref (x1)), (2, .ref (x2)), (3, .ref (x3)), (4, .int (s.1))] 23 []) (hw : wL_law_1448 c x0 x1 x2 x3 x4 w bb KL23 K) : J E w bb [(0, .ref (x0)), (1, .ref (x1)), (2, .ref (x2)), (3, .ref (x3)), (4, .int (x4))] 1448 [] := by
  unfold wL_law_1448 at hw
  refine j_aload_n hE 1 dL_law_1448 rfl rfl ?_
  refine j_aload_n hE 0 dL_law_1449 rfl rfl ?_
  refine j_iload hE 4 dL_law_1450 rfl ?_
  refine j_iconst hE dL_law_1452 kc_1 ?_
  refine j_iadd hE dL_law_1453 ?_
  obtain ⟨n1, f2, h3, h4, hw⟩ := hw
  refine j_aldI hE h3 h4 dL_law_1454 ?_
  obtain ⟨h6, hw⟩ := hw
  refine jc_ip (jr_V hE hR (As := [.int (rd f2 (x4 + ((1 : Int32))))]) (rest := []) ((ctX1_count E.1.2.1 E.2.2.1 hc _ _ _ _ hw) E.2.2.2.1) (lw_V q1540 q1541 q1542 q121 q1543) jdX1_count ⟨Nat.le_of_ble_eq_true rfl, Nat.le_of_ble_eq_true rfl⟩ ⟨Nat.zero_le _, Nat.zero_le _⟩ (gmc_gIs h6 (r := (RX1, TX1, 15)) rfl) rfl (Nat.le_of_ble_eq_true rfl) dL_law_1455) (fun r5 hw => ?_)
  refine j_b0 ?_
  refine j_aload_n hE 2 dL_law_1458 rfl rfl ?_
  refine j_aload_n hE 0 dL_law_1459 rfl rfl ?_
  refine j_iload hE 4 dL_law_1460 rfl ?_
  refine j_iconst hE dL_law_1462 kc_1 ?_
  refine j_iadd hE dL_law_1463 ?_
  obtain ⟨n7, f8, h9, h10, hw⟩ := hw
  refine j_aldI hE h9 h10 dL_law_1464 ?_
  obtain ⟨ad11, m12, r13, h18, h17, h16, hw⟩ := hw
  rw [h17, h16]
  refine j_cvI hE hR (As := [.int (rd f8 (x4 + ((1 : Int32))))]) (rest := [.int (r5)]) (ctX6_count E.1.2.1 E.2.2.1 h18 _ _ _ _ hw) (lw_V q2170 q2171 q2172 q129 q2173) jdX6_count ⟨Nat.le_of_ble_eq_true rfl, Nat.le_of_ble_eq_true rfl⟩ ⟨Nat.zero_le _, Nat.zero_le _⟩ (mIs h18) rfl (Nat.le_of_ble_eq_true rfl) dL_law_1465 (fun v15 u9 hk => ?_)
  obtain ⟨m14, e9, hw⟩ := hk
  subst e9
  (try rw [← h16])
  refine j_b0 ?_
  refine j_nw (fun w19 e_w19 => ?_)
  replace hw := hw w19 e_w19
  refine j_icmp_eq hE 1473 dL_law_1468 (by decide) (fun c20 => ?_) (fun c20 => ?_)
  · replace hw := hw.1 c20
    have hz := bL_law_1473 hE hn hR hc hst hK ih23 hw
    exact hz
  · replace hw := hw.2 c20
    refine j_iconst hE dL_law_1471 kc_0 ?_
    exact jl_iret hE hK dL_law_1472 rfl hw
def wL_law_23_b (c : Nat → Option Nat) (x0 : Nat) (x1 : Nat) (x2 : Nat) (x3 : Nat) (x4 : Int32) (w : GW) (bb : Nat × Nat) (KL23 : Int32 × GW × (Nat × Nat) → Prop) (K : Int32 → GW → Prop) : Prop :=
  ∃ n1 : Nat, galen w x0 0 = some n1 ∧ ((((nI n1) - (nI 7)) < x4 → (K ((1 : Int32)) w)) ∧ (¬ ((nI n1) - (nI 7)) < x4 → (∃ (n6 : Nat) (f7 : Nat → Int32), gai w x0 0 = some (n6, f7) ∧ vp_in x4 n6 ∧ ((((rd f7 x4) &&& (nI 63)) = 0 → (wL_law_216 c x0 x1 x2 x3 x4 w bb KL23 K)) ∧ (¬ ((rd f7 x4) &&& (nI 63)) = 0 → (((rd f7 x4) &&& (nI 63)) = 1 → (wL_law_363 c x0 x1 x2 x3 x4 w bb KL23 K)) ∧ (¬ ((rd f7 x4) &&& (nI 63)) = 1 → (((rd f7 x4) &&& (nI 63)) = nI 2 → (wL_law_376 c x0 x1 x2 x3 x4 w bb KL23 K)) ∧ (¬ ((rd f7 x4) &&& (nI 63)) = nI 2 → (((rd f7 x4) &&& (nI 63)) = nI 3 → (wL_law_389 c x0 x1 x2 x3 x4 w bb KL23 K)) ∧ (¬ ((rd f7 x4) &&& (nI 63)) = nI 3 → (((rd f7 x4) &&& (nI 63)) = nI 4 → (wL_law_426 c x0 x1 x2 x3 x4 w bb KL23 K)) ∧ (¬ ((rd f7 x4) &&& (nI 63)) = nI 4 → (((rd f7 x4) &&& (nI 63)) = nI 5 → (wL_law_475 c x0 x1 x2 x3 x4 w bb KL23 K)) ∧ (¬ ((rd f7 x4) &&& (nI 63)) = nI 5 → (((rd f7 x4) &&& (nI 63)) = nI 6 → (wL_law_500 c x0 x1 x2 x3 x4 w bb KL23 K)) ∧ (¬ ((rd f7 x4) &&& (nI 63)) = nI 6 → (((rd f7 x4) &&& (nI 63)) = nI 7 → (wL_law_537 c x0 x1 x2 x3 x4 w bb KL23 K)) ∧ (¬ ((rd f7 x4) &&& (nI 63)) = nI 7 → (((rd f7 x4) &&& (nI 63)) = nI 8 → (wL_law_574 c x0 x1 x2 x3 x4 w bb KL23 K)) ∧ (¬ ((rd f7 x4) &&& (nI 63)) = nI 8 → (((rd f7 x4) &&& (nI 63)) = nI 9 → (wL_law_599 c x0 x1 x2 x3 x4 w bb KL23 K)) ∧ (¬ ((rd f7 x4) &&& (nI 63)) = nI 9 → (((rd f7 x4) &&& (nI 63)) = nI 10 → (wL_law_624 c x0 x1 x2 x3 x4 w bb KL23 K)) ∧ (¬ ((rd f7 x4) &&& (nI 63)) = nI 10 → (((rd f7 x4) &&& (nI 63)) = nI 11 → (wL_law_649 c x0 x1 x2 x3 x4 w bb KL23 K)) ∧ (¬ ((rd f7 x4) &&& (nI 63)) = nI 11 → (((rd f7 x4) &&& (nI 63)) = nI 12 → (wL_law_662 c x0 x1 x2 x3 x4 w bb KL23 K)) ∧ (¬ ((rd f7 x4) &&& (nI 63)) = nI 12 → (((rd f7 x4) &&& (nI 63)) = nI 13 → (wL_law_675 c x0 x1 x2 x3 x4 w bb KL23 K)) ∧ (¬ ((rd f7 x4) &&& (nI 63)) = nI 13 → (((rd f7 x4) &&& (nI 63)) = nI 14 → (wL_law_700 c x0 x1 x2 x3 x4 w bb KL23 K)) ∧ (¬ ((rd f7 x4) &&& (nI 63)) = nI 14 → (((rd f7 x4) &&& (nI 63)) = nI 15 → (wL_law_725 c x0 x1 x2 x3 x4 w bb KL23 K)) ∧ (¬ ((rd f7 x4) &&& (nI 63)) = nI 15 → (((rd f7 x4) &&& (nI 63)) = nI 16 → (wL_law_738 c x0 x1 x2 x3 x4 w bb KL23 K)) ∧ (¬ ((rd f7 x4) &&& (nI 63)) = nI 16 → (((rd f7 x4) &&& (nI 63)) = nI 17 → (wL_law_775 c x0 x1 x2 x3 x4 w bb KL23 K)) ∧ (¬ ((rd f7 x4) &&& (nI 63)) = nI 17 → (((rd f7 x4) &&& (nI 63)) = nI 18 → (wL_law_812 c x0 x1 x2 x3 x4 w bb KL23 K)) ∧ (¬ ((rd f7 x4) &&& (nI 63)) = nI 18 → (((rd f7 x4) &&& (nI 63)) = nI 19 → (wL_law_849 c x0 x1 x2 x3 x4 w bb KL23 K)) ∧ (¬ ((rd f7 x4) &&& (nI 63)) = nI 19 → (((rd f7 x4) &&& (nI 63)) = nI 20 → (wL_law_874 c x0 x1 x2 x3 x4 w bb KL23 K)) ∧ (¬ ((rd f7 x4) &&& (nI 63)) = nI 20 → (((rd f7 x4) &&& (nI 63)) = nI 21 → (wL_law_927 c x0 x1 x2 x3 x4 w bb KL23 K)) ∧ (¬ ((rd f7 x4) &&& (nI 63)) = nI 21 → (((rd f7 x4) &&& (nI 63)) = nI 22 → (wL_law_940 c x0 x1 x2 x3 x4 w bb KL23 K)) ∧ (¬ ((rd f7 x4) &&& (nI 63)) = nI 22 → (((rd f7 x4) &&& (nI 63)) = nI 23 → (wL_law_953 c x0 x1 x2 x3 x4 w bb KL23 K)) ∧ (¬ ((rd f7 x4) &&& (nI 63)) = nI 23 → (((rd f7 x4) &&& (nI 63)) = nI 24 → (wL_law_978 c x0 x1 x2 x3 x4 w bb KL23 K)) ∧ (¬ ((rd f7 x4) &&& (nI 63)) = nI 24 → (((rd f7 x4) &&& (nI 63)) = nI 25 → (wL_law_1003 c x0 x1 x2 x3 x4 w bb KL23 K)) ∧ (¬ ((rd f7 x4) &&& (nI 63)) = nI 25 → (((rd f7 x4) &&& (nI 63)) = nI 26 → (wL_law_1028 c x0 x1 x2 x3 x4 w bb KL23 K)) ∧ (¬ ((rd f7 x4) &&& (nI 63)) = nI 26 → (((rd f7 x4) &&& (nI 63)) = nI 27 → (wL_law_1041 c x0 x1 x2 x3 x4 w bb KL23 K)) ∧ (¬ ((rd f7 x4) &&& (nI 63)) = nI 27 → (((rd f7 x4) &&& (nI 63)) = nI 28 → (wL_law_1054 c x0 x1 x2 x3 x4 w bb KL23 K)) ∧ (¬ ((rd f7 x4) &&& (nI 63)) = nI 28 → (((rd f7 x4) &&& (nI 63)) = nI 29 → (wL_law_1079 c x0 x1 x2 x3 x4 w bb KL23 K)) ∧ (¬ ((rd f7 x4) &&& (nI 63)) = nI 29 → (((rd f7 x4) &&& (nI 63)) = nI 30 → (wL_law_1104 c x0 x1 x2 x3 x4 w bb KL23 K)) ∧ (¬ ((rd f7 x4) &&& (nI 63)) = nI 30 → (((rd f7 x4) &&& (nI 63)) = nI 31 → (wL_law_1129 c x0 x1 x2 x3 x4 w bb KL23 K)) ∧ (¬ ((rd f7 x4) &&& (nI 63)) = nI 31 → (((rd f7 x4) &&& (nI 63)) = nI 32 → (wL_law_1142 c x0 x1 x2 x3 x4 w bb KL23 K)) ∧ (¬ ((rd f7 x4) &&& (nI 63)) = nI 32 → (((rd f7 x4) &&& (nI 63)) = nI 33 → (wL_law_1155 c x0 x1 x2 x3 x4 w bb KL23 K)) ∧ (¬ ((rd f7 x4) &&& (nI 63)) = nI 33 → (((rd f7 x4) &&& (nI 63)) = nI 34 → (wL_law_1192 c x0 x1 x2 x3 x4 w bb KL23 K)) ∧ (¬ ((rd f7 x4) &&& (nI 63)) = nI 34 → (((rd f7 x4) &&& (nI 63)) = nI 35 → (wL_law_1229 c x0 x1 x2 x3 x4 w bb KL23 K)) ∧ (¬ ((rd f7 x4) &&& (nI 63)) = nI 35 → (((rd f7 x4) &&& (nI 63)) = nI 36 → (wL_law_1254 c x0 x1 x2 x3 x4 w bb KL23 K)) ∧ (¬ ((rd f7 x4) &&& (nI 63)) = nI 36 → (((rd f7 x4) &&& (nI 63)) = nI 37 → (wL_law_1346 c x0 x1 x2 x3 x4 w bb KL23 K)) ∧ (¬ ((rd f7 x4) &&& (nI 63)) = nI 37 → (((rd f7 x4) &&& (nI 63)) = nI 38 → (wL_law_1395 c x0 x1 x2 x3 x4 w bb KL23 K)) ∧ (¬ ((rd f7 x4) &&& (nI 63)) = nI 38 → (((rd f7 x4) &&& (nI 63)) = nI 39 → (wL_law_1448 c x0 x1 x2 x3 x4 w bb KL23 K)) ∧ (¬ ((rd f7 x4) &&& (nI 63)) = nI 39 → (wL_law_1473 c x0 x1 x2 x3 x4 w bb KL23 K)))))))))))))))))))))))))))))))))))))))))))))
def wL_law_23 (c : Nat → Option Nat) (x0 : Nat) (x1 : Nat) (x2 : Nat) (x3 : Nat) (x4 : Int32) (w : GW) (bb : Nat × Nat) (K : Int32 → GW → Prop) : Prop := lfp (σ := Int32 × GW × (Nat × Nat)) (fun KL s => wL_law_23_b c x0 x1 x2 x3 s.1 s.2.1 s.2.2 KL K) (x4, w, bb)
set_option maxRecDepth 100000 in
theorem bL_law_23 {E : jE} (hE : jOk E cL_law RX0) (hn : E.2.2.2.2 = 7) (hR : jRoom E 2230 66818) {c : Nat → Option Nat} (hc : E.2.2.1.2.2.2 = c) (hst : E.1.2.1.stackTraces = false) {K : Int32 → GW → Prop} (hK : jRL E K) {x0 : Nat} {x1 : Nat} {x2 : Nat} {x3 : Nat} {x4 : Int32} {w : GW} {bb : Nat × Nat}  (hw : wL_law_23 c x0 x1 x2 x3 x4 w bb K) : J E w bb [(0, .ref (x0)), (1, .ref (x1)), (2, .ref (x2)), (3, .ref (x3)), (4, .int (x4))] 23 [] := by
  refine lfp_sound (σ := Int32 × GW × (Nat × Nat)) (F := fun KL s => wL_law_23_b c x0 x1 x2 x3 s.1 s.2.1 s.2.2 KL K) (P := fun s => J E (s.2.1) (s.2.2) [(0, .ref (x0)), (1, .ref (x1)), (2, .ref (x2)), (3, .ref (x3)), (4, .int (s.1))] 23 []) ?_ hw
  clear hw
  rintro KL23 ⟨x4, w, bb⟩ hw ih23
  have hw : wL_law_23_b c x0 x1 x2 x3 x4 w bb KL23 K := hw
  unfold wL_law_23_b at hw
  refine j_iload hE 4 dL_law_23 rfl ?_
  refine j_aload_n hE 0 dL_law_25 rfl rfl ?_
  obtain ⟨n1, h3, hw⟩ := hw
  refine j_alen hE h3 (Nat.le_of_ble_eq_true rfl) dL_law_26 ?_
  refine j_bipush hE dL_law_27 kb_7 ?_
  refine j_isub hE dL_law_29 ?_
  refine j_icmp_gt hE 1479 dL_law_30 (by decide) (fun c5 => ?_) (fun c5 => ?_)
  · replace hw := hw.1 c5
    refine j_iconst hE dL_law_1479 kc_1 ?_
    exact jl_iret hE hK dL_law_1480 rfl hw
  · replace hw := hw.2 c5
    refine j_aload_n hE 0 dL_law_33 rfl rfl ?_
    refine j_iload hE 4 dL_law_34 rfl ?_
    obtain ⟨n6, f7, h8, h9, hw⟩ := hw
    refine j_aldI hE h8 h9 dL_law_36 ?_
    refine j_bipush hE dL_law_37 kb_63 ?_
    refine j_iand hE dL_law_39 ?_
    by_cases c10 : ((rd f7 x4) &&& (nI 63)) = 0
    · replace hw := hw.1 c10
      refine j_tin hE 216 dL_law_40 (by rw [c10] <;> decide) (by rw [c10] <;> decide) (by rw [c10] <;> rfl) (by decide) ?_
      have hz := bL_law_216 hE hn hR hc hst hK ih23 hw
      exact hz
    replace hw := hw.2 c10
    by_cases c11 : ((rd f7 x4) &&& (nI 63)) = 1
    · replace hw := hw.1 c11
      refine j_tin hE 363 dL_law_40 (by rw [c11] <;> decide) (by rw [c11] <;> decide) (by rw [c11] <;> rfl) (by decide) ?_
      have hz := bL_law_363 hE hn hR hc hst hK ih23 hw
      exact hz
    replace hw := hw.2 c11
    by_cases c12 : ((rd f7 x4) &&& (nI 63)) = nI 2
    · replace hw := hw.1 c12
      refine j_tin hE 376 dL_law_40 (by rw [c12] <;> decide) (by rw [c12] <;> decide) (by rw [c12] <;> rfl) (by decide) ?_
      have hz := bL_law_376 hE hn hR hc hst hK ih23 hw
      exact hz
    replace hw := hw.2 c12
    by_cases c13 : ((rd f7 x4) &&& (nI 63)) = nI 3
    · replace hw := hw.1 c13
      refine j_tin hE 389 dL_law_40 (by rw [c13] <;> decide) (by rw [c13] <;> decide) (by rw [c13] <;> rfl) (by decide) ?_
      have hz := bL_law_389 hE hn hR hc hst hK ih23 hw
      exact hz
    replace hw := hw.2 c13
    by_cases c14 : ((rd f7 x4) &&& (nI 63)) = nI 4
    · replace hw := hw.1 c14
      refine j_tin hE 426 dL_law_40 (by rw [c14] <;> decide) (by rw [c14] <;> decide) (by rw [c14] <;> rfl) (by decide) ?_
      have hz := bL_law_426 hE hn hR hc hst hK ih23 hw
      exact hz
    replace hw := hw.2 c14
    by_cases c15 : ((rd f7 x4) &&& (nI 63)) = nI 5
    · replace hw := hw.1 c15
      refine j_tin hE 475 dL_law_40 (by rw [c15] <;> decide) (by rw [c15] <;> decide) (by rw [c15] <;> rfl) (by decide) ?_
      have hz := bL_law_475 hE hn hR hc hst hK ih23 hw
      exact hz
    replace hw := hw.2 c15
    by_cases c16 : ((rd f7 x4) &&& (nI 63)) = nI 6
    · replace hw := hw.1 c16
      refine j_tin hE 500 dL_law_40 (by rw [c16] <;> decide) (by rw [c16] <;> decide) (by rw [c16] <;> rfl) (by decide) ?_
      have hz := bL_law_500 hE hn hR hc hst hK ih23 hw
      exact hz
    replace hw := hw.2 c16
    by_cases c17 : ((rd f7 x4) &&& (nI 63)) = nI 7
    · replace hw := hw.1 c17
      refine j_tin hE 537 dL_law_40 (by rw [c17] <;> decide) (by rw [c17] <;> decide) (by rw [c17] <;> rfl) (by decide) ?_
      have hz := bL_law_537 hE hn hR hc hst hK ih23 hw
      exact hz
    replace hw := hw.2 c17
    by_cases c18 : ((rd f7 x4) &&& (nI 63)) = nI 8
    · replace hw := hw.1 c18
      refine j_tin hE 574 dL_law_40 (by rw [c18] <;> decide) (by rw [c18] <;> decide) (by rw [c18] <;> rfl) (by decide) ?_
      have hz := bL_law_574 hE hn hR hc hst hK ih23 hw
      exact hz
    replace hw := hw.2 c18
    by_cases c19 : ((rd f7 x4) &&& (nI 63)) = nI 9
    · replace hw := hw.1 c19
      refine j_tin hE 599 dL_law_40 (by rw [c19] <;> decide) (by rw [c19] <;> decide) (by rw [c19] <;> rfl) (by decide) ?_
      have hz := bL_law_599 hE hn hR hc hst hK ih23 hw
      exact hz
    replace hw := hw.2 c19
    by_cases c20 : ((rd f7 x4) &&& (nI 63)) = nI 10
    · replace hw := hw.1 c20
      refine j_tin hE 624 dL_law_40 (by rw [c20] <;> decide) (by rw [c20] <;> decide) (by rw [c20] <;> rfl) (by decide) ?_
      have hz := bL_law_624 hE hn hR hc hst hK ih23 hw
      exact hz
    replace hw := hw.2 c20
    by_cases c21 : ((rd f7 x4) &&& (nI 63)) = nI 11
    · replace hw := hw.1 c21
      refine j_tin hE 649 dL_law_40 (by rw [c21] <;> decide) (by rw [c21] <;> decide) (by rw [c21] <;> rfl) (by decide) ?_
      have hz := bL_law_649 hE hn hR hc hst hK ih23 hw
      exact hz
    replace hw := hw.2 c21
    by_cases c22 : ((rd f7 x4) &&& (nI 63)) = nI 12
    · replace hw := hw.1 c22
      refine j_tin hE 662 dL_law_40 (by rw [c22] <;> decide) (by rw [c22] <;> decide) (by rw [c22] <;> rfl) (by decide) ?_
      have hz := bL_law_662 hE hn hR hc hst hK ih23 hw
      exact hz
    replace hw := hw.2 c22
    by_cases c23 : ((rd f7 x4) &&& (nI 63)) = nI 13
    · replace hw := hw.1 c23
      refine j_tin hE 675 dL_law_40 (by rw [c23] <;> decide) (by rw [c23] <;> decide) (by rw [c23] <;> rfl) (by decide) ?_
      have hz := bL_law_675 hE hn hR hc hst hK ih23 hw
      exact hz
    replace hw := hw.2 c23
    by_cases c24 : ((rd f7 x4) &&& (nI 63)) = nI 14
    · replace hw := hw.1 c24
      refine j_tin hE 700 dL_law_40 (by rw [c24] <;> decide) (by rw [c24] <;> decide) (by rw [c24] <;> rfl) (by decide) ?_
      have hz := bL_law_700 hE hn hR hc hst hK ih23 hw
      exact hz
    replace hw := hw.2 c24
    by_cases c25 : ((rd f7 x4) &&& (nI 63)) = nI 15
    · replace hw := hw.1 c25
      refine j_tin hE 725 dL_law_40 (by rw [c25] <;> decide) (by rw [c25] <;> decide) (by rw [c25] <;> rfl) (by decide) ?_
      have hz := bL_law_725 hE hn hR hc hst hK ih23 hw
      exact hz
    replace hw := hw.2 c25
    by_cases c26 : ((rd f7 x4) &&& (nI 63)) = nI 16
    · replace hw := hw.1 c26
      refine j_tin hE 738 dL_law_40 (by rw [c26] <;> decide) (by rw [c26] <;> decide) (by rw [c26] <;> rfl) (by decide) ?_
      have hz := bL_law_738 hE hn hR hc hst hK ih23 hw
      exact hz
    replace hw := hw.2 c26
    by_cases c27 : ((rd f7 x4) &&& (nI 63)) = nI 17
    · replace hw := hw.1 c27
      refine j_tin hE 775 dL_law_40 (by rw [c27] <;> decide) (by rw [c27] <;> decide) (by rw [c27] <;> rfl) (by decide) ?_
      have hz := bL_law_775 hE hn hR hc hst hK ih23 hw
      exact hz
    replace hw := hw.2 c27
    by_cases c28 : ((rd f7 x4) &&& (nI 63)) = nI 18
    · replace hw := hw.1 c28
      refine j_tin hE 812 dL_law_40 (by rw [c28] <;> decide) (by rw [c28] <;> decide) (by rw [c28] <;> rfl) (by decide) ?_
      have hz := bL_law_812 hE hn hR hc hst hK ih23 hw
      exact hz
    replace hw := hw.2 c28
    by_cases c29 : ((rd f7 x4) &&& (nI 63)) = nI 19
    · replace hw := hw.1 c29
      refine j_tin hE 849 dL_law_40 (by rw [c29] <;> decide) (by rw [c29] <;> decide) (by rw [c29] <;> rfl) (by decide) ?_
      have hz := bL_law_849 hE hn hR hc hst hK ih23 hw
      exact hz
    replace hw := hw.2 c29
    by_cases c30 : ((rd f7 x4) &&& (nI 63)) = nI 20
    · replace hw := hw.1 c30
      refine j_tin hE 874 dL_law_40 (by rw [c30] <;> decide) (by rw [c30] <;> decide) (by rw [c30] <;> rfl) (by decide) ?_
      have hz := bL_law_874 hE hn hR hc hst hK ih23 hw
      exact hz
    replace hw := hw.2 c30
    by_cases c31 : ((rd f7 x4) &&& (nI 63)) = nI 21
    · replace hw := hw.1 c31
      refine j_tin hE 927 dL_law_40 (by rw [c31] <;> decide) (by rw [c31] <;> decide) (by rw [c31] <;> rfl) (by decide) ?_
      have hz := bL_law_927 hE hn hR hc hst hK ih23 hw
      exact hz
    replace hw := hw.2 c31
    by_cases c32 : ((rd f7 x4) &&& (nI 63)) = nI 22
    · replace hw := hw.1 c32
      refine j_tin hE 940 dL_law_40 (by rw [c32] <;> decide) (by rw [c32] <;> decide) (by rw [c32] <;> rfl) (by decide) ?_
      have hz := bL_law_940 hE hn hR hc hst hK ih23 hw
      exact hz
    replace hw := hw.2 c32
    by_cases c33 : ((rd f7 x4) &&& (nI 63)) = nI 23
    · replace hw := hw.1 c33
      refine j_tin hE 953 dL_law_40 (by rw [c33] <;> decide) (by rw [c33] <;> decide) (by rw [c33] <;> rfl) (by decide) ?_
      have hz := bL_law_953 hE hn hR hc hst hK ih23 hw
      exact hz
    replace hw := hw.2 c33
    by_cases c34 : ((rd f7 x4) &&& (nI 63)) = nI 24
    · replace hw := hw.1 c34
      refine j_tin hE 978 dL_law_40 (by rw [c34] <;> decide) (by rw [c34] <;> decide) (by rw [c34] <;> rfl) (by decide) ?_
      have hz := bL_law_978 hE hn hR hc hst hK ih23 hw
      exact hz
    replace hw := hw.2 c34
    by_cases c35 : ((rd f7 x4) &&& (nI 63)) = nI 25
    · replace hw := hw.1 c35
      refine j_tin hE 1003 dL_law_40 (by rw [c35] <;> decide) (by rw [c35] <;> decide) (by rw [c35] <;> rfl) (by decide) ?_
      have hz := bL_law_1003 hE hn hR hc hst hK ih23 hw
      exact hz
    replace hw := hw.2 c35
    by_cases c36 : ((rd f7 x4) &&& (nI 63)) = nI 26
    · replace hw := hw.1 c36
      refine j_tin hE 1028 dL_law_40 (by rw [c36] <;> decide) (by rw [c36] <;> decide) (by rw [c36] <;> rfl) (by decide) ?_
      have hz := bL_law_1028 hE hn hR hc hst hK ih23 hw
      exact hz
    replace hw := hw.2 c36
    by_cases c37 : ((rd f7 x4) &&& (nI 63)) = nI 27
    · replace hw := hw.1 c37
      refine j_tin hE 1041 dL_law_40 (by rw [c37] <;> decide) (by rw [c37] <;> decide) (by rw [c37] <;> rfl) (by decide) ?_
      have hz := bL_law_1041 hE hn hR hc hst hK ih23 hw
      exact hz
    replace hw := hw.2 c37
    by_cases c38 : ((rd f7 x4) &&& (nI 63)) = nI 28
    · replace hw := hw.1 c38
      refine j_tin hE 1054 dL_law_40 (by rw [c38] <;> decide) (by rw [c38] <;> decide) (by rw [c38] <;> rfl) (by decide) ?_
      have hz := bL_law_1054 hE hn hR hc hst hK ih23 hw
      exact hz
    replace hw := hw.2 c38
    by_cases c39 : ((rd f7 x4) &&& (nI 63)) = nI 29
    · replace hw := hw.1 c39
      refine j_tin hE 1079 dL_law_40 (by rw [c39] <;> decide) (by rw [c39] <;> decide) (by rw [c39] <;> rfl) (by decide) ?_
      have hz := bL_law_1079 hE hn hR hc hst hK ih23 hw
      exact hz
    replace hw := hw.2 c39
    by_cases c40 : ((rd f7 x4) &&& (nI 63)) = nI 30
    · replace hw := hw.1 c40
      refine j_tin hE 1104 dL_law_40 (by rw [c40] <;> decide) (by rw [c40] <;> decide) (by rw [c40] <;> rfl) (by decide) ?_
      have hz := bL_law_1104 hE hn hR hc hst hK ih23 hw
      exact hz
    replace hw := hw.2 c40
    by_cases c41 : ((rd f7 x4) &&& (nI 63)) = nI 31
    · replace hw := hw.1 c41
      refine j_tin hE 1129 dL_law_40 (by rw [c41] <;> decide) (by rw [c41] <;> decide) (by rw [c41] <;> rfl) (by decide) ?_
      have hz := bL_law_1129 hE hn hR hc hst hK ih23 hw
      exact hz
    replace hw := hw.2 c41
    by_cases c42 : ((rd f7 x4) &&& (nI 63)) = nI 32
    · replace hw := hw.1 c42
      refine j_tin hE 1142 dL_law_40 (by rw [c42] <;> decide) (by rw [c42] <;> decide) (by rw [c42] <;> rfl) (by decide) ?_
      have hz := bL_law_1142 hE hn hR hc hst hK ih23 hw
      exact hz
    replace hw := hw.2 c42
    by_cases c43 : ((rd f7 x4) &&& (nI 63)) = nI 33
    · replace hw := hw.1 c43
      refine j_tin hE 1155 dL_law_40 (by rw [c43] <;> decide) (by rw [c43] <;> decide) (by rw [c43] <;> rfl) (by decide) ?_
      have hz := bL_law_1155 hE hn hR hc hst hK ih23 hw
      exact hz
    replace hw := hw.2 c43
    by_cases c44 : ((rd f7 x4) &&& (nI 63)) = nI 34
    · replace hw := hw.1 c44
      refine j_tin hE 1192 dL_law_40 (by rw [c44] <;> decide) (by rw [c44] <;> decide) (by rw [c44] <;> rfl) (by decide) ?_
      have hz := bL_law_1192 hE hn hR hc hst hK ih23 hw
      exact hz
    replace hw := hw.2 c44
    by_cases c45 : ((rd f7 x4) &&& (nI 63)) = nI 35
    · replace hw := hw.1 c45
      refine j_tin hE 1229 dL_law_40 (by rw [c45] <;> decide) (by rw [c45] <;> decide) (by rw [c45] <;> rfl) (by decide) ?_
      have hz := bL_law_1229 hE hn hR hc hst hK ih23 hw
      exact hz
    replace hw := hw.2 c45
    by_cases c46 : ((rd f7 x4) &&& (nI 63)) = nI 36
    · replace hw := hw.1 c46
      refine j_tin hE 1254 dL_law_40 (by rw [c46] <;> decide) (by rw [c46] <;> decide) (by rw [c46] <;> rfl) (by decide) ?_
      have hz := bL_law_1254 hE hn hR hc hst hK ih23 hw
      exact hz
    replace hw := hw.2 c46
    by_cases c47 : ((rd f7 x4) &&& (nI 63)) = nI 37
    · replace hw := hw.1 c47
      refine j_tin hE 1346 dL_law_40 (by rw [c47] <;> decide) (by rw [c47] <;> decide) (by rw [c47] <;> rfl) (by decide) ?_
      have hz := bL_law_1346 hE hn hR hc hst hK ih23 hw
      exact hz
    replace hw := hw.2 c47
    by_cases c48 : ((rd f7 x4) &&& (nI 63)) = nI 38
    · replace hw := hw.1 c48
      refine j_tin hE 1395 dL_law_40 (by rw [c48] <;> decide) (by rw [c48] <;> decide) (by rw [c48] <;> rfl) (by decide) ?_
      have hz := bL_law_1395 hE hn hR hc hst hK ih23 hw
      exact hz
    replace hw := hw.2 c48
    by_cases c49 : ((rd f7 x4) &&& (nI 63)) = nI 39
    · replace hw := hw.1 c49
      refine j_tin hE 1448 dL_law_40 (by rw [c49] <;> decide) (by rw [c49] <;> decide) (by rw [c49] <;> rfl) (by decide) ?_
      have hz := bL_law_1448 hE hn hR hc hst hK ih23 hw
      exact hz
    replace hw := hw.2 c49
    refine j_tout hE 1473 dL_law_40 (tsw_out ((rd f7 x4) &&& (nI 63)) (0) (39) (fun k h1 h2 => ?_)) (by decide) ?_
    · rcases (show k = 0 ∨ k = 1 ∨ k = 2 ∨ k = 3 ∨ k = 4 ∨ k = 5 ∨ k = 6 ∨ k = 7 ∨ k = 8 ∨ k = 9 ∨ k = 10 ∨ k = 11 ∨ k = 12 ∨ k = 13 ∨ k = 14 ∨ k = 15 ∨ k = 16 ∨ k = 17 ∨ k = 18 ∨ k = 19 ∨ k = 20 ∨ k = 21 ∨ k = 22 ∨ k = 23 ∨ k = 24 ∨ k = 25 ∨ k = 26 ∨ k = 27 ∨ k = 28 ∨ k = 29 ∨ k = 30 ∨ k = 31 ∨ k = 32 ∨ k = 33 ∨ k = 34 ∨ k = 35 ∨ k = 36 ∨ k = 37 ∨ k = 38 ∨ k = 39 by omega) with rfl | rfl | rfl | rfl | rfl | rfl | rfl | rfl | rfl | rfl | rfl | rfl | rfl | rfl | rfl | rfl | rfl | rfl | rfl | rfl | rfl | rfl | rfl | rfl | rfl | rfl | rfl | rfl | rfl | rfl | rfl | rfl | rfl | rfl | rfl | rfl | rfl | rfl | rfl | rfl
      · exact tsw_ne _ _ _ (by decide) c10
      · exact tsw_ne _ _ _ (by decide) c11
      · exact tsw_ne _ _ _ (by decide) c12
      · exact tsw_ne _ _ _ (by decide) c13
      · exact tsw_ne _ _ _ (by decide) c14
      · exact tsw_ne _ _ _ (by decide) c15
      · exact tsw_ne _ _ _ (by decide) c16
      · exact tsw_ne _ _ _ (by decide) c17
      · exact tsw_ne _ _ _ (by decide) c18
      · exact tsw_ne _ _ _ (by decide) c19
      · exact tsw_ne _ _ _ (by decide) c20
      · exact tsw_ne _ _ _ (by decide) c21
      · exact tsw_ne _ _ _ (by decide) c22
      · exact tsw_ne _ _ _ (by decide) c23
      · exact tsw_ne _ _ _ (by decide) c24
      · exact tsw_ne _ _ _ (by decide) c25
      · exact tsw_ne _ _ _ (by decide) c26
      · exact tsw_ne _ _ _ (by decide) c27
      · exact tsw_ne _ _ _ (by decide) c28
      · exact tsw_ne _ _ _ (by decide) c29
      · exact tsw_ne _ _ _ (by decide) c30
      · exact tsw_ne _ _ _ (by decide) c31
      · exact tsw_ne _ _ _ (by decide) c32
      · exact tsw_ne _ _ _ (by decide) c33
      · exact tsw_ne _ _ _ (by decide) c34
      · exact tsw_ne _ _ _ (by decide) c35
      · exact tsw_ne _ _ _ (by decide) c36
      · exact tsw_ne _ _ _ (by decide) c37
      · exact tsw_ne _ _ _ (by decide) c38
      · exact tsw_ne _ _ _ (by decide) c39
      · exact tsw_ne _ _ _ (by decide) c40
      · exact tsw_ne _ _ _ (by decide) c41
      · exact tsw_ne _ _ _ (by decide) c42
      · exact tsw_ne _ _ _ (by decide) c43
      · exact tsw_ne _ _ _ (by decide) c44
      · exact tsw_ne _ _ _ (by decide) c45
      · exact tsw_ne _ _ _ (by decide) c46
      · exact tsw_ne _ _ _ (by decide) c47
      · exact tsw_ne _ _ _ (by decide) c48
      · exact tsw_ne _ _ _ (by decide) c49
    have hz := bL_law_1473 hE hn hR hc hst hK ih23 hw
    exact hz
def wL_law_0 (c : Nat → Option Nat) (x0 : Nat) (w : GW) (bb : Nat × Nat) (K : Int32 → GW → Prop) : Prop :=
  1 ≤ bb.1 ∧ 15 ≤ bb.2 ∧ ∀ qa3 : Nat, w qa3 = none → (∀ w5 : GW, w5 = gup w qa3 (.inr (0, [va_rf none, va_rf none, va_rf none, va_rf none, va_rf none, va_rf none, va_rf none, .int 0, va_rf none, .int 0, va_rf none, .long 0, .int 0, .int 0, va_rf none])) → (∀ b6 : Nat × Nat, b6 = (bb.1 - 1, bb.2 - 15) → (∃ cb7 : Nat × Nat, (cb7.1 ≤ b6.1 ∧ cb7.2 ≤ b6.2) ∧ (wX1_init c qa3 w5 cb7 (fun w9 => ∀ b10 : Nat × Nat, b10 = (b6.1 - cb7.1, b6.2 - cb7.2) → (1 ≤ b10.1 ∧ 31 ≤ b10.2 ∧ ∀ qa13 : Nat, w9 qa13 = none → (∀ w15 : GW, w15 = gup w9 qa13 (.inr (5, [.int 0, va_rf none, .int 0, .int 0, va_rf none, va_rf none, va_rf none, .int 0, .int 0, va_rf none, va_rf none, va_rf none, va_rf none, .int 0, va_rf none, va_rf none, va_rf none, va_rf none, .int 0, .int 0, .int 0, va_rf none, va_rf none, va_rf none, va_rf none, .int 0, va_rf none, .int 0, .long 0, .int 0, .int 0])) → (∀ b16 : Nat × Nat, b16 = (b10.1 - 1, b10.2 - 31) → (∃ cb17 : Nat × Nat, (cb17.1 ≤ b16.1 ∧ cb17.2 ≤ b16.2) ∧ (wX6_init c qa13 w15 cb17 (fun w19 => ∀ b20 : Nat × Nat, b20 = (b16.1 - cb17.1, b16.2 - cb17.2) → (¬ ((1 : Int32)) < 0 ∧ ((1 : Int32)).toNatClampNeg * 8 ≤ 536870912 ∧ 1 ≤ b20.1 ∧ ((1 : Int32)).toNatClampNeg ≤ b20.2 ∧ ∀ qa26 : Nat, w19 qa26 = none → (∀ w27 : GW, w27 = gup w19 qa26 (.inl (2, ((1 : Int32)).toNatClampNeg, gZero 2)) → (∀ b28 : Nat × Nat, b28 = (b20.1 - 1, b20.2 - ((1 : Int32)).toNatClampNeg) → (wL_law_23 c x0 qa3 qa13 qa26 ((0 : Int32)) w27 b28 K)))))))))))))))
set_option maxRecDepth 100000 in
theorem bL_law_0 {E : jE} (hE : jOk E cL_law RX0) (hn : E.2.2.2.2 = 7) (hR : jRoom E 2230 66818) {c : Nat → Option Nat} (hc : E.2.2.1.2.2.2 = c) (hst : E.1.2.1.stackTraces = false) {K : Int32 → GW → Prop} (hK : jRL E K) {x0 : Nat} {w : GW} {bb : Nat × Nat}  (hw : wL_law_0 c x0 w bb K) : J E w bb [(0, .ref (x0))] 0 [] := by
  unfold wL_law_0 at hw
  obtain ⟨h1, h2, hw⟩ := hw
  refine j_new (c := 0) (fs := [va_rf none, va_rf none, va_rf none, va_rf none, va_rf none, va_rf none, va_rf none, .int 0, va_rf none, .int 0, va_rf none, .long 0, .int 0, .int 0, va_rf none]) hE gok_0 q164 q165 q121 dfl_0 ⟨h1, h2⟩ dL_law_0 (fun qa3 h4 => ?_)
  replace hw := hw qa3 h4
  refine j_nw (fun w5 e_w5 => ?_)
  replace hw := hw w5 e_w5
  refine j_nb (fun b6 e_b6 => ?_)
  replace hw := hw b6 e_b6
  refine j_dup hE dL_law_3 rfl ?_
  obtain ⟨cb7, h8, hw⟩ := hw
  refine jc_v (jr_I hE hR (As := []) (rest := [.ref (qa3)]) ((ctX1_init E.1.2.1 E.2.2.1 hc _ _ _ _ hw) E.2.2.2.1) (lw_meth q168) q121 q166 q167 rfl jdX1_init ⟨Nat.le_of_ble_eq_true rfl, Nat.le_of_ble_eq_true rfl⟩ h8  rfl (Nat.le_of_ble_eq_true rfl) dL_law_4) (fun w9 hw => ?_)
  refine j_nb (fun b10 e_b10 => ?_)
  replace hw := hw b10 e_b10
  refine j_astore_n (L' := [(1, .ref (qa3)), (0, .ref (x0))]) hE hn dL_law_7 rfl (Nat.le_of_ble_eq_true rfl) rfl ?_
  obtain ⟨h11, h12, hw⟩ := hw
  refine j_new (c := 5) (fs := [.int 0, va_rf none, .int 0, .int 0, va_rf none, va_rf none, va_rf none, .int 0, .int 0, va_rf none, va_rf none, va_rf none, va_rf none, .int 0, va_rf none, va_rf none, va_rf none, va_rf none, .int 0, .int 0, .int 0, va_rf none, va_rf none, va_rf none, va_rf none, .int 0, va_rf none, .int 0, .long 0, .int 0, .int 0]) hE gok_5 q1600 q1598 q129 dfl_5 ⟨h11, h12⟩ dL_law_8 (fun qa13 h14 => ?_)
  replace hw := hw qa13 h14
  refine j_nw (fun w15 e_w15 => ?_)
  replace hw := hw w15 e_w15
  refine j_nb (fun b16 e_b16 => ?_)
  replace hw := hw b16 e_b16
  refine j_dup hE dL_law_11 rfl ?_
  obtain ⟨cb17, h18, hw⟩ := hw
  refine jc_v (jr_I hE hR (As := []) (rest := [.ref (qa13)]) ((ctX6_init E.1.2.1 E.2.2.1 hc _ _ _ _ hw) E.2.2.2.1) (lw_meth q1603) q129 q1601 q1602 rfl jdX6_init ⟨Nat.le_of_ble_eq_true rfl, Nat.le_of_ble_eq_true rfl⟩ h18  rfl (Nat.le_of_ble_eq_true rfl) dL_law_12) (fun w19 hw => ?_)
  refine j_nb (fun b20 e_b20 => ?_)
  replace hw := hw b20 e_b20
  refine j_astore_n (L' := [(2, .ref (qa13)), (1, .ref (qa3)), (0, .ref (x0))]) hE hn dL_law_15 rfl (Nat.le_of_ble_eq_true rfl) rfl ?_
  refine j_iconst hE dL_law_16 kc_1 ?_
  obtain ⟨h21, h22, h23, h24, hw⟩ := hw
  refine j_newarr hE (atype := .long) (t := 2) (by decide) rfl q1741 h21 h22 ⟨h23, h24⟩ dL_law_17 (fun qa26 h25 => ?_)
  replace hw := hw qa26 h25
  refine j_nw (fun w27 e_w27 => ?_)
  replace hw := hw w27 e_w27
  refine j_nb (fun b28 e_b28 => ?_)
  replace hw := hw b28 e_b28
  refine j_astore_n (L' := [(3, .ref (qa26)), (2, .ref (qa13)), (1, .ref (qa3)), (0, .ref (x0))]) hE hn dL_law_19 rfl (Nat.le_of_ble_eq_true rfl) rfl ?_
  refine j_iconst hE dL_law_20 kc_0 ?_
  refine j_istore (L' := [(4, .int ((0 : Int32))), (3, .ref (qa26)), (2, .ref (qa13)), (1, .ref (qa3)), (0, .ref (x0))]) hE hn dL_law_21 (Nat.le_of_ble_eq_true rfl) rfl ?_
  refine j_sub [(0, .ref (x0)), (1, .ref (qa3)), (2, .ref (qa13)), (3, .ref (qa26)), (4, .int ((0 : Int32)))] [4, 3, 2, 1, 0] rfl ?_
  have hz := bL_law_23 hE hn hR hc hst hK  hw
  exact hz
