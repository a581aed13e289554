/-! printed by ggen.py: fields, casts, names of the generic walks -/
theorem q_oi_inst : Cond.instanceMethod objectInit ∈ lw_all := q170
theorem q_oi_code : Cond.code objectInit ⟨#[0xb1]⟩ 1 none ∈ lw_all := q171
theorem va_rf_cat (r : Option Nat) : (va_rf r).category = 1 := by cases r <;> rfl
def isRefTy (t : FieldType) : Bool := match t with
  | .object _ => true
  | .array _ => true
  | _ => false
theorem va_rf_nar (t : FieldType) (r : Option Nat) (h : isRefTy t = true) : narrow t (va_rf r) = va_rf r := by
  cases t <;> simp only [isRefTy, Bool.false_eq_true] at h <;> cases r <;> rfl
theorem va_rf_fit (t : FieldType) (r : Option Nat) (h : isRefTy t = true) : fits t (va_rf r) = true := by
  cases t <;> simp only [isRefTy, Bool.false_eq_true] at h <;> cases r <;> rfl
theorem fits_narrow (t : FieldType) (v : Int32) (h : narrow t (.int v) = .int v) (ht : t = .boolean ∨ t = .byte ∨ t = .char ∨ t = .short := by simp) : fits t (.int v) = true := by
  rcases ht with rfl | rfl | rfl | rfl
  · rw [← h]; exact fits_narrow_boolean v
  · rw [← h]; exact fits_narrow_byte v
  · rw [← h]; exact fits_narrow_char v
  · rw [← h]; exact fits_narrow_short v
theorem objc : ∀ c ∈ ([7, 8, 9, 10, 21, 15, 16, 17, 18, 24] : List Nat), ∃ rr, gCl[c]? = some rr ∧ Cond.castable rr.1 "java/lang/Object" ∈ lw_tbl := by
  intro c h
  simp only [List.mem_cons, List.not_mem_nil, or_false] at h
  rcases h with rfl | rfl | rfl | rfl | rfl | rfl | rfl | rfl | rfl | rfl
  · exact ⟨_, rfl, q2208⟩
  · exact ⟨_, rfl, q2209⟩
  · exact ⟨_, rfl, q2210⟩
  · exact ⟨_, rfl, q2211⟩
  · exact ⟨_, rfl, q2207⟩
  · exact ⟨_, rfl, q2217⟩
  · exact ⟨_, rfl, q2218⟩
  · exact ⟨_, rfl, q2219⟩
  · exact ⟨_, rfl, q2220⟩
  · exact ⟨_, rfl, q2216⟩
theorem elem_obj {w : GW} {n s : Nat} {g0 : Nat → Option Nat} (h : ∀ i : Nat, i < n → ∀ y9 : Nat, g0 (s + i) = some y9 → ∃ c9, gmc w y9 = some c9 ∧ c9 ∈ ([7, 8, 9, 10, 21, 15, 16, 17, 18, 24] : List Nat)) : ∀ i : Nat, i < n → ∀ y : Nat, g0 (s + i) = some y → ∃ c fs rr, w y = some (true, .inr (c, fs)) ∧ gCl[c]? = some rr ∧ Cond.castable rr.1 "java/lang/Object" ∈ lw_tbl := by
  intro i hi y hy
  obtain ⟨c, h1, h2⟩ := h i hi y hy
  obtain ⟨fs, e⟩ := gmc_at h1
  obtain ⟨rr, h3, h4⟩ := objc c h2
  exact ⟨c, fs, rr, e, h3, h4⟩
theorem elemc_4 : ∀ c ∈ ([7, 8, 9, 10, 21, 15, 16, 17, 18, 24] : List Nat), ∃ rr, gCl[c]? = some rr ∧ (rr.1 = gTc 4 ∨ Cond.castable rr.1 (gTc 4) ∈ lw_tbl) := by
  intro c h
  simp only [List.mem_cons, List.not_mem_nil, or_false] at h
  rcases h with rfl | rfl | rfl | rfl | rfl | rfl | rfl | rfl | rfl | rfl
  · exact ⟨_, rfl, Or.inr q2208⟩
  · exact ⟨_, rfl, Or.inr q2209⟩
  · exact ⟨_, rfl, Or.inr q2210⟩
  · exact ⟨_, rfl, Or.inr q2211⟩
  · exact ⟨_, rfl, Or.inr q2207⟩
  · exact ⟨_, rfl, Or.inr q2217⟩
  · exact ⟨_, rfl, Or.inr q2218⟩
  · exact ⟨_, rfl, Or.inr q2219⟩
  · exact ⟨_, rfl, Or.inr q2220⟩
  · exact ⟨_, rfl, Or.inr q2216⟩
theorem elemc_5 : ∀ c ∈ ([4] : List Nat), ∃ rr, gCl[c]? = some rr ∧ (rr.1 = gTc 5 ∨ Cond.castable rr.1 (gTc 5) ∈ lw_tbl) := by
  intro c h
  simp only [List.mem_cons, List.not_mem_nil, or_false] at h
  rcases h with rfl
  · exact ⟨_, rfl, Or.inl rfl⟩
theorem elemc_6 : ∀ c ∈ ([3] : List Nat), ∃ rr, gCl[c]? = some rr ∧ (rr.1 = gTc 6 ∨ Cond.castable rr.1 (gTc 6) ∈ lw_tbl) := by
  intro c h
  simp only [List.mem_cons, List.not_mem_nil, or_false] at h
  rcases h with rfl
  · exact ⟨_, rfl, Or.inl rfl⟩
theorem elemc_7 : ∀ c ∈ ([19] : List Nat), ∃ rr, gCl[c]? = some rr ∧ (rr.1 = gTc 7 ∨ Cond.castable rr.1 (gTc 7) ∈ lw_tbl) := by
  intro c h
  simp only [List.mem_cons, List.not_mem_nil, or_false] at h
  rcases h with rfl
  · exact ⟨_, rfl, Or.inl rfl⟩
theorem cast_X8 : ∀ c ∈ ([7, 8, 9, 10] : List Nat), ∃ rr, gCl[c]? = some rr ∧ (rr.1 = "GlassStreet$Pane" ∨ Cond.castable rr.1 "GlassStreet$Pane" ∈ lw_tbl) := by
  intro c h
  simp only [List.mem_cons, List.not_mem_nil, or_false] at h
  rcases h with rfl | rfl | rfl | rfl
  · exact ⟨_, rfl, Or.inl rfl⟩
  · exact ⟨_, rfl, Or.inr q2189⟩
  · exact ⟨_, rfl, Or.inr q2191⟩
  · exact ⟨_, rfl, Or.inr q2190⟩
theorem cast_X17 : ∀ c ∈ ([15, 16, 17, 18, 24] : List Nat), ∃ rr, gCl[c]? = some rr ∧ (rr.1 = "GlassStreet$Line" ∨ Cond.castable rr.1 "GlassStreet$Line" ∈ lw_tbl) := by
  intro c h
  simp only [List.mem_cons, List.not_mem_nil, or_false] at h
  rcases h with rfl | rfl | rfl | rfl | rfl
  · exact ⟨_, rfl, Or.inr q2195⟩
  · exact ⟨_, rfl, Or.inr q2193⟩
  · exact ⟨_, rfl, Or.inr q2196⟩
  · exact ⟨_, rfl, Or.inr q2192⟩
  · exact ⟨_, rfl, Or.inr q2194⟩
theorem cast_X20 : ∀ c ∈ ([16] : List Nat), ∃ rr, gCl[c]? = some rr ∧ (rr.1 = "GlassStreet$Did" ∨ Cond.castable rr.1 "GlassStreet$Did" ∈ lw_tbl) := by
  intro c h
  simp only [List.mem_cons, List.not_mem_nil, or_false] at h
  rcases h with rfl
  · exact ⟨_, rfl, Or.inl rfl⟩
theorem cast_J3 : ∀ c ∈ ([21] : List Nat), ∃ rr, gCl[c]? = some rr ∧ (rr.1 = "java/lang/String" ∨ Cond.castable rr.1 "java/lang/String" ∈ lw_tbl) := by
  intro c h
  simp only [List.mem_cons, List.not_mem_nil, or_false] at h
  rcases h with rfl
  · exact ⟨_, rfl, Or.inl rfl⟩
theorem plainc_J0 : plainName RJ0 = true := by decide +kernel
theorem plainc_J1 : plainName RJ1 = true := by decide +kernel
theorem plainc_J10 : plainName RJ10 = true := by decide +kernel
theorem plainc_J11 : plainName RJ11 = true := by decide +kernel
theorem plainc_J12 : plainName RJ12 = true := by decide +kernel
theorem plainc_J13 : plainName RJ13 = true := by decide +kernel
theorem plainc_J14 : plainName RJ14 = true := by decide +kernel
theorem plainc_J15 : plainName RJ15 = true := by decide +kernel
theorem plainc_J16 : plainName RJ16 = true := by decide +kernel
theorem plainc_J17 : plainName RJ17 = true := by decide +kernel
theorem plainc_J18 : plainName RJ18 = true := by decide +kernel
theorem plainc_J2 : plainName RJ2 = true := by decide +kernel
theorem plainc_J3 : plainName RJ3 = true := by decide +kernel
theorem plainc_J4 : plainName RJ4 = true := by decide +kernel
theorem plainc_J6 : plainName RJ6 = true := by decide +kernel
theorem plainc_J7 : plainName RJ7 = true := by decide +kernel
theorem plainc_J8 : plainName RJ8 = true := by decide +kernel
theorem plainc_J9 : plainName RJ9 = true := by decide +kernel
theorem plainc_X0 : plainName RX0 = true := by decide +kernel
theorem plainc_X1 : plainName RX1 = true := by decide +kernel
theorem plainc_X10 : plainName RX10 = true := by decide +kernel
theorem plainc_X11 : plainName RX11 = true := by decide +kernel
theorem plainc_X12 : plainName RX12 = true := by decide +kernel
theorem plainc_X13 : plainName RX13 = true := by decide +kernel
theorem plainc_X14 : plainName RX14 = true := by decide +kernel
theorem plainc_X15 : plainName RX15 = true := by decide +kernel
theorem plainc_X16 : plainName RX16 = true := by decide +kernel
theorem plainc_X17 : plainName RX17 = true := by decide +kernel
theorem plainc_X18 : plainName RX18 = true := by decide +kernel
theorem plainc_X19 : plainName RX19 = true := by decide +kernel
theorem plainc_X2 : plainName RX2 = true := by decide +kernel
theorem plainc_X20 : plainName RX20 = true := by decide +kernel
theorem plainc_X21 : plainName RX21 = true := by decide +kernel
theorem plainc_X22 : plainName RX22 = true := by decide +kernel
theorem plainc_X23 : plainName RX23 = true := by decide +kernel
theorem plainc_X3 : plainName RX3 = true := by decide +kernel
theorem plainc_X4 : plainName RX4 = true := by decide +kernel
theorem plainc_X5 : plainName RX5 = true := by decide +kernel
theorem plainc_X6 : plainName RX6 = true := by decide +kernel
theorem plainc_X7 : plainName RX7 = true := by decide +kernel
theorem plainc_X8 : plainName RX8 = true := by decide +kernel
theorem plainc_X9 : plainName RX9 = true := by decide +kernel
theorem gf_GlassStreetModel_arg : ∀ c ∈ ([5] : List Nat), gFd c 12 "GlassStreetModel" "arg" "[I" := by
  intro c h
  simp only [List.mem_cons, List.not_mem_nil, or_false] at h
  rcases h with rfl
  · exact ⟨_, _, _, _, gok_5, Nat.le_of_ble_eq_true rfl, rfl, rfl, Or.inl rfl⟩
theorem gf_GlassStreetModel_facts : ∀ c ∈ ([5] : List Nat), gFd c 22 "GlassStreetModel" "facts" "[I" := by
  intro c h
  simp only [List.mem_cons, List.not_mem_nil, or_false] at h
  rcases h with rfl
  · exact ⟨_, _, _, _, gok_5, Nat.le_of_ble_eq_true rfl, rfl, rfl, Or.inl rfl⟩
theorem gf_GlassStreetModel_isNotched : ∀ c ∈ ([5] : List Nat), gFd c 26 "GlassStreetModel" "isNotched" "[Z" := by
  intro c h
  simp only [List.mem_cons, List.not_mem_nil, or_false] at h
  rcases h with rfl
  · exact ⟨_, _, _, _, gok_5, Nat.le_of_ble_eq_true rfl, rfl, rfl, Or.inl rfl⟩
theorem gf_GlassStreetModel_lines : ∀ c ∈ ([5] : List Nat), gFd c 21 "GlassStreetModel" "lines" "[I" := by
  intro c h
  simp only [List.mem_cons, List.not_mem_nil, or_false] at h
  rcases h with rfl
  · exact ⟨_, _, _, _, gok_5, Nat.le_of_ble_eq_true rfl, rfl, rfl, Or.inl rfl⟩
theorem gf_GlassStreetModel_nameOf : ∀ c ∈ ([5] : List Nat), gFd c 16 "GlassStreetModel" "nameOf" "[I" := by
  intro c h
  simp only [List.mem_cons, List.not_mem_nil, or_false] at h
  rcases h with rfl
  · exact ⟨_, _, _, _, gok_5, Nat.le_of_ble_eq_true rfl, rfl, rfl, Or.inl rfl⟩
theorem gf_GlassStreetModel_names : ∀ c ∈ ([5] : List Nat), gFd c 14 "GlassStreetModel" "names" "[J" := by
  intro c h
  simp only [List.mem_cons, List.not_mem_nil, or_false] at h
  rcases h with rfl
  · exact ⟨_, _, _, _, gok_5, Nat.le_of_ble_eq_true rfl, rfl, rfl, Or.inl rfl⟩
theorem gf_GlassStreetModel_op : ∀ c ∈ ([5] : List Nat), gFd c 11 "GlassStreetModel" "op" "[I" := by
  intro c h
  simp only [List.mem_cons, List.not_mem_nil, or_false] at h
  rcases h with rfl
  · exact ⟨_, _, _, _, gok_5, Nat.le_of_ble_eq_true rfl, rfl, rfl, Or.inl rfl⟩
theorem gf_GlassStreetModel_pile : ∀ c ∈ ([5] : List Nat), gFd c 23 "GlassStreetModel" "pile" "[I" := by
  intro c h
  simp only [List.mem_cons, List.not_mem_nil, or_false] at h
  rcases h with rfl
  · exact ⟨_, _, _, _, gok_5, Nat.le_of_ble_eq_true rfl, rfl, rfl, Or.inl rfl⟩
theorem gf_GlassStreetModel_place : ∀ c ∈ ([5] : List Nat), gFd c 5 "GlassStreetModel" "place" "[I" := by
  intro c h
  simp only [List.mem_cons, List.not_mem_nil, or_false] at h
  rcases h with rfl
  · exact ⟨_, _, _, _, gok_5, Nat.le_of_ble_eq_true rfl, rfl, rfl, Or.inl rfl⟩
theorem gf_GlassStreetModel_readNameOf : ∀ c ∈ ([5] : List Nat), gFd c 17 "GlassStreetModel" "readNameOf" "[I" := by
  intro c h
  simp only [List.mem_cons, List.not_mem_nil, or_false] at h
  rcases h with rfl
  · exact ⟨_, _, _, _, gok_5, Nat.le_of_ble_eq_true rfl, rfl, rfl, Or.inl rfl⟩
theorem gf_GlassStreetModel_readNames : ∀ c ∈ ([5] : List Nat), gFd c 15 "GlassStreetModel" "readNames" "[J" := by
  intro c h
  simp only [List.mem_cons, List.not_mem_nil, or_false] at h
  rcases h with rfl
  · exact ⟨_, _, _, _, gok_5, Nat.le_of_ble_eq_true rfl, rfl, rfl, Or.inl rfl⟩
theorem gf_GlassStreetModel_sort : ∀ c ∈ ([5] : List Nat), gFd c 4 "GlassStreetModel" "sort" "[I" := by
  intro c h
  simp only [List.mem_cons, List.not_mem_nil, or_false] at h
  rcases h with rfl
  · exact ⟨_, _, _, _, gok_5, Nat.le_of_ble_eq_true rfl, rfl, rfl, Or.inl rfl⟩
theorem gf_GlassStreetModel_state : ∀ c ∈ ([5] : List Nat), gFd c 24 "GlassStreetModel" "state" "[I" := by
  intro c h
  simp only [List.mem_cons, List.not_mem_nil, or_false] at h
  rcases h with rfl
  · exact ⟨_, _, _, _, gok_5, Nat.le_of_ble_eq_true rfl, rfl, rfl, Or.inl rfl⟩
theorem gf_GlassStreetModel_streets : ∀ c ∈ ([5] : List Nat), gFd c 10 "GlassStreetModel" "streets" "[I" := by
  intro c h
  simp only [List.mem_cons, List.not_mem_nil, or_false] at h
  rcases h with rfl
  · exact ⟨_, _, _, _, gok_5, Nat.le_of_ble_eq_true rfl, rfl, rfl, Or.inl rfl⟩
theorem gf_GlassStreetModel_tape : ∀ c ∈ ([5] : List Nat), gFd c 1 "GlassStreetModel" "tape" "[I" := by
  intro c h
  simp only [List.mem_cons, List.not_mem_nil, or_false] at h
  rcases h with rfl
  · exact ⟨_, _, _, _, gok_5, Nat.le_of_ble_eq_true rfl, rfl, rfl, Or.inl rfl⟩
theorem gf_GlassStreetModel_value : ∀ c ∈ ([5] : List Nat), gFd c 6 "GlassStreetModel" "value" "[J" := by
  intro c h
  simp only [List.mem_cons, List.not_mem_nil, or_false] at h
  rcases h with rfl
  · exact ⟨_, _, _, _, gok_5, Nat.le_of_ble_eq_true rfl, rfl, rfl, Or.inl rfl⟩
theorem gf_GlassStreetModel_words : ∀ c ∈ ([5] : List Nat), gFd c 9 "GlassStreetModel" "words" "[J" := by
  intro c h
  simp only [List.mem_cons, List.not_mem_nil, or_false] at h
  rcases h with rfl
  · exact ⟨_, _, _, _, gok_5, Nat.le_of_ble_eq_true rfl, rfl, rfl, Or.inl rfl⟩
theorem gf_GlassStreet_Changed_isStone : ∀ c ∈ ([18] : List Nat), gFd c 1 "GlassStreet$Changed" "isStone" "Z" := by
  intro c h
  simp only [List.mem_cons, List.not_mem_nil, or_false] at h
  rcases h with rfl
  · exact ⟨_, _, _, _, gok_18, Nat.le_of_ble_eq_true rfl, rfl, rfl, Or.inl rfl⟩
theorem gf_GlassStreet_Changed_pane : ∀ c ∈ ([18] : List Nat), gFd c 0 "GlassStreet$Changed" "pane" "I" := by
  intro c h
  simp only [List.mem_cons, List.not_mem_nil, or_false] at h
  rcases h with rfl
  · exact ⟨_, _, _, _, gok_18, Nat.le_of_ble_eq_true rfl, rfl, rfl, Or.inl rfl⟩
theorem gf_GlassStreet_Did_deed : ∀ c ∈ ([16] : List Nat), gFd c 1 "GlassStreet$Did" "deed" "I" := by
  intro c h
  simp only [List.mem_cons, List.not_mem_nil, or_false] at h
  rcases h with rfl
  · exact ⟨_, _, _, _, gok_16, Nat.le_of_ble_eq_true rfl, rfl, rfl, Or.inl rfl⟩
theorem gf_GlassStreet_Did_person : ∀ c ∈ ([16] : List Nat), gFd c 0 "GlassStreet$Did" "person" "I" := by
  intro c h
  simp only [List.mem_cons, List.not_mem_nil, or_false] at h
  rcases h with rfl
  · exact ⟨_, _, _, _, gok_16, Nat.le_of_ble_eq_true rfl, rfl, rfl, Or.inl rfl⟩
theorem gf_GlassStreet_Fact_which : ∀ c ∈ ([12] : List Nat), gFd c 0 "GlassStreet$Fact" "which" "I" := by
  intro c h
  simp only [List.mem_cons, List.not_mem_nil, or_false] at h
  rcases h with rfl
  · exact ⟨_, _, _, _, gok_12, Nat.le_of_ble_eq_true rfl, rfl, rfl, Or.inl rfl⟩
theorem gf_GlassStreet_Given_n : ∀ c ∈ ([11] : List Nat), gFd c 0 "GlassStreet$Given" "n" "I" := by
  intro c h
  simp only [List.mem_cons, List.not_mem_nil, or_false] at h
  rcases h with rfl
  · exact ⟨_, _, _, _, gok_11, Nat.le_of_ble_eq_true rfl, rfl, rfl, Or.inl rfl⟩
theorem gf_GlassStreet_Houses_at : ∀ c ∈ ([2] : List Nat), gFd c 3 "GlassStreet$Houses" "at" "[I" := by
  intro c h
  simp only [List.mem_cons, List.not_mem_nil, or_false] at h
  rcases h with rfl
  · exact ⟨_, _, _, _, gok_2, Nat.le_of_ble_eq_true rfl, rfl, rfl, Or.inl rfl⟩
theorem gf_GlassStreet_Houses_deeds : ∀ c ∈ ([2] : List Nat), gFd c 2 "GlassStreet$Houses" "deeds" "Ljava/util/ArrayList;" := by
  intro c h
  simp only [List.mem_cons, List.not_mem_nil, or_false] at h
  rcases h with rfl
  · exact ⟨_, _, _, _, gok_2, Nat.le_of_ble_eq_true rfl, rfl, rfl, Or.inl rfl⟩
theorem gf_GlassStreet_Houses_fades : ∀ c ∈ ([2] : List Nat), gFd c 7 "GlassStreet$Houses" "fades" "LGlassStreet$Expression;" := by
  intro c h
  simp only [List.mem_cons, List.not_mem_nil, or_false] at h
  rcases h with rfl
  · exact ⟨_, _, _, _, gok_2, Nat.le_of_ble_eq_true rfl, rfl, rfl, Or.inl rfl⟩
theorem gf_GlassStreet_Houses_harm : ∀ c ∈ ([2] : List Nat), gFd c 4 "GlassStreet$Houses" "harm" "[I" := by
  intro c h
  simp only [List.mem_cons, List.not_mem_nil, or_false] at h
  rcases h with rfl
  · exact ⟨_, _, _, _, gok_2, Nat.le_of_ble_eq_true rfl, rfl, rfl, Or.inl rfl⟩
theorem gf_GlassStreet_Houses_light : ∀ c ∈ ([2] : List Nat), gFd c 5 "GlassStreet$Houses" "light" "[I" := by
  intro c h
  simp only [List.mem_cons, List.not_mem_nil, or_false] at h
  rcases h with rfl
  · exact ⟨_, _, _, _, gok_2, Nat.le_of_ble_eq_true rfl, rfl, rfl, Or.inl rfl⟩
theorem gf_GlassStreet_Houses_many : ∀ c ∈ ([2] : List Nat), gFd c 6 "GlassStreet$Houses" "many" "I" := by
  intro c h
  simp only [List.mem_cons, List.not_mem_nil, or_false] at h
  rcases h with rfl
  · exact ⟨_, _, _, _, gok_2, Nat.le_of_ble_eq_true rfl, rfl, rfl, Or.inl rfl⟩
theorem gf_GlassStreet_Houses_panes : ∀ c ∈ ([2] : List Nat), gFd c 0 "GlassStreet$Houses" "panes" "Ljava/util/ArrayList;" := by
  intro c h
  simp only [List.mem_cons, List.not_mem_nil, or_false] at h
  rcases h with rfl
  · exact ⟨_, _, _, _, gok_2, Nat.le_of_ble_eq_true rfl, rfl, rfl, Or.inl rfl⟩
theorem gf_GlassStreet_Houses_people : ∀ c ∈ ([2] : List Nat), gFd c 1 "GlassStreet$Houses" "people" "Ljava/util/ArrayList;" := by
  intro c h
  simp only [List.mem_cons, List.not_mem_nil, or_false] at h
  rcases h with rfl
  · exact ⟨_, _, _, _, gok_2, Nat.le_of_ble_eq_true rfl, rfl, rfl, Or.inl rfl⟩
theorem gf_GlassStreet_Marks_age : ∀ c ∈ ([4] : List Nat), gFd c 3 "GlassStreet$Marks" "age" "[I" := by
  intro c h
  simp only [List.mem_cons, List.not_mem_nil, or_false] at h
  rcases h with rfl
  · exact ⟨_, _, _, _, gok_4, Nat.le_of_ble_eq_true rfl, rfl, rfl, Or.inl rfl⟩
theorem gf_GlassStreet_Marks_cell : ∀ c ∈ ([4] : List Nat), gFd c 2 "GlassStreet$Marks" "cell" "[I" := by
  intro c h
  simp only [List.mem_cons, List.not_mem_nil, or_false] at h
  rcases h with rfl
  · exact ⟨_, _, _, _, gok_4, Nat.le_of_ble_eq_true rfl, rfl, rfl, Or.inl rfl⟩
theorem gf_GlassStreet_Marks_deed : ∀ c ∈ ([4] : List Nat), gFd c 1 "GlassStreet$Marks" "deed" "[I" := by
  intro c h
  simp only [List.mem_cons, List.not_mem_nil, or_false] at h
  rcases h with rfl
  · exact ⟨_, _, _, _, gok_4, Nat.le_of_ble_eq_true rfl, rfl, rfl, Or.inl rfl⟩
theorem gf_GlassStreet_Marks_many : ∀ c ∈ ([4] : List Nat), gFd c 4 "GlassStreet$Marks" "many" "I" := by
  intro c h
  simp only [List.mem_cons, List.not_mem_nil, or_false] at h
  rcases h with rfl
  · exact ⟨_, _, _, _, gok_4, Nat.le_of_ble_eq_true rfl, rfl, rfl, Or.inl rfl⟩
theorem gf_GlassStreet_Marks_who : ∀ c ∈ ([4] : List Nat), gFd c 0 "GlassStreet$Marks" "who" "[I" := by
  intro c h
  simp only [List.mem_cons, List.not_mem_nil, or_false] at h
  rcases h with rfl
  · exact ⟨_, _, _, _, gok_4, Nat.le_of_ble_eq_true rfl, rfl, rfl, Or.inl rfl⟩
theorem gf_GlassStreet_Mirror_cells : ∀ c ∈ ([10] : List Nat), gFd c 2 "GlassStreet$Mirror" "cells" "I" := by
  intro c h
  simp only [List.mem_cons, List.not_mem_nil, or_false] at h
  rcases h with rfl
  · exact ⟨_, _, _, _, gok_10, Nat.le_of_ble_eq_true rfl, rfl, rfl, Or.inr q859⟩
theorem gf_GlassStreet_Not_part : ∀ c ∈ ([13] : List Nat), gFd c 0 "GlassStreet$Not" "part" "LGlassStreet$Expression;" := by
  intro c h
  simp only [List.mem_cons, List.not_mem_nil, or_false] at h
  rcases h with rfl
  · exact ⟨_, _, _, _, gok_13, Nat.le_of_ble_eq_true rfl, rfl, rfl, Or.inl rfl⟩
theorem gf_GlassStreet_Notch_said : ∀ c ∈ ([19] : List Nat), gFd c 1 "GlassStreet$Notch" "said" "[I" := by
  intro c h
  simp only [List.mem_cons, List.not_mem_nil, or_false] at h
  rcases h with rfl
  · exact ⟨_, _, _, _, gok_19, Nat.le_of_ble_eq_true rfl, rfl, rfl, Or.inl rfl⟩
theorem gf_GlassStreet_Notch_state : ∀ c ∈ ([19] : List Nat), gFd c 0 "GlassStreet$Notch" "state" "LGlassStreet$State;" := by
  intro c h
  simp only [List.mem_cons, List.not_mem_nil, or_false] at h
  rcases h with rfl
  · exact ⟨_, _, _, _, gok_19, Nat.le_of_ble_eq_true rfl, rfl, rfl, Or.inl rfl⟩
theorem gf_GlassStreet_Pane_cells : ∀ c ∈ ([7, 8, 9, 10] : List Nat), gFd c 2 "GlassStreet$Pane" "cells" "I" := by
  intro c h
  simp only [List.mem_cons, List.not_mem_nil, or_false] at h
  rcases h with rfl | rfl | rfl | rfl
  · exact ⟨_, _, _, _, gok_7, Nat.le_of_ble_eq_true rfl, rfl, rfl, Or.inl rfl⟩
  · exact ⟨_, _, _, _, gok_8, Nat.le_of_ble_eq_true rfl, rfl, rfl, Or.inl rfl⟩
  · exact ⟨_, _, _, _, gok_9, Nat.le_of_ble_eq_true rfl, rfl, rfl, Or.inl rfl⟩
  · exact ⟨_, _, _, _, gok_10, Nat.le_of_ble_eq_true rfl, rfl, rfl, Or.inl rfl⟩
theorem gf_GlassStreet_Pane_keeps : ∀ c ∈ ([7, 8, 9, 10] : List Nat), gFd c 1 "GlassStreet$Pane" "keeps" "I" := by
  intro c h
  simp only [List.mem_cons, List.not_mem_nil, or_false] at h
  rcases h with rfl | rfl | rfl | rfl
  · exact ⟨_, _, _, _, gok_7, Nat.le_of_ble_eq_true rfl, rfl, rfl, Or.inl rfl⟩
  · exact ⟨_, _, _, _, gok_8, Nat.le_of_ble_eq_true rfl, rfl, rfl, Or.inl rfl⟩
  · exact ⟨_, _, _, _, gok_9, Nat.le_of_ble_eq_true rfl, rfl, rfl, Or.inl rfl⟩
  · exact ⟨_, _, _, _, gok_10, Nat.le_of_ble_eq_true rfl, rfl, rfl, Or.inl rfl⟩
theorem gf_GlassStreet_Pane_name : ∀ c ∈ ([7, 8, 9, 10] : List Nat), gFd c 0 "GlassStreet$Pane" "name" "Ljava/lang/String;" := by
  intro c h
  simp only [List.mem_cons, List.not_mem_nil, or_false] at h
  rcases h with rfl | rfl | rfl | rfl
  · exact ⟨_, _, _, _, gok_7, Nat.le_of_ble_eq_true rfl, rfl, rfl, Or.inl rfl⟩
  · exact ⟨_, _, _, _, gok_8, Nat.le_of_ble_eq_true rfl, rfl, rfl, Or.inl rfl⟩
  · exact ⟨_, _, _, _, gok_9, Nat.le_of_ble_eq_true rfl, rfl, rfl, Or.inl rfl⟩
  · exact ⟨_, _, _, _, gok_10, Nat.le_of_ble_eq_true rfl, rfl, rfl, Or.inl rfl⟩
theorem gf_GlassStreet_Reader_from : ∀ c ∈ ([1] : List Nat), gFd c 4 "GlassStreet$Reader" "from" "I" := by
  intro c h
  simp only [List.mem_cons, List.not_mem_nil, or_false] at h
  rcases h with rfl
  · exact ⟨_, _, _, _, gok_1, Nat.le_of_ble_eq_true rfl, rfl, rfl, Or.inl rfl⟩
theorem gf_GlassStreet_Reader_houses : ∀ c ∈ ([1] : List Nat), gFd c 7 "GlassStreet$Reader" "houses" "LGlassStreet$Houses;" := by
  intro c h
  simp only [List.mem_cons, List.not_mem_nil, or_false] at h
  rcases h with rfl
  · exact ⟨_, _, _, _, gok_1, Nat.le_of_ble_eq_true rfl, rfl, rfl, Or.inl rfl⟩
theorem gf_GlassStreet_Reader_kind : ∀ c ∈ ([1] : List Nat), gFd c 3 "GlassStreet$Reader" "kind" "I" := by
  intro c h
  simp only [List.mem_cons, List.not_mem_nil, or_false] at h
  rcases h with rfl
  · exact ⟨_, _, _, _, gok_1, Nat.le_of_ble_eq_true rfl, rfl, rfl, Or.inl rfl⟩
theorem gf_GlassStreet_Reader_size : ∀ c ∈ ([1] : List Nat), gFd c 1 "GlassStreet$Reader" "size" "I" := by
  intro c h
  simp only [List.mem_cons, List.not_mem_nil, or_false] at h
  rcases h with rfl
  · exact ⟨_, _, _, _, gok_1, Nat.le_of_ble_eq_true rfl, rfl, rfl, Or.inl rfl⟩
theorem gf_GlassStreet_Reader_text : ∀ c ∈ ([1] : List Nat), gFd c 0 "GlassStreet$Reader" "text" "[B" := by
  intro c h
  simp only [List.mem_cons, List.not_mem_nil, or_false] at h
  rcases h with rfl
  · exact ⟨_, _, _, _, gok_1, Nat.le_of_ble_eq_true rfl, rfl, rfl, Or.inl rfl⟩
theorem gf_GlassStreet_Reader_to : ∀ c ∈ ([1] : List Nat), gFd c 2 "GlassStreet$Reader" "to" "I" := by
  intro c h
  simp only [List.mem_cons, List.not_mem_nil, or_false] at h
  rcases h with rfl
  · exact ⟨_, _, _, _, gok_1, Nat.le_of_ble_eq_true rfl, rfl, rfl, Or.inl rfl⟩
theorem gf_GlassStreet_Reader_value : ∀ c ∈ ([1] : List Nat), gFd c 5 "GlassStreet$Reader" "value" "I" := by
  intro c h
  simp only [List.mem_cons, List.not_mem_nil, or_false] at h
  rcases h with rfl
  · exact ⟨_, _, _, _, gok_1, Nat.le_of_ble_eq_true rfl, rfl, rfl, Or.inl rfl⟩
theorem gf_GlassStreet_Reader_within : ∀ c ∈ ([1] : List Nat), gFd c 6 "GlassStreet$Reader" "within" "I" := by
  intro c h
  simp only [List.mem_cons, List.not_mem_nil, or_false] at h
  rcases h with rfl
  · exact ⟨_, _, _, _, gok_1, Nat.le_of_ble_eq_true rfl, rfl, rfl, Or.inl rfl⟩
theorem gf_GlassStreet_State_at : ∀ c ∈ ([3] : List Nat), gFd c 0 "GlassStreet$State" "at" "[I" := by
  intro c h
  simp only [List.mem_cons, List.not_mem_nil, or_false] at h
  rcases h with rfl
  · exact ⟨_, _, _, _, gok_3, Nat.le_of_ble_eq_true rfl, rfl, rfl, Or.inl rfl⟩
theorem gf_GlassStreet_State_drawn : ∀ c ∈ ([3] : List Nat), gFd c 3 "GlassStreet$State" "drawn" "I" := by
  intro c h
  simp only [List.mem_cons, List.not_mem_nil, or_false] at h
  rcases h with rfl
  · exact ⟨_, _, _, _, gok_3, Nat.le_of_ble_eq_true rfl, rfl, rfl, Or.inl rfl⟩
theorem gf_GlassStreet_State_gone : ∀ c ∈ ([3] : List Nat), gFd c 4 "GlassStreet$State" "gone" "I" := by
  intro c h
  simp only [List.mem_cons, List.not_mem_nil, or_false] at h
  rcases h with rfl
  · exact ⟨_, _, _, _, gok_3, Nat.le_of_ble_eq_true rfl, rfl, rfl, Or.inl rfl⟩
theorem gf_GlassStreet_State_hour : ∀ c ∈ ([3] : List Nat), gFd c 2 "GlassStreet$State" "hour" "I" := by
  intro c h
  simp only [List.mem_cons, List.not_mem_nil, or_false] at h
  rcases h with rfl
  · exact ⟨_, _, _, _, gok_3, Nat.le_of_ble_eq_true rfl, rfl, rfl, Or.inl rfl⟩
theorem gf_GlassStreet_State_marks : ∀ c ∈ ([3] : List Nat), gFd c 1 "GlassStreet$State" "marks" "[LGlassStreet$Marks;" := by
  intro c h
  simp only [List.mem_cons, List.not_mem_nil, or_false] at h
  rcases h with rfl
  · exact ⟨_, _, _, _, gok_3, Nat.le_of_ble_eq_true rfl, rfl, rfl, Or.inl rfl⟩
theorem gf_GlassStreet_Thick_cells : ∀ c ∈ ([9] : List Nat), gFd c 2 "GlassStreet$Thick" "cells" "I" := by
  intro c h
  simp only [List.mem_cons, List.not_mem_nil, or_false] at h
  rcases h with rfl
  · exact ⟨_, _, _, _, gok_9, Nat.le_of_ble_eq_true rfl, rfl, rfl, Or.inr q861⟩
theorem gf_GlassStreet_Two_a : ∀ c ∈ ([14] : List Nat), gFd c 1 "GlassStreet$Two" "a" "LGlassStreet$Expression;" := by
  intro c h
  simp only [List.mem_cons, List.not_mem_nil, or_false] at h
  rcases h with rfl
  · exact ⟨_, _, _, _, gok_14, Nat.le_of_ble_eq_true rfl, rfl, rfl, Or.inl rfl⟩
theorem gf_GlassStreet_Two_b : ∀ c ∈ ([14] : List Nat), gFd c 2 "GlassStreet$Two" "b" "LGlassStreet$Expression;" := by
  intro c h
  simp only [List.mem_cons, List.not_mem_nil, or_false] at h
  rcases h with rfl
  · exact ⟨_, _, _, _, gok_14, Nat.le_of_ble_eq_true rfl, rfl, rfl, Or.inl rfl⟩
theorem gf_GlassStreet_Two_way : ∀ c ∈ ([14] : List Nat), gFd c 0 "GlassStreet$Two" "way" "C" := by
  intro c h
  simp only [List.mem_cons, List.not_mem_nil, or_false] at h
  rcases h with rfl
  · exact ⟨_, _, _, _, gok_14, Nat.le_of_ble_eq_true rfl, rfl, rfl, Or.inl rfl⟩
theorem gf_GlassStreet_Walked_cell : ∀ c ∈ ([15] : List Nat), gFd c 1 "GlassStreet$Walked" "cell" "I" := by
  intro c h
  simp only [List.mem_cons, List.not_mem_nil, or_false] at h
  rcases h with rfl
  · exact ⟨_, _, _, _, gok_15, Nat.le_of_ble_eq_true rfl, rfl, rfl, Or.inl rfl⟩
theorem gf_GlassStreet_Walked_person : ∀ c ∈ ([15] : List Nat), gFd c 0 "GlassStreet$Walked" "person" "I" := by
  intro c h
  simp only [List.mem_cons, List.not_mem_nil, or_false] at h
  rcases h with rfl
  · exact ⟨_, _, _, _, gok_15, Nat.le_of_ble_eq_true rfl, rfl, rfl, Or.inl rfl⟩
theorem gf_GlassStreet_Washed_pane : ∀ c ∈ ([17] : List Nat), gFd c 0 "GlassStreet$Washed" "pane" "I" := by
  intro c h
  simp only [List.mem_cons, List.not_mem_nil, or_false] at h
  rcases h with rfl
  · exact ⟨_, _, _, _, gok_17, Nat.le_of_ble_eq_true rfl, rfl, rfl, Or.inl rfl⟩
theorem gf_GlassStreet_Wrong_fault : ∀ c ∈ ([6] : List Nat), gFd c 6 "GlassStreet$Wrong" "fault" "I" := by
  intro c h
  simp only [List.mem_cons, List.not_mem_nil, or_false] at h
  rcases h with rfl
  · exact ⟨_, _, _, _, gok_6, Nat.le_of_ble_eq_true rfl, rfl, rfl, Or.inl rfl⟩
theorem gf_GlassStreet_did : ∀ c ∈ ([0] : List Nat), gFd c 12 "GlassStreet" "did" "I" := by
  intro c h
  simp only [List.mem_cons, List.not_mem_nil, or_false] at h
  rcases h with rfl
  · exact ⟨_, _, _, _, gok_0, Nat.le_of_ble_eq_true rfl, rfl, rfl, Or.inl rfl⟩
theorem gf_GlassStreet_facts : ∀ c ∈ ([0] : List Nat), gFd c 6 "GlassStreet" "facts" "[I" := by
  intro c h
  simp only [List.mem_cons, List.not_mem_nil, or_false] at h
  rcases h with rfl
  · exact ⟨_, _, _, _, gok_0, Nat.le_of_ble_eq_true rfl, rfl, rfl, Or.inl rfl⟩
theorem gf_GlassStreet_g : ∀ c ∈ ([0] : List Nat), gFd c 11 "GlassStreet" "g" "J" := by
  intro c h
  simp only [List.mem_cons, List.not_mem_nil, or_false] at h
  rcases h with rfl
  · exact ⟨_, _, _, _, gok_0, Nat.le_of_ble_eq_true rfl, rfl, rfl, Or.inl rfl⟩
theorem gf_GlassStreet_houses : ∀ c ∈ ([0] : List Nat), gFd c 2 "GlassStreet" "houses" "LGlassStreet$Houses;" := by
  intro c h
  simp only [List.mem_cons, List.not_mem_nil, or_false] at h
  rcases h with rfl
  · exact ⟨_, _, _, _, gok_0, Nat.le_of_ble_eq_true rfl, rfl, rfl, Or.inl rfl⟩
theorem gf_GlassStreet_lines : ∀ c ∈ ([0] : List Nat), gFd c 3 "GlassStreet" "lines" "Ljava/util/ArrayList;" := by
  intro c h
  simp only [List.mem_cons, List.not_mem_nil, or_false] at h
  rcases h with rfl
  · exact ⟨_, _, _, _, gok_0, Nat.le_of_ble_eq_true rfl, rfl, rfl, Or.inl rfl⟩
theorem gf_GlassStreet_notches : ∀ c ∈ ([0] : List Nat), gFd c 14 "GlassStreet" "notches" "[LGlassStreet$Notch;" := by
  intro c h
  simp only [List.mem_cons, List.not_mem_nil, or_false] at h
  rcases h with rfl
  · exact ⟨_, _, _, _, gok_0, Nat.le_of_ble_eq_true rfl, rfl, rfl, Or.inl rfl⟩
theorem gf_GlassStreet_reader : ∀ c ∈ ([0] : List Nat), gFd c 1 "GlassStreet" "reader" "LGlassStreet$Reader;" := by
  intro c h
  simp only [List.mem_cons, List.not_mem_nil, or_false] at h
  rcases h with rfl
  · exact ⟨_, _, _, _, gok_0, Nat.le_of_ble_eq_true rfl, rfl, rfl, Or.inl rfl⟩
theorem gf_GlassStreet_said : ∀ c ∈ ([0] : List Nat), gFd c 10 "GlassStreet" "said" "[I" := by
  intro c h
  simp only [List.mem_cons, List.not_mem_nil, or_false] at h
  rcases h with rfl
  · exact ⟨_, _, _, _, gok_0, Nat.le_of_ble_eq_true rfl, rfl, rfl, Or.inl rfl⟩
theorem gf_GlassStreet_state : ∀ c ∈ ([0] : List Nat), gFd c 4 "GlassStreet" "state" "LGlassStreet$State;" := by
  intro c h
  simp only [List.mem_cons, List.not_mem_nil, or_false] at h
  rcases h with rfl
  · exact ⟨_, _, _, _, gok_0, Nat.le_of_ble_eq_true rfl, rfl, rfl, Or.inl rfl⟩
theorem gf_GlassStreet_tape : ∀ c ∈ ([0] : List Nat), gFd c 0 "GlassStreet" "tape" "[B" := by
  intro c h
  simp only [List.mem_cons, List.not_mem_nil, or_false] at h
  rcases h with rfl
  · exact ⟨_, _, _, _, gok_0, Nat.le_of_ble_eq_true rfl, rfl, rfl, Or.inl rfl⟩
theorem gf_GlassStreet_taped : ∀ c ∈ ([0] : List Nat), gFd c 7 "GlassStreet" "taped" "I" := by
  intro c h
  simp only [List.mem_cons, List.not_mem_nil, or_false] at h
  rcases h with rfl
  · exact ⟨_, _, _, _, gok_0, Nat.le_of_ble_eq_true rfl, rfl, rfl, Or.inl rfl⟩
theorem gf_GlassStreet_trial : ∀ c ∈ ([0] : List Nat), gFd c 5 "GlassStreet" "trial" "LGlassStreet$State;" := by
  intro c h
  simp only [List.mem_cons, List.not_mem_nil, or_false] at h
  rcases h with rfl
  · exact ⟨_, _, _, _, gok_0, Nat.le_of_ble_eq_true rfl, rfl, rfl, Or.inl rfl⟩
theorem gf_GlassStreet_undone : ∀ c ∈ ([0] : List Nat), gFd c 8 "GlassStreet" "undone" "[LGlassStreet$State;" := by
  intro c h
  simp only [List.mem_cons, List.not_mem_nil, or_false] at h
  rcases h with rfl
  · exact ⟨_, _, _, _, gok_0, Nat.le_of_ble_eq_true rfl, rfl, rfl, Or.inl rfl⟩
theorem gf_GlassStreet_undos : ∀ c ∈ ([0] : List Nat), gFd c 9 "GlassStreet" "undos" "I" := by
  intro c h
  simp only [List.mem_cons, List.not_mem_nil, or_false] at h
  rcases h with rfl
  · exact ⟨_, _, _, _, gok_0, Nat.le_of_ble_eq_true rfl, rfl, rfl, Or.inl rfl⟩
theorem gf_GlassStreet_unseen : ∀ c ∈ ([0] : List Nat), gFd c 13 "GlassStreet" "unseen" "I" := by
  intro c h
  simp only [List.mem_cons, List.not_mem_nil, or_false] at h
  rcases h with rfl
  · exact ⟨_, _, _, _, gok_0, Nat.le_of_ble_eq_true rfl, rfl, rfl, Or.inl rfl⟩
theorem gf_java_lang_AbstractStringBuilder_coder : ∀ c ∈ ([22] : List Nat), gFd c 1 "java/lang/AbstractStringBuilder" "coder" "B" := by
  intro c h
  simp only [List.mem_cons, List.not_mem_nil, or_false] at h
  rcases h with rfl
  · exact ⟨_, _, _, _, gok_22, Nat.le_of_ble_eq_true rfl, rfl, rfl, Or.inl rfl⟩
theorem gf_java_lang_AbstractStringBuilder_count : ∀ c ∈ ([22] : List Nat), gFd c 3 "java/lang/AbstractStringBuilder" "count" "I" := by
  intro c h
  simp only [List.mem_cons, List.not_mem_nil, or_false] at h
  rcases h with rfl
  · exact ⟨_, _, _, _, gok_22, Nat.le_of_ble_eq_true rfl, rfl, rfl, Or.inl rfl⟩
theorem gf_java_lang_AbstractStringBuilder_maybeLatin1 : ∀ c ∈ ([22] : List Nat), gFd c 2 "java/lang/AbstractStringBuilder" "maybeLatin1" "Z" := by
  intro c h
  simp only [List.mem_cons, List.not_mem_nil, or_false] at h
  rcases h with rfl
  · exact ⟨_, _, _, _, gok_22, Nat.le_of_ble_eq_true rfl, rfl, rfl, Or.inl rfl⟩
theorem gf_java_lang_AbstractStringBuilder_value : ∀ c ∈ ([22] : List Nat), gFd c 0 "java/lang/AbstractStringBuilder" "value" "[B" := by
  intro c h
  simp only [List.mem_cons, List.not_mem_nil, or_false] at h
  rcases h with rfl
  · exact ⟨_, _, _, _, gok_22, Nat.le_of_ble_eq_true rfl, rfl, rfl, Or.inl rfl⟩
theorem gf_java_lang_String_coder : ∀ c ∈ ([21] : List Nat), gFd c 1 "java/lang/String" "coder" "B" := by
  intro c h
  simp only [List.mem_cons, List.not_mem_nil, or_false] at h
  rcases h with rfl
  · exact ⟨_, _, _, _, gok_21, Nat.le_of_ble_eq_true rfl, rfl, rfl, Or.inl rfl⟩
theorem gf_java_lang_String_value : ∀ c ∈ ([21] : List Nat), gFd c 0 "java/lang/String" "value" "[B" := by
  intro c h
  simp only [List.mem_cons, List.not_mem_nil, or_false] at h
  rcases h with rfl
  · exact ⟨_, _, _, _, gok_21, Nat.le_of_ble_eq_true rfl, rfl, rfl, Or.inl rfl⟩
theorem gf_java_lang_Throwable_cause : ∀ c ∈ ([6, 23] : List Nat), gFd c 0 "java/lang/Throwable" "cause" "Ljava/lang/Throwable;" := by
  intro c h
  simp only [List.mem_cons, List.not_mem_nil, or_false] at h
  rcases h with rfl | rfl
  · exact ⟨_, _, _, _, gok_6, Nat.le_of_ble_eq_true rfl, rfl, rfl, Or.inl rfl⟩
  · exact ⟨_, _, _, _, gok_23, Nat.le_of_ble_eq_true rfl, rfl, rfl, Or.inl rfl⟩
theorem gf_java_lang_Throwable_detailMessage : ∀ c ∈ ([6, 23] : List Nat), gFd c 3 "java/lang/Throwable" "detailMessage" "Ljava/lang/String;" := by
  intro c h
  simp only [List.mem_cons, List.not_mem_nil, or_false] at h
  rcases h with rfl | rfl
  · exact ⟨_, _, _, _, gok_6, Nat.le_of_ble_eq_true rfl, rfl, rfl, Or.inl rfl⟩
  · exact ⟨_, _, _, _, gok_23, Nat.le_of_ble_eq_true rfl, rfl, rfl, Or.inl rfl⟩
theorem gf_java_lang_Throwable_stackTrace : ∀ c ∈ ([6, 23] : List Nat), gFd c 1 "java/lang/Throwable" "stackTrace" "[Ljava/lang/StackTraceElement;" := by
  intro c h
  simp only [List.mem_cons, List.not_mem_nil, or_false] at h
  rcases h with rfl | rfl
  · exact ⟨_, _, _, _, gok_6, Nat.le_of_ble_eq_true rfl, rfl, rfl, Or.inl rfl⟩
  · exact ⟨_, _, _, _, gok_23, Nat.le_of_ble_eq_true rfl, rfl, rfl, Or.inl rfl⟩
theorem gf_java_lang_Throwable_suppressedExceptions : ∀ c ∈ ([6, 23] : List Nat), gFd c 2 "java/lang/Throwable" "suppressedExceptions" "Ljava/util/List;" := by
  intro c h
  simp only [List.mem_cons, List.not_mem_nil, or_false] at h
  rcases h with rfl | rfl
  · exact ⟨_, _, _, _, gok_6, Nat.le_of_ble_eq_true rfl, rfl, rfl, Or.inl rfl⟩
  · exact ⟨_, _, _, _, gok_23, Nat.le_of_ble_eq_true rfl, rfl, rfl, Or.inl rfl⟩
theorem gf_java_util_AbstractList_modCount : ∀ c ∈ ([20] : List Nat), gFd c 0 "java/util/AbstractList" "modCount" "I" := by
  intro c h
  simp only [List.mem_cons, List.not_mem_nil, or_false] at h
  rcases h with rfl
  · exact ⟨_, _, _, _, gok_20, Nat.le_of_ble_eq_true rfl, rfl, rfl, Or.inl rfl⟩
theorem gf_java_util_ArrayList_elementData : ∀ c ∈ ([20] : List Nat), gFd c 1 "java/util/ArrayList" "elementData" "[Ljava/lang/Object;" := by
  intro c h
  simp only [List.mem_cons, List.not_mem_nil, or_false] at h
  rcases h with rfl
  · exact ⟨_, _, _, _, gok_20, Nat.le_of_ble_eq_true rfl, rfl, rfl, Or.inl rfl⟩
theorem gf_java_util_ArrayList_modCount : ∀ c ∈ ([20] : List Nat), gFd c 0 "java/util/ArrayList" "modCount" "I" := by
  intro c h
  simp only [List.mem_cons, List.not_mem_nil, or_false] at h
  rcases h with rfl
  · exact ⟨_, _, _, _, gok_20, Nat.le_of_ble_eq_true rfl, rfl, rfl, Or.inr q230⟩
theorem gf_java_util_ArrayList_size : ∀ c ∈ ([20] : List Nat), gFd c 2 "java/util/ArrayList" "size" "I" := by
  intro c h
  simp only [List.mem_cons, List.not_mem_nil, or_false] at h
  rcases h with rfl
  · exact ⟨_, _, _, _, gok_20, Nat.le_of_ble_eq_true rfl, rfl, rfl, Or.inl rfl⟩
theorem gw_GlassStreetModel_arg_X6 : ∀ c ∈ ([5] : List Nat), gFw c 12 "GlassStreetModel" "arg" "[I" true RX6 (.array .int) := by
  intro c h
  simp only [List.mem_cons, List.not_mem_nil, or_false] at h
  rcases h with rfl
  · exact ⟨_, _, _, _, gok_5, Nat.le_of_ble_eq_true rfl, rfl, rfl, Or.inl rfl, rfl, (fun h => rfl), rfl⟩
theorem gw_GlassStreetModel_facts_X6 : ∀ c ∈ ([5] : List Nat), gFw c 22 "GlassStreetModel" "facts" "[I" true RX6 (.array .int) := by
  intro c h
  simp only [List.mem_cons, List.not_mem_nil, or_false] at h
  rcases h with rfl
  · exact ⟨_, _, _, _, gok_5, Nat.le_of_ble_eq_true rfl, rfl, rfl, Or.inl rfl, rfl, (fun h => rfl), rfl⟩
theorem gw_GlassStreetModel_isNotched_X6 : ∀ c ∈ ([5] : List Nat), gFw c 26 "GlassStreetModel" "isNotched" "[Z" true RX6 (.array .boolean) := by
  intro c h
  simp only [List.mem_cons, List.not_mem_nil, or_false] at h
  rcases h with rfl
  · exact ⟨_, _, _, _, gok_5, Nat.le_of_ble_eq_true rfl, rfl, rfl, Or.inl rfl, rfl, (fun h => rfl), rfl⟩
theorem gw_GlassStreetModel_lines_X6 : ∀ c ∈ ([5] : List Nat), gFw c 21 "GlassStreetModel" "lines" "[I" true RX6 (.array .int) := by
  intro c h
  simp only [List.mem_cons, List.not_mem_nil, or_false] at h
  rcases h with rfl
  · exact ⟨_, _, _, _, gok_5, Nat.le_of_ble_eq_true rfl, rfl, rfl, Or.inl rfl, rfl, (fun h => rfl), rfl⟩
theorem gw_GlassStreetModel_nameOf_X6 : ∀ c ∈ ([5] : List Nat), gFw c 16 "GlassStreetModel" "nameOf" "[I" true RX6 (.array .int) := by
  intro c h
  simp only [List.mem_cons, List.not_mem_nil, or_false] at h
  rcases h with rfl
  · exact ⟨_, _, _, _, gok_5, Nat.le_of_ble_eq_true rfl, rfl, rfl, Or.inl rfl, rfl, (fun h => rfl), rfl⟩
theorem gw_GlassStreetModel_names_X6 : ∀ c ∈ ([5] : List Nat), gFw c 14 "GlassStreetModel" "names" "[J" true RX6 (.array .long) := by
  intro c h
  simp only [List.mem_cons, List.not_mem_nil, or_false] at h
  rcases h with rfl
  · exact ⟨_, _, _, _, gok_5, Nat.le_of_ble_eq_true rfl, rfl, rfl, Or.inl rfl, rfl, (fun h => rfl), rfl⟩
theorem gw_GlassStreetModel_op_X6 : ∀ c ∈ ([5] : List Nat), gFw c 11 "GlassStreetModel" "op" "[I" true RX6 (.array .int) := by
  intro c h
  simp only [List.mem_cons, List.not_mem_nil, or_false] at h
  rcases h with rfl
  · exact ⟨_, _, _, _, gok_5, Nat.le_of_ble_eq_true rfl, rfl, rfl, Or.inl rfl, rfl, (fun h => rfl), rfl⟩
theorem gw_GlassStreetModel_pile_X6 : ∀ c ∈ ([5] : List Nat), gFw c 23 "GlassStreetModel" "pile" "[I" true RX6 (.array .int) := by
  intro c h
  simp only [List.mem_cons, List.not_mem_nil, or_false] at h
  rcases h with rfl
  · exact ⟨_, _, _, _, gok_5, Nat.le_of_ble_eq_true rfl, rfl, rfl, Or.inl rfl, rfl, (fun h => rfl), rfl⟩
theorem gw_GlassStreetModel_place_X6 : ∀ c ∈ ([5] : List Nat), gFw c 5 "GlassStreetModel" "place" "[I" true RX6 (.array .int) := by
  intro c h
  simp only [List.mem_cons, List.not_mem_nil, or_false] at h
  rcases h with rfl
  · exact ⟨_, _, _, _, gok_5, Nat.le_of_ble_eq_true rfl, rfl, rfl, Or.inl rfl, rfl, (fun h => rfl), rfl⟩
theorem gw_GlassStreetModel_readNameOf_X6 : ∀ c ∈ ([5] : List Nat), gFw c 17 "GlassStreetModel" "readNameOf" "[I" true RX6 (.array .int) := by
  intro c h
  simp only [List.mem_cons, List.not_mem_nil, or_false] at h
  rcases h with rfl
  · exact ⟨_, _, _, _, gok_5, Nat.le_of_ble_eq_true rfl, rfl, rfl, Or.inl rfl, rfl, (fun h => rfl), rfl⟩
theorem gw_GlassStreetModel_readNames_X6 : ∀ c ∈ ([5] : List Nat), gFw c 15 "GlassStreetModel" "readNames" "[J" true RX6 (.array .long) := by
  intro c h
  simp only [List.mem_cons, List.not_mem_nil, or_false] at h
  rcases h with rfl
  · exact ⟨_, _, _, _, gok_5, Nat.le_of_ble_eq_true rfl, rfl, rfl, Or.inl rfl, rfl, (fun h => rfl), rfl⟩
theorem gw_GlassStreetModel_sort_X6 : ∀ c ∈ ([5] : List Nat), gFw c 4 "GlassStreetModel" "sort" "[I" true RX6 (.array .int) := by
  intro c h
  simp only [List.mem_cons, List.not_mem_nil, or_false] at h
  rcases h with rfl
  · exact ⟨_, _, _, _, gok_5, Nat.le_of_ble_eq_true rfl, rfl, rfl, Or.inl rfl, rfl, (fun h => rfl), rfl⟩
theorem gw_GlassStreetModel_state_X6 : ∀ c ∈ ([5] : List Nat), gFw c 24 "GlassStreetModel" "state" "[I" true RX6 (.array .int) := by
  intro c h
  simp only [List.mem_cons, List.not_mem_nil, or_false] at h
  rcases h with rfl
  · exact ⟨_, _, _, _, gok_5, Nat.le_of_ble_eq_true rfl, rfl, rfl, Or.inl rfl, rfl, (fun h => rfl), rfl⟩
theorem gw_GlassStreetModel_streets_X6 : ∀ c ∈ ([5] : List Nat), gFw c 10 "GlassStreetModel" "streets" "[I" true RX6 (.array .int) := by
  intro c h
  simp only [List.mem_cons, List.not_mem_nil, or_false] at h
  rcases h with rfl
  · exact ⟨_, _, _, _, gok_5, Nat.le_of_ble_eq_true rfl, rfl, rfl, Or.inl rfl, rfl, (fun h => rfl), rfl⟩
theorem gw_GlassStreetModel_tape_X6 : ∀ c ∈ ([5] : List Nat), gFw c 1 "GlassStreetModel" "tape" "[I" true RX6 (.array .int) := by
  intro c h
  simp only [List.mem_cons, List.not_mem_nil, or_false] at h
  rcases h with rfl
  · exact ⟨_, _, _, _, gok_5, Nat.le_of_ble_eq_true rfl, rfl, rfl, Or.inl rfl, rfl, (fun h => rfl), rfl⟩
theorem gw_GlassStreetModel_value_X6 : ∀ c ∈ ([5] : List Nat), gFw c 6 "GlassStreetModel" "value" "[J" true RX6 (.array .long) := by
  intro c h
  simp only [List.mem_cons, List.not_mem_nil, or_false] at h
  rcases h with rfl
  · exact ⟨_, _, _, _, gok_5, Nat.le_of_ble_eq_true rfl, rfl, rfl, Or.inl rfl, rfl, (fun h => rfl), rfl⟩
theorem gw_GlassStreetModel_words_X6 : ∀ c ∈ ([5] : List Nat), gFw c 9 "GlassStreetModel" "words" "[J" true RX6 (.array .long) := by
  intro c h
  simp only [List.mem_cons, List.not_mem_nil, or_false] at h
  rcases h with rfl
  · exact ⟨_, _, _, _, gok_5, Nat.le_of_ble_eq_true rfl, rfl, rfl, Or.inl rfl, rfl, (fun h => rfl), rfl⟩
theorem gw_GlassStreet_Changed_isStone_X22 : ∀ c ∈ ([18] : List Nat), gFw c 1 "GlassStreet$Changed" "isStone" "Z" true RX22 .boolean := by
  intro c h
  simp only [List.mem_cons, List.not_mem_nil, or_false] at h
  rcases h with rfl
  · exact ⟨_, _, _, _, gok_18, Nat.le_of_ble_eq_true rfl, rfl, rfl, Or.inl rfl, rfl, (fun h => rfl), rfl⟩
theorem gw_GlassStreet_Changed_pane_X22 : ∀ c ∈ ([18] : List Nat), gFw c 0 "GlassStreet$Changed" "pane" "I" true RX22 .int := by
  intro c h
  simp only [List.mem_cons, List.not_mem_nil, or_false] at h
  rcases h with rfl
  · exact ⟨_, _, _, _, gok_18, Nat.le_of_ble_eq_true rfl, rfl, rfl, Or.inl rfl, rfl, (fun h => rfl), rfl⟩
theorem gw_GlassStreet_Did_deed_X20 : ∀ c ∈ ([16] : List Nat), gFw c 1 "GlassStreet$Did" "deed" "I" true RX20 .int := by
  intro c h
  simp only [List.mem_cons, List.not_mem_nil, or_false] at h
  rcases h with rfl
  · exact ⟨_, _, _, _, gok_16, Nat.le_of_ble_eq_true rfl, rfl, rfl, Or.inl rfl, rfl, (fun h => rfl), rfl⟩
theorem gw_GlassStreet_Did_person_X20 : ∀ c ∈ ([16] : List Nat), gFw c 0 "GlassStreet$Did" "person" "I" true RX20 .int := by
  intro c h
  simp only [List.mem_cons, List.not_mem_nil, or_false] at h
  rcases h with rfl
  · exact ⟨_, _, _, _, gok_16, Nat.le_of_ble_eq_true rfl, rfl, rfl, Or.inl rfl, rfl, (fun h => rfl), rfl⟩
theorem gw_GlassStreet_Fact_which_X14 : ∀ c ∈ ([12] : List Nat), gFw c 0 "GlassStreet$Fact" "which" "I" true RX14 .int := by
  intro c h
  simp only [List.mem_cons, List.not_mem_nil, or_false] at h
  rcases h with rfl
  · exact ⟨_, _, _, _, gok_12, Nat.le_of_ble_eq_true rfl, rfl, rfl, Or.inl rfl, rfl, (fun h => rfl), rfl⟩
theorem gw_GlassStreet_Given_n_X13 : ∀ c ∈ ([11] : List Nat), gFw c 0 "GlassStreet$Given" "n" "I" true RX13 .int := by
  intro c h
  simp only [List.mem_cons, List.not_mem_nil, or_false] at h
  rcases h with rfl
  · exact ⟨_, _, _, _, gok_11, Nat.le_of_ble_eq_true rfl, rfl, rfl, Or.inl rfl, rfl, (fun h => rfl), rfl⟩
theorem gw_GlassStreet_Houses_at_X3 : ∀ c ∈ ([2] : List Nat), gFw c 3 "GlassStreet$Houses" "at" "[I" true RX3 (.array .int) := by
  intro c h
  simp only [List.mem_cons, List.not_mem_nil, or_false] at h
  rcases h with rfl
  · exact ⟨_, _, _, _, gok_2, Nat.le_of_ble_eq_true rfl, rfl, rfl, Or.inl rfl, rfl, (fun h => rfl), rfl⟩
theorem gw_GlassStreet_Houses_deeds_X3 : ∀ c ∈ ([2] : List Nat), gFw c 2 "GlassStreet$Houses" "deeds" "Ljava/util/ArrayList;" true RX3 (.object "java/util/ArrayList") := by
  intro c h
  simp only [List.mem_cons, List.not_mem_nil, or_false] at h
  rcases h with rfl
  · exact ⟨_, _, _, _, gok_2, Nat.le_of_ble_eq_true rfl, rfl, rfl, Or.inl rfl, rfl, (fun h => rfl), rfl⟩
theorem gw_GlassStreet_Houses_fades_X2 : ∀ c ∈ ([2] : List Nat), gFw c 7 "GlassStreet$Houses" "fades" "LGlassStreet$Expression;" false RX2 (.object "GlassStreet$Expression") := by
  intro c h
  simp only [List.mem_cons, List.not_mem_nil, or_false] at h
  rcases h with rfl
  · exact ⟨_, _, _, _, gok_2, Nat.le_of_ble_eq_true rfl, rfl, rfl, Or.inl rfl, rfl, (fun h => by cases h), rfl⟩
theorem gw_GlassStreet_Houses_harm_X3 : ∀ c ∈ ([2] : List Nat), gFw c 4 "GlassStreet$Houses" "harm" "[I" true RX3 (.array .int) := by
  intro c h
  simp only [List.mem_cons, List.not_mem_nil, or_false] at h
  rcases h with rfl
  · exact ⟨_, _, _, _, gok_2, Nat.le_of_ble_eq_true rfl, rfl, rfl, Or.inl rfl, rfl, (fun h => rfl), rfl⟩
theorem gw_GlassStreet_Houses_light_X3 : ∀ c ∈ ([2] : List Nat), gFw c 5 "GlassStreet$Houses" "light" "[I" true RX3 (.array .int) := by
  intro c h
  simp only [List.mem_cons, List.not_mem_nil, or_false] at h
  rcases h with rfl
  · exact ⟨_, _, _, _, gok_2, Nat.le_of_ble_eq_true rfl, rfl, rfl, Or.inl rfl, rfl, (fun h => rfl), rfl⟩
theorem gw_GlassStreet_Houses_many_X2 : ∀ c ∈ ([2] : List Nat), gFw c 6 "GlassStreet$Houses" "many" "I" false RX2 .int := by
  intro c h
  simp only [List.mem_cons, List.not_mem_nil, or_false] at h
  rcases h with rfl
  · exact ⟨_, _, _, _, gok_2, Nat.le_of_ble_eq_true rfl, rfl, rfl, Or.inl rfl, rfl, (fun h => by cases h), rfl⟩
theorem gw_GlassStreet_Houses_panes_X3 : ∀ c ∈ ([2] : List Nat), gFw c 0 "GlassStreet$Houses" "panes" "Ljava/util/ArrayList;" true RX3 (.object "java/util/ArrayList") := by
  intro c h
  simp only [List.mem_cons, List.not_mem_nil, or_false] at h
  rcases h with rfl
  · exact ⟨_, _, _, _, gok_2, Nat.le_of_ble_eq_true rfl, rfl, rfl, Or.inl rfl, rfl, (fun h => rfl), rfl⟩
theorem gw_GlassStreet_Houses_people_X3 : ∀ c ∈ ([2] : List Nat), gFw c 1 "GlassStreet$Houses" "people" "Ljava/util/ArrayList;" true RX3 (.object "java/util/ArrayList") := by
  intro c h
  simp only [List.mem_cons, List.not_mem_nil, or_false] at h
  rcases h with rfl
  · exact ⟨_, _, _, _, gok_2, Nat.le_of_ble_eq_true rfl, rfl, rfl, Or.inl rfl, rfl, (fun h => rfl), rfl⟩
theorem gw_GlassStreet_Marks_age_X5 : ∀ c ∈ ([4] : List Nat), gFw c 3 "GlassStreet$Marks" "age" "[I" true RX5 (.array .int) := by
  intro c h
  simp only [List.mem_cons, List.not_mem_nil, or_false] at h
  rcases h with rfl
  · exact ⟨_, _, _, _, gok_4, Nat.le_of_ble_eq_true rfl, rfl, rfl, Or.inl rfl, rfl, (fun h => rfl), rfl⟩
theorem gw_GlassStreet_Marks_cell_X5 : ∀ c ∈ ([4] : List Nat), gFw c 2 "GlassStreet$Marks" "cell" "[I" true RX5 (.array .int) := by
  intro c h
  simp only [List.mem_cons, List.not_mem_nil, or_false] at h
  rcases h with rfl
  · exact ⟨_, _, _, _, gok_4, Nat.le_of_ble_eq_true rfl, rfl, rfl, Or.inl rfl, rfl, (fun h => rfl), rfl⟩
theorem gw_GlassStreet_Marks_deed_X5 : ∀ c ∈ ([4] : List Nat), gFw c 1 "GlassStreet$Marks" "deed" "[I" true RX5 (.array .int) := by
  intro c h
  simp only [List.mem_cons, List.not_mem_nil, or_false] at h
  rcases h with rfl
  · exact ⟨_, _, _, _, gok_4, Nat.le_of_ble_eq_true rfl, rfl, rfl, Or.inl rfl, rfl, (fun h => rfl), rfl⟩
theorem gw_GlassStreet_Marks_many_X1 : ∀ c ∈ ([4] : List Nat), gFw c 4 "GlassStreet$Marks" "many" "I" false RX1 .int := by
  intro c h
  simp only [List.mem_cons, List.not_mem_nil, or_false] at h
  rcases h with rfl
  · exact ⟨_, _, _, _, gok_4, Nat.le_of_ble_eq_true rfl, rfl, rfl, Or.inl rfl, rfl, (fun h => by cases h), rfl⟩
theorem gw_GlassStreet_Marks_many_X21 : ∀ c ∈ ([4] : List Nat), gFw c 4 "GlassStreet$Marks" "many" "I" false RX21 .int := by
  intro c h
  simp only [List.mem_cons, List.not_mem_nil, or_false] at h
  rcases h with rfl
  · exact ⟨_, _, _, _, gok_4, Nat.le_of_ble_eq_true rfl, rfl, rfl, Or.inl rfl, rfl, (fun h => by cases h), rfl⟩
theorem gw_GlassStreet_Marks_many_X4 : ∀ c ∈ ([4] : List Nat), gFw c 4 "GlassStreet$Marks" "many" "I" false RX4 .int := by
  intro c h
  simp only [List.mem_cons, List.not_mem_nil, or_false] at h
  rcases h with rfl
  · exact ⟨_, _, _, _, gok_4, Nat.le_of_ble_eq_true rfl, rfl, rfl, Or.inl rfl, rfl, (fun h => by cases h), rfl⟩
theorem gw_GlassStreet_Marks_many_X5 : ∀ c ∈ ([4] : List Nat), gFw c 4 "GlassStreet$Marks" "many" "I" false RX5 .int := by
  intro c h
  simp only [List.mem_cons, List.not_mem_nil, or_false] at h
  rcases h with rfl
  · exact ⟨_, _, _, _, gok_4, Nat.le_of_ble_eq_true rfl, rfl, rfl, Or.inl rfl, rfl, (fun h => by cases h), rfl⟩
theorem gw_GlassStreet_Marks_who_X5 : ∀ c ∈ ([4] : List Nat), gFw c 0 "GlassStreet$Marks" "who" "[I" true RX5 (.array .int) := by
  intro c h
  simp only [List.mem_cons, List.not_mem_nil, or_false] at h
  rcases h with rfl
  · exact ⟨_, _, _, _, gok_4, Nat.le_of_ble_eq_true rfl, rfl, rfl, Or.inl rfl, rfl, (fun h => rfl), rfl⟩
theorem gw_GlassStreet_Not_part_X15 : ∀ c ∈ ([13] : List Nat), gFw c 0 "GlassStreet$Not" "part" "LGlassStreet$Expression;" true RX15 (.object "GlassStreet$Expression") := by
  intro c h
  simp only [List.mem_cons, List.not_mem_nil, or_false] at h
  rcases h with rfl
  · exact ⟨_, _, _, _, gok_13, Nat.le_of_ble_eq_true rfl, rfl, rfl, Or.inl rfl, rfl, (fun h => rfl), rfl⟩
theorem gw_GlassStreet_Notch_said_X23 : ∀ c ∈ ([19] : List Nat), gFw c 1 "GlassStreet$Notch" "said" "[I" true RX23 (.array .int) := by
  intro c h
  simp only [List.mem_cons, List.not_mem_nil, or_false] at h
  rcases h with rfl
  · exact ⟨_, _, _, _, gok_19, Nat.le_of_ble_eq_true rfl, rfl, rfl, Or.inl rfl, rfl, (fun h => rfl), rfl⟩
theorem gw_GlassStreet_Notch_state_X23 : ∀ c ∈ ([19] : List Nat), gFw c 0 "GlassStreet$Notch" "state" "LGlassStreet$State;" true RX23 (.object "GlassStreet$State") := by
  intro c h
  simp only [List.mem_cons, List.not_mem_nil, or_false] at h
  rcases h with rfl
  · exact ⟨_, _, _, _, gok_19, Nat.le_of_ble_eq_true rfl, rfl, rfl, Or.inl rfl, rfl, (fun h => rfl), rfl⟩
theorem gw_GlassStreet_Pane_cells_X2 : ∀ c ∈ ([7, 8, 9, 10] : List Nat), gFw c 2 "GlassStreet$Pane" "cells" "I" false RX2 .int := by
  intro c h
  simp only [List.mem_cons, List.not_mem_nil, or_false] at h
  rcases h with rfl | rfl | rfl | rfl
  · exact ⟨_, _, _, _, gok_7, Nat.le_of_ble_eq_true rfl, rfl, rfl, Or.inl rfl, rfl, (fun h => by cases h), rfl⟩
  · exact ⟨_, _, _, _, gok_8, Nat.le_of_ble_eq_true rfl, rfl, rfl, Or.inl rfl, rfl, (fun h => by cases h), rfl⟩
  · exact ⟨_, _, _, _, gok_9, Nat.le_of_ble_eq_true rfl, rfl, rfl, Or.inl rfl, rfl, (fun h => by cases h), rfl⟩
  · exact ⟨_, _, _, _, gok_10, Nat.le_of_ble_eq_true rfl, rfl, rfl, Or.inl rfl, rfl, (fun h => by cases h), rfl⟩
theorem gw_GlassStreet_Pane_keeps_X2 : ∀ c ∈ ([7, 8, 9, 10] : List Nat), gFw c 1 "GlassStreet$Pane" "keeps" "I" false RX2 .int := by
  intro c h
  simp only [List.mem_cons, List.not_mem_nil, or_false] at h
  rcases h with rfl | rfl | rfl | rfl
  · exact ⟨_, _, _, _, gok_7, Nat.le_of_ble_eq_true rfl, rfl, rfl, Or.inl rfl, rfl, (fun h => by cases h), rfl⟩
  · exact ⟨_, _, _, _, gok_8, Nat.le_of_ble_eq_true rfl, rfl, rfl, Or.inl rfl, rfl, (fun h => by cases h), rfl⟩
  · exact ⟨_, _, _, _, gok_9, Nat.le_of_ble_eq_true rfl, rfl, rfl, Or.inl rfl, rfl, (fun h => by cases h), rfl⟩
  · exact ⟨_, _, _, _, gok_10, Nat.le_of_ble_eq_true rfl, rfl, rfl, Or.inl rfl, rfl, (fun h => by cases h), rfl⟩
theorem gw_GlassStreet_Pane_name_X8 : ∀ c ∈ ([7, 8, 9, 10] : List Nat), gFw c 0 "GlassStreet$Pane" "name" "Ljava/lang/String;" true RX8 (.object "java/lang/String") := by
  intro c h
  simp only [List.mem_cons, List.not_mem_nil, or_false] at h
  rcases h with rfl | rfl | rfl | rfl
  · exact ⟨_, _, _, _, gok_7, Nat.le_of_ble_eq_true rfl, rfl, rfl, Or.inl rfl, rfl, (fun h => rfl), rfl⟩
  · exact ⟨_, _, _, _, gok_8, Nat.le_of_ble_eq_true rfl, rfl, rfl, Or.inl rfl, rfl, (fun h => rfl), rfl⟩
  · exact ⟨_, _, _, _, gok_9, Nat.le_of_ble_eq_true rfl, rfl, rfl, Or.inl rfl, rfl, (fun h => rfl), rfl⟩
  · exact ⟨_, _, _, _, gok_10, Nat.le_of_ble_eq_true rfl, rfl, rfl, Or.inl rfl, rfl, (fun h => rfl), rfl⟩
theorem gw_GlassStreet_Reader_from_X2 : ∀ c ∈ ([1] : List Nat), gFw c 4 "GlassStreet$Reader" "from" "I" false RX2 .int := by
  intro c h
  simp only [List.mem_cons, List.not_mem_nil, or_false] at h
  rcases h with rfl
  · exact ⟨_, _, _, _, gok_1, Nat.le_of_ble_eq_true rfl, rfl, rfl, Or.inl rfl, rfl, (fun h => by cases h), rfl⟩
theorem gw_GlassStreet_Reader_houses_X2 : ∀ c ∈ ([1] : List Nat), gFw c 7 "GlassStreet$Reader" "houses" "LGlassStreet$Houses;" false RX2 (.object "GlassStreet$Houses") := by
  intro c h
  simp only [List.mem_cons, List.not_mem_nil, or_false] at h
  rcases h with rfl
  · exact ⟨_, _, _, _, gok_1, Nat.le_of_ble_eq_true rfl, rfl, rfl, Or.inl rfl, rfl, (fun h => by cases h), rfl⟩
theorem gw_GlassStreet_Reader_kind_X2 : ∀ c ∈ ([1] : List Nat), gFw c 3 "GlassStreet$Reader" "kind" "I" false RX2 .int := by
  intro c h
  simp only [List.mem_cons, List.not_mem_nil, or_false] at h
  rcases h with rfl
  · exact ⟨_, _, _, _, gok_1, Nat.le_of_ble_eq_true rfl, rfl, rfl, Or.inl rfl, rfl, (fun h => by cases h), rfl⟩
theorem gw_GlassStreet_Reader_size_X2 : ∀ c ∈ ([1] : List Nat), gFw c 1 "GlassStreet$Reader" "size" "I" false RX2 .int := by
  intro c h
  simp only [List.mem_cons, List.not_mem_nil, or_false] at h
  rcases h with rfl
  · exact ⟨_, _, _, _, gok_1, Nat.le_of_ble_eq_true rfl, rfl, rfl, Or.inl rfl, rfl, (fun h => by cases h), rfl⟩
theorem gw_GlassStreet_Reader_text_X2 : ∀ c ∈ ([1] : List Nat), gFw c 0 "GlassStreet$Reader" "text" "[B" false RX2 (.array .byte) := by
  intro c h
  simp only [List.mem_cons, List.not_mem_nil, or_false] at h
  rcases h with rfl
  · exact ⟨_, _, _, _, gok_1, Nat.le_of_ble_eq_true rfl, rfl, rfl, Or.inl rfl, rfl, (fun h => by cases h), rfl⟩
theorem gw_GlassStreet_Reader_to_X2 : ∀ c ∈ ([1] : List Nat), gFw c 2 "GlassStreet$Reader" "to" "I" false RX2 .int := by
  intro c h
  simp only [List.mem_cons, List.not_mem_nil, or_false] at h
  rcases h with rfl
  · exact ⟨_, _, _, _, gok_1, Nat.le_of_ble_eq_true rfl, rfl, rfl, Or.inl rfl, rfl, (fun h => by cases h), rfl⟩
theorem gw_GlassStreet_Reader_value_X2 : ∀ c ∈ ([1] : List Nat), gFw c 5 "GlassStreet$Reader" "value" "I" false RX2 .int := by
  intro c h
  simp only [List.mem_cons, List.not_mem_nil, or_false] at h
  rcases h with rfl
  · exact ⟨_, _, _, _, gok_1, Nat.le_of_ble_eq_true rfl, rfl, rfl, Or.inl rfl, rfl, (fun h => by cases h), rfl⟩
theorem gw_GlassStreet_Reader_within_X2 : ∀ c ∈ ([1] : List Nat), gFw c 6 "GlassStreet$Reader" "within" "I" false RX2 .int := by
  intro c h
  simp only [List.mem_cons, List.not_mem_nil, or_false] at h
  rcases h with rfl
  · exact ⟨_, _, _, _, gok_1, Nat.le_of_ble_eq_true rfl, rfl, rfl, Or.inl rfl, rfl, (fun h => by cases h), rfl⟩
theorem gw_GlassStreet_State_at_X4 : ∀ c ∈ ([3] : List Nat), gFw c 0 "GlassStreet$State" "at" "[I" true RX4 (.array .int) := by
  intro c h
  simp only [List.mem_cons, List.not_mem_nil, or_false] at h
  rcases h with rfl
  · exact ⟨_, _, _, _, gok_3, Nat.le_of_ble_eq_true rfl, rfl, rfl, Or.inl rfl, rfl, (fun h => rfl), rfl⟩
theorem gw_GlassStreet_State_drawn_X1 : ∀ c ∈ ([3] : List Nat), gFw c 3 "GlassStreet$State" "drawn" "I" false RX1 .int := by
  intro c h
  simp only [List.mem_cons, List.not_mem_nil, or_false] at h
  rcases h with rfl
  · exact ⟨_, _, _, _, gok_3, Nat.le_of_ble_eq_true rfl, rfl, rfl, Or.inl rfl, rfl, (fun h => by cases h), rfl⟩
theorem gw_GlassStreet_State_drawn_X22 : ∀ c ∈ ([3] : List Nat), gFw c 3 "GlassStreet$State" "drawn" "I" false RX22 .int := by
  intro c h
  simp only [List.mem_cons, List.not_mem_nil, or_false] at h
  rcases h with rfl
  · exact ⟨_, _, _, _, gok_3, Nat.le_of_ble_eq_true rfl, rfl, rfl, Or.inl rfl, rfl, (fun h => by cases h), rfl⟩
theorem gw_GlassStreet_State_drawn_X4 : ∀ c ∈ ([3] : List Nat), gFw c 3 "GlassStreet$State" "drawn" "I" false RX4 .int := by
  intro c h
  simp only [List.mem_cons, List.not_mem_nil, or_false] at h
  rcases h with rfl
  · exact ⟨_, _, _, _, gok_3, Nat.le_of_ble_eq_true rfl, rfl, rfl, Or.inl rfl, rfl, (fun h => by cases h), rfl⟩
theorem gw_GlassStreet_State_gone_X1 : ∀ c ∈ ([3] : List Nat), gFw c 4 "GlassStreet$State" "gone" "I" false RX1 .int := by
  intro c h
  simp only [List.mem_cons, List.not_mem_nil, or_false] at h
  rcases h with rfl
  · exact ⟨_, _, _, _, gok_3, Nat.le_of_ble_eq_true rfl, rfl, rfl, Or.inl rfl, rfl, (fun h => by cases h), rfl⟩
theorem gw_GlassStreet_State_gone_X22 : ∀ c ∈ ([3] : List Nat), gFw c 4 "GlassStreet$State" "gone" "I" false RX22 .int := by
  intro c h
  simp only [List.mem_cons, List.not_mem_nil, or_false] at h
  rcases h with rfl
  · exact ⟨_, _, _, _, gok_3, Nat.le_of_ble_eq_true rfl, rfl, rfl, Or.inl rfl, rfl, (fun h => by cases h), rfl⟩
theorem gw_GlassStreet_State_gone_X4 : ∀ c ∈ ([3] : List Nat), gFw c 4 "GlassStreet$State" "gone" "I" false RX4 .int := by
  intro c h
  simp only [List.mem_cons, List.not_mem_nil, or_false] at h
  rcases h with rfl
  · exact ⟨_, _, _, _, gok_3, Nat.le_of_ble_eq_true rfl, rfl, rfl, Or.inl rfl, rfl, (fun h => by cases h), rfl⟩
theorem gw_GlassStreet_State_hour_X1 : ∀ c ∈ ([3] : List Nat), gFw c 2 "GlassStreet$State" "hour" "I" false RX1 .int := by
  intro c h
  simp only [List.mem_cons, List.not_mem_nil, or_false] at h
  rcases h with rfl
  · exact ⟨_, _, _, _, gok_3, Nat.le_of_ble_eq_true rfl, rfl, rfl, Or.inl rfl, rfl, (fun h => by cases h), rfl⟩
theorem gw_GlassStreet_State_hour_X4 : ∀ c ∈ ([3] : List Nat), gFw c 2 "GlassStreet$State" "hour" "I" false RX4 .int := by
  intro c h
  simp only [List.mem_cons, List.not_mem_nil, or_false] at h
  rcases h with rfl
  · exact ⟨_, _, _, _, gok_3, Nat.le_of_ble_eq_true rfl, rfl, rfl, Or.inl rfl, rfl, (fun h => by cases h), rfl⟩
theorem gw_GlassStreet_State_marks_X4 : ∀ c ∈ ([3] : List Nat), gFw c 1 "GlassStreet$State" "marks" "[LGlassStreet$Marks;" true RX4 (.array (.object "GlassStreet$Marks")) := by
  intro c h
  simp only [List.mem_cons, List.not_mem_nil, or_false] at h
  rcases h with rfl
  · exact ⟨_, _, _, _, gok_3, Nat.le_of_ble_eq_true rfl, rfl, rfl, Or.inl rfl, rfl, (fun h => rfl), rfl⟩
theorem gw_GlassStreet_Two_a_X16 : ∀ c ∈ ([14] : List Nat), gFw c 1 "GlassStreet$Two" "a" "LGlassStreet$Expression;" true RX16 (.object "GlassStreet$Expression") := by
  intro c h
  simp only [List.mem_cons, List.not_mem_nil, or_false] at h
  rcases h with rfl
  · exact ⟨_, _, _, _, gok_14, Nat.le_of_ble_eq_true rfl, rfl, rfl, Or.inl rfl, rfl, (fun h => rfl), rfl⟩
theorem gw_GlassStreet_Two_b_X16 : ∀ c ∈ ([14] : List Nat), gFw c 2 "GlassStreet$Two" "b" "LGlassStreet$Expression;" true RX16 (.object "GlassStreet$Expression") := by
  intro c h
  simp only [List.mem_cons, List.not_mem_nil, or_false] at h
  rcases h with rfl
  · exact ⟨_, _, _, _, gok_14, Nat.le_of_ble_eq_true rfl, rfl, rfl, Or.inl rfl, rfl, (fun h => rfl), rfl⟩
theorem gw_GlassStreet_Two_way_X16 : ∀ c ∈ ([14] : List Nat), gFw c 0 "GlassStreet$Two" "way" "C" true RX16 .char := by
  intro c h
  simp only [List.mem_cons, List.not_mem_nil, or_false] at h
  rcases h with rfl
  · exact ⟨_, _, _, _, gok_14, Nat.le_of_ble_eq_true rfl, rfl, rfl, Or.inl rfl, rfl, (fun h => rfl), rfl⟩
theorem gw_GlassStreet_Walked_cell_X19 : ∀ c ∈ ([15] : List Nat), gFw c 1 "GlassStreet$Walked" "cell" "I" true RX19 .int := by
  intro c h
  simp only [List.mem_cons, List.not_mem_nil, or_false] at h
  rcases h with rfl
  · exact ⟨_, _, _, _, gok_15, Nat.le_of_ble_eq_true rfl, rfl, rfl, Or.inl rfl, rfl, (fun h => rfl), rfl⟩
theorem gw_GlassStreet_Walked_person_X19 : ∀ c ∈ ([15] : List Nat), gFw c 0 "GlassStreet$Walked" "person" "I" true RX19 .int := by
  intro c h
  simp only [List.mem_cons, List.not_mem_nil, or_false] at h
  rcases h with rfl
  · exact ⟨_, _, _, _, gok_15, Nat.le_of_ble_eq_true rfl, rfl, rfl, Or.inl rfl, rfl, (fun h => rfl), rfl⟩
theorem gw_GlassStreet_Washed_pane_X21 : ∀ c ∈ ([17] : List Nat), gFw c 0 "GlassStreet$Washed" "pane" "I" true RX21 .int := by
  intro c h
  simp only [List.mem_cons, List.not_mem_nil, or_false] at h
  rcases h with rfl
  · exact ⟨_, _, _, _, gok_17, Nat.le_of_ble_eq_true rfl, rfl, rfl, Or.inl rfl, rfl, (fun h => rfl), rfl⟩
theorem gw_GlassStreet_Wrong_fault_X7 : ∀ c ∈ ([6] : List Nat), gFw c 6 "GlassStreet$Wrong" "fault" "I" true RX7 .int := by
  intro c h
  simp only [List.mem_cons, List.not_mem_nil, or_false] at h
  rcases h with rfl
  · exact ⟨_, _, _, _, gok_6, Nat.le_of_ble_eq_true rfl, rfl, rfl, Or.inl rfl, rfl, (fun h => rfl), rfl⟩
theorem gw_GlassStreet_did_X1 : ∀ c ∈ ([0] : List Nat), gFw c 12 "GlassStreet" "did" "I" false RX1 .int := by
  intro c h
  simp only [List.mem_cons, List.not_mem_nil, or_false] at h
  rcases h with rfl
  · exact ⟨_, _, _, _, gok_0, Nat.le_of_ble_eq_true rfl, rfl, rfl, Or.inl rfl, rfl, (fun h => by cases h), rfl⟩
theorem gw_GlassStreet_facts_X1 : ∀ c ∈ ([0] : List Nat), gFw c 6 "GlassStreet" "facts" "[I" true RX1 (.array .int) := by
  intro c h
  simp only [List.mem_cons, List.not_mem_nil, or_false] at h
  rcases h with rfl
  · exact ⟨_, _, _, _, gok_0, Nat.le_of_ble_eq_true rfl, rfl, rfl, Or.inl rfl, rfl, (fun h => rfl), rfl⟩
theorem gw_GlassStreet_g_X1 : ∀ c ∈ ([0] : List Nat), gFw c 11 "GlassStreet" "g" "J" false RX1 .long := by
  intro c h
  simp only [List.mem_cons, List.not_mem_nil, or_false] at h
  rcases h with rfl
  · exact ⟨_, _, _, _, gok_0, Nat.le_of_ble_eq_true rfl, rfl, rfl, Or.inl rfl, rfl, (fun h => by cases h), rfl⟩
theorem gw_GlassStreet_houses_X1 : ∀ c ∈ ([0] : List Nat), gFw c 2 "GlassStreet" "houses" "LGlassStreet$Houses;" false RX1 (.object "GlassStreet$Houses") := by
  intro c h
  simp only [List.mem_cons, List.not_mem_nil, or_false] at h
  rcases h with rfl
  · exact ⟨_, _, _, _, gok_0, Nat.le_of_ble_eq_true rfl, rfl, rfl, Or.inl rfl, rfl, (fun h => by cases h), rfl⟩
theorem gw_GlassStreet_lines_X1 : ∀ c ∈ ([0] : List Nat), gFw c 3 "GlassStreet" "lines" "Ljava/util/ArrayList;" false RX1 (.object "java/util/ArrayList") := by
  intro c h
  simp only [List.mem_cons, List.not_mem_nil, or_false] at h
  rcases h with rfl
  · exact ⟨_, _, _, _, gok_0, Nat.le_of_ble_eq_true rfl, rfl, rfl, Or.inl rfl, rfl, (fun h => by cases h), rfl⟩
theorem gw_GlassStreet_notches_X1 : ∀ c ∈ ([0] : List Nat), gFw c 14 "GlassStreet" "notches" "[LGlassStreet$Notch;" true RX1 (.array (.object "GlassStreet$Notch")) := by
  intro c h
  simp only [List.mem_cons, List.not_mem_nil, or_false] at h
  rcases h with rfl
  · exact ⟨_, _, _, _, gok_0, Nat.le_of_ble_eq_true rfl, rfl, rfl, Or.inl rfl, rfl, (fun h => rfl), rfl⟩
theorem gw_GlassStreet_reader_X1 : ∀ c ∈ ([0] : List Nat), gFw c 1 "GlassStreet" "reader" "LGlassStreet$Reader;" true RX1 (.object "GlassStreet$Reader") := by
  intro c h
  simp only [List.mem_cons, List.not_mem_nil, or_false] at h
  rcases h with rfl
  · exact ⟨_, _, _, _, gok_0, Nat.le_of_ble_eq_true rfl, rfl, rfl, Or.inl rfl, rfl, (fun h => rfl), rfl⟩
theorem gw_GlassStreet_said_X1 : ∀ c ∈ ([0] : List Nat), gFw c 10 "GlassStreet" "said" "[I" true RX1 (.array .int) := by
  intro c h
  simp only [List.mem_cons, List.not_mem_nil, or_false] at h
  rcases h with rfl
  · exact ⟨_, _, _, _, gok_0, Nat.le_of_ble_eq_true rfl, rfl, rfl, Or.inl rfl, rfl, (fun h => rfl), rfl⟩
theorem gw_GlassStreet_state_X1 : ∀ c ∈ ([0] : List Nat), gFw c 4 "GlassStreet" "state" "LGlassStreet$State;" true RX1 (.object "GlassStreet$State") := by
  intro c h
  simp only [List.mem_cons, List.not_mem_nil, or_false] at h
  rcases h with rfl
  · exact ⟨_, _, _, _, gok_0, Nat.le_of_ble_eq_true rfl, rfl, rfl, Or.inl rfl, rfl, (fun h => rfl), rfl⟩
theorem gw_GlassStreet_tape_X1 : ∀ c ∈ ([0] : List Nat), gFw c 0 "GlassStreet" "tape" "[B" true RX1 (.array .byte) := by
  intro c h
  simp only [List.mem_cons, List.not_mem_nil, or_false] at h
  rcases h with rfl
  · exact ⟨_, _, _, _, gok_0, Nat.le_of_ble_eq_true rfl, rfl, rfl, Or.inl rfl, rfl, (fun h => rfl), rfl⟩
theorem gw_GlassStreet_taped_X1 : ∀ c ∈ ([0] : List Nat), gFw c 7 "GlassStreet" "taped" "I" false RX1 .int := by
  intro c h
  simp only [List.mem_cons, List.not_mem_nil, or_false] at h
  rcases h with rfl
  · exact ⟨_, _, _, _, gok_0, Nat.le_of_ble_eq_true rfl, rfl, rfl, Or.inl rfl, rfl, (fun h => by cases h), rfl⟩
theorem gw_GlassStreet_trial_X1 : ∀ c ∈ ([0] : List Nat), gFw c 5 "GlassStreet" "trial" "LGlassStreet$State;" true RX1 (.object "GlassStreet$State") := by
  intro c h
  simp only [List.mem_cons, List.not_mem_nil, or_false] at h
  rcases h with rfl
  · exact ⟨_, _, _, _, gok_0, Nat.le_of_ble_eq_true rfl, rfl, rfl, Or.inl rfl, rfl, (fun h => rfl), rfl⟩
theorem gw_GlassStreet_undone_X1 : ∀ c ∈ ([0] : List Nat), gFw c 8 "GlassStreet" "undone" "[LGlassStreet$State;" true RX1 (.array (.object "GlassStreet$State")) := by
  intro c h
  simp only [List.mem_cons, List.not_mem_nil, or_false] at h
  rcases h with rfl
  · exact ⟨_, _, _, _, gok_0, Nat.le_of_ble_eq_true rfl, rfl, rfl, Or.inl rfl, rfl, (fun h => rfl), rfl⟩
theorem gw_GlassStreet_undos_X1 : ∀ c ∈ ([0] : List Nat), gFw c 9 "GlassStreet" "undos" "I" false RX1 .int := by
  intro c h
  simp only [List.mem_cons, List.not_mem_nil, or_false] at h
  rcases h with rfl
  · exact ⟨_, _, _, _, gok_0, Nat.le_of_ble_eq_true rfl, rfl, rfl, Or.inl rfl, rfl, (fun h => by cases h), rfl⟩
theorem gw_GlassStreet_unseen_X1 : ∀ c ∈ ([0] : List Nat), gFw c 13 "GlassStreet" "unseen" "I" false RX1 .int := by
  intro c h
  simp only [List.mem_cons, List.not_mem_nil, or_false] at h
  rcases h with rfl
  · exact ⟨_, _, _, _, gok_0, Nat.le_of_ble_eq_true rfl, rfl, rfl, Or.inl rfl, rfl, (fun h => by cases h), rfl⟩
theorem gw_java_lang_AbstractStringBuilder_coder_J12 : ∀ c ∈ ([22] : List Nat), gFw c 1 "java/lang/AbstractStringBuilder" "coder" "B" false RJ12 .byte := by
  intro c h
  simp only [List.mem_cons, List.not_mem_nil, or_false] at h
  rcases h with rfl
  · exact ⟨_, _, _, _, gok_22, Nat.le_of_ble_eq_true rfl, rfl, rfl, Or.inl rfl, rfl, (fun h => by cases h), rfl⟩
theorem gw_java_lang_AbstractStringBuilder_count_J12 : ∀ c ∈ ([22] : List Nat), gFw c 3 "java/lang/AbstractStringBuilder" "count" "I" false RJ12 .int := by
  intro c h
  simp only [List.mem_cons, List.not_mem_nil, or_false] at h
  rcases h with rfl
  · exact ⟨_, _, _, _, gok_22, Nat.le_of_ble_eq_true rfl, rfl, rfl, Or.inl rfl, rfl, (fun h => by cases h), rfl⟩
theorem gw_java_lang_AbstractStringBuilder_value_J12 : ∀ c ∈ ([22] : List Nat), gFw c 0 "java/lang/AbstractStringBuilder" "value" "[B" false RJ12 (.array .byte) := by
  intro c h
  simp only [List.mem_cons, List.not_mem_nil, or_false] at h
  rcases h with rfl
  · exact ⟨_, _, _, _, gok_22, Nat.le_of_ble_eq_true rfl, rfl, rfl, Or.inl rfl, rfl, (fun h => by cases h), rfl⟩
theorem gw_java_lang_String_coder_J3 : ∀ c ∈ ([21] : List Nat), gFw c 1 "java/lang/String" "coder" "B" true RJ3 .byte := by
  intro c h
  simp only [List.mem_cons, List.not_mem_nil, or_false] at h
  rcases h with rfl
  · exact ⟨_, _, _, _, gok_21, Nat.le_of_ble_eq_true rfl, rfl, rfl, Or.inl rfl, rfl, (fun h => rfl), rfl⟩
theorem gw_java_lang_String_value_J3 : ∀ c ∈ ([21] : List Nat), gFw c 0 "java/lang/String" "value" "[B" true RJ3 (.array .byte) := by
  intro c h
  simp only [List.mem_cons, List.not_mem_nil, or_false] at h
  rcases h with rfl
  · exact ⟨_, _, _, _, gok_21, Nat.le_of_ble_eq_true rfl, rfl, rfl, Or.inl rfl, rfl, (fun h => rfl), rfl⟩
theorem gw_java_lang_Throwable_cause_J9 : ∀ c ∈ ([6, 23] : List Nat), gFw c 0 "java/lang/Throwable" "cause" "Ljava/lang/Throwable;" false RJ9 (.object "java/lang/Throwable") := by
  intro c h
  simp only [List.mem_cons, List.not_mem_nil, or_false] at h
  rcases h with rfl | rfl
  · exact ⟨_, _, _, _, gok_6, Nat.le_of_ble_eq_true rfl, rfl, rfl, Or.inl rfl, rfl, (fun h => by cases h), rfl⟩
  · exact ⟨_, _, _, _, gok_23, Nat.le_of_ble_eq_true rfl, rfl, rfl, Or.inl rfl, rfl, (fun h => by cases h), rfl⟩
theorem gw_java_lang_Throwable_detailMessage_J9 : ∀ c ∈ ([6, 23] : List Nat), gFw c 3 "java/lang/Throwable" "detailMessage" "Ljava/lang/String;" false RJ9 (.object "java/lang/String") := by
  intro c h
  simp only [List.mem_cons, List.not_mem_nil, or_false] at h
  rcases h with rfl | rfl
  · exact ⟨_, _, _, _, gok_6, Nat.le_of_ble_eq_true rfl, rfl, rfl, Or.inl rfl, rfl, (fun h => by cases h), rfl⟩
  · exact ⟨_, _, _, _, gok_23, Nat.le_of_ble_eq_true rfl, rfl, rfl, Or.inl rfl, rfl, (fun h => by cases h), rfl⟩
theorem gw_java_lang_Throwable_stackTrace_J9 : ∀ c ∈ ([6, 23] : List Nat), gFw c 1 "java/lang/Throwable" "stackTrace" "[Ljava/lang/StackTraceElement;" false RJ9 (.array (.object "java/lang/StackTraceElement")) := by
  intro c h
  simp only [List.mem_cons, List.not_mem_nil, or_false] at h
  rcases h with rfl | rfl
  · exact ⟨_, _, _, _, gok_6, Nat.le_of_ble_eq_true rfl, rfl, rfl, Or.inl rfl, rfl, (fun h => by cases h), rfl⟩
  · exact ⟨_, _, _, _, gok_23, Nat.le_of_ble_eq_true rfl, rfl, rfl, Or.inl rfl, rfl, (fun h => by cases h), rfl⟩
theorem gw_java_lang_Throwable_suppressedExceptions_J9 : ∀ c ∈ ([6, 23] : List Nat), gFw c 2 "java/lang/Throwable" "suppressedExceptions" "Ljava/util/List;" false RJ9 (.object "java/util/List") := by
  intro c h
  simp only [List.mem_cons, List.not_mem_nil, or_false] at h
  rcases h with rfl | rfl
  · exact ⟨_, _, _, _, gok_6, Nat.le_of_ble_eq_true rfl, rfl, rfl, Or.inl rfl, rfl, (fun h => by cases h), rfl⟩
  · exact ⟨_, _, _, _, gok_23, Nat.le_of_ble_eq_true rfl, rfl, rfl, Or.inl rfl, rfl, (fun h => by cases h), rfl⟩
theorem gw_java_util_AbstractList_modCount_J1 : ∀ c ∈ ([20] : List Nat), gFw c 0 "java/util/AbstractList" "modCount" "I" false RJ1 .int := by
  intro c h
  simp only [List.mem_cons, List.not_mem_nil, or_false] at h
  rcases h with rfl
  · exact ⟨_, _, _, _, gok_20, Nat.le_of_ble_eq_true rfl, rfl, rfl, Or.inl rfl, rfl, (fun h => by cases h), rfl⟩
theorem gw_java_util_ArrayList_elementData_J2 : ∀ c ∈ ([20] : List Nat), gFw c 1 "java/util/ArrayList" "elementData" "[Ljava/lang/Object;" false RJ2 (.array (.object "java/lang/Object")) := by
  intro c h
  simp only [List.mem_cons, List.not_mem_nil, or_false] at h
  rcases h with rfl
  · exact ⟨_, _, _, _, gok_20, Nat.le_of_ble_eq_true rfl, rfl, rfl, Or.inl rfl, rfl, (fun h => by cases h), rfl⟩
theorem gw_java_util_ArrayList_modCount_J2 : ∀ c ∈ ([20] : List Nat), gFw c 0 "java/util/ArrayList" "modCount" "I" false RJ2 .int := by
  intro c h
  simp only [List.mem_cons, List.not_mem_nil, or_false] at h
  rcases h with rfl
  · exact ⟨_, _, _, _, gok_20, Nat.le_of_ble_eq_true rfl, rfl, rfl, Or.inr q230, rfl, (fun h => by cases h), rfl⟩
theorem gw_java_util_ArrayList_size_J2 : ∀ c ∈ ([20] : List Nat), gFw c 2 "java/util/ArrayList" "size" "I" false RJ2 .int := by
  intro c h
  simp only [List.mem_cons, List.not_mem_nil, or_false] at h
  rcases h with rfl
  · exact ⟨_, _, _, _, gok_20, Nat.le_of_ble_eq_true rfl, rfl, rfl, Or.inl rfl, rfl, (fun h => by cases h), rfl⟩
def RecW (l : Launch) (G : gG) (_c : Nat → Option Nat) (FT LT : Nat) (P : Nat → Nat → GW → (Int32 → Prop) → Prop) : Prop := ∀ (a fa : Nat) (w : GW) (K : Int32 → Prop), P a fa w K → ∃ (ci : Nat) (y : MethodName) (by9 : ByteArray) (L9 : Nat), CtI l y by9 L9 .int ({ frames := FT, cells := 0, slots := 0, locals := LT }) G [.ref a, .ref fa] w (KPI w K) ∧ ((ci = 11 ∧ y = yX13_worked ∧ by9 = cX13_worked ∧ L9 = 2) ∨ (ci = 12 ∧ y = yX14_worked ∧ by9 = cX14_worked ∧ L9 = 2) ∨ (ci = 13 ∧ y = yX15_worked ∧ by9 = cX15_worked ∧ L9 = 2) ∨ (ci = 14 ∧ y = yX16_worked ∧ by9 = cX16_worked ∧ L9 = 4)) ∧ gmc w a = some ci
def RecPt (l : Launch) (G : gG) (_c : Nat → Option Nat) (FT LT : Nat) (P : Nat → GW → Nat × Nat → (Option Nat → GW → Prop) → (String → Nat → GW → Prop) → Prop) : Prop := ∀ (a : Nat) (w : GW) (bb : Nat × Nat) (K : Option Nat → GW → Prop) (KX : String → Nat → GW → Prop), P a w bb K KX → CtXQ l yX2_part cX2_part 5 (.object "GlassStreet$Expression") ({ frames := FT, cells := bb.1, slots := bb.2, locals := LT }) G [.ref a] w K KX
theorem jdX2_part : jD yX2_part 0 := by decide +kernel
theorem jdX15_worked : jD yX15_worked 1 := by decide +kernel
theorem jdX16_worked : jD yX16_worked 1 := by decide +kernel
