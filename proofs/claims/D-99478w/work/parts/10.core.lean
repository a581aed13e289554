/-! CORE: the judgement J over function worlds, its rows -/
abbrev gC : Type := (Nat × vp_A) ⊕ (Nat × List Value)
abbrev GW : Type := Nat → Option (Bool × gC)
/-- the classes' tables, the array classes, the read-only cells (String constants, the law's script), the constants' addresses -/
abbrev gG : Type := va_G × (Nat → ClassId) × (Nat → Option gC) × (Nat → Option Nat)
def g_toE (d : Nat → ClassId) (e : gC) : va_E := match e with
  | .inl x => .inl (d x.1, x.2)
  | .inr o => .inr o
abbrev gCl : List vw_C := [(RX1, TX1, 15), (RX2, TX2, 8), (RX3, TX3, 8), (RX4, TX4, 5), (RX5, TX5, 5), (RX6, TX6, 31), (RX7, TX7, 7), (RX8, TX8, 3), (RX9, TX9, 3), (RX10, TX10, 3), (RX11, TX11, 3), (RX13, TX13, 1), (RX14, TX14, 1), (RX15, TX15, 1), (RX16, TX16, 3), (RX19, TX19, 2), (RX20, TX20, 2), (RX21, TX21, 1), (RX22, TX22, 2), (RX23, TX23, 2), (RJ2, TJ2, 3), (RJ3, TJ3, 4), (RJ13, TJ13, 4), (RJ18, TJ18, 6), (RX18, fun _ => ("", "", "", false), 0)]
abbrev gTyL : List FieldType := [.int, .byte, .long, .boolean, .object "java/lang/Object", .object "GlassStreet$Marks", .object "GlassStreet$State", .object "GlassStreet$Notch"]
def gTys (d : Nat → ClassId) : List (ClassId × FieldType) := [(d 0, .int), (d 1, .byte), (d 2, .long), (d 3, .boolean), (d 4, .object "java/lang/Object"), (d 5, .object "GlassStreet$Marks"), (d 6, .object "GlassStreet$State"), (d 7, .object "GlassStreet$Notch")]
def GP (G : gG) (A : Nat → Prop) (w : GW) (H : Heap) : Prop := ∀ (a : Nat) (b : Bool) (e : gC), w a = some (b, e) → (b = true → va_at G.1 gCl (a, g_toE G.2.1 e) H ∧ A a) ∧ (b = false → a < H.size ∧ G.2.2.1 a = some e)
def gup (w : GW) (a : Nat) (e : gC) : GW := fun q => if q = a then some (true, e) else w q
/-- what holds of the whole run beside the cells -/
def gNk (w : Cond) : Bool := match w with
  | .fieldLinkNest .. => true
  | .methodLinkNest .. => true
  | .castable .. => true
  | .declares .. => true
  | _ => false
def gNW (U : State) : Prop := ∀ w ∈ lw_tbl, gNk w = true → va_Nw w U
theorem gNW.warm {s U : State} (hW : s.WarmedH U.vm) (h : gNW s) : gNW U := by
  intro w hw hk
  have h1 := h w hw hk
  cases w <;> simp only [gNk, Bool.false_eq_true] at hk
  · exact va_Nw.warmM hW h1
  · exact va_Nw.warmF hW h1
  · exact va_Nw.warmD hW h1
  · exact va_Nw.warmC hW h1
theorem gNW.same {u U : State} (hv : u.vm = U.vm) (h : gNW u) : gNW U := by
  intro w hw hk
  have h1 := h w hw hk
  cases w <;> simp only [gNk, Bool.false_eq_true] at hk <;> exact va_Nw.same rfl hv h1
/-- the reader's String constants: entry, text -/
def kIdx : List Nat := [48, 149, 83, 195, 213, 218, 171, 183, 273, 275, 257, 228]
def kTx : List String := ["()<=+-*;", "pane person deed light fades ", "pane keeps sees person at deed harm light fades walk does wash curtain stone hour plain frosted thick mirror not and or ", "plain frosted thick mirror ", "keeps ", "sees ", "at ", "harm ", "age bad lit newer ", "not ", "and or ", "walk does wash curtain stone hour "]
def gStr (G : gG) (U : State) : Prop := ∀ i : Nat, i < 12 → ∃ a, G.2.2.2 i = some a ∧ vk_R "GlassStreet$Reader" (kIdx.getD i 0) (kTx.getD i "") a U
def gSt (G : gG) (A : Nat → Prop) (U : State) (H : Heap) : Prop := va_Z "java/lang/String" "COMPACT_STRINGS" "Z" (.int 1) A U H ∧ va_Z "java/util/ArrayList" "EMPTY_ELEMENTDATA" "[Ljava/lang/Object;" (va_rf (G.2.2.2 12)) A U H ∧ va_Z "java/lang/Throwable" "UNASSIGNED_STACK" "[Ljava/lang/StackTraceElement;" (va_rf (G.2.2.2 13)) A U H ∧ va_Z "java/lang/Throwable" "SUPPRESSED_SENTINEL" "Ljava/util/List;" (va_rf (G.2.2.2 14)) A U H ∧ va_Z "jdk/internal/util/Preconditions" "SIOOBE_FORMATTER" "Ljava/util/function/BiFunction;" (va_rf (G.2.2.2 16)) A U H ∧ vy_Zq Bundle.tN "UNASSIGNED_STACK" Bundle.steD A U H ∧ vy_Zq Bundle.tN "SUPPRESSED_SENTINEL" Bundle.listD A U H
def gNotDid : List String := ["GlassStreet$Walked", "GlassStreet$Washed", "GlassStreet$Changed", "GlassStreet$Passed"]
/-- a word that the tables' rows give (a private method of a class that is made under another's name) -/
def gXW : List Cond := [.selects "java/lang/StringBuilder" yJ12_ensureCapacityInternal yJ12_ensureCapacityInternal, .selects "java/lang/StringBuilder" yJ12_newCapacity yJ12_newCapacity, .selects "java/lang/StringBuilder" yJ12_inflate yJ12_inflate]
def gMi (G : gG) (U : State) : Prop := (∃ mi, G.2.2.2 15 = some mi ∧ va_Mi "[Ljava/lang/Object;" mi U) ∧ va_AO "java/lang/Object" U ∧ va_AO "GlassStreet$Marks" U ∧ va_AO "GlassStreet$State" U ∧ va_AO "GlassStreet$Notch" U ∧ (∀ C ∈ gNotDid, va_Nc C "GlassStreet$Did" U) ∧ ∀ w ∈ gXW, w.before #[] U = true
def gRoAt (A : Nat → Prop) (U : State) (H : Heap) (a : Nat) (e : gC) : Prop := match e with
  | .inl (t, n, .inl f) => ∃ ty, gTyL[t]? = some ty ∧ va_T ty a n (fun j => .int (f j)) A U H
  | .inl _ => True
  | .inr (ci, fs) => ∃ r, gCl[ci]? = some r ∧ va_O r.1 a A U H ∧ ∀ (k : Nat) (v : Value), k < r.2.2 → fs[k]? = some v → v ≠ .null → va_OF (r.2.1 k).1 (r.2.1 k).2.1 (r.2.1 k).2.2.1 v a A U H
def gRo (G : gG) (A : Nat → Prop) (U : State) (H : Heap) : Prop := ∀ (a : Nat) (e : gC), G.2.2.1 a = some e → gRoAt A U H a e
def gInv (G : gG) (A : Nat → Prop) (U : State) (H : Heap) : Prop := va_K G.1 gCl (gTys G.2.1) U ∧ gNW U ∧ gStr G U ∧ gSt G A U H ∧ gMi G U ∧ gRo G A U H
theorem gRoAt.moved {A : Nat → Prop} {u U : State} {H : Heap} {a : Nat} {e : gC} (hvm : u.vm.Alike U.vm) (h : gRoAt A u H a e) : gRoAt A U H a e := by
  match e, h with
  | .inl (t, n, .inl f), ⟨ty, h1, h2⟩ => exact ⟨ty, h1, h2.moved hvm⟩
  | .inl (t, n, .inr f), _ => exact trivial
  | .inr (ci, fs), ⟨r, h1, h2, h3⟩ => exact ⟨r, h1, h2.moved hvm, fun k v q1 q2 q3 => (h3 k v q1 q2 q3).moved hvm⟩
theorem gRoAt.kept {A : Nat → Prop} {U : State} {H H1 : Heap} {a : Nat} {e : gC} (h : gRoAt A U H a e) (hq : ∀ a : Nat, a < H.size → ¬ A a → H1[a]? = H[a]?) : gRoAt A U H1 a e := by
  match e, h with
  | .inl (t, n, .inl f), ⟨ty, h1, h2⟩ => exact ⟨ty, h1, h2.kept hq⟩
  | .inl (t, n, .inr f), _ => exact trivial
  | .inr (ci, fs), ⟨r, h1, h2, h3⟩ => exact ⟨r, h1, h2.kept hq, fun k v q1 q2 q3 => (h3 k v q1 q2 q3).kept hq⟩
theorem gXW_good : ∀ w ∈ gXW, (w.onTables && w.keeps) = true ∨ ∃ ty, w = .arrayClass ty := fun w h => good_of_word (List.all_eq_true.mp (show gXW.all goodWord = true by decide +kernel) w h)
theorem gXW_warm {u U : State} (hW : u.WarmedH U.vm) (h : ∀ w ∈ gXW, w.before #[] u = true) : ∀ w ∈ gXW, w.before #[] U = true := fun w hw => word_at hW (gXW_good w hw) (h w hw)
theorem gXW_same {u U : State} (hv : u.vm = U.vm) (h : ∀ w ∈ gXW, w.before #[] u = true) : ∀ w ∈ gXW, w.before #[] U = true := by
  intro w hw
  have h1 := h w hw
  simp only [gXW, List.mem_cons, List.not_mem_nil, or_false] at hw
  rcases hw with rfl | rfl | rfl <;> exact va_tabs rfl hv h1
theorem gInv.warm {G : gG} {A : Nat → Prop} {u U : State} {H : Heap} (hW : u.WarmedH U.vm) (h : gInv G A u H) : gInv G A U H := by
  obtain ⟨h1, h2, h3, ⟨z1, z2, z3, z4, z5, z6, z7⟩, ⟨⟨mi, m1, m2⟩, m3, m4, m5, m6, m7, m8⟩, h6⟩ := h
  have hv := hW.alike
  exact ⟨va_K.moved hv h1, h2.warm hW, fun i hi => by obtain ⟨a, e1, e2⟩ := h3 i hi; exact ⟨a, e1, e2.warm hW⟩, ⟨z1.moved hv, z2.moved hv, z3.moved hv, z4.moved hv, z5.moved hv, z6.moved hv, z7.moved hv⟩, ⟨⟨mi, m1, m2.moved hv⟩, m3.moved hv, m4.moved hv, m5.moved hv, m6.moved hv, fun C hC => (m7 C hC).moved hv, gXW_warm hW m8⟩, fun a e q => (h6 a e q).moved hv⟩
theorem gInv.same {G : gG} {A : Nat → Prop} {u U : State} {H : Heap} (hvm : u.vm = U.vm) (h : gInv G A u H) : gInv G A U H := by
  obtain ⟨h1, h2, h3, ⟨z1, z2, z3, z4, z5, z6, z7⟩, ⟨⟨mi, m1, m2⟩, m3, m4, m5, m6, m7, m8⟩, h6⟩ := h
  have hv : u.vm.Alike U.vm := by rw [hvm]; exact Vm.Alike.refl _
  exact ⟨va_K.moved hv h1, h2.same hvm, fun i hi => by obtain ⟨a, e1, e2⟩ := h3 i hi; exact ⟨a, e1, e2.same hvm.symm⟩, ⟨z1.moved hv, z2.moved hv, z3.moved hv, z4.moved hv, z5.moved hv, z6.moved hv, z7.moved hv⟩, ⟨⟨mi, m1, m2.moved hv⟩, m3.moved hv, m4.moved hv, m5.moved hv, m6.moved hv, fun C hC => (m7 C hC).moved hv, gXW_same hvm m8⟩, fun a e q => (h6 a e q).moved hv⟩
theorem gInv.kept {G : gG} {A : Nat → Prop} {U : State} {H H1 : Heap} (h : gInv G A U H) (hq : ∀ a : Nat, a < H.size → ¬ A a → H1[a]? = H[a]?) : gInv G A U H1 := by
  obtain ⟨h1, h2, h3, ⟨z1, z2, z3, z4, z5, z6, z7⟩, h5, h6⟩ := h
  exact ⟨h1, h2, h3, ⟨z1.kept hq, z2.kept hq, z3.kept hq, z4.kept hq, z5.kept hq, z6.kept hq, z7.kept hq⟩, h5, fun a e q => (h6 a e q).kept hq⟩
theorem GP.put {G : gG} {A : Nat → Prop} {w : GW} {H H1 : Heap} {a : Nat} {e : gC} (hP : GP G A w H) (hA : A a) (he : va_at G.1 gCl (a, g_toE G.2.1 e) H1) (hsz : H1.size = H.size) (oq : ∀ q : Nat, q ≠ a → H1[q]? = H[q]?) : GP G A (gup w a e) H1 := by
  intro q b e' h
  unfold gup at h
  by_cases hq : q = a
  · subst hq
    rw [if_pos rfl] at h
    cases h
    exact ⟨fun _ => ⟨he, hA⟩, fun z => by cases z⟩
  · rw [if_neg hq] at h
    exact ⟨fun z => ⟨((hP q b e' h).1 z).1.kept (oq q hq), ((hP q b e' h).1 z).2⟩, fun z => by rw [hsz]; exact (hP q b e' h).2 z⟩
theorem GP.lt {G : gG} {A : Nat → Prop} {w : GW} {H : Heap} (hP : GP G A w H) {a : Nat} {b : Bool} {e : gC} (h : w a = some (b, e)) : a < H.size := by
  cases b with
  | true => exact ((hP a _ e h).1 rfl).1.lt
  | false => exact ((hP a _ e h).2 rfl).1
theorem GP.kept {G : gG} {A : Nat → Prop} {w : GW} {H H1 : Heap} (hP : GP G A w H) (hsz : H.size ≤ H1.size) (oq : ∀ q : Nat, q < H.size → H1[q]? = H[q]?) : GP G A w H1 := fun a b e h => ⟨fun z => ⟨((hP a b e h).1 z).1.kept (oq a (hP.lt h)), ((hP a b e h).1 z).2⟩, fun z => ⟨Nat.lt_of_lt_of_le (hP.lt h) hsz, ((hP a b e h).2 z).2⟩⟩
theorem GP.new {G : gG} {A : Nat → Prop} {w : GW} {H : Heap} (hP : GP G A w H) : w H.size = none := by
  cases h : w H.size with
  | none => rfl
  | some x => exact absurd (hP.lt (b := x.1) (e := x.2) h) (Nat.lt_irrefl _)
theorem GP.one {G : gG} {A : Nat → Prop} {w : GW} {H : Heap} {a : Nat} {e : gC} (hP : GP G A w H) (h : w a = some (true, e)) : va_P G.1 gCl [(a, g_toE G.2.1 e)] H := by
  intro k q hk
  match k, hk with
  | 0, hk => cases hk; exact ((hP a _ e h).1 rfl).1
/-- the frame that a method runs in: everything that stays as it is in its body -/
abbrev jE : Type := (Program × Launch × Env × Room × State × MethodId × Array Value × List Frame) × (Method × Code × (State → Prop)) × (gG × (Nat → Prop) × Nat)
def J (E : jE) (w : GW) (b : Nat × Nat) (L : List (Nat × Value)) (pc : Nat) (st : List Value) : Prop :=
  ∀ (H : Heap) (locs : List Loc) (ls : Array Slot) (k n : Nat), k + b.1 ≤ E.1.2.2.2.1.cells → n + b.2 ≤ E.1.2.2.2.1.slots → GP E.2.2.1 E.2.2.2.1 w H → va_S E.2.2.2.1 E.1.2.2.2.2.1.heap H locs → lv_has ls E.2.2.2.2 L →
    W E.1.1 E.1.2.1 E.1.2.2.1 E.1.2.2.2.1 E.1.2.2.2.2.1 E.1.2.2.2.2.2.1 E.1.2.2.2.2.2.2.1 E.1.2.2.2.2.2.2.2 E.2.1.1 E.2.1.2.1 H locs k n E.2.1.2.2 (F0 E.1.2.2.2.2.2.1 pc ls st)
def jOk (E : jE) (cc : ByteArray) (own : String) : Prop :=
  E.1.1.tables.exec = Jvm.exec ∧ E.2.1.2.1.code = cc ∧ E.2.1.2.1.maxLocals = E.2.2.2.2 ∧ E.1.2.2.2.2.1.vm.findClass own = some E.1.2.2.2.2.2.1.cls ∧ (∀ w ∈ lw_all, w.before E.1.2.2.2.2.2.2.1 E.1.2.2.2.2.1 = true) ∧ (∀ q : Nat, E.1.2.2.2.2.1.heap.size ≤ q → E.2.2.2.1 q) ∧ gInv E.2.2.1 E.2.2.2.1 E.1.2.2.2.2.1 E.1.2.2.2.2.1.heap ∧ E.2.1.1.locks = false
theorem vp_in_dec (i : Int32) (n : Nat) : vp_in i n ∨ ¬ vp_in i n := Classical.em _
section JROWS
variable {E : jE} {cc : ByteArray} {own : String} {w : GW} {b : Nat × Nat} {L L' : List (Nat × Value)} {pc pc' : Nat} {st : List Value}
theorem jOk.x (h : jOk E cc own) : E.1.1.tables.exec = Jvm.exec := h.1
theorem jOk.bc (h : jOk E cc own) : E.2.1.2.1.code = cc := h.2.1
theorem jOk.ml (h : jOk E cc own) : E.2.1.2.1.maxLocals = E.2.2.2.2 := h.2.2.1
theorem jOk.ow (h : jOk E cc own) : E.1.2.2.2.2.1.vm.findClass own = some E.1.2.2.2.2.2.1.cls := h.2.2.2.1
theorem jOk.ts (h : jOk E cc own) : ∀ w ∈ lw_all, w.before E.1.2.2.2.2.2.2.1 E.1.2.2.2.2.1 = true := h.2.2.2.2.1
theorem jOk.A (h : jOk E cc own) : ∀ q : Nat, E.1.2.2.2.2.1.heap.size ≤ q → E.2.2.2.1 q := h.2.2.2.2.2.1
theorem jOk.inv (h : jOk E cc own) : gInv E.2.2.1 E.2.2.2.1 E.1.2.2.2.2.1 E.1.2.2.2.2.1.heap := h.2.2.2.2.2.2.1
theorem jOk.K (h : jOk E cc own) : va_K E.2.2.1.1 gCl (gTys E.2.2.1.2.1) E.1.2.2.2.2.1 := h.2.2.2.2.2.2.1.1
theorem jOk.nl (h : jOk E cc own) : E.2.1.1.locks = false := h.2.2.2.2.2.2.2
theorem j_iconst (hE : jOk E cc own) {n : Int} {v : Int32} (d : decode cc pc = .ok (.iconst n, 1)) (hv : Int32.ofInt n = v) (k : J E w b L (pc + 1) (.int v :: st)) : J E w b L pc st :=
  fun H q ls x y h1 h2 hP hS hl => lv_iconst hE.x hE.bc d hv (k H q ls x y h1 h2 hP hS hl)
theorem j_bipush (hE : jOk E cc own) {n : Int} {v : Int32} (d : decode cc pc = .ok (.bipush n, 2)) (hv : (Int8.ofInt n).toInt32 = v) (k : J E w b L (pc + 2) (.int v :: st)) : J E w b L pc st :=
  fun H q ls x y h1 h2 hP hS hl => lv_bipush hE.x hE.bc d hv (k H q ls x y h1 h2 hP hS hl)
theorem j_sipush (hE : jOk E cc own) {n : Int} {v : Int32} (d : decode cc pc = .ok (.sipush n, 3)) (hv : (Int16.ofInt n).toInt32 = v) (k : J E w b L (pc + 3) (.int v :: st)) : J E w b L pc st :=
  fun H q ls x y h1 h2 hP hS hl => lv_sipush hE.x hE.bc d hv (k H q ls x y h1 h2 hP hS hl)
theorem j_lconst (hE : jOk E cc own) {n : Fin 2} {v : Int64} (d : decode cc pc = .ok (.lconst n, 1)) (hv : Int64.ofNat n = v) (k : J E w b L (pc + 1) (.long v :: st)) : J E w b L pc st :=
  fun H q ls x y h1 h2 hP hS hl => lv_lconst hE.x hE.bc d hv (k H q ls x y h1 h2 hP hS hl)
theorem j_null (hE : jOk E cc own) (d : decode cc pc = .ok (.aconst_null, 1)) (k : J E w b L (pc + 1) (.null :: st)) : J E w b L pc st :=
  fun H q ls x y h1 h2 hP hS hl => lv_null hE.x hE.bc d (k H q ls x y h1 h2 hP hS hl)
theorem j_ldc (hE : jOk E cc own) {i : Nat} {v : Int32} (hq : Cond.constant own i v ∈ lw_all) (d : decode cc pc = .ok (.ldc i, 2)) (k : J E w b L (pc + 2) (.int v :: st)) : J E w b L pc st :=
  fun H q ls x y h1 h2 hP hS hl => lv_ldc hE.x hE.bc hE.ow (hE.ts _ hq) d (k H q ls x y h1 h2 hP hS hl)
theorem j_ldc2 (hE : jOk E cc own) {i : Nat} {v : Int64} (hq : Cond.constantLong own i v ∈ lw_all) (d : decode cc pc = .ok (.ldc2_w i, 3)) (k : J E w b L (pc + 3) (.long v :: st)) : J E w b L pc st :=
  fun H q ls x y h1 h2 hP hS hl => lv_ldc2 hE.x hE.bc hE.ow (hE.ts _ hq) d (k H q ls x y h1 h2 hP hS hl)
theorem j_iload_n (hE : jOk E cc own) (j : Nat) {k0 : Fin 4} {i : Nat} {x : Int32} (d : decode cc pc = .ok (.iload_n k0, 1)) (hi : (k0 : Nat) = i) (hl0 : L[j]? = some (i, .int x)) (k : J E w b L (pc + 1) (.int x :: st)) : J E w b L pc st :=
  fun H q ls x y h1 h2 hP hS hl => lv_iload_n hE.x hE.bc d hi (lv_at hl j hl0) (k H q ls x y h1 h2 hP hS hl)
theorem j_iload (hE : jOk E cc own) (j : Nat) {i : Nat} {x : Int32} (d : decode cc pc = .ok (.iload i, 2)) (hl0 : L[j]? = some (i, .int x)) (k : J E w b L (pc + 2) (.int x :: st)) : J E w b L pc st :=
  fun H q ls x y h1 h2 hP hS hl => lv_iload hE.x hE.bc d (lv_at hl j hl0) (k H q ls x y h1 h2 hP hS hl)
theorem j_lload_n (hE : jOk E cc own) (j : Nat) {k0 : Fin 4} {i : Nat} {x : Int64} (d : decode cc pc = .ok (.lload_n k0, 1)) (hi : (k0 : Nat) = i) (hl0 : L[j]? = some (i, .long x)) (k : J E w b L (pc + 1) (.long x :: st)) : J E w b L pc st :=
  fun H q ls x y h1 h2 hP hS hl => lv_lload_n hE.x hE.bc d hi (lv_at hl j hl0) (k H q ls x y h1 h2 hP hS hl)
theorem j_lload (hE : jOk E cc own) (j : Nat) {i : Nat} {x : Int64} (d : decode cc pc = .ok (.lload i, 2)) (hl0 : L[j]? = some (i, .long x)) (k : J E w b L (pc + 2) (.long x :: st)) : J E w b L pc st :=
  fun H q ls x y h1 h2 hP hS hl => lv_lload hE.x hE.bc d (lv_at hl j hl0) (k H q ls x y h1 h2 hP hS hl)
theorem j_aload_n (hE : jOk E cc own) (j : Nat) {k0 : Fin 4} {i : Nat} {x : Nat} (d : decode cc pc = .ok (.aload_n k0, 1)) (hi : (k0 : Nat) = i) (hl0 : L[j]? = some (i, .ref x)) (k : J E w b L (pc + 1) (.ref x :: st)) : J E w b L pc st :=
  fun H q ls x y h1 h2 hP hS hl => lv_aload_n hE.x hE.bc d hi (lv_at hl j hl0) (k H q ls x y h1 h2 hP hS hl)
theorem j_aload (hE : jOk E cc own) (j : Nat) {i : Nat} {x : Nat} (d : decode cc pc = .ok (.aload i, 2)) (hl0 : L[j]? = some (i, .ref x)) (k : J E w b L (pc + 2) (.ref x :: st)) : J E w b L pc st :=
  fun H q ls x y h1 h2 hP hS hl => lv_aload hE.x hE.bc d (lv_at hl j hl0) (k H q ls x y h1 h2 hP hS hl)
def lst (L : List (Nat × Value)) (i : Nat) (v : Value) : List (Nat × Value) := (i, v) :: L.filter (fun q => !(q.1 == i) && !(q.1 + 1 == i && q.2.category == 2))
theorem j_istore_n (hE : jOk E cc own) {nL : Nat} (hn : E.2.2.2.2 = nL) {k0 : Fin 4} {i : Nat} {x : Int32} (d : decode cc pc = .ok (.istore_n k0, 1)) (hi : (k0 : Nat) = i) (hlt : i < nL) (hl0 : (i, Value.int x) :: L.filter (fun q => !(q.1 == i) && !(q.1 + 1 == i && q.2.category == 2)) = L') (k : J E w b L' (pc + 1) st) : J E w b L pc (.int x :: st) :=
  fun H q ls x y h1 h2 hP hS hl => lv_istore_n hE.x hE.bc d hi hl (hn ▸ hlt) hl0 (fun ls' hl' => k H q ls' x y h1 h2 hP hS hl')
theorem j_istore (hE : jOk E cc own) {nL : Nat} (hn : E.2.2.2.2 = nL) {i : Nat} {x : Int32} (d : decode cc pc = .ok (.istore i, 2)) (hlt : i < nL) (hl0 : (i, Value.int x) :: L.filter (fun q => !(q.1 == i) && !(q.1 + 1 == i && q.2.category == 2)) = L') (k : J E w b L' (pc + 2) st) : J E w b L pc (.int x :: st) :=
  fun H q ls x y h1 h2 hP hS hl => lv_istore hE.x hE.bc d hl (hn ▸ hlt) hl0 (fun ls' hl' => k H q ls' x y h1 h2 hP hS hl')
theorem j_astore_n (hE : jOk E cc own) {nL : Nat} (hn : E.2.2.2.2 = nL) {k0 : Fin 4} {i : Nat} {x : Nat} (d : decode cc pc = .ok (.astore_n k0, 1)) (hi : (k0 : Nat) = i) (hlt : i < nL) (hl0 : (i, Value.ref x) :: L.filter (fun q => !(q.1 == i) && !(q.1 + 1 == i && q.2.category == 2)) = L') (k : J E w b L' (pc + 1) st) : J E w b L pc (.ref x :: st) :=
  fun H q ls x y h1 h2 hP hS hl => lv_astore_n hE.x hE.bc d hi hl (hn ▸ hlt) hl0 (fun ls' hl' => k H q ls' x y h1 h2 hP hS hl')
theorem j_astore (hE : jOk E cc own) {nL : Nat} (hn : E.2.2.2.2 = nL) {i : Nat} {x : Nat} (d : decode cc pc = .ok (.astore i, 2)) (hlt : i < nL) (hl0 : (i, Value.ref x) :: L.filter (fun q => !(q.1 == i) && !(q.1 + 1 == i && q.2.category == 2)) = L') (k : J E w b L' (pc + 2) st) : J E w b L pc (.ref x :: st) :=
  fun H q ls x y h1 h2 hP hS hl => lv_astore hE.x hE.bc d hl (hn ▸ hlt) hl0 (fun ls' hl' => k H q ls' x y h1 h2 hP hS hl')
theorem j_iinc (hE : jOk E cc own) {nL : Nat} (hn : E.2.2.2.2 = nL) (j : Nat) {i : Nat} {n : Int} {x v : Int32} (d : decode cc pc = .ok (.iinc i n, 3)) (hj : L[j]? = some (i, .int x)) (hv : x + Int32.ofInt n = v) (hlt : i < nL) (hl0 : (i, Value.int v) :: L.filter (fun q => !(q.1 == i) && !(q.1 + 1 == i && q.2.category == 2)) = L') (k : J E w b L' (pc + 3) st) : J E w b L pc st :=
  fun H q ls x y h1 h2 hP hS hl => lv_iinc hE.x hE.bc d hl hj hv (hn ▸ hlt) hl0 (fun ls' hl' => k H q ls' x y h1 h2 hP hS hl')
theorem j_sub (L' : List (Nat × Value)) (ks : List Nat) (h : lv_pick L ks = L') (k : J E w b L' pc st) : J E w b L pc st :=
  fun H q ls x y h1 h2 hP hS hl => k H q ls x y h1 h2 hP hS (lv_sub hl ks h)
theorem j_goto (hE : jOk E cc own) {off : Int} (pc' : Nat) (d : decode cc pc = .ok (.goto off, 3)) (ht : (pc : Int) + off = (pc' : Int)) (k : J E w b L pc' st) : J E w b L pc st :=
  fun H q ls x y h1 h2 hP hS hl => lv_goto hE.x hE.bc d ht (k H q ls x y h1 h2 hP hS hl)
end JROWS
