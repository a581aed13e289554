/-! rows on cells of the generic world -/
def gnn (b : Bool) (o : Option Value) : Option Value := match b, o with
  | false, some .null => none
  | _, o => o
/-- field k of the object a, whose class is among cs -/
def gfd (w : GW) (a : Nat) (cs : List Nat) (k : Nat) : Option Value := match w a with
  | some (b, .inr (c, fs)) => if c ∈ cs then gnn b fs[k]? else none
  | _ => none
def gai (w : GW) (a t : Nat) : Option (Nat × (Nat → Int32)) := match w a with
  | some (_, .inl (t', n, .inl f)) => if t' = t then some (n, f) else none
  | _ => none
def gal (w : GW) (a t : Nat) : Option (Nat × (Nat → Int64)) := match w a with
  | some (true, .inl (t', n, .inr (.inl f))) => if t' = t then some (n, f) else none
  | _ => none
def gaq (w : GW) (a t : Nat) : Option (Nat × (Nat → Option Nat)) := match w a with
  | some (true, .inl (t', n, .inr (.inr (.inr (.inr f))))) => if t' = t then some (n, f) else none
  | _ => none
def galen (w : GW) (a : Nat) (t : Nat) : Option Nat := match w a with
  | some (true, .inl (t', x)) => if t' = t then some x.1 else none
  | some (false, .inl (t', n, .inl _)) => if t' = t then some n else none
  | _ => none
def gcls (w : GW) (a : Nat) : Option Nat := match w a with
  | some (_, .inr (c, _)) => some c
  | _ => none
def gOk (c : Nat) (C : String) (T : u_T) (N : Nat) (ty : Nat → FieldType) : Prop := gCl[c]? = some (C, T, N) ∧ (∀ w ∈ u_ws C T N, w ∈ lw_all) ∧ (∀ k, k < N → parseFieldDescriptor (T k).2.2.1 = some (ty k)) ∧ ∀ a, a < N → ∀ b, b < N → a ≠ b → (T a).2.1 ≠ (T b).2.1
theorem gcls_gIs {w : GW} {a c : Nat} (h : gcls w a = some c) {r : vw_C} (hr : gCl[c]? = some r) : gIs w a r.1 := by
  unfold gcls at h
  split at h
  · next b c' fs e =>
    cases h
    exact ⟨b, c, fs, r, e, hr, rfl⟩
  · cases h
/-- the field's link and where the class has it -/
def gFd (c k : Nat) (ref n d : String) : Prop := ∃ (C : String) (T : u_T) (N : Nat) (ty : Nat → FieldType), gOk c C T N ty ∧ k < N ∧ (T k).2.1 = n ∧ (T k).2.2.1 = d ∧ ((T k).1 = ref ∨ Cond.sameField ref (T k).1 n d ∈ lw_all)
/-- a field that may be written (b: final) of type t -/
def gFw (c k : Nat) (ref n d : String) (fin : Bool) (own : String) (t : FieldType) : Prop := ∃ (C : String) (T : u_T) (N : Nat) (ty : Nat → FieldType), gOk c C T N ty ∧ k < N ∧ (T k).2.1 = n ∧ (T k).2.2.1 = d ∧ ((T k).1 = ref ∨ Cond.sameField ref (T k).1 n d ∈ lw_all) ∧ (T k).2.2.2 = fin ∧ (fin = true → (T k).1 = own) ∧ ty k = t
theorem gnn_at {b : Bool} {o : Option Value} {v : Value} (h : gnn b o = some v) : o = some v ∧ (b = true ∨ v ≠ .null) := by
  cases b with
  | true => exact ⟨h, Or.inl rfl⟩
  | false =>
    cases o with
    | none => cases h
    | some x => cases x <;> first | (cases h; done) | (cases h; exact ⟨rfl, Or.inr (fun z => by cases z)⟩)
theorem gfd_at {w : GW} {a : Nat} {cs : List Nat} {k : Nat} {v : Value} (h : gfd w a cs k = some v) : ∃ b c fs, w a = some (b, .inr (c, fs)) ∧ c ∈ cs ∧ fs[k]? = some v ∧ (b = true ∨ v ≠ .null) := by
  unfold gfd at h
  split at h
  · next b c fs e =>
    split at h
    · next hc =>
      exact ⟨b, c, fs, e, hc, gnn_at h⟩
    · cases h
  · cases h
def gfm (w : GW) (a : Nat) (cs : List Nat) (k : Nat) : Option Value := match w a with
  | some (true, .inr (c, fs)) => if c ∈ cs then fs[k]? else none
  | _ => none
theorem gfm_at {w : GW} {a : Nat} {cs : List Nat} {k : Nat} {v : Value} (h : gfm w a cs k = some v) : ∃ c fs, w a = some (true, .inr (c, fs)) ∧ c ∈ cs ∧ fs[k]? = some v := by
  unfold gfm at h
  split at h
  · next c fs e =>
    split at h
    · next hc => exact ⟨c, fs, e, hc, h⟩
    · cases h
  · cases h
section GROWS
variable {E : jE} {w : GW} {b : Nat × Nat} {L L' : List (Nat × Value)} {pc pc' : Nat} {st : List Value} {cc : ByteArray} {own : String}
theorem jOk.nw (h : jOk E cc own) : gNW E.1.2.2.2.2.1 := h.inv.2.1
theorem jOk.ro (h : jOk E cc own) : gRo E.2.2.1 E.2.2.2.1 E.1.2.2.2.2.1 E.1.2.2.2.2.1.heap := h.inv.2.2.2.2.2
theorem jOk.nst (h : jOk E cc own) {x : Cond} (hx : x ∈ lw_tbl) (hk : gNk x = true) : x.before E.1.2.2.2.2.2.2.1 E.1.2.2.2.2.1 = true := by
  have h1 := h.nw x hx hk
  cases x <;> simp only [gNk, Bool.false_eq_true] at hk <;> exact va_Nw.use rfl h1
theorem gsame (h : jOk E cc own) {T : u_T} {k : Nat} {ref n d : String} (hs : (T k).1 = ref ∨ Cond.sameField ref (T k).1 n d ∈ lw_all) : ∀ x, E.1.2.2.2.2.1.fieldFound? (T k).1 n d = some x → E.1.2.2.2.2.1.fieldFound? ref n d = some x := by
  rcases hs with hs | hs
  · intro x hx; rw [← hs]; exact hx
  · exact u_same (h.ts _ hs)
theorem j_getX {index : Nat} (hE : jOk E cc own) {ref n d : String} {a k : Nat} {cs : List Nat} {v : Value} (hl : ∀ c ∈ cs, gFd c k ref n d) (hq : Cond.fieldLink own index ref n d ∈ lw_all) (hf : gfd w a cs k = some v) (dd : decode cc pc = .ok (.getfield index, 3))
    (kk : J E w b L (pc + 3) (v :: st)) : J E w b L pc (.ref a :: st) := by
  obtain ⟨bb, c, fs, e1, e2, e3, e4⟩ := gfd_at hf
  obtain ⟨C, T, N, ty, ⟨hc, hin, -, -⟩, hk, rfl, rfl, hs⟩ := hl c e2
  intro H q ls _ _ h1 h2 hP hS hl
  have hsame := gsame hE hs
  cases bb with
  | true => exact va_get (C := C) (T := T) (N := N) (ref := ref) hE.x hE.bc hE.ts hin hE.ow hE.K (hP.one e1) 0 rfl hc k hk (hE.ts _ hq) hsame e3 dd (kk H q ls _ _ h1 h2 hP hS hl)
  | false =>
    have hv : v ≠ .null := by rcases e4 with z | z; · cases z
                              · exact z
    obtain ⟨r, g1, g2, g3⟩ := hE.ro a _ ((hP a _ _ e1).2 rfl).2
    have er : r = (C, T, N) := Option.some.inj (g1.symm.trans hc)
    subst er
    exact vk_getf hE.x hE.bc (g3 k v hk e3 hv) hS hE.ow (hE.ts _ hq) hsame dd (kk H q ls _ _ h1 h2 hP hS hl)
theorem j_getXN {index : Nat} (hE : jOk E cc own) {ref n d host : String} {a k : Nat} {cs : List Nat} {v : Value} (hl : ∀ c ∈ cs, gFd c k ref n d) (hq : Cond.fieldLinkNest own index ref n d host ∈ lw_tbl) (hf : gfd w a cs k = some v) (dd : decode cc pc = .ok (.getfield index, 3))
    (kk : J E w b L (pc + 3) (v :: st)) (hb : ∀ c fs, w a ≠ some (false, .inr (c, fs))) : J E w b L pc (.ref a :: st) := by
  obtain ⟨bb, c, fs, e1, e2, e3, e4⟩ := gfd_at hf
  obtain ⟨C, T, N, ty, ⟨hc, hin, -, -⟩, hk, rfl, rfl, hs⟩ := hl c e2
  intro H q ls _ _ h1 h2 hP hS hl
  have hsame := gsame hE hs
  cases bb with
  | true => exact va_getN (C := C) (T := T) (N := N) (ref := ref) (host := host) hE.x hE.bc hE.ts hin hE.ow hE.K (hP.one e1) 0 rfl hc k hk (hE.nst hq rfl) hsame e3 dd (kk H q ls _ _ h1 h2 hP hS hl)
  | false => exact absurd e1 (hb c fs)
theorem j_getM {index : Nat} (hE : jOk E cc own) {ref n d : String} {a k : Nat} {cs : List Nat} {v : Value} (hl : ∀ c ∈ cs, gFd c k ref n d) (hq : Cond.fieldLink own index ref n d ∈ lw_all) (hf : gfm w a cs k = some v) (dd : decode cc pc = .ok (.getfield index, 3))
    (kk : J E w b L (pc + 3) (v :: st)) : J E w b L pc (.ref a :: st) := by
  obtain ⟨c, fs, e1, e2, e3⟩ := gfm_at hf
  obtain ⟨C, T, N, ty, ⟨hc, hin, -, -⟩, hk, rfl, rfl, hs⟩ := hl c e2
  intro H q ls _ _ h1 h2 hP hS hl
  exact va_get (C := C) (T := T) (N := N) (ref := ref) hE.x hE.bc hE.ts hin hE.ow hE.K (hP.one e1) 0 rfl hc k hk (hE.ts _ hq) (gsame hE hs) e3 dd (kk H q ls _ _ h1 h2 hP hS hl)
theorem j_getMN {index : Nat} (hE : jOk E cc own) {ref n d host : String} {a k : Nat} {cs : List Nat} {v : Value} (hl : ∀ c ∈ cs, gFd c k ref n d) (hq : Cond.fieldLinkNest own index ref n d host ∈ lw_tbl) (hf : gfm w a cs k = some v) (dd : decode cc pc = .ok (.getfield index, 3))
    (kk : J E w b L (pc + 3) (v :: st)) : J E w b L pc (.ref a :: st) := by
  obtain ⟨c, fs, e1, e2, e3⟩ := gfm_at hf
  obtain ⟨C, T, N, ty, ⟨hc, hin, -, -⟩, hk, rfl, rfl, hs⟩ := hl c e2
  intro H q ls _ _ h1 h2 hP hS hl
  exact va_getN (C := C) (T := T) (N := N) (ref := ref) (host := host) hE.x hE.bc hE.ts hin hE.ow hE.K (hP.one e1) 0 rfl hc k hk (hE.nst hq rfl) (gsame hE hs) e3 dd (kk H q ls _ _ h1 h2 hP hS hl)
theorem gW_aux (hE : jOk E cc own) {c : Nat} {C : String} {T : u_T} {N : Nat} {ty : Nat → FieldType} (hO : gOk c C T N ty) : ∀ x y, x < N → y < N → x ≠ y → (E.2.2.1.1.2 c) x ≠ (E.2.2.1.1.2 c) y := va_apart (own := own) hE.ts hO.2.1 ty hO.2.2.1 hO.2.2.2 hE.K hO.1
theorem j_putX {index : Nat} (hE : jOk E cc own) {ref n d : String} {a k c : Nat} {fs : List Value} {v : Value} {t : FieldType} {cs : List Nat} (hc0 : c ∈ cs) (hl : ∀ c ∈ cs, gFw c k ref n d false own t) (hq : Cond.fieldLink own index ref n d ∈ lw_all) (he : w a = some (true, .inr (c, fs))) (hn : narrow t v = v) (hfit : fits t v = true) (hl0 : k < fs.length) (dd : decode cc pc = .ok (.putfield index, 3))
    (kk : J E (gup w a (.inr (c, fs.set k v))) b L (pc + 3) st) : J E w b L pc (v :: .ref a :: st) := by
  obtain ⟨C, T, N, ty, hO, hk, rfl, rfl, hs, hfin, -, rfl⟩ := hl c hc0
  intro H q ls _ _ h1 h2 hP hS hl
  have hap := gW_aux hE hO
  obtain ⟨hat, hA⟩ := (hP a true _ he).1 rfl
  obtain ⟨r, h1', cell, q1, q2, q3, q4⟩ := hat
  have hr2 : r = (C, T, N) := Option.some.inj (h1'.symm.trans hO.1)
  subst hr2
  obtain ⟨hSl, hfc, kC, hkC, hkind⟩ := hE.K.1 c _ hO.1
  obtain ⟨cf, kf, fi, f, hi, hsl⟩ := hSl k hk
  have hlay := hE.ts _ (hO.2.1 _ (u_in_lay hk))
  unfold u_lay at hlay
  rw [if_neg (by rw [hfin]; decide)] at hlay
  have hst := (u_facts hfc hkC (u_lays hE.ts hO.2.1 hk) hi).1
  have h6 := u_store hfc hkC hkind hlay hi (hO.2.2.1 k hk) hn hfit
  refine W.putK hE.x hE.bc (f := f) ⟨hE.ow, hE.ts _ hq, ⟨_, _, _, gsame hE hs _ hi⟩, hst⟩ (by rw [q2]; exact h6) q1 q3 (by rw [hsl]; exact k2_hasslot (q4 k hk)) rfl rfl dd fun H' e1 e2 e3 => ?_
  rw [hsl] at e1 ⊢
  exact kk H' _ ls _ _ h1 h2 (hP.put hA ⟨_, hO.1, t_OB.to (V := updV (vp_V fs) k v) ⟨_, e1, q2, q3, t_set q4 hap hk v⟩ (fun j _ => vp_updV_set hl0 v j)⟩ e2 e3) (hS.put e2 e3 hA) hl
theorem j_putXN {index : Nat} (hE : jOk E cc own) {ref n d host : String} {a k c : Nat} {fs : List Value} {v : Value} {t : FieldType} {cs : List Nat} (hc0 : c ∈ cs) (hl : ∀ c ∈ cs, gFw c k ref n d false own t) (hq : Cond.fieldLinkNest own index ref n d host ∈ lw_tbl) (he : w a = some (true, .inr (c, fs))) (hn : narrow t v = v) (hfit : fits t v = true) (hl0 : k < fs.length) (dd : decode cc pc = .ok (.putfield index, 3))
    (kk : J E (gup w a (.inr (c, fs.set k v))) b L (pc + 3) st) : J E w b L pc (v :: .ref a :: st) := by
  obtain ⟨C, T, N, ty, hO, hk, rfl, rfl, hs, hfin, -, rfl⟩ := hl c hc0
  intro H q ls _ _ h1 h2 hP hS hl
  have hap := gW_aux hE hO
  obtain ⟨hat, hA⟩ := (hP a true _ he).1 rfl
  obtain ⟨r, h1', cell, q1, q2, q3, q4⟩ := hat
  have hr2 : r = (C, T, N) := Option.some.inj (h1'.symm.trans hO.1)
  subst hr2
  obtain ⟨hSl, hfc, kC, hkC, hkind⟩ := hE.K.1 c _ hO.1
  obtain ⟨cf, kf, fi, f, hi, hsl⟩ := hSl k hk
  have hlay := hE.ts _ (hO.2.1 _ (u_in_lay hk))
  unfold u_lay at hlay
  rw [if_neg (by rw [hfin]; decide)] at hlay
  have hst := (u_facts hfc hkC (u_lays hE.ts hO.2.1 hk) hi).1
  have h6 := u_store hfc hkC hkind hlay hi (hO.2.2.1 k hk) hn hfit
  refine va_WputK hE.x hE.bc (f := f) hE.ow (hE.nst hq rfl) (gsame hE hs _ hi) hst (by rw [q2]; exact h6) q1 q3 (by rw [hsl]; exact k2_hasslot (q4 k hk)) rfl rfl dd fun H' e1 e2 e3 => ?_
  rw [hsl] at e1 ⊢
  exact kk H' _ ls _ _ h1 h2 (hP.put hA ⟨_, hO.1, t_OB.to (V := updV (vp_V fs) k v) ⟨_, e1, q2, q3, t_set q4 hap hk v⟩ (fun j _ => vp_updV_set hl0 v j)⟩ e2 e3) (hS.put e2 e3 hA) hl
theorem j_putXF {index : Nat} (hE : jOk E cc own) (hini : E.2.1.1.name = "<init>") {ref n d : String} {a k c : Nat} {fs : List Value} {v : Value} {t : FieldType} {cs : List Nat} (hc0 : c ∈ cs) (hl : ∀ c ∈ cs, gFw c k ref n d true own t) (hq : Cond.fieldLink own index ref n d ∈ lw_all) (he : w a = some (true, .inr (c, fs))) (hn : narrow t v = v) (hfit : fits t v = true) (hl0 : k < fs.length) (dd : decode cc pc = .ok (.putfield index, 3))
    (kk : J E (gup w a (.inr (c, fs.set k v))) b L (pc + 3) st) : J E w b L pc (v :: .ref a :: st) := by
  obtain ⟨C, T, N, ty, hO, hk, rfl, rfl, hs, hfin, hdecl, rfl⟩ := hl c hc0
  have hdecl := hdecl rfl
  intro H q ls _ _ h1 h2 hP hS hl
  have hap := gW_aux hE hO
  obtain ⟨hat, hA⟩ := (hP a true _ he).1 rfl
  obtain ⟨r, h1', cell, q1, q2, q3, q4⟩ := hat
  have hr2 : r = (C, T, N) := Option.some.inj (h1'.symm.trans hO.1)
  subst hr2
  obtain ⟨hSl, hfc, kC, hkC, hkind⟩ := hE.K.1 c _ hO.1
  obtain ⟨cf, kf, fi, f, hi, hsl⟩ := hSl k hk
  have hlay := hE.ts _ (hO.2.1 _ (u_in_lay hk))
  unfold u_lay at hlay
  rw [if_pos hfin] at hlay
  have hst := (u_facts hfc hkC (u_lays hE.ts hO.2.1 hk) hi).1
  have hcf : E.1.2.2.2.2.2.1.cls = cf := by
    obtain ⟨_, _, c', _, _, _, -, -, hf', -, -, -, hown2, -⟩ := Cond.laysFinal_spec hlay
    have e1 : c' = cf := by have := hi.symm.trans hf'; simp at this; exact this.1.symm
    rw [hdecl] at hown2
    rw [← e1]; exact Option.some.inj (hE.ow.symm.trans hown2)
  have h6 := u_fits hfc hkC hkind (Or.inr hlay) hi (hO.2.2.1 k hk) hn hfit
  refine W.putFinK hE.x hE.bc hE.ow (hE.ts _ hq) (gsame hE hs _ hi) hst hcf hini (by rw [q2]; exact h6) q1 q3 (by rw [hsl]; exact k2_hasslot (q4 k hk)) rfl rfl dd fun H' e1 e2 e3 => ?_
  rw [hsl] at e1 ⊢
  exact kk H' _ ls _ _ h1 h2 (hP.put hA ⟨_, hO.1, t_OB.to (V := updV (vp_V fs) k v) ⟨_, e1, q2, q3, t_set q4 hap hk v⟩ (fun j _ => vp_updV_set hl0 v j)⟩ e2 e3) (hS.put e2 e3 hA) hl
/-! arrays -/
theorem gai_at {a t n : Nat} {f : Nat → Int32} (h : gai w a t = some (n, f)) : ∃ b, w a = some (b, .inl (t, n, .inl f)) := by
  unfold gai at h
  split at h
  · next b t' n' f' e =>
    split at h
    · next ht => cases h; subst ht; exact ⟨b, e⟩
    · cases h
  · cases h
theorem gal_at {a t n : Nat} {f : Nat → Int64} (h : gal w a t = some (n, f)) : w a = some (true, .inl (t, n, .inr (.inl f))) := by
  unfold gal at h
  split at h
  · next t' n' f' e =>
    split at h
    · next ht => cases h; subst ht; exact e
    · cases h
  · cases h
theorem gaq_at {a t n : Nat} {f : Nat → Option Nat} (h : gaq w a t = some (n, f)) : w a = some (true, .inl (t, n, .inr (.inr (.inr (.inr f))))) := by
  unfold gaq at h
  split at h
  · next t' n' f' e =>
    split at h
    · next ht => cases h; subst ht; exact e
    · cases h
  · cases h
theorem j_aldI (hE : jOk E cc own) {a n : Nat} {f : Nat → Int32} {i : Int32} (he : gai w a 0 = some (n, f)) (hin : vp_in i n) (d : decode cc pc = .ok (.iaload, 1)) (kk : J E w b L (pc + 1) (.int (rd f i) :: st)) : J E w b L pc (.int i :: .ref a :: st) := by
  obtain ⟨bb, e⟩ := gai_at he
  cases bb with
  | true => exact j_iald hE e hin d kk
  | false =>
    intro H q ls _ _ h1 h2 hP hS hl
    obtain ⟨ty, g1, g2⟩ := hE.ro a _ ((hP a _ _ e).2 rfl).2
    cases g1
    exact va_ti hE.x hE.bc g2 hS hin rfl d (kk H q ls _ _ h1 h2 hP hS hl)
theorem j_aldB (hE : jOk E cc own) {a n : Nat} {f : Nat → Int32} {i : Int32} (he : gai w a 1 = some (n, f)) (hin : vp_in i n) (d : decode cc pc = .ok (.baload, 1)) (kk : J E w b L (pc + 1) (.int (rd f i) :: st)) : J E w b L pc (.int i :: .ref a :: st) := by
  obtain ⟨bb, e⟩ := gai_at he
  cases bb with
  | true => exact j_bald hE e hin d kk
  | false =>
    intro H q ls _ _ h1 h2 hP hS hl
    obtain ⟨ty, g1, g2⟩ := hE.ro a _ ((hP a _ _ e).2 rfl).2
    cases g1
    exact va_tb hE.x hE.bc g2 hS hin rfl d (kk H q ls _ _ h1 h2 hP hS hl)
theorem j_aldL (hE : jOk E cc own) {a n : Nat} {f : Nat → Int64} {i : Int32} (he : gal w a 2 = some (n, f)) (hin : vp_in i n) (d : decode cc pc = .ok (.laload, 1)) (kk : J E w b L (pc + 1) (.long (rdL f i) :: st)) : J E w b L pc (.int i :: .ref a :: st) := j_lald hE (gal_at he) hin d kk
def gTc (t : Nat) : String := match t with
  | 4 => "java/lang/Object"
  | 5 => "GlassStreet$Marks"
  | 6 => "GlassStreet$State"
  | _ => "GlassStreet$Notch"
theorem j_aldQ (hE : jOk E cc own) {a n t : Nat} {f : Nat → Option Nat} {i : Int32} {r : Option Nat} (ht : 4 ≤ t ∧ t < 8) (he : gaq w a t = some (n, f)) (hin : vp_in i n) (hr : f i.toNatClampNeg = r) (d : decode cc pc = .ok (.aaload, 1)) (kk : J E w b L (pc + 1) (va_rf r :: st)) : J E w b L pc (.int i :: .ref a :: st) := by
  subst hr
  intro H q ls _ _ h1 h2 hP hS hl
  have e := gaq_at he
  have ht2 : (gTys E.2.2.1.2.1)[t]? = some (E.2.2.1.2.1 t, .object (gTc t)) := by
    obtain ⟨q1, q2⟩ := ht
    rcases (show t = 4 ∨ t = 5 ∨ t = 6 ∨ t = 7 by omega) with rfl | rfl | rfl | rfl <;> rfl
  exact va_aldq hE.x hE.bc hE.K (hP.one e) 0 t rfl ht2 hin d (kk H q ls _ _ h1 h2 hP hS hl)
theorem j_alen (hE : jOk E cc own) {a t n : Nat} (he : galen w a t = some n) (ht : t < 8) (d : decode cc pc = .ok (.arraylength, 1)) (kk : J E w b L (pc + 1) (.int (nI n) :: st)) : J E w b L pc (.ref a :: st) := by
  intro H q ls _ _ h1 h2 hP hS hl
  have ht2 : ∃ ty, (gTys E.2.2.1.2.1)[t]? = some (E.2.2.1.2.1 t, ty) := by
    rcases (show t = 0 ∨ t = 1 ∨ t = 2 ∨ t = 3 ∨ t = 4 ∨ t = 5 ∨ t = 6 ∨ t = 7 by omega) with rfl | rfl | rfl | rfl | rfl | rfl | rfl | rfl <;> exact ⟨_, rfl⟩
  obtain ⟨ty, ht2⟩ := ht2
  unfold galen at he
  split at he
  · next t' x e =>
    split at he
    · next hh => cases he; subst hh; exact va_alen hE.x hE.bc hE.K (hP.one e) 0 t' rfl ht2 rfl d (kk H q ls _ _ h1 h2 hP hS hl)
    · cases he
  · next t' n' f e =>
    split at he
    · next hh =>
      cases he; subst hh
      obtain ⟨ty, g1, g2⟩ := hE.ro a _ ((hP a _ _ e).2 rfl).2
      exact va_tlen hE.x hE.bc g2 hS rfl d (kk H q ls _ _ h1 h2 hP hS hl)
    · cases he
  · cases he
theorem gcls_at {a c : Nat} (h : gcls w a = some c) : ∃ b fs, w a = some (b, .inr (c, fs)) := by
  unfold gcls at h
  split at h
  · next b c' fs e => cases h; exact ⟨b, fs, e⟩
  · cases h
/-- a reference is stored: null, or an object whose class fits the array's by the tables -/
theorem j_astQ (hE : jOk E cc own) {a n t : Nat} {f : Nat → Option Nat} {i : Int32} {r : Option Nat} (ht : 4 ≤ t ∧ t < 8) (he : gaq w a t = some (n, f)) (hin : vp_in i n) (hr : r = none ∨ ∃ v c fs rr, r = some v ∧ w v = some (true, .inr (c, fs)) ∧ gCl[c]? = some rr ∧ (rr.1 = gTc t ∨ Cond.castable rr.1 (gTc t) ∈ lw_tbl)) (d : decode cc pc = .ok (.aastore, 1)) (kk : J E (gup w a (.inl (t, n, .inr (.inr (.inr (.inr (va_up f i.toNatClampNeg r))))))) b L (pc + 1) st) : J E w b L pc (va_rf r :: .int i :: .ref a :: st) := by
  intro H q ls x0 y0 h1 h2 hP hS hl
  have e := gaq_at he
  have ht2 : (gTys E.2.2.1.2.1)[t]? = some (E.2.2.1.2.1 t, .object (gTc t)) := by
    obtain ⟨q1, q2⟩ := ht
    rcases (show t = 4 ∨ t = 5 ∨ t = 6 ∨ t = 7 by omega) with rfl | rfl | rfl | rfl <;> rfl
  obtain ⟨hat, hA⟩ := (hP a true _ e).1 rfl
  have hlt : i.toNatClampNeg < n := Nat.not_le.mp fun q => hin (Or.inr q)
  have h0 : ¬ i < 0 := fun q => hin (Or.inl q)
  have fin : ∀ (H1 : Heap) (v : Value), v = va_rf r → H1[a]? = some (Cell.setSlot (vp_cell (E.2.2.1.2.1 t) (n, .inr (.inr (.inr (.inr f))))) i.toNatClampNeg v) → H1.size = H.size → (∀ q, q ≠ a → H1[q]? = H[q]?) → W E.1.1 E.1.2.1 E.1.2.2.1 E.1.2.2.2.1 E.1.2.2.2.2.1 E.1.2.2.2.2.2.1 E.1.2.2.2.2.2.2.1 E.1.2.2.2.2.2.2.2 E.2.1.1 E.2.1.2.1 H1 (q ++ [⟨a, i.toNatClampNeg⟩]) x0 y0 E.2.1.2.2 (F0 E.1.2.2.2.2.2.1 (pc + 1) ls st) := by
    intro H1 v hv e z oq
    subst hv
    refine kk H1 _ ls _ _ h1 h2 (hP.put hA ?_ z oq) (hS.put z oq hA) hl
    show H1[a]? = some (vp_cell _ _)
    rw [e]
    rw [vp_cell_q, vp_cell_q, arrV_store]
    congr 2
    funext q
    by_cases hq : q = i.toNatClampNeg
    · subst hq
      simp [updV, va_up]
    · simp [updV, va_up, hq]
  rcases hr with rfl | ⟨v, c, fs, rr, rfl, hv, hc, hcast⟩
  · exact va_WaastN (C := gTc t) hE.x hE.bc hat ((hE.K.2 t _ ht2).1 n (fun j => va_rf (f j))) (fun h => by cases h) (by show ¬ (i < 0 ∨ (arrV _ _ _).slots.size ≤ _); rw [arrV_size]; exact hin) rfl rfl d fun H1 e z oq => fin H1 _ rfl e z oq
  · obtain ⟨hatv, hAv⟩ := (hP v true _ hv).1 rfl
    obtain ⟨r', hr', cellV, g1, g2, g3, -⟩ := hatv
    have hcls := (hE.K.1 c rr hc).2
    obtain ⟨kA, comp, k1, k2, k3, -⟩ := (hE.K.2 t _ ht2).2
    obtain ⟨kE, hkE, -⟩ := Vm.findClass_spec k3
    obtain ⟨kC, hkC, -⟩ := hcls.2
    have hasg : E.1.2.2.2.2.1.vm.assignable (E.2.2.1.1.1 c) comp = true := by
      rcases hcast with h | h
      · have : comp = E.2.2.1.1.1 c := Option.some.inj (k3.symm.trans (by rw [← h]; exact hcls.1))
        rw [this]; exact va_assign hcls
      · obtain ⟨c0, t1, f1, f2, f3⟩ := Cond.castable_spec (hE.nst h rfl)
        cases hcls.1.symm.trans f1
        cases k3.symm.trans f2
        exact f3
    exact W.aast hE.x hE.bc hat (fun q h => by cases h) (fun h => by cases h) k1 k2 rfl hkE ⟨h0, by show _ < (arrV _ _ _).slots.size; rw [arrV_size]; exact hlt⟩ g1 (fun q h => by rw [g3] at h; cases h) (by rw [g2]; exact hkC) (by rw [g2]; exact hasg) rfl rfl d fun H1 e z oq => fin H1 _ rfl e z oq
theorem j_new (hE : jOk E cc own) {index c N : Nat} {C : String} {T : u_T} {ty : Nat → FieldType} {fs : List Value} (hO : gOk c C T N ty) (hq : Cond.classLink own index C ∈ lw_all) (hi : Cond.instantiable C N ∈ lw_all) (hini : Cond.initialized C ∈ lw_all) (hfs : ∀ j, j < N → defaultValue (ty j) = vp_V fs j) (hb : 1 ≤ b.1 ∧ N ≤ b.2) (d : decode cc pc = .ok (.new index, 3))
    (kk : ∀ q : Nat, w q = none → J E (gup w q (.inr (c, fs))) (b.1 - 1, b.2 - N) L (pc + 3) (.ref q :: st)) : J E w b L pc st := by
  intro H q ls x z h1 h2 hP hS hl
  have hKn := hE.K.1 c _ hO.1
  refine W.newcK hE.x hE.bc hE.ow (hE.ts _ hq) (hE.ts _ hi) (hE.ts _ hini) rfl d (jbud' h1 hb.1) (jbud' h2 hb.2) hKn.2.1 rfl fun H1 kC hkC e1 z1 o1 => ?_
  refine kk H.size hP.new H1 q ls _ _ (jbud h1 hb.1) (jbud h2 hb.2) ?_ ⟨Nat.le_trans hS.1 (by omega), fun x h1 h2 => (o1 x (Nat.lt_of_lt_of_le h1 hS.1)).trans (hS.2.1 x h1 h2), hS.2.2⟩ hl
  intro y bb e he
  unfold gup at he
  by_cases hy : y = H.size
  · subst hy
    rw [if_pos rfl] at he
    cases he
    exact ⟨fun _ => ⟨⟨_, hO.1, (u_born ty hE.ts hO.2.1 hKn hkC e1 hO.2.2.1).to hfs⟩, hE.A _ hS.1⟩, fun z => by cases z⟩
  · rw [if_neg hy] at he
    exact hP.kept (by omega) o1 y bb e he
end GROWS
