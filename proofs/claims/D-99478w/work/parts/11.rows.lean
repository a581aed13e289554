/-! plain rows of J, printed by core_rows.py -/
def irem (x y : Int32) : Int32 := x - x / y * y
def lrem (x y : Int64) : Int64 := x - x / y * y
def iushr (x y : Int32) : Int32 := (x.toUInt32 >>> (y.toUInt32 &&& Int32.toUInt32 31)).toInt32
def lushr (x : Int64) (y : Int32) : Int64 := (x.toUInt64 >>> (y.toInt64.toUInt64 &&& Int64.toUInt64 63)).toInt64
def i2c (x : Int32) : Int32 := (x.toUInt32 % 65536).toInt32
def i2b (x : Int32) : Int32 := x.toInt8.toInt32
def ishl (x y : Int32) : Int32 := x <<< (y &&& 31)
def ishr (x y : Int32) : Int32 := x >>> (y &&& 31)
def lshr (x : Int64) (y : Int32) : Int64 := x >>> (y.toInt64 &&& 63)
def lshl (x : Int64) (y : Int32) : Int64 := x <<< (y.toInt64 &&& 63)
section JR2
variable {E : jE} {cc : ByteArray} {own : String} {w : GW} {b : Nat × Nat} {L L' : List (Nat × Value)} {pc pc' : Nat} {st : List Value}
theorem j_iadd (hE : jOk E cc own) {x y : Int32} (d : decode cc pc = .ok (.iadd, 1)) (k : J E w b L (pc + 1) (.int (x + y) :: st)) : J E w b L pc (.int y :: .int x :: st) :=
  fun H q ls _ _ h1 h2 hP hS hl => lv_iadd hE.x hE.bc d (k H q ls _ _ h1 h2 hP hS hl)
theorem j_isub (hE : jOk E cc own) {x y : Int32} (d : decode cc pc = .ok (.isub, 1)) (k : J E w b L (pc + 1) (.int (x - y) :: st)) : J E w b L pc (.int y :: .int x :: st) :=
  fun H q ls _ _ h1 h2 hP hS hl => lv_isub hE.x hE.bc d (k H q ls _ _ h1 h2 hP hS hl)
theorem j_imul (hE : jOk E cc own) {x y : Int32} (d : decode cc pc = .ok (.imul, 1)) (k : J E w b L (pc + 1) (.int (x * y) :: st)) : J E w b L pc (.int y :: .int x :: st) :=
  fun H q ls _ _ h1 h2 hP hS hl => lv_imul hE.x hE.bc d (k H q ls _ _ h1 h2 hP hS hl)
theorem j_iand (hE : jOk E cc own) {x y : Int32} (d : decode cc pc = .ok (.iand, 1)) (k : J E w b L (pc + 1) (.int (x &&& y) :: st)) : J E w b L pc (.int y :: .int x :: st) :=
  fun H q ls _ _ h1 h2 hP hS hl => lv_iand hE.x hE.bc d (k H q ls _ _ h1 h2 hP hS hl)
theorem j_ior (hE : jOk E cc own) {x y : Int32} (d : decode cc pc = .ok (.ior, 1)) (k : J E w b L (pc + 1) (.int (x ||| y) :: st)) : J E w b L pc (.int y :: .int x :: st) :=
  fun H q ls _ _ h1 h2 hP hS hl => lv_ior hE.x hE.bc d (k H q ls _ _ h1 h2 hP hS hl)
theorem j_ixor (hE : jOk E cc own) {x y : Int32} (d : decode cc pc = .ok (.ixor, 1)) (k : J E w b L (pc + 1) (.int (x ^^^ y) :: st)) : J E w b L pc (.int y :: .int x :: st) :=
  fun H q ls _ _ h1 h2 hP hS hl => lv_ixor hE.x hE.bc d (k H q ls _ _ h1 h2 hP hS hl)
theorem j_ishl (hE : jOk E cc own) {x y : Int32} (d : decode cc pc = .ok (.ishl, 1)) (k : J E w b L (pc + 1) (.int (ishl x y) :: st)) : J E w b L pc (.int y :: .int x :: st) :=
  fun H q ls _ _ h1 h2 hP hS hl => lv_ishl hE.x hE.bc d (k H q ls _ _ h1 h2 hP hS hl)
theorem j_ishr (hE : jOk E cc own) {x y : Int32} (d : decode cc pc = .ok (.ishr, 1)) (k : J E w b L (pc + 1) (.int (ishr x y) :: st)) : J E w b L pc (.int y :: .int x :: st) :=
  fun H q ls _ _ h1 h2 hP hS hl => lv_ishr hE.x hE.bc d (k H q ls _ _ h1 h2 hP hS hl)
theorem j_ladd (hE : jOk E cc own) {x y : Int64} (d : decode cc pc = .ok (.ladd, 1)) (k : J E w b L (pc + 1) (.long (x + y) :: st)) : J E w b L pc (.long y :: .long x :: st) :=
  fun H q ls _ _ h1 h2 hP hS hl => lv_ladd hE.x hE.bc d (k H q ls _ _ h1 h2 hP hS hl)
theorem j_lsub (hE : jOk E cc own) {x y : Int64} (d : decode cc pc = .ok (.lsub, 1)) (k : J E w b L (pc + 1) (.long (x - y) :: st)) : J E w b L pc (.long y :: .long x :: st) :=
  fun H q ls _ _ h1 h2 hP hS hl => lv_lsub hE.x hE.bc d (k H q ls _ _ h1 h2 hP hS hl)
theorem j_lmul (hE : jOk E cc own) {x y : Int64} (d : decode cc pc = .ok (.lmul, 1)) (k : J E w b L (pc + 1) (.long (x * y) :: st)) : J E w b L pc (.long y :: .long x :: st) :=
  fun H q ls _ _ h1 h2 hP hS hl => lv_lmul hE.x hE.bc d (k H q ls _ _ h1 h2 hP hS hl)
theorem j_idiv (hE : jOk E cc own) {x y : Int32} (d : decode cc pc = .ok (.idiv, 1)) (hne : ¬ y = 0) (k : J E w b L (pc + 1) (.int (x / y) :: st)) : J E w b L pc (.int y :: .int x :: st) :=
  fun H q ls _ _ h1 h2 hP hS hl => lv_idiv hE.x hE.bc d hne (k H q ls _ _ h1 h2 hP hS hl)
theorem j_irem (hE : jOk E cc own) {x y : Int32} (d : decode cc pc = .ok (.irem, 1)) (hne : ¬ y = 0) (k : J E w b L (pc + 1) (.int (irem x y) :: st)) : J E w b L pc (.int y :: .int x :: st) :=
  fun H q ls _ _ h1 h2 hP hS hl => lv_irem hE.x hE.bc d hne (k H q ls _ _ h1 h2 hP hS hl)
theorem j_ldiv (hE : jOk E cc own) {x y : Int64} (d : decode cc pc = .ok (.ldiv, 1)) (hne : ¬ y = 0) (k : J E w b L (pc + 1) (.long (x / y) :: st)) : J E w b L pc (.long y :: .long x :: st) :=
  fun H q ls _ _ h1 h2 hP hS hl => lv_ldiv hE.x hE.bc d hne (k H q ls _ _ h1 h2 hP hS hl)
theorem j_lrem (hE : jOk E cc own) {x y : Int64} (d : decode cc pc = .ok (.lrem, 1)) (hne : ¬ y = 0) (k : J E w b L (pc + 1) (.long (lrem x y) :: st)) : J E w b L pc (.long y :: .long x :: st) :=
  fun H q ls _ _ h1 h2 hP hS hl => lv_lrem hE.x hE.bc d hne (k H q ls _ _ h1 h2 hP hS hl)
theorem j_ineg (hE : jOk E cc own) {x : Int32} (d : decode cc pc = .ok (.ineg, 1)) (k : J E w b L (pc + 1) (.int (-x) :: st)) : J E w b L pc (.int x :: st) :=
  fun H q ls _ _ h1 h2 hP hS hl => lv_ineg hE.x hE.bc d (k H q ls _ _ h1 h2 hP hS hl)
theorem j_i2l (hE : jOk E cc own) {x : Int32} (d : decode cc pc = .ok (.i2l, 1)) (k : J E w b L (pc + 1) (.long (x.toInt64) :: st)) : J E w b L pc (.int x :: st) :=
  fun H q ls _ _ h1 h2 hP hS hl => lv_i2l hE.x hE.bc d rfl (k H q ls _ _ h1 h2 hP hS hl)
theorem j_l2i (hE : jOk E cc own) {x : Int64} (d : decode cc pc = .ok (.l2i, 1)) (k : J E w b L (pc + 1) (.int (x.toInt32) :: st)) : J E w b L pc (.long x :: st) :=
  fun H q ls _ _ h1 h2 hP hS hl => lv_l2i hE.x hE.bc d rfl (k H q ls _ _ h1 h2 hP hS hl)
theorem j_i2b (hE : jOk E cc own) {x : Int32} (d : decode cc pc = .ok (.i2b, 1)) (k : J E w b L (pc + 1) (.int (i2b x) :: st)) : J E w b L pc (.int x :: st) :=
  fun H q ls _ _ h1 h2 hP hS hl => lv_i2b hE.x hE.bc d rfl (k H q ls _ _ h1 h2 hP hS hl)
theorem j_i2c (hE : jOk E cc own) {x : Int32} (d : decode cc pc = .ok (.i2c, 1)) (k : J E w b L (pc + 1) (.int (i2c x) :: st)) : J E w b L pc (.int x :: st) :=
  fun H q ls _ _ h1 h2 hP hS hl => lv_i2c hE.x hE.bc d rfl (k H q ls _ _ h1 h2 hP hS hl)
theorem j_iushr (hE : jOk E cc own) {x y : Int32} (d : decode cc pc = .ok (.iushr, 1)) (k : J E w b L (pc + 1) (.int (iushr x y) :: st)) : J E w b L pc (.int y :: .int x :: st) :=
  fun H q ls _ _ h1 h2 hP hS hl => lv_iushr hE.x hE.bc d rfl (k H q ls _ _ h1 h2 hP hS hl)
theorem j_lushr (hE : jOk E cc own) {x : Int64} {y : Int32} (d : decode cc pc = .ok (.lushr, 1)) (k : J E w b L (pc + 1) (.long (lushr x y) :: st)) : J E w b L pc (.int y :: .long x :: st) :=
  fun H q ls _ _ h1 h2 hP hS hl => lv_lushr hE.x hE.bc d rfl (k H q ls _ _ h1 h2 hP hS hl)
theorem j_lshl (hE : jOk E cc own) {x : Int64} {y : Int32} (d : decode cc pc = .ok (.lshl, 1)) (k : J E w b L (pc + 1) (.long (lshl x y) :: st)) : J E w b L pc (.int y :: .long x :: st) :=
  fun H q ls _ _ h1 h2 hP hS hl => lv_lshl hE.x hE.bc d rfl (k H q ls _ _ h1 h2 hP hS hl)
theorem j_lshr (hE : jOk E cc own) {x : Int64} {y : Int32} (d : decode cc pc = .ok (.lshr, 1)) (k : J E w b L (pc + 1) (.long (lshr x y) :: st)) : J E w b L pc (.int y :: .long x :: st) :=
  fun H q ls _ _ h1 h2 hP hS hl => lv_lshr hE.x hE.bc d rfl (k H q ls _ _ h1 h2 hP hS hl)
theorem j_dup (hE : jOk E cc own) {va : Value} (d : decode cc pc = .ok (.dup, 1)) (hva : va.category = 1) (k : J E w b L (pc + 1) (va :: va :: st)) : J E w b L pc (va :: st) :=
  fun H q ls _ _ h1 h2 hP hS hl => lv_dup hE.x hE.bc d hva (k H q ls _ _ h1 h2 hP hS hl)
theorem j_pop (hE : jOk E cc own) {va : Value} (d : decode cc pc = .ok (.pop, 1)) (hva : va.category = 1) (k : J E w b L (pc + 1) st) : J E w b L pc (va :: st) :=
  fun H q ls _ _ h1 h2 hP hS hl => lv_pop hE.x hE.bc d hva (k H q ls _ _ h1 h2 hP hS hl)
theorem j_dup_x1 (hE : jOk E cc own) {va vb : Value} (d : decode cc pc = .ok (.dup_x1, 1)) (hva : va.category = 1) (hvb : vb.category = 1) (k : J E w b L (pc + 1) (va :: vb :: va :: st)) : J E w b L pc (va :: vb :: st) :=
  fun H q ls _ _ h1 h2 hP hS hl => lv_dup_x1 hE.x hE.bc d hva hvb (k H q ls _ _ h1 h2 hP hS hl)
theorem j_dup2 (hE : jOk E cc own) {va vb : Value} (d : decode cc pc = .ok (.dup2, 1)) (hva : va.category = 1) (hvb : vb.category = 1) (k : J E w b L (pc + 1) (va :: vb :: va :: vb :: st)) : J E w b L pc (va :: vb :: st) :=
  fun H q ls _ _ h1 h2 hP hS hl => lv_dup2_11 hE.x hE.bc d hva hvb (k H q ls _ _ h1 h2 hP hS hl)
theorem j_if_eq (hE : jOk E cc own) {x : Int32} {off : Int} (pc' : Nat) (d : decode cc pc = .ok (.ifCond .eq off, 3)) (ht : (pc : Int) + off = (pc' : Int)) (kt : x = 0 → J E w b L pc' st) (kf : ¬ x = 0 → J E w b L (pc + 3) st) : J E w b L pc (.int x :: st) :=
  fun H q ls _ _ h1 h2 hP hS hl => lv_if_eq hE.x hE.bc d ht (fun c => kt c H q ls _ _ h1 h2 hP hS hl) (fun c => kf c H q ls _ _ h1 h2 hP hS hl)
theorem j_if_ne (hE : jOk E cc own) {x : Int32} {off : Int} (pc' : Nat) (d : decode cc pc = .ok (.ifCond .ne off, 3)) (ht : (pc : Int) + off = (pc' : Int)) (kt : ¬ x = 0 → J E w b L pc' st) (kf : x = 0 → J E w b L (pc + 3) st) : J E w b L pc (.int x :: st) :=
  fun H q ls _ _ h1 h2 hP hS hl => lv_if_ne hE.x hE.bc d ht (fun c => kt c H q ls _ _ h1 h2 hP hS hl) (fun c => kf c H q ls _ _ h1 h2 hP hS hl)
theorem j_if_lt (hE : jOk E cc own) {x : Int32} {off : Int} (pc' : Nat) (d : decode cc pc = .ok (.ifCond .lt off, 3)) (ht : (pc : Int) + off = (pc' : Int)) (kt : x < 0 → J E w b L pc' st) (kf : ¬ x < 0 → J E w b L (pc + 3) st) : J E w b L pc (.int x :: st) :=
  fun H q ls _ _ h1 h2 hP hS hl => lv_if_lt hE.x hE.bc d ht (fun c => kt c H q ls _ _ h1 h2 hP hS hl) (fun c => kf c H q ls _ _ h1 h2 hP hS hl)
theorem j_if_ge (hE : jOk E cc own) {x : Int32} {off : Int} (pc' : Nat) (d : decode cc pc = .ok (.ifCond .ge off, 3)) (ht : (pc : Int) + off = (pc' : Int)) (kt : 0 ≤ x → J E w b L pc' st) (kf : ¬ 0 ≤ x → J E w b L (pc + 3) st) : J E w b L pc (.int x :: st) :=
  fun H q ls _ _ h1 h2 hP hS hl => lv_if_ge hE.x hE.bc d ht (fun c => kt c H q ls _ _ h1 h2 hP hS hl) (fun c => kf c H q ls _ _ h1 h2 hP hS hl)
theorem j_if_gt (hE : jOk E cc own) {x : Int32} {off : Int} (pc' : Nat) (d : decode cc pc = .ok (.ifCond .gt off, 3)) (ht : (pc : Int) + off = (pc' : Int)) (kt : 0 < x → J E w b L pc' st) (kf : ¬ 0 < x → J E w b L (pc + 3) st) : J E w b L pc (.int x :: st) :=
  fun H q ls _ _ h1 h2 hP hS hl => lv_if_gt hE.x hE.bc d ht (fun c => kt c H q ls _ _ h1 h2 hP hS hl) (fun c => kf c H q ls _ _ h1 h2 hP hS hl)
theorem j_if_le (hE : jOk E cc own) {x : Int32} {off : Int} (pc' : Nat) (d : decode cc pc = .ok (.ifCond .le off, 3)) (ht : (pc : Int) + off = (pc' : Int)) (kt : x ≤ 0 → J E w b L pc' st) (kf : ¬ x ≤ 0 → J E w b L (pc + 3) st) : J E w b L pc (.int x :: st) :=
  fun H q ls _ _ h1 h2 hP hS hl => lv_if_le hE.x hE.bc d ht (fun c => kt c H q ls _ _ h1 h2 hP hS hl) (fun c => kf c H q ls _ _ h1 h2 hP hS hl)
theorem j_icmp_eq (hE : jOk E cc own) {x y : Int32} {off : Int} (pc' : Nat) (d : decode cc pc = .ok (.if_icmp .eq off, 3)) (ht : (pc : Int) + off = (pc' : Int)) (kt : x = y → J E w b L pc' st) (kf : ¬ x = y → J E w b L (pc + 3) st) : J E w b L pc (.int y :: .int x :: st) :=
  fun H q ls _ _ h1 h2 hP hS hl => lv_icmp_eq hE.x hE.bc d ht (fun c => kt c H q ls _ _ h1 h2 hP hS hl) (fun c => kf c H q ls _ _ h1 h2 hP hS hl)
theorem j_icmp_ne (hE : jOk E cc own) {x y : Int32} {off : Int} (pc' : Nat) (d : decode cc pc = .ok (.if_icmp .ne off, 3)) (ht : (pc : Int) + off = (pc' : Int)) (kt : ¬ x = y → J E w b L pc' st) (kf : x = y → J E w b L (pc + 3) st) : J E w b L pc (.int y :: .int x :: st) :=
  fun H q ls _ _ h1 h2 hP hS hl => lv_icmp_ne hE.x hE.bc d ht (fun c => kt c H q ls _ _ h1 h2 hP hS hl) (fun c => kf c H q ls _ _ h1 h2 hP hS hl)
theorem j_icmp_lt (hE : jOk E cc own) {x y : Int32} {off : Int} (pc' : Nat) (d : decode cc pc = .ok (.if_icmp .lt off, 3)) (ht : (pc : Int) + off = (pc' : Int)) (kt : x < y → J E w b L pc' st) (kf : ¬ x < y → J E w b L (pc + 3) st) : J E w b L pc (.int y :: .int x :: st) :=
  fun H q ls _ _ h1 h2 hP hS hl => lv_icmp_lt hE.x hE.bc d ht (fun c => kt c H q ls _ _ h1 h2 hP hS hl) (fun c => kf c H q ls _ _ h1 h2 hP hS hl)
theorem j_icmp_ge (hE : jOk E cc own) {x y : Int32} {off : Int} (pc' : Nat) (d : decode cc pc = .ok (.if_icmp .ge off, 3)) (ht : (pc : Int) + off = (pc' : Int)) (kt : y ≤ x → J E w b L pc' st) (kf : ¬ y ≤ x → J E w b L (pc + 3) st) : J E w b L pc (.int y :: .int x :: st) :=
  fun H q ls _ _ h1 h2 hP hS hl => lv_icmp_ge hE.x hE.bc d ht (fun c => kt c H q ls _ _ h1 h2 hP hS hl) (fun c => kf c H q ls _ _ h1 h2 hP hS hl)
theorem j_icmp_gt (hE : jOk E cc own) {x y : Int32} {off : Int} (pc' : Nat) (d : decode cc pc = .ok (.if_icmp .gt off, 3)) (ht : (pc : Int) + off = (pc' : Int)) (kt : y < x → J E w b L pc' st) (kf : ¬ y < x → J E w b L (pc + 3) st) : J E w b L pc (.int y :: .int x :: st) :=
  fun H q ls _ _ h1 h2 hP hS hl => lv_icmp_gt hE.x hE.bc d ht (fun c => kt c H q ls _ _ h1 h2 hP hS hl) (fun c => kf c H q ls _ _ h1 h2 hP hS hl)
theorem j_icmp_le (hE : jOk E cc own) {x y : Int32} {off : Int} (pc' : Nat) (d : decode cc pc = .ok (.if_icmp .le off, 3)) (ht : (pc : Int) + off = (pc' : Int)) (kt : x ≤ y → J E w b L pc' st) (kf : ¬ x ≤ y → J E w b L (pc + 3) st) : J E w b L pc (.int y :: .int x :: st) :=
  fun H q ls _ _ h1 h2 hP hS hl => lv_icmp_le hE.x hE.bc d ht (fun c => kt c H q ls _ _ h1 h2 hP hS hl) (fun c => kf c H q ls _ _ h1 h2 hP hS hl)
theorem j_acmp_eq (hE : jOk E cc own) {rx ry : Option Nat} {off : Int} (pc' : Nat) (d : decode cc pc = .ok (.if_acmp .eq off, 3)) (ht : (pc : Int) + off = (pc' : Int)) (kt : rx = ry → J E w b L pc' st) (kf : ¬ rx = ry → J E w b L (pc + 3) st) : J E w b L pc (va_rf ry :: va_rf rx :: st) :=
  fun H q ls _ _ h1 h2 hP hS hl => lv_acmp_eq hE.x hE.bc d ht (fun c => kt c H q ls _ _ h1 h2 hP hS hl) (fun c => kf c H q ls _ _ h1 h2 hP hS hl)
theorem j_acmp_ne (hE : jOk E cc own) {rx ry : Option Nat} {off : Int} (pc' : Nat) (d : decode cc pc = .ok (.if_acmp .ne off, 3)) (ht : (pc : Int) + off = (pc' : Int)) (kt : ¬ rx = ry → J E w b L pc' st) (kf : rx = ry → J E w b L (pc + 3) st) : J E w b L pc (va_rf ry :: va_rf rx :: st) :=
  fun H q ls _ _ h1 h2 hP hS hl => lv_acmp_ne hE.x hE.bc d ht (fun c => kt c H q ls _ _ h1 h2 hP hS hl) (fun c => kf c H q ls _ _ h1 h2 hP hS hl)
theorem j_ifnull (hE : jOk E cc own) {r : Option Nat} {off : Int} (pc' : Nat) (d : decode cc pc = .ok (.ifnull off, 3)) (ht : (pc : Int) + off = (pc' : Int)) (kt : r = none → J E w b L pc' st) (kf : ¬ r = none → J E w b L (pc + 3) st) : J E w b L pc (va_rf r :: st) := by
  cases r with
  | none => exact fun H q ls _ _ h1 h2 hP hS hl => lv_ifnullN hE.x hE.bc d ht (kt rfl H q ls _ _ h1 h2 hP hS hl)
  | some x => exact fun H q ls _ _ h1 h2 hP hS hl => lv_ifnull hE.x hE.bc d (kf (by intro h; cases h) H q ls _ _ h1 h2 hP hS hl)
theorem j_ifnonnull (hE : jOk E cc own) {r : Option Nat} {off : Int} (pc' : Nat) (d : decode cc pc = .ok (.ifnonnull off, 3)) (ht : (pc : Int) + off = (pc' : Int)) (kt : ¬ r = none → J E w b L pc' st) (kf : r = none → J E w b L (pc + 3) st) : J E w b L pc (va_rf r :: st) := by
  cases r with
  | none => exact fun H q ls _ _ h1 h2 hP hS hl => lv_ifnonnullN hE.x hE.bc d (kf rfl H q ls _ _ h1 h2 hP hS hl)
  | some x => exact fun H q ls _ _ h1 h2 hP hS hl => lv_ifnonnull hE.x hE.bc d ht (kt (by intro h; cases h) H q ls _ _ h1 h2 hP hS hl)
theorem j_aload_nq (hE : jOk E cc own) (j : Nat) {k0 : Fin 4} {i : Nat} {r : Option Nat} (d : decode cc pc = .ok (.aload_n k0, 1)) (hi : (k0 : Nat) = i) (hl0 : L[j]? = some (i, va_rf r)) (k : J E w b L (pc + 1) (va_rf r :: st)) : J E w b L pc st := by
  cases r with
  | none => exact fun H q ls _ _ h1 h2 hP hS hl => lv_aload_nN hE.x hE.bc d hi (lv_at hl j hl0) (k H q ls _ _ h1 h2 hP hS hl)
  | some x => exact fun H q ls _ _ h1 h2 hP hS hl => lv_aload_n hE.x hE.bc d hi (lv_at hl j hl0) (k H q ls _ _ h1 h2 hP hS hl)
theorem j_aloadq (hE : jOk E cc own) (j : Nat) {i : Nat} {r : Option Nat} (d : decode cc pc = .ok (.aload i, 2)) (hl0 : L[j]? = some (i, va_rf r)) (k : J E w b L (pc + 2) (va_rf r :: st)) : J E w b L pc st := by
  cases r with
  | none => exact fun H q ls _ _ h1 h2 hP hS hl => lv_aloadN hE.x hE.bc d (lv_at hl j hl0) (k H q ls _ _ h1 h2 hP hS hl)
  | some x => exact fun H q ls _ _ h1 h2 hP hS hl => lv_aload hE.x hE.bc d (lv_at hl j hl0) (k H q ls _ _ h1 h2 hP hS hl)
theorem j_astore_nq (hE : jOk E cc own) {nL : Nat} (hn : E.2.2.2.2 = nL) {k0 : Fin 4} {i : Nat} {r : Option Nat} (d : decode cc pc = .ok (.astore_n k0, 1)) (hi : (k0 : Nat) = i) (hlt : i < nL) (hl0 : (i, va_rf r) :: L.filter (fun q => !(q.1 == i) && !(q.1 + 1 == i && q.2.category == 2)) = L') (k : J E w b L' (pc + 1) st) : J E w b L pc (va_rf r :: st) := by
  cases r with
  | none => exact fun H q ls _ _ h1 h2 hP hS hl => lv_astore_nN hE.x hE.bc d hi hl (hn ▸ hlt) hl0 (fun ls' hl' => k H q ls' _ _ h1 h2 hP hS hl')
  | some x => exact fun H q ls _ _ h1 h2 hP hS hl => lv_astore_n hE.x hE.bc d hi hl (hn ▸ hlt) hl0 (fun ls' hl' => k H q ls' _ _ h1 h2 hP hS hl')
theorem j_astoreq (hE : jOk E cc own) {nL : Nat} (hn : E.2.2.2.2 = nL) {i : Nat} {r : Option Nat} (d : decode cc pc = .ok (.astore i, 2)) (hlt : i < nL) (hl0 : (i, va_rf r) :: L.filter (fun q => !(q.1 == i) && !(q.1 + 1 == i && q.2.category == 2)) = L') (k : J E w b L' (pc + 2) st) : J E w b L pc (va_rf r :: st) := by
  cases r with
  | none => exact fun H q ls _ _ h1 h2 hP hS hl => lv_astoreN hE.x hE.bc d hl (hn ▸ hlt) hl0 (fun ls' hl' => k H q ls' _ _ h1 h2 hP hS hl')
  | some x => exact fun H q ls _ _ h1 h2 hP hS hl => lv_astore hE.x hE.bc d hl (hn ▸ hlt) hl0 (fun ls' hl' => k H q ls' _ _ h1 h2 hP hS hl')
theorem j_lstore_n (hE : jOk E cc own) {nL : Nat} (hn : E.2.2.2.2 = nL) {k0 : Fin 4} {i : Nat} {x : Int64} (d : decode cc pc = .ok (.lstore_n k0, 1)) (hi : (k0 : Nat) = i) (hlt : i + 1 < nL) (hl0 : (i, Value.long x) :: L.filter (fun q => !(q.1 == i) && (!(q.1 == i + 1) && !(q.1 + 1 == i && q.2.category == 2))) = L') (k : J E w b L' (pc + 1) st) : J E w b L pc (.long x :: st) :=
  fun H q ls _ _ h1 h2 hP hS hl => lv_lstore_n hE.x hE.bc d hi hl (hn ▸ hlt) hl0 (fun ls' hl' => k H q ls' _ _ h1 h2 hP hS hl')
theorem j_lstore (hE : jOk E cc own) {nL : Nat} (hn : E.2.2.2.2 = nL) {i : Nat} {x : Int64} (d : decode cc pc = .ok (.lstore i, 2)) (hlt : i + 1 < nL) (hl0 : (i, Value.long x) :: L.filter (fun q => !(q.1 == i) && (!(q.1 == i + 1) && !(q.1 + 1 == i && q.2.category == 2))) = L') (k : J E w b L' (pc + 2) st) : J E w b L pc (.long x :: st) :=
  fun H q ls _ _ h1 h2 hP hS hl => lv_lstore hE.x hE.bc d hl (hn ▸ hlt) hl0 (fun ls' hl' => k H q ls' _ _ h1 h2 hP hS hl')
theorem j_ldcw (hE : jOk E cc own) {i : Nat} {v : Int32} (hq : Cond.constant own i v ∈ lw_all) (d : decode cc pc = .ok (.ldc_w i, 3)) (k : J E w b L (pc + 3) (.int v :: st)) : J E w b L pc st :=
  fun H q ls _ _ h1 h2 hP hS hl => lv_ldcw hE.x hE.bc hE.ow (hE.ts _ hq) d (k H q ls _ _ h1 h2 hP hS hl)
theorem j_tin (hE : jOk E cc own) {dflt lo hi : Int} {offs : Array Int} {len : Nat} {x : Int32} {off : Int} (pc' : Nat) (d : decode cc pc = .ok (.tableswitch dflt lo hi offs, len)) (h1 : ¬ x.toInt < lo) (h2 : ¬ hi < x.toInt) (ho : offs[(x.toInt - lo).toNat]? = some off) (ht : (pc : Int) + off = (pc' : Int)) (k : J E w b L pc' st) : J E w b L pc (.int x :: st) :=
  fun H q ls _ _ g1 g2 hP hS hl => lv_tableIn hE.x hE.bc d h1 h2 ho ht (k H q ls _ _ g1 g2 hP hS hl)
theorem j_tout (hE : jOk E cc own) {dflt lo hi : Int} {offs : Array Int} {len : Nat} {x : Int32} (pc' : Nat) (d : decode cc pc = .ok (.tableswitch dflt lo hi offs, len)) (h : x.toInt < lo ∨ hi < x.toInt) (ht : (pc : Int) + dflt = (pc' : Int)) (k : J E w b L pc' st) : J E w b L pc (.int x :: st) :=
  fun H q ls _ _ g1 g2 hP hS hl => lv_tableOut hE.x hE.bc d h ht (k H q ls _ _ g1 g2 hP hS hl)
end JR2
