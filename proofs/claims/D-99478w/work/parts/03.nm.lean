/-! GlassStreetModel -/
set_option maxRecDepth 100000
def RX6 : String := "GlassStreetModel"
def TX6 : u_T := fun k => match k with
  | 0 => ("GlassStreetModel", "thrown", "I", false)
  | 1 => ("GlassStreetModel", "tape", "[I", true)
  | 2 => ("GlassStreetModel", "taped", "I", false)
  | 3 => ("GlassStreetModel", "size", "I", false)
  | 4 => ("GlassStreetModel", "sort", "[I", true)
  | 5 => ("GlassStreetModel", "place", "[I", true)
  | 6 => ("GlassStreetModel", "value", "[J", true)
  | 7 => ("GlassStreetModel", "at", "I", false)
  | 8 => ("GlassStreetModel", "fault", "I", false)
  | 9 => ("GlassStreetModel", "words", "[J", true)
  | 10 => ("GlassStreetModel", "streets", "[I", true)
  | 11 => ("GlassStreetModel", "op", "[I", true)
  | 12 => ("GlassStreetModel", "arg", "[I", true)
  | 13 => ("GlassStreetModel", "codes", "I", false)
  | 14 => ("GlassStreetModel", "names", "[J", true)
  | 15 => ("GlassStreetModel", "readNames", "[J", true)
  | 16 => ("GlassStreetModel", "nameOf", "[I", true)
  | 17 => ("GlassStreetModel", "readNameOf", "[I", true)
  | 18 => ("GlassStreetModel", "namesMany", "I", false)
  | 19 => ("GlassStreetModel", "readMany", "I", false)
  | 20 => ("GlassStreetModel", "once", "I", false)
  | 21 => ("GlassStreetModel", "lines", "[I", true)
  | 22 => ("GlassStreetModel", "facts", "[I", true)
  | 23 => ("GlassStreetModel", "pile", "[I", true)
  | 24 => ("GlassStreetModel", "state", "[I", true)
  | 25 => ("GlassStreetModel", "undos", "I", false)
  | 26 => ("GlassStreetModel", "isNotched", "[Z", true)
  | 27 => ("GlassStreetModel", "isUnseen", "Z", false)
  | 28 => ("GlassStreetModel", "g0", "J", false)
  | 29 => ("GlassStreetModel", "drawnDeeds", "I", false)
  | _ => ("GlassStreetModel", "drawnUnseen", "I", false)
def tyX6 : Nat → FieldType := fun k => match k with
  | 0 => .int
  | 1 => .array .int
  | 2 => .int
  | 3 => .int
  | 4 => .array .int
  | 5 => .array .int
  | 6 => .array .long
  | 7 => .int
  | 8 => .int
  | 9 => .array .long
  | 10 => .array .int
  | 11 => .array .int
  | 12 => .array .int
  | 13 => .int
  | 14 => .array .long
  | 15 => .array .long
  | 16 => .array .int
  | 17 => .array .int
  | 18 => .int
  | 19 => .int
  | 20 => .int
  | 21 => .array .int
  | 22 => .array .int
  | 23 => .array .int
  | 24 => .array .int
  | 25 => .int
  | 26 => .array .boolean
  | 27 => .boolean
  | 28 => .long
  | 29 => .int
  | _ => .int
abbrev wsX60 : List Cond := u_ws RX6 TX6 31
set_option maxRecDepth 100000 in
theorem nmX6 : ∀ a, a < 31 → ∀ b, b < 31 → a ≠ b → (TX6 a).2.1 ≠ (TX6 b).2.1 := by decide +kernel
set_option maxRecDepth 100000 in
theorem tyX6_ok : ∀ k, k < 31 → parseFieldDescriptor (TX6 k).2.2.1 = some (tyX6 k) := by decide +kernel
abbrev cX6_thrown : ByteArray := prog_24_method_1_code
def yX6_thrown : MethodName := ⟨RX6, "thrown", "()I"⟩
theorem dX6_thrown_0 : decode cX6_thrown 0 = .ok (.aload_n 0, 1) := by decide +kernel
theorem dX6_thrown_1 : decode cX6_thrown 1 = .ok (.getfield 1, 3) := by decide +kernel
theorem dX6_thrown_4 : decode cX6_thrown 4 = .ok (.ireturn, 1) := by decide +kernel
abbrev cX6_feed : ByteArray := prog_24_method_2_code
def yX6_feed : MethodName := ⟨RX6, "feed", "(JJJ)I"⟩
def dkwX6_feed_1 : List UInt8 := [180, 0, 11, 172]
abbrev dktX6_feed_1 : List UInt8 := dkwX6_feed_1 ++ []
def dkwX6_feed_0 : List UInt8 := [42, 3, 181, 0, 1, 42, 31, 182, 0, 7, 42, 33, 182, 0, 7, 42, 22, 5, 182, 0, 7, 42]
abbrev dktX6_feed_0 : List UInt8 := dkwX6_feed_0 ++ dktX6_feed_1
theorem dksX6_feed_0 : cX6_feed.data.toList.drop 0 = dktX6_feed_0 := by decide +kernel
theorem dksX6_feed_1 : cX6_feed.data.toList.drop 22 = dktX6_feed_1 := dk_seg dksX6_feed_0 22 rfl rfl
theorem dX6_feed_0 : decode cX6_feed 0 = .ok (.aload_n 0, 1) := dk_42 (dk_at dksX6_feed_0 0 rfl rfl)
theorem dX6_feed_1 : decode cX6_feed 1 = .ok (.iconst 0, 1) := dk_3 (dk_at dksX6_feed_0 1 rfl rfl)
theorem dX6_feed_2 : decode cX6_feed 2 = .ok (.putfield 1, 3) := dk_181 0 1 (dk_at dksX6_feed_0 2 rfl rfl)
theorem dX6_feed_5 : decode cX6_feed 5 = .ok (.aload_n 0, 1) := dk_42 (dk_at dksX6_feed_0 5 rfl rfl)
theorem dX6_feed_6 : decode cX6_feed 6 = .ok (.lload_n 1, 1) := dk_31 (dk_at dksX6_feed_0 6 rfl rfl)
theorem dX6_feed_7 : decode cX6_feed 7 = .ok (.invokevirtual 7, 3) := dk_182 0 7 (dk_at dksX6_feed_0 7 rfl rfl)
theorem dX6_feed_10 : decode cX6_feed 10 = .ok (.aload_n 0, 1) := dk_42 (dk_at dksX6_feed_0 10 rfl rfl)
theorem dX6_feed_11 : decode cX6_feed 11 = .ok (.lload_n 3, 1) := dk_33 (dk_at dksX6_feed_0 11 rfl rfl)
theorem dX6_feed_12 : decode cX6_feed 12 = .ok (.invokevirtual 7, 3) := dk_182 0 7 (dk_at dksX6_feed_0 12 rfl rfl)
theorem dX6_feed_15 : decode cX6_feed 15 = .ok (.aload_n 0, 1) := dk_42 (dk_at dksX6_feed_0 15 rfl rfl)
theorem dX6_feed_16 : decode cX6_feed 16 = .ok (.lload 5, 2) := dk_22 5 (dk_at dksX6_feed_0 16 rfl rfl)
theorem dX6_feed_18 : decode cX6_feed 18 = .ok (.invokevirtual 7, 3) := dk_182 0 7 (dk_at dksX6_feed_0 18 rfl rfl)
theorem dX6_feed_21 : decode cX6_feed 21 = .ok (.aload_n 0, 1) := dk_42 (dk_at dksX6_feed_0 21 rfl rfl)
theorem dX6_feed_22 : decode cX6_feed 22 = .ok (.getfield 11, 3) := dk_180 0 11 (dk_at dksX6_feed_1 0 rfl rfl)
theorem dX6_feed_25 : decode cX6_feed 25 = .ok (.ireturn, 1) := dk_172 (dk_at dksX6_feed_1 3 rfl rfl)
abbrev cX6_lay : ByteArray := prog_24_method_3_code
def yX6_lay : MethodName := ⟨RX6, "lay", "(J)V"⟩
def dkwX6_lay_3 : List UInt8 := [167, 255, 187, 177]
abbrev dktX6_lay_3 : List UInt8 := dkwX6_lay_3 ++ []
def dkwX6_lay_2 : List UInt8 := [42, 180, 0, 14, 42, 180, 0, 11, 21, 4, 79, 42, 89, 180, 0, 11, 4, 96, 181, 0, 11, 132, 3, 248]
abbrev dktX6_lay_2 : List UInt8 := dkwX6_lay_2 ++ dktX6_lay_3
def dkwX6_lay_1 : List UInt8 := [21, 4, 16, 32, 161, 0, 41, 21, 4, 16, 126, 163, 0, 34, 42, 180, 0, 11, 17, 3, 232, 162, 0, 24]
abbrev dktX6_lay_1 : List UInt8 := dkwX6_lay_1 ++ dktX6_lay_2
def dkwX6_lay_0 : List UInt8 := [16, 56, 62, 29, 155, 0, 71, 31, 29, 123, 136, 17, 0, 255, 126, 54, 4, 21, 4, 16, 10, 159, 0, 17]
abbrev dktX6_lay_0 : List UInt8 := dkwX6_lay_0 ++ dktX6_lay_1
theorem dksX6_lay_0 : cX6_lay.data.toList.drop 0 = dktX6_lay_0 := by decide +kernel
theorem dksX6_lay_1 : cX6_lay.data.toList.drop 24 = dktX6_lay_1 := dk_seg dksX6_lay_0 24 rfl rfl
theorem dksX6_lay_2 : cX6_lay.data.toList.drop 48 = dktX6_lay_2 := dk_seg dksX6_lay_1 24 rfl rfl
theorem dksX6_lay_3 : cX6_lay.data.toList.drop 72 = dktX6_lay_3 := dk_seg dksX6_lay_2 24 rfl rfl
theorem dX6_lay_0 : decode cX6_lay 0 = .ok (.bipush 56, 2) := dk_16 56 (dk_at dksX6_lay_0 0 rfl rfl)
theorem dX6_lay_2 : decode cX6_lay 2 = .ok (.istore_n 3, 1) := dk_62 (dk_at dksX6_lay_0 2 rfl rfl)
theorem dX6_lay_3 : decode cX6_lay 3 = .ok (.iload_n 3, 1) := dk_29 (dk_at dksX6_lay_0 3 rfl rfl)
theorem dX6_lay_4 : decode cX6_lay 4 = .ok (.ifCond .lt 71, 3) := dk_155 0 71 (dk_at dksX6_lay_0 4 rfl rfl)
theorem dX6_lay_7 : decode cX6_lay 7 = .ok (.lload_n 1, 1) := dk_31 (dk_at dksX6_lay_0 7 rfl rfl)
theorem dX6_lay_8 : decode cX6_lay 8 = .ok (.iload_n 3, 1) := dk_29 (dk_at dksX6_lay_0 8 rfl rfl)
theorem dX6_lay_9 : decode cX6_lay 9 = .ok (.lshr, 1) := dk_123 (dk_at dksX6_lay_0 9 rfl rfl)
theorem dX6_lay_10 : decode cX6_lay 10 = .ok (.l2i, 1) := dk_136 (dk_at dksX6_lay_0 10 rfl rfl)
theorem dX6_lay_11 : decode cX6_lay 11 = .ok (.sipush 255, 3) := dk_17 0 255 (dk_at dksX6_lay_0 11 rfl rfl)
theorem dX6_lay_14 : decode cX6_lay 14 = .ok (.iand, 1) := dk_126 (dk_at dksX6_lay_0 14 rfl rfl)
theorem dX6_lay_15 : decode cX6_lay 15 = .ok (.istore 4, 2) := dk_54 4 (dk_at dksX6_lay_0 15 rfl rfl)
theorem dX6_lay_17 : decode cX6_lay 17 = .ok (.iload 4, 2) := dk_21 4 (dk_at dksX6_lay_0 17 rfl rfl)
theorem dX6_lay_19 : decode cX6_lay 19 = .ok (.bipush 10, 2) := dk_16 10 (dk_at dksX6_lay_0 19 rfl rfl)
theorem dX6_lay_21 : decode cX6_lay 21 = .ok (.if_icmp .eq 17, 3) := dk_159 0 17 (dk_at dksX6_lay_0 21 rfl rfl)
theorem dX6_lay_24 : decode cX6_lay 24 = .ok (.iload 4, 2) := dk_21 4 (dk_at dksX6_lay_1 0 rfl rfl)
theorem dX6_lay_26 : decode cX6_lay 26 = .ok (.bipush 32, 2) := dk_16 32 (dk_at dksX6_lay_1 2 rfl rfl)
theorem dX6_lay_28 : decode cX6_lay 28 = .ok (.if_icmp .lt 41, 3) := dk_161 0 41 (dk_at dksX6_lay_1 4 rfl rfl)
theorem dX6_lay_31 : decode cX6_lay 31 = .ok (.iload 4, 2) := dk_21 4 (dk_at dksX6_lay_1 7 rfl rfl)
theorem dX6_lay_33 : decode cX6_lay 33 = .ok (.bipush 126, 2) := dk_16 126 (dk_at dksX6_lay_1 9 rfl rfl)
theorem dX6_lay_35 : decode cX6_lay 35 = .ok (.if_icmp .gt 34, 3) := dk_163 0 34 (dk_at dksX6_lay_1 11 rfl rfl)
theorem dX6_lay_38 : decode cX6_lay 38 = .ok (.aload_n 0, 1) := dk_42 (dk_at dksX6_lay_1 14 rfl rfl)
theorem dX6_lay_39 : decode cX6_lay 39 = .ok (.getfield 11, 3) := dk_180 0 11 (dk_at dksX6_lay_1 15 rfl rfl)
theorem dX6_lay_42 : decode cX6_lay 42 = .ok (.sipush 1000, 3) := dk_17 3 232 (dk_at dksX6_lay_1 18 rfl rfl)
theorem dX6_lay_45 : decode cX6_lay 45 = .ok (.if_icmp .ge 24, 3) := dk_162 0 24 (dk_at dksX6_lay_1 21 rfl rfl)
theorem dX6_lay_48 : decode cX6_lay 48 = .ok (.aload_n 0, 1) := dk_42 (dk_at dksX6_lay_2 0 rfl rfl)
theorem dX6_lay_49 : decode cX6_lay 49 = .ok (.getfield 14, 3) := dk_180 0 14 (dk_at dksX6_lay_2 1 rfl rfl)
theorem dX6_lay_52 : decode cX6_lay 52 = .ok (.aload_n 0, 1) := dk_42 (dk_at dksX6_lay_2 4 rfl rfl)
theorem dX6_lay_53 : decode cX6_lay 53 = .ok (.getfield 11, 3) := dk_180 0 11 (dk_at dksX6_lay_2 5 rfl rfl)
theorem dX6_lay_56 : decode cX6_lay 56 = .ok (.iload 4, 2) := dk_21 4 (dk_at dksX6_lay_2 8 rfl rfl)
theorem dX6_lay_58 : decode cX6_lay 58 = .ok (.iastore, 1) := dk_79 (dk_at dksX6_lay_2 10 rfl rfl)
theorem dX6_lay_59 : decode cX6_lay 59 = .ok (.aload_n 0, 1) := dk_42 (dk_at dksX6_lay_2 11 rfl rfl)
theorem dX6_lay_60 : decode cX6_lay 60 = .ok (.dup, 1) := dk_89 (dk_at dksX6_lay_2 12 rfl rfl)
theorem dX6_lay_61 : decode cX6_lay 61 = .ok (.getfield 11, 3) := dk_180 0 11 (dk_at dksX6_lay_2 13 rfl rfl)
theorem dX6_lay_64 : decode cX6_lay 64 = .ok (.iconst 1, 1) := dk_4 (dk_at dksX6_lay_2 16 rfl rfl)
theorem dX6_lay_65 : decode cX6_lay 65 = .ok (.iadd, 1) := dk_96 (dk_at dksX6_lay_2 17 rfl rfl)
theorem dX6_lay_66 : decode cX6_lay 66 = .ok (.putfield 11, 3) := dk_181 0 11 (dk_at dksX6_lay_2 18 rfl rfl)
theorem dX6_lay_69 : decode cX6_lay 69 = .ok (.iinc 3 (-8), 3) := dk_132 3 248 (dk_at dksX6_lay_2 21 rfl rfl)
theorem dX6_lay_72 : decode cX6_lay 72 = .ok (.goto (-69), 3) := dk_167 255 187 (dk_at dksX6_lay_3 0 rfl rfl)
theorem dX6_lay_75 : decode cX6_lay 75 = .ok (.return_, 1) := dk_177 (dk_at dksX6_lay_3 3 rfl rfl)
abbrev cX6_init : ByteArray := prog_24_method_4_code
def yX6_init : MethodName := ⟨RX6, "<init>", "()V"⟩
def dkwX6_init_14 : List UInt8 := [182, 0, 130, 177]
abbrev dktX6_init_14 : List UInt8 := dkwX6_init_14 ++ []
def dkwX6_init_13 : List UInt8 := [42, 17, 5, 238, 188, 10, 181, 0, 119, 42, 7, 188, 4, 181, 0, 122, 42, 3, 182, 0, 126, 42]
abbrev dktX6_init_13 : List UInt8 := dkwX6_init_13 ++ dktX6_init_14
def dkwX6_init_12 : List UInt8 := [17, 0, 250, 188, 10, 181, 0, 110, 42, 7, 188, 10, 181, 0, 113, 42, 17, 4, 76, 188, 10, 181, 0, 116]
abbrev dktX6_init_12 : List UInt8 := dkwX6_init_12 ++ dktX6_init_13
def dkwX6_init_11 : List UInt8 := [16, 16, 188, 11, 181, 0, 101, 42, 16, 16, 188, 10, 181, 0, 104, 42, 16, 16, 188, 10, 181, 0, 107, 42]
abbrev dktX6_init_11 : List UInt8 := dkwX6_init_11 ++ dktX6_init_12
def dkwX6_init_10 : List UInt8 := [188, 10, 181, 0, 92, 42, 17, 8, 152, 188, 10, 181, 0, 95, 42, 16, 16, 188, 11, 181, 0, 98, 42]
abbrev dktX6_init_10 : List UInt8 := dkwX6_init_10 ++ dktX6_init_11
def dkwX6_init_9 : List UInt8 := [80, 89, 16, 25, 20, 0, 84, 80, 181, 0, 86, 42, 16, 120, 188, 10, 181, 0, 89, 42, 17, 8, 152]
abbrev dktX6_init_9 : List UInt8 := dkwX6_init_9 ++ dktX6_init_10
def dkwX6_init_8 : List UInt8 := [20, 0, 76, 80, 89, 16, 22, 20, 0, 78, 80, 89, 16, 23, 20, 0, 80, 80, 89, 16, 24, 20, 0, 82]
abbrev dktX6_init_8 : List UInt8 := dkwX6_init_8 ++ dktX6_init_9
def dkwX6_init_7 : List UInt8 := [16, 18, 20, 0, 70, 80, 89, 16, 19, 20, 0, 72, 80, 89, 16, 20, 20, 0, 74, 80, 89, 16, 21]
abbrev dktX6_init_7 : List UInt8 := dkwX6_init_7 ++ dktX6_init_8
def dkwX6_init_6 : List UInt8 := [80, 89, 16, 15, 20, 0, 64, 80, 89, 16, 16, 20, 0, 66, 80, 89, 16, 17, 20, 0, 68, 80, 89]
abbrev dktX6_init_6 : List UInt8 := dkwX6_init_6 ++ dktX6_init_7
def dkwX6_init_5 : List UInt8 := [20, 0, 56, 80, 89, 16, 12, 20, 0, 58, 80, 89, 16, 13, 20, 0, 60, 80, 89, 16, 14, 20, 0, 62]
abbrev dktX6_init_5 : List UInt8 := dkwX6_init_5 ++ dktX6_init_6
def dkwX6_init_4 : List UInt8 := [89, 16, 8, 20, 0, 50, 80, 89, 16, 9, 20, 0, 52, 80, 89, 16, 10, 20, 0, 54, 80, 89, 16, 11]
abbrev dktX6_init_4 : List UInt8 := dkwX6_init_4 ++ dktX6_init_5
def dkwX6_init_3 : List UInt8 := [20, 0, 42, 80, 89, 8, 20, 0, 44, 80, 89, 16, 6, 20, 0, 46, 80, 89, 16, 7, 20, 0, 48, 80]
abbrev dktX6_init_3 : List UInt8 := dkwX6_init_3 ++ dktX6_init_4
def dkwX6_init_2 : List UInt8 := [20, 0, 34, 80, 89, 4, 20, 0, 36, 80, 89, 5, 20, 0, 38, 80, 89, 6, 20, 0, 40, 80, 89, 7]
abbrev dktX6_init_2 : List UInt8 := dkwX6_init_2 ++ dktX6_init_3
def dkwX6_init_1 : List UInt8 := [17, 3, 234, 188, 10, 181, 0, 27, 42, 17, 3, 234, 188, 11, 181, 0, 30, 42, 16, 26, 188, 11, 89, 3]
abbrev dktX6_init_1 : List UInt8 := dkwX6_init_1 ++ dktX6_init_2
def dkwX6_init_0 : List UInt8 := [42, 183, 0, 18, 42, 17, 3, 232, 188, 10, 181, 0, 14, 42, 17, 3, 234, 188, 10, 181, 0, 24, 42]
abbrev dktX6_init_0 : List UInt8 := dkwX6_init_0 ++ dktX6_init_1
theorem dksX6_init_0 : cX6_init.data.toList.drop 0 = dktX6_init_0 := by decide +kernel
theorem dksX6_init_1 : cX6_init.data.toList.drop 23 = dktX6_init_1 := dk_seg dksX6_init_0 23 rfl rfl
theorem dksX6_init_2 : cX6_init.data.toList.drop 47 = dktX6_init_2 := dk_seg dksX6_init_1 24 rfl rfl
theorem dksX6_init_3 : cX6_init.data.toList.drop 71 = dktX6_init_3 := dk_seg dksX6_init_2 24 rfl rfl
theorem dksX6_init_4 : cX6_init.data.toList.drop 95 = dktX6_init_4 := dk_seg dksX6_init_3 24 rfl rfl
theorem dksX6_init_5 : cX6_init.data.toList.drop 119 = dktX6_init_5 := dk_seg dksX6_init_4 24 rfl rfl
theorem dksX6_init_6 : cX6_init.data.toList.drop 143 = dktX6_init_6 := dk_seg dksX6_init_5 24 rfl rfl
theorem dksX6_init_7 : cX6_init.data.toList.drop 166 = dktX6_init_7 := dk_seg dksX6_init_6 23 rfl rfl
theorem dksX6_init_8 : cX6_init.data.toList.drop 189 = dktX6_init_8 := dk_seg dksX6_init_7 23 rfl rfl
theorem dksX6_init_9 : cX6_init.data.toList.drop 213 = dktX6_init_9 := dk_seg dksX6_init_8 24 rfl rfl
theorem dksX6_init_10 : cX6_init.data.toList.drop 236 = dktX6_init_10 := dk_seg dksX6_init_9 23 rfl rfl
theorem dksX6_init_11 : cX6_init.data.toList.drop 259 = dktX6_init_11 := dk_seg dksX6_init_10 23 rfl rfl
theorem dksX6_init_12 : cX6_init.data.toList.drop 283 = dktX6_init_12 := dk_seg dksX6_init_11 24 rfl rfl
theorem dksX6_init_13 : cX6_init.data.toList.drop 307 = dktX6_init_13 := dk_seg dksX6_init_12 24 rfl rfl
theorem dksX6_init_14 : cX6_init.data.toList.drop 329 = dktX6_init_14 := dk_seg dksX6_init_13 22 rfl rfl
theorem dX6_init_0 : decode cX6_init 0 = .ok (.aload_n 0, 1) := dk_42 (dk_at dksX6_init_0 0 rfl rfl)
theorem dX6_init_1 : decode cX6_init 1 = .ok (.invokespecial 18, 3) := dk_183 0 18 (dk_at dksX6_init_0 1 rfl rfl)
theorem dX6_init_4 : decode cX6_init 4 = .ok (.aload_n 0, 1) := dk_42 (dk_at dksX6_init_0 4 rfl rfl)
theorem dX6_init_5 : decode cX6_init 5 = .ok (.sipush 1000, 3) := dk_17 3 232 (dk_at dksX6_init_0 5 rfl rfl)
theorem dX6_init_8 : decode cX6_init 8 = .ok (.newarray .int, 2) := dk_188_10 (dk_at dksX6_init_0 8 rfl rfl)
theorem dX6_init_10 : decode cX6_init 10 = .ok (.putfield 14, 3) := dk_181 0 14 (dk_at dksX6_init_0 10 rfl rfl)
theorem dX6_init_13 : decode cX6_init 13 = .ok (.aload_n 0, 1) := dk_42 (dk_at dksX6_init_0 13 rfl rfl)
theorem dX6_init_14 : decode cX6_init 14 = .ok (.sipush 1002, 3) := dk_17 3 234 (dk_at dksX6_init_0 14 rfl rfl)
theorem dX6_init_17 : decode cX6_init 17 = .ok (.newarray .int, 2) := dk_188_10 (dk_at dksX6_init_0 17 rfl rfl)
theorem dX6_init_19 : decode cX6_init 19 = .ok (.putfield 24, 3) := dk_181 0 24 (dk_at dksX6_init_0 19 rfl rfl)
theorem dX6_init_22 : decode cX6_init 22 = .ok (.aload_n 0, 1) := dk_42 (dk_at dksX6_init_0 22 rfl rfl)
theorem dX6_init_23 : decode cX6_init 23 = .ok (.sipush 1002, 3) := dk_17 3 234 (dk_at dksX6_init_1 0 rfl rfl)
theorem dX6_init_26 : decode cX6_init 26 = .ok (.newarray .int, 2) := dk_188_10 (dk_at dksX6_init_1 3 rfl rfl)
theorem dX6_init_28 : decode cX6_init 28 = .ok (.putfield 27, 3) := dk_181 0 27 (dk_at dksX6_init_1 5 rfl rfl)
theorem dX6_init_31 : decode cX6_init 31 = .ok (.aload_n 0, 1) := dk_42 (dk_at dksX6_init_1 8 rfl rfl)
theorem dX6_init_32 : decode cX6_init 32 = .ok (.sipush 1002, 3) := dk_17 3 234 (dk_at dksX6_init_1 9 rfl rfl)
theorem dX6_init_35 : decode cX6_init 35 = .ok (.newarray .long, 2) := dk_188_11 (dk_at dksX6_init_1 12 rfl rfl)
theorem dX6_init_37 : decode cX6_init 37 = .ok (.putfield 30, 3) := dk_181 0 30 (dk_at dksX6_init_1 14 rfl rfl)
theorem dX6_init_40 : decode cX6_init 40 = .ok (.aload_n 0, 1) := dk_42 (dk_at dksX6_init_1 17 rfl rfl)
theorem dX6_init_41 : decode cX6_init 41 = .ok (.bipush 26, 2) := dk_16 26 (dk_at dksX6_init_1 18 rfl rfl)
theorem dX6_init_43 : decode cX6_init 43 = .ok (.newarray .long, 2) := dk_188_11 (dk_at dksX6_init_1 20 rfl rfl)
theorem dX6_init_45 : decode cX6_init 45 = .ok (.dup, 1) := dk_89 (dk_at dksX6_init_1 22 rfl rfl)
theorem dX6_init_46 : decode cX6_init 46 = .ok (.iconst 0, 1) := dk_3 (dk_at dksX6_init_1 23 rfl rfl)
theorem dX6_init_47 : decode cX6_init 47 = .ok (.ldc2_w 34, 3) := dk_20 0 34 (dk_at dksX6_init_2 0 rfl rfl)
theorem dX6_init_50 : decode cX6_init 50 = .ok (.lastore, 1) := dk_80 (dk_at dksX6_init_2 3 rfl rfl)
theorem dX6_init_51 : decode cX6_init 51 = .ok (.dup, 1) := dk_89 (dk_at dksX6_init_2 4 rfl rfl)
theorem dX6_init_52 : decode cX6_init 52 = .ok (.iconst 1, 1) := dk_4 (dk_at dksX6_init_2 5 rfl rfl)
theorem dX6_init_53 : decode cX6_init 53 = .ok (.ldc2_w 36, 3) := dk_20 0 36 (dk_at dksX6_init_2 6 rfl rfl)
theorem dX6_init_56 : decode cX6_init 56 = .ok (.lastore, 1) := dk_80 (dk_at dksX6_init_2 9 rfl rfl)
theorem dX6_init_57 : decode cX6_init 57 = .ok (.dup, 1) := dk_89 (dk_at dksX6_init_2 10 rfl rfl)
theorem dX6_init_58 : decode cX6_init 58 = .ok (.iconst 2, 1) := dk_5 (dk_at dksX6_init_2 11 rfl rfl)
theorem dX6_init_59 : decode cX6_init 59 = .ok (.ldc2_w 38, 3) := dk_20 0 38 (dk_at dksX6_init_2 12 rfl rfl)
theorem dX6_init_62 : decode cX6_init 62 = .ok (.lastore, 1) := dk_80 (dk_at dksX6_init_2 15 rfl rfl)
theorem dX6_init_63 : decode cX6_init 63 = .ok (.dup, 1) := dk_89 (dk_at dksX6_init_2 16 rfl rfl)
theorem dX6_init_64 : decode cX6_init 64 = .ok (.iconst 3, 1) := dk_6 (dk_at dksX6_init_2 17 rfl rfl)
theorem dX6_init_65 : decode cX6_init 65 = .ok (.ldc2_w 40, 3) := dk_20 0 40 (dk_at dksX6_init_2 18 rfl rfl)
theorem dX6_init_68 : decode cX6_init 68 = .ok (.lastore, 1) := dk_80 (dk_at dksX6_init_2 21 rfl rfl)
theorem dX6_init_69 : decode cX6_init 69 = .ok (.dup, 1) := dk_89 (dk_at dksX6_init_2 22 rfl rfl)
theorem dX6_init_70 : decode cX6_init 70 = .ok (.iconst 4, 1) := dk_7 (dk_at dksX6_init_2 23 rfl rfl)
theorem dX6_init_71 : decode cX6_init 71 = .ok (.ldc2_w 42, 3) := dk_20 0 42 (dk_at dksX6_init_3 0 rfl rfl)
theorem dX6_init_74 : decode cX6_init 74 = .ok (.lastore, 1) := dk_80 (dk_at dksX6_init_3 3 rfl rfl)
theorem dX6_init_75 : decode cX6_init 75 = .ok (.dup, 1) := dk_89 (dk_at dksX6_init_3 4 rfl rfl)
theorem dX6_init_76 : decode cX6_init 76 = .ok (.iconst 5, 1) := dk_8 (dk_at dksX6_init_3 5 rfl rfl)
theorem dX6_init_77 : decode cX6_init 77 = .ok (.ldc2_w 44, 3) := dk_20 0 44 (dk_at dksX6_init_3 6 rfl rfl)
theorem dX6_init_80 : decode cX6_init 80 = .ok (.lastore, 1) := dk_80 (dk_at dksX6_init_3 9 rfl rfl)
theorem dX6_init_81 : decode cX6_init 81 = .ok (.dup, 1) := dk_89 (dk_at dksX6_init_3 10 rfl rfl)
theorem dX6_init_82 : decode cX6_init 82 = .ok (.bipush 6, 2) := dk_16 6 (dk_at dksX6_init_3 11 rfl rfl)
theorem dX6_init_84 : decode cX6_init 84 = .ok (.ldc2_w 46, 3) := dk_20 0 46 (dk_at dksX6_init_3 13 rfl rfl)
theorem dX6_init_87 : decode cX6_init 87 = .ok (.lastore, 1) := dk_80 (dk_at dksX6_init_3 16 rfl rfl)
theorem dX6_init_88 : decode cX6_init 88 = .ok (.dup, 1) := dk_89 (dk_at dksX6_init_3 17 rfl rfl)
theorem dX6_init_89 : decode cX6_init 89 = .ok (.bipush 7, 2) := dk_16 7 (dk_at dksX6_init_3 18 rfl rfl)
theorem dX6_init_91 : decode cX6_init 91 = .ok (.ldc2_w 48, 3) := dk_20 0 48 (dk_at dksX6_init_3 20 rfl rfl)
theorem dX6_init_94 : decode cX6_init 94 = .ok (.lastore, 1) := dk_80 (dk_at dksX6_init_3 23 rfl rfl)
theorem dX6_init_95 : decode cX6_init 95 = .ok (.dup, 1) := dk_89 (dk_at dksX6_init_4 0 rfl rfl)
theorem dX6_init_96 : decode cX6_init 96 = .ok (.bipush 8, 2) := dk_16 8 (dk_at dksX6_init_4 1 rfl rfl)
theorem dX6_init_98 : decode cX6_init 98 = .ok (.ldc2_w 50, 3) := dk_20 0 50 (dk_at dksX6_init_4 3 rfl rfl)
theorem dX6_init_101 : decode cX6_init 101 = .ok (.lastore, 1) := dk_80 (dk_at dksX6_init_4 6 rfl rfl)
theorem dX6_init_102 : decode cX6_init 102 = .ok (.dup, 1) := dk_89 (dk_at dksX6_init_4 7 rfl rfl)
theorem dX6_init_103 : decode cX6_init 103 = .ok (.bipush 9, 2) := dk_16 9 (dk_at dksX6_init_4 8 rfl rfl)
theorem dX6_init_105 : decode cX6_init 105 = .ok (.ldc2_w 52, 3) := dk_20 0 52 (dk_at dksX6_init_4 10 rfl rfl)
theorem dX6_init_108 : decode cX6_init 108 = .ok (.lastore, 1) := dk_80 (dk_at dksX6_init_4 13 rfl rfl)
theorem dX6_init_109 : decode cX6_init 109 = .ok (.dup, 1) := dk_89 (dk_at dksX6_init_4 14 rfl rfl)
theorem dX6_init_110 : decode cX6_init 110 = .ok (.bipush 10, 2) := dk_16 10 (dk_at dksX6_init_4 15 rfl rfl)
theorem dX6_init_112 : decode cX6_init 112 = .ok (.ldc2_w 54, 3) := dk_20 0 54 (dk_at dksX6_init_4 17 rfl rfl)
theorem dX6_init_115 : decode cX6_init 115 = .ok (.lastore, 1) := dk_80 (dk_at dksX6_init_4 20 rfl rfl)
theorem dX6_init_116 : decode cX6_init 116 = .ok (.dup, 1) := dk_89 (dk_at dksX6_init_4 21 rfl rfl)
theorem dX6_init_117 : decode cX6_init 117 = .ok (.bipush 11, 2) := dk_16 11 (dk_at dksX6_init_4 22 rfl rfl)
theorem dX6_init_119 : decode cX6_init 119 = .ok (.ldc2_w 56, 3) := dk_20 0 56 (dk_at dksX6_init_5 0 rfl rfl)
theorem dX6_init_122 : decode cX6_init 122 = .ok (.lastore, 1) := dk_80 (dk_at dksX6_init_5 3 rfl rfl)
theorem dX6_init_123 : decode cX6_init 123 = .ok (.dup, 1) := dk_89 (dk_at dksX6_init_5 4 rfl rfl)
theorem dX6_init_124 : decode cX6_init 124 = .ok (.bipush 12, 2) := dk_16 12 (dk_at dksX6_init_5 5 rfl rfl)
theorem dX6_init_126 : decode cX6_init 126 = .ok (.ldc2_w 58, 3) := dk_20 0 58 (dk_at dksX6_init_5 7 rfl rfl)
theorem dX6_init_129 : decode cX6_init 129 = .ok (.lastore, 1) := dk_80 (dk_at dksX6_init_5 10 rfl rfl)
theorem dX6_init_130 : decode cX6_init 130 = .ok (.dup, 1) := dk_89 (dk_at dksX6_init_5 11 rfl rfl)
theorem dX6_init_131 : decode cX6_init 131 = .ok (.bipush 13, 2) := dk_16 13 (dk_at dksX6_init_5 12 rfl rfl)
theorem dX6_init_133 : decode cX6_init 133 = .ok (.ldc2_w 60, 3) := dk_20 0 60 (dk_at dksX6_init_5 14 rfl rfl)
theorem dX6_init_136 : decode cX6_init 136 = .ok (.lastore, 1) := dk_80 (dk_at dksX6_init_5 17 rfl rfl)
theorem dX6_init_137 : decode cX6_init 137 = .ok (.dup, 1) := dk_89 (dk_at dksX6_init_5 18 rfl rfl)
theorem dX6_init_138 : decode cX6_init 138 = .ok (.bipush 14, 2) := dk_16 14 (dk_at dksX6_init_5 19 rfl rfl)
theorem dX6_init_140 : decode cX6_init 140 = .ok (.ldc2_w 62, 3) := dk_20 0 62 (dk_at dksX6_init_5 21 rfl rfl)
theorem dX6_init_143 : decode cX6_init 143 = .ok (.lastore, 1) := dk_80 (dk_at dksX6_init_6 0 rfl rfl)
theorem dX6_init_144 : decode cX6_init 144 = .ok (.dup, 1) := dk_89 (dk_at dksX6_init_6 1 rfl rfl)
theorem dX6_init_145 : decode cX6_init 145 = .ok (.bipush 15, 2) := dk_16 15 (dk_at dksX6_init_6 2 rfl rfl)
theorem dX6_init_147 : decode cX6_init 147 = .ok (.ldc2_w 64, 3) := dk_20 0 64 (dk_at dksX6_init_6 4 rfl rfl)
theorem dX6_init_150 : decode cX6_init 150 = .ok (.lastore, 1) := dk_80 (dk_at dksX6_init_6 7 rfl rfl)
theorem dX6_init_151 : decode cX6_init 151 = .ok (.dup, 1) := dk_89 (dk_at dksX6_init_6 8 rfl rfl)
theorem dX6_init_152 : decode cX6_init 152 = .ok (.bipush 16, 2) := dk_16 16 (dk_at dksX6_init_6 9 rfl rfl)
theorem dX6_init_154 : decode cX6_init 154 = .ok (.ldc2_w 66, 3) := dk_20 0 66 (dk_at dksX6_init_6 11 rfl rfl)
theorem dX6_init_157 : decode cX6_init 157 = .ok (.lastore, 1) := dk_80 (dk_at dksX6_init_6 14 rfl rfl)
theorem dX6_init_158 : decode cX6_init 158 = .ok (.dup, 1) := dk_89 (dk_at dksX6_init_6 15 rfl rfl)
theorem dX6_init_159 : decode cX6_init 159 = .ok (.bipush 17, 2) := dk_16 17 (dk_at dksX6_init_6 16 rfl rfl)
theorem dX6_init_161 : decode cX6_init 161 = .ok (.ldc2_w 68, 3) := dk_20 0 68 (dk_at dksX6_init_6 18 rfl rfl)
theorem dX6_init_164 : decode cX6_init 164 = .ok (.lastore, 1) := dk_80 (dk_at dksX6_init_6 21 rfl rfl)
theorem dX6_init_165 : decode cX6_init 165 = .ok (.dup, 1) := dk_89 (dk_at dksX6_init_6 22 rfl rfl)
theorem dX6_init_166 : decode cX6_init 166 = .ok (.bipush 18, 2) := dk_16 18 (dk_at dksX6_init_7 0 rfl rfl)
theorem dX6_init_168 : decode cX6_init 168 = .ok (.ldc2_w 70, 3) := dk_20 0 70 (dk_at dksX6_init_7 2 rfl rfl)
theorem dX6_init_171 : decode cX6_init 171 = .ok (.lastore, 1) := dk_80 (dk_at dksX6_init_7 5 rfl rfl)
theorem dX6_init_172 : decode cX6_init 172 = .ok (.dup, 1) := dk_89 (dk_at dksX6_init_7 6 rfl rfl)
theorem dX6_init_173 : decode cX6_init 173 = .ok (.bipush 19, 2) := dk_16 19 (dk_at dksX6_init_7 7 rfl rfl)
theorem dX6_init_175 : decode cX6_init 175 = .ok (.ldc2_w 72, 3) := dk_20 0 72 (dk_at dksX6_init_7 9 rfl rfl)
theorem dX6_init_178 : decode cX6_init 178 = .ok (.lastore, 1) := dk_80 (dk_at dksX6_init_7 12 rfl rfl)
theorem dX6_init_179 : decode cX6_init 179 = .ok (.dup, 1) := dk_89 (dk_at dksX6_init_7 13 rfl rfl)
theorem dX6_init_180 : decode cX6_init 180 = .ok (.bipush 20, 2) := dk_16 20 (dk_at dksX6_init_7 14 rfl rfl)
theorem dX6_init_182 : decode cX6_init 182 = .ok (.ldc2_w 74, 3) := dk_20 0 74 (dk_at dksX6_init_7 16 rfl rfl)
theorem dX6_init_185 : decode cX6_init 185 = .ok (.lastore, 1) := dk_80 (dk_at dksX6_init_7 19 rfl rfl)
theorem dX6_init_186 : decode cX6_init 186 = .ok (.dup, 1) := dk_89 (dk_at dksX6_init_7 20 rfl rfl)
theorem dX6_init_187 : decode cX6_init 187 = .ok (.bipush 21, 2) := dk_16 21 (dk_at dksX6_init_7 21 rfl rfl)
theorem dX6_init_189 : decode cX6_init 189 = .ok (.ldc2_w 76, 3) := dk_20 0 76 (dk_at dksX6_init_8 0 rfl rfl)
theorem dX6_init_192 : decode cX6_init 192 = .ok (.lastore, 1) := dk_80 (dk_at dksX6_init_8 3 rfl rfl)
theorem dX6_init_193 : decode cX6_init 193 = .ok (.dup, 1) := dk_89 (dk_at dksX6_init_8 4 rfl rfl)
theorem dX6_init_194 : decode cX6_init 194 = .ok (.bipush 22, 2) := dk_16 22 (dk_at dksX6_init_8 5 rfl rfl)
theorem dX6_init_196 : decode cX6_init 196 = .ok (.ldc2_w 78, 3) := dk_20 0 78 (dk_at dksX6_init_8 7 rfl rfl)
theorem dX6_init_199 : decode cX6_init 199 = .ok (.lastore, 1) := dk_80 (dk_at dksX6_init_8 10 rfl rfl)
theorem dX6_init_200 : decode cX6_init 200 = .ok (.dup, 1) := dk_89 (dk_at dksX6_init_8 11 rfl rfl)
theorem dX6_init_201 : decode cX6_init 201 = .ok (.bipush 23, 2) := dk_16 23 (dk_at dksX6_init_8 12 rfl rfl)
theorem dX6_init_203 : decode cX6_init 203 = .ok (.ldc2_w 80, 3) := dk_20 0 80 (dk_at dksX6_init_8 14 rfl rfl)
theorem dX6_init_206 : decode cX6_init 206 = .ok (.lastore, 1) := dk_80 (dk_at dksX6_init_8 17 rfl rfl)
theorem dX6_init_207 : decode cX6_init 207 = .ok (.dup, 1) := dk_89 (dk_at dksX6_init_8 18 rfl rfl)
theorem dX6_init_208 : decode cX6_init 208 = .ok (.bipush 24, 2) := dk_16 24 (dk_at dksX6_init_8 19 rfl rfl)
theorem dX6_init_210 : decode cX6_init 210 = .ok (.ldc2_w 82, 3) := dk_20 0 82 (dk_at dksX6_init_8 21 rfl rfl)
theorem dX6_init_213 : decode cX6_init 213 = .ok (.lastore, 1) := dk_80 (dk_at dksX6_init_9 0 rfl rfl)
theorem dX6_init_214 : decode cX6_init 214 = .ok (.dup, 1) := dk_89 (dk_at dksX6_init_9 1 rfl rfl)
theorem dX6_init_215 : decode cX6_init 215 = .ok (.bipush 25, 2) := dk_16 25 (dk_at dksX6_init_9 2 rfl rfl)
theorem dX6_init_217 : decode cX6_init 217 = .ok (.ldc2_w 84, 3) := dk_20 0 84 (dk_at dksX6_init_9 4 rfl rfl)
theorem dX6_init_220 : decode cX6_init 220 = .ok (.lastore, 1) := dk_80 (dk_at dksX6_init_9 7 rfl rfl)
theorem dX6_init_221 : decode cX6_init 221 = .ok (.putfield 86, 3) := dk_181 0 86 (dk_at dksX6_init_9 8 rfl rfl)
theorem dX6_init_224 : decode cX6_init 224 = .ok (.aload_n 0, 1) := dk_42 (dk_at dksX6_init_9 11 rfl rfl)
theorem dX6_init_225 : decode cX6_init 225 = .ok (.bipush 120, 2) := dk_16 120 (dk_at dksX6_init_9 12 rfl rfl)
theorem dX6_init_227 : decode cX6_init 227 = .ok (.newarray .int, 2) := dk_188_10 (dk_at dksX6_init_9 14 rfl rfl)
theorem dX6_init_229 : decode cX6_init 229 = .ok (.putfield 89, 3) := dk_181 0 89 (dk_at dksX6_init_9 16 rfl rfl)
theorem dX6_init_232 : decode cX6_init 232 = .ok (.aload_n 0, 1) := dk_42 (dk_at dksX6_init_9 19 rfl rfl)
theorem dX6_init_233 : decode cX6_init 233 = .ok (.sipush 2200, 3) := dk_17 8 152 (dk_at dksX6_init_9 20 rfl rfl)
theorem dX6_init_236 : decode cX6_init 236 = .ok (.newarray .int, 2) := dk_188_10 (dk_at dksX6_init_10 0 rfl rfl)
theorem dX6_init_238 : decode cX6_init 238 = .ok (.putfield 92, 3) := dk_181 0 92 (dk_at dksX6_init_10 2 rfl rfl)
theorem dX6_init_241 : decode cX6_init 241 = .ok (.aload_n 0, 1) := dk_42 (dk_at dksX6_init_10 5 rfl rfl)
theorem dX6_init_242 : decode cX6_init 242 = .ok (.sipush 2200, 3) := dk_17 8 152 (dk_at dksX6_init_10 6 rfl rfl)
theorem dX6_init_245 : decode cX6_init 245 = .ok (.newarray .int, 2) := dk_188_10 (dk_at dksX6_init_10 9 rfl rfl)
theorem dX6_init_247 : decode cX6_init 247 = .ok (.putfield 95, 3) := dk_181 0 95 (dk_at dksX6_init_10 11 rfl rfl)
theorem dX6_init_250 : decode cX6_init 250 = .ok (.aload_n 0, 1) := dk_42 (dk_at dksX6_init_10 14 rfl rfl)
theorem dX6_init_251 : decode cX6_init 251 = .ok (.bipush 16, 2) := dk_16 16 (dk_at dksX6_init_10 15 rfl rfl)
theorem dX6_init_253 : decode cX6_init 253 = .ok (.newarray .long, 2) := dk_188_11 (dk_at dksX6_init_10 17 rfl rfl)
theorem dX6_init_255 : decode cX6_init 255 = .ok (.putfield 98, 3) := dk_181 0 98 (dk_at dksX6_init_10 19 rfl rfl)
theorem dX6_init_258 : decode cX6_init 258 = .ok (.aload_n 0, 1) := dk_42 (dk_at dksX6_init_10 22 rfl rfl)
theorem dX6_init_259 : decode cX6_init 259 = .ok (.bipush 16, 2) := dk_16 16 (dk_at dksX6_init_11 0 rfl rfl)
theorem dX6_init_261 : decode cX6_init 261 = .ok (.newarray .long, 2) := dk_188_11 (dk_at dksX6_init_11 2 rfl rfl)
theorem dX6_init_263 : decode cX6_init 263 = .ok (.putfield 101, 3) := dk_181 0 101 (dk_at dksX6_init_11 4 rfl rfl)
theorem dX6_init_266 : decode cX6_init 266 = .ok (.aload_n 0, 1) := dk_42 (dk_at dksX6_init_11 7 rfl rfl)
theorem dX6_init_267 : decode cX6_init 267 = .ok (.bipush 16, 2) := dk_16 16 (dk_at dksX6_init_11 8 rfl rfl)
theorem dX6_init_269 : decode cX6_init 269 = .ok (.newarray .int, 2) := dk_188_10 (dk_at dksX6_init_11 10 rfl rfl)
theorem dX6_init_271 : decode cX6_init 271 = .ok (.putfield 104, 3) := dk_181 0 104 (dk_at dksX6_init_11 12 rfl rfl)
theorem dX6_init_274 : decode cX6_init 274 = .ok (.aload_n 0, 1) := dk_42 (dk_at dksX6_init_11 15 rfl rfl)
theorem dX6_init_275 : decode cX6_init 275 = .ok (.bipush 16, 2) := dk_16 16 (dk_at dksX6_init_11 16 rfl rfl)
theorem dX6_init_277 : decode cX6_init 277 = .ok (.newarray .int, 2) := dk_188_10 (dk_at dksX6_init_11 18 rfl rfl)
theorem dX6_init_279 : decode cX6_init 279 = .ok (.putfield 107, 3) := dk_181 0 107 (dk_at dksX6_init_11 20 rfl rfl)
theorem dX6_init_282 : decode cX6_init 282 = .ok (.aload_n 0, 1) := dk_42 (dk_at dksX6_init_11 23 rfl rfl)
theorem dX6_init_283 : decode cX6_init 283 = .ok (.sipush 250, 3) := dk_17 0 250 (dk_at dksX6_init_12 0 rfl rfl)
theorem dX6_init_286 : decode cX6_init 286 = .ok (.newarray .int, 2) := dk_188_10 (dk_at dksX6_init_12 3 rfl rfl)
theorem dX6_init_288 : decode cX6_init 288 = .ok (.putfield 110, 3) := dk_181 0 110 (dk_at dksX6_init_12 5 rfl rfl)
theorem dX6_init_291 : decode cX6_init 291 = .ok (.aload_n 0, 1) := dk_42 (dk_at dksX6_init_12 8 rfl rfl)
theorem dX6_init_292 : decode cX6_init 292 = .ok (.iconst 4, 1) := dk_7 (dk_at dksX6_init_12 9 rfl rfl)
theorem dX6_init_293 : decode cX6_init 293 = .ok (.newarray .int, 2) := dk_188_10 (dk_at dksX6_init_12 10 rfl rfl)
theorem dX6_init_295 : decode cX6_init 295 = .ok (.putfield 113, 3) := dk_181 0 113 (dk_at dksX6_init_12 12 rfl rfl)
theorem dX6_init_298 : decode cX6_init 298 = .ok (.aload_n 0, 1) := dk_42 (dk_at dksX6_init_12 15 rfl rfl)
theorem dX6_init_299 : decode cX6_init 299 = .ok (.sipush 1100, 3) := dk_17 4 76 (dk_at dksX6_init_12 16 rfl rfl)
theorem dX6_init_302 : decode cX6_init 302 = .ok (.newarray .int, 2) := dk_188_10 (dk_at dksX6_init_12 19 rfl rfl)
theorem dX6_init_304 : decode cX6_init 304 = .ok (.putfield 116, 3) := dk_181 0 116 (dk_at dksX6_init_12 21 rfl rfl)
theorem dX6_init_307 : decode cX6_init 307 = .ok (.aload_n 0, 1) := dk_42 (dk_at dksX6_init_13 0 rfl rfl)
theorem dX6_init_308 : decode cX6_init 308 = .ok (.sipush 1518, 3) := dk_17 5 238 (dk_at dksX6_init_13 1 rfl rfl)
theorem dX6_init_311 : decode cX6_init 311 = .ok (.newarray .int, 2) := dk_188_10 (dk_at dksX6_init_13 4 rfl rfl)
theorem dX6_init_313 : decode cX6_init 313 = .ok (.putfield 119, 3) := dk_181 0 119 (dk_at dksX6_init_13 6 rfl rfl)
theorem dX6_init_316 : decode cX6_init 316 = .ok (.aload_n 0, 1) := dk_42 (dk_at dksX6_init_13 9 rfl rfl)
theorem dX6_init_317 : decode cX6_init 317 = .ok (.iconst 4, 1) := dk_7 (dk_at dksX6_init_13 10 rfl rfl)
theorem dX6_init_318 : decode cX6_init 318 = .ok (.newarray .boolean, 2) := dk_188_4 (dk_at dksX6_init_13 11 rfl rfl)
theorem dX6_init_320 : decode cX6_init 320 = .ok (.putfield 122, 3) := dk_181 0 122 (dk_at dksX6_init_13 13 rfl rfl)
theorem dX6_init_323 : decode cX6_init 323 = .ok (.aload_n 0, 1) := dk_42 (dk_at dksX6_init_13 16 rfl rfl)
theorem dX6_init_324 : decode cX6_init 324 = .ok (.iconst 0, 1) := dk_3 (dk_at dksX6_init_13 17 rfl rfl)
theorem dX6_init_325 : decode cX6_init 325 = .ok (.invokevirtual 126, 3) := dk_182 0 126 (dk_at dksX6_init_13 18 rfl rfl)
theorem dX6_init_328 : decode cX6_init 328 = .ok (.aload_n 0, 1) := dk_42 (dk_at dksX6_init_13 21 rfl rfl)
theorem dX6_init_329 : decode cX6_init 329 = .ok (.invokevirtual 130, 3) := dk_182 0 130 (dk_at dksX6_init_14 0 rfl rfl)
theorem dX6_init_332 : decode cX6_init 332 = .ok (.return_, 1) := dk_177 (dk_at dksX6_init_14 3 rfl rfl)
abbrev cX6_standsAsAlways : ByteArray := prog_24_method_18_code
def yX6_standsAsAlways : MethodName := ⟨RX6, "standsAsAlways", "(I)V"⟩
def dkwX6_standsAsAlways_2 : List UInt8 := [96, 2, 79, 177]
abbrev dktX6_standsAsAlways_2 : List UInt8 := dkwX6_standsAsAlways_2 ++ []
def dkwX6_standsAsAlways_1 : List UInt8 := [180, 0, 89, 27, 6, 96, 4, 79, 42, 180, 0, 89, 27, 16, 33, 96, 4, 79, 42, 180, 0, 89, 27, 7]
abbrev dktX6_standsAsAlways_1 : List UInt8 := dkwX6_standsAsAlways_1 ++ dktX6_standsAsAlways_2
def dkwX6_standsAsAlways_0 : List UInt8 := [3, 61, 28, 16, 60, 162, 0, 18, 42, 180, 0, 89, 27, 28, 96, 3, 79, 132, 2, 1, 167, 255, 238, 42]
abbrev dktX6_standsAsAlways_0 : List UInt8 := dkwX6_standsAsAlways_0 ++ dktX6_standsAsAlways_1
theorem dksX6_standsAsAlways_0 : cX6_standsAsAlways.data.toList.drop 0 = dktX6_standsAsAlways_0 := by decide +kernel
theorem dksX6_standsAsAlways_1 : cX6_standsAsAlways.data.toList.drop 24 = dktX6_standsAsAlways_1 := dk_seg dksX6_standsAsAlways_0 24 rfl rfl
theorem dksX6_standsAsAlways_2 : cX6_standsAsAlways.data.toList.drop 48 = dktX6_standsAsAlways_2 := dk_seg dksX6_standsAsAlways_1 24 rfl rfl
theorem dX6_standsAsAlways_0 : decode cX6_standsAsAlways 0 = .ok (.iconst 0, 1) := dk_3 (dk_at dksX6_standsAsAlways_0 0 rfl rfl)
theorem dX6_standsAsAlways_1 : decode cX6_standsAsAlways 1 = .ok (.istore_n 2, 1) := dk_61 (dk_at dksX6_standsAsAlways_0 1 rfl rfl)
theorem dX6_standsAsAlways_2 : decode cX6_standsAsAlways 2 = .ok (.iload_n 2, 1) := dk_28 (dk_at dksX6_standsAsAlways_0 2 rfl rfl)
theorem dX6_standsAsAlways_3 : decode cX6_standsAsAlways 3 = .ok (.bipush 60, 2) := dk_16 60 (dk_at dksX6_standsAsAlways_0 3 rfl rfl)
theorem dX6_standsAsAlways_5 : decode cX6_standsAsAlways 5 = .ok (.if_icmp .ge 18, 3) := dk_162 0 18 (dk_at dksX6_standsAsAlways_0 5 rfl rfl)
theorem dX6_standsAsAlways_8 : decode cX6_standsAsAlways 8 = .ok (.aload_n 0, 1) := dk_42 (dk_at dksX6_standsAsAlways_0 8 rfl rfl)
theorem dX6_standsAsAlways_9 : decode cX6_standsAsAlways 9 = .ok (.getfield 89, 3) := dk_180 0 89 (dk_at dksX6_standsAsAlways_0 9 rfl rfl)
theorem dX6_standsAsAlways_12 : decode cX6_standsAsAlways 12 = .ok (.iload_n 1, 1) := dk_27 (dk_at dksX6_standsAsAlways_0 12 rfl rfl)
theorem dX6_standsAsAlways_13 : decode cX6_standsAsAlways 13 = .ok (.iload_n 2, 1) := dk_28 (dk_at dksX6_standsAsAlways_0 13 rfl rfl)
theorem dX6_standsAsAlways_14 : decode cX6_standsAsAlways 14 = .ok (.iadd, 1) := dk_96 (dk_at dksX6_standsAsAlways_0 14 rfl rfl)
theorem dX6_standsAsAlways_15 : decode cX6_standsAsAlways 15 = .ok (.iconst 0, 1) := dk_3 (dk_at dksX6_standsAsAlways_0 15 rfl rfl)
theorem dX6_standsAsAlways_16 : decode cX6_standsAsAlways 16 = .ok (.iastore, 1) := dk_79 (dk_at dksX6_standsAsAlways_0 16 rfl rfl)
theorem dX6_standsAsAlways_17 : decode cX6_standsAsAlways 17 = .ok (.iinc 2 1, 3) := dk_132 2 1 (dk_at dksX6_standsAsAlways_0 17 rfl rfl)
theorem dX6_standsAsAlways_20 : decode cX6_standsAsAlways 20 = .ok (.goto (-18), 3) := dk_167 255 238 (dk_at dksX6_standsAsAlways_0 20 rfl rfl)
theorem dX6_standsAsAlways_23 : decode cX6_standsAsAlways 23 = .ok (.aload_n 0, 1) := dk_42 (dk_at dksX6_standsAsAlways_0 23 rfl rfl)
theorem dX6_standsAsAlways_24 : decode cX6_standsAsAlways 24 = .ok (.getfield 89, 3) := dk_180 0 89 (dk_at dksX6_standsAsAlways_1 0 rfl rfl)
theorem dX6_standsAsAlways_27 : decode cX6_standsAsAlways 27 = .ok (.iload_n 1, 1) := dk_27 (dk_at dksX6_standsAsAlways_1 3 rfl rfl)
theorem dX6_standsAsAlways_28 : decode cX6_standsAsAlways 28 = .ok (.iconst 3, 1) := dk_6 (dk_at dksX6_standsAsAlways_1 4 rfl rfl)
theorem dX6_standsAsAlways_29 : decode cX6_standsAsAlways 29 = .ok (.iadd, 1) := dk_96 (dk_at dksX6_standsAsAlways_1 5 rfl rfl)
theorem dX6_standsAsAlways_30 : decode cX6_standsAsAlways 30 = .ok (.iconst 1, 1) := dk_4 (dk_at dksX6_standsAsAlways_1 6 rfl rfl)
theorem dX6_standsAsAlways_31 : decode cX6_standsAsAlways 31 = .ok (.iastore, 1) := dk_79 (dk_at dksX6_standsAsAlways_1 7 rfl rfl)
theorem dX6_standsAsAlways_32 : decode cX6_standsAsAlways 32 = .ok (.aload_n 0, 1) := dk_42 (dk_at dksX6_standsAsAlways_1 8 rfl rfl)
theorem dX6_standsAsAlways_33 : decode cX6_standsAsAlways 33 = .ok (.getfield 89, 3) := dk_180 0 89 (dk_at dksX6_standsAsAlways_1 9 rfl rfl)
theorem dX6_standsAsAlways_36 : decode cX6_standsAsAlways 36 = .ok (.iload_n 1, 1) := dk_27 (dk_at dksX6_standsAsAlways_1 12 rfl rfl)
theorem dX6_standsAsAlways_37 : decode cX6_standsAsAlways 37 = .ok (.bipush 33, 2) := dk_16 33 (dk_at dksX6_standsAsAlways_1 13 rfl rfl)
theorem dX6_standsAsAlways_39 : decode cX6_standsAsAlways 39 = .ok (.iadd, 1) := dk_96 (dk_at dksX6_standsAsAlways_1 15 rfl rfl)
theorem dX6_standsAsAlways_40 : decode cX6_standsAsAlways 40 = .ok (.iconst 1, 1) := dk_4 (dk_at dksX6_standsAsAlways_1 16 rfl rfl)
theorem dX6_standsAsAlways_41 : decode cX6_standsAsAlways 41 = .ok (.iastore, 1) := dk_79 (dk_at dksX6_standsAsAlways_1 17 rfl rfl)
theorem dX6_standsAsAlways_42 : decode cX6_standsAsAlways 42 = .ok (.aload_n 0, 1) := dk_42 (dk_at dksX6_standsAsAlways_1 18 rfl rfl)
theorem dX6_standsAsAlways_43 : decode cX6_standsAsAlways 43 = .ok (.getfield 89, 3) := dk_180 0 89 (dk_at dksX6_standsAsAlways_1 19 rfl rfl)
theorem dX6_standsAsAlways_46 : decode cX6_standsAsAlways 46 = .ok (.iload_n 1, 1) := dk_27 (dk_at dksX6_standsAsAlways_1 22 rfl rfl)
theorem dX6_standsAsAlways_47 : decode cX6_standsAsAlways 47 = .ok (.iconst 4, 1) := dk_7 (dk_at dksX6_standsAsAlways_1 23 rfl rfl)
theorem dX6_standsAsAlways_48 : decode cX6_standsAsAlways 48 = .ok (.iadd, 1) := dk_96 (dk_at dksX6_standsAsAlways_2 0 rfl rfl)
theorem dX6_standsAsAlways_49 : decode cX6_standsAsAlways 49 = .ok (.iconst (-1), 1) := dk_2 (dk_at dksX6_standsAsAlways_2 1 rfl rfl)
theorem dX6_standsAsAlways_50 : decode cX6_standsAsAlways 50 = .ok (.iastore, 1) := dk_79 (dk_at dksX6_standsAsAlways_2 2 rfl rfl)
theorem dX6_standsAsAlways_51 : decode cX6_standsAsAlways 51 = .ok (.return_, 1) := dk_177 (dk_at dksX6_standsAsAlways_2 3 rfl rfl)
abbrev cX6_begins : ByteArray := prog_24_method_43_code
def yX6_begins : MethodName := ⟨RX6, "begins", "()V"⟩
def dkwX6_begins_2 : List UInt8 := [162, 0, 16, 42, 180, 0, 122, 27, 3, 84, 132, 1, 1, 167, 255, 241, 177]
abbrev dktX6_begins_2 : List UInt8 := dkwX6_begins_2 ++ []
def dkwX6_begins_1 : List UInt8 := [132, 1, 1, 167, 255, 237, 42, 180, 0, 110, 3, 3, 79, 42, 3, 181, 1, 16, 3, 60, 27, 7]
abbrev dktX6_begins_1 : List UInt8 := dkwX6_begins_1 ++ dktX6_begins_2
def dkwX6_begins_0 : List UInt8 := [42, 3, 182, 1, 13, 3, 60, 27, 16, 6, 162, 0, 19, 42, 180, 0, 119, 16, 60, 27, 96, 2, 79]
abbrev dktX6_begins_0 : List UInt8 := dkwX6_begins_0 ++ dktX6_begins_1
theorem dksX6_begins_0 : cX6_begins.data.toList.drop 0 = dktX6_begins_0 := by decide +kernel
theorem dksX6_begins_1 : cX6_begins.data.toList.drop 23 = dktX6_begins_1 := dk_seg dksX6_begins_0 23 rfl rfl
theorem dksX6_begins_2 : cX6_begins.data.toList.drop 45 = dktX6_begins_2 := dk_seg dksX6_begins_1 22 rfl rfl
theorem dX6_begins_0 : decode cX6_begins 0 = .ok (.aload_n 0, 1) := dk_42 (dk_at dksX6_begins_0 0 rfl rfl)
theorem dX6_begins_1 : decode cX6_begins 1 = .ok (.iconst 0, 1) := dk_3 (dk_at dksX6_begins_0 1 rfl rfl)
theorem dX6_begins_2 : decode cX6_begins 2 = .ok (.invokevirtual 269, 3) := dk_182 1 13 (dk_at dksX6_begins_0 2 rfl rfl)
theorem dX6_begins_5 : decode cX6_begins 5 = .ok (.iconst 0, 1) := dk_3 (dk_at dksX6_begins_0 5 rfl rfl)
theorem dX6_begins_6 : decode cX6_begins 6 = .ok (.istore_n 1, 1) := dk_60 (dk_at dksX6_begins_0 6 rfl rfl)
theorem dX6_begins_7 : decode cX6_begins 7 = .ok (.iload_n 1, 1) := dk_27 (dk_at dksX6_begins_0 7 rfl rfl)
theorem dX6_begins_8 : decode cX6_begins 8 = .ok (.bipush 6, 2) := dk_16 6 (dk_at dksX6_begins_0 8 rfl rfl)
theorem dX6_begins_10 : decode cX6_begins 10 = .ok (.if_icmp .ge 19, 3) := dk_162 0 19 (dk_at dksX6_begins_0 10 rfl rfl)
theorem dX6_begins_13 : decode cX6_begins 13 = .ok (.aload_n 0, 1) := dk_42 (dk_at dksX6_begins_0 13 rfl rfl)
theorem dX6_begins_14 : decode cX6_begins 14 = .ok (.getfield 119, 3) := dk_180 0 119 (dk_at dksX6_begins_0 14 rfl rfl)
theorem dX6_begins_17 : decode cX6_begins 17 = .ok (.bipush 60, 2) := dk_16 60 (dk_at dksX6_begins_0 17 rfl rfl)
theorem dX6_begins_19 : decode cX6_begins 19 = .ok (.iload_n 1, 1) := dk_27 (dk_at dksX6_begins_0 19 rfl rfl)
theorem dX6_begins_20 : decode cX6_begins 20 = .ok (.iadd, 1) := dk_96 (dk_at dksX6_begins_0 20 rfl rfl)
theorem dX6_begins_21 : decode cX6_begins 21 = .ok (.iconst (-1), 1) := dk_2 (dk_at dksX6_begins_0 21 rfl rfl)
theorem dX6_begins_22 : decode cX6_begins 22 = .ok (.iastore, 1) := dk_79 (dk_at dksX6_begins_0 22 rfl rfl)
theorem dX6_begins_23 : decode cX6_begins 23 = .ok (.iinc 1 1, 3) := dk_132 1 1 (dk_at dksX6_begins_1 0 rfl rfl)
theorem dX6_begins_26 : decode cX6_begins 26 = .ok (.goto (-19), 3) := dk_167 255 237 (dk_at dksX6_begins_1 3 rfl rfl)
theorem dX6_begins_29 : decode cX6_begins 29 = .ok (.aload_n 0, 1) := dk_42 (dk_at dksX6_begins_1 6 rfl rfl)
theorem dX6_begins_30 : decode cX6_begins 30 = .ok (.getfield 110, 3) := dk_180 0 110 (dk_at dksX6_begins_1 7 rfl rfl)
theorem dX6_begins_33 : decode cX6_begins 33 = .ok (.iconst 0, 1) := dk_3 (dk_at dksX6_begins_1 10 rfl rfl)
theorem dX6_begins_34 : decode cX6_begins 34 = .ok (.iconst 0, 1) := dk_3 (dk_at dksX6_begins_1 11 rfl rfl)
theorem dX6_begins_35 : decode cX6_begins 35 = .ok (.iastore, 1) := dk_79 (dk_at dksX6_begins_1 12 rfl rfl)
theorem dX6_begins_36 : decode cX6_begins 36 = .ok (.aload_n 0, 1) := dk_42 (dk_at dksX6_begins_1 13 rfl rfl)
theorem dX6_begins_37 : decode cX6_begins 37 = .ok (.iconst 0, 1) := dk_3 (dk_at dksX6_begins_1 14 rfl rfl)
theorem dX6_begins_38 : decode cX6_begins 38 = .ok (.putfield 272, 3) := dk_181 1 16 (dk_at dksX6_begins_1 15 rfl rfl)
theorem dX6_begins_41 : decode cX6_begins 41 = .ok (.iconst 0, 1) := dk_3 (dk_at dksX6_begins_1 18 rfl rfl)
theorem dX6_begins_42 : decode cX6_begins 42 = .ok (.istore_n 1, 1) := dk_60 (dk_at dksX6_begins_1 19 rfl rfl)
theorem dX6_begins_43 : decode cX6_begins 43 = .ok (.iload_n 1, 1) := dk_27 (dk_at dksX6_begins_1 20 rfl rfl)
theorem dX6_begins_44 : decode cX6_begins 44 = .ok (.iconst 4, 1) := dk_7 (dk_at dksX6_begins_1 21 rfl rfl)
theorem dX6_begins_45 : decode cX6_begins 45 = .ok (.if_icmp .ge 16, 3) := dk_162 0 16 (dk_at dksX6_begins_2 0 rfl rfl)
theorem dX6_begins_48 : decode cX6_begins 48 = .ok (.aload_n 0, 1) := dk_42 (dk_at dksX6_begins_2 3 rfl rfl)
theorem dX6_begins_49 : decode cX6_begins 49 = .ok (.getfield 122, 3) := dk_180 0 122 (dk_at dksX6_begins_2 4 rfl rfl)
theorem dX6_begins_52 : decode cX6_begins 52 = .ok (.iload_n 1, 1) := dk_27 (dk_at dksX6_begins_2 7 rfl rfl)
theorem dX6_begins_53 : decode cX6_begins 53 = .ok (.iconst 0, 1) := dk_3 (dk_at dksX6_begins_2 8 rfl rfl)
theorem dX6_begins_54 : decode cX6_begins 54 = .ok (.bastore, 1) := dk_84 (dk_at dksX6_begins_2 9 rfl rfl)
theorem dX6_begins_55 : decode cX6_begins 55 = .ok (.iinc 1 1, 3) := dk_132 1 1 (dk_at dksX6_begins_2 10 rfl rfl)
theorem dX6_begins_58 : decode cX6_begins 58 = .ok (.goto (-15), 3) := dk_167 255 241 (dk_at dksX6_begins_2 13 rfl rfl)
theorem dX6_begins_61 : decode cX6_begins 61 = .ok (.return_, 1) := dk_177 (dk_at dksX6_begins_2 16 rfl rfl)
abbrev cX6_starts : ByteArray := prog_24_method_42_code
def yX6_starts : MethodName := ⟨RX6, "starts", "(I)V"⟩
def dkwX6_starts_2 : List UInt8 := [28, 96, 46, 79, 132, 2, 1, 167, 255, 226, 177]
abbrev dktX6_starts_2 : List UInt8 := dkwX6_starts_2 ++ []
def dkwX6_starts_1 : List UInt8 := [61, 28, 42, 182, 1, 9, 162, 0, 28, 42, 180, 0, 119, 27, 4, 96, 28, 96, 42, 180, 0, 89, 16, 23]
abbrev dktX6_starts_1 : List UInt8 := dkwX6_starts_1 ++ dktX6_starts_2
def dkwX6_starts_0 : List UInt8 := [3, 61, 28, 16, 60, 162, 0, 18, 42, 180, 0, 119, 27, 28, 96, 3, 79, 132, 2, 1, 167, 255, 238, 3]
abbrev dktX6_starts_0 : List UInt8 := dkwX6_starts_0 ++ dktX6_starts_1
theorem dksX6_starts_0 : cX6_starts.data.toList.drop 0 = dktX6_starts_0 := by decide +kernel
theorem dksX6_starts_1 : cX6_starts.data.toList.drop 24 = dktX6_starts_1 := dk_seg dksX6_starts_0 24 rfl rfl
theorem dksX6_starts_2 : cX6_starts.data.toList.drop 48 = dktX6_starts_2 := dk_seg dksX6_starts_1 24 rfl rfl
theorem dX6_starts_0 : decode cX6_starts 0 = .ok (.iconst 0, 1) := dk_3 (dk_at dksX6_starts_0 0 rfl rfl)
theorem dX6_starts_1 : decode cX6_starts 1 = .ok (.istore_n 2, 1) := dk_61 (dk_at dksX6_starts_0 1 rfl rfl)
theorem dX6_starts_2 : decode cX6_starts 2 = .ok (.iload_n 2, 1) := dk_28 (dk_at dksX6_starts_0 2 rfl rfl)
theorem dX6_starts_3 : decode cX6_starts 3 = .ok (.bipush 60, 2) := dk_16 60 (dk_at dksX6_starts_0 3 rfl rfl)
theorem dX6_starts_5 : decode cX6_starts 5 = .ok (.if_icmp .ge 18, 3) := dk_162 0 18 (dk_at dksX6_starts_0 5 rfl rfl)
theorem dX6_starts_8 : decode cX6_starts 8 = .ok (.aload_n 0, 1) := dk_42 (dk_at dksX6_starts_0 8 rfl rfl)
theorem dX6_starts_9 : decode cX6_starts 9 = .ok (.getfield 119, 3) := dk_180 0 119 (dk_at dksX6_starts_0 9 rfl rfl)
theorem dX6_starts_12 : decode cX6_starts 12 = .ok (.iload_n 1, 1) := dk_27 (dk_at dksX6_starts_0 12 rfl rfl)
theorem dX6_starts_13 : decode cX6_starts 13 = .ok (.iload_n 2, 1) := dk_28 (dk_at dksX6_starts_0 13 rfl rfl)
theorem dX6_starts_14 : decode cX6_starts 14 = .ok (.iadd, 1) := dk_96 (dk_at dksX6_starts_0 14 rfl rfl)
theorem dX6_starts_15 : decode cX6_starts 15 = .ok (.iconst 0, 1) := dk_3 (dk_at dksX6_starts_0 15 rfl rfl)
theorem dX6_starts_16 : decode cX6_starts 16 = .ok (.iastore, 1) := dk_79 (dk_at dksX6_starts_0 16 rfl rfl)
theorem dX6_starts_17 : decode cX6_starts 17 = .ok (.iinc 2 1, 3) := dk_132 2 1 (dk_at dksX6_starts_0 17 rfl rfl)
theorem dX6_starts_20 : decode cX6_starts 20 = .ok (.goto (-18), 3) := dk_167 255 238 (dk_at dksX6_starts_0 20 rfl rfl)
theorem dX6_starts_23 : decode cX6_starts 23 = .ok (.iconst 0, 1) := dk_3 (dk_at dksX6_starts_0 23 rfl rfl)
theorem dX6_starts_24 : decode cX6_starts 24 = .ok (.istore_n 2, 1) := dk_61 (dk_at dksX6_starts_1 0 rfl rfl)
theorem dX6_starts_25 : decode cX6_starts 25 = .ok (.iload_n 2, 1) := dk_28 (dk_at dksX6_starts_1 1 rfl rfl)
theorem dX6_starts_26 : decode cX6_starts 26 = .ok (.aload_n 0, 1) := dk_42 (dk_at dksX6_starts_1 2 rfl rfl)
theorem dX6_starts_27 : decode cX6_starts 27 = .ok (.invokevirtual 265, 3) := dk_182 1 9 (dk_at dksX6_starts_1 3 rfl rfl)
theorem dX6_starts_30 : decode cX6_starts 30 = .ok (.if_icmp .ge 28, 3) := dk_162 0 28 (dk_at dksX6_starts_1 6 rfl rfl)
theorem dX6_starts_33 : decode cX6_starts 33 = .ok (.aload_n 0, 1) := dk_42 (dk_at dksX6_starts_1 9 rfl rfl)
theorem dX6_starts_34 : decode cX6_starts 34 = .ok (.getfield 119, 3) := dk_180 0 119 (dk_at dksX6_starts_1 10 rfl rfl)
theorem dX6_starts_37 : decode cX6_starts 37 = .ok (.iload_n 1, 1) := dk_27 (dk_at dksX6_starts_1 13 rfl rfl)
theorem dX6_starts_38 : decode cX6_starts 38 = .ok (.iconst 1, 1) := dk_4 (dk_at dksX6_starts_1 14 rfl rfl)
theorem dX6_starts_39 : decode cX6_starts 39 = .ok (.iadd, 1) := dk_96 (dk_at dksX6_starts_1 15 rfl rfl)
theorem dX6_starts_40 : decode cX6_starts 40 = .ok (.iload_n 2, 1) := dk_28 (dk_at dksX6_starts_1 16 rfl rfl)
theorem dX6_starts_41 : decode cX6_starts 41 = .ok (.iadd, 1) := dk_96 (dk_at dksX6_starts_1 17 rfl rfl)
theorem dX6_starts_42 : decode cX6_starts 42 = .ok (.aload_n 0, 1) := dk_42 (dk_at dksX6_starts_1 18 rfl rfl)
theorem dX6_starts_43 : decode cX6_starts 43 = .ok (.getfield 89, 3) := dk_180 0 89 (dk_at dksX6_starts_1 19 rfl rfl)
theorem dX6_starts_46 : decode cX6_starts 46 = .ok (.bipush 23, 2) := dk_16 23 (dk_at dksX6_starts_1 22 rfl rfl)
theorem dX6_starts_48 : decode cX6_starts 48 = .ok (.iload_n 2, 1) := dk_28 (dk_at dksX6_starts_2 0 rfl rfl)
theorem dX6_starts_49 : decode cX6_starts 49 = .ok (.iadd, 1) := dk_96 (dk_at dksX6_starts_2 1 rfl rfl)
theorem dX6_starts_50 : decode cX6_starts 50 = .ok (.iaload, 1) := dk_46 (dk_at dksX6_starts_2 2 rfl rfl)
theorem dX6_starts_51 : decode cX6_starts 51 = .ok (.iastore, 1) := dk_79 (dk_at dksX6_starts_2 3 rfl rfl)
theorem dX6_starts_52 : decode cX6_starts 52 = .ok (.iinc 2 1, 3) := dk_132 2 1 (dk_at dksX6_starts_2 4 rfl rfl)
theorem dX6_starts_55 : decode cX6_starts 55 = .ok (.goto (-30), 3) := dk_167 255 226 (dk_at dksX6_starts_2 7 rfl rfl)
theorem dX6_starts_58 : decode cX6_starts 58 = .ok (.return_, 1) := dk_177 (dk_at dksX6_starts_2 10 rfl rfl)
abbrev cX6_people : ByteArray := prog_24_method_46_code
def yX6_people : MethodName := ⟨RX6, "people", "()I"⟩
def dkwX6_people_0 : List UInt8 := [42, 180, 0, 89, 4, 46, 172]
abbrev dktX6_people_0 : List UInt8 := dkwX6_people_0 ++ []
theorem dksX6_people_0 : cX6_people.data.toList.drop 0 = dktX6_people_0 := by decide +kernel
theorem dX6_people_0 : decode cX6_people 0 = .ok (.aload_n 0, 1) := dk_42 (dk_at dksX6_people_0 0 rfl rfl)
theorem dX6_people_1 : decode cX6_people 1 = .ok (.getfield 89, 3) := dk_180 0 89 (dk_at dksX6_people_0 1 rfl rfl)
theorem dX6_people_4 : decode cX6_people 4 = .ok (.iconst 1, 1) := dk_4 (dk_at dksX6_people_0 4 rfl rfl)
theorem dX6_people_5 : decode cX6_people 5 = .ok (.iaload, 1) := dk_46 (dk_at dksX6_people_0 5 rfl rfl)
theorem dX6_people_6 : decode cX6_people 6 = .ok (.ireturn, 1) := dk_172 (dk_at dksX6_people_0 6 rfl rfl)
abbrev cX6_street : ByteArray := prog_24_method_26_code
def yX6_street : MethodName := ⟨RX6, "street", "()I"⟩
def dkwX6_street_8 : List UInt8 := [167, 255, 221, 42, 42, 180, 0, 184, 181, 0, 187, 42, 182, 0, 130, 3, 172]
abbrev dktX6_street_8 : List UInt8 := dkwX6_street_8 ++ []
def dkwX6_street_7 : List UInt8 := [42, 180, 0, 101, 27, 47, 80, 42, 180, 0, 104, 27, 42, 180, 0, 107, 27, 46, 79, 132, 1, 1]
abbrev dktX6_street_7 : List UInt8 := dkwX6_street_7 ++ dktX6_street_8
def dkwX6_street_6 : List UInt8 := [96, 46, 79, 132, 1, 1, 167, 255, 213, 3, 60, 27, 42, 180, 0, 184, 162, 0, 33, 42, 180, 0, 98, 27]
abbrev dktX6_street_6 : List UInt8 := dkwX6_street_6 ++ dktX6_street_7
def dkwX6_street_5 : List UInt8 := [42, 180, 0, 92, 17, 4, 76, 27, 96, 46, 79, 42, 180, 0, 95, 27, 42, 180, 0, 95, 17, 4, 76, 27]
abbrev dktX6_street_5 : List UInt8 := dkwX6_street_5 ++ dktX6_street_6
def dkwX6_street_4 : List UInt8 := [96, 46, 79, 132, 1, 1, 167, 255, 232, 3, 60, 27, 42, 180, 0, 205, 162, 0, 41, 42, 180, 0, 92, 27]
abbrev dktX6_street_4 : List UInt8 := dkwX6_street_4 ++ dktX6_street_5
def dkwX6_street_3 : List UInt8 := [180, 0, 159, 172, 3, 60, 27, 16, 60, 162, 0, 24, 42, 180, 0, 89, 27, 42, 180, 0, 89, 16, 60, 27]
abbrev dktX6_street_3 : List UInt8 := dkwX6_street_3 ++ dktX6_street_4
def dkwX6_street_2 : List UInt8 := [153, 0, 16, 42, 182, 0, 211, 42, 16, 59, 182, 0, 214, 167, 255, 227, 42, 180, 0, 159, 158, 0, 8, 42]
abbrev dktX6_street_2 : List UInt8 := dkwX6_street_2 ++ dktX6_street_3
def dkwX6_street_1 : List UInt8 := [42, 16, 60, 182, 0, 126, 42, 180, 0, 159, 154, 0, 28, 42, 180, 0, 24, 42, 180, 0, 156, 46]
abbrev dktX6_street_1 : List UInt8 := dkwX6_street_1 ++ dktX6_street_2
def dkwX6_street_0 : List UInt8 := [42, 3, 181, 0, 1, 42, 182, 0, 202, 42, 3, 181, 0, 205, 42, 3, 181, 0, 184, 42, 3, 181, 0, 208]
abbrev dktX6_street_0 : List UInt8 := dkwX6_street_0 ++ dktX6_street_1
theorem dksX6_street_0 : cX6_street.data.toList.drop 0 = dktX6_street_0 := by decide +kernel
theorem dksX6_street_1 : cX6_street.data.toList.drop 24 = dktX6_street_1 := dk_seg dksX6_street_0 24 rfl rfl
theorem dksX6_street_2 : cX6_street.data.toList.drop 46 = dktX6_street_2 := dk_seg dksX6_street_1 22 rfl rfl
theorem dksX6_street_3 : cX6_street.data.toList.drop 70 = dktX6_street_3 := dk_seg dksX6_street_2 24 rfl rfl
theorem dksX6_street_4 : cX6_street.data.toList.drop 94 = dktX6_street_4 := dk_seg dksX6_street_3 24 rfl rfl
theorem dksX6_street_5 : cX6_street.data.toList.drop 118 = dktX6_street_5 := dk_seg dksX6_street_4 24 rfl rfl
theorem dksX6_street_6 : cX6_street.data.toList.drop 142 = dktX6_street_6 := dk_seg dksX6_street_5 24 rfl rfl
theorem dksX6_street_7 : cX6_street.data.toList.drop 166 = dktX6_street_7 := dk_seg dksX6_street_6 24 rfl rfl
theorem dksX6_street_8 : cX6_street.data.toList.drop 188 = dktX6_street_8 := dk_seg dksX6_street_7 22 rfl rfl
theorem dX6_street_0 : decode cX6_street 0 = .ok (.aload_n 0, 1) := dk_42 (dk_at dksX6_street_0 0 rfl rfl)
theorem dX6_street_1 : decode cX6_street 1 = .ok (.iconst 0, 1) := dk_3 (dk_at dksX6_street_0 1 rfl rfl)
theorem dX6_street_2 : decode cX6_street 2 = .ok (.putfield 1, 3) := dk_181 0 1 (dk_at dksX6_street_0 2 rfl rfl)
theorem dX6_street_5 : decode cX6_street 5 = .ok (.aload_n 0, 1) := dk_42 (dk_at dksX6_street_0 5 rfl rfl)
theorem dX6_street_6 : decode cX6_street 6 = .ok (.invokevirtual 202, 3) := dk_182 0 202 (dk_at dksX6_street_0 6 rfl rfl)
theorem dX6_street_9 : decode cX6_street 9 = .ok (.aload_n 0, 1) := dk_42 (dk_at dksX6_street_0 9 rfl rfl)
theorem dX6_street_10 : decode cX6_street 10 = .ok (.iconst 0, 1) := dk_3 (dk_at dksX6_street_0 10 rfl rfl)
theorem dX6_street_11 : decode cX6_street 11 = .ok (.putfield 205, 3) := dk_181 0 205 (dk_at dksX6_street_0 11 rfl rfl)
theorem dX6_street_14 : decode cX6_street 14 = .ok (.aload_n 0, 1) := dk_42 (dk_at dksX6_street_0 14 rfl rfl)
theorem dX6_street_15 : decode cX6_street 15 = .ok (.iconst 0, 1) := dk_3 (dk_at dksX6_street_0 15 rfl rfl)
theorem dX6_street_16 : decode cX6_street 16 = .ok (.putfield 184, 3) := dk_181 0 184 (dk_at dksX6_street_0 16 rfl rfl)
theorem dX6_street_19 : decode cX6_street 19 = .ok (.aload_n 0, 1) := dk_42 (dk_at dksX6_street_0 19 rfl rfl)
theorem dX6_street_20 : decode cX6_street 20 = .ok (.iconst 0, 1) := dk_3 (dk_at dksX6_street_0 20 rfl rfl)
theorem dX6_street_21 : decode cX6_street 21 = .ok (.putfield 208, 3) := dk_181 0 208 (dk_at dksX6_street_0 21 rfl rfl)
theorem dX6_street_24 : decode cX6_street 24 = .ok (.aload_n 0, 1) := dk_42 (dk_at dksX6_street_1 0 rfl rfl)
theorem dX6_street_25 : decode cX6_street 25 = .ok (.bipush 60, 2) := dk_16 60 (dk_at dksX6_street_1 1 rfl rfl)
theorem dX6_street_27 : decode cX6_street 27 = .ok (.invokevirtual 126, 3) := dk_182 0 126 (dk_at dksX6_street_1 3 rfl rfl)
theorem dX6_street_30 : decode cX6_street 30 = .ok (.aload_n 0, 1) := dk_42 (dk_at dksX6_street_1 6 rfl rfl)
theorem dX6_street_31 : decode cX6_street 31 = .ok (.getfield 159, 3) := dk_180 0 159 (dk_at dksX6_street_1 7 rfl rfl)
theorem dX6_street_34 : decode cX6_street 34 = .ok (.ifCond .ne 28, 3) := dk_154 0 28 (dk_at dksX6_street_1 10 rfl rfl)
theorem dX6_street_37 : decode cX6_street 37 = .ok (.aload_n 0, 1) := dk_42 (dk_at dksX6_street_1 13 rfl rfl)
theorem dX6_street_38 : decode cX6_street 38 = .ok (.getfield 24, 3) := dk_180 0 24 (dk_at dksX6_street_1 14 rfl rfl)
theorem dX6_street_41 : decode cX6_street 41 = .ok (.aload_n 0, 1) := dk_42 (dk_at dksX6_street_1 17 rfl rfl)
theorem dX6_street_42 : decode cX6_street 42 = .ok (.getfield 156, 3) := dk_180 0 156 (dk_at dksX6_street_1 18 rfl rfl)
theorem dX6_street_45 : decode cX6_street 45 = .ok (.iaload, 1) := dk_46 (dk_at dksX6_street_1 21 rfl rfl)
theorem dX6_street_46 : decode cX6_street 46 = .ok (.ifCond .eq 16, 3) := dk_153 0 16 (dk_at dksX6_street_2 0 rfl rfl)
theorem dX6_street_49 : decode cX6_street 49 = .ok (.aload_n 0, 1) := dk_42 (dk_at dksX6_street_2 3 rfl rfl)
theorem dX6_street_50 : decode cX6_street 50 = .ok (.invokevirtual 211, 3) := dk_182 0 211 (dk_at dksX6_street_2 4 rfl rfl)
theorem dX6_street_53 : decode cX6_street 53 = .ok (.aload_n 0, 1) := dk_42 (dk_at dksX6_street_2 7 rfl rfl)
theorem dX6_street_54 : decode cX6_street 54 = .ok (.bipush 59, 2) := dk_16 59 (dk_at dksX6_street_2 8 rfl rfl)
theorem dX6_street_56 : decode cX6_street 56 = .ok (.invokevirtual 214, 3) := dk_182 0 214 (dk_at dksX6_street_2 10 rfl rfl)
theorem dX6_street_59 : decode cX6_street 59 = .ok (.goto (-29), 3) := dk_167 255 227 (dk_at dksX6_street_2 13 rfl rfl)
theorem dX6_street_62 : decode cX6_street 62 = .ok (.aload_n 0, 1) := dk_42 (dk_at dksX6_street_2 16 rfl rfl)
theorem dX6_street_63 : decode cX6_street 63 = .ok (.getfield 159, 3) := dk_180 0 159 (dk_at dksX6_street_2 17 rfl rfl)
theorem dX6_street_66 : decode cX6_street 66 = .ok (.ifCond .le 8, 3) := dk_158 0 8 (dk_at dksX6_street_2 20 rfl rfl)
theorem dX6_street_69 : decode cX6_street 69 = .ok (.aload_n 0, 1) := dk_42 (dk_at dksX6_street_2 23 rfl rfl)
theorem dX6_street_70 : decode cX6_street 70 = .ok (.getfield 159, 3) := dk_180 0 159 (dk_at dksX6_street_3 0 rfl rfl)
theorem dX6_street_73 : decode cX6_street 73 = .ok (.ireturn, 1) := dk_172 (dk_at dksX6_street_3 3 rfl rfl)
theorem dX6_street_74 : decode cX6_street 74 = .ok (.iconst 0, 1) := dk_3 (dk_at dksX6_street_3 4 rfl rfl)
theorem dX6_street_75 : decode cX6_street 75 = .ok (.istore_n 1, 1) := dk_60 (dk_at dksX6_street_3 5 rfl rfl)
theorem dX6_street_76 : decode cX6_street 76 = .ok (.iload_n 1, 1) := dk_27 (dk_at dksX6_street_3 6 rfl rfl)
theorem dX6_street_77 : decode cX6_street 77 = .ok (.bipush 60, 2) := dk_16 60 (dk_at dksX6_street_3 7 rfl rfl)
theorem dX6_street_79 : decode cX6_street 79 = .ok (.if_icmp .ge 24, 3) := dk_162 0 24 (dk_at dksX6_street_3 9 rfl rfl)
theorem dX6_street_82 : decode cX6_street 82 = .ok (.aload_n 0, 1) := dk_42 (dk_at dksX6_street_3 12 rfl rfl)
theorem dX6_street_83 : decode cX6_street 83 = .ok (.getfield 89, 3) := dk_180 0 89 (dk_at dksX6_street_3 13 rfl rfl)
theorem dX6_street_86 : decode cX6_street 86 = .ok (.iload_n 1, 1) := dk_27 (dk_at dksX6_street_3 16 rfl rfl)
theorem dX6_street_87 : decode cX6_street 87 = .ok (.aload_n 0, 1) := dk_42 (dk_at dksX6_street_3 17 rfl rfl)
theorem dX6_street_88 : decode cX6_street 88 = .ok (.getfield 89, 3) := dk_180 0 89 (dk_at dksX6_street_3 18 rfl rfl)
theorem dX6_street_91 : decode cX6_street 91 = .ok (.bipush 60, 2) := dk_16 60 (dk_at dksX6_street_3 21 rfl rfl)
theorem dX6_street_93 : decode cX6_street 93 = .ok (.iload_n 1, 1) := dk_27 (dk_at dksX6_street_3 23 rfl rfl)
theorem dX6_street_94 : decode cX6_street 94 = .ok (.iadd, 1) := dk_96 (dk_at dksX6_street_4 0 rfl rfl)
theorem dX6_street_95 : decode cX6_street 95 = .ok (.iaload, 1) := dk_46 (dk_at dksX6_street_4 1 rfl rfl)
theorem dX6_street_96 : decode cX6_street 96 = .ok (.iastore, 1) := dk_79 (dk_at dksX6_street_4 2 rfl rfl)
theorem dX6_street_97 : decode cX6_street 97 = .ok (.iinc 1 1, 3) := dk_132 1 1 (dk_at dksX6_street_4 3 rfl rfl)
theorem dX6_street_100 : decode cX6_street 100 = .ok (.goto (-24), 3) := dk_167 255 232 (dk_at dksX6_street_4 6 rfl rfl)
theorem dX6_street_103 : decode cX6_street 103 = .ok (.iconst 0, 1) := dk_3 (dk_at dksX6_street_4 9 rfl rfl)
theorem dX6_street_104 : decode cX6_street 104 = .ok (.istore_n 1, 1) := dk_60 (dk_at dksX6_street_4 10 rfl rfl)
theorem dX6_street_105 : decode cX6_street 105 = .ok (.iload_n 1, 1) := dk_27 (dk_at dksX6_street_4 11 rfl rfl)
theorem dX6_street_106 : decode cX6_street 106 = .ok (.aload_n 0, 1) := dk_42 (dk_at dksX6_street_4 12 rfl rfl)
theorem dX6_street_107 : decode cX6_street 107 = .ok (.getfield 205, 3) := dk_180 0 205 (dk_at dksX6_street_4 13 rfl rfl)
theorem dX6_street_110 : decode cX6_street 110 = .ok (.if_icmp .ge 41, 3) := dk_162 0 41 (dk_at dksX6_street_4 16 rfl rfl)
theorem dX6_street_113 : decode cX6_street 113 = .ok (.aload_n 0, 1) := dk_42 (dk_at dksX6_street_4 19 rfl rfl)
theorem dX6_street_114 : decode cX6_street 114 = .ok (.getfield 92, 3) := dk_180 0 92 (dk_at dksX6_street_4 20 rfl rfl)
theorem dX6_street_117 : decode cX6_street 117 = .ok (.iload_n 1, 1) := dk_27 (dk_at dksX6_street_4 23 rfl rfl)
theorem dX6_street_118 : decode cX6_street 118 = .ok (.aload_n 0, 1) := dk_42 (dk_at dksX6_street_5 0 rfl rfl)
theorem dX6_street_119 : decode cX6_street 119 = .ok (.getfield 92, 3) := dk_180 0 92 (dk_at dksX6_street_5 1 rfl rfl)
theorem dX6_street_122 : decode cX6_street 122 = .ok (.sipush 1100, 3) := dk_17 4 76 (dk_at dksX6_street_5 4 rfl rfl)
theorem dX6_street_125 : decode cX6_street 125 = .ok (.iload_n 1, 1) := dk_27 (dk_at dksX6_street_5 7 rfl rfl)
theorem dX6_street_126 : decode cX6_street 126 = .ok (.iadd, 1) := dk_96 (dk_at dksX6_street_5 8 rfl rfl)
theorem dX6_street_127 : decode cX6_street 127 = .ok (.iaload, 1) := dk_46 (dk_at dksX6_street_5 9 rfl rfl)
theorem dX6_street_128 : decode cX6_street 128 = .ok (.iastore, 1) := dk_79 (dk_at dksX6_street_5 10 rfl rfl)
theorem dX6_street_129 : decode cX6_street 129 = .ok (.aload_n 0, 1) := dk_42 (dk_at dksX6_street_5 11 rfl rfl)
theorem dX6_street_130 : decode cX6_street 130 = .ok (.getfield 95, 3) := dk_180 0 95 (dk_at dksX6_street_5 12 rfl rfl)
theorem dX6_street_133 : decode cX6_street 133 = .ok (.iload_n 1, 1) := dk_27 (dk_at dksX6_street_5 15 rfl rfl)
theorem dX6_street_134 : decode cX6_street 134 = .ok (.aload_n 0, 1) := dk_42 (dk_at dksX6_street_5 16 rfl rfl)
theorem dX6_street_135 : decode cX6_street 135 = .ok (.getfield 95, 3) := dk_180 0 95 (dk_at dksX6_street_5 17 rfl rfl)
theorem dX6_street_138 : decode cX6_street 138 = .ok (.sipush 1100, 3) := dk_17 4 76 (dk_at dksX6_street_5 20 rfl rfl)
theorem dX6_street_141 : decode cX6_street 141 = .ok (.iload_n 1, 1) := dk_27 (dk_at dksX6_street_5 23 rfl rfl)
theorem dX6_street_142 : decode cX6_street 142 = .ok (.iadd, 1) := dk_96 (dk_at dksX6_street_6 0 rfl rfl)
theorem dX6_street_143 : decode cX6_street 143 = .ok (.iaload, 1) := dk_46 (dk_at dksX6_street_6 1 rfl rfl)
theorem dX6_street_144 : decode cX6_street 144 = .ok (.iastore, 1) := dk_79 (dk_at dksX6_street_6 2 rfl rfl)
theorem dX6_street_145 : decode cX6_street 145 = .ok (.iinc 1 1, 3) := dk_132 1 1 (dk_at dksX6_street_6 3 rfl rfl)
theorem dX6_street_148 : decode cX6_street 148 = .ok (.goto (-43), 3) := dk_167 255 213 (dk_at dksX6_street_6 6 rfl rfl)
theorem dX6_street_151 : decode cX6_street 151 = .ok (.iconst 0, 1) := dk_3 (dk_at dksX6_street_6 9 rfl rfl)
theorem dX6_street_152 : decode cX6_street 152 = .ok (.istore_n 1, 1) := dk_60 (dk_at dksX6_street_6 10 rfl rfl)
theorem dX6_street_153 : decode cX6_street 153 = .ok (.iload_n 1, 1) := dk_27 (dk_at dksX6_street_6 11 rfl rfl)
theorem dX6_street_154 : decode cX6_street 154 = .ok (.aload_n 0, 1) := dk_42 (dk_at dksX6_street_6 12 rfl rfl)
theorem dX6_street_155 : decode cX6_street 155 = .ok (.getfield 184, 3) := dk_180 0 184 (dk_at dksX6_street_6 13 rfl rfl)
theorem dX6_street_158 : decode cX6_street 158 = .ok (.if_icmp .ge 33, 3) := dk_162 0 33 (dk_at dksX6_street_6 16 rfl rfl)
theorem dX6_street_161 : decode cX6_street 161 = .ok (.aload_n 0, 1) := dk_42 (dk_at dksX6_street_6 19 rfl rfl)
theorem dX6_street_162 : decode cX6_street 162 = .ok (.getfield 98, 3) := dk_180 0 98 (dk_at dksX6_street_6 20 rfl rfl)
theorem dX6_street_165 : decode cX6_street 165 = .ok (.iload_n 1, 1) := dk_27 (dk_at dksX6_street_6 23 rfl rfl)
theorem dX6_street_166 : decode cX6_street 166 = .ok (.aload_n 0, 1) := dk_42 (dk_at dksX6_street_7 0 rfl rfl)
theorem dX6_street_167 : decode cX6_street 167 = .ok (.getfield 101, 3) := dk_180 0 101 (dk_at dksX6_street_7 1 rfl rfl)
theorem dX6_street_170 : decode cX6_street 170 = .ok (.iload_n 1, 1) := dk_27 (dk_at dksX6_street_7 4 rfl rfl)
theorem dX6_street_171 : decode cX6_street 171 = .ok (.laload, 1) := dk_47 (dk_at dksX6_street_7 5 rfl rfl)
theorem dX6_street_172 : decode cX6_street 172 = .ok (.lastore, 1) := dk_80 (dk_at dksX6_street_7 6 rfl rfl)
theorem dX6_street_173 : decode cX6_street 173 = .ok (.aload_n 0, 1) := dk_42 (dk_at dksX6_street_7 7 rfl rfl)
theorem dX6_street_174 : decode cX6_street 174 = .ok (.getfield 104, 3) := dk_180 0 104 (dk_at dksX6_street_7 8 rfl rfl)
theorem dX6_street_177 : decode cX6_street 177 = .ok (.iload_n 1, 1) := dk_27 (dk_at dksX6_street_7 11 rfl rfl)
theorem dX6_street_178 : decode cX6_street 178 = .ok (.aload_n 0, 1) := dk_42 (dk_at dksX6_street_7 12 rfl rfl)
theorem dX6_street_179 : decode cX6_street 179 = .ok (.getfield 107, 3) := dk_180 0 107 (dk_at dksX6_street_7 13 rfl rfl)
theorem dX6_street_182 : decode cX6_street 182 = .ok (.iload_n 1, 1) := dk_27 (dk_at dksX6_street_7 16 rfl rfl)
theorem dX6_street_183 : decode cX6_street 183 = .ok (.iaload, 1) := dk_46 (dk_at dksX6_street_7 17 rfl rfl)
theorem dX6_street_184 : decode cX6_street 184 = .ok (.iastore, 1) := dk_79 (dk_at dksX6_street_7 18 rfl rfl)
theorem dX6_street_185 : decode cX6_street 185 = .ok (.iinc 1 1, 3) := dk_132 1 1 (dk_at dksX6_street_7 19 rfl rfl)
theorem dX6_street_188 : decode cX6_street 188 = .ok (.goto (-35), 3) := dk_167 255 221 (dk_at dksX6_street_8 0 rfl rfl)
theorem dX6_street_191 : decode cX6_street 191 = .ok (.aload_n 0, 1) := dk_42 (dk_at dksX6_street_8 3 rfl rfl)
theorem dX6_street_192 : decode cX6_street 192 = .ok (.aload_n 0, 1) := dk_42 (dk_at dksX6_street_8 4 rfl rfl)
theorem dX6_street_193 : decode cX6_street 193 = .ok (.getfield 184, 3) := dk_180 0 184 (dk_at dksX6_street_8 5 rfl rfl)
theorem dX6_street_196 : decode cX6_street 196 = .ok (.putfield 187, 3) := dk_181 0 187 (dk_at dksX6_street_8 8 rfl rfl)
theorem dX6_street_199 : decode cX6_street 199 = .ok (.aload_n 0, 1) := dk_42 (dk_at dksX6_street_8 11 rfl rfl)
theorem dX6_street_200 : decode cX6_street 200 = .ok (.invokevirtual 130, 3) := dk_182 0 130 (dk_at dksX6_street_8 12 rfl rfl)
theorem dX6_street_203 : decode cX6_street 203 = .ok (.iconst 0, 1) := dk_3 (dk_at dksX6_street_8 15 rfl rfl)
theorem dX6_street_204 : decode cX6_street 204 = .ok (.ireturn, 1) := dk_172 (dk_at dksX6_street_8 16 rfl rfl)
abbrev cX6_cutAll : ByteArray := prog_24_method_9_code
def yX6_cutAll : MethodName := ⟨RX6, "cutAll", "()V"⟩
def dkwX6_cutAll_13 : List UInt8 := [181, 0, 159, 177]
abbrev dktX6_cutAll_13 : List UInt8 := dkwX6_cutAll_13 ++ []
def dkwX6_cutAll_12 : List UInt8 := [180, 0, 24, 27, 3, 79, 42, 180, 0, 27, 27, 42, 180, 0, 137, 79, 42, 3, 181, 0, 156, 42, 3]
abbrev dktX6_cutAll_12 : List UInt8 := dkwX6_cutAll_12 ++ dktX6_cutAll_13
def dkwX6_cutAll_11 : List UInt8 := [6, 167, 0, 4, 7, 79, 132, 2, 1, 42, 180, 0, 30, 27, 22, 5, 80, 132, 1, 1, 167, 254, 253, 42]
abbrev dktX6_cutAll_11 : List UInt8 := dkwX6_cutAll_11 ++ dktX6_cutAll_12
def dkwX6_cutAll_10 : List UInt8 := [167, 0, 4, 5, 79, 167, 0, 28, 29, 133, 55, 5, 42, 180, 0, 24, 27, 29, 184, 0, 153, 153, 0, 7]
abbrev dktX6_cutAll_10 : List UInt8 := dkwX6_cutAll_10 ++ dktX6_cutAll_11
def dkwX6_cutAll_9 : List UInt8 := [22, 5, 55, 5, 132, 2, 1, 167, 255, 200, 42, 180, 0, 24, 27, 28, 21, 4, 100, 7, 164, 0, 7, 7]
abbrev dktX6_cutAll_9 : List UInt8 := dkwX6_cutAll_9 ++ dktX6_cutAll_10
def dkwX6_cutAll_8 : List UInt8 := [162, 0, 24, 20, 0, 149, 22, 5, 105, 42, 180, 0, 14, 28, 46, 133, 97, 20, 0, 151, 101, 167, 0, 5]
abbrev dktX6_cutAll_8 : List UInt8 := dkwX6_cutAll_8 ++ dktX6_cutAll_9
def dkwX6_cutAll_7 : List UInt8 := [180, 0, 137, 162, 0, 54, 42, 180, 0, 14, 28, 46, 184, 0, 146, 153, 0, 42, 28, 21, 4, 100, 7]
abbrev dktX6_cutAll_7 : List UInt8 := dkwX6_cutAll_7 ++ dktX6_cutAll_8
def dkwX6_cutAll_6 : List UInt8 := [16, 8, 164, 0, 7, 7, 167, 0, 4, 4, 79, 167, 0, 116, 29, 184, 0, 146, 153, 0, 84, 28, 42]
abbrev dktX6_cutAll_6 : List UInt8 := dkwX6_cutAll_6 ++ dktX6_cutAll_7
def dkwX6_cutAll_5 : List UInt8 := [97, 167, 0, 5, 22, 5, 55, 5, 132, 2, 1, 167, 255, 200, 42, 180, 0, 24, 27, 28, 21, 4, 100]
abbrev dktX6_cutAll_5 : List UInt8 := dkwX6_cutAll_5 ++ dktX6_cutAll_6
def dkwX6_cutAll_4 : List UInt8 := [21, 4, 100, 16, 8, 162, 0, 23, 20, 0, 140, 22, 5, 105, 42, 180, 0, 14, 28, 46, 184, 0, 142, 133]
abbrev dktX6_cutAll_4 : List UInt8 := dkwX6_cutAll_4 ++ dktX6_cutAll_5
def dkwX6_cutAll_3 : List UInt8 := [153, 0, 85, 28, 42, 180, 0, 137, 162, 0, 54, 42, 180, 0, 14, 28, 46, 184, 0, 133, 153, 0, 42, 28]
abbrev dktX6_cutAll_3 : List UInt8 := dkwX6_cutAll_3 ++ dktX6_cutAll_4
def dkwX6_cutAll_2 : List UInt8 := [132, 2, 1, 167, 255, 226, 28, 54, 4, 9, 55, 5, 42, 180, 0, 27, 27, 28, 79, 29, 184, 0, 133]
abbrev dktX6_cutAll_2 : List UInt8 := dkwX6_cutAll_2 ++ dktX6_cutAll_3
def dkwX6_cutAll_1 : List UInt8 := [162, 1, 1, 42, 180, 0, 14, 28, 46, 62, 29, 16, 10, 159, 0, 9, 29, 16, 32, 160, 0, 9]
abbrev dktX6_cutAll_1 : List UInt8 := dkwX6_cutAll_1 ++ dktX6_cutAll_2
def dkwX6_cutAll_0 : List UInt8 := [42, 42, 180, 0, 11, 181, 0, 137, 42, 3, 181, 0, 11, 3, 60, 3, 61, 28, 42, 180, 0, 137]
abbrev dktX6_cutAll_0 : List UInt8 := dkwX6_cutAll_0 ++ dktX6_cutAll_1
theorem dksX6_cutAll_0 : cX6_cutAll.data.toList.drop 0 = dktX6_cutAll_0 := by decide +kernel
theorem dksX6_cutAll_1 : cX6_cutAll.data.toList.drop 22 = dktX6_cutAll_1 := dk_seg dksX6_cutAll_0 22 rfl rfl
theorem dksX6_cutAll_2 : cX6_cutAll.data.toList.drop 44 = dktX6_cutAll_2 := dk_seg dksX6_cutAll_1 22 rfl rfl
theorem dksX6_cutAll_3 : cX6_cutAll.data.toList.drop 67 = dktX6_cutAll_3 := dk_seg dksX6_cutAll_2 23 rfl rfl
theorem dksX6_cutAll_4 : cX6_cutAll.data.toList.drop 91 = dktX6_cutAll_4 := dk_seg dksX6_cutAll_3 24 rfl rfl
theorem dksX6_cutAll_5 : cX6_cutAll.data.toList.drop 115 = dktX6_cutAll_5 := dk_seg dksX6_cutAll_4 24 rfl rfl
theorem dksX6_cutAll_6 : cX6_cutAll.data.toList.drop 138 = dktX6_cutAll_6 := dk_seg dksX6_cutAll_5 23 rfl rfl
theorem dksX6_cutAll_7 : cX6_cutAll.data.toList.drop 161 = dktX6_cutAll_7 := dk_seg dksX6_cutAll_6 23 rfl rfl
theorem dksX6_cutAll_8 : cX6_cutAll.data.toList.drop 184 = dktX6_cutAll_8 := dk_seg dksX6_cutAll_7 23 rfl rfl
theorem dksX6_cutAll_9 : cX6_cutAll.data.toList.drop 208 = dktX6_cutAll_9 := dk_seg dksX6_cutAll_8 24 rfl rfl
theorem dksX6_cutAll_10 : cX6_cutAll.data.toList.drop 232 = dktX6_cutAll_10 := dk_seg dksX6_cutAll_9 24 rfl rfl
theorem dksX6_cutAll_11 : cX6_cutAll.data.toList.drop 256 = dktX6_cutAll_11 := dk_seg dksX6_cutAll_10 24 rfl rfl
theorem dksX6_cutAll_12 : cX6_cutAll.data.toList.drop 280 = dktX6_cutAll_12 := dk_seg dksX6_cutAll_11 24 rfl rfl
theorem dksX6_cutAll_13 : cX6_cutAll.data.toList.drop 303 = dktX6_cutAll_13 := dk_seg dksX6_cutAll_12 23 rfl rfl
theorem dX6_cutAll_0 : decode cX6_cutAll 0 = .ok (.aload_n 0, 1) := dk_42 (dk_at dksX6_cutAll_0 0 rfl rfl)
theorem dX6_cutAll_1 : decode cX6_cutAll 1 = .ok (.aload_n 0, 1) := dk_42 (dk_at dksX6_cutAll_0 1 rfl rfl)
theorem dX6_cutAll_2 : decode cX6_cutAll 2 = .ok (.getfield 11, 3) := dk_180 0 11 (dk_at dksX6_cutAll_0 2 rfl rfl)
theorem dX6_cutAll_5 : decode cX6_cutAll 5 = .ok (.putfield 137, 3) := dk_181 0 137 (dk_at dksX6_cutAll_0 5 rfl rfl)
theorem dX6_cutAll_8 : decode cX6_cutAll 8 = .ok (.aload_n 0, 1) := dk_42 (dk_at dksX6_cutAll_0 8 rfl rfl)
theorem dX6_cutAll_9 : decode cX6_cutAll 9 = .ok (.iconst 0, 1) := dk_3 (dk_at dksX6_cutAll_0 9 rfl rfl)
theorem dX6_cutAll_10 : decode cX6_cutAll 10 = .ok (.putfield 11, 3) := dk_181 0 11 (dk_at dksX6_cutAll_0 10 rfl rfl)
theorem dX6_cutAll_13 : decode cX6_cutAll 13 = .ok (.iconst 0, 1) := dk_3 (dk_at dksX6_cutAll_0 13 rfl rfl)
theorem dX6_cutAll_14 : decode cX6_cutAll 14 = .ok (.istore_n 1, 1) := dk_60 (dk_at dksX6_cutAll_0 14 rfl rfl)
theorem dX6_cutAll_15 : decode cX6_cutAll 15 = .ok (.iconst 0, 1) := dk_3 (dk_at dksX6_cutAll_0 15 rfl rfl)
theorem dX6_cutAll_16 : decode cX6_cutAll 16 = .ok (.istore_n 2, 1) := dk_61 (dk_at dksX6_cutAll_0 16 rfl rfl)
theorem dX6_cutAll_17 : decode cX6_cutAll 17 = .ok (.iload_n 2, 1) := dk_28 (dk_at dksX6_cutAll_0 17 rfl rfl)
theorem dX6_cutAll_18 : decode cX6_cutAll 18 = .ok (.aload_n 0, 1) := dk_42 (dk_at dksX6_cutAll_0 18 rfl rfl)
theorem dX6_cutAll_19 : decode cX6_cutAll 19 = .ok (.getfield 137, 3) := dk_180 0 137 (dk_at dksX6_cutAll_0 19 rfl rfl)
theorem dX6_cutAll_22 : decode cX6_cutAll 22 = .ok (.if_icmp .ge 257, 3) := dk_162 1 1 (dk_at dksX6_cutAll_1 0 rfl rfl)
theorem dX6_cutAll_25 : decode cX6_cutAll 25 = .ok (.aload_n 0, 1) := dk_42 (dk_at dksX6_cutAll_1 3 rfl rfl)
theorem dX6_cutAll_26 : decode cX6_cutAll 26 = .ok (.getfield 14, 3) := dk_180 0 14 (dk_at dksX6_cutAll_1 4 rfl rfl)
theorem dX6_cutAll_29 : decode cX6_cutAll 29 = .ok (.iload_n 2, 1) := dk_28 (dk_at dksX6_cutAll_1 7 rfl rfl)
theorem dX6_cutAll_30 : decode cX6_cutAll 30 = .ok (.iaload, 1) := dk_46 (dk_at dksX6_cutAll_1 8 rfl rfl)
theorem dX6_cutAll_31 : decode cX6_cutAll 31 = .ok (.istore_n 3, 1) := dk_62 (dk_at dksX6_cutAll_1 9 rfl rfl)
theorem dX6_cutAll_32 : decode cX6_cutAll 32 = .ok (.iload_n 3, 1) := dk_29 (dk_at dksX6_cutAll_1 10 rfl rfl)
theorem dX6_cutAll_33 : decode cX6_cutAll 33 = .ok (.bipush 10, 2) := dk_16 10 (dk_at dksX6_cutAll_1 11 rfl rfl)
theorem dX6_cutAll_35 : decode cX6_cutAll 35 = .ok (.if_icmp .eq 9, 3) := dk_159 0 9 (dk_at dksX6_cutAll_1 13 rfl rfl)
theorem dX6_cutAll_38 : decode cX6_cutAll 38 = .ok (.iload_n 3, 1) := dk_29 (dk_at dksX6_cutAll_1 16 rfl rfl)
theorem dX6_cutAll_39 : decode cX6_cutAll 39 = .ok (.bipush 32, 2) := dk_16 32 (dk_at dksX6_cutAll_1 17 rfl rfl)
theorem dX6_cutAll_41 : decode cX6_cutAll 41 = .ok (.if_icmp .ne 9, 3) := dk_160 0 9 (dk_at dksX6_cutAll_1 19 rfl rfl)
theorem dX6_cutAll_44 : decode cX6_cutAll 44 = .ok (.iinc 2 1, 3) := dk_132 2 1 (dk_at dksX6_cutAll_2 0 rfl rfl)
theorem dX6_cutAll_47 : decode cX6_cutAll 47 = .ok (.goto (-30), 3) := dk_167 255 226 (dk_at dksX6_cutAll_2 3 rfl rfl)
theorem dX6_cutAll_50 : decode cX6_cutAll 50 = .ok (.iload_n 2, 1) := dk_28 (dk_at dksX6_cutAll_2 6 rfl rfl)
theorem dX6_cutAll_51 : decode cX6_cutAll 51 = .ok (.istore 4, 2) := dk_54 4 (dk_at dksX6_cutAll_2 7 rfl rfl)
theorem dX6_cutAll_53 : decode cX6_cutAll 53 = .ok (.lconst 0, 1) := dk_9 (dk_at dksX6_cutAll_2 9 rfl rfl)
theorem dX6_cutAll_54 : decode cX6_cutAll 54 = .ok (.lstore 5, 2) := dk_55 5 (dk_at dksX6_cutAll_2 10 rfl rfl)
theorem dX6_cutAll_56 : decode cX6_cutAll 56 = .ok (.aload_n 0, 1) := dk_42 (dk_at dksX6_cutAll_2 12 rfl rfl)
theorem dX6_cutAll_57 : decode cX6_cutAll 57 = .ok (.getfield 27, 3) := dk_180 0 27 (dk_at dksX6_cutAll_2 13 rfl rfl)
theorem dX6_cutAll_60 : decode cX6_cutAll 60 = .ok (.iload_n 1, 1) := dk_27 (dk_at dksX6_cutAll_2 16 rfl rfl)
theorem dX6_cutAll_61 : decode cX6_cutAll 61 = .ok (.iload_n 2, 1) := dk_28 (dk_at dksX6_cutAll_2 17 rfl rfl)
theorem dX6_cutAll_62 : decode cX6_cutAll 62 = .ok (.iastore, 1) := dk_79 (dk_at dksX6_cutAll_2 18 rfl rfl)
theorem dX6_cutAll_63 : decode cX6_cutAll 63 = .ok (.iload_n 3, 1) := dk_29 (dk_at dksX6_cutAll_2 19 rfl rfl)
theorem dX6_cutAll_64 : decode cX6_cutAll 64 = .ok (.invokestatic 133, 3) := dk_184 0 133 (dk_at dksX6_cutAll_2 20 rfl rfl)
theorem dX6_cutAll_67 : decode cX6_cutAll 67 = .ok (.ifCond .eq 85, 3) := dk_153 0 85 (dk_at dksX6_cutAll_3 0 rfl rfl)
theorem dX6_cutAll_70 : decode cX6_cutAll 70 = .ok (.iload_n 2, 1) := dk_28 (dk_at dksX6_cutAll_3 3 rfl rfl)
theorem dX6_cutAll_71 : decode cX6_cutAll 71 = .ok (.aload_n 0, 1) := dk_42 (dk_at dksX6_cutAll_3 4 rfl rfl)
theorem dX6_cutAll_72 : decode cX6_cutAll 72 = .ok (.getfield 137, 3) := dk_180 0 137 (dk_at dksX6_cutAll_3 5 rfl rfl)
theorem dX6_cutAll_75 : decode cX6_cutAll 75 = .ok (.if_icmp .ge 54, 3) := dk_162 0 54 (dk_at dksX6_cutAll_3 8 rfl rfl)
theorem dX6_cutAll_78 : decode cX6_cutAll 78 = .ok (.aload_n 0, 1) := dk_42 (dk_at dksX6_cutAll_3 11 rfl rfl)
theorem dX6_cutAll_79 : decode cX6_cutAll 79 = .ok (.getfield 14, 3) := dk_180 0 14 (dk_at dksX6_cutAll_3 12 rfl rfl)
theorem dX6_cutAll_82 : decode cX6_cutAll 82 = .ok (.iload_n 2, 1) := dk_28 (dk_at dksX6_cutAll_3 15 rfl rfl)
theorem dX6_cutAll_83 : decode cX6_cutAll 83 = .ok (.iaload, 1) := dk_46 (dk_at dksX6_cutAll_3 16 rfl rfl)
theorem dX6_cutAll_84 : decode cX6_cutAll 84 = .ok (.invokestatic 133, 3) := dk_184 0 133 (dk_at dksX6_cutAll_3 17 rfl rfl)
theorem dX6_cutAll_87 : decode cX6_cutAll 87 = .ok (.ifCond .eq 42, 3) := dk_153 0 42 (dk_at dksX6_cutAll_3 20 rfl rfl)
theorem dX6_cutAll_90 : decode cX6_cutAll 90 = .ok (.iload_n 2, 1) := dk_28 (dk_at dksX6_cutAll_3 23 rfl rfl)
theorem dX6_cutAll_91 : decode cX6_cutAll 91 = .ok (.iload 4, 2) := dk_21 4 (dk_at dksX6_cutAll_4 0 rfl rfl)
theorem dX6_cutAll_93 : decode cX6_cutAll 93 = .ok (.isub, 1) := dk_100 (dk_at dksX6_cutAll_4 2 rfl rfl)
theorem dX6_cutAll_94 : decode cX6_cutAll 94 = .ok (.bipush 8, 2) := dk_16 8 (dk_at dksX6_cutAll_4 3 rfl rfl)
theorem dX6_cutAll_96 : decode cX6_cutAll 96 = .ok (.if_icmp .ge 23, 3) := dk_162 0 23 (dk_at dksX6_cutAll_4 5 rfl rfl)
theorem dX6_cutAll_99 : decode cX6_cutAll 99 = .ok (.ldc2_w 140, 3) := dk_20 0 140 (dk_at dksX6_cutAll_4 8 rfl rfl)
theorem dX6_cutAll_102 : decode cX6_cutAll 102 = .ok (.lload 5, 2) := dk_22 5 (dk_at dksX6_cutAll_4 11 rfl rfl)
theorem dX6_cutAll_104 : decode cX6_cutAll 104 = .ok (.lmul, 1) := dk_105 (dk_at dksX6_cutAll_4 13 rfl rfl)
theorem dX6_cutAll_105 : decode cX6_cutAll 105 = .ok (.aload_n 0, 1) := dk_42 (dk_at dksX6_cutAll_4 14 rfl rfl)
theorem dX6_cutAll_106 : decode cX6_cutAll 106 = .ok (.getfield 14, 3) := dk_180 0 14 (dk_at dksX6_cutAll_4 15 rfl rfl)
theorem dX6_cutAll_109 : decode cX6_cutAll 109 = .ok (.iload_n 2, 1) := dk_28 (dk_at dksX6_cutAll_4 18 rfl rfl)
theorem dX6_cutAll_110 : decode cX6_cutAll 110 = .ok (.iaload, 1) := dk_46 (dk_at dksX6_cutAll_4 19 rfl rfl)
theorem dX6_cutAll_111 : decode cX6_cutAll 111 = .ok (.invokestatic 142, 3) := dk_184 0 142 (dk_at dksX6_cutAll_4 20 rfl rfl)
theorem dX6_cutAll_114 : decode cX6_cutAll 114 = .ok (.i2l, 1) := dk_133 (dk_at dksX6_cutAll_4 23 rfl rfl)
theorem dX6_cutAll_115 : decode cX6_cutAll 115 = .ok (.ladd, 1) := dk_97 (dk_at dksX6_cutAll_5 0 rfl rfl)
theorem dX6_cutAll_116 : decode cX6_cutAll 116 = .ok (.goto 5, 3) := dk_167 0 5 (dk_at dksX6_cutAll_5 1 rfl rfl)
theorem dX6_cutAll_119 : decode cX6_cutAll 119 = .ok (.lload 5, 2) := dk_22 5 (dk_at dksX6_cutAll_5 4 rfl rfl)
theorem dX6_cutAll_121 : decode cX6_cutAll 121 = .ok (.lstore 5, 2) := dk_55 5 (dk_at dksX6_cutAll_5 6 rfl rfl)
theorem dX6_cutAll_123 : decode cX6_cutAll 123 = .ok (.iinc 2 1, 3) := dk_132 2 1 (dk_at dksX6_cutAll_5 8 rfl rfl)
theorem dX6_cutAll_126 : decode cX6_cutAll 126 = .ok (.goto (-56), 3) := dk_167 255 200 (dk_at dksX6_cutAll_5 11 rfl rfl)
theorem dX6_cutAll_129 : decode cX6_cutAll 129 = .ok (.aload_n 0, 1) := dk_42 (dk_at dksX6_cutAll_5 14 rfl rfl)
theorem dX6_cutAll_130 : decode cX6_cutAll 130 = .ok (.getfield 24, 3) := dk_180 0 24 (dk_at dksX6_cutAll_5 15 rfl rfl)
theorem dX6_cutAll_133 : decode cX6_cutAll 133 = .ok (.iload_n 1, 1) := dk_27 (dk_at dksX6_cutAll_5 18 rfl rfl)
theorem dX6_cutAll_134 : decode cX6_cutAll 134 = .ok (.iload_n 2, 1) := dk_28 (dk_at dksX6_cutAll_5 19 rfl rfl)
theorem dX6_cutAll_135 : decode cX6_cutAll 135 = .ok (.iload 4, 2) := dk_21 4 (dk_at dksX6_cutAll_5 20 rfl rfl)
theorem dX6_cutAll_137 : decode cX6_cutAll 137 = .ok (.isub, 1) := dk_100 (dk_at dksX6_cutAll_5 22 rfl rfl)
theorem dX6_cutAll_138 : decode cX6_cutAll 138 = .ok (.bipush 8, 2) := dk_16 8 (dk_at dksX6_cutAll_6 0 rfl rfl)
theorem dX6_cutAll_140 : decode cX6_cutAll 140 = .ok (.if_icmp .le 7, 3) := dk_164 0 7 (dk_at dksX6_cutAll_6 2 rfl rfl)
theorem dX6_cutAll_143 : decode cX6_cutAll 143 = .ok (.iconst 4, 1) := dk_7 (dk_at dksX6_cutAll_6 5 rfl rfl)
theorem dX6_cutAll_144 : decode cX6_cutAll 144 = .ok (.goto 4, 3) := dk_167 0 4 (dk_at dksX6_cutAll_6 6 rfl rfl)
theorem dX6_cutAll_147 : decode cX6_cutAll 147 = .ok (.iconst 1, 1) := dk_4 (dk_at dksX6_cutAll_6 9 rfl rfl)
theorem dX6_cutAll_148 : decode cX6_cutAll 148 = .ok (.iastore, 1) := dk_79 (dk_at dksX6_cutAll_6 10 rfl rfl)
theorem dX6_cutAll_149 : decode cX6_cutAll 149 = .ok (.goto 116, 3) := dk_167 0 116 (dk_at dksX6_cutAll_6 11 rfl rfl)
theorem dX6_cutAll_152 : decode cX6_cutAll 152 = .ok (.iload_n 3, 1) := dk_29 (dk_at dksX6_cutAll_6 14 rfl rfl)
theorem dX6_cutAll_153 : decode cX6_cutAll 153 = .ok (.invokestatic 146, 3) := dk_184 0 146 (dk_at dksX6_cutAll_6 15 rfl rfl)
theorem dX6_cutAll_156 : decode cX6_cutAll 156 = .ok (.ifCond .eq 84, 3) := dk_153 0 84 (dk_at dksX6_cutAll_6 18 rfl rfl)
theorem dX6_cutAll_159 : decode cX6_cutAll 159 = .ok (.iload_n 2, 1) := dk_28 (dk_at dksX6_cutAll_6 21 rfl rfl)
theorem dX6_cutAll_160 : decode cX6_cutAll 160 = .ok (.aload_n 0, 1) := dk_42 (dk_at dksX6_cutAll_6 22 rfl rfl)
theorem dX6_cutAll_161 : decode cX6_cutAll 161 = .ok (.getfield 137, 3) := dk_180 0 137 (dk_at dksX6_cutAll_7 0 rfl rfl)
theorem dX6_cutAll_164 : decode cX6_cutAll 164 = .ok (.if_icmp .ge 54, 3) := dk_162 0 54 (dk_at dksX6_cutAll_7 3 rfl rfl)
theorem dX6_cutAll_167 : decode cX6_cutAll 167 = .ok (.aload_n 0, 1) := dk_42 (dk_at dksX6_cutAll_7 6 rfl rfl)
theorem dX6_cutAll_168 : decode cX6_cutAll 168 = .ok (.getfield 14, 3) := dk_180 0 14 (dk_at dksX6_cutAll_7 7 rfl rfl)
theorem dX6_cutAll_171 : decode cX6_cutAll 171 = .ok (.iload_n 2, 1) := dk_28 (dk_at dksX6_cutAll_7 10 rfl rfl)
theorem dX6_cutAll_172 : decode cX6_cutAll 172 = .ok (.iaload, 1) := dk_46 (dk_at dksX6_cutAll_7 11 rfl rfl)
theorem dX6_cutAll_173 : decode cX6_cutAll 173 = .ok (.invokestatic 146, 3) := dk_184 0 146 (dk_at dksX6_cutAll_7 12 rfl rfl)
theorem dX6_cutAll_176 : decode cX6_cutAll 176 = .ok (.ifCond .eq 42, 3) := dk_153 0 42 (dk_at dksX6_cutAll_7 15 rfl rfl)
theorem dX6_cutAll_179 : decode cX6_cutAll 179 = .ok (.iload_n 2, 1) := dk_28 (dk_at dksX6_cutAll_7 18 rfl rfl)
theorem dX6_cutAll_180 : decode cX6_cutAll 180 = .ok (.iload 4, 2) := dk_21 4 (dk_at dksX6_cutAll_7 19 rfl rfl)
theorem dX6_cutAll_182 : decode cX6_cutAll 182 = .ok (.isub, 1) := dk_100 (dk_at dksX6_cutAll_7 21 rfl rfl)
theorem dX6_cutAll_183 : decode cX6_cutAll 183 = .ok (.iconst 4, 1) := dk_7 (dk_at dksX6_cutAll_7 22 rfl rfl)
theorem dX6_cutAll_184 : decode cX6_cutAll 184 = .ok (.if_icmp .ge 24, 3) := dk_162 0 24 (dk_at dksX6_cutAll_8 0 rfl rfl)
theorem dX6_cutAll_187 : decode cX6_cutAll 187 = .ok (.ldc2_w 149, 3) := dk_20 0 149 (dk_at dksX6_cutAll_8 3 rfl rfl)
theorem dX6_cutAll_190 : decode cX6_cutAll 190 = .ok (.lload 5, 2) := dk_22 5 (dk_at dksX6_cutAll_8 6 rfl rfl)
theorem dX6_cutAll_192 : decode cX6_cutAll 192 = .ok (.lmul, 1) := dk_105 (dk_at dksX6_cutAll_8 8 rfl rfl)
theorem dX6_cutAll_193 : decode cX6_cutAll 193 = .ok (.aload_n 0, 1) := dk_42 (dk_at dksX6_cutAll_8 9 rfl rfl)
theorem dX6_cutAll_194 : decode cX6_cutAll 194 = .ok (.getfield 14, 3) := dk_180 0 14 (dk_at dksX6_cutAll_8 10 rfl rfl)
theorem dX6_cutAll_197 : decode cX6_cutAll 197 = .ok (.iload_n 2, 1) := dk_28 (dk_at dksX6_cutAll_8 13 rfl rfl)
theorem dX6_cutAll_198 : decode cX6_cutAll 198 = .ok (.iaload, 1) := dk_46 (dk_at dksX6_cutAll_8 14 rfl rfl)
theorem dX6_cutAll_199 : decode cX6_cutAll 199 = .ok (.i2l, 1) := dk_133 (dk_at dksX6_cutAll_8 15 rfl rfl)
theorem dX6_cutAll_200 : decode cX6_cutAll 200 = .ok (.ladd, 1) := dk_97 (dk_at dksX6_cutAll_8 16 rfl rfl)
theorem dX6_cutAll_201 : decode cX6_cutAll 201 = .ok (.ldc2_w 151, 3) := dk_20 0 151 (dk_at dksX6_cutAll_8 17 rfl rfl)
theorem dX6_cutAll_204 : decode cX6_cutAll 204 = .ok (.lsub, 1) := dk_101 (dk_at dksX6_cutAll_8 20 rfl rfl)
theorem dX6_cutAll_205 : decode cX6_cutAll 205 = .ok (.goto 5, 3) := dk_167 0 5 (dk_at dksX6_cutAll_8 21 rfl rfl)
theorem dX6_cutAll_208 : decode cX6_cutAll 208 = .ok (.lload 5, 2) := dk_22 5 (dk_at dksX6_cutAll_9 0 rfl rfl)
theorem dX6_cutAll_210 : decode cX6_cutAll 210 = .ok (.lstore 5, 2) := dk_55 5 (dk_at dksX6_cutAll_9 2 rfl rfl)
theorem dX6_cutAll_212 : decode cX6_cutAll 212 = .ok (.iinc 2 1, 3) := dk_132 2 1 (dk_at dksX6_cutAll_9 4 rfl rfl)
theorem dX6_cutAll_215 : decode cX6_cutAll 215 = .ok (.goto (-56), 3) := dk_167 255 200 (dk_at dksX6_cutAll_9 7 rfl rfl)
theorem dX6_cutAll_218 : decode cX6_cutAll 218 = .ok (.aload_n 0, 1) := dk_42 (dk_at dksX6_cutAll_9 10 rfl rfl)
theorem dX6_cutAll_219 : decode cX6_cutAll 219 = .ok (.getfield 24, 3) := dk_180 0 24 (dk_at dksX6_cutAll_9 11 rfl rfl)
theorem dX6_cutAll_222 : decode cX6_cutAll 222 = .ok (.iload_n 1, 1) := dk_27 (dk_at dksX6_cutAll_9 14 rfl rfl)
theorem dX6_cutAll_223 : decode cX6_cutAll 223 = .ok (.iload_n 2, 1) := dk_28 (dk_at dksX6_cutAll_9 15 rfl rfl)
theorem dX6_cutAll_224 : decode cX6_cutAll 224 = .ok (.iload 4, 2) := dk_21 4 (dk_at dksX6_cutAll_9 16 rfl rfl)
theorem dX6_cutAll_226 : decode cX6_cutAll 226 = .ok (.isub, 1) := dk_100 (dk_at dksX6_cutAll_9 18 rfl rfl)
theorem dX6_cutAll_227 : decode cX6_cutAll 227 = .ok (.iconst 4, 1) := dk_7 (dk_at dksX6_cutAll_9 19 rfl rfl)
theorem dX6_cutAll_228 : decode cX6_cutAll 228 = .ok (.if_icmp .le 7, 3) := dk_164 0 7 (dk_at dksX6_cutAll_9 20 rfl rfl)
theorem dX6_cutAll_231 : decode cX6_cutAll 231 = .ok (.iconst 4, 1) := dk_7 (dk_at dksX6_cutAll_9 23 rfl rfl)
theorem dX6_cutAll_232 : decode cX6_cutAll 232 = .ok (.goto 4, 3) := dk_167 0 4 (dk_at dksX6_cutAll_10 0 rfl rfl)
theorem dX6_cutAll_235 : decode cX6_cutAll 235 = .ok (.iconst 2, 1) := dk_5 (dk_at dksX6_cutAll_10 3 rfl rfl)
theorem dX6_cutAll_236 : decode cX6_cutAll 236 = .ok (.iastore, 1) := dk_79 (dk_at dksX6_cutAll_10 4 rfl rfl)
theorem dX6_cutAll_237 : decode cX6_cutAll 237 = .ok (.goto 28, 3) := dk_167 0 28 (dk_at dksX6_cutAll_10 5 rfl rfl)
theorem dX6_cutAll_240 : decode cX6_cutAll 240 = .ok (.iload_n 3, 1) := dk_29 (dk_at dksX6_cutAll_10 8 rfl rfl)
theorem dX6_cutAll_241 : decode cX6_cutAll 241 = .ok (.i2l, 1) := dk_133 (dk_at dksX6_cutAll_10 9 rfl rfl)
theorem dX6_cutAll_242 : decode cX6_cutAll 242 = .ok (.lstore 5, 2) := dk_55 5 (dk_at dksX6_cutAll_10 10 rfl rfl)
theorem dX6_cutAll_244 : decode cX6_cutAll 244 = .ok (.aload_n 0, 1) := dk_42 (dk_at dksX6_cutAll_10 12 rfl rfl)
theorem dX6_cutAll_245 : decode cX6_cutAll 245 = .ok (.getfield 24, 3) := dk_180 0 24 (dk_at dksX6_cutAll_10 13 rfl rfl)
theorem dX6_cutAll_248 : decode cX6_cutAll 248 = .ok (.iload_n 1, 1) := dk_27 (dk_at dksX6_cutAll_10 16 rfl rfl)
theorem dX6_cutAll_249 : decode cX6_cutAll 249 = .ok (.iload_n 3, 1) := dk_29 (dk_at dksX6_cutAll_10 17 rfl rfl)
theorem dX6_cutAll_250 : decode cX6_cutAll 250 = .ok (.invokestatic 153, 3) := dk_184 0 153 (dk_at dksX6_cutAll_10 18 rfl rfl)
theorem dX6_cutAll_253 : decode cX6_cutAll 253 = .ok (.ifCond .eq 7, 3) := dk_153 0 7 (dk_at dksX6_cutAll_10 21 rfl rfl)
theorem dX6_cutAll_256 : decode cX6_cutAll 256 = .ok (.iconst 3, 1) := dk_6 (dk_at dksX6_cutAll_11 0 rfl rfl)
theorem dX6_cutAll_257 : decode cX6_cutAll 257 = .ok (.goto 4, 3) := dk_167 0 4 (dk_at dksX6_cutAll_11 1 rfl rfl)
theorem dX6_cutAll_260 : decode cX6_cutAll 260 = .ok (.iconst 4, 1) := dk_7 (dk_at dksX6_cutAll_11 4 rfl rfl)
theorem dX6_cutAll_261 : decode cX6_cutAll 261 = .ok (.iastore, 1) := dk_79 (dk_at dksX6_cutAll_11 5 rfl rfl)
theorem dX6_cutAll_262 : decode cX6_cutAll 262 = .ok (.iinc 2 1, 3) := dk_132 2 1 (dk_at dksX6_cutAll_11 6 rfl rfl)
theorem dX6_cutAll_265 : decode cX6_cutAll 265 = .ok (.aload_n 0, 1) := dk_42 (dk_at dksX6_cutAll_11 9 rfl rfl)
theorem dX6_cutAll_266 : decode cX6_cutAll 266 = .ok (.getfield 30, 3) := dk_180 0 30 (dk_at dksX6_cutAll_11 10 rfl rfl)
theorem dX6_cutAll_269 : decode cX6_cutAll 269 = .ok (.iload_n 1, 1) := dk_27 (dk_at dksX6_cutAll_11 13 rfl rfl)
theorem dX6_cutAll_270 : decode cX6_cutAll 270 = .ok (.lload 5, 2) := dk_22 5 (dk_at dksX6_cutAll_11 14 rfl rfl)
theorem dX6_cutAll_272 : decode cX6_cutAll 272 = .ok (.lastore, 1) := dk_80 (dk_at dksX6_cutAll_11 16 rfl rfl)
theorem dX6_cutAll_273 : decode cX6_cutAll 273 = .ok (.iinc 1 1, 3) := dk_132 1 1 (dk_at dksX6_cutAll_11 17 rfl rfl)
theorem dX6_cutAll_276 : decode cX6_cutAll 276 = .ok (.goto (-259), 3) := dk_167 254 253 (dk_at dksX6_cutAll_11 20 rfl rfl)
theorem dX6_cutAll_279 : decode cX6_cutAll 279 = .ok (.aload_n 0, 1) := dk_42 (dk_at dksX6_cutAll_11 23 rfl rfl)
theorem dX6_cutAll_280 : decode cX6_cutAll 280 = .ok (.getfield 24, 3) := dk_180 0 24 (dk_at dksX6_cutAll_12 0 rfl rfl)
theorem dX6_cutAll_283 : decode cX6_cutAll 283 = .ok (.iload_n 1, 1) := dk_27 (dk_at dksX6_cutAll_12 3 rfl rfl)
theorem dX6_cutAll_284 : decode cX6_cutAll 284 = .ok (.iconst 0, 1) := dk_3 (dk_at dksX6_cutAll_12 4 rfl rfl)
theorem dX6_cutAll_285 : decode cX6_cutAll 285 = .ok (.iastore, 1) := dk_79 (dk_at dksX6_cutAll_12 5 rfl rfl)
theorem dX6_cutAll_286 : decode cX6_cutAll 286 = .ok (.aload_n 0, 1) := dk_42 (dk_at dksX6_cutAll_12 6 rfl rfl)
theorem dX6_cutAll_287 : decode cX6_cutAll 287 = .ok (.getfield 27, 3) := dk_180 0 27 (dk_at dksX6_cutAll_12 7 rfl rfl)
theorem dX6_cutAll_290 : decode cX6_cutAll 290 = .ok (.iload_n 1, 1) := dk_27 (dk_at dksX6_cutAll_12 10 rfl rfl)
theorem dX6_cutAll_291 : decode cX6_cutAll 291 = .ok (.aload_n 0, 1) := dk_42 (dk_at dksX6_cutAll_12 11 rfl rfl)
theorem dX6_cutAll_292 : decode cX6_cutAll 292 = .ok (.getfield 137, 3) := dk_180 0 137 (dk_at dksX6_cutAll_12 12 rfl rfl)
theorem dX6_cutAll_295 : decode cX6_cutAll 295 = .ok (.iastore, 1) := dk_79 (dk_at dksX6_cutAll_12 15 rfl rfl)
theorem dX6_cutAll_296 : decode cX6_cutAll 296 = .ok (.aload_n 0, 1) := dk_42 (dk_at dksX6_cutAll_12 16 rfl rfl)
theorem dX6_cutAll_297 : decode cX6_cutAll 297 = .ok (.iconst 0, 1) := dk_3 (dk_at dksX6_cutAll_12 17 rfl rfl)
theorem dX6_cutAll_298 : decode cX6_cutAll 298 = .ok (.putfield 156, 3) := dk_181 0 156 (dk_at dksX6_cutAll_12 18 rfl rfl)
theorem dX6_cutAll_301 : decode cX6_cutAll 301 = .ok (.aload_n 0, 1) := dk_42 (dk_at dksX6_cutAll_12 21 rfl rfl)
theorem dX6_cutAll_302 : decode cX6_cutAll 302 = .ok (.iconst 0, 1) := dk_3 (dk_at dksX6_cutAll_12 22 rfl rfl)
theorem dX6_cutAll_303 : decode cX6_cutAll 303 = .ok (.putfield 159, 3) := dk_181 0 159 (dk_at dksX6_cutAll_13 0 rfl rfl)
theorem dX6_cutAll_306 : decode cX6_cutAll 306 = .ok (.return_, 1) := dk_177 (dk_at dksX6_cutAll_13 3 rfl rfl)
abbrev cX6_isLetter : ByteArray := prog_24_method_5_code
def yX6_isLetter : MethodName := ⟨RX6, "isLetter", "(I)Z"⟩
def dkwX6_isLetter_0 : List UInt8 := [26, 16, 97, 161, 0, 13, 26, 16, 122, 163, 0, 7, 4, 167, 0, 4, 3, 172]
abbrev dktX6_isLetter_0 : List UInt8 := dkwX6_isLetter_0 ++ []
theorem dksX6_isLetter_0 : cX6_isLetter.data.toList.drop 0 = dktX6_isLetter_0 := by decide +kernel
theorem dX6_isLetter_0 : decode cX6_isLetter 0 = .ok (.iload_n 0, 1) := dk_26 (dk_at dksX6_isLetter_0 0 rfl rfl)
theorem dX6_isLetter_1 : decode cX6_isLetter 1 = .ok (.bipush 97, 2) := dk_16 97 (dk_at dksX6_isLetter_0 1 rfl rfl)
theorem dX6_isLetter_3 : decode cX6_isLetter 3 = .ok (.if_icmp .lt 13, 3) := dk_161 0 13 (dk_at dksX6_isLetter_0 3 rfl rfl)
theorem dX6_isLetter_6 : decode cX6_isLetter 6 = .ok (.iload_n 0, 1) := dk_26 (dk_at dksX6_isLetter_0 6 rfl rfl)
theorem dX6_isLetter_7 : decode cX6_isLetter 7 = .ok (.bipush 122, 2) := dk_16 122 (dk_at dksX6_isLetter_0 7 rfl rfl)
theorem dX6_isLetter_9 : decode cX6_isLetter 9 = .ok (.if_icmp .gt 7, 3) := dk_163 0 7 (dk_at dksX6_isLetter_0 9 rfl rfl)
theorem dX6_isLetter_12 : decode cX6_isLetter 12 = .ok (.iconst 1, 1) := dk_4 (dk_at dksX6_isLetter_0 12 rfl rfl)
theorem dX6_isLetter_13 : decode cX6_isLetter 13 = .ok (.goto 4, 3) := dk_167 0 4 (dk_at dksX6_isLetter_0 13 rfl rfl)
theorem dX6_isLetter_16 : decode cX6_isLetter 16 = .ok (.iconst 0, 1) := dk_3 (dk_at dksX6_isLetter_0 16 rfl rfl)
theorem dX6_isLetter_17 : decode cX6_isLetter 17 = .ok (.ireturn, 1) := dk_172 (dk_at dksX6_isLetter_0 17 rfl rfl)
abbrev cX6_rank : ByteArray := prog_24_method_7_code
def yX6_rank : MethodName := ⟨RX6, "rank", "(I)I"⟩
def dkwX6_rank_0 : List UInt8 := [26, 184, 0, 133, 153, 0, 10, 26, 16, 96, 100, 167, 0, 7, 26, 16, 21, 100, 172]
abbrev dktX6_rank_0 : List UInt8 := dkwX6_rank_0 ++ []
theorem dksX6_rank_0 : cX6_rank.data.toList.drop 0 = dktX6_rank_0 := by decide +kernel
theorem dX6_rank_0 : decode cX6_rank 0 = .ok (.iload_n 0, 1) := dk_26 (dk_at dksX6_rank_0 0 rfl rfl)
theorem dX6_rank_1 : decode cX6_rank 1 = .ok (.invokestatic 133, 3) := dk_184 0 133 (dk_at dksX6_rank_0 1 rfl rfl)
theorem dX6_rank_4 : decode cX6_rank 4 = .ok (.ifCond .eq 10, 3) := dk_153 0 10 (dk_at dksX6_rank_0 4 rfl rfl)
theorem dX6_rank_7 : decode cX6_rank 7 = .ok (.iload_n 0, 1) := dk_26 (dk_at dksX6_rank_0 7 rfl rfl)
theorem dX6_rank_8 : decode cX6_rank 8 = .ok (.bipush 96, 2) := dk_16 96 (dk_at dksX6_rank_0 8 rfl rfl)
theorem dX6_rank_10 : decode cX6_rank 10 = .ok (.isub, 1) := dk_100 (dk_at dksX6_rank_0 10 rfl rfl)
theorem dX6_rank_11 : decode cX6_rank 11 = .ok (.goto 7, 3) := dk_167 0 7 (dk_at dksX6_rank_0 11 rfl rfl)
theorem dX6_rank_14 : decode cX6_rank 14 = .ok (.iload_n 0, 1) := dk_26 (dk_at dksX6_rank_0 14 rfl rfl)
theorem dX6_rank_15 : decode cX6_rank 15 = .ok (.bipush 21, 2) := dk_16 21 (dk_at dksX6_rank_0 15 rfl rfl)
theorem dX6_rank_17 : decode cX6_rank 17 = .ok (.isub, 1) := dk_100 (dk_at dksX6_rank_0 17 rfl rfl)
theorem dX6_rank_18 : decode cX6_rank 18 = .ok (.ireturn, 1) := dk_172 (dk_at dksX6_rank_0 18 rfl rfl)
abbrev cX6_isDigit : ByteArray := prog_24_method_6_code
def yX6_isDigit : MethodName := ⟨RX6, "isDigit", "(I)Z"⟩
def dkwX6_isDigit_0 : List UInt8 := [26, 16, 48, 161, 0, 13, 26, 16, 57, 163, 0, 7, 4, 167, 0, 4, 3, 172]
abbrev dktX6_isDigit_0 : List UInt8 := dkwX6_isDigit_0 ++ []
theorem dksX6_isDigit_0 : cX6_isDigit.data.toList.drop 0 = dktX6_isDigit_0 := by decide +kernel
theorem dX6_isDigit_0 : decode cX6_isDigit 0 = .ok (.iload_n 0, 1) := dk_26 (dk_at dksX6_isDigit_0 0 rfl rfl)
theorem dX6_isDigit_1 : decode cX6_isDigit 1 = .ok (.bipush 48, 2) := dk_16 48 (dk_at dksX6_isDigit_0 1 rfl rfl)
theorem dX6_isDigit_3 : decode cX6_isDigit 3 = .ok (.if_icmp .lt 13, 3) := dk_161 0 13 (dk_at dksX6_isDigit_0 3 rfl rfl)
theorem dX6_isDigit_6 : decode cX6_isDigit 6 = .ok (.iload_n 0, 1) := dk_26 (dk_at dksX6_isDigit_0 6 rfl rfl)
theorem dX6_isDigit_7 : decode cX6_isDigit 7 = .ok (.bipush 57, 2) := dk_16 57 (dk_at dksX6_isDigit_0 7 rfl rfl)
theorem dX6_isDigit_9 : decode cX6_isDigit 9 = .ok (.if_icmp .gt 7, 3) := dk_163 0 7 (dk_at dksX6_isDigit_0 9 rfl rfl)
theorem dX6_isDigit_12 : decode cX6_isDigit 12 = .ok (.iconst 1, 1) := dk_4 (dk_at dksX6_isDigit_0 12 rfl rfl)
theorem dX6_isDigit_13 : decode cX6_isDigit 13 = .ok (.goto 4, 3) := dk_167 0 4 (dk_at dksX6_isDigit_0 13 rfl rfl)
theorem dX6_isDigit_16 : decode cX6_isDigit 16 = .ok (.iconst 0, 1) := dk_3 (dk_at dksX6_isDigit_0 16 rfl rfl)
theorem dX6_isDigit_17 : decode cX6_isDigit 17 = .ok (.ireturn, 1) := dk_172 (dk_at dksX6_isDigit_0 17 rfl rfl)
abbrev cX6_isSignOf : ByteArray := prog_24_method_8_code
def yX6_isSignOf : MethodName := ⟨RX6, "isSignOf", "(I)Z"⟩
def dkwX6_isSignOf_2 : List UInt8 := [4, 167, 0, 4, 3, 172]
abbrev dktX6_isSignOf_2 : List UInt8 := dkwX6_isSignOf_2 ++ []
def dkwX6_isSignOf_1 : List UInt8 := [26, 16, 60, 159, 0, 21, 26, 16, 43, 159, 0, 15, 26, 16, 45, 159, 0, 9, 26, 16, 42, 160, 0, 7]
abbrev dktX6_isSignOf_1 : List UInt8 := dkwX6_isSignOf_1 ++ dktX6_isSignOf_2
def dkwX6_isSignOf_0 : List UInt8 := [26, 16, 40, 159, 0, 45, 26, 16, 41, 159, 0, 39, 26, 16, 59, 159, 0, 33, 26, 16, 61, 159, 0, 27]
abbrev dktX6_isSignOf_0 : List UInt8 := dkwX6_isSignOf_0 ++ dktX6_isSignOf_1
theorem dksX6_isSignOf_0 : cX6_isSignOf.data.toList.drop 0 = dktX6_isSignOf_0 := by decide +kernel
theorem dksX6_isSignOf_1 : cX6_isSignOf.data.toList.drop 24 = dktX6_isSignOf_1 := dk_seg dksX6_isSignOf_0 24 rfl rfl
theorem dksX6_isSignOf_2 : cX6_isSignOf.data.toList.drop 48 = dktX6_isSignOf_2 := dk_seg dksX6_isSignOf_1 24 rfl rfl
theorem dX6_isSignOf_0 : decode cX6_isSignOf 0 = .ok (.iload_n 0, 1) := dk_26 (dk_at dksX6_isSignOf_0 0 rfl rfl)
theorem dX6_isSignOf_1 : decode cX6_isSignOf 1 = .ok (.bipush 40, 2) := dk_16 40 (dk_at dksX6_isSignOf_0 1 rfl rfl)
theorem dX6_isSignOf_3 : decode cX6_isSignOf 3 = .ok (.if_icmp .eq 45, 3) := dk_159 0 45 (dk_at dksX6_isSignOf_0 3 rfl rfl)
theorem dX6_isSignOf_6 : decode cX6_isSignOf 6 = .ok (.iload_n 0, 1) := dk_26 (dk_at dksX6_isSignOf_0 6 rfl rfl)
theorem dX6_isSignOf_7 : decode cX6_isSignOf 7 = .ok (.bipush 41, 2) := dk_16 41 (dk_at dksX6_isSignOf_0 7 rfl rfl)
theorem dX6_isSignOf_9 : decode cX6_isSignOf 9 = .ok (.if_icmp .eq 39, 3) := dk_159 0 39 (dk_at dksX6_isSignOf_0 9 rfl rfl)
theorem dX6_isSignOf_12 : decode cX6_isSignOf 12 = .ok (.iload_n 0, 1) := dk_26 (dk_at dksX6_isSignOf_0 12 rfl rfl)
theorem dX6_isSignOf_13 : decode cX6_isSignOf 13 = .ok (.bipush 59, 2) := dk_16 59 (dk_at dksX6_isSignOf_0 13 rfl rfl)
theorem dX6_isSignOf_15 : decode cX6_isSignOf 15 = .ok (.if_icmp .eq 33, 3) := dk_159 0 33 (dk_at dksX6_isSignOf_0 15 rfl rfl)
theorem dX6_isSignOf_18 : decode cX6_isSignOf 18 = .ok (.iload_n 0, 1) := dk_26 (dk_at dksX6_isSignOf_0 18 rfl rfl)
theorem dX6_isSignOf_19 : decode cX6_isSignOf 19 = .ok (.bipush 61, 2) := dk_16 61 (dk_at dksX6_isSignOf_0 19 rfl rfl)
theorem dX6_isSignOf_21 : decode cX6_isSignOf 21 = .ok (.if_icmp .eq 27, 3) := dk_159 0 27 (dk_at dksX6_isSignOf_0 21 rfl rfl)
theorem dX6_isSignOf_24 : decode cX6_isSignOf 24 = .ok (.iload_n 0, 1) := dk_26 (dk_at dksX6_isSignOf_1 0 rfl rfl)
theorem dX6_isSignOf_25 : decode cX6_isSignOf 25 = .ok (.bipush 60, 2) := dk_16 60 (dk_at dksX6_isSignOf_1 1 rfl rfl)
theorem dX6_isSignOf_27 : decode cX6_isSignOf 27 = .ok (.if_icmp .eq 21, 3) := dk_159 0 21 (dk_at dksX6_isSignOf_1 3 rfl rfl)
theorem dX6_isSignOf_30 : decode cX6_isSignOf 30 = .ok (.iload_n 0, 1) := dk_26 (dk_at dksX6_isSignOf_1 6 rfl rfl)
theorem dX6_isSignOf_31 : decode cX6_isSignOf 31 = .ok (.bipush 43, 2) := dk_16 43 (dk_at dksX6_isSignOf_1 7 rfl rfl)
theorem dX6_isSignOf_33 : decode cX6_isSignOf 33 = .ok (.if_icmp .eq 15, 3) := dk_159 0 15 (dk_at dksX6_isSignOf_1 9 rfl rfl)
theorem dX6_isSignOf_36 : decode cX6_isSignOf 36 = .ok (.iload_n 0, 1) := dk_26 (dk_at dksX6_isSignOf_1 12 rfl rfl)
theorem dX6_isSignOf_37 : decode cX6_isSignOf 37 = .ok (.bipush 45, 2) := dk_16 45 (dk_at dksX6_isSignOf_1 13 rfl rfl)
theorem dX6_isSignOf_39 : decode cX6_isSignOf 39 = .ok (.if_icmp .eq 9, 3) := dk_159 0 9 (dk_at dksX6_isSignOf_1 15 rfl rfl)
theorem dX6_isSignOf_42 : decode cX6_isSignOf 42 = .ok (.iload_n 0, 1) := dk_26 (dk_at dksX6_isSignOf_1 18 rfl rfl)
theorem dX6_isSignOf_43 : decode cX6_isSignOf 43 = .ok (.bipush 42, 2) := dk_16 42 (dk_at dksX6_isSignOf_1 19 rfl rfl)
theorem dX6_isSignOf_45 : decode cX6_isSignOf 45 = .ok (.if_icmp .ne 7, 3) := dk_160 0 7 (dk_at dksX6_isSignOf_1 21 rfl rfl)
theorem dX6_isSignOf_48 : decode cX6_isSignOf 48 = .ok (.iconst 1, 1) := dk_4 (dk_at dksX6_isSignOf_2 0 rfl rfl)
theorem dX6_isSignOf_49 : decode cX6_isSignOf 49 = .ok (.goto 4, 3) := dk_167 0 4 (dk_at dksX6_isSignOf_2 1 rfl rfl)
theorem dX6_isSignOf_52 : decode cX6_isSignOf 52 = .ok (.iconst 0, 1) := dk_3 (dk_at dksX6_isSignOf_2 4 rfl rfl)
theorem dX6_isSignOf_53 : decode cX6_isSignOf 53 = .ok (.ireturn, 1) := dk_172 (dk_at dksX6_isSignOf_2 5 rfl rfl)
abbrev cX6_readLine : ByteArray := prog_24_method_27_code
def yX6_readLine : MethodName := ⟨RX6, "readLine", "()V"⟩
def dkwX6_readLine_5 : List UInt8 := [27, 28, 79, 167, 0, 7, 42, 182, 0, 228, 177]
abbrev dktX6_readLine_5 : List UInt8 := dkwX6_readLine_5 ++ []
def dkwX6_readLine_4 : List UInt8 := [182, 0, 220, 42, 16, 6, 3, 16, 99, 182, 0, 224, 61, 42, 180, 0, 159, 154, 0, 10, 42, 180, 0, 89]
abbrev dktX6_readLine_4 : List UInt8 := dkwX6_readLine_4 ++ dktX6_readLine_5
def dkwX6_readLine_3 : List UInt8 := [182, 0, 168, 153, 0, 49, 16, 88, 42, 180, 0, 89, 16, 62, 46, 96, 60, 42, 5, 8, 16, 40]
abbrev dktX6_readLine_3 : List UInt8 := dkwX6_readLine_3 ++ dktX6_readLine_4
def dkwX6_readLine_2 : List UInt8 := [182, 0, 224, 61, 42, 180, 0, 159, 154, 0, 10, 42, 180, 0, 89, 27, 28, 79, 167, 0, 61, 42, 8]
abbrev dktX6_readLine_2 : List UInt8 := dkwX6_readLine_2 ++ dktX6_readLine_3
def dkwX6_readLine_1 : List UInt8 := [16, 83, 42, 180, 0, 89, 16, 61, 46, 96, 60, 42, 4, 8, 16, 20, 182, 0, 220, 42, 7, 3, 16, 9]
abbrev dktX6_readLine_1 : List UInt8 := dkwX6_readLine_1 ++ dktX6_readLine_2
def dkwX6_readLine_0 : List UInt8 := [42, 3, 182, 0, 168, 153, 0, 10, 42, 182, 0, 217, 167, 0, 114, 42, 6, 182, 0, 168, 153, 0, 48]
abbrev dktX6_readLine_0 : List UInt8 := dkwX6_readLine_0 ++ dktX6_readLine_1
theorem dksX6_readLine_0 : cX6_readLine.data.toList.drop 0 = dktX6_readLine_0 := by decide +kernel
theorem dksX6_readLine_1 : cX6_readLine.data.toList.drop 23 = dktX6_readLine_1 := dk_seg dksX6_readLine_0 23 rfl rfl
theorem dksX6_readLine_2 : cX6_readLine.data.toList.drop 47 = dktX6_readLine_2 := dk_seg dksX6_readLine_1 24 rfl rfl
theorem dksX6_readLine_3 : cX6_readLine.data.toList.drop 70 = dktX6_readLine_3 := dk_seg dksX6_readLine_2 23 rfl rfl
theorem dksX6_readLine_4 : cX6_readLine.data.toList.drop 92 = dktX6_readLine_4 := dk_seg dksX6_readLine_3 22 rfl rfl
theorem dksX6_readLine_5 : cX6_readLine.data.toList.drop 116 = dktX6_readLine_5 := dk_seg dksX6_readLine_4 24 rfl rfl
theorem dX6_readLine_0 : decode cX6_readLine 0 = .ok (.aload_n 0, 1) := dk_42 (dk_at dksX6_readLine_0 0 rfl rfl)
theorem dX6_readLine_1 : decode cX6_readLine 1 = .ok (.iconst 0, 1) := dk_3 (dk_at dksX6_readLine_0 1 rfl rfl)
theorem dX6_readLine_2 : decode cX6_readLine 2 = .ok (.invokevirtual 168, 3) := dk_182 0 168 (dk_at dksX6_readLine_0 2 rfl rfl)
theorem dX6_readLine_5 : decode cX6_readLine 5 = .ok (.ifCond .eq 10, 3) := dk_153 0 10 (dk_at dksX6_readLine_0 5 rfl rfl)
theorem dX6_readLine_8 : decode cX6_readLine 8 = .ok (.aload_n 0, 1) := dk_42 (dk_at dksX6_readLine_0 8 rfl rfl)
theorem dX6_readLine_9 : decode cX6_readLine 9 = .ok (.invokevirtual 217, 3) := dk_182 0 217 (dk_at dksX6_readLine_0 9 rfl rfl)
theorem dX6_readLine_12 : decode cX6_readLine 12 = .ok (.goto 114, 3) := dk_167 0 114 (dk_at dksX6_readLine_0 12 rfl rfl)
theorem dX6_readLine_15 : decode cX6_readLine 15 = .ok (.aload_n 0, 1) := dk_42 (dk_at dksX6_readLine_0 15 rfl rfl)
theorem dX6_readLine_16 : decode cX6_readLine 16 = .ok (.iconst 3, 1) := dk_6 (dk_at dksX6_readLine_0 16 rfl rfl)
theorem dX6_readLine_17 : decode cX6_readLine 17 = .ok (.invokevirtual 168, 3) := dk_182 0 168 (dk_at dksX6_readLine_0 17 rfl rfl)
theorem dX6_readLine_20 : decode cX6_readLine 20 = .ok (.ifCond .eq 48, 3) := dk_153 0 48 (dk_at dksX6_readLine_0 20 rfl rfl)
theorem dX6_readLine_23 : decode cX6_readLine 23 = .ok (.bipush 83, 2) := dk_16 83 (dk_at dksX6_readLine_1 0 rfl rfl)
theorem dX6_readLine_25 : decode cX6_readLine 25 = .ok (.aload_n 0, 1) := dk_42 (dk_at dksX6_readLine_1 2 rfl rfl)
theorem dX6_readLine_26 : decode cX6_readLine 26 = .ok (.getfield 89, 3) := dk_180 0 89 (dk_at dksX6_readLine_1 3 rfl rfl)
theorem dX6_readLine_29 : decode cX6_readLine 29 = .ok (.bipush 61, 2) := dk_16 61 (dk_at dksX6_readLine_1 6 rfl rfl)
theorem dX6_readLine_31 : decode cX6_readLine 31 = .ok (.iaload, 1) := dk_46 (dk_at dksX6_readLine_1 8 rfl rfl)
theorem dX6_readLine_32 : decode cX6_readLine 32 = .ok (.iadd, 1) := dk_96 (dk_at dksX6_readLine_1 9 rfl rfl)
theorem dX6_readLine_33 : decode cX6_readLine 33 = .ok (.istore_n 1, 1) := dk_60 (dk_at dksX6_readLine_1 10 rfl rfl)
theorem dX6_readLine_34 : decode cX6_readLine 34 = .ok (.aload_n 0, 1) := dk_42 (dk_at dksX6_readLine_1 11 rfl rfl)
theorem dX6_readLine_35 : decode cX6_readLine 35 = .ok (.iconst 1, 1) := dk_4 (dk_at dksX6_readLine_1 12 rfl rfl)
theorem dX6_readLine_36 : decode cX6_readLine 36 = .ok (.iconst 5, 1) := dk_8 (dk_at dksX6_readLine_1 13 rfl rfl)
theorem dX6_readLine_37 : decode cX6_readLine 37 = .ok (.bipush 20, 2) := dk_16 20 (dk_at dksX6_readLine_1 14 rfl rfl)
theorem dX6_readLine_39 : decode cX6_readLine 39 = .ok (.invokevirtual 220, 3) := dk_182 0 220 (dk_at dksX6_readLine_1 16 rfl rfl)
theorem dX6_readLine_42 : decode cX6_readLine 42 = .ok (.aload_n 0, 1) := dk_42 (dk_at dksX6_readLine_1 19 rfl rfl)
theorem dX6_readLine_43 : decode cX6_readLine 43 = .ok (.iconst 4, 1) := dk_7 (dk_at dksX6_readLine_1 20 rfl rfl)
theorem dX6_readLine_44 : decode cX6_readLine 44 = .ok (.iconst 0, 1) := dk_3 (dk_at dksX6_readLine_1 21 rfl rfl)
theorem dX6_readLine_45 : decode cX6_readLine 45 = .ok (.bipush 9, 2) := dk_16 9 (dk_at dksX6_readLine_1 22 rfl rfl)
theorem dX6_readLine_47 : decode cX6_readLine 47 = .ok (.invokevirtual 224, 3) := dk_182 0 224 (dk_at dksX6_readLine_2 0 rfl rfl)
theorem dX6_readLine_50 : decode cX6_readLine 50 = .ok (.istore_n 2, 1) := dk_61 (dk_at dksX6_readLine_2 3 rfl rfl)
theorem dX6_readLine_51 : decode cX6_readLine 51 = .ok (.aload_n 0, 1) := dk_42 (dk_at dksX6_readLine_2 4 rfl rfl)
theorem dX6_readLine_52 : decode cX6_readLine 52 = .ok (.getfield 159, 3) := dk_180 0 159 (dk_at dksX6_readLine_2 5 rfl rfl)
theorem dX6_readLine_55 : decode cX6_readLine 55 = .ok (.ifCond .ne 10, 3) := dk_154 0 10 (dk_at dksX6_readLine_2 8 rfl rfl)
theorem dX6_readLine_58 : decode cX6_readLine 58 = .ok (.aload_n 0, 1) := dk_42 (dk_at dksX6_readLine_2 11 rfl rfl)
theorem dX6_readLine_59 : decode cX6_readLine 59 = .ok (.getfield 89, 3) := dk_180 0 89 (dk_at dksX6_readLine_2 12 rfl rfl)
theorem dX6_readLine_62 : decode cX6_readLine 62 = .ok (.iload_n 1, 1) := dk_27 (dk_at dksX6_readLine_2 15 rfl rfl)
theorem dX6_readLine_63 : decode cX6_readLine 63 = .ok (.iload_n 2, 1) := dk_28 (dk_at dksX6_readLine_2 16 rfl rfl)
theorem dX6_readLine_64 : decode cX6_readLine 64 = .ok (.iastore, 1) := dk_79 (dk_at dksX6_readLine_2 17 rfl rfl)
theorem dX6_readLine_65 : decode cX6_readLine 65 = .ok (.goto 61, 3) := dk_167 0 61 (dk_at dksX6_readLine_2 18 rfl rfl)
theorem dX6_readLine_68 : decode cX6_readLine 68 = .ok (.aload_n 0, 1) := dk_42 (dk_at dksX6_readLine_2 21 rfl rfl)
theorem dX6_readLine_69 : decode cX6_readLine 69 = .ok (.iconst 5, 1) := dk_8 (dk_at dksX6_readLine_2 22 rfl rfl)
theorem dX6_readLine_70 : decode cX6_readLine 70 = .ok (.invokevirtual 168, 3) := dk_182 0 168 (dk_at dksX6_readLine_3 0 rfl rfl)
theorem dX6_readLine_73 : decode cX6_readLine 73 = .ok (.ifCond .eq 49, 3) := dk_153 0 49 (dk_at dksX6_readLine_3 3 rfl rfl)
theorem dX6_readLine_76 : decode cX6_readLine 76 = .ok (.bipush 88, 2) := dk_16 88 (dk_at dksX6_readLine_3 6 rfl rfl)
theorem dX6_readLine_78 : decode cX6_readLine 78 = .ok (.aload_n 0, 1) := dk_42 (dk_at dksX6_readLine_3 8 rfl rfl)
theorem dX6_readLine_79 : decode cX6_readLine 79 = .ok (.getfield 89, 3) := dk_180 0 89 (dk_at dksX6_readLine_3 9 rfl rfl)
theorem dX6_readLine_82 : decode cX6_readLine 82 = .ok (.bipush 62, 2) := dk_16 62 (dk_at dksX6_readLine_3 12 rfl rfl)
theorem dX6_readLine_84 : decode cX6_readLine 84 = .ok (.iaload, 1) := dk_46 (dk_at dksX6_readLine_3 14 rfl rfl)
theorem dX6_readLine_85 : decode cX6_readLine 85 = .ok (.iadd, 1) := dk_96 (dk_at dksX6_readLine_3 15 rfl rfl)
theorem dX6_readLine_86 : decode cX6_readLine 86 = .ok (.istore_n 1, 1) := dk_60 (dk_at dksX6_readLine_3 16 rfl rfl)
theorem dX6_readLine_87 : decode cX6_readLine 87 = .ok (.aload_n 0, 1) := dk_42 (dk_at dksX6_readLine_3 17 rfl rfl)
theorem dX6_readLine_88 : decode cX6_readLine 88 = .ok (.iconst 2, 1) := dk_5 (dk_at dksX6_readLine_3 18 rfl rfl)
theorem dX6_readLine_89 : decode cX6_readLine 89 = .ok (.iconst 5, 1) := dk_8 (dk_at dksX6_readLine_3 19 rfl rfl)
theorem dX6_readLine_90 : decode cX6_readLine 90 = .ok (.bipush 40, 2) := dk_16 40 (dk_at dksX6_readLine_3 20 rfl rfl)
theorem dX6_readLine_92 : decode cX6_readLine 92 = .ok (.invokevirtual 220, 3) := dk_182 0 220 (dk_at dksX6_readLine_4 0 rfl rfl)
theorem dX6_readLine_95 : decode cX6_readLine 95 = .ok (.aload_n 0, 1) := dk_42 (dk_at dksX6_readLine_4 3 rfl rfl)
theorem dX6_readLine_96 : decode cX6_readLine 96 = .ok (.bipush 6, 2) := dk_16 6 (dk_at dksX6_readLine_4 4 rfl rfl)
theorem dX6_readLine_98 : decode cX6_readLine 98 = .ok (.iconst 0, 1) := dk_3 (dk_at dksX6_readLine_4 6 rfl rfl)
theorem dX6_readLine_99 : decode cX6_readLine 99 = .ok (.bipush 99, 2) := dk_16 99 (dk_at dksX6_readLine_4 7 rfl rfl)
theorem dX6_readLine_101 : decode cX6_readLine 101 = .ok (.invokevirtual 224, 3) := dk_182 0 224 (dk_at dksX6_readLine_4 9 rfl rfl)
theorem dX6_readLine_104 : decode cX6_readLine 104 = .ok (.istore_n 2, 1) := dk_61 (dk_at dksX6_readLine_4 12 rfl rfl)
theorem dX6_readLine_105 : decode cX6_readLine 105 = .ok (.aload_n 0, 1) := dk_42 (dk_at dksX6_readLine_4 13 rfl rfl)
theorem dX6_readLine_106 : decode cX6_readLine 106 = .ok (.getfield 159, 3) := dk_180 0 159 (dk_at dksX6_readLine_4 14 rfl rfl)
theorem dX6_readLine_109 : decode cX6_readLine 109 = .ok (.ifCond .ne 10, 3) := dk_154 0 10 (dk_at dksX6_readLine_4 17 rfl rfl)
theorem dX6_readLine_112 : decode cX6_readLine 112 = .ok (.aload_n 0, 1) := dk_42 (dk_at dksX6_readLine_4 20 rfl rfl)
theorem dX6_readLine_113 : decode cX6_readLine 113 = .ok (.getfield 89, 3) := dk_180 0 89 (dk_at dksX6_readLine_4 21 rfl rfl)
theorem dX6_readLine_116 : decode cX6_readLine 116 = .ok (.iload_n 1, 1) := dk_27 (dk_at dksX6_readLine_5 0 rfl rfl)
theorem dX6_readLine_117 : decode cX6_readLine 117 = .ok (.iload_n 2, 1) := dk_28 (dk_at dksX6_readLine_5 1 rfl rfl)
theorem dX6_readLine_118 : decode cX6_readLine 118 = .ok (.iastore, 1) := dk_79 (dk_at dksX6_readLine_5 2 rfl rfl)
theorem dX6_readLine_119 : decode cX6_readLine 119 = .ok (.goto 7, 3) := dk_167 0 7 (dk_at dksX6_readLine_5 3 rfl rfl)
theorem dX6_readLine_122 : decode cX6_readLine 122 = .ok (.aload_n 0, 1) := dk_42 (dk_at dksX6_readLine_5 6 rfl rfl)
theorem dX6_readLine_123 : decode cX6_readLine 123 = .ok (.invokevirtual 228, 3) := dk_182 0 228 (dk_at dksX6_readLine_5 7 rfl rfl)
theorem dX6_readLine_126 : decode cX6_readLine 126 = .ok (.return_, 1) := dk_177 (dk_at dksX6_readLine_5 10 rfl rfl)
abbrev cX6_isWord : ByteArray := prog_24_method_12_code
def yX6_isWord : MethodName := ⟨RX6, "isWord", "(I)Z"⟩
def dkwX6_isWord_1 : List UInt8 := [42, 180, 0, 156, 47, 42, 180, 0, 86, 27, 47, 148, 154, 0, 7, 4, 167, 0, 4, 3, 172]
abbrev dktX6_isWord_1 : List UInt8 := dkwX6_isWord_1 ++ []
def dkwX6_isWord_0 : List UInt8 := [42, 180, 0, 159, 154, 0, 39, 42, 180, 0, 24, 42, 180, 0, 156, 46, 4, 160, 0, 26, 42, 180, 0, 30]
abbrev dktX6_isWord_0 : List UInt8 := dkwX6_isWord_0 ++ dktX6_isWord_1
theorem dksX6_isWord_0 : cX6_isWord.data.toList.drop 0 = dktX6_isWord_0 := by decide +kernel
theorem dksX6_isWord_1 : cX6_isWord.data.toList.drop 24 = dktX6_isWord_1 := dk_seg dksX6_isWord_0 24 rfl rfl
theorem dX6_isWord_0 : decode cX6_isWord 0 = .ok (.aload_n 0, 1) := dk_42 (dk_at dksX6_isWord_0 0 rfl rfl)
theorem dX6_isWord_1 : decode cX6_isWord 1 = .ok (.getfield 159, 3) := dk_180 0 159 (dk_at dksX6_isWord_0 1 rfl rfl)
theorem dX6_isWord_4 : decode cX6_isWord 4 = .ok (.ifCond .ne 39, 3) := dk_154 0 39 (dk_at dksX6_isWord_0 4 rfl rfl)
theorem dX6_isWord_7 : decode cX6_isWord 7 = .ok (.aload_n 0, 1) := dk_42 (dk_at dksX6_isWord_0 7 rfl rfl)
theorem dX6_isWord_8 : decode cX6_isWord 8 = .ok (.getfield 24, 3) := dk_180 0 24 (dk_at dksX6_isWord_0 8 rfl rfl)
theorem dX6_isWord_11 : decode cX6_isWord 11 = .ok (.aload_n 0, 1) := dk_42 (dk_at dksX6_isWord_0 11 rfl rfl)
theorem dX6_isWord_12 : decode cX6_isWord 12 = .ok (.getfield 156, 3) := dk_180 0 156 (dk_at dksX6_isWord_0 12 rfl rfl)
theorem dX6_isWord_15 : decode cX6_isWord 15 = .ok (.iaload, 1) := dk_46 (dk_at dksX6_isWord_0 15 rfl rfl)
theorem dX6_isWord_16 : decode cX6_isWord 16 = .ok (.iconst 1, 1) := dk_4 (dk_at dksX6_isWord_0 16 rfl rfl)
theorem dX6_isWord_17 : decode cX6_isWord 17 = .ok (.if_icmp .ne 26, 3) := dk_160 0 26 (dk_at dksX6_isWord_0 17 rfl rfl)
theorem dX6_isWord_20 : decode cX6_isWord 20 = .ok (.aload_n 0, 1) := dk_42 (dk_at dksX6_isWord_0 20 rfl rfl)
theorem dX6_isWord_21 : decode cX6_isWord 21 = .ok (.getfield 30, 3) := dk_180 0 30 (dk_at dksX6_isWord_0 21 rfl rfl)
theorem dX6_isWord_24 : decode cX6_isWord 24 = .ok (.aload_n 0, 1) := dk_42 (dk_at dksX6_isWord_1 0 rfl rfl)
theorem dX6_isWord_25 : decode cX6_isWord 25 = .ok (.getfield 156, 3) := dk_180 0 156 (dk_at dksX6_isWord_1 1 rfl rfl)
theorem dX6_isWord_28 : decode cX6_isWord 28 = .ok (.laload, 1) := dk_47 (dk_at dksX6_isWord_1 4 rfl rfl)
theorem dX6_isWord_29 : decode cX6_isWord 29 = .ok (.aload_n 0, 1) := dk_42 (dk_at dksX6_isWord_1 5 rfl rfl)
theorem dX6_isWord_30 : decode cX6_isWord 30 = .ok (.getfield 86, 3) := dk_180 0 86 (dk_at dksX6_isWord_1 6 rfl rfl)
theorem dX6_isWord_33 : decode cX6_isWord 33 = .ok (.iload_n 1, 1) := dk_27 (dk_at dksX6_isWord_1 9 rfl rfl)
theorem dX6_isWord_34 : decode cX6_isWord 34 = .ok (.laload, 1) := dk_47 (dk_at dksX6_isWord_1 10 rfl rfl)
theorem dX6_isWord_35 : decode cX6_isWord 35 = .ok (.lcmp, 1) := dk_148 (dk_at dksX6_isWord_1 11 rfl rfl)
theorem dX6_isWord_36 : decode cX6_isWord 36 = .ok (.ifCond .ne 7, 3) := dk_154 0 7 (dk_at dksX6_isWord_1 12 rfl rfl)
theorem dX6_isWord_39 : decode cX6_isWord 39 = .ok (.iconst 1, 1) := dk_4 (dk_at dksX6_isWord_1 15 rfl rfl)
theorem dX6_isWord_40 : decode cX6_isWord 40 = .ok (.goto 4, 3) := dk_167 0 4 (dk_at dksX6_isWord_1 16 rfl rfl)
theorem dX6_isWord_43 : decode cX6_isWord 43 = .ok (.iconst 0, 1) := dk_3 (dk_at dksX6_isWord_1 19 rfl rfl)
theorem dX6_isWord_44 : decode cX6_isWord 44 = .ok (.ireturn, 1) := dk_172 (dk_at dksX6_isWord_1 20 rfl rfl)
abbrev cX6_readPane : ByteArray := prog_24_method_29_code
def yX6_readPane : MethodName := ⟨RX6, "readPane", "()V"⟩
def dkwX6_readPane_6 : List UInt8 := [27, 4, 96, 29, 79, 42, 180, 0, 89, 27, 5, 96, 21, 4, 79, 177]
abbrev dktX6_readPane_6 : List UInt8 := dkwX6_readPane_6 ++ []
def dkwX6_readPane_5 : List UInt8 := [128, 54, 4, 167, 255, 180, 42, 180, 0, 159, 154, 0, 29, 42, 180, 0, 89, 27, 28, 79, 42, 180, 0, 89]
abbrev dktX6_readPane_5 : List UInt8 := dkwX6_readPane_5 ++ dktX6_readPane_6
def dkwX6_readPane_4 : List UInt8 := [160, 0, 18, 42, 89, 180, 0, 156, 4, 100, 181, 0, 156, 42, 6, 182, 0, 165, 21, 4, 4, 21, 5, 120]
abbrev dktX6_readPane_4 : List UInt8 := dkwX6_readPane_4 ++ dktX6_readPane_5
def dkwX6_readPane_3 : List UInt8 := [42, 3, 16, 9, 182, 0, 177, 54, 5, 42, 180, 0, 159, 154, 0, 29, 21, 4, 21, 5, 122, 4, 126, 4]
abbrev dktX6_readPane_3 : List UInt8 := dkwX6_readPane_3 ++ dktX6_readPane_4
def dkwX6_readPane_2 : List UInt8 := [180, 0, 159, 154, 0, 75, 21, 4, 153, 0, 16, 42, 180, 0, 24, 42, 180, 0, 156, 46, 5, 160, 0, 57]
abbrev dktX6_readPane_2 : List UInt8 := dkwX6_readPane_2 ++ dktX6_readPane_3
def dkwX6_readPane_1 : List UInt8 := [7, 182, 0, 231, 61, 42, 4, 4, 16, 6, 182, 0, 224, 62, 42, 5, 182, 0, 174, 3, 54, 4, 42]
abbrev dktX6_readPane_1 : List UInt8 := dkwX6_readPane_1 ++ dktX6_readPane_2
def dkwX6_readPane_0 : List UInt8 := [16, 65, 6, 42, 180, 0, 89, 16, 60, 46, 104, 96, 60, 42, 3, 16, 6, 3, 182, 0, 220, 42, 16, 15]
abbrev dktX6_readPane_0 : List UInt8 := dkwX6_readPane_0 ++ dktX6_readPane_1
theorem dksX6_readPane_0 : cX6_readPane.data.toList.drop 0 = dktX6_readPane_0 := by decide +kernel
theorem dksX6_readPane_1 : cX6_readPane.data.toList.drop 24 = dktX6_readPane_1 := dk_seg dksX6_readPane_0 24 rfl rfl
theorem dksX6_readPane_2 : cX6_readPane.data.toList.drop 47 = dktX6_readPane_2 := dk_seg dksX6_readPane_1 23 rfl rfl
theorem dksX6_readPane_3 : cX6_readPane.data.toList.drop 71 = dktX6_readPane_3 := dk_seg dksX6_readPane_2 24 rfl rfl
theorem dksX6_readPane_4 : cX6_readPane.data.toList.drop 95 = dktX6_readPane_4 := dk_seg dksX6_readPane_3 24 rfl rfl
theorem dksX6_readPane_5 : cX6_readPane.data.toList.drop 119 = dktX6_readPane_5 := dk_seg dksX6_readPane_4 24 rfl rfl
theorem dksX6_readPane_6 : cX6_readPane.data.toList.drop 143 = dktX6_readPane_6 := dk_seg dksX6_readPane_5 24 rfl rfl
theorem dX6_readPane_0 : decode cX6_readPane 0 = .ok (.bipush 65, 2) := dk_16 65 (dk_at dksX6_readPane_0 0 rfl rfl)
theorem dX6_readPane_2 : decode cX6_readPane 2 = .ok (.iconst 3, 1) := dk_6 (dk_at dksX6_readPane_0 2 rfl rfl)
theorem dX6_readPane_3 : decode cX6_readPane 3 = .ok (.aload_n 0, 1) := dk_42 (dk_at dksX6_readPane_0 3 rfl rfl)
theorem dX6_readPane_4 : decode cX6_readPane 4 = .ok (.getfield 89, 3) := dk_180 0 89 (dk_at dksX6_readPane_0 4 rfl rfl)
theorem dX6_readPane_7 : decode cX6_readPane 7 = .ok (.bipush 60, 2) := dk_16 60 (dk_at dksX6_readPane_0 7 rfl rfl)
theorem dX6_readPane_9 : decode cX6_readPane 9 = .ok (.iaload, 1) := dk_46 (dk_at dksX6_readPane_0 9 rfl rfl)
theorem dX6_readPane_10 : decode cX6_readPane 10 = .ok (.imul, 1) := dk_104 (dk_at dksX6_readPane_0 10 rfl rfl)
theorem dX6_readPane_11 : decode cX6_readPane 11 = .ok (.iadd, 1) := dk_96 (dk_at dksX6_readPane_0 11 rfl rfl)
theorem dX6_readPane_12 : decode cX6_readPane 12 = .ok (.istore_n 1, 1) := dk_60 (dk_at dksX6_readPane_0 12 rfl rfl)
theorem dX6_readPane_13 : decode cX6_readPane 13 = .ok (.aload_n 0, 1) := dk_42 (dk_at dksX6_readPane_0 13 rfl rfl)
theorem dX6_readPane_14 : decode cX6_readPane 14 = .ok (.iconst 0, 1) := dk_3 (dk_at dksX6_readPane_0 14 rfl rfl)
theorem dX6_readPane_15 : decode cX6_readPane 15 = .ok (.bipush 6, 2) := dk_16 6 (dk_at dksX6_readPane_0 15 rfl rfl)
theorem dX6_readPane_17 : decode cX6_readPane 17 = .ok (.iconst 0, 1) := dk_3 (dk_at dksX6_readPane_0 17 rfl rfl)
theorem dX6_readPane_18 : decode cX6_readPane 18 = .ok (.invokevirtual 220, 3) := dk_182 0 220 (dk_at dksX6_readPane_0 18 rfl rfl)
theorem dX6_readPane_21 : decode cX6_readPane 21 = .ok (.aload_n 0, 1) := dk_42 (dk_at dksX6_readPane_0 21 rfl rfl)
theorem dX6_readPane_22 : decode cX6_readPane 22 = .ok (.bipush 15, 2) := dk_16 15 (dk_at dksX6_readPane_0 22 rfl rfl)
theorem dX6_readPane_24 : decode cX6_readPane 24 = .ok (.iconst 4, 1) := dk_7 (dk_at dksX6_readPane_1 0 rfl rfl)
theorem dX6_readPane_25 : decode cX6_readPane 25 = .ok (.invokevirtual 231, 3) := dk_182 0 231 (dk_at dksX6_readPane_1 1 rfl rfl)
theorem dX6_readPane_28 : decode cX6_readPane 28 = .ok (.istore_n 2, 1) := dk_61 (dk_at dksX6_readPane_1 4 rfl rfl)
theorem dX6_readPane_29 : decode cX6_readPane 29 = .ok (.aload_n 0, 1) := dk_42 (dk_at dksX6_readPane_1 5 rfl rfl)
theorem dX6_readPane_30 : decode cX6_readPane 30 = .ok (.iconst 1, 1) := dk_4 (dk_at dksX6_readPane_1 6 rfl rfl)
theorem dX6_readPane_31 : decode cX6_readPane 31 = .ok (.iconst 1, 1) := dk_4 (dk_at dksX6_readPane_1 7 rfl rfl)
theorem dX6_readPane_32 : decode cX6_readPane 32 = .ok (.bipush 6, 2) := dk_16 6 (dk_at dksX6_readPane_1 8 rfl rfl)
theorem dX6_readPane_34 : decode cX6_readPane 34 = .ok (.invokevirtual 224, 3) := dk_182 0 224 (dk_at dksX6_readPane_1 10 rfl rfl)
theorem dX6_readPane_37 : decode cX6_readPane 37 = .ok (.istore_n 3, 1) := dk_62 (dk_at dksX6_readPane_1 13 rfl rfl)
theorem dX6_readPane_38 : decode cX6_readPane 38 = .ok (.aload_n 0, 1) := dk_42 (dk_at dksX6_readPane_1 14 rfl rfl)
theorem dX6_readPane_39 : decode cX6_readPane 39 = .ok (.iconst 2, 1) := dk_5 (dk_at dksX6_readPane_1 15 rfl rfl)
theorem dX6_readPane_40 : decode cX6_readPane 40 = .ok (.invokevirtual 174, 3) := dk_182 0 174 (dk_at dksX6_readPane_1 16 rfl rfl)
theorem dX6_readPane_43 : decode cX6_readPane 43 = .ok (.iconst 0, 1) := dk_3 (dk_at dksX6_readPane_1 19 rfl rfl)
theorem dX6_readPane_44 : decode cX6_readPane 44 = .ok (.istore 4, 2) := dk_54 4 (dk_at dksX6_readPane_1 20 rfl rfl)
theorem dX6_readPane_46 : decode cX6_readPane 46 = .ok (.aload_n 0, 1) := dk_42 (dk_at dksX6_readPane_1 22 rfl rfl)
theorem dX6_readPane_47 : decode cX6_readPane 47 = .ok (.getfield 159, 3) := dk_180 0 159 (dk_at dksX6_readPane_2 0 rfl rfl)
theorem dX6_readPane_50 : decode cX6_readPane 50 = .ok (.ifCond .ne 75, 3) := dk_154 0 75 (dk_at dksX6_readPane_2 3 rfl rfl)
theorem dX6_readPane_53 : decode cX6_readPane 53 = .ok (.iload 4, 2) := dk_21 4 (dk_at dksX6_readPane_2 6 rfl rfl)
theorem dX6_readPane_55 : decode cX6_readPane 55 = .ok (.ifCond .eq 16, 3) := dk_153 0 16 (dk_at dksX6_readPane_2 8 rfl rfl)
theorem dX6_readPane_58 : decode cX6_readPane 58 = .ok (.aload_n 0, 1) := dk_42 (dk_at dksX6_readPane_2 11 rfl rfl)
theorem dX6_readPane_59 : decode cX6_readPane 59 = .ok (.getfield 24, 3) := dk_180 0 24 (dk_at dksX6_readPane_2 12 rfl rfl)
theorem dX6_readPane_62 : decode cX6_readPane 62 = .ok (.aload_n 0, 1) := dk_42 (dk_at dksX6_readPane_2 15 rfl rfl)
theorem dX6_readPane_63 : decode cX6_readPane 63 = .ok (.getfield 156, 3) := dk_180 0 156 (dk_at dksX6_readPane_2 16 rfl rfl)
theorem dX6_readPane_66 : decode cX6_readPane 66 = .ok (.iaload, 1) := dk_46 (dk_at dksX6_readPane_2 19 rfl rfl)
theorem dX6_readPane_67 : decode cX6_readPane 67 = .ok (.iconst 2, 1) := dk_5 (dk_at dksX6_readPane_2 20 rfl rfl)
theorem dX6_readPane_68 : decode cX6_readPane 68 = .ok (.if_icmp .ne 57, 3) := dk_160 0 57 (dk_at dksX6_readPane_2 21 rfl rfl)
theorem dX6_readPane_71 : decode cX6_readPane 71 = .ok (.aload_n 0, 1) := dk_42 (dk_at dksX6_readPane_3 0 rfl rfl)
theorem dX6_readPane_72 : decode cX6_readPane 72 = .ok (.iconst 0, 1) := dk_3 (dk_at dksX6_readPane_3 1 rfl rfl)
theorem dX6_readPane_73 : decode cX6_readPane 73 = .ok (.bipush 9, 2) := dk_16 9 (dk_at dksX6_readPane_3 2 rfl rfl)
theorem dX6_readPane_75 : decode cX6_readPane 75 = .ok (.invokevirtual 177, 3) := dk_182 0 177 (dk_at dksX6_readPane_3 4 rfl rfl)
theorem dX6_readPane_78 : decode cX6_readPane 78 = .ok (.istore 5, 2) := dk_54 5 (dk_at dksX6_readPane_3 7 rfl rfl)
theorem dX6_readPane_80 : decode cX6_readPane 80 = .ok (.aload_n 0, 1) := dk_42 (dk_at dksX6_readPane_3 9 rfl rfl)
theorem dX6_readPane_81 : decode cX6_readPane 81 = .ok (.getfield 159, 3) := dk_180 0 159 (dk_at dksX6_readPane_3 10 rfl rfl)
theorem dX6_readPane_84 : decode cX6_readPane 84 = .ok (.ifCond .ne 29, 3) := dk_154 0 29 (dk_at dksX6_readPane_3 13 rfl rfl)
theorem dX6_readPane_87 : decode cX6_readPane 87 = .ok (.iload 4, 2) := dk_21 4 (dk_at dksX6_readPane_3 16 rfl rfl)
theorem dX6_readPane_89 : decode cX6_readPane 89 = .ok (.iload 5, 2) := dk_21 5 (dk_at dksX6_readPane_3 18 rfl rfl)
theorem dX6_readPane_91 : decode cX6_readPane 91 = .ok (.ishr, 1) := dk_122 (dk_at dksX6_readPane_3 20 rfl rfl)
theorem dX6_readPane_92 : decode cX6_readPane 92 = .ok (.iconst 1, 1) := dk_4 (dk_at dksX6_readPane_3 21 rfl rfl)
theorem dX6_readPane_93 : decode cX6_readPane 93 = .ok (.iand, 1) := dk_126 (dk_at dksX6_readPane_3 22 rfl rfl)
theorem dX6_readPane_94 : decode cX6_readPane 94 = .ok (.iconst 1, 1) := dk_4 (dk_at dksX6_readPane_3 23 rfl rfl)
theorem dX6_readPane_95 : decode cX6_readPane 95 = .ok (.if_icmp .ne 18, 3) := dk_160 0 18 (dk_at dksX6_readPane_4 0 rfl rfl)
theorem dX6_readPane_98 : decode cX6_readPane 98 = .ok (.aload_n 0, 1) := dk_42 (dk_at dksX6_readPane_4 3 rfl rfl)
theorem dX6_readPane_99 : decode cX6_readPane 99 = .ok (.dup, 1) := dk_89 (dk_at dksX6_readPane_4 4 rfl rfl)
theorem dX6_readPane_100 : decode cX6_readPane 100 = .ok (.getfield 156, 3) := dk_180 0 156 (dk_at dksX6_readPane_4 5 rfl rfl)
theorem dX6_readPane_103 : decode cX6_readPane 103 = .ok (.iconst 1, 1) := dk_4 (dk_at dksX6_readPane_4 8 rfl rfl)
theorem dX6_readPane_104 : decode cX6_readPane 104 = .ok (.isub, 1) := dk_100 (dk_at dksX6_readPane_4 9 rfl rfl)
theorem dX6_readPane_105 : decode cX6_readPane 105 = .ok (.putfield 156, 3) := dk_181 0 156 (dk_at dksX6_readPane_4 10 rfl rfl)
theorem dX6_readPane_108 : decode cX6_readPane 108 = .ok (.aload_n 0, 1) := dk_42 (dk_at dksX6_readPane_4 13 rfl rfl)
theorem dX6_readPane_109 : decode cX6_readPane 109 = .ok (.iconst 3, 1) := dk_6 (dk_at dksX6_readPane_4 14 rfl rfl)
theorem dX6_readPane_110 : decode cX6_readPane 110 = .ok (.invokevirtual 165, 3) := dk_182 0 165 (dk_at dksX6_readPane_4 15 rfl rfl)
theorem dX6_readPane_113 : decode cX6_readPane 113 = .ok (.iload 4, 2) := dk_21 4 (dk_at dksX6_readPane_4 18 rfl rfl)
theorem dX6_readPane_115 : decode cX6_readPane 115 = .ok (.iconst 1, 1) := dk_4 (dk_at dksX6_readPane_4 20 rfl rfl)
theorem dX6_readPane_116 : decode cX6_readPane 116 = .ok (.iload 5, 2) := dk_21 5 (dk_at dksX6_readPane_4 21 rfl rfl)
theorem dX6_readPane_118 : decode cX6_readPane 118 = .ok (.ishl, 1) := dk_120 (dk_at dksX6_readPane_4 23 rfl rfl)
theorem dX6_readPane_119 : decode cX6_readPane 119 = .ok (.ior, 1) := dk_128 (dk_at dksX6_readPane_5 0 rfl rfl)
theorem dX6_readPane_120 : decode cX6_readPane 120 = .ok (.istore 4, 2) := dk_54 4 (dk_at dksX6_readPane_5 1 rfl rfl)
theorem dX6_readPane_122 : decode cX6_readPane 122 = .ok (.goto (-76), 3) := dk_167 255 180 (dk_at dksX6_readPane_5 3 rfl rfl)
theorem dX6_readPane_125 : decode cX6_readPane 125 = .ok (.aload_n 0, 1) := dk_42 (dk_at dksX6_readPane_5 6 rfl rfl)
theorem dX6_readPane_126 : decode cX6_readPane 126 = .ok (.getfield 159, 3) := dk_180 0 159 (dk_at dksX6_readPane_5 7 rfl rfl)
theorem dX6_readPane_129 : decode cX6_readPane 129 = .ok (.ifCond .ne 29, 3) := dk_154 0 29 (dk_at dksX6_readPane_5 10 rfl rfl)
theorem dX6_readPane_132 : decode cX6_readPane 132 = .ok (.aload_n 0, 1) := dk_42 (dk_at dksX6_readPane_5 13 rfl rfl)
theorem dX6_readPane_133 : decode cX6_readPane 133 = .ok (.getfield 89, 3) := dk_180 0 89 (dk_at dksX6_readPane_5 14 rfl rfl)
theorem dX6_readPane_136 : decode cX6_readPane 136 = .ok (.iload_n 1, 1) := dk_27 (dk_at dksX6_readPane_5 17 rfl rfl)
theorem dX6_readPane_137 : decode cX6_readPane 137 = .ok (.iload_n 2, 1) := dk_28 (dk_at dksX6_readPane_5 18 rfl rfl)
theorem dX6_readPane_138 : decode cX6_readPane 138 = .ok (.iastore, 1) := dk_79 (dk_at dksX6_readPane_5 19 rfl rfl)
theorem dX6_readPane_139 : decode cX6_readPane 139 = .ok (.aload_n 0, 1) := dk_42 (dk_at dksX6_readPane_5 20 rfl rfl)
theorem dX6_readPane_140 : decode cX6_readPane 140 = .ok (.getfield 89, 3) := dk_180 0 89 (dk_at dksX6_readPane_5 21 rfl rfl)
theorem dX6_readPane_143 : decode cX6_readPane 143 = .ok (.iload_n 1, 1) := dk_27 (dk_at dksX6_readPane_6 0 rfl rfl)
theorem dX6_readPane_144 : decode cX6_readPane 144 = .ok (.iconst 1, 1) := dk_4 (dk_at dksX6_readPane_6 1 rfl rfl)
theorem dX6_readPane_145 : decode cX6_readPane 145 = .ok (.iadd, 1) := dk_96 (dk_at dksX6_readPane_6 2 rfl rfl)
theorem dX6_readPane_146 : decode cX6_readPane 146 = .ok (.iload_n 3, 1) := dk_29 (dk_at dksX6_readPane_6 3 rfl rfl)
theorem dX6_readPane_147 : decode cX6_readPane 147 = .ok (.iastore, 1) := dk_79 (dk_at dksX6_readPane_6 4 rfl rfl)
theorem dX6_readPane_148 : decode cX6_readPane 148 = .ok (.aload_n 0, 1) := dk_42 (dk_at dksX6_readPane_6 5 rfl rfl)
theorem dX6_readPane_149 : decode cX6_readPane 149 = .ok (.getfield 89, 3) := dk_180 0 89 (dk_at dksX6_readPane_6 6 rfl rfl)
theorem dX6_readPane_152 : decode cX6_readPane 152 = .ok (.iload_n 1, 1) := dk_27 (dk_at dksX6_readPane_6 9 rfl rfl)
theorem dX6_readPane_153 : decode cX6_readPane 153 = .ok (.iconst 2, 1) := dk_5 (dk_at dksX6_readPane_6 10 rfl rfl)
theorem dX6_readPane_154 : decode cX6_readPane 154 = .ok (.iadd, 1) := dk_96 (dk_at dksX6_readPane_6 11 rfl rfl)
theorem dX6_readPane_155 : decode cX6_readPane 155 = .ok (.iload 4, 2) := dk_21 4 (dk_at dksX6_readPane_6 12 rfl rfl)
theorem dX6_readPane_157 : decode cX6_readPane 157 = .ok (.iastore, 1) := dk_79 (dk_at dksX6_readPane_6 14 rfl rfl)
theorem dX6_readPane_158 : decode cX6_readPane 158 = .ok (.return_, 1) := dk_177 (dk_at dksX6_readPane_6 15 rfl rfl)
abbrev cX6_readName : ByteArray := prog_24_method_28_code
def yX6_readName : MethodName := ⟨RX6, "readName", "(III)V"⟩
def dkwX6_readName_5 : List UInt8 := [42, 180, 0, 89, 16, 60, 27, 96, 92, 46, 4, 96, 79, 177]
abbrev dktX6_readName_5 : List UInt8 := dkwX6_readName_5 ++ []
def dkwX6_readName_4 : List UInt8 := [21, 4, 96, 79, 42, 89, 180, 0, 184, 4, 96, 181, 0, 184, 42, 89, 180, 0, 156, 4, 96, 181, 0, 156]
abbrev dktX6_readName_4 : List UInt8 := dkwX6_readName_4 ++ dktX6_readName_5
def dkwX6_readName_3 : List UInt8 := [42, 180, 0, 184, 42, 180, 0, 30, 42, 180, 0, 156, 47, 80, 42, 180, 0, 107, 42, 180, 0, 184, 29]
abbrev dktX6_readName_3 : List UInt8 := dkwX6_readName_3 ++ dktX6_readName_4
def dkwX6_readName_2 : List UInt8 := [42, 4, 182, 0, 194, 155, 0, 8, 42, 6, 182, 0, 165, 42, 180, 0, 159, 154, 0, 67, 42, 180, 0, 101]
abbrev dktX6_readName_2 : List UInt8 := dkwX6_readName_2 ++ dktX6_readName_3
def dkwX6_readName_1 : List UInt8 := [89, 180, 0, 156, 4, 96, 181, 0, 156, 42, 182, 0, 190, 154, 0, 11, 42, 4, 182, 0, 165, 167, 0, 16]
abbrev dktX6_readName_1 : List UInt8 := dkwX6_readName_1 ++ dktX6_readName_2
def dkwX6_readName_0 : List UInt8 := [42, 180, 0, 89, 16, 60, 27, 96, 46, 54, 4, 21, 4, 28, 160, 0, 9, 42, 8, 182, 0, 165, 177, 42]
abbrev dktX6_readName_0 : List UInt8 := dkwX6_readName_0 ++ dktX6_readName_1
theorem dksX6_readName_0 : cX6_readName.data.toList.drop 0 = dktX6_readName_0 := by decide +kernel
theorem dksX6_readName_1 : cX6_readName.data.toList.drop 24 = dktX6_readName_1 := dk_seg dksX6_readName_0 24 rfl rfl
theorem dksX6_readName_2 : cX6_readName.data.toList.drop 48 = dktX6_readName_2 := dk_seg dksX6_readName_1 24 rfl rfl
theorem dksX6_readName_3 : cX6_readName.data.toList.drop 72 = dktX6_readName_3 := dk_seg dksX6_readName_2 24 rfl rfl
theorem dksX6_readName_4 : cX6_readName.data.toList.drop 95 = dktX6_readName_4 := dk_seg dksX6_readName_3 23 rfl rfl
theorem dksX6_readName_5 : cX6_readName.data.toList.drop 119 = dktX6_readName_5 := dk_seg dksX6_readName_4 24 rfl rfl
theorem dX6_readName_0 : decode cX6_readName 0 = .ok (.aload_n 0, 1) := dk_42 (dk_at dksX6_readName_0 0 rfl rfl)
theorem dX6_readName_1 : decode cX6_readName 1 = .ok (.getfield 89, 3) := dk_180 0 89 (dk_at dksX6_readName_0 1 rfl rfl)
theorem dX6_readName_4 : decode cX6_readName 4 = .ok (.bipush 60, 2) := dk_16 60 (dk_at dksX6_readName_0 4 rfl rfl)
theorem dX6_readName_6 : decode cX6_readName 6 = .ok (.iload_n 1, 1) := dk_27 (dk_at dksX6_readName_0 6 rfl rfl)
theorem dX6_readName_7 : decode cX6_readName 7 = .ok (.iadd, 1) := dk_96 (dk_at dksX6_readName_0 7 rfl rfl)
theorem dX6_readName_8 : decode cX6_readName 8 = .ok (.iaload, 1) := dk_46 (dk_at dksX6_readName_0 8 rfl rfl)
theorem dX6_readName_9 : decode cX6_readName 9 = .ok (.istore 4, 2) := dk_54 4 (dk_at dksX6_readName_0 9 rfl rfl)
theorem dX6_readName_11 : decode cX6_readName 11 = .ok (.iload 4, 2) := dk_21 4 (dk_at dksX6_readName_0 11 rfl rfl)
theorem dX6_readName_13 : decode cX6_readName 13 = .ok (.iload_n 2, 1) := dk_28 (dk_at dksX6_readName_0 13 rfl rfl)
theorem dX6_readName_14 : decode cX6_readName 14 = .ok (.if_icmp .ne 9, 3) := dk_160 0 9 (dk_at dksX6_readName_0 14 rfl rfl)
theorem dX6_readName_17 : decode cX6_readName 17 = .ok (.aload_n 0, 1) := dk_42 (dk_at dksX6_readName_0 17 rfl rfl)
theorem dX6_readName_18 : decode cX6_readName 18 = .ok (.iconst 5, 1) := dk_8 (dk_at dksX6_readName_0 18 rfl rfl)
theorem dX6_readName_19 : decode cX6_readName 19 = .ok (.invokevirtual 165, 3) := dk_182 0 165 (dk_at dksX6_readName_0 19 rfl rfl)
theorem dX6_readName_22 : decode cX6_readName 22 = .ok (.return_, 1) := dk_177 (dk_at dksX6_readName_0 22 rfl rfl)
theorem dX6_readName_23 : decode cX6_readName 23 = .ok (.aload_n 0, 1) := dk_42 (dk_at dksX6_readName_0 23 rfl rfl)
theorem dX6_readName_24 : decode cX6_readName 24 = .ok (.dup, 1) := dk_89 (dk_at dksX6_readName_1 0 rfl rfl)
theorem dX6_readName_25 : decode cX6_readName 25 = .ok (.getfield 156, 3) := dk_180 0 156 (dk_at dksX6_readName_1 1 rfl rfl)
theorem dX6_readName_28 : decode cX6_readName 28 = .ok (.iconst 1, 1) := dk_4 (dk_at dksX6_readName_1 4 rfl rfl)
theorem dX6_readName_29 : decode cX6_readName 29 = .ok (.iadd, 1) := dk_96 (dk_at dksX6_readName_1 5 rfl rfl)
theorem dX6_readName_30 : decode cX6_readName 30 = .ok (.putfield 156, 3) := dk_181 0 156 (dk_at dksX6_readName_1 6 rfl rfl)
theorem dX6_readName_33 : decode cX6_readName 33 = .ok (.aload_n 0, 1) := dk_42 (dk_at dksX6_readName_1 9 rfl rfl)
theorem dX6_readName_34 : decode cX6_readName 34 = .ok (.invokevirtual 190, 3) := dk_182 0 190 (dk_at dksX6_readName_1 10 rfl rfl)
theorem dX6_readName_37 : decode cX6_readName 37 = .ok (.ifCond .ne 11, 3) := dk_154 0 11 (dk_at dksX6_readName_1 13 rfl rfl)
theorem dX6_readName_40 : decode cX6_readName 40 = .ok (.aload_n 0, 1) := dk_42 (dk_at dksX6_readName_1 16 rfl rfl)
theorem dX6_readName_41 : decode cX6_readName 41 = .ok (.iconst 1, 1) := dk_4 (dk_at dksX6_readName_1 17 rfl rfl)
theorem dX6_readName_42 : decode cX6_readName 42 = .ok (.invokevirtual 165, 3) := dk_182 0 165 (dk_at dksX6_readName_1 18 rfl rfl)
theorem dX6_readName_45 : decode cX6_readName 45 = .ok (.goto 16, 3) := dk_167 0 16 (dk_at dksX6_readName_1 21 rfl rfl)
theorem dX6_readName_48 : decode cX6_readName 48 = .ok (.aload_n 0, 1) := dk_42 (dk_at dksX6_readName_2 0 rfl rfl)
theorem dX6_readName_49 : decode cX6_readName 49 = .ok (.iconst 1, 1) := dk_4 (dk_at dksX6_readName_2 1 rfl rfl)
theorem dX6_readName_50 : decode cX6_readName 50 = .ok (.invokevirtual 194, 3) := dk_182 0 194 (dk_at dksX6_readName_2 2 rfl rfl)
theorem dX6_readName_53 : decode cX6_readName 53 = .ok (.ifCond .lt 8, 3) := dk_155 0 8 (dk_at dksX6_readName_2 5 rfl rfl)
theorem dX6_readName_56 : decode cX6_readName 56 = .ok (.aload_n 0, 1) := dk_42 (dk_at dksX6_readName_2 8 rfl rfl)
theorem dX6_readName_57 : decode cX6_readName 57 = .ok (.iconst 3, 1) := dk_6 (dk_at dksX6_readName_2 9 rfl rfl)
theorem dX6_readName_58 : decode cX6_readName 58 = .ok (.invokevirtual 165, 3) := dk_182 0 165 (dk_at dksX6_readName_2 10 rfl rfl)
theorem dX6_readName_61 : decode cX6_readName 61 = .ok (.aload_n 0, 1) := dk_42 (dk_at dksX6_readName_2 13 rfl rfl)
theorem dX6_readName_62 : decode cX6_readName 62 = .ok (.getfield 159, 3) := dk_180 0 159 (dk_at dksX6_readName_2 14 rfl rfl)
theorem dX6_readName_65 : decode cX6_readName 65 = .ok (.ifCond .ne 67, 3) := dk_154 0 67 (dk_at dksX6_readName_2 17 rfl rfl)
theorem dX6_readName_68 : decode cX6_readName 68 = .ok (.aload_n 0, 1) := dk_42 (dk_at dksX6_readName_2 20 rfl rfl)
theorem dX6_readName_69 : decode cX6_readName 69 = .ok (.getfield 101, 3) := dk_180 0 101 (dk_at dksX6_readName_2 21 rfl rfl)
theorem dX6_readName_72 : decode cX6_readName 72 = .ok (.aload_n 0, 1) := dk_42 (dk_at dksX6_readName_3 0 rfl rfl)
theorem dX6_readName_73 : decode cX6_readName 73 = .ok (.getfield 184, 3) := dk_180 0 184 (dk_at dksX6_readName_3 1 rfl rfl)
theorem dX6_readName_76 : decode cX6_readName 76 = .ok (.aload_n 0, 1) := dk_42 (dk_at dksX6_readName_3 4 rfl rfl)
theorem dX6_readName_77 : decode cX6_readName 77 = .ok (.getfield 30, 3) := dk_180 0 30 (dk_at dksX6_readName_3 5 rfl rfl)
theorem dX6_readName_80 : decode cX6_readName 80 = .ok (.aload_n 0, 1) := dk_42 (dk_at dksX6_readName_3 8 rfl rfl)
theorem dX6_readName_81 : decode cX6_readName 81 = .ok (.getfield 156, 3) := dk_180 0 156 (dk_at dksX6_readName_3 9 rfl rfl)
theorem dX6_readName_84 : decode cX6_readName 84 = .ok (.laload, 1) := dk_47 (dk_at dksX6_readName_3 12 rfl rfl)
theorem dX6_readName_85 : decode cX6_readName 85 = .ok (.lastore, 1) := dk_80 (dk_at dksX6_readName_3 13 rfl rfl)
theorem dX6_readName_86 : decode cX6_readName 86 = .ok (.aload_n 0, 1) := dk_42 (dk_at dksX6_readName_3 14 rfl rfl)
theorem dX6_readName_87 : decode cX6_readName 87 = .ok (.getfield 107, 3) := dk_180 0 107 (dk_at dksX6_readName_3 15 rfl rfl)
theorem dX6_readName_90 : decode cX6_readName 90 = .ok (.aload_n 0, 1) := dk_42 (dk_at dksX6_readName_3 18 rfl rfl)
theorem dX6_readName_91 : decode cX6_readName 91 = .ok (.getfield 184, 3) := dk_180 0 184 (dk_at dksX6_readName_3 19 rfl rfl)
theorem dX6_readName_94 : decode cX6_readName 94 = .ok (.iload_n 3, 1) := dk_29 (dk_at dksX6_readName_3 22 rfl rfl)
theorem dX6_readName_95 : decode cX6_readName 95 = .ok (.iload 4, 2) := dk_21 4 (dk_at dksX6_readName_4 0 rfl rfl)
theorem dX6_readName_97 : decode cX6_readName 97 = .ok (.iadd, 1) := dk_96 (dk_at dksX6_readName_4 2 rfl rfl)
theorem dX6_readName_98 : decode cX6_readName 98 = .ok (.iastore, 1) := dk_79 (dk_at dksX6_readName_4 3 rfl rfl)
theorem dX6_readName_99 : decode cX6_readName 99 = .ok (.aload_n 0, 1) := dk_42 (dk_at dksX6_readName_4 4 rfl rfl)
theorem dX6_readName_100 : decode cX6_readName 100 = .ok (.dup, 1) := dk_89 (dk_at dksX6_readName_4 5 rfl rfl)
theorem dX6_readName_101 : decode cX6_readName 101 = .ok (.getfield 184, 3) := dk_180 0 184 (dk_at dksX6_readName_4 6 rfl rfl)
theorem dX6_readName_104 : decode cX6_readName 104 = .ok (.iconst 1, 1) := dk_4 (dk_at dksX6_readName_4 9 rfl rfl)
theorem dX6_readName_105 : decode cX6_readName 105 = .ok (.iadd, 1) := dk_96 (dk_at dksX6_readName_4 10 rfl rfl)
theorem dX6_readName_106 : decode cX6_readName 106 = .ok (.putfield 184, 3) := dk_181 0 184 (dk_at dksX6_readName_4 11 rfl rfl)
theorem dX6_readName_109 : decode cX6_readName 109 = .ok (.aload_n 0, 1) := dk_42 (dk_at dksX6_readName_4 14 rfl rfl)
theorem dX6_readName_110 : decode cX6_readName 110 = .ok (.dup, 1) := dk_89 (dk_at dksX6_readName_4 15 rfl rfl)
theorem dX6_readName_111 : decode cX6_readName 111 = .ok (.getfield 156, 3) := dk_180 0 156 (dk_at dksX6_readName_4 16 rfl rfl)
theorem dX6_readName_114 : decode cX6_readName 114 = .ok (.iconst 1, 1) := dk_4 (dk_at dksX6_readName_4 19 rfl rfl)
theorem dX6_readName_115 : decode cX6_readName 115 = .ok (.iadd, 1) := dk_96 (dk_at dksX6_readName_4 20 rfl rfl)
theorem dX6_readName_116 : decode cX6_readName 116 = .ok (.putfield 156, 3) := dk_181 0 156 (dk_at dksX6_readName_4 21 rfl rfl)
theorem dX6_readName_119 : decode cX6_readName 119 = .ok (.aload_n 0, 1) := dk_42 (dk_at dksX6_readName_5 0 rfl rfl)
theorem dX6_readName_120 : decode cX6_readName 120 = .ok (.getfield 89, 3) := dk_180 0 89 (dk_at dksX6_readName_5 1 rfl rfl)
theorem dX6_readName_123 : decode cX6_readName 123 = .ok (.bipush 60, 2) := dk_16 60 (dk_at dksX6_readName_5 4 rfl rfl)
theorem dX6_readName_125 : decode cX6_readName 125 = .ok (.iload_n 1, 1) := dk_27 (dk_at dksX6_readName_5 6 rfl rfl)
theorem dX6_readName_126 : decode cX6_readName 126 = .ok (.iadd, 1) := dk_96 (dk_at dksX6_readName_5 7 rfl rfl)
theorem dX6_readName_127 : decode cX6_readName 127 = .ok (.dup2, 1) := dk_92 (dk_at dksX6_readName_5 8 rfl rfl)
theorem dX6_readName_128 : decode cX6_readName 128 = .ok (.iaload, 1) := dk_46 (dk_at dksX6_readName_5 9 rfl rfl)
theorem dX6_readName_129 : decode cX6_readName 129 = .ok (.iconst 1, 1) := dk_4 (dk_at dksX6_readName_5 10 rfl rfl)
theorem dX6_readName_130 : decode cX6_readName 130 = .ok (.iadd, 1) := dk_96 (dk_at dksX6_readName_5 11 rfl rfl)
theorem dX6_readName_131 : decode cX6_readName 131 = .ok (.iastore, 1) := dk_79 (dk_at dksX6_readName_5 12 rfl rfl)
theorem dX6_readName_132 : decode cX6_readName 132 = .ok (.return_, 1) := dk_177 (dk_at dksX6_readName_5 13 rfl rfl)
abbrev cX6_wrong : ByteArray := prog_24_method_10_code
def yX6_wrong : MethodName := ⟨RX6, "wrong", "(I)V"⟩
def dkwX6_wrong_1 : List UInt8 := [181, 0, 159, 177]
abbrev dktX6_wrong_1 : List UInt8 := dkwX6_wrong_1 ++ []
def dkwX6_wrong_0 : List UInt8 := [42, 180, 0, 159, 154, 0, 21, 42, 27, 16, 16, 42, 180, 0, 27, 42, 180, 0, 156, 46, 104, 96]
abbrev dktX6_wrong_0 : List UInt8 := dkwX6_wrong_0 ++ dktX6_wrong_1
theorem dksX6_wrong_0 : cX6_wrong.data.toList.drop 0 = dktX6_wrong_0 := by decide +kernel
theorem dksX6_wrong_1 : cX6_wrong.data.toList.drop 22 = dktX6_wrong_1 := dk_seg dksX6_wrong_0 22 rfl rfl
theorem dX6_wrong_0 : decode cX6_wrong 0 = .ok (.aload_n 0, 1) := dk_42 (dk_at dksX6_wrong_0 0 rfl rfl)
theorem dX6_wrong_1 : decode cX6_wrong 1 = .ok (.getfield 159, 3) := dk_180 0 159 (dk_at dksX6_wrong_0 1 rfl rfl)
theorem dX6_wrong_4 : decode cX6_wrong 4 = .ok (.ifCond .ne 21, 3) := dk_154 0 21 (dk_at dksX6_wrong_0 4 rfl rfl)
theorem dX6_wrong_7 : decode cX6_wrong 7 = .ok (.aload_n 0, 1) := dk_42 (dk_at dksX6_wrong_0 7 rfl rfl)
theorem dX6_wrong_8 : decode cX6_wrong 8 = .ok (.iload_n 1, 1) := dk_27 (dk_at dksX6_wrong_0 8 rfl rfl)
theorem dX6_wrong_9 : decode cX6_wrong 9 = .ok (.bipush 16, 2) := dk_16 16 (dk_at dksX6_wrong_0 9 rfl rfl)
theorem dX6_wrong_11 : decode cX6_wrong 11 = .ok (.aload_n 0, 1) := dk_42 (dk_at dksX6_wrong_0 11 rfl rfl)
theorem dX6_wrong_12 : decode cX6_wrong 12 = .ok (.getfield 27, 3) := dk_180 0 27 (dk_at dksX6_wrong_0 12 rfl rfl)
theorem dX6_wrong_15 : decode cX6_wrong 15 = .ok (.aload_n 0, 1) := dk_42 (dk_at dksX6_wrong_0 15 rfl rfl)
theorem dX6_wrong_16 : decode cX6_wrong 16 = .ok (.getfield 156, 3) := dk_180 0 156 (dk_at dksX6_wrong_0 16 rfl rfl)
theorem dX6_wrong_19 : decode cX6_wrong 19 = .ok (.iaload, 1) := dk_46 (dk_at dksX6_wrong_0 19 rfl rfl)
theorem dX6_wrong_20 : decode cX6_wrong 20 = .ok (.imul, 1) := dk_104 (dk_at dksX6_wrong_0 20 rfl rfl)
theorem dX6_wrong_21 : decode cX6_wrong 21 = .ok (.iadd, 1) := dk_96 (dk_at dksX6_wrong_0 21 rfl rfl)
theorem dX6_wrong_22 : decode cX6_wrong 22 = .ok (.putfield 159, 3) := dk_181 0 159 (dk_at dksX6_wrong_1 0 rfl rfl)
theorem dX6_wrong_25 : decode cX6_wrong 25 = .ok (.return_, 1) := dk_177 (dk_at dksX6_wrong_1 3 rfl rfl)
abbrev cX6_isName : ByteArray := prog_24_method_23_code
def yX6_isName : MethodName := ⟨RX6, "isName", "()Z"⟩
def dkwX6_isName_1 : List UInt8 := [182, 0, 181, 156, 0, 7, 4, 167, 0, 4, 3, 172]
abbrev dktX6_isName_1 : List UInt8 := dkwX6_isName_1 ++ []
def dkwX6_isName_0 : List UInt8 := [42, 180, 0, 159, 154, 0, 30, 42, 180, 0, 24, 42, 180, 0, 156, 46, 4, 160, 0, 17, 42, 3, 16, 22]
abbrev dktX6_isName_0 : List UInt8 := dkwX6_isName_0 ++ dktX6_isName_1
theorem dksX6_isName_0 : cX6_isName.data.toList.drop 0 = dktX6_isName_0 := by decide +kernel
theorem dksX6_isName_1 : cX6_isName.data.toList.drop 24 = dktX6_isName_1 := dk_seg dksX6_isName_0 24 rfl rfl
theorem dX6_isName_0 : decode cX6_isName 0 = .ok (.aload_n 0, 1) := dk_42 (dk_at dksX6_isName_0 0 rfl rfl)
theorem dX6_isName_1 : decode cX6_isName 1 = .ok (.getfield 159, 3) := dk_180 0 159 (dk_at dksX6_isName_0 1 rfl rfl)
theorem dX6_isName_4 : decode cX6_isName 4 = .ok (.ifCond .ne 30, 3) := dk_154 0 30 (dk_at dksX6_isName_0 4 rfl rfl)
theorem dX6_isName_7 : decode cX6_isName 7 = .ok (.aload_n 0, 1) := dk_42 (dk_at dksX6_isName_0 7 rfl rfl)
theorem dX6_isName_8 : decode cX6_isName 8 = .ok (.getfield 24, 3) := dk_180 0 24 (dk_at dksX6_isName_0 8 rfl rfl)
theorem dX6_isName_11 : decode cX6_isName 11 = .ok (.aload_n 0, 1) := dk_42 (dk_at dksX6_isName_0 11 rfl rfl)
theorem dX6_isName_12 : decode cX6_isName 12 = .ok (.getfield 156, 3) := dk_180 0 156 (dk_at dksX6_isName_0 12 rfl rfl)
theorem dX6_isName_15 : decode cX6_isName 15 = .ok (.iaload, 1) := dk_46 (dk_at dksX6_isName_0 15 rfl rfl)
theorem dX6_isName_16 : decode cX6_isName 16 = .ok (.iconst 1, 1) := dk_4 (dk_at dksX6_isName_0 16 rfl rfl)
theorem dX6_isName_17 : decode cX6_isName 17 = .ok (.if_icmp .ne 17, 3) := dk_160 0 17 (dk_at dksX6_isName_0 17 rfl rfl)
theorem dX6_isName_20 : decode cX6_isName 20 = .ok (.aload_n 0, 1) := dk_42 (dk_at dksX6_isName_0 20 rfl rfl)
theorem dX6_isName_21 : decode cX6_isName 21 = .ok (.iconst 0, 1) := dk_3 (dk_at dksX6_isName_0 21 rfl rfl)
theorem dX6_isName_22 : decode cX6_isName 22 = .ok (.bipush 22, 2) := dk_16 22 (dk_at dksX6_isName_0 22 rfl rfl)
theorem dX6_isName_24 : decode cX6_isName 24 = .ok (.invokevirtual 181, 3) := dk_182 0 181 (dk_at dksX6_isName_1 0 rfl rfl)
theorem dX6_isName_27 : decode cX6_isName 27 = .ok (.ifCond .ge 7, 3) := dk_156 0 7 (dk_at dksX6_isName_1 3 rfl rfl)
theorem dX6_isName_30 : decode cX6_isName 30 = .ok (.iconst 1, 1) := dk_4 (dk_at dksX6_isName_1 6 rfl rfl)
theorem dX6_isName_31 : decode cX6_isName 31 = .ok (.goto 4, 3) := dk_167 0 4 (dk_at dksX6_isName_1 7 rfl rfl)
theorem dX6_isName_34 : decode cX6_isName 34 = .ok (.iconst 0, 1) := dk_3 (dk_at dksX6_isName_1 10 rfl rfl)
theorem dX6_isName_35 : decode cX6_isName 35 = .ok (.ireturn, 1) := dk_172 (dk_at dksX6_isName_1 11 rfl rfl)
abbrev cX6_wordHere : ByteArray := prog_24_method_21_code
def yX6_wordHere : MethodName := ⟨RX6, "wordHere", "(II)I"⟩
def dkwX6_wordHere_1 : List UInt8 := [167, 0, 4, 29, 62, 132, 4, 1, 167, 255, 229, 29, 172]
abbrev dktX6_wordHere_1 : List UInt8 := dkwX6_wordHere_1 ++ []
def dkwX6_wordHere_0 : List UInt8 := [2, 62, 3, 54, 4, 21, 4, 28, 162, 0, 27, 42, 27, 21, 4, 96, 182, 0, 168, 153, 0, 8, 21, 4]
abbrev dktX6_wordHere_0 : List UInt8 := dkwX6_wordHere_0 ++ dktX6_wordHere_1
theorem dksX6_wordHere_0 : cX6_wordHere.data.toList.drop 0 = dktX6_wordHere_0 := by decide +kernel
theorem dksX6_wordHere_1 : cX6_wordHere.data.toList.drop 24 = dktX6_wordHere_1 := dk_seg dksX6_wordHere_0 24 rfl rfl
theorem dX6_wordHere_0 : decode cX6_wordHere 0 = .ok (.iconst (-1), 1) := dk_2 (dk_at dksX6_wordHere_0 0 rfl rfl)
theorem dX6_wordHere_1 : decode cX6_wordHere 1 = .ok (.istore_n 3, 1) := dk_62 (dk_at dksX6_wordHere_0 1 rfl rfl)
theorem dX6_wordHere_2 : decode cX6_wordHere 2 = .ok (.iconst 0, 1) := dk_3 (dk_at dksX6_wordHere_0 2 rfl rfl)
theorem dX6_wordHere_3 : decode cX6_wordHere 3 = .ok (.istore 4, 2) := dk_54 4 (dk_at dksX6_wordHere_0 3 rfl rfl)
theorem dX6_wordHere_5 : decode cX6_wordHere 5 = .ok (.iload 4, 2) := dk_21 4 (dk_at dksX6_wordHere_0 5 rfl rfl)
theorem dX6_wordHere_7 : decode cX6_wordHere 7 = .ok (.iload_n 2, 1) := dk_28 (dk_at dksX6_wordHere_0 7 rfl rfl)
theorem dX6_wordHere_8 : decode cX6_wordHere 8 = .ok (.if_icmp .ge 27, 3) := dk_162 0 27 (dk_at dksX6_wordHere_0 8 rfl rfl)
theorem dX6_wordHere_11 : decode cX6_wordHere 11 = .ok (.aload_n 0, 1) := dk_42 (dk_at dksX6_wordHere_0 11 rfl rfl)
theorem dX6_wordHere_12 : decode cX6_wordHere 12 = .ok (.iload_n 1, 1) := dk_27 (dk_at dksX6_wordHere_0 12 rfl rfl)
theorem dX6_wordHere_13 : decode cX6_wordHere 13 = .ok (.iload 4, 2) := dk_21 4 (dk_at dksX6_wordHere_0 13 rfl rfl)
theorem dX6_wordHere_15 : decode cX6_wordHere 15 = .ok (.iadd, 1) := dk_96 (dk_at dksX6_wordHere_0 15 rfl rfl)
theorem dX6_wordHere_16 : decode cX6_wordHere 16 = .ok (.invokevirtual 168, 3) := dk_182 0 168 (dk_at dksX6_wordHere_0 16 rfl rfl)
theorem dX6_wordHere_19 : decode cX6_wordHere 19 = .ok (.ifCond .eq 8, 3) := dk_153 0 8 (dk_at dksX6_wordHere_0 19 rfl rfl)
theorem dX6_wordHere_22 : decode cX6_wordHere 22 = .ok (.iload 4, 2) := dk_21 4 (dk_at dksX6_wordHere_0 22 rfl rfl)
theorem dX6_wordHere_24 : decode cX6_wordHere 24 = .ok (.goto 4, 3) := dk_167 0 4 (dk_at dksX6_wordHere_1 0 rfl rfl)
theorem dX6_wordHere_27 : decode cX6_wordHere 27 = .ok (.iload_n 3, 1) := dk_29 (dk_at dksX6_wordHere_1 3 rfl rfl)
theorem dX6_wordHere_28 : decode cX6_wordHere 28 = .ok (.istore_n 3, 1) := dk_62 (dk_at dksX6_wordHere_1 4 rfl rfl)
theorem dX6_wordHere_29 : decode cX6_wordHere 29 = .ok (.iinc 4 1, 3) := dk_132 4 1 (dk_at dksX6_wordHere_1 5 rfl rfl)
theorem dX6_wordHere_32 : decode cX6_wordHere 32 = .ok (.goto (-27), 3) := dk_167 255 229 (dk_at dksX6_wordHere_1 8 rfl rfl)
theorem dX6_wordHere_35 : decode cX6_wordHere 35 = .ok (.iload_n 3, 1) := dk_29 (dk_at dksX6_wordHere_1 11 rfl rfl)
theorem dX6_wordHere_36 : decode cX6_wordHere 36 = .ok (.ireturn, 1) := dk_172 (dk_at dksX6_wordHere_1 12 rfl rfl)
abbrev cX6_nameAt : ByteArray := prog_24_method_24_code
def yX6_nameAt : MethodName := ⟨RX6, "nameAt", "(Z)I"⟩
def dkwX6_nameAt_3 : List UInt8 := [180, 0, 104, 28, 46, 172, 132, 2, 1, 167, 255, 182, 2, 172]
abbrev dktX6_nameAt_3 : List UInt8 := dkwX6_nameAt_3 ++ []
def dkwX6_nameAt_2 : List UInt8 := [180, 0, 156, 47, 148, 154, 0, 23, 27, 153, 0, 12, 42, 180, 0, 107, 28, 46, 167, 0, 9, 42]
abbrev dktX6_nameAt_2 : List UInt8 := dkwX6_nameAt_2 ++ dktX6_nameAt_3
def dkwX6_nameAt_1 : List UInt8 := [153, 0, 12, 42, 180, 0, 101, 28, 47, 167, 0, 9, 42, 180, 0, 98, 28, 47, 42, 180, 0, 30, 42]
abbrev dktX6_nameAt_1 : List UInt8 := dkwX6_nameAt_1 ++ dktX6_nameAt_2
def dkwX6_nameAt_0 : List UInt8 := [3, 61, 28, 27, 153, 0, 10, 42, 180, 0, 184, 167, 0, 7, 42, 180, 0, 187, 162, 0, 61, 27]
abbrev dktX6_nameAt_0 : List UInt8 := dkwX6_nameAt_0 ++ dktX6_nameAt_1
theorem dksX6_nameAt_0 : cX6_nameAt.data.toList.drop 0 = dktX6_nameAt_0 := by decide +kernel
theorem dksX6_nameAt_1 : cX6_nameAt.data.toList.drop 22 = dktX6_nameAt_1 := dk_seg dksX6_nameAt_0 22 rfl rfl
theorem dksX6_nameAt_2 : cX6_nameAt.data.toList.drop 45 = dktX6_nameAt_2 := dk_seg dksX6_nameAt_1 23 rfl rfl
theorem dksX6_nameAt_3 : cX6_nameAt.data.toList.drop 67 = dktX6_nameAt_3 := dk_seg dksX6_nameAt_2 22 rfl rfl
theorem dX6_nameAt_0 : decode cX6_nameAt 0 = .ok (.iconst 0, 1) := dk_3 (dk_at dksX6_nameAt_0 0 rfl rfl)
theorem dX6_nameAt_1 : decode cX6_nameAt 1 = .ok (.istore_n 2, 1) := dk_61 (dk_at dksX6_nameAt_0 1 rfl rfl)
theorem dX6_nameAt_2 : decode cX6_nameAt 2 = .ok (.iload_n 2, 1) := dk_28 (dk_at dksX6_nameAt_0 2 rfl rfl)
theorem dX6_nameAt_3 : decode cX6_nameAt 3 = .ok (.iload_n 1, 1) := dk_27 (dk_at dksX6_nameAt_0 3 rfl rfl)
theorem dX6_nameAt_4 : decode cX6_nameAt 4 = .ok (.ifCond .eq 10, 3) := dk_153 0 10 (dk_at dksX6_nameAt_0 4 rfl rfl)
theorem dX6_nameAt_7 : decode cX6_nameAt 7 = .ok (.aload_n 0, 1) := dk_42 (dk_at dksX6_nameAt_0 7 rfl rfl)
theorem dX6_nameAt_8 : decode cX6_nameAt 8 = .ok (.getfield 184, 3) := dk_180 0 184 (dk_at dksX6_nameAt_0 8 rfl rfl)
theorem dX6_nameAt_11 : decode cX6_nameAt 11 = .ok (.goto 7, 3) := dk_167 0 7 (dk_at dksX6_nameAt_0 11 rfl rfl)
theorem dX6_nameAt_14 : decode cX6_nameAt 14 = .ok (.aload_n 0, 1) := dk_42 (dk_at dksX6_nameAt_0 14 rfl rfl)
theorem dX6_nameAt_15 : decode cX6_nameAt 15 = .ok (.getfield 187, 3) := dk_180 0 187 (dk_at dksX6_nameAt_0 15 rfl rfl)
theorem dX6_nameAt_18 : decode cX6_nameAt 18 = .ok (.if_icmp .ge 61, 3) := dk_162 0 61 (dk_at dksX6_nameAt_0 18 rfl rfl)
theorem dX6_nameAt_21 : decode cX6_nameAt 21 = .ok (.iload_n 1, 1) := dk_27 (dk_at dksX6_nameAt_0 21 rfl rfl)
theorem dX6_nameAt_22 : decode cX6_nameAt 22 = .ok (.ifCond .eq 12, 3) := dk_153 0 12 (dk_at dksX6_nameAt_1 0 rfl rfl)
theorem dX6_nameAt_25 : decode cX6_nameAt 25 = .ok (.aload_n 0, 1) := dk_42 (dk_at dksX6_nameAt_1 3 rfl rfl)
theorem dX6_nameAt_26 : decode cX6_nameAt 26 = .ok (.getfield 101, 3) := dk_180 0 101 (dk_at dksX6_nameAt_1 4 rfl rfl)
theorem dX6_nameAt_29 : decode cX6_nameAt 29 = .ok (.iload_n 2, 1) := dk_28 (dk_at dksX6_nameAt_1 7 rfl rfl)
theorem dX6_nameAt_30 : decode cX6_nameAt 30 = .ok (.laload, 1) := dk_47 (dk_at dksX6_nameAt_1 8 rfl rfl)
theorem dX6_nameAt_31 : decode cX6_nameAt 31 = .ok (.goto 9, 3) := dk_167 0 9 (dk_at dksX6_nameAt_1 9 rfl rfl)
theorem dX6_nameAt_34 : decode cX6_nameAt 34 = .ok (.aload_n 0, 1) := dk_42 (dk_at dksX6_nameAt_1 12 rfl rfl)
theorem dX6_nameAt_35 : decode cX6_nameAt 35 = .ok (.getfield 98, 3) := dk_180 0 98 (dk_at dksX6_nameAt_1 13 rfl rfl)
theorem dX6_nameAt_38 : decode cX6_nameAt 38 = .ok (.iload_n 2, 1) := dk_28 (dk_at dksX6_nameAt_1 16 rfl rfl)
theorem dX6_nameAt_39 : decode cX6_nameAt 39 = .ok (.laload, 1) := dk_47 (dk_at dksX6_nameAt_1 17 rfl rfl)
theorem dX6_nameAt_40 : decode cX6_nameAt 40 = .ok (.aload_n 0, 1) := dk_42 (dk_at dksX6_nameAt_1 18 rfl rfl)
theorem dX6_nameAt_41 : decode cX6_nameAt 41 = .ok (.getfield 30, 3) := dk_180 0 30 (dk_at dksX6_nameAt_1 19 rfl rfl)
theorem dX6_nameAt_44 : decode cX6_nameAt 44 = .ok (.aload_n 0, 1) := dk_42 (dk_at dksX6_nameAt_1 22 rfl rfl)
theorem dX6_nameAt_45 : decode cX6_nameAt 45 = .ok (.getfield 156, 3) := dk_180 0 156 (dk_at dksX6_nameAt_2 0 rfl rfl)
theorem dX6_nameAt_48 : decode cX6_nameAt 48 = .ok (.laload, 1) := dk_47 (dk_at dksX6_nameAt_2 3 rfl rfl)
theorem dX6_nameAt_49 : decode cX6_nameAt 49 = .ok (.lcmp, 1) := dk_148 (dk_at dksX6_nameAt_2 4 rfl rfl)
theorem dX6_nameAt_50 : decode cX6_nameAt 50 = .ok (.ifCond .ne 23, 3) := dk_154 0 23 (dk_at dksX6_nameAt_2 5 rfl rfl)
theorem dX6_nameAt_53 : decode cX6_nameAt 53 = .ok (.iload_n 1, 1) := dk_27 (dk_at dksX6_nameAt_2 8 rfl rfl)
theorem dX6_nameAt_54 : decode cX6_nameAt 54 = .ok (.ifCond .eq 12, 3) := dk_153 0 12 (dk_at dksX6_nameAt_2 9 rfl rfl)
theorem dX6_nameAt_57 : decode cX6_nameAt 57 = .ok (.aload_n 0, 1) := dk_42 (dk_at dksX6_nameAt_2 12 rfl rfl)
theorem dX6_nameAt_58 : decode cX6_nameAt 58 = .ok (.getfield 107, 3) := dk_180 0 107 (dk_at dksX6_nameAt_2 13 rfl rfl)
theorem dX6_nameAt_61 : decode cX6_nameAt 61 = .ok (.iload_n 2, 1) := dk_28 (dk_at dksX6_nameAt_2 16 rfl rfl)
theorem dX6_nameAt_62 : decode cX6_nameAt 62 = .ok (.iaload, 1) := dk_46 (dk_at dksX6_nameAt_2 17 rfl rfl)
theorem dX6_nameAt_63 : decode cX6_nameAt 63 = .ok (.goto 9, 3) := dk_167 0 9 (dk_at dksX6_nameAt_2 18 rfl rfl)
theorem dX6_nameAt_66 : decode cX6_nameAt 66 = .ok (.aload_n 0, 1) := dk_42 (dk_at dksX6_nameAt_2 21 rfl rfl)
theorem dX6_nameAt_67 : decode cX6_nameAt 67 = .ok (.getfield 104, 3) := dk_180 0 104 (dk_at dksX6_nameAt_3 0 rfl rfl)
theorem dX6_nameAt_70 : decode cX6_nameAt 70 = .ok (.iload_n 2, 1) := dk_28 (dk_at dksX6_nameAt_3 3 rfl rfl)
theorem dX6_nameAt_71 : decode cX6_nameAt 71 = .ok (.iaload, 1) := dk_46 (dk_at dksX6_nameAt_3 4 rfl rfl)
theorem dX6_nameAt_72 : decode cX6_nameAt 72 = .ok (.ireturn, 1) := dk_172 (dk_at dksX6_nameAt_3 5 rfl rfl)
theorem dX6_nameAt_73 : decode cX6_nameAt 73 = .ok (.iinc 2 1, 3) := dk_132 2 1 (dk_at dksX6_nameAt_3 6 rfl rfl)
theorem dX6_nameAt_76 : decode cX6_nameAt 76 = .ok (.goto (-74), 3) := dk_167 255 182 (dk_at dksX6_nameAt_3 9 rfl rfl)
theorem dX6_nameAt_79 : decode cX6_nameAt 79 = .ok (.iconst (-1), 1) := dk_2 (dk_at dksX6_nameAt_3 12 rfl rfl)
theorem dX6_nameAt_80 : decode cX6_nameAt 80 = .ok (.ireturn, 1) := dk_172 (dk_at dksX6_nameAt_3 13 rfl rfl)
abbrev cX6_takeOne : ByteArray := prog_24_method_22_code
def yX6_takeOne : MethodName := ⟨RX6, "takeOne", "(II)I"⟩
def dkwX6_takeOne_2 : List UInt8 := [3, 167, 0, 4, 4, 96, 181, 0, 156, 42, 180, 0, 159, 158, 0, 7, 3, 167, 0, 4, 29, 172]
abbrev dktX6_takeOne_2 : List UInt8 := dkwX6_takeOne_2 ++ []
def dkwX6_takeOne_1 : List UInt8 := [154, 0, 12, 29, 156, 0, 8, 42, 4, 182, 0, 165, 42, 89, 180, 0, 156, 42, 180, 0, 159, 158, 0, 7]
abbrev dktX6_takeOne_1 : List UInt8 := dkwX6_takeOne_1 ++ dktX6_takeOne_2
def dkwX6_takeOne_0 : List UInt8 := [42, 180, 0, 159, 158, 0, 7, 2, 167, 0, 9, 42, 27, 28, 182, 0, 181, 62, 42, 180, 0, 159]
abbrev dktX6_takeOne_0 : List UInt8 := dkwX6_takeOne_0 ++ dktX6_takeOne_1
theorem dksX6_takeOne_0 : cX6_takeOne.data.toList.drop 0 = dktX6_takeOne_0 := by decide +kernel
theorem dksX6_takeOne_1 : cX6_takeOne.data.toList.drop 22 = dktX6_takeOne_1 := dk_seg dksX6_takeOne_0 22 rfl rfl
theorem dksX6_takeOne_2 : cX6_takeOne.data.toList.drop 46 = dktX6_takeOne_2 := dk_seg dksX6_takeOne_1 24 rfl rfl
theorem dX6_takeOne_0 : decode cX6_takeOne 0 = .ok (.aload_n 0, 1) := dk_42 (dk_at dksX6_takeOne_0 0 rfl rfl)
theorem dX6_takeOne_1 : decode cX6_takeOne 1 = .ok (.getfield 159, 3) := dk_180 0 159 (dk_at dksX6_takeOne_0 1 rfl rfl)
theorem dX6_takeOne_4 : decode cX6_takeOne 4 = .ok (.ifCond .le 7, 3) := dk_158 0 7 (dk_at dksX6_takeOne_0 4 rfl rfl)
theorem dX6_takeOne_7 : decode cX6_takeOne 7 = .ok (.iconst (-1), 1) := dk_2 (dk_at dksX6_takeOne_0 7 rfl rfl)
theorem dX6_takeOne_8 : decode cX6_takeOne 8 = .ok (.goto 9, 3) := dk_167 0 9 (dk_at dksX6_takeOne_0 8 rfl rfl)
theorem dX6_takeOne_11 : decode cX6_takeOne 11 = .ok (.aload_n 0, 1) := dk_42 (dk_at dksX6_takeOne_0 11 rfl rfl)
theorem dX6_takeOne_12 : decode cX6_takeOne 12 = .ok (.iload_n 1, 1) := dk_27 (dk_at dksX6_takeOne_0 12 rfl rfl)
theorem dX6_takeOne_13 : decode cX6_takeOne 13 = .ok (.iload_n 2, 1) := dk_28 (dk_at dksX6_takeOne_0 13 rfl rfl)
theorem dX6_takeOne_14 : decode cX6_takeOne 14 = .ok (.invokevirtual 181, 3) := dk_182 0 181 (dk_at dksX6_takeOne_0 14 rfl rfl)
theorem dX6_takeOne_17 : decode cX6_takeOne 17 = .ok (.istore_n 3, 1) := dk_62 (dk_at dksX6_takeOne_0 17 rfl rfl)
theorem dX6_takeOne_18 : decode cX6_takeOne 18 = .ok (.aload_n 0, 1) := dk_42 (dk_at dksX6_takeOne_0 18 rfl rfl)
theorem dX6_takeOne_19 : decode cX6_takeOne 19 = .ok (.getfield 159, 3) := dk_180 0 159 (dk_at dksX6_takeOne_0 19 rfl rfl)
theorem dX6_takeOne_22 : decode cX6_takeOne 22 = .ok (.ifCond .ne 12, 3) := dk_154 0 12 (dk_at dksX6_takeOne_1 0 rfl rfl)
theorem dX6_takeOne_25 : decode cX6_takeOne 25 = .ok (.iload_n 3, 1) := dk_29 (dk_at dksX6_takeOne_1 3 rfl rfl)
theorem dX6_takeOne_26 : decode cX6_takeOne 26 = .ok (.ifCond .ge 8, 3) := dk_156 0 8 (dk_at dksX6_takeOne_1 4 rfl rfl)
theorem dX6_takeOne_29 : decode cX6_takeOne 29 = .ok (.aload_n 0, 1) := dk_42 (dk_at dksX6_takeOne_1 7 rfl rfl)
theorem dX6_takeOne_30 : decode cX6_takeOne 30 = .ok (.iconst 1, 1) := dk_4 (dk_at dksX6_takeOne_1 8 rfl rfl)
theorem dX6_takeOne_31 : decode cX6_takeOne 31 = .ok (.invokevirtual 165, 3) := dk_182 0 165 (dk_at dksX6_takeOne_1 9 rfl rfl)
theorem dX6_takeOne_34 : decode cX6_takeOne 34 = .ok (.aload_n 0, 1) := dk_42 (dk_at dksX6_takeOne_1 12 rfl rfl)
theorem dX6_takeOne_35 : decode cX6_takeOne 35 = .ok (.dup, 1) := dk_89 (dk_at dksX6_takeOne_1 13 rfl rfl)
theorem dX6_takeOne_36 : decode cX6_takeOne 36 = .ok (.getfield 156, 3) := dk_180 0 156 (dk_at dksX6_takeOne_1 14 rfl rfl)
theorem dX6_takeOne_39 : decode cX6_takeOne 39 = .ok (.aload_n 0, 1) := dk_42 (dk_at dksX6_takeOne_1 17 rfl rfl)
theorem dX6_takeOne_40 : decode cX6_takeOne 40 = .ok (.getfield 159, 3) := dk_180 0 159 (dk_at dksX6_takeOne_1 18 rfl rfl)
theorem dX6_takeOne_43 : decode cX6_takeOne 43 = .ok (.ifCond .le 7, 3) := dk_158 0 7 (dk_at dksX6_takeOne_1 21 rfl rfl)
theorem dX6_takeOne_46 : decode cX6_takeOne 46 = .ok (.iconst 0, 1) := dk_3 (dk_at dksX6_takeOne_2 0 rfl rfl)
theorem dX6_takeOne_47 : decode cX6_takeOne 47 = .ok (.goto 4, 3) := dk_167 0 4 (dk_at dksX6_takeOne_2 1 rfl rfl)
theorem dX6_takeOne_50 : decode cX6_takeOne 50 = .ok (.iconst 1, 1) := dk_4 (dk_at dksX6_takeOne_2 4 rfl rfl)
theorem dX6_takeOne_51 : decode cX6_takeOne 51 = .ok (.iadd, 1) := dk_96 (dk_at dksX6_takeOne_2 5 rfl rfl)
theorem dX6_takeOne_52 : decode cX6_takeOne 52 = .ok (.putfield 156, 3) := dk_181 0 156 (dk_at dksX6_takeOne_2 6 rfl rfl)
theorem dX6_takeOne_55 : decode cX6_takeOne 55 = .ok (.aload_n 0, 1) := dk_42 (dk_at dksX6_takeOne_2 9 rfl rfl)
theorem dX6_takeOne_56 : decode cX6_takeOne 56 = .ok (.getfield 159, 3) := dk_180 0 159 (dk_at dksX6_takeOne_2 10 rfl rfl)
theorem dX6_takeOne_59 : decode cX6_takeOne 59 = .ok (.ifCond .le 7, 3) := dk_158 0 7 (dk_at dksX6_takeOne_2 13 rfl rfl)
theorem dX6_takeOne_62 : decode cX6_takeOne 62 = .ok (.iconst 0, 1) := dk_3 (dk_at dksX6_takeOne_2 16 rfl rfl)
theorem dX6_takeOne_63 : decode cX6_takeOne 63 = .ok (.goto 4, 3) := dk_167 0 4 (dk_at dksX6_takeOne_2 17 rfl rfl)
theorem dX6_takeOne_66 : decode cX6_takeOne 66 = .ok (.iload_n 3, 1) := dk_29 (dk_at dksX6_takeOne_2 20 rfl rfl)
theorem dX6_takeOne_67 : decode cX6_takeOne 67 = .ok (.ireturn, 1) := dk_172 (dk_at dksX6_takeOne_2 21 rfl rfl)
abbrev cX6_takeAfter : ByteArray := prog_24_method_20_code
def yX6_takeAfter : MethodName := ⟨RX6, "takeAfter", "(III)I"⟩
def dkwX6_takeAfter_0 : List UInt8 := [42, 27, 182, 0, 174, 42, 28, 29, 182, 0, 177, 172]
abbrev dktX6_takeAfter_0 : List UInt8 := dkwX6_takeAfter_0 ++ []
theorem dksX6_takeAfter_0 : cX6_takeAfter.data.toList.drop 0 = dktX6_takeAfter_0 := by decide +kernel
theorem dX6_takeAfter_0 : decode cX6_takeAfter 0 = .ok (.aload_n 0, 1) := dk_42 (dk_at dksX6_takeAfter_0 0 rfl rfl)
theorem dX6_takeAfter_1 : decode cX6_takeAfter 1 = .ok (.iload_n 1, 1) := dk_27 (dk_at dksX6_takeAfter_0 1 rfl rfl)
theorem dX6_takeAfter_2 : decode cX6_takeAfter 2 = .ok (.invokevirtual 174, 3) := dk_182 0 174 (dk_at dksX6_takeAfter_0 2 rfl rfl)
theorem dX6_takeAfter_5 : decode cX6_takeAfter 5 = .ok (.aload_n 0, 1) := dk_42 (dk_at dksX6_takeAfter_0 5 rfl rfl)
theorem dX6_takeAfter_6 : decode cX6_takeAfter 6 = .ok (.iload_n 2, 1) := dk_28 (dk_at dksX6_takeAfter_0 6 rfl rfl)
theorem dX6_takeAfter_7 : decode cX6_takeAfter 7 = .ok (.iload_n 3, 1) := dk_29 (dk_at dksX6_takeAfter_0 7 rfl rfl)
theorem dX6_takeAfter_8 : decode cX6_takeAfter 8 = .ok (.invokevirtual 177, 3) := dk_182 0 177 (dk_at dksX6_takeAfter_0 8 rfl rfl)
theorem dX6_takeAfter_11 : decode cX6_takeAfter 11 = .ok (.ireturn, 1) := dk_172 (dk_at dksX6_takeAfter_0 11 rfl rfl)
abbrev cX6_takeWord : ByteArray := prog_24_method_16_code
def yX6_takeWord : MethodName := ⟨RX6, "takeWord", "(I)V"⟩
def dkwX6_takeWord_0 : List UInt8 := [42, 27, 182, 0, 171, 154, 0, 8, 42, 4, 182, 0, 165, 177]
abbrev dktX6_takeWord_0 : List UInt8 := dkwX6_takeWord_0 ++ []
theorem dksX6_takeWord_0 : cX6_takeWord.data.toList.drop 0 = dktX6_takeWord_0 := by decide +kernel
theorem dX6_takeWord_0 : decode cX6_takeWord 0 = .ok (.aload_n 0, 1) := dk_42 (dk_at dksX6_takeWord_0 0 rfl rfl)
theorem dX6_takeWord_1 : decode cX6_takeWord 1 = .ok (.iload_n 1, 1) := dk_27 (dk_at dksX6_takeWord_0 1 rfl rfl)
theorem dX6_takeWord_2 : decode cX6_takeWord 2 = .ok (.invokevirtual 171, 3) := dk_182 0 171 (dk_at dksX6_takeWord_0 2 rfl rfl)
theorem dX6_takeWord_5 : decode cX6_takeWord 5 = .ok (.ifCond .ne 8, 3) := dk_154 0 8 (dk_at dksX6_takeWord_0 5 rfl rfl)
theorem dX6_takeWord_8 : decode cX6_takeWord 8 = .ok (.aload_n 0, 1) := dk_42 (dk_at dksX6_takeWord_0 8 rfl rfl)
theorem dX6_takeWord_9 : decode cX6_takeWord 9 = .ok (.iconst 1, 1) := dk_4 (dk_at dksX6_takeWord_0 9 rfl rfl)
theorem dX6_takeWord_10 : decode cX6_takeWord 10 = .ok (.invokevirtual 165, 3) := dk_182 0 165 (dk_at dksX6_takeWord_0 10 rfl rfl)
theorem dX6_takeWord_13 : decode cX6_takeWord 13 = .ok (.return_, 1) := dk_177 (dk_at dksX6_takeWord_0 13 rfl rfl)
abbrev cX6_hasWord : ByteArray := prog_24_method_15_code
def yX6_hasWord : MethodName := ⟨RX6, "hasWord", "(I)Z"⟩
def dkwX6_hasWord_1 : List UInt8 := [28, 172]
abbrev dktX6_hasWord_1 : List UInt8 := dkwX6_hasWord_1 ++ []
def dkwX6_hasWord_0 : List UInt8 := [42, 27, 182, 0, 168, 61, 42, 89, 180, 0, 156, 28, 153, 0, 7, 4, 167, 0, 4, 3, 96, 181, 0, 156]
abbrev dktX6_hasWord_0 : List UInt8 := dkwX6_hasWord_0 ++ dktX6_hasWord_1
theorem dksX6_hasWord_0 : cX6_hasWord.data.toList.drop 0 = dktX6_hasWord_0 := by decide +kernel
theorem dksX6_hasWord_1 : cX6_hasWord.data.toList.drop 24 = dktX6_hasWord_1 := dk_seg dksX6_hasWord_0 24 rfl rfl
theorem dX6_hasWord_0 : decode cX6_hasWord 0 = .ok (.aload_n 0, 1) := dk_42 (dk_at dksX6_hasWord_0 0 rfl rfl)
theorem dX6_hasWord_1 : decode cX6_hasWord 1 = .ok (.iload_n 1, 1) := dk_27 (dk_at dksX6_hasWord_0 1 rfl rfl)
theorem dX6_hasWord_2 : decode cX6_hasWord 2 = .ok (.invokevirtual 168, 3) := dk_182 0 168 (dk_at dksX6_hasWord_0 2 rfl rfl)
theorem dX6_hasWord_5 : decode cX6_hasWord 5 = .ok (.istore_n 2, 1) := dk_61 (dk_at dksX6_hasWord_0 5 rfl rfl)
theorem dX6_hasWord_6 : decode cX6_hasWord 6 = .ok (.aload_n 0, 1) := dk_42 (dk_at dksX6_hasWord_0 6 rfl rfl)
theorem dX6_hasWord_7 : decode cX6_hasWord 7 = .ok (.dup, 1) := dk_89 (dk_at dksX6_hasWord_0 7 rfl rfl)
theorem dX6_hasWord_8 : decode cX6_hasWord 8 = .ok (.getfield 156, 3) := dk_180 0 156 (dk_at dksX6_hasWord_0 8 rfl rfl)
theorem dX6_hasWord_11 : decode cX6_hasWord 11 = .ok (.iload_n 2, 1) := dk_28 (dk_at dksX6_hasWord_0 11 rfl rfl)
theorem dX6_hasWord_12 : decode cX6_hasWord 12 = .ok (.ifCond .eq 7, 3) := dk_153 0 7 (dk_at dksX6_hasWord_0 12 rfl rfl)
theorem dX6_hasWord_15 : decode cX6_hasWord 15 = .ok (.iconst 1, 1) := dk_4 (dk_at dksX6_hasWord_0 15 rfl rfl)
theorem dX6_hasWord_16 : decode cX6_hasWord 16 = .ok (.goto 4, 3) := dk_167 0 4 (dk_at dksX6_hasWord_0 16 rfl rfl)
theorem dX6_hasWord_19 : decode cX6_hasWord 19 = .ok (.iconst 0, 1) := dk_3 (dk_at dksX6_hasWord_0 19 rfl rfl)
theorem dX6_hasWord_20 : decode cX6_hasWord 20 = .ok (.iadd, 1) := dk_96 (dk_at dksX6_hasWord_0 20 rfl rfl)
theorem dX6_hasWord_21 : decode cX6_hasWord 21 = .ok (.putfield 156, 3) := dk_181 0 156 (dk_at dksX6_hasWord_0 21 rfl rfl)
theorem dX6_hasWord_24 : decode cX6_hasWord 24 = .ok (.iload_n 2, 1) := dk_28 (dk_at dksX6_hasWord_1 0 rfl rfl)
theorem dX6_hasWord_25 : decode cX6_hasWord 25 = .ok (.ireturn, 1) := dk_172 (dk_at dksX6_hasWord_1 1 rfl rfl)
abbrev cX6_takeNumber : ByteArray := prog_24_method_19_code
def yX6_takeNumber : MethodName := ⟨RX6, "takeNumber", "(II)I"⟩
def dkwX6_takeNumber_4 : List UInt8 := [180, 0, 156, 4, 100, 47, 136, 172]
abbrev dktX6_takeNumber_4 : List UInt8 := dkwX6_takeNumber_4 ++ []
def dkwX6_takeNumber_3 : List UInt8 := [42, 180, 0, 159, 158, 0, 5, 3, 172, 42, 89, 180, 0, 156, 4, 96, 181, 0, 156, 42, 180, 0, 30, 42]
abbrev dktX6_takeNumber_3 : List UInt8 := dkwX6_takeNumber_3 ++ dktX6_takeNumber_4
def dkwX6_takeNumber_2 : List UInt8 := [148, 155, 0, 18, 42, 180, 0, 30, 42, 180, 0, 156, 47, 28, 133, 148, 158, 0, 8, 42, 7, 182, 0, 165]
abbrev dktX6_takeNumber_2 : List UInt8 := dkwX6_takeNumber_2 ++ dktX6_takeNumber_3
def dkwX6_takeNumber_1 : List UInt8 := [182, 0, 165, 167, 0, 45, 42, 180, 0, 159, 154, 0, 38, 42, 180, 0, 30, 42, 180, 0, 156, 47, 27, 133]
abbrev dktX6_takeNumber_1 : List UInt8 := dkwX6_takeNumber_1 ++ dktX6_takeNumber_2
def dkwX6_takeNumber_0 : List UInt8 := [42, 180, 0, 159, 154, 0, 24, 42, 180, 0, 24, 42, 180, 0, 156, 46, 5, 159, 0, 11, 42, 4]
abbrev dktX6_takeNumber_0 : List UInt8 := dkwX6_takeNumber_0 ++ dktX6_takeNumber_1
theorem dksX6_takeNumber_0 : cX6_takeNumber.data.toList.drop 0 = dktX6_takeNumber_0 := by decide +kernel
theorem dksX6_takeNumber_1 : cX6_takeNumber.data.toList.drop 22 = dktX6_takeNumber_1 := dk_seg dksX6_takeNumber_0 22 rfl rfl
theorem dksX6_takeNumber_2 : cX6_takeNumber.data.toList.drop 46 = dktX6_takeNumber_2 := dk_seg dksX6_takeNumber_1 24 rfl rfl
theorem dksX6_takeNumber_3 : cX6_takeNumber.data.toList.drop 70 = dktX6_takeNumber_3 := dk_seg dksX6_takeNumber_2 24 rfl rfl
theorem dksX6_takeNumber_4 : cX6_takeNumber.data.toList.drop 94 = dktX6_takeNumber_4 := dk_seg dksX6_takeNumber_3 24 rfl rfl
theorem dX6_takeNumber_0 : decode cX6_takeNumber 0 = .ok (.aload_n 0, 1) := dk_42 (dk_at dksX6_takeNumber_0 0 rfl rfl)
theorem dX6_takeNumber_1 : decode cX6_takeNumber 1 = .ok (.getfield 159, 3) := dk_180 0 159 (dk_at dksX6_takeNumber_0 1 rfl rfl)
theorem dX6_takeNumber_4 : decode cX6_takeNumber 4 = .ok (.ifCond .ne 24, 3) := dk_154 0 24 (dk_at dksX6_takeNumber_0 4 rfl rfl)
theorem dX6_takeNumber_7 : decode cX6_takeNumber 7 = .ok (.aload_n 0, 1) := dk_42 (dk_at dksX6_takeNumber_0 7 rfl rfl)
theorem dX6_takeNumber_8 : decode cX6_takeNumber 8 = .ok (.getfield 24, 3) := dk_180 0 24 (dk_at dksX6_takeNumber_0 8 rfl rfl)
theorem dX6_takeNumber_11 : decode cX6_takeNumber 11 = .ok (.aload_n 0, 1) := dk_42 (dk_at dksX6_takeNumber_0 11 rfl rfl)
theorem dX6_takeNumber_12 : decode cX6_takeNumber 12 = .ok (.getfield 156, 3) := dk_180 0 156 (dk_at dksX6_takeNumber_0 12 rfl rfl)
theorem dX6_takeNumber_15 : decode cX6_takeNumber 15 = .ok (.iaload, 1) := dk_46 (dk_at dksX6_takeNumber_0 15 rfl rfl)
theorem dX6_takeNumber_16 : decode cX6_takeNumber 16 = .ok (.iconst 2, 1) := dk_5 (dk_at dksX6_takeNumber_0 16 rfl rfl)
theorem dX6_takeNumber_17 : decode cX6_takeNumber 17 = .ok (.if_icmp .eq 11, 3) := dk_159 0 11 (dk_at dksX6_takeNumber_0 17 rfl rfl)
theorem dX6_takeNumber_20 : decode cX6_takeNumber 20 = .ok (.aload_n 0, 1) := dk_42 (dk_at dksX6_takeNumber_0 20 rfl rfl)
theorem dX6_takeNumber_21 : decode cX6_takeNumber 21 = .ok (.iconst 1, 1) := dk_4 (dk_at dksX6_takeNumber_0 21 rfl rfl)
theorem dX6_takeNumber_22 : decode cX6_takeNumber 22 = .ok (.invokevirtual 165, 3) := dk_182 0 165 (dk_at dksX6_takeNumber_1 0 rfl rfl)
theorem dX6_takeNumber_25 : decode cX6_takeNumber 25 = .ok (.goto 45, 3) := dk_167 0 45 (dk_at dksX6_takeNumber_1 3 rfl rfl)
theorem dX6_takeNumber_28 : decode cX6_takeNumber 28 = .ok (.aload_n 0, 1) := dk_42 (dk_at dksX6_takeNumber_1 6 rfl rfl)
theorem dX6_takeNumber_29 : decode cX6_takeNumber 29 = .ok (.getfield 159, 3) := dk_180 0 159 (dk_at dksX6_takeNumber_1 7 rfl rfl)
theorem dX6_takeNumber_32 : decode cX6_takeNumber 32 = .ok (.ifCond .ne 38, 3) := dk_154 0 38 (dk_at dksX6_takeNumber_1 10 rfl rfl)
theorem dX6_takeNumber_35 : decode cX6_takeNumber 35 = .ok (.aload_n 0, 1) := dk_42 (dk_at dksX6_takeNumber_1 13 rfl rfl)
theorem dX6_takeNumber_36 : decode cX6_takeNumber 36 = .ok (.getfield 30, 3) := dk_180 0 30 (dk_at dksX6_takeNumber_1 14 rfl rfl)
theorem dX6_takeNumber_39 : decode cX6_takeNumber 39 = .ok (.aload_n 0, 1) := dk_42 (dk_at dksX6_takeNumber_1 17 rfl rfl)
theorem dX6_takeNumber_40 : decode cX6_takeNumber 40 = .ok (.getfield 156, 3) := dk_180 0 156 (dk_at dksX6_takeNumber_1 18 rfl rfl)
theorem dX6_takeNumber_43 : decode cX6_takeNumber 43 = .ok (.laload, 1) := dk_47 (dk_at dksX6_takeNumber_1 21 rfl rfl)
theorem dX6_takeNumber_44 : decode cX6_takeNumber 44 = .ok (.iload_n 1, 1) := dk_27 (dk_at dksX6_takeNumber_1 22 rfl rfl)
theorem dX6_takeNumber_45 : decode cX6_takeNumber 45 = .ok (.i2l, 1) := dk_133 (dk_at dksX6_takeNumber_1 23 rfl rfl)
theorem dX6_takeNumber_46 : decode cX6_takeNumber 46 = .ok (.lcmp, 1) := dk_148 (dk_at dksX6_takeNumber_2 0 rfl rfl)
theorem dX6_takeNumber_47 : decode cX6_takeNumber 47 = .ok (.ifCond .lt 18, 3) := dk_155 0 18 (dk_at dksX6_takeNumber_2 1 rfl rfl)
theorem dX6_takeNumber_50 : decode cX6_takeNumber 50 = .ok (.aload_n 0, 1) := dk_42 (dk_at dksX6_takeNumber_2 4 rfl rfl)
theorem dX6_takeNumber_51 : decode cX6_takeNumber 51 = .ok (.getfield 30, 3) := dk_180 0 30 (dk_at dksX6_takeNumber_2 5 rfl rfl)
theorem dX6_takeNumber_54 : decode cX6_takeNumber 54 = .ok (.aload_n 0, 1) := dk_42 (dk_at dksX6_takeNumber_2 8 rfl rfl)
theorem dX6_takeNumber_55 : decode cX6_takeNumber 55 = .ok (.getfield 156, 3) := dk_180 0 156 (dk_at dksX6_takeNumber_2 9 rfl rfl)
theorem dX6_takeNumber_58 : decode cX6_takeNumber 58 = .ok (.laload, 1) := dk_47 (dk_at dksX6_takeNumber_2 12 rfl rfl)
theorem dX6_takeNumber_59 : decode cX6_takeNumber 59 = .ok (.iload_n 2, 1) := dk_28 (dk_at dksX6_takeNumber_2 13 rfl rfl)
theorem dX6_takeNumber_60 : decode cX6_takeNumber 60 = .ok (.i2l, 1) := dk_133 (dk_at dksX6_takeNumber_2 14 rfl rfl)
theorem dX6_takeNumber_61 : decode cX6_takeNumber 61 = .ok (.lcmp, 1) := dk_148 (dk_at dksX6_takeNumber_2 15 rfl rfl)
theorem dX6_takeNumber_62 : decode cX6_takeNumber 62 = .ok (.ifCond .le 8, 3) := dk_158 0 8 (dk_at dksX6_takeNumber_2 16 rfl rfl)
theorem dX6_takeNumber_65 : decode cX6_takeNumber 65 = .ok (.aload_n 0, 1) := dk_42 (dk_at dksX6_takeNumber_2 19 rfl rfl)
theorem dX6_takeNumber_66 : decode cX6_takeNumber 66 = .ok (.iconst 4, 1) := dk_7 (dk_at dksX6_takeNumber_2 20 rfl rfl)
theorem dX6_takeNumber_67 : decode cX6_takeNumber 67 = .ok (.invokevirtual 165, 3) := dk_182 0 165 (dk_at dksX6_takeNumber_2 21 rfl rfl)
theorem dX6_takeNumber_70 : decode cX6_takeNumber 70 = .ok (.aload_n 0, 1) := dk_42 (dk_at dksX6_takeNumber_3 0 rfl rfl)
theorem dX6_takeNumber_71 : decode cX6_takeNumber 71 = .ok (.getfield 159, 3) := dk_180 0 159 (dk_at dksX6_takeNumber_3 1 rfl rfl)
theorem dX6_takeNumber_74 : decode cX6_takeNumber 74 = .ok (.ifCond .le 5, 3) := dk_158 0 5 (dk_at dksX6_takeNumber_3 4 rfl rfl)
theorem dX6_takeNumber_77 : decode cX6_takeNumber 77 = .ok (.iconst 0, 1) := dk_3 (dk_at dksX6_takeNumber_3 7 rfl rfl)
theorem dX6_takeNumber_78 : decode cX6_takeNumber 78 = .ok (.ireturn, 1) := dk_172 (dk_at dksX6_takeNumber_3 8 rfl rfl)
theorem dX6_takeNumber_79 : decode cX6_takeNumber 79 = .ok (.aload_n 0, 1) := dk_42 (dk_at dksX6_takeNumber_3 9 rfl rfl)
theorem dX6_takeNumber_80 : decode cX6_takeNumber 80 = .ok (.dup, 1) := dk_89 (dk_at dksX6_takeNumber_3 10 rfl rfl)
theorem dX6_takeNumber_81 : decode cX6_takeNumber 81 = .ok (.getfield 156, 3) := dk_180 0 156 (dk_at dksX6_takeNumber_3 11 rfl rfl)
theorem dX6_takeNumber_84 : decode cX6_takeNumber 84 = .ok (.iconst 1, 1) := dk_4 (dk_at dksX6_takeNumber_3 14 rfl rfl)
theorem dX6_takeNumber_85 : decode cX6_takeNumber 85 = .ok (.iadd, 1) := dk_96 (dk_at dksX6_takeNumber_3 15 rfl rfl)
theorem dX6_takeNumber_86 : decode cX6_takeNumber 86 = .ok (.putfield 156, 3) := dk_181 0 156 (dk_at dksX6_takeNumber_3 16 rfl rfl)
theorem dX6_takeNumber_89 : decode cX6_takeNumber 89 = .ok (.aload_n 0, 1) := dk_42 (dk_at dksX6_takeNumber_3 19 rfl rfl)
theorem dX6_takeNumber_90 : decode cX6_takeNumber 90 = .ok (.getfield 30, 3) := dk_180 0 30 (dk_at dksX6_takeNumber_3 20 rfl rfl)
theorem dX6_takeNumber_93 : decode cX6_takeNumber 93 = .ok (.aload_n 0, 1) := dk_42 (dk_at dksX6_takeNumber_3 23 rfl rfl)
theorem dX6_takeNumber_94 : decode cX6_takeNumber 94 = .ok (.getfield 156, 3) := dk_180 0 156 (dk_at dksX6_takeNumber_4 0 rfl rfl)
theorem dX6_takeNumber_97 : decode cX6_takeNumber 97 = .ok (.iconst 1, 1) := dk_4 (dk_at dksX6_takeNumber_4 3 rfl rfl)
theorem dX6_takeNumber_98 : decode cX6_takeNumber 98 = .ok (.isub, 1) := dk_100 (dk_at dksX6_takeNumber_4 4 rfl rfl)
theorem dX6_takeNumber_99 : decode cX6_takeNumber 99 = .ok (.laload, 1) := dk_47 (dk_at dksX6_takeNumber_4 5 rfl rfl)
theorem dX6_takeNumber_100 : decode cX6_takeNumber 100 = .ok (.l2i, 1) := dk_136 (dk_at dksX6_takeNumber_4 6 rfl rfl)
theorem dX6_takeNumber_101 : decode cX6_takeNumber 101 = .ok (.ireturn, 1) := dk_172 (dk_at dksX6_takeNumber_4 7 rfl rfl)
abbrev cX6_readOnce : ByteArray := prog_24_method_30_code
def yX6_readOnce : MethodName := ⟨RX6, "readOnce", "()V"⟩
def dkwX6_readOnce_4 : List UInt8 := [3, 3, 182, 0, 240, 177]
abbrev dktX6_readOnce_4 : List UInt8 := dkwX6_readOnce_4 ++ []
def dkwX6_readOnce_3 : List UInt8 := [42, 182, 0, 234, 167, 0, 25, 42, 180, 0, 89, 16, 64, 42, 180, 0, 205, 79, 42, 3, 182, 0, 237, 42]
abbrev dktX6_readOnce_3 : List UInt8 := dkwX6_readOnce_3 ++ dktX6_readOnce_4
def dkwX6_readOnce_2 : List UInt8 := [180, 0, 208, 4, 27, 120, 128, 181, 0, 208, 42, 89, 180, 0, 156, 4, 96, 181, 0, 156, 27, 154, 0, 10]
abbrev dktX6_readOnce_2 : List UInt8 := dkwX6_readOnce_2 ++ dktX6_readOnce_3
def dkwX6_readOnce_1 : List UInt8 := [27, 122, 4, 126, 4, 160, 0, 8, 42, 6, 182, 0, 165, 42, 180, 0, 159, 158, 0, 4, 177, 42, 89]
abbrev dktX6_readOnce_1 : List UInt8 := dkwX6_readOnce_1 ++ dktX6_readOnce_2
def dkwX6_readOnce_0 : List UInt8 := [42, 16, 7, 5, 182, 0, 181, 60, 27, 156, 0, 11, 42, 4, 182, 0, 165, 167, 0, 20, 42, 180, 0, 208]
abbrev dktX6_readOnce_0 : List UInt8 := dkwX6_readOnce_0 ++ dktX6_readOnce_1
theorem dksX6_readOnce_0 : cX6_readOnce.data.toList.drop 0 = dktX6_readOnce_0 := by decide +kernel
theorem dksX6_readOnce_1 : cX6_readOnce.data.toList.drop 24 = dktX6_readOnce_1 := dk_seg dksX6_readOnce_0 24 rfl rfl
theorem dksX6_readOnce_2 : cX6_readOnce.data.toList.drop 47 = dktX6_readOnce_2 := dk_seg dksX6_readOnce_1 23 rfl rfl
theorem dksX6_readOnce_3 : cX6_readOnce.data.toList.drop 71 = dktX6_readOnce_3 := dk_seg dksX6_readOnce_2 24 rfl rfl
theorem dksX6_readOnce_4 : cX6_readOnce.data.toList.drop 95 = dktX6_readOnce_4 := dk_seg dksX6_readOnce_3 24 rfl rfl
theorem dX6_readOnce_0 : decode cX6_readOnce 0 = .ok (.aload_n 0, 1) := dk_42 (dk_at dksX6_readOnce_0 0 rfl rfl)
theorem dX6_readOnce_1 : decode cX6_readOnce 1 = .ok (.bipush 7, 2) := dk_16 7 (dk_at dksX6_readOnce_0 1 rfl rfl)
theorem dX6_readOnce_3 : decode cX6_readOnce 3 = .ok (.iconst 2, 1) := dk_5 (dk_at dksX6_readOnce_0 3 rfl rfl)
theorem dX6_readOnce_4 : decode cX6_readOnce 4 = .ok (.invokevirtual 181, 3) := dk_182 0 181 (dk_at dksX6_readOnce_0 4 rfl rfl)
theorem dX6_readOnce_7 : decode cX6_readOnce 7 = .ok (.istore_n 1, 1) := dk_60 (dk_at dksX6_readOnce_0 7 rfl rfl)
theorem dX6_readOnce_8 : decode cX6_readOnce 8 = .ok (.iload_n 1, 1) := dk_27 (dk_at dksX6_readOnce_0 8 rfl rfl)
theorem dX6_readOnce_9 : decode cX6_readOnce 9 = .ok (.ifCond .ge 11, 3) := dk_156 0 11 (dk_at dksX6_readOnce_0 9 rfl rfl)
theorem dX6_readOnce_12 : decode cX6_readOnce 12 = .ok (.aload_n 0, 1) := dk_42 (dk_at dksX6_readOnce_0 12 rfl rfl)
theorem dX6_readOnce_13 : decode cX6_readOnce 13 = .ok (.iconst 1, 1) := dk_4 (dk_at dksX6_readOnce_0 13 rfl rfl)
theorem dX6_readOnce_14 : decode cX6_readOnce 14 = .ok (.invokevirtual 165, 3) := dk_182 0 165 (dk_at dksX6_readOnce_0 14 rfl rfl)
theorem dX6_readOnce_17 : decode cX6_readOnce 17 = .ok (.goto 20, 3) := dk_167 0 20 (dk_at dksX6_readOnce_0 17 rfl rfl)
theorem dX6_readOnce_20 : decode cX6_readOnce 20 = .ok (.aload_n 0, 1) := dk_42 (dk_at dksX6_readOnce_0 20 rfl rfl)
theorem dX6_readOnce_21 : decode cX6_readOnce 21 = .ok (.getfield 208, 3) := dk_180 0 208 (dk_at dksX6_readOnce_0 21 rfl rfl)
theorem dX6_readOnce_24 : decode cX6_readOnce 24 = .ok (.iload_n 1, 1) := dk_27 (dk_at dksX6_readOnce_1 0 rfl rfl)
theorem dX6_readOnce_25 : decode cX6_readOnce 25 = .ok (.ishr, 1) := dk_122 (dk_at dksX6_readOnce_1 1 rfl rfl)
theorem dX6_readOnce_26 : decode cX6_readOnce 26 = .ok (.iconst 1, 1) := dk_4 (dk_at dksX6_readOnce_1 2 rfl rfl)
theorem dX6_readOnce_27 : decode cX6_readOnce 27 = .ok (.iand, 1) := dk_126 (dk_at dksX6_readOnce_1 3 rfl rfl)
theorem dX6_readOnce_28 : decode cX6_readOnce 28 = .ok (.iconst 1, 1) := dk_4 (dk_at dksX6_readOnce_1 4 rfl rfl)
theorem dX6_readOnce_29 : decode cX6_readOnce 29 = .ok (.if_icmp .ne 8, 3) := dk_160 0 8 (dk_at dksX6_readOnce_1 5 rfl rfl)
theorem dX6_readOnce_32 : decode cX6_readOnce 32 = .ok (.aload_n 0, 1) := dk_42 (dk_at dksX6_readOnce_1 8 rfl rfl)
theorem dX6_readOnce_33 : decode cX6_readOnce 33 = .ok (.iconst 3, 1) := dk_6 (dk_at dksX6_readOnce_1 9 rfl rfl)
theorem dX6_readOnce_34 : decode cX6_readOnce 34 = .ok (.invokevirtual 165, 3) := dk_182 0 165 (dk_at dksX6_readOnce_1 10 rfl rfl)
theorem dX6_readOnce_37 : decode cX6_readOnce 37 = .ok (.aload_n 0, 1) := dk_42 (dk_at dksX6_readOnce_1 13 rfl rfl)
theorem dX6_readOnce_38 : decode cX6_readOnce 38 = .ok (.getfield 159, 3) := dk_180 0 159 (dk_at dksX6_readOnce_1 14 rfl rfl)
theorem dX6_readOnce_41 : decode cX6_readOnce 41 = .ok (.ifCond .le 4, 3) := dk_158 0 4 (dk_at dksX6_readOnce_1 17 rfl rfl)
theorem dX6_readOnce_44 : decode cX6_readOnce 44 = .ok (.return_, 1) := dk_177 (dk_at dksX6_readOnce_1 20 rfl rfl)
theorem dX6_readOnce_45 : decode cX6_readOnce 45 = .ok (.aload_n 0, 1) := dk_42 (dk_at dksX6_readOnce_1 21 rfl rfl)
theorem dX6_readOnce_46 : decode cX6_readOnce 46 = .ok (.dup, 1) := dk_89 (dk_at dksX6_readOnce_1 22 rfl rfl)
theorem dX6_readOnce_47 : decode cX6_readOnce 47 = .ok (.getfield 208, 3) := dk_180 0 208 (dk_at dksX6_readOnce_2 0 rfl rfl)
theorem dX6_readOnce_50 : decode cX6_readOnce 50 = .ok (.iconst 1, 1) := dk_4 (dk_at dksX6_readOnce_2 3 rfl rfl)
theorem dX6_readOnce_51 : decode cX6_readOnce 51 = .ok (.iload_n 1, 1) := dk_27 (dk_at dksX6_readOnce_2 4 rfl rfl)
theorem dX6_readOnce_52 : decode cX6_readOnce 52 = .ok (.ishl, 1) := dk_120 (dk_at dksX6_readOnce_2 5 rfl rfl)
theorem dX6_readOnce_53 : decode cX6_readOnce 53 = .ok (.ior, 1) := dk_128 (dk_at dksX6_readOnce_2 6 rfl rfl)
theorem dX6_readOnce_54 : decode cX6_readOnce 54 = .ok (.putfield 208, 3) := dk_181 0 208 (dk_at dksX6_readOnce_2 7 rfl rfl)
theorem dX6_readOnce_57 : decode cX6_readOnce 57 = .ok (.aload_n 0, 1) := dk_42 (dk_at dksX6_readOnce_2 10 rfl rfl)
theorem dX6_readOnce_58 : decode cX6_readOnce 58 = .ok (.dup, 1) := dk_89 (dk_at dksX6_readOnce_2 11 rfl rfl)
theorem dX6_readOnce_59 : decode cX6_readOnce 59 = .ok (.getfield 156, 3) := dk_180 0 156 (dk_at dksX6_readOnce_2 12 rfl rfl)
theorem dX6_readOnce_62 : decode cX6_readOnce 62 = .ok (.iconst 1, 1) := dk_4 (dk_at dksX6_readOnce_2 15 rfl rfl)
theorem dX6_readOnce_63 : decode cX6_readOnce 63 = .ok (.iadd, 1) := dk_96 (dk_at dksX6_readOnce_2 16 rfl rfl)
theorem dX6_readOnce_64 : decode cX6_readOnce 64 = .ok (.putfield 156, 3) := dk_181 0 156 (dk_at dksX6_readOnce_2 17 rfl rfl)
theorem dX6_readOnce_67 : decode cX6_readOnce 67 = .ok (.iload_n 1, 1) := dk_27 (dk_at dksX6_readOnce_2 20 rfl rfl)
theorem dX6_readOnce_68 : decode cX6_readOnce 68 = .ok (.ifCond .ne 10, 3) := dk_154 0 10 (dk_at dksX6_readOnce_2 21 rfl rfl)
theorem dX6_readOnce_71 : decode cX6_readOnce 71 = .ok (.aload_n 0, 1) := dk_42 (dk_at dksX6_readOnce_3 0 rfl rfl)
theorem dX6_readOnce_72 : decode cX6_readOnce 72 = .ok (.invokevirtual 234, 3) := dk_182 0 234 (dk_at dksX6_readOnce_3 1 rfl rfl)
theorem dX6_readOnce_75 : decode cX6_readOnce 75 = .ok (.goto 25, 3) := dk_167 0 25 (dk_at dksX6_readOnce_3 4 rfl rfl)
theorem dX6_readOnce_78 : decode cX6_readOnce 78 = .ok (.aload_n 0, 1) := dk_42 (dk_at dksX6_readOnce_3 7 rfl rfl)
theorem dX6_readOnce_79 : decode cX6_readOnce 79 = .ok (.getfield 89, 3) := dk_180 0 89 (dk_at dksX6_readOnce_3 8 rfl rfl)
theorem dX6_readOnce_82 : decode cX6_readOnce 82 = .ok (.bipush 64, 2) := dk_16 64 (dk_at dksX6_readOnce_3 11 rfl rfl)
theorem dX6_readOnce_84 : decode cX6_readOnce 84 = .ok (.aload_n 0, 1) := dk_42 (dk_at dksX6_readOnce_3 13 rfl rfl)
theorem dX6_readOnce_85 : decode cX6_readOnce 85 = .ok (.getfield 205, 3) := dk_180 0 205 (dk_at dksX6_readOnce_3 14 rfl rfl)
theorem dX6_readOnce_88 : decode cX6_readOnce 88 = .ok (.iastore, 1) := dk_79 (dk_at dksX6_readOnce_3 17 rfl rfl)
theorem dX6_readOnce_89 : decode cX6_readOnce 89 = .ok (.aload_n 0, 1) := dk_42 (dk_at dksX6_readOnce_3 18 rfl rfl)
theorem dX6_readOnce_90 : decode cX6_readOnce 90 = .ok (.iconst 0, 1) := dk_3 (dk_at dksX6_readOnce_3 19 rfl rfl)
theorem dX6_readOnce_91 : decode cX6_readOnce 91 = .ok (.invokevirtual 237, 3) := dk_182 0 237 (dk_at dksX6_readOnce_3 20 rfl rfl)
theorem dX6_readOnce_94 : decode cX6_readOnce 94 = .ok (.aload_n 0, 1) := dk_42 (dk_at dksX6_readOnce_3 23 rfl rfl)
theorem dX6_readOnce_95 : decode cX6_readOnce 95 = .ok (.iconst 0, 1) := dk_3 (dk_at dksX6_readOnce_4 0 rfl rfl)
theorem dX6_readOnce_96 : decode cX6_readOnce 96 = .ok (.iconst 0, 1) := dk_3 (dk_at dksX6_readOnce_4 1 rfl rfl)
theorem dX6_readOnce_97 : decode cX6_readOnce 97 = .ok (.invokevirtual 240, 3) := dk_182 0 240 (dk_at dksX6_readOnce_4 2 rfl rfl)
theorem dX6_readOnce_100 : decode cX6_readOnce 100 = .ok (.return_, 1) := dk_177 (dk_at dksX6_readOnce_4 5 rfl rfl)
abbrev cX6_readLight : ByteArray := prog_24_method_31_code
def yX6_readLight : MethodName := ⟨RX6, "readLight", "()V"⟩
def dkwX6_readLight_4 : List UInt8 := [177]
abbrev dktX6_readLight_4 : List UInt8 := dkwX6_readLight_4 ++ []
def dkwX6_readLight_3 : List UInt8 := [42, 180, 0, 89, 16, 93, 27, 96, 28, 79, 132, 1, 1, 167, 255, 174, 42, 180, 0, 89, 16, 63, 27, 79]
abbrev dktX6_readLight_3 : List UInt8 := dkwX6_readLight_3 ++ dktX6_readLight_4
def dkwX6_readLight_2 : List UInt8 := [89, 180, 0, 156, 4, 100, 181, 0, 156, 42, 8, 182, 0, 165, 167, 0, 23, 42, 180, 0, 159, 154, 0, 16]
abbrev dktX6_readLight_2 : List UInt8 := dkwX6_readLight_2 ++ dktX6_readLight_3
def dkwX6_readLight_1 : List UInt8 := [160, 0, 64, 42, 3, 4, 182, 0, 177, 61, 42, 180, 0, 159, 154, 0, 27, 27, 16, 12, 160, 0, 21, 42]
abbrev dktX6_readLight_1 : List UInt8 := dkwX6_readLight_1 ++ dktX6_readLight_2
def dkwX6_readLight_0 : List UInt8 := [3, 60, 42, 180, 0, 159, 154, 0, 81, 27, 153, 0, 16, 42, 180, 0, 24, 42, 180, 0, 156, 46, 5]
abbrev dktX6_readLight_0 : List UInt8 := dkwX6_readLight_0 ++ dktX6_readLight_1
theorem dksX6_readLight_0 : cX6_readLight.data.toList.drop 0 = dktX6_readLight_0 := by decide +kernel
theorem dksX6_readLight_1 : cX6_readLight.data.toList.drop 23 = dktX6_readLight_1 := dk_seg dksX6_readLight_0 23 rfl rfl
theorem dksX6_readLight_2 : cX6_readLight.data.toList.drop 47 = dktX6_readLight_2 := dk_seg dksX6_readLight_1 24 rfl rfl
theorem dksX6_readLight_3 : cX6_readLight.data.toList.drop 71 = dktX6_readLight_3 := dk_seg dksX6_readLight_2 24 rfl rfl
theorem dksX6_readLight_4 : cX6_readLight.data.toList.drop 95 = dktX6_readLight_4 := dk_seg dksX6_readLight_3 24 rfl rfl
theorem dX6_readLight_0 : decode cX6_readLight 0 = .ok (.iconst 0, 1) := dk_3 (dk_at dksX6_readLight_0 0 rfl rfl)
theorem dX6_readLight_1 : decode cX6_readLight 1 = .ok (.istore_n 1, 1) := dk_60 (dk_at dksX6_readLight_0 1 rfl rfl)
theorem dX6_readLight_2 : decode cX6_readLight 2 = .ok (.aload_n 0, 1) := dk_42 (dk_at dksX6_readLight_0 2 rfl rfl)
theorem dX6_readLight_3 : decode cX6_readLight 3 = .ok (.getfield 159, 3) := dk_180 0 159 (dk_at dksX6_readLight_0 3 rfl rfl)
theorem dX6_readLight_6 : decode cX6_readLight 6 = .ok (.ifCond .ne 81, 3) := dk_154 0 81 (dk_at dksX6_readLight_0 6 rfl rfl)
theorem dX6_readLight_9 : decode cX6_readLight 9 = .ok (.iload_n 1, 1) := dk_27 (dk_at dksX6_readLight_0 9 rfl rfl)
theorem dX6_readLight_10 : decode cX6_readLight 10 = .ok (.ifCond .eq 16, 3) := dk_153 0 16 (dk_at dksX6_readLight_0 10 rfl rfl)
theorem dX6_readLight_13 : decode cX6_readLight 13 = .ok (.aload_n 0, 1) := dk_42 (dk_at dksX6_readLight_0 13 rfl rfl)
theorem dX6_readLight_14 : decode cX6_readLight 14 = .ok (.getfield 24, 3) := dk_180 0 24 (dk_at dksX6_readLight_0 14 rfl rfl)
theorem dX6_readLight_17 : decode cX6_readLight 17 = .ok (.aload_n 0, 1) := dk_42 (dk_at dksX6_readLight_0 17 rfl rfl)
theorem dX6_readLight_18 : decode cX6_readLight 18 = .ok (.getfield 156, 3) := dk_180 0 156 (dk_at dksX6_readLight_0 18 rfl rfl)
theorem dX6_readLight_21 : decode cX6_readLight 21 = .ok (.iaload, 1) := dk_46 (dk_at dksX6_readLight_0 21 rfl rfl)
theorem dX6_readLight_22 : decode cX6_readLight 22 = .ok (.iconst 2, 1) := dk_5 (dk_at dksX6_readLight_0 22 rfl rfl)
theorem dX6_readLight_23 : decode cX6_readLight 23 = .ok (.if_icmp .ne 64, 3) := dk_160 0 64 (dk_at dksX6_readLight_1 0 rfl rfl)
theorem dX6_readLight_26 : decode cX6_readLight 26 = .ok (.aload_n 0, 1) := dk_42 (dk_at dksX6_readLight_1 3 rfl rfl)
theorem dX6_readLight_27 : decode cX6_readLight 27 = .ok (.iconst 0, 1) := dk_3 (dk_at dksX6_readLight_1 4 rfl rfl)
theorem dX6_readLight_28 : decode cX6_readLight 28 = .ok (.iconst 1, 1) := dk_4 (dk_at dksX6_readLight_1 5 rfl rfl)
theorem dX6_readLight_29 : decode cX6_readLight 29 = .ok (.invokevirtual 177, 3) := dk_182 0 177 (dk_at dksX6_readLight_1 6 rfl rfl)
theorem dX6_readLight_32 : decode cX6_readLight 32 = .ok (.istore_n 2, 1) := dk_61 (dk_at dksX6_readLight_1 9 rfl rfl)
theorem dX6_readLight_33 : decode cX6_readLight 33 = .ok (.aload_n 0, 1) := dk_42 (dk_at dksX6_readLight_1 10 rfl rfl)
theorem dX6_readLight_34 : decode cX6_readLight 34 = .ok (.getfield 159, 3) := dk_180 0 159 (dk_at dksX6_readLight_1 11 rfl rfl)
theorem dX6_readLight_37 : decode cX6_readLight 37 = .ok (.ifCond .ne 27, 3) := dk_154 0 27 (dk_at dksX6_readLight_1 14 rfl rfl)
theorem dX6_readLight_40 : decode cX6_readLight 40 = .ok (.iload_n 1, 1) := dk_27 (dk_at dksX6_readLight_1 17 rfl rfl)
theorem dX6_readLight_41 : decode cX6_readLight 41 = .ok (.bipush 12, 2) := dk_16 12 (dk_at dksX6_readLight_1 18 rfl rfl)
theorem dX6_readLight_43 : decode cX6_readLight 43 = .ok (.if_icmp .ne 21, 3) := dk_160 0 21 (dk_at dksX6_readLight_1 20 rfl rfl)
theorem dX6_readLight_46 : decode cX6_readLight 46 = .ok (.aload_n 0, 1) := dk_42 (dk_at dksX6_readLight_1 23 rfl rfl)
theorem dX6_readLight_47 : decode cX6_readLight 47 = .ok (.dup, 1) := dk_89 (dk_at dksX6_readLight_2 0 rfl rfl)
theorem dX6_readLight_48 : decode cX6_readLight 48 = .ok (.getfield 156, 3) := dk_180 0 156 (dk_at dksX6_readLight_2 1 rfl rfl)
theorem dX6_readLight_51 : decode cX6_readLight 51 = .ok (.iconst 1, 1) := dk_4 (dk_at dksX6_readLight_2 4 rfl rfl)
theorem dX6_readLight_52 : decode cX6_readLight 52 = .ok (.isub, 1) := dk_100 (dk_at dksX6_readLight_2 5 rfl rfl)
theorem dX6_readLight_53 : decode cX6_readLight 53 = .ok (.putfield 156, 3) := dk_181 0 156 (dk_at dksX6_readLight_2 6 rfl rfl)
theorem dX6_readLight_56 : decode cX6_readLight 56 = .ok (.aload_n 0, 1) := dk_42 (dk_at dksX6_readLight_2 9 rfl rfl)
theorem dX6_readLight_57 : decode cX6_readLight 57 = .ok (.iconst 5, 1) := dk_8 (dk_at dksX6_readLight_2 10 rfl rfl)
theorem dX6_readLight_58 : decode cX6_readLight 58 = .ok (.invokevirtual 165, 3) := dk_182 0 165 (dk_at dksX6_readLight_2 11 rfl rfl)
theorem dX6_readLight_61 : decode cX6_readLight 61 = .ok (.goto 23, 3) := dk_167 0 23 (dk_at dksX6_readLight_2 14 rfl rfl)
theorem dX6_readLight_64 : decode cX6_readLight 64 = .ok (.aload_n 0, 1) := dk_42 (dk_at dksX6_readLight_2 17 rfl rfl)
theorem dX6_readLight_65 : decode cX6_readLight 65 = .ok (.getfield 159, 3) := dk_180 0 159 (dk_at dksX6_readLight_2 18 rfl rfl)
theorem dX6_readLight_68 : decode cX6_readLight 68 = .ok (.ifCond .ne 16, 3) := dk_154 0 16 (dk_at dksX6_readLight_2 21 rfl rfl)
theorem dX6_readLight_71 : decode cX6_readLight 71 = .ok (.aload_n 0, 1) := dk_42 (dk_at dksX6_readLight_3 0 rfl rfl)
theorem dX6_readLight_72 : decode cX6_readLight 72 = .ok (.getfield 89, 3) := dk_180 0 89 (dk_at dksX6_readLight_3 1 rfl rfl)
theorem dX6_readLight_75 : decode cX6_readLight 75 = .ok (.bipush 93, 2) := dk_16 93 (dk_at dksX6_readLight_3 4 rfl rfl)
theorem dX6_readLight_77 : decode cX6_readLight 77 = .ok (.iload_n 1, 1) := dk_27 (dk_at dksX6_readLight_3 6 rfl rfl)
theorem dX6_readLight_78 : decode cX6_readLight 78 = .ok (.iadd, 1) := dk_96 (dk_at dksX6_readLight_3 7 rfl rfl)
theorem dX6_readLight_79 : decode cX6_readLight 79 = .ok (.iload_n 2, 1) := dk_28 (dk_at dksX6_readLight_3 8 rfl rfl)
theorem dX6_readLight_80 : decode cX6_readLight 80 = .ok (.iastore, 1) := dk_79 (dk_at dksX6_readLight_3 9 rfl rfl)
theorem dX6_readLight_81 : decode cX6_readLight 81 = .ok (.iinc 1 1, 3) := dk_132 1 1 (dk_at dksX6_readLight_3 10 rfl rfl)
theorem dX6_readLight_84 : decode cX6_readLight 84 = .ok (.goto (-82), 3) := dk_167 255 174 (dk_at dksX6_readLight_3 13 rfl rfl)
theorem dX6_readLight_87 : decode cX6_readLight 87 = .ok (.aload_n 0, 1) := dk_42 (dk_at dksX6_readLight_3 16 rfl rfl)
theorem dX6_readLight_88 : decode cX6_readLight 88 = .ok (.getfield 89, 3) := dk_180 0 89 (dk_at dksX6_readLight_3 17 rfl rfl)
theorem dX6_readLight_91 : decode cX6_readLight 91 = .ok (.bipush 63, 2) := dk_16 63 (dk_at dksX6_readLight_3 20 rfl rfl)
theorem dX6_readLight_93 : decode cX6_readLight 93 = .ok (.iload_n 1, 1) := dk_27 (dk_at dksX6_readLight_3 22 rfl rfl)
theorem dX6_readLight_94 : decode cX6_readLight 94 = .ok (.iastore, 1) := dk_79 (dk_at dksX6_readLight_3 23 rfl rfl)
theorem dX6_readLight_95 : decode cX6_readLight 95 = .ok (.return_, 1) := dk_177 (dk_at dksX6_readLight_4 0 rfl rfl)
abbrev cX6_whole : ByteArray := prog_24_method_34_code
def yX6_whole : MethodName := ⟨RX6, "whole", "(I)V"⟩
def dkwX6_whole_2 : List UInt8 := [153, 0, 8, 16, 9, 167, 0, 5, 16, 10, 3, 182, 0, 240, 167, 255, 200, 177]
abbrev dktX6_whole_2 : List UInt8 := dkwX6_whole_2 ++ []
def dkwX6_whole_1 : List UInt8 := [16, 20, 182, 0, 168, 61, 42, 89, 180, 0, 156, 4, 96, 181, 0, 156, 42, 27, 182, 0, 247, 42, 28]
abbrev dktX6_whole_1 : List UInt8 := dkwX6_whole_1 ++ dktX6_whole_2
def dkwX6_whole_0 : List UInt8 := [42, 27, 182, 0, 247, 42, 16, 20, 182, 0, 168, 154, 0, 12, 42, 16, 21, 182, 0, 168, 153, 0, 44, 42]
abbrev dktX6_whole_0 : List UInt8 := dkwX6_whole_0 ++ dktX6_whole_1
theorem dksX6_whole_0 : cX6_whole.data.toList.drop 0 = dktX6_whole_0 := by decide +kernel
theorem dksX6_whole_1 : cX6_whole.data.toList.drop 24 = dktX6_whole_1 := dk_seg dksX6_whole_0 24 rfl rfl
theorem dksX6_whole_2 : cX6_whole.data.toList.drop 47 = dktX6_whole_2 := dk_seg dksX6_whole_1 23 rfl rfl
theorem dX6_whole_0 : decode cX6_whole 0 = .ok (.aload_n 0, 1) := dk_42 (dk_at dksX6_whole_0 0 rfl rfl)
theorem dX6_whole_1 : decode cX6_whole 1 = .ok (.iload_n 1, 1) := dk_27 (dk_at dksX6_whole_0 1 rfl rfl)
theorem dX6_whole_2 : decode cX6_whole 2 = .ok (.invokevirtual 247, 3) := dk_182 0 247 (dk_at dksX6_whole_0 2 rfl rfl)
theorem dX6_whole_5 : decode cX6_whole 5 = .ok (.aload_n 0, 1) := dk_42 (dk_at dksX6_whole_0 5 rfl rfl)
theorem dX6_whole_6 : decode cX6_whole 6 = .ok (.bipush 20, 2) := dk_16 20 (dk_at dksX6_whole_0 6 rfl rfl)
theorem dX6_whole_8 : decode cX6_whole 8 = .ok (.invokevirtual 168, 3) := dk_182 0 168 (dk_at dksX6_whole_0 8 rfl rfl)
theorem dX6_whole_11 : decode cX6_whole 11 = .ok (.ifCond .ne 12, 3) := dk_154 0 12 (dk_at dksX6_whole_0 11 rfl rfl)
theorem dX6_whole_14 : decode cX6_whole 14 = .ok (.aload_n 0, 1) := dk_42 (dk_at dksX6_whole_0 14 rfl rfl)
theorem dX6_whole_15 : decode cX6_whole 15 = .ok (.bipush 21, 2) := dk_16 21 (dk_at dksX6_whole_0 15 rfl rfl)
theorem dX6_whole_17 : decode cX6_whole 17 = .ok (.invokevirtual 168, 3) := dk_182 0 168 (dk_at dksX6_whole_0 17 rfl rfl)
theorem dX6_whole_20 : decode cX6_whole 20 = .ok (.ifCond .eq 44, 3) := dk_153 0 44 (dk_at dksX6_whole_0 20 rfl rfl)
theorem dX6_whole_23 : decode cX6_whole 23 = .ok (.aload_n 0, 1) := dk_42 (dk_at dksX6_whole_0 23 rfl rfl)
theorem dX6_whole_24 : decode cX6_whole 24 = .ok (.bipush 20, 2) := dk_16 20 (dk_at dksX6_whole_1 0 rfl rfl)
theorem dX6_whole_26 : decode cX6_whole 26 = .ok (.invokevirtual 168, 3) := dk_182 0 168 (dk_at dksX6_whole_1 2 rfl rfl)
theorem dX6_whole_29 : decode cX6_whole 29 = .ok (.istore_n 2, 1) := dk_61 (dk_at dksX6_whole_1 5 rfl rfl)
theorem dX6_whole_30 : decode cX6_whole 30 = .ok (.aload_n 0, 1) := dk_42 (dk_at dksX6_whole_1 6 rfl rfl)
theorem dX6_whole_31 : decode cX6_whole 31 = .ok (.dup, 1) := dk_89 (dk_at dksX6_whole_1 7 rfl rfl)
theorem dX6_whole_32 : decode cX6_whole 32 = .ok (.getfield 156, 3) := dk_180 0 156 (dk_at dksX6_whole_1 8 rfl rfl)
theorem dX6_whole_35 : decode cX6_whole 35 = .ok (.iconst 1, 1) := dk_4 (dk_at dksX6_whole_1 11 rfl rfl)
theorem dX6_whole_36 : decode cX6_whole 36 = .ok (.iadd, 1) := dk_96 (dk_at dksX6_whole_1 12 rfl rfl)
theorem dX6_whole_37 : decode cX6_whole 37 = .ok (.putfield 156, 3) := dk_181 0 156 (dk_at dksX6_whole_1 13 rfl rfl)
theorem dX6_whole_40 : decode cX6_whole 40 = .ok (.aload_n 0, 1) := dk_42 (dk_at dksX6_whole_1 16 rfl rfl)
theorem dX6_whole_41 : decode cX6_whole 41 = .ok (.iload_n 1, 1) := dk_27 (dk_at dksX6_whole_1 17 rfl rfl)
theorem dX6_whole_42 : decode cX6_whole 42 = .ok (.invokevirtual 247, 3) := dk_182 0 247 (dk_at dksX6_whole_1 18 rfl rfl)
theorem dX6_whole_45 : decode cX6_whole 45 = .ok (.aload_n 0, 1) := dk_42 (dk_at dksX6_whole_1 21 rfl rfl)
theorem dX6_whole_46 : decode cX6_whole 46 = .ok (.iload_n 2, 1) := dk_28 (dk_at dksX6_whole_1 22 rfl rfl)
theorem dX6_whole_47 : decode cX6_whole 47 = .ok (.ifCond .eq 8, 3) := dk_153 0 8 (dk_at dksX6_whole_2 0 rfl rfl)
theorem dX6_whole_50 : decode cX6_whole 50 = .ok (.bipush 9, 2) := dk_16 9 (dk_at dksX6_whole_2 3 rfl rfl)
theorem dX6_whole_52 : decode cX6_whole 52 = .ok (.goto 5, 3) := dk_167 0 5 (dk_at dksX6_whole_2 5 rfl rfl)
theorem dX6_whole_55 : decode cX6_whole 55 = .ok (.bipush 10, 2) := dk_16 10 (dk_at dksX6_whole_2 8 rfl rfl)
theorem dX6_whole_57 : decode cX6_whole 57 = .ok (.iconst 0, 1) := dk_3 (dk_at dksX6_whole_2 10 rfl rfl)
theorem dX6_whole_58 : decode cX6_whole 58 = .ok (.invokevirtual 240, 3) := dk_182 0 240 (dk_at dksX6_whole_2 11 rfl rfl)
theorem dX6_whole_61 : decode cX6_whole 61 = .ok (.goto (-56), 3) := dk_167 255 200 (dk_at dksX6_whole_2 14 rfl rfl)
theorem dX6_whole_64 : decode cX6_whole 64 = .ok (.return_, 1) := dk_177 (dk_at dksX6_whole_2 17 rfl rfl)
abbrev cX6_test : ByteArray := prog_24_method_35_code
def yX6_test : MethodName := ⟨RX6, "test", "(I)V"⟩
def dkwX6_test_2 : List UInt8 := [182, 0, 240, 177]
abbrev dktX6_test_2 : List UInt8 := dkwX6_test_2 ++ []
def dkwX6_test_1 : List UInt8 := [182, 0, 253, 153, 0, 24, 42, 27, 182, 0, 250, 42, 28, 153, 0, 8, 16, 7, 167, 0, 5, 16, 8, 3]
abbrev dktX6_test_1 : List UInt8 := dkwX6_test_1 ++ dktX6_test_2
def dkwX6_test_0 : List UInt8 := [42, 27, 182, 0, 250, 42, 16, 60, 182, 0, 162, 61, 42, 16, 60, 182, 0, 253, 154, 0, 12, 42, 16, 61]
abbrev dktX6_test_0 : List UInt8 := dkwX6_test_0 ++ dktX6_test_1
theorem dksX6_test_0 : cX6_test.data.toList.drop 0 = dktX6_test_0 := by decide +kernel
theorem dksX6_test_1 : cX6_test.data.toList.drop 24 = dktX6_test_1 := dk_seg dksX6_test_0 24 rfl rfl
theorem dksX6_test_2 : cX6_test.data.toList.drop 48 = dktX6_test_2 := dk_seg dksX6_test_1 24 rfl rfl
theorem dX6_test_0 : decode cX6_test 0 = .ok (.aload_n 0, 1) := dk_42 (dk_at dksX6_test_0 0 rfl rfl)
theorem dX6_test_1 : decode cX6_test 1 = .ok (.iload_n 1, 1) := dk_27 (dk_at dksX6_test_0 1 rfl rfl)
theorem dX6_test_2 : decode cX6_test 2 = .ok (.invokevirtual 250, 3) := dk_182 0 250 (dk_at dksX6_test_0 2 rfl rfl)
theorem dX6_test_5 : decode cX6_test 5 = .ok (.aload_n 0, 1) := dk_42 (dk_at dksX6_test_0 5 rfl rfl)
theorem dX6_test_6 : decode cX6_test 6 = .ok (.bipush 60, 2) := dk_16 60 (dk_at dksX6_test_0 6 rfl rfl)
theorem dX6_test_8 : decode cX6_test 8 = .ok (.invokevirtual 162, 3) := dk_182 0 162 (dk_at dksX6_test_0 8 rfl rfl)
theorem dX6_test_11 : decode cX6_test 11 = .ok (.istore_n 2, 1) := dk_61 (dk_at dksX6_test_0 11 rfl rfl)
theorem dX6_test_12 : decode cX6_test 12 = .ok (.aload_n 0, 1) := dk_42 (dk_at dksX6_test_0 12 rfl rfl)
theorem dX6_test_13 : decode cX6_test 13 = .ok (.bipush 60, 2) := dk_16 60 (dk_at dksX6_test_0 13 rfl rfl)
theorem dX6_test_15 : decode cX6_test 15 = .ok (.invokevirtual 253, 3) := dk_182 0 253 (dk_at dksX6_test_0 15 rfl rfl)
theorem dX6_test_18 : decode cX6_test 18 = .ok (.ifCond .ne 12, 3) := dk_154 0 12 (dk_at dksX6_test_0 18 rfl rfl)
theorem dX6_test_21 : decode cX6_test 21 = .ok (.aload_n 0, 1) := dk_42 (dk_at dksX6_test_0 21 rfl rfl)
theorem dX6_test_22 : decode cX6_test 22 = .ok (.bipush 61, 2) := dk_16 61 (dk_at dksX6_test_0 22 rfl rfl)
theorem dX6_test_24 : decode cX6_test 24 = .ok (.invokevirtual 253, 3) := dk_182 0 253 (dk_at dksX6_test_1 0 rfl rfl)
theorem dX6_test_27 : decode cX6_test 27 = .ok (.ifCond .eq 24, 3) := dk_153 0 24 (dk_at dksX6_test_1 3 rfl rfl)
theorem dX6_test_30 : decode cX6_test 30 = .ok (.aload_n 0, 1) := dk_42 (dk_at dksX6_test_1 6 rfl rfl)
theorem dX6_test_31 : decode cX6_test 31 = .ok (.iload_n 1, 1) := dk_27 (dk_at dksX6_test_1 7 rfl rfl)
theorem dX6_test_32 : decode cX6_test 32 = .ok (.invokevirtual 250, 3) := dk_182 0 250 (dk_at dksX6_test_1 8 rfl rfl)
theorem dX6_test_35 : decode cX6_test 35 = .ok (.aload_n 0, 1) := dk_42 (dk_at dksX6_test_1 11 rfl rfl)
theorem dX6_test_36 : decode cX6_test 36 = .ok (.iload_n 2, 1) := dk_28 (dk_at dksX6_test_1 12 rfl rfl)
theorem dX6_test_37 : decode cX6_test 37 = .ok (.ifCond .eq 8, 3) := dk_153 0 8 (dk_at dksX6_test_1 13 rfl rfl)
theorem dX6_test_40 : decode cX6_test 40 = .ok (.bipush 7, 2) := dk_16 7 (dk_at dksX6_test_1 16 rfl rfl)
theorem dX6_test_42 : decode cX6_test 42 = .ok (.goto 5, 3) := dk_167 0 5 (dk_at dksX6_test_1 18 rfl rfl)
theorem dX6_test_45 : decode cX6_test 45 = .ok (.bipush 8, 2) := dk_16 8 (dk_at dksX6_test_1 21 rfl rfl)
theorem dX6_test_47 : decode cX6_test 47 = .ok (.iconst 0, 1) := dk_3 (dk_at dksX6_test_1 23 rfl rfl)
theorem dX6_test_48 : decode cX6_test 48 = .ok (.invokevirtual 240, 3) := dk_182 0 240 (dk_at dksX6_test_2 0 rfl rfl)
theorem dX6_test_51 : decode cX6_test 51 = .ok (.return_, 1) := dk_177 (dk_at dksX6_test_2 3 rfl rfl)
abbrev cX6_sums : ByteArray := prog_24_method_36_code
def yX6_sums : MethodName := ⟨RX6, "sums", "(I)V"⟩
def dkwX6_sums_2 : List UInt8 := [153, 0, 7, 7, 167, 0, 4, 8, 3, 182, 0, 240, 167, 255, 202, 177]
abbrev dktX6_sums_2 : List UInt8 := dkwX6_sums_2 ++ []
def dkwX6_sums_1 : List UInt8 := [16, 43, 182, 0, 162, 61, 42, 89, 180, 0, 156, 4, 96, 181, 0, 156, 42, 27, 182, 1, 0, 42, 28]
abbrev dktX6_sums_1 : List UInt8 := dkwX6_sums_1 ++ dktX6_sums_2
def dkwX6_sums_0 : List UInt8 := [42, 27, 182, 1, 0, 42, 16, 43, 182, 0, 162, 154, 0, 12, 42, 16, 45, 182, 0, 162, 153, 0, 42, 42]
abbrev dktX6_sums_0 : List UInt8 := dkwX6_sums_0 ++ dktX6_sums_1
theorem dksX6_sums_0 : cX6_sums.data.toList.drop 0 = dktX6_sums_0 := by decide +kernel
theorem dksX6_sums_1 : cX6_sums.data.toList.drop 24 = dktX6_sums_1 := dk_seg dksX6_sums_0 24 rfl rfl
theorem dksX6_sums_2 : cX6_sums.data.toList.drop 47 = dktX6_sums_2 := dk_seg dksX6_sums_1 23 rfl rfl
theorem dX6_sums_0 : decode cX6_sums 0 = .ok (.aload_n 0, 1) := dk_42 (dk_at dksX6_sums_0 0 rfl rfl)
theorem dX6_sums_1 : decode cX6_sums 1 = .ok (.iload_n 1, 1) := dk_27 (dk_at dksX6_sums_0 1 rfl rfl)
theorem dX6_sums_2 : decode cX6_sums 2 = .ok (.invokevirtual 256, 3) := dk_182 1 0 (dk_at dksX6_sums_0 2 rfl rfl)
theorem dX6_sums_5 : decode cX6_sums 5 = .ok (.aload_n 0, 1) := dk_42 (dk_at dksX6_sums_0 5 rfl rfl)
theorem dX6_sums_6 : decode cX6_sums 6 = .ok (.bipush 43, 2) := dk_16 43 (dk_at dksX6_sums_0 6 rfl rfl)
theorem dX6_sums_8 : decode cX6_sums 8 = .ok (.invokevirtual 162, 3) := dk_182 0 162 (dk_at dksX6_sums_0 8 rfl rfl)
theorem dX6_sums_11 : decode cX6_sums 11 = .ok (.ifCond .ne 12, 3) := dk_154 0 12 (dk_at dksX6_sums_0 11 rfl rfl)
theorem dX6_sums_14 : decode cX6_sums 14 = .ok (.aload_n 0, 1) := dk_42 (dk_at dksX6_sums_0 14 rfl rfl)
theorem dX6_sums_15 : decode cX6_sums 15 = .ok (.bipush 45, 2) := dk_16 45 (dk_at dksX6_sums_0 15 rfl rfl)
theorem dX6_sums_17 : decode cX6_sums 17 = .ok (.invokevirtual 162, 3) := dk_182 0 162 (dk_at dksX6_sums_0 17 rfl rfl)
theorem dX6_sums_20 : decode cX6_sums 20 = .ok (.ifCond .eq 42, 3) := dk_153 0 42 (dk_at dksX6_sums_0 20 rfl rfl)
theorem dX6_sums_23 : decode cX6_sums 23 = .ok (.aload_n 0, 1) := dk_42 (dk_at dksX6_sums_0 23 rfl rfl)
theorem dX6_sums_24 : decode cX6_sums 24 = .ok (.bipush 43, 2) := dk_16 43 (dk_at dksX6_sums_1 0 rfl rfl)
theorem dX6_sums_26 : decode cX6_sums 26 = .ok (.invokevirtual 162, 3) := dk_182 0 162 (dk_at dksX6_sums_1 2 rfl rfl)
theorem dX6_sums_29 : decode cX6_sums 29 = .ok (.istore_n 2, 1) := dk_61 (dk_at dksX6_sums_1 5 rfl rfl)
theorem dX6_sums_30 : decode cX6_sums 30 = .ok (.aload_n 0, 1) := dk_42 (dk_at dksX6_sums_1 6 rfl rfl)
theorem dX6_sums_31 : decode cX6_sums 31 = .ok (.dup, 1) := dk_89 (dk_at dksX6_sums_1 7 rfl rfl)
theorem dX6_sums_32 : decode cX6_sums 32 = .ok (.getfield 156, 3) := dk_180 0 156 (dk_at dksX6_sums_1 8 rfl rfl)
theorem dX6_sums_35 : decode cX6_sums 35 = .ok (.iconst 1, 1) := dk_4 (dk_at dksX6_sums_1 11 rfl rfl)
theorem dX6_sums_36 : decode cX6_sums 36 = .ok (.iadd, 1) := dk_96 (dk_at dksX6_sums_1 12 rfl rfl)
theorem dX6_sums_37 : decode cX6_sums 37 = .ok (.putfield 156, 3) := dk_181 0 156 (dk_at dksX6_sums_1 13 rfl rfl)
theorem dX6_sums_40 : decode cX6_sums 40 = .ok (.aload_n 0, 1) := dk_42 (dk_at dksX6_sums_1 16 rfl rfl)
theorem dX6_sums_41 : decode cX6_sums 41 = .ok (.iload_n 1, 1) := dk_27 (dk_at dksX6_sums_1 17 rfl rfl)
theorem dX6_sums_42 : decode cX6_sums 42 = .ok (.invokevirtual 256, 3) := dk_182 1 0 (dk_at dksX6_sums_1 18 rfl rfl)
theorem dX6_sums_45 : decode cX6_sums 45 = .ok (.aload_n 0, 1) := dk_42 (dk_at dksX6_sums_1 21 rfl rfl)
theorem dX6_sums_46 : decode cX6_sums 46 = .ok (.iload_n 2, 1) := dk_28 (dk_at dksX6_sums_1 22 rfl rfl)
theorem dX6_sums_47 : decode cX6_sums 47 = .ok (.ifCond .eq 7, 3) := dk_153 0 7 (dk_at dksX6_sums_2 0 rfl rfl)
theorem dX6_sums_50 : decode cX6_sums 50 = .ok (.iconst 4, 1) := dk_7 (dk_at dksX6_sums_2 3 rfl rfl)
theorem dX6_sums_51 : decode cX6_sums 51 = .ok (.goto 4, 3) := dk_167 0 4 (dk_at dksX6_sums_2 4 rfl rfl)
theorem dX6_sums_54 : decode cX6_sums 54 = .ok (.iconst 5, 1) := dk_8 (dk_at dksX6_sums_2 7 rfl rfl)
theorem dX6_sums_55 : decode cX6_sums 55 = .ok (.iconst 0, 1) := dk_3 (dk_at dksX6_sums_2 8 rfl rfl)
theorem dX6_sums_56 : decode cX6_sums 56 = .ok (.invokevirtual 240, 3) := dk_182 0 240 (dk_at dksX6_sums_2 9 rfl rfl)
theorem dX6_sums_59 : decode cX6_sums 59 = .ok (.goto (-54), 3) := dk_167 255 202 (dk_at dksX6_sums_2 12 rfl rfl)
theorem dX6_sums_62 : decode cX6_sums 62 = .ok (.return_, 1) := dk_177 (dk_at dksX6_sums_2 15 rfl rfl)
abbrev cX6_products : ByteArray := prog_24_method_37_code
def yX6_products : MethodName := ⟨RX6, "products", "(I)V"⟩
def dkwX6_products_1 : List UInt8 := [182, 0, 240, 167, 255, 235, 177]
abbrev dktX6_products_1 : List UInt8 := dkwX6_products_1 ++ []
def dkwX6_products_0 : List UInt8 := [42, 27, 182, 1, 3, 42, 16, 42, 182, 0, 253, 153, 0, 18, 42, 27, 182, 1, 3, 42, 16, 6, 3]
abbrev dktX6_products_0 : List UInt8 := dkwX6_products_0 ++ dktX6_products_1
theorem dksX6_products_0 : cX6_products.data.toList.drop 0 = dktX6_products_0 := by decide +kernel
theorem dksX6_products_1 : cX6_products.data.toList.drop 23 = dktX6_products_1 := dk_seg dksX6_products_0 23 rfl rfl
theorem dX6_products_0 : decode cX6_products 0 = .ok (.aload_n 0, 1) := dk_42 (dk_at dksX6_products_0 0 rfl rfl)
theorem dX6_products_1 : decode cX6_products 1 = .ok (.iload_n 1, 1) := dk_27 (dk_at dksX6_products_0 1 rfl rfl)
theorem dX6_products_2 : decode cX6_products 2 = .ok (.invokevirtual 259, 3) := dk_182 1 3 (dk_at dksX6_products_0 2 rfl rfl)
theorem dX6_products_5 : decode cX6_products 5 = .ok (.aload_n 0, 1) := dk_42 (dk_at dksX6_products_0 5 rfl rfl)
theorem dX6_products_6 : decode cX6_products 6 = .ok (.bipush 42, 2) := dk_16 42 (dk_at dksX6_products_0 6 rfl rfl)
theorem dX6_products_8 : decode cX6_products 8 = .ok (.invokevirtual 253, 3) := dk_182 0 253 (dk_at dksX6_products_0 8 rfl rfl)
theorem dX6_products_11 : decode cX6_products 11 = .ok (.ifCond .eq 18, 3) := dk_153 0 18 (dk_at dksX6_products_0 11 rfl rfl)
theorem dX6_products_14 : decode cX6_products 14 = .ok (.aload_n 0, 1) := dk_42 (dk_at dksX6_products_0 14 rfl rfl)
theorem dX6_products_15 : decode cX6_products 15 = .ok (.iload_n 1, 1) := dk_27 (dk_at dksX6_products_0 15 rfl rfl)
theorem dX6_products_16 : decode cX6_products 16 = .ok (.invokevirtual 259, 3) := dk_182 1 3 (dk_at dksX6_products_0 16 rfl rfl)
theorem dX6_products_19 : decode cX6_products 19 = .ok (.aload_n 0, 1) := dk_42 (dk_at dksX6_products_0 19 rfl rfl)
theorem dX6_products_20 : decode cX6_products 20 = .ok (.bipush 6, 2) := dk_16 6 (dk_at dksX6_products_0 20 rfl rfl)
theorem dX6_products_22 : decode cX6_products 22 = .ok (.iconst 0, 1) := dk_3 (dk_at dksX6_products_0 22 rfl rfl)
theorem dX6_products_23 : decode cX6_products 23 = .ok (.invokevirtual 240, 3) := dk_182 0 240 (dk_at dksX6_products_1 0 rfl rfl)
theorem dX6_products_26 : decode cX6_products 26 = .ok (.goto (-21), 3) := dk_167 255 235 (dk_at dksX6_products_1 3 rfl rfl)
theorem dX6_products_29 : decode cX6_products 29 = .ok (.return_, 1) := dk_177 (dk_at dksX6_products_1 6 rfl rfl)
abbrev cX6_takePart : ByteArray := prog_24_method_38_code
def yX6_takePart : MethodName := ⟨RX6, "takePart", "(I)V"⟩
def dkwX6_takePart_7 : List UInt8 := [167, 0, 4, 29, 182, 0, 240, 42, 89, 180, 0, 156, 4, 96, 181, 0, 156, 177]
abbrev dktX6_takePart_7 : List UInt8 := dkwX6_takePart_7 ++ []
def dkwX6_takePart_6 : List UInt8 := [153, 0, 7, 4, 167, 0, 4, 5, 28, 153, 0, 16, 42, 180, 0, 30, 42, 180, 0, 156, 47, 136]
abbrev dktX6_takePart_6 : List UInt8 := dkwX6_takePart_6 ++ dktX6_takePart_7
def dkwX6_takePart_5 : List UInt8 := [182, 0, 253, 153, 0, 19, 42, 27, 4, 96, 182, 0, 237, 42, 16, 41, 182, 0, 214, 167, 0, 44, 42, 28]
abbrev dktX6_takePart_5 : List UInt8 := dkwX6_takePart_5 ++ dktX6_takePart_6
def dkwX6_takePart_4 : List UInt8 := [153, 0, 19, 42, 27, 4, 96, 182, 1, 3, 42, 6, 3, 182, 0, 240, 167, 0, 69, 42, 16, 40]
abbrev dktX6_takePart_4 : List UInt8 := dkwX6_takePart_4 ++ dktX6_takePart_5
def dkwX6_takePart_3 : List UInt8 := [8, 160, 0, 8, 42, 8, 182, 0, 165, 42, 180, 0, 159, 158, 0, 4, 177, 42, 16, 19, 182, 0, 171]
abbrev dktX6_takePart_3 : List UInt8 := dkwX6_takePart_3 ++ dktX6_takePart_4
def dkwX6_takePart_2 : List UInt8 := [182, 0, 162, 154, 0, 20, 42, 16, 19, 182, 0, 168, 154, 0, 11, 42, 4, 182, 0, 165, 167, 0, 13, 27]
abbrev dktX6_takePart_2 : List UInt8 := dkwX6_takePart_2 ++ dktX6_takePart_3
def dkwX6_takePart_1 : List UInt8 := [167, 0, 4, 3, 61, 42, 16, 22, 7, 182, 0, 181, 62, 29, 156, 0, 33, 28, 154, 0, 29, 42, 16, 40]
abbrev dktX6_takePart_1 : List UInt8 := dkwX6_takePart_1 ++ dktX6_takePart_2
def dkwX6_takePart_0 : List UInt8 := [42, 180, 0, 159, 158, 0, 4, 177, 42, 180, 0, 24, 42, 180, 0, 156, 46, 5, 160, 0, 7, 4]
abbrev dktX6_takePart_0 : List UInt8 := dkwX6_takePart_0 ++ dktX6_takePart_1
theorem dksX6_takePart_0 : cX6_takePart.data.toList.drop 0 = dktX6_takePart_0 := by decide +kernel
theorem dksX6_takePart_1 : cX6_takePart.data.toList.drop 22 = dktX6_takePart_1 := dk_seg dksX6_takePart_0 22 rfl rfl
theorem dksX6_takePart_2 : cX6_takePart.data.toList.drop 46 = dktX6_takePart_2 := dk_seg dksX6_takePart_1 24 rfl rfl
theorem dksX6_takePart_3 : cX6_takePart.data.toList.drop 70 = dktX6_takePart_3 := dk_seg dksX6_takePart_2 24 rfl rfl
theorem dksX6_takePart_4 : cX6_takePart.data.toList.drop 93 = dktX6_takePart_4 := dk_seg dksX6_takePart_3 23 rfl rfl
theorem dksX6_takePart_5 : cX6_takePart.data.toList.drop 115 = dktX6_takePart_5 := dk_seg dksX6_takePart_4 22 rfl rfl
theorem dksX6_takePart_6 : cX6_takePart.data.toList.drop 139 = dktX6_takePart_6 := dk_seg dksX6_takePart_5 24 rfl rfl
theorem dksX6_takePart_7 : cX6_takePart.data.toList.drop 161 = dktX6_takePart_7 := dk_seg dksX6_takePart_6 22 rfl rfl
theorem dX6_takePart_0 : decode cX6_takePart 0 = .ok (.aload_n 0, 1) := dk_42 (dk_at dksX6_takePart_0 0 rfl rfl)
theorem dX6_takePart_1 : decode cX6_takePart 1 = .ok (.getfield 159, 3) := dk_180 0 159 (dk_at dksX6_takePart_0 1 rfl rfl)
theorem dX6_takePart_4 : decode cX6_takePart 4 = .ok (.ifCond .le 4, 3) := dk_158 0 4 (dk_at dksX6_takePart_0 4 rfl rfl)
theorem dX6_takePart_7 : decode cX6_takePart 7 = .ok (.return_, 1) := dk_177 (dk_at dksX6_takePart_0 7 rfl rfl)
theorem dX6_takePart_8 : decode cX6_takePart 8 = .ok (.aload_n 0, 1) := dk_42 (dk_at dksX6_takePart_0 8 rfl rfl)
theorem dX6_takePart_9 : decode cX6_takePart 9 = .ok (.getfield 24, 3) := dk_180 0 24 (dk_at dksX6_takePart_0 9 rfl rfl)
theorem dX6_takePart_12 : decode cX6_takePart 12 = .ok (.aload_n 0, 1) := dk_42 (dk_at dksX6_takePart_0 12 rfl rfl)
theorem dX6_takePart_13 : decode cX6_takePart 13 = .ok (.getfield 156, 3) := dk_180 0 156 (dk_at dksX6_takePart_0 13 rfl rfl)
theorem dX6_takePart_16 : decode cX6_takePart 16 = .ok (.iaload, 1) := dk_46 (dk_at dksX6_takePart_0 16 rfl rfl)
theorem dX6_takePart_17 : decode cX6_takePart 17 = .ok (.iconst 2, 1) := dk_5 (dk_at dksX6_takePart_0 17 rfl rfl)
theorem dX6_takePart_18 : decode cX6_takePart 18 = .ok (.if_icmp .ne 7, 3) := dk_160 0 7 (dk_at dksX6_takePart_0 18 rfl rfl)
theorem dX6_takePart_21 : decode cX6_takePart 21 = .ok (.iconst 1, 1) := dk_4 (dk_at dksX6_takePart_0 21 rfl rfl)
theorem dX6_takePart_22 : decode cX6_takePart 22 = .ok (.goto 4, 3) := dk_167 0 4 (dk_at dksX6_takePart_1 0 rfl rfl)
theorem dX6_takePart_25 : decode cX6_takePart 25 = .ok (.iconst 0, 1) := dk_3 (dk_at dksX6_takePart_1 3 rfl rfl)
theorem dX6_takePart_26 : decode cX6_takePart 26 = .ok (.istore_n 2, 1) := dk_61 (dk_at dksX6_takePart_1 4 rfl rfl)
theorem dX6_takePart_27 : decode cX6_takePart 27 = .ok (.aload_n 0, 1) := dk_42 (dk_at dksX6_takePart_1 5 rfl rfl)
theorem dX6_takePart_28 : decode cX6_takePart 28 = .ok (.bipush 22, 2) := dk_16 22 (dk_at dksX6_takePart_1 6 rfl rfl)
theorem dX6_takePart_30 : decode cX6_takePart 30 = .ok (.iconst 4, 1) := dk_7 (dk_at dksX6_takePart_1 8 rfl rfl)
theorem dX6_takePart_31 : decode cX6_takePart 31 = .ok (.invokevirtual 181, 3) := dk_182 0 181 (dk_at dksX6_takePart_1 9 rfl rfl)
theorem dX6_takePart_34 : decode cX6_takePart 34 = .ok (.istore_n 3, 1) := dk_62 (dk_at dksX6_takePart_1 12 rfl rfl)
theorem dX6_takePart_35 : decode cX6_takePart 35 = .ok (.iload_n 3, 1) := dk_29 (dk_at dksX6_takePart_1 13 rfl rfl)
theorem dX6_takePart_36 : decode cX6_takePart 36 = .ok (.ifCond .ge 33, 3) := dk_156 0 33 (dk_at dksX6_takePart_1 14 rfl rfl)
theorem dX6_takePart_39 : decode cX6_takePart 39 = .ok (.iload_n 2, 1) := dk_28 (dk_at dksX6_takePart_1 17 rfl rfl)
theorem dX6_takePart_40 : decode cX6_takePart 40 = .ok (.ifCond .ne 29, 3) := dk_154 0 29 (dk_at dksX6_takePart_1 18 rfl rfl)
theorem dX6_takePart_43 : decode cX6_takePart 43 = .ok (.aload_n 0, 1) := dk_42 (dk_at dksX6_takePart_1 21 rfl rfl)
theorem dX6_takePart_44 : decode cX6_takePart 44 = .ok (.bipush 40, 2) := dk_16 40 (dk_at dksX6_takePart_1 22 rfl rfl)
theorem dX6_takePart_46 : decode cX6_takePart 46 = .ok (.invokevirtual 162, 3) := dk_182 0 162 (dk_at dksX6_takePart_2 0 rfl rfl)
theorem dX6_takePart_49 : decode cX6_takePart 49 = .ok (.ifCond .ne 20, 3) := dk_154 0 20 (dk_at dksX6_takePart_2 3 rfl rfl)
theorem dX6_takePart_52 : decode cX6_takePart 52 = .ok (.aload_n 0, 1) := dk_42 (dk_at dksX6_takePart_2 6 rfl rfl)
theorem dX6_takePart_53 : decode cX6_takePart 53 = .ok (.bipush 19, 2) := dk_16 19 (dk_at dksX6_takePart_2 7 rfl rfl)
theorem dX6_takePart_55 : decode cX6_takePart 55 = .ok (.invokevirtual 168, 3) := dk_182 0 168 (dk_at dksX6_takePart_2 9 rfl rfl)
theorem dX6_takePart_58 : decode cX6_takePart 58 = .ok (.ifCond .ne 11, 3) := dk_154 0 11 (dk_at dksX6_takePart_2 12 rfl rfl)
theorem dX6_takePart_61 : decode cX6_takePart 61 = .ok (.aload_n 0, 1) := dk_42 (dk_at dksX6_takePart_2 15 rfl rfl)
theorem dX6_takePart_62 : decode cX6_takePart 62 = .ok (.iconst 1, 1) := dk_4 (dk_at dksX6_takePart_2 16 rfl rfl)
theorem dX6_takePart_63 : decode cX6_takePart 63 = .ok (.invokevirtual 165, 3) := dk_182 0 165 (dk_at dksX6_takePart_2 17 rfl rfl)
theorem dX6_takePart_66 : decode cX6_takePart 66 = .ok (.goto 13, 3) := dk_167 0 13 (dk_at dksX6_takePart_2 20 rfl rfl)
theorem dX6_takePart_69 : decode cX6_takePart 69 = .ok (.iload_n 1, 1) := dk_27 (dk_at dksX6_takePart_2 23 rfl rfl)
theorem dX6_takePart_70 : decode cX6_takePart 70 = .ok (.iconst 5, 1) := dk_8 (dk_at dksX6_takePart_3 0 rfl rfl)
theorem dX6_takePart_71 : decode cX6_takePart 71 = .ok (.if_icmp .ne 8, 3) := dk_160 0 8 (dk_at dksX6_takePart_3 1 rfl rfl)
theorem dX6_takePart_74 : decode cX6_takePart 74 = .ok (.aload_n 0, 1) := dk_42 (dk_at dksX6_takePart_3 4 rfl rfl)
theorem dX6_takePart_75 : decode cX6_takePart 75 = .ok (.iconst 5, 1) := dk_8 (dk_at dksX6_takePart_3 5 rfl rfl)
theorem dX6_takePart_76 : decode cX6_takePart 76 = .ok (.invokevirtual 165, 3) := dk_182 0 165 (dk_at dksX6_takePart_3 6 rfl rfl)
theorem dX6_takePart_79 : decode cX6_takePart 79 = .ok (.aload_n 0, 1) := dk_42 (dk_at dksX6_takePart_3 9 rfl rfl)
theorem dX6_takePart_80 : decode cX6_takePart 80 = .ok (.getfield 159, 3) := dk_180 0 159 (dk_at dksX6_takePart_3 10 rfl rfl)
theorem dX6_takePart_83 : decode cX6_takePart 83 = .ok (.ifCond .le 4, 3) := dk_158 0 4 (dk_at dksX6_takePart_3 13 rfl rfl)
theorem dX6_takePart_86 : decode cX6_takePart 86 = .ok (.return_, 1) := dk_177 (dk_at dksX6_takePart_3 16 rfl rfl)
theorem dX6_takePart_87 : decode cX6_takePart 87 = .ok (.aload_n 0, 1) := dk_42 (dk_at dksX6_takePart_3 17 rfl rfl)
theorem dX6_takePart_88 : decode cX6_takePart 88 = .ok (.bipush 19, 2) := dk_16 19 (dk_at dksX6_takePart_3 18 rfl rfl)
theorem dX6_takePart_90 : decode cX6_takePart 90 = .ok (.invokevirtual 171, 3) := dk_182 0 171 (dk_at dksX6_takePart_3 20 rfl rfl)
theorem dX6_takePart_93 : decode cX6_takePart 93 = .ok (.ifCond .eq 19, 3) := dk_153 0 19 (dk_at dksX6_takePart_4 0 rfl rfl)
theorem dX6_takePart_96 : decode cX6_takePart 96 = .ok (.aload_n 0, 1) := dk_42 (dk_at dksX6_takePart_4 3 rfl rfl)
theorem dX6_takePart_97 : decode cX6_takePart 97 = .ok (.iload_n 1, 1) := dk_27 (dk_at dksX6_takePart_4 4 rfl rfl)
theorem dX6_takePart_98 : decode cX6_takePart 98 = .ok (.iconst 1, 1) := dk_4 (dk_at dksX6_takePart_4 5 rfl rfl)
theorem dX6_takePart_99 : decode cX6_takePart 99 = .ok (.iadd, 1) := dk_96 (dk_at dksX6_takePart_4 6 rfl rfl)
theorem dX6_takePart_100 : decode cX6_takePart 100 = .ok (.invokevirtual 259, 3) := dk_182 1 3 (dk_at dksX6_takePart_4 7 rfl rfl)
theorem dX6_takePart_103 : decode cX6_takePart 103 = .ok (.aload_n 0, 1) := dk_42 (dk_at dksX6_takePart_4 10 rfl rfl)
theorem dX6_takePart_104 : decode cX6_takePart 104 = .ok (.iconst 3, 1) := dk_6 (dk_at dksX6_takePart_4 11 rfl rfl)
theorem dX6_takePart_105 : decode cX6_takePart 105 = .ok (.iconst 0, 1) := dk_3 (dk_at dksX6_takePart_4 12 rfl rfl)
theorem dX6_takePart_106 : decode cX6_takePart 106 = .ok (.invokevirtual 240, 3) := dk_182 0 240 (dk_at dksX6_takePart_4 13 rfl rfl)
theorem dX6_takePart_109 : decode cX6_takePart 109 = .ok (.goto 69, 3) := dk_167 0 69 (dk_at dksX6_takePart_4 16 rfl rfl)
theorem dX6_takePart_112 : decode cX6_takePart 112 = .ok (.aload_n 0, 1) := dk_42 (dk_at dksX6_takePart_4 19 rfl rfl)
theorem dX6_takePart_113 : decode cX6_takePart 113 = .ok (.bipush 40, 2) := dk_16 40 (dk_at dksX6_takePart_4 20 rfl rfl)
theorem dX6_takePart_115 : decode cX6_takePart 115 = .ok (.invokevirtual 253, 3) := dk_182 0 253 (dk_at dksX6_takePart_5 0 rfl rfl)
theorem dX6_takePart_118 : decode cX6_takePart 118 = .ok (.ifCond .eq 19, 3) := dk_153 0 19 (dk_at dksX6_takePart_5 3 rfl rfl)
theorem dX6_takePart_121 : decode cX6_takePart 121 = .ok (.aload_n 0, 1) := dk_42 (dk_at dksX6_takePart_5 6 rfl rfl)
theorem dX6_takePart_122 : decode cX6_takePart 122 = .ok (.iload_n 1, 1) := dk_27 (dk_at dksX6_takePart_5 7 rfl rfl)
theorem dX6_takePart_123 : decode cX6_takePart 123 = .ok (.iconst 1, 1) := dk_4 (dk_at dksX6_takePart_5 8 rfl rfl)
theorem dX6_takePart_124 : decode cX6_takePart 124 = .ok (.iadd, 1) := dk_96 (dk_at dksX6_takePart_5 9 rfl rfl)
theorem dX6_takePart_125 : decode cX6_takePart 125 = .ok (.invokevirtual 237, 3) := dk_182 0 237 (dk_at dksX6_takePart_5 10 rfl rfl)
theorem dX6_takePart_128 : decode cX6_takePart 128 = .ok (.aload_n 0, 1) := dk_42 (dk_at dksX6_takePart_5 13 rfl rfl)
theorem dX6_takePart_129 : decode cX6_takePart 129 = .ok (.bipush 41, 2) := dk_16 41 (dk_at dksX6_takePart_5 14 rfl rfl)
theorem dX6_takePart_131 : decode cX6_takePart 131 = .ok (.invokevirtual 214, 3) := dk_182 0 214 (dk_at dksX6_takePart_5 16 rfl rfl)
theorem dX6_takePart_134 : decode cX6_takePart 134 = .ok (.goto 44, 3) := dk_167 0 44 (dk_at dksX6_takePart_5 19 rfl rfl)
theorem dX6_takePart_137 : decode cX6_takePart 137 = .ok (.aload_n 0, 1) := dk_42 (dk_at dksX6_takePart_5 22 rfl rfl)
theorem dX6_takePart_138 : decode cX6_takePart 138 = .ok (.iload_n 2, 1) := dk_28 (dk_at dksX6_takePart_5 23 rfl rfl)
theorem dX6_takePart_139 : decode cX6_takePart 139 = .ok (.ifCond .eq 7, 3) := dk_153 0 7 (dk_at dksX6_takePart_6 0 rfl rfl)
theorem dX6_takePart_142 : decode cX6_takePart 142 = .ok (.iconst 1, 1) := dk_4 (dk_at dksX6_takePart_6 3 rfl rfl)
theorem dX6_takePart_143 : decode cX6_takePart 143 = .ok (.goto 4, 3) := dk_167 0 4 (dk_at dksX6_takePart_6 4 rfl rfl)
theorem dX6_takePart_146 : decode cX6_takePart 146 = .ok (.iconst 2, 1) := dk_5 (dk_at dksX6_takePart_6 7 rfl rfl)
theorem dX6_takePart_147 : decode cX6_takePart 147 = .ok (.iload_n 2, 1) := dk_28 (dk_at dksX6_takePart_6 8 rfl rfl)
theorem dX6_takePart_148 : decode cX6_takePart 148 = .ok (.ifCond .eq 16, 3) := dk_153 0 16 (dk_at dksX6_takePart_6 9 rfl rfl)
theorem dX6_takePart_151 : decode cX6_takePart 151 = .ok (.aload_n 0, 1) := dk_42 (dk_at dksX6_takePart_6 12 rfl rfl)
theorem dX6_takePart_152 : decode cX6_takePart 152 = .ok (.getfield 30, 3) := dk_180 0 30 (dk_at dksX6_takePart_6 13 rfl rfl)
theorem dX6_takePart_155 : decode cX6_takePart 155 = .ok (.aload_n 0, 1) := dk_42 (dk_at dksX6_takePart_6 16 rfl rfl)
theorem dX6_takePart_156 : decode cX6_takePart 156 = .ok (.getfield 156, 3) := dk_180 0 156 (dk_at dksX6_takePart_6 17 rfl rfl)
theorem dX6_takePart_159 : decode cX6_takePart 159 = .ok (.laload, 1) := dk_47 (dk_at dksX6_takePart_6 20 rfl rfl)
theorem dX6_takePart_160 : decode cX6_takePart 160 = .ok (.l2i, 1) := dk_136 (dk_at dksX6_takePart_6 21 rfl rfl)
theorem dX6_takePart_161 : decode cX6_takePart 161 = .ok (.goto 4, 3) := dk_167 0 4 (dk_at dksX6_takePart_7 0 rfl rfl)
theorem dX6_takePart_164 : decode cX6_takePart 164 = .ok (.iload_n 3, 1) := dk_29 (dk_at dksX6_takePart_7 3 rfl rfl)
theorem dX6_takePart_165 : decode cX6_takePart 165 = .ok (.invokevirtual 240, 3) := dk_182 0 240 (dk_at dksX6_takePart_7 4 rfl rfl)
theorem dX6_takePart_168 : decode cX6_takePart 168 = .ok (.aload_n 0, 1) := dk_42 (dk_at dksX6_takePart_7 7 rfl rfl)
theorem dX6_takePart_169 : decode cX6_takePart 169 = .ok (.dup, 1) := dk_89 (dk_at dksX6_takePart_7 8 rfl rfl)
theorem dX6_takePart_170 : decode cX6_takePart 170 = .ok (.getfield 156, 3) := dk_180 0 156 (dk_at dksX6_takePart_7 9 rfl rfl)
theorem dX6_takePart_173 : decode cX6_takePart 173 = .ok (.iconst 1, 1) := dk_4 (dk_at dksX6_takePart_7 12 rfl rfl)
theorem dX6_takePart_174 : decode cX6_takePart 174 = .ok (.iadd, 1) := dk_96 (dk_at dksX6_takePart_7 13 rfl rfl)
theorem dX6_takePart_175 : decode cX6_takePart 175 = .ok (.putfield 156, 3) := dk_181 0 156 (dk_at dksX6_takePart_7 14 rfl rfl)
theorem dX6_takePart_178 : decode cX6_takePart 178 = .ok (.return_, 1) := dk_177 (dk_at dksX6_takePart_7 17 rfl rfl)
abbrev cX6_isSign : ByteArray := prog_24_method_11_code
def yX6_isSign : MethodName := ⟨RX6, "isSign", "(I)Z"⟩
def dkwX6_isSign_1 : List UInt8 := [42, 180, 0, 156, 47, 27, 133, 148, 154, 0, 7, 4, 167, 0, 4, 3, 172]
abbrev dktX6_isSign_1 : List UInt8 := dkwX6_isSign_1 ++ []
def dkwX6_isSign_0 : List UInt8 := [42, 180, 0, 159, 154, 0, 35, 42, 180, 0, 24, 42, 180, 0, 156, 46, 6, 160, 0, 22, 42, 180, 0, 30]
abbrev dktX6_isSign_0 : List UInt8 := dkwX6_isSign_0 ++ dktX6_isSign_1
theorem dksX6_isSign_0 : cX6_isSign.data.toList.drop 0 = dktX6_isSign_0 := by decide +kernel
theorem dksX6_isSign_1 : cX6_isSign.data.toList.drop 24 = dktX6_isSign_1 := dk_seg dksX6_isSign_0 24 rfl rfl
theorem dX6_isSign_0 : decode cX6_isSign 0 = .ok (.aload_n 0, 1) := dk_42 (dk_at dksX6_isSign_0 0 rfl rfl)
theorem dX6_isSign_1 : decode cX6_isSign 1 = .ok (.getfield 159, 3) := dk_180 0 159 (dk_at dksX6_isSign_0 1 rfl rfl)
theorem dX6_isSign_4 : decode cX6_isSign 4 = .ok (.ifCond .ne 35, 3) := dk_154 0 35 (dk_at dksX6_isSign_0 4 rfl rfl)
theorem dX6_isSign_7 : decode cX6_isSign 7 = .ok (.aload_n 0, 1) := dk_42 (dk_at dksX6_isSign_0 7 rfl rfl)
theorem dX6_isSign_8 : decode cX6_isSign 8 = .ok (.getfield 24, 3) := dk_180 0 24 (dk_at dksX6_isSign_0 8 rfl rfl)
theorem dX6_isSign_11 : decode cX6_isSign 11 = .ok (.aload_n 0, 1) := dk_42 (dk_at dksX6_isSign_0 11 rfl rfl)
theorem dX6_isSign_12 : decode cX6_isSign 12 = .ok (.getfield 156, 3) := dk_180 0 156 (dk_at dksX6_isSign_0 12 rfl rfl)
theorem dX6_isSign_15 : decode cX6_isSign 15 = .ok (.iaload, 1) := dk_46 (dk_at dksX6_isSign_0 15 rfl rfl)
theorem dX6_isSign_16 : decode cX6_isSign 16 = .ok (.iconst 3, 1) := dk_6 (dk_at dksX6_isSign_0 16 rfl rfl)
theorem dX6_isSign_17 : decode cX6_isSign 17 = .ok (.if_icmp .ne 22, 3) := dk_160 0 22 (dk_at dksX6_isSign_0 17 rfl rfl)
theorem dX6_isSign_20 : decode cX6_isSign 20 = .ok (.aload_n 0, 1) := dk_42 (dk_at dksX6_isSign_0 20 rfl rfl)
theorem dX6_isSign_21 : decode cX6_isSign 21 = .ok (.getfield 30, 3) := dk_180 0 30 (dk_at dksX6_isSign_0 21 rfl rfl)
theorem dX6_isSign_24 : decode cX6_isSign 24 = .ok (.aload_n 0, 1) := dk_42 (dk_at dksX6_isSign_1 0 rfl rfl)
theorem dX6_isSign_25 : decode cX6_isSign 25 = .ok (.getfield 156, 3) := dk_180 0 156 (dk_at dksX6_isSign_1 1 rfl rfl)
theorem dX6_isSign_28 : decode cX6_isSign 28 = .ok (.laload, 1) := dk_47 (dk_at dksX6_isSign_1 4 rfl rfl)
theorem dX6_isSign_29 : decode cX6_isSign 29 = .ok (.iload_n 1, 1) := dk_27 (dk_at dksX6_isSign_1 5 rfl rfl)
theorem dX6_isSign_30 : decode cX6_isSign 30 = .ok (.i2l, 1) := dk_133 (dk_at dksX6_isSign_1 6 rfl rfl)
theorem dX6_isSign_31 : decode cX6_isSign 31 = .ok (.lcmp, 1) := dk_148 (dk_at dksX6_isSign_1 7 rfl rfl)
theorem dX6_isSign_32 : decode cX6_isSign 32 = .ok (.ifCond .ne 7, 3) := dk_154 0 7 (dk_at dksX6_isSign_1 8 rfl rfl)
theorem dX6_isSign_35 : decode cX6_isSign 35 = .ok (.iconst 1, 1) := dk_4 (dk_at dksX6_isSign_1 11 rfl rfl)
theorem dX6_isSign_36 : decode cX6_isSign 36 = .ok (.goto 4, 3) := dk_167 0 4 (dk_at dksX6_isSign_1 12 rfl rfl)
theorem dX6_isSign_39 : decode cX6_isSign 39 = .ok (.iconst 0, 1) := dk_3 (dk_at dksX6_isSign_1 15 rfl rfl)
theorem dX6_isSign_40 : decode cX6_isSign 40 = .ok (.ireturn, 1) := dk_172 (dk_at dksX6_isSign_1 16 rfl rfl)
abbrev cX6_emit : ByteArray := prog_24_method_33_code
def yX6_emit : MethodName := ⟨RX6, "emit", "(II)V"⟩
def dkwX6_emit_1 : List UInt8 := [180, 0, 205, 96, 28, 79, 42, 89, 180, 0, 205, 4, 96, 181, 0, 205, 177]
abbrev dktX6_emit_1 : List UInt8 := dkwX6_emit_1 ++ []
def dkwX6_emit_0 : List UInt8 := [42, 180, 0, 92, 17, 4, 76, 42, 180, 0, 205, 96, 27, 79, 42, 180, 0, 95, 17, 4, 76, 42]
abbrev dktX6_emit_0 : List UInt8 := dkwX6_emit_0 ++ dktX6_emit_1
theorem dksX6_emit_0 : cX6_emit.data.toList.drop 0 = dktX6_emit_0 := by decide +kernel
theorem dksX6_emit_1 : cX6_emit.data.toList.drop 22 = dktX6_emit_1 := dk_seg dksX6_emit_0 22 rfl rfl
theorem dX6_emit_0 : decode cX6_emit 0 = .ok (.aload_n 0, 1) := dk_42 (dk_at dksX6_emit_0 0 rfl rfl)
theorem dX6_emit_1 : decode cX6_emit 1 = .ok (.getfield 92, 3) := dk_180 0 92 (dk_at dksX6_emit_0 1 rfl rfl)
theorem dX6_emit_4 : decode cX6_emit 4 = .ok (.sipush 1100, 3) := dk_17 4 76 (dk_at dksX6_emit_0 4 rfl rfl)
theorem dX6_emit_7 : decode cX6_emit 7 = .ok (.aload_n 0, 1) := dk_42 (dk_at dksX6_emit_0 7 rfl rfl)
theorem dX6_emit_8 : decode cX6_emit 8 = .ok (.getfield 205, 3) := dk_180 0 205 (dk_at dksX6_emit_0 8 rfl rfl)
theorem dX6_emit_11 : decode cX6_emit 11 = .ok (.iadd, 1) := dk_96 (dk_at dksX6_emit_0 11 rfl rfl)
theorem dX6_emit_12 : decode cX6_emit 12 = .ok (.iload_n 1, 1) := dk_27 (dk_at dksX6_emit_0 12 rfl rfl)
theorem dX6_emit_13 : decode cX6_emit 13 = .ok (.iastore, 1) := dk_79 (dk_at dksX6_emit_0 13 rfl rfl)
theorem dX6_emit_14 : decode cX6_emit 14 = .ok (.aload_n 0, 1) := dk_42 (dk_at dksX6_emit_0 14 rfl rfl)
theorem dX6_emit_15 : decode cX6_emit 15 = .ok (.getfield 95, 3) := dk_180 0 95 (dk_at dksX6_emit_0 15 rfl rfl)
theorem dX6_emit_18 : decode cX6_emit 18 = .ok (.sipush 1100, 3) := dk_17 4 76 (dk_at dksX6_emit_0 18 rfl rfl)
theorem dX6_emit_21 : decode cX6_emit 21 = .ok (.aload_n 0, 1) := dk_42 (dk_at dksX6_emit_0 21 rfl rfl)
theorem dX6_emit_22 : decode cX6_emit 22 = .ok (.getfield 205, 3) := dk_180 0 205 (dk_at dksX6_emit_1 0 rfl rfl)
theorem dX6_emit_25 : decode cX6_emit 25 = .ok (.iadd, 1) := dk_96 (dk_at dksX6_emit_1 3 rfl rfl)
theorem dX6_emit_26 : decode cX6_emit 26 = .ok (.iload_n 2, 1) := dk_28 (dk_at dksX6_emit_1 4 rfl rfl)
theorem dX6_emit_27 : decode cX6_emit 27 = .ok (.iastore, 1) := dk_79 (dk_at dksX6_emit_1 5 rfl rfl)
theorem dX6_emit_28 : decode cX6_emit 28 = .ok (.aload_n 0, 1) := dk_42 (dk_at dksX6_emit_1 6 rfl rfl)
theorem dX6_emit_29 : decode cX6_emit 29 = .ok (.dup, 1) := dk_89 (dk_at dksX6_emit_1 7 rfl rfl)
theorem dX6_emit_30 : decode cX6_emit 30 = .ok (.getfield 205, 3) := dk_180 0 205 (dk_at dksX6_emit_1 8 rfl rfl)
theorem dX6_emit_33 : decode cX6_emit 33 = .ok (.iconst 1, 1) := dk_4 (dk_at dksX6_emit_1 11 rfl rfl)
theorem dX6_emit_34 : decode cX6_emit 34 = .ok (.iadd, 1) := dk_96 (dk_at dksX6_emit_1 12 rfl rfl)
theorem dX6_emit_35 : decode cX6_emit 35 = .ok (.putfield 205, 3) := dk_181 0 205 (dk_at dksX6_emit_1 13 rfl rfl)
theorem dX6_emit_38 : decode cX6_emit 38 = .ok (.return_, 1) := dk_177 (dk_at dksX6_emit_1 16 rfl rfl)
abbrev cX6_hasSign : ByteArray := prog_24_method_14_code
def yX6_hasSign : MethodName := ⟨RX6, "hasSign", "(I)Z"⟩
def dkwX6_hasSign_1 : List UInt8 := [28, 172]
abbrev dktX6_hasSign_1 : List UInt8 := dkwX6_hasSign_1 ++ []
def dkwX6_hasSign_0 : List UInt8 := [42, 27, 182, 0, 162, 61, 42, 89, 180, 0, 156, 28, 153, 0, 7, 4, 167, 0, 4, 3, 96, 181, 0, 156]
abbrev dktX6_hasSign_0 : List UInt8 := dkwX6_hasSign_0 ++ dktX6_hasSign_1
theorem dksX6_hasSign_0 : cX6_hasSign.data.toList.drop 0 = dktX6_hasSign_0 := by decide +kernel
theorem dksX6_hasSign_1 : cX6_hasSign.data.toList.drop 24 = dktX6_hasSign_1 := dk_seg dksX6_hasSign_0 24 rfl rfl
theorem dX6_hasSign_0 : decode cX6_hasSign 0 = .ok (.aload_n 0, 1) := dk_42 (dk_at dksX6_hasSign_0 0 rfl rfl)
theorem dX6_hasSign_1 : decode cX6_hasSign 1 = .ok (.iload_n 1, 1) := dk_27 (dk_at dksX6_hasSign_0 1 rfl rfl)
theorem dX6_hasSign_2 : decode cX6_hasSign 2 = .ok (.invokevirtual 162, 3) := dk_182 0 162 (dk_at dksX6_hasSign_0 2 rfl rfl)
theorem dX6_hasSign_5 : decode cX6_hasSign 5 = .ok (.istore_n 2, 1) := dk_61 (dk_at dksX6_hasSign_0 5 rfl rfl)
theorem dX6_hasSign_6 : decode cX6_hasSign 6 = .ok (.aload_n 0, 1) := dk_42 (dk_at dksX6_hasSign_0 6 rfl rfl)
theorem dX6_hasSign_7 : decode cX6_hasSign 7 = .ok (.dup, 1) := dk_89 (dk_at dksX6_hasSign_0 7 rfl rfl)
theorem dX6_hasSign_8 : decode cX6_hasSign 8 = .ok (.getfield 156, 3) := dk_180 0 156 (dk_at dksX6_hasSign_0 8 rfl rfl)
theorem dX6_hasSign_11 : decode cX6_hasSign 11 = .ok (.iload_n 2, 1) := dk_28 (dk_at dksX6_hasSign_0 11 rfl rfl)
theorem dX6_hasSign_12 : decode cX6_hasSign 12 = .ok (.ifCond .eq 7, 3) := dk_153 0 7 (dk_at dksX6_hasSign_0 12 rfl rfl)
theorem dX6_hasSign_15 : decode cX6_hasSign 15 = .ok (.iconst 1, 1) := dk_4 (dk_at dksX6_hasSign_0 15 rfl rfl)
theorem dX6_hasSign_16 : decode cX6_hasSign 16 = .ok (.goto 4, 3) := dk_167 0 4 (dk_at dksX6_hasSign_0 16 rfl rfl)
theorem dX6_hasSign_19 : decode cX6_hasSign 19 = .ok (.iconst 0, 1) := dk_3 (dk_at dksX6_hasSign_0 19 rfl rfl)
theorem dX6_hasSign_20 : decode cX6_hasSign 20 = .ok (.iadd, 1) := dk_96 (dk_at dksX6_hasSign_0 20 rfl rfl)
theorem dX6_hasSign_21 : decode cX6_hasSign 21 = .ok (.putfield 156, 3) := dk_181 0 156 (dk_at dksX6_hasSign_0 21 rfl rfl)
theorem dX6_hasSign_24 : decode cX6_hasSign 24 = .ok (.iload_n 2, 1) := dk_28 (dk_at dksX6_hasSign_1 0 rfl rfl)
theorem dX6_hasSign_25 : decode cX6_hasSign 25 = .ok (.ireturn, 1) := dk_172 (dk_at dksX6_hasSign_1 1 rfl rfl)
abbrev cX6_takeSign : ByteArray := prog_24_method_13_code
def yX6_takeSign : MethodName := ⟨RX6, "takeSign", "(I)V"⟩
def dkwX6_takeSign_1 : List UInt8 := [182, 0, 165, 177]
abbrev dktX6_takeSign_1 : List UInt8 := dkwX6_takeSign_1 ++ []
def dkwX6_takeSign_0 : List UInt8 := [42, 27, 182, 0, 162, 153, 0, 16, 42, 89, 180, 0, 156, 4, 96, 181, 0, 156, 167, 0, 8, 42, 4]
abbrev dktX6_takeSign_0 : List UInt8 := dkwX6_takeSign_0 ++ dktX6_takeSign_1
theorem dksX6_takeSign_0 : cX6_takeSign.data.toList.drop 0 = dktX6_takeSign_0 := by decide +kernel
theorem dksX6_takeSign_1 : cX6_takeSign.data.toList.drop 23 = dktX6_takeSign_1 := dk_seg dksX6_takeSign_0 23 rfl rfl
theorem dX6_takeSign_0 : decode cX6_takeSign 0 = .ok (.aload_n 0, 1) := dk_42 (dk_at dksX6_takeSign_0 0 rfl rfl)
theorem dX6_takeSign_1 : decode cX6_takeSign 1 = .ok (.iload_n 1, 1) := dk_27 (dk_at dksX6_takeSign_0 1 rfl rfl)
theorem dX6_takeSign_2 : decode cX6_takeSign 2 = .ok (.invokevirtual 162, 3) := dk_182 0 162 (dk_at dksX6_takeSign_0 2 rfl rfl)
theorem dX6_takeSign_5 : decode cX6_takeSign 5 = .ok (.ifCond .eq 16, 3) := dk_153 0 16 (dk_at dksX6_takeSign_0 5 rfl rfl)
theorem dX6_takeSign_8 : decode cX6_takeSign 8 = .ok (.aload_n 0, 1) := dk_42 (dk_at dksX6_takeSign_0 8 rfl rfl)
theorem dX6_takeSign_9 : decode cX6_takeSign 9 = .ok (.dup, 1) := dk_89 (dk_at dksX6_takeSign_0 9 rfl rfl)
theorem dX6_takeSign_10 : decode cX6_takeSign 10 = .ok (.getfield 156, 3) := dk_180 0 156 (dk_at dksX6_takeSign_0 10 rfl rfl)
theorem dX6_takeSign_13 : decode cX6_takeSign 13 = .ok (.iconst 1, 1) := dk_4 (dk_at dksX6_takeSign_0 13 rfl rfl)
theorem dX6_takeSign_14 : decode cX6_takeSign 14 = .ok (.iadd, 1) := dk_96 (dk_at dksX6_takeSign_0 14 rfl rfl)
theorem dX6_takeSign_15 : decode cX6_takeSign 15 = .ok (.putfield 156, 3) := dk_181 0 156 (dk_at dksX6_takeSign_0 15 rfl rfl)
theorem dX6_takeSign_18 : decode cX6_takeSign 18 = .ok (.goto 8, 3) := dk_167 0 8 (dk_at dksX6_takeSign_0 18 rfl rfl)
theorem dX6_takeSign_21 : decode cX6_takeSign 21 = .ok (.aload_n 0, 1) := dk_42 (dk_at dksX6_takeSign_0 21 rfl rfl)
theorem dX6_takeSign_22 : decode cX6_takeSign 22 = .ok (.iconst 1, 1) := dk_4 (dk_at dksX6_takeSign_0 22 rfl rfl)
theorem dX6_takeSign_23 : decode cX6_takeSign 23 = .ok (.invokevirtual 165, 3) := dk_182 0 165 (dk_at dksX6_takeSign_1 0 rfl rfl)
theorem dX6_takeSign_26 : decode cX6_takeSign 26 = .ok (.return_, 1) := dk_177 (dk_at dksX6_takeSign_1 3 rfl rfl)
abbrev cX6_day : ByteArray := prog_24_method_32_code
def yX6_day : MethodName := ⟨RX6, "day", "()I"⟩
def dkwX6_day_9 : List UInt8 := [180, 0, 110, 16, 125, 28, 96, 46, 79, 132, 2, 1, 167, 255, 229, 3, 172]
abbrev dktX6_day_9 : List UInt8 := dkwX6_day_9 ++ []
def dkwX6_day_8 : List UInt8 := [42, 180, 0, 110, 3, 27, 79, 3, 61, 28, 6, 27, 104, 162, 0, 26, 42, 180, 0, 110, 4, 28, 96, 42]
abbrev dktX6_day_8 : List UInt8 := dkwX6_day_8 ++ dktX6_day_9
def dkwX6_day_7 : List UInt8 := [132, 1, 1, 42, 16, 59, 182, 0, 214, 167, 255, 96, 42, 180, 0, 159, 158, 0, 8, 42, 180, 0, 159, 172]
abbrev dktX6_day_7 : List UInt8 := dkwX6_day_7 ++ dktX6_day_8
def dkwX6_day_6 : List UInt8 := [16, 9, 182, 0, 177, 167, 0, 18, 28, 4, 160, 0, 12, 42, 16, 40, 182, 0, 244, 167, 0, 4, 3, 79]
abbrev dktX6_day_6 : List UInt8 := dkwX6_day_6 ++ dktX6_day_7
def dkwX6_day_5 : List UInt8 := [167, 0, 4, 3, 182, 0, 244, 79, 42, 180, 0, 110, 16, 127, 6, 27, 104, 96, 28, 154, 0, 13, 42, 3]
abbrev dktX6_day_5 : List UInt8 := dkwX6_day_5 ++ dktX6_day_6
def dkwX6_day_4 : List UInt8 := [16, 126, 6, 27, 104, 96, 28, 8, 160, 0, 7, 3, 167, 0, 18, 42, 28, 5, 162, 0, 8, 16, 20]
abbrev dktX6_day_4 : List UInt8 := dkwX6_day_4 ++ dktX6_day_5
def dkwX6_day_3 : List UInt8 := [180, 0, 156, 4, 96, 181, 0, 156, 42, 180, 0, 110, 16, 125, 6, 27, 104, 96, 28, 79, 42, 180, 0, 110]
abbrev dktX6_day_3 : List UInt8 := dkwX6_day_3 ++ dktX6_day_4
def dkwX6_day_2 : List UInt8 := [182, 0, 165, 167, 0, 117, 27, 16, 40, 160, 0, 11, 42, 8, 182, 0, 165, 167, 0, 103, 42, 89]
abbrev dktX6_day_2 : List UInt8 := dkwX6_day_2 ++ dktX6_day_3
def dkwX6_day_1 : List UInt8 := [180, 0, 156, 46, 153, 0, 147, 42, 16, 9, 16, 6, 182, 0, 181, 61, 28, 156, 0, 11, 42, 4]
abbrev dktX6_day_1 : List UInt8 := dkwX6_day_1 ++ dktX6_day_2
def dkwX6_day_0 : List UInt8 := [42, 3, 181, 0, 1, 42, 182, 0, 202, 3, 60, 42, 180, 0, 159, 154, 0, 159, 42, 180, 0, 24, 42]
abbrev dktX6_day_0 : List UInt8 := dkwX6_day_0 ++ dktX6_day_1
theorem dksX6_day_0 : cX6_day.data.toList.drop 0 = dktX6_day_0 := by decide +kernel
theorem dksX6_day_1 : cX6_day.data.toList.drop 23 = dktX6_day_1 := dk_seg dksX6_day_0 23 rfl rfl
theorem dksX6_day_2 : cX6_day.data.toList.drop 45 = dktX6_day_2 := dk_seg dksX6_day_1 22 rfl rfl
theorem dksX6_day_3 : cX6_day.data.toList.drop 67 = dktX6_day_3 := dk_seg dksX6_day_2 22 rfl rfl
theorem dksX6_day_4 : cX6_day.data.toList.drop 91 = dktX6_day_4 := dk_seg dksX6_day_3 24 rfl rfl
theorem dksX6_day_5 : cX6_day.data.toList.drop 114 = dktX6_day_5 := dk_seg dksX6_day_4 23 rfl rfl
theorem dksX6_day_6 : cX6_day.data.toList.drop 138 = dktX6_day_6 := dk_seg dksX6_day_5 24 rfl rfl
theorem dksX6_day_7 : cX6_day.data.toList.drop 162 = dktX6_day_7 := dk_seg dksX6_day_6 24 rfl rfl
theorem dksX6_day_8 : cX6_day.data.toList.drop 186 = dktX6_day_8 := dk_seg dksX6_day_7 24 rfl rfl
theorem dksX6_day_9 : cX6_day.data.toList.drop 210 = dktX6_day_9 := dk_seg dksX6_day_8 24 rfl rfl
theorem dX6_day_0 : decode cX6_day 0 = .ok (.aload_n 0, 1) := dk_42 (dk_at dksX6_day_0 0 rfl rfl)
theorem dX6_day_1 : decode cX6_day 1 = .ok (.iconst 0, 1) := dk_3 (dk_at dksX6_day_0 1 rfl rfl)
theorem dX6_day_2 : decode cX6_day 2 = .ok (.putfield 1, 3) := dk_181 0 1 (dk_at dksX6_day_0 2 rfl rfl)
theorem dX6_day_5 : decode cX6_day 5 = .ok (.aload_n 0, 1) := dk_42 (dk_at dksX6_day_0 5 rfl rfl)
theorem dX6_day_6 : decode cX6_day 6 = .ok (.invokevirtual 202, 3) := dk_182 0 202 (dk_at dksX6_day_0 6 rfl rfl)
theorem dX6_day_9 : decode cX6_day 9 = .ok (.iconst 0, 1) := dk_3 (dk_at dksX6_day_0 9 rfl rfl)
theorem dX6_day_10 : decode cX6_day 10 = .ok (.istore_n 1, 1) := dk_60 (dk_at dksX6_day_0 10 rfl rfl)
theorem dX6_day_11 : decode cX6_day 11 = .ok (.aload_n 0, 1) := dk_42 (dk_at dksX6_day_0 11 rfl rfl)
theorem dX6_day_12 : decode cX6_day 12 = .ok (.getfield 159, 3) := dk_180 0 159 (dk_at dksX6_day_0 12 rfl rfl)
theorem dX6_day_15 : decode cX6_day 15 = .ok (.ifCond .ne 159, 3) := dk_154 0 159 (dk_at dksX6_day_0 15 rfl rfl)
theorem dX6_day_18 : decode cX6_day 18 = .ok (.aload_n 0, 1) := dk_42 (dk_at dksX6_day_0 18 rfl rfl)
theorem dX6_day_19 : decode cX6_day 19 = .ok (.getfield 24, 3) := dk_180 0 24 (dk_at dksX6_day_0 19 rfl rfl)
theorem dX6_day_22 : decode cX6_day 22 = .ok (.aload_n 0, 1) := dk_42 (dk_at dksX6_day_0 22 rfl rfl)
theorem dX6_day_23 : decode cX6_day 23 = .ok (.getfield 156, 3) := dk_180 0 156 (dk_at dksX6_day_1 0 rfl rfl)
theorem dX6_day_26 : decode cX6_day 26 = .ok (.iaload, 1) := dk_46 (dk_at dksX6_day_1 3 rfl rfl)
theorem dX6_day_27 : decode cX6_day 27 = .ok (.ifCond .eq 147, 3) := dk_153 0 147 (dk_at dksX6_day_1 4 rfl rfl)
theorem dX6_day_30 : decode cX6_day 30 = .ok (.aload_n 0, 1) := dk_42 (dk_at dksX6_day_1 7 rfl rfl)
theorem dX6_day_31 : decode cX6_day 31 = .ok (.bipush 9, 2) := dk_16 9 (dk_at dksX6_day_1 8 rfl rfl)
theorem dX6_day_33 : decode cX6_day 33 = .ok (.bipush 6, 2) := dk_16 6 (dk_at dksX6_day_1 10 rfl rfl)
theorem dX6_day_35 : decode cX6_day 35 = .ok (.invokevirtual 181, 3) := dk_182 0 181 (dk_at dksX6_day_1 12 rfl rfl)
theorem dX6_day_38 : decode cX6_day 38 = .ok (.istore_n 2, 1) := dk_61 (dk_at dksX6_day_1 15 rfl rfl)
theorem dX6_day_39 : decode cX6_day 39 = .ok (.iload_n 2, 1) := dk_28 (dk_at dksX6_day_1 16 rfl rfl)
theorem dX6_day_40 : decode cX6_day 40 = .ok (.ifCond .ge 11, 3) := dk_156 0 11 (dk_at dksX6_day_1 17 rfl rfl)
theorem dX6_day_43 : decode cX6_day 43 = .ok (.aload_n 0, 1) := dk_42 (dk_at dksX6_day_1 20 rfl rfl)
theorem dX6_day_44 : decode cX6_day 44 = .ok (.iconst 1, 1) := dk_4 (dk_at dksX6_day_1 21 rfl rfl)
theorem dX6_day_45 : decode cX6_day 45 = .ok (.invokevirtual 165, 3) := dk_182 0 165 (dk_at dksX6_day_2 0 rfl rfl)
theorem dX6_day_48 : decode cX6_day 48 = .ok (.goto 117, 3) := dk_167 0 117 (dk_at dksX6_day_2 3 rfl rfl)
theorem dX6_day_51 : decode cX6_day 51 = .ok (.iload_n 1, 1) := dk_27 (dk_at dksX6_day_2 6 rfl rfl)
theorem dX6_day_52 : decode cX6_day 52 = .ok (.bipush 40, 2) := dk_16 40 (dk_at dksX6_day_2 7 rfl rfl)
theorem dX6_day_54 : decode cX6_day 54 = .ok (.if_icmp .ne 11, 3) := dk_160 0 11 (dk_at dksX6_day_2 9 rfl rfl)
theorem dX6_day_57 : decode cX6_day 57 = .ok (.aload_n 0, 1) := dk_42 (dk_at dksX6_day_2 12 rfl rfl)
theorem dX6_day_58 : decode cX6_day 58 = .ok (.iconst 5, 1) := dk_8 (dk_at dksX6_day_2 13 rfl rfl)
theorem dX6_day_59 : decode cX6_day 59 = .ok (.invokevirtual 165, 3) := dk_182 0 165 (dk_at dksX6_day_2 14 rfl rfl)
theorem dX6_day_62 : decode cX6_day 62 = .ok (.goto 103, 3) := dk_167 0 103 (dk_at dksX6_day_2 17 rfl rfl)
theorem dX6_day_65 : decode cX6_day 65 = .ok (.aload_n 0, 1) := dk_42 (dk_at dksX6_day_2 20 rfl rfl)
theorem dX6_day_66 : decode cX6_day 66 = .ok (.dup, 1) := dk_89 (dk_at dksX6_day_2 21 rfl rfl)
theorem dX6_day_67 : decode cX6_day 67 = .ok (.getfield 156, 3) := dk_180 0 156 (dk_at dksX6_day_3 0 rfl rfl)
theorem dX6_day_70 : decode cX6_day 70 = .ok (.iconst 1, 1) := dk_4 (dk_at dksX6_day_3 3 rfl rfl)
theorem dX6_day_71 : decode cX6_day 71 = .ok (.iadd, 1) := dk_96 (dk_at dksX6_day_3 4 rfl rfl)
theorem dX6_day_72 : decode cX6_day 72 = .ok (.putfield 156, 3) := dk_181 0 156 (dk_at dksX6_day_3 5 rfl rfl)
theorem dX6_day_75 : decode cX6_day 75 = .ok (.aload_n 0, 1) := dk_42 (dk_at dksX6_day_3 8 rfl rfl)
theorem dX6_day_76 : decode cX6_day 76 = .ok (.getfield 110, 3) := dk_180 0 110 (dk_at dksX6_day_3 9 rfl rfl)
theorem dX6_day_79 : decode cX6_day 79 = .ok (.bipush 125, 2) := dk_16 125 (dk_at dksX6_day_3 12 rfl rfl)
theorem dX6_day_81 : decode cX6_day 81 = .ok (.iconst 3, 1) := dk_6 (dk_at dksX6_day_3 14 rfl rfl)
theorem dX6_day_82 : decode cX6_day 82 = .ok (.iload_n 1, 1) := dk_27 (dk_at dksX6_day_3 15 rfl rfl)
theorem dX6_day_83 : decode cX6_day 83 = .ok (.imul, 1) := dk_104 (dk_at dksX6_day_3 16 rfl rfl)
theorem dX6_day_84 : decode cX6_day 84 = .ok (.iadd, 1) := dk_96 (dk_at dksX6_day_3 17 rfl rfl)
theorem dX6_day_85 : decode cX6_day 85 = .ok (.iload_n 2, 1) := dk_28 (dk_at dksX6_day_3 18 rfl rfl)
theorem dX6_day_86 : decode cX6_day 86 = .ok (.iastore, 1) := dk_79 (dk_at dksX6_day_3 19 rfl rfl)
theorem dX6_day_87 : decode cX6_day 87 = .ok (.aload_n 0, 1) := dk_42 (dk_at dksX6_day_3 20 rfl rfl)
theorem dX6_day_88 : decode cX6_day 88 = .ok (.getfield 110, 3) := dk_180 0 110 (dk_at dksX6_day_3 21 rfl rfl)
theorem dX6_day_91 : decode cX6_day 91 = .ok (.bipush 126, 2) := dk_16 126 (dk_at dksX6_day_4 0 rfl rfl)
theorem dX6_day_93 : decode cX6_day 93 = .ok (.iconst 3, 1) := dk_6 (dk_at dksX6_day_4 2 rfl rfl)
theorem dX6_day_94 : decode cX6_day 94 = .ok (.iload_n 1, 1) := dk_27 (dk_at dksX6_day_4 3 rfl rfl)
theorem dX6_day_95 : decode cX6_day 95 = .ok (.imul, 1) := dk_104 (dk_at dksX6_day_4 4 rfl rfl)
theorem dX6_day_96 : decode cX6_day 96 = .ok (.iadd, 1) := dk_96 (dk_at dksX6_day_4 5 rfl rfl)
theorem dX6_day_97 : decode cX6_day 97 = .ok (.iload_n 2, 1) := dk_28 (dk_at dksX6_day_4 6 rfl rfl)
theorem dX6_day_98 : decode cX6_day 98 = .ok (.iconst 5, 1) := dk_8 (dk_at dksX6_day_4 7 rfl rfl)
theorem dX6_day_99 : decode cX6_day 99 = .ok (.if_icmp .ne 7, 3) := dk_160 0 7 (dk_at dksX6_day_4 8 rfl rfl)
theorem dX6_day_102 : decode cX6_day 102 = .ok (.iconst 0, 1) := dk_3 (dk_at dksX6_day_4 11 rfl rfl)
theorem dX6_day_103 : decode cX6_day 103 = .ok (.goto 18, 3) := dk_167 0 18 (dk_at dksX6_day_4 12 rfl rfl)
theorem dX6_day_106 : decode cX6_day 106 = .ok (.aload_n 0, 1) := dk_42 (dk_at dksX6_day_4 15 rfl rfl)
theorem dX6_day_107 : decode cX6_day 107 = .ok (.iload_n 2, 1) := dk_28 (dk_at dksX6_day_4 16 rfl rfl)
theorem dX6_day_108 : decode cX6_day 108 = .ok (.iconst 2, 1) := dk_5 (dk_at dksX6_day_4 17 rfl rfl)
theorem dX6_day_109 : decode cX6_day 109 = .ok (.if_icmp .ge 8, 3) := dk_162 0 8 (dk_at dksX6_day_4 18 rfl rfl)
theorem dX6_day_112 : decode cX6_day 112 = .ok (.bipush 20, 2) := dk_16 20 (dk_at dksX6_day_4 21 rfl rfl)
theorem dX6_day_114 : decode cX6_day 114 = .ok (.goto 4, 3) := dk_167 0 4 (dk_at dksX6_day_5 0 rfl rfl)
theorem dX6_day_117 : decode cX6_day 117 = .ok (.iconst 0, 1) := dk_3 (dk_at dksX6_day_5 3 rfl rfl)
theorem dX6_day_118 : decode cX6_day 118 = .ok (.invokevirtual 244, 3) := dk_182 0 244 (dk_at dksX6_day_5 4 rfl rfl)
theorem dX6_day_121 : decode cX6_day 121 = .ok (.iastore, 1) := dk_79 (dk_at dksX6_day_5 7 rfl rfl)
theorem dX6_day_122 : decode cX6_day 122 = .ok (.aload_n 0, 1) := dk_42 (dk_at dksX6_day_5 8 rfl rfl)
theorem dX6_day_123 : decode cX6_day 123 = .ok (.getfield 110, 3) := dk_180 0 110 (dk_at dksX6_day_5 9 rfl rfl)
theorem dX6_day_126 : decode cX6_day 126 = .ok (.bipush 127, 2) := dk_16 127 (dk_at dksX6_day_5 12 rfl rfl)
theorem dX6_day_128 : decode cX6_day 128 = .ok (.iconst 3, 1) := dk_6 (dk_at dksX6_day_5 14 rfl rfl)
theorem dX6_day_129 : decode cX6_day 129 = .ok (.iload_n 1, 1) := dk_27 (dk_at dksX6_day_5 15 rfl rfl)
theorem dX6_day_130 : decode cX6_day 130 = .ok (.imul, 1) := dk_104 (dk_at dksX6_day_5 16 rfl rfl)
theorem dX6_day_131 : decode cX6_day 131 = .ok (.iadd, 1) := dk_96 (dk_at dksX6_day_5 17 rfl rfl)
theorem dX6_day_132 : decode cX6_day 132 = .ok (.iload_n 2, 1) := dk_28 (dk_at dksX6_day_5 18 rfl rfl)
theorem dX6_day_133 : decode cX6_day 133 = .ok (.ifCond .ne 13, 3) := dk_154 0 13 (dk_at dksX6_day_5 19 rfl rfl)
theorem dX6_day_136 : decode cX6_day 136 = .ok (.aload_n 0, 1) := dk_42 (dk_at dksX6_day_5 22 rfl rfl)
theorem dX6_day_137 : decode cX6_day 137 = .ok (.iconst 0, 1) := dk_3 (dk_at dksX6_day_5 23 rfl rfl)
theorem dX6_day_138 : decode cX6_day 138 = .ok (.bipush 9, 2) := dk_16 9 (dk_at dksX6_day_6 0 rfl rfl)
theorem dX6_day_140 : decode cX6_day 140 = .ok (.invokevirtual 177, 3) := dk_182 0 177 (dk_at dksX6_day_6 2 rfl rfl)
theorem dX6_day_143 : decode cX6_day 143 = .ok (.goto 18, 3) := dk_167 0 18 (dk_at dksX6_day_6 5 rfl rfl)
theorem dX6_day_146 : decode cX6_day 146 = .ok (.iload_n 2, 1) := dk_28 (dk_at dksX6_day_6 8 rfl rfl)
theorem dX6_day_147 : decode cX6_day 147 = .ok (.iconst 1, 1) := dk_4 (dk_at dksX6_day_6 9 rfl rfl)
theorem dX6_day_148 : decode cX6_day 148 = .ok (.if_icmp .ne 12, 3) := dk_160 0 12 (dk_at dksX6_day_6 10 rfl rfl)
theorem dX6_day_151 : decode cX6_day 151 = .ok (.aload_n 0, 1) := dk_42 (dk_at dksX6_day_6 13 rfl rfl)
theorem dX6_day_152 : decode cX6_day 152 = .ok (.bipush 40, 2) := dk_16 40 (dk_at dksX6_day_6 14 rfl rfl)
theorem dX6_day_154 : decode cX6_day 154 = .ok (.invokevirtual 244, 3) := dk_182 0 244 (dk_at dksX6_day_6 16 rfl rfl)
theorem dX6_day_157 : decode cX6_day 157 = .ok (.goto 4, 3) := dk_167 0 4 (dk_at dksX6_day_6 19 rfl rfl)
theorem dX6_day_160 : decode cX6_day 160 = .ok (.iconst 0, 1) := dk_3 (dk_at dksX6_day_6 22 rfl rfl)
theorem dX6_day_161 : decode cX6_day 161 = .ok (.iastore, 1) := dk_79 (dk_at dksX6_day_6 23 rfl rfl)
theorem dX6_day_162 : decode cX6_day 162 = .ok (.iinc 1 1, 3) := dk_132 1 1 (dk_at dksX6_day_7 0 rfl rfl)
theorem dX6_day_165 : decode cX6_day 165 = .ok (.aload_n 0, 1) := dk_42 (dk_at dksX6_day_7 3 rfl rfl)
theorem dX6_day_166 : decode cX6_day 166 = .ok (.bipush 59, 2) := dk_16 59 (dk_at dksX6_day_7 4 rfl rfl)
theorem dX6_day_168 : decode cX6_day 168 = .ok (.invokevirtual 214, 3) := dk_182 0 214 (dk_at dksX6_day_7 6 rfl rfl)
theorem dX6_day_171 : decode cX6_day 171 = .ok (.goto (-160), 3) := dk_167 255 96 (dk_at dksX6_day_7 9 rfl rfl)
theorem dX6_day_174 : decode cX6_day 174 = .ok (.aload_n 0, 1) := dk_42 (dk_at dksX6_day_7 12 rfl rfl)
theorem dX6_day_175 : decode cX6_day 175 = .ok (.getfield 159, 3) := dk_180 0 159 (dk_at dksX6_day_7 13 rfl rfl)
theorem dX6_day_178 : decode cX6_day 178 = .ok (.ifCond .le 8, 3) := dk_158 0 8 (dk_at dksX6_day_7 16 rfl rfl)
theorem dX6_day_181 : decode cX6_day 181 = .ok (.aload_n 0, 1) := dk_42 (dk_at dksX6_day_7 19 rfl rfl)
theorem dX6_day_182 : decode cX6_day 182 = .ok (.getfield 159, 3) := dk_180 0 159 (dk_at dksX6_day_7 20 rfl rfl)
theorem dX6_day_185 : decode cX6_day 185 = .ok (.ireturn, 1) := dk_172 (dk_at dksX6_day_7 23 rfl rfl)
theorem dX6_day_186 : decode cX6_day 186 = .ok (.aload_n 0, 1) := dk_42 (dk_at dksX6_day_8 0 rfl rfl)
theorem dX6_day_187 : decode cX6_day 187 = .ok (.getfield 110, 3) := dk_180 0 110 (dk_at dksX6_day_8 1 rfl rfl)
theorem dX6_day_190 : decode cX6_day 190 = .ok (.iconst 0, 1) := dk_3 (dk_at dksX6_day_8 4 rfl rfl)
theorem dX6_day_191 : decode cX6_day 191 = .ok (.iload_n 1, 1) := dk_27 (dk_at dksX6_day_8 5 rfl rfl)
theorem dX6_day_192 : decode cX6_day 192 = .ok (.iastore, 1) := dk_79 (dk_at dksX6_day_8 6 rfl rfl)
theorem dX6_day_193 : decode cX6_day 193 = .ok (.iconst 0, 1) := dk_3 (dk_at dksX6_day_8 7 rfl rfl)
theorem dX6_day_194 : decode cX6_day 194 = .ok (.istore_n 2, 1) := dk_61 (dk_at dksX6_day_8 8 rfl rfl)
theorem dX6_day_195 : decode cX6_day 195 = .ok (.iload_n 2, 1) := dk_28 (dk_at dksX6_day_8 9 rfl rfl)
theorem dX6_day_196 : decode cX6_day 196 = .ok (.iconst 3, 1) := dk_6 (dk_at dksX6_day_8 10 rfl rfl)
theorem dX6_day_197 : decode cX6_day 197 = .ok (.iload_n 1, 1) := dk_27 (dk_at dksX6_day_8 11 rfl rfl)
theorem dX6_day_198 : decode cX6_day 198 = .ok (.imul, 1) := dk_104 (dk_at dksX6_day_8 12 rfl rfl)
theorem dX6_day_199 : decode cX6_day 199 = .ok (.if_icmp .ge 26, 3) := dk_162 0 26 (dk_at dksX6_day_8 13 rfl rfl)
theorem dX6_day_202 : decode cX6_day 202 = .ok (.aload_n 0, 1) := dk_42 (dk_at dksX6_day_8 16 rfl rfl)
theorem dX6_day_203 : decode cX6_day 203 = .ok (.getfield 110, 3) := dk_180 0 110 (dk_at dksX6_day_8 17 rfl rfl)
theorem dX6_day_206 : decode cX6_day 206 = .ok (.iconst 1, 1) := dk_4 (dk_at dksX6_day_8 20 rfl rfl)
theorem dX6_day_207 : decode cX6_day 207 = .ok (.iload_n 2, 1) := dk_28 (dk_at dksX6_day_8 21 rfl rfl)
theorem dX6_day_208 : decode cX6_day 208 = .ok (.iadd, 1) := dk_96 (dk_at dksX6_day_8 22 rfl rfl)
theorem dX6_day_209 : decode cX6_day 209 = .ok (.aload_n 0, 1) := dk_42 (dk_at dksX6_day_8 23 rfl rfl)
theorem dX6_day_210 : decode cX6_day 210 = .ok (.getfield 110, 3) := dk_180 0 110 (dk_at dksX6_day_9 0 rfl rfl)
theorem dX6_day_213 : decode cX6_day 213 = .ok (.bipush 125, 2) := dk_16 125 (dk_at dksX6_day_9 3 rfl rfl)
theorem dX6_day_215 : decode cX6_day 215 = .ok (.iload_n 2, 1) := dk_28 (dk_at dksX6_day_9 5 rfl rfl)
theorem dX6_day_216 : decode cX6_day 216 = .ok (.iadd, 1) := dk_96 (dk_at dksX6_day_9 6 rfl rfl)
theorem dX6_day_217 : decode cX6_day 217 = .ok (.iaload, 1) := dk_46 (dk_at dksX6_day_9 7 rfl rfl)
theorem dX6_day_218 : decode cX6_day 218 = .ok (.iastore, 1) := dk_79 (dk_at dksX6_day_9 8 rfl rfl)
theorem dX6_day_219 : decode cX6_day 219 = .ok (.iinc 2 1, 3) := dk_132 2 1 (dk_at dksX6_day_9 9 rfl rfl)
theorem dX6_day_222 : decode cX6_day 222 = .ok (.goto (-27), 3) := dk_167 255 229 (dk_at dksX6_day_9 12 rfl rfl)
theorem dX6_day_225 : decode cX6_day 225 = .ok (.iconst 0, 1) := dk_3 (dk_at dksX6_day_9 15 rfl rfl)
theorem dX6_day_226 : decode cX6_day 226 = .ok (.ireturn, 1) := dk_172 (dk_at dksX6_day_9 16 rfl rfl)
abbrev cX6_takeTold : ByteArray := prog_24_method_25_code
def yX6_takeTold : MethodName := ⟨RX6, "takeTold", "(I)I"⟩
def dkwX6_takeTold_3 : List UInt8 := [3, 167, 0, 4, 4, 96, 181, 0, 156, 42, 180, 0, 159, 158, 0, 7, 3, 167, 0, 4, 28, 172]
abbrev dktX6_takeTold_3 : List UInt8 := dkwX6_takeTold_3 ++ []
def dkwX6_takeTold_2 : List UInt8 := [8, 184, 0, 198, 154, 0, 8, 42, 5, 182, 0, 165, 42, 89, 180, 0, 156, 42, 180, 0, 159, 158, 0, 7]
abbrev dktX6_takeTold_2 : List UInt8 := dkwX6_takeTold_2 ++ dktX6_takeTold_3
def dkwX6_takeTold_1 : List UInt8 := [158, 0, 7, 2, 167, 0, 10, 42, 3, 182, 0, 194, 27, 100, 61, 42, 180, 0, 159, 154, 0, 17, 28, 3]
abbrev dktX6_takeTold_1 : List UInt8 := dkwX6_takeTold_1 ++ dktX6_takeTold_2
def dkwX6_takeTold_0 : List UInt8 := [42, 180, 0, 159, 154, 0, 15, 42, 182, 0, 190, 154, 0, 8, 42, 4, 182, 0, 165, 42, 180, 0, 159]
abbrev dktX6_takeTold_0 : List UInt8 := dkwX6_takeTold_0 ++ dktX6_takeTold_1
theorem dksX6_takeTold_0 : cX6_takeTold.data.toList.drop 0 = dktX6_takeTold_0 := by decide +kernel
theorem dksX6_takeTold_1 : cX6_takeTold.data.toList.drop 23 = dktX6_takeTold_1 := dk_seg dksX6_takeTold_0 23 rfl rfl
theorem dksX6_takeTold_2 : cX6_takeTold.data.toList.drop 47 = dktX6_takeTold_2 := dk_seg dksX6_takeTold_1 24 rfl rfl
theorem dksX6_takeTold_3 : cX6_takeTold.data.toList.drop 71 = dktX6_takeTold_3 := dk_seg dksX6_takeTold_2 24 rfl rfl
theorem dX6_takeTold_0 : decode cX6_takeTold 0 = .ok (.aload_n 0, 1) := dk_42 (dk_at dksX6_takeTold_0 0 rfl rfl)
theorem dX6_takeTold_1 : decode cX6_takeTold 1 = .ok (.getfield 159, 3) := dk_180 0 159 (dk_at dksX6_takeTold_0 1 rfl rfl)
theorem dX6_takeTold_4 : decode cX6_takeTold 4 = .ok (.ifCond .ne 15, 3) := dk_154 0 15 (dk_at dksX6_takeTold_0 4 rfl rfl)
theorem dX6_takeTold_7 : decode cX6_takeTold 7 = .ok (.aload_n 0, 1) := dk_42 (dk_at dksX6_takeTold_0 7 rfl rfl)
theorem dX6_takeTold_8 : decode cX6_takeTold 8 = .ok (.invokevirtual 190, 3) := dk_182 0 190 (dk_at dksX6_takeTold_0 8 rfl rfl)
theorem dX6_takeTold_11 : decode cX6_takeTold 11 = .ok (.ifCond .ne 8, 3) := dk_154 0 8 (dk_at dksX6_takeTold_0 11 rfl rfl)
theorem dX6_takeTold_14 : decode cX6_takeTold 14 = .ok (.aload_n 0, 1) := dk_42 (dk_at dksX6_takeTold_0 14 rfl rfl)
theorem dX6_takeTold_15 : decode cX6_takeTold 15 = .ok (.iconst 1, 1) := dk_4 (dk_at dksX6_takeTold_0 15 rfl rfl)
theorem dX6_takeTold_16 : decode cX6_takeTold 16 = .ok (.invokevirtual 165, 3) := dk_182 0 165 (dk_at dksX6_takeTold_0 16 rfl rfl)
theorem dX6_takeTold_19 : decode cX6_takeTold 19 = .ok (.aload_n 0, 1) := dk_42 (dk_at dksX6_takeTold_0 19 rfl rfl)
theorem dX6_takeTold_20 : decode cX6_takeTold 20 = .ok (.getfield 159, 3) := dk_180 0 159 (dk_at dksX6_takeTold_0 20 rfl rfl)
theorem dX6_takeTold_23 : decode cX6_takeTold 23 = .ok (.ifCond .le 7, 3) := dk_158 0 7 (dk_at dksX6_takeTold_1 0 rfl rfl)
theorem dX6_takeTold_26 : decode cX6_takeTold 26 = .ok (.iconst (-1), 1) := dk_2 (dk_at dksX6_takeTold_1 3 rfl rfl)
theorem dX6_takeTold_27 : decode cX6_takeTold 27 = .ok (.goto 10, 3) := dk_167 0 10 (dk_at dksX6_takeTold_1 4 rfl rfl)
theorem dX6_takeTold_30 : decode cX6_takeTold 30 = .ok (.aload_n 0, 1) := dk_42 (dk_at dksX6_takeTold_1 7 rfl rfl)
theorem dX6_takeTold_31 : decode cX6_takeTold 31 = .ok (.iconst 0, 1) := dk_3 (dk_at dksX6_takeTold_1 8 rfl rfl)
theorem dX6_takeTold_32 : decode cX6_takeTold 32 = .ok (.invokevirtual 194, 3) := dk_182 0 194 (dk_at dksX6_takeTold_1 9 rfl rfl)
theorem dX6_takeTold_35 : decode cX6_takeTold 35 = .ok (.iload_n 1, 1) := dk_27 (dk_at dksX6_takeTold_1 12 rfl rfl)
theorem dX6_takeTold_36 : decode cX6_takeTold 36 = .ok (.isub, 1) := dk_100 (dk_at dksX6_takeTold_1 13 rfl rfl)
theorem dX6_takeTold_37 : decode cX6_takeTold 37 = .ok (.istore_n 2, 1) := dk_61 (dk_at dksX6_takeTold_1 14 rfl rfl)
theorem dX6_takeTold_38 : decode cX6_takeTold 38 = .ok (.aload_n 0, 1) := dk_42 (dk_at dksX6_takeTold_1 15 rfl rfl)
theorem dX6_takeTold_39 : decode cX6_takeTold 39 = .ok (.getfield 159, 3) := dk_180 0 159 (dk_at dksX6_takeTold_1 16 rfl rfl)
theorem dX6_takeTold_42 : decode cX6_takeTold 42 = .ok (.ifCond .ne 17, 3) := dk_154 0 17 (dk_at dksX6_takeTold_1 19 rfl rfl)
theorem dX6_takeTold_45 : decode cX6_takeTold 45 = .ok (.iload_n 2, 1) := dk_28 (dk_at dksX6_takeTold_1 22 rfl rfl)
theorem dX6_takeTold_46 : decode cX6_takeTold 46 = .ok (.iconst 0, 1) := dk_3 (dk_at dksX6_takeTold_1 23 rfl rfl)
theorem dX6_takeTold_47 : decode cX6_takeTold 47 = .ok (.iconst 5, 1) := dk_8 (dk_at dksX6_takeTold_2 0 rfl rfl)
theorem dX6_takeTold_48 : decode cX6_takeTold 48 = .ok (.invokestatic 198, 3) := dk_184 0 198 (dk_at dksX6_takeTold_2 1 rfl rfl)
theorem dX6_takeTold_51 : decode cX6_takeTold 51 = .ok (.ifCond .ne 8, 3) := dk_154 0 8 (dk_at dksX6_takeTold_2 4 rfl rfl)
theorem dX6_takeTold_54 : decode cX6_takeTold 54 = .ok (.aload_n 0, 1) := dk_42 (dk_at dksX6_takeTold_2 7 rfl rfl)
theorem dX6_takeTold_55 : decode cX6_takeTold 55 = .ok (.iconst 2, 1) := dk_5 (dk_at dksX6_takeTold_2 8 rfl rfl)
theorem dX6_takeTold_56 : decode cX6_takeTold 56 = .ok (.invokevirtual 165, 3) := dk_182 0 165 (dk_at dksX6_takeTold_2 9 rfl rfl)
theorem dX6_takeTold_59 : decode cX6_takeTold 59 = .ok (.aload_n 0, 1) := dk_42 (dk_at dksX6_takeTold_2 12 rfl rfl)
theorem dX6_takeTold_60 : decode cX6_takeTold 60 = .ok (.dup, 1) := dk_89 (dk_at dksX6_takeTold_2 13 rfl rfl)
theorem dX6_takeTold_61 : decode cX6_takeTold 61 = .ok (.getfield 156, 3) := dk_180 0 156 (dk_at dksX6_takeTold_2 14 rfl rfl)
theorem dX6_takeTold_64 : decode cX6_takeTold 64 = .ok (.aload_n 0, 1) := dk_42 (dk_at dksX6_takeTold_2 17 rfl rfl)
theorem dX6_takeTold_65 : decode cX6_takeTold 65 = .ok (.getfield 159, 3) := dk_180 0 159 (dk_at dksX6_takeTold_2 18 rfl rfl)
theorem dX6_takeTold_68 : decode cX6_takeTold 68 = .ok (.ifCond .le 7, 3) := dk_158 0 7 (dk_at dksX6_takeTold_2 21 rfl rfl)
theorem dX6_takeTold_71 : decode cX6_takeTold 71 = .ok (.iconst 0, 1) := dk_3 (dk_at dksX6_takeTold_3 0 rfl rfl)
theorem dX6_takeTold_72 : decode cX6_takeTold 72 = .ok (.goto 4, 3) := dk_167 0 4 (dk_at dksX6_takeTold_3 1 rfl rfl)
theorem dX6_takeTold_75 : decode cX6_takeTold 75 = .ok (.iconst 1, 1) := dk_4 (dk_at dksX6_takeTold_3 4 rfl rfl)
theorem dX6_takeTold_76 : decode cX6_takeTold 76 = .ok (.iadd, 1) := dk_96 (dk_at dksX6_takeTold_3 5 rfl rfl)
theorem dX6_takeTold_77 : decode cX6_takeTold 77 = .ok (.putfield 156, 3) := dk_181 0 156 (dk_at dksX6_takeTold_3 6 rfl rfl)
theorem dX6_takeTold_80 : decode cX6_takeTold 80 = .ok (.aload_n 0, 1) := dk_42 (dk_at dksX6_takeTold_3 9 rfl rfl)
theorem dX6_takeTold_81 : decode cX6_takeTold 81 = .ok (.getfield 159, 3) := dk_180 0 159 (dk_at dksX6_takeTold_3 10 rfl rfl)
theorem dX6_takeTold_84 : decode cX6_takeTold 84 = .ok (.ifCond .le 7, 3) := dk_158 0 7 (dk_at dksX6_takeTold_3 13 rfl rfl)
theorem dX6_takeTold_87 : decode cX6_takeTold 87 = .ok (.iconst 0, 1) := dk_3 (dk_at dksX6_takeTold_3 16 rfl rfl)
theorem dX6_takeTold_88 : decode cX6_takeTold 88 = .ok (.goto 4, 3) := dk_167 0 4 (dk_at dksX6_takeTold_3 17 rfl rfl)
theorem dX6_takeTold_91 : decode cX6_takeTold 91 = .ok (.iload_n 2, 1) := dk_28 (dk_at dksX6_takeTold_3 20 rfl rfl)
theorem dX6_takeTold_92 : decode cX6_takeTold 92 = .ok (.ireturn, 1) := dk_172 (dk_at dksX6_takeTold_3 21 rfl rfl)
abbrev cX6_within : ByteArray := prog_24_method_17_code
def yX6_within : MethodName := ⟨RX6, "within", "(III)Z"⟩
def dkwX6_within_0 : List UInt8 := [26, 27, 161, 0, 12, 26, 28, 163, 0, 7, 4, 167, 0, 4, 3, 172]
abbrev dktX6_within_0 : List UInt8 := dkwX6_within_0 ++ []
theorem dksX6_within_0 : cX6_within.data.toList.drop 0 = dktX6_within_0 := by decide +kernel
theorem dX6_within_0 : decode cX6_within 0 = .ok (.iload_n 0, 1) := dk_26 (dk_at dksX6_within_0 0 rfl rfl)
theorem dX6_within_1 : decode cX6_within 1 = .ok (.iload_n 1, 1) := dk_27 (dk_at dksX6_within_0 1 rfl rfl)
theorem dX6_within_2 : decode cX6_within 2 = .ok (.if_icmp .lt 12, 3) := dk_161 0 12 (dk_at dksX6_within_0 2 rfl rfl)
theorem dX6_within_5 : decode cX6_within 5 = .ok (.iload_n 0, 1) := dk_26 (dk_at dksX6_within_0 5 rfl rfl)
theorem dX6_within_6 : decode cX6_within 6 = .ok (.iload_n 2, 1) := dk_28 (dk_at dksX6_within_0 6 rfl rfl)
theorem dX6_within_7 : decode cX6_within 7 = .ok (.if_icmp .gt 7, 3) := dk_163 0 7 (dk_at dksX6_within_0 7 rfl rfl)
theorem dX6_within_10 : decode cX6_within 10 = .ok (.iconst 1, 1) := dk_4 (dk_at dksX6_within_0 10 rfl rfl)
theorem dX6_within_11 : decode cX6_within 11 = .ok (.goto 4, 3) := dk_167 0 4 (dk_at dksX6_within_0 11 rfl rfl)
theorem dX6_within_14 : decode cX6_within 14 = .ok (.iconst 0, 1) := dk_3 (dk_at dksX6_within_0 14 rfl rfl)
theorem dX6_within_15 : decode cX6_within 15 = .ok (.ireturn, 1) := dk_172 (dk_at dksX6_within_0 15 rfl rfl)
abbrev cX6_pane : ByteArray := prog_24_method_71_code
def yX6_pane : MethodName := ⟨RX6, "pane", "(II)I"⟩
def dkwX6_pane_4 : List UInt8 := [96, 46, 172, 42, 180, 0, 119, 16, 12, 27, 96, 46, 172, 42, 3, 27, 182, 1, 38, 172]
abbrev dktX6_pane_4 : List UInt8 := dkwX6_pane_4 ++ []
def dkwX6_pane_3 : List UInt8 := [42, 27, 28, 182, 1, 28, 172, 42, 180, 0, 119, 16, 18, 27, 96, 46, 172, 42, 180, 0, 119, 16, 6, 27]
abbrev dktX6_pane_3 : List UInt8 := dkwX6_pane_3 ++ dktX6_pane_4
def dkwX6_pane_2 : List UInt8 := [170, 0, 0, 0, 0, 71, 0, 0, 0, 0, 0, 0, 0, 4, 0, 0, 0, 34, 0, 0, 0, 34, 0, 0, 0, 41, 0, 0, 0, 51, 0, 0, 0, 61]
abbrev dktX6_pane_2 : List UInt8 := dkwX6_pane_2 ++ dktX6_pane_3
def dkwX6_pane_1 : List UInt8 := [172, 28]
abbrev dktX6_pane_1 : List UInt8 := dkwX6_pane_1 ++ dktX6_pane_2
def dkwX6_pane_0 : List UInt8 := [42, 3, 181, 0, 1, 42, 27, 182, 1, 81, 153, 0, 12, 28, 3, 8, 184, 0, 198, 154, 0, 6, 16, 254]
abbrev dktX6_pane_0 : List UInt8 := dkwX6_pane_0 ++ dktX6_pane_1
theorem dksX6_pane_0 : cX6_pane.data.toList.drop 0 = dktX6_pane_0 := by decide +kernel
theorem dksX6_pane_1 : cX6_pane.data.toList.drop 24 = dktX6_pane_1 := dk_seg dksX6_pane_0 24 rfl rfl
theorem dksX6_pane_2 : cX6_pane.data.toList.drop 26 = dktX6_pane_2 := dk_seg dksX6_pane_1 2 rfl rfl
theorem dksX6_pane_3 : cX6_pane.data.toList.drop 60 = dktX6_pane_3 := dk_seg dksX6_pane_2 34 rfl rfl
theorem dksX6_pane_4 : cX6_pane.data.toList.drop 84 = dktX6_pane_4 := dk_seg dksX6_pane_3 24 rfl rfl
theorem dX6_pane_0 : decode cX6_pane 0 = .ok (.aload_n 0, 1) := dk_42 (dk_at dksX6_pane_0 0 rfl rfl)
theorem dX6_pane_1 : decode cX6_pane 1 = .ok (.iconst 0, 1) := dk_3 (dk_at dksX6_pane_0 1 rfl rfl)
theorem dX6_pane_2 : decode cX6_pane 2 = .ok (.putfield 1, 3) := dk_181 0 1 (dk_at dksX6_pane_0 2 rfl rfl)
theorem dX6_pane_5 : decode cX6_pane 5 = .ok (.aload_n 0, 1) := dk_42 (dk_at dksX6_pane_0 5 rfl rfl)
theorem dX6_pane_6 : decode cX6_pane 6 = .ok (.iload_n 1, 1) := dk_27 (dk_at dksX6_pane_0 6 rfl rfl)
theorem dX6_pane_7 : decode cX6_pane 7 = .ok (.invokevirtual 337, 3) := dk_182 1 81 (dk_at dksX6_pane_0 7 rfl rfl)
theorem dX6_pane_10 : decode cX6_pane 10 = .ok (.ifCond .eq 12, 3) := dk_153 0 12 (dk_at dksX6_pane_0 10 rfl rfl)
theorem dX6_pane_13 : decode cX6_pane 13 = .ok (.iload_n 2, 1) := dk_28 (dk_at dksX6_pane_0 13 rfl rfl)
theorem dX6_pane_14 : decode cX6_pane 14 = .ok (.iconst 0, 1) := dk_3 (dk_at dksX6_pane_0 14 rfl rfl)
theorem dX6_pane_15 : decode cX6_pane 15 = .ok (.iconst 5, 1) := dk_8 (dk_at dksX6_pane_0 15 rfl rfl)
theorem dX6_pane_16 : decode cX6_pane 16 = .ok (.invokestatic 198, 3) := dk_184 0 198 (dk_at dksX6_pane_0 16 rfl rfl)
theorem dX6_pane_19 : decode cX6_pane 19 = .ok (.ifCond .ne 6, 3) := dk_154 0 6 (dk_at dksX6_pane_0 19 rfl rfl)
theorem dX6_pane_22 : decode cX6_pane 22 = .ok (.bipush (-2), 2) := dk_16 254 (dk_at dksX6_pane_0 22 rfl rfl)
theorem dX6_pane_24 : decode cX6_pane 24 = .ok (.ireturn, 1) := dk_172 (dk_at dksX6_pane_1 0 rfl rfl)
theorem dX6_pane_25 : decode cX6_pane 25 = .ok (.iload_n 2, 1) := dk_28 (dk_at dksX6_pane_1 1 rfl rfl)
theorem dX6_pane_26 : decode cX6_pane 26 = .ok (.tableswitch 71 0 4 #[34, 34, 41, 51, 61], 34) := by decide +kernel
theorem dX6_pane_60 : decode cX6_pane 60 = .ok (.aload_n 0, 1) := dk_42 (dk_at dksX6_pane_3 0 rfl rfl)
theorem dX6_pane_61 : decode cX6_pane 61 = .ok (.iload_n 1, 1) := dk_27 (dk_at dksX6_pane_3 1 rfl rfl)
theorem dX6_pane_62 : decode cX6_pane 62 = .ok (.iload_n 2, 1) := dk_28 (dk_at dksX6_pane_3 2 rfl rfl)
theorem dX6_pane_63 : decode cX6_pane 63 = .ok (.invokevirtual 284, 3) := dk_182 1 28 (dk_at dksX6_pane_3 3 rfl rfl)
theorem dX6_pane_66 : decode cX6_pane 66 = .ok (.ireturn, 1) := dk_172 (dk_at dksX6_pane_3 6 rfl rfl)
theorem dX6_pane_67 : decode cX6_pane 67 = .ok (.aload_n 0, 1) := dk_42 (dk_at dksX6_pane_3 7 rfl rfl)
theorem dX6_pane_68 : decode cX6_pane 68 = .ok (.getfield 119, 3) := dk_180 0 119 (dk_at dksX6_pane_3 8 rfl rfl)
theorem dX6_pane_71 : decode cX6_pane 71 = .ok (.bipush 18, 2) := dk_16 18 (dk_at dksX6_pane_3 11 rfl rfl)
theorem dX6_pane_73 : decode cX6_pane 73 = .ok (.iload_n 1, 1) := dk_27 (dk_at dksX6_pane_3 13 rfl rfl)
theorem dX6_pane_74 : decode cX6_pane 74 = .ok (.iadd, 1) := dk_96 (dk_at dksX6_pane_3 14 rfl rfl)
theorem dX6_pane_75 : decode cX6_pane 75 = .ok (.iaload, 1) := dk_46 (dk_at dksX6_pane_3 15 rfl rfl)
theorem dX6_pane_76 : decode cX6_pane 76 = .ok (.ireturn, 1) := dk_172 (dk_at dksX6_pane_3 16 rfl rfl)
theorem dX6_pane_77 : decode cX6_pane 77 = .ok (.aload_n 0, 1) := dk_42 (dk_at dksX6_pane_3 17 rfl rfl)
theorem dX6_pane_78 : decode cX6_pane 78 = .ok (.getfield 119, 3) := dk_180 0 119 (dk_at dksX6_pane_3 18 rfl rfl)
theorem dX6_pane_81 : decode cX6_pane 81 = .ok (.bipush 6, 2) := dk_16 6 (dk_at dksX6_pane_3 21 rfl rfl)
theorem dX6_pane_83 : decode cX6_pane 83 = .ok (.iload_n 1, 1) := dk_27 (dk_at dksX6_pane_3 23 rfl rfl)
theorem dX6_pane_84 : decode cX6_pane 84 = .ok (.iadd, 1) := dk_96 (dk_at dksX6_pane_4 0 rfl rfl)
theorem dX6_pane_85 : decode cX6_pane 85 = .ok (.iaload, 1) := dk_46 (dk_at dksX6_pane_4 1 rfl rfl)
theorem dX6_pane_86 : decode cX6_pane 86 = .ok (.ireturn, 1) := dk_172 (dk_at dksX6_pane_4 2 rfl rfl)
theorem dX6_pane_87 : decode cX6_pane 87 = .ok (.aload_n 0, 1) := dk_42 (dk_at dksX6_pane_4 3 rfl rfl)
theorem dX6_pane_88 : decode cX6_pane 88 = .ok (.getfield 119, 3) := dk_180 0 119 (dk_at dksX6_pane_4 4 rfl rfl)
theorem dX6_pane_91 : decode cX6_pane 91 = .ok (.bipush 12, 2) := dk_16 12 (dk_at dksX6_pane_4 7 rfl rfl)
theorem dX6_pane_93 : decode cX6_pane 93 = .ok (.iload_n 1, 1) := dk_27 (dk_at dksX6_pane_4 9 rfl rfl)
theorem dX6_pane_94 : decode cX6_pane 94 = .ok (.iadd, 1) := dk_96 (dk_at dksX6_pane_4 10 rfl rfl)
theorem dX6_pane_95 : decode cX6_pane 95 = .ok (.iaload, 1) := dk_46 (dk_at dksX6_pane_4 11 rfl rfl)
theorem dX6_pane_96 : decode cX6_pane 96 = .ok (.ireturn, 1) := dk_172 (dk_at dksX6_pane_4 12 rfl rfl)
theorem dX6_pane_97 : decode cX6_pane 97 = .ok (.aload_n 0, 1) := dk_42 (dk_at dksX6_pane_4 13 rfl rfl)
theorem dX6_pane_98 : decode cX6_pane 98 = .ok (.iconst 0, 1) := dk_3 (dk_at dksX6_pane_4 14 rfl rfl)
theorem dX6_pane_99 : decode cX6_pane 99 = .ok (.iload_n 1, 1) := dk_27 (dk_at dksX6_pane_4 15 rfl rfl)
theorem dX6_pane_100 : decode cX6_pane 100 = .ok (.invokevirtual 294, 3) := dk_182 1 38 (dk_at dksX6_pane_4 16 rfl rfl)
theorem dX6_pane_103 : decode cX6_pane 103 = .ok (.ireturn, 1) := dk_172 (dk_at dksX6_pane_4 19 rfl rfl)
abbrev cX6_isPane : ByteArray := prog_24_method_49_code
def yX6_isPane : MethodName := ⟨RX6, "isPane", "(I)Z"⟩
def dkwX6_isPane_0 : List UInt8 := [27, 155, 0, 15, 27, 42, 182, 1, 22, 162, 0, 7, 4, 167, 0, 4, 3, 172]
abbrev dktX6_isPane_0 : List UInt8 := dkwX6_isPane_0 ++ []
theorem dksX6_isPane_0 : cX6_isPane.data.toList.drop 0 = dktX6_isPane_0 := by decide +kernel
theorem dX6_isPane_0 : decode cX6_isPane 0 = .ok (.iload_n 1, 1) := dk_27 (dk_at dksX6_isPane_0 0 rfl rfl)
theorem dX6_isPane_1 : decode cX6_isPane 1 = .ok (.ifCond .lt 15, 3) := dk_155 0 15 (dk_at dksX6_isPane_0 1 rfl rfl)
theorem dX6_isPane_4 : decode cX6_isPane 4 = .ok (.iload_n 1, 1) := dk_27 (dk_at dksX6_isPane_0 4 rfl rfl)
theorem dX6_isPane_5 : decode cX6_isPane 5 = .ok (.aload_n 0, 1) := dk_42 (dk_at dksX6_isPane_0 5 rfl rfl)
theorem dX6_isPane_6 : decode cX6_isPane 6 = .ok (.invokevirtual 278, 3) := dk_182 1 22 (dk_at dksX6_isPane_0 6 rfl rfl)
theorem dX6_isPane_9 : decode cX6_isPane 9 = .ok (.if_icmp .ge 7, 3) := dk_162 0 7 (dk_at dksX6_isPane_0 9 rfl rfl)
theorem dX6_isPane_12 : decode cX6_isPane 12 = .ok (.iconst 1, 1) := dk_4 (dk_at dksX6_isPane_0 12 rfl rfl)
theorem dX6_isPane_13 : decode cX6_isPane 13 = .ok (.goto 4, 3) := dk_167 0 4 (dk_at dksX6_isPane_0 13 rfl rfl)
theorem dX6_isPane_16 : decode cX6_isPane 16 = .ok (.iconst 0, 1) := dk_3 (dk_at dksX6_isPane_0 16 rfl rfl)
theorem dX6_isPane_17 : decode cX6_isPane 17 = .ok (.ireturn, 1) := dk_172 (dk_at dksX6_isPane_0 17 rfl rfl)
abbrev cX6_panes : ByteArray := prog_24_method_45_code
def yX6_panes : MethodName := ⟨RX6, "panes", "()I"⟩
def dkwX6_panes_0 : List UInt8 := [42, 180, 0, 89, 3, 46, 172]
abbrev dktX6_panes_0 : List UInt8 := dkwX6_panes_0 ++ []
theorem dksX6_panes_0 : cX6_panes.data.toList.drop 0 = dktX6_panes_0 := by decide +kernel
theorem dX6_panes_0 : decode cX6_panes 0 = .ok (.aload_n 0, 1) := dk_42 (dk_at dksX6_panes_0 0 rfl rfl)
theorem dX6_panes_1 : decode cX6_panes 1 = .ok (.getfield 89, 3) := dk_180 0 89 (dk_at dksX6_panes_0 1 rfl rfl)
theorem dX6_panes_4 : decode cX6_panes 4 = .ok (.iconst 0, 1) := dk_3 (dk_at dksX6_panes_0 4 rfl rfl)
theorem dX6_panes_5 : decode cX6_panes 5 = .ok (.iaload, 1) := dk_46 (dk_at dksX6_panes_0 5 rfl rfl)
theorem dX6_panes_6 : decode cX6_panes 6 = .ok (.ireturn, 1) := dk_172 (dk_at dksX6_panes_0 6 rfl rfl)
abbrev cX6_paneOf : ByteArray := prog_24_method_48_code
def yX6_paneOf : MethodName := ⟨RX6, "paneOf", "(II)I"⟩
def dkwX6_paneOf_0 : List UInt8 := [42, 180, 0, 89, 8, 6, 27, 104, 96, 28, 96, 46, 172]
abbrev dktX6_paneOf_0 : List UInt8 := dkwX6_paneOf_0 ++ []
theorem dksX6_paneOf_0 : cX6_paneOf.data.toList.drop 0 = dktX6_paneOf_0 := by decide +kernel
theorem dX6_paneOf_0 : decode cX6_paneOf 0 = .ok (.aload_n 0, 1) := dk_42 (dk_at dksX6_paneOf_0 0 rfl rfl)
theorem dX6_paneOf_1 : decode cX6_paneOf 1 = .ok (.getfield 89, 3) := dk_180 0 89 (dk_at dksX6_paneOf_0 1 rfl rfl)
theorem dX6_paneOf_4 : decode cX6_paneOf 4 = .ok (.iconst 5, 1) := dk_8 (dk_at dksX6_paneOf_0 4 rfl rfl)
theorem dX6_paneOf_5 : decode cX6_paneOf 5 = .ok (.iconst 3, 1) := dk_6 (dk_at dksX6_paneOf_0 5 rfl rfl)
theorem dX6_paneOf_6 : decode cX6_paneOf 6 = .ok (.iload_n 1, 1) := dk_27 (dk_at dksX6_paneOf_0 6 rfl rfl)
theorem dX6_paneOf_7 : decode cX6_paneOf 7 = .ok (.imul, 1) := dk_104 (dk_at dksX6_paneOf_0 7 rfl rfl)
theorem dX6_paneOf_8 : decode cX6_paneOf 8 = .ok (.iadd, 1) := dk_96 (dk_at dksX6_paneOf_0 8 rfl rfl)
theorem dX6_paneOf_9 : decode cX6_paneOf 9 = .ok (.iload_n 2, 1) := dk_28 (dk_at dksX6_paneOf_0 9 rfl rfl)
theorem dX6_paneOf_10 : decode cX6_paneOf 10 = .ok (.iadd, 1) := dk_96 (dk_at dksX6_paneOf_0 10 rfl rfl)
theorem dX6_paneOf_11 : decode cX6_paneOf 11 = .ok (.iaload, 1) := dk_46 (dk_at dksX6_paneOf_0 11 rfl rfl)
theorem dX6_paneOf_12 : decode cX6_paneOf 12 = .ok (.ireturn, 1) := dk_172 (dk_at dksX6_paneOf_0 12 rfl rfl)
abbrev cX6_sightOf : ByteArray := prog_24_method_54_code
def yX6_sightOf : MethodName := ⟨RX6, "sightOf", "(II)I"⟩
def dkwX6_sightOf_5 : List UInt8 := [21, 5, 153, 0, 7, 29, 167, 0, 4, 3, 172]
abbrev dktX6_sightOf_5 : List UInt8 := dkwX6_sightOf_5 ++ []
def dkwX6_sightOf_4 : List UInt8 := [42, 42, 180, 0, 119, 27, 3, 96, 46, 182, 1, 35, 4, 160, 0, 7, 4, 167, 0, 4, 3, 54, 5]
abbrev dktX6_sightOf_4 : List UInt8 := dkwX6_sightOf_4 ++ dktX6_sightOf_5
def dkwX6_sightOf_3 : List UInt8 := [42, 180, 0, 119, 27, 16, 6, 96, 28, 96, 46, 154, 0, 33, 42, 28, 3, 182, 1, 28, 5, 160, 0, 19]
abbrev dktX6_sightOf_3 : List UInt8 := dkwX6_sightOf_3 ++ dktX6_sightOf_4
def dkwX6_sightOf_2 : List UInt8 := [182, 1, 28, 6, 160, 0, 8, 21, 4, 167, 0, 4, 3, 128, 62, 42, 27, 28, 182, 1, 31, 153, 0, 47]
abbrev dktX6_sightOf_2 : List UInt8 := dkwX6_sightOf_2 ++ dktX6_sightOf_3
def dkwX6_sightOf_1 : List UInt8 := [21, 5, 122, 4, 126, 16, 9, 21, 5, 100, 120, 128, 54, 4, 132, 5, 1, 167, 255, 229, 29, 42, 28, 3]
abbrev dktX6_sightOf_1 : List UInt8 := dkwX6_sightOf_1 ++ dktX6_sightOf_2
def dkwX6_sightOf_0 : List UInt8 := [42, 28, 5, 182, 1, 28, 62, 3, 54, 4, 3, 54, 5, 21, 5, 16, 10, 162, 0, 26, 21, 4, 29]
abbrev dktX6_sightOf_0 : List UInt8 := dkwX6_sightOf_0 ++ dktX6_sightOf_1
theorem dksX6_sightOf_0 : cX6_sightOf.data.toList.drop 0 = dktX6_sightOf_0 := by decide +kernel
theorem dksX6_sightOf_1 : cX6_sightOf.data.toList.drop 23 = dktX6_sightOf_1 := dk_seg dksX6_sightOf_0 23 rfl rfl
theorem dksX6_sightOf_2 : cX6_sightOf.data.toList.drop 47 = dktX6_sightOf_2 := dk_seg dksX6_sightOf_1 24 rfl rfl
theorem dksX6_sightOf_3 : cX6_sightOf.data.toList.drop 71 = dktX6_sightOf_3 := dk_seg dksX6_sightOf_2 24 rfl rfl
theorem dksX6_sightOf_4 : cX6_sightOf.data.toList.drop 95 = dktX6_sightOf_4 := dk_seg dksX6_sightOf_3 24 rfl rfl
theorem dksX6_sightOf_5 : cX6_sightOf.data.toList.drop 118 = dktX6_sightOf_5 := dk_seg dksX6_sightOf_4 23 rfl rfl
theorem dX6_sightOf_0 : decode cX6_sightOf 0 = .ok (.aload_n 0, 1) := dk_42 (dk_at dksX6_sightOf_0 0 rfl rfl)
theorem dX6_sightOf_1 : decode cX6_sightOf 1 = .ok (.iload_n 2, 1) := dk_28 (dk_at dksX6_sightOf_0 1 rfl rfl)
theorem dX6_sightOf_2 : decode cX6_sightOf 2 = .ok (.iconst 2, 1) := dk_5 (dk_at dksX6_sightOf_0 2 rfl rfl)
theorem dX6_sightOf_3 : decode cX6_sightOf 3 = .ok (.invokevirtual 284, 3) := dk_182 1 28 (dk_at dksX6_sightOf_0 3 rfl rfl)
theorem dX6_sightOf_6 : decode cX6_sightOf 6 = .ok (.istore_n 3, 1) := dk_62 (dk_at dksX6_sightOf_0 6 rfl rfl)
theorem dX6_sightOf_7 : decode cX6_sightOf 7 = .ok (.iconst 0, 1) := dk_3 (dk_at dksX6_sightOf_0 7 rfl rfl)
theorem dX6_sightOf_8 : decode cX6_sightOf 8 = .ok (.istore 4, 2) := dk_54 4 (dk_at dksX6_sightOf_0 8 rfl rfl)
theorem dX6_sightOf_10 : decode cX6_sightOf 10 = .ok (.iconst 0, 1) := dk_3 (dk_at dksX6_sightOf_0 10 rfl rfl)
theorem dX6_sightOf_11 : decode cX6_sightOf 11 = .ok (.istore 5, 2) := dk_54 5 (dk_at dksX6_sightOf_0 11 rfl rfl)
theorem dX6_sightOf_13 : decode cX6_sightOf 13 = .ok (.iload 5, 2) := dk_21 5 (dk_at dksX6_sightOf_0 13 rfl rfl)
theorem dX6_sightOf_15 : decode cX6_sightOf 15 = .ok (.bipush 10, 2) := dk_16 10 (dk_at dksX6_sightOf_0 15 rfl rfl)
theorem dX6_sightOf_17 : decode cX6_sightOf 17 = .ok (.if_icmp .ge 26, 3) := dk_162 0 26 (dk_at dksX6_sightOf_0 17 rfl rfl)
theorem dX6_sightOf_20 : decode cX6_sightOf 20 = .ok (.iload 4, 2) := dk_21 4 (dk_at dksX6_sightOf_0 20 rfl rfl)
theorem dX6_sightOf_22 : decode cX6_sightOf 22 = .ok (.iload_n 3, 1) := dk_29 (dk_at dksX6_sightOf_0 22 rfl rfl)
theorem dX6_sightOf_23 : decode cX6_sightOf 23 = .ok (.iload 5, 2) := dk_21 5 (dk_at dksX6_sightOf_1 0 rfl rfl)
theorem dX6_sightOf_25 : decode cX6_sightOf 25 = .ok (.ishr, 1) := dk_122 (dk_at dksX6_sightOf_1 2 rfl rfl)
theorem dX6_sightOf_26 : decode cX6_sightOf 26 = .ok (.iconst 1, 1) := dk_4 (dk_at dksX6_sightOf_1 3 rfl rfl)
theorem dX6_sightOf_27 : decode cX6_sightOf 27 = .ok (.iand, 1) := dk_126 (dk_at dksX6_sightOf_1 4 rfl rfl)
theorem dX6_sightOf_28 : decode cX6_sightOf 28 = .ok (.bipush 9, 2) := dk_16 9 (dk_at dksX6_sightOf_1 5 rfl rfl)
theorem dX6_sightOf_30 : decode cX6_sightOf 30 = .ok (.iload 5, 2) := dk_21 5 (dk_at dksX6_sightOf_1 7 rfl rfl)
theorem dX6_sightOf_32 : decode cX6_sightOf 32 = .ok (.isub, 1) := dk_100 (dk_at dksX6_sightOf_1 9 rfl rfl)
theorem dX6_sightOf_33 : decode cX6_sightOf 33 = .ok (.ishl, 1) := dk_120 (dk_at dksX6_sightOf_1 10 rfl rfl)
theorem dX6_sightOf_34 : decode cX6_sightOf 34 = .ok (.ior, 1) := dk_128 (dk_at dksX6_sightOf_1 11 rfl rfl)
theorem dX6_sightOf_35 : decode cX6_sightOf 35 = .ok (.istore 4, 2) := dk_54 4 (dk_at dksX6_sightOf_1 12 rfl rfl)
theorem dX6_sightOf_37 : decode cX6_sightOf 37 = .ok (.iinc 5 1, 3) := dk_132 5 1 (dk_at dksX6_sightOf_1 14 rfl rfl)
theorem dX6_sightOf_40 : decode cX6_sightOf 40 = .ok (.goto (-27), 3) := dk_167 255 229 (dk_at dksX6_sightOf_1 17 rfl rfl)
theorem dX6_sightOf_43 : decode cX6_sightOf 43 = .ok (.iload_n 3, 1) := dk_29 (dk_at dksX6_sightOf_1 20 rfl rfl)
theorem dX6_sightOf_44 : decode cX6_sightOf 44 = .ok (.aload_n 0, 1) := dk_42 (dk_at dksX6_sightOf_1 21 rfl rfl)
theorem dX6_sightOf_45 : decode cX6_sightOf 45 = .ok (.iload_n 2, 1) := dk_28 (dk_at dksX6_sightOf_1 22 rfl rfl)
theorem dX6_sightOf_46 : decode cX6_sightOf 46 = .ok (.iconst 0, 1) := dk_3 (dk_at dksX6_sightOf_1 23 rfl rfl)
theorem dX6_sightOf_47 : decode cX6_sightOf 47 = .ok (.invokevirtual 284, 3) := dk_182 1 28 (dk_at dksX6_sightOf_2 0 rfl rfl)
theorem dX6_sightOf_50 : decode cX6_sightOf 50 = .ok (.iconst 3, 1) := dk_6 (dk_at dksX6_sightOf_2 3 rfl rfl)
theorem dX6_sightOf_51 : decode cX6_sightOf 51 = .ok (.if_icmp .ne 8, 3) := dk_160 0 8 (dk_at dksX6_sightOf_2 4 rfl rfl)
theorem dX6_sightOf_54 : decode cX6_sightOf 54 = .ok (.iload 4, 2) := dk_21 4 (dk_at dksX6_sightOf_2 7 rfl rfl)
theorem dX6_sightOf_56 : decode cX6_sightOf 56 = .ok (.goto 4, 3) := dk_167 0 4 (dk_at dksX6_sightOf_2 9 rfl rfl)
theorem dX6_sightOf_59 : decode cX6_sightOf 59 = .ok (.iconst 0, 1) := dk_3 (dk_at dksX6_sightOf_2 12 rfl rfl)
theorem dX6_sightOf_60 : decode cX6_sightOf 60 = .ok (.ior, 1) := dk_128 (dk_at dksX6_sightOf_2 13 rfl rfl)
theorem dX6_sightOf_61 : decode cX6_sightOf 61 = .ok (.istore_n 3, 1) := dk_62 (dk_at dksX6_sightOf_2 14 rfl rfl)
theorem dX6_sightOf_62 : decode cX6_sightOf 62 = .ok (.aload_n 0, 1) := dk_42 (dk_at dksX6_sightOf_2 15 rfl rfl)
theorem dX6_sightOf_63 : decode cX6_sightOf 63 = .ok (.iload_n 1, 1) := dk_27 (dk_at dksX6_sightOf_2 16 rfl rfl)
theorem dX6_sightOf_64 : decode cX6_sightOf 64 = .ok (.iload_n 2, 1) := dk_28 (dk_at dksX6_sightOf_2 17 rfl rfl)
theorem dX6_sightOf_65 : decode cX6_sightOf 65 = .ok (.invokevirtual 287, 3) := dk_182 1 31 (dk_at dksX6_sightOf_2 18 rfl rfl)
theorem dX6_sightOf_68 : decode cX6_sightOf 68 = .ok (.ifCond .eq 47, 3) := dk_153 0 47 (dk_at dksX6_sightOf_2 21 rfl rfl)
theorem dX6_sightOf_71 : decode cX6_sightOf 71 = .ok (.aload_n 0, 1) := dk_42 (dk_at dksX6_sightOf_3 0 rfl rfl)
theorem dX6_sightOf_72 : decode cX6_sightOf 72 = .ok (.getfield 119, 3) := dk_180 0 119 (dk_at dksX6_sightOf_3 1 rfl rfl)
theorem dX6_sightOf_75 : decode cX6_sightOf 75 = .ok (.iload_n 1, 1) := dk_27 (dk_at dksX6_sightOf_3 4 rfl rfl)
theorem dX6_sightOf_76 : decode cX6_sightOf 76 = .ok (.bipush 6, 2) := dk_16 6 (dk_at dksX6_sightOf_3 5 rfl rfl)
theorem dX6_sightOf_78 : decode cX6_sightOf 78 = .ok (.iadd, 1) := dk_96 (dk_at dksX6_sightOf_3 7 rfl rfl)
theorem dX6_sightOf_79 : decode cX6_sightOf 79 = .ok (.iload_n 2, 1) := dk_28 (dk_at dksX6_sightOf_3 8 rfl rfl)
theorem dX6_sightOf_80 : decode cX6_sightOf 80 = .ok (.iadd, 1) := dk_96 (dk_at dksX6_sightOf_3 9 rfl rfl)
theorem dX6_sightOf_81 : decode cX6_sightOf 81 = .ok (.iaload, 1) := dk_46 (dk_at dksX6_sightOf_3 10 rfl rfl)
theorem dX6_sightOf_82 : decode cX6_sightOf 82 = .ok (.ifCond .ne 33, 3) := dk_154 0 33 (dk_at dksX6_sightOf_3 11 rfl rfl)
theorem dX6_sightOf_85 : decode cX6_sightOf 85 = .ok (.aload_n 0, 1) := dk_42 (dk_at dksX6_sightOf_3 14 rfl rfl)
theorem dX6_sightOf_86 : decode cX6_sightOf 86 = .ok (.iload_n 2, 1) := dk_28 (dk_at dksX6_sightOf_3 15 rfl rfl)
theorem dX6_sightOf_87 : decode cX6_sightOf 87 = .ok (.iconst 0, 1) := dk_3 (dk_at dksX6_sightOf_3 16 rfl rfl)
theorem dX6_sightOf_88 : decode cX6_sightOf 88 = .ok (.invokevirtual 284, 3) := dk_182 1 28 (dk_at dksX6_sightOf_3 17 rfl rfl)
theorem dX6_sightOf_91 : decode cX6_sightOf 91 = .ok (.iconst 2, 1) := dk_5 (dk_at dksX6_sightOf_3 20 rfl rfl)
theorem dX6_sightOf_92 : decode cX6_sightOf 92 = .ok (.if_icmp .ne 19, 3) := dk_160 0 19 (dk_at dksX6_sightOf_3 21 rfl rfl)
theorem dX6_sightOf_95 : decode cX6_sightOf 95 = .ok (.aload_n 0, 1) := dk_42 (dk_at dksX6_sightOf_4 0 rfl rfl)
theorem dX6_sightOf_96 : decode cX6_sightOf 96 = .ok (.aload_n 0, 1) := dk_42 (dk_at dksX6_sightOf_4 1 rfl rfl)
theorem dX6_sightOf_97 : decode cX6_sightOf 97 = .ok (.getfield 119, 3) := dk_180 0 119 (dk_at dksX6_sightOf_4 2 rfl rfl)
theorem dX6_sightOf_100 : decode cX6_sightOf 100 = .ok (.iload_n 1, 1) := dk_27 (dk_at dksX6_sightOf_4 5 rfl rfl)
theorem dX6_sightOf_101 : decode cX6_sightOf 101 = .ok (.iconst 0, 1) := dk_3 (dk_at dksX6_sightOf_4 6 rfl rfl)
theorem dX6_sightOf_102 : decode cX6_sightOf 102 = .ok (.iadd, 1) := dk_96 (dk_at dksX6_sightOf_4 7 rfl rfl)
theorem dX6_sightOf_103 : decode cX6_sightOf 103 = .ok (.iaload, 1) := dk_46 (dk_at dksX6_sightOf_4 8 rfl rfl)
theorem dX6_sightOf_104 : decode cX6_sightOf 104 = .ok (.invokevirtual 291, 3) := dk_182 1 35 (dk_at dksX6_sightOf_4 9 rfl rfl)
theorem dX6_sightOf_107 : decode cX6_sightOf 107 = .ok (.iconst 1, 1) := dk_4 (dk_at dksX6_sightOf_4 12 rfl rfl)
theorem dX6_sightOf_108 : decode cX6_sightOf 108 = .ok (.if_icmp .ne 7, 3) := dk_160 0 7 (dk_at dksX6_sightOf_4 13 rfl rfl)
theorem dX6_sightOf_111 : decode cX6_sightOf 111 = .ok (.iconst 1, 1) := dk_4 (dk_at dksX6_sightOf_4 16 rfl rfl)
theorem dX6_sightOf_112 : decode cX6_sightOf 112 = .ok (.goto 4, 3) := dk_167 0 4 (dk_at dksX6_sightOf_4 17 rfl rfl)
theorem dX6_sightOf_115 : decode cX6_sightOf 115 = .ok (.iconst 0, 1) := dk_3 (dk_at dksX6_sightOf_4 20 rfl rfl)
theorem dX6_sightOf_116 : decode cX6_sightOf 116 = .ok (.istore 5, 2) := dk_54 5 (dk_at dksX6_sightOf_4 21 rfl rfl)
theorem dX6_sightOf_118 : decode cX6_sightOf 118 = .ok (.iload 5, 2) := dk_21 5 (dk_at dksX6_sightOf_5 0 rfl rfl)
theorem dX6_sightOf_120 : decode cX6_sightOf 120 = .ok (.ifCond .eq 7, 3) := dk_153 0 7 (dk_at dksX6_sightOf_5 2 rfl rfl)
theorem dX6_sightOf_123 : decode cX6_sightOf 123 = .ok (.iload_n 3, 1) := dk_29 (dk_at dksX6_sightOf_5 5 rfl rfl)
theorem dX6_sightOf_124 : decode cX6_sightOf 124 = .ok (.goto 4, 3) := dk_167 0 4 (dk_at dksX6_sightOf_5 6 rfl rfl)
theorem dX6_sightOf_127 : decode cX6_sightOf 127 = .ok (.iconst 0, 1) := dk_3 (dk_at dksX6_sightOf_5 9 rfl rfl)
theorem dX6_sightOf_128 : decode cX6_sightOf 128 = .ok (.ireturn, 1) := dk_172 (dk_at dksX6_sightOf_5 10 rfl rfl)
abbrev cX6_isWhole : ByteArray := prog_24_method_53_code
def yX6_isWhole : MethodName := ⟨RX6, "isWhole", "(II)Z"⟩
def dkwX6_isWhole_0 : List UInt8 := [42, 180, 0, 119, 27, 16, 12, 96, 28, 96, 46, 154, 0, 7, 4, 167, 0, 4, 3, 172]
abbrev dktX6_isWhole_0 : List UInt8 := dkwX6_isWhole_0 ++ []
theorem dksX6_isWhole_0 : cX6_isWhole.data.toList.drop 0 = dktX6_isWhole_0 := by decide +kernel
theorem dX6_isWhole_0 : decode cX6_isWhole 0 = .ok (.aload_n 0, 1) := dk_42 (dk_at dksX6_isWhole_0 0 rfl rfl)
theorem dX6_isWhole_1 : decode cX6_isWhole 1 = .ok (.getfield 119, 3) := dk_180 0 119 (dk_at dksX6_isWhole_0 1 rfl rfl)
theorem dX6_isWhole_4 : decode cX6_isWhole 4 = .ok (.iload_n 1, 1) := dk_27 (dk_at dksX6_isWhole_0 4 rfl rfl)
theorem dX6_isWhole_5 : decode cX6_isWhole 5 = .ok (.bipush 12, 2) := dk_16 12 (dk_at dksX6_isWhole_0 5 rfl rfl)
theorem dX6_isWhole_7 : decode cX6_isWhole 7 = .ok (.iadd, 1) := dk_96 (dk_at dksX6_isWhole_0 7 rfl rfl)
theorem dX6_isWhole_8 : decode cX6_isWhole 8 = .ok (.iload_n 2, 1) := dk_28 (dk_at dksX6_isWhole_0 8 rfl rfl)
theorem dX6_isWhole_9 : decode cX6_isWhole 9 = .ok (.iadd, 1) := dk_96 (dk_at dksX6_isWhole_0 9 rfl rfl)
theorem dX6_isWhole_10 : decode cX6_isWhole 10 = .ok (.iaload, 1) := dk_46 (dk_at dksX6_isWhole_0 10 rfl rfl)
theorem dX6_isWhole_11 : decode cX6_isWhole 11 = .ok (.ifCond .ne 7, 3) := dk_154 0 7 (dk_at dksX6_isWhole_0 11 rfl rfl)
theorem dX6_isWhole_14 : decode cX6_isWhole 14 = .ok (.iconst 1, 1) := dk_4 (dk_at dksX6_isWhole_0 14 rfl rfl)
theorem dX6_isWhole_15 : decode cX6_isWhole 15 = .ok (.goto 4, 3) := dk_167 0 4 (dk_at dksX6_isWhole_0 15 rfl rfl)
theorem dX6_isWhole_18 : decode cX6_isWhole 18 = .ok (.iconst 0, 1) := dk_3 (dk_at dksX6_isWhole_0 18 rfl rfl)
theorem dX6_isWhole_19 : decode cX6_isWhole 19 = .ok (.ireturn, 1) := dk_172 (dk_at dksX6_isWhole_0 19 rfl rfl)
abbrev cX6_lightOf : ByteArray := prog_24_method_52_code
def yX6_lightOf : MethodName := ⟨RX6, "lightOf", "(I)I"⟩
def dkwX6_lightOf_0 : List UInt8 := [42, 180, 0, 89, 16, 33, 27, 42, 180, 0, 89, 6, 46, 112, 96, 46, 172]
abbrev dktX6_lightOf_0 : List UInt8 := dkwX6_lightOf_0 ++ []
theorem dksX6_lightOf_0 : cX6_lightOf.data.toList.drop 0 = dktX6_lightOf_0 := by decide +kernel
theorem dX6_lightOf_0 : decode cX6_lightOf 0 = .ok (.aload_n 0, 1) := dk_42 (dk_at dksX6_lightOf_0 0 rfl rfl)
theorem dX6_lightOf_1 : decode cX6_lightOf 1 = .ok (.getfield 89, 3) := dk_180 0 89 (dk_at dksX6_lightOf_0 1 rfl rfl)
theorem dX6_lightOf_4 : decode cX6_lightOf 4 = .ok (.bipush 33, 2) := dk_16 33 (dk_at dksX6_lightOf_0 4 rfl rfl)
theorem dX6_lightOf_6 : decode cX6_lightOf 6 = .ok (.iload_n 1, 1) := dk_27 (dk_at dksX6_lightOf_0 6 rfl rfl)
theorem dX6_lightOf_7 : decode cX6_lightOf 7 = .ok (.aload_n 0, 1) := dk_42 (dk_at dksX6_lightOf_0 7 rfl rfl)
theorem dX6_lightOf_8 : decode cX6_lightOf 8 = .ok (.getfield 89, 3) := dk_180 0 89 (dk_at dksX6_lightOf_0 8 rfl rfl)
theorem dX6_lightOf_11 : decode cX6_lightOf 11 = .ok (.iconst 3, 1) := dk_6 (dk_at dksX6_lightOf_0 11 rfl rfl)
theorem dX6_lightOf_12 : decode cX6_lightOf 12 = .ok (.iaload, 1) := dk_46 (dk_at dksX6_lightOf_0 12 rfl rfl)
theorem dX6_lightOf_13 : decode cX6_lightOf 13 = .ok (.irem, 1) := dk_112 (dk_at dksX6_lightOf_0 13 rfl rfl)
theorem dX6_lightOf_14 : decode cX6_lightOf 14 = .ok (.iadd, 1) := dk_96 (dk_at dksX6_lightOf_0 14 rfl rfl)
theorem dX6_lightOf_15 : decode cX6_lightOf 15 = .ok (.iaload, 1) := dk_46 (dk_at dksX6_lightOf_0 15 rfl rfl)
theorem dX6_lightOf_16 : decode cX6_lightOf 16 = .ok (.ireturn, 1) := dk_172 (dk_at dksX6_lightOf_0 16 rfl rfl)
abbrev cX6_shown : ByteArray := prog_24_method_72_code
def yX6_shown : MethodName := ⟨RX6, "shown", "(III)I"⟩
def dkwX6_shown_4 : List UInt8 := [21, 4, 184, 1, 84, 167, 0, 8, 21, 4, 184, 1, 53, 172]
abbrev dktX6_shown_4 : List UInt8 := dkwX6_shown_4 ++ []
def dkwX6_shown_3 : List UInt8 := [182, 1, 71, 167, 0, 34, 29, 4, 160, 0, 11, 21, 4, 184, 1, 56, 167, 0, 21, 29, 5, 160, 0, 11]
abbrev dktX6_shown_3 : List UInt8 := dkwX6_shown_3 ++ dktX6_shown_4
def dkwX6_shown_2 : List UInt8 := [154, 0, 6, 16, 254, 172, 42, 3, 27, 28, 182, 1, 44, 54, 4, 29, 154, 0, 14, 42, 3, 27, 21, 4]
abbrev dktX6_shown_2 : List UInt8 := dkwX6_shown_2 ++ dktX6_shown_3
def dkwX6_shown_1 : List UInt8 := [42, 180, 0, 119, 16, 18, 27, 96, 46, 4, 100, 184, 0, 198, 153, 0, 12, 29, 3, 6, 184, 0, 198]
abbrev dktX6_shown_1 : List UInt8 := dkwX6_shown_1 ++ dktX6_shown_2
def dkwX6_shown_0 : List UInt8 := [42, 3, 181, 0, 1, 42, 27, 182, 1, 81, 153, 0, 40, 42, 3, 27, 182, 1, 68, 153, 0, 31, 28, 3]
abbrev dktX6_shown_0 : List UInt8 := dkwX6_shown_0 ++ dktX6_shown_1
theorem dksX6_shown_0 : cX6_shown.data.toList.drop 0 = dktX6_shown_0 := by decide +kernel
theorem dksX6_shown_1 : cX6_shown.data.toList.drop 24 = dktX6_shown_1 := dk_seg dksX6_shown_0 24 rfl rfl
theorem dksX6_shown_2 : cX6_shown.data.toList.drop 47 = dktX6_shown_2 := dk_seg dksX6_shown_1 23 rfl rfl
theorem dksX6_shown_3 : cX6_shown.data.toList.drop 71 = dktX6_shown_3 := dk_seg dksX6_shown_2 24 rfl rfl
theorem dksX6_shown_4 : cX6_shown.data.toList.drop 95 = dktX6_shown_4 := dk_seg dksX6_shown_3 24 rfl rfl
theorem dX6_shown_0 : decode cX6_shown 0 = .ok (.aload_n 0, 1) := dk_42 (dk_at dksX6_shown_0 0 rfl rfl)
theorem dX6_shown_1 : decode cX6_shown 1 = .ok (.iconst 0, 1) := dk_3 (dk_at dksX6_shown_0 1 rfl rfl)
theorem dX6_shown_2 : decode cX6_shown 2 = .ok (.putfield 1, 3) := dk_181 0 1 (dk_at dksX6_shown_0 2 rfl rfl)
theorem dX6_shown_5 : decode cX6_shown 5 = .ok (.aload_n 0, 1) := dk_42 (dk_at dksX6_shown_0 5 rfl rfl)
theorem dX6_shown_6 : decode cX6_shown 6 = .ok (.iload_n 1, 1) := dk_27 (dk_at dksX6_shown_0 6 rfl rfl)
theorem dX6_shown_7 : decode cX6_shown 7 = .ok (.invokevirtual 337, 3) := dk_182 1 81 (dk_at dksX6_shown_0 7 rfl rfl)
theorem dX6_shown_10 : decode cX6_shown 10 = .ok (.ifCond .eq 40, 3) := dk_153 0 40 (dk_at dksX6_shown_0 10 rfl rfl)
theorem dX6_shown_13 : decode cX6_shown 13 = .ok (.aload_n 0, 1) := dk_42 (dk_at dksX6_shown_0 13 rfl rfl)
theorem dX6_shown_14 : decode cX6_shown 14 = .ok (.iconst 0, 1) := dk_3 (dk_at dksX6_shown_0 14 rfl rfl)
theorem dX6_shown_15 : decode cX6_shown 15 = .ok (.iload_n 1, 1) := dk_27 (dk_at dksX6_shown_0 15 rfl rfl)
theorem dX6_shown_16 : decode cX6_shown 16 = .ok (.invokevirtual 324, 3) := dk_182 1 68 (dk_at dksX6_shown_0 16 rfl rfl)
theorem dX6_shown_19 : decode cX6_shown 19 = .ok (.ifCond .eq 31, 3) := dk_153 0 31 (dk_at dksX6_shown_0 19 rfl rfl)
theorem dX6_shown_22 : decode cX6_shown 22 = .ok (.iload_n 2, 1) := dk_28 (dk_at dksX6_shown_0 22 rfl rfl)
theorem dX6_shown_23 : decode cX6_shown 23 = .ok (.iconst 0, 1) := dk_3 (dk_at dksX6_shown_0 23 rfl rfl)
theorem dX6_shown_24 : decode cX6_shown 24 = .ok (.aload_n 0, 1) := dk_42 (dk_at dksX6_shown_1 0 rfl rfl)
theorem dX6_shown_25 : decode cX6_shown 25 = .ok (.getfield 119, 3) := dk_180 0 119 (dk_at dksX6_shown_1 1 rfl rfl)
theorem dX6_shown_28 : decode cX6_shown 28 = .ok (.bipush 18, 2) := dk_16 18 (dk_at dksX6_shown_1 4 rfl rfl)
theorem dX6_shown_30 : decode cX6_shown 30 = .ok (.iload_n 1, 1) := dk_27 (dk_at dksX6_shown_1 6 rfl rfl)
theorem dX6_shown_31 : decode cX6_shown 31 = .ok (.iadd, 1) := dk_96 (dk_at dksX6_shown_1 7 rfl rfl)
theorem dX6_shown_32 : decode cX6_shown 32 = .ok (.iaload, 1) := dk_46 (dk_at dksX6_shown_1 8 rfl rfl)
theorem dX6_shown_33 : decode cX6_shown 33 = .ok (.iconst 1, 1) := dk_4 (dk_at dksX6_shown_1 9 rfl rfl)
theorem dX6_shown_34 : decode cX6_shown 34 = .ok (.isub, 1) := dk_100 (dk_at dksX6_shown_1 10 rfl rfl)
theorem dX6_shown_35 : decode cX6_shown 35 = .ok (.invokestatic 198, 3) := dk_184 0 198 (dk_at dksX6_shown_1 11 rfl rfl)
theorem dX6_shown_38 : decode cX6_shown 38 = .ok (.ifCond .eq 12, 3) := dk_153 0 12 (dk_at dksX6_shown_1 14 rfl rfl)
theorem dX6_shown_41 : decode cX6_shown 41 = .ok (.iload_n 3, 1) := dk_29 (dk_at dksX6_shown_1 17 rfl rfl)
theorem dX6_shown_42 : decode cX6_shown 42 = .ok (.iconst 0, 1) := dk_3 (dk_at dksX6_shown_1 18 rfl rfl)
theorem dX6_shown_43 : decode cX6_shown 43 = .ok (.iconst 3, 1) := dk_6 (dk_at dksX6_shown_1 19 rfl rfl)
theorem dX6_shown_44 : decode cX6_shown 44 = .ok (.invokestatic 198, 3) := dk_184 0 198 (dk_at dksX6_shown_1 20 rfl rfl)
theorem dX6_shown_47 : decode cX6_shown 47 = .ok (.ifCond .ne 6, 3) := dk_154 0 6 (dk_at dksX6_shown_2 0 rfl rfl)
theorem dX6_shown_50 : decode cX6_shown 50 = .ok (.bipush (-2), 2) := dk_16 254 (dk_at dksX6_shown_2 3 rfl rfl)
theorem dX6_shown_52 : decode cX6_shown 52 = .ok (.ireturn, 1) := dk_172 (dk_at dksX6_shown_2 5 rfl rfl)
theorem dX6_shown_53 : decode cX6_shown 53 = .ok (.aload_n 0, 1) := dk_42 (dk_at dksX6_shown_2 6 rfl rfl)
theorem dX6_shown_54 : decode cX6_shown 54 = .ok (.iconst 0, 1) := dk_3 (dk_at dksX6_shown_2 7 rfl rfl)
theorem dX6_shown_55 : decode cX6_shown 55 = .ok (.iload_n 1, 1) := dk_27 (dk_at dksX6_shown_2 8 rfl rfl)
theorem dX6_shown_56 : decode cX6_shown 56 = .ok (.iload_n 2, 1) := dk_28 (dk_at dksX6_shown_2 9 rfl rfl)
theorem dX6_shown_57 : decode cX6_shown 57 = .ok (.invokevirtual 300, 3) := dk_182 1 44 (dk_at dksX6_shown_2 10 rfl rfl)
theorem dX6_shown_60 : decode cX6_shown 60 = .ok (.istore 4, 2) := dk_54 4 (dk_at dksX6_shown_2 13 rfl rfl)
theorem dX6_shown_62 : decode cX6_shown 62 = .ok (.iload_n 3, 1) := dk_29 (dk_at dksX6_shown_2 15 rfl rfl)
theorem dX6_shown_63 : decode cX6_shown 63 = .ok (.ifCond .ne 14, 3) := dk_154 0 14 (dk_at dksX6_shown_2 16 rfl rfl)
theorem dX6_shown_66 : decode cX6_shown 66 = .ok (.aload_n 0, 1) := dk_42 (dk_at dksX6_shown_2 19 rfl rfl)
theorem dX6_shown_67 : decode cX6_shown 67 = .ok (.iconst 0, 1) := dk_3 (dk_at dksX6_shown_2 20 rfl rfl)
theorem dX6_shown_68 : decode cX6_shown 68 = .ok (.iload_n 1, 1) := dk_27 (dk_at dksX6_shown_2 21 rfl rfl)
theorem dX6_shown_69 : decode cX6_shown 69 = .ok (.iload 4, 2) := dk_21 4 (dk_at dksX6_shown_2 22 rfl rfl)
theorem dX6_shown_71 : decode cX6_shown 71 = .ok (.invokevirtual 327, 3) := dk_182 1 71 (dk_at dksX6_shown_3 0 rfl rfl)
theorem dX6_shown_74 : decode cX6_shown 74 = .ok (.goto 34, 3) := dk_167 0 34 (dk_at dksX6_shown_3 3 rfl rfl)
theorem dX6_shown_77 : decode cX6_shown 77 = .ok (.iload_n 3, 1) := dk_29 (dk_at dksX6_shown_3 6 rfl rfl)
theorem dX6_shown_78 : decode cX6_shown 78 = .ok (.iconst 1, 1) := dk_4 (dk_at dksX6_shown_3 7 rfl rfl)
theorem dX6_shown_79 : decode cX6_shown 79 = .ok (.if_icmp .ne 11, 3) := dk_160 0 11 (dk_at dksX6_shown_3 8 rfl rfl)
theorem dX6_shown_82 : decode cX6_shown 82 = .ok (.iload 4, 2) := dk_21 4 (dk_at dksX6_shown_3 11 rfl rfl)
theorem dX6_shown_84 : decode cX6_shown 84 = .ok (.invokestatic 312, 3) := dk_184 1 56 (dk_at dksX6_shown_3 13 rfl rfl)
theorem dX6_shown_87 : decode cX6_shown 87 = .ok (.goto 21, 3) := dk_167 0 21 (dk_at dksX6_shown_3 16 rfl rfl)
theorem dX6_shown_90 : decode cX6_shown 90 = .ok (.iload_n 3, 1) := dk_29 (dk_at dksX6_shown_3 19 rfl rfl)
theorem dX6_shown_91 : decode cX6_shown 91 = .ok (.iconst 2, 1) := dk_5 (dk_at dksX6_shown_3 20 rfl rfl)
theorem dX6_shown_92 : decode cX6_shown 92 = .ok (.if_icmp .ne 11, 3) := dk_160 0 11 (dk_at dksX6_shown_3 21 rfl rfl)
theorem dX6_shown_95 : decode cX6_shown 95 = .ok (.iload 4, 2) := dk_21 4 (dk_at dksX6_shown_4 0 rfl rfl)
theorem dX6_shown_97 : decode cX6_shown 97 = .ok (.invokestatic 340, 3) := dk_184 1 84 (dk_at dksX6_shown_4 2 rfl rfl)
theorem dX6_shown_100 : decode cX6_shown 100 = .ok (.goto 8, 3) := dk_167 0 8 (dk_at dksX6_shown_4 5 rfl rfl)
theorem dX6_shown_103 : decode cX6_shown 103 = .ok (.iload 4, 2) := dk_21 4 (dk_at dksX6_shown_4 8 rfl rfl)
theorem dX6_shown_105 : decode cX6_shown 105 = .ok (.invokestatic 309, 3) := dk_184 1 53 (dk_at dksX6_shown_4 10 rfl rfl)
theorem dX6_shown_108 : decode cX6_shown 108 = .ok (.ireturn, 1) := dk_172 (dk_at dksX6_shown_4 13 rfl rfl)
abbrev cX6_isShown : ByteArray := prog_24_method_66_code
def yX6_isShown : MethodName := ⟨RX6, "isShown", "(II)Z"⟩
def dkwX6_isShown_1 : List UInt8 := [167, 0, 4, 3, 172]
abbrev dktX6_isShown_1 : List UInt8 := dkwX6_isShown_1 ++ []
def dkwX6_isShown_0 : List UInt8 := [42, 27, 28, 182, 1, 31, 153, 0, 17, 42, 180, 0, 119, 27, 16, 6, 96, 28, 96, 46, 154, 0, 7, 4]
abbrev dktX6_isShown_0 : List UInt8 := dkwX6_isShown_0 ++ dktX6_isShown_1
theorem dksX6_isShown_0 : cX6_isShown.data.toList.drop 0 = dktX6_isShown_0 := by decide +kernel
theorem dksX6_isShown_1 : cX6_isShown.data.toList.drop 24 = dktX6_isShown_1 := dk_seg dksX6_isShown_0 24 rfl rfl
theorem dX6_isShown_0 : decode cX6_isShown 0 = .ok (.aload_n 0, 1) := dk_42 (dk_at dksX6_isShown_0 0 rfl rfl)
theorem dX6_isShown_1 : decode cX6_isShown 1 = .ok (.iload_n 1, 1) := dk_27 (dk_at dksX6_isShown_0 1 rfl rfl)
theorem dX6_isShown_2 : decode cX6_isShown 2 = .ok (.iload_n 2, 1) := dk_28 (dk_at dksX6_isShown_0 2 rfl rfl)
theorem dX6_isShown_3 : decode cX6_isShown 3 = .ok (.invokevirtual 287, 3) := dk_182 1 31 (dk_at dksX6_isShown_0 3 rfl rfl)
theorem dX6_isShown_6 : decode cX6_isShown 6 = .ok (.ifCond .eq 17, 3) := dk_153 0 17 (dk_at dksX6_isShown_0 6 rfl rfl)
theorem dX6_isShown_9 : decode cX6_isShown 9 = .ok (.aload_n 0, 1) := dk_42 (dk_at dksX6_isShown_0 9 rfl rfl)
theorem dX6_isShown_10 : decode cX6_isShown 10 = .ok (.getfield 119, 3) := dk_180 0 119 (dk_at dksX6_isShown_0 10 rfl rfl)
theorem dX6_isShown_13 : decode cX6_isShown 13 = .ok (.iload_n 1, 1) := dk_27 (dk_at dksX6_isShown_0 13 rfl rfl)
theorem dX6_isShown_14 : decode cX6_isShown 14 = .ok (.bipush 6, 2) := dk_16 6 (dk_at dksX6_isShown_0 14 rfl rfl)
theorem dX6_isShown_16 : decode cX6_isShown 16 = .ok (.iadd, 1) := dk_96 (dk_at dksX6_isShown_0 16 rfl rfl)
theorem dX6_isShown_17 : decode cX6_isShown 17 = .ok (.iload_n 2, 1) := dk_28 (dk_at dksX6_isShown_0 17 rfl rfl)
theorem dX6_isShown_18 : decode cX6_isShown 18 = .ok (.iadd, 1) := dk_96 (dk_at dksX6_isShown_0 18 rfl rfl)
theorem dX6_isShown_19 : decode cX6_isShown 19 = .ok (.iaload, 1) := dk_46 (dk_at dksX6_isShown_0 19 rfl rfl)
theorem dX6_isShown_20 : decode cX6_isShown 20 = .ok (.ifCond .ne 7, 3) := dk_154 0 7 (dk_at dksX6_isShown_0 20 rfl rfl)
theorem dX6_isShown_23 : decode cX6_isShown 23 = .ok (.iconst 1, 1) := dk_4 (dk_at dksX6_isShown_0 23 rfl rfl)
theorem dX6_isShown_24 : decode cX6_isShown 24 = .ok (.goto 4, 3) := dk_167 0 4 (dk_at dksX6_isShown_1 0 rfl rfl)
theorem dX6_isShown_27 : decode cX6_isShown 27 = .ok (.iconst 0, 1) := dk_3 (dk_at dksX6_isShown_1 3 rfl rfl)
theorem dX6_isShown_28 : decode cX6_isShown 28 = .ok (.ireturn, 1) := dk_172 (dk_at dksX6_isShown_1 4 rfl rfl)
abbrev cX6_markOf : ByteArray := prog_24_method_57_code
def yX6_markOf : MethodName := ⟨RX6, "markOf", "(III)I"⟩
def dkwX6_markOf_0 : List UInt8 := [42, 180, 0, 119, 27, 16, 24, 96, 16, 6, 28, 104, 96, 29, 96, 46, 172]
abbrev dktX6_markOf_0 : List UInt8 := dkwX6_markOf_0 ++ []
theorem dksX6_markOf_0 : cX6_markOf.data.toList.drop 0 = dktX6_markOf_0 := by decide +kernel
theorem dX6_markOf_0 : decode cX6_markOf 0 = .ok (.aload_n 0, 1) := dk_42 (dk_at dksX6_markOf_0 0 rfl rfl)
theorem dX6_markOf_1 : decode cX6_markOf 1 = .ok (.getfield 119, 3) := dk_180 0 119 (dk_at dksX6_markOf_0 1 rfl rfl)
theorem dX6_markOf_4 : decode cX6_markOf 4 = .ok (.iload_n 1, 1) := dk_27 (dk_at dksX6_markOf_0 4 rfl rfl)
theorem dX6_markOf_5 : decode cX6_markOf 5 = .ok (.bipush 24, 2) := dk_16 24 (dk_at dksX6_markOf_0 5 rfl rfl)
theorem dX6_markOf_7 : decode cX6_markOf 7 = .ok (.iadd, 1) := dk_96 (dk_at dksX6_markOf_0 7 rfl rfl)
theorem dX6_markOf_8 : decode cX6_markOf 8 = .ok (.bipush 6, 2) := dk_16 6 (dk_at dksX6_markOf_0 8 rfl rfl)
theorem dX6_markOf_10 : decode cX6_markOf 10 = .ok (.iload_n 2, 1) := dk_28 (dk_at dksX6_markOf_0 10 rfl rfl)
theorem dX6_markOf_11 : decode cX6_markOf 11 = .ok (.imul, 1) := dk_104 (dk_at dksX6_markOf_0 11 rfl rfl)
theorem dX6_markOf_12 : decode cX6_markOf 12 = .ok (.iadd, 1) := dk_96 (dk_at dksX6_markOf_0 12 rfl rfl)
theorem dX6_markOf_13 : decode cX6_markOf 13 = .ok (.iload_n 3, 1) := dk_29 (dk_at dksX6_markOf_0 13 rfl rfl)
theorem dX6_markOf_14 : decode cX6_markOf 14 = .ok (.iadd, 1) := dk_96 (dk_at dksX6_markOf_0 14 rfl rfl)
theorem dX6_markOf_15 : decode cX6_markOf 15 = .ok (.iaload, 1) := dk_46 (dk_at dksX6_markOf_0 15 rfl rfl)
theorem dX6_markOf_16 : decode cX6_markOf 16 = .ok (.ireturn, 1) := dk_172 (dk_at dksX6_markOf_0 16 rfl rfl)
abbrev cX6_shownOf : ByteArray := prog_24_method_67_code
def yX6_shownOf : MethodName := ⟨RX6, "shownOf", "(III)I"⟩
def dkwX6_shownOf_1 : List UInt8 := [184, 1, 65, 172]
abbrev dktX6_shownOf_1 : List UInt8 := dkwX6_shownOf_1 ++ []
def dkwX6_shownOf_0 : List UInt8 := [42, 27, 28, 182, 1, 31, 153, 0, 17, 42, 28, 3, 182, 1, 28, 4, 160, 0, 7, 2, 167, 0, 7, 29]
abbrev dktX6_shownOf_0 : List UInt8 := dkwX6_shownOf_0 ++ dktX6_shownOf_1
theorem dksX6_shownOf_0 : cX6_shownOf.data.toList.drop 0 = dktX6_shownOf_0 := by decide +kernel
theorem dksX6_shownOf_1 : cX6_shownOf.data.toList.drop 24 = dktX6_shownOf_1 := dk_seg dksX6_shownOf_0 24 rfl rfl
theorem dX6_shownOf_0 : decode cX6_shownOf 0 = .ok (.aload_n 0, 1) := dk_42 (dk_at dksX6_shownOf_0 0 rfl rfl)
theorem dX6_shownOf_1 : decode cX6_shownOf 1 = .ok (.iload_n 1, 1) := dk_27 (dk_at dksX6_shownOf_0 1 rfl rfl)
theorem dX6_shownOf_2 : decode cX6_shownOf 2 = .ok (.iload_n 2, 1) := dk_28 (dk_at dksX6_shownOf_0 2 rfl rfl)
theorem dX6_shownOf_3 : decode cX6_shownOf 3 = .ok (.invokevirtual 287, 3) := dk_182 1 31 (dk_at dksX6_shownOf_0 3 rfl rfl)
theorem dX6_shownOf_6 : decode cX6_shownOf 6 = .ok (.ifCond .eq 17, 3) := dk_153 0 17 (dk_at dksX6_shownOf_0 6 rfl rfl)
theorem dX6_shownOf_9 : decode cX6_shownOf 9 = .ok (.aload_n 0, 1) := dk_42 (dk_at dksX6_shownOf_0 9 rfl rfl)
theorem dX6_shownOf_10 : decode cX6_shownOf 10 = .ok (.iload_n 2, 1) := dk_28 (dk_at dksX6_shownOf_0 10 rfl rfl)
theorem dX6_shownOf_11 : decode cX6_shownOf 11 = .ok (.iconst 0, 1) := dk_3 (dk_at dksX6_shownOf_0 11 rfl rfl)
theorem dX6_shownOf_12 : decode cX6_shownOf 12 = .ok (.invokevirtual 284, 3) := dk_182 1 28 (dk_at dksX6_shownOf_0 12 rfl rfl)
theorem dX6_shownOf_15 : decode cX6_shownOf 15 = .ok (.iconst 1, 1) := dk_4 (dk_at dksX6_shownOf_0 15 rfl rfl)
theorem dX6_shownOf_16 : decode cX6_shownOf 16 = .ok (.if_icmp .ne 7, 3) := dk_160 0 7 (dk_at dksX6_shownOf_0 16 rfl rfl)
theorem dX6_shownOf_19 : decode cX6_shownOf 19 = .ok (.iconst (-1), 1) := dk_2 (dk_at dksX6_shownOf_0 19 rfl rfl)
theorem dX6_shownOf_20 : decode cX6_shownOf 20 = .ok (.goto 7, 3) := dk_167 0 7 (dk_at dksX6_shownOf_0 20 rfl rfl)
theorem dX6_shownOf_23 : decode cX6_shownOf 23 = .ok (.iload_n 3, 1) := dk_29 (dk_at dksX6_shownOf_0 23 rfl rfl)
theorem dX6_shownOf_24 : decode cX6_shownOf 24 = .ok (.invokestatic 321, 3) := dk_184 1 65 (dk_at dksX6_shownOf_1 0 rfl rfl)
theorem dX6_shownOf_27 : decode cX6_shownOf 27 = .ok (.ireturn, 1) := dk_172 (dk_at dksX6_shownOf_1 3 rfl rfl)
abbrev cX6_whoOf : ByteArray := prog_24_method_58_code
def yX6_whoOf : MethodName := ⟨RX6, "whoOf", "(I)I"⟩
def dkwX6_whoOf_0 : List UInt8 := [26, 16, 7, 126, 172]
abbrev dktX6_whoOf_0 : List UInt8 := dkwX6_whoOf_0 ++ []
theorem dksX6_whoOf_0 : cX6_whoOf.data.toList.drop 0 = dktX6_whoOf_0 := by decide +kernel
theorem dX6_whoOf_0 : decode cX6_whoOf 0 = .ok (.iload_n 0, 1) := dk_26 (dk_at dksX6_whoOf_0 0 rfl rfl)
theorem dX6_whoOf_1 : decode cX6_whoOf 1 = .ok (.bipush 7, 2) := dk_16 7 (dk_at dksX6_whoOf_0 1 rfl rfl)
theorem dX6_whoOf_3 : decode cX6_whoOf 3 = .ok (.iand, 1) := dk_126 (dk_at dksX6_whoOf_0 3 rfl rfl)
theorem dX6_whoOf_4 : decode cX6_whoOf 4 = .ok (.ireturn, 1) := dk_172 (dk_at dksX6_whoOf_0 4 rfl rfl)
abbrev cX6_deedOf : ByteArray := prog_24_method_59_code
def yX6_deedOf : MethodName := ⟨RX6, "deedOf", "(I)I"⟩
def dkwX6_deedOf_0 : List UInt8 := [26, 6, 122, 16, 7, 126, 172]
abbrev dktX6_deedOf_0 : List UInt8 := dkwX6_deedOf_0 ++ []
theorem dksX6_deedOf_0 : cX6_deedOf.data.toList.drop 0 = dktX6_deedOf_0 := by decide +kernel
theorem dX6_deedOf_0 : decode cX6_deedOf 0 = .ok (.iload_n 0, 1) := dk_26 (dk_at dksX6_deedOf_0 0 rfl rfl)
theorem dX6_deedOf_1 : decode cX6_deedOf 1 = .ok (.iconst 3, 1) := dk_6 (dk_at dksX6_deedOf_0 1 rfl rfl)
theorem dX6_deedOf_2 : decode cX6_deedOf 2 = .ok (.ishr, 1) := dk_122 (dk_at dksX6_deedOf_0 2 rfl rfl)
theorem dX6_deedOf_3 : decode cX6_deedOf 3 = .ok (.bipush 7, 2) := dk_16 7 (dk_at dksX6_deedOf_0 3 rfl rfl)
theorem dX6_deedOf_5 : decode cX6_deedOf 5 = .ok (.iand, 1) := dk_126 (dk_at dksX6_deedOf_0 5 rfl rfl)
theorem dX6_deedOf_6 : decode cX6_deedOf 6 = .ok (.ireturn, 1) := dk_172 (dk_at dksX6_deedOf_0 6 rfl rfl)
abbrev cX6_cellOf : ByteArray := prog_24_method_60_code
def yX6_cellOf : MethodName := ⟨RX6, "cellOf", "(I)I"⟩
def dkwX6_cellOf_0 : List UInt8 := [26, 16, 6, 122, 16, 15, 126, 172]
abbrev dktX6_cellOf_0 : List UInt8 := dkwX6_cellOf_0 ++ []
theorem dksX6_cellOf_0 : cX6_cellOf.data.toList.drop 0 = dktX6_cellOf_0 := by decide +kernel
theorem dX6_cellOf_0 : decode cX6_cellOf 0 = .ok (.iload_n 0, 1) := dk_26 (dk_at dksX6_cellOf_0 0 rfl rfl)
theorem dX6_cellOf_1 : decode cX6_cellOf 1 = .ok (.bipush 6, 2) := dk_16 6 (dk_at dksX6_cellOf_0 1 rfl rfl)
theorem dX6_cellOf_3 : decode cX6_cellOf 3 = .ok (.ishr, 1) := dk_122 (dk_at dksX6_cellOf_0 3 rfl rfl)
theorem dX6_cellOf_4 : decode cX6_cellOf 4 = .ok (.bipush 15, 2) := dk_16 15 (dk_at dksX6_cellOf_0 4 rfl rfl)
theorem dX6_cellOf_6 : decode cX6_cellOf 6 = .ok (.iand, 1) := dk_126 (dk_at dksX6_cellOf_0 6 rfl rfl)
theorem dX6_cellOf_7 : decode cX6_cellOf 7 = .ok (.ireturn, 1) := dk_172 (dk_at dksX6_cellOf_0 7 rfl rfl)
abbrev cX6_ageOf : ByteArray := prog_24_method_61_code
def yX6_ageOf : MethodName := ⟨RX6, "ageOf", "(I)I"⟩
def dkwX6_ageOf_0 : List UInt8 := [26, 16, 10, 122, 172]
abbrev dktX6_ageOf_0 : List UInt8 := dkwX6_ageOf_0 ++ []
theorem dksX6_ageOf_0 : cX6_ageOf.data.toList.drop 0 = dktX6_ageOf_0 := by decide +kernel
theorem dX6_ageOf_0 : decode cX6_ageOf 0 = .ok (.iload_n 0, 1) := dk_26 (dk_at dksX6_ageOf_0 0 rfl rfl)
theorem dX6_ageOf_1 : decode cX6_ageOf 1 = .ok (.bipush 10, 2) := dk_16 10 (dk_at dksX6_ageOf_0 1 rfl rfl)
theorem dX6_ageOf_3 : decode cX6_ageOf 3 = .ok (.ishr, 1) := dk_122 (dk_at dksX6_ageOf_0 3 rfl rfl)
theorem dX6_ageOf_4 : decode cX6_ageOf 4 = .ok (.ireturn, 1) := dk_172 (dk_at dksX6_ageOf_0 4 rfl rfl)
abbrev cX6_person : ByteArray := prog_24_method_73_code
def yX6_person : MethodName := ⟨RX6, "person", "(I)I"⟩
def dkwX6_person_1 : List UInt8 := [2, 172]
abbrev dktX6_person_1 : List UInt8 := dkwX6_person_1 ++ []
def dkwX6_person_0 : List UInt8 := [42, 3, 181, 0, 1, 42, 27, 182, 1, 87, 153, 0, 14, 42, 180, 0, 119, 4, 27, 96, 46, 167, 0, 4]
abbrev dktX6_person_0 : List UInt8 := dkwX6_person_0 ++ dktX6_person_1
theorem dksX6_person_0 : cX6_person.data.toList.drop 0 = dktX6_person_0 := by decide +kernel
theorem dksX6_person_1 : cX6_person.data.toList.drop 24 = dktX6_person_1 := dk_seg dksX6_person_0 24 rfl rfl
theorem dX6_person_0 : decode cX6_person 0 = .ok (.aload_n 0, 1) := dk_42 (dk_at dksX6_person_0 0 rfl rfl)
theorem dX6_person_1 : decode cX6_person 1 = .ok (.iconst 0, 1) := dk_3 (dk_at dksX6_person_0 1 rfl rfl)
theorem dX6_person_2 : decode cX6_person 2 = .ok (.putfield 1, 3) := dk_181 0 1 (dk_at dksX6_person_0 2 rfl rfl)
theorem dX6_person_5 : decode cX6_person 5 = .ok (.aload_n 0, 1) := dk_42 (dk_at dksX6_person_0 5 rfl rfl)
theorem dX6_person_6 : decode cX6_person 6 = .ok (.iload_n 1, 1) := dk_27 (dk_at dksX6_person_0 6 rfl rfl)
theorem dX6_person_7 : decode cX6_person 7 = .ok (.invokevirtual 343, 3) := dk_182 1 87 (dk_at dksX6_person_0 7 rfl rfl)
theorem dX6_person_10 : decode cX6_person 10 = .ok (.ifCond .eq 14, 3) := dk_153 0 14 (dk_at dksX6_person_0 10 rfl rfl)
theorem dX6_person_13 : decode cX6_person 13 = .ok (.aload_n 0, 1) := dk_42 (dk_at dksX6_person_0 13 rfl rfl)
theorem dX6_person_14 : decode cX6_person 14 = .ok (.getfield 119, 3) := dk_180 0 119 (dk_at dksX6_person_0 14 rfl rfl)
theorem dX6_person_17 : decode cX6_person 17 = .ok (.iconst 1, 1) := dk_4 (dk_at dksX6_person_0 17 rfl rfl)
theorem dX6_person_18 : decode cX6_person 18 = .ok (.iload_n 1, 1) := dk_27 (dk_at dksX6_person_0 18 rfl rfl)
theorem dX6_person_19 : decode cX6_person 19 = .ok (.iadd, 1) := dk_96 (dk_at dksX6_person_0 19 rfl rfl)
theorem dX6_person_20 : decode cX6_person 20 = .ok (.iaload, 1) := dk_46 (dk_at dksX6_person_0 20 rfl rfl)
theorem dX6_person_21 : decode cX6_person 21 = .ok (.goto 4, 3) := dk_167 0 4 (dk_at dksX6_person_0 21 rfl rfl)
theorem dX6_person_24 : decode cX6_person 24 = .ok (.iconst (-1), 1) := dk_2 (dk_at dksX6_person_1 0 rfl rfl)
theorem dX6_person_25 : decode cX6_person 25 = .ok (.ireturn, 1) := dk_172 (dk_at dksX6_person_1 1 rfl rfl)
abbrev cX6_isPerson : ByteArray := prog_24_method_50_code
def yX6_isPerson : MethodName := ⟨RX6, "isPerson", "(I)Z"⟩
def dkwX6_isPerson_0 : List UInt8 := [27, 155, 0, 15, 27, 42, 182, 1, 9, 162, 0, 7, 4, 167, 0, 4, 3, 172]
abbrev dktX6_isPerson_0 : List UInt8 := dkwX6_isPerson_0 ++ []
theorem dksX6_isPerson_0 : cX6_isPerson.data.toList.drop 0 = dktX6_isPerson_0 := by decide +kernel
theorem dX6_isPerson_0 : decode cX6_isPerson 0 = .ok (.iload_n 1, 1) := dk_27 (dk_at dksX6_isPerson_0 0 rfl rfl)
theorem dX6_isPerson_1 : decode cX6_isPerson 1 = .ok (.ifCond .lt 15, 3) := dk_155 0 15 (dk_at dksX6_isPerson_0 1 rfl rfl)
theorem dX6_isPerson_4 : decode cX6_isPerson 4 = .ok (.iload_n 1, 1) := dk_27 (dk_at dksX6_isPerson_0 4 rfl rfl)
theorem dX6_isPerson_5 : decode cX6_isPerson 5 = .ok (.aload_n 0, 1) := dk_42 (dk_at dksX6_isPerson_0 5 rfl rfl)
theorem dX6_isPerson_6 : decode cX6_isPerson 6 = .ok (.invokevirtual 265, 3) := dk_182 1 9 (dk_at dksX6_isPerson_0 6 rfl rfl)
theorem dX6_isPerson_9 : decode cX6_isPerson 9 = .ok (.if_icmp .ge 7, 3) := dk_162 0 7 (dk_at dksX6_isPerson_0 9 rfl rfl)
theorem dX6_isPerson_12 : decode cX6_isPerson 12 = .ok (.iconst 1, 1) := dk_4 (dk_at dksX6_isPerson_0 12 rfl rfl)
theorem dX6_isPerson_13 : decode cX6_isPerson 13 = .ok (.goto 4, 3) := dk_167 0 4 (dk_at dksX6_isPerson_0 13 rfl rfl)
theorem dX6_isPerson_16 : decode cX6_isPerson 16 = .ok (.iconst 0, 1) := dk_3 (dk_at dksX6_isPerson_0 16 rfl rfl)
theorem dX6_isPerson_17 : decode cX6_isPerson 17 = .ok (.ireturn, 1) := dk_172 (dk_at dksX6_isPerson_0 17 rfl rfl)
abbrev cX6_walk : ByteArray := prog_24_method_75_code
def yX6_walk : MethodName := ⟨RX6, "walk", "(II)Z"⟩
def dkwX6_walk_1 : List UInt8 := [172, 42, 182, 1, 93, 42, 180, 0, 119, 4, 27, 96, 28, 79, 4, 172]
abbrev dktX6_walk_1 : List UInt8 := dkwX6_walk_1 ++ []
def dkwX6_walk_0 : List UInt8 := [42, 3, 181, 0, 1, 42, 27, 182, 1, 87, 153, 0, 13, 42, 3, 27, 28, 182, 1, 90, 154, 0, 5, 3]
abbrev dktX6_walk_0 : List UInt8 := dkwX6_walk_0 ++ dktX6_walk_1
theorem dksX6_walk_0 : cX6_walk.data.toList.drop 0 = dktX6_walk_0 := by decide +kernel
theorem dksX6_walk_1 : cX6_walk.data.toList.drop 24 = dktX6_walk_1 := dk_seg dksX6_walk_0 24 rfl rfl
theorem dX6_walk_0 : decode cX6_walk 0 = .ok (.aload_n 0, 1) := dk_42 (dk_at dksX6_walk_0 0 rfl rfl)
theorem dX6_walk_1 : decode cX6_walk 1 = .ok (.iconst 0, 1) := dk_3 (dk_at dksX6_walk_0 1 rfl rfl)
theorem dX6_walk_2 : decode cX6_walk 2 = .ok (.putfield 1, 3) := dk_181 0 1 (dk_at dksX6_walk_0 2 rfl rfl)
theorem dX6_walk_5 : decode cX6_walk 5 = .ok (.aload_n 0, 1) := dk_42 (dk_at dksX6_walk_0 5 rfl rfl)
theorem dX6_walk_6 : decode cX6_walk 6 = .ok (.iload_n 1, 1) := dk_27 (dk_at dksX6_walk_0 6 rfl rfl)
theorem dX6_walk_7 : decode cX6_walk 7 = .ok (.invokevirtual 343, 3) := dk_182 1 87 (dk_at dksX6_walk_0 7 rfl rfl)
theorem dX6_walk_10 : decode cX6_walk 10 = .ok (.ifCond .eq 13, 3) := dk_153 0 13 (dk_at dksX6_walk_0 10 rfl rfl)
theorem dX6_walk_13 : decode cX6_walk 13 = .ok (.aload_n 0, 1) := dk_42 (dk_at dksX6_walk_0 13 rfl rfl)
theorem dX6_walk_14 : decode cX6_walk 14 = .ok (.iconst 0, 1) := dk_3 (dk_at dksX6_walk_0 14 rfl rfl)
theorem dX6_walk_15 : decode cX6_walk 15 = .ok (.iload_n 1, 1) := dk_27 (dk_at dksX6_walk_0 15 rfl rfl)
theorem dX6_walk_16 : decode cX6_walk 16 = .ok (.iload_n 2, 1) := dk_28 (dk_at dksX6_walk_0 16 rfl rfl)
theorem dX6_walk_17 : decode cX6_walk 17 = .ok (.invokevirtual 346, 3) := dk_182 1 90 (dk_at dksX6_walk_0 17 rfl rfl)
theorem dX6_walk_20 : decode cX6_walk 20 = .ok (.ifCond .ne 5, 3) := dk_154 0 5 (dk_at dksX6_walk_0 20 rfl rfl)
theorem dX6_walk_23 : decode cX6_walk 23 = .ok (.iconst 0, 1) := dk_3 (dk_at dksX6_walk_0 23 rfl rfl)
theorem dX6_walk_24 : decode cX6_walk 24 = .ok (.ireturn, 1) := dk_172 (dk_at dksX6_walk_1 0 rfl rfl)
theorem dX6_walk_25 : decode cX6_walk 25 = .ok (.aload_n 0, 1) := dk_42 (dk_at dksX6_walk_1 1 rfl rfl)
theorem dX6_walk_26 : decode cX6_walk 26 = .ok (.invokevirtual 349, 3) := dk_182 1 93 (dk_at dksX6_walk_1 2 rfl rfl)
theorem dX6_walk_29 : decode cX6_walk 29 = .ok (.aload_n 0, 1) := dk_42 (dk_at dksX6_walk_1 5 rfl rfl)
theorem dX6_walk_30 : decode cX6_walk 30 = .ok (.getfield 119, 3) := dk_180 0 119 (dk_at dksX6_walk_1 6 rfl rfl)
theorem dX6_walk_33 : decode cX6_walk 33 = .ok (.iconst 1, 1) := dk_4 (dk_at dksX6_walk_1 9 rfl rfl)
theorem dX6_walk_34 : decode cX6_walk 34 = .ok (.iload_n 1, 1) := dk_27 (dk_at dksX6_walk_1 10 rfl rfl)
theorem dX6_walk_35 : decode cX6_walk 35 = .ok (.iadd, 1) := dk_96 (dk_at dksX6_walk_1 11 rfl rfl)
theorem dX6_walk_36 : decode cX6_walk 36 = .ok (.iload_n 2, 1) := dk_28 (dk_at dksX6_walk_1 12 rfl rfl)
theorem dX6_walk_37 : decode cX6_walk 37 = .ok (.iastore, 1) := dk_79 (dk_at dksX6_walk_1 13 rfl rfl)
theorem dX6_walk_38 : decode cX6_walk 38 = .ok (.iconst 1, 1) := dk_4 (dk_at dksX6_walk_1 14 rfl rfl)
theorem dX6_walk_39 : decode cX6_walk 39 = .ok (.ireturn, 1) := dk_172 (dk_at dksX6_walk_1 15 rfl rfl)
abbrev cX6_mayWalk : ByteArray := prog_24_method_74_code
def yX6_mayWalk : MethodName := ⟨RX6, "mayWalk", "(III)Z"⟩
def dkwX6_mayWalk_1 : List UInt8 := [21, 4, 4, 159, 0, 9, 21, 4, 2, 160, 0, 7, 4, 167, 0, 4, 3, 172]
abbrev dktX6_mayWalk_1 : List UInt8 := dkwX6_mayWalk_1 ++ []
def dkwX6_mayWalk_0 : List UInt8 := [29, 42, 180, 0, 119, 27, 4, 96, 28, 96, 46, 100, 54, 4, 29, 3, 16, 9, 184, 0, 198, 153, 0, 19]
abbrev dktX6_mayWalk_0 : List UInt8 := dkwX6_mayWalk_0 ++ dktX6_mayWalk_1
theorem dksX6_mayWalk_0 : cX6_mayWalk.data.toList.drop 0 = dktX6_mayWalk_0 := by decide +kernel
theorem dksX6_mayWalk_1 : cX6_mayWalk.data.toList.drop 24 = dktX6_mayWalk_1 := dk_seg dksX6_mayWalk_0 24 rfl rfl
theorem dX6_mayWalk_0 : decode cX6_mayWalk 0 = .ok (.iload_n 3, 1) := dk_29 (dk_at dksX6_mayWalk_0 0 rfl rfl)
theorem dX6_mayWalk_1 : decode cX6_mayWalk 1 = .ok (.aload_n 0, 1) := dk_42 (dk_at dksX6_mayWalk_0 1 rfl rfl)
theorem dX6_mayWalk_2 : decode cX6_mayWalk 2 = .ok (.getfield 119, 3) := dk_180 0 119 (dk_at dksX6_mayWalk_0 2 rfl rfl)
theorem dX6_mayWalk_5 : decode cX6_mayWalk 5 = .ok (.iload_n 1, 1) := dk_27 (dk_at dksX6_mayWalk_0 5 rfl rfl)
theorem dX6_mayWalk_6 : decode cX6_mayWalk 6 = .ok (.iconst 1, 1) := dk_4 (dk_at dksX6_mayWalk_0 6 rfl rfl)
theorem dX6_mayWalk_7 : decode cX6_mayWalk 7 = .ok (.iadd, 1) := dk_96 (dk_at dksX6_mayWalk_0 7 rfl rfl)
theorem dX6_mayWalk_8 : decode cX6_mayWalk 8 = .ok (.iload_n 2, 1) := dk_28 (dk_at dksX6_mayWalk_0 8 rfl rfl)
theorem dX6_mayWalk_9 : decode cX6_mayWalk 9 = .ok (.iadd, 1) := dk_96 (dk_at dksX6_mayWalk_0 9 rfl rfl)
theorem dX6_mayWalk_10 : decode cX6_mayWalk 10 = .ok (.iaload, 1) := dk_46 (dk_at dksX6_mayWalk_0 10 rfl rfl)
theorem dX6_mayWalk_11 : decode cX6_mayWalk 11 = .ok (.isub, 1) := dk_100 (dk_at dksX6_mayWalk_0 11 rfl rfl)
theorem dX6_mayWalk_12 : decode cX6_mayWalk 12 = .ok (.istore 4, 2) := dk_54 4 (dk_at dksX6_mayWalk_0 12 rfl rfl)
theorem dX6_mayWalk_14 : decode cX6_mayWalk 14 = .ok (.iload_n 3, 1) := dk_29 (dk_at dksX6_mayWalk_0 14 rfl rfl)
theorem dX6_mayWalk_15 : decode cX6_mayWalk 15 = .ok (.iconst 0, 1) := dk_3 (dk_at dksX6_mayWalk_0 15 rfl rfl)
theorem dX6_mayWalk_16 : decode cX6_mayWalk 16 = .ok (.bipush 9, 2) := dk_16 9 (dk_at dksX6_mayWalk_0 16 rfl rfl)
theorem dX6_mayWalk_18 : decode cX6_mayWalk 18 = .ok (.invokestatic 198, 3) := dk_184 0 198 (dk_at dksX6_mayWalk_0 18 rfl rfl)
theorem dX6_mayWalk_21 : decode cX6_mayWalk 21 = .ok (.ifCond .eq 19, 3) := dk_153 0 19 (dk_at dksX6_mayWalk_0 21 rfl rfl)
theorem dX6_mayWalk_24 : decode cX6_mayWalk 24 = .ok (.iload 4, 2) := dk_21 4 (dk_at dksX6_mayWalk_1 0 rfl rfl)
theorem dX6_mayWalk_26 : decode cX6_mayWalk 26 = .ok (.iconst 1, 1) := dk_4 (dk_at dksX6_mayWalk_1 2 rfl rfl)
theorem dX6_mayWalk_27 : decode cX6_mayWalk 27 = .ok (.if_icmp .eq 9, 3) := dk_159 0 9 (dk_at dksX6_mayWalk_1 3 rfl rfl)
theorem dX6_mayWalk_30 : decode cX6_mayWalk 30 = .ok (.iload 4, 2) := dk_21 4 (dk_at dksX6_mayWalk_1 6 rfl rfl)
theorem dX6_mayWalk_32 : decode cX6_mayWalk 32 = .ok (.iconst (-1), 1) := dk_2 (dk_at dksX6_mayWalk_1 8 rfl rfl)
theorem dX6_mayWalk_33 : decode cX6_mayWalk 33 = .ok (.if_icmp .ne 7, 3) := dk_160 0 7 (dk_at dksX6_mayWalk_1 9 rfl rfl)
theorem dX6_mayWalk_36 : decode cX6_mayWalk 36 = .ok (.iconst 1, 1) := dk_4 (dk_at dksX6_mayWalk_1 12 rfl rfl)
theorem dX6_mayWalk_37 : decode cX6_mayWalk 37 = .ok (.goto 4, 3) := dk_167 0 4 (dk_at dksX6_mayWalk_1 13 rfl rfl)
theorem dX6_mayWalk_40 : decode cX6_mayWalk 40 = .ok (.iconst 0, 1) := dk_3 (dk_at dksX6_mayWalk_1 16 rfl rfl)
theorem dX6_mayWalk_41 : decode cX6_mayWalk 41 = .ok (.ireturn, 1) := dk_172 (dk_at dksX6_mayWalk_1 17 rfl rfl)
abbrev cX6_keeps : ByteArray := prog_24_method_44_code
def yX6_keeps : MethodName := ⟨RX6, "keeps", "()V"⟩
def dkwX6_keeps_3 : List UInt8 := [180, 1, 16, 4, 96, 181, 1, 16, 177]
abbrev dktX6_keeps_3 : List UInt8 := dkwX6_keeps_3 ++ []
def dkwX6_keeps_2 : List UInt8 := [4, 100, 181, 1, 16, 42, 3, 16, 66, 8, 42, 180, 1, 16, 96, 104, 16, 60, 182, 1, 19, 42, 89]
abbrev dktX6_keeps_2 : List UInt8 := dkwX6_keeps_2 ++ dktX6_keeps_3
def dkwX6_keeps_1 : List UInt8 := [16, 66, 8, 27, 96, 4, 100, 104, 16, 60, 182, 1, 19, 132, 1, 1, 167, 255, 227, 42, 89, 180, 1, 16]
abbrev dktX6_keeps_1 : List UInt8 := dkwX6_keeps_1 ++ dktX6_keeps_2
def dkwX6_keeps_0 : List UInt8 := [42, 180, 1, 16, 16, 16, 160, 0, 47, 4, 60, 27, 16, 16, 162, 0, 29, 42, 16, 66, 8, 27, 96, 104]
abbrev dktX6_keeps_0 : List UInt8 := dkwX6_keeps_0 ++ dktX6_keeps_1
theorem dksX6_keeps_0 : cX6_keeps.data.toList.drop 0 = dktX6_keeps_0 := by decide +kernel
theorem dksX6_keeps_1 : cX6_keeps.data.toList.drop 24 = dktX6_keeps_1 := dk_seg dksX6_keeps_0 24 rfl rfl
theorem dksX6_keeps_2 : cX6_keeps.data.toList.drop 48 = dktX6_keeps_2 := dk_seg dksX6_keeps_1 24 rfl rfl
theorem dksX6_keeps_3 : cX6_keeps.data.toList.drop 71 = dktX6_keeps_3 := dk_seg dksX6_keeps_2 23 rfl rfl
theorem dX6_keeps_0 : decode cX6_keeps 0 = .ok (.aload_n 0, 1) := dk_42 (dk_at dksX6_keeps_0 0 rfl rfl)
theorem dX6_keeps_1 : decode cX6_keeps 1 = .ok (.getfield 272, 3) := dk_180 1 16 (dk_at dksX6_keeps_0 1 rfl rfl)
theorem dX6_keeps_4 : decode cX6_keeps 4 = .ok (.bipush 16, 2) := dk_16 16 (dk_at dksX6_keeps_0 4 rfl rfl)
theorem dX6_keeps_6 : decode cX6_keeps 6 = .ok (.if_icmp .ne 47, 3) := dk_160 0 47 (dk_at dksX6_keeps_0 6 rfl rfl)
theorem dX6_keeps_9 : decode cX6_keeps 9 = .ok (.iconst 1, 1) := dk_4 (dk_at dksX6_keeps_0 9 rfl rfl)
theorem dX6_keeps_10 : decode cX6_keeps 10 = .ok (.istore_n 1, 1) := dk_60 (dk_at dksX6_keeps_0 10 rfl rfl)
theorem dX6_keeps_11 : decode cX6_keeps 11 = .ok (.iload_n 1, 1) := dk_27 (dk_at dksX6_keeps_0 11 rfl rfl)
theorem dX6_keeps_12 : decode cX6_keeps 12 = .ok (.bipush 16, 2) := dk_16 16 (dk_at dksX6_keeps_0 12 rfl rfl)
theorem dX6_keeps_14 : decode cX6_keeps 14 = .ok (.if_icmp .ge 29, 3) := dk_162 0 29 (dk_at dksX6_keeps_0 14 rfl rfl)
theorem dX6_keeps_17 : decode cX6_keeps 17 = .ok (.aload_n 0, 1) := dk_42 (dk_at dksX6_keeps_0 17 rfl rfl)
theorem dX6_keeps_18 : decode cX6_keeps 18 = .ok (.bipush 66, 2) := dk_16 66 (dk_at dksX6_keeps_0 18 rfl rfl)
theorem dX6_keeps_20 : decode cX6_keeps 20 = .ok (.iconst 5, 1) := dk_8 (dk_at dksX6_keeps_0 20 rfl rfl)
theorem dX6_keeps_21 : decode cX6_keeps 21 = .ok (.iload_n 1, 1) := dk_27 (dk_at dksX6_keeps_0 21 rfl rfl)
theorem dX6_keeps_22 : decode cX6_keeps 22 = .ok (.iadd, 1) := dk_96 (dk_at dksX6_keeps_0 22 rfl rfl)
theorem dX6_keeps_23 : decode cX6_keeps 23 = .ok (.imul, 1) := dk_104 (dk_at dksX6_keeps_0 23 rfl rfl)
theorem dX6_keeps_24 : decode cX6_keeps 24 = .ok (.bipush 66, 2) := dk_16 66 (dk_at dksX6_keeps_1 0 rfl rfl)
theorem dX6_keeps_26 : decode cX6_keeps 26 = .ok (.iconst 5, 1) := dk_8 (dk_at dksX6_keeps_1 2 rfl rfl)
theorem dX6_keeps_27 : decode cX6_keeps 27 = .ok (.iload_n 1, 1) := dk_27 (dk_at dksX6_keeps_1 3 rfl rfl)
theorem dX6_keeps_28 : decode cX6_keeps 28 = .ok (.iadd, 1) := dk_96 (dk_at dksX6_keeps_1 4 rfl rfl)
theorem dX6_keeps_29 : decode cX6_keeps 29 = .ok (.iconst 1, 1) := dk_4 (dk_at dksX6_keeps_1 5 rfl rfl)
theorem dX6_keeps_30 : decode cX6_keeps 30 = .ok (.isub, 1) := dk_100 (dk_at dksX6_keeps_1 6 rfl rfl)
theorem dX6_keeps_31 : decode cX6_keeps 31 = .ok (.imul, 1) := dk_104 (dk_at dksX6_keeps_1 7 rfl rfl)
theorem dX6_keeps_32 : decode cX6_keeps 32 = .ok (.bipush 60, 2) := dk_16 60 (dk_at dksX6_keeps_1 8 rfl rfl)
theorem dX6_keeps_34 : decode cX6_keeps 34 = .ok (.invokevirtual 275, 3) := dk_182 1 19 (dk_at dksX6_keeps_1 10 rfl rfl)
theorem dX6_keeps_37 : decode cX6_keeps 37 = .ok (.iinc 1 1, 3) := dk_132 1 1 (dk_at dksX6_keeps_1 13 rfl rfl)
theorem dX6_keeps_40 : decode cX6_keeps 40 = .ok (.goto (-29), 3) := dk_167 255 227 (dk_at dksX6_keeps_1 16 rfl rfl)
theorem dX6_keeps_43 : decode cX6_keeps 43 = .ok (.aload_n 0, 1) := dk_42 (dk_at dksX6_keeps_1 19 rfl rfl)
theorem dX6_keeps_44 : decode cX6_keeps 44 = .ok (.dup, 1) := dk_89 (dk_at dksX6_keeps_1 20 rfl rfl)
theorem dX6_keeps_45 : decode cX6_keeps 45 = .ok (.getfield 272, 3) := dk_180 1 16 (dk_at dksX6_keeps_1 21 rfl rfl)
theorem dX6_keeps_48 : decode cX6_keeps 48 = .ok (.iconst 1, 1) := dk_4 (dk_at dksX6_keeps_2 0 rfl rfl)
theorem dX6_keeps_49 : decode cX6_keeps 49 = .ok (.isub, 1) := dk_100 (dk_at dksX6_keeps_2 1 rfl rfl)
theorem dX6_keeps_50 : decode cX6_keeps 50 = .ok (.putfield 272, 3) := dk_181 1 16 (dk_at dksX6_keeps_2 2 rfl rfl)
theorem dX6_keeps_53 : decode cX6_keeps 53 = .ok (.aload_n 0, 1) := dk_42 (dk_at dksX6_keeps_2 5 rfl rfl)
theorem dX6_keeps_54 : decode cX6_keeps 54 = .ok (.iconst 0, 1) := dk_3 (dk_at dksX6_keeps_2 6 rfl rfl)
theorem dX6_keeps_55 : decode cX6_keeps 55 = .ok (.bipush 66, 2) := dk_16 66 (dk_at dksX6_keeps_2 7 rfl rfl)
theorem dX6_keeps_57 : decode cX6_keeps 57 = .ok (.iconst 5, 1) := dk_8 (dk_at dksX6_keeps_2 9 rfl rfl)
theorem dX6_keeps_58 : decode cX6_keeps 58 = .ok (.aload_n 0, 1) := dk_42 (dk_at dksX6_keeps_2 10 rfl rfl)
theorem dX6_keeps_59 : decode cX6_keeps 59 = .ok (.getfield 272, 3) := dk_180 1 16 (dk_at dksX6_keeps_2 11 rfl rfl)
theorem dX6_keeps_62 : decode cX6_keeps 62 = .ok (.iadd, 1) := dk_96 (dk_at dksX6_keeps_2 14 rfl rfl)
theorem dX6_keeps_63 : decode cX6_keeps 63 = .ok (.imul, 1) := dk_104 (dk_at dksX6_keeps_2 15 rfl rfl)
theorem dX6_keeps_64 : decode cX6_keeps 64 = .ok (.bipush 60, 2) := dk_16 60 (dk_at dksX6_keeps_2 16 rfl rfl)
theorem dX6_keeps_66 : decode cX6_keeps 66 = .ok (.invokevirtual 275, 3) := dk_182 1 19 (dk_at dksX6_keeps_2 18 rfl rfl)
theorem dX6_keeps_69 : decode cX6_keeps 69 = .ok (.aload_n 0, 1) := dk_42 (dk_at dksX6_keeps_2 21 rfl rfl)
theorem dX6_keeps_70 : decode cX6_keeps 70 = .ok (.dup, 1) := dk_89 (dk_at dksX6_keeps_2 22 rfl rfl)
theorem dX6_keeps_71 : decode cX6_keeps 71 = .ok (.getfield 272, 3) := dk_180 1 16 (dk_at dksX6_keeps_3 0 rfl rfl)
theorem dX6_keeps_74 : decode cX6_keeps 74 = .ok (.iconst 1, 1) := dk_4 (dk_at dksX6_keeps_3 3 rfl rfl)
theorem dX6_keeps_75 : decode cX6_keeps 75 = .ok (.iadd, 1) := dk_96 (dk_at dksX6_keeps_3 4 rfl rfl)
theorem dX6_keeps_76 : decode cX6_keeps 76 = .ok (.putfield 272, 3) := dk_181 1 16 (dk_at dksX6_keeps_3 5 rfl rfl)
theorem dX6_keeps_79 : decode cX6_keeps 79 = .ok (.return_, 1) := dk_177 (dk_at dksX6_keeps_3 8 rfl rfl)
abbrev cX6_copies : ByteArray := prog_24_method_41_code
def yX6_copies : MethodName := ⟨RX6, "copies", "(III)V"⟩
def dkwX6_copies_1 : List UInt8 := [96, 46, 79, 132, 4, 1, 167, 255, 229, 177]
abbrev dktX6_copies_1 : List UInt8 := dkwX6_copies_1 ++ []
def dkwX6_copies_0 : List UInt8 := [3, 54, 4, 21, 4, 29, 162, 0, 27, 42, 180, 0, 119, 28, 21, 4, 96, 42, 180, 0, 119, 27, 21, 4]
abbrev dktX6_copies_0 : List UInt8 := dkwX6_copies_0 ++ dktX6_copies_1
theorem dksX6_copies_0 : cX6_copies.data.toList.drop 0 = dktX6_copies_0 := by decide +kernel
theorem dksX6_copies_1 : cX6_copies.data.toList.drop 24 = dktX6_copies_1 := dk_seg dksX6_copies_0 24 rfl rfl
theorem dX6_copies_0 : decode cX6_copies 0 = .ok (.iconst 0, 1) := dk_3 (dk_at dksX6_copies_0 0 rfl rfl)
theorem dX6_copies_1 : decode cX6_copies 1 = .ok (.istore 4, 2) := dk_54 4 (dk_at dksX6_copies_0 1 rfl rfl)
theorem dX6_copies_3 : decode cX6_copies 3 = .ok (.iload 4, 2) := dk_21 4 (dk_at dksX6_copies_0 3 rfl rfl)
theorem dX6_copies_5 : decode cX6_copies 5 = .ok (.iload_n 3, 1) := dk_29 (dk_at dksX6_copies_0 5 rfl rfl)
theorem dX6_copies_6 : decode cX6_copies 6 = .ok (.if_icmp .ge 27, 3) := dk_162 0 27 (dk_at dksX6_copies_0 6 rfl rfl)
theorem dX6_copies_9 : decode cX6_copies 9 = .ok (.aload_n 0, 1) := dk_42 (dk_at dksX6_copies_0 9 rfl rfl)
theorem dX6_copies_10 : decode cX6_copies 10 = .ok (.getfield 119, 3) := dk_180 0 119 (dk_at dksX6_copies_0 10 rfl rfl)
theorem dX6_copies_13 : decode cX6_copies 13 = .ok (.iload_n 2, 1) := dk_28 (dk_at dksX6_copies_0 13 rfl rfl)
theorem dX6_copies_14 : decode cX6_copies 14 = .ok (.iload 4, 2) := dk_21 4 (dk_at dksX6_copies_0 14 rfl rfl)
theorem dX6_copies_16 : decode cX6_copies 16 = .ok (.iadd, 1) := dk_96 (dk_at dksX6_copies_0 16 rfl rfl)
theorem dX6_copies_17 : decode cX6_copies 17 = .ok (.aload_n 0, 1) := dk_42 (dk_at dksX6_copies_0 17 rfl rfl)
theorem dX6_copies_18 : decode cX6_copies 18 = .ok (.getfield 119, 3) := dk_180 0 119 (dk_at dksX6_copies_0 18 rfl rfl)
theorem dX6_copies_21 : decode cX6_copies 21 = .ok (.iload_n 1, 1) := dk_27 (dk_at dksX6_copies_0 21 rfl rfl)
theorem dX6_copies_22 : decode cX6_copies 22 = .ok (.iload 4, 2) := dk_21 4 (dk_at dksX6_copies_0 22 rfl rfl)
theorem dX6_copies_24 : decode cX6_copies 24 = .ok (.iadd, 1) := dk_96 (dk_at dksX6_copies_1 0 rfl rfl)
theorem dX6_copies_25 : decode cX6_copies 25 = .ok (.iaload, 1) := dk_46 (dk_at dksX6_copies_1 1 rfl rfl)
theorem dX6_copies_26 : decode cX6_copies 26 = .ok (.iastore, 1) := dk_79 (dk_at dksX6_copies_1 2 rfl rfl)
theorem dX6_copies_27 : decode cX6_copies 27 = .ok (.iinc 4 1, 3) := dk_132 4 1 (dk_at dksX6_copies_1 3 rfl rfl)
theorem dX6_copies_30 : decode cX6_copies 30 = .ok (.goto (-27), 3) := dk_167 255 229 (dk_at dksX6_copies_1 6 rfl rfl)
theorem dX6_copies_33 : decode cX6_copies 33 = .ok (.return_, 1) := dk_177 (dk_at dksX6_copies_1 9 rfl rfl)
abbrev cX6_does : ByteArray := prog_24_method_76_code
def yX6_does : MethodName := ⟨RX6, "does", "(II)I"⟩
def dkwX6_does_1 : List UInt8 := [182, 1, 93, 42, 3, 27, 28, 42, 180, 0, 119, 4, 27, 96, 46, 182, 1, 99, 172]
abbrev dktX6_does_1 : List UInt8 := dkwX6_does_1 ++ []
def dkwX6_does_0 : List UInt8 := [42, 3, 181, 0, 1, 42, 27, 182, 1, 87, 153, 0, 11, 42, 28, 182, 1, 96, 154, 0, 5, 2, 172, 42]
abbrev dktX6_does_0 : List UInt8 := dkwX6_does_0 ++ dktX6_does_1
theorem dksX6_does_0 : cX6_does.data.toList.drop 0 = dktX6_does_0 := by decide +kernel
theorem dksX6_does_1 : cX6_does.data.toList.drop 24 = dktX6_does_1 := dk_seg dksX6_does_0 24 rfl rfl
theorem dX6_does_0 : decode cX6_does 0 = .ok (.aload_n 0, 1) := dk_42 (dk_at dksX6_does_0 0 rfl rfl)
theorem dX6_does_1 : decode cX6_does 1 = .ok (.iconst 0, 1) := dk_3 (dk_at dksX6_does_0 1 rfl rfl)
theorem dX6_does_2 : decode cX6_does 2 = .ok (.putfield 1, 3) := dk_181 0 1 (dk_at dksX6_does_0 2 rfl rfl)
theorem dX6_does_5 : decode cX6_does 5 = .ok (.aload_n 0, 1) := dk_42 (dk_at dksX6_does_0 5 rfl rfl)
theorem dX6_does_6 : decode cX6_does 6 = .ok (.iload_n 1, 1) := dk_27 (dk_at dksX6_does_0 6 rfl rfl)
theorem dX6_does_7 : decode cX6_does 7 = .ok (.invokevirtual 343, 3) := dk_182 1 87 (dk_at dksX6_does_0 7 rfl rfl)
theorem dX6_does_10 : decode cX6_does 10 = .ok (.ifCond .eq 11, 3) := dk_153 0 11 (dk_at dksX6_does_0 10 rfl rfl)
theorem dX6_does_13 : decode cX6_does 13 = .ok (.aload_n 0, 1) := dk_42 (dk_at dksX6_does_0 13 rfl rfl)
theorem dX6_does_14 : decode cX6_does 14 = .ok (.iload_n 2, 1) := dk_28 (dk_at dksX6_does_0 14 rfl rfl)
theorem dX6_does_15 : decode cX6_does 15 = .ok (.invokevirtual 352, 3) := dk_182 1 96 (dk_at dksX6_does_0 15 rfl rfl)
theorem dX6_does_18 : decode cX6_does 18 = .ok (.ifCond .ne 5, 3) := dk_154 0 5 (dk_at dksX6_does_0 18 rfl rfl)
theorem dX6_does_21 : decode cX6_does 21 = .ok (.iconst (-1), 1) := dk_2 (dk_at dksX6_does_0 21 rfl rfl)
theorem dX6_does_22 : decode cX6_does 22 = .ok (.ireturn, 1) := dk_172 (dk_at dksX6_does_0 22 rfl rfl)
theorem dX6_does_23 : decode cX6_does 23 = .ok (.aload_n 0, 1) := dk_42 (dk_at dksX6_does_0 23 rfl rfl)
theorem dX6_does_24 : decode cX6_does 24 = .ok (.invokevirtual 349, 3) := dk_182 1 93 (dk_at dksX6_does_1 0 rfl rfl)
theorem dX6_does_27 : decode cX6_does 27 = .ok (.aload_n 0, 1) := dk_42 (dk_at dksX6_does_1 3 rfl rfl)
theorem dX6_does_28 : decode cX6_does 28 = .ok (.iconst 0, 1) := dk_3 (dk_at dksX6_does_1 4 rfl rfl)
theorem dX6_does_29 : decode cX6_does 29 = .ok (.iload_n 1, 1) := dk_27 (dk_at dksX6_does_1 5 rfl rfl)
theorem dX6_does_30 : decode cX6_does 30 = .ok (.iload_n 2, 1) := dk_28 (dk_at dksX6_does_1 6 rfl rfl)
theorem dX6_does_31 : decode cX6_does 31 = .ok (.aload_n 0, 1) := dk_42 (dk_at dksX6_does_1 7 rfl rfl)
theorem dX6_does_32 : decode cX6_does 32 = .ok (.getfield 119, 3) := dk_180 0 119 (dk_at dksX6_does_1 8 rfl rfl)
theorem dX6_does_35 : decode cX6_does 35 = .ok (.iconst 1, 1) := dk_4 (dk_at dksX6_does_1 11 rfl rfl)
theorem dX6_does_36 : decode cX6_does 36 = .ok (.iload_n 1, 1) := dk_27 (dk_at dksX6_does_1 12 rfl rfl)
theorem dX6_does_37 : decode cX6_does 37 = .ok (.iadd, 1) := dk_96 (dk_at dksX6_does_1 13 rfl rfl)
theorem dX6_does_38 : decode cX6_does 38 = .ok (.iaload, 1) := dk_46 (dk_at dksX6_does_1 14 rfl rfl)
theorem dX6_does_39 : decode cX6_does 39 = .ok (.invokevirtual 355, 3) := dk_182 1 99 (dk_at dksX6_does_1 15 rfl rfl)
theorem dX6_does_42 : decode cX6_does 42 = .ok (.ireturn, 1) := dk_172 (dk_at dksX6_does_1 18 rfl rfl)
abbrev cX6_isDeed : ByteArray := prog_24_method_51_code
def yX6_isDeed : MethodName := ⟨RX6, "isDeed", "(I)Z"⟩
def dkwX6_isDeed_0 : List UInt8 := [27, 155, 0, 15, 27, 42, 182, 1, 25, 162, 0, 7, 4, 167, 0, 4, 3, 172]
abbrev dktX6_isDeed_0 : List UInt8 := dkwX6_isDeed_0 ++ []
theorem dksX6_isDeed_0 : cX6_isDeed.data.toList.drop 0 = dktX6_isDeed_0 := by decide +kernel
theorem dX6_isDeed_0 : decode cX6_isDeed 0 = .ok (.iload_n 1, 1) := dk_27 (dk_at dksX6_isDeed_0 0 rfl rfl)
theorem dX6_isDeed_1 : decode cX6_isDeed 1 = .ok (.ifCond .lt 15, 3) := dk_155 0 15 (dk_at dksX6_isDeed_0 1 rfl rfl)
theorem dX6_isDeed_4 : decode cX6_isDeed 4 = .ok (.iload_n 1, 1) := dk_27 (dk_at dksX6_isDeed_0 4 rfl rfl)
theorem dX6_isDeed_5 : decode cX6_isDeed 5 = .ok (.aload_n 0, 1) := dk_42 (dk_at dksX6_isDeed_0 5 rfl rfl)
theorem dX6_isDeed_6 : decode cX6_isDeed 6 = .ok (.invokevirtual 281, 3) := dk_182 1 25 (dk_at dksX6_isDeed_0 6 rfl rfl)
theorem dX6_isDeed_9 : decode cX6_isDeed 9 = .ok (.if_icmp .ge 7, 3) := dk_162 0 7 (dk_at dksX6_isDeed_0 9 rfl rfl)
theorem dX6_isDeed_12 : decode cX6_isDeed 12 = .ok (.iconst 1, 1) := dk_4 (dk_at dksX6_isDeed_0 12 rfl rfl)
theorem dX6_isDeed_13 : decode cX6_isDeed 13 = .ok (.goto 4, 3) := dk_167 0 4 (dk_at dksX6_isDeed_0 13 rfl rfl)
theorem dX6_isDeed_16 : decode cX6_isDeed 16 = .ok (.iconst 0, 1) := dk_3 (dk_at dksX6_isDeed_0 16 rfl rfl)
theorem dX6_isDeed_17 : decode cX6_isDeed 17 = .ok (.ireturn, 1) := dk_172 (dk_at dksX6_isDeed_0 17 rfl rfl)
abbrev cX6_deeds : ByteArray := prog_24_method_47_code
def yX6_deeds : MethodName := ⟨RX6, "deeds", "()I"⟩
def dkwX6_deeds_0 : List UInt8 := [42, 180, 0, 89, 5, 46, 172]
abbrev dktX6_deeds_0 : List UInt8 := dkwX6_deeds_0 ++ []
theorem dksX6_deeds_0 : cX6_deeds.data.toList.drop 0 = dktX6_deeds_0 := by decide +kernel
theorem dX6_deeds_0 : decode cX6_deeds 0 = .ok (.aload_n 0, 1) := dk_42 (dk_at dksX6_deeds_0 0 rfl rfl)
theorem dX6_deeds_1 : decode cX6_deeds 1 = .ok (.getfield 89, 3) := dk_180 0 89 (dk_at dksX6_deeds_0 1 rfl rfl)
theorem dX6_deeds_4 : decode cX6_deeds 4 = .ok (.iconst 2, 1) := dk_5 (dk_at dksX6_deeds_0 4 rfl rfl)
theorem dX6_deeds_5 : decode cX6_deeds 5 = .ok (.iaload, 1) := dk_46 (dk_at dksX6_deeds_0 5 rfl rfl)
theorem dX6_deeds_6 : decode cX6_deeds 6 = .ok (.ireturn, 1) := dk_172 (dk_at dksX6_deeds_0 6 rfl rfl)
abbrev cX6_does_2 : ByteArray := prog_24_method_63_code
def yX6_does_2 : MethodName := ⟨RX6, "does", "(IIII)I"⟩
def dkwX6_does_2_5 : List UInt8 := [132, 6, 1, 167, 255, 148, 21, 5, 172]
abbrev dktX6_does_2_5 : List UInt8 := dkwX6_does_2_5 ++ []
def dkwX6_does_2_4 : List UInt8 := [29, 6, 120, 128, 28, 128, 79, 42, 180, 0, 119, 27, 16, 18, 96, 21, 6, 96, 92, 46, 4, 96, 79]
abbrev dktX6_does_2_4 : List UInt8 := dkwX6_does_2_4 ++ dktX6_does_2_5
def dkwX6_does_2_3 : List UInt8 := [16, 6, 21, 6, 104, 96, 42, 180, 0, 119, 27, 16, 18, 96, 21, 6, 96, 46, 96, 21, 4, 16, 6, 120]
abbrev dktX6_does_2_3 : List UInt8 := dkwX6_does_2_3 ++ dktX6_does_2_4
def dkwX6_does_2_2 : List UInt8 := [4, 182, 1, 28, 160, 0, 11, 42, 27, 21, 6, 3, 182, 1, 50, 42, 180, 0, 119, 27, 16, 24, 96]
abbrev dktX6_does_2_2 : List UInt8 := dkwX6_does_2_2 ++ dktX6_does_2_3
def dkwX6_does_2_1 : List UInt8 := [21, 6, 122, 4, 126, 4, 160, 0, 88, 42, 180, 0, 119, 27, 16, 18, 96, 21, 6, 96, 46, 42, 21, 6]
abbrev dktX6_does_2_1 : List UInt8 := dkwX6_does_2_1 ++ dktX6_does_2_2
def dkwX6_does_2_0 : List UInt8 := [42, 27, 21, 4, 182, 1, 47, 54, 5, 3, 54, 6, 21, 6, 42, 182, 1, 22, 162, 0, 105, 21, 5]
abbrev dktX6_does_2_0 : List UInt8 := dkwX6_does_2_0 ++ dktX6_does_2_1
theorem dksX6_does_2_0 : cX6_does_2.data.toList.drop 0 = dktX6_does_2_0 := by decide +kernel
theorem dksX6_does_2_1 : cX6_does_2.data.toList.drop 23 = dktX6_does_2_1 := dk_seg dksX6_does_2_0 23 rfl rfl
theorem dksX6_does_2_2 : cX6_does_2.data.toList.drop 47 = dktX6_does_2_2 := dk_seg dksX6_does_2_1 24 rfl rfl
theorem dksX6_does_2_3 : cX6_does_2.data.toList.drop 70 = dktX6_does_2_3 := dk_seg dksX6_does_2_2 23 rfl rfl
theorem dksX6_does_2_4 : cX6_does_2.data.toList.drop 94 = dktX6_does_2_4 := dk_seg dksX6_does_2_3 24 rfl rfl
theorem dksX6_does_2_5 : cX6_does_2.data.toList.drop 117 = dktX6_does_2_5 := dk_seg dksX6_does_2_4 23 rfl rfl
theorem dX6_does_2_0 : decode cX6_does_2 0 = .ok (.aload_n 0, 1) := dk_42 (dk_at dksX6_does_2_0 0 rfl rfl)
theorem dX6_does_2_1 : decode cX6_does_2 1 = .ok (.iload_n 1, 1) := dk_27 (dk_at dksX6_does_2_0 1 rfl rfl)
theorem dX6_does_2_2 : decode cX6_does_2 2 = .ok (.iload 4, 2) := dk_21 4 (dk_at dksX6_does_2_0 2 rfl rfl)
theorem dX6_does_2_4 : decode cX6_does_2 4 = .ok (.invokevirtual 303, 3) := dk_182 1 47 (dk_at dksX6_does_2_0 4 rfl rfl)
theorem dX6_does_2_7 : decode cX6_does_2 7 = .ok (.istore 5, 2) := dk_54 5 (dk_at dksX6_does_2_0 7 rfl rfl)
theorem dX6_does_2_9 : decode cX6_does_2 9 = .ok (.iconst 0, 1) := dk_3 (dk_at dksX6_does_2_0 9 rfl rfl)
theorem dX6_does_2_10 : decode cX6_does_2 10 = .ok (.istore 6, 2) := dk_54 6 (dk_at dksX6_does_2_0 10 rfl rfl)
theorem dX6_does_2_12 : decode cX6_does_2 12 = .ok (.iload 6, 2) := dk_21 6 (dk_at dksX6_does_2_0 12 rfl rfl)
theorem dX6_does_2_14 : decode cX6_does_2 14 = .ok (.aload_n 0, 1) := dk_42 (dk_at dksX6_does_2_0 14 rfl rfl)
theorem dX6_does_2_15 : decode cX6_does_2 15 = .ok (.invokevirtual 278, 3) := dk_182 1 22 (dk_at dksX6_does_2_0 15 rfl rfl)
theorem dX6_does_2_18 : decode cX6_does_2 18 = .ok (.if_icmp .ge 105, 3) := dk_162 0 105 (dk_at dksX6_does_2_0 18 rfl rfl)
theorem dX6_does_2_21 : decode cX6_does_2 21 = .ok (.iload 5, 2) := dk_21 5 (dk_at dksX6_does_2_0 21 rfl rfl)
theorem dX6_does_2_23 : decode cX6_does_2 23 = .ok (.iload 6, 2) := dk_21 6 (dk_at dksX6_does_2_1 0 rfl rfl)
theorem dX6_does_2_25 : decode cX6_does_2 25 = .ok (.ishr, 1) := dk_122 (dk_at dksX6_does_2_1 2 rfl rfl)
theorem dX6_does_2_26 : decode cX6_does_2 26 = .ok (.iconst 1, 1) := dk_4 (dk_at dksX6_does_2_1 3 rfl rfl)
theorem dX6_does_2_27 : decode cX6_does_2 27 = .ok (.iand, 1) := dk_126 (dk_at dksX6_does_2_1 4 rfl rfl)
theorem dX6_does_2_28 : decode cX6_does_2 28 = .ok (.iconst 1, 1) := dk_4 (dk_at dksX6_does_2_1 5 rfl rfl)
theorem dX6_does_2_29 : decode cX6_does_2 29 = .ok (.if_icmp .ne 88, 3) := dk_160 0 88 (dk_at dksX6_does_2_1 6 rfl rfl)
theorem dX6_does_2_32 : decode cX6_does_2 32 = .ok (.aload_n 0, 1) := dk_42 (dk_at dksX6_does_2_1 9 rfl rfl)
theorem dX6_does_2_33 : decode cX6_does_2 33 = .ok (.getfield 119, 3) := dk_180 0 119 (dk_at dksX6_does_2_1 10 rfl rfl)
theorem dX6_does_2_36 : decode cX6_does_2 36 = .ok (.iload_n 1, 1) := dk_27 (dk_at dksX6_does_2_1 13 rfl rfl)
theorem dX6_does_2_37 : decode cX6_does_2 37 = .ok (.bipush 18, 2) := dk_16 18 (dk_at dksX6_does_2_1 14 rfl rfl)
theorem dX6_does_2_39 : decode cX6_does_2 39 = .ok (.iadd, 1) := dk_96 (dk_at dksX6_does_2_1 16 rfl rfl)
theorem dX6_does_2_40 : decode cX6_does_2 40 = .ok (.iload 6, 2) := dk_21 6 (dk_at dksX6_does_2_1 17 rfl rfl)
theorem dX6_does_2_42 : decode cX6_does_2 42 = .ok (.iadd, 1) := dk_96 (dk_at dksX6_does_2_1 19 rfl rfl)
theorem dX6_does_2_43 : decode cX6_does_2 43 = .ok (.iaload, 1) := dk_46 (dk_at dksX6_does_2_1 20 rfl rfl)
theorem dX6_does_2_44 : decode cX6_does_2 44 = .ok (.aload_n 0, 1) := dk_42 (dk_at dksX6_does_2_1 21 rfl rfl)
theorem dX6_does_2_45 : decode cX6_does_2 45 = .ok (.iload 6, 2) := dk_21 6 (dk_at dksX6_does_2_1 22 rfl rfl)
theorem dX6_does_2_47 : decode cX6_does_2 47 = .ok (.iconst 1, 1) := dk_4 (dk_at dksX6_does_2_2 0 rfl rfl)
theorem dX6_does_2_48 : decode cX6_does_2 48 = .ok (.invokevirtual 284, 3) := dk_182 1 28 (dk_at dksX6_does_2_2 1 rfl rfl)
theorem dX6_does_2_51 : decode cX6_does_2 51 = .ok (.if_icmp .ne 11, 3) := dk_160 0 11 (dk_at dksX6_does_2_2 4 rfl rfl)
theorem dX6_does_2_54 : decode cX6_does_2 54 = .ok (.aload_n 0, 1) := dk_42 (dk_at dksX6_does_2_2 7 rfl rfl)
theorem dX6_does_2_55 : decode cX6_does_2 55 = .ok (.iload_n 1, 1) := dk_27 (dk_at dksX6_does_2_2 8 rfl rfl)
theorem dX6_does_2_56 : decode cX6_does_2 56 = .ok (.iload 6, 2) := dk_21 6 (dk_at dksX6_does_2_2 9 rfl rfl)
theorem dX6_does_2_58 : decode cX6_does_2 58 = .ok (.iconst 0, 1) := dk_3 (dk_at dksX6_does_2_2 11 rfl rfl)
theorem dX6_does_2_59 : decode cX6_does_2 59 = .ok (.invokevirtual 306, 3) := dk_182 1 50 (dk_at dksX6_does_2_2 12 rfl rfl)
theorem dX6_does_2_62 : decode cX6_does_2 62 = .ok (.aload_n 0, 1) := dk_42 (dk_at dksX6_does_2_2 15 rfl rfl)
theorem dX6_does_2_63 : decode cX6_does_2 63 = .ok (.getfield 119, 3) := dk_180 0 119 (dk_at dksX6_does_2_2 16 rfl rfl)
theorem dX6_does_2_66 : decode cX6_does_2 66 = .ok (.iload_n 1, 1) := dk_27 (dk_at dksX6_does_2_2 19 rfl rfl)
theorem dX6_does_2_67 : decode cX6_does_2 67 = .ok (.bipush 24, 2) := dk_16 24 (dk_at dksX6_does_2_2 20 rfl rfl)
theorem dX6_does_2_69 : decode cX6_does_2 69 = .ok (.iadd, 1) := dk_96 (dk_at dksX6_does_2_2 22 rfl rfl)
theorem dX6_does_2_70 : decode cX6_does_2 70 = .ok (.bipush 6, 2) := dk_16 6 (dk_at dksX6_does_2_3 0 rfl rfl)
theorem dX6_does_2_72 : decode cX6_does_2 72 = .ok (.iload 6, 2) := dk_21 6 (dk_at dksX6_does_2_3 2 rfl rfl)
theorem dX6_does_2_74 : decode cX6_does_2 74 = .ok (.imul, 1) := dk_104 (dk_at dksX6_does_2_3 4 rfl rfl)
theorem dX6_does_2_75 : decode cX6_does_2 75 = .ok (.iadd, 1) := dk_96 (dk_at dksX6_does_2_3 5 rfl rfl)
theorem dX6_does_2_76 : decode cX6_does_2 76 = .ok (.aload_n 0, 1) := dk_42 (dk_at dksX6_does_2_3 6 rfl rfl)
theorem dX6_does_2_77 : decode cX6_does_2 77 = .ok (.getfield 119, 3) := dk_180 0 119 (dk_at dksX6_does_2_3 7 rfl rfl)
theorem dX6_does_2_80 : decode cX6_does_2 80 = .ok (.iload_n 1, 1) := dk_27 (dk_at dksX6_does_2_3 10 rfl rfl)
theorem dX6_does_2_81 : decode cX6_does_2 81 = .ok (.bipush 18, 2) := dk_16 18 (dk_at dksX6_does_2_3 11 rfl rfl)
theorem dX6_does_2_83 : decode cX6_does_2 83 = .ok (.iadd, 1) := dk_96 (dk_at dksX6_does_2_3 13 rfl rfl)
theorem dX6_does_2_84 : decode cX6_does_2 84 = .ok (.iload 6, 2) := dk_21 6 (dk_at dksX6_does_2_3 14 rfl rfl)
theorem dX6_does_2_86 : decode cX6_does_2 86 = .ok (.iadd, 1) := dk_96 (dk_at dksX6_does_2_3 16 rfl rfl)
theorem dX6_does_2_87 : decode cX6_does_2 87 = .ok (.iaload, 1) := dk_46 (dk_at dksX6_does_2_3 17 rfl rfl)
theorem dX6_does_2_88 : decode cX6_does_2 88 = .ok (.iadd, 1) := dk_96 (dk_at dksX6_does_2_3 18 rfl rfl)
theorem dX6_does_2_89 : decode cX6_does_2 89 = .ok (.iload 4, 2) := dk_21 4 (dk_at dksX6_does_2_3 19 rfl rfl)
theorem dX6_does_2_91 : decode cX6_does_2 91 = .ok (.bipush 6, 2) := dk_16 6 (dk_at dksX6_does_2_3 21 rfl rfl)
theorem dX6_does_2_93 : decode cX6_does_2 93 = .ok (.ishl, 1) := dk_120 (dk_at dksX6_does_2_3 23 rfl rfl)
theorem dX6_does_2_94 : decode cX6_does_2 94 = .ok (.iload_n 3, 1) := dk_29 (dk_at dksX6_does_2_4 0 rfl rfl)
theorem dX6_does_2_95 : decode cX6_does_2 95 = .ok (.iconst 3, 1) := dk_6 (dk_at dksX6_does_2_4 1 rfl rfl)
theorem dX6_does_2_96 : decode cX6_does_2 96 = .ok (.ishl, 1) := dk_120 (dk_at dksX6_does_2_4 2 rfl rfl)
theorem dX6_does_2_97 : decode cX6_does_2 97 = .ok (.ior, 1) := dk_128 (dk_at dksX6_does_2_4 3 rfl rfl)
theorem dX6_does_2_98 : decode cX6_does_2 98 = .ok (.iload_n 2, 1) := dk_28 (dk_at dksX6_does_2_4 4 rfl rfl)
theorem dX6_does_2_99 : decode cX6_does_2 99 = .ok (.ior, 1) := dk_128 (dk_at dksX6_does_2_4 5 rfl rfl)
theorem dX6_does_2_100 : decode cX6_does_2 100 = .ok (.iastore, 1) := dk_79 (dk_at dksX6_does_2_4 6 rfl rfl)
theorem dX6_does_2_101 : decode cX6_does_2 101 = .ok (.aload_n 0, 1) := dk_42 (dk_at dksX6_does_2_4 7 rfl rfl)
theorem dX6_does_2_102 : decode cX6_does_2 102 = .ok (.getfield 119, 3) := dk_180 0 119 (dk_at dksX6_does_2_4 8 rfl rfl)
theorem dX6_does_2_105 : decode cX6_does_2 105 = .ok (.iload_n 1, 1) := dk_27 (dk_at dksX6_does_2_4 11 rfl rfl)
theorem dX6_does_2_106 : decode cX6_does_2 106 = .ok (.bipush 18, 2) := dk_16 18 (dk_at dksX6_does_2_4 12 rfl rfl)
theorem dX6_does_2_108 : decode cX6_does_2 108 = .ok (.iadd, 1) := dk_96 (dk_at dksX6_does_2_4 14 rfl rfl)
theorem dX6_does_2_109 : decode cX6_does_2 109 = .ok (.iload 6, 2) := dk_21 6 (dk_at dksX6_does_2_4 15 rfl rfl)
theorem dX6_does_2_111 : decode cX6_does_2 111 = .ok (.iadd, 1) := dk_96 (dk_at dksX6_does_2_4 17 rfl rfl)
theorem dX6_does_2_112 : decode cX6_does_2 112 = .ok (.dup2, 1) := dk_92 (dk_at dksX6_does_2_4 18 rfl rfl)
theorem dX6_does_2_113 : decode cX6_does_2 113 = .ok (.iaload, 1) := dk_46 (dk_at dksX6_does_2_4 19 rfl rfl)
theorem dX6_does_2_114 : decode cX6_does_2 114 = .ok (.iconst 1, 1) := dk_4 (dk_at dksX6_does_2_4 20 rfl rfl)
theorem dX6_does_2_115 : decode cX6_does_2 115 = .ok (.iadd, 1) := dk_96 (dk_at dksX6_does_2_4 21 rfl rfl)
theorem dX6_does_2_116 : decode cX6_does_2 116 = .ok (.iastore, 1) := dk_79 (dk_at dksX6_does_2_4 22 rfl rfl)
theorem dX6_does_2_117 : decode cX6_does_2 117 = .ok (.iinc 6 1, 3) := dk_132 6 1 (dk_at dksX6_does_2_5 0 rfl rfl)
theorem dX6_does_2_120 : decode cX6_does_2 120 = .ok (.goto (-108), 3) := dk_167 255 148 (dk_at dksX6_does_2_5 3 rfl rfl)
theorem dX6_does_2_123 : decode cX6_does_2 123 = .ok (.iload 5, 2) := dk_21 5 (dk_at dksX6_does_2_5 6 rfl rfl)
theorem dX6_does_2_125 : decode cX6_does_2 125 = .ok (.ireturn, 1) := dk_172 (dk_at dksX6_does_2_5 8 rfl rfl)
abbrev cX6_seersOf : ByteArray := prog_24_method_56_code
def yX6_seersOf : MethodName := ⟨RX6, "seersOf", "(II)I"⟩
def dkwX6_seersOf_1 : List UInt8 := [153, 0, 10, 4, 21, 4, 120, 167, 0, 4, 3, 128, 62, 132, 4, 1, 167, 255, 222, 29, 172]
abbrev dktX6_seersOf_1 : List UInt8 := dkwX6_seersOf_1 ++ []
def dkwX6_seersOf_0 : List UInt8 := [3, 62, 3, 54, 4, 21, 4, 42, 182, 1, 22, 162, 0, 31, 29, 42, 27, 21, 4, 28, 182, 1, 41]
abbrev dktX6_seersOf_0 : List UInt8 := dkwX6_seersOf_0 ++ dktX6_seersOf_1
theorem dksX6_seersOf_0 : cX6_seersOf.data.toList.drop 0 = dktX6_seersOf_0 := by decide +kernel
theorem dksX6_seersOf_1 : cX6_seersOf.data.toList.drop 23 = dktX6_seersOf_1 := dk_seg dksX6_seersOf_0 23 rfl rfl
theorem dX6_seersOf_0 : decode cX6_seersOf 0 = .ok (.iconst 0, 1) := dk_3 (dk_at dksX6_seersOf_0 0 rfl rfl)
theorem dX6_seersOf_1 : decode cX6_seersOf 1 = .ok (.istore_n 3, 1) := dk_62 (dk_at dksX6_seersOf_0 1 rfl rfl)
theorem dX6_seersOf_2 : decode cX6_seersOf 2 = .ok (.iconst 0, 1) := dk_3 (dk_at dksX6_seersOf_0 2 rfl rfl)
theorem dX6_seersOf_3 : decode cX6_seersOf 3 = .ok (.istore 4, 2) := dk_54 4 (dk_at dksX6_seersOf_0 3 rfl rfl)
theorem dX6_seersOf_5 : decode cX6_seersOf 5 = .ok (.iload 4, 2) := dk_21 4 (dk_at dksX6_seersOf_0 5 rfl rfl)
theorem dX6_seersOf_7 : decode cX6_seersOf 7 = .ok (.aload_n 0, 1) := dk_42 (dk_at dksX6_seersOf_0 7 rfl rfl)
theorem dX6_seersOf_8 : decode cX6_seersOf 8 = .ok (.invokevirtual 278, 3) := dk_182 1 22 (dk_at dksX6_seersOf_0 8 rfl rfl)
theorem dX6_seersOf_11 : decode cX6_seersOf 11 = .ok (.if_icmp .ge 31, 3) := dk_162 0 31 (dk_at dksX6_seersOf_0 11 rfl rfl)
theorem dX6_seersOf_14 : decode cX6_seersOf 14 = .ok (.iload_n 3, 1) := dk_29 (dk_at dksX6_seersOf_0 14 rfl rfl)
theorem dX6_seersOf_15 : decode cX6_seersOf 15 = .ok (.aload_n 0, 1) := dk_42 (dk_at dksX6_seersOf_0 15 rfl rfl)
theorem dX6_seersOf_16 : decode cX6_seersOf 16 = .ok (.iload_n 1, 1) := dk_27 (dk_at dksX6_seersOf_0 16 rfl rfl)
theorem dX6_seersOf_17 : decode cX6_seersOf 17 = .ok (.iload 4, 2) := dk_21 4 (dk_at dksX6_seersOf_0 17 rfl rfl)
theorem dX6_seersOf_19 : decode cX6_seersOf 19 = .ok (.iload_n 2, 1) := dk_28 (dk_at dksX6_seersOf_0 19 rfl rfl)
theorem dX6_seersOf_20 : decode cX6_seersOf 20 = .ok (.invokevirtual 297, 3) := dk_182 1 41 (dk_at dksX6_seersOf_0 20 rfl rfl)
theorem dX6_seersOf_23 : decode cX6_seersOf 23 = .ok (.ifCond .eq 10, 3) := dk_153 0 10 (dk_at dksX6_seersOf_1 0 rfl rfl)
theorem dX6_seersOf_26 : decode cX6_seersOf 26 = .ok (.iconst 1, 1) := dk_4 (dk_at dksX6_seersOf_1 3 rfl rfl)
theorem dX6_seersOf_27 : decode cX6_seersOf 27 = .ok (.iload 4, 2) := dk_21 4 (dk_at dksX6_seersOf_1 4 rfl rfl)
theorem dX6_seersOf_29 : decode cX6_seersOf 29 = .ok (.ishl, 1) := dk_120 (dk_at dksX6_seersOf_1 6 rfl rfl)
theorem dX6_seersOf_30 : decode cX6_seersOf 30 = .ok (.goto 4, 3) := dk_167 0 4 (dk_at dksX6_seersOf_1 7 rfl rfl)
theorem dX6_seersOf_33 : decode cX6_seersOf 33 = .ok (.iconst 0, 1) := dk_3 (dk_at dksX6_seersOf_1 10 rfl rfl)
theorem dX6_seersOf_34 : decode cX6_seersOf 34 = .ok (.ior, 1) := dk_128 (dk_at dksX6_seersOf_1 11 rfl rfl)
theorem dX6_seersOf_35 : decode cX6_seersOf 35 = .ok (.istore_n 3, 1) := dk_62 (dk_at dksX6_seersOf_1 12 rfl rfl)
theorem dX6_seersOf_36 : decode cX6_seersOf 36 = .ok (.iinc 4 1, 3) := dk_132 4 1 (dk_at dksX6_seersOf_1 13 rfl rfl)
theorem dX6_seersOf_39 : decode cX6_seersOf 39 = .ok (.goto (-34), 3) := dk_167 255 222 (dk_at dksX6_seersOf_1 16 rfl rfl)
theorem dX6_seersOf_42 : decode cX6_seersOf 42 = .ok (.iload_n 3, 1) := dk_29 (dk_at dksX6_seersOf_1 19 rfl rfl)
theorem dX6_seersOf_43 : decode cX6_seersOf 43 = .ok (.ireturn, 1) := dk_172 (dk_at dksX6_seersOf_1 20 rfl rfl)
abbrev cX6_doesSee : ByteArray := prog_24_method_55_code
def yX6_doesSee : MethodName := ⟨RX6, "doesSee", "(III)Z"⟩
def dkwX6_doesSee_0 : List UInt8 := [42, 27, 28, 182, 1, 38, 29, 122, 4, 126, 4, 160, 0, 7, 4, 167, 0, 4, 3, 172]
abbrev dktX6_doesSee_0 : List UInt8 := dkwX6_doesSee_0 ++ []
theorem dksX6_doesSee_0 : cX6_doesSee.data.toList.drop 0 = dktX6_doesSee_0 := by decide +kernel
theorem dX6_doesSee_0 : decode cX6_doesSee 0 = .ok (.aload_n 0, 1) := dk_42 (dk_at dksX6_doesSee_0 0 rfl rfl)
theorem dX6_doesSee_1 : decode cX6_doesSee 1 = .ok (.iload_n 1, 1) := dk_27 (dk_at dksX6_doesSee_0 1 rfl rfl)
theorem dX6_doesSee_2 : decode cX6_doesSee 2 = .ok (.iload_n 2, 1) := dk_28 (dk_at dksX6_doesSee_0 2 rfl rfl)
theorem dX6_doesSee_3 : decode cX6_doesSee 3 = .ok (.invokevirtual 294, 3) := dk_182 1 38 (dk_at dksX6_doesSee_0 3 rfl rfl)
theorem dX6_doesSee_6 : decode cX6_doesSee 6 = .ok (.iload_n 3, 1) := dk_29 (dk_at dksX6_doesSee_0 6 rfl rfl)
theorem dX6_doesSee_7 : decode cX6_doesSee 7 = .ok (.ishr, 1) := dk_122 (dk_at dksX6_doesSee_0 7 rfl rfl)
theorem dX6_doesSee_8 : decode cX6_doesSee 8 = .ok (.iconst 1, 1) := dk_4 (dk_at dksX6_doesSee_0 8 rfl rfl)
theorem dX6_doesSee_9 : decode cX6_doesSee 9 = .ok (.iand, 1) := dk_126 (dk_at dksX6_doesSee_0 9 rfl rfl)
theorem dX6_doesSee_10 : decode cX6_doesSee 10 = .ok (.iconst 1, 1) := dk_4 (dk_at dksX6_doesSee_0 10 rfl rfl)
theorem dX6_doesSee_11 : decode cX6_doesSee 11 = .ok (.if_icmp .ne 7, 3) := dk_160 0 7 (dk_at dksX6_doesSee_0 11 rfl rfl)
theorem dX6_doesSee_14 : decode cX6_doesSee 14 = .ok (.iconst 1, 1) := dk_4 (dk_at dksX6_doesSee_0 14 rfl rfl)
theorem dX6_doesSee_15 : decode cX6_doesSee 15 = .ok (.goto 4, 3) := dk_167 0 4 (dk_at dksX6_doesSee_0 15 rfl rfl)
theorem dX6_doesSee_18 : decode cX6_doesSee 18 = .ok (.iconst 0, 1) := dk_3 (dk_at dksX6_doesSee_0 18 rfl rfl)
theorem dX6_doesSee_19 : decode cX6_doesSee 19 = .ok (.ireturn, 1) := dk_172 (dk_at dksX6_doesSee_0 19 rfl rfl)
abbrev cX6_forgets : ByteArray := prog_24_method_62_code
def yX6_forgets : MethodName := ⟨RX6, "forgets", "(III)V"⟩
def dkwX6_forgets_2 : List UInt8 := [21, 4, 96, 42, 27, 28, 21, 4, 4, 96, 182, 1, 44, 79, 132, 4, 1, 167, 255, 210, 177]
abbrev dktX6_forgets_2 : List UInt8 := dkwX6_forgets_2 ++ []
def dkwX6_forgets_1 : List UInt8 := [27, 16, 18, 96, 28, 96, 46, 162, 0, 36, 42, 180, 0, 119, 27, 16, 24, 96, 16, 6, 28, 104, 96]
abbrev dktX6_forgets_1 : List UInt8 := dkwX6_forgets_1 ++ dktX6_forgets_2
def dkwX6_forgets_0 : List UInt8 := [42, 180, 0, 119, 27, 16, 18, 96, 28, 96, 92, 46, 4, 100, 79, 29, 54, 4, 21, 4, 42, 180, 0, 119]
abbrev dktX6_forgets_0 : List UInt8 := dkwX6_forgets_0 ++ dktX6_forgets_1
theorem dksX6_forgets_0 : cX6_forgets.data.toList.drop 0 = dktX6_forgets_0 := by decide +kernel
theorem dksX6_forgets_1 : cX6_forgets.data.toList.drop 24 = dktX6_forgets_1 := dk_seg dksX6_forgets_0 24 rfl rfl
theorem dksX6_forgets_2 : cX6_forgets.data.toList.drop 47 = dktX6_forgets_2 := dk_seg dksX6_forgets_1 23 rfl rfl
theorem dX6_forgets_0 : decode cX6_forgets 0 = .ok (.aload_n 0, 1) := dk_42 (dk_at dksX6_forgets_0 0 rfl rfl)
theorem dX6_forgets_1 : decode cX6_forgets 1 = .ok (.getfield 119, 3) := dk_180 0 119 (dk_at dksX6_forgets_0 1 rfl rfl)
theorem dX6_forgets_4 : decode cX6_forgets 4 = .ok (.iload_n 1, 1) := dk_27 (dk_at dksX6_forgets_0 4 rfl rfl)
theorem dX6_forgets_5 : decode cX6_forgets 5 = .ok (.bipush 18, 2) := dk_16 18 (dk_at dksX6_forgets_0 5 rfl rfl)
theorem dX6_forgets_7 : decode cX6_forgets 7 = .ok (.iadd, 1) := dk_96 (dk_at dksX6_forgets_0 7 rfl rfl)
theorem dX6_forgets_8 : decode cX6_forgets 8 = .ok (.iload_n 2, 1) := dk_28 (dk_at dksX6_forgets_0 8 rfl rfl)
theorem dX6_forgets_9 : decode cX6_forgets 9 = .ok (.iadd, 1) := dk_96 (dk_at dksX6_forgets_0 9 rfl rfl)
theorem dX6_forgets_10 : decode cX6_forgets 10 = .ok (.dup2, 1) := dk_92 (dk_at dksX6_forgets_0 10 rfl rfl)
theorem dX6_forgets_11 : decode cX6_forgets 11 = .ok (.iaload, 1) := dk_46 (dk_at dksX6_forgets_0 11 rfl rfl)
theorem dX6_forgets_12 : decode cX6_forgets 12 = .ok (.iconst 1, 1) := dk_4 (dk_at dksX6_forgets_0 12 rfl rfl)
theorem dX6_forgets_13 : decode cX6_forgets 13 = .ok (.isub, 1) := dk_100 (dk_at dksX6_forgets_0 13 rfl rfl)
theorem dX6_forgets_14 : decode cX6_forgets 14 = .ok (.iastore, 1) := dk_79 (dk_at dksX6_forgets_0 14 rfl rfl)
theorem dX6_forgets_15 : decode cX6_forgets 15 = .ok (.iload_n 3, 1) := dk_29 (dk_at dksX6_forgets_0 15 rfl rfl)
theorem dX6_forgets_16 : decode cX6_forgets 16 = .ok (.istore 4, 2) := dk_54 4 (dk_at dksX6_forgets_0 16 rfl rfl)
theorem dX6_forgets_18 : decode cX6_forgets 18 = .ok (.iload 4, 2) := dk_21 4 (dk_at dksX6_forgets_0 18 rfl rfl)
theorem dX6_forgets_20 : decode cX6_forgets 20 = .ok (.aload_n 0, 1) := dk_42 (dk_at dksX6_forgets_0 20 rfl rfl)
theorem dX6_forgets_21 : decode cX6_forgets 21 = .ok (.getfield 119, 3) := dk_180 0 119 (dk_at dksX6_forgets_0 21 rfl rfl)
theorem dX6_forgets_24 : decode cX6_forgets 24 = .ok (.iload_n 1, 1) := dk_27 (dk_at dksX6_forgets_1 0 rfl rfl)
theorem dX6_forgets_25 : decode cX6_forgets 25 = .ok (.bipush 18, 2) := dk_16 18 (dk_at dksX6_forgets_1 1 rfl rfl)
theorem dX6_forgets_27 : decode cX6_forgets 27 = .ok (.iadd, 1) := dk_96 (dk_at dksX6_forgets_1 3 rfl rfl)
theorem dX6_forgets_28 : decode cX6_forgets 28 = .ok (.iload_n 2, 1) := dk_28 (dk_at dksX6_forgets_1 4 rfl rfl)
theorem dX6_forgets_29 : decode cX6_forgets 29 = .ok (.iadd, 1) := dk_96 (dk_at dksX6_forgets_1 5 rfl rfl)
theorem dX6_forgets_30 : decode cX6_forgets 30 = .ok (.iaload, 1) := dk_46 (dk_at dksX6_forgets_1 6 rfl rfl)
theorem dX6_forgets_31 : decode cX6_forgets 31 = .ok (.if_icmp .ge 36, 3) := dk_162 0 36 (dk_at dksX6_forgets_1 7 rfl rfl)
theorem dX6_forgets_34 : decode cX6_forgets 34 = .ok (.aload_n 0, 1) := dk_42 (dk_at dksX6_forgets_1 10 rfl rfl)
theorem dX6_forgets_35 : decode cX6_forgets 35 = .ok (.getfield 119, 3) := dk_180 0 119 (dk_at dksX6_forgets_1 11 rfl rfl)
theorem dX6_forgets_38 : decode cX6_forgets 38 = .ok (.iload_n 1, 1) := dk_27 (dk_at dksX6_forgets_1 14 rfl rfl)
theorem dX6_forgets_39 : decode cX6_forgets 39 = .ok (.bipush 24, 2) := dk_16 24 (dk_at dksX6_forgets_1 15 rfl rfl)
theorem dX6_forgets_41 : decode cX6_forgets 41 = .ok (.iadd, 1) := dk_96 (dk_at dksX6_forgets_1 17 rfl rfl)
theorem dX6_forgets_42 : decode cX6_forgets 42 = .ok (.bipush 6, 2) := dk_16 6 (dk_at dksX6_forgets_1 18 rfl rfl)
theorem dX6_forgets_44 : decode cX6_forgets 44 = .ok (.iload_n 2, 1) := dk_28 (dk_at dksX6_forgets_1 20 rfl rfl)
theorem dX6_forgets_45 : decode cX6_forgets 45 = .ok (.imul, 1) := dk_104 (dk_at dksX6_forgets_1 21 rfl rfl)
theorem dX6_forgets_46 : decode cX6_forgets 46 = .ok (.iadd, 1) := dk_96 (dk_at dksX6_forgets_1 22 rfl rfl)
theorem dX6_forgets_47 : decode cX6_forgets 47 = .ok (.iload 4, 2) := dk_21 4 (dk_at dksX6_forgets_2 0 rfl rfl)
theorem dX6_forgets_49 : decode cX6_forgets 49 = .ok (.iadd, 1) := dk_96 (dk_at dksX6_forgets_2 2 rfl rfl)
theorem dX6_forgets_50 : decode cX6_forgets 50 = .ok (.aload_n 0, 1) := dk_42 (dk_at dksX6_forgets_2 3 rfl rfl)
theorem dX6_forgets_51 : decode cX6_forgets 51 = .ok (.iload_n 1, 1) := dk_27 (dk_at dksX6_forgets_2 4 rfl rfl)
theorem dX6_forgets_52 : decode cX6_forgets 52 = .ok (.iload_n 2, 1) := dk_28 (dk_at dksX6_forgets_2 5 rfl rfl)
theorem dX6_forgets_53 : decode cX6_forgets 53 = .ok (.iload 4, 2) := dk_21 4 (dk_at dksX6_forgets_2 6 rfl rfl)
theorem dX6_forgets_55 : decode cX6_forgets 55 = .ok (.iconst 1, 1) := dk_4 (dk_at dksX6_forgets_2 8 rfl rfl)
theorem dX6_forgets_56 : decode cX6_forgets 56 = .ok (.iadd, 1) := dk_96 (dk_at dksX6_forgets_2 9 rfl rfl)
theorem dX6_forgets_57 : decode cX6_forgets 57 = .ok (.invokevirtual 300, 3) := dk_182 1 44 (dk_at dksX6_forgets_2 10 rfl rfl)
theorem dX6_forgets_60 : decode cX6_forgets 60 = .ok (.iastore, 1) := dk_79 (dk_at dksX6_forgets_2 13 rfl rfl)
theorem dX6_forgets_61 : decode cX6_forgets 61 = .ok (.iinc 4 1, 3) := dk_132 4 1 (dk_at dksX6_forgets_2 14 rfl rfl)
theorem dX6_forgets_64 : decode cX6_forgets 64 = .ok (.goto (-46), 3) := dk_167 255 210 (dk_at dksX6_forgets_2 17 rfl rfl)
theorem dX6_forgets_67 : decode cX6_forgets 67 = .ok (.return_, 1) := dk_177 (dk_at dksX6_forgets_2 20 rfl rfl)
abbrev cX6_wash : ByteArray := prog_24_method_78_code
def yX6_wash : MethodName := ⟨RX6, "wash", "(I)I"⟩
def dkwX6_wash_2 : List UInt8 := [96, 46, 172]
abbrev dktX6_wash_2 : List UInt8 := dkwX6_wash_2 ++ []
def dkwX6_wash_1 : List UInt8 := [42, 182, 1, 93, 42, 180, 0, 119, 16, 18, 27, 96, 92, 46, 4, 100, 79, 42, 180, 0, 119, 16, 18, 27]
abbrev dktX6_wash_1 : List UInt8 := dkwX6_wash_1 ++ dktX6_wash_2
def dkwX6_wash_0 : List UInt8 := [42, 3, 181, 0, 1, 42, 27, 182, 1, 81, 153, 0, 12, 42, 3, 27, 182, 1, 102, 154, 0, 5, 2, 172]
abbrev dktX6_wash_0 : List UInt8 := dkwX6_wash_0 ++ dktX6_wash_1
theorem dksX6_wash_0 : cX6_wash.data.toList.drop 0 = dktX6_wash_0 := by decide +kernel
theorem dksX6_wash_1 : cX6_wash.data.toList.drop 24 = dktX6_wash_1 := dk_seg dksX6_wash_0 24 rfl rfl
theorem dksX6_wash_2 : cX6_wash.data.toList.drop 48 = dktX6_wash_2 := dk_seg dksX6_wash_1 24 rfl rfl
theorem dX6_wash_0 : decode cX6_wash 0 = .ok (.aload_n 0, 1) := dk_42 (dk_at dksX6_wash_0 0 rfl rfl)
theorem dX6_wash_1 : decode cX6_wash 1 = .ok (.iconst 0, 1) := dk_3 (dk_at dksX6_wash_0 1 rfl rfl)
theorem dX6_wash_2 : decode cX6_wash 2 = .ok (.putfield 1, 3) := dk_181 0 1 (dk_at dksX6_wash_0 2 rfl rfl)
theorem dX6_wash_5 : decode cX6_wash 5 = .ok (.aload_n 0, 1) := dk_42 (dk_at dksX6_wash_0 5 rfl rfl)
theorem dX6_wash_6 : decode cX6_wash 6 = .ok (.iload_n 1, 1) := dk_27 (dk_at dksX6_wash_0 6 rfl rfl)
theorem dX6_wash_7 : decode cX6_wash 7 = .ok (.invokevirtual 337, 3) := dk_182 1 81 (dk_at dksX6_wash_0 7 rfl rfl)
theorem dX6_wash_10 : decode cX6_wash 10 = .ok (.ifCond .eq 12, 3) := dk_153 0 12 (dk_at dksX6_wash_0 10 rfl rfl)
theorem dX6_wash_13 : decode cX6_wash 13 = .ok (.aload_n 0, 1) := dk_42 (dk_at dksX6_wash_0 13 rfl rfl)
theorem dX6_wash_14 : decode cX6_wash 14 = .ok (.iconst 0, 1) := dk_3 (dk_at dksX6_wash_0 14 rfl rfl)
theorem dX6_wash_15 : decode cX6_wash 15 = .ok (.iload_n 1, 1) := dk_27 (dk_at dksX6_wash_0 15 rfl rfl)
theorem dX6_wash_16 : decode cX6_wash 16 = .ok (.invokevirtual 358, 3) := dk_182 1 102 (dk_at dksX6_wash_0 16 rfl rfl)
theorem dX6_wash_19 : decode cX6_wash 19 = .ok (.ifCond .ne 5, 3) := dk_154 0 5 (dk_at dksX6_wash_0 19 rfl rfl)
theorem dX6_wash_22 : decode cX6_wash 22 = .ok (.iconst (-1), 1) := dk_2 (dk_at dksX6_wash_0 22 rfl rfl)
theorem dX6_wash_23 : decode cX6_wash 23 = .ok (.ireturn, 1) := dk_172 (dk_at dksX6_wash_0 23 rfl rfl)
theorem dX6_wash_24 : decode cX6_wash 24 = .ok (.aload_n 0, 1) := dk_42 (dk_at dksX6_wash_1 0 rfl rfl)
theorem dX6_wash_25 : decode cX6_wash 25 = .ok (.invokevirtual 349, 3) := dk_182 1 93 (dk_at dksX6_wash_1 1 rfl rfl)
theorem dX6_wash_28 : decode cX6_wash 28 = .ok (.aload_n 0, 1) := dk_42 (dk_at dksX6_wash_1 4 rfl rfl)
theorem dX6_wash_29 : decode cX6_wash 29 = .ok (.getfield 119, 3) := dk_180 0 119 (dk_at dksX6_wash_1 5 rfl rfl)
theorem dX6_wash_32 : decode cX6_wash 32 = .ok (.bipush 18, 2) := dk_16 18 (dk_at dksX6_wash_1 8 rfl rfl)
theorem dX6_wash_34 : decode cX6_wash 34 = .ok (.iload_n 1, 1) := dk_27 (dk_at dksX6_wash_1 10 rfl rfl)
theorem dX6_wash_35 : decode cX6_wash 35 = .ok (.iadd, 1) := dk_96 (dk_at dksX6_wash_1 11 rfl rfl)
theorem dX6_wash_36 : decode cX6_wash 36 = .ok (.dup2, 1) := dk_92 (dk_at dksX6_wash_1 12 rfl rfl)
theorem dX6_wash_37 : decode cX6_wash 37 = .ok (.iaload, 1) := dk_46 (dk_at dksX6_wash_1 13 rfl rfl)
theorem dX6_wash_38 : decode cX6_wash 38 = .ok (.iconst 1, 1) := dk_4 (dk_at dksX6_wash_1 14 rfl rfl)
theorem dX6_wash_39 : decode cX6_wash 39 = .ok (.isub, 1) := dk_100 (dk_at dksX6_wash_1 15 rfl rfl)
theorem dX6_wash_40 : decode cX6_wash 40 = .ok (.iastore, 1) := dk_79 (dk_at dksX6_wash_1 16 rfl rfl)
theorem dX6_wash_41 : decode cX6_wash 41 = .ok (.aload_n 0, 1) := dk_42 (dk_at dksX6_wash_1 17 rfl rfl)
theorem dX6_wash_42 : decode cX6_wash 42 = .ok (.getfield 119, 3) := dk_180 0 119 (dk_at dksX6_wash_1 18 rfl rfl)
theorem dX6_wash_45 : decode cX6_wash 45 = .ok (.bipush 18, 2) := dk_16 18 (dk_at dksX6_wash_1 21 rfl rfl)
theorem dX6_wash_47 : decode cX6_wash 47 = .ok (.iload_n 1, 1) := dk_27 (dk_at dksX6_wash_1 23 rfl rfl)
theorem dX6_wash_48 : decode cX6_wash 48 = .ok (.iadd, 1) := dk_96 (dk_at dksX6_wash_2 0 rfl rfl)
theorem dX6_wash_49 : decode cX6_wash 49 = .ok (.iaload, 1) := dk_46 (dk_at dksX6_wash_2 1 rfl rfl)
theorem dX6_wash_50 : decode cX6_wash 50 = .ok (.ireturn, 1) := dk_172 (dk_at dksX6_wash_2 2 rfl rfl)
abbrev cX6_mayWash : ByteArray := prog_24_method_77_code
def yX6_mayWash : MethodName := ⟨RX6, "mayWash", "(II)Z"⟩
def dkwX6_mayWash_1 : List UInt8 := [167, 0, 4, 3, 172]
abbrev dktX6_mayWash_1 : List UInt8 := dkwX6_mayWash_1 ++ []
def dkwX6_mayWash_0 : List UInt8 := [42, 27, 28, 182, 1, 31, 153, 0, 21, 42, 180, 0, 119, 27, 16, 18, 96, 28, 96, 46, 158, 0, 7, 4]
abbrev dktX6_mayWash_0 : List UInt8 := dkwX6_mayWash_0 ++ dktX6_mayWash_1
theorem dksX6_mayWash_0 : cX6_mayWash.data.toList.drop 0 = dktX6_mayWash_0 := by decide +kernel
theorem dksX6_mayWash_1 : cX6_mayWash.data.toList.drop 24 = dktX6_mayWash_1 := dk_seg dksX6_mayWash_0 24 rfl rfl
theorem dX6_mayWash_0 : decode cX6_mayWash 0 = .ok (.aload_n 0, 1) := dk_42 (dk_at dksX6_mayWash_0 0 rfl rfl)
theorem dX6_mayWash_1 : decode cX6_mayWash 1 = .ok (.iload_n 1, 1) := dk_27 (dk_at dksX6_mayWash_0 1 rfl rfl)
theorem dX6_mayWash_2 : decode cX6_mayWash 2 = .ok (.iload_n 2, 1) := dk_28 (dk_at dksX6_mayWash_0 2 rfl rfl)
theorem dX6_mayWash_3 : decode cX6_mayWash 3 = .ok (.invokevirtual 287, 3) := dk_182 1 31 (dk_at dksX6_mayWash_0 3 rfl rfl)
theorem dX6_mayWash_6 : decode cX6_mayWash 6 = .ok (.ifCond .eq 21, 3) := dk_153 0 21 (dk_at dksX6_mayWash_0 6 rfl rfl)
theorem dX6_mayWash_9 : decode cX6_mayWash 9 = .ok (.aload_n 0, 1) := dk_42 (dk_at dksX6_mayWash_0 9 rfl rfl)
theorem dX6_mayWash_10 : decode cX6_mayWash 10 = .ok (.getfield 119, 3) := dk_180 0 119 (dk_at dksX6_mayWash_0 10 rfl rfl)
theorem dX6_mayWash_13 : decode cX6_mayWash 13 = .ok (.iload_n 1, 1) := dk_27 (dk_at dksX6_mayWash_0 13 rfl rfl)
theorem dX6_mayWash_14 : decode cX6_mayWash 14 = .ok (.bipush 18, 2) := dk_16 18 (dk_at dksX6_mayWash_0 14 rfl rfl)
theorem dX6_mayWash_16 : decode cX6_mayWash 16 = .ok (.iadd, 1) := dk_96 (dk_at dksX6_mayWash_0 16 rfl rfl)
theorem dX6_mayWash_17 : decode cX6_mayWash 17 = .ok (.iload_n 2, 1) := dk_28 (dk_at dksX6_mayWash_0 17 rfl rfl)
theorem dX6_mayWash_18 : decode cX6_mayWash 18 = .ok (.iadd, 1) := dk_96 (dk_at dksX6_mayWash_0 18 rfl rfl)
theorem dX6_mayWash_19 : decode cX6_mayWash 19 = .ok (.iaload, 1) := dk_46 (dk_at dksX6_mayWash_0 19 rfl rfl)
theorem dX6_mayWash_20 : decode cX6_mayWash 20 = .ok (.ifCond .le 7, 3) := dk_158 0 7 (dk_at dksX6_mayWash_0 20 rfl rfl)
theorem dX6_mayWash_23 : decode cX6_mayWash 23 = .ok (.iconst 1, 1) := dk_4 (dk_at dksX6_mayWash_0 23 rfl rfl)
theorem dX6_mayWash_24 : decode cX6_mayWash 24 = .ok (.goto 4, 3) := dk_167 0 4 (dk_at dksX6_mayWash_1 0 rfl rfl)
theorem dX6_mayWash_27 : decode cX6_mayWash 27 = .ok (.iconst 0, 1) := dk_3 (dk_at dksX6_mayWash_1 3 rfl rfl)
theorem dX6_mayWash_28 : decode cX6_mayWash 28 = .ok (.ireturn, 1) := dk_172 (dk_at dksX6_mayWash_1 4 rfl rfl)
abbrev cX6_curtain : ByteArray := prog_24_method_79_code
def yX6_curtain : MethodName := ⟨RX6, "curtain", "(I)Z"⟩
def dkwX6_curtain_2 : List UInt8 := [4, 172]
abbrev dktX6_curtain_2 : List UInt8 := dkwX6_curtain_2 ++ []
def dkwX6_curtain_1 : List UInt8 := [42, 182, 1, 93, 42, 180, 0, 119, 16, 6, 27, 96, 4, 42, 180, 0, 119, 16, 6, 27, 96, 46, 100, 79]
abbrev dktX6_curtain_1 : List UInt8 := dkwX6_curtain_1 ++ dktX6_curtain_2
def dkwX6_curtain_0 : List UInt8 := [42, 3, 181, 0, 1, 42, 27, 182, 1, 81, 153, 0, 12, 42, 3, 27, 182, 1, 31, 154, 0, 5, 3, 172]
abbrev dktX6_curtain_0 : List UInt8 := dkwX6_curtain_0 ++ dktX6_curtain_1
theorem dksX6_curtain_0 : cX6_curtain.data.toList.drop 0 = dktX6_curtain_0 := by decide +kernel
theorem dksX6_curtain_1 : cX6_curtain.data.toList.drop 24 = dktX6_curtain_1 := dk_seg dksX6_curtain_0 24 rfl rfl
theorem dksX6_curtain_2 : cX6_curtain.data.toList.drop 48 = dktX6_curtain_2 := dk_seg dksX6_curtain_1 24 rfl rfl
theorem dX6_curtain_0 : decode cX6_curtain 0 = .ok (.aload_n 0, 1) := dk_42 (dk_at dksX6_curtain_0 0 rfl rfl)
theorem dX6_curtain_1 : decode cX6_curtain 1 = .ok (.iconst 0, 1) := dk_3 (dk_at dksX6_curtain_0 1 rfl rfl)
theorem dX6_curtain_2 : decode cX6_curtain 2 = .ok (.putfield 1, 3) := dk_181 0 1 (dk_at dksX6_curtain_0 2 rfl rfl)
theorem dX6_curtain_5 : decode cX6_curtain 5 = .ok (.aload_n 0, 1) := dk_42 (dk_at dksX6_curtain_0 5 rfl rfl)
theorem dX6_curtain_6 : decode cX6_curtain 6 = .ok (.iload_n 1, 1) := dk_27 (dk_at dksX6_curtain_0 6 rfl rfl)
theorem dX6_curtain_7 : decode cX6_curtain 7 = .ok (.invokevirtual 337, 3) := dk_182 1 81 (dk_at dksX6_curtain_0 7 rfl rfl)
theorem dX6_curtain_10 : decode cX6_curtain 10 = .ok (.ifCond .eq 12, 3) := dk_153 0 12 (dk_at dksX6_curtain_0 10 rfl rfl)
theorem dX6_curtain_13 : decode cX6_curtain 13 = .ok (.aload_n 0, 1) := dk_42 (dk_at dksX6_curtain_0 13 rfl rfl)
theorem dX6_curtain_14 : decode cX6_curtain 14 = .ok (.iconst 0, 1) := dk_3 (dk_at dksX6_curtain_0 14 rfl rfl)
theorem dX6_curtain_15 : decode cX6_curtain 15 = .ok (.iload_n 1, 1) := dk_27 (dk_at dksX6_curtain_0 15 rfl rfl)
theorem dX6_curtain_16 : decode cX6_curtain 16 = .ok (.invokevirtual 287, 3) := dk_182 1 31 (dk_at dksX6_curtain_0 16 rfl rfl)
theorem dX6_curtain_19 : decode cX6_curtain 19 = .ok (.ifCond .ne 5, 3) := dk_154 0 5 (dk_at dksX6_curtain_0 19 rfl rfl)
theorem dX6_curtain_22 : decode cX6_curtain 22 = .ok (.iconst 0, 1) := dk_3 (dk_at dksX6_curtain_0 22 rfl rfl)
theorem dX6_curtain_23 : decode cX6_curtain 23 = .ok (.ireturn, 1) := dk_172 (dk_at dksX6_curtain_0 23 rfl rfl)
theorem dX6_curtain_24 : decode cX6_curtain 24 = .ok (.aload_n 0, 1) := dk_42 (dk_at dksX6_curtain_1 0 rfl rfl)
theorem dX6_curtain_25 : decode cX6_curtain 25 = .ok (.invokevirtual 349, 3) := dk_182 1 93 (dk_at dksX6_curtain_1 1 rfl rfl)
theorem dX6_curtain_28 : decode cX6_curtain 28 = .ok (.aload_n 0, 1) := dk_42 (dk_at dksX6_curtain_1 4 rfl rfl)
theorem dX6_curtain_29 : decode cX6_curtain 29 = .ok (.getfield 119, 3) := dk_180 0 119 (dk_at dksX6_curtain_1 5 rfl rfl)
theorem dX6_curtain_32 : decode cX6_curtain 32 = .ok (.bipush 6, 2) := dk_16 6 (dk_at dksX6_curtain_1 8 rfl rfl)
theorem dX6_curtain_34 : decode cX6_curtain 34 = .ok (.iload_n 1, 1) := dk_27 (dk_at dksX6_curtain_1 10 rfl rfl)
theorem dX6_curtain_35 : decode cX6_curtain 35 = .ok (.iadd, 1) := dk_96 (dk_at dksX6_curtain_1 11 rfl rfl)
theorem dX6_curtain_36 : decode cX6_curtain 36 = .ok (.iconst 1, 1) := dk_4 (dk_at dksX6_curtain_1 12 rfl rfl)
theorem dX6_curtain_37 : decode cX6_curtain 37 = .ok (.aload_n 0, 1) := dk_42 (dk_at dksX6_curtain_1 13 rfl rfl)
theorem dX6_curtain_38 : decode cX6_curtain 38 = .ok (.getfield 119, 3) := dk_180 0 119 (dk_at dksX6_curtain_1 14 rfl rfl)
theorem dX6_curtain_41 : decode cX6_curtain 41 = .ok (.bipush 6, 2) := dk_16 6 (dk_at dksX6_curtain_1 17 rfl rfl)
theorem dX6_curtain_43 : decode cX6_curtain 43 = .ok (.iload_n 1, 1) := dk_27 (dk_at dksX6_curtain_1 19 rfl rfl)
theorem dX6_curtain_44 : decode cX6_curtain 44 = .ok (.iadd, 1) := dk_96 (dk_at dksX6_curtain_1 20 rfl rfl)
theorem dX6_curtain_45 : decode cX6_curtain 45 = .ok (.iaload, 1) := dk_46 (dk_at dksX6_curtain_1 21 rfl rfl)
theorem dX6_curtain_46 : decode cX6_curtain 46 = .ok (.isub, 1) := dk_100 (dk_at dksX6_curtain_1 22 rfl rfl)
theorem dX6_curtain_47 : decode cX6_curtain 47 = .ok (.iastore, 1) := dk_79 (dk_at dksX6_curtain_1 23 rfl rfl)
theorem dX6_curtain_48 : decode cX6_curtain 48 = .ok (.iconst 1, 1) := dk_4 (dk_at dksX6_curtain_2 0 rfl rfl)
theorem dX6_curtain_49 : decode cX6_curtain 49 = .ok (.ireturn, 1) := dk_172 (dk_at dksX6_curtain_2 1 rfl rfl)
abbrev cX6_stone : ByteArray := prog_24_method_80_code
def yX6_stone : MethodName := ⟨RX6, "stone", "(I)Z"⟩
def dkwX6_stone_1 : List UInt8 := [42, 182, 1, 93, 42, 180, 0, 119, 16, 12, 27, 96, 4, 79, 4, 172]
abbrev dktX6_stone_1 : List UInt8 := dkwX6_stone_1 ++ []
def dkwX6_stone_0 : List UInt8 := [42, 3, 181, 0, 1, 42, 27, 182, 1, 81, 153, 0, 12, 42, 3, 27, 182, 1, 31, 154, 0, 5, 3, 172]
abbrev dktX6_stone_0 : List UInt8 := dkwX6_stone_0 ++ dktX6_stone_1
theorem dksX6_stone_0 : cX6_stone.data.toList.drop 0 = dktX6_stone_0 := by decide +kernel
theorem dksX6_stone_1 : cX6_stone.data.toList.drop 24 = dktX6_stone_1 := dk_seg dksX6_stone_0 24 rfl rfl
theorem dX6_stone_0 : decode cX6_stone 0 = .ok (.aload_n 0, 1) := dk_42 (dk_at dksX6_stone_0 0 rfl rfl)
theorem dX6_stone_1 : decode cX6_stone 1 = .ok (.iconst 0, 1) := dk_3 (dk_at dksX6_stone_0 1 rfl rfl)
theorem dX6_stone_2 : decode cX6_stone 2 = .ok (.putfield 1, 3) := dk_181 0 1 (dk_at dksX6_stone_0 2 rfl rfl)
theorem dX6_stone_5 : decode cX6_stone 5 = .ok (.aload_n 0, 1) := dk_42 (dk_at dksX6_stone_0 5 rfl rfl)
theorem dX6_stone_6 : decode cX6_stone 6 = .ok (.iload_n 1, 1) := dk_27 (dk_at dksX6_stone_0 6 rfl rfl)
theorem dX6_stone_7 : decode cX6_stone 7 = .ok (.invokevirtual 337, 3) := dk_182 1 81 (dk_at dksX6_stone_0 7 rfl rfl)
theorem dX6_stone_10 : decode cX6_stone 10 = .ok (.ifCond .eq 12, 3) := dk_153 0 12 (dk_at dksX6_stone_0 10 rfl rfl)
theorem dX6_stone_13 : decode cX6_stone 13 = .ok (.aload_n 0, 1) := dk_42 (dk_at dksX6_stone_0 13 rfl rfl)
theorem dX6_stone_14 : decode cX6_stone 14 = .ok (.iconst 0, 1) := dk_3 (dk_at dksX6_stone_0 14 rfl rfl)
theorem dX6_stone_15 : decode cX6_stone 15 = .ok (.iload_n 1, 1) := dk_27 (dk_at dksX6_stone_0 15 rfl rfl)
theorem dX6_stone_16 : decode cX6_stone 16 = .ok (.invokevirtual 287, 3) := dk_182 1 31 (dk_at dksX6_stone_0 16 rfl rfl)
theorem dX6_stone_19 : decode cX6_stone 19 = .ok (.ifCond .ne 5, 3) := dk_154 0 5 (dk_at dksX6_stone_0 19 rfl rfl)
theorem dX6_stone_22 : decode cX6_stone 22 = .ok (.iconst 0, 1) := dk_3 (dk_at dksX6_stone_0 22 rfl rfl)
theorem dX6_stone_23 : decode cX6_stone 23 = .ok (.ireturn, 1) := dk_172 (dk_at dksX6_stone_0 23 rfl rfl)
theorem dX6_stone_24 : decode cX6_stone 24 = .ok (.aload_n 0, 1) := dk_42 (dk_at dksX6_stone_1 0 rfl rfl)
theorem dX6_stone_25 : decode cX6_stone 25 = .ok (.invokevirtual 349, 3) := dk_182 1 93 (dk_at dksX6_stone_1 1 rfl rfl)
theorem dX6_stone_28 : decode cX6_stone 28 = .ok (.aload_n 0, 1) := dk_42 (dk_at dksX6_stone_1 4 rfl rfl)
theorem dX6_stone_29 : decode cX6_stone 29 = .ok (.getfield 119, 3) := dk_180 0 119 (dk_at dksX6_stone_1 5 rfl rfl)
theorem dX6_stone_32 : decode cX6_stone 32 = .ok (.bipush 12, 2) := dk_16 12 (dk_at dksX6_stone_1 8 rfl rfl)
theorem dX6_stone_34 : decode cX6_stone 34 = .ok (.iload_n 1, 1) := dk_27 (dk_at dksX6_stone_1 10 rfl rfl)
theorem dX6_stone_35 : decode cX6_stone 35 = .ok (.iadd, 1) := dk_96 (dk_at dksX6_stone_1 11 rfl rfl)
theorem dX6_stone_36 : decode cX6_stone 36 = .ok (.iconst 1, 1) := dk_4 (dk_at dksX6_stone_1 12 rfl rfl)
theorem dX6_stone_37 : decode cX6_stone 37 = .ok (.iastore, 1) := dk_79 (dk_at dksX6_stone_1 13 rfl rfl)
theorem dX6_stone_38 : decode cX6_stone 38 = .ok (.iconst 1, 1) := dk_4 (dk_at dksX6_stone_1 14 rfl rfl)
theorem dX6_stone_39 : decode cX6_stone 39 = .ok (.ireturn, 1) := dk_172 (dk_at dksX6_stone_1 15 rfl rfl)
abbrev cX6_hour : ByteArray := prog_24_method_81_code
def yX6_hour : MethodName := ⟨RX6, "hour", "()I"⟩
def dkwX6_hour_0 : List UInt8 := [42, 3, 181, 0, 1, 42, 182, 1, 93, 42, 3, 182, 1, 105, 172]
abbrev dktX6_hour_0 : List UInt8 := dkwX6_hour_0 ++ []
theorem dksX6_hour_0 : cX6_hour.data.toList.drop 0 = dktX6_hour_0 := by decide +kernel
theorem dX6_hour_0 : decode cX6_hour 0 = .ok (.aload_n 0, 1) := dk_42 (dk_at dksX6_hour_0 0 rfl rfl)
theorem dX6_hour_1 : decode cX6_hour 1 = .ok (.iconst 0, 1) := dk_3 (dk_at dksX6_hour_0 1 rfl rfl)
theorem dX6_hour_2 : decode cX6_hour 2 = .ok (.putfield 1, 3) := dk_181 0 1 (dk_at dksX6_hour_0 2 rfl rfl)
theorem dX6_hour_5 : decode cX6_hour 5 = .ok (.aload_n 0, 1) := dk_42 (dk_at dksX6_hour_0 5 rfl rfl)
theorem dX6_hour_6 : decode cX6_hour 6 = .ok (.invokevirtual 349, 3) := dk_182 1 93 (dk_at dksX6_hour_0 6 rfl rfl)
theorem dX6_hour_9 : decode cX6_hour 9 = .ok (.aload_n 0, 1) := dk_42 (dk_at dksX6_hour_0 9 rfl rfl)
theorem dX6_hour_10 : decode cX6_hour 10 = .ok (.iconst 0, 1) := dk_3 (dk_at dksX6_hour_0 10 rfl rfl)
theorem dX6_hour_11 : decode cX6_hour 11 = .ok (.invokevirtual 361, 3) := dk_182 1 105 (dk_at dksX6_hour_0 11 rfl rfl)
theorem dX6_hour_14 : decode cX6_hour 14 = .ok (.ireturn, 1) := dk_172 (dk_at dksX6_hour_0 14 rfl rfl)
abbrev cX6_passes : ByteArray := prog_24_method_65_code
def yX6_passes : MethodName := ⟨RX6, "passes", "(I)I"⟩
def dkwX6_passes_6 : List UInt8 := [167, 255, 203, 132, 3, 1, 167, 255, 186, 42, 180, 0, 119, 27, 3, 96, 92, 46, 4, 96, 79, 28, 172]
abbrev dktX6_passes_6 : List UInt8 := dkwX6_passes_6 ++ []
def dkwX6_passes_5 : List UInt8 := [182, 1, 62, 153, 0, 17, 42, 27, 29, 21, 4, 182, 1, 50, 132, 2, 1, 167, 255, 209, 132, 4, 1]
abbrev dktX6_passes_5 : List UInt8 := dkwX6_passes_5 ++ dktX6_passes_6
def dkwX6_passes_4 : List UInt8 := [153, 0, 50, 21, 4, 42, 180, 0, 119, 27, 16, 18, 96, 29, 96, 46, 162, 0, 34, 42, 27, 29, 21, 4]
abbrev dktX6_passes_4 : List UInt8 := dkwX6_passes_4 ++ dktX6_passes_5
def dkwX6_passes_3 : List UInt8 := [167, 255, 188, 3, 62, 29, 42, 182, 1, 22, 162, 0, 68, 3, 54, 4, 42, 27, 29, 182, 1, 31]
abbrev dktX6_passes_3 : List UInt8 := dkwX6_passes_3 ++ dktX6_passes_4
def dkwX6_passes_2 : List UInt8 := [16, 6, 29, 104, 96, 21, 4, 96, 92, 46, 17, 4, 0, 96, 79, 132, 4, 1, 167, 255, 205, 132, 3, 1]
abbrev dktX6_passes_2 : List UInt8 := dkwX6_passes_2 ++ dktX6_passes_3
def dkwX6_passes_1 : List UInt8 := [96, 29, 96, 46, 162, 0, 41, 42, 27, 29, 182, 1, 31, 153, 0, 32, 42, 180, 0, 119, 27, 16, 24, 96]
abbrev dktX6_passes_1 : List UInt8 := dkwX6_passes_1 ++ dktX6_passes_2
def dkwX6_passes_0 : List UInt8 := [3, 61, 3, 62, 29, 42, 182, 1, 22, 162, 0, 66, 3, 54, 4, 21, 4, 42, 180, 0, 119, 27, 16, 18]
abbrev dktX6_passes_0 : List UInt8 := dkwX6_passes_0 ++ dktX6_passes_1
theorem dksX6_passes_0 : cX6_passes.data.toList.drop 0 = dktX6_passes_0 := by decide +kernel
theorem dksX6_passes_1 : cX6_passes.data.toList.drop 24 = dktX6_passes_1 := dk_seg dksX6_passes_0 24 rfl rfl
theorem dksX6_passes_2 : cX6_passes.data.toList.drop 48 = dktX6_passes_2 := dk_seg dksX6_passes_1 24 rfl rfl
theorem dksX6_passes_3 : cX6_passes.data.toList.drop 72 = dktX6_passes_3 := dk_seg dksX6_passes_2 24 rfl rfl
theorem dksX6_passes_4 : cX6_passes.data.toList.drop 94 = dktX6_passes_4 := dk_seg dksX6_passes_3 22 rfl rfl
theorem dksX6_passes_5 : cX6_passes.data.toList.drop 118 = dktX6_passes_5 := dk_seg dksX6_passes_4 24 rfl rfl
theorem dksX6_passes_6 : cX6_passes.data.toList.drop 141 = dktX6_passes_6 := dk_seg dksX6_passes_5 23 rfl rfl
theorem dX6_passes_0 : decode cX6_passes 0 = .ok (.iconst 0, 1) := dk_3 (dk_at dksX6_passes_0 0 rfl rfl)
theorem dX6_passes_1 : decode cX6_passes 1 = .ok (.istore_n 2, 1) := dk_61 (dk_at dksX6_passes_0 1 rfl rfl)
theorem dX6_passes_2 : decode cX6_passes 2 = .ok (.iconst 0, 1) := dk_3 (dk_at dksX6_passes_0 2 rfl rfl)
theorem dX6_passes_3 : decode cX6_passes 3 = .ok (.istore_n 3, 1) := dk_62 (dk_at dksX6_passes_0 3 rfl rfl)
theorem dX6_passes_4 : decode cX6_passes 4 = .ok (.iload_n 3, 1) := dk_29 (dk_at dksX6_passes_0 4 rfl rfl)
theorem dX6_passes_5 : decode cX6_passes 5 = .ok (.aload_n 0, 1) := dk_42 (dk_at dksX6_passes_0 5 rfl rfl)
theorem dX6_passes_6 : decode cX6_passes 6 = .ok (.invokevirtual 278, 3) := dk_182 1 22 (dk_at dksX6_passes_0 6 rfl rfl)
theorem dX6_passes_9 : decode cX6_passes 9 = .ok (.if_icmp .ge 66, 3) := dk_162 0 66 (dk_at dksX6_passes_0 9 rfl rfl)
theorem dX6_passes_12 : decode cX6_passes 12 = .ok (.iconst 0, 1) := dk_3 (dk_at dksX6_passes_0 12 rfl rfl)
theorem dX6_passes_13 : decode cX6_passes 13 = .ok (.istore 4, 2) := dk_54 4 (dk_at dksX6_passes_0 13 rfl rfl)
theorem dX6_passes_15 : decode cX6_passes 15 = .ok (.iload 4, 2) := dk_21 4 (dk_at dksX6_passes_0 15 rfl rfl)
theorem dX6_passes_17 : decode cX6_passes 17 = .ok (.aload_n 0, 1) := dk_42 (dk_at dksX6_passes_0 17 rfl rfl)
theorem dX6_passes_18 : decode cX6_passes 18 = .ok (.getfield 119, 3) := dk_180 0 119 (dk_at dksX6_passes_0 18 rfl rfl)
theorem dX6_passes_21 : decode cX6_passes 21 = .ok (.iload_n 1, 1) := dk_27 (dk_at dksX6_passes_0 21 rfl rfl)
theorem dX6_passes_22 : decode cX6_passes 22 = .ok (.bipush 18, 2) := dk_16 18 (dk_at dksX6_passes_0 22 rfl rfl)
theorem dX6_passes_24 : decode cX6_passes 24 = .ok (.iadd, 1) := dk_96 (dk_at dksX6_passes_1 0 rfl rfl)
theorem dX6_passes_25 : decode cX6_passes 25 = .ok (.iload_n 3, 1) := dk_29 (dk_at dksX6_passes_1 1 rfl rfl)
theorem dX6_passes_26 : decode cX6_passes 26 = .ok (.iadd, 1) := dk_96 (dk_at dksX6_passes_1 2 rfl rfl)
theorem dX6_passes_27 : decode cX6_passes 27 = .ok (.iaload, 1) := dk_46 (dk_at dksX6_passes_1 3 rfl rfl)
theorem dX6_passes_28 : decode cX6_passes 28 = .ok (.if_icmp .ge 41, 3) := dk_162 0 41 (dk_at dksX6_passes_1 4 rfl rfl)
theorem dX6_passes_31 : decode cX6_passes 31 = .ok (.aload_n 0, 1) := dk_42 (dk_at dksX6_passes_1 7 rfl rfl)
theorem dX6_passes_32 : decode cX6_passes 32 = .ok (.iload_n 1, 1) := dk_27 (dk_at dksX6_passes_1 8 rfl rfl)
theorem dX6_passes_33 : decode cX6_passes 33 = .ok (.iload_n 3, 1) := dk_29 (dk_at dksX6_passes_1 9 rfl rfl)
theorem dX6_passes_34 : decode cX6_passes 34 = .ok (.invokevirtual 287, 3) := dk_182 1 31 (dk_at dksX6_passes_1 10 rfl rfl)
theorem dX6_passes_37 : decode cX6_passes 37 = .ok (.ifCond .eq 32, 3) := dk_153 0 32 (dk_at dksX6_passes_1 13 rfl rfl)
theorem dX6_passes_40 : decode cX6_passes 40 = .ok (.aload_n 0, 1) := dk_42 (dk_at dksX6_passes_1 16 rfl rfl)
theorem dX6_passes_41 : decode cX6_passes 41 = .ok (.getfield 119, 3) := dk_180 0 119 (dk_at dksX6_passes_1 17 rfl rfl)
theorem dX6_passes_44 : decode cX6_passes 44 = .ok (.iload_n 1, 1) := dk_27 (dk_at dksX6_passes_1 20 rfl rfl)
theorem dX6_passes_45 : decode cX6_passes 45 = .ok (.bipush 24, 2) := dk_16 24 (dk_at dksX6_passes_1 21 rfl rfl)
theorem dX6_passes_47 : decode cX6_passes 47 = .ok (.iadd, 1) := dk_96 (dk_at dksX6_passes_1 23 rfl rfl)
theorem dX6_passes_48 : decode cX6_passes 48 = .ok (.bipush 6, 2) := dk_16 6 (dk_at dksX6_passes_2 0 rfl rfl)
theorem dX6_passes_50 : decode cX6_passes 50 = .ok (.iload_n 3, 1) := dk_29 (dk_at dksX6_passes_2 2 rfl rfl)
theorem dX6_passes_51 : decode cX6_passes 51 = .ok (.imul, 1) := dk_104 (dk_at dksX6_passes_2 3 rfl rfl)
theorem dX6_passes_52 : decode cX6_passes 52 = .ok (.iadd, 1) := dk_96 (dk_at dksX6_passes_2 4 rfl rfl)
theorem dX6_passes_53 : decode cX6_passes 53 = .ok (.iload 4, 2) := dk_21 4 (dk_at dksX6_passes_2 5 rfl rfl)
theorem dX6_passes_55 : decode cX6_passes 55 = .ok (.iadd, 1) := dk_96 (dk_at dksX6_passes_2 7 rfl rfl)
theorem dX6_passes_56 : decode cX6_passes 56 = .ok (.dup2, 1) := dk_92 (dk_at dksX6_passes_2 8 rfl rfl)
theorem dX6_passes_57 : decode cX6_passes 57 = .ok (.iaload, 1) := dk_46 (dk_at dksX6_passes_2 9 rfl rfl)
theorem dX6_passes_58 : decode cX6_passes 58 = .ok (.sipush 1024, 3) := dk_17 4 0 (dk_at dksX6_passes_2 10 rfl rfl)
theorem dX6_passes_61 : decode cX6_passes 61 = .ok (.iadd, 1) := dk_96 (dk_at dksX6_passes_2 13 rfl rfl)
theorem dX6_passes_62 : decode cX6_passes 62 = .ok (.iastore, 1) := dk_79 (dk_at dksX6_passes_2 14 rfl rfl)
theorem dX6_passes_63 : decode cX6_passes 63 = .ok (.iinc 4 1, 3) := dk_132 4 1 (dk_at dksX6_passes_2 15 rfl rfl)
theorem dX6_passes_66 : decode cX6_passes 66 = .ok (.goto (-51), 3) := dk_167 255 205 (dk_at dksX6_passes_2 18 rfl rfl)
theorem dX6_passes_69 : decode cX6_passes 69 = .ok (.iinc 3 1, 3) := dk_132 3 1 (dk_at dksX6_passes_2 21 rfl rfl)
theorem dX6_passes_72 : decode cX6_passes 72 = .ok (.goto (-68), 3) := dk_167 255 188 (dk_at dksX6_passes_3 0 rfl rfl)
theorem dX6_passes_75 : decode cX6_passes 75 = .ok (.iconst 0, 1) := dk_3 (dk_at dksX6_passes_3 3 rfl rfl)
theorem dX6_passes_76 : decode cX6_passes 76 = .ok (.istore_n 3, 1) := dk_62 (dk_at dksX6_passes_3 4 rfl rfl)
theorem dX6_passes_77 : decode cX6_passes 77 = .ok (.iload_n 3, 1) := dk_29 (dk_at dksX6_passes_3 5 rfl rfl)
theorem dX6_passes_78 : decode cX6_passes 78 = .ok (.aload_n 0, 1) := dk_42 (dk_at dksX6_passes_3 6 rfl rfl)
theorem dX6_passes_79 : decode cX6_passes 79 = .ok (.invokevirtual 278, 3) := dk_182 1 22 (dk_at dksX6_passes_3 7 rfl rfl)
theorem dX6_passes_82 : decode cX6_passes 82 = .ok (.if_icmp .ge 68, 3) := dk_162 0 68 (dk_at dksX6_passes_3 10 rfl rfl)
theorem dX6_passes_85 : decode cX6_passes 85 = .ok (.iconst 0, 1) := dk_3 (dk_at dksX6_passes_3 13 rfl rfl)
theorem dX6_passes_86 : decode cX6_passes 86 = .ok (.istore 4, 2) := dk_54 4 (dk_at dksX6_passes_3 14 rfl rfl)
theorem dX6_passes_88 : decode cX6_passes 88 = .ok (.aload_n 0, 1) := dk_42 (dk_at dksX6_passes_3 16 rfl rfl)
theorem dX6_passes_89 : decode cX6_passes 89 = .ok (.iload_n 1, 1) := dk_27 (dk_at dksX6_passes_3 17 rfl rfl)
theorem dX6_passes_90 : decode cX6_passes 90 = .ok (.iload_n 3, 1) := dk_29 (dk_at dksX6_passes_3 18 rfl rfl)
theorem dX6_passes_91 : decode cX6_passes 91 = .ok (.invokevirtual 287, 3) := dk_182 1 31 (dk_at dksX6_passes_3 19 rfl rfl)
theorem dX6_passes_94 : decode cX6_passes 94 = .ok (.ifCond .eq 50, 3) := dk_153 0 50 (dk_at dksX6_passes_4 0 rfl rfl)
theorem dX6_passes_97 : decode cX6_passes 97 = .ok (.iload 4, 2) := dk_21 4 (dk_at dksX6_passes_4 3 rfl rfl)
theorem dX6_passes_99 : decode cX6_passes 99 = .ok (.aload_n 0, 1) := dk_42 (dk_at dksX6_passes_4 5 rfl rfl)
theorem dX6_passes_100 : decode cX6_passes 100 = .ok (.getfield 119, 3) := dk_180 0 119 (dk_at dksX6_passes_4 6 rfl rfl)
theorem dX6_passes_103 : decode cX6_passes 103 = .ok (.iload_n 1, 1) := dk_27 (dk_at dksX6_passes_4 9 rfl rfl)
theorem dX6_passes_104 : decode cX6_passes 104 = .ok (.bipush 18, 2) := dk_16 18 (dk_at dksX6_passes_4 10 rfl rfl)
theorem dX6_passes_106 : decode cX6_passes 106 = .ok (.iadd, 1) := dk_96 (dk_at dksX6_passes_4 12 rfl rfl)
theorem dX6_passes_107 : decode cX6_passes 107 = .ok (.iload_n 3, 1) := dk_29 (dk_at dksX6_passes_4 13 rfl rfl)
theorem dX6_passes_108 : decode cX6_passes 108 = .ok (.iadd, 1) := dk_96 (dk_at dksX6_passes_4 14 rfl rfl)
theorem dX6_passes_109 : decode cX6_passes 109 = .ok (.iaload, 1) := dk_46 (dk_at dksX6_passes_4 15 rfl rfl)
theorem dX6_passes_110 : decode cX6_passes 110 = .ok (.if_icmp .ge 34, 3) := dk_162 0 34 (dk_at dksX6_passes_4 16 rfl rfl)
theorem dX6_passes_113 : decode cX6_passes 113 = .ok (.aload_n 0, 1) := dk_42 (dk_at dksX6_passes_4 19 rfl rfl)
theorem dX6_passes_114 : decode cX6_passes 114 = .ok (.iload_n 1, 1) := dk_27 (dk_at dksX6_passes_4 20 rfl rfl)
theorem dX6_passes_115 : decode cX6_passes 115 = .ok (.iload_n 3, 1) := dk_29 (dk_at dksX6_passes_4 21 rfl rfl)
theorem dX6_passes_116 : decode cX6_passes 116 = .ok (.iload 4, 2) := dk_21 4 (dk_at dksX6_passes_4 22 rfl rfl)
theorem dX6_passes_118 : decode cX6_passes 118 = .ok (.invokevirtual 318, 3) := dk_182 1 62 (dk_at dksX6_passes_5 0 rfl rfl)
theorem dX6_passes_121 : decode cX6_passes 121 = .ok (.ifCond .eq 17, 3) := dk_153 0 17 (dk_at dksX6_passes_5 3 rfl rfl)
theorem dX6_passes_124 : decode cX6_passes 124 = .ok (.aload_n 0, 1) := dk_42 (dk_at dksX6_passes_5 6 rfl rfl)
theorem dX6_passes_125 : decode cX6_passes 125 = .ok (.iload_n 1, 1) := dk_27 (dk_at dksX6_passes_5 7 rfl rfl)
theorem dX6_passes_126 : decode cX6_passes 126 = .ok (.iload_n 3, 1) := dk_29 (dk_at dksX6_passes_5 8 rfl rfl)
theorem dX6_passes_127 : decode cX6_passes 127 = .ok (.iload 4, 2) := dk_21 4 (dk_at dksX6_passes_5 9 rfl rfl)
theorem dX6_passes_129 : decode cX6_passes 129 = .ok (.invokevirtual 306, 3) := dk_182 1 50 (dk_at dksX6_passes_5 11 rfl rfl)
theorem dX6_passes_132 : decode cX6_passes 132 = .ok (.iinc 2 1, 3) := dk_132 2 1 (dk_at dksX6_passes_5 14 rfl rfl)
theorem dX6_passes_135 : decode cX6_passes 135 = .ok (.goto (-47), 3) := dk_167 255 209 (dk_at dksX6_passes_5 17 rfl rfl)
theorem dX6_passes_138 : decode cX6_passes 138 = .ok (.iinc 4 1, 3) := dk_132 4 1 (dk_at dksX6_passes_5 20 rfl rfl)
theorem dX6_passes_141 : decode cX6_passes 141 = .ok (.goto (-53), 3) := dk_167 255 203 (dk_at dksX6_passes_6 0 rfl rfl)
theorem dX6_passes_144 : decode cX6_passes 144 = .ok (.iinc 3 1, 3) := dk_132 3 1 (dk_at dksX6_passes_6 3 rfl rfl)
theorem dX6_passes_147 : decode cX6_passes 147 = .ok (.goto (-70), 3) := dk_167 255 186 (dk_at dksX6_passes_6 6 rfl rfl)
theorem dX6_passes_150 : decode cX6_passes 150 = .ok (.aload_n 0, 1) := dk_42 (dk_at dksX6_passes_6 9 rfl rfl)
theorem dX6_passes_151 : decode cX6_passes 151 = .ok (.getfield 119, 3) := dk_180 0 119 (dk_at dksX6_passes_6 10 rfl rfl)
theorem dX6_passes_154 : decode cX6_passes 154 = .ok (.iload_n 1, 1) := dk_27 (dk_at dksX6_passes_6 13 rfl rfl)
theorem dX6_passes_155 : decode cX6_passes 155 = .ok (.iconst 0, 1) := dk_3 (dk_at dksX6_passes_6 14 rfl rfl)
theorem dX6_passes_156 : decode cX6_passes 156 = .ok (.iadd, 1) := dk_96 (dk_at dksX6_passes_6 15 rfl rfl)
theorem dX6_passes_157 : decode cX6_passes 157 = .ok (.dup2, 1) := dk_92 (dk_at dksX6_passes_6 16 rfl rfl)
theorem dX6_passes_158 : decode cX6_passes 158 = .ok (.iaload, 1) := dk_46 (dk_at dksX6_passes_6 17 rfl rfl)
theorem dX6_passes_159 : decode cX6_passes 159 = .ok (.iconst 1, 1) := dk_4 (dk_at dksX6_passes_6 18 rfl rfl)
theorem dX6_passes_160 : decode cX6_passes 160 = .ok (.iadd, 1) := dk_96 (dk_at dksX6_passes_6 19 rfl rfl)
theorem dX6_passes_161 : decode cX6_passes 161 = .ok (.iastore, 1) := dk_79 (dk_at dksX6_passes_6 20 rfl rfl)
theorem dX6_passes_162 : decode cX6_passes 162 = .ok (.iload_n 2, 1) := dk_28 (dk_at dksX6_passes_6 21 rfl rfl)
theorem dX6_passes_163 : decode cX6_passes 163 = .ok (.ireturn, 1) := dk_172 (dk_at dksX6_passes_6 22 rfl rfl)
abbrev cX6_isFaded : ByteArray := prog_24_method_64_code
def yX6_isFaded : MethodName := ⟨RX6, "isFaded", "(III)Z"⟩
def dkwX6_isFaded_5 : List UInt8 := [167, 0, 4, 3, 172]
abbrev dktX6_isFaded_5 : List UInt8 := dkwX6_isFaded_5 ++ []
def dkwX6_isFaded_4 : List UInt8 := [96, 28, 96, 46, 4, 100, 29, 100, 79, 42, 42, 180, 0, 89, 7, 46, 182, 1, 59, 153, 0, 7, 4]
abbrev dktX6_isFaded_4 : List UInt8 := dkwX6_isFaded_4 ++ dktX6_isFaded_5
def dkwX6_isFaded_3 : List UInt8 := [42, 180, 0, 119, 27, 3, 96, 46, 182, 1, 35, 79, 42, 180, 0, 113, 6, 42, 180, 0, 119, 27, 16, 18]
abbrev dktX6_isFaded_3 : List UInt8 := dkwX6_isFaded_3 ++ dktX6_isFaded_4
def dkwX6_isFaded_2 : List UInt8 := [180, 0, 113, 4, 42, 180, 0, 89, 16, 28, 21, 4, 184, 1, 56, 96, 46, 79, 42, 180, 0, 113, 5, 42]
abbrev dktX6_isFaded_2 : List UInt8 := dkwX6_isFaded_2 ++ dktX6_isFaded_3
def dkwX6_isFaded_1 : List UInt8 := [16, 8, 164, 0, 7, 4, 167, 0, 4, 3, 172, 42, 180, 0, 113, 3, 21, 4, 184, 1, 53, 79, 42]
abbrev dktX6_isFaded_1 : List UInt8 := dkwX6_isFaded_1 ++ dktX6_isFaded_2
def dkwX6_isFaded_0 : List UInt8 := [42, 27, 28, 29, 182, 1, 44, 54, 4, 42, 180, 0, 89, 7, 46, 156, 0, 19, 21, 4, 184, 1, 53]
abbrev dktX6_isFaded_0 : List UInt8 := dkwX6_isFaded_0 ++ dktX6_isFaded_1
theorem dksX6_isFaded_0 : cX6_isFaded.data.toList.drop 0 = dktX6_isFaded_0 := by decide +kernel
theorem dksX6_isFaded_1 : cX6_isFaded.data.toList.drop 23 = dktX6_isFaded_1 := dk_seg dksX6_isFaded_0 23 rfl rfl
theorem dksX6_isFaded_2 : cX6_isFaded.data.toList.drop 46 = dktX6_isFaded_2 := dk_seg dksX6_isFaded_1 23 rfl rfl
theorem dksX6_isFaded_3 : cX6_isFaded.data.toList.drop 70 = dktX6_isFaded_3 := dk_seg dksX6_isFaded_2 24 rfl rfl
theorem dksX6_isFaded_4 : cX6_isFaded.data.toList.drop 94 = dktX6_isFaded_4 := dk_seg dksX6_isFaded_3 24 rfl rfl
theorem dksX6_isFaded_5 : cX6_isFaded.data.toList.drop 117 = dktX6_isFaded_5 := dk_seg dksX6_isFaded_4 23 rfl rfl
theorem dX6_isFaded_0 : decode cX6_isFaded 0 = .ok (.aload_n 0, 1) := dk_42 (dk_at dksX6_isFaded_0 0 rfl rfl)
theorem dX6_isFaded_1 : decode cX6_isFaded 1 = .ok (.iload_n 1, 1) := dk_27 (dk_at dksX6_isFaded_0 1 rfl rfl)
theorem dX6_isFaded_2 : decode cX6_isFaded 2 = .ok (.iload_n 2, 1) := dk_28 (dk_at dksX6_isFaded_0 2 rfl rfl)
theorem dX6_isFaded_3 : decode cX6_isFaded 3 = .ok (.iload_n 3, 1) := dk_29 (dk_at dksX6_isFaded_0 3 rfl rfl)
theorem dX6_isFaded_4 : decode cX6_isFaded 4 = .ok (.invokevirtual 300, 3) := dk_182 1 44 (dk_at dksX6_isFaded_0 4 rfl rfl)
theorem dX6_isFaded_7 : decode cX6_isFaded 7 = .ok (.istore 4, 2) := dk_54 4 (dk_at dksX6_isFaded_0 7 rfl rfl)
theorem dX6_isFaded_9 : decode cX6_isFaded 9 = .ok (.aload_n 0, 1) := dk_42 (dk_at dksX6_isFaded_0 9 rfl rfl)
theorem dX6_isFaded_10 : decode cX6_isFaded 10 = .ok (.getfield 89, 3) := dk_180 0 89 (dk_at dksX6_isFaded_0 10 rfl rfl)
theorem dX6_isFaded_13 : decode cX6_isFaded 13 = .ok (.iconst 4, 1) := dk_7 (dk_at dksX6_isFaded_0 13 rfl rfl)
theorem dX6_isFaded_14 : decode cX6_isFaded 14 = .ok (.iaload, 1) := dk_46 (dk_at dksX6_isFaded_0 14 rfl rfl)
theorem dX6_isFaded_15 : decode cX6_isFaded 15 = .ok (.ifCond .ge 19, 3) := dk_156 0 19 (dk_at dksX6_isFaded_0 15 rfl rfl)
theorem dX6_isFaded_18 : decode cX6_isFaded 18 = .ok (.iload 4, 2) := dk_21 4 (dk_at dksX6_isFaded_0 18 rfl rfl)
theorem dX6_isFaded_20 : decode cX6_isFaded 20 = .ok (.invokestatic 309, 3) := dk_184 1 53 (dk_at dksX6_isFaded_0 20 rfl rfl)
theorem dX6_isFaded_23 : decode cX6_isFaded 23 = .ok (.bipush 8, 2) := dk_16 8 (dk_at dksX6_isFaded_1 0 rfl rfl)
theorem dX6_isFaded_25 : decode cX6_isFaded 25 = .ok (.if_icmp .le 7, 3) := dk_164 0 7 (dk_at dksX6_isFaded_1 2 rfl rfl)
theorem dX6_isFaded_28 : decode cX6_isFaded 28 = .ok (.iconst 1, 1) := dk_4 (dk_at dksX6_isFaded_1 5 rfl rfl)
theorem dX6_isFaded_29 : decode cX6_isFaded 29 = .ok (.goto 4, 3) := dk_167 0 4 (dk_at dksX6_isFaded_1 6 rfl rfl)
theorem dX6_isFaded_32 : decode cX6_isFaded 32 = .ok (.iconst 0, 1) := dk_3 (dk_at dksX6_isFaded_1 9 rfl rfl)
theorem dX6_isFaded_33 : decode cX6_isFaded 33 = .ok (.ireturn, 1) := dk_172 (dk_at dksX6_isFaded_1 10 rfl rfl)
theorem dX6_isFaded_34 : decode cX6_isFaded 34 = .ok (.aload_n 0, 1) := dk_42 (dk_at dksX6_isFaded_1 11 rfl rfl)
theorem dX6_isFaded_35 : decode cX6_isFaded 35 = .ok (.getfield 113, 3) := dk_180 0 113 (dk_at dksX6_isFaded_1 12 rfl rfl)
theorem dX6_isFaded_38 : decode cX6_isFaded 38 = .ok (.iconst 0, 1) := dk_3 (dk_at dksX6_isFaded_1 15 rfl rfl)
theorem dX6_isFaded_39 : decode cX6_isFaded 39 = .ok (.iload 4, 2) := dk_21 4 (dk_at dksX6_isFaded_1 16 rfl rfl)
theorem dX6_isFaded_41 : decode cX6_isFaded 41 = .ok (.invokestatic 309, 3) := dk_184 1 53 (dk_at dksX6_isFaded_1 18 rfl rfl)
theorem dX6_isFaded_44 : decode cX6_isFaded 44 = .ok (.iastore, 1) := dk_79 (dk_at dksX6_isFaded_1 21 rfl rfl)
theorem dX6_isFaded_45 : decode cX6_isFaded 45 = .ok (.aload_n 0, 1) := dk_42 (dk_at dksX6_isFaded_1 22 rfl rfl)
theorem dX6_isFaded_46 : decode cX6_isFaded 46 = .ok (.getfield 113, 3) := dk_180 0 113 (dk_at dksX6_isFaded_2 0 rfl rfl)
theorem dX6_isFaded_49 : decode cX6_isFaded 49 = .ok (.iconst 1, 1) := dk_4 (dk_at dksX6_isFaded_2 3 rfl rfl)
theorem dX6_isFaded_50 : decode cX6_isFaded 50 = .ok (.aload_n 0, 1) := dk_42 (dk_at dksX6_isFaded_2 4 rfl rfl)
theorem dX6_isFaded_51 : decode cX6_isFaded 51 = .ok (.getfield 89, 3) := dk_180 0 89 (dk_at dksX6_isFaded_2 5 rfl rfl)
theorem dX6_isFaded_54 : decode cX6_isFaded 54 = .ok (.bipush 28, 2) := dk_16 28 (dk_at dksX6_isFaded_2 8 rfl rfl)
theorem dX6_isFaded_56 : decode cX6_isFaded 56 = .ok (.iload 4, 2) := dk_21 4 (dk_at dksX6_isFaded_2 10 rfl rfl)
theorem dX6_isFaded_58 : decode cX6_isFaded 58 = .ok (.invokestatic 312, 3) := dk_184 1 56 (dk_at dksX6_isFaded_2 12 rfl rfl)
theorem dX6_isFaded_61 : decode cX6_isFaded 61 = .ok (.iadd, 1) := dk_96 (dk_at dksX6_isFaded_2 15 rfl rfl)
theorem dX6_isFaded_62 : decode cX6_isFaded 62 = .ok (.iaload, 1) := dk_46 (dk_at dksX6_isFaded_2 16 rfl rfl)
theorem dX6_isFaded_63 : decode cX6_isFaded 63 = .ok (.iastore, 1) := dk_79 (dk_at dksX6_isFaded_2 17 rfl rfl)
theorem dX6_isFaded_64 : decode cX6_isFaded 64 = .ok (.aload_n 0, 1) := dk_42 (dk_at dksX6_isFaded_2 18 rfl rfl)
theorem dX6_isFaded_65 : decode cX6_isFaded 65 = .ok (.getfield 113, 3) := dk_180 0 113 (dk_at dksX6_isFaded_2 19 rfl rfl)
theorem dX6_isFaded_68 : decode cX6_isFaded 68 = .ok (.iconst 2, 1) := dk_5 (dk_at dksX6_isFaded_2 22 rfl rfl)
theorem dX6_isFaded_69 : decode cX6_isFaded 69 = .ok (.aload_n 0, 1) := dk_42 (dk_at dksX6_isFaded_2 23 rfl rfl)
theorem dX6_isFaded_70 : decode cX6_isFaded 70 = .ok (.aload_n 0, 1) := dk_42 (dk_at dksX6_isFaded_3 0 rfl rfl)
theorem dX6_isFaded_71 : decode cX6_isFaded 71 = .ok (.getfield 119, 3) := dk_180 0 119 (dk_at dksX6_isFaded_3 1 rfl rfl)
theorem dX6_isFaded_74 : decode cX6_isFaded 74 = .ok (.iload_n 1, 1) := dk_27 (dk_at dksX6_isFaded_3 4 rfl rfl)
theorem dX6_isFaded_75 : decode cX6_isFaded 75 = .ok (.iconst 0, 1) := dk_3 (dk_at dksX6_isFaded_3 5 rfl rfl)
theorem dX6_isFaded_76 : decode cX6_isFaded 76 = .ok (.iadd, 1) := dk_96 (dk_at dksX6_isFaded_3 6 rfl rfl)
theorem dX6_isFaded_77 : decode cX6_isFaded 77 = .ok (.iaload, 1) := dk_46 (dk_at dksX6_isFaded_3 7 rfl rfl)
theorem dX6_isFaded_78 : decode cX6_isFaded 78 = .ok (.invokevirtual 291, 3) := dk_182 1 35 (dk_at dksX6_isFaded_3 8 rfl rfl)
theorem dX6_isFaded_81 : decode cX6_isFaded 81 = .ok (.iastore, 1) := dk_79 (dk_at dksX6_isFaded_3 11 rfl rfl)
theorem dX6_isFaded_82 : decode cX6_isFaded 82 = .ok (.aload_n 0, 1) := dk_42 (dk_at dksX6_isFaded_3 12 rfl rfl)
theorem dX6_isFaded_83 : decode cX6_isFaded 83 = .ok (.getfield 113, 3) := dk_180 0 113 (dk_at dksX6_isFaded_3 13 rfl rfl)
theorem dX6_isFaded_86 : decode cX6_isFaded 86 = .ok (.iconst 3, 1) := dk_6 (dk_at dksX6_isFaded_3 16 rfl rfl)
theorem dX6_isFaded_87 : decode cX6_isFaded 87 = .ok (.aload_n 0, 1) := dk_42 (dk_at dksX6_isFaded_3 17 rfl rfl)
theorem dX6_isFaded_88 : decode cX6_isFaded 88 = .ok (.getfield 119, 3) := dk_180 0 119 (dk_at dksX6_isFaded_3 18 rfl rfl)
theorem dX6_isFaded_91 : decode cX6_isFaded 91 = .ok (.iload_n 1, 1) := dk_27 (dk_at dksX6_isFaded_3 21 rfl rfl)
theorem dX6_isFaded_92 : decode cX6_isFaded 92 = .ok (.bipush 18, 2) := dk_16 18 (dk_at dksX6_isFaded_3 22 rfl rfl)
theorem dX6_isFaded_94 : decode cX6_isFaded 94 = .ok (.iadd, 1) := dk_96 (dk_at dksX6_isFaded_4 0 rfl rfl)
theorem dX6_isFaded_95 : decode cX6_isFaded 95 = .ok (.iload_n 2, 1) := dk_28 (dk_at dksX6_isFaded_4 1 rfl rfl)
theorem dX6_isFaded_96 : decode cX6_isFaded 96 = .ok (.iadd, 1) := dk_96 (dk_at dksX6_isFaded_4 2 rfl rfl)
theorem dX6_isFaded_97 : decode cX6_isFaded 97 = .ok (.iaload, 1) := dk_46 (dk_at dksX6_isFaded_4 3 rfl rfl)
theorem dX6_isFaded_98 : decode cX6_isFaded 98 = .ok (.iconst 1, 1) := dk_4 (dk_at dksX6_isFaded_4 4 rfl rfl)
theorem dX6_isFaded_99 : decode cX6_isFaded 99 = .ok (.isub, 1) := dk_100 (dk_at dksX6_isFaded_4 5 rfl rfl)
theorem dX6_isFaded_100 : decode cX6_isFaded 100 = .ok (.iload_n 3, 1) := dk_29 (dk_at dksX6_isFaded_4 6 rfl rfl)
theorem dX6_isFaded_101 : decode cX6_isFaded 101 = .ok (.isub, 1) := dk_100 (dk_at dksX6_isFaded_4 7 rfl rfl)
theorem dX6_isFaded_102 : decode cX6_isFaded 102 = .ok (.iastore, 1) := dk_79 (dk_at dksX6_isFaded_4 8 rfl rfl)
theorem dX6_isFaded_103 : decode cX6_isFaded 103 = .ok (.aload_n 0, 1) := dk_42 (dk_at dksX6_isFaded_4 9 rfl rfl)
theorem dX6_isFaded_104 : decode cX6_isFaded 104 = .ok (.aload_n 0, 1) := dk_42 (dk_at dksX6_isFaded_4 10 rfl rfl)
theorem dX6_isFaded_105 : decode cX6_isFaded 105 = .ok (.getfield 89, 3) := dk_180 0 89 (dk_at dksX6_isFaded_4 11 rfl rfl)
theorem dX6_isFaded_108 : decode cX6_isFaded 108 = .ok (.iconst 4, 1) := dk_7 (dk_at dksX6_isFaded_4 14 rfl rfl)
theorem dX6_isFaded_109 : decode cX6_isFaded 109 = .ok (.iaload, 1) := dk_46 (dk_at dksX6_isFaded_4 15 rfl rfl)
theorem dX6_isFaded_110 : decode cX6_isFaded 110 = .ok (.invokevirtual 315, 3) := dk_182 1 59 (dk_at dksX6_isFaded_4 16 rfl rfl)
theorem dX6_isFaded_113 : decode cX6_isFaded 113 = .ok (.ifCond .eq 7, 3) := dk_153 0 7 (dk_at dksX6_isFaded_4 19 rfl rfl)
theorem dX6_isFaded_116 : decode cX6_isFaded 116 = .ok (.iconst 1, 1) := dk_4 (dk_at dksX6_isFaded_4 22 rfl rfl)
theorem dX6_isFaded_117 : decode cX6_isFaded 117 = .ok (.goto 4, 3) := dk_167 0 4 (dk_at dksX6_isFaded_5 0 rfl rfl)
theorem dX6_isFaded_120 : decode cX6_isFaded 120 = .ok (.iconst 0, 1) := dk_3 (dk_at dksX6_isFaded_5 3 rfl rfl)
theorem dX6_isFaded_121 : decode cX6_isFaded 121 = .ok (.ireturn, 1) := dk_172 (dk_at dksX6_isFaded_5 4 rfl rfl)
abbrev cX6_worthAt : ByteArray := prog_24_method_39_code
def yX6_worthAt : MethodName := ⟨RX6, "worthAt", "(I)I"⟩
def dkwX6_worthAt_6 : List UInt8 := [180, 0, 116, 3, 46, 172]
abbrev dktX6_worthAt_6 : List UInt8 := dkwX6_worthAt_6 ++ []
def dkwX6_worthAt_5 : List UInt8 := [180, 0, 116, 28, 4, 100, 46, 42, 180, 0, 116, 28, 46, 184, 1, 6, 79, 132, 3, 1, 167, 255, 123, 42]
abbrev dktX6_worthAt_5 : List UInt8 := dkwX6_worthAt_5 ++ dktX6_worthAt_6
def dkwX6_worthAt_4 : List UInt8 := [4, 167, 0, 4, 3, 79, 167, 0, 33, 132, 2, 255, 42, 180, 0, 116, 28, 4, 100, 21, 4, 42]
abbrev dktX6_worthAt_4 : List UInt8 := dkwX6_worthAt_4 ++ dktX6_worthAt_5
def dkwX6_worthAt_3 : List UInt8 := [21, 4, 6, 160, 0, 30, 42, 180, 0, 116, 28, 4, 100, 42, 180, 0, 116, 28, 4, 100, 46, 154, 0, 7]
abbrev dktX6_worthAt_3 : List UInt8 := dkwX6_worthAt_3 ++ dktX6_worthAt_4
def dkwX6_worthAt_2 : List UInt8 := [29, 46, 167, 0, 14, 42, 180, 0, 113, 42, 180, 0, 95, 29, 46, 46, 79, 132, 2, 1, 167, 0, 66]
abbrev dktX6_worthAt_2 : List UInt8 := dkwX6_worthAt_2 ++ dktX6_worthAt_3
def dkwX6_worthAt_1 : List UInt8 := [159, 0, 9, 21, 4, 5, 160, 0, 41, 42, 180, 0, 116, 28, 21, 4, 4, 160, 0, 12, 42, 180, 0, 95]
abbrev dktX6_worthAt_1 : List UInt8 := dkwX6_worthAt_1 ++ dktX6_worthAt_2
def dkwX6_worthAt_0 : List UInt8 := [3, 61, 27, 62, 42, 180, 0, 92, 29, 46, 153, 0, 130, 42, 180, 0, 92, 29, 46, 54, 4, 21, 4, 4]
abbrev dktX6_worthAt_0 : List UInt8 := dkwX6_worthAt_0 ++ dktX6_worthAt_1
theorem dksX6_worthAt_0 : cX6_worthAt.data.toList.drop 0 = dktX6_worthAt_0 := by decide +kernel
theorem dksX6_worthAt_1 : cX6_worthAt.data.toList.drop 24 = dktX6_worthAt_1 := dk_seg dksX6_worthAt_0 24 rfl rfl
theorem dksX6_worthAt_2 : cX6_worthAt.data.toList.drop 48 = dktX6_worthAt_2 := dk_seg dksX6_worthAt_1 24 rfl rfl
theorem dksX6_worthAt_3 : cX6_worthAt.data.toList.drop 71 = dktX6_worthAt_3 := dk_seg dksX6_worthAt_2 23 rfl rfl
theorem dksX6_worthAt_4 : cX6_worthAt.data.toList.drop 95 = dktX6_worthAt_4 := dk_seg dksX6_worthAt_3 24 rfl rfl
theorem dksX6_worthAt_5 : cX6_worthAt.data.toList.drop 117 = dktX6_worthAt_5 := dk_seg dksX6_worthAt_4 22 rfl rfl
theorem dksX6_worthAt_6 : cX6_worthAt.data.toList.drop 141 = dktX6_worthAt_6 := dk_seg dksX6_worthAt_5 24 rfl rfl
theorem dX6_worthAt_0 : decode cX6_worthAt 0 = .ok (.iconst 0, 1) := dk_3 (dk_at dksX6_worthAt_0 0 rfl rfl)
theorem dX6_worthAt_1 : decode cX6_worthAt 1 = .ok (.istore_n 2, 1) := dk_61 (dk_at dksX6_worthAt_0 1 rfl rfl)
theorem dX6_worthAt_2 : decode cX6_worthAt 2 = .ok (.iload_n 1, 1) := dk_27 (dk_at dksX6_worthAt_0 2 rfl rfl)
theorem dX6_worthAt_3 : decode cX6_worthAt 3 = .ok (.istore_n 3, 1) := dk_62 (dk_at dksX6_worthAt_0 3 rfl rfl)
theorem dX6_worthAt_4 : decode cX6_worthAt 4 = .ok (.aload_n 0, 1) := dk_42 (dk_at dksX6_worthAt_0 4 rfl rfl)
theorem dX6_worthAt_5 : decode cX6_worthAt 5 = .ok (.getfield 92, 3) := dk_180 0 92 (dk_at dksX6_worthAt_0 5 rfl rfl)
theorem dX6_worthAt_8 : decode cX6_worthAt 8 = .ok (.iload_n 3, 1) := dk_29 (dk_at dksX6_worthAt_0 8 rfl rfl)
theorem dX6_worthAt_9 : decode cX6_worthAt 9 = .ok (.iaload, 1) := dk_46 (dk_at dksX6_worthAt_0 9 rfl rfl)
theorem dX6_worthAt_10 : decode cX6_worthAt 10 = .ok (.ifCond .eq 130, 3) := dk_153 0 130 (dk_at dksX6_worthAt_0 10 rfl rfl)
theorem dX6_worthAt_13 : decode cX6_worthAt 13 = .ok (.aload_n 0, 1) := dk_42 (dk_at dksX6_worthAt_0 13 rfl rfl)
theorem dX6_worthAt_14 : decode cX6_worthAt 14 = .ok (.getfield 92, 3) := dk_180 0 92 (dk_at dksX6_worthAt_0 14 rfl rfl)
theorem dX6_worthAt_17 : decode cX6_worthAt 17 = .ok (.iload_n 3, 1) := dk_29 (dk_at dksX6_worthAt_0 17 rfl rfl)
theorem dX6_worthAt_18 : decode cX6_worthAt 18 = .ok (.iaload, 1) := dk_46 (dk_at dksX6_worthAt_0 18 rfl rfl)
theorem dX6_worthAt_19 : decode cX6_worthAt 19 = .ok (.istore 4, 2) := dk_54 4 (dk_at dksX6_worthAt_0 19 rfl rfl)
theorem dX6_worthAt_21 : decode cX6_worthAt 21 = .ok (.iload 4, 2) := dk_21 4 (dk_at dksX6_worthAt_0 21 rfl rfl)
theorem dX6_worthAt_23 : decode cX6_worthAt 23 = .ok (.iconst 1, 1) := dk_4 (dk_at dksX6_worthAt_0 23 rfl rfl)
theorem dX6_worthAt_24 : decode cX6_worthAt 24 = .ok (.if_icmp .eq 9, 3) := dk_159 0 9 (dk_at dksX6_worthAt_1 0 rfl rfl)
theorem dX6_worthAt_27 : decode cX6_worthAt 27 = .ok (.iload 4, 2) := dk_21 4 (dk_at dksX6_worthAt_1 3 rfl rfl)
theorem dX6_worthAt_29 : decode cX6_worthAt 29 = .ok (.iconst 2, 1) := dk_5 (dk_at dksX6_worthAt_1 5 rfl rfl)
theorem dX6_worthAt_30 : decode cX6_worthAt 30 = .ok (.if_icmp .ne 41, 3) := dk_160 0 41 (dk_at dksX6_worthAt_1 6 rfl rfl)
theorem dX6_worthAt_33 : decode cX6_worthAt 33 = .ok (.aload_n 0, 1) := dk_42 (dk_at dksX6_worthAt_1 9 rfl rfl)
theorem dX6_worthAt_34 : decode cX6_worthAt 34 = .ok (.getfield 116, 3) := dk_180 0 116 (dk_at dksX6_worthAt_1 10 rfl rfl)
theorem dX6_worthAt_37 : decode cX6_worthAt 37 = .ok (.iload_n 2, 1) := dk_28 (dk_at dksX6_worthAt_1 13 rfl rfl)
theorem dX6_worthAt_38 : decode cX6_worthAt 38 = .ok (.iload 4, 2) := dk_21 4 (dk_at dksX6_worthAt_1 14 rfl rfl)
theorem dX6_worthAt_40 : decode cX6_worthAt 40 = .ok (.iconst 1, 1) := dk_4 (dk_at dksX6_worthAt_1 16 rfl rfl)
theorem dX6_worthAt_41 : decode cX6_worthAt 41 = .ok (.if_icmp .ne 12, 3) := dk_160 0 12 (dk_at dksX6_worthAt_1 17 rfl rfl)
theorem dX6_worthAt_44 : decode cX6_worthAt 44 = .ok (.aload_n 0, 1) := dk_42 (dk_at dksX6_worthAt_1 20 rfl rfl)
theorem dX6_worthAt_45 : decode cX6_worthAt 45 = .ok (.getfield 95, 3) := dk_180 0 95 (dk_at dksX6_worthAt_1 21 rfl rfl)
theorem dX6_worthAt_48 : decode cX6_worthAt 48 = .ok (.iload_n 3, 1) := dk_29 (dk_at dksX6_worthAt_2 0 rfl rfl)
theorem dX6_worthAt_49 : decode cX6_worthAt 49 = .ok (.iaload, 1) := dk_46 (dk_at dksX6_worthAt_2 1 rfl rfl)
theorem dX6_worthAt_50 : decode cX6_worthAt 50 = .ok (.goto 14, 3) := dk_167 0 14 (dk_at dksX6_worthAt_2 2 rfl rfl)
theorem dX6_worthAt_53 : decode cX6_worthAt 53 = .ok (.aload_n 0, 1) := dk_42 (dk_at dksX6_worthAt_2 5 rfl rfl)
theorem dX6_worthAt_54 : decode cX6_worthAt 54 = .ok (.getfield 113, 3) := dk_180 0 113 (dk_at dksX6_worthAt_2 6 rfl rfl)
theorem dX6_worthAt_57 : decode cX6_worthAt 57 = .ok (.aload_n 0, 1) := dk_42 (dk_at dksX6_worthAt_2 9 rfl rfl)
theorem dX6_worthAt_58 : decode cX6_worthAt 58 = .ok (.getfield 95, 3) := dk_180 0 95 (dk_at dksX6_worthAt_2 10 rfl rfl)
theorem dX6_worthAt_61 : decode cX6_worthAt 61 = .ok (.iload_n 3, 1) := dk_29 (dk_at dksX6_worthAt_2 13 rfl rfl)
theorem dX6_worthAt_62 : decode cX6_worthAt 62 = .ok (.iaload, 1) := dk_46 (dk_at dksX6_worthAt_2 14 rfl rfl)
theorem dX6_worthAt_63 : decode cX6_worthAt 63 = .ok (.iaload, 1) := dk_46 (dk_at dksX6_worthAt_2 15 rfl rfl)
theorem dX6_worthAt_64 : decode cX6_worthAt 64 = .ok (.iastore, 1) := dk_79 (dk_at dksX6_worthAt_2 16 rfl rfl)
theorem dX6_worthAt_65 : decode cX6_worthAt 65 = .ok (.iinc 2 1, 3) := dk_132 2 1 (dk_at dksX6_worthAt_2 17 rfl rfl)
theorem dX6_worthAt_68 : decode cX6_worthAt 68 = .ok (.goto 66, 3) := dk_167 0 66 (dk_at dksX6_worthAt_2 20 rfl rfl)
theorem dX6_worthAt_71 : decode cX6_worthAt 71 = .ok (.iload 4, 2) := dk_21 4 (dk_at dksX6_worthAt_3 0 rfl rfl)
theorem dX6_worthAt_73 : decode cX6_worthAt 73 = .ok (.iconst 3, 1) := dk_6 (dk_at dksX6_worthAt_3 2 rfl rfl)
theorem dX6_worthAt_74 : decode cX6_worthAt 74 = .ok (.if_icmp .ne 30, 3) := dk_160 0 30 (dk_at dksX6_worthAt_3 3 rfl rfl)
theorem dX6_worthAt_77 : decode cX6_worthAt 77 = .ok (.aload_n 0, 1) := dk_42 (dk_at dksX6_worthAt_3 6 rfl rfl)
theorem dX6_worthAt_78 : decode cX6_worthAt 78 = .ok (.getfield 116, 3) := dk_180 0 116 (dk_at dksX6_worthAt_3 7 rfl rfl)
theorem dX6_worthAt_81 : decode cX6_worthAt 81 = .ok (.iload_n 2, 1) := dk_28 (dk_at dksX6_worthAt_3 10 rfl rfl)
theorem dX6_worthAt_82 : decode cX6_worthAt 82 = .ok (.iconst 1, 1) := dk_4 (dk_at dksX6_worthAt_3 11 rfl rfl)
theorem dX6_worthAt_83 : decode cX6_worthAt 83 = .ok (.isub, 1) := dk_100 (dk_at dksX6_worthAt_3 12 rfl rfl)
theorem dX6_worthAt_84 : decode cX6_worthAt 84 = .ok (.aload_n 0, 1) := dk_42 (dk_at dksX6_worthAt_3 13 rfl rfl)
theorem dX6_worthAt_85 : decode cX6_worthAt 85 = .ok (.getfield 116, 3) := dk_180 0 116 (dk_at dksX6_worthAt_3 14 rfl rfl)
theorem dX6_worthAt_88 : decode cX6_worthAt 88 = .ok (.iload_n 2, 1) := dk_28 (dk_at dksX6_worthAt_3 17 rfl rfl)
theorem dX6_worthAt_89 : decode cX6_worthAt 89 = .ok (.iconst 1, 1) := dk_4 (dk_at dksX6_worthAt_3 18 rfl rfl)
theorem dX6_worthAt_90 : decode cX6_worthAt 90 = .ok (.isub, 1) := dk_100 (dk_at dksX6_worthAt_3 19 rfl rfl)
theorem dX6_worthAt_91 : decode cX6_worthAt 91 = .ok (.iaload, 1) := dk_46 (dk_at dksX6_worthAt_3 20 rfl rfl)
theorem dX6_worthAt_92 : decode cX6_worthAt 92 = .ok (.ifCond .ne 7, 3) := dk_154 0 7 (dk_at dksX6_worthAt_3 21 rfl rfl)
theorem dX6_worthAt_95 : decode cX6_worthAt 95 = .ok (.iconst 1, 1) := dk_4 (dk_at dksX6_worthAt_4 0 rfl rfl)
theorem dX6_worthAt_96 : decode cX6_worthAt 96 = .ok (.goto 4, 3) := dk_167 0 4 (dk_at dksX6_worthAt_4 1 rfl rfl)
theorem dX6_worthAt_99 : decode cX6_worthAt 99 = .ok (.iconst 0, 1) := dk_3 (dk_at dksX6_worthAt_4 4 rfl rfl)
theorem dX6_worthAt_100 : decode cX6_worthAt 100 = .ok (.iastore, 1) := dk_79 (dk_at dksX6_worthAt_4 5 rfl rfl)
theorem dX6_worthAt_101 : decode cX6_worthAt 101 = .ok (.goto 33, 3) := dk_167 0 33 (dk_at dksX6_worthAt_4 6 rfl rfl)
theorem dX6_worthAt_104 : decode cX6_worthAt 104 = .ok (.iinc 2 (-1), 3) := dk_132 2 255 (dk_at dksX6_worthAt_4 9 rfl rfl)
theorem dX6_worthAt_107 : decode cX6_worthAt 107 = .ok (.aload_n 0, 1) := dk_42 (dk_at dksX6_worthAt_4 12 rfl rfl)
theorem dX6_worthAt_108 : decode cX6_worthAt 108 = .ok (.getfield 116, 3) := dk_180 0 116 (dk_at dksX6_worthAt_4 13 rfl rfl)
theorem dX6_worthAt_111 : decode cX6_worthAt 111 = .ok (.iload_n 2, 1) := dk_28 (dk_at dksX6_worthAt_4 16 rfl rfl)
theorem dX6_worthAt_112 : decode cX6_worthAt 112 = .ok (.iconst 1, 1) := dk_4 (dk_at dksX6_worthAt_4 17 rfl rfl)
theorem dX6_worthAt_113 : decode cX6_worthAt 113 = .ok (.isub, 1) := dk_100 (dk_at dksX6_worthAt_4 18 rfl rfl)
theorem dX6_worthAt_114 : decode cX6_worthAt 114 = .ok (.iload 4, 2) := dk_21 4 (dk_at dksX6_worthAt_4 19 rfl rfl)
theorem dX6_worthAt_116 : decode cX6_worthAt 116 = .ok (.aload_n 0, 1) := dk_42 (dk_at dksX6_worthAt_4 21 rfl rfl)
theorem dX6_worthAt_117 : decode cX6_worthAt 117 = .ok (.getfield 116, 3) := dk_180 0 116 (dk_at dksX6_worthAt_5 0 rfl rfl)
theorem dX6_worthAt_120 : decode cX6_worthAt 120 = .ok (.iload_n 2, 1) := dk_28 (dk_at dksX6_worthAt_5 3 rfl rfl)
theorem dX6_worthAt_121 : decode cX6_worthAt 121 = .ok (.iconst 1, 1) := dk_4 (dk_at dksX6_worthAt_5 4 rfl rfl)
theorem dX6_worthAt_122 : decode cX6_worthAt 122 = .ok (.isub, 1) := dk_100 (dk_at dksX6_worthAt_5 5 rfl rfl)
theorem dX6_worthAt_123 : decode cX6_worthAt 123 = .ok (.iaload, 1) := dk_46 (dk_at dksX6_worthAt_5 6 rfl rfl)
theorem dX6_worthAt_124 : decode cX6_worthAt 124 = .ok (.aload_n 0, 1) := dk_42 (dk_at dksX6_worthAt_5 7 rfl rfl)
theorem dX6_worthAt_125 : decode cX6_worthAt 125 = .ok (.getfield 116, 3) := dk_180 0 116 (dk_at dksX6_worthAt_5 8 rfl rfl)
theorem dX6_worthAt_128 : decode cX6_worthAt 128 = .ok (.iload_n 2, 1) := dk_28 (dk_at dksX6_worthAt_5 11 rfl rfl)
theorem dX6_worthAt_129 : decode cX6_worthAt 129 = .ok (.iaload, 1) := dk_46 (dk_at dksX6_worthAt_5 12 rfl rfl)
theorem dX6_worthAt_130 : decode cX6_worthAt 130 = .ok (.invokestatic 262, 3) := dk_184 1 6 (dk_at dksX6_worthAt_5 13 rfl rfl)
theorem dX6_worthAt_133 : decode cX6_worthAt 133 = .ok (.iastore, 1) := dk_79 (dk_at dksX6_worthAt_5 16 rfl rfl)
theorem dX6_worthAt_134 : decode cX6_worthAt 134 = .ok (.iinc 3 1, 3) := dk_132 3 1 (dk_at dksX6_worthAt_5 17 rfl rfl)
theorem dX6_worthAt_137 : decode cX6_worthAt 137 = .ok (.goto (-133), 3) := dk_167 255 123 (dk_at dksX6_worthAt_5 20 rfl rfl)
theorem dX6_worthAt_140 : decode cX6_worthAt 140 = .ok (.aload_n 0, 1) := dk_42 (dk_at dksX6_worthAt_5 23 rfl rfl)
theorem dX6_worthAt_141 : decode cX6_worthAt 141 = .ok (.getfield 116, 3) := dk_180 0 116 (dk_at dksX6_worthAt_6 0 rfl rfl)
theorem dX6_worthAt_144 : decode cX6_worthAt 144 = .ok (.iconst 0, 1) := dk_3 (dk_at dksX6_worthAt_6 3 rfl rfl)
theorem dX6_worthAt_145 : decode cX6_worthAt 145 = .ok (.iaload, 1) := dk_46 (dk_at dksX6_worthAt_6 4 rfl rfl)
theorem dX6_worthAt_146 : decode cX6_worthAt 146 = .ok (.ireturn, 1) := dk_172 (dk_at dksX6_worthAt_6 5 rfl rfl)
abbrev cX6_both : ByteArray := prog_24_method_40_code
def yX6_both : MethodName := ⟨RX6, "both", "(III)I"⟩
def dkwX6_both_4 : List UInt8 := [27, 154, 0, 7, 28, 153, 0, 7, 4, 167, 0, 4, 3, 172]
abbrev dktX6_both_4 : List UInt8 := dkwX6_both_4 ++ []
def dkwX6_both_3 : List UInt8 := [28, 160, 0, 7, 4, 167, 0, 4, 3, 172, 27, 153, 0, 11, 28, 153, 0, 7, 4, 167, 0, 4, 3, 172]
abbrev dktX6_both_3 : List UInt8 := dkwX6_both_3 ++ dktX6_both_4
def dkwX6_both_2 : List UInt8 := [27, 28, 96, 172, 27, 28, 100, 172, 27, 28, 104, 172, 27, 28, 162, 0, 7, 4, 167, 0, 4, 3, 172, 27]
abbrev dktX6_both_2 : List UInt8 := dkwX6_both_2 ++ dktX6_both_3
def dkwX6_both_1 : List UInt8 := [170, 0, 0, 0, 0, 0, 87, 0, 0, 0, 4, 0, 0, 0, 9, 0, 0, 0, 39, 0, 0, 0, 43, 0, 0, 0, 47, 0, 0, 0, 51, 0, 0, 0, 62, 0, 0, 0, 73]
abbrev dktX6_both_1 : List UInt8 := dkwX6_both_1 ++ dktX6_both_2
def dkwX6_both_0 : List UInt8 := [26]
abbrev dktX6_both_0 : List UInt8 := dkwX6_both_0 ++ dktX6_both_1
theorem dksX6_both_0 : cX6_both.data.toList.drop 0 = dktX6_both_0 := by decide +kernel
theorem dksX6_both_1 : cX6_both.data.toList.drop 1 = dktX6_both_1 := dk_seg dksX6_both_0 1 rfl rfl
theorem dksX6_both_2 : cX6_both.data.toList.drop 40 = dktX6_both_2 := dk_seg dksX6_both_1 39 rfl rfl
theorem dksX6_both_3 : cX6_both.data.toList.drop 64 = dktX6_both_3 := dk_seg dksX6_both_2 24 rfl rfl
theorem dksX6_both_4 : cX6_both.data.toList.drop 88 = dktX6_both_4 := dk_seg dksX6_both_3 24 rfl rfl
theorem dX6_both_0 : decode cX6_both 0 = .ok (.iload_n 0, 1) := dk_26 (dk_at dksX6_both_0 0 rfl rfl)
theorem dX6_both_1 : decode cX6_both 1 = .ok (.tableswitch 87 4 9 #[39, 43, 47, 51, 62, 73], 39) := by decide +kernel
theorem dX6_both_40 : decode cX6_both 40 = .ok (.iload_n 1, 1) := dk_27 (dk_at dksX6_both_2 0 rfl rfl)
theorem dX6_both_41 : decode cX6_both 41 = .ok (.iload_n 2, 1) := dk_28 (dk_at dksX6_both_2 1 rfl rfl)
theorem dX6_both_42 : decode cX6_both 42 = .ok (.iadd, 1) := dk_96 (dk_at dksX6_both_2 2 rfl rfl)
theorem dX6_both_43 : decode cX6_both 43 = .ok (.ireturn, 1) := dk_172 (dk_at dksX6_both_2 3 rfl rfl)
theorem dX6_both_44 : decode cX6_both 44 = .ok (.iload_n 1, 1) := dk_27 (dk_at dksX6_both_2 4 rfl rfl)
theorem dX6_both_45 : decode cX6_both 45 = .ok (.iload_n 2, 1) := dk_28 (dk_at dksX6_both_2 5 rfl rfl)
theorem dX6_both_46 : decode cX6_both 46 = .ok (.isub, 1) := dk_100 (dk_at dksX6_both_2 6 rfl rfl)
theorem dX6_both_47 : decode cX6_both 47 = .ok (.ireturn, 1) := dk_172 (dk_at dksX6_both_2 7 rfl rfl)
theorem dX6_both_48 : decode cX6_both 48 = .ok (.iload_n 1, 1) := dk_27 (dk_at dksX6_both_2 8 rfl rfl)
theorem dX6_both_49 : decode cX6_both 49 = .ok (.iload_n 2, 1) := dk_28 (dk_at dksX6_both_2 9 rfl rfl)
theorem dX6_both_50 : decode cX6_both 50 = .ok (.imul, 1) := dk_104 (dk_at dksX6_both_2 10 rfl rfl)
theorem dX6_both_51 : decode cX6_both 51 = .ok (.ireturn, 1) := dk_172 (dk_at dksX6_both_2 11 rfl rfl)
theorem dX6_both_52 : decode cX6_both 52 = .ok (.iload_n 1, 1) := dk_27 (dk_at dksX6_both_2 12 rfl rfl)
theorem dX6_both_53 : decode cX6_both 53 = .ok (.iload_n 2, 1) := dk_28 (dk_at dksX6_both_2 13 rfl rfl)
theorem dX6_both_54 : decode cX6_both 54 = .ok (.if_icmp .ge 7, 3) := dk_162 0 7 (dk_at dksX6_both_2 14 rfl rfl)
theorem dX6_both_57 : decode cX6_both 57 = .ok (.iconst 1, 1) := dk_4 (dk_at dksX6_both_2 17 rfl rfl)
theorem dX6_both_58 : decode cX6_both 58 = .ok (.goto 4, 3) := dk_167 0 4 (dk_at dksX6_both_2 18 rfl rfl)
theorem dX6_both_61 : decode cX6_both 61 = .ok (.iconst 0, 1) := dk_3 (dk_at dksX6_both_2 21 rfl rfl)
theorem dX6_both_62 : decode cX6_both 62 = .ok (.ireturn, 1) := dk_172 (dk_at dksX6_both_2 22 rfl rfl)
theorem dX6_both_63 : decode cX6_both 63 = .ok (.iload_n 1, 1) := dk_27 (dk_at dksX6_both_2 23 rfl rfl)
theorem dX6_both_64 : decode cX6_both 64 = .ok (.iload_n 2, 1) := dk_28 (dk_at dksX6_both_3 0 rfl rfl)
theorem dX6_both_65 : decode cX6_both 65 = .ok (.if_icmp .ne 7, 3) := dk_160 0 7 (dk_at dksX6_both_3 1 rfl rfl)
theorem dX6_both_68 : decode cX6_both 68 = .ok (.iconst 1, 1) := dk_4 (dk_at dksX6_both_3 4 rfl rfl)
theorem dX6_both_69 : decode cX6_both 69 = .ok (.goto 4, 3) := dk_167 0 4 (dk_at dksX6_both_3 5 rfl rfl)
theorem dX6_both_72 : decode cX6_both 72 = .ok (.iconst 0, 1) := dk_3 (dk_at dksX6_both_3 8 rfl rfl)
theorem dX6_both_73 : decode cX6_both 73 = .ok (.ireturn, 1) := dk_172 (dk_at dksX6_both_3 9 rfl rfl)
theorem dX6_both_74 : decode cX6_both 74 = .ok (.iload_n 1, 1) := dk_27 (dk_at dksX6_both_3 10 rfl rfl)
theorem dX6_both_75 : decode cX6_both 75 = .ok (.ifCond .eq 11, 3) := dk_153 0 11 (dk_at dksX6_both_3 11 rfl rfl)
theorem dX6_both_78 : decode cX6_both 78 = .ok (.iload_n 2, 1) := dk_28 (dk_at dksX6_both_3 14 rfl rfl)
theorem dX6_both_79 : decode cX6_both 79 = .ok (.ifCond .eq 7, 3) := dk_153 0 7 (dk_at dksX6_both_3 15 rfl rfl)
theorem dX6_both_82 : decode cX6_both 82 = .ok (.iconst 1, 1) := dk_4 (dk_at dksX6_both_3 18 rfl rfl)
theorem dX6_both_83 : decode cX6_both 83 = .ok (.goto 4, 3) := dk_167 0 4 (dk_at dksX6_both_3 19 rfl rfl)
theorem dX6_both_86 : decode cX6_both 86 = .ok (.iconst 0, 1) := dk_3 (dk_at dksX6_both_3 22 rfl rfl)
theorem dX6_both_87 : decode cX6_both 87 = .ok (.ireturn, 1) := dk_172 (dk_at dksX6_both_3 23 rfl rfl)
theorem dX6_both_88 : decode cX6_both 88 = .ok (.iload_n 1, 1) := dk_27 (dk_at dksX6_both_4 0 rfl rfl)
theorem dX6_both_89 : decode cX6_both 89 = .ok (.ifCond .ne 7, 3) := dk_154 0 7 (dk_at dksX6_both_4 1 rfl rfl)
theorem dX6_both_92 : decode cX6_both 92 = .ok (.iload_n 2, 1) := dk_28 (dk_at dksX6_both_4 4 rfl rfl)
theorem dX6_both_93 : decode cX6_both 93 = .ok (.ifCond .eq 7, 3) := dk_153 0 7 (dk_at dksX6_both_4 5 rfl rfl)
theorem dX6_both_96 : decode cX6_both 96 = .ok (.iconst 1, 1) := dk_4 (dk_at dksX6_both_4 8 rfl rfl)
theorem dX6_both_97 : decode cX6_both 97 = .ok (.goto 4, 3) := dk_167 0 4 (dk_at dksX6_both_4 9 rfl rfl)
theorem dX6_both_100 : decode cX6_both 100 = .ok (.iconst 0, 1) := dk_3 (dk_at dksX6_both_4 12 rfl rfl)
theorem dX6_both_101 : decode cX6_both 101 = .ok (.ireturn, 1) := dk_172 (dk_at dksX6_both_4 13 rfl rfl)
abbrev cX6_undo : ByteArray := prog_24_method_82_code
def yX6_undo : MethodName := ⟨RX6, "undo", "()Z"⟩
def dkwX6_undo_1 : List UInt8 := [42, 16, 66, 8, 42, 180, 1, 16, 96, 104, 3, 16, 60, 182, 1, 19, 4, 172]
abbrev dktX6_undo_1 : List UInt8 := dkwX6_undo_1 ++ []
def dkwX6_undo_0 : List UInt8 := [42, 3, 181, 0, 1, 42, 180, 1, 16, 154, 0, 5, 3, 172, 42, 89, 180, 1, 16, 4, 100, 181, 1, 16]
abbrev dktX6_undo_0 : List UInt8 := dkwX6_undo_0 ++ dktX6_undo_1
theorem dksX6_undo_0 : cX6_undo.data.toList.drop 0 = dktX6_undo_0 := by decide +kernel
theorem dksX6_undo_1 : cX6_undo.data.toList.drop 24 = dktX6_undo_1 := dk_seg dksX6_undo_0 24 rfl rfl
theorem dX6_undo_0 : decode cX6_undo 0 = .ok (.aload_n 0, 1) := dk_42 (dk_at dksX6_undo_0 0 rfl rfl)
theorem dX6_undo_1 : decode cX6_undo 1 = .ok (.iconst 0, 1) := dk_3 (dk_at dksX6_undo_0 1 rfl rfl)
theorem dX6_undo_2 : decode cX6_undo 2 = .ok (.putfield 1, 3) := dk_181 0 1 (dk_at dksX6_undo_0 2 rfl rfl)
theorem dX6_undo_5 : decode cX6_undo 5 = .ok (.aload_n 0, 1) := dk_42 (dk_at dksX6_undo_0 5 rfl rfl)
theorem dX6_undo_6 : decode cX6_undo 6 = .ok (.getfield 272, 3) := dk_180 1 16 (dk_at dksX6_undo_0 6 rfl rfl)
theorem dX6_undo_9 : decode cX6_undo 9 = .ok (.ifCond .ne 5, 3) := dk_154 0 5 (dk_at dksX6_undo_0 9 rfl rfl)
theorem dX6_undo_12 : decode cX6_undo 12 = .ok (.iconst 0, 1) := dk_3 (dk_at dksX6_undo_0 12 rfl rfl)
theorem dX6_undo_13 : decode cX6_undo 13 = .ok (.ireturn, 1) := dk_172 (dk_at dksX6_undo_0 13 rfl rfl)
theorem dX6_undo_14 : decode cX6_undo 14 = .ok (.aload_n 0, 1) := dk_42 (dk_at dksX6_undo_0 14 rfl rfl)
theorem dX6_undo_15 : decode cX6_undo 15 = .ok (.dup, 1) := dk_89 (dk_at dksX6_undo_0 15 rfl rfl)
theorem dX6_undo_16 : decode cX6_undo 16 = .ok (.getfield 272, 3) := dk_180 1 16 (dk_at dksX6_undo_0 16 rfl rfl)
theorem dX6_undo_19 : decode cX6_undo 19 = .ok (.iconst 1, 1) := dk_4 (dk_at dksX6_undo_0 19 rfl rfl)
theorem dX6_undo_20 : decode cX6_undo 20 = .ok (.isub, 1) := dk_100 (dk_at dksX6_undo_0 20 rfl rfl)
theorem dX6_undo_21 : decode cX6_undo 21 = .ok (.putfield 272, 3) := dk_181 1 16 (dk_at dksX6_undo_0 21 rfl rfl)
theorem dX6_undo_24 : decode cX6_undo 24 = .ok (.aload_n 0, 1) := dk_42 (dk_at dksX6_undo_1 0 rfl rfl)
theorem dX6_undo_25 : decode cX6_undo 25 = .ok (.bipush 66, 2) := dk_16 66 (dk_at dksX6_undo_1 1 rfl rfl)
theorem dX6_undo_27 : decode cX6_undo 27 = .ok (.iconst 5, 1) := dk_8 (dk_at dksX6_undo_1 3 rfl rfl)
theorem dX6_undo_28 : decode cX6_undo 28 = .ok (.aload_n 0, 1) := dk_42 (dk_at dksX6_undo_1 4 rfl rfl)
theorem dX6_undo_29 : decode cX6_undo 29 = .ok (.getfield 272, 3) := dk_180 1 16 (dk_at dksX6_undo_1 5 rfl rfl)
theorem dX6_undo_32 : decode cX6_undo 32 = .ok (.iadd, 1) := dk_96 (dk_at dksX6_undo_1 8 rfl rfl)
theorem dX6_undo_33 : decode cX6_undo 33 = .ok (.imul, 1) := dk_104 (dk_at dksX6_undo_1 9 rfl rfl)
theorem dX6_undo_34 : decode cX6_undo 34 = .ok (.iconst 0, 1) := dk_3 (dk_at dksX6_undo_1 10 rfl rfl)
theorem dX6_undo_35 : decode cX6_undo 35 = .ok (.bipush 60, 2) := dk_16 60 (dk_at dksX6_undo_1 11 rfl rfl)
theorem dX6_undo_37 : decode cX6_undo 37 = .ok (.invokevirtual 275, 3) := dk_182 1 19 (dk_at dksX6_undo_1 13 rfl rfl)
theorem dX6_undo_40 : decode cX6_undo 40 = .ok (.iconst 1, 1) := dk_4 (dk_at dksX6_undo_1 16 rfl rfl)
theorem dX6_undo_41 : decode cX6_undo 41 = .ok (.ireturn, 1) := dk_172 (dk_at dksX6_undo_1 17 rfl rfl)
abbrev cX6_judged : ByteArray := prog_24_method_84_code
def yX6_judged : MethodName := ⟨RX6, "judged", "(I)I"⟩
def dkwX6_judged_6 : List UInt8 := [2, 16, 6, 182, 1, 115, 172]
abbrev dktX6_judged_6 : List UInt8 := dkwX6_judged_6 ++ []
def dkwX6_judged_5 : List UInt8 := [167, 255, 169, 27, 154, 0, 7, 28, 167, 0, 22, 27, 4, 160, 0, 7, 29, 167, 0, 13, 42, 17, 5, 106]
abbrev dktX6_judged_5 : List UInt8 := dkwX6_judged_5 ++ dktX6_judged_6
def dkwX6_judged_4 : List UInt8 := [28, 61, 42, 180, 1, 108, 153, 0, 12, 29, 156, 0, 8, 21, 4, 167, 0, 4, 29, 62, 132, 4, 1]
abbrev dktX6_judged_4 : List UInt8 := dkwX6_judged_4 ++ dktX6_judged_5
def dkwX6_judged_3 : List UInt8 := [21, 4, 104, 96, 46, 182, 1, 112, 54, 5, 21, 5, 154, 0, 12, 28, 156, 0, 8, 21, 4, 167, 0, 4]
abbrev dktX6_judged_3 : List UInt8 := dkwX6_judged_3 ++ dktX6_judged_4
def dkwX6_judged_2 : List UInt8 := [6, 21, 4, 104, 96, 46, 42, 180, 0, 110, 5, 6, 21, 4, 104, 96, 46, 42, 180, 0, 110, 6, 6]
abbrev dktX6_judged_2 : List UInt8 := dkwX6_judged_2 ++ dktX6_judged_3
def dkwX6_judged_1 : List UInt8 := [2, 61, 2, 62, 3, 54, 4, 21, 4, 42, 180, 0, 110, 3, 46, 162, 0, 82, 42, 42, 180, 0, 110, 4]
abbrev dktX6_judged_1 : List UInt8 := dkwX6_judged_1 ++ dktX6_judged_2
def dkwX6_judged_0 : List UInt8 := [42, 3, 181, 0, 1, 27, 3, 5, 184, 0, 198, 154, 0, 6, 16, 254, 172, 42, 17, 5, 106, 182, 1, 13]
abbrev dktX6_judged_0 : List UInt8 := dkwX6_judged_0 ++ dktX6_judged_1
theorem dksX6_judged_0 : cX6_judged.data.toList.drop 0 = dktX6_judged_0 := by decide +kernel
theorem dksX6_judged_1 : cX6_judged.data.toList.drop 24 = dktX6_judged_1 := dk_seg dksX6_judged_0 24 rfl rfl
theorem dksX6_judged_2 : cX6_judged.data.toList.drop 48 = dktX6_judged_2 := dk_seg dksX6_judged_1 24 rfl rfl
theorem dksX6_judged_3 : cX6_judged.data.toList.drop 71 = dktX6_judged_3 := dk_seg dksX6_judged_2 23 rfl rfl
theorem dksX6_judged_4 : cX6_judged.data.toList.drop 95 = dktX6_judged_4 := dk_seg dksX6_judged_3 24 rfl rfl
theorem dksX6_judged_5 : cX6_judged.data.toList.drop 118 = dktX6_judged_5 := dk_seg dksX6_judged_4 23 rfl rfl
theorem dksX6_judged_6 : cX6_judged.data.toList.drop 142 = dktX6_judged_6 := dk_seg dksX6_judged_5 24 rfl rfl
theorem dX6_judged_0 : decode cX6_judged 0 = .ok (.aload_n 0, 1) := dk_42 (dk_at dksX6_judged_0 0 rfl rfl)
theorem dX6_judged_1 : decode cX6_judged 1 = .ok (.iconst 0, 1) := dk_3 (dk_at dksX6_judged_0 1 rfl rfl)
theorem dX6_judged_2 : decode cX6_judged 2 = .ok (.putfield 1, 3) := dk_181 0 1 (dk_at dksX6_judged_0 2 rfl rfl)
theorem dX6_judged_5 : decode cX6_judged 5 = .ok (.iload_n 1, 1) := dk_27 (dk_at dksX6_judged_0 5 rfl rfl)
theorem dX6_judged_6 : decode cX6_judged 6 = .ok (.iconst 0, 1) := dk_3 (dk_at dksX6_judged_0 6 rfl rfl)
theorem dX6_judged_7 : decode cX6_judged 7 = .ok (.iconst 2, 1) := dk_5 (dk_at dksX6_judged_0 7 rfl rfl)
theorem dX6_judged_8 : decode cX6_judged 8 = .ok (.invokestatic 198, 3) := dk_184 0 198 (dk_at dksX6_judged_0 8 rfl rfl)
theorem dX6_judged_11 : decode cX6_judged 11 = .ok (.ifCond .ne 6, 3) := dk_154 0 6 (dk_at dksX6_judged_0 11 rfl rfl)
theorem dX6_judged_14 : decode cX6_judged 14 = .ok (.bipush (-2), 2) := dk_16 254 (dk_at dksX6_judged_0 14 rfl rfl)
theorem dX6_judged_16 : decode cX6_judged 16 = .ok (.ireturn, 1) := dk_172 (dk_at dksX6_judged_0 16 rfl rfl)
theorem dX6_judged_17 : decode cX6_judged 17 = .ok (.aload_n 0, 1) := dk_42 (dk_at dksX6_judged_0 17 rfl rfl)
theorem dX6_judged_18 : decode cX6_judged 18 = .ok (.sipush 1386, 3) := dk_17 5 106 (dk_at dksX6_judged_0 18 rfl rfl)
theorem dX6_judged_21 : decode cX6_judged 21 = .ok (.invokevirtual 269, 3) := dk_182 1 13 (dk_at dksX6_judged_0 21 rfl rfl)
theorem dX6_judged_24 : decode cX6_judged 24 = .ok (.iconst (-1), 1) := dk_2 (dk_at dksX6_judged_1 0 rfl rfl)
theorem dX6_judged_25 : decode cX6_judged 25 = .ok (.istore_n 2, 1) := dk_61 (dk_at dksX6_judged_1 1 rfl rfl)
theorem dX6_judged_26 : decode cX6_judged 26 = .ok (.iconst (-1), 1) := dk_2 (dk_at dksX6_judged_1 2 rfl rfl)
theorem dX6_judged_27 : decode cX6_judged 27 = .ok (.istore_n 3, 1) := dk_62 (dk_at dksX6_judged_1 3 rfl rfl)
theorem dX6_judged_28 : decode cX6_judged 28 = .ok (.iconst 0, 1) := dk_3 (dk_at dksX6_judged_1 4 rfl rfl)
theorem dX6_judged_29 : decode cX6_judged 29 = .ok (.istore 4, 2) := dk_54 4 (dk_at dksX6_judged_1 5 rfl rfl)
theorem dX6_judged_31 : decode cX6_judged 31 = .ok (.iload 4, 2) := dk_21 4 (dk_at dksX6_judged_1 7 rfl rfl)
theorem dX6_judged_33 : decode cX6_judged 33 = .ok (.aload_n 0, 1) := dk_42 (dk_at dksX6_judged_1 9 rfl rfl)
theorem dX6_judged_34 : decode cX6_judged 34 = .ok (.getfield 110, 3) := dk_180 0 110 (dk_at dksX6_judged_1 10 rfl rfl)
theorem dX6_judged_37 : decode cX6_judged 37 = .ok (.iconst 0, 1) := dk_3 (dk_at dksX6_judged_1 13 rfl rfl)
theorem dX6_judged_38 : decode cX6_judged 38 = .ok (.iaload, 1) := dk_46 (dk_at dksX6_judged_1 14 rfl rfl)
theorem dX6_judged_39 : decode cX6_judged 39 = .ok (.if_icmp .ge 82, 3) := dk_162 0 82 (dk_at dksX6_judged_1 15 rfl rfl)
theorem dX6_judged_42 : decode cX6_judged 42 = .ok (.aload_n 0, 1) := dk_42 (dk_at dksX6_judged_1 18 rfl rfl)
theorem dX6_judged_43 : decode cX6_judged 43 = .ok (.aload_n 0, 1) := dk_42 (dk_at dksX6_judged_1 19 rfl rfl)
theorem dX6_judged_44 : decode cX6_judged 44 = .ok (.getfield 110, 3) := dk_180 0 110 (dk_at dksX6_judged_1 20 rfl rfl)
theorem dX6_judged_47 : decode cX6_judged 47 = .ok (.iconst 1, 1) := dk_4 (dk_at dksX6_judged_1 23 rfl rfl)
theorem dX6_judged_48 : decode cX6_judged 48 = .ok (.iconst 3, 1) := dk_6 (dk_at dksX6_judged_2 0 rfl rfl)
theorem dX6_judged_49 : decode cX6_judged 49 = .ok (.iload 4, 2) := dk_21 4 (dk_at dksX6_judged_2 1 rfl rfl)
theorem dX6_judged_51 : decode cX6_judged 51 = .ok (.imul, 1) := dk_104 (dk_at dksX6_judged_2 3 rfl rfl)
theorem dX6_judged_52 : decode cX6_judged 52 = .ok (.iadd, 1) := dk_96 (dk_at dksX6_judged_2 4 rfl rfl)
theorem dX6_judged_53 : decode cX6_judged 53 = .ok (.iaload, 1) := dk_46 (dk_at dksX6_judged_2 5 rfl rfl)
theorem dX6_judged_54 : decode cX6_judged 54 = .ok (.aload_n 0, 1) := dk_42 (dk_at dksX6_judged_2 6 rfl rfl)
theorem dX6_judged_55 : decode cX6_judged 55 = .ok (.getfield 110, 3) := dk_180 0 110 (dk_at dksX6_judged_2 7 rfl rfl)
theorem dX6_judged_58 : decode cX6_judged 58 = .ok (.iconst 2, 1) := dk_5 (dk_at dksX6_judged_2 10 rfl rfl)
theorem dX6_judged_59 : decode cX6_judged 59 = .ok (.iconst 3, 1) := dk_6 (dk_at dksX6_judged_2 11 rfl rfl)
theorem dX6_judged_60 : decode cX6_judged 60 = .ok (.iload 4, 2) := dk_21 4 (dk_at dksX6_judged_2 12 rfl rfl)
theorem dX6_judged_62 : decode cX6_judged 62 = .ok (.imul, 1) := dk_104 (dk_at dksX6_judged_2 14 rfl rfl)
theorem dX6_judged_63 : decode cX6_judged 63 = .ok (.iadd, 1) := dk_96 (dk_at dksX6_judged_2 15 rfl rfl)
theorem dX6_judged_64 : decode cX6_judged 64 = .ok (.iaload, 1) := dk_46 (dk_at dksX6_judged_2 16 rfl rfl)
theorem dX6_judged_65 : decode cX6_judged 65 = .ok (.aload_n 0, 1) := dk_42 (dk_at dksX6_judged_2 17 rfl rfl)
theorem dX6_judged_66 : decode cX6_judged 66 = .ok (.getfield 110, 3) := dk_180 0 110 (dk_at dksX6_judged_2 18 rfl rfl)
theorem dX6_judged_69 : decode cX6_judged 69 = .ok (.iconst 3, 1) := dk_6 (dk_at dksX6_judged_2 21 rfl rfl)
theorem dX6_judged_70 : decode cX6_judged 70 = .ok (.iconst 3, 1) := dk_6 (dk_at dksX6_judged_2 22 rfl rfl)
theorem dX6_judged_71 : decode cX6_judged 71 = .ok (.iload 4, 2) := dk_21 4 (dk_at dksX6_judged_3 0 rfl rfl)
theorem dX6_judged_73 : decode cX6_judged 73 = .ok (.imul, 1) := dk_104 (dk_at dksX6_judged_3 2 rfl rfl)
theorem dX6_judged_74 : decode cX6_judged 74 = .ok (.iadd, 1) := dk_96 (dk_at dksX6_judged_3 3 rfl rfl)
theorem dX6_judged_75 : decode cX6_judged 75 = .ok (.iaload, 1) := dk_46 (dk_at dksX6_judged_3 4 rfl rfl)
theorem dX6_judged_76 : decode cX6_judged 76 = .ok (.invokevirtual 368, 3) := dk_182 1 112 (dk_at dksX6_judged_3 5 rfl rfl)
theorem dX6_judged_79 : decode cX6_judged 79 = .ok (.istore 5, 2) := dk_54 5 (dk_at dksX6_judged_3 8 rfl rfl)
theorem dX6_judged_81 : decode cX6_judged 81 = .ok (.iload 5, 2) := dk_21 5 (dk_at dksX6_judged_3 10 rfl rfl)
theorem dX6_judged_83 : decode cX6_judged 83 = .ok (.ifCond .ne 12, 3) := dk_154 0 12 (dk_at dksX6_judged_3 12 rfl rfl)
theorem dX6_judged_86 : decode cX6_judged 86 = .ok (.iload_n 2, 1) := dk_28 (dk_at dksX6_judged_3 15 rfl rfl)
theorem dX6_judged_87 : decode cX6_judged 87 = .ok (.ifCond .ge 8, 3) := dk_156 0 8 (dk_at dksX6_judged_3 16 rfl rfl)
theorem dX6_judged_90 : decode cX6_judged 90 = .ok (.iload 4, 2) := dk_21 4 (dk_at dksX6_judged_3 19 rfl rfl)
theorem dX6_judged_92 : decode cX6_judged 92 = .ok (.goto 4, 3) := dk_167 0 4 (dk_at dksX6_judged_3 21 rfl rfl)
theorem dX6_judged_95 : decode cX6_judged 95 = .ok (.iload_n 2, 1) := dk_28 (dk_at dksX6_judged_4 0 rfl rfl)
theorem dX6_judged_96 : decode cX6_judged 96 = .ok (.istore_n 2, 1) := dk_61 (dk_at dksX6_judged_4 1 rfl rfl)
theorem dX6_judged_97 : decode cX6_judged 97 = .ok (.aload_n 0, 1) := dk_42 (dk_at dksX6_judged_4 2 rfl rfl)
theorem dX6_judged_98 : decode cX6_judged 98 = .ok (.getfield 364, 3) := dk_180 1 108 (dk_at dksX6_judged_4 3 rfl rfl)
theorem dX6_judged_101 : decode cX6_judged 101 = .ok (.ifCond .eq 12, 3) := dk_153 0 12 (dk_at dksX6_judged_4 6 rfl rfl)
theorem dX6_judged_104 : decode cX6_judged 104 = .ok (.iload_n 3, 1) := dk_29 (dk_at dksX6_judged_4 9 rfl rfl)
theorem dX6_judged_105 : decode cX6_judged 105 = .ok (.ifCond .ge 8, 3) := dk_156 0 8 (dk_at dksX6_judged_4 10 rfl rfl)
theorem dX6_judged_108 : decode cX6_judged 108 = .ok (.iload 4, 2) := dk_21 4 (dk_at dksX6_judged_4 13 rfl rfl)
theorem dX6_judged_110 : decode cX6_judged 110 = .ok (.goto 4, 3) := dk_167 0 4 (dk_at dksX6_judged_4 15 rfl rfl)
theorem dX6_judged_113 : decode cX6_judged 113 = .ok (.iload_n 3, 1) := dk_29 (dk_at dksX6_judged_4 18 rfl rfl)
theorem dX6_judged_114 : decode cX6_judged 114 = .ok (.istore_n 3, 1) := dk_62 (dk_at dksX6_judged_4 19 rfl rfl)
theorem dX6_judged_115 : decode cX6_judged 115 = .ok (.iinc 4 1, 3) := dk_132 4 1 (dk_at dksX6_judged_4 20 rfl rfl)
theorem dX6_judged_118 : decode cX6_judged 118 = .ok (.goto (-87), 3) := dk_167 255 169 (dk_at dksX6_judged_5 0 rfl rfl)
theorem dX6_judged_121 : decode cX6_judged 121 = .ok (.iload_n 1, 1) := dk_27 (dk_at dksX6_judged_5 3 rfl rfl)
theorem dX6_judged_122 : decode cX6_judged 122 = .ok (.ifCond .ne 7, 3) := dk_154 0 7 (dk_at dksX6_judged_5 4 rfl rfl)
theorem dX6_judged_125 : decode cX6_judged 125 = .ok (.iload_n 2, 1) := dk_28 (dk_at dksX6_judged_5 7 rfl rfl)
theorem dX6_judged_126 : decode cX6_judged 126 = .ok (.goto 22, 3) := dk_167 0 22 (dk_at dksX6_judged_5 8 rfl rfl)
theorem dX6_judged_129 : decode cX6_judged 129 = .ok (.iload_n 1, 1) := dk_27 (dk_at dksX6_judged_5 11 rfl rfl)
theorem dX6_judged_130 : decode cX6_judged 130 = .ok (.iconst 1, 1) := dk_4 (dk_at dksX6_judged_5 12 rfl rfl)
theorem dX6_judged_131 : decode cX6_judged 131 = .ok (.if_icmp .ne 7, 3) := dk_160 0 7 (dk_at dksX6_judged_5 13 rfl rfl)
theorem dX6_judged_134 : decode cX6_judged 134 = .ok (.iload_n 3, 1) := dk_29 (dk_at dksX6_judged_5 16 rfl rfl)
theorem dX6_judged_135 : decode cX6_judged 135 = .ok (.goto 13, 3) := dk_167 0 13 (dk_at dksX6_judged_5 17 rfl rfl)
theorem dX6_judged_138 : decode cX6_judged 138 = .ok (.aload_n 0, 1) := dk_42 (dk_at dksX6_judged_5 20 rfl rfl)
theorem dX6_judged_139 : decode cX6_judged 139 = .ok (.sipush 1386, 3) := dk_17 5 106 (dk_at dksX6_judged_5 21 rfl rfl)
theorem dX6_judged_142 : decode cX6_judged 142 = .ok (.iconst (-1), 1) := dk_2 (dk_at dksX6_judged_6 0 rfl rfl)
theorem dX6_judged_143 : decode cX6_judged 143 = .ok (.bipush 6, 2) := dk_16 6 (dk_at dksX6_judged_6 1 rfl rfl)
theorem dX6_judged_145 : decode cX6_judged 145 = .ok (.invokevirtual 371, 3) := dk_182 1 115 (dk_at dksX6_judged_6 3 rfl rfl)
theorem dX6_judged_148 : decode cX6_judged 148 = .ok (.ireturn, 1) := dk_172 (dk_at dksX6_judged_6 6 rfl rfl)
abbrev cX6_done : ByteArray := prog_24_method_83_code
def yX6_done : MethodName := ⟨RX6, "done", "(III)Z"⟩
def dkwX6_done_9 : List UInt8 := [79, 167, 0, 16, 21, 4, 153, 0, 11, 42, 17, 5, 106, 182, 1, 105, 87, 21, 4, 172]
abbrev dktX6_done_9 : List UInt8 := dkwX6_done_9 ++ []
def dkwX6_done_8 : List UInt8 := [79, 167, 0, 40, 21, 4, 153, 0, 22, 27, 7, 160, 0, 17, 42, 180, 0, 119, 17, 5, 118, 28, 96, 4]
abbrev dktX6_done_8 : List UInt8 := dkwX6_done_8 ++ dktX6_done_9
def dkwX6_done_7 : List UInt8 := [160, 0, 28, 42, 180, 0, 119, 17, 5, 112, 28, 96, 4, 42, 180, 0, 119, 17, 5, 112, 28, 96, 46, 100]
abbrev dktX6_done_7 : List UInt8 := dkwX6_done_7 ++ dktX6_done_8
def dkwX6_done_6 : List UInt8 := [42, 180, 0, 119, 17, 5, 124, 28, 96, 92, 46, 4, 100, 79, 167, 0, 75, 21, 4, 153, 0, 33, 27, 6]
abbrev dktX6_done_6 : List UInt8 := dkwX6_done_6 ++ dktX6_done_7
def dkwX6_done_5 : List UInt8 := [154, 0, 7, 4, 167, 0, 4, 3, 181, 1, 108, 167, 0, 102, 21, 4, 153, 0, 25, 27, 5, 160, 0, 20]
abbrev dktX6_done_5 : List UInt8 := dkwX6_done_5 ++ dktX6_done_6
def dkwX6_done_4 : List UInt8 := [4, 160, 0, 37, 42, 42, 17, 5, 106, 28, 29, 42, 180, 0, 119, 17, 5, 107, 28, 96, 46, 182, 1, 99]
abbrev dktX6_done_4 : List UInt8 := dkwX6_done_4 ++ dktX6_done_5
def dkwX6_done_3 : List UInt8 := [27, 154, 0, 17, 42, 180, 0, 119, 17, 5, 107, 28, 96, 29, 79, 167, 0, 146, 21, 4, 153, 0, 42, 27]
abbrev dktX6_done_3 : List UInt8 := dkwX6_done_3 ++ dktX6_done_4
def dkwX6_done_2 : List UInt8 := [28, 182, 1, 31, 153, 0, 7, 4, 167, 0, 4, 3, 54, 4, 42, 3, 181, 1, 108, 21, 4, 153, 0, 21]
abbrev dktX6_done_2 : List UInt8 := dkwX6_done_2 ++ dktX6_done_3
def dkwX6_done_1 : List UInt8 := [17, 5, 106, 28, 182, 1, 102, 167, 0, 29, 27, 4, 159, 0, 19, 27, 8, 159, 0, 14, 42, 17, 5, 106]
abbrev dktX6_done_1 : List UInt8 := dkwX6_done_1 ++ dktX6_done_2
def dkwX6_done_0 : List UInt8 := [27, 154, 0, 15, 42, 17, 5, 106, 28, 29, 182, 1, 90, 167, 0, 45, 27, 5, 160, 0, 14, 42]
abbrev dktX6_done_0 : List UInt8 := dkwX6_done_0 ++ dktX6_done_1
theorem dksX6_done_0 : cX6_done.data.toList.drop 0 = dktX6_done_0 := by decide +kernel
theorem dksX6_done_1 : cX6_done.data.toList.drop 22 = dktX6_done_1 := dk_seg dksX6_done_0 22 rfl rfl
theorem dksX6_done_2 : cX6_done.data.toList.drop 46 = dktX6_done_2 := dk_seg dksX6_done_1 24 rfl rfl
theorem dksX6_done_3 : cX6_done.data.toList.drop 70 = dktX6_done_3 := dk_seg dksX6_done_2 24 rfl rfl
theorem dksX6_done_4 : cX6_done.data.toList.drop 94 = dktX6_done_4 := dk_seg dksX6_done_3 24 rfl rfl
theorem dksX6_done_5 : cX6_done.data.toList.drop 118 = dktX6_done_5 := dk_seg dksX6_done_4 24 rfl rfl
theorem dksX6_done_6 : cX6_done.data.toList.drop 142 = dktX6_done_6 := dk_seg dksX6_done_5 24 rfl rfl
theorem dksX6_done_7 : cX6_done.data.toList.drop 166 = dktX6_done_7 := dk_seg dksX6_done_6 24 rfl rfl
theorem dksX6_done_8 : cX6_done.data.toList.drop 190 = dktX6_done_8 := dk_seg dksX6_done_7 24 rfl rfl
theorem dksX6_done_9 : cX6_done.data.toList.drop 214 = dktX6_done_9 := dk_seg dksX6_done_8 24 rfl rfl
theorem dX6_done_0 : decode cX6_done 0 = .ok (.iload_n 1, 1) := dk_27 (dk_at dksX6_done_0 0 rfl rfl)
theorem dX6_done_1 : decode cX6_done 1 = .ok (.ifCond .ne 15, 3) := dk_154 0 15 (dk_at dksX6_done_0 1 rfl rfl)
theorem dX6_done_4 : decode cX6_done 4 = .ok (.aload_n 0, 1) := dk_42 (dk_at dksX6_done_0 4 rfl rfl)
theorem dX6_done_5 : decode cX6_done 5 = .ok (.sipush 1386, 3) := dk_17 5 106 (dk_at dksX6_done_0 5 rfl rfl)
theorem dX6_done_8 : decode cX6_done 8 = .ok (.iload_n 2, 1) := dk_28 (dk_at dksX6_done_0 8 rfl rfl)
theorem dX6_done_9 : decode cX6_done 9 = .ok (.iload_n 3, 1) := dk_29 (dk_at dksX6_done_0 9 rfl rfl)
theorem dX6_done_10 : decode cX6_done 10 = .ok (.invokevirtual 346, 3) := dk_182 1 90 (dk_at dksX6_done_0 10 rfl rfl)
theorem dX6_done_13 : decode cX6_done 13 = .ok (.goto 45, 3) := dk_167 0 45 (dk_at dksX6_done_0 13 rfl rfl)
theorem dX6_done_16 : decode cX6_done 16 = .ok (.iload_n 1, 1) := dk_27 (dk_at dksX6_done_0 16 rfl rfl)
theorem dX6_done_17 : decode cX6_done 17 = .ok (.iconst 2, 1) := dk_5 (dk_at dksX6_done_0 17 rfl rfl)
theorem dX6_done_18 : decode cX6_done 18 = .ok (.if_icmp .ne 14, 3) := dk_160 0 14 (dk_at dksX6_done_0 18 rfl rfl)
theorem dX6_done_21 : decode cX6_done 21 = .ok (.aload_n 0, 1) := dk_42 (dk_at dksX6_done_0 21 rfl rfl)
theorem dX6_done_22 : decode cX6_done 22 = .ok (.sipush 1386, 3) := dk_17 5 106 (dk_at dksX6_done_1 0 rfl rfl)
theorem dX6_done_25 : decode cX6_done 25 = .ok (.iload_n 2, 1) := dk_28 (dk_at dksX6_done_1 3 rfl rfl)
theorem dX6_done_26 : decode cX6_done 26 = .ok (.invokevirtual 358, 3) := dk_182 1 102 (dk_at dksX6_done_1 4 rfl rfl)
theorem dX6_done_29 : decode cX6_done 29 = .ok (.goto 29, 3) := dk_167 0 29 (dk_at dksX6_done_1 7 rfl rfl)
theorem dX6_done_32 : decode cX6_done 32 = .ok (.iload_n 1, 1) := dk_27 (dk_at dksX6_done_1 10 rfl rfl)
theorem dX6_done_33 : decode cX6_done 33 = .ok (.iconst 1, 1) := dk_4 (dk_at dksX6_done_1 11 rfl rfl)
theorem dX6_done_34 : decode cX6_done 34 = .ok (.if_icmp .eq 19, 3) := dk_159 0 19 (dk_at dksX6_done_1 12 rfl rfl)
theorem dX6_done_37 : decode cX6_done 37 = .ok (.iload_n 1, 1) := dk_27 (dk_at dksX6_done_1 15 rfl rfl)
theorem dX6_done_38 : decode cX6_done 38 = .ok (.iconst 5, 1) := dk_8 (dk_at dksX6_done_1 16 rfl rfl)
theorem dX6_done_39 : decode cX6_done 39 = .ok (.if_icmp .eq 14, 3) := dk_159 0 14 (dk_at dksX6_done_1 17 rfl rfl)
theorem dX6_done_42 : decode cX6_done 42 = .ok (.aload_n 0, 1) := dk_42 (dk_at dksX6_done_1 20 rfl rfl)
theorem dX6_done_43 : decode cX6_done 43 = .ok (.sipush 1386, 3) := dk_17 5 106 (dk_at dksX6_done_1 21 rfl rfl)
theorem dX6_done_46 : decode cX6_done 46 = .ok (.iload_n 2, 1) := dk_28 (dk_at dksX6_done_2 0 rfl rfl)
theorem dX6_done_47 : decode cX6_done 47 = .ok (.invokevirtual 287, 3) := dk_182 1 31 (dk_at dksX6_done_2 1 rfl rfl)
theorem dX6_done_50 : decode cX6_done 50 = .ok (.ifCond .eq 7, 3) := dk_153 0 7 (dk_at dksX6_done_2 4 rfl rfl)
theorem dX6_done_53 : decode cX6_done 53 = .ok (.iconst 1, 1) := dk_4 (dk_at dksX6_done_2 7 rfl rfl)
theorem dX6_done_54 : decode cX6_done 54 = .ok (.goto 4, 3) := dk_167 0 4 (dk_at dksX6_done_2 8 rfl rfl)
theorem dX6_done_57 : decode cX6_done 57 = .ok (.iconst 0, 1) := dk_3 (dk_at dksX6_done_2 11 rfl rfl)
theorem dX6_done_58 : decode cX6_done 58 = .ok (.istore 4, 2) := dk_54 4 (dk_at dksX6_done_2 12 rfl rfl)
theorem dX6_done_60 : decode cX6_done 60 = .ok (.aload_n 0, 1) := dk_42 (dk_at dksX6_done_2 14 rfl rfl)
theorem dX6_done_61 : decode cX6_done 61 = .ok (.iconst 0, 1) := dk_3 (dk_at dksX6_done_2 15 rfl rfl)
theorem dX6_done_62 : decode cX6_done 62 = .ok (.putfield 364, 3) := dk_181 1 108 (dk_at dksX6_done_2 16 rfl rfl)
theorem dX6_done_65 : decode cX6_done 65 = .ok (.iload 4, 2) := dk_21 4 (dk_at dksX6_done_2 19 rfl rfl)
theorem dX6_done_67 : decode cX6_done 67 = .ok (.ifCond .eq 21, 3) := dk_153 0 21 (dk_at dksX6_done_2 21 rfl rfl)
theorem dX6_done_70 : decode cX6_done 70 = .ok (.iload_n 1, 1) := dk_27 (dk_at dksX6_done_3 0 rfl rfl)
theorem dX6_done_71 : decode cX6_done 71 = .ok (.ifCond .ne 17, 3) := dk_154 0 17 (dk_at dksX6_done_3 1 rfl rfl)
theorem dX6_done_74 : decode cX6_done 74 = .ok (.aload_n 0, 1) := dk_42 (dk_at dksX6_done_3 4 rfl rfl)
theorem dX6_done_75 : decode cX6_done 75 = .ok (.getfield 119, 3) := dk_180 0 119 (dk_at dksX6_done_3 5 rfl rfl)
theorem dX6_done_78 : decode cX6_done 78 = .ok (.sipush 1387, 3) := dk_17 5 107 (dk_at dksX6_done_3 8 rfl rfl)
theorem dX6_done_81 : decode cX6_done 81 = .ok (.iload_n 2, 1) := dk_28 (dk_at dksX6_done_3 11 rfl rfl)
theorem dX6_done_82 : decode cX6_done 82 = .ok (.iadd, 1) := dk_96 (dk_at dksX6_done_3 12 rfl rfl)
theorem dX6_done_83 : decode cX6_done 83 = .ok (.iload_n 3, 1) := dk_29 (dk_at dksX6_done_3 13 rfl rfl)
theorem dX6_done_84 : decode cX6_done 84 = .ok (.iastore, 1) := dk_79 (dk_at dksX6_done_3 14 rfl rfl)
theorem dX6_done_85 : decode cX6_done 85 = .ok (.goto 146, 3) := dk_167 0 146 (dk_at dksX6_done_3 15 rfl rfl)
theorem dX6_done_88 : decode cX6_done 88 = .ok (.iload 4, 2) := dk_21 4 (dk_at dksX6_done_3 18 rfl rfl)
theorem dX6_done_90 : decode cX6_done 90 = .ok (.ifCond .eq 42, 3) := dk_153 0 42 (dk_at dksX6_done_3 20 rfl rfl)
theorem dX6_done_93 : decode cX6_done 93 = .ok (.iload_n 1, 1) := dk_27 (dk_at dksX6_done_3 23 rfl rfl)
theorem dX6_done_94 : decode cX6_done 94 = .ok (.iconst 1, 1) := dk_4 (dk_at dksX6_done_4 0 rfl rfl)
theorem dX6_done_95 : decode cX6_done 95 = .ok (.if_icmp .ne 37, 3) := dk_160 0 37 (dk_at dksX6_done_4 1 rfl rfl)
theorem dX6_done_98 : decode cX6_done 98 = .ok (.aload_n 0, 1) := dk_42 (dk_at dksX6_done_4 4 rfl rfl)
theorem dX6_done_99 : decode cX6_done 99 = .ok (.aload_n 0, 1) := dk_42 (dk_at dksX6_done_4 5 rfl rfl)
theorem dX6_done_100 : decode cX6_done 100 = .ok (.sipush 1386, 3) := dk_17 5 106 (dk_at dksX6_done_4 6 rfl rfl)
theorem dX6_done_103 : decode cX6_done 103 = .ok (.iload_n 2, 1) := dk_28 (dk_at dksX6_done_4 9 rfl rfl)
theorem dX6_done_104 : decode cX6_done 104 = .ok (.iload_n 3, 1) := dk_29 (dk_at dksX6_done_4 10 rfl rfl)
theorem dX6_done_105 : decode cX6_done 105 = .ok (.aload_n 0, 1) := dk_42 (dk_at dksX6_done_4 11 rfl rfl)
theorem dX6_done_106 : decode cX6_done 106 = .ok (.getfield 119, 3) := dk_180 0 119 (dk_at dksX6_done_4 12 rfl rfl)
theorem dX6_done_109 : decode cX6_done 109 = .ok (.sipush 1387, 3) := dk_17 5 107 (dk_at dksX6_done_4 15 rfl rfl)
theorem dX6_done_112 : decode cX6_done 112 = .ok (.iload_n 2, 1) := dk_28 (dk_at dksX6_done_4 18 rfl rfl)
theorem dX6_done_113 : decode cX6_done 113 = .ok (.iadd, 1) := dk_96 (dk_at dksX6_done_4 19 rfl rfl)
theorem dX6_done_114 : decode cX6_done 114 = .ok (.iaload, 1) := dk_46 (dk_at dksX6_done_4 20 rfl rfl)
theorem dX6_done_115 : decode cX6_done 115 = .ok (.invokevirtual 355, 3) := dk_182 1 99 (dk_at dksX6_done_4 21 rfl rfl)
theorem dX6_done_118 : decode cX6_done 118 = .ok (.ifCond .ne 7, 3) := dk_154 0 7 (dk_at dksX6_done_5 0 rfl rfl)
theorem dX6_done_121 : decode cX6_done 121 = .ok (.iconst 1, 1) := dk_4 (dk_at dksX6_done_5 3 rfl rfl)
theorem dX6_done_122 : decode cX6_done 122 = .ok (.goto 4, 3) := dk_167 0 4 (dk_at dksX6_done_5 4 rfl rfl)
theorem dX6_done_125 : decode cX6_done 125 = .ok (.iconst 0, 1) := dk_3 (dk_at dksX6_done_5 7 rfl rfl)
theorem dX6_done_126 : decode cX6_done 126 = .ok (.putfield 364, 3) := dk_181 1 108 (dk_at dksX6_done_5 8 rfl rfl)
theorem dX6_done_129 : decode cX6_done 129 = .ok (.goto 102, 3) := dk_167 0 102 (dk_at dksX6_done_5 11 rfl rfl)
theorem dX6_done_132 : decode cX6_done 132 = .ok (.iload 4, 2) := dk_21 4 (dk_at dksX6_done_5 14 rfl rfl)
theorem dX6_done_134 : decode cX6_done 134 = .ok (.ifCond .eq 25, 3) := dk_153 0 25 (dk_at dksX6_done_5 16 rfl rfl)
theorem dX6_done_137 : decode cX6_done 137 = .ok (.iload_n 1, 1) := dk_27 (dk_at dksX6_done_5 19 rfl rfl)
theorem dX6_done_138 : decode cX6_done 138 = .ok (.iconst 2, 1) := dk_5 (dk_at dksX6_done_5 20 rfl rfl)
theorem dX6_done_139 : decode cX6_done 139 = .ok (.if_icmp .ne 20, 3) := dk_160 0 20 (dk_at dksX6_done_5 21 rfl rfl)
theorem dX6_done_142 : decode cX6_done 142 = .ok (.aload_n 0, 1) := dk_42 (dk_at dksX6_done_6 0 rfl rfl)
theorem dX6_done_143 : decode cX6_done 143 = .ok (.getfield 119, 3) := dk_180 0 119 (dk_at dksX6_done_6 1 rfl rfl)
theorem dX6_done_146 : decode cX6_done 146 = .ok (.sipush 1404, 3) := dk_17 5 124 (dk_at dksX6_done_6 4 rfl rfl)
theorem dX6_done_149 : decode cX6_done 149 = .ok (.iload_n 2, 1) := dk_28 (dk_at dksX6_done_6 7 rfl rfl)
theorem dX6_done_150 : decode cX6_done 150 = .ok (.iadd, 1) := dk_96 (dk_at dksX6_done_6 8 rfl rfl)
theorem dX6_done_151 : decode cX6_done 151 = .ok (.dup2, 1) := dk_92 (dk_at dksX6_done_6 9 rfl rfl)
theorem dX6_done_152 : decode cX6_done 152 = .ok (.iaload, 1) := dk_46 (dk_at dksX6_done_6 10 rfl rfl)
theorem dX6_done_153 : decode cX6_done 153 = .ok (.iconst 1, 1) := dk_4 (dk_at dksX6_done_6 11 rfl rfl)
theorem dX6_done_154 : decode cX6_done 154 = .ok (.isub, 1) := dk_100 (dk_at dksX6_done_6 12 rfl rfl)
theorem dX6_done_155 : decode cX6_done 155 = .ok (.iastore, 1) := dk_79 (dk_at dksX6_done_6 13 rfl rfl)
theorem dX6_done_156 : decode cX6_done 156 = .ok (.goto 75, 3) := dk_167 0 75 (dk_at dksX6_done_6 14 rfl rfl)
theorem dX6_done_159 : decode cX6_done 159 = .ok (.iload 4, 2) := dk_21 4 (dk_at dksX6_done_6 17 rfl rfl)
theorem dX6_done_161 : decode cX6_done 161 = .ok (.ifCond .eq 33, 3) := dk_153 0 33 (dk_at dksX6_done_6 19 rfl rfl)
theorem dX6_done_164 : decode cX6_done 164 = .ok (.iload_n 1, 1) := dk_27 (dk_at dksX6_done_6 22 rfl rfl)
theorem dX6_done_165 : decode cX6_done 165 = .ok (.iconst 3, 1) := dk_6 (dk_at dksX6_done_6 23 rfl rfl)
theorem dX6_done_166 : decode cX6_done 166 = .ok (.if_icmp .ne 28, 3) := dk_160 0 28 (dk_at dksX6_done_7 0 rfl rfl)
theorem dX6_done_169 : decode cX6_done 169 = .ok (.aload_n 0, 1) := dk_42 (dk_at dksX6_done_7 3 rfl rfl)
theorem dX6_done_170 : decode cX6_done 170 = .ok (.getfield 119, 3) := dk_180 0 119 (dk_at dksX6_done_7 4 rfl rfl)
theorem dX6_done_173 : decode cX6_done 173 = .ok (.sipush 1392, 3) := dk_17 5 112 (dk_at dksX6_done_7 7 rfl rfl)
theorem dX6_done_176 : decode cX6_done 176 = .ok (.iload_n 2, 1) := dk_28 (dk_at dksX6_done_7 10 rfl rfl)
theorem dX6_done_177 : decode cX6_done 177 = .ok (.iadd, 1) := dk_96 (dk_at dksX6_done_7 11 rfl rfl)
theorem dX6_done_178 : decode cX6_done 178 = .ok (.iconst 1, 1) := dk_4 (dk_at dksX6_done_7 12 rfl rfl)
theorem dX6_done_179 : decode cX6_done 179 = .ok (.aload_n 0, 1) := dk_42 (dk_at dksX6_done_7 13 rfl rfl)
theorem dX6_done_180 : decode cX6_done 180 = .ok (.getfield 119, 3) := dk_180 0 119 (dk_at dksX6_done_7 14 rfl rfl)
theorem dX6_done_183 : decode cX6_done 183 = .ok (.sipush 1392, 3) := dk_17 5 112 (dk_at dksX6_done_7 17 rfl rfl)
theorem dX6_done_186 : decode cX6_done 186 = .ok (.iload_n 2, 1) := dk_28 (dk_at dksX6_done_7 20 rfl rfl)
theorem dX6_done_187 : decode cX6_done 187 = .ok (.iadd, 1) := dk_96 (dk_at dksX6_done_7 21 rfl rfl)
theorem dX6_done_188 : decode cX6_done 188 = .ok (.iaload, 1) := dk_46 (dk_at dksX6_done_7 22 rfl rfl)
theorem dX6_done_189 : decode cX6_done 189 = .ok (.isub, 1) := dk_100 (dk_at dksX6_done_7 23 rfl rfl)
theorem dX6_done_190 : decode cX6_done 190 = .ok (.iastore, 1) := dk_79 (dk_at dksX6_done_8 0 rfl rfl)
theorem dX6_done_191 : decode cX6_done 191 = .ok (.goto 40, 3) := dk_167 0 40 (dk_at dksX6_done_8 1 rfl rfl)
theorem dX6_done_194 : decode cX6_done 194 = .ok (.iload 4, 2) := dk_21 4 (dk_at dksX6_done_8 4 rfl rfl)
theorem dX6_done_196 : decode cX6_done 196 = .ok (.ifCond .eq 22, 3) := dk_153 0 22 (dk_at dksX6_done_8 6 rfl rfl)
theorem dX6_done_199 : decode cX6_done 199 = .ok (.iload_n 1, 1) := dk_27 (dk_at dksX6_done_8 9 rfl rfl)
theorem dX6_done_200 : decode cX6_done 200 = .ok (.iconst 4, 1) := dk_7 (dk_at dksX6_done_8 10 rfl rfl)
theorem dX6_done_201 : decode cX6_done 201 = .ok (.if_icmp .ne 17, 3) := dk_160 0 17 (dk_at dksX6_done_8 11 rfl rfl)
theorem dX6_done_204 : decode cX6_done 204 = .ok (.aload_n 0, 1) := dk_42 (dk_at dksX6_done_8 14 rfl rfl)
theorem dX6_done_205 : decode cX6_done 205 = .ok (.getfield 119, 3) := dk_180 0 119 (dk_at dksX6_done_8 15 rfl rfl)
theorem dX6_done_208 : decode cX6_done 208 = .ok (.sipush 1398, 3) := dk_17 5 118 (dk_at dksX6_done_8 18 rfl rfl)
theorem dX6_done_211 : decode cX6_done 211 = .ok (.iload_n 2, 1) := dk_28 (dk_at dksX6_done_8 21 rfl rfl)
theorem dX6_done_212 : decode cX6_done 212 = .ok (.iadd, 1) := dk_96 (dk_at dksX6_done_8 22 rfl rfl)
theorem dX6_done_213 : decode cX6_done 213 = .ok (.iconst 1, 1) := dk_4 (dk_at dksX6_done_8 23 rfl rfl)
theorem dX6_done_214 : decode cX6_done 214 = .ok (.iastore, 1) := dk_79 (dk_at dksX6_done_9 0 rfl rfl)
theorem dX6_done_215 : decode cX6_done 215 = .ok (.goto 16, 3) := dk_167 0 16 (dk_at dksX6_done_9 1 rfl rfl)
theorem dX6_done_218 : decode cX6_done 218 = .ok (.iload 4, 2) := dk_21 4 (dk_at dksX6_done_9 4 rfl rfl)
theorem dX6_done_220 : decode cX6_done 220 = .ok (.ifCond .eq 11, 3) := dk_153 0 11 (dk_at dksX6_done_9 6 rfl rfl)
theorem dX6_done_223 : decode cX6_done 223 = .ok (.aload_n 0, 1) := dk_42 (dk_at dksX6_done_9 9 rfl rfl)
theorem dX6_done_224 : decode cX6_done 224 = .ok (.sipush 1386, 3) := dk_17 5 106 (dk_at dksX6_done_9 10 rfl rfl)
theorem dX6_done_227 : decode cX6_done 227 = .ok (.invokevirtual 361, 3) := dk_182 1 105 (dk_at dksX6_done_9 13 rfl rfl)
theorem dX6_done_230 : decode cX6_done 230 = .ok (.pop, 1) := dk_87 (dk_at dksX6_done_9 16 rfl rfl)
theorem dX6_done_231 : decode cX6_done 231 = .ok (.iload 4, 2) := dk_21 4 (dk_at dksX6_done_9 17 rfl rfl)
theorem dX6_done_233 : decode cX6_done 233 = .ok (.ireturn, 1) := dk_172 (dk_at dksX6_done_9 19 rfl rfl)
abbrev cX6_harmShown : ByteArray := prog_24_method_70_code
def yX6_harmShown : MethodName := ⟨RX6, "harmShown", "(III)I"⟩
def dkwX6_harmShown_1 : List UInt8 := [182, 1, 74, 128, 54, 4, 132, 5, 1, 167, 255, 230, 42, 21, 4, 182, 1, 78, 172]
abbrev dktX6_harmShown_1 : List UInt8 := dkwX6_harmShown_1 ++ []
def dkwX6_harmShown_0 : List UInt8 := [3, 54, 4, 3, 54, 5, 21, 5, 42, 182, 1, 22, 162, 0, 23, 21, 4, 42, 27, 21, 5, 28, 29]
abbrev dktX6_harmShown_0 : List UInt8 := dkwX6_harmShown_0 ++ dktX6_harmShown_1
theorem dksX6_harmShown_0 : cX6_harmShown.data.toList.drop 0 = dktX6_harmShown_0 := by decide +kernel
theorem dksX6_harmShown_1 : cX6_harmShown.data.toList.drop 23 = dktX6_harmShown_1 := dk_seg dksX6_harmShown_0 23 rfl rfl
theorem dX6_harmShown_0 : decode cX6_harmShown 0 = .ok (.iconst 0, 1) := dk_3 (dk_at dksX6_harmShown_0 0 rfl rfl)
theorem dX6_harmShown_1 : decode cX6_harmShown 1 = .ok (.istore 4, 2) := dk_54 4 (dk_at dksX6_harmShown_0 1 rfl rfl)
theorem dX6_harmShown_3 : decode cX6_harmShown 3 = .ok (.iconst 0, 1) := dk_3 (dk_at dksX6_harmShown_0 3 rfl rfl)
theorem dX6_harmShown_4 : decode cX6_harmShown 4 = .ok (.istore 5, 2) := dk_54 5 (dk_at dksX6_harmShown_0 4 rfl rfl)
theorem dX6_harmShown_6 : decode cX6_harmShown 6 = .ok (.iload 5, 2) := dk_21 5 (dk_at dksX6_harmShown_0 6 rfl rfl)
theorem dX6_harmShown_8 : decode cX6_harmShown 8 = .ok (.aload_n 0, 1) := dk_42 (dk_at dksX6_harmShown_0 8 rfl rfl)
theorem dX6_harmShown_9 : decode cX6_harmShown 9 = .ok (.invokevirtual 278, 3) := dk_182 1 22 (dk_at dksX6_harmShown_0 9 rfl rfl)
theorem dX6_harmShown_12 : decode cX6_harmShown 12 = .ok (.if_icmp .ge 23, 3) := dk_162 0 23 (dk_at dksX6_harmShown_0 12 rfl rfl)
theorem dX6_harmShown_15 : decode cX6_harmShown 15 = .ok (.iload 4, 2) := dk_21 4 (dk_at dksX6_harmShown_0 15 rfl rfl)
theorem dX6_harmShown_17 : decode cX6_harmShown 17 = .ok (.aload_n 0, 1) := dk_42 (dk_at dksX6_harmShown_0 17 rfl rfl)
theorem dX6_harmShown_18 : decode cX6_harmShown 18 = .ok (.iload_n 1, 1) := dk_27 (dk_at dksX6_harmShown_0 18 rfl rfl)
theorem dX6_harmShown_19 : decode cX6_harmShown 19 = .ok (.iload 5, 2) := dk_21 5 (dk_at dksX6_harmShown_0 19 rfl rfl)
theorem dX6_harmShown_21 : decode cX6_harmShown 21 = .ok (.iload_n 2, 1) := dk_28 (dk_at dksX6_harmShown_0 21 rfl rfl)
theorem dX6_harmShown_22 : decode cX6_harmShown 22 = .ok (.iload_n 3, 1) := dk_29 (dk_at dksX6_harmShown_0 22 rfl rfl)
theorem dX6_harmShown_23 : decode cX6_harmShown 23 = .ok (.invokevirtual 330, 3) := dk_182 1 74 (dk_at dksX6_harmShown_1 0 rfl rfl)
theorem dX6_harmShown_26 : decode cX6_harmShown 26 = .ok (.ior, 1) := dk_128 (dk_at dksX6_harmShown_1 3 rfl rfl)
theorem dX6_harmShown_27 : decode cX6_harmShown 27 = .ok (.istore 4, 2) := dk_54 4 (dk_at dksX6_harmShown_1 4 rfl rfl)
theorem dX6_harmShown_29 : decode cX6_harmShown 29 = .ok (.iinc 5 1, 3) := dk_132 5 1 (dk_at dksX6_harmShown_1 6 rfl rfl)
theorem dX6_harmShown_32 : decode cX6_harmShown 32 = .ok (.goto (-26), 3) := dk_167 255 230 (dk_at dksX6_harmShown_1 9 rfl rfl)
theorem dX6_harmShown_35 : decode cX6_harmShown 35 = .ok (.aload_n 0, 1) := dk_42 (dk_at dksX6_harmShown_1 12 rfl rfl)
theorem dX6_harmShown_36 : decode cX6_harmShown 36 = .ok (.iload 4, 2) := dk_21 4 (dk_at dksX6_harmShown_1 13 rfl rfl)
theorem dX6_harmShown_38 : decode cX6_harmShown 38 = .ok (.invokevirtual 334, 3) := dk_182 1 78 (dk_at dksX6_harmShown_1 15 rfl rfl)
theorem dX6_harmShown_41 : decode cX6_harmShown 41 = .ok (.ireturn, 1) := dk_172 (dk_at dksX6_harmShown_1 18 rfl rfl)
abbrev cX6_deedsBy : ByteArray := prog_24_method_68_code
def yX6_deedsBy : MethodName := ⟨RX6, "deedsBy", "(IIII)I"⟩
def dkwX6_deedsBy_4 : List UInt8 := [167, 255, 195, 21, 5, 172]
abbrev dktX6_deedsBy_4 : List UInt8 := dkwX6_deedsBy_4 ++ []
def dkwX6_deedsBy_3 : List UInt8 := [182, 1, 71, 29, 160, 0, 13, 4, 21, 8, 184, 1, 56, 120, 167, 0, 4, 3, 128, 54, 5, 132, 7, 1]
abbrev dktX6_deedsBy_3 : List UInt8 := dkwX6_deedsBy_3 ++ dktX6_deedsBy_4
def dkwX6_deedsBy_2 : List UInt8 := [153, 0, 51, 42, 27, 28, 21, 7, 182, 1, 44, 54, 8, 21, 5, 29, 155, 0, 15, 42, 27, 28, 21, 8]
abbrev dktX6_deedsBy_2 : List UInt8 := dkwX6_deedsBy_2 ++ dktX6_deedsBy_3
def dkwX6_deedsBy_1 : List UInt8 := [21, 6, 21, 4, 100, 167, 0, 4, 3, 54, 7, 21, 7, 21, 6, 162, 0, 60, 42, 27, 28, 182, 1, 68]
abbrev dktX6_deedsBy_1 : List UInt8 := dkwX6_deedsBy_1 ++ dktX6_deedsBy_2
def dkwX6_deedsBy_0 : List UInt8 := [3, 54, 5, 42, 180, 0, 119, 27, 16, 18, 96, 28, 96, 46, 54, 6, 21, 6, 21, 4, 164, 0, 11]
abbrev dktX6_deedsBy_0 : List UInt8 := dkwX6_deedsBy_0 ++ dktX6_deedsBy_1
theorem dksX6_deedsBy_0 : cX6_deedsBy.data.toList.drop 0 = dktX6_deedsBy_0 := by decide +kernel
theorem dksX6_deedsBy_1 : cX6_deedsBy.data.toList.drop 23 = dktX6_deedsBy_1 := dk_seg dksX6_deedsBy_0 23 rfl rfl
theorem dksX6_deedsBy_2 : cX6_deedsBy.data.toList.drop 47 = dktX6_deedsBy_2 := dk_seg dksX6_deedsBy_1 24 rfl rfl
theorem dksX6_deedsBy_3 : cX6_deedsBy.data.toList.drop 71 = dktX6_deedsBy_3 := dk_seg dksX6_deedsBy_2 24 rfl rfl
theorem dksX6_deedsBy_4 : cX6_deedsBy.data.toList.drop 95 = dktX6_deedsBy_4 := dk_seg dksX6_deedsBy_3 24 rfl rfl
theorem dX6_deedsBy_0 : decode cX6_deedsBy 0 = .ok (.iconst 0, 1) := dk_3 (dk_at dksX6_deedsBy_0 0 rfl rfl)
theorem dX6_deedsBy_1 : decode cX6_deedsBy 1 = .ok (.istore 5, 2) := dk_54 5 (dk_at dksX6_deedsBy_0 1 rfl rfl)
theorem dX6_deedsBy_3 : decode cX6_deedsBy 3 = .ok (.aload_n 0, 1) := dk_42 (dk_at dksX6_deedsBy_0 3 rfl rfl)
theorem dX6_deedsBy_4 : decode cX6_deedsBy 4 = .ok (.getfield 119, 3) := dk_180 0 119 (dk_at dksX6_deedsBy_0 4 rfl rfl)
theorem dX6_deedsBy_7 : decode cX6_deedsBy 7 = .ok (.iload_n 1, 1) := dk_27 (dk_at dksX6_deedsBy_0 7 rfl rfl)
theorem dX6_deedsBy_8 : decode cX6_deedsBy 8 = .ok (.bipush 18, 2) := dk_16 18 (dk_at dksX6_deedsBy_0 8 rfl rfl)
theorem dX6_deedsBy_10 : decode cX6_deedsBy 10 = .ok (.iadd, 1) := dk_96 (dk_at dksX6_deedsBy_0 10 rfl rfl)
theorem dX6_deedsBy_11 : decode cX6_deedsBy 11 = .ok (.iload_n 2, 1) := dk_28 (dk_at dksX6_deedsBy_0 11 rfl rfl)
theorem dX6_deedsBy_12 : decode cX6_deedsBy 12 = .ok (.iadd, 1) := dk_96 (dk_at dksX6_deedsBy_0 12 rfl rfl)
theorem dX6_deedsBy_13 : decode cX6_deedsBy 13 = .ok (.iaload, 1) := dk_46 (dk_at dksX6_deedsBy_0 13 rfl rfl)
theorem dX6_deedsBy_14 : decode cX6_deedsBy 14 = .ok (.istore 6, 2) := dk_54 6 (dk_at dksX6_deedsBy_0 14 rfl rfl)
theorem dX6_deedsBy_16 : decode cX6_deedsBy 16 = .ok (.iload 6, 2) := dk_21 6 (dk_at dksX6_deedsBy_0 16 rfl rfl)
theorem dX6_deedsBy_18 : decode cX6_deedsBy 18 = .ok (.iload 4, 2) := dk_21 4 (dk_at dksX6_deedsBy_0 18 rfl rfl)
theorem dX6_deedsBy_20 : decode cX6_deedsBy 20 = .ok (.if_icmp .le 11, 3) := dk_164 0 11 (dk_at dksX6_deedsBy_0 20 rfl rfl)
theorem dX6_deedsBy_23 : decode cX6_deedsBy 23 = .ok (.iload 6, 2) := dk_21 6 (dk_at dksX6_deedsBy_1 0 rfl rfl)
theorem dX6_deedsBy_25 : decode cX6_deedsBy 25 = .ok (.iload 4, 2) := dk_21 4 (dk_at dksX6_deedsBy_1 2 rfl rfl)
theorem dX6_deedsBy_27 : decode cX6_deedsBy 27 = .ok (.isub, 1) := dk_100 (dk_at dksX6_deedsBy_1 4 rfl rfl)
theorem dX6_deedsBy_28 : decode cX6_deedsBy 28 = .ok (.goto 4, 3) := dk_167 0 4 (dk_at dksX6_deedsBy_1 5 rfl rfl)
theorem dX6_deedsBy_31 : decode cX6_deedsBy 31 = .ok (.iconst 0, 1) := dk_3 (dk_at dksX6_deedsBy_1 8 rfl rfl)
theorem dX6_deedsBy_32 : decode cX6_deedsBy 32 = .ok (.istore 7, 2) := dk_54 7 (dk_at dksX6_deedsBy_1 9 rfl rfl)
theorem dX6_deedsBy_34 : decode cX6_deedsBy 34 = .ok (.iload 7, 2) := dk_21 7 (dk_at dksX6_deedsBy_1 11 rfl rfl)
theorem dX6_deedsBy_36 : decode cX6_deedsBy 36 = .ok (.iload 6, 2) := dk_21 6 (dk_at dksX6_deedsBy_1 13 rfl rfl)
theorem dX6_deedsBy_38 : decode cX6_deedsBy 38 = .ok (.if_icmp .ge 60, 3) := dk_162 0 60 (dk_at dksX6_deedsBy_1 15 rfl rfl)
theorem dX6_deedsBy_41 : decode cX6_deedsBy 41 = .ok (.aload_n 0, 1) := dk_42 (dk_at dksX6_deedsBy_1 18 rfl rfl)
theorem dX6_deedsBy_42 : decode cX6_deedsBy 42 = .ok (.iload_n 1, 1) := dk_27 (dk_at dksX6_deedsBy_1 19 rfl rfl)
theorem dX6_deedsBy_43 : decode cX6_deedsBy 43 = .ok (.iload_n 2, 1) := dk_28 (dk_at dksX6_deedsBy_1 20 rfl rfl)
theorem dX6_deedsBy_44 : decode cX6_deedsBy 44 = .ok (.invokevirtual 324, 3) := dk_182 1 68 (dk_at dksX6_deedsBy_1 21 rfl rfl)
theorem dX6_deedsBy_47 : decode cX6_deedsBy 47 = .ok (.ifCond .eq 51, 3) := dk_153 0 51 (dk_at dksX6_deedsBy_2 0 rfl rfl)
theorem dX6_deedsBy_50 : decode cX6_deedsBy 50 = .ok (.aload_n 0, 1) := dk_42 (dk_at dksX6_deedsBy_2 3 rfl rfl)
theorem dX6_deedsBy_51 : decode cX6_deedsBy 51 = .ok (.iload_n 1, 1) := dk_27 (dk_at dksX6_deedsBy_2 4 rfl rfl)
theorem dX6_deedsBy_52 : decode cX6_deedsBy 52 = .ok (.iload_n 2, 1) := dk_28 (dk_at dksX6_deedsBy_2 5 rfl rfl)
theorem dX6_deedsBy_53 : decode cX6_deedsBy 53 = .ok (.iload 7, 2) := dk_21 7 (dk_at dksX6_deedsBy_2 6 rfl rfl)
theorem dX6_deedsBy_55 : decode cX6_deedsBy 55 = .ok (.invokevirtual 300, 3) := dk_182 1 44 (dk_at dksX6_deedsBy_2 8 rfl rfl)
theorem dX6_deedsBy_58 : decode cX6_deedsBy 58 = .ok (.istore 8, 2) := dk_54 8 (dk_at dksX6_deedsBy_2 11 rfl rfl)
theorem dX6_deedsBy_60 : decode cX6_deedsBy 60 = .ok (.iload 5, 2) := dk_21 5 (dk_at dksX6_deedsBy_2 13 rfl rfl)
theorem dX6_deedsBy_62 : decode cX6_deedsBy 62 = .ok (.iload_n 3, 1) := dk_29 (dk_at dksX6_deedsBy_2 15 rfl rfl)
theorem dX6_deedsBy_63 : decode cX6_deedsBy 63 = .ok (.ifCond .lt 15, 3) := dk_155 0 15 (dk_at dksX6_deedsBy_2 16 rfl rfl)
theorem dX6_deedsBy_66 : decode cX6_deedsBy 66 = .ok (.aload_n 0, 1) := dk_42 (dk_at dksX6_deedsBy_2 19 rfl rfl)
theorem dX6_deedsBy_67 : decode cX6_deedsBy 67 = .ok (.iload_n 1, 1) := dk_27 (dk_at dksX6_deedsBy_2 20 rfl rfl)
theorem dX6_deedsBy_68 : decode cX6_deedsBy 68 = .ok (.iload_n 2, 1) := dk_28 (dk_at dksX6_deedsBy_2 21 rfl rfl)
theorem dX6_deedsBy_69 : decode cX6_deedsBy 69 = .ok (.iload 8, 2) := dk_21 8 (dk_at dksX6_deedsBy_2 22 rfl rfl)
theorem dX6_deedsBy_71 : decode cX6_deedsBy 71 = .ok (.invokevirtual 327, 3) := dk_182 1 71 (dk_at dksX6_deedsBy_3 0 rfl rfl)
theorem dX6_deedsBy_74 : decode cX6_deedsBy 74 = .ok (.iload_n 3, 1) := dk_29 (dk_at dksX6_deedsBy_3 3 rfl rfl)
theorem dX6_deedsBy_75 : decode cX6_deedsBy 75 = .ok (.if_icmp .ne 13, 3) := dk_160 0 13 (dk_at dksX6_deedsBy_3 4 rfl rfl)
theorem dX6_deedsBy_78 : decode cX6_deedsBy 78 = .ok (.iconst 1, 1) := dk_4 (dk_at dksX6_deedsBy_3 7 rfl rfl)
theorem dX6_deedsBy_79 : decode cX6_deedsBy 79 = .ok (.iload 8, 2) := dk_21 8 (dk_at dksX6_deedsBy_3 8 rfl rfl)
theorem dX6_deedsBy_81 : decode cX6_deedsBy 81 = .ok (.invokestatic 312, 3) := dk_184 1 56 (dk_at dksX6_deedsBy_3 10 rfl rfl)
theorem dX6_deedsBy_84 : decode cX6_deedsBy 84 = .ok (.ishl, 1) := dk_120 (dk_at dksX6_deedsBy_3 13 rfl rfl)
theorem dX6_deedsBy_85 : decode cX6_deedsBy 85 = .ok (.goto 4, 3) := dk_167 0 4 (dk_at dksX6_deedsBy_3 14 rfl rfl)
theorem dX6_deedsBy_88 : decode cX6_deedsBy 88 = .ok (.iconst 0, 1) := dk_3 (dk_at dksX6_deedsBy_3 17 rfl rfl)
theorem dX6_deedsBy_89 : decode cX6_deedsBy 89 = .ok (.ior, 1) := dk_128 (dk_at dksX6_deedsBy_3 18 rfl rfl)
theorem dX6_deedsBy_90 : decode cX6_deedsBy 90 = .ok (.istore 5, 2) := dk_54 5 (dk_at dksX6_deedsBy_3 19 rfl rfl)
theorem dX6_deedsBy_92 : decode cX6_deedsBy 92 = .ok (.iinc 7 1, 3) := dk_132 7 1 (dk_at dksX6_deedsBy_3 21 rfl rfl)
theorem dX6_deedsBy_95 : decode cX6_deedsBy 95 = .ok (.goto (-61), 3) := dk_167 255 195 (dk_at dksX6_deedsBy_4 0 rfl rfl)
theorem dX6_deedsBy_98 : decode cX6_deedsBy 98 = .ok (.iload 5, 2) := dk_21 5 (dk_at dksX6_deedsBy_4 3 rfl rfl)
theorem dX6_deedsBy_100 : decode cX6_deedsBy 100 = .ok (.ireturn, 1) := dk_172 (dk_at dksX6_deedsBy_4 5 rfl rfl)
abbrev cX6_harmOf : ByteArray := prog_24_method_69_code
def yX6_harmOf : MethodName := ⟨RX6, "harmOf", "(I)I"⟩
def dkwX6_harmOf_1 : List UInt8 := [180, 0, 89, 16, 28, 29, 96, 46, 167, 0, 4, 3, 96, 61, 132, 3, 1, 167, 255, 220, 28, 172]
abbrev dktX6_harmOf_1 : List UInt8 := dkwX6_harmOf_1 ++ []
def dkwX6_harmOf_0 : List UInt8 := [3, 61, 3, 62, 29, 42, 182, 1, 25, 162, 0, 34, 28, 27, 29, 122, 4, 126, 4, 160, 0, 15, 42]
abbrev dktX6_harmOf_0 : List UInt8 := dkwX6_harmOf_0 ++ dktX6_harmOf_1
theorem dksX6_harmOf_0 : cX6_harmOf.data.toList.drop 0 = dktX6_harmOf_0 := by decide +kernel
theorem dksX6_harmOf_1 : cX6_harmOf.data.toList.drop 23 = dktX6_harmOf_1 := dk_seg dksX6_harmOf_0 23 rfl rfl
theorem dX6_harmOf_0 : decode cX6_harmOf 0 = .ok (.iconst 0, 1) := dk_3 (dk_at dksX6_harmOf_0 0 rfl rfl)
theorem dX6_harmOf_1 : decode cX6_harmOf 1 = .ok (.istore_n 2, 1) := dk_61 (dk_at dksX6_harmOf_0 1 rfl rfl)
theorem dX6_harmOf_2 : decode cX6_harmOf 2 = .ok (.iconst 0, 1) := dk_3 (dk_at dksX6_harmOf_0 2 rfl rfl)
theorem dX6_harmOf_3 : decode cX6_harmOf 3 = .ok (.istore_n 3, 1) := dk_62 (dk_at dksX6_harmOf_0 3 rfl rfl)
theorem dX6_harmOf_4 : decode cX6_harmOf 4 = .ok (.iload_n 3, 1) := dk_29 (dk_at dksX6_harmOf_0 4 rfl rfl)
theorem dX6_harmOf_5 : decode cX6_harmOf 5 = .ok (.aload_n 0, 1) := dk_42 (dk_at dksX6_harmOf_0 5 rfl rfl)
theorem dX6_harmOf_6 : decode cX6_harmOf 6 = .ok (.invokevirtual 281, 3) := dk_182 1 25 (dk_at dksX6_harmOf_0 6 rfl rfl)
theorem dX6_harmOf_9 : decode cX6_harmOf 9 = .ok (.if_icmp .ge 34, 3) := dk_162 0 34 (dk_at dksX6_harmOf_0 9 rfl rfl)
theorem dX6_harmOf_12 : decode cX6_harmOf 12 = .ok (.iload_n 2, 1) := dk_28 (dk_at dksX6_harmOf_0 12 rfl rfl)
theorem dX6_harmOf_13 : decode cX6_harmOf 13 = .ok (.iload_n 1, 1) := dk_27 (dk_at dksX6_harmOf_0 13 rfl rfl)
theorem dX6_harmOf_14 : decode cX6_harmOf 14 = .ok (.iload_n 3, 1) := dk_29 (dk_at dksX6_harmOf_0 14 rfl rfl)
theorem dX6_harmOf_15 : decode cX6_harmOf 15 = .ok (.ishr, 1) := dk_122 (dk_at dksX6_harmOf_0 15 rfl rfl)
theorem dX6_harmOf_16 : decode cX6_harmOf 16 = .ok (.iconst 1, 1) := dk_4 (dk_at dksX6_harmOf_0 16 rfl rfl)
theorem dX6_harmOf_17 : decode cX6_harmOf 17 = .ok (.iand, 1) := dk_126 (dk_at dksX6_harmOf_0 17 rfl rfl)
theorem dX6_harmOf_18 : decode cX6_harmOf 18 = .ok (.iconst 1, 1) := dk_4 (dk_at dksX6_harmOf_0 18 rfl rfl)
theorem dX6_harmOf_19 : decode cX6_harmOf 19 = .ok (.if_icmp .ne 15, 3) := dk_160 0 15 (dk_at dksX6_harmOf_0 19 rfl rfl)
theorem dX6_harmOf_22 : decode cX6_harmOf 22 = .ok (.aload_n 0, 1) := dk_42 (dk_at dksX6_harmOf_0 22 rfl rfl)
theorem dX6_harmOf_23 : decode cX6_harmOf 23 = .ok (.getfield 89, 3) := dk_180 0 89 (dk_at dksX6_harmOf_1 0 rfl rfl)
theorem dX6_harmOf_26 : decode cX6_harmOf 26 = .ok (.bipush 28, 2) := dk_16 28 (dk_at dksX6_harmOf_1 3 rfl rfl)
theorem dX6_harmOf_28 : decode cX6_harmOf 28 = .ok (.iload_n 3, 1) := dk_29 (dk_at dksX6_harmOf_1 5 rfl rfl)
theorem dX6_harmOf_29 : decode cX6_harmOf 29 = .ok (.iadd, 1) := dk_96 (dk_at dksX6_harmOf_1 6 rfl rfl)
theorem dX6_harmOf_30 : decode cX6_harmOf 30 = .ok (.iaload, 1) := dk_46 (dk_at dksX6_harmOf_1 7 rfl rfl)
theorem dX6_harmOf_31 : decode cX6_harmOf 31 = .ok (.goto 4, 3) := dk_167 0 4 (dk_at dksX6_harmOf_1 8 rfl rfl)
theorem dX6_harmOf_34 : decode cX6_harmOf 34 = .ok (.iconst 0, 1) := dk_3 (dk_at dksX6_harmOf_1 11 rfl rfl)
theorem dX6_harmOf_35 : decode cX6_harmOf 35 = .ok (.iadd, 1) := dk_96 (dk_at dksX6_harmOf_1 12 rfl rfl)
theorem dX6_harmOf_36 : decode cX6_harmOf 36 = .ok (.istore_n 2, 1) := dk_61 (dk_at dksX6_harmOf_1 13 rfl rfl)
theorem dX6_harmOf_37 : decode cX6_harmOf 37 = .ok (.iinc 3 1, 3) := dk_132 3 1 (dk_at dksX6_harmOf_1 14 rfl rfl)
theorem dX6_harmOf_40 : decode cX6_harmOf 40 = .ok (.goto (-36), 3) := dk_167 255 220 (dk_at dksX6_harmOf_1 17 rfl rfl)
theorem dX6_harmOf_43 : decode cX6_harmOf 43 = .ok (.iload_n 2, 1) := dk_28 (dk_at dksX6_harmOf_1 20 rfl rfl)
theorem dX6_harmOf_44 : decode cX6_harmOf 44 = .ok (.ireturn, 1) := dk_172 (dk_at dksX6_harmOf_1 21 rfl rfl)
abbrev cX6_shame : ByteArray := prog_24_method_85_code
def yX6_shame : MethodName := ⟨RX6, "shame", "(I)I"⟩
def dkwX6_shame_1 : List UInt8 := [2, 172]
abbrev dktX6_shame_1 : List UInt8 := dkwX6_shame_1 ++ []
def dkwX6_shame_0 : List UInt8 := [42, 3, 181, 0, 1, 42, 27, 182, 1, 87, 153, 0, 14, 42, 3, 27, 16, 6, 182, 1, 115, 167, 0, 4]
abbrev dktX6_shame_0 : List UInt8 := dkwX6_shame_0 ++ dktX6_shame_1
theorem dksX6_shame_0 : cX6_shame.data.toList.drop 0 = dktX6_shame_0 := by decide +kernel
theorem dksX6_shame_1 : cX6_shame.data.toList.drop 24 = dktX6_shame_1 := dk_seg dksX6_shame_0 24 rfl rfl
theorem dX6_shame_0 : decode cX6_shame 0 = .ok (.aload_n 0, 1) := dk_42 (dk_at dksX6_shame_0 0 rfl rfl)
theorem dX6_shame_1 : decode cX6_shame 1 = .ok (.iconst 0, 1) := dk_3 (dk_at dksX6_shame_0 1 rfl rfl)
theorem dX6_shame_2 : decode cX6_shame 2 = .ok (.putfield 1, 3) := dk_181 0 1 (dk_at dksX6_shame_0 2 rfl rfl)
theorem dX6_shame_5 : decode cX6_shame 5 = .ok (.aload_n 0, 1) := dk_42 (dk_at dksX6_shame_0 5 rfl rfl)
theorem dX6_shame_6 : decode cX6_shame 6 = .ok (.iload_n 1, 1) := dk_27 (dk_at dksX6_shame_0 6 rfl rfl)
theorem dX6_shame_7 : decode cX6_shame 7 = .ok (.invokevirtual 343, 3) := dk_182 1 87 (dk_at dksX6_shame_0 7 rfl rfl)
theorem dX6_shame_10 : decode cX6_shame 10 = .ok (.ifCond .eq 14, 3) := dk_153 0 14 (dk_at dksX6_shame_0 10 rfl rfl)
theorem dX6_shame_13 : decode cX6_shame 13 = .ok (.aload_n 0, 1) := dk_42 (dk_at dksX6_shame_0 13 rfl rfl)
theorem dX6_shame_14 : decode cX6_shame 14 = .ok (.iconst 0, 1) := dk_3 (dk_at dksX6_shame_0 14 rfl rfl)
theorem dX6_shame_15 : decode cX6_shame 15 = .ok (.iload_n 1, 1) := dk_27 (dk_at dksX6_shame_0 15 rfl rfl)
theorem dX6_shame_16 : decode cX6_shame 16 = .ok (.bipush 6, 2) := dk_16 6 (dk_at dksX6_shame_0 16 rfl rfl)
theorem dX6_shame_18 : decode cX6_shame 18 = .ok (.invokevirtual 371, 3) := dk_182 1 115 (dk_at dksX6_shame_0 18 rfl rfl)
theorem dX6_shame_21 : decode cX6_shame 21 = .ok (.goto 4, 3) := dk_167 0 4 (dk_at dksX6_shame_0 21 rfl rfl)
theorem dX6_shame_24 : decode cX6_shame 24 = .ok (.iconst (-1), 1) := dk_2 (dk_at dksX6_shame_1 0 rfl rfl)
theorem dX6_shame_25 : decode cX6_shame 25 = .ok (.ireturn, 1) := dk_172 (dk_at dksX6_shame_1 1 rfl rfl)
abbrev cX6_harm : ByteArray := prog_24_method_86_code
def yX6_harm : MethodName := ⟨RX6, "harm", "()I"⟩
def dkwX6_harm_0 : List UInt8 := [42, 3, 181, 0, 1, 42, 3, 2, 16, 6, 182, 1, 115, 172]
abbrev dktX6_harm_0 : List UInt8 := dkwX6_harm_0 ++ []
theorem dksX6_harm_0 : cX6_harm.data.toList.drop 0 = dktX6_harm_0 := by decide +kernel
theorem dX6_harm_0 : decode cX6_harm 0 = .ok (.aload_n 0, 1) := dk_42 (dk_at dksX6_harm_0 0 rfl rfl)
theorem dX6_harm_1 : decode cX6_harm 1 = .ok (.iconst 0, 1) := dk_3 (dk_at dksX6_harm_0 1 rfl rfl)
theorem dX6_harm_2 : decode cX6_harm 2 = .ok (.putfield 1, 3) := dk_181 0 1 (dk_at dksX6_harm_0 2 rfl rfl)
theorem dX6_harm_5 : decode cX6_harm 5 = .ok (.aload_n 0, 1) := dk_42 (dk_at dksX6_harm_0 5 rfl rfl)
theorem dX6_harm_6 : decode cX6_harm 6 = .ok (.iconst 0, 1) := dk_3 (dk_at dksX6_harm_0 6 rfl rfl)
theorem dX6_harm_7 : decode cX6_harm 7 = .ok (.iconst (-1), 1) := dk_2 (dk_at dksX6_harm_0 7 rfl rfl)
theorem dX6_harm_8 : decode cX6_harm 8 = .ok (.bipush 6, 2) := dk_16 6 (dk_at dksX6_harm_0 8 rfl rfl)
theorem dX6_harm_10 : decode cX6_harm 10 = .ok (.invokevirtual 371, 3) := dk_182 1 115 (dk_at dksX6_harm_0 10 rfl rfl)
theorem dX6_harm_13 : decode cX6_harm 13 = .ok (.ireturn, 1) := dk_172 (dk_at dksX6_harm_0 13 rfl rfl)
abbrev cX6_memory : ByteArray := prog_24_method_87_code
def yX6_memory : MethodName := ⟨RX6, "memory", "(I)I"⟩
def dkwX6_memory_1 : List UInt8 := [167, 0, 4, 2, 172]
abbrev dktX6_memory_1 : List UInt8 := dkwX6_memory_1 ++ []
def dkwX6_memory_0 : List UInt8 := [42, 3, 181, 0, 1, 27, 4, 16, 6, 184, 0, 198, 153, 0, 13, 42, 3, 2, 27, 182, 1, 115]
abbrev dktX6_memory_0 : List UInt8 := dkwX6_memory_0 ++ dktX6_memory_1
theorem dksX6_memory_0 : cX6_memory.data.toList.drop 0 = dktX6_memory_0 := by decide +kernel
theorem dksX6_memory_1 : cX6_memory.data.toList.drop 22 = dktX6_memory_1 := dk_seg dksX6_memory_0 22 rfl rfl
theorem dX6_memory_0 : decode cX6_memory 0 = .ok (.aload_n 0, 1) := dk_42 (dk_at dksX6_memory_0 0 rfl rfl)
theorem dX6_memory_1 : decode cX6_memory 1 = .ok (.iconst 0, 1) := dk_3 (dk_at dksX6_memory_0 1 rfl rfl)
theorem dX6_memory_2 : decode cX6_memory 2 = .ok (.putfield 1, 3) := dk_181 0 1 (dk_at dksX6_memory_0 2 rfl rfl)
theorem dX6_memory_5 : decode cX6_memory 5 = .ok (.iload_n 1, 1) := dk_27 (dk_at dksX6_memory_0 5 rfl rfl)
theorem dX6_memory_6 : decode cX6_memory 6 = .ok (.iconst 1, 1) := dk_4 (dk_at dksX6_memory_0 6 rfl rfl)
theorem dX6_memory_7 : decode cX6_memory 7 = .ok (.bipush 6, 2) := dk_16 6 (dk_at dksX6_memory_0 7 rfl rfl)
theorem dX6_memory_9 : decode cX6_memory 9 = .ok (.invokestatic 198, 3) := dk_184 0 198 (dk_at dksX6_memory_0 9 rfl rfl)
theorem dX6_memory_12 : decode cX6_memory 12 = .ok (.ifCond .eq 13, 3) := dk_153 0 13 (dk_at dksX6_memory_0 12 rfl rfl)
theorem dX6_memory_15 : decode cX6_memory 15 = .ok (.aload_n 0, 1) := dk_42 (dk_at dksX6_memory_0 15 rfl rfl)
theorem dX6_memory_16 : decode cX6_memory 16 = .ok (.iconst 0, 1) := dk_3 (dk_at dksX6_memory_0 16 rfl rfl)
theorem dX6_memory_17 : decode cX6_memory 17 = .ok (.iconst (-1), 1) := dk_2 (dk_at dksX6_memory_0 17 rfl rfl)
theorem dX6_memory_18 : decode cX6_memory 18 = .ok (.iload_n 1, 1) := dk_27 (dk_at dksX6_memory_0 18 rfl rfl)
theorem dX6_memory_19 : decode cX6_memory 19 = .ok (.invokevirtual 371, 3) := dk_182 1 115 (dk_at dksX6_memory_0 19 rfl rfl)
theorem dX6_memory_22 : decode cX6_memory 22 = .ok (.goto 4, 3) := dk_167 0 4 (dk_at dksX6_memory_1 0 rfl rfl)
theorem dX6_memory_25 : decode cX6_memory 25 = .ok (.iconst (-1), 1) := dk_2 (dk_at dksX6_memory_1 3 rfl rfl)
theorem dX6_memory_26 : decode cX6_memory 26 = .ok (.ireturn, 1) := dk_172 (dk_at dksX6_memory_1 4 rfl rfl)
abbrev cX6_trail : ByteArray := prog_24_method_88_code
def yX6_trail : MethodName := ⟨RX6, "trail", "(I)I"⟩
def dkwX6_trail_4 : List UInt8 := [167, 255, 194, 132, 3, 1, 167, 255, 177, 28, 172]
abbrev dktX6_trail_4 : List UInt8 := dkwX6_trail_4 ++ []
def dkwX6_trail_3 : List UInt8 := [182, 1, 71, 27, 160, 0, 13, 4, 21, 5, 184, 1, 84, 120, 167, 0, 4, 3, 128, 61, 132, 4, 1]
abbrev dktX6_trail_3 : List UInt8 := dkwX6_trail_3 ++ dktX6_trail_4
def dkwX6_trail_2 : List UInt8 := [182, 1, 68, 153, 0, 45, 42, 3, 29, 21, 4, 182, 1, 44, 54, 5, 28, 42, 3, 29, 21, 5]
abbrev dktX6_trail_2 : List UInt8 := dkwX6_trail_2 ++ dktX6_trail_3
def dkwX6_trail_1 : List UInt8 := [162, 0, 77, 3, 54, 4, 21, 4, 42, 180, 0, 119, 16, 18, 29, 96, 46, 162, 0, 54, 42, 3, 29]
abbrev dktX6_trail_1 : List UInt8 := dkwX6_trail_1 ++ dktX6_trail_2
def dkwX6_trail_0 : List UInt8 := [42, 3, 181, 0, 1, 42, 27, 182, 1, 87, 154, 0, 5, 2, 172, 3, 61, 3, 62, 29, 42, 182, 1, 22]
abbrev dktX6_trail_0 : List UInt8 := dkwX6_trail_0 ++ dktX6_trail_1
theorem dksX6_trail_0 : cX6_trail.data.toList.drop 0 = dktX6_trail_0 := by decide +kernel
theorem dksX6_trail_1 : cX6_trail.data.toList.drop 24 = dktX6_trail_1 := dk_seg dksX6_trail_0 24 rfl rfl
theorem dksX6_trail_2 : cX6_trail.data.toList.drop 47 = dktX6_trail_2 := dk_seg dksX6_trail_1 23 rfl rfl
theorem dksX6_trail_3 : cX6_trail.data.toList.drop 69 = dktX6_trail_3 := dk_seg dksX6_trail_2 22 rfl rfl
theorem dksX6_trail_4 : cX6_trail.data.toList.drop 92 = dktX6_trail_4 := dk_seg dksX6_trail_3 23 rfl rfl
theorem dX6_trail_0 : decode cX6_trail 0 = .ok (.aload_n 0, 1) := dk_42 (dk_at dksX6_trail_0 0 rfl rfl)
theorem dX6_trail_1 : decode cX6_trail 1 = .ok (.iconst 0, 1) := dk_3 (dk_at dksX6_trail_0 1 rfl rfl)
theorem dX6_trail_2 : decode cX6_trail 2 = .ok (.putfield 1, 3) := dk_181 0 1 (dk_at dksX6_trail_0 2 rfl rfl)
theorem dX6_trail_5 : decode cX6_trail 5 = .ok (.aload_n 0, 1) := dk_42 (dk_at dksX6_trail_0 5 rfl rfl)
theorem dX6_trail_6 : decode cX6_trail 6 = .ok (.iload_n 1, 1) := dk_27 (dk_at dksX6_trail_0 6 rfl rfl)
theorem dX6_trail_7 : decode cX6_trail 7 = .ok (.invokevirtual 343, 3) := dk_182 1 87 (dk_at dksX6_trail_0 7 rfl rfl)
theorem dX6_trail_10 : decode cX6_trail 10 = .ok (.ifCond .ne 5, 3) := dk_154 0 5 (dk_at dksX6_trail_0 10 rfl rfl)
theorem dX6_trail_13 : decode cX6_trail 13 = .ok (.iconst (-1), 1) := dk_2 (dk_at dksX6_trail_0 13 rfl rfl)
theorem dX6_trail_14 : decode cX6_trail 14 = .ok (.ireturn, 1) := dk_172 (dk_at dksX6_trail_0 14 rfl rfl)
theorem dX6_trail_15 : decode cX6_trail 15 = .ok (.iconst 0, 1) := dk_3 (dk_at dksX6_trail_0 15 rfl rfl)
theorem dX6_trail_16 : decode cX6_trail 16 = .ok (.istore_n 2, 1) := dk_61 (dk_at dksX6_trail_0 16 rfl rfl)
theorem dX6_trail_17 : decode cX6_trail 17 = .ok (.iconst 0, 1) := dk_3 (dk_at dksX6_trail_0 17 rfl rfl)
theorem dX6_trail_18 : decode cX6_trail 18 = .ok (.istore_n 3, 1) := dk_62 (dk_at dksX6_trail_0 18 rfl rfl)
theorem dX6_trail_19 : decode cX6_trail 19 = .ok (.iload_n 3, 1) := dk_29 (dk_at dksX6_trail_0 19 rfl rfl)
theorem dX6_trail_20 : decode cX6_trail 20 = .ok (.aload_n 0, 1) := dk_42 (dk_at dksX6_trail_0 20 rfl rfl)
theorem dX6_trail_21 : decode cX6_trail 21 = .ok (.invokevirtual 278, 3) := dk_182 1 22 (dk_at dksX6_trail_0 21 rfl rfl)
theorem dX6_trail_24 : decode cX6_trail 24 = .ok (.if_icmp .ge 77, 3) := dk_162 0 77 (dk_at dksX6_trail_1 0 rfl rfl)
theorem dX6_trail_27 : decode cX6_trail 27 = .ok (.iconst 0, 1) := dk_3 (dk_at dksX6_trail_1 3 rfl rfl)
theorem dX6_trail_28 : decode cX6_trail 28 = .ok (.istore 4, 2) := dk_54 4 (dk_at dksX6_trail_1 4 rfl rfl)
theorem dX6_trail_30 : decode cX6_trail 30 = .ok (.iload 4, 2) := dk_21 4 (dk_at dksX6_trail_1 6 rfl rfl)
theorem dX6_trail_32 : decode cX6_trail 32 = .ok (.aload_n 0, 1) := dk_42 (dk_at dksX6_trail_1 8 rfl rfl)
theorem dX6_trail_33 : decode cX6_trail 33 = .ok (.getfield 119, 3) := dk_180 0 119 (dk_at dksX6_trail_1 9 rfl rfl)
theorem dX6_trail_36 : decode cX6_trail 36 = .ok (.bipush 18, 2) := dk_16 18 (dk_at dksX6_trail_1 12 rfl rfl)
theorem dX6_trail_38 : decode cX6_trail 38 = .ok (.iload_n 3, 1) := dk_29 (dk_at dksX6_trail_1 14 rfl rfl)
theorem dX6_trail_39 : decode cX6_trail 39 = .ok (.iadd, 1) := dk_96 (dk_at dksX6_trail_1 15 rfl rfl)
theorem dX6_trail_40 : decode cX6_trail 40 = .ok (.iaload, 1) := dk_46 (dk_at dksX6_trail_1 16 rfl rfl)
theorem dX6_trail_41 : decode cX6_trail 41 = .ok (.if_icmp .ge 54, 3) := dk_162 0 54 (dk_at dksX6_trail_1 17 rfl rfl)
theorem dX6_trail_44 : decode cX6_trail 44 = .ok (.aload_n 0, 1) := dk_42 (dk_at dksX6_trail_1 20 rfl rfl)
theorem dX6_trail_45 : decode cX6_trail 45 = .ok (.iconst 0, 1) := dk_3 (dk_at dksX6_trail_1 21 rfl rfl)
theorem dX6_trail_46 : decode cX6_trail 46 = .ok (.iload_n 3, 1) := dk_29 (dk_at dksX6_trail_1 22 rfl rfl)
theorem dX6_trail_47 : decode cX6_trail 47 = .ok (.invokevirtual 324, 3) := dk_182 1 68 (dk_at dksX6_trail_2 0 rfl rfl)
theorem dX6_trail_50 : decode cX6_trail 50 = .ok (.ifCond .eq 45, 3) := dk_153 0 45 (dk_at dksX6_trail_2 3 rfl rfl)
theorem dX6_trail_53 : decode cX6_trail 53 = .ok (.aload_n 0, 1) := dk_42 (dk_at dksX6_trail_2 6 rfl rfl)
theorem dX6_trail_54 : decode cX6_trail 54 = .ok (.iconst 0, 1) := dk_3 (dk_at dksX6_trail_2 7 rfl rfl)
theorem dX6_trail_55 : decode cX6_trail 55 = .ok (.iload_n 3, 1) := dk_29 (dk_at dksX6_trail_2 8 rfl rfl)
theorem dX6_trail_56 : decode cX6_trail 56 = .ok (.iload 4, 2) := dk_21 4 (dk_at dksX6_trail_2 9 rfl rfl)
theorem dX6_trail_58 : decode cX6_trail 58 = .ok (.invokevirtual 300, 3) := dk_182 1 44 (dk_at dksX6_trail_2 11 rfl rfl)
theorem dX6_trail_61 : decode cX6_trail 61 = .ok (.istore 5, 2) := dk_54 5 (dk_at dksX6_trail_2 14 rfl rfl)
theorem dX6_trail_63 : decode cX6_trail 63 = .ok (.iload_n 2, 1) := dk_28 (dk_at dksX6_trail_2 16 rfl rfl)
theorem dX6_trail_64 : decode cX6_trail 64 = .ok (.aload_n 0, 1) := dk_42 (dk_at dksX6_trail_2 17 rfl rfl)
theorem dX6_trail_65 : decode cX6_trail 65 = .ok (.iconst 0, 1) := dk_3 (dk_at dksX6_trail_2 18 rfl rfl)
theorem dX6_trail_66 : decode cX6_trail 66 = .ok (.iload_n 3, 1) := dk_29 (dk_at dksX6_trail_2 19 rfl rfl)
theorem dX6_trail_67 : decode cX6_trail 67 = .ok (.iload 5, 2) := dk_21 5 (dk_at dksX6_trail_2 20 rfl rfl)
theorem dX6_trail_69 : decode cX6_trail 69 = .ok (.invokevirtual 327, 3) := dk_182 1 71 (dk_at dksX6_trail_3 0 rfl rfl)
theorem dX6_trail_72 : decode cX6_trail 72 = .ok (.iload_n 1, 1) := dk_27 (dk_at dksX6_trail_3 3 rfl rfl)
theorem dX6_trail_73 : decode cX6_trail 73 = .ok (.if_icmp .ne 13, 3) := dk_160 0 13 (dk_at dksX6_trail_3 4 rfl rfl)
theorem dX6_trail_76 : decode cX6_trail 76 = .ok (.iconst 1, 1) := dk_4 (dk_at dksX6_trail_3 7 rfl rfl)
theorem dX6_trail_77 : decode cX6_trail 77 = .ok (.iload 5, 2) := dk_21 5 (dk_at dksX6_trail_3 8 rfl rfl)
theorem dX6_trail_79 : decode cX6_trail 79 = .ok (.invokestatic 340, 3) := dk_184 1 84 (dk_at dksX6_trail_3 10 rfl rfl)
theorem dX6_trail_82 : decode cX6_trail 82 = .ok (.ishl, 1) := dk_120 (dk_at dksX6_trail_3 13 rfl rfl)
theorem dX6_trail_83 : decode cX6_trail 83 = .ok (.goto 4, 3) := dk_167 0 4 (dk_at dksX6_trail_3 14 rfl rfl)
theorem dX6_trail_86 : decode cX6_trail 86 = .ok (.iconst 0, 1) := dk_3 (dk_at dksX6_trail_3 17 rfl rfl)
theorem dX6_trail_87 : decode cX6_trail 87 = .ok (.ior, 1) := dk_128 (dk_at dksX6_trail_3 18 rfl rfl)
theorem dX6_trail_88 : decode cX6_trail 88 = .ok (.istore_n 2, 1) := dk_61 (dk_at dksX6_trail_3 19 rfl rfl)
theorem dX6_trail_89 : decode cX6_trail 89 = .ok (.iinc 4 1, 3) := dk_132 4 1 (dk_at dksX6_trail_3 20 rfl rfl)
theorem dX6_trail_92 : decode cX6_trail 92 = .ok (.goto (-62), 3) := dk_167 255 194 (dk_at dksX6_trail_4 0 rfl rfl)
theorem dX6_trail_95 : decode cX6_trail 95 = .ok (.iinc 3 1, 3) := dk_132 3 1 (dk_at dksX6_trail_4 3 rfl rfl)
theorem dX6_trail_98 : decode cX6_trail 98 = .ok (.goto (-79), 3) := dk_167 255 177 (dk_at dksX6_trail_4 6 rfl rfl)
theorem dX6_trail_101 : decode cX6_trail 101 = .ok (.iload_n 2, 1) := dk_28 (dk_at dksX6_trail_4 9 rfl rfl)
theorem dX6_trail_102 : decode cX6_trail 102 = .ok (.ireturn, 1) := dk_172 (dk_at dksX6_trail_4 10 rfl rfl)
abbrev cX6_last : ByteArray := prog_24_method_89_code
def yX6_last : MethodName := ⟨RX6, "last", "(I)I"⟩
def dkwX6_last_6 : List UInt8 := [132, 4, 1, 167, 255, 127, 28, 172]
abbrev dktX6_last_6 : List UInt8 := dkwX6_last_6 ++ []
def dkwX6_last_5 : List UInt8 := [61, 21, 7, 153, 0, 11, 21, 6, 184, 1, 53, 167, 0, 4, 29, 62, 132, 5, 255, 167, 255, 164]
abbrev dktX6_last_5 : List UInt8 := dkwX6_last_5 ++ dktX6_last_6
def dkwX6_last_4 : List UInt8 := [162, 0, 7, 4, 167, 0, 4, 3, 54, 7, 21, 7, 153, 0, 11, 21, 6, 184, 1, 84, 167, 0, 4, 28]
abbrev dktX6_last_4 : List UInt8 := dkwX6_last_4 ++ dktX6_last_5
def dkwX6_last_3 : List UInt8 := [42, 3, 21, 4, 21, 6, 182, 1, 71, 27, 160, 0, 20, 28, 155, 0, 12, 21, 6, 184, 1, 53, 29]
abbrev dktX6_last_3 : List UInt8 := dkwX6_last_3 ++ dktX6_last_4
def dkwX6_last_2 : List UInt8 := [155, 0, 93, 42, 3, 21, 4, 182, 1, 68, 153, 0, 83, 42, 3, 21, 4, 21, 5, 182, 1, 44, 54, 6]
abbrev dktX6_last_2 : List UInt8 := dkwX6_last_2 ++ dktX6_last_3
def dkwX6_last_1 : List UInt8 := [182, 1, 87, 153, 0, 118, 42, 180, 0, 119, 16, 18, 21, 4, 96, 46, 4, 100, 54, 5, 21, 5]
abbrev dktX6_last_1 : List UInt8 := dkwX6_last_1 ++ dktX6_last_2
def dkwX6_last_0 : List UInt8 := [42, 3, 181, 0, 1, 2, 61, 3, 62, 3, 54, 4, 21, 4, 42, 182, 1, 22, 162, 0, 126, 42, 27]
abbrev dktX6_last_0 : List UInt8 := dkwX6_last_0 ++ dktX6_last_1
theorem dksX6_last_0 : cX6_last.data.toList.drop 0 = dktX6_last_0 := by decide +kernel
theorem dksX6_last_1 : cX6_last.data.toList.drop 23 = dktX6_last_1 := dk_seg dksX6_last_0 23 rfl rfl
theorem dksX6_last_2 : cX6_last.data.toList.drop 45 = dktX6_last_2 := dk_seg dksX6_last_1 22 rfl rfl
theorem dksX6_last_3 : cX6_last.data.toList.drop 69 = dktX6_last_3 := dk_seg dksX6_last_2 24 rfl rfl
theorem dksX6_last_4 : cX6_last.data.toList.drop 92 = dktX6_last_4 := dk_seg dksX6_last_3 23 rfl rfl
theorem dksX6_last_5 : cX6_last.data.toList.drop 116 = dktX6_last_5 := dk_seg dksX6_last_4 24 rfl rfl
theorem dksX6_last_6 : cX6_last.data.toList.drop 138 = dktX6_last_6 := dk_seg dksX6_last_5 22 rfl rfl
theorem dX6_last_0 : decode cX6_last 0 = .ok (.aload_n 0, 1) := dk_42 (dk_at dksX6_last_0 0 rfl rfl)
theorem dX6_last_1 : decode cX6_last 1 = .ok (.iconst 0, 1) := dk_3 (dk_at dksX6_last_0 1 rfl rfl)
theorem dX6_last_2 : decode cX6_last 2 = .ok (.putfield 1, 3) := dk_181 0 1 (dk_at dksX6_last_0 2 rfl rfl)
theorem dX6_last_5 : decode cX6_last 5 = .ok (.iconst (-1), 1) := dk_2 (dk_at dksX6_last_0 5 rfl rfl)
theorem dX6_last_6 : decode cX6_last 6 = .ok (.istore_n 2, 1) := dk_61 (dk_at dksX6_last_0 6 rfl rfl)
theorem dX6_last_7 : decode cX6_last 7 = .ok (.iconst 0, 1) := dk_3 (dk_at dksX6_last_0 7 rfl rfl)
theorem dX6_last_8 : decode cX6_last 8 = .ok (.istore_n 3, 1) := dk_62 (dk_at dksX6_last_0 8 rfl rfl)
theorem dX6_last_9 : decode cX6_last 9 = .ok (.iconst 0, 1) := dk_3 (dk_at dksX6_last_0 9 rfl rfl)
theorem dX6_last_10 : decode cX6_last 10 = .ok (.istore 4, 2) := dk_54 4 (dk_at dksX6_last_0 10 rfl rfl)
theorem dX6_last_12 : decode cX6_last 12 = .ok (.iload 4, 2) := dk_21 4 (dk_at dksX6_last_0 12 rfl rfl)
theorem dX6_last_14 : decode cX6_last 14 = .ok (.aload_n 0, 1) := dk_42 (dk_at dksX6_last_0 14 rfl rfl)
theorem dX6_last_15 : decode cX6_last 15 = .ok (.invokevirtual 278, 3) := dk_182 1 22 (dk_at dksX6_last_0 15 rfl rfl)
theorem dX6_last_18 : decode cX6_last 18 = .ok (.if_icmp .ge 126, 3) := dk_162 0 126 (dk_at dksX6_last_0 18 rfl rfl)
theorem dX6_last_21 : decode cX6_last 21 = .ok (.aload_n 0, 1) := dk_42 (dk_at dksX6_last_0 21 rfl rfl)
theorem dX6_last_22 : decode cX6_last 22 = .ok (.iload_n 1, 1) := dk_27 (dk_at dksX6_last_0 22 rfl rfl)
theorem dX6_last_23 : decode cX6_last 23 = .ok (.invokevirtual 343, 3) := dk_182 1 87 (dk_at dksX6_last_1 0 rfl rfl)
theorem dX6_last_26 : decode cX6_last 26 = .ok (.ifCond .eq 118, 3) := dk_153 0 118 (dk_at dksX6_last_1 3 rfl rfl)
theorem dX6_last_29 : decode cX6_last 29 = .ok (.aload_n 0, 1) := dk_42 (dk_at dksX6_last_1 6 rfl rfl)
theorem dX6_last_30 : decode cX6_last 30 = .ok (.getfield 119, 3) := dk_180 0 119 (dk_at dksX6_last_1 7 rfl rfl)
theorem dX6_last_33 : decode cX6_last 33 = .ok (.bipush 18, 2) := dk_16 18 (dk_at dksX6_last_1 10 rfl rfl)
theorem dX6_last_35 : decode cX6_last 35 = .ok (.iload 4, 2) := dk_21 4 (dk_at dksX6_last_1 12 rfl rfl)
theorem dX6_last_37 : decode cX6_last 37 = .ok (.iadd, 1) := dk_96 (dk_at dksX6_last_1 14 rfl rfl)
theorem dX6_last_38 : decode cX6_last 38 = .ok (.iaload, 1) := dk_46 (dk_at dksX6_last_1 15 rfl rfl)
theorem dX6_last_39 : decode cX6_last 39 = .ok (.iconst 1, 1) := dk_4 (dk_at dksX6_last_1 16 rfl rfl)
theorem dX6_last_40 : decode cX6_last 40 = .ok (.isub, 1) := dk_100 (dk_at dksX6_last_1 17 rfl rfl)
theorem dX6_last_41 : decode cX6_last 41 = .ok (.istore 5, 2) := dk_54 5 (dk_at dksX6_last_1 18 rfl rfl)
theorem dX6_last_43 : decode cX6_last 43 = .ok (.iload 5, 2) := dk_21 5 (dk_at dksX6_last_1 20 rfl rfl)
theorem dX6_last_45 : decode cX6_last 45 = .ok (.ifCond .lt 93, 3) := dk_155 0 93 (dk_at dksX6_last_2 0 rfl rfl)
theorem dX6_last_48 : decode cX6_last 48 = .ok (.aload_n 0, 1) := dk_42 (dk_at dksX6_last_2 3 rfl rfl)
theorem dX6_last_49 : decode cX6_last 49 = .ok (.iconst 0, 1) := dk_3 (dk_at dksX6_last_2 4 rfl rfl)
theorem dX6_last_50 : decode cX6_last 50 = .ok (.iload 4, 2) := dk_21 4 (dk_at dksX6_last_2 5 rfl rfl)
theorem dX6_last_52 : decode cX6_last 52 = .ok (.invokevirtual 324, 3) := dk_182 1 68 (dk_at dksX6_last_2 7 rfl rfl)
theorem dX6_last_55 : decode cX6_last 55 = .ok (.ifCond .eq 83, 3) := dk_153 0 83 (dk_at dksX6_last_2 10 rfl rfl)
theorem dX6_last_58 : decode cX6_last 58 = .ok (.aload_n 0, 1) := dk_42 (dk_at dksX6_last_2 13 rfl rfl)
theorem dX6_last_59 : decode cX6_last 59 = .ok (.iconst 0, 1) := dk_3 (dk_at dksX6_last_2 14 rfl rfl)
theorem dX6_last_60 : decode cX6_last 60 = .ok (.iload 4, 2) := dk_21 4 (dk_at dksX6_last_2 15 rfl rfl)
theorem dX6_last_62 : decode cX6_last 62 = .ok (.iload 5, 2) := dk_21 5 (dk_at dksX6_last_2 17 rfl rfl)
theorem dX6_last_64 : decode cX6_last 64 = .ok (.invokevirtual 300, 3) := dk_182 1 44 (dk_at dksX6_last_2 19 rfl rfl)
theorem dX6_last_67 : decode cX6_last 67 = .ok (.istore 6, 2) := dk_54 6 (dk_at dksX6_last_2 22 rfl rfl)
theorem dX6_last_69 : decode cX6_last 69 = .ok (.aload_n 0, 1) := dk_42 (dk_at dksX6_last_3 0 rfl rfl)
theorem dX6_last_70 : decode cX6_last 70 = .ok (.iconst 0, 1) := dk_3 (dk_at dksX6_last_3 1 rfl rfl)
theorem dX6_last_71 : decode cX6_last 71 = .ok (.iload 4, 2) := dk_21 4 (dk_at dksX6_last_3 2 rfl rfl)
theorem dX6_last_73 : decode cX6_last 73 = .ok (.iload 6, 2) := dk_21 6 (dk_at dksX6_last_3 4 rfl rfl)
theorem dX6_last_75 : decode cX6_last 75 = .ok (.invokevirtual 327, 3) := dk_182 1 71 (dk_at dksX6_last_3 6 rfl rfl)
theorem dX6_last_78 : decode cX6_last 78 = .ok (.iload_n 1, 1) := dk_27 (dk_at dksX6_last_3 9 rfl rfl)
theorem dX6_last_79 : decode cX6_last 79 = .ok (.if_icmp .ne 20, 3) := dk_160 0 20 (dk_at dksX6_last_3 10 rfl rfl)
theorem dX6_last_82 : decode cX6_last 82 = .ok (.iload_n 2, 1) := dk_28 (dk_at dksX6_last_3 13 rfl rfl)
theorem dX6_last_83 : decode cX6_last 83 = .ok (.ifCond .lt 12, 3) := dk_155 0 12 (dk_at dksX6_last_3 14 rfl rfl)
theorem dX6_last_86 : decode cX6_last 86 = .ok (.iload 6, 2) := dk_21 6 (dk_at dksX6_last_3 17 rfl rfl)
theorem dX6_last_88 : decode cX6_last 88 = .ok (.invokestatic 309, 3) := dk_184 1 53 (dk_at dksX6_last_3 19 rfl rfl)
theorem dX6_last_91 : decode cX6_last 91 = .ok (.iload_n 3, 1) := dk_29 (dk_at dksX6_last_3 22 rfl rfl)
theorem dX6_last_92 : decode cX6_last 92 = .ok (.if_icmp .ge 7, 3) := dk_162 0 7 (dk_at dksX6_last_4 0 rfl rfl)
theorem dX6_last_95 : decode cX6_last 95 = .ok (.iconst 1, 1) := dk_4 (dk_at dksX6_last_4 3 rfl rfl)
theorem dX6_last_96 : decode cX6_last 96 = .ok (.goto 4, 3) := dk_167 0 4 (dk_at dksX6_last_4 4 rfl rfl)
theorem dX6_last_99 : decode cX6_last 99 = .ok (.iconst 0, 1) := dk_3 (dk_at dksX6_last_4 7 rfl rfl)
theorem dX6_last_100 : decode cX6_last 100 = .ok (.istore 7, 2) := dk_54 7 (dk_at dksX6_last_4 8 rfl rfl)
theorem dX6_last_102 : decode cX6_last 102 = .ok (.iload 7, 2) := dk_21 7 (dk_at dksX6_last_4 10 rfl rfl)
theorem dX6_last_104 : decode cX6_last 104 = .ok (.ifCond .eq 11, 3) := dk_153 0 11 (dk_at dksX6_last_4 12 rfl rfl)
theorem dX6_last_107 : decode cX6_last 107 = .ok (.iload 6, 2) := dk_21 6 (dk_at dksX6_last_4 15 rfl rfl)
theorem dX6_last_109 : decode cX6_last 109 = .ok (.invokestatic 340, 3) := dk_184 1 84 (dk_at dksX6_last_4 17 rfl rfl)
theorem dX6_last_112 : decode cX6_last 112 = .ok (.goto 4, 3) := dk_167 0 4 (dk_at dksX6_last_4 20 rfl rfl)
theorem dX6_last_115 : decode cX6_last 115 = .ok (.iload_n 2, 1) := dk_28 (dk_at dksX6_last_4 23 rfl rfl)
theorem dX6_last_116 : decode cX6_last 116 = .ok (.istore_n 2, 1) := dk_61 (dk_at dksX6_last_5 0 rfl rfl)
theorem dX6_last_117 : decode cX6_last 117 = .ok (.iload 7, 2) := dk_21 7 (dk_at dksX6_last_5 1 rfl rfl)
theorem dX6_last_119 : decode cX6_last 119 = .ok (.ifCond .eq 11, 3) := dk_153 0 11 (dk_at dksX6_last_5 3 rfl rfl)
theorem dX6_last_122 : decode cX6_last 122 = .ok (.iload 6, 2) := dk_21 6 (dk_at dksX6_last_5 6 rfl rfl)
theorem dX6_last_124 : decode cX6_last 124 = .ok (.invokestatic 309, 3) := dk_184 1 53 (dk_at dksX6_last_5 8 rfl rfl)
theorem dX6_last_127 : decode cX6_last 127 = .ok (.goto 4, 3) := dk_167 0 4 (dk_at dksX6_last_5 11 rfl rfl)
theorem dX6_last_130 : decode cX6_last 130 = .ok (.iload_n 3, 1) := dk_29 (dk_at dksX6_last_5 14 rfl rfl)
theorem dX6_last_131 : decode cX6_last 131 = .ok (.istore_n 3, 1) := dk_62 (dk_at dksX6_last_5 15 rfl rfl)
theorem dX6_last_132 : decode cX6_last 132 = .ok (.iinc 5 (-1), 3) := dk_132 5 255 (dk_at dksX6_last_5 16 rfl rfl)
theorem dX6_last_135 : decode cX6_last 135 = .ok (.goto (-92), 3) := dk_167 255 164 (dk_at dksX6_last_5 19 rfl rfl)
theorem dX6_last_138 : decode cX6_last 138 = .ok (.iinc 4 1, 3) := dk_132 4 1 (dk_at dksX6_last_6 0 rfl rfl)
theorem dX6_last_141 : decode cX6_last 141 = .ok (.goto (-129), 3) := dk_167 255 127 (dk_at dksX6_last_6 3 rfl rfl)
theorem dX6_last_144 : decode cX6_last 144 = .ok (.iload_n 2, 1) := dk_28 (dk_at dksX6_last_6 6 rfl rfl)
theorem dX6_last_145 : decode cX6_last 145 = .ok (.ireturn, 1) := dk_172 (dk_at dksX6_last_6 7 rfl rfl)
abbrev cX6_worst : ByteArray := prog_24_method_90_code
def yX6_worst : MethodName := ⟨RX6, "worst", "()I"⟩
def dkwX6_worst_2 : List UInt8 := [21, 4, 167, 0, 4, 28, 61, 132, 3, 1, 167, 255, 210, 27, 172]
abbrev dktX6_worst_2 : List UInt8 := dkwX6_worst_2 ++ []
def dkwX6_worst_1 : List UInt8 := [182, 1, 115, 54, 4, 21, 4, 28, 164, 0, 7, 29, 167, 0, 4, 27, 60, 21, 4, 28, 164, 0, 8]
abbrev dktX6_worst_1 : List UInt8 := dkwX6_worst_1 ++ dktX6_worst_2
def dkwX6_worst_0 : List UInt8 := [42, 3, 181, 0, 1, 2, 60, 3, 61, 3, 62, 29, 42, 182, 1, 9, 162, 0, 44, 42, 3, 29, 16, 6]
abbrev dktX6_worst_0 : List UInt8 := dkwX6_worst_0 ++ dktX6_worst_1
theorem dksX6_worst_0 : cX6_worst.data.toList.drop 0 = dktX6_worst_0 := by decide +kernel
theorem dksX6_worst_1 : cX6_worst.data.toList.drop 24 = dktX6_worst_1 := dk_seg dksX6_worst_0 24 rfl rfl
theorem dksX6_worst_2 : cX6_worst.data.toList.drop 47 = dktX6_worst_2 := dk_seg dksX6_worst_1 23 rfl rfl
theorem dX6_worst_0 : decode cX6_worst 0 = .ok (.aload_n 0, 1) := dk_42 (dk_at dksX6_worst_0 0 rfl rfl)
theorem dX6_worst_1 : decode cX6_worst 1 = .ok (.iconst 0, 1) := dk_3 (dk_at dksX6_worst_0 1 rfl rfl)
theorem dX6_worst_2 : decode cX6_worst 2 = .ok (.putfield 1, 3) := dk_181 0 1 (dk_at dksX6_worst_0 2 rfl rfl)
theorem dX6_worst_5 : decode cX6_worst 5 = .ok (.iconst (-1), 1) := dk_2 (dk_at dksX6_worst_0 5 rfl rfl)
theorem dX6_worst_6 : decode cX6_worst 6 = .ok (.istore_n 1, 1) := dk_60 (dk_at dksX6_worst_0 6 rfl rfl)
theorem dX6_worst_7 : decode cX6_worst 7 = .ok (.iconst 0, 1) := dk_3 (dk_at dksX6_worst_0 7 rfl rfl)
theorem dX6_worst_8 : decode cX6_worst 8 = .ok (.istore_n 2, 1) := dk_61 (dk_at dksX6_worst_0 8 rfl rfl)
theorem dX6_worst_9 : decode cX6_worst 9 = .ok (.iconst 0, 1) := dk_3 (dk_at dksX6_worst_0 9 rfl rfl)
theorem dX6_worst_10 : decode cX6_worst 10 = .ok (.istore_n 3, 1) := dk_62 (dk_at dksX6_worst_0 10 rfl rfl)
theorem dX6_worst_11 : decode cX6_worst 11 = .ok (.iload_n 3, 1) := dk_29 (dk_at dksX6_worst_0 11 rfl rfl)
theorem dX6_worst_12 : decode cX6_worst 12 = .ok (.aload_n 0, 1) := dk_42 (dk_at dksX6_worst_0 12 rfl rfl)
theorem dX6_worst_13 : decode cX6_worst 13 = .ok (.invokevirtual 265, 3) := dk_182 1 9 (dk_at dksX6_worst_0 13 rfl rfl)
theorem dX6_worst_16 : decode cX6_worst 16 = .ok (.if_icmp .ge 44, 3) := dk_162 0 44 (dk_at dksX6_worst_0 16 rfl rfl)
theorem dX6_worst_19 : decode cX6_worst 19 = .ok (.aload_n 0, 1) := dk_42 (dk_at dksX6_worst_0 19 rfl rfl)
theorem dX6_worst_20 : decode cX6_worst 20 = .ok (.iconst 0, 1) := dk_3 (dk_at dksX6_worst_0 20 rfl rfl)
theorem dX6_worst_21 : decode cX6_worst 21 = .ok (.iload_n 3, 1) := dk_29 (dk_at dksX6_worst_0 21 rfl rfl)
theorem dX6_worst_22 : decode cX6_worst 22 = .ok (.bipush 6, 2) := dk_16 6 (dk_at dksX6_worst_0 22 rfl rfl)
theorem dX6_worst_24 : decode cX6_worst 24 = .ok (.invokevirtual 371, 3) := dk_182 1 115 (dk_at dksX6_worst_1 0 rfl rfl)
theorem dX6_worst_27 : decode cX6_worst 27 = .ok (.istore 4, 2) := dk_54 4 (dk_at dksX6_worst_1 3 rfl rfl)
theorem dX6_worst_29 : decode cX6_worst 29 = .ok (.iload 4, 2) := dk_21 4 (dk_at dksX6_worst_1 5 rfl rfl)
theorem dX6_worst_31 : decode cX6_worst 31 = .ok (.iload_n 2, 1) := dk_28 (dk_at dksX6_worst_1 7 rfl rfl)
theorem dX6_worst_32 : decode cX6_worst 32 = .ok (.if_icmp .le 7, 3) := dk_164 0 7 (dk_at dksX6_worst_1 8 rfl rfl)
theorem dX6_worst_35 : decode cX6_worst 35 = .ok (.iload_n 3, 1) := dk_29 (dk_at dksX6_worst_1 11 rfl rfl)
theorem dX6_worst_36 : decode cX6_worst 36 = .ok (.goto 4, 3) := dk_167 0 4 (dk_at dksX6_worst_1 12 rfl rfl)
theorem dX6_worst_39 : decode cX6_worst 39 = .ok (.iload_n 1, 1) := dk_27 (dk_at dksX6_worst_1 15 rfl rfl)
theorem dX6_worst_40 : decode cX6_worst 40 = .ok (.istore_n 1, 1) := dk_60 (dk_at dksX6_worst_1 16 rfl rfl)
theorem dX6_worst_41 : decode cX6_worst 41 = .ok (.iload 4, 2) := dk_21 4 (dk_at dksX6_worst_1 17 rfl rfl)
theorem dX6_worst_43 : decode cX6_worst 43 = .ok (.iload_n 2, 1) := dk_28 (dk_at dksX6_worst_1 19 rfl rfl)
theorem dX6_worst_44 : decode cX6_worst 44 = .ok (.if_icmp .le 8, 3) := dk_164 0 8 (dk_at dksX6_worst_1 20 rfl rfl)
theorem dX6_worst_47 : decode cX6_worst 47 = .ok (.iload 4, 2) := dk_21 4 (dk_at dksX6_worst_2 0 rfl rfl)
theorem dX6_worst_49 : decode cX6_worst 49 = .ok (.goto 4, 3) := dk_167 0 4 (dk_at dksX6_worst_2 2 rfl rfl)
theorem dX6_worst_52 : decode cX6_worst 52 = .ok (.iload_n 2, 1) := dk_28 (dk_at dksX6_worst_2 5 rfl rfl)
theorem dX6_worst_53 : decode cX6_worst 53 = .ok (.istore_n 2, 1) := dk_61 (dk_at dksX6_worst_2 6 rfl rfl)
theorem dX6_worst_54 : decode cX6_worst 54 = .ok (.iinc 3 1, 3) := dk_132 3 1 (dk_at dksX6_worst_2 7 rfl rfl)
theorem dX6_worst_57 : decode cX6_worst 57 = .ok (.goto (-46), 3) := dk_167 255 210 (dk_at dksX6_worst_2 10 rfl rfl)
theorem dX6_worst_60 : decode cX6_worst 60 = .ok (.iload_n 1, 1) := dk_27 (dk_at dksX6_worst_2 13 rfl rfl)
theorem dX6_worst_61 : decode cX6_worst 61 = .ok (.ireturn, 1) := dk_172 (dk_at dksX6_worst_2 14 rfl rfl)
abbrev cX6_oldest : ByteArray := prog_24_method_91_code
def yX6_oldest : MethodName := ⟨RX6, "oldest", "()I"⟩
def dkwX6_oldest_3 : List UInt8 := [167, 0, 4, 28, 61, 132, 4, 1, 167, 255, 201, 132, 3, 1, 167, 255, 184, 27, 172]
abbrev dktX6_oldest_3 : List UInt8 := dkwX6_oldest_3 ++ []
def dkwX6_oldest_2 : List UInt8 := [54, 5, 21, 5, 28, 164, 0, 7, 29, 167, 0, 4, 27, 60, 21, 5, 28, 164, 0, 8, 21, 5]
abbrev dktX6_oldest_2 : List UInt8 := dkwX6_oldest_2 ++ dktX6_oldest_3
def dkwX6_oldest_1 : List UInt8 := [42, 180, 0, 119, 16, 18, 29, 96, 46, 162, 0, 47, 42, 3, 29, 21, 4, 182, 1, 44, 184, 1, 53]
abbrev dktX6_oldest_1 : List UInt8 := dkwX6_oldest_1 ++ dktX6_oldest_2
def dkwX6_oldest_0 : List UInt8 := [42, 3, 181, 0, 1, 2, 60, 2, 61, 3, 62, 29, 42, 182, 1, 22, 162, 0, 70, 3, 54, 4, 21, 4]
abbrev dktX6_oldest_0 : List UInt8 := dkwX6_oldest_0 ++ dktX6_oldest_1
theorem dksX6_oldest_0 : cX6_oldest.data.toList.drop 0 = dktX6_oldest_0 := by decide +kernel
theorem dksX6_oldest_1 : cX6_oldest.data.toList.drop 24 = dktX6_oldest_1 := dk_seg dksX6_oldest_0 24 rfl rfl
theorem dksX6_oldest_2 : cX6_oldest.data.toList.drop 47 = dktX6_oldest_2 := dk_seg dksX6_oldest_1 23 rfl rfl
theorem dksX6_oldest_3 : cX6_oldest.data.toList.drop 69 = dktX6_oldest_3 := dk_seg dksX6_oldest_2 22 rfl rfl
theorem dX6_oldest_0 : decode cX6_oldest 0 = .ok (.aload_n 0, 1) := dk_42 (dk_at dksX6_oldest_0 0 rfl rfl)
theorem dX6_oldest_1 : decode cX6_oldest 1 = .ok (.iconst 0, 1) := dk_3 (dk_at dksX6_oldest_0 1 rfl rfl)
theorem dX6_oldest_2 : decode cX6_oldest 2 = .ok (.putfield 1, 3) := dk_181 0 1 (dk_at dksX6_oldest_0 2 rfl rfl)
theorem dX6_oldest_5 : decode cX6_oldest 5 = .ok (.iconst (-1), 1) := dk_2 (dk_at dksX6_oldest_0 5 rfl rfl)
theorem dX6_oldest_6 : decode cX6_oldest 6 = .ok (.istore_n 1, 1) := dk_60 (dk_at dksX6_oldest_0 6 rfl rfl)
theorem dX6_oldest_7 : decode cX6_oldest 7 = .ok (.iconst (-1), 1) := dk_2 (dk_at dksX6_oldest_0 7 rfl rfl)
theorem dX6_oldest_8 : decode cX6_oldest 8 = .ok (.istore_n 2, 1) := dk_61 (dk_at dksX6_oldest_0 8 rfl rfl)
theorem dX6_oldest_9 : decode cX6_oldest 9 = .ok (.iconst 0, 1) := dk_3 (dk_at dksX6_oldest_0 9 rfl rfl)
theorem dX6_oldest_10 : decode cX6_oldest 10 = .ok (.istore_n 3, 1) := dk_62 (dk_at dksX6_oldest_0 10 rfl rfl)
theorem dX6_oldest_11 : decode cX6_oldest 11 = .ok (.iload_n 3, 1) := dk_29 (dk_at dksX6_oldest_0 11 rfl rfl)
theorem dX6_oldest_12 : decode cX6_oldest 12 = .ok (.aload_n 0, 1) := dk_42 (dk_at dksX6_oldest_0 12 rfl rfl)
theorem dX6_oldest_13 : decode cX6_oldest 13 = .ok (.invokevirtual 278, 3) := dk_182 1 22 (dk_at dksX6_oldest_0 13 rfl rfl)
theorem dX6_oldest_16 : decode cX6_oldest 16 = .ok (.if_icmp .ge 70, 3) := dk_162 0 70 (dk_at dksX6_oldest_0 16 rfl rfl)
theorem dX6_oldest_19 : decode cX6_oldest 19 = .ok (.iconst 0, 1) := dk_3 (dk_at dksX6_oldest_0 19 rfl rfl)
theorem dX6_oldest_20 : decode cX6_oldest 20 = .ok (.istore 4, 2) := dk_54 4 (dk_at dksX6_oldest_0 20 rfl rfl)
theorem dX6_oldest_22 : decode cX6_oldest 22 = .ok (.iload 4, 2) := dk_21 4 (dk_at dksX6_oldest_0 22 rfl rfl)
theorem dX6_oldest_24 : decode cX6_oldest 24 = .ok (.aload_n 0, 1) := dk_42 (dk_at dksX6_oldest_1 0 rfl rfl)
theorem dX6_oldest_25 : decode cX6_oldest 25 = .ok (.getfield 119, 3) := dk_180 0 119 (dk_at dksX6_oldest_1 1 rfl rfl)
theorem dX6_oldest_28 : decode cX6_oldest 28 = .ok (.bipush 18, 2) := dk_16 18 (dk_at dksX6_oldest_1 4 rfl rfl)
theorem dX6_oldest_30 : decode cX6_oldest 30 = .ok (.iload_n 3, 1) := dk_29 (dk_at dksX6_oldest_1 6 rfl rfl)
theorem dX6_oldest_31 : decode cX6_oldest 31 = .ok (.iadd, 1) := dk_96 (dk_at dksX6_oldest_1 7 rfl rfl)
theorem dX6_oldest_32 : decode cX6_oldest 32 = .ok (.iaload, 1) := dk_46 (dk_at dksX6_oldest_1 8 rfl rfl)
theorem dX6_oldest_33 : decode cX6_oldest 33 = .ok (.if_icmp .ge 47, 3) := dk_162 0 47 (dk_at dksX6_oldest_1 9 rfl rfl)
theorem dX6_oldest_36 : decode cX6_oldest 36 = .ok (.aload_n 0, 1) := dk_42 (dk_at dksX6_oldest_1 12 rfl rfl)
theorem dX6_oldest_37 : decode cX6_oldest 37 = .ok (.iconst 0, 1) := dk_3 (dk_at dksX6_oldest_1 13 rfl rfl)
theorem dX6_oldest_38 : decode cX6_oldest 38 = .ok (.iload_n 3, 1) := dk_29 (dk_at dksX6_oldest_1 14 rfl rfl)
theorem dX6_oldest_39 : decode cX6_oldest 39 = .ok (.iload 4, 2) := dk_21 4 (dk_at dksX6_oldest_1 15 rfl rfl)
theorem dX6_oldest_41 : decode cX6_oldest 41 = .ok (.invokevirtual 300, 3) := dk_182 1 44 (dk_at dksX6_oldest_1 17 rfl rfl)
theorem dX6_oldest_44 : decode cX6_oldest 44 = .ok (.invokestatic 309, 3) := dk_184 1 53 (dk_at dksX6_oldest_1 20 rfl rfl)
theorem dX6_oldest_47 : decode cX6_oldest 47 = .ok (.istore 5, 2) := dk_54 5 (dk_at dksX6_oldest_2 0 rfl rfl)
theorem dX6_oldest_49 : decode cX6_oldest 49 = .ok (.iload 5, 2) := dk_21 5 (dk_at dksX6_oldest_2 2 rfl rfl)
theorem dX6_oldest_51 : decode cX6_oldest 51 = .ok (.iload_n 2, 1) := dk_28 (dk_at dksX6_oldest_2 4 rfl rfl)
theorem dX6_oldest_52 : decode cX6_oldest 52 = .ok (.if_icmp .le 7, 3) := dk_164 0 7 (dk_at dksX6_oldest_2 5 rfl rfl)
theorem dX6_oldest_55 : decode cX6_oldest 55 = .ok (.iload_n 3, 1) := dk_29 (dk_at dksX6_oldest_2 8 rfl rfl)
theorem dX6_oldest_56 : decode cX6_oldest 56 = .ok (.goto 4, 3) := dk_167 0 4 (dk_at dksX6_oldest_2 9 rfl rfl)
theorem dX6_oldest_59 : decode cX6_oldest 59 = .ok (.iload_n 1, 1) := dk_27 (dk_at dksX6_oldest_2 12 rfl rfl)
theorem dX6_oldest_60 : decode cX6_oldest 60 = .ok (.istore_n 1, 1) := dk_60 (dk_at dksX6_oldest_2 13 rfl rfl)
theorem dX6_oldest_61 : decode cX6_oldest 61 = .ok (.iload 5, 2) := dk_21 5 (dk_at dksX6_oldest_2 14 rfl rfl)
theorem dX6_oldest_63 : decode cX6_oldest 63 = .ok (.iload_n 2, 1) := dk_28 (dk_at dksX6_oldest_2 16 rfl rfl)
theorem dX6_oldest_64 : decode cX6_oldest 64 = .ok (.if_icmp .le 8, 3) := dk_164 0 8 (dk_at dksX6_oldest_2 17 rfl rfl)
theorem dX6_oldest_67 : decode cX6_oldest 67 = .ok (.iload 5, 2) := dk_21 5 (dk_at dksX6_oldest_2 20 rfl rfl)
theorem dX6_oldest_69 : decode cX6_oldest 69 = .ok (.goto 4, 3) := dk_167 0 4 (dk_at dksX6_oldest_3 0 rfl rfl)
theorem dX6_oldest_72 : decode cX6_oldest 72 = .ok (.iload_n 2, 1) := dk_28 (dk_at dksX6_oldest_3 3 rfl rfl)
theorem dX6_oldest_73 : decode cX6_oldest 73 = .ok (.istore_n 2, 1) := dk_61 (dk_at dksX6_oldest_3 4 rfl rfl)
theorem dX6_oldest_74 : decode cX6_oldest 74 = .ok (.iinc 4 1, 3) := dk_132 4 1 (dk_at dksX6_oldest_3 5 rfl rfl)
theorem dX6_oldest_77 : decode cX6_oldest 77 = .ok (.goto (-55), 3) := dk_167 255 201 (dk_at dksX6_oldest_3 8 rfl rfl)
theorem dX6_oldest_80 : decode cX6_oldest 80 = .ok (.iinc 3 1, 3) := dk_132 3 1 (dk_at dksX6_oldest_3 11 rfl rfl)
theorem dX6_oldest_83 : decode cX6_oldest 83 = .ok (.goto (-72), 3) := dk_167 255 184 (dk_at dksX6_oldest_3 14 rfl rfl)
theorem dX6_oldest_86 : decode cX6_oldest 86 = .ok (.iload_n 1, 1) := dk_27 (dk_at dksX6_oldest_3 17 rfl rfl)
theorem dX6_oldest_87 : decode cX6_oldest 87 = .ok (.ireturn, 1) := dk_172 (dk_at dksX6_oldest_3 18 rfl rfl)
abbrev cX6_young : ByteArray := prog_24_method_92_code
def yX6_young : MethodName := ⟨RX6, "young", "(I)I"⟩
def dkwX6_young_2 : List UInt8 := [163, 0, 7, 4, 167, 0, 4, 3, 96, 61, 132, 4, 1, 167, 255, 216, 132, 3, 1, 167, 255, 199, 28, 172]
abbrev dktX6_young_2 : List UInt8 := dkwX6_young_2 ++ []
def dkwX6_young_1 : List UInt8 := [180, 0, 119, 16, 18, 29, 96, 46, 162, 0, 32, 28, 42, 3, 29, 21, 4, 182, 1, 44, 184, 1, 53, 27]
abbrev dktX6_young_1 : List UInt8 := dkwX6_young_1 ++ dktX6_young_2
def dkwX6_young_0 : List UInt8 := [42, 3, 181, 0, 1, 3, 61, 3, 62, 29, 42, 182, 1, 22, 162, 0, 55, 3, 54, 4, 21, 4, 42]
abbrev dktX6_young_0 : List UInt8 := dkwX6_young_0 ++ dktX6_young_1
theorem dksX6_young_0 : cX6_young.data.toList.drop 0 = dktX6_young_0 := by decide +kernel
theorem dksX6_young_1 : cX6_young.data.toList.drop 23 = dktX6_young_1 := dk_seg dksX6_young_0 23 rfl rfl
theorem dksX6_young_2 : cX6_young.data.toList.drop 47 = dktX6_young_2 := dk_seg dksX6_young_1 24 rfl rfl
theorem dX6_young_0 : decode cX6_young 0 = .ok (.aload_n 0, 1) := dk_42 (dk_at dksX6_young_0 0 rfl rfl)
theorem dX6_young_1 : decode cX6_young 1 = .ok (.iconst 0, 1) := dk_3 (dk_at dksX6_young_0 1 rfl rfl)
theorem dX6_young_2 : decode cX6_young 2 = .ok (.putfield 1, 3) := dk_181 0 1 (dk_at dksX6_young_0 2 rfl rfl)
theorem dX6_young_5 : decode cX6_young 5 = .ok (.iconst 0, 1) := dk_3 (dk_at dksX6_young_0 5 rfl rfl)
theorem dX6_young_6 : decode cX6_young 6 = .ok (.istore_n 2, 1) := dk_61 (dk_at dksX6_young_0 6 rfl rfl)
theorem dX6_young_7 : decode cX6_young 7 = .ok (.iconst 0, 1) := dk_3 (dk_at dksX6_young_0 7 rfl rfl)
theorem dX6_young_8 : decode cX6_young 8 = .ok (.istore_n 3, 1) := dk_62 (dk_at dksX6_young_0 8 rfl rfl)
theorem dX6_young_9 : decode cX6_young 9 = .ok (.iload_n 3, 1) := dk_29 (dk_at dksX6_young_0 9 rfl rfl)
theorem dX6_young_10 : decode cX6_young 10 = .ok (.aload_n 0, 1) := dk_42 (dk_at dksX6_young_0 10 rfl rfl)
theorem dX6_young_11 : decode cX6_young 11 = .ok (.invokevirtual 278, 3) := dk_182 1 22 (dk_at dksX6_young_0 11 rfl rfl)
theorem dX6_young_14 : decode cX6_young 14 = .ok (.if_icmp .ge 55, 3) := dk_162 0 55 (dk_at dksX6_young_0 14 rfl rfl)
theorem dX6_young_17 : decode cX6_young 17 = .ok (.iconst 0, 1) := dk_3 (dk_at dksX6_young_0 17 rfl rfl)
theorem dX6_young_18 : decode cX6_young 18 = .ok (.istore 4, 2) := dk_54 4 (dk_at dksX6_young_0 18 rfl rfl)
theorem dX6_young_20 : decode cX6_young 20 = .ok (.iload 4, 2) := dk_21 4 (dk_at dksX6_young_0 20 rfl rfl)
theorem dX6_young_22 : decode cX6_young 22 = .ok (.aload_n 0, 1) := dk_42 (dk_at dksX6_young_0 22 rfl rfl)
theorem dX6_young_23 : decode cX6_young 23 = .ok (.getfield 119, 3) := dk_180 0 119 (dk_at dksX6_young_1 0 rfl rfl)
theorem dX6_young_26 : decode cX6_young 26 = .ok (.bipush 18, 2) := dk_16 18 (dk_at dksX6_young_1 3 rfl rfl)
theorem dX6_young_28 : decode cX6_young 28 = .ok (.iload_n 3, 1) := dk_29 (dk_at dksX6_young_1 5 rfl rfl)
theorem dX6_young_29 : decode cX6_young 29 = .ok (.iadd, 1) := dk_96 (dk_at dksX6_young_1 6 rfl rfl)
theorem dX6_young_30 : decode cX6_young 30 = .ok (.iaload, 1) := dk_46 (dk_at dksX6_young_1 7 rfl rfl)
theorem dX6_young_31 : decode cX6_young 31 = .ok (.if_icmp .ge 32, 3) := dk_162 0 32 (dk_at dksX6_young_1 8 rfl rfl)
theorem dX6_young_34 : decode cX6_young 34 = .ok (.iload_n 2, 1) := dk_28 (dk_at dksX6_young_1 11 rfl rfl)
theorem dX6_young_35 : decode cX6_young 35 = .ok (.aload_n 0, 1) := dk_42 (dk_at dksX6_young_1 12 rfl rfl)
theorem dX6_young_36 : decode cX6_young 36 = .ok (.iconst 0, 1) := dk_3 (dk_at dksX6_young_1 13 rfl rfl)
theorem dX6_young_37 : decode cX6_young 37 = .ok (.iload_n 3, 1) := dk_29 (dk_at dksX6_young_1 14 rfl rfl)
theorem dX6_young_38 : decode cX6_young 38 = .ok (.iload 4, 2) := dk_21 4 (dk_at dksX6_young_1 15 rfl rfl)
theorem dX6_young_40 : decode cX6_young 40 = .ok (.invokevirtual 300, 3) := dk_182 1 44 (dk_at dksX6_young_1 17 rfl rfl)
theorem dX6_young_43 : decode cX6_young 43 = .ok (.invokestatic 309, 3) := dk_184 1 53 (dk_at dksX6_young_1 20 rfl rfl)
theorem dX6_young_46 : decode cX6_young 46 = .ok (.iload_n 1, 1) := dk_27 (dk_at dksX6_young_1 23 rfl rfl)
theorem dX6_young_47 : decode cX6_young 47 = .ok (.if_icmp .gt 7, 3) := dk_163 0 7 (dk_at dksX6_young_2 0 rfl rfl)
theorem dX6_young_50 : decode cX6_young 50 = .ok (.iconst 1, 1) := dk_4 (dk_at dksX6_young_2 3 rfl rfl)
theorem dX6_young_51 : decode cX6_young 51 = .ok (.goto 4, 3) := dk_167 0 4 (dk_at dksX6_young_2 4 rfl rfl)
theorem dX6_young_54 : decode cX6_young 54 = .ok (.iconst 0, 1) := dk_3 (dk_at dksX6_young_2 7 rfl rfl)
theorem dX6_young_55 : decode cX6_young 55 = .ok (.iadd, 1) := dk_96 (dk_at dksX6_young_2 8 rfl rfl)
theorem dX6_young_56 : decode cX6_young 56 = .ok (.istore_n 2, 1) := dk_61 (dk_at dksX6_young_2 9 rfl rfl)
theorem dX6_young_57 : decode cX6_young 57 = .ok (.iinc 4 1, 3) := dk_132 4 1 (dk_at dksX6_young_2 10 rfl rfl)
theorem dX6_young_60 : decode cX6_young 60 = .ok (.goto (-40), 3) := dk_167 255 216 (dk_at dksX6_young_2 13 rfl rfl)
theorem dX6_young_63 : decode cX6_young 63 = .ok (.iinc 3 1, 3) := dk_132 3 1 (dk_at dksX6_young_2 16 rfl rfl)
theorem dX6_young_66 : decode cX6_young 66 = .ok (.goto (-57), 3) := dk_167 255 199 (dk_at dksX6_young_2 19 rfl rfl)
theorem dX6_young_69 : decode cX6_young 69 = .ok (.iload_n 2, 1) := dk_28 (dk_at dksX6_young_2 22 rfl rfl)
theorem dX6_young_70 : decode cX6_young 70 = .ok (.ireturn, 1) := dk_172 (dk_at dksX6_young_2 23 rfl rfl)
abbrev cX6_cloak : ByteArray := prog_24_method_93_code
def yX6_cloak : MethodName := ⟨RX6, "cloak", "(II)I"⟩
def dkwX6_cloak_8 : List UInt8 := [62, 132, 4, 1, 167, 255, 94, 29, 172]
abbrev dktX6_cloak_8 : List UInt8 := dkwX6_cloak_8 ++ []
def dkwX6_cloak_7 : List UInt8 := [167, 255, 162, 21, 5, 153, 0, 18, 42, 21, 6, 182, 1, 78, 28, 163, 0, 8, 21, 4, 167, 0, 4, 29]
abbrev dktX6_cloak_7 : List UInt8 := dkwX6_cloak_7 ++ dktX6_cloak_8
def dkwX6_cloak_6 : List UInt8 := [153, 0, 7, 3, 167, 0, 13, 42, 3, 21, 7, 27, 16, 6, 182, 1, 74, 128, 54, 6, 132, 7, 1]
abbrev dktX6_cloak_6 : List UInt8 := dkwX6_cloak_6 ++ dktX6_cloak_7
def dkwX6_cloak_5 : List UInt8 := [180, 0, 119, 16, 6, 21, 7, 96, 46, 154, 0, 7, 4, 167, 0, 4, 3, 54, 5, 21, 6, 21, 8]
abbrev dktX6_cloak_5 : List UInt8 := dkwX6_cloak_5 ++ dktX6_cloak_6
def dkwX6_cloak_4 : List UInt8 := [3, 54, 8, 21, 5, 153, 0, 35, 21, 8, 153, 0, 26, 42, 3, 21, 7, 182, 1, 31, 153, 0, 20, 42]
abbrev dktX6_cloak_4 : List UInt8 := dkwX6_cloak_4 ++ dktX6_cloak_5
def dkwX6_cloak_3 : List UInt8 := [21, 7, 42, 182, 1, 22, 162, 0, 91, 21, 4, 21, 7, 122, 4, 126, 4, 160, 0, 7, 4, 167, 0, 4]
abbrev dktX6_cloak_3 : List UInt8 := dkwX6_cloak_3 ++ dktX6_cloak_4
def dkwX6_cloak_2 : List UInt8 := [184, 1, 118, 29, 184, 1, 118, 162, 0, 7, 4, 167, 0, 4, 3, 54, 5, 3, 54, 6, 3, 54, 7]
abbrev dktX6_cloak_2 : List UInt8 := dkwX6_cloak_2 ++ dktX6_cloak_3
def dkwX6_cloak_1 : List UInt8 := [2, 172, 2, 62, 3, 54, 4, 21, 4, 4, 42, 182, 1, 22, 120, 162, 0, 157, 29, 155, 0, 15, 21, 4]
abbrev dktX6_cloak_1 : List UInt8 := dkwX6_cloak_1 ++ dktX6_cloak_2
def dkwX6_cloak_0 : List UInt8 := [42, 3, 181, 0, 1, 42, 27, 182, 1, 87, 153, 0, 14, 28, 3, 17, 1, 239, 184, 0, 198, 154, 0, 5]
abbrev dktX6_cloak_0 : List UInt8 := dkwX6_cloak_0 ++ dktX6_cloak_1
theorem dksX6_cloak_0 : cX6_cloak.data.toList.drop 0 = dktX6_cloak_0 := by decide +kernel
theorem dksX6_cloak_1 : cX6_cloak.data.toList.drop 24 = dktX6_cloak_1 := dk_seg dksX6_cloak_0 24 rfl rfl
theorem dksX6_cloak_2 : cX6_cloak.data.toList.drop 48 = dktX6_cloak_2 := dk_seg dksX6_cloak_1 24 rfl rfl
theorem dksX6_cloak_3 : cX6_cloak.data.toList.drop 71 = dktX6_cloak_3 := dk_seg dksX6_cloak_2 23 rfl rfl
theorem dksX6_cloak_4 : cX6_cloak.data.toList.drop 95 = dktX6_cloak_4 := dk_seg dksX6_cloak_3 24 rfl rfl
theorem dksX6_cloak_5 : cX6_cloak.data.toList.drop 119 = dktX6_cloak_5 := dk_seg dksX6_cloak_4 24 rfl rfl
theorem dksX6_cloak_6 : cX6_cloak.data.toList.drop 142 = dktX6_cloak_6 := dk_seg dksX6_cloak_5 23 rfl rfl
theorem dksX6_cloak_7 : cX6_cloak.data.toList.drop 165 = dktX6_cloak_7 := dk_seg dksX6_cloak_6 23 rfl rfl
theorem dksX6_cloak_8 : cX6_cloak.data.toList.drop 189 = dktX6_cloak_8 := dk_seg dksX6_cloak_7 24 rfl rfl
theorem dX6_cloak_0 : decode cX6_cloak 0 = .ok (.aload_n 0, 1) := dk_42 (dk_at dksX6_cloak_0 0 rfl rfl)
theorem dX6_cloak_1 : decode cX6_cloak 1 = .ok (.iconst 0, 1) := dk_3 (dk_at dksX6_cloak_0 1 rfl rfl)
theorem dX6_cloak_2 : decode cX6_cloak 2 = .ok (.putfield 1, 3) := dk_181 0 1 (dk_at dksX6_cloak_0 2 rfl rfl)
theorem dX6_cloak_5 : decode cX6_cloak 5 = .ok (.aload_n 0, 1) := dk_42 (dk_at dksX6_cloak_0 5 rfl rfl)
theorem dX6_cloak_6 : decode cX6_cloak 6 = .ok (.iload_n 1, 1) := dk_27 (dk_at dksX6_cloak_0 6 rfl rfl)
theorem dX6_cloak_7 : decode cX6_cloak 7 = .ok (.invokevirtual 343, 3) := dk_182 1 87 (dk_at dksX6_cloak_0 7 rfl rfl)
theorem dX6_cloak_10 : decode cX6_cloak 10 = .ok (.ifCond .eq 14, 3) := dk_153 0 14 (dk_at dksX6_cloak_0 10 rfl rfl)
theorem dX6_cloak_13 : decode cX6_cloak 13 = .ok (.iload_n 2, 1) := dk_28 (dk_at dksX6_cloak_0 13 rfl rfl)
theorem dX6_cloak_14 : decode cX6_cloak 14 = .ok (.iconst 0, 1) := dk_3 (dk_at dksX6_cloak_0 14 rfl rfl)
theorem dX6_cloak_15 : decode cX6_cloak 15 = .ok (.sipush 495, 3) := dk_17 1 239 (dk_at dksX6_cloak_0 15 rfl rfl)
theorem dX6_cloak_18 : decode cX6_cloak 18 = .ok (.invokestatic 198, 3) := dk_184 0 198 (dk_at dksX6_cloak_0 18 rfl rfl)
theorem dX6_cloak_21 : decode cX6_cloak 21 = .ok (.ifCond .ne 5, 3) := dk_154 0 5 (dk_at dksX6_cloak_0 21 rfl rfl)
theorem dX6_cloak_24 : decode cX6_cloak 24 = .ok (.iconst (-1), 1) := dk_2 (dk_at dksX6_cloak_1 0 rfl rfl)
theorem dX6_cloak_25 : decode cX6_cloak 25 = .ok (.ireturn, 1) := dk_172 (dk_at dksX6_cloak_1 1 rfl rfl)
theorem dX6_cloak_26 : decode cX6_cloak 26 = .ok (.iconst (-1), 1) := dk_2 (dk_at dksX6_cloak_1 2 rfl rfl)
theorem dX6_cloak_27 : decode cX6_cloak 27 = .ok (.istore_n 3, 1) := dk_62 (dk_at dksX6_cloak_1 3 rfl rfl)
theorem dX6_cloak_28 : decode cX6_cloak 28 = .ok (.iconst 0, 1) := dk_3 (dk_at dksX6_cloak_1 4 rfl rfl)
theorem dX6_cloak_29 : decode cX6_cloak 29 = .ok (.istore 4, 2) := dk_54 4 (dk_at dksX6_cloak_1 5 rfl rfl)
theorem dX6_cloak_31 : decode cX6_cloak 31 = .ok (.iload 4, 2) := dk_21 4 (dk_at dksX6_cloak_1 7 rfl rfl)
theorem dX6_cloak_33 : decode cX6_cloak 33 = .ok (.iconst 1, 1) := dk_4 (dk_at dksX6_cloak_1 9 rfl rfl)
theorem dX6_cloak_34 : decode cX6_cloak 34 = .ok (.aload_n 0, 1) := dk_42 (dk_at dksX6_cloak_1 10 rfl rfl)
theorem dX6_cloak_35 : decode cX6_cloak 35 = .ok (.invokevirtual 278, 3) := dk_182 1 22 (dk_at dksX6_cloak_1 11 rfl rfl)
theorem dX6_cloak_38 : decode cX6_cloak 38 = .ok (.ishl, 1) := dk_120 (dk_at dksX6_cloak_1 14 rfl rfl)
theorem dX6_cloak_39 : decode cX6_cloak 39 = .ok (.if_icmp .ge 157, 3) := dk_162 0 157 (dk_at dksX6_cloak_1 15 rfl rfl)
theorem dX6_cloak_42 : decode cX6_cloak 42 = .ok (.iload_n 3, 1) := dk_29 (dk_at dksX6_cloak_1 18 rfl rfl)
theorem dX6_cloak_43 : decode cX6_cloak 43 = .ok (.ifCond .lt 15, 3) := dk_155 0 15 (dk_at dksX6_cloak_1 19 rfl rfl)
theorem dX6_cloak_46 : decode cX6_cloak 46 = .ok (.iload 4, 2) := dk_21 4 (dk_at dksX6_cloak_1 22 rfl rfl)
theorem dX6_cloak_48 : decode cX6_cloak 48 = .ok (.invokestatic 374, 3) := dk_184 1 118 (dk_at dksX6_cloak_2 0 rfl rfl)
theorem dX6_cloak_51 : decode cX6_cloak 51 = .ok (.iload_n 3, 1) := dk_29 (dk_at dksX6_cloak_2 3 rfl rfl)
theorem dX6_cloak_52 : decode cX6_cloak 52 = .ok (.invokestatic 374, 3) := dk_184 1 118 (dk_at dksX6_cloak_2 4 rfl rfl)
theorem dX6_cloak_55 : decode cX6_cloak 55 = .ok (.if_icmp .ge 7, 3) := dk_162 0 7 (dk_at dksX6_cloak_2 7 rfl rfl)
theorem dX6_cloak_58 : decode cX6_cloak 58 = .ok (.iconst 1, 1) := dk_4 (dk_at dksX6_cloak_2 10 rfl rfl)
theorem dX6_cloak_59 : decode cX6_cloak 59 = .ok (.goto 4, 3) := dk_167 0 4 (dk_at dksX6_cloak_2 11 rfl rfl)
theorem dX6_cloak_62 : decode cX6_cloak 62 = .ok (.iconst 0, 1) := dk_3 (dk_at dksX6_cloak_2 14 rfl rfl)
theorem dX6_cloak_63 : decode cX6_cloak 63 = .ok (.istore 5, 2) := dk_54 5 (dk_at dksX6_cloak_2 15 rfl rfl)
theorem dX6_cloak_65 : decode cX6_cloak 65 = .ok (.iconst 0, 1) := dk_3 (dk_at dksX6_cloak_2 17 rfl rfl)
theorem dX6_cloak_66 : decode cX6_cloak 66 = .ok (.istore 6, 2) := dk_54 6 (dk_at dksX6_cloak_2 18 rfl rfl)
theorem dX6_cloak_68 : decode cX6_cloak 68 = .ok (.iconst 0, 1) := dk_3 (dk_at dksX6_cloak_2 20 rfl rfl)
theorem dX6_cloak_69 : decode cX6_cloak 69 = .ok (.istore 7, 2) := dk_54 7 (dk_at dksX6_cloak_2 21 rfl rfl)
theorem dX6_cloak_71 : decode cX6_cloak 71 = .ok (.iload 7, 2) := dk_21 7 (dk_at dksX6_cloak_3 0 rfl rfl)
theorem dX6_cloak_73 : decode cX6_cloak 73 = .ok (.aload_n 0, 1) := dk_42 (dk_at dksX6_cloak_3 2 rfl rfl)
theorem dX6_cloak_74 : decode cX6_cloak 74 = .ok (.invokevirtual 278, 3) := dk_182 1 22 (dk_at dksX6_cloak_3 3 rfl rfl)
theorem dX6_cloak_77 : decode cX6_cloak 77 = .ok (.if_icmp .ge 91, 3) := dk_162 0 91 (dk_at dksX6_cloak_3 6 rfl rfl)
theorem dX6_cloak_80 : decode cX6_cloak 80 = .ok (.iload 4, 2) := dk_21 4 (dk_at dksX6_cloak_3 9 rfl rfl)
theorem dX6_cloak_82 : decode cX6_cloak 82 = .ok (.iload 7, 2) := dk_21 7 (dk_at dksX6_cloak_3 11 rfl rfl)
theorem dX6_cloak_84 : decode cX6_cloak 84 = .ok (.ishr, 1) := dk_122 (dk_at dksX6_cloak_3 13 rfl rfl)
theorem dX6_cloak_85 : decode cX6_cloak 85 = .ok (.iconst 1, 1) := dk_4 (dk_at dksX6_cloak_3 14 rfl rfl)
theorem dX6_cloak_86 : decode cX6_cloak 86 = .ok (.iand, 1) := dk_126 (dk_at dksX6_cloak_3 15 rfl rfl)
theorem dX6_cloak_87 : decode cX6_cloak 87 = .ok (.iconst 1, 1) := dk_4 (dk_at dksX6_cloak_3 16 rfl rfl)
theorem dX6_cloak_88 : decode cX6_cloak 88 = .ok (.if_icmp .ne 7, 3) := dk_160 0 7 (dk_at dksX6_cloak_3 17 rfl rfl)
theorem dX6_cloak_91 : decode cX6_cloak 91 = .ok (.iconst 1, 1) := dk_4 (dk_at dksX6_cloak_3 20 rfl rfl)
theorem dX6_cloak_92 : decode cX6_cloak 92 = .ok (.goto 4, 3) := dk_167 0 4 (dk_at dksX6_cloak_3 21 rfl rfl)
theorem dX6_cloak_95 : decode cX6_cloak 95 = .ok (.iconst 0, 1) := dk_3 (dk_at dksX6_cloak_4 0 rfl rfl)
theorem dX6_cloak_96 : decode cX6_cloak 96 = .ok (.istore 8, 2) := dk_54 8 (dk_at dksX6_cloak_4 1 rfl rfl)
theorem dX6_cloak_98 : decode cX6_cloak 98 = .ok (.iload 5, 2) := dk_21 5 (dk_at dksX6_cloak_4 3 rfl rfl)
theorem dX6_cloak_100 : decode cX6_cloak 100 = .ok (.ifCond .eq 35, 3) := dk_153 0 35 (dk_at dksX6_cloak_4 5 rfl rfl)
theorem dX6_cloak_103 : decode cX6_cloak 103 = .ok (.iload 8, 2) := dk_21 8 (dk_at dksX6_cloak_4 8 rfl rfl)
theorem dX6_cloak_105 : decode cX6_cloak 105 = .ok (.ifCond .eq 26, 3) := dk_153 0 26 (dk_at dksX6_cloak_4 10 rfl rfl)
theorem dX6_cloak_108 : decode cX6_cloak 108 = .ok (.aload_n 0, 1) := dk_42 (dk_at dksX6_cloak_4 13 rfl rfl)
theorem dX6_cloak_109 : decode cX6_cloak 109 = .ok (.iconst 0, 1) := dk_3 (dk_at dksX6_cloak_4 14 rfl rfl)
theorem dX6_cloak_110 : decode cX6_cloak 110 = .ok (.iload 7, 2) := dk_21 7 (dk_at dksX6_cloak_4 15 rfl rfl)
theorem dX6_cloak_112 : decode cX6_cloak 112 = .ok (.invokevirtual 287, 3) := dk_182 1 31 (dk_at dksX6_cloak_4 17 rfl rfl)
theorem dX6_cloak_115 : decode cX6_cloak 115 = .ok (.ifCond .eq 20, 3) := dk_153 0 20 (dk_at dksX6_cloak_4 20 rfl rfl)
theorem dX6_cloak_118 : decode cX6_cloak 118 = .ok (.aload_n 0, 1) := dk_42 (dk_at dksX6_cloak_4 23 rfl rfl)
theorem dX6_cloak_119 : decode cX6_cloak 119 = .ok (.getfield 119, 3) := dk_180 0 119 (dk_at dksX6_cloak_5 0 rfl rfl)
theorem dX6_cloak_122 : decode cX6_cloak 122 = .ok (.bipush 6, 2) := dk_16 6 (dk_at dksX6_cloak_5 3 rfl rfl)
theorem dX6_cloak_124 : decode cX6_cloak 124 = .ok (.iload 7, 2) := dk_21 7 (dk_at dksX6_cloak_5 5 rfl rfl)
theorem dX6_cloak_126 : decode cX6_cloak 126 = .ok (.iadd, 1) := dk_96 (dk_at dksX6_cloak_5 7 rfl rfl)
theorem dX6_cloak_127 : decode cX6_cloak 127 = .ok (.iaload, 1) := dk_46 (dk_at dksX6_cloak_5 8 rfl rfl)
theorem dX6_cloak_128 : decode cX6_cloak 128 = .ok (.ifCond .ne 7, 3) := dk_154 0 7 (dk_at dksX6_cloak_5 9 rfl rfl)
theorem dX6_cloak_131 : decode cX6_cloak 131 = .ok (.iconst 1, 1) := dk_4 (dk_at dksX6_cloak_5 12 rfl rfl)
theorem dX6_cloak_132 : decode cX6_cloak 132 = .ok (.goto 4, 3) := dk_167 0 4 (dk_at dksX6_cloak_5 13 rfl rfl)
theorem dX6_cloak_135 : decode cX6_cloak 135 = .ok (.iconst 0, 1) := dk_3 (dk_at dksX6_cloak_5 16 rfl rfl)
theorem dX6_cloak_136 : decode cX6_cloak 136 = .ok (.istore 5, 2) := dk_54 5 (dk_at dksX6_cloak_5 17 rfl rfl)
theorem dX6_cloak_138 : decode cX6_cloak 138 = .ok (.iload 6, 2) := dk_21 6 (dk_at dksX6_cloak_5 19 rfl rfl)
theorem dX6_cloak_140 : decode cX6_cloak 140 = .ok (.iload 8, 2) := dk_21 8 (dk_at dksX6_cloak_5 21 rfl rfl)
theorem dX6_cloak_142 : decode cX6_cloak 142 = .ok (.ifCond .eq 7, 3) := dk_153 0 7 (dk_at dksX6_cloak_6 0 rfl rfl)
theorem dX6_cloak_145 : decode cX6_cloak 145 = .ok (.iconst 0, 1) := dk_3 (dk_at dksX6_cloak_6 3 rfl rfl)
theorem dX6_cloak_146 : decode cX6_cloak 146 = .ok (.goto 13, 3) := dk_167 0 13 (dk_at dksX6_cloak_6 4 rfl rfl)
theorem dX6_cloak_149 : decode cX6_cloak 149 = .ok (.aload_n 0, 1) := dk_42 (dk_at dksX6_cloak_6 7 rfl rfl)
theorem dX6_cloak_150 : decode cX6_cloak 150 = .ok (.iconst 0, 1) := dk_3 (dk_at dksX6_cloak_6 8 rfl rfl)
theorem dX6_cloak_151 : decode cX6_cloak 151 = .ok (.iload 7, 2) := dk_21 7 (dk_at dksX6_cloak_6 9 rfl rfl)
theorem dX6_cloak_153 : decode cX6_cloak 153 = .ok (.iload_n 1, 1) := dk_27 (dk_at dksX6_cloak_6 11 rfl rfl)
theorem dX6_cloak_154 : decode cX6_cloak 154 = .ok (.bipush 6, 2) := dk_16 6 (dk_at dksX6_cloak_6 12 rfl rfl)
theorem dX6_cloak_156 : decode cX6_cloak 156 = .ok (.invokevirtual 330, 3) := dk_182 1 74 (dk_at dksX6_cloak_6 14 rfl rfl)
theorem dX6_cloak_159 : decode cX6_cloak 159 = .ok (.ior, 1) := dk_128 (dk_at dksX6_cloak_6 17 rfl rfl)
theorem dX6_cloak_160 : decode cX6_cloak 160 = .ok (.istore 6, 2) := dk_54 6 (dk_at dksX6_cloak_6 18 rfl rfl)
theorem dX6_cloak_162 : decode cX6_cloak 162 = .ok (.iinc 7 1, 3) := dk_132 7 1 (dk_at dksX6_cloak_6 20 rfl rfl)
theorem dX6_cloak_165 : decode cX6_cloak 165 = .ok (.goto (-94), 3) := dk_167 255 162 (dk_at dksX6_cloak_7 0 rfl rfl)
theorem dX6_cloak_168 : decode cX6_cloak 168 = .ok (.iload 5, 2) := dk_21 5 (dk_at dksX6_cloak_7 3 rfl rfl)
theorem dX6_cloak_170 : decode cX6_cloak 170 = .ok (.ifCond .eq 18, 3) := dk_153 0 18 (dk_at dksX6_cloak_7 5 rfl rfl)
theorem dX6_cloak_173 : decode cX6_cloak 173 = .ok (.aload_n 0, 1) := dk_42 (dk_at dksX6_cloak_7 8 rfl rfl)
theorem dX6_cloak_174 : decode cX6_cloak 174 = .ok (.iload 6, 2) := dk_21 6 (dk_at dksX6_cloak_7 9 rfl rfl)
theorem dX6_cloak_176 : decode cX6_cloak 176 = .ok (.invokevirtual 334, 3) := dk_182 1 78 (dk_at dksX6_cloak_7 11 rfl rfl)
theorem dX6_cloak_179 : decode cX6_cloak 179 = .ok (.iload_n 2, 1) := dk_28 (dk_at dksX6_cloak_7 14 rfl rfl)
theorem dX6_cloak_180 : decode cX6_cloak 180 = .ok (.if_icmp .gt 8, 3) := dk_163 0 8 (dk_at dksX6_cloak_7 15 rfl rfl)
theorem dX6_cloak_183 : decode cX6_cloak 183 = .ok (.iload 4, 2) := dk_21 4 (dk_at dksX6_cloak_7 18 rfl rfl)
theorem dX6_cloak_185 : decode cX6_cloak 185 = .ok (.goto 4, 3) := dk_167 0 4 (dk_at dksX6_cloak_7 20 rfl rfl)
theorem dX6_cloak_188 : decode cX6_cloak 188 = .ok (.iload_n 3, 1) := dk_29 (dk_at dksX6_cloak_7 23 rfl rfl)
theorem dX6_cloak_189 : decode cX6_cloak 189 = .ok (.istore_n 3, 1) := dk_62 (dk_at dksX6_cloak_8 0 rfl rfl)
theorem dX6_cloak_190 : decode cX6_cloak 190 = .ok (.iinc 4 1, 3) := dk_132 4 1 (dk_at dksX6_cloak_8 1 rfl rfl)
theorem dX6_cloak_193 : decode cX6_cloak 193 = .ok (.goto (-162), 3) := dk_167 255 94 (dk_at dksX6_cloak_8 4 rfl rfl)
theorem dX6_cloak_196 : decode cX6_cloak 196 = .ok (.iload_n 3, 1) := dk_29 (dk_at dksX6_cloak_8 7 rfl rfl)
theorem dX6_cloak_197 : decode cX6_cloak 197 = .ok (.ireturn, 1) := dk_172 (dk_at dksX6_cloak_8 8 rfl rfl)
abbrev cX6_bits : ByteArray := prog_24_method_95_code
def yX6_bits : MethodName := ⟨RX6, "bits", "(I)I"⟩
def dkwX6_bits_1 : List UInt8 := [27, 172]
abbrev dktX6_bits_1 : List UInt8 := dkwX6_bits_1 ++ []
def dkwX6_bits_0 : List UInt8 := [3, 60, 3, 61, 28, 16, 30, 162, 0, 17, 27, 26, 28, 122, 4, 126, 96, 60, 132, 2, 1, 167, 255, 239]
abbrev dktX6_bits_0 : List UInt8 := dkwX6_bits_0 ++ dktX6_bits_1
theorem dksX6_bits_0 : cX6_bits.data.toList.drop 0 = dktX6_bits_0 := by decide +kernel
theorem dksX6_bits_1 : cX6_bits.data.toList.drop 24 = dktX6_bits_1 := dk_seg dksX6_bits_0 24 rfl rfl
theorem dX6_bits_0 : decode cX6_bits 0 = .ok (.iconst 0, 1) := dk_3 (dk_at dksX6_bits_0 0 rfl rfl)
theorem dX6_bits_1 : decode cX6_bits 1 = .ok (.istore_n 1, 1) := dk_60 (dk_at dksX6_bits_0 1 rfl rfl)
theorem dX6_bits_2 : decode cX6_bits 2 = .ok (.iconst 0, 1) := dk_3 (dk_at dksX6_bits_0 2 rfl rfl)
theorem dX6_bits_3 : decode cX6_bits 3 = .ok (.istore_n 2, 1) := dk_61 (dk_at dksX6_bits_0 3 rfl rfl)
theorem dX6_bits_4 : decode cX6_bits 4 = .ok (.iload_n 2, 1) := dk_28 (dk_at dksX6_bits_0 4 rfl rfl)
theorem dX6_bits_5 : decode cX6_bits 5 = .ok (.bipush 30, 2) := dk_16 30 (dk_at dksX6_bits_0 5 rfl rfl)
theorem dX6_bits_7 : decode cX6_bits 7 = .ok (.if_icmp .ge 17, 3) := dk_162 0 17 (dk_at dksX6_bits_0 7 rfl rfl)
theorem dX6_bits_10 : decode cX6_bits 10 = .ok (.iload_n 1, 1) := dk_27 (dk_at dksX6_bits_0 10 rfl rfl)
theorem dX6_bits_11 : decode cX6_bits 11 = .ok (.iload_n 0, 1) := dk_26 (dk_at dksX6_bits_0 11 rfl rfl)
theorem dX6_bits_12 : decode cX6_bits 12 = .ok (.iload_n 2, 1) := dk_28 (dk_at dksX6_bits_0 12 rfl rfl)
theorem dX6_bits_13 : decode cX6_bits 13 = .ok (.ishr, 1) := dk_122 (dk_at dksX6_bits_0 13 rfl rfl)
theorem dX6_bits_14 : decode cX6_bits 14 = .ok (.iconst 1, 1) := dk_4 (dk_at dksX6_bits_0 14 rfl rfl)
theorem dX6_bits_15 : decode cX6_bits 15 = .ok (.iand, 1) := dk_126 (dk_at dksX6_bits_0 15 rfl rfl)
theorem dX6_bits_16 : decode cX6_bits 16 = .ok (.iadd, 1) := dk_96 (dk_at dksX6_bits_0 16 rfl rfl)
theorem dX6_bits_17 : decode cX6_bits 17 = .ok (.istore_n 1, 1) := dk_60 (dk_at dksX6_bits_0 17 rfl rfl)
theorem dX6_bits_18 : decode cX6_bits 18 = .ok (.iinc 2 1, 3) := dk_132 2 1 (dk_at dksX6_bits_0 18 rfl rfl)
theorem dX6_bits_21 : decode cX6_bits 21 = .ok (.goto (-17), 3) := dk_167 255 239 (dk_at dksX6_bits_0 21 rfl rfl)
theorem dX6_bits_24 : decode cX6_bits 24 = .ok (.iload_n 1, 1) := dk_27 (dk_at dksX6_bits_1 0 rfl rfl)
theorem dX6_bits_25 : decode cX6_bits 25 = .ok (.ireturn, 1) := dk_172 (dk_at dksX6_bits_1 1 rfl rfl)
abbrev cX6_hide : ByteArray := prog_24_method_94_code
def yX6_hide : MethodName := ⟨RX6, "hide", "(II)I"⟩
def dkwX6_hide_5 : List UInt8 := [132, 5, 1, 167, 255, 168, 29, 155, 0, 8, 28, 4, 160, 0, 7, 29, 167, 0, 5, 21, 4, 172]
abbrev dktX6_hide_5 : List UInt8 := dkwX6_hide_5 ++ []
def dkwX6_hide_4 : List UInt8 := [153, 0, 8, 21, 5, 167, 0, 4, 29, 62, 21, 7, 153, 0, 8, 21, 6, 167, 0, 5, 21, 4, 54, 4]
abbrev dktX6_hide_4 : List UInt8 := dkwX6_hide_4 ++ dktX6_hide_5
def dkwX6_hide_3 : List UInt8 := [182, 1, 47, 154, 0, 14, 21, 6, 21, 4, 162, 0, 7, 4, 167, 0, 4, 3, 54, 7, 21, 7]
abbrev dktX6_hide_3 : List UInt8 := dkwX6_hide_3 ++ dktX6_hide_4
def dkwX6_hide_2 : List UInt8 := [96, 46, 100, 54, 6, 21, 6, 156, 0, 9, 21, 6, 116, 167, 0, 5, 21, 6, 54, 6, 42, 3, 21, 5]
abbrev dktX6_hide_2 : List UInt8 := dkwX6_hide_2 ++ dktX6_hide_3
def dkwX6_hide_1 : List UInt8 := [2, 62, 16, 10, 54, 4, 3, 54, 5, 21, 5, 16, 10, 162, 0, 87, 21, 5, 42, 180, 0, 119, 4, 27]
abbrev dktX6_hide_1 : List UInt8 := dkwX6_hide_1 ++ dktX6_hide_2
def dkwX6_hide_0 : List UInt8 := [42, 3, 181, 0, 1, 42, 27, 182, 1, 87, 153, 0, 12, 28, 3, 4, 184, 0, 198, 154, 0, 5, 2, 172]
abbrev dktX6_hide_0 : List UInt8 := dkwX6_hide_0 ++ dktX6_hide_1
theorem dksX6_hide_0 : cX6_hide.data.toList.drop 0 = dktX6_hide_0 := by decide +kernel
theorem dksX6_hide_1 : cX6_hide.data.toList.drop 24 = dktX6_hide_1 := dk_seg dksX6_hide_0 24 rfl rfl
theorem dksX6_hide_2 : cX6_hide.data.toList.drop 48 = dktX6_hide_2 := dk_seg dksX6_hide_1 24 rfl rfl
theorem dksX6_hide_3 : cX6_hide.data.toList.drop 72 = dktX6_hide_3 := dk_seg dksX6_hide_2 24 rfl rfl
theorem dksX6_hide_4 : cX6_hide.data.toList.drop 94 = dktX6_hide_4 := dk_seg dksX6_hide_3 22 rfl rfl
theorem dksX6_hide_5 : cX6_hide.data.toList.drop 118 = dktX6_hide_5 := dk_seg dksX6_hide_4 24 rfl rfl
theorem dX6_hide_0 : decode cX6_hide 0 = .ok (.aload_n 0, 1) := dk_42 (dk_at dksX6_hide_0 0 rfl rfl)
theorem dX6_hide_1 : decode cX6_hide 1 = .ok (.iconst 0, 1) := dk_3 (dk_at dksX6_hide_0 1 rfl rfl)
theorem dX6_hide_2 : decode cX6_hide 2 = .ok (.putfield 1, 3) := dk_181 0 1 (dk_at dksX6_hide_0 2 rfl rfl)
theorem dX6_hide_5 : decode cX6_hide 5 = .ok (.aload_n 0, 1) := dk_42 (dk_at dksX6_hide_0 5 rfl rfl)
theorem dX6_hide_6 : decode cX6_hide 6 = .ok (.iload_n 1, 1) := dk_27 (dk_at dksX6_hide_0 6 rfl rfl)
theorem dX6_hide_7 : decode cX6_hide 7 = .ok (.invokevirtual 343, 3) := dk_182 1 87 (dk_at dksX6_hide_0 7 rfl rfl)
theorem dX6_hide_10 : decode cX6_hide 10 = .ok (.ifCond .eq 12, 3) := dk_153 0 12 (dk_at dksX6_hide_0 10 rfl rfl)
theorem dX6_hide_13 : decode cX6_hide 13 = .ok (.iload_n 2, 1) := dk_28 (dk_at dksX6_hide_0 13 rfl rfl)
theorem dX6_hide_14 : decode cX6_hide 14 = .ok (.iconst 0, 1) := dk_3 (dk_at dksX6_hide_0 14 rfl rfl)
theorem dX6_hide_15 : decode cX6_hide 15 = .ok (.iconst 1, 1) := dk_4 (dk_at dksX6_hide_0 15 rfl rfl)
theorem dX6_hide_16 : decode cX6_hide 16 = .ok (.invokestatic 198, 3) := dk_184 0 198 (dk_at dksX6_hide_0 16 rfl rfl)
theorem dX6_hide_19 : decode cX6_hide 19 = .ok (.ifCond .ne 5, 3) := dk_154 0 5 (dk_at dksX6_hide_0 19 rfl rfl)
theorem dX6_hide_22 : decode cX6_hide 22 = .ok (.iconst (-1), 1) := dk_2 (dk_at dksX6_hide_0 22 rfl rfl)
theorem dX6_hide_23 : decode cX6_hide 23 = .ok (.ireturn, 1) := dk_172 (dk_at dksX6_hide_0 23 rfl rfl)
theorem dX6_hide_24 : decode cX6_hide 24 = .ok (.iconst (-1), 1) := dk_2 (dk_at dksX6_hide_1 0 rfl rfl)
theorem dX6_hide_25 : decode cX6_hide 25 = .ok (.istore_n 3, 1) := dk_62 (dk_at dksX6_hide_1 1 rfl rfl)
theorem dX6_hide_26 : decode cX6_hide 26 = .ok (.bipush 10, 2) := dk_16 10 (dk_at dksX6_hide_1 2 rfl rfl)
theorem dX6_hide_28 : decode cX6_hide 28 = .ok (.istore 4, 2) := dk_54 4 (dk_at dksX6_hide_1 4 rfl rfl)
theorem dX6_hide_30 : decode cX6_hide 30 = .ok (.iconst 0, 1) := dk_3 (dk_at dksX6_hide_1 6 rfl rfl)
theorem dX6_hide_31 : decode cX6_hide 31 = .ok (.istore 5, 2) := dk_54 5 (dk_at dksX6_hide_1 7 rfl rfl)
theorem dX6_hide_33 : decode cX6_hide 33 = .ok (.iload 5, 2) := dk_21 5 (dk_at dksX6_hide_1 9 rfl rfl)
theorem dX6_hide_35 : decode cX6_hide 35 = .ok (.bipush 10, 2) := dk_16 10 (dk_at dksX6_hide_1 11 rfl rfl)
theorem dX6_hide_37 : decode cX6_hide 37 = .ok (.if_icmp .ge 87, 3) := dk_162 0 87 (dk_at dksX6_hide_1 13 rfl rfl)
theorem dX6_hide_40 : decode cX6_hide 40 = .ok (.iload 5, 2) := dk_21 5 (dk_at dksX6_hide_1 16 rfl rfl)
theorem dX6_hide_42 : decode cX6_hide 42 = .ok (.aload_n 0, 1) := dk_42 (dk_at dksX6_hide_1 18 rfl rfl)
theorem dX6_hide_43 : decode cX6_hide 43 = .ok (.getfield 119, 3) := dk_180 0 119 (dk_at dksX6_hide_1 19 rfl rfl)
theorem dX6_hide_46 : decode cX6_hide 46 = .ok (.iconst 1, 1) := dk_4 (dk_at dksX6_hide_1 22 rfl rfl)
theorem dX6_hide_47 : decode cX6_hide 47 = .ok (.iload_n 1, 1) := dk_27 (dk_at dksX6_hide_1 23 rfl rfl)
theorem dX6_hide_48 : decode cX6_hide 48 = .ok (.iadd, 1) := dk_96 (dk_at dksX6_hide_2 0 rfl rfl)
theorem dX6_hide_49 : decode cX6_hide 49 = .ok (.iaload, 1) := dk_46 (dk_at dksX6_hide_2 1 rfl rfl)
theorem dX6_hide_50 : decode cX6_hide 50 = .ok (.isub, 1) := dk_100 (dk_at dksX6_hide_2 2 rfl rfl)
theorem dX6_hide_51 : decode cX6_hide 51 = .ok (.istore 6, 2) := dk_54 6 (dk_at dksX6_hide_2 3 rfl rfl)
theorem dX6_hide_53 : decode cX6_hide 53 = .ok (.iload 6, 2) := dk_21 6 (dk_at dksX6_hide_2 5 rfl rfl)
theorem dX6_hide_55 : decode cX6_hide 55 = .ok (.ifCond .ge 9, 3) := dk_156 0 9 (dk_at dksX6_hide_2 7 rfl rfl)
theorem dX6_hide_58 : decode cX6_hide 58 = .ok (.iload 6, 2) := dk_21 6 (dk_at dksX6_hide_2 10 rfl rfl)
theorem dX6_hide_60 : decode cX6_hide 60 = .ok (.ineg, 1) := dk_116 (dk_at dksX6_hide_2 12 rfl rfl)
theorem dX6_hide_61 : decode cX6_hide 61 = .ok (.goto 5, 3) := dk_167 0 5 (dk_at dksX6_hide_2 13 rfl rfl)
theorem dX6_hide_64 : decode cX6_hide 64 = .ok (.iload 6, 2) := dk_21 6 (dk_at dksX6_hide_2 16 rfl rfl)
theorem dX6_hide_66 : decode cX6_hide 66 = .ok (.istore 6, 2) := dk_54 6 (dk_at dksX6_hide_2 18 rfl rfl)
theorem dX6_hide_68 : decode cX6_hide 68 = .ok (.aload_n 0, 1) := dk_42 (dk_at dksX6_hide_2 20 rfl rfl)
theorem dX6_hide_69 : decode cX6_hide 69 = .ok (.iconst 0, 1) := dk_3 (dk_at dksX6_hide_2 21 rfl rfl)
theorem dX6_hide_70 : decode cX6_hide 70 = .ok (.iload 5, 2) := dk_21 5 (dk_at dksX6_hide_2 22 rfl rfl)
theorem dX6_hide_72 : decode cX6_hide 72 = .ok (.invokevirtual 303, 3) := dk_182 1 47 (dk_at dksX6_hide_3 0 rfl rfl)
theorem dX6_hide_75 : decode cX6_hide 75 = .ok (.ifCond .ne 14, 3) := dk_154 0 14 (dk_at dksX6_hide_3 3 rfl rfl)
theorem dX6_hide_78 : decode cX6_hide 78 = .ok (.iload 6, 2) := dk_21 6 (dk_at dksX6_hide_3 6 rfl rfl)
theorem dX6_hide_80 : decode cX6_hide 80 = .ok (.iload 4, 2) := dk_21 4 (dk_at dksX6_hide_3 8 rfl rfl)
theorem dX6_hide_82 : decode cX6_hide 82 = .ok (.if_icmp .ge 7, 3) := dk_162 0 7 (dk_at dksX6_hide_3 10 rfl rfl)
theorem dX6_hide_85 : decode cX6_hide 85 = .ok (.iconst 1, 1) := dk_4 (dk_at dksX6_hide_3 13 rfl rfl)
theorem dX6_hide_86 : decode cX6_hide 86 = .ok (.goto 4, 3) := dk_167 0 4 (dk_at dksX6_hide_3 14 rfl rfl)
theorem dX6_hide_89 : decode cX6_hide 89 = .ok (.iconst 0, 1) := dk_3 (dk_at dksX6_hide_3 17 rfl rfl)
theorem dX6_hide_90 : decode cX6_hide 90 = .ok (.istore 7, 2) := dk_54 7 (dk_at dksX6_hide_3 18 rfl rfl)
theorem dX6_hide_92 : decode cX6_hide 92 = .ok (.iload 7, 2) := dk_21 7 (dk_at dksX6_hide_3 20 rfl rfl)
theorem dX6_hide_94 : decode cX6_hide 94 = .ok (.ifCond .eq 8, 3) := dk_153 0 8 (dk_at dksX6_hide_4 0 rfl rfl)
theorem dX6_hide_97 : decode cX6_hide 97 = .ok (.iload 5, 2) := dk_21 5 (dk_at dksX6_hide_4 3 rfl rfl)
theorem dX6_hide_99 : decode cX6_hide 99 = .ok (.goto 4, 3) := dk_167 0 4 (dk_at dksX6_hide_4 5 rfl rfl)
theorem dX6_hide_102 : decode cX6_hide 102 = .ok (.iload_n 3, 1) := dk_29 (dk_at dksX6_hide_4 8 rfl rfl)
theorem dX6_hide_103 : decode cX6_hide 103 = .ok (.istore_n 3, 1) := dk_62 (dk_at dksX6_hide_4 9 rfl rfl)
theorem dX6_hide_104 : decode cX6_hide 104 = .ok (.iload 7, 2) := dk_21 7 (dk_at dksX6_hide_4 10 rfl rfl)
theorem dX6_hide_106 : decode cX6_hide 106 = .ok (.ifCond .eq 8, 3) := dk_153 0 8 (dk_at dksX6_hide_4 12 rfl rfl)
theorem dX6_hide_109 : decode cX6_hide 109 = .ok (.iload 6, 2) := dk_21 6 (dk_at dksX6_hide_4 15 rfl rfl)
theorem dX6_hide_111 : decode cX6_hide 111 = .ok (.goto 5, 3) := dk_167 0 5 (dk_at dksX6_hide_4 17 rfl rfl)
theorem dX6_hide_114 : decode cX6_hide 114 = .ok (.iload 4, 2) := dk_21 4 (dk_at dksX6_hide_4 20 rfl rfl)
theorem dX6_hide_116 : decode cX6_hide 116 = .ok (.istore 4, 2) := dk_54 4 (dk_at dksX6_hide_4 22 rfl rfl)
theorem dX6_hide_118 : decode cX6_hide 118 = .ok (.iinc 5 1, 3) := dk_132 5 1 (dk_at dksX6_hide_5 0 rfl rfl)
theorem dX6_hide_121 : decode cX6_hide 121 = .ok (.goto (-88), 3) := dk_167 255 168 (dk_at dksX6_hide_5 3 rfl rfl)
theorem dX6_hide_124 : decode cX6_hide 124 = .ok (.iload_n 3, 1) := dk_29 (dk_at dksX6_hide_5 6 rfl rfl)
theorem dX6_hide_125 : decode cX6_hide 125 = .ok (.ifCond .lt 8, 3) := dk_155 0 8 (dk_at dksX6_hide_5 7 rfl rfl)
theorem dX6_hide_128 : decode cX6_hide 128 = .ok (.iload_n 2, 1) := dk_28 (dk_at dksX6_hide_5 10 rfl rfl)
theorem dX6_hide_129 : decode cX6_hide 129 = .ok (.iconst 1, 1) := dk_4 (dk_at dksX6_hide_5 11 rfl rfl)
theorem dX6_hide_130 : decode cX6_hide 130 = .ok (.if_icmp .ne 7, 3) := dk_160 0 7 (dk_at dksX6_hide_5 12 rfl rfl)
theorem dX6_hide_133 : decode cX6_hide 133 = .ok (.iload_n 3, 1) := dk_29 (dk_at dksX6_hide_5 15 rfl rfl)
theorem dX6_hide_134 : decode cX6_hide 134 = .ok (.goto 5, 3) := dk_167 0 5 (dk_at dksX6_hide_5 16 rfl rfl)
theorem dX6_hide_137 : decode cX6_hide 137 = .ok (.iload 4, 2) := dk_21 4 (dk_at dksX6_hide_5 19 rfl rfl)
theorem dX6_hide_139 : decode cX6_hide 139 = .ok (.ireturn, 1) := dk_172 (dk_at dksX6_hide_5 21 rfl rfl)
abbrev cX6_proof : ByteArray := prog_24_method_96_code
def yX6_proof : MethodName := ⟨RX6, "proof", "(II)I"⟩
def dkwX6_proof_5 : List UInt8 := [184, 1, 118, 162, 0, 8, 21, 4, 167, 0, 4, 29, 62, 132, 4, 1, 167, 255, 159, 29, 172]
abbrev dktX6_proof_5 : List UInt8 := dkwX6_proof_5 ++ []
def dkwX6_proof_4 : List UInt8 := [167, 255, 214, 28, 21, 5, 2, 130, 126, 154, 0, 24, 29, 155, 0, 15, 21, 4, 184, 1, 118, 29]
abbrev dktX6_proof_4 : List UInt8 := dkwX6_proof_4 ++ dktX6_proof_5
def dkwX6_proof_3 : List UInt8 := [4, 160, 0, 16, 42, 3, 21, 6, 27, 16, 6, 182, 1, 74, 167, 0, 4, 3, 128, 54, 5, 132, 6, 1]
abbrev dktX6_proof_3 : List UInt8 := dkwX6_proof_3 ++ dktX6_proof_4
def dkwX6_proof_2 : List UInt8 := [3, 54, 5, 3, 54, 6, 21, 6, 42, 182, 1, 22, 162, 0, 39, 21, 5, 21, 4, 21, 6, 122, 4, 126]
abbrev dktX6_proof_2 : List UInt8 := dkwX6_proof_2 ++ dktX6_proof_3
def dkwX6_proof_1 : List UInt8 := [184, 0, 198, 154, 0, 5, 2, 172, 2, 62, 3, 54, 4, 21, 4, 4, 42, 182, 1, 22, 120, 162, 0, 92]
abbrev dktX6_proof_1 : List UInt8 := dkwX6_proof_1 ++ dktX6_proof_2
def dkwX6_proof_0 : List UInt8 := [42, 3, 181, 0, 1, 42, 27, 182, 1, 87, 153, 0, 19, 28, 3, 4, 42, 182, 1, 25, 120, 4, 100]
abbrev dktX6_proof_0 : List UInt8 := dkwX6_proof_0 ++ dktX6_proof_1
theorem dksX6_proof_0 : cX6_proof.data.toList.drop 0 = dktX6_proof_0 := by decide +kernel
theorem dksX6_proof_1 : cX6_proof.data.toList.drop 23 = dktX6_proof_1 := dk_seg dksX6_proof_0 23 rfl rfl
theorem dksX6_proof_2 : cX6_proof.data.toList.drop 47 = dktX6_proof_2 := dk_seg dksX6_proof_1 24 rfl rfl
theorem dksX6_proof_3 : cX6_proof.data.toList.drop 71 = dktX6_proof_3 := dk_seg dksX6_proof_2 24 rfl rfl
theorem dksX6_proof_4 : cX6_proof.data.toList.drop 95 = dktX6_proof_4 := dk_seg dksX6_proof_3 24 rfl rfl
theorem dksX6_proof_5 : cX6_proof.data.toList.drop 117 = dktX6_proof_5 := dk_seg dksX6_proof_4 22 rfl rfl
theorem dX6_proof_0 : decode cX6_proof 0 = .ok (.aload_n 0, 1) := dk_42 (dk_at dksX6_proof_0 0 rfl rfl)
theorem dX6_proof_1 : decode cX6_proof 1 = .ok (.iconst 0, 1) := dk_3 (dk_at dksX6_proof_0 1 rfl rfl)
theorem dX6_proof_2 : decode cX6_proof 2 = .ok (.putfield 1, 3) := dk_181 0 1 (dk_at dksX6_proof_0 2 rfl rfl)
theorem dX6_proof_5 : decode cX6_proof 5 = .ok (.aload_n 0, 1) := dk_42 (dk_at dksX6_proof_0 5 rfl rfl)
theorem dX6_proof_6 : decode cX6_proof 6 = .ok (.iload_n 1, 1) := dk_27 (dk_at dksX6_proof_0 6 rfl rfl)
theorem dX6_proof_7 : decode cX6_proof 7 = .ok (.invokevirtual 343, 3) := dk_182 1 87 (dk_at dksX6_proof_0 7 rfl rfl)
theorem dX6_proof_10 : decode cX6_proof 10 = .ok (.ifCond .eq 19, 3) := dk_153 0 19 (dk_at dksX6_proof_0 10 rfl rfl)
theorem dX6_proof_13 : decode cX6_proof 13 = .ok (.iload_n 2, 1) := dk_28 (dk_at dksX6_proof_0 13 rfl rfl)
theorem dX6_proof_14 : decode cX6_proof 14 = .ok (.iconst 0, 1) := dk_3 (dk_at dksX6_proof_0 14 rfl rfl)
theorem dX6_proof_15 : decode cX6_proof 15 = .ok (.iconst 1, 1) := dk_4 (dk_at dksX6_proof_0 15 rfl rfl)
theorem dX6_proof_16 : decode cX6_proof 16 = .ok (.aload_n 0, 1) := dk_42 (dk_at dksX6_proof_0 16 rfl rfl)
theorem dX6_proof_17 : decode cX6_proof 17 = .ok (.invokevirtual 281, 3) := dk_182 1 25 (dk_at dksX6_proof_0 17 rfl rfl)
theorem dX6_proof_20 : decode cX6_proof 20 = .ok (.ishl, 1) := dk_120 (dk_at dksX6_proof_0 20 rfl rfl)
theorem dX6_proof_21 : decode cX6_proof 21 = .ok (.iconst 1, 1) := dk_4 (dk_at dksX6_proof_0 21 rfl rfl)
theorem dX6_proof_22 : decode cX6_proof 22 = .ok (.isub, 1) := dk_100 (dk_at dksX6_proof_0 22 rfl rfl)
theorem dX6_proof_23 : decode cX6_proof 23 = .ok (.invokestatic 198, 3) := dk_184 0 198 (dk_at dksX6_proof_1 0 rfl rfl)
theorem dX6_proof_26 : decode cX6_proof 26 = .ok (.ifCond .ne 5, 3) := dk_154 0 5 (dk_at dksX6_proof_1 3 rfl rfl)
theorem dX6_proof_29 : decode cX6_proof 29 = .ok (.iconst (-1), 1) := dk_2 (dk_at dksX6_proof_1 6 rfl rfl)
theorem dX6_proof_30 : decode cX6_proof 30 = .ok (.ireturn, 1) := dk_172 (dk_at dksX6_proof_1 7 rfl rfl)
theorem dX6_proof_31 : decode cX6_proof 31 = .ok (.iconst (-1), 1) := dk_2 (dk_at dksX6_proof_1 8 rfl rfl)
theorem dX6_proof_32 : decode cX6_proof 32 = .ok (.istore_n 3, 1) := dk_62 (dk_at dksX6_proof_1 9 rfl rfl)
theorem dX6_proof_33 : decode cX6_proof 33 = .ok (.iconst 0, 1) := dk_3 (dk_at dksX6_proof_1 10 rfl rfl)
theorem dX6_proof_34 : decode cX6_proof 34 = .ok (.istore 4, 2) := dk_54 4 (dk_at dksX6_proof_1 11 rfl rfl)
theorem dX6_proof_36 : decode cX6_proof 36 = .ok (.iload 4, 2) := dk_21 4 (dk_at dksX6_proof_1 13 rfl rfl)
theorem dX6_proof_38 : decode cX6_proof 38 = .ok (.iconst 1, 1) := dk_4 (dk_at dksX6_proof_1 15 rfl rfl)
theorem dX6_proof_39 : decode cX6_proof 39 = .ok (.aload_n 0, 1) := dk_42 (dk_at dksX6_proof_1 16 rfl rfl)
theorem dX6_proof_40 : decode cX6_proof 40 = .ok (.invokevirtual 278, 3) := dk_182 1 22 (dk_at dksX6_proof_1 17 rfl rfl)
theorem dX6_proof_43 : decode cX6_proof 43 = .ok (.ishl, 1) := dk_120 (dk_at dksX6_proof_1 20 rfl rfl)
theorem dX6_proof_44 : decode cX6_proof 44 = .ok (.if_icmp .ge 92, 3) := dk_162 0 92 (dk_at dksX6_proof_1 21 rfl rfl)
theorem dX6_proof_47 : decode cX6_proof 47 = .ok (.iconst 0, 1) := dk_3 (dk_at dksX6_proof_2 0 rfl rfl)
theorem dX6_proof_48 : decode cX6_proof 48 = .ok (.istore 5, 2) := dk_54 5 (dk_at dksX6_proof_2 1 rfl rfl)
theorem dX6_proof_50 : decode cX6_proof 50 = .ok (.iconst 0, 1) := dk_3 (dk_at dksX6_proof_2 3 rfl rfl)
theorem dX6_proof_51 : decode cX6_proof 51 = .ok (.istore 6, 2) := dk_54 6 (dk_at dksX6_proof_2 4 rfl rfl)
theorem dX6_proof_53 : decode cX6_proof 53 = .ok (.iload 6, 2) := dk_21 6 (dk_at dksX6_proof_2 6 rfl rfl)
theorem dX6_proof_55 : decode cX6_proof 55 = .ok (.aload_n 0, 1) := dk_42 (dk_at dksX6_proof_2 8 rfl rfl)
theorem dX6_proof_56 : decode cX6_proof 56 = .ok (.invokevirtual 278, 3) := dk_182 1 22 (dk_at dksX6_proof_2 9 rfl rfl)
theorem dX6_proof_59 : decode cX6_proof 59 = .ok (.if_icmp .ge 39, 3) := dk_162 0 39 (dk_at dksX6_proof_2 12 rfl rfl)
theorem dX6_proof_62 : decode cX6_proof 62 = .ok (.iload 5, 2) := dk_21 5 (dk_at dksX6_proof_2 15 rfl rfl)
theorem dX6_proof_64 : decode cX6_proof 64 = .ok (.iload 4, 2) := dk_21 4 (dk_at dksX6_proof_2 17 rfl rfl)
theorem dX6_proof_66 : decode cX6_proof 66 = .ok (.iload 6, 2) := dk_21 6 (dk_at dksX6_proof_2 19 rfl rfl)
theorem dX6_proof_68 : decode cX6_proof 68 = .ok (.ishr, 1) := dk_122 (dk_at dksX6_proof_2 21 rfl rfl)
theorem dX6_proof_69 : decode cX6_proof 69 = .ok (.iconst 1, 1) := dk_4 (dk_at dksX6_proof_2 22 rfl rfl)
theorem dX6_proof_70 : decode cX6_proof 70 = .ok (.iand, 1) := dk_126 (dk_at dksX6_proof_2 23 rfl rfl)
theorem dX6_proof_71 : decode cX6_proof 71 = .ok (.iconst 1, 1) := dk_4 (dk_at dksX6_proof_3 0 rfl rfl)
theorem dX6_proof_72 : decode cX6_proof 72 = .ok (.if_icmp .ne 16, 3) := dk_160 0 16 (dk_at dksX6_proof_3 1 rfl rfl)
theorem dX6_proof_75 : decode cX6_proof 75 = .ok (.aload_n 0, 1) := dk_42 (dk_at dksX6_proof_3 4 rfl rfl)
theorem dX6_proof_76 : decode cX6_proof 76 = .ok (.iconst 0, 1) := dk_3 (dk_at dksX6_proof_3 5 rfl rfl)
theorem dX6_proof_77 : decode cX6_proof 77 = .ok (.iload 6, 2) := dk_21 6 (dk_at dksX6_proof_3 6 rfl rfl)
theorem dX6_proof_79 : decode cX6_proof 79 = .ok (.iload_n 1, 1) := dk_27 (dk_at dksX6_proof_3 8 rfl rfl)
theorem dX6_proof_80 : decode cX6_proof 80 = .ok (.bipush 6, 2) := dk_16 6 (dk_at dksX6_proof_3 9 rfl rfl)
theorem dX6_proof_82 : decode cX6_proof 82 = .ok (.invokevirtual 330, 3) := dk_182 1 74 (dk_at dksX6_proof_3 11 rfl rfl)
theorem dX6_proof_85 : decode cX6_proof 85 = .ok (.goto 4, 3) := dk_167 0 4 (dk_at dksX6_proof_3 14 rfl rfl)
theorem dX6_proof_88 : decode cX6_proof 88 = .ok (.iconst 0, 1) := dk_3 (dk_at dksX6_proof_3 17 rfl rfl)
theorem dX6_proof_89 : decode cX6_proof 89 = .ok (.ior, 1) := dk_128 (dk_at dksX6_proof_3 18 rfl rfl)
theorem dX6_proof_90 : decode cX6_proof 90 = .ok (.istore 5, 2) := dk_54 5 (dk_at dksX6_proof_3 19 rfl rfl)
theorem dX6_proof_92 : decode cX6_proof 92 = .ok (.iinc 6 1, 3) := dk_132 6 1 (dk_at dksX6_proof_3 21 rfl rfl)
theorem dX6_proof_95 : decode cX6_proof 95 = .ok (.goto (-42), 3) := dk_167 255 214 (dk_at dksX6_proof_4 0 rfl rfl)
theorem dX6_proof_98 : decode cX6_proof 98 = .ok (.iload_n 2, 1) := dk_28 (dk_at dksX6_proof_4 3 rfl rfl)
theorem dX6_proof_99 : decode cX6_proof 99 = .ok (.iload 5, 2) := dk_21 5 (dk_at dksX6_proof_4 4 rfl rfl)
theorem dX6_proof_101 : decode cX6_proof 101 = .ok (.iconst (-1), 1) := dk_2 (dk_at dksX6_proof_4 6 rfl rfl)
theorem dX6_proof_102 : decode cX6_proof 102 = .ok (.ixor, 1) := dk_130 (dk_at dksX6_proof_4 7 rfl rfl)
theorem dX6_proof_103 : decode cX6_proof 103 = .ok (.iand, 1) := dk_126 (dk_at dksX6_proof_4 8 rfl rfl)
theorem dX6_proof_104 : decode cX6_proof 104 = .ok (.ifCond .ne 24, 3) := dk_154 0 24 (dk_at dksX6_proof_4 9 rfl rfl)
theorem dX6_proof_107 : decode cX6_proof 107 = .ok (.iload_n 3, 1) := dk_29 (dk_at dksX6_proof_4 12 rfl rfl)
theorem dX6_proof_108 : decode cX6_proof 108 = .ok (.ifCond .lt 15, 3) := dk_155 0 15 (dk_at dksX6_proof_4 13 rfl rfl)
theorem dX6_proof_111 : decode cX6_proof 111 = .ok (.iload 4, 2) := dk_21 4 (dk_at dksX6_proof_4 16 rfl rfl)
theorem dX6_proof_113 : decode cX6_proof 113 = .ok (.invokestatic 374, 3) := dk_184 1 118 (dk_at dksX6_proof_4 18 rfl rfl)
theorem dX6_proof_116 : decode cX6_proof 116 = .ok (.iload_n 3, 1) := dk_29 (dk_at dksX6_proof_4 21 rfl rfl)
theorem dX6_proof_117 : decode cX6_proof 117 = .ok (.invokestatic 374, 3) := dk_184 1 118 (dk_at dksX6_proof_5 0 rfl rfl)
theorem dX6_proof_120 : decode cX6_proof 120 = .ok (.if_icmp .ge 8, 3) := dk_162 0 8 (dk_at dksX6_proof_5 3 rfl rfl)
theorem dX6_proof_123 : decode cX6_proof 123 = .ok (.iload 4, 2) := dk_21 4 (dk_at dksX6_proof_5 6 rfl rfl)
theorem dX6_proof_125 : decode cX6_proof 125 = .ok (.goto 4, 3) := dk_167 0 4 (dk_at dksX6_proof_5 8 rfl rfl)
theorem dX6_proof_128 : decode cX6_proof 128 = .ok (.iload_n 3, 1) := dk_29 (dk_at dksX6_proof_5 11 rfl rfl)
theorem dX6_proof_129 : decode cX6_proof 129 = .ok (.istore_n 3, 1) := dk_62 (dk_at dksX6_proof_5 12 rfl rfl)
theorem dX6_proof_130 : decode cX6_proof 130 = .ok (.iinc 4 1, 3) := dk_132 4 1 (dk_at dksX6_proof_5 13 rfl rfl)
theorem dX6_proof_133 : decode cX6_proof 133 = .ok (.goto (-97), 3) := dk_167 255 159 (dk_at dksX6_proof_5 16 rfl rfl)
theorem dX6_proof_136 : decode cX6_proof 136 = .ok (.iload_n 3, 1) := dk_29 (dk_at dksX6_proof_5 19 rfl rfl)
theorem dX6_proof_137 : decode cX6_proof 137 = .ok (.ireturn, 1) := dk_172 (dk_at dksX6_proof_5 20 rfl rfl)
abbrev cX6_washes : ByteArray := prog_24_method_97_code
def yX6_washes : MethodName := ⟨RX6, "washes", "(II)I"⟩
def dkwX6_washes_6 : List UInt8 := [167, 255, 143, 29, 172]
abbrev dktX6_washes_6 : List UInt8 := dkwX6_washes_6 ++ []
def dkwX6_washes_5 : List UInt8 := [3, 167, 0, 16, 42, 180, 0, 119, 16, 18, 21, 4, 96, 46, 21, 5, 100, 96, 62, 132, 4, 1]
abbrev dktX6_washes_5 : List UInt8 := dkwX6_washes_5 ++ dktX6_washes_6
def dkwX6_washes_4 : List UInt8 := [160, 0, 8, 21, 6, 167, 0, 5, 21, 5, 54, 5, 132, 6, 255, 167, 255, 200, 29, 21, 5, 156, 0, 7]
abbrev dktX6_washes_4 : List UInt8 := dkwX6_washes_4 ++ dktX6_washes_5
def dkwX6_washes_3 : List UInt8 := [21, 4, 21, 6, 182, 1, 44, 54, 7, 21, 7, 184, 1, 65, 27, 160, 0, 17, 21, 7, 184, 1, 56, 28]
abbrev dktX6_washes_3 : List UInt8 := dkwX6_washes_3 ++ dktX6_washes_4
def dkwX6_washes_2 : List UInt8 := [96, 46, 4, 100, 54, 6, 21, 6, 155, 0, 57, 42, 3, 21, 4, 182, 1, 31, 153, 0, 47, 42, 3]
abbrev dktX6_washes_2 : List UInt8 := dkwX6_washes_2 ++ dktX6_washes_3
def dkwX6_washes_1 : List UInt8 := [62, 3, 54, 4, 21, 4, 42, 182, 1, 22, 162, 0, 110, 2, 54, 5, 42, 180, 0, 119, 16, 18, 21, 4]
abbrev dktX6_washes_1 : List UInt8 := dkwX6_washes_1 ++ dktX6_washes_2
def dkwX6_washes_0 : List UInt8 := [42, 3, 181, 0, 1, 42, 27, 182, 1, 87, 153, 0, 11, 42, 28, 182, 1, 96, 154, 0, 5, 2, 172, 3]
abbrev dktX6_washes_0 : List UInt8 := dkwX6_washes_0 ++ dktX6_washes_1
theorem dksX6_washes_0 : cX6_washes.data.toList.drop 0 = dktX6_washes_0 := by decide +kernel
theorem dksX6_washes_1 : cX6_washes.data.toList.drop 24 = dktX6_washes_1 := dk_seg dksX6_washes_0 24 rfl rfl
theorem dksX6_washes_2 : cX6_washes.data.toList.drop 48 = dktX6_washes_2 := dk_seg dksX6_washes_1 24 rfl rfl
theorem dksX6_washes_3 : cX6_washes.data.toList.drop 71 = dktX6_washes_3 := dk_seg dksX6_washes_2 23 rfl rfl
theorem dksX6_washes_4 : cX6_washes.data.toList.drop 95 = dktX6_washes_4 := dk_seg dksX6_washes_3 24 rfl rfl
theorem dksX6_washes_5 : cX6_washes.data.toList.drop 119 = dktX6_washes_5 := dk_seg dksX6_washes_4 24 rfl rfl
theorem dksX6_washes_6 : cX6_washes.data.toList.drop 141 = dktX6_washes_6 := dk_seg dksX6_washes_5 22 rfl rfl
theorem dX6_washes_0 : decode cX6_washes 0 = .ok (.aload_n 0, 1) := dk_42 (dk_at dksX6_washes_0 0 rfl rfl)
theorem dX6_washes_1 : decode cX6_washes 1 = .ok (.iconst 0, 1) := dk_3 (dk_at dksX6_washes_0 1 rfl rfl)
theorem dX6_washes_2 : decode cX6_washes 2 = .ok (.putfield 1, 3) := dk_181 0 1 (dk_at dksX6_washes_0 2 rfl rfl)
theorem dX6_washes_5 : decode cX6_washes 5 = .ok (.aload_n 0, 1) := dk_42 (dk_at dksX6_washes_0 5 rfl rfl)
theorem dX6_washes_6 : decode cX6_washes 6 = .ok (.iload_n 1, 1) := dk_27 (dk_at dksX6_washes_0 6 rfl rfl)
theorem dX6_washes_7 : decode cX6_washes 7 = .ok (.invokevirtual 343, 3) := dk_182 1 87 (dk_at dksX6_washes_0 7 rfl rfl)
theorem dX6_washes_10 : decode cX6_washes 10 = .ok (.ifCond .eq 11, 3) := dk_153 0 11 (dk_at dksX6_washes_0 10 rfl rfl)
theorem dX6_washes_13 : decode cX6_washes 13 = .ok (.aload_n 0, 1) := dk_42 (dk_at dksX6_washes_0 13 rfl rfl)
theorem dX6_washes_14 : decode cX6_washes 14 = .ok (.iload_n 2, 1) := dk_28 (dk_at dksX6_washes_0 14 rfl rfl)
theorem dX6_washes_15 : decode cX6_washes 15 = .ok (.invokevirtual 352, 3) := dk_182 1 96 (dk_at dksX6_washes_0 15 rfl rfl)
theorem dX6_washes_18 : decode cX6_washes 18 = .ok (.ifCond .ne 5, 3) := dk_154 0 5 (dk_at dksX6_washes_0 18 rfl rfl)
theorem dX6_washes_21 : decode cX6_washes 21 = .ok (.iconst (-1), 1) := dk_2 (dk_at dksX6_washes_0 21 rfl rfl)
theorem dX6_washes_22 : decode cX6_washes 22 = .ok (.ireturn, 1) := dk_172 (dk_at dksX6_washes_0 22 rfl rfl)
theorem dX6_washes_23 : decode cX6_washes 23 = .ok (.iconst 0, 1) := dk_3 (dk_at dksX6_washes_0 23 rfl rfl)
theorem dX6_washes_24 : decode cX6_washes 24 = .ok (.istore_n 3, 1) := dk_62 (dk_at dksX6_washes_1 0 rfl rfl)
theorem dX6_washes_25 : decode cX6_washes 25 = .ok (.iconst 0, 1) := dk_3 (dk_at dksX6_washes_1 1 rfl rfl)
theorem dX6_washes_26 : decode cX6_washes 26 = .ok (.istore 4, 2) := dk_54 4 (dk_at dksX6_washes_1 2 rfl rfl)
theorem dX6_washes_28 : decode cX6_washes 28 = .ok (.iload 4, 2) := dk_21 4 (dk_at dksX6_washes_1 4 rfl rfl)
theorem dX6_washes_30 : decode cX6_washes 30 = .ok (.aload_n 0, 1) := dk_42 (dk_at dksX6_washes_1 6 rfl rfl)
theorem dX6_washes_31 : decode cX6_washes 31 = .ok (.invokevirtual 278, 3) := dk_182 1 22 (dk_at dksX6_washes_1 7 rfl rfl)
theorem dX6_washes_34 : decode cX6_washes 34 = .ok (.if_icmp .ge 110, 3) := dk_162 0 110 (dk_at dksX6_washes_1 10 rfl rfl)
theorem dX6_washes_37 : decode cX6_washes 37 = .ok (.iconst (-1), 1) := dk_2 (dk_at dksX6_washes_1 13 rfl rfl)
theorem dX6_washes_38 : decode cX6_washes 38 = .ok (.istore 5, 2) := dk_54 5 (dk_at dksX6_washes_1 14 rfl rfl)
theorem dX6_washes_40 : decode cX6_washes 40 = .ok (.aload_n 0, 1) := dk_42 (dk_at dksX6_washes_1 16 rfl rfl)
theorem dX6_washes_41 : decode cX6_washes 41 = .ok (.getfield 119, 3) := dk_180 0 119 (dk_at dksX6_washes_1 17 rfl rfl)
theorem dX6_washes_44 : decode cX6_washes 44 = .ok (.bipush 18, 2) := dk_16 18 (dk_at dksX6_washes_1 20 rfl rfl)
theorem dX6_washes_46 : decode cX6_washes 46 = .ok (.iload 4, 2) := dk_21 4 (dk_at dksX6_washes_1 22 rfl rfl)
theorem dX6_washes_48 : decode cX6_washes 48 = .ok (.iadd, 1) := dk_96 (dk_at dksX6_washes_2 0 rfl rfl)
theorem dX6_washes_49 : decode cX6_washes 49 = .ok (.iaload, 1) := dk_46 (dk_at dksX6_washes_2 1 rfl rfl)
theorem dX6_washes_50 : decode cX6_washes 50 = .ok (.iconst 1, 1) := dk_4 (dk_at dksX6_washes_2 2 rfl rfl)
theorem dX6_washes_51 : decode cX6_washes 51 = .ok (.isub, 1) := dk_100 (dk_at dksX6_washes_2 3 rfl rfl)
theorem dX6_washes_52 : decode cX6_washes 52 = .ok (.istore 6, 2) := dk_54 6 (dk_at dksX6_washes_2 4 rfl rfl)
theorem dX6_washes_54 : decode cX6_washes 54 = .ok (.iload 6, 2) := dk_21 6 (dk_at dksX6_washes_2 6 rfl rfl)
theorem dX6_washes_56 : decode cX6_washes 56 = .ok (.ifCond .lt 57, 3) := dk_155 0 57 (dk_at dksX6_washes_2 8 rfl rfl)
theorem dX6_washes_59 : decode cX6_washes 59 = .ok (.aload_n 0, 1) := dk_42 (dk_at dksX6_washes_2 11 rfl rfl)
theorem dX6_washes_60 : decode cX6_washes 60 = .ok (.iconst 0, 1) := dk_3 (dk_at dksX6_washes_2 12 rfl rfl)
theorem dX6_washes_61 : decode cX6_washes 61 = .ok (.iload 4, 2) := dk_21 4 (dk_at dksX6_washes_2 13 rfl rfl)
theorem dX6_washes_63 : decode cX6_washes 63 = .ok (.invokevirtual 287, 3) := dk_182 1 31 (dk_at dksX6_washes_2 15 rfl rfl)
theorem dX6_washes_66 : decode cX6_washes 66 = .ok (.ifCond .eq 47, 3) := dk_153 0 47 (dk_at dksX6_washes_2 18 rfl rfl)
theorem dX6_washes_69 : decode cX6_washes 69 = .ok (.aload_n 0, 1) := dk_42 (dk_at dksX6_washes_2 21 rfl rfl)
theorem dX6_washes_70 : decode cX6_washes 70 = .ok (.iconst 0, 1) := dk_3 (dk_at dksX6_washes_2 22 rfl rfl)
theorem dX6_washes_71 : decode cX6_washes 71 = .ok (.iload 4, 2) := dk_21 4 (dk_at dksX6_washes_3 0 rfl rfl)
theorem dX6_washes_73 : decode cX6_washes 73 = .ok (.iload 6, 2) := dk_21 6 (dk_at dksX6_washes_3 2 rfl rfl)
theorem dX6_washes_75 : decode cX6_washes 75 = .ok (.invokevirtual 300, 3) := dk_182 1 44 (dk_at dksX6_washes_3 4 rfl rfl)
theorem dX6_washes_78 : decode cX6_washes 78 = .ok (.istore 7, 2) := dk_54 7 (dk_at dksX6_washes_3 7 rfl rfl)
theorem dX6_washes_80 : decode cX6_washes 80 = .ok (.iload 7, 2) := dk_21 7 (dk_at dksX6_washes_3 9 rfl rfl)
theorem dX6_washes_82 : decode cX6_washes 82 = .ok (.invokestatic 321, 3) := dk_184 1 65 (dk_at dksX6_washes_3 11 rfl rfl)
theorem dX6_washes_85 : decode cX6_washes 85 = .ok (.iload_n 1, 1) := dk_27 (dk_at dksX6_washes_3 14 rfl rfl)
theorem dX6_washes_86 : decode cX6_washes 86 = .ok (.if_icmp .ne 17, 3) := dk_160 0 17 (dk_at dksX6_washes_3 15 rfl rfl)
theorem dX6_washes_89 : decode cX6_washes 89 = .ok (.iload 7, 2) := dk_21 7 (dk_at dksX6_washes_3 18 rfl rfl)
theorem dX6_washes_91 : decode cX6_washes 91 = .ok (.invokestatic 312, 3) := dk_184 1 56 (dk_at dksX6_washes_3 20 rfl rfl)
theorem dX6_washes_94 : decode cX6_washes 94 = .ok (.iload_n 2, 1) := dk_28 (dk_at dksX6_washes_3 23 rfl rfl)
theorem dX6_washes_95 : decode cX6_washes 95 = .ok (.if_icmp .ne 8, 3) := dk_160 0 8 (dk_at dksX6_washes_4 0 rfl rfl)
theorem dX6_washes_98 : decode cX6_washes 98 = .ok (.iload 6, 2) := dk_21 6 (dk_at dksX6_washes_4 3 rfl rfl)
theorem dX6_washes_100 : decode cX6_washes 100 = .ok (.goto 5, 3) := dk_167 0 5 (dk_at dksX6_washes_4 5 rfl rfl)
theorem dX6_washes_103 : decode cX6_washes 103 = .ok (.iload 5, 2) := dk_21 5 (dk_at dksX6_washes_4 8 rfl rfl)
theorem dX6_washes_105 : decode cX6_washes 105 = .ok (.istore 5, 2) := dk_54 5 (dk_at dksX6_washes_4 10 rfl rfl)
theorem dX6_washes_107 : decode cX6_washes 107 = .ok (.iinc 6 (-1), 3) := dk_132 6 255 (dk_at dksX6_washes_4 12 rfl rfl)
theorem dX6_washes_110 : decode cX6_washes 110 = .ok (.goto (-56), 3) := dk_167 255 200 (dk_at dksX6_washes_4 15 rfl rfl)
theorem dX6_washes_113 : decode cX6_washes 113 = .ok (.iload_n 3, 1) := dk_29 (dk_at dksX6_washes_4 18 rfl rfl)
theorem dX6_washes_114 : decode cX6_washes 114 = .ok (.iload 5, 2) := dk_21 5 (dk_at dksX6_washes_4 19 rfl rfl)
theorem dX6_washes_116 : decode cX6_washes 116 = .ok (.ifCond .ge 7, 3) := dk_156 0 7 (dk_at dksX6_washes_4 21 rfl rfl)
theorem dX6_washes_119 : decode cX6_washes 119 = .ok (.iconst 0, 1) := dk_3 (dk_at dksX6_washes_5 0 rfl rfl)
theorem dX6_washes_120 : decode cX6_washes 120 = .ok (.goto 16, 3) := dk_167 0 16 (dk_at dksX6_washes_5 1 rfl rfl)
theorem dX6_washes_123 : decode cX6_washes 123 = .ok (.aload_n 0, 1) := dk_42 (dk_at dksX6_washes_5 4 rfl rfl)
theorem dX6_washes_124 : decode cX6_washes 124 = .ok (.getfield 119, 3) := dk_180 0 119 (dk_at dksX6_washes_5 5 rfl rfl)
theorem dX6_washes_127 : decode cX6_washes 127 = .ok (.bipush 18, 2) := dk_16 18 (dk_at dksX6_washes_5 8 rfl rfl)
theorem dX6_washes_129 : decode cX6_washes 129 = .ok (.iload 4, 2) := dk_21 4 (dk_at dksX6_washes_5 10 rfl rfl)
theorem dX6_washes_131 : decode cX6_washes 131 = .ok (.iadd, 1) := dk_96 (dk_at dksX6_washes_5 12 rfl rfl)
theorem dX6_washes_132 : decode cX6_washes 132 = .ok (.iaload, 1) := dk_46 (dk_at dksX6_washes_5 13 rfl rfl)
theorem dX6_washes_133 : decode cX6_washes 133 = .ok (.iload 5, 2) := dk_21 5 (dk_at dksX6_washes_5 14 rfl rfl)
theorem dX6_washes_135 : decode cX6_washes 135 = .ok (.isub, 1) := dk_100 (dk_at dksX6_washes_5 16 rfl rfl)
theorem dX6_washes_136 : decode cX6_washes 136 = .ok (.iadd, 1) := dk_96 (dk_at dksX6_washes_5 17 rfl rfl)
theorem dX6_washes_137 : decode cX6_washes 137 = .ok (.istore_n 3, 1) := dk_62 (dk_at dksX6_washes_5 18 rfl rfl)
theorem dX6_washes_138 : decode cX6_washes 138 = .ok (.iinc 4 1, 3) := dk_132 4 1 (dk_at dksX6_washes_5 19 rfl rfl)
theorem dX6_washes_141 : decode cX6_washes 141 = .ok (.goto (-113), 3) := dk_167 255 143 (dk_at dksX6_washes_6 0 rfl rfl)
theorem dX6_washes_144 : decode cX6_washes 144 = .ok (.iload_n 3, 1) := dk_29 (dk_at dksX6_washes_6 3 rfl rfl)
theorem dX6_washes_145 : decode cX6_washes 145 = .ok (.ireturn, 1) := dk_172 (dk_at dksX6_washes_6 4 rfl rfl)
abbrev cX6_dark : ByteArray := prog_24_method_98_code
def yX6_dark : MethodName := ⟨RX6, "dark", "(I)I"⟩
def dkwX6_dark_4 : List UInt8 := [167, 0, 4, 28, 61, 132, 3, 1, 167, 255, 177, 28, 172]
abbrev dktX6_dark_4 : List UInt8 := dkwX6_dark_4 ++ []
def dkwX6_dark_3 : List UInt8 := [160, 0, 13, 21, 4, 28, 162, 0, 7, 4, 167, 0, 4, 3, 54, 5, 21, 5, 153, 0, 8, 21, 4]
abbrev dktX6_dark_3 : List UInt8 := dkwX6_dark_3 ++ dktX6_dark_4
def dkwX6_dark_2 : List UInt8 := [155, 0, 33, 21, 4, 184, 1, 118, 28, 184, 1, 118, 161, 0, 21, 21, 4, 184, 1, 118, 28, 184, 1, 118]
abbrev dktX6_dark_2 : List UInt8 := dkwX6_dark_2 ++ dktX6_dark_3
def dkwX6_dark_1 : List UInt8 := [16, 10, 162, 0, 79, 42, 3, 29, 182, 1, 47, 54, 4, 27, 29, 122, 4, 126, 4, 160, 0, 41, 28]
abbrev dktX6_dark_1 : List UInt8 := dkwX6_dark_1 ++ dktX6_dark_2
def dkwX6_dark_0 : List UInt8 := [42, 3, 181, 0, 1, 27, 4, 17, 3, 255, 184, 0, 198, 154, 0, 5, 2, 172, 2, 61, 3, 62, 29]
abbrev dktX6_dark_0 : List UInt8 := dkwX6_dark_0 ++ dktX6_dark_1
theorem dksX6_dark_0 : cX6_dark.data.toList.drop 0 = dktX6_dark_0 := by decide +kernel
theorem dksX6_dark_1 : cX6_dark.data.toList.drop 23 = dktX6_dark_1 := dk_seg dksX6_dark_0 23 rfl rfl
theorem dksX6_dark_2 : cX6_dark.data.toList.drop 46 = dktX6_dark_2 := dk_seg dksX6_dark_1 23 rfl rfl
theorem dksX6_dark_3 : cX6_dark.data.toList.drop 70 = dktX6_dark_3 := dk_seg dksX6_dark_2 24 rfl rfl
theorem dksX6_dark_4 : cX6_dark.data.toList.drop 93 = dktX6_dark_4 := dk_seg dksX6_dark_3 23 rfl rfl
theorem dX6_dark_0 : decode cX6_dark 0 = .ok (.aload_n 0, 1) := dk_42 (dk_at dksX6_dark_0 0 rfl rfl)
theorem dX6_dark_1 : decode cX6_dark 1 = .ok (.iconst 0, 1) := dk_3 (dk_at dksX6_dark_0 1 rfl rfl)
theorem dX6_dark_2 : decode cX6_dark 2 = .ok (.putfield 1, 3) := dk_181 0 1 (dk_at dksX6_dark_0 2 rfl rfl)
theorem dX6_dark_5 : decode cX6_dark 5 = .ok (.iload_n 1, 1) := dk_27 (dk_at dksX6_dark_0 5 rfl rfl)
theorem dX6_dark_6 : decode cX6_dark 6 = .ok (.iconst 1, 1) := dk_4 (dk_at dksX6_dark_0 6 rfl rfl)
theorem dX6_dark_7 : decode cX6_dark 7 = .ok (.sipush 1023, 3) := dk_17 3 255 (dk_at dksX6_dark_0 7 rfl rfl)
theorem dX6_dark_10 : decode cX6_dark 10 = .ok (.invokestatic 198, 3) := dk_184 0 198 (dk_at dksX6_dark_0 10 rfl rfl)
theorem dX6_dark_13 : decode cX6_dark 13 = .ok (.ifCond .ne 5, 3) := dk_154 0 5 (dk_at dksX6_dark_0 13 rfl rfl)
theorem dX6_dark_16 : decode cX6_dark 16 = .ok (.iconst (-1), 1) := dk_2 (dk_at dksX6_dark_0 16 rfl rfl)
theorem dX6_dark_17 : decode cX6_dark 17 = .ok (.ireturn, 1) := dk_172 (dk_at dksX6_dark_0 17 rfl rfl)
theorem dX6_dark_18 : decode cX6_dark 18 = .ok (.iconst (-1), 1) := dk_2 (dk_at dksX6_dark_0 18 rfl rfl)
theorem dX6_dark_19 : decode cX6_dark 19 = .ok (.istore_n 2, 1) := dk_61 (dk_at dksX6_dark_0 19 rfl rfl)
theorem dX6_dark_20 : decode cX6_dark 20 = .ok (.iconst 0, 1) := dk_3 (dk_at dksX6_dark_0 20 rfl rfl)
theorem dX6_dark_21 : decode cX6_dark 21 = .ok (.istore_n 3, 1) := dk_62 (dk_at dksX6_dark_0 21 rfl rfl)
theorem dX6_dark_22 : decode cX6_dark 22 = .ok (.iload_n 3, 1) := dk_29 (dk_at dksX6_dark_0 22 rfl rfl)
theorem dX6_dark_23 : decode cX6_dark 23 = .ok (.bipush 10, 2) := dk_16 10 (dk_at dksX6_dark_1 0 rfl rfl)
theorem dX6_dark_25 : decode cX6_dark 25 = .ok (.if_icmp .ge 79, 3) := dk_162 0 79 (dk_at dksX6_dark_1 2 rfl rfl)
theorem dX6_dark_28 : decode cX6_dark 28 = .ok (.aload_n 0, 1) := dk_42 (dk_at dksX6_dark_1 5 rfl rfl)
theorem dX6_dark_29 : decode cX6_dark 29 = .ok (.iconst 0, 1) := dk_3 (dk_at dksX6_dark_1 6 rfl rfl)
theorem dX6_dark_30 : decode cX6_dark 30 = .ok (.iload_n 3, 1) := dk_29 (dk_at dksX6_dark_1 7 rfl rfl)
theorem dX6_dark_31 : decode cX6_dark 31 = .ok (.invokevirtual 303, 3) := dk_182 1 47 (dk_at dksX6_dark_1 8 rfl rfl)
theorem dX6_dark_34 : decode cX6_dark 34 = .ok (.istore 4, 2) := dk_54 4 (dk_at dksX6_dark_1 11 rfl rfl)
theorem dX6_dark_36 : decode cX6_dark 36 = .ok (.iload_n 1, 1) := dk_27 (dk_at dksX6_dark_1 13 rfl rfl)
theorem dX6_dark_37 : decode cX6_dark 37 = .ok (.iload_n 3, 1) := dk_29 (dk_at dksX6_dark_1 14 rfl rfl)
theorem dX6_dark_38 : decode cX6_dark 38 = .ok (.ishr, 1) := dk_122 (dk_at dksX6_dark_1 15 rfl rfl)
theorem dX6_dark_39 : decode cX6_dark 39 = .ok (.iconst 1, 1) := dk_4 (dk_at dksX6_dark_1 16 rfl rfl)
theorem dX6_dark_40 : decode cX6_dark 40 = .ok (.iand, 1) := dk_126 (dk_at dksX6_dark_1 17 rfl rfl)
theorem dX6_dark_41 : decode cX6_dark 41 = .ok (.iconst 1, 1) := dk_4 (dk_at dksX6_dark_1 18 rfl rfl)
theorem dX6_dark_42 : decode cX6_dark 42 = .ok (.if_icmp .ne 41, 3) := dk_160 0 41 (dk_at dksX6_dark_1 19 rfl rfl)
theorem dX6_dark_45 : decode cX6_dark 45 = .ok (.iload_n 2, 1) := dk_28 (dk_at dksX6_dark_1 22 rfl rfl)
theorem dX6_dark_46 : decode cX6_dark 46 = .ok (.ifCond .lt 33, 3) := dk_155 0 33 (dk_at dksX6_dark_2 0 rfl rfl)
theorem dX6_dark_49 : decode cX6_dark 49 = .ok (.iload 4, 2) := dk_21 4 (dk_at dksX6_dark_2 3 rfl rfl)
theorem dX6_dark_51 : decode cX6_dark 51 = .ok (.invokestatic 374, 3) := dk_184 1 118 (dk_at dksX6_dark_2 5 rfl rfl)
theorem dX6_dark_54 : decode cX6_dark 54 = .ok (.iload_n 2, 1) := dk_28 (dk_at dksX6_dark_2 8 rfl rfl)
theorem dX6_dark_55 : decode cX6_dark 55 = .ok (.invokestatic 374, 3) := dk_184 1 118 (dk_at dksX6_dark_2 9 rfl rfl)
theorem dX6_dark_58 : decode cX6_dark 58 = .ok (.if_icmp .lt 21, 3) := dk_161 0 21 (dk_at dksX6_dark_2 12 rfl rfl)
theorem dX6_dark_61 : decode cX6_dark 61 = .ok (.iload 4, 2) := dk_21 4 (dk_at dksX6_dark_2 15 rfl rfl)
theorem dX6_dark_63 : decode cX6_dark 63 = .ok (.invokestatic 374, 3) := dk_184 1 118 (dk_at dksX6_dark_2 17 rfl rfl)
theorem dX6_dark_66 : decode cX6_dark 66 = .ok (.iload_n 2, 1) := dk_28 (dk_at dksX6_dark_2 20 rfl rfl)
theorem dX6_dark_67 : decode cX6_dark 67 = .ok (.invokestatic 374, 3) := dk_184 1 118 (dk_at dksX6_dark_2 21 rfl rfl)
theorem dX6_dark_70 : decode cX6_dark 70 = .ok (.if_icmp .ne 13, 3) := dk_160 0 13 (dk_at dksX6_dark_3 0 rfl rfl)
theorem dX6_dark_73 : decode cX6_dark 73 = .ok (.iload 4, 2) := dk_21 4 (dk_at dksX6_dark_3 3 rfl rfl)
theorem dX6_dark_75 : decode cX6_dark 75 = .ok (.iload_n 2, 1) := dk_28 (dk_at dksX6_dark_3 5 rfl rfl)
theorem dX6_dark_76 : decode cX6_dark 76 = .ok (.if_icmp .ge 7, 3) := dk_162 0 7 (dk_at dksX6_dark_3 6 rfl rfl)
theorem dX6_dark_79 : decode cX6_dark 79 = .ok (.iconst 1, 1) := dk_4 (dk_at dksX6_dark_3 9 rfl rfl)
theorem dX6_dark_80 : decode cX6_dark 80 = .ok (.goto 4, 3) := dk_167 0 4 (dk_at dksX6_dark_3 10 rfl rfl)
theorem dX6_dark_83 : decode cX6_dark 83 = .ok (.iconst 0, 1) := dk_3 (dk_at dksX6_dark_3 13 rfl rfl)
theorem dX6_dark_84 : decode cX6_dark 84 = .ok (.istore 5, 2) := dk_54 5 (dk_at dksX6_dark_3 14 rfl rfl)
theorem dX6_dark_86 : decode cX6_dark 86 = .ok (.iload 5, 2) := dk_21 5 (dk_at dksX6_dark_3 16 rfl rfl)
theorem dX6_dark_88 : decode cX6_dark 88 = .ok (.ifCond .eq 8, 3) := dk_153 0 8 (dk_at dksX6_dark_3 18 rfl rfl)
theorem dX6_dark_91 : decode cX6_dark 91 = .ok (.iload 4, 2) := dk_21 4 (dk_at dksX6_dark_3 21 rfl rfl)
theorem dX6_dark_93 : decode cX6_dark 93 = .ok (.goto 4, 3) := dk_167 0 4 (dk_at dksX6_dark_4 0 rfl rfl)
theorem dX6_dark_96 : decode cX6_dark 96 = .ok (.iload_n 2, 1) := dk_28 (dk_at dksX6_dark_4 3 rfl rfl)
theorem dX6_dark_97 : decode cX6_dark 97 = .ok (.istore_n 2, 1) := dk_61 (dk_at dksX6_dark_4 4 rfl rfl)
theorem dX6_dark_98 : decode cX6_dark 98 = .ok (.iinc 3 1, 3) := dk_132 3 1 (dk_at dksX6_dark_4 5 rfl rfl)
theorem dX6_dark_101 : decode cX6_dark 101 = .ok (.goto (-79), 3) := dk_167 255 177 (dk_at dksX6_dark_4 8 rfl rfl)
theorem dX6_dark_104 : decode cX6_dark 104 = .ok (.iload_n 2, 1) := dk_28 (dk_at dksX6_dark_4 11 rfl rfl)
theorem dX6_dark_105 : decode cX6_dark 105 = .ok (.ireturn, 1) := dk_172 (dk_at dksX6_dark_4 12 rfl rfl)
abbrev cX6_say : ByteArray := prog_24_method_99_code
def yX6_say : MethodName := ⟨RX6, "say", "(IZ)Z"⟩
def dkwX6_say_1 : List UInt8 := [153, 0, 7, 4, 167, 0, 4, 3, 79, 4, 172]
abbrev dktX6_say_1 : List UInt8 := dkwX6_say_1 ++ []
def dkwX6_say_0 : List UInt8 := [42, 3, 181, 0, 1, 42, 27, 182, 1, 81, 154, 0, 5, 3, 172, 42, 180, 0, 119, 16, 60, 27, 96, 28]
abbrev dktX6_say_0 : List UInt8 := dkwX6_say_0 ++ dktX6_say_1
theorem dksX6_say_0 : cX6_say.data.toList.drop 0 = dktX6_say_0 := by decide +kernel
theorem dksX6_say_1 : cX6_say.data.toList.drop 24 = dktX6_say_1 := dk_seg dksX6_say_0 24 rfl rfl
theorem dX6_say_0 : decode cX6_say 0 = .ok (.aload_n 0, 1) := dk_42 (dk_at dksX6_say_0 0 rfl rfl)
theorem dX6_say_1 : decode cX6_say 1 = .ok (.iconst 0, 1) := dk_3 (dk_at dksX6_say_0 1 rfl rfl)
theorem dX6_say_2 : decode cX6_say 2 = .ok (.putfield 1, 3) := dk_181 0 1 (dk_at dksX6_say_0 2 rfl rfl)
theorem dX6_say_5 : decode cX6_say 5 = .ok (.aload_n 0, 1) := dk_42 (dk_at dksX6_say_0 5 rfl rfl)
theorem dX6_say_6 : decode cX6_say 6 = .ok (.iload_n 1, 1) := dk_27 (dk_at dksX6_say_0 6 rfl rfl)
theorem dX6_say_7 : decode cX6_say 7 = .ok (.invokevirtual 337, 3) := dk_182 1 81 (dk_at dksX6_say_0 7 rfl rfl)
theorem dX6_say_10 : decode cX6_say 10 = .ok (.ifCond .ne 5, 3) := dk_154 0 5 (dk_at dksX6_say_0 10 rfl rfl)
theorem dX6_say_13 : decode cX6_say 13 = .ok (.iconst 0, 1) := dk_3 (dk_at dksX6_say_0 13 rfl rfl)
theorem dX6_say_14 : decode cX6_say 14 = .ok (.ireturn, 1) := dk_172 (dk_at dksX6_say_0 14 rfl rfl)
theorem dX6_say_15 : decode cX6_say 15 = .ok (.aload_n 0, 1) := dk_42 (dk_at dksX6_say_0 15 rfl rfl)
theorem dX6_say_16 : decode cX6_say 16 = .ok (.getfield 119, 3) := dk_180 0 119 (dk_at dksX6_say_0 16 rfl rfl)
theorem dX6_say_19 : decode cX6_say 19 = .ok (.bipush 60, 2) := dk_16 60 (dk_at dksX6_say_0 19 rfl rfl)
theorem dX6_say_21 : decode cX6_say 21 = .ok (.iload_n 1, 1) := dk_27 (dk_at dksX6_say_0 21 rfl rfl)
theorem dX6_say_22 : decode cX6_say 22 = .ok (.iadd, 1) := dk_96 (dk_at dksX6_say_0 22 rfl rfl)
theorem dX6_say_23 : decode cX6_say 23 = .ok (.iload_n 2, 1) := dk_28 (dk_at dksX6_say_0 23 rfl rfl)
theorem dX6_say_24 : decode cX6_say 24 = .ok (.ifCond .eq 7, 3) := dk_153 0 7 (dk_at dksX6_say_1 0 rfl rfl)
theorem dX6_say_27 : decode cX6_say 27 = .ok (.iconst 1, 1) := dk_4 (dk_at dksX6_say_1 3 rfl rfl)
theorem dX6_say_28 : decode cX6_say 28 = .ok (.goto 4, 3) := dk_167 0 4 (dk_at dksX6_say_1 4 rfl rfl)
theorem dX6_say_31 : decode cX6_say 31 = .ok (.iconst 0, 1) := dk_3 (dk_at dksX6_say_1 7 rfl rfl)
theorem dX6_say_32 : decode cX6_say 32 = .ok (.iastore, 1) := dk_79 (dk_at dksX6_say_1 8 rfl rfl)
theorem dX6_say_33 : decode cX6_say 33 = .ok (.iconst 1, 1) := dk_4 (dk_at dksX6_say_1 9 rfl rfl)
theorem dX6_say_34 : decode cX6_say 34 = .ok (.ireturn, 1) := dk_172 (dk_at dksX6_say_1 10 rfl rfl)
abbrev cX6_where : ByteArray := prog_24_method_101_code
def yX6_where : MethodName := ⟨RX6, "where", "()I"⟩
def dkwX6_where_0 : List UInt8 := [42, 3, 181, 0, 1, 42, 182, 1, 121, 172]
abbrev dktX6_where_0 : List UInt8 := dkwX6_where_0 ++ []
theorem dksX6_where_0 : cX6_where.data.toList.drop 0 = dktX6_where_0 := by decide +kernel
theorem dX6_where_0 : decode cX6_where 0 = .ok (.aload_n 0, 1) := dk_42 (dk_at dksX6_where_0 0 rfl rfl)
theorem dX6_where_1 : decode cX6_where 1 = .ok (.iconst 0, 1) := dk_3 (dk_at dksX6_where_0 1 rfl rfl)
theorem dX6_where_2 : decode cX6_where 2 = .ok (.putfield 1, 3) := dk_181 0 1 (dk_at dksX6_where_0 2 rfl rfl)
theorem dX6_where_5 : decode cX6_where 5 = .ok (.aload_n 0, 1) := dk_42 (dk_at dksX6_where_0 5 rfl rfl)
theorem dX6_where_6 : decode cX6_where 6 = .ok (.invokevirtual 377, 3) := dk_182 1 121 (dk_at dksX6_where_0 6 rfl rfl)
theorem dX6_where_9 : decode cX6_where 9 = .ok (.ireturn, 1) := dk_172 (dk_at dksX6_where_0 9 rfl rfl)
abbrev cX6_cellsNow : ByteArray := prog_24_method_100_code
def yX6_cellsNow : MethodName := ⟨RX6, "cellsNow", "()I"⟩
def dkwX6_cellsNow_4 : List UInt8 := [167, 0, 4, 3, 128, 60, 132, 2, 1, 167, 255, 160, 27, 172]
abbrev dktX6_cellsNow_4 : List UInt8 := dkwX6_cellsNow_4 ++ []
def dkwX6_cellsNow_3 : List UInt8 := [160, 0, 7, 4, 167, 0, 4, 3, 62, 132, 4, 1, 167, 255, 191, 27, 29, 153, 0, 9, 4, 28, 120]
abbrev dktX6_cellsNow_3 : List UInt8 := dkwX6_cellsNow_3 ++ dktX6_cellsNow_4
def dkwX6_cellsNow_2 : List UInt8 := [182, 1, 41, 42, 180, 0, 119, 16, 60, 21, 4, 96, 46, 4, 160, 0, 7, 4, 167, 0, 4, 3]
abbrev dktX6_cellsNow_2 : List UInt8 := dkwX6_cellsNow_2 ++ dktX6_cellsNow_3
def dkwX6_cellsNow_1 : List UInt8 := [29, 153, 0, 50, 42, 180, 0, 119, 16, 60, 21, 4, 96, 46, 155, 0, 33, 42, 3, 21, 4, 28]
abbrev dktX6_cellsNow_1 : List UInt8 := dkwX6_cellsNow_1 ++ dktX6_cellsNow_2
def dkwX6_cellsNow_0 : List UInt8 := [3, 60, 3, 61, 28, 16, 10, 162, 0, 96, 4, 62, 3, 54, 4, 21, 4, 42, 182, 1, 22, 162, 0, 62]
abbrev dktX6_cellsNow_0 : List UInt8 := dkwX6_cellsNow_0 ++ dktX6_cellsNow_1
theorem dksX6_cellsNow_0 : cX6_cellsNow.data.toList.drop 0 = dktX6_cellsNow_0 := by decide +kernel
theorem dksX6_cellsNow_1 : cX6_cellsNow.data.toList.drop 24 = dktX6_cellsNow_1 := dk_seg dksX6_cellsNow_0 24 rfl rfl
theorem dksX6_cellsNow_2 : cX6_cellsNow.data.toList.drop 46 = dktX6_cellsNow_2 := dk_seg dksX6_cellsNow_1 22 rfl rfl
theorem dksX6_cellsNow_3 : cX6_cellsNow.data.toList.drop 68 = dktX6_cellsNow_3 := dk_seg dksX6_cellsNow_2 22 rfl rfl
theorem dksX6_cellsNow_4 : cX6_cellsNow.data.toList.drop 91 = dktX6_cellsNow_4 := dk_seg dksX6_cellsNow_3 23 rfl rfl
theorem dX6_cellsNow_0 : decode cX6_cellsNow 0 = .ok (.iconst 0, 1) := dk_3 (dk_at dksX6_cellsNow_0 0 rfl rfl)
theorem dX6_cellsNow_1 : decode cX6_cellsNow 1 = .ok (.istore_n 1, 1) := dk_60 (dk_at dksX6_cellsNow_0 1 rfl rfl)
theorem dX6_cellsNow_2 : decode cX6_cellsNow 2 = .ok (.iconst 0, 1) := dk_3 (dk_at dksX6_cellsNow_0 2 rfl rfl)
theorem dX6_cellsNow_3 : decode cX6_cellsNow 3 = .ok (.istore_n 2, 1) := dk_61 (dk_at dksX6_cellsNow_0 3 rfl rfl)
theorem dX6_cellsNow_4 : decode cX6_cellsNow 4 = .ok (.iload_n 2, 1) := dk_28 (dk_at dksX6_cellsNow_0 4 rfl rfl)
theorem dX6_cellsNow_5 : decode cX6_cellsNow 5 = .ok (.bipush 10, 2) := dk_16 10 (dk_at dksX6_cellsNow_0 5 rfl rfl)
theorem dX6_cellsNow_7 : decode cX6_cellsNow 7 = .ok (.if_icmp .ge 96, 3) := dk_162 0 96 (dk_at dksX6_cellsNow_0 7 rfl rfl)
theorem dX6_cellsNow_10 : decode cX6_cellsNow 10 = .ok (.iconst 1, 1) := dk_4 (dk_at dksX6_cellsNow_0 10 rfl rfl)
theorem dX6_cellsNow_11 : decode cX6_cellsNow 11 = .ok (.istore_n 3, 1) := dk_62 (dk_at dksX6_cellsNow_0 11 rfl rfl)
theorem dX6_cellsNow_12 : decode cX6_cellsNow 12 = .ok (.iconst 0, 1) := dk_3 (dk_at dksX6_cellsNow_0 12 rfl rfl)
theorem dX6_cellsNow_13 : decode cX6_cellsNow 13 = .ok (.istore 4, 2) := dk_54 4 (dk_at dksX6_cellsNow_0 13 rfl rfl)
theorem dX6_cellsNow_15 : decode cX6_cellsNow 15 = .ok (.iload 4, 2) := dk_21 4 (dk_at dksX6_cellsNow_0 15 rfl rfl)
theorem dX6_cellsNow_17 : decode cX6_cellsNow 17 = .ok (.aload_n 0, 1) := dk_42 (dk_at dksX6_cellsNow_0 17 rfl rfl)
theorem dX6_cellsNow_18 : decode cX6_cellsNow 18 = .ok (.invokevirtual 278, 3) := dk_182 1 22 (dk_at dksX6_cellsNow_0 18 rfl rfl)
theorem dX6_cellsNow_21 : decode cX6_cellsNow 21 = .ok (.if_icmp .ge 62, 3) := dk_162 0 62 (dk_at dksX6_cellsNow_0 21 rfl rfl)
theorem dX6_cellsNow_24 : decode cX6_cellsNow 24 = .ok (.iload_n 3, 1) := dk_29 (dk_at dksX6_cellsNow_1 0 rfl rfl)
theorem dX6_cellsNow_25 : decode cX6_cellsNow 25 = .ok (.ifCond .eq 50, 3) := dk_153 0 50 (dk_at dksX6_cellsNow_1 1 rfl rfl)
theorem dX6_cellsNow_28 : decode cX6_cellsNow 28 = .ok (.aload_n 0, 1) := dk_42 (dk_at dksX6_cellsNow_1 4 rfl rfl)
theorem dX6_cellsNow_29 : decode cX6_cellsNow 29 = .ok (.getfield 119, 3) := dk_180 0 119 (dk_at dksX6_cellsNow_1 5 rfl rfl)
theorem dX6_cellsNow_32 : decode cX6_cellsNow 32 = .ok (.bipush 60, 2) := dk_16 60 (dk_at dksX6_cellsNow_1 8 rfl rfl)
theorem dX6_cellsNow_34 : decode cX6_cellsNow 34 = .ok (.iload 4, 2) := dk_21 4 (dk_at dksX6_cellsNow_1 10 rfl rfl)
theorem dX6_cellsNow_36 : decode cX6_cellsNow 36 = .ok (.iadd, 1) := dk_96 (dk_at dksX6_cellsNow_1 12 rfl rfl)
theorem dX6_cellsNow_37 : decode cX6_cellsNow 37 = .ok (.iaload, 1) := dk_46 (dk_at dksX6_cellsNow_1 13 rfl rfl)
theorem dX6_cellsNow_38 : decode cX6_cellsNow 38 = .ok (.ifCond .lt 33, 3) := dk_155 0 33 (dk_at dksX6_cellsNow_1 14 rfl rfl)
theorem dX6_cellsNow_41 : decode cX6_cellsNow 41 = .ok (.aload_n 0, 1) := dk_42 (dk_at dksX6_cellsNow_1 17 rfl rfl)
theorem dX6_cellsNow_42 : decode cX6_cellsNow 42 = .ok (.iconst 0, 1) := dk_3 (dk_at dksX6_cellsNow_1 18 rfl rfl)
theorem dX6_cellsNow_43 : decode cX6_cellsNow 43 = .ok (.iload 4, 2) := dk_21 4 (dk_at dksX6_cellsNow_1 19 rfl rfl)
theorem dX6_cellsNow_45 : decode cX6_cellsNow 45 = .ok (.iload_n 2, 1) := dk_28 (dk_at dksX6_cellsNow_1 21 rfl rfl)
theorem dX6_cellsNow_46 : decode cX6_cellsNow 46 = .ok (.invokevirtual 297, 3) := dk_182 1 41 (dk_at dksX6_cellsNow_2 0 rfl rfl)
theorem dX6_cellsNow_49 : decode cX6_cellsNow 49 = .ok (.aload_n 0, 1) := dk_42 (dk_at dksX6_cellsNow_2 3 rfl rfl)
theorem dX6_cellsNow_50 : decode cX6_cellsNow 50 = .ok (.getfield 119, 3) := dk_180 0 119 (dk_at dksX6_cellsNow_2 4 rfl rfl)
theorem dX6_cellsNow_53 : decode cX6_cellsNow 53 = .ok (.bipush 60, 2) := dk_16 60 (dk_at dksX6_cellsNow_2 7 rfl rfl)
theorem dX6_cellsNow_55 : decode cX6_cellsNow 55 = .ok (.iload 4, 2) := dk_21 4 (dk_at dksX6_cellsNow_2 9 rfl rfl)
theorem dX6_cellsNow_57 : decode cX6_cellsNow 57 = .ok (.iadd, 1) := dk_96 (dk_at dksX6_cellsNow_2 11 rfl rfl)
theorem dX6_cellsNow_58 : decode cX6_cellsNow 58 = .ok (.iaload, 1) := dk_46 (dk_at dksX6_cellsNow_2 12 rfl rfl)
theorem dX6_cellsNow_59 : decode cX6_cellsNow 59 = .ok (.iconst 1, 1) := dk_4 (dk_at dksX6_cellsNow_2 13 rfl rfl)
theorem dX6_cellsNow_60 : decode cX6_cellsNow 60 = .ok (.if_icmp .ne 7, 3) := dk_160 0 7 (dk_at dksX6_cellsNow_2 14 rfl rfl)
theorem dX6_cellsNow_63 : decode cX6_cellsNow 63 = .ok (.iconst 1, 1) := dk_4 (dk_at dksX6_cellsNow_2 17 rfl rfl)
theorem dX6_cellsNow_64 : decode cX6_cellsNow 64 = .ok (.goto 4, 3) := dk_167 0 4 (dk_at dksX6_cellsNow_2 18 rfl rfl)
theorem dX6_cellsNow_67 : decode cX6_cellsNow 67 = .ok (.iconst 0, 1) := dk_3 (dk_at dksX6_cellsNow_2 21 rfl rfl)
theorem dX6_cellsNow_68 : decode cX6_cellsNow 68 = .ok (.if_icmp .ne 7, 3) := dk_160 0 7 (dk_at dksX6_cellsNow_3 0 rfl rfl)
theorem dX6_cellsNow_71 : decode cX6_cellsNow 71 = .ok (.iconst 1, 1) := dk_4 (dk_at dksX6_cellsNow_3 3 rfl rfl)
theorem dX6_cellsNow_72 : decode cX6_cellsNow 72 = .ok (.goto 4, 3) := dk_167 0 4 (dk_at dksX6_cellsNow_3 4 rfl rfl)
theorem dX6_cellsNow_75 : decode cX6_cellsNow 75 = .ok (.iconst 0, 1) := dk_3 (dk_at dksX6_cellsNow_3 7 rfl rfl)
theorem dX6_cellsNow_76 : decode cX6_cellsNow 76 = .ok (.istore_n 3, 1) := dk_62 (dk_at dksX6_cellsNow_3 8 rfl rfl)
theorem dX6_cellsNow_77 : decode cX6_cellsNow 77 = .ok (.iinc 4 1, 3) := dk_132 4 1 (dk_at dksX6_cellsNow_3 9 rfl rfl)
theorem dX6_cellsNow_80 : decode cX6_cellsNow 80 = .ok (.goto (-65), 3) := dk_167 255 191 (dk_at dksX6_cellsNow_3 12 rfl rfl)
theorem dX6_cellsNow_83 : decode cX6_cellsNow 83 = .ok (.iload_n 1, 1) := dk_27 (dk_at dksX6_cellsNow_3 15 rfl rfl)
theorem dX6_cellsNow_84 : decode cX6_cellsNow 84 = .ok (.iload_n 3, 1) := dk_29 (dk_at dksX6_cellsNow_3 16 rfl rfl)
theorem dX6_cellsNow_85 : decode cX6_cellsNow 85 = .ok (.ifCond .eq 9, 3) := dk_153 0 9 (dk_at dksX6_cellsNow_3 17 rfl rfl)
theorem dX6_cellsNow_88 : decode cX6_cellsNow 88 = .ok (.iconst 1, 1) := dk_4 (dk_at dksX6_cellsNow_3 20 rfl rfl)
theorem dX6_cellsNow_89 : decode cX6_cellsNow 89 = .ok (.iload_n 2, 1) := dk_28 (dk_at dksX6_cellsNow_3 21 rfl rfl)
theorem dX6_cellsNow_90 : decode cX6_cellsNow 90 = .ok (.ishl, 1) := dk_120 (dk_at dksX6_cellsNow_3 22 rfl rfl)
theorem dX6_cellsNow_91 : decode cX6_cellsNow 91 = .ok (.goto 4, 3) := dk_167 0 4 (dk_at dksX6_cellsNow_4 0 rfl rfl)
theorem dX6_cellsNow_94 : decode cX6_cellsNow 94 = .ok (.iconst 0, 1) := dk_3 (dk_at dksX6_cellsNow_4 3 rfl rfl)
theorem dX6_cellsNow_95 : decode cX6_cellsNow 95 = .ok (.ior, 1) := dk_128 (dk_at dksX6_cellsNow_4 4 rfl rfl)
theorem dX6_cellsNow_96 : decode cX6_cellsNow 96 = .ok (.istore_n 1, 1) := dk_60 (dk_at dksX6_cellsNow_4 5 rfl rfl)
theorem dX6_cellsNow_97 : decode cX6_cellsNow 97 = .ok (.iinc 2 1, 3) := dk_132 2 1 (dk_at dksX6_cellsNow_4 6 rfl rfl)
theorem dX6_cellsNow_100 : decode cX6_cellsNow 100 = .ok (.goto (-96), 3) := dk_167 255 160 (dk_at dksX6_cellsNow_4 9 rfl rfl)
theorem dX6_cellsNow_103 : decode cX6_cellsNow 103 = .ok (.iload_n 1, 1) := dk_27 (dk_at dksX6_cellsNow_4 12 rfl rfl)
theorem dX6_cellsNow_104 : decode cX6_cellsNow 104 = .ok (.ireturn, 1) := dk_172 (dk_at dksX6_cellsNow_4 13 rfl rfl)
abbrev cX6_ask : ByteArray := prog_24_method_102_code
def yX6_ask : MethodName := ⟨RX6, "ask", "()I"⟩
def dkwX6_ask_5 : List UInt8 := [29, 62, 132, 4, 1, 167, 255, 154, 28, 172]
abbrev dktX6_ask_5 : List UInt8 := dkwX6_ask_5 ++ []
def dkwX6_ask_4 : List UInt8 := [54, 7, 21, 7, 153, 0, 8, 21, 4, 167, 0, 4, 28, 61, 21, 7, 153, 0, 8, 21, 6, 167, 0, 4]
abbrev dktX6_ask_4 : List UInt8 := dkwX6_ask_4 ++ dktX6_ask_5
def dkwX6_ask_3 : List UInt8 := [180, 0, 119, 16, 60, 21, 4, 96, 46, 156, 0, 13, 21, 6, 29, 162, 0, 7, 4, 167, 0, 4, 3]
abbrev dktX6_ask_3 : List UInt8 := dkwX6_ask_3 ++ dktX6_ask_4
def dkwX6_ask_2 : List UInt8 := [184, 1, 118, 21, 5, 100, 164, 0, 8, 21, 5, 167, 0, 10, 27, 184, 1, 118, 21, 5, 100, 54, 6, 42]
abbrev dktX6_ask_2 : List UInt8 := dkwX6_ask_2 ++ dktX6_ask_3
def dkwX6_ask_1 : List UInt8 := [182, 1, 22, 162, 0, 99, 27, 42, 3, 21, 4, 182, 1, 38, 126, 184, 1, 118, 54, 5, 21, 5, 27]
abbrev dktX6_ask_1 : List UInt8 := dkwX6_ask_1 ++ dktX6_ask_2
def dkwX6_ask_0 : List UInt8 := [42, 3, 181, 0, 1, 42, 182, 1, 121, 60, 2, 61, 27, 184, 1, 118, 62, 3, 54, 4, 21, 4, 42]
abbrev dktX6_ask_0 : List UInt8 := dkwX6_ask_0 ++ dktX6_ask_1
theorem dksX6_ask_0 : cX6_ask.data.toList.drop 0 = dktX6_ask_0 := by decide +kernel
theorem dksX6_ask_1 : cX6_ask.data.toList.drop 23 = dktX6_ask_1 := dk_seg dksX6_ask_0 23 rfl rfl
theorem dksX6_ask_2 : cX6_ask.data.toList.drop 46 = dktX6_ask_2 := dk_seg dksX6_ask_1 23 rfl rfl
theorem dksX6_ask_3 : cX6_ask.data.toList.drop 70 = dktX6_ask_3 := dk_seg dksX6_ask_2 24 rfl rfl
theorem dksX6_ask_4 : cX6_ask.data.toList.drop 93 = dktX6_ask_4 := dk_seg dksX6_ask_3 23 rfl rfl
theorem dksX6_ask_5 : cX6_ask.data.toList.drop 117 = dktX6_ask_5 := dk_seg dksX6_ask_4 24 rfl rfl
theorem dX6_ask_0 : decode cX6_ask 0 = .ok (.aload_n 0, 1) := dk_42 (dk_at dksX6_ask_0 0 rfl rfl)
theorem dX6_ask_1 : decode cX6_ask 1 = .ok (.iconst 0, 1) := dk_3 (dk_at dksX6_ask_0 1 rfl rfl)
theorem dX6_ask_2 : decode cX6_ask 2 = .ok (.putfield 1, 3) := dk_181 0 1 (dk_at dksX6_ask_0 2 rfl rfl)
theorem dX6_ask_5 : decode cX6_ask 5 = .ok (.aload_n 0, 1) := dk_42 (dk_at dksX6_ask_0 5 rfl rfl)
theorem dX6_ask_6 : decode cX6_ask 6 = .ok (.invokevirtual 377, 3) := dk_182 1 121 (dk_at dksX6_ask_0 6 rfl rfl)
theorem dX6_ask_9 : decode cX6_ask 9 = .ok (.istore_n 1, 1) := dk_60 (dk_at dksX6_ask_0 9 rfl rfl)
theorem dX6_ask_10 : decode cX6_ask 10 = .ok (.iconst (-1), 1) := dk_2 (dk_at dksX6_ask_0 10 rfl rfl)
theorem dX6_ask_11 : decode cX6_ask 11 = .ok (.istore_n 2, 1) := dk_61 (dk_at dksX6_ask_0 11 rfl rfl)
theorem dX6_ask_12 : decode cX6_ask 12 = .ok (.iload_n 1, 1) := dk_27 (dk_at dksX6_ask_0 12 rfl rfl)
theorem dX6_ask_13 : decode cX6_ask 13 = .ok (.invokestatic 374, 3) := dk_184 1 118 (dk_at dksX6_ask_0 13 rfl rfl)
theorem dX6_ask_16 : decode cX6_ask 16 = .ok (.istore_n 3, 1) := dk_62 (dk_at dksX6_ask_0 16 rfl rfl)
theorem dX6_ask_17 : decode cX6_ask 17 = .ok (.iconst 0, 1) := dk_3 (dk_at dksX6_ask_0 17 rfl rfl)
theorem dX6_ask_18 : decode cX6_ask 18 = .ok (.istore 4, 2) := dk_54 4 (dk_at dksX6_ask_0 18 rfl rfl)
theorem dX6_ask_20 : decode cX6_ask 20 = .ok (.iload 4, 2) := dk_21 4 (dk_at dksX6_ask_0 20 rfl rfl)
theorem dX6_ask_22 : decode cX6_ask 22 = .ok (.aload_n 0, 1) := dk_42 (dk_at dksX6_ask_0 22 rfl rfl)
theorem dX6_ask_23 : decode cX6_ask 23 = .ok (.invokevirtual 278, 3) := dk_182 1 22 (dk_at dksX6_ask_1 0 rfl rfl)
theorem dX6_ask_26 : decode cX6_ask 26 = .ok (.if_icmp .ge 99, 3) := dk_162 0 99 (dk_at dksX6_ask_1 3 rfl rfl)
theorem dX6_ask_29 : decode cX6_ask 29 = .ok (.iload_n 1, 1) := dk_27 (dk_at dksX6_ask_1 6 rfl rfl)
theorem dX6_ask_30 : decode cX6_ask 30 = .ok (.aload_n 0, 1) := dk_42 (dk_at dksX6_ask_1 7 rfl rfl)
theorem dX6_ask_31 : decode cX6_ask 31 = .ok (.iconst 0, 1) := dk_3 (dk_at dksX6_ask_1 8 rfl rfl)
theorem dX6_ask_32 : decode cX6_ask 32 = .ok (.iload 4, 2) := dk_21 4 (dk_at dksX6_ask_1 9 rfl rfl)
theorem dX6_ask_34 : decode cX6_ask 34 = .ok (.invokevirtual 294, 3) := dk_182 1 38 (dk_at dksX6_ask_1 11 rfl rfl)
theorem dX6_ask_37 : decode cX6_ask 37 = .ok (.iand, 1) := dk_126 (dk_at dksX6_ask_1 14 rfl rfl)
theorem dX6_ask_38 : decode cX6_ask 38 = .ok (.invokestatic 374, 3) := dk_184 1 118 (dk_at dksX6_ask_1 15 rfl rfl)
theorem dX6_ask_41 : decode cX6_ask 41 = .ok (.istore 5, 2) := dk_54 5 (dk_at dksX6_ask_1 18 rfl rfl)
theorem dX6_ask_43 : decode cX6_ask 43 = .ok (.iload 5, 2) := dk_21 5 (dk_at dksX6_ask_1 20 rfl rfl)
theorem dX6_ask_45 : decode cX6_ask 45 = .ok (.iload_n 1, 1) := dk_27 (dk_at dksX6_ask_1 22 rfl rfl)
theorem dX6_ask_46 : decode cX6_ask 46 = .ok (.invokestatic 374, 3) := dk_184 1 118 (dk_at dksX6_ask_2 0 rfl rfl)
theorem dX6_ask_49 : decode cX6_ask 49 = .ok (.iload 5, 2) := dk_21 5 (dk_at dksX6_ask_2 3 rfl rfl)
theorem dX6_ask_51 : decode cX6_ask 51 = .ok (.isub, 1) := dk_100 (dk_at dksX6_ask_2 5 rfl rfl)
theorem dX6_ask_52 : decode cX6_ask 52 = .ok (.if_icmp .le 8, 3) := dk_164 0 8 (dk_at dksX6_ask_2 6 rfl rfl)
theorem dX6_ask_55 : decode cX6_ask 55 = .ok (.iload 5, 2) := dk_21 5 (dk_at dksX6_ask_2 9 rfl rfl)
theorem dX6_ask_57 : decode cX6_ask 57 = .ok (.goto 10, 3) := dk_167 0 10 (dk_at dksX6_ask_2 11 rfl rfl)
theorem dX6_ask_60 : decode cX6_ask 60 = .ok (.iload_n 1, 1) := dk_27 (dk_at dksX6_ask_2 14 rfl rfl)
theorem dX6_ask_61 : decode cX6_ask 61 = .ok (.invokestatic 374, 3) := dk_184 1 118 (dk_at dksX6_ask_2 15 rfl rfl)
theorem dX6_ask_64 : decode cX6_ask 64 = .ok (.iload 5, 2) := dk_21 5 (dk_at dksX6_ask_2 18 rfl rfl)
theorem dX6_ask_66 : decode cX6_ask 66 = .ok (.isub, 1) := dk_100 (dk_at dksX6_ask_2 20 rfl rfl)
theorem dX6_ask_67 : decode cX6_ask 67 = .ok (.istore 6, 2) := dk_54 6 (dk_at dksX6_ask_2 21 rfl rfl)
theorem dX6_ask_69 : decode cX6_ask 69 = .ok (.aload_n 0, 1) := dk_42 (dk_at dksX6_ask_2 23 rfl rfl)
theorem dX6_ask_70 : decode cX6_ask 70 = .ok (.getfield 119, 3) := dk_180 0 119 (dk_at dksX6_ask_3 0 rfl rfl)
theorem dX6_ask_73 : decode cX6_ask 73 = .ok (.bipush 60, 2) := dk_16 60 (dk_at dksX6_ask_3 3 rfl rfl)
theorem dX6_ask_75 : decode cX6_ask 75 = .ok (.iload 4, 2) := dk_21 4 (dk_at dksX6_ask_3 5 rfl rfl)
theorem dX6_ask_77 : decode cX6_ask 77 = .ok (.iadd, 1) := dk_96 (dk_at dksX6_ask_3 7 rfl rfl)
theorem dX6_ask_78 : decode cX6_ask 78 = .ok (.iaload, 1) := dk_46 (dk_at dksX6_ask_3 8 rfl rfl)
theorem dX6_ask_79 : decode cX6_ask 79 = .ok (.ifCond .ge 13, 3) := dk_156 0 13 (dk_at dksX6_ask_3 9 rfl rfl)
theorem dX6_ask_82 : decode cX6_ask 82 = .ok (.iload 6, 2) := dk_21 6 (dk_at dksX6_ask_3 12 rfl rfl)
theorem dX6_ask_84 : decode cX6_ask 84 = .ok (.iload_n 3, 1) := dk_29 (dk_at dksX6_ask_3 14 rfl rfl)
theorem dX6_ask_85 : decode cX6_ask 85 = .ok (.if_icmp .ge 7, 3) := dk_162 0 7 (dk_at dksX6_ask_3 15 rfl rfl)
theorem dX6_ask_88 : decode cX6_ask 88 = .ok (.iconst 1, 1) := dk_4 (dk_at dksX6_ask_3 18 rfl rfl)
theorem dX6_ask_89 : decode cX6_ask 89 = .ok (.goto 4, 3) := dk_167 0 4 (dk_at dksX6_ask_3 19 rfl rfl)
theorem dX6_ask_92 : decode cX6_ask 92 = .ok (.iconst 0, 1) := dk_3 (dk_at dksX6_ask_3 22 rfl rfl)
theorem dX6_ask_93 : decode cX6_ask 93 = .ok (.istore 7, 2) := dk_54 7 (dk_at dksX6_ask_4 0 rfl rfl)
theorem dX6_ask_95 : decode cX6_ask 95 = .ok (.iload 7, 2) := dk_21 7 (dk_at dksX6_ask_4 2 rfl rfl)
theorem dX6_ask_97 : decode cX6_ask 97 = .ok (.ifCond .eq 8, 3) := dk_153 0 8 (dk_at dksX6_ask_4 4 rfl rfl)
theorem dX6_ask_100 : decode cX6_ask 100 = .ok (.iload 4, 2) := dk_21 4 (dk_at dksX6_ask_4 7 rfl rfl)
theorem dX6_ask_102 : decode cX6_ask 102 = .ok (.goto 4, 3) := dk_167 0 4 (dk_at dksX6_ask_4 9 rfl rfl)
theorem dX6_ask_105 : decode cX6_ask 105 = .ok (.iload_n 2, 1) := dk_28 (dk_at dksX6_ask_4 12 rfl rfl)
theorem dX6_ask_106 : decode cX6_ask 106 = .ok (.istore_n 2, 1) := dk_61 (dk_at dksX6_ask_4 13 rfl rfl)
theorem dX6_ask_107 : decode cX6_ask 107 = .ok (.iload 7, 2) := dk_21 7 (dk_at dksX6_ask_4 14 rfl rfl)
theorem dX6_ask_109 : decode cX6_ask 109 = .ok (.ifCond .eq 8, 3) := dk_153 0 8 (dk_at dksX6_ask_4 16 rfl rfl)
theorem dX6_ask_112 : decode cX6_ask 112 = .ok (.iload 6, 2) := dk_21 6 (dk_at dksX6_ask_4 19 rfl rfl)
theorem dX6_ask_114 : decode cX6_ask 114 = .ok (.goto 4, 3) := dk_167 0 4 (dk_at dksX6_ask_4 21 rfl rfl)
theorem dX6_ask_117 : decode cX6_ask 117 = .ok (.iload_n 3, 1) := dk_29 (dk_at dksX6_ask_5 0 rfl rfl)
theorem dX6_ask_118 : decode cX6_ask 118 = .ok (.istore_n 3, 1) := dk_62 (dk_at dksX6_ask_5 1 rfl rfl)
theorem dX6_ask_119 : decode cX6_ask 119 = .ok (.iinc 4 1, 3) := dk_132 4 1 (dk_at dksX6_ask_5 2 rfl rfl)
theorem dX6_ask_122 : decode cX6_ask 122 = .ok (.goto (-102), 3) := dk_167 255 154 (dk_at dksX6_ask_5 5 rfl rfl)
theorem dX6_ask_125 : decode cX6_ask 125 = .ok (.iload_n 2, 1) := dk_28 (dk_at dksX6_ask_5 8 rfl rfl)
theorem dX6_ask_126 : decode cX6_ask 126 = .ok (.ireturn, 1) := dk_172 (dk_at dksX6_ask_5 9 rfl rfl)
abbrev cX6_glass : ByteArray := prog_24_method_104_code
def yX6_glass : MethodName := ⟨RX6, "glass", "(I)I"⟩
def dkwX6_glass_2 : List UInt8 := [28, 61, 132, 3, 1, 167, 255, 224, 28, 172]
abbrev dktX6_glass_2 : List UInt8 := dkwX6_glass_2 ++ []
def dkwX6_glass_1 : List UInt8 := [16, 10, 163, 0, 30, 42, 29, 27, 182, 1, 124, 42, 28, 27, 182, 1, 124, 164, 0, 7, 29, 167, 0, 4]
abbrev dktX6_glass_1 : List UInt8 := dkwX6_glass_1 ++ dktX6_glass_2
def dkwX6_glass_0 : List UInt8 := [42, 3, 181, 0, 1, 27, 4, 16, 10, 184, 0, 198, 154, 0, 5, 2, 172, 3, 61, 4, 62, 29, 27, 96]
abbrev dktX6_glass_0 : List UInt8 := dkwX6_glass_0 ++ dktX6_glass_1
theorem dksX6_glass_0 : cX6_glass.data.toList.drop 0 = dktX6_glass_0 := by decide +kernel
theorem dksX6_glass_1 : cX6_glass.data.toList.drop 24 = dktX6_glass_1 := dk_seg dksX6_glass_0 24 rfl rfl
theorem dksX6_glass_2 : cX6_glass.data.toList.drop 48 = dktX6_glass_2 := dk_seg dksX6_glass_1 24 rfl rfl
theorem dX6_glass_0 : decode cX6_glass 0 = .ok (.aload_n 0, 1) := dk_42 (dk_at dksX6_glass_0 0 rfl rfl)
theorem dX6_glass_1 : decode cX6_glass 1 = .ok (.iconst 0, 1) := dk_3 (dk_at dksX6_glass_0 1 rfl rfl)
theorem dX6_glass_2 : decode cX6_glass 2 = .ok (.putfield 1, 3) := dk_181 0 1 (dk_at dksX6_glass_0 2 rfl rfl)
theorem dX6_glass_5 : decode cX6_glass 5 = .ok (.iload_n 1, 1) := dk_27 (dk_at dksX6_glass_0 5 rfl rfl)
theorem dX6_glass_6 : decode cX6_glass 6 = .ok (.iconst 1, 1) := dk_4 (dk_at dksX6_glass_0 6 rfl rfl)
theorem dX6_glass_7 : decode cX6_glass 7 = .ok (.bipush 10, 2) := dk_16 10 (dk_at dksX6_glass_0 7 rfl rfl)
theorem dX6_glass_9 : decode cX6_glass 9 = .ok (.invokestatic 198, 3) := dk_184 0 198 (dk_at dksX6_glass_0 9 rfl rfl)
theorem dX6_glass_12 : decode cX6_glass 12 = .ok (.ifCond .ne 5, 3) := dk_154 0 5 (dk_at dksX6_glass_0 12 rfl rfl)
theorem dX6_glass_15 : decode cX6_glass 15 = .ok (.iconst (-1), 1) := dk_2 (dk_at dksX6_glass_0 15 rfl rfl)
theorem dX6_glass_16 : decode cX6_glass 16 = .ok (.ireturn, 1) := dk_172 (dk_at dksX6_glass_0 16 rfl rfl)
theorem dX6_glass_17 : decode cX6_glass 17 = .ok (.iconst 0, 1) := dk_3 (dk_at dksX6_glass_0 17 rfl rfl)
theorem dX6_glass_18 : decode cX6_glass 18 = .ok (.istore_n 2, 1) := dk_61 (dk_at dksX6_glass_0 18 rfl rfl)
theorem dX6_glass_19 : decode cX6_glass 19 = .ok (.iconst 1, 1) := dk_4 (dk_at dksX6_glass_0 19 rfl rfl)
theorem dX6_glass_20 : decode cX6_glass 20 = .ok (.istore_n 3, 1) := dk_62 (dk_at dksX6_glass_0 20 rfl rfl)
theorem dX6_glass_21 : decode cX6_glass 21 = .ok (.iload_n 3, 1) := dk_29 (dk_at dksX6_glass_0 21 rfl rfl)
theorem dX6_glass_22 : decode cX6_glass 22 = .ok (.iload_n 1, 1) := dk_27 (dk_at dksX6_glass_0 22 rfl rfl)
theorem dX6_glass_23 : decode cX6_glass 23 = .ok (.iadd, 1) := dk_96 (dk_at dksX6_glass_0 23 rfl rfl)
theorem dX6_glass_24 : decode cX6_glass 24 = .ok (.bipush 10, 2) := dk_16 10 (dk_at dksX6_glass_1 0 rfl rfl)
theorem dX6_glass_26 : decode cX6_glass 26 = .ok (.if_icmp .gt 30, 3) := dk_163 0 30 (dk_at dksX6_glass_1 2 rfl rfl)
theorem dX6_glass_29 : decode cX6_glass 29 = .ok (.aload_n 0, 1) := dk_42 (dk_at dksX6_glass_1 5 rfl rfl)
theorem dX6_glass_30 : decode cX6_glass 30 = .ok (.iload_n 3, 1) := dk_29 (dk_at dksX6_glass_1 6 rfl rfl)
theorem dX6_glass_31 : decode cX6_glass 31 = .ok (.iload_n 1, 1) := dk_27 (dk_at dksX6_glass_1 7 rfl rfl)
theorem dX6_glass_32 : decode cX6_glass 32 = .ok (.invokevirtual 380, 3) := dk_182 1 124 (dk_at dksX6_glass_1 8 rfl rfl)
theorem dX6_glass_35 : decode cX6_glass 35 = .ok (.aload_n 0, 1) := dk_42 (dk_at dksX6_glass_1 11 rfl rfl)
theorem dX6_glass_36 : decode cX6_glass 36 = .ok (.iload_n 2, 1) := dk_28 (dk_at dksX6_glass_1 12 rfl rfl)
theorem dX6_glass_37 : decode cX6_glass 37 = .ok (.iload_n 1, 1) := dk_27 (dk_at dksX6_glass_1 13 rfl rfl)
theorem dX6_glass_38 : decode cX6_glass 38 = .ok (.invokevirtual 380, 3) := dk_182 1 124 (dk_at dksX6_glass_1 14 rfl rfl)
theorem dX6_glass_41 : decode cX6_glass 41 = .ok (.if_icmp .le 7, 3) := dk_164 0 7 (dk_at dksX6_glass_1 17 rfl rfl)
theorem dX6_glass_44 : decode cX6_glass 44 = .ok (.iload_n 3, 1) := dk_29 (dk_at dksX6_glass_1 20 rfl rfl)
theorem dX6_glass_45 : decode cX6_glass 45 = .ok (.goto 4, 3) := dk_167 0 4 (dk_at dksX6_glass_1 21 rfl rfl)
theorem dX6_glass_48 : decode cX6_glass 48 = .ok (.iload_n 2, 1) := dk_28 (dk_at dksX6_glass_2 0 rfl rfl)
theorem dX6_glass_49 : decode cX6_glass 49 = .ok (.istore_n 2, 1) := dk_61 (dk_at dksX6_glass_2 1 rfl rfl)
theorem dX6_glass_50 : decode cX6_glass 50 = .ok (.iinc 3 1, 3) := dk_132 3 1 (dk_at dksX6_glass_2 2 rfl rfl)
theorem dX6_glass_53 : decode cX6_glass 53 = .ok (.goto (-32), 3) := dk_167 255 224 (dk_at dksX6_glass_2 5 rfl rfl)
theorem dX6_glass_56 : decode cX6_glass 56 = .ok (.iload_n 2, 1) := dk_28 (dk_at dksX6_glass_2 8 rfl rfl)
theorem dX6_glass_57 : decode cX6_glass 57 = .ok (.ireturn, 1) := dk_172 (dk_at dksX6_glass_2 9 rfl rfl)
abbrev cX6_peopleIn : ByteArray := prog_24_method_103_code
def yX6_peopleIn : MethodName := ⟨RX6, "peopleIn", "(II)I"⟩
def dkwX6_peopleIn_2 : List UInt8 := [167, 255, 215, 29, 172]
abbrev dktX6_peopleIn_2 : List UInt8 := dkwX6_peopleIn_2 ++ []
def dkwX6_peopleIn_1 : List UInt8 := [27, 27, 28, 96, 4, 100, 184, 0, 198, 153, 0, 7, 4, 167, 0, 4, 3, 96, 62, 132, 4, 1]
abbrev dktX6_peopleIn_1 : List UInt8 := dkwX6_peopleIn_1 ++ dktX6_peopleIn_2
def dkwX6_peopleIn_0 : List UInt8 := [3, 62, 3, 54, 4, 21, 4, 42, 182, 1, 9, 162, 0, 38, 29, 42, 180, 0, 119, 4, 21, 4, 96, 46]
abbrev dktX6_peopleIn_0 : List UInt8 := dkwX6_peopleIn_0 ++ dktX6_peopleIn_1
theorem dksX6_peopleIn_0 : cX6_peopleIn.data.toList.drop 0 = dktX6_peopleIn_0 := by decide +kernel
theorem dksX6_peopleIn_1 : cX6_peopleIn.data.toList.drop 24 = dktX6_peopleIn_1 := dk_seg dksX6_peopleIn_0 24 rfl rfl
theorem dksX6_peopleIn_2 : cX6_peopleIn.data.toList.drop 46 = dktX6_peopleIn_2 := dk_seg dksX6_peopleIn_1 22 rfl rfl
theorem dX6_peopleIn_0 : decode cX6_peopleIn 0 = .ok (.iconst 0, 1) := dk_3 (dk_at dksX6_peopleIn_0 0 rfl rfl)
theorem dX6_peopleIn_1 : decode cX6_peopleIn 1 = .ok (.istore_n 3, 1) := dk_62 (dk_at dksX6_peopleIn_0 1 rfl rfl)
theorem dX6_peopleIn_2 : decode cX6_peopleIn 2 = .ok (.iconst 0, 1) := dk_3 (dk_at dksX6_peopleIn_0 2 rfl rfl)
theorem dX6_peopleIn_3 : decode cX6_peopleIn 3 = .ok (.istore 4, 2) := dk_54 4 (dk_at dksX6_peopleIn_0 3 rfl rfl)
theorem dX6_peopleIn_5 : decode cX6_peopleIn 5 = .ok (.iload 4, 2) := dk_21 4 (dk_at dksX6_peopleIn_0 5 rfl rfl)
theorem dX6_peopleIn_7 : decode cX6_peopleIn 7 = .ok (.aload_n 0, 1) := dk_42 (dk_at dksX6_peopleIn_0 7 rfl rfl)
theorem dX6_peopleIn_8 : decode cX6_peopleIn 8 = .ok (.invokevirtual 265, 3) := dk_182 1 9 (dk_at dksX6_peopleIn_0 8 rfl rfl)
theorem dX6_peopleIn_11 : decode cX6_peopleIn 11 = .ok (.if_icmp .ge 38, 3) := dk_162 0 38 (dk_at dksX6_peopleIn_0 11 rfl rfl)
theorem dX6_peopleIn_14 : decode cX6_peopleIn 14 = .ok (.iload_n 3, 1) := dk_29 (dk_at dksX6_peopleIn_0 14 rfl rfl)
theorem dX6_peopleIn_15 : decode cX6_peopleIn 15 = .ok (.aload_n 0, 1) := dk_42 (dk_at dksX6_peopleIn_0 15 rfl rfl)
theorem dX6_peopleIn_16 : decode cX6_peopleIn 16 = .ok (.getfield 119, 3) := dk_180 0 119 (dk_at dksX6_peopleIn_0 16 rfl rfl)
theorem dX6_peopleIn_19 : decode cX6_peopleIn 19 = .ok (.iconst 1, 1) := dk_4 (dk_at dksX6_peopleIn_0 19 rfl rfl)
theorem dX6_peopleIn_20 : decode cX6_peopleIn 20 = .ok (.iload 4, 2) := dk_21 4 (dk_at dksX6_peopleIn_0 20 rfl rfl)
theorem dX6_peopleIn_22 : decode cX6_peopleIn 22 = .ok (.iadd, 1) := dk_96 (dk_at dksX6_peopleIn_0 22 rfl rfl)
theorem dX6_peopleIn_23 : decode cX6_peopleIn 23 = .ok (.iaload, 1) := dk_46 (dk_at dksX6_peopleIn_0 23 rfl rfl)
theorem dX6_peopleIn_24 : decode cX6_peopleIn 24 = .ok (.iload_n 1, 1) := dk_27 (dk_at dksX6_peopleIn_1 0 rfl rfl)
theorem dX6_peopleIn_25 : decode cX6_peopleIn 25 = .ok (.iload_n 1, 1) := dk_27 (dk_at dksX6_peopleIn_1 1 rfl rfl)
theorem dX6_peopleIn_26 : decode cX6_peopleIn 26 = .ok (.iload_n 2, 1) := dk_28 (dk_at dksX6_peopleIn_1 2 rfl rfl)
theorem dX6_peopleIn_27 : decode cX6_peopleIn 27 = .ok (.iadd, 1) := dk_96 (dk_at dksX6_peopleIn_1 3 rfl rfl)
theorem dX6_peopleIn_28 : decode cX6_peopleIn 28 = .ok (.iconst 1, 1) := dk_4 (dk_at dksX6_peopleIn_1 4 rfl rfl)
theorem dX6_peopleIn_29 : decode cX6_peopleIn 29 = .ok (.isub, 1) := dk_100 (dk_at dksX6_peopleIn_1 5 rfl rfl)
theorem dX6_peopleIn_30 : decode cX6_peopleIn 30 = .ok (.invokestatic 198, 3) := dk_184 0 198 (dk_at dksX6_peopleIn_1 6 rfl rfl)
theorem dX6_peopleIn_33 : decode cX6_peopleIn 33 = .ok (.ifCond .eq 7, 3) := dk_153 0 7 (dk_at dksX6_peopleIn_1 9 rfl rfl)
theorem dX6_peopleIn_36 : decode cX6_peopleIn 36 = .ok (.iconst 1, 1) := dk_4 (dk_at dksX6_peopleIn_1 12 rfl rfl)
theorem dX6_peopleIn_37 : decode cX6_peopleIn 37 = .ok (.goto 4, 3) := dk_167 0 4 (dk_at dksX6_peopleIn_1 13 rfl rfl)
theorem dX6_peopleIn_40 : decode cX6_peopleIn 40 = .ok (.iconst 0, 1) := dk_3 (dk_at dksX6_peopleIn_1 16 rfl rfl)
theorem dX6_peopleIn_41 : decode cX6_peopleIn 41 = .ok (.iadd, 1) := dk_96 (dk_at dksX6_peopleIn_1 17 rfl rfl)
theorem dX6_peopleIn_42 : decode cX6_peopleIn 42 = .ok (.istore_n 3, 1) := dk_62 (dk_at dksX6_peopleIn_1 18 rfl rfl)
theorem dX6_peopleIn_43 : decode cX6_peopleIn 43 = .ok (.iinc 4 1, 3) := dk_132 4 1 (dk_at dksX6_peopleIn_1 19 rfl rfl)
theorem dX6_peopleIn_46 : decode cX6_peopleIn 46 = .ok (.goto (-41), 3) := dk_167 255 215 (dk_at dksX6_peopleIn_2 0 rfl rfl)
theorem dX6_peopleIn_49 : decode cX6_peopleIn 49 = .ok (.iload_n 3, 1) := dk_29 (dk_at dksX6_peopleIn_2 3 rfl rfl)
theorem dX6_peopleIn_50 : decode cX6_peopleIn 50 = .ok (.ireturn, 1) := dk_172 (dk_at dksX6_peopleIn_2 4 rfl rfl)
abbrev cX6_seen : ByteArray := prog_24_method_105_code
def yX6_seen : MethodName := ⟨RX6, "seen", "(I)I"⟩
def dkwX6_seen_1 : List UInt8 := [182, 1, 47, 167, 0, 4, 2, 172]
abbrev dktX6_seen_1 : List UInt8 := dkwX6_seen_1 ++ []
def dkwX6_seen_0 : List UInt8 := [42, 3, 181, 0, 1, 42, 27, 182, 1, 87, 153, 0, 19, 42, 3, 42, 180, 0, 119, 4, 27, 96, 46]
abbrev dktX6_seen_0 : List UInt8 := dkwX6_seen_0 ++ dktX6_seen_1
theorem dksX6_seen_0 : cX6_seen.data.toList.drop 0 = dktX6_seen_0 := by decide +kernel
theorem dksX6_seen_1 : cX6_seen.data.toList.drop 23 = dktX6_seen_1 := dk_seg dksX6_seen_0 23 rfl rfl
theorem dX6_seen_0 : decode cX6_seen 0 = .ok (.aload_n 0, 1) := dk_42 (dk_at dksX6_seen_0 0 rfl rfl)
theorem dX6_seen_1 : decode cX6_seen 1 = .ok (.iconst 0, 1) := dk_3 (dk_at dksX6_seen_0 1 rfl rfl)
theorem dX6_seen_2 : decode cX6_seen 2 = .ok (.putfield 1, 3) := dk_181 0 1 (dk_at dksX6_seen_0 2 rfl rfl)
theorem dX6_seen_5 : decode cX6_seen 5 = .ok (.aload_n 0, 1) := dk_42 (dk_at dksX6_seen_0 5 rfl rfl)
theorem dX6_seen_6 : decode cX6_seen 6 = .ok (.iload_n 1, 1) := dk_27 (dk_at dksX6_seen_0 6 rfl rfl)
theorem dX6_seen_7 : decode cX6_seen 7 = .ok (.invokevirtual 343, 3) := dk_182 1 87 (dk_at dksX6_seen_0 7 rfl rfl)
theorem dX6_seen_10 : decode cX6_seen 10 = .ok (.ifCond .eq 19, 3) := dk_153 0 19 (dk_at dksX6_seen_0 10 rfl rfl)
theorem dX6_seen_13 : decode cX6_seen 13 = .ok (.aload_n 0, 1) := dk_42 (dk_at dksX6_seen_0 13 rfl rfl)
theorem dX6_seen_14 : decode cX6_seen 14 = .ok (.iconst 0, 1) := dk_3 (dk_at dksX6_seen_0 14 rfl rfl)
theorem dX6_seen_15 : decode cX6_seen 15 = .ok (.aload_n 0, 1) := dk_42 (dk_at dksX6_seen_0 15 rfl rfl)
theorem dX6_seen_16 : decode cX6_seen 16 = .ok (.getfield 119, 3) := dk_180 0 119 (dk_at dksX6_seen_0 16 rfl rfl)
theorem dX6_seen_19 : decode cX6_seen 19 = .ok (.iconst 1, 1) := dk_4 (dk_at dksX6_seen_0 19 rfl rfl)
theorem dX6_seen_20 : decode cX6_seen 20 = .ok (.iload_n 1, 1) := dk_27 (dk_at dksX6_seen_0 20 rfl rfl)
theorem dX6_seen_21 : decode cX6_seen 21 = .ok (.iadd, 1) := dk_96 (dk_at dksX6_seen_0 21 rfl rfl)
theorem dX6_seen_22 : decode cX6_seen 22 = .ok (.iaload, 1) := dk_46 (dk_at dksX6_seen_0 22 rfl rfl)
theorem dX6_seen_23 : decode cX6_seen 23 = .ok (.invokevirtual 303, 3) := dk_182 1 47 (dk_at dksX6_seen_1 0 rfl rfl)
theorem dX6_seen_26 : decode cX6_seen 26 = .ok (.goto 4, 3) := dk_167 0 4 (dk_at dksX6_seen_1 3 rfl rfl)
theorem dX6_seen_29 : decode cX6_seen 29 = .ok (.iconst (-1), 1) := dk_2 (dk_at dksX6_seen_1 6 rfl rfl)
theorem dX6_seen_30 : decode cX6_seen 30 = .ok (.ireturn, 1) := dk_172 (dk_at dksX6_seen_1 7 rfl rfl)
abbrev cX6_eyes : ByteArray := prog_24_method_106_code
def yX6_eyes : MethodName := ⟨RX6, "eyes", "()I"⟩
def dkwX6_eyes_2 : List UInt8 := [27, 172]
abbrev dktX6_eyes_2 : List UInt8 := dkwX6_eyes_2 ++ []
def dkwX6_eyes_1 : List UInt8 := [42, 3, 27, 182, 1, 47, 184, 1, 118, 164, 0, 7, 28, 167, 0, 4, 27, 60, 132, 2, 1, 167, 255, 220]
abbrev dktX6_eyes_1 : List UInt8 := dkwX6_eyes_1 ++ dktX6_eyes_2
def dkwX6_eyes_0 : List UInt8 := [42, 3, 181, 0, 1, 3, 60, 4, 61, 28, 16, 10, 162, 0, 36, 42, 3, 28, 182, 1, 47, 184, 1, 118]
abbrev dktX6_eyes_0 : List UInt8 := dkwX6_eyes_0 ++ dktX6_eyes_1
theorem dksX6_eyes_0 : cX6_eyes.data.toList.drop 0 = dktX6_eyes_0 := by decide +kernel
theorem dksX6_eyes_1 : cX6_eyes.data.toList.drop 24 = dktX6_eyes_1 := dk_seg dksX6_eyes_0 24 rfl rfl
theorem dksX6_eyes_2 : cX6_eyes.data.toList.drop 48 = dktX6_eyes_2 := dk_seg dksX6_eyes_1 24 rfl rfl
theorem dX6_eyes_0 : decode cX6_eyes 0 = .ok (.aload_n 0, 1) := dk_42 (dk_at dksX6_eyes_0 0 rfl rfl)
theorem dX6_eyes_1 : decode cX6_eyes 1 = .ok (.iconst 0, 1) := dk_3 (dk_at dksX6_eyes_0 1 rfl rfl)
theorem dX6_eyes_2 : decode cX6_eyes 2 = .ok (.putfield 1, 3) := dk_181 0 1 (dk_at dksX6_eyes_0 2 rfl rfl)
theorem dX6_eyes_5 : decode cX6_eyes 5 = .ok (.iconst 0, 1) := dk_3 (dk_at dksX6_eyes_0 5 rfl rfl)
theorem dX6_eyes_6 : decode cX6_eyes 6 = .ok (.istore_n 1, 1) := dk_60 (dk_at dksX6_eyes_0 6 rfl rfl)
theorem dX6_eyes_7 : decode cX6_eyes 7 = .ok (.iconst 1, 1) := dk_4 (dk_at dksX6_eyes_0 7 rfl rfl)
theorem dX6_eyes_8 : decode cX6_eyes 8 = .ok (.istore_n 2, 1) := dk_61 (dk_at dksX6_eyes_0 8 rfl rfl)
theorem dX6_eyes_9 : decode cX6_eyes 9 = .ok (.iload_n 2, 1) := dk_28 (dk_at dksX6_eyes_0 9 rfl rfl)
theorem dX6_eyes_10 : decode cX6_eyes 10 = .ok (.bipush 10, 2) := dk_16 10 (dk_at dksX6_eyes_0 10 rfl rfl)
theorem dX6_eyes_12 : decode cX6_eyes 12 = .ok (.if_icmp .ge 36, 3) := dk_162 0 36 (dk_at dksX6_eyes_0 12 rfl rfl)
theorem dX6_eyes_15 : decode cX6_eyes 15 = .ok (.aload_n 0, 1) := dk_42 (dk_at dksX6_eyes_0 15 rfl rfl)
theorem dX6_eyes_16 : decode cX6_eyes 16 = .ok (.iconst 0, 1) := dk_3 (dk_at dksX6_eyes_0 16 rfl rfl)
theorem dX6_eyes_17 : decode cX6_eyes 17 = .ok (.iload_n 2, 1) := dk_28 (dk_at dksX6_eyes_0 17 rfl rfl)
theorem dX6_eyes_18 : decode cX6_eyes 18 = .ok (.invokevirtual 303, 3) := dk_182 1 47 (dk_at dksX6_eyes_0 18 rfl rfl)
theorem dX6_eyes_21 : decode cX6_eyes 21 = .ok (.invokestatic 374, 3) := dk_184 1 118 (dk_at dksX6_eyes_0 21 rfl rfl)
theorem dX6_eyes_24 : decode cX6_eyes 24 = .ok (.aload_n 0, 1) := dk_42 (dk_at dksX6_eyes_1 0 rfl rfl)
theorem dX6_eyes_25 : decode cX6_eyes 25 = .ok (.iconst 0, 1) := dk_3 (dk_at dksX6_eyes_1 1 rfl rfl)
theorem dX6_eyes_26 : decode cX6_eyes 26 = .ok (.iload_n 1, 1) := dk_27 (dk_at dksX6_eyes_1 2 rfl rfl)
theorem dX6_eyes_27 : decode cX6_eyes 27 = .ok (.invokevirtual 303, 3) := dk_182 1 47 (dk_at dksX6_eyes_1 3 rfl rfl)
theorem dX6_eyes_30 : decode cX6_eyes 30 = .ok (.invokestatic 374, 3) := dk_184 1 118 (dk_at dksX6_eyes_1 6 rfl rfl)
theorem dX6_eyes_33 : decode cX6_eyes 33 = .ok (.if_icmp .le 7, 3) := dk_164 0 7 (dk_at dksX6_eyes_1 9 rfl rfl)
theorem dX6_eyes_36 : decode cX6_eyes 36 = .ok (.iload_n 2, 1) := dk_28 (dk_at dksX6_eyes_1 12 rfl rfl)
theorem dX6_eyes_37 : decode cX6_eyes 37 = .ok (.goto 4, 3) := dk_167 0 4 (dk_at dksX6_eyes_1 13 rfl rfl)
theorem dX6_eyes_40 : decode cX6_eyes 40 = .ok (.iload_n 1, 1) := dk_27 (dk_at dksX6_eyes_1 16 rfl rfl)
theorem dX6_eyes_41 : decode cX6_eyes 41 = .ok (.istore_n 1, 1) := dk_60 (dk_at dksX6_eyes_1 17 rfl rfl)
theorem dX6_eyes_42 : decode cX6_eyes 42 = .ok (.iinc 2 1, 3) := dk_132 2 1 (dk_at dksX6_eyes_1 18 rfl rfl)
theorem dX6_eyes_45 : decode cX6_eyes 45 = .ok (.goto (-36), 3) := dk_167 255 220 (dk_at dksX6_eyes_1 21 rfl rfl)
theorem dX6_eyes_48 : decode cX6_eyes 48 = .ok (.iload_n 1, 1) := dk_27 (dk_at dksX6_eyes_2 0 rfl rfl)
theorem dX6_eyes_49 : decode cX6_eyes 49 = .ok (.ireturn, 1) := dk_172 (dk_at dksX6_eyes_2 1 rfl rfl)
abbrev cX6_blind : ByteArray := prog_24_method_107_code
def yX6_blind : MethodName := ⟨RX6, "blind", "()I"⟩
def dkwX6_blind_1 : List UInt8 := [154, 0, 9, 4, 28, 120, 167, 0, 4, 3, 128, 60, 132, 2, 1, 167, 255, 228, 27, 172]
abbrev dktX6_blind_1 : List UInt8 := dkwX6_blind_1 ++ []
def dkwX6_blind_0 : List UInt8 := [42, 3, 181, 0, 1, 3, 60, 3, 61, 28, 16, 10, 162, 0, 28, 27, 42, 3, 28, 182, 1, 47]
abbrev dktX6_blind_0 : List UInt8 := dkwX6_blind_0 ++ dktX6_blind_1
theorem dksX6_blind_0 : cX6_blind.data.toList.drop 0 = dktX6_blind_0 := by decide +kernel
theorem dksX6_blind_1 : cX6_blind.data.toList.drop 22 = dktX6_blind_1 := dk_seg dksX6_blind_0 22 rfl rfl
theorem dX6_blind_0 : decode cX6_blind 0 = .ok (.aload_n 0, 1) := dk_42 (dk_at dksX6_blind_0 0 rfl rfl)
theorem dX6_blind_1 : decode cX6_blind 1 = .ok (.iconst 0, 1) := dk_3 (dk_at dksX6_blind_0 1 rfl rfl)
theorem dX6_blind_2 : decode cX6_blind 2 = .ok (.putfield 1, 3) := dk_181 0 1 (dk_at dksX6_blind_0 2 rfl rfl)
theorem dX6_blind_5 : decode cX6_blind 5 = .ok (.iconst 0, 1) := dk_3 (dk_at dksX6_blind_0 5 rfl rfl)
theorem dX6_blind_6 : decode cX6_blind 6 = .ok (.istore_n 1, 1) := dk_60 (dk_at dksX6_blind_0 6 rfl rfl)
theorem dX6_blind_7 : decode cX6_blind 7 = .ok (.iconst 0, 1) := dk_3 (dk_at dksX6_blind_0 7 rfl rfl)
theorem dX6_blind_8 : decode cX6_blind 8 = .ok (.istore_n 2, 1) := dk_61 (dk_at dksX6_blind_0 8 rfl rfl)
theorem dX6_blind_9 : decode cX6_blind 9 = .ok (.iload_n 2, 1) := dk_28 (dk_at dksX6_blind_0 9 rfl rfl)
theorem dX6_blind_10 : decode cX6_blind 10 = .ok (.bipush 10, 2) := dk_16 10 (dk_at dksX6_blind_0 10 rfl rfl)
theorem dX6_blind_12 : decode cX6_blind 12 = .ok (.if_icmp .ge 28, 3) := dk_162 0 28 (dk_at dksX6_blind_0 12 rfl rfl)
theorem dX6_blind_15 : decode cX6_blind 15 = .ok (.iload_n 1, 1) := dk_27 (dk_at dksX6_blind_0 15 rfl rfl)
theorem dX6_blind_16 : decode cX6_blind 16 = .ok (.aload_n 0, 1) := dk_42 (dk_at dksX6_blind_0 16 rfl rfl)
theorem dX6_blind_17 : decode cX6_blind 17 = .ok (.iconst 0, 1) := dk_3 (dk_at dksX6_blind_0 17 rfl rfl)
theorem dX6_blind_18 : decode cX6_blind 18 = .ok (.iload_n 2, 1) := dk_28 (dk_at dksX6_blind_0 18 rfl rfl)
theorem dX6_blind_19 : decode cX6_blind 19 = .ok (.invokevirtual 303, 3) := dk_182 1 47 (dk_at dksX6_blind_0 19 rfl rfl)
theorem dX6_blind_22 : decode cX6_blind 22 = .ok (.ifCond .ne 9, 3) := dk_154 0 9 (dk_at dksX6_blind_1 0 rfl rfl)
theorem dX6_blind_25 : decode cX6_blind 25 = .ok (.iconst 1, 1) := dk_4 (dk_at dksX6_blind_1 3 rfl rfl)
theorem dX6_blind_26 : decode cX6_blind 26 = .ok (.iload_n 2, 1) := dk_28 (dk_at dksX6_blind_1 4 rfl rfl)
theorem dX6_blind_27 : decode cX6_blind 27 = .ok (.ishl, 1) := dk_120 (dk_at dksX6_blind_1 5 rfl rfl)
theorem dX6_blind_28 : decode cX6_blind 28 = .ok (.goto 4, 3) := dk_167 0 4 (dk_at dksX6_blind_1 6 rfl rfl)
theorem dX6_blind_31 : decode cX6_blind 31 = .ok (.iconst 0, 1) := dk_3 (dk_at dksX6_blind_1 9 rfl rfl)
theorem dX6_blind_32 : decode cX6_blind 32 = .ok (.ior, 1) := dk_128 (dk_at dksX6_blind_1 10 rfl rfl)
theorem dX6_blind_33 : decode cX6_blind 33 = .ok (.istore_n 1, 1) := dk_60 (dk_at dksX6_blind_1 11 rfl rfl)
theorem dX6_blind_34 : decode cX6_blind 34 = .ok (.iinc 2 1, 3) := dk_132 2 1 (dk_at dksX6_blind_1 12 rfl rfl)
theorem dX6_blind_37 : decode cX6_blind 37 = .ok (.goto (-28), 3) := dk_167 255 228 (dk_at dksX6_blind_1 15 rfl rfl)
theorem dX6_blind_40 : decode cX6_blind 40 = .ok (.iload_n 1, 1) := dk_27 (dk_at dksX6_blind_1 18 rfl rfl)
theorem dX6_blind_41 : decode cX6_blind 41 = .ok (.ireturn, 1) := dk_172 (dk_at dksX6_blind_1 19 rfl rfl)
abbrev cX6_twin : ByteArray := prog_24_method_109_code
def yX6_twin : MethodName := ⟨RX6, "twin", "(II)I"⟩
def dkwX6_twin_6 : List UInt8 := [21, 7, 167, 0, 5, 21, 8, 96, 62, 132, 4, 1, 167, 255, 135, 29, 172]
abbrev dktX6_twin_6 : List UInt8 := dkwX6_twin_6 ++ []
def dkwX6_twin_5 : List UInt8 := [21, 5, 182, 1, 127, 54, 8, 29, 21, 6, 158, 0, 7, 3, 167, 0, 17, 21, 7, 21, 8, 162, 0, 8]
abbrev dktX6_twin_5 : List UInt8 := dkwX6_twin_5 ++ dktX6_twin_6
def dkwX6_twin_4 : List UInt8 := [167, 0, 4, 3, 96, 54, 6, 132, 7, 1, 167, 255, 215, 42, 27, 21, 5, 182, 1, 127, 54, 7, 42, 28]
abbrev dktX6_twin_4 : List UInt8 := dkwX6_twin_4 ++ dktX6_twin_5
def dkwX6_twin_3 : List UInt8 := [21, 6, 42, 3, 27, 21, 7, 182, 1, 44, 17, 3, 255, 126, 21, 5, 17, 3, 255, 126, 160, 0, 7, 4]
abbrev dktX6_twin_3 : List UInt8 := dkwX6_twin_3 ++ dktX6_twin_4
def dkwX6_twin_2 : List UInt8 := [42, 3, 27, 21, 4, 182, 1, 44, 54, 5, 3, 54, 6, 3, 54, 7, 21, 7, 21, 4, 162, 0, 40]
abbrev dktX6_twin_2 : List UInt8 := dkwX6_twin_2 ++ dktX6_twin_3
def dkwX6_twin_1 : List UInt8 := [160, 0, 5, 2, 172, 3, 62, 3, 54, 4, 21, 4, 42, 180, 0, 119, 16, 18, 27, 96, 46, 162, 0, 113]
abbrev dktX6_twin_1 : List UInt8 := dkwX6_twin_1 ++ dktX6_twin_2
def dkwX6_twin_0 : List UInt8 := [42, 3, 181, 0, 1, 42, 27, 182, 1, 81, 153, 0, 16, 42, 28, 182, 1, 81, 153, 0, 8, 27, 28]
abbrev dktX6_twin_0 : List UInt8 := dkwX6_twin_0 ++ dktX6_twin_1
theorem dksX6_twin_0 : cX6_twin.data.toList.drop 0 = dktX6_twin_0 := by decide +kernel
theorem dksX6_twin_1 : cX6_twin.data.toList.drop 23 = dktX6_twin_1 := dk_seg dksX6_twin_0 23 rfl rfl
theorem dksX6_twin_2 : cX6_twin.data.toList.drop 47 = dktX6_twin_2 := dk_seg dksX6_twin_1 24 rfl rfl
theorem dksX6_twin_3 : cX6_twin.data.toList.drop 70 = dktX6_twin_3 := dk_seg dksX6_twin_2 23 rfl rfl
theorem dksX6_twin_4 : cX6_twin.data.toList.drop 94 = dktX6_twin_4 := dk_seg dksX6_twin_3 24 rfl rfl
theorem dksX6_twin_5 : cX6_twin.data.toList.drop 118 = dktX6_twin_5 := dk_seg dksX6_twin_4 24 rfl rfl
theorem dksX6_twin_6 : cX6_twin.data.toList.drop 142 = dktX6_twin_6 := dk_seg dksX6_twin_5 24 rfl rfl
theorem dX6_twin_0 : decode cX6_twin 0 = .ok (.aload_n 0, 1) := dk_42 (dk_at dksX6_twin_0 0 rfl rfl)
theorem dX6_twin_1 : decode cX6_twin 1 = .ok (.iconst 0, 1) := dk_3 (dk_at dksX6_twin_0 1 rfl rfl)
theorem dX6_twin_2 : decode cX6_twin 2 = .ok (.putfield 1, 3) := dk_181 0 1 (dk_at dksX6_twin_0 2 rfl rfl)
theorem dX6_twin_5 : decode cX6_twin 5 = .ok (.aload_n 0, 1) := dk_42 (dk_at dksX6_twin_0 5 rfl rfl)
theorem dX6_twin_6 : decode cX6_twin 6 = .ok (.iload_n 1, 1) := dk_27 (dk_at dksX6_twin_0 6 rfl rfl)
theorem dX6_twin_7 : decode cX6_twin 7 = .ok (.invokevirtual 337, 3) := dk_182 1 81 (dk_at dksX6_twin_0 7 rfl rfl)
theorem dX6_twin_10 : decode cX6_twin 10 = .ok (.ifCond .eq 16, 3) := dk_153 0 16 (dk_at dksX6_twin_0 10 rfl rfl)
theorem dX6_twin_13 : decode cX6_twin 13 = .ok (.aload_n 0, 1) := dk_42 (dk_at dksX6_twin_0 13 rfl rfl)
theorem dX6_twin_14 : decode cX6_twin 14 = .ok (.iload_n 2, 1) := dk_28 (dk_at dksX6_twin_0 14 rfl rfl)
theorem dX6_twin_15 : decode cX6_twin 15 = .ok (.invokevirtual 337, 3) := dk_182 1 81 (dk_at dksX6_twin_0 15 rfl rfl)
theorem dX6_twin_18 : decode cX6_twin 18 = .ok (.ifCond .eq 8, 3) := dk_153 0 8 (dk_at dksX6_twin_0 18 rfl rfl)
theorem dX6_twin_21 : decode cX6_twin 21 = .ok (.iload_n 1, 1) := dk_27 (dk_at dksX6_twin_0 21 rfl rfl)
theorem dX6_twin_22 : decode cX6_twin 22 = .ok (.iload_n 2, 1) := dk_28 (dk_at dksX6_twin_0 22 rfl rfl)
theorem dX6_twin_23 : decode cX6_twin 23 = .ok (.if_icmp .ne 5, 3) := dk_160 0 5 (dk_at dksX6_twin_1 0 rfl rfl)
theorem dX6_twin_26 : decode cX6_twin 26 = .ok (.iconst (-1), 1) := dk_2 (dk_at dksX6_twin_1 3 rfl rfl)
theorem dX6_twin_27 : decode cX6_twin 27 = .ok (.ireturn, 1) := dk_172 (dk_at dksX6_twin_1 4 rfl rfl)
theorem dX6_twin_28 : decode cX6_twin 28 = .ok (.iconst 0, 1) := dk_3 (dk_at dksX6_twin_1 5 rfl rfl)
theorem dX6_twin_29 : decode cX6_twin 29 = .ok (.istore_n 3, 1) := dk_62 (dk_at dksX6_twin_1 6 rfl rfl)
theorem dX6_twin_30 : decode cX6_twin 30 = .ok (.iconst 0, 1) := dk_3 (dk_at dksX6_twin_1 7 rfl rfl)
theorem dX6_twin_31 : decode cX6_twin 31 = .ok (.istore 4, 2) := dk_54 4 (dk_at dksX6_twin_1 8 rfl rfl)
theorem dX6_twin_33 : decode cX6_twin 33 = .ok (.iload 4, 2) := dk_21 4 (dk_at dksX6_twin_1 10 rfl rfl)
theorem dX6_twin_35 : decode cX6_twin 35 = .ok (.aload_n 0, 1) := dk_42 (dk_at dksX6_twin_1 12 rfl rfl)
theorem dX6_twin_36 : decode cX6_twin 36 = .ok (.getfield 119, 3) := dk_180 0 119 (dk_at dksX6_twin_1 13 rfl rfl)
theorem dX6_twin_39 : decode cX6_twin 39 = .ok (.bipush 18, 2) := dk_16 18 (dk_at dksX6_twin_1 16 rfl rfl)
theorem dX6_twin_41 : decode cX6_twin 41 = .ok (.iload_n 1, 1) := dk_27 (dk_at dksX6_twin_1 18 rfl rfl)
theorem dX6_twin_42 : decode cX6_twin 42 = .ok (.iadd, 1) := dk_96 (dk_at dksX6_twin_1 19 rfl rfl)
theorem dX6_twin_43 : decode cX6_twin 43 = .ok (.iaload, 1) := dk_46 (dk_at dksX6_twin_1 20 rfl rfl)
theorem dX6_twin_44 : decode cX6_twin 44 = .ok (.if_icmp .ge 113, 3) := dk_162 0 113 (dk_at dksX6_twin_1 21 rfl rfl)
theorem dX6_twin_47 : decode cX6_twin 47 = .ok (.aload_n 0, 1) := dk_42 (dk_at dksX6_twin_2 0 rfl rfl)
theorem dX6_twin_48 : decode cX6_twin 48 = .ok (.iconst 0, 1) := dk_3 (dk_at dksX6_twin_2 1 rfl rfl)
theorem dX6_twin_49 : decode cX6_twin 49 = .ok (.iload_n 1, 1) := dk_27 (dk_at dksX6_twin_2 2 rfl rfl)
theorem dX6_twin_50 : decode cX6_twin 50 = .ok (.iload 4, 2) := dk_21 4 (dk_at dksX6_twin_2 3 rfl rfl)
theorem dX6_twin_52 : decode cX6_twin 52 = .ok (.invokevirtual 300, 3) := dk_182 1 44 (dk_at dksX6_twin_2 5 rfl rfl)
theorem dX6_twin_55 : decode cX6_twin 55 = .ok (.istore 5, 2) := dk_54 5 (dk_at dksX6_twin_2 8 rfl rfl)
theorem dX6_twin_57 : decode cX6_twin 57 = .ok (.iconst 0, 1) := dk_3 (dk_at dksX6_twin_2 10 rfl rfl)
theorem dX6_twin_58 : decode cX6_twin 58 = .ok (.istore 6, 2) := dk_54 6 (dk_at dksX6_twin_2 11 rfl rfl)
theorem dX6_twin_60 : decode cX6_twin 60 = .ok (.iconst 0, 1) := dk_3 (dk_at dksX6_twin_2 13 rfl rfl)
theorem dX6_twin_61 : decode cX6_twin 61 = .ok (.istore 7, 2) := dk_54 7 (dk_at dksX6_twin_2 14 rfl rfl)
theorem dX6_twin_63 : decode cX6_twin 63 = .ok (.iload 7, 2) := dk_21 7 (dk_at dksX6_twin_2 16 rfl rfl)
theorem dX6_twin_65 : decode cX6_twin 65 = .ok (.iload 4, 2) := dk_21 4 (dk_at dksX6_twin_2 18 rfl rfl)
theorem dX6_twin_67 : decode cX6_twin 67 = .ok (.if_icmp .ge 40, 3) := dk_162 0 40 (dk_at dksX6_twin_2 20 rfl rfl)
theorem dX6_twin_70 : decode cX6_twin 70 = .ok (.iload 6, 2) := dk_21 6 (dk_at dksX6_twin_3 0 rfl rfl)
theorem dX6_twin_72 : decode cX6_twin 72 = .ok (.aload_n 0, 1) := dk_42 (dk_at dksX6_twin_3 2 rfl rfl)
theorem dX6_twin_73 : decode cX6_twin 73 = .ok (.iconst 0, 1) := dk_3 (dk_at dksX6_twin_3 3 rfl rfl)
theorem dX6_twin_74 : decode cX6_twin 74 = .ok (.iload_n 1, 1) := dk_27 (dk_at dksX6_twin_3 4 rfl rfl)
theorem dX6_twin_75 : decode cX6_twin 75 = .ok (.iload 7, 2) := dk_21 7 (dk_at dksX6_twin_3 5 rfl rfl)
theorem dX6_twin_77 : decode cX6_twin 77 = .ok (.invokevirtual 300, 3) := dk_182 1 44 (dk_at dksX6_twin_3 7 rfl rfl)
theorem dX6_twin_80 : decode cX6_twin 80 = .ok (.sipush 1023, 3) := dk_17 3 255 (dk_at dksX6_twin_3 10 rfl rfl)
theorem dX6_twin_83 : decode cX6_twin 83 = .ok (.iand, 1) := dk_126 (dk_at dksX6_twin_3 13 rfl rfl)
theorem dX6_twin_84 : decode cX6_twin 84 = .ok (.iload 5, 2) := dk_21 5 (dk_at dksX6_twin_3 14 rfl rfl)
theorem dX6_twin_86 : decode cX6_twin 86 = .ok (.sipush 1023, 3) := dk_17 3 255 (dk_at dksX6_twin_3 16 rfl rfl)
theorem dX6_twin_89 : decode cX6_twin 89 = .ok (.iand, 1) := dk_126 (dk_at dksX6_twin_3 19 rfl rfl)
theorem dX6_twin_90 : decode cX6_twin 90 = .ok (.if_icmp .ne 7, 3) := dk_160 0 7 (dk_at dksX6_twin_3 20 rfl rfl)
theorem dX6_twin_93 : decode cX6_twin 93 = .ok (.iconst 1, 1) := dk_4 (dk_at dksX6_twin_3 23 rfl rfl)
theorem dX6_twin_94 : decode cX6_twin 94 = .ok (.goto 4, 3) := dk_167 0 4 (dk_at dksX6_twin_4 0 rfl rfl)
theorem dX6_twin_97 : decode cX6_twin 97 = .ok (.iconst 0, 1) := dk_3 (dk_at dksX6_twin_4 3 rfl rfl)
theorem dX6_twin_98 : decode cX6_twin 98 = .ok (.iadd, 1) := dk_96 (dk_at dksX6_twin_4 4 rfl rfl)
theorem dX6_twin_99 : decode cX6_twin 99 = .ok (.istore 6, 2) := dk_54 6 (dk_at dksX6_twin_4 5 rfl rfl)
theorem dX6_twin_101 : decode cX6_twin 101 = .ok (.iinc 7 1, 3) := dk_132 7 1 (dk_at dksX6_twin_4 7 rfl rfl)
theorem dX6_twin_104 : decode cX6_twin 104 = .ok (.goto (-41), 3) := dk_167 255 215 (dk_at dksX6_twin_4 10 rfl rfl)
theorem dX6_twin_107 : decode cX6_twin 107 = .ok (.aload_n 0, 1) := dk_42 (dk_at dksX6_twin_4 13 rfl rfl)
theorem dX6_twin_108 : decode cX6_twin 108 = .ok (.iload_n 1, 1) := dk_27 (dk_at dksX6_twin_4 14 rfl rfl)
theorem dX6_twin_109 : decode cX6_twin 109 = .ok (.iload 5, 2) := dk_21 5 (dk_at dksX6_twin_4 15 rfl rfl)
theorem dX6_twin_111 : decode cX6_twin 111 = .ok (.invokevirtual 383, 3) := dk_182 1 127 (dk_at dksX6_twin_4 17 rfl rfl)
theorem dX6_twin_114 : decode cX6_twin 114 = .ok (.istore 7, 2) := dk_54 7 (dk_at dksX6_twin_4 20 rfl rfl)
theorem dX6_twin_116 : decode cX6_twin 116 = .ok (.aload_n 0, 1) := dk_42 (dk_at dksX6_twin_4 22 rfl rfl)
theorem dX6_twin_117 : decode cX6_twin 117 = .ok (.iload_n 2, 1) := dk_28 (dk_at dksX6_twin_4 23 rfl rfl)
theorem dX6_twin_118 : decode cX6_twin 118 = .ok (.iload 5, 2) := dk_21 5 (dk_at dksX6_twin_5 0 rfl rfl)
theorem dX6_twin_120 : decode cX6_twin 120 = .ok (.invokevirtual 383, 3) := dk_182 1 127 (dk_at dksX6_twin_5 2 rfl rfl)
theorem dX6_twin_123 : decode cX6_twin 123 = .ok (.istore 8, 2) := dk_54 8 (dk_at dksX6_twin_5 5 rfl rfl)
theorem dX6_twin_125 : decode cX6_twin 125 = .ok (.iload_n 3, 1) := dk_29 (dk_at dksX6_twin_5 7 rfl rfl)
theorem dX6_twin_126 : decode cX6_twin 126 = .ok (.iload 6, 2) := dk_21 6 (dk_at dksX6_twin_5 8 rfl rfl)
theorem dX6_twin_128 : decode cX6_twin 128 = .ok (.ifCond .le 7, 3) := dk_158 0 7 (dk_at dksX6_twin_5 10 rfl rfl)
theorem dX6_twin_131 : decode cX6_twin 131 = .ok (.iconst 0, 1) := dk_3 (dk_at dksX6_twin_5 13 rfl rfl)
theorem dX6_twin_132 : decode cX6_twin 132 = .ok (.goto 17, 3) := dk_167 0 17 (dk_at dksX6_twin_5 14 rfl rfl)
theorem dX6_twin_135 : decode cX6_twin 135 = .ok (.iload 7, 2) := dk_21 7 (dk_at dksX6_twin_5 17 rfl rfl)
theorem dX6_twin_137 : decode cX6_twin 137 = .ok (.iload 8, 2) := dk_21 8 (dk_at dksX6_twin_5 19 rfl rfl)
theorem dX6_twin_139 : decode cX6_twin 139 = .ok (.if_icmp .ge 8, 3) := dk_162 0 8 (dk_at dksX6_twin_5 21 rfl rfl)
theorem dX6_twin_142 : decode cX6_twin 142 = .ok (.iload 7, 2) := dk_21 7 (dk_at dksX6_twin_6 0 rfl rfl)
theorem dX6_twin_144 : decode cX6_twin 144 = .ok (.goto 5, 3) := dk_167 0 5 (dk_at dksX6_twin_6 2 rfl rfl)
theorem dX6_twin_147 : decode cX6_twin 147 = .ok (.iload 8, 2) := dk_21 8 (dk_at dksX6_twin_6 5 rfl rfl)
theorem dX6_twin_149 : decode cX6_twin 149 = .ok (.iadd, 1) := dk_96 (dk_at dksX6_twin_6 7 rfl rfl)
theorem dX6_twin_150 : decode cX6_twin 150 = .ok (.istore_n 3, 1) := dk_62 (dk_at dksX6_twin_6 8 rfl rfl)
theorem dX6_twin_151 : decode cX6_twin 151 = .ok (.iinc 4 1, 3) := dk_132 4 1 (dk_at dksX6_twin_6 9 rfl rfl)
theorem dX6_twin_154 : decode cX6_twin 154 = .ok (.goto (-121), 3) := dk_167 255 135 (dk_at dksX6_twin_6 12 rfl rfl)
theorem dX6_twin_157 : decode cX6_twin 157 = .ok (.iload_n 3, 1) := dk_29 (dk_at dksX6_twin_6 15 rfl rfl)
theorem dX6_twin_158 : decode cX6_twin 158 = .ok (.ireturn, 1) := dk_172 (dk_at dksX6_twin_6 16 rfl rfl)
abbrev cX6_likeIn : ByteArray := prog_24_method_108_code
def yX6_likeIn : MethodName := ⟨RX6, "likeIn", "(II)I"⟩
def dkwX6_likeIn_2 : List UInt8 := [132, 4, 1, 167, 255, 211, 29, 172]
abbrev dktX6_likeIn_2 : List UInt8 := dkwX6_likeIn_2 ++ []
def dkwX6_likeIn_1 : List UInt8 := [21, 4, 182, 1, 44, 17, 3, 255, 126, 28, 17, 3, 255, 126, 160, 0, 7, 4, 167, 0, 4, 3, 96, 62]
abbrev dktX6_likeIn_1 : List UInt8 := dkwX6_likeIn_1 ++ dktX6_likeIn_2
def dkwX6_likeIn_0 : List UInt8 := [3, 62, 3, 54, 4, 21, 4, 42, 180, 0, 119, 16, 18, 27, 96, 46, 162, 0, 37, 29, 42, 3, 27]
abbrev dktX6_likeIn_0 : List UInt8 := dkwX6_likeIn_0 ++ dktX6_likeIn_1
theorem dksX6_likeIn_0 : cX6_likeIn.data.toList.drop 0 = dktX6_likeIn_0 := by decide +kernel
theorem dksX6_likeIn_1 : cX6_likeIn.data.toList.drop 23 = dktX6_likeIn_1 := dk_seg dksX6_likeIn_0 23 rfl rfl
theorem dksX6_likeIn_2 : cX6_likeIn.data.toList.drop 47 = dktX6_likeIn_2 := dk_seg dksX6_likeIn_1 24 rfl rfl
theorem dX6_likeIn_0 : decode cX6_likeIn 0 = .ok (.iconst 0, 1) := dk_3 (dk_at dksX6_likeIn_0 0 rfl rfl)
theorem dX6_likeIn_1 : decode cX6_likeIn 1 = .ok (.istore_n 3, 1) := dk_62 (dk_at dksX6_likeIn_0 1 rfl rfl)
theorem dX6_likeIn_2 : decode cX6_likeIn 2 = .ok (.iconst 0, 1) := dk_3 (dk_at dksX6_likeIn_0 2 rfl rfl)
theorem dX6_likeIn_3 : decode cX6_likeIn 3 = .ok (.istore 4, 2) := dk_54 4 (dk_at dksX6_likeIn_0 3 rfl rfl)
theorem dX6_likeIn_5 : decode cX6_likeIn 5 = .ok (.iload 4, 2) := dk_21 4 (dk_at dksX6_likeIn_0 5 rfl rfl)
theorem dX6_likeIn_7 : decode cX6_likeIn 7 = .ok (.aload_n 0, 1) := dk_42 (dk_at dksX6_likeIn_0 7 rfl rfl)
theorem dX6_likeIn_8 : decode cX6_likeIn 8 = .ok (.getfield 119, 3) := dk_180 0 119 (dk_at dksX6_likeIn_0 8 rfl rfl)
theorem dX6_likeIn_11 : decode cX6_likeIn 11 = .ok (.bipush 18, 2) := dk_16 18 (dk_at dksX6_likeIn_0 11 rfl rfl)
theorem dX6_likeIn_13 : decode cX6_likeIn 13 = .ok (.iload_n 1, 1) := dk_27 (dk_at dksX6_likeIn_0 13 rfl rfl)
theorem dX6_likeIn_14 : decode cX6_likeIn 14 = .ok (.iadd, 1) := dk_96 (dk_at dksX6_likeIn_0 14 rfl rfl)
theorem dX6_likeIn_15 : decode cX6_likeIn 15 = .ok (.iaload, 1) := dk_46 (dk_at dksX6_likeIn_0 15 rfl rfl)
theorem dX6_likeIn_16 : decode cX6_likeIn 16 = .ok (.if_icmp .ge 37, 3) := dk_162 0 37 (dk_at dksX6_likeIn_0 16 rfl rfl)
theorem dX6_likeIn_19 : decode cX6_likeIn 19 = .ok (.iload_n 3, 1) := dk_29 (dk_at dksX6_likeIn_0 19 rfl rfl)
theorem dX6_likeIn_20 : decode cX6_likeIn 20 = .ok (.aload_n 0, 1) := dk_42 (dk_at dksX6_likeIn_0 20 rfl rfl)
theorem dX6_likeIn_21 : decode cX6_likeIn 21 = .ok (.iconst 0, 1) := dk_3 (dk_at dksX6_likeIn_0 21 rfl rfl)
theorem dX6_likeIn_22 : decode cX6_likeIn 22 = .ok (.iload_n 1, 1) := dk_27 (dk_at dksX6_likeIn_0 22 rfl rfl)
theorem dX6_likeIn_23 : decode cX6_likeIn 23 = .ok (.iload 4, 2) := dk_21 4 (dk_at dksX6_likeIn_1 0 rfl rfl)
theorem dX6_likeIn_25 : decode cX6_likeIn 25 = .ok (.invokevirtual 300, 3) := dk_182 1 44 (dk_at dksX6_likeIn_1 2 rfl rfl)
theorem dX6_likeIn_28 : decode cX6_likeIn 28 = .ok (.sipush 1023, 3) := dk_17 3 255 (dk_at dksX6_likeIn_1 5 rfl rfl)
theorem dX6_likeIn_31 : decode cX6_likeIn 31 = .ok (.iand, 1) := dk_126 (dk_at dksX6_likeIn_1 8 rfl rfl)
theorem dX6_likeIn_32 : decode cX6_likeIn 32 = .ok (.iload_n 2, 1) := dk_28 (dk_at dksX6_likeIn_1 9 rfl rfl)
theorem dX6_likeIn_33 : decode cX6_likeIn 33 = .ok (.sipush 1023, 3) := dk_17 3 255 (dk_at dksX6_likeIn_1 10 rfl rfl)
theorem dX6_likeIn_36 : decode cX6_likeIn 36 = .ok (.iand, 1) := dk_126 (dk_at dksX6_likeIn_1 13 rfl rfl)
theorem dX6_likeIn_37 : decode cX6_likeIn 37 = .ok (.if_icmp .ne 7, 3) := dk_160 0 7 (dk_at dksX6_likeIn_1 14 rfl rfl)
theorem dX6_likeIn_40 : decode cX6_likeIn 40 = .ok (.iconst 1, 1) := dk_4 (dk_at dksX6_likeIn_1 17 rfl rfl)
theorem dX6_likeIn_41 : decode cX6_likeIn 41 = .ok (.goto 4, 3) := dk_167 0 4 (dk_at dksX6_likeIn_1 18 rfl rfl)
theorem dX6_likeIn_44 : decode cX6_likeIn 44 = .ok (.iconst 0, 1) := dk_3 (dk_at dksX6_likeIn_1 21 rfl rfl)
theorem dX6_likeIn_45 : decode cX6_likeIn 45 = .ok (.iadd, 1) := dk_96 (dk_at dksX6_likeIn_1 22 rfl rfl)
theorem dX6_likeIn_46 : decode cX6_likeIn 46 = .ok (.istore_n 3, 1) := dk_62 (dk_at dksX6_likeIn_1 23 rfl rfl)
theorem dX6_likeIn_47 : decode cX6_likeIn 47 = .ok (.iinc 4 1, 3) := dk_132 4 1 (dk_at dksX6_likeIn_2 0 rfl rfl)
theorem dX6_likeIn_50 : decode cX6_likeIn 50 = .ok (.goto (-45), 3) := dk_167 255 211 (dk_at dksX6_likeIn_2 3 rfl rfl)
theorem dX6_likeIn_53 : decode cX6_likeIn 53 = .ok (.iload_n 3, 1) := dk_29 (dk_at dksX6_likeIn_2 6 rfl rfl)
theorem dX6_likeIn_54 : decode cX6_likeIn 54 = .ok (.ireturn, 1) := dk_172 (dk_at dksX6_likeIn_2 7 rfl rfl)
abbrev cX6_run : ByteArray := prog_24_method_110_code
def yX6_run : MethodName := ⟨RX6, "run", "(I)I"⟩
def dkwX6_run_2 : List UInt8 := [28, 172, 42, 17, 5, 106, 182, 1, 105, 87, 132, 2, 1, 167, 255, 224, 2, 172]
abbrev dktX6_run_2 : List UInt8 := dkwX6_run_2 ++ []
def dkwX6_run_1 : List UInt8 := [182, 1, 19, 3, 61, 28, 16, 100, 162, 0, 32, 42, 180, 0, 119, 17, 5, 124, 27, 96, 46, 154, 0, 5]
abbrev dktX6_run_1 : List UInt8 := dkwX6_run_1 ++ dktX6_run_2
def dkwX6_run_0 : List UInt8 := [42, 3, 181, 0, 1, 42, 27, 182, 1, 81, 154, 0, 5, 2, 172, 42, 3, 17, 5, 106, 16, 60]
abbrev dktX6_run_0 : List UInt8 := dkwX6_run_0 ++ dktX6_run_1
theorem dksX6_run_0 : cX6_run.data.toList.drop 0 = dktX6_run_0 := by decide +kernel
theorem dksX6_run_1 : cX6_run.data.toList.drop 22 = dktX6_run_1 := dk_seg dksX6_run_0 22 rfl rfl
theorem dksX6_run_2 : cX6_run.data.toList.drop 46 = dktX6_run_2 := dk_seg dksX6_run_1 24 rfl rfl
theorem dX6_run_0 : decode cX6_run 0 = .ok (.aload_n 0, 1) := dk_42 (dk_at dksX6_run_0 0 rfl rfl)
theorem dX6_run_1 : decode cX6_run 1 = .ok (.iconst 0, 1) := dk_3 (dk_at dksX6_run_0 1 rfl rfl)
theorem dX6_run_2 : decode cX6_run 2 = .ok (.putfield 1, 3) := dk_181 0 1 (dk_at dksX6_run_0 2 rfl rfl)
theorem dX6_run_5 : decode cX6_run 5 = .ok (.aload_n 0, 1) := dk_42 (dk_at dksX6_run_0 5 rfl rfl)
theorem dX6_run_6 : decode cX6_run 6 = .ok (.iload_n 1, 1) := dk_27 (dk_at dksX6_run_0 6 rfl rfl)
theorem dX6_run_7 : decode cX6_run 7 = .ok (.invokevirtual 337, 3) := dk_182 1 81 (dk_at dksX6_run_0 7 rfl rfl)
theorem dX6_run_10 : decode cX6_run 10 = .ok (.ifCond .ne 5, 3) := dk_154 0 5 (dk_at dksX6_run_0 10 rfl rfl)
theorem dX6_run_13 : decode cX6_run 13 = .ok (.iconst (-1), 1) := dk_2 (dk_at dksX6_run_0 13 rfl rfl)
theorem dX6_run_14 : decode cX6_run 14 = .ok (.ireturn, 1) := dk_172 (dk_at dksX6_run_0 14 rfl rfl)
theorem dX6_run_15 : decode cX6_run 15 = .ok (.aload_n 0, 1) := dk_42 (dk_at dksX6_run_0 15 rfl rfl)
theorem dX6_run_16 : decode cX6_run 16 = .ok (.iconst 0, 1) := dk_3 (dk_at dksX6_run_0 16 rfl rfl)
theorem dX6_run_17 : decode cX6_run 17 = .ok (.sipush 1386, 3) := dk_17 5 106 (dk_at dksX6_run_0 17 rfl rfl)
theorem dX6_run_20 : decode cX6_run 20 = .ok (.bipush 60, 2) := dk_16 60 (dk_at dksX6_run_0 20 rfl rfl)
theorem dX6_run_22 : decode cX6_run 22 = .ok (.invokevirtual 275, 3) := dk_182 1 19 (dk_at dksX6_run_1 0 rfl rfl)
theorem dX6_run_25 : decode cX6_run 25 = .ok (.iconst 0, 1) := dk_3 (dk_at dksX6_run_1 3 rfl rfl)
theorem dX6_run_26 : decode cX6_run 26 = .ok (.istore_n 2, 1) := dk_61 (dk_at dksX6_run_1 4 rfl rfl)
theorem dX6_run_27 : decode cX6_run 27 = .ok (.iload_n 2, 1) := dk_28 (dk_at dksX6_run_1 5 rfl rfl)
theorem dX6_run_28 : decode cX6_run 28 = .ok (.bipush 100, 2) := dk_16 100 (dk_at dksX6_run_1 6 rfl rfl)
theorem dX6_run_30 : decode cX6_run 30 = .ok (.if_icmp .ge 32, 3) := dk_162 0 32 (dk_at dksX6_run_1 8 rfl rfl)
theorem dX6_run_33 : decode cX6_run 33 = .ok (.aload_n 0, 1) := dk_42 (dk_at dksX6_run_1 11 rfl rfl)
theorem dX6_run_34 : decode cX6_run 34 = .ok (.getfield 119, 3) := dk_180 0 119 (dk_at dksX6_run_1 12 rfl rfl)
theorem dX6_run_37 : decode cX6_run 37 = .ok (.sipush 1404, 3) := dk_17 5 124 (dk_at dksX6_run_1 15 rfl rfl)
theorem dX6_run_40 : decode cX6_run 40 = .ok (.iload_n 1, 1) := dk_27 (dk_at dksX6_run_1 18 rfl rfl)
theorem dX6_run_41 : decode cX6_run 41 = .ok (.iadd, 1) := dk_96 (dk_at dksX6_run_1 19 rfl rfl)
theorem dX6_run_42 : decode cX6_run 42 = .ok (.iaload, 1) := dk_46 (dk_at dksX6_run_1 20 rfl rfl)
theorem dX6_run_43 : decode cX6_run 43 = .ok (.ifCond .ne 5, 3) := dk_154 0 5 (dk_at dksX6_run_1 21 rfl rfl)
theorem dX6_run_46 : decode cX6_run 46 = .ok (.iload_n 2, 1) := dk_28 (dk_at dksX6_run_2 0 rfl rfl)
theorem dX6_run_47 : decode cX6_run 47 = .ok (.ireturn, 1) := dk_172 (dk_at dksX6_run_2 1 rfl rfl)
theorem dX6_run_48 : decode cX6_run 48 = .ok (.aload_n 0, 1) := dk_42 (dk_at dksX6_run_2 2 rfl rfl)
theorem dX6_run_49 : decode cX6_run 49 = .ok (.sipush 1386, 3) := dk_17 5 106 (dk_at dksX6_run_2 3 rfl rfl)
theorem dX6_run_52 : decode cX6_run 52 = .ok (.invokevirtual 361, 3) := dk_182 1 105 (dk_at dksX6_run_2 6 rfl rfl)
theorem dX6_run_55 : decode cX6_run 55 = .ok (.pop, 1) := dk_87 (dk_at dksX6_run_2 9 rfl rfl)
theorem dX6_run_56 : decode cX6_run 56 = .ok (.iinc 2 1, 3) := dk_132 2 1 (dk_at dksX6_run_2 10 rfl rfl)
theorem dX6_run_59 : decode cX6_run 59 = .ok (.goto (-32), 3) := dk_167 255 224 (dk_at dksX6_run_2 13 rfl rfl)
theorem dX6_run_62 : decode cX6_run 62 = .ok (.iconst (-1), 1) := dk_2 (dk_at dksX6_run_2 16 rfl rfl)
theorem dX6_run_63 : decode cX6_run 63 = .ok (.ireturn, 1) := dk_172 (dk_at dksX6_run_2 17 rfl rfl)
abbrev cX6_rests : ByteArray := prog_24_method_112_code
def yX6_rests : MethodName := ⟨RX6, "rests", "(IIII)I"⟩
def dkwX6_rests_9 : List UInt8 := [156, 0, 8, 21, 6, 167, 0, 5, 21, 7, 172]
abbrev dktX6_rests_9 : List UInt8 := dkwX6_rests_9 ++ []
def dkwX6_rests_8 : List UInt8 := [155, 0, 7, 3, 167, 0, 4, 4, 181, 0, 1, 42, 180, 0, 1, 158, 0, 7, 3, 167, 0, 15, 21, 4]
abbrev dktX6_rests_8 : List UInt8 := dkwX6_rests_8 ++ dktX6_rests_9
def dkwX6_rests_7 : List UInt8 := [96, 54, 6, 132, 8, 1, 167, 255, 137, 42, 21, 5, 153, 0, 17, 21, 4, 155, 0, 8, 21, 7]
abbrev dktX6_rests_7 : List UInt8 := dkwX6_rests_7 ++ dktX6_rests_8
def dkwX6_rests_6 : List UInt8 := [160, 0, 8, 21, 8, 167, 0, 5, 21, 7, 54, 7, 21, 6, 21, 11, 153, 0, 7, 4, 167, 0, 4, 3]
abbrev dktX6_rests_6 : List UInt8 := dkwX6_rests_6 ++ dktX6_rests_7
def dkwX6_rests_5 : List UInt8 := [29, 184, 1, 130, 163, 0, 7, 4, 167, 0, 4, 3, 54, 11, 21, 11, 153, 0, 15, 21, 6, 21, 4]
abbrev dktX6_rests_5 : List UInt8 := dkwX6_rests_5 ++ dktX6_rests_6
def dkwX6_rests_4 : List UInt8 := [184, 1, 130, 163, 0, 32, 4, 21, 10, 100, 21, 9, 27, 28, 29, 184, 1, 130, 21, 10, 21, 9, 27, 28]
abbrev dktX6_rests_4 : List UInt8 := dkwX6_rests_4 ++ dktX6_rests_5
def dkwX6_rests_3 : List UInt8 := [5, 112, 54, 10, 4, 21, 9, 100, 21, 10, 27, 28, 29, 184, 1, 130, 21, 9, 21, 10, 27, 28, 29]
abbrev dktX6_rests_3 : List UInt8 := dkwX6_rests_3 ++ dktX6_rests_4
def dkwX6_rests_2 : List UInt8 := [54, 7, 3, 54, 8, 21, 8, 7, 162, 0, 119, 21, 5, 153, 0, 114, 21, 8, 5, 108, 54, 9, 21, 8]
abbrev dktX6_rests_2 : List UInt8 := dkwX6_rests_2 ++ dktX6_rests_3
def dkwX6_rests_1 : List UInt8 := [184, 0, 198, 153, 0, 13, 21, 4, 2, 161, 0, 7, 4, 167, 0, 4, 3, 54, 5, 3, 54, 6, 2]
abbrev dktX6_rests_1 : List UInt8 := dkwX6_rests_1 ++ dktX6_rests_2
def dkwX6_rests_0 : List UInt8 := [27, 3, 16, 9, 184, 0, 198, 153, 0, 33, 28, 3, 16, 9, 184, 0, 198, 153, 0, 23, 29, 3, 16, 9]
abbrev dktX6_rests_0 : List UInt8 := dkwX6_rests_0 ++ dktX6_rests_1
theorem dksX6_rests_0 : cX6_rests.data.toList.drop 0 = dktX6_rests_0 := by decide +kernel
theorem dksX6_rests_1 : cX6_rests.data.toList.drop 24 = dktX6_rests_1 := dk_seg dksX6_rests_0 24 rfl rfl
theorem dksX6_rests_2 : cX6_rests.data.toList.drop 47 = dktX6_rests_2 := dk_seg dksX6_rests_1 23 rfl rfl
theorem dksX6_rests_3 : cX6_rests.data.toList.drop 71 = dktX6_rests_3 := dk_seg dksX6_rests_2 24 rfl rfl
theorem dksX6_rests_4 : cX6_rests.data.toList.drop 94 = dktX6_rests_4 := dk_seg dksX6_rests_3 23 rfl rfl
theorem dksX6_rests_5 : cX6_rests.data.toList.drop 118 = dktX6_rests_5 := dk_seg dksX6_rests_4 24 rfl rfl
theorem dksX6_rests_6 : cX6_rests.data.toList.drop 141 = dktX6_rests_6 := dk_seg dksX6_rests_5 23 rfl rfl
theorem dksX6_rests_7 : cX6_rests.data.toList.drop 165 = dktX6_rests_7 := dk_seg dksX6_rests_6 24 rfl rfl
theorem dksX6_rests_8 : cX6_rests.data.toList.drop 187 = dktX6_rests_8 := dk_seg dksX6_rests_7 22 rfl rfl
theorem dksX6_rests_9 : cX6_rests.data.toList.drop 211 = dktX6_rests_9 := dk_seg dksX6_rests_8 24 rfl rfl
theorem dX6_rests_0 : decode cX6_rests 0 = .ok (.iload_n 1, 1) := dk_27 (dk_at dksX6_rests_0 0 rfl rfl)
theorem dX6_rests_1 : decode cX6_rests 1 = .ok (.iconst 0, 1) := dk_3 (dk_at dksX6_rests_0 1 rfl rfl)
theorem dX6_rests_2 : decode cX6_rests 2 = .ok (.bipush 9, 2) := dk_16 9 (dk_at dksX6_rests_0 2 rfl rfl)
theorem dX6_rests_4 : decode cX6_rests 4 = .ok (.invokestatic 198, 3) := dk_184 0 198 (dk_at dksX6_rests_0 4 rfl rfl)
theorem dX6_rests_7 : decode cX6_rests 7 = .ok (.ifCond .eq 33, 3) := dk_153 0 33 (dk_at dksX6_rests_0 7 rfl rfl)
theorem dX6_rests_10 : decode cX6_rests 10 = .ok (.iload_n 2, 1) := dk_28 (dk_at dksX6_rests_0 10 rfl rfl)
theorem dX6_rests_11 : decode cX6_rests 11 = .ok (.iconst 0, 1) := dk_3 (dk_at dksX6_rests_0 11 rfl rfl)
theorem dX6_rests_12 : decode cX6_rests 12 = .ok (.bipush 9, 2) := dk_16 9 (dk_at dksX6_rests_0 12 rfl rfl)
theorem dX6_rests_14 : decode cX6_rests 14 = .ok (.invokestatic 198, 3) := dk_184 0 198 (dk_at dksX6_rests_0 14 rfl rfl)
theorem dX6_rests_17 : decode cX6_rests 17 = .ok (.ifCond .eq 23, 3) := dk_153 0 23 (dk_at dksX6_rests_0 17 rfl rfl)
theorem dX6_rests_20 : decode cX6_rests 20 = .ok (.iload_n 3, 1) := dk_29 (dk_at dksX6_rests_0 20 rfl rfl)
theorem dX6_rests_21 : decode cX6_rests 21 = .ok (.iconst 0, 1) := dk_3 (dk_at dksX6_rests_0 21 rfl rfl)
theorem dX6_rests_22 : decode cX6_rests 22 = .ok (.bipush 9, 2) := dk_16 9 (dk_at dksX6_rests_0 22 rfl rfl)
theorem dX6_rests_24 : decode cX6_rests 24 = .ok (.invokestatic 198, 3) := dk_184 0 198 (dk_at dksX6_rests_1 0 rfl rfl)
theorem dX6_rests_27 : decode cX6_rests 27 = .ok (.ifCond .eq 13, 3) := dk_153 0 13 (dk_at dksX6_rests_1 3 rfl rfl)
theorem dX6_rests_30 : decode cX6_rests 30 = .ok (.iload 4, 2) := dk_21 4 (dk_at dksX6_rests_1 6 rfl rfl)
theorem dX6_rests_32 : decode cX6_rests 32 = .ok (.iconst (-1), 1) := dk_2 (dk_at dksX6_rests_1 8 rfl rfl)
theorem dX6_rests_33 : decode cX6_rests 33 = .ok (.if_icmp .lt 7, 3) := dk_161 0 7 (dk_at dksX6_rests_1 9 rfl rfl)
theorem dX6_rests_36 : decode cX6_rests 36 = .ok (.iconst 1, 1) := dk_4 (dk_at dksX6_rests_1 12 rfl rfl)
theorem dX6_rests_37 : decode cX6_rests 37 = .ok (.goto 4, 3) := dk_167 0 4 (dk_at dksX6_rests_1 13 rfl rfl)
theorem dX6_rests_40 : decode cX6_rests 40 = .ok (.iconst 0, 1) := dk_3 (dk_at dksX6_rests_1 16 rfl rfl)
theorem dX6_rests_41 : decode cX6_rests 41 = .ok (.istore 5, 2) := dk_54 5 (dk_at dksX6_rests_1 17 rfl rfl)
theorem dX6_rests_43 : decode cX6_rests 43 = .ok (.iconst 0, 1) := dk_3 (dk_at dksX6_rests_1 19 rfl rfl)
theorem dX6_rests_44 : decode cX6_rests 44 = .ok (.istore 6, 2) := dk_54 6 (dk_at dksX6_rests_1 20 rfl rfl)
theorem dX6_rests_46 : decode cX6_rests 46 = .ok (.iconst (-1), 1) := dk_2 (dk_at dksX6_rests_1 22 rfl rfl)
theorem dX6_rests_47 : decode cX6_rests 47 = .ok (.istore 7, 2) := dk_54 7 (dk_at dksX6_rests_2 0 rfl rfl)
theorem dX6_rests_49 : decode cX6_rests 49 = .ok (.iconst 0, 1) := dk_3 (dk_at dksX6_rests_2 2 rfl rfl)
theorem dX6_rests_50 : decode cX6_rests 50 = .ok (.istore 8, 2) := dk_54 8 (dk_at dksX6_rests_2 3 rfl rfl)
theorem dX6_rests_52 : decode cX6_rests 52 = .ok (.iload 8, 2) := dk_21 8 (dk_at dksX6_rests_2 5 rfl rfl)
theorem dX6_rests_54 : decode cX6_rests 54 = .ok (.iconst 4, 1) := dk_7 (dk_at dksX6_rests_2 7 rfl rfl)
theorem dX6_rests_55 : decode cX6_rests 55 = .ok (.if_icmp .ge 119, 3) := dk_162 0 119 (dk_at dksX6_rests_2 8 rfl rfl)
theorem dX6_rests_58 : decode cX6_rests 58 = .ok (.iload 5, 2) := dk_21 5 (dk_at dksX6_rests_2 11 rfl rfl)
theorem dX6_rests_60 : decode cX6_rests 60 = .ok (.ifCond .eq 114, 3) := dk_153 0 114 (dk_at dksX6_rests_2 13 rfl rfl)
theorem dX6_rests_63 : decode cX6_rests 63 = .ok (.iload 8, 2) := dk_21 8 (dk_at dksX6_rests_2 16 rfl rfl)
theorem dX6_rests_65 : decode cX6_rests 65 = .ok (.iconst 2, 1) := dk_5 (dk_at dksX6_rests_2 18 rfl rfl)
theorem dX6_rests_66 : decode cX6_rests 66 = .ok (.idiv, 1) := dk_108 (dk_at dksX6_rests_2 19 rfl rfl)
theorem dX6_rests_67 : decode cX6_rests 67 = .ok (.istore 9, 2) := dk_54 9 (dk_at dksX6_rests_2 20 rfl rfl)
theorem dX6_rests_69 : decode cX6_rests 69 = .ok (.iload 8, 2) := dk_21 8 (dk_at dksX6_rests_2 22 rfl rfl)
theorem dX6_rests_71 : decode cX6_rests 71 = .ok (.iconst 2, 1) := dk_5 (dk_at dksX6_rests_3 0 rfl rfl)
theorem dX6_rests_72 : decode cX6_rests 72 = .ok (.irem, 1) := dk_112 (dk_at dksX6_rests_3 1 rfl rfl)
theorem dX6_rests_73 : decode cX6_rests 73 = .ok (.istore 10, 2) := dk_54 10 (dk_at dksX6_rests_3 2 rfl rfl)
theorem dX6_rests_75 : decode cX6_rests 75 = .ok (.iconst 1, 1) := dk_4 (dk_at dksX6_rests_3 4 rfl rfl)
theorem dX6_rests_76 : decode cX6_rests 76 = .ok (.iload 9, 2) := dk_21 9 (dk_at dksX6_rests_3 5 rfl rfl)
theorem dX6_rests_78 : decode cX6_rests 78 = .ok (.isub, 1) := dk_100 (dk_at dksX6_rests_3 7 rfl rfl)
theorem dX6_rests_79 : decode cX6_rests 79 = .ok (.iload 10, 2) := dk_21 10 (dk_at dksX6_rests_3 8 rfl rfl)
theorem dX6_rests_81 : decode cX6_rests 81 = .ok (.iload_n 1, 1) := dk_27 (dk_at dksX6_rests_3 10 rfl rfl)
theorem dX6_rests_82 : decode cX6_rests 82 = .ok (.iload_n 2, 1) := dk_28 (dk_at dksX6_rests_3 11 rfl rfl)
theorem dX6_rests_83 : decode cX6_rests 83 = .ok (.iload_n 3, 1) := dk_29 (dk_at dksX6_rests_3 12 rfl rfl)
theorem dX6_rests_84 : decode cX6_rests 84 = .ok (.invokestatic 386, 3) := dk_184 1 130 (dk_at dksX6_rests_3 13 rfl rfl)
theorem dX6_rests_87 : decode cX6_rests 87 = .ok (.iload 9, 2) := dk_21 9 (dk_at dksX6_rests_3 16 rfl rfl)
theorem dX6_rests_89 : decode cX6_rests 89 = .ok (.iload 10, 2) := dk_21 10 (dk_at dksX6_rests_3 18 rfl rfl)
theorem dX6_rests_91 : decode cX6_rests 91 = .ok (.iload_n 1, 1) := dk_27 (dk_at dksX6_rests_3 20 rfl rfl)
theorem dX6_rests_92 : decode cX6_rests 92 = .ok (.iload_n 2, 1) := dk_28 (dk_at dksX6_rests_3 21 rfl rfl)
theorem dX6_rests_93 : decode cX6_rests 93 = .ok (.iload_n 3, 1) := dk_29 (dk_at dksX6_rests_3 22 rfl rfl)
theorem dX6_rests_94 : decode cX6_rests 94 = .ok (.invokestatic 386, 3) := dk_184 1 130 (dk_at dksX6_rests_4 0 rfl rfl)
theorem dX6_rests_97 : decode cX6_rests 97 = .ok (.if_icmp .gt 32, 3) := dk_163 0 32 (dk_at dksX6_rests_4 3 rfl rfl)
theorem dX6_rests_100 : decode cX6_rests 100 = .ok (.iconst 1, 1) := dk_4 (dk_at dksX6_rests_4 6 rfl rfl)
theorem dX6_rests_101 : decode cX6_rests 101 = .ok (.iload 10, 2) := dk_21 10 (dk_at dksX6_rests_4 7 rfl rfl)
theorem dX6_rests_103 : decode cX6_rests 103 = .ok (.isub, 1) := dk_100 (dk_at dksX6_rests_4 9 rfl rfl)
theorem dX6_rests_104 : decode cX6_rests 104 = .ok (.iload 9, 2) := dk_21 9 (dk_at dksX6_rests_4 10 rfl rfl)
theorem dX6_rests_106 : decode cX6_rests 106 = .ok (.iload_n 1, 1) := dk_27 (dk_at dksX6_rests_4 12 rfl rfl)
theorem dX6_rests_107 : decode cX6_rests 107 = .ok (.iload_n 2, 1) := dk_28 (dk_at dksX6_rests_4 13 rfl rfl)
theorem dX6_rests_108 : decode cX6_rests 108 = .ok (.iload_n 3, 1) := dk_29 (dk_at dksX6_rests_4 14 rfl rfl)
theorem dX6_rests_109 : decode cX6_rests 109 = .ok (.invokestatic 386, 3) := dk_184 1 130 (dk_at dksX6_rests_4 15 rfl rfl)
theorem dX6_rests_112 : decode cX6_rests 112 = .ok (.iload 10, 2) := dk_21 10 (dk_at dksX6_rests_4 18 rfl rfl)
theorem dX6_rests_114 : decode cX6_rests 114 = .ok (.iload 9, 2) := dk_21 9 (dk_at dksX6_rests_4 20 rfl rfl)
theorem dX6_rests_116 : decode cX6_rests 116 = .ok (.iload_n 1, 1) := dk_27 (dk_at dksX6_rests_4 22 rfl rfl)
theorem dX6_rests_117 : decode cX6_rests 117 = .ok (.iload_n 2, 1) := dk_28 (dk_at dksX6_rests_4 23 rfl rfl)
theorem dX6_rests_118 : decode cX6_rests 118 = .ok (.iload_n 3, 1) := dk_29 (dk_at dksX6_rests_5 0 rfl rfl)
theorem dX6_rests_119 : decode cX6_rests 119 = .ok (.invokestatic 386, 3) := dk_184 1 130 (dk_at dksX6_rests_5 1 rfl rfl)
theorem dX6_rests_122 : decode cX6_rests 122 = .ok (.if_icmp .gt 7, 3) := dk_163 0 7 (dk_at dksX6_rests_5 4 rfl rfl)
theorem dX6_rests_125 : decode cX6_rests 125 = .ok (.iconst 1, 1) := dk_4 (dk_at dksX6_rests_5 7 rfl rfl)
theorem dX6_rests_126 : decode cX6_rests 126 = .ok (.goto 4, 3) := dk_167 0 4 (dk_at dksX6_rests_5 8 rfl rfl)
theorem dX6_rests_129 : decode cX6_rests 129 = .ok (.iconst 0, 1) := dk_3 (dk_at dksX6_rests_5 11 rfl rfl)
theorem dX6_rests_130 : decode cX6_rests 130 = .ok (.istore 11, 2) := dk_54 11 (dk_at dksX6_rests_5 12 rfl rfl)
theorem dX6_rests_132 : decode cX6_rests 132 = .ok (.iload 11, 2) := dk_21 11 (dk_at dksX6_rests_5 14 rfl rfl)
theorem dX6_rests_134 : decode cX6_rests 134 = .ok (.ifCond .eq 15, 3) := dk_153 0 15 (dk_at dksX6_rests_5 16 rfl rfl)
theorem dX6_rests_137 : decode cX6_rests 137 = .ok (.iload 6, 2) := dk_21 6 (dk_at dksX6_rests_5 19 rfl rfl)
theorem dX6_rests_139 : decode cX6_rests 139 = .ok (.iload 4, 2) := dk_21 4 (dk_at dksX6_rests_5 21 rfl rfl)
theorem dX6_rests_141 : decode cX6_rests 141 = .ok (.if_icmp .ne 8, 3) := dk_160 0 8 (dk_at dksX6_rests_6 0 rfl rfl)
theorem dX6_rests_144 : decode cX6_rests 144 = .ok (.iload 8, 2) := dk_21 8 (dk_at dksX6_rests_6 3 rfl rfl)
theorem dX6_rests_146 : decode cX6_rests 146 = .ok (.goto 5, 3) := dk_167 0 5 (dk_at dksX6_rests_6 5 rfl rfl)
theorem dX6_rests_149 : decode cX6_rests 149 = .ok (.iload 7, 2) := dk_21 7 (dk_at dksX6_rests_6 8 rfl rfl)
theorem dX6_rests_151 : decode cX6_rests 151 = .ok (.istore 7, 2) := dk_54 7 (dk_at dksX6_rests_6 10 rfl rfl)
theorem dX6_rests_153 : decode cX6_rests 153 = .ok (.iload 6, 2) := dk_21 6 (dk_at dksX6_rests_6 12 rfl rfl)
theorem dX6_rests_155 : decode cX6_rests 155 = .ok (.iload 11, 2) := dk_21 11 (dk_at dksX6_rests_6 14 rfl rfl)
theorem dX6_rests_157 : decode cX6_rests 157 = .ok (.ifCond .eq 7, 3) := dk_153 0 7 (dk_at dksX6_rests_6 16 rfl rfl)
theorem dX6_rests_160 : decode cX6_rests 160 = .ok (.iconst 1, 1) := dk_4 (dk_at dksX6_rests_6 19 rfl rfl)
theorem dX6_rests_161 : decode cX6_rests 161 = .ok (.goto 4, 3) := dk_167 0 4 (dk_at dksX6_rests_6 20 rfl rfl)
theorem dX6_rests_164 : decode cX6_rests 164 = .ok (.iconst 0, 1) := dk_3 (dk_at dksX6_rests_6 23 rfl rfl)
theorem dX6_rests_165 : decode cX6_rests 165 = .ok (.iadd, 1) := dk_96 (dk_at dksX6_rests_7 0 rfl rfl)
theorem dX6_rests_166 : decode cX6_rests 166 = .ok (.istore 6, 2) := dk_54 6 (dk_at dksX6_rests_7 1 rfl rfl)
theorem dX6_rests_168 : decode cX6_rests 168 = .ok (.iinc 8 1, 3) := dk_132 8 1 (dk_at dksX6_rests_7 3 rfl rfl)
theorem dX6_rests_171 : decode cX6_rests 171 = .ok (.goto (-119), 3) := dk_167 255 137 (dk_at dksX6_rests_7 6 rfl rfl)
theorem dX6_rests_174 : decode cX6_rests 174 = .ok (.aload_n 0, 1) := dk_42 (dk_at dksX6_rests_7 9 rfl rfl)
theorem dX6_rests_175 : decode cX6_rests 175 = .ok (.iload 5, 2) := dk_21 5 (dk_at dksX6_rests_7 10 rfl rfl)
theorem dX6_rests_177 : decode cX6_rests 177 = .ok (.ifCond .eq 17, 3) := dk_153 0 17 (dk_at dksX6_rests_7 12 rfl rfl)
theorem dX6_rests_180 : decode cX6_rests 180 = .ok (.iload 4, 2) := dk_21 4 (dk_at dksX6_rests_7 15 rfl rfl)
theorem dX6_rests_182 : decode cX6_rests 182 = .ok (.ifCond .lt 8, 3) := dk_155 0 8 (dk_at dksX6_rests_7 17 rfl rfl)
theorem dX6_rests_185 : decode cX6_rests 185 = .ok (.iload 7, 2) := dk_21 7 (dk_at dksX6_rests_7 20 rfl rfl)
theorem dX6_rests_187 : decode cX6_rests 187 = .ok (.ifCond .lt 7, 3) := dk_155 0 7 (dk_at dksX6_rests_8 0 rfl rfl)
theorem dX6_rests_190 : decode cX6_rests 190 = .ok (.iconst 0, 1) := dk_3 (dk_at dksX6_rests_8 3 rfl rfl)
theorem dX6_rests_191 : decode cX6_rests 191 = .ok (.goto 4, 3) := dk_167 0 4 (dk_at dksX6_rests_8 4 rfl rfl)
theorem dX6_rests_194 : decode cX6_rests 194 = .ok (.iconst 1, 1) := dk_4 (dk_at dksX6_rests_8 7 rfl rfl)
theorem dX6_rests_195 : decode cX6_rests 195 = .ok (.putfield 1, 3) := dk_181 0 1 (dk_at dksX6_rests_8 8 rfl rfl)
theorem dX6_rests_198 : decode cX6_rests 198 = .ok (.aload_n 0, 1) := dk_42 (dk_at dksX6_rests_8 11 rfl rfl)
theorem dX6_rests_199 : decode cX6_rests 199 = .ok (.getfield 1, 3) := dk_180 0 1 (dk_at dksX6_rests_8 12 rfl rfl)
theorem dX6_rests_202 : decode cX6_rests 202 = .ok (.ifCond .le 7, 3) := dk_158 0 7 (dk_at dksX6_rests_8 15 rfl rfl)
theorem dX6_rests_205 : decode cX6_rests 205 = .ok (.iconst 0, 1) := dk_3 (dk_at dksX6_rests_8 18 rfl rfl)
theorem dX6_rests_206 : decode cX6_rests 206 = .ok (.goto 15, 3) := dk_167 0 15 (dk_at dksX6_rests_8 19 rfl rfl)
theorem dX6_rests_209 : decode cX6_rests 209 = .ok (.iload 4, 2) := dk_21 4 (dk_at dksX6_rests_8 22 rfl rfl)
theorem dX6_rests_211 : decode cX6_rests 211 = .ok (.ifCond .ge 8, 3) := dk_156 0 8 (dk_at dksX6_rests_9 0 rfl rfl)
theorem dX6_rests_214 : decode cX6_rests 214 = .ok (.iload 6, 2) := dk_21 6 (dk_at dksX6_rests_9 3 rfl rfl)
theorem dX6_rests_216 : decode cX6_rests 216 = .ok (.goto 5, 3) := dk_167 0 5 (dk_at dksX6_rests_9 5 rfl rfl)
theorem dX6_rests_219 : decode cX6_rests 219 = .ok (.iload 7, 2) := dk_21 7 (dk_at dksX6_rests_9 8 rfl rfl)
theorem dX6_rests_221 : decode cX6_rests 221 = .ok (.ireturn, 1) := dk_172 (dk_at dksX6_rests_9 10 rfl rfl)
abbrev cX6_getsBy : ByteArray := prog_24_method_111_code
def yX6_getsBy : MethodName := ⟨RX6, "getsBy", "(IIIII)I"⟩
def dkwX6_getsBy_1 : List UInt8 := [21, 4, 167, 0, 4, 29, 172]
abbrev dktX6_getsBy_1 : List UInt8 := dkwX6_getsBy_1 ++ []
def dkwX6_getsBy_0 : List UInt8 := [26, 4, 160, 0, 16, 27, 4, 160, 0, 7, 28, 167, 0, 18, 3, 167, 0, 14, 27, 4, 160, 0, 8]
abbrev dktX6_getsBy_0 : List UInt8 := dkwX6_getsBy_0 ++ dktX6_getsBy_1
theorem dksX6_getsBy_0 : cX6_getsBy.data.toList.drop 0 = dktX6_getsBy_0 := by decide +kernel
theorem dksX6_getsBy_1 : cX6_getsBy.data.toList.drop 23 = dktX6_getsBy_1 := dk_seg dksX6_getsBy_0 23 rfl rfl
theorem dX6_getsBy_0 : decode cX6_getsBy 0 = .ok (.iload_n 0, 1) := dk_26 (dk_at dksX6_getsBy_0 0 rfl rfl)
theorem dX6_getsBy_1 : decode cX6_getsBy 1 = .ok (.iconst 1, 1) := dk_4 (dk_at dksX6_getsBy_0 1 rfl rfl)
theorem dX6_getsBy_2 : decode cX6_getsBy 2 = .ok (.if_icmp .ne 16, 3) := dk_160 0 16 (dk_at dksX6_getsBy_0 2 rfl rfl)
theorem dX6_getsBy_5 : decode cX6_getsBy 5 = .ok (.iload_n 1, 1) := dk_27 (dk_at dksX6_getsBy_0 5 rfl rfl)
theorem dX6_getsBy_6 : decode cX6_getsBy 6 = .ok (.iconst 1, 1) := dk_4 (dk_at dksX6_getsBy_0 6 rfl rfl)
theorem dX6_getsBy_7 : decode cX6_getsBy 7 = .ok (.if_icmp .ne 7, 3) := dk_160 0 7 (dk_at dksX6_getsBy_0 7 rfl rfl)
theorem dX6_getsBy_10 : decode cX6_getsBy 10 = .ok (.iload_n 2, 1) := dk_28 (dk_at dksX6_getsBy_0 10 rfl rfl)
theorem dX6_getsBy_11 : decode cX6_getsBy 11 = .ok (.goto 18, 3) := dk_167 0 18 (dk_at dksX6_getsBy_0 11 rfl rfl)
theorem dX6_getsBy_14 : decode cX6_getsBy 14 = .ok (.iconst 0, 1) := dk_3 (dk_at dksX6_getsBy_0 14 rfl rfl)
theorem dX6_getsBy_15 : decode cX6_getsBy 15 = .ok (.goto 14, 3) := dk_167 0 14 (dk_at dksX6_getsBy_0 15 rfl rfl)
theorem dX6_getsBy_18 : decode cX6_getsBy 18 = .ok (.iload_n 1, 1) := dk_27 (dk_at dksX6_getsBy_0 18 rfl rfl)
theorem dX6_getsBy_19 : decode cX6_getsBy 19 = .ok (.iconst 1, 1) := dk_4 (dk_at dksX6_getsBy_0 19 rfl rfl)
theorem dX6_getsBy_20 : decode cX6_getsBy 20 = .ok (.if_icmp .ne 8, 3) := dk_160 0 8 (dk_at dksX6_getsBy_0 20 rfl rfl)
theorem dX6_getsBy_23 : decode cX6_getsBy 23 = .ok (.iload 4, 2) := dk_21 4 (dk_at dksX6_getsBy_1 0 rfl rfl)
theorem dX6_getsBy_25 : decode cX6_getsBy 25 = .ok (.goto 4, 3) := dk_167 0 4 (dk_at dksX6_getsBy_1 2 rfl rfl)
theorem dX6_getsBy_28 : decode cX6_getsBy 28 = .ok (.iload_n 3, 1) := dk_29 (dk_at dksX6_getsBy_1 5 rfl rfl)
theorem dX6_getsBy_29 : decode cX6_getsBy 29 = .ok (.ireturn, 1) := dk_172 (dk_at dksX6_getsBy_1 6 rfl rfl)
abbrev cX6_years : ByteArray := prog_24_method_115_code
def yX6_years : MethodName := ⟨RX6, "years", "(III)I"⟩
def dkwX6_years_8 : List UInt8 := [167, 0, 13, 42, 17, 5, 172, 2, 16, 6, 182, 1, 115, 172]
abbrev dktX6_years_8 : List UInt8 := dkwX6_years_8 ++ []
def dkwX6_years_7 : List UInt8 := [167, 255, 158, 29, 154, 0, 10, 42, 180, 1, 149, 167, 0, 25, 29, 4, 160, 0, 10, 42, 180, 1, 152]
abbrev dktX6_years_7 : List UInt8 := dkwX6_years_7 ++ dktX6_years_8
def dkwX6_years_6 : List UInt8 := [182, 1, 102, 153, 0, 7, 4, 167, 0, 4, 3, 100, 79, 42, 17, 5, 172, 182, 1, 105, 87, 132, 4, 1]
abbrev dktX6_years_6 : List UInt8 := dkwX6_years_6 ++ dktX6_years_7
def dkwX6_years_5 : List UInt8 := [182, 1, 146, 54, 5, 42, 180, 0, 119, 17, 5, 190, 21, 5, 96, 92, 46, 42, 17, 5, 172, 21, 5]
abbrev dktX6_years_5 : List UInt8 := dkwX6_years_5 ++ dktX6_years_6
def dkwX6_years_4 : List UInt8 := [167, 255, 238, 42, 182, 1, 22, 158, 0, 53, 42, 16, 9, 182, 1, 146, 154, 0, 44, 42, 42, 182, 1, 22]
abbrev dktX6_years_4 : List UInt8 := dkwX6_years_4 ++ dktX6_years_5
def dkwX6_years_3 : List UInt8 := [162, 0, 98, 3, 54, 5, 21, 5, 42, 182, 1, 9, 162, 0, 15, 42, 21, 5, 182, 1, 155, 132, 5, 1]
abbrev dktX6_years_3 : List UInt8 := dkwX6_years_3 ++ dktX6_years_4
def dkwX6_years_2 : List UInt8 := [42, 27, 133, 181, 1, 134, 42, 3, 181, 1, 149, 42, 3, 181, 1, 152, 3, 54, 4, 21, 4, 28]
abbrev dktX6_years_2 : List UInt8 := dkwX6_years_2 ++ dktX6_years_3
def dkwX6_years_1 : List UInt8 := [153, 0, 12, 29, 3, 5, 184, 0, 198, 154, 0, 5, 2, 172, 42, 3, 17, 5, 172, 16, 60, 182, 1, 19]
abbrev dktX6_years_1 : List UInt8 := dkwX6_years_1 ++ dktX6_years_2
def dkwX6_years_0 : List UInt8 := [42, 3, 181, 0, 1, 27, 3, 17, 39, 15, 184, 0, 198, 153, 0, 22, 28, 4, 16, 99, 184, 0, 198]
abbrev dktX6_years_0 : List UInt8 := dkwX6_years_0 ++ dktX6_years_1
theorem dksX6_years_0 : cX6_years.data.toList.drop 0 = dktX6_years_0 := by decide +kernel
theorem dksX6_years_1 : cX6_years.data.toList.drop 23 = dktX6_years_1 := dk_seg dksX6_years_0 23 rfl rfl
theorem dksX6_years_2 : cX6_years.data.toList.drop 47 = dktX6_years_2 := dk_seg dksX6_years_1 24 rfl rfl
theorem dksX6_years_3 : cX6_years.data.toList.drop 69 = dktX6_years_3 := dk_seg dksX6_years_2 22 rfl rfl
theorem dksX6_years_4 : cX6_years.data.toList.drop 93 = dktX6_years_4 := dk_seg dksX6_years_3 24 rfl rfl
theorem dksX6_years_5 : cX6_years.data.toList.drop 117 = dktX6_years_5 := dk_seg dksX6_years_4 24 rfl rfl
theorem dksX6_years_6 : cX6_years.data.toList.drop 140 = dktX6_years_6 := dk_seg dksX6_years_5 23 rfl rfl
theorem dksX6_years_7 : cX6_years.data.toList.drop 164 = dktX6_years_7 := dk_seg dksX6_years_6 24 rfl rfl
theorem dksX6_years_8 : cX6_years.data.toList.drop 187 = dktX6_years_8 := dk_seg dksX6_years_7 23 rfl rfl
theorem dX6_years_0 : decode cX6_years 0 = .ok (.aload_n 0, 1) := dk_42 (dk_at dksX6_years_0 0 rfl rfl)
theorem dX6_years_1 : decode cX6_years 1 = .ok (.iconst 0, 1) := dk_3 (dk_at dksX6_years_0 1 rfl rfl)
theorem dX6_years_2 : decode cX6_years 2 = .ok (.putfield 1, 3) := dk_181 0 1 (dk_at dksX6_years_0 2 rfl rfl)
theorem dX6_years_5 : decode cX6_years 5 = .ok (.iload_n 1, 1) := dk_27 (dk_at dksX6_years_0 5 rfl rfl)
theorem dX6_years_6 : decode cX6_years 6 = .ok (.iconst 0, 1) := dk_3 (dk_at dksX6_years_0 6 rfl rfl)
theorem dX6_years_7 : decode cX6_years 7 = .ok (.sipush 9999, 3) := dk_17 39 15 (dk_at dksX6_years_0 7 rfl rfl)
theorem dX6_years_10 : decode cX6_years 10 = .ok (.invokestatic 198, 3) := dk_184 0 198 (dk_at dksX6_years_0 10 rfl rfl)
theorem dX6_years_13 : decode cX6_years 13 = .ok (.ifCond .eq 22, 3) := dk_153 0 22 (dk_at dksX6_years_0 13 rfl rfl)
theorem dX6_years_16 : decode cX6_years 16 = .ok (.iload_n 2, 1) := dk_28 (dk_at dksX6_years_0 16 rfl rfl)
theorem dX6_years_17 : decode cX6_years 17 = .ok (.iconst 1, 1) := dk_4 (dk_at dksX6_years_0 17 rfl rfl)
theorem dX6_years_18 : decode cX6_years 18 = .ok (.bipush 99, 2) := dk_16 99 (dk_at dksX6_years_0 18 rfl rfl)
theorem dX6_years_20 : decode cX6_years 20 = .ok (.invokestatic 198, 3) := dk_184 0 198 (dk_at dksX6_years_0 20 rfl rfl)
theorem dX6_years_23 : decode cX6_years 23 = .ok (.ifCond .eq 12, 3) := dk_153 0 12 (dk_at dksX6_years_1 0 rfl rfl)
theorem dX6_years_26 : decode cX6_years 26 = .ok (.iload_n 3, 1) := dk_29 (dk_at dksX6_years_1 3 rfl rfl)
theorem dX6_years_27 : decode cX6_years 27 = .ok (.iconst 0, 1) := dk_3 (dk_at dksX6_years_1 4 rfl rfl)
theorem dX6_years_28 : decode cX6_years 28 = .ok (.iconst 2, 1) := dk_5 (dk_at dksX6_years_1 5 rfl rfl)
theorem dX6_years_29 : decode cX6_years 29 = .ok (.invokestatic 198, 3) := dk_184 0 198 (dk_at dksX6_years_1 6 rfl rfl)
theorem dX6_years_32 : decode cX6_years 32 = .ok (.ifCond .ne 5, 3) := dk_154 0 5 (dk_at dksX6_years_1 9 rfl rfl)
theorem dX6_years_35 : decode cX6_years 35 = .ok (.iconst (-1), 1) := dk_2 (dk_at dksX6_years_1 12 rfl rfl)
theorem dX6_years_36 : decode cX6_years 36 = .ok (.ireturn, 1) := dk_172 (dk_at dksX6_years_1 13 rfl rfl)
theorem dX6_years_37 : decode cX6_years 37 = .ok (.aload_n 0, 1) := dk_42 (dk_at dksX6_years_1 14 rfl rfl)
theorem dX6_years_38 : decode cX6_years 38 = .ok (.iconst 0, 1) := dk_3 (dk_at dksX6_years_1 15 rfl rfl)
theorem dX6_years_39 : decode cX6_years 39 = .ok (.sipush 1452, 3) := dk_17 5 172 (dk_at dksX6_years_1 16 rfl rfl)
theorem dX6_years_42 : decode cX6_years 42 = .ok (.bipush 60, 2) := dk_16 60 (dk_at dksX6_years_1 19 rfl rfl)
theorem dX6_years_44 : decode cX6_years 44 = .ok (.invokevirtual 275, 3) := dk_182 1 19 (dk_at dksX6_years_1 21 rfl rfl)
theorem dX6_years_47 : decode cX6_years 47 = .ok (.aload_n 0, 1) := dk_42 (dk_at dksX6_years_2 0 rfl rfl)
theorem dX6_years_48 : decode cX6_years 48 = .ok (.iload_n 1, 1) := dk_27 (dk_at dksX6_years_2 1 rfl rfl)
theorem dX6_years_49 : decode cX6_years 49 = .ok (.i2l, 1) := dk_133 (dk_at dksX6_years_2 2 rfl rfl)
theorem dX6_years_50 : decode cX6_years 50 = .ok (.putfield 390, 3) := dk_181 1 134 (dk_at dksX6_years_2 3 rfl rfl)
theorem dX6_years_53 : decode cX6_years 53 = .ok (.aload_n 0, 1) := dk_42 (dk_at dksX6_years_2 6 rfl rfl)
theorem dX6_years_54 : decode cX6_years 54 = .ok (.iconst 0, 1) := dk_3 (dk_at dksX6_years_2 7 rfl rfl)
theorem dX6_years_55 : decode cX6_years 55 = .ok (.putfield 405, 3) := dk_181 1 149 (dk_at dksX6_years_2 8 rfl rfl)
theorem dX6_years_58 : decode cX6_years 58 = .ok (.aload_n 0, 1) := dk_42 (dk_at dksX6_years_2 11 rfl rfl)
theorem dX6_years_59 : decode cX6_years 59 = .ok (.iconst 0, 1) := dk_3 (dk_at dksX6_years_2 12 rfl rfl)
theorem dX6_years_60 : decode cX6_years 60 = .ok (.putfield 408, 3) := dk_181 1 152 (dk_at dksX6_years_2 13 rfl rfl)
theorem dX6_years_63 : decode cX6_years 63 = .ok (.iconst 0, 1) := dk_3 (dk_at dksX6_years_2 16 rfl rfl)
theorem dX6_years_64 : decode cX6_years 64 = .ok (.istore 4, 2) := dk_54 4 (dk_at dksX6_years_2 17 rfl rfl)
theorem dX6_years_66 : decode cX6_years 66 = .ok (.iload 4, 2) := dk_21 4 (dk_at dksX6_years_2 19 rfl rfl)
theorem dX6_years_68 : decode cX6_years 68 = .ok (.iload_n 2, 1) := dk_28 (dk_at dksX6_years_2 21 rfl rfl)
theorem dX6_years_69 : decode cX6_years 69 = .ok (.if_icmp .ge 98, 3) := dk_162 0 98 (dk_at dksX6_years_3 0 rfl rfl)
theorem dX6_years_72 : decode cX6_years 72 = .ok (.iconst 0, 1) := dk_3 (dk_at dksX6_years_3 3 rfl rfl)
theorem dX6_years_73 : decode cX6_years 73 = .ok (.istore 5, 2) := dk_54 5 (dk_at dksX6_years_3 4 rfl rfl)
theorem dX6_years_75 : decode cX6_years 75 = .ok (.iload 5, 2) := dk_21 5 (dk_at dksX6_years_3 6 rfl rfl)
theorem dX6_years_77 : decode cX6_years 77 = .ok (.aload_n 0, 1) := dk_42 (dk_at dksX6_years_3 8 rfl rfl)
theorem dX6_years_78 : decode cX6_years 78 = .ok (.invokevirtual 265, 3) := dk_182 1 9 (dk_at dksX6_years_3 9 rfl rfl)
theorem dX6_years_81 : decode cX6_years 81 = .ok (.if_icmp .ge 15, 3) := dk_162 0 15 (dk_at dksX6_years_3 12 rfl rfl)
theorem dX6_years_84 : decode cX6_years 84 = .ok (.aload_n 0, 1) := dk_42 (dk_at dksX6_years_3 15 rfl rfl)
theorem dX6_years_85 : decode cX6_years 85 = .ok (.iload 5, 2) := dk_21 5 (dk_at dksX6_years_3 16 rfl rfl)
theorem dX6_years_87 : decode cX6_years 87 = .ok (.invokevirtual 411, 3) := dk_182 1 155 (dk_at dksX6_years_3 18 rfl rfl)
theorem dX6_years_90 : decode cX6_years 90 = .ok (.iinc 5 1, 3) := dk_132 5 1 (dk_at dksX6_years_3 21 rfl rfl)
theorem dX6_years_93 : decode cX6_years 93 = .ok (.goto (-18), 3) := dk_167 255 238 (dk_at dksX6_years_4 0 rfl rfl)
theorem dX6_years_96 : decode cX6_years 96 = .ok (.aload_n 0, 1) := dk_42 (dk_at dksX6_years_4 3 rfl rfl)
theorem dX6_years_97 : decode cX6_years 97 = .ok (.invokevirtual 278, 3) := dk_182 1 22 (dk_at dksX6_years_4 4 rfl rfl)
theorem dX6_years_100 : decode cX6_years 100 = .ok (.ifCond .le 53, 3) := dk_158 0 53 (dk_at dksX6_years_4 7 rfl rfl)
theorem dX6_years_103 : decode cX6_years 103 = .ok (.aload_n 0, 1) := dk_42 (dk_at dksX6_years_4 10 rfl rfl)
theorem dX6_years_104 : decode cX6_years 104 = .ok (.bipush 9, 2) := dk_16 9 (dk_at dksX6_years_4 11 rfl rfl)
theorem dX6_years_106 : decode cX6_years 106 = .ok (.invokevirtual 402, 3) := dk_182 1 146 (dk_at dksX6_years_4 13 rfl rfl)
theorem dX6_years_109 : decode cX6_years 109 = .ok (.ifCond .ne 44, 3) := dk_154 0 44 (dk_at dksX6_years_4 16 rfl rfl)
theorem dX6_years_112 : decode cX6_years 112 = .ok (.aload_n 0, 1) := dk_42 (dk_at dksX6_years_4 19 rfl rfl)
theorem dX6_years_113 : decode cX6_years 113 = .ok (.aload_n 0, 1) := dk_42 (dk_at dksX6_years_4 20 rfl rfl)
theorem dX6_years_114 : decode cX6_years 114 = .ok (.invokevirtual 278, 3) := dk_182 1 22 (dk_at dksX6_years_4 21 rfl rfl)
theorem dX6_years_117 : decode cX6_years 117 = .ok (.invokevirtual 402, 3) := dk_182 1 146 (dk_at dksX6_years_5 0 rfl rfl)
theorem dX6_years_120 : decode cX6_years 120 = .ok (.istore 5, 2) := dk_54 5 (dk_at dksX6_years_5 3 rfl rfl)
theorem dX6_years_122 : decode cX6_years 122 = .ok (.aload_n 0, 1) := dk_42 (dk_at dksX6_years_5 5 rfl rfl)
theorem dX6_years_123 : decode cX6_years 123 = .ok (.getfield 119, 3) := dk_180 0 119 (dk_at dksX6_years_5 6 rfl rfl)
theorem dX6_years_126 : decode cX6_years 126 = .ok (.sipush 1470, 3) := dk_17 5 190 (dk_at dksX6_years_5 9 rfl rfl)
theorem dX6_years_129 : decode cX6_years 129 = .ok (.iload 5, 2) := dk_21 5 (dk_at dksX6_years_5 12 rfl rfl)
theorem dX6_years_131 : decode cX6_years 131 = .ok (.iadd, 1) := dk_96 (dk_at dksX6_years_5 14 rfl rfl)
theorem dX6_years_132 : decode cX6_years 132 = .ok (.dup2, 1) := dk_92 (dk_at dksX6_years_5 15 rfl rfl)
theorem dX6_years_133 : decode cX6_years 133 = .ok (.iaload, 1) := dk_46 (dk_at dksX6_years_5 16 rfl rfl)
theorem dX6_years_134 : decode cX6_years 134 = .ok (.aload_n 0, 1) := dk_42 (dk_at dksX6_years_5 17 rfl rfl)
theorem dX6_years_135 : decode cX6_years 135 = .ok (.sipush 1452, 3) := dk_17 5 172 (dk_at dksX6_years_5 18 rfl rfl)
theorem dX6_years_138 : decode cX6_years 138 = .ok (.iload 5, 2) := dk_21 5 (dk_at dksX6_years_5 21 rfl rfl)
theorem dX6_years_140 : decode cX6_years 140 = .ok (.invokevirtual 358, 3) := dk_182 1 102 (dk_at dksX6_years_6 0 rfl rfl)
theorem dX6_years_143 : decode cX6_years 143 = .ok (.ifCond .eq 7, 3) := dk_153 0 7 (dk_at dksX6_years_6 3 rfl rfl)
theorem dX6_years_146 : decode cX6_years 146 = .ok (.iconst 1, 1) := dk_4 (dk_at dksX6_years_6 6 rfl rfl)
theorem dX6_years_147 : decode cX6_years 147 = .ok (.goto 4, 3) := dk_167 0 4 (dk_at dksX6_years_6 7 rfl rfl)
theorem dX6_years_150 : decode cX6_years 150 = .ok (.iconst 0, 1) := dk_3 (dk_at dksX6_years_6 10 rfl rfl)
theorem dX6_years_151 : decode cX6_years 151 = .ok (.isub, 1) := dk_100 (dk_at dksX6_years_6 11 rfl rfl)
theorem dX6_years_152 : decode cX6_years 152 = .ok (.iastore, 1) := dk_79 (dk_at dksX6_years_6 12 rfl rfl)
theorem dX6_years_153 : decode cX6_years 153 = .ok (.aload_n 0, 1) := dk_42 (dk_at dksX6_years_6 13 rfl rfl)
theorem dX6_years_154 : decode cX6_years 154 = .ok (.sipush 1452, 3) := dk_17 5 172 (dk_at dksX6_years_6 14 rfl rfl)
theorem dX6_years_157 : decode cX6_years 157 = .ok (.invokevirtual 361, 3) := dk_182 1 105 (dk_at dksX6_years_6 17 rfl rfl)
theorem dX6_years_160 : decode cX6_years 160 = .ok (.pop, 1) := dk_87 (dk_at dksX6_years_6 20 rfl rfl)
theorem dX6_years_161 : decode cX6_years 161 = .ok (.iinc 4 1, 3) := dk_132 4 1 (dk_at dksX6_years_6 21 rfl rfl)
theorem dX6_years_164 : decode cX6_years 164 = .ok (.goto (-98), 3) := dk_167 255 158 (dk_at dksX6_years_7 0 rfl rfl)
theorem dX6_years_167 : decode cX6_years 167 = .ok (.iload_n 3, 1) := dk_29 (dk_at dksX6_years_7 3 rfl rfl)
theorem dX6_years_168 : decode cX6_years 168 = .ok (.ifCond .ne 10, 3) := dk_154 0 10 (dk_at dksX6_years_7 4 rfl rfl)
theorem dX6_years_171 : decode cX6_years 171 = .ok (.aload_n 0, 1) := dk_42 (dk_at dksX6_years_7 7 rfl rfl)
theorem dX6_years_172 : decode cX6_years 172 = .ok (.getfield 405, 3) := dk_180 1 149 (dk_at dksX6_years_7 8 rfl rfl)
theorem dX6_years_175 : decode cX6_years 175 = .ok (.goto 25, 3) := dk_167 0 25 (dk_at dksX6_years_7 11 rfl rfl)
theorem dX6_years_178 : decode cX6_years 178 = .ok (.iload_n 3, 1) := dk_29 (dk_at dksX6_years_7 14 rfl rfl)
theorem dX6_years_179 : decode cX6_years 179 = .ok (.iconst 1, 1) := dk_4 (dk_at dksX6_years_7 15 rfl rfl)
theorem dX6_years_180 : decode cX6_years 180 = .ok (.if_icmp .ne 10, 3) := dk_160 0 10 (dk_at dksX6_years_7 16 rfl rfl)
theorem dX6_years_183 : decode cX6_years 183 = .ok (.aload_n 0, 1) := dk_42 (dk_at dksX6_years_7 19 rfl rfl)
theorem dX6_years_184 : decode cX6_years 184 = .ok (.getfield 408, 3) := dk_180 1 152 (dk_at dksX6_years_7 20 rfl rfl)
theorem dX6_years_187 : decode cX6_years 187 = .ok (.goto 13, 3) := dk_167 0 13 (dk_at dksX6_years_8 0 rfl rfl)
theorem dX6_years_190 : decode cX6_years 190 = .ok (.aload_n 0, 1) := dk_42 (dk_at dksX6_years_8 3 rfl rfl)
theorem dX6_years_191 : decode cX6_years 191 = .ok (.sipush 1452, 3) := dk_17 5 172 (dk_at dksX6_years_8 4 rfl rfl)
theorem dX6_years_194 : decode cX6_years 194 = .ok (.iconst (-1), 1) := dk_2 (dk_at dksX6_years_8 7 rfl rfl)
theorem dX6_years_195 : decode cX6_years 195 = .ok (.bipush 6, 2) := dk_16 6 (dk_at dksX6_years_8 8 rfl rfl)
theorem dX6_years_197 : decode cX6_years 197 = .ok (.invokevirtual 371, 3) := dk_182 1 115 (dk_at dksX6_years_8 10 rfl rfl)
theorem dX6_years_200 : decode cX6_years 200 = .ok (.ireturn, 1) := dk_172 (dk_at dksX6_years_8 13 rfl rfl)
abbrev cX6_drawsPerson : ByteArray := prog_24_method_114_code
def yX6_drawsPerson : MethodName := ⟨RX6, "drawsPerson", "(I)V"⟩
def dkwX6_drawsPerson_5 : List UInt8 := [167, 0, 4, 3, 96, 181, 1, 152, 177]
abbrev dktX6_drawsPerson_5 : List UInt8 := dkwX6_drawsPerson_5 ++ []
def dkwX6_drawsPerson_4 : List UInt8 := [54, 4, 42, 89, 180, 1, 149, 4, 96, 181, 1, 149, 42, 89, 180, 1, 152, 21, 4, 154, 0, 7, 4]
abbrev dktX6_drawsPerson_4 : List UInt8 := dkwX6_drawsPerson_4 ++ dktX6_drawsPerson_5
def dkwX6_drawsPerson_3 : List UInt8 := [182, 1, 25, 158, 0, 51, 42, 17, 5, 172, 27, 42, 42, 182, 1, 25, 182, 1, 146, 29, 182, 1, 99]
abbrev dktX6_drawsPerson_3 : List UInt8 := dkwX6_drawsPerson_3 ++ dktX6_drawsPerson_4
def dkwX6_drawsPerson_2 : List UInt8 := [21, 4, 3, 16, 9, 184, 0, 198, 153, 0, 8, 21, 4, 167, 0, 4, 29, 79, 167, 0, 58, 42]
abbrev dktX6_drawsPerson_2 : List UInt8 := dkwX6_drawsPerson_2 ++ dktX6_drawsPerson_3
def dkwX6_drawsPerson_1 : List UInt8 := [154, 0, 9, 29, 4, 100, 167, 0, 6, 29, 4, 96, 54, 4, 42, 180, 0, 119, 17, 5, 173, 27, 96]
abbrev dktX6_drawsPerson_1 : List UInt8 := dkwX6_drawsPerson_1 ++ dktX6_drawsPerson_2
def dkwX6_drawsPerson_0 : List UInt8 := [42, 6, 182, 1, 146, 61, 42, 180, 0, 119, 17, 5, 173, 27, 96, 46, 62, 28, 5, 162, 0, 48, 28]
abbrev dktX6_drawsPerson_0 : List UInt8 := dkwX6_drawsPerson_0 ++ dktX6_drawsPerson_1
theorem dksX6_drawsPerson_0 : cX6_drawsPerson.data.toList.drop 0 = dktX6_drawsPerson_0 := by decide +kernel
theorem dksX6_drawsPerson_1 : cX6_drawsPerson.data.toList.drop 23 = dktX6_drawsPerson_1 := dk_seg dksX6_drawsPerson_0 23 rfl rfl
theorem dksX6_drawsPerson_2 : cX6_drawsPerson.data.toList.drop 46 = dktX6_drawsPerson_2 := dk_seg dksX6_drawsPerson_1 23 rfl rfl
theorem dksX6_drawsPerson_3 : cX6_drawsPerson.data.toList.drop 68 = dktX6_drawsPerson_3 := dk_seg dksX6_drawsPerson_2 22 rfl rfl
theorem dksX6_drawsPerson_4 : cX6_drawsPerson.data.toList.drop 91 = dktX6_drawsPerson_4 := dk_seg dksX6_drawsPerson_3 23 rfl rfl
theorem dksX6_drawsPerson_5 : cX6_drawsPerson.data.toList.drop 114 = dktX6_drawsPerson_5 := dk_seg dksX6_drawsPerson_4 23 rfl rfl
theorem dX6_drawsPerson_0 : decode cX6_drawsPerson 0 = .ok (.aload_n 0, 1) := dk_42 (dk_at dksX6_drawsPerson_0 0 rfl rfl)
theorem dX6_drawsPerson_1 : decode cX6_drawsPerson 1 = .ok (.iconst 3, 1) := dk_6 (dk_at dksX6_drawsPerson_0 1 rfl rfl)
theorem dX6_drawsPerson_2 : decode cX6_drawsPerson 2 = .ok (.invokevirtual 402, 3) := dk_182 1 146 (dk_at dksX6_drawsPerson_0 2 rfl rfl)
theorem dX6_drawsPerson_5 : decode cX6_drawsPerson 5 = .ok (.istore_n 2, 1) := dk_61 (dk_at dksX6_drawsPerson_0 5 rfl rfl)
theorem dX6_drawsPerson_6 : decode cX6_drawsPerson 6 = .ok (.aload_n 0, 1) := dk_42 (dk_at dksX6_drawsPerson_0 6 rfl rfl)
theorem dX6_drawsPerson_7 : decode cX6_drawsPerson 7 = .ok (.getfield 119, 3) := dk_180 0 119 (dk_at dksX6_drawsPerson_0 7 rfl rfl)
theorem dX6_drawsPerson_10 : decode cX6_drawsPerson 10 = .ok (.sipush 1453, 3) := dk_17 5 173 (dk_at dksX6_drawsPerson_0 10 rfl rfl)
theorem dX6_drawsPerson_13 : decode cX6_drawsPerson 13 = .ok (.iload_n 1, 1) := dk_27 (dk_at dksX6_drawsPerson_0 13 rfl rfl)
theorem dX6_drawsPerson_14 : decode cX6_drawsPerson 14 = .ok (.iadd, 1) := dk_96 (dk_at dksX6_drawsPerson_0 14 rfl rfl)
theorem dX6_drawsPerson_15 : decode cX6_drawsPerson 15 = .ok (.iaload, 1) := dk_46 (dk_at dksX6_drawsPerson_0 15 rfl rfl)
theorem dX6_drawsPerson_16 : decode cX6_drawsPerson 16 = .ok (.istore_n 3, 1) := dk_62 (dk_at dksX6_drawsPerson_0 16 rfl rfl)
theorem dX6_drawsPerson_17 : decode cX6_drawsPerson 17 = .ok (.iload_n 2, 1) := dk_28 (dk_at dksX6_drawsPerson_0 17 rfl rfl)
theorem dX6_drawsPerson_18 : decode cX6_drawsPerson 18 = .ok (.iconst 2, 1) := dk_5 (dk_at dksX6_drawsPerson_0 18 rfl rfl)
theorem dX6_drawsPerson_19 : decode cX6_drawsPerson 19 = .ok (.if_icmp .ge 48, 3) := dk_162 0 48 (dk_at dksX6_drawsPerson_0 19 rfl rfl)
theorem dX6_drawsPerson_22 : decode cX6_drawsPerson 22 = .ok (.iload_n 2, 1) := dk_28 (dk_at dksX6_drawsPerson_0 22 rfl rfl)
theorem dX6_drawsPerson_23 : decode cX6_drawsPerson 23 = .ok (.ifCond .ne 9, 3) := dk_154 0 9 (dk_at dksX6_drawsPerson_1 0 rfl rfl)
theorem dX6_drawsPerson_26 : decode cX6_drawsPerson 26 = .ok (.iload_n 3, 1) := dk_29 (dk_at dksX6_drawsPerson_1 3 rfl rfl)
theorem dX6_drawsPerson_27 : decode cX6_drawsPerson 27 = .ok (.iconst 1, 1) := dk_4 (dk_at dksX6_drawsPerson_1 4 rfl rfl)
theorem dX6_drawsPerson_28 : decode cX6_drawsPerson 28 = .ok (.isub, 1) := dk_100 (dk_at dksX6_drawsPerson_1 5 rfl rfl)
theorem dX6_drawsPerson_29 : decode cX6_drawsPerson 29 = .ok (.goto 6, 3) := dk_167 0 6 (dk_at dksX6_drawsPerson_1 6 rfl rfl)
theorem dX6_drawsPerson_32 : decode cX6_drawsPerson 32 = .ok (.iload_n 3, 1) := dk_29 (dk_at dksX6_drawsPerson_1 9 rfl rfl)
theorem dX6_drawsPerson_33 : decode cX6_drawsPerson 33 = .ok (.iconst 1, 1) := dk_4 (dk_at dksX6_drawsPerson_1 10 rfl rfl)
theorem dX6_drawsPerson_34 : decode cX6_drawsPerson 34 = .ok (.iadd, 1) := dk_96 (dk_at dksX6_drawsPerson_1 11 rfl rfl)
theorem dX6_drawsPerson_35 : decode cX6_drawsPerson 35 = .ok (.istore 4, 2) := dk_54 4 (dk_at dksX6_drawsPerson_1 12 rfl rfl)
theorem dX6_drawsPerson_37 : decode cX6_drawsPerson 37 = .ok (.aload_n 0, 1) := dk_42 (dk_at dksX6_drawsPerson_1 14 rfl rfl)
theorem dX6_drawsPerson_38 : decode cX6_drawsPerson 38 = .ok (.getfield 119, 3) := dk_180 0 119 (dk_at dksX6_drawsPerson_1 15 rfl rfl)
theorem dX6_drawsPerson_41 : decode cX6_drawsPerson 41 = .ok (.sipush 1453, 3) := dk_17 5 173 (dk_at dksX6_drawsPerson_1 18 rfl rfl)
theorem dX6_drawsPerson_44 : decode cX6_drawsPerson 44 = .ok (.iload_n 1, 1) := dk_27 (dk_at dksX6_drawsPerson_1 21 rfl rfl)
theorem dX6_drawsPerson_45 : decode cX6_drawsPerson 45 = .ok (.iadd, 1) := dk_96 (dk_at dksX6_drawsPerson_1 22 rfl rfl)
theorem dX6_drawsPerson_46 : decode cX6_drawsPerson 46 = .ok (.iload 4, 2) := dk_21 4 (dk_at dksX6_drawsPerson_2 0 rfl rfl)
theorem dX6_drawsPerson_48 : decode cX6_drawsPerson 48 = .ok (.iconst 0, 1) := dk_3 (dk_at dksX6_drawsPerson_2 2 rfl rfl)
theorem dX6_drawsPerson_49 : decode cX6_drawsPerson 49 = .ok (.bipush 9, 2) := dk_16 9 (dk_at dksX6_drawsPerson_2 3 rfl rfl)
theorem dX6_drawsPerson_51 : decode cX6_drawsPerson 51 = .ok (.invokestatic 198, 3) := dk_184 0 198 (dk_at dksX6_drawsPerson_2 5 rfl rfl)
theorem dX6_drawsPerson_54 : decode cX6_drawsPerson 54 = .ok (.ifCond .eq 8, 3) := dk_153 0 8 (dk_at dksX6_drawsPerson_2 8 rfl rfl)
theorem dX6_drawsPerson_57 : decode cX6_drawsPerson 57 = .ok (.iload 4, 2) := dk_21 4 (dk_at dksX6_drawsPerson_2 11 rfl rfl)
theorem dX6_drawsPerson_59 : decode cX6_drawsPerson 59 = .ok (.goto 4, 3) := dk_167 0 4 (dk_at dksX6_drawsPerson_2 13 rfl rfl)
theorem dX6_drawsPerson_62 : decode cX6_drawsPerson 62 = .ok (.iload_n 3, 1) := dk_29 (dk_at dksX6_drawsPerson_2 16 rfl rfl)
theorem dX6_drawsPerson_63 : decode cX6_drawsPerson 63 = .ok (.iastore, 1) := dk_79 (dk_at dksX6_drawsPerson_2 17 rfl rfl)
theorem dX6_drawsPerson_64 : decode cX6_drawsPerson 64 = .ok (.goto 58, 3) := dk_167 0 58 (dk_at dksX6_drawsPerson_2 18 rfl rfl)
theorem dX6_drawsPerson_67 : decode cX6_drawsPerson 67 = .ok (.aload_n 0, 1) := dk_42 (dk_at dksX6_drawsPerson_2 21 rfl rfl)
theorem dX6_drawsPerson_68 : decode cX6_drawsPerson 68 = .ok (.invokevirtual 281, 3) := dk_182 1 25 (dk_at dksX6_drawsPerson_3 0 rfl rfl)
theorem dX6_drawsPerson_71 : decode cX6_drawsPerson 71 = .ok (.ifCond .le 51, 3) := dk_158 0 51 (dk_at dksX6_drawsPerson_3 3 rfl rfl)
theorem dX6_drawsPerson_74 : decode cX6_drawsPerson 74 = .ok (.aload_n 0, 1) := dk_42 (dk_at dksX6_drawsPerson_3 6 rfl rfl)
theorem dX6_drawsPerson_75 : decode cX6_drawsPerson 75 = .ok (.sipush 1452, 3) := dk_17 5 172 (dk_at dksX6_drawsPerson_3 7 rfl rfl)
theorem dX6_drawsPerson_78 : decode cX6_drawsPerson 78 = .ok (.iload_n 1, 1) := dk_27 (dk_at dksX6_drawsPerson_3 10 rfl rfl)
theorem dX6_drawsPerson_79 : decode cX6_drawsPerson 79 = .ok (.aload_n 0, 1) := dk_42 (dk_at dksX6_drawsPerson_3 11 rfl rfl)
theorem dX6_drawsPerson_80 : decode cX6_drawsPerson 80 = .ok (.aload_n 0, 1) := dk_42 (dk_at dksX6_drawsPerson_3 12 rfl rfl)
theorem dX6_drawsPerson_81 : decode cX6_drawsPerson 81 = .ok (.invokevirtual 281, 3) := dk_182 1 25 (dk_at dksX6_drawsPerson_3 13 rfl rfl)
theorem dX6_drawsPerson_84 : decode cX6_drawsPerson 84 = .ok (.invokevirtual 402, 3) := dk_182 1 146 (dk_at dksX6_drawsPerson_3 16 rfl rfl)
theorem dX6_drawsPerson_87 : decode cX6_drawsPerson 87 = .ok (.iload_n 3, 1) := dk_29 (dk_at dksX6_drawsPerson_3 19 rfl rfl)
theorem dX6_drawsPerson_88 : decode cX6_drawsPerson 88 = .ok (.invokevirtual 355, 3) := dk_182 1 99 (dk_at dksX6_drawsPerson_3 20 rfl rfl)
theorem dX6_drawsPerson_91 : decode cX6_drawsPerson 91 = .ok (.istore 4, 2) := dk_54 4 (dk_at dksX6_drawsPerson_4 0 rfl rfl)
theorem dX6_drawsPerson_93 : decode cX6_drawsPerson 93 = .ok (.aload_n 0, 1) := dk_42 (dk_at dksX6_drawsPerson_4 2 rfl rfl)
theorem dX6_drawsPerson_94 : decode cX6_drawsPerson 94 = .ok (.dup, 1) := dk_89 (dk_at dksX6_drawsPerson_4 3 rfl rfl)
theorem dX6_drawsPerson_95 : decode cX6_drawsPerson 95 = .ok (.getfield 405, 3) := dk_180 1 149 (dk_at dksX6_drawsPerson_4 4 rfl rfl)
theorem dX6_drawsPerson_98 : decode cX6_drawsPerson 98 = .ok (.iconst 1, 1) := dk_4 (dk_at dksX6_drawsPerson_4 7 rfl rfl)
theorem dX6_drawsPerson_99 : decode cX6_drawsPerson 99 = .ok (.iadd, 1) := dk_96 (dk_at dksX6_drawsPerson_4 8 rfl rfl)
theorem dX6_drawsPerson_100 : decode cX6_drawsPerson 100 = .ok (.putfield 405, 3) := dk_181 1 149 (dk_at dksX6_drawsPerson_4 9 rfl rfl)
theorem dX6_drawsPerson_103 : decode cX6_drawsPerson 103 = .ok (.aload_n 0, 1) := dk_42 (dk_at dksX6_drawsPerson_4 12 rfl rfl)
theorem dX6_drawsPerson_104 : decode cX6_drawsPerson 104 = .ok (.dup, 1) := dk_89 (dk_at dksX6_drawsPerson_4 13 rfl rfl)
theorem dX6_drawsPerson_105 : decode cX6_drawsPerson 105 = .ok (.getfield 408, 3) := dk_180 1 152 (dk_at dksX6_drawsPerson_4 14 rfl rfl)
theorem dX6_drawsPerson_108 : decode cX6_drawsPerson 108 = .ok (.iload 4, 2) := dk_21 4 (dk_at dksX6_drawsPerson_4 17 rfl rfl)
theorem dX6_drawsPerson_110 : decode cX6_drawsPerson 110 = .ok (.ifCond .ne 7, 3) := dk_154 0 7 (dk_at dksX6_drawsPerson_4 19 rfl rfl)
theorem dX6_drawsPerson_113 : decode cX6_drawsPerson 113 = .ok (.iconst 1, 1) := dk_4 (dk_at dksX6_drawsPerson_4 22 rfl rfl)
theorem dX6_drawsPerson_114 : decode cX6_drawsPerson 114 = .ok (.goto 4, 3) := dk_167 0 4 (dk_at dksX6_drawsPerson_5 0 rfl rfl)
theorem dX6_drawsPerson_117 : decode cX6_drawsPerson 117 = .ok (.iconst 0, 1) := dk_3 (dk_at dksX6_drawsPerson_5 3 rfl rfl)
theorem dX6_drawsPerson_118 : decode cX6_drawsPerson 118 = .ok (.iadd, 1) := dk_96 (dk_at dksX6_drawsPerson_5 4 rfl rfl)
theorem dX6_drawsPerson_119 : decode cX6_drawsPerson 119 = .ok (.putfield 408, 3) := dk_181 1 152 (dk_at dksX6_drawsPerson_5 5 rfl rfl)
theorem dX6_drawsPerson_122 : decode cX6_drawsPerson 122 = .ok (.return_, 1) := dk_177 (dk_at dksX6_drawsPerson_5 8 rfl rfl)
abbrev cX6_draw : ByteArray := prog_24_method_113_code
def yX6_draw : MethodName := ⟨RX6, "draw", "(I)I"⟩
def dkwX6_draw_1 : List UInt8 := [20, 1, 144, 109, 27, 133, 113, 136, 172]
abbrev dktX6_draw_1 : List UInt8 := dkwX6_draw_1 ++ []
def dkwX6_draw_0 : List UInt8 := [42, 42, 180, 1, 134, 20, 1, 138, 105, 20, 1, 140, 97, 20, 1, 142, 113, 181, 1, 134, 42, 180, 1, 134]
abbrev dktX6_draw_0 : List UInt8 := dkwX6_draw_0 ++ dktX6_draw_1
theorem dksX6_draw_0 : cX6_draw.data.toList.drop 0 = dktX6_draw_0 := by decide +kernel
theorem dksX6_draw_1 : cX6_draw.data.toList.drop 24 = dktX6_draw_1 := dk_seg dksX6_draw_0 24 rfl rfl
theorem dX6_draw_0 : decode cX6_draw 0 = .ok (.aload_n 0, 1) := dk_42 (dk_at dksX6_draw_0 0 rfl rfl)
theorem dX6_draw_1 : decode cX6_draw 1 = .ok (.aload_n 0, 1) := dk_42 (dk_at dksX6_draw_0 1 rfl rfl)
theorem dX6_draw_2 : decode cX6_draw 2 = .ok (.getfield 390, 3) := dk_180 1 134 (dk_at dksX6_draw_0 2 rfl rfl)
theorem dX6_draw_5 : decode cX6_draw 5 = .ok (.ldc2_w 394, 3) := dk_20 1 138 (dk_at dksX6_draw_0 5 rfl rfl)
theorem dX6_draw_8 : decode cX6_draw 8 = .ok (.lmul, 1) := dk_105 (dk_at dksX6_draw_0 8 rfl rfl)
theorem dX6_draw_9 : decode cX6_draw 9 = .ok (.ldc2_w 396, 3) := dk_20 1 140 (dk_at dksX6_draw_0 9 rfl rfl)
theorem dX6_draw_12 : decode cX6_draw 12 = .ok (.ladd, 1) := dk_97 (dk_at dksX6_draw_0 12 rfl rfl)
theorem dX6_draw_13 : decode cX6_draw 13 = .ok (.ldc2_w 398, 3) := dk_20 1 142 (dk_at dksX6_draw_0 13 rfl rfl)
theorem dX6_draw_16 : decode cX6_draw 16 = .ok (.lrem, 1) := dk_113 (dk_at dksX6_draw_0 16 rfl rfl)
theorem dX6_draw_17 : decode cX6_draw 17 = .ok (.putfield 390, 3) := dk_181 1 134 (dk_at dksX6_draw_0 17 rfl rfl)
theorem dX6_draw_20 : decode cX6_draw 20 = .ok (.aload_n 0, 1) := dk_42 (dk_at dksX6_draw_0 20 rfl rfl)
theorem dX6_draw_21 : decode cX6_draw 21 = .ok (.getfield 390, 3) := dk_180 1 134 (dk_at dksX6_draw_0 21 rfl rfl)
theorem dX6_draw_24 : decode cX6_draw 24 = .ok (.ldc2_w 400, 3) := dk_20 1 144 (dk_at dksX6_draw_1 0 rfl rfl)
theorem dX6_draw_27 : decode cX6_draw 27 = .ok (.ldiv, 1) := dk_109 (dk_at dksX6_draw_1 3 rfl rfl)
theorem dX6_draw_28 : decode cX6_draw 28 = .ok (.iload_n 1, 1) := dk_27 (dk_at dksX6_draw_1 4 rfl rfl)
theorem dX6_draw_29 : decode cX6_draw 29 = .ok (.i2l, 1) := dk_133 (dk_at dksX6_draw_1 5 rfl rfl)
theorem dX6_draw_30 : decode cX6_draw 30 = .ok (.lrem, 1) := dk_113 (dk_at dksX6_draw_1 6 rfl rfl)
theorem dX6_draw_31 : decode cX6_draw 31 = .ok (.l2i, 1) := dk_136 (dk_at dksX6_draw_1 7 rfl rfl)
theorem dX6_draw_32 : decode cX6_draw 32 = .ok (.ireturn, 1) := dk_172 (dk_at dksX6_draw_1 8 rfl rfl)
abbrev cX6_notch : ByteArray := prog_24_method_116_code
def yX6_notch : MethodName := ⟨RX6, "notch", "(IZ)Z"⟩
def dkwX6_notch_3 : List UInt8 := [28, 153, 0, 7, 3, 167, 0, 7, 42, 180, 1, 16, 181, 1, 16, 4, 172]
abbrev dktX6_notch_3 : List UInt8 := dkwX6_notch_3 ++ []
def dkwX6_notch_2 : List UInt8 := [167, 0, 4, 3, 28, 153, 0, 7, 3, 167, 0, 9, 16, 66, 4, 27, 96, 104, 16, 66, 182, 1, 19, 42]
abbrev dktX6_notch_2 : List UInt8 := dkwX6_notch_2 ++ dktX6_notch_3
def dkwX6_notch_1 : List UInt8 := [154, 0, 5, 3, 172, 42, 180, 0, 122, 27, 4, 84, 42, 28, 153, 0, 12, 16, 66, 4, 27, 96, 104]
abbrev dktX6_notch_1 : List UInt8 := dkwX6_notch_1 ++ dktX6_notch_2
def dkwX6_notch_0 : List UInt8 := [42, 3, 181, 0, 1, 27, 3, 6, 184, 0, 198, 153, 0, 16, 28, 153, 0, 14, 42, 180, 0, 122, 27, 51]
abbrev dktX6_notch_0 : List UInt8 := dkwX6_notch_0 ++ dktX6_notch_1
theorem dksX6_notch_0 : cX6_notch.data.toList.drop 0 = dktX6_notch_0 := by decide +kernel
theorem dksX6_notch_1 : cX6_notch.data.toList.drop 24 = dktX6_notch_1 := dk_seg dksX6_notch_0 24 rfl rfl
theorem dksX6_notch_2 : cX6_notch.data.toList.drop 47 = dktX6_notch_2 := dk_seg dksX6_notch_1 23 rfl rfl
theorem dksX6_notch_3 : cX6_notch.data.toList.drop 71 = dktX6_notch_3 := dk_seg dksX6_notch_2 24 rfl rfl
theorem dX6_notch_0 : decode cX6_notch 0 = .ok (.aload_n 0, 1) := dk_42 (dk_at dksX6_notch_0 0 rfl rfl)
theorem dX6_notch_1 : decode cX6_notch 1 = .ok (.iconst 0, 1) := dk_3 (dk_at dksX6_notch_0 1 rfl rfl)
theorem dX6_notch_2 : decode cX6_notch 2 = .ok (.putfield 1, 3) := dk_181 0 1 (dk_at dksX6_notch_0 2 rfl rfl)
theorem dX6_notch_5 : decode cX6_notch 5 = .ok (.iload_n 1, 1) := dk_27 (dk_at dksX6_notch_0 5 rfl rfl)
theorem dX6_notch_6 : decode cX6_notch 6 = .ok (.iconst 0, 1) := dk_3 (dk_at dksX6_notch_0 6 rfl rfl)
theorem dX6_notch_7 : decode cX6_notch 7 = .ok (.iconst 3, 1) := dk_6 (dk_at dksX6_notch_0 7 rfl rfl)
theorem dX6_notch_8 : decode cX6_notch 8 = .ok (.invokestatic 198, 3) := dk_184 0 198 (dk_at dksX6_notch_0 8 rfl rfl)
theorem dX6_notch_11 : decode cX6_notch 11 = .ok (.ifCond .eq 16, 3) := dk_153 0 16 (dk_at dksX6_notch_0 11 rfl rfl)
theorem dX6_notch_14 : decode cX6_notch 14 = .ok (.iload_n 2, 1) := dk_28 (dk_at dksX6_notch_0 14 rfl rfl)
theorem dX6_notch_15 : decode cX6_notch 15 = .ok (.ifCond .eq 14, 3) := dk_153 0 14 (dk_at dksX6_notch_0 15 rfl rfl)
theorem dX6_notch_18 : decode cX6_notch 18 = .ok (.aload_n 0, 1) := dk_42 (dk_at dksX6_notch_0 18 rfl rfl)
theorem dX6_notch_19 : decode cX6_notch 19 = .ok (.getfield 122, 3) := dk_180 0 122 (dk_at dksX6_notch_0 19 rfl rfl)
theorem dX6_notch_22 : decode cX6_notch 22 = .ok (.iload_n 1, 1) := dk_27 (dk_at dksX6_notch_0 22 rfl rfl)
theorem dX6_notch_23 : decode cX6_notch 23 = .ok (.baload, 1) := dk_51 (dk_at dksX6_notch_0 23 rfl rfl)
theorem dX6_notch_24 : decode cX6_notch 24 = .ok (.ifCond .ne 5, 3) := dk_154 0 5 (dk_at dksX6_notch_1 0 rfl rfl)
theorem dX6_notch_27 : decode cX6_notch 27 = .ok (.iconst 0, 1) := dk_3 (dk_at dksX6_notch_1 3 rfl rfl)
theorem dX6_notch_28 : decode cX6_notch 28 = .ok (.ireturn, 1) := dk_172 (dk_at dksX6_notch_1 4 rfl rfl)
theorem dX6_notch_29 : decode cX6_notch 29 = .ok (.aload_n 0, 1) := dk_42 (dk_at dksX6_notch_1 5 rfl rfl)
theorem dX6_notch_30 : decode cX6_notch 30 = .ok (.getfield 122, 3) := dk_180 0 122 (dk_at dksX6_notch_1 6 rfl rfl)
theorem dX6_notch_33 : decode cX6_notch 33 = .ok (.iload_n 1, 1) := dk_27 (dk_at dksX6_notch_1 9 rfl rfl)
theorem dX6_notch_34 : decode cX6_notch 34 = .ok (.iconst 1, 1) := dk_4 (dk_at dksX6_notch_1 10 rfl rfl)
theorem dX6_notch_35 : decode cX6_notch 35 = .ok (.bastore, 1) := dk_84 (dk_at dksX6_notch_1 11 rfl rfl)
theorem dX6_notch_36 : decode cX6_notch 36 = .ok (.aload_n 0, 1) := dk_42 (dk_at dksX6_notch_1 12 rfl rfl)
theorem dX6_notch_37 : decode cX6_notch 37 = .ok (.iload_n 2, 1) := dk_28 (dk_at dksX6_notch_1 13 rfl rfl)
theorem dX6_notch_38 : decode cX6_notch 38 = .ok (.ifCond .eq 12, 3) := dk_153 0 12 (dk_at dksX6_notch_1 14 rfl rfl)
theorem dX6_notch_41 : decode cX6_notch 41 = .ok (.bipush 66, 2) := dk_16 66 (dk_at dksX6_notch_1 17 rfl rfl)
theorem dX6_notch_43 : decode cX6_notch 43 = .ok (.iconst 1, 1) := dk_4 (dk_at dksX6_notch_1 19 rfl rfl)
theorem dX6_notch_44 : decode cX6_notch 44 = .ok (.iload_n 1, 1) := dk_27 (dk_at dksX6_notch_1 20 rfl rfl)
theorem dX6_notch_45 : decode cX6_notch 45 = .ok (.iadd, 1) := dk_96 (dk_at dksX6_notch_1 21 rfl rfl)
theorem dX6_notch_46 : decode cX6_notch 46 = .ok (.imul, 1) := dk_104 (dk_at dksX6_notch_1 22 rfl rfl)
theorem dX6_notch_47 : decode cX6_notch 47 = .ok (.goto 4, 3) := dk_167 0 4 (dk_at dksX6_notch_2 0 rfl rfl)
theorem dX6_notch_50 : decode cX6_notch 50 = .ok (.iconst 0, 1) := dk_3 (dk_at dksX6_notch_2 3 rfl rfl)
theorem dX6_notch_51 : decode cX6_notch 51 = .ok (.iload_n 2, 1) := dk_28 (dk_at dksX6_notch_2 4 rfl rfl)
theorem dX6_notch_52 : decode cX6_notch 52 = .ok (.ifCond .eq 7, 3) := dk_153 0 7 (dk_at dksX6_notch_2 5 rfl rfl)
theorem dX6_notch_55 : decode cX6_notch 55 = .ok (.iconst 0, 1) := dk_3 (dk_at dksX6_notch_2 8 rfl rfl)
theorem dX6_notch_56 : decode cX6_notch 56 = .ok (.goto 9, 3) := dk_167 0 9 (dk_at dksX6_notch_2 9 rfl rfl)
theorem dX6_notch_59 : decode cX6_notch 59 = .ok (.bipush 66, 2) := dk_16 66 (dk_at dksX6_notch_2 12 rfl rfl)
theorem dX6_notch_61 : decode cX6_notch 61 = .ok (.iconst 1, 1) := dk_4 (dk_at dksX6_notch_2 14 rfl rfl)
theorem dX6_notch_62 : decode cX6_notch 62 = .ok (.iload_n 1, 1) := dk_27 (dk_at dksX6_notch_2 15 rfl rfl)
theorem dX6_notch_63 : decode cX6_notch 63 = .ok (.iadd, 1) := dk_96 (dk_at dksX6_notch_2 16 rfl rfl)
theorem dX6_notch_64 : decode cX6_notch 64 = .ok (.imul, 1) := dk_104 (dk_at dksX6_notch_2 17 rfl rfl)
theorem dX6_notch_65 : decode cX6_notch 65 = .ok (.bipush 66, 2) := dk_16 66 (dk_at dksX6_notch_2 18 rfl rfl)
theorem dX6_notch_67 : decode cX6_notch 67 = .ok (.invokevirtual 275, 3) := dk_182 1 19 (dk_at dksX6_notch_2 20 rfl rfl)
theorem dX6_notch_70 : decode cX6_notch 70 = .ok (.aload_n 0, 1) := dk_42 (dk_at dksX6_notch_2 23 rfl rfl)
theorem dX6_notch_71 : decode cX6_notch 71 = .ok (.iload_n 2, 1) := dk_28 (dk_at dksX6_notch_3 0 rfl rfl)
theorem dX6_notch_72 : decode cX6_notch 72 = .ok (.ifCond .eq 7, 3) := dk_153 0 7 (dk_at dksX6_notch_3 1 rfl rfl)
theorem dX6_notch_75 : decode cX6_notch 75 = .ok (.iconst 0, 1) := dk_3 (dk_at dksX6_notch_3 4 rfl rfl)
theorem dX6_notch_76 : decode cX6_notch 76 = .ok (.goto 7, 3) := dk_167 0 7 (dk_at dksX6_notch_3 5 rfl rfl)
theorem dX6_notch_79 : decode cX6_notch 79 = .ok (.aload_n 0, 1) := dk_42 (dk_at dksX6_notch_3 8 rfl rfl)
theorem dX6_notch_80 : decode cX6_notch 80 = .ok (.getfield 272, 3) := dk_180 1 16 (dk_at dksX6_notch_3 9 rfl rfl)
theorem dX6_notch_83 : decode cX6_notch 83 = .ok (.putfield 272, 3) := dk_181 1 16 (dk_at dksX6_notch_3 12 rfl rfl)
theorem dX6_notch_86 : decode cX6_notch 86 = .ok (.iconst 1, 1) := dk_4 (dk_at dksX6_notch_3 15 rfl rfl)
theorem dX6_notch_87 : decode cX6_notch 87 = .ok (.ireturn, 1) := dk_172 (dk_at dksX6_notch_3 16 rfl rfl)
abbrev cX6_count : ByteArray := prog_24_method_119_code
def yX6_count : MethodName := ⟨RX6, "count", "(I)I"⟩
def dkwX6_count_5 : List UInt8 := [172, 42, 180, 1, 16, 172, 42, 180, 0, 11, 172, 2, 172]
abbrev dktX6_count_5 : List UInt8 := dkwX6_count_5 ++ []
def dkwX6_count_4 : List UInt8 := [180, 0, 110, 3, 46, 172, 42, 16, 60, 3, 182, 1, 161, 42, 16, 60, 4, 182, 1, 161, 128, 184, 1, 118]
abbrev dktX6_count_4 : List UInt8 := dkwX6_count_4 ++ dktX6_count_5
def dkwX6_count_3 : List UInt8 := [172, 42, 182, 1, 158, 172, 42, 16, 6, 4, 182, 1, 161, 172, 42, 16, 12, 4, 182, 1, 161, 172, 42]
abbrev dktX6_count_3 : List UInt8 := dkwX6_count_3 ++ dktX6_count_4
def dkwX6_count_2 : List UInt8 := [42, 180, 0, 89, 27, 46, 172, 42, 180, 0, 119, 3, 46, 172, 42, 42, 180, 0, 119, 3, 46, 182, 1, 35]
abbrev dktX6_count_2 : List UInt8 := dkwX6_count_2 ++ dktX6_count_3
def dkwX6_count_1 : List UInt8 := [170, 0, 0, 0, 0, 144, 0, 0, 0, 0, 0, 0, 0, 11, 0, 0, 0, 62, 0, 0, 0, 62, 0, 0, 0, 62, 0, 0, 0, 69, 0, 0, 0, 76, 0, 0, 0, 87, 0, 0, 0, 92, 0, 0, 0, 100, 0, 0, 0, 108, 0, 0, 0, 115, 0, 0, 0, 134, 0, 0, 0, 139]
abbrev dktX6_count_1 : List UInt8 := dkwX6_count_1 ++ dktX6_count_2
def dkwX6_count_0 : List UInt8 := [42, 3, 181, 0, 1, 27]
abbrev dktX6_count_0 : List UInt8 := dkwX6_count_0 ++ dktX6_count_1
theorem dksX6_count_0 : cX6_count.data.toList.drop 0 = dktX6_count_0 := by decide +kernel
theorem dksX6_count_1 : cX6_count.data.toList.drop 6 = dktX6_count_1 := dk_seg dksX6_count_0 6 rfl rfl
theorem dksX6_count_2 : cX6_count.data.toList.drop 68 = dktX6_count_2 := dk_seg dksX6_count_1 62 rfl rfl
theorem dksX6_count_3 : cX6_count.data.toList.drop 92 = dktX6_count_3 := dk_seg dksX6_count_2 24 rfl rfl
theorem dksX6_count_4 : cX6_count.data.toList.drop 115 = dktX6_count_4 := dk_seg dksX6_count_3 23 rfl rfl
theorem dksX6_count_5 : cX6_count.data.toList.drop 139 = dktX6_count_5 := dk_seg dksX6_count_4 24 rfl rfl
theorem dX6_count_0 : decode cX6_count 0 = .ok (.aload_n 0, 1) := dk_42 (dk_at dksX6_count_0 0 rfl rfl)
theorem dX6_count_1 : decode cX6_count 1 = .ok (.iconst 0, 1) := dk_3 (dk_at dksX6_count_0 1 rfl rfl)
theorem dX6_count_2 : decode cX6_count 2 = .ok (.putfield 1, 3) := dk_181 0 1 (dk_at dksX6_count_0 2 rfl rfl)
theorem dX6_count_5 : decode cX6_count 5 = .ok (.iload_n 1, 1) := dk_27 (dk_at dksX6_count_0 5 rfl rfl)
theorem dX6_count_6 : decode cX6_count 6 = .ok (.tableswitch 144 0 11 #[62, 62, 62, 69, 76, 87, 92, 100, 108, 115, 134, 139], 62) := by decide +kernel
theorem dX6_count_68 : decode cX6_count 68 = .ok (.aload_n 0, 1) := dk_42 (dk_at dksX6_count_2 0 rfl rfl)
theorem dX6_count_69 : decode cX6_count 69 = .ok (.getfield 89, 3) := dk_180 0 89 (dk_at dksX6_count_2 1 rfl rfl)
theorem dX6_count_72 : decode cX6_count 72 = .ok (.iload_n 1, 1) := dk_27 (dk_at dksX6_count_2 4 rfl rfl)
theorem dX6_count_73 : decode cX6_count 73 = .ok (.iaload, 1) := dk_46 (dk_at dksX6_count_2 5 rfl rfl)
theorem dX6_count_74 : decode cX6_count 74 = .ok (.ireturn, 1) := dk_172 (dk_at dksX6_count_2 6 rfl rfl)
theorem dX6_count_75 : decode cX6_count 75 = .ok (.aload_n 0, 1) := dk_42 (dk_at dksX6_count_2 7 rfl rfl)
theorem dX6_count_76 : decode cX6_count 76 = .ok (.getfield 119, 3) := dk_180 0 119 (dk_at dksX6_count_2 8 rfl rfl)
theorem dX6_count_79 : decode cX6_count 79 = .ok (.iconst 0, 1) := dk_3 (dk_at dksX6_count_2 11 rfl rfl)
theorem dX6_count_80 : decode cX6_count 80 = .ok (.iaload, 1) := dk_46 (dk_at dksX6_count_2 12 rfl rfl)
theorem dX6_count_81 : decode cX6_count 81 = .ok (.ireturn, 1) := dk_172 (dk_at dksX6_count_2 13 rfl rfl)
theorem dX6_count_82 : decode cX6_count 82 = .ok (.aload_n 0, 1) := dk_42 (dk_at dksX6_count_2 14 rfl rfl)
theorem dX6_count_83 : decode cX6_count 83 = .ok (.aload_n 0, 1) := dk_42 (dk_at dksX6_count_2 15 rfl rfl)
theorem dX6_count_84 : decode cX6_count 84 = .ok (.getfield 119, 3) := dk_180 0 119 (dk_at dksX6_count_2 16 rfl rfl)
theorem dX6_count_87 : decode cX6_count 87 = .ok (.iconst 0, 1) := dk_3 (dk_at dksX6_count_2 19 rfl rfl)
theorem dX6_count_88 : decode cX6_count 88 = .ok (.iaload, 1) := dk_46 (dk_at dksX6_count_2 20 rfl rfl)
theorem dX6_count_89 : decode cX6_count 89 = .ok (.invokevirtual 291, 3) := dk_182 1 35 (dk_at dksX6_count_2 21 rfl rfl)
theorem dX6_count_92 : decode cX6_count 92 = .ok (.ireturn, 1) := dk_172 (dk_at dksX6_count_3 0 rfl rfl)
theorem dX6_count_93 : decode cX6_count 93 = .ok (.aload_n 0, 1) := dk_42 (dk_at dksX6_count_3 1 rfl rfl)
theorem dX6_count_94 : decode cX6_count 94 = .ok (.invokevirtual 414, 3) := dk_182 1 158 (dk_at dksX6_count_3 2 rfl rfl)
theorem dX6_count_97 : decode cX6_count 97 = .ok (.ireturn, 1) := dk_172 (dk_at dksX6_count_3 5 rfl rfl)
theorem dX6_count_98 : decode cX6_count 98 = .ok (.aload_n 0, 1) := dk_42 (dk_at dksX6_count_3 6 rfl rfl)
theorem dX6_count_99 : decode cX6_count 99 = .ok (.bipush 6, 2) := dk_16 6 (dk_at dksX6_count_3 7 rfl rfl)
theorem dX6_count_101 : decode cX6_count 101 = .ok (.iconst 1, 1) := dk_4 (dk_at dksX6_count_3 9 rfl rfl)
theorem dX6_count_102 : decode cX6_count 102 = .ok (.invokevirtual 417, 3) := dk_182 1 161 (dk_at dksX6_count_3 10 rfl rfl)
theorem dX6_count_105 : decode cX6_count 105 = .ok (.ireturn, 1) := dk_172 (dk_at dksX6_count_3 13 rfl rfl)
theorem dX6_count_106 : decode cX6_count 106 = .ok (.aload_n 0, 1) := dk_42 (dk_at dksX6_count_3 14 rfl rfl)
theorem dX6_count_107 : decode cX6_count 107 = .ok (.bipush 12, 2) := dk_16 12 (dk_at dksX6_count_3 15 rfl rfl)
theorem dX6_count_109 : decode cX6_count 109 = .ok (.iconst 1, 1) := dk_4 (dk_at dksX6_count_3 17 rfl rfl)
theorem dX6_count_110 : decode cX6_count 110 = .ok (.invokevirtual 417, 3) := dk_182 1 161 (dk_at dksX6_count_3 18 rfl rfl)
theorem dX6_count_113 : decode cX6_count 113 = .ok (.ireturn, 1) := dk_172 (dk_at dksX6_count_3 21 rfl rfl)
theorem dX6_count_114 : decode cX6_count 114 = .ok (.aload_n 0, 1) := dk_42 (dk_at dksX6_count_3 22 rfl rfl)
theorem dX6_count_115 : decode cX6_count 115 = .ok (.getfield 110, 3) := dk_180 0 110 (dk_at dksX6_count_4 0 rfl rfl)
theorem dX6_count_118 : decode cX6_count 118 = .ok (.iconst 0, 1) := dk_3 (dk_at dksX6_count_4 3 rfl rfl)
theorem dX6_count_119 : decode cX6_count 119 = .ok (.iaload, 1) := dk_46 (dk_at dksX6_count_4 4 rfl rfl)
theorem dX6_count_120 : decode cX6_count 120 = .ok (.ireturn, 1) := dk_172 (dk_at dksX6_count_4 5 rfl rfl)
theorem dX6_count_121 : decode cX6_count 121 = .ok (.aload_n 0, 1) := dk_42 (dk_at dksX6_count_4 6 rfl rfl)
theorem dX6_count_122 : decode cX6_count 122 = .ok (.bipush 60, 2) := dk_16 60 (dk_at dksX6_count_4 7 rfl rfl)
theorem dX6_count_124 : decode cX6_count 124 = .ok (.iconst 0, 1) := dk_3 (dk_at dksX6_count_4 9 rfl rfl)
theorem dX6_count_125 : decode cX6_count 125 = .ok (.invokevirtual 417, 3) := dk_182 1 161 (dk_at dksX6_count_4 10 rfl rfl)
theorem dX6_count_128 : decode cX6_count 128 = .ok (.aload_n 0, 1) := dk_42 (dk_at dksX6_count_4 13 rfl rfl)
theorem dX6_count_129 : decode cX6_count 129 = .ok (.bipush 60, 2) := dk_16 60 (dk_at dksX6_count_4 14 rfl rfl)
theorem dX6_count_131 : decode cX6_count 131 = .ok (.iconst 1, 1) := dk_4 (dk_at dksX6_count_4 16 rfl rfl)
theorem dX6_count_132 : decode cX6_count 132 = .ok (.invokevirtual 417, 3) := dk_182 1 161 (dk_at dksX6_count_4 17 rfl rfl)
theorem dX6_count_135 : decode cX6_count 135 = .ok (.ior, 1) := dk_128 (dk_at dksX6_count_4 20 rfl rfl)
theorem dX6_count_136 : decode cX6_count 136 = .ok (.invokestatic 374, 3) := dk_184 1 118 (dk_at dksX6_count_4 21 rfl rfl)
theorem dX6_count_139 : decode cX6_count 139 = .ok (.ireturn, 1) := dk_172 (dk_at dksX6_count_5 0 rfl rfl)
theorem dX6_count_140 : decode cX6_count 140 = .ok (.aload_n 0, 1) := dk_42 (dk_at dksX6_count_5 1 rfl rfl)
theorem dX6_count_141 : decode cX6_count 141 = .ok (.getfield 272, 3) := dk_180 1 16 (dk_at dksX6_count_5 2 rfl rfl)
theorem dX6_count_144 : decode cX6_count 144 = .ok (.ireturn, 1) := dk_172 (dk_at dksX6_count_5 5 rfl rfl)
theorem dX6_count_145 : decode cX6_count 145 = .ok (.aload_n 0, 1) := dk_42 (dk_at dksX6_count_5 6 rfl rfl)
theorem dX6_count_146 : decode cX6_count 146 = .ok (.getfield 11, 3) := dk_180 0 11 (dk_at dksX6_count_5 7 rfl rfl)
theorem dX6_count_149 : decode cX6_count 149 = .ok (.ireturn, 1) := dk_172 (dk_at dksX6_count_5 10 rfl rfl)
theorem dX6_count_150 : decode cX6_count 150 = .ok (.iconst (-1), 1) := dk_2 (dk_at dksX6_count_5 11 rfl rfl)
theorem dX6_count_151 : decode cX6_count 151 = .ok (.ireturn, 1) := dk_172 (dk_at dksX6_count_5 12 rfl rfl)
abbrev cX6_marksMany : ByteArray := prog_24_method_118_code
def yX6_marksMany : MethodName := ⟨RX6, "marksMany", "()I"⟩
def dkwX6_marksMany_1 : List UInt8 := [132, 2, 1, 167, 255, 233, 27, 172]
abbrev dktX6_marksMany_1 : List UInt8 := dkwX6_marksMany_1 ++ []
def dkwX6_marksMany_0 : List UInt8 := [3, 60, 3, 61, 28, 42, 182, 1, 22, 162, 0, 21, 27, 42, 180, 0, 119, 16, 18, 28, 96, 46, 96, 60]
abbrev dktX6_marksMany_0 : List UInt8 := dkwX6_marksMany_0 ++ dktX6_marksMany_1
theorem dksX6_marksMany_0 : cX6_marksMany.data.toList.drop 0 = dktX6_marksMany_0 := by decide +kernel
theorem dksX6_marksMany_1 : cX6_marksMany.data.toList.drop 24 = dktX6_marksMany_1 := dk_seg dksX6_marksMany_0 24 rfl rfl
theorem dX6_marksMany_0 : decode cX6_marksMany 0 = .ok (.iconst 0, 1) := dk_3 (dk_at dksX6_marksMany_0 0 rfl rfl)
theorem dX6_marksMany_1 : decode cX6_marksMany 1 = .ok (.istore_n 1, 1) := dk_60 (dk_at dksX6_marksMany_0 1 rfl rfl)
theorem dX6_marksMany_2 : decode cX6_marksMany 2 = .ok (.iconst 0, 1) := dk_3 (dk_at dksX6_marksMany_0 2 rfl rfl)
theorem dX6_marksMany_3 : decode cX6_marksMany 3 = .ok (.istore_n 2, 1) := dk_61 (dk_at dksX6_marksMany_0 3 rfl rfl)
theorem dX6_marksMany_4 : decode cX6_marksMany 4 = .ok (.iload_n 2, 1) := dk_28 (dk_at dksX6_marksMany_0 4 rfl rfl)
theorem dX6_marksMany_5 : decode cX6_marksMany 5 = .ok (.aload_n 0, 1) := dk_42 (dk_at dksX6_marksMany_0 5 rfl rfl)
theorem dX6_marksMany_6 : decode cX6_marksMany 6 = .ok (.invokevirtual 278, 3) := dk_182 1 22 (dk_at dksX6_marksMany_0 6 rfl rfl)
theorem dX6_marksMany_9 : decode cX6_marksMany 9 = .ok (.if_icmp .ge 21, 3) := dk_162 0 21 (dk_at dksX6_marksMany_0 9 rfl rfl)
theorem dX6_marksMany_12 : decode cX6_marksMany 12 = .ok (.iload_n 1, 1) := dk_27 (dk_at dksX6_marksMany_0 12 rfl rfl)
theorem dX6_marksMany_13 : decode cX6_marksMany 13 = .ok (.aload_n 0, 1) := dk_42 (dk_at dksX6_marksMany_0 13 rfl rfl)
theorem dX6_marksMany_14 : decode cX6_marksMany 14 = .ok (.getfield 119, 3) := dk_180 0 119 (dk_at dksX6_marksMany_0 14 rfl rfl)
theorem dX6_marksMany_17 : decode cX6_marksMany 17 = .ok (.bipush 18, 2) := dk_16 18 (dk_at dksX6_marksMany_0 17 rfl rfl)
theorem dX6_marksMany_19 : decode cX6_marksMany 19 = .ok (.iload_n 2, 1) := dk_28 (dk_at dksX6_marksMany_0 19 rfl rfl)
theorem dX6_marksMany_20 : decode cX6_marksMany 20 = .ok (.iadd, 1) := dk_96 (dk_at dksX6_marksMany_0 20 rfl rfl)
theorem dX6_marksMany_21 : decode cX6_marksMany 21 = .ok (.iaload, 1) := dk_46 (dk_at dksX6_marksMany_0 21 rfl rfl)
theorem dX6_marksMany_22 : decode cX6_marksMany 22 = .ok (.iadd, 1) := dk_96 (dk_at dksX6_marksMany_0 22 rfl rfl)
theorem dX6_marksMany_23 : decode cX6_marksMany 23 = .ok (.istore_n 1, 1) := dk_60 (dk_at dksX6_marksMany_0 23 rfl rfl)
theorem dX6_marksMany_24 : decode cX6_marksMany 24 = .ok (.iinc 2 1, 3) := dk_132 2 1 (dk_at dksX6_marksMany_1 0 rfl rfl)
theorem dX6_marksMany_27 : decode cX6_marksMany 27 = .ok (.goto (-23), 3) := dk_167 255 233 (dk_at dksX6_marksMany_1 3 rfl rfl)
theorem dX6_marksMany_30 : decode cX6_marksMany 30 = .ok (.iload_n 1, 1) := dk_27 (dk_at dksX6_marksMany_1 6 rfl rfl)
theorem dX6_marksMany_31 : decode cX6_marksMany 31 = .ok (.ireturn, 1) := dk_172 (dk_at dksX6_marksMany_1 7 rfl rfl)
abbrev cX6_bitsOf : ByteArray := prog_24_method_117_code
def yX6_bitsOf : MethodName := ⟨RX6, "bitsOf", "(II)I"⟩
def dkwX6_bitsOf_1 : List UInt8 := [28, 160, 0, 10, 4, 21, 4, 120, 167, 0, 4, 3, 128, 62, 132, 4, 1, 167, 255, 220, 29, 172]
abbrev dktX6_bitsOf_1 : List UInt8 := dkwX6_bitsOf_1 ++ []
def dkwX6_bitsOf_0 : List UInt8 := [3, 62, 3, 54, 4, 21, 4, 42, 182, 1, 22, 162, 0, 33, 29, 42, 180, 0, 119, 27, 21, 4, 96, 46]
abbrev dktX6_bitsOf_0 : List UInt8 := dkwX6_bitsOf_0 ++ dktX6_bitsOf_1
theorem dksX6_bitsOf_0 : cX6_bitsOf.data.toList.drop 0 = dktX6_bitsOf_0 := by decide +kernel
theorem dksX6_bitsOf_1 : cX6_bitsOf.data.toList.drop 24 = dktX6_bitsOf_1 := dk_seg dksX6_bitsOf_0 24 rfl rfl
theorem dX6_bitsOf_0 : decode cX6_bitsOf 0 = .ok (.iconst 0, 1) := dk_3 (dk_at dksX6_bitsOf_0 0 rfl rfl)
theorem dX6_bitsOf_1 : decode cX6_bitsOf 1 = .ok (.istore_n 3, 1) := dk_62 (dk_at dksX6_bitsOf_0 1 rfl rfl)
theorem dX6_bitsOf_2 : decode cX6_bitsOf 2 = .ok (.iconst 0, 1) := dk_3 (dk_at dksX6_bitsOf_0 2 rfl rfl)
theorem dX6_bitsOf_3 : decode cX6_bitsOf 3 = .ok (.istore 4, 2) := dk_54 4 (dk_at dksX6_bitsOf_0 3 rfl rfl)
theorem dX6_bitsOf_5 : decode cX6_bitsOf 5 = .ok (.iload 4, 2) := dk_21 4 (dk_at dksX6_bitsOf_0 5 rfl rfl)
theorem dX6_bitsOf_7 : decode cX6_bitsOf 7 = .ok (.aload_n 0, 1) := dk_42 (dk_at dksX6_bitsOf_0 7 rfl rfl)
theorem dX6_bitsOf_8 : decode cX6_bitsOf 8 = .ok (.invokevirtual 278, 3) := dk_182 1 22 (dk_at dksX6_bitsOf_0 8 rfl rfl)
theorem dX6_bitsOf_11 : decode cX6_bitsOf 11 = .ok (.if_icmp .ge 33, 3) := dk_162 0 33 (dk_at dksX6_bitsOf_0 11 rfl rfl)
theorem dX6_bitsOf_14 : decode cX6_bitsOf 14 = .ok (.iload_n 3, 1) := dk_29 (dk_at dksX6_bitsOf_0 14 rfl rfl)
theorem dX6_bitsOf_15 : decode cX6_bitsOf 15 = .ok (.aload_n 0, 1) := dk_42 (dk_at dksX6_bitsOf_0 15 rfl rfl)
theorem dX6_bitsOf_16 : decode cX6_bitsOf 16 = .ok (.getfield 119, 3) := dk_180 0 119 (dk_at dksX6_bitsOf_0 16 rfl rfl)
theorem dX6_bitsOf_19 : decode cX6_bitsOf 19 = .ok (.iload_n 1, 1) := dk_27 (dk_at dksX6_bitsOf_0 19 rfl rfl)
theorem dX6_bitsOf_20 : decode cX6_bitsOf 20 = .ok (.iload 4, 2) := dk_21 4 (dk_at dksX6_bitsOf_0 20 rfl rfl)
theorem dX6_bitsOf_22 : decode cX6_bitsOf 22 = .ok (.iadd, 1) := dk_96 (dk_at dksX6_bitsOf_0 22 rfl rfl)
theorem dX6_bitsOf_23 : decode cX6_bitsOf 23 = .ok (.iaload, 1) := dk_46 (dk_at dksX6_bitsOf_0 23 rfl rfl)
theorem dX6_bitsOf_24 : decode cX6_bitsOf 24 = .ok (.iload_n 2, 1) := dk_28 (dk_at dksX6_bitsOf_1 0 rfl rfl)
theorem dX6_bitsOf_25 : decode cX6_bitsOf 25 = .ok (.if_icmp .ne 10, 3) := dk_160 0 10 (dk_at dksX6_bitsOf_1 1 rfl rfl)
theorem dX6_bitsOf_28 : decode cX6_bitsOf 28 = .ok (.iconst 1, 1) := dk_4 (dk_at dksX6_bitsOf_1 4 rfl rfl)
theorem dX6_bitsOf_29 : decode cX6_bitsOf 29 = .ok (.iload 4, 2) := dk_21 4 (dk_at dksX6_bitsOf_1 5 rfl rfl)
theorem dX6_bitsOf_31 : decode cX6_bitsOf 31 = .ok (.ishl, 1) := dk_120 (dk_at dksX6_bitsOf_1 7 rfl rfl)
theorem dX6_bitsOf_32 : decode cX6_bitsOf 32 = .ok (.goto 4, 3) := dk_167 0 4 (dk_at dksX6_bitsOf_1 8 rfl rfl)
theorem dX6_bitsOf_35 : decode cX6_bitsOf 35 = .ok (.iconst 0, 1) := dk_3 (dk_at dksX6_bitsOf_1 11 rfl rfl)
theorem dX6_bitsOf_36 : decode cX6_bitsOf 36 = .ok (.ior, 1) := dk_128 (dk_at dksX6_bitsOf_1 12 rfl rfl)
theorem dX6_bitsOf_37 : decode cX6_bitsOf 37 = .ok (.istore_n 3, 1) := dk_62 (dk_at dksX6_bitsOf_1 13 rfl rfl)
theorem dX6_bitsOf_38 : decode cX6_bitsOf 38 = .ok (.iinc 4 1, 3) := dk_132 4 1 (dk_at dksX6_bitsOf_1 14 rfl rfl)
theorem dX6_bitsOf_41 : decode cX6_bitsOf 41 = .ok (.goto (-36), 3) := dk_167 255 220 (dk_at dksX6_bitsOf_1 17 rfl rfl)
theorem dX6_bitsOf_44 : decode cX6_bitsOf 44 = .ok (.iload_n 3, 1) := dk_29 (dk_at dksX6_bitsOf_1 20 rfl rfl)
theorem dX6_bitsOf_45 : decode cX6_bitsOf 45 = .ok (.ireturn, 1) := dk_172 (dk_at dksX6_bitsOf_1 21 rfl rfl)
theorem q129 : (Jvm.Cond.initialized "GlassStreetModel") ∈ lw_all := lw_g (lw_at lw_m1 9 rfl) rfl
theorem q973 : (Jvm.Cond.selects "GlassStreetModel" ({ cls := "java/lang/Object", name := "getClass", desc := "()Ljava/lang/Class;" } : Jvm.MethodName) ({ cls := "java/lang/Object", name := "getClass", desc := "()Ljava/lang/Class;" } : Jvm.MethodName)) ∈ lw_all := lw_g (lw_at lw_m4 133 rfl) rfl
theorem q1588 : (Jvm.Cond.instanceMethod ({ cls := "GlassStreetModel", name := "thrown", desc := "()I" } : Jvm.MethodName)) ∈ lw_all := lw_g (lw_at lw_m7 28 rfl) rfl
theorem q1589 : (Jvm.Cond.selects "GlassStreetModel" ({ cls := "GlassStreetModel", name := "thrown", desc := "()I" } : Jvm.MethodName) ({ cls := "GlassStreetModel", name := "thrown", desc := "()I" } : Jvm.MethodName)) ∈ lw_all := lw_g (lw_at lw_m7 29 rfl) rfl
theorem q1590 : (Jvm.Cond.code ({ cls := "GlassStreetModel", name := "thrown", desc := "()I" } : Jvm.MethodName) prog_24_method_1_code (1 : Nat) (Option.some Jvm.ClassFile.FieldType.int)) ∈ lw_all := lw_g (lw_at lw_m7 30 rfl) rfl
theorem q1592 : (Jvm.Cond.instanceMethod ({ cls := "GlassStreetModel", name := "feed", desc := "(JJJ)I" } : Jvm.MethodName)) ∈ lw_all := lw_g (lw_at lw_m7 32 rfl) rfl
theorem q1593 : (Jvm.Cond.selects "GlassStreetModel" ({ cls := "GlassStreetModel", name := "feed", desc := "(JJJ)I" } : Jvm.MethodName) ({ cls := "GlassStreetModel", name := "feed", desc := "(JJJ)I" } : Jvm.MethodName)) ∈ lw_all := lw_g (lw_at lw_m7 33 rfl) rfl
theorem q1594 : (Jvm.Cond.code ({ cls := "GlassStreetModel", name := "feed", desc := "(JJJ)I" } : Jvm.MethodName) prog_24_method_2_code (7 : Nat) (Option.some Jvm.ClassFile.FieldType.int)) ∈ lw_all := lw_g (lw_at lw_m7 34 rfl) rfl
theorem q1595 : (Jvm.Cond.methodLink "GlassStreetModel" (7 : Nat) ({ cls := "GlassStreetModel", name := "lay", desc := "(J)V" } : Jvm.MethodName)) ∈ lw_all := lw_g (lw_at lw_m7 35 rfl) rfl
theorem q1596 : (Jvm.Cond.privateMethod ({ cls := "GlassStreetModel", name := "lay", desc := "(J)V" } : Jvm.MethodName)) ∈ lw_tbl := lw_at lw_m7 36 rfl
theorem q1597 : (Jvm.Cond.instanceMethod ({ cls := "GlassStreetModel", name := "lay", desc := "(J)V" } : Jvm.MethodName)) ∈ lw_all := lw_g (lw_at lw_m7 37 rfl) rfl
theorem q1598 : (Jvm.Cond.instantiable "GlassStreetModel" (31 : Nat)) ∈ lw_all := lw_g (lw_at lw_m7 38 rfl) rfl
theorem q1599 : (Jvm.Cond.code ({ cls := "GlassStreetModel", name := "lay", desc := "(J)V" } : Jvm.MethodName) prog_24_method_3_code (5 : Nat) (Option.none : Option Jvm.ClassFile.FieldType)) ∈ lw_all := lw_g (lw_at lw_m7 39 rfl) rfl
theorem q1602 : (Jvm.Cond.instanceMethod ({ cls := "GlassStreetModel", name := "<init>", desc := "()V" } : Jvm.MethodName)) ∈ lw_all := lw_g (lw_at lw_m7 42 rfl) rfl
theorem q1603 : (Jvm.Cond.code ({ cls := "GlassStreetModel", name := "<init>", desc := "()V" } : Jvm.MethodName) prog_24_method_4_code (1 : Nat) (Option.none : Option Jvm.ClassFile.FieldType)) ∈ lw_all := lw_g (lw_at lw_m7 43 rfl) rfl
theorem q1604 : (Jvm.Cond.methodLink "GlassStreetModel" (18 : Nat) ({ cls := "java/lang/Object", name := "<init>", desc := "()V" } : Jvm.MethodName)) ∈ lw_all := lw_g (lw_at lw_m7 44 rfl) rfl
theorem q1605 : (Jvm.Cond.constantLong "GlassStreetModel" (34 : Nat) (812340 : Int64)) ∈ lw_all := lw_g (lw_at lw_m7 45 rfl) rfl
theorem q1606 : (Jvm.Cond.constantLong "GlassStreetModel" (36 : Nat) (20876492 : Int64)) ∈ lw_all := lw_g (lw_at lw_m7 46 rfl) rfl
theorem q1607 : (Jvm.Cond.constantLong "GlassStreetModel" (38 : Nat) (969456 : Int64)) ∈ lw_all := lw_g (lw_at lw_m7 47 rfl) rfl
theorem q1608 : (Jvm.Cond.constantLong "GlassStreetModel" (40 : Nat) (1119812451 : Int64)) ∈ lw_all := lw_g (lw_at lw_m7 48 rfl) rfl
theorem q1609 : (Jvm.Cond.constantLong "GlassStreetModel" (42 : Nat) (57 : Int64)) ∈ lw_all := lw_g (lw_at lw_m7 49 rfl) rfl
theorem q1610 : (Jvm.Cond.constantLong "GlassStreetModel" (44 : Nat) (209646 : Int64)) ∈ lw_all := lw_g (lw_at lw_m7 50 rfl) rfl
theorem q1611 : (Jvm.Cond.constantLong "GlassStreetModel" (46 : Nat) (407272 : Int64)) ∈ lw_all := lw_g (lw_at lw_m7 51 rfl) rfl
theorem q1612 : (Jvm.Cond.constantLong "GlassStreetModel" (48 : Nat) (22955708 : Int64)) ∈ lw_all := lw_g (lw_at lw_m7 52 rfl) rfl
theorem q1613 : (Jvm.Cond.constantLong "GlassStreetModel" (50 : Nat) (11301299 : Int64)) ∈ lw_all := lw_g (lw_at lw_m7 53 rfl) rfl
theorem q1614 : (Jvm.Cond.constantLong "GlassStreetModel" (52 : Nat) (1166843 : Int64)) ∈ lw_all := lw_g (lw_at lw_m7 54 rfl) rfl
theorem q1615 : (Jvm.Cond.constantLong "GlassStreetModel" (54 : Nat) (223351 : Int64)) ∈ lw_all := lw_g (lw_at lw_m7 55 rfl) rfl
theorem q1616 : (Jvm.Cond.constantLong "GlassStreetModel" (56 : Nat) (1167099 : Int64)) ∈ lw_all := lw_g (lw_at lw_m7 56 rfl) rfl
theorem q1617 : (Jvm.Cond.constantLong "GlassStreetModel" (58 : Nat) (9188151998 : Int64)) ∈ lw_all := lw_g (lw_at lw_m7 57 rfl) rfl
theorem q1618 : (Jvm.Cond.constantLong "GlassStreetModel" (60 : Nat) (36643177 : Int64)) ∈ lw_all := lw_g (lw_at lw_m7 58 rfl) rfl
theorem q1619 : (Jvm.Cond.constantLong "GlassStreetModel" (62 : Nat) (426554 : Int64)) ∈ lw_all := lw_g (lw_at lw_m7 59 rfl) rfl
theorem q1620 : (Jvm.Cond.constantLong "GlassStreetModel" (64 : Nat) (30596128 : Int64)) ∈ lw_all := lw_g (lw_at lw_m7 60 rfl) rfl
theorem q1621 : (Jvm.Cond.constantLong "GlassStreetModel" (66 : Nat) (16671652071 : Int64)) ∈ lw_all := lw_g (lw_at lw_m7 61 rfl) rfl
theorem q1622 : (Jvm.Cond.constantLong "GlassStreetModel" (68 : Nat) (37900887 : Int64)) ∈ lw_all := lw_g (lw_at lw_m7 62 rfl) rfl
theorem q1623 : (Jvm.Cond.constantLong "GlassStreetModel" (70 : Nat) (919275859 : Int64)) ∈ lw_all := lw_g (lw_at lw_m7 63 rfl) rfl
theorem q1624 : (Jvm.Cond.constantLong "GlassStreetModel" (72 : Nat) (19741 : Int64)) ∈ lw_all := lw_g (lw_at lw_m7 64 rfl) rfl
theorem q1625 : (Jvm.Cond.constantLong "GlassStreetModel" (74 : Nat) (1891 : Int64)) ∈ lw_all := lw_g (lw_at lw_m7 65 rfl) rfl
theorem q1626 : (Jvm.Cond.constantLong "GlassStreetModel" (76 : Nat) (573 : Int64)) ∈ lw_all := lw_g (lw_at lw_m7 66 rfl) rfl
theorem q1627 : (Jvm.Cond.constantLong "GlassStreetModel" (78 : Nat) (1633 : Int64)) ∈ lw_all := lw_g (lw_at lw_m7 67 rfl) rfl
theorem q1628 : (Jvm.Cond.constantLong "GlassStreetModel" (80 : Nat) (2779 : Int64)) ∈ lw_all := lw_g (lw_at lw_m7 68 rfl) rfl
theorem q1629 : (Jvm.Cond.constantLong "GlassStreetModel" (82 : Nat) (16781 : Int64)) ∈ lw_all := lw_g (lw_at lw_m7 69 rfl) rfl
theorem q1630 : (Jvm.Cond.constantLong "GlassStreetModel" (84 : Nat) (26523209 : Int64)) ∈ lw_all := lw_g (lw_at lw_m7 70 rfl) rfl
theorem q1631 : (Jvm.Cond.methodLink "GlassStreetModel" (126 : Nat) ({ cls := "GlassStreetModel", name := "standsAsAlways", desc := "(I)V" } : Jvm.MethodName)) ∈ lw_all := lw_g (lw_at lw_m7 71 rfl) rfl
theorem q1632 : (Jvm.Cond.privateMethod ({ cls := "GlassStreetModel", name := "standsAsAlways", desc := "(I)V" } : Jvm.MethodName)) ∈ lw_tbl := lw_at lw_m7 72 rfl
theorem q1633 : (Jvm.Cond.instanceMethod ({ cls := "GlassStreetModel", name := "standsAsAlways", desc := "(I)V" } : Jvm.MethodName)) ∈ lw_all := lw_g (lw_at lw_m7 73 rfl) rfl
theorem q1634 : (Jvm.Cond.code ({ cls := "GlassStreetModel", name := "standsAsAlways", desc := "(I)V" } : Jvm.MethodName) prog_24_method_18_code (3 : Nat) (Option.none : Option Jvm.ClassFile.FieldType)) ∈ lw_all := lw_g (lw_at lw_m7 74 rfl) rfl
theorem q1635 : (Jvm.Cond.methodLink "GlassStreetModel" (130 : Nat) ({ cls := "GlassStreetModel", name := "begins", desc := "()V" } : Jvm.MethodName)) ∈ lw_all := lw_g (lw_at lw_m7 75 rfl) rfl
theorem q1636 : (Jvm.Cond.privateMethod ({ cls := "GlassStreetModel", name := "begins", desc := "()V" } : Jvm.MethodName)) ∈ lw_tbl := lw_at lw_m7 76 rfl
theorem q1637 : (Jvm.Cond.instanceMethod ({ cls := "GlassStreetModel", name := "begins", desc := "()V" } : Jvm.MethodName)) ∈ lw_all := lw_g (lw_at lw_m7 77 rfl) rfl
theorem q1638 : (Jvm.Cond.code ({ cls := "GlassStreetModel", name := "begins", desc := "()V" } : Jvm.MethodName) prog_24_method_43_code (2 : Nat) (Option.none : Option Jvm.ClassFile.FieldType)) ∈ lw_all := lw_g (lw_at lw_m7 78 rfl) rfl
theorem q1639 : (Jvm.Cond.methodLink "GlassStreetModel" (269 : Nat) ({ cls := "GlassStreetModel", name := "starts", desc := "(I)V" } : Jvm.MethodName)) ∈ lw_all := lw_g (lw_at lw_m7 79 rfl) rfl
theorem q1640 : (Jvm.Cond.privateMethod ({ cls := "GlassStreetModel", name := "starts", desc := "(I)V" } : Jvm.MethodName)) ∈ lw_tbl := lw_at lw_m7 80 rfl
theorem q1641 : (Jvm.Cond.instanceMethod ({ cls := "GlassStreetModel", name := "starts", desc := "(I)V" } : Jvm.MethodName)) ∈ lw_all := lw_g (lw_at lw_m7 81 rfl) rfl
theorem q1642 : (Jvm.Cond.code ({ cls := "GlassStreetModel", name := "starts", desc := "(I)V" } : Jvm.MethodName) prog_24_method_42_code (3 : Nat) (Option.none : Option Jvm.ClassFile.FieldType)) ∈ lw_all := lw_g (lw_at lw_m7 82 rfl) rfl
theorem q1643 : (Jvm.Cond.methodLink "GlassStreetModel" (265 : Nat) ({ cls := "GlassStreetModel", name := "people", desc := "()I" } : Jvm.MethodName)) ∈ lw_all := lw_g (lw_at lw_m7 83 rfl) rfl
theorem q1644 : (Jvm.Cond.privateMethod ({ cls := "GlassStreetModel", name := "people", desc := "()I" } : Jvm.MethodName)) ∈ lw_tbl := lw_at lw_m7 84 rfl
theorem q1645 : (Jvm.Cond.instanceMethod ({ cls := "GlassStreetModel", name := "people", desc := "()I" } : Jvm.MethodName)) ∈ lw_all := lw_g (lw_at lw_m7 85 rfl) rfl
theorem q1646 : (Jvm.Cond.code ({ cls := "GlassStreetModel", name := "people", desc := "()I" } : Jvm.MethodName) prog_24_method_46_code (1 : Nat) (Option.some Jvm.ClassFile.FieldType.int)) ∈ lw_all := lw_g (lw_at lw_m7 86 rfl) rfl
theorem q1647 : (Jvm.Cond.fieldLink "GlassStreetModel" (1 : Nat) "GlassStreetModel" "thrown" "I") ∈ lw_all := lw_g (lw_at lw_m7 87 rfl) rfl
theorem q1648 : (Jvm.Cond.fieldLink "GlassStreetModel" (14 : Nat) "GlassStreetModel" "tape" "[I") ∈ lw_all := lw_g (lw_at lw_m7 88 rfl) rfl
theorem q1649 : (Jvm.Cond.fieldLink "GlassStreetModel" (11 : Nat) "GlassStreetModel" "taped" "I") ∈ lw_all := lw_g (lw_at lw_m7 89 rfl) rfl
theorem q1650 : (Jvm.Cond.fieldLink "GlassStreetModel" (137 : Nat) "GlassStreetModel" "size" "I") ∈ lw_all := lw_g (lw_at lw_m7 90 rfl) rfl
theorem q1651 : (Jvm.Cond.fieldLink "GlassStreetModel" (24 : Nat) "GlassStreetModel" "sort" "[I") ∈ lw_all := lw_g (lw_at lw_m7 91 rfl) rfl
theorem q1652 : (Jvm.Cond.fieldLink "GlassStreetModel" (27 : Nat) "GlassStreetModel" "place" "[I") ∈ lw_all := lw_g (lw_at lw_m7 92 rfl) rfl
theorem q1653 : (Jvm.Cond.fieldLink "GlassStreetModel" (30 : Nat) "GlassStreetModel" "value" "[J") ∈ lw_all := lw_g (lw_at lw_m7 93 rfl) rfl
theorem q1654 : (Jvm.Cond.fieldLink "GlassStreetModel" (156 : Nat) "GlassStreetModel" "at" "I") ∈ lw_all := lw_g (lw_at lw_m7 94 rfl) rfl
theorem q1655 : (Jvm.Cond.fieldLink "GlassStreetModel" (159 : Nat) "GlassStreetModel" "fault" "I") ∈ lw_all := lw_g (lw_at lw_m7 95 rfl) rfl
theorem q1656 : (Jvm.Cond.fieldLink "GlassStreetModel" (86 : Nat) "GlassStreetModel" "words" "[J") ∈ lw_all := lw_g (lw_at lw_m7 96 rfl) rfl
theorem q1657 : (Jvm.Cond.fieldLink "GlassStreetModel" (89 : Nat) "GlassStreetModel" "streets" "[I") ∈ lw_all := lw_g (lw_at lw_m7 97 rfl) rfl
theorem q1658 : (Jvm.Cond.fieldLink "GlassStreetModel" (92 : Nat) "GlassStreetModel" "op" "[I") ∈ lw_all := lw_g (lw_at lw_m7 98 rfl) rfl
theorem q1659 : (Jvm.Cond.fieldLink "GlassStreetModel" (95 : Nat) "GlassStreetModel" "arg" "[I") ∈ lw_all := lw_g (lw_at lw_m7 99 rfl) rfl
theorem q1660 : (Jvm.Cond.fieldLink "GlassStreetModel" (205 : Nat) "GlassStreetModel" "codes" "I") ∈ lw_all := lw_g (lw_at lw_m7 100 rfl) rfl
theorem q1661 : (Jvm.Cond.fieldLink "GlassStreetModel" (98 : Nat) "GlassStreetModel" "names" "[J") ∈ lw_all := lw_g (lw_at lw_m7 101 rfl) rfl
theorem q1662 : (Jvm.Cond.fieldLink "GlassStreetModel" (101 : Nat) "GlassStreetModel" "readNames" "[J") ∈ lw_all := lw_g (lw_at lw_m7 102 rfl) rfl
theorem q1663 : (Jvm.Cond.fieldLink "GlassStreetModel" (104 : Nat) "GlassStreetModel" "nameOf" "[I") ∈ lw_all := lw_g (lw_at lw_m7 103 rfl) rfl
theorem q1664 : (Jvm.Cond.fieldLink "GlassStreetModel" (107 : Nat) "GlassStreetModel" "readNameOf" "[I") ∈ lw_all := lw_g (lw_at lw_m7 104 rfl) rfl
theorem q1665 : (Jvm.Cond.fieldLink "GlassStreetModel" (187 : Nat) "GlassStreetModel" "namesMany" "I") ∈ lw_all := lw_g (lw_at lw_m7 105 rfl) rfl
theorem q1666 : (Jvm.Cond.fieldLink "GlassStreetModel" (184 : Nat) "GlassStreetModel" "readMany" "I") ∈ lw_all := lw_g (lw_at lw_m7 106 rfl) rfl
theorem q1667 : (Jvm.Cond.fieldLink "GlassStreetModel" (208 : Nat) "GlassStreetModel" "once" "I") ∈ lw_all := lw_g (lw_at lw_m7 107 rfl) rfl
theorem q1668 : (Jvm.Cond.fieldLink "GlassStreetModel" (110 : Nat) "GlassStreetModel" "lines" "[I") ∈ lw_all := lw_g (lw_at lw_m7 108 rfl) rfl
theorem q1669 : (Jvm.Cond.fieldLink "GlassStreetModel" (113 : Nat) "GlassStreetModel" "facts" "[I") ∈ lw_all := lw_g (lw_at lw_m7 109 rfl) rfl
theorem q1670 : (Jvm.Cond.fieldLink "GlassStreetModel" (116 : Nat) "GlassStreetModel" "pile" "[I") ∈ lw_all := lw_g (lw_at lw_m7 110 rfl) rfl
theorem q1671 : (Jvm.Cond.fieldLink "GlassStreetModel" (119 : Nat) "GlassStreetModel" "state" "[I") ∈ lw_all := lw_g (lw_at lw_m7 111 rfl) rfl
theorem q1672 : (Jvm.Cond.fieldLink "GlassStreetModel" (272 : Nat) "GlassStreetModel" "undos" "I") ∈ lw_all := lw_g (lw_at lw_m7 112 rfl) rfl
theorem q1673 : (Jvm.Cond.fieldLink "GlassStreetModel" (122 : Nat) "GlassStreetModel" "isNotched" "[Z") ∈ lw_all := lw_g (lw_at lw_m7 113 rfl) rfl
theorem q1674 : (Jvm.Cond.fieldLink "GlassStreetModel" (364 : Nat) "GlassStreetModel" "isUnseen" "Z") ∈ lw_all := lw_g (lw_at lw_m7 114 rfl) rfl
theorem q1675 : (Jvm.Cond.fieldLink "GlassStreetModel" (390 : Nat) "GlassStreetModel" "g0" "J") ∈ lw_all := lw_g (lw_at lw_m7 115 rfl) rfl
theorem q1676 : (Jvm.Cond.fieldLink "GlassStreetModel" (405 : Nat) "GlassStreetModel" "drawnDeeds" "I") ∈ lw_all := lw_g (lw_at lw_m7 116 rfl) rfl
theorem q1677 : (Jvm.Cond.fieldLink "GlassStreetModel" (408 : Nat) "GlassStreetModel" "drawnUnseen" "I") ∈ lw_all := lw_g (lw_at lw_m7 117 rfl) rfl
theorem q1678 : (Jvm.Cond.lays "GlassStreetModel" "GlassStreetModel" "thrown" "I") ∈ lw_all := lw_g (lw_at lw_m7 118 rfl) rfl
theorem q1679 : (Jvm.Cond.soleField "GlassStreetModel" "thrown") ∈ lw_all := lw_g (lw_at lw_m7 119 rfl) rfl
theorem q1680 : (Jvm.Cond.laysFinal "GlassStreetModel" "GlassStreetModel" "tape" "[I") ∈ lw_all := lw_g (lw_at lw_m7 120 rfl) rfl
theorem q1681 : (Jvm.Cond.soleField "GlassStreetModel" "tape") ∈ lw_all := lw_g (lw_at lw_m7 121 rfl) rfl
theorem q1682 : (Jvm.Cond.lays "GlassStreetModel" "GlassStreetModel" "taped" "I") ∈ lw_all := lw_g (lw_at lw_m7 122 rfl) rfl
theorem q1683 : (Jvm.Cond.soleField "GlassStreetModel" "taped") ∈ lw_all := lw_g (lw_at lw_m7 123 rfl) rfl
theorem q1684 : (Jvm.Cond.lays "GlassStreetModel" "GlassStreetModel" "size" "I") ∈ lw_all := lw_g (lw_at lw_m7 124 rfl) rfl
theorem q1685 : (Jvm.Cond.soleField "GlassStreetModel" "size") ∈ lw_all := lw_g (lw_at lw_m7 125 rfl) rfl
theorem q1686 : (Jvm.Cond.laysFinal "GlassStreetModel" "GlassStreetModel" "sort" "[I") ∈ lw_all := lw_g (lw_at lw_m7 126 rfl) rfl
theorem q1687 : (Jvm.Cond.soleField "GlassStreetModel" "sort") ∈ lw_all := lw_g (lw_at lw_m7 127 rfl) rfl
theorem q1688 : (Jvm.Cond.laysFinal "GlassStreetModel" "GlassStreetModel" "place" "[I") ∈ lw_all := lw_g (lw_at lw_m7 128 rfl) rfl
theorem q1689 : (Jvm.Cond.soleField "GlassStreetModel" "place") ∈ lw_all := lw_g (lw_at lw_m7 129 rfl) rfl
theorem q1690 : (Jvm.Cond.laysFinal "GlassStreetModel" "GlassStreetModel" "value" "[J") ∈ lw_all := lw_g (lw_at lw_m7 130 rfl) rfl
theorem q1691 : (Jvm.Cond.soleField "GlassStreetModel" "value") ∈ lw_all := lw_g (lw_at lw_m7 131 rfl) rfl
theorem q1692 : (Jvm.Cond.lays "GlassStreetModel" "GlassStreetModel" "at" "I") ∈ lw_all := lw_g (lw_at lw_m7 132 rfl) rfl
theorem q1693 : (Jvm.Cond.soleField "GlassStreetModel" "at") ∈ lw_all := lw_g (lw_at lw_m7 133 rfl) rfl
theorem q1694 : (Jvm.Cond.lays "GlassStreetModel" "GlassStreetModel" "fault" "I") ∈ lw_all := lw_g (lw_at lw_m7 134 rfl) rfl
theorem q1695 : (Jvm.Cond.soleField "GlassStreetModel" "fault") ∈ lw_all := lw_g (lw_at lw_m7 135 rfl) rfl
theorem q1696 : (Jvm.Cond.laysFinal "GlassStreetModel" "GlassStreetModel" "words" "[J") ∈ lw_all := lw_g (lw_at lw_m7 136 rfl) rfl
theorem q1697 : (Jvm.Cond.soleField "GlassStreetModel" "words") ∈ lw_all := lw_g (lw_at lw_m7 137 rfl) rfl
theorem q1698 : (Jvm.Cond.laysFinal "GlassStreetModel" "GlassStreetModel" "streets" "[I") ∈ lw_all := lw_g (lw_at lw_m7 138 rfl) rfl
theorem q1699 : (Jvm.Cond.soleField "GlassStreetModel" "streets") ∈ lw_all := lw_g (lw_at lw_m7 139 rfl) rfl
theorem q1700 : (Jvm.Cond.laysFinal "GlassStreetModel" "GlassStreetModel" "op" "[I") ∈ lw_all := lw_g (lw_at lw_m7 140 rfl) rfl
theorem q1701 : (Jvm.Cond.soleField "GlassStreetModel" "op") ∈ lw_all := lw_g (lw_at lw_m7 141 rfl) rfl
theorem q1702 : (Jvm.Cond.laysFinal "GlassStreetModel" "GlassStreetModel" "arg" "[I") ∈ lw_all := lw_g (lw_at lw_m7 142 rfl) rfl
theorem q1703 : (Jvm.Cond.soleField "GlassStreetModel" "arg") ∈ lw_all := lw_g (lw_at lw_m7 143 rfl) rfl
theorem q1704 : (Jvm.Cond.lays "GlassStreetModel" "GlassStreetModel" "codes" "I") ∈ lw_all := lw_g (lw_at lw_m7 144 rfl) rfl
theorem q1705 : (Jvm.Cond.soleField "GlassStreetModel" "codes") ∈ lw_all := lw_g (lw_at lw_m7 145 rfl) rfl
theorem q1706 : (Jvm.Cond.laysFinal "GlassStreetModel" "GlassStreetModel" "names" "[J") ∈ lw_all := lw_g (lw_at lw_m7 146 rfl) rfl
theorem q1707 : (Jvm.Cond.soleField "GlassStreetModel" "names") ∈ lw_all := lw_g (lw_at lw_m7 147 rfl) rfl
theorem q1708 : (Jvm.Cond.laysFinal "GlassStreetModel" "GlassStreetModel" "readNames" "[J") ∈ lw_all := lw_g (lw_at lw_m7 148 rfl) rfl
theorem q1709 : (Jvm.Cond.soleField "GlassStreetModel" "readNames") ∈ lw_all := lw_g (lw_at lw_m7 149 rfl) rfl
theorem q1710 : (Jvm.Cond.laysFinal "GlassStreetModel" "GlassStreetModel" "nameOf" "[I") ∈ lw_all := lw_g (lw_at lw_m7 150 rfl) rfl
theorem q1711 : (Jvm.Cond.soleField "GlassStreetModel" "nameOf") ∈ lw_all := lw_g (lw_at lw_m7 151 rfl) rfl
theorem q1712 : (Jvm.Cond.laysFinal "GlassStreetModel" "GlassStreetModel" "readNameOf" "[I") ∈ lw_all := lw_g (lw_at lw_m7 152 rfl) rfl
theorem q1713 : (Jvm.Cond.soleField "GlassStreetModel" "readNameOf") ∈ lw_all := lw_g (lw_at lw_m7 153 rfl) rfl
theorem q1714 : (Jvm.Cond.lays "GlassStreetModel" "GlassStreetModel" "namesMany" "I") ∈ lw_all := lw_g (lw_at lw_m7 154 rfl) rfl
theorem q1715 : (Jvm.Cond.soleField "GlassStreetModel" "namesMany") ∈ lw_all := lw_g (lw_at lw_m7 155 rfl) rfl
theorem q1716 : (Jvm.Cond.lays "GlassStreetModel" "GlassStreetModel" "readMany" "I") ∈ lw_all := lw_g (lw_at lw_m7 156 rfl) rfl
theorem q1717 : (Jvm.Cond.soleField "GlassStreetModel" "readMany") ∈ lw_all := lw_g (lw_at lw_m7 157 rfl) rfl
theorem q1718 : (Jvm.Cond.lays "GlassStreetModel" "GlassStreetModel" "once" "I") ∈ lw_all := lw_g (lw_at lw_m7 158 rfl) rfl
theorem q1719 : (Jvm.Cond.soleField "GlassStreetModel" "once") ∈ lw_all := lw_g (lw_at lw_m7 159 rfl) rfl
theorem q1720 : (Jvm.Cond.laysFinal "GlassStreetModel" "GlassStreetModel" "lines" "[I") ∈ lw_all := lw_g (lw_at lw_m7 160 rfl) rfl
theorem q1721 : (Jvm.Cond.soleField "GlassStreetModel" "lines") ∈ lw_all := lw_g (lw_at lw_m7 161 rfl) rfl
theorem q1722 : (Jvm.Cond.laysFinal "GlassStreetModel" "GlassStreetModel" "facts" "[I") ∈ lw_all := lw_g (lw_at lw_m7 162 rfl) rfl
theorem q1723 : (Jvm.Cond.soleField "GlassStreetModel" "facts") ∈ lw_all := lw_g (lw_at lw_m7 163 rfl) rfl
theorem q1724 : (Jvm.Cond.laysFinal "GlassStreetModel" "GlassStreetModel" "pile" "[I") ∈ lw_all := lw_g (lw_at lw_m7 164 rfl) rfl
theorem q1725 : (Jvm.Cond.soleField "GlassStreetModel" "pile") ∈ lw_all := lw_g (lw_at lw_m7 165 rfl) rfl
theorem q1726 : (Jvm.Cond.laysFinal "GlassStreetModel" "GlassStreetModel" "state" "[I") ∈ lw_all := lw_g (lw_at lw_m7 166 rfl) rfl
theorem q1727 : (Jvm.Cond.soleField "GlassStreetModel" "state") ∈ lw_all := lw_g (lw_at lw_m7 167 rfl) rfl
theorem q1728 : (Jvm.Cond.lays "GlassStreetModel" "GlassStreetModel" "undos" "I") ∈ lw_all := lw_g (lw_at lw_m7 168 rfl) rfl
theorem q1729 : (Jvm.Cond.soleField "GlassStreetModel" "undos") ∈ lw_all := lw_g (lw_at lw_m7 169 rfl) rfl
theorem q1730 : (Jvm.Cond.laysFinal "GlassStreetModel" "GlassStreetModel" "isNotched" "[Z") ∈ lw_all := lw_g (lw_at lw_m7 170 rfl) rfl
theorem q1731 : (Jvm.Cond.soleField "GlassStreetModel" "isNotched") ∈ lw_all := lw_g (lw_at lw_m7 171 rfl) rfl
theorem q1732 : (Jvm.Cond.lays "GlassStreetModel" "GlassStreetModel" "isUnseen" "Z") ∈ lw_all := lw_g (lw_at lw_m7 172 rfl) rfl
theorem q1733 : (Jvm.Cond.soleField "GlassStreetModel" "isUnseen") ∈ lw_all := lw_g (lw_at lw_m7 173 rfl) rfl
theorem q1734 : (Jvm.Cond.lays "GlassStreetModel" "GlassStreetModel" "g0" "J") ∈ lw_all := lw_g (lw_at lw_m7 174 rfl) rfl
theorem q1735 : (Jvm.Cond.soleField "GlassStreetModel" "g0") ∈ lw_all := lw_g (lw_at lw_m7 175 rfl) rfl
theorem q1736 : (Jvm.Cond.lays "GlassStreetModel" "GlassStreetModel" "drawnDeeds" "I") ∈ lw_all := lw_g (lw_at lw_m7 176 rfl) rfl
theorem q1737 : (Jvm.Cond.soleField "GlassStreetModel" "drawnDeeds") ∈ lw_all := lw_g (lw_at lw_m7 177 rfl) rfl
theorem q1738 : (Jvm.Cond.lays "GlassStreetModel" "GlassStreetModel" "drawnUnseen" "I") ∈ lw_all := lw_g (lw_at lw_m7 178 rfl) rfl
theorem q1739 : (Jvm.Cond.soleField "GlassStreetModel" "drawnUnseen") ∈ lw_all := lw_g (lw_at lw_m7 179 rfl) rfl
theorem q1740 : (Jvm.Cond.superclass "GlassStreetModel" "java/lang/Object") ∈ lw_all := lw_g (lw_at lw_m7 180 rfl) rfl
theorem q1744 : (Jvm.Cond.instanceMethod ({ cls := "GlassStreetModel", name := "street", desc := "()I" } : Jvm.MethodName)) ∈ lw_all := lw_g (lw_at lw_m7 184 rfl) rfl
theorem q1745 : (Jvm.Cond.selects "GlassStreetModel" ({ cls := "GlassStreetModel", name := "street", desc := "()I" } : Jvm.MethodName) ({ cls := "GlassStreetModel", name := "street", desc := "()I" } : Jvm.MethodName)) ∈ lw_all := lw_g (lw_at lw_m7 185 rfl) rfl
theorem q1746 : (Jvm.Cond.code ({ cls := "GlassStreetModel", name := "street", desc := "()I" } : Jvm.MethodName) prog_24_method_26_code (2 : Nat) (Option.some Jvm.ClassFile.FieldType.int)) ∈ lw_all := lw_g (lw_at lw_m7 186 rfl) rfl
theorem q1747 : (Jvm.Cond.methodLink "GlassStreetModel" (202 : Nat) ({ cls := "GlassStreetModel", name := "cutAll", desc := "()V" } : Jvm.MethodName)) ∈ lw_all := lw_g (lw_at lw_m7 187 rfl) rfl
theorem q1748 : (Jvm.Cond.privateMethod ({ cls := "GlassStreetModel", name := "cutAll", desc := "()V" } : Jvm.MethodName)) ∈ lw_tbl := lw_at lw_m7 188 rfl
theorem q1749 : (Jvm.Cond.instanceMethod ({ cls := "GlassStreetModel", name := "cutAll", desc := "()V" } : Jvm.MethodName)) ∈ lw_all := lw_g (lw_at lw_m7 189 rfl) rfl
theorem q1750 : (Jvm.Cond.code ({ cls := "GlassStreetModel", name := "cutAll", desc := "()V" } : Jvm.MethodName) prog_24_method_9_code (7 : Nat) (Option.none : Option Jvm.ClassFile.FieldType)) ∈ lw_all := lw_g (lw_at lw_m7 190 rfl) rfl
theorem q1751 : (Jvm.Cond.methodLink "GlassStreetModel" (133 : Nat) ({ cls := "GlassStreetModel", name := "isLetter", desc := "(I)Z" } : Jvm.MethodName)) ∈ lw_all := lw_g (lw_at lw_m7 191 rfl) rfl
theorem q1752 : (Jvm.Cond.static ({ cls := "GlassStreetModel", name := "isLetter", desc := "(I)Z" } : Jvm.MethodName)) ∈ lw_all := lw_g (lw_at lw_m7 192 rfl) rfl
theorem q1753 : (Jvm.Cond.code ({ cls := "GlassStreetModel", name := "isLetter", desc := "(I)Z" } : Jvm.MethodName) prog_24_method_5_code (1 : Nat) (Option.some Jvm.ClassFile.FieldType.boolean)) ∈ lw_all := lw_g (lw_at lw_m7 193 rfl) rfl
theorem q1754 : (Jvm.Cond.constantLong "GlassStreetModel" (140 : Nat) (37 : Int64)) ∈ lw_all := lw_g (lw_at lw_m7 194 rfl) rfl
theorem q1755 : (Jvm.Cond.methodLink "GlassStreetModel" (142 : Nat) ({ cls := "GlassStreetModel", name := "rank", desc := "(I)I" } : Jvm.MethodName)) ∈ lw_all := lw_g (lw_at lw_m7 195 rfl) rfl
theorem q1756 : (Jvm.Cond.static ({ cls := "GlassStreetModel", name := "rank", desc := "(I)I" } : Jvm.MethodName)) ∈ lw_all := lw_g (lw_at lw_m7 196 rfl) rfl
theorem q1757 : (Jvm.Cond.code ({ cls := "GlassStreetModel", name := "rank", desc := "(I)I" } : Jvm.MethodName) prog_24_method_7_code (1 : Nat) (Option.some Jvm.ClassFile.FieldType.int)) ∈ lw_all := lw_g (lw_at lw_m7 197 rfl) rfl
theorem q1758 : (Jvm.Cond.methodLink "GlassStreetModel" (146 : Nat) ({ cls := "GlassStreetModel", name := "isDigit", desc := "(I)Z" } : Jvm.MethodName)) ∈ lw_all := lw_g (lw_at lw_m7 198 rfl) rfl
theorem q1759 : (Jvm.Cond.static ({ cls := "GlassStreetModel", name := "isDigit", desc := "(I)Z" } : Jvm.MethodName)) ∈ lw_all := lw_g (lw_at lw_m7 199 rfl) rfl
theorem q1760 : (Jvm.Cond.code ({ cls := "GlassStreetModel", name := "isDigit", desc := "(I)Z" } : Jvm.MethodName) prog_24_method_6_code (1 : Nat) (Option.some Jvm.ClassFile.FieldType.boolean)) ∈ lw_all := lw_g (lw_at lw_m7 200 rfl) rfl
theorem q1761 : (Jvm.Cond.constantLong "GlassStreetModel" (149 : Nat) (10 : Int64)) ∈ lw_all := lw_g (lw_at lw_m7 201 rfl) rfl
theorem q1762 : (Jvm.Cond.constantLong "GlassStreetModel" (151 : Nat) (48 : Int64)) ∈ lw_all := lw_g (lw_at lw_m7 202 rfl) rfl
theorem q1763 : (Jvm.Cond.methodLink "GlassStreetModel" (153 : Nat) ({ cls := "GlassStreetModel", name := "isSignOf", desc := "(I)Z" } : Jvm.MethodName)) ∈ lw_all := lw_g (lw_at lw_m7 203 rfl) rfl
theorem q1764 : (Jvm.Cond.static ({ cls := "GlassStreetModel", name := "isSignOf", desc := "(I)Z" } : Jvm.MethodName)) ∈ lw_all := lw_g (lw_at lw_m7 204 rfl) rfl
theorem q1765 : (Jvm.Cond.code ({ cls := "GlassStreetModel", name := "isSignOf", desc := "(I)Z" } : Jvm.MethodName) prog_24_method_8_code (1 : Nat) (Option.some Jvm.ClassFile.FieldType.boolean)) ∈ lw_all := lw_g (lw_at lw_m7 205 rfl) rfl
theorem q1766 : (Jvm.Cond.methodLink "GlassStreetModel" (211 : Nat) ({ cls := "GlassStreetModel", name := "readLine", desc := "()V" } : Jvm.MethodName)) ∈ lw_all := lw_g (lw_at lw_m7 206 rfl) rfl
theorem q1767 : (Jvm.Cond.privateMethod ({ cls := "GlassStreetModel", name := "readLine", desc := "()V" } : Jvm.MethodName)) ∈ lw_tbl := lw_at lw_m7 207 rfl
theorem q1768 : (Jvm.Cond.instanceMethod ({ cls := "GlassStreetModel", name := "readLine", desc := "()V" } : Jvm.MethodName)) ∈ lw_all := lw_g (lw_at lw_m7 208 rfl) rfl
theorem q1769 : (Jvm.Cond.code ({ cls := "GlassStreetModel", name := "readLine", desc := "()V" } : Jvm.MethodName) prog_24_method_27_code (3 : Nat) (Option.none : Option Jvm.ClassFile.FieldType)) ∈ lw_all := lw_g (lw_at lw_m7 209 rfl) rfl
theorem q1770 : (Jvm.Cond.methodLink "GlassStreetModel" (168 : Nat) ({ cls := "GlassStreetModel", name := "isWord", desc := "(I)Z" } : Jvm.MethodName)) ∈ lw_all := lw_g (lw_at lw_m7 210 rfl) rfl
theorem q1771 : (Jvm.Cond.privateMethod ({ cls := "GlassStreetModel", name := "isWord", desc := "(I)Z" } : Jvm.MethodName)) ∈ lw_tbl := lw_at lw_m7 211 rfl
theorem q1772 : (Jvm.Cond.instanceMethod ({ cls := "GlassStreetModel", name := "isWord", desc := "(I)Z" } : Jvm.MethodName)) ∈ lw_all := lw_g (lw_at lw_m7 212 rfl) rfl
theorem q1773 : (Jvm.Cond.code ({ cls := "GlassStreetModel", name := "isWord", desc := "(I)Z" } : Jvm.MethodName) prog_24_method_12_code (2 : Nat) (Option.some Jvm.ClassFile.FieldType.boolean)) ∈ lw_all := lw_g (lw_at lw_m7 213 rfl) rfl
theorem q1774 : (Jvm.Cond.methodLink "GlassStreetModel" (217 : Nat) ({ cls := "GlassStreetModel", name := "readPane", desc := "()V" } : Jvm.MethodName)) ∈ lw_all := lw_g (lw_at lw_m7 214 rfl) rfl
theorem q1775 : (Jvm.Cond.privateMethod ({ cls := "GlassStreetModel", name := "readPane", desc := "()V" } : Jvm.MethodName)) ∈ lw_tbl := lw_at lw_m7 215 rfl
theorem q1776 : (Jvm.Cond.instanceMethod ({ cls := "GlassStreetModel", name := "readPane", desc := "()V" } : Jvm.MethodName)) ∈ lw_all := lw_g (lw_at lw_m7 216 rfl) rfl
theorem q1777 : (Jvm.Cond.code ({ cls := "GlassStreetModel", name := "readPane", desc := "()V" } : Jvm.MethodName) prog_24_method_29_code (6 : Nat) (Option.none : Option Jvm.ClassFile.FieldType)) ∈ lw_all := lw_g (lw_at lw_m7 217 rfl) rfl
theorem q1778 : (Jvm.Cond.methodLink "GlassStreetModel" (220 : Nat) ({ cls := "GlassStreetModel", name := "readName", desc := "(III)V" } : Jvm.MethodName)) ∈ lw_all := lw_g (lw_at lw_m7 218 rfl) rfl
theorem q1779 : (Jvm.Cond.privateMethod ({ cls := "GlassStreetModel", name := "readName", desc := "(III)V" } : Jvm.MethodName)) ∈ lw_tbl := lw_at lw_m7 219 rfl
theorem q1780 : (Jvm.Cond.instanceMethod ({ cls := "GlassStreetModel", name := "readName", desc := "(III)V" } : Jvm.MethodName)) ∈ lw_all := lw_g (lw_at lw_m7 220 rfl) rfl
theorem q1781 : (Jvm.Cond.code ({ cls := "GlassStreetModel", name := "readName", desc := "(III)V" } : Jvm.MethodName) prog_24_method_28_code (5 : Nat) (Option.none : Option Jvm.ClassFile.FieldType)) ∈ lw_all := lw_g (lw_at lw_m7 221 rfl) rfl
theorem q1782 : (Jvm.Cond.methodLink "GlassStreetModel" (165 : Nat) ({ cls := "GlassStreetModel", name := "wrong", desc := "(I)V" } : Jvm.MethodName)) ∈ lw_all := lw_g (lw_at lw_m7 222 rfl) rfl
theorem q1783 : (Jvm.Cond.privateMethod ({ cls := "GlassStreetModel", name := "wrong", desc := "(I)V" } : Jvm.MethodName)) ∈ lw_tbl := lw_at lw_m7 223 rfl
theorem q1784 : (Jvm.Cond.instanceMethod ({ cls := "GlassStreetModel", name := "wrong", desc := "(I)V" } : Jvm.MethodName)) ∈ lw_all := lw_g (lw_at lw_m7 224 rfl) rfl
theorem q1785 : (Jvm.Cond.code ({ cls := "GlassStreetModel", name := "wrong", desc := "(I)V" } : Jvm.MethodName) prog_24_method_10_code (2 : Nat) (Option.none : Option Jvm.ClassFile.FieldType)) ∈ lw_all := lw_g (lw_at lw_m7 225 rfl) rfl
theorem q1786 : (Jvm.Cond.methodLink "GlassStreetModel" (190 : Nat) ({ cls := "GlassStreetModel", name := "isName", desc := "()Z" } : Jvm.MethodName)) ∈ lw_all := lw_g (lw_at lw_m7 226 rfl) rfl
theorem q1787 : (Jvm.Cond.privateMethod ({ cls := "GlassStreetModel", name := "isName", desc := "()Z" } : Jvm.MethodName)) ∈ lw_tbl := lw_at lw_m7 227 rfl
theorem q1788 : (Jvm.Cond.instanceMethod ({ cls := "GlassStreetModel", name := "isName", desc := "()Z" } : Jvm.MethodName)) ∈ lw_all := lw_g (lw_at lw_m7 228 rfl) rfl
theorem q1789 : (Jvm.Cond.code ({ cls := "GlassStreetModel", name := "isName", desc := "()Z" } : Jvm.MethodName) prog_24_method_23_code (1 : Nat) (Option.some Jvm.ClassFile.FieldType.boolean)) ∈ lw_all := lw_g (lw_at lw_m7 229 rfl) rfl
theorem q1790 : (Jvm.Cond.methodLink "GlassStreetModel" (181 : Nat) ({ cls := "GlassStreetModel", name := "wordHere", desc := "(II)I" } : Jvm.MethodName)) ∈ lw_all := lw_g (lw_at lw_m7 230 rfl) rfl
theorem q1791 : (Jvm.Cond.privateMethod ({ cls := "GlassStreetModel", name := "wordHere", desc := "(II)I" } : Jvm.MethodName)) ∈ lw_tbl := lw_at lw_m7 231 rfl
theorem q1792 : (Jvm.Cond.instanceMethod ({ cls := "GlassStreetModel", name := "wordHere", desc := "(II)I" } : Jvm.MethodName)) ∈ lw_all := lw_g (lw_at lw_m7 232 rfl) rfl
theorem q1793 : (Jvm.Cond.code ({ cls := "GlassStreetModel", name := "wordHere", desc := "(II)I" } : Jvm.MethodName) prog_24_method_21_code (5 : Nat) (Option.some Jvm.ClassFile.FieldType.int)) ∈ lw_all := lw_g (lw_at lw_m7 233 rfl) rfl
theorem q1794 : (Jvm.Cond.methodLink "GlassStreetModel" (194 : Nat) ({ cls := "GlassStreetModel", name := "nameAt", desc := "(Z)I" } : Jvm.MethodName)) ∈ lw_all := lw_g (lw_at lw_m7 234 rfl) rfl
theorem q1795 : (Jvm.Cond.privateMethod ({ cls := "GlassStreetModel", name := "nameAt", desc := "(Z)I" } : Jvm.MethodName)) ∈ lw_tbl := lw_at lw_m7 235 rfl
theorem q1796 : (Jvm.Cond.instanceMethod ({ cls := "GlassStreetModel", name := "nameAt", desc := "(Z)I" } : Jvm.MethodName)) ∈ lw_all := lw_g (lw_at lw_m7 236 rfl) rfl
theorem q1797 : (Jvm.Cond.code ({ cls := "GlassStreetModel", name := "nameAt", desc := "(Z)I" } : Jvm.MethodName) prog_24_method_24_code (3 : Nat) (Option.some Jvm.ClassFile.FieldType.int)) ∈ lw_all := lw_g (lw_at lw_m7 237 rfl) rfl
theorem q1798 : (Jvm.Cond.methodLink "GlassStreetModel" (231 : Nat) ({ cls := "GlassStreetModel", name := "takeOne", desc := "(II)I" } : Jvm.MethodName)) ∈ lw_all := lw_g (lw_at lw_m7 238 rfl) rfl
theorem q1799 : (Jvm.Cond.privateMethod ({ cls := "GlassStreetModel", name := "takeOne", desc := "(II)I" } : Jvm.MethodName)) ∈ lw_tbl := lw_at lw_m7 239 rfl
theorem q1800 : (Jvm.Cond.instanceMethod ({ cls := "GlassStreetModel", name := "takeOne", desc := "(II)I" } : Jvm.MethodName)) ∈ lw_all := lw_g (lw_at lw_m8 0 rfl) rfl
theorem q1801 : (Jvm.Cond.code ({ cls := "GlassStreetModel", name := "takeOne", desc := "(II)I" } : Jvm.MethodName) prog_24_method_22_code (4 : Nat) (Option.some Jvm.ClassFile.FieldType.int)) ∈ lw_all := lw_g (lw_at lw_m8 1 rfl) rfl
theorem q1802 : (Jvm.Cond.methodLink "GlassStreetModel" (224 : Nat) ({ cls := "GlassStreetModel", name := "takeAfter", desc := "(III)I" } : Jvm.MethodName)) ∈ lw_all := lw_g (lw_at lw_m8 2 rfl) rfl
theorem q1803 : (Jvm.Cond.privateMethod ({ cls := "GlassStreetModel", name := "takeAfter", desc := "(III)I" } : Jvm.MethodName)) ∈ lw_tbl := lw_at lw_m8 3 rfl
theorem q1804 : (Jvm.Cond.instanceMethod ({ cls := "GlassStreetModel", name := "takeAfter", desc := "(III)I" } : Jvm.MethodName)) ∈ lw_all := lw_g (lw_at lw_m8 4 rfl) rfl
theorem q1805 : (Jvm.Cond.code ({ cls := "GlassStreetModel", name := "takeAfter", desc := "(III)I" } : Jvm.MethodName) prog_24_method_20_code (4 : Nat) (Option.some Jvm.ClassFile.FieldType.int)) ∈ lw_all := lw_g (lw_at lw_m8 5 rfl) rfl
theorem q1806 : (Jvm.Cond.methodLink "GlassStreetModel" (174 : Nat) ({ cls := "GlassStreetModel", name := "takeWord", desc := "(I)V" } : Jvm.MethodName)) ∈ lw_all := lw_g (lw_at lw_m8 6 rfl) rfl
theorem q1807 : (Jvm.Cond.privateMethod ({ cls := "GlassStreetModel", name := "takeWord", desc := "(I)V" } : Jvm.MethodName)) ∈ lw_tbl := lw_at lw_m8 7 rfl
theorem q1808 : (Jvm.Cond.instanceMethod ({ cls := "GlassStreetModel", name := "takeWord", desc := "(I)V" } : Jvm.MethodName)) ∈ lw_all := lw_g (lw_at lw_m8 8 rfl) rfl
theorem q1809 : (Jvm.Cond.code ({ cls := "GlassStreetModel", name := "takeWord", desc := "(I)V" } : Jvm.MethodName) prog_24_method_16_code (2 : Nat) (Option.none : Option Jvm.ClassFile.FieldType)) ∈ lw_all := lw_g (lw_at lw_m8 9 rfl) rfl
theorem q1810 : (Jvm.Cond.methodLink "GlassStreetModel" (171 : Nat) ({ cls := "GlassStreetModel", name := "hasWord", desc := "(I)Z" } : Jvm.MethodName)) ∈ lw_all := lw_g (lw_at lw_m8 10 rfl) rfl
theorem q1811 : (Jvm.Cond.privateMethod ({ cls := "GlassStreetModel", name := "hasWord", desc := "(I)Z" } : Jvm.MethodName)) ∈ lw_tbl := lw_at lw_m8 11 rfl
theorem q1812 : (Jvm.Cond.instanceMethod ({ cls := "GlassStreetModel", name := "hasWord", desc := "(I)Z" } : Jvm.MethodName)) ∈ lw_all := lw_g (lw_at lw_m8 12 rfl) rfl
theorem q1813 : (Jvm.Cond.code ({ cls := "GlassStreetModel", name := "hasWord", desc := "(I)Z" } : Jvm.MethodName) prog_24_method_15_code (3 : Nat) (Option.some Jvm.ClassFile.FieldType.boolean)) ∈ lw_all := lw_g (lw_at lw_m8 13 rfl) rfl
theorem q1814 : (Jvm.Cond.methodLink "GlassStreetModel" (177 : Nat) ({ cls := "GlassStreetModel", name := "takeNumber", desc := "(II)I" } : Jvm.MethodName)) ∈ lw_all := lw_g (lw_at lw_m8 14 rfl) rfl
theorem q1815 : (Jvm.Cond.privateMethod ({ cls := "GlassStreetModel", name := "takeNumber", desc := "(II)I" } : Jvm.MethodName)) ∈ lw_tbl := lw_at lw_m8 15 rfl
theorem q1816 : (Jvm.Cond.instanceMethod ({ cls := "GlassStreetModel", name := "takeNumber", desc := "(II)I" } : Jvm.MethodName)) ∈ lw_all := lw_g (lw_at lw_m8 16 rfl) rfl
theorem q1817 : (Jvm.Cond.code ({ cls := "GlassStreetModel", name := "takeNumber", desc := "(II)I" } : Jvm.MethodName) prog_24_method_19_code (3 : Nat) (Option.some Jvm.ClassFile.FieldType.int)) ∈ lw_all := lw_g (lw_at lw_m8 17 rfl) rfl
theorem q1818 : (Jvm.Cond.methodLink "GlassStreetModel" (228 : Nat) ({ cls := "GlassStreetModel", name := "readOnce", desc := "()V" } : Jvm.MethodName)) ∈ lw_all := lw_g (lw_at lw_m8 18 rfl) rfl
theorem q1819 : (Jvm.Cond.privateMethod ({ cls := "GlassStreetModel", name := "readOnce", desc := "()V" } : Jvm.MethodName)) ∈ lw_tbl := lw_at lw_m8 19 rfl
theorem q1820 : (Jvm.Cond.instanceMethod ({ cls := "GlassStreetModel", name := "readOnce", desc := "()V" } : Jvm.MethodName)) ∈ lw_all := lw_g (lw_at lw_m8 20 rfl) rfl
theorem q1821 : (Jvm.Cond.code ({ cls := "GlassStreetModel", name := "readOnce", desc := "()V" } : Jvm.MethodName) prog_24_method_30_code (2 : Nat) (Option.none : Option Jvm.ClassFile.FieldType)) ∈ lw_all := lw_g (lw_at lw_m8 21 rfl) rfl
theorem q1822 : (Jvm.Cond.methodLink "GlassStreetModel" (234 : Nat) ({ cls := "GlassStreetModel", name := "readLight", desc := "()V" } : Jvm.MethodName)) ∈ lw_all := lw_g (lw_at lw_m8 22 rfl) rfl
theorem q1823 : (Jvm.Cond.privateMethod ({ cls := "GlassStreetModel", name := "readLight", desc := "()V" } : Jvm.MethodName)) ∈ lw_tbl := lw_at lw_m8 23 rfl
theorem q1824 : (Jvm.Cond.instanceMethod ({ cls := "GlassStreetModel", name := "readLight", desc := "()V" } : Jvm.MethodName)) ∈ lw_all := lw_g (lw_at lw_m8 24 rfl) rfl
theorem q1825 : (Jvm.Cond.code ({ cls := "GlassStreetModel", name := "readLight", desc := "()V" } : Jvm.MethodName) prog_24_method_31_code (3 : Nat) (Option.none : Option Jvm.ClassFile.FieldType)) ∈ lw_all := lw_g (lw_at lw_m8 25 rfl) rfl
theorem q1826 : (Jvm.Cond.methodLink "GlassStreetModel" (237 : Nat) ({ cls := "GlassStreetModel", name := "whole", desc := "(I)V" } : Jvm.MethodName)) ∈ lw_all := lw_g (lw_at lw_m8 26 rfl) rfl
theorem q1827 : (Jvm.Cond.privateMethod ({ cls := "GlassStreetModel", name := "whole", desc := "(I)V" } : Jvm.MethodName)) ∈ lw_tbl := lw_at lw_m8 27 rfl
theorem q1828 : (Jvm.Cond.instanceMethod ({ cls := "GlassStreetModel", name := "whole", desc := "(I)V" } : Jvm.MethodName)) ∈ lw_all := lw_g (lw_at lw_m8 28 rfl) rfl
theorem q1829 : (Jvm.Cond.code ({ cls := "GlassStreetModel", name := "whole", desc := "(I)V" } : Jvm.MethodName) prog_24_method_34_code (3 : Nat) (Option.none : Option Jvm.ClassFile.FieldType)) ∈ lw_all := lw_g (lw_at lw_m8 29 rfl) rfl
theorem q1830 : (Jvm.Cond.methodLink "GlassStreetModel" (247 : Nat) ({ cls := "GlassStreetModel", name := "test", desc := "(I)V" } : Jvm.MethodName)) ∈ lw_all := lw_g (lw_at lw_m8 30 rfl) rfl
theorem q1831 : (Jvm.Cond.privateMethod ({ cls := "GlassStreetModel", name := "test", desc := "(I)V" } : Jvm.MethodName)) ∈ lw_tbl := lw_at lw_m8 31 rfl
theorem q1832 : (Jvm.Cond.instanceMethod ({ cls := "GlassStreetModel", name := "test", desc := "(I)V" } : Jvm.MethodName)) ∈ lw_all := lw_g (lw_at lw_m8 32 rfl) rfl
theorem q1833 : (Jvm.Cond.code ({ cls := "GlassStreetModel", name := "test", desc := "(I)V" } : Jvm.MethodName) prog_24_method_35_code (3 : Nat) (Option.none : Option Jvm.ClassFile.FieldType)) ∈ lw_all := lw_g (lw_at lw_m8 33 rfl) rfl
theorem q1834 : (Jvm.Cond.methodLink "GlassStreetModel" (250 : Nat) ({ cls := "GlassStreetModel", name := "sums", desc := "(I)V" } : Jvm.MethodName)) ∈ lw_all := lw_g (lw_at lw_m8 34 rfl) rfl
theorem q1835 : (Jvm.Cond.privateMethod ({ cls := "GlassStreetModel", name := "sums", desc := "(I)V" } : Jvm.MethodName)) ∈ lw_tbl := lw_at lw_m8 35 rfl
theorem q1836 : (Jvm.Cond.instanceMethod ({ cls := "GlassStreetModel", name := "sums", desc := "(I)V" } : Jvm.MethodName)) ∈ lw_all := lw_g (lw_at lw_m8 36 rfl) rfl
theorem q1837 : (Jvm.Cond.code ({ cls := "GlassStreetModel", name := "sums", desc := "(I)V" } : Jvm.MethodName) prog_24_method_36_code (3 : Nat) (Option.none : Option Jvm.ClassFile.FieldType)) ∈ lw_all := lw_g (lw_at lw_m8 37 rfl) rfl
theorem q1838 : (Jvm.Cond.methodLink "GlassStreetModel" (256 : Nat) ({ cls := "GlassStreetModel", name := "products", desc := "(I)V" } : Jvm.MethodName)) ∈ lw_all := lw_g (lw_at lw_m8 38 rfl) rfl
theorem q1839 : (Jvm.Cond.privateMethod ({ cls := "GlassStreetModel", name := "products", desc := "(I)V" } : Jvm.MethodName)) ∈ lw_tbl := lw_at lw_m8 39 rfl
theorem q1840 : (Jvm.Cond.instanceMethod ({ cls := "GlassStreetModel", name := "products", desc := "(I)V" } : Jvm.MethodName)) ∈ lw_all := lw_g (lw_at lw_m8 40 rfl) rfl
theorem q1841 : (Jvm.Cond.code ({ cls := "GlassStreetModel", name := "products", desc := "(I)V" } : Jvm.MethodName) prog_24_method_37_code (2 : Nat) (Option.none : Option Jvm.ClassFile.FieldType)) ∈ lw_all := lw_g (lw_at lw_m8 41 rfl) rfl
theorem q1842 : (Jvm.Cond.methodLink "GlassStreetModel" (259 : Nat) ({ cls := "GlassStreetModel", name := "takePart", desc := "(I)V" } : Jvm.MethodName)) ∈ lw_all := lw_g (lw_at lw_m8 42 rfl) rfl
theorem q1843 : (Jvm.Cond.privateMethod ({ cls := "GlassStreetModel", name := "takePart", desc := "(I)V" } : Jvm.MethodName)) ∈ lw_tbl := lw_at lw_m8 43 rfl
theorem q1844 : (Jvm.Cond.instanceMethod ({ cls := "GlassStreetModel", name := "takePart", desc := "(I)V" } : Jvm.MethodName)) ∈ lw_all := lw_g (lw_at lw_m8 44 rfl) rfl
theorem q1845 : (Jvm.Cond.code ({ cls := "GlassStreetModel", name := "takePart", desc := "(I)V" } : Jvm.MethodName) prog_24_method_38_code (4 : Nat) (Option.none : Option Jvm.ClassFile.FieldType)) ∈ lw_all := lw_g (lw_at lw_m8 45 rfl) rfl
theorem q1846 : (Jvm.Cond.methodLink "GlassStreetModel" (162 : Nat) ({ cls := "GlassStreetModel", name := "isSign", desc := "(I)Z" } : Jvm.MethodName)) ∈ lw_all := lw_g (lw_at lw_m8 46 rfl) rfl
theorem q1847 : (Jvm.Cond.privateMethod ({ cls := "GlassStreetModel", name := "isSign", desc := "(I)Z" } : Jvm.MethodName)) ∈ lw_tbl := lw_at lw_m8 47 rfl
theorem q1848 : (Jvm.Cond.instanceMethod ({ cls := "GlassStreetModel", name := "isSign", desc := "(I)Z" } : Jvm.MethodName)) ∈ lw_all := lw_g (lw_at lw_m8 48 rfl) rfl
theorem q1849 : (Jvm.Cond.code ({ cls := "GlassStreetModel", name := "isSign", desc := "(I)Z" } : Jvm.MethodName) prog_24_method_11_code (2 : Nat) (Option.some Jvm.ClassFile.FieldType.boolean)) ∈ lw_all := lw_g (lw_at lw_m8 49 rfl) rfl
theorem q1850 : (Jvm.Cond.methodLink "GlassStreetModel" (240 : Nat) ({ cls := "GlassStreetModel", name := "emit", desc := "(II)V" } : Jvm.MethodName)) ∈ lw_all := lw_g (lw_at lw_m8 50 rfl) rfl
theorem q1851 : (Jvm.Cond.privateMethod ({ cls := "GlassStreetModel", name := "emit", desc := "(II)V" } : Jvm.MethodName)) ∈ lw_tbl := lw_at lw_m8 51 rfl
theorem q1852 : (Jvm.Cond.instanceMethod ({ cls := "GlassStreetModel", name := "emit", desc := "(II)V" } : Jvm.MethodName)) ∈ lw_all := lw_g (lw_at lw_m8 52 rfl) rfl
theorem q1853 : (Jvm.Cond.code ({ cls := "GlassStreetModel", name := "emit", desc := "(II)V" } : Jvm.MethodName) prog_24_method_33_code (3 : Nat) (Option.none : Option Jvm.ClassFile.FieldType)) ∈ lw_all := lw_g (lw_at lw_m8 53 rfl) rfl
theorem q1854 : (Jvm.Cond.methodLink "GlassStreetModel" (253 : Nat) ({ cls := "GlassStreetModel", name := "hasSign", desc := "(I)Z" } : Jvm.MethodName)) ∈ lw_all := lw_g (lw_at lw_m8 54 rfl) rfl
theorem q1855 : (Jvm.Cond.privateMethod ({ cls := "GlassStreetModel", name := "hasSign", desc := "(I)Z" } : Jvm.MethodName)) ∈ lw_tbl := lw_at lw_m8 55 rfl
theorem q1856 : (Jvm.Cond.instanceMethod ({ cls := "GlassStreetModel", name := "hasSign", desc := "(I)Z" } : Jvm.MethodName)) ∈ lw_all := lw_g (lw_at lw_m8 56 rfl) rfl
theorem q1857 : (Jvm.Cond.code ({ cls := "GlassStreetModel", name := "hasSign", desc := "(I)Z" } : Jvm.MethodName) prog_24_method_14_code (3 : Nat) (Option.some Jvm.ClassFile.FieldType.boolean)) ∈ lw_all := lw_g (lw_at lw_m8 57 rfl) rfl
theorem q1858 : (Jvm.Cond.methodLink "GlassStreetModel" (214 : Nat) ({ cls := "GlassStreetModel", name := "takeSign", desc := "(I)V" } : Jvm.MethodName)) ∈ lw_all := lw_g (lw_at lw_m8 58 rfl) rfl
theorem q1859 : (Jvm.Cond.privateMethod ({ cls := "GlassStreetModel", name := "takeSign", desc := "(I)V" } : Jvm.MethodName)) ∈ lw_tbl := lw_at lw_m8 59 rfl
theorem q1860 : (Jvm.Cond.instanceMethod ({ cls := "GlassStreetModel", name := "takeSign", desc := "(I)V" } : Jvm.MethodName)) ∈ lw_all := lw_g (lw_at lw_m8 60 rfl) rfl
theorem q1861 : (Jvm.Cond.code ({ cls := "GlassStreetModel", name := "takeSign", desc := "(I)V" } : Jvm.MethodName) prog_24_method_13_code (2 : Nat) (Option.none : Option Jvm.ClassFile.FieldType)) ∈ lw_all := lw_g (lw_at lw_m8 61 rfl) rfl
theorem q1863 : (Jvm.Cond.instanceMethod ({ cls := "GlassStreetModel", name := "day", desc := "()I" } : Jvm.MethodName)) ∈ lw_all := lw_g (lw_at lw_m8 63 rfl) rfl
theorem q1864 : (Jvm.Cond.selects "GlassStreetModel" ({ cls := "GlassStreetModel", name := "day", desc := "()I" } : Jvm.MethodName) ({ cls := "GlassStreetModel", name := "day", desc := "()I" } : Jvm.MethodName)) ∈ lw_all := lw_g (lw_at lw_m8 64 rfl) rfl
theorem q1865 : (Jvm.Cond.code ({ cls := "GlassStreetModel", name := "day", desc := "()I" } : Jvm.MethodName) prog_24_method_32_code (3 : Nat) (Option.some Jvm.ClassFile.FieldType.int)) ∈ lw_all := lw_g (lw_at lw_m8 65 rfl) rfl
theorem q1866 : (Jvm.Cond.methodLink "GlassStreetModel" (244 : Nat) ({ cls := "GlassStreetModel", name := "takeTold", desc := "(I)I" } : Jvm.MethodName)) ∈ lw_all := lw_g (lw_at lw_m8 66 rfl) rfl
theorem q1867 : (Jvm.Cond.privateMethod ({ cls := "GlassStreetModel", name := "takeTold", desc := "(I)I" } : Jvm.MethodName)) ∈ lw_tbl := lw_at lw_m8 67 rfl
theorem q1868 : (Jvm.Cond.instanceMethod ({ cls := "GlassStreetModel", name := "takeTold", desc := "(I)I" } : Jvm.MethodName)) ∈ lw_all := lw_g (lw_at lw_m8 68 rfl) rfl
theorem q1869 : (Jvm.Cond.code ({ cls := "GlassStreetModel", name := "takeTold", desc := "(I)I" } : Jvm.MethodName) prog_24_method_25_code (3 : Nat) (Option.some Jvm.ClassFile.FieldType.int)) ∈ lw_all := lw_g (lw_at lw_m8 69 rfl) rfl
theorem q1870 : (Jvm.Cond.methodLink "GlassStreetModel" (198 : Nat) ({ cls := "GlassStreetModel", name := "within", desc := "(III)Z" } : Jvm.MethodName)) ∈ lw_all := lw_g (lw_at lw_m8 70 rfl) rfl
theorem q1871 : (Jvm.Cond.static ({ cls := "GlassStreetModel", name := "within", desc := "(III)Z" } : Jvm.MethodName)) ∈ lw_all := lw_g (lw_at lw_m8 71 rfl) rfl
theorem q1872 : (Jvm.Cond.code ({ cls := "GlassStreetModel", name := "within", desc := "(III)Z" } : Jvm.MethodName) prog_24_method_17_code (3 : Nat) (Option.some Jvm.ClassFile.FieldType.boolean)) ∈ lw_all := lw_g (lw_at lw_m8 72 rfl) rfl
theorem q1874 : (Jvm.Cond.instanceMethod ({ cls := "GlassStreetModel", name := "pane", desc := "(II)I" } : Jvm.MethodName)) ∈ lw_all := lw_g (lw_at lw_m8 74 rfl) rfl
theorem q1875 : (Jvm.Cond.selects "GlassStreetModel" ({ cls := "GlassStreetModel", name := "pane", desc := "(II)I" } : Jvm.MethodName) ({ cls := "GlassStreetModel", name := "pane", desc := "(II)I" } : Jvm.MethodName)) ∈ lw_all := lw_g (lw_at lw_m8 75 rfl) rfl
theorem q1876 : (Jvm.Cond.code ({ cls := "GlassStreetModel", name := "pane", desc := "(II)I" } : Jvm.MethodName) prog_24_method_71_code (3 : Nat) (Option.some Jvm.ClassFile.FieldType.int)) ∈ lw_all := lw_g (lw_at lw_m8 76 rfl) rfl
theorem q1877 : (Jvm.Cond.methodLink "GlassStreetModel" (337 : Nat) ({ cls := "GlassStreetModel", name := "isPane", desc := "(I)Z" } : Jvm.MethodName)) ∈ lw_all := lw_g (lw_at lw_m8 77 rfl) rfl
theorem q1878 : (Jvm.Cond.privateMethod ({ cls := "GlassStreetModel", name := "isPane", desc := "(I)Z" } : Jvm.MethodName)) ∈ lw_tbl := lw_at lw_m8 78 rfl
theorem q1879 : (Jvm.Cond.instanceMethod ({ cls := "GlassStreetModel", name := "isPane", desc := "(I)Z" } : Jvm.MethodName)) ∈ lw_all := lw_g (lw_at lw_m8 79 rfl) rfl
theorem q1880 : (Jvm.Cond.code ({ cls := "GlassStreetModel", name := "isPane", desc := "(I)Z" } : Jvm.MethodName) prog_24_method_49_code (2 : Nat) (Option.some Jvm.ClassFile.FieldType.boolean)) ∈ lw_all := lw_g (lw_at lw_m8 80 rfl) rfl
theorem q1881 : (Jvm.Cond.methodLink "GlassStreetModel" (278 : Nat) ({ cls := "GlassStreetModel", name := "panes", desc := "()I" } : Jvm.MethodName)) ∈ lw_all := lw_g (lw_at lw_m8 81 rfl) rfl
theorem q1882 : (Jvm.Cond.privateMethod ({ cls := "GlassStreetModel", name := "panes", desc := "()I" } : Jvm.MethodName)) ∈ lw_tbl := lw_at lw_m8 82 rfl
theorem q1883 : (Jvm.Cond.instanceMethod ({ cls := "GlassStreetModel", name := "panes", desc := "()I" } : Jvm.MethodName)) ∈ lw_all := lw_g (lw_at lw_m8 83 rfl) rfl
theorem q1884 : (Jvm.Cond.code ({ cls := "GlassStreetModel", name := "panes", desc := "()I" } : Jvm.MethodName) prog_24_method_45_code (1 : Nat) (Option.some Jvm.ClassFile.FieldType.int)) ∈ lw_all := lw_g (lw_at lw_m8 84 rfl) rfl
theorem q1885 : (Jvm.Cond.methodLink "GlassStreetModel" (284 : Nat) ({ cls := "GlassStreetModel", name := "paneOf", desc := "(II)I" } : Jvm.MethodName)) ∈ lw_all := lw_g (lw_at lw_m8 85 rfl) rfl
theorem q1886 : (Jvm.Cond.privateMethod ({ cls := "GlassStreetModel", name := "paneOf", desc := "(II)I" } : Jvm.MethodName)) ∈ lw_tbl := lw_at lw_m8 86 rfl
theorem q1887 : (Jvm.Cond.instanceMethod ({ cls := "GlassStreetModel", name := "paneOf", desc := "(II)I" } : Jvm.MethodName)) ∈ lw_all := lw_g (lw_at lw_m8 87 rfl) rfl
theorem q1888 : (Jvm.Cond.code ({ cls := "GlassStreetModel", name := "paneOf", desc := "(II)I" } : Jvm.MethodName) prog_24_method_48_code (3 : Nat) (Option.some Jvm.ClassFile.FieldType.int)) ∈ lw_all := lw_g (lw_at lw_m8 88 rfl) rfl
theorem q1889 : (Jvm.Cond.methodLink "GlassStreetModel" (294 : Nat) ({ cls := "GlassStreetModel", name := "sightOf", desc := "(II)I" } : Jvm.MethodName)) ∈ lw_all := lw_g (lw_at lw_m8 89 rfl) rfl
theorem q1890 : (Jvm.Cond.privateMethod ({ cls := "GlassStreetModel", name := "sightOf", desc := "(II)I" } : Jvm.MethodName)) ∈ lw_tbl := lw_at lw_m8 90 rfl
theorem q1891 : (Jvm.Cond.instanceMethod ({ cls := "GlassStreetModel", name := "sightOf", desc := "(II)I" } : Jvm.MethodName)) ∈ lw_all := lw_g (lw_at lw_m8 91 rfl) rfl
theorem q1892 : (Jvm.Cond.code ({ cls := "GlassStreetModel", name := "sightOf", desc := "(II)I" } : Jvm.MethodName) prog_24_method_54_code (6 : Nat) (Option.some Jvm.ClassFile.FieldType.int)) ∈ lw_all := lw_g (lw_at lw_m8 92 rfl) rfl
theorem q1893 : (Jvm.Cond.methodLink "GlassStreetModel" (287 : Nat) ({ cls := "GlassStreetModel", name := "isWhole", desc := "(II)Z" } : Jvm.MethodName)) ∈ lw_all := lw_g (lw_at lw_m8 93 rfl) rfl
theorem q1894 : (Jvm.Cond.privateMethod ({ cls := "GlassStreetModel", name := "isWhole", desc := "(II)Z" } : Jvm.MethodName)) ∈ lw_tbl := lw_at lw_m8 94 rfl
theorem q1895 : (Jvm.Cond.instanceMethod ({ cls := "GlassStreetModel", name := "isWhole", desc := "(II)Z" } : Jvm.MethodName)) ∈ lw_all := lw_g (lw_at lw_m8 95 rfl) rfl
theorem q1896 : (Jvm.Cond.code ({ cls := "GlassStreetModel", name := "isWhole", desc := "(II)Z" } : Jvm.MethodName) prog_24_method_53_code (3 : Nat) (Option.some Jvm.ClassFile.FieldType.boolean)) ∈ lw_all := lw_g (lw_at lw_m8 96 rfl) rfl
theorem q1897 : (Jvm.Cond.methodLink "GlassStreetModel" (291 : Nat) ({ cls := "GlassStreetModel", name := "lightOf", desc := "(I)I" } : Jvm.MethodName)) ∈ lw_all := lw_g (lw_at lw_m8 97 rfl) rfl
theorem q1898 : (Jvm.Cond.privateMethod ({ cls := "GlassStreetModel", name := "lightOf", desc := "(I)I" } : Jvm.MethodName)) ∈ lw_tbl := lw_at lw_m8 98 rfl
theorem q1899 : (Jvm.Cond.instanceMethod ({ cls := "GlassStreetModel", name := "lightOf", desc := "(I)I" } : Jvm.MethodName)) ∈ lw_all := lw_g (lw_at lw_m8 99 rfl) rfl
theorem q1900 : (Jvm.Cond.code ({ cls := "GlassStreetModel", name := "lightOf", desc := "(I)I" } : Jvm.MethodName) prog_24_method_52_code (2 : Nat) (Option.some Jvm.ClassFile.FieldType.int)) ∈ lw_all := lw_g (lw_at lw_m8 100 rfl) rfl
theorem q1902 : (Jvm.Cond.instanceMethod ({ cls := "GlassStreetModel", name := "shown", desc := "(III)I" } : Jvm.MethodName)) ∈ lw_all := lw_g (lw_at lw_m8 102 rfl) rfl
theorem q1903 : (Jvm.Cond.selects "GlassStreetModel" ({ cls := "GlassStreetModel", name := "shown", desc := "(III)I" } : Jvm.MethodName) ({ cls := "GlassStreetModel", name := "shown", desc := "(III)I" } : Jvm.MethodName)) ∈ lw_all := lw_g (lw_at lw_m8 103 rfl) rfl
theorem q1904 : (Jvm.Cond.code ({ cls := "GlassStreetModel", name := "shown", desc := "(III)I" } : Jvm.MethodName) prog_24_method_72_code (5 : Nat) (Option.some Jvm.ClassFile.FieldType.int)) ∈ lw_all := lw_g (lw_at lw_m8 104 rfl) rfl
theorem q1905 : (Jvm.Cond.methodLink "GlassStreetModel" (324 : Nat) ({ cls := "GlassStreetModel", name := "isShown", desc := "(II)Z" } : Jvm.MethodName)) ∈ lw_all := lw_g (lw_at lw_m8 105 rfl) rfl
theorem q1906 : (Jvm.Cond.privateMethod ({ cls := "GlassStreetModel", name := "isShown", desc := "(II)Z" } : Jvm.MethodName)) ∈ lw_tbl := lw_at lw_m8 106 rfl
theorem q1907 : (Jvm.Cond.instanceMethod ({ cls := "GlassStreetModel", name := "isShown", desc := "(II)Z" } : Jvm.MethodName)) ∈ lw_all := lw_g (lw_at lw_m8 107 rfl) rfl
theorem q1908 : (Jvm.Cond.code ({ cls := "GlassStreetModel", name := "isShown", desc := "(II)Z" } : Jvm.MethodName) prog_24_method_66_code (3 : Nat) (Option.some Jvm.ClassFile.FieldType.boolean)) ∈ lw_all := lw_g (lw_at lw_m8 108 rfl) rfl
theorem q1909 : (Jvm.Cond.methodLink "GlassStreetModel" (300 : Nat) ({ cls := "GlassStreetModel", name := "markOf", desc := "(III)I" } : Jvm.MethodName)) ∈ lw_all := lw_g (lw_at lw_m8 109 rfl) rfl
theorem q1910 : (Jvm.Cond.privateMethod ({ cls := "GlassStreetModel", name := "markOf", desc := "(III)I" } : Jvm.MethodName)) ∈ lw_tbl := lw_at lw_m8 110 rfl
theorem q1911 : (Jvm.Cond.instanceMethod ({ cls := "GlassStreetModel", name := "markOf", desc := "(III)I" } : Jvm.MethodName)) ∈ lw_all := lw_g (lw_at lw_m8 111 rfl) rfl
theorem q1912 : (Jvm.Cond.code ({ cls := "GlassStreetModel", name := "markOf", desc := "(III)I" } : Jvm.MethodName) prog_24_method_57_code (4 : Nat) (Option.some Jvm.ClassFile.FieldType.int)) ∈ lw_all := lw_g (lw_at lw_m8 112 rfl) rfl
theorem q1913 : (Jvm.Cond.methodLink "GlassStreetModel" (327 : Nat) ({ cls := "GlassStreetModel", name := "shownOf", desc := "(III)I" } : Jvm.MethodName)) ∈ lw_all := lw_g (lw_at lw_m8 113 rfl) rfl
theorem q1914 : (Jvm.Cond.privateMethod ({ cls := "GlassStreetModel", name := "shownOf", desc := "(III)I" } : Jvm.MethodName)) ∈ lw_tbl := lw_at lw_m8 114 rfl
theorem q1915 : (Jvm.Cond.instanceMethod ({ cls := "GlassStreetModel", name := "shownOf", desc := "(III)I" } : Jvm.MethodName)) ∈ lw_all := lw_g (lw_at lw_m8 115 rfl) rfl
theorem q1916 : (Jvm.Cond.code ({ cls := "GlassStreetModel", name := "shownOf", desc := "(III)I" } : Jvm.MethodName) prog_24_method_67_code (4 : Nat) (Option.some Jvm.ClassFile.FieldType.int)) ∈ lw_all := lw_g (lw_at lw_m8 116 rfl) rfl
theorem q1917 : (Jvm.Cond.methodLink "GlassStreetModel" (321 : Nat) ({ cls := "GlassStreetModel", name := "whoOf", desc := "(I)I" } : Jvm.MethodName)) ∈ lw_all := lw_g (lw_at lw_m8 117 rfl) rfl
theorem q1918 : (Jvm.Cond.static ({ cls := "GlassStreetModel", name := "whoOf", desc := "(I)I" } : Jvm.MethodName)) ∈ lw_all := lw_g (lw_at lw_m8 118 rfl) rfl
theorem q1919 : (Jvm.Cond.code ({ cls := "GlassStreetModel", name := "whoOf", desc := "(I)I" } : Jvm.MethodName) prog_24_method_58_code (1 : Nat) (Option.some Jvm.ClassFile.FieldType.int)) ∈ lw_all := lw_g (lw_at lw_m8 119 rfl) rfl
theorem q1920 : (Jvm.Cond.methodLink "GlassStreetModel" (312 : Nat) ({ cls := "GlassStreetModel", name := "deedOf", desc := "(I)I" } : Jvm.MethodName)) ∈ lw_all := lw_g (lw_at lw_m8 120 rfl) rfl
theorem q1921 : (Jvm.Cond.static ({ cls := "GlassStreetModel", name := "deedOf", desc := "(I)I" } : Jvm.MethodName)) ∈ lw_all := lw_g (lw_at lw_m8 121 rfl) rfl
theorem q1922 : (Jvm.Cond.code ({ cls := "GlassStreetModel", name := "deedOf", desc := "(I)I" } : Jvm.MethodName) prog_24_method_59_code (1 : Nat) (Option.some Jvm.ClassFile.FieldType.int)) ∈ lw_all := lw_g (lw_at lw_m8 122 rfl) rfl
theorem q1923 : (Jvm.Cond.methodLink "GlassStreetModel" (340 : Nat) ({ cls := "GlassStreetModel", name := "cellOf", desc := "(I)I" } : Jvm.MethodName)) ∈ lw_all := lw_g (lw_at lw_m8 123 rfl) rfl
theorem q1924 : (Jvm.Cond.static ({ cls := "GlassStreetModel", name := "cellOf", desc := "(I)I" } : Jvm.MethodName)) ∈ lw_all := lw_g (lw_at lw_m8 124 rfl) rfl
theorem q1925 : (Jvm.Cond.code ({ cls := "GlassStreetModel", name := "cellOf", desc := "(I)I" } : Jvm.MethodName) prog_24_method_60_code (1 : Nat) (Option.some Jvm.ClassFile.FieldType.int)) ∈ lw_all := lw_g (lw_at lw_m8 125 rfl) rfl
theorem q1926 : (Jvm.Cond.methodLink "GlassStreetModel" (309 : Nat) ({ cls := "GlassStreetModel", name := "ageOf", desc := "(I)I" } : Jvm.MethodName)) ∈ lw_all := lw_g (lw_at lw_m8 126 rfl) rfl
theorem q1927 : (Jvm.Cond.static ({ cls := "GlassStreetModel", name := "ageOf", desc := "(I)I" } : Jvm.MethodName)) ∈ lw_all := lw_g (lw_at lw_m8 127 rfl) rfl
theorem q1928 : (Jvm.Cond.code ({ cls := "GlassStreetModel", name := "ageOf", desc := "(I)I" } : Jvm.MethodName) prog_24_method_61_code (1 : Nat) (Option.some Jvm.ClassFile.FieldType.int)) ∈ lw_all := lw_g (lw_at lw_m8 128 rfl) rfl
theorem q1930 : (Jvm.Cond.instanceMethod ({ cls := "GlassStreetModel", name := "person", desc := "(I)I" } : Jvm.MethodName)) ∈ lw_all := lw_g (lw_at lw_m8 130 rfl) rfl
theorem q1931 : (Jvm.Cond.selects "GlassStreetModel" ({ cls := "GlassStreetModel", name := "person", desc := "(I)I" } : Jvm.MethodName) ({ cls := "GlassStreetModel", name := "person", desc := "(I)I" } : Jvm.MethodName)) ∈ lw_all := lw_g (lw_at lw_m8 131 rfl) rfl
theorem q1932 : (Jvm.Cond.code ({ cls := "GlassStreetModel", name := "person", desc := "(I)I" } : Jvm.MethodName) prog_24_method_73_code (2 : Nat) (Option.some Jvm.ClassFile.FieldType.int)) ∈ lw_all := lw_g (lw_at lw_m8 132 rfl) rfl
theorem q1933 : (Jvm.Cond.methodLink "GlassStreetModel" (343 : Nat) ({ cls := "GlassStreetModel", name := "isPerson", desc := "(I)Z" } : Jvm.MethodName)) ∈ lw_all := lw_g (lw_at lw_m8 133 rfl) rfl
theorem q1934 : (Jvm.Cond.privateMethod ({ cls := "GlassStreetModel", name := "isPerson", desc := "(I)Z" } : Jvm.MethodName)) ∈ lw_tbl := lw_at lw_m8 134 rfl
theorem q1935 : (Jvm.Cond.instanceMethod ({ cls := "GlassStreetModel", name := "isPerson", desc := "(I)Z" } : Jvm.MethodName)) ∈ lw_all := lw_g (lw_at lw_m8 135 rfl) rfl
theorem q1936 : (Jvm.Cond.code ({ cls := "GlassStreetModel", name := "isPerson", desc := "(I)Z" } : Jvm.MethodName) prog_24_method_50_code (2 : Nat) (Option.some Jvm.ClassFile.FieldType.boolean)) ∈ lw_all := lw_g (lw_at lw_m8 136 rfl) rfl
theorem q1938 : (Jvm.Cond.instanceMethod ({ cls := "GlassStreetModel", name := "walk", desc := "(II)Z" } : Jvm.MethodName)) ∈ lw_all := lw_g (lw_at lw_m8 138 rfl) rfl
theorem q1939 : (Jvm.Cond.selects "GlassStreetModel" ({ cls := "GlassStreetModel", name := "walk", desc := "(II)Z" } : Jvm.MethodName) ({ cls := "GlassStreetModel", name := "walk", desc := "(II)Z" } : Jvm.MethodName)) ∈ lw_all := lw_g (lw_at lw_m8 139 rfl) rfl
theorem q1940 : (Jvm.Cond.code ({ cls := "GlassStreetModel", name := "walk", desc := "(II)Z" } : Jvm.MethodName) prog_24_method_75_code (3 : Nat) (Option.some Jvm.ClassFile.FieldType.boolean)) ∈ lw_all := lw_g (lw_at lw_m8 140 rfl) rfl
theorem q1941 : (Jvm.Cond.methodLink "GlassStreetModel" (346 : Nat) ({ cls := "GlassStreetModel", name := "mayWalk", desc := "(III)Z" } : Jvm.MethodName)) ∈ lw_all := lw_g (lw_at lw_m8 141 rfl) rfl
theorem q1942 : (Jvm.Cond.privateMethod ({ cls := "GlassStreetModel", name := "mayWalk", desc := "(III)Z" } : Jvm.MethodName)) ∈ lw_tbl := lw_at lw_m8 142 rfl
theorem q1943 : (Jvm.Cond.instanceMethod ({ cls := "GlassStreetModel", name := "mayWalk", desc := "(III)Z" } : Jvm.MethodName)) ∈ lw_all := lw_g (lw_at lw_m8 143 rfl) rfl
theorem q1944 : (Jvm.Cond.code ({ cls := "GlassStreetModel", name := "mayWalk", desc := "(III)Z" } : Jvm.MethodName) prog_24_method_74_code (5 : Nat) (Option.some Jvm.ClassFile.FieldType.boolean)) ∈ lw_all := lw_g (lw_at lw_m8 144 rfl) rfl
theorem q1945 : (Jvm.Cond.methodLink "GlassStreetModel" (349 : Nat) ({ cls := "GlassStreetModel", name := "keeps", desc := "()V" } : Jvm.MethodName)) ∈ lw_all := lw_g (lw_at lw_m8 145 rfl) rfl
theorem q1946 : (Jvm.Cond.privateMethod ({ cls := "GlassStreetModel", name := "keeps", desc := "()V" } : Jvm.MethodName)) ∈ lw_tbl := lw_at lw_m8 146 rfl
theorem q1947 : (Jvm.Cond.instanceMethod ({ cls := "GlassStreetModel", name := "keeps", desc := "()V" } : Jvm.MethodName)) ∈ lw_all := lw_g (lw_at lw_m8 147 rfl) rfl
theorem q1948 : (Jvm.Cond.code ({ cls := "GlassStreetModel", name := "keeps", desc := "()V" } : Jvm.MethodName) prog_24_method_44_code (2 : Nat) (Option.none : Option Jvm.ClassFile.FieldType)) ∈ lw_all := lw_g (lw_at lw_m8 148 rfl) rfl
theorem q1949 : (Jvm.Cond.methodLink "GlassStreetModel" (275 : Nat) ({ cls := "GlassStreetModel", name := "copies", desc := "(III)V" } : Jvm.MethodName)) ∈ lw_all := lw_g (lw_at lw_m8 149 rfl) rfl
theorem q1950 : (Jvm.Cond.privateMethod ({ cls := "GlassStreetModel", name := "copies", desc := "(III)V" } : Jvm.MethodName)) ∈ lw_tbl := lw_at lw_m8 150 rfl
theorem q1951 : (Jvm.Cond.instanceMethod ({ cls := "GlassStreetModel", name := "copies", desc := "(III)V" } : Jvm.MethodName)) ∈ lw_all := lw_g (lw_at lw_m8 151 rfl) rfl
theorem q1952 : (Jvm.Cond.code ({ cls := "GlassStreetModel", name := "copies", desc := "(III)V" } : Jvm.MethodName) prog_24_method_41_code (5 : Nat) (Option.none : Option Jvm.ClassFile.FieldType)) ∈ lw_all := lw_g (lw_at lw_m8 152 rfl) rfl
theorem q1954 : (Jvm.Cond.instanceMethod ({ cls := "GlassStreetModel", name := "does", desc := "(II)I" } : Jvm.MethodName)) ∈ lw_all := lw_g (lw_at lw_m8 154 rfl) rfl
theorem q1955 : (Jvm.Cond.selects "GlassStreetModel" ({ cls := "GlassStreetModel", name := "does", desc := "(II)I" } : Jvm.MethodName) ({ cls := "GlassStreetModel", name := "does", desc := "(II)I" } : Jvm.MethodName)) ∈ lw_all := lw_g (lw_at lw_m8 155 rfl) rfl
theorem q1956 : (Jvm.Cond.code ({ cls := "GlassStreetModel", name := "does", desc := "(II)I" } : Jvm.MethodName) prog_24_method_76_code (3 : Nat) (Option.some Jvm.ClassFile.FieldType.int)) ∈ lw_all := lw_g (lw_at lw_m8 156 rfl) rfl
theorem q1957 : (Jvm.Cond.methodLink "GlassStreetModel" (352 : Nat) ({ cls := "GlassStreetModel", name := "isDeed", desc := "(I)Z" } : Jvm.MethodName)) ∈ lw_all := lw_g (lw_at lw_m8 157 rfl) rfl
theorem q1958 : (Jvm.Cond.privateMethod ({ cls := "GlassStreetModel", name := "isDeed", desc := "(I)Z" } : Jvm.MethodName)) ∈ lw_tbl := lw_at lw_m8 158 rfl
theorem q1959 : (Jvm.Cond.instanceMethod ({ cls := "GlassStreetModel", name := "isDeed", desc := "(I)Z" } : Jvm.MethodName)) ∈ lw_all := lw_g (lw_at lw_m8 159 rfl) rfl
theorem q1960 : (Jvm.Cond.code ({ cls := "GlassStreetModel", name := "isDeed", desc := "(I)Z" } : Jvm.MethodName) prog_24_method_51_code (2 : Nat) (Option.some Jvm.ClassFile.FieldType.boolean)) ∈ lw_all := lw_g (lw_at lw_m8 160 rfl) rfl
theorem q1961 : (Jvm.Cond.methodLink "GlassStreetModel" (281 : Nat) ({ cls := "GlassStreetModel", name := "deeds", desc := "()I" } : Jvm.MethodName)) ∈ lw_all := lw_g (lw_at lw_m8 161 rfl) rfl
theorem q1962 : (Jvm.Cond.privateMethod ({ cls := "GlassStreetModel", name := "deeds", desc := "()I" } : Jvm.MethodName)) ∈ lw_tbl := lw_at lw_m8 162 rfl
theorem q1963 : (Jvm.Cond.instanceMethod ({ cls := "GlassStreetModel", name := "deeds", desc := "()I" } : Jvm.MethodName)) ∈ lw_all := lw_g (lw_at lw_m8 163 rfl) rfl
theorem q1964 : (Jvm.Cond.code ({ cls := "GlassStreetModel", name := "deeds", desc := "()I" } : Jvm.MethodName) prog_24_method_47_code (1 : Nat) (Option.some Jvm.ClassFile.FieldType.int)) ∈ lw_all := lw_g (lw_at lw_m8 164 rfl) rfl
theorem q1965 : (Jvm.Cond.methodLink "GlassStreetModel" (355 : Nat) ({ cls := "GlassStreetModel", name := "does", desc := "(IIII)I" } : Jvm.MethodName)) ∈ lw_all := lw_g (lw_at lw_m8 165 rfl) rfl
theorem q1966 : (Jvm.Cond.privateMethod ({ cls := "GlassStreetModel", name := "does", desc := "(IIII)I" } : Jvm.MethodName)) ∈ lw_tbl := lw_at lw_m8 166 rfl
theorem q1967 : (Jvm.Cond.instanceMethod ({ cls := "GlassStreetModel", name := "does", desc := "(IIII)I" } : Jvm.MethodName)) ∈ lw_all := lw_g (lw_at lw_m8 167 rfl) rfl
theorem q1968 : (Jvm.Cond.code ({ cls := "GlassStreetModel", name := "does", desc := "(IIII)I" } : Jvm.MethodName) prog_24_method_63_code (7 : Nat) (Option.some Jvm.ClassFile.FieldType.int)) ∈ lw_all := lw_g (lw_at lw_m8 168 rfl) rfl
theorem q1969 : (Jvm.Cond.methodLink "GlassStreetModel" (303 : Nat) ({ cls := "GlassStreetModel", name := "seersOf", desc := "(II)I" } : Jvm.MethodName)) ∈ lw_all := lw_g (lw_at lw_m8 169 rfl) rfl
theorem q1970 : (Jvm.Cond.privateMethod ({ cls := "GlassStreetModel", name := "seersOf", desc := "(II)I" } : Jvm.MethodName)) ∈ lw_tbl := lw_at lw_m8 170 rfl
theorem q1971 : (Jvm.Cond.instanceMethod ({ cls := "GlassStreetModel", name := "seersOf", desc := "(II)I" } : Jvm.MethodName)) ∈ lw_all := lw_g (lw_at lw_m8 171 rfl) rfl
theorem q1972 : (Jvm.Cond.code ({ cls := "GlassStreetModel", name := "seersOf", desc := "(II)I" } : Jvm.MethodName) prog_24_method_56_code (5 : Nat) (Option.some Jvm.ClassFile.FieldType.int)) ∈ lw_all := lw_g (lw_at lw_m8 172 rfl) rfl
theorem q1973 : (Jvm.Cond.methodLink "GlassStreetModel" (297 : Nat) ({ cls := "GlassStreetModel", name := "doesSee", desc := "(III)Z" } : Jvm.MethodName)) ∈ lw_all := lw_g (lw_at lw_m8 173 rfl) rfl
theorem q1974 : (Jvm.Cond.privateMethod ({ cls := "GlassStreetModel", name := "doesSee", desc := "(III)Z" } : Jvm.MethodName)) ∈ lw_tbl := lw_at lw_m8 174 rfl
theorem q1975 : (Jvm.Cond.instanceMethod ({ cls := "GlassStreetModel", name := "doesSee", desc := "(III)Z" } : Jvm.MethodName)) ∈ lw_all := lw_g (lw_at lw_m8 175 rfl) rfl
theorem q1976 : (Jvm.Cond.code ({ cls := "GlassStreetModel", name := "doesSee", desc := "(III)Z" } : Jvm.MethodName) prog_24_method_55_code (4 : Nat) (Option.some Jvm.ClassFile.FieldType.boolean)) ∈ lw_all := lw_g (lw_at lw_m8 176 rfl) rfl
theorem q1977 : (Jvm.Cond.methodLink "GlassStreetModel" (306 : Nat) ({ cls := "GlassStreetModel", name := "forgets", desc := "(III)V" } : Jvm.MethodName)) ∈ lw_all := lw_g (lw_at lw_m8 177 rfl) rfl
theorem q1978 : (Jvm.Cond.privateMethod ({ cls := "GlassStreetModel", name := "forgets", desc := "(III)V" } : Jvm.MethodName)) ∈ lw_tbl := lw_at lw_m8 178 rfl
theorem q1979 : (Jvm.Cond.instanceMethod ({ cls := "GlassStreetModel", name := "forgets", desc := "(III)V" } : Jvm.MethodName)) ∈ lw_all := lw_g (lw_at lw_m8 179 rfl) rfl
theorem q1980 : (Jvm.Cond.code ({ cls := "GlassStreetModel", name := "forgets", desc := "(III)V" } : Jvm.MethodName) prog_24_method_62_code (5 : Nat) (Option.none : Option Jvm.ClassFile.FieldType)) ∈ lw_all := lw_g (lw_at lw_m8 180 rfl) rfl
theorem q1982 : (Jvm.Cond.instanceMethod ({ cls := "GlassStreetModel", name := "wash", desc := "(I)I" } : Jvm.MethodName)) ∈ lw_all := lw_g (lw_at lw_m8 182 rfl) rfl
theorem q1983 : (Jvm.Cond.selects "GlassStreetModel" ({ cls := "GlassStreetModel", name := "wash", desc := "(I)I" } : Jvm.MethodName) ({ cls := "GlassStreetModel", name := "wash", desc := "(I)I" } : Jvm.MethodName)) ∈ lw_all := lw_g (lw_at lw_m8 183 rfl) rfl
theorem q1984 : (Jvm.Cond.code ({ cls := "GlassStreetModel", name := "wash", desc := "(I)I" } : Jvm.MethodName) prog_24_method_78_code (2 : Nat) (Option.some Jvm.ClassFile.FieldType.int)) ∈ lw_all := lw_g (lw_at lw_m8 184 rfl) rfl
theorem q1985 : (Jvm.Cond.methodLink "GlassStreetModel" (358 : Nat) ({ cls := "GlassStreetModel", name := "mayWash", desc := "(II)Z" } : Jvm.MethodName)) ∈ lw_all := lw_g (lw_at lw_m8 185 rfl) rfl
theorem q1986 : (Jvm.Cond.privateMethod ({ cls := "GlassStreetModel", name := "mayWash", desc := "(II)Z" } : Jvm.MethodName)) ∈ lw_tbl := lw_at lw_m8 186 rfl
theorem q1987 : (Jvm.Cond.instanceMethod ({ cls := "GlassStreetModel", name := "mayWash", desc := "(II)Z" } : Jvm.MethodName)) ∈ lw_all := lw_g (lw_at lw_m8 187 rfl) rfl
theorem q1988 : (Jvm.Cond.code ({ cls := "GlassStreetModel", name := "mayWash", desc := "(II)Z" } : Jvm.MethodName) prog_24_method_77_code (3 : Nat) (Option.some Jvm.ClassFile.FieldType.boolean)) ∈ lw_all := lw_g (lw_at lw_m8 188 rfl) rfl
theorem q1990 : (Jvm.Cond.instanceMethod ({ cls := "GlassStreetModel", name := "curtain", desc := "(I)Z" } : Jvm.MethodName)) ∈ lw_all := lw_g (lw_at lw_m8 190 rfl) rfl
theorem q1991 : (Jvm.Cond.selects "GlassStreetModel" ({ cls := "GlassStreetModel", name := "curtain", desc := "(I)Z" } : Jvm.MethodName) ({ cls := "GlassStreetModel", name := "curtain", desc := "(I)Z" } : Jvm.MethodName)) ∈ lw_all := lw_g (lw_at lw_m8 191 rfl) rfl
theorem q1992 : (Jvm.Cond.code ({ cls := "GlassStreetModel", name := "curtain", desc := "(I)Z" } : Jvm.MethodName) prog_24_method_79_code (2 : Nat) (Option.some Jvm.ClassFile.FieldType.boolean)) ∈ lw_all := lw_g (lw_at lw_m8 192 rfl) rfl
theorem q1994 : (Jvm.Cond.instanceMethod ({ cls := "GlassStreetModel", name := "stone", desc := "(I)Z" } : Jvm.MethodName)) ∈ lw_all := lw_g (lw_at lw_m8 194 rfl) rfl
theorem q1995 : (Jvm.Cond.selects "GlassStreetModel" ({ cls := "GlassStreetModel", name := "stone", desc := "(I)Z" } : Jvm.MethodName) ({ cls := "GlassStreetModel", name := "stone", desc := "(I)Z" } : Jvm.MethodName)) ∈ lw_all := lw_g (lw_at lw_m8 195 rfl) rfl
theorem q1996 : (Jvm.Cond.code ({ cls := "GlassStreetModel", name := "stone", desc := "(I)Z" } : Jvm.MethodName) prog_24_method_80_code (2 : Nat) (Option.some Jvm.ClassFile.FieldType.boolean)) ∈ lw_all := lw_g (lw_at lw_m8 196 rfl) rfl
theorem q1998 : (Jvm.Cond.instanceMethod ({ cls := "GlassStreetModel", name := "hour", desc := "()I" } : Jvm.MethodName)) ∈ lw_all := lw_g (lw_at lw_m8 198 rfl) rfl
theorem q1999 : (Jvm.Cond.selects "GlassStreetModel" ({ cls := "GlassStreetModel", name := "hour", desc := "()I" } : Jvm.MethodName) ({ cls := "GlassStreetModel", name := "hour", desc := "()I" } : Jvm.MethodName)) ∈ lw_all := lw_g (lw_at lw_m8 199 rfl) rfl
theorem q2000 : (Jvm.Cond.code ({ cls := "GlassStreetModel", name := "hour", desc := "()I" } : Jvm.MethodName) prog_24_method_81_code (1 : Nat) (Option.some Jvm.ClassFile.FieldType.int)) ∈ lw_all := lw_g (lw_at lw_m8 200 rfl) rfl
theorem q2001 : (Jvm.Cond.methodLink "GlassStreetModel" (361 : Nat) ({ cls := "GlassStreetModel", name := "passes", desc := "(I)I" } : Jvm.MethodName)) ∈ lw_all := lw_g (lw_at lw_m8 201 rfl) rfl
theorem q2002 : (Jvm.Cond.privateMethod ({ cls := "GlassStreetModel", name := "passes", desc := "(I)I" } : Jvm.MethodName)) ∈ lw_tbl := lw_at lw_m8 202 rfl
theorem q2003 : (Jvm.Cond.instanceMethod ({ cls := "GlassStreetModel", name := "passes", desc := "(I)I" } : Jvm.MethodName)) ∈ lw_all := lw_g (lw_at lw_m8 203 rfl) rfl
theorem q2004 : (Jvm.Cond.code ({ cls := "GlassStreetModel", name := "passes", desc := "(I)I" } : Jvm.MethodName) prog_24_method_65_code (5 : Nat) (Option.some Jvm.ClassFile.FieldType.int)) ∈ lw_all := lw_g (lw_at lw_m8 204 rfl) rfl
theorem q2005 : (Jvm.Cond.methodLink "GlassStreetModel" (318 : Nat) ({ cls := "GlassStreetModel", name := "isFaded", desc := "(III)Z" } : Jvm.MethodName)) ∈ lw_all := lw_g (lw_at lw_m8 205 rfl) rfl
theorem q2006 : (Jvm.Cond.privateMethod ({ cls := "GlassStreetModel", name := "isFaded", desc := "(III)Z" } : Jvm.MethodName)) ∈ lw_tbl := lw_at lw_m8 206 rfl
theorem q2007 : (Jvm.Cond.instanceMethod ({ cls := "GlassStreetModel", name := "isFaded", desc := "(III)Z" } : Jvm.MethodName)) ∈ lw_all := lw_g (lw_at lw_m8 207 rfl) rfl
theorem q2008 : (Jvm.Cond.code ({ cls := "GlassStreetModel", name := "isFaded", desc := "(III)Z" } : Jvm.MethodName) prog_24_method_64_code (5 : Nat) (Option.some Jvm.ClassFile.FieldType.boolean)) ∈ lw_all := lw_g (lw_at lw_m8 208 rfl) rfl
theorem q2009 : (Jvm.Cond.methodLink "GlassStreetModel" (315 : Nat) ({ cls := "GlassStreetModel", name := "worthAt", desc := "(I)I" } : Jvm.MethodName)) ∈ lw_all := lw_g (lw_at lw_m8 209 rfl) rfl
theorem q2010 : (Jvm.Cond.privateMethod ({ cls := "GlassStreetModel", name := "worthAt", desc := "(I)I" } : Jvm.MethodName)) ∈ lw_tbl := lw_at lw_m8 210 rfl
theorem q2011 : (Jvm.Cond.instanceMethod ({ cls := "GlassStreetModel", name := "worthAt", desc := "(I)I" } : Jvm.MethodName)) ∈ lw_all := lw_g (lw_at lw_m8 211 rfl) rfl
theorem q2012 : (Jvm.Cond.code ({ cls := "GlassStreetModel", name := "worthAt", desc := "(I)I" } : Jvm.MethodName) prog_24_method_39_code (5 : Nat) (Option.some Jvm.ClassFile.FieldType.int)) ∈ lw_all := lw_g (lw_at lw_m8 212 rfl) rfl
theorem q2013 : (Jvm.Cond.methodLink "GlassStreetModel" (262 : Nat) ({ cls := "GlassStreetModel", name := "both", desc := "(III)I" } : Jvm.MethodName)) ∈ lw_all := lw_g (lw_at lw_m8 213 rfl) rfl
theorem q2014 : (Jvm.Cond.static ({ cls := "GlassStreetModel", name := "both", desc := "(III)I" } : Jvm.MethodName)) ∈ lw_all := lw_g (lw_at lw_m8 214 rfl) rfl
theorem q2015 : (Jvm.Cond.code ({ cls := "GlassStreetModel", name := "both", desc := "(III)I" } : Jvm.MethodName) prog_24_method_40_code (3 : Nat) (Option.some Jvm.ClassFile.FieldType.int)) ∈ lw_all := lw_g (lw_at lw_m8 215 rfl) rfl
theorem q2017 : (Jvm.Cond.instanceMethod ({ cls := "GlassStreetModel", name := "undo", desc := "()Z" } : Jvm.MethodName)) ∈ lw_all := lw_g (lw_at lw_m8 217 rfl) rfl
theorem q2018 : (Jvm.Cond.selects "GlassStreetModel" ({ cls := "GlassStreetModel", name := "undo", desc := "()Z" } : Jvm.MethodName) ({ cls := "GlassStreetModel", name := "undo", desc := "()Z" } : Jvm.MethodName)) ∈ lw_all := lw_g (lw_at lw_m8 218 rfl) rfl
theorem q2019 : (Jvm.Cond.code ({ cls := "GlassStreetModel", name := "undo", desc := "()Z" } : Jvm.MethodName) prog_24_method_82_code (1 : Nat) (Option.some Jvm.ClassFile.FieldType.boolean)) ∈ lw_all := lw_g (lw_at lw_m8 219 rfl) rfl
theorem q2021 : (Jvm.Cond.instanceMethod ({ cls := "GlassStreetModel", name := "judged", desc := "(I)I" } : Jvm.MethodName)) ∈ lw_all := lw_g (lw_at lw_m8 221 rfl) rfl
theorem q2022 : (Jvm.Cond.selects "GlassStreetModel" ({ cls := "GlassStreetModel", name := "judged", desc := "(I)I" } : Jvm.MethodName) ({ cls := "GlassStreetModel", name := "judged", desc := "(I)I" } : Jvm.MethodName)) ∈ lw_all := lw_g (lw_at lw_m8 222 rfl) rfl
theorem q2023 : (Jvm.Cond.code ({ cls := "GlassStreetModel", name := "judged", desc := "(I)I" } : Jvm.MethodName) prog_24_method_84_code (6 : Nat) (Option.some Jvm.ClassFile.FieldType.int)) ∈ lw_all := lw_g (lw_at lw_m8 223 rfl) rfl
theorem q2024 : (Jvm.Cond.methodLink "GlassStreetModel" (368 : Nat) ({ cls := "GlassStreetModel", name := "done", desc := "(III)Z" } : Jvm.MethodName)) ∈ lw_all := lw_g (lw_at lw_m8 224 rfl) rfl
theorem q2025 : (Jvm.Cond.privateMethod ({ cls := "GlassStreetModel", name := "done", desc := "(III)Z" } : Jvm.MethodName)) ∈ lw_tbl := lw_at lw_m8 225 rfl
theorem q2026 : (Jvm.Cond.instanceMethod ({ cls := "GlassStreetModel", name := "done", desc := "(III)Z" } : Jvm.MethodName)) ∈ lw_all := lw_g (lw_at lw_m8 226 rfl) rfl
theorem q2027 : (Jvm.Cond.code ({ cls := "GlassStreetModel", name := "done", desc := "(III)Z" } : Jvm.MethodName) prog_24_method_83_code (5 : Nat) (Option.some Jvm.ClassFile.FieldType.boolean)) ∈ lw_all := lw_g (lw_at lw_m8 227 rfl) rfl
theorem q2028 : (Jvm.Cond.methodLink "GlassStreetModel" (371 : Nat) ({ cls := "GlassStreetModel", name := "harmShown", desc := "(III)I" } : Jvm.MethodName)) ∈ lw_all := lw_g (lw_at lw_m8 228 rfl) rfl
theorem q2029 : (Jvm.Cond.privateMethod ({ cls := "GlassStreetModel", name := "harmShown", desc := "(III)I" } : Jvm.MethodName)) ∈ lw_tbl := lw_at lw_m8 229 rfl
theorem q2030 : (Jvm.Cond.instanceMethod ({ cls := "GlassStreetModel", name := "harmShown", desc := "(III)I" } : Jvm.MethodName)) ∈ lw_all := lw_g (lw_at lw_m8 230 rfl) rfl
theorem q2031 : (Jvm.Cond.code ({ cls := "GlassStreetModel", name := "harmShown", desc := "(III)I" } : Jvm.MethodName) prog_24_method_70_code (6 : Nat) (Option.some Jvm.ClassFile.FieldType.int)) ∈ lw_all := lw_g (lw_at lw_m8 231 rfl) rfl
theorem q2032 : (Jvm.Cond.methodLink "GlassStreetModel" (330 : Nat) ({ cls := "GlassStreetModel", name := "deedsBy", desc := "(IIII)I" } : Jvm.MethodName)) ∈ lw_all := lw_g (lw_at lw_m8 232 rfl) rfl
theorem q2033 : (Jvm.Cond.privateMethod ({ cls := "GlassStreetModel", name := "deedsBy", desc := "(IIII)I" } : Jvm.MethodName)) ∈ lw_tbl := lw_at lw_m8 233 rfl
theorem q2034 : (Jvm.Cond.instanceMethod ({ cls := "GlassStreetModel", name := "deedsBy", desc := "(IIII)I" } : Jvm.MethodName)) ∈ lw_all := lw_g (lw_at lw_m8 234 rfl) rfl
theorem q2035 : (Jvm.Cond.code ({ cls := "GlassStreetModel", name := "deedsBy", desc := "(IIII)I" } : Jvm.MethodName) prog_24_method_68_code (9 : Nat) (Option.some Jvm.ClassFile.FieldType.int)) ∈ lw_all := lw_g (lw_at lw_m8 235 rfl) rfl
theorem q2036 : (Jvm.Cond.methodLink "GlassStreetModel" (334 : Nat) ({ cls := "GlassStreetModel", name := "harmOf", desc := "(I)I" } : Jvm.MethodName)) ∈ lw_all := lw_g (lw_at lw_m8 236 rfl) rfl
theorem q2037 : (Jvm.Cond.privateMethod ({ cls := "GlassStreetModel", name := "harmOf", desc := "(I)I" } : Jvm.MethodName)) ∈ lw_tbl := lw_at lw_m8 237 rfl
theorem q2038 : (Jvm.Cond.instanceMethod ({ cls := "GlassStreetModel", name := "harmOf", desc := "(I)I" } : Jvm.MethodName)) ∈ lw_all := lw_g (lw_at lw_m8 238 rfl) rfl
theorem q2039 : (Jvm.Cond.code ({ cls := "GlassStreetModel", name := "harmOf", desc := "(I)I" } : Jvm.MethodName) prog_24_method_69_code (4 : Nat) (Option.some Jvm.ClassFile.FieldType.int)) ∈ lw_all := lw_g (lw_at lw_m8 239 rfl) rfl
theorem q2041 : (Jvm.Cond.instanceMethod ({ cls := "GlassStreetModel", name := "shame", desc := "(I)I" } : Jvm.MethodName)) ∈ lw_all := lw_g (lw_at lw_m9 1 rfl) rfl
theorem q2042 : (Jvm.Cond.selects "GlassStreetModel" ({ cls := "GlassStreetModel", name := "shame", desc := "(I)I" } : Jvm.MethodName) ({ cls := "GlassStreetModel", name := "shame", desc := "(I)I" } : Jvm.MethodName)) ∈ lw_all := lw_g (lw_at lw_m9 2 rfl) rfl
theorem q2043 : (Jvm.Cond.code ({ cls := "GlassStreetModel", name := "shame", desc := "(I)I" } : Jvm.MethodName) prog_24_method_85_code (2 : Nat) (Option.some Jvm.ClassFile.FieldType.int)) ∈ lw_all := lw_g (lw_at lw_m9 3 rfl) rfl
theorem q2045 : (Jvm.Cond.instanceMethod ({ cls := "GlassStreetModel", name := "harm", desc := "()I" } : Jvm.MethodName)) ∈ lw_all := lw_g (lw_at lw_m9 5 rfl) rfl
theorem q2046 : (Jvm.Cond.selects "GlassStreetModel" ({ cls := "GlassStreetModel", name := "harm", desc := "()I" } : Jvm.MethodName) ({ cls := "GlassStreetModel", name := "harm", desc := "()I" } : Jvm.MethodName)) ∈ lw_all := lw_g (lw_at lw_m9 6 rfl) rfl
theorem q2047 : (Jvm.Cond.code ({ cls := "GlassStreetModel", name := "harm", desc := "()I" } : Jvm.MethodName) prog_24_method_86_code (1 : Nat) (Option.some Jvm.ClassFile.FieldType.int)) ∈ lw_all := lw_g (lw_at lw_m9 7 rfl) rfl
theorem q2049 : (Jvm.Cond.instanceMethod ({ cls := "GlassStreetModel", name := "memory", desc := "(I)I" } : Jvm.MethodName)) ∈ lw_all := lw_g (lw_at lw_m9 9 rfl) rfl
theorem q2050 : (Jvm.Cond.selects "GlassStreetModel" ({ cls := "GlassStreetModel", name := "memory", desc := "(I)I" } : Jvm.MethodName) ({ cls := "GlassStreetModel", name := "memory", desc := "(I)I" } : Jvm.MethodName)) ∈ lw_all := lw_g (lw_at lw_m9 10 rfl) rfl
theorem q2051 : (Jvm.Cond.code ({ cls := "GlassStreetModel", name := "memory", desc := "(I)I" } : Jvm.MethodName) prog_24_method_87_code (2 : Nat) (Option.some Jvm.ClassFile.FieldType.int)) ∈ lw_all := lw_g (lw_at lw_m9 11 rfl) rfl
theorem q2053 : (Jvm.Cond.instanceMethod ({ cls := "GlassStreetModel", name := "trail", desc := "(I)I" } : Jvm.MethodName)) ∈ lw_all := lw_g (lw_at lw_m9 13 rfl) rfl
theorem q2054 : (Jvm.Cond.selects "GlassStreetModel" ({ cls := "GlassStreetModel", name := "trail", desc := "(I)I" } : Jvm.MethodName) ({ cls := "GlassStreetModel", name := "trail", desc := "(I)I" } : Jvm.MethodName)) ∈ lw_all := lw_g (lw_at lw_m9 14 rfl) rfl
theorem q2055 : (Jvm.Cond.code ({ cls := "GlassStreetModel", name := "trail", desc := "(I)I" } : Jvm.MethodName) prog_24_method_88_code (6 : Nat) (Option.some Jvm.ClassFile.FieldType.int)) ∈ lw_all := lw_g (lw_at lw_m9 15 rfl) rfl
theorem q2057 : (Jvm.Cond.instanceMethod ({ cls := "GlassStreetModel", name := "last", desc := "(I)I" } : Jvm.MethodName)) ∈ lw_all := lw_g (lw_at lw_m9 17 rfl) rfl
theorem q2058 : (Jvm.Cond.selects "GlassStreetModel" ({ cls := "GlassStreetModel", name := "last", desc := "(I)I" } : Jvm.MethodName) ({ cls := "GlassStreetModel", name := "last", desc := "(I)I" } : Jvm.MethodName)) ∈ lw_all := lw_g (lw_at lw_m9 18 rfl) rfl
theorem q2059 : (Jvm.Cond.code ({ cls := "GlassStreetModel", name := "last", desc := "(I)I" } : Jvm.MethodName) prog_24_method_89_code (8 : Nat) (Option.some Jvm.ClassFile.FieldType.int)) ∈ lw_all := lw_g (lw_at lw_m9 19 rfl) rfl
theorem q2061 : (Jvm.Cond.instanceMethod ({ cls := "GlassStreetModel", name := "worst", desc := "()I" } : Jvm.MethodName)) ∈ lw_all := lw_g (lw_at lw_m9 21 rfl) rfl
theorem q2062 : (Jvm.Cond.selects "GlassStreetModel" ({ cls := "GlassStreetModel", name := "worst", desc := "()I" } : Jvm.MethodName) ({ cls := "GlassStreetModel", name := "worst", desc := "()I" } : Jvm.MethodName)) ∈ lw_all := lw_g (lw_at lw_m9 22 rfl) rfl
theorem q2063 : (Jvm.Cond.code ({ cls := "GlassStreetModel", name := "worst", desc := "()I" } : Jvm.MethodName) prog_24_method_90_code (5 : Nat) (Option.some Jvm.ClassFile.FieldType.int)) ∈ lw_all := lw_g (lw_at lw_m9 23 rfl) rfl
theorem q2065 : (Jvm.Cond.instanceMethod ({ cls := "GlassStreetModel", name := "oldest", desc := "()I" } : Jvm.MethodName)) ∈ lw_all := lw_g (lw_at lw_m9 25 rfl) rfl
theorem q2066 : (Jvm.Cond.selects "GlassStreetModel" ({ cls := "GlassStreetModel", name := "oldest", desc := "()I" } : Jvm.MethodName) ({ cls := "GlassStreetModel", name := "oldest", desc := "()I" } : Jvm.MethodName)) ∈ lw_all := lw_g (lw_at lw_m9 26 rfl) rfl
theorem q2067 : (Jvm.Cond.code ({ cls := "GlassStreetModel", name := "oldest", desc := "()I" } : Jvm.MethodName) prog_24_method_91_code (6 : Nat) (Option.some Jvm.ClassFile.FieldType.int)) ∈ lw_all := lw_g (lw_at lw_m9 27 rfl) rfl
theorem q2069 : (Jvm.Cond.instanceMethod ({ cls := "GlassStreetModel", name := "young", desc := "(I)I" } : Jvm.MethodName)) ∈ lw_all := lw_g (lw_at lw_m9 29 rfl) rfl
theorem q2070 : (Jvm.Cond.selects "GlassStreetModel" ({ cls := "GlassStreetModel", name := "young", desc := "(I)I" } : Jvm.MethodName) ({ cls := "GlassStreetModel", name := "young", desc := "(I)I" } : Jvm.MethodName)) ∈ lw_all := lw_g (lw_at lw_m9 30 rfl) rfl
theorem q2071 : (Jvm.Cond.code ({ cls := "GlassStreetModel", name := "young", desc := "(I)I" } : Jvm.MethodName) prog_24_method_92_code (5 : Nat) (Option.some Jvm.ClassFile.FieldType.int)) ∈ lw_all := lw_g (lw_at lw_m9 31 rfl) rfl
theorem q2073 : (Jvm.Cond.instanceMethod ({ cls := "GlassStreetModel", name := "cloak", desc := "(II)I" } : Jvm.MethodName)) ∈ lw_all := lw_g (lw_at lw_m9 33 rfl) rfl
theorem q2074 : (Jvm.Cond.selects "GlassStreetModel" ({ cls := "GlassStreetModel", name := "cloak", desc := "(II)I" } : Jvm.MethodName) ({ cls := "GlassStreetModel", name := "cloak", desc := "(II)I" } : Jvm.MethodName)) ∈ lw_all := lw_g (lw_at lw_m9 34 rfl) rfl
theorem q2075 : (Jvm.Cond.code ({ cls := "GlassStreetModel", name := "cloak", desc := "(II)I" } : Jvm.MethodName) prog_24_method_93_code (9 : Nat) (Option.some Jvm.ClassFile.FieldType.int)) ∈ lw_all := lw_g (lw_at lw_m9 35 rfl) rfl
theorem q2076 : (Jvm.Cond.methodLink "GlassStreetModel" (374 : Nat) ({ cls := "GlassStreetModel", name := "bits", desc := "(I)I" } : Jvm.MethodName)) ∈ lw_all := lw_g (lw_at lw_m9 36 rfl) rfl
theorem q2077 : (Jvm.Cond.static ({ cls := "GlassStreetModel", name := "bits", desc := "(I)I" } : Jvm.MethodName)) ∈ lw_all := lw_g (lw_at lw_m9 37 rfl) rfl
theorem q2078 : (Jvm.Cond.code ({ cls := "GlassStreetModel", name := "bits", desc := "(I)I" } : Jvm.MethodName) prog_24_method_95_code (3 : Nat) (Option.some Jvm.ClassFile.FieldType.int)) ∈ lw_all := lw_g (lw_at lw_m9 38 rfl) rfl
theorem q2080 : (Jvm.Cond.instanceMethod ({ cls := "GlassStreetModel", name := "hide", desc := "(II)I" } : Jvm.MethodName)) ∈ lw_all := lw_g (lw_at lw_m9 40 rfl) rfl
theorem q2081 : (Jvm.Cond.selects "GlassStreetModel" ({ cls := "GlassStreetModel", name := "hide", desc := "(II)I" } : Jvm.MethodName) ({ cls := "GlassStreetModel", name := "hide", desc := "(II)I" } : Jvm.MethodName)) ∈ lw_all := lw_g (lw_at lw_m9 41 rfl) rfl
theorem q2082 : (Jvm.Cond.code ({ cls := "GlassStreetModel", name := "hide", desc := "(II)I" } : Jvm.MethodName) prog_24_method_94_code (8 : Nat) (Option.some Jvm.ClassFile.FieldType.int)) ∈ lw_all := lw_g (lw_at lw_m9 42 rfl) rfl
theorem q2084 : (Jvm.Cond.instanceMethod ({ cls := "GlassStreetModel", name := "proof", desc := "(II)I" } : Jvm.MethodName)) ∈ lw_all := lw_g (lw_at lw_m9 44 rfl) rfl
theorem q2085 : (Jvm.Cond.selects "GlassStreetModel" ({ cls := "GlassStreetModel", name := "proof", desc := "(II)I" } : Jvm.MethodName) ({ cls := "GlassStreetModel", name := "proof", desc := "(II)I" } : Jvm.MethodName)) ∈ lw_all := lw_g (lw_at lw_m9 45 rfl) rfl
theorem q2086 : (Jvm.Cond.code ({ cls := "GlassStreetModel", name := "proof", desc := "(II)I" } : Jvm.MethodName) prog_24_method_96_code (7 : Nat) (Option.some Jvm.ClassFile.FieldType.int)) ∈ lw_all := lw_g (lw_at lw_m9 46 rfl) rfl
theorem q2088 : (Jvm.Cond.instanceMethod ({ cls := "GlassStreetModel", name := "washes", desc := "(II)I" } : Jvm.MethodName)) ∈ lw_all := lw_g (lw_at lw_m9 48 rfl) rfl
theorem q2089 : (Jvm.Cond.selects "GlassStreetModel" ({ cls := "GlassStreetModel", name := "washes", desc := "(II)I" } : Jvm.MethodName) ({ cls := "GlassStreetModel", name := "washes", desc := "(II)I" } : Jvm.MethodName)) ∈ lw_all := lw_g (lw_at lw_m9 49 rfl) rfl
theorem q2090 : (Jvm.Cond.code ({ cls := "GlassStreetModel", name := "washes", desc := "(II)I" } : Jvm.MethodName) prog_24_method_97_code (8 : Nat) (Option.some Jvm.ClassFile.FieldType.int)) ∈ lw_all := lw_g (lw_at lw_m9 50 rfl) rfl
theorem q2092 : (Jvm.Cond.instanceMethod ({ cls := "GlassStreetModel", name := "dark", desc := "(I)I" } : Jvm.MethodName)) ∈ lw_all := lw_g (lw_at lw_m9 52 rfl) rfl
theorem q2093 : (Jvm.Cond.selects "GlassStreetModel" ({ cls := "GlassStreetModel", name := "dark", desc := "(I)I" } : Jvm.MethodName) ({ cls := "GlassStreetModel", name := "dark", desc := "(I)I" } : Jvm.MethodName)) ∈ lw_all := lw_g (lw_at lw_m9 53 rfl) rfl
theorem q2094 : (Jvm.Cond.code ({ cls := "GlassStreetModel", name := "dark", desc := "(I)I" } : Jvm.MethodName) prog_24_method_98_code (6 : Nat) (Option.some Jvm.ClassFile.FieldType.int)) ∈ lw_all := lw_g (lw_at lw_m9 54 rfl) rfl
theorem q2096 : (Jvm.Cond.instanceMethod ({ cls := "GlassStreetModel", name := "say", desc := "(IZ)Z" } : Jvm.MethodName)) ∈ lw_all := lw_g (lw_at lw_m9 56 rfl) rfl
theorem q2097 : (Jvm.Cond.selects "GlassStreetModel" ({ cls := "GlassStreetModel", name := "say", desc := "(IZ)Z" } : Jvm.MethodName) ({ cls := "GlassStreetModel", name := "say", desc := "(IZ)Z" } : Jvm.MethodName)) ∈ lw_all := lw_g (lw_at lw_m9 57 rfl) rfl
theorem q2098 : (Jvm.Cond.code ({ cls := "GlassStreetModel", name := "say", desc := "(IZ)Z" } : Jvm.MethodName) prog_24_method_99_code (3 : Nat) (Option.some Jvm.ClassFile.FieldType.boolean)) ∈ lw_all := lw_g (lw_at lw_m9 58 rfl) rfl
theorem q2100 : (Jvm.Cond.instanceMethod ({ cls := "GlassStreetModel", name := "where", desc := "()I" } : Jvm.MethodName)) ∈ lw_all := lw_g (lw_at lw_m9 60 rfl) rfl
theorem q2101 : (Jvm.Cond.selects "GlassStreetModel" ({ cls := "GlassStreetModel", name := "where", desc := "()I" } : Jvm.MethodName) ({ cls := "GlassStreetModel", name := "where", desc := "()I" } : Jvm.MethodName)) ∈ lw_all := lw_g (lw_at lw_m9 61 rfl) rfl
theorem q2102 : (Jvm.Cond.code ({ cls := "GlassStreetModel", name := "where", desc := "()I" } : Jvm.MethodName) prog_24_method_101_code (1 : Nat) (Option.some Jvm.ClassFile.FieldType.int)) ∈ lw_all := lw_g (lw_at lw_m9 62 rfl) rfl
theorem q2103 : (Jvm.Cond.methodLink "GlassStreetModel" (377 : Nat) ({ cls := "GlassStreetModel", name := "cellsNow", desc := "()I" } : Jvm.MethodName)) ∈ lw_all := lw_g (lw_at lw_m9 63 rfl) rfl
theorem q2104 : (Jvm.Cond.privateMethod ({ cls := "GlassStreetModel", name := "cellsNow", desc := "()I" } : Jvm.MethodName)) ∈ lw_tbl := lw_at lw_m9 64 rfl
theorem q2105 : (Jvm.Cond.instanceMethod ({ cls := "GlassStreetModel", name := "cellsNow", desc := "()I" } : Jvm.MethodName)) ∈ lw_all := lw_g (lw_at lw_m9 65 rfl) rfl
theorem q2106 : (Jvm.Cond.code ({ cls := "GlassStreetModel", name := "cellsNow", desc := "()I" } : Jvm.MethodName) prog_24_method_100_code (5 : Nat) (Option.some Jvm.ClassFile.FieldType.int)) ∈ lw_all := lw_g (lw_at lw_m9 66 rfl) rfl
theorem q2108 : (Jvm.Cond.instanceMethod ({ cls := "GlassStreetModel", name := "ask", desc := "()I" } : Jvm.MethodName)) ∈ lw_all := lw_g (lw_at lw_m9 68 rfl) rfl
theorem q2109 : (Jvm.Cond.selects "GlassStreetModel" ({ cls := "GlassStreetModel", name := "ask", desc := "()I" } : Jvm.MethodName) ({ cls := "GlassStreetModel", name := "ask", desc := "()I" } : Jvm.MethodName)) ∈ lw_all := lw_g (lw_at lw_m9 69 rfl) rfl
theorem q2110 : (Jvm.Cond.code ({ cls := "GlassStreetModel", name := "ask", desc := "()I" } : Jvm.MethodName) prog_24_method_102_code (8 : Nat) (Option.some Jvm.ClassFile.FieldType.int)) ∈ lw_all := lw_g (lw_at lw_m9 70 rfl) rfl
theorem q2112 : (Jvm.Cond.instanceMethod ({ cls := "GlassStreetModel", name := "glass", desc := "(I)I" } : Jvm.MethodName)) ∈ lw_all := lw_g (lw_at lw_m9 72 rfl) rfl
theorem q2113 : (Jvm.Cond.selects "GlassStreetModel" ({ cls := "GlassStreetModel", name := "glass", desc := "(I)I" } : Jvm.MethodName) ({ cls := "GlassStreetModel", name := "glass", desc := "(I)I" } : Jvm.MethodName)) ∈ lw_all := lw_g (lw_at lw_m9 73 rfl) rfl
theorem q2114 : (Jvm.Cond.code ({ cls := "GlassStreetModel", name := "glass", desc := "(I)I" } : Jvm.MethodName) prog_24_method_104_code (4 : Nat) (Option.some Jvm.ClassFile.FieldType.int)) ∈ lw_all := lw_g (lw_at lw_m9 74 rfl) rfl
theorem q2115 : (Jvm.Cond.methodLink "GlassStreetModel" (380 : Nat) ({ cls := "GlassStreetModel", name := "peopleIn", desc := "(II)I" } : Jvm.MethodName)) ∈ lw_all := lw_g (lw_at lw_m9 75 rfl) rfl
theorem q2116 : (Jvm.Cond.privateMethod ({ cls := "GlassStreetModel", name := "peopleIn", desc := "(II)I" } : Jvm.MethodName)) ∈ lw_tbl := lw_at lw_m9 76 rfl
theorem q2117 : (Jvm.Cond.instanceMethod ({ cls := "GlassStreetModel", name := "peopleIn", desc := "(II)I" } : Jvm.MethodName)) ∈ lw_all := lw_g (lw_at lw_m9 77 rfl) rfl
theorem q2118 : (Jvm.Cond.code ({ cls := "GlassStreetModel", name := "peopleIn", desc := "(II)I" } : Jvm.MethodName) prog_24_method_103_code (5 : Nat) (Option.some Jvm.ClassFile.FieldType.int)) ∈ lw_all := lw_g (lw_at lw_m9 78 rfl) rfl
theorem q2120 : (Jvm.Cond.instanceMethod ({ cls := "GlassStreetModel", name := "seen", desc := "(I)I" } : Jvm.MethodName)) ∈ lw_all := lw_g (lw_at lw_m9 80 rfl) rfl
theorem q2121 : (Jvm.Cond.selects "GlassStreetModel" ({ cls := "GlassStreetModel", name := "seen", desc := "(I)I" } : Jvm.MethodName) ({ cls := "GlassStreetModel", name := "seen", desc := "(I)I" } : Jvm.MethodName)) ∈ lw_all := lw_g (lw_at lw_m9 81 rfl) rfl
theorem q2122 : (Jvm.Cond.code ({ cls := "GlassStreetModel", name := "seen", desc := "(I)I" } : Jvm.MethodName) prog_24_method_105_code (2 : Nat) (Option.some Jvm.ClassFile.FieldType.int)) ∈ lw_all := lw_g (lw_at lw_m9 82 rfl) rfl
theorem q2124 : (Jvm.Cond.instanceMethod ({ cls := "GlassStreetModel", name := "eyes", desc := "()I" } : Jvm.MethodName)) ∈ lw_all := lw_g (lw_at lw_m9 84 rfl) rfl
theorem q2125 : (Jvm.Cond.selects "GlassStreetModel" ({ cls := "GlassStreetModel", name := "eyes", desc := "()I" } : Jvm.MethodName) ({ cls := "GlassStreetModel", name := "eyes", desc := "()I" } : Jvm.MethodName)) ∈ lw_all := lw_g (lw_at lw_m9 85 rfl) rfl
theorem q2126 : (Jvm.Cond.code ({ cls := "GlassStreetModel", name := "eyes", desc := "()I" } : Jvm.MethodName) prog_24_method_106_code (3 : Nat) (Option.some Jvm.ClassFile.FieldType.int)) ∈ lw_all := lw_g (lw_at lw_m9 86 rfl) rfl
theorem q2128 : (Jvm.Cond.instanceMethod ({ cls := "GlassStreetModel", name := "blind", desc := "()I" } : Jvm.MethodName)) ∈ lw_all := lw_g (lw_at lw_m9 88 rfl) rfl
theorem q2129 : (Jvm.Cond.selects "GlassStreetModel" ({ cls := "GlassStreetModel", name := "blind", desc := "()I" } : Jvm.MethodName) ({ cls := "GlassStreetModel", name := "blind", desc := "()I" } : Jvm.MethodName)) ∈ lw_all := lw_g (lw_at lw_m9 89 rfl) rfl
theorem q2130 : (Jvm.Cond.code ({ cls := "GlassStreetModel", name := "blind", desc := "()I" } : Jvm.MethodName) prog_24_method_107_code (3 : Nat) (Option.some Jvm.ClassFile.FieldType.int)) ∈ lw_all := lw_g (lw_at lw_m9 90 rfl) rfl
theorem q2132 : (Jvm.Cond.instanceMethod ({ cls := "GlassStreetModel", name := "twin", desc := "(II)I" } : Jvm.MethodName)) ∈ lw_all := lw_g (lw_at lw_m9 92 rfl) rfl
theorem q2133 : (Jvm.Cond.selects "GlassStreetModel" ({ cls := "GlassStreetModel", name := "twin", desc := "(II)I" } : Jvm.MethodName) ({ cls := "GlassStreetModel", name := "twin", desc := "(II)I" } : Jvm.MethodName)) ∈ lw_all := lw_g (lw_at lw_m9 93 rfl) rfl
theorem q2134 : (Jvm.Cond.code ({ cls := "GlassStreetModel", name := "twin", desc := "(II)I" } : Jvm.MethodName) prog_24_method_109_code (9 : Nat) (Option.some Jvm.ClassFile.FieldType.int)) ∈ lw_all := lw_g (lw_at lw_m9 94 rfl) rfl
theorem q2135 : (Jvm.Cond.methodLink "GlassStreetModel" (383 : Nat) ({ cls := "GlassStreetModel", name := "likeIn", desc := "(II)I" } : Jvm.MethodName)) ∈ lw_all := lw_g (lw_at lw_m9 95 rfl) rfl
theorem q2136 : (Jvm.Cond.privateMethod ({ cls := "GlassStreetModel", name := "likeIn", desc := "(II)I" } : Jvm.MethodName)) ∈ lw_tbl := lw_at lw_m9 96 rfl
theorem q2137 : (Jvm.Cond.instanceMethod ({ cls := "GlassStreetModel", name := "likeIn", desc := "(II)I" } : Jvm.MethodName)) ∈ lw_all := lw_g (lw_at lw_m9 97 rfl) rfl
theorem q2138 : (Jvm.Cond.code ({ cls := "GlassStreetModel", name := "likeIn", desc := "(II)I" } : Jvm.MethodName) prog_24_method_108_code (5 : Nat) (Option.some Jvm.ClassFile.FieldType.int)) ∈ lw_all := lw_g (lw_at lw_m9 98 rfl) rfl
theorem q2140 : (Jvm.Cond.instanceMethod ({ cls := "GlassStreetModel", name := "run", desc := "(I)I" } : Jvm.MethodName)) ∈ lw_all := lw_g (lw_at lw_m9 100 rfl) rfl
theorem q2141 : (Jvm.Cond.selects "GlassStreetModel" ({ cls := "GlassStreetModel", name := "run", desc := "(I)I" } : Jvm.MethodName) ({ cls := "GlassStreetModel", name := "run", desc := "(I)I" } : Jvm.MethodName)) ∈ lw_all := lw_g (lw_at lw_m9 101 rfl) rfl
theorem q2142 : (Jvm.Cond.code ({ cls := "GlassStreetModel", name := "run", desc := "(I)I" } : Jvm.MethodName) prog_24_method_110_code (3 : Nat) (Option.some Jvm.ClassFile.FieldType.int)) ∈ lw_all := lw_g (lw_at lw_m9 102 rfl) rfl
theorem q2144 : (Jvm.Cond.instanceMethod ({ cls := "GlassStreetModel", name := "rests", desc := "(IIII)I" } : Jvm.MethodName)) ∈ lw_all := lw_g (lw_at lw_m9 104 rfl) rfl
theorem q2145 : (Jvm.Cond.selects "GlassStreetModel" ({ cls := "GlassStreetModel", name := "rests", desc := "(IIII)I" } : Jvm.MethodName) ({ cls := "GlassStreetModel", name := "rests", desc := "(IIII)I" } : Jvm.MethodName)) ∈ lw_all := lw_g (lw_at lw_m9 105 rfl) rfl
theorem q2146 : (Jvm.Cond.code ({ cls := "GlassStreetModel", name := "rests", desc := "(IIII)I" } : Jvm.MethodName) prog_24_method_112_code (12 : Nat) (Option.some Jvm.ClassFile.FieldType.int)) ∈ lw_all := lw_g (lw_at lw_m9 106 rfl) rfl
theorem q2147 : (Jvm.Cond.methodLink "GlassStreetModel" (386 : Nat) ({ cls := "GlassStreetModel", name := "getsBy", desc := "(IIIII)I" } : Jvm.MethodName)) ∈ lw_all := lw_g (lw_at lw_m9 107 rfl) rfl
theorem q2148 : (Jvm.Cond.static ({ cls := "GlassStreetModel", name := "getsBy", desc := "(IIIII)I" } : Jvm.MethodName)) ∈ lw_all := lw_g (lw_at lw_m9 108 rfl) rfl
theorem q2149 : (Jvm.Cond.code ({ cls := "GlassStreetModel", name := "getsBy", desc := "(IIIII)I" } : Jvm.MethodName) prog_24_method_111_code (5 : Nat) (Option.some Jvm.ClassFile.FieldType.int)) ∈ lw_all := lw_g (lw_at lw_m9 109 rfl) rfl
theorem q2151 : (Jvm.Cond.instanceMethod ({ cls := "GlassStreetModel", name := "years", desc := "(III)I" } : Jvm.MethodName)) ∈ lw_all := lw_g (lw_at lw_m9 111 rfl) rfl
theorem q2152 : (Jvm.Cond.selects "GlassStreetModel" ({ cls := "GlassStreetModel", name := "years", desc := "(III)I" } : Jvm.MethodName) ({ cls := "GlassStreetModel", name := "years", desc := "(III)I" } : Jvm.MethodName)) ∈ lw_all := lw_g (lw_at lw_m9 112 rfl) rfl
theorem q2153 : (Jvm.Cond.code ({ cls := "GlassStreetModel", name := "years", desc := "(III)I" } : Jvm.MethodName) prog_24_method_115_code (6 : Nat) (Option.some Jvm.ClassFile.FieldType.int)) ∈ lw_all := lw_g (lw_at lw_m9 113 rfl) rfl
theorem q2154 : (Jvm.Cond.methodLink "GlassStreetModel" (411 : Nat) ({ cls := "GlassStreetModel", name := "drawsPerson", desc := "(I)V" } : Jvm.MethodName)) ∈ lw_all := lw_g (lw_at lw_m9 114 rfl) rfl
theorem q2155 : (Jvm.Cond.privateMethod ({ cls := "GlassStreetModel", name := "drawsPerson", desc := "(I)V" } : Jvm.MethodName)) ∈ lw_tbl := lw_at lw_m9 115 rfl
theorem q2156 : (Jvm.Cond.instanceMethod ({ cls := "GlassStreetModel", name := "drawsPerson", desc := "(I)V" } : Jvm.MethodName)) ∈ lw_all := lw_g (lw_at lw_m9 116 rfl) rfl
theorem q2157 : (Jvm.Cond.code ({ cls := "GlassStreetModel", name := "drawsPerson", desc := "(I)V" } : Jvm.MethodName) prog_24_method_114_code (5 : Nat) (Option.none : Option Jvm.ClassFile.FieldType)) ∈ lw_all := lw_g (lw_at lw_m9 117 rfl) rfl
theorem q2158 : (Jvm.Cond.methodLink "GlassStreetModel" (402 : Nat) ({ cls := "GlassStreetModel", name := "draw", desc := "(I)I" } : Jvm.MethodName)) ∈ lw_all := lw_g (lw_at lw_m9 118 rfl) rfl
theorem q2159 : (Jvm.Cond.privateMethod ({ cls := "GlassStreetModel", name := "draw", desc := "(I)I" } : Jvm.MethodName)) ∈ lw_tbl := lw_at lw_m9 119 rfl
theorem q2160 : (Jvm.Cond.instanceMethod ({ cls := "GlassStreetModel", name := "draw", desc := "(I)I" } : Jvm.MethodName)) ∈ lw_all := lw_g (lw_at lw_m9 120 rfl) rfl
theorem q2161 : (Jvm.Cond.code ({ cls := "GlassStreetModel", name := "draw", desc := "(I)I" } : Jvm.MethodName) prog_24_method_113_code (2 : Nat) (Option.some Jvm.ClassFile.FieldType.int)) ∈ lw_all := lw_g (lw_at lw_m9 121 rfl) rfl
theorem q2162 : (Jvm.Cond.constantLong "GlassStreetModel" (394 : Nat) (1103515245 : Int64)) ∈ lw_all := lw_g (lw_at lw_m9 122 rfl) rfl
theorem q2163 : (Jvm.Cond.constantLong "GlassStreetModel" (396 : Nat) (12345 : Int64)) ∈ lw_all := lw_g (lw_at lw_m9 123 rfl) rfl
theorem q2164 : (Jvm.Cond.constantLong "GlassStreetModel" (398 : Nat) (2147483648 : Int64)) ∈ lw_all := lw_g (lw_at lw_m9 124 rfl) rfl
theorem q2165 : (Jvm.Cond.constantLong "GlassStreetModel" (400 : Nat) (65536 : Int64)) ∈ lw_all := lw_g (lw_at lw_m9 125 rfl) rfl
theorem q2167 : (Jvm.Cond.instanceMethod ({ cls := "GlassStreetModel", name := "notch", desc := "(IZ)Z" } : Jvm.MethodName)) ∈ lw_all := lw_g (lw_at lw_m9 127 rfl) rfl
theorem q2168 : (Jvm.Cond.selects "GlassStreetModel" ({ cls := "GlassStreetModel", name := "notch", desc := "(IZ)Z" } : Jvm.MethodName) ({ cls := "GlassStreetModel", name := "notch", desc := "(IZ)Z" } : Jvm.MethodName)) ∈ lw_all := lw_g (lw_at lw_m9 128 rfl) rfl
theorem q2169 : (Jvm.Cond.code ({ cls := "GlassStreetModel", name := "notch", desc := "(IZ)Z" } : Jvm.MethodName) prog_24_method_116_code (3 : Nat) (Option.some Jvm.ClassFile.FieldType.boolean)) ∈ lw_all := lw_g (lw_at lw_m9 129 rfl) rfl
theorem q2171 : (Jvm.Cond.instanceMethod ({ cls := "GlassStreetModel", name := "count", desc := "(I)I" } : Jvm.MethodName)) ∈ lw_all := lw_g (lw_at lw_m9 131 rfl) rfl
theorem q2172 : (Jvm.Cond.selects "GlassStreetModel" ({ cls := "GlassStreetModel", name := "count", desc := "(I)I" } : Jvm.MethodName) ({ cls := "GlassStreetModel", name := "count", desc := "(I)I" } : Jvm.MethodName)) ∈ lw_all := lw_g (lw_at lw_m9 132 rfl) rfl
theorem q2173 : (Jvm.Cond.code ({ cls := "GlassStreetModel", name := "count", desc := "(I)I" } : Jvm.MethodName) prog_24_method_119_code (2 : Nat) (Option.some Jvm.ClassFile.FieldType.int)) ∈ lw_all := lw_g (lw_at lw_m9 133 rfl) rfl
theorem q2174 : (Jvm.Cond.methodLink "GlassStreetModel" (414 : Nat) ({ cls := "GlassStreetModel", name := "marksMany", desc := "()I" } : Jvm.MethodName)) ∈ lw_all := lw_g (lw_at lw_m9 134 rfl) rfl
theorem q2175 : (Jvm.Cond.privateMethod ({ cls := "GlassStreetModel", name := "marksMany", desc := "()I" } : Jvm.MethodName)) ∈ lw_tbl := lw_at lw_m9 135 rfl
theorem q2176 : (Jvm.Cond.instanceMethod ({ cls := "GlassStreetModel", name := "marksMany", desc := "()I" } : Jvm.MethodName)) ∈ lw_all := lw_g (lw_at lw_m9 136 rfl) rfl
theorem q2177 : (Jvm.Cond.code ({ cls := "GlassStreetModel", name := "marksMany", desc := "()I" } : Jvm.MethodName) prog_24_method_118_code (3 : Nat) (Option.some Jvm.ClassFile.FieldType.int)) ∈ lw_all := lw_g (lw_at lw_m9 137 rfl) rfl
theorem q2178 : (Jvm.Cond.methodLink "GlassStreetModel" (417 : Nat) ({ cls := "GlassStreetModel", name := "bitsOf", desc := "(II)I" } : Jvm.MethodName)) ∈ lw_all := lw_g (lw_at lw_m9 138 rfl) rfl
theorem q2179 : (Jvm.Cond.privateMethod ({ cls := "GlassStreetModel", name := "bitsOf", desc := "(II)I" } : Jvm.MethodName)) ∈ lw_tbl := lw_at lw_m9 139 rfl
theorem q2180 : (Jvm.Cond.instanceMethod ({ cls := "GlassStreetModel", name := "bitsOf", desc := "(II)I" } : Jvm.MethodName)) ∈ lw_all := lw_g (lw_at lw_m9 140 rfl) rfl
theorem q2181 : (Jvm.Cond.code ({ cls := "GlassStreetModel", name := "bitsOf", desc := "(II)I" } : Jvm.MethodName) prog_24_method_117_code (5 : Nat) (Option.some Jvm.ClassFile.FieldType.int)) ∈ lw_all := lw_g (lw_at lw_m9 141 rfl) rfl
theorem q2204 : (Jvm.Cond.castable "GlassStreetModel" "java/lang/Object") ∈ lw_tbl := lw_at lw_m9 164 rfl
theorem in_X6 : ∀ w ∈ wsX60, w ∈ lw_all := lw_in wsX60 [1678, 1680, 1682, 1684, 1686, 1688, 1690, 1692, 1694, 1696, 1698, 1700, 1702, 1704, 1706, 1708, 1710, 1712, 1714, 1716, 1718, 1720, 1722, 1724, 1726, 1728, 1730, 1732, 1734, 1736, 1738] (by decide +kernel) (by decide +kernel)
