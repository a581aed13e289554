/-! GlassStreet$Reader -/
set_option maxRecDepth 100000
def RX2 : String := "GlassStreet$Reader"
def TX2 : u_T := fun k => match k with
  | 0 => ("GlassStreet$Reader", "text", "[B", false)
  | 1 => ("GlassStreet$Reader", "size", "I", false)
  | 2 => ("GlassStreet$Reader", "to", "I", false)
  | 3 => ("GlassStreet$Reader", "kind", "I", false)
  | 4 => ("GlassStreet$Reader", "from", "I", false)
  | 5 => ("GlassStreet$Reader", "value", "I", false)
  | 6 => ("GlassStreet$Reader", "within", "I", false)
  | _ => ("GlassStreet$Reader", "houses", "LGlassStreet$Houses;", false)
def tyX2 : Nat → FieldType := fun k => match k with
  | 0 => .array .byte
  | 1 => .int
  | 2 => .int
  | 3 => .int
  | 4 => .int
  | 5 => .int
  | 6 => .int
  | _ => .object "GlassStreet$Houses"
abbrev wsX20 : List Cond := u_ws RX2 TX2 8
theorem nmX2 : ∀ a, a < 8 → ∀ b, b < 8 → a ≠ b → (TX2 a).2.1 ≠ (TX2 b).2.1 := by decide +kernel
theorem tyX2_ok : ∀ k, k < 8 → parseFieldDescriptor (TX2 k).2.2.1 = some (tyX2 k) := by decide +kernel
abbrev cX2_init : ByteArray := prog_16_method_1_code
def yX2_init : MethodName := ⟨RX2, "<init>", "()V"⟩
theorem dX2_init_0 : decode cX2_init 0 = .ok (.aload_n 0, 1) := by decide +kernel
theorem dX2_init_1 : decode cX2_init 1 = .ok (.invokespecial 3, 3) := by decide +kernel
theorem dX2_init_4 : decode cX2_init 4 = .ok (.return_, 1) := by decide +kernel
abbrev cX2_begin : ByteArray := prog_16_method_2_code
def yX2_begin : MethodName := ⟨RX2, "begin", "([BI)V"⟩
def dkwX2_begin_1 : List UInt8 := [177]
abbrev dktX2_begin_1 : List UInt8 := dkwX2_begin_1 ++ []
def dkwX2_begin_0 : List UInt8 := [42, 43, 181, 0, 9, 42, 28, 181, 0, 15, 42, 3, 181, 0, 19, 42, 3, 181, 0, 22, 42, 182, 0, 25]
abbrev dktX2_begin_0 : List UInt8 := dkwX2_begin_0 ++ dktX2_begin_1
theorem dksX2_begin_0 : cX2_begin.data.toList.drop 0 = dktX2_begin_0 := by decide +kernel
theorem dksX2_begin_1 : cX2_begin.data.toList.drop 24 = dktX2_begin_1 := dk_seg dksX2_begin_0 24 rfl rfl
theorem dX2_begin_0 : decode cX2_begin 0 = .ok (.aload_n 0, 1) := dk_42 (dk_at dksX2_begin_0 0 rfl rfl)
theorem dX2_begin_1 : decode cX2_begin 1 = .ok (.aload_n 1, 1) := dk_43 (dk_at dksX2_begin_0 1 rfl rfl)
theorem dX2_begin_2 : decode cX2_begin 2 = .ok (.putfield 9, 3) := dk_181 0 9 (dk_at dksX2_begin_0 2 rfl rfl)
theorem dX2_begin_5 : decode cX2_begin 5 = .ok (.aload_n 0, 1) := dk_42 (dk_at dksX2_begin_0 5 rfl rfl)
theorem dX2_begin_6 : decode cX2_begin 6 = .ok (.iload_n 2, 1) := dk_28 (dk_at dksX2_begin_0 6 rfl rfl)
theorem dX2_begin_7 : decode cX2_begin 7 = .ok (.putfield 15, 3) := dk_181 0 15 (dk_at dksX2_begin_0 7 rfl rfl)
theorem dX2_begin_10 : decode cX2_begin 10 = .ok (.aload_n 0, 1) := dk_42 (dk_at dksX2_begin_0 10 rfl rfl)
theorem dX2_begin_11 : decode cX2_begin 11 = .ok (.iconst 0, 1) := dk_3 (dk_at dksX2_begin_0 11 rfl rfl)
theorem dX2_begin_12 : decode cX2_begin 12 = .ok (.putfield 19, 3) := dk_181 0 19 (dk_at dksX2_begin_0 12 rfl rfl)
theorem dX2_begin_15 : decode cX2_begin 15 = .ok (.aload_n 0, 1) := dk_42 (dk_at dksX2_begin_0 15 rfl rfl)
theorem dX2_begin_16 : decode cX2_begin 16 = .ok (.iconst 0, 1) := dk_3 (dk_at dksX2_begin_0 16 rfl rfl)
theorem dX2_begin_17 : decode cX2_begin 17 = .ok (.putfield 22, 3) := dk_181 0 22 (dk_at dksX2_begin_0 17 rfl rfl)
theorem dX2_begin_20 : decode cX2_begin 20 = .ok (.aload_n 0, 1) := dk_42 (dk_at dksX2_begin_0 20 rfl rfl)
theorem dX2_begin_21 : decode cX2_begin 21 = .ok (.invokevirtual 25, 3) := dk_182 0 25 (dk_at dksX2_begin_0 21 rfl rfl)
theorem dX2_begin_24 : decode cX2_begin 24 = .ok (.return_, 1) := dk_177 (dk_at dksX2_begin_1 0 rfl rfl)
abbrev cX2_next : ByteArray := prog_16_method_6_code
def yX2_next : MethodName := ⟨RX2, "next", "()V"⟩
def dkwX2_next_12 : List UInt8 := [6, 167, 0, 4, 7, 181, 0, 31, 42, 89, 180, 0, 19, 4, 96, 181, 0, 19, 177]
abbrev dktX2_next_12 : List UInt8 := dkwX2_next_12 ++ []
def dkwX2_next_11 : List UInt8 := [181, 0, 31, 167, 0, 39, 42, 18, 48, 42, 42, 180, 0, 19, 182, 0, 34, 146, 182, 0, 50, 155, 0, 7]
abbrev dktX2_next_11 : List UInt8 := dkwX2_next_11 ++ dktX2_next_12
def dkwX2_next_10 : List UInt8 := [167, 255, 189, 42, 42, 180, 0, 19, 42, 180, 0, 28, 100, 7, 164, 0, 7, 7, 167, 0, 4, 5]
abbrev dktX2_next_10 : List UInt8 := dkwX2_next_10 ++ dktX2_next_11
def dkwX2_next_9 : List UInt8 := [96, 16, 48, 100, 167, 0, 7, 42, 180, 0, 45, 181, 0, 45, 42, 89, 180, 0, 19, 4, 96, 181, 0, 19]
abbrev dktX2_next_9 : List UInt8 := dkwX2_next_9 ++ dktX2_next_10
def dkwX2_next_8 : List UInt8 := [42, 180, 0, 28, 100, 7, 162, 0, 25, 16, 10, 42, 180, 0, 45, 104, 42, 42, 180, 0, 19, 182, 0, 34]
abbrev dktX2_next_8 : List UInt8 := dkwX2_next_8 ++ dktX2_next_9
def dkwX2_next_7 : List UInt8 := [42, 3, 181, 0, 45, 42, 42, 180, 0, 19, 182, 0, 34, 184, 0, 42, 153, 0, 59, 42, 42, 180, 0, 19]
abbrev dktX2_next_7 : List UInt8 := dkwX2_next_7 ++ dktX2_next_8
def dkwX2_next_6 : List UInt8 := [167, 0, 4, 4, 181, 0, 31, 167, 0, 153, 42, 42, 180, 0, 19, 182, 0, 34, 184, 0, 42, 153, 0, 103]
abbrev dktX2_next_6 : List UInt8 := dkwX2_next_6 ++ dktX2_next_7
def dkwX2_next_5 : List UInt8 := [181, 0, 19, 167, 255, 232, 42, 42, 180, 0, 19, 42, 180, 0, 28, 100, 16, 8, 164, 0, 7, 7]
abbrev dktX2_next_5 : List UInt8 := dkwX2_next_5 ++ dktX2_next_6
def dkwX2_next_4 : List UInt8 := [153, 0, 56, 42, 42, 180, 0, 19, 182, 0, 34, 184, 0, 38, 153, 0, 16, 42, 89, 180, 0, 19, 4, 96]
abbrev dktX2_next_4 : List UInt8 := dkwX2_next_4 ++ dktX2_next_5
def dkwX2_next_3 : List UInt8 := [160, 0, 11, 42, 3, 181, 0, 31, 167, 0, 220, 42, 42, 180, 0, 19, 182, 0, 34, 184, 0, 38]
abbrev dktX2_next_3 : List UInt8 := dkwX2_next_3 ++ dktX2_next_4
def dkwX2_next_2 : List UInt8 := [181, 0, 19, 167, 255, 207, 42, 42, 180, 0, 19, 181, 0, 28, 42, 180, 0, 19, 42, 180, 0, 15]
abbrev dktX2_next_2 : List UInt8 := dkwX2_next_2 ++ dktX2_next_3
def dkwX2_next_1 : List UInt8 := [159, 0, 17, 42, 180, 0, 9, 42, 180, 0, 19, 51, 16, 32, 160, 0, 16, 42, 89, 180, 0, 19, 4, 96]
abbrev dktX2_next_1 : List UInt8 := dkwX2_next_1 ++ dktX2_next_2
def dkwX2_next_0 : List UInt8 := [42, 180, 0, 19, 42, 180, 0, 15, 162, 0, 44, 42, 180, 0, 9, 42, 180, 0, 19, 51, 16, 10]
abbrev dktX2_next_0 : List UInt8 := dkwX2_next_0 ++ dktX2_next_1
theorem dksX2_next_0 : cX2_next.data.toList.drop 0 = dktX2_next_0 := by decide +kernel
theorem dksX2_next_1 : cX2_next.data.toList.drop 22 = dktX2_next_1 := dk_seg dksX2_next_0 22 rfl rfl
theorem dksX2_next_2 : cX2_next.data.toList.drop 46 = dktX2_next_2 := dk_seg dksX2_next_1 24 rfl rfl
theorem dksX2_next_3 : cX2_next.data.toList.drop 68 = dktX2_next_3 := dk_seg dksX2_next_2 22 rfl rfl
theorem dksX2_next_4 : cX2_next.data.toList.drop 90 = dktX2_next_4 := dk_seg dksX2_next_3 22 rfl rfl
theorem dksX2_next_5 : cX2_next.data.toList.drop 114 = dktX2_next_5 := dk_seg dksX2_next_4 24 rfl rfl
theorem dksX2_next_6 : cX2_next.data.toList.drop 136 = dktX2_next_6 := dk_seg dksX2_next_5 22 rfl rfl
theorem dksX2_next_7 : cX2_next.data.toList.drop 160 = dktX2_next_7 := dk_seg dksX2_next_6 24 rfl rfl
theorem dksX2_next_8 : cX2_next.data.toList.drop 184 = dktX2_next_8 := dk_seg dksX2_next_7 24 rfl rfl
theorem dksX2_next_9 : cX2_next.data.toList.drop 208 = dktX2_next_9 := dk_seg dksX2_next_8 24 rfl rfl
theorem dksX2_next_10 : cX2_next.data.toList.drop 232 = dktX2_next_10 := dk_seg dksX2_next_9 24 rfl rfl
theorem dksX2_next_11 : cX2_next.data.toList.drop 254 = dktX2_next_11 := dk_seg dksX2_next_10 22 rfl rfl
theorem dksX2_next_12 : cX2_next.data.toList.drop 278 = dktX2_next_12 := dk_seg dksX2_next_11 24 rfl rfl
theorem dX2_next_0 : decode cX2_next 0 = .ok (.aload_n 0, 1) := dk_42 (dk_at dksX2_next_0 0 rfl rfl)
theorem dX2_next_1 : decode cX2_next 1 = .ok (.getfield 19, 3) := dk_180 0 19 (dk_at dksX2_next_0 1 rfl rfl)
theorem dX2_next_4 : decode cX2_next 4 = .ok (.aload_n 0, 1) := dk_42 (dk_at dksX2_next_0 4 rfl rfl)
theorem dX2_next_5 : decode cX2_next 5 = .ok (.getfield 15, 3) := dk_180 0 15 (dk_at dksX2_next_0 5 rfl rfl)
theorem dX2_next_8 : decode cX2_next 8 = .ok (.if_icmp .ge 44, 3) := dk_162 0 44 (dk_at dksX2_next_0 8 rfl rfl)
theorem dX2_next_11 : decode cX2_next 11 = .ok (.aload_n 0, 1) := dk_42 (dk_at dksX2_next_0 11 rfl rfl)
theorem dX2_next_12 : decode cX2_next 12 = .ok (.getfield 9, 3) := dk_180 0 9 (dk_at dksX2_next_0 12 rfl rfl)
theorem dX2_next_15 : decode cX2_next 15 = .ok (.aload_n 0, 1) := dk_42 (dk_at dksX2_next_0 15 rfl rfl)
theorem dX2_next_16 : decode cX2_next 16 = .ok (.getfield 19, 3) := dk_180 0 19 (dk_at dksX2_next_0 16 rfl rfl)
theorem dX2_next_19 : decode cX2_next 19 = .ok (.baload, 1) := dk_51 (dk_at dksX2_next_0 19 rfl rfl)
theorem dX2_next_20 : decode cX2_next 20 = .ok (.bipush 10, 2) := dk_16 10 (dk_at dksX2_next_0 20 rfl rfl)
theorem dX2_next_22 : decode cX2_next 22 = .ok (.if_icmp .eq 17, 3) := dk_159 0 17 (dk_at dksX2_next_1 0 rfl rfl)
theorem dX2_next_25 : decode cX2_next 25 = .ok (.aload_n 0, 1) := dk_42 (dk_at dksX2_next_1 3 rfl rfl)
theorem dX2_next_26 : decode cX2_next 26 = .ok (.getfield 9, 3) := dk_180 0 9 (dk_at dksX2_next_1 4 rfl rfl)
theorem dX2_next_29 : decode cX2_next 29 = .ok (.aload_n 0, 1) := dk_42 (dk_at dksX2_next_1 7 rfl rfl)
theorem dX2_next_30 : decode cX2_next 30 = .ok (.getfield 19, 3) := dk_180 0 19 (dk_at dksX2_next_1 8 rfl rfl)
theorem dX2_next_33 : decode cX2_next 33 = .ok (.baload, 1) := dk_51 (dk_at dksX2_next_1 11 rfl rfl)
theorem dX2_next_34 : decode cX2_next 34 = .ok (.bipush 32, 2) := dk_16 32 (dk_at dksX2_next_1 12 rfl rfl)
theorem dX2_next_36 : decode cX2_next 36 = .ok (.if_icmp .ne 16, 3) := dk_160 0 16 (dk_at dksX2_next_1 14 rfl rfl)
theorem dX2_next_39 : decode cX2_next 39 = .ok (.aload_n 0, 1) := dk_42 (dk_at dksX2_next_1 17 rfl rfl)
theorem dX2_next_40 : decode cX2_next 40 = .ok (.dup, 1) := dk_89 (dk_at dksX2_next_1 18 rfl rfl)
theorem dX2_next_41 : decode cX2_next 41 = .ok (.getfield 19, 3) := dk_180 0 19 (dk_at dksX2_next_1 19 rfl rfl)
theorem dX2_next_44 : decode cX2_next 44 = .ok (.iconst 1, 1) := dk_4 (dk_at dksX2_next_1 22 rfl rfl)
theorem dX2_next_45 : decode cX2_next 45 = .ok (.iadd, 1) := dk_96 (dk_at dksX2_next_1 23 rfl rfl)
theorem dX2_next_46 : decode cX2_next 46 = .ok (.putfield 19, 3) := dk_181 0 19 (dk_at dksX2_next_2 0 rfl rfl)
theorem dX2_next_49 : decode cX2_next 49 = .ok (.goto (-49), 3) := dk_167 255 207 (dk_at dksX2_next_2 3 rfl rfl)
theorem dX2_next_52 : decode cX2_next 52 = .ok (.aload_n 0, 1) := dk_42 (dk_at dksX2_next_2 6 rfl rfl)
theorem dX2_next_53 : decode cX2_next 53 = .ok (.aload_n 0, 1) := dk_42 (dk_at dksX2_next_2 7 rfl rfl)
theorem dX2_next_54 : decode cX2_next 54 = .ok (.getfield 19, 3) := dk_180 0 19 (dk_at dksX2_next_2 8 rfl rfl)
theorem dX2_next_57 : decode cX2_next 57 = .ok (.putfield 28, 3) := dk_181 0 28 (dk_at dksX2_next_2 11 rfl rfl)
theorem dX2_next_60 : decode cX2_next 60 = .ok (.aload_n 0, 1) := dk_42 (dk_at dksX2_next_2 14 rfl rfl)
theorem dX2_next_61 : decode cX2_next 61 = .ok (.getfield 19, 3) := dk_180 0 19 (dk_at dksX2_next_2 15 rfl rfl)
theorem dX2_next_64 : decode cX2_next 64 = .ok (.aload_n 0, 1) := dk_42 (dk_at dksX2_next_2 18 rfl rfl)
theorem dX2_next_65 : decode cX2_next 65 = .ok (.getfield 15, 3) := dk_180 0 15 (dk_at dksX2_next_2 19 rfl rfl)
theorem dX2_next_68 : decode cX2_next 68 = .ok (.if_icmp .ne 11, 3) := dk_160 0 11 (dk_at dksX2_next_3 0 rfl rfl)
theorem dX2_next_71 : decode cX2_next 71 = .ok (.aload_n 0, 1) := dk_42 (dk_at dksX2_next_3 3 rfl rfl)
theorem dX2_next_72 : decode cX2_next 72 = .ok (.iconst 0, 1) := dk_3 (dk_at dksX2_next_3 4 rfl rfl)
theorem dX2_next_73 : decode cX2_next 73 = .ok (.putfield 31, 3) := dk_181 0 31 (dk_at dksX2_next_3 5 rfl rfl)
theorem dX2_next_76 : decode cX2_next 76 = .ok (.goto 220, 3) := dk_167 0 220 (dk_at dksX2_next_3 8 rfl rfl)
theorem dX2_next_79 : decode cX2_next 79 = .ok (.aload_n 0, 1) := dk_42 (dk_at dksX2_next_3 11 rfl rfl)
theorem dX2_next_80 : decode cX2_next 80 = .ok (.aload_n 0, 1) := dk_42 (dk_at dksX2_next_3 12 rfl rfl)
theorem dX2_next_81 : decode cX2_next 81 = .ok (.getfield 19, 3) := dk_180 0 19 (dk_at dksX2_next_3 13 rfl rfl)
theorem dX2_next_84 : decode cX2_next 84 = .ok (.invokevirtual 34, 3) := dk_182 0 34 (dk_at dksX2_next_3 16 rfl rfl)
theorem dX2_next_87 : decode cX2_next 87 = .ok (.invokestatic 38, 3) := dk_184 0 38 (dk_at dksX2_next_3 19 rfl rfl)
theorem dX2_next_90 : decode cX2_next 90 = .ok (.ifCond .eq 56, 3) := dk_153 0 56 (dk_at dksX2_next_4 0 rfl rfl)
theorem dX2_next_93 : decode cX2_next 93 = .ok (.aload_n 0, 1) := dk_42 (dk_at dksX2_next_4 3 rfl rfl)
theorem dX2_next_94 : decode cX2_next 94 = .ok (.aload_n 0, 1) := dk_42 (dk_at dksX2_next_4 4 rfl rfl)
theorem dX2_next_95 : decode cX2_next 95 = .ok (.getfield 19, 3) := dk_180 0 19 (dk_at dksX2_next_4 5 rfl rfl)
theorem dX2_next_98 : decode cX2_next 98 = .ok (.invokevirtual 34, 3) := dk_182 0 34 (dk_at dksX2_next_4 8 rfl rfl)
theorem dX2_next_101 : decode cX2_next 101 = .ok (.invokestatic 38, 3) := dk_184 0 38 (dk_at dksX2_next_4 11 rfl rfl)
theorem dX2_next_104 : decode cX2_next 104 = .ok (.ifCond .eq 16, 3) := dk_153 0 16 (dk_at dksX2_next_4 14 rfl rfl)
theorem dX2_next_107 : decode cX2_next 107 = .ok (.aload_n 0, 1) := dk_42 (dk_at dksX2_next_4 17 rfl rfl)
theorem dX2_next_108 : decode cX2_next 108 = .ok (.dup, 1) := dk_89 (dk_at dksX2_next_4 18 rfl rfl)
theorem dX2_next_109 : decode cX2_next 109 = .ok (.getfield 19, 3) := dk_180 0 19 (dk_at dksX2_next_4 19 rfl rfl)
theorem dX2_next_112 : decode cX2_next 112 = .ok (.iconst 1, 1) := dk_4 (dk_at dksX2_next_4 22 rfl rfl)
theorem dX2_next_113 : decode cX2_next 113 = .ok (.iadd, 1) := dk_96 (dk_at dksX2_next_4 23 rfl rfl)
theorem dX2_next_114 : decode cX2_next 114 = .ok (.putfield 19, 3) := dk_181 0 19 (dk_at dksX2_next_5 0 rfl rfl)
theorem dX2_next_117 : decode cX2_next 117 = .ok (.goto (-24), 3) := dk_167 255 232 (dk_at dksX2_next_5 3 rfl rfl)
theorem dX2_next_120 : decode cX2_next 120 = .ok (.aload_n 0, 1) := dk_42 (dk_at dksX2_next_5 6 rfl rfl)
theorem dX2_next_121 : decode cX2_next 121 = .ok (.aload_n 0, 1) := dk_42 (dk_at dksX2_next_5 7 rfl rfl)
theorem dX2_next_122 : decode cX2_next 122 = .ok (.getfield 19, 3) := dk_180 0 19 (dk_at dksX2_next_5 8 rfl rfl)
theorem dX2_next_125 : decode cX2_next 125 = .ok (.aload_n 0, 1) := dk_42 (dk_at dksX2_next_5 11 rfl rfl)
theorem dX2_next_126 : decode cX2_next 126 = .ok (.getfield 28, 3) := dk_180 0 28 (dk_at dksX2_next_5 12 rfl rfl)
theorem dX2_next_129 : decode cX2_next 129 = .ok (.isub, 1) := dk_100 (dk_at dksX2_next_5 15 rfl rfl)
theorem dX2_next_130 : decode cX2_next 130 = .ok (.bipush 8, 2) := dk_16 8 (dk_at dksX2_next_5 16 rfl rfl)
theorem dX2_next_132 : decode cX2_next 132 = .ok (.if_icmp .le 7, 3) := dk_164 0 7 (dk_at dksX2_next_5 18 rfl rfl)
theorem dX2_next_135 : decode cX2_next 135 = .ok (.iconst 4, 1) := dk_7 (dk_at dksX2_next_5 21 rfl rfl)
theorem dX2_next_136 : decode cX2_next 136 = .ok (.goto 4, 3) := dk_167 0 4 (dk_at dksX2_next_6 0 rfl rfl)
theorem dX2_next_139 : decode cX2_next 139 = .ok (.iconst 1, 1) := dk_4 (dk_at dksX2_next_6 3 rfl rfl)
theorem dX2_next_140 : decode cX2_next 140 = .ok (.putfield 31, 3) := dk_181 0 31 (dk_at dksX2_next_6 4 rfl rfl)
theorem dX2_next_143 : decode cX2_next 143 = .ok (.goto 153, 3) := dk_167 0 153 (dk_at dksX2_next_6 7 rfl rfl)
theorem dX2_next_146 : decode cX2_next 146 = .ok (.aload_n 0, 1) := dk_42 (dk_at dksX2_next_6 10 rfl rfl)
theorem dX2_next_147 : decode cX2_next 147 = .ok (.aload_n 0, 1) := dk_42 (dk_at dksX2_next_6 11 rfl rfl)
theorem dX2_next_148 : decode cX2_next 148 = .ok (.getfield 19, 3) := dk_180 0 19 (dk_at dksX2_next_6 12 rfl rfl)
theorem dX2_next_151 : decode cX2_next 151 = .ok (.invokevirtual 34, 3) := dk_182 0 34 (dk_at dksX2_next_6 15 rfl rfl)
theorem dX2_next_154 : decode cX2_next 154 = .ok (.invokestatic 42, 3) := dk_184 0 42 (dk_at dksX2_next_6 18 rfl rfl)
theorem dX2_next_157 : decode cX2_next 157 = .ok (.ifCond .eq 103, 3) := dk_153 0 103 (dk_at dksX2_next_6 21 rfl rfl)
theorem dX2_next_160 : decode cX2_next 160 = .ok (.aload_n 0, 1) := dk_42 (dk_at dksX2_next_7 0 rfl rfl)
theorem dX2_next_161 : decode cX2_next 161 = .ok (.iconst 0, 1) := dk_3 (dk_at dksX2_next_7 1 rfl rfl)
theorem dX2_next_162 : decode cX2_next 162 = .ok (.putfield 45, 3) := dk_181 0 45 (dk_at dksX2_next_7 2 rfl rfl)
theorem dX2_next_165 : decode cX2_next 165 = .ok (.aload_n 0, 1) := dk_42 (dk_at dksX2_next_7 5 rfl rfl)
theorem dX2_next_166 : decode cX2_next 166 = .ok (.aload_n 0, 1) := dk_42 (dk_at dksX2_next_7 6 rfl rfl)
theorem dX2_next_167 : decode cX2_next 167 = .ok (.getfield 19, 3) := dk_180 0 19 (dk_at dksX2_next_7 7 rfl rfl)
theorem dX2_next_170 : decode cX2_next 170 = .ok (.invokevirtual 34, 3) := dk_182 0 34 (dk_at dksX2_next_7 10 rfl rfl)
theorem dX2_next_173 : decode cX2_next 173 = .ok (.invokestatic 42, 3) := dk_184 0 42 (dk_at dksX2_next_7 13 rfl rfl)
theorem dX2_next_176 : decode cX2_next 176 = .ok (.ifCond .eq 59, 3) := dk_153 0 59 (dk_at dksX2_next_7 16 rfl rfl)
theorem dX2_next_179 : decode cX2_next 179 = .ok (.aload_n 0, 1) := dk_42 (dk_at dksX2_next_7 19 rfl rfl)
theorem dX2_next_180 : decode cX2_next 180 = .ok (.aload_n 0, 1) := dk_42 (dk_at dksX2_next_7 20 rfl rfl)
theorem dX2_next_181 : decode cX2_next 181 = .ok (.getfield 19, 3) := dk_180 0 19 (dk_at dksX2_next_7 21 rfl rfl)
theorem dX2_next_184 : decode cX2_next 184 = .ok (.aload_n 0, 1) := dk_42 (dk_at dksX2_next_8 0 rfl rfl)
theorem dX2_next_185 : decode cX2_next 185 = .ok (.getfield 28, 3) := dk_180 0 28 (dk_at dksX2_next_8 1 rfl rfl)
theorem dX2_next_188 : decode cX2_next 188 = .ok (.isub, 1) := dk_100 (dk_at dksX2_next_8 4 rfl rfl)
theorem dX2_next_189 : decode cX2_next 189 = .ok (.iconst 4, 1) := dk_7 (dk_at dksX2_next_8 5 rfl rfl)
theorem dX2_next_190 : decode cX2_next 190 = .ok (.if_icmp .ge 25, 3) := dk_162 0 25 (dk_at dksX2_next_8 6 rfl rfl)
theorem dX2_next_193 : decode cX2_next 193 = .ok (.bipush 10, 2) := dk_16 10 (dk_at dksX2_next_8 9 rfl rfl)
theorem dX2_next_195 : decode cX2_next 195 = .ok (.aload_n 0, 1) := dk_42 (dk_at dksX2_next_8 11 rfl rfl)
theorem dX2_next_196 : decode cX2_next 196 = .ok (.getfield 45, 3) := dk_180 0 45 (dk_at dksX2_next_8 12 rfl rfl)
theorem dX2_next_199 : decode cX2_next 199 = .ok (.imul, 1) := dk_104 (dk_at dksX2_next_8 15 rfl rfl)
theorem dX2_next_200 : decode cX2_next 200 = .ok (.aload_n 0, 1) := dk_42 (dk_at dksX2_next_8 16 rfl rfl)
theorem dX2_next_201 : decode cX2_next 201 = .ok (.aload_n 0, 1) := dk_42 (dk_at dksX2_next_8 17 rfl rfl)
theorem dX2_next_202 : decode cX2_next 202 = .ok (.getfield 19, 3) := dk_180 0 19 (dk_at dksX2_next_8 18 rfl rfl)
theorem dX2_next_205 : decode cX2_next 205 = .ok (.invokevirtual 34, 3) := dk_182 0 34 (dk_at dksX2_next_8 21 rfl rfl)
theorem dX2_next_208 : decode cX2_next 208 = .ok (.iadd, 1) := dk_96 (dk_at dksX2_next_9 0 rfl rfl)
theorem dX2_next_209 : decode cX2_next 209 = .ok (.bipush 48, 2) := dk_16 48 (dk_at dksX2_next_9 1 rfl rfl)
theorem dX2_next_211 : decode cX2_next 211 = .ok (.isub, 1) := dk_100 (dk_at dksX2_next_9 3 rfl rfl)
theorem dX2_next_212 : decode cX2_next 212 = .ok (.goto 7, 3) := dk_167 0 7 (dk_at dksX2_next_9 4 rfl rfl)
theorem dX2_next_215 : decode cX2_next 215 = .ok (.aload_n 0, 1) := dk_42 (dk_at dksX2_next_9 7 rfl rfl)
theorem dX2_next_216 : decode cX2_next 216 = .ok (.getfield 45, 3) := dk_180 0 45 (dk_at dksX2_next_9 8 rfl rfl)
theorem dX2_next_219 : decode cX2_next 219 = .ok (.putfield 45, 3) := dk_181 0 45 (dk_at dksX2_next_9 11 rfl rfl)
theorem dX2_next_222 : decode cX2_next 222 = .ok (.aload_n 0, 1) := dk_42 (dk_at dksX2_next_9 14 rfl rfl)
theorem dX2_next_223 : decode cX2_next 223 = .ok (.dup, 1) := dk_89 (dk_at dksX2_next_9 15 rfl rfl)
theorem dX2_next_224 : decode cX2_next 224 = .ok (.getfield 19, 3) := dk_180 0 19 (dk_at dksX2_next_9 16 rfl rfl)
theorem dX2_next_227 : decode cX2_next 227 = .ok (.iconst 1, 1) := dk_4 (dk_at dksX2_next_9 19 rfl rfl)
theorem dX2_next_228 : decode cX2_next 228 = .ok (.iadd, 1) := dk_96 (dk_at dksX2_next_9 20 rfl rfl)
theorem dX2_next_229 : decode cX2_next 229 = .ok (.putfield 19, 3) := dk_181 0 19 (dk_at dksX2_next_9 21 rfl rfl)
theorem dX2_next_232 : decode cX2_next 232 = .ok (.goto (-67), 3) := dk_167 255 189 (dk_at dksX2_next_10 0 rfl rfl)
theorem dX2_next_235 : decode cX2_next 235 = .ok (.aload_n 0, 1) := dk_42 (dk_at dksX2_next_10 3 rfl rfl)
theorem dX2_next_236 : decode cX2_next 236 = .ok (.aload_n 0, 1) := dk_42 (dk_at dksX2_next_10 4 rfl rfl)
theorem dX2_next_237 : decode cX2_next 237 = .ok (.getfield 19, 3) := dk_180 0 19 (dk_at dksX2_next_10 5 rfl rfl)
theorem dX2_next_240 : decode cX2_next 240 = .ok (.aload_n 0, 1) := dk_42 (dk_at dksX2_next_10 8 rfl rfl)
theorem dX2_next_241 : decode cX2_next 241 = .ok (.getfield 28, 3) := dk_180 0 28 (dk_at dksX2_next_10 9 rfl rfl)
theorem dX2_next_244 : decode cX2_next 244 = .ok (.isub, 1) := dk_100 (dk_at dksX2_next_10 12 rfl rfl)
theorem dX2_next_245 : decode cX2_next 245 = .ok (.iconst 4, 1) := dk_7 (dk_at dksX2_next_10 13 rfl rfl)
theorem dX2_next_246 : decode cX2_next 246 = .ok (.if_icmp .le 7, 3) := dk_164 0 7 (dk_at dksX2_next_10 14 rfl rfl)
theorem dX2_next_249 : decode cX2_next 249 = .ok (.iconst 4, 1) := dk_7 (dk_at dksX2_next_10 17 rfl rfl)
theorem dX2_next_250 : decode cX2_next 250 = .ok (.goto 4, 3) := dk_167 0 4 (dk_at dksX2_next_10 18 rfl rfl)
theorem dX2_next_253 : decode cX2_next 253 = .ok (.iconst 2, 1) := dk_5 (dk_at dksX2_next_10 21 rfl rfl)
theorem dX2_next_254 : decode cX2_next 254 = .ok (.putfield 31, 3) := dk_181 0 31 (dk_at dksX2_next_11 0 rfl rfl)
theorem dX2_next_257 : decode cX2_next 257 = .ok (.goto 39, 3) := dk_167 0 39 (dk_at dksX2_next_11 3 rfl rfl)
theorem dX2_next_260 : decode cX2_next 260 = .ok (.aload_n 0, 1) := dk_42 (dk_at dksX2_next_11 6 rfl rfl)
theorem dX2_next_261 : decode cX2_next 261 = .ok (.ldc 48, 2) := dk_18 48 (dk_at dksX2_next_11 7 rfl rfl)
theorem dX2_next_263 : decode cX2_next 263 = .ok (.aload_n 0, 1) := dk_42 (dk_at dksX2_next_11 9 rfl rfl)
theorem dX2_next_264 : decode cX2_next 264 = .ok (.aload_n 0, 1) := dk_42 (dk_at dksX2_next_11 10 rfl rfl)
theorem dX2_next_265 : decode cX2_next 265 = .ok (.getfield 19, 3) := dk_180 0 19 (dk_at dksX2_next_11 11 rfl rfl)
theorem dX2_next_268 : decode cX2_next 268 = .ok (.invokevirtual 34, 3) := dk_182 0 34 (dk_at dksX2_next_11 14 rfl rfl)
theorem dX2_next_271 : decode cX2_next 271 = .ok (.i2c, 1) := dk_146 (dk_at dksX2_next_11 17 rfl rfl)
theorem dX2_next_272 : decode cX2_next 272 = .ok (.invokevirtual 50, 3) := dk_182 0 50 (dk_at dksX2_next_11 18 rfl rfl)
theorem dX2_next_275 : decode cX2_next 275 = .ok (.ifCond .lt 7, 3) := dk_155 0 7 (dk_at dksX2_next_11 21 rfl rfl)
theorem dX2_next_278 : decode cX2_next 278 = .ok (.iconst 3, 1) := dk_6 (dk_at dksX2_next_12 0 rfl rfl)
theorem dX2_next_279 : decode cX2_next 279 = .ok (.goto 4, 3) := dk_167 0 4 (dk_at dksX2_next_12 1 rfl rfl)
theorem dX2_next_282 : decode cX2_next 282 = .ok (.iconst 4, 1) := dk_7 (dk_at dksX2_next_12 4 rfl rfl)
theorem dX2_next_283 : decode cX2_next 283 = .ok (.putfield 31, 3) := dk_181 0 31 (dk_at dksX2_next_12 5 rfl rfl)
theorem dX2_next_286 : decode cX2_next 286 = .ok (.aload_n 0, 1) := dk_42 (dk_at dksX2_next_12 8 rfl rfl)
theorem dX2_next_287 : decode cX2_next 287 = .ok (.dup, 1) := dk_89 (dk_at dksX2_next_12 9 rfl rfl)
theorem dX2_next_288 : decode cX2_next 288 = .ok (.getfield 19, 3) := dk_180 0 19 (dk_at dksX2_next_12 10 rfl rfl)
theorem dX2_next_291 : decode cX2_next 291 = .ok (.iconst 1, 1) := dk_4 (dk_at dksX2_next_12 13 rfl rfl)
theorem dX2_next_292 : decode cX2_next 292 = .ok (.iadd, 1) := dk_96 (dk_at dksX2_next_12 14 rfl rfl)
theorem dX2_next_293 : decode cX2_next 293 = .ok (.putfield 19, 3) := dk_181 0 19 (dk_at dksX2_next_12 15 rfl rfl)
theorem dX2_next_296 : decode cX2_next 296 = .ok (.return_, 1) := dk_177 (dk_at dksX2_next_12 18 rfl rfl)
abbrev cX2_at : ByteArray := prog_16_method_3_code
def yX2_at : MethodName := ⟨RX2, "at", "(I)I"⟩
def dkwX2_at_0 : List UInt8 := [27, 42, 180, 0, 15, 162, 0, 12, 42, 180, 0, 9, 27, 51, 167, 0, 4, 3, 172]
abbrev dktX2_at_0 : List UInt8 := dkwX2_at_0 ++ []
theorem dksX2_at_0 : cX2_at.data.toList.drop 0 = dktX2_at_0 := by decide +kernel
theorem dX2_at_0 : decode cX2_at 0 = .ok (.iload_n 1, 1) := dk_27 (dk_at dksX2_at_0 0 rfl rfl)
theorem dX2_at_1 : decode cX2_at 1 = .ok (.aload_n 0, 1) := dk_42 (dk_at dksX2_at_0 1 rfl rfl)
theorem dX2_at_2 : decode cX2_at 2 = .ok (.getfield 15, 3) := dk_180 0 15 (dk_at dksX2_at_0 2 rfl rfl)
theorem dX2_at_5 : decode cX2_at 5 = .ok (.if_icmp .ge 12, 3) := dk_162 0 12 (dk_at dksX2_at_0 5 rfl rfl)
theorem dX2_at_8 : decode cX2_at 8 = .ok (.aload_n 0, 1) := dk_42 (dk_at dksX2_at_0 8 rfl rfl)
theorem dX2_at_9 : decode cX2_at 9 = .ok (.getfield 9, 3) := dk_180 0 9 (dk_at dksX2_at_0 9 rfl rfl)
theorem dX2_at_12 : decode cX2_at 12 = .ok (.iload_n 1, 1) := dk_27 (dk_at dksX2_at_0 12 rfl rfl)
theorem dX2_at_13 : decode cX2_at 13 = .ok (.baload, 1) := dk_51 (dk_at dksX2_at_0 13 rfl rfl)
theorem dX2_at_14 : decode cX2_at 14 = .ok (.goto 4, 3) := dk_167 0 4 (dk_at dksX2_at_0 14 rfl rfl)
theorem dX2_at_17 : decode cX2_at 17 = .ok (.iconst 0, 1) := dk_3 (dk_at dksX2_at_0 17 rfl rfl)
theorem dX2_at_18 : decode cX2_at 18 = .ok (.ireturn, 1) := dk_172 (dk_at dksX2_at_0 18 rfl rfl)
abbrev cX2_isLetter : ByteArray := prog_16_method_4_code
def yX2_isLetter : MethodName := ⟨RX2, "isLetter", "(I)Z"⟩
def dkwX2_isLetter_0 : List UInt8 := [26, 16, 97, 161, 0, 13, 26, 16, 122, 163, 0, 7, 4, 167, 0, 4, 3, 172]
abbrev dktX2_isLetter_0 : List UInt8 := dkwX2_isLetter_0 ++ []
theorem dksX2_isLetter_0 : cX2_isLetter.data.toList.drop 0 = dktX2_isLetter_0 := by decide +kernel
theorem dX2_isLetter_0 : decode cX2_isLetter 0 = .ok (.iload_n 0, 1) := dk_26 (dk_at dksX2_isLetter_0 0 rfl rfl)
theorem dX2_isLetter_1 : decode cX2_isLetter 1 = .ok (.bipush 97, 2) := dk_16 97 (dk_at dksX2_isLetter_0 1 rfl rfl)
theorem dX2_isLetter_3 : decode cX2_isLetter 3 = .ok (.if_icmp .lt 13, 3) := dk_161 0 13 (dk_at dksX2_isLetter_0 3 rfl rfl)
theorem dX2_isLetter_6 : decode cX2_isLetter 6 = .ok (.iload_n 0, 1) := dk_26 (dk_at dksX2_isLetter_0 6 rfl rfl)
theorem dX2_isLetter_7 : decode cX2_isLetter 7 = .ok (.bipush 122, 2) := dk_16 122 (dk_at dksX2_isLetter_0 7 rfl rfl)
theorem dX2_isLetter_9 : decode cX2_isLetter 9 = .ok (.if_icmp .gt 7, 3) := dk_163 0 7 (dk_at dksX2_isLetter_0 9 rfl rfl)
theorem dX2_isLetter_12 : decode cX2_isLetter 12 = .ok (.iconst 1, 1) := dk_4 (dk_at dksX2_isLetter_0 12 rfl rfl)
theorem dX2_isLetter_13 : decode cX2_isLetter 13 = .ok (.goto 4, 3) := dk_167 0 4 (dk_at dksX2_isLetter_0 13 rfl rfl)
theorem dX2_isLetter_16 : decode cX2_isLetter 16 = .ok (.iconst 0, 1) := dk_3 (dk_at dksX2_isLetter_0 16 rfl rfl)
theorem dX2_isLetter_17 : decode cX2_isLetter 17 = .ok (.ireturn, 1) := dk_172 (dk_at dksX2_isLetter_0 17 rfl rfl)
abbrev cX2_isDigit : ByteArray := prog_16_method_5_code
def yX2_isDigit : MethodName := ⟨RX2, "isDigit", "(I)Z"⟩
def dkwX2_isDigit_0 : List UInt8 := [26, 16, 48, 161, 0, 13, 26, 16, 57, 163, 0, 7, 4, 167, 0, 4, 3, 172]
abbrev dktX2_isDigit_0 : List UInt8 := dkwX2_isDigit_0 ++ []
theorem dksX2_isDigit_0 : cX2_isDigit.data.toList.drop 0 = dktX2_isDigit_0 := by decide +kernel
theorem dX2_isDigit_0 : decode cX2_isDigit 0 = .ok (.iload_n 0, 1) := dk_26 (dk_at dksX2_isDigit_0 0 rfl rfl)
theorem dX2_isDigit_1 : decode cX2_isDigit 1 = .ok (.bipush 48, 2) := dk_16 48 (dk_at dksX2_isDigit_0 1 rfl rfl)
theorem dX2_isDigit_3 : decode cX2_isDigit 3 = .ok (.if_icmp .lt 13, 3) := dk_161 0 13 (dk_at dksX2_isDigit_0 3 rfl rfl)
theorem dX2_isDigit_6 : decode cX2_isDigit 6 = .ok (.iload_n 0, 1) := dk_26 (dk_at dksX2_isDigit_0 6 rfl rfl)
theorem dX2_isDigit_7 : decode cX2_isDigit 7 = .ok (.bipush 57, 2) := dk_16 57 (dk_at dksX2_isDigit_0 7 rfl rfl)
theorem dX2_isDigit_9 : decode cX2_isDigit 9 = .ok (.if_icmp .gt 7, 3) := dk_163 0 7 (dk_at dksX2_isDigit_0 9 rfl rfl)
theorem dX2_isDigit_12 : decode cX2_isDigit 12 = .ok (.iconst 1, 1) := dk_4 (dk_at dksX2_isDigit_0 12 rfl rfl)
theorem dX2_isDigit_13 : decode cX2_isDigit 13 = .ok (.goto 4, 3) := dk_167 0 4 (dk_at dksX2_isDigit_0 13 rfl rfl)
theorem dX2_isDigit_16 : decode cX2_isDigit 16 = .ok (.iconst 0, 1) := dk_3 (dk_at dksX2_isDigit_0 16 rfl rfl)
theorem dX2_isDigit_17 : decode cX2_isDigit 17 = .ok (.ireturn, 1) := dk_172 (dk_at dksX2_isDigit_0 17 rfl rfl)
abbrev cX2_houses : ByteArray := prog_16_method_21_code
def yX2_houses : MethodName := ⟨RX2, "houses", "()LGlassStreet$Houses;"⟩
def dkwX2_houses_3 : List UInt8 := [42, 16, 59, 182, 0, 160, 167, 255, 189, 42, 180, 0, 101, 176]
abbrev dktX2_houses_3 : List UInt8 := dkwX2_houses_3 ++ []
def dkwX2_houses_2 : List UInt8 := [191, 42, 27, 182, 0, 154, 153, 0, 9, 42, 8, 182, 0, 75, 191, 42, 182, 0, 25, 42, 27, 182, 0, 157]
abbrev dktX2_houses_2 : List UInt8 := dkwX2_houses_2 ++ dktX2_houses_3
def dkwX2_houses_1 : List UInt8 := [60, 27, 156, 0, 9, 42, 4, 182, 0, 75, 191, 42, 27, 182, 0, 151, 153, 0, 9, 42, 6, 182, 0, 75]
abbrev dktX2_houses_1 : List UInt8 := dkwX2_houses_1 ++ dktX2_houses_2
def dkwX2_houses_0 : List UInt8 := [42, 187, 0, 106, 89, 183, 0, 148, 181, 0, 101, 42, 180, 0, 31, 153, 0, 66, 42, 18, 149, 182, 0, 71]
abbrev dktX2_houses_0 : List UInt8 := dkwX2_houses_0 ++ dktX2_houses_1
theorem dksX2_houses_0 : cX2_houses.data.toList.drop 0 = dktX2_houses_0 := by decide +kernel
theorem dksX2_houses_1 : cX2_houses.data.toList.drop 24 = dktX2_houses_1 := dk_seg dksX2_houses_0 24 rfl rfl
theorem dksX2_houses_2 : cX2_houses.data.toList.drop 48 = dktX2_houses_2 := dk_seg dksX2_houses_1 24 rfl rfl
theorem dksX2_houses_3 : cX2_houses.data.toList.drop 72 = dktX2_houses_3 := dk_seg dksX2_houses_2 24 rfl rfl
theorem dX2_houses_0 : decode cX2_houses 0 = .ok (.aload_n 0, 1) := dk_42 (dk_at dksX2_houses_0 0 rfl rfl)
theorem dX2_houses_1 : decode cX2_houses 1 = .ok (.new 106, 3) := dk_187 0 106 (dk_at dksX2_houses_0 1 rfl rfl)
theorem dX2_houses_4 : decode cX2_houses 4 = .ok (.dup, 1) := dk_89 (dk_at dksX2_houses_0 4 rfl rfl)
theorem dX2_houses_5 : decode cX2_houses 5 = .ok (.invokespecial 148, 3) := dk_183 0 148 (dk_at dksX2_houses_0 5 rfl rfl)
theorem dX2_houses_8 : decode cX2_houses 8 = .ok (.putfield 101, 3) := dk_181 0 101 (dk_at dksX2_houses_0 8 rfl rfl)
theorem dX2_houses_11 : decode cX2_houses 11 = .ok (.aload_n 0, 1) := dk_42 (dk_at dksX2_houses_0 11 rfl rfl)
theorem dX2_houses_12 : decode cX2_houses 12 = .ok (.getfield 31, 3) := dk_180 0 31 (dk_at dksX2_houses_0 12 rfl rfl)
theorem dX2_houses_15 : decode cX2_houses 15 = .ok (.ifCond .eq 66, 3) := dk_153 0 66 (dk_at dksX2_houses_0 15 rfl rfl)
theorem dX2_houses_18 : decode cX2_houses 18 = .ok (.aload_n 0, 1) := dk_42 (dk_at dksX2_houses_0 18 rfl rfl)
theorem dX2_houses_19 : decode cX2_houses 19 = .ok (.ldc 149, 2) := dk_18 149 (dk_at dksX2_houses_0 19 rfl rfl)
theorem dX2_houses_21 : decode cX2_houses 21 = .ok (.invokevirtual 71, 3) := dk_182 0 71 (dk_at dksX2_houses_0 21 rfl rfl)
theorem dX2_houses_24 : decode cX2_houses 24 = .ok (.istore_n 1, 1) := dk_60 (dk_at dksX2_houses_1 0 rfl rfl)
theorem dX2_houses_25 : decode cX2_houses 25 = .ok (.iload_n 1, 1) := dk_27 (dk_at dksX2_houses_1 1 rfl rfl)
theorem dX2_houses_26 : decode cX2_houses 26 = .ok (.ifCond .ge 9, 3) := dk_156 0 9 (dk_at dksX2_houses_1 2 rfl rfl)
theorem dX2_houses_29 : decode cX2_houses 29 = .ok (.aload_n 0, 1) := dk_42 (dk_at dksX2_houses_1 5 rfl rfl)
theorem dX2_houses_30 : decode cX2_houses 30 = .ok (.iconst 1, 1) := dk_4 (dk_at dksX2_houses_1 6 rfl rfl)
theorem dX2_houses_31 : decode cX2_houses 31 = .ok (.invokevirtual 75, 3) := dk_182 0 75 (dk_at dksX2_houses_1 7 rfl rfl)
theorem dX2_houses_34 : decode cX2_houses 34 = .ok (.athrow, 1) := dk_191 (dk_at dksX2_houses_1 10 rfl rfl)
theorem dX2_houses_35 : decode cX2_houses 35 = .ok (.aload_n 0, 1) := dk_42 (dk_at dksX2_houses_1 11 rfl rfl)
theorem dX2_houses_36 : decode cX2_houses 36 = .ok (.iload_n 1, 1) := dk_27 (dk_at dksX2_houses_1 12 rfl rfl)
theorem dX2_houses_37 : decode cX2_houses 37 = .ok (.invokevirtual 151, 3) := dk_182 0 151 (dk_at dksX2_houses_1 13 rfl rfl)
theorem dX2_houses_40 : decode cX2_houses 40 = .ok (.ifCond .eq 9, 3) := dk_153 0 9 (dk_at dksX2_houses_1 16 rfl rfl)
theorem dX2_houses_43 : decode cX2_houses 43 = .ok (.aload_n 0, 1) := dk_42 (dk_at dksX2_houses_1 19 rfl rfl)
theorem dX2_houses_44 : decode cX2_houses 44 = .ok (.iconst 3, 1) := dk_6 (dk_at dksX2_houses_1 20 rfl rfl)
theorem dX2_houses_45 : decode cX2_houses 45 = .ok (.invokevirtual 75, 3) := dk_182 0 75 (dk_at dksX2_houses_1 21 rfl rfl)
theorem dX2_houses_48 : decode cX2_houses 48 = .ok (.athrow, 1) := dk_191 (dk_at dksX2_houses_2 0 rfl rfl)
theorem dX2_houses_49 : decode cX2_houses 49 = .ok (.aload_n 0, 1) := dk_42 (dk_at dksX2_houses_2 1 rfl rfl)
theorem dX2_houses_50 : decode cX2_houses 50 = .ok (.iload_n 1, 1) := dk_27 (dk_at dksX2_houses_2 2 rfl rfl)
theorem dX2_houses_51 : decode cX2_houses 51 = .ok (.invokevirtual 154, 3) := dk_182 0 154 (dk_at dksX2_houses_2 3 rfl rfl)
theorem dX2_houses_54 : decode cX2_houses 54 = .ok (.ifCond .eq 9, 3) := dk_153 0 9 (dk_at dksX2_houses_2 6 rfl rfl)
theorem dX2_houses_57 : decode cX2_houses 57 = .ok (.aload_n 0, 1) := dk_42 (dk_at dksX2_houses_2 9 rfl rfl)
theorem dX2_houses_58 : decode cX2_houses 58 = .ok (.iconst 5, 1) := dk_8 (dk_at dksX2_houses_2 10 rfl rfl)
theorem dX2_houses_59 : decode cX2_houses 59 = .ok (.invokevirtual 75, 3) := dk_182 0 75 (dk_at dksX2_houses_2 11 rfl rfl)
theorem dX2_houses_62 : decode cX2_houses 62 = .ok (.athrow, 1) := dk_191 (dk_at dksX2_houses_2 14 rfl rfl)
theorem dX2_houses_63 : decode cX2_houses 63 = .ok (.aload_n 0, 1) := dk_42 (dk_at dksX2_houses_2 15 rfl rfl)
theorem dX2_houses_64 : decode cX2_houses 64 = .ok (.invokevirtual 25, 3) := dk_182 0 25 (dk_at dksX2_houses_2 16 rfl rfl)
theorem dX2_houses_67 : decode cX2_houses 67 = .ok (.aload_n 0, 1) := dk_42 (dk_at dksX2_houses_2 19 rfl rfl)
theorem dX2_houses_68 : decode cX2_houses 68 = .ok (.iload_n 1, 1) := dk_27 (dk_at dksX2_houses_2 20 rfl rfl)
theorem dX2_houses_69 : decode cX2_houses 69 = .ok (.invokevirtual 157, 3) := dk_182 0 157 (dk_at dksX2_houses_2 21 rfl rfl)
theorem dX2_houses_72 : decode cX2_houses 72 = .ok (.aload_n 0, 1) := dk_42 (dk_at dksX2_houses_3 0 rfl rfl)
theorem dX2_houses_73 : decode cX2_houses 73 = .ok (.bipush 59, 2) := dk_16 59 (dk_at dksX2_houses_3 1 rfl rfl)
theorem dX2_houses_75 : decode cX2_houses 75 = .ok (.invokevirtual 160, 3) := dk_182 0 160 (dk_at dksX2_houses_3 3 rfl rfl)
theorem dX2_houses_78 : decode cX2_houses 78 = .ok (.goto (-67), 3) := dk_167 255 189 (dk_at dksX2_houses_3 6 rfl rfl)
theorem dX2_houses_81 : decode cX2_houses 81 = .ok (.aload_n 0, 1) := dk_42 (dk_at dksX2_houses_3 9 rfl rfl)
theorem dX2_houses_82 : decode cX2_houses 82 = .ok (.getfield 101, 3) := dk_180 0 101 (dk_at dksX2_houses_3 10 rfl rfl)
theorem dX2_houses_85 : decode cX2_houses 85 = .ok (.areturn, 1) := dk_176 (dk_at dksX2_houses_3 13 rfl rfl)
abbrev cX2_which : ByteArray := prog_16_method_8_code
def yX2_which : MethodName := ⟨RX2, "which", "(Ljava/lang/String;)I"⟩
def dkwX2_which_5 : List UInt8 := [96, 62, 132, 2, 1, 167, 255, 140, 2, 172]
abbrev dktX2_which_5 : List UInt8 := dkwX2_which_5 ++ []
def dkwX2_which_4 : List UInt8 := [167, 0, 4, 3, 54, 5, 132, 6, 1, 167, 255, 211, 21, 5, 153, 0, 5, 28, 172, 29, 21, 4, 4, 96]
abbrev dktX2_which_4 : List UInt8 := dkwX2_which_4 ++ dktX2_which_5
def dkwX2_which_3 : List UInt8 := [180, 0, 9, 42, 180, 0, 28, 21, 6, 96, 51, 43, 29, 21, 6, 96, 182, 0, 67, 160, 0, 7, 4]
abbrev dktX2_which_3 : List UInt8 := dkwX2_which_3 ++ dktX2_which_4
def dkwX2_which_2 : List UInt8 := [167, 0, 4, 3, 54, 5, 3, 54, 6, 21, 5, 153, 0, 46, 21, 6, 21, 4, 162, 0, 39, 42]
abbrev dktX2_which_2 : List UInt8 := dkwX2_which_2 ++ dktX2_which_3
def dkwX2_which_1 : List UInt8 := [182, 0, 64, 29, 100, 54, 4, 42, 180, 0, 19, 42, 180, 0, 28, 100, 21, 4, 160, 0, 7, 4]
abbrev dktX2_which_1 : List UInt8 := dkwX2_which_1 ++ dktX2_which_2
def dkwX2_which_0 : List UInt8 := [3, 61, 3, 62, 29, 43, 182, 0, 60, 162, 0, 114, 42, 180, 0, 31, 4, 160, 0, 106, 43, 16, 32, 29]
abbrev dktX2_which_0 : List UInt8 := dkwX2_which_0 ++ dktX2_which_1
theorem dksX2_which_0 : cX2_which.data.toList.drop 0 = dktX2_which_0 := by decide +kernel
theorem dksX2_which_1 : cX2_which.data.toList.drop 24 = dktX2_which_1 := dk_seg dksX2_which_0 24 rfl rfl
theorem dksX2_which_2 : cX2_which.data.toList.drop 46 = dktX2_which_2 := dk_seg dksX2_which_1 22 rfl rfl
theorem dksX2_which_3 : cX2_which.data.toList.drop 68 = dktX2_which_3 := dk_seg dksX2_which_2 22 rfl rfl
theorem dksX2_which_4 : cX2_which.data.toList.drop 91 = dktX2_which_4 := dk_seg dksX2_which_3 23 rfl rfl
theorem dksX2_which_5 : cX2_which.data.toList.drop 115 = dktX2_which_5 := dk_seg dksX2_which_4 24 rfl rfl
theorem dX2_which_0 : decode cX2_which 0 = .ok (.iconst 0, 1) := dk_3 (dk_at dksX2_which_0 0 rfl rfl)
theorem dX2_which_1 : decode cX2_which 1 = .ok (.istore_n 2, 1) := dk_61 (dk_at dksX2_which_0 1 rfl rfl)
theorem dX2_which_2 : decode cX2_which 2 = .ok (.iconst 0, 1) := dk_3 (dk_at dksX2_which_0 2 rfl rfl)
theorem dX2_which_3 : decode cX2_which 3 = .ok (.istore_n 3, 1) := dk_62 (dk_at dksX2_which_0 3 rfl rfl)
theorem dX2_which_4 : decode cX2_which 4 = .ok (.iload_n 3, 1) := dk_29 (dk_at dksX2_which_0 4 rfl rfl)
theorem dX2_which_5 : decode cX2_which 5 = .ok (.aload_n 1, 1) := dk_43 (dk_at dksX2_which_0 5 rfl rfl)
theorem dX2_which_6 : decode cX2_which 6 = .ok (.invokevirtual 60, 3) := dk_182 0 60 (dk_at dksX2_which_0 6 rfl rfl)
theorem dX2_which_9 : decode cX2_which 9 = .ok (.if_icmp .ge 114, 3) := dk_162 0 114 (dk_at dksX2_which_0 9 rfl rfl)
theorem dX2_which_12 : decode cX2_which 12 = .ok (.aload_n 0, 1) := dk_42 (dk_at dksX2_which_0 12 rfl rfl)
theorem dX2_which_13 : decode cX2_which 13 = .ok (.getfield 31, 3) := dk_180 0 31 (dk_at dksX2_which_0 13 rfl rfl)
theorem dX2_which_16 : decode cX2_which 16 = .ok (.iconst 1, 1) := dk_4 (dk_at dksX2_which_0 16 rfl rfl)
theorem dX2_which_17 : decode cX2_which 17 = .ok (.if_icmp .ne 106, 3) := dk_160 0 106 (dk_at dksX2_which_0 17 rfl rfl)
theorem dX2_which_20 : decode cX2_which 20 = .ok (.aload_n 1, 1) := dk_43 (dk_at dksX2_which_0 20 rfl rfl)
theorem dX2_which_21 : decode cX2_which 21 = .ok (.bipush 32, 2) := dk_16 32 (dk_at dksX2_which_0 21 rfl rfl)
theorem dX2_which_23 : decode cX2_which 23 = .ok (.iload_n 3, 1) := dk_29 (dk_at dksX2_which_0 23 rfl rfl)
theorem dX2_which_24 : decode cX2_which 24 = .ok (.invokevirtual 64, 3) := dk_182 0 64 (dk_at dksX2_which_1 0 rfl rfl)
theorem dX2_which_27 : decode cX2_which 27 = .ok (.iload_n 3, 1) := dk_29 (dk_at dksX2_which_1 3 rfl rfl)
theorem dX2_which_28 : decode cX2_which 28 = .ok (.isub, 1) := dk_100 (dk_at dksX2_which_1 4 rfl rfl)
theorem dX2_which_29 : decode cX2_which 29 = .ok (.istore 4, 2) := dk_54 4 (dk_at dksX2_which_1 5 rfl rfl)
theorem dX2_which_31 : decode cX2_which 31 = .ok (.aload_n 0, 1) := dk_42 (dk_at dksX2_which_1 7 rfl rfl)
theorem dX2_which_32 : decode cX2_which 32 = .ok (.getfield 19, 3) := dk_180 0 19 (dk_at dksX2_which_1 8 rfl rfl)
theorem dX2_which_35 : decode cX2_which 35 = .ok (.aload_n 0, 1) := dk_42 (dk_at dksX2_which_1 11 rfl rfl)
theorem dX2_which_36 : decode cX2_which 36 = .ok (.getfield 28, 3) := dk_180 0 28 (dk_at dksX2_which_1 12 rfl rfl)
theorem dX2_which_39 : decode cX2_which 39 = .ok (.isub, 1) := dk_100 (dk_at dksX2_which_1 15 rfl rfl)
theorem dX2_which_40 : decode cX2_which 40 = .ok (.iload 4, 2) := dk_21 4 (dk_at dksX2_which_1 16 rfl rfl)
theorem dX2_which_42 : decode cX2_which 42 = .ok (.if_icmp .ne 7, 3) := dk_160 0 7 (dk_at dksX2_which_1 18 rfl rfl)
theorem dX2_which_45 : decode cX2_which 45 = .ok (.iconst 1, 1) := dk_4 (dk_at dksX2_which_1 21 rfl rfl)
theorem dX2_which_46 : decode cX2_which 46 = .ok (.goto 4, 3) := dk_167 0 4 (dk_at dksX2_which_2 0 rfl rfl)
theorem dX2_which_49 : decode cX2_which 49 = .ok (.iconst 0, 1) := dk_3 (dk_at dksX2_which_2 3 rfl rfl)
theorem dX2_which_50 : decode cX2_which 50 = .ok (.istore 5, 2) := dk_54 5 (dk_at dksX2_which_2 4 rfl rfl)
theorem dX2_which_52 : decode cX2_which 52 = .ok (.iconst 0, 1) := dk_3 (dk_at dksX2_which_2 6 rfl rfl)
theorem dX2_which_53 : decode cX2_which 53 = .ok (.istore 6, 2) := dk_54 6 (dk_at dksX2_which_2 7 rfl rfl)
theorem dX2_which_55 : decode cX2_which 55 = .ok (.iload 5, 2) := dk_21 5 (dk_at dksX2_which_2 9 rfl rfl)
theorem dX2_which_57 : decode cX2_which 57 = .ok (.ifCond .eq 46, 3) := dk_153 0 46 (dk_at dksX2_which_2 11 rfl rfl)
theorem dX2_which_60 : decode cX2_which 60 = .ok (.iload 6, 2) := dk_21 6 (dk_at dksX2_which_2 14 rfl rfl)
theorem dX2_which_62 : decode cX2_which 62 = .ok (.iload 4, 2) := dk_21 4 (dk_at dksX2_which_2 16 rfl rfl)
theorem dX2_which_64 : decode cX2_which 64 = .ok (.if_icmp .ge 39, 3) := dk_162 0 39 (dk_at dksX2_which_2 18 rfl rfl)
theorem dX2_which_67 : decode cX2_which 67 = .ok (.aload_n 0, 1) := dk_42 (dk_at dksX2_which_2 21 rfl rfl)
theorem dX2_which_68 : decode cX2_which 68 = .ok (.getfield 9, 3) := dk_180 0 9 (dk_at dksX2_which_3 0 rfl rfl)
theorem dX2_which_71 : decode cX2_which 71 = .ok (.aload_n 0, 1) := dk_42 (dk_at dksX2_which_3 3 rfl rfl)
theorem dX2_which_72 : decode cX2_which 72 = .ok (.getfield 28, 3) := dk_180 0 28 (dk_at dksX2_which_3 4 rfl rfl)
theorem dX2_which_75 : decode cX2_which 75 = .ok (.iload 6, 2) := dk_21 6 (dk_at dksX2_which_3 7 rfl rfl)
theorem dX2_which_77 : decode cX2_which 77 = .ok (.iadd, 1) := dk_96 (dk_at dksX2_which_3 9 rfl rfl)
theorem dX2_which_78 : decode cX2_which 78 = .ok (.baload, 1) := dk_51 (dk_at dksX2_which_3 10 rfl rfl)
theorem dX2_which_79 : decode cX2_which 79 = .ok (.aload_n 1, 1) := dk_43 (dk_at dksX2_which_3 11 rfl rfl)
theorem dX2_which_80 : decode cX2_which 80 = .ok (.iload_n 3, 1) := dk_29 (dk_at dksX2_which_3 12 rfl rfl)
theorem dX2_which_81 : decode cX2_which 81 = .ok (.iload 6, 2) := dk_21 6 (dk_at dksX2_which_3 13 rfl rfl)
theorem dX2_which_83 : decode cX2_which 83 = .ok (.iadd, 1) := dk_96 (dk_at dksX2_which_3 15 rfl rfl)
theorem dX2_which_84 : decode cX2_which 84 = .ok (.invokevirtual 67, 3) := dk_182 0 67 (dk_at dksX2_which_3 16 rfl rfl)
theorem dX2_which_87 : decode cX2_which 87 = .ok (.if_icmp .ne 7, 3) := dk_160 0 7 (dk_at dksX2_which_3 19 rfl rfl)
theorem dX2_which_90 : decode cX2_which 90 = .ok (.iconst 1, 1) := dk_4 (dk_at dksX2_which_3 22 rfl rfl)
theorem dX2_which_91 : decode cX2_which 91 = .ok (.goto 4, 3) := dk_167 0 4 (dk_at dksX2_which_4 0 rfl rfl)
theorem dX2_which_94 : decode cX2_which 94 = .ok (.iconst 0, 1) := dk_3 (dk_at dksX2_which_4 3 rfl rfl)
theorem dX2_which_95 : decode cX2_which 95 = .ok (.istore 5, 2) := dk_54 5 (dk_at dksX2_which_4 4 rfl rfl)
theorem dX2_which_97 : decode cX2_which 97 = .ok (.iinc 6 1, 3) := dk_132 6 1 (dk_at dksX2_which_4 6 rfl rfl)
theorem dX2_which_100 : decode cX2_which 100 = .ok (.goto (-45), 3) := dk_167 255 211 (dk_at dksX2_which_4 9 rfl rfl)
theorem dX2_which_103 : decode cX2_which 103 = .ok (.iload 5, 2) := dk_21 5 (dk_at dksX2_which_4 12 rfl rfl)
theorem dX2_which_105 : decode cX2_which 105 = .ok (.ifCond .eq 5, 3) := dk_153 0 5 (dk_at dksX2_which_4 14 rfl rfl)
theorem dX2_which_108 : decode cX2_which 108 = .ok (.iload_n 2, 1) := dk_28 (dk_at dksX2_which_4 17 rfl rfl)
theorem dX2_which_109 : decode cX2_which 109 = .ok (.ireturn, 1) := dk_172 (dk_at dksX2_which_4 18 rfl rfl)
theorem dX2_which_110 : decode cX2_which 110 = .ok (.iload_n 3, 1) := dk_29 (dk_at dksX2_which_4 19 rfl rfl)
theorem dX2_which_111 : decode cX2_which 111 = .ok (.iload 4, 2) := dk_21 4 (dk_at dksX2_which_4 20 rfl rfl)
theorem dX2_which_113 : decode cX2_which 113 = .ok (.iconst 1, 1) := dk_4 (dk_at dksX2_which_4 22 rfl rfl)
theorem dX2_which_114 : decode cX2_which 114 = .ok (.iadd, 1) := dk_96 (dk_at dksX2_which_4 23 rfl rfl)
theorem dX2_which_115 : decode cX2_which 115 = .ok (.iadd, 1) := dk_96 (dk_at dksX2_which_5 0 rfl rfl)
theorem dX2_which_116 : decode cX2_which 116 = .ok (.istore_n 3, 1) := dk_62 (dk_at dksX2_which_5 1 rfl rfl)
theorem dX2_which_117 : decode cX2_which 117 = .ok (.iinc 2 1, 3) := dk_132 2 1 (dk_at dksX2_which_5 2 rfl rfl)
theorem dX2_which_120 : decode cX2_which 120 = .ok (.goto (-116), 3) := dk_167 255 140 (dk_at dksX2_which_5 5 rfl rfl)
theorem dX2_which_123 : decode cX2_which 123 = .ok (.iconst (-1), 1) := dk_2 (dk_at dksX2_which_5 8 rfl rfl)
theorem dX2_which_124 : decode cX2_which 124 = .ok (.ireturn, 1) := dk_172 (dk_at dksX2_which_5 9 rfl rfl)
abbrev cX2_wrong : ByteArray := prog_16_method_7_code
def yX2_wrong : MethodName := ⟨RX2, "wrong", "(I)LGlassStreet$Wrong;"⟩
def dkwX2_wrong_0 : List UInt8 := [187, 0, 55, 89, 27, 42, 180, 0, 28, 183, 0, 57, 176]
abbrev dktX2_wrong_0 : List UInt8 := dkwX2_wrong_0 ++ []
theorem dksX2_wrong_0 : cX2_wrong.data.toList.drop 0 = dktX2_wrong_0 := by decide +kernel
theorem dX2_wrong_0 : decode cX2_wrong 0 = .ok (.new 55, 3) := dk_187 0 55 (dk_at dksX2_wrong_0 0 rfl rfl)
theorem dX2_wrong_3 : decode cX2_wrong 3 = .ok (.dup, 1) := dk_89 (dk_at dksX2_wrong_0 3 rfl rfl)
theorem dX2_wrong_4 : decode cX2_wrong 4 = .ok (.iload_n 1, 1) := dk_27 (dk_at dksX2_wrong_0 4 rfl rfl)
theorem dX2_wrong_5 : decode cX2_wrong 5 = .ok (.aload_n 0, 1) := dk_42 (dk_at dksX2_wrong_0 5 rfl rfl)
theorem dX2_wrong_6 : decode cX2_wrong 6 = .ok (.getfield 28, 3) := dk_180 0 28 (dk_at dksX2_wrong_0 6 rfl rfl)
theorem dX2_wrong_9 : decode cX2_wrong 9 = .ok (.invokespecial 57, 3) := dk_183 0 57 (dk_at dksX2_wrong_0 9 rfl rfl)
theorem dX2_wrong_12 : decode cX2_wrong 12 = .ok (.areturn, 1) := dk_176 (dk_at dksX2_wrong_0 12 rfl rfl)
abbrev cX2_isTold : ByteArray := prog_16_method_19_code
def yX2_isTold : MethodName := ⟨RX2, "isTold", "(I)Z"⟩
def dkwX2_isTold_1 : List UInt8 := [180, 0, 130, 198, 0, 7, 4, 167, 0, 4, 3, 172]
abbrev dktX2_isTold_1 : List UInt8 := dkwX2_isTold_1 ++ []
def dkwX2_isTold_0 : List UInt8 := [27, 6, 160, 0, 13, 42, 180, 0, 101, 180, 0, 127, 157, 0, 18, 27, 7, 160, 0, 17, 42, 180, 0, 101]
abbrev dktX2_isTold_0 : List UInt8 := dkwX2_isTold_0 ++ dktX2_isTold_1
theorem dksX2_isTold_0 : cX2_isTold.data.toList.drop 0 = dktX2_isTold_0 := by decide +kernel
theorem dksX2_isTold_1 : cX2_isTold.data.toList.drop 24 = dktX2_isTold_1 := dk_seg dksX2_isTold_0 24 rfl rfl
theorem dX2_isTold_0 : decode cX2_isTold 0 = .ok (.iload_n 1, 1) := dk_27 (dk_at dksX2_isTold_0 0 rfl rfl)
theorem dX2_isTold_1 : decode cX2_isTold 1 = .ok (.iconst 3, 1) := dk_6 (dk_at dksX2_isTold_0 1 rfl rfl)
theorem dX2_isTold_2 : decode cX2_isTold 2 = .ok (.if_icmp .ne 13, 3) := dk_160 0 13 (dk_at dksX2_isTold_0 2 rfl rfl)
theorem dX2_isTold_5 : decode cX2_isTold 5 = .ok (.aload_n 0, 1) := dk_42 (dk_at dksX2_isTold_0 5 rfl rfl)
theorem dX2_isTold_6 : decode cX2_isTold 6 = .ok (.getfield 101, 3) := dk_180 0 101 (dk_at dksX2_isTold_0 6 rfl rfl)
theorem dX2_isTold_9 : decode cX2_isTold 9 = .ok (.getfield 127, 3) := dk_180 0 127 (dk_at dksX2_isTold_0 9 rfl rfl)
theorem dX2_isTold_12 : decode cX2_isTold 12 = .ok (.ifCond .gt 18, 3) := dk_157 0 18 (dk_at dksX2_isTold_0 12 rfl rfl)
theorem dX2_isTold_15 : decode cX2_isTold 15 = .ok (.iload_n 1, 1) := dk_27 (dk_at dksX2_isTold_0 15 rfl rfl)
theorem dX2_isTold_16 : decode cX2_isTold 16 = .ok (.iconst 4, 1) := dk_7 (dk_at dksX2_isTold_0 16 rfl rfl)
theorem dX2_isTold_17 : decode cX2_isTold 17 = .ok (.if_icmp .ne 17, 3) := dk_160 0 17 (dk_at dksX2_isTold_0 17 rfl rfl)
theorem dX2_isTold_20 : decode cX2_isTold 20 = .ok (.aload_n 0, 1) := dk_42 (dk_at dksX2_isTold_0 20 rfl rfl)
theorem dX2_isTold_21 : decode cX2_isTold 21 = .ok (.getfield 101, 3) := dk_180 0 101 (dk_at dksX2_isTold_0 21 rfl rfl)
theorem dX2_isTold_24 : decode cX2_isTold 24 = .ok (.getfield 130, 3) := dk_180 0 130 (dk_at dksX2_isTold_1 0 rfl rfl)
theorem dX2_isTold_27 : decode cX2_isTold 27 = .ok (.ifnull 7, 3) := dk_198 0 7 (dk_at dksX2_isTold_1 3 rfl rfl)
theorem dX2_isTold_30 : decode cX2_isTold 30 = .ok (.iconst 1, 1) := dk_4 (dk_at dksX2_isTold_1 6 rfl rfl)
theorem dX2_isTold_31 : decode cX2_isTold 31 = .ok (.goto 4, 3) := dk_167 0 4 (dk_at dksX2_isTold_1 7 rfl rfl)
theorem dX2_isTold_34 : decode cX2_isTold 34 = .ok (.iconst 0, 1) := dk_3 (dk_at dksX2_isTold_1 10 rfl rfl)
theorem dX2_isTold_35 : decode cX2_isTold 35 = .ok (.ireturn, 1) := dk_172 (dk_at dksX2_isTold_1 11 rfl rfl)
abbrev cX2_isFull : ByteArray := prog_16_method_20_code
def yX2_isFull : MethodName := ⟨RX2, "isFull", "(I)Z"⟩
def dkwX2_isFull_2 : List UInt8 := [180, 0, 145, 182, 0, 138, 8, 160, 0, 7, 4, 167, 0, 4, 3, 172]
abbrev dktX2_isFull_2 : List UInt8 := dkwX2_isFull_2 ++ []
def dkwX2_isFull_1 : List UInt8 := [42, 180, 0, 101, 180, 0, 142, 182, 0, 138, 8, 159, 0, 22, 27, 5, 160, 0, 21, 42, 180, 0, 101]
abbrev dktX2_isFull_1 : List UInt8 := dkwX2_isFull_1 ++ dktX2_isFull_2
def dkwX2_isFull_0 : List UInt8 := [27, 154, 0, 18, 42, 180, 0, 101, 180, 0, 134, 182, 0, 138, 16, 6, 159, 0, 41, 27, 4, 160, 0, 17]
abbrev dktX2_isFull_0 : List UInt8 := dkwX2_isFull_0 ++ dktX2_isFull_1
theorem dksX2_isFull_0 : cX2_isFull.data.toList.drop 0 = dktX2_isFull_0 := by decide +kernel
theorem dksX2_isFull_1 : cX2_isFull.data.toList.drop 24 = dktX2_isFull_1 := dk_seg dksX2_isFull_0 24 rfl rfl
theorem dksX2_isFull_2 : cX2_isFull.data.toList.drop 47 = dktX2_isFull_2 := dk_seg dksX2_isFull_1 23 rfl rfl
theorem dX2_isFull_0 : decode cX2_isFull 0 = .ok (.iload_n 1, 1) := dk_27 (dk_at dksX2_isFull_0 0 rfl rfl)
theorem dX2_isFull_1 : decode cX2_isFull 1 = .ok (.ifCond .ne 18, 3) := dk_154 0 18 (dk_at dksX2_isFull_0 1 rfl rfl)
theorem dX2_isFull_4 : decode cX2_isFull 4 = .ok (.aload_n 0, 1) := dk_42 (dk_at dksX2_isFull_0 4 rfl rfl)
theorem dX2_isFull_5 : decode cX2_isFull 5 = .ok (.getfield 101, 3) := dk_180 0 101 (dk_at dksX2_isFull_0 5 rfl rfl)
theorem dX2_isFull_8 : decode cX2_isFull 8 = .ok (.getfield 134, 3) := dk_180 0 134 (dk_at dksX2_isFull_0 8 rfl rfl)
theorem dX2_isFull_11 : decode cX2_isFull 11 = .ok (.invokevirtual 138, 3) := dk_182 0 138 (dk_at dksX2_isFull_0 11 rfl rfl)
theorem dX2_isFull_14 : decode cX2_isFull 14 = .ok (.bipush 6, 2) := dk_16 6 (dk_at dksX2_isFull_0 14 rfl rfl)
theorem dX2_isFull_16 : decode cX2_isFull 16 = .ok (.if_icmp .eq 41, 3) := dk_159 0 41 (dk_at dksX2_isFull_0 16 rfl rfl)
theorem dX2_isFull_19 : decode cX2_isFull 19 = .ok (.iload_n 1, 1) := dk_27 (dk_at dksX2_isFull_0 19 rfl rfl)
theorem dX2_isFull_20 : decode cX2_isFull 20 = .ok (.iconst 1, 1) := dk_4 (dk_at dksX2_isFull_0 20 rfl rfl)
theorem dX2_isFull_21 : decode cX2_isFull 21 = .ok (.if_icmp .ne 17, 3) := dk_160 0 17 (dk_at dksX2_isFull_0 21 rfl rfl)
theorem dX2_isFull_24 : decode cX2_isFull 24 = .ok (.aload_n 0, 1) := dk_42 (dk_at dksX2_isFull_1 0 rfl rfl)
theorem dX2_isFull_25 : decode cX2_isFull 25 = .ok (.getfield 101, 3) := dk_180 0 101 (dk_at dksX2_isFull_1 1 rfl rfl)
theorem dX2_isFull_28 : decode cX2_isFull 28 = .ok (.getfield 142, 3) := dk_180 0 142 (dk_at dksX2_isFull_1 4 rfl rfl)
theorem dX2_isFull_31 : decode cX2_isFull 31 = .ok (.invokevirtual 138, 3) := dk_182 0 138 (dk_at dksX2_isFull_1 7 rfl rfl)
theorem dX2_isFull_34 : decode cX2_isFull 34 = .ok (.iconst 5, 1) := dk_8 (dk_at dksX2_isFull_1 10 rfl rfl)
theorem dX2_isFull_35 : decode cX2_isFull 35 = .ok (.if_icmp .eq 22, 3) := dk_159 0 22 (dk_at dksX2_isFull_1 11 rfl rfl)
theorem dX2_isFull_38 : decode cX2_isFull 38 = .ok (.iload_n 1, 1) := dk_27 (dk_at dksX2_isFull_1 14 rfl rfl)
theorem dX2_isFull_39 : decode cX2_isFull 39 = .ok (.iconst 2, 1) := dk_5 (dk_at dksX2_isFull_1 15 rfl rfl)
theorem dX2_isFull_40 : decode cX2_isFull 40 = .ok (.if_icmp .ne 21, 3) := dk_160 0 21 (dk_at dksX2_isFull_1 16 rfl rfl)
theorem dX2_isFull_43 : decode cX2_isFull 43 = .ok (.aload_n 0, 1) := dk_42 (dk_at dksX2_isFull_1 19 rfl rfl)
theorem dX2_isFull_44 : decode cX2_isFull 44 = .ok (.getfield 101, 3) := dk_180 0 101 (dk_at dksX2_isFull_1 20 rfl rfl)
theorem dX2_isFull_47 : decode cX2_isFull 47 = .ok (.getfield 145, 3) := dk_180 0 145 (dk_at dksX2_isFull_2 0 rfl rfl)
theorem dX2_isFull_50 : decode cX2_isFull 50 = .ok (.invokevirtual 138, 3) := dk_182 0 138 (dk_at dksX2_isFull_2 3 rfl rfl)
theorem dX2_isFull_53 : decode cX2_isFull 53 = .ok (.iconst 5, 1) := dk_8 (dk_at dksX2_isFull_2 6 rfl rfl)
theorem dX2_isFull_54 : decode cX2_isFull 54 = .ok (.if_icmp .ne 7, 3) := dk_160 0 7 (dk_at dksX2_isFull_2 7 rfl rfl)
theorem dX2_isFull_57 : decode cX2_isFull 57 = .ok (.iconst 1, 1) := dk_4 (dk_at dksX2_isFull_2 10 rfl rfl)
theorem dX2_isFull_58 : decode cX2_isFull 58 = .ok (.goto 4, 3) := dk_167 0 4 (dk_at dksX2_isFull_2 11 rfl rfl)
theorem dX2_isFull_61 : decode cX2_isFull 61 = .ok (.iconst 0, 1) := dk_3 (dk_at dksX2_isFull_2 14 rfl rfl)
theorem dX2_isFull_62 : decode cX2_isFull 62 = .ok (.ireturn, 1) := dk_172 (dk_at dksX2_isFull_2 15 rfl rfl)
abbrev cX2_line : ByteArray := prog_16_method_22_code
def yX2_line : MethodName := ⟨RX2, "line", "(I)V"⟩
def dkwX2_line_9 : List UInt8 := [42, 180, 0, 101, 42, 182, 0, 191, 181, 0, 130, 177]
abbrev dktX2_line_9 : List UInt8 := dkwX2_line_9 ++ []
def dkwX2_line_8 : List UInt8 := [89, 180, 0, 127, 90, 4, 96, 181, 0, 127, 28, 79, 42, 16, 59, 182, 0, 79, 153, 255, 198, 167, 0, 14]
abbrev dktX2_line_8 : List UInt8 := dkwX2_line_8 ++ dktX2_line_9
def dkwX2_line_7 : List UInt8 := [160, 0, 9, 42, 8, 182, 0, 75, 191, 42, 182, 0, 25, 42, 180, 0, 101, 180, 0, 188, 42, 180, 0, 101]
abbrev dktX2_line_7 : List UInt8 := dkwX2_line_7 ++ dktX2_line_8
def dkwX2_line_6 : List UInt8 := [182, 0, 176, 87, 167, 0, 78, 42, 3, 4, 182, 0, 185, 61, 42, 180, 0, 101, 180, 0, 127, 16, 12]
abbrev dktX2_line_6 : List UInt8 := dkwX2_line_6 ++ dktX2_line_7
def dkwX2_line_5 : List UInt8 := [180, 0, 145, 182, 0, 138, 42, 18, 183, 3, 16, 99, 182, 0, 173, 79, 42, 180, 0, 101, 180, 0, 145, 44]
abbrev dktX2_line_5 : List UInt8 := dkwX2_line_5 ++ dktX2_line_6
def dkwX2_line_4 : List UInt8 := [182, 0, 176, 87, 167, 0, 125, 42, 182, 0, 165, 77, 42, 180, 0, 101, 180, 0, 180, 42, 180, 0, 101]
abbrev dktX2_line_4 : List UInt8 := dkwX2_line_4 ++ dktX2_line_5
def dkwX2_line_3 : List UInt8 := [180, 0, 142, 182, 0, 138, 42, 18, 171, 3, 16, 9, 182, 0, 173, 79, 42, 180, 0, 101, 180, 0, 142, 44]
abbrev dktX2_line_3 : List UInt8 := dkwX2_line_3 ++ dktX2_line_4
def dkwX2_line_2 : List UInt8 := [42, 182, 0, 163, 167, 0, 172, 42, 182, 0, 165, 77, 42, 180, 0, 101, 180, 0, 168, 42, 180, 0, 101]
abbrev dktX2_line_2 : List UInt8 := dkwX2_line_2 ++ dktX2_line_3
def dkwX2_line_1 : List UInt8 := [170, 0, 0, 0, 0, 0, 196, 0, 0, 0, 0, 0, 0, 0, 3, 0, 0, 0, 31, 0, 0, 0, 38, 0, 0, 0, 85, 0, 0, 0, 132]
abbrev dktX2_line_1 : List UInt8 := dkwX2_line_1 ++ dktX2_line_2
def dkwX2_line_0 : List UInt8 := [27]
abbrev dktX2_line_0 : List UInt8 := dkwX2_line_0 ++ dktX2_line_1
theorem dksX2_line_0 : cX2_line.data.toList.drop 0 = dktX2_line_0 := by decide +kernel
theorem dksX2_line_1 : cX2_line.data.toList.drop 1 = dktX2_line_1 := dk_seg dksX2_line_0 1 rfl rfl
theorem dksX2_line_2 : cX2_line.data.toList.drop 32 = dktX2_line_2 := dk_seg dksX2_line_1 31 rfl rfl
theorem dksX2_line_3 : cX2_line.data.toList.drop 55 = dktX2_line_3 := dk_seg dksX2_line_2 23 rfl rfl
theorem dksX2_line_4 : cX2_line.data.toList.drop 79 = dktX2_line_4 := dk_seg dksX2_line_3 24 rfl rfl
theorem dksX2_line_5 : cX2_line.data.toList.drop 102 = dktX2_line_5 := dk_seg dksX2_line_4 23 rfl rfl
theorem dksX2_line_6 : cX2_line.data.toList.drop 126 = dktX2_line_6 := dk_seg dksX2_line_5 24 rfl rfl
theorem dksX2_line_7 : cX2_line.data.toList.drop 149 = dktX2_line_7 := dk_seg dksX2_line_6 23 rfl rfl
theorem dksX2_line_8 : cX2_line.data.toList.drop 173 = dktX2_line_8 := dk_seg dksX2_line_7 24 rfl rfl
theorem dksX2_line_9 : cX2_line.data.toList.drop 197 = dktX2_line_9 := dk_seg dksX2_line_8 24 rfl rfl
theorem dX2_line_0 : decode cX2_line 0 = .ok (.iload_n 1, 1) := dk_27 (dk_at dksX2_line_0 0 rfl rfl)
theorem dX2_line_1 : decode cX2_line 1 = .ok (.tableswitch 196 0 3 #[31, 38, 85, 132], 31) := by decide +kernel
theorem dX2_line_32 : decode cX2_line 32 = .ok (.aload_n 0, 1) := dk_42 (dk_at dksX2_line_2 0 rfl rfl)
theorem dX2_line_33 : decode cX2_line 33 = .ok (.invokevirtual 163, 3) := dk_182 0 163 (dk_at dksX2_line_2 1 rfl rfl)
theorem dX2_line_36 : decode cX2_line 36 = .ok (.goto 172, 3) := dk_167 0 172 (dk_at dksX2_line_2 4 rfl rfl)
theorem dX2_line_39 : decode cX2_line 39 = .ok (.aload_n 0, 1) := dk_42 (dk_at dksX2_line_2 7 rfl rfl)
theorem dX2_line_40 : decode cX2_line 40 = .ok (.invokevirtual 165, 3) := dk_182 0 165 (dk_at dksX2_line_2 8 rfl rfl)
theorem dX2_line_43 : decode cX2_line 43 = .ok (.astore_n 2, 1) := dk_77 (dk_at dksX2_line_2 11 rfl rfl)
theorem dX2_line_44 : decode cX2_line 44 = .ok (.aload_n 0, 1) := dk_42 (dk_at dksX2_line_2 12 rfl rfl)
theorem dX2_line_45 : decode cX2_line 45 = .ok (.getfield 101, 3) := dk_180 0 101 (dk_at dksX2_line_2 13 rfl rfl)
theorem dX2_line_48 : decode cX2_line 48 = .ok (.getfield 168, 3) := dk_180 0 168 (dk_at dksX2_line_2 16 rfl rfl)
theorem dX2_line_51 : decode cX2_line 51 = .ok (.aload_n 0, 1) := dk_42 (dk_at dksX2_line_2 19 rfl rfl)
theorem dX2_line_52 : decode cX2_line 52 = .ok (.getfield 101, 3) := dk_180 0 101 (dk_at dksX2_line_2 20 rfl rfl)
theorem dX2_line_55 : decode cX2_line 55 = .ok (.getfield 142, 3) := dk_180 0 142 (dk_at dksX2_line_3 0 rfl rfl)
theorem dX2_line_58 : decode cX2_line 58 = .ok (.invokevirtual 138, 3) := dk_182 0 138 (dk_at dksX2_line_3 3 rfl rfl)
theorem dX2_line_61 : decode cX2_line 61 = .ok (.aload_n 0, 1) := dk_42 (dk_at dksX2_line_3 6 rfl rfl)
theorem dX2_line_62 : decode cX2_line 62 = .ok (.ldc 171, 2) := dk_18 171 (dk_at dksX2_line_3 7 rfl rfl)
theorem dX2_line_64 : decode cX2_line 64 = .ok (.iconst 0, 1) := dk_3 (dk_at dksX2_line_3 9 rfl rfl)
theorem dX2_line_65 : decode cX2_line 65 = .ok (.bipush 9, 2) := dk_16 9 (dk_at dksX2_line_3 10 rfl rfl)
theorem dX2_line_67 : decode cX2_line 67 = .ok (.invokevirtual 173, 3) := dk_182 0 173 (dk_at dksX2_line_3 12 rfl rfl)
theorem dX2_line_70 : decode cX2_line 70 = .ok (.iastore, 1) := dk_79 (dk_at dksX2_line_3 15 rfl rfl)
theorem dX2_line_71 : decode cX2_line 71 = .ok (.aload_n 0, 1) := dk_42 (dk_at dksX2_line_3 16 rfl rfl)
theorem dX2_line_72 : decode cX2_line 72 = .ok (.getfield 101, 3) := dk_180 0 101 (dk_at dksX2_line_3 17 rfl rfl)
theorem dX2_line_75 : decode cX2_line 75 = .ok (.getfield 142, 3) := dk_180 0 142 (dk_at dksX2_line_3 20 rfl rfl)
theorem dX2_line_78 : decode cX2_line 78 = .ok (.aload_n 2, 1) := dk_44 (dk_at dksX2_line_3 23 rfl rfl)
theorem dX2_line_79 : decode cX2_line 79 = .ok (.invokevirtual 176, 3) := dk_182 0 176 (dk_at dksX2_line_4 0 rfl rfl)
theorem dX2_line_82 : decode cX2_line 82 = .ok (.pop, 1) := dk_87 (dk_at dksX2_line_4 3 rfl rfl)
theorem dX2_line_83 : decode cX2_line 83 = .ok (.goto 125, 3) := dk_167 0 125 (dk_at dksX2_line_4 4 rfl rfl)
theorem dX2_line_86 : decode cX2_line 86 = .ok (.aload_n 0, 1) := dk_42 (dk_at dksX2_line_4 7 rfl rfl)
theorem dX2_line_87 : decode cX2_line 87 = .ok (.invokevirtual 165, 3) := dk_182 0 165 (dk_at dksX2_line_4 8 rfl rfl)
theorem dX2_line_90 : decode cX2_line 90 = .ok (.astore_n 2, 1) := dk_77 (dk_at dksX2_line_4 11 rfl rfl)
theorem dX2_line_91 : decode cX2_line 91 = .ok (.aload_n 0, 1) := dk_42 (dk_at dksX2_line_4 12 rfl rfl)
theorem dX2_line_92 : decode cX2_line 92 = .ok (.getfield 101, 3) := dk_180 0 101 (dk_at dksX2_line_4 13 rfl rfl)
theorem dX2_line_95 : decode cX2_line 95 = .ok (.getfield 180, 3) := dk_180 0 180 (dk_at dksX2_line_4 16 rfl rfl)
theorem dX2_line_98 : decode cX2_line 98 = .ok (.aload_n 0, 1) := dk_42 (dk_at dksX2_line_4 19 rfl rfl)
theorem dX2_line_99 : decode cX2_line 99 = .ok (.getfield 101, 3) := dk_180 0 101 (dk_at dksX2_line_4 20 rfl rfl)
theorem dX2_line_102 : decode cX2_line 102 = .ok (.getfield 145, 3) := dk_180 0 145 (dk_at dksX2_line_5 0 rfl rfl)
theorem dX2_line_105 : decode cX2_line 105 = .ok (.invokevirtual 138, 3) := dk_182 0 138 (dk_at dksX2_line_5 3 rfl rfl)
theorem dX2_line_108 : decode cX2_line 108 = .ok (.aload_n 0, 1) := dk_42 (dk_at dksX2_line_5 6 rfl rfl)
theorem dX2_line_109 : decode cX2_line 109 = .ok (.ldc 183, 2) := dk_18 183 (dk_at dksX2_line_5 7 rfl rfl)
theorem dX2_line_111 : decode cX2_line 111 = .ok (.iconst 0, 1) := dk_3 (dk_at dksX2_line_5 9 rfl rfl)
theorem dX2_line_112 : decode cX2_line 112 = .ok (.bipush 99, 2) := dk_16 99 (dk_at dksX2_line_5 10 rfl rfl)
theorem dX2_line_114 : decode cX2_line 114 = .ok (.invokevirtual 173, 3) := dk_182 0 173 (dk_at dksX2_line_5 12 rfl rfl)
theorem dX2_line_117 : decode cX2_line 117 = .ok (.iastore, 1) := dk_79 (dk_at dksX2_line_5 15 rfl rfl)
theorem dX2_line_118 : decode cX2_line 118 = .ok (.aload_n 0, 1) := dk_42 (dk_at dksX2_line_5 16 rfl rfl)
theorem dX2_line_119 : decode cX2_line 119 = .ok (.getfield 101, 3) := dk_180 0 101 (dk_at dksX2_line_5 17 rfl rfl)
theorem dX2_line_122 : decode cX2_line 122 = .ok (.getfield 145, 3) := dk_180 0 145 (dk_at dksX2_line_5 20 rfl rfl)
theorem dX2_line_125 : decode cX2_line 125 = .ok (.aload_n 2, 1) := dk_44 (dk_at dksX2_line_5 23 rfl rfl)
theorem dX2_line_126 : decode cX2_line 126 = .ok (.invokevirtual 176, 3) := dk_182 0 176 (dk_at dksX2_line_6 0 rfl rfl)
theorem dX2_line_129 : decode cX2_line 129 = .ok (.pop, 1) := dk_87 (dk_at dksX2_line_6 3 rfl rfl)
theorem dX2_line_130 : decode cX2_line 130 = .ok (.goto 78, 3) := dk_167 0 78 (dk_at dksX2_line_6 4 rfl rfl)
theorem dX2_line_133 : decode cX2_line 133 = .ok (.aload_n 0, 1) := dk_42 (dk_at dksX2_line_6 7 rfl rfl)
theorem dX2_line_134 : decode cX2_line 134 = .ok (.iconst 0, 1) := dk_3 (dk_at dksX2_line_6 8 rfl rfl)
theorem dX2_line_135 : decode cX2_line 135 = .ok (.iconst 1, 1) := dk_4 (dk_at dksX2_line_6 9 rfl rfl)
theorem dX2_line_136 : decode cX2_line 136 = .ok (.invokevirtual 185, 3) := dk_182 0 185 (dk_at dksX2_line_6 10 rfl rfl)
theorem dX2_line_139 : decode cX2_line 139 = .ok (.istore_n 2, 1) := dk_61 (dk_at dksX2_line_6 13 rfl rfl)
theorem dX2_line_140 : decode cX2_line 140 = .ok (.aload_n 0, 1) := dk_42 (dk_at dksX2_line_6 14 rfl rfl)
theorem dX2_line_141 : decode cX2_line 141 = .ok (.getfield 101, 3) := dk_180 0 101 (dk_at dksX2_line_6 15 rfl rfl)
theorem dX2_line_144 : decode cX2_line 144 = .ok (.getfield 127, 3) := dk_180 0 127 (dk_at dksX2_line_6 18 rfl rfl)
theorem dX2_line_147 : decode cX2_line 147 = .ok (.bipush 12, 2) := dk_16 12 (dk_at dksX2_line_6 21 rfl rfl)
theorem dX2_line_149 : decode cX2_line 149 = .ok (.if_icmp .ne 9, 3) := dk_160 0 9 (dk_at dksX2_line_7 0 rfl rfl)
theorem dX2_line_152 : decode cX2_line 152 = .ok (.aload_n 0, 1) := dk_42 (dk_at dksX2_line_7 3 rfl rfl)
theorem dX2_line_153 : decode cX2_line 153 = .ok (.iconst 5, 1) := dk_8 (dk_at dksX2_line_7 4 rfl rfl)
theorem dX2_line_154 : decode cX2_line 154 = .ok (.invokevirtual 75, 3) := dk_182 0 75 (dk_at dksX2_line_7 5 rfl rfl)
theorem dX2_line_157 : decode cX2_line 157 = .ok (.athrow, 1) := dk_191 (dk_at dksX2_line_7 8 rfl rfl)
theorem dX2_line_158 : decode cX2_line 158 = .ok (.aload_n 0, 1) := dk_42 (dk_at dksX2_line_7 9 rfl rfl)
theorem dX2_line_159 : decode cX2_line 159 = .ok (.invokevirtual 25, 3) := dk_182 0 25 (dk_at dksX2_line_7 10 rfl rfl)
theorem dX2_line_162 : decode cX2_line 162 = .ok (.aload_n 0, 1) := dk_42 (dk_at dksX2_line_7 13 rfl rfl)
theorem dX2_line_163 : decode cX2_line 163 = .ok (.getfield 101, 3) := dk_180 0 101 (dk_at dksX2_line_7 14 rfl rfl)
theorem dX2_line_166 : decode cX2_line 166 = .ok (.getfield 188, 3) := dk_180 0 188 (dk_at dksX2_line_7 17 rfl rfl)
theorem dX2_line_169 : decode cX2_line 169 = .ok (.aload_n 0, 1) := dk_42 (dk_at dksX2_line_7 20 rfl rfl)
theorem dX2_line_170 : decode cX2_line 170 = .ok (.getfield 101, 3) := dk_180 0 101 (dk_at dksX2_line_7 21 rfl rfl)
theorem dX2_line_173 : decode cX2_line 173 = .ok (.dup, 1) := dk_89 (dk_at dksX2_line_8 0 rfl rfl)
theorem dX2_line_174 : decode cX2_line 174 = .ok (.getfield 127, 3) := dk_180 0 127 (dk_at dksX2_line_8 1 rfl rfl)
theorem dX2_line_177 : decode cX2_line 177 = .ok (.dup_x1, 1) := dk_90 (dk_at dksX2_line_8 4 rfl rfl)
theorem dX2_line_178 : decode cX2_line 178 = .ok (.iconst 1, 1) := dk_4 (dk_at dksX2_line_8 5 rfl rfl)
theorem dX2_line_179 : decode cX2_line 179 = .ok (.iadd, 1) := dk_96 (dk_at dksX2_line_8 6 rfl rfl)
theorem dX2_line_180 : decode cX2_line 180 = .ok (.putfield 127, 3) := dk_181 0 127 (dk_at dksX2_line_8 7 rfl rfl)
theorem dX2_line_183 : decode cX2_line 183 = .ok (.iload_n 2, 1) := dk_28 (dk_at dksX2_line_8 10 rfl rfl)
theorem dX2_line_184 : decode cX2_line 184 = .ok (.iastore, 1) := dk_79 (dk_at dksX2_line_8 11 rfl rfl)
theorem dX2_line_185 : decode cX2_line 185 = .ok (.aload_n 0, 1) := dk_42 (dk_at dksX2_line_8 12 rfl rfl)
theorem dX2_line_186 : decode cX2_line 186 = .ok (.bipush 59, 2) := dk_16 59 (dk_at dksX2_line_8 13 rfl rfl)
theorem dX2_line_188 : decode cX2_line 188 = .ok (.invokevirtual 79, 3) := dk_182 0 79 (dk_at dksX2_line_8 15 rfl rfl)
theorem dX2_line_191 : decode cX2_line 191 = .ok (.ifCond .eq (-58), 3) := dk_153 255 198 (dk_at dksX2_line_8 18 rfl rfl)
theorem dX2_line_194 : decode cX2_line 194 = .ok (.goto 14, 3) := dk_167 0 14 (dk_at dksX2_line_8 21 rfl rfl)
theorem dX2_line_197 : decode cX2_line 197 = .ok (.aload_n 0, 1) := dk_42 (dk_at dksX2_line_9 0 rfl rfl)
theorem dX2_line_198 : decode cX2_line 198 = .ok (.getfield 101, 3) := dk_180 0 101 (dk_at dksX2_line_9 1 rfl rfl)
theorem dX2_line_201 : decode cX2_line 201 = .ok (.aload_n 0, 1) := dk_42 (dk_at dksX2_line_9 4 rfl rfl)
theorem dX2_line_202 : decode cX2_line 202 = .ok (.invokevirtual 191, 3) := dk_182 0 191 (dk_at dksX2_line_9 5 rfl rfl)
theorem dX2_line_205 : decode cX2_line 205 = .ok (.putfield 130, 3) := dk_181 0 130 (dk_at dksX2_line_9 8 rfl rfl)
theorem dX2_line_208 : decode cX2_line 208 = .ok (.return_, 1) := dk_177 (dk_at dksX2_line_9 11 rfl rfl)
abbrev cX2_pane : ByteArray := prog_16_method_23_code
def yX2_pane : MethodName := ⟨RX2, "pane", "()V"⟩
def dkwX2_pane_6 : List UInt8 := [180, 0, 134, 45, 182, 0, 176, 87, 177]
abbrev dktX2_pane_6 : List UInt8 := dkwX2_pane_6 ++ []
def dkwX2_pane_5 : List UInt8 := [180, 0, 220, 4, 21, 4, 120, 128, 181, 0, 220, 42, 16, 59, 182, 0, 79, 153, 255, 206, 42, 180, 0, 101]
abbrev dktX2_pane_5 : List UInt8 := dkwX2_pane_5 ++ dktX2_pane_6
def dkwX2_pane_4 : List UInt8 := [45, 180, 0, 220, 21, 4, 184, 0, 223, 153, 0, 9, 42, 6, 182, 0, 75, 191, 42, 182, 0, 25, 45, 89]
abbrev dktX2_pane_4 : List UInt8 := dkwX2_pane_4 ++ dktX2_pane_5
def dkwX2_pane_3 : List UInt8 := [4, 16, 6, 182, 0, 173, 181, 0, 215, 42, 18, 218, 182, 0, 116, 42, 3, 16, 9, 182, 0, 185, 54, 4]
abbrev dktX2_pane_3 : List UInt8 := dkwX2_pane_3 ++ dktX2_pane_4
def dkwX2_pane_2 : List UInt8 := [187, 0, 207, 89, 43, 183, 0, 209, 167, 0, 11, 187, 0, 210, 89, 43, 183, 0, 212, 78, 45, 42, 18, 213]
abbrev dktX2_pane_2 : List UInt8 := dkwX2_pane_2 ++ dktX2_pane_3
def dkwX2_pane_1 : List UInt8 := [167, 0, 43, 28, 4, 160, 0, 14, 187, 0, 204, 89, 43, 183, 0, 206, 167, 0, 27, 28, 5, 160, 0, 14]
abbrev dktX2_pane_1 : List UInt8 := dkwX2_pane_1 ++ dktX2_pane_2
def dkwX2_pane_0 : List UInt8 := [42, 182, 0, 165, 76, 42, 18, 195, 182, 0, 197, 61, 28, 154, 0, 14, 187, 0, 200, 89, 43, 183, 0, 202]
abbrev dktX2_pane_0 : List UInt8 := dkwX2_pane_0 ++ dktX2_pane_1
theorem dksX2_pane_0 : cX2_pane.data.toList.drop 0 = dktX2_pane_0 := by decide +kernel
theorem dksX2_pane_1 : cX2_pane.data.toList.drop 24 = dktX2_pane_1 := dk_seg dksX2_pane_0 24 rfl rfl
theorem dksX2_pane_2 : cX2_pane.data.toList.drop 48 = dktX2_pane_2 := dk_seg dksX2_pane_1 24 rfl rfl
theorem dksX2_pane_3 : cX2_pane.data.toList.drop 72 = dktX2_pane_3 := dk_seg dksX2_pane_2 24 rfl rfl
theorem dksX2_pane_4 : cX2_pane.data.toList.drop 96 = dktX2_pane_4 := dk_seg dksX2_pane_3 24 rfl rfl
theorem dksX2_pane_5 : cX2_pane.data.toList.drop 120 = dktX2_pane_5 := dk_seg dksX2_pane_4 24 rfl rfl
theorem dksX2_pane_6 : cX2_pane.data.toList.drop 144 = dktX2_pane_6 := dk_seg dksX2_pane_5 24 rfl rfl
theorem dX2_pane_0 : decode cX2_pane 0 = .ok (.aload_n 0, 1) := dk_42 (dk_at dksX2_pane_0 0 rfl rfl)
theorem dX2_pane_1 : decode cX2_pane 1 = .ok (.invokevirtual 165, 3) := dk_182 0 165 (dk_at dksX2_pane_0 1 rfl rfl)
theorem dX2_pane_4 : decode cX2_pane 4 = .ok (.astore_n 1, 1) := dk_76 (dk_at dksX2_pane_0 4 rfl rfl)
theorem dX2_pane_5 : decode cX2_pane 5 = .ok (.aload_n 0, 1) := dk_42 (dk_at dksX2_pane_0 5 rfl rfl)
theorem dX2_pane_6 : decode cX2_pane 6 = .ok (.ldc 195, 2) := dk_18 195 (dk_at dksX2_pane_0 6 rfl rfl)
theorem dX2_pane_8 : decode cX2_pane 8 = .ok (.invokevirtual 197, 3) := dk_182 0 197 (dk_at dksX2_pane_0 8 rfl rfl)
theorem dX2_pane_11 : decode cX2_pane 11 = .ok (.istore_n 2, 1) := dk_61 (dk_at dksX2_pane_0 11 rfl rfl)
theorem dX2_pane_12 : decode cX2_pane 12 = .ok (.iload_n 2, 1) := dk_28 (dk_at dksX2_pane_0 12 rfl rfl)
theorem dX2_pane_13 : decode cX2_pane 13 = .ok (.ifCond .ne 14, 3) := dk_154 0 14 (dk_at dksX2_pane_0 13 rfl rfl)
theorem dX2_pane_16 : decode cX2_pane 16 = .ok (.new 200, 3) := dk_187 0 200 (dk_at dksX2_pane_0 16 rfl rfl)
theorem dX2_pane_19 : decode cX2_pane 19 = .ok (.dup, 1) := dk_89 (dk_at dksX2_pane_0 19 rfl rfl)
theorem dX2_pane_20 : decode cX2_pane 20 = .ok (.aload_n 1, 1) := dk_43 (dk_at dksX2_pane_0 20 rfl rfl)
theorem dX2_pane_21 : decode cX2_pane 21 = .ok (.invokespecial 202, 3) := dk_183 0 202 (dk_at dksX2_pane_0 21 rfl rfl)
theorem dX2_pane_24 : decode cX2_pane 24 = .ok (.goto 43, 3) := dk_167 0 43 (dk_at dksX2_pane_1 0 rfl rfl)
theorem dX2_pane_27 : decode cX2_pane 27 = .ok (.iload_n 2, 1) := dk_28 (dk_at dksX2_pane_1 3 rfl rfl)
theorem dX2_pane_28 : decode cX2_pane 28 = .ok (.iconst 1, 1) := dk_4 (dk_at dksX2_pane_1 4 rfl rfl)
theorem dX2_pane_29 : decode cX2_pane 29 = .ok (.if_icmp .ne 14, 3) := dk_160 0 14 (dk_at dksX2_pane_1 5 rfl rfl)
theorem dX2_pane_32 : decode cX2_pane 32 = .ok (.new 204, 3) := dk_187 0 204 (dk_at dksX2_pane_1 8 rfl rfl)
theorem dX2_pane_35 : decode cX2_pane 35 = .ok (.dup, 1) := dk_89 (dk_at dksX2_pane_1 11 rfl rfl)
theorem dX2_pane_36 : decode cX2_pane 36 = .ok (.aload_n 1, 1) := dk_43 (dk_at dksX2_pane_1 12 rfl rfl)
theorem dX2_pane_37 : decode cX2_pane 37 = .ok (.invokespecial 206, 3) := dk_183 0 206 (dk_at dksX2_pane_1 13 rfl rfl)
theorem dX2_pane_40 : decode cX2_pane 40 = .ok (.goto 27, 3) := dk_167 0 27 (dk_at dksX2_pane_1 16 rfl rfl)
theorem dX2_pane_43 : decode cX2_pane 43 = .ok (.iload_n 2, 1) := dk_28 (dk_at dksX2_pane_1 19 rfl rfl)
theorem dX2_pane_44 : decode cX2_pane 44 = .ok (.iconst 2, 1) := dk_5 (dk_at dksX2_pane_1 20 rfl rfl)
theorem dX2_pane_45 : decode cX2_pane 45 = .ok (.if_icmp .ne 14, 3) := dk_160 0 14 (dk_at dksX2_pane_1 21 rfl rfl)
theorem dX2_pane_48 : decode cX2_pane 48 = .ok (.new 207, 3) := dk_187 0 207 (dk_at dksX2_pane_2 0 rfl rfl)
theorem dX2_pane_51 : decode cX2_pane 51 = .ok (.dup, 1) := dk_89 (dk_at dksX2_pane_2 3 rfl rfl)
theorem dX2_pane_52 : decode cX2_pane 52 = .ok (.aload_n 1, 1) := dk_43 (dk_at dksX2_pane_2 4 rfl rfl)
theorem dX2_pane_53 : decode cX2_pane 53 = .ok (.invokespecial 209, 3) := dk_183 0 209 (dk_at dksX2_pane_2 5 rfl rfl)
theorem dX2_pane_56 : decode cX2_pane 56 = .ok (.goto 11, 3) := dk_167 0 11 (dk_at dksX2_pane_2 8 rfl rfl)
theorem dX2_pane_59 : decode cX2_pane 59 = .ok (.new 210, 3) := dk_187 0 210 (dk_at dksX2_pane_2 11 rfl rfl)
theorem dX2_pane_62 : decode cX2_pane 62 = .ok (.dup, 1) := dk_89 (dk_at dksX2_pane_2 14 rfl rfl)
theorem dX2_pane_63 : decode cX2_pane 63 = .ok (.aload_n 1, 1) := dk_43 (dk_at dksX2_pane_2 15 rfl rfl)
theorem dX2_pane_64 : decode cX2_pane 64 = .ok (.invokespecial 212, 3) := dk_183 0 212 (dk_at dksX2_pane_2 16 rfl rfl)
theorem dX2_pane_67 : decode cX2_pane 67 = .ok (.astore_n 3, 1) := dk_78 (dk_at dksX2_pane_2 19 rfl rfl)
theorem dX2_pane_68 : decode cX2_pane 68 = .ok (.aload_n 3, 1) := dk_45 (dk_at dksX2_pane_2 20 rfl rfl)
theorem dX2_pane_69 : decode cX2_pane 69 = .ok (.aload_n 0, 1) := dk_42 (dk_at dksX2_pane_2 21 rfl rfl)
theorem dX2_pane_70 : decode cX2_pane 70 = .ok (.ldc 213, 2) := dk_18 213 (dk_at dksX2_pane_2 22 rfl rfl)
theorem dX2_pane_72 : decode cX2_pane 72 = .ok (.iconst 1, 1) := dk_4 (dk_at dksX2_pane_3 0 rfl rfl)
theorem dX2_pane_73 : decode cX2_pane 73 = .ok (.bipush 6, 2) := dk_16 6 (dk_at dksX2_pane_3 1 rfl rfl)
theorem dX2_pane_75 : decode cX2_pane 75 = .ok (.invokevirtual 173, 3) := dk_182 0 173 (dk_at dksX2_pane_3 3 rfl rfl)
theorem dX2_pane_78 : decode cX2_pane 78 = .ok (.putfield 215, 3) := dk_181 0 215 (dk_at dksX2_pane_3 6 rfl rfl)
theorem dX2_pane_81 : decode cX2_pane 81 = .ok (.aload_n 0, 1) := dk_42 (dk_at dksX2_pane_3 9 rfl rfl)
theorem dX2_pane_82 : decode cX2_pane 82 = .ok (.ldc 218, 2) := dk_18 218 (dk_at dksX2_pane_3 10 rfl rfl)
theorem dX2_pane_84 : decode cX2_pane 84 = .ok (.invokevirtual 116, 3) := dk_182 0 116 (dk_at dksX2_pane_3 12 rfl rfl)
theorem dX2_pane_87 : decode cX2_pane 87 = .ok (.aload_n 0, 1) := dk_42 (dk_at dksX2_pane_3 15 rfl rfl)
theorem dX2_pane_88 : decode cX2_pane 88 = .ok (.iconst 0, 1) := dk_3 (dk_at dksX2_pane_3 16 rfl rfl)
theorem dX2_pane_89 : decode cX2_pane 89 = .ok (.bipush 9, 2) := dk_16 9 (dk_at dksX2_pane_3 17 rfl rfl)
theorem dX2_pane_91 : decode cX2_pane 91 = .ok (.invokevirtual 185, 3) := dk_182 0 185 (dk_at dksX2_pane_3 19 rfl rfl)
theorem dX2_pane_94 : decode cX2_pane 94 = .ok (.istore 4, 2) := dk_54 4 (dk_at dksX2_pane_3 22 rfl rfl)
theorem dX2_pane_96 : decode cX2_pane 96 = .ok (.aload_n 3, 1) := dk_45 (dk_at dksX2_pane_4 0 rfl rfl)
theorem dX2_pane_97 : decode cX2_pane 97 = .ok (.getfield 220, 3) := dk_180 0 220 (dk_at dksX2_pane_4 1 rfl rfl)
theorem dX2_pane_100 : decode cX2_pane 100 = .ok (.iload 4, 2) := dk_21 4 (dk_at dksX2_pane_4 4 rfl rfl)
theorem dX2_pane_102 : decode cX2_pane 102 = .ok (.invokestatic 223, 3) := dk_184 0 223 (dk_at dksX2_pane_4 6 rfl rfl)
theorem dX2_pane_105 : decode cX2_pane 105 = .ok (.ifCond .eq 9, 3) := dk_153 0 9 (dk_at dksX2_pane_4 9 rfl rfl)
theorem dX2_pane_108 : decode cX2_pane 108 = .ok (.aload_n 0, 1) := dk_42 (dk_at dksX2_pane_4 12 rfl rfl)
theorem dX2_pane_109 : decode cX2_pane 109 = .ok (.iconst 3, 1) := dk_6 (dk_at dksX2_pane_4 13 rfl rfl)
theorem dX2_pane_110 : decode cX2_pane 110 = .ok (.invokevirtual 75, 3) := dk_182 0 75 (dk_at dksX2_pane_4 14 rfl rfl)
theorem dX2_pane_113 : decode cX2_pane 113 = .ok (.athrow, 1) := dk_191 (dk_at dksX2_pane_4 17 rfl rfl)
theorem dX2_pane_114 : decode cX2_pane 114 = .ok (.aload_n 0, 1) := dk_42 (dk_at dksX2_pane_4 18 rfl rfl)
theorem dX2_pane_115 : decode cX2_pane 115 = .ok (.invokevirtual 25, 3) := dk_182 0 25 (dk_at dksX2_pane_4 19 rfl rfl)
theorem dX2_pane_118 : decode cX2_pane 118 = .ok (.aload_n 3, 1) := dk_45 (dk_at dksX2_pane_4 22 rfl rfl)
theorem dX2_pane_119 : decode cX2_pane 119 = .ok (.dup, 1) := dk_89 (dk_at dksX2_pane_4 23 rfl rfl)
theorem dX2_pane_120 : decode cX2_pane 120 = .ok (.getfield 220, 3) := dk_180 0 220 (dk_at dksX2_pane_5 0 rfl rfl)
theorem dX2_pane_123 : decode cX2_pane 123 = .ok (.iconst 1, 1) := dk_4 (dk_at dksX2_pane_5 3 rfl rfl)
theorem dX2_pane_124 : decode cX2_pane 124 = .ok (.iload 4, 2) := dk_21 4 (dk_at dksX2_pane_5 4 rfl rfl)
theorem dX2_pane_126 : decode cX2_pane 126 = .ok (.ishl, 1) := dk_120 (dk_at dksX2_pane_5 6 rfl rfl)
theorem dX2_pane_127 : decode cX2_pane 127 = .ok (.ior, 1) := dk_128 (dk_at dksX2_pane_5 7 rfl rfl)
theorem dX2_pane_128 : decode cX2_pane 128 = .ok (.putfield 220, 3) := dk_181 0 220 (dk_at dksX2_pane_5 8 rfl rfl)
theorem dX2_pane_131 : decode cX2_pane 131 = .ok (.aload_n 0, 1) := dk_42 (dk_at dksX2_pane_5 11 rfl rfl)
theorem dX2_pane_132 : decode cX2_pane 132 = .ok (.bipush 59, 2) := dk_16 59 (dk_at dksX2_pane_5 12 rfl rfl)
theorem dX2_pane_134 : decode cX2_pane 134 = .ok (.invokevirtual 79, 3) := dk_182 0 79 (dk_at dksX2_pane_5 14 rfl rfl)
theorem dX2_pane_137 : decode cX2_pane 137 = .ok (.ifCond .eq (-50), 3) := dk_153 255 206 (dk_at dksX2_pane_5 17 rfl rfl)
theorem dX2_pane_140 : decode cX2_pane 140 = .ok (.aload_n 0, 1) := dk_42 (dk_at dksX2_pane_5 20 rfl rfl)
theorem dX2_pane_141 : decode cX2_pane 141 = .ok (.getfield 101, 3) := dk_180 0 101 (dk_at dksX2_pane_5 21 rfl rfl)
theorem dX2_pane_144 : decode cX2_pane 144 = .ok (.getfield 134, 3) := dk_180 0 134 (dk_at dksX2_pane_6 0 rfl rfl)
theorem dX2_pane_147 : decode cX2_pane 147 = .ok (.aload_n 3, 1) := dk_45 (dk_at dksX2_pane_6 3 rfl rfl)
theorem dX2_pane_148 : decode cX2_pane 148 = .ok (.invokevirtual 176, 3) := dk_182 0 176 (dk_at dksX2_pane_6 4 rfl rfl)
theorem dX2_pane_151 : decode cX2_pane 151 = .ok (.pop, 1) := dk_87 (dk_at dksX2_pane_6 7 rfl rfl)
theorem dX2_pane_152 : decode cX2_pane 152 = .ok (.return_, 1) := dk_177 (dk_at dksX2_pane_6 8 rfl rfl)
abbrev cX2_fresh : ByteArray := prog_16_method_14_code
def yX2_fresh : MethodName := ⟨RX2, "fresh", "()Ljava/lang/String;"⟩
def dkwX2_fresh_2 : List UInt8 := [43, 176]
abbrev dktX2_fresh_2 : List UInt8 := dkwX2_fresh_2 ++ []
def dkwX2_fresh_1 : List UInt8 := [156, 0, 14, 42, 180, 0, 101, 43, 182, 0, 113, 155, 0, 9, 42, 6, 182, 0, 75, 191, 42, 182, 0, 25]
abbrev dktX2_fresh_1 : List UInt8 := dkwX2_fresh_1 ++ dktX2_fresh_2
def dkwX2_fresh_0 : List UInt8 := [42, 182, 0, 98, 76, 42, 180, 0, 101, 43, 182, 0, 105, 156, 0, 25, 42, 180, 0, 101, 43, 182, 0, 110]
abbrev dktX2_fresh_0 : List UInt8 := dkwX2_fresh_0 ++ dktX2_fresh_1
theorem dksX2_fresh_0 : cX2_fresh.data.toList.drop 0 = dktX2_fresh_0 := by decide +kernel
theorem dksX2_fresh_1 : cX2_fresh.data.toList.drop 24 = dktX2_fresh_1 := dk_seg dksX2_fresh_0 24 rfl rfl
theorem dksX2_fresh_2 : cX2_fresh.data.toList.drop 48 = dktX2_fresh_2 := dk_seg dksX2_fresh_1 24 rfl rfl
theorem dX2_fresh_0 : decode cX2_fresh 0 = .ok (.aload_n 0, 1) := dk_42 (dk_at dksX2_fresh_0 0 rfl rfl)
theorem dX2_fresh_1 : decode cX2_fresh 1 = .ok (.invokevirtual 98, 3) := dk_182 0 98 (dk_at dksX2_fresh_0 1 rfl rfl)
theorem dX2_fresh_4 : decode cX2_fresh 4 = .ok (.astore_n 1, 1) := dk_76 (dk_at dksX2_fresh_0 4 rfl rfl)
theorem dX2_fresh_5 : decode cX2_fresh 5 = .ok (.aload_n 0, 1) := dk_42 (dk_at dksX2_fresh_0 5 rfl rfl)
theorem dX2_fresh_6 : decode cX2_fresh 6 = .ok (.getfield 101, 3) := dk_180 0 101 (dk_at dksX2_fresh_0 6 rfl rfl)
theorem dX2_fresh_9 : decode cX2_fresh 9 = .ok (.aload_n 1, 1) := dk_43 (dk_at dksX2_fresh_0 9 rfl rfl)
theorem dX2_fresh_10 : decode cX2_fresh 10 = .ok (.invokevirtual 105, 3) := dk_182 0 105 (dk_at dksX2_fresh_0 10 rfl rfl)
theorem dX2_fresh_13 : decode cX2_fresh 13 = .ok (.ifCond .ge 25, 3) := dk_156 0 25 (dk_at dksX2_fresh_0 13 rfl rfl)
theorem dX2_fresh_16 : decode cX2_fresh 16 = .ok (.aload_n 0, 1) := dk_42 (dk_at dksX2_fresh_0 16 rfl rfl)
theorem dX2_fresh_17 : decode cX2_fresh 17 = .ok (.getfield 101, 3) := dk_180 0 101 (dk_at dksX2_fresh_0 17 rfl rfl)
theorem dX2_fresh_20 : decode cX2_fresh 20 = .ok (.aload_n 1, 1) := dk_43 (dk_at dksX2_fresh_0 20 rfl rfl)
theorem dX2_fresh_21 : decode cX2_fresh 21 = .ok (.invokevirtual 110, 3) := dk_182 0 110 (dk_at dksX2_fresh_0 21 rfl rfl)
theorem dX2_fresh_24 : decode cX2_fresh 24 = .ok (.ifCond .ge 14, 3) := dk_156 0 14 (dk_at dksX2_fresh_1 0 rfl rfl)
theorem dX2_fresh_27 : decode cX2_fresh 27 = .ok (.aload_n 0, 1) := dk_42 (dk_at dksX2_fresh_1 3 rfl rfl)
theorem dX2_fresh_28 : decode cX2_fresh 28 = .ok (.getfield 101, 3) := dk_180 0 101 (dk_at dksX2_fresh_1 4 rfl rfl)
theorem dX2_fresh_31 : decode cX2_fresh 31 = .ok (.aload_n 1, 1) := dk_43 (dk_at dksX2_fresh_1 7 rfl rfl)
theorem dX2_fresh_32 : decode cX2_fresh 32 = .ok (.invokevirtual 113, 3) := dk_182 0 113 (dk_at dksX2_fresh_1 8 rfl rfl)
theorem dX2_fresh_35 : decode cX2_fresh 35 = .ok (.ifCond .lt 9, 3) := dk_155 0 9 (dk_at dksX2_fresh_1 11 rfl rfl)
theorem dX2_fresh_38 : decode cX2_fresh 38 = .ok (.aload_n 0, 1) := dk_42 (dk_at dksX2_fresh_1 14 rfl rfl)
theorem dX2_fresh_39 : decode cX2_fresh 39 = .ok (.iconst 3, 1) := dk_6 (dk_at dksX2_fresh_1 15 rfl rfl)
theorem dX2_fresh_40 : decode cX2_fresh 40 = .ok (.invokevirtual 75, 3) := dk_182 0 75 (dk_at dksX2_fresh_1 16 rfl rfl)
theorem dX2_fresh_43 : decode cX2_fresh 43 = .ok (.athrow, 1) := dk_191 (dk_at dksX2_fresh_1 19 rfl rfl)
theorem dX2_fresh_44 : decode cX2_fresh 44 = .ok (.aload_n 0, 1) := dk_42 (dk_at dksX2_fresh_1 20 rfl rfl)
theorem dX2_fresh_45 : decode cX2_fresh 45 = .ok (.invokevirtual 25, 3) := dk_182 0 25 (dk_at dksX2_fresh_1 21 rfl rfl)
theorem dX2_fresh_48 : decode cX2_fresh 48 = .ok (.aload_n 1, 1) := dk_43 (dk_at dksX2_fresh_2 0 rfl rfl)
theorem dX2_fresh_49 : decode cX2_fresh 49 = .ok (.areturn, 1) := dk_176 (dk_at dksX2_fresh_2 1 rfl rfl)
abbrev cX2_name : ByteArray := prog_16_method_13_code
def yX2_name : MethodName := ⟨RX2, "name", "()Ljava/lang/String;"⟩
def dkwX2_name_2 : List UInt8 := [42, 180, 0, 9, 28, 51, 146, 182, 0, 90, 87, 132, 2, 1, 167, 255, 233, 43, 182, 0, 94, 176]
abbrev dktX2_name_2 : List UInt8 := dkwX2_name_2 ++ []
def dkwX2_name_1 : List UInt8 := [187, 0, 85, 89, 16, 8, 183, 0, 87, 76, 42, 180, 0, 28, 61, 28, 42, 180, 0, 19, 162, 0, 21, 43]
abbrev dktX2_name_1 : List UInt8 := dkwX2_name_1 ++ dktX2_name_2
def dkwX2_name_0 : List UInt8 := [42, 180, 0, 31, 4, 160, 0, 12, 42, 18, 83, 182, 0, 71, 155, 0, 9, 42, 4, 182, 0, 75, 191]
abbrev dktX2_name_0 : List UInt8 := dkwX2_name_0 ++ dktX2_name_1
theorem dksX2_name_0 : cX2_name.data.toList.drop 0 = dktX2_name_0 := by decide +kernel
theorem dksX2_name_1 : cX2_name.data.toList.drop 23 = dktX2_name_1 := dk_seg dksX2_name_0 23 rfl rfl
theorem dksX2_name_2 : cX2_name.data.toList.drop 47 = dktX2_name_2 := dk_seg dksX2_name_1 24 rfl rfl
theorem dX2_name_0 : decode cX2_name 0 = .ok (.aload_n 0, 1) := dk_42 (dk_at dksX2_name_0 0 rfl rfl)
theorem dX2_name_1 : decode cX2_name 1 = .ok (.getfield 31, 3) := dk_180 0 31 (dk_at dksX2_name_0 1 rfl rfl)
theorem dX2_name_4 : decode cX2_name 4 = .ok (.iconst 1, 1) := dk_4 (dk_at dksX2_name_0 4 rfl rfl)
theorem dX2_name_5 : decode cX2_name 5 = .ok (.if_icmp .ne 12, 3) := dk_160 0 12 (dk_at dksX2_name_0 5 rfl rfl)
theorem dX2_name_8 : decode cX2_name 8 = .ok (.aload_n 0, 1) := dk_42 (dk_at dksX2_name_0 8 rfl rfl)
theorem dX2_name_9 : decode cX2_name 9 = .ok (.ldc 83, 2) := dk_18 83 (dk_at dksX2_name_0 9 rfl rfl)
theorem dX2_name_11 : decode cX2_name 11 = .ok (.invokevirtual 71, 3) := dk_182 0 71 (dk_at dksX2_name_0 11 rfl rfl)
theorem dX2_name_14 : decode cX2_name 14 = .ok (.ifCond .lt 9, 3) := dk_155 0 9 (dk_at dksX2_name_0 14 rfl rfl)
theorem dX2_name_17 : decode cX2_name 17 = .ok (.aload_n 0, 1) := dk_42 (dk_at dksX2_name_0 17 rfl rfl)
theorem dX2_name_18 : decode cX2_name 18 = .ok (.iconst 1, 1) := dk_4 (dk_at dksX2_name_0 18 rfl rfl)
theorem dX2_name_19 : decode cX2_name 19 = .ok (.invokevirtual 75, 3) := dk_182 0 75 (dk_at dksX2_name_0 19 rfl rfl)
theorem dX2_name_22 : decode cX2_name 22 = .ok (.athrow, 1) := dk_191 (dk_at dksX2_name_0 22 rfl rfl)
theorem dX2_name_23 : decode cX2_name 23 = .ok (.new 85, 3) := dk_187 0 85 (dk_at dksX2_name_1 0 rfl rfl)
theorem dX2_name_26 : decode cX2_name 26 = .ok (.dup, 1) := dk_89 (dk_at dksX2_name_1 3 rfl rfl)
theorem dX2_name_27 : decode cX2_name 27 = .ok (.bipush 8, 2) := dk_16 8 (dk_at dksX2_name_1 4 rfl rfl)
theorem dX2_name_29 : decode cX2_name 29 = .ok (.invokespecial 87, 3) := dk_183 0 87 (dk_at dksX2_name_1 6 rfl rfl)
theorem dX2_name_32 : decode cX2_name 32 = .ok (.astore_n 1, 1) := dk_76 (dk_at dksX2_name_1 9 rfl rfl)
theorem dX2_name_33 : decode cX2_name 33 = .ok (.aload_n 0, 1) := dk_42 (dk_at dksX2_name_1 10 rfl rfl)
theorem dX2_name_34 : decode cX2_name 34 = .ok (.getfield 28, 3) := dk_180 0 28 (dk_at dksX2_name_1 11 rfl rfl)
theorem dX2_name_37 : decode cX2_name 37 = .ok (.istore_n 2, 1) := dk_61 (dk_at dksX2_name_1 14 rfl rfl)
theorem dX2_name_38 : decode cX2_name 38 = .ok (.iload_n 2, 1) := dk_28 (dk_at dksX2_name_1 15 rfl rfl)
theorem dX2_name_39 : decode cX2_name 39 = .ok (.aload_n 0, 1) := dk_42 (dk_at dksX2_name_1 16 rfl rfl)
theorem dX2_name_40 : decode cX2_name 40 = .ok (.getfield 19, 3) := dk_180 0 19 (dk_at dksX2_name_1 17 rfl rfl)
theorem dX2_name_43 : decode cX2_name 43 = .ok (.if_icmp .ge 21, 3) := dk_162 0 21 (dk_at dksX2_name_1 20 rfl rfl)
theorem dX2_name_46 : decode cX2_name 46 = .ok (.aload_n 1, 1) := dk_43 (dk_at dksX2_name_1 23 rfl rfl)
theorem dX2_name_47 : decode cX2_name 47 = .ok (.aload_n 0, 1) := dk_42 (dk_at dksX2_name_2 0 rfl rfl)
theorem dX2_name_48 : decode cX2_name 48 = .ok (.getfield 9, 3) := dk_180 0 9 (dk_at dksX2_name_2 1 rfl rfl)
theorem dX2_name_51 : decode cX2_name 51 = .ok (.iload_n 2, 1) := dk_28 (dk_at dksX2_name_2 4 rfl rfl)
theorem dX2_name_52 : decode cX2_name 52 = .ok (.baload, 1) := dk_51 (dk_at dksX2_name_2 5 rfl rfl)
theorem dX2_name_53 : decode cX2_name 53 = .ok (.i2c, 1) := dk_146 (dk_at dksX2_name_2 6 rfl rfl)
theorem dX2_name_54 : decode cX2_name 54 = .ok (.invokevirtual 90, 3) := dk_182 0 90 (dk_at dksX2_name_2 7 rfl rfl)
theorem dX2_name_57 : decode cX2_name 57 = .ok (.pop, 1) := dk_87 (dk_at dksX2_name_2 10 rfl rfl)
theorem dX2_name_58 : decode cX2_name 58 = .ok (.iinc 2 1, 3) := dk_132 2 1 (dk_at dksX2_name_2 11 rfl rfl)
theorem dX2_name_61 : decode cX2_name 61 = .ok (.goto (-23), 3) := dk_167 255 233 (dk_at dksX2_name_2 14 rfl rfl)
theorem dX2_name_64 : decode cX2_name 64 = .ok (.aload_n 1, 1) := dk_43 (dk_at dksX2_name_2 17 rfl rfl)
theorem dX2_name_65 : decode cX2_name 65 = .ok (.invokevirtual 94, 3) := dk_182 0 94 (dk_at dksX2_name_2 18 rfl rfl)
theorem dX2_name_68 : decode cX2_name 68 = .ok (.areturn, 1) := dk_176 (dk_at dksX2_name_2 21 rfl rfl)
abbrev cX2_one : ByteArray := prog_16_method_16_code
def yX2_one : MethodName := ⟨RX2, "one", "(Ljava/lang/String;)I"⟩
def dkwX2_one_0 : List UInt8 := [42, 43, 182, 0, 71, 61, 28, 156, 0, 9, 42, 4, 182, 0, 75, 191, 42, 182, 0, 25, 28, 172]
abbrev dktX2_one_0 : List UInt8 := dkwX2_one_0 ++ []
theorem dksX2_one_0 : cX2_one.data.toList.drop 0 = dktX2_one_0 := by decide +kernel
theorem dX2_one_0 : decode cX2_one 0 = .ok (.aload_n 0, 1) := dk_42 (dk_at dksX2_one_0 0 rfl rfl)
theorem dX2_one_1 : decode cX2_one 1 = .ok (.aload_n 1, 1) := dk_43 (dk_at dksX2_one_0 1 rfl rfl)
theorem dX2_one_2 : decode cX2_one 2 = .ok (.invokevirtual 71, 3) := dk_182 0 71 (dk_at dksX2_one_0 2 rfl rfl)
theorem dX2_one_5 : decode cX2_one 5 = .ok (.istore_n 2, 1) := dk_61 (dk_at dksX2_one_0 5 rfl rfl)
theorem dX2_one_6 : decode cX2_one 6 = .ok (.iload_n 2, 1) := dk_28 (dk_at dksX2_one_0 6 rfl rfl)
theorem dX2_one_7 : decode cX2_one 7 = .ok (.ifCond .ge 9, 3) := dk_156 0 9 (dk_at dksX2_one_0 7 rfl rfl)
theorem dX2_one_10 : decode cX2_one 10 = .ok (.aload_n 0, 1) := dk_42 (dk_at dksX2_one_0 10 rfl rfl)
theorem dX2_one_11 : decode cX2_one 11 = .ok (.iconst 1, 1) := dk_4 (dk_at dksX2_one_0 11 rfl rfl)
theorem dX2_one_12 : decode cX2_one 12 = .ok (.invokevirtual 75, 3) := dk_182 0 75 (dk_at dksX2_one_0 12 rfl rfl)
theorem dX2_one_15 : decode cX2_one 15 = .ok (.athrow, 1) := dk_191 (dk_at dksX2_one_0 15 rfl rfl)
theorem dX2_one_16 : decode cX2_one 16 = .ok (.aload_n 0, 1) := dk_42 (dk_at dksX2_one_0 16 rfl rfl)
theorem dX2_one_17 : decode cX2_one 17 = .ok (.invokevirtual 25, 3) := dk_182 0 25 (dk_at dksX2_one_0 17 rfl rfl)
theorem dX2_one_20 : decode cX2_one 20 = .ok (.iload_n 2, 1) := dk_28 (dk_at dksX2_one_0 20 rfl rfl)
theorem dX2_one_21 : decode cX2_one 21 = .ok (.ireturn, 1) := dk_172 (dk_at dksX2_one_0 21 rfl rfl)
abbrev cX2_number : ByteArray := prog_16_method_15_code
def yX2_number : MethodName := ⟨RX2, "number", "(Ljava/lang/String;II)I"⟩
def dkwX2_number_0 : List UInt8 := [42, 43, 182, 0, 116, 42, 28, 29, 182, 0, 120, 172]
abbrev dktX2_number_0 : List UInt8 := dkwX2_number_0 ++ []
theorem dksX2_number_0 : cX2_number.data.toList.drop 0 = dktX2_number_0 := by decide +kernel
theorem dX2_number_0 : decode cX2_number 0 = .ok (.aload_n 0, 1) := dk_42 (dk_at dksX2_number_0 0 rfl rfl)
theorem dX2_number_1 : decode cX2_number 1 = .ok (.aload_n 1, 1) := dk_43 (dk_at dksX2_number_0 1 rfl rfl)
theorem dX2_number_2 : decode cX2_number 2 = .ok (.invokevirtual 116, 3) := dk_182 0 116 (dk_at dksX2_number_0 2 rfl rfl)
theorem dX2_number_5 : decode cX2_number 5 = .ok (.aload_n 0, 1) := dk_42 (dk_at dksX2_number_0 5 rfl rfl)
theorem dX2_number_6 : decode cX2_number 6 = .ok (.iload_n 2, 1) := dk_28 (dk_at dksX2_number_0 6 rfl rfl)
theorem dX2_number_7 : decode cX2_number 7 = .ok (.iload_n 3, 1) := dk_29 (dk_at dksX2_number_0 7 rfl rfl)
theorem dX2_number_8 : decode cX2_number 8 = .ok (.invokevirtual 120, 3) := dk_182 0 120 (dk_at dksX2_number_0 8 rfl rfl)
theorem dX2_number_11 : decode cX2_number 11 = .ok (.ireturn, 1) := dk_172 (dk_at dksX2_number_0 11 rfl rfl)
abbrev cX2_need : ByteArray := prog_16_method_9_code
def yX2_need : MethodName := ⟨RX2, "need", "(Ljava/lang/String;)V"⟩
def dkwX2_need_0 : List UInt8 := [42, 43, 182, 0, 71, 156, 0, 9, 42, 4, 182, 0, 75, 191, 42, 182, 0, 25, 177]
abbrev dktX2_need_0 : List UInt8 := dkwX2_need_0 ++ []
theorem dksX2_need_0 : cX2_need.data.toList.drop 0 = dktX2_need_0 := by decide +kernel
theorem dX2_need_0 : decode cX2_need 0 = .ok (.aload_n 0, 1) := dk_42 (dk_at dksX2_need_0 0 rfl rfl)
theorem dX2_need_1 : decode cX2_need 1 = .ok (.aload_n 1, 1) := dk_43 (dk_at dksX2_need_0 1 rfl rfl)
theorem dX2_need_2 : decode cX2_need 2 = .ok (.invokevirtual 71, 3) := dk_182 0 71 (dk_at dksX2_need_0 2 rfl rfl)
theorem dX2_need_5 : decode cX2_need 5 = .ok (.ifCond .ge 9, 3) := dk_156 0 9 (dk_at dksX2_need_0 5 rfl rfl)
theorem dX2_need_8 : decode cX2_need 8 = .ok (.aload_n 0, 1) := dk_42 (dk_at dksX2_need_0 8 rfl rfl)
theorem dX2_need_9 : decode cX2_need 9 = .ok (.iconst 1, 1) := dk_4 (dk_at dksX2_need_0 9 rfl rfl)
theorem dX2_need_10 : decode cX2_need 10 = .ok (.invokevirtual 75, 3) := dk_182 0 75 (dk_at dksX2_need_0 10 rfl rfl)
theorem dX2_need_13 : decode cX2_need 13 = .ok (.athrow, 1) := dk_191 (dk_at dksX2_need_0 13 rfl rfl)
theorem dX2_need_14 : decode cX2_need 14 = .ok (.aload_n 0, 1) := dk_42 (dk_at dksX2_need_0 14 rfl rfl)
theorem dX2_need_15 : decode cX2_need 15 = .ok (.invokevirtual 25, 3) := dk_182 0 25 (dk_at dksX2_need_0 15 rfl rfl)
theorem dX2_need_18 : decode cX2_need 18 = .ok (.return_, 1) := dk_177 (dk_at dksX2_need_0 18 rfl rfl)
abbrev cX2_number_2 : ByteArray := prog_16_method_12_code
def yX2_number_2 : MethodName := ⟨RX2, "number", "(II)I"⟩
def dkwX2_number_2_1 : List UInt8 := [180, 0, 45, 28, 164, 0, 9, 42, 7, 182, 0, 75, 191, 42, 180, 0, 45, 62, 42, 182, 0, 25, 29, 172]
abbrev dktX2_number_2_1 : List UInt8 := dkwX2_number_2_1 ++ []
def dkwX2_number_2_0 : List UInt8 := [42, 180, 0, 31, 5, 159, 0, 9, 42, 4, 182, 0, 75, 191, 42, 180, 0, 45, 27, 161, 0, 11, 42]
abbrev dktX2_number_2_0 : List UInt8 := dkwX2_number_2_0 ++ dktX2_number_2_1
theorem dksX2_number_2_0 : cX2_number_2.data.toList.drop 0 = dktX2_number_2_0 := by decide +kernel
theorem dksX2_number_2_1 : cX2_number_2.data.toList.drop 23 = dktX2_number_2_1 := dk_seg dksX2_number_2_0 23 rfl rfl
theorem dX2_number_2_0 : decode cX2_number_2 0 = .ok (.aload_n 0, 1) := dk_42 (dk_at dksX2_number_2_0 0 rfl rfl)
theorem dX2_number_2_1 : decode cX2_number_2 1 = .ok (.getfield 31, 3) := dk_180 0 31 (dk_at dksX2_number_2_0 1 rfl rfl)
theorem dX2_number_2_4 : decode cX2_number_2 4 = .ok (.iconst 2, 1) := dk_5 (dk_at dksX2_number_2_0 4 rfl rfl)
theorem dX2_number_2_5 : decode cX2_number_2 5 = .ok (.if_icmp .eq 9, 3) := dk_159 0 9 (dk_at dksX2_number_2_0 5 rfl rfl)
theorem dX2_number_2_8 : decode cX2_number_2 8 = .ok (.aload_n 0, 1) := dk_42 (dk_at dksX2_number_2_0 8 rfl rfl)
theorem dX2_number_2_9 : decode cX2_number_2 9 = .ok (.iconst 1, 1) := dk_4 (dk_at dksX2_number_2_0 9 rfl rfl)
theorem dX2_number_2_10 : decode cX2_number_2 10 = .ok (.invokevirtual 75, 3) := dk_182 0 75 (dk_at dksX2_number_2_0 10 rfl rfl)
theorem dX2_number_2_13 : decode cX2_number_2 13 = .ok (.athrow, 1) := dk_191 (dk_at dksX2_number_2_0 13 rfl rfl)
theorem dX2_number_2_14 : decode cX2_number_2 14 = .ok (.aload_n 0, 1) := dk_42 (dk_at dksX2_number_2_0 14 rfl rfl)
theorem dX2_number_2_15 : decode cX2_number_2 15 = .ok (.getfield 45, 3) := dk_180 0 45 (dk_at dksX2_number_2_0 15 rfl rfl)
theorem dX2_number_2_18 : decode cX2_number_2 18 = .ok (.iload_n 1, 1) := dk_27 (dk_at dksX2_number_2_0 18 rfl rfl)
theorem dX2_number_2_19 : decode cX2_number_2 19 = .ok (.if_icmp .lt 11, 3) := dk_161 0 11 (dk_at dksX2_number_2_0 19 rfl rfl)
theorem dX2_number_2_22 : decode cX2_number_2 22 = .ok (.aload_n 0, 1) := dk_42 (dk_at dksX2_number_2_0 22 rfl rfl)
theorem dX2_number_2_23 : decode cX2_number_2 23 = .ok (.getfield 45, 3) := dk_180 0 45 (dk_at dksX2_number_2_1 0 rfl rfl)
theorem dX2_number_2_26 : decode cX2_number_2 26 = .ok (.iload_n 2, 1) := dk_28 (dk_at dksX2_number_2_1 3 rfl rfl)
theorem dX2_number_2_27 : decode cX2_number_2 27 = .ok (.if_icmp .le 9, 3) := dk_164 0 9 (dk_at dksX2_number_2_1 4 rfl rfl)
theorem dX2_number_2_30 : decode cX2_number_2 30 = .ok (.aload_n 0, 1) := dk_42 (dk_at dksX2_number_2_1 7 rfl rfl)
theorem dX2_number_2_31 : decode cX2_number_2 31 = .ok (.iconst 4, 1) := dk_7 (dk_at dksX2_number_2_1 8 rfl rfl)
theorem dX2_number_2_32 : decode cX2_number_2 32 = .ok (.invokevirtual 75, 3) := dk_182 0 75 (dk_at dksX2_number_2_1 9 rfl rfl)
theorem dX2_number_2_35 : decode cX2_number_2 35 = .ok (.athrow, 1) := dk_191 (dk_at dksX2_number_2_1 12 rfl rfl)
theorem dX2_number_2_36 : decode cX2_number_2 36 = .ok (.aload_n 0, 1) := dk_42 (dk_at dksX2_number_2_1 13 rfl rfl)
theorem dX2_number_2_37 : decode cX2_number_2 37 = .ok (.getfield 45, 3) := dk_180 0 45 (dk_at dksX2_number_2_1 14 rfl rfl)
theorem dX2_number_2_40 : decode cX2_number_2 40 = .ok (.istore_n 3, 1) := dk_62 (dk_at dksX2_number_2_1 17 rfl rfl)
theorem dX2_number_2_41 : decode cX2_number_2 41 = .ok (.aload_n 0, 1) := dk_42 (dk_at dksX2_number_2_1 18 rfl rfl)
theorem dX2_number_2_42 : decode cX2_number_2 42 = .ok (.invokevirtual 25, 3) := dk_182 0 25 (dk_at dksX2_number_2_1 19 rfl rfl)
theorem dX2_number_2_45 : decode cX2_number_2 45 = .ok (.iload_n 3, 1) := dk_29 (dk_at dksX2_number_2_1 22 rfl rfl)
theorem dX2_number_2_46 : decode cX2_number_2 46 = .ok (.ireturn, 1) := dk_172 (dk_at dksX2_number_2_1 23 rfl rfl)
abbrev cX2_ahead : ByteArray := prog_16_method_17_code
def yX2_ahead : MethodName := ⟨RX2, "ahead", "(II)I"⟩
def dkwX2_ahead_2 : List UInt8 := [132, 4, 1, 167, 255, 228, 29, 27, 28, 184, 0, 123, 154, 0, 9, 42, 7, 182, 0, 75, 191, 29, 172]
abbrev dktX2_ahead_2 : List UInt8 := dkwX2_ahead_2 ++ []
def dkwX2_ahead_1 : List UInt8 := [42, 180, 0, 19, 162, 0, 25, 29, 16, 10, 104, 42, 180, 0, 9, 21, 4, 51, 96, 16, 48, 100, 62]
abbrev dktX2_ahead_1 : List UInt8 := dkwX2_ahead_1 ++ dktX2_ahead_2
def dkwX2_ahead_0 : List UInt8 := [42, 180, 0, 31, 5, 159, 0, 9, 42, 4, 182, 0, 75, 191, 3, 62, 42, 180, 0, 28, 54, 4, 21, 4]
abbrev dktX2_ahead_0 : List UInt8 := dkwX2_ahead_0 ++ dktX2_ahead_1
theorem dksX2_ahead_0 : cX2_ahead.data.toList.drop 0 = dktX2_ahead_0 := by decide +kernel
theorem dksX2_ahead_1 : cX2_ahead.data.toList.drop 24 = dktX2_ahead_1 := dk_seg dksX2_ahead_0 24 rfl rfl
theorem dksX2_ahead_2 : cX2_ahead.data.toList.drop 47 = dktX2_ahead_2 := dk_seg dksX2_ahead_1 23 rfl rfl
theorem dX2_ahead_0 : decode cX2_ahead 0 = .ok (.aload_n 0, 1) := dk_42 (dk_at dksX2_ahead_0 0 rfl rfl)
theorem dX2_ahead_1 : decode cX2_ahead 1 = .ok (.getfield 31, 3) := dk_180 0 31 (dk_at dksX2_ahead_0 1 rfl rfl)
theorem dX2_ahead_4 : decode cX2_ahead 4 = .ok (.iconst 2, 1) := dk_5 (dk_at dksX2_ahead_0 4 rfl rfl)
theorem dX2_ahead_5 : decode cX2_ahead 5 = .ok (.if_icmp .eq 9, 3) := dk_159 0 9 (dk_at dksX2_ahead_0 5 rfl rfl)
theorem dX2_ahead_8 : decode cX2_ahead 8 = .ok (.aload_n 0, 1) := dk_42 (dk_at dksX2_ahead_0 8 rfl rfl)
theorem dX2_ahead_9 : decode cX2_ahead 9 = .ok (.iconst 1, 1) := dk_4 (dk_at dksX2_ahead_0 9 rfl rfl)
theorem dX2_ahead_10 : decode cX2_ahead 10 = .ok (.invokevirtual 75, 3) := dk_182 0 75 (dk_at dksX2_ahead_0 10 rfl rfl)
theorem dX2_ahead_13 : decode cX2_ahead 13 = .ok (.athrow, 1) := dk_191 (dk_at dksX2_ahead_0 13 rfl rfl)
theorem dX2_ahead_14 : decode cX2_ahead 14 = .ok (.iconst 0, 1) := dk_3 (dk_at dksX2_ahead_0 14 rfl rfl)
theorem dX2_ahead_15 : decode cX2_ahead 15 = .ok (.istore_n 3, 1) := dk_62 (dk_at dksX2_ahead_0 15 rfl rfl)
theorem dX2_ahead_16 : decode cX2_ahead 16 = .ok (.aload_n 0, 1) := dk_42 (dk_at dksX2_ahead_0 16 rfl rfl)
theorem dX2_ahead_17 : decode cX2_ahead 17 = .ok (.getfield 28, 3) := dk_180 0 28 (dk_at dksX2_ahead_0 17 rfl rfl)
theorem dX2_ahead_20 : decode cX2_ahead 20 = .ok (.istore 4, 2) := dk_54 4 (dk_at dksX2_ahead_0 20 rfl rfl)
theorem dX2_ahead_22 : decode cX2_ahead 22 = .ok (.iload 4, 2) := dk_21 4 (dk_at dksX2_ahead_0 22 rfl rfl)
theorem dX2_ahead_24 : decode cX2_ahead 24 = .ok (.aload_n 0, 1) := dk_42 (dk_at dksX2_ahead_1 0 rfl rfl)
theorem dX2_ahead_25 : decode cX2_ahead 25 = .ok (.getfield 19, 3) := dk_180 0 19 (dk_at dksX2_ahead_1 1 rfl rfl)
theorem dX2_ahead_28 : decode cX2_ahead 28 = .ok (.if_icmp .ge 25, 3) := dk_162 0 25 (dk_at dksX2_ahead_1 4 rfl rfl)
theorem dX2_ahead_31 : decode cX2_ahead 31 = .ok (.iload_n 3, 1) := dk_29 (dk_at dksX2_ahead_1 7 rfl rfl)
theorem dX2_ahead_32 : decode cX2_ahead 32 = .ok (.bipush 10, 2) := dk_16 10 (dk_at dksX2_ahead_1 8 rfl rfl)
theorem dX2_ahead_34 : decode cX2_ahead 34 = .ok (.imul, 1) := dk_104 (dk_at dksX2_ahead_1 10 rfl rfl)
theorem dX2_ahead_35 : decode cX2_ahead 35 = .ok (.aload_n 0, 1) := dk_42 (dk_at dksX2_ahead_1 11 rfl rfl)
theorem dX2_ahead_36 : decode cX2_ahead 36 = .ok (.getfield 9, 3) := dk_180 0 9 (dk_at dksX2_ahead_1 12 rfl rfl)
theorem dX2_ahead_39 : decode cX2_ahead 39 = .ok (.iload 4, 2) := dk_21 4 (dk_at dksX2_ahead_1 15 rfl rfl)
theorem dX2_ahead_41 : decode cX2_ahead 41 = .ok (.baload, 1) := dk_51 (dk_at dksX2_ahead_1 17 rfl rfl)
theorem dX2_ahead_42 : decode cX2_ahead 42 = .ok (.iadd, 1) := dk_96 (dk_at dksX2_ahead_1 18 rfl rfl)
theorem dX2_ahead_43 : decode cX2_ahead 43 = .ok (.bipush 48, 2) := dk_16 48 (dk_at dksX2_ahead_1 19 rfl rfl)
theorem dX2_ahead_45 : decode cX2_ahead 45 = .ok (.isub, 1) := dk_100 (dk_at dksX2_ahead_1 21 rfl rfl)
theorem dX2_ahead_46 : decode cX2_ahead 46 = .ok (.istore_n 3, 1) := dk_62 (dk_at dksX2_ahead_1 22 rfl rfl)
theorem dX2_ahead_47 : decode cX2_ahead 47 = .ok (.iinc 4 1, 3) := dk_132 4 1 (dk_at dksX2_ahead_2 0 rfl rfl)
theorem dX2_ahead_50 : decode cX2_ahead 50 = .ok (.goto (-28), 3) := dk_167 255 228 (dk_at dksX2_ahead_2 3 rfl rfl)
theorem dX2_ahead_53 : decode cX2_ahead 53 = .ok (.iload_n 3, 1) := dk_29 (dk_at dksX2_ahead_2 6 rfl rfl)
theorem dX2_ahead_54 : decode cX2_ahead 54 = .ok (.iload_n 1, 1) := dk_27 (dk_at dksX2_ahead_2 7 rfl rfl)
theorem dX2_ahead_55 : decode cX2_ahead 55 = .ok (.iload_n 2, 1) := dk_28 (dk_at dksX2_ahead_2 8 rfl rfl)
theorem dX2_ahead_56 : decode cX2_ahead 56 = .ok (.invokestatic 123, 3) := dk_184 0 123 (dk_at dksX2_ahead_2 9 rfl rfl)
theorem dX2_ahead_59 : decode cX2_ahead 59 = .ok (.ifCond .ne 9, 3) := dk_154 0 9 (dk_at dksX2_ahead_2 12 rfl rfl)
theorem dX2_ahead_62 : decode cX2_ahead 62 = .ok (.aload_n 0, 1) := dk_42 (dk_at dksX2_ahead_2 15 rfl rfl)
theorem dX2_ahead_63 : decode cX2_ahead 63 = .ok (.iconst 4, 1) := dk_7 (dk_at dksX2_ahead_2 16 rfl rfl)
theorem dX2_ahead_64 : decode cX2_ahead 64 = .ok (.invokevirtual 75, 3) := dk_182 0 75 (dk_at dksX2_ahead_2 17 rfl rfl)
theorem dX2_ahead_67 : decode cX2_ahead 67 = .ok (.athrow, 1) := dk_191 (dk_at dksX2_ahead_2 20 rfl rfl)
theorem dX2_ahead_68 : decode cX2_ahead 68 = .ok (.iload_n 3, 1) := dk_29 (dk_at dksX2_ahead_2 21 rfl rfl)
theorem dX2_ahead_69 : decode cX2_ahead 69 = .ok (.ireturn, 1) := dk_172 (dk_at dksX2_ahead_2 22 rfl rfl)
abbrev cX2_isSign : ByteArray := prog_16_method_10_code
def yX2_isSign : MethodName := ⟨RX2, "isSign", "(C)Z"⟩
def dkwX2_isSign_1 : List UInt8 := [167, 0, 4, 3, 172]
abbrev dktX2_isSign_1 : List UInt8 := dkwX2_isSign_1 ++ []
def dkwX2_isSign_0 : List UInt8 := [42, 180, 0, 31, 6, 160, 0, 20, 42, 180, 0, 9, 42, 180, 0, 28, 51, 27, 160, 0, 7, 4]
abbrev dktX2_isSign_0 : List UInt8 := dkwX2_isSign_0 ++ dktX2_isSign_1
theorem dksX2_isSign_0 : cX2_isSign.data.toList.drop 0 = dktX2_isSign_0 := by decide +kernel
theorem dksX2_isSign_1 : cX2_isSign.data.toList.drop 22 = dktX2_isSign_1 := dk_seg dksX2_isSign_0 22 rfl rfl
theorem dX2_isSign_0 : decode cX2_isSign 0 = .ok (.aload_n 0, 1) := dk_42 (dk_at dksX2_isSign_0 0 rfl rfl)
theorem dX2_isSign_1 : decode cX2_isSign 1 = .ok (.getfield 31, 3) := dk_180 0 31 (dk_at dksX2_isSign_0 1 rfl rfl)
theorem dX2_isSign_4 : decode cX2_isSign 4 = .ok (.iconst 3, 1) := dk_6 (dk_at dksX2_isSign_0 4 rfl rfl)
theorem dX2_isSign_5 : decode cX2_isSign 5 = .ok (.if_icmp .ne 20, 3) := dk_160 0 20 (dk_at dksX2_isSign_0 5 rfl rfl)
theorem dX2_isSign_8 : decode cX2_isSign 8 = .ok (.aload_n 0, 1) := dk_42 (dk_at dksX2_isSign_0 8 rfl rfl)
theorem dX2_isSign_9 : decode cX2_isSign 9 = .ok (.getfield 9, 3) := dk_180 0 9 (dk_at dksX2_isSign_0 9 rfl rfl)
theorem dX2_isSign_12 : decode cX2_isSign 12 = .ok (.aload_n 0, 1) := dk_42 (dk_at dksX2_isSign_0 12 rfl rfl)
theorem dX2_isSign_13 : decode cX2_isSign 13 = .ok (.getfield 28, 3) := dk_180 0 28 (dk_at dksX2_isSign_0 13 rfl rfl)
theorem dX2_isSign_16 : decode cX2_isSign 16 = .ok (.baload, 1) := dk_51 (dk_at dksX2_isSign_0 16 rfl rfl)
theorem dX2_isSign_17 : decode cX2_isSign 17 = .ok (.iload_n 1, 1) := dk_27 (dk_at dksX2_isSign_0 17 rfl rfl)
theorem dX2_isSign_18 : decode cX2_isSign 18 = .ok (.if_icmp .ne 7, 3) := dk_160 0 7 (dk_at dksX2_isSign_0 18 rfl rfl)
theorem dX2_isSign_21 : decode cX2_isSign 21 = .ok (.iconst 1, 1) := dk_4 (dk_at dksX2_isSign_0 21 rfl rfl)
theorem dX2_isSign_22 : decode cX2_isSign 22 = .ok (.goto 4, 3) := dk_167 0 4 (dk_at dksX2_isSign_1 0 rfl rfl)
theorem dX2_isSign_25 : decode cX2_isSign 25 = .ok (.iconst 0, 1) := dk_3 (dk_at dksX2_isSign_1 3 rfl rfl)
theorem dX2_isSign_26 : decode cX2_isSign 26 = .ok (.ireturn, 1) := dk_172 (dk_at dksX2_isSign_1 4 rfl rfl)
abbrev cX2_expression : ByteArray := prog_16_method_26_code
def yX2_expression : MethodName := ⟨RX2, "expression", "()LGlassStreet$Expression;"⟩
def dkwX2_expression_2 : List UInt8 := [167, 255, 214]
abbrev dktX2_expression_2 : List UInt8 := dkwX2_expression_2 ++ []
def dkwX2_expression_1 : List UInt8 := [187, 1, 3, 89, 28, 154, 0, 8, 16, 38, 167, 0, 5, 16, 124, 43, 42, 182, 0, 254, 183, 1, 5, 76]
abbrev dktX2_expression_1 : List UInt8 := dkwX2_expression_1 ++ dktX2_expression_2
def dkwX2_expression_0 : List UInt8 := [42, 182, 0, 254, 76, 42, 19, 1, 1, 182, 0, 71, 61, 28, 156, 0, 5, 43, 176, 42, 182, 0, 25]
abbrev dktX2_expression_0 : List UInt8 := dkwX2_expression_0 ++ dktX2_expression_1
theorem dksX2_expression_0 : cX2_expression.data.toList.drop 0 = dktX2_expression_0 := by decide +kernel
theorem dksX2_expression_1 : cX2_expression.data.toList.drop 23 = dktX2_expression_1 := dk_seg dksX2_expression_0 23 rfl rfl
theorem dksX2_expression_2 : cX2_expression.data.toList.drop 47 = dktX2_expression_2 := dk_seg dksX2_expression_1 24 rfl rfl
theorem dX2_expression_0 : decode cX2_expression 0 = .ok (.aload_n 0, 1) := dk_42 (dk_at dksX2_expression_0 0 rfl rfl)
theorem dX2_expression_1 : decode cX2_expression 1 = .ok (.invokevirtual 254, 3) := dk_182 0 254 (dk_at dksX2_expression_0 1 rfl rfl)
theorem dX2_expression_4 : decode cX2_expression 4 = .ok (.astore_n 1, 1) := dk_76 (dk_at dksX2_expression_0 4 rfl rfl)
theorem dX2_expression_5 : decode cX2_expression 5 = .ok (.aload_n 0, 1) := dk_42 (dk_at dksX2_expression_0 5 rfl rfl)
theorem dX2_expression_6 : decode cX2_expression 6 = .ok (.ldc_w 257, 3) := dk_19 1 1 (dk_at dksX2_expression_0 6 rfl rfl)
theorem dX2_expression_9 : decode cX2_expression 9 = .ok (.invokevirtual 71, 3) := dk_182 0 71 (dk_at dksX2_expression_0 9 rfl rfl)
theorem dX2_expression_12 : decode cX2_expression 12 = .ok (.istore_n 2, 1) := dk_61 (dk_at dksX2_expression_0 12 rfl rfl)
theorem dX2_expression_13 : decode cX2_expression 13 = .ok (.iload_n 2, 1) := dk_28 (dk_at dksX2_expression_0 13 rfl rfl)
theorem dX2_expression_14 : decode cX2_expression 14 = .ok (.ifCond .ge 5, 3) := dk_156 0 5 (dk_at dksX2_expression_0 14 rfl rfl)
theorem dX2_expression_17 : decode cX2_expression 17 = .ok (.aload_n 1, 1) := dk_43 (dk_at dksX2_expression_0 17 rfl rfl)
theorem dX2_expression_18 : decode cX2_expression 18 = .ok (.areturn, 1) := dk_176 (dk_at dksX2_expression_0 18 rfl rfl)
theorem dX2_expression_19 : decode cX2_expression 19 = .ok (.aload_n 0, 1) := dk_42 (dk_at dksX2_expression_0 19 rfl rfl)
theorem dX2_expression_20 : decode cX2_expression 20 = .ok (.invokevirtual 25, 3) := dk_182 0 25 (dk_at dksX2_expression_0 20 rfl rfl)
theorem dX2_expression_23 : decode cX2_expression 23 = .ok (.new 259, 3) := dk_187 1 3 (dk_at dksX2_expression_1 0 rfl rfl)
theorem dX2_expression_26 : decode cX2_expression 26 = .ok (.dup, 1) := dk_89 (dk_at dksX2_expression_1 3 rfl rfl)
theorem dX2_expression_27 : decode cX2_expression 27 = .ok (.iload_n 2, 1) := dk_28 (dk_at dksX2_expression_1 4 rfl rfl)
theorem dX2_expression_28 : decode cX2_expression 28 = .ok (.ifCond .ne 8, 3) := dk_154 0 8 (dk_at dksX2_expression_1 5 rfl rfl)
theorem dX2_expression_31 : decode cX2_expression 31 = .ok (.bipush 38, 2) := dk_16 38 (dk_at dksX2_expression_1 8 rfl rfl)
theorem dX2_expression_33 : decode cX2_expression 33 = .ok (.goto 5, 3) := dk_167 0 5 (dk_at dksX2_expression_1 10 rfl rfl)
theorem dX2_expression_36 : decode cX2_expression 36 = .ok (.bipush 124, 2) := dk_16 124 (dk_at dksX2_expression_1 13 rfl rfl)
theorem dX2_expression_38 : decode cX2_expression 38 = .ok (.aload_n 1, 1) := dk_43 (dk_at dksX2_expression_1 15 rfl rfl)
theorem dX2_expression_39 : decode cX2_expression 39 = .ok (.aload_n 0, 1) := dk_42 (dk_at dksX2_expression_1 16 rfl rfl)
theorem dX2_expression_40 : decode cX2_expression 40 = .ok (.invokevirtual 254, 3) := dk_182 0 254 (dk_at dksX2_expression_1 17 rfl rfl)
theorem dX2_expression_43 : decode cX2_expression 43 = .ok (.invokespecial 261, 3) := dk_183 1 5 (dk_at dksX2_expression_1 20 rfl rfl)
theorem dX2_expression_46 : decode cX2_expression 46 = .ok (.astore_n 1, 1) := dk_76 (dk_at dksX2_expression_1 23 rfl rfl)
theorem dX2_expression_47 : decode cX2_expression 47 = .ok (.goto (-42), 3) := dk_167 255 214 (dk_at dksX2_expression_2 0 rfl rfl)
abbrev cX2_test : ByteArray := prog_16_method_27_code
def yX2_test : MethodName := ⟨RX2, "test", "()LGlassStreet$Expression;"⟩
def dkwX2_test_2 : List UInt8 := [182, 0, 25, 187, 1, 3, 89, 28, 43, 42, 182, 1, 8, 183, 1, 5, 176]
abbrev dktX2_test_2 : List UInt8 := dkwX2_test_2 ++ []
def dkwX2_test_1 : List UInt8 := [182, 0, 79, 153, 0, 8, 16, 61, 167, 0, 5, 16, 32, 61, 28, 16, 32, 160, 0, 5, 43, 176, 42]
abbrev dktX2_test_1 : List UInt8 := dkwX2_test_1 ++ dktX2_test_2
def dkwX2_test_0 : List UInt8 := [42, 182, 1, 8, 76, 42, 16, 60, 182, 0, 79, 153, 0, 8, 16, 60, 167, 0, 19, 42, 16, 61]
abbrev dktX2_test_0 : List UInt8 := dkwX2_test_0 ++ dktX2_test_1
theorem dksX2_test_0 : cX2_test.data.toList.drop 0 = dktX2_test_0 := by decide +kernel
theorem dksX2_test_1 : cX2_test.data.toList.drop 22 = dktX2_test_1 := dk_seg dksX2_test_0 22 rfl rfl
theorem dksX2_test_2 : cX2_test.data.toList.drop 45 = dktX2_test_2 := dk_seg dksX2_test_1 23 rfl rfl
theorem dX2_test_0 : decode cX2_test 0 = .ok (.aload_n 0, 1) := dk_42 (dk_at dksX2_test_0 0 rfl rfl)
theorem dX2_test_1 : decode cX2_test 1 = .ok (.invokevirtual 264, 3) := dk_182 1 8 (dk_at dksX2_test_0 1 rfl rfl)
theorem dX2_test_4 : decode cX2_test 4 = .ok (.astore_n 1, 1) := dk_76 (dk_at dksX2_test_0 4 rfl rfl)
theorem dX2_test_5 : decode cX2_test 5 = .ok (.aload_n 0, 1) := dk_42 (dk_at dksX2_test_0 5 rfl rfl)
theorem dX2_test_6 : decode cX2_test 6 = .ok (.bipush 60, 2) := dk_16 60 (dk_at dksX2_test_0 6 rfl rfl)
theorem dX2_test_8 : decode cX2_test 8 = .ok (.invokevirtual 79, 3) := dk_182 0 79 (dk_at dksX2_test_0 8 rfl rfl)
theorem dX2_test_11 : decode cX2_test 11 = .ok (.ifCond .eq 8, 3) := dk_153 0 8 (dk_at dksX2_test_0 11 rfl rfl)
theorem dX2_test_14 : decode cX2_test 14 = .ok (.bipush 60, 2) := dk_16 60 (dk_at dksX2_test_0 14 rfl rfl)
theorem dX2_test_16 : decode cX2_test 16 = .ok (.goto 19, 3) := dk_167 0 19 (dk_at dksX2_test_0 16 rfl rfl)
theorem dX2_test_19 : decode cX2_test 19 = .ok (.aload_n 0, 1) := dk_42 (dk_at dksX2_test_0 19 rfl rfl)
theorem dX2_test_20 : decode cX2_test 20 = .ok (.bipush 61, 2) := dk_16 61 (dk_at dksX2_test_0 20 rfl rfl)
theorem dX2_test_22 : decode cX2_test 22 = .ok (.invokevirtual 79, 3) := dk_182 0 79 (dk_at dksX2_test_1 0 rfl rfl)
theorem dX2_test_25 : decode cX2_test 25 = .ok (.ifCond .eq 8, 3) := dk_153 0 8 (dk_at dksX2_test_1 3 rfl rfl)
theorem dX2_test_28 : decode cX2_test 28 = .ok (.bipush 61, 2) := dk_16 61 (dk_at dksX2_test_1 6 rfl rfl)
theorem dX2_test_30 : decode cX2_test 30 = .ok (.goto 5, 3) := dk_167 0 5 (dk_at dksX2_test_1 8 rfl rfl)
theorem dX2_test_33 : decode cX2_test 33 = .ok (.bipush 32, 2) := dk_16 32 (dk_at dksX2_test_1 11 rfl rfl)
theorem dX2_test_35 : decode cX2_test 35 = .ok (.istore_n 2, 1) := dk_61 (dk_at dksX2_test_1 13 rfl rfl)
theorem dX2_test_36 : decode cX2_test 36 = .ok (.iload_n 2, 1) := dk_28 (dk_at dksX2_test_1 14 rfl rfl)
theorem dX2_test_37 : decode cX2_test 37 = .ok (.bipush 32, 2) := dk_16 32 (dk_at dksX2_test_1 15 rfl rfl)
theorem dX2_test_39 : decode cX2_test 39 = .ok (.if_icmp .ne 5, 3) := dk_160 0 5 (dk_at dksX2_test_1 17 rfl rfl)
theorem dX2_test_42 : decode cX2_test 42 = .ok (.aload_n 1, 1) := dk_43 (dk_at dksX2_test_1 20 rfl rfl)
theorem dX2_test_43 : decode cX2_test 43 = .ok (.areturn, 1) := dk_176 (dk_at dksX2_test_1 21 rfl rfl)
theorem dX2_test_44 : decode cX2_test 44 = .ok (.aload_n 0, 1) := dk_42 (dk_at dksX2_test_1 22 rfl rfl)
theorem dX2_test_45 : decode cX2_test 45 = .ok (.invokevirtual 25, 3) := dk_182 0 25 (dk_at dksX2_test_2 0 rfl rfl)
theorem dX2_test_48 : decode cX2_test 48 = .ok (.new 259, 3) := dk_187 1 3 (dk_at dksX2_test_2 3 rfl rfl)
theorem dX2_test_51 : decode cX2_test 51 = .ok (.dup, 1) := dk_89 (dk_at dksX2_test_2 6 rfl rfl)
theorem dX2_test_52 : decode cX2_test 52 = .ok (.iload_n 2, 1) := dk_28 (dk_at dksX2_test_2 7 rfl rfl)
theorem dX2_test_53 : decode cX2_test 53 = .ok (.aload_n 1, 1) := dk_43 (dk_at dksX2_test_2 8 rfl rfl)
theorem dX2_test_54 : decode cX2_test 54 = .ok (.aload_n 0, 1) := dk_42 (dk_at dksX2_test_2 9 rfl rfl)
theorem dX2_test_55 : decode cX2_test 55 = .ok (.invokevirtual 264, 3) := dk_182 1 8 (dk_at dksX2_test_2 10 rfl rfl)
theorem dX2_test_58 : decode cX2_test 58 = .ok (.invokespecial 261, 3) := dk_183 1 5 (dk_at dksX2_test_2 13 rfl rfl)
theorem dX2_test_61 : decode cX2_test 61 = .ok (.areturn, 1) := dk_176 (dk_at dksX2_test_2 16 rfl rfl)
abbrev cX2_sum : ByteArray := prog_16_method_28_code
def yX2_sum : MethodName := ⟨RX2, "sum", "()LGlassStreet$Expression;"⟩
def dkwX2_sum_2 : List UInt8 := [28, 43, 42, 182, 1, 11, 183, 1, 5, 76, 167, 255, 203, 43, 176]
abbrev dktX2_sum_2 : List UInt8 := dkwX2_sum_2 ++ []
def dkwX2_sum_1 : List UInt8 := [16, 43, 182, 0, 79, 153, 0, 8, 16, 43, 167, 0, 5, 16, 45, 61, 42, 182, 0, 25, 187, 1, 3, 89]
abbrev dktX2_sum_1 : List UInt8 := dkwX2_sum_1 ++ dktX2_sum_2
def dkwX2_sum_0 : List UInt8 := [42, 182, 1, 11, 76, 42, 16, 43, 182, 0, 79, 154, 0, 12, 42, 16, 45, 182, 0, 79, 153, 0, 41, 42]
abbrev dktX2_sum_0 : List UInt8 := dkwX2_sum_0 ++ dktX2_sum_1
theorem dksX2_sum_0 : cX2_sum.data.toList.drop 0 = dktX2_sum_0 := by decide +kernel
theorem dksX2_sum_1 : cX2_sum.data.toList.drop 24 = dktX2_sum_1 := dk_seg dksX2_sum_0 24 rfl rfl
theorem dksX2_sum_2 : cX2_sum.data.toList.drop 48 = dktX2_sum_2 := dk_seg dksX2_sum_1 24 rfl rfl
theorem dX2_sum_0 : decode cX2_sum 0 = .ok (.aload_n 0, 1) := dk_42 (dk_at dksX2_sum_0 0 rfl rfl)
theorem dX2_sum_1 : decode cX2_sum 1 = .ok (.invokevirtual 267, 3) := dk_182 1 11 (dk_at dksX2_sum_0 1 rfl rfl)
theorem dX2_sum_4 : decode cX2_sum 4 = .ok (.astore_n 1, 1) := dk_76 (dk_at dksX2_sum_0 4 rfl rfl)
theorem dX2_sum_5 : decode cX2_sum 5 = .ok (.aload_n 0, 1) := dk_42 (dk_at dksX2_sum_0 5 rfl rfl)
theorem dX2_sum_6 : decode cX2_sum 6 = .ok (.bipush 43, 2) := dk_16 43 (dk_at dksX2_sum_0 6 rfl rfl)
theorem dX2_sum_8 : decode cX2_sum 8 = .ok (.invokevirtual 79, 3) := dk_182 0 79 (dk_at dksX2_sum_0 8 rfl rfl)
theorem dX2_sum_11 : decode cX2_sum 11 = .ok (.ifCond .ne 12, 3) := dk_154 0 12 (dk_at dksX2_sum_0 11 rfl rfl)
theorem dX2_sum_14 : decode cX2_sum 14 = .ok (.aload_n 0, 1) := dk_42 (dk_at dksX2_sum_0 14 rfl rfl)
theorem dX2_sum_15 : decode cX2_sum 15 = .ok (.bipush 45, 2) := dk_16 45 (dk_at dksX2_sum_0 15 rfl rfl)
theorem dX2_sum_17 : decode cX2_sum 17 = .ok (.invokevirtual 79, 3) := dk_182 0 79 (dk_at dksX2_sum_0 17 rfl rfl)
theorem dX2_sum_20 : decode cX2_sum 20 = .ok (.ifCond .eq 41, 3) := dk_153 0 41 (dk_at dksX2_sum_0 20 rfl rfl)
theorem dX2_sum_23 : decode cX2_sum 23 = .ok (.aload_n 0, 1) := dk_42 (dk_at dksX2_sum_0 23 rfl rfl)
theorem dX2_sum_24 : decode cX2_sum 24 = .ok (.bipush 43, 2) := dk_16 43 (dk_at dksX2_sum_1 0 rfl rfl)
theorem dX2_sum_26 : decode cX2_sum 26 = .ok (.invokevirtual 79, 3) := dk_182 0 79 (dk_at dksX2_sum_1 2 rfl rfl)
theorem dX2_sum_29 : decode cX2_sum 29 = .ok (.ifCond .eq 8, 3) := dk_153 0 8 (dk_at dksX2_sum_1 5 rfl rfl)
theorem dX2_sum_32 : decode cX2_sum 32 = .ok (.bipush 43, 2) := dk_16 43 (dk_at dksX2_sum_1 8 rfl rfl)
theorem dX2_sum_34 : decode cX2_sum 34 = .ok (.goto 5, 3) := dk_167 0 5 (dk_at dksX2_sum_1 10 rfl rfl)
theorem dX2_sum_37 : decode cX2_sum 37 = .ok (.bipush 45, 2) := dk_16 45 (dk_at dksX2_sum_1 13 rfl rfl)
theorem dX2_sum_39 : decode cX2_sum 39 = .ok (.istore_n 2, 1) := dk_61 (dk_at dksX2_sum_1 15 rfl rfl)
theorem dX2_sum_40 : decode cX2_sum 40 = .ok (.aload_n 0, 1) := dk_42 (dk_at dksX2_sum_1 16 rfl rfl)
theorem dX2_sum_41 : decode cX2_sum 41 = .ok (.invokevirtual 25, 3) := dk_182 0 25 (dk_at dksX2_sum_1 17 rfl rfl)
theorem dX2_sum_44 : decode cX2_sum 44 = .ok (.new 259, 3) := dk_187 1 3 (dk_at dksX2_sum_1 20 rfl rfl)
theorem dX2_sum_47 : decode cX2_sum 47 = .ok (.dup, 1) := dk_89 (dk_at dksX2_sum_1 23 rfl rfl)
theorem dX2_sum_48 : decode cX2_sum 48 = .ok (.iload_n 2, 1) := dk_28 (dk_at dksX2_sum_2 0 rfl rfl)
theorem dX2_sum_49 : decode cX2_sum 49 = .ok (.aload_n 1, 1) := dk_43 (dk_at dksX2_sum_2 1 rfl rfl)
theorem dX2_sum_50 : decode cX2_sum 50 = .ok (.aload_n 0, 1) := dk_42 (dk_at dksX2_sum_2 2 rfl rfl)
theorem dX2_sum_51 : decode cX2_sum 51 = .ok (.invokevirtual 267, 3) := dk_182 1 11 (dk_at dksX2_sum_2 3 rfl rfl)
theorem dX2_sum_54 : decode cX2_sum 54 = .ok (.invokespecial 261, 3) := dk_183 1 5 (dk_at dksX2_sum_2 6 rfl rfl)
theorem dX2_sum_57 : decode cX2_sum 57 = .ok (.astore_n 1, 1) := dk_76 (dk_at dksX2_sum_2 9 rfl rfl)
theorem dX2_sum_58 : decode cX2_sum 58 = .ok (.goto (-53), 3) := dk_167 255 203 (dk_at dksX2_sum_2 10 rfl rfl)
theorem dX2_sum_61 : decode cX2_sum 61 = .ok (.aload_n 1, 1) := dk_43 (dk_at dksX2_sum_2 13 rfl rfl)
theorem dX2_sum_62 : decode cX2_sum 62 = .ok (.areturn, 1) := dk_176 (dk_at dksX2_sum_2 14 rfl rfl)
abbrev cX2_product : ByteArray := prog_16_method_29_code
def yX2_product : MethodName := ⟨RX2, "product", "()LGlassStreet$Expression;"⟩
def dkwX2_product_1 : List UInt8 := [43, 42, 182, 1, 14, 183, 1, 5, 76, 167, 255, 228, 43, 176]
abbrev dktX2_product_1 : List UInt8 := dkwX2_product_1 ++ []
def dkwX2_product_0 : List UInt8 := [42, 182, 1, 14, 76, 42, 16, 42, 182, 0, 79, 153, 0, 25, 42, 182, 0, 25, 187, 1, 3, 89, 16, 42]
abbrev dktX2_product_0 : List UInt8 := dkwX2_product_0 ++ dktX2_product_1
theorem dksX2_product_0 : cX2_product.data.toList.drop 0 = dktX2_product_0 := by decide +kernel
theorem dksX2_product_1 : cX2_product.data.toList.drop 24 = dktX2_product_1 := dk_seg dksX2_product_0 24 rfl rfl
theorem dX2_product_0 : decode cX2_product 0 = .ok (.aload_n 0, 1) := dk_42 (dk_at dksX2_product_0 0 rfl rfl)
theorem dX2_product_1 : decode cX2_product 1 = .ok (.invokevirtual 270, 3) := dk_182 1 14 (dk_at dksX2_product_0 1 rfl rfl)
theorem dX2_product_4 : decode cX2_product 4 = .ok (.astore_n 1, 1) := dk_76 (dk_at dksX2_product_0 4 rfl rfl)
theorem dX2_product_5 : decode cX2_product 5 = .ok (.aload_n 0, 1) := dk_42 (dk_at dksX2_product_0 5 rfl rfl)
theorem dX2_product_6 : decode cX2_product 6 = .ok (.bipush 42, 2) := dk_16 42 (dk_at dksX2_product_0 6 rfl rfl)
theorem dX2_product_8 : decode cX2_product 8 = .ok (.invokevirtual 79, 3) := dk_182 0 79 (dk_at dksX2_product_0 8 rfl rfl)
theorem dX2_product_11 : decode cX2_product 11 = .ok (.ifCond .eq 25, 3) := dk_153 0 25 (dk_at dksX2_product_0 11 rfl rfl)
theorem dX2_product_14 : decode cX2_product 14 = .ok (.aload_n 0, 1) := dk_42 (dk_at dksX2_product_0 14 rfl rfl)
theorem dX2_product_15 : decode cX2_product 15 = .ok (.invokevirtual 25, 3) := dk_182 0 25 (dk_at dksX2_product_0 15 rfl rfl)
theorem dX2_product_18 : decode cX2_product 18 = .ok (.new 259, 3) := dk_187 1 3 (dk_at dksX2_product_0 18 rfl rfl)
theorem dX2_product_21 : decode cX2_product 21 = .ok (.dup, 1) := dk_89 (dk_at dksX2_product_0 21 rfl rfl)
theorem dX2_product_22 : decode cX2_product 22 = .ok (.bipush 42, 2) := dk_16 42 (dk_at dksX2_product_0 22 rfl rfl)
theorem dX2_product_24 : decode cX2_product 24 = .ok (.aload_n 1, 1) := dk_43 (dk_at dksX2_product_1 0 rfl rfl)
theorem dX2_product_25 : decode cX2_product 25 = .ok (.aload_n 0, 1) := dk_42 (dk_at dksX2_product_1 1 rfl rfl)
theorem dX2_product_26 : decode cX2_product 26 = .ok (.invokevirtual 270, 3) := dk_182 1 14 (dk_at dksX2_product_1 2 rfl rfl)
theorem dX2_product_29 : decode cX2_product 29 = .ok (.invokespecial 261, 3) := dk_183 1 5 (dk_at dksX2_product_1 5 rfl rfl)
theorem dX2_product_32 : decode cX2_product 32 = .ok (.astore_n 1, 1) := dk_76 (dk_at dksX2_product_1 8 rfl rfl)
theorem dX2_product_33 : decode cX2_product 33 = .ok (.goto (-28), 3) := dk_167 255 228 (dk_at dksX2_product_1 9 rfl rfl)
theorem dX2_product_36 : decode cX2_product 36 = .ok (.aload_n 1, 1) := dk_43 (dk_at dksX2_product_1 12 rfl rfl)
theorem dX2_product_37 : decode cX2_product 37 = .ok (.areturn, 1) := dk_176 (dk_at dksX2_product_1 13 rfl rfl)
abbrev cX2_part : ByteArray := prog_16_method_30_code
def yX2_part : MethodName := ⟨RX2, "part", "()LGlassStreet$Expression;"⟩
def dkwX2_part_7 : List UInt8 := [181, 0, 22, 25, 4, 176]
abbrev dktX2_part_7 : List UInt8 := dkwX2_part_7 ++ []
def dkwX2_part_6 : List UInt8 := [182, 0, 191, 58, 4, 29, 153, 0, 9, 42, 16, 41, 182, 0, 160, 42, 89, 180, 0, 22, 4, 100]
abbrev dktX2_part_6 : List UInt8 := dkwX2_part_6 ++ dktX2_part_7
def dkwX2_part_5 : List UInt8 := [181, 0, 22, 28, 153, 0, 17, 187, 1, 27, 89, 42, 182, 1, 14, 183, 1, 29, 167, 0, 7, 42]
abbrev dktX2_part_5 : List UInt8 := dkwX2_part_5 ++ dktX2_part_6
def dkwX2_part_4 : List UInt8 := [182, 0, 25, 27, 155, 0, 12, 187, 1, 24, 89, 27, 183, 1, 26, 176, 42, 89, 180, 0, 22, 4, 96]
abbrev dktX2_part_4 : List UInt8 := dkwX2_part_4 ++ dktX2_part_5
def dkwX2_part_3 : List UInt8 := [180, 0, 31, 5, 160, 0, 19, 187, 1, 21, 89, 42, 3, 17, 39, 15, 182, 0, 120, 183, 1, 23, 176, 42]
abbrev dktX2_part_3 : List UInt8 := dkwX2_part_3 ++ dktX2_part_4
def dkwX2_part_2 : List UInt8 := [159, 0, 9, 42, 4, 182, 0, 75, 191, 42, 180, 0, 22, 8, 160, 0, 9, 42, 8, 182, 0, 75, 191, 42]
abbrev dktX2_part_2 : List UInt8 := dkwX2_part_2 ++ dktX2_part_3
def dkwX2_part_1 : List UInt8 := [42, 16, 40, 182, 0, 79, 62, 27, 156, 0, 25, 28, 154, 0, 21, 29, 154, 0, 17, 42, 180, 0, 31, 5]
abbrev dktX2_part_1 : List UInt8 := dkwX2_part_1 ++ dktX2_part_2
def dkwX2_part_0 : List UInt8 := [42, 19, 1, 17, 182, 0, 71, 60, 42, 19, 1, 19, 182, 0, 71, 155, 0, 7, 4, 167, 0, 4, 3, 61]
abbrev dktX2_part_0 : List UInt8 := dkwX2_part_0 ++ dktX2_part_1
theorem dksX2_part_0 : cX2_part.data.toList.drop 0 = dktX2_part_0 := by decide +kernel
theorem dksX2_part_1 : cX2_part.data.toList.drop 24 = dktX2_part_1 := dk_seg dksX2_part_0 24 rfl rfl
theorem dksX2_part_2 : cX2_part.data.toList.drop 48 = dktX2_part_2 := dk_seg dksX2_part_1 24 rfl rfl
theorem dksX2_part_3 : cX2_part.data.toList.drop 72 = dktX2_part_3 := dk_seg dksX2_part_2 24 rfl rfl
theorem dksX2_part_4 : cX2_part.data.toList.drop 96 = dktX2_part_4 := dk_seg dksX2_part_3 24 rfl rfl
theorem dksX2_part_5 : cX2_part.data.toList.drop 119 = dktX2_part_5 := dk_seg dksX2_part_4 23 rfl rfl
theorem dksX2_part_6 : cX2_part.data.toList.drop 141 = dktX2_part_6 := dk_seg dksX2_part_5 22 rfl rfl
theorem dksX2_part_7 : cX2_part.data.toList.drop 163 = dktX2_part_7 := dk_seg dksX2_part_6 22 rfl rfl
theorem dX2_part_0 : decode cX2_part 0 = .ok (.aload_n 0, 1) := dk_42 (dk_at dksX2_part_0 0 rfl rfl)
theorem dX2_part_1 : decode cX2_part 1 = .ok (.ldc_w 273, 3) := dk_19 1 17 (dk_at dksX2_part_0 1 rfl rfl)
theorem dX2_part_4 : decode cX2_part 4 = .ok (.invokevirtual 71, 3) := dk_182 0 71 (dk_at dksX2_part_0 4 rfl rfl)
theorem dX2_part_7 : decode cX2_part 7 = .ok (.istore_n 1, 1) := dk_60 (dk_at dksX2_part_0 7 rfl rfl)
theorem dX2_part_8 : decode cX2_part 8 = .ok (.aload_n 0, 1) := dk_42 (dk_at dksX2_part_0 8 rfl rfl)
theorem dX2_part_9 : decode cX2_part 9 = .ok (.ldc_w 275, 3) := dk_19 1 19 (dk_at dksX2_part_0 9 rfl rfl)
theorem dX2_part_12 : decode cX2_part 12 = .ok (.invokevirtual 71, 3) := dk_182 0 71 (dk_at dksX2_part_0 12 rfl rfl)
theorem dX2_part_15 : decode cX2_part 15 = .ok (.ifCond .lt 7, 3) := dk_155 0 7 (dk_at dksX2_part_0 15 rfl rfl)
theorem dX2_part_18 : decode cX2_part 18 = .ok (.iconst 1, 1) := dk_4 (dk_at dksX2_part_0 18 rfl rfl)
theorem dX2_part_19 : decode cX2_part 19 = .ok (.goto 4, 3) := dk_167 0 4 (dk_at dksX2_part_0 19 rfl rfl)
theorem dX2_part_22 : decode cX2_part 22 = .ok (.iconst 0, 1) := dk_3 (dk_at dksX2_part_0 22 rfl rfl)
theorem dX2_part_23 : decode cX2_part 23 = .ok (.istore_n 2, 1) := dk_61 (dk_at dksX2_part_0 23 rfl rfl)
theorem dX2_part_24 : decode cX2_part 24 = .ok (.aload_n 0, 1) := dk_42 (dk_at dksX2_part_1 0 rfl rfl)
theorem dX2_part_25 : decode cX2_part 25 = .ok (.bipush 40, 2) := dk_16 40 (dk_at dksX2_part_1 1 rfl rfl)
theorem dX2_part_27 : decode cX2_part 27 = .ok (.invokevirtual 79, 3) := dk_182 0 79 (dk_at dksX2_part_1 3 rfl rfl)
theorem dX2_part_30 : decode cX2_part 30 = .ok (.istore_n 3, 1) := dk_62 (dk_at dksX2_part_1 6 rfl rfl)
theorem dX2_part_31 : decode cX2_part 31 = .ok (.iload_n 1, 1) := dk_27 (dk_at dksX2_part_1 7 rfl rfl)
theorem dX2_part_32 : decode cX2_part 32 = .ok (.ifCond .ge 25, 3) := dk_156 0 25 (dk_at dksX2_part_1 8 rfl rfl)
theorem dX2_part_35 : decode cX2_part 35 = .ok (.iload_n 2, 1) := dk_28 (dk_at dksX2_part_1 11 rfl rfl)
theorem dX2_part_36 : decode cX2_part 36 = .ok (.ifCond .ne 21, 3) := dk_154 0 21 (dk_at dksX2_part_1 12 rfl rfl)
theorem dX2_part_39 : decode cX2_part 39 = .ok (.iload_n 3, 1) := dk_29 (dk_at dksX2_part_1 15 rfl rfl)
theorem dX2_part_40 : decode cX2_part 40 = .ok (.ifCond .ne 17, 3) := dk_154 0 17 (dk_at dksX2_part_1 16 rfl rfl)
theorem dX2_part_43 : decode cX2_part 43 = .ok (.aload_n 0, 1) := dk_42 (dk_at dksX2_part_1 19 rfl rfl)
theorem dX2_part_44 : decode cX2_part 44 = .ok (.getfield 31, 3) := dk_180 0 31 (dk_at dksX2_part_1 20 rfl rfl)
theorem dX2_part_47 : decode cX2_part 47 = .ok (.iconst 2, 1) := dk_5 (dk_at dksX2_part_1 23 rfl rfl)
theorem dX2_part_48 : decode cX2_part 48 = .ok (.if_icmp .eq 9, 3) := dk_159 0 9 (dk_at dksX2_part_2 0 rfl rfl)
theorem dX2_part_51 : decode cX2_part 51 = .ok (.aload_n 0, 1) := dk_42 (dk_at dksX2_part_2 3 rfl rfl)
theorem dX2_part_52 : decode cX2_part 52 = .ok (.iconst 1, 1) := dk_4 (dk_at dksX2_part_2 4 rfl rfl)
theorem dX2_part_53 : decode cX2_part 53 = .ok (.invokevirtual 75, 3) := dk_182 0 75 (dk_at dksX2_part_2 5 rfl rfl)
theorem dX2_part_56 : decode cX2_part 56 = .ok (.athrow, 1) := dk_191 (dk_at dksX2_part_2 8 rfl rfl)
theorem dX2_part_57 : decode cX2_part 57 = .ok (.aload_n 0, 1) := dk_42 (dk_at dksX2_part_2 9 rfl rfl)
theorem dX2_part_58 : decode cX2_part 58 = .ok (.getfield 22, 3) := dk_180 0 22 (dk_at dksX2_part_2 10 rfl rfl)
theorem dX2_part_61 : decode cX2_part 61 = .ok (.iconst 5, 1) := dk_8 (dk_at dksX2_part_2 13 rfl rfl)
theorem dX2_part_62 : decode cX2_part 62 = .ok (.if_icmp .ne 9, 3) := dk_160 0 9 (dk_at dksX2_part_2 14 rfl rfl)
theorem dX2_part_65 : decode cX2_part 65 = .ok (.aload_n 0, 1) := dk_42 (dk_at dksX2_part_2 17 rfl rfl)
theorem dX2_part_66 : decode cX2_part 66 = .ok (.iconst 5, 1) := dk_8 (dk_at dksX2_part_2 18 rfl rfl)
theorem dX2_part_67 : decode cX2_part 67 = .ok (.invokevirtual 75, 3) := dk_182 0 75 (dk_at dksX2_part_2 19 rfl rfl)
theorem dX2_part_70 : decode cX2_part 70 = .ok (.athrow, 1) := dk_191 (dk_at dksX2_part_2 22 rfl rfl)
theorem dX2_part_71 : decode cX2_part 71 = .ok (.aload_n 0, 1) := dk_42 (dk_at dksX2_part_2 23 rfl rfl)
theorem dX2_part_72 : decode cX2_part 72 = .ok (.getfield 31, 3) := dk_180 0 31 (dk_at dksX2_part_3 0 rfl rfl)
theorem dX2_part_75 : decode cX2_part 75 = .ok (.iconst 2, 1) := dk_5 (dk_at dksX2_part_3 3 rfl rfl)
theorem dX2_part_76 : decode cX2_part 76 = .ok (.if_icmp .ne 19, 3) := dk_160 0 19 (dk_at dksX2_part_3 4 rfl rfl)
theorem dX2_part_79 : decode cX2_part 79 = .ok (.new 277, 3) := dk_187 1 21 (dk_at dksX2_part_3 7 rfl rfl)
theorem dX2_part_82 : decode cX2_part 82 = .ok (.dup, 1) := dk_89 (dk_at dksX2_part_3 10 rfl rfl)
theorem dX2_part_83 : decode cX2_part 83 = .ok (.aload_n 0, 1) := dk_42 (dk_at dksX2_part_3 11 rfl rfl)
theorem dX2_part_84 : decode cX2_part 84 = .ok (.iconst 0, 1) := dk_3 (dk_at dksX2_part_3 12 rfl rfl)
theorem dX2_part_85 : decode cX2_part 85 = .ok (.sipush 9999, 3) := dk_17 39 15 (dk_at dksX2_part_3 13 rfl rfl)
theorem dX2_part_88 : decode cX2_part 88 = .ok (.invokevirtual 120, 3) := dk_182 0 120 (dk_at dksX2_part_3 16 rfl rfl)
theorem dX2_part_91 : decode cX2_part 91 = .ok (.invokespecial 279, 3) := dk_183 1 23 (dk_at dksX2_part_3 19 rfl rfl)
theorem dX2_part_94 : decode cX2_part 94 = .ok (.areturn, 1) := dk_176 (dk_at dksX2_part_3 22 rfl rfl)
theorem dX2_part_95 : decode cX2_part 95 = .ok (.aload_n 0, 1) := dk_42 (dk_at dksX2_part_3 23 rfl rfl)
theorem dX2_part_96 : decode cX2_part 96 = .ok (.invokevirtual 25, 3) := dk_182 0 25 (dk_at dksX2_part_4 0 rfl rfl)
theorem dX2_part_99 : decode cX2_part 99 = .ok (.iload_n 1, 1) := dk_27 (dk_at dksX2_part_4 3 rfl rfl)
theorem dX2_part_100 : decode cX2_part 100 = .ok (.ifCond .lt 12, 3) := dk_155 0 12 (dk_at dksX2_part_4 4 rfl rfl)
theorem dX2_part_103 : decode cX2_part 103 = .ok (.new 280, 3) := dk_187 1 24 (dk_at dksX2_part_4 7 rfl rfl)
theorem dX2_part_106 : decode cX2_part 106 = .ok (.dup, 1) := dk_89 (dk_at dksX2_part_4 10 rfl rfl)
theorem dX2_part_107 : decode cX2_part 107 = .ok (.iload_n 1, 1) := dk_27 (dk_at dksX2_part_4 11 rfl rfl)
theorem dX2_part_108 : decode cX2_part 108 = .ok (.invokespecial 282, 3) := dk_183 1 26 (dk_at dksX2_part_4 12 rfl rfl)
theorem dX2_part_111 : decode cX2_part 111 = .ok (.areturn, 1) := dk_176 (dk_at dksX2_part_4 15 rfl rfl)
theorem dX2_part_112 : decode cX2_part 112 = .ok (.aload_n 0, 1) := dk_42 (dk_at dksX2_part_4 16 rfl rfl)
theorem dX2_part_113 : decode cX2_part 113 = .ok (.dup, 1) := dk_89 (dk_at dksX2_part_4 17 rfl rfl)
theorem dX2_part_114 : decode cX2_part 114 = .ok (.getfield 22, 3) := dk_180 0 22 (dk_at dksX2_part_4 18 rfl rfl)
theorem dX2_part_117 : decode cX2_part 117 = .ok (.iconst 1, 1) := dk_4 (dk_at dksX2_part_4 21 rfl rfl)
theorem dX2_part_118 : decode cX2_part 118 = .ok (.iadd, 1) := dk_96 (dk_at dksX2_part_4 22 rfl rfl)
theorem dX2_part_119 : decode cX2_part 119 = .ok (.putfield 22, 3) := dk_181 0 22 (dk_at dksX2_part_5 0 rfl rfl)
theorem dX2_part_122 : decode cX2_part 122 = .ok (.iload_n 2, 1) := dk_28 (dk_at dksX2_part_5 3 rfl rfl)
theorem dX2_part_123 : decode cX2_part 123 = .ok (.ifCond .eq 17, 3) := dk_153 0 17 (dk_at dksX2_part_5 4 rfl rfl)
theorem dX2_part_126 : decode cX2_part 126 = .ok (.new 283, 3) := dk_187 1 27 (dk_at dksX2_part_5 7 rfl rfl)
theorem dX2_part_129 : decode cX2_part 129 = .ok (.dup, 1) := dk_89 (dk_at dksX2_part_5 10 rfl rfl)
theorem dX2_part_130 : decode cX2_part 130 = .ok (.aload_n 0, 1) := dk_42 (dk_at dksX2_part_5 11 rfl rfl)
theorem dX2_part_131 : decode cX2_part 131 = .ok (.invokevirtual 270, 3) := dk_182 1 14 (dk_at dksX2_part_5 12 rfl rfl)
theorem dX2_part_134 : decode cX2_part 134 = .ok (.invokespecial 285, 3) := dk_183 1 29 (dk_at dksX2_part_5 15 rfl rfl)
theorem dX2_part_137 : decode cX2_part 137 = .ok (.goto 7, 3) := dk_167 0 7 (dk_at dksX2_part_5 18 rfl rfl)
theorem dX2_part_140 : decode cX2_part 140 = .ok (.aload_n 0, 1) := dk_42 (dk_at dksX2_part_5 21 rfl rfl)
theorem dX2_part_141 : decode cX2_part 141 = .ok (.invokevirtual 191, 3) := dk_182 0 191 (dk_at dksX2_part_6 0 rfl rfl)
theorem dX2_part_144 : decode cX2_part 144 = .ok (.astore 4, 2) := dk_58 4 (dk_at dksX2_part_6 3 rfl rfl)
theorem dX2_part_146 : decode cX2_part 146 = .ok (.iload_n 3, 1) := dk_29 (dk_at dksX2_part_6 5 rfl rfl)
theorem dX2_part_147 : decode cX2_part 147 = .ok (.ifCond .eq 9, 3) := dk_153 0 9 (dk_at dksX2_part_6 6 rfl rfl)
theorem dX2_part_150 : decode cX2_part 150 = .ok (.aload_n 0, 1) := dk_42 (dk_at dksX2_part_6 9 rfl rfl)
theorem dX2_part_151 : decode cX2_part 151 = .ok (.bipush 41, 2) := dk_16 41 (dk_at dksX2_part_6 10 rfl rfl)
theorem dX2_part_153 : decode cX2_part 153 = .ok (.invokevirtual 160, 3) := dk_182 0 160 (dk_at dksX2_part_6 12 rfl rfl)
theorem dX2_part_156 : decode cX2_part 156 = .ok (.aload_n 0, 1) := dk_42 (dk_at dksX2_part_6 15 rfl rfl)
theorem dX2_part_157 : decode cX2_part 157 = .ok (.dup, 1) := dk_89 (dk_at dksX2_part_6 16 rfl rfl)
theorem dX2_part_158 : decode cX2_part 158 = .ok (.getfield 22, 3) := dk_180 0 22 (dk_at dksX2_part_6 17 rfl rfl)
theorem dX2_part_161 : decode cX2_part 161 = .ok (.iconst 1, 1) := dk_4 (dk_at dksX2_part_6 20 rfl rfl)
theorem dX2_part_162 : decode cX2_part 162 = .ok (.isub, 1) := dk_100 (dk_at dksX2_part_6 21 rfl rfl)
theorem dX2_part_163 : decode cX2_part 163 = .ok (.putfield 22, 3) := dk_181 0 22 (dk_at dksX2_part_7 0 rfl rfl)
theorem dX2_part_166 : decode cX2_part 166 = .ok (.aload 4, 2) := dk_25 4 (dk_at dksX2_part_7 3 rfl rfl)
theorem dX2_part_168 : decode cX2_part 168 = .ok (.areturn, 1) := dk_176 (dk_at dksX2_part_7 5 rfl rfl)
abbrev cX2_need_2 : ByteArray := prog_16_method_11_code
def yX2_need_2 : MethodName := ⟨RX2, "need", "(C)V"⟩
def dkwX2_need_2_0 : List UInt8 := [42, 27, 182, 0, 79, 154, 0, 9, 42, 4, 182, 0, 75, 191, 42, 182, 0, 25, 177]
abbrev dktX2_need_2_0 : List UInt8 := dkwX2_need_2_0 ++ []
theorem dksX2_need_2_0 : cX2_need_2.data.toList.drop 0 = dktX2_need_2_0 := by decide +kernel
theorem dX2_need_2_0 : decode cX2_need_2 0 = .ok (.aload_n 0, 1) := dk_42 (dk_at dksX2_need_2_0 0 rfl rfl)
theorem dX2_need_2_1 : decode cX2_need_2 1 = .ok (.iload_n 1, 1) := dk_27 (dk_at dksX2_need_2_0 1 rfl rfl)
theorem dX2_need_2_2 : decode cX2_need_2 2 = .ok (.invokevirtual 79, 3) := dk_182 0 79 (dk_at dksX2_need_2_0 2 rfl rfl)
theorem dX2_need_2_5 : decode cX2_need_2 5 = .ok (.ifCond .ne 9, 3) := dk_154 0 9 (dk_at dksX2_need_2_0 5 rfl rfl)
theorem dX2_need_2_8 : decode cX2_need_2 8 = .ok (.aload_n 0, 1) := dk_42 (dk_at dksX2_need_2_0 8 rfl rfl)
theorem dX2_need_2_9 : decode cX2_need_2 9 = .ok (.iconst 1, 1) := dk_4 (dk_at dksX2_need_2_0 9 rfl rfl)
theorem dX2_need_2_10 : decode cX2_need_2 10 = .ok (.invokevirtual 75, 3) := dk_182 0 75 (dk_at dksX2_need_2_0 10 rfl rfl)
theorem dX2_need_2_13 : decode cX2_need_2 13 = .ok (.athrow, 1) := dk_191 (dk_at dksX2_need_2_0 13 rfl rfl)
theorem dX2_need_2_14 : decode cX2_need_2 14 = .ok (.aload_n 0, 1) := dk_42 (dk_at dksX2_need_2_0 14 rfl rfl)
theorem dX2_need_2_15 : decode cX2_need_2 15 = .ok (.invokevirtual 25, 3) := dk_182 0 25 (dk_at dksX2_need_2_0 15 rfl rfl)
theorem dX2_need_2_18 : decode cX2_need_2 18 = .ok (.return_, 1) := dk_177 (dk_at dksX2_need_2_0 18 rfl rfl)
abbrev cX2_day : ByteArray := prog_16_method_24_code
def yX2_day : MethodName := ⟨RX2, "day", "(LGlassStreet$Houses;)Ljava/util/ArrayList;"⟩
def dkwX2_day_3 : List UInt8 := [182, 0, 160, 167, 255, 197, 44, 176]
abbrev dktX2_day_3 : List UInt8 := dkwX2_day_3 ++ []
def dkwX2_day_2 : List UInt8 := [8, 182, 0, 75, 191, 42, 182, 0, 25, 44, 42, 29, 182, 0, 230, 182, 0, 176, 87, 42, 16, 59]
abbrev dktX2_day_2 : List UInt8 := dkwX2_day_2 ++ dktX2_day_3
def dkwX2_day_1 : List UInt8 := [182, 0, 71, 62, 29, 156, 0, 9, 42, 4, 182, 0, 75, 191, 44, 182, 0, 138, 16, 40, 160, 0, 9, 42]
abbrev dktX2_day_1 : List UInt8 := dkwX2_day_1 ++ dktX2_day_2
def dkwX2_day_0 : List UInt8 := [42, 43, 181, 0, 101, 187, 0, 139, 89, 7, 183, 0, 227, 77, 42, 180, 0, 31, 153, 0, 58, 42, 18, 228]
abbrev dktX2_day_0 : List UInt8 := dkwX2_day_0 ++ dktX2_day_1
theorem dksX2_day_0 : cX2_day.data.toList.drop 0 = dktX2_day_0 := by decide +kernel
theorem dksX2_day_1 : cX2_day.data.toList.drop 24 = dktX2_day_1 := dk_seg dksX2_day_0 24 rfl rfl
theorem dksX2_day_2 : cX2_day.data.toList.drop 48 = dktX2_day_2 := dk_seg dksX2_day_1 24 rfl rfl
theorem dksX2_day_3 : cX2_day.data.toList.drop 70 = dktX2_day_3 := dk_seg dksX2_day_2 22 rfl rfl
theorem dX2_day_0 : decode cX2_day 0 = .ok (.aload_n 0, 1) := dk_42 (dk_at dksX2_day_0 0 rfl rfl)
theorem dX2_day_1 : decode cX2_day 1 = .ok (.aload_n 1, 1) := dk_43 (dk_at dksX2_day_0 1 rfl rfl)
theorem dX2_day_2 : decode cX2_day 2 = .ok (.putfield 101, 3) := dk_181 0 101 (dk_at dksX2_day_0 2 rfl rfl)
theorem dX2_day_5 : decode cX2_day 5 = .ok (.new 139, 3) := dk_187 0 139 (dk_at dksX2_day_0 5 rfl rfl)
theorem dX2_day_8 : decode cX2_day 8 = .ok (.dup, 1) := dk_89 (dk_at dksX2_day_0 8 rfl rfl)
theorem dX2_day_9 : decode cX2_day 9 = .ok (.iconst 4, 1) := dk_7 (dk_at dksX2_day_0 9 rfl rfl)
theorem dX2_day_10 : decode cX2_day 10 = .ok (.invokespecial 227, 3) := dk_183 0 227 (dk_at dksX2_day_0 10 rfl rfl)
theorem dX2_day_13 : decode cX2_day 13 = .ok (.astore_n 2, 1) := dk_77 (dk_at dksX2_day_0 13 rfl rfl)
theorem dX2_day_14 : decode cX2_day 14 = .ok (.aload_n 0, 1) := dk_42 (dk_at dksX2_day_0 14 rfl rfl)
theorem dX2_day_15 : decode cX2_day 15 = .ok (.getfield 31, 3) := dk_180 0 31 (dk_at dksX2_day_0 15 rfl rfl)
theorem dX2_day_18 : decode cX2_day 18 = .ok (.ifCond .eq 58, 3) := dk_153 0 58 (dk_at dksX2_day_0 18 rfl rfl)
theorem dX2_day_21 : decode cX2_day 21 = .ok (.aload_n 0, 1) := dk_42 (dk_at dksX2_day_0 21 rfl rfl)
theorem dX2_day_22 : decode cX2_day 22 = .ok (.ldc 228, 2) := dk_18 228 (dk_at dksX2_day_0 22 rfl rfl)
theorem dX2_day_24 : decode cX2_day 24 = .ok (.invokevirtual 71, 3) := dk_182 0 71 (dk_at dksX2_day_1 0 rfl rfl)
theorem dX2_day_27 : decode cX2_day 27 = .ok (.istore_n 3, 1) := dk_62 (dk_at dksX2_day_1 3 rfl rfl)
theorem dX2_day_28 : decode cX2_day 28 = .ok (.iload_n 3, 1) := dk_29 (dk_at dksX2_day_1 4 rfl rfl)
theorem dX2_day_29 : decode cX2_day 29 = .ok (.ifCond .ge 9, 3) := dk_156 0 9 (dk_at dksX2_day_1 5 rfl rfl)
theorem dX2_day_32 : decode cX2_day 32 = .ok (.aload_n 0, 1) := dk_42 (dk_at dksX2_day_1 8 rfl rfl)
theorem dX2_day_33 : decode cX2_day 33 = .ok (.iconst 1, 1) := dk_4 (dk_at dksX2_day_1 9 rfl rfl)
theorem dX2_day_34 : decode cX2_day 34 = .ok (.invokevirtual 75, 3) := dk_182 0 75 (dk_at dksX2_day_1 10 rfl rfl)
theorem dX2_day_37 : decode cX2_day 37 = .ok (.athrow, 1) := dk_191 (dk_at dksX2_day_1 13 rfl rfl)
theorem dX2_day_38 : decode cX2_day 38 = .ok (.aload_n 2, 1) := dk_44 (dk_at dksX2_day_1 14 rfl rfl)
theorem dX2_day_39 : decode cX2_day 39 = .ok (.invokevirtual 138, 3) := dk_182 0 138 (dk_at dksX2_day_1 15 rfl rfl)
theorem dX2_day_42 : decode cX2_day 42 = .ok (.bipush 40, 2) := dk_16 40 (dk_at dksX2_day_1 18 rfl rfl)
theorem dX2_day_44 : decode cX2_day 44 = .ok (.if_icmp .ne 9, 3) := dk_160 0 9 (dk_at dksX2_day_1 20 rfl rfl)
theorem dX2_day_47 : decode cX2_day 47 = .ok (.aload_n 0, 1) := dk_42 (dk_at dksX2_day_1 23 rfl rfl)
theorem dX2_day_48 : decode cX2_day 48 = .ok (.iconst 5, 1) := dk_8 (dk_at dksX2_day_2 0 rfl rfl)
theorem dX2_day_49 : decode cX2_day 49 = .ok (.invokevirtual 75, 3) := dk_182 0 75 (dk_at dksX2_day_2 1 rfl rfl)
theorem dX2_day_52 : decode cX2_day 52 = .ok (.athrow, 1) := dk_191 (dk_at dksX2_day_2 4 rfl rfl)
theorem dX2_day_53 : decode cX2_day 53 = .ok (.aload_n 0, 1) := dk_42 (dk_at dksX2_day_2 5 rfl rfl)
theorem dX2_day_54 : decode cX2_day 54 = .ok (.invokevirtual 25, 3) := dk_182 0 25 (dk_at dksX2_day_2 6 rfl rfl)
theorem dX2_day_57 : decode cX2_day 57 = .ok (.aload_n 2, 1) := dk_44 (dk_at dksX2_day_2 9 rfl rfl)
theorem dX2_day_58 : decode cX2_day 58 = .ok (.aload_n 0, 1) := dk_42 (dk_at dksX2_day_2 10 rfl rfl)
theorem dX2_day_59 : decode cX2_day 59 = .ok (.iload_n 3, 1) := dk_29 (dk_at dksX2_day_2 11 rfl rfl)
theorem dX2_day_60 : decode cX2_day 60 = .ok (.invokevirtual 230, 3) := dk_182 0 230 (dk_at dksX2_day_2 12 rfl rfl)
theorem dX2_day_63 : decode cX2_day 63 = .ok (.invokevirtual 176, 3) := dk_182 0 176 (dk_at dksX2_day_2 15 rfl rfl)
theorem dX2_day_66 : decode cX2_day 66 = .ok (.pop, 1) := dk_87 (dk_at dksX2_day_2 18 rfl rfl)
theorem dX2_day_67 : decode cX2_day 67 = .ok (.aload_n 0, 1) := dk_42 (dk_at dksX2_day_2 19 rfl rfl)
theorem dX2_day_68 : decode cX2_day 68 = .ok (.bipush 59, 2) := dk_16 59 (dk_at dksX2_day_2 20 rfl rfl)
theorem dX2_day_70 : decode cX2_day 70 = .ok (.invokevirtual 160, 3) := dk_182 0 160 (dk_at dksX2_day_3 0 rfl rfl)
theorem dX2_day_73 : decode cX2_day 73 = .ok (.goto (-59), 3) := dk_167 255 197 (dk_at dksX2_day_3 3 rfl rfl)
theorem dX2_day_76 : decode cX2_day 76 = .ok (.aload_n 2, 1) := dk_44 (dk_at dksX2_day_3 6 rfl rfl)
theorem dX2_day_77 : decode cX2_day 77 = .ok (.areturn, 1) := dk_176 (dk_at dksX2_day_3 7 rfl rfl)
abbrev cX2_done : ByteArray := prog_16_method_25_code
def yX2_done : MethodName := ⟨RX2, "done", "(I)LGlassStreet$Line;"⟩
def dkwX2_done_5 : List UInt8 := [28, 27, 7, 160, 0, 7, 4, 167, 0, 4, 3, 183, 0, 251, 176]
abbrev dktX2_done_5 : List UInt8 := dkwX2_done_5 ++ []
def dkwX2_done_4 : List UInt8 := [182, 0, 237, 61, 27, 5, 160, 0, 14, 187, 0, 246, 89, 28, 183, 0, 248, 167, 0, 21, 187, 0, 249, 89]
abbrev dktX2_done_4 : List UInt8 := dkwX2_done_4 ++ dktX2_done_5
def dkwX2_done_3 : List UInt8 := [182, 0, 113, 182, 0, 237, 183, 0, 245, 176, 42, 42, 180, 0, 101, 42, 182, 0, 98, 182, 0, 105]
abbrev dktX2_done_3 : List UInt8 := dkwX2_done_3 ++ dktX2_done_4
def dkwX2_done_2 : List UInt8 := [182, 0, 120, 183, 0, 242, 167, 0, 26, 187, 0, 243, 89, 28, 42, 42, 180, 0, 101, 42, 182, 0, 98]
abbrev dktX2_done_2 : List UInt8 := dkwX2_done_2 ++ dktX2_done_3
def dkwX2_done_1 : List UInt8 := [182, 0, 98, 182, 0, 110, 182, 0, 237, 61, 27, 154, 0, 21, 187, 0, 240, 89, 28, 42, 3, 16, 9]
abbrev dktX2_done_1 : List UInt8 := dkwX2_done_1 ++ dktX2_done_2
def dkwX2_done_0 : List UInt8 := [27, 8, 160, 0, 11, 187, 0, 234, 89, 183, 0, 236, 176, 27, 5, 162, 0, 65, 42, 42, 180, 0, 101, 42]
abbrev dktX2_done_0 : List UInt8 := dkwX2_done_0 ++ dktX2_done_1
theorem dksX2_done_0 : cX2_done.data.toList.drop 0 = dktX2_done_0 := by decide +kernel
theorem dksX2_done_1 : cX2_done.data.toList.drop 24 = dktX2_done_1 := dk_seg dksX2_done_0 24 rfl rfl
theorem dksX2_done_2 : cX2_done.data.toList.drop 47 = dktX2_done_2 := dk_seg dksX2_done_1 23 rfl rfl
theorem dksX2_done_3 : cX2_done.data.toList.drop 70 = dktX2_done_3 := dk_seg dksX2_done_2 23 rfl rfl
theorem dksX2_done_4 : cX2_done.data.toList.drop 92 = dktX2_done_4 := dk_seg dksX2_done_3 22 rfl rfl
theorem dksX2_done_5 : cX2_done.data.toList.drop 116 = dktX2_done_5 := dk_seg dksX2_done_4 24 rfl rfl
theorem dX2_done_0 : decode cX2_done 0 = .ok (.iload_n 1, 1) := dk_27 (dk_at dksX2_done_0 0 rfl rfl)
theorem dX2_done_1 : decode cX2_done 1 = .ok (.iconst 5, 1) := dk_8 (dk_at dksX2_done_0 1 rfl rfl)
theorem dX2_done_2 : decode cX2_done 2 = .ok (.if_icmp .ne 11, 3) := dk_160 0 11 (dk_at dksX2_done_0 2 rfl rfl)
theorem dX2_done_5 : decode cX2_done 5 = .ok (.new 234, 3) := dk_187 0 234 (dk_at dksX2_done_0 5 rfl rfl)
theorem dX2_done_8 : decode cX2_done 8 = .ok (.dup, 1) := dk_89 (dk_at dksX2_done_0 8 rfl rfl)
theorem dX2_done_9 : decode cX2_done 9 = .ok (.invokespecial 236, 3) := dk_183 0 236 (dk_at dksX2_done_0 9 rfl rfl)
theorem dX2_done_12 : decode cX2_done 12 = .ok (.areturn, 1) := dk_176 (dk_at dksX2_done_0 12 rfl rfl)
theorem dX2_done_13 : decode cX2_done 13 = .ok (.iload_n 1, 1) := dk_27 (dk_at dksX2_done_0 13 rfl rfl)
theorem dX2_done_14 : decode cX2_done 14 = .ok (.iconst 2, 1) := dk_5 (dk_at dksX2_done_0 14 rfl rfl)
theorem dX2_done_15 : decode cX2_done 15 = .ok (.if_icmp .ge 65, 3) := dk_162 0 65 (dk_at dksX2_done_0 15 rfl rfl)
theorem dX2_done_18 : decode cX2_done 18 = .ok (.aload_n 0, 1) := dk_42 (dk_at dksX2_done_0 18 rfl rfl)
theorem dX2_done_19 : decode cX2_done 19 = .ok (.aload_n 0, 1) := dk_42 (dk_at dksX2_done_0 19 rfl rfl)
theorem dX2_done_20 : decode cX2_done 20 = .ok (.getfield 101, 3) := dk_180 0 101 (dk_at dksX2_done_0 20 rfl rfl)
theorem dX2_done_23 : decode cX2_done 23 = .ok (.aload_n 0, 1) := dk_42 (dk_at dksX2_done_0 23 rfl rfl)
theorem dX2_done_24 : decode cX2_done 24 = .ok (.invokevirtual 98, 3) := dk_182 0 98 (dk_at dksX2_done_1 0 rfl rfl)
theorem dX2_done_27 : decode cX2_done 27 = .ok (.invokevirtual 110, 3) := dk_182 0 110 (dk_at dksX2_done_1 3 rfl rfl)
theorem dX2_done_30 : decode cX2_done 30 = .ok (.invokevirtual 237, 3) := dk_182 0 237 (dk_at dksX2_done_1 6 rfl rfl)
theorem dX2_done_33 : decode cX2_done 33 = .ok (.istore_n 2, 1) := dk_61 (dk_at dksX2_done_1 9 rfl rfl)
theorem dX2_done_34 : decode cX2_done 34 = .ok (.iload_n 1, 1) := dk_27 (dk_at dksX2_done_1 10 rfl rfl)
theorem dX2_done_35 : decode cX2_done 35 = .ok (.ifCond .ne 21, 3) := dk_154 0 21 (dk_at dksX2_done_1 11 rfl rfl)
theorem dX2_done_38 : decode cX2_done 38 = .ok (.new 240, 3) := dk_187 0 240 (dk_at dksX2_done_1 14 rfl rfl)
theorem dX2_done_41 : decode cX2_done 41 = .ok (.dup, 1) := dk_89 (dk_at dksX2_done_1 17 rfl rfl)
theorem dX2_done_42 : decode cX2_done 42 = .ok (.iload_n 2, 1) := dk_28 (dk_at dksX2_done_1 18 rfl rfl)
theorem dX2_done_43 : decode cX2_done 43 = .ok (.aload_n 0, 1) := dk_42 (dk_at dksX2_done_1 19 rfl rfl)
theorem dX2_done_44 : decode cX2_done 44 = .ok (.iconst 0, 1) := dk_3 (dk_at dksX2_done_1 20 rfl rfl)
theorem dX2_done_45 : decode cX2_done 45 = .ok (.bipush 9, 2) := dk_16 9 (dk_at dksX2_done_1 21 rfl rfl)
theorem dX2_done_47 : decode cX2_done 47 = .ok (.invokevirtual 120, 3) := dk_182 0 120 (dk_at dksX2_done_2 0 rfl rfl)
theorem dX2_done_50 : decode cX2_done 50 = .ok (.invokespecial 242, 3) := dk_183 0 242 (dk_at dksX2_done_2 3 rfl rfl)
theorem dX2_done_53 : decode cX2_done 53 = .ok (.goto 26, 3) := dk_167 0 26 (dk_at dksX2_done_2 6 rfl rfl)
theorem dX2_done_56 : decode cX2_done 56 = .ok (.new 243, 3) := dk_187 0 243 (dk_at dksX2_done_2 9 rfl rfl)
theorem dX2_done_59 : decode cX2_done 59 = .ok (.dup, 1) := dk_89 (dk_at dksX2_done_2 12 rfl rfl)
theorem dX2_done_60 : decode cX2_done 60 = .ok (.iload_n 2, 1) := dk_28 (dk_at dksX2_done_2 13 rfl rfl)
theorem dX2_done_61 : decode cX2_done 61 = .ok (.aload_n 0, 1) := dk_42 (dk_at dksX2_done_2 14 rfl rfl)
theorem dX2_done_62 : decode cX2_done 62 = .ok (.aload_n 0, 1) := dk_42 (dk_at dksX2_done_2 15 rfl rfl)
theorem dX2_done_63 : decode cX2_done 63 = .ok (.getfield 101, 3) := dk_180 0 101 (dk_at dksX2_done_2 16 rfl rfl)
theorem dX2_done_66 : decode cX2_done 66 = .ok (.aload_n 0, 1) := dk_42 (dk_at dksX2_done_2 19 rfl rfl)
theorem dX2_done_67 : decode cX2_done 67 = .ok (.invokevirtual 98, 3) := dk_182 0 98 (dk_at dksX2_done_2 20 rfl rfl)
theorem dX2_done_70 : decode cX2_done 70 = .ok (.invokevirtual 113, 3) := dk_182 0 113 (dk_at dksX2_done_3 0 rfl rfl)
theorem dX2_done_73 : decode cX2_done 73 = .ok (.invokevirtual 237, 3) := dk_182 0 237 (dk_at dksX2_done_3 3 rfl rfl)
theorem dX2_done_76 : decode cX2_done 76 = .ok (.invokespecial 245, 3) := dk_183 0 245 (dk_at dksX2_done_3 6 rfl rfl)
theorem dX2_done_79 : decode cX2_done 79 = .ok (.areturn, 1) := dk_176 (dk_at dksX2_done_3 9 rfl rfl)
theorem dX2_done_80 : decode cX2_done 80 = .ok (.aload_n 0, 1) := dk_42 (dk_at dksX2_done_3 10 rfl rfl)
theorem dX2_done_81 : decode cX2_done 81 = .ok (.aload_n 0, 1) := dk_42 (dk_at dksX2_done_3 11 rfl rfl)
theorem dX2_done_82 : decode cX2_done 82 = .ok (.getfield 101, 3) := dk_180 0 101 (dk_at dksX2_done_3 12 rfl rfl)
theorem dX2_done_85 : decode cX2_done 85 = .ok (.aload_n 0, 1) := dk_42 (dk_at dksX2_done_3 15 rfl rfl)
theorem dX2_done_86 : decode cX2_done 86 = .ok (.invokevirtual 98, 3) := dk_182 0 98 (dk_at dksX2_done_3 16 rfl rfl)
theorem dX2_done_89 : decode cX2_done 89 = .ok (.invokevirtual 105, 3) := dk_182 0 105 (dk_at dksX2_done_3 19 rfl rfl)
theorem dX2_done_92 : decode cX2_done 92 = .ok (.invokevirtual 237, 3) := dk_182 0 237 (dk_at dksX2_done_4 0 rfl rfl)
theorem dX2_done_95 : decode cX2_done 95 = .ok (.istore_n 2, 1) := dk_61 (dk_at dksX2_done_4 3 rfl rfl)
theorem dX2_done_96 : decode cX2_done 96 = .ok (.iload_n 1, 1) := dk_27 (dk_at dksX2_done_4 4 rfl rfl)
theorem dX2_done_97 : decode cX2_done 97 = .ok (.iconst 2, 1) := dk_5 (dk_at dksX2_done_4 5 rfl rfl)
theorem dX2_done_98 : decode cX2_done 98 = .ok (.if_icmp .ne 14, 3) := dk_160 0 14 (dk_at dksX2_done_4 6 rfl rfl)
theorem dX2_done_101 : decode cX2_done 101 = .ok (.new 246, 3) := dk_187 0 246 (dk_at dksX2_done_4 9 rfl rfl)
theorem dX2_done_104 : decode cX2_done 104 = .ok (.dup, 1) := dk_89 (dk_at dksX2_done_4 12 rfl rfl)
theorem dX2_done_105 : decode cX2_done 105 = .ok (.iload_n 2, 1) := dk_28 (dk_at dksX2_done_4 13 rfl rfl)
theorem dX2_done_106 : decode cX2_done 106 = .ok (.invokespecial 248, 3) := dk_183 0 248 (dk_at dksX2_done_4 14 rfl rfl)
theorem dX2_done_109 : decode cX2_done 109 = .ok (.goto 21, 3) := dk_167 0 21 (dk_at dksX2_done_4 17 rfl rfl)
theorem dX2_done_112 : decode cX2_done 112 = .ok (.new 249, 3) := dk_187 0 249 (dk_at dksX2_done_4 20 rfl rfl)
theorem dX2_done_115 : decode cX2_done 115 = .ok (.dup, 1) := dk_89 (dk_at dksX2_done_4 23 rfl rfl)
theorem dX2_done_116 : decode cX2_done 116 = .ok (.iload_n 2, 1) := dk_28 (dk_at dksX2_done_5 0 rfl rfl)
theorem dX2_done_117 : decode cX2_done 117 = .ok (.iload_n 1, 1) := dk_27 (dk_at dksX2_done_5 1 rfl rfl)
theorem dX2_done_118 : decode cX2_done 118 = .ok (.iconst 4, 1) := dk_7 (dk_at dksX2_done_5 2 rfl rfl)
theorem dX2_done_119 : decode cX2_done 119 = .ok (.if_icmp .ne 7, 3) := dk_160 0 7 (dk_at dksX2_done_5 3 rfl rfl)
theorem dX2_done_122 : decode cX2_done 122 = .ok (.iconst 1, 1) := dk_4 (dk_at dksX2_done_5 6 rfl rfl)
theorem dX2_done_123 : decode cX2_done 123 = .ok (.goto 4, 3) := dk_167 0 4 (dk_at dksX2_done_5 7 rfl rfl)
theorem dX2_done_126 : decode cX2_done 126 = .ok (.iconst 0, 1) := dk_3 (dk_at dksX2_done_5 10 rfl rfl)
theorem dX2_done_127 : decode cX2_done 127 = .ok (.invokespecial 251, 3) := dk_183 0 251 (dk_at dksX2_done_5 11 rfl rfl)
theorem dX2_done_130 : decode cX2_done 130 = .ok (.areturn, 1) := dk_176 (dk_at dksX2_done_5 14 rfl rfl)
abbrev cX2_passed : ByteArray := prog_16_method_18_code
def yX2_passed : MethodName := ⟨RX2, "passed", "(I)I"⟩
def dkwX2_passed_0 : List UInt8 := [27, 156, 0, 9, 42, 5, 182, 0, 75, 191, 42, 182, 0, 25, 27, 172]
abbrev dktX2_passed_0 : List UInt8 := dkwX2_passed_0 ++ []
theorem dksX2_passed_0 : cX2_passed.data.toList.drop 0 = dktX2_passed_0 := by decide +kernel
theorem dX2_passed_0 : decode cX2_passed 0 = .ok (.iload_n 1, 1) := dk_27 (dk_at dksX2_passed_0 0 rfl rfl)
theorem dX2_passed_1 : decode cX2_passed 1 = .ok (.ifCond .ge 9, 3) := dk_156 0 9 (dk_at dksX2_passed_0 1 rfl rfl)
theorem dX2_passed_4 : decode cX2_passed 4 = .ok (.aload_n 0, 1) := dk_42 (dk_at dksX2_passed_0 4 rfl rfl)
theorem dX2_passed_5 : decode cX2_passed 5 = .ok (.iconst 2, 1) := dk_5 (dk_at dksX2_passed_0 5 rfl rfl)
theorem dX2_passed_6 : decode cX2_passed 6 = .ok (.invokevirtual 75, 3) := dk_182 0 75 (dk_at dksX2_passed_0 6 rfl rfl)
theorem dX2_passed_9 : decode cX2_passed 9 = .ok (.athrow, 1) := dk_191 (dk_at dksX2_passed_0 9 rfl rfl)
theorem dX2_passed_10 : decode cX2_passed 10 = .ok (.aload_n 0, 1) := dk_42 (dk_at dksX2_passed_0 10 rfl rfl)
theorem dX2_passed_11 : decode cX2_passed 11 = .ok (.invokevirtual 25, 3) := dk_182 0 25 (dk_at dksX2_passed_0 11 rfl rfl)
theorem dX2_passed_14 : decode cX2_passed 14 = .ok (.iload_n 1, 1) := dk_27 (dk_at dksX2_passed_0 14 rfl rfl)
theorem dX2_passed_15 : decode cX2_passed 15 = .ok (.ireturn, 1) := dk_172 (dk_at dksX2_passed_0 15 rfl rfl)
theorem q122 : (Jvm.Cond.initialized "GlassStreet$Reader") ∈ lw_all := lw_g (lw_at lw_m1 2 rfl) rfl
theorem q173 : (Jvm.Cond.instantiable "GlassStreet$Reader" (8 : Nat)) ∈ lw_all := lw_g (lw_at lw_m1 53 rfl) rfl
theorem q175 : (Jvm.Cond.instanceMethod ({ cls := "GlassStreet$Reader", name := "<init>", desc := "()V" } : Jvm.MethodName)) ∈ lw_all := lw_g (lw_at lw_m1 55 rfl) rfl
theorem q176 : (Jvm.Cond.code ({ cls := "GlassStreet$Reader", name := "<init>", desc := "()V" } : Jvm.MethodName) prog_16_method_1_code (1 : Nat) (Option.none : Option Jvm.ClassFile.FieldType)) ∈ lw_all := lw_g (lw_at lw_m1 56 rfl) rfl
theorem q177 : (Jvm.Cond.methodLink "GlassStreet$Reader" (3 : Nat) ({ cls := "java/lang/Object", name := "<init>", desc := "()V" } : Jvm.MethodName)) ∈ lw_all := lw_g (lw_at lw_m1 57 rfl) rfl
theorem q178 : (Jvm.Cond.fieldLink "GlassStreet$Reader" (9 : Nat) "GlassStreet$Reader" "text" "[B") ∈ lw_all := lw_g (lw_at lw_m1 58 rfl) rfl
theorem q179 : (Jvm.Cond.fieldLink "GlassStreet$Reader" (15 : Nat) "GlassStreet$Reader" "size" "I") ∈ lw_all := lw_g (lw_at lw_m1 59 rfl) rfl
theorem q180 : (Jvm.Cond.fieldLink "GlassStreet$Reader" (19 : Nat) "GlassStreet$Reader" "to" "I") ∈ lw_all := lw_g (lw_at lw_m1 60 rfl) rfl
theorem q181 : (Jvm.Cond.fieldLink "GlassStreet$Reader" (31 : Nat) "GlassStreet$Reader" "kind" "I") ∈ lw_all := lw_g (lw_at lw_m1 61 rfl) rfl
theorem q182 : (Jvm.Cond.fieldLink "GlassStreet$Reader" (28 : Nat) "GlassStreet$Reader" "from" "I") ∈ lw_all := lw_g (lw_at lw_m1 62 rfl) rfl
theorem q183 : (Jvm.Cond.fieldLink "GlassStreet$Reader" (45 : Nat) "GlassStreet$Reader" "value" "I") ∈ lw_all := lw_g (lw_at lw_m1 63 rfl) rfl
theorem q184 : (Jvm.Cond.fieldLink "GlassStreet$Reader" (22 : Nat) "GlassStreet$Reader" "within" "I") ∈ lw_all := lw_g (lw_at lw_m1 64 rfl) rfl
theorem q185 : (Jvm.Cond.fieldLink "GlassStreet$Reader" (101 : Nat) "GlassStreet$Reader" "houses" "LGlassStreet$Houses;") ∈ lw_all := lw_g (lw_at lw_m1 65 rfl) rfl
theorem q186 : (Jvm.Cond.lays "GlassStreet$Reader" "GlassStreet$Reader" "text" "[B") ∈ lw_all := lw_g (lw_at lw_m1 66 rfl) rfl
theorem q187 : (Jvm.Cond.soleField "GlassStreet$Reader" "text") ∈ lw_all := lw_g (lw_at lw_m1 67 rfl) rfl
theorem q188 : (Jvm.Cond.lays "GlassStreet$Reader" "GlassStreet$Reader" "size" "I") ∈ lw_all := lw_g (lw_at lw_m1 68 rfl) rfl
theorem q189 : (Jvm.Cond.soleField "GlassStreet$Reader" "size") ∈ lw_all := lw_g (lw_at lw_m1 69 rfl) rfl
theorem q190 : (Jvm.Cond.lays "GlassStreet$Reader" "GlassStreet$Reader" "to" "I") ∈ lw_all := lw_g (lw_at lw_m1 70 rfl) rfl
theorem q191 : (Jvm.Cond.soleField "GlassStreet$Reader" "to") ∈ lw_all := lw_g (lw_at lw_m1 71 rfl) rfl
theorem q192 : (Jvm.Cond.lays "GlassStreet$Reader" "GlassStreet$Reader" "kind" "I") ∈ lw_all := lw_g (lw_at lw_m1 72 rfl) rfl
theorem q193 : (Jvm.Cond.soleField "GlassStreet$Reader" "kind") ∈ lw_all := lw_g (lw_at lw_m1 73 rfl) rfl
theorem q194 : (Jvm.Cond.lays "GlassStreet$Reader" "GlassStreet$Reader" "from" "I") ∈ lw_all := lw_g (lw_at lw_m1 74 rfl) rfl
theorem q195 : (Jvm.Cond.soleField "GlassStreet$Reader" "from") ∈ lw_all := lw_g (lw_at lw_m1 75 rfl) rfl
theorem q196 : (Jvm.Cond.lays "GlassStreet$Reader" "GlassStreet$Reader" "value" "I") ∈ lw_all := lw_g (lw_at lw_m1 76 rfl) rfl
theorem q197 : (Jvm.Cond.soleField "GlassStreet$Reader" "value") ∈ lw_all := lw_g (lw_at lw_m1 77 rfl) rfl
theorem q198 : (Jvm.Cond.lays "GlassStreet$Reader" "GlassStreet$Reader" "within" "I") ∈ lw_all := lw_g (lw_at lw_m1 78 rfl) rfl
theorem q199 : (Jvm.Cond.soleField "GlassStreet$Reader" "within") ∈ lw_all := lw_g (lw_at lw_m1 79 rfl) rfl
theorem q200 : (Jvm.Cond.lays "GlassStreet$Reader" "GlassStreet$Reader" "houses" "LGlassStreet$Houses;") ∈ lw_all := lw_g (lw_at lw_m1 80 rfl) rfl
theorem q201 : (Jvm.Cond.soleField "GlassStreet$Reader" "houses") ∈ lw_all := lw_g (lw_at lw_m1 81 rfl) rfl
theorem q202 : (Jvm.Cond.superclass "GlassStreet$Reader" "java/lang/Object") ∈ lw_all := lw_g (lw_at lw_m1 82 rfl) rfl
theorem q240 : (Jvm.Cond.fieldLinkNest "GlassStreet$Reader" (134 : Nat) "GlassStreet$Houses" "panes" "Ljava/util/ArrayList;" "GlassStreet") ∈ lw_tbl := lw_at lw_m1 120 rfl
theorem q243 : (Jvm.Cond.fieldLinkNest "GlassStreet$Reader" (142 : Nat) "GlassStreet$Houses" "people" "Ljava/util/ArrayList;" "GlassStreet") ∈ lw_tbl := lw_at lw_m1 123 rfl
theorem q246 : (Jvm.Cond.fieldLinkNest "GlassStreet$Reader" (145 : Nat) "GlassStreet$Houses" "deeds" "Ljava/util/ArrayList;" "GlassStreet") ∈ lw_tbl := lw_at lw_m1 126 rfl
theorem q249 : (Jvm.Cond.fieldLinkNest "GlassStreet$Reader" (168 : Nat) "GlassStreet$Houses" "at" "[I" "GlassStreet") ∈ lw_tbl := lw_at lw_m1 129 rfl
theorem q252 : (Jvm.Cond.fieldLinkNest "GlassStreet$Reader" (180 : Nat) "GlassStreet$Houses" "harm" "[I" "GlassStreet") ∈ lw_tbl := lw_at lw_m1 132 rfl
theorem q254 : (Jvm.Cond.fieldLinkNest "GlassStreet$Reader" (188 : Nat) "GlassStreet$Houses" "light" "[I" "GlassStreet") ∈ lw_tbl := lw_at lw_m1 134 rfl
theorem q256 : (Jvm.Cond.fieldLinkNest "GlassStreet$Reader" (127 : Nat) "GlassStreet$Houses" "many" "I" "GlassStreet") ∈ lw_tbl := lw_at lw_m1 136 rfl
theorem q257 : (Jvm.Cond.fieldLinkNest "GlassStreet$Reader" (130 : Nat) "GlassStreet$Houses" "fades" "LGlassStreet$Expression;" "GlassStreet") ∈ lw_tbl := lw_at lw_m1 137 rfl
theorem q407 : (Jvm.Cond.instanceMethod ({ cls := "GlassStreet$Reader", name := "begin", desc := "([BI)V" } : Jvm.MethodName)) ∈ lw_all := lw_g (lw_at lw_m2 47 rfl) rfl
theorem q408 : (Jvm.Cond.selects "GlassStreet$Reader" ({ cls := "GlassStreet$Reader", name := "begin", desc := "([BI)V" } : Jvm.MethodName) ({ cls := "GlassStreet$Reader", name := "begin", desc := "([BI)V" } : Jvm.MethodName)) ∈ lw_all := lw_g (lw_at lw_m2 48 rfl) rfl
theorem q409 : (Jvm.Cond.code ({ cls := "GlassStreet$Reader", name := "begin", desc := "([BI)V" } : Jvm.MethodName) prog_16_method_2_code (3 : Nat) (Option.none : Option Jvm.ClassFile.FieldType)) ∈ lw_all := lw_g (lw_at lw_m2 49 rfl) rfl
theorem q410 : (Jvm.Cond.methodLink "GlassStreet$Reader" (25 : Nat) ({ cls := "GlassStreet$Reader", name := "next", desc := "()V" } : Jvm.MethodName)) ∈ lw_all := lw_g (lw_at lw_m2 50 rfl) rfl
theorem q411 : (Jvm.Cond.privateMethod ({ cls := "GlassStreet$Reader", name := "next", desc := "()V" } : Jvm.MethodName)) ∈ lw_tbl := lw_at lw_m2 51 rfl
theorem q412 : (Jvm.Cond.instanceMethod ({ cls := "GlassStreet$Reader", name := "next", desc := "()V" } : Jvm.MethodName)) ∈ lw_all := lw_g (lw_at lw_m2 52 rfl) rfl
theorem q413 : (Jvm.Cond.code ({ cls := "GlassStreet$Reader", name := "next", desc := "()V" } : Jvm.MethodName) prog_16_method_6_code (1 : Nat) (Option.none : Option Jvm.ClassFile.FieldType)) ∈ lw_all := lw_g (lw_at lw_m2 53 rfl) rfl
theorem q414 : (Jvm.Cond.methodLink "GlassStreet$Reader" (34 : Nat) ({ cls := "GlassStreet$Reader", name := "at", desc := "(I)I" } : Jvm.MethodName)) ∈ lw_all := lw_g (lw_at lw_m2 54 rfl) rfl
theorem q415 : (Jvm.Cond.privateMethod ({ cls := "GlassStreet$Reader", name := "at", desc := "(I)I" } : Jvm.MethodName)) ∈ lw_tbl := lw_at lw_m2 55 rfl
theorem q416 : (Jvm.Cond.instanceMethod ({ cls := "GlassStreet$Reader", name := "at", desc := "(I)I" } : Jvm.MethodName)) ∈ lw_all := lw_g (lw_at lw_m2 56 rfl) rfl
theorem q417 : (Jvm.Cond.code ({ cls := "GlassStreet$Reader", name := "at", desc := "(I)I" } : Jvm.MethodName) prog_16_method_3_code (2 : Nat) (Option.some Jvm.ClassFile.FieldType.int)) ∈ lw_all := lw_g (lw_at lw_m2 57 rfl) rfl
theorem q418 : (Jvm.Cond.methodLink "GlassStreet$Reader" (38 : Nat) ({ cls := "GlassStreet$Reader", name := "isLetter", desc := "(I)Z" } : Jvm.MethodName)) ∈ lw_all := lw_g (lw_at lw_m2 58 rfl) rfl
theorem q419 : (Jvm.Cond.static ({ cls := "GlassStreet$Reader", name := "isLetter", desc := "(I)Z" } : Jvm.MethodName)) ∈ lw_all := lw_g (lw_at lw_m2 59 rfl) rfl
theorem q420 : (Jvm.Cond.code ({ cls := "GlassStreet$Reader", name := "isLetter", desc := "(I)Z" } : Jvm.MethodName) prog_16_method_4_code (1 : Nat) (Option.some Jvm.ClassFile.FieldType.boolean)) ∈ lw_all := lw_g (lw_at lw_m2 60 rfl) rfl
theorem q421 : (Jvm.Cond.methodLink "GlassStreet$Reader" (42 : Nat) ({ cls := "GlassStreet$Reader", name := "isDigit", desc := "(I)Z" } : Jvm.MethodName)) ∈ lw_all := lw_g (lw_at lw_m2 61 rfl) rfl
theorem q422 : (Jvm.Cond.static ({ cls := "GlassStreet$Reader", name := "isDigit", desc := "(I)Z" } : Jvm.MethodName)) ∈ lw_all := lw_g (lw_at lw_m2 62 rfl) rfl
theorem q423 : (Jvm.Cond.code ({ cls := "GlassStreet$Reader", name := "isDigit", desc := "(I)Z" } : Jvm.MethodName) prog_16_method_5_code (1 : Nat) (Option.some Jvm.ClassFile.FieldType.boolean)) ∈ lw_all := lw_g (lw_at lw_m2 63 rfl) rfl
theorem q424 : (Jvm.Cond.stringRef "GlassStreet$Reader" (48 : Nat) "()<=+-*;") ∈ lw_tbl := lw_at lw_m2 64 rfl
theorem q425 : (Jvm.Cond.methodLink "GlassStreet$Reader" (50 : Nat) ({ cls := "java/lang/String", name := "indexOf", desc := "(I)I" } : Jvm.MethodName)) ∈ lw_all := lw_g (lw_at lw_m2 65 rfl) rfl
theorem q512 : (Jvm.Cond.instanceMethod ({ cls := "GlassStreet$Reader", name := "houses", desc := "()LGlassStreet$Houses;" } : Jvm.MethodName)) ∈ lw_all := lw_g (lw_at lw_m2 152 rfl) rfl
theorem q513 : (Jvm.Cond.selects "GlassStreet$Reader" ({ cls := "GlassStreet$Reader", name := "houses", desc := "()LGlassStreet$Houses;" } : Jvm.MethodName) ({ cls := "GlassStreet$Reader", name := "houses", desc := "()LGlassStreet$Houses;" } : Jvm.MethodName)) ∈ lw_all := lw_g (lw_at lw_m2 153 rfl) rfl
theorem q514 : (Jvm.Cond.code ({ cls := "GlassStreet$Reader", name := "houses", desc := "()LGlassStreet$Houses;" } : Jvm.MethodName) prog_16_method_21_code (2 : Nat) (Option.some (Jvm.ClassFile.FieldType.object "GlassStreet$Houses"))) ∈ lw_all := lw_g (lw_at lw_m2 154 rfl) rfl
theorem q515 : (Jvm.Cond.classLink "GlassStreet$Reader" (106 : Nat) "GlassStreet$Houses") ∈ lw_all := lw_g (lw_at lw_m2 155 rfl) rfl
theorem q516 : (Jvm.Cond.methodLinkNest "GlassStreet$Reader" (148 : Nat) ({ cls := "GlassStreet$Houses", name := "<init>", desc := "()V" } : Jvm.MethodName) "GlassStreet") ∈ lw_tbl := lw_at lw_m2 156 rfl
theorem q517 : (Jvm.Cond.stringRef "GlassStreet$Reader" (149 : Nat) "pane person deed light fades ") ∈ lw_tbl := lw_at lw_m2 157 rfl
theorem q518 : (Jvm.Cond.methodLink "GlassStreet$Reader" (71 : Nat) ({ cls := "GlassStreet$Reader", name := "which", desc := "(Ljava/lang/String;)I" } : Jvm.MethodName)) ∈ lw_all := lw_g (lw_at lw_m2 158 rfl) rfl
theorem q519 : (Jvm.Cond.privateMethod ({ cls := "GlassStreet$Reader", name := "which", desc := "(Ljava/lang/String;)I" } : Jvm.MethodName)) ∈ lw_tbl := lw_at lw_m2 159 rfl
theorem q520 : (Jvm.Cond.instanceMethod ({ cls := "GlassStreet$Reader", name := "which", desc := "(Ljava/lang/String;)I" } : Jvm.MethodName)) ∈ lw_all := lw_g (lw_at lw_m2 160 rfl) rfl
theorem q521 : (Jvm.Cond.code ({ cls := "GlassStreet$Reader", name := "which", desc := "(Ljava/lang/String;)I" } : Jvm.MethodName) prog_16_method_8_code (7 : Nat) (Option.some Jvm.ClassFile.FieldType.int)) ∈ lw_all := lw_g (lw_at lw_m2 161 rfl) rfl
theorem q522 : (Jvm.Cond.methodLink "GlassStreet$Reader" (60 : Nat) ({ cls := "java/lang/String", name := "length", desc := "()I" } : Jvm.MethodName)) ∈ lw_all := lw_g (lw_at lw_m2 162 rfl) rfl
theorem q523 : (Jvm.Cond.methodLink "GlassStreet$Reader" (64 : Nat) ({ cls := "java/lang/String", name := "indexOf", desc := "(II)I" } : Jvm.MethodName)) ∈ lw_all := lw_g (lw_at lw_m2 163 rfl) rfl
theorem q524 : (Jvm.Cond.methodLink "GlassStreet$Reader" (67 : Nat) ({ cls := "java/lang/String", name := "charAt", desc := "(I)C" } : Jvm.MethodName)) ∈ lw_all := lw_g (lw_at lw_m2 164 rfl) rfl
theorem q544 : (Jvm.Cond.methodLink "GlassStreet$Reader" (75 : Nat) ({ cls := "GlassStreet$Reader", name := "wrong", desc := "(I)LGlassStreet$Wrong;" } : Jvm.MethodName)) ∈ lw_all := lw_g (lw_at lw_m2 184 rfl) rfl
theorem q545 : (Jvm.Cond.privateMethod ({ cls := "GlassStreet$Reader", name := "wrong", desc := "(I)LGlassStreet$Wrong;" } : Jvm.MethodName)) ∈ lw_tbl := lw_at lw_m2 185 rfl
theorem q546 : (Jvm.Cond.instanceMethod ({ cls := "GlassStreet$Reader", name := "wrong", desc := "(I)LGlassStreet$Wrong;" } : Jvm.MethodName)) ∈ lw_all := lw_g (lw_at lw_m2 186 rfl) rfl
theorem q547 : (Jvm.Cond.code ({ cls := "GlassStreet$Reader", name := "wrong", desc := "(I)LGlassStreet$Wrong;" } : Jvm.MethodName) prog_16_method_7_code (2 : Nat) (Option.some (Jvm.ClassFile.FieldType.object "GlassStreet$Wrong"))) ∈ lw_all := lw_g (lw_at lw_m2 187 rfl) rfl
theorem q548 : (Jvm.Cond.classLink "GlassStreet$Reader" (55 : Nat) "GlassStreet$Wrong") ∈ lw_all := lw_g (lw_at lw_m2 188 rfl) rfl
theorem q588 : (Jvm.Cond.methodLink "GlassStreet$Reader" (57 : Nat) ({ cls := "GlassStreet$Wrong", name := "<init>", desc := "(II)V" } : Jvm.MethodName)) ∈ lw_all := lw_g (lw_at lw_m2 228 rfl) rfl
theorem q617 : (Jvm.Cond.methodLink "GlassStreet$Reader" (151 : Nat) ({ cls := "GlassStreet$Reader", name := "isTold", desc := "(I)Z" } : Jvm.MethodName)) ∈ lw_all := lw_g (lw_at lw_m3 17 rfl) rfl
theorem q618 : (Jvm.Cond.privateMethod ({ cls := "GlassStreet$Reader", name := "isTold", desc := "(I)Z" } : Jvm.MethodName)) ∈ lw_tbl := lw_at lw_m3 18 rfl
theorem q619 : (Jvm.Cond.instanceMethod ({ cls := "GlassStreet$Reader", name := "isTold", desc := "(I)Z" } : Jvm.MethodName)) ∈ lw_all := lw_g (lw_at lw_m3 19 rfl) rfl
theorem q620 : (Jvm.Cond.code ({ cls := "GlassStreet$Reader", name := "isTold", desc := "(I)Z" } : Jvm.MethodName) prog_16_method_19_code (2 : Nat) (Option.some Jvm.ClassFile.FieldType.boolean)) ∈ lw_all := lw_g (lw_at lw_m3 20 rfl) rfl
theorem q621 : (Jvm.Cond.methodLink "GlassStreet$Reader" (154 : Nat) ({ cls := "GlassStreet$Reader", name := "isFull", desc := "(I)Z" } : Jvm.MethodName)) ∈ lw_all := lw_g (lw_at lw_m3 21 rfl) rfl
theorem q622 : (Jvm.Cond.privateMethod ({ cls := "GlassStreet$Reader", name := "isFull", desc := "(I)Z" } : Jvm.MethodName)) ∈ lw_tbl := lw_at lw_m3 22 rfl
theorem q623 : (Jvm.Cond.instanceMethod ({ cls := "GlassStreet$Reader", name := "isFull", desc := "(I)Z" } : Jvm.MethodName)) ∈ lw_all := lw_g (lw_at lw_m3 23 rfl) rfl
theorem q624 : (Jvm.Cond.code ({ cls := "GlassStreet$Reader", name := "isFull", desc := "(I)Z" } : Jvm.MethodName) prog_16_method_20_code (2 : Nat) (Option.some Jvm.ClassFile.FieldType.boolean)) ∈ lw_all := lw_g (lw_at lw_m3 24 rfl) rfl
theorem q625 : (Jvm.Cond.methodLink "GlassStreet$Reader" (138 : Nat) ({ cls := "java/util/ArrayList", name := "size", desc := "()I" } : Jvm.MethodName)) ∈ lw_all := lw_g (lw_at lw_m3 25 rfl) rfl
theorem q629 : (Jvm.Cond.methodLink "GlassStreet$Reader" (157 : Nat) ({ cls := "GlassStreet$Reader", name := "line", desc := "(I)V" } : Jvm.MethodName)) ∈ lw_all := lw_g (lw_at lw_m3 29 rfl) rfl
theorem q630 : (Jvm.Cond.privateMethod ({ cls := "GlassStreet$Reader", name := "line", desc := "(I)V" } : Jvm.MethodName)) ∈ lw_tbl := lw_at lw_m3 30 rfl
theorem q631 : (Jvm.Cond.instanceMethod ({ cls := "GlassStreet$Reader", name := "line", desc := "(I)V" } : Jvm.MethodName)) ∈ lw_all := lw_g (lw_at lw_m3 31 rfl) rfl
theorem q632 : (Jvm.Cond.code ({ cls := "GlassStreet$Reader", name := "line", desc := "(I)V" } : Jvm.MethodName) prog_16_method_22_code (3 : Nat) (Option.none : Option Jvm.ClassFile.FieldType)) ∈ lw_all := lw_g (lw_at lw_m3 32 rfl) rfl
theorem q633 : (Jvm.Cond.methodLink "GlassStreet$Reader" (163 : Nat) ({ cls := "GlassStreet$Reader", name := "pane", desc := "()V" } : Jvm.MethodName)) ∈ lw_all := lw_g (lw_at lw_m3 33 rfl) rfl
theorem q634 : (Jvm.Cond.privateMethod ({ cls := "GlassStreet$Reader", name := "pane", desc := "()V" } : Jvm.MethodName)) ∈ lw_tbl := lw_at lw_m3 34 rfl
theorem q635 : (Jvm.Cond.instanceMethod ({ cls := "GlassStreet$Reader", name := "pane", desc := "()V" } : Jvm.MethodName)) ∈ lw_all := lw_g (lw_at lw_m3 35 rfl) rfl
theorem q636 : (Jvm.Cond.code ({ cls := "GlassStreet$Reader", name := "pane", desc := "()V" } : Jvm.MethodName) prog_16_method_23_code (5 : Nat) (Option.none : Option Jvm.ClassFile.FieldType)) ∈ lw_all := lw_g (lw_at lw_m3 36 rfl) rfl
theorem q637 : (Jvm.Cond.methodLink "GlassStreet$Reader" (165 : Nat) ({ cls := "GlassStreet$Reader", name := "fresh", desc := "()Ljava/lang/String;" } : Jvm.MethodName)) ∈ lw_all := lw_g (lw_at lw_m3 37 rfl) rfl
theorem q638 : (Jvm.Cond.privateMethod ({ cls := "GlassStreet$Reader", name := "fresh", desc := "()Ljava/lang/String;" } : Jvm.MethodName)) ∈ lw_tbl := lw_at lw_m3 38 rfl
theorem q639 : (Jvm.Cond.instanceMethod ({ cls := "GlassStreet$Reader", name := "fresh", desc := "()Ljava/lang/String;" } : Jvm.MethodName)) ∈ lw_all := lw_g (lw_at lw_m3 39 rfl) rfl
theorem q640 : (Jvm.Cond.code ({ cls := "GlassStreet$Reader", name := "fresh", desc := "()Ljava/lang/String;" } : Jvm.MethodName) prog_16_method_14_code (2 : Nat) (Option.some (Jvm.ClassFile.FieldType.object "java/lang/String"))) ∈ lw_all := lw_g (lw_at lw_m3 40 rfl) rfl
theorem q641 : (Jvm.Cond.methodLink "GlassStreet$Reader" (98 : Nat) ({ cls := "GlassStreet$Reader", name := "name", desc := "()Ljava/lang/String;" } : Jvm.MethodName)) ∈ lw_all := lw_g (lw_at lw_m3 41 rfl) rfl
theorem q642 : (Jvm.Cond.privateMethod ({ cls := "GlassStreet$Reader", name := "name", desc := "()Ljava/lang/String;" } : Jvm.MethodName)) ∈ lw_tbl := lw_at lw_m3 42 rfl
theorem q643 : (Jvm.Cond.instanceMethod ({ cls := "GlassStreet$Reader", name := "name", desc := "()Ljava/lang/String;" } : Jvm.MethodName)) ∈ lw_all := lw_g (lw_at lw_m3 43 rfl) rfl
theorem q644 : (Jvm.Cond.code ({ cls := "GlassStreet$Reader", name := "name", desc := "()Ljava/lang/String;" } : Jvm.MethodName) prog_16_method_13_code (3 : Nat) (Option.some (Jvm.ClassFile.FieldType.object "java/lang/String"))) ∈ lw_all := lw_g (lw_at lw_m3 44 rfl) rfl
theorem q645 : (Jvm.Cond.stringRef "GlassStreet$Reader" (83 : Nat) "pane keeps sees person at deed harm light fades walk does wash curtain stone hour plain frosted thick mirror not and or ") ∈ lw_tbl := lw_at lw_m3 45 rfl
theorem q646 : (Jvm.Cond.classLink "GlassStreet$Reader" (85 : Nat) "java/lang/StringBuilder") ∈ lw_all := lw_g (lw_at lw_m3 46 rfl) rfl
theorem q648 : (Jvm.Cond.methodLink "GlassStreet$Reader" (87 : Nat) ({ cls := "java/lang/StringBuilder", name := "<init>", desc := "(I)V" } : Jvm.MethodName)) ∈ lw_all := lw_g (lw_at lw_m3 48 rfl) rfl
theorem q676 : (Jvm.Cond.methodLink "GlassStreet$Reader" (90 : Nat) ({ cls := "java/lang/StringBuilder", name := "append", desc := "(C)Ljava/lang/StringBuilder;" } : Jvm.MethodName)) ∈ lw_all := lw_g (lw_at lw_m3 76 rfl) rfl
theorem q747 : (Jvm.Cond.methodLink "GlassStreet$Reader" (94 : Nat) ({ cls := "java/lang/StringBuilder", name := "toString", desc := "()Ljava/lang/String;" } : Jvm.MethodName)) ∈ lw_all := lw_g (lw_at lw_m3 147 rfl) rfl
theorem q804 : (Jvm.Cond.methodLink "GlassStreet$Reader" (105 : Nat) ({ cls := "GlassStreet$Houses", name := "pane", desc := "(Ljava/lang/String;)I" } : Jvm.MethodName)) ∈ lw_all := lw_g (lw_at lw_m3 204 rfl) rfl
theorem q830 : (Jvm.Cond.methodLink "GlassStreet$Reader" (110 : Nat) ({ cls := "GlassStreet$Houses", name := "person", desc := "(Ljava/lang/String;)I" } : Jvm.MethodName)) ∈ lw_all := lw_g (lw_at lw_m3 230 rfl) rfl
theorem q838 : (Jvm.Cond.methodLink "GlassStreet$Reader" (113 : Nat) ({ cls := "GlassStreet$Houses", name := "deed", desc := "(Ljava/lang/String;)I" } : Jvm.MethodName)) ∈ lw_all := lw_g (lw_at lw_m3 238 rfl) rfl
theorem q842 : (Jvm.Cond.stringRef "GlassStreet$Reader" (195 : Nat) "plain frosted thick mirror ") ∈ lw_tbl := lw_at lw_m4 2 rfl
theorem q843 : (Jvm.Cond.methodLink "GlassStreet$Reader" (197 : Nat) ({ cls := "GlassStreet$Reader", name := "one", desc := "(Ljava/lang/String;)I" } : Jvm.MethodName)) ∈ lw_all := lw_g (lw_at lw_m4 3 rfl) rfl
theorem q844 : (Jvm.Cond.privateMethod ({ cls := "GlassStreet$Reader", name := "one", desc := "(Ljava/lang/String;)I" } : Jvm.MethodName)) ∈ lw_tbl := lw_at lw_m4 4 rfl
theorem q845 : (Jvm.Cond.instanceMethod ({ cls := "GlassStreet$Reader", name := "one", desc := "(Ljava/lang/String;)I" } : Jvm.MethodName)) ∈ lw_all := lw_g (lw_at lw_m4 5 rfl) rfl
theorem q846 : (Jvm.Cond.code ({ cls := "GlassStreet$Reader", name := "one", desc := "(Ljava/lang/String;)I" } : Jvm.MethodName) prog_16_method_16_code (3 : Nat) (Option.some Jvm.ClassFile.FieldType.int)) ∈ lw_all := lw_g (lw_at lw_m4 6 rfl) rfl
theorem q847 : (Jvm.Cond.classLink "GlassStreet$Reader" (200 : Nat) "GlassStreet$Pane") ∈ lw_all := lw_g (lw_at lw_m4 7 rfl) rfl
theorem q849 : (Jvm.Cond.methodLink "GlassStreet$Reader" (202 : Nat) ({ cls := "GlassStreet$Pane", name := "<init>", desc := "(Ljava/lang/String;)V" } : Jvm.MethodName)) ∈ lw_all := lw_g (lw_at lw_m4 9 rfl) rfl
theorem q856 : (Jvm.Cond.fieldLink "GlassStreet$Reader" (215 : Nat) "GlassStreet$Pane" "keeps" "I") ∈ lw_all := lw_g (lw_at lw_m4 16 rfl) rfl
theorem q862 : (Jvm.Cond.fieldLink "GlassStreet$Reader" (220 : Nat) "GlassStreet$Pane" "cells" "I") ∈ lw_all := lw_g (lw_at lw_m4 22 rfl) rfl
theorem q870 : (Jvm.Cond.classLink "GlassStreet$Reader" (204 : Nat) "GlassStreet$Frosted") ∈ lw_all := lw_g (lw_at lw_m4 30 rfl) rfl
theorem q872 : (Jvm.Cond.methodLink "GlassStreet$Reader" (206 : Nat) ({ cls := "GlassStreet$Frosted", name := "<init>", desc := "(Ljava/lang/String;)V" } : Jvm.MethodName)) ∈ lw_all := lw_g (lw_at lw_m4 32 rfl) rfl
theorem q880 : (Jvm.Cond.classLink "GlassStreet$Reader" (207 : Nat) "GlassStreet$Thick") ∈ lw_all := lw_g (lw_at lw_m4 40 rfl) rfl
theorem q882 : (Jvm.Cond.methodLink "GlassStreet$Reader" (209 : Nat) ({ cls := "GlassStreet$Thick", name := "<init>", desc := "(Ljava/lang/String;)V" } : Jvm.MethodName)) ∈ lw_all := lw_g (lw_at lw_m4 42 rfl) rfl
theorem q890 : (Jvm.Cond.classLink "GlassStreet$Reader" (210 : Nat) "GlassStreet$Mirror") ∈ lw_all := lw_g (lw_at lw_m4 50 rfl) rfl
theorem q892 : (Jvm.Cond.methodLink "GlassStreet$Reader" (212 : Nat) ({ cls := "GlassStreet$Mirror", name := "<init>", desc := "(Ljava/lang/String;)V" } : Jvm.MethodName)) ∈ lw_all := lw_g (lw_at lw_m4 52 rfl) rfl
theorem q900 : (Jvm.Cond.stringRef "GlassStreet$Reader" (213 : Nat) "keeps ") ∈ lw_tbl := lw_at lw_m4 60 rfl
theorem q901 : (Jvm.Cond.methodLink "GlassStreet$Reader" (173 : Nat) ({ cls := "GlassStreet$Reader", name := "number", desc := "(Ljava/lang/String;II)I" } : Jvm.MethodName)) ∈ lw_all := lw_g (lw_at lw_m4 61 rfl) rfl
theorem q902 : (Jvm.Cond.privateMethod ({ cls := "GlassStreet$Reader", name := "number", desc := "(Ljava/lang/String;II)I" } : Jvm.MethodName)) ∈ lw_tbl := lw_at lw_m4 62 rfl
theorem q903 : (Jvm.Cond.instanceMethod ({ cls := "GlassStreet$Reader", name := "number", desc := "(Ljava/lang/String;II)I" } : Jvm.MethodName)) ∈ lw_all := lw_g (lw_at lw_m4 63 rfl) rfl
theorem q904 : (Jvm.Cond.code ({ cls := "GlassStreet$Reader", name := "number", desc := "(Ljava/lang/String;II)I" } : Jvm.MethodName) prog_16_method_15_code (4 : Nat) (Option.some Jvm.ClassFile.FieldType.int)) ∈ lw_all := lw_g (lw_at lw_m4 64 rfl) rfl
theorem q905 : (Jvm.Cond.methodLink "GlassStreet$Reader" (116 : Nat) ({ cls := "GlassStreet$Reader", name := "need", desc := "(Ljava/lang/String;)V" } : Jvm.MethodName)) ∈ lw_all := lw_g (lw_at lw_m4 65 rfl) rfl
theorem q906 : (Jvm.Cond.privateMethod ({ cls := "GlassStreet$Reader", name := "need", desc := "(Ljava/lang/String;)V" } : Jvm.MethodName)) ∈ lw_tbl := lw_at lw_m4 66 rfl
theorem q907 : (Jvm.Cond.instanceMethod ({ cls := "GlassStreet$Reader", name := "need", desc := "(Ljava/lang/String;)V" } : Jvm.MethodName)) ∈ lw_all := lw_g (lw_at lw_m4 67 rfl) rfl
theorem q908 : (Jvm.Cond.code ({ cls := "GlassStreet$Reader", name := "need", desc := "(Ljava/lang/String;)V" } : Jvm.MethodName) prog_16_method_9_code (2 : Nat) (Option.none : Option Jvm.ClassFile.FieldType)) ∈ lw_all := lw_g (lw_at lw_m4 68 rfl) rfl
theorem q909 : (Jvm.Cond.methodLink "GlassStreet$Reader" (120 : Nat) ({ cls := "GlassStreet$Reader", name := "number", desc := "(II)I" } : Jvm.MethodName)) ∈ lw_all := lw_g (lw_at lw_m4 69 rfl) rfl
theorem q910 : (Jvm.Cond.privateMethod ({ cls := "GlassStreet$Reader", name := "number", desc := "(II)I" } : Jvm.MethodName)) ∈ lw_tbl := lw_at lw_m4 70 rfl
theorem q911 : (Jvm.Cond.instanceMethod ({ cls := "GlassStreet$Reader", name := "number", desc := "(II)I" } : Jvm.MethodName)) ∈ lw_all := lw_g (lw_at lw_m4 71 rfl) rfl
theorem q912 : (Jvm.Cond.code ({ cls := "GlassStreet$Reader", name := "number", desc := "(II)I" } : Jvm.MethodName) prog_16_method_12_code (4 : Nat) (Option.some Jvm.ClassFile.FieldType.int)) ∈ lw_all := lw_g (lw_at lw_m4 72 rfl) rfl
theorem q913 : (Jvm.Cond.stringRef "GlassStreet$Reader" (218 : Nat) "sees ") ∈ lw_tbl := lw_at lw_m4 73 rfl
theorem q914 : (Jvm.Cond.methodLink "GlassStreet$Reader" (185 : Nat) ({ cls := "GlassStreet$Reader", name := "ahead", desc := "(II)I" } : Jvm.MethodName)) ∈ lw_all := lw_g (lw_at lw_m4 74 rfl) rfl
theorem q915 : (Jvm.Cond.privateMethod ({ cls := "GlassStreet$Reader", name := "ahead", desc := "(II)I" } : Jvm.MethodName)) ∈ lw_tbl := lw_at lw_m4 75 rfl
theorem q916 : (Jvm.Cond.instanceMethod ({ cls := "GlassStreet$Reader", name := "ahead", desc := "(II)I" } : Jvm.MethodName)) ∈ lw_all := lw_g (lw_at lw_m4 76 rfl) rfl
theorem q917 : (Jvm.Cond.code ({ cls := "GlassStreet$Reader", name := "ahead", desc := "(II)I" } : Jvm.MethodName) prog_16_method_17_code (5 : Nat) (Option.some Jvm.ClassFile.FieldType.int)) ∈ lw_all := lw_g (lw_at lw_m4 77 rfl) rfl
theorem q918 : (Jvm.Cond.methodLinkNest "GlassStreet$Reader" (123 : Nat) ({ cls := "GlassStreet", name := "in", desc := "(III)Z" } : Jvm.MethodName) "GlassStreet") ∈ lw_tbl := lw_at lw_m4 78 rfl
theorem q921 : (Jvm.Cond.methodLinkNest "GlassStreet$Reader" (223 : Nat) ({ cls := "GlassStreet", name := "isIn", desc := "(II)Z" } : Jvm.MethodName) "GlassStreet") ∈ lw_tbl := lw_at lw_m4 81 rfl
theorem q924 : (Jvm.Cond.methodLink "GlassStreet$Reader" (79 : Nat) ({ cls := "GlassStreet$Reader", name := "isSign", desc := "(C)Z" } : Jvm.MethodName)) ∈ lw_all := lw_g (lw_at lw_m4 84 rfl) rfl
theorem q925 : (Jvm.Cond.privateMethod ({ cls := "GlassStreet$Reader", name := "isSign", desc := "(C)Z" } : Jvm.MethodName)) ∈ lw_tbl := lw_at lw_m4 85 rfl
theorem q926 : (Jvm.Cond.instanceMethod ({ cls := "GlassStreet$Reader", name := "isSign", desc := "(C)Z" } : Jvm.MethodName)) ∈ lw_all := lw_g (lw_at lw_m4 86 rfl) rfl
theorem q927 : (Jvm.Cond.code ({ cls := "GlassStreet$Reader", name := "isSign", desc := "(C)Z" } : Jvm.MethodName) prog_16_method_10_code (2 : Nat) (Option.some Jvm.ClassFile.FieldType.boolean)) ∈ lw_all := lw_g (lw_at lw_m4 87 rfl) rfl
theorem q928 : (Jvm.Cond.methodLink "GlassStreet$Reader" (176 : Nat) ({ cls := "java/util/ArrayList", name := "add", desc := "(Ljava/lang/Object;)Z" } : Jvm.MethodName)) ∈ lw_all := lw_g (lw_at lw_m4 88 rfl) rfl
theorem q966 : (Jvm.Cond.selects "GlassStreet$Reader" ({ cls := "java/lang/Object", name := "getClass", desc := "()Ljava/lang/Class;" } : Jvm.MethodName) ({ cls := "java/lang/Object", name := "getClass", desc := "()Ljava/lang/Class;" } : Jvm.MethodName)) ∈ lw_all := lw_g (lw_at lw_m4 126 rfl) rfl
theorem q985 : (Jvm.Cond.stringRef "GlassStreet$Reader" (171 : Nat) "at ") ∈ lw_tbl := lw_at lw_m4 145 rfl
theorem q986 : (Jvm.Cond.stringRef "GlassStreet$Reader" (183 : Nat) "harm ") ∈ lw_tbl := lw_at lw_m4 146 rfl
theorem q987 : (Jvm.Cond.methodLink "GlassStreet$Reader" (191 : Nat) ({ cls := "GlassStreet$Reader", name := "expression", desc := "()LGlassStreet$Expression;" } : Jvm.MethodName)) ∈ lw_all := lw_g (lw_at lw_m4 147 rfl) rfl
theorem q988 : (Jvm.Cond.privateMethod ({ cls := "GlassStreet$Reader", name := "expression", desc := "()LGlassStreet$Expression;" } : Jvm.MethodName)) ∈ lw_tbl := lw_at lw_m4 148 rfl
theorem q989 : (Jvm.Cond.instanceMethod ({ cls := "GlassStreet$Reader", name := "expression", desc := "()LGlassStreet$Expression;" } : Jvm.MethodName)) ∈ lw_all := lw_g (lw_at lw_m4 149 rfl) rfl
theorem q990 : (Jvm.Cond.code ({ cls := "GlassStreet$Reader", name := "expression", desc := "()LGlassStreet$Expression;" } : Jvm.MethodName) prog_16_method_26_code (3 : Nat) (Option.some (Jvm.ClassFile.FieldType.object "GlassStreet$Expression"))) ∈ lw_all := lw_g (lw_at lw_m4 150 rfl) rfl
theorem q991 : (Jvm.Cond.methodLink "GlassStreet$Reader" (254 : Nat) ({ cls := "GlassStreet$Reader", name := "test", desc := "()LGlassStreet$Expression;" } : Jvm.MethodName)) ∈ lw_all := lw_g (lw_at lw_m4 151 rfl) rfl
theorem q992 : (Jvm.Cond.privateMethod ({ cls := "GlassStreet$Reader", name := "test", desc := "()LGlassStreet$Expression;" } : Jvm.MethodName)) ∈ lw_tbl := lw_at lw_m4 152 rfl
theorem q993 : (Jvm.Cond.instanceMethod ({ cls := "GlassStreet$Reader", name := "test", desc := "()LGlassStreet$Expression;" } : Jvm.MethodName)) ∈ lw_all := lw_g (lw_at lw_m4 153 rfl) rfl
theorem q994 : (Jvm.Cond.code ({ cls := "GlassStreet$Reader", name := "test", desc := "()LGlassStreet$Expression;" } : Jvm.MethodName) prog_16_method_27_code (3 : Nat) (Option.some (Jvm.ClassFile.FieldType.object "GlassStreet$Expression"))) ∈ lw_all := lw_g (lw_at lw_m4 154 rfl) rfl
theorem q995 : (Jvm.Cond.methodLink "GlassStreet$Reader" (264 : Nat) ({ cls := "GlassStreet$Reader", name := "sum", desc := "()LGlassStreet$Expression;" } : Jvm.MethodName)) ∈ lw_all := lw_g (lw_at lw_m4 155 rfl) rfl
theorem q996 : (Jvm.Cond.privateMethod ({ cls := "GlassStreet$Reader", name := "sum", desc := "()LGlassStreet$Expression;" } : Jvm.MethodName)) ∈ lw_tbl := lw_at lw_m4 156 rfl
theorem q997 : (Jvm.Cond.instanceMethod ({ cls := "GlassStreet$Reader", name := "sum", desc := "()LGlassStreet$Expression;" } : Jvm.MethodName)) ∈ lw_all := lw_g (lw_at lw_m4 157 rfl) rfl
theorem q998 : (Jvm.Cond.code ({ cls := "GlassStreet$Reader", name := "sum", desc := "()LGlassStreet$Expression;" } : Jvm.MethodName) prog_16_method_28_code (3 : Nat) (Option.some (Jvm.ClassFile.FieldType.object "GlassStreet$Expression"))) ∈ lw_all := lw_g (lw_at lw_m4 158 rfl) rfl
theorem q999 : (Jvm.Cond.methodLink "GlassStreet$Reader" (267 : Nat) ({ cls := "GlassStreet$Reader", name := "product", desc := "()LGlassStreet$Expression;" } : Jvm.MethodName)) ∈ lw_all := lw_g (lw_at lw_m4 159 rfl) rfl
theorem q1000 : (Jvm.Cond.privateMethod ({ cls := "GlassStreet$Reader", name := "product", desc := "()LGlassStreet$Expression;" } : Jvm.MethodName)) ∈ lw_tbl := lw_at lw_m4 160 rfl
theorem q1001 : (Jvm.Cond.instanceMethod ({ cls := "GlassStreet$Reader", name := "product", desc := "()LGlassStreet$Expression;" } : Jvm.MethodName)) ∈ lw_all := lw_g (lw_at lw_m4 161 rfl) rfl
theorem q1002 : (Jvm.Cond.code ({ cls := "GlassStreet$Reader", name := "product", desc := "()LGlassStreet$Expression;" } : Jvm.MethodName) prog_16_method_29_code (2 : Nat) (Option.some (Jvm.ClassFile.FieldType.object "GlassStreet$Expression"))) ∈ lw_all := lw_g (lw_at lw_m4 162 rfl) rfl
theorem q1003 : (Jvm.Cond.methodLink "GlassStreet$Reader" (270 : Nat) ({ cls := "GlassStreet$Reader", name := "part", desc := "()LGlassStreet$Expression;" } : Jvm.MethodName)) ∈ lw_all := lw_g (lw_at lw_m4 163 rfl) rfl
theorem q1004 : (Jvm.Cond.privateMethod ({ cls := "GlassStreet$Reader", name := "part", desc := "()LGlassStreet$Expression;" } : Jvm.MethodName)) ∈ lw_tbl := lw_at lw_m4 164 rfl
theorem q1005 : (Jvm.Cond.instanceMethod ({ cls := "GlassStreet$Reader", name := "part", desc := "()LGlassStreet$Expression;" } : Jvm.MethodName)) ∈ lw_all := lw_g (lw_at lw_m4 165 rfl) rfl
theorem q1006 : (Jvm.Cond.code ({ cls := "GlassStreet$Reader", name := "part", desc := "()LGlassStreet$Expression;" } : Jvm.MethodName) prog_16_method_30_code (5 : Nat) (Option.some (Jvm.ClassFile.FieldType.object "GlassStreet$Expression"))) ∈ lw_all := lw_g (lw_at lw_m4 166 rfl) rfl
theorem q1007 : (Jvm.Cond.stringRef "GlassStreet$Reader" (273 : Nat) "age bad lit newer ") ∈ lw_tbl := lw_at lw_m4 167 rfl
theorem q1008 : (Jvm.Cond.stringRef "GlassStreet$Reader" (275 : Nat) "not ") ∈ lw_tbl := lw_at lw_m4 168 rfl
theorem q1009 : (Jvm.Cond.classLink "GlassStreet$Reader" (277 : Nat) "GlassStreet$Given") ∈ lw_all := lw_g (lw_at lw_m4 169 rfl) rfl
theorem q1011 : (Jvm.Cond.methodLink "GlassStreet$Reader" (279 : Nat) ({ cls := "GlassStreet$Given", name := "<init>", desc := "(I)V" } : Jvm.MethodName)) ∈ lw_all := lw_g (lw_at lw_m4 171 rfl) rfl
theorem q1022 : (Jvm.Cond.classLink "GlassStreet$Reader" (280 : Nat) "GlassStreet$Fact") ∈ lw_all := lw_g (lw_at lw_m4 182 rfl) rfl
theorem q1024 : (Jvm.Cond.methodLink "GlassStreet$Reader" (282 : Nat) ({ cls := "GlassStreet$Fact", name := "<init>", desc := "(I)V" } : Jvm.MethodName)) ∈ lw_all := lw_g (lw_at lw_m4 184 rfl) rfl
theorem q1032 : (Jvm.Cond.classLink "GlassStreet$Reader" (283 : Nat) "GlassStreet$Not") ∈ lw_all := lw_g (lw_at lw_m4 192 rfl) rfl
theorem q1034 : (Jvm.Cond.methodLink "GlassStreet$Reader" (285 : Nat) ({ cls := "GlassStreet$Not", name := "<init>", desc := "(LGlassStreet$Expression;)V" } : Jvm.MethodName)) ∈ lw_all := lw_g (lw_at lw_m4 194 rfl) rfl
theorem q1042 : (Jvm.Cond.methodLink "GlassStreet$Reader" (160 : Nat) ({ cls := "GlassStreet$Reader", name := "need", desc := "(C)V" } : Jvm.MethodName)) ∈ lw_all := lw_g (lw_at lw_m4 202 rfl) rfl
theorem q1043 : (Jvm.Cond.privateMethod ({ cls := "GlassStreet$Reader", name := "need", desc := "(C)V" } : Jvm.MethodName)) ∈ lw_tbl := lw_at lw_m4 203 rfl
theorem q1044 : (Jvm.Cond.instanceMethod ({ cls := "GlassStreet$Reader", name := "need", desc := "(C)V" } : Jvm.MethodName)) ∈ lw_all := lw_g (lw_at lw_m4 204 rfl) rfl
theorem q1045 : (Jvm.Cond.code ({ cls := "GlassStreet$Reader", name := "need", desc := "(C)V" } : Jvm.MethodName) prog_16_method_11_code (2 : Nat) (Option.none : Option Jvm.ClassFile.FieldType)) ∈ lw_all := lw_g (lw_at lw_m4 205 rfl) rfl
theorem q1046 : (Jvm.Cond.classLink "GlassStreet$Reader" (259 : Nat) "GlassStreet$Two") ∈ lw_all := lw_g (lw_at lw_m4 206 rfl) rfl
theorem q1048 : (Jvm.Cond.methodLink "GlassStreet$Reader" (261 : Nat) ({ cls := "GlassStreet$Two", name := "<init>", desc := "(CLGlassStreet$Expression;LGlassStreet$Expression;)V" } : Jvm.MethodName)) ∈ lw_all := lw_g (lw_at lw_m4 208 rfl) rfl
theorem q1062 : (Jvm.Cond.stringRef "GlassStreet$Reader" (257 : Nat) "and or ") ∈ lw_tbl := lw_at lw_m4 222 rfl
theorem q1075 : (Jvm.Cond.instanceMethod ({ cls := "GlassStreet$Reader", name := "day", desc := "(LGlassStreet$Houses;)Ljava/util/ArrayList;" } : Jvm.MethodName)) ∈ lw_all := lw_g (lw_at lw_m4 235 rfl) rfl
theorem q1076 : (Jvm.Cond.selects "GlassStreet$Reader" ({ cls := "GlassStreet$Reader", name := "day", desc := "(LGlassStreet$Houses;)Ljava/util/ArrayList;" } : Jvm.MethodName) ({ cls := "GlassStreet$Reader", name := "day", desc := "(LGlassStreet$Houses;)Ljava/util/ArrayList;" } : Jvm.MethodName)) ∈ lw_all := lw_g (lw_at lw_m4 236 rfl) rfl
theorem q1077 : (Jvm.Cond.code ({ cls := "GlassStreet$Reader", name := "day", desc := "(LGlassStreet$Houses;)Ljava/util/ArrayList;" } : Jvm.MethodName) prog_16_method_24_code (4 : Nat) (Option.some (Jvm.ClassFile.FieldType.object "java/util/ArrayList"))) ∈ lw_all := lw_g (lw_at lw_m4 237 rfl) rfl
theorem q1078 : (Jvm.Cond.classLink "GlassStreet$Reader" (139 : Nat) "java/util/ArrayList") ∈ lw_all := lw_g (lw_at lw_m4 238 rfl) rfl
theorem q1079 : (Jvm.Cond.methodLink "GlassStreet$Reader" (227 : Nat) ({ cls := "java/util/ArrayList", name := "<init>", desc := "(I)V" } : Jvm.MethodName)) ∈ lw_all := lw_g (lw_at lw_m4 239 rfl) rfl
theorem q1080 : (Jvm.Cond.stringRef "GlassStreet$Reader" (228 : Nat) "walk does wash curtain stone hour ") ∈ lw_tbl := lw_at lw_m5 0 rfl
theorem q1081 : (Jvm.Cond.methodLink "GlassStreet$Reader" (230 : Nat) ({ cls := "GlassStreet$Reader", name := "done", desc := "(I)LGlassStreet$Line;" } : Jvm.MethodName)) ∈ lw_all := lw_g (lw_at lw_m5 1 rfl) rfl
theorem q1082 : (Jvm.Cond.privateMethod ({ cls := "GlassStreet$Reader", name := "done", desc := "(I)LGlassStreet$Line;" } : Jvm.MethodName)) ∈ lw_tbl := lw_at lw_m5 2 rfl
theorem q1083 : (Jvm.Cond.instanceMethod ({ cls := "GlassStreet$Reader", name := "done", desc := "(I)LGlassStreet$Line;" } : Jvm.MethodName)) ∈ lw_all := lw_g (lw_at lw_m5 3 rfl) rfl
theorem q1084 : (Jvm.Cond.code ({ cls := "GlassStreet$Reader", name := "done", desc := "(I)LGlassStreet$Line;" } : Jvm.MethodName) prog_16_method_25_code (3 : Nat) (Option.some (Jvm.ClassFile.FieldType.object "GlassStreet$Line"))) ∈ lw_all := lw_g (lw_at lw_m5 4 rfl) rfl
theorem q1085 : (Jvm.Cond.classLink "GlassStreet$Reader" (234 : Nat) "GlassStreet$Passed") ∈ lw_all := lw_g (lw_at lw_m5 5 rfl) rfl
theorem q1087 : (Jvm.Cond.methodLinkNest "GlassStreet$Reader" (236 : Nat) ({ cls := "GlassStreet$Passed", name := "<init>", desc := "()V" } : Jvm.MethodName) "GlassStreet") ∈ lw_tbl := lw_at lw_m5 7 rfl
theorem q1095 : (Jvm.Cond.methodLink "GlassStreet$Reader" (237 : Nat) ({ cls := "GlassStreet$Reader", name := "passed", desc := "(I)I" } : Jvm.MethodName)) ∈ lw_all := lw_g (lw_at lw_m5 15 rfl) rfl
theorem q1096 : (Jvm.Cond.privateMethod ({ cls := "GlassStreet$Reader", name := "passed", desc := "(I)I" } : Jvm.MethodName)) ∈ lw_tbl := lw_at lw_m5 16 rfl
theorem q1097 : (Jvm.Cond.instanceMethod ({ cls := "GlassStreet$Reader", name := "passed", desc := "(I)I" } : Jvm.MethodName)) ∈ lw_all := lw_g (lw_at lw_m5 17 rfl) rfl
theorem q1098 : (Jvm.Cond.code ({ cls := "GlassStreet$Reader", name := "passed", desc := "(I)I" } : Jvm.MethodName) prog_16_method_18_code (2 : Nat) (Option.some Jvm.ClassFile.FieldType.int)) ∈ lw_all := lw_g (lw_at lw_m5 18 rfl) rfl
theorem q1099 : (Jvm.Cond.classLink "GlassStreet$Reader" (240 : Nat) "GlassStreet$Walked") ∈ lw_all := lw_g (lw_at lw_m5 19 rfl) rfl
theorem q1101 : (Jvm.Cond.methodLink "GlassStreet$Reader" (242 : Nat) ({ cls := "GlassStreet$Walked", name := "<init>", desc := "(II)V" } : Jvm.MethodName)) ∈ lw_all := lw_g (lw_at lw_m5 21 rfl) rfl
theorem q1112 : (Jvm.Cond.classLink "GlassStreet$Reader" (243 : Nat) "GlassStreet$Did") ∈ lw_all := lw_g (lw_at lw_m5 32 rfl) rfl
theorem q1114 : (Jvm.Cond.methodLink "GlassStreet$Reader" (245 : Nat) ({ cls := "GlassStreet$Did", name := "<init>", desc := "(II)V" } : Jvm.MethodName)) ∈ lw_all := lw_g (lw_at lw_m5 34 rfl) rfl
theorem q1126 : (Jvm.Cond.classLink "GlassStreet$Reader" (246 : Nat) "GlassStreet$Washed") ∈ lw_all := lw_g (lw_at lw_m5 46 rfl) rfl
theorem q1128 : (Jvm.Cond.methodLink "GlassStreet$Reader" (248 : Nat) ({ cls := "GlassStreet$Washed", name := "<init>", desc := "(I)V" } : Jvm.MethodName)) ∈ lw_all := lw_g (lw_at lw_m5 48 rfl) rfl
theorem q1136 : (Jvm.Cond.classLink "GlassStreet$Reader" (249 : Nat) "GlassStreet$Changed") ∈ lw_all := lw_g (lw_at lw_m5 56 rfl) rfl
theorem q1138 : (Jvm.Cond.methodLink "GlassStreet$Reader" (251 : Nat) ({ cls := "GlassStreet$Changed", name := "<init>", desc := "(IZ)V" } : Jvm.MethodName)) ∈ lw_all := lw_g (lw_at lw_m5 58 rfl) rfl
theorem q2201 : (Jvm.Cond.castable "GlassStreet$Reader" "java/lang/Object") ∈ lw_tbl := lw_at lw_m9 161 rfl
theorem in_X2 : ∀ w ∈ wsX20, w ∈ lw_all := lw_in wsX20 [186, 188, 190, 192, 194, 196, 198, 200] (by decide +kernel) (by decide +kernel)
/-! GlassStreet$Houses -/
set_option maxRecDepth 100000
def RX3 : String := "GlassStreet$Houses"
def TX3 : u_T := fun k => match k with
  | 0 => ("GlassStreet$Houses", "panes", "Ljava/util/ArrayList;", true)
  | 1 => ("GlassStreet$Houses", "people", "Ljava/util/ArrayList;", true)
  | 2 => ("GlassStreet$Houses", "deeds", "Ljava/util/ArrayList;", true)
  | 3 => ("GlassStreet$Houses", "at", "[I", true)
  | 4 => ("GlassStreet$Houses", "harm", "[I", true)
  | 5 => ("GlassStreet$Houses", "light", "[I", true)
  | 6 => ("GlassStreet$Houses", "many", "I", false)
  | _ => ("GlassStreet$Houses", "fades", "LGlassStreet$Expression;", false)
def tyX3 : Nat → FieldType := fun k => match k with
  | 0 => .object "java/util/ArrayList"
  | 1 => .object "java/util/ArrayList"
  | 2 => .object "java/util/ArrayList"
  | 3 => .array .int
  | 4 => .array .int
  | 5 => .array .int
  | 6 => .int
  | _ => .object "GlassStreet$Expression"
abbrev wsX30 : List Cond := u_ws RX3 TX3 8
theorem nmX3 : ∀ a, a < 8 → ∀ b, b < 8 → a ≠ b → (TX3 a).2.1 ≠ (TX3 b).2.1 := by decide +kernel
theorem tyX3_ok : ∀ k, k < 8 → parseFieldDescriptor (TX3 k).2.2.1 = some (tyX3 k) := by decide +kernel
abbrev cX3_init : ByteArray := prog_8_method_1_code
def yX3_init : MethodName := ⟨RX3, "<init>", "()V"⟩
def dkwX3_init_2 : List UInt8 := [181, 0, 26, 42, 8, 188, 10, 181, 0, 30, 42, 16, 12, 188, 10, 181, 0, 33, 177]
abbrev dktX3_init_2 : List UInt8 := dkwX3_init_2 ++ []
def dkwX3_init_1 : List UInt8 := [183, 0, 11, 181, 0, 20, 42, 187, 0, 9, 89, 5, 183, 0, 11, 181, 0, 23, 42, 8, 188, 10]
abbrev dktX3_init_1 : List UInt8 := dkwX3_init_1 ++ dktX3_init_2
def dkwX3_init_0 : List UInt8 := [42, 183, 0, 3, 42, 187, 0, 9, 89, 5, 183, 0, 11, 181, 0, 14, 42, 187, 0, 9, 89, 5]
abbrev dktX3_init_0 : List UInt8 := dkwX3_init_0 ++ dktX3_init_1
theorem dksX3_init_0 : cX3_init.data.toList.drop 0 = dktX3_init_0 := by decide +kernel
theorem dksX3_init_1 : cX3_init.data.toList.drop 22 = dktX3_init_1 := dk_seg dksX3_init_0 22 rfl rfl
theorem dksX3_init_2 : cX3_init.data.toList.drop 44 = dktX3_init_2 := dk_seg dksX3_init_1 22 rfl rfl
theorem dX3_init_0 : decode cX3_init 0 = .ok (.aload_n 0, 1) := dk_42 (dk_at dksX3_init_0 0 rfl rfl)
theorem dX3_init_1 : decode cX3_init 1 = .ok (.invokespecial 3, 3) := dk_183 0 3 (dk_at dksX3_init_0 1 rfl rfl)
theorem dX3_init_4 : decode cX3_init 4 = .ok (.aload_n 0, 1) := dk_42 (dk_at dksX3_init_0 4 rfl rfl)
theorem dX3_init_5 : decode cX3_init 5 = .ok (.new 9, 3) := dk_187 0 9 (dk_at dksX3_init_0 5 rfl rfl)
theorem dX3_init_8 : decode cX3_init 8 = .ok (.dup, 1) := dk_89 (dk_at dksX3_init_0 8 rfl rfl)
theorem dX3_init_9 : decode cX3_init 9 = .ok (.iconst 2, 1) := dk_5 (dk_at dksX3_init_0 9 rfl rfl)
theorem dX3_init_10 : decode cX3_init 10 = .ok (.invokespecial 11, 3) := dk_183 0 11 (dk_at dksX3_init_0 10 rfl rfl)
theorem dX3_init_13 : decode cX3_init 13 = .ok (.putfield 14, 3) := dk_181 0 14 (dk_at dksX3_init_0 13 rfl rfl)
theorem dX3_init_16 : decode cX3_init 16 = .ok (.aload_n 0, 1) := dk_42 (dk_at dksX3_init_0 16 rfl rfl)
theorem dX3_init_17 : decode cX3_init 17 = .ok (.new 9, 3) := dk_187 0 9 (dk_at dksX3_init_0 17 rfl rfl)
theorem dX3_init_20 : decode cX3_init 20 = .ok (.dup, 1) := dk_89 (dk_at dksX3_init_0 20 rfl rfl)
theorem dX3_init_21 : decode cX3_init 21 = .ok (.iconst 2, 1) := dk_5 (dk_at dksX3_init_0 21 rfl rfl)
theorem dX3_init_22 : decode cX3_init 22 = .ok (.invokespecial 11, 3) := dk_183 0 11 (dk_at dksX3_init_1 0 rfl rfl)
theorem dX3_init_25 : decode cX3_init 25 = .ok (.putfield 20, 3) := dk_181 0 20 (dk_at dksX3_init_1 3 rfl rfl)
theorem dX3_init_28 : decode cX3_init 28 = .ok (.aload_n 0, 1) := dk_42 (dk_at dksX3_init_1 6 rfl rfl)
theorem dX3_init_29 : decode cX3_init 29 = .ok (.new 9, 3) := dk_187 0 9 (dk_at dksX3_init_1 7 rfl rfl)
theorem dX3_init_32 : decode cX3_init 32 = .ok (.dup, 1) := dk_89 (dk_at dksX3_init_1 10 rfl rfl)
theorem dX3_init_33 : decode cX3_init 33 = .ok (.iconst 2, 1) := dk_5 (dk_at dksX3_init_1 11 rfl rfl)
theorem dX3_init_34 : decode cX3_init 34 = .ok (.invokespecial 11, 3) := dk_183 0 11 (dk_at dksX3_init_1 12 rfl rfl)
theorem dX3_init_37 : decode cX3_init 37 = .ok (.putfield 23, 3) := dk_181 0 23 (dk_at dksX3_init_1 15 rfl rfl)
theorem dX3_init_40 : decode cX3_init 40 = .ok (.aload_n 0, 1) := dk_42 (dk_at dksX3_init_1 18 rfl rfl)
theorem dX3_init_41 : decode cX3_init 41 = .ok (.iconst 5, 1) := dk_8 (dk_at dksX3_init_1 19 rfl rfl)
theorem dX3_init_42 : decode cX3_init 42 = .ok (.newarray .int, 2) := dk_188_10 (dk_at dksX3_init_1 20 rfl rfl)
theorem dX3_init_44 : decode cX3_init 44 = .ok (.putfield 26, 3) := dk_181 0 26 (dk_at dksX3_init_2 0 rfl rfl)
theorem dX3_init_47 : decode cX3_init 47 = .ok (.aload_n 0, 1) := dk_42 (dk_at dksX3_init_2 3 rfl rfl)
theorem dX3_init_48 : decode cX3_init 48 = .ok (.iconst 5, 1) := dk_8 (dk_at dksX3_init_2 4 rfl rfl)
theorem dX3_init_49 : decode cX3_init 49 = .ok (.newarray .int, 2) := dk_188_10 (dk_at dksX3_init_2 5 rfl rfl)
theorem dX3_init_51 : decode cX3_init 51 = .ok (.putfield 30, 3) := dk_181 0 30 (dk_at dksX3_init_2 7 rfl rfl)
theorem dX3_init_54 : decode cX3_init 54 = .ok (.aload_n 0, 1) := dk_42 (dk_at dksX3_init_2 10 rfl rfl)
theorem dX3_init_55 : decode cX3_init 55 = .ok (.bipush 12, 2) := dk_16 12 (dk_at dksX3_init_2 11 rfl rfl)
theorem dX3_init_57 : decode cX3_init 57 = .ok (.newarray .int, 2) := dk_188_10 (dk_at dksX3_init_2 13 rfl rfl)
theorem dX3_init_59 : decode cX3_init 59 = .ok (.putfield 33, 3) := dk_181 0 33 (dk_at dksX3_init_2 15 rfl rfl)
theorem dX3_init_62 : decode cX3_init 62 = .ok (.return_, 1) := dk_177 (dk_at dksX3_init_2 18 rfl rfl)
abbrev cX3_pane : ByteArray := prog_8_method_3_code
def yX3_pane : MethodName := ⟨RX3, "pane", "(Ljava/lang/String;)I"⟩
def dkwX3_pane_1 : List UInt8 := [180, 0, 52, 43, 182, 0, 46, 153, 0, 5, 28, 172, 132, 2, 1, 167, 255, 219, 2, 172]
abbrev dktX3_pane_1 : List UInt8 := dkwX3_pane_1 ++ []
def dkwX3_pane_0 : List UInt8 := [3, 61, 28, 42, 180, 0, 14, 182, 0, 36, 162, 0, 32, 42, 180, 0, 14, 28, 182, 0, 40, 192, 0, 50]
abbrev dktX3_pane_0 : List UInt8 := dkwX3_pane_0 ++ dktX3_pane_1
theorem dksX3_pane_0 : cX3_pane.data.toList.drop 0 = dktX3_pane_0 := by decide +kernel
theorem dksX3_pane_1 : cX3_pane.data.toList.drop 24 = dktX3_pane_1 := dk_seg dksX3_pane_0 24 rfl rfl
theorem dX3_pane_0 : decode cX3_pane 0 = .ok (.iconst 0, 1) := dk_3 (dk_at dksX3_pane_0 0 rfl rfl)
theorem dX3_pane_1 : decode cX3_pane 1 = .ok (.istore_n 2, 1) := dk_61 (dk_at dksX3_pane_0 1 rfl rfl)
theorem dX3_pane_2 : decode cX3_pane 2 = .ok (.iload_n 2, 1) := dk_28 (dk_at dksX3_pane_0 2 rfl rfl)
theorem dX3_pane_3 : decode cX3_pane 3 = .ok (.aload_n 0, 1) := dk_42 (dk_at dksX3_pane_0 3 rfl rfl)
theorem dX3_pane_4 : decode cX3_pane 4 = .ok (.getfield 14, 3) := dk_180 0 14 (dk_at dksX3_pane_0 4 rfl rfl)
theorem dX3_pane_7 : decode cX3_pane 7 = .ok (.invokevirtual 36, 3) := dk_182 0 36 (dk_at dksX3_pane_0 7 rfl rfl)
theorem dX3_pane_10 : decode cX3_pane 10 = .ok (.if_icmp .ge 32, 3) := dk_162 0 32 (dk_at dksX3_pane_0 10 rfl rfl)
theorem dX3_pane_13 : decode cX3_pane 13 = .ok (.aload_n 0, 1) := dk_42 (dk_at dksX3_pane_0 13 rfl rfl)
theorem dX3_pane_14 : decode cX3_pane 14 = .ok (.getfield 14, 3) := dk_180 0 14 (dk_at dksX3_pane_0 14 rfl rfl)
theorem dX3_pane_17 : decode cX3_pane 17 = .ok (.iload_n 2, 1) := dk_28 (dk_at dksX3_pane_0 17 rfl rfl)
theorem dX3_pane_18 : decode cX3_pane 18 = .ok (.invokevirtual 40, 3) := dk_182 0 40 (dk_at dksX3_pane_0 18 rfl rfl)
theorem dX3_pane_21 : decode cX3_pane 21 = .ok (.checkcast 50, 3) := dk_192 0 50 (dk_at dksX3_pane_0 21 rfl rfl)
theorem dX3_pane_24 : decode cX3_pane 24 = .ok (.getfield 52, 3) := dk_180 0 52 (dk_at dksX3_pane_1 0 rfl rfl)
theorem dX3_pane_27 : decode cX3_pane 27 = .ok (.aload_n 1, 1) := dk_43 (dk_at dksX3_pane_1 3 rfl rfl)
theorem dX3_pane_28 : decode cX3_pane 28 = .ok (.invokevirtual 46, 3) := dk_182 0 46 (dk_at dksX3_pane_1 4 rfl rfl)
theorem dX3_pane_31 : decode cX3_pane 31 = .ok (.ifCond .eq 5, 3) := dk_153 0 5 (dk_at dksX3_pane_1 7 rfl rfl)
theorem dX3_pane_34 : decode cX3_pane 34 = .ok (.iload_n 2, 1) := dk_28 (dk_at dksX3_pane_1 10 rfl rfl)
theorem dX3_pane_35 : decode cX3_pane 35 = .ok (.ireturn, 1) := dk_172 (dk_at dksX3_pane_1 11 rfl rfl)
theorem dX3_pane_36 : decode cX3_pane 36 = .ok (.iinc 2 1, 3) := dk_132 2 1 (dk_at dksX3_pane_1 12 rfl rfl)
theorem dX3_pane_39 : decode cX3_pane 39 = .ok (.goto (-37), 3) := dk_167 255 219 (dk_at dksX3_pane_1 15 rfl rfl)
theorem dX3_pane_42 : decode cX3_pane 42 = .ok (.iconst (-1), 1) := dk_2 (dk_at dksX3_pane_1 18 rfl rfl)
theorem dX3_pane_43 : decode cX3_pane 43 = .ok (.ireturn, 1) := dk_172 (dk_at dksX3_pane_1 19 rfl rfl)
abbrev cX3_person : ByteArray := prog_8_method_4_code
def yX3_person : MethodName := ⟨RX3, "person", "(Ljava/lang/String;)I"⟩
def dkwX3_person_0 : List UInt8 := [42, 180, 0, 20, 43, 184, 0, 56, 172]
abbrev dktX3_person_0 : List UInt8 := dkwX3_person_0 ++ []
theorem dksX3_person_0 : cX3_person.data.toList.drop 0 = dktX3_person_0 := by decide +kernel
theorem dX3_person_0 : decode cX3_person 0 = .ok (.aload_n 0, 1) := dk_42 (dk_at dksX3_person_0 0 rfl rfl)
theorem dX3_person_1 : decode cX3_person 1 = .ok (.getfield 20, 3) := dk_180 0 20 (dk_at dksX3_person_0 1 rfl rfl)
theorem dX3_person_4 : decode cX3_person 4 = .ok (.aload_n 1, 1) := dk_43 (dk_at dksX3_person_0 4 rfl rfl)
theorem dX3_person_5 : decode cX3_person 5 = .ok (.invokestatic 56, 3) := dk_184 0 56 (dk_at dksX3_person_0 5 rfl rfl)
theorem dX3_person_8 : decode cX3_person 8 = .ok (.ireturn, 1) := dk_172 (dk_at dksX3_person_0 8 rfl rfl)
abbrev cX3_among : ByteArray := prog_8_method_2_code
def yX3_among : MethodName := ⟨RX3, "among", "(Ljava/util/ArrayList;Ljava/lang/String;)I"⟩
def dkwX3_among_1 : List UInt8 := [153, 0, 5, 28, 172, 132, 2, 1, 167, 255, 228, 2, 172]
abbrev dktX3_among_1 : List UInt8 := dkwX3_among_1 ++ []
def dkwX3_among_0 : List UInt8 := [3, 61, 28, 42, 182, 0, 36, 162, 0, 26, 42, 28, 182, 0, 40, 192, 0, 44, 43, 182, 0, 46]
abbrev dktX3_among_0 : List UInt8 := dkwX3_among_0 ++ dktX3_among_1
theorem dksX3_among_0 : cX3_among.data.toList.drop 0 = dktX3_among_0 := by decide +kernel
theorem dksX3_among_1 : cX3_among.data.toList.drop 22 = dktX3_among_1 := dk_seg dksX3_among_0 22 rfl rfl
theorem dX3_among_0 : decode cX3_among 0 = .ok (.iconst 0, 1) := dk_3 (dk_at dksX3_among_0 0 rfl rfl)
theorem dX3_among_1 : decode cX3_among 1 = .ok (.istore_n 2, 1) := dk_61 (dk_at dksX3_among_0 1 rfl rfl)
theorem dX3_among_2 : decode cX3_among 2 = .ok (.iload_n 2, 1) := dk_28 (dk_at dksX3_among_0 2 rfl rfl)
theorem dX3_among_3 : decode cX3_among 3 = .ok (.aload_n 0, 1) := dk_42 (dk_at dksX3_among_0 3 rfl rfl)
theorem dX3_among_4 : decode cX3_among 4 = .ok (.invokevirtual 36, 3) := dk_182 0 36 (dk_at dksX3_among_0 4 rfl rfl)
theorem dX3_among_7 : decode cX3_among 7 = .ok (.if_icmp .ge 26, 3) := dk_162 0 26 (dk_at dksX3_among_0 7 rfl rfl)
theorem dX3_among_10 : decode cX3_among 10 = .ok (.aload_n 0, 1) := dk_42 (dk_at dksX3_among_0 10 rfl rfl)
theorem dX3_among_11 : decode cX3_among 11 = .ok (.iload_n 2, 1) := dk_28 (dk_at dksX3_among_0 11 rfl rfl)
theorem dX3_among_12 : decode cX3_among 12 = .ok (.invokevirtual 40, 3) := dk_182 0 40 (dk_at dksX3_among_0 12 rfl rfl)
theorem dX3_among_15 : decode cX3_among 15 = .ok (.checkcast 44, 3) := dk_192 0 44 (dk_at dksX3_among_0 15 rfl rfl)
theorem dX3_among_18 : decode cX3_among 18 = .ok (.aload_n 1, 1) := dk_43 (dk_at dksX3_among_0 18 rfl rfl)
theorem dX3_among_19 : decode cX3_among 19 = .ok (.invokevirtual 46, 3) := dk_182 0 46 (dk_at dksX3_among_0 19 rfl rfl)
theorem dX3_among_22 : decode cX3_among 22 = .ok (.ifCond .eq 5, 3) := dk_153 0 5 (dk_at dksX3_among_1 0 rfl rfl)
theorem dX3_among_25 : decode cX3_among 25 = .ok (.iload_n 2, 1) := dk_28 (dk_at dksX3_among_1 3 rfl rfl)
theorem dX3_among_26 : decode cX3_among 26 = .ok (.ireturn, 1) := dk_172 (dk_at dksX3_among_1 4 rfl rfl)
theorem dX3_among_27 : decode cX3_among 27 = .ok (.iinc 2 1, 3) := dk_132 2 1 (dk_at dksX3_among_1 5 rfl rfl)
theorem dX3_among_30 : decode cX3_among 30 = .ok (.goto (-28), 3) := dk_167 255 228 (dk_at dksX3_among_1 8 rfl rfl)
theorem dX3_among_33 : decode cX3_among 33 = .ok (.iconst (-1), 1) := dk_2 (dk_at dksX3_among_1 11 rfl rfl)
theorem dX3_among_34 : decode cX3_among 34 = .ok (.ireturn, 1) := dk_172 (dk_at dksX3_among_1 12 rfl rfl)
abbrev cX3_deed : ByteArray := prog_8_method_5_code
def yX3_deed : MethodName := ⟨RX3, "deed", "(Ljava/lang/String;)I"⟩
def dkwX3_deed_0 : List UInt8 := [42, 180, 0, 23, 43, 184, 0, 56, 172]
abbrev dktX3_deed_0 : List UInt8 := dkwX3_deed_0 ++ []
theorem dksX3_deed_0 : cX3_deed.data.toList.drop 0 = dktX3_deed_0 := by decide +kernel
theorem dX3_deed_0 : decode cX3_deed 0 = .ok (.aload_n 0, 1) := dk_42 (dk_at dksX3_deed_0 0 rfl rfl)
theorem dX3_deed_1 : decode cX3_deed 1 = .ok (.getfield 23, 3) := dk_180 0 23 (dk_at dksX3_deed_0 1 rfl rfl)
theorem dX3_deed_4 : decode cX3_deed 4 = .ok (.aload_n 1, 1) := dk_43 (dk_at dksX3_deed_0 4 rfl rfl)
theorem dX3_deed_5 : decode cX3_deed 5 = .ok (.invokestatic 56, 3) := dk_184 0 56 (dk_at dksX3_deed_0 5 rfl rfl)
theorem dX3_deed_8 : decode cX3_deed 8 = .ok (.ireturn, 1) := dk_172 (dk_at dksX3_deed_0 8 rfl rfl)
abbrev cX3_light : ByteArray := prog_8_method_6_code
def yX3_light : MethodName := ⟨RX3, "light", "(I)I"⟩
def dkwX3_light_0 : List UInt8 := [42, 180, 0, 60, 154, 0, 7, 4, 167, 0, 14, 42, 180, 0, 33, 27, 42, 180, 0, 60, 112, 46, 172]
abbrev dktX3_light_0 : List UInt8 := dkwX3_light_0 ++ []
theorem dksX3_light_0 : cX3_light.data.toList.drop 0 = dktX3_light_0 := by decide +kernel
theorem dX3_light_0 : decode cX3_light 0 = .ok (.aload_n 0, 1) := dk_42 (dk_at dksX3_light_0 0 rfl rfl)
theorem dX3_light_1 : decode cX3_light 1 = .ok (.getfield 60, 3) := dk_180 0 60 (dk_at dksX3_light_0 1 rfl rfl)
theorem dX3_light_4 : decode cX3_light 4 = .ok (.ifCond .ne 7, 3) := dk_154 0 7 (dk_at dksX3_light_0 4 rfl rfl)
theorem dX3_light_7 : decode cX3_light 7 = .ok (.iconst 1, 1) := dk_4 (dk_at dksX3_light_0 7 rfl rfl)
theorem dX3_light_8 : decode cX3_light 8 = .ok (.goto 14, 3) := dk_167 0 14 (dk_at dksX3_light_0 8 rfl rfl)
theorem dX3_light_11 : decode cX3_light 11 = .ok (.aload_n 0, 1) := dk_42 (dk_at dksX3_light_0 11 rfl rfl)
theorem dX3_light_12 : decode cX3_light 12 = .ok (.getfield 33, 3) := dk_180 0 33 (dk_at dksX3_light_0 12 rfl rfl)
theorem dX3_light_15 : decode cX3_light 15 = .ok (.iload_n 1, 1) := dk_27 (dk_at dksX3_light_0 15 rfl rfl)
theorem dX3_light_16 : decode cX3_light 16 = .ok (.aload_n 0, 1) := dk_42 (dk_at dksX3_light_0 16 rfl rfl)
theorem dX3_light_17 : decode cX3_light 17 = .ok (.getfield 60, 3) := dk_180 0 60 (dk_at dksX3_light_0 17 rfl rfl)
theorem dX3_light_20 : decode cX3_light 20 = .ok (.irem, 1) := dk_112 (dk_at dksX3_light_0 20 rfl rfl)
theorem dX3_light_21 : decode cX3_light 21 = .ok (.iaload, 1) := dk_46 (dk_at dksX3_light_0 21 rfl rfl)
theorem dX3_light_22 : decode cX3_light 22 = .ok (.ireturn, 1) := dk_172 (dk_at dksX3_light_0 22 rfl rfl)
theorem q123 : (Jvm.Cond.initialized "GlassStreet$Houses") ∈ lw_all := lw_g (lw_at lw_m1 3 rfl) rfl
theorem q205 : (Jvm.Cond.instantiable "GlassStreet$Houses" (8 : Nat)) ∈ lw_all := lw_g (lw_at lw_m1 85 rfl) rfl
theorem q207 : (Jvm.Cond.instanceMethod ({ cls := "GlassStreet$Houses", name := "<init>", desc := "()V" } : Jvm.MethodName)) ∈ lw_all := lw_g (lw_at lw_m1 87 rfl) rfl
theorem q208 : (Jvm.Cond.code ({ cls := "GlassStreet$Houses", name := "<init>", desc := "()V" } : Jvm.MethodName) prog_8_method_1_code (1 : Nat) (Option.none : Option Jvm.ClassFile.FieldType)) ∈ lw_all := lw_g (lw_at lw_m1 88 rfl) rfl
theorem q209 : (Jvm.Cond.methodLink "GlassStreet$Houses" (3 : Nat) ({ cls := "java/lang/Object", name := "<init>", desc := "()V" } : Jvm.MethodName)) ∈ lw_all := lw_g (lw_at lw_m1 89 rfl) rfl
theorem q210 : (Jvm.Cond.classLink "GlassStreet$Houses" (9 : Nat) "java/util/ArrayList") ∈ lw_all := lw_g (lw_at lw_m1 90 rfl) rfl
theorem q212 : (Jvm.Cond.methodLink "GlassStreet$Houses" (11 : Nat) ({ cls := "java/util/ArrayList", name := "<init>", desc := "(I)V" } : Jvm.MethodName)) ∈ lw_all := lw_g (lw_at lw_m1 92 rfl) rfl
theorem q238 : (Jvm.Cond.fieldLink "GlassStreet$Houses" (14 : Nat) "GlassStreet$Houses" "panes" "Ljava/util/ArrayList;") ∈ lw_all := lw_g (lw_at lw_m1 118 rfl) rfl
theorem q241 : (Jvm.Cond.fieldLink "GlassStreet$Houses" (20 : Nat) "GlassStreet$Houses" "people" "Ljava/util/ArrayList;") ∈ lw_all := lw_g (lw_at lw_m1 121 rfl) rfl
theorem q244 : (Jvm.Cond.fieldLink "GlassStreet$Houses" (23 : Nat) "GlassStreet$Houses" "deeds" "Ljava/util/ArrayList;") ∈ lw_all := lw_g (lw_at lw_m1 124 rfl) rfl
theorem q247 : (Jvm.Cond.fieldLink "GlassStreet$Houses" (26 : Nat) "GlassStreet$Houses" "at" "[I") ∈ lw_all := lw_g (lw_at lw_m1 127 rfl) rfl
theorem q250 : (Jvm.Cond.fieldLink "GlassStreet$Houses" (30 : Nat) "GlassStreet$Houses" "harm" "[I") ∈ lw_all := lw_g (lw_at lw_m1 130 rfl) rfl
theorem q253 : (Jvm.Cond.fieldLink "GlassStreet$Houses" (33 : Nat) "GlassStreet$Houses" "light" "[I") ∈ lw_all := lw_g (lw_at lw_m1 133 rfl) rfl
theorem q255 : (Jvm.Cond.fieldLink "GlassStreet$Houses" (60 : Nat) "GlassStreet$Houses" "many" "I") ∈ lw_all := lw_g (lw_at lw_m1 135 rfl) rfl
theorem q259 : (Jvm.Cond.laysFinal "GlassStreet$Houses" "GlassStreet$Houses" "panes" "Ljava/util/ArrayList;") ∈ lw_all := lw_g (lw_at lw_m1 139 rfl) rfl
theorem q260 : (Jvm.Cond.soleField "GlassStreet$Houses" "panes") ∈ lw_all := lw_g (lw_at lw_m1 140 rfl) rfl
theorem q261 : (Jvm.Cond.laysFinal "GlassStreet$Houses" "GlassStreet$Houses" "people" "Ljava/util/ArrayList;") ∈ lw_all := lw_g (lw_at lw_m1 141 rfl) rfl
theorem q262 : (Jvm.Cond.soleField "GlassStreet$Houses" "people") ∈ lw_all := lw_g (lw_at lw_m1 142 rfl) rfl
theorem q263 : (Jvm.Cond.laysFinal "GlassStreet$Houses" "GlassStreet$Houses" "deeds" "Ljava/util/ArrayList;") ∈ lw_all := lw_g (lw_at lw_m1 143 rfl) rfl
theorem q264 : (Jvm.Cond.soleField "GlassStreet$Houses" "deeds") ∈ lw_all := lw_g (lw_at lw_m1 144 rfl) rfl
theorem q265 : (Jvm.Cond.laysFinal "GlassStreet$Houses" "GlassStreet$Houses" "at" "[I") ∈ lw_all := lw_g (lw_at lw_m1 145 rfl) rfl
theorem q266 : (Jvm.Cond.soleField "GlassStreet$Houses" "at") ∈ lw_all := lw_g (lw_at lw_m1 146 rfl) rfl
theorem q267 : (Jvm.Cond.laysFinal "GlassStreet$Houses" "GlassStreet$Houses" "harm" "[I") ∈ lw_all := lw_g (lw_at lw_m1 147 rfl) rfl
theorem q268 : (Jvm.Cond.soleField "GlassStreet$Houses" "harm") ∈ lw_all := lw_g (lw_at lw_m1 148 rfl) rfl
theorem q269 : (Jvm.Cond.laysFinal "GlassStreet$Houses" "GlassStreet$Houses" "light" "[I") ∈ lw_all := lw_g (lw_at lw_m1 149 rfl) rfl
theorem q270 : (Jvm.Cond.soleField "GlassStreet$Houses" "light") ∈ lw_all := lw_g (lw_at lw_m1 150 rfl) rfl
theorem q271 : (Jvm.Cond.lays "GlassStreet$Houses" "GlassStreet$Houses" "many" "I") ∈ lw_all := lw_g (lw_at lw_m1 151 rfl) rfl
theorem q272 : (Jvm.Cond.soleField "GlassStreet$Houses" "many") ∈ lw_all := lw_g (lw_at lw_m1 152 rfl) rfl
theorem q273 : (Jvm.Cond.lays "GlassStreet$Houses" "GlassStreet$Houses" "fades" "LGlassStreet$Expression;") ∈ lw_all := lw_g (lw_at lw_m1 153 rfl) rfl
theorem q274 : (Jvm.Cond.soleField "GlassStreet$Houses" "fades") ∈ lw_all := lw_g (lw_at lw_m1 154 rfl) rfl
theorem q275 : (Jvm.Cond.superclass "GlassStreet$Houses" "java/lang/Object") ∈ lw_all := lw_g (lw_at lw_m1 155 rfl) rfl
theorem q805 : (Jvm.Cond.instanceMethod ({ cls := "GlassStreet$Houses", name := "pane", desc := "(Ljava/lang/String;)I" } : Jvm.MethodName)) ∈ lw_all := lw_g (lw_at lw_m3 205 rfl) rfl
theorem q806 : (Jvm.Cond.selects "GlassStreet$Houses" ({ cls := "GlassStreet$Houses", name := "pane", desc := "(Ljava/lang/String;)I" } : Jvm.MethodName) ({ cls := "GlassStreet$Houses", name := "pane", desc := "(Ljava/lang/String;)I" } : Jvm.MethodName)) ∈ lw_all := lw_g (lw_at lw_m3 206 rfl) rfl
theorem q807 : (Jvm.Cond.code ({ cls := "GlassStreet$Houses", name := "pane", desc := "(Ljava/lang/String;)I" } : Jvm.MethodName) prog_8_method_3_code (3 : Nat) (Option.some Jvm.ClassFile.FieldType.int)) ∈ lw_all := lw_g (lw_at lw_m3 207 rfl) rfl
theorem q808 : (Jvm.Cond.methodLink "GlassStreet$Houses" (36 : Nat) ({ cls := "java/util/ArrayList", name := "size", desc := "()I" } : Jvm.MethodName)) ∈ lw_all := lw_g (lw_at lw_m3 208 rfl) rfl
theorem q809 : (Jvm.Cond.methodLink "GlassStreet$Houses" (40 : Nat) ({ cls := "java/util/ArrayList", name := "get", desc := "(I)Ljava/lang/Object;" } : Jvm.MethodName)) ∈ lw_all := lw_g (lw_at lw_m3 209 rfl) rfl
theorem q821 : (Jvm.Cond.classLink "GlassStreet$Houses" (50 : Nat) "GlassStreet$Pane") ∈ lw_all := lw_g (lw_at lw_m3 221 rfl) rfl
theorem q822 : (Jvm.Cond.methodLink "GlassStreet$Houses" (46 : Nat) ({ cls := "java/lang/String", name := "equals", desc := "(Ljava/lang/Object;)Z" } : Jvm.MethodName)) ∈ lw_all := lw_g (lw_at lw_m3 222 rfl) rfl
theorem q831 : (Jvm.Cond.instanceMethod ({ cls := "GlassStreet$Houses", name := "person", desc := "(Ljava/lang/String;)I" } : Jvm.MethodName)) ∈ lw_all := lw_g (lw_at lw_m3 231 rfl) rfl
theorem q832 : (Jvm.Cond.selects "GlassStreet$Houses" ({ cls := "GlassStreet$Houses", name := "person", desc := "(Ljava/lang/String;)I" } : Jvm.MethodName) ({ cls := "GlassStreet$Houses", name := "person", desc := "(Ljava/lang/String;)I" } : Jvm.MethodName)) ∈ lw_all := lw_g (lw_at lw_m3 232 rfl) rfl
theorem q833 : (Jvm.Cond.code ({ cls := "GlassStreet$Houses", name := "person", desc := "(Ljava/lang/String;)I" } : Jvm.MethodName) prog_8_method_4_code (2 : Nat) (Option.some Jvm.ClassFile.FieldType.int)) ∈ lw_all := lw_g (lw_at lw_m3 233 rfl) rfl
theorem q834 : (Jvm.Cond.methodLink "GlassStreet$Houses" (56 : Nat) ({ cls := "GlassStreet$Houses", name := "among", desc := "(Ljava/util/ArrayList;Ljava/lang/String;)I" } : Jvm.MethodName)) ∈ lw_all := lw_g (lw_at lw_m3 234 rfl) rfl
theorem q835 : (Jvm.Cond.static ({ cls := "GlassStreet$Houses", name := "among", desc := "(Ljava/util/ArrayList;Ljava/lang/String;)I" } : Jvm.MethodName)) ∈ lw_all := lw_g (lw_at lw_m3 235 rfl) rfl
theorem q836 : (Jvm.Cond.code ({ cls := "GlassStreet$Houses", name := "among", desc := "(Ljava/util/ArrayList;Ljava/lang/String;)I" } : Jvm.MethodName) prog_8_method_2_code (3 : Nat) (Option.some Jvm.ClassFile.FieldType.int)) ∈ lw_all := lw_g (lw_at lw_m3 236 rfl) rfl
theorem q837 : (Jvm.Cond.classLink "GlassStreet$Houses" (44 : Nat) "java/lang/String") ∈ lw_all := lw_g (lw_at lw_m3 237 rfl) rfl
theorem q839 : (Jvm.Cond.instanceMethod ({ cls := "GlassStreet$Houses", name := "deed", desc := "(Ljava/lang/String;)I" } : Jvm.MethodName)) ∈ lw_all := lw_g (lw_at lw_m3 239 rfl) rfl
theorem q840 : (Jvm.Cond.selects "GlassStreet$Houses" ({ cls := "GlassStreet$Houses", name := "deed", desc := "(Ljava/lang/String;)I" } : Jvm.MethodName) ({ cls := "GlassStreet$Houses", name := "deed", desc := "(Ljava/lang/String;)I" } : Jvm.MethodName)) ∈ lw_all := lw_g (lw_at lw_m4 0 rfl) rfl
theorem q841 : (Jvm.Cond.code ({ cls := "GlassStreet$Houses", name := "deed", desc := "(Ljava/lang/String;)I" } : Jvm.MethodName) prog_8_method_5_code (2 : Nat) (Option.some Jvm.ClassFile.FieldType.int)) ∈ lw_all := lw_g (lw_at lw_m4 1 rfl) rfl
theorem q854 : (Jvm.Cond.fieldLink "GlassStreet$Houses" (52 : Nat) "GlassStreet$Pane" "name" "Ljava/lang/String;") ∈ lw_all := lw_g (lw_at lw_m4 14 rfl) rfl
theorem q959 : (Jvm.Cond.selects "GlassStreet$Houses" ({ cls := "java/lang/Object", name := "getClass", desc := "()Ljava/lang/Class;" } : Jvm.MethodName) ({ cls := "java/lang/Object", name := "getClass", desc := "()Ljava/lang/Class;" } : Jvm.MethodName)) ∈ lw_all := lw_g (lw_at lw_m4 119 rfl) rfl
theorem q1194 : (Jvm.Cond.instanceMethod ({ cls := "GlassStreet$Houses", name := "light", desc := "(I)I" } : Jvm.MethodName)) ∈ lw_all := lw_g (lw_at lw_m5 114 rfl) rfl
theorem q1195 : (Jvm.Cond.selects "GlassStreet$Houses" ({ cls := "GlassStreet$Houses", name := "light", desc := "(I)I" } : Jvm.MethodName) ({ cls := "GlassStreet$Houses", name := "light", desc := "(I)I" } : Jvm.MethodName)) ∈ lw_all := lw_g (lw_at lw_m5 115 rfl) rfl
theorem q1196 : (Jvm.Cond.code ({ cls := "GlassStreet$Houses", name := "light", desc := "(I)I" } : Jvm.MethodName) prog_8_method_6_code (2 : Nat) (Option.some Jvm.ClassFile.FieldType.int)) ∈ lw_all := lw_g (lw_at lw_m5 116 rfl) rfl
theorem q2202 : (Jvm.Cond.castable "GlassStreet$Houses" "java/lang/Object") ∈ lw_tbl := lw_at lw_m9 162 rfl
theorem in_X3 : ∀ w ∈ wsX30, w ∈ lw_all := lw_in wsX30 [259, 261, 263, 265, 267, 269, 271, 273] (by decide +kernel) (by decide +kernel)
/-! GlassStreet$State -/
set_option maxRecDepth 100000
def RX4 : String := "GlassStreet$State"
def TX4 : u_T := fun k => match k with
  | 0 => ("GlassStreet$State", "at", "[I", true)
  | 1 => ("GlassStreet$State", "marks", "[LGlassStreet$Marks;", true)
  | 2 => ("GlassStreet$State", "hour", "I", false)
  | 3 => ("GlassStreet$State", "drawn", "I", false)
  | _ => ("GlassStreet$State", "gone", "I", false)
def tyX4 : Nat → FieldType := fun k => match k with
  | 0 => .array .int
  | 1 => .array (.object "GlassStreet$Marks")
  | 2 => .int
  | 3 => .int
  | _ => .int
abbrev wsX40 : List Cond := u_ws RX4 TX4 5
theorem nmX4 : ∀ a, a < 5 → ∀ b, b < 5 → a ≠ b → (TX4 a).2.1 ≠ (TX4 b).2.1 := by decide +kernel
theorem tyX4_ok : ∀ k, k < 5 → parseFieldDescriptor (TX4 k).2.2.1 = some (tyX4 k) := by decide +kernel
abbrev cX4_init : ByteArray := prog_17_method_1_code
def yX4_init : MethodName := ⟨RX4, "<init>", "()V"⟩
def dkwX4_init_2 : List UInt8 := [177]
abbrev dktX4_init_2 : List UInt8 := dkwX4_init_2 ++ []
def dkwX4_init_1 : List UInt8 := [16, 6, 162, 0, 22, 42, 180, 0, 17, 27, 187, 0, 15, 89, 183, 0, 21, 83, 132, 1, 1, 167, 255, 234]
abbrev dktX4_init_1 : List UInt8 := dkwX4_init_1 ++ dktX4_init_2
def dkwX4_init_0 : List UInt8 := [42, 183, 0, 3, 42, 8, 188, 10, 181, 0, 9, 42, 16, 6, 189, 0, 15, 181, 0, 17, 3, 60, 27]
abbrev dktX4_init_0 : List UInt8 := dkwX4_init_0 ++ dktX4_init_1
theorem dksX4_init_0 : cX4_init.data.toList.drop 0 = dktX4_init_0 := by decide +kernel
theorem dksX4_init_1 : cX4_init.data.toList.drop 23 = dktX4_init_1 := dk_seg dksX4_init_0 23 rfl rfl
theorem dksX4_init_2 : cX4_init.data.toList.drop 47 = dktX4_init_2 := dk_seg dksX4_init_1 24 rfl rfl
theorem dX4_init_0 : decode cX4_init 0 = .ok (.aload_n 0, 1) := dk_42 (dk_at dksX4_init_0 0 rfl rfl)
theorem dX4_init_1 : decode cX4_init 1 = .ok (.invokespecial 3, 3) := dk_183 0 3 (dk_at dksX4_init_0 1 rfl rfl)
theorem dX4_init_4 : decode cX4_init 4 = .ok (.aload_n 0, 1) := dk_42 (dk_at dksX4_init_0 4 rfl rfl)
theorem dX4_init_5 : decode cX4_init 5 = .ok (.iconst 5, 1) := dk_8 (dk_at dksX4_init_0 5 rfl rfl)
theorem dX4_init_6 : decode cX4_init 6 = .ok (.newarray .int, 2) := dk_188_10 (dk_at dksX4_init_0 6 rfl rfl)
theorem dX4_init_8 : decode cX4_init 8 = .ok (.putfield 9, 3) := dk_181 0 9 (dk_at dksX4_init_0 8 rfl rfl)
theorem dX4_init_11 : decode cX4_init 11 = .ok (.aload_n 0, 1) := dk_42 (dk_at dksX4_init_0 11 rfl rfl)
theorem dX4_init_12 : decode cX4_init 12 = .ok (.bipush 6, 2) := dk_16 6 (dk_at dksX4_init_0 12 rfl rfl)
theorem dX4_init_14 : decode cX4_init 14 = .ok (.anewarray 15, 3) := dk_189 0 15 (dk_at dksX4_init_0 14 rfl rfl)
theorem dX4_init_17 : decode cX4_init 17 = .ok (.putfield 17, 3) := dk_181 0 17 (dk_at dksX4_init_0 17 rfl rfl)
theorem dX4_init_20 : decode cX4_init 20 = .ok (.iconst 0, 1) := dk_3 (dk_at dksX4_init_0 20 rfl rfl)
theorem dX4_init_21 : decode cX4_init 21 = .ok (.istore_n 1, 1) := dk_60 (dk_at dksX4_init_0 21 rfl rfl)
theorem dX4_init_22 : decode cX4_init 22 = .ok (.iload_n 1, 1) := dk_27 (dk_at dksX4_init_0 22 rfl rfl)
theorem dX4_init_23 : decode cX4_init 23 = .ok (.bipush 6, 2) := dk_16 6 (dk_at dksX4_init_1 0 rfl rfl)
theorem dX4_init_25 : decode cX4_init 25 = .ok (.if_icmp .ge 22, 3) := dk_162 0 22 (dk_at dksX4_init_1 2 rfl rfl)
theorem dX4_init_28 : decode cX4_init 28 = .ok (.aload_n 0, 1) := dk_42 (dk_at dksX4_init_1 5 rfl rfl)
theorem dX4_init_29 : decode cX4_init 29 = .ok (.getfield 17, 3) := dk_180 0 17 (dk_at dksX4_init_1 6 rfl rfl)
theorem dX4_init_32 : decode cX4_init 32 = .ok (.iload_n 1, 1) := dk_27 (dk_at dksX4_init_1 9 rfl rfl)
theorem dX4_init_33 : decode cX4_init 33 = .ok (.new 15, 3) := dk_187 0 15 (dk_at dksX4_init_1 10 rfl rfl)
theorem dX4_init_36 : decode cX4_init 36 = .ok (.dup, 1) := dk_89 (dk_at dksX4_init_1 13 rfl rfl)
theorem dX4_init_37 : decode cX4_init 37 = .ok (.invokespecial 21, 3) := dk_183 0 21 (dk_at dksX4_init_1 14 rfl rfl)
theorem dX4_init_40 : decode cX4_init 40 = .ok (.aastore, 1) := dk_83 (dk_at dksX4_init_1 17 rfl rfl)
theorem dX4_init_41 : decode cX4_init 41 = .ok (.iinc 1 1, 3) := dk_132 1 1 (dk_at dksX4_init_1 18 rfl rfl)
theorem dX4_init_44 : decode cX4_init 44 = .ok (.goto (-22), 3) := dk_167 255 234 (dk_at dksX4_init_1 21 rfl rfl)
theorem dX4_init_47 : decode cX4_init 47 = .ok (.return_, 1) := dk_177 (dk_at dksX4_init_2 0 rfl rfl)
abbrev cX4_begin : ByteArray := prog_17_method_3_code
def yX4_begin : MethodName := ⟨RX4, "begin", "(LGlassStreet$Houses;)V"⟩
def dkwX4_begin_2 : List UInt8 := [181, 0, 37, 177]
abbrev dktX4_begin_2 : List UInt8 := dkwX4_begin_2 ++ []
def dkwX4_begin_1 : List UInt8 := [50, 3, 181, 0, 43, 132, 2, 1, 167, 255, 237, 42, 3, 181, 0, 30, 42, 3, 181, 0, 34, 42, 3]
abbrev dktX4_begin_1 : List UInt8 := dkwX4_begin_1 ++ dktX4_begin_2
def dkwX4_begin_0 : List UInt8 := [43, 180, 0, 40, 42, 180, 0, 9, 184, 0, 22, 3, 61, 28, 16, 6, 162, 0, 19, 42, 180, 0, 17, 28]
abbrev dktX4_begin_0 : List UInt8 := dkwX4_begin_0 ++ dktX4_begin_1
theorem dksX4_begin_0 : cX4_begin.data.toList.drop 0 = dktX4_begin_0 := by decide +kernel
theorem dksX4_begin_1 : cX4_begin.data.toList.drop 24 = dktX4_begin_1 := dk_seg dksX4_begin_0 24 rfl rfl
theorem dksX4_begin_2 : cX4_begin.data.toList.drop 47 = dktX4_begin_2 := dk_seg dksX4_begin_1 23 rfl rfl
theorem dX4_begin_0 : decode cX4_begin 0 = .ok (.aload_n 1, 1) := dk_43 (dk_at dksX4_begin_0 0 rfl rfl)
theorem dX4_begin_1 : decode cX4_begin 1 = .ok (.getfield 40, 3) := dk_180 0 40 (dk_at dksX4_begin_0 1 rfl rfl)
theorem dX4_begin_4 : decode cX4_begin 4 = .ok (.aload_n 0, 1) := dk_42 (dk_at dksX4_begin_0 4 rfl rfl)
theorem dX4_begin_5 : decode cX4_begin 5 = .ok (.getfield 9, 3) := dk_180 0 9 (dk_at dksX4_begin_0 5 rfl rfl)
theorem dX4_begin_8 : decode cX4_begin 8 = .ok (.invokestatic 22, 3) := dk_184 0 22 (dk_at dksX4_begin_0 8 rfl rfl)
theorem dX4_begin_11 : decode cX4_begin 11 = .ok (.iconst 0, 1) := dk_3 (dk_at dksX4_begin_0 11 rfl rfl)
theorem dX4_begin_12 : decode cX4_begin 12 = .ok (.istore_n 2, 1) := dk_61 (dk_at dksX4_begin_0 12 rfl rfl)
theorem dX4_begin_13 : decode cX4_begin 13 = .ok (.iload_n 2, 1) := dk_28 (dk_at dksX4_begin_0 13 rfl rfl)
theorem dX4_begin_14 : decode cX4_begin 14 = .ok (.bipush 6, 2) := dk_16 6 (dk_at dksX4_begin_0 14 rfl rfl)
theorem dX4_begin_16 : decode cX4_begin 16 = .ok (.if_icmp .ge 19, 3) := dk_162 0 19 (dk_at dksX4_begin_0 16 rfl rfl)
theorem dX4_begin_19 : decode cX4_begin 19 = .ok (.aload_n 0, 1) := dk_42 (dk_at dksX4_begin_0 19 rfl rfl)
theorem dX4_begin_20 : decode cX4_begin 20 = .ok (.getfield 17, 3) := dk_180 0 17 (dk_at dksX4_begin_0 20 rfl rfl)
theorem dX4_begin_23 : decode cX4_begin 23 = .ok (.iload_n 2, 1) := dk_28 (dk_at dksX4_begin_0 23 rfl rfl)
theorem dX4_begin_24 : decode cX4_begin 24 = .ok (.aaload, 1) := dk_50 (dk_at dksX4_begin_1 0 rfl rfl)
theorem dX4_begin_25 : decode cX4_begin 25 = .ok (.iconst 0, 1) := dk_3 (dk_at dksX4_begin_1 1 rfl rfl)
theorem dX4_begin_26 : decode cX4_begin 26 = .ok (.putfield 43, 3) := dk_181 0 43 (dk_at dksX4_begin_1 2 rfl rfl)
theorem dX4_begin_29 : decode cX4_begin 29 = .ok (.iinc 2 1, 3) := dk_132 2 1 (dk_at dksX4_begin_1 5 rfl rfl)
theorem dX4_begin_32 : decode cX4_begin 32 = .ok (.goto (-19), 3) := dk_167 255 237 (dk_at dksX4_begin_1 8 rfl rfl)
theorem dX4_begin_35 : decode cX4_begin 35 = .ok (.aload_n 0, 1) := dk_42 (dk_at dksX4_begin_1 11 rfl rfl)
theorem dX4_begin_36 : decode cX4_begin 36 = .ok (.iconst 0, 1) := dk_3 (dk_at dksX4_begin_1 12 rfl rfl)
theorem dX4_begin_37 : decode cX4_begin 37 = .ok (.putfield 30, 3) := dk_181 0 30 (dk_at dksX4_begin_1 13 rfl rfl)
theorem dX4_begin_40 : decode cX4_begin 40 = .ok (.aload_n 0, 1) := dk_42 (dk_at dksX4_begin_1 16 rfl rfl)
theorem dX4_begin_41 : decode cX4_begin 41 = .ok (.iconst 0, 1) := dk_3 (dk_at dksX4_begin_1 17 rfl rfl)
theorem dX4_begin_42 : decode cX4_begin 42 = .ok (.putfield 34, 3) := dk_181 0 34 (dk_at dksX4_begin_1 18 rfl rfl)
theorem dX4_begin_45 : decode cX4_begin 45 = .ok (.aload_n 0, 1) := dk_42 (dk_at dksX4_begin_1 21 rfl rfl)
theorem dX4_begin_46 : decode cX4_begin 46 = .ok (.iconst 0, 1) := dk_3 (dk_at dksX4_begin_1 22 rfl rfl)
theorem dX4_begin_47 : decode cX4_begin 47 = .ok (.putfield 37, 3) := dk_181 0 37 (dk_at dksX4_begin_2 0 rfl rfl)
theorem dX4_begin_50 : decode cX4_begin 50 = .ok (.return_, 1) := dk_177 (dk_at dksX4_begin_2 3 rfl rfl)
abbrev cX4_isWhole : ByteArray := prog_17_method_4_code
def yX4_isWhole : MethodName := ⟨RX4, "isWhole", "(I)Z"⟩
def dkwX4_isWhole_0 : List UInt8 := [42, 180, 0, 37, 27, 184, 0, 46, 154, 0, 7, 4, 167, 0, 4, 3, 172]
abbrev dktX4_isWhole_0 : List UInt8 := dkwX4_isWhole_0 ++ []
theorem dksX4_isWhole_0 : cX4_isWhole.data.toList.drop 0 = dktX4_isWhole_0 := by decide +kernel
theorem dX4_isWhole_0 : decode cX4_isWhole 0 = .ok (.aload_n 0, 1) := dk_42 (dk_at dksX4_isWhole_0 0 rfl rfl)
theorem dX4_isWhole_1 : decode cX4_isWhole 1 = .ok (.getfield 37, 3) := dk_180 0 37 (dk_at dksX4_isWhole_0 1 rfl rfl)
theorem dX4_isWhole_4 : decode cX4_isWhole 4 = .ok (.iload_n 1, 1) := dk_27 (dk_at dksX4_isWhole_0 4 rfl rfl)
theorem dX4_isWhole_5 : decode cX4_isWhole 5 = .ok (.invokestatic 46, 3) := dk_184 0 46 (dk_at dksX4_isWhole_0 5 rfl rfl)
theorem dX4_isWhole_8 : decode cX4_isWhole 8 = .ok (.ifCond .ne 7, 3) := dk_154 0 7 (dk_at dksX4_isWhole_0 8 rfl rfl)
theorem dX4_isWhole_11 : decode cX4_isWhole 11 = .ok (.iconst 1, 1) := dk_4 (dk_at dksX4_isWhole_0 11 rfl rfl)
theorem dX4_isWhole_12 : decode cX4_isWhole 12 = .ok (.goto 4, 3) := dk_167 0 4 (dk_at dksX4_isWhole_0 12 rfl rfl)
theorem dX4_isWhole_15 : decode cX4_isWhole 15 = .ok (.iconst 0, 1) := dk_3 (dk_at dksX4_isWhole_0 15 rfl rfl)
theorem dX4_isWhole_16 : decode cX4_isWhole 16 = .ok (.ireturn, 1) := dk_172 (dk_at dksX4_isWhole_0 16 rfl rfl)
abbrev cX4_shows : ByteArray := prog_17_method_5_code
def yX4_shows : MethodName := ⟨RX4, "shows", "(I)Z"⟩
def dkwX4_shows_1 : List UInt8 := [167, 0, 4, 3, 172]
abbrev dktX4_shows_1 : List UInt8 := dkwX4_shows_1 ++ []
def dkwX4_shows_0 : List UInt8 := [42, 180, 0, 37, 27, 184, 0, 46, 154, 0, 14, 42, 180, 0, 34, 27, 184, 0, 46, 154, 0, 7, 4]
abbrev dktX4_shows_0 : List UInt8 := dkwX4_shows_0 ++ dktX4_shows_1
theorem dksX4_shows_0 : cX4_shows.data.toList.drop 0 = dktX4_shows_0 := by decide +kernel
theorem dksX4_shows_1 : cX4_shows.data.toList.drop 23 = dktX4_shows_1 := dk_seg dksX4_shows_0 23 rfl rfl
theorem dX4_shows_0 : decode cX4_shows 0 = .ok (.aload_n 0, 1) := dk_42 (dk_at dksX4_shows_0 0 rfl rfl)
theorem dX4_shows_1 : decode cX4_shows 1 = .ok (.getfield 37, 3) := dk_180 0 37 (dk_at dksX4_shows_0 1 rfl rfl)
theorem dX4_shows_4 : decode cX4_shows 4 = .ok (.iload_n 1, 1) := dk_27 (dk_at dksX4_shows_0 4 rfl rfl)
theorem dX4_shows_5 : decode cX4_shows 5 = .ok (.invokestatic 46, 3) := dk_184 0 46 (dk_at dksX4_shows_0 5 rfl rfl)
theorem dX4_shows_8 : decode cX4_shows 8 = .ok (.ifCond .ne 14, 3) := dk_154 0 14 (dk_at dksX4_shows_0 8 rfl rfl)
theorem dX4_shows_11 : decode cX4_shows 11 = .ok (.aload_n 0, 1) := dk_42 (dk_at dksX4_shows_0 11 rfl rfl)
theorem dX4_shows_12 : decode cX4_shows 12 = .ok (.getfield 34, 3) := dk_180 0 34 (dk_at dksX4_shows_0 12 rfl rfl)
theorem dX4_shows_15 : decode cX4_shows 15 = .ok (.iload_n 1, 1) := dk_27 (dk_at dksX4_shows_0 15 rfl rfl)
theorem dX4_shows_16 : decode cX4_shows 16 = .ok (.invokestatic 46, 3) := dk_184 0 46 (dk_at dksX4_shows_0 16 rfl rfl)
theorem dX4_shows_19 : decode cX4_shows 19 = .ok (.ifCond .ne 7, 3) := dk_154 0 7 (dk_at dksX4_shows_0 19 rfl rfl)
theorem dX4_shows_22 : decode cX4_shows 22 = .ok (.iconst 1, 1) := dk_4 (dk_at dksX4_shows_0 22 rfl rfl)
theorem dX4_shows_23 : decode cX4_shows 23 = .ok (.goto 4, 3) := dk_167 0 4 (dk_at dksX4_shows_1 0 rfl rfl)
theorem dX4_shows_26 : decode cX4_shows 26 = .ok (.iconst 0, 1) := dk_3 (dk_at dksX4_shows_1 3 rfl rfl)
theorem dX4_shows_27 : decode cX4_shows 27 = .ok (.ireturn, 1) := dk_172 (dk_at dksX4_shows_1 4 rfl rfl)
abbrev cX4_be : ByteArray := prog_17_method_2_code
def yX4_be : MethodName := ⟨RX4, "be", "(LGlassStreet$State;)V"⟩
def dkwX4_be_2 : List UInt8 := [42, 43, 180, 0, 34, 181, 0, 34, 42, 43, 180, 0, 37, 181, 0, 37, 177]
abbrev dktX4_be_2 : List UInt8 := dkwX4_be_2 ++ []
def dkwX4_be_1 : List UInt8 := [50, 43, 180, 0, 17, 28, 50, 182, 0, 26, 132, 2, 1, 167, 255, 232, 42, 43, 180, 0, 30, 181, 0, 30]
abbrev dktX4_be_1 : List UInt8 := dkwX4_be_1 ++ dktX4_be_2
def dkwX4_be_0 : List UInt8 := [43, 180, 0, 9, 42, 180, 0, 9, 184, 0, 22, 3, 61, 28, 16, 6, 162, 0, 24, 42, 180, 0, 17, 28]
abbrev dktX4_be_0 : List UInt8 := dkwX4_be_0 ++ dktX4_be_1
theorem dksX4_be_0 : cX4_be.data.toList.drop 0 = dktX4_be_0 := by decide +kernel
theorem dksX4_be_1 : cX4_be.data.toList.drop 24 = dktX4_be_1 := dk_seg dksX4_be_0 24 rfl rfl
theorem dksX4_be_2 : cX4_be.data.toList.drop 48 = dktX4_be_2 := dk_seg dksX4_be_1 24 rfl rfl
theorem dX4_be_0 : decode cX4_be 0 = .ok (.aload_n 1, 1) := dk_43 (dk_at dksX4_be_0 0 rfl rfl)
theorem dX4_be_1 : decode cX4_be 1 = .ok (.getfield 9, 3) := dk_180 0 9 (dk_at dksX4_be_0 1 rfl rfl)
theorem dX4_be_4 : decode cX4_be 4 = .ok (.aload_n 0, 1) := dk_42 (dk_at dksX4_be_0 4 rfl rfl)
theorem dX4_be_5 : decode cX4_be 5 = .ok (.getfield 9, 3) := dk_180 0 9 (dk_at dksX4_be_0 5 rfl rfl)
theorem dX4_be_8 : decode cX4_be 8 = .ok (.invokestatic 22, 3) := dk_184 0 22 (dk_at dksX4_be_0 8 rfl rfl)
theorem dX4_be_11 : decode cX4_be 11 = .ok (.iconst 0, 1) := dk_3 (dk_at dksX4_be_0 11 rfl rfl)
theorem dX4_be_12 : decode cX4_be 12 = .ok (.istore_n 2, 1) := dk_61 (dk_at dksX4_be_0 12 rfl rfl)
theorem dX4_be_13 : decode cX4_be 13 = .ok (.iload_n 2, 1) := dk_28 (dk_at dksX4_be_0 13 rfl rfl)
theorem dX4_be_14 : decode cX4_be 14 = .ok (.bipush 6, 2) := dk_16 6 (dk_at dksX4_be_0 14 rfl rfl)
theorem dX4_be_16 : decode cX4_be 16 = .ok (.if_icmp .ge 24, 3) := dk_162 0 24 (dk_at dksX4_be_0 16 rfl rfl)
theorem dX4_be_19 : decode cX4_be 19 = .ok (.aload_n 0, 1) := dk_42 (dk_at dksX4_be_0 19 rfl rfl)
theorem dX4_be_20 : decode cX4_be 20 = .ok (.getfield 17, 3) := dk_180 0 17 (dk_at dksX4_be_0 20 rfl rfl)
theorem dX4_be_23 : decode cX4_be 23 = .ok (.iload_n 2, 1) := dk_28 (dk_at dksX4_be_0 23 rfl rfl)
theorem dX4_be_24 : decode cX4_be 24 = .ok (.aaload, 1) := dk_50 (dk_at dksX4_be_1 0 rfl rfl)
theorem dX4_be_25 : decode cX4_be 25 = .ok (.aload_n 1, 1) := dk_43 (dk_at dksX4_be_1 1 rfl rfl)
theorem dX4_be_26 : decode cX4_be 26 = .ok (.getfield 17, 3) := dk_180 0 17 (dk_at dksX4_be_1 2 rfl rfl)
theorem dX4_be_29 : decode cX4_be 29 = .ok (.iload_n 2, 1) := dk_28 (dk_at dksX4_be_1 5 rfl rfl)
theorem dX4_be_30 : decode cX4_be 30 = .ok (.aaload, 1) := dk_50 (dk_at dksX4_be_1 6 rfl rfl)
theorem dX4_be_31 : decode cX4_be 31 = .ok (.invokevirtual 26, 3) := dk_182 0 26 (dk_at dksX4_be_1 7 rfl rfl)
theorem dX4_be_34 : decode cX4_be 34 = .ok (.iinc 2 1, 3) := dk_132 2 1 (dk_at dksX4_be_1 10 rfl rfl)
theorem dX4_be_37 : decode cX4_be 37 = .ok (.goto (-24), 3) := dk_167 255 232 (dk_at dksX4_be_1 13 rfl rfl)
theorem dX4_be_40 : decode cX4_be 40 = .ok (.aload_n 0, 1) := dk_42 (dk_at dksX4_be_1 16 rfl rfl)
theorem dX4_be_41 : decode cX4_be 41 = .ok (.aload_n 1, 1) := dk_43 (dk_at dksX4_be_1 17 rfl rfl)
theorem dX4_be_42 : decode cX4_be 42 = .ok (.getfield 30, 3) := dk_180 0 30 (dk_at dksX4_be_1 18 rfl rfl)
theorem dX4_be_45 : decode cX4_be 45 = .ok (.putfield 30, 3) := dk_181 0 30 (dk_at dksX4_be_1 21 rfl rfl)
theorem dX4_be_48 : decode cX4_be 48 = .ok (.aload_n 0, 1) := dk_42 (dk_at dksX4_be_2 0 rfl rfl)
theorem dX4_be_49 : decode cX4_be 49 = .ok (.aload_n 1, 1) := dk_43 (dk_at dksX4_be_2 1 rfl rfl)
theorem dX4_be_50 : decode cX4_be 50 = .ok (.getfield 34, 3) := dk_180 0 34 (dk_at dksX4_be_2 2 rfl rfl)
theorem dX4_be_53 : decode cX4_be 53 = .ok (.putfield 34, 3) := dk_181 0 34 (dk_at dksX4_be_2 5 rfl rfl)
theorem dX4_be_56 : decode cX4_be 56 = .ok (.aload_n 0, 1) := dk_42 (dk_at dksX4_be_2 8 rfl rfl)
theorem dX4_be_57 : decode cX4_be 57 = .ok (.aload_n 1, 1) := dk_43 (dk_at dksX4_be_2 9 rfl rfl)
theorem dX4_be_58 : decode cX4_be 58 = .ok (.getfield 37, 3) := dk_180 0 37 (dk_at dksX4_be_2 10 rfl rfl)
theorem dX4_be_61 : decode cX4_be 61 = .ok (.putfield 37, 3) := dk_181 0 37 (dk_at dksX4_be_2 13 rfl rfl)
theorem dX4_be_64 : decode cX4_be 64 = .ok (.return_, 1) := dk_177 (dk_at dksX4_be_2 16 rfl rfl)
theorem q127 : (Jvm.Cond.initialized "GlassStreet$State") ∈ lw_all := lw_g (lw_at lw_m1 7 rfl) rfl
theorem q248 : (Jvm.Cond.fieldLinkNest "GlassStreet$State" (40 : Nat) "GlassStreet$Houses" "at" "[I" "GlassStreet") ∈ lw_tbl := lw_at lw_m1 128 rfl
theorem q280 : (Jvm.Cond.instantiable "GlassStreet$State" (5 : Nat)) ∈ lw_all := lw_g (lw_at lw_m1 160 rfl) rfl
theorem q282 : (Jvm.Cond.instanceMethod ({ cls := "GlassStreet$State", name := "<init>", desc := "()V" } : Jvm.MethodName)) ∈ lw_all := lw_g (lw_at lw_m1 162 rfl) rfl
theorem q283 : (Jvm.Cond.code ({ cls := "GlassStreet$State", name := "<init>", desc := "()V" } : Jvm.MethodName) prog_17_method_1_code (2 : Nat) (Option.none : Option Jvm.ClassFile.FieldType)) ∈ lw_all := lw_g (lw_at lw_m1 163 rfl) rfl
theorem q284 : (Jvm.Cond.methodLink "GlassStreet$State" (3 : Nat) ({ cls := "java/lang/Object", name := "<init>", desc := "()V" } : Jvm.MethodName)) ∈ lw_all := lw_g (lw_at lw_m1 164 rfl) rfl
theorem q285 : (Jvm.Cond.classLink "GlassStreet$State" (15 : Nat) "GlassStreet$Marks") ∈ lw_all := lw_g (lw_at lw_m1 165 rfl) rfl
theorem q288 : (Jvm.Cond.methodLinkNest "GlassStreet$State" (21 : Nat) ({ cls := "GlassStreet$Marks", name := "<init>", desc := "()V" } : Jvm.MethodName) "GlassStreet") ∈ lw_tbl := lw_at lw_m1 168 rfl
theorem q302 : (Jvm.Cond.fieldLinkNest "GlassStreet$State" (43 : Nat) "GlassStreet$Marks" "many" "I" "GlassStreet") ∈ lw_tbl := lw_at lw_m1 182 rfl
theorem q315 : (Jvm.Cond.fieldLink "GlassStreet$State" (9 : Nat) "GlassStreet$State" "at" "[I") ∈ lw_all := lw_g (lw_at lw_m1 195 rfl) rfl
theorem q318 : (Jvm.Cond.fieldLink "GlassStreet$State" (17 : Nat) "GlassStreet$State" "marks" "[LGlassStreet$Marks;") ∈ lw_all := lw_g (lw_at lw_m1 198 rfl) rfl
theorem q321 : (Jvm.Cond.fieldLink "GlassStreet$State" (30 : Nat) "GlassStreet$State" "hour" "I") ∈ lw_all := lw_g (lw_at lw_m1 201 rfl) rfl
theorem q324 : (Jvm.Cond.fieldLink "GlassStreet$State" (34 : Nat) "GlassStreet$State" "drawn" "I") ∈ lw_all := lw_g (lw_at lw_m1 204 rfl) rfl
theorem q327 : (Jvm.Cond.fieldLink "GlassStreet$State" (37 : Nat) "GlassStreet$State" "gone" "I") ∈ lw_all := lw_g (lw_at lw_m1 207 rfl) rfl
theorem q329 : (Jvm.Cond.laysFinal "GlassStreet$State" "GlassStreet$State" "at" "[I") ∈ lw_all := lw_g (lw_at lw_m1 209 rfl) rfl
theorem q330 : (Jvm.Cond.soleField "GlassStreet$State" "at") ∈ lw_all := lw_g (lw_at lw_m1 210 rfl) rfl
theorem q331 : (Jvm.Cond.laysFinal "GlassStreet$State" "GlassStreet$State" "marks" "[LGlassStreet$Marks;") ∈ lw_all := lw_g (lw_at lw_m1 211 rfl) rfl
theorem q332 : (Jvm.Cond.soleField "GlassStreet$State" "marks") ∈ lw_all := lw_g (lw_at lw_m1 212 rfl) rfl
theorem q333 : (Jvm.Cond.lays "GlassStreet$State" "GlassStreet$State" "hour" "I") ∈ lw_all := lw_g (lw_at lw_m1 213 rfl) rfl
theorem q334 : (Jvm.Cond.soleField "GlassStreet$State" "hour") ∈ lw_all := lw_g (lw_at lw_m1 214 rfl) rfl
theorem q335 : (Jvm.Cond.lays "GlassStreet$State" "GlassStreet$State" "drawn" "I") ∈ lw_all := lw_g (lw_at lw_m1 215 rfl) rfl
theorem q336 : (Jvm.Cond.soleField "GlassStreet$State" "drawn") ∈ lw_all := lw_g (lw_at lw_m1 216 rfl) rfl
theorem q337 : (Jvm.Cond.lays "GlassStreet$State" "GlassStreet$State" "gone" "I") ∈ lw_all := lw_g (lw_at lw_m1 217 rfl) rfl
theorem q338 : (Jvm.Cond.soleField "GlassStreet$State" "gone") ∈ lw_all := lw_g (lw_at lw_m1 218 rfl) rfl
theorem q339 : (Jvm.Cond.superclass "GlassStreet$State" "java/lang/Object") ∈ lw_all := lw_g (lw_at lw_m1 219 rfl) rfl
theorem q967 : (Jvm.Cond.selects "GlassStreet$State" ({ cls := "java/lang/Object", name := "getClass", desc := "()Ljava/lang/Class;" } : Jvm.MethodName) ({ cls := "java/lang/Object", name := "getClass", desc := "()Ljava/lang/Class;" } : Jvm.MethodName)) ∈ lw_all := lw_g (lw_at lw_m4 127 rfl) rfl
theorem q1064 : (Jvm.Cond.instanceMethod ({ cls := "GlassStreet$State", name := "begin", desc := "(LGlassStreet$Houses;)V" } : Jvm.MethodName)) ∈ lw_all := lw_g (lw_at lw_m4 224 rfl) rfl
theorem q1065 : (Jvm.Cond.selects "GlassStreet$State" ({ cls := "GlassStreet$State", name := "begin", desc := "(LGlassStreet$Houses;)V" } : Jvm.MethodName) ({ cls := "GlassStreet$State", name := "begin", desc := "(LGlassStreet$Houses;)V" } : Jvm.MethodName)) ∈ lw_all := lw_g (lw_at lw_m4 225 rfl) rfl
theorem q1066 : (Jvm.Cond.code ({ cls := "GlassStreet$State", name := "begin", desc := "(LGlassStreet$Houses;)V" } : Jvm.MethodName) prog_17_method_3_code (3 : Nat) (Option.none : Option Jvm.ClassFile.FieldType)) ∈ lw_all := lw_g (lw_at lw_m4 226 rfl) rfl
theorem q1067 : (Jvm.Cond.methodLinkNest "GlassStreet$State" (22 : Nat) ({ cls := "GlassStreet", name := "copies", desc := "([I[I)V" } : Jvm.MethodName) "GlassStreet") ∈ lw_tbl := lw_at lw_m4 227 rfl
theorem q1189 : (Jvm.Cond.instanceMethod ({ cls := "GlassStreet$State", name := "isWhole", desc := "(I)Z" } : Jvm.MethodName)) ∈ lw_all := lw_g (lw_at lw_m5 109 rfl) rfl
theorem q1190 : (Jvm.Cond.selects "GlassStreet$State" ({ cls := "GlassStreet$State", name := "isWhole", desc := "(I)Z" } : Jvm.MethodName) ({ cls := "GlassStreet$State", name := "isWhole", desc := "(I)Z" } : Jvm.MethodName)) ∈ lw_all := lw_g (lw_at lw_m5 110 rfl) rfl
theorem q1191 : (Jvm.Cond.code ({ cls := "GlassStreet$State", name := "isWhole", desc := "(I)Z" } : Jvm.MethodName) prog_17_method_4_code (2 : Nat) (Option.some Jvm.ClassFile.FieldType.boolean)) ∈ lw_all := lw_g (lw_at lw_m5 111 rfl) rfl
theorem q1192 : (Jvm.Cond.methodLinkNest "GlassStreet$State" (46 : Nat) ({ cls := "GlassStreet", name := "isIn", desc := "(II)Z" } : Jvm.MethodName) "GlassStreet") ∈ lw_tbl := lw_at lw_m5 112 rfl
theorem q1217 : (Jvm.Cond.instanceMethod ({ cls := "GlassStreet$State", name := "shows", desc := "(I)Z" } : Jvm.MethodName)) ∈ lw_all := lw_g (lw_at lw_m5 137 rfl) rfl
theorem q1218 : (Jvm.Cond.selects "GlassStreet$State" ({ cls := "GlassStreet$State", name := "shows", desc := "(I)Z" } : Jvm.MethodName) ({ cls := "GlassStreet$State", name := "shows", desc := "(I)Z" } : Jvm.MethodName)) ∈ lw_all := lw_g (lw_at lw_m5 138 rfl) rfl
theorem q1219 : (Jvm.Cond.code ({ cls := "GlassStreet$State", name := "shows", desc := "(I)Z" } : Jvm.MethodName) prog_17_method_5_code (2 : Nat) (Option.some Jvm.ClassFile.FieldType.boolean)) ∈ lw_all := lw_g (lw_at lw_m5 139 rfl) rfl
theorem q1258 : (Jvm.Cond.instanceMethod ({ cls := "GlassStreet$State", name := "be", desc := "(LGlassStreet$State;)V" } : Jvm.MethodName)) ∈ lw_all := lw_g (lw_at lw_m5 178 rfl) rfl
theorem q1259 : (Jvm.Cond.selects "GlassStreet$State" ({ cls := "GlassStreet$State", name := "be", desc := "(LGlassStreet$State;)V" } : Jvm.MethodName) ({ cls := "GlassStreet$State", name := "be", desc := "(LGlassStreet$State;)V" } : Jvm.MethodName)) ∈ lw_all := lw_g (lw_at lw_m5 179 rfl) rfl
theorem q1260 : (Jvm.Cond.code ({ cls := "GlassStreet$State", name := "be", desc := "(LGlassStreet$State;)V" } : Jvm.MethodName) prog_17_method_2_code (3 : Nat) (Option.none : Option Jvm.ClassFile.FieldType)) ∈ lw_all := lw_g (lw_at lw_m5 180 rfl) rfl
theorem q1261 : (Jvm.Cond.methodLink "GlassStreet$State" (26 : Nat) ({ cls := "GlassStreet$Marks", name := "be", desc := "(LGlassStreet$Marks;)V" } : Jvm.MethodName)) ∈ lw_all := lw_g (lw_at lw_m5 181 rfl) rfl
theorem q2198 : (Jvm.Cond.castable "GlassStreet$State" "java/lang/Object") ∈ lw_tbl := lw_at lw_m9 158 rfl
theorem in_X4 : ∀ w ∈ wsX40, w ∈ lw_all := lw_in wsX40 [329, 331, 333, 335, 337] (by decide +kernel) (by decide +kernel)
/-! GlassStreet$Marks -/
set_option maxRecDepth 100000
def RX5 : String := "GlassStreet$Marks"
def TX5 : u_T := fun k => match k with
  | 0 => ("GlassStreet$Marks", "who", "[I", true)
  | 1 => ("GlassStreet$Marks", "deed", "[I", true)
  | 2 => ("GlassStreet$Marks", "cell", "[I", true)
  | 3 => ("GlassStreet$Marks", "age", "[I", true)
  | _ => ("GlassStreet$Marks", "many", "I", false)
def tyX5 : Nat → FieldType := fun k => match k with
  | 0 => .array .int
  | 1 => .array .int
  | 2 => .array .int
  | 3 => .array .int
  | _ => .int
abbrev wsX50 : List Cond := u_ws RX5 TX5 5
theorem nmX5 : ∀ a, a < 5 → ∀ b, b < 5 → a ≠ b → (TX5 a).2.1 ≠ (TX5 b).2.1 := by decide +kernel
theorem tyX5_ok : ∀ k, k < 5 → parseFieldDescriptor (TX5 k).2.2.1 = some (tyX5 k) := by decide +kernel
abbrev cX5_init : ByteArray := prog_10_method_1_code
def yX5_init : MethodName := ⟨RX5, "<init>", "()V"⟩
def dkwX5_init_1 : List UInt8 := [188, 10, 181, 0, 18, 42, 16, 6, 188, 10, 181, 0, 21, 177]
abbrev dktX5_init_1 : List UInt8 := dkwX5_init_1 ++ []
def dkwX5_init_0 : List UInt8 := [42, 183, 0, 3, 42, 16, 6, 188, 10, 181, 0, 9, 42, 16, 6, 188, 10, 181, 0, 15, 42, 16, 6]
abbrev dktX5_init_0 : List UInt8 := dkwX5_init_0 ++ dktX5_init_1
theorem dksX5_init_0 : cX5_init.data.toList.drop 0 = dktX5_init_0 := by decide +kernel
theorem dksX5_init_1 : cX5_init.data.toList.drop 23 = dktX5_init_1 := dk_seg dksX5_init_0 23 rfl rfl
theorem dX5_init_0 : decode cX5_init 0 = .ok (.aload_n 0, 1) := dk_42 (dk_at dksX5_init_0 0 rfl rfl)
theorem dX5_init_1 : decode cX5_init 1 = .ok (.invokespecial 3, 3) := dk_183 0 3 (dk_at dksX5_init_0 1 rfl rfl)
theorem dX5_init_4 : decode cX5_init 4 = .ok (.aload_n 0, 1) := dk_42 (dk_at dksX5_init_0 4 rfl rfl)
theorem dX5_init_5 : decode cX5_init 5 = .ok (.bipush 6, 2) := dk_16 6 (dk_at dksX5_init_0 5 rfl rfl)
theorem dX5_init_7 : decode cX5_init 7 = .ok (.newarray .int, 2) := dk_188_10 (dk_at dksX5_init_0 7 rfl rfl)
theorem dX5_init_9 : decode cX5_init 9 = .ok (.putfield 9, 3) := dk_181 0 9 (dk_at dksX5_init_0 9 rfl rfl)
theorem dX5_init_12 : decode cX5_init 12 = .ok (.aload_n 0, 1) := dk_42 (dk_at dksX5_init_0 12 rfl rfl)
theorem dX5_init_13 : decode cX5_init 13 = .ok (.bipush 6, 2) := dk_16 6 (dk_at dksX5_init_0 13 rfl rfl)
theorem dX5_init_15 : decode cX5_init 15 = .ok (.newarray .int, 2) := dk_188_10 (dk_at dksX5_init_0 15 rfl rfl)
theorem dX5_init_17 : decode cX5_init 17 = .ok (.putfield 15, 3) := dk_181 0 15 (dk_at dksX5_init_0 17 rfl rfl)
theorem dX5_init_20 : decode cX5_init 20 = .ok (.aload_n 0, 1) := dk_42 (dk_at dksX5_init_0 20 rfl rfl)
theorem dX5_init_21 : decode cX5_init 21 = .ok (.bipush 6, 2) := dk_16 6 (dk_at dksX5_init_0 21 rfl rfl)
theorem dX5_init_23 : decode cX5_init 23 = .ok (.newarray .int, 2) := dk_188_10 (dk_at dksX5_init_1 0 rfl rfl)
theorem dX5_init_25 : decode cX5_init 25 = .ok (.putfield 18, 3) := dk_181 0 18 (dk_at dksX5_init_1 2 rfl rfl)
theorem dX5_init_28 : decode cX5_init 28 = .ok (.aload_n 0, 1) := dk_42 (dk_at dksX5_init_1 5 rfl rfl)
theorem dX5_init_29 : decode cX5_init 29 = .ok (.bipush 6, 2) := dk_16 6 (dk_at dksX5_init_1 6 rfl rfl)
theorem dX5_init_31 : decode cX5_init 31 = .ok (.newarray .int, 2) := dk_188_10 (dk_at dksX5_init_1 8 rfl rfl)
theorem dX5_init_33 : decode cX5_init 33 = .ok (.putfield 21, 3) := dk_181 0 21 (dk_at dksX5_init_1 10 rfl rfl)
theorem dX5_init_36 : decode cX5_init 36 = .ok (.return_, 1) := dk_177 (dk_at dksX5_init_1 13 rfl rfl)
abbrev cX5_be : ByteArray := prog_10_method_2_code
def yX5_be : MethodName := ⟨RX5, "be", "(LGlassStreet$Marks;)V"⟩
def dkwX5_be_2 : List UInt8 := [180, 0, 28, 181, 0, 28, 177]
abbrev dktX5_be_2 : List UInt8 := dkwX5_be_2 ++ []
def dkwX5_be_1 : List UInt8 := [180, 0, 18, 42, 180, 0, 18, 184, 0, 24, 43, 180, 0, 21, 42, 180, 0, 21, 184, 0, 24, 42, 43]
abbrev dktX5_be_1 : List UInt8 := dkwX5_be_1 ++ dktX5_be_2
def dkwX5_be_0 : List UInt8 := [43, 180, 0, 9, 42, 180, 0, 9, 184, 0, 24, 43, 180, 0, 15, 42, 180, 0, 15, 184, 0, 24, 43]
abbrev dktX5_be_0 : List UInt8 := dkwX5_be_0 ++ dktX5_be_1
theorem dksX5_be_0 : cX5_be.data.toList.drop 0 = dktX5_be_0 := by decide +kernel
theorem dksX5_be_1 : cX5_be.data.toList.drop 23 = dktX5_be_1 := dk_seg dksX5_be_0 23 rfl rfl
theorem dksX5_be_2 : cX5_be.data.toList.drop 46 = dktX5_be_2 := dk_seg dksX5_be_1 23 rfl rfl
theorem dX5_be_0 : decode cX5_be 0 = .ok (.aload_n 1, 1) := dk_43 (dk_at dksX5_be_0 0 rfl rfl)
theorem dX5_be_1 : decode cX5_be 1 = .ok (.getfield 9, 3) := dk_180 0 9 (dk_at dksX5_be_0 1 rfl rfl)
theorem dX5_be_4 : decode cX5_be 4 = .ok (.aload_n 0, 1) := dk_42 (dk_at dksX5_be_0 4 rfl rfl)
theorem dX5_be_5 : decode cX5_be 5 = .ok (.getfield 9, 3) := dk_180 0 9 (dk_at dksX5_be_0 5 rfl rfl)
theorem dX5_be_8 : decode cX5_be 8 = .ok (.invokestatic 24, 3) := dk_184 0 24 (dk_at dksX5_be_0 8 rfl rfl)
theorem dX5_be_11 : decode cX5_be 11 = .ok (.aload_n 1, 1) := dk_43 (dk_at dksX5_be_0 11 rfl rfl)
theorem dX5_be_12 : decode cX5_be 12 = .ok (.getfield 15, 3) := dk_180 0 15 (dk_at dksX5_be_0 12 rfl rfl)
theorem dX5_be_15 : decode cX5_be 15 = .ok (.aload_n 0, 1) := dk_42 (dk_at dksX5_be_0 15 rfl rfl)
theorem dX5_be_16 : decode cX5_be 16 = .ok (.getfield 15, 3) := dk_180 0 15 (dk_at dksX5_be_0 16 rfl rfl)
theorem dX5_be_19 : decode cX5_be 19 = .ok (.invokestatic 24, 3) := dk_184 0 24 (dk_at dksX5_be_0 19 rfl rfl)
theorem dX5_be_22 : decode cX5_be 22 = .ok (.aload_n 1, 1) := dk_43 (dk_at dksX5_be_0 22 rfl rfl)
theorem dX5_be_23 : decode cX5_be 23 = .ok (.getfield 18, 3) := dk_180 0 18 (dk_at dksX5_be_1 0 rfl rfl)
theorem dX5_be_26 : decode cX5_be 26 = .ok (.aload_n 0, 1) := dk_42 (dk_at dksX5_be_1 3 rfl rfl)
theorem dX5_be_27 : decode cX5_be 27 = .ok (.getfield 18, 3) := dk_180 0 18 (dk_at dksX5_be_1 4 rfl rfl)
theorem dX5_be_30 : decode cX5_be 30 = .ok (.invokestatic 24, 3) := dk_184 0 24 (dk_at dksX5_be_1 7 rfl rfl)
theorem dX5_be_33 : decode cX5_be 33 = .ok (.aload_n 1, 1) := dk_43 (dk_at dksX5_be_1 10 rfl rfl)
theorem dX5_be_34 : decode cX5_be 34 = .ok (.getfield 21, 3) := dk_180 0 21 (dk_at dksX5_be_1 11 rfl rfl)
theorem dX5_be_37 : decode cX5_be 37 = .ok (.aload_n 0, 1) := dk_42 (dk_at dksX5_be_1 14 rfl rfl)
theorem dX5_be_38 : decode cX5_be 38 = .ok (.getfield 21, 3) := dk_180 0 21 (dk_at dksX5_be_1 15 rfl rfl)
theorem dX5_be_41 : decode cX5_be 41 = .ok (.invokestatic 24, 3) := dk_184 0 24 (dk_at dksX5_be_1 18 rfl rfl)
theorem dX5_be_44 : decode cX5_be 44 = .ok (.aload_n 0, 1) := dk_42 (dk_at dksX5_be_1 21 rfl rfl)
theorem dX5_be_45 : decode cX5_be 45 = .ok (.aload_n 1, 1) := dk_43 (dk_at dksX5_be_1 22 rfl rfl)
theorem dX5_be_46 : decode cX5_be 46 = .ok (.getfield 28, 3) := dk_180 0 28 (dk_at dksX5_be_2 0 rfl rfl)
theorem dX5_be_49 : decode cX5_be 49 = .ok (.putfield 28, 3) := dk_181 0 28 (dk_at dksX5_be_2 3 rfl rfl)
theorem dX5_be_52 : decode cX5_be 52 = .ok (.return_, 1) := dk_177 (dk_at dksX5_be_2 6 rfl rfl)
abbrev cX5_comes : ByteArray := prog_10_method_4_code
def yX5_comes : MethodName := ⟨RX5, "comes", "(IIII)V"⟩
def dkwX5_comes_2 : List UInt8 := [42, 89, 180, 0, 28, 90, 4, 96, 181, 0, 28, 3, 79, 177]
abbrev dktX5_comes_2 : List UInt8 := dkwX5_comes_2 ++ []
def dkwX5_comes_1 : List UInt8 := [42, 180, 0, 15, 42, 180, 0, 28, 28, 79, 42, 180, 0, 18, 42, 180, 0, 28, 29, 79, 42, 180, 0, 21]
abbrev dktX5_comes_1 : List UInt8 := dkwX5_comes_1 ++ dktX5_comes_2
def dkwX5_comes_0 : List UInt8 := [42, 180, 0, 28, 21, 4, 160, 0, 8, 42, 3, 182, 0, 32, 42, 180, 0, 9, 42, 180, 0, 28, 27, 79]
abbrev dktX5_comes_0 : List UInt8 := dkwX5_comes_0 ++ dktX5_comes_1
theorem dksX5_comes_0 : cX5_comes.data.toList.drop 0 = dktX5_comes_0 := by decide +kernel
theorem dksX5_comes_1 : cX5_comes.data.toList.drop 24 = dktX5_comes_1 := dk_seg dksX5_comes_0 24 rfl rfl
theorem dksX5_comes_2 : cX5_comes.data.toList.drop 48 = dktX5_comes_2 := dk_seg dksX5_comes_1 24 rfl rfl
theorem dX5_comes_0 : decode cX5_comes 0 = .ok (.aload_n 0, 1) := dk_42 (dk_at dksX5_comes_0 0 rfl rfl)
theorem dX5_comes_1 : decode cX5_comes 1 = .ok (.getfield 28, 3) := dk_180 0 28 (dk_at dksX5_comes_0 1 rfl rfl)
theorem dX5_comes_4 : decode cX5_comes 4 = .ok (.iload 4, 2) := dk_21 4 (dk_at dksX5_comes_0 4 rfl rfl)
theorem dX5_comes_6 : decode cX5_comes 6 = .ok (.if_icmp .ne 8, 3) := dk_160 0 8 (dk_at dksX5_comes_0 6 rfl rfl)
theorem dX5_comes_9 : decode cX5_comes 9 = .ok (.aload_n 0, 1) := dk_42 (dk_at dksX5_comes_0 9 rfl rfl)
theorem dX5_comes_10 : decode cX5_comes 10 = .ok (.iconst 0, 1) := dk_3 (dk_at dksX5_comes_0 10 rfl rfl)
theorem dX5_comes_11 : decode cX5_comes 11 = .ok (.invokevirtual 32, 3) := dk_182 0 32 (dk_at dksX5_comes_0 11 rfl rfl)
theorem dX5_comes_14 : decode cX5_comes 14 = .ok (.aload_n 0, 1) := dk_42 (dk_at dksX5_comes_0 14 rfl rfl)
theorem dX5_comes_15 : decode cX5_comes 15 = .ok (.getfield 9, 3) := dk_180 0 9 (dk_at dksX5_comes_0 15 rfl rfl)
theorem dX5_comes_18 : decode cX5_comes 18 = .ok (.aload_n 0, 1) := dk_42 (dk_at dksX5_comes_0 18 rfl rfl)
theorem dX5_comes_19 : decode cX5_comes 19 = .ok (.getfield 28, 3) := dk_180 0 28 (dk_at dksX5_comes_0 19 rfl rfl)
theorem dX5_comes_22 : decode cX5_comes 22 = .ok (.iload_n 1, 1) := dk_27 (dk_at dksX5_comes_0 22 rfl rfl)
theorem dX5_comes_23 : decode cX5_comes 23 = .ok (.iastore, 1) := dk_79 (dk_at dksX5_comes_0 23 rfl rfl)
theorem dX5_comes_24 : decode cX5_comes 24 = .ok (.aload_n 0, 1) := dk_42 (dk_at dksX5_comes_1 0 rfl rfl)
theorem dX5_comes_25 : decode cX5_comes 25 = .ok (.getfield 15, 3) := dk_180 0 15 (dk_at dksX5_comes_1 1 rfl rfl)
theorem dX5_comes_28 : decode cX5_comes 28 = .ok (.aload_n 0, 1) := dk_42 (dk_at dksX5_comes_1 4 rfl rfl)
theorem dX5_comes_29 : decode cX5_comes 29 = .ok (.getfield 28, 3) := dk_180 0 28 (dk_at dksX5_comes_1 5 rfl rfl)
theorem dX5_comes_32 : decode cX5_comes 32 = .ok (.iload_n 2, 1) := dk_28 (dk_at dksX5_comes_1 8 rfl rfl)
theorem dX5_comes_33 : decode cX5_comes 33 = .ok (.iastore, 1) := dk_79 (dk_at dksX5_comes_1 9 rfl rfl)
theorem dX5_comes_34 : decode cX5_comes 34 = .ok (.aload_n 0, 1) := dk_42 (dk_at dksX5_comes_1 10 rfl rfl)
theorem dX5_comes_35 : decode cX5_comes 35 = .ok (.getfield 18, 3) := dk_180 0 18 (dk_at dksX5_comes_1 11 rfl rfl)
theorem dX5_comes_38 : decode cX5_comes 38 = .ok (.aload_n 0, 1) := dk_42 (dk_at dksX5_comes_1 14 rfl rfl)
theorem dX5_comes_39 : decode cX5_comes 39 = .ok (.getfield 28, 3) := dk_180 0 28 (dk_at dksX5_comes_1 15 rfl rfl)
theorem dX5_comes_42 : decode cX5_comes 42 = .ok (.iload_n 3, 1) := dk_29 (dk_at dksX5_comes_1 18 rfl rfl)
theorem dX5_comes_43 : decode cX5_comes 43 = .ok (.iastore, 1) := dk_79 (dk_at dksX5_comes_1 19 rfl rfl)
theorem dX5_comes_44 : decode cX5_comes 44 = .ok (.aload_n 0, 1) := dk_42 (dk_at dksX5_comes_1 20 rfl rfl)
theorem dX5_comes_45 : decode cX5_comes 45 = .ok (.getfield 21, 3) := dk_180 0 21 (dk_at dksX5_comes_1 21 rfl rfl)
theorem dX5_comes_48 : decode cX5_comes 48 = .ok (.aload_n 0, 1) := dk_42 (dk_at dksX5_comes_2 0 rfl rfl)
theorem dX5_comes_49 : decode cX5_comes 49 = .ok (.dup, 1) := dk_89 (dk_at dksX5_comes_2 1 rfl rfl)
theorem dX5_comes_50 : decode cX5_comes 50 = .ok (.getfield 28, 3) := dk_180 0 28 (dk_at dksX5_comes_2 2 rfl rfl)
theorem dX5_comes_53 : decode cX5_comes 53 = .ok (.dup_x1, 1) := dk_90 (dk_at dksX5_comes_2 5 rfl rfl)
theorem dX5_comes_54 : decode cX5_comes 54 = .ok (.iconst 1, 1) := dk_4 (dk_at dksX5_comes_2 6 rfl rfl)
theorem dX5_comes_55 : decode cX5_comes 55 = .ok (.iadd, 1) := dk_96 (dk_at dksX5_comes_2 7 rfl rfl)
theorem dX5_comes_56 : decode cX5_comes 56 = .ok (.putfield 28, 3) := dk_181 0 28 (dk_at dksX5_comes_2 8 rfl rfl)
theorem dX5_comes_59 : decode cX5_comes 59 = .ok (.iconst 0, 1) := dk_3 (dk_at dksX5_comes_2 11 rfl rfl)
theorem dX5_comes_60 : decode cX5_comes 60 = .ok (.iastore, 1) := dk_79 (dk_at dksX5_comes_2 12 rfl rfl)
theorem dX5_comes_61 : decode cX5_comes 61 = .ok (.return_, 1) := dk_177 (dk_at dksX5_comes_2 13 rfl rfl)
abbrev cX5_goes : ByteArray := prog_10_method_3_code
def yX5_goes : MethodName := ⟨RX5, "goes", "(I)V"⟩
def dkwX5_goes_3 : List UInt8 := [132, 2, 1, 167, 255, 187, 42, 89, 180, 0, 28, 4, 100, 181, 0, 28, 177]
abbrev dktX5_goes_3 : List UInt8 := dkwX5_goes_3 ++ []
def dkwX5_goes_2 : List UInt8 := [180, 0, 18, 28, 4, 96, 46, 79, 42, 180, 0, 21, 28, 42, 180, 0, 21, 28, 4, 96, 46, 79]
abbrev dktX5_goes_2 : List UInt8 := dkwX5_goes_2 ++ dktX5_goes_3
def dkwX5_goes_1 : List UInt8 := [46, 79, 42, 180, 0, 15, 28, 42, 180, 0, 15, 28, 4, 96, 46, 79, 42, 180, 0, 18, 28, 42]
abbrev dktX5_goes_1 : List UInt8 := dkwX5_goes_1 ++ dktX5_goes_2
def dkwX5_goes_0 : List UInt8 := [27, 61, 28, 4, 96, 42, 180, 0, 28, 162, 0, 65, 42, 180, 0, 9, 28, 42, 180, 0, 9, 28, 4, 96]
abbrev dktX5_goes_0 : List UInt8 := dkwX5_goes_0 ++ dktX5_goes_1
theorem dksX5_goes_0 : cX5_goes.data.toList.drop 0 = dktX5_goes_0 := by decide +kernel
theorem dksX5_goes_1 : cX5_goes.data.toList.drop 24 = dktX5_goes_1 := dk_seg dksX5_goes_0 24 rfl rfl
theorem dksX5_goes_2 : cX5_goes.data.toList.drop 46 = dktX5_goes_2 := dk_seg dksX5_goes_1 22 rfl rfl
theorem dksX5_goes_3 : cX5_goes.data.toList.drop 68 = dktX5_goes_3 := dk_seg dksX5_goes_2 22 rfl rfl
theorem dX5_goes_0 : decode cX5_goes 0 = .ok (.iload_n 1, 1) := dk_27 (dk_at dksX5_goes_0 0 rfl rfl)
theorem dX5_goes_1 : decode cX5_goes 1 = .ok (.istore_n 2, 1) := dk_61 (dk_at dksX5_goes_0 1 rfl rfl)
theorem dX5_goes_2 : decode cX5_goes 2 = .ok (.iload_n 2, 1) := dk_28 (dk_at dksX5_goes_0 2 rfl rfl)
theorem dX5_goes_3 : decode cX5_goes 3 = .ok (.iconst 1, 1) := dk_4 (dk_at dksX5_goes_0 3 rfl rfl)
theorem dX5_goes_4 : decode cX5_goes 4 = .ok (.iadd, 1) := dk_96 (dk_at dksX5_goes_0 4 rfl rfl)
theorem dX5_goes_5 : decode cX5_goes 5 = .ok (.aload_n 0, 1) := dk_42 (dk_at dksX5_goes_0 5 rfl rfl)
theorem dX5_goes_6 : decode cX5_goes 6 = .ok (.getfield 28, 3) := dk_180 0 28 (dk_at dksX5_goes_0 6 rfl rfl)
theorem dX5_goes_9 : decode cX5_goes 9 = .ok (.if_icmp .ge 65, 3) := dk_162 0 65 (dk_at dksX5_goes_0 9 rfl rfl)
theorem dX5_goes_12 : decode cX5_goes 12 = .ok (.aload_n 0, 1) := dk_42 (dk_at dksX5_goes_0 12 rfl rfl)
theorem dX5_goes_13 : decode cX5_goes 13 = .ok (.getfield 9, 3) := dk_180 0 9 (dk_at dksX5_goes_0 13 rfl rfl)
theorem dX5_goes_16 : decode cX5_goes 16 = .ok (.iload_n 2, 1) := dk_28 (dk_at dksX5_goes_0 16 rfl rfl)
theorem dX5_goes_17 : decode cX5_goes 17 = .ok (.aload_n 0, 1) := dk_42 (dk_at dksX5_goes_0 17 rfl rfl)
theorem dX5_goes_18 : decode cX5_goes 18 = .ok (.getfield 9, 3) := dk_180 0 9 (dk_at dksX5_goes_0 18 rfl rfl)
theorem dX5_goes_21 : decode cX5_goes 21 = .ok (.iload_n 2, 1) := dk_28 (dk_at dksX5_goes_0 21 rfl rfl)
theorem dX5_goes_22 : decode cX5_goes 22 = .ok (.iconst 1, 1) := dk_4 (dk_at dksX5_goes_0 22 rfl rfl)
theorem dX5_goes_23 : decode cX5_goes 23 = .ok (.iadd, 1) := dk_96 (dk_at dksX5_goes_0 23 rfl rfl)
theorem dX5_goes_24 : decode cX5_goes 24 = .ok (.iaload, 1) := dk_46 (dk_at dksX5_goes_1 0 rfl rfl)
theorem dX5_goes_25 : decode cX5_goes 25 = .ok (.iastore, 1) := dk_79 (dk_at dksX5_goes_1 1 rfl rfl)
theorem dX5_goes_26 : decode cX5_goes 26 = .ok (.aload_n 0, 1) := dk_42 (dk_at dksX5_goes_1 2 rfl rfl)
theorem dX5_goes_27 : decode cX5_goes 27 = .ok (.getfield 15, 3) := dk_180 0 15 (dk_at dksX5_goes_1 3 rfl rfl)
theorem dX5_goes_30 : decode cX5_goes 30 = .ok (.iload_n 2, 1) := dk_28 (dk_at dksX5_goes_1 6 rfl rfl)
theorem dX5_goes_31 : decode cX5_goes 31 = .ok (.aload_n 0, 1) := dk_42 (dk_at dksX5_goes_1 7 rfl rfl)
theorem dX5_goes_32 : decode cX5_goes 32 = .ok (.getfield 15, 3) := dk_180 0 15 (dk_at dksX5_goes_1 8 rfl rfl)
theorem dX5_goes_35 : decode cX5_goes 35 = .ok (.iload_n 2, 1) := dk_28 (dk_at dksX5_goes_1 11 rfl rfl)
theorem dX5_goes_36 : decode cX5_goes 36 = .ok (.iconst 1, 1) := dk_4 (dk_at dksX5_goes_1 12 rfl rfl)
theorem dX5_goes_37 : decode cX5_goes 37 = .ok (.iadd, 1) := dk_96 (dk_at dksX5_goes_1 13 rfl rfl)
theorem dX5_goes_38 : decode cX5_goes 38 = .ok (.iaload, 1) := dk_46 (dk_at dksX5_goes_1 14 rfl rfl)
theorem dX5_goes_39 : decode cX5_goes 39 = .ok (.iastore, 1) := dk_79 (dk_at dksX5_goes_1 15 rfl rfl)
theorem dX5_goes_40 : decode cX5_goes 40 = .ok (.aload_n 0, 1) := dk_42 (dk_at dksX5_goes_1 16 rfl rfl)
theorem dX5_goes_41 : decode cX5_goes 41 = .ok (.getfield 18, 3) := dk_180 0 18 (dk_at dksX5_goes_1 17 rfl rfl)
theorem dX5_goes_44 : decode cX5_goes 44 = .ok (.iload_n 2, 1) := dk_28 (dk_at dksX5_goes_1 20 rfl rfl)
theorem dX5_goes_45 : decode cX5_goes 45 = .ok (.aload_n 0, 1) := dk_42 (dk_at dksX5_goes_1 21 rfl rfl)
theorem dX5_goes_46 : decode cX5_goes 46 = .ok (.getfield 18, 3) := dk_180 0 18 (dk_at dksX5_goes_2 0 rfl rfl)
theorem dX5_goes_49 : decode cX5_goes 49 = .ok (.iload_n 2, 1) := dk_28 (dk_at dksX5_goes_2 3 rfl rfl)
theorem dX5_goes_50 : decode cX5_goes 50 = .ok (.iconst 1, 1) := dk_4 (dk_at dksX5_goes_2 4 rfl rfl)
theorem dX5_goes_51 : decode cX5_goes 51 = .ok (.iadd, 1) := dk_96 (dk_at dksX5_goes_2 5 rfl rfl)
theorem dX5_goes_52 : decode cX5_goes 52 = .ok (.iaload, 1) := dk_46 (dk_at dksX5_goes_2 6 rfl rfl)
theorem dX5_goes_53 : decode cX5_goes 53 = .ok (.iastore, 1) := dk_79 (dk_at dksX5_goes_2 7 rfl rfl)
theorem dX5_goes_54 : decode cX5_goes 54 = .ok (.aload_n 0, 1) := dk_42 (dk_at dksX5_goes_2 8 rfl rfl)
theorem dX5_goes_55 : decode cX5_goes 55 = .ok (.getfield 21, 3) := dk_180 0 21 (dk_at dksX5_goes_2 9 rfl rfl)
theorem dX5_goes_58 : decode cX5_goes 58 = .ok (.iload_n 2, 1) := dk_28 (dk_at dksX5_goes_2 12 rfl rfl)
theorem dX5_goes_59 : decode cX5_goes 59 = .ok (.aload_n 0, 1) := dk_42 (dk_at dksX5_goes_2 13 rfl rfl)
theorem dX5_goes_60 : decode cX5_goes 60 = .ok (.getfield 21, 3) := dk_180 0 21 (dk_at dksX5_goes_2 14 rfl rfl)
theorem dX5_goes_63 : decode cX5_goes 63 = .ok (.iload_n 2, 1) := dk_28 (dk_at dksX5_goes_2 17 rfl rfl)
theorem dX5_goes_64 : decode cX5_goes 64 = .ok (.iconst 1, 1) := dk_4 (dk_at dksX5_goes_2 18 rfl rfl)
theorem dX5_goes_65 : decode cX5_goes 65 = .ok (.iadd, 1) := dk_96 (dk_at dksX5_goes_2 19 rfl rfl)
theorem dX5_goes_66 : decode cX5_goes 66 = .ok (.iaload, 1) := dk_46 (dk_at dksX5_goes_2 20 rfl rfl)
theorem dX5_goes_67 : decode cX5_goes 67 = .ok (.iastore, 1) := dk_79 (dk_at dksX5_goes_2 21 rfl rfl)
theorem dX5_goes_68 : decode cX5_goes 68 = .ok (.iinc 2 1, 3) := dk_132 2 1 (dk_at dksX5_goes_3 0 rfl rfl)
theorem dX5_goes_71 : decode cX5_goes 71 = .ok (.goto (-69), 3) := dk_167 255 187 (dk_at dksX5_goes_3 3 rfl rfl)
theorem dX5_goes_74 : decode cX5_goes 74 = .ok (.aload_n 0, 1) := dk_42 (dk_at dksX5_goes_3 6 rfl rfl)
theorem dX5_goes_75 : decode cX5_goes 75 = .ok (.dup, 1) := dk_89 (dk_at dksX5_goes_3 7 rfl rfl)
theorem dX5_goes_76 : decode cX5_goes 76 = .ok (.getfield 28, 3) := dk_180 0 28 (dk_at dksX5_goes_3 8 rfl rfl)
theorem dX5_goes_79 : decode cX5_goes 79 = .ok (.iconst 1, 1) := dk_4 (dk_at dksX5_goes_3 11 rfl rfl)
theorem dX5_goes_80 : decode cX5_goes 80 = .ok (.isub, 1) := dk_100 (dk_at dksX5_goes_3 12 rfl rfl)
theorem dX5_goes_81 : decode cX5_goes 81 = .ok (.putfield 28, 3) := dk_181 0 28 (dk_at dksX5_goes_3 13 rfl rfl)
theorem dX5_goes_84 : decode cX5_goes 84 = .ok (.return_, 1) := dk_177 (dk_at dksX5_goes_3 16 rfl rfl)
abbrev cX5_isOf : ByteArray := prog_10_method_5_code
def yX5_isOf : MethodName := ⟨RX5, "isOf", "(III)Z"⟩
def dkwX5_isOf_1 : List UInt8 := [3, 172]
abbrev dktX5_isOf_1 : List UInt8 := dkwX5_isOf_1 ++ []
def dkwX5_isOf_0 : List UInt8 := [42, 180, 0, 9, 27, 46, 28, 160, 0, 17, 42, 180, 0, 15, 27, 46, 29, 160, 0, 7, 4, 167, 0, 4]
abbrev dktX5_isOf_0 : List UInt8 := dkwX5_isOf_0 ++ dktX5_isOf_1
theorem dksX5_isOf_0 : cX5_isOf.data.toList.drop 0 = dktX5_isOf_0 := by decide +kernel
theorem dksX5_isOf_1 : cX5_isOf.data.toList.drop 24 = dktX5_isOf_1 := dk_seg dksX5_isOf_0 24 rfl rfl
theorem dX5_isOf_0 : decode cX5_isOf 0 = .ok (.aload_n 0, 1) := dk_42 (dk_at dksX5_isOf_0 0 rfl rfl)
theorem dX5_isOf_1 : decode cX5_isOf 1 = .ok (.getfield 9, 3) := dk_180 0 9 (dk_at dksX5_isOf_0 1 rfl rfl)
theorem dX5_isOf_4 : decode cX5_isOf 4 = .ok (.iload_n 1, 1) := dk_27 (dk_at dksX5_isOf_0 4 rfl rfl)
theorem dX5_isOf_5 : decode cX5_isOf 5 = .ok (.iaload, 1) := dk_46 (dk_at dksX5_isOf_0 5 rfl rfl)
theorem dX5_isOf_6 : decode cX5_isOf 6 = .ok (.iload_n 2, 1) := dk_28 (dk_at dksX5_isOf_0 6 rfl rfl)
theorem dX5_isOf_7 : decode cX5_isOf 7 = .ok (.if_icmp .ne 17, 3) := dk_160 0 17 (dk_at dksX5_isOf_0 7 rfl rfl)
theorem dX5_isOf_10 : decode cX5_isOf 10 = .ok (.aload_n 0, 1) := dk_42 (dk_at dksX5_isOf_0 10 rfl rfl)
theorem dX5_isOf_11 : decode cX5_isOf 11 = .ok (.getfield 15, 3) := dk_180 0 15 (dk_at dksX5_isOf_0 11 rfl rfl)
theorem dX5_isOf_14 : decode cX5_isOf 14 = .ok (.iload_n 1, 1) := dk_27 (dk_at dksX5_isOf_0 14 rfl rfl)
theorem dX5_isOf_15 : decode cX5_isOf 15 = .ok (.iaload, 1) := dk_46 (dk_at dksX5_isOf_0 15 rfl rfl)
theorem dX5_isOf_16 : decode cX5_isOf 16 = .ok (.iload_n 3, 1) := dk_29 (dk_at dksX5_isOf_0 16 rfl rfl)
theorem dX5_isOf_17 : decode cX5_isOf 17 = .ok (.if_icmp .ne 7, 3) := dk_160 0 7 (dk_at dksX5_isOf_0 17 rfl rfl)
theorem dX5_isOf_20 : decode cX5_isOf 20 = .ok (.iconst 1, 1) := dk_4 (dk_at dksX5_isOf_0 20 rfl rfl)
theorem dX5_isOf_21 : decode cX5_isOf 21 = .ok (.goto 4, 3) := dk_167 0 4 (dk_at dksX5_isOf_0 21 rfl rfl)
theorem dX5_isOf_24 : decode cX5_isOf 24 = .ok (.iconst 0, 1) := dk_3 (dk_at dksX5_isOf_1 0 rfl rfl)
theorem dX5_isOf_25 : decode cX5_isOf 25 = .ok (.ireturn, 1) := dk_172 (dk_at dksX5_isOf_1 1 rfl rfl)
abbrev cX5_alike : ByteArray := prog_10_method_6_code
def yX5_alike : MethodName := ⟨RX5, "alike", "(LGlassStreet$Marks;I)I"⟩
def dkwX5_alike_2 : List UInt8 := [160, 0, 6, 132, 3, 1, 132, 4, 1, 167, 255, 204, 29, 172]
abbrev dktX5_alike_2 : List UInt8 := dkwX5_alike_2 ++ []
def dkwX5_alike_1 : List UInt8 := [180, 0, 15, 28, 46, 182, 0, 36, 153, 0, 22, 42, 180, 0, 18, 21, 4, 46, 43, 180, 0, 18, 28, 46]
abbrev dktX5_alike_1 : List UInt8 := dkwX5_alike_1 ++ dktX5_alike_2
def dkwX5_alike_0 : List UInt8 := [3, 62, 3, 54, 4, 21, 4, 42, 180, 0, 28, 162, 0, 49, 42, 21, 4, 43, 180, 0, 9, 28, 46, 43]
abbrev dktX5_alike_0 : List UInt8 := dkwX5_alike_0 ++ dktX5_alike_1
theorem dksX5_alike_0 : cX5_alike.data.toList.drop 0 = dktX5_alike_0 := by decide +kernel
theorem dksX5_alike_1 : cX5_alike.data.toList.drop 24 = dktX5_alike_1 := dk_seg dksX5_alike_0 24 rfl rfl
theorem dksX5_alike_2 : cX5_alike.data.toList.drop 48 = dktX5_alike_2 := dk_seg dksX5_alike_1 24 rfl rfl
theorem dX5_alike_0 : decode cX5_alike 0 = .ok (.iconst 0, 1) := dk_3 (dk_at dksX5_alike_0 0 rfl rfl)
theorem dX5_alike_1 : decode cX5_alike 1 = .ok (.istore_n 3, 1) := dk_62 (dk_at dksX5_alike_0 1 rfl rfl)
theorem dX5_alike_2 : decode cX5_alike 2 = .ok (.iconst 0, 1) := dk_3 (dk_at dksX5_alike_0 2 rfl rfl)
theorem dX5_alike_3 : decode cX5_alike 3 = .ok (.istore 4, 2) := dk_54 4 (dk_at dksX5_alike_0 3 rfl rfl)
theorem dX5_alike_5 : decode cX5_alike 5 = .ok (.iload 4, 2) := dk_21 4 (dk_at dksX5_alike_0 5 rfl rfl)
theorem dX5_alike_7 : decode cX5_alike 7 = .ok (.aload_n 0, 1) := dk_42 (dk_at dksX5_alike_0 7 rfl rfl)
theorem dX5_alike_8 : decode cX5_alike 8 = .ok (.getfield 28, 3) := dk_180 0 28 (dk_at dksX5_alike_0 8 rfl rfl)
theorem dX5_alike_11 : decode cX5_alike 11 = .ok (.if_icmp .ge 49, 3) := dk_162 0 49 (dk_at dksX5_alike_0 11 rfl rfl)
theorem dX5_alike_14 : decode cX5_alike 14 = .ok (.aload_n 0, 1) := dk_42 (dk_at dksX5_alike_0 14 rfl rfl)
theorem dX5_alike_15 : decode cX5_alike 15 = .ok (.iload 4, 2) := dk_21 4 (dk_at dksX5_alike_0 15 rfl rfl)
theorem dX5_alike_17 : decode cX5_alike 17 = .ok (.aload_n 1, 1) := dk_43 (dk_at dksX5_alike_0 17 rfl rfl)
theorem dX5_alike_18 : decode cX5_alike 18 = .ok (.getfield 9, 3) := dk_180 0 9 (dk_at dksX5_alike_0 18 rfl rfl)
theorem dX5_alike_21 : decode cX5_alike 21 = .ok (.iload_n 2, 1) := dk_28 (dk_at dksX5_alike_0 21 rfl rfl)
theorem dX5_alike_22 : decode cX5_alike 22 = .ok (.iaload, 1) := dk_46 (dk_at dksX5_alike_0 22 rfl rfl)
theorem dX5_alike_23 : decode cX5_alike 23 = .ok (.aload_n 1, 1) := dk_43 (dk_at dksX5_alike_0 23 rfl rfl)
theorem dX5_alike_24 : decode cX5_alike 24 = .ok (.getfield 15, 3) := dk_180 0 15 (dk_at dksX5_alike_1 0 rfl rfl)
theorem dX5_alike_27 : decode cX5_alike 27 = .ok (.iload_n 2, 1) := dk_28 (dk_at dksX5_alike_1 3 rfl rfl)
theorem dX5_alike_28 : decode cX5_alike 28 = .ok (.iaload, 1) := dk_46 (dk_at dksX5_alike_1 4 rfl rfl)
theorem dX5_alike_29 : decode cX5_alike 29 = .ok (.invokevirtual 36, 3) := dk_182 0 36 (dk_at dksX5_alike_1 5 rfl rfl)
theorem dX5_alike_32 : decode cX5_alike 32 = .ok (.ifCond .eq 22, 3) := dk_153 0 22 (dk_at dksX5_alike_1 8 rfl rfl)
theorem dX5_alike_35 : decode cX5_alike 35 = .ok (.aload_n 0, 1) := dk_42 (dk_at dksX5_alike_1 11 rfl rfl)
theorem dX5_alike_36 : decode cX5_alike 36 = .ok (.getfield 18, 3) := dk_180 0 18 (dk_at dksX5_alike_1 12 rfl rfl)
theorem dX5_alike_39 : decode cX5_alike 39 = .ok (.iload 4, 2) := dk_21 4 (dk_at dksX5_alike_1 15 rfl rfl)
theorem dX5_alike_41 : decode cX5_alike 41 = .ok (.iaload, 1) := dk_46 (dk_at dksX5_alike_1 17 rfl rfl)
theorem dX5_alike_42 : decode cX5_alike 42 = .ok (.aload_n 1, 1) := dk_43 (dk_at dksX5_alike_1 18 rfl rfl)
theorem dX5_alike_43 : decode cX5_alike 43 = .ok (.getfield 18, 3) := dk_180 0 18 (dk_at dksX5_alike_1 19 rfl rfl)
theorem dX5_alike_46 : decode cX5_alike 46 = .ok (.iload_n 2, 1) := dk_28 (dk_at dksX5_alike_1 22 rfl rfl)
theorem dX5_alike_47 : decode cX5_alike 47 = .ok (.iaload, 1) := dk_46 (dk_at dksX5_alike_1 23 rfl rfl)
theorem dX5_alike_48 : decode cX5_alike 48 = .ok (.if_icmp .ne 6, 3) := dk_160 0 6 (dk_at dksX5_alike_2 0 rfl rfl)
theorem dX5_alike_51 : decode cX5_alike 51 = .ok (.iinc 3 1, 3) := dk_132 3 1 (dk_at dksX5_alike_2 3 rfl rfl)
theorem dX5_alike_54 : decode cX5_alike 54 = .ok (.iinc 4 1, 3) := dk_132 4 1 (dk_at dksX5_alike_2 6 rfl rfl)
theorem dX5_alike_57 : decode cX5_alike 57 = .ok (.goto (-52), 3) := dk_167 255 204 (dk_at dksX5_alike_2 9 rfl rfl)
theorem dX5_alike_60 : decode cX5_alike 60 = .ok (.iload_n 3, 1) := dk_29 (dk_at dksX5_alike_2 12 rfl rfl)
theorem dX5_alike_61 : decode cX5_alike 61 = .ok (.ireturn, 1) := dk_172 (dk_at dksX5_alike_2 13 rfl rfl)
theorem q128 : (Jvm.Cond.initialized "GlassStreet$Marks") ∈ lw_all := lw_g (lw_at lw_m1 8 rfl) rfl
theorem q287 : (Jvm.Cond.instantiable "GlassStreet$Marks" (5 : Nat)) ∈ lw_all := lw_g (lw_at lw_m1 167 rfl) rfl
theorem q289 : (Jvm.Cond.instanceMethod ({ cls := "GlassStreet$Marks", name := "<init>", desc := "()V" } : Jvm.MethodName)) ∈ lw_all := lw_g (lw_at lw_m1 169 rfl) rfl
theorem q290 : (Jvm.Cond.code ({ cls := "GlassStreet$Marks", name := "<init>", desc := "()V" } : Jvm.MethodName) prog_10_method_1_code (1 : Nat) (Option.none : Option Jvm.ClassFile.FieldType)) ∈ lw_all := lw_g (lw_at lw_m1 170 rfl) rfl
theorem q291 : (Jvm.Cond.methodLink "GlassStreet$Marks" (3 : Nat) ({ cls := "java/lang/Object", name := "<init>", desc := "()V" } : Jvm.MethodName)) ∈ lw_all := lw_g (lw_at lw_m1 171 rfl) rfl
theorem q292 : (Jvm.Cond.fieldLink "GlassStreet$Marks" (9 : Nat) "GlassStreet$Marks" "who" "[I") ∈ lw_all := lw_g (lw_at lw_m1 172 rfl) rfl
theorem q294 : (Jvm.Cond.fieldLink "GlassStreet$Marks" (15 : Nat) "GlassStreet$Marks" "deed" "[I") ∈ lw_all := lw_g (lw_at lw_m1 174 rfl) rfl
theorem q296 : (Jvm.Cond.fieldLink "GlassStreet$Marks" (18 : Nat) "GlassStreet$Marks" "cell" "[I") ∈ lw_all := lw_g (lw_at lw_m1 176 rfl) rfl
theorem q298 : (Jvm.Cond.fieldLink "GlassStreet$Marks" (21 : Nat) "GlassStreet$Marks" "age" "[I") ∈ lw_all := lw_g (lw_at lw_m1 178 rfl) rfl
theorem q301 : (Jvm.Cond.fieldLink "GlassStreet$Marks" (28 : Nat) "GlassStreet$Marks" "many" "I") ∈ lw_all := lw_g (lw_at lw_m1 181 rfl) rfl
theorem q304 : (Jvm.Cond.laysFinal "GlassStreet$Marks" "GlassStreet$Marks" "who" "[I") ∈ lw_all := lw_g (lw_at lw_m1 184 rfl) rfl
theorem q305 : (Jvm.Cond.soleField "GlassStreet$Marks" "who") ∈ lw_all := lw_g (lw_at lw_m1 185 rfl) rfl
theorem q306 : (Jvm.Cond.laysFinal "GlassStreet$Marks" "GlassStreet$Marks" "deed" "[I") ∈ lw_all := lw_g (lw_at lw_m1 186 rfl) rfl
theorem q307 : (Jvm.Cond.soleField "GlassStreet$Marks" "deed") ∈ lw_all := lw_g (lw_at lw_m1 187 rfl) rfl
theorem q308 : (Jvm.Cond.laysFinal "GlassStreet$Marks" "GlassStreet$Marks" "cell" "[I") ∈ lw_all := lw_g (lw_at lw_m1 188 rfl) rfl
theorem q309 : (Jvm.Cond.soleField "GlassStreet$Marks" "cell") ∈ lw_all := lw_g (lw_at lw_m1 189 rfl) rfl
theorem q310 : (Jvm.Cond.laysFinal "GlassStreet$Marks" "GlassStreet$Marks" "age" "[I") ∈ lw_all := lw_g (lw_at lw_m1 190 rfl) rfl
theorem q311 : (Jvm.Cond.soleField "GlassStreet$Marks" "age") ∈ lw_all := lw_g (lw_at lw_m1 191 rfl) rfl
theorem q312 : (Jvm.Cond.lays "GlassStreet$Marks" "GlassStreet$Marks" "many" "I") ∈ lw_all := lw_g (lw_at lw_m1 192 rfl) rfl
theorem q313 : (Jvm.Cond.soleField "GlassStreet$Marks" "many") ∈ lw_all := lw_g (lw_at lw_m1 193 rfl) rfl
theorem q314 : (Jvm.Cond.superclass "GlassStreet$Marks" "java/lang/Object") ∈ lw_all := lw_g (lw_at lw_m1 194 rfl) rfl
theorem q960 : (Jvm.Cond.selects "GlassStreet$Marks" ({ cls := "java/lang/Object", name := "getClass", desc := "()Ljava/lang/Class;" } : Jvm.MethodName) ({ cls := "java/lang/Object", name := "getClass", desc := "()Ljava/lang/Class;" } : Jvm.MethodName)) ∈ lw_all := lw_g (lw_at lw_m4 120 rfl) rfl
theorem q1262 : (Jvm.Cond.instanceMethod ({ cls := "GlassStreet$Marks", name := "be", desc := "(LGlassStreet$Marks;)V" } : Jvm.MethodName)) ∈ lw_all := lw_g (lw_at lw_m5 182 rfl) rfl
theorem q1263 : (Jvm.Cond.selects "GlassStreet$Marks" ({ cls := "GlassStreet$Marks", name := "be", desc := "(LGlassStreet$Marks;)V" } : Jvm.MethodName) ({ cls := "GlassStreet$Marks", name := "be", desc := "(LGlassStreet$Marks;)V" } : Jvm.MethodName)) ∈ lw_all := lw_g (lw_at lw_m5 183 rfl) rfl
theorem q1264 : (Jvm.Cond.code ({ cls := "GlassStreet$Marks", name := "be", desc := "(LGlassStreet$Marks;)V" } : Jvm.MethodName) prog_10_method_2_code (2 : Nat) (Option.none : Option Jvm.ClassFile.FieldType)) ∈ lw_all := lw_g (lw_at lw_m5 184 rfl) rfl
theorem q1265 : (Jvm.Cond.methodLinkNest "GlassStreet$Marks" (24 : Nat) ({ cls := "GlassStreet", name := "copies", desc := "([I[I)V" } : Jvm.MethodName) "GlassStreet") ∈ lw_tbl := lw_at lw_m5 185 rfl
theorem q1287 : (Jvm.Cond.instanceMethod ({ cls := "GlassStreet$Marks", name := "comes", desc := "(IIII)V" } : Jvm.MethodName)) ∈ lw_all := lw_g (lw_at lw_m5 207 rfl) rfl
theorem q1288 : (Jvm.Cond.selects "GlassStreet$Marks" ({ cls := "GlassStreet$Marks", name := "comes", desc := "(IIII)V" } : Jvm.MethodName) ({ cls := "GlassStreet$Marks", name := "comes", desc := "(IIII)V" } : Jvm.MethodName)) ∈ lw_all := lw_g (lw_at lw_m5 208 rfl) rfl
theorem q1289 : (Jvm.Cond.code ({ cls := "GlassStreet$Marks", name := "comes", desc := "(IIII)V" } : Jvm.MethodName) prog_10_method_4_code (5 : Nat) (Option.none : Option Jvm.ClassFile.FieldType)) ∈ lw_all := lw_g (lw_at lw_m5 209 rfl) rfl
theorem q1290 : (Jvm.Cond.methodLink "GlassStreet$Marks" (32 : Nat) ({ cls := "GlassStreet$Marks", name := "goes", desc := "(I)V" } : Jvm.MethodName)) ∈ lw_all := lw_g (lw_at lw_m5 210 rfl) rfl
theorem q1291 : (Jvm.Cond.instanceMethod ({ cls := "GlassStreet$Marks", name := "goes", desc := "(I)V" } : Jvm.MethodName)) ∈ lw_all := lw_g (lw_at lw_m5 211 rfl) rfl
theorem q1292 : (Jvm.Cond.selects "GlassStreet$Marks" ({ cls := "GlassStreet$Marks", name := "goes", desc := "(I)V" } : Jvm.MethodName) ({ cls := "GlassStreet$Marks", name := "goes", desc := "(I)V" } : Jvm.MethodName)) ∈ lw_all := lw_g (lw_at lw_m5 212 rfl) rfl
theorem q1293 : (Jvm.Cond.code ({ cls := "GlassStreet$Marks", name := "goes", desc := "(I)V" } : Jvm.MethodName) prog_10_method_3_code (3 : Nat) (Option.none : Option Jvm.ClassFile.FieldType)) ∈ lw_all := lw_g (lw_at lw_m5 213 rfl) rfl
theorem q1425 : (Jvm.Cond.instanceMethod ({ cls := "GlassStreet$Marks", name := "isOf", desc := "(III)Z" } : Jvm.MethodName)) ∈ lw_all := lw_g (lw_at lw_m6 105 rfl) rfl
theorem q1426 : (Jvm.Cond.selects "GlassStreet$Marks" ({ cls := "GlassStreet$Marks", name := "isOf", desc := "(III)Z" } : Jvm.MethodName) ({ cls := "GlassStreet$Marks", name := "isOf", desc := "(III)Z" } : Jvm.MethodName)) ∈ lw_all := lw_g (lw_at lw_m6 106 rfl) rfl
theorem q1427 : (Jvm.Cond.code ({ cls := "GlassStreet$Marks", name := "isOf", desc := "(III)Z" } : Jvm.MethodName) prog_10_method_5_code (4 : Nat) (Option.some Jvm.ClassFile.FieldType.boolean)) ∈ lw_all := lw_g (lw_at lw_m6 107 rfl) rfl
theorem q1494 : (Jvm.Cond.instanceMethod ({ cls := "GlassStreet$Marks", name := "alike", desc := "(LGlassStreet$Marks;I)I" } : Jvm.MethodName)) ∈ lw_all := lw_g (lw_at lw_m6 174 rfl) rfl
theorem q1495 : (Jvm.Cond.selects "GlassStreet$Marks" ({ cls := "GlassStreet$Marks", name := "alike", desc := "(LGlassStreet$Marks;I)I" } : Jvm.MethodName) ({ cls := "GlassStreet$Marks", name := "alike", desc := "(LGlassStreet$Marks;I)I" } : Jvm.MethodName)) ∈ lw_all := lw_g (lw_at lw_m6 175 rfl) rfl
theorem q1496 : (Jvm.Cond.code ({ cls := "GlassStreet$Marks", name := "alike", desc := "(LGlassStreet$Marks;I)I" } : Jvm.MethodName) prog_10_method_6_code (5 : Nat) (Option.some Jvm.ClassFile.FieldType.int)) ∈ lw_all := lw_g (lw_at lw_m6 176 rfl) rfl
theorem q1497 : (Jvm.Cond.methodLink "GlassStreet$Marks" (36 : Nat) ({ cls := "GlassStreet$Marks", name := "isOf", desc := "(III)Z" } : Jvm.MethodName)) ∈ lw_all := lw_g (lw_at lw_m6 177 rfl) rfl
theorem q2197 : (Jvm.Cond.castable "GlassStreet$Marks" "java/lang/Object") ∈ lw_tbl := lw_at lw_m9 157 rfl
theorem in_X5 : ∀ w ∈ wsX50, w ∈ lw_all := lw_in wsX50 [304, 306, 308, 310, 312] (by decide +kernel) (by decide +kernel)
/-! GlassStreet$Wrong -/
set_option maxRecDepth 100000
def RX7 : String := "GlassStreet$Wrong"
def TX7 : u_T := fun k => match k with
  | 0 => ("java/lang/Throwable", "cause", "Ljava/lang/Throwable;", false)
  | 1 => ("java/lang/Throwable", "stackTrace", "[Ljava/lang/StackTraceElement;", false)
  | 2 => ("java/lang/Throwable", "suppressedExceptions", "Ljava/util/List;", false)
  | 3 => ("java/lang/Throwable", "detailMessage", "Ljava/lang/String;", false)
  | 4 => ("java/lang/Throwable", "backtrace", "Ljava/lang/Object;", false)
  | 5 => ("java/lang/Throwable", "depth", "I", false)
  | _ => ("GlassStreet$Wrong", "fault", "I", true)
def tyX7 : Nat → FieldType := fun k => match k with
  | 0 => .object "java/lang/Throwable"
  | 1 => .array (.object "java/lang/StackTraceElement")
  | 2 => .object "java/util/List"
  | 3 => .object "java/lang/String"
  | 4 => .object "java/lang/Object"
  | 5 => .int
  | _ => .int
abbrev wsX70 : List Cond := u_ws RX7 TX7 7
theorem nmX7 : ∀ a, a < 7 → ∀ b, b < 7 → a ≠ b → (TX7 a).2.1 ≠ (TX7 b).2.1 := by decide +kernel
theorem tyX7_ok : ∀ k, k < 7 → parseFieldDescriptor (TX7 k).2.2.1 = some (tyX7 k) := by decide +kernel
abbrev cX7_init : ByteArray := prog_22_method_1_code
def yX7_init : MethodName := ⟨RX7, "<init>", "(II)V"⟩
def dkwX7_init_0 : List UInt8 := [42, 1, 1, 3, 3, 183, 0, 1, 42, 27, 16, 16, 28, 104, 96, 181, 0, 7, 177]
abbrev dktX7_init_0 : List UInt8 := dkwX7_init_0 ++ []
theorem dksX7_init_0 : cX7_init.data.toList.drop 0 = dktX7_init_0 := by decide +kernel
theorem dX7_init_0 : decode cX7_init 0 = .ok (.aload_n 0, 1) := dk_42 (dk_at dksX7_init_0 0 rfl rfl)
theorem dX7_init_1 : decode cX7_init 1 = .ok (.aconst_null, 1) := dk_1 (dk_at dksX7_init_0 1 rfl rfl)
theorem dX7_init_2 : decode cX7_init 2 = .ok (.aconst_null, 1) := dk_1 (dk_at dksX7_init_0 2 rfl rfl)
theorem dX7_init_3 : decode cX7_init 3 = .ok (.iconst 0, 1) := dk_3 (dk_at dksX7_init_0 3 rfl rfl)
theorem dX7_init_4 : decode cX7_init 4 = .ok (.iconst 0, 1) := dk_3 (dk_at dksX7_init_0 4 rfl rfl)
theorem dX7_init_5 : decode cX7_init 5 = .ok (.invokespecial 1, 3) := dk_183 0 1 (dk_at dksX7_init_0 5 rfl rfl)
theorem dX7_init_8 : decode cX7_init 8 = .ok (.aload_n 0, 1) := dk_42 (dk_at dksX7_init_0 8 rfl rfl)
theorem dX7_init_9 : decode cX7_init 9 = .ok (.iload_n 1, 1) := dk_27 (dk_at dksX7_init_0 9 rfl rfl)
theorem dX7_init_10 : decode cX7_init 10 = .ok (.bipush 16, 2) := dk_16 16 (dk_at dksX7_init_0 10 rfl rfl)
theorem dX7_init_12 : decode cX7_init 12 = .ok (.iload_n 2, 1) := dk_28 (dk_at dksX7_init_0 12 rfl rfl)
theorem dX7_init_13 : decode cX7_init 13 = .ok (.imul, 1) := dk_104 (dk_at dksX7_init_0 13 rfl rfl)
theorem dX7_init_14 : decode cX7_init 14 = .ok (.iadd, 1) := dk_96 (dk_at dksX7_init_0 14 rfl rfl)
theorem dX7_init_15 : decode cX7_init 15 = .ok (.putfield 7, 3) := dk_181 0 7 (dk_at dksX7_init_0 15 rfl rfl)
theorem dX7_init_18 : decode cX7_init 18 = .ok (.return_, 1) := dk_177 (dk_at dksX7_init_0 18 rfl rfl)
theorem q139 : (Jvm.Cond.initialized "GlassStreet$Wrong") ∈ lw_all := lw_g (lw_at lw_m1 19 rfl) rfl
theorem q549 : (Jvm.Cond.instantiable "GlassStreet$Wrong" (7 : Nat)) ∈ lw_all := lw_g (lw_at lw_m2 189 rfl) rfl
theorem q550 : (Jvm.Cond.castable "GlassStreet$Wrong" "GlassStreet$Wrong") ∈ lw_tbl := lw_at lw_m2 190 rfl
theorem q557 : (Jvm.Cond.selects "GlassStreet$Wrong" ({ cls := "java/lang/Throwable", name := "fillInStackTrace", desc := "(I)Ljava/lang/Throwable;" } : Jvm.MethodName) ({ cls := "java/lang/Throwable", name := "fillInStackTrace", desc := "(I)Ljava/lang/Throwable;" } : Jvm.MethodName)) ∈ lw_all := lw_g (lw_at lw_m2 197 rfl) rfl
theorem q558 : (Jvm.Cond.selects "GlassStreet$Wrong" ({ cls := "java/lang/Throwable", name := "fillInStackTrace", desc := "()Ljava/lang/Throwable;" } : Jvm.MethodName) ({ cls := "java/lang/Throwable", name := "fillInStackTrace", desc := "()Ljava/lang/Throwable;" } : Jvm.MethodName)) ∈ lw_all := lw_g (lw_at lw_m2 198 rfl) rfl
theorem q559 : (Jvm.Cond.lays "GlassStreet$Wrong" "java/lang/Throwable" "cause" "Ljava/lang/Throwable;") ∈ lw_all := lw_g (lw_at lw_m2 199 rfl) rfl
theorem q561 : (Jvm.Cond.lays "GlassStreet$Wrong" "java/lang/Throwable" "stackTrace" "[Ljava/lang/StackTraceElement;") ∈ lw_all := lw_g (lw_at lw_m2 201 rfl) rfl
theorem q563 : (Jvm.Cond.lays "GlassStreet$Wrong" "java/lang/Throwable" "suppressedExceptions" "Ljava/util/List;") ∈ lw_all := lw_g (lw_at lw_m2 203 rfl) rfl
theorem q565 : (Jvm.Cond.lays "GlassStreet$Wrong" "java/lang/Throwable" "detailMessage" "Ljava/lang/String;") ∈ lw_all := lw_g (lw_at lw_m2 205 rfl) rfl
theorem q567 : (Jvm.Cond.lays "GlassStreet$Wrong" "java/lang/Throwable" "backtrace" "Ljava/lang/Object;") ∈ lw_all := lw_g (lw_at lw_m2 207 rfl) rfl
theorem q589 : (Jvm.Cond.instanceMethod ({ cls := "GlassStreet$Wrong", name := "<init>", desc := "(II)V" } : Jvm.MethodName)) ∈ lw_all := lw_g (lw_at lw_m2 229 rfl) rfl
theorem q590 : (Jvm.Cond.code ({ cls := "GlassStreet$Wrong", name := "<init>", desc := "(II)V" } : Jvm.MethodName) prog_22_method_1_code (3 : Nat) (Option.none : Option Jvm.ClassFile.FieldType)) ∈ lw_all := lw_g (lw_at lw_m2 230 rfl) rfl
theorem q591 : (Jvm.Cond.methodLink "GlassStreet$Wrong" (1 : Nat) ({ cls := "java/lang/RuntimeException", name := "<init>", desc := "(Ljava/lang/String;Ljava/lang/Throwable;ZZ)V" } : Jvm.MethodName)) ∈ lw_all := lw_g (lw_at lw_m2 231 rfl) rfl
theorem q600 : (Jvm.Cond.fieldLink "GlassStreet$Wrong" (7 : Nat) "GlassStreet$Wrong" "fault" "I") ∈ lw_all := lw_g (lw_at lw_m3 0 rfl) rfl
theorem q607 : (Jvm.Cond.laysFinal "GlassStreet$Wrong" "GlassStreet$Wrong" "fault" "I") ∈ lw_all := lw_g (lw_at lw_m3 7 rfl) rfl
theorem q608 : (Jvm.Cond.soleField "GlassStreet$Wrong" "fault") ∈ lw_all := lw_g (lw_at lw_m3 8 rfl) rfl
theorem q613 : (Jvm.Cond.lays "GlassStreet$Wrong" "java/lang/Throwable" "depth" "I") ∈ lw_all := lw_g (lw_at lw_m3 13 rfl) rfl
theorem q616 : (Jvm.Cond.superclass "GlassStreet$Wrong" "java/lang/RuntimeException") ∈ lw_all := lw_g (lw_at lw_m3 16 rfl) rfl
theorem q972 : (Jvm.Cond.selects "GlassStreet$Wrong" ({ cls := "java/lang/Object", name := "getClass", desc := "()Ljava/lang/Class;" } : Jvm.MethodName) ({ cls := "java/lang/Object", name := "getClass", desc := "()Ljava/lang/Class;" } : Jvm.MethodName)) ∈ lw_all := lw_g (lw_at lw_m4 132 rfl) rfl
theorem q2205 : (Jvm.Cond.castable "GlassStreet$Wrong" "java/lang/Object") ∈ lw_tbl := lw_at lw_m9 165 rfl
theorem in_X7 : ∀ w ∈ wsX70, w ∈ lw_all := lw_in wsX70 [559, 561, 563, 565, 567, 613, 607] (by decide +kernel) (by decide +kernel)
/-! GlassStreet$Pane -/
set_option maxRecDepth 100000
def RX8 : String := "GlassStreet$Pane"
def TX8 : u_T := fun k => match k with
  | 0 => ("GlassStreet$Pane", "name", "Ljava/lang/String;", true)
  | 1 => ("GlassStreet$Pane", "keeps", "I", false)
  | _ => ("GlassStreet$Pane", "cells", "I", false)
def tyX8 : Nat → FieldType := fun k => match k with
  | 0 => .object "java/lang/String"
  | 1 => .int
  | _ => .int
abbrev wsX80 : List Cond := u_ws RX8 TX8 3
theorem nmX8 : ∀ a, a < 3 → ∀ b, b < 3 → a ≠ b → (TX8 a).2.1 ≠ (TX8 b).2.1 := by decide +kernel
theorem tyX8_ok : ∀ k, k < 3 → parseFieldDescriptor (TX8 k).2.2.1 = some (tyX8 k) := by decide +kernel
abbrev cX8_init : ByteArray := prog_14_method_1_code
def yX8_init : MethodName := ⟨RX8, "<init>", "(Ljava/lang/String;)V"⟩
def dkwX8_init_0 : List UInt8 := [42, 183, 0, 1, 42, 43, 181, 0, 7, 177]
abbrev dktX8_init_0 : List UInt8 := dkwX8_init_0 ++ []
theorem dksX8_init_0 : cX8_init.data.toList.drop 0 = dktX8_init_0 := by decide +kernel
theorem dX8_init_0 : decode cX8_init 0 = .ok (.aload_n 0, 1) := dk_42 (dk_at dksX8_init_0 0 rfl rfl)
theorem dX8_init_1 : decode cX8_init 1 = .ok (.invokespecial 1, 3) := dk_183 0 1 (dk_at dksX8_init_0 1 rfl rfl)
theorem dX8_init_4 : decode cX8_init 4 = .ok (.aload_n 0, 1) := dk_42 (dk_at dksX8_init_0 4 rfl rfl)
theorem dX8_init_5 : decode cX8_init 5 = .ok (.aload_n 1, 1) := dk_43 (dk_at dksX8_init_0 5 rfl rfl)
theorem dX8_init_6 : decode cX8_init 6 = .ok (.putfield 7, 3) := dk_181 0 7 (dk_at dksX8_init_0 6 rfl rfl)
theorem dX8_init_9 : decode cX8_init 9 = .ok (.return_, 1) := dk_177 (dk_at dksX8_init_0 9 rfl rfl)
abbrev cX8_kind : ByteArray := prog_14_method_2_code
def yX8_kind : MethodName := ⟨RX8, "kind", "()I"⟩
theorem dX8_kind_0 : decode cX8_kind 0 = .ok (.iconst 0, 1) := by decide +kernel
theorem dX8_kind_1 : decode cX8_kind 1 = .ok (.ireturn, 1) := by decide +kernel
abbrev cX8_sees : ByteArray := prog_14_method_3_code
def yX8_sees : MethodName := ⟨RX8, "sees", "(I)I"⟩
theorem dX8_sees_0 : decode cX8_sees 0 = .ok (.aload_n 0, 1) := by decide +kernel
theorem dX8_sees_1 : decode cX8_sees 1 = .ok (.getfield 13, 3) := by decide +kernel
theorem dX8_sees_4 : decode cX8_sees 4 = .ok (.ireturn, 1) := by decide +kernel
abbrev cX8_tellsWho : ByteArray := prog_14_method_4_code
def yX8_tellsWho : MethodName := ⟨RX8, "tellsWho", "()Z"⟩
theorem dX8_tellsWho_0 : decode cX8_tellsWho 0 = .ok (.iconst 1, 1) := by decide +kernel
theorem dX8_tellsWho_1 : decode cX8_tellsWho 1 = .ok (.ireturn, 1) := by decide +kernel
theorem q146 : (Jvm.Cond.initialized "GlassStreet$Pane") ∈ lw_all := lw_g (lw_at lw_m1 26 rfl) rfl
theorem q848 : (Jvm.Cond.instantiable "GlassStreet$Pane" (3 : Nat)) ∈ lw_all := lw_g (lw_at lw_m4 8 rfl) rfl
theorem q850 : (Jvm.Cond.instanceMethod ({ cls := "GlassStreet$Pane", name := "<init>", desc := "(Ljava/lang/String;)V" } : Jvm.MethodName)) ∈ lw_all := lw_g (lw_at lw_m4 10 rfl) rfl
theorem q851 : (Jvm.Cond.code ({ cls := "GlassStreet$Pane", name := "<init>", desc := "(Ljava/lang/String;)V" } : Jvm.MethodName) prog_14_method_1_code (2 : Nat) (Option.none : Option Jvm.ClassFile.FieldType)) ∈ lw_all := lw_g (lw_at lw_m4 11 rfl) rfl
theorem q852 : (Jvm.Cond.methodLink "GlassStreet$Pane" (1 : Nat) ({ cls := "java/lang/Object", name := "<init>", desc := "()V" } : Jvm.MethodName)) ∈ lw_all := lw_g (lw_at lw_m4 12 rfl) rfl
theorem q853 : (Jvm.Cond.fieldLink "GlassStreet$Pane" (7 : Nat) "GlassStreet$Pane" "name" "Ljava/lang/String;") ∈ lw_all := lw_g (lw_at lw_m4 13 rfl) rfl
theorem q857 : (Jvm.Cond.fieldLink "GlassStreet$Pane" (13 : Nat) "GlassStreet$Pane" "cells" "I") ∈ lw_all := lw_g (lw_at lw_m4 17 rfl) rfl
theorem q863 : (Jvm.Cond.laysFinal "GlassStreet$Pane" "GlassStreet$Pane" "name" "Ljava/lang/String;") ∈ lw_all := lw_g (lw_at lw_m4 23 rfl) rfl
theorem q864 : (Jvm.Cond.soleField "GlassStreet$Pane" "name") ∈ lw_all := lw_g (lw_at lw_m4 24 rfl) rfl
theorem q865 : (Jvm.Cond.lays "GlassStreet$Pane" "GlassStreet$Pane" "keeps" "I") ∈ lw_all := lw_g (lw_at lw_m4 25 rfl) rfl
theorem q866 : (Jvm.Cond.soleField "GlassStreet$Pane" "keeps") ∈ lw_all := lw_g (lw_at lw_m4 26 rfl) rfl
theorem q867 : (Jvm.Cond.lays "GlassStreet$Pane" "GlassStreet$Pane" "cells" "I") ∈ lw_all := lw_g (lw_at lw_m4 27 rfl) rfl
theorem q868 : (Jvm.Cond.soleField "GlassStreet$Pane" "cells") ∈ lw_all := lw_g (lw_at lw_m4 28 rfl) rfl
theorem q869 : (Jvm.Cond.superclass "GlassStreet$Pane" "java/lang/Object") ∈ lw_all := lw_g (lw_at lw_m4 29 rfl) rfl
theorem q964 : (Jvm.Cond.selects "GlassStreet$Pane" ({ cls := "java/lang/Object", name := "getClass", desc := "()Ljava/lang/Class;" } : Jvm.MethodName) ({ cls := "java/lang/Object", name := "getClass", desc := "()Ljava/lang/Class;" } : Jvm.MethodName)) ∈ lw_all := lw_g (lw_at lw_m4 124 rfl) rfl
theorem q1170 : (Jvm.Cond.instanceMethod ({ cls := "GlassStreet$Pane", name := "kind", desc := "()I" } : Jvm.MethodName)) ∈ lw_all := lw_g (lw_at lw_m5 90 rfl) rfl
theorem q1171 : (Jvm.Cond.selects "GlassStreet$Pane" ({ cls := "GlassStreet$Pane", name := "kind", desc := "()I" } : Jvm.MethodName) ({ cls := "GlassStreet$Pane", name := "kind", desc := "()I" } : Jvm.MethodName)) ∈ lw_all := lw_g (lw_at lw_m5 91 rfl) rfl
theorem q1172 : (Jvm.Cond.sameMethod "GlassStreet$Pane" "GlassStreet$Pane" "kind" "()I") ∈ lw_all := lw_g (lw_at lw_m5 92 rfl) rfl
theorem q1182 : (Jvm.Cond.code ({ cls := "GlassStreet$Pane", name := "kind", desc := "()I" } : Jvm.MethodName) prog_14_method_2_code (1 : Nat) (Option.some Jvm.ClassFile.FieldType.int)) ∈ lw_all := lw_g (lw_at lw_m5 102 rfl) rfl
theorem q1198 : (Jvm.Cond.instanceMethod ({ cls := "GlassStreet$Pane", name := "sees", desc := "(I)I" } : Jvm.MethodName)) ∈ lw_all := lw_g (lw_at lw_m5 118 rfl) rfl
theorem q1199 : (Jvm.Cond.selects "GlassStreet$Pane" ({ cls := "GlassStreet$Pane", name := "sees", desc := "(I)I" } : Jvm.MethodName) ({ cls := "GlassStreet$Pane", name := "sees", desc := "(I)I" } : Jvm.MethodName)) ∈ lw_all := lw_g (lw_at lw_m5 119 rfl) rfl
theorem q1200 : (Jvm.Cond.sameMethod "GlassStreet$Pane" "GlassStreet$Pane" "sees" "(I)I") ∈ lw_all := lw_g (lw_at lw_m5 120 rfl) rfl
theorem q1211 : (Jvm.Cond.code ({ cls := "GlassStreet$Pane", name := "sees", desc := "(I)I" } : Jvm.MethodName) prog_14_method_3_code (2 : Nat) (Option.some Jvm.ClassFile.FieldType.int)) ∈ lw_all := lw_g (lw_at lw_m5 131 rfl) rfl
theorem q1225 : (Jvm.Cond.instanceMethod ({ cls := "GlassStreet$Pane", name := "tellsWho", desc := "()Z" } : Jvm.MethodName)) ∈ lw_all := lw_g (lw_at lw_m5 145 rfl) rfl
theorem q1226 : (Jvm.Cond.selects "GlassStreet$Pane" ({ cls := "GlassStreet$Pane", name := "tellsWho", desc := "()Z" } : Jvm.MethodName) ({ cls := "GlassStreet$Pane", name := "tellsWho", desc := "()Z" } : Jvm.MethodName)) ∈ lw_all := lw_g (lw_at lw_m5 146 rfl) rfl
theorem q1227 : (Jvm.Cond.sameMethod "GlassStreet$Pane" "GlassStreet$Pane" "tellsWho" "()Z") ∈ lw_all := lw_g (lw_at lw_m5 147 rfl) rfl
theorem q1233 : (Jvm.Cond.code ({ cls := "GlassStreet$Pane", name := "tellsWho", desc := "()Z" } : Jvm.MethodName) prog_14_method_4_code (1 : Nat) (Option.some Jvm.ClassFile.FieldType.boolean)) ∈ lw_all := lw_g (lw_at lw_m5 153 rfl) rfl
theorem q2208 : (Jvm.Cond.castable "GlassStreet$Pane" "java/lang/Object") ∈ lw_tbl := lw_at lw_m9 168 rfl
theorem in_X8 : ∀ w ∈ wsX80, w ∈ lw_all := lw_in wsX80 [863, 865, 867] (by decide +kernel) (by decide +kernel)
/-! GlassStreet$Frosted -/
set_option maxRecDepth 100000
def RX9 : String := "GlassStreet$Frosted"
def TX9 : u_T := fun k => match k with
  | 0 => ("GlassStreet$Pane", "name", "Ljava/lang/String;", true)
  | 1 => ("GlassStreet$Pane", "keeps", "I", false)
  | _ => ("GlassStreet$Pane", "cells", "I", false)
def tyX9 : Nat → FieldType := fun k => match k with
  | 0 => .object "java/lang/String"
  | 1 => .int
  | _ => .int
abbrev wsX90 : List Cond := u_ws RX9 TX9 3
theorem nmX9 : ∀ a, a < 3 → ∀ b, b < 3 → a ≠ b → (TX9 a).2.1 ≠ (TX9 b).2.1 := by decide +kernel
theorem tyX9_ok : ∀ k, k < 3 → parseFieldDescriptor (TX9 k).2.2.1 = some (tyX9 k) := by decide +kernel
abbrev cX9_init : ByteArray := prog_6_method_1_code
def yX9_init : MethodName := ⟨RX9, "<init>", "(Ljava/lang/String;)V"⟩
def dkwX9_init_0 : List UInt8 := [42, 43, 183, 0, 1, 177]
abbrev dktX9_init_0 : List UInt8 := dkwX9_init_0 ++ []
theorem dksX9_init_0 : cX9_init.data.toList.drop 0 = dktX9_init_0 := by decide +kernel
theorem dX9_init_0 : decode cX9_init 0 = .ok (.aload_n 0, 1) := dk_42 (dk_at dksX9_init_0 0 rfl rfl)
theorem dX9_init_1 : decode cX9_init 1 = .ok (.aload_n 1, 1) := dk_43 (dk_at dksX9_init_0 1 rfl rfl)
theorem dX9_init_2 : decode cX9_init 2 = .ok (.invokespecial 1, 3) := dk_183 0 1 (dk_at dksX9_init_0 2 rfl rfl)
theorem dX9_init_5 : decode cX9_init 5 = .ok (.return_, 1) := dk_177 (dk_at dksX9_init_0 5 rfl rfl)
abbrev cX9_kind : ByteArray := prog_6_method_2_code
def yX9_kind : MethodName := ⟨RX9, "kind", "()I"⟩
theorem dX9_kind_0 : decode cX9_kind 0 = .ok (.iconst 1, 1) := by decide +kernel
theorem dX9_kind_1 : decode cX9_kind 1 = .ok (.ireturn, 1) := by decide +kernel
abbrev cX9_tellsWho : ByteArray := prog_6_method_3_code
def yX9_tellsWho : MethodName := ⟨RX9, "tellsWho", "()Z"⟩
theorem dX9_tellsWho_0 : decode cX9_tellsWho 0 = .ok (.iconst 0, 1) := by decide +kernel
theorem dX9_tellsWho_1 : decode cX9_tellsWho 1 = .ok (.ireturn, 1) := by decide +kernel
theorem q147 : (Jvm.Cond.initialized "GlassStreet$Frosted") ∈ lw_all := lw_g (lw_at lw_m1 27 rfl) rfl
theorem q871 : (Jvm.Cond.instantiable "GlassStreet$Frosted" (3 : Nat)) ∈ lw_all := lw_g (lw_at lw_m4 31 rfl) rfl
theorem q873 : (Jvm.Cond.instanceMethod ({ cls := "GlassStreet$Frosted", name := "<init>", desc := "(Ljava/lang/String;)V" } : Jvm.MethodName)) ∈ lw_all := lw_g (lw_at lw_m4 33 rfl) rfl
theorem q874 : (Jvm.Cond.code ({ cls := "GlassStreet$Frosted", name := "<init>", desc := "(Ljava/lang/String;)V" } : Jvm.MethodName) prog_6_method_1_code (2 : Nat) (Option.none : Option Jvm.ClassFile.FieldType)) ∈ lw_all := lw_g (lw_at lw_m4 34 rfl) rfl
theorem q875 : (Jvm.Cond.methodLink "GlassStreet$Frosted" (1 : Nat) ({ cls := "GlassStreet$Pane", name := "<init>", desc := "(Ljava/lang/String;)V" } : Jvm.MethodName)) ∈ lw_all := lw_g (lw_at lw_m4 35 rfl) rfl
theorem q876 : (Jvm.Cond.laysFinal "GlassStreet$Frosted" "GlassStreet$Pane" "name" "Ljava/lang/String;") ∈ lw_all := lw_g (lw_at lw_m4 36 rfl) rfl
theorem q877 : (Jvm.Cond.lays "GlassStreet$Frosted" "GlassStreet$Pane" "keeps" "I") ∈ lw_all := lw_g (lw_at lw_m4 37 rfl) rfl
theorem q878 : (Jvm.Cond.lays "GlassStreet$Frosted" "GlassStreet$Pane" "cells" "I") ∈ lw_all := lw_g (lw_at lw_m4 38 rfl) rfl
theorem q879 : (Jvm.Cond.superclass "GlassStreet$Frosted" "GlassStreet$Pane") ∈ lw_all := lw_g (lw_at lw_m4 39 rfl) rfl
theorem q957 : (Jvm.Cond.selects "GlassStreet$Frosted" ({ cls := "java/lang/Object", name := "getClass", desc := "()Ljava/lang/Class;" } : Jvm.MethodName) ({ cls := "java/lang/Object", name := "getClass", desc := "()Ljava/lang/Class;" } : Jvm.MethodName)) ∈ lw_all := lw_g (lw_at lw_m4 117 rfl) rfl
theorem q1173 : (Jvm.Cond.selects "GlassStreet$Frosted" ({ cls := "GlassStreet$Pane", name := "kind", desc := "()I" } : Jvm.MethodName) ({ cls := "GlassStreet$Frosted", name := "kind", desc := "()I" } : Jvm.MethodName)) ∈ lw_all := lw_g (lw_at lw_m5 93 rfl) rfl
theorem q1174 : (Jvm.Cond.instanceMethod ({ cls := "GlassStreet$Frosted", name := "kind", desc := "()I" } : Jvm.MethodName)) ∈ lw_all := lw_g (lw_at lw_m5 94 rfl) rfl
theorem q1175 : (Jvm.Cond.code ({ cls := "GlassStreet$Frosted", name := "kind", desc := "()I" } : Jvm.MethodName) prog_6_method_2_code (1 : Nat) (Option.some Jvm.ClassFile.FieldType.int)) ∈ lw_all := lw_g (lw_at lw_m5 95 rfl) rfl
theorem q1201 : (Jvm.Cond.selects "GlassStreet$Frosted" ({ cls := "GlassStreet$Pane", name := "sees", desc := "(I)I" } : Jvm.MethodName) ({ cls := "GlassStreet$Pane", name := "sees", desc := "(I)I" } : Jvm.MethodName)) ∈ lw_all := lw_g (lw_at lw_m5 121 rfl) rfl
theorem q1228 : (Jvm.Cond.selects "GlassStreet$Frosted" ({ cls := "GlassStreet$Pane", name := "tellsWho", desc := "()Z" } : Jvm.MethodName) ({ cls := "GlassStreet$Frosted", name := "tellsWho", desc := "()Z" } : Jvm.MethodName)) ∈ lw_all := lw_g (lw_at lw_m5 148 rfl) rfl
theorem q1229 : (Jvm.Cond.instanceMethod ({ cls := "GlassStreet$Frosted", name := "tellsWho", desc := "()Z" } : Jvm.MethodName)) ∈ lw_all := lw_g (lw_at lw_m5 149 rfl) rfl
theorem q1230 : (Jvm.Cond.code ({ cls := "GlassStreet$Frosted", name := "tellsWho", desc := "()Z" } : Jvm.MethodName) prog_6_method_3_code (1 : Nat) (Option.some Jvm.ClassFile.FieldType.boolean)) ∈ lw_all := lw_g (lw_at lw_m5 150 rfl) rfl
theorem q2189 : (Jvm.Cond.castable "GlassStreet$Frosted" "GlassStreet$Pane") ∈ lw_tbl := lw_at lw_m9 149 rfl
theorem q2209 : (Jvm.Cond.castable "GlassStreet$Frosted" "java/lang/Object") ∈ lw_tbl := lw_at lw_m9 169 rfl
theorem in_X9 : ∀ w ∈ wsX90, w ∈ lw_all := lw_in wsX90 [876, 877, 878] (by decide +kernel) (by decide +kernel)
/-! GlassStreet$Thick -/
set_option maxRecDepth 100000
def RX10 : String := "GlassStreet$Thick"
def TX10 : u_T := fun k => match k with
  | 0 => ("GlassStreet$Pane", "name", "Ljava/lang/String;", true)
  | 1 => ("GlassStreet$Pane", "keeps", "I", false)
  | _ => ("GlassStreet$Pane", "cells", "I", false)
def tyX10 : Nat → FieldType := fun k => match k with
  | 0 => .object "java/lang/String"
  | 1 => .int
  | _ => .int
abbrev wsX100 : List Cond := u_ws RX10 TX10 3
theorem nmX10 : ∀ a, a < 3 → ∀ b, b < 3 → a ≠ b → (TX10 a).2.1 ≠ (TX10 b).2.1 := by decide +kernel
theorem tyX10_ok : ∀ k, k < 3 → parseFieldDescriptor (TX10 k).2.2.1 = some (tyX10 k) := by decide +kernel
abbrev cX10_init : ByteArray := prog_18_method_1_code
def yX10_init : MethodName := ⟨RX10, "<init>", "(Ljava/lang/String;)V"⟩
def dkwX10_init_0 : List UInt8 := [42, 43, 183, 0, 1, 177]
abbrev dktX10_init_0 : List UInt8 := dkwX10_init_0 ++ []
theorem dksX10_init_0 : cX10_init.data.toList.drop 0 = dktX10_init_0 := by decide +kernel
theorem dX10_init_0 : decode cX10_init 0 = .ok (.aload_n 0, 1) := dk_42 (dk_at dksX10_init_0 0 rfl rfl)
theorem dX10_init_1 : decode cX10_init 1 = .ok (.aload_n 1, 1) := dk_43 (dk_at dksX10_init_0 1 rfl rfl)
theorem dX10_init_2 : decode cX10_init 2 = .ok (.invokespecial 1, 3) := dk_183 0 1 (dk_at dksX10_init_0 2 rfl rfl)
theorem dX10_init_5 : decode cX10_init 5 = .ok (.return_, 1) := dk_177 (dk_at dksX10_init_0 5 rfl rfl)
abbrev cX10_kind : ByteArray := prog_18_method_2_code
def yX10_kind : MethodName := ⟨RX10, "kind", "()I"⟩
theorem dX10_kind_0 : decode cX10_kind 0 = .ok (.iconst 2, 1) := by decide +kernel
theorem dX10_kind_1 : decode cX10_kind 1 = .ok (.ireturn, 1) := by decide +kernel
abbrev cX10_sees : ByteArray := prog_18_method_3_code
def yX10_sees : MethodName := ⟨RX10, "sees", "(I)I"⟩
def dkwX10_sees_0 : List UInt8 := [27, 154, 0, 7, 3, 167, 0, 7, 42, 180, 0, 7, 172]
abbrev dktX10_sees_0 : List UInt8 := dkwX10_sees_0 ++ []
theorem dksX10_sees_0 : cX10_sees.data.toList.drop 0 = dktX10_sees_0 := by decide +kernel
theorem dX10_sees_0 : decode cX10_sees 0 = .ok (.iload_n 1, 1) := dk_27 (dk_at dksX10_sees_0 0 rfl rfl)
theorem dX10_sees_1 : decode cX10_sees 1 = .ok (.ifCond .ne 7, 3) := dk_154 0 7 (dk_at dksX10_sees_0 1 rfl rfl)
theorem dX10_sees_4 : decode cX10_sees 4 = .ok (.iconst 0, 1) := dk_3 (dk_at dksX10_sees_0 4 rfl rfl)
theorem dX10_sees_5 : decode cX10_sees 5 = .ok (.goto 7, 3) := dk_167 0 7 (dk_at dksX10_sees_0 5 rfl rfl)
theorem dX10_sees_8 : decode cX10_sees 8 = .ok (.aload_n 0, 1) := dk_42 (dk_at dksX10_sees_0 8 rfl rfl)
theorem dX10_sees_9 : decode cX10_sees 9 = .ok (.getfield 7, 3) := dk_180 0 7 (dk_at dksX10_sees_0 9 rfl rfl)
theorem dX10_sees_12 : decode cX10_sees 12 = .ok (.ireturn, 1) := dk_172 (dk_at dksX10_sees_0 12 rfl rfl)
theorem q148 : (Jvm.Cond.initialized "GlassStreet$Thick") ∈ lw_all := lw_g (lw_at lw_m1 28 rfl) rfl
theorem q860 : (Jvm.Cond.fieldLink "GlassStreet$Thick" (7 : Nat) "GlassStreet$Thick" "cells" "I") ∈ lw_all := lw_g (lw_at lw_m4 20 rfl) rfl
theorem q861 : (Jvm.Cond.sameField "GlassStreet$Thick" "GlassStreet$Pane" "cells" "I") ∈ lw_all := lw_g (lw_at lw_m4 21 rfl) rfl
theorem q881 : (Jvm.Cond.instantiable "GlassStreet$Thick" (3 : Nat)) ∈ lw_all := lw_g (lw_at lw_m4 41 rfl) rfl
theorem q883 : (Jvm.Cond.instanceMethod ({ cls := "GlassStreet$Thick", name := "<init>", desc := "(Ljava/lang/String;)V" } : Jvm.MethodName)) ∈ lw_all := lw_g (lw_at lw_m4 43 rfl) rfl
theorem q884 : (Jvm.Cond.code ({ cls := "GlassStreet$Thick", name := "<init>", desc := "(Ljava/lang/String;)V" } : Jvm.MethodName) prog_18_method_1_code (2 : Nat) (Option.none : Option Jvm.ClassFile.FieldType)) ∈ lw_all := lw_g (lw_at lw_m4 44 rfl) rfl
theorem q885 : (Jvm.Cond.methodLink "GlassStreet$Thick" (1 : Nat) ({ cls := "GlassStreet$Pane", name := "<init>", desc := "(Ljava/lang/String;)V" } : Jvm.MethodName)) ∈ lw_all := lw_g (lw_at lw_m4 45 rfl) rfl
theorem q886 : (Jvm.Cond.laysFinal "GlassStreet$Thick" "GlassStreet$Pane" "name" "Ljava/lang/String;") ∈ lw_all := lw_g (lw_at lw_m4 46 rfl) rfl
theorem q887 : (Jvm.Cond.lays "GlassStreet$Thick" "GlassStreet$Pane" "keeps" "I") ∈ lw_all := lw_g (lw_at lw_m4 47 rfl) rfl
theorem q888 : (Jvm.Cond.lays "GlassStreet$Thick" "GlassStreet$Pane" "cells" "I") ∈ lw_all := lw_g (lw_at lw_m4 48 rfl) rfl
theorem q889 : (Jvm.Cond.superclass "GlassStreet$Thick" "GlassStreet$Pane") ∈ lw_all := lw_g (lw_at lw_m4 49 rfl) rfl
theorem q968 : (Jvm.Cond.selects "GlassStreet$Thick" ({ cls := "java/lang/Object", name := "getClass", desc := "()Ljava/lang/Class;" } : Jvm.MethodName) ({ cls := "java/lang/Object", name := "getClass", desc := "()Ljava/lang/Class;" } : Jvm.MethodName)) ∈ lw_all := lw_g (lw_at lw_m4 128 rfl) rfl
theorem q1179 : (Jvm.Cond.selects "GlassStreet$Thick" ({ cls := "GlassStreet$Pane", name := "kind", desc := "()I" } : Jvm.MethodName) ({ cls := "GlassStreet$Thick", name := "kind", desc := "()I" } : Jvm.MethodName)) ∈ lw_all := lw_g (lw_at lw_m5 99 rfl) rfl
theorem q1180 : (Jvm.Cond.instanceMethod ({ cls := "GlassStreet$Thick", name := "kind", desc := "()I" } : Jvm.MethodName)) ∈ lw_all := lw_g (lw_at lw_m5 100 rfl) rfl
theorem q1181 : (Jvm.Cond.code ({ cls := "GlassStreet$Thick", name := "kind", desc := "()I" } : Jvm.MethodName) prog_18_method_2_code (1 : Nat) (Option.some Jvm.ClassFile.FieldType.int)) ∈ lw_all := lw_g (lw_at lw_m5 101 rfl) rfl
theorem q1208 : (Jvm.Cond.selects "GlassStreet$Thick" ({ cls := "GlassStreet$Pane", name := "sees", desc := "(I)I" } : Jvm.MethodName) ({ cls := "GlassStreet$Thick", name := "sees", desc := "(I)I" } : Jvm.MethodName)) ∈ lw_all := lw_g (lw_at lw_m5 128 rfl) rfl
theorem q1209 : (Jvm.Cond.instanceMethod ({ cls := "GlassStreet$Thick", name := "sees", desc := "(I)I" } : Jvm.MethodName)) ∈ lw_all := lw_g (lw_at lw_m5 129 rfl) rfl
theorem q1210 : (Jvm.Cond.code ({ cls := "GlassStreet$Thick", name := "sees", desc := "(I)I" } : Jvm.MethodName) prog_18_method_3_code (2 : Nat) (Option.some Jvm.ClassFile.FieldType.int)) ∈ lw_all := lw_g (lw_at lw_m5 130 rfl) rfl
theorem q1232 : (Jvm.Cond.selects "GlassStreet$Thick" ({ cls := "GlassStreet$Pane", name := "tellsWho", desc := "()Z" } : Jvm.MethodName) ({ cls := "GlassStreet$Pane", name := "tellsWho", desc := "()Z" } : Jvm.MethodName)) ∈ lw_all := lw_g (lw_at lw_m5 152 rfl) rfl
theorem q2191 : (Jvm.Cond.castable "GlassStreet$Thick" "GlassStreet$Pane") ∈ lw_tbl := lw_at lw_m9 151 rfl
theorem q2210 : (Jvm.Cond.castable "GlassStreet$Thick" "java/lang/Object") ∈ lw_tbl := lw_at lw_m9 170 rfl
theorem in_X10 : ∀ w ∈ wsX100, w ∈ lw_all := lw_in wsX100 [886, 887, 888] (by decide +kernel) (by decide +kernel)
/-! GlassStreet$Mirror -/
set_option maxRecDepth 100000
def RX11 : String := "GlassStreet$Mirror"
def TX11 : u_T := fun k => match k with
  | 0 => ("GlassStreet$Pane", "name", "Ljava/lang/String;", true)
  | 1 => ("GlassStreet$Pane", "keeps", "I", false)
  | _ => ("GlassStreet$Pane", "cells", "I", false)
def tyX11 : Nat → FieldType := fun k => match k with
  | 0 => .object "java/lang/String"
  | 1 => .int
  | _ => .int
abbrev wsX110 : List Cond := u_ws RX11 TX11 3
theorem nmX11 : ∀ a, a < 3 → ∀ b, b < 3 → a ≠ b → (TX11 a).2.1 ≠ (TX11 b).2.1 := by decide +kernel
theorem tyX11_ok : ∀ k, k < 3 → parseFieldDescriptor (TX11 k).2.2.1 = some (tyX11 k) := by decide +kernel
abbrev cX11_init : ByteArray := prog_11_method_1_code
def yX11_init : MethodName := ⟨RX11, "<init>", "(Ljava/lang/String;)V"⟩
def dkwX11_init_0 : List UInt8 := [42, 43, 183, 0, 1, 177]
abbrev dktX11_init_0 : List UInt8 := dkwX11_init_0 ++ []
theorem dksX11_init_0 : cX11_init.data.toList.drop 0 = dktX11_init_0 := by decide +kernel
theorem dX11_init_0 : decode cX11_init 0 = .ok (.aload_n 0, 1) := dk_42 (dk_at dksX11_init_0 0 rfl rfl)
theorem dX11_init_1 : decode cX11_init 1 = .ok (.aload_n 1, 1) := dk_43 (dk_at dksX11_init_0 1 rfl rfl)
theorem dX11_init_2 : decode cX11_init 2 = .ok (.invokespecial 1, 3) := dk_183 0 1 (dk_at dksX11_init_0 2 rfl rfl)
theorem dX11_init_5 : decode cX11_init 5 = .ok (.return_, 1) := dk_177 (dk_at dksX11_init_0 5 rfl rfl)
abbrev cX11_kind : ByteArray := prog_11_method_2_code
def yX11_kind : MethodName := ⟨RX11, "kind", "()I"⟩
theorem dX11_kind_0 : decode cX11_kind 0 = .ok (.iconst 3, 1) := by decide +kernel
theorem dX11_kind_1 : decode cX11_kind 1 = .ok (.ireturn, 1) := by decide +kernel
abbrev cX11_sees : ByteArray := prog_11_method_3_code
def yX11_sees : MethodName := ⟨RX11, "sees", "(I)I"⟩
def dkwX11_sees_0 : List UInt8 := [42, 180, 0, 7, 42, 180, 0, 7, 184, 0, 13, 128, 172]
abbrev dktX11_sees_0 : List UInt8 := dkwX11_sees_0 ++ []
theorem dksX11_sees_0 : cX11_sees.data.toList.drop 0 = dktX11_sees_0 := by decide +kernel
theorem dX11_sees_0 : decode cX11_sees 0 = .ok (.aload_n 0, 1) := dk_42 (dk_at dksX11_sees_0 0 rfl rfl)
theorem dX11_sees_1 : decode cX11_sees 1 = .ok (.getfield 7, 3) := dk_180 0 7 (dk_at dksX11_sees_0 1 rfl rfl)
theorem dX11_sees_4 : decode cX11_sees 4 = .ok (.aload_n 0, 1) := dk_42 (dk_at dksX11_sees_0 4 rfl rfl)
theorem dX11_sees_5 : decode cX11_sees 5 = .ok (.getfield 7, 3) := dk_180 0 7 (dk_at dksX11_sees_0 5 rfl rfl)
theorem dX11_sees_8 : decode cX11_sees 8 = .ok (.invokestatic 13, 3) := dk_184 0 13 (dk_at dksX11_sees_0 8 rfl rfl)
theorem dX11_sees_11 : decode cX11_sees 11 = .ok (.ior, 1) := dk_128 (dk_at dksX11_sees_0 11 rfl rfl)
theorem dX11_sees_12 : decode cX11_sees 12 = .ok (.ireturn, 1) := dk_172 (dk_at dksX11_sees_0 12 rfl rfl)
theorem q149 : (Jvm.Cond.initialized "GlassStreet$Mirror") ∈ lw_all := lw_g (lw_at lw_m1 29 rfl) rfl
theorem q858 : (Jvm.Cond.fieldLink "GlassStreet$Mirror" (7 : Nat) "GlassStreet$Mirror" "cells" "I") ∈ lw_all := lw_g (lw_at lw_m4 18 rfl) rfl
theorem q859 : (Jvm.Cond.sameField "GlassStreet$Mirror" "GlassStreet$Pane" "cells" "I") ∈ lw_all := lw_g (lw_at lw_m4 19 rfl) rfl
theorem q891 : (Jvm.Cond.instantiable "GlassStreet$Mirror" (3 : Nat)) ∈ lw_all := lw_g (lw_at lw_m4 51 rfl) rfl
theorem q893 : (Jvm.Cond.instanceMethod ({ cls := "GlassStreet$Mirror", name := "<init>", desc := "(Ljava/lang/String;)V" } : Jvm.MethodName)) ∈ lw_all := lw_g (lw_at lw_m4 53 rfl) rfl
theorem q894 : (Jvm.Cond.code ({ cls := "GlassStreet$Mirror", name := "<init>", desc := "(Ljava/lang/String;)V" } : Jvm.MethodName) prog_11_method_1_code (2 : Nat) (Option.none : Option Jvm.ClassFile.FieldType)) ∈ lw_all := lw_g (lw_at lw_m4 54 rfl) rfl
theorem q895 : (Jvm.Cond.methodLink "GlassStreet$Mirror" (1 : Nat) ({ cls := "GlassStreet$Pane", name := "<init>", desc := "(Ljava/lang/String;)V" } : Jvm.MethodName)) ∈ lw_all := lw_g (lw_at lw_m4 55 rfl) rfl
theorem q896 : (Jvm.Cond.laysFinal "GlassStreet$Mirror" "GlassStreet$Pane" "name" "Ljava/lang/String;") ∈ lw_all := lw_g (lw_at lw_m4 56 rfl) rfl
theorem q897 : (Jvm.Cond.lays "GlassStreet$Mirror" "GlassStreet$Pane" "keeps" "I") ∈ lw_all := lw_g (lw_at lw_m4 57 rfl) rfl
theorem q898 : (Jvm.Cond.lays "GlassStreet$Mirror" "GlassStreet$Pane" "cells" "I") ∈ lw_all := lw_g (lw_at lw_m4 58 rfl) rfl
theorem q899 : (Jvm.Cond.superclass "GlassStreet$Mirror" "GlassStreet$Pane") ∈ lw_all := lw_g (lw_at lw_m4 59 rfl) rfl
theorem q961 : (Jvm.Cond.selects "GlassStreet$Mirror" ({ cls := "java/lang/Object", name := "getClass", desc := "()Ljava/lang/Class;" } : Jvm.MethodName) ({ cls := "java/lang/Object", name := "getClass", desc := "()Ljava/lang/Class;" } : Jvm.MethodName)) ∈ lw_all := lw_g (lw_at lw_m4 121 rfl) rfl
theorem q1176 : (Jvm.Cond.selects "GlassStreet$Mirror" ({ cls := "GlassStreet$Pane", name := "kind", desc := "()I" } : Jvm.MethodName) ({ cls := "GlassStreet$Mirror", name := "kind", desc := "()I" } : Jvm.MethodName)) ∈ lw_all := lw_g (lw_at lw_m5 96 rfl) rfl
theorem q1177 : (Jvm.Cond.instanceMethod ({ cls := "GlassStreet$Mirror", name := "kind", desc := "()I" } : Jvm.MethodName)) ∈ lw_all := lw_g (lw_at lw_m5 97 rfl) rfl
theorem q1178 : (Jvm.Cond.code ({ cls := "GlassStreet$Mirror", name := "kind", desc := "()I" } : Jvm.MethodName) prog_11_method_2_code (1 : Nat) (Option.some Jvm.ClassFile.FieldType.int)) ∈ lw_all := lw_g (lw_at lw_m5 98 rfl) rfl
theorem q1202 : (Jvm.Cond.selects "GlassStreet$Mirror" ({ cls := "GlassStreet$Pane", name := "sees", desc := "(I)I" } : Jvm.MethodName) ({ cls := "GlassStreet$Mirror", name := "sees", desc := "(I)I" } : Jvm.MethodName)) ∈ lw_all := lw_g (lw_at lw_m5 122 rfl) rfl
theorem q1203 : (Jvm.Cond.instanceMethod ({ cls := "GlassStreet$Mirror", name := "sees", desc := "(I)I" } : Jvm.MethodName)) ∈ lw_all := lw_g (lw_at lw_m5 123 rfl) rfl
theorem q1204 : (Jvm.Cond.code ({ cls := "GlassStreet$Mirror", name := "sees", desc := "(I)I" } : Jvm.MethodName) prog_11_method_3_code (2 : Nat) (Option.some Jvm.ClassFile.FieldType.int)) ∈ lw_all := lw_g (lw_at lw_m5 124 rfl) rfl
theorem q1205 : (Jvm.Cond.methodLinkNest "GlassStreet$Mirror" (13 : Nat) ({ cls := "GlassStreet", name := "turned", desc := "(I)I" } : Jvm.MethodName) "GlassStreet") ∈ lw_tbl := lw_at lw_m5 125 rfl
theorem q1231 : (Jvm.Cond.selects "GlassStreet$Mirror" ({ cls := "GlassStreet$Pane", name := "tellsWho", desc := "()Z" } : Jvm.MethodName) ({ cls := "GlassStreet$Pane", name := "tellsWho", desc := "()Z" } : Jvm.MethodName)) ∈ lw_all := lw_g (lw_at lw_m5 151 rfl) rfl
theorem q2190 : (Jvm.Cond.castable "GlassStreet$Mirror" "GlassStreet$Pane") ∈ lw_tbl := lw_at lw_m9 150 rfl
theorem q2211 : (Jvm.Cond.castable "GlassStreet$Mirror" "java/lang/Object") ∈ lw_tbl := lw_at lw_m9 171 rfl
theorem in_X11 : ∀ w ∈ wsX110, w ∈ lw_all := lw_in wsX110 [896, 897, 898] (by decide +kernel) (by decide +kernel)
/-! GlassStreet$Expression -/
set_option maxRecDepth 100000
def RX12 : String := "GlassStreet$Expression"
abbrev cX12_init : ByteArray := prog_4_method_1_code
def yX12_init : MethodName := ⟨RX12, "<init>", "()V"⟩
theorem dX12_init_0 : decode cX12_init 0 = .ok (.aload_n 0, 1) := by decide +kernel
theorem dX12_init_1 : decode cX12_init 1 = .ok (.invokespecial 1, 3) := by decide +kernel
theorem dX12_init_4 : decode cX12_init 4 = .ok (.return_, 1) := by decide +kernel
theorem q150 : (Jvm.Cond.initialized "GlassStreet$Expression") ∈ lw_all := lw_g (lw_at lw_m1 30 rfl) rfl
theorem q1015 : (Jvm.Cond.instanceMethod ({ cls := "GlassStreet$Expression", name := "<init>", desc := "()V" } : Jvm.MethodName)) ∈ lw_all := lw_g (lw_at lw_m4 175 rfl) rfl
theorem q1016 : (Jvm.Cond.code ({ cls := "GlassStreet$Expression", name := "<init>", desc := "()V" } : Jvm.MethodName) prog_4_method_1_code (1 : Nat) (Option.none : Option Jvm.ClassFile.FieldType)) ∈ lw_all := lw_g (lw_at lw_m4 176 rfl) rfl
theorem q1017 : (Jvm.Cond.methodLink "GlassStreet$Expression" (1 : Nat) ({ cls := "java/lang/Object", name := "<init>", desc := "()V" } : Jvm.MethodName)) ∈ lw_all := lw_g (lw_at lw_m4 177 rfl) rfl
theorem q1327 : (Jvm.Cond.declares ({ cls := "GlassStreet$Expression", name := "worked", desc := "([I)I" } : Jvm.MethodName)) ∈ lw_tbl := lw_at lw_m6 7 rfl
theorem q1328 : (Jvm.Cond.sameMethod "GlassStreet$Expression" "GlassStreet$Expression" "worked" "([I)I") ∈ lw_all := lw_g (lw_at lw_m6 8 rfl) rfl
/-! GlassStreet$Given -/
set_option maxRecDepth 100000
def RX13 : String := "GlassStreet$Given"
def TX13 : u_T := fun k => match k with
  | _ => ("GlassStreet$Given", "n", "I", true)
def tyX13 : Nat → FieldType := fun k => match k with
  | _ => .int
abbrev wsX130 : List Cond := u_ws RX13 TX13 1
theorem nmX13 : ∀ a, a < 1 → ∀ b, b < 1 → a ≠ b → (TX13 a).2.1 ≠ (TX13 b).2.1 := by decide +kernel
theorem tyX13_ok : ∀ k, k < 1 → parseFieldDescriptor (TX13 k).2.2.1 = some (tyX13 k) := by decide +kernel
abbrev cX13_init : ByteArray := prog_7_method_1_code
def yX13_init : MethodName := ⟨RX13, "<init>", "(I)V"⟩
def dkwX13_init_0 : List UInt8 := [42, 183, 0, 1, 42, 27, 181, 0, 7, 177]
abbrev dktX13_init_0 : List UInt8 := dkwX13_init_0 ++ []
theorem dksX13_init_0 : cX13_init.data.toList.drop 0 = dktX13_init_0 := by decide +kernel
theorem dX13_init_0 : decode cX13_init 0 = .ok (.aload_n 0, 1) := dk_42 (dk_at dksX13_init_0 0 rfl rfl)
theorem dX13_init_1 : decode cX13_init 1 = .ok (.invokespecial 1, 3) := dk_183 0 1 (dk_at dksX13_init_0 1 rfl rfl)
theorem dX13_init_4 : decode cX13_init 4 = .ok (.aload_n 0, 1) := dk_42 (dk_at dksX13_init_0 4 rfl rfl)
theorem dX13_init_5 : decode cX13_init 5 = .ok (.iload_n 1, 1) := dk_27 (dk_at dksX13_init_0 5 rfl rfl)
theorem dX13_init_6 : decode cX13_init 6 = .ok (.putfield 7, 3) := dk_181 0 7 (dk_at dksX13_init_0 6 rfl rfl)
theorem dX13_init_9 : decode cX13_init 9 = .ok (.return_, 1) := dk_177 (dk_at dksX13_init_0 9 rfl rfl)
abbrev cX13_worked : ByteArray := prog_7_method_2_code
def yX13_worked : MethodName := ⟨RX13, "worked", "([I)I"⟩
theorem dX13_worked_0 : decode cX13_worked 0 = .ok (.aload_n 0, 1) := by decide +kernel
theorem dX13_worked_1 : decode cX13_worked 1 = .ok (.getfield 7, 3) := by decide +kernel
theorem dX13_worked_4 : decode cX13_worked 4 = .ok (.ireturn, 1) := by decide +kernel
theorem q151 : (Jvm.Cond.initialized "GlassStreet$Given") ∈ lw_all := lw_g (lw_at lw_m1 31 rfl) rfl
theorem q958 : (Jvm.Cond.selects "GlassStreet$Given" ({ cls := "java/lang/Object", name := "getClass", desc := "()Ljava/lang/Class;" } : Jvm.MethodName) ({ cls := "java/lang/Object", name := "getClass", desc := "()Ljava/lang/Class;" } : Jvm.MethodName)) ∈ lw_all := lw_g (lw_at lw_m4 118 rfl) rfl
theorem q1010 : (Jvm.Cond.instantiable "GlassStreet$Given" (1 : Nat)) ∈ lw_all := lw_g (lw_at lw_m4 170 rfl) rfl
theorem q1012 : (Jvm.Cond.instanceMethod ({ cls := "GlassStreet$Given", name := "<init>", desc := "(I)V" } : Jvm.MethodName)) ∈ lw_all := lw_g (lw_at lw_m4 172 rfl) rfl
theorem q1013 : (Jvm.Cond.code ({ cls := "GlassStreet$Given", name := "<init>", desc := "(I)V" } : Jvm.MethodName) prog_7_method_1_code (2 : Nat) (Option.none : Option Jvm.ClassFile.FieldType)) ∈ lw_all := lw_g (lw_at lw_m4 173 rfl) rfl
theorem q1014 : (Jvm.Cond.methodLinkNest "GlassStreet$Given" (1 : Nat) ({ cls := "GlassStreet$Expression", name := "<init>", desc := "()V" } : Jvm.MethodName) "GlassStreet") ∈ lw_tbl := lw_at lw_m4 174 rfl
theorem q1018 : (Jvm.Cond.fieldLink "GlassStreet$Given" (7 : Nat) "GlassStreet$Given" "n" "I") ∈ lw_all := lw_g (lw_at lw_m4 178 rfl) rfl
theorem q1019 : (Jvm.Cond.laysFinal "GlassStreet$Given" "GlassStreet$Given" "n" "I") ∈ lw_all := lw_g (lw_at lw_m4 179 rfl) rfl
theorem q1020 : (Jvm.Cond.soleField "GlassStreet$Given" "n") ∈ lw_all := lw_g (lw_at lw_m4 180 rfl) rfl
theorem q1021 : (Jvm.Cond.superclass "GlassStreet$Given" "GlassStreet$Expression") ∈ lw_all := lw_g (lw_at lw_m4 181 rfl) rfl
theorem q1332 : (Jvm.Cond.selects "GlassStreet$Given" ({ cls := "GlassStreet$Expression", name := "worked", desc := "([I)I" } : Jvm.MethodName) ({ cls := "GlassStreet$Given", name := "worked", desc := "([I)I" } : Jvm.MethodName)) ∈ lw_all := lw_g (lw_at lw_m6 12 rfl) rfl
theorem q1333 : (Jvm.Cond.instanceMethod ({ cls := "GlassStreet$Given", name := "worked", desc := "([I)I" } : Jvm.MethodName)) ∈ lw_all := lw_g (lw_at lw_m6 13 rfl) rfl
theorem q1334 : (Jvm.Cond.code ({ cls := "GlassStreet$Given", name := "worked", desc := "([I)I" } : Jvm.MethodName) prog_7_method_2_code (2 : Nat) (Option.some Jvm.ClassFile.FieldType.int)) ∈ lw_all := lw_g (lw_at lw_m6 14 rfl) rfl
theorem q2212 : (Jvm.Cond.castable "GlassStreet$Given" "java/lang/Object") ∈ lw_tbl := lw_at lw_m9 172 rfl
theorem in_X13 : ∀ w ∈ wsX130, w ∈ lw_all := lw_in wsX130 [1019] (by decide +kernel) (by decide +kernel)
/-! GlassStreet$Fact -/
set_option maxRecDepth 100000
def RX14 : String := "GlassStreet$Fact"
def TX14 : u_T := fun k => match k with
  | _ => ("GlassStreet$Fact", "which", "I", true)
def tyX14 : Nat → FieldType := fun k => match k with
  | _ => .int
abbrev wsX140 : List Cond := u_ws RX14 TX14 1
theorem nmX14 : ∀ a, a < 1 → ∀ b, b < 1 → a ≠ b → (TX14 a).2.1 ≠ (TX14 b).2.1 := by decide +kernel
theorem tyX14_ok : ∀ k, k < 1 → parseFieldDescriptor (TX14 k).2.2.1 = some (tyX14 k) := by decide +kernel
abbrev cX14_init : ByteArray := prog_5_method_1_code
def yX14_init : MethodName := ⟨RX14, "<init>", "(I)V"⟩
def dkwX14_init_0 : List UInt8 := [42, 183, 0, 1, 42, 27, 181, 0, 7, 177]
abbrev dktX14_init_0 : List UInt8 := dkwX14_init_0 ++ []
theorem dksX14_init_0 : cX14_init.data.toList.drop 0 = dktX14_init_0 := by decide +kernel
theorem dX14_init_0 : decode cX14_init 0 = .ok (.aload_n 0, 1) := dk_42 (dk_at dksX14_init_0 0 rfl rfl)
theorem dX14_init_1 : decode cX14_init 1 = .ok (.invokespecial 1, 3) := dk_183 0 1 (dk_at dksX14_init_0 1 rfl rfl)
theorem dX14_init_4 : decode cX14_init 4 = .ok (.aload_n 0, 1) := dk_42 (dk_at dksX14_init_0 4 rfl rfl)
theorem dX14_init_5 : decode cX14_init 5 = .ok (.iload_n 1, 1) := dk_27 (dk_at dksX14_init_0 5 rfl rfl)
theorem dX14_init_6 : decode cX14_init 6 = .ok (.putfield 7, 3) := dk_181 0 7 (dk_at dksX14_init_0 6 rfl rfl)
theorem dX14_init_9 : decode cX14_init 9 = .ok (.return_, 1) := dk_177 (dk_at dksX14_init_0 9 rfl rfl)
abbrev cX14_worked : ByteArray := prog_5_method_2_code
def yX14_worked : MethodName := ⟨RX14, "worked", "([I)I"⟩
def dkwX14_worked_0 : List UInt8 := [43, 42, 180, 0, 7, 46, 172]
abbrev dktX14_worked_0 : List UInt8 := dkwX14_worked_0 ++ []
theorem dksX14_worked_0 : cX14_worked.data.toList.drop 0 = dktX14_worked_0 := by decide +kernel
theorem dX14_worked_0 : decode cX14_worked 0 = .ok (.aload_n 1, 1) := dk_43 (dk_at dksX14_worked_0 0 rfl rfl)
theorem dX14_worked_1 : decode cX14_worked 1 = .ok (.aload_n 0, 1) := dk_42 (dk_at dksX14_worked_0 1 rfl rfl)
theorem dX14_worked_2 : decode cX14_worked 2 = .ok (.getfield 7, 3) := dk_180 0 7 (dk_at dksX14_worked_0 2 rfl rfl)
theorem dX14_worked_5 : decode cX14_worked 5 = .ok (.iaload, 1) := dk_46 (dk_at dksX14_worked_0 5 rfl rfl)
theorem dX14_worked_6 : decode cX14_worked 6 = .ok (.ireturn, 1) := dk_172 (dk_at dksX14_worked_0 6 rfl rfl)
theorem q152 : (Jvm.Cond.initialized "GlassStreet$Fact") ∈ lw_all := lw_g (lw_at lw_m1 32 rfl) rfl
theorem q956 : (Jvm.Cond.selects "GlassStreet$Fact" ({ cls := "java/lang/Object", name := "getClass", desc := "()Ljava/lang/Class;" } : Jvm.MethodName) ({ cls := "java/lang/Object", name := "getClass", desc := "()Ljava/lang/Class;" } : Jvm.MethodName)) ∈ lw_all := lw_g (lw_at lw_m4 116 rfl) rfl
theorem q1023 : (Jvm.Cond.instantiable "GlassStreet$Fact" (1 : Nat)) ∈ lw_all := lw_g (lw_at lw_m4 183 rfl) rfl
theorem q1025 : (Jvm.Cond.instanceMethod ({ cls := "GlassStreet$Fact", name := "<init>", desc := "(I)V" } : Jvm.MethodName)) ∈ lw_all := lw_g (lw_at lw_m4 185 rfl) rfl
theorem q1026 : (Jvm.Cond.code ({ cls := "GlassStreet$Fact", name := "<init>", desc := "(I)V" } : Jvm.MethodName) prog_5_method_1_code (2 : Nat) (Option.none : Option Jvm.ClassFile.FieldType)) ∈ lw_all := lw_g (lw_at lw_m4 186 rfl) rfl
theorem q1027 : (Jvm.Cond.methodLinkNest "GlassStreet$Fact" (1 : Nat) ({ cls := "GlassStreet$Expression", name := "<init>", desc := "()V" } : Jvm.MethodName) "GlassStreet") ∈ lw_tbl := lw_at lw_m4 187 rfl
theorem q1028 : (Jvm.Cond.fieldLink "GlassStreet$Fact" (7 : Nat) "GlassStreet$Fact" "which" "I") ∈ lw_all := lw_g (lw_at lw_m4 188 rfl) rfl
theorem q1029 : (Jvm.Cond.laysFinal "GlassStreet$Fact" "GlassStreet$Fact" "which" "I") ∈ lw_all := lw_g (lw_at lw_m4 189 rfl) rfl
theorem q1030 : (Jvm.Cond.soleField "GlassStreet$Fact" "which") ∈ lw_all := lw_g (lw_at lw_m4 190 rfl) rfl
theorem q1031 : (Jvm.Cond.superclass "GlassStreet$Fact" "GlassStreet$Expression") ∈ lw_all := lw_g (lw_at lw_m4 191 rfl) rfl
theorem q1329 : (Jvm.Cond.selects "GlassStreet$Fact" ({ cls := "GlassStreet$Expression", name := "worked", desc := "([I)I" } : Jvm.MethodName) ({ cls := "GlassStreet$Fact", name := "worked", desc := "([I)I" } : Jvm.MethodName)) ∈ lw_all := lw_g (lw_at lw_m6 9 rfl) rfl
theorem q1330 : (Jvm.Cond.instanceMethod ({ cls := "GlassStreet$Fact", name := "worked", desc := "([I)I" } : Jvm.MethodName)) ∈ lw_all := lw_g (lw_at lw_m6 10 rfl) rfl
theorem q1331 : (Jvm.Cond.code ({ cls := "GlassStreet$Fact", name := "worked", desc := "([I)I" } : Jvm.MethodName) prog_5_method_2_code (2 : Nat) (Option.some Jvm.ClassFile.FieldType.int)) ∈ lw_all := lw_g (lw_at lw_m6 11 rfl) rfl
theorem q2213 : (Jvm.Cond.castable "GlassStreet$Fact" "java/lang/Object") ∈ lw_tbl := lw_at lw_m9 173 rfl
theorem in_X14 : ∀ w ∈ wsX140, w ∈ lw_all := lw_in wsX140 [1029] (by decide +kernel) (by decide +kernel)
/-! GlassStreet$Not -/
set_option maxRecDepth 100000
def RX15 : String := "GlassStreet$Not"
def TX15 : u_T := fun k => match k with
  | _ => ("GlassStreet$Not", "part", "LGlassStreet$Expression;", true)
def tyX15 : Nat → FieldType := fun k => match k with
  | _ => .object "GlassStreet$Expression"
abbrev wsX150 : List Cond := u_ws RX15 TX15 1
theorem nmX15 : ∀ a, a < 1 → ∀ b, b < 1 → a ≠ b → (TX15 a).2.1 ≠ (TX15 b).2.1 := by decide +kernel
theorem tyX15_ok : ∀ k, k < 1 → parseFieldDescriptor (TX15 k).2.2.1 = some (tyX15 k) := by decide +kernel
abbrev cX15_init : ByteArray := prog_12_method_1_code
def yX15_init : MethodName := ⟨RX15, "<init>", "(LGlassStreet$Expression;)V"⟩
def dkwX15_init_0 : List UInt8 := [42, 183, 0, 1, 42, 43, 181, 0, 7, 177]
abbrev dktX15_init_0 : List UInt8 := dkwX15_init_0 ++ []
theorem dksX15_init_0 : cX15_init.data.toList.drop 0 = dktX15_init_0 := by decide +kernel
theorem dX15_init_0 : decode cX15_init 0 = .ok (.aload_n 0, 1) := dk_42 (dk_at dksX15_init_0 0 rfl rfl)
theorem dX15_init_1 : decode cX15_init 1 = .ok (.invokespecial 1, 3) := dk_183 0 1 (dk_at dksX15_init_0 1 rfl rfl)
theorem dX15_init_4 : decode cX15_init 4 = .ok (.aload_n 0, 1) := dk_42 (dk_at dksX15_init_0 4 rfl rfl)
theorem dX15_init_5 : decode cX15_init 5 = .ok (.aload_n 1, 1) := dk_43 (dk_at dksX15_init_0 5 rfl rfl)
theorem dX15_init_6 : decode cX15_init 6 = .ok (.putfield 7, 3) := dk_181 0 7 (dk_at dksX15_init_0 6 rfl rfl)
theorem dX15_init_9 : decode cX15_init 9 = .ok (.return_, 1) := dk_177 (dk_at dksX15_init_0 9 rfl rfl)
abbrev cX15_worked : ByteArray := prog_12_method_2_code
def yX15_worked : MethodName := ⟨RX15, "worked", "([I)I"⟩
def dkwX15_worked_0 : List UInt8 := [42, 180, 0, 7, 43, 182, 0, 13, 154, 0, 7, 4, 167, 0, 4, 3, 172]
abbrev dktX15_worked_0 : List UInt8 := dkwX15_worked_0 ++ []
theorem dksX15_worked_0 : cX15_worked.data.toList.drop 0 = dktX15_worked_0 := by decide +kernel
theorem dX15_worked_0 : decode cX15_worked 0 = .ok (.aload_n 0, 1) := dk_42 (dk_at dksX15_worked_0 0 rfl rfl)
theorem dX15_worked_1 : decode cX15_worked 1 = .ok (.getfield 7, 3) := dk_180 0 7 (dk_at dksX15_worked_0 1 rfl rfl)
theorem dX15_worked_4 : decode cX15_worked 4 = .ok (.aload_n 1, 1) := dk_43 (dk_at dksX15_worked_0 4 rfl rfl)
theorem dX15_worked_5 : decode cX15_worked 5 = .ok (.invokevirtual 13, 3) := dk_182 0 13 (dk_at dksX15_worked_0 5 rfl rfl)
theorem dX15_worked_8 : decode cX15_worked 8 = .ok (.ifCond .ne 7, 3) := dk_154 0 7 (dk_at dksX15_worked_0 8 rfl rfl)
theorem dX15_worked_11 : decode cX15_worked 11 = .ok (.iconst 1, 1) := dk_4 (dk_at dksX15_worked_0 11 rfl rfl)
theorem dX15_worked_12 : decode cX15_worked 12 = .ok (.goto 4, 3) := dk_167 0 4 (dk_at dksX15_worked_0 12 rfl rfl)
theorem dX15_worked_15 : decode cX15_worked 15 = .ok (.iconst 0, 1) := dk_3 (dk_at dksX15_worked_0 15 rfl rfl)
theorem dX15_worked_16 : decode cX15_worked 16 = .ok (.ireturn, 1) := dk_172 (dk_at dksX15_worked_0 16 rfl rfl)
theorem q153 : (Jvm.Cond.initialized "GlassStreet$Not") ∈ lw_all := lw_g (lw_at lw_m1 33 rfl) rfl
theorem q962 : (Jvm.Cond.selects "GlassStreet$Not" ({ cls := "java/lang/Object", name := "getClass", desc := "()Ljava/lang/Class;" } : Jvm.MethodName) ({ cls := "java/lang/Object", name := "getClass", desc := "()Ljava/lang/Class;" } : Jvm.MethodName)) ∈ lw_all := lw_g (lw_at lw_m4 122 rfl) rfl
theorem q1033 : (Jvm.Cond.instantiable "GlassStreet$Not" (1 : Nat)) ∈ lw_all := lw_g (lw_at lw_m4 193 rfl) rfl
theorem q1035 : (Jvm.Cond.instanceMethod ({ cls := "GlassStreet$Not", name := "<init>", desc := "(LGlassStreet$Expression;)V" } : Jvm.MethodName)) ∈ lw_all := lw_g (lw_at lw_m4 195 rfl) rfl
theorem q1036 : (Jvm.Cond.code ({ cls := "GlassStreet$Not", name := "<init>", desc := "(LGlassStreet$Expression;)V" } : Jvm.MethodName) prog_12_method_1_code (2 : Nat) (Option.none : Option Jvm.ClassFile.FieldType)) ∈ lw_all := lw_g (lw_at lw_m4 196 rfl) rfl
theorem q1037 : (Jvm.Cond.methodLinkNest "GlassStreet$Not" (1 : Nat) ({ cls := "GlassStreet$Expression", name := "<init>", desc := "()V" } : Jvm.MethodName) "GlassStreet") ∈ lw_tbl := lw_at lw_m4 197 rfl
theorem q1038 : (Jvm.Cond.fieldLink "GlassStreet$Not" (7 : Nat) "GlassStreet$Not" "part" "LGlassStreet$Expression;") ∈ lw_all := lw_g (lw_at lw_m4 198 rfl) rfl
theorem q1039 : (Jvm.Cond.laysFinal "GlassStreet$Not" "GlassStreet$Not" "part" "LGlassStreet$Expression;") ∈ lw_all := lw_g (lw_at lw_m4 199 rfl) rfl
theorem q1040 : (Jvm.Cond.soleField "GlassStreet$Not" "part") ∈ lw_all := lw_g (lw_at lw_m4 200 rfl) rfl
theorem q1041 : (Jvm.Cond.superclass "GlassStreet$Not" "GlassStreet$Expression") ∈ lw_all := lw_g (lw_at lw_m4 201 rfl) rfl
theorem q1335 : (Jvm.Cond.selects "GlassStreet$Not" ({ cls := "GlassStreet$Expression", name := "worked", desc := "([I)I" } : Jvm.MethodName) ({ cls := "GlassStreet$Not", name := "worked", desc := "([I)I" } : Jvm.MethodName)) ∈ lw_all := lw_g (lw_at lw_m6 15 rfl) rfl
theorem q1336 : (Jvm.Cond.instanceMethod ({ cls := "GlassStreet$Not", name := "worked", desc := "([I)I" } : Jvm.MethodName)) ∈ lw_all := lw_g (lw_at lw_m6 16 rfl) rfl
theorem q1337 : (Jvm.Cond.code ({ cls := "GlassStreet$Not", name := "worked", desc := "([I)I" } : Jvm.MethodName) prog_12_method_2_code (2 : Nat) (Option.some Jvm.ClassFile.FieldType.int)) ∈ lw_all := lw_g (lw_at lw_m6 17 rfl) rfl
theorem q1338 : (Jvm.Cond.methodLink "GlassStreet$Not" (13 : Nat) ({ cls := "GlassStreet$Expression", name := "worked", desc := "([I)I" } : Jvm.MethodName)) ∈ lw_all := lw_g (lw_at lw_m6 18 rfl) rfl
theorem q2214 : (Jvm.Cond.castable "GlassStreet$Not" "java/lang/Object") ∈ lw_tbl := lw_at lw_m9 174 rfl
theorem in_X15 : ∀ w ∈ wsX150, w ∈ lw_all := lw_in wsX150 [1039] (by decide +kernel) (by decide +kernel)
/-! GlassStreet$Two -/
set_option maxRecDepth 100000
def RX16 : String := "GlassStreet$Two"
def TX16 : u_T := fun k => match k with
  | 0 => ("GlassStreet$Two", "way", "C", true)
  | 1 => ("GlassStreet$Two", "a", "LGlassStreet$Expression;", true)
  | _ => ("GlassStreet$Two", "b", "LGlassStreet$Expression;", true)
def tyX16 : Nat → FieldType := fun k => match k with
  | 0 => .char
  | 1 => .object "GlassStreet$Expression"
  | _ => .object "GlassStreet$Expression"
abbrev wsX160 : List Cond := u_ws RX16 TX16 3
theorem nmX16 : ∀ a, a < 3 → ∀ b, b < 3 → a ≠ b → (TX16 a).2.1 ≠ (TX16 b).2.1 := by decide +kernel
theorem tyX16_ok : ∀ k, k < 3 → parseFieldDescriptor (TX16 k).2.2.1 = some (tyX16 k) := by decide +kernel
abbrev cX16_init : ByteArray := prog_19_method_1_code
def yX16_init : MethodName := ⟨RX16, "<init>", "(CLGlassStreet$Expression;LGlassStreet$Expression;)V"⟩
def dkwX16_init_0 : List UInt8 := [42, 183, 0, 1, 42, 27, 181, 0, 7, 42, 44, 181, 0, 13, 42, 45, 181, 0, 17, 177]
abbrev dktX16_init_0 : List UInt8 := dkwX16_init_0 ++ []
theorem dksX16_init_0 : cX16_init.data.toList.drop 0 = dktX16_init_0 := by decide +kernel
theorem dX16_init_0 : decode cX16_init 0 = .ok (.aload_n 0, 1) := dk_42 (dk_at dksX16_init_0 0 rfl rfl)
theorem dX16_init_1 : decode cX16_init 1 = .ok (.invokespecial 1, 3) := dk_183 0 1 (dk_at dksX16_init_0 1 rfl rfl)
theorem dX16_init_4 : decode cX16_init 4 = .ok (.aload_n 0, 1) := dk_42 (dk_at dksX16_init_0 4 rfl rfl)
theorem dX16_init_5 : decode cX16_init 5 = .ok (.iload_n 1, 1) := dk_27 (dk_at dksX16_init_0 5 rfl rfl)
theorem dX16_init_6 : decode cX16_init 6 = .ok (.putfield 7, 3) := dk_181 0 7 (dk_at dksX16_init_0 6 rfl rfl)
theorem dX16_init_9 : decode cX16_init 9 = .ok (.aload_n 0, 1) := dk_42 (dk_at dksX16_init_0 9 rfl rfl)
theorem dX16_init_10 : decode cX16_init 10 = .ok (.aload_n 2, 1) := dk_44 (dk_at dksX16_init_0 10 rfl rfl)
theorem dX16_init_11 : decode cX16_init 11 = .ok (.putfield 13, 3) := dk_181 0 13 (dk_at dksX16_init_0 11 rfl rfl)
theorem dX16_init_14 : decode cX16_init 14 = .ok (.aload_n 0, 1) := dk_42 (dk_at dksX16_init_0 14 rfl rfl)
theorem dX16_init_15 : decode cX16_init 15 = .ok (.aload_n 3, 1) := dk_45 (dk_at dksX16_init_0 15 rfl rfl)
theorem dX16_init_16 : decode cX16_init 16 = .ok (.putfield 17, 3) := dk_181 0 17 (dk_at dksX16_init_0 16 rfl rfl)
theorem dX16_init_19 : decode cX16_init 19 = .ok (.return_, 1) := dk_177 (dk_at dksX16_init_0 19 rfl rfl)
abbrev cX16_worked : ByteArray := prog_19_method_2_code
def yX16_worked : MethodName := ⟨RX16, "worked", "([I)I"⟩
def dkwX16_worked_4 : List UInt8 := [28, 154, 0, 7, 29, 153, 0, 7, 4, 167, 0, 4, 3, 172]
abbrev dktX16_worked_4 : List UInt8 := dkwX16_worked_4 ++ []
def dkwX16_worked_3 : List UInt8 := [29, 160, 0, 7, 4, 167, 0, 4, 3, 172, 28, 153, 0, 11, 29, 153, 0, 7, 4, 167, 0, 4, 3, 172]
abbrev dktX16_worked_3 : List UInt8 := dkwX16_worked_3 ++ dktX16_worked_4
def dkwX16_worked_2 : List UInt8 := [28, 29, 96, 172, 28, 29, 100, 172, 28, 29, 104, 172, 28, 29, 162, 0, 7, 4, 167, 0, 4, 3, 172, 28]
abbrev dktX16_worked_2 : List UInt8 := dkwX16_worked_2 ++ dktX16_worked_3
def dkwX16_worked_1 : List UInt8 := [171, 0, 0, 0, 0, 106, 0, 0, 0, 6, 0, 0, 0, 38, 0, 0, 0, 92, 0, 0, 0, 42, 0, 0, 0, 66, 0, 0, 0, 43, 0, 0, 0, 58, 0, 0, 0, 45, 0, 0, 0, 62, 0, 0, 0, 60, 0, 0, 0, 70, 0, 0, 0, 61, 0, 0, 0, 81]
abbrev dktX16_worked_1 : List UInt8 := dkwX16_worked_1 ++ dktX16_worked_2
def dkwX16_worked_0 : List UInt8 := [42, 180, 0, 13, 43, 182, 0, 20, 61, 42, 180, 0, 17, 43, 182, 0, 20, 62, 42, 180, 0, 7]
abbrev dktX16_worked_0 : List UInt8 := dkwX16_worked_0 ++ dktX16_worked_1
theorem dksX16_worked_0 : cX16_worked.data.toList.drop 0 = dktX16_worked_0 := by decide +kernel
theorem dksX16_worked_1 : cX16_worked.data.toList.drop 22 = dktX16_worked_1 := dk_seg dksX16_worked_0 22 rfl rfl
theorem dksX16_worked_2 : cX16_worked.data.toList.drop 80 = dktX16_worked_2 := dk_seg dksX16_worked_1 58 rfl rfl
theorem dksX16_worked_3 : cX16_worked.data.toList.drop 104 = dktX16_worked_3 := dk_seg dksX16_worked_2 24 rfl rfl
theorem dksX16_worked_4 : cX16_worked.data.toList.drop 128 = dktX16_worked_4 := dk_seg dksX16_worked_3 24 rfl rfl
theorem dX16_worked_0 : decode cX16_worked 0 = .ok (.aload_n 0, 1) := dk_42 (dk_at dksX16_worked_0 0 rfl rfl)
theorem dX16_worked_1 : decode cX16_worked 1 = .ok (.getfield 13, 3) := dk_180 0 13 (dk_at dksX16_worked_0 1 rfl rfl)
theorem dX16_worked_4 : decode cX16_worked 4 = .ok (.aload_n 1, 1) := dk_43 (dk_at dksX16_worked_0 4 rfl rfl)
theorem dX16_worked_5 : decode cX16_worked 5 = .ok (.invokevirtual 20, 3) := dk_182 0 20 (dk_at dksX16_worked_0 5 rfl rfl)
theorem dX16_worked_8 : decode cX16_worked 8 = .ok (.istore_n 2, 1) := dk_61 (dk_at dksX16_worked_0 8 rfl rfl)
theorem dX16_worked_9 : decode cX16_worked 9 = .ok (.aload_n 0, 1) := dk_42 (dk_at dksX16_worked_0 9 rfl rfl)
theorem dX16_worked_10 : decode cX16_worked 10 = .ok (.getfield 17, 3) := dk_180 0 17 (dk_at dksX16_worked_0 10 rfl rfl)
theorem dX16_worked_13 : decode cX16_worked 13 = .ok (.aload_n 1, 1) := dk_43 (dk_at dksX16_worked_0 13 rfl rfl)
theorem dX16_worked_14 : decode cX16_worked 14 = .ok (.invokevirtual 20, 3) := dk_182 0 20 (dk_at dksX16_worked_0 14 rfl rfl)
theorem dX16_worked_17 : decode cX16_worked 17 = .ok (.istore_n 3, 1) := dk_62 (dk_at dksX16_worked_0 17 rfl rfl)
theorem dX16_worked_18 : decode cX16_worked 18 = .ok (.aload_n 0, 1) := dk_42 (dk_at dksX16_worked_0 18 rfl rfl)
theorem dX16_worked_19 : decode cX16_worked 19 = .ok (.getfield 7, 3) := dk_180 0 7 (dk_at dksX16_worked_0 19 rfl rfl)
theorem dX16_worked_22 : decode cX16_worked 22 = .ok (.lookupswitch 106 #[(38, 92), (42, 66), (43, 58), (45, 62), (60, 70), (61, 81)], 58) := by decide +kernel
theorem dX16_worked_80 : decode cX16_worked 80 = .ok (.iload_n 2, 1) := dk_28 (dk_at dksX16_worked_2 0 rfl rfl)
theorem dX16_worked_81 : decode cX16_worked 81 = .ok (.iload_n 3, 1) := dk_29 (dk_at dksX16_worked_2 1 rfl rfl)
theorem dX16_worked_82 : decode cX16_worked 82 = .ok (.iadd, 1) := dk_96 (dk_at dksX16_worked_2 2 rfl rfl)
theorem dX16_worked_83 : decode cX16_worked 83 = .ok (.ireturn, 1) := dk_172 (dk_at dksX16_worked_2 3 rfl rfl)
theorem dX16_worked_84 : decode cX16_worked 84 = .ok (.iload_n 2, 1) := dk_28 (dk_at dksX16_worked_2 4 rfl rfl)
theorem dX16_worked_85 : decode cX16_worked 85 = .ok (.iload_n 3, 1) := dk_29 (dk_at dksX16_worked_2 5 rfl rfl)
theorem dX16_worked_86 : decode cX16_worked 86 = .ok (.isub, 1) := dk_100 (dk_at dksX16_worked_2 6 rfl rfl)
theorem dX16_worked_87 : decode cX16_worked 87 = .ok (.ireturn, 1) := dk_172 (dk_at dksX16_worked_2 7 rfl rfl)
theorem dX16_worked_88 : decode cX16_worked 88 = .ok (.iload_n 2, 1) := dk_28 (dk_at dksX16_worked_2 8 rfl rfl)
theorem dX16_worked_89 : decode cX16_worked 89 = .ok (.iload_n 3, 1) := dk_29 (dk_at dksX16_worked_2 9 rfl rfl)
theorem dX16_worked_90 : decode cX16_worked 90 = .ok (.imul, 1) := dk_104 (dk_at dksX16_worked_2 10 rfl rfl)
theorem dX16_worked_91 : decode cX16_worked 91 = .ok (.ireturn, 1) := dk_172 (dk_at dksX16_worked_2 11 rfl rfl)
theorem dX16_worked_92 : decode cX16_worked 92 = .ok (.iload_n 2, 1) := dk_28 (dk_at dksX16_worked_2 12 rfl rfl)
theorem dX16_worked_93 : decode cX16_worked 93 = .ok (.iload_n 3, 1) := dk_29 (dk_at dksX16_worked_2 13 rfl rfl)
theorem dX16_worked_94 : decode cX16_worked 94 = .ok (.if_icmp .ge 7, 3) := dk_162 0 7 (dk_at dksX16_worked_2 14 rfl rfl)
theorem dX16_worked_97 : decode cX16_worked 97 = .ok (.iconst 1, 1) := dk_4 (dk_at dksX16_worked_2 17 rfl rfl)
theorem dX16_worked_98 : decode cX16_worked 98 = .ok (.goto 4, 3) := dk_167 0 4 (dk_at dksX16_worked_2 18 rfl rfl)
theorem dX16_worked_101 : decode cX16_worked 101 = .ok (.iconst 0, 1) := dk_3 (dk_at dksX16_worked_2 21 rfl rfl)
theorem dX16_worked_102 : decode cX16_worked 102 = .ok (.ireturn, 1) := dk_172 (dk_at dksX16_worked_2 22 rfl rfl)
theorem dX16_worked_103 : decode cX16_worked 103 = .ok (.iload_n 2, 1) := dk_28 (dk_at dksX16_worked_2 23 rfl rfl)
theorem dX16_worked_104 : decode cX16_worked 104 = .ok (.iload_n 3, 1) := dk_29 (dk_at dksX16_worked_3 0 rfl rfl)
theorem dX16_worked_105 : decode cX16_worked 105 = .ok (.if_icmp .ne 7, 3) := dk_160 0 7 (dk_at dksX16_worked_3 1 rfl rfl)
theorem dX16_worked_108 : decode cX16_worked 108 = .ok (.iconst 1, 1) := dk_4 (dk_at dksX16_worked_3 4 rfl rfl)
theorem dX16_worked_109 : decode cX16_worked 109 = .ok (.goto 4, 3) := dk_167 0 4 (dk_at dksX16_worked_3 5 rfl rfl)
theorem dX16_worked_112 : decode cX16_worked 112 = .ok (.iconst 0, 1) := dk_3 (dk_at dksX16_worked_3 8 rfl rfl)
theorem dX16_worked_113 : decode cX16_worked 113 = .ok (.ireturn, 1) := dk_172 (dk_at dksX16_worked_3 9 rfl rfl)
theorem dX16_worked_114 : decode cX16_worked 114 = .ok (.iload_n 2, 1) := dk_28 (dk_at dksX16_worked_3 10 rfl rfl)
theorem dX16_worked_115 : decode cX16_worked 115 = .ok (.ifCond .eq 11, 3) := dk_153 0 11 (dk_at dksX16_worked_3 11 rfl rfl)
theorem dX16_worked_118 : decode cX16_worked 118 = .ok (.iload_n 3, 1) := dk_29 (dk_at dksX16_worked_3 14 rfl rfl)
theorem dX16_worked_119 : decode cX16_worked 119 = .ok (.ifCond .eq 7, 3) := dk_153 0 7 (dk_at dksX16_worked_3 15 rfl rfl)
theorem dX16_worked_122 : decode cX16_worked 122 = .ok (.iconst 1, 1) := dk_4 (dk_at dksX16_worked_3 18 rfl rfl)
theorem dX16_worked_123 : decode cX16_worked 123 = .ok (.goto 4, 3) := dk_167 0 4 (dk_at dksX16_worked_3 19 rfl rfl)
theorem dX16_worked_126 : decode cX16_worked 126 = .ok (.iconst 0, 1) := dk_3 (dk_at dksX16_worked_3 22 rfl rfl)
theorem dX16_worked_127 : decode cX16_worked 127 = .ok (.ireturn, 1) := dk_172 (dk_at dksX16_worked_3 23 rfl rfl)
theorem dX16_worked_128 : decode cX16_worked 128 = .ok (.iload_n 2, 1) := dk_28 (dk_at dksX16_worked_4 0 rfl rfl)
theorem dX16_worked_129 : decode cX16_worked 129 = .ok (.ifCond .ne 7, 3) := dk_154 0 7 (dk_at dksX16_worked_4 1 rfl rfl)
theorem dX16_worked_132 : decode cX16_worked 132 = .ok (.iload_n 3, 1) := dk_29 (dk_at dksX16_worked_4 4 rfl rfl)
theorem dX16_worked_133 : decode cX16_worked 133 = .ok (.ifCond .eq 7, 3) := dk_153 0 7 (dk_at dksX16_worked_4 5 rfl rfl)
theorem dX16_worked_136 : decode cX16_worked 136 = .ok (.iconst 1, 1) := dk_4 (dk_at dksX16_worked_4 8 rfl rfl)
theorem dX16_worked_137 : decode cX16_worked 137 = .ok (.goto 4, 3) := dk_167 0 4 (dk_at dksX16_worked_4 9 rfl rfl)
theorem dX16_worked_140 : decode cX16_worked 140 = .ok (.iconst 0, 1) := dk_3 (dk_at dksX16_worked_4 12 rfl rfl)
theorem dX16_worked_141 : decode cX16_worked 141 = .ok (.ireturn, 1) := dk_172 (dk_at dksX16_worked_4 13 rfl rfl)
theorem q154 : (Jvm.Cond.initialized "GlassStreet$Two") ∈ lw_all := lw_g (lw_at lw_m1 34 rfl) rfl
theorem q969 : (Jvm.Cond.selects "GlassStreet$Two" ({ cls := "java/lang/Object", name := "getClass", desc := "()Ljava/lang/Class;" } : Jvm.MethodName) ({ cls := "java/lang/Object", name := "getClass", desc := "()Ljava/lang/Class;" } : Jvm.MethodName)) ∈ lw_all := lw_g (lw_at lw_m4 129 rfl) rfl
theorem q1047 : (Jvm.Cond.instantiable "GlassStreet$Two" (3 : Nat)) ∈ lw_all := lw_g (lw_at lw_m4 207 rfl) rfl
theorem q1049 : (Jvm.Cond.instanceMethod ({ cls := "GlassStreet$Two", name := "<init>", desc := "(CLGlassStreet$Expression;LGlassStreet$Expression;)V" } : Jvm.MethodName)) ∈ lw_all := lw_g (lw_at lw_m4 209 rfl) rfl
theorem q1050 : (Jvm.Cond.code ({ cls := "GlassStreet$Two", name := "<init>", desc := "(CLGlassStreet$Expression;LGlassStreet$Expression;)V" } : Jvm.MethodName) prog_19_method_1_code (4 : Nat) (Option.none : Option Jvm.ClassFile.FieldType)) ∈ lw_all := lw_g (lw_at lw_m4 210 rfl) rfl
theorem q1051 : (Jvm.Cond.methodLinkNest "GlassStreet$Two" (1 : Nat) ({ cls := "GlassStreet$Expression", name := "<init>", desc := "()V" } : Jvm.MethodName) "GlassStreet") ∈ lw_tbl := lw_at lw_m4 211 rfl
theorem q1052 : (Jvm.Cond.fieldLink "GlassStreet$Two" (7 : Nat) "GlassStreet$Two" "way" "C") ∈ lw_all := lw_g (lw_at lw_m4 212 rfl) rfl
theorem q1053 : (Jvm.Cond.fieldLink "GlassStreet$Two" (13 : Nat) "GlassStreet$Two" "a" "LGlassStreet$Expression;") ∈ lw_all := lw_g (lw_at lw_m4 213 rfl) rfl
theorem q1054 : (Jvm.Cond.fieldLink "GlassStreet$Two" (17 : Nat) "GlassStreet$Two" "b" "LGlassStreet$Expression;") ∈ lw_all := lw_g (lw_at lw_m4 214 rfl) rfl
theorem q1055 : (Jvm.Cond.laysFinal "GlassStreet$Two" "GlassStreet$Two" "way" "C") ∈ lw_all := lw_g (lw_at lw_m4 215 rfl) rfl
theorem q1056 : (Jvm.Cond.soleField "GlassStreet$Two" "way") ∈ lw_all := lw_g (lw_at lw_m4 216 rfl) rfl
theorem q1057 : (Jvm.Cond.laysFinal "GlassStreet$Two" "GlassStreet$Two" "a" "LGlassStreet$Expression;") ∈ lw_all := lw_g (lw_at lw_m4 217 rfl) rfl
theorem q1058 : (Jvm.Cond.soleField "GlassStreet$Two" "a") ∈ lw_all := lw_g (lw_at lw_m4 218 rfl) rfl
theorem q1059 : (Jvm.Cond.laysFinal "GlassStreet$Two" "GlassStreet$Two" "b" "LGlassStreet$Expression;") ∈ lw_all := lw_g (lw_at lw_m4 219 rfl) rfl
theorem q1060 : (Jvm.Cond.soleField "GlassStreet$Two" "b") ∈ lw_all := lw_g (lw_at lw_m4 220 rfl) rfl
theorem q1061 : (Jvm.Cond.superclass "GlassStreet$Two" "GlassStreet$Expression") ∈ lw_all := lw_g (lw_at lw_m4 221 rfl) rfl
theorem q1339 : (Jvm.Cond.instanceMethod ({ cls := "GlassStreet$Two", name := "worked", desc := "([I)I" } : Jvm.MethodName)) ∈ lw_all := lw_g (lw_at lw_m6 19 rfl) rfl
theorem q1340 : (Jvm.Cond.code ({ cls := "GlassStreet$Two", name := "worked", desc := "([I)I" } : Jvm.MethodName) prog_19_method_2_code (4 : Nat) (Option.some Jvm.ClassFile.FieldType.int)) ∈ lw_all := lw_g (lw_at lw_m6 20 rfl) rfl
theorem q1341 : (Jvm.Cond.methodLink "GlassStreet$Two" (20 : Nat) ({ cls := "GlassStreet$Expression", name := "worked", desc := "([I)I" } : Jvm.MethodName)) ∈ lw_all := lw_g (lw_at lw_m6 21 rfl) rfl
theorem q1342 : (Jvm.Cond.selects "GlassStreet$Two" ({ cls := "GlassStreet$Expression", name := "worked", desc := "([I)I" } : Jvm.MethodName) ({ cls := "GlassStreet$Two", name := "worked", desc := "([I)I" } : Jvm.MethodName)) ∈ lw_all := lw_g (lw_at lw_m6 22 rfl) rfl
theorem q2215 : (Jvm.Cond.castable "GlassStreet$Two" "java/lang/Object") ∈ lw_tbl := lw_at lw_m9 175 rfl
theorem in_X16 : ∀ w ∈ wsX160, w ∈ lw_all := lw_in wsX160 [1055, 1057, 1059] (by decide +kernel) (by decide +kernel)
/-! GlassStreet$Line -/
set_option maxRecDepth 100000
def RX17 : String := "GlassStreet$Line"
abbrev cX17_init : ByteArray := prog_9_method_1_code
def yX17_init : MethodName := ⟨RX17, "<init>", "()V"⟩
theorem dX17_init_0 : decode cX17_init 0 = .ok (.aload_n 0, 1) := by decide +kernel
theorem dX17_init_1 : decode cX17_init 1 = .ok (.invokespecial 1, 3) := by decide +kernel
theorem dX17_init_4 : decode cX17_init 4 = .ok (.return_, 1) := by decide +kernel
theorem q155 : (Jvm.Cond.initialized "GlassStreet$Line") ∈ lw_all := lw_g (lw_at lw_m1 35 rfl) rfl
theorem q1091 : (Jvm.Cond.instanceMethod ({ cls := "GlassStreet$Line", name := "<init>", desc := "()V" } : Jvm.MethodName)) ∈ lw_all := lw_g (lw_at lw_m5 11 rfl) rfl
theorem q1092 : (Jvm.Cond.code ({ cls := "GlassStreet$Line", name := "<init>", desc := "()V" } : Jvm.MethodName) prog_9_method_1_code (1 : Nat) (Option.none : Option Jvm.ClassFile.FieldType)) ∈ lw_all := lw_g (lw_at lw_m5 12 rfl) rfl
theorem q1093 : (Jvm.Cond.methodLink "GlassStreet$Line" (1 : Nat) ({ cls := "java/lang/Object", name := "<init>", desc := "()V" } : Jvm.MethodName)) ∈ lw_all := lw_g (lw_at lw_m5 13 rfl) rfl
theorem q1355 : (Jvm.Cond.declares ({ cls := "GlassStreet$Line", name := "isDone", desc := "(LGlassStreet;LGlassStreet$State;)Z" } : Jvm.MethodName)) ∈ lw_tbl := lw_at lw_m6 35 rfl
theorem q1356 : (Jvm.Cond.sameMethod "GlassStreet$Line" "GlassStreet$Line" "isDone" "(LGlassStreet;LGlassStreet$State;)Z") ∈ lw_all := lw_g (lw_at lw_m6 36 rfl) rfl
/-! GlassStreet$Passed -/
set_option maxRecDepth 100000
def RX18 : String := "GlassStreet$Passed"
abbrev cX18_init : ByteArray := prog_15_method_1_code
def yX18_init : MethodName := ⟨RX18, "<init>", "()V"⟩
theorem dX18_init_0 : decode cX18_init 0 = .ok (.aload_n 0, 1) := by decide +kernel
theorem dX18_init_1 : decode cX18_init 1 = .ok (.invokespecial 1, 3) := by decide +kernel
theorem dX18_init_4 : decode cX18_init 4 = .ok (.return_, 1) := by decide +kernel
abbrev cX18_isDone : ByteArray := prog_15_method_2_code
def yX18_isDone : MethodName := ⟨RX18, "isDone", "(LGlassStreet;LGlassStreet$State;)Z"⟩
def dkwX18_isDone_0 : List UInt8 := [43, 44, 182, 0, 7, 87, 4, 172]
abbrev dktX18_isDone_0 : List UInt8 := dkwX18_isDone_0 ++ []
theorem dksX18_isDone_0 : cX18_isDone.data.toList.drop 0 = dktX18_isDone_0 := by decide +kernel
theorem dX18_isDone_0 : decode cX18_isDone 0 = .ok (.aload_n 1, 1) := dk_43 (dk_at dksX18_isDone_0 0 rfl rfl)
theorem dX18_isDone_1 : decode cX18_isDone 1 = .ok (.aload_n 2, 1) := dk_44 (dk_at dksX18_isDone_0 1 rfl rfl)
theorem dX18_isDone_2 : decode cX18_isDone 2 = .ok (.invokevirtual 7, 3) := dk_182 0 7 (dk_at dksX18_isDone_0 2 rfl rfl)
theorem dX18_isDone_5 : decode cX18_isDone 5 = .ok (.pop, 1) := dk_87 (dk_at dksX18_isDone_0 5 rfl rfl)
theorem dX18_isDone_6 : decode cX18_isDone 6 = .ok (.iconst 1, 1) := dk_4 (dk_at dksX18_isDone_0 6 rfl rfl)
theorem dX18_isDone_7 : decode cX18_isDone 7 = .ok (.ireturn, 1) := dk_172 (dk_at dksX18_isDone_0 7 rfl rfl)
theorem q156 : (Jvm.Cond.initialized "GlassStreet$Passed") ∈ lw_all := lw_g (lw_at lw_m1 36 rfl) rfl
theorem q965 : (Jvm.Cond.selects "GlassStreet$Passed" ({ cls := "java/lang/Object", name := "getClass", desc := "()Ljava/lang/Class;" } : Jvm.MethodName) ({ cls := "java/lang/Object", name := "getClass", desc := "()Ljava/lang/Class;" } : Jvm.MethodName)) ∈ lw_all := lw_g (lw_at lw_m4 125 rfl) rfl
theorem q1086 : (Jvm.Cond.instantiable "GlassStreet$Passed" (0 : Nat)) ∈ lw_all := lw_g (lw_at lw_m5 6 rfl) rfl
theorem q1088 : (Jvm.Cond.instanceMethod ({ cls := "GlassStreet$Passed", name := "<init>", desc := "()V" } : Jvm.MethodName)) ∈ lw_all := lw_g (lw_at lw_m5 8 rfl) rfl
theorem q1089 : (Jvm.Cond.code ({ cls := "GlassStreet$Passed", name := "<init>", desc := "()V" } : Jvm.MethodName) prog_15_method_1_code (1 : Nat) (Option.none : Option Jvm.ClassFile.FieldType)) ∈ lw_all := lw_g (lw_at lw_m5 9 rfl) rfl
theorem q1090 : (Jvm.Cond.methodLinkNest "GlassStreet$Passed" (1 : Nat) ({ cls := "GlassStreet$Line", name := "<init>", desc := "()V" } : Jvm.MethodName) "GlassStreet") ∈ lw_tbl := lw_at lw_m5 10 rfl
theorem q1094 : (Jvm.Cond.superclass "GlassStreet$Passed" "GlassStreet$Line") ∈ lw_all := lw_g (lw_at lw_m5 14 rfl) rfl
theorem q1365 : (Jvm.Cond.selects "GlassStreet$Passed" ({ cls := "GlassStreet$Line", name := "isDone", desc := "(LGlassStreet;LGlassStreet$State;)Z" } : Jvm.MethodName) ({ cls := "GlassStreet$Passed", name := "isDone", desc := "(LGlassStreet;LGlassStreet$State;)Z" } : Jvm.MethodName)) ∈ lw_all := lw_g (lw_at lw_m6 45 rfl) rfl
theorem q1366 : (Jvm.Cond.instanceMethod ({ cls := "GlassStreet$Passed", name := "isDone", desc := "(LGlassStreet;LGlassStreet$State;)Z" } : Jvm.MethodName)) ∈ lw_all := lw_g (lw_at lw_m6 46 rfl) rfl
theorem q1367 : (Jvm.Cond.code ({ cls := "GlassStreet$Passed", name := "isDone", desc := "(LGlassStreet;LGlassStreet$State;)Z" } : Jvm.MethodName) prog_15_method_2_code (3 : Nat) (Option.some Jvm.ClassFile.FieldType.boolean)) ∈ lw_all := lw_g (lw_at lw_m6 47 rfl) rfl
theorem q1368 : (Jvm.Cond.methodLinkNest "GlassStreet$Passed" (7 : Nat) ({ cls := "GlassStreet", name := "passes", desc := "(LGlassStreet$State;)I" } : Jvm.MethodName) "GlassStreet") ∈ lw_tbl := lw_at lw_m6 48 rfl
theorem q2194 : (Jvm.Cond.castable "GlassStreet$Passed" "GlassStreet$Line") ∈ lw_tbl := lw_at lw_m9 154 rfl
theorem q2216 : (Jvm.Cond.castable "GlassStreet$Passed" "java/lang/Object") ∈ lw_tbl := lw_at lw_m9 176 rfl
/-! GlassStreet$Walked -/
set_option maxRecDepth 100000
def RX19 : String := "GlassStreet$Walked"
def TX19 : u_T := fun k => match k with
  | 0 => ("GlassStreet$Walked", "person", "I", true)
  | _ => ("GlassStreet$Walked", "cell", "I", true)
def tyX19 : Nat → FieldType := fun k => match k with
  | 0 => .int
  | _ => .int
abbrev wsX190 : List Cond := u_ws RX19 TX19 2
theorem nmX19 : ∀ a, a < 2 → ∀ b, b < 2 → a ≠ b → (TX19 a).2.1 ≠ (TX19 b).2.1 := by decide +kernel
theorem tyX19_ok : ∀ k, k < 2 → parseFieldDescriptor (TX19 k).2.2.1 = some (tyX19 k) := by decide +kernel
abbrev cX19_init : ByteArray := prog_20_method_1_code
def yX19_init : MethodName := ⟨RX19, "<init>", "(II)V"⟩
def dkwX19_init_0 : List UInt8 := [42, 183, 0, 1, 42, 27, 181, 0, 7, 42, 28, 181, 0, 13, 177]
abbrev dktX19_init_0 : List UInt8 := dkwX19_init_0 ++ []
theorem dksX19_init_0 : cX19_init.data.toList.drop 0 = dktX19_init_0 := by decide +kernel
theorem dX19_init_0 : decode cX19_init 0 = .ok (.aload_n 0, 1) := dk_42 (dk_at dksX19_init_0 0 rfl rfl)
theorem dX19_init_1 : decode cX19_init 1 = .ok (.invokespecial 1, 3) := dk_183 0 1 (dk_at dksX19_init_0 1 rfl rfl)
theorem dX19_init_4 : decode cX19_init 4 = .ok (.aload_n 0, 1) := dk_42 (dk_at dksX19_init_0 4 rfl rfl)
theorem dX19_init_5 : decode cX19_init 5 = .ok (.iload_n 1, 1) := dk_27 (dk_at dksX19_init_0 5 rfl rfl)
theorem dX19_init_6 : decode cX19_init 6 = .ok (.putfield 7, 3) := dk_181 0 7 (dk_at dksX19_init_0 6 rfl rfl)
theorem dX19_init_9 : decode cX19_init 9 = .ok (.aload_n 0, 1) := dk_42 (dk_at dksX19_init_0 9 rfl rfl)
theorem dX19_init_10 : decode cX19_init 10 = .ok (.iload_n 2, 1) := dk_28 (dk_at dksX19_init_0 10 rfl rfl)
theorem dX19_init_11 : decode cX19_init 11 = .ok (.putfield 13, 3) := dk_181 0 13 (dk_at dksX19_init_0 11 rfl rfl)
theorem dX19_init_14 : decode cX19_init 14 = .ok (.return_, 1) := dk_177 (dk_at dksX19_init_0 14 rfl rfl)
abbrev cX19_isDone : ByteArray := prog_20_method_2_code
def yX19_isDone : MethodName := ⟨RX19, "isDone", "(LGlassStreet;LGlassStreet$State;)Z"⟩
def dkwX19_isDone_1 : List UInt8 := [180, 0, 16, 42, 180, 0, 7, 42, 180, 0, 13, 79, 4, 172]
abbrev dktX19_isDone_1 : List UInt8 := dkwX19_isDone_1 ++ []
def dkwX19_isDone_0 : List UInt8 := [44, 180, 0, 16, 42, 180, 0, 7, 46, 42, 180, 0, 13, 100, 184, 0, 22, 4, 159, 0, 5, 3, 172, 44]
abbrev dktX19_isDone_0 : List UInt8 := dkwX19_isDone_0 ++ dktX19_isDone_1
theorem dksX19_isDone_0 : cX19_isDone.data.toList.drop 0 = dktX19_isDone_0 := by decide +kernel
theorem dksX19_isDone_1 : cX19_isDone.data.toList.drop 24 = dktX19_isDone_1 := dk_seg dksX19_isDone_0 24 rfl rfl
theorem dX19_isDone_0 : decode cX19_isDone 0 = .ok (.aload_n 2, 1) := dk_44 (dk_at dksX19_isDone_0 0 rfl rfl)
theorem dX19_isDone_1 : decode cX19_isDone 1 = .ok (.getfield 16, 3) := dk_180 0 16 (dk_at dksX19_isDone_0 1 rfl rfl)
theorem dX19_isDone_4 : decode cX19_isDone 4 = .ok (.aload_n 0, 1) := dk_42 (dk_at dksX19_isDone_0 4 rfl rfl)
theorem dX19_isDone_5 : decode cX19_isDone 5 = .ok (.getfield 7, 3) := dk_180 0 7 (dk_at dksX19_isDone_0 5 rfl rfl)
theorem dX19_isDone_8 : decode cX19_isDone 8 = .ok (.iaload, 1) := dk_46 (dk_at dksX19_isDone_0 8 rfl rfl)
theorem dX19_isDone_9 : decode cX19_isDone 9 = .ok (.aload_n 0, 1) := dk_42 (dk_at dksX19_isDone_0 9 rfl rfl)
theorem dX19_isDone_10 : decode cX19_isDone 10 = .ok (.getfield 13, 3) := dk_180 0 13 (dk_at dksX19_isDone_0 10 rfl rfl)
theorem dX19_isDone_13 : decode cX19_isDone 13 = .ok (.isub, 1) := dk_100 (dk_at dksX19_isDone_0 13 rfl rfl)
theorem dX19_isDone_14 : decode cX19_isDone 14 = .ok (.invokestatic 22, 3) := dk_184 0 22 (dk_at dksX19_isDone_0 14 rfl rfl)
theorem dX19_isDone_17 : decode cX19_isDone 17 = .ok (.iconst 1, 1) := dk_4 (dk_at dksX19_isDone_0 17 rfl rfl)
theorem dX19_isDone_18 : decode cX19_isDone 18 = .ok (.if_icmp .eq 5, 3) := dk_159 0 5 (dk_at dksX19_isDone_0 18 rfl rfl)
theorem dX19_isDone_21 : decode cX19_isDone 21 = .ok (.iconst 0, 1) := dk_3 (dk_at dksX19_isDone_0 21 rfl rfl)
theorem dX19_isDone_22 : decode cX19_isDone 22 = .ok (.ireturn, 1) := dk_172 (dk_at dksX19_isDone_0 22 rfl rfl)
theorem dX19_isDone_23 : decode cX19_isDone 23 = .ok (.aload_n 2, 1) := dk_44 (dk_at dksX19_isDone_0 23 rfl rfl)
theorem dX19_isDone_24 : decode cX19_isDone 24 = .ok (.getfield 16, 3) := dk_180 0 16 (dk_at dksX19_isDone_1 0 rfl rfl)
theorem dX19_isDone_27 : decode cX19_isDone 27 = .ok (.aload_n 0, 1) := dk_42 (dk_at dksX19_isDone_1 3 rfl rfl)
theorem dX19_isDone_28 : decode cX19_isDone 28 = .ok (.getfield 7, 3) := dk_180 0 7 (dk_at dksX19_isDone_1 4 rfl rfl)
theorem dX19_isDone_31 : decode cX19_isDone 31 = .ok (.aload_n 0, 1) := dk_42 (dk_at dksX19_isDone_1 7 rfl rfl)
theorem dX19_isDone_32 : decode cX19_isDone 32 = .ok (.getfield 13, 3) := dk_180 0 13 (dk_at dksX19_isDone_1 8 rfl rfl)
theorem dX19_isDone_35 : decode cX19_isDone 35 = .ok (.iastore, 1) := dk_79 (dk_at dksX19_isDone_1 11 rfl rfl)
theorem dX19_isDone_36 : decode cX19_isDone 36 = .ok (.iconst 1, 1) := dk_4 (dk_at dksX19_isDone_1 12 rfl rfl)
theorem dX19_isDone_37 : decode cX19_isDone 37 = .ok (.ireturn, 1) := dk_172 (dk_at dksX19_isDone_1 13 rfl rfl)
theorem q157 : (Jvm.Cond.initialized "GlassStreet$Walked") ∈ lw_all := lw_g (lw_at lw_m1 37 rfl) rfl
theorem q316 : (Jvm.Cond.fieldLinkNest "GlassStreet$Walked" (16 : Nat) "GlassStreet$State" "at" "[I" "GlassStreet") ∈ lw_tbl := lw_at lw_m1 196 rfl
theorem q970 : (Jvm.Cond.selects "GlassStreet$Walked" ({ cls := "java/lang/Object", name := "getClass", desc := "()Ljava/lang/Class;" } : Jvm.MethodName) ({ cls := "java/lang/Object", name := "getClass", desc := "()Ljava/lang/Class;" } : Jvm.MethodName)) ∈ lw_all := lw_g (lw_at lw_m4 130 rfl) rfl
theorem q1100 : (Jvm.Cond.instantiable "GlassStreet$Walked" (2 : Nat)) ∈ lw_all := lw_g (lw_at lw_m5 20 rfl) rfl
theorem q1102 : (Jvm.Cond.instanceMethod ({ cls := "GlassStreet$Walked", name := "<init>", desc := "(II)V" } : Jvm.MethodName)) ∈ lw_all := lw_g (lw_at lw_m5 22 rfl) rfl
theorem q1103 : (Jvm.Cond.code ({ cls := "GlassStreet$Walked", name := "<init>", desc := "(II)V" } : Jvm.MethodName) prog_20_method_1_code (3 : Nat) (Option.none : Option Jvm.ClassFile.FieldType)) ∈ lw_all := lw_g (lw_at lw_m5 23 rfl) rfl
theorem q1104 : (Jvm.Cond.methodLinkNest "GlassStreet$Walked" (1 : Nat) ({ cls := "GlassStreet$Line", name := "<init>", desc := "()V" } : Jvm.MethodName) "GlassStreet") ∈ lw_tbl := lw_at lw_m5 24 rfl
theorem q1105 : (Jvm.Cond.fieldLink "GlassStreet$Walked" (7 : Nat) "GlassStreet$Walked" "person" "I") ∈ lw_all := lw_g (lw_at lw_m5 25 rfl) rfl
theorem q1106 : (Jvm.Cond.fieldLink "GlassStreet$Walked" (13 : Nat) "GlassStreet$Walked" "cell" "I") ∈ lw_all := lw_g (lw_at lw_m5 26 rfl) rfl
theorem q1107 : (Jvm.Cond.laysFinal "GlassStreet$Walked" "GlassStreet$Walked" "person" "I") ∈ lw_all := lw_g (lw_at lw_m5 27 rfl) rfl
theorem q1108 : (Jvm.Cond.soleField "GlassStreet$Walked" "person") ∈ lw_all := lw_g (lw_at lw_m5 28 rfl) rfl
theorem q1109 : (Jvm.Cond.laysFinal "GlassStreet$Walked" "GlassStreet$Walked" "cell" "I") ∈ lw_all := lw_g (lw_at lw_m5 29 rfl) rfl
theorem q1110 : (Jvm.Cond.soleField "GlassStreet$Walked" "cell") ∈ lw_all := lw_g (lw_at lw_m5 30 rfl) rfl
theorem q1111 : (Jvm.Cond.superclass "GlassStreet$Walked" "GlassStreet$Line") ∈ lw_all := lw_g (lw_at lw_m5 31 rfl) rfl
theorem q1369 : (Jvm.Cond.selects "GlassStreet$Walked" ({ cls := "GlassStreet$Line", name := "isDone", desc := "(LGlassStreet;LGlassStreet$State;)Z" } : Jvm.MethodName) ({ cls := "GlassStreet$Walked", name := "isDone", desc := "(LGlassStreet;LGlassStreet$State;)Z" } : Jvm.MethodName)) ∈ lw_all := lw_g (lw_at lw_m6 49 rfl) rfl
theorem q1370 : (Jvm.Cond.instanceMethod ({ cls := "GlassStreet$Walked", name := "isDone", desc := "(LGlassStreet;LGlassStreet$State;)Z" } : Jvm.MethodName)) ∈ lw_all := lw_g (lw_at lw_m6 50 rfl) rfl
theorem q1371 : (Jvm.Cond.code ({ cls := "GlassStreet$Walked", name := "isDone", desc := "(LGlassStreet;LGlassStreet$State;)Z" } : Jvm.MethodName) prog_20_method_2_code (3 : Nat) (Option.some Jvm.ClassFile.FieldType.boolean)) ∈ lw_all := lw_g (lw_at lw_m6 51 rfl) rfl
theorem q1372 : (Jvm.Cond.methodLink "GlassStreet$Walked" (22 : Nat) ({ cls := "java/lang/Math", name := "abs", desc := "(I)I" } : Jvm.MethodName)) ∈ lw_all := lw_g (lw_at lw_m6 52 rfl) rfl
theorem q2195 : (Jvm.Cond.castable "GlassStreet$Walked" "GlassStreet$Line") ∈ lw_tbl := lw_at lw_m9 155 rfl
theorem q2217 : (Jvm.Cond.castable "GlassStreet$Walked" "java/lang/Object") ∈ lw_tbl := lw_at lw_m9 177 rfl
theorem in_X19 : ∀ w ∈ wsX190, w ∈ lw_all := lw_in wsX190 [1107, 1109] (by decide +kernel) (by decide +kernel)
/-! GlassStreet$Did -/
set_option maxRecDepth 100000
def RX20 : String := "GlassStreet$Did"
def TX20 : u_T := fun k => match k with
  | 0 => ("GlassStreet$Did", "person", "I", true)
  | _ => ("GlassStreet$Did", "deed", "I", true)
def tyX20 : Nat → FieldType := fun k => match k with
  | 0 => .int
  | _ => .int
abbrev wsX200 : List Cond := u_ws RX20 TX20 2
theorem nmX20 : ∀ a, a < 2 → ∀ b, b < 2 → a ≠ b → (TX20 a).2.1 ≠ (TX20 b).2.1 := by decide +kernel
theorem tyX20_ok : ∀ k, k < 2 → parseFieldDescriptor (TX20 k).2.2.1 = some (tyX20 k) := by decide +kernel
abbrev cX20_init : ByteArray := prog_3_method_1_code
def yX20_init : MethodName := ⟨RX20, "<init>", "(II)V"⟩
def dkwX20_init_0 : List UInt8 := [42, 183, 0, 1, 42, 27, 181, 0, 7, 42, 28, 181, 0, 13, 177]
abbrev dktX20_init_0 : List UInt8 := dkwX20_init_0 ++ []
theorem dksX20_init_0 : cX20_init.data.toList.drop 0 = dktX20_init_0 := by decide +kernel
theorem dX20_init_0 : decode cX20_init 0 = .ok (.aload_n 0, 1) := dk_42 (dk_at dksX20_init_0 0 rfl rfl)
theorem dX20_init_1 : decode cX20_init 1 = .ok (.invokespecial 1, 3) := dk_183 0 1 (dk_at dksX20_init_0 1 rfl rfl)
theorem dX20_init_4 : decode cX20_init 4 = .ok (.aload_n 0, 1) := dk_42 (dk_at dksX20_init_0 4 rfl rfl)
theorem dX20_init_5 : decode cX20_init 5 = .ok (.iload_n 1, 1) := dk_27 (dk_at dksX20_init_0 5 rfl rfl)
theorem dX20_init_6 : decode cX20_init 6 = .ok (.putfield 7, 3) := dk_181 0 7 (dk_at dksX20_init_0 6 rfl rfl)
theorem dX20_init_9 : decode cX20_init 9 = .ok (.aload_n 0, 1) := dk_42 (dk_at dksX20_init_0 9 rfl rfl)
theorem dX20_init_10 : decode cX20_init 10 = .ok (.iload_n 2, 1) := dk_28 (dk_at dksX20_init_0 10 rfl rfl)
theorem dX20_init_11 : decode cX20_init 11 = .ok (.putfield 13, 3) := dk_181 0 13 (dk_at dksX20_init_0 11 rfl rfl)
theorem dX20_init_14 : decode cX20_init 14 = .ok (.return_, 1) := dk_177 (dk_at dksX20_init_0 14 rfl rfl)
abbrev cX20_isDone : ByteArray := prog_3_method_2_code
def yX20_isDone : MethodName := ⟨RX20, "isDone", "(LGlassStreet;LGlassStreet$State;)Z"⟩
def dkwX20_isDone_0 : List UInt8 := [43, 44, 42, 180, 0, 7, 42, 180, 0, 13, 182, 0, 16, 87, 4, 172]
abbrev dktX20_isDone_0 : List UInt8 := dkwX20_isDone_0 ++ []
theorem dksX20_isDone_0 : cX20_isDone.data.toList.drop 0 = dktX20_isDone_0 := by decide +kernel
theorem dX20_isDone_0 : decode cX20_isDone 0 = .ok (.aload_n 1, 1) := dk_43 (dk_at dksX20_isDone_0 0 rfl rfl)
theorem dX20_isDone_1 : decode cX20_isDone 1 = .ok (.aload_n 2, 1) := dk_44 (dk_at dksX20_isDone_0 1 rfl rfl)
theorem dX20_isDone_2 : decode cX20_isDone 2 = .ok (.aload_n 0, 1) := dk_42 (dk_at dksX20_isDone_0 2 rfl rfl)
theorem dX20_isDone_3 : decode cX20_isDone 3 = .ok (.getfield 7, 3) := dk_180 0 7 (dk_at dksX20_isDone_0 3 rfl rfl)
theorem dX20_isDone_6 : decode cX20_isDone 6 = .ok (.aload_n 0, 1) := dk_42 (dk_at dksX20_isDone_0 6 rfl rfl)
theorem dX20_isDone_7 : decode cX20_isDone 7 = .ok (.getfield 13, 3) := dk_180 0 13 (dk_at dksX20_isDone_0 7 rfl rfl)
theorem dX20_isDone_10 : decode cX20_isDone 10 = .ok (.invokevirtual 16, 3) := dk_182 0 16 (dk_at dksX20_isDone_0 10 rfl rfl)
theorem dX20_isDone_13 : decode cX20_isDone 13 = .ok (.pop, 1) := dk_87 (dk_at dksX20_isDone_0 13 rfl rfl)
theorem dX20_isDone_14 : decode cX20_isDone 14 = .ok (.iconst 1, 1) := dk_4 (dk_at dksX20_isDone_0 14 rfl rfl)
theorem dX20_isDone_15 : decode cX20_isDone 15 = .ok (.ireturn, 1) := dk_172 (dk_at dksX20_isDone_0 15 rfl rfl)
theorem q158 : (Jvm.Cond.initialized "GlassStreet$Did") ∈ lw_all := lw_g (lw_at lw_m1 38 rfl) rfl
theorem q955 : (Jvm.Cond.selects "GlassStreet$Did" ({ cls := "java/lang/Object", name := "getClass", desc := "()Ljava/lang/Class;" } : Jvm.MethodName) ({ cls := "java/lang/Object", name := "getClass", desc := "()Ljava/lang/Class;" } : Jvm.MethodName)) ∈ lw_all := lw_g (lw_at lw_m4 115 rfl) rfl
theorem q1113 : (Jvm.Cond.instantiable "GlassStreet$Did" (2 : Nat)) ∈ lw_all := lw_g (lw_at lw_m5 33 rfl) rfl
theorem q1115 : (Jvm.Cond.instanceMethod ({ cls := "GlassStreet$Did", name := "<init>", desc := "(II)V" } : Jvm.MethodName)) ∈ lw_all := lw_g (lw_at lw_m5 35 rfl) rfl
theorem q1116 : (Jvm.Cond.code ({ cls := "GlassStreet$Did", name := "<init>", desc := "(II)V" } : Jvm.MethodName) prog_3_method_1_code (3 : Nat) (Option.none : Option Jvm.ClassFile.FieldType)) ∈ lw_all := lw_g (lw_at lw_m5 36 rfl) rfl
theorem q1117 : (Jvm.Cond.methodLinkNest "GlassStreet$Did" (1 : Nat) ({ cls := "GlassStreet$Line", name := "<init>", desc := "()V" } : Jvm.MethodName) "GlassStreet") ∈ lw_tbl := lw_at lw_m5 37 rfl
theorem q1118 : (Jvm.Cond.fieldLink "GlassStreet$Did" (7 : Nat) "GlassStreet$Did" "person" "I") ∈ lw_all := lw_g (lw_at lw_m5 38 rfl) rfl
theorem q1120 : (Jvm.Cond.fieldLink "GlassStreet$Did" (13 : Nat) "GlassStreet$Did" "deed" "I") ∈ lw_all := lw_g (lw_at lw_m5 40 rfl) rfl
theorem q1121 : (Jvm.Cond.laysFinal "GlassStreet$Did" "GlassStreet$Did" "person" "I") ∈ lw_all := lw_g (lw_at lw_m5 41 rfl) rfl
theorem q1122 : (Jvm.Cond.soleField "GlassStreet$Did" "person") ∈ lw_all := lw_g (lw_at lw_m5 42 rfl) rfl
theorem q1123 : (Jvm.Cond.laysFinal "GlassStreet$Did" "GlassStreet$Did" "deed" "I") ∈ lw_all := lw_g (lw_at lw_m5 43 rfl) rfl
theorem q1124 : (Jvm.Cond.soleField "GlassStreet$Did" "deed") ∈ lw_all := lw_g (lw_at lw_m5 44 rfl) rfl
theorem q1125 : (Jvm.Cond.superclass "GlassStreet$Did" "GlassStreet$Line") ∈ lw_all := lw_g (lw_at lw_m5 45 rfl) rfl
theorem q1361 : (Jvm.Cond.selects "GlassStreet$Did" ({ cls := "GlassStreet$Line", name := "isDone", desc := "(LGlassStreet;LGlassStreet$State;)Z" } : Jvm.MethodName) ({ cls := "GlassStreet$Did", name := "isDone", desc := "(LGlassStreet;LGlassStreet$State;)Z" } : Jvm.MethodName)) ∈ lw_all := lw_g (lw_at lw_m6 41 rfl) rfl
theorem q1362 : (Jvm.Cond.instanceMethod ({ cls := "GlassStreet$Did", name := "isDone", desc := "(LGlassStreet;LGlassStreet$State;)Z" } : Jvm.MethodName)) ∈ lw_all := lw_g (lw_at lw_m6 42 rfl) rfl
theorem q1363 : (Jvm.Cond.code ({ cls := "GlassStreet$Did", name := "isDone", desc := "(LGlassStreet;LGlassStreet$State;)Z" } : Jvm.MethodName) prog_3_method_2_code (3 : Nat) (Option.some Jvm.ClassFile.FieldType.boolean)) ∈ lw_all := lw_g (lw_at lw_m6 43 rfl) rfl
theorem q1364 : (Jvm.Cond.methodLinkNest "GlassStreet$Did" (16 : Nat) ({ cls := "GlassStreet", name := "done", desc := "(LGlassStreet$State;II)I" } : Jvm.MethodName) "GlassStreet") ∈ lw_tbl := lw_at lw_m6 44 rfl
theorem q2193 : (Jvm.Cond.castable "GlassStreet$Did" "GlassStreet$Line") ∈ lw_tbl := lw_at lw_m9 153 rfl
theorem q2218 : (Jvm.Cond.castable "GlassStreet$Did" "java/lang/Object") ∈ lw_tbl := lw_at lw_m9 178 rfl
theorem in_X20 : ∀ w ∈ wsX200, w ∈ lw_all := lw_in wsX200 [1121, 1123] (by decide +kernel) (by decide +kernel)
/-! GlassStreet$Washed -/
set_option maxRecDepth 100000
def RX21 : String := "GlassStreet$Washed"
def TX21 : u_T := fun k => match k with
  | _ => ("GlassStreet$Washed", "pane", "I", true)
def tyX21 : Nat → FieldType := fun k => match k with
  | _ => .int
abbrev wsX210 : List Cond := u_ws RX21 TX21 1
theorem nmX21 : ∀ a, a < 1 → ∀ b, b < 1 → a ≠ b → (TX21 a).2.1 ≠ (TX21 b).2.1 := by decide +kernel
theorem tyX21_ok : ∀ k, k < 1 → parseFieldDescriptor (TX21 k).2.2.1 = some (tyX21 k) := by decide +kernel
abbrev cX21_init : ByteArray := prog_21_method_1_code
def yX21_init : MethodName := ⟨RX21, "<init>", "(I)V"⟩
def dkwX21_init_0 : List UInt8 := [42, 183, 0, 1, 42, 27, 181, 0, 7, 177]
abbrev dktX21_init_0 : List UInt8 := dkwX21_init_0 ++ []
theorem dksX21_init_0 : cX21_init.data.toList.drop 0 = dktX21_init_0 := by decide +kernel
theorem dX21_init_0 : decode cX21_init 0 = .ok (.aload_n 0, 1) := dk_42 (dk_at dksX21_init_0 0 rfl rfl)
theorem dX21_init_1 : decode cX21_init 1 = .ok (.invokespecial 1, 3) := dk_183 0 1 (dk_at dksX21_init_0 1 rfl rfl)
theorem dX21_init_4 : decode cX21_init 4 = .ok (.aload_n 0, 1) := dk_42 (dk_at dksX21_init_0 4 rfl rfl)
theorem dX21_init_5 : decode cX21_init 5 = .ok (.iload_n 1, 1) := dk_27 (dk_at dksX21_init_0 5 rfl rfl)
theorem dX21_init_6 : decode cX21_init 6 = .ok (.putfield 7, 3) := dk_181 0 7 (dk_at dksX21_init_0 6 rfl rfl)
theorem dX21_init_9 : decode cX21_init 9 = .ok (.return_, 1) := dk_177 (dk_at dksX21_init_0 9 rfl rfl)
abbrev cX21_isDone : ByteArray := prog_21_method_2_code
def yX21_isDone : MethodName := ⟨RX21, "isDone", "(LGlassStreet;LGlassStreet$State;)Z"⟩
def dkwX21_isDone_1 : List UInt8 := [180, 0, 25, 4, 100, 181, 0, 25, 4, 172]
abbrev dktX21_isDone_1 : List UInt8 := dkwX21_isDone_1 ++ []
def dkwX21_isDone_0 : List UInt8 := [43, 44, 42, 180, 0, 7, 182, 0, 13, 154, 0, 5, 3, 172, 44, 180, 0, 19, 42, 180, 0, 7, 50, 89]
abbrev dktX21_isDone_0 : List UInt8 := dkwX21_isDone_0 ++ dktX21_isDone_1
theorem dksX21_isDone_0 : cX21_isDone.data.toList.drop 0 = dktX21_isDone_0 := by decide +kernel
theorem dksX21_isDone_1 : cX21_isDone.data.toList.drop 24 = dktX21_isDone_1 := dk_seg dksX21_isDone_0 24 rfl rfl
theorem dX21_isDone_0 : decode cX21_isDone 0 = .ok (.aload_n 1, 1) := dk_43 (dk_at dksX21_isDone_0 0 rfl rfl)
theorem dX21_isDone_1 : decode cX21_isDone 1 = .ok (.aload_n 2, 1) := dk_44 (dk_at dksX21_isDone_0 1 rfl rfl)
theorem dX21_isDone_2 : decode cX21_isDone 2 = .ok (.aload_n 0, 1) := dk_42 (dk_at dksX21_isDone_0 2 rfl rfl)
theorem dX21_isDone_3 : decode cX21_isDone 3 = .ok (.getfield 7, 3) := dk_180 0 7 (dk_at dksX21_isDone_0 3 rfl rfl)
theorem dX21_isDone_6 : decode cX21_isDone 6 = .ok (.invokevirtual 13, 3) := dk_182 0 13 (dk_at dksX21_isDone_0 6 rfl rfl)
theorem dX21_isDone_9 : decode cX21_isDone 9 = .ok (.ifCond .ne 5, 3) := dk_154 0 5 (dk_at dksX21_isDone_0 9 rfl rfl)
theorem dX21_isDone_12 : decode cX21_isDone 12 = .ok (.iconst 0, 1) := dk_3 (dk_at dksX21_isDone_0 12 rfl rfl)
theorem dX21_isDone_13 : decode cX21_isDone 13 = .ok (.ireturn, 1) := dk_172 (dk_at dksX21_isDone_0 13 rfl rfl)
theorem dX21_isDone_14 : decode cX21_isDone 14 = .ok (.aload_n 2, 1) := dk_44 (dk_at dksX21_isDone_0 14 rfl rfl)
theorem dX21_isDone_15 : decode cX21_isDone 15 = .ok (.getfield 19, 3) := dk_180 0 19 (dk_at dksX21_isDone_0 15 rfl rfl)
theorem dX21_isDone_18 : decode cX21_isDone 18 = .ok (.aload_n 0, 1) := dk_42 (dk_at dksX21_isDone_0 18 rfl rfl)
theorem dX21_isDone_19 : decode cX21_isDone 19 = .ok (.getfield 7, 3) := dk_180 0 7 (dk_at dksX21_isDone_0 19 rfl rfl)
theorem dX21_isDone_22 : decode cX21_isDone 22 = .ok (.aaload, 1) := dk_50 (dk_at dksX21_isDone_0 22 rfl rfl)
theorem dX21_isDone_23 : decode cX21_isDone 23 = .ok (.dup, 1) := dk_89 (dk_at dksX21_isDone_0 23 rfl rfl)
theorem dX21_isDone_24 : decode cX21_isDone 24 = .ok (.getfield 25, 3) := dk_180 0 25 (dk_at dksX21_isDone_1 0 rfl rfl)
theorem dX21_isDone_27 : decode cX21_isDone 27 = .ok (.iconst 1, 1) := dk_4 (dk_at dksX21_isDone_1 3 rfl rfl)
theorem dX21_isDone_28 : decode cX21_isDone 28 = .ok (.isub, 1) := dk_100 (dk_at dksX21_isDone_1 4 rfl rfl)
theorem dX21_isDone_29 : decode cX21_isDone 29 = .ok (.putfield 25, 3) := dk_181 0 25 (dk_at dksX21_isDone_1 5 rfl rfl)
theorem dX21_isDone_32 : decode cX21_isDone 32 = .ok (.iconst 1, 1) := dk_4 (dk_at dksX21_isDone_1 8 rfl rfl)
theorem dX21_isDone_33 : decode cX21_isDone 33 = .ok (.ireturn, 1) := dk_172 (dk_at dksX21_isDone_1 9 rfl rfl)
theorem q159 : (Jvm.Cond.initialized "GlassStreet$Washed") ∈ lw_all := lw_g (lw_at lw_m1 39 rfl) rfl
theorem q300 : (Jvm.Cond.fieldLinkNest "GlassStreet$Washed" (25 : Nat) "GlassStreet$Marks" "many" "I" "GlassStreet") ∈ lw_tbl := lw_at lw_m1 180 rfl
theorem q319 : (Jvm.Cond.fieldLinkNest "GlassStreet$Washed" (19 : Nat) "GlassStreet$State" "marks" "[LGlassStreet$Marks;" "GlassStreet") ∈ lw_tbl := lw_at lw_m1 199 rfl
theorem q971 : (Jvm.Cond.selects "GlassStreet$Washed" ({ cls := "java/lang/Object", name := "getClass", desc := "()Ljava/lang/Class;" } : Jvm.MethodName) ({ cls := "java/lang/Object", name := "getClass", desc := "()Ljava/lang/Class;" } : Jvm.MethodName)) ∈ lw_all := lw_g (lw_at lw_m4 131 rfl) rfl
theorem q1127 : (Jvm.Cond.instantiable "GlassStreet$Washed" (1 : Nat)) ∈ lw_all := lw_g (lw_at lw_m5 47 rfl) rfl
theorem q1129 : (Jvm.Cond.instanceMethod ({ cls := "GlassStreet$Washed", name := "<init>", desc := "(I)V" } : Jvm.MethodName)) ∈ lw_all := lw_g (lw_at lw_m5 49 rfl) rfl
theorem q1130 : (Jvm.Cond.code ({ cls := "GlassStreet$Washed", name := "<init>", desc := "(I)V" } : Jvm.MethodName) prog_21_method_1_code (2 : Nat) (Option.none : Option Jvm.ClassFile.FieldType)) ∈ lw_all := lw_g (lw_at lw_m5 50 rfl) rfl
theorem q1131 : (Jvm.Cond.methodLinkNest "GlassStreet$Washed" (1 : Nat) ({ cls := "GlassStreet$Line", name := "<init>", desc := "()V" } : Jvm.MethodName) "GlassStreet") ∈ lw_tbl := lw_at lw_m5 51 rfl
theorem q1132 : (Jvm.Cond.fieldLink "GlassStreet$Washed" (7 : Nat) "GlassStreet$Washed" "pane" "I") ∈ lw_all := lw_g (lw_at lw_m5 52 rfl) rfl
theorem q1133 : (Jvm.Cond.laysFinal "GlassStreet$Washed" "GlassStreet$Washed" "pane" "I") ∈ lw_all := lw_g (lw_at lw_m5 53 rfl) rfl
theorem q1134 : (Jvm.Cond.soleField "GlassStreet$Washed" "pane") ∈ lw_all := lw_g (lw_at lw_m5 54 rfl) rfl
theorem q1135 : (Jvm.Cond.superclass "GlassStreet$Washed" "GlassStreet$Line") ∈ lw_all := lw_g (lw_at lw_m5 55 rfl) rfl
theorem q1373 : (Jvm.Cond.selects "GlassStreet$Washed" ({ cls := "GlassStreet$Line", name := "isDone", desc := "(LGlassStreet;LGlassStreet$State;)Z" } : Jvm.MethodName) ({ cls := "GlassStreet$Washed", name := "isDone", desc := "(LGlassStreet;LGlassStreet$State;)Z" } : Jvm.MethodName)) ∈ lw_all := lw_g (lw_at lw_m6 53 rfl) rfl
theorem q1374 : (Jvm.Cond.instanceMethod ({ cls := "GlassStreet$Washed", name := "isDone", desc := "(LGlassStreet;LGlassStreet$State;)Z" } : Jvm.MethodName)) ∈ lw_all := lw_g (lw_at lw_m6 54 rfl) rfl
theorem q1375 : (Jvm.Cond.code ({ cls := "GlassStreet$Washed", name := "isDone", desc := "(LGlassStreet;LGlassStreet$State;)Z" } : Jvm.MethodName) prog_21_method_2_code (3 : Nat) (Option.some Jvm.ClassFile.FieldType.boolean)) ∈ lw_all := lw_g (lw_at lw_m6 55 rfl) rfl
theorem q1376 : (Jvm.Cond.methodLinkNest "GlassStreet$Washed" (13 : Nat) ({ cls := "GlassStreet", name := "canWash", desc := "(LGlassStreet$State;I)Z" } : Jvm.MethodName) "GlassStreet") ∈ lw_tbl := lw_at lw_m6 56 rfl
theorem q2196 : (Jvm.Cond.castable "GlassStreet$Washed" "GlassStreet$Line") ∈ lw_tbl := lw_at lw_m9 156 rfl
theorem q2219 : (Jvm.Cond.castable "GlassStreet$Washed" "java/lang/Object") ∈ lw_tbl := lw_at lw_m9 179 rfl
theorem in_X21 : ∀ w ∈ wsX210, w ∈ lw_all := lw_in wsX210 [1133] (by decide +kernel) (by decide +kernel)
/-! GlassStreet$Changed -/
set_option maxRecDepth 100000
def RX22 : String := "GlassStreet$Changed"
def TX22 : u_T := fun k => match k with
  | 0 => ("GlassStreet$Changed", "pane", "I", true)
  | _ => ("GlassStreet$Changed", "isStone", "Z", true)
def tyX22 : Nat → FieldType := fun k => match k with
  | 0 => .int
  | _ => .boolean
abbrev wsX220 : List Cond := u_ws RX22 TX22 2
theorem nmX22 : ∀ a, a < 2 → ∀ b, b < 2 → a ≠ b → (TX22 a).2.1 ≠ (TX22 b).2.1 := by decide +kernel
theorem tyX22_ok : ∀ k, k < 2 → parseFieldDescriptor (TX22 k).2.2.1 = some (tyX22 k) := by decide +kernel
abbrev cX22_init : ByteArray := prog_2_method_1_code
def yX22_init : MethodName := ⟨RX22, "<init>", "(IZ)V"⟩
def dkwX22_init_0 : List UInt8 := [42, 183, 0, 1, 42, 27, 181, 0, 7, 42, 28, 181, 0, 13, 177]
abbrev dktX22_init_0 : List UInt8 := dkwX22_init_0 ++ []
theorem dksX22_init_0 : cX22_init.data.toList.drop 0 = dktX22_init_0 := by decide +kernel
theorem dX22_init_0 : decode cX22_init 0 = .ok (.aload_n 0, 1) := dk_42 (dk_at dksX22_init_0 0 rfl rfl)
theorem dX22_init_1 : decode cX22_init 1 = .ok (.invokespecial 1, 3) := dk_183 0 1 (dk_at dksX22_init_0 1 rfl rfl)
theorem dX22_init_4 : decode cX22_init 4 = .ok (.aload_n 0, 1) := dk_42 (dk_at dksX22_init_0 4 rfl rfl)
theorem dX22_init_5 : decode cX22_init 5 = .ok (.iload_n 1, 1) := dk_27 (dk_at dksX22_init_0 5 rfl rfl)
theorem dX22_init_6 : decode cX22_init 6 = .ok (.putfield 7, 3) := dk_181 0 7 (dk_at dksX22_init_0 6 rfl rfl)
theorem dX22_init_9 : decode cX22_init 9 = .ok (.aload_n 0, 1) := dk_42 (dk_at dksX22_init_0 9 rfl rfl)
theorem dX22_init_10 : decode cX22_init 10 = .ok (.iload_n 2, 1) := dk_28 (dk_at dksX22_init_0 10 rfl rfl)
theorem dX22_init_11 : decode cX22_init 11 = .ok (.putfield 13, 3) := dk_181 0 13 (dk_at dksX22_init_0 11 rfl rfl)
theorem dX22_init_14 : decode cX22_init 14 = .ok (.return_, 1) := dk_177 (dk_at dksX22_init_0 14 rfl rfl)
abbrev cX22_isDone : ByteArray := prog_2_method_2_code
def yX22_isDone : MethodName := ⟨RX22, "isDone", "(LGlassStreet;LGlassStreet$State;)Z"⟩
def dkwX22_isDone_2 : List UInt8 := [180, 0, 7, 120, 130, 181, 0, 26, 4, 172]
abbrev dktX22_isDone_2 : List UInt8 := dkwX22_isDone_2 ++ []
def dkwX22_isDone_1 : List UInt8 := [180, 0, 23, 4, 42, 180, 0, 7, 120, 128, 181, 0, 23, 167, 0, 18, 44, 89, 180, 0, 26, 4, 42]
abbrev dktX22_isDone_1 : List UInt8 := dkwX22_isDone_1 ++ dktX22_isDone_2
def dkwX22_isDone_0 : List UInt8 := [44, 42, 180, 0, 7, 182, 0, 17, 154, 0, 5, 3, 172, 42, 180, 0, 13, 153, 0, 21, 44, 89]
abbrev dktX22_isDone_0 : List UInt8 := dkwX22_isDone_0 ++ dktX22_isDone_1
theorem dksX22_isDone_0 : cX22_isDone.data.toList.drop 0 = dktX22_isDone_0 := by decide +kernel
theorem dksX22_isDone_1 : cX22_isDone.data.toList.drop 22 = dktX22_isDone_1 := dk_seg dksX22_isDone_0 22 rfl rfl
theorem dksX22_isDone_2 : cX22_isDone.data.toList.drop 45 = dktX22_isDone_2 := dk_seg dksX22_isDone_1 23 rfl rfl
theorem dX22_isDone_0 : decode cX22_isDone 0 = .ok (.aload_n 2, 1) := dk_44 (dk_at dksX22_isDone_0 0 rfl rfl)
theorem dX22_isDone_1 : decode cX22_isDone 1 = .ok (.aload_n 0, 1) := dk_42 (dk_at dksX22_isDone_0 1 rfl rfl)
theorem dX22_isDone_2 : decode cX22_isDone 2 = .ok (.getfield 7, 3) := dk_180 0 7 (dk_at dksX22_isDone_0 2 rfl rfl)
theorem dX22_isDone_5 : decode cX22_isDone 5 = .ok (.invokevirtual 17, 3) := dk_182 0 17 (dk_at dksX22_isDone_0 5 rfl rfl)
theorem dX22_isDone_8 : decode cX22_isDone 8 = .ok (.ifCond .ne 5, 3) := dk_154 0 5 (dk_at dksX22_isDone_0 8 rfl rfl)
theorem dX22_isDone_11 : decode cX22_isDone 11 = .ok (.iconst 0, 1) := dk_3 (dk_at dksX22_isDone_0 11 rfl rfl)
theorem dX22_isDone_12 : decode cX22_isDone 12 = .ok (.ireturn, 1) := dk_172 (dk_at dksX22_isDone_0 12 rfl rfl)
theorem dX22_isDone_13 : decode cX22_isDone 13 = .ok (.aload_n 0, 1) := dk_42 (dk_at dksX22_isDone_0 13 rfl rfl)
theorem dX22_isDone_14 : decode cX22_isDone 14 = .ok (.getfield 13, 3) := dk_180 0 13 (dk_at dksX22_isDone_0 14 rfl rfl)
theorem dX22_isDone_17 : decode cX22_isDone 17 = .ok (.ifCond .eq 21, 3) := dk_153 0 21 (dk_at dksX22_isDone_0 17 rfl rfl)
theorem dX22_isDone_20 : decode cX22_isDone 20 = .ok (.aload_n 2, 1) := dk_44 (dk_at dksX22_isDone_0 20 rfl rfl)
theorem dX22_isDone_21 : decode cX22_isDone 21 = .ok (.dup, 1) := dk_89 (dk_at dksX22_isDone_0 21 rfl rfl)
theorem dX22_isDone_22 : decode cX22_isDone 22 = .ok (.getfield 23, 3) := dk_180 0 23 (dk_at dksX22_isDone_1 0 rfl rfl)
theorem dX22_isDone_25 : decode cX22_isDone 25 = .ok (.iconst 1, 1) := dk_4 (dk_at dksX22_isDone_1 3 rfl rfl)
theorem dX22_isDone_26 : decode cX22_isDone 26 = .ok (.aload_n 0, 1) := dk_42 (dk_at dksX22_isDone_1 4 rfl rfl)
theorem dX22_isDone_27 : decode cX22_isDone 27 = .ok (.getfield 7, 3) := dk_180 0 7 (dk_at dksX22_isDone_1 5 rfl rfl)
theorem dX22_isDone_30 : decode cX22_isDone 30 = .ok (.ishl, 1) := dk_120 (dk_at dksX22_isDone_1 8 rfl rfl)
theorem dX22_isDone_31 : decode cX22_isDone 31 = .ok (.ior, 1) := dk_128 (dk_at dksX22_isDone_1 9 rfl rfl)
theorem dX22_isDone_32 : decode cX22_isDone 32 = .ok (.putfield 23, 3) := dk_181 0 23 (dk_at dksX22_isDone_1 10 rfl rfl)
theorem dX22_isDone_35 : decode cX22_isDone 35 = .ok (.goto 18, 3) := dk_167 0 18 (dk_at dksX22_isDone_1 13 rfl rfl)
theorem dX22_isDone_38 : decode cX22_isDone 38 = .ok (.aload_n 2, 1) := dk_44 (dk_at dksX22_isDone_1 16 rfl rfl)
theorem dX22_isDone_39 : decode cX22_isDone 39 = .ok (.dup, 1) := dk_89 (dk_at dksX22_isDone_1 17 rfl rfl)
theorem dX22_isDone_40 : decode cX22_isDone 40 = .ok (.getfield 26, 3) := dk_180 0 26 (dk_at dksX22_isDone_1 18 rfl rfl)
theorem dX22_isDone_43 : decode cX22_isDone 43 = .ok (.iconst 1, 1) := dk_4 (dk_at dksX22_isDone_1 21 rfl rfl)
theorem dX22_isDone_44 : decode cX22_isDone 44 = .ok (.aload_n 0, 1) := dk_42 (dk_at dksX22_isDone_1 22 rfl rfl)
theorem dX22_isDone_45 : decode cX22_isDone 45 = .ok (.getfield 7, 3) := dk_180 0 7 (dk_at dksX22_isDone_2 0 rfl rfl)
theorem dX22_isDone_48 : decode cX22_isDone 48 = .ok (.ishl, 1) := dk_120 (dk_at dksX22_isDone_2 3 rfl rfl)
theorem dX22_isDone_49 : decode cX22_isDone 49 = .ok (.ixor, 1) := dk_130 (dk_at dksX22_isDone_2 4 rfl rfl)
theorem dX22_isDone_50 : decode cX22_isDone 50 = .ok (.putfield 26, 3) := dk_181 0 26 (dk_at dksX22_isDone_2 5 rfl rfl)
theorem dX22_isDone_53 : decode cX22_isDone 53 = .ok (.iconst 1, 1) := dk_4 (dk_at dksX22_isDone_2 8 rfl rfl)
theorem dX22_isDone_54 : decode cX22_isDone 54 = .ok (.ireturn, 1) := dk_172 (dk_at dksX22_isDone_2 9 rfl rfl)
theorem q160 : (Jvm.Cond.initialized "GlassStreet$Changed") ∈ lw_all := lw_g (lw_at lw_m1 40 rfl) rfl
theorem q323 : (Jvm.Cond.fieldLinkNest "GlassStreet$Changed" (26 : Nat) "GlassStreet$State" "drawn" "I" "GlassStreet") ∈ lw_tbl := lw_at lw_m1 203 rfl
theorem q326 : (Jvm.Cond.fieldLinkNest "GlassStreet$Changed" (23 : Nat) "GlassStreet$State" "gone" "I" "GlassStreet") ∈ lw_tbl := lw_at lw_m1 206 rfl
theorem q954 : (Jvm.Cond.selects "GlassStreet$Changed" ({ cls := "java/lang/Object", name := "getClass", desc := "()Ljava/lang/Class;" } : Jvm.MethodName) ({ cls := "java/lang/Object", name := "getClass", desc := "()Ljava/lang/Class;" } : Jvm.MethodName)) ∈ lw_all := lw_g (lw_at lw_m4 114 rfl) rfl
theorem q1137 : (Jvm.Cond.instantiable "GlassStreet$Changed" (2 : Nat)) ∈ lw_all := lw_g (lw_at lw_m5 57 rfl) rfl
theorem q1139 : (Jvm.Cond.instanceMethod ({ cls := "GlassStreet$Changed", name := "<init>", desc := "(IZ)V" } : Jvm.MethodName)) ∈ lw_all := lw_g (lw_at lw_m5 59 rfl) rfl
theorem q1140 : (Jvm.Cond.code ({ cls := "GlassStreet$Changed", name := "<init>", desc := "(IZ)V" } : Jvm.MethodName) prog_2_method_1_code (3 : Nat) (Option.none : Option Jvm.ClassFile.FieldType)) ∈ lw_all := lw_g (lw_at lw_m5 60 rfl) rfl
theorem q1141 : (Jvm.Cond.methodLinkNest "GlassStreet$Changed" (1 : Nat) ({ cls := "GlassStreet$Line", name := "<init>", desc := "()V" } : Jvm.MethodName) "GlassStreet") ∈ lw_tbl := lw_at lw_m5 61 rfl
theorem q1142 : (Jvm.Cond.fieldLink "GlassStreet$Changed" (7 : Nat) "GlassStreet$Changed" "pane" "I") ∈ lw_all := lw_g (lw_at lw_m5 62 rfl) rfl
theorem q1143 : (Jvm.Cond.fieldLink "GlassStreet$Changed" (13 : Nat) "GlassStreet$Changed" "isStone" "Z") ∈ lw_all := lw_g (lw_at lw_m5 63 rfl) rfl
theorem q1144 : (Jvm.Cond.laysFinal "GlassStreet$Changed" "GlassStreet$Changed" "pane" "I") ∈ lw_all := lw_g (lw_at lw_m5 64 rfl) rfl
theorem q1145 : (Jvm.Cond.soleField "GlassStreet$Changed" "pane") ∈ lw_all := lw_g (lw_at lw_m5 65 rfl) rfl
theorem q1146 : (Jvm.Cond.laysFinal "GlassStreet$Changed" "GlassStreet$Changed" "isStone" "Z") ∈ lw_all := lw_g (lw_at lw_m5 66 rfl) rfl
theorem q1147 : (Jvm.Cond.soleField "GlassStreet$Changed" "isStone") ∈ lw_all := lw_g (lw_at lw_m5 67 rfl) rfl
theorem q1148 : (Jvm.Cond.superclass "GlassStreet$Changed" "GlassStreet$Line") ∈ lw_all := lw_g (lw_at lw_m5 68 rfl) rfl
theorem q1357 : (Jvm.Cond.selects "GlassStreet$Changed" ({ cls := "GlassStreet$Line", name := "isDone", desc := "(LGlassStreet;LGlassStreet$State;)Z" } : Jvm.MethodName) ({ cls := "GlassStreet$Changed", name := "isDone", desc := "(LGlassStreet;LGlassStreet$State;)Z" } : Jvm.MethodName)) ∈ lw_all := lw_g (lw_at lw_m6 37 rfl) rfl
theorem q1358 : (Jvm.Cond.instanceMethod ({ cls := "GlassStreet$Changed", name := "isDone", desc := "(LGlassStreet;LGlassStreet$State;)Z" } : Jvm.MethodName)) ∈ lw_all := lw_g (lw_at lw_m6 38 rfl) rfl
theorem q1359 : (Jvm.Cond.code ({ cls := "GlassStreet$Changed", name := "isDone", desc := "(LGlassStreet;LGlassStreet$State;)Z" } : Jvm.MethodName) prog_2_method_2_code (3 : Nat) (Option.some Jvm.ClassFile.FieldType.boolean)) ∈ lw_all := lw_g (lw_at lw_m6 39 rfl) rfl
theorem q1360 : (Jvm.Cond.methodLink "GlassStreet$Changed" (17 : Nat) ({ cls := "GlassStreet$State", name := "isWhole", desc := "(I)Z" } : Jvm.MethodName)) ∈ lw_all := lw_g (lw_at lw_m6 40 rfl) rfl
theorem q2192 : (Jvm.Cond.castable "GlassStreet$Changed" "GlassStreet$Line") ∈ lw_tbl := lw_at lw_m9 152 rfl
theorem q2220 : (Jvm.Cond.castable "GlassStreet$Changed" "java/lang/Object") ∈ lw_tbl := lw_at lw_m9 180 rfl
theorem in_X22 : ∀ w ∈ wsX220, w ∈ lw_all := lw_in wsX220 [1144, 1146] (by decide +kernel) (by decide +kernel)
/-! GlassStreet$Notch -/
set_option maxRecDepth 100000
def RX23 : String := "GlassStreet$Notch"
def TX23 : u_T := fun k => match k with
  | 0 => ("GlassStreet$Notch", "state", "LGlassStreet$State;", true)
  | _ => ("GlassStreet$Notch", "said", "[I", true)
def tyX23 : Nat → FieldType := fun k => match k with
  | 0 => .object "GlassStreet$State"
  | _ => .array .int
abbrev wsX230 : List Cond := u_ws RX23 TX23 2
theorem nmX23 : ∀ a, a < 2 → ∀ b, b < 2 → a ≠ b → (TX23 a).2.1 ≠ (TX23 b).2.1 := by decide +kernel
theorem tyX23_ok : ∀ k, k < 2 → parseFieldDescriptor (TX23 k).2.2.1 = some (tyX23 k) := by decide +kernel
abbrev cX23_init : ByteArray := prog_13_method_1_code
def yX23_init : MethodName := ⟨RX23, "<init>", "()V"⟩
def dkwX23_init_0 : List UInt8 := [42, 183, 0, 3, 42, 187, 0, 9, 89, 183, 0, 11, 181, 0, 12, 42, 16, 6, 188, 10, 181, 0, 18, 177]
abbrev dktX23_init_0 : List UInt8 := dkwX23_init_0 ++ []
theorem dksX23_init_0 : cX23_init.data.toList.drop 0 = dktX23_init_0 := by decide +kernel
theorem dX23_init_0 : decode cX23_init 0 = .ok (.aload_n 0, 1) := dk_42 (dk_at dksX23_init_0 0 rfl rfl)
theorem dX23_init_1 : decode cX23_init 1 = .ok (.invokespecial 3, 3) := dk_183 0 3 (dk_at dksX23_init_0 1 rfl rfl)
theorem dX23_init_4 : decode cX23_init 4 = .ok (.aload_n 0, 1) := dk_42 (dk_at dksX23_init_0 4 rfl rfl)
theorem dX23_init_5 : decode cX23_init 5 = .ok (.new 9, 3) := dk_187 0 9 (dk_at dksX23_init_0 5 rfl rfl)
theorem dX23_init_8 : decode cX23_init 8 = .ok (.dup, 1) := dk_89 (dk_at dksX23_init_0 8 rfl rfl)
theorem dX23_init_9 : decode cX23_init 9 = .ok (.invokespecial 11, 3) := dk_183 0 11 (dk_at dksX23_init_0 9 rfl rfl)
theorem dX23_init_12 : decode cX23_init 12 = .ok (.putfield 12, 3) := dk_181 0 12 (dk_at dksX23_init_0 12 rfl rfl)
theorem dX23_init_15 : decode cX23_init 15 = .ok (.aload_n 0, 1) := dk_42 (dk_at dksX23_init_0 15 rfl rfl)
theorem dX23_init_16 : decode cX23_init 16 = .ok (.bipush 6, 2) := dk_16 6 (dk_at dksX23_init_0 16 rfl rfl)
theorem dX23_init_18 : decode cX23_init 18 = .ok (.newarray .int, 2) := dk_188_10 (dk_at dksX23_init_0 18 rfl rfl)
theorem dX23_init_20 : decode cX23_init 20 = .ok (.putfield 18, 3) := dk_181 0 18 (dk_at dksX23_init_0 20 rfl rfl)
theorem dX23_init_23 : decode cX23_init 23 = .ok (.return_, 1) := dk_177 (dk_at dksX23_init_0 23 rfl rfl)
theorem q163 : (Jvm.Cond.initialized "GlassStreet$Notch") ∈ lw_all := lw_g (lw_at lw_m1 43 rfl) rfl
theorem q963 : (Jvm.Cond.selects "GlassStreet$Notch" ({ cls := "java/lang/Object", name := "getClass", desc := "()Ljava/lang/Class;" } : Jvm.MethodName) ({ cls := "java/lang/Object", name := "getClass", desc := "()Ljava/lang/Class;" } : Jvm.MethodName)) ∈ lw_all := lw_g (lw_at lw_m4 123 rfl) rfl
theorem q1523 : (Jvm.Cond.instantiable "GlassStreet$Notch" (2 : Nat)) ∈ lw_all := lw_g (lw_at lw_m6 203 rfl) rfl
theorem q1525 : (Jvm.Cond.instanceMethod ({ cls := "GlassStreet$Notch", name := "<init>", desc := "()V" } : Jvm.MethodName)) ∈ lw_all := lw_g (lw_at lw_m6 205 rfl) rfl
theorem q1526 : (Jvm.Cond.code ({ cls := "GlassStreet$Notch", name := "<init>", desc := "()V" } : Jvm.MethodName) prog_13_method_1_code (1 : Nat) (Option.none : Option Jvm.ClassFile.FieldType)) ∈ lw_all := lw_g (lw_at lw_m6 206 rfl) rfl
theorem q1527 : (Jvm.Cond.methodLink "GlassStreet$Notch" (3 : Nat) ({ cls := "java/lang/Object", name := "<init>", desc := "()V" } : Jvm.MethodName)) ∈ lw_all := lw_g (lw_at lw_m6 207 rfl) rfl
theorem q1528 : (Jvm.Cond.classLink "GlassStreet$Notch" (9 : Nat) "GlassStreet$State") ∈ lw_all := lw_g (lw_at lw_m6 208 rfl) rfl
theorem q1529 : (Jvm.Cond.methodLink "GlassStreet$Notch" (11 : Nat) ({ cls := "GlassStreet$State", name := "<init>", desc := "()V" } : Jvm.MethodName)) ∈ lw_all := lw_g (lw_at lw_m6 209 rfl) rfl
theorem q1530 : (Jvm.Cond.fieldLink "GlassStreet$Notch" (12 : Nat) "GlassStreet$Notch" "state" "LGlassStreet$State;") ∈ lw_all := lw_g (lw_at lw_m6 210 rfl) rfl
theorem q1532 : (Jvm.Cond.fieldLink "GlassStreet$Notch" (18 : Nat) "GlassStreet$Notch" "said" "[I") ∈ lw_all := lw_g (lw_at lw_m6 212 rfl) rfl
theorem q1534 : (Jvm.Cond.laysFinal "GlassStreet$Notch" "GlassStreet$Notch" "state" "LGlassStreet$State;") ∈ lw_all := lw_g (lw_at lw_m6 214 rfl) rfl
theorem q1535 : (Jvm.Cond.soleField "GlassStreet$Notch" "state") ∈ lw_all := lw_g (lw_at lw_m6 215 rfl) rfl
theorem q1536 : (Jvm.Cond.laysFinal "GlassStreet$Notch" "GlassStreet$Notch" "said" "[I") ∈ lw_all := lw_g (lw_at lw_m6 216 rfl) rfl
theorem q1537 : (Jvm.Cond.soleField "GlassStreet$Notch" "said") ∈ lw_all := lw_g (lw_at lw_m6 217 rfl) rfl
theorem q1538 : (Jvm.Cond.superclass "GlassStreet$Notch" "java/lang/Object") ∈ lw_all := lw_g (lw_at lw_m6 218 rfl) rfl
theorem q2199 : (Jvm.Cond.castable "GlassStreet$Notch" "java/lang/Object") ∈ lw_tbl := lw_at lw_m9 159 rfl
theorem in_X23 : ∀ w ∈ wsX230, w ∈ lw_all := lw_in wsX230 [1534, 1536] (by decide +kernel) (by decide +kernel)
