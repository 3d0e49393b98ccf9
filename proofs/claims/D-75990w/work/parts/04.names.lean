/-! CornerClaimsModel -/
set_option maxRecDepth 100000
def RX4 : String := "CornerClaimsModel"
def TX4 : u_T := fun k => match k with
  | 0 => ("CornerClaimsModel", "thrown", "I", false)
  | 1 => ("CornerClaimsModel", "buffer", "[I", true)
  | 2 => ("CornerClaimsModel", "bufferLength", "I", false)
  | 3 => ("CornerClaimsModel", "textLength", "I", false)
  | 4 => ("CornerClaimsModel", "position", "I", false)
  | 5 => ("CornerClaimsModel", "error", "I", false)
  | 6 => ("CornerClaimsModel", "errorAt", "I", false)
  | 7 => ("CornerClaimsModel", "errorOffset", "I", false)
  | 8 => ("CornerClaimsModel", "data", "[I", true)
  | 9 => ("CornerClaimsModel", "old", "[I", true)
  | 10 => ("CornerClaimsModel", "history", "[[I", true)
  | 11 => ("CornerClaimsModel", "undoDepth", "I", false)
  | 12 => ("CornerClaimsModel", "goesPolygon", "I", false)
  | 13 => ("CornerClaimsModel", "goesOne", "I", false)
  | 14 => ("CornerClaimsModel", "goesTwo", "I", false)
  | 15 => ("CornerClaimsModel", "goesCorner", "I", false)
  | 16 => ("CornerClaimsModel", "numberStart", "I", false)
  | 17 => ("CornerClaimsModel", "nesting", "I", false)
  | 18 => ("CornerClaimsModel", "seen", "I", false)
  | _ => ("CornerClaimsModel", "stack", "[J", true)
def tyX4 : Nat → FieldType := fun k => match k with
  | 0 => .int
  | 1 => .array .int
  | 2 => .int
  | 3 => .int
  | 4 => .int
  | 5 => .int
  | 6 => .int
  | 7 => .int
  | 8 => .array .int
  | 9 => .array .int
  | 10 => .array (.array .int)
  | 11 => .int
  | 12 => .int
  | 13 => .int
  | 14 => .int
  | 15 => .int
  | 16 => .int
  | 17 => .int
  | 18 => .int
  | _ => .array .long
abbrev wsX40 : List Cond := u_ws RX4 TX4 20
set_option maxRecDepth 100000 in
theorem nmX4 : ∀ a, a < 20 → ∀ b, b < 20 → a ≠ b → (TX4 a).2.1 ≠ (TX4 b).2.1 := by decide +kernel
set_option maxRecDepth 100000 in
theorem tyX4_ok : ∀ k, k < 20 → parseFieldDescriptor (TX4 k).2.2.1 = some (tyX4 k) := by decide +kernel
abbrev cX4_init : ByteArray := prog_10_method_1_code
def yX4_init : MethodName := ⟨RX4, "<init>", "()V"⟩
def dkwX4_init_3 : List UInt8 := [5, 79, 177]
abbrev dktX4_init_3 : List UInt8 := dkwX4_init_3 ++ []
def dkwX4_init_2 : List UInt8 := [181, 0, 25, 42, 17, 5, 20, 188, 11, 181, 0, 28, 42, 180, 0, 17, 3, 5, 79, 42, 180, 0, 17, 4]
abbrev dktX4_init_2 : List UInt8 := dkwX4_init_2 ++ dktX4_init_3
def dkwX4_init_1 : List UInt8 := [181, 0, 17, 42, 17, 5, 248, 188, 10, 181, 0, 20, 42, 16, 8, 17, 5, 248, 197, 0, 23, 2]
abbrev dktX4_init_1 : List UInt8 := dkwX4_init_1 ++ dktX4_init_2
def dkwX4_init_0 : List UInt8 := [42, 183, 0, 3, 42, 17, 3, 32, 188, 10, 181, 0, 9, 42, 2, 181, 0, 13, 42, 17, 5, 248, 188, 10]
abbrev dktX4_init_0 : List UInt8 := dkwX4_init_0 ++ dktX4_init_1
theorem dksX4_init_0 : cX4_init.data.toList.drop 0 = dktX4_init_0 := by decide +kernel
theorem dksX4_init_1 : cX4_init.data.toList.drop 24 = dktX4_init_1 := dk_seg dksX4_init_0 24 rfl rfl
theorem dksX4_init_2 : cX4_init.data.toList.drop 46 = dktX4_init_2 := dk_seg dksX4_init_1 22 rfl rfl
theorem dksX4_init_3 : cX4_init.data.toList.drop 70 = dktX4_init_3 := dk_seg dksX4_init_2 24 rfl rfl
theorem dX4_init_0 : decode cX4_init 0 = .ok (.aload_n 0, 1) := dk_42 (dk_at dksX4_init_0 0 rfl rfl)
theorem dX4_init_1 : decode cX4_init 1 = .ok (.invokespecial 3, 3) := dk_183 0 3 (dk_at dksX4_init_0 1 rfl rfl)
theorem dX4_init_4 : decode cX4_init 4 = .ok (.aload_n 0, 1) := dk_42 (dk_at dksX4_init_0 4 rfl rfl)
theorem dX4_init_5 : decode cX4_init 5 = .ok (.sipush 800, 3) := dk_17 3 32 (dk_at dksX4_init_0 5 rfl rfl)
theorem dX4_init_8 : decode cX4_init 8 = .ok (.newarray .int, 2) := dk_188_10 (dk_at dksX4_init_0 8 rfl rfl)
theorem dX4_init_10 : decode cX4_init 10 = .ok (.putfield 9, 3) := dk_181 0 9 (dk_at dksX4_init_0 10 rfl rfl)
theorem dX4_init_13 : decode cX4_init 13 = .ok (.aload_n 0, 1) := dk_42 (dk_at dksX4_init_0 13 rfl rfl)
theorem dX4_init_14 : decode cX4_init 14 = .ok (.iconst (-1), 1) := dk_2 (dk_at dksX4_init_0 14 rfl rfl)
theorem dX4_init_15 : decode cX4_init 15 = .ok (.putfield 13, 3) := dk_181 0 13 (dk_at dksX4_init_0 15 rfl rfl)
theorem dX4_init_18 : decode cX4_init 18 = .ok (.aload_n 0, 1) := dk_42 (dk_at dksX4_init_0 18 rfl rfl)
theorem dX4_init_19 : decode cX4_init 19 = .ok (.sipush 1528, 3) := dk_17 5 248 (dk_at dksX4_init_0 19 rfl rfl)
theorem dX4_init_22 : decode cX4_init 22 = .ok (.newarray .int, 2) := dk_188_10 (dk_at dksX4_init_0 22 rfl rfl)
theorem dX4_init_24 : decode cX4_init 24 = .ok (.putfield 17, 3) := dk_181 0 17 (dk_at dksX4_init_1 0 rfl rfl)
theorem dX4_init_27 : decode cX4_init 27 = .ok (.aload_n 0, 1) := dk_42 (dk_at dksX4_init_1 3 rfl rfl)
theorem dX4_init_28 : decode cX4_init 28 = .ok (.sipush 1528, 3) := dk_17 5 248 (dk_at dksX4_init_1 4 rfl rfl)
theorem dX4_init_31 : decode cX4_init 31 = .ok (.newarray .int, 2) := dk_188_10 (dk_at dksX4_init_1 7 rfl rfl)
theorem dX4_init_33 : decode cX4_init 33 = .ok (.putfield 20, 3) := dk_181 0 20 (dk_at dksX4_init_1 9 rfl rfl)
theorem dX4_init_36 : decode cX4_init 36 = .ok (.aload_n 0, 1) := dk_42 (dk_at dksX4_init_1 12 rfl rfl)
theorem dX4_init_37 : decode cX4_init 37 = .ok (.bipush 8, 2) := dk_16 8 (dk_at dksX4_init_1 13 rfl rfl)
theorem dX4_init_39 : decode cX4_init 39 = .ok (.sipush 1528, 3) := dk_17 5 248 (dk_at dksX4_init_1 15 rfl rfl)
theorem dX4_init_42 : decode cX4_init 42 = .ok (.multianewarray 23 2, 4) := by decide +kernel
theorem dX4_init_46 : decode cX4_init 46 = .ok (.putfield 25, 3) := dk_181 0 25 (dk_at dksX4_init_2 0 rfl rfl)
theorem dX4_init_49 : decode cX4_init 49 = .ok (.aload_n 0, 1) := dk_42 (dk_at dksX4_init_2 3 rfl rfl)
theorem dX4_init_50 : decode cX4_init 50 = .ok (.sipush 1300, 3) := dk_17 5 20 (dk_at dksX4_init_2 4 rfl rfl)
theorem dX4_init_53 : decode cX4_init 53 = .ok (.newarray .long, 2) := dk_188_11 (dk_at dksX4_init_2 7 rfl rfl)
theorem dX4_init_55 : decode cX4_init 55 = .ok (.putfield 28, 3) := dk_181 0 28 (dk_at dksX4_init_2 9 rfl rfl)
theorem dX4_init_58 : decode cX4_init 58 = .ok (.aload_n 0, 1) := dk_42 (dk_at dksX4_init_2 12 rfl rfl)
theorem dX4_init_59 : decode cX4_init 59 = .ok (.getfield 17, 3) := dk_180 0 17 (dk_at dksX4_init_2 13 rfl rfl)
theorem dX4_init_62 : decode cX4_init 62 = .ok (.iconst 0, 1) := dk_3 (dk_at dksX4_init_2 16 rfl rfl)
theorem dX4_init_63 : decode cX4_init 63 = .ok (.iconst 2, 1) := dk_5 (dk_at dksX4_init_2 17 rfl rfl)
theorem dX4_init_64 : decode cX4_init 64 = .ok (.iastore, 1) := dk_79 (dk_at dksX4_init_2 18 rfl rfl)
theorem dX4_init_65 : decode cX4_init 65 = .ok (.aload_n 0, 1) := dk_42 (dk_at dksX4_init_2 19 rfl rfl)
theorem dX4_init_66 : decode cX4_init 66 = .ok (.getfield 17, 3) := dk_180 0 17 (dk_at dksX4_init_2 20 rfl rfl)
theorem dX4_init_69 : decode cX4_init 69 = .ok (.iconst 1, 1) := dk_4 (dk_at dksX4_init_2 23 rfl rfl)
theorem dX4_init_70 : decode cX4_init 70 = .ok (.iconst 2, 1) := dk_5 (dk_at dksX4_init_3 0 rfl rfl)
theorem dX4_init_71 : decode cX4_init 71 = .ok (.iastore, 1) := dk_79 (dk_at dksX4_init_3 1 rfl rfl)
theorem dX4_init_72 : decode cX4_init 72 = .ok (.return_, 1) := dk_177 (dk_at dksX4_init_3 2 rfl rfl)
abbrev cX4_thrown : ByteArray := prog_10_method_2_code
def yX4_thrown : MethodName := ⟨RX4, "thrown", "()I"⟩
theorem dX4_thrown_0 : decode cX4_thrown 0 = .ok (.aload_n 0, 1) := by decide +kernel
theorem dX4_thrown_1 : decode cX4_thrown 1 = .ok (.getfield 32, 3) := by decide +kernel
theorem dX4_thrown_4 : decode cX4_thrown 4 = .ok (.ireturn, 1) := by decide +kernel
abbrev cX4_append : ByteArray := prog_10_method_34_code
def yX4_append : MethodName := ⟨RX4, "append", "(IIIII)I"⟩
def dkwX4_append_5 : List UInt8 := [167, 255, 162, 42, 180, 0, 127, 172]
abbrev dktX4_append_5 : List UInt8 := dkwX4_append_5 ++ []
def dkwX4_append_4 : List UInt8 := [112, 104, 100, 122, 17, 0, 255, 126, 79, 42, 89, 180, 0, 127, 4, 96, 181, 0, 127, 132, 6, 1]
abbrev dktX4_append_4 : List UInt8 := dkwX4_append_4 ++ dktX4_append_5
def dkwX4_append_3 : List UInt8 := [167, 0, 5, 21, 5, 54, 7, 42, 180, 0, 9, 42, 180, 0, 127, 21, 7, 16, 24, 16, 8, 21, 6, 7]
abbrev dktX4_append_3 : List UInt8 := dkwX4_append_3 ++ dktX4_append_4
def dkwX4_append_2 : List UInt8 := [28, 167, 0, 28, 21, 6, 16, 12, 162, 0, 7, 29, 167, 0, 17, 21, 6, 16, 16, 162, 0, 8, 21, 4]
abbrev dktX4_append_2 : List UInt8 := dkwX4_append_2 ++ dktX4_append_3
def dkwX4_append_1 : List UInt8 := [21, 6, 16, 20, 162, 0, 93, 21, 6, 7, 162, 0, 7, 27, 167, 0, 39, 21, 6, 16, 8, 162, 0, 7]
abbrev dktX4_append_1 : List UInt8 := dkwX4_append_1 ++ dktX4_append_2
def dkwX4_append_0 : List UInt8 := [42, 3, 181, 0, 32, 42, 180, 0, 127, 16, 20, 96, 17, 3, 32, 164, 0, 5, 2, 172, 3, 54, 6]
abbrev dktX4_append_0 : List UInt8 := dkwX4_append_0 ++ dktX4_append_1
theorem dksX4_append_0 : cX4_append.data.toList.drop 0 = dktX4_append_0 := by decide +kernel
theorem dksX4_append_1 : cX4_append.data.toList.drop 23 = dktX4_append_1 := dk_seg dksX4_append_0 23 rfl rfl
theorem dksX4_append_2 : cX4_append.data.toList.drop 47 = dktX4_append_2 := dk_seg dksX4_append_1 24 rfl rfl
theorem dksX4_append_3 : cX4_append.data.toList.drop 71 = dktX4_append_3 := dk_seg dksX4_append_2 24 rfl rfl
theorem dksX4_append_4 : cX4_append.data.toList.drop 95 = dktX4_append_4 := dk_seg dksX4_append_3 24 rfl rfl
theorem dksX4_append_5 : cX4_append.data.toList.drop 117 = dktX4_append_5 := dk_seg dksX4_append_4 22 rfl rfl
theorem dX4_append_0 : decode cX4_append 0 = .ok (.aload_n 0, 1) := dk_42 (dk_at dksX4_append_0 0 rfl rfl)
theorem dX4_append_1 : decode cX4_append 1 = .ok (.iconst 0, 1) := dk_3 (dk_at dksX4_append_0 1 rfl rfl)
theorem dX4_append_2 : decode cX4_append 2 = .ok (.putfield 32, 3) := dk_181 0 32 (dk_at dksX4_append_0 2 rfl rfl)
theorem dX4_append_5 : decode cX4_append 5 = .ok (.aload_n 0, 1) := dk_42 (dk_at dksX4_append_0 5 rfl rfl)
theorem dX4_append_6 : decode cX4_append 6 = .ok (.getfield 127, 3) := dk_180 0 127 (dk_at dksX4_append_0 6 rfl rfl)
theorem dX4_append_9 : decode cX4_append 9 = .ok (.bipush 20, 2) := dk_16 20 (dk_at dksX4_append_0 9 rfl rfl)
theorem dX4_append_11 : decode cX4_append 11 = .ok (.iadd, 1) := dk_96 (dk_at dksX4_append_0 11 rfl rfl)
theorem dX4_append_12 : decode cX4_append 12 = .ok (.sipush 800, 3) := dk_17 3 32 (dk_at dksX4_append_0 12 rfl rfl)
theorem dX4_append_15 : decode cX4_append 15 = .ok (.if_icmp .le 5, 3) := dk_164 0 5 (dk_at dksX4_append_0 15 rfl rfl)
theorem dX4_append_18 : decode cX4_append 18 = .ok (.iconst (-1), 1) := dk_2 (dk_at dksX4_append_0 18 rfl rfl)
theorem dX4_append_19 : decode cX4_append 19 = .ok (.ireturn, 1) := dk_172 (dk_at dksX4_append_0 19 rfl rfl)
theorem dX4_append_20 : decode cX4_append 20 = .ok (.iconst 0, 1) := dk_3 (dk_at dksX4_append_0 20 rfl rfl)
theorem dX4_append_21 : decode cX4_append 21 = .ok (.istore 6, 2) := dk_54 6 (dk_at dksX4_append_0 21 rfl rfl)
theorem dX4_append_23 : decode cX4_append 23 = .ok (.iload 6, 2) := dk_21 6 (dk_at dksX4_append_1 0 rfl rfl)
theorem dX4_append_25 : decode cX4_append 25 = .ok (.bipush 20, 2) := dk_16 20 (dk_at dksX4_append_1 2 rfl rfl)
theorem dX4_append_27 : decode cX4_append 27 = .ok (.if_icmp .ge 93, 3) := dk_162 0 93 (dk_at dksX4_append_1 4 rfl rfl)
theorem dX4_append_30 : decode cX4_append 30 = .ok (.iload 6, 2) := dk_21 6 (dk_at dksX4_append_1 7 rfl rfl)
theorem dX4_append_32 : decode cX4_append 32 = .ok (.iconst 4, 1) := dk_7 (dk_at dksX4_append_1 9 rfl rfl)
theorem dX4_append_33 : decode cX4_append 33 = .ok (.if_icmp .ge 7, 3) := dk_162 0 7 (dk_at dksX4_append_1 10 rfl rfl)
theorem dX4_append_36 : decode cX4_append 36 = .ok (.iload_n 1, 1) := dk_27 (dk_at dksX4_append_1 13 rfl rfl)
theorem dX4_append_37 : decode cX4_append 37 = .ok (.goto 39, 3) := dk_167 0 39 (dk_at dksX4_append_1 14 rfl rfl)
theorem dX4_append_40 : decode cX4_append 40 = .ok (.iload 6, 2) := dk_21 6 (dk_at dksX4_append_1 17 rfl rfl)
theorem dX4_append_42 : decode cX4_append 42 = .ok (.bipush 8, 2) := dk_16 8 (dk_at dksX4_append_1 19 rfl rfl)
theorem dX4_append_44 : decode cX4_append 44 = .ok (.if_icmp .ge 7, 3) := dk_162 0 7 (dk_at dksX4_append_1 21 rfl rfl)
theorem dX4_append_47 : decode cX4_append 47 = .ok (.iload_n 2, 1) := dk_28 (dk_at dksX4_append_2 0 rfl rfl)
theorem dX4_append_48 : decode cX4_append 48 = .ok (.goto 28, 3) := dk_167 0 28 (dk_at dksX4_append_2 1 rfl rfl)
theorem dX4_append_51 : decode cX4_append 51 = .ok (.iload 6, 2) := dk_21 6 (dk_at dksX4_append_2 4 rfl rfl)
theorem dX4_append_53 : decode cX4_append 53 = .ok (.bipush 12, 2) := dk_16 12 (dk_at dksX4_append_2 6 rfl rfl)
theorem dX4_append_55 : decode cX4_append 55 = .ok (.if_icmp .ge 7, 3) := dk_162 0 7 (dk_at dksX4_append_2 8 rfl rfl)
theorem dX4_append_58 : decode cX4_append 58 = .ok (.iload_n 3, 1) := dk_29 (dk_at dksX4_append_2 11 rfl rfl)
theorem dX4_append_59 : decode cX4_append 59 = .ok (.goto 17, 3) := dk_167 0 17 (dk_at dksX4_append_2 12 rfl rfl)
theorem dX4_append_62 : decode cX4_append 62 = .ok (.iload 6, 2) := dk_21 6 (dk_at dksX4_append_2 15 rfl rfl)
theorem dX4_append_64 : decode cX4_append 64 = .ok (.bipush 16, 2) := dk_16 16 (dk_at dksX4_append_2 17 rfl rfl)
theorem dX4_append_66 : decode cX4_append 66 = .ok (.if_icmp .ge 8, 3) := dk_162 0 8 (dk_at dksX4_append_2 19 rfl rfl)
theorem dX4_append_69 : decode cX4_append 69 = .ok (.iload 4, 2) := dk_21 4 (dk_at dksX4_append_2 22 rfl rfl)
theorem dX4_append_71 : decode cX4_append 71 = .ok (.goto 5, 3) := dk_167 0 5 (dk_at dksX4_append_3 0 rfl rfl)
theorem dX4_append_74 : decode cX4_append 74 = .ok (.iload 5, 2) := dk_21 5 (dk_at dksX4_append_3 3 rfl rfl)
theorem dX4_append_76 : decode cX4_append 76 = .ok (.istore 7, 2) := dk_54 7 (dk_at dksX4_append_3 5 rfl rfl)
theorem dX4_append_78 : decode cX4_append 78 = .ok (.aload_n 0, 1) := dk_42 (dk_at dksX4_append_3 7 rfl rfl)
theorem dX4_append_79 : decode cX4_append 79 = .ok (.getfield 9, 3) := dk_180 0 9 (dk_at dksX4_append_3 8 rfl rfl)
theorem dX4_append_82 : decode cX4_append 82 = .ok (.aload_n 0, 1) := dk_42 (dk_at dksX4_append_3 11 rfl rfl)
theorem dX4_append_83 : decode cX4_append 83 = .ok (.getfield 127, 3) := dk_180 0 127 (dk_at dksX4_append_3 12 rfl rfl)
theorem dX4_append_86 : decode cX4_append 86 = .ok (.iload 7, 2) := dk_21 7 (dk_at dksX4_append_3 15 rfl rfl)
theorem dX4_append_88 : decode cX4_append 88 = .ok (.bipush 24, 2) := dk_16 24 (dk_at dksX4_append_3 17 rfl rfl)
theorem dX4_append_90 : decode cX4_append 90 = .ok (.bipush 8, 2) := dk_16 8 (dk_at dksX4_append_3 19 rfl rfl)
theorem dX4_append_92 : decode cX4_append 92 = .ok (.iload 6, 2) := dk_21 6 (dk_at dksX4_append_3 21 rfl rfl)
theorem dX4_append_94 : decode cX4_append 94 = .ok (.iconst 4, 1) := dk_7 (dk_at dksX4_append_3 23 rfl rfl)
theorem dX4_append_95 : decode cX4_append 95 = .ok (.irem, 1) := dk_112 (dk_at dksX4_append_4 0 rfl rfl)
theorem dX4_append_96 : decode cX4_append 96 = .ok (.imul, 1) := dk_104 (dk_at dksX4_append_4 1 rfl rfl)
theorem dX4_append_97 : decode cX4_append 97 = .ok (.isub, 1) := dk_100 (dk_at dksX4_append_4 2 rfl rfl)
theorem dX4_append_98 : decode cX4_append 98 = .ok (.ishr, 1) := dk_122 (dk_at dksX4_append_4 3 rfl rfl)
theorem dX4_append_99 : decode cX4_append 99 = .ok (.sipush 255, 3) := dk_17 0 255 (dk_at dksX4_append_4 4 rfl rfl)
theorem dX4_append_102 : decode cX4_append 102 = .ok (.iand, 1) := dk_126 (dk_at dksX4_append_4 7 rfl rfl)
theorem dX4_append_103 : decode cX4_append 103 = .ok (.iastore, 1) := dk_79 (dk_at dksX4_append_4 8 rfl rfl)
theorem dX4_append_104 : decode cX4_append 104 = .ok (.aload_n 0, 1) := dk_42 (dk_at dksX4_append_4 9 rfl rfl)
theorem dX4_append_105 : decode cX4_append 105 = .ok (.dup, 1) := dk_89 (dk_at dksX4_append_4 10 rfl rfl)
theorem dX4_append_106 : decode cX4_append 106 = .ok (.getfield 127, 3) := dk_180 0 127 (dk_at dksX4_append_4 11 rfl rfl)
theorem dX4_append_109 : decode cX4_append 109 = .ok (.iconst 1, 1) := dk_4 (dk_at dksX4_append_4 14 rfl rfl)
theorem dX4_append_110 : decode cX4_append 110 = .ok (.iadd, 1) := dk_96 (dk_at dksX4_append_4 15 rfl rfl)
theorem dX4_append_111 : decode cX4_append 111 = .ok (.putfield 127, 3) := dk_181 0 127 (dk_at dksX4_append_4 16 rfl rfl)
theorem dX4_append_114 : decode cX4_append 114 = .ok (.iinc 6 1, 3) := dk_132 6 1 (dk_at dksX4_append_4 19 rfl rfl)
theorem dX4_append_117 : decode cX4_append 117 = .ok (.goto (-94), 3) := dk_167 255 162 (dk_at dksX4_append_5 0 rfl rfl)
theorem dX4_append_120 : decode cX4_append 120 = .ok (.aload_n 0, 1) := dk_42 (dk_at dksX4_append_5 3 rfl rfl)
theorem dX4_append_121 : decode cX4_append 121 = .ok (.getfield 127, 3) := dk_180 0 127 (dk_at dksX4_append_5 4 rfl rfl)
theorem dX4_append_124 : decode cX4_append 124 = .ok (.ireturn, 1) := dk_172 (dk_at dksX4_append_5 7 rfl rfl)
abbrev cX4_load : ByteArray := prog_10_method_51_code
def yX4_load : MethodName := ⟨RX4, "load", "(I)I"⟩
def dkwX4_load_9 : List UInt8 := [182, 0, 254, 42, 180, 0, 17, 6, 46, 172]
abbrev dktX4_load_9 : List UInt8 := dkwX4_load_9 ++ []
def dkwX4_load_8 : List UInt8 := [154, 0, 19, 42, 180, 0, 20, 42, 180, 0, 17, 184, 0, 245, 42, 180, 0, 139, 172, 42, 42, 180, 0, 20]
abbrev dktX4_load_8 : List UInt8 := dkwX4_load_8 ++ dktX4_load_9
def dkwX4_load_7 : List UInt8 := [159, 0, 10, 42, 182, 0, 251, 167, 255, 237, 42, 42, 180, 0, 142, 181, 0, 13, 42, 182, 0, 145]
abbrev dktX4_load_7 : List UInt8 := dkwX4_load_7 ++ dktX4_load_8
def dkwX4_load_6 : List UInt8 := [16, 30, 182, 0, 197, 79, 42, 16, 59, 182, 0, 179, 42, 182, 0, 145, 153, 0, 18, 42, 182, 0, 149, 2]
abbrev dktX4_load_6 : List UInt8 := dkwX4_load_6 ++ dktX4_load_7
def dkwX4_load_5 : List UInt8 := [182, 0, 162, 42, 180, 0, 17, 3, 42, 5, 16, 30, 182, 0, 197, 79, 42, 180, 0, 17, 4, 42, 5]
abbrev dktX4_load_5 : List UInt8 := dkwX4_load_5 ++ dktX4_load_6
def dkwX4_load_4 : List UInt8 := [132, 2, 1, 167, 255, 239, 42, 18, 249, 182, 0, 185, 154, 0, 13, 42, 16, 254, 42, 180, 0, 133]
abbrev dktX4_load_4 : List UInt8 := dkwX4_load_4 ++ dktX4_load_5
def dkwX4_load_3 : List UInt8 := [180, 0, 20, 184, 0, 245, 3, 61, 28, 17, 5, 248, 162, 0, 16, 42, 180, 0, 17, 28, 3, 79]
abbrev dktX4_load_3 : List UInt8 := dkwX4_load_3 ++ dktX4_load_4
def dkwX4_load_2 : List UInt8 := [3, 181, 0, 139, 42, 2, 181, 0, 142, 42, 3, 181, 0, 173, 42, 3, 181, 0, 209, 42, 180, 0, 17, 42]
abbrev dktX4_load_2 : List UInt8 := dkwX4_load_2 ++ dktX4_load_3
def dkwX4_load_1 : List UInt8 := [182, 0, 241, 153, 0, 5, 3, 172, 42, 3, 181, 0, 127, 42, 27, 181, 0, 130, 42, 3, 181, 0, 133, 42]
abbrev dktX4_load_1 : List UInt8 := dkwX4_load_1 ++ dktX4_load_2
def dkwX4_load_0 : List UInt8 := [42, 3, 181, 0, 32, 42, 27, 3, 42, 180, 0, 127, 184, 0, 57, 154, 0, 7, 4, 167, 0, 4, 3, 4]
abbrev dktX4_load_0 : List UInt8 := dkwX4_load_0 ++ dktX4_load_1
theorem dksX4_load_0 : cX4_load.data.toList.drop 0 = dktX4_load_0 := by decide +kernel
theorem dksX4_load_1 : cX4_load.data.toList.drop 24 = dktX4_load_1 := dk_seg dksX4_load_0 24 rfl rfl
theorem dksX4_load_2 : cX4_load.data.toList.drop 48 = dktX4_load_2 := dk_seg dksX4_load_1 24 rfl rfl
theorem dksX4_load_3 : cX4_load.data.toList.drop 72 = dktX4_load_3 := dk_seg dksX4_load_2 24 rfl rfl
theorem dksX4_load_4 : cX4_load.data.toList.drop 94 = dktX4_load_4 := dk_seg dksX4_load_3 22 rfl rfl
theorem dksX4_load_5 : cX4_load.data.toList.drop 116 = dktX4_load_5 := dk_seg dksX4_load_4 22 rfl rfl
theorem dksX4_load_6 : cX4_load.data.toList.drop 139 = dktX4_load_6 := dk_seg dksX4_load_5 23 rfl rfl
theorem dksX4_load_7 : cX4_load.data.toList.drop 163 = dktX4_load_7 := dk_seg dksX4_load_6 24 rfl rfl
theorem dksX4_load_8 : cX4_load.data.toList.drop 185 = dktX4_load_8 := dk_seg dksX4_load_7 22 rfl rfl
theorem dksX4_load_9 : cX4_load.data.toList.drop 209 = dktX4_load_9 := dk_seg dksX4_load_8 24 rfl rfl
theorem dX4_load_0 : decode cX4_load 0 = .ok (.aload_n 0, 1) := dk_42 (dk_at dksX4_load_0 0 rfl rfl)
theorem dX4_load_1 : decode cX4_load 1 = .ok (.iconst 0, 1) := dk_3 (dk_at dksX4_load_0 1 rfl rfl)
theorem dX4_load_2 : decode cX4_load 2 = .ok (.putfield 32, 3) := dk_181 0 32 (dk_at dksX4_load_0 2 rfl rfl)
theorem dX4_load_5 : decode cX4_load 5 = .ok (.aload_n 0, 1) := dk_42 (dk_at dksX4_load_0 5 rfl rfl)
theorem dX4_load_6 : decode cX4_load 6 = .ok (.iload_n 1, 1) := dk_27 (dk_at dksX4_load_0 6 rfl rfl)
theorem dX4_load_7 : decode cX4_load 7 = .ok (.iconst 0, 1) := dk_3 (dk_at dksX4_load_0 7 rfl rfl)
theorem dX4_load_8 : decode cX4_load 8 = .ok (.aload_n 0, 1) := dk_42 (dk_at dksX4_load_0 8 rfl rfl)
theorem dX4_load_9 : decode cX4_load 9 = .ok (.getfield 127, 3) := dk_180 0 127 (dk_at dksX4_load_0 9 rfl rfl)
theorem dX4_load_12 : decode cX4_load 12 = .ok (.invokestatic 57, 3) := dk_184 0 57 (dk_at dksX4_load_0 12 rfl rfl)
theorem dX4_load_15 : decode cX4_load 15 = .ok (.ifCond .ne 7, 3) := dk_154 0 7 (dk_at dksX4_load_0 15 rfl rfl)
theorem dX4_load_18 : decode cX4_load 18 = .ok (.iconst 1, 1) := dk_4 (dk_at dksX4_load_0 18 rfl rfl)
theorem dX4_load_19 : decode cX4_load 19 = .ok (.goto 4, 3) := dk_167 0 4 (dk_at dksX4_load_0 19 rfl rfl)
theorem dX4_load_22 : decode cX4_load 22 = .ok (.iconst 0, 1) := dk_3 (dk_at dksX4_load_0 22 rfl rfl)
theorem dX4_load_23 : decode cX4_load 23 = .ok (.iconst 1, 1) := dk_4 (dk_at dksX4_load_0 23 rfl rfl)
theorem dX4_load_24 : decode cX4_load 24 = .ok (.invokevirtual 241, 3) := dk_182 0 241 (dk_at dksX4_load_1 0 rfl rfl)
theorem dX4_load_27 : decode cX4_load 27 = .ok (.ifCond .eq 5, 3) := dk_153 0 5 (dk_at dksX4_load_1 3 rfl rfl)
theorem dX4_load_30 : decode cX4_load 30 = .ok (.iconst 0, 1) := dk_3 (dk_at dksX4_load_1 6 rfl rfl)
theorem dX4_load_31 : decode cX4_load 31 = .ok (.ireturn, 1) := dk_172 (dk_at dksX4_load_1 7 rfl rfl)
theorem dX4_load_32 : decode cX4_load 32 = .ok (.aload_n 0, 1) := dk_42 (dk_at dksX4_load_1 8 rfl rfl)
theorem dX4_load_33 : decode cX4_load 33 = .ok (.iconst 0, 1) := dk_3 (dk_at dksX4_load_1 9 rfl rfl)
theorem dX4_load_34 : decode cX4_load 34 = .ok (.putfield 127, 3) := dk_181 0 127 (dk_at dksX4_load_1 10 rfl rfl)
theorem dX4_load_37 : decode cX4_load 37 = .ok (.aload_n 0, 1) := dk_42 (dk_at dksX4_load_1 13 rfl rfl)
theorem dX4_load_38 : decode cX4_load 38 = .ok (.iload_n 1, 1) := dk_27 (dk_at dksX4_load_1 14 rfl rfl)
theorem dX4_load_39 : decode cX4_load 39 = .ok (.putfield 130, 3) := dk_181 0 130 (dk_at dksX4_load_1 15 rfl rfl)
theorem dX4_load_42 : decode cX4_load 42 = .ok (.aload_n 0, 1) := dk_42 (dk_at dksX4_load_1 18 rfl rfl)
theorem dX4_load_43 : decode cX4_load 43 = .ok (.iconst 0, 1) := dk_3 (dk_at dksX4_load_1 19 rfl rfl)
theorem dX4_load_44 : decode cX4_load 44 = .ok (.putfield 133, 3) := dk_181 0 133 (dk_at dksX4_load_1 20 rfl rfl)
theorem dX4_load_47 : decode cX4_load 47 = .ok (.aload_n 0, 1) := dk_42 (dk_at dksX4_load_1 23 rfl rfl)
theorem dX4_load_48 : decode cX4_load 48 = .ok (.iconst 0, 1) := dk_3 (dk_at dksX4_load_2 0 rfl rfl)
theorem dX4_load_49 : decode cX4_load 49 = .ok (.putfield 139, 3) := dk_181 0 139 (dk_at dksX4_load_2 1 rfl rfl)
theorem dX4_load_52 : decode cX4_load 52 = .ok (.aload_n 0, 1) := dk_42 (dk_at dksX4_load_2 4 rfl rfl)
theorem dX4_load_53 : decode cX4_load 53 = .ok (.iconst (-1), 1) := dk_2 (dk_at dksX4_load_2 5 rfl rfl)
theorem dX4_load_54 : decode cX4_load 54 = .ok (.putfield 142, 3) := dk_181 0 142 (dk_at dksX4_load_2 6 rfl rfl)
theorem dX4_load_57 : decode cX4_load 57 = .ok (.aload_n 0, 1) := dk_42 (dk_at dksX4_load_2 9 rfl rfl)
theorem dX4_load_58 : decode cX4_load 58 = .ok (.iconst 0, 1) := dk_3 (dk_at dksX4_load_2 10 rfl rfl)
theorem dX4_load_59 : decode cX4_load 59 = .ok (.putfield 173, 3) := dk_181 0 173 (dk_at dksX4_load_2 11 rfl rfl)
theorem dX4_load_62 : decode cX4_load 62 = .ok (.aload_n 0, 1) := dk_42 (dk_at dksX4_load_2 14 rfl rfl)
theorem dX4_load_63 : decode cX4_load 63 = .ok (.iconst 0, 1) := dk_3 (dk_at dksX4_load_2 15 rfl rfl)
theorem dX4_load_64 : decode cX4_load 64 = .ok (.putfield 209, 3) := dk_181 0 209 (dk_at dksX4_load_2 16 rfl rfl)
theorem dX4_load_67 : decode cX4_load 67 = .ok (.aload_n 0, 1) := dk_42 (dk_at dksX4_load_2 19 rfl rfl)
theorem dX4_load_68 : decode cX4_load 68 = .ok (.getfield 17, 3) := dk_180 0 17 (dk_at dksX4_load_2 20 rfl rfl)
theorem dX4_load_71 : decode cX4_load 71 = .ok (.aload_n 0, 1) := dk_42 (dk_at dksX4_load_2 23 rfl rfl)
theorem dX4_load_72 : decode cX4_load 72 = .ok (.getfield 20, 3) := dk_180 0 20 (dk_at dksX4_load_3 0 rfl rfl)
theorem dX4_load_75 : decode cX4_load 75 = .ok (.invokestatic 245, 3) := dk_184 0 245 (dk_at dksX4_load_3 3 rfl rfl)
theorem dX4_load_78 : decode cX4_load 78 = .ok (.iconst 0, 1) := dk_3 (dk_at dksX4_load_3 6 rfl rfl)
theorem dX4_load_79 : decode cX4_load 79 = .ok (.istore_n 2, 1) := dk_61 (dk_at dksX4_load_3 7 rfl rfl)
theorem dX4_load_80 : decode cX4_load 80 = .ok (.iload_n 2, 1) := dk_28 (dk_at dksX4_load_3 8 rfl rfl)
theorem dX4_load_81 : decode cX4_load 81 = .ok (.sipush 1528, 3) := dk_17 5 248 (dk_at dksX4_load_3 9 rfl rfl)
theorem dX4_load_84 : decode cX4_load 84 = .ok (.if_icmp .ge 16, 3) := dk_162 0 16 (dk_at dksX4_load_3 12 rfl rfl)
theorem dX4_load_87 : decode cX4_load 87 = .ok (.aload_n 0, 1) := dk_42 (dk_at dksX4_load_3 15 rfl rfl)
theorem dX4_load_88 : decode cX4_load 88 = .ok (.getfield 17, 3) := dk_180 0 17 (dk_at dksX4_load_3 16 rfl rfl)
theorem dX4_load_91 : decode cX4_load 91 = .ok (.iload_n 2, 1) := dk_28 (dk_at dksX4_load_3 19 rfl rfl)
theorem dX4_load_92 : decode cX4_load 92 = .ok (.iconst 0, 1) := dk_3 (dk_at dksX4_load_3 20 rfl rfl)
theorem dX4_load_93 : decode cX4_load 93 = .ok (.iastore, 1) := dk_79 (dk_at dksX4_load_3 21 rfl rfl)
theorem dX4_load_94 : decode cX4_load 94 = .ok (.iinc 2 1, 3) := dk_132 2 1 (dk_at dksX4_load_4 0 rfl rfl)
theorem dX4_load_97 : decode cX4_load 97 = .ok (.goto (-17), 3) := dk_167 255 239 (dk_at dksX4_load_4 3 rfl rfl)
theorem dX4_load_100 : decode cX4_load 100 = .ok (.aload_n 0, 1) := dk_42 (dk_at dksX4_load_4 6 rfl rfl)
theorem dX4_load_101 : decode cX4_load 101 = .ok (.ldc 249, 2) := dk_18 249 (dk_at dksX4_load_4 7 rfl rfl)
theorem dX4_load_103 : decode cX4_load 103 = .ok (.invokevirtual 185, 3) := dk_182 0 185 (dk_at dksX4_load_4 9 rfl rfl)
theorem dX4_load_106 : decode cX4_load 106 = .ok (.ifCond .ne 13, 3) := dk_154 0 13 (dk_at dksX4_load_4 12 rfl rfl)
theorem dX4_load_109 : decode cX4_load 109 = .ok (.aload_n 0, 1) := dk_42 (dk_at dksX4_load_4 15 rfl rfl)
theorem dX4_load_110 : decode cX4_load 110 = .ok (.bipush (-2), 2) := dk_16 254 (dk_at dksX4_load_4 16 rfl rfl)
theorem dX4_load_112 : decode cX4_load 112 = .ok (.aload_n 0, 1) := dk_42 (dk_at dksX4_load_4 18 rfl rfl)
theorem dX4_load_113 : decode cX4_load 113 = .ok (.getfield 133, 3) := dk_180 0 133 (dk_at dksX4_load_4 19 rfl rfl)
theorem dX4_load_116 : decode cX4_load 116 = .ok (.invokevirtual 162, 3) := dk_182 0 162 (dk_at dksX4_load_5 0 rfl rfl)
theorem dX4_load_119 : decode cX4_load 119 = .ok (.aload_n 0, 1) := dk_42 (dk_at dksX4_load_5 3 rfl rfl)
theorem dX4_load_120 : decode cX4_load 120 = .ok (.getfield 17, 3) := dk_180 0 17 (dk_at dksX4_load_5 4 rfl rfl)
theorem dX4_load_123 : decode cX4_load 123 = .ok (.iconst 0, 1) := dk_3 (dk_at dksX4_load_5 7 rfl rfl)
theorem dX4_load_124 : decode cX4_load 124 = .ok (.aload_n 0, 1) := dk_42 (dk_at dksX4_load_5 8 rfl rfl)
theorem dX4_load_125 : decode cX4_load 125 = .ok (.iconst 2, 1) := dk_5 (dk_at dksX4_load_5 9 rfl rfl)
theorem dX4_load_126 : decode cX4_load 126 = .ok (.bipush 30, 2) := dk_16 30 (dk_at dksX4_load_5 10 rfl rfl)
theorem dX4_load_128 : decode cX4_load 128 = .ok (.invokevirtual 197, 3) := dk_182 0 197 (dk_at dksX4_load_5 12 rfl rfl)
theorem dX4_load_131 : decode cX4_load 131 = .ok (.iastore, 1) := dk_79 (dk_at dksX4_load_5 15 rfl rfl)
theorem dX4_load_132 : decode cX4_load 132 = .ok (.aload_n 0, 1) := dk_42 (dk_at dksX4_load_5 16 rfl rfl)
theorem dX4_load_133 : decode cX4_load 133 = .ok (.getfield 17, 3) := dk_180 0 17 (dk_at dksX4_load_5 17 rfl rfl)
theorem dX4_load_136 : decode cX4_load 136 = .ok (.iconst 1, 1) := dk_4 (dk_at dksX4_load_5 20 rfl rfl)
theorem dX4_load_137 : decode cX4_load 137 = .ok (.aload_n 0, 1) := dk_42 (dk_at dksX4_load_5 21 rfl rfl)
theorem dX4_load_138 : decode cX4_load 138 = .ok (.iconst 2, 1) := dk_5 (dk_at dksX4_load_5 22 rfl rfl)
theorem dX4_load_139 : decode cX4_load 139 = .ok (.bipush 30, 2) := dk_16 30 (dk_at dksX4_load_6 0 rfl rfl)
theorem dX4_load_141 : decode cX4_load 141 = .ok (.invokevirtual 197, 3) := dk_182 0 197 (dk_at dksX4_load_6 2 rfl rfl)
theorem dX4_load_144 : decode cX4_load 144 = .ok (.iastore, 1) := dk_79 (dk_at dksX4_load_6 5 rfl rfl)
theorem dX4_load_145 : decode cX4_load 145 = .ok (.aload_n 0, 1) := dk_42 (dk_at dksX4_load_6 6 rfl rfl)
theorem dX4_load_146 : decode cX4_load 146 = .ok (.bipush 59, 2) := dk_16 59 (dk_at dksX4_load_6 7 rfl rfl)
theorem dX4_load_148 : decode cX4_load 148 = .ok (.invokevirtual 179, 3) := dk_182 0 179 (dk_at dksX4_load_6 9 rfl rfl)
theorem dX4_load_151 : decode cX4_load 151 = .ok (.aload_n 0, 1) := dk_42 (dk_at dksX4_load_6 12 rfl rfl)
theorem dX4_load_152 : decode cX4_load 152 = .ok (.invokevirtual 145, 3) := dk_182 0 145 (dk_at dksX4_load_6 13 rfl rfl)
theorem dX4_load_155 : decode cX4_load 155 = .ok (.ifCond .eq 18, 3) := dk_153 0 18 (dk_at dksX4_load_6 16 rfl rfl)
theorem dX4_load_158 : decode cX4_load 158 = .ok (.aload_n 0, 1) := dk_42 (dk_at dksX4_load_6 19 rfl rfl)
theorem dX4_load_159 : decode cX4_load 159 = .ok (.invokevirtual 149, 3) := dk_182 0 149 (dk_at dksX4_load_6 20 rfl rfl)
theorem dX4_load_162 : decode cX4_load 162 = .ok (.iconst (-1), 1) := dk_2 (dk_at dksX4_load_6 23 rfl rfl)
theorem dX4_load_163 : decode cX4_load 163 = .ok (.if_icmp .eq 10, 3) := dk_159 0 10 (dk_at dksX4_load_7 0 rfl rfl)
theorem dX4_load_166 : decode cX4_load 166 = .ok (.aload_n 0, 1) := dk_42 (dk_at dksX4_load_7 3 rfl rfl)
theorem dX4_load_167 : decode cX4_load 167 = .ok (.invokevirtual 251, 3) := dk_182 0 251 (dk_at dksX4_load_7 4 rfl rfl)
theorem dX4_load_170 : decode cX4_load 170 = .ok (.goto (-19), 3) := dk_167 255 237 (dk_at dksX4_load_7 7 rfl rfl)
theorem dX4_load_173 : decode cX4_load 173 = .ok (.aload_n 0, 1) := dk_42 (dk_at dksX4_load_7 10 rfl rfl)
theorem dX4_load_174 : decode cX4_load 174 = .ok (.aload_n 0, 1) := dk_42 (dk_at dksX4_load_7 11 rfl rfl)
theorem dX4_load_175 : decode cX4_load 175 = .ok (.getfield 142, 3) := dk_180 0 142 (dk_at dksX4_load_7 12 rfl rfl)
theorem dX4_load_178 : decode cX4_load 178 = .ok (.putfield 13, 3) := dk_181 0 13 (dk_at dksX4_load_7 15 rfl rfl)
theorem dX4_load_181 : decode cX4_load 181 = .ok (.aload_n 0, 1) := dk_42 (dk_at dksX4_load_7 18 rfl rfl)
theorem dX4_load_182 : decode cX4_load 182 = .ok (.invokevirtual 145, 3) := dk_182 0 145 (dk_at dksX4_load_7 19 rfl rfl)
theorem dX4_load_185 : decode cX4_load 185 = .ok (.ifCond .ne 19, 3) := dk_154 0 19 (dk_at dksX4_load_8 0 rfl rfl)
theorem dX4_load_188 : decode cX4_load 188 = .ok (.aload_n 0, 1) := dk_42 (dk_at dksX4_load_8 3 rfl rfl)
theorem dX4_load_189 : decode cX4_load 189 = .ok (.getfield 20, 3) := dk_180 0 20 (dk_at dksX4_load_8 4 rfl rfl)
theorem dX4_load_192 : decode cX4_load 192 = .ok (.aload_n 0, 1) := dk_42 (dk_at dksX4_load_8 7 rfl rfl)
theorem dX4_load_193 : decode cX4_load 193 = .ok (.getfield 17, 3) := dk_180 0 17 (dk_at dksX4_load_8 8 rfl rfl)
theorem dX4_load_196 : decode cX4_load 196 = .ok (.invokestatic 245, 3) := dk_184 0 245 (dk_at dksX4_load_8 11 rfl rfl)
theorem dX4_load_199 : decode cX4_load 199 = .ok (.aload_n 0, 1) := dk_42 (dk_at dksX4_load_8 14 rfl rfl)
theorem dX4_load_200 : decode cX4_load 200 = .ok (.getfield 139, 3) := dk_180 0 139 (dk_at dksX4_load_8 15 rfl rfl)
theorem dX4_load_203 : decode cX4_load 203 = .ok (.ireturn, 1) := dk_172 (dk_at dksX4_load_8 18 rfl rfl)
theorem dX4_load_204 : decode cX4_load 204 = .ok (.aload_n 0, 1) := dk_42 (dk_at dksX4_load_8 19 rfl rfl)
theorem dX4_load_205 : decode cX4_load 205 = .ok (.aload_n 0, 1) := dk_42 (dk_at dksX4_load_8 20 rfl rfl)
theorem dX4_load_206 : decode cX4_load 206 = .ok (.getfield 20, 3) := dk_180 0 20 (dk_at dksX4_load_8 21 rfl rfl)
theorem dX4_load_209 : decode cX4_load 209 = .ok (.invokevirtual 254, 3) := dk_182 0 254 (dk_at dksX4_load_9 0 rfl rfl)
theorem dX4_load_212 : decode cX4_load 212 = .ok (.aload_n 0, 1) := dk_42 (dk_at dksX4_load_9 3 rfl rfl)
theorem dX4_load_213 : decode cX4_load 213 = .ok (.getfield 17, 3) := dk_180 0 17 (dk_at dksX4_load_9 4 rfl rfl)
theorem dX4_load_216 : decode cX4_load 216 = .ok (.iconst 3, 1) := dk_6 (dk_at dksX4_load_9 7 rfl rfl)
theorem dX4_load_217 : decode cX4_load 217 = .ok (.iaload, 1) := dk_46 (dk_at dksX4_load_9 8 rfl rfl)
theorem dX4_load_218 : decode cX4_load 218 = .ok (.ireturn, 1) := dk_172 (dk_at dksX4_load_9 9 rfl rfl)
abbrev cX4_in : ByteArray := prog_10_method_4_code
def yX4_in : MethodName := ⟨RX4, "in", "(III)Z"⟩
def dkwX4_in_0 : List UInt8 := [26, 27, 161, 0, 12, 26, 28, 163, 0, 7, 4, 167, 0, 4, 3, 172]
abbrev dktX4_in_0 : List UInt8 := dkwX4_in_0 ++ []
theorem dksX4_in_0 : cX4_in.data.toList.drop 0 = dktX4_in_0 := by decide +kernel
theorem dX4_in_0 : decode cX4_in 0 = .ok (.iload_n 0, 1) := dk_26 (dk_at dksX4_in_0 0 rfl rfl)
theorem dX4_in_1 : decode cX4_in 1 = .ok (.iload_n 1, 1) := dk_27 (dk_at dksX4_in_0 1 rfl rfl)
theorem dX4_in_2 : decode cX4_in 2 = .ok (.if_icmp .lt 12, 3) := dk_161 0 12 (dk_at dksX4_in_0 2 rfl rfl)
theorem dX4_in_5 : decode cX4_in 5 = .ok (.iload_n 0, 1) := dk_26 (dk_at dksX4_in_0 5 rfl rfl)
theorem dX4_in_6 : decode cX4_in 6 = .ok (.iload_n 2, 1) := dk_28 (dk_at dksX4_in_0 6 rfl rfl)
theorem dX4_in_7 : decode cX4_in 7 = .ok (.if_icmp .gt 7, 3) := dk_163 0 7 (dk_at dksX4_in_0 7 rfl rfl)
theorem dX4_in_10 : decode cX4_in 10 = .ok (.iconst 1, 1) := dk_4 (dk_at dksX4_in_0 10 rfl rfl)
theorem dX4_in_11 : decode cX4_in 11 = .ok (.goto 4, 3) := dk_167 0 4 (dk_at dksX4_in_0 11 rfl rfl)
theorem dX4_in_14 : decode cX4_in 14 = .ok (.iconst 0, 1) := dk_3 (dk_at dksX4_in_0 14 rfl rfl)
theorem dX4_in_15 : decode cX4_in 15 = .ok (.ireturn, 1) := dk_172 (dk_at dksX4_in_0 15 rfl rfl)
abbrev cX4_fails : ByteArray := prog_10_method_3_code
def yX4_fails : MethodName := ⟨RX4, "fails", "(ZI)Z"⟩
def dkwX4_fails_1 : List UInt8 := [167, 0, 4, 3, 172]
abbrev dktX4_fails_1 : List UInt8 := dkwX4_fails_1 ++ []
def dkwX4_fails_0 : List UInt8 := [27, 153, 0, 15, 42, 180, 0, 32, 154, 0, 8, 42, 28, 181, 0, 32, 42, 180, 0, 32, 153, 0, 7, 4]
abbrev dktX4_fails_0 : List UInt8 := dkwX4_fails_0 ++ dktX4_fails_1
theorem dksX4_fails_0 : cX4_fails.data.toList.drop 0 = dktX4_fails_0 := by decide +kernel
theorem dksX4_fails_1 : cX4_fails.data.toList.drop 24 = dktX4_fails_1 := dk_seg dksX4_fails_0 24 rfl rfl
theorem dX4_fails_0 : decode cX4_fails 0 = .ok (.iload_n 1, 1) := dk_27 (dk_at dksX4_fails_0 0 rfl rfl)
theorem dX4_fails_1 : decode cX4_fails 1 = .ok (.ifCond .eq 15, 3) := dk_153 0 15 (dk_at dksX4_fails_0 1 rfl rfl)
theorem dX4_fails_4 : decode cX4_fails 4 = .ok (.aload_n 0, 1) := dk_42 (dk_at dksX4_fails_0 4 rfl rfl)
theorem dX4_fails_5 : decode cX4_fails 5 = .ok (.getfield 32, 3) := dk_180 0 32 (dk_at dksX4_fails_0 5 rfl rfl)
theorem dX4_fails_8 : decode cX4_fails 8 = .ok (.ifCond .ne 8, 3) := dk_154 0 8 (dk_at dksX4_fails_0 8 rfl rfl)
theorem dX4_fails_11 : decode cX4_fails 11 = .ok (.aload_n 0, 1) := dk_42 (dk_at dksX4_fails_0 11 rfl rfl)
theorem dX4_fails_12 : decode cX4_fails 12 = .ok (.iload_n 2, 1) := dk_28 (dk_at dksX4_fails_0 12 rfl rfl)
theorem dX4_fails_13 : decode cX4_fails 13 = .ok (.putfield 32, 3) := dk_181 0 32 (dk_at dksX4_fails_0 13 rfl rfl)
theorem dX4_fails_16 : decode cX4_fails 16 = .ok (.aload_n 0, 1) := dk_42 (dk_at dksX4_fails_0 16 rfl rfl)
theorem dX4_fails_17 : decode cX4_fails 17 = .ok (.getfield 32, 3) := dk_180 0 32 (dk_at dksX4_fails_0 17 rfl rfl)
theorem dX4_fails_20 : decode cX4_fails 20 = .ok (.ifCond .eq 7, 3) := dk_153 0 7 (dk_at dksX4_fails_0 20 rfl rfl)
theorem dX4_fails_23 : decode cX4_fails 23 = .ok (.iconst 1, 1) := dk_4 (dk_at dksX4_fails_0 23 rfl rfl)
theorem dX4_fails_24 : decode cX4_fails 24 = .ok (.goto 4, 3) := dk_167 0 4 (dk_at dksX4_fails_1 0 rfl rfl)
theorem dX4_fails_27 : decode cX4_fails 27 = .ok (.iconst 0, 1) := dk_3 (dk_at dksX4_fails_1 3 rfl rfl)
theorem dX4_fails_28 : decode cX4_fails 28 = .ok (.ireturn, 1) := dk_172 (dk_at dksX4_fails_1 4 rfl rfl)
abbrev cX4_copy : ByteArray := prog_10_method_7_code
def yX4_copy : MethodName := ⟨RX4, "copy", "([I[I)V"⟩
def dkwX4_copy_0 : List UInt8 := [3, 61, 28, 17, 5, 248, 162, 0, 15, 43, 28, 42, 28, 46, 79, 132, 2, 1, 167, 255, 240, 177]
abbrev dktX4_copy_0 : List UInt8 := dkwX4_copy_0 ++ []
theorem dksX4_copy_0 : cX4_copy.data.toList.drop 0 = dktX4_copy_0 := by decide +kernel
theorem dX4_copy_0 : decode cX4_copy 0 = .ok (.iconst 0, 1) := dk_3 (dk_at dksX4_copy_0 0 rfl rfl)
theorem dX4_copy_1 : decode cX4_copy 1 = .ok (.istore_n 2, 1) := dk_61 (dk_at dksX4_copy_0 1 rfl rfl)
theorem dX4_copy_2 : decode cX4_copy 2 = .ok (.iload_n 2, 1) := dk_28 (dk_at dksX4_copy_0 2 rfl rfl)
theorem dX4_copy_3 : decode cX4_copy 3 = .ok (.sipush 1528, 3) := dk_17 5 248 (dk_at dksX4_copy_0 3 rfl rfl)
theorem dX4_copy_6 : decode cX4_copy 6 = .ok (.if_icmp .ge 15, 3) := dk_162 0 15 (dk_at dksX4_copy_0 6 rfl rfl)
theorem dX4_copy_9 : decode cX4_copy 9 = .ok (.aload_n 1, 1) := dk_43 (dk_at dksX4_copy_0 9 rfl rfl)
theorem dX4_copy_10 : decode cX4_copy 10 = .ok (.iload_n 2, 1) := dk_28 (dk_at dksX4_copy_0 10 rfl rfl)
theorem dX4_copy_11 : decode cX4_copy 11 = .ok (.aload_n 0, 1) := dk_42 (dk_at dksX4_copy_0 11 rfl rfl)
theorem dX4_copy_12 : decode cX4_copy 12 = .ok (.iload_n 2, 1) := dk_28 (dk_at dksX4_copy_0 12 rfl rfl)
theorem dX4_copy_13 : decode cX4_copy 13 = .ok (.iaload, 1) := dk_46 (dk_at dksX4_copy_0 13 rfl rfl)
theorem dX4_copy_14 : decode cX4_copy 14 = .ok (.iastore, 1) := dk_79 (dk_at dksX4_copy_0 14 rfl rfl)
theorem dX4_copy_15 : decode cX4_copy 15 = .ok (.iinc 2 1, 3) := dk_132 2 1 (dk_at dksX4_copy_0 15 rfl rfl)
theorem dX4_copy_18 : decode cX4_copy 18 = .ok (.goto (-16), 3) := dk_167 255 240 (dk_at dksX4_copy_0 18 rfl rfl)
theorem dX4_copy_21 : decode cX4_copy 21 = .ok (.return_, 1) := dk_177 (dk_at dksX4_copy_0 21 rfl rfl)
abbrev cX4_takeWord : ByteArray := prog_10_method_40_code
def yX4_takeWord : MethodName := ⟨RX4, "takeWord", "(Ljava/lang/String;)Z"⟩
def dkwX4_takeWord_3 : List UInt8 := [184, 0, 57, 153, 0, 5, 3, 172, 42, 89, 180, 0, 133, 28, 96, 181, 0, 133, 4, 172]
abbrev dktX4_takeWord_3 : List UInt8 := dkwX4_takeWord_3 ++ []
def dkwX4_takeWord_2 : List UInt8 := [28, 43, 182, 0, 153, 161, 0, 23, 42, 42, 180, 0, 133, 28, 96, 182, 0, 136, 16, 97, 16, 122]
abbrev dktX4_takeWord_2 : List UInt8 := dkwX4_takeWord_2 ++ dktX4_takeWord_3
def dkwX4_takeWord_1 : List UInt8 := [42, 42, 180, 0, 133, 28, 96, 182, 0, 136, 43, 28, 182, 0, 158, 160, 0, 9, 132, 2, 1, 167, 255, 227]
abbrev dktX4_takeWord_1 : List UInt8 := dkwX4_takeWord_1 ++ dktX4_takeWord_2
def dkwX4_takeWord_0 : List UInt8 := [42, 182, 0, 145, 154, 0, 5, 3, 172, 42, 182, 0, 149, 87, 3, 61, 28, 43, 182, 0, 153, 162, 0, 27]
abbrev dktX4_takeWord_0 : List UInt8 := dkwX4_takeWord_0 ++ dktX4_takeWord_1
theorem dksX4_takeWord_0 : cX4_takeWord.data.toList.drop 0 = dktX4_takeWord_0 := by decide +kernel
theorem dksX4_takeWord_1 : cX4_takeWord.data.toList.drop 24 = dktX4_takeWord_1 := dk_seg dksX4_takeWord_0 24 rfl rfl
theorem dksX4_takeWord_2 : cX4_takeWord.data.toList.drop 48 = dktX4_takeWord_2 := dk_seg dksX4_takeWord_1 24 rfl rfl
theorem dksX4_takeWord_3 : cX4_takeWord.data.toList.drop 70 = dktX4_takeWord_3 := dk_seg dksX4_takeWord_2 22 rfl rfl
theorem dX4_takeWord_0 : decode cX4_takeWord 0 = .ok (.aload_n 0, 1) := dk_42 (dk_at dksX4_takeWord_0 0 rfl rfl)
theorem dX4_takeWord_1 : decode cX4_takeWord 1 = .ok (.invokevirtual 145, 3) := dk_182 0 145 (dk_at dksX4_takeWord_0 1 rfl rfl)
theorem dX4_takeWord_4 : decode cX4_takeWord 4 = .ok (.ifCond .ne 5, 3) := dk_154 0 5 (dk_at dksX4_takeWord_0 4 rfl rfl)
theorem dX4_takeWord_7 : decode cX4_takeWord 7 = .ok (.iconst 0, 1) := dk_3 (dk_at dksX4_takeWord_0 7 rfl rfl)
theorem dX4_takeWord_8 : decode cX4_takeWord 8 = .ok (.ireturn, 1) := dk_172 (dk_at dksX4_takeWord_0 8 rfl rfl)
theorem dX4_takeWord_9 : decode cX4_takeWord 9 = .ok (.aload_n 0, 1) := dk_42 (dk_at dksX4_takeWord_0 9 rfl rfl)
theorem dX4_takeWord_10 : decode cX4_takeWord 10 = .ok (.invokevirtual 149, 3) := dk_182 0 149 (dk_at dksX4_takeWord_0 10 rfl rfl)
theorem dX4_takeWord_13 : decode cX4_takeWord 13 = .ok (.pop, 1) := dk_87 (dk_at dksX4_takeWord_0 13 rfl rfl)
theorem dX4_takeWord_14 : decode cX4_takeWord 14 = .ok (.iconst 0, 1) := dk_3 (dk_at dksX4_takeWord_0 14 rfl rfl)
theorem dX4_takeWord_15 : decode cX4_takeWord 15 = .ok (.istore_n 2, 1) := dk_61 (dk_at dksX4_takeWord_0 15 rfl rfl)
theorem dX4_takeWord_16 : decode cX4_takeWord 16 = .ok (.iload_n 2, 1) := dk_28 (dk_at dksX4_takeWord_0 16 rfl rfl)
theorem dX4_takeWord_17 : decode cX4_takeWord 17 = .ok (.aload_n 1, 1) := dk_43 (dk_at dksX4_takeWord_0 17 rfl rfl)
theorem dX4_takeWord_18 : decode cX4_takeWord 18 = .ok (.invokevirtual 153, 3) := dk_182 0 153 (dk_at dksX4_takeWord_0 18 rfl rfl)
theorem dX4_takeWord_21 : decode cX4_takeWord 21 = .ok (.if_icmp .ge 27, 3) := dk_162 0 27 (dk_at dksX4_takeWord_0 21 rfl rfl)
theorem dX4_takeWord_24 : decode cX4_takeWord 24 = .ok (.aload_n 0, 1) := dk_42 (dk_at dksX4_takeWord_1 0 rfl rfl)
theorem dX4_takeWord_25 : decode cX4_takeWord 25 = .ok (.aload_n 0, 1) := dk_42 (dk_at dksX4_takeWord_1 1 rfl rfl)
theorem dX4_takeWord_26 : decode cX4_takeWord 26 = .ok (.getfield 133, 3) := dk_180 0 133 (dk_at dksX4_takeWord_1 2 rfl rfl)
theorem dX4_takeWord_29 : decode cX4_takeWord 29 = .ok (.iload_n 2, 1) := dk_28 (dk_at dksX4_takeWord_1 5 rfl rfl)
theorem dX4_takeWord_30 : decode cX4_takeWord 30 = .ok (.iadd, 1) := dk_96 (dk_at dksX4_takeWord_1 6 rfl rfl)
theorem dX4_takeWord_31 : decode cX4_takeWord 31 = .ok (.invokevirtual 136, 3) := dk_182 0 136 (dk_at dksX4_takeWord_1 7 rfl rfl)
theorem dX4_takeWord_34 : decode cX4_takeWord 34 = .ok (.aload_n 1, 1) := dk_43 (dk_at dksX4_takeWord_1 10 rfl rfl)
theorem dX4_takeWord_35 : decode cX4_takeWord 35 = .ok (.iload_n 2, 1) := dk_28 (dk_at dksX4_takeWord_1 11 rfl rfl)
theorem dX4_takeWord_36 : decode cX4_takeWord 36 = .ok (.invokevirtual 158, 3) := dk_182 0 158 (dk_at dksX4_takeWord_1 12 rfl rfl)
theorem dX4_takeWord_39 : decode cX4_takeWord 39 = .ok (.if_icmp .ne 9, 3) := dk_160 0 9 (dk_at dksX4_takeWord_1 15 rfl rfl)
theorem dX4_takeWord_42 : decode cX4_takeWord 42 = .ok (.iinc 2 1, 3) := dk_132 2 1 (dk_at dksX4_takeWord_1 18 rfl rfl)
theorem dX4_takeWord_45 : decode cX4_takeWord 45 = .ok (.goto (-29), 3) := dk_167 255 227 (dk_at dksX4_takeWord_1 21 rfl rfl)
theorem dX4_takeWord_48 : decode cX4_takeWord 48 = .ok (.iload_n 2, 1) := dk_28 (dk_at dksX4_takeWord_2 0 rfl rfl)
theorem dX4_takeWord_49 : decode cX4_takeWord 49 = .ok (.aload_n 1, 1) := dk_43 (dk_at dksX4_takeWord_2 1 rfl rfl)
theorem dX4_takeWord_50 : decode cX4_takeWord 50 = .ok (.invokevirtual 153, 3) := dk_182 0 153 (dk_at dksX4_takeWord_2 2 rfl rfl)
theorem dX4_takeWord_53 : decode cX4_takeWord 53 = .ok (.if_icmp .lt 23, 3) := dk_161 0 23 (dk_at dksX4_takeWord_2 5 rfl rfl)
theorem dX4_takeWord_56 : decode cX4_takeWord 56 = .ok (.aload_n 0, 1) := dk_42 (dk_at dksX4_takeWord_2 8 rfl rfl)
theorem dX4_takeWord_57 : decode cX4_takeWord 57 = .ok (.aload_n 0, 1) := dk_42 (dk_at dksX4_takeWord_2 9 rfl rfl)
theorem dX4_takeWord_58 : decode cX4_takeWord 58 = .ok (.getfield 133, 3) := dk_180 0 133 (dk_at dksX4_takeWord_2 10 rfl rfl)
theorem dX4_takeWord_61 : decode cX4_takeWord 61 = .ok (.iload_n 2, 1) := dk_28 (dk_at dksX4_takeWord_2 13 rfl rfl)
theorem dX4_takeWord_62 : decode cX4_takeWord 62 = .ok (.iadd, 1) := dk_96 (dk_at dksX4_takeWord_2 14 rfl rfl)
theorem dX4_takeWord_63 : decode cX4_takeWord 63 = .ok (.invokevirtual 136, 3) := dk_182 0 136 (dk_at dksX4_takeWord_2 15 rfl rfl)
theorem dX4_takeWord_66 : decode cX4_takeWord 66 = .ok (.bipush 97, 2) := dk_16 97 (dk_at dksX4_takeWord_2 18 rfl rfl)
theorem dX4_takeWord_68 : decode cX4_takeWord 68 = .ok (.bipush 122, 2) := dk_16 122 (dk_at dksX4_takeWord_2 20 rfl rfl)
theorem dX4_takeWord_70 : decode cX4_takeWord 70 = .ok (.invokestatic 57, 3) := dk_184 0 57 (dk_at dksX4_takeWord_3 0 rfl rfl)
theorem dX4_takeWord_73 : decode cX4_takeWord 73 = .ok (.ifCond .eq 5, 3) := dk_153 0 5 (dk_at dksX4_takeWord_3 3 rfl rfl)
theorem dX4_takeWord_76 : decode cX4_takeWord 76 = .ok (.iconst 0, 1) := dk_3 (dk_at dksX4_takeWord_3 6 rfl rfl)
theorem dX4_takeWord_77 : decode cX4_takeWord 77 = .ok (.ireturn, 1) := dk_172 (dk_at dksX4_takeWord_3 7 rfl rfl)
theorem dX4_takeWord_78 : decode cX4_takeWord 78 = .ok (.aload_n 0, 1) := dk_42 (dk_at dksX4_takeWord_3 8 rfl rfl)
theorem dX4_takeWord_79 : decode cX4_takeWord 79 = .ok (.dup, 1) := dk_89 (dk_at dksX4_takeWord_3 9 rfl rfl)
theorem dX4_takeWord_80 : decode cX4_takeWord 80 = .ok (.getfield 133, 3) := dk_180 0 133 (dk_at dksX4_takeWord_3 10 rfl rfl)
theorem dX4_takeWord_83 : decode cX4_takeWord 83 = .ok (.iload_n 2, 1) := dk_28 (dk_at dksX4_takeWord_3 13 rfl rfl)
theorem dX4_takeWord_84 : decode cX4_takeWord 84 = .ok (.iadd, 1) := dk_96 (dk_at dksX4_takeWord_3 14 rfl rfl)
theorem dX4_takeWord_85 : decode cX4_takeWord 85 = .ok (.putfield 133, 3) := dk_181 0 133 (dk_at dksX4_takeWord_3 15 rfl rfl)
theorem dX4_takeWord_88 : decode cX4_takeWord 88 = .ok (.iconst 1, 1) := dk_4 (dk_at dksX4_takeWord_3 18 rfl rfl)
theorem dX4_takeWord_89 : decode cX4_takeWord 89 = .ok (.ireturn, 1) := dk_172 (dk_at dksX4_takeWord_3 19 rfl rfl)
abbrev cX4_isGood : ByteArray := prog_10_method_37_code
def yX4_isGood : MethodName := ⟨RX4, "isGood", "()Z"⟩
def dkwX4_isGood_0 : List UInt8 := [42, 180, 0, 139, 154, 0, 7, 4, 167, 0, 4, 3, 172]
abbrev dktX4_isGood_0 : List UInt8 := dkwX4_isGood_0 ++ []
theorem dksX4_isGood_0 : cX4_isGood.data.toList.drop 0 = dktX4_isGood_0 := by decide +kernel
theorem dX4_isGood_0 : decode cX4_isGood 0 = .ok (.aload_n 0, 1) := dk_42 (dk_at dksX4_isGood_0 0 rfl rfl)
theorem dX4_isGood_1 : decode cX4_isGood 1 = .ok (.getfield 139, 3) := dk_180 0 139 (dk_at dksX4_isGood_0 1 rfl rfl)
theorem dX4_isGood_4 : decode cX4_isGood 4 = .ok (.ifCond .ne 7, 3) := dk_154 0 7 (dk_at dksX4_isGood_0 4 rfl rfl)
theorem dX4_isGood_7 : decode cX4_isGood 7 = .ok (.iconst 1, 1) := dk_4 (dk_at dksX4_isGood_0 7 rfl rfl)
theorem dX4_isGood_8 : decode cX4_isGood 8 = .ok (.goto 4, 3) := dk_167 0 4 (dk_at dksX4_isGood_0 8 rfl rfl)
theorem dX4_isGood_11 : decode cX4_isGood 11 = .ok (.iconst 0, 1) := dk_3 (dk_at dksX4_isGood_0 11 rfl rfl)
theorem dX4_isGood_12 : decode cX4_isGood 12 = .ok (.ireturn, 1) := dk_172 (dk_at dksX4_isGood_0 12 rfl rfl)
abbrev cX4_next : ByteArray := prog_10_method_36_code
def yX4_next : MethodName := ⟨RX4, "next", "()I"⟩
def dkwX4_next_1 : List UInt8 := [167, 255, 233, 42, 42, 180, 0, 133, 182, 0, 136, 172]
abbrev dktX4_next_1 : List UInt8 := dkwX4_next_1 ++ []
def dkwX4_next_0 : List UInt8 := [42, 42, 180, 0, 133, 182, 0, 136, 16, 32, 160, 0, 16, 42, 89, 180, 0, 133, 4, 96, 181, 0, 133]
abbrev dktX4_next_0 : List UInt8 := dkwX4_next_0 ++ dktX4_next_1
theorem dksX4_next_0 : cX4_next.data.toList.drop 0 = dktX4_next_0 := by decide +kernel
theorem dksX4_next_1 : cX4_next.data.toList.drop 23 = dktX4_next_1 := dk_seg dksX4_next_0 23 rfl rfl
theorem dX4_next_0 : decode cX4_next 0 = .ok (.aload_n 0, 1) := dk_42 (dk_at dksX4_next_0 0 rfl rfl)
theorem dX4_next_1 : decode cX4_next 1 = .ok (.aload_n 0, 1) := dk_42 (dk_at dksX4_next_0 1 rfl rfl)
theorem dX4_next_2 : decode cX4_next 2 = .ok (.getfield 133, 3) := dk_180 0 133 (dk_at dksX4_next_0 2 rfl rfl)
theorem dX4_next_5 : decode cX4_next 5 = .ok (.invokevirtual 136, 3) := dk_182 0 136 (dk_at dksX4_next_0 5 rfl rfl)
theorem dX4_next_8 : decode cX4_next 8 = .ok (.bipush 32, 2) := dk_16 32 (dk_at dksX4_next_0 8 rfl rfl)
theorem dX4_next_10 : decode cX4_next 10 = .ok (.if_icmp .ne 16, 3) := dk_160 0 16 (dk_at dksX4_next_0 10 rfl rfl)
theorem dX4_next_13 : decode cX4_next 13 = .ok (.aload_n 0, 1) := dk_42 (dk_at dksX4_next_0 13 rfl rfl)
theorem dX4_next_14 : decode cX4_next 14 = .ok (.dup, 1) := dk_89 (dk_at dksX4_next_0 14 rfl rfl)
theorem dX4_next_15 : decode cX4_next 15 = .ok (.getfield 133, 3) := dk_180 0 133 (dk_at dksX4_next_0 15 rfl rfl)
theorem dX4_next_18 : decode cX4_next 18 = .ok (.iconst 1, 1) := dk_4 (dk_at dksX4_next_0 18 rfl rfl)
theorem dX4_next_19 : decode cX4_next 19 = .ok (.iadd, 1) := dk_96 (dk_at dksX4_next_0 19 rfl rfl)
theorem dX4_next_20 : decode cX4_next 20 = .ok (.putfield 133, 3) := dk_181 0 133 (dk_at dksX4_next_0 20 rfl rfl)
theorem dX4_next_23 : decode cX4_next 23 = .ok (.goto (-23), 3) := dk_167 255 233 (dk_at dksX4_next_1 0 rfl rfl)
theorem dX4_next_26 : decode cX4_next 26 = .ok (.aload_n 0, 1) := dk_42 (dk_at dksX4_next_1 3 rfl rfl)
theorem dX4_next_27 : decode cX4_next 27 = .ok (.aload_n 0, 1) := dk_42 (dk_at dksX4_next_1 4 rfl rfl)
theorem dX4_next_28 : decode cX4_next 28 = .ok (.getfield 133, 3) := dk_180 0 133 (dk_at dksX4_next_1 5 rfl rfl)
theorem dX4_next_31 : decode cX4_next 31 = .ok (.invokevirtual 136, 3) := dk_182 0 136 (dk_at dksX4_next_1 8 rfl rfl)
theorem dX4_next_34 : decode cX4_next 34 = .ok (.ireturn, 1) := dk_172 (dk_at dksX4_next_1 11 rfl rfl)
abbrev cX4_byteAt : ByteArray := prog_10_method_35_code
def yX4_byteAt : MethodName := ⟨RX4, "byteAt", "(I)I"⟩
def dkwX4_byteAt_0 : List UInt8 := [27, 42, 180, 0, 130, 162, 0, 12, 42, 180, 0, 9, 27, 46, 167, 0, 4, 2, 172]
abbrev dktX4_byteAt_0 : List UInt8 := dkwX4_byteAt_0 ++ []
theorem dksX4_byteAt_0 : cX4_byteAt.data.toList.drop 0 = dktX4_byteAt_0 := by decide +kernel
theorem dX4_byteAt_0 : decode cX4_byteAt 0 = .ok (.iload_n 1, 1) := dk_27 (dk_at dksX4_byteAt_0 0 rfl rfl)
theorem dX4_byteAt_1 : decode cX4_byteAt 1 = .ok (.aload_n 0, 1) := dk_42 (dk_at dksX4_byteAt_0 1 rfl rfl)
theorem dX4_byteAt_2 : decode cX4_byteAt 2 = .ok (.getfield 130, 3) := dk_180 0 130 (dk_at dksX4_byteAt_0 2 rfl rfl)
theorem dX4_byteAt_5 : decode cX4_byteAt 5 = .ok (.if_icmp .ge 12, 3) := dk_162 0 12 (dk_at dksX4_byteAt_0 5 rfl rfl)
theorem dX4_byteAt_8 : decode cX4_byteAt 8 = .ok (.aload_n 0, 1) := dk_42 (dk_at dksX4_byteAt_0 8 rfl rfl)
theorem dX4_byteAt_9 : decode cX4_byteAt 9 = .ok (.getfield 9, 3) := dk_180 0 9 (dk_at dksX4_byteAt_0 9 rfl rfl)
theorem dX4_byteAt_12 : decode cX4_byteAt 12 = .ok (.iload_n 1, 1) := dk_27 (dk_at dksX4_byteAt_0 12 rfl rfl)
theorem dX4_byteAt_13 : decode cX4_byteAt 13 = .ok (.iaload, 1) := dk_46 (dk_at dksX4_byteAt_0 13 rfl rfl)
theorem dX4_byteAt_14 : decode cX4_byteAt 14 = .ok (.goto 4, 3) := dk_167 0 4 (dk_at dksX4_byteAt_0 14 rfl rfl)
theorem dX4_byteAt_17 : decode cX4_byteAt 17 = .ok (.iconst (-1), 1) := dk_2 (dk_at dksX4_byteAt_0 17 rfl rfl)
theorem dX4_byteAt_18 : decode cX4_byteAt 18 = .ok (.ireturn, 1) := dk_172 (dk_at dksX4_byteAt_0 18 rfl rfl)
abbrev cX4_report : ByteArray := prog_10_method_38_code
def yX4_report : MethodName := ⟨RX4, "report", "(II)V"⟩
def dkwX4_report_0 : List UInt8 := [42, 180, 0, 139, 153, 0, 4, 177, 42, 27, 181, 0, 139, 42, 28, 181, 0, 142, 177]
abbrev dktX4_report_0 : List UInt8 := dkwX4_report_0 ++ []
theorem dksX4_report_0 : cX4_report.data.toList.drop 0 = dktX4_report_0 := by decide +kernel
theorem dX4_report_0 : decode cX4_report 0 = .ok (.aload_n 0, 1) := dk_42 (dk_at dksX4_report_0 0 rfl rfl)
theorem dX4_report_1 : decode cX4_report 1 = .ok (.getfield 139, 3) := dk_180 0 139 (dk_at dksX4_report_0 1 rfl rfl)
theorem dX4_report_4 : decode cX4_report 4 = .ok (.ifCond .eq 4, 3) := dk_153 0 4 (dk_at dksX4_report_0 4 rfl rfl)
theorem dX4_report_7 : decode cX4_report 7 = .ok (.return_, 1) := dk_177 (dk_at dksX4_report_0 7 rfl rfl)
theorem dX4_report_8 : decode cX4_report 8 = .ok (.aload_n 0, 1) := dk_42 (dk_at dksX4_report_0 8 rfl rfl)
theorem dX4_report_9 : decode cX4_report 9 = .ok (.iload_n 1, 1) := dk_27 (dk_at dksX4_report_0 9 rfl rfl)
theorem dX4_report_10 : decode cX4_report 10 = .ok (.putfield 139, 3) := dk_181 0 139 (dk_at dksX4_report_0 10 rfl rfl)
theorem dX4_report_13 : decode cX4_report 13 = .ok (.aload_n 0, 1) := dk_42 (dk_at dksX4_report_0 13 rfl rfl)
theorem dX4_report_14 : decode cX4_report 14 = .ok (.iload_n 2, 1) := dk_28 (dk_at dksX4_report_0 14 rfl rfl)
theorem dX4_report_15 : decode cX4_report 15 = .ok (.putfield 142, 3) := dk_181 0 142 (dk_at dksX4_report_0 15 rfl rfl)
theorem dX4_report_18 : decode cX4_report 18 = .ok (.return_, 1) := dk_177 (dk_at dksX4_report_0 18 rfl rfl)
abbrev cX4_number : ByteArray := prog_10_method_42_code
def yX4_number : MethodName := ⟨RX4, "number", "(II)I"⟩
def dkwX4_number_4 : List UInt8 := [184, 0, 57, 154, 0, 13, 42, 16, 253, 42, 180, 0, 169, 182, 0, 162, 29, 172]
abbrev dktX4_number_4 : List UInt8 := dkwX4_number_4 ++ []
def dkwX4_number_3 : List UInt8 := [16, 48, 100, 184, 0, 50, 62, 42, 89, 180, 0, 133, 4, 96, 181, 0, 133, 167, 255, 210, 29, 27, 28]
abbrev dktX4_number_3 : List UInt8 := dkwX4_number_3 ++ dktX4_number_4
def dkwX4_number_2 : List UInt8 := [182, 0, 136, 184, 0, 166, 153, 0, 38, 18, 172, 16, 10, 29, 104, 42, 42, 180, 0, 133, 182, 0, 136, 96]
abbrev dktX4_number_2 : List UInt8 := dkwX4_number_2 ++ dktX4_number_3
def dkwX4_number_1 : List UInt8 := [180, 0, 133, 182, 0, 162, 3, 172, 42, 42, 180, 0, 133, 181, 0, 169, 3, 62, 42, 42, 180, 0, 133]
abbrev dktX4_number_1 : List UInt8 := dkwX4_number_1 ++ dktX4_number_2
def dkwX4_number_0 : List UInt8 := [42, 182, 0, 145, 154, 0, 5, 3, 172, 42, 182, 0, 149, 184, 0, 166, 154, 0, 15, 42, 16, 254, 42]
abbrev dktX4_number_0 : List UInt8 := dkwX4_number_0 ++ dktX4_number_1
theorem dksX4_number_0 : cX4_number.data.toList.drop 0 = dktX4_number_0 := by decide +kernel
theorem dksX4_number_1 : cX4_number.data.toList.drop 23 = dktX4_number_1 := dk_seg dksX4_number_0 23 rfl rfl
theorem dksX4_number_2 : cX4_number.data.toList.drop 46 = dktX4_number_2 := dk_seg dksX4_number_1 23 rfl rfl
theorem dksX4_number_3 : cX4_number.data.toList.drop 70 = dktX4_number_3 := dk_seg dksX4_number_2 24 rfl rfl
theorem dksX4_number_4 : cX4_number.data.toList.drop 93 = dktX4_number_4 := dk_seg dksX4_number_3 23 rfl rfl
theorem dX4_number_0 : decode cX4_number 0 = .ok (.aload_n 0, 1) := dk_42 (dk_at dksX4_number_0 0 rfl rfl)
theorem dX4_number_1 : decode cX4_number 1 = .ok (.invokevirtual 145, 3) := dk_182 0 145 (dk_at dksX4_number_0 1 rfl rfl)
theorem dX4_number_4 : decode cX4_number 4 = .ok (.ifCond .ne 5, 3) := dk_154 0 5 (dk_at dksX4_number_0 4 rfl rfl)
theorem dX4_number_7 : decode cX4_number 7 = .ok (.iconst 0, 1) := dk_3 (dk_at dksX4_number_0 7 rfl rfl)
theorem dX4_number_8 : decode cX4_number 8 = .ok (.ireturn, 1) := dk_172 (dk_at dksX4_number_0 8 rfl rfl)
theorem dX4_number_9 : decode cX4_number 9 = .ok (.aload_n 0, 1) := dk_42 (dk_at dksX4_number_0 9 rfl rfl)
theorem dX4_number_10 : decode cX4_number 10 = .ok (.invokevirtual 149, 3) := dk_182 0 149 (dk_at dksX4_number_0 10 rfl rfl)
theorem dX4_number_13 : decode cX4_number 13 = .ok (.invokestatic 166, 3) := dk_184 0 166 (dk_at dksX4_number_0 13 rfl rfl)
theorem dX4_number_16 : decode cX4_number 16 = .ok (.ifCond .ne 15, 3) := dk_154 0 15 (dk_at dksX4_number_0 16 rfl rfl)
theorem dX4_number_19 : decode cX4_number 19 = .ok (.aload_n 0, 1) := dk_42 (dk_at dksX4_number_0 19 rfl rfl)
theorem dX4_number_20 : decode cX4_number 20 = .ok (.bipush (-2), 2) := dk_16 254 (dk_at dksX4_number_0 20 rfl rfl)
theorem dX4_number_22 : decode cX4_number 22 = .ok (.aload_n 0, 1) := dk_42 (dk_at dksX4_number_0 22 rfl rfl)
theorem dX4_number_23 : decode cX4_number 23 = .ok (.getfield 133, 3) := dk_180 0 133 (dk_at dksX4_number_1 0 rfl rfl)
theorem dX4_number_26 : decode cX4_number 26 = .ok (.invokevirtual 162, 3) := dk_182 0 162 (dk_at dksX4_number_1 3 rfl rfl)
theorem dX4_number_29 : decode cX4_number 29 = .ok (.iconst 0, 1) := dk_3 (dk_at dksX4_number_1 6 rfl rfl)
theorem dX4_number_30 : decode cX4_number 30 = .ok (.ireturn, 1) := dk_172 (dk_at dksX4_number_1 7 rfl rfl)
theorem dX4_number_31 : decode cX4_number 31 = .ok (.aload_n 0, 1) := dk_42 (dk_at dksX4_number_1 8 rfl rfl)
theorem dX4_number_32 : decode cX4_number 32 = .ok (.aload_n 0, 1) := dk_42 (dk_at dksX4_number_1 9 rfl rfl)
theorem dX4_number_33 : decode cX4_number 33 = .ok (.getfield 133, 3) := dk_180 0 133 (dk_at dksX4_number_1 10 rfl rfl)
theorem dX4_number_36 : decode cX4_number 36 = .ok (.putfield 169, 3) := dk_181 0 169 (dk_at dksX4_number_1 13 rfl rfl)
theorem dX4_number_39 : decode cX4_number 39 = .ok (.iconst 0, 1) := dk_3 (dk_at dksX4_number_1 16 rfl rfl)
theorem dX4_number_40 : decode cX4_number 40 = .ok (.istore_n 3, 1) := dk_62 (dk_at dksX4_number_1 17 rfl rfl)
theorem dX4_number_41 : decode cX4_number 41 = .ok (.aload_n 0, 1) := dk_42 (dk_at dksX4_number_1 18 rfl rfl)
theorem dX4_number_42 : decode cX4_number 42 = .ok (.aload_n 0, 1) := dk_42 (dk_at dksX4_number_1 19 rfl rfl)
theorem dX4_number_43 : decode cX4_number 43 = .ok (.getfield 133, 3) := dk_180 0 133 (dk_at dksX4_number_1 20 rfl rfl)
theorem dX4_number_46 : decode cX4_number 46 = .ok (.invokevirtual 136, 3) := dk_182 0 136 (dk_at dksX4_number_2 0 rfl rfl)
theorem dX4_number_49 : decode cX4_number 49 = .ok (.invokestatic 166, 3) := dk_184 0 166 (dk_at dksX4_number_2 3 rfl rfl)
theorem dX4_number_52 : decode cX4_number 52 = .ok (.ifCond .eq 38, 3) := dk_153 0 38 (dk_at dksX4_number_2 6 rfl rfl)
theorem dX4_number_55 : decode cX4_number 55 = .ok (.ldc 172, 2) := dk_18 172 (dk_at dksX4_number_2 9 rfl rfl)
theorem dX4_number_57 : decode cX4_number 57 = .ok (.bipush 10, 2) := dk_16 10 (dk_at dksX4_number_2 11 rfl rfl)
theorem dX4_number_59 : decode cX4_number 59 = .ok (.iload_n 3, 1) := dk_29 (dk_at dksX4_number_2 13 rfl rfl)
theorem dX4_number_60 : decode cX4_number 60 = .ok (.imul, 1) := dk_104 (dk_at dksX4_number_2 14 rfl rfl)
theorem dX4_number_61 : decode cX4_number 61 = .ok (.aload_n 0, 1) := dk_42 (dk_at dksX4_number_2 15 rfl rfl)
theorem dX4_number_62 : decode cX4_number 62 = .ok (.aload_n 0, 1) := dk_42 (dk_at dksX4_number_2 16 rfl rfl)
theorem dX4_number_63 : decode cX4_number 63 = .ok (.getfield 133, 3) := dk_180 0 133 (dk_at dksX4_number_2 17 rfl rfl)
theorem dX4_number_66 : decode cX4_number 66 = .ok (.invokevirtual 136, 3) := dk_182 0 136 (dk_at dksX4_number_2 20 rfl rfl)
theorem dX4_number_69 : decode cX4_number 69 = .ok (.iadd, 1) := dk_96 (dk_at dksX4_number_2 23 rfl rfl)
theorem dX4_number_70 : decode cX4_number 70 = .ok (.bipush 48, 2) := dk_16 48 (dk_at dksX4_number_3 0 rfl rfl)
theorem dX4_number_72 : decode cX4_number 72 = .ok (.isub, 1) := dk_100 (dk_at dksX4_number_3 2 rfl rfl)
theorem dX4_number_73 : decode cX4_number 73 = .ok (.invokestatic 50, 3) := dk_184 0 50 (dk_at dksX4_number_3 3 rfl rfl)
theorem dX4_number_76 : decode cX4_number 76 = .ok (.istore_n 3, 1) := dk_62 (dk_at dksX4_number_3 6 rfl rfl)
theorem dX4_number_77 : decode cX4_number 77 = .ok (.aload_n 0, 1) := dk_42 (dk_at dksX4_number_3 7 rfl rfl)
theorem dX4_number_78 : decode cX4_number 78 = .ok (.dup, 1) := dk_89 (dk_at dksX4_number_3 8 rfl rfl)
theorem dX4_number_79 : decode cX4_number 79 = .ok (.getfield 133, 3) := dk_180 0 133 (dk_at dksX4_number_3 9 rfl rfl)
theorem dX4_number_82 : decode cX4_number 82 = .ok (.iconst 1, 1) := dk_4 (dk_at dksX4_number_3 12 rfl rfl)
theorem dX4_number_83 : decode cX4_number 83 = .ok (.iadd, 1) := dk_96 (dk_at dksX4_number_3 13 rfl rfl)
theorem dX4_number_84 : decode cX4_number 84 = .ok (.putfield 133, 3) := dk_181 0 133 (dk_at dksX4_number_3 14 rfl rfl)
theorem dX4_number_87 : decode cX4_number 87 = .ok (.goto (-46), 3) := dk_167 255 210 (dk_at dksX4_number_3 17 rfl rfl)
theorem dX4_number_90 : decode cX4_number 90 = .ok (.iload_n 3, 1) := dk_29 (dk_at dksX4_number_3 20 rfl rfl)
theorem dX4_number_91 : decode cX4_number 91 = .ok (.iload_n 1, 1) := dk_27 (dk_at dksX4_number_3 21 rfl rfl)
theorem dX4_number_92 : decode cX4_number 92 = .ok (.iload_n 2, 1) := dk_28 (dk_at dksX4_number_3 22 rfl rfl)
theorem dX4_number_93 : decode cX4_number 93 = .ok (.invokestatic 57, 3) := dk_184 0 57 (dk_at dksX4_number_4 0 rfl rfl)
theorem dX4_number_96 : decode cX4_number 96 = .ok (.ifCond .ne 13, 3) := dk_154 0 13 (dk_at dksX4_number_4 3 rfl rfl)
theorem dX4_number_99 : decode cX4_number 99 = .ok (.aload_n 0, 1) := dk_42 (dk_at dksX4_number_4 6 rfl rfl)
theorem dX4_number_100 : decode cX4_number 100 = .ok (.bipush (-3), 2) := dk_16 253 (dk_at dksX4_number_4 7 rfl rfl)
theorem dX4_number_102 : decode cX4_number 102 = .ok (.aload_n 0, 1) := dk_42 (dk_at dksX4_number_4 9 rfl rfl)
theorem dX4_number_103 : decode cX4_number 103 = .ok (.getfield 169, 3) := dk_180 0 169 (dk_at dksX4_number_4 10 rfl rfl)
theorem dX4_number_106 : decode cX4_number 106 = .ok (.invokevirtual 162, 3) := dk_182 0 162 (dk_at dksX4_number_4 13 rfl rfl)
theorem dX4_number_109 : decode cX4_number 109 = .ok (.iload_n 3, 1) := dk_29 (dk_at dksX4_number_4 16 rfl rfl)
theorem dX4_number_110 : decode cX4_number 110 = .ok (.ireturn, 1) := dk_172 (dk_at dksX4_number_4 17 rfl rfl)
abbrev cX4_isDigit : ByteArray := prog_10_method_39_code
def yX4_isDigit : MethodName := ⟨RX4, "isDigit", "(I)Z"⟩
def dkwX4_isDigit_0 : List UInt8 := [26, 16, 48, 16, 57, 184, 0, 57, 172]
abbrev dktX4_isDigit_0 : List UInt8 := dkwX4_isDigit_0 ++ []
theorem dksX4_isDigit_0 : cX4_isDigit.data.toList.drop 0 = dktX4_isDigit_0 := by decide +kernel
theorem dX4_isDigit_0 : decode cX4_isDigit 0 = .ok (.iload_n 0, 1) := dk_26 (dk_at dksX4_isDigit_0 0 rfl rfl)
theorem dX4_isDigit_1 : decode cX4_isDigit 1 = .ok (.bipush 48, 2) := dk_16 48 (dk_at dksX4_isDigit_0 1 rfl rfl)
theorem dX4_isDigit_3 : decode cX4_isDigit 3 = .ok (.bipush 57, 2) := dk_16 57 (dk_at dksX4_isDigit_0 3 rfl rfl)
theorem dX4_isDigit_5 : decode cX4_isDigit 5 = .ok (.invokestatic 57, 3) := dk_184 0 57 (dk_at dksX4_isDigit_0 5 rfl rfl)
theorem dX4_isDigit_8 : decode cX4_isDigit 8 = .ok (.ireturn, 1) := dk_172 (dk_at dksX4_isDigit_0 8 rfl rfl)
abbrev cX4_min : ByteArray := prog_10_method_5_code
def yX4_min : MethodName := ⟨RX4, "min", "(II)I"⟩
def dkwX4_min_0 : List UInt8 := [26, 27, 162, 0, 7, 26, 167, 0, 4, 27, 172]
abbrev dktX4_min_0 : List UInt8 := dkwX4_min_0 ++ []
theorem dksX4_min_0 : cX4_min.data.toList.drop 0 = dktX4_min_0 := by decide +kernel
theorem dX4_min_0 : decode cX4_min 0 = .ok (.iload_n 0, 1) := dk_26 (dk_at dksX4_min_0 0 rfl rfl)
theorem dX4_min_1 : decode cX4_min 1 = .ok (.iload_n 1, 1) := dk_27 (dk_at dksX4_min_0 1 rfl rfl)
theorem dX4_min_2 : decode cX4_min 2 = .ok (.if_icmp .ge 7, 3) := dk_162 0 7 (dk_at dksX4_min_0 2 rfl rfl)
theorem dX4_min_5 : decode cX4_min 5 = .ok (.iload_n 0, 1) := dk_26 (dk_at dksX4_min_0 5 rfl rfl)
theorem dX4_min_6 : decode cX4_min 6 = .ok (.goto 4, 3) := dk_167 0 4 (dk_at dksX4_min_0 6 rfl rfl)
theorem dX4_min_9 : decode cX4_min 9 = .ok (.iload_n 1, 1) := dk_27 (dk_at dksX4_min_0 9 rfl rfl)
theorem dX4_min_10 : decode cX4_min 10 = .ok (.ireturn, 1) := dk_172 (dk_at dksX4_min_0 10 rfl rfl)
abbrev cX4_expect : ByteArray := prog_10_method_41_code
def yX4_expect : MethodName := ⟨RX4, "expect", "(I)V"⟩
def dkwX4_expect_1 : List UInt8 := [181, 0, 133, 167, 0, 13, 42, 16, 254, 42, 180, 0, 133, 182, 0, 162, 177]
abbrev dktX4_expect_1 : List UInt8 := dkwX4_expect_1 ++ []
def dkwX4_expect_0 : List UInt8 := [42, 182, 0, 145, 154, 0, 4, 177, 42, 182, 0, 149, 27, 160, 0, 16, 42, 89, 180, 0, 133, 4, 96]
abbrev dktX4_expect_0 : List UInt8 := dkwX4_expect_0 ++ dktX4_expect_1
theorem dksX4_expect_0 : cX4_expect.data.toList.drop 0 = dktX4_expect_0 := by decide +kernel
theorem dksX4_expect_1 : cX4_expect.data.toList.drop 23 = dktX4_expect_1 := dk_seg dksX4_expect_0 23 rfl rfl
theorem dX4_expect_0 : decode cX4_expect 0 = .ok (.aload_n 0, 1) := dk_42 (dk_at dksX4_expect_0 0 rfl rfl)
theorem dX4_expect_1 : decode cX4_expect 1 = .ok (.invokevirtual 145, 3) := dk_182 0 145 (dk_at dksX4_expect_0 1 rfl rfl)
theorem dX4_expect_4 : decode cX4_expect 4 = .ok (.ifCond .ne 4, 3) := dk_154 0 4 (dk_at dksX4_expect_0 4 rfl rfl)
theorem dX4_expect_7 : decode cX4_expect 7 = .ok (.return_, 1) := dk_177 (dk_at dksX4_expect_0 7 rfl rfl)
theorem dX4_expect_8 : decode cX4_expect 8 = .ok (.aload_n 0, 1) := dk_42 (dk_at dksX4_expect_0 8 rfl rfl)
theorem dX4_expect_9 : decode cX4_expect 9 = .ok (.invokevirtual 149, 3) := dk_182 0 149 (dk_at dksX4_expect_0 9 rfl rfl)
theorem dX4_expect_12 : decode cX4_expect 12 = .ok (.iload_n 1, 1) := dk_27 (dk_at dksX4_expect_0 12 rfl rfl)
theorem dX4_expect_13 : decode cX4_expect 13 = .ok (.if_icmp .ne 16, 3) := dk_160 0 16 (dk_at dksX4_expect_0 13 rfl rfl)
theorem dX4_expect_16 : decode cX4_expect 16 = .ok (.aload_n 0, 1) := dk_42 (dk_at dksX4_expect_0 16 rfl rfl)
theorem dX4_expect_17 : decode cX4_expect 17 = .ok (.dup, 1) := dk_89 (dk_at dksX4_expect_0 17 rfl rfl)
theorem dX4_expect_18 : decode cX4_expect 18 = .ok (.getfield 133, 3) := dk_180 0 133 (dk_at dksX4_expect_0 18 rfl rfl)
theorem dX4_expect_21 : decode cX4_expect 21 = .ok (.iconst 1, 1) := dk_4 (dk_at dksX4_expect_0 21 rfl rfl)
theorem dX4_expect_22 : decode cX4_expect 22 = .ok (.iadd, 1) := dk_96 (dk_at dksX4_expect_0 22 rfl rfl)
theorem dX4_expect_23 : decode cX4_expect 23 = .ok (.putfield 133, 3) := dk_181 0 133 (dk_at dksX4_expect_1 0 rfl rfl)
theorem dX4_expect_26 : decode cX4_expect 26 = .ok (.goto 13, 3) := dk_167 0 13 (dk_at dksX4_expect_1 3 rfl rfl)
theorem dX4_expect_29 : decode cX4_expect 29 = .ok (.aload_n 0, 1) := dk_42 (dk_at dksX4_expect_1 6 rfl rfl)
theorem dX4_expect_30 : decode cX4_expect 30 = .ok (.bipush (-2), 2) := dk_16 254 (dk_at dksX4_expect_1 7 rfl rfl)
theorem dX4_expect_32 : decode cX4_expect 32 = .ok (.aload_n 0, 1) := dk_42 (dk_at dksX4_expect_1 9 rfl rfl)
theorem dX4_expect_33 : decode cX4_expect 33 = .ok (.getfield 133, 3) := dk_180 0 133 (dk_at dksX4_expect_1 10 rfl rfl)
theorem dX4_expect_36 : decode cX4_expect 36 = .ok (.invokevirtual 162, 3) := dk_182 0 162 (dk_at dksX4_expect_1 13 rfl rfl)
theorem dX4_expect_39 : decode cX4_expect 39 = .ok (.return_, 1) := dk_177 (dk_at dksX4_expect_1 16 rfl rfl)
abbrev cX4_statement : ByteArray := prog_10_method_50_code
def yX4_statement : MethodName := ⟨RX4, "statement", "()V"⟩
def dkwX4_statement_3 : List UInt8 := [167, 0, 10, 42, 16, 254, 27, 182, 0, 162, 42, 16, 59, 182, 0, 179, 177]
abbrev dktX4_statement_3 : List UInt8 := dkwX4_statement_3 ++ []
def dkwX4_statement_2 : List UInt8 := [182, 0, 185, 153, 0, 23, 42, 3, 27, 182, 0, 238, 42, 180, 0, 17, 7, 4, 79, 42, 182, 0, 176]
abbrev dktX4_statement_2 : List UInt8 := dkwX4_statement_2 ++ dktX4_statement_3
def dkwX4_statement_1 : List UInt8 := [167, 0, 56, 42, 18, 231, 182, 0, 185, 153, 0, 11, 42, 27, 182, 0, 233, 167, 0, 39, 42, 18, 236]
abbrev dktX4_statement_1 : List UInt8 := dkwX4_statement_1 ++ dktX4_statement_2
def dkwX4_statement_0 : List UInt8 := [42, 182, 0, 149, 87, 42, 180, 0, 133, 60, 42, 18, 226, 182, 0, 185, 153, 0, 11, 42, 27, 182, 0, 228]
abbrev dktX4_statement_0 : List UInt8 := dkwX4_statement_0 ++ dktX4_statement_1
theorem dksX4_statement_0 : cX4_statement.data.toList.drop 0 = dktX4_statement_0 := by decide +kernel
theorem dksX4_statement_1 : cX4_statement.data.toList.drop 24 = dktX4_statement_1 := dk_seg dksX4_statement_0 24 rfl rfl
theorem dksX4_statement_2 : cX4_statement.data.toList.drop 47 = dktX4_statement_2 := dk_seg dksX4_statement_1 23 rfl rfl
theorem dksX4_statement_3 : cX4_statement.data.toList.drop 70 = dktX4_statement_3 := dk_seg dksX4_statement_2 23 rfl rfl
theorem dX4_statement_0 : decode cX4_statement 0 = .ok (.aload_n 0, 1) := dk_42 (dk_at dksX4_statement_0 0 rfl rfl)
theorem dX4_statement_1 : decode cX4_statement 1 = .ok (.invokevirtual 149, 3) := dk_182 0 149 (dk_at dksX4_statement_0 1 rfl rfl)
theorem dX4_statement_4 : decode cX4_statement 4 = .ok (.pop, 1) := dk_87 (dk_at dksX4_statement_0 4 rfl rfl)
theorem dX4_statement_5 : decode cX4_statement 5 = .ok (.aload_n 0, 1) := dk_42 (dk_at dksX4_statement_0 5 rfl rfl)
theorem dX4_statement_6 : decode cX4_statement 6 = .ok (.getfield 133, 3) := dk_180 0 133 (dk_at dksX4_statement_0 6 rfl rfl)
theorem dX4_statement_9 : decode cX4_statement 9 = .ok (.istore_n 1, 1) := dk_60 (dk_at dksX4_statement_0 9 rfl rfl)
theorem dX4_statement_10 : decode cX4_statement 10 = .ok (.aload_n 0, 1) := dk_42 (dk_at dksX4_statement_0 10 rfl rfl)
theorem dX4_statement_11 : decode cX4_statement 11 = .ok (.ldc 226, 2) := dk_18 226 (dk_at dksX4_statement_0 11 rfl rfl)
theorem dX4_statement_13 : decode cX4_statement 13 = .ok (.invokevirtual 185, 3) := dk_182 0 185 (dk_at dksX4_statement_0 13 rfl rfl)
theorem dX4_statement_16 : decode cX4_statement 16 = .ok (.ifCond .eq 11, 3) := dk_153 0 11 (dk_at dksX4_statement_0 16 rfl rfl)
theorem dX4_statement_19 : decode cX4_statement 19 = .ok (.aload_n 0, 1) := dk_42 (dk_at dksX4_statement_0 19 rfl rfl)
theorem dX4_statement_20 : decode cX4_statement 20 = .ok (.iload_n 1, 1) := dk_27 (dk_at dksX4_statement_0 20 rfl rfl)
theorem dX4_statement_21 : decode cX4_statement 21 = .ok (.invokevirtual 228, 3) := dk_182 0 228 (dk_at dksX4_statement_0 21 rfl rfl)
theorem dX4_statement_24 : decode cX4_statement 24 = .ok (.goto 56, 3) := dk_167 0 56 (dk_at dksX4_statement_1 0 rfl rfl)
theorem dX4_statement_27 : decode cX4_statement 27 = .ok (.aload_n 0, 1) := dk_42 (dk_at dksX4_statement_1 3 rfl rfl)
theorem dX4_statement_28 : decode cX4_statement 28 = .ok (.ldc 231, 2) := dk_18 231 (dk_at dksX4_statement_1 4 rfl rfl)
theorem dX4_statement_30 : decode cX4_statement 30 = .ok (.invokevirtual 185, 3) := dk_182 0 185 (dk_at dksX4_statement_1 6 rfl rfl)
theorem dX4_statement_33 : decode cX4_statement 33 = .ok (.ifCond .eq 11, 3) := dk_153 0 11 (dk_at dksX4_statement_1 9 rfl rfl)
theorem dX4_statement_36 : decode cX4_statement 36 = .ok (.aload_n 0, 1) := dk_42 (dk_at dksX4_statement_1 12 rfl rfl)
theorem dX4_statement_37 : decode cX4_statement 37 = .ok (.iload_n 1, 1) := dk_27 (dk_at dksX4_statement_1 13 rfl rfl)
theorem dX4_statement_38 : decode cX4_statement 38 = .ok (.invokevirtual 233, 3) := dk_182 0 233 (dk_at dksX4_statement_1 14 rfl rfl)
theorem dX4_statement_41 : decode cX4_statement 41 = .ok (.goto 39, 3) := dk_167 0 39 (dk_at dksX4_statement_1 17 rfl rfl)
theorem dX4_statement_44 : decode cX4_statement 44 = .ok (.aload_n 0, 1) := dk_42 (dk_at dksX4_statement_1 20 rfl rfl)
theorem dX4_statement_45 : decode cX4_statement 45 = .ok (.ldc 236, 2) := dk_18 236 (dk_at dksX4_statement_1 21 rfl rfl)
theorem dX4_statement_47 : decode cX4_statement 47 = .ok (.invokevirtual 185, 3) := dk_182 0 185 (dk_at dksX4_statement_2 0 rfl rfl)
theorem dX4_statement_50 : decode cX4_statement 50 = .ok (.ifCond .eq 23, 3) := dk_153 0 23 (dk_at dksX4_statement_2 3 rfl rfl)
theorem dX4_statement_53 : decode cX4_statement 53 = .ok (.aload_n 0, 1) := dk_42 (dk_at dksX4_statement_2 6 rfl rfl)
theorem dX4_statement_54 : decode cX4_statement 54 = .ok (.iconst 0, 1) := dk_3 (dk_at dksX4_statement_2 7 rfl rfl)
theorem dX4_statement_55 : decode cX4_statement 55 = .ok (.iload_n 1, 1) := dk_27 (dk_at dksX4_statement_2 8 rfl rfl)
theorem dX4_statement_56 : decode cX4_statement 56 = .ok (.invokevirtual 238, 3) := dk_182 0 238 (dk_at dksX4_statement_2 9 rfl rfl)
theorem dX4_statement_59 : decode cX4_statement 59 = .ok (.aload_n 0, 1) := dk_42 (dk_at dksX4_statement_2 12 rfl rfl)
theorem dX4_statement_60 : decode cX4_statement 60 = .ok (.getfield 17, 3) := dk_180 0 17 (dk_at dksX4_statement_2 13 rfl rfl)
theorem dX4_statement_63 : decode cX4_statement 63 = .ok (.iconst 4, 1) := dk_7 (dk_at dksX4_statement_2 16 rfl rfl)
theorem dX4_statement_64 : decode cX4_statement 64 = .ok (.iconst 1, 1) := dk_4 (dk_at dksX4_statement_2 17 rfl rfl)
theorem dX4_statement_65 : decode cX4_statement 65 = .ok (.iastore, 1) := dk_79 (dk_at dksX4_statement_2 18 rfl rfl)
theorem dX4_statement_66 : decode cX4_statement 66 = .ok (.aload_n 0, 1) := dk_42 (dk_at dksX4_statement_2 19 rfl rfl)
theorem dX4_statement_67 : decode cX4_statement 67 = .ok (.invokevirtual 176, 3) := dk_182 0 176 (dk_at dksX4_statement_2 20 rfl rfl)
theorem dX4_statement_70 : decode cX4_statement 70 = .ok (.goto 10, 3) := dk_167 0 10 (dk_at dksX4_statement_3 0 rfl rfl)
theorem dX4_statement_73 : decode cX4_statement 73 = .ok (.aload_n 0, 1) := dk_42 (dk_at dksX4_statement_3 3 rfl rfl)
theorem dX4_statement_74 : decode cX4_statement 74 = .ok (.bipush (-2), 2) := dk_16 254 (dk_at dksX4_statement_3 4 rfl rfl)
theorem dX4_statement_76 : decode cX4_statement 76 = .ok (.iload_n 1, 1) := dk_27 (dk_at dksX4_statement_3 6 rfl rfl)
theorem dX4_statement_77 : decode cX4_statement 77 = .ok (.invokevirtual 162, 3) := dk_182 0 162 (dk_at dksX4_statement_3 7 rfl rfl)
theorem dX4_statement_80 : decode cX4_statement 80 = .ok (.aload_n 0, 1) := dk_42 (dk_at dksX4_statement_3 10 rfl rfl)
theorem dX4_statement_81 : decode cX4_statement 81 = .ok (.bipush 59, 2) := dk_16 59 (dk_at dksX4_statement_3 11 rfl rfl)
theorem dX4_statement_83 : decode cX4_statement 83 = .ok (.invokevirtual 179, 3) := dk_182 0 179 (dk_at dksX4_statement_3 13 rfl rfl)
theorem dX4_statement_86 : decode cX4_statement 86 = .ok (.return_, 1) := dk_177 (dk_at dksX4_statement_3 16 rfl rfl)
abbrev cX4_readStone : ByteArray := prog_10_method_48_code
def yX4_readStone : MethodName := ⟨RX4, "readStone", "(I)V"⟩
def dkwX4_readStone_6 : List UInt8 := [5, 92, 46, 4, 96, 79, 177]
abbrev dktX4_readStone_6 : List UInt8 := dkwX4_readStone_6 ++ []
def dkwX4_readStone_5 : List UInt8 := [180, 0, 17, 21, 5, 4, 96, 29, 79, 42, 180, 0, 17, 21, 5, 5, 96, 21, 4, 79, 42, 180, 0, 17]
abbrev dktX4_readStone_5 : List UInt8 := dkwX4_readStone_5 ++ dktX4_readStone_6
def dkwX4_readStone_4 : List UInt8 := [16, 6, 6, 42, 180, 0, 17, 5, 46, 104, 96, 54, 5, 42, 180, 0, 17, 21, 5, 28, 79, 42]
abbrev dktX4_readStone_4 : List UInt8 := dkwX4_readStone_4 ++ dktX4_readStone_5
def dkwX4_readStone_3 : List UInt8 := [42, 180, 0, 169, 182, 0, 162, 42, 4, 16, 99, 182, 0, 197, 54, 4, 42, 182, 0, 145, 154, 0, 4, 177]
abbrev dktX4_readStone_3 : List UInt8 := dkwX4_readStone_3 ++ dktX4_readStone_4
def dkwX4_readStone_2 : List UInt8 := [153, 0, 31, 42, 28, 29, 182, 0, 110, 154, 0, 12, 42, 28, 29, 182, 0, 212, 153, 0, 13, 42, 16, 252]
abbrev dktX4_readStone_2 : List UInt8 := dkwX4_readStone_2 ++ dktX4_readStone_3
def dkwX4_readStone_1 : List UInt8 := [3, 46, 182, 0, 197, 61, 42, 3, 42, 180, 0, 17, 4, 46, 182, 0, 197, 62, 42, 182, 0, 145]
abbrev dktX4_readStone_1 : List UInt8 := dkwX4_readStone_1 ++ dktX4_readStone_2
def dkwX4_readStone_0 : List UInt8 := [42, 180, 0, 17, 5, 46, 16, 20, 160, 0, 10, 42, 16, 251, 27, 182, 0, 162, 42, 3, 42, 180, 0, 17]
abbrev dktX4_readStone_0 : List UInt8 := dkwX4_readStone_0 ++ dktX4_readStone_1
theorem dksX4_readStone_0 : cX4_readStone.data.toList.drop 0 = dktX4_readStone_0 := by decide +kernel
theorem dksX4_readStone_1 : cX4_readStone.data.toList.drop 24 = dktX4_readStone_1 := dk_seg dksX4_readStone_0 24 rfl rfl
theorem dksX4_readStone_2 : cX4_readStone.data.toList.drop 46 = dktX4_readStone_2 := dk_seg dksX4_readStone_1 22 rfl rfl
theorem dksX4_readStone_3 : cX4_readStone.data.toList.drop 70 = dktX4_readStone_3 := dk_seg dksX4_readStone_2 24 rfl rfl
theorem dksX4_readStone_4 : cX4_readStone.data.toList.drop 94 = dktX4_readStone_4 := dk_seg dksX4_readStone_3 24 rfl rfl
theorem dksX4_readStone_5 : cX4_readStone.data.toList.drop 116 = dktX4_readStone_5 := dk_seg dksX4_readStone_4 22 rfl rfl
theorem dksX4_readStone_6 : cX4_readStone.data.toList.drop 140 = dktX4_readStone_6 := dk_seg dksX4_readStone_5 24 rfl rfl
theorem dX4_readStone_0 : decode cX4_readStone 0 = .ok (.aload_n 0, 1) := dk_42 (dk_at dksX4_readStone_0 0 rfl rfl)
theorem dX4_readStone_1 : decode cX4_readStone 1 = .ok (.getfield 17, 3) := dk_180 0 17 (dk_at dksX4_readStone_0 1 rfl rfl)
theorem dX4_readStone_4 : decode cX4_readStone 4 = .ok (.iconst 2, 1) := dk_5 (dk_at dksX4_readStone_0 4 rfl rfl)
theorem dX4_readStone_5 : decode cX4_readStone 5 = .ok (.iaload, 1) := dk_46 (dk_at dksX4_readStone_0 5 rfl rfl)
theorem dX4_readStone_6 : decode cX4_readStone 6 = .ok (.bipush 20, 2) := dk_16 20 (dk_at dksX4_readStone_0 6 rfl rfl)
theorem dX4_readStone_8 : decode cX4_readStone 8 = .ok (.if_icmp .ne 10, 3) := dk_160 0 10 (dk_at dksX4_readStone_0 8 rfl rfl)
theorem dX4_readStone_11 : decode cX4_readStone 11 = .ok (.aload_n 0, 1) := dk_42 (dk_at dksX4_readStone_0 11 rfl rfl)
theorem dX4_readStone_12 : decode cX4_readStone 12 = .ok (.bipush (-5), 2) := dk_16 251 (dk_at dksX4_readStone_0 12 rfl rfl)
theorem dX4_readStone_14 : decode cX4_readStone 14 = .ok (.iload_n 1, 1) := dk_27 (dk_at dksX4_readStone_0 14 rfl rfl)
theorem dX4_readStone_15 : decode cX4_readStone 15 = .ok (.invokevirtual 162, 3) := dk_182 0 162 (dk_at dksX4_readStone_0 15 rfl rfl)
theorem dX4_readStone_18 : decode cX4_readStone 18 = .ok (.aload_n 0, 1) := dk_42 (dk_at dksX4_readStone_0 18 rfl rfl)
theorem dX4_readStone_19 : decode cX4_readStone 19 = .ok (.iconst 0, 1) := dk_3 (dk_at dksX4_readStone_0 19 rfl rfl)
theorem dX4_readStone_20 : decode cX4_readStone 20 = .ok (.aload_n 0, 1) := dk_42 (dk_at dksX4_readStone_0 20 rfl rfl)
theorem dX4_readStone_21 : decode cX4_readStone 21 = .ok (.getfield 17, 3) := dk_180 0 17 (dk_at dksX4_readStone_0 21 rfl rfl)
theorem dX4_readStone_24 : decode cX4_readStone 24 = .ok (.iconst 0, 1) := dk_3 (dk_at dksX4_readStone_1 0 rfl rfl)
theorem dX4_readStone_25 : decode cX4_readStone 25 = .ok (.iaload, 1) := dk_46 (dk_at dksX4_readStone_1 1 rfl rfl)
theorem dX4_readStone_26 : decode cX4_readStone 26 = .ok (.invokevirtual 197, 3) := dk_182 0 197 (dk_at dksX4_readStone_1 2 rfl rfl)
theorem dX4_readStone_29 : decode cX4_readStone 29 = .ok (.istore_n 2, 1) := dk_61 (dk_at dksX4_readStone_1 5 rfl rfl)
theorem dX4_readStone_30 : decode cX4_readStone 30 = .ok (.aload_n 0, 1) := dk_42 (dk_at dksX4_readStone_1 6 rfl rfl)
theorem dX4_readStone_31 : decode cX4_readStone 31 = .ok (.iconst 0, 1) := dk_3 (dk_at dksX4_readStone_1 7 rfl rfl)
theorem dX4_readStone_32 : decode cX4_readStone 32 = .ok (.aload_n 0, 1) := dk_42 (dk_at dksX4_readStone_1 8 rfl rfl)
theorem dX4_readStone_33 : decode cX4_readStone 33 = .ok (.getfield 17, 3) := dk_180 0 17 (dk_at dksX4_readStone_1 9 rfl rfl)
theorem dX4_readStone_36 : decode cX4_readStone 36 = .ok (.iconst 1, 1) := dk_4 (dk_at dksX4_readStone_1 12 rfl rfl)
theorem dX4_readStone_37 : decode cX4_readStone 37 = .ok (.iaload, 1) := dk_46 (dk_at dksX4_readStone_1 13 rfl rfl)
theorem dX4_readStone_38 : decode cX4_readStone 38 = .ok (.invokevirtual 197, 3) := dk_182 0 197 (dk_at dksX4_readStone_1 14 rfl rfl)
theorem dX4_readStone_41 : decode cX4_readStone 41 = .ok (.istore_n 3, 1) := dk_62 (dk_at dksX4_readStone_1 17 rfl rfl)
theorem dX4_readStone_42 : decode cX4_readStone 42 = .ok (.aload_n 0, 1) := dk_42 (dk_at dksX4_readStone_1 18 rfl rfl)
theorem dX4_readStone_43 : decode cX4_readStone 43 = .ok (.invokevirtual 145, 3) := dk_182 0 145 (dk_at dksX4_readStone_1 19 rfl rfl)
theorem dX4_readStone_46 : decode cX4_readStone 46 = .ok (.ifCond .eq 31, 3) := dk_153 0 31 (dk_at dksX4_readStone_2 0 rfl rfl)
theorem dX4_readStone_49 : decode cX4_readStone 49 = .ok (.aload_n 0, 1) := dk_42 (dk_at dksX4_readStone_2 3 rfl rfl)
theorem dX4_readStone_50 : decode cX4_readStone 50 = .ok (.iload_n 2, 1) := dk_28 (dk_at dksX4_readStone_2 4 rfl rfl)
theorem dX4_readStone_51 : decode cX4_readStone 51 = .ok (.iload_n 3, 1) := dk_29 (dk_at dksX4_readStone_2 5 rfl rfl)
theorem dX4_readStone_52 : decode cX4_readStone 52 = .ok (.invokevirtual 110, 3) := dk_182 0 110 (dk_at dksX4_readStone_2 6 rfl rfl)
theorem dX4_readStone_55 : decode cX4_readStone 55 = .ok (.ifCond .ne 12, 3) := dk_154 0 12 (dk_at dksX4_readStone_2 9 rfl rfl)
theorem dX4_readStone_58 : decode cX4_readStone 58 = .ok (.aload_n 0, 1) := dk_42 (dk_at dksX4_readStone_2 12 rfl rfl)
theorem dX4_readStone_59 : decode cX4_readStone 59 = .ok (.iload_n 2, 1) := dk_28 (dk_at dksX4_readStone_2 13 rfl rfl)
theorem dX4_readStone_60 : decode cX4_readStone 60 = .ok (.iload_n 3, 1) := dk_29 (dk_at dksX4_readStone_2 14 rfl rfl)
theorem dX4_readStone_61 : decode cX4_readStone 61 = .ok (.invokevirtual 212, 3) := dk_182 0 212 (dk_at dksX4_readStone_2 15 rfl rfl)
theorem dX4_readStone_64 : decode cX4_readStone 64 = .ok (.ifCond .eq 13, 3) := dk_153 0 13 (dk_at dksX4_readStone_2 18 rfl rfl)
theorem dX4_readStone_67 : decode cX4_readStone 67 = .ok (.aload_n 0, 1) := dk_42 (dk_at dksX4_readStone_2 21 rfl rfl)
theorem dX4_readStone_68 : decode cX4_readStone 68 = .ok (.bipush (-4), 2) := dk_16 252 (dk_at dksX4_readStone_2 22 rfl rfl)
theorem dX4_readStone_70 : decode cX4_readStone 70 = .ok (.aload_n 0, 1) := dk_42 (dk_at dksX4_readStone_3 0 rfl rfl)
theorem dX4_readStone_71 : decode cX4_readStone 71 = .ok (.getfield 169, 3) := dk_180 0 169 (dk_at dksX4_readStone_3 1 rfl rfl)
theorem dX4_readStone_74 : decode cX4_readStone 74 = .ok (.invokevirtual 162, 3) := dk_182 0 162 (dk_at dksX4_readStone_3 4 rfl rfl)
theorem dX4_readStone_77 : decode cX4_readStone 77 = .ok (.aload_n 0, 1) := dk_42 (dk_at dksX4_readStone_3 7 rfl rfl)
theorem dX4_readStone_78 : decode cX4_readStone 78 = .ok (.iconst 1, 1) := dk_4 (dk_at dksX4_readStone_3 8 rfl rfl)
theorem dX4_readStone_79 : decode cX4_readStone 79 = .ok (.bipush 99, 2) := dk_16 99 (dk_at dksX4_readStone_3 9 rfl rfl)
theorem dX4_readStone_81 : decode cX4_readStone 81 = .ok (.invokevirtual 197, 3) := dk_182 0 197 (dk_at dksX4_readStone_3 11 rfl rfl)
theorem dX4_readStone_84 : decode cX4_readStone 84 = .ok (.istore 4, 2) := dk_54 4 (dk_at dksX4_readStone_3 14 rfl rfl)
theorem dX4_readStone_86 : decode cX4_readStone 86 = .ok (.aload_n 0, 1) := dk_42 (dk_at dksX4_readStone_3 16 rfl rfl)
theorem dX4_readStone_87 : decode cX4_readStone 87 = .ok (.invokevirtual 145, 3) := dk_182 0 145 (dk_at dksX4_readStone_3 17 rfl rfl)
theorem dX4_readStone_90 : decode cX4_readStone 90 = .ok (.ifCond .ne 4, 3) := dk_154 0 4 (dk_at dksX4_readStone_3 20 rfl rfl)
theorem dX4_readStone_93 : decode cX4_readStone 93 = .ok (.return_, 1) := dk_177 (dk_at dksX4_readStone_3 23 rfl rfl)
theorem dX4_readStone_94 : decode cX4_readStone 94 = .ok (.bipush 6, 2) := dk_16 6 (dk_at dksX4_readStone_4 0 rfl rfl)
theorem dX4_readStone_96 : decode cX4_readStone 96 = .ok (.iconst 3, 1) := dk_6 (dk_at dksX4_readStone_4 2 rfl rfl)
theorem dX4_readStone_97 : decode cX4_readStone 97 = .ok (.aload_n 0, 1) := dk_42 (dk_at dksX4_readStone_4 3 rfl rfl)
theorem dX4_readStone_98 : decode cX4_readStone 98 = .ok (.getfield 17, 3) := dk_180 0 17 (dk_at dksX4_readStone_4 4 rfl rfl)
theorem dX4_readStone_101 : decode cX4_readStone 101 = .ok (.iconst 2, 1) := dk_5 (dk_at dksX4_readStone_4 7 rfl rfl)
theorem dX4_readStone_102 : decode cX4_readStone 102 = .ok (.iaload, 1) := dk_46 (dk_at dksX4_readStone_4 8 rfl rfl)
theorem dX4_readStone_103 : decode cX4_readStone 103 = .ok (.imul, 1) := dk_104 (dk_at dksX4_readStone_4 9 rfl rfl)
theorem dX4_readStone_104 : decode cX4_readStone 104 = .ok (.iadd, 1) := dk_96 (dk_at dksX4_readStone_4 10 rfl rfl)
theorem dX4_readStone_105 : decode cX4_readStone 105 = .ok (.istore 5, 2) := dk_54 5 (dk_at dksX4_readStone_4 11 rfl rfl)
theorem dX4_readStone_107 : decode cX4_readStone 107 = .ok (.aload_n 0, 1) := dk_42 (dk_at dksX4_readStone_4 13 rfl rfl)
theorem dX4_readStone_108 : decode cX4_readStone 108 = .ok (.getfield 17, 3) := dk_180 0 17 (dk_at dksX4_readStone_4 14 rfl rfl)
theorem dX4_readStone_111 : decode cX4_readStone 111 = .ok (.iload 5, 2) := dk_21 5 (dk_at dksX4_readStone_4 17 rfl rfl)
theorem dX4_readStone_113 : decode cX4_readStone 113 = .ok (.iload_n 2, 1) := dk_28 (dk_at dksX4_readStone_4 19 rfl rfl)
theorem dX4_readStone_114 : decode cX4_readStone 114 = .ok (.iastore, 1) := dk_79 (dk_at dksX4_readStone_4 20 rfl rfl)
theorem dX4_readStone_115 : decode cX4_readStone 115 = .ok (.aload_n 0, 1) := dk_42 (dk_at dksX4_readStone_4 21 rfl rfl)
theorem dX4_readStone_116 : decode cX4_readStone 116 = .ok (.getfield 17, 3) := dk_180 0 17 (dk_at dksX4_readStone_5 0 rfl rfl)
theorem dX4_readStone_119 : decode cX4_readStone 119 = .ok (.iload 5, 2) := dk_21 5 (dk_at dksX4_readStone_5 3 rfl rfl)
theorem dX4_readStone_121 : decode cX4_readStone 121 = .ok (.iconst 1, 1) := dk_4 (dk_at dksX4_readStone_5 5 rfl rfl)
theorem dX4_readStone_122 : decode cX4_readStone 122 = .ok (.iadd, 1) := dk_96 (dk_at dksX4_readStone_5 6 rfl rfl)
theorem dX4_readStone_123 : decode cX4_readStone 123 = .ok (.iload_n 3, 1) := dk_29 (dk_at dksX4_readStone_5 7 rfl rfl)
theorem dX4_readStone_124 : decode cX4_readStone 124 = .ok (.iastore, 1) := dk_79 (dk_at dksX4_readStone_5 8 rfl rfl)
theorem dX4_readStone_125 : decode cX4_readStone 125 = .ok (.aload_n 0, 1) := dk_42 (dk_at dksX4_readStone_5 9 rfl rfl)
theorem dX4_readStone_126 : decode cX4_readStone 126 = .ok (.getfield 17, 3) := dk_180 0 17 (dk_at dksX4_readStone_5 10 rfl rfl)
theorem dX4_readStone_129 : decode cX4_readStone 129 = .ok (.iload 5, 2) := dk_21 5 (dk_at dksX4_readStone_5 13 rfl rfl)
theorem dX4_readStone_131 : decode cX4_readStone 131 = .ok (.iconst 2, 1) := dk_5 (dk_at dksX4_readStone_5 15 rfl rfl)
theorem dX4_readStone_132 : decode cX4_readStone 132 = .ok (.iadd, 1) := dk_96 (dk_at dksX4_readStone_5 16 rfl rfl)
theorem dX4_readStone_133 : decode cX4_readStone 133 = .ok (.iload 4, 2) := dk_21 4 (dk_at dksX4_readStone_5 17 rfl rfl)
theorem dX4_readStone_135 : decode cX4_readStone 135 = .ok (.iastore, 1) := dk_79 (dk_at dksX4_readStone_5 19 rfl rfl)
theorem dX4_readStone_136 : decode cX4_readStone 136 = .ok (.aload_n 0, 1) := dk_42 (dk_at dksX4_readStone_5 20 rfl rfl)
theorem dX4_readStone_137 : decode cX4_readStone 137 = .ok (.getfield 17, 3) := dk_180 0 17 (dk_at dksX4_readStone_5 21 rfl rfl)
theorem dX4_readStone_140 : decode cX4_readStone 140 = .ok (.iconst 2, 1) := dk_5 (dk_at dksX4_readStone_6 0 rfl rfl)
theorem dX4_readStone_141 : decode cX4_readStone 141 = .ok (.dup2, 1) := dk_92 (dk_at dksX4_readStone_6 1 rfl rfl)
theorem dX4_readStone_142 : decode cX4_readStone 142 = .ok (.iaload, 1) := dk_46 (dk_at dksX4_readStone_6 2 rfl rfl)
theorem dX4_readStone_143 : decode cX4_readStone 143 = .ok (.iconst 1, 1) := dk_4 (dk_at dksX4_readStone_6 3 rfl rfl)
theorem dX4_readStone_144 : decode cX4_readStone 144 = .ok (.iadd, 1) := dk_96 (dk_at dksX4_readStone_6 4 rfl rfl)
theorem dX4_readStone_145 : decode cX4_readStone 145 = .ok (.iastore, 1) := dk_79 (dk_at dksX4_readStone_6 5 rfl rfl)
theorem dX4_readStone_146 : decode cX4_readStone 146 = .ok (.return_, 1) := dk_177 (dk_at dksX4_readStone_6 6 rfl rfl)
abbrev cX4_isTaken : ByteArray := prog_10_method_22_code
def yX4_isTaken : MethodName := ⟨RX4, "isTaken", "(II)Z"⟩
def dkwX4_isTaken_2 : List UInt8 := [160, 0, 5, 4, 172, 132, 4, 1, 167, 255, 219, 132, 3, 1, 167, 255, 200, 42, 27, 28, 182, 0, 78, 172]
abbrev dktX4_isTaken_2 : List UInt8 := dkwX4_isTaken_2 ++ []
def dkwX4_isTaken_1 : List UInt8 := [162, 0, 33, 42, 29, 21, 4, 182, 0, 72, 27, 160, 0, 16, 42, 29, 21, 4, 182, 0, 75, 28]
abbrev dktX4_isTaken_1 : List UInt8 := dkwX4_isTaken_1 ++ dktX4_isTaken_2
def dkwX4_isTaken_0 : List UInt8 := [3, 62, 29, 42, 180, 0, 17, 6, 46, 162, 0, 52, 3, 54, 4, 21, 4, 42, 29, 182, 0, 39]
abbrev dktX4_isTaken_0 : List UInt8 := dkwX4_isTaken_0 ++ dktX4_isTaken_1
theorem dksX4_isTaken_0 : cX4_isTaken.data.toList.drop 0 = dktX4_isTaken_0 := by decide +kernel
theorem dksX4_isTaken_1 : cX4_isTaken.data.toList.drop 22 = dktX4_isTaken_1 := dk_seg dksX4_isTaken_0 22 rfl rfl
theorem dksX4_isTaken_2 : cX4_isTaken.data.toList.drop 44 = dktX4_isTaken_2 := dk_seg dksX4_isTaken_1 22 rfl rfl
theorem dX4_isTaken_0 : decode cX4_isTaken 0 = .ok (.iconst 0, 1) := dk_3 (dk_at dksX4_isTaken_0 0 rfl rfl)
theorem dX4_isTaken_1 : decode cX4_isTaken 1 = .ok (.istore_n 3, 1) := dk_62 (dk_at dksX4_isTaken_0 1 rfl rfl)
theorem dX4_isTaken_2 : decode cX4_isTaken 2 = .ok (.iload_n 3, 1) := dk_29 (dk_at dksX4_isTaken_0 2 rfl rfl)
theorem dX4_isTaken_3 : decode cX4_isTaken 3 = .ok (.aload_n 0, 1) := dk_42 (dk_at dksX4_isTaken_0 3 rfl rfl)
theorem dX4_isTaken_4 : decode cX4_isTaken 4 = .ok (.getfield 17, 3) := dk_180 0 17 (dk_at dksX4_isTaken_0 4 rfl rfl)
theorem dX4_isTaken_7 : decode cX4_isTaken 7 = .ok (.iconst 3, 1) := dk_6 (dk_at dksX4_isTaken_0 7 rfl rfl)
theorem dX4_isTaken_8 : decode cX4_isTaken 8 = .ok (.iaload, 1) := dk_46 (dk_at dksX4_isTaken_0 8 rfl rfl)
theorem dX4_isTaken_9 : decode cX4_isTaken 9 = .ok (.if_icmp .ge 52, 3) := dk_162 0 52 (dk_at dksX4_isTaken_0 9 rfl rfl)
theorem dX4_isTaken_12 : decode cX4_isTaken 12 = .ok (.iconst 0, 1) := dk_3 (dk_at dksX4_isTaken_0 12 rfl rfl)
theorem dX4_isTaken_13 : decode cX4_isTaken 13 = .ok (.istore 4, 2) := dk_54 4 (dk_at dksX4_isTaken_0 13 rfl rfl)
theorem dX4_isTaken_15 : decode cX4_isTaken 15 = .ok (.iload 4, 2) := dk_21 4 (dk_at dksX4_isTaken_0 15 rfl rfl)
theorem dX4_isTaken_17 : decode cX4_isTaken 17 = .ok (.aload_n 0, 1) := dk_42 (dk_at dksX4_isTaken_0 17 rfl rfl)
theorem dX4_isTaken_18 : decode cX4_isTaken 18 = .ok (.iload_n 3, 1) := dk_29 (dk_at dksX4_isTaken_0 18 rfl rfl)
theorem dX4_isTaken_19 : decode cX4_isTaken 19 = .ok (.invokevirtual 39, 3) := dk_182 0 39 (dk_at dksX4_isTaken_0 19 rfl rfl)
theorem dX4_isTaken_22 : decode cX4_isTaken 22 = .ok (.if_icmp .ge 33, 3) := dk_162 0 33 (dk_at dksX4_isTaken_1 0 rfl rfl)
theorem dX4_isTaken_25 : decode cX4_isTaken 25 = .ok (.aload_n 0, 1) := dk_42 (dk_at dksX4_isTaken_1 3 rfl rfl)
theorem dX4_isTaken_26 : decode cX4_isTaken 26 = .ok (.iload_n 3, 1) := dk_29 (dk_at dksX4_isTaken_1 4 rfl rfl)
theorem dX4_isTaken_27 : decode cX4_isTaken 27 = .ok (.iload 4, 2) := dk_21 4 (dk_at dksX4_isTaken_1 5 rfl rfl)
theorem dX4_isTaken_29 : decode cX4_isTaken 29 = .ok (.invokevirtual 72, 3) := dk_182 0 72 (dk_at dksX4_isTaken_1 7 rfl rfl)
theorem dX4_isTaken_32 : decode cX4_isTaken 32 = .ok (.iload_n 1, 1) := dk_27 (dk_at dksX4_isTaken_1 10 rfl rfl)
theorem dX4_isTaken_33 : decode cX4_isTaken 33 = .ok (.if_icmp .ne 16, 3) := dk_160 0 16 (dk_at dksX4_isTaken_1 11 rfl rfl)
theorem dX4_isTaken_36 : decode cX4_isTaken 36 = .ok (.aload_n 0, 1) := dk_42 (dk_at dksX4_isTaken_1 14 rfl rfl)
theorem dX4_isTaken_37 : decode cX4_isTaken 37 = .ok (.iload_n 3, 1) := dk_29 (dk_at dksX4_isTaken_1 15 rfl rfl)
theorem dX4_isTaken_38 : decode cX4_isTaken 38 = .ok (.iload 4, 2) := dk_21 4 (dk_at dksX4_isTaken_1 16 rfl rfl)
theorem dX4_isTaken_40 : decode cX4_isTaken 40 = .ok (.invokevirtual 75, 3) := dk_182 0 75 (dk_at dksX4_isTaken_1 18 rfl rfl)
theorem dX4_isTaken_43 : decode cX4_isTaken 43 = .ok (.iload_n 2, 1) := dk_28 (dk_at dksX4_isTaken_1 21 rfl rfl)
theorem dX4_isTaken_44 : decode cX4_isTaken 44 = .ok (.if_icmp .ne 5, 3) := dk_160 0 5 (dk_at dksX4_isTaken_2 0 rfl rfl)
theorem dX4_isTaken_47 : decode cX4_isTaken 47 = .ok (.iconst 1, 1) := dk_4 (dk_at dksX4_isTaken_2 3 rfl rfl)
theorem dX4_isTaken_48 : decode cX4_isTaken 48 = .ok (.ireturn, 1) := dk_172 (dk_at dksX4_isTaken_2 4 rfl rfl)
theorem dX4_isTaken_49 : decode cX4_isTaken 49 = .ok (.iinc 4 1, 3) := dk_132 4 1 (dk_at dksX4_isTaken_2 5 rfl rfl)
theorem dX4_isTaken_52 : decode cX4_isTaken 52 = .ok (.goto (-37), 3) := dk_167 255 219 (dk_at dksX4_isTaken_2 8 rfl rfl)
theorem dX4_isTaken_55 : decode cX4_isTaken 55 = .ok (.iinc 3 1, 3) := dk_132 3 1 (dk_at dksX4_isTaken_2 11 rfl rfl)
theorem dX4_isTaken_58 : decode cX4_isTaken 58 = .ok (.goto (-56), 3) := dk_167 255 200 (dk_at dksX4_isTaken_2 14 rfl rfl)
theorem dX4_isTaken_61 : decode cX4_isTaken 61 = .ok (.aload_n 0, 1) := dk_42 (dk_at dksX4_isTaken_2 17 rfl rfl)
theorem dX4_isTaken_62 : decode cX4_isTaken 62 = .ok (.iload_n 1, 1) := dk_27 (dk_at dksX4_isTaken_2 18 rfl rfl)
theorem dX4_isTaken_63 : decode cX4_isTaken 63 = .ok (.iload_n 2, 1) := dk_28 (dk_at dksX4_isTaken_2 19 rfl rfl)
theorem dX4_isTaken_64 : decode cX4_isTaken 64 = .ok (.invokevirtual 78, 3) := dk_182 0 78 (dk_at dksX4_isTaken_2 20 rfl rfl)
theorem dX4_isTaken_67 : decode cX4_isTaken 67 = .ok (.ireturn, 1) := dk_172 (dk_at dksX4_isTaken_2 23 rfl rfl)
abbrev cX4_countOf : ByteArray := prog_10_method_9_code
def yX4_countOf : MethodName := ⟨RX4, "countOf", "(I)I"⟩
def dkwX4_countOf_0 : List UInt8 := [42, 180, 0, 17, 27, 184, 0, 35, 4, 96, 46, 172]
abbrev dktX4_countOf_0 : List UInt8 := dkwX4_countOf_0 ++ []
theorem dksX4_countOf_0 : cX4_countOf.data.toList.drop 0 = dktX4_countOf_0 := by decide +kernel
theorem dX4_countOf_0 : decode cX4_countOf 0 = .ok (.aload_n 0, 1) := dk_42 (dk_at dksX4_countOf_0 0 rfl rfl)
theorem dX4_countOf_1 : decode cX4_countOf 1 = .ok (.getfield 17, 3) := dk_180 0 17 (dk_at dksX4_countOf_0 1 rfl rfl)
theorem dX4_countOf_4 : decode cX4_countOf 4 = .ok (.iload_n 1, 1) := dk_27 (dk_at dksX4_countOf_0 4 rfl rfl)
theorem dX4_countOf_5 : decode cX4_countOf 5 = .ok (.invokestatic 35, 3) := dk_184 0 35 (dk_at dksX4_countOf_0 5 rfl rfl)
theorem dX4_countOf_8 : decode cX4_countOf 8 = .ok (.iconst 1, 1) := dk_4 (dk_at dksX4_countOf_0 8 rfl rfl)
theorem dX4_countOf_9 : decode cX4_countOf 9 = .ok (.iadd, 1) := dk_96 (dk_at dksX4_countOf_0 9 rfl rfl)
theorem dX4_countOf_10 : decode cX4_countOf 10 = .ok (.iaload, 1) := dk_46 (dk_at dksX4_countOf_0 10 rfl rfl)
theorem dX4_countOf_11 : decode cX4_countOf 11 = .ok (.ireturn, 1) := dk_172 (dk_at dksX4_countOf_0 11 rfl rfl)
abbrev cX4_at : ByteArray := prog_10_method_8_code
def yX4_at : MethodName := ⟨RX4, "at", "(I)I"⟩
def dkwX4_at_0 : List UInt8 := [16, 66, 16, 27, 26, 104, 96, 172]
abbrev dktX4_at_0 : List UInt8 := dkwX4_at_0 ++ []
theorem dksX4_at_0 : cX4_at.data.toList.drop 0 = dktX4_at_0 := by decide +kernel
theorem dX4_at_0 : decode cX4_at 0 = .ok (.bipush 66, 2) := dk_16 66 (dk_at dksX4_at_0 0 rfl rfl)
theorem dX4_at_2 : decode cX4_at 2 = .ok (.bipush 27, 2) := dk_16 27 (dk_at dksX4_at_0 2 rfl rfl)
theorem dX4_at_4 : decode cX4_at 4 = .ok (.iload_n 0, 1) := dk_26 (dk_at dksX4_at_0 4 rfl rfl)
theorem dX4_at_5 : decode cX4_at 5 = .ok (.imul, 1) := dk_104 (dk_at dksX4_at_0 5 rfl rfl)
theorem dX4_at_6 : decode cX4_at 6 = .ok (.iadd, 1) := dk_96 (dk_at dksX4_at_0 6 rfl rfl)
theorem dX4_at_7 : decode cX4_at 7 = .ok (.ireturn, 1) := dk_172 (dk_at dksX4_at_0 7 rfl rfl)
abbrev cX4_xOf : ByteArray := prog_10_method_11_code
def yX4_xOf : MethodName := ⟨RX4, "xOf", "(II)I"⟩
def dkwX4_xOf_0 : List UInt8 := [42, 180, 0, 17, 27, 184, 0, 35, 6, 96, 5, 28, 104, 96, 46, 172]
abbrev dktX4_xOf_0 : List UInt8 := dkwX4_xOf_0 ++ []
theorem dksX4_xOf_0 : cX4_xOf.data.toList.drop 0 = dktX4_xOf_0 := by decide +kernel
theorem dX4_xOf_0 : decode cX4_xOf 0 = .ok (.aload_n 0, 1) := dk_42 (dk_at dksX4_xOf_0 0 rfl rfl)
theorem dX4_xOf_1 : decode cX4_xOf 1 = .ok (.getfield 17, 3) := dk_180 0 17 (dk_at dksX4_xOf_0 1 rfl rfl)
theorem dX4_xOf_4 : decode cX4_xOf 4 = .ok (.iload_n 1, 1) := dk_27 (dk_at dksX4_xOf_0 4 rfl rfl)
theorem dX4_xOf_5 : decode cX4_xOf 5 = .ok (.invokestatic 35, 3) := dk_184 0 35 (dk_at dksX4_xOf_0 5 rfl rfl)
theorem dX4_xOf_8 : decode cX4_xOf 8 = .ok (.iconst 3, 1) := dk_6 (dk_at dksX4_xOf_0 8 rfl rfl)
theorem dX4_xOf_9 : decode cX4_xOf 9 = .ok (.iadd, 1) := dk_96 (dk_at dksX4_xOf_0 9 rfl rfl)
theorem dX4_xOf_10 : decode cX4_xOf 10 = .ok (.iconst 2, 1) := dk_5 (dk_at dksX4_xOf_0 10 rfl rfl)
theorem dX4_xOf_11 : decode cX4_xOf 11 = .ok (.iload_n 2, 1) := dk_28 (dk_at dksX4_xOf_0 11 rfl rfl)
theorem dX4_xOf_12 : decode cX4_xOf 12 = .ok (.imul, 1) := dk_104 (dk_at dksX4_xOf_0 12 rfl rfl)
theorem dX4_xOf_13 : decode cX4_xOf 13 = .ok (.iadd, 1) := dk_96 (dk_at dksX4_xOf_0 13 rfl rfl)
theorem dX4_xOf_14 : decode cX4_xOf 14 = .ok (.iaload, 1) := dk_46 (dk_at dksX4_xOf_0 14 rfl rfl)
theorem dX4_xOf_15 : decode cX4_xOf 15 = .ok (.ireturn, 1) := dk_172 (dk_at dksX4_xOf_0 15 rfl rfl)
abbrev cX4_yOf : ByteArray := prog_10_method_12_code
def yX4_yOf : MethodName := ⟨RX4, "yOf", "(II)I"⟩
def dkwX4_yOf_0 : List UInt8 := [42, 180, 0, 17, 27, 184, 0, 35, 6, 96, 5, 28, 104, 96, 4, 96, 46, 172]
abbrev dktX4_yOf_0 : List UInt8 := dkwX4_yOf_0 ++ []
theorem dksX4_yOf_0 : cX4_yOf.data.toList.drop 0 = dktX4_yOf_0 := by decide +kernel
theorem dX4_yOf_0 : decode cX4_yOf 0 = .ok (.aload_n 0, 1) := dk_42 (dk_at dksX4_yOf_0 0 rfl rfl)
theorem dX4_yOf_1 : decode cX4_yOf 1 = .ok (.getfield 17, 3) := dk_180 0 17 (dk_at dksX4_yOf_0 1 rfl rfl)
theorem dX4_yOf_4 : decode cX4_yOf 4 = .ok (.iload_n 1, 1) := dk_27 (dk_at dksX4_yOf_0 4 rfl rfl)
theorem dX4_yOf_5 : decode cX4_yOf 5 = .ok (.invokestatic 35, 3) := dk_184 0 35 (dk_at dksX4_yOf_0 5 rfl rfl)
theorem dX4_yOf_8 : decode cX4_yOf 8 = .ok (.iconst 3, 1) := dk_6 (dk_at dksX4_yOf_0 8 rfl rfl)
theorem dX4_yOf_9 : decode cX4_yOf 9 = .ok (.iadd, 1) := dk_96 (dk_at dksX4_yOf_0 9 rfl rfl)
theorem dX4_yOf_10 : decode cX4_yOf 10 = .ok (.iconst 2, 1) := dk_5 (dk_at dksX4_yOf_0 10 rfl rfl)
theorem dX4_yOf_11 : decode cX4_yOf 11 = .ok (.iload_n 2, 1) := dk_28 (dk_at dksX4_yOf_0 11 rfl rfl)
theorem dX4_yOf_12 : decode cX4_yOf 12 = .ok (.imul, 1) := dk_104 (dk_at dksX4_yOf_0 12 rfl rfl)
theorem dX4_yOf_13 : decode cX4_yOf 13 = .ok (.iadd, 1) := dk_96 (dk_at dksX4_yOf_0 13 rfl rfl)
theorem dX4_yOf_14 : decode cX4_yOf 14 = .ok (.iconst 1, 1) := dk_4 (dk_at dksX4_yOf_0 14 rfl rfl)
theorem dX4_yOf_15 : decode cX4_yOf 15 = .ok (.iadd, 1) := dk_96 (dk_at dksX4_yOf_0 15 rfl rfl)
theorem dX4_yOf_16 : decode cX4_yOf 16 = .ok (.iaload, 1) := dk_46 (dk_at dksX4_yOf_0 16 rfl rfl)
theorem dX4_yOf_17 : decode cX4_yOf 17 = .ok (.ireturn, 1) := dk_172 (dk_at dksX4_yOf_0 17 rfl rfl)
abbrev cX4_isStone : ByteArray := prog_10_method_21_code
def yX4_isStone : MethodName := ⟨RX4, "isStone", "(II)Z"⟩
def dkwX4_isStone_2 : List UInt8 := [132, 3, 1, 167, 255, 209, 3, 172]
abbrev dktX4_isStone_2 : List UInt8 := dkwX4_isStone_2 ++ []
def dkwX4_isStone_1 : List UInt8 := [160, 0, 22, 42, 180, 0, 17, 16, 6, 6, 29, 104, 96, 4, 96, 46, 28, 160, 0, 5, 4, 172]
abbrev dktX4_isStone_1 : List UInt8 := dkwX4_isStone_1 ++ dktX4_isStone_2
def dkwX4_isStone_0 : List UInt8 := [3, 62, 29, 42, 180, 0, 17, 5, 46, 162, 0, 43, 42, 180, 0, 17, 16, 6, 6, 29, 104, 96, 46, 27]
abbrev dktX4_isStone_0 : List UInt8 := dkwX4_isStone_0 ++ dktX4_isStone_1
theorem dksX4_isStone_0 : cX4_isStone.data.toList.drop 0 = dktX4_isStone_0 := by decide +kernel
theorem dksX4_isStone_1 : cX4_isStone.data.toList.drop 24 = dktX4_isStone_1 := dk_seg dksX4_isStone_0 24 rfl rfl
theorem dksX4_isStone_2 : cX4_isStone.data.toList.drop 46 = dktX4_isStone_2 := dk_seg dksX4_isStone_1 22 rfl rfl
theorem dX4_isStone_0 : decode cX4_isStone 0 = .ok (.iconst 0, 1) := dk_3 (dk_at dksX4_isStone_0 0 rfl rfl)
theorem dX4_isStone_1 : decode cX4_isStone 1 = .ok (.istore_n 3, 1) := dk_62 (dk_at dksX4_isStone_0 1 rfl rfl)
theorem dX4_isStone_2 : decode cX4_isStone 2 = .ok (.iload_n 3, 1) := dk_29 (dk_at dksX4_isStone_0 2 rfl rfl)
theorem dX4_isStone_3 : decode cX4_isStone 3 = .ok (.aload_n 0, 1) := dk_42 (dk_at dksX4_isStone_0 3 rfl rfl)
theorem dX4_isStone_4 : decode cX4_isStone 4 = .ok (.getfield 17, 3) := dk_180 0 17 (dk_at dksX4_isStone_0 4 rfl rfl)
theorem dX4_isStone_7 : decode cX4_isStone 7 = .ok (.iconst 2, 1) := dk_5 (dk_at dksX4_isStone_0 7 rfl rfl)
theorem dX4_isStone_8 : decode cX4_isStone 8 = .ok (.iaload, 1) := dk_46 (dk_at dksX4_isStone_0 8 rfl rfl)
theorem dX4_isStone_9 : decode cX4_isStone 9 = .ok (.if_icmp .ge 43, 3) := dk_162 0 43 (dk_at dksX4_isStone_0 9 rfl rfl)
theorem dX4_isStone_12 : decode cX4_isStone 12 = .ok (.aload_n 0, 1) := dk_42 (dk_at dksX4_isStone_0 12 rfl rfl)
theorem dX4_isStone_13 : decode cX4_isStone 13 = .ok (.getfield 17, 3) := dk_180 0 17 (dk_at dksX4_isStone_0 13 rfl rfl)
theorem dX4_isStone_16 : decode cX4_isStone 16 = .ok (.bipush 6, 2) := dk_16 6 (dk_at dksX4_isStone_0 16 rfl rfl)
theorem dX4_isStone_18 : decode cX4_isStone 18 = .ok (.iconst 3, 1) := dk_6 (dk_at dksX4_isStone_0 18 rfl rfl)
theorem dX4_isStone_19 : decode cX4_isStone 19 = .ok (.iload_n 3, 1) := dk_29 (dk_at dksX4_isStone_0 19 rfl rfl)
theorem dX4_isStone_20 : decode cX4_isStone 20 = .ok (.imul, 1) := dk_104 (dk_at dksX4_isStone_0 20 rfl rfl)
theorem dX4_isStone_21 : decode cX4_isStone 21 = .ok (.iadd, 1) := dk_96 (dk_at dksX4_isStone_0 21 rfl rfl)
theorem dX4_isStone_22 : decode cX4_isStone 22 = .ok (.iaload, 1) := dk_46 (dk_at dksX4_isStone_0 22 rfl rfl)
theorem dX4_isStone_23 : decode cX4_isStone 23 = .ok (.iload_n 1, 1) := dk_27 (dk_at dksX4_isStone_0 23 rfl rfl)
theorem dX4_isStone_24 : decode cX4_isStone 24 = .ok (.if_icmp .ne 22, 3) := dk_160 0 22 (dk_at dksX4_isStone_1 0 rfl rfl)
theorem dX4_isStone_27 : decode cX4_isStone 27 = .ok (.aload_n 0, 1) := dk_42 (dk_at dksX4_isStone_1 3 rfl rfl)
theorem dX4_isStone_28 : decode cX4_isStone 28 = .ok (.getfield 17, 3) := dk_180 0 17 (dk_at dksX4_isStone_1 4 rfl rfl)
theorem dX4_isStone_31 : decode cX4_isStone 31 = .ok (.bipush 6, 2) := dk_16 6 (dk_at dksX4_isStone_1 7 rfl rfl)
theorem dX4_isStone_33 : decode cX4_isStone 33 = .ok (.iconst 3, 1) := dk_6 (dk_at dksX4_isStone_1 9 rfl rfl)
theorem dX4_isStone_34 : decode cX4_isStone 34 = .ok (.iload_n 3, 1) := dk_29 (dk_at dksX4_isStone_1 10 rfl rfl)
theorem dX4_isStone_35 : decode cX4_isStone 35 = .ok (.imul, 1) := dk_104 (dk_at dksX4_isStone_1 11 rfl rfl)
theorem dX4_isStone_36 : decode cX4_isStone 36 = .ok (.iadd, 1) := dk_96 (dk_at dksX4_isStone_1 12 rfl rfl)
theorem dX4_isStone_37 : decode cX4_isStone 37 = .ok (.iconst 1, 1) := dk_4 (dk_at dksX4_isStone_1 13 rfl rfl)
theorem dX4_isStone_38 : decode cX4_isStone 38 = .ok (.iadd, 1) := dk_96 (dk_at dksX4_isStone_1 14 rfl rfl)
theorem dX4_isStone_39 : decode cX4_isStone 39 = .ok (.iaload, 1) := dk_46 (dk_at dksX4_isStone_1 15 rfl rfl)
theorem dX4_isStone_40 : decode cX4_isStone 40 = .ok (.iload_n 2, 1) := dk_28 (dk_at dksX4_isStone_1 16 rfl rfl)
theorem dX4_isStone_41 : decode cX4_isStone 41 = .ok (.if_icmp .ne 5, 3) := dk_160 0 5 (dk_at dksX4_isStone_1 17 rfl rfl)
theorem dX4_isStone_44 : decode cX4_isStone 44 = .ok (.iconst 1, 1) := dk_4 (dk_at dksX4_isStone_1 20 rfl rfl)
theorem dX4_isStone_45 : decode cX4_isStone 45 = .ok (.ireturn, 1) := dk_172 (dk_at dksX4_isStone_1 21 rfl rfl)
theorem dX4_isStone_46 : decode cX4_isStone 46 = .ok (.iinc 3 1, 3) := dk_132 3 1 (dk_at dksX4_isStone_2 0 rfl rfl)
theorem dX4_isStone_49 : decode cX4_isStone 49 = .ok (.goto (-47), 3) := dk_167 255 209 (dk_at dksX4_isStone_2 3 rfl rfl)
theorem dX4_isStone_52 : decode cX4_isStone 52 = .ok (.iconst 0, 1) := dk_3 (dk_at dksX4_isStone_2 6 rfl rfl)
theorem dX4_isStone_53 : decode cX4_isStone 53 = .ok (.ireturn, 1) := dk_172 (dk_at dksX4_isStone_2 7 rfl rfl)
abbrev cX4_isOnSide : ByteArray := prog_10_method_23_code
def yX4_isOnSide : MethodName := ⟨RX4, "isOnSide", "(II)Z"⟩
def dkwX4_isOnSide_3 : List UInt8 := [153, 0, 5, 4, 172, 132, 4, 1, 167, 255, 195, 132, 3, 1, 167, 255, 176, 3, 172]
abbrev dktX4_isOnSide_3 : List UInt8 := dkwX4_isOnSide_3 ++ []
def dkwX4_isOnSide_2 : List UInt8 := [182, 0, 84, 182, 0, 72, 42, 29, 42, 29, 21, 4, 182, 0, 84, 182, 0, 75, 27, 28, 184, 0, 61]
abbrev dktX4_isOnSide_2 : List UInt8 := dkwX4_isOnSide_2 ++ dktX4_isOnSide_3
def dkwX4_isOnSide_1 : List UInt8 := [162, 0, 57, 42, 29, 21, 4, 182, 0, 72, 42, 29, 21, 4, 182, 0, 75, 42, 29, 42, 29, 21, 4]
abbrev dktX4_isOnSide_1 : List UInt8 := dkwX4_isOnSide_1 ++ dktX4_isOnSide_2
def dkwX4_isOnSide_0 : List UInt8 := [3, 62, 29, 42, 180, 0, 17, 6, 46, 162, 0, 76, 3, 54, 4, 21, 4, 42, 29, 182, 0, 81]
abbrev dktX4_isOnSide_0 : List UInt8 := dkwX4_isOnSide_0 ++ dktX4_isOnSide_1
theorem dksX4_isOnSide_0 : cX4_isOnSide.data.toList.drop 0 = dktX4_isOnSide_0 := by decide +kernel
theorem dksX4_isOnSide_1 : cX4_isOnSide.data.toList.drop 22 = dktX4_isOnSide_1 := dk_seg dksX4_isOnSide_0 22 rfl rfl
theorem dksX4_isOnSide_2 : cX4_isOnSide.data.toList.drop 45 = dktX4_isOnSide_2 := dk_seg dksX4_isOnSide_1 23 rfl rfl
theorem dksX4_isOnSide_3 : cX4_isOnSide.data.toList.drop 68 = dktX4_isOnSide_3 := dk_seg dksX4_isOnSide_2 23 rfl rfl
theorem dX4_isOnSide_0 : decode cX4_isOnSide 0 = .ok (.iconst 0, 1) := dk_3 (dk_at dksX4_isOnSide_0 0 rfl rfl)
theorem dX4_isOnSide_1 : decode cX4_isOnSide 1 = .ok (.istore_n 3, 1) := dk_62 (dk_at dksX4_isOnSide_0 1 rfl rfl)
theorem dX4_isOnSide_2 : decode cX4_isOnSide 2 = .ok (.iload_n 3, 1) := dk_29 (dk_at dksX4_isOnSide_0 2 rfl rfl)
theorem dX4_isOnSide_3 : decode cX4_isOnSide 3 = .ok (.aload_n 0, 1) := dk_42 (dk_at dksX4_isOnSide_0 3 rfl rfl)
theorem dX4_isOnSide_4 : decode cX4_isOnSide 4 = .ok (.getfield 17, 3) := dk_180 0 17 (dk_at dksX4_isOnSide_0 4 rfl rfl)
theorem dX4_isOnSide_7 : decode cX4_isOnSide 7 = .ok (.iconst 3, 1) := dk_6 (dk_at dksX4_isOnSide_0 7 rfl rfl)
theorem dX4_isOnSide_8 : decode cX4_isOnSide 8 = .ok (.iaload, 1) := dk_46 (dk_at dksX4_isOnSide_0 8 rfl rfl)
theorem dX4_isOnSide_9 : decode cX4_isOnSide 9 = .ok (.if_icmp .ge 76, 3) := dk_162 0 76 (dk_at dksX4_isOnSide_0 9 rfl rfl)
theorem dX4_isOnSide_12 : decode cX4_isOnSide 12 = .ok (.iconst 0, 1) := dk_3 (dk_at dksX4_isOnSide_0 12 rfl rfl)
theorem dX4_isOnSide_13 : decode cX4_isOnSide 13 = .ok (.istore 4, 2) := dk_54 4 (dk_at dksX4_isOnSide_0 13 rfl rfl)
theorem dX4_isOnSide_15 : decode cX4_isOnSide 15 = .ok (.iload 4, 2) := dk_21 4 (dk_at dksX4_isOnSide_0 15 rfl rfl)
theorem dX4_isOnSide_17 : decode cX4_isOnSide 17 = .ok (.aload_n 0, 1) := dk_42 (dk_at dksX4_isOnSide_0 17 rfl rfl)
theorem dX4_isOnSide_18 : decode cX4_isOnSide 18 = .ok (.iload_n 3, 1) := dk_29 (dk_at dksX4_isOnSide_0 18 rfl rfl)
theorem dX4_isOnSide_19 : decode cX4_isOnSide 19 = .ok (.invokevirtual 81, 3) := dk_182 0 81 (dk_at dksX4_isOnSide_0 19 rfl rfl)
theorem dX4_isOnSide_22 : decode cX4_isOnSide 22 = .ok (.if_icmp .ge 57, 3) := dk_162 0 57 (dk_at dksX4_isOnSide_1 0 rfl rfl)
theorem dX4_isOnSide_25 : decode cX4_isOnSide 25 = .ok (.aload_n 0, 1) := dk_42 (dk_at dksX4_isOnSide_1 3 rfl rfl)
theorem dX4_isOnSide_26 : decode cX4_isOnSide 26 = .ok (.iload_n 3, 1) := dk_29 (dk_at dksX4_isOnSide_1 4 rfl rfl)
theorem dX4_isOnSide_27 : decode cX4_isOnSide 27 = .ok (.iload 4, 2) := dk_21 4 (dk_at dksX4_isOnSide_1 5 rfl rfl)
theorem dX4_isOnSide_29 : decode cX4_isOnSide 29 = .ok (.invokevirtual 72, 3) := dk_182 0 72 (dk_at dksX4_isOnSide_1 7 rfl rfl)
theorem dX4_isOnSide_32 : decode cX4_isOnSide 32 = .ok (.aload_n 0, 1) := dk_42 (dk_at dksX4_isOnSide_1 10 rfl rfl)
theorem dX4_isOnSide_33 : decode cX4_isOnSide 33 = .ok (.iload_n 3, 1) := dk_29 (dk_at dksX4_isOnSide_1 11 rfl rfl)
theorem dX4_isOnSide_34 : decode cX4_isOnSide 34 = .ok (.iload 4, 2) := dk_21 4 (dk_at dksX4_isOnSide_1 12 rfl rfl)
theorem dX4_isOnSide_36 : decode cX4_isOnSide 36 = .ok (.invokevirtual 75, 3) := dk_182 0 75 (dk_at dksX4_isOnSide_1 14 rfl rfl)
theorem dX4_isOnSide_39 : decode cX4_isOnSide 39 = .ok (.aload_n 0, 1) := dk_42 (dk_at dksX4_isOnSide_1 17 rfl rfl)
theorem dX4_isOnSide_40 : decode cX4_isOnSide 40 = .ok (.iload_n 3, 1) := dk_29 (dk_at dksX4_isOnSide_1 18 rfl rfl)
theorem dX4_isOnSide_41 : decode cX4_isOnSide 41 = .ok (.aload_n 0, 1) := dk_42 (dk_at dksX4_isOnSide_1 19 rfl rfl)
theorem dX4_isOnSide_42 : decode cX4_isOnSide 42 = .ok (.iload_n 3, 1) := dk_29 (dk_at dksX4_isOnSide_1 20 rfl rfl)
theorem dX4_isOnSide_43 : decode cX4_isOnSide 43 = .ok (.iload 4, 2) := dk_21 4 (dk_at dksX4_isOnSide_1 21 rfl rfl)
theorem dX4_isOnSide_45 : decode cX4_isOnSide 45 = .ok (.invokevirtual 84, 3) := dk_182 0 84 (dk_at dksX4_isOnSide_2 0 rfl rfl)
theorem dX4_isOnSide_48 : decode cX4_isOnSide 48 = .ok (.invokevirtual 72, 3) := dk_182 0 72 (dk_at dksX4_isOnSide_2 3 rfl rfl)
theorem dX4_isOnSide_51 : decode cX4_isOnSide 51 = .ok (.aload_n 0, 1) := dk_42 (dk_at dksX4_isOnSide_2 6 rfl rfl)
theorem dX4_isOnSide_52 : decode cX4_isOnSide 52 = .ok (.iload_n 3, 1) := dk_29 (dk_at dksX4_isOnSide_2 7 rfl rfl)
theorem dX4_isOnSide_53 : decode cX4_isOnSide 53 = .ok (.aload_n 0, 1) := dk_42 (dk_at dksX4_isOnSide_2 8 rfl rfl)
theorem dX4_isOnSide_54 : decode cX4_isOnSide 54 = .ok (.iload_n 3, 1) := dk_29 (dk_at dksX4_isOnSide_2 9 rfl rfl)
theorem dX4_isOnSide_55 : decode cX4_isOnSide 55 = .ok (.iload 4, 2) := dk_21 4 (dk_at dksX4_isOnSide_2 10 rfl rfl)
theorem dX4_isOnSide_57 : decode cX4_isOnSide 57 = .ok (.invokevirtual 84, 3) := dk_182 0 84 (dk_at dksX4_isOnSide_2 12 rfl rfl)
theorem dX4_isOnSide_60 : decode cX4_isOnSide 60 = .ok (.invokevirtual 75, 3) := dk_182 0 75 (dk_at dksX4_isOnSide_2 15 rfl rfl)
theorem dX4_isOnSide_63 : decode cX4_isOnSide 63 = .ok (.iload_n 1, 1) := dk_27 (dk_at dksX4_isOnSide_2 18 rfl rfl)
theorem dX4_isOnSide_64 : decode cX4_isOnSide 64 = .ok (.iload_n 2, 1) := dk_28 (dk_at dksX4_isOnSide_2 19 rfl rfl)
theorem dX4_isOnSide_65 : decode cX4_isOnSide 65 = .ok (.invokestatic 61, 3) := dk_184 0 61 (dk_at dksX4_isOnSide_2 20 rfl rfl)
theorem dX4_isOnSide_68 : decode cX4_isOnSide 68 = .ok (.ifCond .eq 5, 3) := dk_153 0 5 (dk_at dksX4_isOnSide_3 0 rfl rfl)
theorem dX4_isOnSide_71 : decode cX4_isOnSide 71 = .ok (.iconst 1, 1) := dk_4 (dk_at dksX4_isOnSide_3 3 rfl rfl)
theorem dX4_isOnSide_72 : decode cX4_isOnSide 72 = .ok (.ireturn, 1) := dk_172 (dk_at dksX4_isOnSide_3 4 rfl rfl)
theorem dX4_isOnSide_73 : decode cX4_isOnSide 73 = .ok (.iinc 4 1, 3) := dk_132 4 1 (dk_at dksX4_isOnSide_3 5 rfl rfl)
theorem dX4_isOnSide_76 : decode cX4_isOnSide 76 = .ok (.goto (-61), 3) := dk_167 255 195 (dk_at dksX4_isOnSide_3 8 rfl rfl)
theorem dX4_isOnSide_79 : decode cX4_isOnSide 79 = .ok (.iinc 3 1, 3) := dk_132 3 1 (dk_at dksX4_isOnSide_3 11 rfl rfl)
theorem dX4_isOnSide_82 : decode cX4_isOnSide 82 = .ok (.goto (-80), 3) := dk_167 255 176 (dk_at dksX4_isOnSide_3 14 rfl rfl)
theorem dX4_isOnSide_85 : decode cX4_isOnSide 85 = .ok (.iconst 0, 1) := dk_3 (dk_at dksX4_isOnSide_3 17 rfl rfl)
theorem dX4_isOnSide_86 : decode cX4_isOnSide 86 = .ok (.ireturn, 1) := dk_172 (dk_at dksX4_isOnSide_3 18 rfl rfl)
abbrev cX4_sidesOf : ByteArray := prog_10_method_15_code
def yX4_sidesOf : MethodName := ⟨RX4, "sidesOf", "(I)I"⟩
def dkwX4_sidesOf_0 : List UInt8 := [42, 27, 182, 0, 42, 153, 0, 11, 42, 27, 182, 0, 39, 167, 0, 10, 42, 27, 182, 0, 39, 4, 100, 172]
abbrev dktX4_sidesOf_0 : List UInt8 := dkwX4_sidesOf_0 ++ []
theorem dksX4_sidesOf_0 : cX4_sidesOf.data.toList.drop 0 = dktX4_sidesOf_0 := by decide +kernel
theorem dX4_sidesOf_0 : decode cX4_sidesOf 0 = .ok (.aload_n 0, 1) := dk_42 (dk_at dksX4_sidesOf_0 0 rfl rfl)
theorem dX4_sidesOf_1 : decode cX4_sidesOf 1 = .ok (.iload_n 1, 1) := dk_27 (dk_at dksX4_sidesOf_0 1 rfl rfl)
theorem dX4_sidesOf_2 : decode cX4_sidesOf 2 = .ok (.invokevirtual 42, 3) := dk_182 0 42 (dk_at dksX4_sidesOf_0 2 rfl rfl)
theorem dX4_sidesOf_5 : decode cX4_sidesOf 5 = .ok (.ifCond .eq 11, 3) := dk_153 0 11 (dk_at dksX4_sidesOf_0 5 rfl rfl)
theorem dX4_sidesOf_8 : decode cX4_sidesOf 8 = .ok (.aload_n 0, 1) := dk_42 (dk_at dksX4_sidesOf_0 8 rfl rfl)
theorem dX4_sidesOf_9 : decode cX4_sidesOf 9 = .ok (.iload_n 1, 1) := dk_27 (dk_at dksX4_sidesOf_0 9 rfl rfl)
theorem dX4_sidesOf_10 : decode cX4_sidesOf 10 = .ok (.invokevirtual 39, 3) := dk_182 0 39 (dk_at dksX4_sidesOf_0 10 rfl rfl)
theorem dX4_sidesOf_13 : decode cX4_sidesOf 13 = .ok (.goto 10, 3) := dk_167 0 10 (dk_at dksX4_sidesOf_0 13 rfl rfl)
theorem dX4_sidesOf_16 : decode cX4_sidesOf 16 = .ok (.aload_n 0, 1) := dk_42 (dk_at dksX4_sidesOf_0 16 rfl rfl)
theorem dX4_sidesOf_17 : decode cX4_sidesOf 17 = .ok (.iload_n 1, 1) := dk_27 (dk_at dksX4_sidesOf_0 17 rfl rfl)
theorem dX4_sidesOf_18 : decode cX4_sidesOf 18 = .ok (.invokevirtual 39, 3) := dk_182 0 39 (dk_at dksX4_sidesOf_0 18 rfl rfl)
theorem dX4_sidesOf_21 : decode cX4_sidesOf 21 = .ok (.iconst 1, 1) := dk_4 (dk_at dksX4_sidesOf_0 21 rfl rfl)
theorem dX4_sidesOf_22 : decode cX4_sidesOf 22 = .ok (.isub, 1) := dk_100 (dk_at dksX4_sidesOf_0 22 rfl rfl)
theorem dX4_sidesOf_23 : decode cX4_sidesOf 23 = .ok (.ireturn, 1) := dk_172 (dk_at dksX4_sidesOf_0 23 rfl rfl)
abbrev cX4_isClosed : ByteArray := prog_10_method_10_code
def yX4_isClosed : MethodName := ⟨RX4, "isClosed", "(I)Z"⟩
def dkwX4_isClosed_0 : List UInt8 := [42, 180, 0, 17, 27, 184, 0, 35, 5, 96, 46, 4, 160, 0, 7, 4, 167, 0, 4, 3, 172]
abbrev dktX4_isClosed_0 : List UInt8 := dkwX4_isClosed_0 ++ []
theorem dksX4_isClosed_0 : cX4_isClosed.data.toList.drop 0 = dktX4_isClosed_0 := by decide +kernel
theorem dX4_isClosed_0 : decode cX4_isClosed 0 = .ok (.aload_n 0, 1) := dk_42 (dk_at dksX4_isClosed_0 0 rfl rfl)
theorem dX4_isClosed_1 : decode cX4_isClosed 1 = .ok (.getfield 17, 3) := dk_180 0 17 (dk_at dksX4_isClosed_0 1 rfl rfl)
theorem dX4_isClosed_4 : decode cX4_isClosed 4 = .ok (.iload_n 1, 1) := dk_27 (dk_at dksX4_isClosed_0 4 rfl rfl)
theorem dX4_isClosed_5 : decode cX4_isClosed 5 = .ok (.invokestatic 35, 3) := dk_184 0 35 (dk_at dksX4_isClosed_0 5 rfl rfl)
theorem dX4_isClosed_8 : decode cX4_isClosed 8 = .ok (.iconst 2, 1) := dk_5 (dk_at dksX4_isClosed_0 8 rfl rfl)
theorem dX4_isClosed_9 : decode cX4_isClosed 9 = .ok (.iadd, 1) := dk_96 (dk_at dksX4_isClosed_0 9 rfl rfl)
theorem dX4_isClosed_10 : decode cX4_isClosed 10 = .ok (.iaload, 1) := dk_46 (dk_at dksX4_isClosed_0 10 rfl rfl)
theorem dX4_isClosed_11 : decode cX4_isClosed 11 = .ok (.iconst 1, 1) := dk_4 (dk_at dksX4_isClosed_0 11 rfl rfl)
theorem dX4_isClosed_12 : decode cX4_isClosed 12 = .ok (.if_icmp .ne 7, 3) := dk_160 0 7 (dk_at dksX4_isClosed_0 12 rfl rfl)
theorem dX4_isClosed_15 : decode cX4_isClosed 15 = .ok (.iconst 1, 1) := dk_4 (dk_at dksX4_isClosed_0 15 rfl rfl)
theorem dX4_isClosed_16 : decode cX4_isClosed 16 = .ok (.goto 4, 3) := dk_167 0 4 (dk_at dksX4_isClosed_0 16 rfl rfl)
theorem dX4_isClosed_19 : decode cX4_isClosed 19 = .ok (.iconst 0, 1) := dk_3 (dk_at dksX4_isClosed_0 19 rfl rfl)
theorem dX4_isClosed_20 : decode cX4_isClosed 20 = .ok (.ireturn, 1) := dk_172 (dk_at dksX4_isClosed_0 20 rfl rfl)
abbrev cX4_behind : ByteArray := prog_10_method_13_code
def yX4_behind : MethodName := ⟨RX4, "behind", "(II)I"⟩
def dkwX4_behind_0 : List UInt8 := [28, 4, 96, 42, 27, 182, 0, 39, 160, 0, 7, 3, 167, 0, 6, 28, 4, 96, 172]
abbrev dktX4_behind_0 : List UInt8 := dkwX4_behind_0 ++ []
theorem dksX4_behind_0 : cX4_behind.data.toList.drop 0 = dktX4_behind_0 := by decide +kernel
theorem dX4_behind_0 : decode cX4_behind 0 = .ok (.iload_n 2, 1) := dk_28 (dk_at dksX4_behind_0 0 rfl rfl)
theorem dX4_behind_1 : decode cX4_behind 1 = .ok (.iconst 1, 1) := dk_4 (dk_at dksX4_behind_0 1 rfl rfl)
theorem dX4_behind_2 : decode cX4_behind 2 = .ok (.iadd, 1) := dk_96 (dk_at dksX4_behind_0 2 rfl rfl)
theorem dX4_behind_3 : decode cX4_behind 3 = .ok (.aload_n 0, 1) := dk_42 (dk_at dksX4_behind_0 3 rfl rfl)
theorem dX4_behind_4 : decode cX4_behind 4 = .ok (.iload_n 1, 1) := dk_27 (dk_at dksX4_behind_0 4 rfl rfl)
theorem dX4_behind_5 : decode cX4_behind 5 = .ok (.invokevirtual 39, 3) := dk_182 0 39 (dk_at dksX4_behind_0 5 rfl rfl)
theorem dX4_behind_8 : decode cX4_behind 8 = .ok (.if_icmp .ne 7, 3) := dk_160 0 7 (dk_at dksX4_behind_0 8 rfl rfl)
theorem dX4_behind_11 : decode cX4_behind 11 = .ok (.iconst 0, 1) := dk_3 (dk_at dksX4_behind_0 11 rfl rfl)
theorem dX4_behind_12 : decode cX4_behind 12 = .ok (.goto 6, 3) := dk_167 0 6 (dk_at dksX4_behind_0 12 rfl rfl)
theorem dX4_behind_15 : decode cX4_behind 15 = .ok (.iload_n 2, 1) := dk_28 (dk_at dksX4_behind_0 15 rfl rfl)
theorem dX4_behind_16 : decode cX4_behind 16 = .ok (.iconst 1, 1) := dk_4 (dk_at dksX4_behind_0 16 rfl rfl)
theorem dX4_behind_17 : decode cX4_behind 17 = .ok (.iadd, 1) := dk_96 (dk_at dksX4_behind_0 17 rfl rfl)
theorem dX4_behind_18 : decode cX4_behind 18 = .ok (.ireturn, 1) := dk_172 (dk_at dksX4_behind_0 18 rfl rfl)
abbrev cX4_isOn : ByteArray := prog_10_method_17_code
def yX4_isOn : MethodName := ⟨RX4, "isOn", "(IIIIII)Z"⟩
def dkwX4_isOn_2 : List UInt8 := [153, 0, 7, 4, 167, 0, 4, 3, 172]
abbrev dktX4_isOn_2 : List UInt8 := dkwX4_isOn_2 ++ []
def dkwX4_isOn_1 : List UInt8 := [184, 0, 54, 184, 0, 57, 153, 0, 25, 21, 5, 27, 29, 184, 0, 50, 27, 29, 184, 0, 54, 184, 0, 57]
abbrev dktX4_isOn_1 : List UInt8 := dkwX4_isOn_1 ++ dktX4_isOn_2
def dkwX4_isOn_0 : List UInt8 := [26, 27, 28, 29, 21, 4, 21, 5, 184, 0, 46, 154, 0, 43, 21, 4, 26, 28, 184, 0, 50, 26, 28]
abbrev dktX4_isOn_0 : List UInt8 := dkwX4_isOn_0 ++ dktX4_isOn_1
theorem dksX4_isOn_0 : cX4_isOn.data.toList.drop 0 = dktX4_isOn_0 := by decide +kernel
theorem dksX4_isOn_1 : cX4_isOn.data.toList.drop 23 = dktX4_isOn_1 := dk_seg dksX4_isOn_0 23 rfl rfl
theorem dksX4_isOn_2 : cX4_isOn.data.toList.drop 47 = dktX4_isOn_2 := dk_seg dksX4_isOn_1 24 rfl rfl
theorem dX4_isOn_0 : decode cX4_isOn 0 = .ok (.iload_n 0, 1) := dk_26 (dk_at dksX4_isOn_0 0 rfl rfl)
theorem dX4_isOn_1 : decode cX4_isOn 1 = .ok (.iload_n 1, 1) := dk_27 (dk_at dksX4_isOn_0 1 rfl rfl)
theorem dX4_isOn_2 : decode cX4_isOn 2 = .ok (.iload_n 2, 1) := dk_28 (dk_at dksX4_isOn_0 2 rfl rfl)
theorem dX4_isOn_3 : decode cX4_isOn 3 = .ok (.iload_n 3, 1) := dk_29 (dk_at dksX4_isOn_0 3 rfl rfl)
theorem dX4_isOn_4 : decode cX4_isOn 4 = .ok (.iload 4, 2) := dk_21 4 (dk_at dksX4_isOn_0 4 rfl rfl)
theorem dX4_isOn_6 : decode cX4_isOn 6 = .ok (.iload 5, 2) := dk_21 5 (dk_at dksX4_isOn_0 6 rfl rfl)
theorem dX4_isOn_8 : decode cX4_isOn 8 = .ok (.invokestatic 46, 3) := dk_184 0 46 (dk_at dksX4_isOn_0 8 rfl rfl)
theorem dX4_isOn_11 : decode cX4_isOn 11 = .ok (.ifCond .ne 43, 3) := dk_154 0 43 (dk_at dksX4_isOn_0 11 rfl rfl)
theorem dX4_isOn_14 : decode cX4_isOn 14 = .ok (.iload 4, 2) := dk_21 4 (dk_at dksX4_isOn_0 14 rfl rfl)
theorem dX4_isOn_16 : decode cX4_isOn 16 = .ok (.iload_n 0, 1) := dk_26 (dk_at dksX4_isOn_0 16 rfl rfl)
theorem dX4_isOn_17 : decode cX4_isOn 17 = .ok (.iload_n 2, 1) := dk_28 (dk_at dksX4_isOn_0 17 rfl rfl)
theorem dX4_isOn_18 : decode cX4_isOn 18 = .ok (.invokestatic 50, 3) := dk_184 0 50 (dk_at dksX4_isOn_0 18 rfl rfl)
theorem dX4_isOn_21 : decode cX4_isOn 21 = .ok (.iload_n 0, 1) := dk_26 (dk_at dksX4_isOn_0 21 rfl rfl)
theorem dX4_isOn_22 : decode cX4_isOn 22 = .ok (.iload_n 2, 1) := dk_28 (dk_at dksX4_isOn_0 22 rfl rfl)
theorem dX4_isOn_23 : decode cX4_isOn 23 = .ok (.invokestatic 54, 3) := dk_184 0 54 (dk_at dksX4_isOn_1 0 rfl rfl)
theorem dX4_isOn_26 : decode cX4_isOn 26 = .ok (.invokestatic 57, 3) := dk_184 0 57 (dk_at dksX4_isOn_1 3 rfl rfl)
theorem dX4_isOn_29 : decode cX4_isOn 29 = .ok (.ifCond .eq 25, 3) := dk_153 0 25 (dk_at dksX4_isOn_1 6 rfl rfl)
theorem dX4_isOn_32 : decode cX4_isOn 32 = .ok (.iload 5, 2) := dk_21 5 (dk_at dksX4_isOn_1 9 rfl rfl)
theorem dX4_isOn_34 : decode cX4_isOn 34 = .ok (.iload_n 1, 1) := dk_27 (dk_at dksX4_isOn_1 11 rfl rfl)
theorem dX4_isOn_35 : decode cX4_isOn 35 = .ok (.iload_n 3, 1) := dk_29 (dk_at dksX4_isOn_1 12 rfl rfl)
theorem dX4_isOn_36 : decode cX4_isOn 36 = .ok (.invokestatic 50, 3) := dk_184 0 50 (dk_at dksX4_isOn_1 13 rfl rfl)
theorem dX4_isOn_39 : decode cX4_isOn 39 = .ok (.iload_n 1, 1) := dk_27 (dk_at dksX4_isOn_1 16 rfl rfl)
theorem dX4_isOn_40 : decode cX4_isOn 40 = .ok (.iload_n 3, 1) := dk_29 (dk_at dksX4_isOn_1 17 rfl rfl)
theorem dX4_isOn_41 : decode cX4_isOn 41 = .ok (.invokestatic 54, 3) := dk_184 0 54 (dk_at dksX4_isOn_1 18 rfl rfl)
theorem dX4_isOn_44 : decode cX4_isOn 44 = .ok (.invokestatic 57, 3) := dk_184 0 57 (dk_at dksX4_isOn_1 21 rfl rfl)
theorem dX4_isOn_47 : decode cX4_isOn 47 = .ok (.ifCond .eq 7, 3) := dk_153 0 7 (dk_at dksX4_isOn_2 0 rfl rfl)
theorem dX4_isOn_50 : decode cX4_isOn 50 = .ok (.iconst 1, 1) := dk_4 (dk_at dksX4_isOn_2 3 rfl rfl)
theorem dX4_isOn_51 : decode cX4_isOn 51 = .ok (.goto 4, 3) := dk_167 0 4 (dk_at dksX4_isOn_2 4 rfl rfl)
theorem dX4_isOn_54 : decode cX4_isOn 54 = .ok (.iconst 0, 1) := dk_3 (dk_at dksX4_isOn_2 7 rfl rfl)
theorem dX4_isOn_55 : decode cX4_isOn 55 = .ok (.ireturn, 1) := dk_172 (dk_at dksX4_isOn_2 8 rfl rfl)
abbrev cX4_turn : ByteArray := prog_10_method_16_code
def yX4_turn : MethodName := ⟨RX4, "turn", "(IIIIII)I"⟩
def dkwX4_turn_0 : List UInt8 := [28, 26, 100, 21, 5, 27, 100, 104, 29, 27, 100, 21, 4, 26, 100, 104, 100, 172]
abbrev dktX4_turn_0 : List UInt8 := dkwX4_turn_0 ++ []
theorem dksX4_turn_0 : cX4_turn.data.toList.drop 0 = dktX4_turn_0 := by decide +kernel
theorem dX4_turn_0 : decode cX4_turn 0 = .ok (.iload_n 2, 1) := dk_28 (dk_at dksX4_turn_0 0 rfl rfl)
theorem dX4_turn_1 : decode cX4_turn 1 = .ok (.iload_n 0, 1) := dk_26 (dk_at dksX4_turn_0 1 rfl rfl)
theorem dX4_turn_2 : decode cX4_turn 2 = .ok (.isub, 1) := dk_100 (dk_at dksX4_turn_0 2 rfl rfl)
theorem dX4_turn_3 : decode cX4_turn 3 = .ok (.iload 5, 2) := dk_21 5 (dk_at dksX4_turn_0 3 rfl rfl)
theorem dX4_turn_5 : decode cX4_turn 5 = .ok (.iload_n 1, 1) := dk_27 (dk_at dksX4_turn_0 5 rfl rfl)
theorem dX4_turn_6 : decode cX4_turn 6 = .ok (.isub, 1) := dk_100 (dk_at dksX4_turn_0 6 rfl rfl)
theorem dX4_turn_7 : decode cX4_turn 7 = .ok (.imul, 1) := dk_104 (dk_at dksX4_turn_0 7 rfl rfl)
theorem dX4_turn_8 : decode cX4_turn 8 = .ok (.iload_n 3, 1) := dk_29 (dk_at dksX4_turn_0 8 rfl rfl)
theorem dX4_turn_9 : decode cX4_turn 9 = .ok (.iload_n 1, 1) := dk_27 (dk_at dksX4_turn_0 9 rfl rfl)
theorem dX4_turn_10 : decode cX4_turn 10 = .ok (.isub, 1) := dk_100 (dk_at dksX4_turn_0 10 rfl rfl)
theorem dX4_turn_11 : decode cX4_turn 11 = .ok (.iload 4, 2) := dk_21 4 (dk_at dksX4_turn_0 11 rfl rfl)
theorem dX4_turn_13 : decode cX4_turn 13 = .ok (.iload_n 0, 1) := dk_26 (dk_at dksX4_turn_0 13 rfl rfl)
theorem dX4_turn_14 : decode cX4_turn 14 = .ok (.isub, 1) := dk_100 (dk_at dksX4_turn_0 14 rfl rfl)
theorem dX4_turn_15 : decode cX4_turn 15 = .ok (.imul, 1) := dk_104 (dk_at dksX4_turn_0 15 rfl rfl)
theorem dX4_turn_16 : decode cX4_turn 16 = .ok (.isub, 1) := dk_100 (dk_at dksX4_turn_0 16 rfl rfl)
theorem dX4_turn_17 : decode cX4_turn 17 = .ok (.ireturn, 1) := dk_172 (dk_at dksX4_turn_0 17 rfl rfl)
abbrev cX4_max : ByteArray := prog_10_method_6_code
def yX4_max : MethodName := ⟨RX4, "max", "(II)I"⟩
def dkwX4_max_0 : List UInt8 := [26, 27, 164, 0, 7, 26, 167, 0, 4, 27, 172]
abbrev dktX4_max_0 : List UInt8 := dkwX4_max_0 ++ []
theorem dksX4_max_0 : cX4_max.data.toList.drop 0 = dktX4_max_0 := by decide +kernel
theorem dX4_max_0 : decode cX4_max 0 = .ok (.iload_n 0, 1) := dk_26 (dk_at dksX4_max_0 0 rfl rfl)
theorem dX4_max_1 : decode cX4_max 1 = .ok (.iload_n 1, 1) := dk_27 (dk_at dksX4_max_0 1 rfl rfl)
theorem dX4_max_2 : decode cX4_max 2 = .ok (.if_icmp .le 7, 3) := dk_164 0 7 (dk_at dksX4_max_0 2 rfl rfl)
theorem dX4_max_5 : decode cX4_max 5 = .ok (.iload_n 0, 1) := dk_26 (dk_at dksX4_max_0 5 rfl rfl)
theorem dX4_max_6 : decode cX4_max 6 = .ok (.goto 4, 3) := dk_167 0 4 (dk_at dksX4_max_0 6 rfl rfl)
theorem dX4_max_9 : decode cX4_max 9 = .ok (.iload_n 1, 1) := dk_27 (dk_at dksX4_max_0 9 rfl rfl)
theorem dX4_max_10 : decode cX4_max 10 = .ok (.ireturn, 1) := dk_172 (dk_at dksX4_max_0 10 rfl rfl)
abbrev cX4_readPolygon : ByteArray := prog_10_method_49_code
def yX4_readPolygon : MethodName := ⟨RX4, "readPolygon", "(I)V"⟩
def dkwX4_readPolygon_11 : List UInt8 := [182, 0, 162, 42, 180, 0, 17, 21, 5, 184, 0, 35, 5, 96, 4, 79, 177]
abbrev dktX4_readPolygon_11 : List UInt8 := dkwX4_readPolygon_11 ++ []
def dkwX4_readPolygon_10 : List UInt8 := [182, 0, 162, 167, 0, 22, 42, 21, 5, 182, 0, 223, 153, 0, 13, 42, 16, 252, 42, 180, 0, 133]
abbrev dktX4_readPolygon_10 : List UInt8 := dkwX4_readPolygon_10 ++ dktX4_readPolygon_11
def dkwX4_readPolygon_9 : List UInt8 := [182, 0, 145, 154, 0, 4, 177, 42, 182, 0, 149, 16, 59, 159, 0, 16, 42, 16, 254, 42, 180, 0, 133]
abbrev dktX4_readPolygon_9 : List UInt8 := dkwX4_readPolygon_9 ++ dktX4_readPolygon_10
def dkwX4_readPolygon_8 : List UInt8 := [153, 255, 181, 42, 21, 5, 42, 21, 5, 182, 0, 39, 29, 21, 4, 182, 0, 124, 167, 255, 163, 42]
abbrev dktX4_readPolygon_8 : List UInt8 := dkwX4_readPolygon_8 ++ dktX4_readPolygon_9
def dkwX4_readPolygon_7 : List UInt8 := [29, 21, 4, 182, 0, 219, 153, 0, 13, 42, 16, 252, 42, 180, 0, 169, 182, 0, 162, 42, 182, 0, 145]
abbrev dktX4_readPolygon_7 : List UInt8 := dkwX4_readPolygon_7 ++ dktX4_readPolygon_8
def dkwX4_readPolygon_6 : List UInt8 := [62, 42, 3, 42, 180, 0, 17, 4, 46, 182, 0, 197, 54, 4, 42, 182, 0, 145, 153, 0, 25, 42, 21, 5]
abbrev dktX4_readPolygon_6 : List UInt8 := dkwX4_readPolygon_6 ++ dktX4_readPolygon_7
def dkwX4_readPolygon_5 : List UInt8 := [153, 0, 92, 42, 182, 0, 149, 184, 0, 166, 153, 0, 82, 42, 3, 42, 180, 0, 17, 3, 46, 182, 0, 197]
abbrev dktX4_readPolygon_5 : List UInt8 := dkwX4_readPolygon_5 ++ dktX4_readPolygon_6
def dkwX4_readPolygon_4 : List UInt8 := [42, 28, 29, 21, 4, 182, 0, 215, 42, 180, 0, 17, 6, 46, 4, 100, 54, 5, 42, 182, 0, 145]
abbrev dktX4_readPolygon_4 : List UInt8 := dkwX4_readPolygon_4 ++ dktX4_readPolygon_5
def dkwX4_readPolygon_3 : List UInt8 := [182, 0, 212, 153, 0, 13, 42, 16, 252, 42, 180, 0, 169, 182, 0, 162, 42, 182, 0, 145, 154, 0, 4, 177]
abbrev dktX4_readPolygon_3 : List UInt8 := dkwX4_readPolygon_3 ++ dktX4_readPolygon_4
def dkwX4_readPolygon_2 : List UInt8 := [54, 4, 42, 182, 0, 145, 153, 0, 33, 42, 29, 21, 4, 182, 0, 110, 154, 0, 13, 42, 29, 21, 4]
abbrev dktX4_readPolygon_2 : List UInt8 := dkwX4_readPolygon_2 ++ dktX4_readPolygon_3
def dkwX4_readPolygon_1 : List UInt8 := [61, 42, 3, 42, 180, 0, 17, 3, 46, 182, 0, 197, 62, 42, 3, 42, 180, 0, 17, 4, 46, 182, 0, 197]
abbrev dktX4_readPolygon_1 : List UInt8 := dkwX4_readPolygon_1 ++ dktX4_readPolygon_2
def dkwX4_readPolygon_0 : List UInt8 := [42, 180, 0, 17, 6, 46, 16, 6, 160, 0, 10, 42, 16, 251, 27, 182, 0, 162, 42, 3, 6, 182, 0, 197]
abbrev dktX4_readPolygon_0 : List UInt8 := dkwX4_readPolygon_0 ++ dktX4_readPolygon_1
theorem dksX4_readPolygon_0 : cX4_readPolygon.data.toList.drop 0 = dktX4_readPolygon_0 := by decide +kernel
theorem dksX4_readPolygon_1 : cX4_readPolygon.data.toList.drop 24 = dktX4_readPolygon_1 := dk_seg dksX4_readPolygon_0 24 rfl rfl
theorem dksX4_readPolygon_2 : cX4_readPolygon.data.toList.drop 48 = dktX4_readPolygon_2 := dk_seg dksX4_readPolygon_1 24 rfl rfl
theorem dksX4_readPolygon_3 : cX4_readPolygon.data.toList.drop 71 = dktX4_readPolygon_3 := dk_seg dksX4_readPolygon_2 23 rfl rfl
theorem dksX4_readPolygon_4 : cX4_readPolygon.data.toList.drop 95 = dktX4_readPolygon_4 := dk_seg dksX4_readPolygon_3 24 rfl rfl
theorem dksX4_readPolygon_5 : cX4_readPolygon.data.toList.drop 117 = dktX4_readPolygon_5 := dk_seg dksX4_readPolygon_4 22 rfl rfl
theorem dksX4_readPolygon_6 : cX4_readPolygon.data.toList.drop 141 = dktX4_readPolygon_6 := dk_seg dksX4_readPolygon_5 24 rfl rfl
theorem dksX4_readPolygon_7 : cX4_readPolygon.data.toList.drop 165 = dktX4_readPolygon_7 := dk_seg dksX4_readPolygon_6 24 rfl rfl
theorem dksX4_readPolygon_8 : cX4_readPolygon.data.toList.drop 188 = dktX4_readPolygon_8 := dk_seg dksX4_readPolygon_7 23 rfl rfl
theorem dksX4_readPolygon_9 : cX4_readPolygon.data.toList.drop 210 = dktX4_readPolygon_9 := dk_seg dksX4_readPolygon_8 22 rfl rfl
theorem dksX4_readPolygon_10 : cX4_readPolygon.data.toList.drop 233 = dktX4_readPolygon_10 := dk_seg dksX4_readPolygon_9 23 rfl rfl
theorem dksX4_readPolygon_11 : cX4_readPolygon.data.toList.drop 255 = dktX4_readPolygon_11 := dk_seg dksX4_readPolygon_10 22 rfl rfl
theorem dX4_readPolygon_0 : decode cX4_readPolygon 0 = .ok (.aload_n 0, 1) := dk_42 (dk_at dksX4_readPolygon_0 0 rfl rfl)
theorem dX4_readPolygon_1 : decode cX4_readPolygon 1 = .ok (.getfield 17, 3) := dk_180 0 17 (dk_at dksX4_readPolygon_0 1 rfl rfl)
theorem dX4_readPolygon_4 : decode cX4_readPolygon 4 = .ok (.iconst 3, 1) := dk_6 (dk_at dksX4_readPolygon_0 4 rfl rfl)
theorem dX4_readPolygon_5 : decode cX4_readPolygon 5 = .ok (.iaload, 1) := dk_46 (dk_at dksX4_readPolygon_0 5 rfl rfl)
theorem dX4_readPolygon_6 : decode cX4_readPolygon 6 = .ok (.bipush 6, 2) := dk_16 6 (dk_at dksX4_readPolygon_0 6 rfl rfl)
theorem dX4_readPolygon_8 : decode cX4_readPolygon 8 = .ok (.if_icmp .ne 10, 3) := dk_160 0 10 (dk_at dksX4_readPolygon_0 8 rfl rfl)
theorem dX4_readPolygon_11 : decode cX4_readPolygon 11 = .ok (.aload_n 0, 1) := dk_42 (dk_at dksX4_readPolygon_0 11 rfl rfl)
theorem dX4_readPolygon_12 : decode cX4_readPolygon 12 = .ok (.bipush (-5), 2) := dk_16 251 (dk_at dksX4_readPolygon_0 12 rfl rfl)
theorem dX4_readPolygon_14 : decode cX4_readPolygon 14 = .ok (.iload_n 1, 1) := dk_27 (dk_at dksX4_readPolygon_0 14 rfl rfl)
theorem dX4_readPolygon_15 : decode cX4_readPolygon 15 = .ok (.invokevirtual 162, 3) := dk_182 0 162 (dk_at dksX4_readPolygon_0 15 rfl rfl)
theorem dX4_readPolygon_18 : decode cX4_readPolygon 18 = .ok (.aload_n 0, 1) := dk_42 (dk_at dksX4_readPolygon_0 18 rfl rfl)
theorem dX4_readPolygon_19 : decode cX4_readPolygon 19 = .ok (.iconst 0, 1) := dk_3 (dk_at dksX4_readPolygon_0 19 rfl rfl)
theorem dX4_readPolygon_20 : decode cX4_readPolygon 20 = .ok (.iconst 3, 1) := dk_6 (dk_at dksX4_readPolygon_0 20 rfl rfl)
theorem dX4_readPolygon_21 : decode cX4_readPolygon 21 = .ok (.invokevirtual 197, 3) := dk_182 0 197 (dk_at dksX4_readPolygon_0 21 rfl rfl)
theorem dX4_readPolygon_24 : decode cX4_readPolygon 24 = .ok (.istore_n 2, 1) := dk_61 (dk_at dksX4_readPolygon_1 0 rfl rfl)
theorem dX4_readPolygon_25 : decode cX4_readPolygon 25 = .ok (.aload_n 0, 1) := dk_42 (dk_at dksX4_readPolygon_1 1 rfl rfl)
theorem dX4_readPolygon_26 : decode cX4_readPolygon 26 = .ok (.iconst 0, 1) := dk_3 (dk_at dksX4_readPolygon_1 2 rfl rfl)
theorem dX4_readPolygon_27 : decode cX4_readPolygon 27 = .ok (.aload_n 0, 1) := dk_42 (dk_at dksX4_readPolygon_1 3 rfl rfl)
theorem dX4_readPolygon_28 : decode cX4_readPolygon 28 = .ok (.getfield 17, 3) := dk_180 0 17 (dk_at dksX4_readPolygon_1 4 rfl rfl)
theorem dX4_readPolygon_31 : decode cX4_readPolygon 31 = .ok (.iconst 0, 1) := dk_3 (dk_at dksX4_readPolygon_1 7 rfl rfl)
theorem dX4_readPolygon_32 : decode cX4_readPolygon 32 = .ok (.iaload, 1) := dk_46 (dk_at dksX4_readPolygon_1 8 rfl rfl)
theorem dX4_readPolygon_33 : decode cX4_readPolygon 33 = .ok (.invokevirtual 197, 3) := dk_182 0 197 (dk_at dksX4_readPolygon_1 9 rfl rfl)
theorem dX4_readPolygon_36 : decode cX4_readPolygon 36 = .ok (.istore_n 3, 1) := dk_62 (dk_at dksX4_readPolygon_1 12 rfl rfl)
theorem dX4_readPolygon_37 : decode cX4_readPolygon 37 = .ok (.aload_n 0, 1) := dk_42 (dk_at dksX4_readPolygon_1 13 rfl rfl)
theorem dX4_readPolygon_38 : decode cX4_readPolygon 38 = .ok (.iconst 0, 1) := dk_3 (dk_at dksX4_readPolygon_1 14 rfl rfl)
theorem dX4_readPolygon_39 : decode cX4_readPolygon 39 = .ok (.aload_n 0, 1) := dk_42 (dk_at dksX4_readPolygon_1 15 rfl rfl)
theorem dX4_readPolygon_40 : decode cX4_readPolygon 40 = .ok (.getfield 17, 3) := dk_180 0 17 (dk_at dksX4_readPolygon_1 16 rfl rfl)
theorem dX4_readPolygon_43 : decode cX4_readPolygon 43 = .ok (.iconst 1, 1) := dk_4 (dk_at dksX4_readPolygon_1 19 rfl rfl)
theorem dX4_readPolygon_44 : decode cX4_readPolygon 44 = .ok (.iaload, 1) := dk_46 (dk_at dksX4_readPolygon_1 20 rfl rfl)
theorem dX4_readPolygon_45 : decode cX4_readPolygon 45 = .ok (.invokevirtual 197, 3) := dk_182 0 197 (dk_at dksX4_readPolygon_1 21 rfl rfl)
theorem dX4_readPolygon_48 : decode cX4_readPolygon 48 = .ok (.istore 4, 2) := dk_54 4 (dk_at dksX4_readPolygon_2 0 rfl rfl)
theorem dX4_readPolygon_50 : decode cX4_readPolygon 50 = .ok (.aload_n 0, 1) := dk_42 (dk_at dksX4_readPolygon_2 2 rfl rfl)
theorem dX4_readPolygon_51 : decode cX4_readPolygon 51 = .ok (.invokevirtual 145, 3) := dk_182 0 145 (dk_at dksX4_readPolygon_2 3 rfl rfl)
theorem dX4_readPolygon_54 : decode cX4_readPolygon 54 = .ok (.ifCond .eq 33, 3) := dk_153 0 33 (dk_at dksX4_readPolygon_2 6 rfl rfl)
theorem dX4_readPolygon_57 : decode cX4_readPolygon 57 = .ok (.aload_n 0, 1) := dk_42 (dk_at dksX4_readPolygon_2 9 rfl rfl)
theorem dX4_readPolygon_58 : decode cX4_readPolygon 58 = .ok (.iload_n 3, 1) := dk_29 (dk_at dksX4_readPolygon_2 10 rfl rfl)
theorem dX4_readPolygon_59 : decode cX4_readPolygon 59 = .ok (.iload 4, 2) := dk_21 4 (dk_at dksX4_readPolygon_2 11 rfl rfl)
theorem dX4_readPolygon_61 : decode cX4_readPolygon 61 = .ok (.invokevirtual 110, 3) := dk_182 0 110 (dk_at dksX4_readPolygon_2 13 rfl rfl)
theorem dX4_readPolygon_64 : decode cX4_readPolygon 64 = .ok (.ifCond .ne 13, 3) := dk_154 0 13 (dk_at dksX4_readPolygon_2 16 rfl rfl)
theorem dX4_readPolygon_67 : decode cX4_readPolygon 67 = .ok (.aload_n 0, 1) := dk_42 (dk_at dksX4_readPolygon_2 19 rfl rfl)
theorem dX4_readPolygon_68 : decode cX4_readPolygon 68 = .ok (.iload_n 3, 1) := dk_29 (dk_at dksX4_readPolygon_2 20 rfl rfl)
theorem dX4_readPolygon_69 : decode cX4_readPolygon 69 = .ok (.iload 4, 2) := dk_21 4 (dk_at dksX4_readPolygon_2 21 rfl rfl)
theorem dX4_readPolygon_71 : decode cX4_readPolygon 71 = .ok (.invokevirtual 212, 3) := dk_182 0 212 (dk_at dksX4_readPolygon_3 0 rfl rfl)
theorem dX4_readPolygon_74 : decode cX4_readPolygon 74 = .ok (.ifCond .eq 13, 3) := dk_153 0 13 (dk_at dksX4_readPolygon_3 3 rfl rfl)
theorem dX4_readPolygon_77 : decode cX4_readPolygon 77 = .ok (.aload_n 0, 1) := dk_42 (dk_at dksX4_readPolygon_3 6 rfl rfl)
theorem dX4_readPolygon_78 : decode cX4_readPolygon 78 = .ok (.bipush (-4), 2) := dk_16 252 (dk_at dksX4_readPolygon_3 7 rfl rfl)
theorem dX4_readPolygon_80 : decode cX4_readPolygon 80 = .ok (.aload_n 0, 1) := dk_42 (dk_at dksX4_readPolygon_3 9 rfl rfl)
theorem dX4_readPolygon_81 : decode cX4_readPolygon 81 = .ok (.getfield 169, 3) := dk_180 0 169 (dk_at dksX4_readPolygon_3 10 rfl rfl)
theorem dX4_readPolygon_84 : decode cX4_readPolygon 84 = .ok (.invokevirtual 162, 3) := dk_182 0 162 (dk_at dksX4_readPolygon_3 13 rfl rfl)
theorem dX4_readPolygon_87 : decode cX4_readPolygon 87 = .ok (.aload_n 0, 1) := dk_42 (dk_at dksX4_readPolygon_3 16 rfl rfl)
theorem dX4_readPolygon_88 : decode cX4_readPolygon 88 = .ok (.invokevirtual 145, 3) := dk_182 0 145 (dk_at dksX4_readPolygon_3 17 rfl rfl)
theorem dX4_readPolygon_91 : decode cX4_readPolygon 91 = .ok (.ifCond .ne 4, 3) := dk_154 0 4 (dk_at dksX4_readPolygon_3 20 rfl rfl)
theorem dX4_readPolygon_94 : decode cX4_readPolygon 94 = .ok (.return_, 1) := dk_177 (dk_at dksX4_readPolygon_3 23 rfl rfl)
theorem dX4_readPolygon_95 : decode cX4_readPolygon 95 = .ok (.aload_n 0, 1) := dk_42 (dk_at dksX4_readPolygon_4 0 rfl rfl)
theorem dX4_readPolygon_96 : decode cX4_readPolygon 96 = .ok (.iload_n 2, 1) := dk_28 (dk_at dksX4_readPolygon_4 1 rfl rfl)
theorem dX4_readPolygon_97 : decode cX4_readPolygon 97 = .ok (.iload_n 3, 1) := dk_29 (dk_at dksX4_readPolygon_4 2 rfl rfl)
theorem dX4_readPolygon_98 : decode cX4_readPolygon 98 = .ok (.iload 4, 2) := dk_21 4 (dk_at dksX4_readPolygon_4 3 rfl rfl)
theorem dX4_readPolygon_100 : decode cX4_readPolygon 100 = .ok (.invokevirtual 215, 3) := dk_182 0 215 (dk_at dksX4_readPolygon_4 5 rfl rfl)
theorem dX4_readPolygon_103 : decode cX4_readPolygon 103 = .ok (.aload_n 0, 1) := dk_42 (dk_at dksX4_readPolygon_4 8 rfl rfl)
theorem dX4_readPolygon_104 : decode cX4_readPolygon 104 = .ok (.getfield 17, 3) := dk_180 0 17 (dk_at dksX4_readPolygon_4 9 rfl rfl)
theorem dX4_readPolygon_107 : decode cX4_readPolygon 107 = .ok (.iconst 3, 1) := dk_6 (dk_at dksX4_readPolygon_4 12 rfl rfl)
theorem dX4_readPolygon_108 : decode cX4_readPolygon 108 = .ok (.iaload, 1) := dk_46 (dk_at dksX4_readPolygon_4 13 rfl rfl)
theorem dX4_readPolygon_109 : decode cX4_readPolygon 109 = .ok (.iconst 1, 1) := dk_4 (dk_at dksX4_readPolygon_4 14 rfl rfl)
theorem dX4_readPolygon_110 : decode cX4_readPolygon 110 = .ok (.isub, 1) := dk_100 (dk_at dksX4_readPolygon_4 15 rfl rfl)
theorem dX4_readPolygon_111 : decode cX4_readPolygon 111 = .ok (.istore 5, 2) := dk_54 5 (dk_at dksX4_readPolygon_4 16 rfl rfl)
theorem dX4_readPolygon_113 : decode cX4_readPolygon 113 = .ok (.aload_n 0, 1) := dk_42 (dk_at dksX4_readPolygon_4 18 rfl rfl)
theorem dX4_readPolygon_114 : decode cX4_readPolygon 114 = .ok (.invokevirtual 145, 3) := dk_182 0 145 (dk_at dksX4_readPolygon_4 19 rfl rfl)
theorem dX4_readPolygon_117 : decode cX4_readPolygon 117 = .ok (.ifCond .eq 92, 3) := dk_153 0 92 (dk_at dksX4_readPolygon_5 0 rfl rfl)
theorem dX4_readPolygon_120 : decode cX4_readPolygon 120 = .ok (.aload_n 0, 1) := dk_42 (dk_at dksX4_readPolygon_5 3 rfl rfl)
theorem dX4_readPolygon_121 : decode cX4_readPolygon 121 = .ok (.invokevirtual 149, 3) := dk_182 0 149 (dk_at dksX4_readPolygon_5 4 rfl rfl)
theorem dX4_readPolygon_124 : decode cX4_readPolygon 124 = .ok (.invokestatic 166, 3) := dk_184 0 166 (dk_at dksX4_readPolygon_5 7 rfl rfl)
theorem dX4_readPolygon_127 : decode cX4_readPolygon 127 = .ok (.ifCond .eq 82, 3) := dk_153 0 82 (dk_at dksX4_readPolygon_5 10 rfl rfl)
theorem dX4_readPolygon_130 : decode cX4_readPolygon 130 = .ok (.aload_n 0, 1) := dk_42 (dk_at dksX4_readPolygon_5 13 rfl rfl)
theorem dX4_readPolygon_131 : decode cX4_readPolygon 131 = .ok (.iconst 0, 1) := dk_3 (dk_at dksX4_readPolygon_5 14 rfl rfl)
theorem dX4_readPolygon_132 : decode cX4_readPolygon 132 = .ok (.aload_n 0, 1) := dk_42 (dk_at dksX4_readPolygon_5 15 rfl rfl)
theorem dX4_readPolygon_133 : decode cX4_readPolygon 133 = .ok (.getfield 17, 3) := dk_180 0 17 (dk_at dksX4_readPolygon_5 16 rfl rfl)
theorem dX4_readPolygon_136 : decode cX4_readPolygon 136 = .ok (.iconst 0, 1) := dk_3 (dk_at dksX4_readPolygon_5 19 rfl rfl)
theorem dX4_readPolygon_137 : decode cX4_readPolygon 137 = .ok (.iaload, 1) := dk_46 (dk_at dksX4_readPolygon_5 20 rfl rfl)
theorem dX4_readPolygon_138 : decode cX4_readPolygon 138 = .ok (.invokevirtual 197, 3) := dk_182 0 197 (dk_at dksX4_readPolygon_5 21 rfl rfl)
theorem dX4_readPolygon_141 : decode cX4_readPolygon 141 = .ok (.istore_n 3, 1) := dk_62 (dk_at dksX4_readPolygon_6 0 rfl rfl)
theorem dX4_readPolygon_142 : decode cX4_readPolygon 142 = .ok (.aload_n 0, 1) := dk_42 (dk_at dksX4_readPolygon_6 1 rfl rfl)
theorem dX4_readPolygon_143 : decode cX4_readPolygon 143 = .ok (.iconst 0, 1) := dk_3 (dk_at dksX4_readPolygon_6 2 rfl rfl)
theorem dX4_readPolygon_144 : decode cX4_readPolygon 144 = .ok (.aload_n 0, 1) := dk_42 (dk_at dksX4_readPolygon_6 3 rfl rfl)
theorem dX4_readPolygon_145 : decode cX4_readPolygon 145 = .ok (.getfield 17, 3) := dk_180 0 17 (dk_at dksX4_readPolygon_6 4 rfl rfl)
theorem dX4_readPolygon_148 : decode cX4_readPolygon 148 = .ok (.iconst 1, 1) := dk_4 (dk_at dksX4_readPolygon_6 7 rfl rfl)
theorem dX4_readPolygon_149 : decode cX4_readPolygon 149 = .ok (.iaload, 1) := dk_46 (dk_at dksX4_readPolygon_6 8 rfl rfl)
theorem dX4_readPolygon_150 : decode cX4_readPolygon 150 = .ok (.invokevirtual 197, 3) := dk_182 0 197 (dk_at dksX4_readPolygon_6 9 rfl rfl)
theorem dX4_readPolygon_153 : decode cX4_readPolygon 153 = .ok (.istore 4, 2) := dk_54 4 (dk_at dksX4_readPolygon_6 12 rfl rfl)
theorem dX4_readPolygon_155 : decode cX4_readPolygon 155 = .ok (.aload_n 0, 1) := dk_42 (dk_at dksX4_readPolygon_6 14 rfl rfl)
theorem dX4_readPolygon_156 : decode cX4_readPolygon 156 = .ok (.invokevirtual 145, 3) := dk_182 0 145 (dk_at dksX4_readPolygon_6 15 rfl rfl)
theorem dX4_readPolygon_159 : decode cX4_readPolygon 159 = .ok (.ifCond .eq 25, 3) := dk_153 0 25 (dk_at dksX4_readPolygon_6 18 rfl rfl)
theorem dX4_readPolygon_162 : decode cX4_readPolygon 162 = .ok (.aload_n 0, 1) := dk_42 (dk_at dksX4_readPolygon_6 21 rfl rfl)
theorem dX4_readPolygon_163 : decode cX4_readPolygon 163 = .ok (.iload 5, 2) := dk_21 5 (dk_at dksX4_readPolygon_6 22 rfl rfl)
theorem dX4_readPolygon_165 : decode cX4_readPolygon 165 = .ok (.iload_n 3, 1) := dk_29 (dk_at dksX4_readPolygon_7 0 rfl rfl)
theorem dX4_readPolygon_166 : decode cX4_readPolygon 166 = .ok (.iload 4, 2) := dk_21 4 (dk_at dksX4_readPolygon_7 1 rfl rfl)
theorem dX4_readPolygon_168 : decode cX4_readPolygon 168 = .ok (.invokevirtual 219, 3) := dk_182 0 219 (dk_at dksX4_readPolygon_7 3 rfl rfl)
theorem dX4_readPolygon_171 : decode cX4_readPolygon 171 = .ok (.ifCond .eq 13, 3) := dk_153 0 13 (dk_at dksX4_readPolygon_7 6 rfl rfl)
theorem dX4_readPolygon_174 : decode cX4_readPolygon 174 = .ok (.aload_n 0, 1) := dk_42 (dk_at dksX4_readPolygon_7 9 rfl rfl)
theorem dX4_readPolygon_175 : decode cX4_readPolygon 175 = .ok (.bipush (-4), 2) := dk_16 252 (dk_at dksX4_readPolygon_7 10 rfl rfl)
theorem dX4_readPolygon_177 : decode cX4_readPolygon 177 = .ok (.aload_n 0, 1) := dk_42 (dk_at dksX4_readPolygon_7 12 rfl rfl)
theorem dX4_readPolygon_178 : decode cX4_readPolygon 178 = .ok (.getfield 169, 3) := dk_180 0 169 (dk_at dksX4_readPolygon_7 13 rfl rfl)
theorem dX4_readPolygon_181 : decode cX4_readPolygon 181 = .ok (.invokevirtual 162, 3) := dk_182 0 162 (dk_at dksX4_readPolygon_7 16 rfl rfl)
theorem dX4_readPolygon_184 : decode cX4_readPolygon 184 = .ok (.aload_n 0, 1) := dk_42 (dk_at dksX4_readPolygon_7 19 rfl rfl)
theorem dX4_readPolygon_185 : decode cX4_readPolygon 185 = .ok (.invokevirtual 145, 3) := dk_182 0 145 (dk_at dksX4_readPolygon_7 20 rfl rfl)
theorem dX4_readPolygon_188 : decode cX4_readPolygon 188 = .ok (.ifCond .eq (-75), 3) := dk_153 255 181 (dk_at dksX4_readPolygon_8 0 rfl rfl)
theorem dX4_readPolygon_191 : decode cX4_readPolygon 191 = .ok (.aload_n 0, 1) := dk_42 (dk_at dksX4_readPolygon_8 3 rfl rfl)
theorem dX4_readPolygon_192 : decode cX4_readPolygon 192 = .ok (.iload 5, 2) := dk_21 5 (dk_at dksX4_readPolygon_8 4 rfl rfl)
theorem dX4_readPolygon_194 : decode cX4_readPolygon 194 = .ok (.aload_n 0, 1) := dk_42 (dk_at dksX4_readPolygon_8 6 rfl rfl)
theorem dX4_readPolygon_195 : decode cX4_readPolygon 195 = .ok (.iload 5, 2) := dk_21 5 (dk_at dksX4_readPolygon_8 7 rfl rfl)
theorem dX4_readPolygon_197 : decode cX4_readPolygon 197 = .ok (.invokevirtual 39, 3) := dk_182 0 39 (dk_at dksX4_readPolygon_8 9 rfl rfl)
theorem dX4_readPolygon_200 : decode cX4_readPolygon 200 = .ok (.iload_n 3, 1) := dk_29 (dk_at dksX4_readPolygon_8 12 rfl rfl)
theorem dX4_readPolygon_201 : decode cX4_readPolygon 201 = .ok (.iload 4, 2) := dk_21 4 (dk_at dksX4_readPolygon_8 13 rfl rfl)
theorem dX4_readPolygon_203 : decode cX4_readPolygon 203 = .ok (.invokevirtual 124, 3) := dk_182 0 124 (dk_at dksX4_readPolygon_8 15 rfl rfl)
theorem dX4_readPolygon_206 : decode cX4_readPolygon 206 = .ok (.goto (-93), 3) := dk_167 255 163 (dk_at dksX4_readPolygon_8 18 rfl rfl)
theorem dX4_readPolygon_209 : decode cX4_readPolygon 209 = .ok (.aload_n 0, 1) := dk_42 (dk_at dksX4_readPolygon_8 21 rfl rfl)
theorem dX4_readPolygon_210 : decode cX4_readPolygon 210 = .ok (.invokevirtual 145, 3) := dk_182 0 145 (dk_at dksX4_readPolygon_9 0 rfl rfl)
theorem dX4_readPolygon_213 : decode cX4_readPolygon 213 = .ok (.ifCond .ne 4, 3) := dk_154 0 4 (dk_at dksX4_readPolygon_9 3 rfl rfl)
theorem dX4_readPolygon_216 : decode cX4_readPolygon 216 = .ok (.return_, 1) := dk_177 (dk_at dksX4_readPolygon_9 6 rfl rfl)
theorem dX4_readPolygon_217 : decode cX4_readPolygon 217 = .ok (.aload_n 0, 1) := dk_42 (dk_at dksX4_readPolygon_9 7 rfl rfl)
theorem dX4_readPolygon_218 : decode cX4_readPolygon 218 = .ok (.invokevirtual 149, 3) := dk_182 0 149 (dk_at dksX4_readPolygon_9 8 rfl rfl)
theorem dX4_readPolygon_221 : decode cX4_readPolygon 221 = .ok (.bipush 59, 2) := dk_16 59 (dk_at dksX4_readPolygon_9 11 rfl rfl)
theorem dX4_readPolygon_223 : decode cX4_readPolygon 223 = .ok (.if_icmp .eq 16, 3) := dk_159 0 16 (dk_at dksX4_readPolygon_9 13 rfl rfl)
theorem dX4_readPolygon_226 : decode cX4_readPolygon 226 = .ok (.aload_n 0, 1) := dk_42 (dk_at dksX4_readPolygon_9 16 rfl rfl)
theorem dX4_readPolygon_227 : decode cX4_readPolygon 227 = .ok (.bipush (-2), 2) := dk_16 254 (dk_at dksX4_readPolygon_9 17 rfl rfl)
theorem dX4_readPolygon_229 : decode cX4_readPolygon 229 = .ok (.aload_n 0, 1) := dk_42 (dk_at dksX4_readPolygon_9 19 rfl rfl)
theorem dX4_readPolygon_230 : decode cX4_readPolygon 230 = .ok (.getfield 133, 3) := dk_180 0 133 (dk_at dksX4_readPolygon_9 20 rfl rfl)
theorem dX4_readPolygon_233 : decode cX4_readPolygon 233 = .ok (.invokevirtual 162, 3) := dk_182 0 162 (dk_at dksX4_readPolygon_10 0 rfl rfl)
theorem dX4_readPolygon_236 : decode cX4_readPolygon 236 = .ok (.goto 22, 3) := dk_167 0 22 (dk_at dksX4_readPolygon_10 3 rfl rfl)
theorem dX4_readPolygon_239 : decode cX4_readPolygon 239 = .ok (.aload_n 0, 1) := dk_42 (dk_at dksX4_readPolygon_10 6 rfl rfl)
theorem dX4_readPolygon_240 : decode cX4_readPolygon 240 = .ok (.iload 5, 2) := dk_21 5 (dk_at dksX4_readPolygon_10 7 rfl rfl)
theorem dX4_readPolygon_242 : decode cX4_readPolygon 242 = .ok (.invokevirtual 223, 3) := dk_182 0 223 (dk_at dksX4_readPolygon_10 9 rfl rfl)
theorem dX4_readPolygon_245 : decode cX4_readPolygon 245 = .ok (.ifCond .eq 13, 3) := dk_153 0 13 (dk_at dksX4_readPolygon_10 12 rfl rfl)
theorem dX4_readPolygon_248 : decode cX4_readPolygon 248 = .ok (.aload_n 0, 1) := dk_42 (dk_at dksX4_readPolygon_10 15 rfl rfl)
theorem dX4_readPolygon_249 : decode cX4_readPolygon 249 = .ok (.bipush (-4), 2) := dk_16 252 (dk_at dksX4_readPolygon_10 16 rfl rfl)
theorem dX4_readPolygon_251 : decode cX4_readPolygon 251 = .ok (.aload_n 0, 1) := dk_42 (dk_at dksX4_readPolygon_10 18 rfl rfl)
theorem dX4_readPolygon_252 : decode cX4_readPolygon 252 = .ok (.getfield 133, 3) := dk_180 0 133 (dk_at dksX4_readPolygon_10 19 rfl rfl)
theorem dX4_readPolygon_255 : decode cX4_readPolygon 255 = .ok (.invokevirtual 162, 3) := dk_182 0 162 (dk_at dksX4_readPolygon_11 0 rfl rfl)
theorem dX4_readPolygon_258 : decode cX4_readPolygon 258 = .ok (.aload_n 0, 1) := dk_42 (dk_at dksX4_readPolygon_11 3 rfl rfl)
theorem dX4_readPolygon_259 : decode cX4_readPolygon 259 = .ok (.getfield 17, 3) := dk_180 0 17 (dk_at dksX4_readPolygon_11 4 rfl rfl)
theorem dX4_readPolygon_262 : decode cX4_readPolygon 262 = .ok (.iload 5, 2) := dk_21 5 (dk_at dksX4_readPolygon_11 7 rfl rfl)
theorem dX4_readPolygon_264 : decode cX4_readPolygon 264 = .ok (.invokestatic 35, 3) := dk_184 0 35 (dk_at dksX4_readPolygon_11 9 rfl rfl)
theorem dX4_readPolygon_267 : decode cX4_readPolygon 267 = .ok (.iconst 2, 1) := dk_5 (dk_at dksX4_readPolygon_11 12 rfl rfl)
theorem dX4_readPolygon_268 : decode cX4_readPolygon 268 = .ok (.iadd, 1) := dk_96 (dk_at dksX4_readPolygon_11 13 rfl rfl)
theorem dX4_readPolygon_269 : decode cX4_readPolygon 269 = .ok (.iconst 1, 1) := dk_4 (dk_at dksX4_readPolygon_11 14 rfl rfl)
theorem dX4_readPolygon_270 : decode cX4_readPolygon 270 = .ok (.iastore, 1) := dk_79 (dk_at dksX4_readPolygon_11 15 rfl rfl)
theorem dX4_readPolygon_271 : decode cX4_readPolygon 271 = .ok (.return_, 1) := dk_177 (dk_at dksX4_readPolygon_11 16 rfl rfl)
abbrev cX4_beginPolygon : ByteArray := prog_10_method_33_code
def yX4_beginPolygon : MethodName := ⟨RX4, "beginPolygon", "(III)V"⟩
def dkwX4_beginPolygon_2 : List UInt8 := [92, 46, 4, 96, 79, 42, 42, 180, 0, 17, 6, 46, 4, 100, 3, 28, 29, 182, 0, 124, 177]
abbrev dktX4_beginPolygon_2 : List UInt8 := dkwX4_beginPolygon_2 ++ []
def dkwX4_beginPolygon_1 : List UInt8 := [180, 0, 17, 21, 4, 4, 96, 3, 79, 42, 180, 0, 17, 21, 4, 5, 96, 3, 79, 42, 180, 0, 17, 6]
abbrev dktX4_beginPolygon_1 : List UInt8 := dkwX4_beginPolygon_1 ++ dktX4_beginPolygon_2
def dkwX4_beginPolygon_0 : List UInt8 := [42, 180, 0, 17, 6, 46, 184, 0, 35, 54, 4, 42, 180, 0, 17, 21, 4, 3, 96, 27, 79, 42]
abbrev dktX4_beginPolygon_0 : List UInt8 := dkwX4_beginPolygon_0 ++ dktX4_beginPolygon_1
theorem dksX4_beginPolygon_0 : cX4_beginPolygon.data.toList.drop 0 = dktX4_beginPolygon_0 := by decide +kernel
theorem dksX4_beginPolygon_1 : cX4_beginPolygon.data.toList.drop 22 = dktX4_beginPolygon_1 := dk_seg dksX4_beginPolygon_0 22 rfl rfl
theorem dksX4_beginPolygon_2 : cX4_beginPolygon.data.toList.drop 46 = dktX4_beginPolygon_2 := dk_seg dksX4_beginPolygon_1 24 rfl rfl
theorem dX4_beginPolygon_0 : decode cX4_beginPolygon 0 = .ok (.aload_n 0, 1) := dk_42 (dk_at dksX4_beginPolygon_0 0 rfl rfl)
theorem dX4_beginPolygon_1 : decode cX4_beginPolygon 1 = .ok (.getfield 17, 3) := dk_180 0 17 (dk_at dksX4_beginPolygon_0 1 rfl rfl)
theorem dX4_beginPolygon_4 : decode cX4_beginPolygon 4 = .ok (.iconst 3, 1) := dk_6 (dk_at dksX4_beginPolygon_0 4 rfl rfl)
theorem dX4_beginPolygon_5 : decode cX4_beginPolygon 5 = .ok (.iaload, 1) := dk_46 (dk_at dksX4_beginPolygon_0 5 rfl rfl)
theorem dX4_beginPolygon_6 : decode cX4_beginPolygon 6 = .ok (.invokestatic 35, 3) := dk_184 0 35 (dk_at dksX4_beginPolygon_0 6 rfl rfl)
theorem dX4_beginPolygon_9 : decode cX4_beginPolygon 9 = .ok (.istore 4, 2) := dk_54 4 (dk_at dksX4_beginPolygon_0 9 rfl rfl)
theorem dX4_beginPolygon_11 : decode cX4_beginPolygon 11 = .ok (.aload_n 0, 1) := dk_42 (dk_at dksX4_beginPolygon_0 11 rfl rfl)
theorem dX4_beginPolygon_12 : decode cX4_beginPolygon 12 = .ok (.getfield 17, 3) := dk_180 0 17 (dk_at dksX4_beginPolygon_0 12 rfl rfl)
theorem dX4_beginPolygon_15 : decode cX4_beginPolygon 15 = .ok (.iload 4, 2) := dk_21 4 (dk_at dksX4_beginPolygon_0 15 rfl rfl)
theorem dX4_beginPolygon_17 : decode cX4_beginPolygon 17 = .ok (.iconst 0, 1) := dk_3 (dk_at dksX4_beginPolygon_0 17 rfl rfl)
theorem dX4_beginPolygon_18 : decode cX4_beginPolygon 18 = .ok (.iadd, 1) := dk_96 (dk_at dksX4_beginPolygon_0 18 rfl rfl)
theorem dX4_beginPolygon_19 : decode cX4_beginPolygon 19 = .ok (.iload_n 1, 1) := dk_27 (dk_at dksX4_beginPolygon_0 19 rfl rfl)
theorem dX4_beginPolygon_20 : decode cX4_beginPolygon 20 = .ok (.iastore, 1) := dk_79 (dk_at dksX4_beginPolygon_0 20 rfl rfl)
theorem dX4_beginPolygon_21 : decode cX4_beginPolygon 21 = .ok (.aload_n 0, 1) := dk_42 (dk_at dksX4_beginPolygon_0 21 rfl rfl)
theorem dX4_beginPolygon_22 : decode cX4_beginPolygon 22 = .ok (.getfield 17, 3) := dk_180 0 17 (dk_at dksX4_beginPolygon_1 0 rfl rfl)
theorem dX4_beginPolygon_25 : decode cX4_beginPolygon 25 = .ok (.iload 4, 2) := dk_21 4 (dk_at dksX4_beginPolygon_1 3 rfl rfl)
theorem dX4_beginPolygon_27 : decode cX4_beginPolygon 27 = .ok (.iconst 1, 1) := dk_4 (dk_at dksX4_beginPolygon_1 5 rfl rfl)
theorem dX4_beginPolygon_28 : decode cX4_beginPolygon 28 = .ok (.iadd, 1) := dk_96 (dk_at dksX4_beginPolygon_1 6 rfl rfl)
theorem dX4_beginPolygon_29 : decode cX4_beginPolygon 29 = .ok (.iconst 0, 1) := dk_3 (dk_at dksX4_beginPolygon_1 7 rfl rfl)
theorem dX4_beginPolygon_30 : decode cX4_beginPolygon 30 = .ok (.iastore, 1) := dk_79 (dk_at dksX4_beginPolygon_1 8 rfl rfl)
theorem dX4_beginPolygon_31 : decode cX4_beginPolygon 31 = .ok (.aload_n 0, 1) := dk_42 (dk_at dksX4_beginPolygon_1 9 rfl rfl)
theorem dX4_beginPolygon_32 : decode cX4_beginPolygon 32 = .ok (.getfield 17, 3) := dk_180 0 17 (dk_at dksX4_beginPolygon_1 10 rfl rfl)
theorem dX4_beginPolygon_35 : decode cX4_beginPolygon 35 = .ok (.iload 4, 2) := dk_21 4 (dk_at dksX4_beginPolygon_1 13 rfl rfl)
theorem dX4_beginPolygon_37 : decode cX4_beginPolygon 37 = .ok (.iconst 2, 1) := dk_5 (dk_at dksX4_beginPolygon_1 15 rfl rfl)
theorem dX4_beginPolygon_38 : decode cX4_beginPolygon 38 = .ok (.iadd, 1) := dk_96 (dk_at dksX4_beginPolygon_1 16 rfl rfl)
theorem dX4_beginPolygon_39 : decode cX4_beginPolygon 39 = .ok (.iconst 0, 1) := dk_3 (dk_at dksX4_beginPolygon_1 17 rfl rfl)
theorem dX4_beginPolygon_40 : decode cX4_beginPolygon 40 = .ok (.iastore, 1) := dk_79 (dk_at dksX4_beginPolygon_1 18 rfl rfl)
theorem dX4_beginPolygon_41 : decode cX4_beginPolygon 41 = .ok (.aload_n 0, 1) := dk_42 (dk_at dksX4_beginPolygon_1 19 rfl rfl)
theorem dX4_beginPolygon_42 : decode cX4_beginPolygon 42 = .ok (.getfield 17, 3) := dk_180 0 17 (dk_at dksX4_beginPolygon_1 20 rfl rfl)
theorem dX4_beginPolygon_45 : decode cX4_beginPolygon 45 = .ok (.iconst 3, 1) := dk_6 (dk_at dksX4_beginPolygon_1 23 rfl rfl)
theorem dX4_beginPolygon_46 : decode cX4_beginPolygon 46 = .ok (.dup2, 1) := dk_92 (dk_at dksX4_beginPolygon_2 0 rfl rfl)
theorem dX4_beginPolygon_47 : decode cX4_beginPolygon 47 = .ok (.iaload, 1) := dk_46 (dk_at dksX4_beginPolygon_2 1 rfl rfl)
theorem dX4_beginPolygon_48 : decode cX4_beginPolygon 48 = .ok (.iconst 1, 1) := dk_4 (dk_at dksX4_beginPolygon_2 2 rfl rfl)
theorem dX4_beginPolygon_49 : decode cX4_beginPolygon 49 = .ok (.iadd, 1) := dk_96 (dk_at dksX4_beginPolygon_2 3 rfl rfl)
theorem dX4_beginPolygon_50 : decode cX4_beginPolygon 50 = .ok (.iastore, 1) := dk_79 (dk_at dksX4_beginPolygon_2 4 rfl rfl)
theorem dX4_beginPolygon_51 : decode cX4_beginPolygon 51 = .ok (.aload_n 0, 1) := dk_42 (dk_at dksX4_beginPolygon_2 5 rfl rfl)
theorem dX4_beginPolygon_52 : decode cX4_beginPolygon 52 = .ok (.aload_n 0, 1) := dk_42 (dk_at dksX4_beginPolygon_2 6 rfl rfl)
theorem dX4_beginPolygon_53 : decode cX4_beginPolygon 53 = .ok (.getfield 17, 3) := dk_180 0 17 (dk_at dksX4_beginPolygon_2 7 rfl rfl)
theorem dX4_beginPolygon_56 : decode cX4_beginPolygon 56 = .ok (.iconst 3, 1) := dk_6 (dk_at dksX4_beginPolygon_2 10 rfl rfl)
theorem dX4_beginPolygon_57 : decode cX4_beginPolygon 57 = .ok (.iaload, 1) := dk_46 (dk_at dksX4_beginPolygon_2 11 rfl rfl)
theorem dX4_beginPolygon_58 : decode cX4_beginPolygon 58 = .ok (.iconst 1, 1) := dk_4 (dk_at dksX4_beginPolygon_2 12 rfl rfl)
theorem dX4_beginPolygon_59 : decode cX4_beginPolygon 59 = .ok (.isub, 1) := dk_100 (dk_at dksX4_beginPolygon_2 13 rfl rfl)
theorem dX4_beginPolygon_60 : decode cX4_beginPolygon 60 = .ok (.iconst 0, 1) := dk_3 (dk_at dksX4_beginPolygon_2 14 rfl rfl)
theorem dX4_beginPolygon_61 : decode cX4_beginPolygon 61 = .ok (.iload_n 2, 1) := dk_28 (dk_at dksX4_beginPolygon_2 15 rfl rfl)
theorem dX4_beginPolygon_62 : decode cX4_beginPolygon 62 = .ok (.iload_n 3, 1) := dk_29 (dk_at dksX4_beginPolygon_2 16 rfl rfl)
theorem dX4_beginPolygon_63 : decode cX4_beginPolygon 63 = .ok (.invokevirtual 124, 3) := dk_182 0 124 (dk_at dksX4_beginPolygon_2 17 rfl rfl)
theorem dX4_beginPolygon_66 : decode cX4_beginPolygon 66 = .ok (.return_, 1) := dk_177 (dk_at dksX4_beginPolygon_2 20 rfl rfl)
abbrev cX4_putCorner : ByteArray := prog_10_method_32_code
def yX4_putCorner : MethodName := ⟨RX4, "putCorner", "(IIII)V"⟩
def dkwX4_putCorner_4 : List UInt8 := [4, 96, 92, 46, 4, 96, 79, 177]
abbrev dktX4_putCorner_4 : List UInt8 := dkwX4_putCorner_4 ++ []
def dkwX4_putCorner_3 : List UInt8 := [79, 42, 180, 0, 17, 21, 5, 6, 96, 5, 28, 104, 96, 4, 96, 21, 4, 79, 42, 180, 0, 17, 21, 5]
abbrev dktX4_putCorner_3 : List UInt8 := dkwX4_putCorner_3 ++ dktX4_putCorner_4
def dkwX4_putCorner_2 : List UInt8 := [21, 6, 96, 46, 79, 132, 6, 255, 167, 255, 219, 42, 180, 0, 17, 21, 5, 6, 96, 5, 28, 104, 96, 29]
abbrev dktX4_putCorner_2 : List UInt8 := dkwX4_putCorner_2 ++ dktX4_putCorner_3
def dkwX4_putCorner_1 : List UInt8 := [161, 0, 35, 42, 180, 0, 17, 21, 5, 6, 96, 21, 6, 96, 5, 96, 42, 180, 0, 17, 21, 5, 6, 96]
abbrev dktX4_putCorner_1 : List UInt8 := dkwX4_putCorner_1 ++ dktX4_putCorner_2
def dkwX4_putCorner_0 : List UInt8 := [27, 184, 0, 35, 54, 5, 5, 42, 27, 182, 0, 39, 104, 4, 100, 54, 6, 21, 6, 5, 28, 104]
abbrev dktX4_putCorner_0 : List UInt8 := dkwX4_putCorner_0 ++ dktX4_putCorner_1
theorem dksX4_putCorner_0 : cX4_putCorner.data.toList.drop 0 = dktX4_putCorner_0 := by decide +kernel
theorem dksX4_putCorner_1 : cX4_putCorner.data.toList.drop 22 = dktX4_putCorner_1 := dk_seg dksX4_putCorner_0 22 rfl rfl
theorem dksX4_putCorner_2 : cX4_putCorner.data.toList.drop 46 = dktX4_putCorner_2 := dk_seg dksX4_putCorner_1 24 rfl rfl
theorem dksX4_putCorner_3 : cX4_putCorner.data.toList.drop 70 = dktX4_putCorner_3 := dk_seg dksX4_putCorner_2 24 rfl rfl
theorem dksX4_putCorner_4 : cX4_putCorner.data.toList.drop 94 = dktX4_putCorner_4 := dk_seg dksX4_putCorner_3 24 rfl rfl
theorem dX4_putCorner_0 : decode cX4_putCorner 0 = .ok (.iload_n 1, 1) := dk_27 (dk_at dksX4_putCorner_0 0 rfl rfl)
theorem dX4_putCorner_1 : decode cX4_putCorner 1 = .ok (.invokestatic 35, 3) := dk_184 0 35 (dk_at dksX4_putCorner_0 1 rfl rfl)
theorem dX4_putCorner_4 : decode cX4_putCorner 4 = .ok (.istore 5, 2) := dk_54 5 (dk_at dksX4_putCorner_0 4 rfl rfl)
theorem dX4_putCorner_6 : decode cX4_putCorner 6 = .ok (.iconst 2, 1) := dk_5 (dk_at dksX4_putCorner_0 6 rfl rfl)
theorem dX4_putCorner_7 : decode cX4_putCorner 7 = .ok (.aload_n 0, 1) := dk_42 (dk_at dksX4_putCorner_0 7 rfl rfl)
theorem dX4_putCorner_8 : decode cX4_putCorner 8 = .ok (.iload_n 1, 1) := dk_27 (dk_at dksX4_putCorner_0 8 rfl rfl)
theorem dX4_putCorner_9 : decode cX4_putCorner 9 = .ok (.invokevirtual 39, 3) := dk_182 0 39 (dk_at dksX4_putCorner_0 9 rfl rfl)
theorem dX4_putCorner_12 : decode cX4_putCorner 12 = .ok (.imul, 1) := dk_104 (dk_at dksX4_putCorner_0 12 rfl rfl)
theorem dX4_putCorner_13 : decode cX4_putCorner 13 = .ok (.iconst 1, 1) := dk_4 (dk_at dksX4_putCorner_0 13 rfl rfl)
theorem dX4_putCorner_14 : decode cX4_putCorner 14 = .ok (.isub, 1) := dk_100 (dk_at dksX4_putCorner_0 14 rfl rfl)
theorem dX4_putCorner_15 : decode cX4_putCorner 15 = .ok (.istore 6, 2) := dk_54 6 (dk_at dksX4_putCorner_0 15 rfl rfl)
theorem dX4_putCorner_17 : decode cX4_putCorner 17 = .ok (.iload 6, 2) := dk_21 6 (dk_at dksX4_putCorner_0 17 rfl rfl)
theorem dX4_putCorner_19 : decode cX4_putCorner 19 = .ok (.iconst 2, 1) := dk_5 (dk_at dksX4_putCorner_0 19 rfl rfl)
theorem dX4_putCorner_20 : decode cX4_putCorner 20 = .ok (.iload_n 2, 1) := dk_28 (dk_at dksX4_putCorner_0 20 rfl rfl)
theorem dX4_putCorner_21 : decode cX4_putCorner 21 = .ok (.imul, 1) := dk_104 (dk_at dksX4_putCorner_0 21 rfl rfl)
theorem dX4_putCorner_22 : decode cX4_putCorner 22 = .ok (.if_icmp .lt 35, 3) := dk_161 0 35 (dk_at dksX4_putCorner_1 0 rfl rfl)
theorem dX4_putCorner_25 : decode cX4_putCorner 25 = .ok (.aload_n 0, 1) := dk_42 (dk_at dksX4_putCorner_1 3 rfl rfl)
theorem dX4_putCorner_26 : decode cX4_putCorner 26 = .ok (.getfield 17, 3) := dk_180 0 17 (dk_at dksX4_putCorner_1 4 rfl rfl)
theorem dX4_putCorner_29 : decode cX4_putCorner 29 = .ok (.iload 5, 2) := dk_21 5 (dk_at dksX4_putCorner_1 7 rfl rfl)
theorem dX4_putCorner_31 : decode cX4_putCorner 31 = .ok (.iconst 3, 1) := dk_6 (dk_at dksX4_putCorner_1 9 rfl rfl)
theorem dX4_putCorner_32 : decode cX4_putCorner 32 = .ok (.iadd, 1) := dk_96 (dk_at dksX4_putCorner_1 10 rfl rfl)
theorem dX4_putCorner_33 : decode cX4_putCorner 33 = .ok (.iload 6, 2) := dk_21 6 (dk_at dksX4_putCorner_1 11 rfl rfl)
theorem dX4_putCorner_35 : decode cX4_putCorner 35 = .ok (.iadd, 1) := dk_96 (dk_at dksX4_putCorner_1 13 rfl rfl)
theorem dX4_putCorner_36 : decode cX4_putCorner 36 = .ok (.iconst 2, 1) := dk_5 (dk_at dksX4_putCorner_1 14 rfl rfl)
theorem dX4_putCorner_37 : decode cX4_putCorner 37 = .ok (.iadd, 1) := dk_96 (dk_at dksX4_putCorner_1 15 rfl rfl)
theorem dX4_putCorner_38 : decode cX4_putCorner 38 = .ok (.aload_n 0, 1) := dk_42 (dk_at dksX4_putCorner_1 16 rfl rfl)
theorem dX4_putCorner_39 : decode cX4_putCorner 39 = .ok (.getfield 17, 3) := dk_180 0 17 (dk_at dksX4_putCorner_1 17 rfl rfl)
theorem dX4_putCorner_42 : decode cX4_putCorner 42 = .ok (.iload 5, 2) := dk_21 5 (dk_at dksX4_putCorner_1 20 rfl rfl)
theorem dX4_putCorner_44 : decode cX4_putCorner 44 = .ok (.iconst 3, 1) := dk_6 (dk_at dksX4_putCorner_1 22 rfl rfl)
theorem dX4_putCorner_45 : decode cX4_putCorner 45 = .ok (.iadd, 1) := dk_96 (dk_at dksX4_putCorner_1 23 rfl rfl)
theorem dX4_putCorner_46 : decode cX4_putCorner 46 = .ok (.iload 6, 2) := dk_21 6 (dk_at dksX4_putCorner_2 0 rfl rfl)
theorem dX4_putCorner_48 : decode cX4_putCorner 48 = .ok (.iadd, 1) := dk_96 (dk_at dksX4_putCorner_2 2 rfl rfl)
theorem dX4_putCorner_49 : decode cX4_putCorner 49 = .ok (.iaload, 1) := dk_46 (dk_at dksX4_putCorner_2 3 rfl rfl)
theorem dX4_putCorner_50 : decode cX4_putCorner 50 = .ok (.iastore, 1) := dk_79 (dk_at dksX4_putCorner_2 4 rfl rfl)
theorem dX4_putCorner_51 : decode cX4_putCorner 51 = .ok (.iinc 6 (-1), 3) := dk_132 6 255 (dk_at dksX4_putCorner_2 5 rfl rfl)
theorem dX4_putCorner_54 : decode cX4_putCorner 54 = .ok (.goto (-37), 3) := dk_167 255 219 (dk_at dksX4_putCorner_2 8 rfl rfl)
theorem dX4_putCorner_57 : decode cX4_putCorner 57 = .ok (.aload_n 0, 1) := dk_42 (dk_at dksX4_putCorner_2 11 rfl rfl)
theorem dX4_putCorner_58 : decode cX4_putCorner 58 = .ok (.getfield 17, 3) := dk_180 0 17 (dk_at dksX4_putCorner_2 12 rfl rfl)
theorem dX4_putCorner_61 : decode cX4_putCorner 61 = .ok (.iload 5, 2) := dk_21 5 (dk_at dksX4_putCorner_2 15 rfl rfl)
theorem dX4_putCorner_63 : decode cX4_putCorner 63 = .ok (.iconst 3, 1) := dk_6 (dk_at dksX4_putCorner_2 17 rfl rfl)
theorem dX4_putCorner_64 : decode cX4_putCorner 64 = .ok (.iadd, 1) := dk_96 (dk_at dksX4_putCorner_2 18 rfl rfl)
theorem dX4_putCorner_65 : decode cX4_putCorner 65 = .ok (.iconst 2, 1) := dk_5 (dk_at dksX4_putCorner_2 19 rfl rfl)
theorem dX4_putCorner_66 : decode cX4_putCorner 66 = .ok (.iload_n 2, 1) := dk_28 (dk_at dksX4_putCorner_2 20 rfl rfl)
theorem dX4_putCorner_67 : decode cX4_putCorner 67 = .ok (.imul, 1) := dk_104 (dk_at dksX4_putCorner_2 21 rfl rfl)
theorem dX4_putCorner_68 : decode cX4_putCorner 68 = .ok (.iadd, 1) := dk_96 (dk_at dksX4_putCorner_2 22 rfl rfl)
theorem dX4_putCorner_69 : decode cX4_putCorner 69 = .ok (.iload_n 3, 1) := dk_29 (dk_at dksX4_putCorner_2 23 rfl rfl)
theorem dX4_putCorner_70 : decode cX4_putCorner 70 = .ok (.iastore, 1) := dk_79 (dk_at dksX4_putCorner_3 0 rfl rfl)
theorem dX4_putCorner_71 : decode cX4_putCorner 71 = .ok (.aload_n 0, 1) := dk_42 (dk_at dksX4_putCorner_3 1 rfl rfl)
theorem dX4_putCorner_72 : decode cX4_putCorner 72 = .ok (.getfield 17, 3) := dk_180 0 17 (dk_at dksX4_putCorner_3 2 rfl rfl)
theorem dX4_putCorner_75 : decode cX4_putCorner 75 = .ok (.iload 5, 2) := dk_21 5 (dk_at dksX4_putCorner_3 5 rfl rfl)
theorem dX4_putCorner_77 : decode cX4_putCorner 77 = .ok (.iconst 3, 1) := dk_6 (dk_at dksX4_putCorner_3 7 rfl rfl)
theorem dX4_putCorner_78 : decode cX4_putCorner 78 = .ok (.iadd, 1) := dk_96 (dk_at dksX4_putCorner_3 8 rfl rfl)
theorem dX4_putCorner_79 : decode cX4_putCorner 79 = .ok (.iconst 2, 1) := dk_5 (dk_at dksX4_putCorner_3 9 rfl rfl)
theorem dX4_putCorner_80 : decode cX4_putCorner 80 = .ok (.iload_n 2, 1) := dk_28 (dk_at dksX4_putCorner_3 10 rfl rfl)
theorem dX4_putCorner_81 : decode cX4_putCorner 81 = .ok (.imul, 1) := dk_104 (dk_at dksX4_putCorner_3 11 rfl rfl)
theorem dX4_putCorner_82 : decode cX4_putCorner 82 = .ok (.iadd, 1) := dk_96 (dk_at dksX4_putCorner_3 12 rfl rfl)
theorem dX4_putCorner_83 : decode cX4_putCorner 83 = .ok (.iconst 1, 1) := dk_4 (dk_at dksX4_putCorner_3 13 rfl rfl)
theorem dX4_putCorner_84 : decode cX4_putCorner 84 = .ok (.iadd, 1) := dk_96 (dk_at dksX4_putCorner_3 14 rfl rfl)
theorem dX4_putCorner_85 : decode cX4_putCorner 85 = .ok (.iload 4, 2) := dk_21 4 (dk_at dksX4_putCorner_3 15 rfl rfl)
theorem dX4_putCorner_87 : decode cX4_putCorner 87 = .ok (.iastore, 1) := dk_79 (dk_at dksX4_putCorner_3 17 rfl rfl)
theorem dX4_putCorner_88 : decode cX4_putCorner 88 = .ok (.aload_n 0, 1) := dk_42 (dk_at dksX4_putCorner_3 18 rfl rfl)
theorem dX4_putCorner_89 : decode cX4_putCorner 89 = .ok (.getfield 17, 3) := dk_180 0 17 (dk_at dksX4_putCorner_3 19 rfl rfl)
theorem dX4_putCorner_92 : decode cX4_putCorner 92 = .ok (.iload 5, 2) := dk_21 5 (dk_at dksX4_putCorner_3 22 rfl rfl)
theorem dX4_putCorner_94 : decode cX4_putCorner 94 = .ok (.iconst 1, 1) := dk_4 (dk_at dksX4_putCorner_4 0 rfl rfl)
theorem dX4_putCorner_95 : decode cX4_putCorner 95 = .ok (.iadd, 1) := dk_96 (dk_at dksX4_putCorner_4 1 rfl rfl)
theorem dX4_putCorner_96 : decode cX4_putCorner 96 = .ok (.dup2, 1) := dk_92 (dk_at dksX4_putCorner_4 2 rfl rfl)
theorem dX4_putCorner_97 : decode cX4_putCorner 97 = .ok (.iaload, 1) := dk_46 (dk_at dksX4_putCorner_4 3 rfl rfl)
theorem dX4_putCorner_98 : decode cX4_putCorner 98 = .ok (.iconst 1, 1) := dk_4 (dk_at dksX4_putCorner_4 4 rfl rfl)
theorem dX4_putCorner_99 : decode cX4_putCorner 99 = .ok (.iadd, 1) := dk_96 (dk_at dksX4_putCorner_4 5 rfl rfl)
theorem dX4_putCorner_100 : decode cX4_putCorner 100 = .ok (.iastore, 1) := dk_79 (dk_at dksX4_putCorner_4 6 rfl rfl)
theorem dX4_putCorner_101 : decode cX4_putCorner 101 = .ok (.return_, 1) := dk_177 (dk_at dksX4_putCorner_4 7 rfl rfl)
abbrev cX4_cornerReason : ByteArray := prog_10_method_28_code
def yX4_cornerReason : MethodName := ⟨RX4, "cornerReason", "(III)I"⟩
def dkwX4_cornerReason_2 : List UInt8 := [54, 4, 42, 42, 27, 21, 4, 182, 0, 72, 42, 27, 21, 4, 182, 0, 75, 28, 29, 182, 0, 117, 172]
abbrev dktX4_cornerReason_2 : List UInt8 := dkwX4_cornerReason_2 ++ []
def dkwX4_cornerReason_1 : List UInt8 := [29, 182, 0, 110, 153, 0, 5, 6, 172, 42, 2, 2, 2, 2, 182, 0, 113, 42, 27, 182, 0, 39, 4, 100]
abbrev dktX4_cornerReason_1 : List UInt8 := dkwX4_cornerReason_1 ++ dktX4_cornerReason_2
def dkwX4_cornerReason_0 : List UInt8 := [42, 27, 182, 0, 42, 153, 0, 5, 4, 172, 42, 27, 182, 0, 39, 16, 12, 160, 0, 5, 5, 172, 42, 28]
abbrev dktX4_cornerReason_0 : List UInt8 := dkwX4_cornerReason_0 ++ dktX4_cornerReason_1
theorem dksX4_cornerReason_0 : cX4_cornerReason.data.toList.drop 0 = dktX4_cornerReason_0 := by decide +kernel
theorem dksX4_cornerReason_1 : cX4_cornerReason.data.toList.drop 24 = dktX4_cornerReason_1 := dk_seg dksX4_cornerReason_0 24 rfl rfl
theorem dksX4_cornerReason_2 : cX4_cornerReason.data.toList.drop 48 = dktX4_cornerReason_2 := dk_seg dksX4_cornerReason_1 24 rfl rfl
theorem dX4_cornerReason_0 : decode cX4_cornerReason 0 = .ok (.aload_n 0, 1) := dk_42 (dk_at dksX4_cornerReason_0 0 rfl rfl)
theorem dX4_cornerReason_1 : decode cX4_cornerReason 1 = .ok (.iload_n 1, 1) := dk_27 (dk_at dksX4_cornerReason_0 1 rfl rfl)
theorem dX4_cornerReason_2 : decode cX4_cornerReason 2 = .ok (.invokevirtual 42, 3) := dk_182 0 42 (dk_at dksX4_cornerReason_0 2 rfl rfl)
theorem dX4_cornerReason_5 : decode cX4_cornerReason 5 = .ok (.ifCond .eq 5, 3) := dk_153 0 5 (dk_at dksX4_cornerReason_0 5 rfl rfl)
theorem dX4_cornerReason_8 : decode cX4_cornerReason 8 = .ok (.iconst 1, 1) := dk_4 (dk_at dksX4_cornerReason_0 8 rfl rfl)
theorem dX4_cornerReason_9 : decode cX4_cornerReason 9 = .ok (.ireturn, 1) := dk_172 (dk_at dksX4_cornerReason_0 9 rfl rfl)
theorem dX4_cornerReason_10 : decode cX4_cornerReason 10 = .ok (.aload_n 0, 1) := dk_42 (dk_at dksX4_cornerReason_0 10 rfl rfl)
theorem dX4_cornerReason_11 : decode cX4_cornerReason 11 = .ok (.iload_n 1, 1) := dk_27 (dk_at dksX4_cornerReason_0 11 rfl rfl)
theorem dX4_cornerReason_12 : decode cX4_cornerReason 12 = .ok (.invokevirtual 39, 3) := dk_182 0 39 (dk_at dksX4_cornerReason_0 12 rfl rfl)
theorem dX4_cornerReason_15 : decode cX4_cornerReason 15 = .ok (.bipush 12, 2) := dk_16 12 (dk_at dksX4_cornerReason_0 15 rfl rfl)
theorem dX4_cornerReason_17 : decode cX4_cornerReason 17 = .ok (.if_icmp .ne 5, 3) := dk_160 0 5 (dk_at dksX4_cornerReason_0 17 rfl rfl)
theorem dX4_cornerReason_20 : decode cX4_cornerReason 20 = .ok (.iconst 2, 1) := dk_5 (dk_at dksX4_cornerReason_0 20 rfl rfl)
theorem dX4_cornerReason_21 : decode cX4_cornerReason 21 = .ok (.ireturn, 1) := dk_172 (dk_at dksX4_cornerReason_0 21 rfl rfl)
theorem dX4_cornerReason_22 : decode cX4_cornerReason 22 = .ok (.aload_n 0, 1) := dk_42 (dk_at dksX4_cornerReason_0 22 rfl rfl)
theorem dX4_cornerReason_23 : decode cX4_cornerReason 23 = .ok (.iload_n 2, 1) := dk_28 (dk_at dksX4_cornerReason_0 23 rfl rfl)
theorem dX4_cornerReason_24 : decode cX4_cornerReason 24 = .ok (.iload_n 3, 1) := dk_29 (dk_at dksX4_cornerReason_1 0 rfl rfl)
theorem dX4_cornerReason_25 : decode cX4_cornerReason 25 = .ok (.invokevirtual 110, 3) := dk_182 0 110 (dk_at dksX4_cornerReason_1 1 rfl rfl)
theorem dX4_cornerReason_28 : decode cX4_cornerReason 28 = .ok (.ifCond .eq 5, 3) := dk_153 0 5 (dk_at dksX4_cornerReason_1 4 rfl rfl)
theorem dX4_cornerReason_31 : decode cX4_cornerReason 31 = .ok (.iconst 3, 1) := dk_6 (dk_at dksX4_cornerReason_1 7 rfl rfl)
theorem dX4_cornerReason_32 : decode cX4_cornerReason 32 = .ok (.ireturn, 1) := dk_172 (dk_at dksX4_cornerReason_1 8 rfl rfl)
theorem dX4_cornerReason_33 : decode cX4_cornerReason 33 = .ok (.aload_n 0, 1) := dk_42 (dk_at dksX4_cornerReason_1 9 rfl rfl)
theorem dX4_cornerReason_34 : decode cX4_cornerReason 34 = .ok (.iconst (-1), 1) := dk_2 (dk_at dksX4_cornerReason_1 10 rfl rfl)
theorem dX4_cornerReason_35 : decode cX4_cornerReason 35 = .ok (.iconst (-1), 1) := dk_2 (dk_at dksX4_cornerReason_1 11 rfl rfl)
theorem dX4_cornerReason_36 : decode cX4_cornerReason 36 = .ok (.iconst (-1), 1) := dk_2 (dk_at dksX4_cornerReason_1 12 rfl rfl)
theorem dX4_cornerReason_37 : decode cX4_cornerReason 37 = .ok (.iconst (-1), 1) := dk_2 (dk_at dksX4_cornerReason_1 13 rfl rfl)
theorem dX4_cornerReason_38 : decode cX4_cornerReason 38 = .ok (.invokevirtual 113, 3) := dk_182 0 113 (dk_at dksX4_cornerReason_1 14 rfl rfl)
theorem dX4_cornerReason_41 : decode cX4_cornerReason 41 = .ok (.aload_n 0, 1) := dk_42 (dk_at dksX4_cornerReason_1 17 rfl rfl)
theorem dX4_cornerReason_42 : decode cX4_cornerReason 42 = .ok (.iload_n 1, 1) := dk_27 (dk_at dksX4_cornerReason_1 18 rfl rfl)
theorem dX4_cornerReason_43 : decode cX4_cornerReason 43 = .ok (.invokevirtual 39, 3) := dk_182 0 39 (dk_at dksX4_cornerReason_1 19 rfl rfl)
theorem dX4_cornerReason_46 : decode cX4_cornerReason 46 = .ok (.iconst 1, 1) := dk_4 (dk_at dksX4_cornerReason_1 22 rfl rfl)
theorem dX4_cornerReason_47 : decode cX4_cornerReason 47 = .ok (.isub, 1) := dk_100 (dk_at dksX4_cornerReason_1 23 rfl rfl)
theorem dX4_cornerReason_48 : decode cX4_cornerReason 48 = .ok (.istore 4, 2) := dk_54 4 (dk_at dksX4_cornerReason_2 0 rfl rfl)
theorem dX4_cornerReason_50 : decode cX4_cornerReason 50 = .ok (.aload_n 0, 1) := dk_42 (dk_at dksX4_cornerReason_2 2 rfl rfl)
theorem dX4_cornerReason_51 : decode cX4_cornerReason 51 = .ok (.aload_n 0, 1) := dk_42 (dk_at dksX4_cornerReason_2 3 rfl rfl)
theorem dX4_cornerReason_52 : decode cX4_cornerReason 52 = .ok (.iload_n 1, 1) := dk_27 (dk_at dksX4_cornerReason_2 4 rfl rfl)
theorem dX4_cornerReason_53 : decode cX4_cornerReason 53 = .ok (.iload 4, 2) := dk_21 4 (dk_at dksX4_cornerReason_2 5 rfl rfl)
theorem dX4_cornerReason_55 : decode cX4_cornerReason 55 = .ok (.invokevirtual 72, 3) := dk_182 0 72 (dk_at dksX4_cornerReason_2 7 rfl rfl)
theorem dX4_cornerReason_58 : decode cX4_cornerReason 58 = .ok (.aload_n 0, 1) := dk_42 (dk_at dksX4_cornerReason_2 10 rfl rfl)
theorem dX4_cornerReason_59 : decode cX4_cornerReason 59 = .ok (.iload_n 1, 1) := dk_27 (dk_at dksX4_cornerReason_2 11 rfl rfl)
theorem dX4_cornerReason_60 : decode cX4_cornerReason 60 = .ok (.iload 4, 2) := dk_21 4 (dk_at dksX4_cornerReason_2 12 rfl rfl)
theorem dX4_cornerReason_62 : decode cX4_cornerReason 62 = .ok (.invokevirtual 75, 3) := dk_182 0 75 (dk_at dksX4_cornerReason_2 14 rfl rfl)
theorem dX4_cornerReason_65 : decode cX4_cornerReason 65 = .ok (.iload_n 2, 1) := dk_28 (dk_at dksX4_cornerReason_2 17 rfl rfl)
theorem dX4_cornerReason_66 : decode cX4_cornerReason 66 = .ok (.iload_n 3, 1) := dk_29 (dk_at dksX4_cornerReason_2 18 rfl rfl)
theorem dX4_cornerReason_67 : decode cX4_cornerReason 67 = .ok (.invokevirtual 117, 3) := dk_182 0 117 (dk_at dksX4_cornerReason_2 19 rfl rfl)
theorem dX4_cornerReason_70 : decode cX4_cornerReason 70 = .ok (.ireturn, 1) := dk_172 (dk_at dksX4_cornerReason_2 22 rfl rfl)
abbrev cX4_goes : ByteArray := prog_10_method_24_code
def yX4_goes : MethodName := ⟨RX4, "goes", "(IIII)V"⟩
def dkwX4_goes_0 : List UInt8 := [42, 27, 181, 0, 87, 42, 28, 181, 0, 90, 42, 29, 181, 0, 93, 42, 21, 4, 181, 0, 96, 177]
abbrev dktX4_goes_0 : List UInt8 := dkwX4_goes_0 ++ []
theorem dksX4_goes_0 : cX4_goes.data.toList.drop 0 = dktX4_goes_0 := by decide +kernel
theorem dX4_goes_0 : decode cX4_goes 0 = .ok (.aload_n 0, 1) := dk_42 (dk_at dksX4_goes_0 0 rfl rfl)
theorem dX4_goes_1 : decode cX4_goes 1 = .ok (.iload_n 1, 1) := dk_27 (dk_at dksX4_goes_0 1 rfl rfl)
theorem dX4_goes_2 : decode cX4_goes 2 = .ok (.putfield 87, 3) := dk_181 0 87 (dk_at dksX4_goes_0 2 rfl rfl)
theorem dX4_goes_5 : decode cX4_goes 5 = .ok (.aload_n 0, 1) := dk_42 (dk_at dksX4_goes_0 5 rfl rfl)
theorem dX4_goes_6 : decode cX4_goes 6 = .ok (.iload_n 2, 1) := dk_28 (dk_at dksX4_goes_0 6 rfl rfl)
theorem dX4_goes_7 : decode cX4_goes 7 = .ok (.putfield 90, 3) := dk_181 0 90 (dk_at dksX4_goes_0 7 rfl rfl)
theorem dX4_goes_10 : decode cX4_goes 10 = .ok (.aload_n 0, 1) := dk_42 (dk_at dksX4_goes_0 10 rfl rfl)
theorem dX4_goes_11 : decode cX4_goes 11 = .ok (.iload_n 3, 1) := dk_29 (dk_at dksX4_goes_0 11 rfl rfl)
theorem dX4_goes_12 : decode cX4_goes 12 = .ok (.putfield 93, 3) := dk_181 0 93 (dk_at dksX4_goes_0 12 rfl rfl)
theorem dX4_goes_15 : decode cX4_goes 15 = .ok (.aload_n 0, 1) := dk_42 (dk_at dksX4_goes_0 15 rfl rfl)
theorem dX4_goes_16 : decode cX4_goes 16 = .ok (.iload 4, 2) := dk_21 4 (dk_at dksX4_goes_0 16 rfl rfl)
theorem dX4_goes_18 : decode cX4_goes 18 = .ok (.putfield 96, 3) := dk_181 0 96 (dk_at dksX4_goes_0 18 rfl rfl)
theorem dX4_goes_21 : decode cX4_goes 21 = .ok (.return_, 1) := dk_177 (dk_at dksX4_goes_0 21 rfl rfl)
abbrev cX4_lineReason : ByteArray := prog_10_method_27_code
def yX4_lineReason : MethodName := ⟨RX4, "lineReason", "(IIII)I"⟩
def dkwX4_lineReason_1 : List UInt8 := [182, 0, 107, 153, 0, 7, 8, 167, 0, 4, 3, 172]
abbrev dktX4_lineReason_1 : List UInt8 := dkwX4_lineReason_1 ++ []
def dkwX4_lineReason_0 : List UInt8 := [42, 27, 28, 29, 21, 4, 182, 0, 103, 153, 0, 7, 7, 167, 0, 20, 42, 27, 28, 29, 21, 4]
abbrev dktX4_lineReason_0 : List UInt8 := dkwX4_lineReason_0 ++ dktX4_lineReason_1
theorem dksX4_lineReason_0 : cX4_lineReason.data.toList.drop 0 = dktX4_lineReason_0 := by decide +kernel
theorem dksX4_lineReason_1 : cX4_lineReason.data.toList.drop 22 = dktX4_lineReason_1 := dk_seg dksX4_lineReason_0 22 rfl rfl
theorem dX4_lineReason_0 : decode cX4_lineReason 0 = .ok (.aload_n 0, 1) := dk_42 (dk_at dksX4_lineReason_0 0 rfl rfl)
theorem dX4_lineReason_1 : decode cX4_lineReason 1 = .ok (.iload_n 1, 1) := dk_27 (dk_at dksX4_lineReason_0 1 rfl rfl)
theorem dX4_lineReason_2 : decode cX4_lineReason 2 = .ok (.iload_n 2, 1) := dk_28 (dk_at dksX4_lineReason_0 2 rfl rfl)
theorem dX4_lineReason_3 : decode cX4_lineReason 3 = .ok (.iload_n 3, 1) := dk_29 (dk_at dksX4_lineReason_0 3 rfl rfl)
theorem dX4_lineReason_4 : decode cX4_lineReason 4 = .ok (.iload 4, 2) := dk_21 4 (dk_at dksX4_lineReason_0 4 rfl rfl)
theorem dX4_lineReason_6 : decode cX4_lineReason 6 = .ok (.invokevirtual 103, 3) := dk_182 0 103 (dk_at dksX4_lineReason_0 6 rfl rfl)
theorem dX4_lineReason_9 : decode cX4_lineReason 9 = .ok (.ifCond .eq 7, 3) := dk_153 0 7 (dk_at dksX4_lineReason_0 9 rfl rfl)
theorem dX4_lineReason_12 : decode cX4_lineReason 12 = .ok (.iconst 4, 1) := dk_7 (dk_at dksX4_lineReason_0 12 rfl rfl)
theorem dX4_lineReason_13 : decode cX4_lineReason 13 = .ok (.goto 20, 3) := dk_167 0 20 (dk_at dksX4_lineReason_0 13 rfl rfl)
theorem dX4_lineReason_16 : decode cX4_lineReason 16 = .ok (.aload_n 0, 1) := dk_42 (dk_at dksX4_lineReason_0 16 rfl rfl)
theorem dX4_lineReason_17 : decode cX4_lineReason 17 = .ok (.iload_n 1, 1) := dk_27 (dk_at dksX4_lineReason_0 17 rfl rfl)
theorem dX4_lineReason_18 : decode cX4_lineReason 18 = .ok (.iload_n 2, 1) := dk_28 (dk_at dksX4_lineReason_0 18 rfl rfl)
theorem dX4_lineReason_19 : decode cX4_lineReason 19 = .ok (.iload_n 3, 1) := dk_29 (dk_at dksX4_lineReason_0 19 rfl rfl)
theorem dX4_lineReason_20 : decode cX4_lineReason 20 = .ok (.iload 4, 2) := dk_21 4 (dk_at dksX4_lineReason_0 20 rfl rfl)
theorem dX4_lineReason_22 : decode cX4_lineReason 22 = .ok (.invokevirtual 107, 3) := dk_182 0 107 (dk_at dksX4_lineReason_1 0 rfl rfl)
theorem dX4_lineReason_25 : decode cX4_lineReason 25 = .ok (.ifCond .eq 7, 3) := dk_153 0 7 (dk_at dksX4_lineReason_1 3 rfl rfl)
theorem dX4_lineReason_28 : decode cX4_lineReason 28 = .ok (.iconst 5, 1) := dk_8 (dk_at dksX4_lineReason_1 6 rfl rfl)
theorem dX4_lineReason_29 : decode cX4_lineReason 29 = .ok (.goto 4, 3) := dk_167 0 4 (dk_at dksX4_lineReason_1 7 rfl rfl)
theorem dX4_lineReason_32 : decode cX4_lineReason 32 = .ok (.iconst 0, 1) := dk_3 (dk_at dksX4_lineReason_1 10 rfl rfl)
theorem dX4_lineReason_33 : decode cX4_lineReason 33 = .ok (.ireturn, 1) := dk_172 (dk_at dksX4_lineReason_1 11 rfl rfl)
abbrev cX4_isBlocked : ByteArray := prog_10_method_25_code
def yX4_isBlocked : MethodName := ⟨RX4, "isBlocked", "(IIII)Z"⟩
def dkwX4_isBlocked_6 : List UInt8 := [167, 255, 195, 132, 5, 1, 167, 255, 175, 3, 172]
abbrev dktX4_isBlocked_6 : List UInt8 := dkwX4_isBlocked_6 ++ []
def dkwX4_isBlocked_5 : List UInt8 := [182, 0, 72, 42, 21, 5, 21, 6, 182, 0, 75, 184, 0, 69, 153, 0, 5, 4, 172, 132, 6, 1]
abbrev dktX4_isBlocked_5 : List UInt8 := dkwX4_isBlocked_5 ++ dktX4_isBlocked_6
def dkwX4_isBlocked_4 : List UInt8 := [160, 0, 12, 21, 6, 42, 180, 0, 96, 159, 0, 32, 27, 28, 29, 21, 4, 42, 21, 5, 21, 6]
abbrev dktX4_isBlocked_4 : List UInt8 := dkwX4_isBlocked_4 ++ dktX4_isBlocked_5
def dkwX4_isBlocked_3 : List UInt8 := [46, 162, 0, 76, 3, 54, 6, 21, 6, 42, 21, 5, 182, 0, 39, 162, 0, 56, 21, 5, 42, 180, 0, 87]
abbrev dktX4_isBlocked_3 : List UInt8 := dkwX4_isBlocked_3 ++ dktX4_isBlocked_4
def dkwX4_isBlocked_2 : List UInt8 := [184, 0, 61, 153, 0, 5, 4, 172, 132, 5, 1, 167, 255, 203, 3, 54, 5, 21, 5, 42, 180, 0, 17, 6]
abbrev dktX4_isBlocked_2 : List UInt8 := dkwX4_isBlocked_2 ++ dktX4_isBlocked_3
def dkwX4_isBlocked_1 : List UInt8 := [16, 6, 6, 21, 5, 104, 96, 46, 42, 180, 0, 17, 16, 6, 6, 21, 5, 104, 96, 4, 96, 46]
abbrev dktX4_isBlocked_1 : List UInt8 := dkwX4_isBlocked_1 ++ dktX4_isBlocked_2
def dkwX4_isBlocked_0 : List UInt8 := [3, 54, 5, 21, 5, 42, 180, 0, 17, 5, 46, 162, 0, 48, 27, 28, 29, 21, 4, 42, 180, 0, 17]
abbrev dktX4_isBlocked_0 : List UInt8 := dkwX4_isBlocked_0 ++ dktX4_isBlocked_1
theorem dksX4_isBlocked_0 : cX4_isBlocked.data.toList.drop 0 = dktX4_isBlocked_0 := by decide +kernel
theorem dksX4_isBlocked_1 : cX4_isBlocked.data.toList.drop 23 = dktX4_isBlocked_1 := dk_seg dksX4_isBlocked_0 23 rfl rfl
theorem dksX4_isBlocked_2 : cX4_isBlocked.data.toList.drop 45 = dktX4_isBlocked_2 := dk_seg dksX4_isBlocked_1 22 rfl rfl
theorem dksX4_isBlocked_3 : cX4_isBlocked.data.toList.drop 69 = dktX4_isBlocked_3 := dk_seg dksX4_isBlocked_2 24 rfl rfl
theorem dksX4_isBlocked_4 : cX4_isBlocked.data.toList.drop 93 = dktX4_isBlocked_4 := dk_seg dksX4_isBlocked_3 24 rfl rfl
theorem dksX4_isBlocked_5 : cX4_isBlocked.data.toList.drop 115 = dktX4_isBlocked_5 := dk_seg dksX4_isBlocked_4 22 rfl rfl
theorem dksX4_isBlocked_6 : cX4_isBlocked.data.toList.drop 137 = dktX4_isBlocked_6 := dk_seg dksX4_isBlocked_5 22 rfl rfl
theorem dX4_isBlocked_0 : decode cX4_isBlocked 0 = .ok (.iconst 0, 1) := dk_3 (dk_at dksX4_isBlocked_0 0 rfl rfl)
theorem dX4_isBlocked_1 : decode cX4_isBlocked 1 = .ok (.istore 5, 2) := dk_54 5 (dk_at dksX4_isBlocked_0 1 rfl rfl)
theorem dX4_isBlocked_3 : decode cX4_isBlocked 3 = .ok (.iload 5, 2) := dk_21 5 (dk_at dksX4_isBlocked_0 3 rfl rfl)
theorem dX4_isBlocked_5 : decode cX4_isBlocked 5 = .ok (.aload_n 0, 1) := dk_42 (dk_at dksX4_isBlocked_0 5 rfl rfl)
theorem dX4_isBlocked_6 : decode cX4_isBlocked 6 = .ok (.getfield 17, 3) := dk_180 0 17 (dk_at dksX4_isBlocked_0 6 rfl rfl)
theorem dX4_isBlocked_9 : decode cX4_isBlocked 9 = .ok (.iconst 2, 1) := dk_5 (dk_at dksX4_isBlocked_0 9 rfl rfl)
theorem dX4_isBlocked_10 : decode cX4_isBlocked 10 = .ok (.iaload, 1) := dk_46 (dk_at dksX4_isBlocked_0 10 rfl rfl)
theorem dX4_isBlocked_11 : decode cX4_isBlocked 11 = .ok (.if_icmp .ge 48, 3) := dk_162 0 48 (dk_at dksX4_isBlocked_0 11 rfl rfl)
theorem dX4_isBlocked_14 : decode cX4_isBlocked 14 = .ok (.iload_n 1, 1) := dk_27 (dk_at dksX4_isBlocked_0 14 rfl rfl)
theorem dX4_isBlocked_15 : decode cX4_isBlocked 15 = .ok (.iload_n 2, 1) := dk_28 (dk_at dksX4_isBlocked_0 15 rfl rfl)
theorem dX4_isBlocked_16 : decode cX4_isBlocked 16 = .ok (.iload_n 3, 1) := dk_29 (dk_at dksX4_isBlocked_0 16 rfl rfl)
theorem dX4_isBlocked_17 : decode cX4_isBlocked 17 = .ok (.iload 4, 2) := dk_21 4 (dk_at dksX4_isBlocked_0 17 rfl rfl)
theorem dX4_isBlocked_19 : decode cX4_isBlocked 19 = .ok (.aload_n 0, 1) := dk_42 (dk_at dksX4_isBlocked_0 19 rfl rfl)
theorem dX4_isBlocked_20 : decode cX4_isBlocked 20 = .ok (.getfield 17, 3) := dk_180 0 17 (dk_at dksX4_isBlocked_0 20 rfl rfl)
theorem dX4_isBlocked_23 : decode cX4_isBlocked 23 = .ok (.bipush 6, 2) := dk_16 6 (dk_at dksX4_isBlocked_1 0 rfl rfl)
theorem dX4_isBlocked_25 : decode cX4_isBlocked 25 = .ok (.iconst 3, 1) := dk_6 (dk_at dksX4_isBlocked_1 2 rfl rfl)
theorem dX4_isBlocked_26 : decode cX4_isBlocked 26 = .ok (.iload 5, 2) := dk_21 5 (dk_at dksX4_isBlocked_1 3 rfl rfl)
theorem dX4_isBlocked_28 : decode cX4_isBlocked 28 = .ok (.imul, 1) := dk_104 (dk_at dksX4_isBlocked_1 5 rfl rfl)
theorem dX4_isBlocked_29 : decode cX4_isBlocked 29 = .ok (.iadd, 1) := dk_96 (dk_at dksX4_isBlocked_1 6 rfl rfl)
theorem dX4_isBlocked_30 : decode cX4_isBlocked 30 = .ok (.iaload, 1) := dk_46 (dk_at dksX4_isBlocked_1 7 rfl rfl)
theorem dX4_isBlocked_31 : decode cX4_isBlocked 31 = .ok (.aload_n 0, 1) := dk_42 (dk_at dksX4_isBlocked_1 8 rfl rfl)
theorem dX4_isBlocked_32 : decode cX4_isBlocked 32 = .ok (.getfield 17, 3) := dk_180 0 17 (dk_at dksX4_isBlocked_1 9 rfl rfl)
theorem dX4_isBlocked_35 : decode cX4_isBlocked 35 = .ok (.bipush 6, 2) := dk_16 6 (dk_at dksX4_isBlocked_1 12 rfl rfl)
theorem dX4_isBlocked_37 : decode cX4_isBlocked 37 = .ok (.iconst 3, 1) := dk_6 (dk_at dksX4_isBlocked_1 14 rfl rfl)
theorem dX4_isBlocked_38 : decode cX4_isBlocked 38 = .ok (.iload 5, 2) := dk_21 5 (dk_at dksX4_isBlocked_1 15 rfl rfl)
theorem dX4_isBlocked_40 : decode cX4_isBlocked 40 = .ok (.imul, 1) := dk_104 (dk_at dksX4_isBlocked_1 17 rfl rfl)
theorem dX4_isBlocked_41 : decode cX4_isBlocked 41 = .ok (.iadd, 1) := dk_96 (dk_at dksX4_isBlocked_1 18 rfl rfl)
theorem dX4_isBlocked_42 : decode cX4_isBlocked 42 = .ok (.iconst 1, 1) := dk_4 (dk_at dksX4_isBlocked_1 19 rfl rfl)
theorem dX4_isBlocked_43 : decode cX4_isBlocked 43 = .ok (.iadd, 1) := dk_96 (dk_at dksX4_isBlocked_1 20 rfl rfl)
theorem dX4_isBlocked_44 : decode cX4_isBlocked 44 = .ok (.iaload, 1) := dk_46 (dk_at dksX4_isBlocked_1 21 rfl rfl)
theorem dX4_isBlocked_45 : decode cX4_isBlocked 45 = .ok (.invokestatic 61, 3) := dk_184 0 61 (dk_at dksX4_isBlocked_2 0 rfl rfl)
theorem dX4_isBlocked_48 : decode cX4_isBlocked 48 = .ok (.ifCond .eq 5, 3) := dk_153 0 5 (dk_at dksX4_isBlocked_2 3 rfl rfl)
theorem dX4_isBlocked_51 : decode cX4_isBlocked 51 = .ok (.iconst 1, 1) := dk_4 (dk_at dksX4_isBlocked_2 6 rfl rfl)
theorem dX4_isBlocked_52 : decode cX4_isBlocked 52 = .ok (.ireturn, 1) := dk_172 (dk_at dksX4_isBlocked_2 7 rfl rfl)
theorem dX4_isBlocked_53 : decode cX4_isBlocked 53 = .ok (.iinc 5 1, 3) := dk_132 5 1 (dk_at dksX4_isBlocked_2 8 rfl rfl)
theorem dX4_isBlocked_56 : decode cX4_isBlocked 56 = .ok (.goto (-53), 3) := dk_167 255 203 (dk_at dksX4_isBlocked_2 11 rfl rfl)
theorem dX4_isBlocked_59 : decode cX4_isBlocked 59 = .ok (.iconst 0, 1) := dk_3 (dk_at dksX4_isBlocked_2 14 rfl rfl)
theorem dX4_isBlocked_60 : decode cX4_isBlocked 60 = .ok (.istore 5, 2) := dk_54 5 (dk_at dksX4_isBlocked_2 15 rfl rfl)
theorem dX4_isBlocked_62 : decode cX4_isBlocked 62 = .ok (.iload 5, 2) := dk_21 5 (dk_at dksX4_isBlocked_2 17 rfl rfl)
theorem dX4_isBlocked_64 : decode cX4_isBlocked 64 = .ok (.aload_n 0, 1) := dk_42 (dk_at dksX4_isBlocked_2 19 rfl rfl)
theorem dX4_isBlocked_65 : decode cX4_isBlocked 65 = .ok (.getfield 17, 3) := dk_180 0 17 (dk_at dksX4_isBlocked_2 20 rfl rfl)
theorem dX4_isBlocked_68 : decode cX4_isBlocked 68 = .ok (.iconst 3, 1) := dk_6 (dk_at dksX4_isBlocked_2 23 rfl rfl)
theorem dX4_isBlocked_69 : decode cX4_isBlocked 69 = .ok (.iaload, 1) := dk_46 (dk_at dksX4_isBlocked_3 0 rfl rfl)
theorem dX4_isBlocked_70 : decode cX4_isBlocked 70 = .ok (.if_icmp .ge 76, 3) := dk_162 0 76 (dk_at dksX4_isBlocked_3 1 rfl rfl)
theorem dX4_isBlocked_73 : decode cX4_isBlocked 73 = .ok (.iconst 0, 1) := dk_3 (dk_at dksX4_isBlocked_3 4 rfl rfl)
theorem dX4_isBlocked_74 : decode cX4_isBlocked 74 = .ok (.istore 6, 2) := dk_54 6 (dk_at dksX4_isBlocked_3 5 rfl rfl)
theorem dX4_isBlocked_76 : decode cX4_isBlocked 76 = .ok (.iload 6, 2) := dk_21 6 (dk_at dksX4_isBlocked_3 7 rfl rfl)
theorem dX4_isBlocked_78 : decode cX4_isBlocked 78 = .ok (.aload_n 0, 1) := dk_42 (dk_at dksX4_isBlocked_3 9 rfl rfl)
theorem dX4_isBlocked_79 : decode cX4_isBlocked 79 = .ok (.iload 5, 2) := dk_21 5 (dk_at dksX4_isBlocked_3 10 rfl rfl)
theorem dX4_isBlocked_81 : decode cX4_isBlocked 81 = .ok (.invokevirtual 39, 3) := dk_182 0 39 (dk_at dksX4_isBlocked_3 12 rfl rfl)
theorem dX4_isBlocked_84 : decode cX4_isBlocked 84 = .ok (.if_icmp .ge 56, 3) := dk_162 0 56 (dk_at dksX4_isBlocked_3 15 rfl rfl)
theorem dX4_isBlocked_87 : decode cX4_isBlocked 87 = .ok (.iload 5, 2) := dk_21 5 (dk_at dksX4_isBlocked_3 18 rfl rfl)
theorem dX4_isBlocked_89 : decode cX4_isBlocked 89 = .ok (.aload_n 0, 1) := dk_42 (dk_at dksX4_isBlocked_3 20 rfl rfl)
theorem dX4_isBlocked_90 : decode cX4_isBlocked 90 = .ok (.getfield 87, 3) := dk_180 0 87 (dk_at dksX4_isBlocked_3 21 rfl rfl)
theorem dX4_isBlocked_93 : decode cX4_isBlocked 93 = .ok (.if_icmp .ne 12, 3) := dk_160 0 12 (dk_at dksX4_isBlocked_4 0 rfl rfl)
theorem dX4_isBlocked_96 : decode cX4_isBlocked 96 = .ok (.iload 6, 2) := dk_21 6 (dk_at dksX4_isBlocked_4 3 rfl rfl)
theorem dX4_isBlocked_98 : decode cX4_isBlocked 98 = .ok (.aload_n 0, 1) := dk_42 (dk_at dksX4_isBlocked_4 5 rfl rfl)
theorem dX4_isBlocked_99 : decode cX4_isBlocked 99 = .ok (.getfield 96, 3) := dk_180 0 96 (dk_at dksX4_isBlocked_4 6 rfl rfl)
theorem dX4_isBlocked_102 : decode cX4_isBlocked 102 = .ok (.if_icmp .eq 32, 3) := dk_159 0 32 (dk_at dksX4_isBlocked_4 9 rfl rfl)
theorem dX4_isBlocked_105 : decode cX4_isBlocked 105 = .ok (.iload_n 1, 1) := dk_27 (dk_at dksX4_isBlocked_4 12 rfl rfl)
theorem dX4_isBlocked_106 : decode cX4_isBlocked 106 = .ok (.iload_n 2, 1) := dk_28 (dk_at dksX4_isBlocked_4 13 rfl rfl)
theorem dX4_isBlocked_107 : decode cX4_isBlocked 107 = .ok (.iload_n 3, 1) := dk_29 (dk_at dksX4_isBlocked_4 14 rfl rfl)
theorem dX4_isBlocked_108 : decode cX4_isBlocked 108 = .ok (.iload 4, 2) := dk_21 4 (dk_at dksX4_isBlocked_4 15 rfl rfl)
theorem dX4_isBlocked_110 : decode cX4_isBlocked 110 = .ok (.aload_n 0, 1) := dk_42 (dk_at dksX4_isBlocked_4 17 rfl rfl)
theorem dX4_isBlocked_111 : decode cX4_isBlocked 111 = .ok (.iload 5, 2) := dk_21 5 (dk_at dksX4_isBlocked_4 18 rfl rfl)
theorem dX4_isBlocked_113 : decode cX4_isBlocked 113 = .ok (.iload 6, 2) := dk_21 6 (dk_at dksX4_isBlocked_4 20 rfl rfl)
theorem dX4_isBlocked_115 : decode cX4_isBlocked 115 = .ok (.invokevirtual 72, 3) := dk_182 0 72 (dk_at dksX4_isBlocked_5 0 rfl rfl)
theorem dX4_isBlocked_118 : decode cX4_isBlocked 118 = .ok (.aload_n 0, 1) := dk_42 (dk_at dksX4_isBlocked_5 3 rfl rfl)
theorem dX4_isBlocked_119 : decode cX4_isBlocked 119 = .ok (.iload 5, 2) := dk_21 5 (dk_at dksX4_isBlocked_5 4 rfl rfl)
theorem dX4_isBlocked_121 : decode cX4_isBlocked 121 = .ok (.iload 6, 2) := dk_21 6 (dk_at dksX4_isBlocked_5 6 rfl rfl)
theorem dX4_isBlocked_123 : decode cX4_isBlocked 123 = .ok (.invokevirtual 75, 3) := dk_182 0 75 (dk_at dksX4_isBlocked_5 8 rfl rfl)
theorem dX4_isBlocked_126 : decode cX4_isBlocked 126 = .ok (.invokestatic 69, 3) := dk_184 0 69 (dk_at dksX4_isBlocked_5 11 rfl rfl)
theorem dX4_isBlocked_129 : decode cX4_isBlocked 129 = .ok (.ifCond .eq 5, 3) := dk_153 0 5 (dk_at dksX4_isBlocked_5 14 rfl rfl)
theorem dX4_isBlocked_132 : decode cX4_isBlocked 132 = .ok (.iconst 1, 1) := dk_4 (dk_at dksX4_isBlocked_5 17 rfl rfl)
theorem dX4_isBlocked_133 : decode cX4_isBlocked 133 = .ok (.ireturn, 1) := dk_172 (dk_at dksX4_isBlocked_5 18 rfl rfl)
theorem dX4_isBlocked_134 : decode cX4_isBlocked 134 = .ok (.iinc 6 1, 3) := dk_132 6 1 (dk_at dksX4_isBlocked_5 19 rfl rfl)
theorem dX4_isBlocked_137 : decode cX4_isBlocked 137 = .ok (.goto (-61), 3) := dk_167 255 195 (dk_at dksX4_isBlocked_6 0 rfl rfl)
theorem dX4_isBlocked_140 : decode cX4_isBlocked 140 = .ok (.iinc 5 1, 3) := dk_132 5 1 (dk_at dksX4_isBlocked_6 3 rfl rfl)
theorem dX4_isBlocked_143 : decode cX4_isBlocked 143 = .ok (.goto (-81), 3) := dk_167 255 175 (dk_at dksX4_isBlocked_6 6 rfl rfl)
theorem dX4_isBlocked_146 : decode cX4_isBlocked 146 = .ok (.iconst 0, 1) := dk_3 (dk_at dksX4_isBlocked_6 9 rfl rfl)
theorem dX4_isBlocked_147 : decode cX4_isBlocked 147 = .ok (.ireturn, 1) := dk_172 (dk_at dksX4_isBlocked_6 10 rfl rfl)
abbrev cX4_isWithin : ByteArray := prog_10_method_18_code
def yX4_isWithin : MethodName := ⟨RX4, "isWithin", "(IIIIII)Z"⟩
def dkwX4_isWithin_1 : List UInt8 := [159, 0, 19, 21, 4, 28, 160, 0, 9, 21, 5, 29, 159, 0, 7, 4, 167, 0, 4, 3, 172]
abbrev dktX4_isWithin_1 : List UInt8 := dkwX4_isWithin_1 ++ []
def dkwX4_isWithin_0 : List UInt8 := [26, 27, 28, 29, 21, 4, 21, 5, 184, 0, 61, 153, 0, 31, 21, 4, 26, 160, 0, 9, 21, 5, 27]
abbrev dktX4_isWithin_0 : List UInt8 := dkwX4_isWithin_0 ++ dktX4_isWithin_1
theorem dksX4_isWithin_0 : cX4_isWithin.data.toList.drop 0 = dktX4_isWithin_0 := by decide +kernel
theorem dksX4_isWithin_1 : cX4_isWithin.data.toList.drop 23 = dktX4_isWithin_1 := dk_seg dksX4_isWithin_0 23 rfl rfl
theorem dX4_isWithin_0 : decode cX4_isWithin 0 = .ok (.iload_n 0, 1) := dk_26 (dk_at dksX4_isWithin_0 0 rfl rfl)
theorem dX4_isWithin_1 : decode cX4_isWithin 1 = .ok (.iload_n 1, 1) := dk_27 (dk_at dksX4_isWithin_0 1 rfl rfl)
theorem dX4_isWithin_2 : decode cX4_isWithin 2 = .ok (.iload_n 2, 1) := dk_28 (dk_at dksX4_isWithin_0 2 rfl rfl)
theorem dX4_isWithin_3 : decode cX4_isWithin 3 = .ok (.iload_n 3, 1) := dk_29 (dk_at dksX4_isWithin_0 3 rfl rfl)
theorem dX4_isWithin_4 : decode cX4_isWithin 4 = .ok (.iload 4, 2) := dk_21 4 (dk_at dksX4_isWithin_0 4 rfl rfl)
theorem dX4_isWithin_6 : decode cX4_isWithin 6 = .ok (.iload 5, 2) := dk_21 5 (dk_at dksX4_isWithin_0 6 rfl rfl)
theorem dX4_isWithin_8 : decode cX4_isWithin 8 = .ok (.invokestatic 61, 3) := dk_184 0 61 (dk_at dksX4_isWithin_0 8 rfl rfl)
theorem dX4_isWithin_11 : decode cX4_isWithin 11 = .ok (.ifCond .eq 31, 3) := dk_153 0 31 (dk_at dksX4_isWithin_0 11 rfl rfl)
theorem dX4_isWithin_14 : decode cX4_isWithin 14 = .ok (.iload 4, 2) := dk_21 4 (dk_at dksX4_isWithin_0 14 rfl rfl)
theorem dX4_isWithin_16 : decode cX4_isWithin 16 = .ok (.iload_n 0, 1) := dk_26 (dk_at dksX4_isWithin_0 16 rfl rfl)
theorem dX4_isWithin_17 : decode cX4_isWithin 17 = .ok (.if_icmp .ne 9, 3) := dk_160 0 9 (dk_at dksX4_isWithin_0 17 rfl rfl)
theorem dX4_isWithin_20 : decode cX4_isWithin 20 = .ok (.iload 5, 2) := dk_21 5 (dk_at dksX4_isWithin_0 20 rfl rfl)
theorem dX4_isWithin_22 : decode cX4_isWithin 22 = .ok (.iload_n 1, 1) := dk_27 (dk_at dksX4_isWithin_0 22 rfl rfl)
theorem dX4_isWithin_23 : decode cX4_isWithin 23 = .ok (.if_icmp .eq 19, 3) := dk_159 0 19 (dk_at dksX4_isWithin_1 0 rfl rfl)
theorem dX4_isWithin_26 : decode cX4_isWithin 26 = .ok (.iload 4, 2) := dk_21 4 (dk_at dksX4_isWithin_1 3 rfl rfl)
theorem dX4_isWithin_28 : decode cX4_isWithin 28 = .ok (.iload_n 2, 1) := dk_28 (dk_at dksX4_isWithin_1 5 rfl rfl)
theorem dX4_isWithin_29 : decode cX4_isWithin 29 = .ok (.if_icmp .ne 9, 3) := dk_160 0 9 (dk_at dksX4_isWithin_1 6 rfl rfl)
theorem dX4_isWithin_32 : decode cX4_isWithin 32 = .ok (.iload 5, 2) := dk_21 5 (dk_at dksX4_isWithin_1 9 rfl rfl)
theorem dX4_isWithin_34 : decode cX4_isWithin 34 = .ok (.iload_n 3, 1) := dk_29 (dk_at dksX4_isWithin_1 11 rfl rfl)
theorem dX4_isWithin_35 : decode cX4_isWithin 35 = .ok (.if_icmp .eq 7, 3) := dk_159 0 7 (dk_at dksX4_isWithin_1 12 rfl rfl)
theorem dX4_isWithin_38 : decode cX4_isWithin 38 = .ok (.iconst 1, 1) := dk_4 (dk_at dksX4_isWithin_1 15 rfl rfl)
theorem dX4_isWithin_39 : decode cX4_isWithin 39 = .ok (.goto 4, 3) := dk_167 0 4 (dk_at dksX4_isWithin_1 16 rfl rfl)
theorem dX4_isWithin_42 : decode cX4_isWithin 42 = .ok (.iconst 0, 1) := dk_3 (dk_at dksX4_isWithin_1 19 rfl rfl)
theorem dX4_isWithin_43 : decode cX4_isWithin 43 = .ok (.ireturn, 1) := dk_172 (dk_at dksX4_isWithin_1 20 rfl rfl)
abbrev cX4_isCrossed : ByteArray := prog_10_method_26_code
def yX4_isCrossed : MethodName := ⟨RX4, "isCrossed", "(IIII)Z"⟩
def dkwX4_isCrossed_5 : List UInt8 := [172, 132, 6, 1, 167, 255, 155, 132, 5, 1, 167, 255, 135, 3, 172]
abbrev dktX4_isCrossed_5 : List UInt8 := dkwX4_isCrossed_5 ++ []
def dkwX4_isCrossed_4 : List UInt8 := [182, 0, 72, 42, 21, 5, 42, 21, 5, 21, 6, 182, 0, 84, 182, 0, 75, 184, 0, 99, 153, 0, 5, 4]
abbrev dktX4_isCrossed_4 : List UInt8 := dkwX4_isCrossed_4 ++ dktX4_isCrossed_5
def dkwX4_isCrossed_3 : List UInt8 := [182, 0, 72, 42, 21, 5, 21, 6, 182, 0, 75, 42, 21, 5, 42, 21, 5, 21, 6, 182, 0, 84]
abbrev dktX4_isCrossed_3 : List UInt8 := dkwX4_isCrossed_3 ++ dktX4_isCrossed_4
def dkwX4_isCrossed_2 : List UInt8 := [21, 6, 42, 180, 0, 93, 160, 0, 6, 167, 0, 60, 27, 28, 29, 21, 4, 42, 21, 5, 21, 6]
abbrev dktX4_isCrossed_2 : List UInt8 := dkwX4_isCrossed_2 ++ dktX4_isCrossed_3
def dkwX4_isCrossed_1 : List UInt8 := [182, 0, 81, 162, 0, 96, 21, 5, 42, 180, 0, 87, 160, 0, 24, 21, 6, 42, 180, 0, 90, 159, 0, 72]
abbrev dktX4_isCrossed_1 : List UInt8 := dkwX4_isCrossed_1 ++ dktX4_isCrossed_2
def dkwX4_isCrossed_0 : List UInt8 := [3, 54, 5, 21, 5, 42, 180, 0, 17, 6, 46, 162, 0, 116, 3, 54, 6, 21, 6, 42, 21, 5]
abbrev dktX4_isCrossed_0 : List UInt8 := dkwX4_isCrossed_0 ++ dktX4_isCrossed_1
theorem dksX4_isCrossed_0 : cX4_isCrossed.data.toList.drop 0 = dktX4_isCrossed_0 := by decide +kernel
theorem dksX4_isCrossed_1 : cX4_isCrossed.data.toList.drop 22 = dktX4_isCrossed_1 := dk_seg dksX4_isCrossed_0 22 rfl rfl
theorem dksX4_isCrossed_2 : cX4_isCrossed.data.toList.drop 46 = dktX4_isCrossed_2 := dk_seg dksX4_isCrossed_1 24 rfl rfl
theorem dksX4_isCrossed_3 : cX4_isCrossed.data.toList.drop 68 = dktX4_isCrossed_3 := dk_seg dksX4_isCrossed_2 22 rfl rfl
theorem dksX4_isCrossed_4 : cX4_isCrossed.data.toList.drop 90 = dktX4_isCrossed_4 := dk_seg dksX4_isCrossed_3 22 rfl rfl
theorem dksX4_isCrossed_5 : cX4_isCrossed.data.toList.drop 114 = dktX4_isCrossed_5 := dk_seg dksX4_isCrossed_4 24 rfl rfl
theorem dX4_isCrossed_0 : decode cX4_isCrossed 0 = .ok (.iconst 0, 1) := dk_3 (dk_at dksX4_isCrossed_0 0 rfl rfl)
theorem dX4_isCrossed_1 : decode cX4_isCrossed 1 = .ok (.istore 5, 2) := dk_54 5 (dk_at dksX4_isCrossed_0 1 rfl rfl)
theorem dX4_isCrossed_3 : decode cX4_isCrossed 3 = .ok (.iload 5, 2) := dk_21 5 (dk_at dksX4_isCrossed_0 3 rfl rfl)
theorem dX4_isCrossed_5 : decode cX4_isCrossed 5 = .ok (.aload_n 0, 1) := dk_42 (dk_at dksX4_isCrossed_0 5 rfl rfl)
theorem dX4_isCrossed_6 : decode cX4_isCrossed 6 = .ok (.getfield 17, 3) := dk_180 0 17 (dk_at dksX4_isCrossed_0 6 rfl rfl)
theorem dX4_isCrossed_9 : decode cX4_isCrossed 9 = .ok (.iconst 3, 1) := dk_6 (dk_at dksX4_isCrossed_0 9 rfl rfl)
theorem dX4_isCrossed_10 : decode cX4_isCrossed 10 = .ok (.iaload, 1) := dk_46 (dk_at dksX4_isCrossed_0 10 rfl rfl)
theorem dX4_isCrossed_11 : decode cX4_isCrossed 11 = .ok (.if_icmp .ge 116, 3) := dk_162 0 116 (dk_at dksX4_isCrossed_0 11 rfl rfl)
theorem dX4_isCrossed_14 : decode cX4_isCrossed 14 = .ok (.iconst 0, 1) := dk_3 (dk_at dksX4_isCrossed_0 14 rfl rfl)
theorem dX4_isCrossed_15 : decode cX4_isCrossed 15 = .ok (.istore 6, 2) := dk_54 6 (dk_at dksX4_isCrossed_0 15 rfl rfl)
theorem dX4_isCrossed_17 : decode cX4_isCrossed 17 = .ok (.iload 6, 2) := dk_21 6 (dk_at dksX4_isCrossed_0 17 rfl rfl)
theorem dX4_isCrossed_19 : decode cX4_isCrossed 19 = .ok (.aload_n 0, 1) := dk_42 (dk_at dksX4_isCrossed_0 19 rfl rfl)
theorem dX4_isCrossed_20 : decode cX4_isCrossed 20 = .ok (.iload 5, 2) := dk_21 5 (dk_at dksX4_isCrossed_0 20 rfl rfl)
theorem dX4_isCrossed_22 : decode cX4_isCrossed 22 = .ok (.invokevirtual 81, 3) := dk_182 0 81 (dk_at dksX4_isCrossed_1 0 rfl rfl)
theorem dX4_isCrossed_25 : decode cX4_isCrossed 25 = .ok (.if_icmp .ge 96, 3) := dk_162 0 96 (dk_at dksX4_isCrossed_1 3 rfl rfl)
theorem dX4_isCrossed_28 : decode cX4_isCrossed 28 = .ok (.iload 5, 2) := dk_21 5 (dk_at dksX4_isCrossed_1 6 rfl rfl)
theorem dX4_isCrossed_30 : decode cX4_isCrossed 30 = .ok (.aload_n 0, 1) := dk_42 (dk_at dksX4_isCrossed_1 8 rfl rfl)
theorem dX4_isCrossed_31 : decode cX4_isCrossed 31 = .ok (.getfield 87, 3) := dk_180 0 87 (dk_at dksX4_isCrossed_1 9 rfl rfl)
theorem dX4_isCrossed_34 : decode cX4_isCrossed 34 = .ok (.if_icmp .ne 24, 3) := dk_160 0 24 (dk_at dksX4_isCrossed_1 12 rfl rfl)
theorem dX4_isCrossed_37 : decode cX4_isCrossed 37 = .ok (.iload 6, 2) := dk_21 6 (dk_at dksX4_isCrossed_1 15 rfl rfl)
theorem dX4_isCrossed_39 : decode cX4_isCrossed 39 = .ok (.aload_n 0, 1) := dk_42 (dk_at dksX4_isCrossed_1 17 rfl rfl)
theorem dX4_isCrossed_40 : decode cX4_isCrossed 40 = .ok (.getfield 90, 3) := dk_180 0 90 (dk_at dksX4_isCrossed_1 18 rfl rfl)
theorem dX4_isCrossed_43 : decode cX4_isCrossed 43 = .ok (.if_icmp .eq 72, 3) := dk_159 0 72 (dk_at dksX4_isCrossed_1 21 rfl rfl)
theorem dX4_isCrossed_46 : decode cX4_isCrossed 46 = .ok (.iload 6, 2) := dk_21 6 (dk_at dksX4_isCrossed_2 0 rfl rfl)
theorem dX4_isCrossed_48 : decode cX4_isCrossed 48 = .ok (.aload_n 0, 1) := dk_42 (dk_at dksX4_isCrossed_2 2 rfl rfl)
theorem dX4_isCrossed_49 : decode cX4_isCrossed 49 = .ok (.getfield 93, 3) := dk_180 0 93 (dk_at dksX4_isCrossed_2 3 rfl rfl)
theorem dX4_isCrossed_52 : decode cX4_isCrossed 52 = .ok (.if_icmp .ne 6, 3) := dk_160 0 6 (dk_at dksX4_isCrossed_2 6 rfl rfl)
theorem dX4_isCrossed_55 : decode cX4_isCrossed 55 = .ok (.goto 60, 3) := dk_167 0 60 (dk_at dksX4_isCrossed_2 9 rfl rfl)
theorem dX4_isCrossed_58 : decode cX4_isCrossed 58 = .ok (.iload_n 1, 1) := dk_27 (dk_at dksX4_isCrossed_2 12 rfl rfl)
theorem dX4_isCrossed_59 : decode cX4_isCrossed 59 = .ok (.iload_n 2, 1) := dk_28 (dk_at dksX4_isCrossed_2 13 rfl rfl)
theorem dX4_isCrossed_60 : decode cX4_isCrossed 60 = .ok (.iload_n 3, 1) := dk_29 (dk_at dksX4_isCrossed_2 14 rfl rfl)
theorem dX4_isCrossed_61 : decode cX4_isCrossed 61 = .ok (.iload 4, 2) := dk_21 4 (dk_at dksX4_isCrossed_2 15 rfl rfl)
theorem dX4_isCrossed_63 : decode cX4_isCrossed 63 = .ok (.aload_n 0, 1) := dk_42 (dk_at dksX4_isCrossed_2 17 rfl rfl)
theorem dX4_isCrossed_64 : decode cX4_isCrossed 64 = .ok (.iload 5, 2) := dk_21 5 (dk_at dksX4_isCrossed_2 18 rfl rfl)
theorem dX4_isCrossed_66 : decode cX4_isCrossed 66 = .ok (.iload 6, 2) := dk_21 6 (dk_at dksX4_isCrossed_2 20 rfl rfl)
theorem dX4_isCrossed_68 : decode cX4_isCrossed 68 = .ok (.invokevirtual 72, 3) := dk_182 0 72 (dk_at dksX4_isCrossed_3 0 rfl rfl)
theorem dX4_isCrossed_71 : decode cX4_isCrossed 71 = .ok (.aload_n 0, 1) := dk_42 (dk_at dksX4_isCrossed_3 3 rfl rfl)
theorem dX4_isCrossed_72 : decode cX4_isCrossed 72 = .ok (.iload 5, 2) := dk_21 5 (dk_at dksX4_isCrossed_3 4 rfl rfl)
theorem dX4_isCrossed_74 : decode cX4_isCrossed 74 = .ok (.iload 6, 2) := dk_21 6 (dk_at dksX4_isCrossed_3 6 rfl rfl)
theorem dX4_isCrossed_76 : decode cX4_isCrossed 76 = .ok (.invokevirtual 75, 3) := dk_182 0 75 (dk_at dksX4_isCrossed_3 8 rfl rfl)
theorem dX4_isCrossed_79 : decode cX4_isCrossed 79 = .ok (.aload_n 0, 1) := dk_42 (dk_at dksX4_isCrossed_3 11 rfl rfl)
theorem dX4_isCrossed_80 : decode cX4_isCrossed 80 = .ok (.iload 5, 2) := dk_21 5 (dk_at dksX4_isCrossed_3 12 rfl rfl)
theorem dX4_isCrossed_82 : decode cX4_isCrossed 82 = .ok (.aload_n 0, 1) := dk_42 (dk_at dksX4_isCrossed_3 14 rfl rfl)
theorem dX4_isCrossed_83 : decode cX4_isCrossed 83 = .ok (.iload 5, 2) := dk_21 5 (dk_at dksX4_isCrossed_3 15 rfl rfl)
theorem dX4_isCrossed_85 : decode cX4_isCrossed 85 = .ok (.iload 6, 2) := dk_21 6 (dk_at dksX4_isCrossed_3 17 rfl rfl)
theorem dX4_isCrossed_87 : decode cX4_isCrossed 87 = .ok (.invokevirtual 84, 3) := dk_182 0 84 (dk_at dksX4_isCrossed_3 19 rfl rfl)
theorem dX4_isCrossed_90 : decode cX4_isCrossed 90 = .ok (.invokevirtual 72, 3) := dk_182 0 72 (dk_at dksX4_isCrossed_4 0 rfl rfl)
theorem dX4_isCrossed_93 : decode cX4_isCrossed 93 = .ok (.aload_n 0, 1) := dk_42 (dk_at dksX4_isCrossed_4 3 rfl rfl)
theorem dX4_isCrossed_94 : decode cX4_isCrossed 94 = .ok (.iload 5, 2) := dk_21 5 (dk_at dksX4_isCrossed_4 4 rfl rfl)
theorem dX4_isCrossed_96 : decode cX4_isCrossed 96 = .ok (.aload_n 0, 1) := dk_42 (dk_at dksX4_isCrossed_4 6 rfl rfl)
theorem dX4_isCrossed_97 : decode cX4_isCrossed 97 = .ok (.iload 5, 2) := dk_21 5 (dk_at dksX4_isCrossed_4 7 rfl rfl)
theorem dX4_isCrossed_99 : decode cX4_isCrossed 99 = .ok (.iload 6, 2) := dk_21 6 (dk_at dksX4_isCrossed_4 9 rfl rfl)
theorem dX4_isCrossed_101 : decode cX4_isCrossed 101 = .ok (.invokevirtual 84, 3) := dk_182 0 84 (dk_at dksX4_isCrossed_4 11 rfl rfl)
theorem dX4_isCrossed_104 : decode cX4_isCrossed 104 = .ok (.invokevirtual 75, 3) := dk_182 0 75 (dk_at dksX4_isCrossed_4 14 rfl rfl)
theorem dX4_isCrossed_107 : decode cX4_isCrossed 107 = .ok (.invokestatic 99, 3) := dk_184 0 99 (dk_at dksX4_isCrossed_4 17 rfl rfl)
theorem dX4_isCrossed_110 : decode cX4_isCrossed 110 = .ok (.ifCond .eq 5, 3) := dk_153 0 5 (dk_at dksX4_isCrossed_4 20 rfl rfl)
theorem dX4_isCrossed_113 : decode cX4_isCrossed 113 = .ok (.iconst 1, 1) := dk_4 (dk_at dksX4_isCrossed_4 23 rfl rfl)
theorem dX4_isCrossed_114 : decode cX4_isCrossed 114 = .ok (.ireturn, 1) := dk_172 (dk_at dksX4_isCrossed_5 0 rfl rfl)
theorem dX4_isCrossed_115 : decode cX4_isCrossed 115 = .ok (.iinc 6 1, 3) := dk_132 6 1 (dk_at dksX4_isCrossed_5 1 rfl rfl)
theorem dX4_isCrossed_118 : decode cX4_isCrossed 118 = .ok (.goto (-101), 3) := dk_167 255 155 (dk_at dksX4_isCrossed_5 4 rfl rfl)
theorem dX4_isCrossed_121 : decode cX4_isCrossed 121 = .ok (.iinc 5 1, 3) := dk_132 5 1 (dk_at dksX4_isCrossed_5 7 rfl rfl)
theorem dX4_isCrossed_124 : decode cX4_isCrossed 124 = .ok (.goto (-121), 3) := dk_167 255 135 (dk_at dksX4_isCrossed_5 10 rfl rfl)
theorem dX4_isCrossed_127 : decode cX4_isCrossed 127 = .ok (.iconst 0, 1) := dk_3 (dk_at dksX4_isCrossed_5 13 rfl rfl)
theorem dX4_isCrossed_128 : decode cX4_isCrossed 128 = .ok (.ireturn, 1) := dk_172 (dk_at dksX4_isCrossed_5 14 rfl rfl)
abbrev cX4_meet : ByteArray := prog_10_method_20_code
def yX4_meet : MethodName := ⟨RX4, "meet", "(IIIIIIII)Z"⟩
def dkwX4_meet_7 : List UInt8 := [160, 0, 13, 29, 21, 5, 160, 0, 7, 4, 167, 0, 4, 3, 172]
abbrev dktX4_meet_7 : List UInt8 := dkwX4_meet_7 ++ []
def dkwX4_meet_6 : List UInt8 := [160, 0, 9, 29, 21, 7, 159, 0, 27, 26, 21, 6, 160, 0, 25, 27, 21, 7, 160, 0, 19, 28, 21, 4]
abbrev dktX4_meet_6 : List UInt8 := dkwX4_meet_6 ++ dktX4_meet_7
def dkwX4_meet_5 : List UInt8 := [184, 0, 69, 153, 0, 5, 4, 172, 26, 21, 4, 160, 0, 21, 27, 21, 5, 160, 0, 15, 28, 21, 6]
abbrev dktX4_meet_5 : List UInt8 := dkwX4_meet_5 ++ dktX4_meet_6
def dkwX4_meet_4 : List UInt8 := [21, 5, 21, 6, 21, 7, 26, 27, 184, 0, 69, 154, 0, 19, 21, 4, 21, 5, 21, 6, 21, 7, 28, 29]
abbrev dktX4_meet_4 : List UInt8 := dkwX4_meet_4 ++ dktX4_meet_5
def dkwX4_meet_3 : List UInt8 := [21, 5, 184, 0, 69, 154, 0, 49, 26, 27, 28, 29, 21, 6, 21, 7, 184, 0, 69, 154, 0, 35, 21, 4]
abbrev dktX4_meet_3 : List UInt8 := dkwX4_meet_3 ++ dktX4_meet_4
def dkwX4_meet_2 : List UInt8 := [21, 6, 21, 7, 28, 29, 184, 0, 46, 184, 0, 65, 153, 0, 5, 4, 172, 26, 27, 28, 29, 21, 4]
abbrev dktX4_meet_2 : List UInt8 := dkwX4_meet_2 ++ dktX4_meet_3
def dkwX4_meet_1 : List UInt8 := [184, 0, 65, 153, 0, 37, 21, 4, 21, 5, 21, 6, 21, 7, 26, 27, 184, 0, 46, 21, 4, 21, 5]
abbrev dktX4_meet_1 : List UInt8 := dkwX4_meet_1 ++ dktX4_meet_2
def dkwX4_meet_0 : List UInt8 := [26, 27, 28, 29, 21, 4, 21, 5, 184, 0, 46, 26, 27, 28, 29, 21, 6, 21, 7, 184, 0, 46]
abbrev dktX4_meet_0 : List UInt8 := dkwX4_meet_0 ++ dktX4_meet_1
theorem dksX4_meet_0 : cX4_meet.data.toList.drop 0 = dktX4_meet_0 := by decide +kernel
theorem dksX4_meet_1 : cX4_meet.data.toList.drop 22 = dktX4_meet_1 := dk_seg dksX4_meet_0 22 rfl rfl
theorem dksX4_meet_2 : cX4_meet.data.toList.drop 45 = dktX4_meet_2 := dk_seg dksX4_meet_1 23 rfl rfl
theorem dksX4_meet_3 : cX4_meet.data.toList.drop 68 = dktX4_meet_3 := dk_seg dksX4_meet_2 23 rfl rfl
theorem dksX4_meet_4 : cX4_meet.data.toList.drop 92 = dktX4_meet_4 := dk_seg dksX4_meet_3 24 rfl rfl
theorem dksX4_meet_5 : cX4_meet.data.toList.drop 116 = dktX4_meet_5 := dk_seg dksX4_meet_4 24 rfl rfl
theorem dksX4_meet_6 : cX4_meet.data.toList.drop 139 = dktX4_meet_6 := dk_seg dksX4_meet_5 23 rfl rfl
theorem dksX4_meet_7 : cX4_meet.data.toList.drop 163 = dktX4_meet_7 := dk_seg dksX4_meet_6 24 rfl rfl
theorem dX4_meet_0 : decode cX4_meet 0 = .ok (.iload_n 0, 1) := dk_26 (dk_at dksX4_meet_0 0 rfl rfl)
theorem dX4_meet_1 : decode cX4_meet 1 = .ok (.iload_n 1, 1) := dk_27 (dk_at dksX4_meet_0 1 rfl rfl)
theorem dX4_meet_2 : decode cX4_meet 2 = .ok (.iload_n 2, 1) := dk_28 (dk_at dksX4_meet_0 2 rfl rfl)
theorem dX4_meet_3 : decode cX4_meet 3 = .ok (.iload_n 3, 1) := dk_29 (dk_at dksX4_meet_0 3 rfl rfl)
theorem dX4_meet_4 : decode cX4_meet 4 = .ok (.iload 4, 2) := dk_21 4 (dk_at dksX4_meet_0 4 rfl rfl)
theorem dX4_meet_6 : decode cX4_meet 6 = .ok (.iload 5, 2) := dk_21 5 (dk_at dksX4_meet_0 6 rfl rfl)
theorem dX4_meet_8 : decode cX4_meet 8 = .ok (.invokestatic 46, 3) := dk_184 0 46 (dk_at dksX4_meet_0 8 rfl rfl)
theorem dX4_meet_11 : decode cX4_meet 11 = .ok (.iload_n 0, 1) := dk_26 (dk_at dksX4_meet_0 11 rfl rfl)
theorem dX4_meet_12 : decode cX4_meet 12 = .ok (.iload_n 1, 1) := dk_27 (dk_at dksX4_meet_0 12 rfl rfl)
theorem dX4_meet_13 : decode cX4_meet 13 = .ok (.iload_n 2, 1) := dk_28 (dk_at dksX4_meet_0 13 rfl rfl)
theorem dX4_meet_14 : decode cX4_meet 14 = .ok (.iload_n 3, 1) := dk_29 (dk_at dksX4_meet_0 14 rfl rfl)
theorem dX4_meet_15 : decode cX4_meet 15 = .ok (.iload 6, 2) := dk_21 6 (dk_at dksX4_meet_0 15 rfl rfl)
theorem dX4_meet_17 : decode cX4_meet 17 = .ok (.iload 7, 2) := dk_21 7 (dk_at dksX4_meet_0 17 rfl rfl)
theorem dX4_meet_19 : decode cX4_meet 19 = .ok (.invokestatic 46, 3) := dk_184 0 46 (dk_at dksX4_meet_0 19 rfl rfl)
theorem dX4_meet_22 : decode cX4_meet 22 = .ok (.invokestatic 65, 3) := dk_184 0 65 (dk_at dksX4_meet_1 0 rfl rfl)
theorem dX4_meet_25 : decode cX4_meet 25 = .ok (.ifCond .eq 37, 3) := dk_153 0 37 (dk_at dksX4_meet_1 3 rfl rfl)
theorem dX4_meet_28 : decode cX4_meet 28 = .ok (.iload 4, 2) := dk_21 4 (dk_at dksX4_meet_1 6 rfl rfl)
theorem dX4_meet_30 : decode cX4_meet 30 = .ok (.iload 5, 2) := dk_21 5 (dk_at dksX4_meet_1 8 rfl rfl)
theorem dX4_meet_32 : decode cX4_meet 32 = .ok (.iload 6, 2) := dk_21 6 (dk_at dksX4_meet_1 10 rfl rfl)
theorem dX4_meet_34 : decode cX4_meet 34 = .ok (.iload 7, 2) := dk_21 7 (dk_at dksX4_meet_1 12 rfl rfl)
theorem dX4_meet_36 : decode cX4_meet 36 = .ok (.iload_n 0, 1) := dk_26 (dk_at dksX4_meet_1 14 rfl rfl)
theorem dX4_meet_37 : decode cX4_meet 37 = .ok (.iload_n 1, 1) := dk_27 (dk_at dksX4_meet_1 15 rfl rfl)
theorem dX4_meet_38 : decode cX4_meet 38 = .ok (.invokestatic 46, 3) := dk_184 0 46 (dk_at dksX4_meet_1 16 rfl rfl)
theorem dX4_meet_41 : decode cX4_meet 41 = .ok (.iload 4, 2) := dk_21 4 (dk_at dksX4_meet_1 19 rfl rfl)
theorem dX4_meet_43 : decode cX4_meet 43 = .ok (.iload 5, 2) := dk_21 5 (dk_at dksX4_meet_1 21 rfl rfl)
theorem dX4_meet_45 : decode cX4_meet 45 = .ok (.iload 6, 2) := dk_21 6 (dk_at dksX4_meet_2 0 rfl rfl)
theorem dX4_meet_47 : decode cX4_meet 47 = .ok (.iload 7, 2) := dk_21 7 (dk_at dksX4_meet_2 2 rfl rfl)
theorem dX4_meet_49 : decode cX4_meet 49 = .ok (.iload_n 2, 1) := dk_28 (dk_at dksX4_meet_2 4 rfl rfl)
theorem dX4_meet_50 : decode cX4_meet 50 = .ok (.iload_n 3, 1) := dk_29 (dk_at dksX4_meet_2 5 rfl rfl)
theorem dX4_meet_51 : decode cX4_meet 51 = .ok (.invokestatic 46, 3) := dk_184 0 46 (dk_at dksX4_meet_2 6 rfl rfl)
theorem dX4_meet_54 : decode cX4_meet 54 = .ok (.invokestatic 65, 3) := dk_184 0 65 (dk_at dksX4_meet_2 9 rfl rfl)
theorem dX4_meet_57 : decode cX4_meet 57 = .ok (.ifCond .eq 5, 3) := dk_153 0 5 (dk_at dksX4_meet_2 12 rfl rfl)
theorem dX4_meet_60 : decode cX4_meet 60 = .ok (.iconst 1, 1) := dk_4 (dk_at dksX4_meet_2 15 rfl rfl)
theorem dX4_meet_61 : decode cX4_meet 61 = .ok (.ireturn, 1) := dk_172 (dk_at dksX4_meet_2 16 rfl rfl)
theorem dX4_meet_62 : decode cX4_meet 62 = .ok (.iload_n 0, 1) := dk_26 (dk_at dksX4_meet_2 17 rfl rfl)
theorem dX4_meet_63 : decode cX4_meet 63 = .ok (.iload_n 1, 1) := dk_27 (dk_at dksX4_meet_2 18 rfl rfl)
theorem dX4_meet_64 : decode cX4_meet 64 = .ok (.iload_n 2, 1) := dk_28 (dk_at dksX4_meet_2 19 rfl rfl)
theorem dX4_meet_65 : decode cX4_meet 65 = .ok (.iload_n 3, 1) := dk_29 (dk_at dksX4_meet_2 20 rfl rfl)
theorem dX4_meet_66 : decode cX4_meet 66 = .ok (.iload 4, 2) := dk_21 4 (dk_at dksX4_meet_2 21 rfl rfl)
theorem dX4_meet_68 : decode cX4_meet 68 = .ok (.iload 5, 2) := dk_21 5 (dk_at dksX4_meet_3 0 rfl rfl)
theorem dX4_meet_70 : decode cX4_meet 70 = .ok (.invokestatic 69, 3) := dk_184 0 69 (dk_at dksX4_meet_3 2 rfl rfl)
theorem dX4_meet_73 : decode cX4_meet 73 = .ok (.ifCond .ne 49, 3) := dk_154 0 49 (dk_at dksX4_meet_3 5 rfl rfl)
theorem dX4_meet_76 : decode cX4_meet 76 = .ok (.iload_n 0, 1) := dk_26 (dk_at dksX4_meet_3 8 rfl rfl)
theorem dX4_meet_77 : decode cX4_meet 77 = .ok (.iload_n 1, 1) := dk_27 (dk_at dksX4_meet_3 9 rfl rfl)
theorem dX4_meet_78 : decode cX4_meet 78 = .ok (.iload_n 2, 1) := dk_28 (dk_at dksX4_meet_3 10 rfl rfl)
theorem dX4_meet_79 : decode cX4_meet 79 = .ok (.iload_n 3, 1) := dk_29 (dk_at dksX4_meet_3 11 rfl rfl)
theorem dX4_meet_80 : decode cX4_meet 80 = .ok (.iload 6, 2) := dk_21 6 (dk_at dksX4_meet_3 12 rfl rfl)
theorem dX4_meet_82 : decode cX4_meet 82 = .ok (.iload 7, 2) := dk_21 7 (dk_at dksX4_meet_3 14 rfl rfl)
theorem dX4_meet_84 : decode cX4_meet 84 = .ok (.invokestatic 69, 3) := dk_184 0 69 (dk_at dksX4_meet_3 16 rfl rfl)
theorem dX4_meet_87 : decode cX4_meet 87 = .ok (.ifCond .ne 35, 3) := dk_154 0 35 (dk_at dksX4_meet_3 19 rfl rfl)
theorem dX4_meet_90 : decode cX4_meet 90 = .ok (.iload 4, 2) := dk_21 4 (dk_at dksX4_meet_3 22 rfl rfl)
theorem dX4_meet_92 : decode cX4_meet 92 = .ok (.iload 5, 2) := dk_21 5 (dk_at dksX4_meet_4 0 rfl rfl)
theorem dX4_meet_94 : decode cX4_meet 94 = .ok (.iload 6, 2) := dk_21 6 (dk_at dksX4_meet_4 2 rfl rfl)
theorem dX4_meet_96 : decode cX4_meet 96 = .ok (.iload 7, 2) := dk_21 7 (dk_at dksX4_meet_4 4 rfl rfl)
theorem dX4_meet_98 : decode cX4_meet 98 = .ok (.iload_n 0, 1) := dk_26 (dk_at dksX4_meet_4 6 rfl rfl)
theorem dX4_meet_99 : decode cX4_meet 99 = .ok (.iload_n 1, 1) := dk_27 (dk_at dksX4_meet_4 7 rfl rfl)
theorem dX4_meet_100 : decode cX4_meet 100 = .ok (.invokestatic 69, 3) := dk_184 0 69 (dk_at dksX4_meet_4 8 rfl rfl)
theorem dX4_meet_103 : decode cX4_meet 103 = .ok (.ifCond .ne 19, 3) := dk_154 0 19 (dk_at dksX4_meet_4 11 rfl rfl)
theorem dX4_meet_106 : decode cX4_meet 106 = .ok (.iload 4, 2) := dk_21 4 (dk_at dksX4_meet_4 14 rfl rfl)
theorem dX4_meet_108 : decode cX4_meet 108 = .ok (.iload 5, 2) := dk_21 5 (dk_at dksX4_meet_4 16 rfl rfl)
theorem dX4_meet_110 : decode cX4_meet 110 = .ok (.iload 6, 2) := dk_21 6 (dk_at dksX4_meet_4 18 rfl rfl)
theorem dX4_meet_112 : decode cX4_meet 112 = .ok (.iload 7, 2) := dk_21 7 (dk_at dksX4_meet_4 20 rfl rfl)
theorem dX4_meet_114 : decode cX4_meet 114 = .ok (.iload_n 2, 1) := dk_28 (dk_at dksX4_meet_4 22 rfl rfl)
theorem dX4_meet_115 : decode cX4_meet 115 = .ok (.iload_n 3, 1) := dk_29 (dk_at dksX4_meet_4 23 rfl rfl)
theorem dX4_meet_116 : decode cX4_meet 116 = .ok (.invokestatic 69, 3) := dk_184 0 69 (dk_at dksX4_meet_5 0 rfl rfl)
theorem dX4_meet_119 : decode cX4_meet 119 = .ok (.ifCond .eq 5, 3) := dk_153 0 5 (dk_at dksX4_meet_5 3 rfl rfl)
theorem dX4_meet_122 : decode cX4_meet 122 = .ok (.iconst 1, 1) := dk_4 (dk_at dksX4_meet_5 6 rfl rfl)
theorem dX4_meet_123 : decode cX4_meet 123 = .ok (.ireturn, 1) := dk_172 (dk_at dksX4_meet_5 7 rfl rfl)
theorem dX4_meet_124 : decode cX4_meet 124 = .ok (.iload_n 0, 1) := dk_26 (dk_at dksX4_meet_5 8 rfl rfl)
theorem dX4_meet_125 : decode cX4_meet 125 = .ok (.iload 4, 2) := dk_21 4 (dk_at dksX4_meet_5 9 rfl rfl)
theorem dX4_meet_127 : decode cX4_meet 127 = .ok (.if_icmp .ne 21, 3) := dk_160 0 21 (dk_at dksX4_meet_5 11 rfl rfl)
theorem dX4_meet_130 : decode cX4_meet 130 = .ok (.iload_n 1, 1) := dk_27 (dk_at dksX4_meet_5 14 rfl rfl)
theorem dX4_meet_131 : decode cX4_meet 131 = .ok (.iload 5, 2) := dk_21 5 (dk_at dksX4_meet_5 15 rfl rfl)
theorem dX4_meet_133 : decode cX4_meet 133 = .ok (.if_icmp .ne 15, 3) := dk_160 0 15 (dk_at dksX4_meet_5 17 rfl rfl)
theorem dX4_meet_136 : decode cX4_meet 136 = .ok (.iload_n 2, 1) := dk_28 (dk_at dksX4_meet_5 20 rfl rfl)
theorem dX4_meet_137 : decode cX4_meet 137 = .ok (.iload 6, 2) := dk_21 6 (dk_at dksX4_meet_5 21 rfl rfl)
theorem dX4_meet_139 : decode cX4_meet 139 = .ok (.if_icmp .ne 9, 3) := dk_160 0 9 (dk_at dksX4_meet_6 0 rfl rfl)
theorem dX4_meet_142 : decode cX4_meet 142 = .ok (.iload_n 3, 1) := dk_29 (dk_at dksX4_meet_6 3 rfl rfl)
theorem dX4_meet_143 : decode cX4_meet 143 = .ok (.iload 7, 2) := dk_21 7 (dk_at dksX4_meet_6 4 rfl rfl)
theorem dX4_meet_145 : decode cX4_meet 145 = .ok (.if_icmp .eq 27, 3) := dk_159 0 27 (dk_at dksX4_meet_6 6 rfl rfl)
theorem dX4_meet_148 : decode cX4_meet 148 = .ok (.iload_n 0, 1) := dk_26 (dk_at dksX4_meet_6 9 rfl rfl)
theorem dX4_meet_149 : decode cX4_meet 149 = .ok (.iload 6, 2) := dk_21 6 (dk_at dksX4_meet_6 10 rfl rfl)
theorem dX4_meet_151 : decode cX4_meet 151 = .ok (.if_icmp .ne 25, 3) := dk_160 0 25 (dk_at dksX4_meet_6 12 rfl rfl)
theorem dX4_meet_154 : decode cX4_meet 154 = .ok (.iload_n 1, 1) := dk_27 (dk_at dksX4_meet_6 15 rfl rfl)
theorem dX4_meet_155 : decode cX4_meet 155 = .ok (.iload 7, 2) := dk_21 7 (dk_at dksX4_meet_6 16 rfl rfl)
theorem dX4_meet_157 : decode cX4_meet 157 = .ok (.if_icmp .ne 19, 3) := dk_160 0 19 (dk_at dksX4_meet_6 18 rfl rfl)
theorem dX4_meet_160 : decode cX4_meet 160 = .ok (.iload_n 2, 1) := dk_28 (dk_at dksX4_meet_6 21 rfl rfl)
theorem dX4_meet_161 : decode cX4_meet 161 = .ok (.iload 4, 2) := dk_21 4 (dk_at dksX4_meet_6 22 rfl rfl)
theorem dX4_meet_163 : decode cX4_meet 163 = .ok (.if_icmp .ne 13, 3) := dk_160 0 13 (dk_at dksX4_meet_7 0 rfl rfl)
theorem dX4_meet_166 : decode cX4_meet 166 = .ok (.iload_n 3, 1) := dk_29 (dk_at dksX4_meet_7 3 rfl rfl)
theorem dX4_meet_167 : decode cX4_meet 167 = .ok (.iload 5, 2) := dk_21 5 (dk_at dksX4_meet_7 4 rfl rfl)
theorem dX4_meet_169 : decode cX4_meet 169 = .ok (.if_icmp .ne 7, 3) := dk_160 0 7 (dk_at dksX4_meet_7 6 rfl rfl)
theorem dX4_meet_172 : decode cX4_meet 172 = .ok (.iconst 1, 1) := dk_4 (dk_at dksX4_meet_7 9 rfl rfl)
theorem dX4_meet_173 : decode cX4_meet 173 = .ok (.goto 4, 3) := dk_167 0 4 (dk_at dksX4_meet_7 10 rfl rfl)
theorem dX4_meet_176 : decode cX4_meet 176 = .ok (.iconst 0, 1) := dk_3 (dk_at dksX4_meet_7 13 rfl rfl)
theorem dX4_meet_177 : decode cX4_meet 177 = .ok (.ireturn, 1) := dk_172 (dk_at dksX4_meet_7 14 rfl rfl)
abbrev cX4_areApart : ByteArray := prog_10_method_19_code
def yX4_areApart : MethodName := ⟨RX4, "areApart", "(II)Z"⟩
def dkwX4_areApart_0 : List UInt8 := [26, 156, 0, 7, 27, 157, 0, 11, 26, 158, 0, 11, 27, 156, 0, 7, 4, 167, 0, 4, 3, 172]
abbrev dktX4_areApart_0 : List UInt8 := dkwX4_areApart_0 ++ []
theorem dksX4_areApart_0 : cX4_areApart.data.toList.drop 0 = dktX4_areApart_0 := by decide +kernel
theorem dX4_areApart_0 : decode cX4_areApart 0 = .ok (.iload_n 0, 1) := dk_26 (dk_at dksX4_areApart_0 0 rfl rfl)
theorem dX4_areApart_1 : decode cX4_areApart 1 = .ok (.ifCond .ge 7, 3) := dk_156 0 7 (dk_at dksX4_areApart_0 1 rfl rfl)
theorem dX4_areApart_4 : decode cX4_areApart 4 = .ok (.iload_n 1, 1) := dk_27 (dk_at dksX4_areApart_0 4 rfl rfl)
theorem dX4_areApart_5 : decode cX4_areApart 5 = .ok (.ifCond .gt 11, 3) := dk_157 0 11 (dk_at dksX4_areApart_0 5 rfl rfl)
theorem dX4_areApart_8 : decode cX4_areApart 8 = .ok (.iload_n 0, 1) := dk_26 (dk_at dksX4_areApart_0 8 rfl rfl)
theorem dX4_areApart_9 : decode cX4_areApart 9 = .ok (.ifCond .le 11, 3) := dk_158 0 11 (dk_at dksX4_areApart_0 9 rfl rfl)
theorem dX4_areApart_12 : decode cX4_areApart 12 = .ok (.iload_n 1, 1) := dk_27 (dk_at dksX4_areApart_0 12 rfl rfl)
theorem dX4_areApart_13 : decode cX4_areApart 13 = .ok (.ifCond .ge 7, 3) := dk_156 0 7 (dk_at dksX4_areApart_0 13 rfl rfl)
theorem dX4_areApart_16 : decode cX4_areApart 16 = .ok (.iconst 1, 1) := dk_4 (dk_at dksX4_areApart_0 16 rfl rfl)
theorem dX4_areApart_17 : decode cX4_areApart 17 = .ok (.goto 4, 3) := dk_167 0 4 (dk_at dksX4_areApart_0 17 rfl rfl)
theorem dX4_areApart_20 : decode cX4_areApart 20 = .ok (.iconst 0, 1) := dk_3 (dk_at dksX4_areApart_0 20 rfl rfl)
theorem dX4_areApart_21 : decode cX4_areApart 21 = .ok (.ireturn, 1) := dk_172 (dk_at dksX4_areApart_0 21 rfl rfl)
abbrev cX4_closeReason : ByteArray := prog_10_method_29_code
def yX4_closeReason : MethodName := ⟨RX4, "closeReason", "(I)I"⟩
def dkwX4_closeReason_2 : List UInt8 := [182, 0, 75, 42, 27, 3, 182, 0, 72, 42, 27, 3, 182, 0, 75, 182, 0, 117, 172]
abbrev dktX4_closeReason_2 : List UInt8 := dkwX4_closeReason_2 ++ []
def dkwX4_closeReason_1 : List UInt8 := [2, 2, 2, 182, 0, 113, 42, 27, 182, 0, 39, 4, 100, 61, 42, 42, 27, 28, 182, 0, 72, 42, 27, 28]
abbrev dktX4_closeReason_1 : List UInt8 := dkwX4_closeReason_1 ++ dktX4_closeReason_2
def dkwX4_closeReason_0 : List UInt8 := [42, 27, 182, 0, 42, 153, 0, 5, 4, 172, 42, 27, 182, 0, 39, 6, 162, 0, 6, 16, 6, 172, 42, 2]
abbrev dktX4_closeReason_0 : List UInt8 := dkwX4_closeReason_0 ++ dktX4_closeReason_1
theorem dksX4_closeReason_0 : cX4_closeReason.data.toList.drop 0 = dktX4_closeReason_0 := by decide +kernel
theorem dksX4_closeReason_1 : cX4_closeReason.data.toList.drop 24 = dktX4_closeReason_1 := dk_seg dksX4_closeReason_0 24 rfl rfl
theorem dksX4_closeReason_2 : cX4_closeReason.data.toList.drop 48 = dktX4_closeReason_2 := dk_seg dksX4_closeReason_1 24 rfl rfl
theorem dX4_closeReason_0 : decode cX4_closeReason 0 = .ok (.aload_n 0, 1) := dk_42 (dk_at dksX4_closeReason_0 0 rfl rfl)
theorem dX4_closeReason_1 : decode cX4_closeReason 1 = .ok (.iload_n 1, 1) := dk_27 (dk_at dksX4_closeReason_0 1 rfl rfl)
theorem dX4_closeReason_2 : decode cX4_closeReason 2 = .ok (.invokevirtual 42, 3) := dk_182 0 42 (dk_at dksX4_closeReason_0 2 rfl rfl)
theorem dX4_closeReason_5 : decode cX4_closeReason 5 = .ok (.ifCond .eq 5, 3) := dk_153 0 5 (dk_at dksX4_closeReason_0 5 rfl rfl)
theorem dX4_closeReason_8 : decode cX4_closeReason 8 = .ok (.iconst 1, 1) := dk_4 (dk_at dksX4_closeReason_0 8 rfl rfl)
theorem dX4_closeReason_9 : decode cX4_closeReason 9 = .ok (.ireturn, 1) := dk_172 (dk_at dksX4_closeReason_0 9 rfl rfl)
theorem dX4_closeReason_10 : decode cX4_closeReason 10 = .ok (.aload_n 0, 1) := dk_42 (dk_at dksX4_closeReason_0 10 rfl rfl)
theorem dX4_closeReason_11 : decode cX4_closeReason 11 = .ok (.iload_n 1, 1) := dk_27 (dk_at dksX4_closeReason_0 11 rfl rfl)
theorem dX4_closeReason_12 : decode cX4_closeReason 12 = .ok (.invokevirtual 39, 3) := dk_182 0 39 (dk_at dksX4_closeReason_0 12 rfl rfl)
theorem dX4_closeReason_15 : decode cX4_closeReason 15 = .ok (.iconst 3, 1) := dk_6 (dk_at dksX4_closeReason_0 15 rfl rfl)
theorem dX4_closeReason_16 : decode cX4_closeReason 16 = .ok (.if_icmp .ge 6, 3) := dk_162 0 6 (dk_at dksX4_closeReason_0 16 rfl rfl)
theorem dX4_closeReason_19 : decode cX4_closeReason 19 = .ok (.bipush 6, 2) := dk_16 6 (dk_at dksX4_closeReason_0 19 rfl rfl)
theorem dX4_closeReason_21 : decode cX4_closeReason 21 = .ok (.ireturn, 1) := dk_172 (dk_at dksX4_closeReason_0 21 rfl rfl)
theorem dX4_closeReason_22 : decode cX4_closeReason 22 = .ok (.aload_n 0, 1) := dk_42 (dk_at dksX4_closeReason_0 22 rfl rfl)
theorem dX4_closeReason_23 : decode cX4_closeReason 23 = .ok (.iconst (-1), 1) := dk_2 (dk_at dksX4_closeReason_0 23 rfl rfl)
theorem dX4_closeReason_24 : decode cX4_closeReason 24 = .ok (.iconst (-1), 1) := dk_2 (dk_at dksX4_closeReason_1 0 rfl rfl)
theorem dX4_closeReason_25 : decode cX4_closeReason 25 = .ok (.iconst (-1), 1) := dk_2 (dk_at dksX4_closeReason_1 1 rfl rfl)
theorem dX4_closeReason_26 : decode cX4_closeReason 26 = .ok (.iconst (-1), 1) := dk_2 (dk_at dksX4_closeReason_1 2 rfl rfl)
theorem dX4_closeReason_27 : decode cX4_closeReason 27 = .ok (.invokevirtual 113, 3) := dk_182 0 113 (dk_at dksX4_closeReason_1 3 rfl rfl)
theorem dX4_closeReason_30 : decode cX4_closeReason 30 = .ok (.aload_n 0, 1) := dk_42 (dk_at dksX4_closeReason_1 6 rfl rfl)
theorem dX4_closeReason_31 : decode cX4_closeReason 31 = .ok (.iload_n 1, 1) := dk_27 (dk_at dksX4_closeReason_1 7 rfl rfl)
theorem dX4_closeReason_32 : decode cX4_closeReason 32 = .ok (.invokevirtual 39, 3) := dk_182 0 39 (dk_at dksX4_closeReason_1 8 rfl rfl)
theorem dX4_closeReason_35 : decode cX4_closeReason 35 = .ok (.iconst 1, 1) := dk_4 (dk_at dksX4_closeReason_1 11 rfl rfl)
theorem dX4_closeReason_36 : decode cX4_closeReason 36 = .ok (.isub, 1) := dk_100 (dk_at dksX4_closeReason_1 12 rfl rfl)
theorem dX4_closeReason_37 : decode cX4_closeReason 37 = .ok (.istore_n 2, 1) := dk_61 (dk_at dksX4_closeReason_1 13 rfl rfl)
theorem dX4_closeReason_38 : decode cX4_closeReason 38 = .ok (.aload_n 0, 1) := dk_42 (dk_at dksX4_closeReason_1 14 rfl rfl)
theorem dX4_closeReason_39 : decode cX4_closeReason 39 = .ok (.aload_n 0, 1) := dk_42 (dk_at dksX4_closeReason_1 15 rfl rfl)
theorem dX4_closeReason_40 : decode cX4_closeReason 40 = .ok (.iload_n 1, 1) := dk_27 (dk_at dksX4_closeReason_1 16 rfl rfl)
theorem dX4_closeReason_41 : decode cX4_closeReason 41 = .ok (.iload_n 2, 1) := dk_28 (dk_at dksX4_closeReason_1 17 rfl rfl)
theorem dX4_closeReason_42 : decode cX4_closeReason 42 = .ok (.invokevirtual 72, 3) := dk_182 0 72 (dk_at dksX4_closeReason_1 18 rfl rfl)
theorem dX4_closeReason_45 : decode cX4_closeReason 45 = .ok (.aload_n 0, 1) := dk_42 (dk_at dksX4_closeReason_1 21 rfl rfl)
theorem dX4_closeReason_46 : decode cX4_closeReason 46 = .ok (.iload_n 1, 1) := dk_27 (dk_at dksX4_closeReason_1 22 rfl rfl)
theorem dX4_closeReason_47 : decode cX4_closeReason 47 = .ok (.iload_n 2, 1) := dk_28 (dk_at dksX4_closeReason_1 23 rfl rfl)
theorem dX4_closeReason_48 : decode cX4_closeReason 48 = .ok (.invokevirtual 75, 3) := dk_182 0 75 (dk_at dksX4_closeReason_2 0 rfl rfl)
theorem dX4_closeReason_51 : decode cX4_closeReason 51 = .ok (.aload_n 0, 1) := dk_42 (dk_at dksX4_closeReason_2 3 rfl rfl)
theorem dX4_closeReason_52 : decode cX4_closeReason 52 = .ok (.iload_n 1, 1) := dk_27 (dk_at dksX4_closeReason_2 4 rfl rfl)
theorem dX4_closeReason_53 : decode cX4_closeReason 53 = .ok (.iconst 0, 1) := dk_3 (dk_at dksX4_closeReason_2 5 rfl rfl)
theorem dX4_closeReason_54 : decode cX4_closeReason 54 = .ok (.invokevirtual 72, 3) := dk_182 0 72 (dk_at dksX4_closeReason_2 6 rfl rfl)
theorem dX4_closeReason_57 : decode cX4_closeReason 57 = .ok (.aload_n 0, 1) := dk_42 (dk_at dksX4_closeReason_2 9 rfl rfl)
theorem dX4_closeReason_58 : decode cX4_closeReason 58 = .ok (.iload_n 1, 1) := dk_27 (dk_at dksX4_closeReason_2 10 rfl rfl)
theorem dX4_closeReason_59 : decode cX4_closeReason 59 = .ok (.iconst 0, 1) := dk_3 (dk_at dksX4_closeReason_2 11 rfl rfl)
theorem dX4_closeReason_60 : decode cX4_closeReason 60 = .ok (.invokevirtual 75, 3) := dk_182 0 75 (dk_at dksX4_closeReason_2 12 rfl rfl)
theorem dX4_closeReason_63 : decode cX4_closeReason 63 = .ok (.invokevirtual 117, 3) := dk_182 0 117 (dk_at dksX4_closeReason_2 15 rfl rfl)
theorem dX4_closeReason_66 : decode cX4_closeReason 66 = .ok (.ireturn, 1) := dk_172 (dk_at dksX4_closeReason_2 18 rfl rfl)
abbrev cX4_once : ByteArray := prog_10_method_47_code
def yX4_once : MethodName := ⟨RX4, "once", "(II)V"⟩
def dkwX4_once_1 : List UInt8 := [4, 27, 120, 128, 181, 0, 209, 177]
abbrev dktX4_once_1 : List UInt8 := dkwX4_once_1 ++ []
def dkwX4_once_0 : List UInt8 := [42, 180, 0, 209, 27, 122, 4, 126, 4, 160, 0, 10, 42, 16, 254, 28, 182, 0, 162, 42, 89, 180, 0, 209]
abbrev dktX4_once_0 : List UInt8 := dkwX4_once_0 ++ dktX4_once_1
theorem dksX4_once_0 : cX4_once.data.toList.drop 0 = dktX4_once_0 := by decide +kernel
theorem dksX4_once_1 : cX4_once.data.toList.drop 24 = dktX4_once_1 := dk_seg dksX4_once_0 24 rfl rfl
theorem dX4_once_0 : decode cX4_once 0 = .ok (.aload_n 0, 1) := dk_42 (dk_at dksX4_once_0 0 rfl rfl)
theorem dX4_once_1 : decode cX4_once 1 = .ok (.getfield 209, 3) := dk_180 0 209 (dk_at dksX4_once_0 1 rfl rfl)
theorem dX4_once_4 : decode cX4_once 4 = .ok (.iload_n 1, 1) := dk_27 (dk_at dksX4_once_0 4 rfl rfl)
theorem dX4_once_5 : decode cX4_once 5 = .ok (.ishr, 1) := dk_122 (dk_at dksX4_once_0 5 rfl rfl)
theorem dX4_once_6 : decode cX4_once 6 = .ok (.iconst 1, 1) := dk_4 (dk_at dksX4_once_0 6 rfl rfl)
theorem dX4_once_7 : decode cX4_once 7 = .ok (.iand, 1) := dk_126 (dk_at dksX4_once_0 7 rfl rfl)
theorem dX4_once_8 : decode cX4_once 8 = .ok (.iconst 1, 1) := dk_4 (dk_at dksX4_once_0 8 rfl rfl)
theorem dX4_once_9 : decode cX4_once 9 = .ok (.if_icmp .ne 10, 3) := dk_160 0 10 (dk_at dksX4_once_0 9 rfl rfl)
theorem dX4_once_12 : decode cX4_once 12 = .ok (.aload_n 0, 1) := dk_42 (dk_at dksX4_once_0 12 rfl rfl)
theorem dX4_once_13 : decode cX4_once 13 = .ok (.bipush (-2), 2) := dk_16 254 (dk_at dksX4_once_0 13 rfl rfl)
theorem dX4_once_15 : decode cX4_once 15 = .ok (.iload_n 2, 1) := dk_28 (dk_at dksX4_once_0 15 rfl rfl)
theorem dX4_once_16 : decode cX4_once 16 = .ok (.invokevirtual 162, 3) := dk_182 0 162 (dk_at dksX4_once_0 16 rfl rfl)
theorem dX4_once_19 : decode cX4_once 19 = .ok (.aload_n 0, 1) := dk_42 (dk_at dksX4_once_0 19 rfl rfl)
theorem dX4_once_20 : decode cX4_once 20 = .ok (.dup, 1) := dk_89 (dk_at dksX4_once_0 20 rfl rfl)
theorem dX4_once_21 : decode cX4_once 21 = .ok (.getfield 209, 3) := dk_180 0 209 (dk_at dksX4_once_0 21 rfl rfl)
theorem dX4_once_24 : decode cX4_once 24 = .ok (.iconst 1, 1) := dk_4 (dk_at dksX4_once_1 0 rfl rfl)
theorem dX4_once_25 : decode cX4_once 25 = .ok (.iload_n 1, 1) := dk_27 (dk_at dksX4_once_1 1 rfl rfl)
theorem dX4_once_26 : decode cX4_once 26 = .ok (.ishl, 1) := dk_120 (dk_at dksX4_once_1 2 rfl rfl)
theorem dX4_once_27 : decode cX4_once 27 = .ok (.ior, 1) := dk_128 (dk_at dksX4_once_1 3 rfl rfl)
theorem dX4_once_28 : decode cX4_once 28 = .ok (.putfield 209, 3) := dk_181 0 209 (dk_at dksX4_once_1 4 rfl rfl)
theorem dX4_once_31 : decode cX4_once 31 = .ok (.return_, 1) := dk_177 (dk_at dksX4_once_1 7 rfl rfl)
abbrev cX4_sum : ByteArray := prog_10_method_46_code
def yX4_sum : MethodName := ⟨RX4, "sum", "()V"⟩
def dkwX4_sum_3 : List UInt8 := [182, 0, 200, 167, 255, 189, 177]
abbrev dktX4_sum_3 : List UInt8 := dkwX4_sum_3 ++ []
def dkwX4_sum_2 : List UInt8 := [180, 0, 133, 4, 96, 181, 0, 133, 42, 182, 0, 206, 42, 27, 153, 0, 7, 5, 167, 0, 4, 6]
abbrev dktX4_sum_2 : List UInt8 := dkwX4_sum_2 ++ dktX4_sum_3
def dkwX4_sum_1 : List UInt8 := [16, 45, 160, 0, 48, 42, 182, 0, 149, 16, 43, 160, 0, 7, 4, 167, 0, 4, 3, 60, 42, 89]
abbrev dktX4_sum_1 : List UInt8 := dkwX4_sum_1 ++ dktX4_sum_2
def dkwX4_sum_0 : List UInt8 := [42, 182, 0, 206, 42, 182, 0, 145, 153, 0, 66, 42, 182, 0, 149, 16, 43, 159, 0, 12, 42, 182, 0, 149]
abbrev dktX4_sum_0 : List UInt8 := dkwX4_sum_0 ++ dktX4_sum_1
theorem dksX4_sum_0 : cX4_sum.data.toList.drop 0 = dktX4_sum_0 := by decide +kernel
theorem dksX4_sum_1 : cX4_sum.data.toList.drop 24 = dktX4_sum_1 := dk_seg dksX4_sum_0 24 rfl rfl
theorem dksX4_sum_2 : cX4_sum.data.toList.drop 46 = dktX4_sum_2 := dk_seg dksX4_sum_1 22 rfl rfl
theorem dksX4_sum_3 : cX4_sum.data.toList.drop 68 = dktX4_sum_3 := dk_seg dksX4_sum_2 22 rfl rfl
theorem dX4_sum_0 : decode cX4_sum 0 = .ok (.aload_n 0, 1) := dk_42 (dk_at dksX4_sum_0 0 rfl rfl)
theorem dX4_sum_1 : decode cX4_sum 1 = .ok (.invokevirtual 206, 3) := dk_182 0 206 (dk_at dksX4_sum_0 1 rfl rfl)
theorem dX4_sum_4 : decode cX4_sum 4 = .ok (.aload_n 0, 1) := dk_42 (dk_at dksX4_sum_0 4 rfl rfl)
theorem dX4_sum_5 : decode cX4_sum 5 = .ok (.invokevirtual 145, 3) := dk_182 0 145 (dk_at dksX4_sum_0 5 rfl rfl)
theorem dX4_sum_8 : decode cX4_sum 8 = .ok (.ifCond .eq 66, 3) := dk_153 0 66 (dk_at dksX4_sum_0 8 rfl rfl)
theorem dX4_sum_11 : decode cX4_sum 11 = .ok (.aload_n 0, 1) := dk_42 (dk_at dksX4_sum_0 11 rfl rfl)
theorem dX4_sum_12 : decode cX4_sum 12 = .ok (.invokevirtual 149, 3) := dk_182 0 149 (dk_at dksX4_sum_0 12 rfl rfl)
theorem dX4_sum_15 : decode cX4_sum 15 = .ok (.bipush 43, 2) := dk_16 43 (dk_at dksX4_sum_0 15 rfl rfl)
theorem dX4_sum_17 : decode cX4_sum 17 = .ok (.if_icmp .eq 12, 3) := dk_159 0 12 (dk_at dksX4_sum_0 17 rfl rfl)
theorem dX4_sum_20 : decode cX4_sum 20 = .ok (.aload_n 0, 1) := dk_42 (dk_at dksX4_sum_0 20 rfl rfl)
theorem dX4_sum_21 : decode cX4_sum 21 = .ok (.invokevirtual 149, 3) := dk_182 0 149 (dk_at dksX4_sum_0 21 rfl rfl)
theorem dX4_sum_24 : decode cX4_sum 24 = .ok (.bipush 45, 2) := dk_16 45 (dk_at dksX4_sum_1 0 rfl rfl)
theorem dX4_sum_26 : decode cX4_sum 26 = .ok (.if_icmp .ne 48, 3) := dk_160 0 48 (dk_at dksX4_sum_1 2 rfl rfl)
theorem dX4_sum_29 : decode cX4_sum 29 = .ok (.aload_n 0, 1) := dk_42 (dk_at dksX4_sum_1 5 rfl rfl)
theorem dX4_sum_30 : decode cX4_sum 30 = .ok (.invokevirtual 149, 3) := dk_182 0 149 (dk_at dksX4_sum_1 6 rfl rfl)
theorem dX4_sum_33 : decode cX4_sum 33 = .ok (.bipush 43, 2) := dk_16 43 (dk_at dksX4_sum_1 9 rfl rfl)
theorem dX4_sum_35 : decode cX4_sum 35 = .ok (.if_icmp .ne 7, 3) := dk_160 0 7 (dk_at dksX4_sum_1 11 rfl rfl)
theorem dX4_sum_38 : decode cX4_sum 38 = .ok (.iconst 1, 1) := dk_4 (dk_at dksX4_sum_1 14 rfl rfl)
theorem dX4_sum_39 : decode cX4_sum 39 = .ok (.goto 4, 3) := dk_167 0 4 (dk_at dksX4_sum_1 15 rfl rfl)
theorem dX4_sum_42 : decode cX4_sum 42 = .ok (.iconst 0, 1) := dk_3 (dk_at dksX4_sum_1 18 rfl rfl)
theorem dX4_sum_43 : decode cX4_sum 43 = .ok (.istore_n 1, 1) := dk_60 (dk_at dksX4_sum_1 19 rfl rfl)
theorem dX4_sum_44 : decode cX4_sum 44 = .ok (.aload_n 0, 1) := dk_42 (dk_at dksX4_sum_1 20 rfl rfl)
theorem dX4_sum_45 : decode cX4_sum 45 = .ok (.dup, 1) := dk_89 (dk_at dksX4_sum_1 21 rfl rfl)
theorem dX4_sum_46 : decode cX4_sum 46 = .ok (.getfield 133, 3) := dk_180 0 133 (dk_at dksX4_sum_2 0 rfl rfl)
theorem dX4_sum_49 : decode cX4_sum 49 = .ok (.iconst 1, 1) := dk_4 (dk_at dksX4_sum_2 3 rfl rfl)
theorem dX4_sum_50 : decode cX4_sum 50 = .ok (.iadd, 1) := dk_96 (dk_at dksX4_sum_2 4 rfl rfl)
theorem dX4_sum_51 : decode cX4_sum 51 = .ok (.putfield 133, 3) := dk_181 0 133 (dk_at dksX4_sum_2 5 rfl rfl)
theorem dX4_sum_54 : decode cX4_sum 54 = .ok (.aload_n 0, 1) := dk_42 (dk_at dksX4_sum_2 8 rfl rfl)
theorem dX4_sum_55 : decode cX4_sum 55 = .ok (.invokevirtual 206, 3) := dk_182 0 206 (dk_at dksX4_sum_2 9 rfl rfl)
theorem dX4_sum_58 : decode cX4_sum 58 = .ok (.aload_n 0, 1) := dk_42 (dk_at dksX4_sum_2 12 rfl rfl)
theorem dX4_sum_59 : decode cX4_sum 59 = .ok (.iload_n 1, 1) := dk_27 (dk_at dksX4_sum_2 13 rfl rfl)
theorem dX4_sum_60 : decode cX4_sum 60 = .ok (.ifCond .eq 7, 3) := dk_153 0 7 (dk_at dksX4_sum_2 14 rfl rfl)
theorem dX4_sum_63 : decode cX4_sum 63 = .ok (.iconst 2, 1) := dk_5 (dk_at dksX4_sum_2 17 rfl rfl)
theorem dX4_sum_64 : decode cX4_sum 64 = .ok (.goto 4, 3) := dk_167 0 4 (dk_at dksX4_sum_2 18 rfl rfl)
theorem dX4_sum_67 : decode cX4_sum 67 = .ok (.iconst 3, 1) := dk_6 (dk_at dksX4_sum_2 21 rfl rfl)
theorem dX4_sum_68 : decode cX4_sum 68 = .ok (.invokevirtual 200, 3) := dk_182 0 200 (dk_at dksX4_sum_3 0 rfl rfl)
theorem dX4_sum_71 : decode cX4_sum 71 = .ok (.goto (-67), 3) := dk_167 255 189 (dk_at dksX4_sum_3 3 rfl rfl)
theorem dX4_sum_74 : decode cX4_sum 74 = .ok (.return_, 1) := dk_177 (dk_at dksX4_sum_3 6 rfl rfl)
abbrev cX4_term : ByteArray := prog_10_method_45_code
def yX4_term : MethodName := ⟨RX4, "term", "()V"⟩
def dkwX4_term_3 : List UInt8 := [182, 0, 200, 167, 255, 189, 177]
abbrev dktX4_term_3 : List UInt8 := dkwX4_term_3 ++ []
def dkwX4_term_2 : List UInt8 := [180, 0, 133, 4, 96, 181, 0, 133, 42, 182, 0, 203, 42, 27, 153, 0, 7, 7, 167, 0, 4, 8]
abbrev dktX4_term_2 : List UInt8 := dkwX4_term_2 ++ dktX4_term_3
def dkwX4_term_1 : List UInt8 := [16, 47, 160, 0, 48, 42, 182, 0, 149, 16, 42, 160, 0, 7, 4, 167, 0, 4, 3, 60, 42, 89]
abbrev dktX4_term_1 : List UInt8 := dkwX4_term_1 ++ dktX4_term_2
def dkwX4_term_0 : List UInt8 := [42, 182, 0, 203, 42, 182, 0, 145, 153, 0, 66, 42, 182, 0, 149, 16, 42, 159, 0, 12, 42, 182, 0, 149]
abbrev dktX4_term_0 : List UInt8 := dkwX4_term_0 ++ dktX4_term_1
theorem dksX4_term_0 : cX4_term.data.toList.drop 0 = dktX4_term_0 := by decide +kernel
theorem dksX4_term_1 : cX4_term.data.toList.drop 24 = dktX4_term_1 := dk_seg dksX4_term_0 24 rfl rfl
theorem dksX4_term_2 : cX4_term.data.toList.drop 46 = dktX4_term_2 := dk_seg dksX4_term_1 22 rfl rfl
theorem dksX4_term_3 : cX4_term.data.toList.drop 68 = dktX4_term_3 := dk_seg dksX4_term_2 22 rfl rfl
theorem dX4_term_0 : decode cX4_term 0 = .ok (.aload_n 0, 1) := dk_42 (dk_at dksX4_term_0 0 rfl rfl)
theorem dX4_term_1 : decode cX4_term 1 = .ok (.invokevirtual 203, 3) := dk_182 0 203 (dk_at dksX4_term_0 1 rfl rfl)
theorem dX4_term_4 : decode cX4_term 4 = .ok (.aload_n 0, 1) := dk_42 (dk_at dksX4_term_0 4 rfl rfl)
theorem dX4_term_5 : decode cX4_term 5 = .ok (.invokevirtual 145, 3) := dk_182 0 145 (dk_at dksX4_term_0 5 rfl rfl)
theorem dX4_term_8 : decode cX4_term 8 = .ok (.ifCond .eq 66, 3) := dk_153 0 66 (dk_at dksX4_term_0 8 rfl rfl)
theorem dX4_term_11 : decode cX4_term 11 = .ok (.aload_n 0, 1) := dk_42 (dk_at dksX4_term_0 11 rfl rfl)
theorem dX4_term_12 : decode cX4_term 12 = .ok (.invokevirtual 149, 3) := dk_182 0 149 (dk_at dksX4_term_0 12 rfl rfl)
theorem dX4_term_15 : decode cX4_term 15 = .ok (.bipush 42, 2) := dk_16 42 (dk_at dksX4_term_0 15 rfl rfl)
theorem dX4_term_17 : decode cX4_term 17 = .ok (.if_icmp .eq 12, 3) := dk_159 0 12 (dk_at dksX4_term_0 17 rfl rfl)
theorem dX4_term_20 : decode cX4_term 20 = .ok (.aload_n 0, 1) := dk_42 (dk_at dksX4_term_0 20 rfl rfl)
theorem dX4_term_21 : decode cX4_term 21 = .ok (.invokevirtual 149, 3) := dk_182 0 149 (dk_at dksX4_term_0 21 rfl rfl)
theorem dX4_term_24 : decode cX4_term 24 = .ok (.bipush 47, 2) := dk_16 47 (dk_at dksX4_term_1 0 rfl rfl)
theorem dX4_term_26 : decode cX4_term 26 = .ok (.if_icmp .ne 48, 3) := dk_160 0 48 (dk_at dksX4_term_1 2 rfl rfl)
theorem dX4_term_29 : decode cX4_term 29 = .ok (.aload_n 0, 1) := dk_42 (dk_at dksX4_term_1 5 rfl rfl)
theorem dX4_term_30 : decode cX4_term 30 = .ok (.invokevirtual 149, 3) := dk_182 0 149 (dk_at dksX4_term_1 6 rfl rfl)
theorem dX4_term_33 : decode cX4_term 33 = .ok (.bipush 42, 2) := dk_16 42 (dk_at dksX4_term_1 9 rfl rfl)
theorem dX4_term_35 : decode cX4_term 35 = .ok (.if_icmp .ne 7, 3) := dk_160 0 7 (dk_at dksX4_term_1 11 rfl rfl)
theorem dX4_term_38 : decode cX4_term 38 = .ok (.iconst 1, 1) := dk_4 (dk_at dksX4_term_1 14 rfl rfl)
theorem dX4_term_39 : decode cX4_term 39 = .ok (.goto 4, 3) := dk_167 0 4 (dk_at dksX4_term_1 15 rfl rfl)
theorem dX4_term_42 : decode cX4_term 42 = .ok (.iconst 0, 1) := dk_3 (dk_at dksX4_term_1 18 rfl rfl)
theorem dX4_term_43 : decode cX4_term 43 = .ok (.istore_n 1, 1) := dk_60 (dk_at dksX4_term_1 19 rfl rfl)
theorem dX4_term_44 : decode cX4_term 44 = .ok (.aload_n 0, 1) := dk_42 (dk_at dksX4_term_1 20 rfl rfl)
theorem dX4_term_45 : decode cX4_term 45 = .ok (.dup, 1) := dk_89 (dk_at dksX4_term_1 21 rfl rfl)
theorem dX4_term_46 : decode cX4_term 46 = .ok (.getfield 133, 3) := dk_180 0 133 (dk_at dksX4_term_2 0 rfl rfl)
theorem dX4_term_49 : decode cX4_term 49 = .ok (.iconst 1, 1) := dk_4 (dk_at dksX4_term_2 3 rfl rfl)
theorem dX4_term_50 : decode cX4_term 50 = .ok (.iadd, 1) := dk_96 (dk_at dksX4_term_2 4 rfl rfl)
theorem dX4_term_51 : decode cX4_term 51 = .ok (.putfield 133, 3) := dk_181 0 133 (dk_at dksX4_term_2 5 rfl rfl)
theorem dX4_term_54 : decode cX4_term 54 = .ok (.aload_n 0, 1) := dk_42 (dk_at dksX4_term_2 8 rfl rfl)
theorem dX4_term_55 : decode cX4_term 55 = .ok (.invokevirtual 203, 3) := dk_182 0 203 (dk_at dksX4_term_2 9 rfl rfl)
theorem dX4_term_58 : decode cX4_term 58 = .ok (.aload_n 0, 1) := dk_42 (dk_at dksX4_term_2 12 rfl rfl)
theorem dX4_term_59 : decode cX4_term 59 = .ok (.iload_n 1, 1) := dk_27 (dk_at dksX4_term_2 13 rfl rfl)
theorem dX4_term_60 : decode cX4_term 60 = .ok (.ifCond .eq 7, 3) := dk_153 0 7 (dk_at dksX4_term_2 14 rfl rfl)
theorem dX4_term_63 : decode cX4_term 63 = .ok (.iconst 4, 1) := dk_7 (dk_at dksX4_term_2 17 rfl rfl)
theorem dX4_term_64 : decode cX4_term 64 = .ok (.goto 4, 3) := dk_167 0 4 (dk_at dksX4_term_2 18 rfl rfl)
theorem dX4_term_67 : decode cX4_term 67 = .ok (.iconst 5, 1) := dk_8 (dk_at dksX4_term_2 21 rfl rfl)
theorem dX4_term_68 : decode cX4_term 68 = .ok (.invokevirtual 200, 3) := dk_182 0 200 (dk_at dksX4_term_3 0 rfl rfl)
theorem dX4_term_71 : decode cX4_term 71 = .ok (.goto (-67), 3) := dk_167 255 189 (dk_at dksX4_term_3 3 rfl rfl)
theorem dX4_term_74 : decode cX4_term 74 = .ok (.return_, 1) := dk_177 (dk_at dksX4_term_3 6 rfl rfl)
abbrev cX4_factor : ByteArray := prog_10_method_44_code
def yX4_factor : MethodName := ⟨RX4, "factor", "()V"⟩
def dkwX4_factor_8 : List UInt8 := [182, 0, 200, 177]
abbrev dktX4_factor_8 : List UInt8 := dkwX4_factor_8 ++ []
def dkwX4_factor_7 : List UInt8 := [182, 0, 197, 167, 0, 4, 28, 62, 42, 28, 156, 0, 7, 3, 167, 0, 4, 4, 182, 0, 200, 42, 29]
abbrev dktX4_factor_7 : List UInt8 := dkwX4_factor_7 ++ dktX4_factor_8
def dkwX4_factor_6 : List UInt8 := [18, 195, 182, 0, 185, 153, 0, 7, 7, 167, 0, 4, 2, 61, 28, 156, 0, 14, 42, 3, 17, 39, 15]
abbrev dktX4_factor_6 : List UInt8 := dkwX4_factor_6 ++ dktX4_factor_7
def dkwX4_factor_5 : List UInt8 := [182, 0, 185, 153, 0, 7, 5, 167, 0, 30, 42, 18, 193, 182, 0, 185, 153, 0, 7, 6, 167, 0, 17, 42]
abbrev dktX4_factor_5 : List UInt8 := dkwX4_factor_5 ++ dktX4_factor_6
def dkwX4_factor_4 : List UInt8 := [153, 0, 7, 3, 167, 0, 56, 42, 18, 189, 182, 0, 185, 153, 0, 7, 4, 167, 0, 43, 42, 18, 191]
abbrev dktX4_factor_4 : List UInt8 := dkwX4_factor_4 ++ dktX4_factor_5
def dkwX4_factor_3 : List UInt8 := [4, 100, 181, 0, 173, 177, 27, 184, 0, 166, 153, 0, 7, 2, 167, 0, 69, 42, 18, 183, 182, 0, 185]
abbrev dktX4_factor_3 : List UInt8 := dkwX4_factor_3 ++ dktX4_factor_4
def dkwX4_factor_2 : List UInt8 := [89, 180, 0, 173, 4, 96, 181, 0, 173, 42, 182, 0, 176, 42, 16, 41, 182, 0, 179, 42, 89, 180, 0, 173]
abbrev dktX4_factor_2 : List UInt8 := dkwX4_factor_2 ++ dktX4_factor_3
def dkwX4_factor_1 : List UInt8 := [160, 0, 13, 42, 16, 250, 42, 180, 0, 133, 182, 0, 162, 42, 89, 180, 0, 133, 4, 96, 181, 0, 133, 42]
abbrev dktX4_factor_1 : List UInt8 := dkwX4_factor_1 ++ dktX4_factor_2
def dkwX4_factor_0 : List UInt8 := [42, 182, 0, 145, 154, 0, 4, 177, 42, 182, 0, 149, 60, 27, 16, 40, 160, 0, 62, 42, 180, 0, 173, 7]
abbrev dktX4_factor_0 : List UInt8 := dkwX4_factor_0 ++ dktX4_factor_1
theorem dksX4_factor_0 : cX4_factor.data.toList.drop 0 = dktX4_factor_0 := by decide +kernel
theorem dksX4_factor_1 : cX4_factor.data.toList.drop 24 = dktX4_factor_1 := dk_seg dksX4_factor_0 24 rfl rfl
theorem dksX4_factor_2 : cX4_factor.data.toList.drop 48 = dktX4_factor_2 := dk_seg dksX4_factor_1 24 rfl rfl
theorem dksX4_factor_3 : cX4_factor.data.toList.drop 72 = dktX4_factor_3 := dk_seg dksX4_factor_2 24 rfl rfl
theorem dksX4_factor_4 : cX4_factor.data.toList.drop 95 = dktX4_factor_4 := dk_seg dksX4_factor_3 23 rfl rfl
theorem dksX4_factor_5 : cX4_factor.data.toList.drop 118 = dktX4_factor_5 := dk_seg dksX4_factor_4 23 rfl rfl
theorem dksX4_factor_6 : cX4_factor.data.toList.drop 142 = dktX4_factor_6 := dk_seg dksX4_factor_5 24 rfl rfl
theorem dksX4_factor_7 : cX4_factor.data.toList.drop 165 = dktX4_factor_7 := dk_seg dksX4_factor_6 23 rfl rfl
theorem dksX4_factor_8 : cX4_factor.data.toList.drop 188 = dktX4_factor_8 := dk_seg dksX4_factor_7 23 rfl rfl
theorem dX4_factor_0 : decode cX4_factor 0 = .ok (.aload_n 0, 1) := dk_42 (dk_at dksX4_factor_0 0 rfl rfl)
theorem dX4_factor_1 : decode cX4_factor 1 = .ok (.invokevirtual 145, 3) := dk_182 0 145 (dk_at dksX4_factor_0 1 rfl rfl)
theorem dX4_factor_4 : decode cX4_factor 4 = .ok (.ifCond .ne 4, 3) := dk_154 0 4 (dk_at dksX4_factor_0 4 rfl rfl)
theorem dX4_factor_7 : decode cX4_factor 7 = .ok (.return_, 1) := dk_177 (dk_at dksX4_factor_0 7 rfl rfl)
theorem dX4_factor_8 : decode cX4_factor 8 = .ok (.aload_n 0, 1) := dk_42 (dk_at dksX4_factor_0 8 rfl rfl)
theorem dX4_factor_9 : decode cX4_factor 9 = .ok (.invokevirtual 149, 3) := dk_182 0 149 (dk_at dksX4_factor_0 9 rfl rfl)
theorem dX4_factor_12 : decode cX4_factor 12 = .ok (.istore_n 1, 1) := dk_60 (dk_at dksX4_factor_0 12 rfl rfl)
theorem dX4_factor_13 : decode cX4_factor 13 = .ok (.iload_n 1, 1) := dk_27 (dk_at dksX4_factor_0 13 rfl rfl)
theorem dX4_factor_14 : decode cX4_factor 14 = .ok (.bipush 40, 2) := dk_16 40 (dk_at dksX4_factor_0 14 rfl rfl)
theorem dX4_factor_16 : decode cX4_factor 16 = .ok (.if_icmp .ne 62, 3) := dk_160 0 62 (dk_at dksX4_factor_0 16 rfl rfl)
theorem dX4_factor_19 : decode cX4_factor 19 = .ok (.aload_n 0, 1) := dk_42 (dk_at dksX4_factor_0 19 rfl rfl)
theorem dX4_factor_20 : decode cX4_factor 20 = .ok (.getfield 173, 3) := dk_180 0 173 (dk_at dksX4_factor_0 20 rfl rfl)
theorem dX4_factor_23 : decode cX4_factor 23 = .ok (.iconst 4, 1) := dk_7 (dk_at dksX4_factor_0 23 rfl rfl)
theorem dX4_factor_24 : decode cX4_factor 24 = .ok (.if_icmp .ne 13, 3) := dk_160 0 13 (dk_at dksX4_factor_1 0 rfl rfl)
theorem dX4_factor_27 : decode cX4_factor 27 = .ok (.aload_n 0, 1) := dk_42 (dk_at dksX4_factor_1 3 rfl rfl)
theorem dX4_factor_28 : decode cX4_factor 28 = .ok (.bipush (-6), 2) := dk_16 250 (dk_at dksX4_factor_1 4 rfl rfl)
theorem dX4_factor_30 : decode cX4_factor 30 = .ok (.aload_n 0, 1) := dk_42 (dk_at dksX4_factor_1 6 rfl rfl)
theorem dX4_factor_31 : decode cX4_factor 31 = .ok (.getfield 133, 3) := dk_180 0 133 (dk_at dksX4_factor_1 7 rfl rfl)
theorem dX4_factor_34 : decode cX4_factor 34 = .ok (.invokevirtual 162, 3) := dk_182 0 162 (dk_at dksX4_factor_1 10 rfl rfl)
theorem dX4_factor_37 : decode cX4_factor 37 = .ok (.aload_n 0, 1) := dk_42 (dk_at dksX4_factor_1 13 rfl rfl)
theorem dX4_factor_38 : decode cX4_factor 38 = .ok (.dup, 1) := dk_89 (dk_at dksX4_factor_1 14 rfl rfl)
theorem dX4_factor_39 : decode cX4_factor 39 = .ok (.getfield 133, 3) := dk_180 0 133 (dk_at dksX4_factor_1 15 rfl rfl)
theorem dX4_factor_42 : decode cX4_factor 42 = .ok (.iconst 1, 1) := dk_4 (dk_at dksX4_factor_1 18 rfl rfl)
theorem dX4_factor_43 : decode cX4_factor 43 = .ok (.iadd, 1) := dk_96 (dk_at dksX4_factor_1 19 rfl rfl)
theorem dX4_factor_44 : decode cX4_factor 44 = .ok (.putfield 133, 3) := dk_181 0 133 (dk_at dksX4_factor_1 20 rfl rfl)
theorem dX4_factor_47 : decode cX4_factor 47 = .ok (.aload_n 0, 1) := dk_42 (dk_at dksX4_factor_1 23 rfl rfl)
theorem dX4_factor_48 : decode cX4_factor 48 = .ok (.dup, 1) := dk_89 (dk_at dksX4_factor_2 0 rfl rfl)
theorem dX4_factor_49 : decode cX4_factor 49 = .ok (.getfield 173, 3) := dk_180 0 173 (dk_at dksX4_factor_2 1 rfl rfl)
theorem dX4_factor_52 : decode cX4_factor 52 = .ok (.iconst 1, 1) := dk_4 (dk_at dksX4_factor_2 4 rfl rfl)
theorem dX4_factor_53 : decode cX4_factor 53 = .ok (.iadd, 1) := dk_96 (dk_at dksX4_factor_2 5 rfl rfl)
theorem dX4_factor_54 : decode cX4_factor 54 = .ok (.putfield 173, 3) := dk_181 0 173 (dk_at dksX4_factor_2 6 rfl rfl)
theorem dX4_factor_57 : decode cX4_factor 57 = .ok (.aload_n 0, 1) := dk_42 (dk_at dksX4_factor_2 9 rfl rfl)
theorem dX4_factor_58 : decode cX4_factor 58 = .ok (.invokevirtual 176, 3) := dk_182 0 176 (dk_at dksX4_factor_2 10 rfl rfl)
theorem dX4_factor_61 : decode cX4_factor 61 = .ok (.aload_n 0, 1) := dk_42 (dk_at dksX4_factor_2 13 rfl rfl)
theorem dX4_factor_62 : decode cX4_factor 62 = .ok (.bipush 41, 2) := dk_16 41 (dk_at dksX4_factor_2 14 rfl rfl)
theorem dX4_factor_64 : decode cX4_factor 64 = .ok (.invokevirtual 179, 3) := dk_182 0 179 (dk_at dksX4_factor_2 16 rfl rfl)
theorem dX4_factor_67 : decode cX4_factor 67 = .ok (.aload_n 0, 1) := dk_42 (dk_at dksX4_factor_2 19 rfl rfl)
theorem dX4_factor_68 : decode cX4_factor 68 = .ok (.dup, 1) := dk_89 (dk_at dksX4_factor_2 20 rfl rfl)
theorem dX4_factor_69 : decode cX4_factor 69 = .ok (.getfield 173, 3) := dk_180 0 173 (dk_at dksX4_factor_2 21 rfl rfl)
theorem dX4_factor_72 : decode cX4_factor 72 = .ok (.iconst 1, 1) := dk_4 (dk_at dksX4_factor_3 0 rfl rfl)
theorem dX4_factor_73 : decode cX4_factor 73 = .ok (.isub, 1) := dk_100 (dk_at dksX4_factor_3 1 rfl rfl)
theorem dX4_factor_74 : decode cX4_factor 74 = .ok (.putfield 173, 3) := dk_181 0 173 (dk_at dksX4_factor_3 2 rfl rfl)
theorem dX4_factor_77 : decode cX4_factor 77 = .ok (.return_, 1) := dk_177 (dk_at dksX4_factor_3 5 rfl rfl)
theorem dX4_factor_78 : decode cX4_factor 78 = .ok (.iload_n 1, 1) := dk_27 (dk_at dksX4_factor_3 6 rfl rfl)
theorem dX4_factor_79 : decode cX4_factor 79 = .ok (.invokestatic 166, 3) := dk_184 0 166 (dk_at dksX4_factor_3 7 rfl rfl)
theorem dX4_factor_82 : decode cX4_factor 82 = .ok (.ifCond .eq 7, 3) := dk_153 0 7 (dk_at dksX4_factor_3 10 rfl rfl)
theorem dX4_factor_85 : decode cX4_factor 85 = .ok (.iconst (-1), 1) := dk_2 (dk_at dksX4_factor_3 13 rfl rfl)
theorem dX4_factor_86 : decode cX4_factor 86 = .ok (.goto 69, 3) := dk_167 0 69 (dk_at dksX4_factor_3 14 rfl rfl)
theorem dX4_factor_89 : decode cX4_factor 89 = .ok (.aload_n 0, 1) := dk_42 (dk_at dksX4_factor_3 17 rfl rfl)
theorem dX4_factor_90 : decode cX4_factor 90 = .ok (.ldc 183, 2) := dk_18 183 (dk_at dksX4_factor_3 18 rfl rfl)
theorem dX4_factor_92 : decode cX4_factor 92 = .ok (.invokevirtual 185, 3) := dk_182 0 185 (dk_at dksX4_factor_3 20 rfl rfl)
theorem dX4_factor_95 : decode cX4_factor 95 = .ok (.ifCond .eq 7, 3) := dk_153 0 7 (dk_at dksX4_factor_4 0 rfl rfl)
theorem dX4_factor_98 : decode cX4_factor 98 = .ok (.iconst 0, 1) := dk_3 (dk_at dksX4_factor_4 3 rfl rfl)
theorem dX4_factor_99 : decode cX4_factor 99 = .ok (.goto 56, 3) := dk_167 0 56 (dk_at dksX4_factor_4 4 rfl rfl)
theorem dX4_factor_102 : decode cX4_factor 102 = .ok (.aload_n 0, 1) := dk_42 (dk_at dksX4_factor_4 7 rfl rfl)
theorem dX4_factor_103 : decode cX4_factor 103 = .ok (.ldc 189, 2) := dk_18 189 (dk_at dksX4_factor_4 8 rfl rfl)
theorem dX4_factor_105 : decode cX4_factor 105 = .ok (.invokevirtual 185, 3) := dk_182 0 185 (dk_at dksX4_factor_4 10 rfl rfl)
theorem dX4_factor_108 : decode cX4_factor 108 = .ok (.ifCond .eq 7, 3) := dk_153 0 7 (dk_at dksX4_factor_4 13 rfl rfl)
theorem dX4_factor_111 : decode cX4_factor 111 = .ok (.iconst 1, 1) := dk_4 (dk_at dksX4_factor_4 16 rfl rfl)
theorem dX4_factor_112 : decode cX4_factor 112 = .ok (.goto 43, 3) := dk_167 0 43 (dk_at dksX4_factor_4 17 rfl rfl)
theorem dX4_factor_115 : decode cX4_factor 115 = .ok (.aload_n 0, 1) := dk_42 (dk_at dksX4_factor_4 20 rfl rfl)
theorem dX4_factor_116 : decode cX4_factor 116 = .ok (.ldc 191, 2) := dk_18 191 (dk_at dksX4_factor_4 21 rfl rfl)
theorem dX4_factor_118 : decode cX4_factor 118 = .ok (.invokevirtual 185, 3) := dk_182 0 185 (dk_at dksX4_factor_5 0 rfl rfl)
theorem dX4_factor_121 : decode cX4_factor 121 = .ok (.ifCond .eq 7, 3) := dk_153 0 7 (dk_at dksX4_factor_5 3 rfl rfl)
theorem dX4_factor_124 : decode cX4_factor 124 = .ok (.iconst 2, 1) := dk_5 (dk_at dksX4_factor_5 6 rfl rfl)
theorem dX4_factor_125 : decode cX4_factor 125 = .ok (.goto 30, 3) := dk_167 0 30 (dk_at dksX4_factor_5 7 rfl rfl)
theorem dX4_factor_128 : decode cX4_factor 128 = .ok (.aload_n 0, 1) := dk_42 (dk_at dksX4_factor_5 10 rfl rfl)
theorem dX4_factor_129 : decode cX4_factor 129 = .ok (.ldc 193, 2) := dk_18 193 (dk_at dksX4_factor_5 11 rfl rfl)
theorem dX4_factor_131 : decode cX4_factor 131 = .ok (.invokevirtual 185, 3) := dk_182 0 185 (dk_at dksX4_factor_5 13 rfl rfl)
theorem dX4_factor_134 : decode cX4_factor 134 = .ok (.ifCond .eq 7, 3) := dk_153 0 7 (dk_at dksX4_factor_5 16 rfl rfl)
theorem dX4_factor_137 : decode cX4_factor 137 = .ok (.iconst 3, 1) := dk_6 (dk_at dksX4_factor_5 19 rfl rfl)
theorem dX4_factor_138 : decode cX4_factor 138 = .ok (.goto 17, 3) := dk_167 0 17 (dk_at dksX4_factor_5 20 rfl rfl)
theorem dX4_factor_141 : decode cX4_factor 141 = .ok (.aload_n 0, 1) := dk_42 (dk_at dksX4_factor_5 23 rfl rfl)
theorem dX4_factor_142 : decode cX4_factor 142 = .ok (.ldc 195, 2) := dk_18 195 (dk_at dksX4_factor_6 0 rfl rfl)
theorem dX4_factor_144 : decode cX4_factor 144 = .ok (.invokevirtual 185, 3) := dk_182 0 185 (dk_at dksX4_factor_6 2 rfl rfl)
theorem dX4_factor_147 : decode cX4_factor 147 = .ok (.ifCond .eq 7, 3) := dk_153 0 7 (dk_at dksX4_factor_6 5 rfl rfl)
theorem dX4_factor_150 : decode cX4_factor 150 = .ok (.iconst 4, 1) := dk_7 (dk_at dksX4_factor_6 8 rfl rfl)
theorem dX4_factor_151 : decode cX4_factor 151 = .ok (.goto 4, 3) := dk_167 0 4 (dk_at dksX4_factor_6 9 rfl rfl)
theorem dX4_factor_154 : decode cX4_factor 154 = .ok (.iconst (-1), 1) := dk_2 (dk_at dksX4_factor_6 12 rfl rfl)
theorem dX4_factor_155 : decode cX4_factor 155 = .ok (.istore_n 2, 1) := dk_61 (dk_at dksX4_factor_6 13 rfl rfl)
theorem dX4_factor_156 : decode cX4_factor 156 = .ok (.iload_n 2, 1) := dk_28 (dk_at dksX4_factor_6 14 rfl rfl)
theorem dX4_factor_157 : decode cX4_factor 157 = .ok (.ifCond .ge 14, 3) := dk_156 0 14 (dk_at dksX4_factor_6 15 rfl rfl)
theorem dX4_factor_160 : decode cX4_factor 160 = .ok (.aload_n 0, 1) := dk_42 (dk_at dksX4_factor_6 18 rfl rfl)
theorem dX4_factor_161 : decode cX4_factor 161 = .ok (.iconst 0, 1) := dk_3 (dk_at dksX4_factor_6 19 rfl rfl)
theorem dX4_factor_162 : decode cX4_factor 162 = .ok (.sipush 9999, 3) := dk_17 39 15 (dk_at dksX4_factor_6 20 rfl rfl)
theorem dX4_factor_165 : decode cX4_factor 165 = .ok (.invokevirtual 197, 3) := dk_182 0 197 (dk_at dksX4_factor_7 0 rfl rfl)
theorem dX4_factor_168 : decode cX4_factor 168 = .ok (.goto 4, 3) := dk_167 0 4 (dk_at dksX4_factor_7 3 rfl rfl)
theorem dX4_factor_171 : decode cX4_factor 171 = .ok (.iload_n 2, 1) := dk_28 (dk_at dksX4_factor_7 6 rfl rfl)
theorem dX4_factor_172 : decode cX4_factor 172 = .ok (.istore_n 3, 1) := dk_62 (dk_at dksX4_factor_7 7 rfl rfl)
theorem dX4_factor_173 : decode cX4_factor 173 = .ok (.aload_n 0, 1) := dk_42 (dk_at dksX4_factor_7 8 rfl rfl)
theorem dX4_factor_174 : decode cX4_factor 174 = .ok (.iload_n 2, 1) := dk_28 (dk_at dksX4_factor_7 9 rfl rfl)
theorem dX4_factor_175 : decode cX4_factor 175 = .ok (.ifCond .ge 7, 3) := dk_156 0 7 (dk_at dksX4_factor_7 10 rfl rfl)
theorem dX4_factor_178 : decode cX4_factor 178 = .ok (.iconst 0, 1) := dk_3 (dk_at dksX4_factor_7 13 rfl rfl)
theorem dX4_factor_179 : decode cX4_factor 179 = .ok (.goto 4, 3) := dk_167 0 4 (dk_at dksX4_factor_7 14 rfl rfl)
theorem dX4_factor_182 : decode cX4_factor 182 = .ok (.iconst 1, 1) := dk_4 (dk_at dksX4_factor_7 17 rfl rfl)
theorem dX4_factor_183 : decode cX4_factor 183 = .ok (.invokevirtual 200, 3) := dk_182 0 200 (dk_at dksX4_factor_7 18 rfl rfl)
theorem dX4_factor_186 : decode cX4_factor 186 = .ok (.aload_n 0, 1) := dk_42 (dk_at dksX4_factor_7 21 rfl rfl)
theorem dX4_factor_187 : decode cX4_factor 187 = .ok (.iload_n 3, 1) := dk_29 (dk_at dksX4_factor_7 22 rfl rfl)
theorem dX4_factor_188 : decode cX4_factor 188 = .ok (.invokevirtual 200, 3) := dk_182 0 200 (dk_at dksX4_factor_8 0 rfl rfl)
theorem dX4_factor_191 : decode cX4_factor 191 = .ok (.return_, 1) := dk_177 (dk_at dksX4_factor_8 3 rfl rfl)
abbrev cX4_emit : ByteArray := prog_10_method_43_code
def yX4_emit : MethodName := ⟨RX4, "emit", "(I)V"⟩
def dkwX4_emit_1 : List UInt8 := [42, 180, 0, 17, 8, 92, 46, 4, 96, 79, 177]
abbrev dktX4_emit_1 : List UInt8 := dkwX4_emit_1 ++ []
def dkwX4_emit_0 : List UInt8 := [42, 182, 0, 145, 154, 0, 4, 177, 42, 180, 0, 17, 17, 0, 228, 42, 180, 0, 17, 8, 46, 96, 27, 79]
abbrev dktX4_emit_0 : List UInt8 := dkwX4_emit_0 ++ dktX4_emit_1
theorem dksX4_emit_0 : cX4_emit.data.toList.drop 0 = dktX4_emit_0 := by decide +kernel
theorem dksX4_emit_1 : cX4_emit.data.toList.drop 24 = dktX4_emit_1 := dk_seg dksX4_emit_0 24 rfl rfl
theorem dX4_emit_0 : decode cX4_emit 0 = .ok (.aload_n 0, 1) := dk_42 (dk_at dksX4_emit_0 0 rfl rfl)
theorem dX4_emit_1 : decode cX4_emit 1 = .ok (.invokevirtual 145, 3) := dk_182 0 145 (dk_at dksX4_emit_0 1 rfl rfl)
theorem dX4_emit_4 : decode cX4_emit 4 = .ok (.ifCond .ne 4, 3) := dk_154 0 4 (dk_at dksX4_emit_0 4 rfl rfl)
theorem dX4_emit_7 : decode cX4_emit 7 = .ok (.return_, 1) := dk_177 (dk_at dksX4_emit_0 7 rfl rfl)
theorem dX4_emit_8 : decode cX4_emit 8 = .ok (.aload_n 0, 1) := dk_42 (dk_at dksX4_emit_0 8 rfl rfl)
theorem dX4_emit_9 : decode cX4_emit 9 = .ok (.getfield 17, 3) := dk_180 0 17 (dk_at dksX4_emit_0 9 rfl rfl)
theorem dX4_emit_12 : decode cX4_emit 12 = .ok (.sipush 228, 3) := dk_17 0 228 (dk_at dksX4_emit_0 12 rfl rfl)
theorem dX4_emit_15 : decode cX4_emit 15 = .ok (.aload_n 0, 1) := dk_42 (dk_at dksX4_emit_0 15 rfl rfl)
theorem dX4_emit_16 : decode cX4_emit 16 = .ok (.getfield 17, 3) := dk_180 0 17 (dk_at dksX4_emit_0 16 rfl rfl)
theorem dX4_emit_19 : decode cX4_emit 19 = .ok (.iconst 5, 1) := dk_8 (dk_at dksX4_emit_0 19 rfl rfl)
theorem dX4_emit_20 : decode cX4_emit 20 = .ok (.iaload, 1) := dk_46 (dk_at dksX4_emit_0 20 rfl rfl)
theorem dX4_emit_21 : decode cX4_emit 21 = .ok (.iadd, 1) := dk_96 (dk_at dksX4_emit_0 21 rfl rfl)
theorem dX4_emit_22 : decode cX4_emit 22 = .ok (.iload_n 1, 1) := dk_27 (dk_at dksX4_emit_0 22 rfl rfl)
theorem dX4_emit_23 : decode cX4_emit 23 = .ok (.iastore, 1) := dk_79 (dk_at dksX4_emit_0 23 rfl rfl)
theorem dX4_emit_24 : decode cX4_emit 24 = .ok (.aload_n 0, 1) := dk_42 (dk_at dksX4_emit_1 0 rfl rfl)
theorem dX4_emit_25 : decode cX4_emit 25 = .ok (.getfield 17, 3) := dk_180 0 17 (dk_at dksX4_emit_1 1 rfl rfl)
theorem dX4_emit_28 : decode cX4_emit 28 = .ok (.iconst 5, 1) := dk_8 (dk_at dksX4_emit_1 4 rfl rfl)
theorem dX4_emit_29 : decode cX4_emit 29 = .ok (.dup2, 1) := dk_92 (dk_at dksX4_emit_1 5 rfl rfl)
theorem dX4_emit_30 : decode cX4_emit 30 = .ok (.iaload, 1) := dk_46 (dk_at dksX4_emit_1 6 rfl rfl)
theorem dX4_emit_31 : decode cX4_emit 31 = .ok (.iconst 1, 1) := dk_4 (dk_at dksX4_emit_1 7 rfl rfl)
theorem dX4_emit_32 : decode cX4_emit 32 = .ok (.iadd, 1) := dk_96 (dk_at dksX4_emit_1 8 rfl rfl)
theorem dX4_emit_33 : decode cX4_emit 33 = .ok (.iastore, 1) := dk_79 (dk_at dksX4_emit_1 9 rfl rfl)
theorem dX4_emit_34 : decode cX4_emit 34 = .ok (.return_, 1) := dk_177 (dk_at dksX4_emit_1 10 rfl rfl)
abbrev cX4_push : ByteArray := prog_10_method_82_code
def yX4_push : MethodName := ⟨RX4, "push", "([I)V"⟩
def dkwX4_push_3 : List UInt8 := [181, 1, 59, 177]
abbrev dktX4_push_3 : List UInt8 := dkwX4_push_3 ++ []
def dkwX4_push_2 : List UInt8 := [181, 1, 59, 43, 42, 180, 0, 25, 42, 180, 1, 59, 50, 184, 0, 245, 42, 89, 180, 1, 59, 4, 96]
abbrev dktX4_push_2 : List UInt8 := dkwX4_push_2 ++ dktX4_push_3
def dkwX4_push_1 : List UInt8 := [180, 0, 25, 28, 4, 100, 50, 184, 0, 245, 132, 2, 1, 167, 255, 230, 42, 89, 180, 1, 59, 4, 100]
abbrev dktX4_push_1 : List UInt8 := dkwX4_push_1 ++ dktX4_push_2
def dkwX4_push_0 : List UInt8 := [42, 180, 1, 59, 16, 8, 160, 0, 44, 4, 61, 28, 16, 8, 162, 0, 26, 42, 180, 0, 25, 28, 50, 42]
abbrev dktX4_push_0 : List UInt8 := dkwX4_push_0 ++ dktX4_push_1
theorem dksX4_push_0 : cX4_push.data.toList.drop 0 = dktX4_push_0 := by decide +kernel
theorem dksX4_push_1 : cX4_push.data.toList.drop 24 = dktX4_push_1 := dk_seg dksX4_push_0 24 rfl rfl
theorem dksX4_push_2 : cX4_push.data.toList.drop 47 = dktX4_push_2 := dk_seg dksX4_push_1 23 rfl rfl
theorem dksX4_push_3 : cX4_push.data.toList.drop 70 = dktX4_push_3 := dk_seg dksX4_push_2 23 rfl rfl
theorem dX4_push_0 : decode cX4_push 0 = .ok (.aload_n 0, 1) := dk_42 (dk_at dksX4_push_0 0 rfl rfl)
theorem dX4_push_1 : decode cX4_push 1 = .ok (.getfield 315, 3) := dk_180 1 59 (dk_at dksX4_push_0 1 rfl rfl)
theorem dX4_push_4 : decode cX4_push 4 = .ok (.bipush 8, 2) := dk_16 8 (dk_at dksX4_push_0 4 rfl rfl)
theorem dX4_push_6 : decode cX4_push 6 = .ok (.if_icmp .ne 44, 3) := dk_160 0 44 (dk_at dksX4_push_0 6 rfl rfl)
theorem dX4_push_9 : decode cX4_push 9 = .ok (.iconst 1, 1) := dk_4 (dk_at dksX4_push_0 9 rfl rfl)
theorem dX4_push_10 : decode cX4_push 10 = .ok (.istore_n 2, 1) := dk_61 (dk_at dksX4_push_0 10 rfl rfl)
theorem dX4_push_11 : decode cX4_push 11 = .ok (.iload_n 2, 1) := dk_28 (dk_at dksX4_push_0 11 rfl rfl)
theorem dX4_push_12 : decode cX4_push 12 = .ok (.bipush 8, 2) := dk_16 8 (dk_at dksX4_push_0 12 rfl rfl)
theorem dX4_push_14 : decode cX4_push 14 = .ok (.if_icmp .ge 26, 3) := dk_162 0 26 (dk_at dksX4_push_0 14 rfl rfl)
theorem dX4_push_17 : decode cX4_push 17 = .ok (.aload_n 0, 1) := dk_42 (dk_at dksX4_push_0 17 rfl rfl)
theorem dX4_push_18 : decode cX4_push 18 = .ok (.getfield 25, 3) := dk_180 0 25 (dk_at dksX4_push_0 18 rfl rfl)
theorem dX4_push_21 : decode cX4_push 21 = .ok (.iload_n 2, 1) := dk_28 (dk_at dksX4_push_0 21 rfl rfl)
theorem dX4_push_22 : decode cX4_push 22 = .ok (.aaload, 1) := dk_50 (dk_at dksX4_push_0 22 rfl rfl)
theorem dX4_push_23 : decode cX4_push 23 = .ok (.aload_n 0, 1) := dk_42 (dk_at dksX4_push_0 23 rfl rfl)
theorem dX4_push_24 : decode cX4_push 24 = .ok (.getfield 25, 3) := dk_180 0 25 (dk_at dksX4_push_1 0 rfl rfl)
theorem dX4_push_27 : decode cX4_push 27 = .ok (.iload_n 2, 1) := dk_28 (dk_at dksX4_push_1 3 rfl rfl)
theorem dX4_push_28 : decode cX4_push 28 = .ok (.iconst 1, 1) := dk_4 (dk_at dksX4_push_1 4 rfl rfl)
theorem dX4_push_29 : decode cX4_push 29 = .ok (.isub, 1) := dk_100 (dk_at dksX4_push_1 5 rfl rfl)
theorem dX4_push_30 : decode cX4_push 30 = .ok (.aaload, 1) := dk_50 (dk_at dksX4_push_1 6 rfl rfl)
theorem dX4_push_31 : decode cX4_push 31 = .ok (.invokestatic 245, 3) := dk_184 0 245 (dk_at dksX4_push_1 7 rfl rfl)
theorem dX4_push_34 : decode cX4_push 34 = .ok (.iinc 2 1, 3) := dk_132 2 1 (dk_at dksX4_push_1 10 rfl rfl)
theorem dX4_push_37 : decode cX4_push 37 = .ok (.goto (-26), 3) := dk_167 255 230 (dk_at dksX4_push_1 13 rfl rfl)
theorem dX4_push_40 : decode cX4_push 40 = .ok (.aload_n 0, 1) := dk_42 (dk_at dksX4_push_1 16 rfl rfl)
theorem dX4_push_41 : decode cX4_push 41 = .ok (.dup, 1) := dk_89 (dk_at dksX4_push_1 17 rfl rfl)
theorem dX4_push_42 : decode cX4_push 42 = .ok (.getfield 315, 3) := dk_180 1 59 (dk_at dksX4_push_1 18 rfl rfl)
theorem dX4_push_45 : decode cX4_push 45 = .ok (.iconst 1, 1) := dk_4 (dk_at dksX4_push_1 21 rfl rfl)
theorem dX4_push_46 : decode cX4_push 46 = .ok (.isub, 1) := dk_100 (dk_at dksX4_push_1 22 rfl rfl)
theorem dX4_push_47 : decode cX4_push 47 = .ok (.putfield 315, 3) := dk_181 1 59 (dk_at dksX4_push_2 0 rfl rfl)
theorem dX4_push_50 : decode cX4_push 50 = .ok (.aload_n 1, 1) := dk_43 (dk_at dksX4_push_2 3 rfl rfl)
theorem dX4_push_51 : decode cX4_push 51 = .ok (.aload_n 0, 1) := dk_42 (dk_at dksX4_push_2 4 rfl rfl)
theorem dX4_push_52 : decode cX4_push 52 = .ok (.getfield 25, 3) := dk_180 0 25 (dk_at dksX4_push_2 5 rfl rfl)
theorem dX4_push_55 : decode cX4_push 55 = .ok (.aload_n 0, 1) := dk_42 (dk_at dksX4_push_2 8 rfl rfl)
theorem dX4_push_56 : decode cX4_push 56 = .ok (.getfield 315, 3) := dk_180 1 59 (dk_at dksX4_push_2 9 rfl rfl)
theorem dX4_push_59 : decode cX4_push 59 = .ok (.aaload, 1) := dk_50 (dk_at dksX4_push_2 12 rfl rfl)
theorem dX4_push_60 : decode cX4_push 60 = .ok (.invokestatic 245, 3) := dk_184 0 245 (dk_at dksX4_push_2 13 rfl rfl)
theorem dX4_push_63 : decode cX4_push 63 = .ok (.aload_n 0, 1) := dk_42 (dk_at dksX4_push_2 16 rfl rfl)
theorem dX4_push_64 : decode cX4_push 64 = .ok (.dup, 1) := dk_89 (dk_at dksX4_push_2 17 rfl rfl)
theorem dX4_push_65 : decode cX4_push 65 = .ok (.getfield 315, 3) := dk_180 1 59 (dk_at dksX4_push_2 18 rfl rfl)
theorem dX4_push_68 : decode cX4_push 68 = .ok (.iconst 1, 1) := dk_4 (dk_at dksX4_push_2 21 rfl rfl)
theorem dX4_push_69 : decode cX4_push 69 = .ok (.iadd, 1) := dk_96 (dk_at dksX4_push_2 22 rfl rfl)
theorem dX4_push_70 : decode cX4_push 70 = .ok (.putfield 315, 3) := dk_181 1 59 (dk_at dksX4_push_3 0 rfl rfl)
theorem dX4_push_73 : decode cX4_push 73 = .ok (.return_, 1) := dk_177 (dk_at dksX4_push_3 3 rfl rfl)
abbrev cX4_errorOffset : ByteArray := prog_10_method_52_code
def yX4_errorOffset : MethodName := ⟨RX4, "errorOffset", "()I"⟩
def dkwX4_errorOffset_0 : List UInt8 := [42, 3, 181, 0, 32, 42, 180, 0, 13, 172]
abbrev dktX4_errorOffset_0 : List UInt8 := dkwX4_errorOffset_0 ++ []
theorem dksX4_errorOffset_0 : cX4_errorOffset.data.toList.drop 0 = dktX4_errorOffset_0 := by decide +kernel
theorem dX4_errorOffset_0 : decode cX4_errorOffset 0 = .ok (.aload_n 0, 1) := dk_42 (dk_at dksX4_errorOffset_0 0 rfl rfl)
theorem dX4_errorOffset_1 : decode cX4_errorOffset 1 = .ok (.iconst 0, 1) := dk_3 (dk_at dksX4_errorOffset_0 1 rfl rfl)
theorem dX4_errorOffset_2 : decode cX4_errorOffset 2 = .ok (.putfield 32, 3) := dk_181 0 32 (dk_at dksX4_errorOffset_0 2 rfl rfl)
theorem dX4_errorOffset_5 : decode cX4_errorOffset 5 = .ok (.aload_n 0, 1) := dk_42 (dk_at dksX4_errorOffset_0 5 rfl rfl)
theorem dX4_errorOffset_6 : decode cX4_errorOffset 6 = .ok (.getfield 13, 3) := dk_180 0 13 (dk_at dksX4_errorOffset_0 6 rfl rfl)
theorem dX4_errorOffset_9 : decode cX4_errorOffset 9 = .ok (.ireturn, 1) := dk_172 (dk_at dksX4_errorOffset_0 9 rfl rfl)
abbrev cX4_count : ByteArray := prog_10_method_68_code
def yX4_count : MethodName := ⟨RX4, "count", "(I)I"⟩
def dkwX4_count_3 : List UInt8 := [167, 255, 227, 27, 7, 160, 0, 7, 28, 167, 0, 9, 42, 180, 0, 17, 27, 46, 172]
abbrev dktX4_count_3 : List UInt8 := dkwX4_count_3 ++ []
def dkwX4_count_2 : List UInt8 := [6, 46, 162, 0, 25, 28, 42, 29, 182, 0, 42, 153, 0, 7, 4, 167, 0, 4, 3, 96, 61, 132, 3, 1]
abbrev dktX4_count_2 : List UInt8 := dkwX4_count_2 ++ dktX4_count_3
def dkwX4_count_1 : List UInt8 := [153, 0, 5, 3, 172, 27, 8, 160, 0, 8, 42, 182, 1, 47, 172, 3, 61, 3, 62, 29, 42, 180, 0, 17]
abbrev dktX4_count_1 : List UInt8 := dkwX4_count_1 ++ dktX4_count_2
def dkwX4_count_0 : List UInt8 := [42, 3, 181, 0, 32, 42, 27, 3, 8, 184, 0, 57, 154, 0, 7, 4, 167, 0, 4, 3, 4, 182, 0, 241]
abbrev dktX4_count_0 : List UInt8 := dkwX4_count_0 ++ dktX4_count_1
theorem dksX4_count_0 : cX4_count.data.toList.drop 0 = dktX4_count_0 := by decide +kernel
theorem dksX4_count_1 : cX4_count.data.toList.drop 24 = dktX4_count_1 := dk_seg dksX4_count_0 24 rfl rfl
theorem dksX4_count_2 : cX4_count.data.toList.drop 48 = dktX4_count_2 := dk_seg dksX4_count_1 24 rfl rfl
theorem dksX4_count_3 : cX4_count.data.toList.drop 72 = dktX4_count_3 := dk_seg dksX4_count_2 24 rfl rfl
theorem dX4_count_0 : decode cX4_count 0 = .ok (.aload_n 0, 1) := dk_42 (dk_at dksX4_count_0 0 rfl rfl)
theorem dX4_count_1 : decode cX4_count 1 = .ok (.iconst 0, 1) := dk_3 (dk_at dksX4_count_0 1 rfl rfl)
theorem dX4_count_2 : decode cX4_count 2 = .ok (.putfield 32, 3) := dk_181 0 32 (dk_at dksX4_count_0 2 rfl rfl)
theorem dX4_count_5 : decode cX4_count 5 = .ok (.aload_n 0, 1) := dk_42 (dk_at dksX4_count_0 5 rfl rfl)
theorem dX4_count_6 : decode cX4_count 6 = .ok (.iload_n 1, 1) := dk_27 (dk_at dksX4_count_0 6 rfl rfl)
theorem dX4_count_7 : decode cX4_count 7 = .ok (.iconst 0, 1) := dk_3 (dk_at dksX4_count_0 7 rfl rfl)
theorem dX4_count_8 : decode cX4_count 8 = .ok (.iconst 5, 1) := dk_8 (dk_at dksX4_count_0 8 rfl rfl)
theorem dX4_count_9 : decode cX4_count 9 = .ok (.invokestatic 57, 3) := dk_184 0 57 (dk_at dksX4_count_0 9 rfl rfl)
theorem dX4_count_12 : decode cX4_count 12 = .ok (.ifCond .ne 7, 3) := dk_154 0 7 (dk_at dksX4_count_0 12 rfl rfl)
theorem dX4_count_15 : decode cX4_count 15 = .ok (.iconst 1, 1) := dk_4 (dk_at dksX4_count_0 15 rfl rfl)
theorem dX4_count_16 : decode cX4_count 16 = .ok (.goto 4, 3) := dk_167 0 4 (dk_at dksX4_count_0 16 rfl rfl)
theorem dX4_count_19 : decode cX4_count 19 = .ok (.iconst 0, 1) := dk_3 (dk_at dksX4_count_0 19 rfl rfl)
theorem dX4_count_20 : decode cX4_count 20 = .ok (.iconst 1, 1) := dk_4 (dk_at dksX4_count_0 20 rfl rfl)
theorem dX4_count_21 : decode cX4_count 21 = .ok (.invokevirtual 241, 3) := dk_182 0 241 (dk_at dksX4_count_0 21 rfl rfl)
theorem dX4_count_24 : decode cX4_count 24 = .ok (.ifCond .eq 5, 3) := dk_153 0 5 (dk_at dksX4_count_1 0 rfl rfl)
theorem dX4_count_27 : decode cX4_count 27 = .ok (.iconst 0, 1) := dk_3 (dk_at dksX4_count_1 3 rfl rfl)
theorem dX4_count_28 : decode cX4_count 28 = .ok (.ireturn, 1) := dk_172 (dk_at dksX4_count_1 4 rfl rfl)
theorem dX4_count_29 : decode cX4_count 29 = .ok (.iload_n 1, 1) := dk_27 (dk_at dksX4_count_1 5 rfl rfl)
theorem dX4_count_30 : decode cX4_count 30 = .ok (.iconst 5, 1) := dk_8 (dk_at dksX4_count_1 6 rfl rfl)
theorem dX4_count_31 : decode cX4_count 31 = .ok (.if_icmp .ne 8, 3) := dk_160 0 8 (dk_at dksX4_count_1 7 rfl rfl)
theorem dX4_count_34 : decode cX4_count 34 = .ok (.aload_n 0, 1) := dk_42 (dk_at dksX4_count_1 10 rfl rfl)
theorem dX4_count_35 : decode cX4_count 35 = .ok (.invokevirtual 303, 3) := dk_182 1 47 (dk_at dksX4_count_1 11 rfl rfl)
theorem dX4_count_38 : decode cX4_count 38 = .ok (.ireturn, 1) := dk_172 (dk_at dksX4_count_1 14 rfl rfl)
theorem dX4_count_39 : decode cX4_count 39 = .ok (.iconst 0, 1) := dk_3 (dk_at dksX4_count_1 15 rfl rfl)
theorem dX4_count_40 : decode cX4_count 40 = .ok (.istore_n 2, 1) := dk_61 (dk_at dksX4_count_1 16 rfl rfl)
theorem dX4_count_41 : decode cX4_count 41 = .ok (.iconst 0, 1) := dk_3 (dk_at dksX4_count_1 17 rfl rfl)
theorem dX4_count_42 : decode cX4_count 42 = .ok (.istore_n 3, 1) := dk_62 (dk_at dksX4_count_1 18 rfl rfl)
theorem dX4_count_43 : decode cX4_count 43 = .ok (.iload_n 3, 1) := dk_29 (dk_at dksX4_count_1 19 rfl rfl)
theorem dX4_count_44 : decode cX4_count 44 = .ok (.aload_n 0, 1) := dk_42 (dk_at dksX4_count_1 20 rfl rfl)
theorem dX4_count_45 : decode cX4_count 45 = .ok (.getfield 17, 3) := dk_180 0 17 (dk_at dksX4_count_1 21 rfl rfl)
theorem dX4_count_48 : decode cX4_count 48 = .ok (.iconst 3, 1) := dk_6 (dk_at dksX4_count_2 0 rfl rfl)
theorem dX4_count_49 : decode cX4_count 49 = .ok (.iaload, 1) := dk_46 (dk_at dksX4_count_2 1 rfl rfl)
theorem dX4_count_50 : decode cX4_count 50 = .ok (.if_icmp .ge 25, 3) := dk_162 0 25 (dk_at dksX4_count_2 2 rfl rfl)
theorem dX4_count_53 : decode cX4_count 53 = .ok (.iload_n 2, 1) := dk_28 (dk_at dksX4_count_2 5 rfl rfl)
theorem dX4_count_54 : decode cX4_count 54 = .ok (.aload_n 0, 1) := dk_42 (dk_at dksX4_count_2 6 rfl rfl)
theorem dX4_count_55 : decode cX4_count 55 = .ok (.iload_n 3, 1) := dk_29 (dk_at dksX4_count_2 7 rfl rfl)
theorem dX4_count_56 : decode cX4_count 56 = .ok (.invokevirtual 42, 3) := dk_182 0 42 (dk_at dksX4_count_2 8 rfl rfl)
theorem dX4_count_59 : decode cX4_count 59 = .ok (.ifCond .eq 7, 3) := dk_153 0 7 (dk_at dksX4_count_2 11 rfl rfl)
theorem dX4_count_62 : decode cX4_count 62 = .ok (.iconst 1, 1) := dk_4 (dk_at dksX4_count_2 14 rfl rfl)
theorem dX4_count_63 : decode cX4_count 63 = .ok (.goto 4, 3) := dk_167 0 4 (dk_at dksX4_count_2 15 rfl rfl)
theorem dX4_count_66 : decode cX4_count 66 = .ok (.iconst 0, 1) := dk_3 (dk_at dksX4_count_2 18 rfl rfl)
theorem dX4_count_67 : decode cX4_count 67 = .ok (.iadd, 1) := dk_96 (dk_at dksX4_count_2 19 rfl rfl)
theorem dX4_count_68 : decode cX4_count 68 = .ok (.istore_n 2, 1) := dk_61 (dk_at dksX4_count_2 20 rfl rfl)
theorem dX4_count_69 : decode cX4_count 69 = .ok (.iinc 3 1, 3) := dk_132 3 1 (dk_at dksX4_count_2 21 rfl rfl)
theorem dX4_count_72 : decode cX4_count 72 = .ok (.goto (-29), 3) := dk_167 255 227 (dk_at dksX4_count_3 0 rfl rfl)
theorem dX4_count_75 : decode cX4_count 75 = .ok (.iload_n 1, 1) := dk_27 (dk_at dksX4_count_3 3 rfl rfl)
theorem dX4_count_76 : decode cX4_count 76 = .ok (.iconst 4, 1) := dk_7 (dk_at dksX4_count_3 4 rfl rfl)
theorem dX4_count_77 : decode cX4_count 77 = .ok (.if_icmp .ne 7, 3) := dk_160 0 7 (dk_at dksX4_count_3 5 rfl rfl)
theorem dX4_count_80 : decode cX4_count 80 = .ok (.iload_n 2, 1) := dk_28 (dk_at dksX4_count_3 8 rfl rfl)
theorem dX4_count_81 : decode cX4_count 81 = .ok (.goto 9, 3) := dk_167 0 9 (dk_at dksX4_count_3 9 rfl rfl)
theorem dX4_count_84 : decode cX4_count 84 = .ok (.aload_n 0, 1) := dk_42 (dk_at dksX4_count_3 12 rfl rfl)
theorem dX4_count_85 : decode cX4_count 85 = .ok (.getfield 17, 3) := dk_180 0 17 (dk_at dksX4_count_3 13 rfl rfl)
theorem dX4_count_88 : decode cX4_count 88 = .ok (.iload_n 1, 1) := dk_27 (dk_at dksX4_count_3 16 rfl rfl)
theorem dX4_count_89 : decode cX4_count 89 = .ok (.iaload, 1) := dk_46 (dk_at dksX4_count_3 17 rfl rfl)
theorem dX4_count_90 : decode cX4_count 90 = .ok (.ireturn, 1) := dk_172 (dk_at dksX4_count_3 18 rfl rfl)
abbrev cX4_claimedNow : ByteArray := prog_10_method_60_code
def yX4_claimedNow : MethodName := ⟨RX4, "claimedNow", "()I"⟩
def dkwX4_claimedNow_1 : List UInt8 := [3, 167, 0, 4, 4, 96, 60, 132, 2, 1, 167, 255, 226, 27, 172]
abbrev dktX4_claimedNow_1 : List UInt8 := dkwX4_claimedNow_1 ++ []
def dkwX4_claimedNow_0 : List UInt8 := [3, 60, 3, 61, 28, 42, 180, 0, 17, 5, 46, 162, 0, 26, 27, 42, 28, 182, 1, 14, 2, 160, 0, 7]
abbrev dktX4_claimedNow_0 : List UInt8 := dkwX4_claimedNow_0 ++ dktX4_claimedNow_1
theorem dksX4_claimedNow_0 : cX4_claimedNow.data.toList.drop 0 = dktX4_claimedNow_0 := by decide +kernel
theorem dksX4_claimedNow_1 : cX4_claimedNow.data.toList.drop 24 = dktX4_claimedNow_1 := dk_seg dksX4_claimedNow_0 24 rfl rfl
theorem dX4_claimedNow_0 : decode cX4_claimedNow 0 = .ok (.iconst 0, 1) := dk_3 (dk_at dksX4_claimedNow_0 0 rfl rfl)
theorem dX4_claimedNow_1 : decode cX4_claimedNow 1 = .ok (.istore_n 1, 1) := dk_60 (dk_at dksX4_claimedNow_0 1 rfl rfl)
theorem dX4_claimedNow_2 : decode cX4_claimedNow 2 = .ok (.iconst 0, 1) := dk_3 (dk_at dksX4_claimedNow_0 2 rfl rfl)
theorem dX4_claimedNow_3 : decode cX4_claimedNow 3 = .ok (.istore_n 2, 1) := dk_61 (dk_at dksX4_claimedNow_0 3 rfl rfl)
theorem dX4_claimedNow_4 : decode cX4_claimedNow 4 = .ok (.iload_n 2, 1) := dk_28 (dk_at dksX4_claimedNow_0 4 rfl rfl)
theorem dX4_claimedNow_5 : decode cX4_claimedNow 5 = .ok (.aload_n 0, 1) := dk_42 (dk_at dksX4_claimedNow_0 5 rfl rfl)
theorem dX4_claimedNow_6 : decode cX4_claimedNow 6 = .ok (.getfield 17, 3) := dk_180 0 17 (dk_at dksX4_claimedNow_0 6 rfl rfl)
theorem dX4_claimedNow_9 : decode cX4_claimedNow 9 = .ok (.iconst 2, 1) := dk_5 (dk_at dksX4_claimedNow_0 9 rfl rfl)
theorem dX4_claimedNow_10 : decode cX4_claimedNow 10 = .ok (.iaload, 1) := dk_46 (dk_at dksX4_claimedNow_0 10 rfl rfl)
theorem dX4_claimedNow_11 : decode cX4_claimedNow 11 = .ok (.if_icmp .ge 26, 3) := dk_162 0 26 (dk_at dksX4_claimedNow_0 11 rfl rfl)
theorem dX4_claimedNow_14 : decode cX4_claimedNow 14 = .ok (.iload_n 1, 1) := dk_27 (dk_at dksX4_claimedNow_0 14 rfl rfl)
theorem dX4_claimedNow_15 : decode cX4_claimedNow 15 = .ok (.aload_n 0, 1) := dk_42 (dk_at dksX4_claimedNow_0 15 rfl rfl)
theorem dX4_claimedNow_16 : decode cX4_claimedNow 16 = .ok (.iload_n 2, 1) := dk_28 (dk_at dksX4_claimedNow_0 16 rfl rfl)
theorem dX4_claimedNow_17 : decode cX4_claimedNow 17 = .ok (.invokevirtual 270, 3) := dk_182 1 14 (dk_at dksX4_claimedNow_0 17 rfl rfl)
theorem dX4_claimedNow_20 : decode cX4_claimedNow 20 = .ok (.iconst (-1), 1) := dk_2 (dk_at dksX4_claimedNow_0 20 rfl rfl)
theorem dX4_claimedNow_21 : decode cX4_claimedNow 21 = .ok (.if_icmp .ne 7, 3) := dk_160 0 7 (dk_at dksX4_claimedNow_0 21 rfl rfl)
theorem dX4_claimedNow_24 : decode cX4_claimedNow 24 = .ok (.iconst 0, 1) := dk_3 (dk_at dksX4_claimedNow_1 0 rfl rfl)
theorem dX4_claimedNow_25 : decode cX4_claimedNow 25 = .ok (.goto 4, 3) := dk_167 0 4 (dk_at dksX4_claimedNow_1 1 rfl rfl)
theorem dX4_claimedNow_28 : decode cX4_claimedNow 28 = .ok (.iconst 1, 1) := dk_4 (dk_at dksX4_claimedNow_1 4 rfl rfl)
theorem dX4_claimedNow_29 : decode cX4_claimedNow 29 = .ok (.iadd, 1) := dk_96 (dk_at dksX4_claimedNow_1 5 rfl rfl)
theorem dX4_claimedNow_30 : decode cX4_claimedNow 30 = .ok (.istore_n 1, 1) := dk_60 (dk_at dksX4_claimedNow_1 6 rfl rfl)
theorem dX4_claimedNow_31 : decode cX4_claimedNow 31 = .ok (.iinc 2 1, 3) := dk_132 2 1 (dk_at dksX4_claimedNow_1 7 rfl rfl)
theorem dX4_claimedNow_34 : decode cX4_claimedNow 34 = .ok (.goto (-30), 3) := dk_167 255 226 (dk_at dksX4_claimedNow_1 10 rfl rfl)
theorem dX4_claimedNow_37 : decode cX4_claimedNow 37 = .ok (.iload_n 1, 1) := dk_27 (dk_at dksX4_claimedNow_1 13 rfl rfl)
theorem dX4_claimedNow_38 : decode cX4_claimedNow 38 = .ok (.ireturn, 1) := dk_172 (dk_at dksX4_claimedNow_1 14 rfl rfl)
abbrev cX4_claimerOf : ByteArray := prog_10_method_59_code
def yX4_claimerOf : MethodName := ⟨RX4, "claimerOf", "(I)I"⟩
def dkwX4_claimerOf_1 : List UInt8 := [46, 2, 182, 1, 11, 172]
abbrev dktX4_claimerOf_1 : List UInt8 := dkwX4_claimerOf_1 ++ []
def dkwX4_claimerOf_0 : List UInt8 := [42, 42, 180, 0, 17, 16, 6, 6, 27, 104, 96, 46, 42, 180, 0, 17, 16, 6, 6, 27, 104, 96, 4, 96]
abbrev dktX4_claimerOf_0 : List UInt8 := dkwX4_claimerOf_0 ++ dktX4_claimerOf_1
theorem dksX4_claimerOf_0 : cX4_claimerOf.data.toList.drop 0 = dktX4_claimerOf_0 := by decide +kernel
theorem dksX4_claimerOf_1 : cX4_claimerOf.data.toList.drop 24 = dktX4_claimerOf_1 := dk_seg dksX4_claimerOf_0 24 rfl rfl
theorem dX4_claimerOf_0 : decode cX4_claimerOf 0 = .ok (.aload_n 0, 1) := dk_42 (dk_at dksX4_claimerOf_0 0 rfl rfl)
theorem dX4_claimerOf_1 : decode cX4_claimerOf 1 = .ok (.aload_n 0, 1) := dk_42 (dk_at dksX4_claimerOf_0 1 rfl rfl)
theorem dX4_claimerOf_2 : decode cX4_claimerOf 2 = .ok (.getfield 17, 3) := dk_180 0 17 (dk_at dksX4_claimerOf_0 2 rfl rfl)
theorem dX4_claimerOf_5 : decode cX4_claimerOf 5 = .ok (.bipush 6, 2) := dk_16 6 (dk_at dksX4_claimerOf_0 5 rfl rfl)
theorem dX4_claimerOf_7 : decode cX4_claimerOf 7 = .ok (.iconst 3, 1) := dk_6 (dk_at dksX4_claimerOf_0 7 rfl rfl)
theorem dX4_claimerOf_8 : decode cX4_claimerOf 8 = .ok (.iload_n 1, 1) := dk_27 (dk_at dksX4_claimerOf_0 8 rfl rfl)
theorem dX4_claimerOf_9 : decode cX4_claimerOf 9 = .ok (.imul, 1) := dk_104 (dk_at dksX4_claimerOf_0 9 rfl rfl)
theorem dX4_claimerOf_10 : decode cX4_claimerOf 10 = .ok (.iadd, 1) := dk_96 (dk_at dksX4_claimerOf_0 10 rfl rfl)
theorem dX4_claimerOf_11 : decode cX4_claimerOf 11 = .ok (.iaload, 1) := dk_46 (dk_at dksX4_claimerOf_0 11 rfl rfl)
theorem dX4_claimerOf_12 : decode cX4_claimerOf 12 = .ok (.aload_n 0, 1) := dk_42 (dk_at dksX4_claimerOf_0 12 rfl rfl)
theorem dX4_claimerOf_13 : decode cX4_claimerOf 13 = .ok (.getfield 17, 3) := dk_180 0 17 (dk_at dksX4_claimerOf_0 13 rfl rfl)
theorem dX4_claimerOf_16 : decode cX4_claimerOf 16 = .ok (.bipush 6, 2) := dk_16 6 (dk_at dksX4_claimerOf_0 16 rfl rfl)
theorem dX4_claimerOf_18 : decode cX4_claimerOf 18 = .ok (.iconst 3, 1) := dk_6 (dk_at dksX4_claimerOf_0 18 rfl rfl)
theorem dX4_claimerOf_19 : decode cX4_claimerOf 19 = .ok (.iload_n 1, 1) := dk_27 (dk_at dksX4_claimerOf_0 19 rfl rfl)
theorem dX4_claimerOf_20 : decode cX4_claimerOf 20 = .ok (.imul, 1) := dk_104 (dk_at dksX4_claimerOf_0 20 rfl rfl)
theorem dX4_claimerOf_21 : decode cX4_claimerOf 21 = .ok (.iadd, 1) := dk_96 (dk_at dksX4_claimerOf_0 21 rfl rfl)
theorem dX4_claimerOf_22 : decode cX4_claimerOf 22 = .ok (.iconst 1, 1) := dk_4 (dk_at dksX4_claimerOf_0 22 rfl rfl)
theorem dX4_claimerOf_23 : decode cX4_claimerOf 23 = .ok (.iadd, 1) := dk_96 (dk_at dksX4_claimerOf_0 23 rfl rfl)
theorem dX4_claimerOf_24 : decode cX4_claimerOf 24 = .ok (.iaload, 1) := dk_46 (dk_at dksX4_claimerOf_1 0 rfl rfl)
theorem dX4_claimerOf_25 : decode cX4_claimerOf 25 = .ok (.iconst (-1), 1) := dk_2 (dk_at dksX4_claimerOf_1 1 rfl rfl)
theorem dX4_claimerOf_26 : decode cX4_claimerOf 26 = .ok (.invokevirtual 267, 3) := dk_182 1 11 (dk_at dksX4_claimerOf_1 2 rfl rfl)
theorem dX4_claimerOf_29 : decode cX4_claimerOf 29 = .ok (.ireturn, 1) := dk_172 (dk_at dksX4_claimerOf_1 5 rfl rfl)
abbrev cX4_around : ByteArray := prog_10_method_58_code
def yX4_around : MethodName := ⟨RX4, "around", "(III)I"⟩
def dkwX4_around_3 : List UInt8 := [132, 5, 1, 167, 255, 190, 21, 4, 172]
abbrev dktX4_around_3 : List UInt8 := dkwX4_around_3 ++ []
def dkwX4_around_2 : List UInt8 := [159, 0, 18, 42, 21, 5, 182, 1, 8, 42, 21, 4, 182, 1, 8, 162, 0, 7, 21, 5, 54, 4]
abbrev dktX4_around_2 : List UInt8 := dkwX4_around_2 ++ dktX4_around_3
def dkwX4_around_1 : List UInt8 := [21, 5, 182, 0, 42, 153, 0, 40, 42, 21, 5, 27, 28, 182, 1, 5, 5, 160, 0, 28, 21, 4, 2]
abbrev dktX4_around_1 : List UInt8 := dkwX4_around_1 ++ dktX4_around_2
def dkwX4_around_0 : List UInt8 := [2, 54, 4, 3, 54, 5, 21, 5, 42, 180, 0, 17, 6, 46, 162, 0, 61, 21, 5, 29, 159, 0, 49, 42]
abbrev dktX4_around_0 : List UInt8 := dkwX4_around_0 ++ dktX4_around_1
theorem dksX4_around_0 : cX4_around.data.toList.drop 0 = dktX4_around_0 := by decide +kernel
theorem dksX4_around_1 : cX4_around.data.toList.drop 24 = dktX4_around_1 := dk_seg dksX4_around_0 24 rfl rfl
theorem dksX4_around_2 : cX4_around.data.toList.drop 47 = dktX4_around_2 := dk_seg dksX4_around_1 23 rfl rfl
theorem dksX4_around_3 : cX4_around.data.toList.drop 69 = dktX4_around_3 := dk_seg dksX4_around_2 22 rfl rfl
theorem dX4_around_0 : decode cX4_around 0 = .ok (.iconst (-1), 1) := dk_2 (dk_at dksX4_around_0 0 rfl rfl)
theorem dX4_around_1 : decode cX4_around 1 = .ok (.istore 4, 2) := dk_54 4 (dk_at dksX4_around_0 1 rfl rfl)
theorem dX4_around_3 : decode cX4_around 3 = .ok (.iconst 0, 1) := dk_3 (dk_at dksX4_around_0 3 rfl rfl)
theorem dX4_around_4 : decode cX4_around 4 = .ok (.istore 5, 2) := dk_54 5 (dk_at dksX4_around_0 4 rfl rfl)
theorem dX4_around_6 : decode cX4_around 6 = .ok (.iload 5, 2) := dk_21 5 (dk_at dksX4_around_0 6 rfl rfl)
theorem dX4_around_8 : decode cX4_around 8 = .ok (.aload_n 0, 1) := dk_42 (dk_at dksX4_around_0 8 rfl rfl)
theorem dX4_around_9 : decode cX4_around 9 = .ok (.getfield 17, 3) := dk_180 0 17 (dk_at dksX4_around_0 9 rfl rfl)
theorem dX4_around_12 : decode cX4_around 12 = .ok (.iconst 3, 1) := dk_6 (dk_at dksX4_around_0 12 rfl rfl)
theorem dX4_around_13 : decode cX4_around 13 = .ok (.iaload, 1) := dk_46 (dk_at dksX4_around_0 13 rfl rfl)
theorem dX4_around_14 : decode cX4_around 14 = .ok (.if_icmp .ge 61, 3) := dk_162 0 61 (dk_at dksX4_around_0 14 rfl rfl)
theorem dX4_around_17 : decode cX4_around 17 = .ok (.iload 5, 2) := dk_21 5 (dk_at dksX4_around_0 17 rfl rfl)
theorem dX4_around_19 : decode cX4_around 19 = .ok (.iload_n 3, 1) := dk_29 (dk_at dksX4_around_0 19 rfl rfl)
theorem dX4_around_20 : decode cX4_around 20 = .ok (.if_icmp .eq 49, 3) := dk_159 0 49 (dk_at dksX4_around_0 20 rfl rfl)
theorem dX4_around_23 : decode cX4_around 23 = .ok (.aload_n 0, 1) := dk_42 (dk_at dksX4_around_0 23 rfl rfl)
theorem dX4_around_24 : decode cX4_around 24 = .ok (.iload 5, 2) := dk_21 5 (dk_at dksX4_around_1 0 rfl rfl)
theorem dX4_around_26 : decode cX4_around 26 = .ok (.invokevirtual 42, 3) := dk_182 0 42 (dk_at dksX4_around_1 2 rfl rfl)
theorem dX4_around_29 : decode cX4_around 29 = .ok (.ifCond .eq 40, 3) := dk_153 0 40 (dk_at dksX4_around_1 5 rfl rfl)
theorem dX4_around_32 : decode cX4_around 32 = .ok (.aload_n 0, 1) := dk_42 (dk_at dksX4_around_1 8 rfl rfl)
theorem dX4_around_33 : decode cX4_around 33 = .ok (.iload 5, 2) := dk_21 5 (dk_at dksX4_around_1 9 rfl rfl)
theorem dX4_around_35 : decode cX4_around 35 = .ok (.iload_n 1, 1) := dk_27 (dk_at dksX4_around_1 11 rfl rfl)
theorem dX4_around_36 : decode cX4_around 36 = .ok (.iload_n 2, 1) := dk_28 (dk_at dksX4_around_1 12 rfl rfl)
theorem dX4_around_37 : decode cX4_around 37 = .ok (.invokevirtual 261, 3) := dk_182 1 5 (dk_at dksX4_around_1 13 rfl rfl)
theorem dX4_around_40 : decode cX4_around 40 = .ok (.iconst 2, 1) := dk_5 (dk_at dksX4_around_1 16 rfl rfl)
theorem dX4_around_41 : decode cX4_around 41 = .ok (.if_icmp .ne 28, 3) := dk_160 0 28 (dk_at dksX4_around_1 17 rfl rfl)
theorem dX4_around_44 : decode cX4_around 44 = .ok (.iload 4, 2) := dk_21 4 (dk_at dksX4_around_1 20 rfl rfl)
theorem dX4_around_46 : decode cX4_around 46 = .ok (.iconst (-1), 1) := dk_2 (dk_at dksX4_around_1 22 rfl rfl)
theorem dX4_around_47 : decode cX4_around 47 = .ok (.if_icmp .eq 18, 3) := dk_159 0 18 (dk_at dksX4_around_2 0 rfl rfl)
theorem dX4_around_50 : decode cX4_around 50 = .ok (.aload_n 0, 1) := dk_42 (dk_at dksX4_around_2 3 rfl rfl)
theorem dX4_around_51 : decode cX4_around 51 = .ok (.iload 5, 2) := dk_21 5 (dk_at dksX4_around_2 4 rfl rfl)
theorem dX4_around_53 : decode cX4_around 53 = .ok (.invokevirtual 264, 3) := dk_182 1 8 (dk_at dksX4_around_2 6 rfl rfl)
theorem dX4_around_56 : decode cX4_around 56 = .ok (.aload_n 0, 1) := dk_42 (dk_at dksX4_around_2 9 rfl rfl)
theorem dX4_around_57 : decode cX4_around 57 = .ok (.iload 4, 2) := dk_21 4 (dk_at dksX4_around_2 10 rfl rfl)
theorem dX4_around_59 : decode cX4_around 59 = .ok (.invokevirtual 264, 3) := dk_182 1 8 (dk_at dksX4_around_2 12 rfl rfl)
theorem dX4_around_62 : decode cX4_around 62 = .ok (.if_icmp .ge 7, 3) := dk_162 0 7 (dk_at dksX4_around_2 15 rfl rfl)
theorem dX4_around_65 : decode cX4_around 65 = .ok (.iload 5, 2) := dk_21 5 (dk_at dksX4_around_2 18 rfl rfl)
theorem dX4_around_67 : decode cX4_around 67 = .ok (.istore 4, 2) := dk_54 4 (dk_at dksX4_around_2 20 rfl rfl)
theorem dX4_around_69 : decode cX4_around 69 = .ok (.iinc 5 1, 3) := dk_132 5 1 (dk_at dksX4_around_3 0 rfl rfl)
theorem dX4_around_72 : decode cX4_around 72 = .ok (.goto (-66), 3) := dk_167 255 190 (dk_at dksX4_around_3 3 rfl rfl)
theorem dX4_around_75 : decode cX4_around 75 = .ok (.iload 4, 2) := dk_21 4 (dk_at dksX4_around_3 6 rfl rfl)
theorem dX4_around_77 : decode cX4_around 77 = .ok (.ireturn, 1) := dk_172 (dk_at dksX4_around_3 8 rfl rfl)
abbrev cX4_sideOf : ByteArray := prog_10_method_55_code
def yX4_sideOf : MethodName := ⟨RX4, "sideOf", "(III)I"⟩
def dkwX4_sideOf_7 : List UInt8 := [153, 0, 7, 5, 167, 0, 4, 3, 172]
abbrev dktX4_sideOf_7 : List UInt8 := dkwX4_sideOf_7 ++ []
def dkwX4_sideOf_6 : List UInt8 := [156, 0, 15, 21, 4, 154, 0, 7, 4, 167, 0, 4, 3, 54, 4, 132, 5, 1, 167, 255, 104, 21, 4]
abbrev dktX4_sideOf_6 : List UInt8 := dkwX4_sideOf_6 ++ dktX4_sideOf_7
def dkwX4_sideOf_5 : List UInt8 := [184, 0, 46, 54, 10, 21, 9, 21, 7, 164, 0, 11, 21, 10, 158, 0, 23, 167, 0, 8, 21, 10]
abbrev dktX4_sideOf_5 : List UInt8 := dkwX4_sideOf_5 ++ dktX4_sideOf_6
def dkwX4_sideOf_4 : List UInt8 := [164, 0, 7, 4, 167, 0, 4, 3, 160, 0, 6, 167, 0, 50, 21, 6, 21, 7, 21, 8, 21, 9, 28, 29]
abbrev dktX4_sideOf_4 : List UInt8 := dkwX4_sideOf_4 ++ dktX4_sideOf_5
def dkwX4_sideOf_3 : List UInt8 := [28, 29, 184, 0, 61, 153, 0, 5, 4, 172, 21, 7, 29, 164, 0, 7, 4, 167, 0, 4, 3, 21, 9, 29]
abbrev dktX4_sideOf_3 : List UInt8 := dkwX4_sideOf_3 ++ dktX4_sideOf_4
def dkwX4_sideOf_2 : List UInt8 := [54, 8, 42, 27, 42, 27, 21, 5, 182, 0, 84, 182, 0, 75, 54, 9, 21, 6, 21, 7, 21, 8, 21, 9]
abbrev dktX4_sideOf_2 : List UInt8 := dkwX4_sideOf_2 ++ dktX4_sideOf_3
def dkwX4_sideOf_1 : List UInt8 := [54, 6, 42, 27, 21, 5, 182, 0, 75, 54, 7, 42, 27, 42, 27, 21, 5, 182, 0, 84, 182, 0, 72]
abbrev dktX4_sideOf_1 : List UInt8 := dkwX4_sideOf_1 ++ dktX4_sideOf_2
def dkwX4_sideOf_0 : List UInt8 := [3, 54, 4, 3, 54, 5, 21, 5, 42, 27, 182, 0, 39, 162, 0, 148, 42, 27, 21, 5, 182, 0, 72]
abbrev dktX4_sideOf_0 : List UInt8 := dkwX4_sideOf_0 ++ dktX4_sideOf_1
theorem dksX4_sideOf_0 : cX4_sideOf.data.toList.drop 0 = dktX4_sideOf_0 := by decide +kernel
theorem dksX4_sideOf_1 : cX4_sideOf.data.toList.drop 23 = dktX4_sideOf_1 := dk_seg dksX4_sideOf_0 23 rfl rfl
theorem dksX4_sideOf_2 : cX4_sideOf.data.toList.drop 46 = dktX4_sideOf_2 := dk_seg dksX4_sideOf_1 23 rfl rfl
theorem dksX4_sideOf_3 : cX4_sideOf.data.toList.drop 70 = dktX4_sideOf_3 := dk_seg dksX4_sideOf_2 24 rfl rfl
theorem dksX4_sideOf_4 : cX4_sideOf.data.toList.drop 94 = dktX4_sideOf_4 := dk_seg dksX4_sideOf_3 24 rfl rfl
theorem dksX4_sideOf_5 : cX4_sideOf.data.toList.drop 118 = dktX4_sideOf_5 := dk_seg dksX4_sideOf_4 24 rfl rfl
theorem dksX4_sideOf_6 : cX4_sideOf.data.toList.drop 140 = dktX4_sideOf_6 := dk_seg dksX4_sideOf_5 22 rfl rfl
theorem dksX4_sideOf_7 : cX4_sideOf.data.toList.drop 163 = dktX4_sideOf_7 := dk_seg dksX4_sideOf_6 23 rfl rfl
theorem dX4_sideOf_0 : decode cX4_sideOf 0 = .ok (.iconst 0, 1) := dk_3 (dk_at dksX4_sideOf_0 0 rfl rfl)
theorem dX4_sideOf_1 : decode cX4_sideOf 1 = .ok (.istore 4, 2) := dk_54 4 (dk_at dksX4_sideOf_0 1 rfl rfl)
theorem dX4_sideOf_3 : decode cX4_sideOf 3 = .ok (.iconst 0, 1) := dk_3 (dk_at dksX4_sideOf_0 3 rfl rfl)
theorem dX4_sideOf_4 : decode cX4_sideOf 4 = .ok (.istore 5, 2) := dk_54 5 (dk_at dksX4_sideOf_0 4 rfl rfl)
theorem dX4_sideOf_6 : decode cX4_sideOf 6 = .ok (.iload 5, 2) := dk_21 5 (dk_at dksX4_sideOf_0 6 rfl rfl)
theorem dX4_sideOf_8 : decode cX4_sideOf 8 = .ok (.aload_n 0, 1) := dk_42 (dk_at dksX4_sideOf_0 8 rfl rfl)
theorem dX4_sideOf_9 : decode cX4_sideOf 9 = .ok (.iload_n 1, 1) := dk_27 (dk_at dksX4_sideOf_0 9 rfl rfl)
theorem dX4_sideOf_10 : decode cX4_sideOf 10 = .ok (.invokevirtual 39, 3) := dk_182 0 39 (dk_at dksX4_sideOf_0 10 rfl rfl)
theorem dX4_sideOf_13 : decode cX4_sideOf 13 = .ok (.if_icmp .ge 148, 3) := dk_162 0 148 (dk_at dksX4_sideOf_0 13 rfl rfl)
theorem dX4_sideOf_16 : decode cX4_sideOf 16 = .ok (.aload_n 0, 1) := dk_42 (dk_at dksX4_sideOf_0 16 rfl rfl)
theorem dX4_sideOf_17 : decode cX4_sideOf 17 = .ok (.iload_n 1, 1) := dk_27 (dk_at dksX4_sideOf_0 17 rfl rfl)
theorem dX4_sideOf_18 : decode cX4_sideOf 18 = .ok (.iload 5, 2) := dk_21 5 (dk_at dksX4_sideOf_0 18 rfl rfl)
theorem dX4_sideOf_20 : decode cX4_sideOf 20 = .ok (.invokevirtual 72, 3) := dk_182 0 72 (dk_at dksX4_sideOf_0 20 rfl rfl)
theorem dX4_sideOf_23 : decode cX4_sideOf 23 = .ok (.istore 6, 2) := dk_54 6 (dk_at dksX4_sideOf_1 0 rfl rfl)
theorem dX4_sideOf_25 : decode cX4_sideOf 25 = .ok (.aload_n 0, 1) := dk_42 (dk_at dksX4_sideOf_1 2 rfl rfl)
theorem dX4_sideOf_26 : decode cX4_sideOf 26 = .ok (.iload_n 1, 1) := dk_27 (dk_at dksX4_sideOf_1 3 rfl rfl)
theorem dX4_sideOf_27 : decode cX4_sideOf 27 = .ok (.iload 5, 2) := dk_21 5 (dk_at dksX4_sideOf_1 4 rfl rfl)
theorem dX4_sideOf_29 : decode cX4_sideOf 29 = .ok (.invokevirtual 75, 3) := dk_182 0 75 (dk_at dksX4_sideOf_1 6 rfl rfl)
theorem dX4_sideOf_32 : decode cX4_sideOf 32 = .ok (.istore 7, 2) := dk_54 7 (dk_at dksX4_sideOf_1 9 rfl rfl)
theorem dX4_sideOf_34 : decode cX4_sideOf 34 = .ok (.aload_n 0, 1) := dk_42 (dk_at dksX4_sideOf_1 11 rfl rfl)
theorem dX4_sideOf_35 : decode cX4_sideOf 35 = .ok (.iload_n 1, 1) := dk_27 (dk_at dksX4_sideOf_1 12 rfl rfl)
theorem dX4_sideOf_36 : decode cX4_sideOf 36 = .ok (.aload_n 0, 1) := dk_42 (dk_at dksX4_sideOf_1 13 rfl rfl)
theorem dX4_sideOf_37 : decode cX4_sideOf 37 = .ok (.iload_n 1, 1) := dk_27 (dk_at dksX4_sideOf_1 14 rfl rfl)
theorem dX4_sideOf_38 : decode cX4_sideOf 38 = .ok (.iload 5, 2) := dk_21 5 (dk_at dksX4_sideOf_1 15 rfl rfl)
theorem dX4_sideOf_40 : decode cX4_sideOf 40 = .ok (.invokevirtual 84, 3) := dk_182 0 84 (dk_at dksX4_sideOf_1 17 rfl rfl)
theorem dX4_sideOf_43 : decode cX4_sideOf 43 = .ok (.invokevirtual 72, 3) := dk_182 0 72 (dk_at dksX4_sideOf_1 20 rfl rfl)
theorem dX4_sideOf_46 : decode cX4_sideOf 46 = .ok (.istore 8, 2) := dk_54 8 (dk_at dksX4_sideOf_2 0 rfl rfl)
theorem dX4_sideOf_48 : decode cX4_sideOf 48 = .ok (.aload_n 0, 1) := dk_42 (dk_at dksX4_sideOf_2 2 rfl rfl)
theorem dX4_sideOf_49 : decode cX4_sideOf 49 = .ok (.iload_n 1, 1) := dk_27 (dk_at dksX4_sideOf_2 3 rfl rfl)
theorem dX4_sideOf_50 : decode cX4_sideOf 50 = .ok (.aload_n 0, 1) := dk_42 (dk_at dksX4_sideOf_2 4 rfl rfl)
theorem dX4_sideOf_51 : decode cX4_sideOf 51 = .ok (.iload_n 1, 1) := dk_27 (dk_at dksX4_sideOf_2 5 rfl rfl)
theorem dX4_sideOf_52 : decode cX4_sideOf 52 = .ok (.iload 5, 2) := dk_21 5 (dk_at dksX4_sideOf_2 6 rfl rfl)
theorem dX4_sideOf_54 : decode cX4_sideOf 54 = .ok (.invokevirtual 84, 3) := dk_182 0 84 (dk_at dksX4_sideOf_2 8 rfl rfl)
theorem dX4_sideOf_57 : decode cX4_sideOf 57 = .ok (.invokevirtual 75, 3) := dk_182 0 75 (dk_at dksX4_sideOf_2 11 rfl rfl)
theorem dX4_sideOf_60 : decode cX4_sideOf 60 = .ok (.istore 9, 2) := dk_54 9 (dk_at dksX4_sideOf_2 14 rfl rfl)
theorem dX4_sideOf_62 : decode cX4_sideOf 62 = .ok (.iload 6, 2) := dk_21 6 (dk_at dksX4_sideOf_2 16 rfl rfl)
theorem dX4_sideOf_64 : decode cX4_sideOf 64 = .ok (.iload 7, 2) := dk_21 7 (dk_at dksX4_sideOf_2 18 rfl rfl)
theorem dX4_sideOf_66 : decode cX4_sideOf 66 = .ok (.iload 8, 2) := dk_21 8 (dk_at dksX4_sideOf_2 20 rfl rfl)
theorem dX4_sideOf_68 : decode cX4_sideOf 68 = .ok (.iload 9, 2) := dk_21 9 (dk_at dksX4_sideOf_2 22 rfl rfl)
theorem dX4_sideOf_70 : decode cX4_sideOf 70 = .ok (.iload_n 2, 1) := dk_28 (dk_at dksX4_sideOf_3 0 rfl rfl)
theorem dX4_sideOf_71 : decode cX4_sideOf 71 = .ok (.iload_n 3, 1) := dk_29 (dk_at dksX4_sideOf_3 1 rfl rfl)
theorem dX4_sideOf_72 : decode cX4_sideOf 72 = .ok (.invokestatic 61, 3) := dk_184 0 61 (dk_at dksX4_sideOf_3 2 rfl rfl)
theorem dX4_sideOf_75 : decode cX4_sideOf 75 = .ok (.ifCond .eq 5, 3) := dk_153 0 5 (dk_at dksX4_sideOf_3 5 rfl rfl)
theorem dX4_sideOf_78 : decode cX4_sideOf 78 = .ok (.iconst 1, 1) := dk_4 (dk_at dksX4_sideOf_3 8 rfl rfl)
theorem dX4_sideOf_79 : decode cX4_sideOf 79 = .ok (.ireturn, 1) := dk_172 (dk_at dksX4_sideOf_3 9 rfl rfl)
theorem dX4_sideOf_80 : decode cX4_sideOf 80 = .ok (.iload 7, 2) := dk_21 7 (dk_at dksX4_sideOf_3 10 rfl rfl)
theorem dX4_sideOf_82 : decode cX4_sideOf 82 = .ok (.iload_n 3, 1) := dk_29 (dk_at dksX4_sideOf_3 12 rfl rfl)
theorem dX4_sideOf_83 : decode cX4_sideOf 83 = .ok (.if_icmp .le 7, 3) := dk_164 0 7 (dk_at dksX4_sideOf_3 13 rfl rfl)
theorem dX4_sideOf_86 : decode cX4_sideOf 86 = .ok (.iconst 1, 1) := dk_4 (dk_at dksX4_sideOf_3 16 rfl rfl)
theorem dX4_sideOf_87 : decode cX4_sideOf 87 = .ok (.goto 4, 3) := dk_167 0 4 (dk_at dksX4_sideOf_3 17 rfl rfl)
theorem dX4_sideOf_90 : decode cX4_sideOf 90 = .ok (.iconst 0, 1) := dk_3 (dk_at dksX4_sideOf_3 20 rfl rfl)
theorem dX4_sideOf_91 : decode cX4_sideOf 91 = .ok (.iload 9, 2) := dk_21 9 (dk_at dksX4_sideOf_3 21 rfl rfl)
theorem dX4_sideOf_93 : decode cX4_sideOf 93 = .ok (.iload_n 3, 1) := dk_29 (dk_at dksX4_sideOf_3 23 rfl rfl)
theorem dX4_sideOf_94 : decode cX4_sideOf 94 = .ok (.if_icmp .le 7, 3) := dk_164 0 7 (dk_at dksX4_sideOf_4 0 rfl rfl)
theorem dX4_sideOf_97 : decode cX4_sideOf 97 = .ok (.iconst 1, 1) := dk_4 (dk_at dksX4_sideOf_4 3 rfl rfl)
theorem dX4_sideOf_98 : decode cX4_sideOf 98 = .ok (.goto 4, 3) := dk_167 0 4 (dk_at dksX4_sideOf_4 4 rfl rfl)
theorem dX4_sideOf_101 : decode cX4_sideOf 101 = .ok (.iconst 0, 1) := dk_3 (dk_at dksX4_sideOf_4 7 rfl rfl)
theorem dX4_sideOf_102 : decode cX4_sideOf 102 = .ok (.if_icmp .ne 6, 3) := dk_160 0 6 (dk_at dksX4_sideOf_4 8 rfl rfl)
theorem dX4_sideOf_105 : decode cX4_sideOf 105 = .ok (.goto 50, 3) := dk_167 0 50 (dk_at dksX4_sideOf_4 11 rfl rfl)
theorem dX4_sideOf_108 : decode cX4_sideOf 108 = .ok (.iload 6, 2) := dk_21 6 (dk_at dksX4_sideOf_4 14 rfl rfl)
theorem dX4_sideOf_110 : decode cX4_sideOf 110 = .ok (.iload 7, 2) := dk_21 7 (dk_at dksX4_sideOf_4 16 rfl rfl)
theorem dX4_sideOf_112 : decode cX4_sideOf 112 = .ok (.iload 8, 2) := dk_21 8 (dk_at dksX4_sideOf_4 18 rfl rfl)
theorem dX4_sideOf_114 : decode cX4_sideOf 114 = .ok (.iload 9, 2) := dk_21 9 (dk_at dksX4_sideOf_4 20 rfl rfl)
theorem dX4_sideOf_116 : decode cX4_sideOf 116 = .ok (.iload_n 2, 1) := dk_28 (dk_at dksX4_sideOf_4 22 rfl rfl)
theorem dX4_sideOf_117 : decode cX4_sideOf 117 = .ok (.iload_n 3, 1) := dk_29 (dk_at dksX4_sideOf_4 23 rfl rfl)
theorem dX4_sideOf_118 : decode cX4_sideOf 118 = .ok (.invokestatic 46, 3) := dk_184 0 46 (dk_at dksX4_sideOf_5 0 rfl rfl)
theorem dX4_sideOf_121 : decode cX4_sideOf 121 = .ok (.istore 10, 2) := dk_54 10 (dk_at dksX4_sideOf_5 3 rfl rfl)
theorem dX4_sideOf_123 : decode cX4_sideOf 123 = .ok (.iload 9, 2) := dk_21 9 (dk_at dksX4_sideOf_5 5 rfl rfl)
theorem dX4_sideOf_125 : decode cX4_sideOf 125 = .ok (.iload 7, 2) := dk_21 7 (dk_at dksX4_sideOf_5 7 rfl rfl)
theorem dX4_sideOf_127 : decode cX4_sideOf 127 = .ok (.if_icmp .le 11, 3) := dk_164 0 11 (dk_at dksX4_sideOf_5 9 rfl rfl)
theorem dX4_sideOf_130 : decode cX4_sideOf 130 = .ok (.iload 10, 2) := dk_21 10 (dk_at dksX4_sideOf_5 12 rfl rfl)
theorem dX4_sideOf_132 : decode cX4_sideOf 132 = .ok (.ifCond .le 23, 3) := dk_158 0 23 (dk_at dksX4_sideOf_5 14 rfl rfl)
theorem dX4_sideOf_135 : decode cX4_sideOf 135 = .ok (.goto 8, 3) := dk_167 0 8 (dk_at dksX4_sideOf_5 17 rfl rfl)
theorem dX4_sideOf_138 : decode cX4_sideOf 138 = .ok (.iload 10, 2) := dk_21 10 (dk_at dksX4_sideOf_5 20 rfl rfl)
theorem dX4_sideOf_140 : decode cX4_sideOf 140 = .ok (.ifCond .ge 15, 3) := dk_156 0 15 (dk_at dksX4_sideOf_6 0 rfl rfl)
theorem dX4_sideOf_143 : decode cX4_sideOf 143 = .ok (.iload 4, 2) := dk_21 4 (dk_at dksX4_sideOf_6 3 rfl rfl)
theorem dX4_sideOf_145 : decode cX4_sideOf 145 = .ok (.ifCond .ne 7, 3) := dk_154 0 7 (dk_at dksX4_sideOf_6 5 rfl rfl)
theorem dX4_sideOf_148 : decode cX4_sideOf 148 = .ok (.iconst 1, 1) := dk_4 (dk_at dksX4_sideOf_6 8 rfl rfl)
theorem dX4_sideOf_149 : decode cX4_sideOf 149 = .ok (.goto 4, 3) := dk_167 0 4 (dk_at dksX4_sideOf_6 9 rfl rfl)
theorem dX4_sideOf_152 : decode cX4_sideOf 152 = .ok (.iconst 0, 1) := dk_3 (dk_at dksX4_sideOf_6 12 rfl rfl)
theorem dX4_sideOf_153 : decode cX4_sideOf 153 = .ok (.istore 4, 2) := dk_54 4 (dk_at dksX4_sideOf_6 13 rfl rfl)
theorem dX4_sideOf_155 : decode cX4_sideOf 155 = .ok (.iinc 5 1, 3) := dk_132 5 1 (dk_at dksX4_sideOf_6 15 rfl rfl)
theorem dX4_sideOf_158 : decode cX4_sideOf 158 = .ok (.goto (-152), 3) := dk_167 255 104 (dk_at dksX4_sideOf_6 18 rfl rfl)
theorem dX4_sideOf_161 : decode cX4_sideOf 161 = .ok (.iload 4, 2) := dk_21 4 (dk_at dksX4_sideOf_6 21 rfl rfl)
theorem dX4_sideOf_163 : decode cX4_sideOf 163 = .ok (.ifCond .eq 7, 3) := dk_153 0 7 (dk_at dksX4_sideOf_7 0 rfl rfl)
theorem dX4_sideOf_166 : decode cX4_sideOf 166 = .ok (.iconst 2, 1) := dk_5 (dk_at dksX4_sideOf_7 3 rfl rfl)
theorem dX4_sideOf_167 : decode cX4_sideOf 167 = .ok (.goto 4, 3) := dk_167 0 4 (dk_at dksX4_sideOf_7 4 rfl rfl)
theorem dX4_sideOf_170 : decode cX4_sideOf 170 = .ok (.iconst 0, 1) := dk_3 (dk_at dksX4_sideOf_7 7 rfl rfl)
theorem dX4_sideOf_171 : decode cX4_sideOf 171 = .ok (.ireturn, 1) := dk_172 (dk_at dksX4_sideOf_7 8 rfl rfl)
abbrev cX4_areaOf : ByteArray := prog_10_method_54_code
def yX4_areaOf : MethodName := ⟨RX4, "areaOf", "(I)I"⟩
def dkwX4_areaOf_0 : List UInt8 := [42, 27, 182, 1, 2, 61, 28, 156, 0, 8, 28, 116, 167, 0, 4, 28, 172]
abbrev dktX4_areaOf_0 : List UInt8 := dkwX4_areaOf_0 ++ []
theorem dksX4_areaOf_0 : cX4_areaOf.data.toList.drop 0 = dktX4_areaOf_0 := by decide +kernel
theorem dX4_areaOf_0 : decode cX4_areaOf 0 = .ok (.aload_n 0, 1) := dk_42 (dk_at dksX4_areaOf_0 0 rfl rfl)
theorem dX4_areaOf_1 : decode cX4_areaOf 1 = .ok (.iload_n 1, 1) := dk_27 (dk_at dksX4_areaOf_0 1 rfl rfl)
theorem dX4_areaOf_2 : decode cX4_areaOf 2 = .ok (.invokevirtual 258, 3) := dk_182 1 2 (dk_at dksX4_areaOf_0 2 rfl rfl)
theorem dX4_areaOf_5 : decode cX4_areaOf 5 = .ok (.istore_n 2, 1) := dk_61 (dk_at dksX4_areaOf_0 5 rfl rfl)
theorem dX4_areaOf_6 : decode cX4_areaOf 6 = .ok (.iload_n 2, 1) := dk_28 (dk_at dksX4_areaOf_0 6 rfl rfl)
theorem dX4_areaOf_7 : decode cX4_areaOf 7 = .ok (.ifCond .ge 8, 3) := dk_156 0 8 (dk_at dksX4_areaOf_0 7 rfl rfl)
theorem dX4_areaOf_10 : decode cX4_areaOf 10 = .ok (.iload_n 2, 1) := dk_28 (dk_at dksX4_areaOf_0 10 rfl rfl)
theorem dX4_areaOf_11 : decode cX4_areaOf 11 = .ok (.ineg, 1) := dk_116 (dk_at dksX4_areaOf_0 11 rfl rfl)
theorem dX4_areaOf_12 : decode cX4_areaOf 12 = .ok (.goto 4, 3) := dk_167 0 4 (dk_at dksX4_areaOf_0 12 rfl rfl)
theorem dX4_areaOf_15 : decode cX4_areaOf 15 = .ok (.iload_n 2, 1) := dk_28 (dk_at dksX4_areaOf_0 15 rfl rfl)
theorem dX4_areaOf_16 : decode cX4_areaOf 16 = .ok (.ireturn, 1) := dk_172 (dk_at dksX4_areaOf_0 16 rfl rfl)
abbrev cX4_doubled : ByteArray := prog_10_method_53_code
def yX4_doubled : MethodName := ⟨RX4, "doubled", "(I)I"⟩
def dkwX4_doubled_2 : List UInt8 := [182, 0, 75, 184, 0, 46, 96, 61, 132, 3, 1, 167, 255, 202, 28, 172]
abbrev dktX4_doubled_2 : List UInt8 := dkwX4_doubled_2 ++ []
def dkwX4_doubled_1 : List UInt8 := [29, 182, 0, 75, 42, 27, 42, 27, 29, 182, 0, 84, 182, 0, 72, 42, 27, 42, 27, 29, 182, 0, 84]
abbrev dktX4_doubled_1 : List UInt8 := dkwX4_doubled_1 ++ dktX4_doubled_2
def dkwX4_doubled_0 : List UInt8 := [3, 61, 3, 62, 29, 42, 27, 182, 0, 39, 162, 0, 51, 28, 3, 3, 42, 27, 29, 182, 0, 72, 42, 27]
abbrev dktX4_doubled_0 : List UInt8 := dkwX4_doubled_0 ++ dktX4_doubled_1
theorem dksX4_doubled_0 : cX4_doubled.data.toList.drop 0 = dktX4_doubled_0 := by decide +kernel
theorem dksX4_doubled_1 : cX4_doubled.data.toList.drop 24 = dktX4_doubled_1 := dk_seg dksX4_doubled_0 24 rfl rfl
theorem dksX4_doubled_2 : cX4_doubled.data.toList.drop 47 = dktX4_doubled_2 := dk_seg dksX4_doubled_1 23 rfl rfl
theorem dX4_doubled_0 : decode cX4_doubled 0 = .ok (.iconst 0, 1) := dk_3 (dk_at dksX4_doubled_0 0 rfl rfl)
theorem dX4_doubled_1 : decode cX4_doubled 1 = .ok (.istore_n 2, 1) := dk_61 (dk_at dksX4_doubled_0 1 rfl rfl)
theorem dX4_doubled_2 : decode cX4_doubled 2 = .ok (.iconst 0, 1) := dk_3 (dk_at dksX4_doubled_0 2 rfl rfl)
theorem dX4_doubled_3 : decode cX4_doubled 3 = .ok (.istore_n 3, 1) := dk_62 (dk_at dksX4_doubled_0 3 rfl rfl)
theorem dX4_doubled_4 : decode cX4_doubled 4 = .ok (.iload_n 3, 1) := dk_29 (dk_at dksX4_doubled_0 4 rfl rfl)
theorem dX4_doubled_5 : decode cX4_doubled 5 = .ok (.aload_n 0, 1) := dk_42 (dk_at dksX4_doubled_0 5 rfl rfl)
theorem dX4_doubled_6 : decode cX4_doubled 6 = .ok (.iload_n 1, 1) := dk_27 (dk_at dksX4_doubled_0 6 rfl rfl)
theorem dX4_doubled_7 : decode cX4_doubled 7 = .ok (.invokevirtual 39, 3) := dk_182 0 39 (dk_at dksX4_doubled_0 7 rfl rfl)
theorem dX4_doubled_10 : decode cX4_doubled 10 = .ok (.if_icmp .ge 51, 3) := dk_162 0 51 (dk_at dksX4_doubled_0 10 rfl rfl)
theorem dX4_doubled_13 : decode cX4_doubled 13 = .ok (.iload_n 2, 1) := dk_28 (dk_at dksX4_doubled_0 13 rfl rfl)
theorem dX4_doubled_14 : decode cX4_doubled 14 = .ok (.iconst 0, 1) := dk_3 (dk_at dksX4_doubled_0 14 rfl rfl)
theorem dX4_doubled_15 : decode cX4_doubled 15 = .ok (.iconst 0, 1) := dk_3 (dk_at dksX4_doubled_0 15 rfl rfl)
theorem dX4_doubled_16 : decode cX4_doubled 16 = .ok (.aload_n 0, 1) := dk_42 (dk_at dksX4_doubled_0 16 rfl rfl)
theorem dX4_doubled_17 : decode cX4_doubled 17 = .ok (.iload_n 1, 1) := dk_27 (dk_at dksX4_doubled_0 17 rfl rfl)
theorem dX4_doubled_18 : decode cX4_doubled 18 = .ok (.iload_n 3, 1) := dk_29 (dk_at dksX4_doubled_0 18 rfl rfl)
theorem dX4_doubled_19 : decode cX4_doubled 19 = .ok (.invokevirtual 72, 3) := dk_182 0 72 (dk_at dksX4_doubled_0 19 rfl rfl)
theorem dX4_doubled_22 : decode cX4_doubled 22 = .ok (.aload_n 0, 1) := dk_42 (dk_at dksX4_doubled_0 22 rfl rfl)
theorem dX4_doubled_23 : decode cX4_doubled 23 = .ok (.iload_n 1, 1) := dk_27 (dk_at dksX4_doubled_0 23 rfl rfl)
theorem dX4_doubled_24 : decode cX4_doubled 24 = .ok (.iload_n 3, 1) := dk_29 (dk_at dksX4_doubled_1 0 rfl rfl)
theorem dX4_doubled_25 : decode cX4_doubled 25 = .ok (.invokevirtual 75, 3) := dk_182 0 75 (dk_at dksX4_doubled_1 1 rfl rfl)
theorem dX4_doubled_28 : decode cX4_doubled 28 = .ok (.aload_n 0, 1) := dk_42 (dk_at dksX4_doubled_1 4 rfl rfl)
theorem dX4_doubled_29 : decode cX4_doubled 29 = .ok (.iload_n 1, 1) := dk_27 (dk_at dksX4_doubled_1 5 rfl rfl)
theorem dX4_doubled_30 : decode cX4_doubled 30 = .ok (.aload_n 0, 1) := dk_42 (dk_at dksX4_doubled_1 6 rfl rfl)
theorem dX4_doubled_31 : decode cX4_doubled 31 = .ok (.iload_n 1, 1) := dk_27 (dk_at dksX4_doubled_1 7 rfl rfl)
theorem dX4_doubled_32 : decode cX4_doubled 32 = .ok (.iload_n 3, 1) := dk_29 (dk_at dksX4_doubled_1 8 rfl rfl)
theorem dX4_doubled_33 : decode cX4_doubled 33 = .ok (.invokevirtual 84, 3) := dk_182 0 84 (dk_at dksX4_doubled_1 9 rfl rfl)
theorem dX4_doubled_36 : decode cX4_doubled 36 = .ok (.invokevirtual 72, 3) := dk_182 0 72 (dk_at dksX4_doubled_1 12 rfl rfl)
theorem dX4_doubled_39 : decode cX4_doubled 39 = .ok (.aload_n 0, 1) := dk_42 (dk_at dksX4_doubled_1 15 rfl rfl)
theorem dX4_doubled_40 : decode cX4_doubled 40 = .ok (.iload_n 1, 1) := dk_27 (dk_at dksX4_doubled_1 16 rfl rfl)
theorem dX4_doubled_41 : decode cX4_doubled 41 = .ok (.aload_n 0, 1) := dk_42 (dk_at dksX4_doubled_1 17 rfl rfl)
theorem dX4_doubled_42 : decode cX4_doubled 42 = .ok (.iload_n 1, 1) := dk_27 (dk_at dksX4_doubled_1 18 rfl rfl)
theorem dX4_doubled_43 : decode cX4_doubled 43 = .ok (.iload_n 3, 1) := dk_29 (dk_at dksX4_doubled_1 19 rfl rfl)
theorem dX4_doubled_44 : decode cX4_doubled 44 = .ok (.invokevirtual 84, 3) := dk_182 0 84 (dk_at dksX4_doubled_1 20 rfl rfl)
theorem dX4_doubled_47 : decode cX4_doubled 47 = .ok (.invokevirtual 75, 3) := dk_182 0 75 (dk_at dksX4_doubled_2 0 rfl rfl)
theorem dX4_doubled_50 : decode cX4_doubled 50 = .ok (.invokestatic 46, 3) := dk_184 0 46 (dk_at dksX4_doubled_2 3 rfl rfl)
theorem dX4_doubled_53 : decode cX4_doubled 53 = .ok (.iadd, 1) := dk_96 (dk_at dksX4_doubled_2 6 rfl rfl)
theorem dX4_doubled_54 : decode cX4_doubled 54 = .ok (.istore_n 2, 1) := dk_61 (dk_at dksX4_doubled_2 7 rfl rfl)
theorem dX4_doubled_55 : decode cX4_doubled 55 = .ok (.iinc 3 1, 3) := dk_132 3 1 (dk_at dksX4_doubled_2 8 rfl rfl)
theorem dX4_doubled_58 : decode cX4_doubled 58 = .ok (.goto (-54), 3) := dk_167 255 202 (dk_at dksX4_doubled_2 11 rfl rfl)
theorem dX4_doubled_61 : decode cX4_doubled 61 = .ok (.iload_n 2, 1) := dk_28 (dk_at dksX4_doubled_2 14 rfl rfl)
theorem dX4_doubled_62 : decode cX4_doubled 62 = .ok (.ireturn, 1) := dk_172 (dk_at dksX4_doubled_2 15 rfl rfl)
abbrev cX4_stone : ByteArray := prog_10_method_69_code
def yX4_stone : MethodName := ⟨RX4, "stone", "(II)I"⟩
def dkwX4_stone_3 : List UInt8 := [167, 0, 16, 42, 180, 0, 17, 16, 6, 6, 27, 104, 96, 28, 96, 46, 172]
abbrev dktX4_stone_3 : List UInt8 := dkwX4_stone_3 ++ []
def dkwX4_stone_2 : List UInt8 := [167, 0, 4, 3, 5, 182, 0, 241, 153, 0, 5, 3, 172, 28, 6, 160, 0, 11, 42, 27, 182, 1, 14]
abbrev dktX4_stone_2 : List UInt8 := dkwX4_stone_2 ++ dktX4_stone_3
def dkwX4_stone_1 : List UInt8 := [167, 0, 4, 3, 4, 182, 0, 241, 154, 0, 25, 42, 28, 3, 6, 184, 0, 57, 154, 0, 7, 4]
abbrev dktX4_stone_1 : List UInt8 := dkwX4_stone_1 ++ dktX4_stone_2
def dkwX4_stone_0 : List UInt8 := [42, 3, 181, 0, 32, 42, 27, 3, 42, 180, 0, 17, 5, 46, 4, 100, 184, 0, 57, 154, 0, 7, 4]
abbrev dktX4_stone_0 : List UInt8 := dkwX4_stone_0 ++ dktX4_stone_1
theorem dksX4_stone_0 : cX4_stone.data.toList.drop 0 = dktX4_stone_0 := by decide +kernel
theorem dksX4_stone_1 : cX4_stone.data.toList.drop 23 = dktX4_stone_1 := dk_seg dksX4_stone_0 23 rfl rfl
theorem dksX4_stone_2 : cX4_stone.data.toList.drop 45 = dktX4_stone_2 := dk_seg dksX4_stone_1 22 rfl rfl
theorem dksX4_stone_3 : cX4_stone.data.toList.drop 68 = dktX4_stone_3 := dk_seg dksX4_stone_2 23 rfl rfl
theorem dX4_stone_0 : decode cX4_stone 0 = .ok (.aload_n 0, 1) := dk_42 (dk_at dksX4_stone_0 0 rfl rfl)
theorem dX4_stone_1 : decode cX4_stone 1 = .ok (.iconst 0, 1) := dk_3 (dk_at dksX4_stone_0 1 rfl rfl)
theorem dX4_stone_2 : decode cX4_stone 2 = .ok (.putfield 32, 3) := dk_181 0 32 (dk_at dksX4_stone_0 2 rfl rfl)
theorem dX4_stone_5 : decode cX4_stone 5 = .ok (.aload_n 0, 1) := dk_42 (dk_at dksX4_stone_0 5 rfl rfl)
theorem dX4_stone_6 : decode cX4_stone 6 = .ok (.iload_n 1, 1) := dk_27 (dk_at dksX4_stone_0 6 rfl rfl)
theorem dX4_stone_7 : decode cX4_stone 7 = .ok (.iconst 0, 1) := dk_3 (dk_at dksX4_stone_0 7 rfl rfl)
theorem dX4_stone_8 : decode cX4_stone 8 = .ok (.aload_n 0, 1) := dk_42 (dk_at dksX4_stone_0 8 rfl rfl)
theorem dX4_stone_9 : decode cX4_stone 9 = .ok (.getfield 17, 3) := dk_180 0 17 (dk_at dksX4_stone_0 9 rfl rfl)
theorem dX4_stone_12 : decode cX4_stone 12 = .ok (.iconst 2, 1) := dk_5 (dk_at dksX4_stone_0 12 rfl rfl)
theorem dX4_stone_13 : decode cX4_stone 13 = .ok (.iaload, 1) := dk_46 (dk_at dksX4_stone_0 13 rfl rfl)
theorem dX4_stone_14 : decode cX4_stone 14 = .ok (.iconst 1, 1) := dk_4 (dk_at dksX4_stone_0 14 rfl rfl)
theorem dX4_stone_15 : decode cX4_stone 15 = .ok (.isub, 1) := dk_100 (dk_at dksX4_stone_0 15 rfl rfl)
theorem dX4_stone_16 : decode cX4_stone 16 = .ok (.invokestatic 57, 3) := dk_184 0 57 (dk_at dksX4_stone_0 16 rfl rfl)
theorem dX4_stone_19 : decode cX4_stone 19 = .ok (.ifCond .ne 7, 3) := dk_154 0 7 (dk_at dksX4_stone_0 19 rfl rfl)
theorem dX4_stone_22 : decode cX4_stone 22 = .ok (.iconst 1, 1) := dk_4 (dk_at dksX4_stone_0 22 rfl rfl)
theorem dX4_stone_23 : decode cX4_stone 23 = .ok (.goto 4, 3) := dk_167 0 4 (dk_at dksX4_stone_1 0 rfl rfl)
theorem dX4_stone_26 : decode cX4_stone 26 = .ok (.iconst 0, 1) := dk_3 (dk_at dksX4_stone_1 3 rfl rfl)
theorem dX4_stone_27 : decode cX4_stone 27 = .ok (.iconst 1, 1) := dk_4 (dk_at dksX4_stone_1 4 rfl rfl)
theorem dX4_stone_28 : decode cX4_stone 28 = .ok (.invokevirtual 241, 3) := dk_182 0 241 (dk_at dksX4_stone_1 5 rfl rfl)
theorem dX4_stone_31 : decode cX4_stone 31 = .ok (.ifCond .ne 25, 3) := dk_154 0 25 (dk_at dksX4_stone_1 8 rfl rfl)
theorem dX4_stone_34 : decode cX4_stone 34 = .ok (.aload_n 0, 1) := dk_42 (dk_at dksX4_stone_1 11 rfl rfl)
theorem dX4_stone_35 : decode cX4_stone 35 = .ok (.iload_n 2, 1) := dk_28 (dk_at dksX4_stone_1 12 rfl rfl)
theorem dX4_stone_36 : decode cX4_stone 36 = .ok (.iconst 0, 1) := dk_3 (dk_at dksX4_stone_1 13 rfl rfl)
theorem dX4_stone_37 : decode cX4_stone 37 = .ok (.iconst 3, 1) := dk_6 (dk_at dksX4_stone_1 14 rfl rfl)
theorem dX4_stone_38 : decode cX4_stone 38 = .ok (.invokestatic 57, 3) := dk_184 0 57 (dk_at dksX4_stone_1 15 rfl rfl)
theorem dX4_stone_41 : decode cX4_stone 41 = .ok (.ifCond .ne 7, 3) := dk_154 0 7 (dk_at dksX4_stone_1 18 rfl rfl)
theorem dX4_stone_44 : decode cX4_stone 44 = .ok (.iconst 1, 1) := dk_4 (dk_at dksX4_stone_1 21 rfl rfl)
theorem dX4_stone_45 : decode cX4_stone 45 = .ok (.goto 4, 3) := dk_167 0 4 (dk_at dksX4_stone_2 0 rfl rfl)
theorem dX4_stone_48 : decode cX4_stone 48 = .ok (.iconst 0, 1) := dk_3 (dk_at dksX4_stone_2 3 rfl rfl)
theorem dX4_stone_49 : decode cX4_stone 49 = .ok (.iconst 2, 1) := dk_5 (dk_at dksX4_stone_2 4 rfl rfl)
theorem dX4_stone_50 : decode cX4_stone 50 = .ok (.invokevirtual 241, 3) := dk_182 0 241 (dk_at dksX4_stone_2 5 rfl rfl)
theorem dX4_stone_53 : decode cX4_stone 53 = .ok (.ifCond .eq 5, 3) := dk_153 0 5 (dk_at dksX4_stone_2 8 rfl rfl)
theorem dX4_stone_56 : decode cX4_stone 56 = .ok (.iconst 0, 1) := dk_3 (dk_at dksX4_stone_2 11 rfl rfl)
theorem dX4_stone_57 : decode cX4_stone 57 = .ok (.ireturn, 1) := dk_172 (dk_at dksX4_stone_2 12 rfl rfl)
theorem dX4_stone_58 : decode cX4_stone 58 = .ok (.iload_n 2, 1) := dk_28 (dk_at dksX4_stone_2 13 rfl rfl)
theorem dX4_stone_59 : decode cX4_stone 59 = .ok (.iconst 3, 1) := dk_6 (dk_at dksX4_stone_2 14 rfl rfl)
theorem dX4_stone_60 : decode cX4_stone 60 = .ok (.if_icmp .ne 11, 3) := dk_160 0 11 (dk_at dksX4_stone_2 15 rfl rfl)
theorem dX4_stone_63 : decode cX4_stone 63 = .ok (.aload_n 0, 1) := dk_42 (dk_at dksX4_stone_2 18 rfl rfl)
theorem dX4_stone_64 : decode cX4_stone 64 = .ok (.iload_n 1, 1) := dk_27 (dk_at dksX4_stone_2 19 rfl rfl)
theorem dX4_stone_65 : decode cX4_stone 65 = .ok (.invokevirtual 270, 3) := dk_182 1 14 (dk_at dksX4_stone_2 20 rfl rfl)
theorem dX4_stone_68 : decode cX4_stone 68 = .ok (.goto 16, 3) := dk_167 0 16 (dk_at dksX4_stone_3 0 rfl rfl)
theorem dX4_stone_71 : decode cX4_stone 71 = .ok (.aload_n 0, 1) := dk_42 (dk_at dksX4_stone_3 3 rfl rfl)
theorem dX4_stone_72 : decode cX4_stone 72 = .ok (.getfield 17, 3) := dk_180 0 17 (dk_at dksX4_stone_3 4 rfl rfl)
theorem dX4_stone_75 : decode cX4_stone 75 = .ok (.bipush 6, 2) := dk_16 6 (dk_at dksX4_stone_3 7 rfl rfl)
theorem dX4_stone_77 : decode cX4_stone 77 = .ok (.iconst 3, 1) := dk_6 (dk_at dksX4_stone_3 9 rfl rfl)
theorem dX4_stone_78 : decode cX4_stone 78 = .ok (.iload_n 1, 1) := dk_27 (dk_at dksX4_stone_3 10 rfl rfl)
theorem dX4_stone_79 : decode cX4_stone 79 = .ok (.imul, 1) := dk_104 (dk_at dksX4_stone_3 11 rfl rfl)
theorem dX4_stone_80 : decode cX4_stone 80 = .ok (.iadd, 1) := dk_96 (dk_at dksX4_stone_3 12 rfl rfl)
theorem dX4_stone_81 : decode cX4_stone 81 = .ok (.iload_n 2, 1) := dk_28 (dk_at dksX4_stone_3 13 rfl rfl)
theorem dX4_stone_82 : decode cX4_stone 82 = .ok (.iadd, 1) := dk_96 (dk_at dksX4_stone_3 14 rfl rfl)
theorem dX4_stone_83 : decode cX4_stone 83 = .ok (.iaload, 1) := dk_46 (dk_at dksX4_stone_3 15 rfl rfl)
theorem dX4_stone_84 : decode cX4_stone 84 = .ok (.ireturn, 1) := dk_172 (dk_at dksX4_stone_3 16 rfl rfl)
abbrev cX4_polygon : ByteArray := prog_10_method_70_code
def yX4_polygon : MethodName := ⟨RX4, "polygon", "(II)I"⟩
def dkwX4_polygon_2 : List UInt8 := [96, 46, 172]
abbrev dktX4_polygon_2 : List UInt8 := dkwX4_polygon_2 ++ []
def dkwX4_polygon_1 : List UInt8 := [167, 0, 4, 3, 5, 182, 0, 241, 153, 0, 7, 3, 167, 0, 14, 42, 180, 0, 17, 27, 184, 0, 35, 28]
abbrev dktX4_polygon_1 : List UInt8 := dkwX4_polygon_1 ++ dktX4_polygon_2
def dkwX4_polygon_0 : List UInt8 := [42, 3, 181, 0, 32, 42, 27, 182, 1, 44, 154, 0, 25, 42, 28, 3, 5, 184, 0, 57, 154, 0, 7, 4]
abbrev dktX4_polygon_0 : List UInt8 := dkwX4_polygon_0 ++ dktX4_polygon_1
theorem dksX4_polygon_0 : cX4_polygon.data.toList.drop 0 = dktX4_polygon_0 := by decide +kernel
theorem dksX4_polygon_1 : cX4_polygon.data.toList.drop 24 = dktX4_polygon_1 := dk_seg dksX4_polygon_0 24 rfl rfl
theorem dksX4_polygon_2 : cX4_polygon.data.toList.drop 48 = dktX4_polygon_2 := dk_seg dksX4_polygon_1 24 rfl rfl
theorem dX4_polygon_0 : decode cX4_polygon 0 = .ok (.aload_n 0, 1) := dk_42 (dk_at dksX4_polygon_0 0 rfl rfl)
theorem dX4_polygon_1 : decode cX4_polygon 1 = .ok (.iconst 0, 1) := dk_3 (dk_at dksX4_polygon_0 1 rfl rfl)
theorem dX4_polygon_2 : decode cX4_polygon 2 = .ok (.putfield 32, 3) := dk_181 0 32 (dk_at dksX4_polygon_0 2 rfl rfl)
theorem dX4_polygon_5 : decode cX4_polygon 5 = .ok (.aload_n 0, 1) := dk_42 (dk_at dksX4_polygon_0 5 rfl rfl)
theorem dX4_polygon_6 : decode cX4_polygon 6 = .ok (.iload_n 1, 1) := dk_27 (dk_at dksX4_polygon_0 6 rfl rfl)
theorem dX4_polygon_7 : decode cX4_polygon 7 = .ok (.invokevirtual 300, 3) := dk_182 1 44 (dk_at dksX4_polygon_0 7 rfl rfl)
theorem dX4_polygon_10 : decode cX4_polygon 10 = .ok (.ifCond .ne 25, 3) := dk_154 0 25 (dk_at dksX4_polygon_0 10 rfl rfl)
theorem dX4_polygon_13 : decode cX4_polygon 13 = .ok (.aload_n 0, 1) := dk_42 (dk_at dksX4_polygon_0 13 rfl rfl)
theorem dX4_polygon_14 : decode cX4_polygon 14 = .ok (.iload_n 2, 1) := dk_28 (dk_at dksX4_polygon_0 14 rfl rfl)
theorem dX4_polygon_15 : decode cX4_polygon 15 = .ok (.iconst 0, 1) := dk_3 (dk_at dksX4_polygon_0 15 rfl rfl)
theorem dX4_polygon_16 : decode cX4_polygon 16 = .ok (.iconst 2, 1) := dk_5 (dk_at dksX4_polygon_0 16 rfl rfl)
theorem dX4_polygon_17 : decode cX4_polygon 17 = .ok (.invokestatic 57, 3) := dk_184 0 57 (dk_at dksX4_polygon_0 17 rfl rfl)
theorem dX4_polygon_20 : decode cX4_polygon 20 = .ok (.ifCond .ne 7, 3) := dk_154 0 7 (dk_at dksX4_polygon_0 20 rfl rfl)
theorem dX4_polygon_23 : decode cX4_polygon 23 = .ok (.iconst 1, 1) := dk_4 (dk_at dksX4_polygon_0 23 rfl rfl)
theorem dX4_polygon_24 : decode cX4_polygon 24 = .ok (.goto 4, 3) := dk_167 0 4 (dk_at dksX4_polygon_1 0 rfl rfl)
theorem dX4_polygon_27 : decode cX4_polygon 27 = .ok (.iconst 0, 1) := dk_3 (dk_at dksX4_polygon_1 3 rfl rfl)
theorem dX4_polygon_28 : decode cX4_polygon 28 = .ok (.iconst 2, 1) := dk_5 (dk_at dksX4_polygon_1 4 rfl rfl)
theorem dX4_polygon_29 : decode cX4_polygon 29 = .ok (.invokevirtual 241, 3) := dk_182 0 241 (dk_at dksX4_polygon_1 5 rfl rfl)
theorem dX4_polygon_32 : decode cX4_polygon 32 = .ok (.ifCond .eq 7, 3) := dk_153 0 7 (dk_at dksX4_polygon_1 8 rfl rfl)
theorem dX4_polygon_35 : decode cX4_polygon 35 = .ok (.iconst 0, 1) := dk_3 (dk_at dksX4_polygon_1 11 rfl rfl)
theorem dX4_polygon_36 : decode cX4_polygon 36 = .ok (.goto 14, 3) := dk_167 0 14 (dk_at dksX4_polygon_1 12 rfl rfl)
theorem dX4_polygon_39 : decode cX4_polygon 39 = .ok (.aload_n 0, 1) := dk_42 (dk_at dksX4_polygon_1 15 rfl rfl)
theorem dX4_polygon_40 : decode cX4_polygon 40 = .ok (.getfield 17, 3) := dk_180 0 17 (dk_at dksX4_polygon_1 16 rfl rfl)
theorem dX4_polygon_43 : decode cX4_polygon 43 = .ok (.iload_n 1, 1) := dk_27 (dk_at dksX4_polygon_1 19 rfl rfl)
theorem dX4_polygon_44 : decode cX4_polygon 44 = .ok (.invokestatic 35, 3) := dk_184 0 35 (dk_at dksX4_polygon_1 20 rfl rfl)
theorem dX4_polygon_47 : decode cX4_polygon 47 = .ok (.iload_n 2, 1) := dk_28 (dk_at dksX4_polygon_1 23 rfl rfl)
theorem dX4_polygon_48 : decode cX4_polygon 48 = .ok (.iadd, 1) := dk_96 (dk_at dksX4_polygon_2 0 rfl rfl)
theorem dX4_polygon_49 : decode cX4_polygon 49 = .ok (.iaload, 1) := dk_46 (dk_at dksX4_polygon_2 1 rfl rfl)
theorem dX4_polygon_50 : decode cX4_polygon 50 = .ok (.ireturn, 1) := dk_172 (dk_at dksX4_polygon_2 2 rfl rfl)
abbrev cX4_noPolygon : ByteArray := prog_10_method_65_code
def yX4_noPolygon : MethodName := ⟨RX4, "noPolygon", "(I)Z"⟩
def dkwX4_noPolygon_1 : List UInt8 := [182, 0, 241, 172]
abbrev dktX4_noPolygon_1 : List UInt8 := dkwX4_noPolygon_1 ++ []
def dkwX4_noPolygon_0 : List UInt8 := [42, 27, 3, 42, 180, 0, 17, 6, 46, 4, 100, 184, 0, 57, 154, 0, 7, 4, 167, 0, 4, 3, 4]
abbrev dktX4_noPolygon_0 : List UInt8 := dkwX4_noPolygon_0 ++ dktX4_noPolygon_1
theorem dksX4_noPolygon_0 : cX4_noPolygon.data.toList.drop 0 = dktX4_noPolygon_0 := by decide +kernel
theorem dksX4_noPolygon_1 : cX4_noPolygon.data.toList.drop 23 = dktX4_noPolygon_1 := dk_seg dksX4_noPolygon_0 23 rfl rfl
theorem dX4_noPolygon_0 : decode cX4_noPolygon 0 = .ok (.aload_n 0, 1) := dk_42 (dk_at dksX4_noPolygon_0 0 rfl rfl)
theorem dX4_noPolygon_1 : decode cX4_noPolygon 1 = .ok (.iload_n 1, 1) := dk_27 (dk_at dksX4_noPolygon_0 1 rfl rfl)
theorem dX4_noPolygon_2 : decode cX4_noPolygon 2 = .ok (.iconst 0, 1) := dk_3 (dk_at dksX4_noPolygon_0 2 rfl rfl)
theorem dX4_noPolygon_3 : decode cX4_noPolygon 3 = .ok (.aload_n 0, 1) := dk_42 (dk_at dksX4_noPolygon_0 3 rfl rfl)
theorem dX4_noPolygon_4 : decode cX4_noPolygon 4 = .ok (.getfield 17, 3) := dk_180 0 17 (dk_at dksX4_noPolygon_0 4 rfl rfl)
theorem dX4_noPolygon_7 : decode cX4_noPolygon 7 = .ok (.iconst 3, 1) := dk_6 (dk_at dksX4_noPolygon_0 7 rfl rfl)
theorem dX4_noPolygon_8 : decode cX4_noPolygon 8 = .ok (.iaload, 1) := dk_46 (dk_at dksX4_noPolygon_0 8 rfl rfl)
theorem dX4_noPolygon_9 : decode cX4_noPolygon 9 = .ok (.iconst 1, 1) := dk_4 (dk_at dksX4_noPolygon_0 9 rfl rfl)
theorem dX4_noPolygon_10 : decode cX4_noPolygon 10 = .ok (.isub, 1) := dk_100 (dk_at dksX4_noPolygon_0 10 rfl rfl)
theorem dX4_noPolygon_11 : decode cX4_noPolygon 11 = .ok (.invokestatic 57, 3) := dk_184 0 57 (dk_at dksX4_noPolygon_0 11 rfl rfl)
theorem dX4_noPolygon_14 : decode cX4_noPolygon 14 = .ok (.ifCond .ne 7, 3) := dk_154 0 7 (dk_at dksX4_noPolygon_0 14 rfl rfl)
theorem dX4_noPolygon_17 : decode cX4_noPolygon 17 = .ok (.iconst 1, 1) := dk_4 (dk_at dksX4_noPolygon_0 17 rfl rfl)
theorem dX4_noPolygon_18 : decode cX4_noPolygon 18 = .ok (.goto 4, 3) := dk_167 0 4 (dk_at dksX4_noPolygon_0 18 rfl rfl)
theorem dX4_noPolygon_21 : decode cX4_noPolygon 21 = .ok (.iconst 0, 1) := dk_3 (dk_at dksX4_noPolygon_0 21 rfl rfl)
theorem dX4_noPolygon_22 : decode cX4_noPolygon 22 = .ok (.iconst 1, 1) := dk_4 (dk_at dksX4_noPolygon_0 22 rfl rfl)
theorem dX4_noPolygon_23 : decode cX4_noPolygon 23 = .ok (.invokevirtual 241, 3) := dk_182 0 241 (dk_at dksX4_noPolygon_1 0 rfl rfl)
theorem dX4_noPolygon_26 : decode cX4_noPolygon 26 = .ok (.ireturn, 1) := dk_172 (dk_at dksX4_noPolygon_1 3 rfl rfl)
abbrev cX4_cornerAt : ByteArray := prog_10_method_71_code
def yX4_cornerAt : MethodName := ⟨RX4, "cornerAt", "(II)I"⟩
def dkwX4_cornerAt_2 : List UInt8 := [42, 27, 28, 182, 0, 72, 104, 42, 27, 28, 182, 0, 75, 96, 172]
abbrev dktX4_cornerAt_2 : List UInt8 := dkwX4_cornerAt_2 ++ []
def dkwX4_cornerAt_1 : List UInt8 := [184, 0, 57, 154, 0, 7, 4, 167, 0, 4, 3, 5, 182, 0, 241, 153, 0, 7, 3, 167, 0, 19, 16, 100]
abbrev dktX4_cornerAt_1 : List UInt8 := dkwX4_cornerAt_1 ++ dktX4_cornerAt_2
def dkwX4_cornerAt_0 : List UInt8 := [42, 3, 181, 0, 32, 42, 27, 182, 1, 44, 154, 0, 31, 42, 28, 3, 42, 27, 182, 0, 39, 4, 100]
abbrev dktX4_cornerAt_0 : List UInt8 := dkwX4_cornerAt_0 ++ dktX4_cornerAt_1
theorem dksX4_cornerAt_0 : cX4_cornerAt.data.toList.drop 0 = dktX4_cornerAt_0 := by decide +kernel
theorem dksX4_cornerAt_1 : cX4_cornerAt.data.toList.drop 23 = dktX4_cornerAt_1 := dk_seg dksX4_cornerAt_0 23 rfl rfl
theorem dksX4_cornerAt_2 : cX4_cornerAt.data.toList.drop 47 = dktX4_cornerAt_2 := dk_seg dksX4_cornerAt_1 24 rfl rfl
theorem dX4_cornerAt_0 : decode cX4_cornerAt 0 = .ok (.aload_n 0, 1) := dk_42 (dk_at dksX4_cornerAt_0 0 rfl rfl)
theorem dX4_cornerAt_1 : decode cX4_cornerAt 1 = .ok (.iconst 0, 1) := dk_3 (dk_at dksX4_cornerAt_0 1 rfl rfl)
theorem dX4_cornerAt_2 : decode cX4_cornerAt 2 = .ok (.putfield 32, 3) := dk_181 0 32 (dk_at dksX4_cornerAt_0 2 rfl rfl)
theorem dX4_cornerAt_5 : decode cX4_cornerAt 5 = .ok (.aload_n 0, 1) := dk_42 (dk_at dksX4_cornerAt_0 5 rfl rfl)
theorem dX4_cornerAt_6 : decode cX4_cornerAt 6 = .ok (.iload_n 1, 1) := dk_27 (dk_at dksX4_cornerAt_0 6 rfl rfl)
theorem dX4_cornerAt_7 : decode cX4_cornerAt 7 = .ok (.invokevirtual 300, 3) := dk_182 1 44 (dk_at dksX4_cornerAt_0 7 rfl rfl)
theorem dX4_cornerAt_10 : decode cX4_cornerAt 10 = .ok (.ifCond .ne 31, 3) := dk_154 0 31 (dk_at dksX4_cornerAt_0 10 rfl rfl)
theorem dX4_cornerAt_13 : decode cX4_cornerAt 13 = .ok (.aload_n 0, 1) := dk_42 (dk_at dksX4_cornerAt_0 13 rfl rfl)
theorem dX4_cornerAt_14 : decode cX4_cornerAt 14 = .ok (.iload_n 2, 1) := dk_28 (dk_at dksX4_cornerAt_0 14 rfl rfl)
theorem dX4_cornerAt_15 : decode cX4_cornerAt 15 = .ok (.iconst 0, 1) := dk_3 (dk_at dksX4_cornerAt_0 15 rfl rfl)
theorem dX4_cornerAt_16 : decode cX4_cornerAt 16 = .ok (.aload_n 0, 1) := dk_42 (dk_at dksX4_cornerAt_0 16 rfl rfl)
theorem dX4_cornerAt_17 : decode cX4_cornerAt 17 = .ok (.iload_n 1, 1) := dk_27 (dk_at dksX4_cornerAt_0 17 rfl rfl)
theorem dX4_cornerAt_18 : decode cX4_cornerAt 18 = .ok (.invokevirtual 39, 3) := dk_182 0 39 (dk_at dksX4_cornerAt_0 18 rfl rfl)
theorem dX4_cornerAt_21 : decode cX4_cornerAt 21 = .ok (.iconst 1, 1) := dk_4 (dk_at dksX4_cornerAt_0 21 rfl rfl)
theorem dX4_cornerAt_22 : decode cX4_cornerAt 22 = .ok (.isub, 1) := dk_100 (dk_at dksX4_cornerAt_0 22 rfl rfl)
theorem dX4_cornerAt_23 : decode cX4_cornerAt 23 = .ok (.invokestatic 57, 3) := dk_184 0 57 (dk_at dksX4_cornerAt_1 0 rfl rfl)
theorem dX4_cornerAt_26 : decode cX4_cornerAt 26 = .ok (.ifCond .ne 7, 3) := dk_154 0 7 (dk_at dksX4_cornerAt_1 3 rfl rfl)
theorem dX4_cornerAt_29 : decode cX4_cornerAt 29 = .ok (.iconst 1, 1) := dk_4 (dk_at dksX4_cornerAt_1 6 rfl rfl)
theorem dX4_cornerAt_30 : decode cX4_cornerAt 30 = .ok (.goto 4, 3) := dk_167 0 4 (dk_at dksX4_cornerAt_1 7 rfl rfl)
theorem dX4_cornerAt_33 : decode cX4_cornerAt 33 = .ok (.iconst 0, 1) := dk_3 (dk_at dksX4_cornerAt_1 10 rfl rfl)
theorem dX4_cornerAt_34 : decode cX4_cornerAt 34 = .ok (.iconst 2, 1) := dk_5 (dk_at dksX4_cornerAt_1 11 rfl rfl)
theorem dX4_cornerAt_35 : decode cX4_cornerAt 35 = .ok (.invokevirtual 241, 3) := dk_182 0 241 (dk_at dksX4_cornerAt_1 12 rfl rfl)
theorem dX4_cornerAt_38 : decode cX4_cornerAt 38 = .ok (.ifCond .eq 7, 3) := dk_153 0 7 (dk_at dksX4_cornerAt_1 15 rfl rfl)
theorem dX4_cornerAt_41 : decode cX4_cornerAt 41 = .ok (.iconst 0, 1) := dk_3 (dk_at dksX4_cornerAt_1 18 rfl rfl)
theorem dX4_cornerAt_42 : decode cX4_cornerAt 42 = .ok (.goto 19, 3) := dk_167 0 19 (dk_at dksX4_cornerAt_1 19 rfl rfl)
theorem dX4_cornerAt_45 : decode cX4_cornerAt 45 = .ok (.bipush 100, 2) := dk_16 100 (dk_at dksX4_cornerAt_1 22 rfl rfl)
theorem dX4_cornerAt_47 : decode cX4_cornerAt 47 = .ok (.aload_n 0, 1) := dk_42 (dk_at dksX4_cornerAt_2 0 rfl rfl)
theorem dX4_cornerAt_48 : decode cX4_cornerAt 48 = .ok (.iload_n 1, 1) := dk_27 (dk_at dksX4_cornerAt_2 1 rfl rfl)
theorem dX4_cornerAt_49 : decode cX4_cornerAt 49 = .ok (.iload_n 2, 1) := dk_28 (dk_at dksX4_cornerAt_2 2 rfl rfl)
theorem dX4_cornerAt_50 : decode cX4_cornerAt 50 = .ok (.invokevirtual 72, 3) := dk_182 0 72 (dk_at dksX4_cornerAt_2 3 rfl rfl)
theorem dX4_cornerAt_53 : decode cX4_cornerAt 53 = .ok (.imul, 1) := dk_104 (dk_at dksX4_cornerAt_2 6 rfl rfl)
theorem dX4_cornerAt_54 : decode cX4_cornerAt 54 = .ok (.aload_n 0, 1) := dk_42 (dk_at dksX4_cornerAt_2 7 rfl rfl)
theorem dX4_cornerAt_55 : decode cX4_cornerAt 55 = .ok (.iload_n 1, 1) := dk_27 (dk_at dksX4_cornerAt_2 8 rfl rfl)
theorem dX4_cornerAt_56 : decode cX4_cornerAt 56 = .ok (.iload_n 2, 1) := dk_28 (dk_at dksX4_cornerAt_2 9 rfl rfl)
theorem dX4_cornerAt_57 : decode cX4_cornerAt 57 = .ok (.invokevirtual 75, 3) := dk_182 0 75 (dk_at dksX4_cornerAt_2 10 rfl rfl)
theorem dX4_cornerAt_60 : decode cX4_cornerAt 60 = .ok (.iadd, 1) := dk_96 (dk_at dksX4_cornerAt_2 13 rfl rfl)
theorem dX4_cornerAt_61 : decode cX4_cornerAt 61 = .ok (.ireturn, 1) := dk_172 (dk_at dksX4_cornerAt_2 14 rfl rfl)
abbrev cX4_reason : ByteArray := prog_10_method_72_code
def yX4_reason : MethodName := ⟨RX4, "reason", "(III)I"⟩
def dkwX4_reason_1 : List UInt8 := [167, 0, 10, 42, 27, 28, 29, 182, 0, 219, 172]
abbrev dktX4_reason_1 : List UInt8 := dkwX4_reason_1 ++ []
def dkwX4_reason_0 : List UInt8 := [42, 3, 181, 0, 32, 42, 27, 182, 1, 44, 154, 0, 13, 42, 28, 29, 5, 182, 1, 50, 153, 0, 7, 3]
abbrev dktX4_reason_0 : List UInt8 := dkwX4_reason_0 ++ dktX4_reason_1
theorem dksX4_reason_0 : cX4_reason.data.toList.drop 0 = dktX4_reason_0 := by decide +kernel
theorem dksX4_reason_1 : cX4_reason.data.toList.drop 24 = dktX4_reason_1 := dk_seg dksX4_reason_0 24 rfl rfl
theorem dX4_reason_0 : decode cX4_reason 0 = .ok (.aload_n 0, 1) := dk_42 (dk_at dksX4_reason_0 0 rfl rfl)
theorem dX4_reason_1 : decode cX4_reason 1 = .ok (.iconst 0, 1) := dk_3 (dk_at dksX4_reason_0 1 rfl rfl)
theorem dX4_reason_2 : decode cX4_reason 2 = .ok (.putfield 32, 3) := dk_181 0 32 (dk_at dksX4_reason_0 2 rfl rfl)
theorem dX4_reason_5 : decode cX4_reason 5 = .ok (.aload_n 0, 1) := dk_42 (dk_at dksX4_reason_0 5 rfl rfl)
theorem dX4_reason_6 : decode cX4_reason 6 = .ok (.iload_n 1, 1) := dk_27 (dk_at dksX4_reason_0 6 rfl rfl)
theorem dX4_reason_7 : decode cX4_reason 7 = .ok (.invokevirtual 300, 3) := dk_182 1 44 (dk_at dksX4_reason_0 7 rfl rfl)
theorem dX4_reason_10 : decode cX4_reason 10 = .ok (.ifCond .ne 13, 3) := dk_154 0 13 (dk_at dksX4_reason_0 10 rfl rfl)
theorem dX4_reason_13 : decode cX4_reason 13 = .ok (.aload_n 0, 1) := dk_42 (dk_at dksX4_reason_0 13 rfl rfl)
theorem dX4_reason_14 : decode cX4_reason 14 = .ok (.iload_n 2, 1) := dk_28 (dk_at dksX4_reason_0 14 rfl rfl)
theorem dX4_reason_15 : decode cX4_reason 15 = .ok (.iload_n 3, 1) := dk_29 (dk_at dksX4_reason_0 15 rfl rfl)
theorem dX4_reason_16 : decode cX4_reason 16 = .ok (.iconst 2, 1) := dk_5 (dk_at dksX4_reason_0 16 rfl rfl)
theorem dX4_reason_17 : decode cX4_reason 17 = .ok (.invokevirtual 306, 3) := dk_182 1 50 (dk_at dksX4_reason_0 17 rfl rfl)
theorem dX4_reason_20 : decode cX4_reason 20 = .ok (.ifCond .eq 7, 3) := dk_153 0 7 (dk_at dksX4_reason_0 20 rfl rfl)
theorem dX4_reason_23 : decode cX4_reason 23 = .ok (.iconst 0, 1) := dk_3 (dk_at dksX4_reason_0 23 rfl rfl)
theorem dX4_reason_24 : decode cX4_reason 24 = .ok (.goto 10, 3) := dk_167 0 10 (dk_at dksX4_reason_1 0 rfl rfl)
theorem dX4_reason_27 : decode cX4_reason 27 = .ok (.aload_n 0, 1) := dk_42 (dk_at dksX4_reason_1 3 rfl rfl)
theorem dX4_reason_28 : decode cX4_reason 28 = .ok (.iload_n 1, 1) := dk_27 (dk_at dksX4_reason_1 4 rfl rfl)
theorem dX4_reason_29 : decode cX4_reason 29 = .ok (.iload_n 2, 1) := dk_28 (dk_at dksX4_reason_1 5 rfl rfl)
theorem dX4_reason_30 : decode cX4_reason 30 = .ok (.iload_n 3, 1) := dk_29 (dk_at dksX4_reason_1 6 rfl rfl)
theorem dX4_reason_31 : decode cX4_reason 31 = .ok (.invokevirtual 219, 3) := dk_182 0 219 (dk_at dksX4_reason_1 7 rfl rfl)
theorem dX4_reason_34 : decode cX4_reason 34 = .ok (.ireturn, 1) := dk_172 (dk_at dksX4_reason_1 10 rfl rfl)
abbrev cX4_noPoint : ByteArray := prog_10_method_66_code
def yX4_noPoint : MethodName := ⟨RX4, "noPoint", "(III)Z"⟩
def dkwX4_noPoint_1 : List UInt8 := [184, 0, 57, 154, 0, 7, 4, 167, 0, 4, 3, 29, 182, 0, 241, 172]
abbrev dktX4_noPoint_1 : List UInt8 := dkwX4_noPoint_1 ++ []
def dkwX4_noPoint_0 : List UInt8 := [42, 27, 3, 42, 180, 0, 17, 3, 46, 184, 0, 57, 153, 0, 17, 28, 3, 42, 180, 0, 17, 4, 46]
abbrev dktX4_noPoint_0 : List UInt8 := dkwX4_noPoint_0 ++ dktX4_noPoint_1
theorem dksX4_noPoint_0 : cX4_noPoint.data.toList.drop 0 = dktX4_noPoint_0 := by decide +kernel
theorem dksX4_noPoint_1 : cX4_noPoint.data.toList.drop 23 = dktX4_noPoint_1 := dk_seg dksX4_noPoint_0 23 rfl rfl
theorem dX4_noPoint_0 : decode cX4_noPoint 0 = .ok (.aload_n 0, 1) := dk_42 (dk_at dksX4_noPoint_0 0 rfl rfl)
theorem dX4_noPoint_1 : decode cX4_noPoint 1 = .ok (.iload_n 1, 1) := dk_27 (dk_at dksX4_noPoint_0 1 rfl rfl)
theorem dX4_noPoint_2 : decode cX4_noPoint 2 = .ok (.iconst 0, 1) := dk_3 (dk_at dksX4_noPoint_0 2 rfl rfl)
theorem dX4_noPoint_3 : decode cX4_noPoint 3 = .ok (.aload_n 0, 1) := dk_42 (dk_at dksX4_noPoint_0 3 rfl rfl)
theorem dX4_noPoint_4 : decode cX4_noPoint 4 = .ok (.getfield 17, 3) := dk_180 0 17 (dk_at dksX4_noPoint_0 4 rfl rfl)
theorem dX4_noPoint_7 : decode cX4_noPoint 7 = .ok (.iconst 0, 1) := dk_3 (dk_at dksX4_noPoint_0 7 rfl rfl)
theorem dX4_noPoint_8 : decode cX4_noPoint 8 = .ok (.iaload, 1) := dk_46 (dk_at dksX4_noPoint_0 8 rfl rfl)
theorem dX4_noPoint_9 : decode cX4_noPoint 9 = .ok (.invokestatic 57, 3) := dk_184 0 57 (dk_at dksX4_noPoint_0 9 rfl rfl)
theorem dX4_noPoint_12 : decode cX4_noPoint 12 = .ok (.ifCond .eq 17, 3) := dk_153 0 17 (dk_at dksX4_noPoint_0 12 rfl rfl)
theorem dX4_noPoint_15 : decode cX4_noPoint 15 = .ok (.iload_n 2, 1) := dk_28 (dk_at dksX4_noPoint_0 15 rfl rfl)
theorem dX4_noPoint_16 : decode cX4_noPoint 16 = .ok (.iconst 0, 1) := dk_3 (dk_at dksX4_noPoint_0 16 rfl rfl)
theorem dX4_noPoint_17 : decode cX4_noPoint 17 = .ok (.aload_n 0, 1) := dk_42 (dk_at dksX4_noPoint_0 17 rfl rfl)
theorem dX4_noPoint_18 : decode cX4_noPoint 18 = .ok (.getfield 17, 3) := dk_180 0 17 (dk_at dksX4_noPoint_0 18 rfl rfl)
theorem dX4_noPoint_21 : decode cX4_noPoint 21 = .ok (.iconst 1, 1) := dk_4 (dk_at dksX4_noPoint_0 21 rfl rfl)
theorem dX4_noPoint_22 : decode cX4_noPoint 22 = .ok (.iaload, 1) := dk_46 (dk_at dksX4_noPoint_0 22 rfl rfl)
theorem dX4_noPoint_23 : decode cX4_noPoint 23 = .ok (.invokestatic 57, 3) := dk_184 0 57 (dk_at dksX4_noPoint_1 0 rfl rfl)
theorem dX4_noPoint_26 : decode cX4_noPoint 26 = .ok (.ifCond .ne 7, 3) := dk_154 0 7 (dk_at dksX4_noPoint_1 3 rfl rfl)
theorem dX4_noPoint_29 : decode cX4_noPoint 29 = .ok (.iconst 1, 1) := dk_4 (dk_at dksX4_noPoint_1 6 rfl rfl)
theorem dX4_noPoint_30 : decode cX4_noPoint 30 = .ok (.goto 4, 3) := dk_167 0 4 (dk_at dksX4_noPoint_1 7 rfl rfl)
theorem dX4_noPoint_33 : decode cX4_noPoint 33 = .ok (.iconst 0, 1) := dk_3 (dk_at dksX4_noPoint_1 10 rfl rfl)
theorem dX4_noPoint_34 : decode cX4_noPoint 34 = .ok (.iload_n 3, 1) := dk_29 (dk_at dksX4_noPoint_1 11 rfl rfl)
theorem dX4_noPoint_35 : decode cX4_noPoint 35 = .ok (.invokevirtual 241, 3) := dk_182 0 241 (dk_at dksX4_noPoint_1 12 rfl rfl)
theorem dX4_noPoint_38 : decode cX4_noPoint 38 = .ok (.ireturn, 1) := dk_172 (dk_at dksX4_noPoint_1 15 rfl rfl)
abbrev cX4_where : ByteArray := prog_10_method_73_code
def yX4_where : MethodName := ⟨RX4, "where", "(III)I"⟩
def dkwX4_where_2 : List UInt8 := [42, 27, 28, 29, 182, 1, 5, 172]
abbrev dktX4_where_2 : List UInt8 := dkwX4_where_2 ++ []
def dkwX4_where_1 : List UInt8 := [42, 27, 182, 0, 42, 154, 0, 7, 4, 167, 0, 4, 3, 6, 182, 0, 241, 153, 0, 7, 3, 167, 0, 10]
abbrev dktX4_where_1 : List UInt8 := dkwX4_where_1 ++ dktX4_where_2
def dkwX4_where_0 : List UInt8 := [42, 3, 181, 0, 32, 42, 27, 182, 1, 44, 154, 0, 34, 42, 28, 29, 5, 182, 1, 50, 154, 0, 24, 42]
abbrev dktX4_where_0 : List UInt8 := dkwX4_where_0 ++ dktX4_where_1
theorem dksX4_where_0 : cX4_where.data.toList.drop 0 = dktX4_where_0 := by decide +kernel
theorem dksX4_where_1 : cX4_where.data.toList.drop 24 = dktX4_where_1 := dk_seg dksX4_where_0 24 rfl rfl
theorem dksX4_where_2 : cX4_where.data.toList.drop 48 = dktX4_where_2 := dk_seg dksX4_where_1 24 rfl rfl
theorem dX4_where_0 : decode cX4_where 0 = .ok (.aload_n 0, 1) := dk_42 (dk_at dksX4_where_0 0 rfl rfl)
theorem dX4_where_1 : decode cX4_where 1 = .ok (.iconst 0, 1) := dk_3 (dk_at dksX4_where_0 1 rfl rfl)
theorem dX4_where_2 : decode cX4_where 2 = .ok (.putfield 32, 3) := dk_181 0 32 (dk_at dksX4_where_0 2 rfl rfl)
theorem dX4_where_5 : decode cX4_where 5 = .ok (.aload_n 0, 1) := dk_42 (dk_at dksX4_where_0 5 rfl rfl)
theorem dX4_where_6 : decode cX4_where 6 = .ok (.iload_n 1, 1) := dk_27 (dk_at dksX4_where_0 6 rfl rfl)
theorem dX4_where_7 : decode cX4_where 7 = .ok (.invokevirtual 300, 3) := dk_182 1 44 (dk_at dksX4_where_0 7 rfl rfl)
theorem dX4_where_10 : decode cX4_where 10 = .ok (.ifCond .ne 34, 3) := dk_154 0 34 (dk_at dksX4_where_0 10 rfl rfl)
theorem dX4_where_13 : decode cX4_where 13 = .ok (.aload_n 0, 1) := dk_42 (dk_at dksX4_where_0 13 rfl rfl)
theorem dX4_where_14 : decode cX4_where 14 = .ok (.iload_n 2, 1) := dk_28 (dk_at dksX4_where_0 14 rfl rfl)
theorem dX4_where_15 : decode cX4_where 15 = .ok (.iload_n 3, 1) := dk_29 (dk_at dksX4_where_0 15 rfl rfl)
theorem dX4_where_16 : decode cX4_where 16 = .ok (.iconst 2, 1) := dk_5 (dk_at dksX4_where_0 16 rfl rfl)
theorem dX4_where_17 : decode cX4_where 17 = .ok (.invokevirtual 306, 3) := dk_182 1 50 (dk_at dksX4_where_0 17 rfl rfl)
theorem dX4_where_20 : decode cX4_where 20 = .ok (.ifCond .ne 24, 3) := dk_154 0 24 (dk_at dksX4_where_0 20 rfl rfl)
theorem dX4_where_23 : decode cX4_where 23 = .ok (.aload_n 0, 1) := dk_42 (dk_at dksX4_where_0 23 rfl rfl)
theorem dX4_where_24 : decode cX4_where 24 = .ok (.aload_n 0, 1) := dk_42 (dk_at dksX4_where_1 0 rfl rfl)
theorem dX4_where_25 : decode cX4_where 25 = .ok (.iload_n 1, 1) := dk_27 (dk_at dksX4_where_1 1 rfl rfl)
theorem dX4_where_26 : decode cX4_where 26 = .ok (.invokevirtual 42, 3) := dk_182 0 42 (dk_at dksX4_where_1 2 rfl rfl)
theorem dX4_where_29 : decode cX4_where 29 = .ok (.ifCond .ne 7, 3) := dk_154 0 7 (dk_at dksX4_where_1 5 rfl rfl)
theorem dX4_where_32 : decode cX4_where 32 = .ok (.iconst 1, 1) := dk_4 (dk_at dksX4_where_1 8 rfl rfl)
theorem dX4_where_33 : decode cX4_where 33 = .ok (.goto 4, 3) := dk_167 0 4 (dk_at dksX4_where_1 9 rfl rfl)
theorem dX4_where_36 : decode cX4_where 36 = .ok (.iconst 0, 1) := dk_3 (dk_at dksX4_where_1 12 rfl rfl)
theorem dX4_where_37 : decode cX4_where 37 = .ok (.iconst 3, 1) := dk_6 (dk_at dksX4_where_1 13 rfl rfl)
theorem dX4_where_38 : decode cX4_where 38 = .ok (.invokevirtual 241, 3) := dk_182 0 241 (dk_at dksX4_where_1 14 rfl rfl)
theorem dX4_where_41 : decode cX4_where 41 = .ok (.ifCond .eq 7, 3) := dk_153 0 7 (dk_at dksX4_where_1 17 rfl rfl)
theorem dX4_where_44 : decode cX4_where 44 = .ok (.iconst 0, 1) := dk_3 (dk_at dksX4_where_1 20 rfl rfl)
theorem dX4_where_45 : decode cX4_where 45 = .ok (.goto 10, 3) := dk_167 0 10 (dk_at dksX4_where_1 21 rfl rfl)
theorem dX4_where_48 : decode cX4_where 48 = .ok (.aload_n 0, 1) := dk_42 (dk_at dksX4_where_2 0 rfl rfl)
theorem dX4_where_49 : decode cX4_where 49 = .ok (.iload_n 1, 1) := dk_27 (dk_at dksX4_where_2 1 rfl rfl)
theorem dX4_where_50 : decode cX4_where 50 = .ok (.iload_n 2, 1) := dk_28 (dk_at dksX4_where_2 2 rfl rfl)
theorem dX4_where_51 : decode cX4_where 51 = .ok (.iload_n 3, 1) := dk_29 (dk_at dksX4_where_2 3 rfl rfl)
theorem dX4_where_52 : decode cX4_where 52 = .ok (.invokevirtual 261, 3) := dk_182 1 5 (dk_at dksX4_where_2 4 rfl rfl)
theorem dX4_where_55 : decode cX4_where 55 = .ok (.ireturn, 1) := dk_172 (dk_at dksX4_where_2 7 rfl rfl)
abbrev cX4_area : ByteArray := prog_10_method_74_code
def yX4_area : MethodName := ⟨RX4, "area", "(I)I"⟩
def dkwX4_area_0 : List UInt8 := [42, 3, 181, 0, 32, 42, 27, 182, 1, 53, 153, 0, 7, 3, 167, 0, 8, 42, 27, 182, 1, 8, 172]
abbrev dktX4_area_0 : List UInt8 := dkwX4_area_0 ++ []
theorem dksX4_area_0 : cX4_area.data.toList.drop 0 = dktX4_area_0 := by decide +kernel
theorem dX4_area_0 : decode cX4_area 0 = .ok (.aload_n 0, 1) := dk_42 (dk_at dksX4_area_0 0 rfl rfl)
theorem dX4_area_1 : decode cX4_area 1 = .ok (.iconst 0, 1) := dk_3 (dk_at dksX4_area_0 1 rfl rfl)
theorem dX4_area_2 : decode cX4_area 2 = .ok (.putfield 32, 3) := dk_181 0 32 (dk_at dksX4_area_0 2 rfl rfl)
theorem dX4_area_5 : decode cX4_area 5 = .ok (.aload_n 0, 1) := dk_42 (dk_at dksX4_area_0 5 rfl rfl)
theorem dX4_area_6 : decode cX4_area 6 = .ok (.iload_n 1, 1) := dk_27 (dk_at dksX4_area_0 6 rfl rfl)
theorem dX4_area_7 : decode cX4_area 7 = .ok (.invokevirtual 309, 3) := dk_182 1 53 (dk_at dksX4_area_0 7 rfl rfl)
theorem dX4_area_10 : decode cX4_area 10 = .ok (.ifCond .eq 7, 3) := dk_153 0 7 (dk_at dksX4_area_0 10 rfl rfl)
theorem dX4_area_13 : decode cX4_area 13 = .ok (.iconst 0, 1) := dk_3 (dk_at dksX4_area_0 13 rfl rfl)
theorem dX4_area_14 : decode cX4_area 14 = .ok (.goto 8, 3) := dk_167 0 8 (dk_at dksX4_area_0 14 rfl rfl)
theorem dX4_area_17 : decode cX4_area 17 = .ok (.aload_n 0, 1) := dk_42 (dk_at dksX4_area_0 17 rfl rfl)
theorem dX4_area_18 : decode cX4_area 18 = .ok (.iload_n 1, 1) := dk_27 (dk_at dksX4_area_0 18 rfl rfl)
theorem dX4_area_19 : decode cX4_area 19 = .ok (.invokevirtual 264, 3) := dk_182 1 8 (dk_at dksX4_area_0 19 rfl rfl)
theorem dX4_area_22 : decode cX4_area 22 = .ok (.ireturn, 1) := dk_172 (dk_at dksX4_area_0 22 rfl rfl)
abbrev cX4_noClosed : ByteArray := prog_10_method_67_code
def yX4_noClosed : MethodName := ⟨RX4, "noClosed", "(I)Z"⟩
def dkwX4_noClosed_1 : List UInt8 := [182, 0, 241, 153, 0, 7, 4, 167, 0, 4, 3, 172]
abbrev dktX4_noClosed_1 : List UInt8 := dkwX4_noClosed_1 ++ []
def dkwX4_noClosed_0 : List UInt8 := [42, 27, 182, 1, 44, 154, 0, 24, 42, 42, 27, 182, 0, 42, 154, 0, 7, 4, 167, 0, 4, 3, 5]
abbrev dktX4_noClosed_0 : List UInt8 := dkwX4_noClosed_0 ++ dktX4_noClosed_1
theorem dksX4_noClosed_0 : cX4_noClosed.data.toList.drop 0 = dktX4_noClosed_0 := by decide +kernel
theorem dksX4_noClosed_1 : cX4_noClosed.data.toList.drop 23 = dktX4_noClosed_1 := dk_seg dksX4_noClosed_0 23 rfl rfl
theorem dX4_noClosed_0 : decode cX4_noClosed 0 = .ok (.aload_n 0, 1) := dk_42 (dk_at dksX4_noClosed_0 0 rfl rfl)
theorem dX4_noClosed_1 : decode cX4_noClosed 1 = .ok (.iload_n 1, 1) := dk_27 (dk_at dksX4_noClosed_0 1 rfl rfl)
theorem dX4_noClosed_2 : decode cX4_noClosed 2 = .ok (.invokevirtual 300, 3) := dk_182 1 44 (dk_at dksX4_noClosed_0 2 rfl rfl)
theorem dX4_noClosed_5 : decode cX4_noClosed 5 = .ok (.ifCond .ne 24, 3) := dk_154 0 24 (dk_at dksX4_noClosed_0 5 rfl rfl)
theorem dX4_noClosed_8 : decode cX4_noClosed 8 = .ok (.aload_n 0, 1) := dk_42 (dk_at dksX4_noClosed_0 8 rfl rfl)
theorem dX4_noClosed_9 : decode cX4_noClosed 9 = .ok (.aload_n 0, 1) := dk_42 (dk_at dksX4_noClosed_0 9 rfl rfl)
theorem dX4_noClosed_10 : decode cX4_noClosed 10 = .ok (.iload_n 1, 1) := dk_27 (dk_at dksX4_noClosed_0 10 rfl rfl)
theorem dX4_noClosed_11 : decode cX4_noClosed 11 = .ok (.invokevirtual 42, 3) := dk_182 0 42 (dk_at dksX4_noClosed_0 11 rfl rfl)
theorem dX4_noClosed_14 : decode cX4_noClosed 14 = .ok (.ifCond .ne 7, 3) := dk_154 0 7 (dk_at dksX4_noClosed_0 14 rfl rfl)
theorem dX4_noClosed_17 : decode cX4_noClosed 17 = .ok (.iconst 1, 1) := dk_4 (dk_at dksX4_noClosed_0 17 rfl rfl)
theorem dX4_noClosed_18 : decode cX4_noClosed 18 = .ok (.goto 4, 3) := dk_167 0 4 (dk_at dksX4_noClosed_0 18 rfl rfl)
theorem dX4_noClosed_21 : decode cX4_noClosed 21 = .ok (.iconst 0, 1) := dk_3 (dk_at dksX4_noClosed_0 21 rfl rfl)
theorem dX4_noClosed_22 : decode cX4_noClosed 22 = .ok (.iconst 2, 1) := dk_5 (dk_at dksX4_noClosed_0 22 rfl rfl)
theorem dX4_noClosed_23 : decode cX4_noClosed 23 = .ok (.invokevirtual 241, 3) := dk_182 0 241 (dk_at dksX4_noClosed_1 0 rfl rfl)
theorem dX4_noClosed_26 : decode cX4_noClosed 26 = .ok (.ifCond .eq 7, 3) := dk_153 0 7 (dk_at dksX4_noClosed_1 3 rfl rfl)
theorem dX4_noClosed_29 : decode cX4_noClosed 29 = .ok (.iconst 1, 1) := dk_4 (dk_at dksX4_noClosed_1 6 rfl rfl)
theorem dX4_noClosed_30 : decode cX4_noClosed 30 = .ok (.goto 4, 3) := dk_167 0 4 (dk_at dksX4_noClosed_1 7 rfl rfl)
theorem dX4_noClosed_33 : decode cX4_noClosed 33 = .ok (.iconst 0, 1) := dk_3 (dk_at dksX4_noClosed_1 10 rfl rfl)
theorem dX4_noClosed_34 : decode cX4_noClosed 34 = .ok (.ireturn, 1) := dk_172 (dk_at dksX4_noClosed_1 11 rfl rfl)
abbrev cX4_border : ByteArray := prog_10_method_75_code
def yX4_border : MethodName := ⟨RX4, "border", "(I)I"⟩
def dkwX4_border_0 : List UInt8 := [42, 3, 181, 0, 32, 42, 27, 182, 1, 53, 153, 0, 7, 3, 167, 0, 9, 42, 27, 4, 182, 1, 28, 172]
abbrev dktX4_border_0 : List UInt8 := dkwX4_border_0 ++ []
theorem dksX4_border_0 : cX4_border.data.toList.drop 0 = dktX4_border_0 := by decide +kernel
theorem dX4_border_0 : decode cX4_border 0 = .ok (.aload_n 0, 1) := dk_42 (dk_at dksX4_border_0 0 rfl rfl)
theorem dX4_border_1 : decode cX4_border 1 = .ok (.iconst 0, 1) := dk_3 (dk_at dksX4_border_0 1 rfl rfl)
theorem dX4_border_2 : decode cX4_border 2 = .ok (.putfield 32, 3) := dk_181 0 32 (dk_at dksX4_border_0 2 rfl rfl)
theorem dX4_border_5 : decode cX4_border 5 = .ok (.aload_n 0, 1) := dk_42 (dk_at dksX4_border_0 5 rfl rfl)
theorem dX4_border_6 : decode cX4_border 6 = .ok (.iload_n 1, 1) := dk_27 (dk_at dksX4_border_0 6 rfl rfl)
theorem dX4_border_7 : decode cX4_border 7 = .ok (.invokevirtual 309, 3) := dk_182 1 53 (dk_at dksX4_border_0 7 rfl rfl)
theorem dX4_border_10 : decode cX4_border 10 = .ok (.ifCond .eq 7, 3) := dk_153 0 7 (dk_at dksX4_border_0 10 rfl rfl)
theorem dX4_border_13 : decode cX4_border 13 = .ok (.iconst 0, 1) := dk_3 (dk_at dksX4_border_0 13 rfl rfl)
theorem dX4_border_14 : decode cX4_border 14 = .ok (.goto 9, 3) := dk_167 0 9 (dk_at dksX4_border_0 14 rfl rfl)
theorem dX4_border_17 : decode cX4_border 17 = .ok (.aload_n 0, 1) := dk_42 (dk_at dksX4_border_0 17 rfl rfl)
theorem dX4_border_18 : decode cX4_border 18 = .ok (.iload_n 1, 1) := dk_27 (dk_at dksX4_border_0 18 rfl rfl)
theorem dX4_border_19 : decode cX4_border 19 = .ok (.iconst 1, 1) := dk_4 (dk_at dksX4_border_0 19 rfl rfl)
theorem dX4_border_20 : decode cX4_border 20 = .ok (.invokevirtual 284, 3) := dk_182 1 28 (dk_at dksX4_border_0 20 rfl rfl)
theorem dX4_border_23 : decode cX4_border 23 = .ok (.ireturn, 1) := dk_172 (dk_at dksX4_border_0 23 rfl rfl)
abbrev cX4_countAll : ByteArray := prog_10_method_56_code
def yX4_countAll : MethodName := ⟨RX4, "countAll", "(II)I"⟩
def dkwX4_countAll_2 : List UInt8 := [167, 0, 4, 3, 96, 62, 132, 5, 1, 167, 255, 221, 132, 4, 1, 167, 255, 201, 29, 172]
abbrev dktX4_countAll_2 : List UInt8 := dkwX4_countAll_2 ++ []
def dkwX4_countAll_1 : List UInt8 := [180, 0, 17, 4, 46, 163, 0, 30, 29, 42, 27, 21, 4, 21, 5, 182, 1, 5, 28, 160, 0, 7, 4]
abbrev dktX4_countAll_1 : List UInt8 := dkwX4_countAll_1 ++ dktX4_countAll_2
def dkwX4_countAll_0 : List UInt8 := [3, 62, 3, 54, 4, 21, 4, 42, 180, 0, 17, 3, 46, 163, 0, 50, 3, 54, 5, 21, 5, 42]
abbrev dktX4_countAll_0 : List UInt8 := dkwX4_countAll_0 ++ dktX4_countAll_1
theorem dksX4_countAll_0 : cX4_countAll.data.toList.drop 0 = dktX4_countAll_0 := by decide +kernel
theorem dksX4_countAll_1 : cX4_countAll.data.toList.drop 22 = dktX4_countAll_1 := dk_seg dksX4_countAll_0 22 rfl rfl
theorem dksX4_countAll_2 : cX4_countAll.data.toList.drop 45 = dktX4_countAll_2 := dk_seg dksX4_countAll_1 23 rfl rfl
theorem dX4_countAll_0 : decode cX4_countAll 0 = .ok (.iconst 0, 1) := dk_3 (dk_at dksX4_countAll_0 0 rfl rfl)
theorem dX4_countAll_1 : decode cX4_countAll 1 = .ok (.istore_n 3, 1) := dk_62 (dk_at dksX4_countAll_0 1 rfl rfl)
theorem dX4_countAll_2 : decode cX4_countAll 2 = .ok (.iconst 0, 1) := dk_3 (dk_at dksX4_countAll_0 2 rfl rfl)
theorem dX4_countAll_3 : decode cX4_countAll 3 = .ok (.istore 4, 2) := dk_54 4 (dk_at dksX4_countAll_0 3 rfl rfl)
theorem dX4_countAll_5 : decode cX4_countAll 5 = .ok (.iload 4, 2) := dk_21 4 (dk_at dksX4_countAll_0 5 rfl rfl)
theorem dX4_countAll_7 : decode cX4_countAll 7 = .ok (.aload_n 0, 1) := dk_42 (dk_at dksX4_countAll_0 7 rfl rfl)
theorem dX4_countAll_8 : decode cX4_countAll 8 = .ok (.getfield 17, 3) := dk_180 0 17 (dk_at dksX4_countAll_0 8 rfl rfl)
theorem dX4_countAll_11 : decode cX4_countAll 11 = .ok (.iconst 0, 1) := dk_3 (dk_at dksX4_countAll_0 11 rfl rfl)
theorem dX4_countAll_12 : decode cX4_countAll 12 = .ok (.iaload, 1) := dk_46 (dk_at dksX4_countAll_0 12 rfl rfl)
theorem dX4_countAll_13 : decode cX4_countAll 13 = .ok (.if_icmp .gt 50, 3) := dk_163 0 50 (dk_at dksX4_countAll_0 13 rfl rfl)
theorem dX4_countAll_16 : decode cX4_countAll 16 = .ok (.iconst 0, 1) := dk_3 (dk_at dksX4_countAll_0 16 rfl rfl)
theorem dX4_countAll_17 : decode cX4_countAll 17 = .ok (.istore 5, 2) := dk_54 5 (dk_at dksX4_countAll_0 17 rfl rfl)
theorem dX4_countAll_19 : decode cX4_countAll 19 = .ok (.iload 5, 2) := dk_21 5 (dk_at dksX4_countAll_0 19 rfl rfl)
theorem dX4_countAll_21 : decode cX4_countAll 21 = .ok (.aload_n 0, 1) := dk_42 (dk_at dksX4_countAll_0 21 rfl rfl)
theorem dX4_countAll_22 : decode cX4_countAll 22 = .ok (.getfield 17, 3) := dk_180 0 17 (dk_at dksX4_countAll_1 0 rfl rfl)
theorem dX4_countAll_25 : decode cX4_countAll 25 = .ok (.iconst 1, 1) := dk_4 (dk_at dksX4_countAll_1 3 rfl rfl)
theorem dX4_countAll_26 : decode cX4_countAll 26 = .ok (.iaload, 1) := dk_46 (dk_at dksX4_countAll_1 4 rfl rfl)
theorem dX4_countAll_27 : decode cX4_countAll 27 = .ok (.if_icmp .gt 30, 3) := dk_163 0 30 (dk_at dksX4_countAll_1 5 rfl rfl)
theorem dX4_countAll_30 : decode cX4_countAll 30 = .ok (.iload_n 3, 1) := dk_29 (dk_at dksX4_countAll_1 8 rfl rfl)
theorem dX4_countAll_31 : decode cX4_countAll 31 = .ok (.aload_n 0, 1) := dk_42 (dk_at dksX4_countAll_1 9 rfl rfl)
theorem dX4_countAll_32 : decode cX4_countAll 32 = .ok (.iload_n 1, 1) := dk_27 (dk_at dksX4_countAll_1 10 rfl rfl)
theorem dX4_countAll_33 : decode cX4_countAll 33 = .ok (.iload 4, 2) := dk_21 4 (dk_at dksX4_countAll_1 11 rfl rfl)
theorem dX4_countAll_35 : decode cX4_countAll 35 = .ok (.iload 5, 2) := dk_21 5 (dk_at dksX4_countAll_1 13 rfl rfl)
theorem dX4_countAll_37 : decode cX4_countAll 37 = .ok (.invokevirtual 261, 3) := dk_182 1 5 (dk_at dksX4_countAll_1 15 rfl rfl)
theorem dX4_countAll_40 : decode cX4_countAll 40 = .ok (.iload_n 2, 1) := dk_28 (dk_at dksX4_countAll_1 18 rfl rfl)
theorem dX4_countAll_41 : decode cX4_countAll 41 = .ok (.if_icmp .ne 7, 3) := dk_160 0 7 (dk_at dksX4_countAll_1 19 rfl rfl)
theorem dX4_countAll_44 : decode cX4_countAll 44 = .ok (.iconst 1, 1) := dk_4 (dk_at dksX4_countAll_1 22 rfl rfl)
theorem dX4_countAll_45 : decode cX4_countAll 45 = .ok (.goto 4, 3) := dk_167 0 4 (dk_at dksX4_countAll_2 0 rfl rfl)
theorem dX4_countAll_48 : decode cX4_countAll 48 = .ok (.iconst 0, 1) := dk_3 (dk_at dksX4_countAll_2 3 rfl rfl)
theorem dX4_countAll_49 : decode cX4_countAll 49 = .ok (.iadd, 1) := dk_96 (dk_at dksX4_countAll_2 4 rfl rfl)
theorem dX4_countAll_50 : decode cX4_countAll 50 = .ok (.istore_n 3, 1) := dk_62 (dk_at dksX4_countAll_2 5 rfl rfl)
theorem dX4_countAll_51 : decode cX4_countAll 51 = .ok (.iinc 5 1, 3) := dk_132 5 1 (dk_at dksX4_countAll_2 6 rfl rfl)
theorem dX4_countAll_54 : decode cX4_countAll 54 = .ok (.goto (-35), 3) := dk_167 255 221 (dk_at dksX4_countAll_2 9 rfl rfl)
theorem dX4_countAll_57 : decode cX4_countAll 57 = .ok (.iinc 4 1, 3) := dk_132 4 1 (dk_at dksX4_countAll_2 12 rfl rfl)
theorem dX4_countAll_60 : decode cX4_countAll 60 = .ok (.goto (-55), 3) := dk_167 255 201 (dk_at dksX4_countAll_2 15 rfl rfl)
theorem dX4_countAll_63 : decode cX4_countAll 63 = .ok (.iload_n 3, 1) := dk_29 (dk_at dksX4_countAll_2 18 rfl rfl)
theorem dX4_countAll_64 : decode cX4_countAll 64 = .ok (.ireturn, 1) := dk_172 (dk_at dksX4_countAll_2 19 rfl rfl)
abbrev cX4_inner : ByteArray := prog_10_method_76_code
def yX4_inner : MethodName := ⟨RX4, "inner", "(I)I"⟩
def dkwX4_inner_0 : List UInt8 := [42, 3, 181, 0, 32, 42, 27, 182, 1, 53, 153, 0, 7, 3, 167, 0, 9, 42, 27, 5, 182, 1, 28, 172]
abbrev dktX4_inner_0 : List UInt8 := dkwX4_inner_0 ++ []
theorem dksX4_inner_0 : cX4_inner.data.toList.drop 0 = dktX4_inner_0 := by decide +kernel
theorem dX4_inner_0 : decode cX4_inner 0 = .ok (.aload_n 0, 1) := dk_42 (dk_at dksX4_inner_0 0 rfl rfl)
theorem dX4_inner_1 : decode cX4_inner 1 = .ok (.iconst 0, 1) := dk_3 (dk_at dksX4_inner_0 1 rfl rfl)
theorem dX4_inner_2 : decode cX4_inner 2 = .ok (.putfield 32, 3) := dk_181 0 32 (dk_at dksX4_inner_0 2 rfl rfl)
theorem dX4_inner_5 : decode cX4_inner 5 = .ok (.aload_n 0, 1) := dk_42 (dk_at dksX4_inner_0 5 rfl rfl)
theorem dX4_inner_6 : decode cX4_inner 6 = .ok (.iload_n 1, 1) := dk_27 (dk_at dksX4_inner_0 6 rfl rfl)
theorem dX4_inner_7 : decode cX4_inner 7 = .ok (.invokevirtual 309, 3) := dk_182 1 53 (dk_at dksX4_inner_0 7 rfl rfl)
theorem dX4_inner_10 : decode cX4_inner 10 = .ok (.ifCond .eq 7, 3) := dk_153 0 7 (dk_at dksX4_inner_0 10 rfl rfl)
theorem dX4_inner_13 : decode cX4_inner 13 = .ok (.iconst 0, 1) := dk_3 (dk_at dksX4_inner_0 13 rfl rfl)
theorem dX4_inner_14 : decode cX4_inner 14 = .ok (.goto 9, 3) := dk_167 0 9 (dk_at dksX4_inner_0 14 rfl rfl)
theorem dX4_inner_17 : decode cX4_inner 17 = .ok (.aload_n 0, 1) := dk_42 (dk_at dksX4_inner_0 17 rfl rfl)
theorem dX4_inner_18 : decode cX4_inner 18 = .ok (.iload_n 1, 1) := dk_27 (dk_at dksX4_inner_0 18 rfl rfl)
theorem dX4_inner_19 : decode cX4_inner 19 = .ok (.iconst 2, 1) := dk_5 (dk_at dksX4_inner_0 19 rfl rfl)
theorem dX4_inner_20 : decode cX4_inner 20 = .ok (.invokevirtual 284, 3) := dk_182 1 28 (dk_at dksX4_inner_0 20 rfl rfl)
theorem dX4_inner_23 : decode cX4_inner 23 = .ok (.ireturn, 1) := dk_172 (dk_at dksX4_inner_0 23 rfl rfl)
abbrev cX4_dents : ByteArray := prog_10_method_77_code
def yX4_dents : MethodName := ⟨RX4, "dents", "(I)I"⟩
def dkwX4_dents_0 : List UInt8 := [42, 3, 181, 0, 32, 42, 27, 182, 1, 53, 153, 0, 7, 3, 167, 0, 8, 42, 27, 182, 1, 25, 172]
abbrev dktX4_dents_0 : List UInt8 := dkwX4_dents_0 ++ []
theorem dksX4_dents_0 : cX4_dents.data.toList.drop 0 = dktX4_dents_0 := by decide +kernel
theorem dX4_dents_0 : decode cX4_dents 0 = .ok (.aload_n 0, 1) := dk_42 (dk_at dksX4_dents_0 0 rfl rfl)
theorem dX4_dents_1 : decode cX4_dents 1 = .ok (.iconst 0, 1) := dk_3 (dk_at dksX4_dents_0 1 rfl rfl)
theorem dX4_dents_2 : decode cX4_dents 2 = .ok (.putfield 32, 3) := dk_181 0 32 (dk_at dksX4_dents_0 2 rfl rfl)
theorem dX4_dents_5 : decode cX4_dents 5 = .ok (.aload_n 0, 1) := dk_42 (dk_at dksX4_dents_0 5 rfl rfl)
theorem dX4_dents_6 : decode cX4_dents 6 = .ok (.iload_n 1, 1) := dk_27 (dk_at dksX4_dents_0 6 rfl rfl)
theorem dX4_dents_7 : decode cX4_dents 7 = .ok (.invokevirtual 309, 3) := dk_182 1 53 (dk_at dksX4_dents_0 7 rfl rfl)
theorem dX4_dents_10 : decode cX4_dents 10 = .ok (.ifCond .eq 7, 3) := dk_153 0 7 (dk_at dksX4_dents_0 10 rfl rfl)
theorem dX4_dents_13 : decode cX4_dents 13 = .ok (.iconst 0, 1) := dk_3 (dk_at dksX4_dents_0 13 rfl rfl)
theorem dX4_dents_14 : decode cX4_dents 14 = .ok (.goto 8, 3) := dk_167 0 8 (dk_at dksX4_dents_0 14 rfl rfl)
theorem dX4_dents_17 : decode cX4_dents 17 = .ok (.aload_n 0, 1) := dk_42 (dk_at dksX4_dents_0 17 rfl rfl)
theorem dX4_dents_18 : decode cX4_dents 18 = .ok (.iload_n 1, 1) := dk_27 (dk_at dksX4_dents_0 18 rfl rfl)
theorem dX4_dents_19 : decode cX4_dents 19 = .ok (.invokevirtual 281, 3) := dk_182 1 25 (dk_at dksX4_dents_0 19 rfl rfl)
theorem dX4_dents_22 : decode cX4_dents 22 = .ok (.ireturn, 1) := dk_172 (dk_at dksX4_dents_0 22 rfl rfl)
abbrev cX4_dentsOf : ByteArray := prog_10_method_57_code
def yX4_dentsOf : MethodName := ⟨RX4, "dentsOf", "(I)I"⟩
def dkwX4_dentsOf_5 : List UInt8 := [167, 0, 4, 3, 96, 61, 132, 4, 1, 167, 255, 148, 28, 172]
abbrev dktX4_dentsOf_5 : List UInt8 := dkwX4_dentsOf_5 ++ []
def dkwX4_dentsOf_4 : List UInt8 := [28, 29, 153, 0, 16, 21, 7, 156, 0, 7, 4, 167, 0, 17, 3, 167, 0, 13, 21, 7, 158, 0, 7, 4]
abbrev dktX4_dentsOf_4 : List UInt8 := dkwX4_dentsOf_4 ++ dktX4_dentsOf_5
def dkwX4_dentsOf_3 : List UInt8 := [21, 4, 182, 0, 75, 42, 27, 21, 6, 182, 0, 72, 42, 27, 21, 6, 182, 0, 75, 184, 0, 46, 54, 7]
abbrev dktX4_dentsOf_3 : List UInt8 := dkwX4_dentsOf_3 ++ dktX4_dentsOf_4
def dkwX4_dentsOf_2 : List UInt8 := [42, 27, 21, 5, 182, 0, 72, 42, 27, 21, 5, 182, 0, 75, 42, 27, 21, 4, 182, 0, 72, 42, 27]
abbrev dktX4_dentsOf_2 : List UInt8 := dkwX4_dentsOf_2 ++ dktX4_dentsOf_3
def dkwX4_dentsOf_1 : List UInt8 := [182, 0, 39, 162, 0, 104, 42, 27, 21, 4, 182, 0, 121, 54, 5, 42, 27, 21, 4, 182, 0, 84, 54, 6]
abbrev dktX4_dentsOf_1 : List UInt8 := dkwX4_dentsOf_1 ++ dktX4_dentsOf_2
def dkwX4_dentsOf_0 : List UInt8 := [3, 61, 42, 27, 182, 1, 2, 158, 0, 7, 4, 167, 0, 4, 3, 62, 3, 54, 4, 21, 4, 42, 27]
abbrev dktX4_dentsOf_0 : List UInt8 := dkwX4_dentsOf_0 ++ dktX4_dentsOf_1
theorem dksX4_dentsOf_0 : cX4_dentsOf.data.toList.drop 0 = dktX4_dentsOf_0 := by decide +kernel
theorem dksX4_dentsOf_1 : cX4_dentsOf.data.toList.drop 23 = dktX4_dentsOf_1 := dk_seg dksX4_dentsOf_0 23 rfl rfl
theorem dksX4_dentsOf_2 : cX4_dentsOf.data.toList.drop 47 = dktX4_dentsOf_2 := dk_seg dksX4_dentsOf_1 24 rfl rfl
theorem dksX4_dentsOf_3 : cX4_dentsOf.data.toList.drop 70 = dktX4_dentsOf_3 := dk_seg dksX4_dentsOf_2 23 rfl rfl
theorem dksX4_dentsOf_4 : cX4_dentsOf.data.toList.drop 94 = dktX4_dentsOf_4 := dk_seg dksX4_dentsOf_3 24 rfl rfl
theorem dksX4_dentsOf_5 : cX4_dentsOf.data.toList.drop 118 = dktX4_dentsOf_5 := dk_seg dksX4_dentsOf_4 24 rfl rfl
theorem dX4_dentsOf_0 : decode cX4_dentsOf 0 = .ok (.iconst 0, 1) := dk_3 (dk_at dksX4_dentsOf_0 0 rfl rfl)
theorem dX4_dentsOf_1 : decode cX4_dentsOf 1 = .ok (.istore_n 2, 1) := dk_61 (dk_at dksX4_dentsOf_0 1 rfl rfl)
theorem dX4_dentsOf_2 : decode cX4_dentsOf 2 = .ok (.aload_n 0, 1) := dk_42 (dk_at dksX4_dentsOf_0 2 rfl rfl)
theorem dX4_dentsOf_3 : decode cX4_dentsOf 3 = .ok (.iload_n 1, 1) := dk_27 (dk_at dksX4_dentsOf_0 3 rfl rfl)
theorem dX4_dentsOf_4 : decode cX4_dentsOf 4 = .ok (.invokevirtual 258, 3) := dk_182 1 2 (dk_at dksX4_dentsOf_0 4 rfl rfl)
theorem dX4_dentsOf_7 : decode cX4_dentsOf 7 = .ok (.ifCond .le 7, 3) := dk_158 0 7 (dk_at dksX4_dentsOf_0 7 rfl rfl)
theorem dX4_dentsOf_10 : decode cX4_dentsOf 10 = .ok (.iconst 1, 1) := dk_4 (dk_at dksX4_dentsOf_0 10 rfl rfl)
theorem dX4_dentsOf_11 : decode cX4_dentsOf 11 = .ok (.goto 4, 3) := dk_167 0 4 (dk_at dksX4_dentsOf_0 11 rfl rfl)
theorem dX4_dentsOf_14 : decode cX4_dentsOf 14 = .ok (.iconst 0, 1) := dk_3 (dk_at dksX4_dentsOf_0 14 rfl rfl)
theorem dX4_dentsOf_15 : decode cX4_dentsOf 15 = .ok (.istore_n 3, 1) := dk_62 (dk_at dksX4_dentsOf_0 15 rfl rfl)
theorem dX4_dentsOf_16 : decode cX4_dentsOf 16 = .ok (.iconst 0, 1) := dk_3 (dk_at dksX4_dentsOf_0 16 rfl rfl)
theorem dX4_dentsOf_17 : decode cX4_dentsOf 17 = .ok (.istore 4, 2) := dk_54 4 (dk_at dksX4_dentsOf_0 17 rfl rfl)
theorem dX4_dentsOf_19 : decode cX4_dentsOf 19 = .ok (.iload 4, 2) := dk_21 4 (dk_at dksX4_dentsOf_0 19 rfl rfl)
theorem dX4_dentsOf_21 : decode cX4_dentsOf 21 = .ok (.aload_n 0, 1) := dk_42 (dk_at dksX4_dentsOf_0 21 rfl rfl)
theorem dX4_dentsOf_22 : decode cX4_dentsOf 22 = .ok (.iload_n 1, 1) := dk_27 (dk_at dksX4_dentsOf_0 22 rfl rfl)
theorem dX4_dentsOf_23 : decode cX4_dentsOf 23 = .ok (.invokevirtual 39, 3) := dk_182 0 39 (dk_at dksX4_dentsOf_1 0 rfl rfl)
theorem dX4_dentsOf_26 : decode cX4_dentsOf 26 = .ok (.if_icmp .ge 104, 3) := dk_162 0 104 (dk_at dksX4_dentsOf_1 3 rfl rfl)
theorem dX4_dentsOf_29 : decode cX4_dentsOf 29 = .ok (.aload_n 0, 1) := dk_42 (dk_at dksX4_dentsOf_1 6 rfl rfl)
theorem dX4_dentsOf_30 : decode cX4_dentsOf 30 = .ok (.iload_n 1, 1) := dk_27 (dk_at dksX4_dentsOf_1 7 rfl rfl)
theorem dX4_dentsOf_31 : decode cX4_dentsOf 31 = .ok (.iload 4, 2) := dk_21 4 (dk_at dksX4_dentsOf_1 8 rfl rfl)
theorem dX4_dentsOf_33 : decode cX4_dentsOf 33 = .ok (.invokevirtual 121, 3) := dk_182 0 121 (dk_at dksX4_dentsOf_1 10 rfl rfl)
theorem dX4_dentsOf_36 : decode cX4_dentsOf 36 = .ok (.istore 5, 2) := dk_54 5 (dk_at dksX4_dentsOf_1 13 rfl rfl)
theorem dX4_dentsOf_38 : decode cX4_dentsOf 38 = .ok (.aload_n 0, 1) := dk_42 (dk_at dksX4_dentsOf_1 15 rfl rfl)
theorem dX4_dentsOf_39 : decode cX4_dentsOf 39 = .ok (.iload_n 1, 1) := dk_27 (dk_at dksX4_dentsOf_1 16 rfl rfl)
theorem dX4_dentsOf_40 : decode cX4_dentsOf 40 = .ok (.iload 4, 2) := dk_21 4 (dk_at dksX4_dentsOf_1 17 rfl rfl)
theorem dX4_dentsOf_42 : decode cX4_dentsOf 42 = .ok (.invokevirtual 84, 3) := dk_182 0 84 (dk_at dksX4_dentsOf_1 19 rfl rfl)
theorem dX4_dentsOf_45 : decode cX4_dentsOf 45 = .ok (.istore 6, 2) := dk_54 6 (dk_at dksX4_dentsOf_1 22 rfl rfl)
theorem dX4_dentsOf_47 : decode cX4_dentsOf 47 = .ok (.aload_n 0, 1) := dk_42 (dk_at dksX4_dentsOf_2 0 rfl rfl)
theorem dX4_dentsOf_48 : decode cX4_dentsOf 48 = .ok (.iload_n 1, 1) := dk_27 (dk_at dksX4_dentsOf_2 1 rfl rfl)
theorem dX4_dentsOf_49 : decode cX4_dentsOf 49 = .ok (.iload 5, 2) := dk_21 5 (dk_at dksX4_dentsOf_2 2 rfl rfl)
theorem dX4_dentsOf_51 : decode cX4_dentsOf 51 = .ok (.invokevirtual 72, 3) := dk_182 0 72 (dk_at dksX4_dentsOf_2 4 rfl rfl)
theorem dX4_dentsOf_54 : decode cX4_dentsOf 54 = .ok (.aload_n 0, 1) := dk_42 (dk_at dksX4_dentsOf_2 7 rfl rfl)
theorem dX4_dentsOf_55 : decode cX4_dentsOf 55 = .ok (.iload_n 1, 1) := dk_27 (dk_at dksX4_dentsOf_2 8 rfl rfl)
theorem dX4_dentsOf_56 : decode cX4_dentsOf 56 = .ok (.iload 5, 2) := dk_21 5 (dk_at dksX4_dentsOf_2 9 rfl rfl)
theorem dX4_dentsOf_58 : decode cX4_dentsOf 58 = .ok (.invokevirtual 75, 3) := dk_182 0 75 (dk_at dksX4_dentsOf_2 11 rfl rfl)
theorem dX4_dentsOf_61 : decode cX4_dentsOf 61 = .ok (.aload_n 0, 1) := dk_42 (dk_at dksX4_dentsOf_2 14 rfl rfl)
theorem dX4_dentsOf_62 : decode cX4_dentsOf 62 = .ok (.iload_n 1, 1) := dk_27 (dk_at dksX4_dentsOf_2 15 rfl rfl)
theorem dX4_dentsOf_63 : decode cX4_dentsOf 63 = .ok (.iload 4, 2) := dk_21 4 (dk_at dksX4_dentsOf_2 16 rfl rfl)
theorem dX4_dentsOf_65 : decode cX4_dentsOf 65 = .ok (.invokevirtual 72, 3) := dk_182 0 72 (dk_at dksX4_dentsOf_2 18 rfl rfl)
theorem dX4_dentsOf_68 : decode cX4_dentsOf 68 = .ok (.aload_n 0, 1) := dk_42 (dk_at dksX4_dentsOf_2 21 rfl rfl)
theorem dX4_dentsOf_69 : decode cX4_dentsOf 69 = .ok (.iload_n 1, 1) := dk_27 (dk_at dksX4_dentsOf_2 22 rfl rfl)
theorem dX4_dentsOf_70 : decode cX4_dentsOf 70 = .ok (.iload 4, 2) := dk_21 4 (dk_at dksX4_dentsOf_3 0 rfl rfl)
theorem dX4_dentsOf_72 : decode cX4_dentsOf 72 = .ok (.invokevirtual 75, 3) := dk_182 0 75 (dk_at dksX4_dentsOf_3 2 rfl rfl)
theorem dX4_dentsOf_75 : decode cX4_dentsOf 75 = .ok (.aload_n 0, 1) := dk_42 (dk_at dksX4_dentsOf_3 5 rfl rfl)
theorem dX4_dentsOf_76 : decode cX4_dentsOf 76 = .ok (.iload_n 1, 1) := dk_27 (dk_at dksX4_dentsOf_3 6 rfl rfl)
theorem dX4_dentsOf_77 : decode cX4_dentsOf 77 = .ok (.iload 6, 2) := dk_21 6 (dk_at dksX4_dentsOf_3 7 rfl rfl)
theorem dX4_dentsOf_79 : decode cX4_dentsOf 79 = .ok (.invokevirtual 72, 3) := dk_182 0 72 (dk_at dksX4_dentsOf_3 9 rfl rfl)
theorem dX4_dentsOf_82 : decode cX4_dentsOf 82 = .ok (.aload_n 0, 1) := dk_42 (dk_at dksX4_dentsOf_3 12 rfl rfl)
theorem dX4_dentsOf_83 : decode cX4_dentsOf 83 = .ok (.iload_n 1, 1) := dk_27 (dk_at dksX4_dentsOf_3 13 rfl rfl)
theorem dX4_dentsOf_84 : decode cX4_dentsOf 84 = .ok (.iload 6, 2) := dk_21 6 (dk_at dksX4_dentsOf_3 14 rfl rfl)
theorem dX4_dentsOf_86 : decode cX4_dentsOf 86 = .ok (.invokevirtual 75, 3) := dk_182 0 75 (dk_at dksX4_dentsOf_3 16 rfl rfl)
theorem dX4_dentsOf_89 : decode cX4_dentsOf 89 = .ok (.invokestatic 46, 3) := dk_184 0 46 (dk_at dksX4_dentsOf_3 19 rfl rfl)
theorem dX4_dentsOf_92 : decode cX4_dentsOf 92 = .ok (.istore 7, 2) := dk_54 7 (dk_at dksX4_dentsOf_3 22 rfl rfl)
theorem dX4_dentsOf_94 : decode cX4_dentsOf 94 = .ok (.iload_n 2, 1) := dk_28 (dk_at dksX4_dentsOf_4 0 rfl rfl)
theorem dX4_dentsOf_95 : decode cX4_dentsOf 95 = .ok (.iload_n 3, 1) := dk_29 (dk_at dksX4_dentsOf_4 1 rfl rfl)
theorem dX4_dentsOf_96 : decode cX4_dentsOf 96 = .ok (.ifCond .eq 16, 3) := dk_153 0 16 (dk_at dksX4_dentsOf_4 2 rfl rfl)
theorem dX4_dentsOf_99 : decode cX4_dentsOf 99 = .ok (.iload 7, 2) := dk_21 7 (dk_at dksX4_dentsOf_4 5 rfl rfl)
theorem dX4_dentsOf_101 : decode cX4_dentsOf 101 = .ok (.ifCond .ge 7, 3) := dk_156 0 7 (dk_at dksX4_dentsOf_4 7 rfl rfl)
theorem dX4_dentsOf_104 : decode cX4_dentsOf 104 = .ok (.iconst 1, 1) := dk_4 (dk_at dksX4_dentsOf_4 10 rfl rfl)
theorem dX4_dentsOf_105 : decode cX4_dentsOf 105 = .ok (.goto 17, 3) := dk_167 0 17 (dk_at dksX4_dentsOf_4 11 rfl rfl)
theorem dX4_dentsOf_108 : decode cX4_dentsOf 108 = .ok (.iconst 0, 1) := dk_3 (dk_at dksX4_dentsOf_4 14 rfl rfl)
theorem dX4_dentsOf_109 : decode cX4_dentsOf 109 = .ok (.goto 13, 3) := dk_167 0 13 (dk_at dksX4_dentsOf_4 15 rfl rfl)
theorem dX4_dentsOf_112 : decode cX4_dentsOf 112 = .ok (.iload 7, 2) := dk_21 7 (dk_at dksX4_dentsOf_4 18 rfl rfl)
theorem dX4_dentsOf_114 : decode cX4_dentsOf 114 = .ok (.ifCond .le 7, 3) := dk_158 0 7 (dk_at dksX4_dentsOf_4 20 rfl rfl)
theorem dX4_dentsOf_117 : decode cX4_dentsOf 117 = .ok (.iconst 1, 1) := dk_4 (dk_at dksX4_dentsOf_4 23 rfl rfl)
theorem dX4_dentsOf_118 : decode cX4_dentsOf 118 = .ok (.goto 4, 3) := dk_167 0 4 (dk_at dksX4_dentsOf_5 0 rfl rfl)
theorem dX4_dentsOf_121 : decode cX4_dentsOf 121 = .ok (.iconst 0, 1) := dk_3 (dk_at dksX4_dentsOf_5 3 rfl rfl)
theorem dX4_dentsOf_122 : decode cX4_dentsOf 122 = .ok (.iadd, 1) := dk_96 (dk_at dksX4_dentsOf_5 4 rfl rfl)
theorem dX4_dentsOf_123 : decode cX4_dentsOf 123 = .ok (.istore_n 2, 1) := dk_61 (dk_at dksX4_dentsOf_5 5 rfl rfl)
theorem dX4_dentsOf_124 : decode cX4_dentsOf 124 = .ok (.iinc 4 1, 3) := dk_132 4 1 (dk_at dksX4_dentsOf_5 6 rfl rfl)
theorem dX4_dentsOf_127 : decode cX4_dentsOf 127 = .ok (.goto (-108), 3) := dk_167 255 148 (dk_at dksX4_dentsOf_5 9 rfl rfl)
theorem dX4_dentsOf_130 : decode cX4_dentsOf 130 = .ok (.iload_n 2, 1) := dk_28 (dk_at dksX4_dentsOf_5 12 rfl rfl)
theorem dX4_dentsOf_131 : decode cX4_dentsOf 131 = .ok (.ireturn, 1) := dk_172 (dk_at dksX4_dentsOf_5 13 rfl rfl)
abbrev cX4_ahead : ByteArray := prog_10_method_14_code
def yX4_ahead : MethodName := ⟨RX4, "ahead", "(II)I"⟩
def dkwX4_ahead_0 : List UInt8 := [28, 154, 0, 13, 42, 27, 182, 0, 39, 4, 100, 167, 0, 6, 28, 4, 100, 172]
abbrev dktX4_ahead_0 : List UInt8 := dkwX4_ahead_0 ++ []
theorem dksX4_ahead_0 : cX4_ahead.data.toList.drop 0 = dktX4_ahead_0 := by decide +kernel
theorem dX4_ahead_0 : decode cX4_ahead 0 = .ok (.iload_n 2, 1) := dk_28 (dk_at dksX4_ahead_0 0 rfl rfl)
theorem dX4_ahead_1 : decode cX4_ahead 1 = .ok (.ifCond .ne 13, 3) := dk_154 0 13 (dk_at dksX4_ahead_0 1 rfl rfl)
theorem dX4_ahead_4 : decode cX4_ahead 4 = .ok (.aload_n 0, 1) := dk_42 (dk_at dksX4_ahead_0 4 rfl rfl)
theorem dX4_ahead_5 : decode cX4_ahead 5 = .ok (.iload_n 1, 1) := dk_27 (dk_at dksX4_ahead_0 5 rfl rfl)
theorem dX4_ahead_6 : decode cX4_ahead 6 = .ok (.invokevirtual 39, 3) := dk_182 0 39 (dk_at dksX4_ahead_0 6 rfl rfl)
theorem dX4_ahead_9 : decode cX4_ahead 9 = .ok (.iconst 1, 1) := dk_4 (dk_at dksX4_ahead_0 9 rfl rfl)
theorem dX4_ahead_10 : decode cX4_ahead 10 = .ok (.isub, 1) := dk_100 (dk_at dksX4_ahead_0 10 rfl rfl)
theorem dX4_ahead_11 : decode cX4_ahead 11 = .ok (.goto 6, 3) := dk_167 0 6 (dk_at dksX4_ahead_0 11 rfl rfl)
theorem dX4_ahead_14 : decode cX4_ahead 14 = .ok (.iload_n 2, 1) := dk_28 (dk_at dksX4_ahead_0 14 rfl rfl)
theorem dX4_ahead_15 : decode cX4_ahead 15 = .ok (.iconst 1, 1) := dk_4 (dk_at dksX4_ahead_0 15 rfl rfl)
theorem dX4_ahead_16 : decode cX4_ahead 16 = .ok (.isub, 1) := dk_100 (dk_at dksX4_ahead_0 16 rfl rfl)
theorem dX4_ahead_17 : decode cX4_ahead 17 = .ok (.ireturn, 1) := dk_172 (dk_at dksX4_ahead_0 17 rfl rfl)
abbrev cX4_parent : ByteArray := prog_10_method_78_code
def yX4_parent : MethodName := ⟨RX4, "parent", "(I)I"⟩
def dkwX4_parent_1 : List UInt8 := [42, 27, 3, 182, 0, 75, 27, 182, 1, 11, 172]
abbrev dktX4_parent_1 : List UInt8 := dkwX4_parent_1 ++ []
def dkwX4_parent_0 : List UInt8 := [42, 3, 181, 0, 32, 42, 27, 182, 1, 53, 153, 0, 7, 3, 167, 0, 20, 42, 42, 27, 3, 182, 0, 72]
abbrev dktX4_parent_0 : List UInt8 := dkwX4_parent_0 ++ dktX4_parent_1
theorem dksX4_parent_0 : cX4_parent.data.toList.drop 0 = dktX4_parent_0 := by decide +kernel
theorem dksX4_parent_1 : cX4_parent.data.toList.drop 24 = dktX4_parent_1 := dk_seg dksX4_parent_0 24 rfl rfl
theorem dX4_parent_0 : decode cX4_parent 0 = .ok (.aload_n 0, 1) := dk_42 (dk_at dksX4_parent_0 0 rfl rfl)
theorem dX4_parent_1 : decode cX4_parent 1 = .ok (.iconst 0, 1) := dk_3 (dk_at dksX4_parent_0 1 rfl rfl)
theorem dX4_parent_2 : decode cX4_parent 2 = .ok (.putfield 32, 3) := dk_181 0 32 (dk_at dksX4_parent_0 2 rfl rfl)
theorem dX4_parent_5 : decode cX4_parent 5 = .ok (.aload_n 0, 1) := dk_42 (dk_at dksX4_parent_0 5 rfl rfl)
theorem dX4_parent_6 : decode cX4_parent 6 = .ok (.iload_n 1, 1) := dk_27 (dk_at dksX4_parent_0 6 rfl rfl)
theorem dX4_parent_7 : decode cX4_parent 7 = .ok (.invokevirtual 309, 3) := dk_182 1 53 (dk_at dksX4_parent_0 7 rfl rfl)
theorem dX4_parent_10 : decode cX4_parent 10 = .ok (.ifCond .eq 7, 3) := dk_153 0 7 (dk_at dksX4_parent_0 10 rfl rfl)
theorem dX4_parent_13 : decode cX4_parent 13 = .ok (.iconst 0, 1) := dk_3 (dk_at dksX4_parent_0 13 rfl rfl)
theorem dX4_parent_14 : decode cX4_parent 14 = .ok (.goto 20, 3) := dk_167 0 20 (dk_at dksX4_parent_0 14 rfl rfl)
theorem dX4_parent_17 : decode cX4_parent 17 = .ok (.aload_n 0, 1) := dk_42 (dk_at dksX4_parent_0 17 rfl rfl)
theorem dX4_parent_18 : decode cX4_parent 18 = .ok (.aload_n 0, 1) := dk_42 (dk_at dksX4_parent_0 18 rfl rfl)
theorem dX4_parent_19 : decode cX4_parent 19 = .ok (.iload_n 1, 1) := dk_27 (dk_at dksX4_parent_0 19 rfl rfl)
theorem dX4_parent_20 : decode cX4_parent 20 = .ok (.iconst 0, 1) := dk_3 (dk_at dksX4_parent_0 20 rfl rfl)
theorem dX4_parent_21 : decode cX4_parent 21 = .ok (.invokevirtual 72, 3) := dk_182 0 72 (dk_at dksX4_parent_0 21 rfl rfl)
theorem dX4_parent_24 : decode cX4_parent 24 = .ok (.aload_n 0, 1) := dk_42 (dk_at dksX4_parent_1 0 rfl rfl)
theorem dX4_parent_25 : decode cX4_parent 25 = .ok (.iload_n 1, 1) := dk_27 (dk_at dksX4_parent_1 1 rfl rfl)
theorem dX4_parent_26 : decode cX4_parent 26 = .ok (.iconst 0, 1) := dk_3 (dk_at dksX4_parent_1 2 rfl rfl)
theorem dX4_parent_27 : decode cX4_parent 27 = .ok (.invokevirtual 75, 3) := dk_182 0 75 (dk_at dksX4_parent_1 3 rfl rfl)
theorem dX4_parent_30 : decode cX4_parent 30 = .ok (.iload_n 1, 1) := dk_27 (dk_at dksX4_parent_1 6 rfl rfl)
theorem dX4_parent_31 : decode cX4_parent 31 = .ok (.invokevirtual 267, 3) := dk_182 1 11 (dk_at dksX4_parent_1 7 rfl rfl)
theorem dX4_parent_34 : decode cX4_parent 34 = .ok (.ireturn, 1) := dk_172 (dk_at dksX4_parent_1 10 rfl rfl)
abbrev cX4_score : ByteArray := prog_10_method_79_code
def yX4_score : MethodName := ⟨RX4, "score", "(I)I"⟩
def dkwX4_score_0 : List UInt8 := [42, 3, 181, 0, 32, 42, 27, 182, 1, 53, 153, 0, 7, 3, 167, 0, 8, 42, 27, 182, 1, 41, 172]
abbrev dktX4_score_0 : List UInt8 := dkwX4_score_0 ++ []
theorem dksX4_score_0 : cX4_score.data.toList.drop 0 = dktX4_score_0 := by decide +kernel
theorem dX4_score_0 : decode cX4_score 0 = .ok (.aload_n 0, 1) := dk_42 (dk_at dksX4_score_0 0 rfl rfl)
theorem dX4_score_1 : decode cX4_score 1 = .ok (.iconst 0, 1) := dk_3 (dk_at dksX4_score_0 1 rfl rfl)
theorem dX4_score_2 : decode cX4_score 2 = .ok (.putfield 32, 3) := dk_181 0 32 (dk_at dksX4_score_0 2 rfl rfl)
theorem dX4_score_5 : decode cX4_score 5 = .ok (.aload_n 0, 1) := dk_42 (dk_at dksX4_score_0 5 rfl rfl)
theorem dX4_score_6 : decode cX4_score 6 = .ok (.iload_n 1, 1) := dk_27 (dk_at dksX4_score_0 6 rfl rfl)
theorem dX4_score_7 : decode cX4_score 7 = .ok (.invokevirtual 309, 3) := dk_182 1 53 (dk_at dksX4_score_0 7 rfl rfl)
theorem dX4_score_10 : decode cX4_score 10 = .ok (.ifCond .eq 7, 3) := dk_153 0 7 (dk_at dksX4_score_0 10 rfl rfl)
theorem dX4_score_13 : decode cX4_score 13 = .ok (.iconst 0, 1) := dk_3 (dk_at dksX4_score_0 13 rfl rfl)
theorem dX4_score_14 : decode cX4_score 14 = .ok (.goto 8, 3) := dk_167 0 8 (dk_at dksX4_score_0 14 rfl rfl)
theorem dX4_score_17 : decode cX4_score 17 = .ok (.aload_n 0, 1) := dk_42 (dk_at dksX4_score_0 17 rfl rfl)
theorem dX4_score_18 : decode cX4_score 18 = .ok (.iload_n 1, 1) := dk_27 (dk_at dksX4_score_0 18 rfl rfl)
theorem dX4_score_19 : decode cX4_score 19 = .ok (.invokevirtual 297, 3) := dk_182 1 41 (dk_at dksX4_score_0 19 rfl rfl)
theorem dX4_score_22 : decode cX4_score 22 = .ok (.ireturn, 1) := dk_172 (dk_at dksX4_score_0 22 rfl rfl)
abbrev cX4_scoreOf : ByteArray := prog_10_method_63_code
def yX4_scoreOf : MethodName := ⟨RX4, "scoreOf", "(I)I"⟩
def dkwX4_scoreOf_13 : List UInt8 := [180, 0, 28, 3, 47, 136, 172]
abbrev dktX4_scoreOf_13 : List UInt8 := dkwX4_scoreOf_13 ++ []
def dkwX4_scoreOf_12 : List UInt8 := [167, 0, 29, 42, 180, 0, 28, 3, 47, 20, 1, 38, 148, 158, 0, 9, 19, 1, 40, 167, 0, 10, 42]
abbrev dktX4_scoreOf_12 : List UInt8 := dkwX4_scoreOf_12 ++ dktX4_scoreOf_13
def dkwX4_scoreOf_11 : List UInt8 := [132, 7, 1, 167, 255, 102, 42, 180, 0, 28, 3, 47, 20, 1, 35, 148, 156, 0, 9, 19, 1, 37]
abbrev dktX4_scoreOf_11 : List UInt8 := dkwX4_scoreOf_11 ++ dktX4_scoreOf_12
def dkwX4_scoreOf_10 : List UInt8 := [4, 100, 21, 8, 42, 180, 0, 28, 28, 4, 100, 47, 42, 180, 0, 28, 28, 47, 184, 1, 31, 80]
abbrev dktX4_scoreOf_10 : List UInt8 := dkwX4_scoreOf_10 ++ dktX4_scoreOf_11
def dkwX4_scoreOf_9 : List UInt8 := [21, 5, 133, 167, 0, 6, 21, 6, 133, 80, 132, 2, 1, 167, 0, 33, 132, 2, 255, 42, 180, 0, 28, 28]
abbrev dktX4_scoreOf_9 : List UInt8 := dkwX4_scoreOf_9 ++ dktX4_scoreOf_10
def dkwX4_scoreOf_8 : List UInt8 := [167, 0, 33, 21, 9, 5, 160, 0, 12, 42, 27, 182, 0, 39, 133, 167, 0, 18, 21, 9, 6, 160, 0, 9]
abbrev dktX4_scoreOf_8 : List UInt8 := dkwX4_scoreOf_8 ++ dktX4_scoreOf_9
def dkwX4_scoreOf_7 : List UInt8 := [133, 167, 0, 55, 21, 9, 154, 0, 8, 29, 133, 167, 0, 45, 21, 9, 4, 160, 0, 9, 21, 4, 133]
abbrev dktX4_scoreOf_7 : List UInt8 := dkwX4_scoreOf_7 ++ dktX4_scoreOf_8
def dkwX4_scoreOf_6 : List UInt8 := [180, 0, 17, 17, 0, 228, 21, 7, 96, 46, 54, 9, 42, 180, 0, 28, 28, 21, 8, 154, 0, 9, 21, 9]
abbrev dktX4_scoreOf_6 : List UInt8 := dkwX4_scoreOf_6 ++ dktX4_scoreOf_7
def dkwX4_scoreOf_5 : List UInt8 := [42, 180, 0, 17, 17, 0, 228, 21, 7, 96, 46, 54, 8, 21, 8, 4, 163, 0, 94, 132, 7, 1, 42]
abbrev dktX4_scoreOf_5 : List UInt8 := dkwX4_scoreOf_5 ++ dktX4_scoreOf_6
def dkwX4_scoreOf_4 : List UInt8 := [180, 0, 28, 3, 29, 21, 4, 96, 133, 80, 3, 54, 7, 21, 7, 42, 180, 0, 17, 8, 46, 162, 0, 149]
abbrev dktX4_scoreOf_4 : List UInt8 := dkwX4_scoreOf_4 ++ dktX4_scoreOf_5
def dkwX4_scoreOf_3 : List UInt8 := [16, 6, 6, 21, 7, 104, 96, 5, 96, 46, 167, 0, 4, 3, 96, 54, 4, 132, 7, 1, 167, 255, 209, 42]
abbrev dktX4_scoreOf_3 : List UInt8 := dkwX4_scoreOf_3 ++ dktX4_scoreOf_4
def dkwX4_scoreOf_2 : List UInt8 := [180, 0, 17, 5, 46, 162, 0, 42, 21, 4, 42, 21, 7, 182, 1, 14, 27, 160, 0, 20, 42, 180, 0, 17]
abbrev dktX4_scoreOf_2 : List UInt8 := dkwX4_scoreOf_2 ++ dktX4_scoreOf_3
def dkwX4_scoreOf_1 : List UInt8 := [4, 160, 0, 12, 42, 27, 5, 182, 1, 28, 167, 0, 4, 3, 54, 6, 3, 54, 7, 21, 7, 42]
abbrev dktX4_scoreOf_1 : List UInt8 := dkwX4_scoreOf_1 ++ dktX4_scoreOf_2
def dkwX4_scoreOf_0 : List UInt8 := [3, 61, 42, 27, 182, 1, 8, 62, 3, 54, 4, 42, 27, 182, 1, 25, 54, 5, 42, 180, 0, 17, 7, 46]
abbrev dktX4_scoreOf_0 : List UInt8 := dkwX4_scoreOf_0 ++ dktX4_scoreOf_1
theorem dksX4_scoreOf_0 : cX4_scoreOf.data.toList.drop 0 = dktX4_scoreOf_0 := by decide +kernel
theorem dksX4_scoreOf_1 : cX4_scoreOf.data.toList.drop 24 = dktX4_scoreOf_1 := dk_seg dksX4_scoreOf_0 24 rfl rfl
theorem dksX4_scoreOf_2 : cX4_scoreOf.data.toList.drop 46 = dktX4_scoreOf_2 := dk_seg dksX4_scoreOf_1 22 rfl rfl
theorem dksX4_scoreOf_3 : cX4_scoreOf.data.toList.drop 70 = dktX4_scoreOf_3 := dk_seg dksX4_scoreOf_2 24 rfl rfl
theorem dksX4_scoreOf_4 : cX4_scoreOf.data.toList.drop 94 = dktX4_scoreOf_4 := dk_seg dksX4_scoreOf_3 24 rfl rfl
theorem dksX4_scoreOf_5 : cX4_scoreOf.data.toList.drop 118 = dktX4_scoreOf_5 := dk_seg dksX4_scoreOf_4 24 rfl rfl
theorem dksX4_scoreOf_6 : cX4_scoreOf.data.toList.drop 141 = dktX4_scoreOf_6 := dk_seg dksX4_scoreOf_5 23 rfl rfl
theorem dksX4_scoreOf_7 : cX4_scoreOf.data.toList.drop 165 = dktX4_scoreOf_7 := dk_seg dksX4_scoreOf_6 24 rfl rfl
theorem dksX4_scoreOf_8 : cX4_scoreOf.data.toList.drop 188 = dktX4_scoreOf_8 := dk_seg dksX4_scoreOf_7 23 rfl rfl
theorem dksX4_scoreOf_9 : cX4_scoreOf.data.toList.drop 212 = dktX4_scoreOf_9 := dk_seg dksX4_scoreOf_8 24 rfl rfl
theorem dksX4_scoreOf_10 : cX4_scoreOf.data.toList.drop 236 = dktX4_scoreOf_10 := dk_seg dksX4_scoreOf_9 24 rfl rfl
theorem dksX4_scoreOf_11 : cX4_scoreOf.data.toList.drop 258 = dktX4_scoreOf_11 := dk_seg dksX4_scoreOf_10 22 rfl rfl
theorem dksX4_scoreOf_12 : cX4_scoreOf.data.toList.drop 280 = dktX4_scoreOf_12 := dk_seg dksX4_scoreOf_11 22 rfl rfl
theorem dksX4_scoreOf_13 : cX4_scoreOf.data.toList.drop 303 = dktX4_scoreOf_13 := dk_seg dksX4_scoreOf_12 23 rfl rfl
theorem dX4_scoreOf_0 : decode cX4_scoreOf 0 = .ok (.iconst 0, 1) := dk_3 (dk_at dksX4_scoreOf_0 0 rfl rfl)
theorem dX4_scoreOf_1 : decode cX4_scoreOf 1 = .ok (.istore_n 2, 1) := dk_61 (dk_at dksX4_scoreOf_0 1 rfl rfl)
theorem dX4_scoreOf_2 : decode cX4_scoreOf 2 = .ok (.aload_n 0, 1) := dk_42 (dk_at dksX4_scoreOf_0 2 rfl rfl)
theorem dX4_scoreOf_3 : decode cX4_scoreOf 3 = .ok (.iload_n 1, 1) := dk_27 (dk_at dksX4_scoreOf_0 3 rfl rfl)
theorem dX4_scoreOf_4 : decode cX4_scoreOf 4 = .ok (.invokevirtual 264, 3) := dk_182 1 8 (dk_at dksX4_scoreOf_0 4 rfl rfl)
theorem dX4_scoreOf_7 : decode cX4_scoreOf 7 = .ok (.istore_n 3, 1) := dk_62 (dk_at dksX4_scoreOf_0 7 rfl rfl)
theorem dX4_scoreOf_8 : decode cX4_scoreOf 8 = .ok (.iconst 0, 1) := dk_3 (dk_at dksX4_scoreOf_0 8 rfl rfl)
theorem dX4_scoreOf_9 : decode cX4_scoreOf 9 = .ok (.istore 4, 2) := dk_54 4 (dk_at dksX4_scoreOf_0 9 rfl rfl)
theorem dX4_scoreOf_11 : decode cX4_scoreOf 11 = .ok (.aload_n 0, 1) := dk_42 (dk_at dksX4_scoreOf_0 11 rfl rfl)
theorem dX4_scoreOf_12 : decode cX4_scoreOf 12 = .ok (.iload_n 1, 1) := dk_27 (dk_at dksX4_scoreOf_0 12 rfl rfl)
theorem dX4_scoreOf_13 : decode cX4_scoreOf 13 = .ok (.invokevirtual 281, 3) := dk_182 1 25 (dk_at dksX4_scoreOf_0 13 rfl rfl)
theorem dX4_scoreOf_16 : decode cX4_scoreOf 16 = .ok (.istore 5, 2) := dk_54 5 (dk_at dksX4_scoreOf_0 16 rfl rfl)
theorem dX4_scoreOf_18 : decode cX4_scoreOf 18 = .ok (.aload_n 0, 1) := dk_42 (dk_at dksX4_scoreOf_0 18 rfl rfl)
theorem dX4_scoreOf_19 : decode cX4_scoreOf 19 = .ok (.getfield 17, 3) := dk_180 0 17 (dk_at dksX4_scoreOf_0 19 rfl rfl)
theorem dX4_scoreOf_22 : decode cX4_scoreOf 22 = .ok (.iconst 4, 1) := dk_7 (dk_at dksX4_scoreOf_0 22 rfl rfl)
theorem dX4_scoreOf_23 : decode cX4_scoreOf 23 = .ok (.iaload, 1) := dk_46 (dk_at dksX4_scoreOf_0 23 rfl rfl)
theorem dX4_scoreOf_24 : decode cX4_scoreOf 24 = .ok (.iconst 1, 1) := dk_4 (dk_at dksX4_scoreOf_1 0 rfl rfl)
theorem dX4_scoreOf_25 : decode cX4_scoreOf 25 = .ok (.if_icmp .ne 12, 3) := dk_160 0 12 (dk_at dksX4_scoreOf_1 1 rfl rfl)
theorem dX4_scoreOf_28 : decode cX4_scoreOf 28 = .ok (.aload_n 0, 1) := dk_42 (dk_at dksX4_scoreOf_1 4 rfl rfl)
theorem dX4_scoreOf_29 : decode cX4_scoreOf 29 = .ok (.iload_n 1, 1) := dk_27 (dk_at dksX4_scoreOf_1 5 rfl rfl)
theorem dX4_scoreOf_30 : decode cX4_scoreOf 30 = .ok (.iconst 2, 1) := dk_5 (dk_at dksX4_scoreOf_1 6 rfl rfl)
theorem dX4_scoreOf_31 : decode cX4_scoreOf 31 = .ok (.invokevirtual 284, 3) := dk_182 1 28 (dk_at dksX4_scoreOf_1 7 rfl rfl)
theorem dX4_scoreOf_34 : decode cX4_scoreOf 34 = .ok (.goto 4, 3) := dk_167 0 4 (dk_at dksX4_scoreOf_1 10 rfl rfl)
theorem dX4_scoreOf_37 : decode cX4_scoreOf 37 = .ok (.iconst 0, 1) := dk_3 (dk_at dksX4_scoreOf_1 13 rfl rfl)
theorem dX4_scoreOf_38 : decode cX4_scoreOf 38 = .ok (.istore 6, 2) := dk_54 6 (dk_at dksX4_scoreOf_1 14 rfl rfl)
theorem dX4_scoreOf_40 : decode cX4_scoreOf 40 = .ok (.iconst 0, 1) := dk_3 (dk_at dksX4_scoreOf_1 16 rfl rfl)
theorem dX4_scoreOf_41 : decode cX4_scoreOf 41 = .ok (.istore 7, 2) := dk_54 7 (dk_at dksX4_scoreOf_1 17 rfl rfl)
theorem dX4_scoreOf_43 : decode cX4_scoreOf 43 = .ok (.iload 7, 2) := dk_21 7 (dk_at dksX4_scoreOf_1 19 rfl rfl)
theorem dX4_scoreOf_45 : decode cX4_scoreOf 45 = .ok (.aload_n 0, 1) := dk_42 (dk_at dksX4_scoreOf_1 21 rfl rfl)
theorem dX4_scoreOf_46 : decode cX4_scoreOf 46 = .ok (.getfield 17, 3) := dk_180 0 17 (dk_at dksX4_scoreOf_2 0 rfl rfl)
theorem dX4_scoreOf_49 : decode cX4_scoreOf 49 = .ok (.iconst 2, 1) := dk_5 (dk_at dksX4_scoreOf_2 3 rfl rfl)
theorem dX4_scoreOf_50 : decode cX4_scoreOf 50 = .ok (.iaload, 1) := dk_46 (dk_at dksX4_scoreOf_2 4 rfl rfl)
theorem dX4_scoreOf_51 : decode cX4_scoreOf 51 = .ok (.if_icmp .ge 42, 3) := dk_162 0 42 (dk_at dksX4_scoreOf_2 5 rfl rfl)
theorem dX4_scoreOf_54 : decode cX4_scoreOf 54 = .ok (.iload 4, 2) := dk_21 4 (dk_at dksX4_scoreOf_2 8 rfl rfl)
theorem dX4_scoreOf_56 : decode cX4_scoreOf 56 = .ok (.aload_n 0, 1) := dk_42 (dk_at dksX4_scoreOf_2 10 rfl rfl)
theorem dX4_scoreOf_57 : decode cX4_scoreOf 57 = .ok (.iload 7, 2) := dk_21 7 (dk_at dksX4_scoreOf_2 11 rfl rfl)
theorem dX4_scoreOf_59 : decode cX4_scoreOf 59 = .ok (.invokevirtual 270, 3) := dk_182 1 14 (dk_at dksX4_scoreOf_2 13 rfl rfl)
theorem dX4_scoreOf_62 : decode cX4_scoreOf 62 = .ok (.iload_n 1, 1) := dk_27 (dk_at dksX4_scoreOf_2 16 rfl rfl)
theorem dX4_scoreOf_63 : decode cX4_scoreOf 63 = .ok (.if_icmp .ne 20, 3) := dk_160 0 20 (dk_at dksX4_scoreOf_2 17 rfl rfl)
theorem dX4_scoreOf_66 : decode cX4_scoreOf 66 = .ok (.aload_n 0, 1) := dk_42 (dk_at dksX4_scoreOf_2 20 rfl rfl)
theorem dX4_scoreOf_67 : decode cX4_scoreOf 67 = .ok (.getfield 17, 3) := dk_180 0 17 (dk_at dksX4_scoreOf_2 21 rfl rfl)
theorem dX4_scoreOf_70 : decode cX4_scoreOf 70 = .ok (.bipush 6, 2) := dk_16 6 (dk_at dksX4_scoreOf_3 0 rfl rfl)
theorem dX4_scoreOf_72 : decode cX4_scoreOf 72 = .ok (.iconst 3, 1) := dk_6 (dk_at dksX4_scoreOf_3 2 rfl rfl)
theorem dX4_scoreOf_73 : decode cX4_scoreOf 73 = .ok (.iload 7, 2) := dk_21 7 (dk_at dksX4_scoreOf_3 3 rfl rfl)
theorem dX4_scoreOf_75 : decode cX4_scoreOf 75 = .ok (.imul, 1) := dk_104 (dk_at dksX4_scoreOf_3 5 rfl rfl)
theorem dX4_scoreOf_76 : decode cX4_scoreOf 76 = .ok (.iadd, 1) := dk_96 (dk_at dksX4_scoreOf_3 6 rfl rfl)
theorem dX4_scoreOf_77 : decode cX4_scoreOf 77 = .ok (.iconst 2, 1) := dk_5 (dk_at dksX4_scoreOf_3 7 rfl rfl)
theorem dX4_scoreOf_78 : decode cX4_scoreOf 78 = .ok (.iadd, 1) := dk_96 (dk_at dksX4_scoreOf_3 8 rfl rfl)
theorem dX4_scoreOf_79 : decode cX4_scoreOf 79 = .ok (.iaload, 1) := dk_46 (dk_at dksX4_scoreOf_3 9 rfl rfl)
theorem dX4_scoreOf_80 : decode cX4_scoreOf 80 = .ok (.goto 4, 3) := dk_167 0 4 (dk_at dksX4_scoreOf_3 10 rfl rfl)
theorem dX4_scoreOf_83 : decode cX4_scoreOf 83 = .ok (.iconst 0, 1) := dk_3 (dk_at dksX4_scoreOf_3 13 rfl rfl)
theorem dX4_scoreOf_84 : decode cX4_scoreOf 84 = .ok (.iadd, 1) := dk_96 (dk_at dksX4_scoreOf_3 14 rfl rfl)
theorem dX4_scoreOf_85 : decode cX4_scoreOf 85 = .ok (.istore 4, 2) := dk_54 4 (dk_at dksX4_scoreOf_3 15 rfl rfl)
theorem dX4_scoreOf_87 : decode cX4_scoreOf 87 = .ok (.iinc 7 1, 3) := dk_132 7 1 (dk_at dksX4_scoreOf_3 17 rfl rfl)
theorem dX4_scoreOf_90 : decode cX4_scoreOf 90 = .ok (.goto (-47), 3) := dk_167 255 209 (dk_at dksX4_scoreOf_3 20 rfl rfl)
theorem dX4_scoreOf_93 : decode cX4_scoreOf 93 = .ok (.aload_n 0, 1) := dk_42 (dk_at dksX4_scoreOf_3 23 rfl rfl)
theorem dX4_scoreOf_94 : decode cX4_scoreOf 94 = .ok (.getfield 28, 3) := dk_180 0 28 (dk_at dksX4_scoreOf_4 0 rfl rfl)
theorem dX4_scoreOf_97 : decode cX4_scoreOf 97 = .ok (.iconst 0, 1) := dk_3 (dk_at dksX4_scoreOf_4 3 rfl rfl)
theorem dX4_scoreOf_98 : decode cX4_scoreOf 98 = .ok (.iload_n 3, 1) := dk_29 (dk_at dksX4_scoreOf_4 4 rfl rfl)
theorem dX4_scoreOf_99 : decode cX4_scoreOf 99 = .ok (.iload 4, 2) := dk_21 4 (dk_at dksX4_scoreOf_4 5 rfl rfl)
theorem dX4_scoreOf_101 : decode cX4_scoreOf 101 = .ok (.iadd, 1) := dk_96 (dk_at dksX4_scoreOf_4 7 rfl rfl)
theorem dX4_scoreOf_102 : decode cX4_scoreOf 102 = .ok (.i2l, 1) := dk_133 (dk_at dksX4_scoreOf_4 8 rfl rfl)
theorem dX4_scoreOf_103 : decode cX4_scoreOf 103 = .ok (.lastore, 1) := dk_80 (dk_at dksX4_scoreOf_4 9 rfl rfl)
theorem dX4_scoreOf_104 : decode cX4_scoreOf 104 = .ok (.iconst 0, 1) := dk_3 (dk_at dksX4_scoreOf_4 10 rfl rfl)
theorem dX4_scoreOf_105 : decode cX4_scoreOf 105 = .ok (.istore 7, 2) := dk_54 7 (dk_at dksX4_scoreOf_4 11 rfl rfl)
theorem dX4_scoreOf_107 : decode cX4_scoreOf 107 = .ok (.iload 7, 2) := dk_21 7 (dk_at dksX4_scoreOf_4 13 rfl rfl)
theorem dX4_scoreOf_109 : decode cX4_scoreOf 109 = .ok (.aload_n 0, 1) := dk_42 (dk_at dksX4_scoreOf_4 15 rfl rfl)
theorem dX4_scoreOf_110 : decode cX4_scoreOf 110 = .ok (.getfield 17, 3) := dk_180 0 17 (dk_at dksX4_scoreOf_4 16 rfl rfl)
theorem dX4_scoreOf_113 : decode cX4_scoreOf 113 = .ok (.iconst 5, 1) := dk_8 (dk_at dksX4_scoreOf_4 19 rfl rfl)
theorem dX4_scoreOf_114 : decode cX4_scoreOf 114 = .ok (.iaload, 1) := dk_46 (dk_at dksX4_scoreOf_4 20 rfl rfl)
theorem dX4_scoreOf_115 : decode cX4_scoreOf 115 = .ok (.if_icmp .ge 149, 3) := dk_162 0 149 (dk_at dksX4_scoreOf_4 21 rfl rfl)
theorem dX4_scoreOf_118 : decode cX4_scoreOf 118 = .ok (.aload_n 0, 1) := dk_42 (dk_at dksX4_scoreOf_5 0 rfl rfl)
theorem dX4_scoreOf_119 : decode cX4_scoreOf 119 = .ok (.getfield 17, 3) := dk_180 0 17 (dk_at dksX4_scoreOf_5 1 rfl rfl)
theorem dX4_scoreOf_122 : decode cX4_scoreOf 122 = .ok (.sipush 228, 3) := dk_17 0 228 (dk_at dksX4_scoreOf_5 4 rfl rfl)
theorem dX4_scoreOf_125 : decode cX4_scoreOf 125 = .ok (.iload 7, 2) := dk_21 7 (dk_at dksX4_scoreOf_5 7 rfl rfl)
theorem dX4_scoreOf_127 : decode cX4_scoreOf 127 = .ok (.iadd, 1) := dk_96 (dk_at dksX4_scoreOf_5 9 rfl rfl)
theorem dX4_scoreOf_128 : decode cX4_scoreOf 128 = .ok (.iaload, 1) := dk_46 (dk_at dksX4_scoreOf_5 10 rfl rfl)
theorem dX4_scoreOf_129 : decode cX4_scoreOf 129 = .ok (.istore 8, 2) := dk_54 8 (dk_at dksX4_scoreOf_5 11 rfl rfl)
theorem dX4_scoreOf_131 : decode cX4_scoreOf 131 = .ok (.iload 8, 2) := dk_21 8 (dk_at dksX4_scoreOf_5 13 rfl rfl)
theorem dX4_scoreOf_133 : decode cX4_scoreOf 133 = .ok (.iconst 1, 1) := dk_4 (dk_at dksX4_scoreOf_5 15 rfl rfl)
theorem dX4_scoreOf_134 : decode cX4_scoreOf 134 = .ok (.if_icmp .gt 94, 3) := dk_163 0 94 (dk_at dksX4_scoreOf_5 16 rfl rfl)
theorem dX4_scoreOf_137 : decode cX4_scoreOf 137 = .ok (.iinc 7 1, 3) := dk_132 7 1 (dk_at dksX4_scoreOf_5 19 rfl rfl)
theorem dX4_scoreOf_140 : decode cX4_scoreOf 140 = .ok (.aload_n 0, 1) := dk_42 (dk_at dksX4_scoreOf_5 22 rfl rfl)
theorem dX4_scoreOf_141 : decode cX4_scoreOf 141 = .ok (.getfield 17, 3) := dk_180 0 17 (dk_at dksX4_scoreOf_6 0 rfl rfl)
theorem dX4_scoreOf_144 : decode cX4_scoreOf 144 = .ok (.sipush 228, 3) := dk_17 0 228 (dk_at dksX4_scoreOf_6 3 rfl rfl)
theorem dX4_scoreOf_147 : decode cX4_scoreOf 147 = .ok (.iload 7, 2) := dk_21 7 (dk_at dksX4_scoreOf_6 6 rfl rfl)
theorem dX4_scoreOf_149 : decode cX4_scoreOf 149 = .ok (.iadd, 1) := dk_96 (dk_at dksX4_scoreOf_6 8 rfl rfl)
theorem dX4_scoreOf_150 : decode cX4_scoreOf 150 = .ok (.iaload, 1) := dk_46 (dk_at dksX4_scoreOf_6 9 rfl rfl)
theorem dX4_scoreOf_151 : decode cX4_scoreOf 151 = .ok (.istore 9, 2) := dk_54 9 (dk_at dksX4_scoreOf_6 10 rfl rfl)
theorem dX4_scoreOf_153 : decode cX4_scoreOf 153 = .ok (.aload_n 0, 1) := dk_42 (dk_at dksX4_scoreOf_6 12 rfl rfl)
theorem dX4_scoreOf_154 : decode cX4_scoreOf 154 = .ok (.getfield 28, 3) := dk_180 0 28 (dk_at dksX4_scoreOf_6 13 rfl rfl)
theorem dX4_scoreOf_157 : decode cX4_scoreOf 157 = .ok (.iload_n 2, 1) := dk_28 (dk_at dksX4_scoreOf_6 16 rfl rfl)
theorem dX4_scoreOf_158 : decode cX4_scoreOf 158 = .ok (.iload 8, 2) := dk_21 8 (dk_at dksX4_scoreOf_6 17 rfl rfl)
theorem dX4_scoreOf_160 : decode cX4_scoreOf 160 = .ok (.ifCond .ne 9, 3) := dk_154 0 9 (dk_at dksX4_scoreOf_6 19 rfl rfl)
theorem dX4_scoreOf_163 : decode cX4_scoreOf 163 = .ok (.iload 9, 2) := dk_21 9 (dk_at dksX4_scoreOf_6 22 rfl rfl)
theorem dX4_scoreOf_165 : decode cX4_scoreOf 165 = .ok (.i2l, 1) := dk_133 (dk_at dksX4_scoreOf_7 0 rfl rfl)
theorem dX4_scoreOf_166 : decode cX4_scoreOf 166 = .ok (.goto 55, 3) := dk_167 0 55 (dk_at dksX4_scoreOf_7 1 rfl rfl)
theorem dX4_scoreOf_169 : decode cX4_scoreOf 169 = .ok (.iload 9, 2) := dk_21 9 (dk_at dksX4_scoreOf_7 4 rfl rfl)
theorem dX4_scoreOf_171 : decode cX4_scoreOf 171 = .ok (.ifCond .ne 8, 3) := dk_154 0 8 (dk_at dksX4_scoreOf_7 6 rfl rfl)
theorem dX4_scoreOf_174 : decode cX4_scoreOf 174 = .ok (.iload_n 3, 1) := dk_29 (dk_at dksX4_scoreOf_7 9 rfl rfl)
theorem dX4_scoreOf_175 : decode cX4_scoreOf 175 = .ok (.i2l, 1) := dk_133 (dk_at dksX4_scoreOf_7 10 rfl rfl)
theorem dX4_scoreOf_176 : decode cX4_scoreOf 176 = .ok (.goto 45, 3) := dk_167 0 45 (dk_at dksX4_scoreOf_7 11 rfl rfl)
theorem dX4_scoreOf_179 : decode cX4_scoreOf 179 = .ok (.iload 9, 2) := dk_21 9 (dk_at dksX4_scoreOf_7 14 rfl rfl)
theorem dX4_scoreOf_181 : decode cX4_scoreOf 181 = .ok (.iconst 1, 1) := dk_4 (dk_at dksX4_scoreOf_7 16 rfl rfl)
theorem dX4_scoreOf_182 : decode cX4_scoreOf 182 = .ok (.if_icmp .ne 9, 3) := dk_160 0 9 (dk_at dksX4_scoreOf_7 17 rfl rfl)
theorem dX4_scoreOf_185 : decode cX4_scoreOf 185 = .ok (.iload 4, 2) := dk_21 4 (dk_at dksX4_scoreOf_7 20 rfl rfl)
theorem dX4_scoreOf_187 : decode cX4_scoreOf 187 = .ok (.i2l, 1) := dk_133 (dk_at dksX4_scoreOf_7 22 rfl rfl)
theorem dX4_scoreOf_188 : decode cX4_scoreOf 188 = .ok (.goto 33, 3) := dk_167 0 33 (dk_at dksX4_scoreOf_8 0 rfl rfl)
theorem dX4_scoreOf_191 : decode cX4_scoreOf 191 = .ok (.iload 9, 2) := dk_21 9 (dk_at dksX4_scoreOf_8 3 rfl rfl)
theorem dX4_scoreOf_193 : decode cX4_scoreOf 193 = .ok (.iconst 2, 1) := dk_5 (dk_at dksX4_scoreOf_8 5 rfl rfl)
theorem dX4_scoreOf_194 : decode cX4_scoreOf 194 = .ok (.if_icmp .ne 12, 3) := dk_160 0 12 (dk_at dksX4_scoreOf_8 6 rfl rfl)
theorem dX4_scoreOf_197 : decode cX4_scoreOf 197 = .ok (.aload_n 0, 1) := dk_42 (dk_at dksX4_scoreOf_8 9 rfl rfl)
theorem dX4_scoreOf_198 : decode cX4_scoreOf 198 = .ok (.iload_n 1, 1) := dk_27 (dk_at dksX4_scoreOf_8 10 rfl rfl)
theorem dX4_scoreOf_199 : decode cX4_scoreOf 199 = .ok (.invokevirtual 39, 3) := dk_182 0 39 (dk_at dksX4_scoreOf_8 11 rfl rfl)
theorem dX4_scoreOf_202 : decode cX4_scoreOf 202 = .ok (.i2l, 1) := dk_133 (dk_at dksX4_scoreOf_8 14 rfl rfl)
theorem dX4_scoreOf_203 : decode cX4_scoreOf 203 = .ok (.goto 18, 3) := dk_167 0 18 (dk_at dksX4_scoreOf_8 15 rfl rfl)
theorem dX4_scoreOf_206 : decode cX4_scoreOf 206 = .ok (.iload 9, 2) := dk_21 9 (dk_at dksX4_scoreOf_8 18 rfl rfl)
theorem dX4_scoreOf_208 : decode cX4_scoreOf 208 = .ok (.iconst 3, 1) := dk_6 (dk_at dksX4_scoreOf_8 20 rfl rfl)
theorem dX4_scoreOf_209 : decode cX4_scoreOf 209 = .ok (.if_icmp .ne 9, 3) := dk_160 0 9 (dk_at dksX4_scoreOf_8 21 rfl rfl)
theorem dX4_scoreOf_212 : decode cX4_scoreOf 212 = .ok (.iload 5, 2) := dk_21 5 (dk_at dksX4_scoreOf_9 0 rfl rfl)
theorem dX4_scoreOf_214 : decode cX4_scoreOf 214 = .ok (.i2l, 1) := dk_133 (dk_at dksX4_scoreOf_9 2 rfl rfl)
theorem dX4_scoreOf_215 : decode cX4_scoreOf 215 = .ok (.goto 6, 3) := dk_167 0 6 (dk_at dksX4_scoreOf_9 3 rfl rfl)
theorem dX4_scoreOf_218 : decode cX4_scoreOf 218 = .ok (.iload 6, 2) := dk_21 6 (dk_at dksX4_scoreOf_9 6 rfl rfl)
theorem dX4_scoreOf_220 : decode cX4_scoreOf 220 = .ok (.i2l, 1) := dk_133 (dk_at dksX4_scoreOf_9 8 rfl rfl)
theorem dX4_scoreOf_221 : decode cX4_scoreOf 221 = .ok (.lastore, 1) := dk_80 (dk_at dksX4_scoreOf_9 9 rfl rfl)
theorem dX4_scoreOf_222 : decode cX4_scoreOf 222 = .ok (.iinc 2 1, 3) := dk_132 2 1 (dk_at dksX4_scoreOf_9 10 rfl rfl)
theorem dX4_scoreOf_225 : decode cX4_scoreOf 225 = .ok (.goto 33, 3) := dk_167 0 33 (dk_at dksX4_scoreOf_9 13 rfl rfl)
theorem dX4_scoreOf_228 : decode cX4_scoreOf 228 = .ok (.iinc 2 (-1), 3) := dk_132 2 255 (dk_at dksX4_scoreOf_9 16 rfl rfl)
theorem dX4_scoreOf_231 : decode cX4_scoreOf 231 = .ok (.aload_n 0, 1) := dk_42 (dk_at dksX4_scoreOf_9 19 rfl rfl)
theorem dX4_scoreOf_232 : decode cX4_scoreOf 232 = .ok (.getfield 28, 3) := dk_180 0 28 (dk_at dksX4_scoreOf_9 20 rfl rfl)
theorem dX4_scoreOf_235 : decode cX4_scoreOf 235 = .ok (.iload_n 2, 1) := dk_28 (dk_at dksX4_scoreOf_9 23 rfl rfl)
theorem dX4_scoreOf_236 : decode cX4_scoreOf 236 = .ok (.iconst 1, 1) := dk_4 (dk_at dksX4_scoreOf_10 0 rfl rfl)
theorem dX4_scoreOf_237 : decode cX4_scoreOf 237 = .ok (.isub, 1) := dk_100 (dk_at dksX4_scoreOf_10 1 rfl rfl)
theorem dX4_scoreOf_238 : decode cX4_scoreOf 238 = .ok (.iload 8, 2) := dk_21 8 (dk_at dksX4_scoreOf_10 2 rfl rfl)
theorem dX4_scoreOf_240 : decode cX4_scoreOf 240 = .ok (.aload_n 0, 1) := dk_42 (dk_at dksX4_scoreOf_10 4 rfl rfl)
theorem dX4_scoreOf_241 : decode cX4_scoreOf 241 = .ok (.getfield 28, 3) := dk_180 0 28 (dk_at dksX4_scoreOf_10 5 rfl rfl)
theorem dX4_scoreOf_244 : decode cX4_scoreOf 244 = .ok (.iload_n 2, 1) := dk_28 (dk_at dksX4_scoreOf_10 8 rfl rfl)
theorem dX4_scoreOf_245 : decode cX4_scoreOf 245 = .ok (.iconst 1, 1) := dk_4 (dk_at dksX4_scoreOf_10 9 rfl rfl)
theorem dX4_scoreOf_246 : decode cX4_scoreOf 246 = .ok (.isub, 1) := dk_100 (dk_at dksX4_scoreOf_10 10 rfl rfl)
theorem dX4_scoreOf_247 : decode cX4_scoreOf 247 = .ok (.laload, 1) := dk_47 (dk_at dksX4_scoreOf_10 11 rfl rfl)
theorem dX4_scoreOf_248 : decode cX4_scoreOf 248 = .ok (.aload_n 0, 1) := dk_42 (dk_at dksX4_scoreOf_10 12 rfl rfl)
theorem dX4_scoreOf_249 : decode cX4_scoreOf 249 = .ok (.getfield 28, 3) := dk_180 0 28 (dk_at dksX4_scoreOf_10 13 rfl rfl)
theorem dX4_scoreOf_252 : decode cX4_scoreOf 252 = .ok (.iload_n 2, 1) := dk_28 (dk_at dksX4_scoreOf_10 16 rfl rfl)
theorem dX4_scoreOf_253 : decode cX4_scoreOf 253 = .ok (.laload, 1) := dk_47 (dk_at dksX4_scoreOf_10 17 rfl rfl)
theorem dX4_scoreOf_254 : decode cX4_scoreOf 254 = .ok (.invokestatic 287, 3) := dk_184 1 31 (dk_at dksX4_scoreOf_10 18 rfl rfl)
theorem dX4_scoreOf_257 : decode cX4_scoreOf 257 = .ok (.lastore, 1) := dk_80 (dk_at dksX4_scoreOf_10 21 rfl rfl)
theorem dX4_scoreOf_258 : decode cX4_scoreOf 258 = .ok (.iinc 7 1, 3) := dk_132 7 1 (dk_at dksX4_scoreOf_11 0 rfl rfl)
theorem dX4_scoreOf_261 : decode cX4_scoreOf 261 = .ok (.goto (-154), 3) := dk_167 255 102 (dk_at dksX4_scoreOf_11 3 rfl rfl)
theorem dX4_scoreOf_264 : decode cX4_scoreOf 264 = .ok (.aload_n 0, 1) := dk_42 (dk_at dksX4_scoreOf_11 6 rfl rfl)
theorem dX4_scoreOf_265 : decode cX4_scoreOf 265 = .ok (.getfield 28, 3) := dk_180 0 28 (dk_at dksX4_scoreOf_11 7 rfl rfl)
theorem dX4_scoreOf_268 : decode cX4_scoreOf 268 = .ok (.iconst 0, 1) := dk_3 (dk_at dksX4_scoreOf_11 10 rfl rfl)
theorem dX4_scoreOf_269 : decode cX4_scoreOf 269 = .ok (.laload, 1) := dk_47 (dk_at dksX4_scoreOf_11 11 rfl rfl)
theorem dX4_scoreOf_270 : decode cX4_scoreOf 270 = .ok (.ldc2_w 291, 3) := dk_20 1 35 (dk_at dksX4_scoreOf_11 12 rfl rfl)
theorem dX4_scoreOf_273 : decode cX4_scoreOf 273 = .ok (.lcmp, 1) := dk_148 (dk_at dksX4_scoreOf_11 15 rfl rfl)
theorem dX4_scoreOf_274 : decode cX4_scoreOf 274 = .ok (.ifCond .ge 9, 3) := dk_156 0 9 (dk_at dksX4_scoreOf_11 16 rfl rfl)
theorem dX4_scoreOf_277 : decode cX4_scoreOf 277 = .ok (.ldc_w 293, 3) := dk_19 1 37 (dk_at dksX4_scoreOf_11 19 rfl rfl)
theorem dX4_scoreOf_280 : decode cX4_scoreOf 280 = .ok (.goto 29, 3) := dk_167 0 29 (dk_at dksX4_scoreOf_12 0 rfl rfl)
theorem dX4_scoreOf_283 : decode cX4_scoreOf 283 = .ok (.aload_n 0, 1) := dk_42 (dk_at dksX4_scoreOf_12 3 rfl rfl)
theorem dX4_scoreOf_284 : decode cX4_scoreOf 284 = .ok (.getfield 28, 3) := dk_180 0 28 (dk_at dksX4_scoreOf_12 4 rfl rfl)
theorem dX4_scoreOf_287 : decode cX4_scoreOf 287 = .ok (.iconst 0, 1) := dk_3 (dk_at dksX4_scoreOf_12 7 rfl rfl)
theorem dX4_scoreOf_288 : decode cX4_scoreOf 288 = .ok (.laload, 1) := dk_47 (dk_at dksX4_scoreOf_12 8 rfl rfl)
theorem dX4_scoreOf_289 : decode cX4_scoreOf 289 = .ok (.ldc2_w 294, 3) := dk_20 1 38 (dk_at dksX4_scoreOf_12 9 rfl rfl)
theorem dX4_scoreOf_292 : decode cX4_scoreOf 292 = .ok (.lcmp, 1) := dk_148 (dk_at dksX4_scoreOf_12 12 rfl rfl)
theorem dX4_scoreOf_293 : decode cX4_scoreOf 293 = .ok (.ifCond .le 9, 3) := dk_158 0 9 (dk_at dksX4_scoreOf_12 13 rfl rfl)
theorem dX4_scoreOf_296 : decode cX4_scoreOf 296 = .ok (.ldc_w 296, 3) := dk_19 1 40 (dk_at dksX4_scoreOf_12 16 rfl rfl)
theorem dX4_scoreOf_299 : decode cX4_scoreOf 299 = .ok (.goto 10, 3) := dk_167 0 10 (dk_at dksX4_scoreOf_12 19 rfl rfl)
theorem dX4_scoreOf_302 : decode cX4_scoreOf 302 = .ok (.aload_n 0, 1) := dk_42 (dk_at dksX4_scoreOf_12 22 rfl rfl)
theorem dX4_scoreOf_303 : decode cX4_scoreOf 303 = .ok (.getfield 28, 3) := dk_180 0 28 (dk_at dksX4_scoreOf_13 0 rfl rfl)
theorem dX4_scoreOf_306 : decode cX4_scoreOf 306 = .ok (.iconst 0, 1) := dk_3 (dk_at dksX4_scoreOf_13 3 rfl rfl)
theorem dX4_scoreOf_307 : decode cX4_scoreOf 307 = .ok (.laload, 1) := dk_47 (dk_at dksX4_scoreOf_13 4 rfl rfl)
theorem dX4_scoreOf_308 : decode cX4_scoreOf 308 = .ok (.l2i, 1) := dk_136 (dk_at dksX4_scoreOf_13 5 rfl rfl)
theorem dX4_scoreOf_309 : decode cX4_scoreOf 309 = .ok (.ireturn, 1) := dk_172 (dk_at dksX4_scoreOf_13 6 rfl rfl)
abbrev cX4_operate : ByteArray := prog_10_method_62_code
def yX4_operate : MethodName := ⟨RX4, "operate", "(IJJ)J"⟩
def dkwX4_operate_1 : List UInt8 := [31, 33, 97, 167, 0, 17, 26, 6, 160, 0, 9, 31, 33, 101, 167, 0, 6, 31, 33, 105, 184, 1, 21, 173]
abbrev dktX4_operate_1 : List UInt8 := dkwX4_operate_1 ++ []
def dkwX4_operate_0 : List UInt8 := [26, 8, 160, 0, 17, 33, 9, 148, 154, 0, 7, 9, 167, 0, 6, 31, 33, 109, 173, 26, 5, 160, 0, 9]
abbrev dktX4_operate_0 : List UInt8 := dkwX4_operate_0 ++ dktX4_operate_1
theorem dksX4_operate_0 : cX4_operate.data.toList.drop 0 = dktX4_operate_0 := by decide +kernel
theorem dksX4_operate_1 : cX4_operate.data.toList.drop 24 = dktX4_operate_1 := dk_seg dksX4_operate_0 24 rfl rfl
theorem dX4_operate_0 : decode cX4_operate 0 = .ok (.iload_n 0, 1) := dk_26 (dk_at dksX4_operate_0 0 rfl rfl)
theorem dX4_operate_1 : decode cX4_operate 1 = .ok (.iconst 5, 1) := dk_8 (dk_at dksX4_operate_0 1 rfl rfl)
theorem dX4_operate_2 : decode cX4_operate 2 = .ok (.if_icmp .ne 17, 3) := dk_160 0 17 (dk_at dksX4_operate_0 2 rfl rfl)
theorem dX4_operate_5 : decode cX4_operate 5 = .ok (.lload_n 3, 1) := dk_33 (dk_at dksX4_operate_0 5 rfl rfl)
theorem dX4_operate_6 : decode cX4_operate 6 = .ok (.lconst 0, 1) := dk_9 (dk_at dksX4_operate_0 6 rfl rfl)
theorem dX4_operate_7 : decode cX4_operate 7 = .ok (.lcmp, 1) := dk_148 (dk_at dksX4_operate_0 7 rfl rfl)
theorem dX4_operate_8 : decode cX4_operate 8 = .ok (.ifCond .ne 7, 3) := dk_154 0 7 (dk_at dksX4_operate_0 8 rfl rfl)
theorem dX4_operate_11 : decode cX4_operate 11 = .ok (.lconst 0, 1) := dk_9 (dk_at dksX4_operate_0 11 rfl rfl)
theorem dX4_operate_12 : decode cX4_operate 12 = .ok (.goto 6, 3) := dk_167 0 6 (dk_at dksX4_operate_0 12 rfl rfl)
theorem dX4_operate_15 : decode cX4_operate 15 = .ok (.lload_n 1, 1) := dk_31 (dk_at dksX4_operate_0 15 rfl rfl)
theorem dX4_operate_16 : decode cX4_operate 16 = .ok (.lload_n 3, 1) := dk_33 (dk_at dksX4_operate_0 16 rfl rfl)
theorem dX4_operate_17 : decode cX4_operate 17 = .ok (.ldiv, 1) := dk_109 (dk_at dksX4_operate_0 17 rfl rfl)
theorem dX4_operate_18 : decode cX4_operate 18 = .ok (.lreturn, 1) := dk_173 (dk_at dksX4_operate_0 18 rfl rfl)
theorem dX4_operate_19 : decode cX4_operate 19 = .ok (.iload_n 0, 1) := dk_26 (dk_at dksX4_operate_0 19 rfl rfl)
theorem dX4_operate_20 : decode cX4_operate 20 = .ok (.iconst 2, 1) := dk_5 (dk_at dksX4_operate_0 20 rfl rfl)
theorem dX4_operate_21 : decode cX4_operate 21 = .ok (.if_icmp .ne 9, 3) := dk_160 0 9 (dk_at dksX4_operate_0 21 rfl rfl)
theorem dX4_operate_24 : decode cX4_operate 24 = .ok (.lload_n 1, 1) := dk_31 (dk_at dksX4_operate_1 0 rfl rfl)
theorem dX4_operate_25 : decode cX4_operate 25 = .ok (.lload_n 3, 1) := dk_33 (dk_at dksX4_operate_1 1 rfl rfl)
theorem dX4_operate_26 : decode cX4_operate 26 = .ok (.ladd, 1) := dk_97 (dk_at dksX4_operate_1 2 rfl rfl)
theorem dX4_operate_27 : decode cX4_operate 27 = .ok (.goto 17, 3) := dk_167 0 17 (dk_at dksX4_operate_1 3 rfl rfl)
theorem dX4_operate_30 : decode cX4_operate 30 = .ok (.iload_n 0, 1) := dk_26 (dk_at dksX4_operate_1 6 rfl rfl)
theorem dX4_operate_31 : decode cX4_operate 31 = .ok (.iconst 3, 1) := dk_6 (dk_at dksX4_operate_1 7 rfl rfl)
theorem dX4_operate_32 : decode cX4_operate 32 = .ok (.if_icmp .ne 9, 3) := dk_160 0 9 (dk_at dksX4_operate_1 8 rfl rfl)
theorem dX4_operate_35 : decode cX4_operate 35 = .ok (.lload_n 1, 1) := dk_31 (dk_at dksX4_operate_1 11 rfl rfl)
theorem dX4_operate_36 : decode cX4_operate 36 = .ok (.lload_n 3, 1) := dk_33 (dk_at dksX4_operate_1 12 rfl rfl)
theorem dX4_operate_37 : decode cX4_operate 37 = .ok (.lsub, 1) := dk_101 (dk_at dksX4_operate_1 13 rfl rfl)
theorem dX4_operate_38 : decode cX4_operate 38 = .ok (.goto 6, 3) := dk_167 0 6 (dk_at dksX4_operate_1 14 rfl rfl)
theorem dX4_operate_41 : decode cX4_operate 41 = .ok (.lload_n 1, 1) := dk_31 (dk_at dksX4_operate_1 17 rfl rfl)
theorem dX4_operate_42 : decode cX4_operate 42 = .ok (.lload_n 3, 1) := dk_33 (dk_at dksX4_operate_1 18 rfl rfl)
theorem dX4_operate_43 : decode cX4_operate 43 = .ok (.lmul, 1) := dk_105 (dk_at dksX4_operate_1 19 rfl rfl)
theorem dX4_operate_44 : decode cX4_operate 44 = .ok (.invokestatic 277, 3) := dk_184 1 21 (dk_at dksX4_operate_1 20 rfl rfl)
theorem dX4_operate_47 : decode cX4_operate 47 = .ok (.lreturn, 1) := dk_173 (dk_at dksX4_operate_1 23 rfl rfl)
abbrev cX4_limited : ByteArray := prog_10_method_61_code
def yX4_limited : MethodName := ⟨RX4, "limited", "(J)J"⟩
def dkwX4_limited_1 : List UInt8 := [20, 1, 19, 167, 0, 4, 30, 173]
abbrev dktX4_limited_1 : List UInt8 := dkwX4_limited_1 ++ []
def dkwX4_limited_0 : List UInt8 := [30, 20, 1, 17, 148, 158, 0, 9, 20, 1, 17, 167, 0, 18, 30, 20, 1, 19, 148, 156, 0, 9]
abbrev dktX4_limited_0 : List UInt8 := dkwX4_limited_0 ++ dktX4_limited_1
theorem dksX4_limited_0 : cX4_limited.data.toList.drop 0 = dktX4_limited_0 := by decide +kernel
theorem dksX4_limited_1 : cX4_limited.data.toList.drop 22 = dktX4_limited_1 := dk_seg dksX4_limited_0 22 rfl rfl
theorem dX4_limited_0 : decode cX4_limited 0 = .ok (.lload_n 0, 1) := dk_30 (dk_at dksX4_limited_0 0 rfl rfl)
theorem dX4_limited_1 : decode cX4_limited 1 = .ok (.ldc2_w 273, 3) := dk_20 1 17 (dk_at dksX4_limited_0 1 rfl rfl)
theorem dX4_limited_4 : decode cX4_limited 4 = .ok (.lcmp, 1) := dk_148 (dk_at dksX4_limited_0 4 rfl rfl)
theorem dX4_limited_5 : decode cX4_limited 5 = .ok (.ifCond .le 9, 3) := dk_158 0 9 (dk_at dksX4_limited_0 5 rfl rfl)
theorem dX4_limited_8 : decode cX4_limited 8 = .ok (.ldc2_w 273, 3) := dk_20 1 17 (dk_at dksX4_limited_0 8 rfl rfl)
theorem dX4_limited_11 : decode cX4_limited 11 = .ok (.goto 18, 3) := dk_167 0 18 (dk_at dksX4_limited_0 11 rfl rfl)
theorem dX4_limited_14 : decode cX4_limited 14 = .ok (.lload_n 0, 1) := dk_30 (dk_at dksX4_limited_0 14 rfl rfl)
theorem dX4_limited_15 : decode cX4_limited 15 = .ok (.ldc2_w 275, 3) := dk_20 1 19 (dk_at dksX4_limited_0 15 rfl rfl)
theorem dX4_limited_18 : decode cX4_limited 18 = .ok (.lcmp, 1) := dk_148 (dk_at dksX4_limited_0 18 rfl rfl)
theorem dX4_limited_19 : decode cX4_limited 19 = .ok (.ifCond .ge 9, 3) := dk_156 0 9 (dk_at dksX4_limited_0 19 rfl rfl)
theorem dX4_limited_22 : decode cX4_limited 22 = .ok (.ldc2_w 275, 3) := dk_20 1 19 (dk_at dksX4_limited_1 0 rfl rfl)
theorem dX4_limited_25 : decode cX4_limited 25 = .ok (.goto 4, 3) := dk_167 0 4 (dk_at dksX4_limited_1 3 rfl rfl)
theorem dX4_limited_28 : decode cX4_limited 28 = .ok (.lload_n 0, 1) := dk_30 (dk_at dksX4_limited_1 6 rfl rfl)
theorem dX4_limited_29 : decode cX4_limited 29 = .ok (.lreturn, 1) := dk_173 (dk_at dksX4_limited_1 7 rfl rfl)
abbrev cX4_points : ByteArray := prog_10_method_80_code
def yX4_points : MethodName := ⟨RX4, "points", "(I)I"⟩
def dkwX4_points_1 : List UInt8 := [153, 0, 7, 3, 167, 0, 8, 42, 27, 182, 1, 56, 172]
abbrev dktX4_points_1 : List UInt8 := dkwX4_points_1 ++ []
def dkwX4_points_0 : List UInt8 := [42, 3, 181, 0, 32, 42, 27, 3, 6, 184, 0, 57, 154, 0, 7, 4, 167, 0, 4, 3, 4, 182, 0, 241]
abbrev dktX4_points_0 : List UInt8 := dkwX4_points_0 ++ dktX4_points_1
theorem dksX4_points_0 : cX4_points.data.toList.drop 0 = dktX4_points_0 := by decide +kernel
theorem dksX4_points_1 : cX4_points.data.toList.drop 24 = dktX4_points_1 := dk_seg dksX4_points_0 24 rfl rfl
theorem dX4_points_0 : decode cX4_points 0 = .ok (.aload_n 0, 1) := dk_42 (dk_at dksX4_points_0 0 rfl rfl)
theorem dX4_points_1 : decode cX4_points 1 = .ok (.iconst 0, 1) := dk_3 (dk_at dksX4_points_0 1 rfl rfl)
theorem dX4_points_2 : decode cX4_points 2 = .ok (.putfield 32, 3) := dk_181 0 32 (dk_at dksX4_points_0 2 rfl rfl)
theorem dX4_points_5 : decode cX4_points 5 = .ok (.aload_n 0, 1) := dk_42 (dk_at dksX4_points_0 5 rfl rfl)
theorem dX4_points_6 : decode cX4_points 6 = .ok (.iload_n 1, 1) := dk_27 (dk_at dksX4_points_0 6 rfl rfl)
theorem dX4_points_7 : decode cX4_points 7 = .ok (.iconst 0, 1) := dk_3 (dk_at dksX4_points_0 7 rfl rfl)
theorem dX4_points_8 : decode cX4_points 8 = .ok (.iconst 3, 1) := dk_6 (dk_at dksX4_points_0 8 rfl rfl)
theorem dX4_points_9 : decode cX4_points 9 = .ok (.invokestatic 57, 3) := dk_184 0 57 (dk_at dksX4_points_0 9 rfl rfl)
theorem dX4_points_12 : decode cX4_points 12 = .ok (.ifCond .ne 7, 3) := dk_154 0 7 (dk_at dksX4_points_0 12 rfl rfl)
theorem dX4_points_15 : decode cX4_points 15 = .ok (.iconst 1, 1) := dk_4 (dk_at dksX4_points_0 15 rfl rfl)
theorem dX4_points_16 : decode cX4_points 16 = .ok (.goto 4, 3) := dk_167 0 4 (dk_at dksX4_points_0 16 rfl rfl)
theorem dX4_points_19 : decode cX4_points 19 = .ok (.iconst 0, 1) := dk_3 (dk_at dksX4_points_0 19 rfl rfl)
theorem dX4_points_20 : decode cX4_points 20 = .ok (.iconst 1, 1) := dk_4 (dk_at dksX4_points_0 20 rfl rfl)
theorem dX4_points_21 : decode cX4_points 21 = .ok (.invokevirtual 241, 3) := dk_182 0 241 (dk_at dksX4_points_0 21 rfl rfl)
theorem dX4_points_24 : decode cX4_points 24 = .ok (.ifCond .eq 7, 3) := dk_153 0 7 (dk_at dksX4_points_1 0 rfl rfl)
theorem dX4_points_27 : decode cX4_points 27 = .ok (.iconst 0, 1) := dk_3 (dk_at dksX4_points_1 3 rfl rfl)
theorem dX4_points_28 : decode cX4_points 28 = .ok (.goto 8, 3) := dk_167 0 8 (dk_at dksX4_points_1 4 rfl rfl)
theorem dX4_points_31 : decode cX4_points 31 = .ok (.aload_n 0, 1) := dk_42 (dk_at dksX4_points_1 7 rfl rfl)
theorem dX4_points_32 : decode cX4_points 32 = .ok (.iload_n 1, 1) := dk_27 (dk_at dksX4_points_1 8 rfl rfl)
theorem dX4_points_33 : decode cX4_points 33 = .ok (.invokevirtual 312, 3) := dk_182 1 56 (dk_at dksX4_points_1 9 rfl rfl)
theorem dX4_points_36 : decode cX4_points 36 = .ok (.ireturn, 1) := dk_172 (dk_at dksX4_points_1 12 rfl rfl)
abbrev cX4_pointsOf : ByteArray := prog_10_method_64_code
def yX4_pointsOf : MethodName := ⟨RX4, "pointsOf", "(I)I"⟩
def dkwX4_pointsOf_2 : List UInt8 := [132, 3, 1, 167, 255, 210, 28, 172]
abbrev dktX4_pointsOf_2 : List UInt8 := dkwX4_pointsOf_2 ++ []
def dkwX4_pointsOf_1 : List UInt8 := [180, 0, 17, 29, 184, 0, 35, 46, 27, 160, 0, 11, 42, 29, 182, 1, 41, 167, 0, 4, 3, 96, 61]
abbrev dktX4_pointsOf_1 : List UInt8 := dkwX4_pointsOf_1 ++ dktX4_pointsOf_2
def dkwX4_pointsOf_0 : List UInt8 := [3, 61, 3, 62, 29, 42, 180, 0, 17, 6, 46, 162, 0, 42, 28, 42, 29, 182, 0, 42, 153, 0, 24, 42]
abbrev dktX4_pointsOf_0 : List UInt8 := dkwX4_pointsOf_0 ++ dktX4_pointsOf_1
theorem dksX4_pointsOf_0 : cX4_pointsOf.data.toList.drop 0 = dktX4_pointsOf_0 := by decide +kernel
theorem dksX4_pointsOf_1 : cX4_pointsOf.data.toList.drop 24 = dktX4_pointsOf_1 := dk_seg dksX4_pointsOf_0 24 rfl rfl
theorem dksX4_pointsOf_2 : cX4_pointsOf.data.toList.drop 47 = dktX4_pointsOf_2 := dk_seg dksX4_pointsOf_1 23 rfl rfl
theorem dX4_pointsOf_0 : decode cX4_pointsOf 0 = .ok (.iconst 0, 1) := dk_3 (dk_at dksX4_pointsOf_0 0 rfl rfl)
theorem dX4_pointsOf_1 : decode cX4_pointsOf 1 = .ok (.istore_n 2, 1) := dk_61 (dk_at dksX4_pointsOf_0 1 rfl rfl)
theorem dX4_pointsOf_2 : decode cX4_pointsOf 2 = .ok (.iconst 0, 1) := dk_3 (dk_at dksX4_pointsOf_0 2 rfl rfl)
theorem dX4_pointsOf_3 : decode cX4_pointsOf 3 = .ok (.istore_n 3, 1) := dk_62 (dk_at dksX4_pointsOf_0 3 rfl rfl)
theorem dX4_pointsOf_4 : decode cX4_pointsOf 4 = .ok (.iload_n 3, 1) := dk_29 (dk_at dksX4_pointsOf_0 4 rfl rfl)
theorem dX4_pointsOf_5 : decode cX4_pointsOf 5 = .ok (.aload_n 0, 1) := dk_42 (dk_at dksX4_pointsOf_0 5 rfl rfl)
theorem dX4_pointsOf_6 : decode cX4_pointsOf 6 = .ok (.getfield 17, 3) := dk_180 0 17 (dk_at dksX4_pointsOf_0 6 rfl rfl)
theorem dX4_pointsOf_9 : decode cX4_pointsOf 9 = .ok (.iconst 3, 1) := dk_6 (dk_at dksX4_pointsOf_0 9 rfl rfl)
theorem dX4_pointsOf_10 : decode cX4_pointsOf 10 = .ok (.iaload, 1) := dk_46 (dk_at dksX4_pointsOf_0 10 rfl rfl)
theorem dX4_pointsOf_11 : decode cX4_pointsOf 11 = .ok (.if_icmp .ge 42, 3) := dk_162 0 42 (dk_at dksX4_pointsOf_0 11 rfl rfl)
theorem dX4_pointsOf_14 : decode cX4_pointsOf 14 = .ok (.iload_n 2, 1) := dk_28 (dk_at dksX4_pointsOf_0 14 rfl rfl)
theorem dX4_pointsOf_15 : decode cX4_pointsOf 15 = .ok (.aload_n 0, 1) := dk_42 (dk_at dksX4_pointsOf_0 15 rfl rfl)
theorem dX4_pointsOf_16 : decode cX4_pointsOf 16 = .ok (.iload_n 3, 1) := dk_29 (dk_at dksX4_pointsOf_0 16 rfl rfl)
theorem dX4_pointsOf_17 : decode cX4_pointsOf 17 = .ok (.invokevirtual 42, 3) := dk_182 0 42 (dk_at dksX4_pointsOf_0 17 rfl rfl)
theorem dX4_pointsOf_20 : decode cX4_pointsOf 20 = .ok (.ifCond .eq 24, 3) := dk_153 0 24 (dk_at dksX4_pointsOf_0 20 rfl rfl)
theorem dX4_pointsOf_23 : decode cX4_pointsOf 23 = .ok (.aload_n 0, 1) := dk_42 (dk_at dksX4_pointsOf_0 23 rfl rfl)
theorem dX4_pointsOf_24 : decode cX4_pointsOf 24 = .ok (.getfield 17, 3) := dk_180 0 17 (dk_at dksX4_pointsOf_1 0 rfl rfl)
theorem dX4_pointsOf_27 : decode cX4_pointsOf 27 = .ok (.iload_n 3, 1) := dk_29 (dk_at dksX4_pointsOf_1 3 rfl rfl)
theorem dX4_pointsOf_28 : decode cX4_pointsOf 28 = .ok (.invokestatic 35, 3) := dk_184 0 35 (dk_at dksX4_pointsOf_1 4 rfl rfl)
theorem dX4_pointsOf_31 : decode cX4_pointsOf 31 = .ok (.iaload, 1) := dk_46 (dk_at dksX4_pointsOf_1 7 rfl rfl)
theorem dX4_pointsOf_32 : decode cX4_pointsOf 32 = .ok (.iload_n 1, 1) := dk_27 (dk_at dksX4_pointsOf_1 8 rfl rfl)
theorem dX4_pointsOf_33 : decode cX4_pointsOf 33 = .ok (.if_icmp .ne 11, 3) := dk_160 0 11 (dk_at dksX4_pointsOf_1 9 rfl rfl)
theorem dX4_pointsOf_36 : decode cX4_pointsOf 36 = .ok (.aload_n 0, 1) := dk_42 (dk_at dksX4_pointsOf_1 12 rfl rfl)
theorem dX4_pointsOf_37 : decode cX4_pointsOf 37 = .ok (.iload_n 3, 1) := dk_29 (dk_at dksX4_pointsOf_1 13 rfl rfl)
theorem dX4_pointsOf_38 : decode cX4_pointsOf 38 = .ok (.invokevirtual 297, 3) := dk_182 1 41 (dk_at dksX4_pointsOf_1 14 rfl rfl)
theorem dX4_pointsOf_41 : decode cX4_pointsOf 41 = .ok (.goto 4, 3) := dk_167 0 4 (dk_at dksX4_pointsOf_1 17 rfl rfl)
theorem dX4_pointsOf_44 : decode cX4_pointsOf 44 = .ok (.iconst 0, 1) := dk_3 (dk_at dksX4_pointsOf_1 20 rfl rfl)
theorem dX4_pointsOf_45 : decode cX4_pointsOf 45 = .ok (.iadd, 1) := dk_96 (dk_at dksX4_pointsOf_1 21 rfl rfl)
theorem dX4_pointsOf_46 : decode cX4_pointsOf 46 = .ok (.istore_n 2, 1) := dk_61 (dk_at dksX4_pointsOf_1 22 rfl rfl)
theorem dX4_pointsOf_47 : decode cX4_pointsOf 47 = .ok (.iinc 3 1, 3) := dk_132 3 1 (dk_at dksX4_pointsOf_2 0 rfl rfl)
theorem dX4_pointsOf_50 : decode cX4_pointsOf 50 = .ok (.goto (-46), 3) := dk_167 255 210 (dk_at dksX4_pointsOf_2 3 rfl rfl)
theorem dX4_pointsOf_53 : decode cX4_pointsOf 53 = .ok (.iload_n 2, 1) := dk_28 (dk_at dksX4_pointsOf_2 6 rfl rfl)
theorem dX4_pointsOf_54 : decode cX4_pointsOf 54 = .ok (.ireturn, 1) := dk_172 (dk_at dksX4_pointsOf_2 7 rfl rfl)
abbrev cX4_leader : ByteArray := prog_10_method_81_code
def yX4_leader : MethodName := ⟨RX4, "leader", "()I"⟩
def dkwX4_leader_2 : List UInt8 := [167, 255, 227, 27, 172]
abbrev dktX4_leader_2 : List UInt8 := dkwX4_leader_2 ++ []
def dkwX4_leader_1 : List UInt8 := [182, 1, 56, 54, 4, 21, 4, 28, 163, 0, 6, 167, 0, 8, 29, 60, 21, 4, 61, 132, 3, 1]
abbrev dktX4_leader_1 : List UInt8 := dkwX4_leader_1 ++ dktX4_leader_2
def dkwX4_leader_0 : List UInt8 := [42, 3, 181, 0, 32, 3, 60, 42, 3, 182, 1, 56, 61, 4, 62, 29, 7, 162, 0, 30, 42, 29]
abbrev dktX4_leader_0 : List UInt8 := dkwX4_leader_0 ++ dktX4_leader_1
theorem dksX4_leader_0 : cX4_leader.data.toList.drop 0 = dktX4_leader_0 := by decide +kernel
theorem dksX4_leader_1 : cX4_leader.data.toList.drop 22 = dktX4_leader_1 := dk_seg dksX4_leader_0 22 rfl rfl
theorem dksX4_leader_2 : cX4_leader.data.toList.drop 44 = dktX4_leader_2 := dk_seg dksX4_leader_1 22 rfl rfl
theorem dX4_leader_0 : decode cX4_leader 0 = .ok (.aload_n 0, 1) := dk_42 (dk_at dksX4_leader_0 0 rfl rfl)
theorem dX4_leader_1 : decode cX4_leader 1 = .ok (.iconst 0, 1) := dk_3 (dk_at dksX4_leader_0 1 rfl rfl)
theorem dX4_leader_2 : decode cX4_leader 2 = .ok (.putfield 32, 3) := dk_181 0 32 (dk_at dksX4_leader_0 2 rfl rfl)
theorem dX4_leader_5 : decode cX4_leader 5 = .ok (.iconst 0, 1) := dk_3 (dk_at dksX4_leader_0 5 rfl rfl)
theorem dX4_leader_6 : decode cX4_leader 6 = .ok (.istore_n 1, 1) := dk_60 (dk_at dksX4_leader_0 6 rfl rfl)
theorem dX4_leader_7 : decode cX4_leader 7 = .ok (.aload_n 0, 1) := dk_42 (dk_at dksX4_leader_0 7 rfl rfl)
theorem dX4_leader_8 : decode cX4_leader 8 = .ok (.iconst 0, 1) := dk_3 (dk_at dksX4_leader_0 8 rfl rfl)
theorem dX4_leader_9 : decode cX4_leader 9 = .ok (.invokevirtual 312, 3) := dk_182 1 56 (dk_at dksX4_leader_0 9 rfl rfl)
theorem dX4_leader_12 : decode cX4_leader 12 = .ok (.istore_n 2, 1) := dk_61 (dk_at dksX4_leader_0 12 rfl rfl)
theorem dX4_leader_13 : decode cX4_leader 13 = .ok (.iconst 1, 1) := dk_4 (dk_at dksX4_leader_0 13 rfl rfl)
theorem dX4_leader_14 : decode cX4_leader 14 = .ok (.istore_n 3, 1) := dk_62 (dk_at dksX4_leader_0 14 rfl rfl)
theorem dX4_leader_15 : decode cX4_leader 15 = .ok (.iload_n 3, 1) := dk_29 (dk_at dksX4_leader_0 15 rfl rfl)
theorem dX4_leader_16 : decode cX4_leader 16 = .ok (.iconst 4, 1) := dk_7 (dk_at dksX4_leader_0 16 rfl rfl)
theorem dX4_leader_17 : decode cX4_leader 17 = .ok (.if_icmp .ge 30, 3) := dk_162 0 30 (dk_at dksX4_leader_0 17 rfl rfl)
theorem dX4_leader_20 : decode cX4_leader 20 = .ok (.aload_n 0, 1) := dk_42 (dk_at dksX4_leader_0 20 rfl rfl)
theorem dX4_leader_21 : decode cX4_leader 21 = .ok (.iload_n 3, 1) := dk_29 (dk_at dksX4_leader_0 21 rfl rfl)
theorem dX4_leader_22 : decode cX4_leader 22 = .ok (.invokevirtual 312, 3) := dk_182 1 56 (dk_at dksX4_leader_1 0 rfl rfl)
theorem dX4_leader_25 : decode cX4_leader 25 = .ok (.istore 4, 2) := dk_54 4 (dk_at dksX4_leader_1 3 rfl rfl)
theorem dX4_leader_27 : decode cX4_leader 27 = .ok (.iload 4, 2) := dk_21 4 (dk_at dksX4_leader_1 5 rfl rfl)
theorem dX4_leader_29 : decode cX4_leader 29 = .ok (.iload_n 2, 1) := dk_28 (dk_at dksX4_leader_1 7 rfl rfl)
theorem dX4_leader_30 : decode cX4_leader 30 = .ok (.if_icmp .gt 6, 3) := dk_163 0 6 (dk_at dksX4_leader_1 8 rfl rfl)
theorem dX4_leader_33 : decode cX4_leader 33 = .ok (.goto 8, 3) := dk_167 0 8 (dk_at dksX4_leader_1 11 rfl rfl)
theorem dX4_leader_36 : decode cX4_leader 36 = .ok (.iload_n 3, 1) := dk_29 (dk_at dksX4_leader_1 14 rfl rfl)
theorem dX4_leader_37 : decode cX4_leader 37 = .ok (.istore_n 1, 1) := dk_60 (dk_at dksX4_leader_1 15 rfl rfl)
theorem dX4_leader_38 : decode cX4_leader 38 = .ok (.iload 4, 2) := dk_21 4 (dk_at dksX4_leader_1 16 rfl rfl)
theorem dX4_leader_40 : decode cX4_leader 40 = .ok (.istore_n 2, 1) := dk_61 (dk_at dksX4_leader_1 18 rfl rfl)
theorem dX4_leader_41 : decode cX4_leader 41 = .ok (.iinc 3 1, 3) := dk_132 3 1 (dk_at dksX4_leader_1 19 rfl rfl)
theorem dX4_leader_44 : decode cX4_leader 44 = .ok (.goto (-29), 3) := dk_167 255 227 (dk_at dksX4_leader_2 0 rfl rfl)
theorem dX4_leader_47 : decode cX4_leader 47 = .ok (.iload_n 1, 1) := dk_27 (dk_at dksX4_leader_2 3 rfl rfl)
theorem dX4_leader_48 : decode cX4_leader 48 = .ok (.ireturn, 1) := dk_172 (dk_at dksX4_leader_2 4 rfl rfl)
abbrev cX4_begin : ByteArray := prog_10_method_83_code
def yX4_begin : MethodName := ⟨RX4, "begin", "(III)I"⟩
def dkwX4_begin_4 : List UInt8 := [42, 27, 28, 29, 182, 0, 215, 42, 180, 0, 17, 6, 46, 4, 100, 172]
abbrev dktX4_begin_4 : List UInt8 := dkwX4_begin_4 ++ []
def dkwX4_begin_3 : List UInt8 := [182, 0, 254, 42, 28, 29, 182, 0, 110, 154, 0, 12, 42, 28, 29, 182, 0, 212, 153, 0, 6, 16, 253, 172]
abbrev dktX4_begin_3 : List UInt8 := dkwX4_begin_3 ++ dktX4_begin_4
def dkwX4_begin_2 : List UInt8 := [160, 0, 7, 4, 167, 0, 4, 3, 5, 182, 0, 241, 153, 0, 5, 3, 172, 42, 42, 180, 0, 17]
abbrev dktX4_begin_2 : List UInt8 := dkwX4_begin_2 ++ dktX4_begin_3
def dkwX4_begin_1 : List UInt8 := [154, 0, 37, 42, 28, 29, 4, 182, 1, 50, 154, 0, 27, 42, 42, 180, 0, 17, 6, 46, 16, 6]
abbrev dktX4_begin_1 : List UInt8 := dkwX4_begin_1 ++ dktX4_begin_2
def dkwX4_begin_0 : List UInt8 := [42, 3, 181, 0, 32, 42, 27, 3, 6, 184, 0, 57, 154, 0, 7, 4, 167, 0, 4, 3, 4, 182, 0, 241]
abbrev dktX4_begin_0 : List UInt8 := dkwX4_begin_0 ++ dktX4_begin_1
theorem dksX4_begin_0 : cX4_begin.data.toList.drop 0 = dktX4_begin_0 := by decide +kernel
theorem dksX4_begin_1 : cX4_begin.data.toList.drop 24 = dktX4_begin_1 := dk_seg dksX4_begin_0 24 rfl rfl
theorem dksX4_begin_2 : cX4_begin.data.toList.drop 46 = dktX4_begin_2 := dk_seg dksX4_begin_1 22 rfl rfl
theorem dksX4_begin_3 : cX4_begin.data.toList.drop 68 = dktX4_begin_3 := dk_seg dksX4_begin_2 22 rfl rfl
theorem dksX4_begin_4 : cX4_begin.data.toList.drop 92 = dktX4_begin_4 := dk_seg dksX4_begin_3 24 rfl rfl
theorem dX4_begin_0 : decode cX4_begin 0 = .ok (.aload_n 0, 1) := dk_42 (dk_at dksX4_begin_0 0 rfl rfl)
theorem dX4_begin_1 : decode cX4_begin 1 = .ok (.iconst 0, 1) := dk_3 (dk_at dksX4_begin_0 1 rfl rfl)
theorem dX4_begin_2 : decode cX4_begin 2 = .ok (.putfield 32, 3) := dk_181 0 32 (dk_at dksX4_begin_0 2 rfl rfl)
theorem dX4_begin_5 : decode cX4_begin 5 = .ok (.aload_n 0, 1) := dk_42 (dk_at dksX4_begin_0 5 rfl rfl)
theorem dX4_begin_6 : decode cX4_begin 6 = .ok (.iload_n 1, 1) := dk_27 (dk_at dksX4_begin_0 6 rfl rfl)
theorem dX4_begin_7 : decode cX4_begin 7 = .ok (.iconst 0, 1) := dk_3 (dk_at dksX4_begin_0 7 rfl rfl)
theorem dX4_begin_8 : decode cX4_begin 8 = .ok (.iconst 3, 1) := dk_6 (dk_at dksX4_begin_0 8 rfl rfl)
theorem dX4_begin_9 : decode cX4_begin 9 = .ok (.invokestatic 57, 3) := dk_184 0 57 (dk_at dksX4_begin_0 9 rfl rfl)
theorem dX4_begin_12 : decode cX4_begin 12 = .ok (.ifCond .ne 7, 3) := dk_154 0 7 (dk_at dksX4_begin_0 12 rfl rfl)
theorem dX4_begin_15 : decode cX4_begin 15 = .ok (.iconst 1, 1) := dk_4 (dk_at dksX4_begin_0 15 rfl rfl)
theorem dX4_begin_16 : decode cX4_begin 16 = .ok (.goto 4, 3) := dk_167 0 4 (dk_at dksX4_begin_0 16 rfl rfl)
theorem dX4_begin_19 : decode cX4_begin 19 = .ok (.iconst 0, 1) := dk_3 (dk_at dksX4_begin_0 19 rfl rfl)
theorem dX4_begin_20 : decode cX4_begin 20 = .ok (.iconst 1, 1) := dk_4 (dk_at dksX4_begin_0 20 rfl rfl)
theorem dX4_begin_21 : decode cX4_begin 21 = .ok (.invokevirtual 241, 3) := dk_182 0 241 (dk_at dksX4_begin_0 21 rfl rfl)
theorem dX4_begin_24 : decode cX4_begin 24 = .ok (.ifCond .ne 37, 3) := dk_154 0 37 (dk_at dksX4_begin_1 0 rfl rfl)
theorem dX4_begin_27 : decode cX4_begin 27 = .ok (.aload_n 0, 1) := dk_42 (dk_at dksX4_begin_1 3 rfl rfl)
theorem dX4_begin_28 : decode cX4_begin 28 = .ok (.iload_n 2, 1) := dk_28 (dk_at dksX4_begin_1 4 rfl rfl)
theorem dX4_begin_29 : decode cX4_begin 29 = .ok (.iload_n 3, 1) := dk_29 (dk_at dksX4_begin_1 5 rfl rfl)
theorem dX4_begin_30 : decode cX4_begin 30 = .ok (.iconst 1, 1) := dk_4 (dk_at dksX4_begin_1 6 rfl rfl)
theorem dX4_begin_31 : decode cX4_begin 31 = .ok (.invokevirtual 306, 3) := dk_182 1 50 (dk_at dksX4_begin_1 7 rfl rfl)
theorem dX4_begin_34 : decode cX4_begin 34 = .ok (.ifCond .ne 27, 3) := dk_154 0 27 (dk_at dksX4_begin_1 10 rfl rfl)
theorem dX4_begin_37 : decode cX4_begin 37 = .ok (.aload_n 0, 1) := dk_42 (dk_at dksX4_begin_1 13 rfl rfl)
theorem dX4_begin_38 : decode cX4_begin 38 = .ok (.aload_n 0, 1) := dk_42 (dk_at dksX4_begin_1 14 rfl rfl)
theorem dX4_begin_39 : decode cX4_begin 39 = .ok (.getfield 17, 3) := dk_180 0 17 (dk_at dksX4_begin_1 15 rfl rfl)
theorem dX4_begin_42 : decode cX4_begin 42 = .ok (.iconst 3, 1) := dk_6 (dk_at dksX4_begin_1 18 rfl rfl)
theorem dX4_begin_43 : decode cX4_begin 43 = .ok (.iaload, 1) := dk_46 (dk_at dksX4_begin_1 19 rfl rfl)
theorem dX4_begin_44 : decode cX4_begin 44 = .ok (.bipush 6, 2) := dk_16 6 (dk_at dksX4_begin_1 20 rfl rfl)
theorem dX4_begin_46 : decode cX4_begin 46 = .ok (.if_icmp .ne 7, 3) := dk_160 0 7 (dk_at dksX4_begin_2 0 rfl rfl)
theorem dX4_begin_49 : decode cX4_begin 49 = .ok (.iconst 1, 1) := dk_4 (dk_at dksX4_begin_2 3 rfl rfl)
theorem dX4_begin_50 : decode cX4_begin 50 = .ok (.goto 4, 3) := dk_167 0 4 (dk_at dksX4_begin_2 4 rfl rfl)
theorem dX4_begin_53 : decode cX4_begin 53 = .ok (.iconst 0, 1) := dk_3 (dk_at dksX4_begin_2 7 rfl rfl)
theorem dX4_begin_54 : decode cX4_begin 54 = .ok (.iconst 2, 1) := dk_5 (dk_at dksX4_begin_2 8 rfl rfl)
theorem dX4_begin_55 : decode cX4_begin 55 = .ok (.invokevirtual 241, 3) := dk_182 0 241 (dk_at dksX4_begin_2 9 rfl rfl)
theorem dX4_begin_58 : decode cX4_begin 58 = .ok (.ifCond .eq 5, 3) := dk_153 0 5 (dk_at dksX4_begin_2 12 rfl rfl)
theorem dX4_begin_61 : decode cX4_begin 61 = .ok (.iconst 0, 1) := dk_3 (dk_at dksX4_begin_2 15 rfl rfl)
theorem dX4_begin_62 : decode cX4_begin 62 = .ok (.ireturn, 1) := dk_172 (dk_at dksX4_begin_2 16 rfl rfl)
theorem dX4_begin_63 : decode cX4_begin 63 = .ok (.aload_n 0, 1) := dk_42 (dk_at dksX4_begin_2 17 rfl rfl)
theorem dX4_begin_64 : decode cX4_begin 64 = .ok (.aload_n 0, 1) := dk_42 (dk_at dksX4_begin_2 18 rfl rfl)
theorem dX4_begin_65 : decode cX4_begin 65 = .ok (.getfield 17, 3) := dk_180 0 17 (dk_at dksX4_begin_2 19 rfl rfl)
theorem dX4_begin_68 : decode cX4_begin 68 = .ok (.invokevirtual 254, 3) := dk_182 0 254 (dk_at dksX4_begin_3 0 rfl rfl)
theorem dX4_begin_71 : decode cX4_begin 71 = .ok (.aload_n 0, 1) := dk_42 (dk_at dksX4_begin_3 3 rfl rfl)
theorem dX4_begin_72 : decode cX4_begin 72 = .ok (.iload_n 2, 1) := dk_28 (dk_at dksX4_begin_3 4 rfl rfl)
theorem dX4_begin_73 : decode cX4_begin 73 = .ok (.iload_n 3, 1) := dk_29 (dk_at dksX4_begin_3 5 rfl rfl)
theorem dX4_begin_74 : decode cX4_begin 74 = .ok (.invokevirtual 110, 3) := dk_182 0 110 (dk_at dksX4_begin_3 6 rfl rfl)
theorem dX4_begin_77 : decode cX4_begin 77 = .ok (.ifCond .ne 12, 3) := dk_154 0 12 (dk_at dksX4_begin_3 9 rfl rfl)
theorem dX4_begin_80 : decode cX4_begin 80 = .ok (.aload_n 0, 1) := dk_42 (dk_at dksX4_begin_3 12 rfl rfl)
theorem dX4_begin_81 : decode cX4_begin 81 = .ok (.iload_n 2, 1) := dk_28 (dk_at dksX4_begin_3 13 rfl rfl)
theorem dX4_begin_82 : decode cX4_begin 82 = .ok (.iload_n 3, 1) := dk_29 (dk_at dksX4_begin_3 14 rfl rfl)
theorem dX4_begin_83 : decode cX4_begin 83 = .ok (.invokevirtual 212, 3) := dk_182 0 212 (dk_at dksX4_begin_3 15 rfl rfl)
theorem dX4_begin_86 : decode cX4_begin 86 = .ok (.ifCond .eq 6, 3) := dk_153 0 6 (dk_at dksX4_begin_3 18 rfl rfl)
theorem dX4_begin_89 : decode cX4_begin 89 = .ok (.bipush (-3), 2) := dk_16 253 (dk_at dksX4_begin_3 21 rfl rfl)
theorem dX4_begin_91 : decode cX4_begin 91 = .ok (.ireturn, 1) := dk_172 (dk_at dksX4_begin_3 23 rfl rfl)
theorem dX4_begin_92 : decode cX4_begin 92 = .ok (.aload_n 0, 1) := dk_42 (dk_at dksX4_begin_4 0 rfl rfl)
theorem dX4_begin_93 : decode cX4_begin 93 = .ok (.iload_n 1, 1) := dk_27 (dk_at dksX4_begin_4 1 rfl rfl)
theorem dX4_begin_94 : decode cX4_begin 94 = .ok (.iload_n 2, 1) := dk_28 (dk_at dksX4_begin_4 2 rfl rfl)
theorem dX4_begin_95 : decode cX4_begin 95 = .ok (.iload_n 3, 1) := dk_29 (dk_at dksX4_begin_4 3 rfl rfl)
theorem dX4_begin_96 : decode cX4_begin 96 = .ok (.invokevirtual 215, 3) := dk_182 0 215 (dk_at dksX4_begin_4 4 rfl rfl)
theorem dX4_begin_99 : decode cX4_begin 99 = .ok (.aload_n 0, 1) := dk_42 (dk_at dksX4_begin_4 7 rfl rfl)
theorem dX4_begin_100 : decode cX4_begin 100 = .ok (.getfield 17, 3) := dk_180 0 17 (dk_at dksX4_begin_4 8 rfl rfl)
theorem dX4_begin_103 : decode cX4_begin 103 = .ok (.iconst 3, 1) := dk_6 (dk_at dksX4_begin_4 11 rfl rfl)
theorem dX4_begin_104 : decode cX4_begin 104 = .ok (.iaload, 1) := dk_46 (dk_at dksX4_begin_4 12 rfl rfl)
theorem dX4_begin_105 : decode cX4_begin 105 = .ok (.iconst 1, 1) := dk_4 (dk_at dksX4_begin_4 13 rfl rfl)
theorem dX4_begin_106 : decode cX4_begin 106 = .ok (.isub, 1) := dk_100 (dk_at dksX4_begin_4 14 rfl rfl)
theorem dX4_begin_107 : decode cX4_begin 107 = .ok (.ireturn, 1) := dk_172 (dk_at dksX4_begin_4 15 rfl rfl)
abbrev cX4_corner : ByteArray := prog_10_method_84_code
def yX4_corner : MethodName := ⟨RX4, "corner", "(III)I"⟩
def dkwX4_corner_2 : List UInt8 := [21, 4, 116, 172, 42, 27, 42, 27, 182, 0, 39, 28, 29, 182, 0, 124, 42, 27, 182, 0, 39, 172]
abbrev dktX4_corner_2 : List UInt8 := dkwX4_corner_2 ++ []
def dkwX4_corner_1 : List UInt8 := [172, 42, 42, 180, 0, 17, 182, 0, 254, 42, 27, 28, 29, 182, 0, 219, 54, 4, 21, 4, 158, 0, 7]
abbrev dktX4_corner_1 : List UInt8 := dkwX4_corner_1 ++ dktX4_corner_2
def dkwX4_corner_0 : List UInt8 := [42, 3, 181, 0, 32, 42, 27, 182, 1, 44, 154, 0, 13, 42, 28, 29, 5, 182, 1, 50, 153, 0, 5, 3]
abbrev dktX4_corner_0 : List UInt8 := dkwX4_corner_0 ++ dktX4_corner_1
theorem dksX4_corner_0 : cX4_corner.data.toList.drop 0 = dktX4_corner_0 := by decide +kernel
theorem dksX4_corner_1 : cX4_corner.data.toList.drop 24 = dktX4_corner_1 := dk_seg dksX4_corner_0 24 rfl rfl
theorem dksX4_corner_2 : cX4_corner.data.toList.drop 47 = dktX4_corner_2 := dk_seg dksX4_corner_1 23 rfl rfl
theorem dX4_corner_0 : decode cX4_corner 0 = .ok (.aload_n 0, 1) := dk_42 (dk_at dksX4_corner_0 0 rfl rfl)
theorem dX4_corner_1 : decode cX4_corner 1 = .ok (.iconst 0, 1) := dk_3 (dk_at dksX4_corner_0 1 rfl rfl)
theorem dX4_corner_2 : decode cX4_corner 2 = .ok (.putfield 32, 3) := dk_181 0 32 (dk_at dksX4_corner_0 2 rfl rfl)
theorem dX4_corner_5 : decode cX4_corner 5 = .ok (.aload_n 0, 1) := dk_42 (dk_at dksX4_corner_0 5 rfl rfl)
theorem dX4_corner_6 : decode cX4_corner 6 = .ok (.iload_n 1, 1) := dk_27 (dk_at dksX4_corner_0 6 rfl rfl)
theorem dX4_corner_7 : decode cX4_corner 7 = .ok (.invokevirtual 300, 3) := dk_182 1 44 (dk_at dksX4_corner_0 7 rfl rfl)
theorem dX4_corner_10 : decode cX4_corner 10 = .ok (.ifCond .ne 13, 3) := dk_154 0 13 (dk_at dksX4_corner_0 10 rfl rfl)
theorem dX4_corner_13 : decode cX4_corner 13 = .ok (.aload_n 0, 1) := dk_42 (dk_at dksX4_corner_0 13 rfl rfl)
theorem dX4_corner_14 : decode cX4_corner 14 = .ok (.iload_n 2, 1) := dk_28 (dk_at dksX4_corner_0 14 rfl rfl)
theorem dX4_corner_15 : decode cX4_corner 15 = .ok (.iload_n 3, 1) := dk_29 (dk_at dksX4_corner_0 15 rfl rfl)
theorem dX4_corner_16 : decode cX4_corner 16 = .ok (.iconst 2, 1) := dk_5 (dk_at dksX4_corner_0 16 rfl rfl)
theorem dX4_corner_17 : decode cX4_corner 17 = .ok (.invokevirtual 306, 3) := dk_182 1 50 (dk_at dksX4_corner_0 17 rfl rfl)
theorem dX4_corner_20 : decode cX4_corner 20 = .ok (.ifCond .eq 5, 3) := dk_153 0 5 (dk_at dksX4_corner_0 20 rfl rfl)
theorem dX4_corner_23 : decode cX4_corner 23 = .ok (.iconst 0, 1) := dk_3 (dk_at dksX4_corner_0 23 rfl rfl)
theorem dX4_corner_24 : decode cX4_corner 24 = .ok (.ireturn, 1) := dk_172 (dk_at dksX4_corner_1 0 rfl rfl)
theorem dX4_corner_25 : decode cX4_corner 25 = .ok (.aload_n 0, 1) := dk_42 (dk_at dksX4_corner_1 1 rfl rfl)
theorem dX4_corner_26 : decode cX4_corner 26 = .ok (.aload_n 0, 1) := dk_42 (dk_at dksX4_corner_1 2 rfl rfl)
theorem dX4_corner_27 : decode cX4_corner 27 = .ok (.getfield 17, 3) := dk_180 0 17 (dk_at dksX4_corner_1 3 rfl rfl)
theorem dX4_corner_30 : decode cX4_corner 30 = .ok (.invokevirtual 254, 3) := dk_182 0 254 (dk_at dksX4_corner_1 6 rfl rfl)
theorem dX4_corner_33 : decode cX4_corner 33 = .ok (.aload_n 0, 1) := dk_42 (dk_at dksX4_corner_1 9 rfl rfl)
theorem dX4_corner_34 : decode cX4_corner 34 = .ok (.iload_n 1, 1) := dk_27 (dk_at dksX4_corner_1 10 rfl rfl)
theorem dX4_corner_35 : decode cX4_corner 35 = .ok (.iload_n 2, 1) := dk_28 (dk_at dksX4_corner_1 11 rfl rfl)
theorem dX4_corner_36 : decode cX4_corner 36 = .ok (.iload_n 3, 1) := dk_29 (dk_at dksX4_corner_1 12 rfl rfl)
theorem dX4_corner_37 : decode cX4_corner 37 = .ok (.invokevirtual 219, 3) := dk_182 0 219 (dk_at dksX4_corner_1 13 rfl rfl)
theorem dX4_corner_40 : decode cX4_corner 40 = .ok (.istore 4, 2) := dk_54 4 (dk_at dksX4_corner_1 16 rfl rfl)
theorem dX4_corner_42 : decode cX4_corner 42 = .ok (.iload 4, 2) := dk_21 4 (dk_at dksX4_corner_1 18 rfl rfl)
theorem dX4_corner_44 : decode cX4_corner 44 = .ok (.ifCond .le 7, 3) := dk_158 0 7 (dk_at dksX4_corner_1 20 rfl rfl)
theorem dX4_corner_47 : decode cX4_corner 47 = .ok (.iload 4, 2) := dk_21 4 (dk_at dksX4_corner_2 0 rfl rfl)
theorem dX4_corner_49 : decode cX4_corner 49 = .ok (.ineg, 1) := dk_116 (dk_at dksX4_corner_2 2 rfl rfl)
theorem dX4_corner_50 : decode cX4_corner 50 = .ok (.ireturn, 1) := dk_172 (dk_at dksX4_corner_2 3 rfl rfl)
theorem dX4_corner_51 : decode cX4_corner 51 = .ok (.aload_n 0, 1) := dk_42 (dk_at dksX4_corner_2 4 rfl rfl)
theorem dX4_corner_52 : decode cX4_corner 52 = .ok (.iload_n 1, 1) := dk_27 (dk_at dksX4_corner_2 5 rfl rfl)
theorem dX4_corner_53 : decode cX4_corner 53 = .ok (.aload_n 0, 1) := dk_42 (dk_at dksX4_corner_2 6 rfl rfl)
theorem dX4_corner_54 : decode cX4_corner 54 = .ok (.iload_n 1, 1) := dk_27 (dk_at dksX4_corner_2 7 rfl rfl)
theorem dX4_corner_55 : decode cX4_corner 55 = .ok (.invokevirtual 39, 3) := dk_182 0 39 (dk_at dksX4_corner_2 8 rfl rfl)
theorem dX4_corner_58 : decode cX4_corner 58 = .ok (.iload_n 2, 1) := dk_28 (dk_at dksX4_corner_2 11 rfl rfl)
theorem dX4_corner_59 : decode cX4_corner 59 = .ok (.iload_n 3, 1) := dk_29 (dk_at dksX4_corner_2 12 rfl rfl)
theorem dX4_corner_60 : decode cX4_corner 60 = .ok (.invokevirtual 124, 3) := dk_182 0 124 (dk_at dksX4_corner_2 13 rfl rfl)
theorem dX4_corner_63 : decode cX4_corner 63 = .ok (.aload_n 0, 1) := dk_42 (dk_at dksX4_corner_2 16 rfl rfl)
theorem dX4_corner_64 : decode cX4_corner 64 = .ok (.iload_n 1, 1) := dk_27 (dk_at dksX4_corner_2 17 rfl rfl)
theorem dX4_corner_65 : decode cX4_corner 65 = .ok (.invokevirtual 39, 3) := dk_182 0 39 (dk_at dksX4_corner_2 18 rfl rfl)
theorem dX4_corner_68 : decode cX4_corner 68 = .ok (.ireturn, 1) := dk_172 (dk_at dksX4_corner_2 21 rfl rfl)
abbrev cX4_close : ByteArray := prog_10_method_85_code
def yX4_close : MethodName := ⟨RX4, "close", "(I)I"⟩
def dkwX4_close_3 : List UInt8 := [160, 0, 7, 4, 167, 0, 4, 3, 96, 62, 132, 4, 1, 167, 255, 224, 29, 172]
abbrev dktX4_close_3 : List UInt8 := dkwX4_close_3 ++ []
def dkwX4_close_2 : List UInt8 := [3, 62, 3, 54, 4, 21, 4, 42, 180, 0, 17, 5, 46, 162, 0, 27, 29, 42, 21, 4, 182, 1, 14, 27]
abbrev dktX4_close_2 : List UInt8 := dkwX4_close_2 ++ dktX4_close_3
def dkwX4_close_1 : List UInt8 := [27, 182, 0, 223, 61, 28, 158, 0, 6, 28, 116, 172, 42, 180, 0, 17, 27, 184, 0, 35, 5, 96, 4, 79]
abbrev dktX4_close_1 : List UInt8 := dkwX4_close_1 ++ dktX4_close_2
def dkwX4_close_0 : List UInt8 := [42, 3, 181, 0, 32, 42, 27, 182, 1, 44, 153, 0, 5, 3, 172, 42, 42, 180, 0, 17, 182, 0, 254, 42]
abbrev dktX4_close_0 : List UInt8 := dkwX4_close_0 ++ dktX4_close_1
theorem dksX4_close_0 : cX4_close.data.toList.drop 0 = dktX4_close_0 := by decide +kernel
theorem dksX4_close_1 : cX4_close.data.toList.drop 24 = dktX4_close_1 := dk_seg dksX4_close_0 24 rfl rfl
theorem dksX4_close_2 : cX4_close.data.toList.drop 48 = dktX4_close_2 := dk_seg dksX4_close_1 24 rfl rfl
theorem dksX4_close_3 : cX4_close.data.toList.drop 72 = dktX4_close_3 := dk_seg dksX4_close_2 24 rfl rfl
theorem dX4_close_0 : decode cX4_close 0 = .ok (.aload_n 0, 1) := dk_42 (dk_at dksX4_close_0 0 rfl rfl)
theorem dX4_close_1 : decode cX4_close 1 = .ok (.iconst 0, 1) := dk_3 (dk_at dksX4_close_0 1 rfl rfl)
theorem dX4_close_2 : decode cX4_close 2 = .ok (.putfield 32, 3) := dk_181 0 32 (dk_at dksX4_close_0 2 rfl rfl)
theorem dX4_close_5 : decode cX4_close 5 = .ok (.aload_n 0, 1) := dk_42 (dk_at dksX4_close_0 5 rfl rfl)
theorem dX4_close_6 : decode cX4_close 6 = .ok (.iload_n 1, 1) := dk_27 (dk_at dksX4_close_0 6 rfl rfl)
theorem dX4_close_7 : decode cX4_close 7 = .ok (.invokevirtual 300, 3) := dk_182 1 44 (dk_at dksX4_close_0 7 rfl rfl)
theorem dX4_close_10 : decode cX4_close 10 = .ok (.ifCond .eq 5, 3) := dk_153 0 5 (dk_at dksX4_close_0 10 rfl rfl)
theorem dX4_close_13 : decode cX4_close 13 = .ok (.iconst 0, 1) := dk_3 (dk_at dksX4_close_0 13 rfl rfl)
theorem dX4_close_14 : decode cX4_close 14 = .ok (.ireturn, 1) := dk_172 (dk_at dksX4_close_0 14 rfl rfl)
theorem dX4_close_15 : decode cX4_close 15 = .ok (.aload_n 0, 1) := dk_42 (dk_at dksX4_close_0 15 rfl rfl)
theorem dX4_close_16 : decode cX4_close 16 = .ok (.aload_n 0, 1) := dk_42 (dk_at dksX4_close_0 16 rfl rfl)
theorem dX4_close_17 : decode cX4_close 17 = .ok (.getfield 17, 3) := dk_180 0 17 (dk_at dksX4_close_0 17 rfl rfl)
theorem dX4_close_20 : decode cX4_close 20 = .ok (.invokevirtual 254, 3) := dk_182 0 254 (dk_at dksX4_close_0 20 rfl rfl)
theorem dX4_close_23 : decode cX4_close 23 = .ok (.aload_n 0, 1) := dk_42 (dk_at dksX4_close_0 23 rfl rfl)
theorem dX4_close_24 : decode cX4_close 24 = .ok (.iload_n 1, 1) := dk_27 (dk_at dksX4_close_1 0 rfl rfl)
theorem dX4_close_25 : decode cX4_close 25 = .ok (.invokevirtual 223, 3) := dk_182 0 223 (dk_at dksX4_close_1 1 rfl rfl)
theorem dX4_close_28 : decode cX4_close 28 = .ok (.istore_n 2, 1) := dk_61 (dk_at dksX4_close_1 4 rfl rfl)
theorem dX4_close_29 : decode cX4_close 29 = .ok (.iload_n 2, 1) := dk_28 (dk_at dksX4_close_1 5 rfl rfl)
theorem dX4_close_30 : decode cX4_close 30 = .ok (.ifCond .le 6, 3) := dk_158 0 6 (dk_at dksX4_close_1 6 rfl rfl)
theorem dX4_close_33 : decode cX4_close 33 = .ok (.iload_n 2, 1) := dk_28 (dk_at dksX4_close_1 9 rfl rfl)
theorem dX4_close_34 : decode cX4_close 34 = .ok (.ineg, 1) := dk_116 (dk_at dksX4_close_1 10 rfl rfl)
theorem dX4_close_35 : decode cX4_close 35 = .ok (.ireturn, 1) := dk_172 (dk_at dksX4_close_1 11 rfl rfl)
theorem dX4_close_36 : decode cX4_close 36 = .ok (.aload_n 0, 1) := dk_42 (dk_at dksX4_close_1 12 rfl rfl)
theorem dX4_close_37 : decode cX4_close 37 = .ok (.getfield 17, 3) := dk_180 0 17 (dk_at dksX4_close_1 13 rfl rfl)
theorem dX4_close_40 : decode cX4_close 40 = .ok (.iload_n 1, 1) := dk_27 (dk_at dksX4_close_1 16 rfl rfl)
theorem dX4_close_41 : decode cX4_close 41 = .ok (.invokestatic 35, 3) := dk_184 0 35 (dk_at dksX4_close_1 17 rfl rfl)
theorem dX4_close_44 : decode cX4_close 44 = .ok (.iconst 2, 1) := dk_5 (dk_at dksX4_close_1 20 rfl rfl)
theorem dX4_close_45 : decode cX4_close 45 = .ok (.iadd, 1) := dk_96 (dk_at dksX4_close_1 21 rfl rfl)
theorem dX4_close_46 : decode cX4_close 46 = .ok (.iconst 1, 1) := dk_4 (dk_at dksX4_close_1 22 rfl rfl)
theorem dX4_close_47 : decode cX4_close 47 = .ok (.iastore, 1) := dk_79 (dk_at dksX4_close_1 23 rfl rfl)
theorem dX4_close_48 : decode cX4_close 48 = .ok (.iconst 0, 1) := dk_3 (dk_at dksX4_close_2 0 rfl rfl)
theorem dX4_close_49 : decode cX4_close 49 = .ok (.istore_n 3, 1) := dk_62 (dk_at dksX4_close_2 1 rfl rfl)
theorem dX4_close_50 : decode cX4_close 50 = .ok (.iconst 0, 1) := dk_3 (dk_at dksX4_close_2 2 rfl rfl)
theorem dX4_close_51 : decode cX4_close 51 = .ok (.istore 4, 2) := dk_54 4 (dk_at dksX4_close_2 3 rfl rfl)
theorem dX4_close_53 : decode cX4_close 53 = .ok (.iload 4, 2) := dk_21 4 (dk_at dksX4_close_2 5 rfl rfl)
theorem dX4_close_55 : decode cX4_close 55 = .ok (.aload_n 0, 1) := dk_42 (dk_at dksX4_close_2 7 rfl rfl)
theorem dX4_close_56 : decode cX4_close 56 = .ok (.getfield 17, 3) := dk_180 0 17 (dk_at dksX4_close_2 8 rfl rfl)
theorem dX4_close_59 : decode cX4_close 59 = .ok (.iconst 2, 1) := dk_5 (dk_at dksX4_close_2 11 rfl rfl)
theorem dX4_close_60 : decode cX4_close 60 = .ok (.iaload, 1) := dk_46 (dk_at dksX4_close_2 12 rfl rfl)
theorem dX4_close_61 : decode cX4_close 61 = .ok (.if_icmp .ge 27, 3) := dk_162 0 27 (dk_at dksX4_close_2 13 rfl rfl)
theorem dX4_close_64 : decode cX4_close 64 = .ok (.iload_n 3, 1) := dk_29 (dk_at dksX4_close_2 16 rfl rfl)
theorem dX4_close_65 : decode cX4_close 65 = .ok (.aload_n 0, 1) := dk_42 (dk_at dksX4_close_2 17 rfl rfl)
theorem dX4_close_66 : decode cX4_close 66 = .ok (.iload 4, 2) := dk_21 4 (dk_at dksX4_close_2 18 rfl rfl)
theorem dX4_close_68 : decode cX4_close 68 = .ok (.invokevirtual 270, 3) := dk_182 1 14 (dk_at dksX4_close_2 20 rfl rfl)
theorem dX4_close_71 : decode cX4_close 71 = .ok (.iload_n 1, 1) := dk_27 (dk_at dksX4_close_2 23 rfl rfl)
theorem dX4_close_72 : decode cX4_close 72 = .ok (.if_icmp .ne 7, 3) := dk_160 0 7 (dk_at dksX4_close_3 0 rfl rfl)
theorem dX4_close_75 : decode cX4_close 75 = .ok (.iconst 1, 1) := dk_4 (dk_at dksX4_close_3 3 rfl rfl)
theorem dX4_close_76 : decode cX4_close 76 = .ok (.goto 4, 3) := dk_167 0 4 (dk_at dksX4_close_3 4 rfl rfl)
theorem dX4_close_79 : decode cX4_close 79 = .ok (.iconst 0, 1) := dk_3 (dk_at dksX4_close_3 7 rfl rfl)
theorem dX4_close_80 : decode cX4_close 80 = .ok (.iadd, 1) := dk_96 (dk_at dksX4_close_3 8 rfl rfl)
theorem dX4_close_81 : decode cX4_close 81 = .ok (.istore_n 3, 1) := dk_62 (dk_at dksX4_close_3 9 rfl rfl)
theorem dX4_close_82 : decode cX4_close 82 = .ok (.iinc 4 1, 3) := dk_132 4 1 (dk_at dksX4_close_3 10 rfl rfl)
theorem dX4_close_85 : decode cX4_close 85 = .ok (.goto (-32), 3) := dk_167 255 224 (dk_at dksX4_close_3 13 rfl rfl)
theorem dX4_close_88 : decode cX4_close 88 = .ok (.iload_n 3, 1) := dk_29 (dk_at dksX4_close_3 16 rfl rfl)
theorem dX4_close_89 : decode cX4_close 89 = .ok (.ireturn, 1) := dk_172 (dk_at dksX4_close_3 17 rfl rfl)
abbrev cX4_bend : ByteArray := prog_10_method_86_code
def yX4_bend : MethodName := ⟨RX4, "bend", "(IIII)I"⟩
def dkwX4_bend_4 : List UInt8 := [182, 0, 124, 42, 27, 182, 1, 8, 172]
abbrev dktX4_bend_4 : List UInt8 := dkwX4_bend_4 ++ []
def dkwX4_bend_3 : List UInt8 := [182, 1, 62, 54, 5, 21, 5, 158, 0, 7, 21, 5, 116, 172, 42, 27, 28, 4, 96, 29, 21, 4]
abbrev dktX4_bend_3 : List UInt8 := dkwX4_bend_3 ++ dktX4_bend_4
def dkwX4_bend_2 : List UInt8 := [182, 1, 50, 153, 0, 5, 3, 172, 42, 42, 180, 0, 17, 182, 0, 254, 42, 27, 28, 29, 21, 4]
abbrev dktX4_bend_2 : List UInt8 := dkwX4_bend_2 ++ dktX4_bend_3
def dkwX4_bend_1 : List UInt8 := [184, 0, 57, 154, 0, 7, 4, 167, 0, 4, 3, 5, 182, 0, 241, 154, 0, 14, 42, 29, 21, 4, 6]
abbrev dktX4_bend_1 : List UInt8 := dkwX4_bend_1 ++ dktX4_bend_2
def dkwX4_bend_0 : List UInt8 := [42, 3, 181, 0, 32, 42, 27, 182, 1, 44, 154, 0, 42, 42, 28, 3, 42, 27, 182, 0, 39, 4, 100]
abbrev dktX4_bend_0 : List UInt8 := dkwX4_bend_0 ++ dktX4_bend_1
theorem dksX4_bend_0 : cX4_bend.data.toList.drop 0 = dktX4_bend_0 := by decide +kernel
theorem dksX4_bend_1 : cX4_bend.data.toList.drop 23 = dktX4_bend_1 := dk_seg dksX4_bend_0 23 rfl rfl
theorem dksX4_bend_2 : cX4_bend.data.toList.drop 46 = dktX4_bend_2 := dk_seg dksX4_bend_1 23 rfl rfl
theorem dksX4_bend_3 : cX4_bend.data.toList.drop 68 = dktX4_bend_3 := dk_seg dksX4_bend_2 22 rfl rfl
theorem dksX4_bend_4 : cX4_bend.data.toList.drop 90 = dktX4_bend_4 := dk_seg dksX4_bend_3 22 rfl rfl
theorem dX4_bend_0 : decode cX4_bend 0 = .ok (.aload_n 0, 1) := dk_42 (dk_at dksX4_bend_0 0 rfl rfl)
theorem dX4_bend_1 : decode cX4_bend 1 = .ok (.iconst 0, 1) := dk_3 (dk_at dksX4_bend_0 1 rfl rfl)
theorem dX4_bend_2 : decode cX4_bend 2 = .ok (.putfield 32, 3) := dk_181 0 32 (dk_at dksX4_bend_0 2 rfl rfl)
theorem dX4_bend_5 : decode cX4_bend 5 = .ok (.aload_n 0, 1) := dk_42 (dk_at dksX4_bend_0 5 rfl rfl)
theorem dX4_bend_6 : decode cX4_bend 6 = .ok (.iload_n 1, 1) := dk_27 (dk_at dksX4_bend_0 6 rfl rfl)
theorem dX4_bend_7 : decode cX4_bend 7 = .ok (.invokevirtual 300, 3) := dk_182 1 44 (dk_at dksX4_bend_0 7 rfl rfl)
theorem dX4_bend_10 : decode cX4_bend 10 = .ok (.ifCond .ne 42, 3) := dk_154 0 42 (dk_at dksX4_bend_0 10 rfl rfl)
theorem dX4_bend_13 : decode cX4_bend 13 = .ok (.aload_n 0, 1) := dk_42 (dk_at dksX4_bend_0 13 rfl rfl)
theorem dX4_bend_14 : decode cX4_bend 14 = .ok (.iload_n 2, 1) := dk_28 (dk_at dksX4_bend_0 14 rfl rfl)
theorem dX4_bend_15 : decode cX4_bend 15 = .ok (.iconst 0, 1) := dk_3 (dk_at dksX4_bend_0 15 rfl rfl)
theorem dX4_bend_16 : decode cX4_bend 16 = .ok (.aload_n 0, 1) := dk_42 (dk_at dksX4_bend_0 16 rfl rfl)
theorem dX4_bend_17 : decode cX4_bend 17 = .ok (.iload_n 1, 1) := dk_27 (dk_at dksX4_bend_0 17 rfl rfl)
theorem dX4_bend_18 : decode cX4_bend 18 = .ok (.invokevirtual 39, 3) := dk_182 0 39 (dk_at dksX4_bend_0 18 rfl rfl)
theorem dX4_bend_21 : decode cX4_bend 21 = .ok (.iconst 1, 1) := dk_4 (dk_at dksX4_bend_0 21 rfl rfl)
theorem dX4_bend_22 : decode cX4_bend 22 = .ok (.isub, 1) := dk_100 (dk_at dksX4_bend_0 22 rfl rfl)
theorem dX4_bend_23 : decode cX4_bend 23 = .ok (.invokestatic 57, 3) := dk_184 0 57 (dk_at dksX4_bend_1 0 rfl rfl)
theorem dX4_bend_26 : decode cX4_bend 26 = .ok (.ifCond .ne 7, 3) := dk_154 0 7 (dk_at dksX4_bend_1 3 rfl rfl)
theorem dX4_bend_29 : decode cX4_bend 29 = .ok (.iconst 1, 1) := dk_4 (dk_at dksX4_bend_1 6 rfl rfl)
theorem dX4_bend_30 : decode cX4_bend 30 = .ok (.goto 4, 3) := dk_167 0 4 (dk_at dksX4_bend_1 7 rfl rfl)
theorem dX4_bend_33 : decode cX4_bend 33 = .ok (.iconst 0, 1) := dk_3 (dk_at dksX4_bend_1 10 rfl rfl)
theorem dX4_bend_34 : decode cX4_bend 34 = .ok (.iconst 2, 1) := dk_5 (dk_at dksX4_bend_1 11 rfl rfl)
theorem dX4_bend_35 : decode cX4_bend 35 = .ok (.invokevirtual 241, 3) := dk_182 0 241 (dk_at dksX4_bend_1 12 rfl rfl)
theorem dX4_bend_38 : decode cX4_bend 38 = .ok (.ifCond .ne 14, 3) := dk_154 0 14 (dk_at dksX4_bend_1 15 rfl rfl)
theorem dX4_bend_41 : decode cX4_bend 41 = .ok (.aload_n 0, 1) := dk_42 (dk_at dksX4_bend_1 18 rfl rfl)
theorem dX4_bend_42 : decode cX4_bend 42 = .ok (.iload_n 3, 1) := dk_29 (dk_at dksX4_bend_1 19 rfl rfl)
theorem dX4_bend_43 : decode cX4_bend 43 = .ok (.iload 4, 2) := dk_21 4 (dk_at dksX4_bend_1 20 rfl rfl)
theorem dX4_bend_45 : decode cX4_bend 45 = .ok (.iconst 3, 1) := dk_6 (dk_at dksX4_bend_1 22 rfl rfl)
theorem dX4_bend_46 : decode cX4_bend 46 = .ok (.invokevirtual 306, 3) := dk_182 1 50 (dk_at dksX4_bend_2 0 rfl rfl)
theorem dX4_bend_49 : decode cX4_bend 49 = .ok (.ifCond .eq 5, 3) := dk_153 0 5 (dk_at dksX4_bend_2 3 rfl rfl)
theorem dX4_bend_52 : decode cX4_bend 52 = .ok (.iconst 0, 1) := dk_3 (dk_at dksX4_bend_2 6 rfl rfl)
theorem dX4_bend_53 : decode cX4_bend 53 = .ok (.ireturn, 1) := dk_172 (dk_at dksX4_bend_2 7 rfl rfl)
theorem dX4_bend_54 : decode cX4_bend 54 = .ok (.aload_n 0, 1) := dk_42 (dk_at dksX4_bend_2 8 rfl rfl)
theorem dX4_bend_55 : decode cX4_bend 55 = .ok (.aload_n 0, 1) := dk_42 (dk_at dksX4_bend_2 9 rfl rfl)
theorem dX4_bend_56 : decode cX4_bend 56 = .ok (.getfield 17, 3) := dk_180 0 17 (dk_at dksX4_bend_2 10 rfl rfl)
theorem dX4_bend_59 : decode cX4_bend 59 = .ok (.invokevirtual 254, 3) := dk_182 0 254 (dk_at dksX4_bend_2 13 rfl rfl)
theorem dX4_bend_62 : decode cX4_bend 62 = .ok (.aload_n 0, 1) := dk_42 (dk_at dksX4_bend_2 16 rfl rfl)
theorem dX4_bend_63 : decode cX4_bend 63 = .ok (.iload_n 1, 1) := dk_27 (dk_at dksX4_bend_2 17 rfl rfl)
theorem dX4_bend_64 : decode cX4_bend 64 = .ok (.iload_n 2, 1) := dk_28 (dk_at dksX4_bend_2 18 rfl rfl)
theorem dX4_bend_65 : decode cX4_bend 65 = .ok (.iload_n 3, 1) := dk_29 (dk_at dksX4_bend_2 19 rfl rfl)
theorem dX4_bend_66 : decode cX4_bend 66 = .ok (.iload 4, 2) := dk_21 4 (dk_at dksX4_bend_2 20 rfl rfl)
theorem dX4_bend_68 : decode cX4_bend 68 = .ok (.invokevirtual 318, 3) := dk_182 1 62 (dk_at dksX4_bend_3 0 rfl rfl)
theorem dX4_bend_71 : decode cX4_bend 71 = .ok (.istore 5, 2) := dk_54 5 (dk_at dksX4_bend_3 3 rfl rfl)
theorem dX4_bend_73 : decode cX4_bend 73 = .ok (.iload 5, 2) := dk_21 5 (dk_at dksX4_bend_3 5 rfl rfl)
theorem dX4_bend_75 : decode cX4_bend 75 = .ok (.ifCond .le 7, 3) := dk_158 0 7 (dk_at dksX4_bend_3 7 rfl rfl)
theorem dX4_bend_78 : decode cX4_bend 78 = .ok (.iload 5, 2) := dk_21 5 (dk_at dksX4_bend_3 10 rfl rfl)
theorem dX4_bend_80 : decode cX4_bend 80 = .ok (.ineg, 1) := dk_116 (dk_at dksX4_bend_3 12 rfl rfl)
theorem dX4_bend_81 : decode cX4_bend 81 = .ok (.ireturn, 1) := dk_172 (dk_at dksX4_bend_3 13 rfl rfl)
theorem dX4_bend_82 : decode cX4_bend 82 = .ok (.aload_n 0, 1) := dk_42 (dk_at dksX4_bend_3 14 rfl rfl)
theorem dX4_bend_83 : decode cX4_bend 83 = .ok (.iload_n 1, 1) := dk_27 (dk_at dksX4_bend_3 15 rfl rfl)
theorem dX4_bend_84 : decode cX4_bend 84 = .ok (.iload_n 2, 1) := dk_28 (dk_at dksX4_bend_3 16 rfl rfl)
theorem dX4_bend_85 : decode cX4_bend 85 = .ok (.iconst 1, 1) := dk_4 (dk_at dksX4_bend_3 17 rfl rfl)
theorem dX4_bend_86 : decode cX4_bend 86 = .ok (.iadd, 1) := dk_96 (dk_at dksX4_bend_3 18 rfl rfl)
theorem dX4_bend_87 : decode cX4_bend 87 = .ok (.iload_n 3, 1) := dk_29 (dk_at dksX4_bend_3 19 rfl rfl)
theorem dX4_bend_88 : decode cX4_bend 88 = .ok (.iload 4, 2) := dk_21 4 (dk_at dksX4_bend_3 20 rfl rfl)
theorem dX4_bend_90 : decode cX4_bend 90 = .ok (.invokevirtual 124, 3) := dk_182 0 124 (dk_at dksX4_bend_4 0 rfl rfl)
theorem dX4_bend_93 : decode cX4_bend 93 = .ok (.aload_n 0, 1) := dk_42 (dk_at dksX4_bend_4 3 rfl rfl)
theorem dX4_bend_94 : decode cX4_bend 94 = .ok (.iload_n 1, 1) := dk_27 (dk_at dksX4_bend_4 4 rfl rfl)
theorem dX4_bend_95 : decode cX4_bend 95 = .ok (.invokevirtual 264, 3) := dk_182 1 8 (dk_at dksX4_bend_4 5 rfl rfl)
theorem dX4_bend_98 : decode cX4_bend 98 = .ok (.ireturn, 1) := dk_172 (dk_at dksX4_bend_4 8 rfl rfl)
abbrev cX4_bendReason : ByteArray := prog_10_method_30_code
def yX4_bendReason : MethodName := ⟨RX4, "bendReason", "(IIII)I"⟩
def dkwX4_bendReason_4 : List UInt8 := [182, 0, 75, 29, 21, 4, 182, 0, 117, 172]
abbrev dktX4_bendReason_4 : List UInt8 := dkwX4_bendReason_4 ++ []
def dkwX4_bendReason_3 : List UInt8 := [21, 6, 158, 0, 8, 21, 6, 167, 0, 24, 42, 42, 27, 21, 5, 182, 0, 72, 42, 27, 21, 5]
abbrev dktX4_bendReason_3 : List UInt8 := dkwX4_bendReason_3 ++ dktX4_bendReason_4
def dkwX4_bendReason_2 : List UInt8 := [54, 5, 42, 42, 27, 28, 182, 0, 72, 42, 27, 28, 182, 0, 75, 29, 21, 4, 182, 0, 117, 54, 6]
abbrev dktX4_bendReason_2 : List UInt8 := dkwX4_bendReason_2 ++ dktX4_bendReason_3
def dkwX4_bendReason_1 : List UInt8 := [21, 4, 182, 0, 110, 153, 0, 5, 6, 172, 42, 27, 28, 2, 2, 182, 0, 113, 42, 27, 28, 182, 0, 84]
abbrev dktX4_bendReason_1 : List UInt8 := dkwX4_bendReason_1 ++ dktX4_bendReason_2
def dkwX4_bendReason_0 : List UInt8 := [42, 27, 182, 0, 42, 154, 0, 5, 4, 172, 42, 27, 182, 0, 39, 16, 12, 160, 0, 5, 5, 172, 42, 29]
abbrev dktX4_bendReason_0 : List UInt8 := dkwX4_bendReason_0 ++ dktX4_bendReason_1
theorem dksX4_bendReason_0 : cX4_bendReason.data.toList.drop 0 = dktX4_bendReason_0 := by decide +kernel
theorem dksX4_bendReason_1 : cX4_bendReason.data.toList.drop 24 = dktX4_bendReason_1 := dk_seg dksX4_bendReason_0 24 rfl rfl
theorem dksX4_bendReason_2 : cX4_bendReason.data.toList.drop 48 = dktX4_bendReason_2 := dk_seg dksX4_bendReason_1 24 rfl rfl
theorem dksX4_bendReason_3 : cX4_bendReason.data.toList.drop 71 = dktX4_bendReason_3 := dk_seg dksX4_bendReason_2 23 rfl rfl
theorem dksX4_bendReason_4 : cX4_bendReason.data.toList.drop 93 = dktX4_bendReason_4 := dk_seg dksX4_bendReason_3 22 rfl rfl
theorem dX4_bendReason_0 : decode cX4_bendReason 0 = .ok (.aload_n 0, 1) := dk_42 (dk_at dksX4_bendReason_0 0 rfl rfl)
theorem dX4_bendReason_1 : decode cX4_bendReason 1 = .ok (.iload_n 1, 1) := dk_27 (dk_at dksX4_bendReason_0 1 rfl rfl)
theorem dX4_bendReason_2 : decode cX4_bendReason 2 = .ok (.invokevirtual 42, 3) := dk_182 0 42 (dk_at dksX4_bendReason_0 2 rfl rfl)
theorem dX4_bendReason_5 : decode cX4_bendReason 5 = .ok (.ifCond .ne 5, 3) := dk_154 0 5 (dk_at dksX4_bendReason_0 5 rfl rfl)
theorem dX4_bendReason_8 : decode cX4_bendReason 8 = .ok (.iconst 1, 1) := dk_4 (dk_at dksX4_bendReason_0 8 rfl rfl)
theorem dX4_bendReason_9 : decode cX4_bendReason 9 = .ok (.ireturn, 1) := dk_172 (dk_at dksX4_bendReason_0 9 rfl rfl)
theorem dX4_bendReason_10 : decode cX4_bendReason 10 = .ok (.aload_n 0, 1) := dk_42 (dk_at dksX4_bendReason_0 10 rfl rfl)
theorem dX4_bendReason_11 : decode cX4_bendReason 11 = .ok (.iload_n 1, 1) := dk_27 (dk_at dksX4_bendReason_0 11 rfl rfl)
theorem dX4_bendReason_12 : decode cX4_bendReason 12 = .ok (.invokevirtual 39, 3) := dk_182 0 39 (dk_at dksX4_bendReason_0 12 rfl rfl)
theorem dX4_bendReason_15 : decode cX4_bendReason 15 = .ok (.bipush 12, 2) := dk_16 12 (dk_at dksX4_bendReason_0 15 rfl rfl)
theorem dX4_bendReason_17 : decode cX4_bendReason 17 = .ok (.if_icmp .ne 5, 3) := dk_160 0 5 (dk_at dksX4_bendReason_0 17 rfl rfl)
theorem dX4_bendReason_20 : decode cX4_bendReason 20 = .ok (.iconst 2, 1) := dk_5 (dk_at dksX4_bendReason_0 20 rfl rfl)
theorem dX4_bendReason_21 : decode cX4_bendReason 21 = .ok (.ireturn, 1) := dk_172 (dk_at dksX4_bendReason_0 21 rfl rfl)
theorem dX4_bendReason_22 : decode cX4_bendReason 22 = .ok (.aload_n 0, 1) := dk_42 (dk_at dksX4_bendReason_0 22 rfl rfl)
theorem dX4_bendReason_23 : decode cX4_bendReason 23 = .ok (.iload_n 3, 1) := dk_29 (dk_at dksX4_bendReason_0 23 rfl rfl)
theorem dX4_bendReason_24 : decode cX4_bendReason 24 = .ok (.iload 4, 2) := dk_21 4 (dk_at dksX4_bendReason_1 0 rfl rfl)
theorem dX4_bendReason_26 : decode cX4_bendReason 26 = .ok (.invokevirtual 110, 3) := dk_182 0 110 (dk_at dksX4_bendReason_1 2 rfl rfl)
theorem dX4_bendReason_29 : decode cX4_bendReason 29 = .ok (.ifCond .eq 5, 3) := dk_153 0 5 (dk_at dksX4_bendReason_1 5 rfl rfl)
theorem dX4_bendReason_32 : decode cX4_bendReason 32 = .ok (.iconst 3, 1) := dk_6 (dk_at dksX4_bendReason_1 8 rfl rfl)
theorem dX4_bendReason_33 : decode cX4_bendReason 33 = .ok (.ireturn, 1) := dk_172 (dk_at dksX4_bendReason_1 9 rfl rfl)
theorem dX4_bendReason_34 : decode cX4_bendReason 34 = .ok (.aload_n 0, 1) := dk_42 (dk_at dksX4_bendReason_1 10 rfl rfl)
theorem dX4_bendReason_35 : decode cX4_bendReason 35 = .ok (.iload_n 1, 1) := dk_27 (dk_at dksX4_bendReason_1 11 rfl rfl)
theorem dX4_bendReason_36 : decode cX4_bendReason 36 = .ok (.iload_n 2, 1) := dk_28 (dk_at dksX4_bendReason_1 12 rfl rfl)
theorem dX4_bendReason_37 : decode cX4_bendReason 37 = .ok (.iconst (-1), 1) := dk_2 (dk_at dksX4_bendReason_1 13 rfl rfl)
theorem dX4_bendReason_38 : decode cX4_bendReason 38 = .ok (.iconst (-1), 1) := dk_2 (dk_at dksX4_bendReason_1 14 rfl rfl)
theorem dX4_bendReason_39 : decode cX4_bendReason 39 = .ok (.invokevirtual 113, 3) := dk_182 0 113 (dk_at dksX4_bendReason_1 15 rfl rfl)
theorem dX4_bendReason_42 : decode cX4_bendReason 42 = .ok (.aload_n 0, 1) := dk_42 (dk_at dksX4_bendReason_1 18 rfl rfl)
theorem dX4_bendReason_43 : decode cX4_bendReason 43 = .ok (.iload_n 1, 1) := dk_27 (dk_at dksX4_bendReason_1 19 rfl rfl)
theorem dX4_bendReason_44 : decode cX4_bendReason 44 = .ok (.iload_n 2, 1) := dk_28 (dk_at dksX4_bendReason_1 20 rfl rfl)
theorem dX4_bendReason_45 : decode cX4_bendReason 45 = .ok (.invokevirtual 84, 3) := dk_182 0 84 (dk_at dksX4_bendReason_1 21 rfl rfl)
theorem dX4_bendReason_48 : decode cX4_bendReason 48 = .ok (.istore 5, 2) := dk_54 5 (dk_at dksX4_bendReason_2 0 rfl rfl)
theorem dX4_bendReason_50 : decode cX4_bendReason 50 = .ok (.aload_n 0, 1) := dk_42 (dk_at dksX4_bendReason_2 2 rfl rfl)
theorem dX4_bendReason_51 : decode cX4_bendReason 51 = .ok (.aload_n 0, 1) := dk_42 (dk_at dksX4_bendReason_2 3 rfl rfl)
theorem dX4_bendReason_52 : decode cX4_bendReason 52 = .ok (.iload_n 1, 1) := dk_27 (dk_at dksX4_bendReason_2 4 rfl rfl)
theorem dX4_bendReason_53 : decode cX4_bendReason 53 = .ok (.iload_n 2, 1) := dk_28 (dk_at dksX4_bendReason_2 5 rfl rfl)
theorem dX4_bendReason_54 : decode cX4_bendReason 54 = .ok (.invokevirtual 72, 3) := dk_182 0 72 (dk_at dksX4_bendReason_2 6 rfl rfl)
theorem dX4_bendReason_57 : decode cX4_bendReason 57 = .ok (.aload_n 0, 1) := dk_42 (dk_at dksX4_bendReason_2 9 rfl rfl)
theorem dX4_bendReason_58 : decode cX4_bendReason 58 = .ok (.iload_n 1, 1) := dk_27 (dk_at dksX4_bendReason_2 10 rfl rfl)
theorem dX4_bendReason_59 : decode cX4_bendReason 59 = .ok (.iload_n 2, 1) := dk_28 (dk_at dksX4_bendReason_2 11 rfl rfl)
theorem dX4_bendReason_60 : decode cX4_bendReason 60 = .ok (.invokevirtual 75, 3) := dk_182 0 75 (dk_at dksX4_bendReason_2 12 rfl rfl)
theorem dX4_bendReason_63 : decode cX4_bendReason 63 = .ok (.iload_n 3, 1) := dk_29 (dk_at dksX4_bendReason_2 15 rfl rfl)
theorem dX4_bendReason_64 : decode cX4_bendReason 64 = .ok (.iload 4, 2) := dk_21 4 (dk_at dksX4_bendReason_2 16 rfl rfl)
theorem dX4_bendReason_66 : decode cX4_bendReason 66 = .ok (.invokevirtual 117, 3) := dk_182 0 117 (dk_at dksX4_bendReason_2 18 rfl rfl)
theorem dX4_bendReason_69 : decode cX4_bendReason 69 = .ok (.istore 6, 2) := dk_54 6 (dk_at dksX4_bendReason_2 21 rfl rfl)
theorem dX4_bendReason_71 : decode cX4_bendReason 71 = .ok (.iload 6, 2) := dk_21 6 (dk_at dksX4_bendReason_3 0 rfl rfl)
theorem dX4_bendReason_73 : decode cX4_bendReason 73 = .ok (.ifCond .le 8, 3) := dk_158 0 8 (dk_at dksX4_bendReason_3 2 rfl rfl)
theorem dX4_bendReason_76 : decode cX4_bendReason 76 = .ok (.iload 6, 2) := dk_21 6 (dk_at dksX4_bendReason_3 5 rfl rfl)
theorem dX4_bendReason_78 : decode cX4_bendReason 78 = .ok (.goto 24, 3) := dk_167 0 24 (dk_at dksX4_bendReason_3 7 rfl rfl)
theorem dX4_bendReason_81 : decode cX4_bendReason 81 = .ok (.aload_n 0, 1) := dk_42 (dk_at dksX4_bendReason_3 10 rfl rfl)
theorem dX4_bendReason_82 : decode cX4_bendReason 82 = .ok (.aload_n 0, 1) := dk_42 (dk_at dksX4_bendReason_3 11 rfl rfl)
theorem dX4_bendReason_83 : decode cX4_bendReason 83 = .ok (.iload_n 1, 1) := dk_27 (dk_at dksX4_bendReason_3 12 rfl rfl)
theorem dX4_bendReason_84 : decode cX4_bendReason 84 = .ok (.iload 5, 2) := dk_21 5 (dk_at dksX4_bendReason_3 13 rfl rfl)
theorem dX4_bendReason_86 : decode cX4_bendReason 86 = .ok (.invokevirtual 72, 3) := dk_182 0 72 (dk_at dksX4_bendReason_3 15 rfl rfl)
theorem dX4_bendReason_89 : decode cX4_bendReason 89 = .ok (.aload_n 0, 1) := dk_42 (dk_at dksX4_bendReason_3 18 rfl rfl)
theorem dX4_bendReason_90 : decode cX4_bendReason 90 = .ok (.iload_n 1, 1) := dk_27 (dk_at dksX4_bendReason_3 19 rfl rfl)
theorem dX4_bendReason_91 : decode cX4_bendReason 91 = .ok (.iload 5, 2) := dk_21 5 (dk_at dksX4_bendReason_3 20 rfl rfl)
theorem dX4_bendReason_93 : decode cX4_bendReason 93 = .ok (.invokevirtual 75, 3) := dk_182 0 75 (dk_at dksX4_bendReason_4 0 rfl rfl)
theorem dX4_bendReason_96 : decode cX4_bendReason 96 = .ok (.iload_n 3, 1) := dk_29 (dk_at dksX4_bendReason_4 3 rfl rfl)
theorem dX4_bendReason_97 : decode cX4_bendReason 97 = .ok (.iload 4, 2) := dk_21 4 (dk_at dksX4_bendReason_4 4 rfl rfl)
theorem dX4_bendReason_99 : decode cX4_bendReason 99 = .ok (.invokevirtual 117, 3) := dk_182 0 117 (dk_at dksX4_bendReason_4 6 rfl rfl)
theorem dX4_bendReason_102 : decode cX4_bendReason 102 = .ok (.ireturn, 1) := dk_172 (dk_at dksX4_bendReason_4 9 rfl rfl)
abbrev cX4_takeOut : ByteArray := prog_10_method_87_code
def yX4_takeOut : MethodName := ⟨RX4, "takeOut", "(II)I"⟩
def dkwX4_takeOut_5 : List UInt8 := [21, 4, 6, 96, 21, 5, 96, 5, 96, 46, 79, 132, 5, 1, 167, 255, 215, 42, 27, 182, 1, 8, 172]
abbrev dktX4_takeOut_5 : List UInt8 := dkwX4_takeOut_5 ++ []
def dkwX4_takeOut_4 : List UInt8 := [27, 182, 0, 39, 104, 162, 0, 35, 42, 180, 0, 17, 21, 4, 6, 96, 21, 5, 96, 42, 180, 0, 17]
abbrev dktX4_takeOut_4 : List UInt8 := dkwX4_takeOut_4 ++ dktX4_takeOut_5
def dkwX4_takeOut_3 : List UInt8 := [54, 4, 42, 180, 0, 17, 21, 4, 4, 96, 92, 46, 4, 100, 79, 5, 28, 104, 54, 5, 21, 5, 5, 42]
abbrev dktX4_takeOut_3 : List UInt8 := dkwX4_takeOut_3 ++ dktX4_takeOut_4
def dkwX4_takeOut_2 : List UInt8 := [180, 0, 17, 182, 0, 254, 42, 27, 28, 182, 1, 65, 62, 29, 158, 0, 6, 29, 116, 172, 27, 184, 0, 35]
abbrev dktX4_takeOut_2 : List UInt8 := dkwX4_takeOut_2 ++ dktX4_takeOut_3
def dkwX4_takeOut_1 : List UInt8 := [184, 0, 57, 154, 0, 7, 4, 167, 0, 4, 3, 5, 182, 0, 241, 153, 0, 5, 3, 172, 42, 42]
abbrev dktX4_takeOut_1 : List UInt8 := dkwX4_takeOut_1 ++ dktX4_takeOut_2
def dkwX4_takeOut_0 : List UInt8 := [42, 3, 181, 0, 32, 42, 27, 182, 1, 44, 154, 0, 31, 42, 28, 3, 42, 27, 182, 0, 39, 4, 100]
abbrev dktX4_takeOut_0 : List UInt8 := dkwX4_takeOut_0 ++ dktX4_takeOut_1
theorem dksX4_takeOut_0 : cX4_takeOut.data.toList.drop 0 = dktX4_takeOut_0 := by decide +kernel
theorem dksX4_takeOut_1 : cX4_takeOut.data.toList.drop 23 = dktX4_takeOut_1 := dk_seg dksX4_takeOut_0 23 rfl rfl
theorem dksX4_takeOut_2 : cX4_takeOut.data.toList.drop 45 = dktX4_takeOut_2 := dk_seg dksX4_takeOut_1 22 rfl rfl
theorem dksX4_takeOut_3 : cX4_takeOut.data.toList.drop 69 = dktX4_takeOut_3 := dk_seg dksX4_takeOut_2 24 rfl rfl
theorem dksX4_takeOut_4 : cX4_takeOut.data.toList.drop 93 = dktX4_takeOut_4 := dk_seg dksX4_takeOut_3 24 rfl rfl
theorem dksX4_takeOut_5 : cX4_takeOut.data.toList.drop 116 = dktX4_takeOut_5 := dk_seg dksX4_takeOut_4 23 rfl rfl
theorem dX4_takeOut_0 : decode cX4_takeOut 0 = .ok (.aload_n 0, 1) := dk_42 (dk_at dksX4_takeOut_0 0 rfl rfl)
theorem dX4_takeOut_1 : decode cX4_takeOut 1 = .ok (.iconst 0, 1) := dk_3 (dk_at dksX4_takeOut_0 1 rfl rfl)
theorem dX4_takeOut_2 : decode cX4_takeOut 2 = .ok (.putfield 32, 3) := dk_181 0 32 (dk_at dksX4_takeOut_0 2 rfl rfl)
theorem dX4_takeOut_5 : decode cX4_takeOut 5 = .ok (.aload_n 0, 1) := dk_42 (dk_at dksX4_takeOut_0 5 rfl rfl)
theorem dX4_takeOut_6 : decode cX4_takeOut 6 = .ok (.iload_n 1, 1) := dk_27 (dk_at dksX4_takeOut_0 6 rfl rfl)
theorem dX4_takeOut_7 : decode cX4_takeOut 7 = .ok (.invokevirtual 300, 3) := dk_182 1 44 (dk_at dksX4_takeOut_0 7 rfl rfl)
theorem dX4_takeOut_10 : decode cX4_takeOut 10 = .ok (.ifCond .ne 31, 3) := dk_154 0 31 (dk_at dksX4_takeOut_0 10 rfl rfl)
theorem dX4_takeOut_13 : decode cX4_takeOut 13 = .ok (.aload_n 0, 1) := dk_42 (dk_at dksX4_takeOut_0 13 rfl rfl)
theorem dX4_takeOut_14 : decode cX4_takeOut 14 = .ok (.iload_n 2, 1) := dk_28 (dk_at dksX4_takeOut_0 14 rfl rfl)
theorem dX4_takeOut_15 : decode cX4_takeOut 15 = .ok (.iconst 0, 1) := dk_3 (dk_at dksX4_takeOut_0 15 rfl rfl)
theorem dX4_takeOut_16 : decode cX4_takeOut 16 = .ok (.aload_n 0, 1) := dk_42 (dk_at dksX4_takeOut_0 16 rfl rfl)
theorem dX4_takeOut_17 : decode cX4_takeOut 17 = .ok (.iload_n 1, 1) := dk_27 (dk_at dksX4_takeOut_0 17 rfl rfl)
theorem dX4_takeOut_18 : decode cX4_takeOut 18 = .ok (.invokevirtual 39, 3) := dk_182 0 39 (dk_at dksX4_takeOut_0 18 rfl rfl)
theorem dX4_takeOut_21 : decode cX4_takeOut 21 = .ok (.iconst 1, 1) := dk_4 (dk_at dksX4_takeOut_0 21 rfl rfl)
theorem dX4_takeOut_22 : decode cX4_takeOut 22 = .ok (.isub, 1) := dk_100 (dk_at dksX4_takeOut_0 22 rfl rfl)
theorem dX4_takeOut_23 : decode cX4_takeOut 23 = .ok (.invokestatic 57, 3) := dk_184 0 57 (dk_at dksX4_takeOut_1 0 rfl rfl)
theorem dX4_takeOut_26 : decode cX4_takeOut 26 = .ok (.ifCond .ne 7, 3) := dk_154 0 7 (dk_at dksX4_takeOut_1 3 rfl rfl)
theorem dX4_takeOut_29 : decode cX4_takeOut 29 = .ok (.iconst 1, 1) := dk_4 (dk_at dksX4_takeOut_1 6 rfl rfl)
theorem dX4_takeOut_30 : decode cX4_takeOut 30 = .ok (.goto 4, 3) := dk_167 0 4 (dk_at dksX4_takeOut_1 7 rfl rfl)
theorem dX4_takeOut_33 : decode cX4_takeOut 33 = .ok (.iconst 0, 1) := dk_3 (dk_at dksX4_takeOut_1 10 rfl rfl)
theorem dX4_takeOut_34 : decode cX4_takeOut 34 = .ok (.iconst 2, 1) := dk_5 (dk_at dksX4_takeOut_1 11 rfl rfl)
theorem dX4_takeOut_35 : decode cX4_takeOut 35 = .ok (.invokevirtual 241, 3) := dk_182 0 241 (dk_at dksX4_takeOut_1 12 rfl rfl)
theorem dX4_takeOut_38 : decode cX4_takeOut 38 = .ok (.ifCond .eq 5, 3) := dk_153 0 5 (dk_at dksX4_takeOut_1 15 rfl rfl)
theorem dX4_takeOut_41 : decode cX4_takeOut 41 = .ok (.iconst 0, 1) := dk_3 (dk_at dksX4_takeOut_1 18 rfl rfl)
theorem dX4_takeOut_42 : decode cX4_takeOut 42 = .ok (.ireturn, 1) := dk_172 (dk_at dksX4_takeOut_1 19 rfl rfl)
theorem dX4_takeOut_43 : decode cX4_takeOut 43 = .ok (.aload_n 0, 1) := dk_42 (dk_at dksX4_takeOut_1 20 rfl rfl)
theorem dX4_takeOut_44 : decode cX4_takeOut 44 = .ok (.aload_n 0, 1) := dk_42 (dk_at dksX4_takeOut_1 21 rfl rfl)
theorem dX4_takeOut_45 : decode cX4_takeOut 45 = .ok (.getfield 17, 3) := dk_180 0 17 (dk_at dksX4_takeOut_2 0 rfl rfl)
theorem dX4_takeOut_48 : decode cX4_takeOut 48 = .ok (.invokevirtual 254, 3) := dk_182 0 254 (dk_at dksX4_takeOut_2 3 rfl rfl)
theorem dX4_takeOut_51 : decode cX4_takeOut 51 = .ok (.aload_n 0, 1) := dk_42 (dk_at dksX4_takeOut_2 6 rfl rfl)
theorem dX4_takeOut_52 : decode cX4_takeOut 52 = .ok (.iload_n 1, 1) := dk_27 (dk_at dksX4_takeOut_2 7 rfl rfl)
theorem dX4_takeOut_53 : decode cX4_takeOut 53 = .ok (.iload_n 2, 1) := dk_28 (dk_at dksX4_takeOut_2 8 rfl rfl)
theorem dX4_takeOut_54 : decode cX4_takeOut 54 = .ok (.invokevirtual 321, 3) := dk_182 1 65 (dk_at dksX4_takeOut_2 9 rfl rfl)
theorem dX4_takeOut_57 : decode cX4_takeOut 57 = .ok (.istore_n 3, 1) := dk_62 (dk_at dksX4_takeOut_2 12 rfl rfl)
theorem dX4_takeOut_58 : decode cX4_takeOut 58 = .ok (.iload_n 3, 1) := dk_29 (dk_at dksX4_takeOut_2 13 rfl rfl)
theorem dX4_takeOut_59 : decode cX4_takeOut 59 = .ok (.ifCond .le 6, 3) := dk_158 0 6 (dk_at dksX4_takeOut_2 14 rfl rfl)
theorem dX4_takeOut_62 : decode cX4_takeOut 62 = .ok (.iload_n 3, 1) := dk_29 (dk_at dksX4_takeOut_2 17 rfl rfl)
theorem dX4_takeOut_63 : decode cX4_takeOut 63 = .ok (.ineg, 1) := dk_116 (dk_at dksX4_takeOut_2 18 rfl rfl)
theorem dX4_takeOut_64 : decode cX4_takeOut 64 = .ok (.ireturn, 1) := dk_172 (dk_at dksX4_takeOut_2 19 rfl rfl)
theorem dX4_takeOut_65 : decode cX4_takeOut 65 = .ok (.iload_n 1, 1) := dk_27 (dk_at dksX4_takeOut_2 20 rfl rfl)
theorem dX4_takeOut_66 : decode cX4_takeOut 66 = .ok (.invokestatic 35, 3) := dk_184 0 35 (dk_at dksX4_takeOut_2 21 rfl rfl)
theorem dX4_takeOut_69 : decode cX4_takeOut 69 = .ok (.istore 4, 2) := dk_54 4 (dk_at dksX4_takeOut_3 0 rfl rfl)
theorem dX4_takeOut_71 : decode cX4_takeOut 71 = .ok (.aload_n 0, 1) := dk_42 (dk_at dksX4_takeOut_3 2 rfl rfl)
theorem dX4_takeOut_72 : decode cX4_takeOut 72 = .ok (.getfield 17, 3) := dk_180 0 17 (dk_at dksX4_takeOut_3 3 rfl rfl)
theorem dX4_takeOut_75 : decode cX4_takeOut 75 = .ok (.iload 4, 2) := dk_21 4 (dk_at dksX4_takeOut_3 6 rfl rfl)
theorem dX4_takeOut_77 : decode cX4_takeOut 77 = .ok (.iconst 1, 1) := dk_4 (dk_at dksX4_takeOut_3 8 rfl rfl)
theorem dX4_takeOut_78 : decode cX4_takeOut 78 = .ok (.iadd, 1) := dk_96 (dk_at dksX4_takeOut_3 9 rfl rfl)
theorem dX4_takeOut_79 : decode cX4_takeOut 79 = .ok (.dup2, 1) := dk_92 (dk_at dksX4_takeOut_3 10 rfl rfl)
theorem dX4_takeOut_80 : decode cX4_takeOut 80 = .ok (.iaload, 1) := dk_46 (dk_at dksX4_takeOut_3 11 rfl rfl)
theorem dX4_takeOut_81 : decode cX4_takeOut 81 = .ok (.iconst 1, 1) := dk_4 (dk_at dksX4_takeOut_3 12 rfl rfl)
theorem dX4_takeOut_82 : decode cX4_takeOut 82 = .ok (.isub, 1) := dk_100 (dk_at dksX4_takeOut_3 13 rfl rfl)
theorem dX4_takeOut_83 : decode cX4_takeOut 83 = .ok (.iastore, 1) := dk_79 (dk_at dksX4_takeOut_3 14 rfl rfl)
theorem dX4_takeOut_84 : decode cX4_takeOut 84 = .ok (.iconst 2, 1) := dk_5 (dk_at dksX4_takeOut_3 15 rfl rfl)
theorem dX4_takeOut_85 : decode cX4_takeOut 85 = .ok (.iload_n 2, 1) := dk_28 (dk_at dksX4_takeOut_3 16 rfl rfl)
theorem dX4_takeOut_86 : decode cX4_takeOut 86 = .ok (.imul, 1) := dk_104 (dk_at dksX4_takeOut_3 17 rfl rfl)
theorem dX4_takeOut_87 : decode cX4_takeOut 87 = .ok (.istore 5, 2) := dk_54 5 (dk_at dksX4_takeOut_3 18 rfl rfl)
theorem dX4_takeOut_89 : decode cX4_takeOut 89 = .ok (.iload 5, 2) := dk_21 5 (dk_at dksX4_takeOut_3 20 rfl rfl)
theorem dX4_takeOut_91 : decode cX4_takeOut 91 = .ok (.iconst 2, 1) := dk_5 (dk_at dksX4_takeOut_3 22 rfl rfl)
theorem dX4_takeOut_92 : decode cX4_takeOut 92 = .ok (.aload_n 0, 1) := dk_42 (dk_at dksX4_takeOut_3 23 rfl rfl)
theorem dX4_takeOut_93 : decode cX4_takeOut 93 = .ok (.iload_n 1, 1) := dk_27 (dk_at dksX4_takeOut_4 0 rfl rfl)
theorem dX4_takeOut_94 : decode cX4_takeOut 94 = .ok (.invokevirtual 39, 3) := dk_182 0 39 (dk_at dksX4_takeOut_4 1 rfl rfl)
theorem dX4_takeOut_97 : decode cX4_takeOut 97 = .ok (.imul, 1) := dk_104 (dk_at dksX4_takeOut_4 4 rfl rfl)
theorem dX4_takeOut_98 : decode cX4_takeOut 98 = .ok (.if_icmp .ge 35, 3) := dk_162 0 35 (dk_at dksX4_takeOut_4 5 rfl rfl)
theorem dX4_takeOut_101 : decode cX4_takeOut 101 = .ok (.aload_n 0, 1) := dk_42 (dk_at dksX4_takeOut_4 8 rfl rfl)
theorem dX4_takeOut_102 : decode cX4_takeOut 102 = .ok (.getfield 17, 3) := dk_180 0 17 (dk_at dksX4_takeOut_4 9 rfl rfl)
theorem dX4_takeOut_105 : decode cX4_takeOut 105 = .ok (.iload 4, 2) := dk_21 4 (dk_at dksX4_takeOut_4 12 rfl rfl)
theorem dX4_takeOut_107 : decode cX4_takeOut 107 = .ok (.iconst 3, 1) := dk_6 (dk_at dksX4_takeOut_4 14 rfl rfl)
theorem dX4_takeOut_108 : decode cX4_takeOut 108 = .ok (.iadd, 1) := dk_96 (dk_at dksX4_takeOut_4 15 rfl rfl)
theorem dX4_takeOut_109 : decode cX4_takeOut 109 = .ok (.iload 5, 2) := dk_21 5 (dk_at dksX4_takeOut_4 16 rfl rfl)
theorem dX4_takeOut_111 : decode cX4_takeOut 111 = .ok (.iadd, 1) := dk_96 (dk_at dksX4_takeOut_4 18 rfl rfl)
theorem dX4_takeOut_112 : decode cX4_takeOut 112 = .ok (.aload_n 0, 1) := dk_42 (dk_at dksX4_takeOut_4 19 rfl rfl)
theorem dX4_takeOut_113 : decode cX4_takeOut 113 = .ok (.getfield 17, 3) := dk_180 0 17 (dk_at dksX4_takeOut_4 20 rfl rfl)
theorem dX4_takeOut_116 : decode cX4_takeOut 116 = .ok (.iload 4, 2) := dk_21 4 (dk_at dksX4_takeOut_5 0 rfl rfl)
theorem dX4_takeOut_118 : decode cX4_takeOut 118 = .ok (.iconst 3, 1) := dk_6 (dk_at dksX4_takeOut_5 2 rfl rfl)
theorem dX4_takeOut_119 : decode cX4_takeOut 119 = .ok (.iadd, 1) := dk_96 (dk_at dksX4_takeOut_5 3 rfl rfl)
theorem dX4_takeOut_120 : decode cX4_takeOut 120 = .ok (.iload 5, 2) := dk_21 5 (dk_at dksX4_takeOut_5 4 rfl rfl)
theorem dX4_takeOut_122 : decode cX4_takeOut 122 = .ok (.iadd, 1) := dk_96 (dk_at dksX4_takeOut_5 6 rfl rfl)
theorem dX4_takeOut_123 : decode cX4_takeOut 123 = .ok (.iconst 2, 1) := dk_5 (dk_at dksX4_takeOut_5 7 rfl rfl)
theorem dX4_takeOut_124 : decode cX4_takeOut 124 = .ok (.iadd, 1) := dk_96 (dk_at dksX4_takeOut_5 8 rfl rfl)
theorem dX4_takeOut_125 : decode cX4_takeOut 125 = .ok (.iaload, 1) := dk_46 (dk_at dksX4_takeOut_5 9 rfl rfl)
theorem dX4_takeOut_126 : decode cX4_takeOut 126 = .ok (.iastore, 1) := dk_79 (dk_at dksX4_takeOut_5 10 rfl rfl)
theorem dX4_takeOut_127 : decode cX4_takeOut 127 = .ok (.iinc 5 1, 3) := dk_132 5 1 (dk_at dksX4_takeOut_5 11 rfl rfl)
theorem dX4_takeOut_130 : decode cX4_takeOut 130 = .ok (.goto (-41), 3) := dk_167 255 215 (dk_at dksX4_takeOut_5 14 rfl rfl)
theorem dX4_takeOut_133 : decode cX4_takeOut 133 = .ok (.aload_n 0, 1) := dk_42 (dk_at dksX4_takeOut_5 17 rfl rfl)
theorem dX4_takeOut_134 : decode cX4_takeOut 134 = .ok (.iload_n 1, 1) := dk_27 (dk_at dksX4_takeOut_5 18 rfl rfl)
theorem dX4_takeOut_135 : decode cX4_takeOut 135 = .ok (.invokevirtual 264, 3) := dk_182 1 8 (dk_at dksX4_takeOut_5 19 rfl rfl)
theorem dX4_takeOut_138 : decode cX4_takeOut 138 = .ok (.ireturn, 1) := dk_172 (dk_at dksX4_takeOut_5 22 rfl rfl)
abbrev cX4_outReason : ByteArray := prog_10_method_31_code
def yX4_outReason : MethodName := ⟨RX4, "outReason", "(II)I"⟩
def dkwX4_outReason_3 : List UInt8 := [182, 0, 117, 172]
abbrev dktX4_outReason_3 : List UInt8 := dkwX4_outReason_3 ++ []
def dkwX4_outReason_2 : List UInt8 := [29, 182, 0, 72, 42, 27, 29, 182, 0, 75, 42, 27, 21, 4, 182, 0, 72, 42, 27, 21, 4, 182, 0, 75]
abbrev dktX4_outReason_2 : List UInt8 := dkwX4_outReason_2 ++ dktX4_outReason_3
def dkwX4_outReason_1 : List UInt8 := [28, 182, 0, 121, 62, 42, 27, 28, 182, 0, 84, 54, 4, 42, 27, 29, 28, 28, 182, 0, 113, 42, 42, 27]
abbrev dktX4_outReason_1 : List UInt8 := dkwX4_outReason_1 ++ dktX4_outReason_2
def dkwX4_outReason_0 : List UInt8 := [42, 27, 182, 0, 42, 154, 0, 5, 4, 172, 42, 27, 182, 0, 39, 6, 160, 0, 6, 16, 6, 172, 42, 27]
abbrev dktX4_outReason_0 : List UInt8 := dkwX4_outReason_0 ++ dktX4_outReason_1
theorem dksX4_outReason_0 : cX4_outReason.data.toList.drop 0 = dktX4_outReason_0 := by decide +kernel
theorem dksX4_outReason_1 : cX4_outReason.data.toList.drop 24 = dktX4_outReason_1 := dk_seg dksX4_outReason_0 24 rfl rfl
theorem dksX4_outReason_2 : cX4_outReason.data.toList.drop 48 = dktX4_outReason_2 := dk_seg dksX4_outReason_1 24 rfl rfl
theorem dksX4_outReason_3 : cX4_outReason.data.toList.drop 72 = dktX4_outReason_3 := dk_seg dksX4_outReason_2 24 rfl rfl
theorem dX4_outReason_0 : decode cX4_outReason 0 = .ok (.aload_n 0, 1) := dk_42 (dk_at dksX4_outReason_0 0 rfl rfl)
theorem dX4_outReason_1 : decode cX4_outReason 1 = .ok (.iload_n 1, 1) := dk_27 (dk_at dksX4_outReason_0 1 rfl rfl)
theorem dX4_outReason_2 : decode cX4_outReason 2 = .ok (.invokevirtual 42, 3) := dk_182 0 42 (dk_at dksX4_outReason_0 2 rfl rfl)
theorem dX4_outReason_5 : decode cX4_outReason 5 = .ok (.ifCond .ne 5, 3) := dk_154 0 5 (dk_at dksX4_outReason_0 5 rfl rfl)
theorem dX4_outReason_8 : decode cX4_outReason 8 = .ok (.iconst 1, 1) := dk_4 (dk_at dksX4_outReason_0 8 rfl rfl)
theorem dX4_outReason_9 : decode cX4_outReason 9 = .ok (.ireturn, 1) := dk_172 (dk_at dksX4_outReason_0 9 rfl rfl)
theorem dX4_outReason_10 : decode cX4_outReason 10 = .ok (.aload_n 0, 1) := dk_42 (dk_at dksX4_outReason_0 10 rfl rfl)
theorem dX4_outReason_11 : decode cX4_outReason 11 = .ok (.iload_n 1, 1) := dk_27 (dk_at dksX4_outReason_0 11 rfl rfl)
theorem dX4_outReason_12 : decode cX4_outReason 12 = .ok (.invokevirtual 39, 3) := dk_182 0 39 (dk_at dksX4_outReason_0 12 rfl rfl)
theorem dX4_outReason_15 : decode cX4_outReason 15 = .ok (.iconst 3, 1) := dk_6 (dk_at dksX4_outReason_0 15 rfl rfl)
theorem dX4_outReason_16 : decode cX4_outReason 16 = .ok (.if_icmp .ne 6, 3) := dk_160 0 6 (dk_at dksX4_outReason_0 16 rfl rfl)
theorem dX4_outReason_19 : decode cX4_outReason 19 = .ok (.bipush 6, 2) := dk_16 6 (dk_at dksX4_outReason_0 19 rfl rfl)
theorem dX4_outReason_21 : decode cX4_outReason 21 = .ok (.ireturn, 1) := dk_172 (dk_at dksX4_outReason_0 21 rfl rfl)
theorem dX4_outReason_22 : decode cX4_outReason 22 = .ok (.aload_n 0, 1) := dk_42 (dk_at dksX4_outReason_0 22 rfl rfl)
theorem dX4_outReason_23 : decode cX4_outReason 23 = .ok (.iload_n 1, 1) := dk_27 (dk_at dksX4_outReason_0 23 rfl rfl)
theorem dX4_outReason_24 : decode cX4_outReason 24 = .ok (.iload_n 2, 1) := dk_28 (dk_at dksX4_outReason_1 0 rfl rfl)
theorem dX4_outReason_25 : decode cX4_outReason 25 = .ok (.invokevirtual 121, 3) := dk_182 0 121 (dk_at dksX4_outReason_1 1 rfl rfl)
theorem dX4_outReason_28 : decode cX4_outReason 28 = .ok (.istore_n 3, 1) := dk_62 (dk_at dksX4_outReason_1 4 rfl rfl)
theorem dX4_outReason_29 : decode cX4_outReason 29 = .ok (.aload_n 0, 1) := dk_42 (dk_at dksX4_outReason_1 5 rfl rfl)
theorem dX4_outReason_30 : decode cX4_outReason 30 = .ok (.iload_n 1, 1) := dk_27 (dk_at dksX4_outReason_1 6 rfl rfl)
theorem dX4_outReason_31 : decode cX4_outReason 31 = .ok (.iload_n 2, 1) := dk_28 (dk_at dksX4_outReason_1 7 rfl rfl)
theorem dX4_outReason_32 : decode cX4_outReason 32 = .ok (.invokevirtual 84, 3) := dk_182 0 84 (dk_at dksX4_outReason_1 8 rfl rfl)
theorem dX4_outReason_35 : decode cX4_outReason 35 = .ok (.istore 4, 2) := dk_54 4 (dk_at dksX4_outReason_1 11 rfl rfl)
theorem dX4_outReason_37 : decode cX4_outReason 37 = .ok (.aload_n 0, 1) := dk_42 (dk_at dksX4_outReason_1 13 rfl rfl)
theorem dX4_outReason_38 : decode cX4_outReason 38 = .ok (.iload_n 1, 1) := dk_27 (dk_at dksX4_outReason_1 14 rfl rfl)
theorem dX4_outReason_39 : decode cX4_outReason 39 = .ok (.iload_n 3, 1) := dk_29 (dk_at dksX4_outReason_1 15 rfl rfl)
theorem dX4_outReason_40 : decode cX4_outReason 40 = .ok (.iload_n 2, 1) := dk_28 (dk_at dksX4_outReason_1 16 rfl rfl)
theorem dX4_outReason_41 : decode cX4_outReason 41 = .ok (.iload_n 2, 1) := dk_28 (dk_at dksX4_outReason_1 17 rfl rfl)
theorem dX4_outReason_42 : decode cX4_outReason 42 = .ok (.invokevirtual 113, 3) := dk_182 0 113 (dk_at dksX4_outReason_1 18 rfl rfl)
theorem dX4_outReason_45 : decode cX4_outReason 45 = .ok (.aload_n 0, 1) := dk_42 (dk_at dksX4_outReason_1 21 rfl rfl)
theorem dX4_outReason_46 : decode cX4_outReason 46 = .ok (.aload_n 0, 1) := dk_42 (dk_at dksX4_outReason_1 22 rfl rfl)
theorem dX4_outReason_47 : decode cX4_outReason 47 = .ok (.iload_n 1, 1) := dk_27 (dk_at dksX4_outReason_1 23 rfl rfl)
theorem dX4_outReason_48 : decode cX4_outReason 48 = .ok (.iload_n 3, 1) := dk_29 (dk_at dksX4_outReason_2 0 rfl rfl)
theorem dX4_outReason_49 : decode cX4_outReason 49 = .ok (.invokevirtual 72, 3) := dk_182 0 72 (dk_at dksX4_outReason_2 1 rfl rfl)
theorem dX4_outReason_52 : decode cX4_outReason 52 = .ok (.aload_n 0, 1) := dk_42 (dk_at dksX4_outReason_2 4 rfl rfl)
theorem dX4_outReason_53 : decode cX4_outReason 53 = .ok (.iload_n 1, 1) := dk_27 (dk_at dksX4_outReason_2 5 rfl rfl)
theorem dX4_outReason_54 : decode cX4_outReason 54 = .ok (.iload_n 3, 1) := dk_29 (dk_at dksX4_outReason_2 6 rfl rfl)
theorem dX4_outReason_55 : decode cX4_outReason 55 = .ok (.invokevirtual 75, 3) := dk_182 0 75 (dk_at dksX4_outReason_2 7 rfl rfl)
theorem dX4_outReason_58 : decode cX4_outReason 58 = .ok (.aload_n 0, 1) := dk_42 (dk_at dksX4_outReason_2 10 rfl rfl)
theorem dX4_outReason_59 : decode cX4_outReason 59 = .ok (.iload_n 1, 1) := dk_27 (dk_at dksX4_outReason_2 11 rfl rfl)
theorem dX4_outReason_60 : decode cX4_outReason 60 = .ok (.iload 4, 2) := dk_21 4 (dk_at dksX4_outReason_2 12 rfl rfl)
theorem dX4_outReason_62 : decode cX4_outReason 62 = .ok (.invokevirtual 72, 3) := dk_182 0 72 (dk_at dksX4_outReason_2 14 rfl rfl)
theorem dX4_outReason_65 : decode cX4_outReason 65 = .ok (.aload_n 0, 1) := dk_42 (dk_at dksX4_outReason_2 17 rfl rfl)
theorem dX4_outReason_66 : decode cX4_outReason 66 = .ok (.iload_n 1, 1) := dk_27 (dk_at dksX4_outReason_2 18 rfl rfl)
theorem dX4_outReason_67 : decode cX4_outReason 67 = .ok (.iload 4, 2) := dk_21 4 (dk_at dksX4_outReason_2 19 rfl rfl)
theorem dX4_outReason_69 : decode cX4_outReason 69 = .ok (.invokevirtual 75, 3) := dk_182 0 75 (dk_at dksX4_outReason_2 21 rfl rfl)
theorem dX4_outReason_72 : decode cX4_outReason 72 = .ok (.invokevirtual 117, 3) := dk_182 0 117 (dk_at dksX4_outReason_3 0 rfl rfl)
theorem dX4_outReason_75 : decode cX4_outReason 75 = .ok (.ireturn, 1) := dk_172 (dk_at dksX4_outReason_3 3 rfl rfl)
abbrev cX4_remove : ByteArray := prog_10_method_88_code
def yX4_remove : MethodName := ⟨RX4, "remove", "(I)I"⟩
def dkwX4_remove_3 : List UInt8 := [42, 182, 1, 47, 172]
abbrev dktX4_remove_3 : List UInt8 := dkwX4_remove_3 ++ []
def dkwX4_remove_2 : List UInt8 := [162, 0, 24, 42, 180, 0, 17, 28, 42, 180, 0, 17, 28, 16, 27, 96, 46, 79, 132, 2, 1, 167, 255, 225]
abbrev dktX4_remove_2 : List UInt8 := dkwX4_remove_2 ++ dktX4_remove_3
def dkwX4_remove_1 : List UInt8 := [180, 0, 17, 6, 92, 46, 4, 100, 79, 27, 184, 0, 35, 61, 28, 42, 180, 0, 17, 6, 46, 184, 0, 35]
abbrev dktX4_remove_1 : List UInt8 := dkwX4_remove_1 ++ dktX4_remove_2
def dkwX4_remove_0 : List UInt8 := [42, 3, 181, 0, 32, 42, 27, 182, 1, 44, 153, 0, 5, 3, 172, 42, 42, 180, 0, 17, 182, 0, 254, 42]
abbrev dktX4_remove_0 : List UInt8 := dkwX4_remove_0 ++ dktX4_remove_1
theorem dksX4_remove_0 : cX4_remove.data.toList.drop 0 = dktX4_remove_0 := by decide +kernel
theorem dksX4_remove_1 : cX4_remove.data.toList.drop 24 = dktX4_remove_1 := dk_seg dksX4_remove_0 24 rfl rfl
theorem dksX4_remove_2 : cX4_remove.data.toList.drop 48 = dktX4_remove_2 := dk_seg dksX4_remove_1 24 rfl rfl
theorem dksX4_remove_3 : cX4_remove.data.toList.drop 72 = dktX4_remove_3 := dk_seg dksX4_remove_2 24 rfl rfl
theorem dX4_remove_0 : decode cX4_remove 0 = .ok (.aload_n 0, 1) := dk_42 (dk_at dksX4_remove_0 0 rfl rfl)
theorem dX4_remove_1 : decode cX4_remove 1 = .ok (.iconst 0, 1) := dk_3 (dk_at dksX4_remove_0 1 rfl rfl)
theorem dX4_remove_2 : decode cX4_remove 2 = .ok (.putfield 32, 3) := dk_181 0 32 (dk_at dksX4_remove_0 2 rfl rfl)
theorem dX4_remove_5 : decode cX4_remove 5 = .ok (.aload_n 0, 1) := dk_42 (dk_at dksX4_remove_0 5 rfl rfl)
theorem dX4_remove_6 : decode cX4_remove 6 = .ok (.iload_n 1, 1) := dk_27 (dk_at dksX4_remove_0 6 rfl rfl)
theorem dX4_remove_7 : decode cX4_remove 7 = .ok (.invokevirtual 300, 3) := dk_182 1 44 (dk_at dksX4_remove_0 7 rfl rfl)
theorem dX4_remove_10 : decode cX4_remove 10 = .ok (.ifCond .eq 5, 3) := dk_153 0 5 (dk_at dksX4_remove_0 10 rfl rfl)
theorem dX4_remove_13 : decode cX4_remove 13 = .ok (.iconst 0, 1) := dk_3 (dk_at dksX4_remove_0 13 rfl rfl)
theorem dX4_remove_14 : decode cX4_remove 14 = .ok (.ireturn, 1) := dk_172 (dk_at dksX4_remove_0 14 rfl rfl)
theorem dX4_remove_15 : decode cX4_remove 15 = .ok (.aload_n 0, 1) := dk_42 (dk_at dksX4_remove_0 15 rfl rfl)
theorem dX4_remove_16 : decode cX4_remove 16 = .ok (.aload_n 0, 1) := dk_42 (dk_at dksX4_remove_0 16 rfl rfl)
theorem dX4_remove_17 : decode cX4_remove 17 = .ok (.getfield 17, 3) := dk_180 0 17 (dk_at dksX4_remove_0 17 rfl rfl)
theorem dX4_remove_20 : decode cX4_remove 20 = .ok (.invokevirtual 254, 3) := dk_182 0 254 (dk_at dksX4_remove_0 20 rfl rfl)
theorem dX4_remove_23 : decode cX4_remove 23 = .ok (.aload_n 0, 1) := dk_42 (dk_at dksX4_remove_0 23 rfl rfl)
theorem dX4_remove_24 : decode cX4_remove 24 = .ok (.getfield 17, 3) := dk_180 0 17 (dk_at dksX4_remove_1 0 rfl rfl)
theorem dX4_remove_27 : decode cX4_remove 27 = .ok (.iconst 3, 1) := dk_6 (dk_at dksX4_remove_1 3 rfl rfl)
theorem dX4_remove_28 : decode cX4_remove 28 = .ok (.dup2, 1) := dk_92 (dk_at dksX4_remove_1 4 rfl rfl)
theorem dX4_remove_29 : decode cX4_remove 29 = .ok (.iaload, 1) := dk_46 (dk_at dksX4_remove_1 5 rfl rfl)
theorem dX4_remove_30 : decode cX4_remove 30 = .ok (.iconst 1, 1) := dk_4 (dk_at dksX4_remove_1 6 rfl rfl)
theorem dX4_remove_31 : decode cX4_remove 31 = .ok (.isub, 1) := dk_100 (dk_at dksX4_remove_1 7 rfl rfl)
theorem dX4_remove_32 : decode cX4_remove 32 = .ok (.iastore, 1) := dk_79 (dk_at dksX4_remove_1 8 rfl rfl)
theorem dX4_remove_33 : decode cX4_remove 33 = .ok (.iload_n 1, 1) := dk_27 (dk_at dksX4_remove_1 9 rfl rfl)
theorem dX4_remove_34 : decode cX4_remove 34 = .ok (.invokestatic 35, 3) := dk_184 0 35 (dk_at dksX4_remove_1 10 rfl rfl)
theorem dX4_remove_37 : decode cX4_remove 37 = .ok (.istore_n 2, 1) := dk_61 (dk_at dksX4_remove_1 13 rfl rfl)
theorem dX4_remove_38 : decode cX4_remove 38 = .ok (.iload_n 2, 1) := dk_28 (dk_at dksX4_remove_1 14 rfl rfl)
theorem dX4_remove_39 : decode cX4_remove 39 = .ok (.aload_n 0, 1) := dk_42 (dk_at dksX4_remove_1 15 rfl rfl)
theorem dX4_remove_40 : decode cX4_remove 40 = .ok (.getfield 17, 3) := dk_180 0 17 (dk_at dksX4_remove_1 16 rfl rfl)
theorem dX4_remove_43 : decode cX4_remove 43 = .ok (.iconst 3, 1) := dk_6 (dk_at dksX4_remove_1 19 rfl rfl)
theorem dX4_remove_44 : decode cX4_remove 44 = .ok (.iaload, 1) := dk_46 (dk_at dksX4_remove_1 20 rfl rfl)
theorem dX4_remove_45 : decode cX4_remove 45 = .ok (.invokestatic 35, 3) := dk_184 0 35 (dk_at dksX4_remove_1 21 rfl rfl)
theorem dX4_remove_48 : decode cX4_remove 48 = .ok (.if_icmp .ge 24, 3) := dk_162 0 24 (dk_at dksX4_remove_2 0 rfl rfl)
theorem dX4_remove_51 : decode cX4_remove 51 = .ok (.aload_n 0, 1) := dk_42 (dk_at dksX4_remove_2 3 rfl rfl)
theorem dX4_remove_52 : decode cX4_remove 52 = .ok (.getfield 17, 3) := dk_180 0 17 (dk_at dksX4_remove_2 4 rfl rfl)
theorem dX4_remove_55 : decode cX4_remove 55 = .ok (.iload_n 2, 1) := dk_28 (dk_at dksX4_remove_2 7 rfl rfl)
theorem dX4_remove_56 : decode cX4_remove 56 = .ok (.aload_n 0, 1) := dk_42 (dk_at dksX4_remove_2 8 rfl rfl)
theorem dX4_remove_57 : decode cX4_remove 57 = .ok (.getfield 17, 3) := dk_180 0 17 (dk_at dksX4_remove_2 9 rfl rfl)
theorem dX4_remove_60 : decode cX4_remove 60 = .ok (.iload_n 2, 1) := dk_28 (dk_at dksX4_remove_2 12 rfl rfl)
theorem dX4_remove_61 : decode cX4_remove 61 = .ok (.bipush 27, 2) := dk_16 27 (dk_at dksX4_remove_2 13 rfl rfl)
theorem dX4_remove_63 : decode cX4_remove 63 = .ok (.iadd, 1) := dk_96 (dk_at dksX4_remove_2 15 rfl rfl)
theorem dX4_remove_64 : decode cX4_remove 64 = .ok (.iaload, 1) := dk_46 (dk_at dksX4_remove_2 16 rfl rfl)
theorem dX4_remove_65 : decode cX4_remove 65 = .ok (.iastore, 1) := dk_79 (dk_at dksX4_remove_2 17 rfl rfl)
theorem dX4_remove_66 : decode cX4_remove 66 = .ok (.iinc 2 1, 3) := dk_132 2 1 (dk_at dksX4_remove_2 18 rfl rfl)
theorem dX4_remove_69 : decode cX4_remove 69 = .ok (.goto (-31), 3) := dk_167 255 225 (dk_at dksX4_remove_2 21 rfl rfl)
theorem dX4_remove_72 : decode cX4_remove 72 = .ok (.aload_n 0, 1) := dk_42 (dk_at dksX4_remove_3 0 rfl rfl)
theorem dX4_remove_73 : decode cX4_remove 73 = .ok (.invokevirtual 303, 3) := dk_182 1 47 (dk_at dksX4_remove_3 1 rfl rfl)
theorem dX4_remove_76 : decode cX4_remove 76 = .ok (.ireturn, 1) := dk_172 (dk_at dksX4_remove_3 4 rfl rfl)
abbrev cX4_undo : ByteArray := prog_10_method_89_code
def yX4_undo : MethodName := ⟨RX4, "undo", "()I"⟩
def dkwX4_undo_1 : List UInt8 := [42, 180, 0, 25, 42, 180, 1, 59, 50, 42, 180, 0, 17, 184, 0, 245, 42, 180, 1, 59, 172]
abbrev dktX4_undo_1 : List UInt8 := dkwX4_undo_1 ++ []
def dkwX4_undo_0 : List UInt8 := [42, 3, 181, 0, 32, 42, 180, 1, 59, 154, 0, 5, 2, 172, 42, 89, 180, 1, 59, 4, 100, 181, 1, 59]
abbrev dktX4_undo_0 : List UInt8 := dkwX4_undo_0 ++ dktX4_undo_1
theorem dksX4_undo_0 : cX4_undo.data.toList.drop 0 = dktX4_undo_0 := by decide +kernel
theorem dksX4_undo_1 : cX4_undo.data.toList.drop 24 = dktX4_undo_1 := dk_seg dksX4_undo_0 24 rfl rfl
theorem dX4_undo_0 : decode cX4_undo 0 = .ok (.aload_n 0, 1) := dk_42 (dk_at dksX4_undo_0 0 rfl rfl)
theorem dX4_undo_1 : decode cX4_undo 1 = .ok (.iconst 0, 1) := dk_3 (dk_at dksX4_undo_0 1 rfl rfl)
theorem dX4_undo_2 : decode cX4_undo 2 = .ok (.putfield 32, 3) := dk_181 0 32 (dk_at dksX4_undo_0 2 rfl rfl)
theorem dX4_undo_5 : decode cX4_undo 5 = .ok (.aload_n 0, 1) := dk_42 (dk_at dksX4_undo_0 5 rfl rfl)
theorem dX4_undo_6 : decode cX4_undo 6 = .ok (.getfield 315, 3) := dk_180 1 59 (dk_at dksX4_undo_0 6 rfl rfl)
theorem dX4_undo_9 : decode cX4_undo 9 = .ok (.ifCond .ne 5, 3) := dk_154 0 5 (dk_at dksX4_undo_0 9 rfl rfl)
theorem dX4_undo_12 : decode cX4_undo 12 = .ok (.iconst (-1), 1) := dk_2 (dk_at dksX4_undo_0 12 rfl rfl)
theorem dX4_undo_13 : decode cX4_undo 13 = .ok (.ireturn, 1) := dk_172 (dk_at dksX4_undo_0 13 rfl rfl)
theorem dX4_undo_14 : decode cX4_undo 14 = .ok (.aload_n 0, 1) := dk_42 (dk_at dksX4_undo_0 14 rfl rfl)
theorem dX4_undo_15 : decode cX4_undo 15 = .ok (.dup, 1) := dk_89 (dk_at dksX4_undo_0 15 rfl rfl)
theorem dX4_undo_16 : decode cX4_undo 16 = .ok (.getfield 315, 3) := dk_180 1 59 (dk_at dksX4_undo_0 16 rfl rfl)
theorem dX4_undo_19 : decode cX4_undo 19 = .ok (.iconst 1, 1) := dk_4 (dk_at dksX4_undo_0 19 rfl rfl)
theorem dX4_undo_20 : decode cX4_undo 20 = .ok (.isub, 1) := dk_100 (dk_at dksX4_undo_0 20 rfl rfl)
theorem dX4_undo_21 : decode cX4_undo 21 = .ok (.putfield 315, 3) := dk_181 1 59 (dk_at dksX4_undo_0 21 rfl rfl)
theorem dX4_undo_24 : decode cX4_undo 24 = .ok (.aload_n 0, 1) := dk_42 (dk_at dksX4_undo_1 0 rfl rfl)
theorem dX4_undo_25 : decode cX4_undo 25 = .ok (.getfield 25, 3) := dk_180 0 25 (dk_at dksX4_undo_1 1 rfl rfl)
theorem dX4_undo_28 : decode cX4_undo 28 = .ok (.aload_n 0, 1) := dk_42 (dk_at dksX4_undo_1 4 rfl rfl)
theorem dX4_undo_29 : decode cX4_undo 29 = .ok (.getfield 315, 3) := dk_180 1 59 (dk_at dksX4_undo_1 5 rfl rfl)
theorem dX4_undo_32 : decode cX4_undo 32 = .ok (.aaload, 1) := dk_50 (dk_at dksX4_undo_1 8 rfl rfl)
theorem dX4_undo_33 : decode cX4_undo 33 = .ok (.aload_n 0, 1) := dk_42 (dk_at dksX4_undo_1 9 rfl rfl)
theorem dX4_undo_34 : decode cX4_undo 34 = .ok (.getfield 17, 3) := dk_180 0 17 (dk_at dksX4_undo_1 10 rfl rfl)
theorem dX4_undo_37 : decode cX4_undo 37 = .ok (.invokestatic 245, 3) := dk_184 0 245 (dk_at dksX4_undo_1 13 rfl rfl)
theorem dX4_undo_40 : decode cX4_undo 40 = .ok (.aload_n 0, 1) := dk_42 (dk_at dksX4_undo_1 16 rfl rfl)
theorem dX4_undo_41 : decode cX4_undo 41 = .ok (.getfield 315, 3) := dk_180 1 59 (dk_at dksX4_undo_1 17 rfl rfl)
theorem dX4_undo_44 : decode cX4_undo 44 = .ok (.ireturn, 1) := dk_172 (dk_at dksX4_undo_1 20 rfl rfl)
abbrev cX4_checksum : ByteArray := prog_10_method_90_code
def yX4_checksum : MethodName := ⟨RX4, "checksum", "()J"⟩
def dkwX4_checksum_7 : List UInt8 := [31, 173]
abbrev dktX4_checksum_7 : List UInt8 := dkwX4_checksum_7 ++ []
def dkwX4_checksum_6 : List UInt8 := [29, 7, 162, 0, 22, 20, 1, 68, 31, 105, 42, 29, 182, 1, 56, 133, 97, 64, 132, 3, 1, 167, 255, 235]
abbrev dktX4_checksum_6 : List UInt8 := dkwX4_checksum_6 ++ dktX4_checksum_7
def dkwX4_checksum_5 : List UInt8 := [162, 0, 22, 20, 1, 68, 31, 105, 42, 29, 182, 1, 14, 133, 97, 64, 132, 3, 1, 167, 255, 230, 3, 62]
abbrev dktX4_checksum_5 : List UInt8 := dkwX4_checksum_5 ++ dktX4_checksum_6
def dkwX4_checksum_4 : List UInt8 := [133, 97, 64, 132, 4, 1, 167, 255, 216, 132, 3, 1, 167, 255, 163, 3, 62, 29, 42, 180, 0, 17, 5, 46]
abbrev dktX4_checksum_4 : List UInt8 := dkwX4_checksum_4 ++ dktX4_checksum_5
def dkwX4_checksum_3 : List UInt8 := [20, 1, 68, 31, 105, 16, 100, 42, 29, 21, 4, 182, 0, 72, 104, 133, 97, 42, 29, 21, 4, 182, 0, 75]
abbrev dktX4_checksum_3 : List UInt8 := dkwX4_checksum_3 ++ dktX4_checksum_4
def dkwX4_checksum_2 : List UInt8 := [184, 0, 35, 5, 96, 46, 133, 97, 64, 3, 54, 4, 21, 4, 42, 29, 182, 0, 39, 162, 0, 36]
abbrev dktX4_checksum_2 : List UInt8 := dkwX4_checksum_2 ++ dktX4_checksum_3
def dkwX4_checksum_1 : List UInt8 := [20, 1, 68, 31, 105, 42, 180, 0, 17, 29, 184, 0, 35, 46, 133, 97, 105, 42, 180, 0, 17, 29]
abbrev dktX4_checksum_1 : List UInt8 := dkwX4_checksum_1 ++ dktX4_checksum_2
def dkwX4_checksum_0 : List UInt8 := [42, 3, 181, 0, 32, 9, 64, 3, 62, 29, 42, 180, 0, 17, 6, 46, 162, 0, 89, 20, 1, 68]
abbrev dktX4_checksum_0 : List UInt8 := dkwX4_checksum_0 ++ dktX4_checksum_1
theorem dksX4_checksum_0 : cX4_checksum.data.toList.drop 0 = dktX4_checksum_0 := by decide +kernel
theorem dksX4_checksum_1 : cX4_checksum.data.toList.drop 22 = dktX4_checksum_1 := dk_seg dksX4_checksum_0 22 rfl rfl
theorem dksX4_checksum_2 : cX4_checksum.data.toList.drop 44 = dktX4_checksum_2 := dk_seg dksX4_checksum_1 22 rfl rfl
theorem dksX4_checksum_3 : cX4_checksum.data.toList.drop 66 = dktX4_checksum_3 := dk_seg dksX4_checksum_2 22 rfl rfl
theorem dksX4_checksum_4 : cX4_checksum.data.toList.drop 90 = dktX4_checksum_4 := dk_seg dksX4_checksum_3 24 rfl rfl
theorem dksX4_checksum_5 : cX4_checksum.data.toList.drop 114 = dktX4_checksum_5 := dk_seg dksX4_checksum_4 24 rfl rfl
theorem dksX4_checksum_6 : cX4_checksum.data.toList.drop 138 = dktX4_checksum_6 := dk_seg dksX4_checksum_5 24 rfl rfl
theorem dksX4_checksum_7 : cX4_checksum.data.toList.drop 162 = dktX4_checksum_7 := dk_seg dksX4_checksum_6 24 rfl rfl
theorem dX4_checksum_0 : decode cX4_checksum 0 = .ok (.aload_n 0, 1) := dk_42 (dk_at dksX4_checksum_0 0 rfl rfl)
theorem dX4_checksum_1 : decode cX4_checksum 1 = .ok (.iconst 0, 1) := dk_3 (dk_at dksX4_checksum_0 1 rfl rfl)
theorem dX4_checksum_2 : decode cX4_checksum 2 = .ok (.putfield 32, 3) := dk_181 0 32 (dk_at dksX4_checksum_0 2 rfl rfl)
theorem dX4_checksum_5 : decode cX4_checksum 5 = .ok (.lconst 0, 1) := dk_9 (dk_at dksX4_checksum_0 5 rfl rfl)
theorem dX4_checksum_6 : decode cX4_checksum 6 = .ok (.lstore_n 1, 1) := dk_64 (dk_at dksX4_checksum_0 6 rfl rfl)
theorem dX4_checksum_7 : decode cX4_checksum 7 = .ok (.iconst 0, 1) := dk_3 (dk_at dksX4_checksum_0 7 rfl rfl)
theorem dX4_checksum_8 : decode cX4_checksum 8 = .ok (.istore_n 3, 1) := dk_62 (dk_at dksX4_checksum_0 8 rfl rfl)
theorem dX4_checksum_9 : decode cX4_checksum 9 = .ok (.iload_n 3, 1) := dk_29 (dk_at dksX4_checksum_0 9 rfl rfl)
theorem dX4_checksum_10 : decode cX4_checksum 10 = .ok (.aload_n 0, 1) := dk_42 (dk_at dksX4_checksum_0 10 rfl rfl)
theorem dX4_checksum_11 : decode cX4_checksum 11 = .ok (.getfield 17, 3) := dk_180 0 17 (dk_at dksX4_checksum_0 11 rfl rfl)
theorem dX4_checksum_14 : decode cX4_checksum 14 = .ok (.iconst 3, 1) := dk_6 (dk_at dksX4_checksum_0 14 rfl rfl)
theorem dX4_checksum_15 : decode cX4_checksum 15 = .ok (.iaload, 1) := dk_46 (dk_at dksX4_checksum_0 15 rfl rfl)
theorem dX4_checksum_16 : decode cX4_checksum 16 = .ok (.if_icmp .ge 89, 3) := dk_162 0 89 (dk_at dksX4_checksum_0 16 rfl rfl)
theorem dX4_checksum_19 : decode cX4_checksum 19 = .ok (.ldc2_w 324, 3) := dk_20 1 68 (dk_at dksX4_checksum_0 19 rfl rfl)
theorem dX4_checksum_22 : decode cX4_checksum 22 = .ok (.ldc2_w 324, 3) := dk_20 1 68 (dk_at dksX4_checksum_1 0 rfl rfl)
theorem dX4_checksum_25 : decode cX4_checksum 25 = .ok (.lload_n 1, 1) := dk_31 (dk_at dksX4_checksum_1 3 rfl rfl)
theorem dX4_checksum_26 : decode cX4_checksum 26 = .ok (.lmul, 1) := dk_105 (dk_at dksX4_checksum_1 4 rfl rfl)
theorem dX4_checksum_27 : decode cX4_checksum 27 = .ok (.aload_n 0, 1) := dk_42 (dk_at dksX4_checksum_1 5 rfl rfl)
theorem dX4_checksum_28 : decode cX4_checksum 28 = .ok (.getfield 17, 3) := dk_180 0 17 (dk_at dksX4_checksum_1 6 rfl rfl)
theorem dX4_checksum_31 : decode cX4_checksum 31 = .ok (.iload_n 3, 1) := dk_29 (dk_at dksX4_checksum_1 9 rfl rfl)
theorem dX4_checksum_32 : decode cX4_checksum 32 = .ok (.invokestatic 35, 3) := dk_184 0 35 (dk_at dksX4_checksum_1 10 rfl rfl)
theorem dX4_checksum_35 : decode cX4_checksum 35 = .ok (.iaload, 1) := dk_46 (dk_at dksX4_checksum_1 13 rfl rfl)
theorem dX4_checksum_36 : decode cX4_checksum 36 = .ok (.i2l, 1) := dk_133 (dk_at dksX4_checksum_1 14 rfl rfl)
theorem dX4_checksum_37 : decode cX4_checksum 37 = .ok (.ladd, 1) := dk_97 (dk_at dksX4_checksum_1 15 rfl rfl)
theorem dX4_checksum_38 : decode cX4_checksum 38 = .ok (.lmul, 1) := dk_105 (dk_at dksX4_checksum_1 16 rfl rfl)
theorem dX4_checksum_39 : decode cX4_checksum 39 = .ok (.aload_n 0, 1) := dk_42 (dk_at dksX4_checksum_1 17 rfl rfl)
theorem dX4_checksum_40 : decode cX4_checksum 40 = .ok (.getfield 17, 3) := dk_180 0 17 (dk_at dksX4_checksum_1 18 rfl rfl)
theorem dX4_checksum_43 : decode cX4_checksum 43 = .ok (.iload_n 3, 1) := dk_29 (dk_at dksX4_checksum_1 21 rfl rfl)
theorem dX4_checksum_44 : decode cX4_checksum 44 = .ok (.invokestatic 35, 3) := dk_184 0 35 (dk_at dksX4_checksum_2 0 rfl rfl)
theorem dX4_checksum_47 : decode cX4_checksum 47 = .ok (.iconst 2, 1) := dk_5 (dk_at dksX4_checksum_2 3 rfl rfl)
theorem dX4_checksum_48 : decode cX4_checksum 48 = .ok (.iadd, 1) := dk_96 (dk_at dksX4_checksum_2 4 rfl rfl)
theorem dX4_checksum_49 : decode cX4_checksum 49 = .ok (.iaload, 1) := dk_46 (dk_at dksX4_checksum_2 5 rfl rfl)
theorem dX4_checksum_50 : decode cX4_checksum 50 = .ok (.i2l, 1) := dk_133 (dk_at dksX4_checksum_2 6 rfl rfl)
theorem dX4_checksum_51 : decode cX4_checksum 51 = .ok (.ladd, 1) := dk_97 (dk_at dksX4_checksum_2 7 rfl rfl)
theorem dX4_checksum_52 : decode cX4_checksum 52 = .ok (.lstore_n 1, 1) := dk_64 (dk_at dksX4_checksum_2 8 rfl rfl)
theorem dX4_checksum_53 : decode cX4_checksum 53 = .ok (.iconst 0, 1) := dk_3 (dk_at dksX4_checksum_2 9 rfl rfl)
theorem dX4_checksum_54 : decode cX4_checksum 54 = .ok (.istore 4, 2) := dk_54 4 (dk_at dksX4_checksum_2 10 rfl rfl)
theorem dX4_checksum_56 : decode cX4_checksum 56 = .ok (.iload 4, 2) := dk_21 4 (dk_at dksX4_checksum_2 12 rfl rfl)
theorem dX4_checksum_58 : decode cX4_checksum 58 = .ok (.aload_n 0, 1) := dk_42 (dk_at dksX4_checksum_2 14 rfl rfl)
theorem dX4_checksum_59 : decode cX4_checksum 59 = .ok (.iload_n 3, 1) := dk_29 (dk_at dksX4_checksum_2 15 rfl rfl)
theorem dX4_checksum_60 : decode cX4_checksum 60 = .ok (.invokevirtual 39, 3) := dk_182 0 39 (dk_at dksX4_checksum_2 16 rfl rfl)
theorem dX4_checksum_63 : decode cX4_checksum 63 = .ok (.if_icmp .ge 36, 3) := dk_162 0 36 (dk_at dksX4_checksum_2 19 rfl rfl)
theorem dX4_checksum_66 : decode cX4_checksum 66 = .ok (.ldc2_w 324, 3) := dk_20 1 68 (dk_at dksX4_checksum_3 0 rfl rfl)
theorem dX4_checksum_69 : decode cX4_checksum 69 = .ok (.lload_n 1, 1) := dk_31 (dk_at dksX4_checksum_3 3 rfl rfl)
theorem dX4_checksum_70 : decode cX4_checksum 70 = .ok (.lmul, 1) := dk_105 (dk_at dksX4_checksum_3 4 rfl rfl)
theorem dX4_checksum_71 : decode cX4_checksum 71 = .ok (.bipush 100, 2) := dk_16 100 (dk_at dksX4_checksum_3 5 rfl rfl)
theorem dX4_checksum_73 : decode cX4_checksum 73 = .ok (.aload_n 0, 1) := dk_42 (dk_at dksX4_checksum_3 7 rfl rfl)
theorem dX4_checksum_74 : decode cX4_checksum 74 = .ok (.iload_n 3, 1) := dk_29 (dk_at dksX4_checksum_3 8 rfl rfl)
theorem dX4_checksum_75 : decode cX4_checksum 75 = .ok (.iload 4, 2) := dk_21 4 (dk_at dksX4_checksum_3 9 rfl rfl)
theorem dX4_checksum_77 : decode cX4_checksum 77 = .ok (.invokevirtual 72, 3) := dk_182 0 72 (dk_at dksX4_checksum_3 11 rfl rfl)
theorem dX4_checksum_80 : decode cX4_checksum 80 = .ok (.imul, 1) := dk_104 (dk_at dksX4_checksum_3 14 rfl rfl)
theorem dX4_checksum_81 : decode cX4_checksum 81 = .ok (.i2l, 1) := dk_133 (dk_at dksX4_checksum_3 15 rfl rfl)
theorem dX4_checksum_82 : decode cX4_checksum 82 = .ok (.ladd, 1) := dk_97 (dk_at dksX4_checksum_3 16 rfl rfl)
theorem dX4_checksum_83 : decode cX4_checksum 83 = .ok (.aload_n 0, 1) := dk_42 (dk_at dksX4_checksum_3 17 rfl rfl)
theorem dX4_checksum_84 : decode cX4_checksum 84 = .ok (.iload_n 3, 1) := dk_29 (dk_at dksX4_checksum_3 18 rfl rfl)
theorem dX4_checksum_85 : decode cX4_checksum 85 = .ok (.iload 4, 2) := dk_21 4 (dk_at dksX4_checksum_3 19 rfl rfl)
theorem dX4_checksum_87 : decode cX4_checksum 87 = .ok (.invokevirtual 75, 3) := dk_182 0 75 (dk_at dksX4_checksum_3 21 rfl rfl)
theorem dX4_checksum_90 : decode cX4_checksum 90 = .ok (.i2l, 1) := dk_133 (dk_at dksX4_checksum_4 0 rfl rfl)
theorem dX4_checksum_91 : decode cX4_checksum 91 = .ok (.ladd, 1) := dk_97 (dk_at dksX4_checksum_4 1 rfl rfl)
theorem dX4_checksum_92 : decode cX4_checksum 92 = .ok (.lstore_n 1, 1) := dk_64 (dk_at dksX4_checksum_4 2 rfl rfl)
theorem dX4_checksum_93 : decode cX4_checksum 93 = .ok (.iinc 4 1, 3) := dk_132 4 1 (dk_at dksX4_checksum_4 3 rfl rfl)
theorem dX4_checksum_96 : decode cX4_checksum 96 = .ok (.goto (-40), 3) := dk_167 255 216 (dk_at dksX4_checksum_4 6 rfl rfl)
theorem dX4_checksum_99 : decode cX4_checksum 99 = .ok (.iinc 3 1, 3) := dk_132 3 1 (dk_at dksX4_checksum_4 9 rfl rfl)
theorem dX4_checksum_102 : decode cX4_checksum 102 = .ok (.goto (-93), 3) := dk_167 255 163 (dk_at dksX4_checksum_4 12 rfl rfl)
theorem dX4_checksum_105 : decode cX4_checksum 105 = .ok (.iconst 0, 1) := dk_3 (dk_at dksX4_checksum_4 15 rfl rfl)
theorem dX4_checksum_106 : decode cX4_checksum 106 = .ok (.istore_n 3, 1) := dk_62 (dk_at dksX4_checksum_4 16 rfl rfl)
theorem dX4_checksum_107 : decode cX4_checksum 107 = .ok (.iload_n 3, 1) := dk_29 (dk_at dksX4_checksum_4 17 rfl rfl)
theorem dX4_checksum_108 : decode cX4_checksum 108 = .ok (.aload_n 0, 1) := dk_42 (dk_at dksX4_checksum_4 18 rfl rfl)
theorem dX4_checksum_109 : decode cX4_checksum 109 = .ok (.getfield 17, 3) := dk_180 0 17 (dk_at dksX4_checksum_4 19 rfl rfl)
theorem dX4_checksum_112 : decode cX4_checksum 112 = .ok (.iconst 2, 1) := dk_5 (dk_at dksX4_checksum_4 22 rfl rfl)
theorem dX4_checksum_113 : decode cX4_checksum 113 = .ok (.iaload, 1) := dk_46 (dk_at dksX4_checksum_4 23 rfl rfl)
theorem dX4_checksum_114 : decode cX4_checksum 114 = .ok (.if_icmp .ge 22, 3) := dk_162 0 22 (dk_at dksX4_checksum_5 0 rfl rfl)
theorem dX4_checksum_117 : decode cX4_checksum 117 = .ok (.ldc2_w 324, 3) := dk_20 1 68 (dk_at dksX4_checksum_5 3 rfl rfl)
theorem dX4_checksum_120 : decode cX4_checksum 120 = .ok (.lload_n 1, 1) := dk_31 (dk_at dksX4_checksum_5 6 rfl rfl)
theorem dX4_checksum_121 : decode cX4_checksum 121 = .ok (.lmul, 1) := dk_105 (dk_at dksX4_checksum_5 7 rfl rfl)
theorem dX4_checksum_122 : decode cX4_checksum 122 = .ok (.aload_n 0, 1) := dk_42 (dk_at dksX4_checksum_5 8 rfl rfl)
theorem dX4_checksum_123 : decode cX4_checksum 123 = .ok (.iload_n 3, 1) := dk_29 (dk_at dksX4_checksum_5 9 rfl rfl)
theorem dX4_checksum_124 : decode cX4_checksum 124 = .ok (.invokevirtual 270, 3) := dk_182 1 14 (dk_at dksX4_checksum_5 10 rfl rfl)
theorem dX4_checksum_127 : decode cX4_checksum 127 = .ok (.i2l, 1) := dk_133 (dk_at dksX4_checksum_5 13 rfl rfl)
theorem dX4_checksum_128 : decode cX4_checksum 128 = .ok (.ladd, 1) := dk_97 (dk_at dksX4_checksum_5 14 rfl rfl)
theorem dX4_checksum_129 : decode cX4_checksum 129 = .ok (.lstore_n 1, 1) := dk_64 (dk_at dksX4_checksum_5 15 rfl rfl)
theorem dX4_checksum_130 : decode cX4_checksum 130 = .ok (.iinc 3 1, 3) := dk_132 3 1 (dk_at dksX4_checksum_5 16 rfl rfl)
theorem dX4_checksum_133 : decode cX4_checksum 133 = .ok (.goto (-26), 3) := dk_167 255 230 (dk_at dksX4_checksum_5 19 rfl rfl)
theorem dX4_checksum_136 : decode cX4_checksum 136 = .ok (.iconst 0, 1) := dk_3 (dk_at dksX4_checksum_5 22 rfl rfl)
theorem dX4_checksum_137 : decode cX4_checksum 137 = .ok (.istore_n 3, 1) := dk_62 (dk_at dksX4_checksum_5 23 rfl rfl)
theorem dX4_checksum_138 : decode cX4_checksum 138 = .ok (.iload_n 3, 1) := dk_29 (dk_at dksX4_checksum_6 0 rfl rfl)
theorem dX4_checksum_139 : decode cX4_checksum 139 = .ok (.iconst 4, 1) := dk_7 (dk_at dksX4_checksum_6 1 rfl rfl)
theorem dX4_checksum_140 : decode cX4_checksum 140 = .ok (.if_icmp .ge 22, 3) := dk_162 0 22 (dk_at dksX4_checksum_6 2 rfl rfl)
theorem dX4_checksum_143 : decode cX4_checksum 143 = .ok (.ldc2_w 324, 3) := dk_20 1 68 (dk_at dksX4_checksum_6 5 rfl rfl)
theorem dX4_checksum_146 : decode cX4_checksum 146 = .ok (.lload_n 1, 1) := dk_31 (dk_at dksX4_checksum_6 8 rfl rfl)
theorem dX4_checksum_147 : decode cX4_checksum 147 = .ok (.lmul, 1) := dk_105 (dk_at dksX4_checksum_6 9 rfl rfl)
theorem dX4_checksum_148 : decode cX4_checksum 148 = .ok (.aload_n 0, 1) := dk_42 (dk_at dksX4_checksum_6 10 rfl rfl)
theorem dX4_checksum_149 : decode cX4_checksum 149 = .ok (.iload_n 3, 1) := dk_29 (dk_at dksX4_checksum_6 11 rfl rfl)
theorem dX4_checksum_150 : decode cX4_checksum 150 = .ok (.invokevirtual 312, 3) := dk_182 1 56 (dk_at dksX4_checksum_6 12 rfl rfl)
theorem dX4_checksum_153 : decode cX4_checksum 153 = .ok (.i2l, 1) := dk_133 (dk_at dksX4_checksum_6 15 rfl rfl)
theorem dX4_checksum_154 : decode cX4_checksum 154 = .ok (.ladd, 1) := dk_97 (dk_at dksX4_checksum_6 16 rfl rfl)
theorem dX4_checksum_155 : decode cX4_checksum 155 = .ok (.lstore_n 1, 1) := dk_64 (dk_at dksX4_checksum_6 17 rfl rfl)
theorem dX4_checksum_156 : decode cX4_checksum 156 = .ok (.iinc 3 1, 3) := dk_132 3 1 (dk_at dksX4_checksum_6 18 rfl rfl)
theorem dX4_checksum_159 : decode cX4_checksum 159 = .ok (.goto (-21), 3) := dk_167 255 235 (dk_at dksX4_checksum_6 21 rfl rfl)
theorem dX4_checksum_162 : decode cX4_checksum 162 = .ok (.lload_n 1, 1) := dk_31 (dk_at dksX4_checksum_7 0 rfl rfl)
theorem dX4_checksum_163 : decode cX4_checksum 163 = .ok (.lreturn, 1) := dk_173 (dk_at dksX4_checksum_7 1 rfl rfl)
theorem q109 : (Jvm.Cond.initialized "CornerClaimsModel") ∈ lw_all := lw_g (lw_at lw_m1 26 rfl) rfl
theorem q1119 : (Jvm.Cond.selects "CornerClaimsModel" ({ cls := "java/lang/Object", name := "hashCode", desc := "()I" } : Jvm.MethodName) ({ cls := "java/lang/Object", name := "hashCode", desc := "()I" } : Jvm.MethodName)) ∈ lw_all := lw_g (lw_at lw_m5 76 rfl) rfl
theorem q1149 : (Jvm.Cond.selects "CornerClaimsModel" ({ cls := "java/lang/Object", name := "equals", desc := "(Ljava/lang/Object;)Z" } : Jvm.MethodName) ({ cls := "java/lang/Object", name := "equals", desc := "(Ljava/lang/Object;)Z" } : Jvm.MethodName)) ∈ lw_all := lw_g (lw_at lw_m5 106 rfl) rfl
theorem q1192 : (Jvm.Cond.selects "CornerClaimsModel" ({ cls := "java/lang/Object", name := "getClass", desc := "()Ljava/lang/Class;" } : Jvm.MethodName) ({ cls := "java/lang/Object", name := "getClass", desc := "()Ljava/lang/Class;" } : Jvm.MethodName)) ∈ lw_all := lw_g (lw_at lw_m5 149 rfl) rfl
theorem q2072 : (Jvm.Cond.instantiable "CornerClaimsModel" (20 : Nat)) ∈ lw_all := lw_g (lw_at lw_m9 69 rfl) rfl
theorem q2074 : (Jvm.Cond.instanceMethod ({ cls := "CornerClaimsModel", name := "<init>", desc := "()V" } : Jvm.MethodName)) ∈ lw_all := lw_g (lw_at lw_m9 71 rfl) rfl
theorem q2075 : (Jvm.Cond.code ({ cls := "CornerClaimsModel", name := "<init>", desc := "()V" } : Jvm.MethodName) prog_10_method_1_code (1 : Nat) (Option.none : Option Jvm.ClassFile.FieldType)) ∈ lw_all := lw_g (lw_at lw_m9 72 rfl) rfl
theorem q2076 : (Jvm.Cond.methodLink "CornerClaimsModel" (3 : Nat) ({ cls := "java/lang/Object", name := "<init>", desc := "()V" } : Jvm.MethodName)) ∈ lw_all := lw_g (lw_at lw_m9 73 rfl) rfl
theorem q2077 : (Jvm.Cond.classLink "CornerClaimsModel" (23 : Nat) "[[I") ∈ lw_all := lw_g (lw_at lw_m9 74 rfl) rfl
theorem q2079 : (Jvm.Cond.fieldLink "CornerClaimsModel" (32 : Nat) "CornerClaimsModel" "thrown" "I") ∈ lw_all := lw_g (lw_at lw_m9 76 rfl) rfl
theorem q2080 : (Jvm.Cond.fieldLink "CornerClaimsModel" (9 : Nat) "CornerClaimsModel" "buffer" "[I") ∈ lw_all := lw_g (lw_at lw_m9 77 rfl) rfl
theorem q2081 : (Jvm.Cond.fieldLink "CornerClaimsModel" (127 : Nat) "CornerClaimsModel" "bufferLength" "I") ∈ lw_all := lw_g (lw_at lw_m9 78 rfl) rfl
theorem q2082 : (Jvm.Cond.fieldLink "CornerClaimsModel" (130 : Nat) "CornerClaimsModel" "textLength" "I") ∈ lw_all := lw_g (lw_at lw_m9 79 rfl) rfl
theorem q2083 : (Jvm.Cond.fieldLink "CornerClaimsModel" (133 : Nat) "CornerClaimsModel" "position" "I") ∈ lw_all := lw_g (lw_at lw_m9 80 rfl) rfl
theorem q2084 : (Jvm.Cond.fieldLink "CornerClaimsModel" (139 : Nat) "CornerClaimsModel" "error" "I") ∈ lw_all := lw_g (lw_at lw_m9 81 rfl) rfl
theorem q2085 : (Jvm.Cond.fieldLink "CornerClaimsModel" (142 : Nat) "CornerClaimsModel" "errorAt" "I") ∈ lw_all := lw_g (lw_at lw_m9 82 rfl) rfl
theorem q2086 : (Jvm.Cond.fieldLink "CornerClaimsModel" (13 : Nat) "CornerClaimsModel" "errorOffset" "I") ∈ lw_all := lw_g (lw_at lw_m9 83 rfl) rfl
theorem q2087 : (Jvm.Cond.fieldLink "CornerClaimsModel" (17 : Nat) "CornerClaimsModel" "data" "[I") ∈ lw_all := lw_g (lw_at lw_m9 84 rfl) rfl
theorem q2088 : (Jvm.Cond.fieldLink "CornerClaimsModel" (20 : Nat) "CornerClaimsModel" "old" "[I") ∈ lw_all := lw_g (lw_at lw_m9 85 rfl) rfl
theorem q2089 : (Jvm.Cond.fieldLink "CornerClaimsModel" (25 : Nat) "CornerClaimsModel" "history" "[[I") ∈ lw_all := lw_g (lw_at lw_m9 86 rfl) rfl
theorem q2090 : (Jvm.Cond.fieldLink "CornerClaimsModel" (315 : Nat) "CornerClaimsModel" "undoDepth" "I") ∈ lw_all := lw_g (lw_at lw_m9 87 rfl) rfl
theorem q2091 : (Jvm.Cond.fieldLink "CornerClaimsModel" (87 : Nat) "CornerClaimsModel" "goesPolygon" "I") ∈ lw_all := lw_g (lw_at lw_m9 88 rfl) rfl
theorem q2092 : (Jvm.Cond.fieldLink "CornerClaimsModel" (90 : Nat) "CornerClaimsModel" "goesOne" "I") ∈ lw_all := lw_g (lw_at lw_m9 89 rfl) rfl
theorem q2093 : (Jvm.Cond.fieldLink "CornerClaimsModel" (93 : Nat) "CornerClaimsModel" "goesTwo" "I") ∈ lw_all := lw_g (lw_at lw_m9 90 rfl) rfl
theorem q2094 : (Jvm.Cond.fieldLink "CornerClaimsModel" (96 : Nat) "CornerClaimsModel" "goesCorner" "I") ∈ lw_all := lw_g (lw_at lw_m9 91 rfl) rfl
theorem q2095 : (Jvm.Cond.fieldLink "CornerClaimsModel" (169 : Nat) "CornerClaimsModel" "numberStart" "I") ∈ lw_all := lw_g (lw_at lw_m9 92 rfl) rfl
theorem q2096 : (Jvm.Cond.fieldLink "CornerClaimsModel" (173 : Nat) "CornerClaimsModel" "nesting" "I") ∈ lw_all := lw_g (lw_at lw_m9 93 rfl) rfl
theorem q2097 : (Jvm.Cond.fieldLink "CornerClaimsModel" (209 : Nat) "CornerClaimsModel" "seen" "I") ∈ lw_all := lw_g (lw_at lw_m9 94 rfl) rfl
theorem q2098 : (Jvm.Cond.fieldLink "CornerClaimsModel" (28 : Nat) "CornerClaimsModel" "stack" "[J") ∈ lw_all := lw_g (lw_at lw_m9 95 rfl) rfl
theorem q2099 : (Jvm.Cond.lays "CornerClaimsModel" "CornerClaimsModel" "thrown" "I") ∈ lw_all := lw_g (lw_at lw_m9 96 rfl) rfl
theorem q2100 : (Jvm.Cond.soleField "CornerClaimsModel" "thrown") ∈ lw_all := lw_g (lw_at lw_m9 97 rfl) rfl
theorem q2101 : (Jvm.Cond.laysFinal "CornerClaimsModel" "CornerClaimsModel" "buffer" "[I") ∈ lw_all := lw_g (lw_at lw_m9 98 rfl) rfl
theorem q2102 : (Jvm.Cond.soleField "CornerClaimsModel" "buffer") ∈ lw_all := lw_g (lw_at lw_m9 99 rfl) rfl
theorem q2103 : (Jvm.Cond.lays "CornerClaimsModel" "CornerClaimsModel" "bufferLength" "I") ∈ lw_all := lw_g (lw_at lw_m9 100 rfl) rfl
theorem q2104 : (Jvm.Cond.soleField "CornerClaimsModel" "bufferLength") ∈ lw_all := lw_g (lw_at lw_m9 101 rfl) rfl
theorem q2105 : (Jvm.Cond.lays "CornerClaimsModel" "CornerClaimsModel" "textLength" "I") ∈ lw_all := lw_g (lw_at lw_m9 102 rfl) rfl
theorem q2106 : (Jvm.Cond.soleField "CornerClaimsModel" "textLength") ∈ lw_all := lw_g (lw_at lw_m9 103 rfl) rfl
theorem q2107 : (Jvm.Cond.lays "CornerClaimsModel" "CornerClaimsModel" "position" "I") ∈ lw_all := lw_g (lw_at lw_m9 104 rfl) rfl
theorem q2108 : (Jvm.Cond.soleField "CornerClaimsModel" "position") ∈ lw_all := lw_g (lw_at lw_m9 105 rfl) rfl
theorem q2109 : (Jvm.Cond.lays "CornerClaimsModel" "CornerClaimsModel" "error" "I") ∈ lw_all := lw_g (lw_at lw_m9 106 rfl) rfl
theorem q2110 : (Jvm.Cond.soleField "CornerClaimsModel" "error") ∈ lw_all := lw_g (lw_at lw_m9 107 rfl) rfl
theorem q2111 : (Jvm.Cond.lays "CornerClaimsModel" "CornerClaimsModel" "errorAt" "I") ∈ lw_all := lw_g (lw_at lw_m9 108 rfl) rfl
theorem q2112 : (Jvm.Cond.soleField "CornerClaimsModel" "errorAt") ∈ lw_all := lw_g (lw_at lw_m9 109 rfl) rfl
theorem q2113 : (Jvm.Cond.lays "CornerClaimsModel" "CornerClaimsModel" "errorOffset" "I") ∈ lw_all := lw_g (lw_at lw_m9 110 rfl) rfl
theorem q2114 : (Jvm.Cond.soleField "CornerClaimsModel" "errorOffset") ∈ lw_all := lw_g (lw_at lw_m9 111 rfl) rfl
theorem q2115 : (Jvm.Cond.laysFinal "CornerClaimsModel" "CornerClaimsModel" "data" "[I") ∈ lw_all := lw_g (lw_at lw_m9 112 rfl) rfl
theorem q2116 : (Jvm.Cond.soleField "CornerClaimsModel" "data") ∈ lw_all := lw_g (lw_at lw_m9 113 rfl) rfl
theorem q2117 : (Jvm.Cond.laysFinal "CornerClaimsModel" "CornerClaimsModel" "old" "[I") ∈ lw_all := lw_g (lw_at lw_m9 114 rfl) rfl
theorem q2118 : (Jvm.Cond.soleField "CornerClaimsModel" "old") ∈ lw_all := lw_g (lw_at lw_m9 115 rfl) rfl
theorem q2119 : (Jvm.Cond.laysFinal "CornerClaimsModel" "CornerClaimsModel" "history" "[[I") ∈ lw_all := lw_g (lw_at lw_m9 116 rfl) rfl
theorem q2120 : (Jvm.Cond.soleField "CornerClaimsModel" "history") ∈ lw_all := lw_g (lw_at lw_m9 117 rfl) rfl
theorem q2121 : (Jvm.Cond.lays "CornerClaimsModel" "CornerClaimsModel" "undoDepth" "I") ∈ lw_all := lw_g (lw_at lw_m9 118 rfl) rfl
theorem q2122 : (Jvm.Cond.soleField "CornerClaimsModel" "undoDepth") ∈ lw_all := lw_g (lw_at lw_m9 119 rfl) rfl
theorem q2123 : (Jvm.Cond.lays "CornerClaimsModel" "CornerClaimsModel" "goesPolygon" "I") ∈ lw_all := lw_g (lw_at lw_m9 120 rfl) rfl
theorem q2124 : (Jvm.Cond.soleField "CornerClaimsModel" "goesPolygon") ∈ lw_all := lw_g (lw_at lw_m9 121 rfl) rfl
theorem q2125 : (Jvm.Cond.lays "CornerClaimsModel" "CornerClaimsModel" "goesOne" "I") ∈ lw_all := lw_g (lw_at lw_m9 122 rfl) rfl
theorem q2126 : (Jvm.Cond.soleField "CornerClaimsModel" "goesOne") ∈ lw_all := lw_g (lw_at lw_m9 123 rfl) rfl
theorem q2127 : (Jvm.Cond.lays "CornerClaimsModel" "CornerClaimsModel" "goesTwo" "I") ∈ lw_all := lw_g (lw_at lw_m9 124 rfl) rfl
theorem q2128 : (Jvm.Cond.soleField "CornerClaimsModel" "goesTwo") ∈ lw_all := lw_g (lw_at lw_m9 125 rfl) rfl
theorem q2129 : (Jvm.Cond.lays "CornerClaimsModel" "CornerClaimsModel" "goesCorner" "I") ∈ lw_all := lw_g (lw_at lw_m9 126 rfl) rfl
theorem q2130 : (Jvm.Cond.soleField "CornerClaimsModel" "goesCorner") ∈ lw_all := lw_g (lw_at lw_m9 127 rfl) rfl
theorem q2131 : (Jvm.Cond.lays "CornerClaimsModel" "CornerClaimsModel" "numberStart" "I") ∈ lw_all := lw_g (lw_at lw_m9 128 rfl) rfl
theorem q2132 : (Jvm.Cond.soleField "CornerClaimsModel" "numberStart") ∈ lw_all := lw_g (lw_at lw_m9 129 rfl) rfl
theorem q2133 : (Jvm.Cond.lays "CornerClaimsModel" "CornerClaimsModel" "nesting" "I") ∈ lw_all := lw_g (lw_at lw_m9 130 rfl) rfl
theorem q2134 : (Jvm.Cond.soleField "CornerClaimsModel" "nesting") ∈ lw_all := lw_g (lw_at lw_m9 131 rfl) rfl
theorem q2135 : (Jvm.Cond.lays "CornerClaimsModel" "CornerClaimsModel" "seen" "I") ∈ lw_all := lw_g (lw_at lw_m9 132 rfl) rfl
theorem q2136 : (Jvm.Cond.soleField "CornerClaimsModel" "seen") ∈ lw_all := lw_g (lw_at lw_m9 133 rfl) rfl
theorem q2137 : (Jvm.Cond.laysFinal "CornerClaimsModel" "CornerClaimsModel" "stack" "[J") ∈ lw_all := lw_g (lw_at lw_m9 134 rfl) rfl
theorem q2138 : (Jvm.Cond.soleField "CornerClaimsModel" "stack") ∈ lw_all := lw_g (lw_at lw_m9 135 rfl) rfl
theorem q2139 : (Jvm.Cond.superclass "CornerClaimsModel" "java/lang/Object") ∈ lw_all := lw_g (lw_at lw_m9 136 rfl) rfl
theorem q2143 : (Jvm.Cond.instanceMethod ({ cls := "CornerClaimsModel", name := "thrown", desc := "()I" } : Jvm.MethodName)) ∈ lw_all := lw_g (lw_at lw_m9 140 rfl) rfl
theorem q2144 : (Jvm.Cond.selects "CornerClaimsModel" ({ cls := "CornerClaimsModel", name := "thrown", desc := "()I" } : Jvm.MethodName) ({ cls := "CornerClaimsModel", name := "thrown", desc := "()I" } : Jvm.MethodName)) ∈ lw_all := lw_g (lw_at lw_m9 141 rfl) rfl
theorem q2145 : (Jvm.Cond.code ({ cls := "CornerClaimsModel", name := "thrown", desc := "()I" } : Jvm.MethodName) prog_10_method_2_code (1 : Nat) (Option.some Jvm.ClassFile.FieldType.int)) ∈ lw_all := lw_g (lw_at lw_m9 142 rfl) rfl
theorem q2147 : (Jvm.Cond.instanceMethod ({ cls := "CornerClaimsModel", name := "append", desc := "(IIIII)I" } : Jvm.MethodName)) ∈ lw_all := lw_g (lw_at lw_m9 144 rfl) rfl
theorem q2148 : (Jvm.Cond.selects "CornerClaimsModel" ({ cls := "CornerClaimsModel", name := "append", desc := "(IIIII)I" } : Jvm.MethodName) ({ cls := "CornerClaimsModel", name := "append", desc := "(IIIII)I" } : Jvm.MethodName)) ∈ lw_all := lw_g (lw_at lw_m9 145 rfl) rfl
theorem q2149 : (Jvm.Cond.code ({ cls := "CornerClaimsModel", name := "append", desc := "(IIIII)I" } : Jvm.MethodName) prog_10_method_34_code (8 : Nat) (Option.some Jvm.ClassFile.FieldType.int)) ∈ lw_all := lw_g (lw_at lw_m9 146 rfl) rfl
theorem q2151 : (Jvm.Cond.instanceMethod ({ cls := "CornerClaimsModel", name := "load", desc := "(I)I" } : Jvm.MethodName)) ∈ lw_all := lw_g (lw_at lw_m9 148 rfl) rfl
theorem q2152 : (Jvm.Cond.selects "CornerClaimsModel" ({ cls := "CornerClaimsModel", name := "load", desc := "(I)I" } : Jvm.MethodName) ({ cls := "CornerClaimsModel", name := "load", desc := "(I)I" } : Jvm.MethodName)) ∈ lw_all := lw_g (lw_at lw_m9 149 rfl) rfl
theorem q2153 : (Jvm.Cond.code ({ cls := "CornerClaimsModel", name := "load", desc := "(I)I" } : Jvm.MethodName) prog_10_method_51_code (3 : Nat) (Option.some Jvm.ClassFile.FieldType.int)) ∈ lw_all := lw_g (lw_at lw_m9 150 rfl) rfl
theorem q2154 : (Jvm.Cond.methodLink "CornerClaimsModel" (57 : Nat) ({ cls := "CornerClaimsModel", name := "in", desc := "(III)Z" } : Jvm.MethodName)) ∈ lw_all := lw_g (lw_at lw_m9 151 rfl) rfl
theorem q2155 : (Jvm.Cond.static ({ cls := "CornerClaimsModel", name := "in", desc := "(III)Z" } : Jvm.MethodName)) ∈ lw_all := lw_g (lw_at lw_m9 152 rfl) rfl
theorem q2156 : (Jvm.Cond.code ({ cls := "CornerClaimsModel", name := "in", desc := "(III)Z" } : Jvm.MethodName) prog_10_method_4_code (3 : Nat) (Option.some Jvm.ClassFile.FieldType.boolean)) ∈ lw_all := lw_g (lw_at lw_m9 153 rfl) rfl
theorem q2157 : (Jvm.Cond.methodLink "CornerClaimsModel" (241 : Nat) ({ cls := "CornerClaimsModel", name := "fails", desc := "(ZI)Z" } : Jvm.MethodName)) ∈ lw_all := lw_g (lw_at lw_m9 154 rfl) rfl
theorem q2158 : (Jvm.Cond.privateMethod ({ cls := "CornerClaimsModel", name := "fails", desc := "(ZI)Z" } : Jvm.MethodName)) ∈ lw_tbl := lw_at lw_m9 155 rfl
theorem q2159 : (Jvm.Cond.instanceMethod ({ cls := "CornerClaimsModel", name := "fails", desc := "(ZI)Z" } : Jvm.MethodName)) ∈ lw_all := lw_g (lw_at lw_m9 156 rfl) rfl
theorem q2160 : (Jvm.Cond.code ({ cls := "CornerClaimsModel", name := "fails", desc := "(ZI)Z" } : Jvm.MethodName) prog_10_method_3_code (3 : Nat) (Option.some Jvm.ClassFile.FieldType.boolean)) ∈ lw_all := lw_g (lw_at lw_m9 157 rfl) rfl
theorem q2161 : (Jvm.Cond.methodLink "CornerClaimsModel" (245 : Nat) ({ cls := "CornerClaimsModel", name := "copy", desc := "([I[I)V" } : Jvm.MethodName)) ∈ lw_all := lw_g (lw_at lw_m9 158 rfl) rfl
theorem q2162 : (Jvm.Cond.static ({ cls := "CornerClaimsModel", name := "copy", desc := "([I[I)V" } : Jvm.MethodName)) ∈ lw_all := lw_g (lw_at lw_m9 159 rfl) rfl
theorem q2163 : (Jvm.Cond.code ({ cls := "CornerClaimsModel", name := "copy", desc := "([I[I)V" } : Jvm.MethodName) prog_10_method_7_code (3 : Nat) (Option.none : Option Jvm.ClassFile.FieldType)) ∈ lw_all := lw_g (lw_at lw_m9 160 rfl) rfl
theorem q2164 : (Jvm.Cond.stringRef "CornerClaimsModel" (249 : Nat) "field") ∈ lw_tbl := lw_at lw_m9 161 rfl
theorem q2165 : (Jvm.Cond.methodLink "CornerClaimsModel" (185 : Nat) ({ cls := "CornerClaimsModel", name := "takeWord", desc := "(Ljava/lang/String;)Z" } : Jvm.MethodName)) ∈ lw_all := lw_g (lw_at lw_m9 162 rfl) rfl
theorem q2166 : (Jvm.Cond.privateMethod ({ cls := "CornerClaimsModel", name := "takeWord", desc := "(Ljava/lang/String;)Z" } : Jvm.MethodName)) ∈ lw_tbl := lw_at lw_m9 163 rfl
theorem q2167 : (Jvm.Cond.instanceMethod ({ cls := "CornerClaimsModel", name := "takeWord", desc := "(Ljava/lang/String;)Z" } : Jvm.MethodName)) ∈ lw_all := lw_g (lw_at lw_m9 164 rfl) rfl
theorem q2168 : (Jvm.Cond.code ({ cls := "CornerClaimsModel", name := "takeWord", desc := "(Ljava/lang/String;)Z" } : Jvm.MethodName) prog_10_method_40_code (3 : Nat) (Option.some Jvm.ClassFile.FieldType.boolean)) ∈ lw_all := lw_g (lw_at lw_m9 165 rfl) rfl
theorem q2169 : (Jvm.Cond.methodLink "CornerClaimsModel" (145 : Nat) ({ cls := "CornerClaimsModel", name := "isGood", desc := "()Z" } : Jvm.MethodName)) ∈ lw_all := lw_g (lw_at lw_m9 166 rfl) rfl
theorem q2170 : (Jvm.Cond.privateMethod ({ cls := "CornerClaimsModel", name := "isGood", desc := "()Z" } : Jvm.MethodName)) ∈ lw_tbl := lw_at lw_m9 167 rfl
theorem q2171 : (Jvm.Cond.instanceMethod ({ cls := "CornerClaimsModel", name := "isGood", desc := "()Z" } : Jvm.MethodName)) ∈ lw_all := lw_g (lw_at lw_m9 168 rfl) rfl
theorem q2172 : (Jvm.Cond.code ({ cls := "CornerClaimsModel", name := "isGood", desc := "()Z" } : Jvm.MethodName) prog_10_method_37_code (1 : Nat) (Option.some Jvm.ClassFile.FieldType.boolean)) ∈ lw_all := lw_g (lw_at lw_m9 169 rfl) rfl
theorem q2173 : (Jvm.Cond.methodLink "CornerClaimsModel" (149 : Nat) ({ cls := "CornerClaimsModel", name := "next", desc := "()I" } : Jvm.MethodName)) ∈ lw_all := lw_g (lw_at lw_m9 170 rfl) rfl
theorem q2174 : (Jvm.Cond.privateMethod ({ cls := "CornerClaimsModel", name := "next", desc := "()I" } : Jvm.MethodName)) ∈ lw_tbl := lw_at lw_m9 171 rfl
theorem q2175 : (Jvm.Cond.instanceMethod ({ cls := "CornerClaimsModel", name := "next", desc := "()I" } : Jvm.MethodName)) ∈ lw_all := lw_g (lw_at lw_m9 172 rfl) rfl
theorem q2176 : (Jvm.Cond.code ({ cls := "CornerClaimsModel", name := "next", desc := "()I" } : Jvm.MethodName) prog_10_method_36_code (1 : Nat) (Option.some Jvm.ClassFile.FieldType.int)) ∈ lw_all := lw_g (lw_at lw_m9 173 rfl) rfl
theorem q2177 : (Jvm.Cond.methodLink "CornerClaimsModel" (136 : Nat) ({ cls := "CornerClaimsModel", name := "byteAt", desc := "(I)I" } : Jvm.MethodName)) ∈ lw_all := lw_g (lw_at lw_m9 174 rfl) rfl
theorem q2178 : (Jvm.Cond.privateMethod ({ cls := "CornerClaimsModel", name := "byteAt", desc := "(I)I" } : Jvm.MethodName)) ∈ lw_tbl := lw_at lw_m9 175 rfl
theorem q2179 : (Jvm.Cond.instanceMethod ({ cls := "CornerClaimsModel", name := "byteAt", desc := "(I)I" } : Jvm.MethodName)) ∈ lw_all := lw_g (lw_at lw_m9 176 rfl) rfl
theorem q2180 : (Jvm.Cond.code ({ cls := "CornerClaimsModel", name := "byteAt", desc := "(I)I" } : Jvm.MethodName) prog_10_method_35_code (2 : Nat) (Option.some Jvm.ClassFile.FieldType.int)) ∈ lw_all := lw_g (lw_at lw_m9 177 rfl) rfl
theorem q2181 : (Jvm.Cond.methodLink "CornerClaimsModel" (153 : Nat) ({ cls := "java/lang/String", name := "length", desc := "()I" } : Jvm.MethodName)) ∈ lw_all := lw_g (lw_at lw_m9 178 rfl) rfl
theorem q2182 : (Jvm.Cond.methodLink "CornerClaimsModel" (158 : Nat) ({ cls := "java/lang/String", name := "charAt", desc := "(I)C" } : Jvm.MethodName)) ∈ lw_all := lw_g (lw_at lw_m9 179 rfl) rfl
theorem q2193 : (Jvm.Cond.methodLink "CornerClaimsModel" (162 : Nat) ({ cls := "CornerClaimsModel", name := "report", desc := "(II)V" } : Jvm.MethodName)) ∈ lw_all := lw_g (lw_at lw_m9 190 rfl) rfl
theorem q2194 : (Jvm.Cond.privateMethod ({ cls := "CornerClaimsModel", name := "report", desc := "(II)V" } : Jvm.MethodName)) ∈ lw_tbl := lw_at lw_m9 191 rfl
theorem q2195 : (Jvm.Cond.instanceMethod ({ cls := "CornerClaimsModel", name := "report", desc := "(II)V" } : Jvm.MethodName)) ∈ lw_all := lw_g (lw_at lw_m9 192 rfl) rfl
theorem q2196 : (Jvm.Cond.code ({ cls := "CornerClaimsModel", name := "report", desc := "(II)V" } : Jvm.MethodName) prog_10_method_38_code (3 : Nat) (Option.none : Option Jvm.ClassFile.FieldType)) ∈ lw_all := lw_g (lw_at lw_m9 193 rfl) rfl
theorem q2197 : (Jvm.Cond.methodLink "CornerClaimsModel" (197 : Nat) ({ cls := "CornerClaimsModel", name := "number", desc := "(II)I" } : Jvm.MethodName)) ∈ lw_all := lw_g (lw_at lw_m9 194 rfl) rfl
theorem q2198 : (Jvm.Cond.privateMethod ({ cls := "CornerClaimsModel", name := "number", desc := "(II)I" } : Jvm.MethodName)) ∈ lw_tbl := lw_at lw_m9 195 rfl
theorem q2199 : (Jvm.Cond.instanceMethod ({ cls := "CornerClaimsModel", name := "number", desc := "(II)I" } : Jvm.MethodName)) ∈ lw_all := lw_g (lw_at lw_m9 196 rfl) rfl
theorem q2200 : (Jvm.Cond.code ({ cls := "CornerClaimsModel", name := "number", desc := "(II)I" } : Jvm.MethodName) prog_10_method_42_code (4 : Nat) (Option.some Jvm.ClassFile.FieldType.int)) ∈ lw_all := lw_g (lw_at lw_m9 197 rfl) rfl
theorem q2201 : (Jvm.Cond.methodLink "CornerClaimsModel" (166 : Nat) ({ cls := "CornerClaimsModel", name := "isDigit", desc := "(I)Z" } : Jvm.MethodName)) ∈ lw_all := lw_g (lw_at lw_m9 198 rfl) rfl
theorem q2202 : (Jvm.Cond.static ({ cls := "CornerClaimsModel", name := "isDigit", desc := "(I)Z" } : Jvm.MethodName)) ∈ lw_all := lw_g (lw_at lw_m9 199 rfl) rfl
theorem q2203 : (Jvm.Cond.code ({ cls := "CornerClaimsModel", name := "isDigit", desc := "(I)Z" } : Jvm.MethodName) prog_10_method_39_code (1 : Nat) (Option.some Jvm.ClassFile.FieldType.boolean)) ∈ lw_all := lw_g (lw_at lw_m9 200 rfl) rfl
theorem q2204 : (Jvm.Cond.constant "CornerClaimsModel" (172 : Nat) (1000000 : Int32)) ∈ lw_all := lw_g (lw_at lw_m9 201 rfl) rfl
theorem q2205 : (Jvm.Cond.methodLink "CornerClaimsModel" (50 : Nat) ({ cls := "CornerClaimsModel", name := "min", desc := "(II)I" } : Jvm.MethodName)) ∈ lw_all := lw_g (lw_at lw_m9 202 rfl) rfl
theorem q2206 : (Jvm.Cond.static ({ cls := "CornerClaimsModel", name := "min", desc := "(II)I" } : Jvm.MethodName)) ∈ lw_all := lw_g (lw_at lw_m9 203 rfl) rfl
theorem q2207 : (Jvm.Cond.code ({ cls := "CornerClaimsModel", name := "min", desc := "(II)I" } : Jvm.MethodName) prog_10_method_5_code (2 : Nat) (Option.some Jvm.ClassFile.FieldType.int)) ∈ lw_all := lw_g (lw_at lw_m9 204 rfl) rfl
theorem q2208 : (Jvm.Cond.methodLink "CornerClaimsModel" (179 : Nat) ({ cls := "CornerClaimsModel", name := "expect", desc := "(I)V" } : Jvm.MethodName)) ∈ lw_all := lw_g (lw_at lw_m9 205 rfl) rfl
theorem q2209 : (Jvm.Cond.privateMethod ({ cls := "CornerClaimsModel", name := "expect", desc := "(I)V" } : Jvm.MethodName)) ∈ lw_tbl := lw_at lw_m9 206 rfl
theorem q2210 : (Jvm.Cond.instanceMethod ({ cls := "CornerClaimsModel", name := "expect", desc := "(I)V" } : Jvm.MethodName)) ∈ lw_all := lw_g (lw_at lw_m9 207 rfl) rfl
theorem q2211 : (Jvm.Cond.code ({ cls := "CornerClaimsModel", name := "expect", desc := "(I)V" } : Jvm.MethodName) prog_10_method_41_code (2 : Nat) (Option.none : Option Jvm.ClassFile.FieldType)) ∈ lw_all := lw_g (lw_at lw_m9 208 rfl) rfl
theorem q2212 : (Jvm.Cond.methodLink "CornerClaimsModel" (251 : Nat) ({ cls := "CornerClaimsModel", name := "statement", desc := "()V" } : Jvm.MethodName)) ∈ lw_all := lw_g (lw_at lw_m9 209 rfl) rfl
theorem q2213 : (Jvm.Cond.privateMethod ({ cls := "CornerClaimsModel", name := "statement", desc := "()V" } : Jvm.MethodName)) ∈ lw_tbl := lw_at lw_m9 210 rfl
theorem q2214 : (Jvm.Cond.instanceMethod ({ cls := "CornerClaimsModel", name := "statement", desc := "()V" } : Jvm.MethodName)) ∈ lw_all := lw_g (lw_at lw_m9 211 rfl) rfl
theorem q2215 : (Jvm.Cond.code ({ cls := "CornerClaimsModel", name := "statement", desc := "()V" } : Jvm.MethodName) prog_10_method_50_code (2 : Nat) (Option.none : Option Jvm.ClassFile.FieldType)) ∈ lw_all := lw_g (lw_at lw_m9 212 rfl) rfl
theorem q2216 : (Jvm.Cond.stringRef "CornerClaimsModel" (226 : Nat) "stone") ∈ lw_tbl := lw_at lw_m9 213 rfl
theorem q2217 : (Jvm.Cond.methodLink "CornerClaimsModel" (228 : Nat) ({ cls := "CornerClaimsModel", name := "readStone", desc := "(I)V" } : Jvm.MethodName)) ∈ lw_all := lw_g (lw_at lw_m9 214 rfl) rfl
theorem q2218 : (Jvm.Cond.privateMethod ({ cls := "CornerClaimsModel", name := "readStone", desc := "(I)V" } : Jvm.MethodName)) ∈ lw_tbl := lw_at lw_m9 215 rfl
theorem q2219 : (Jvm.Cond.instanceMethod ({ cls := "CornerClaimsModel", name := "readStone", desc := "(I)V" } : Jvm.MethodName)) ∈ lw_all := lw_g (lw_at lw_m9 216 rfl) rfl
theorem q2220 : (Jvm.Cond.code ({ cls := "CornerClaimsModel", name := "readStone", desc := "(I)V" } : Jvm.MethodName) prog_10_method_48_code (6 : Nat) (Option.none : Option Jvm.ClassFile.FieldType)) ∈ lw_all := lw_g (lw_at lw_m9 217 rfl) rfl
theorem q2221 : (Jvm.Cond.methodLink "CornerClaimsModel" (110 : Nat) ({ cls := "CornerClaimsModel", name := "isTaken", desc := "(II)Z" } : Jvm.MethodName)) ∈ lw_all := lw_g (lw_at lw_m9 218 rfl) rfl
theorem q2222 : (Jvm.Cond.privateMethod ({ cls := "CornerClaimsModel", name := "isTaken", desc := "(II)Z" } : Jvm.MethodName)) ∈ lw_tbl := lw_at lw_m9 219 rfl
theorem q2223 : (Jvm.Cond.instanceMethod ({ cls := "CornerClaimsModel", name := "isTaken", desc := "(II)Z" } : Jvm.MethodName)) ∈ lw_all := lw_g (lw_at lw_m9 220 rfl) rfl
theorem q2224 : (Jvm.Cond.code ({ cls := "CornerClaimsModel", name := "isTaken", desc := "(II)Z" } : Jvm.MethodName) prog_10_method_22_code (5 : Nat) (Option.some Jvm.ClassFile.FieldType.boolean)) ∈ lw_all := lw_g (lw_at lw_m9 221 rfl) rfl
theorem q2225 : (Jvm.Cond.methodLink "CornerClaimsModel" (39 : Nat) ({ cls := "CornerClaimsModel", name := "countOf", desc := "(I)I" } : Jvm.MethodName)) ∈ lw_all := lw_g (lw_at lw_m9 222 rfl) rfl
theorem q2226 : (Jvm.Cond.privateMethod ({ cls := "CornerClaimsModel", name := "countOf", desc := "(I)I" } : Jvm.MethodName)) ∈ lw_tbl := lw_at lw_m9 223 rfl
theorem q2227 : (Jvm.Cond.instanceMethod ({ cls := "CornerClaimsModel", name := "countOf", desc := "(I)I" } : Jvm.MethodName)) ∈ lw_all := lw_g (lw_at lw_m9 224 rfl) rfl
theorem q2228 : (Jvm.Cond.code ({ cls := "CornerClaimsModel", name := "countOf", desc := "(I)I" } : Jvm.MethodName) prog_10_method_9_code (2 : Nat) (Option.some Jvm.ClassFile.FieldType.int)) ∈ lw_all := lw_g (lw_at lw_m9 225 rfl) rfl
theorem q2229 : (Jvm.Cond.methodLink "CornerClaimsModel" (35 : Nat) ({ cls := "CornerClaimsModel", name := "at", desc := "(I)I" } : Jvm.MethodName)) ∈ lw_all := lw_g (lw_at lw_m9 226 rfl) rfl
theorem q2230 : (Jvm.Cond.static ({ cls := "CornerClaimsModel", name := "at", desc := "(I)I" } : Jvm.MethodName)) ∈ lw_all := lw_g (lw_at lw_m9 227 rfl) rfl
theorem q2231 : (Jvm.Cond.code ({ cls := "CornerClaimsModel", name := "at", desc := "(I)I" } : Jvm.MethodName) prog_10_method_8_code (1 : Nat) (Option.some Jvm.ClassFile.FieldType.int)) ∈ lw_all := lw_g (lw_at lw_m9 228 rfl) rfl
theorem q2232 : (Jvm.Cond.methodLink "CornerClaimsModel" (72 : Nat) ({ cls := "CornerClaimsModel", name := "xOf", desc := "(II)I" } : Jvm.MethodName)) ∈ lw_all := lw_g (lw_at lw_m9 229 rfl) rfl
theorem q2233 : (Jvm.Cond.privateMethod ({ cls := "CornerClaimsModel", name := "xOf", desc := "(II)I" } : Jvm.MethodName)) ∈ lw_tbl := lw_at lw_m9 230 rfl
theorem q2234 : (Jvm.Cond.instanceMethod ({ cls := "CornerClaimsModel", name := "xOf", desc := "(II)I" } : Jvm.MethodName)) ∈ lw_all := lw_g (lw_at lw_m9 231 rfl) rfl
theorem q2235 : (Jvm.Cond.code ({ cls := "CornerClaimsModel", name := "xOf", desc := "(II)I" } : Jvm.MethodName) prog_10_method_11_code (3 : Nat) (Option.some Jvm.ClassFile.FieldType.int)) ∈ lw_all := lw_g (lw_at lw_m9 232 rfl) rfl
theorem q2236 : (Jvm.Cond.methodLink "CornerClaimsModel" (75 : Nat) ({ cls := "CornerClaimsModel", name := "yOf", desc := "(II)I" } : Jvm.MethodName)) ∈ lw_all := lw_g (lw_at lw_m9 233 rfl) rfl
theorem q2237 : (Jvm.Cond.privateMethod ({ cls := "CornerClaimsModel", name := "yOf", desc := "(II)I" } : Jvm.MethodName)) ∈ lw_tbl := lw_at lw_m9 234 rfl
theorem q2238 : (Jvm.Cond.instanceMethod ({ cls := "CornerClaimsModel", name := "yOf", desc := "(II)I" } : Jvm.MethodName)) ∈ lw_all := lw_g (lw_at lw_m9 235 rfl) rfl
theorem q2239 : (Jvm.Cond.code ({ cls := "CornerClaimsModel", name := "yOf", desc := "(II)I" } : Jvm.MethodName) prog_10_method_12_code (3 : Nat) (Option.some Jvm.ClassFile.FieldType.int)) ∈ lw_all := lw_g (lw_at lw_m9 236 rfl) rfl
theorem q2240 : (Jvm.Cond.methodLink "CornerClaimsModel" (78 : Nat) ({ cls := "CornerClaimsModel", name := "isStone", desc := "(II)Z" } : Jvm.MethodName)) ∈ lw_all := lw_g (lw_at lw_m9 237 rfl) rfl
theorem q2241 : (Jvm.Cond.privateMethod ({ cls := "CornerClaimsModel", name := "isStone", desc := "(II)Z" } : Jvm.MethodName)) ∈ lw_tbl := lw_at lw_m9 238 rfl
theorem q2242 : (Jvm.Cond.instanceMethod ({ cls := "CornerClaimsModel", name := "isStone", desc := "(II)Z" } : Jvm.MethodName)) ∈ lw_all := lw_g (lw_at lw_m9 239 rfl) rfl
theorem q2243 : (Jvm.Cond.code ({ cls := "CornerClaimsModel", name := "isStone", desc := "(II)Z" } : Jvm.MethodName) prog_10_method_21_code (4 : Nat) (Option.some Jvm.ClassFile.FieldType.boolean)) ∈ lw_all := lw_g (lw_at lw_m10 0 rfl) rfl
theorem q2244 : (Jvm.Cond.methodLink "CornerClaimsModel" (212 : Nat) ({ cls := "CornerClaimsModel", name := "isOnSide", desc := "(II)Z" } : Jvm.MethodName)) ∈ lw_all := lw_g (lw_at lw_m10 1 rfl) rfl
theorem q2245 : (Jvm.Cond.privateMethod ({ cls := "CornerClaimsModel", name := "isOnSide", desc := "(II)Z" } : Jvm.MethodName)) ∈ lw_tbl := lw_at lw_m10 2 rfl
theorem q2246 : (Jvm.Cond.instanceMethod ({ cls := "CornerClaimsModel", name := "isOnSide", desc := "(II)Z" } : Jvm.MethodName)) ∈ lw_all := lw_g (lw_at lw_m10 3 rfl) rfl
theorem q2247 : (Jvm.Cond.code ({ cls := "CornerClaimsModel", name := "isOnSide", desc := "(II)Z" } : Jvm.MethodName) prog_10_method_23_code (5 : Nat) (Option.some Jvm.ClassFile.FieldType.boolean)) ∈ lw_all := lw_g (lw_at lw_m10 4 rfl) rfl
theorem q2248 : (Jvm.Cond.methodLink "CornerClaimsModel" (81 : Nat) ({ cls := "CornerClaimsModel", name := "sidesOf", desc := "(I)I" } : Jvm.MethodName)) ∈ lw_all := lw_g (lw_at lw_m10 5 rfl) rfl
theorem q2249 : (Jvm.Cond.privateMethod ({ cls := "CornerClaimsModel", name := "sidesOf", desc := "(I)I" } : Jvm.MethodName)) ∈ lw_tbl := lw_at lw_m10 6 rfl
theorem q2250 : (Jvm.Cond.instanceMethod ({ cls := "CornerClaimsModel", name := "sidesOf", desc := "(I)I" } : Jvm.MethodName)) ∈ lw_all := lw_g (lw_at lw_m10 7 rfl) rfl
theorem q2251 : (Jvm.Cond.code ({ cls := "CornerClaimsModel", name := "sidesOf", desc := "(I)I" } : Jvm.MethodName) prog_10_method_15_code (2 : Nat) (Option.some Jvm.ClassFile.FieldType.int)) ∈ lw_all := lw_g (lw_at lw_m10 8 rfl) rfl
theorem q2252 : (Jvm.Cond.methodLink "CornerClaimsModel" (42 : Nat) ({ cls := "CornerClaimsModel", name := "isClosed", desc := "(I)Z" } : Jvm.MethodName)) ∈ lw_all := lw_g (lw_at lw_m10 9 rfl) rfl
theorem q2253 : (Jvm.Cond.privateMethod ({ cls := "CornerClaimsModel", name := "isClosed", desc := "(I)Z" } : Jvm.MethodName)) ∈ lw_tbl := lw_at lw_m10 10 rfl
theorem q2254 : (Jvm.Cond.instanceMethod ({ cls := "CornerClaimsModel", name := "isClosed", desc := "(I)Z" } : Jvm.MethodName)) ∈ lw_all := lw_g (lw_at lw_m10 11 rfl) rfl
theorem q2255 : (Jvm.Cond.code ({ cls := "CornerClaimsModel", name := "isClosed", desc := "(I)Z" } : Jvm.MethodName) prog_10_method_10_code (2 : Nat) (Option.some Jvm.ClassFile.FieldType.boolean)) ∈ lw_all := lw_g (lw_at lw_m10 12 rfl) rfl
theorem q2256 : (Jvm.Cond.methodLink "CornerClaimsModel" (84 : Nat) ({ cls := "CornerClaimsModel", name := "behind", desc := "(II)I" } : Jvm.MethodName)) ∈ lw_all := lw_g (lw_at lw_m10 13 rfl) rfl
theorem q2257 : (Jvm.Cond.privateMethod ({ cls := "CornerClaimsModel", name := "behind", desc := "(II)I" } : Jvm.MethodName)) ∈ lw_tbl := lw_at lw_m10 14 rfl
theorem q2258 : (Jvm.Cond.instanceMethod ({ cls := "CornerClaimsModel", name := "behind", desc := "(II)I" } : Jvm.MethodName)) ∈ lw_all := lw_g (lw_at lw_m10 15 rfl) rfl
theorem q2259 : (Jvm.Cond.code ({ cls := "CornerClaimsModel", name := "behind", desc := "(II)I" } : Jvm.MethodName) prog_10_method_13_code (3 : Nat) (Option.some Jvm.ClassFile.FieldType.int)) ∈ lw_all := lw_g (lw_at lw_m10 16 rfl) rfl
theorem q2260 : (Jvm.Cond.methodLink "CornerClaimsModel" (61 : Nat) ({ cls := "CornerClaimsModel", name := "isOn", desc := "(IIIIII)Z" } : Jvm.MethodName)) ∈ lw_all := lw_g (lw_at lw_m10 17 rfl) rfl
theorem q2261 : (Jvm.Cond.static ({ cls := "CornerClaimsModel", name := "isOn", desc := "(IIIIII)Z" } : Jvm.MethodName)) ∈ lw_all := lw_g (lw_at lw_m10 18 rfl) rfl
theorem q2262 : (Jvm.Cond.code ({ cls := "CornerClaimsModel", name := "isOn", desc := "(IIIIII)Z" } : Jvm.MethodName) prog_10_method_17_code (6 : Nat) (Option.some Jvm.ClassFile.FieldType.boolean)) ∈ lw_all := lw_g (lw_at lw_m10 19 rfl) rfl
theorem q2263 : (Jvm.Cond.methodLink "CornerClaimsModel" (46 : Nat) ({ cls := "CornerClaimsModel", name := "turn", desc := "(IIIIII)I" } : Jvm.MethodName)) ∈ lw_all := lw_g (lw_at lw_m10 20 rfl) rfl
theorem q2264 : (Jvm.Cond.static ({ cls := "CornerClaimsModel", name := "turn", desc := "(IIIIII)I" } : Jvm.MethodName)) ∈ lw_all := lw_g (lw_at lw_m10 21 rfl) rfl
theorem q2265 : (Jvm.Cond.code ({ cls := "CornerClaimsModel", name := "turn", desc := "(IIIIII)I" } : Jvm.MethodName) prog_10_method_16_code (6 : Nat) (Option.some Jvm.ClassFile.FieldType.int)) ∈ lw_all := lw_g (lw_at lw_m10 22 rfl) rfl
theorem q2266 : (Jvm.Cond.methodLink "CornerClaimsModel" (54 : Nat) ({ cls := "CornerClaimsModel", name := "max", desc := "(II)I" } : Jvm.MethodName)) ∈ lw_all := lw_g (lw_at lw_m10 23 rfl) rfl
theorem q2267 : (Jvm.Cond.static ({ cls := "CornerClaimsModel", name := "max", desc := "(II)I" } : Jvm.MethodName)) ∈ lw_all := lw_g (lw_at lw_m10 24 rfl) rfl
theorem q2268 : (Jvm.Cond.code ({ cls := "CornerClaimsModel", name := "max", desc := "(II)I" } : Jvm.MethodName) prog_10_method_6_code (2 : Nat) (Option.some Jvm.ClassFile.FieldType.int)) ∈ lw_all := lw_g (lw_at lw_m10 25 rfl) rfl
theorem q2269 : (Jvm.Cond.stringRef "CornerClaimsModel" (231 : Nat) "polygon") ∈ lw_tbl := lw_at lw_m10 26 rfl
theorem q2270 : (Jvm.Cond.methodLink "CornerClaimsModel" (233 : Nat) ({ cls := "CornerClaimsModel", name := "readPolygon", desc := "(I)V" } : Jvm.MethodName)) ∈ lw_all := lw_g (lw_at lw_m10 27 rfl) rfl
theorem q2271 : (Jvm.Cond.privateMethod ({ cls := "CornerClaimsModel", name := "readPolygon", desc := "(I)V" } : Jvm.MethodName)) ∈ lw_tbl := lw_at lw_m10 28 rfl
theorem q2272 : (Jvm.Cond.instanceMethod ({ cls := "CornerClaimsModel", name := "readPolygon", desc := "(I)V" } : Jvm.MethodName)) ∈ lw_all := lw_g (lw_at lw_m10 29 rfl) rfl
theorem q2273 : (Jvm.Cond.code ({ cls := "CornerClaimsModel", name := "readPolygon", desc := "(I)V" } : Jvm.MethodName) prog_10_method_49_code (6 : Nat) (Option.none : Option Jvm.ClassFile.FieldType)) ∈ lw_all := lw_g (lw_at lw_m10 30 rfl) rfl
theorem q2274 : (Jvm.Cond.methodLink "CornerClaimsModel" (215 : Nat) ({ cls := "CornerClaimsModel", name := "beginPolygon", desc := "(III)V" } : Jvm.MethodName)) ∈ lw_all := lw_g (lw_at lw_m10 31 rfl) rfl
theorem q2275 : (Jvm.Cond.privateMethod ({ cls := "CornerClaimsModel", name := "beginPolygon", desc := "(III)V" } : Jvm.MethodName)) ∈ lw_tbl := lw_at lw_m10 32 rfl
theorem q2276 : (Jvm.Cond.instanceMethod ({ cls := "CornerClaimsModel", name := "beginPolygon", desc := "(III)V" } : Jvm.MethodName)) ∈ lw_all := lw_g (lw_at lw_m10 33 rfl) rfl
theorem q2277 : (Jvm.Cond.code ({ cls := "CornerClaimsModel", name := "beginPolygon", desc := "(III)V" } : Jvm.MethodName) prog_10_method_33_code (5 : Nat) (Option.none : Option Jvm.ClassFile.FieldType)) ∈ lw_all := lw_g (lw_at lw_m10 34 rfl) rfl
theorem q2278 : (Jvm.Cond.methodLink "CornerClaimsModel" (124 : Nat) ({ cls := "CornerClaimsModel", name := "putCorner", desc := "(IIII)V" } : Jvm.MethodName)) ∈ lw_all := lw_g (lw_at lw_m10 35 rfl) rfl
theorem q2279 : (Jvm.Cond.privateMethod ({ cls := "CornerClaimsModel", name := "putCorner", desc := "(IIII)V" } : Jvm.MethodName)) ∈ lw_tbl := lw_at lw_m10 36 rfl
theorem q2280 : (Jvm.Cond.instanceMethod ({ cls := "CornerClaimsModel", name := "putCorner", desc := "(IIII)V" } : Jvm.MethodName)) ∈ lw_all := lw_g (lw_at lw_m10 37 rfl) rfl
theorem q2281 : (Jvm.Cond.code ({ cls := "CornerClaimsModel", name := "putCorner", desc := "(IIII)V" } : Jvm.MethodName) prog_10_method_32_code (7 : Nat) (Option.none : Option Jvm.ClassFile.FieldType)) ∈ lw_all := lw_g (lw_at lw_m10 38 rfl) rfl
theorem q2282 : (Jvm.Cond.methodLink "CornerClaimsModel" (219 : Nat) ({ cls := "CornerClaimsModel", name := "cornerReason", desc := "(III)I" } : Jvm.MethodName)) ∈ lw_all := lw_g (lw_at lw_m10 39 rfl) rfl
theorem q2283 : (Jvm.Cond.privateMethod ({ cls := "CornerClaimsModel", name := "cornerReason", desc := "(III)I" } : Jvm.MethodName)) ∈ lw_tbl := lw_at lw_m10 40 rfl
theorem q2284 : (Jvm.Cond.instanceMethod ({ cls := "CornerClaimsModel", name := "cornerReason", desc := "(III)I" } : Jvm.MethodName)) ∈ lw_all := lw_g (lw_at lw_m10 41 rfl) rfl
theorem q2285 : (Jvm.Cond.code ({ cls := "CornerClaimsModel", name := "cornerReason", desc := "(III)I" } : Jvm.MethodName) prog_10_method_28_code (5 : Nat) (Option.some Jvm.ClassFile.FieldType.int)) ∈ lw_all := lw_g (lw_at lw_m10 42 rfl) rfl
theorem q2286 : (Jvm.Cond.methodLink "CornerClaimsModel" (113 : Nat) ({ cls := "CornerClaimsModel", name := "goes", desc := "(IIII)V" } : Jvm.MethodName)) ∈ lw_all := lw_g (lw_at lw_m10 43 rfl) rfl
theorem q2287 : (Jvm.Cond.privateMethod ({ cls := "CornerClaimsModel", name := "goes", desc := "(IIII)V" } : Jvm.MethodName)) ∈ lw_tbl := lw_at lw_m10 44 rfl
theorem q2288 : (Jvm.Cond.instanceMethod ({ cls := "CornerClaimsModel", name := "goes", desc := "(IIII)V" } : Jvm.MethodName)) ∈ lw_all := lw_g (lw_at lw_m10 45 rfl) rfl
theorem q2289 : (Jvm.Cond.code ({ cls := "CornerClaimsModel", name := "goes", desc := "(IIII)V" } : Jvm.MethodName) prog_10_method_24_code (5 : Nat) (Option.none : Option Jvm.ClassFile.FieldType)) ∈ lw_all := lw_g (lw_at lw_m10 46 rfl) rfl
theorem q2290 : (Jvm.Cond.methodLink "CornerClaimsModel" (117 : Nat) ({ cls := "CornerClaimsModel", name := "lineReason", desc := "(IIII)I" } : Jvm.MethodName)) ∈ lw_all := lw_g (lw_at lw_m10 47 rfl) rfl
theorem q2291 : (Jvm.Cond.privateMethod ({ cls := "CornerClaimsModel", name := "lineReason", desc := "(IIII)I" } : Jvm.MethodName)) ∈ lw_tbl := lw_at lw_m10 48 rfl
theorem q2292 : (Jvm.Cond.instanceMethod ({ cls := "CornerClaimsModel", name := "lineReason", desc := "(IIII)I" } : Jvm.MethodName)) ∈ lw_all := lw_g (lw_at lw_m10 49 rfl) rfl
theorem q2293 : (Jvm.Cond.code ({ cls := "CornerClaimsModel", name := "lineReason", desc := "(IIII)I" } : Jvm.MethodName) prog_10_method_27_code (5 : Nat) (Option.some Jvm.ClassFile.FieldType.int)) ∈ lw_all := lw_g (lw_at lw_m10 50 rfl) rfl
theorem q2294 : (Jvm.Cond.methodLink "CornerClaimsModel" (103 : Nat) ({ cls := "CornerClaimsModel", name := "isBlocked", desc := "(IIII)Z" } : Jvm.MethodName)) ∈ lw_all := lw_g (lw_at lw_m10 51 rfl) rfl
theorem q2295 : (Jvm.Cond.privateMethod ({ cls := "CornerClaimsModel", name := "isBlocked", desc := "(IIII)Z" } : Jvm.MethodName)) ∈ lw_tbl := lw_at lw_m10 52 rfl
theorem q2296 : (Jvm.Cond.instanceMethod ({ cls := "CornerClaimsModel", name := "isBlocked", desc := "(IIII)Z" } : Jvm.MethodName)) ∈ lw_all := lw_g (lw_at lw_m10 53 rfl) rfl
theorem q2297 : (Jvm.Cond.code ({ cls := "CornerClaimsModel", name := "isBlocked", desc := "(IIII)Z" } : Jvm.MethodName) prog_10_method_25_code (7 : Nat) (Option.some Jvm.ClassFile.FieldType.boolean)) ∈ lw_all := lw_g (lw_at lw_m10 54 rfl) rfl
theorem q2298 : (Jvm.Cond.methodLink "CornerClaimsModel" (69 : Nat) ({ cls := "CornerClaimsModel", name := "isWithin", desc := "(IIIIII)Z" } : Jvm.MethodName)) ∈ lw_all := lw_g (lw_at lw_m10 55 rfl) rfl
theorem q2299 : (Jvm.Cond.static ({ cls := "CornerClaimsModel", name := "isWithin", desc := "(IIIIII)Z" } : Jvm.MethodName)) ∈ lw_all := lw_g (lw_at lw_m10 56 rfl) rfl
theorem q2300 : (Jvm.Cond.code ({ cls := "CornerClaimsModel", name := "isWithin", desc := "(IIIIII)Z" } : Jvm.MethodName) prog_10_method_18_code (6 : Nat) (Option.some Jvm.ClassFile.FieldType.boolean)) ∈ lw_all := lw_g (lw_at lw_m10 57 rfl) rfl
theorem q2301 : (Jvm.Cond.methodLink "CornerClaimsModel" (107 : Nat) ({ cls := "CornerClaimsModel", name := "isCrossed", desc := "(IIII)Z" } : Jvm.MethodName)) ∈ lw_all := lw_g (lw_at lw_m10 58 rfl) rfl
theorem q2302 : (Jvm.Cond.privateMethod ({ cls := "CornerClaimsModel", name := "isCrossed", desc := "(IIII)Z" } : Jvm.MethodName)) ∈ lw_tbl := lw_at lw_m10 59 rfl
theorem q2303 : (Jvm.Cond.instanceMethod ({ cls := "CornerClaimsModel", name := "isCrossed", desc := "(IIII)Z" } : Jvm.MethodName)) ∈ lw_all := lw_g (lw_at lw_m10 60 rfl) rfl
theorem q2304 : (Jvm.Cond.code ({ cls := "CornerClaimsModel", name := "isCrossed", desc := "(IIII)Z" } : Jvm.MethodName) prog_10_method_26_code (7 : Nat) (Option.some Jvm.ClassFile.FieldType.boolean)) ∈ lw_all := lw_g (lw_at lw_m10 61 rfl) rfl
theorem q2305 : (Jvm.Cond.methodLink "CornerClaimsModel" (99 : Nat) ({ cls := "CornerClaimsModel", name := "meet", desc := "(IIIIIIII)Z" } : Jvm.MethodName)) ∈ lw_all := lw_g (lw_at lw_m10 62 rfl) rfl
theorem q2306 : (Jvm.Cond.static ({ cls := "CornerClaimsModel", name := "meet", desc := "(IIIIIIII)Z" } : Jvm.MethodName)) ∈ lw_all := lw_g (lw_at lw_m10 63 rfl) rfl
theorem q2307 : (Jvm.Cond.code ({ cls := "CornerClaimsModel", name := "meet", desc := "(IIIIIIII)Z" } : Jvm.MethodName) prog_10_method_20_code (8 : Nat) (Option.some Jvm.ClassFile.FieldType.boolean)) ∈ lw_all := lw_g (lw_at lw_m10 64 rfl) rfl
theorem q2308 : (Jvm.Cond.methodLink "CornerClaimsModel" (65 : Nat) ({ cls := "CornerClaimsModel", name := "areApart", desc := "(II)Z" } : Jvm.MethodName)) ∈ lw_all := lw_g (lw_at lw_m10 65 rfl) rfl
theorem q2309 : (Jvm.Cond.static ({ cls := "CornerClaimsModel", name := "areApart", desc := "(II)Z" } : Jvm.MethodName)) ∈ lw_all := lw_g (lw_at lw_m10 66 rfl) rfl
theorem q2310 : (Jvm.Cond.code ({ cls := "CornerClaimsModel", name := "areApart", desc := "(II)Z" } : Jvm.MethodName) prog_10_method_19_code (2 : Nat) (Option.some Jvm.ClassFile.FieldType.boolean)) ∈ lw_all := lw_g (lw_at lw_m10 67 rfl) rfl
theorem q2311 : (Jvm.Cond.methodLink "CornerClaimsModel" (223 : Nat) ({ cls := "CornerClaimsModel", name := "closeReason", desc := "(I)I" } : Jvm.MethodName)) ∈ lw_all := lw_g (lw_at lw_m10 68 rfl) rfl
theorem q2312 : (Jvm.Cond.privateMethod ({ cls := "CornerClaimsModel", name := "closeReason", desc := "(I)I" } : Jvm.MethodName)) ∈ lw_tbl := lw_at lw_m10 69 rfl
theorem q2313 : (Jvm.Cond.instanceMethod ({ cls := "CornerClaimsModel", name := "closeReason", desc := "(I)I" } : Jvm.MethodName)) ∈ lw_all := lw_g (lw_at lw_m10 70 rfl) rfl
theorem q2314 : (Jvm.Cond.code ({ cls := "CornerClaimsModel", name := "closeReason", desc := "(I)I" } : Jvm.MethodName) prog_10_method_29_code (3 : Nat) (Option.some Jvm.ClassFile.FieldType.int)) ∈ lw_all := lw_g (lw_at lw_m10 71 rfl) rfl
theorem q2315 : (Jvm.Cond.stringRef "CornerClaimsModel" (236 : Nat) "score") ∈ lw_tbl := lw_at lw_m10 72 rfl
theorem q2316 : (Jvm.Cond.methodLink "CornerClaimsModel" (238 : Nat) ({ cls := "CornerClaimsModel", name := "once", desc := "(II)V" } : Jvm.MethodName)) ∈ lw_all := lw_g (lw_at lw_m10 73 rfl) rfl
theorem q2317 : (Jvm.Cond.privateMethod ({ cls := "CornerClaimsModel", name := "once", desc := "(II)V" } : Jvm.MethodName)) ∈ lw_tbl := lw_at lw_m10 74 rfl
theorem q2318 : (Jvm.Cond.instanceMethod ({ cls := "CornerClaimsModel", name := "once", desc := "(II)V" } : Jvm.MethodName)) ∈ lw_all := lw_g (lw_at lw_m10 75 rfl) rfl
theorem q2319 : (Jvm.Cond.code ({ cls := "CornerClaimsModel", name := "once", desc := "(II)V" } : Jvm.MethodName) prog_10_method_47_code (3 : Nat) (Option.none : Option Jvm.ClassFile.FieldType)) ∈ lw_all := lw_g (lw_at lw_m10 76 rfl) rfl
theorem q2320 : (Jvm.Cond.methodLink "CornerClaimsModel" (176 : Nat) ({ cls := "CornerClaimsModel", name := "sum", desc := "()V" } : Jvm.MethodName)) ∈ lw_all := lw_g (lw_at lw_m10 77 rfl) rfl
theorem q2321 : (Jvm.Cond.privateMethod ({ cls := "CornerClaimsModel", name := "sum", desc := "()V" } : Jvm.MethodName)) ∈ lw_tbl := lw_at lw_m10 78 rfl
theorem q2322 : (Jvm.Cond.instanceMethod ({ cls := "CornerClaimsModel", name := "sum", desc := "()V" } : Jvm.MethodName)) ∈ lw_all := lw_g (lw_at lw_m10 79 rfl) rfl
theorem q2323 : (Jvm.Cond.code ({ cls := "CornerClaimsModel", name := "sum", desc := "()V" } : Jvm.MethodName) prog_10_method_46_code (2 : Nat) (Option.none : Option Jvm.ClassFile.FieldType)) ∈ lw_all := lw_g (lw_at lw_m10 80 rfl) rfl
theorem q2324 : (Jvm.Cond.methodLink "CornerClaimsModel" (206 : Nat) ({ cls := "CornerClaimsModel", name := "term", desc := "()V" } : Jvm.MethodName)) ∈ lw_all := lw_g (lw_at lw_m10 81 rfl) rfl
theorem q2325 : (Jvm.Cond.privateMethod ({ cls := "CornerClaimsModel", name := "term", desc := "()V" } : Jvm.MethodName)) ∈ lw_tbl := lw_at lw_m10 82 rfl
theorem q2326 : (Jvm.Cond.instanceMethod ({ cls := "CornerClaimsModel", name := "term", desc := "()V" } : Jvm.MethodName)) ∈ lw_all := lw_g (lw_at lw_m10 83 rfl) rfl
theorem q2327 : (Jvm.Cond.code ({ cls := "CornerClaimsModel", name := "term", desc := "()V" } : Jvm.MethodName) prog_10_method_45_code (2 : Nat) (Option.none : Option Jvm.ClassFile.FieldType)) ∈ lw_all := lw_g (lw_at lw_m10 84 rfl) rfl
theorem q2328 : (Jvm.Cond.methodLink "CornerClaimsModel" (203 : Nat) ({ cls := "CornerClaimsModel", name := "factor", desc := "()V" } : Jvm.MethodName)) ∈ lw_all := lw_g (lw_at lw_m10 85 rfl) rfl
theorem q2329 : (Jvm.Cond.privateMethod ({ cls := "CornerClaimsModel", name := "factor", desc := "()V" } : Jvm.MethodName)) ∈ lw_tbl := lw_at lw_m10 86 rfl
theorem q2330 : (Jvm.Cond.instanceMethod ({ cls := "CornerClaimsModel", name := "factor", desc := "()V" } : Jvm.MethodName)) ∈ lw_all := lw_g (lw_at lw_m10 87 rfl) rfl
theorem q2331 : (Jvm.Cond.code ({ cls := "CornerClaimsModel", name := "factor", desc := "()V" } : Jvm.MethodName) prog_10_method_44_code (4 : Nat) (Option.none : Option Jvm.ClassFile.FieldType)) ∈ lw_all := lw_g (lw_at lw_m10 88 rfl) rfl
theorem q2332 : (Jvm.Cond.stringRef "CornerClaimsModel" (183 : Nat) "area") ∈ lw_tbl := lw_at lw_m10 89 rfl
theorem q2333 : (Jvm.Cond.stringRef "CornerClaimsModel" (189 : Nat) "stones") ∈ lw_tbl := lw_at lw_m10 90 rfl
theorem q2334 : (Jvm.Cond.stringRef "CornerClaimsModel" (191 : Nat) "corners") ∈ lw_tbl := lw_at lw_m10 91 rfl
theorem q2335 : (Jvm.Cond.stringRef "CornerClaimsModel" (193 : Nat) "dents") ∈ lw_tbl := lw_at lw_m10 92 rfl
theorem q2336 : (Jvm.Cond.stringRef "CornerClaimsModel" (195 : Nat) "inner") ∈ lw_tbl := lw_at lw_m10 93 rfl
theorem q2337 : (Jvm.Cond.methodLink "CornerClaimsModel" (200 : Nat) ({ cls := "CornerClaimsModel", name := "emit", desc := "(I)V" } : Jvm.MethodName)) ∈ lw_all := lw_g (lw_at lw_m10 94 rfl) rfl
theorem q2338 : (Jvm.Cond.privateMethod ({ cls := "CornerClaimsModel", name := "emit", desc := "(I)V" } : Jvm.MethodName)) ∈ lw_tbl := lw_at lw_m10 95 rfl
theorem q2339 : (Jvm.Cond.instanceMethod ({ cls := "CornerClaimsModel", name := "emit", desc := "(I)V" } : Jvm.MethodName)) ∈ lw_all := lw_g (lw_at lw_m10 96 rfl) rfl
theorem q2340 : (Jvm.Cond.code ({ cls := "CornerClaimsModel", name := "emit", desc := "(I)V" } : Jvm.MethodName) prog_10_method_43_code (2 : Nat) (Option.none : Option Jvm.ClassFile.FieldType)) ∈ lw_all := lw_g (lw_at lw_m10 97 rfl) rfl
theorem q2341 : (Jvm.Cond.methodLink "CornerClaimsModel" (254 : Nat) ({ cls := "CornerClaimsModel", name := "push", desc := "([I)V" } : Jvm.MethodName)) ∈ lw_all := lw_g (lw_at lw_m10 98 rfl) rfl
theorem q2342 : (Jvm.Cond.privateMethod ({ cls := "CornerClaimsModel", name := "push", desc := "([I)V" } : Jvm.MethodName)) ∈ lw_tbl := lw_at lw_m10 99 rfl
theorem q2343 : (Jvm.Cond.instanceMethod ({ cls := "CornerClaimsModel", name := "push", desc := "([I)V" } : Jvm.MethodName)) ∈ lw_all := lw_g (lw_at lw_m10 100 rfl) rfl
theorem q2344 : (Jvm.Cond.code ({ cls := "CornerClaimsModel", name := "push", desc := "([I)V" } : Jvm.MethodName) prog_10_method_82_code (3 : Nat) (Option.none : Option Jvm.ClassFile.FieldType)) ∈ lw_all := lw_g (lw_at lw_m10 101 rfl) rfl
theorem q2346 : (Jvm.Cond.instanceMethod ({ cls := "CornerClaimsModel", name := "errorOffset", desc := "()I" } : Jvm.MethodName)) ∈ lw_all := lw_g (lw_at lw_m10 103 rfl) rfl
theorem q2347 : (Jvm.Cond.selects "CornerClaimsModel" ({ cls := "CornerClaimsModel", name := "errorOffset", desc := "()I" } : Jvm.MethodName) ({ cls := "CornerClaimsModel", name := "errorOffset", desc := "()I" } : Jvm.MethodName)) ∈ lw_all := lw_g (lw_at lw_m10 104 rfl) rfl
theorem q2348 : (Jvm.Cond.code ({ cls := "CornerClaimsModel", name := "errorOffset", desc := "()I" } : Jvm.MethodName) prog_10_method_52_code (1 : Nat) (Option.some Jvm.ClassFile.FieldType.int)) ∈ lw_all := lw_g (lw_at lw_m10 105 rfl) rfl
theorem q2350 : (Jvm.Cond.instanceMethod ({ cls := "CornerClaimsModel", name := "count", desc := "(I)I" } : Jvm.MethodName)) ∈ lw_all := lw_g (lw_at lw_m10 107 rfl) rfl
theorem q2351 : (Jvm.Cond.selects "CornerClaimsModel" ({ cls := "CornerClaimsModel", name := "count", desc := "(I)I" } : Jvm.MethodName) ({ cls := "CornerClaimsModel", name := "count", desc := "(I)I" } : Jvm.MethodName)) ∈ lw_all := lw_g (lw_at lw_m10 108 rfl) rfl
theorem q2352 : (Jvm.Cond.code ({ cls := "CornerClaimsModel", name := "count", desc := "(I)I" } : Jvm.MethodName) prog_10_method_68_code (4 : Nat) (Option.some Jvm.ClassFile.FieldType.int)) ∈ lw_all := lw_g (lw_at lw_m10 109 rfl) rfl
theorem q2353 : (Jvm.Cond.methodLink "CornerClaimsModel" (303 : Nat) ({ cls := "CornerClaimsModel", name := "claimedNow", desc := "()I" } : Jvm.MethodName)) ∈ lw_all := lw_g (lw_at lw_m10 110 rfl) rfl
theorem q2354 : (Jvm.Cond.privateMethod ({ cls := "CornerClaimsModel", name := "claimedNow", desc := "()I" } : Jvm.MethodName)) ∈ lw_tbl := lw_at lw_m10 111 rfl
theorem q2355 : (Jvm.Cond.instanceMethod ({ cls := "CornerClaimsModel", name := "claimedNow", desc := "()I" } : Jvm.MethodName)) ∈ lw_all := lw_g (lw_at lw_m10 112 rfl) rfl
theorem q2356 : (Jvm.Cond.code ({ cls := "CornerClaimsModel", name := "claimedNow", desc := "()I" } : Jvm.MethodName) prog_10_method_60_code (3 : Nat) (Option.some Jvm.ClassFile.FieldType.int)) ∈ lw_all := lw_g (lw_at lw_m10 113 rfl) rfl
theorem q2357 : (Jvm.Cond.methodLink "CornerClaimsModel" (270 : Nat) ({ cls := "CornerClaimsModel", name := "claimerOf", desc := "(I)I" } : Jvm.MethodName)) ∈ lw_all := lw_g (lw_at lw_m10 114 rfl) rfl
theorem q2358 : (Jvm.Cond.privateMethod ({ cls := "CornerClaimsModel", name := "claimerOf", desc := "(I)I" } : Jvm.MethodName)) ∈ lw_tbl := lw_at lw_m10 115 rfl
theorem q2359 : (Jvm.Cond.instanceMethod ({ cls := "CornerClaimsModel", name := "claimerOf", desc := "(I)I" } : Jvm.MethodName)) ∈ lw_all := lw_g (lw_at lw_m10 116 rfl) rfl
theorem q2360 : (Jvm.Cond.code ({ cls := "CornerClaimsModel", name := "claimerOf", desc := "(I)I" } : Jvm.MethodName) prog_10_method_59_code (2 : Nat) (Option.some Jvm.ClassFile.FieldType.int)) ∈ lw_all := lw_g (lw_at lw_m10 117 rfl) rfl
theorem q2361 : (Jvm.Cond.methodLink "CornerClaimsModel" (267 : Nat) ({ cls := "CornerClaimsModel", name := "around", desc := "(III)I" } : Jvm.MethodName)) ∈ lw_all := lw_g (lw_at lw_m10 118 rfl) rfl
theorem q2362 : (Jvm.Cond.privateMethod ({ cls := "CornerClaimsModel", name := "around", desc := "(III)I" } : Jvm.MethodName)) ∈ lw_tbl := lw_at lw_m10 119 rfl
theorem q2363 : (Jvm.Cond.instanceMethod ({ cls := "CornerClaimsModel", name := "around", desc := "(III)I" } : Jvm.MethodName)) ∈ lw_all := lw_g (lw_at lw_m10 120 rfl) rfl
theorem q2364 : (Jvm.Cond.code ({ cls := "CornerClaimsModel", name := "around", desc := "(III)I" } : Jvm.MethodName) prog_10_method_58_code (6 : Nat) (Option.some Jvm.ClassFile.FieldType.int)) ∈ lw_all := lw_g (lw_at lw_m10 121 rfl) rfl
theorem q2365 : (Jvm.Cond.methodLink "CornerClaimsModel" (261 : Nat) ({ cls := "CornerClaimsModel", name := "sideOf", desc := "(III)I" } : Jvm.MethodName)) ∈ lw_all := lw_g (lw_at lw_m10 122 rfl) rfl
theorem q2366 : (Jvm.Cond.privateMethod ({ cls := "CornerClaimsModel", name := "sideOf", desc := "(III)I" } : Jvm.MethodName)) ∈ lw_tbl := lw_at lw_m10 123 rfl
theorem q2367 : (Jvm.Cond.instanceMethod ({ cls := "CornerClaimsModel", name := "sideOf", desc := "(III)I" } : Jvm.MethodName)) ∈ lw_all := lw_g (lw_at lw_m10 124 rfl) rfl
theorem q2368 : (Jvm.Cond.code ({ cls := "CornerClaimsModel", name := "sideOf", desc := "(III)I" } : Jvm.MethodName) prog_10_method_55_code (11 : Nat) (Option.some Jvm.ClassFile.FieldType.int)) ∈ lw_all := lw_g (lw_at lw_m10 125 rfl) rfl
theorem q2369 : (Jvm.Cond.methodLink "CornerClaimsModel" (264 : Nat) ({ cls := "CornerClaimsModel", name := "areaOf", desc := "(I)I" } : Jvm.MethodName)) ∈ lw_all := lw_g (lw_at lw_m10 126 rfl) rfl
theorem q2370 : (Jvm.Cond.privateMethod ({ cls := "CornerClaimsModel", name := "areaOf", desc := "(I)I" } : Jvm.MethodName)) ∈ lw_tbl := lw_at lw_m10 127 rfl
theorem q2371 : (Jvm.Cond.instanceMethod ({ cls := "CornerClaimsModel", name := "areaOf", desc := "(I)I" } : Jvm.MethodName)) ∈ lw_all := lw_g (lw_at lw_m10 128 rfl) rfl
theorem q2372 : (Jvm.Cond.code ({ cls := "CornerClaimsModel", name := "areaOf", desc := "(I)I" } : Jvm.MethodName) prog_10_method_54_code (3 : Nat) (Option.some Jvm.ClassFile.FieldType.int)) ∈ lw_all := lw_g (lw_at lw_m10 129 rfl) rfl
theorem q2373 : (Jvm.Cond.methodLink "CornerClaimsModel" (258 : Nat) ({ cls := "CornerClaimsModel", name := "doubled", desc := "(I)I" } : Jvm.MethodName)) ∈ lw_all := lw_g (lw_at lw_m10 130 rfl) rfl
theorem q2374 : (Jvm.Cond.privateMethod ({ cls := "CornerClaimsModel", name := "doubled", desc := "(I)I" } : Jvm.MethodName)) ∈ lw_tbl := lw_at lw_m10 131 rfl
theorem q2375 : (Jvm.Cond.instanceMethod ({ cls := "CornerClaimsModel", name := "doubled", desc := "(I)I" } : Jvm.MethodName)) ∈ lw_all := lw_g (lw_at lw_m10 132 rfl) rfl
theorem q2376 : (Jvm.Cond.code ({ cls := "CornerClaimsModel", name := "doubled", desc := "(I)I" } : Jvm.MethodName) prog_10_method_53_code (4 : Nat) (Option.some Jvm.ClassFile.FieldType.int)) ∈ lw_all := lw_g (lw_at lw_m10 133 rfl) rfl
theorem q2378 : (Jvm.Cond.instanceMethod ({ cls := "CornerClaimsModel", name := "stone", desc := "(II)I" } : Jvm.MethodName)) ∈ lw_all := lw_g (lw_at lw_m10 135 rfl) rfl
theorem q2379 : (Jvm.Cond.selects "CornerClaimsModel" ({ cls := "CornerClaimsModel", name := "stone", desc := "(II)I" } : Jvm.MethodName) ({ cls := "CornerClaimsModel", name := "stone", desc := "(II)I" } : Jvm.MethodName)) ∈ lw_all := lw_g (lw_at lw_m10 136 rfl) rfl
theorem q2380 : (Jvm.Cond.code ({ cls := "CornerClaimsModel", name := "stone", desc := "(II)I" } : Jvm.MethodName) prog_10_method_69_code (3 : Nat) (Option.some Jvm.ClassFile.FieldType.int)) ∈ lw_all := lw_g (lw_at lw_m10 137 rfl) rfl
theorem q2382 : (Jvm.Cond.instanceMethod ({ cls := "CornerClaimsModel", name := "polygon", desc := "(II)I" } : Jvm.MethodName)) ∈ lw_all := lw_g (lw_at lw_m10 139 rfl) rfl
theorem q2383 : (Jvm.Cond.selects "CornerClaimsModel" ({ cls := "CornerClaimsModel", name := "polygon", desc := "(II)I" } : Jvm.MethodName) ({ cls := "CornerClaimsModel", name := "polygon", desc := "(II)I" } : Jvm.MethodName)) ∈ lw_all := lw_g (lw_at lw_m10 140 rfl) rfl
theorem q2384 : (Jvm.Cond.code ({ cls := "CornerClaimsModel", name := "polygon", desc := "(II)I" } : Jvm.MethodName) prog_10_method_70_code (3 : Nat) (Option.some Jvm.ClassFile.FieldType.int)) ∈ lw_all := lw_g (lw_at lw_m10 141 rfl) rfl
theorem q2385 : (Jvm.Cond.methodLink "CornerClaimsModel" (300 : Nat) ({ cls := "CornerClaimsModel", name := "noPolygon", desc := "(I)Z" } : Jvm.MethodName)) ∈ lw_all := lw_g (lw_at lw_m10 142 rfl) rfl
theorem q2386 : (Jvm.Cond.privateMethod ({ cls := "CornerClaimsModel", name := "noPolygon", desc := "(I)Z" } : Jvm.MethodName)) ∈ lw_tbl := lw_at lw_m10 143 rfl
theorem q2387 : (Jvm.Cond.instanceMethod ({ cls := "CornerClaimsModel", name := "noPolygon", desc := "(I)Z" } : Jvm.MethodName)) ∈ lw_all := lw_g (lw_at lw_m10 144 rfl) rfl
theorem q2388 : (Jvm.Cond.code ({ cls := "CornerClaimsModel", name := "noPolygon", desc := "(I)Z" } : Jvm.MethodName) prog_10_method_65_code (2 : Nat) (Option.some Jvm.ClassFile.FieldType.boolean)) ∈ lw_all := lw_g (lw_at lw_m10 145 rfl) rfl
theorem q2390 : (Jvm.Cond.instanceMethod ({ cls := "CornerClaimsModel", name := "cornerAt", desc := "(II)I" } : Jvm.MethodName)) ∈ lw_all := lw_g (lw_at lw_m10 147 rfl) rfl
theorem q2391 : (Jvm.Cond.selects "CornerClaimsModel" ({ cls := "CornerClaimsModel", name := "cornerAt", desc := "(II)I" } : Jvm.MethodName) ({ cls := "CornerClaimsModel", name := "cornerAt", desc := "(II)I" } : Jvm.MethodName)) ∈ lw_all := lw_g (lw_at lw_m10 148 rfl) rfl
theorem q2392 : (Jvm.Cond.code ({ cls := "CornerClaimsModel", name := "cornerAt", desc := "(II)I" } : Jvm.MethodName) prog_10_method_71_code (3 : Nat) (Option.some Jvm.ClassFile.FieldType.int)) ∈ lw_all := lw_g (lw_at lw_m10 149 rfl) rfl
theorem q2394 : (Jvm.Cond.instanceMethod ({ cls := "CornerClaimsModel", name := "reason", desc := "(III)I" } : Jvm.MethodName)) ∈ lw_all := lw_g (lw_at lw_m10 151 rfl) rfl
theorem q2395 : (Jvm.Cond.selects "CornerClaimsModel" ({ cls := "CornerClaimsModel", name := "reason", desc := "(III)I" } : Jvm.MethodName) ({ cls := "CornerClaimsModel", name := "reason", desc := "(III)I" } : Jvm.MethodName)) ∈ lw_all := lw_g (lw_at lw_m10 152 rfl) rfl
theorem q2396 : (Jvm.Cond.code ({ cls := "CornerClaimsModel", name := "reason", desc := "(III)I" } : Jvm.MethodName) prog_10_method_72_code (4 : Nat) (Option.some Jvm.ClassFile.FieldType.int)) ∈ lw_all := lw_g (lw_at lw_m10 153 rfl) rfl
theorem q2397 : (Jvm.Cond.methodLink "CornerClaimsModel" (306 : Nat) ({ cls := "CornerClaimsModel", name := "noPoint", desc := "(III)Z" } : Jvm.MethodName)) ∈ lw_all := lw_g (lw_at lw_m10 154 rfl) rfl
theorem q2398 : (Jvm.Cond.privateMethod ({ cls := "CornerClaimsModel", name := "noPoint", desc := "(III)Z" } : Jvm.MethodName)) ∈ lw_tbl := lw_at lw_m10 155 rfl
theorem q2399 : (Jvm.Cond.instanceMethod ({ cls := "CornerClaimsModel", name := "noPoint", desc := "(III)Z" } : Jvm.MethodName)) ∈ lw_all := lw_g (lw_at lw_m10 156 rfl) rfl
theorem q2400 : (Jvm.Cond.code ({ cls := "CornerClaimsModel", name := "noPoint", desc := "(III)Z" } : Jvm.MethodName) prog_10_method_66_code (4 : Nat) (Option.some Jvm.ClassFile.FieldType.boolean)) ∈ lw_all := lw_g (lw_at lw_m10 157 rfl) rfl
theorem q2402 : (Jvm.Cond.instanceMethod ({ cls := "CornerClaimsModel", name := "where", desc := "(III)I" } : Jvm.MethodName)) ∈ lw_all := lw_g (lw_at lw_m10 159 rfl) rfl
theorem q2403 : (Jvm.Cond.selects "CornerClaimsModel" ({ cls := "CornerClaimsModel", name := "where", desc := "(III)I" } : Jvm.MethodName) ({ cls := "CornerClaimsModel", name := "where", desc := "(III)I" } : Jvm.MethodName)) ∈ lw_all := lw_g (lw_at lw_m10 160 rfl) rfl
theorem q2404 : (Jvm.Cond.code ({ cls := "CornerClaimsModel", name := "where", desc := "(III)I" } : Jvm.MethodName) prog_10_method_73_code (4 : Nat) (Option.some Jvm.ClassFile.FieldType.int)) ∈ lw_all := lw_g (lw_at lw_m10 161 rfl) rfl
theorem q2406 : (Jvm.Cond.instanceMethod ({ cls := "CornerClaimsModel", name := "area", desc := "(I)I" } : Jvm.MethodName)) ∈ lw_all := lw_g (lw_at lw_m10 163 rfl) rfl
theorem q2407 : (Jvm.Cond.selects "CornerClaimsModel" ({ cls := "CornerClaimsModel", name := "area", desc := "(I)I" } : Jvm.MethodName) ({ cls := "CornerClaimsModel", name := "area", desc := "(I)I" } : Jvm.MethodName)) ∈ lw_all := lw_g (lw_at lw_m10 164 rfl) rfl
theorem q2408 : (Jvm.Cond.code ({ cls := "CornerClaimsModel", name := "area", desc := "(I)I" } : Jvm.MethodName) prog_10_method_74_code (2 : Nat) (Option.some Jvm.ClassFile.FieldType.int)) ∈ lw_all := lw_g (lw_at lw_m10 165 rfl) rfl
theorem q2409 : (Jvm.Cond.methodLink "CornerClaimsModel" (309 : Nat) ({ cls := "CornerClaimsModel", name := "noClosed", desc := "(I)Z" } : Jvm.MethodName)) ∈ lw_all := lw_g (lw_at lw_m10 166 rfl) rfl
theorem q2410 : (Jvm.Cond.privateMethod ({ cls := "CornerClaimsModel", name := "noClosed", desc := "(I)Z" } : Jvm.MethodName)) ∈ lw_tbl := lw_at lw_m10 167 rfl
theorem q2411 : (Jvm.Cond.instanceMethod ({ cls := "CornerClaimsModel", name := "noClosed", desc := "(I)Z" } : Jvm.MethodName)) ∈ lw_all := lw_g (lw_at lw_m10 168 rfl) rfl
theorem q2412 : (Jvm.Cond.code ({ cls := "CornerClaimsModel", name := "noClosed", desc := "(I)Z" } : Jvm.MethodName) prog_10_method_67_code (2 : Nat) (Option.some Jvm.ClassFile.FieldType.boolean)) ∈ lw_all := lw_g (lw_at lw_m10 169 rfl) rfl
theorem q2414 : (Jvm.Cond.instanceMethod ({ cls := "CornerClaimsModel", name := "border", desc := "(I)I" } : Jvm.MethodName)) ∈ lw_all := lw_g (lw_at lw_m10 171 rfl) rfl
theorem q2415 : (Jvm.Cond.selects "CornerClaimsModel" ({ cls := "CornerClaimsModel", name := "border", desc := "(I)I" } : Jvm.MethodName) ({ cls := "CornerClaimsModel", name := "border", desc := "(I)I" } : Jvm.MethodName)) ∈ lw_all := lw_g (lw_at lw_m10 172 rfl) rfl
theorem q2416 : (Jvm.Cond.code ({ cls := "CornerClaimsModel", name := "border", desc := "(I)I" } : Jvm.MethodName) prog_10_method_75_code (2 : Nat) (Option.some Jvm.ClassFile.FieldType.int)) ∈ lw_all := lw_g (lw_at lw_m10 173 rfl) rfl
theorem q2417 : (Jvm.Cond.methodLink "CornerClaimsModel" (284 : Nat) ({ cls := "CornerClaimsModel", name := "countAll", desc := "(II)I" } : Jvm.MethodName)) ∈ lw_all := lw_g (lw_at lw_m10 174 rfl) rfl
theorem q2418 : (Jvm.Cond.privateMethod ({ cls := "CornerClaimsModel", name := "countAll", desc := "(II)I" } : Jvm.MethodName)) ∈ lw_tbl := lw_at lw_m10 175 rfl
theorem q2419 : (Jvm.Cond.instanceMethod ({ cls := "CornerClaimsModel", name := "countAll", desc := "(II)I" } : Jvm.MethodName)) ∈ lw_all := lw_g (lw_at lw_m10 176 rfl) rfl
theorem q2420 : (Jvm.Cond.code ({ cls := "CornerClaimsModel", name := "countAll", desc := "(II)I" } : Jvm.MethodName) prog_10_method_56_code (6 : Nat) (Option.some Jvm.ClassFile.FieldType.int)) ∈ lw_all := lw_g (lw_at lw_m10 177 rfl) rfl
theorem q2422 : (Jvm.Cond.instanceMethod ({ cls := "CornerClaimsModel", name := "inner", desc := "(I)I" } : Jvm.MethodName)) ∈ lw_all := lw_g (lw_at lw_m10 179 rfl) rfl
theorem q2423 : (Jvm.Cond.selects "CornerClaimsModel" ({ cls := "CornerClaimsModel", name := "inner", desc := "(I)I" } : Jvm.MethodName) ({ cls := "CornerClaimsModel", name := "inner", desc := "(I)I" } : Jvm.MethodName)) ∈ lw_all := lw_g (lw_at lw_m10 180 rfl) rfl
theorem q2424 : (Jvm.Cond.code ({ cls := "CornerClaimsModel", name := "inner", desc := "(I)I" } : Jvm.MethodName) prog_10_method_76_code (2 : Nat) (Option.some Jvm.ClassFile.FieldType.int)) ∈ lw_all := lw_g (lw_at lw_m10 181 rfl) rfl
theorem q2426 : (Jvm.Cond.instanceMethod ({ cls := "CornerClaimsModel", name := "dents", desc := "(I)I" } : Jvm.MethodName)) ∈ lw_all := lw_g (lw_at lw_m10 183 rfl) rfl
theorem q2427 : (Jvm.Cond.selects "CornerClaimsModel" ({ cls := "CornerClaimsModel", name := "dents", desc := "(I)I" } : Jvm.MethodName) ({ cls := "CornerClaimsModel", name := "dents", desc := "(I)I" } : Jvm.MethodName)) ∈ lw_all := lw_g (lw_at lw_m10 184 rfl) rfl
theorem q2428 : (Jvm.Cond.code ({ cls := "CornerClaimsModel", name := "dents", desc := "(I)I" } : Jvm.MethodName) prog_10_method_77_code (2 : Nat) (Option.some Jvm.ClassFile.FieldType.int)) ∈ lw_all := lw_g (lw_at lw_m10 185 rfl) rfl
theorem q2429 : (Jvm.Cond.methodLink "CornerClaimsModel" (281 : Nat) ({ cls := "CornerClaimsModel", name := "dentsOf", desc := "(I)I" } : Jvm.MethodName)) ∈ lw_all := lw_g (lw_at lw_m10 186 rfl) rfl
theorem q2430 : (Jvm.Cond.privateMethod ({ cls := "CornerClaimsModel", name := "dentsOf", desc := "(I)I" } : Jvm.MethodName)) ∈ lw_tbl := lw_at lw_m10 187 rfl
theorem q2431 : (Jvm.Cond.instanceMethod ({ cls := "CornerClaimsModel", name := "dentsOf", desc := "(I)I" } : Jvm.MethodName)) ∈ lw_all := lw_g (lw_at lw_m10 188 rfl) rfl
theorem q2432 : (Jvm.Cond.code ({ cls := "CornerClaimsModel", name := "dentsOf", desc := "(I)I" } : Jvm.MethodName) prog_10_method_57_code (8 : Nat) (Option.some Jvm.ClassFile.FieldType.int)) ∈ lw_all := lw_g (lw_at lw_m10 189 rfl) rfl
theorem q2433 : (Jvm.Cond.methodLink "CornerClaimsModel" (121 : Nat) ({ cls := "CornerClaimsModel", name := "ahead", desc := "(II)I" } : Jvm.MethodName)) ∈ lw_all := lw_g (lw_at lw_m10 190 rfl) rfl
theorem q2434 : (Jvm.Cond.privateMethod ({ cls := "CornerClaimsModel", name := "ahead", desc := "(II)I" } : Jvm.MethodName)) ∈ lw_tbl := lw_at lw_m10 191 rfl
theorem q2435 : (Jvm.Cond.instanceMethod ({ cls := "CornerClaimsModel", name := "ahead", desc := "(II)I" } : Jvm.MethodName)) ∈ lw_all := lw_g (lw_at lw_m10 192 rfl) rfl
theorem q2436 : (Jvm.Cond.code ({ cls := "CornerClaimsModel", name := "ahead", desc := "(II)I" } : Jvm.MethodName) prog_10_method_14_code (3 : Nat) (Option.some Jvm.ClassFile.FieldType.int)) ∈ lw_all := lw_g (lw_at lw_m10 193 rfl) rfl
theorem q2438 : (Jvm.Cond.instanceMethod ({ cls := "CornerClaimsModel", name := "parent", desc := "(I)I" } : Jvm.MethodName)) ∈ lw_all := lw_g (lw_at lw_m10 195 rfl) rfl
theorem q2439 : (Jvm.Cond.selects "CornerClaimsModel" ({ cls := "CornerClaimsModel", name := "parent", desc := "(I)I" } : Jvm.MethodName) ({ cls := "CornerClaimsModel", name := "parent", desc := "(I)I" } : Jvm.MethodName)) ∈ lw_all := lw_g (lw_at lw_m10 196 rfl) rfl
theorem q2440 : (Jvm.Cond.code ({ cls := "CornerClaimsModel", name := "parent", desc := "(I)I" } : Jvm.MethodName) prog_10_method_78_code (2 : Nat) (Option.some Jvm.ClassFile.FieldType.int)) ∈ lw_all := lw_g (lw_at lw_m10 197 rfl) rfl
theorem q2442 : (Jvm.Cond.instanceMethod ({ cls := "CornerClaimsModel", name := "score", desc := "(I)I" } : Jvm.MethodName)) ∈ lw_all := lw_g (lw_at lw_m10 199 rfl) rfl
theorem q2443 : (Jvm.Cond.selects "CornerClaimsModel" ({ cls := "CornerClaimsModel", name := "score", desc := "(I)I" } : Jvm.MethodName) ({ cls := "CornerClaimsModel", name := "score", desc := "(I)I" } : Jvm.MethodName)) ∈ lw_all := lw_g (lw_at lw_m10 200 rfl) rfl
theorem q2444 : (Jvm.Cond.code ({ cls := "CornerClaimsModel", name := "score", desc := "(I)I" } : Jvm.MethodName) prog_10_method_79_code (2 : Nat) (Option.some Jvm.ClassFile.FieldType.int)) ∈ lw_all := lw_g (lw_at lw_m10 201 rfl) rfl
theorem q2445 : (Jvm.Cond.methodLink "CornerClaimsModel" (297 : Nat) ({ cls := "CornerClaimsModel", name := "scoreOf", desc := "(I)I" } : Jvm.MethodName)) ∈ lw_all := lw_g (lw_at lw_m10 202 rfl) rfl
theorem q2446 : (Jvm.Cond.privateMethod ({ cls := "CornerClaimsModel", name := "scoreOf", desc := "(I)I" } : Jvm.MethodName)) ∈ lw_tbl := lw_at lw_m10 203 rfl
theorem q2447 : (Jvm.Cond.instanceMethod ({ cls := "CornerClaimsModel", name := "scoreOf", desc := "(I)I" } : Jvm.MethodName)) ∈ lw_all := lw_g (lw_at lw_m10 204 rfl) rfl
theorem q2448 : (Jvm.Cond.code ({ cls := "CornerClaimsModel", name := "scoreOf", desc := "(I)I" } : Jvm.MethodName) prog_10_method_63_code (10 : Nat) (Option.some Jvm.ClassFile.FieldType.int)) ∈ lw_all := lw_g (lw_at lw_m10 205 rfl) rfl
theorem q2449 : (Jvm.Cond.methodLink "CornerClaimsModel" (287 : Nat) ({ cls := "CornerClaimsModel", name := "operate", desc := "(IJJ)J" } : Jvm.MethodName)) ∈ lw_all := lw_g (lw_at lw_m10 206 rfl) rfl
theorem q2450 : (Jvm.Cond.static ({ cls := "CornerClaimsModel", name := "operate", desc := "(IJJ)J" } : Jvm.MethodName)) ∈ lw_all := lw_g (lw_at lw_m10 207 rfl) rfl
theorem q2451 : (Jvm.Cond.code ({ cls := "CornerClaimsModel", name := "operate", desc := "(IJJ)J" } : Jvm.MethodName) prog_10_method_62_code (5 : Nat) (Option.some Jvm.ClassFile.FieldType.long)) ∈ lw_all := lw_g (lw_at lw_m10 208 rfl) rfl
theorem q2452 : (Jvm.Cond.methodLink "CornerClaimsModel" (277 : Nat) ({ cls := "CornerClaimsModel", name := "limited", desc := "(J)J" } : Jvm.MethodName)) ∈ lw_all := lw_g (lw_at lw_m10 209 rfl) rfl
theorem q2453 : (Jvm.Cond.static ({ cls := "CornerClaimsModel", name := "limited", desc := "(J)J" } : Jvm.MethodName)) ∈ lw_all := lw_g (lw_at lw_m10 210 rfl) rfl
theorem q2454 : (Jvm.Cond.code ({ cls := "CornerClaimsModel", name := "limited", desc := "(J)J" } : Jvm.MethodName) prog_10_method_61_code (2 : Nat) (Option.some Jvm.ClassFile.FieldType.long)) ∈ lw_all := lw_g (lw_at lw_m10 211 rfl) rfl
theorem q2455 : (Jvm.Cond.constantLong "CornerClaimsModel" (273 : Nat) (1000000 : Int64)) ∈ lw_all := lw_g (lw_at lw_m10 212 rfl) rfl
theorem q2456 : (Jvm.Cond.constantLong "CornerClaimsModel" (275 : Nat) (-1000000 : Int64)) ∈ lw_all := lw_g (lw_at lw_m10 213 rfl) rfl
theorem q2457 : (Jvm.Cond.constantLong "CornerClaimsModel" (291 : Nat) (-99999 : Int64)) ∈ lw_all := lw_g (lw_at lw_m10 214 rfl) rfl
theorem q2458 : (Jvm.Cond.constant "CornerClaimsModel" (293 : Nat) (-99999 : Int32)) ∈ lw_all := lw_g (lw_at lw_m10 215 rfl) rfl
theorem q2459 : (Jvm.Cond.constantLong "CornerClaimsModel" (294 : Nat) (99999 : Int64)) ∈ lw_all := lw_g (lw_at lw_m10 216 rfl) rfl
theorem q2460 : (Jvm.Cond.constant "CornerClaimsModel" (296 : Nat) (99999 : Int32)) ∈ lw_all := lw_g (lw_at lw_m10 217 rfl) rfl
theorem q2462 : (Jvm.Cond.instanceMethod ({ cls := "CornerClaimsModel", name := "points", desc := "(I)I" } : Jvm.MethodName)) ∈ lw_all := lw_g (lw_at lw_m10 219 rfl) rfl
theorem q2463 : (Jvm.Cond.selects "CornerClaimsModel" ({ cls := "CornerClaimsModel", name := "points", desc := "(I)I" } : Jvm.MethodName) ({ cls := "CornerClaimsModel", name := "points", desc := "(I)I" } : Jvm.MethodName)) ∈ lw_all := lw_g (lw_at lw_m10 220 rfl) rfl
theorem q2464 : (Jvm.Cond.code ({ cls := "CornerClaimsModel", name := "points", desc := "(I)I" } : Jvm.MethodName) prog_10_method_80_code (2 : Nat) (Option.some Jvm.ClassFile.FieldType.int)) ∈ lw_all := lw_g (lw_at lw_m10 221 rfl) rfl
theorem q2465 : (Jvm.Cond.methodLink "CornerClaimsModel" (312 : Nat) ({ cls := "CornerClaimsModel", name := "pointsOf", desc := "(I)I" } : Jvm.MethodName)) ∈ lw_all := lw_g (lw_at lw_m10 222 rfl) rfl
theorem q2466 : (Jvm.Cond.privateMethod ({ cls := "CornerClaimsModel", name := "pointsOf", desc := "(I)I" } : Jvm.MethodName)) ∈ lw_tbl := lw_at lw_m10 223 rfl
theorem q2467 : (Jvm.Cond.instanceMethod ({ cls := "CornerClaimsModel", name := "pointsOf", desc := "(I)I" } : Jvm.MethodName)) ∈ lw_all := lw_g (lw_at lw_m10 224 rfl) rfl
theorem q2468 : (Jvm.Cond.code ({ cls := "CornerClaimsModel", name := "pointsOf", desc := "(I)I" } : Jvm.MethodName) prog_10_method_64_code (4 : Nat) (Option.some Jvm.ClassFile.FieldType.int)) ∈ lw_all := lw_g (lw_at lw_m10 225 rfl) rfl
theorem q2470 : (Jvm.Cond.instanceMethod ({ cls := "CornerClaimsModel", name := "leader", desc := "()I" } : Jvm.MethodName)) ∈ lw_all := lw_g (lw_at lw_m10 227 rfl) rfl
theorem q2471 : (Jvm.Cond.selects "CornerClaimsModel" ({ cls := "CornerClaimsModel", name := "leader", desc := "()I" } : Jvm.MethodName) ({ cls := "CornerClaimsModel", name := "leader", desc := "()I" } : Jvm.MethodName)) ∈ lw_all := lw_g (lw_at lw_m10 228 rfl) rfl
theorem q2472 : (Jvm.Cond.code ({ cls := "CornerClaimsModel", name := "leader", desc := "()I" } : Jvm.MethodName) prog_10_method_81_code (5 : Nat) (Option.some Jvm.ClassFile.FieldType.int)) ∈ lw_all := lw_g (lw_at lw_m10 229 rfl) rfl
theorem q2474 : (Jvm.Cond.instanceMethod ({ cls := "CornerClaimsModel", name := "begin", desc := "(III)I" } : Jvm.MethodName)) ∈ lw_all := lw_g (lw_at lw_m10 231 rfl) rfl
theorem q2475 : (Jvm.Cond.selects "CornerClaimsModel" ({ cls := "CornerClaimsModel", name := "begin", desc := "(III)I" } : Jvm.MethodName) ({ cls := "CornerClaimsModel", name := "begin", desc := "(III)I" } : Jvm.MethodName)) ∈ lw_all := lw_g (lw_at lw_m10 232 rfl) rfl
theorem q2476 : (Jvm.Cond.code ({ cls := "CornerClaimsModel", name := "begin", desc := "(III)I" } : Jvm.MethodName) prog_10_method_83_code (4 : Nat) (Option.some Jvm.ClassFile.FieldType.int)) ∈ lw_all := lw_g (lw_at lw_m10 233 rfl) rfl
theorem q2478 : (Jvm.Cond.instanceMethod ({ cls := "CornerClaimsModel", name := "corner", desc := "(III)I" } : Jvm.MethodName)) ∈ lw_all := lw_g (lw_at lw_m10 235 rfl) rfl
theorem q2479 : (Jvm.Cond.selects "CornerClaimsModel" ({ cls := "CornerClaimsModel", name := "corner", desc := "(III)I" } : Jvm.MethodName) ({ cls := "CornerClaimsModel", name := "corner", desc := "(III)I" } : Jvm.MethodName)) ∈ lw_all := lw_g (lw_at lw_m10 236 rfl) rfl
theorem q2480 : (Jvm.Cond.code ({ cls := "CornerClaimsModel", name := "corner", desc := "(III)I" } : Jvm.MethodName) prog_10_method_84_code (5 : Nat) (Option.some Jvm.ClassFile.FieldType.int)) ∈ lw_all := lw_g (lw_at lw_m10 237 rfl) rfl
theorem q2482 : (Jvm.Cond.instanceMethod ({ cls := "CornerClaimsModel", name := "close", desc := "(I)I" } : Jvm.MethodName)) ∈ lw_all := lw_g (lw_at lw_m10 239 rfl) rfl
theorem q2483 : (Jvm.Cond.selects "CornerClaimsModel" ({ cls := "CornerClaimsModel", name := "close", desc := "(I)I" } : Jvm.MethodName) ({ cls := "CornerClaimsModel", name := "close", desc := "(I)I" } : Jvm.MethodName)) ∈ lw_all := lw_g (lw_at lw_m11 0 rfl) rfl
theorem q2484 : (Jvm.Cond.code ({ cls := "CornerClaimsModel", name := "close", desc := "(I)I" } : Jvm.MethodName) prog_10_method_85_code (5 : Nat) (Option.some Jvm.ClassFile.FieldType.int)) ∈ lw_all := lw_g (lw_at lw_m11 1 rfl) rfl
theorem q2486 : (Jvm.Cond.instanceMethod ({ cls := "CornerClaimsModel", name := "bend", desc := "(IIII)I" } : Jvm.MethodName)) ∈ lw_all := lw_g (lw_at lw_m11 3 rfl) rfl
theorem q2487 : (Jvm.Cond.selects "CornerClaimsModel" ({ cls := "CornerClaimsModel", name := "bend", desc := "(IIII)I" } : Jvm.MethodName) ({ cls := "CornerClaimsModel", name := "bend", desc := "(IIII)I" } : Jvm.MethodName)) ∈ lw_all := lw_g (lw_at lw_m11 4 rfl) rfl
theorem q2488 : (Jvm.Cond.code ({ cls := "CornerClaimsModel", name := "bend", desc := "(IIII)I" } : Jvm.MethodName) prog_10_method_86_code (6 : Nat) (Option.some Jvm.ClassFile.FieldType.int)) ∈ lw_all := lw_g (lw_at lw_m11 5 rfl) rfl
theorem q2489 : (Jvm.Cond.methodLink "CornerClaimsModel" (318 : Nat) ({ cls := "CornerClaimsModel", name := "bendReason", desc := "(IIII)I" } : Jvm.MethodName)) ∈ lw_all := lw_g (lw_at lw_m11 6 rfl) rfl
theorem q2490 : (Jvm.Cond.privateMethod ({ cls := "CornerClaimsModel", name := "bendReason", desc := "(IIII)I" } : Jvm.MethodName)) ∈ lw_tbl := lw_at lw_m11 7 rfl
theorem q2491 : (Jvm.Cond.instanceMethod ({ cls := "CornerClaimsModel", name := "bendReason", desc := "(IIII)I" } : Jvm.MethodName)) ∈ lw_all := lw_g (lw_at lw_m11 8 rfl) rfl
theorem q2492 : (Jvm.Cond.code ({ cls := "CornerClaimsModel", name := "bendReason", desc := "(IIII)I" } : Jvm.MethodName) prog_10_method_30_code (7 : Nat) (Option.some Jvm.ClassFile.FieldType.int)) ∈ lw_all := lw_g (lw_at lw_m11 9 rfl) rfl
theorem q2494 : (Jvm.Cond.instanceMethod ({ cls := "CornerClaimsModel", name := "takeOut", desc := "(II)I" } : Jvm.MethodName)) ∈ lw_all := lw_g (lw_at lw_m11 11 rfl) rfl
theorem q2495 : (Jvm.Cond.selects "CornerClaimsModel" ({ cls := "CornerClaimsModel", name := "takeOut", desc := "(II)I" } : Jvm.MethodName) ({ cls := "CornerClaimsModel", name := "takeOut", desc := "(II)I" } : Jvm.MethodName)) ∈ lw_all := lw_g (lw_at lw_m11 12 rfl) rfl
theorem q2496 : (Jvm.Cond.code ({ cls := "CornerClaimsModel", name := "takeOut", desc := "(II)I" } : Jvm.MethodName) prog_10_method_87_code (6 : Nat) (Option.some Jvm.ClassFile.FieldType.int)) ∈ lw_all := lw_g (lw_at lw_m11 13 rfl) rfl
theorem q2497 : (Jvm.Cond.methodLink "CornerClaimsModel" (321 : Nat) ({ cls := "CornerClaimsModel", name := "outReason", desc := "(II)I" } : Jvm.MethodName)) ∈ lw_all := lw_g (lw_at lw_m11 14 rfl) rfl
theorem q2498 : (Jvm.Cond.privateMethod ({ cls := "CornerClaimsModel", name := "outReason", desc := "(II)I" } : Jvm.MethodName)) ∈ lw_tbl := lw_at lw_m11 15 rfl
theorem q2499 : (Jvm.Cond.instanceMethod ({ cls := "CornerClaimsModel", name := "outReason", desc := "(II)I" } : Jvm.MethodName)) ∈ lw_all := lw_g (lw_at lw_m11 16 rfl) rfl
theorem q2500 : (Jvm.Cond.code ({ cls := "CornerClaimsModel", name := "outReason", desc := "(II)I" } : Jvm.MethodName) prog_10_method_31_code (5 : Nat) (Option.some Jvm.ClassFile.FieldType.int)) ∈ lw_all := lw_g (lw_at lw_m11 17 rfl) rfl
theorem q2502 : (Jvm.Cond.instanceMethod ({ cls := "CornerClaimsModel", name := "remove", desc := "(I)I" } : Jvm.MethodName)) ∈ lw_all := lw_g (lw_at lw_m11 19 rfl) rfl
theorem q2503 : (Jvm.Cond.selects "CornerClaimsModel" ({ cls := "CornerClaimsModel", name := "remove", desc := "(I)I" } : Jvm.MethodName) ({ cls := "CornerClaimsModel", name := "remove", desc := "(I)I" } : Jvm.MethodName)) ∈ lw_all := lw_g (lw_at lw_m11 20 rfl) rfl
theorem q2504 : (Jvm.Cond.code ({ cls := "CornerClaimsModel", name := "remove", desc := "(I)I" } : Jvm.MethodName) prog_10_method_88_code (3 : Nat) (Option.some Jvm.ClassFile.FieldType.int)) ∈ lw_all := lw_g (lw_at lw_m11 21 rfl) rfl
theorem q2506 : (Jvm.Cond.instanceMethod ({ cls := "CornerClaimsModel", name := "undo", desc := "()I" } : Jvm.MethodName)) ∈ lw_all := lw_g (lw_at lw_m11 23 rfl) rfl
theorem q2507 : (Jvm.Cond.selects "CornerClaimsModel" ({ cls := "CornerClaimsModel", name := "undo", desc := "()I" } : Jvm.MethodName) ({ cls := "CornerClaimsModel", name := "undo", desc := "()I" } : Jvm.MethodName)) ∈ lw_all := lw_g (lw_at lw_m11 24 rfl) rfl
theorem q2508 : (Jvm.Cond.code ({ cls := "CornerClaimsModel", name := "undo", desc := "()I" } : Jvm.MethodName) prog_10_method_89_code (1 : Nat) (Option.some Jvm.ClassFile.FieldType.int)) ∈ lw_all := lw_g (lw_at lw_m11 25 rfl) rfl
theorem q2510 : (Jvm.Cond.instanceMethod ({ cls := "CornerClaimsModel", name := "checksum", desc := "()J" } : Jvm.MethodName)) ∈ lw_all := lw_g (lw_at lw_m11 27 rfl) rfl
theorem q2511 : (Jvm.Cond.selects "CornerClaimsModel" ({ cls := "CornerClaimsModel", name := "checksum", desc := "()J" } : Jvm.MethodName) ({ cls := "CornerClaimsModel", name := "checksum", desc := "()J" } : Jvm.MethodName)) ∈ lw_all := lw_g (lw_at lw_m11 28 rfl) rfl
theorem q2512 : (Jvm.Cond.code ({ cls := "CornerClaimsModel", name := "checksum", desc := "()J" } : Jvm.MethodName) prog_10_method_90_code (5 : Nat) (Option.some Jvm.ClassFile.FieldType.long)) ∈ lw_all := lw_g (lw_at lw_m11 29 rfl) rfl
theorem q2513 : (Jvm.Cond.constantLong "CornerClaimsModel" (324 : Nat) (31 : Int64)) ∈ lw_all := lw_g (lw_at lw_m11 30 rfl) rfl
theorem q2539 : (Jvm.Cond.castable "CornerClaimsModel" "java/lang/Object") ∈ lw_tbl := lw_at lw_m11 56 rfl
theorem in_X4 : ∀ w ∈ wsX40, w ∈ lw_all := lw_in wsX40 [2099, 2101, 2103, 2105, 2107, 2109, 2111, 2113, 2115, 2117, 2119, 2121, 2123, 2125, 2127, 2129, 2131, 2133, 2135, 2137] (by decide +kernel) (by decide +kernel)
/-! CornerClaimsLaw -/
set_option maxRecDepth 100000
def RX0 : String := "CornerClaimsLaw"
abbrev cX0_load : ByteArray := method_3_code
def yX0_load : MethodName := ⟨RX0, "load", "(LCornerClaims;I[J)I"⟩
def dkwX0_load_0 : List UInt8 := [44, 3, 42, 27, 182, 0, 7, 133, 80, 167, 0, 6, 78, 4, 172, 3, 172]
abbrev dktX0_load_0 : List UInt8 := dkwX0_load_0 ++ []
theorem dksX0_load_0 : cX0_load.data.toList.drop 0 = dktX0_load_0 := by decide +kernel
theorem dX0_load_0 : decode cX0_load 0 = .ok (.aload_n 2, 1) := dk_44 (dk_at dksX0_load_0 0 rfl rfl)
theorem dX0_load_1 : decode cX0_load 1 = .ok (.iconst 0, 1) := dk_3 (dk_at dksX0_load_0 1 rfl rfl)
theorem dX0_load_2 : decode cX0_load 2 = .ok (.aload_n 0, 1) := dk_42 (dk_at dksX0_load_0 2 rfl rfl)
theorem dX0_load_3 : decode cX0_load 3 = .ok (.iload_n 1, 1) := dk_27 (dk_at dksX0_load_0 3 rfl rfl)
theorem dX0_load_4 : decode cX0_load 4 = .ok (.invokevirtual 7, 3) := dk_182 0 7 (dk_at dksX0_load_0 4 rfl rfl)
theorem dX0_load_7 : decode cX0_load 7 = .ok (.i2l, 1) := dk_133 (dk_at dksX0_load_0 7 rfl rfl)
theorem dX0_load_8 : decode cX0_load 8 = .ok (.lastore, 1) := dk_80 (dk_at dksX0_load_0 8 rfl rfl)
theorem dX0_load_9 : decode cX0_load 9 = .ok (.goto 6, 3) := dk_167 0 6 (dk_at dksX0_load_0 9 rfl rfl)
theorem dX0_load_12 : decode cX0_load 12 = .ok (.astore_n 3, 1) := dk_78 (dk_at dksX0_load_0 12 rfl rfl)
theorem dX0_load_13 : decode cX0_load 13 = .ok (.iconst 1, 1) := dk_4 (dk_at dksX0_load_0 13 rfl rfl)
theorem dX0_load_14 : decode cX0_load 14 = .ok (.ireturn, 1) := dk_172 (dk_at dksX0_load_0 14 rfl rfl)
theorem dX0_load_15 : decode cX0_load 15 = .ok (.iconst 0, 1) := dk_3 (dk_at dksX0_load_0 15 rfl rfl)
theorem dX0_load_16 : decode cX0_load 16 = .ok (.ireturn, 1) := dk_172 (dk_at dksX0_load_0 16 rfl rfl)
abbrev cX0_count : ByteArray := method_4_code
def yX0_count : MethodName := ⟨RX0, "count", "(LCornerClaims;I[J)I"⟩
def dkwX0_count_0 : List UInt8 := [44, 3, 42, 27, 182, 0, 15, 133, 80, 167, 0, 6, 78, 4, 172, 3, 172]
abbrev dktX0_count_0 : List UInt8 := dkwX0_count_0 ++ []
theorem dksX0_count_0 : cX0_count.data.toList.drop 0 = dktX0_count_0 := by decide +kernel
theorem dX0_count_0 : decode cX0_count 0 = .ok (.aload_n 2, 1) := dk_44 (dk_at dksX0_count_0 0 rfl rfl)
theorem dX0_count_1 : decode cX0_count 1 = .ok (.iconst 0, 1) := dk_3 (dk_at dksX0_count_0 1 rfl rfl)
theorem dX0_count_2 : decode cX0_count 2 = .ok (.aload_n 0, 1) := dk_42 (dk_at dksX0_count_0 2 rfl rfl)
theorem dX0_count_3 : decode cX0_count 3 = .ok (.iload_n 1, 1) := dk_27 (dk_at dksX0_count_0 3 rfl rfl)
theorem dX0_count_4 : decode cX0_count 4 = .ok (.invokevirtual 15, 3) := dk_182 0 15 (dk_at dksX0_count_0 4 rfl rfl)
theorem dX0_count_7 : decode cX0_count 7 = .ok (.i2l, 1) := dk_133 (dk_at dksX0_count_0 7 rfl rfl)
theorem dX0_count_8 : decode cX0_count 8 = .ok (.lastore, 1) := dk_80 (dk_at dksX0_count_0 8 rfl rfl)
theorem dX0_count_9 : decode cX0_count 9 = .ok (.goto 6, 3) := dk_167 0 6 (dk_at dksX0_count_0 9 rfl rfl)
theorem dX0_count_12 : decode cX0_count 12 = .ok (.astore_n 3, 1) := dk_78 (dk_at dksX0_count_0 12 rfl rfl)
theorem dX0_count_13 : decode cX0_count 13 = .ok (.iconst 1, 1) := dk_4 (dk_at dksX0_count_0 13 rfl rfl)
theorem dX0_count_14 : decode cX0_count 14 = .ok (.ireturn, 1) := dk_172 (dk_at dksX0_count_0 14 rfl rfl)
theorem dX0_count_15 : decode cX0_count 15 = .ok (.iconst 0, 1) := dk_3 (dk_at dksX0_count_0 15 rfl rfl)
theorem dX0_count_16 : decode cX0_count 16 = .ok (.ireturn, 1) := dk_172 (dk_at dksX0_count_0 16 rfl rfl)
abbrev cX0_stone : ByteArray := method_5_code
def yX0_stone : MethodName := ⟨RX0, "stone", "(LCornerClaims;II[J)I"⟩
def dkwX0_stone_0 : List UInt8 := [45, 3, 42, 27, 28, 182, 0, 18, 133, 80, 167, 0, 11, 58, 4, 4, 172, 58, 4, 5, 172, 3, 172]
abbrev dktX0_stone_0 : List UInt8 := dkwX0_stone_0 ++ []
theorem dksX0_stone_0 : cX0_stone.data.toList.drop 0 = dktX0_stone_0 := by decide +kernel
theorem dX0_stone_0 : decode cX0_stone 0 = .ok (.aload_n 3, 1) := dk_45 (dk_at dksX0_stone_0 0 rfl rfl)
theorem dX0_stone_1 : decode cX0_stone 1 = .ok (.iconst 0, 1) := dk_3 (dk_at dksX0_stone_0 1 rfl rfl)
theorem dX0_stone_2 : decode cX0_stone 2 = .ok (.aload_n 0, 1) := dk_42 (dk_at dksX0_stone_0 2 rfl rfl)
theorem dX0_stone_3 : decode cX0_stone 3 = .ok (.iload_n 1, 1) := dk_27 (dk_at dksX0_stone_0 3 rfl rfl)
theorem dX0_stone_4 : decode cX0_stone 4 = .ok (.iload_n 2, 1) := dk_28 (dk_at dksX0_stone_0 4 rfl rfl)
theorem dX0_stone_5 : decode cX0_stone 5 = .ok (.invokevirtual 18, 3) := dk_182 0 18 (dk_at dksX0_stone_0 5 rfl rfl)
theorem dX0_stone_8 : decode cX0_stone 8 = .ok (.i2l, 1) := dk_133 (dk_at dksX0_stone_0 8 rfl rfl)
theorem dX0_stone_9 : decode cX0_stone 9 = .ok (.lastore, 1) := dk_80 (dk_at dksX0_stone_0 9 rfl rfl)
theorem dX0_stone_10 : decode cX0_stone 10 = .ok (.goto 11, 3) := dk_167 0 11 (dk_at dksX0_stone_0 10 rfl rfl)
theorem dX0_stone_13 : decode cX0_stone 13 = .ok (.astore 4, 2) := dk_58 4 (dk_at dksX0_stone_0 13 rfl rfl)
theorem dX0_stone_15 : decode cX0_stone 15 = .ok (.iconst 1, 1) := dk_4 (dk_at dksX0_stone_0 15 rfl rfl)
theorem dX0_stone_16 : decode cX0_stone 16 = .ok (.ireturn, 1) := dk_172 (dk_at dksX0_stone_0 16 rfl rfl)
theorem dX0_stone_17 : decode cX0_stone 17 = .ok (.astore 4, 2) := dk_58 4 (dk_at dksX0_stone_0 17 rfl rfl)
theorem dX0_stone_19 : decode cX0_stone 19 = .ok (.iconst 2, 1) := dk_5 (dk_at dksX0_stone_0 19 rfl rfl)
theorem dX0_stone_20 : decode cX0_stone 20 = .ok (.ireturn, 1) := dk_172 (dk_at dksX0_stone_0 20 rfl rfl)
theorem dX0_stone_21 : decode cX0_stone 21 = .ok (.iconst 0, 1) := dk_3 (dk_at dksX0_stone_0 21 rfl rfl)
theorem dX0_stone_22 : decode cX0_stone 22 = .ok (.ireturn, 1) := dk_172 (dk_at dksX0_stone_0 22 rfl rfl)
abbrev cX0_polygon : ByteArray := method_6_code
def yX0_polygon : MethodName := ⟨RX0, "polygon", "(LCornerClaims;II[J)I"⟩
def dkwX0_polygon_0 : List UInt8 := [45, 3, 42, 27, 28, 182, 0, 24, 133, 80, 167, 0, 11, 58, 4, 4, 172, 58, 4, 5, 172, 3, 172]
abbrev dktX0_polygon_0 : List UInt8 := dkwX0_polygon_0 ++ []
theorem dksX0_polygon_0 : cX0_polygon.data.toList.drop 0 = dktX0_polygon_0 := by decide +kernel
theorem dX0_polygon_0 : decode cX0_polygon 0 = .ok (.aload_n 3, 1) := dk_45 (dk_at dksX0_polygon_0 0 rfl rfl)
theorem dX0_polygon_1 : decode cX0_polygon 1 = .ok (.iconst 0, 1) := dk_3 (dk_at dksX0_polygon_0 1 rfl rfl)
theorem dX0_polygon_2 : decode cX0_polygon 2 = .ok (.aload_n 0, 1) := dk_42 (dk_at dksX0_polygon_0 2 rfl rfl)
theorem dX0_polygon_3 : decode cX0_polygon 3 = .ok (.iload_n 1, 1) := dk_27 (dk_at dksX0_polygon_0 3 rfl rfl)
theorem dX0_polygon_4 : decode cX0_polygon 4 = .ok (.iload_n 2, 1) := dk_28 (dk_at dksX0_polygon_0 4 rfl rfl)
theorem dX0_polygon_5 : decode cX0_polygon 5 = .ok (.invokevirtual 24, 3) := dk_182 0 24 (dk_at dksX0_polygon_0 5 rfl rfl)
theorem dX0_polygon_8 : decode cX0_polygon 8 = .ok (.i2l, 1) := dk_133 (dk_at dksX0_polygon_0 8 rfl rfl)
theorem dX0_polygon_9 : decode cX0_polygon 9 = .ok (.lastore, 1) := dk_80 (dk_at dksX0_polygon_0 9 rfl rfl)
theorem dX0_polygon_10 : decode cX0_polygon 10 = .ok (.goto 11, 3) := dk_167 0 11 (dk_at dksX0_polygon_0 10 rfl rfl)
theorem dX0_polygon_13 : decode cX0_polygon 13 = .ok (.astore 4, 2) := dk_58 4 (dk_at dksX0_polygon_0 13 rfl rfl)
theorem dX0_polygon_15 : decode cX0_polygon 15 = .ok (.iconst 1, 1) := dk_4 (dk_at dksX0_polygon_0 15 rfl rfl)
theorem dX0_polygon_16 : decode cX0_polygon 16 = .ok (.ireturn, 1) := dk_172 (dk_at dksX0_polygon_0 16 rfl rfl)
theorem dX0_polygon_17 : decode cX0_polygon 17 = .ok (.astore 4, 2) := dk_58 4 (dk_at dksX0_polygon_0 17 rfl rfl)
theorem dX0_polygon_19 : decode cX0_polygon 19 = .ok (.iconst 2, 1) := dk_5 (dk_at dksX0_polygon_0 19 rfl rfl)
theorem dX0_polygon_20 : decode cX0_polygon 20 = .ok (.ireturn, 1) := dk_172 (dk_at dksX0_polygon_0 20 rfl rfl)
theorem dX0_polygon_21 : decode cX0_polygon 21 = .ok (.iconst 0, 1) := dk_3 (dk_at dksX0_polygon_0 21 rfl rfl)
theorem dX0_polygon_22 : decode cX0_polygon 22 = .ok (.ireturn, 1) := dk_172 (dk_at dksX0_polygon_0 22 rfl rfl)
abbrev cX0_cornerAt : ByteArray := method_7_code
def yX0_cornerAt : MethodName := ⟨RX0, "cornerAt", "(LCornerClaims;II[J)I"⟩
def dkwX0_cornerAt_0 : List UInt8 := [45, 3, 42, 27, 28, 182, 0, 29, 133, 80, 167, 0, 11, 58, 4, 4, 172, 58, 4, 5, 172, 3, 172]
abbrev dktX0_cornerAt_0 : List UInt8 := dkwX0_cornerAt_0 ++ []
theorem dksX0_cornerAt_0 : cX0_cornerAt.data.toList.drop 0 = dktX0_cornerAt_0 := by decide +kernel
theorem dX0_cornerAt_0 : decode cX0_cornerAt 0 = .ok (.aload_n 3, 1) := dk_45 (dk_at dksX0_cornerAt_0 0 rfl rfl)
theorem dX0_cornerAt_1 : decode cX0_cornerAt 1 = .ok (.iconst 0, 1) := dk_3 (dk_at dksX0_cornerAt_0 1 rfl rfl)
theorem dX0_cornerAt_2 : decode cX0_cornerAt 2 = .ok (.aload_n 0, 1) := dk_42 (dk_at dksX0_cornerAt_0 2 rfl rfl)
theorem dX0_cornerAt_3 : decode cX0_cornerAt 3 = .ok (.iload_n 1, 1) := dk_27 (dk_at dksX0_cornerAt_0 3 rfl rfl)
theorem dX0_cornerAt_4 : decode cX0_cornerAt 4 = .ok (.iload_n 2, 1) := dk_28 (dk_at dksX0_cornerAt_0 4 rfl rfl)
theorem dX0_cornerAt_5 : decode cX0_cornerAt 5 = .ok (.invokevirtual 29, 3) := dk_182 0 29 (dk_at dksX0_cornerAt_0 5 rfl rfl)
theorem dX0_cornerAt_8 : decode cX0_cornerAt 8 = .ok (.i2l, 1) := dk_133 (dk_at dksX0_cornerAt_0 8 rfl rfl)
theorem dX0_cornerAt_9 : decode cX0_cornerAt 9 = .ok (.lastore, 1) := dk_80 (dk_at dksX0_cornerAt_0 9 rfl rfl)
theorem dX0_cornerAt_10 : decode cX0_cornerAt 10 = .ok (.goto 11, 3) := dk_167 0 11 (dk_at dksX0_cornerAt_0 10 rfl rfl)
theorem dX0_cornerAt_13 : decode cX0_cornerAt 13 = .ok (.astore 4, 2) := dk_58 4 (dk_at dksX0_cornerAt_0 13 rfl rfl)
theorem dX0_cornerAt_15 : decode cX0_cornerAt 15 = .ok (.iconst 1, 1) := dk_4 (dk_at dksX0_cornerAt_0 15 rfl rfl)
theorem dX0_cornerAt_16 : decode cX0_cornerAt 16 = .ok (.ireturn, 1) := dk_172 (dk_at dksX0_cornerAt_0 16 rfl rfl)
theorem dX0_cornerAt_17 : decode cX0_cornerAt 17 = .ok (.astore 4, 2) := dk_58 4 (dk_at dksX0_cornerAt_0 17 rfl rfl)
theorem dX0_cornerAt_19 : decode cX0_cornerAt 19 = .ok (.iconst 2, 1) := dk_5 (dk_at dksX0_cornerAt_0 19 rfl rfl)
theorem dX0_cornerAt_20 : decode cX0_cornerAt 20 = .ok (.ireturn, 1) := dk_172 (dk_at dksX0_cornerAt_0 20 rfl rfl)
theorem dX0_cornerAt_21 : decode cX0_cornerAt 21 = .ok (.iconst 0, 1) := dk_3 (dk_at dksX0_cornerAt_0 21 rfl rfl)
theorem dX0_cornerAt_22 : decode cX0_cornerAt 22 = .ok (.ireturn, 1) := dk_172 (dk_at dksX0_cornerAt_0 22 rfl rfl)
abbrev cX0_reason : ByteArray := method_8_code
def yX0_reason : MethodName := ⟨RX0, "reason", "(LCornerClaims;III[J)I"⟩
def dkwX0_reason_1 : List UInt8 := [172]
abbrev dktX0_reason_1 : List UInt8 := dkwX0_reason_1 ++ []
def dkwX0_reason_0 : List UInt8 := [25, 4, 3, 42, 27, 28, 29, 182, 0, 32, 133, 80, 167, 0, 11, 58, 5, 4, 172, 58, 5, 5, 172, 3]
abbrev dktX0_reason_0 : List UInt8 := dkwX0_reason_0 ++ dktX0_reason_1
theorem dksX0_reason_0 : cX0_reason.data.toList.drop 0 = dktX0_reason_0 := by decide +kernel
theorem dksX0_reason_1 : cX0_reason.data.toList.drop 24 = dktX0_reason_1 := dk_seg dksX0_reason_0 24 rfl rfl
theorem dX0_reason_0 : decode cX0_reason 0 = .ok (.aload 4, 2) := dk_25 4 (dk_at dksX0_reason_0 0 rfl rfl)
theorem dX0_reason_2 : decode cX0_reason 2 = .ok (.iconst 0, 1) := dk_3 (dk_at dksX0_reason_0 2 rfl rfl)
theorem dX0_reason_3 : decode cX0_reason 3 = .ok (.aload_n 0, 1) := dk_42 (dk_at dksX0_reason_0 3 rfl rfl)
theorem dX0_reason_4 : decode cX0_reason 4 = .ok (.iload_n 1, 1) := dk_27 (dk_at dksX0_reason_0 4 rfl rfl)
theorem dX0_reason_5 : decode cX0_reason 5 = .ok (.iload_n 2, 1) := dk_28 (dk_at dksX0_reason_0 5 rfl rfl)
theorem dX0_reason_6 : decode cX0_reason 6 = .ok (.iload_n 3, 1) := dk_29 (dk_at dksX0_reason_0 6 rfl rfl)
theorem dX0_reason_7 : decode cX0_reason 7 = .ok (.invokevirtual 32, 3) := dk_182 0 32 (dk_at dksX0_reason_0 7 rfl rfl)
theorem dX0_reason_10 : decode cX0_reason 10 = .ok (.i2l, 1) := dk_133 (dk_at dksX0_reason_0 10 rfl rfl)
theorem dX0_reason_11 : decode cX0_reason 11 = .ok (.lastore, 1) := dk_80 (dk_at dksX0_reason_0 11 rfl rfl)
theorem dX0_reason_12 : decode cX0_reason 12 = .ok (.goto 11, 3) := dk_167 0 11 (dk_at dksX0_reason_0 12 rfl rfl)
theorem dX0_reason_15 : decode cX0_reason 15 = .ok (.astore 5, 2) := dk_58 5 (dk_at dksX0_reason_0 15 rfl rfl)
theorem dX0_reason_17 : decode cX0_reason 17 = .ok (.iconst 1, 1) := dk_4 (dk_at dksX0_reason_0 17 rfl rfl)
theorem dX0_reason_18 : decode cX0_reason 18 = .ok (.ireturn, 1) := dk_172 (dk_at dksX0_reason_0 18 rfl rfl)
theorem dX0_reason_19 : decode cX0_reason 19 = .ok (.astore 5, 2) := dk_58 5 (dk_at dksX0_reason_0 19 rfl rfl)
theorem dX0_reason_21 : decode cX0_reason 21 = .ok (.iconst 2, 1) := dk_5 (dk_at dksX0_reason_0 21 rfl rfl)
theorem dX0_reason_22 : decode cX0_reason 22 = .ok (.ireturn, 1) := dk_172 (dk_at dksX0_reason_0 22 rfl rfl)
theorem dX0_reason_23 : decode cX0_reason 23 = .ok (.iconst 0, 1) := dk_3 (dk_at dksX0_reason_0 23 rfl rfl)
theorem dX0_reason_24 : decode cX0_reason 24 = .ok (.ireturn, 1) := dk_172 (dk_at dksX0_reason_1 0 rfl rfl)
abbrev cX0_where : ByteArray := method_9_code
def yX0_where : MethodName := ⟨RX0, "where", "(LCornerClaims;III[J)I"⟩
def dkwX0_where_1 : List UInt8 := [58, 5, 6, 172, 3, 172]
abbrev dktX0_where_1 : List UInt8 := dkwX0_where_1 ++ []
def dkwX0_where_0 : List UInt8 := [25, 4, 3, 42, 27, 28, 29, 182, 0, 36, 133, 80, 167, 0, 15, 58, 5, 4, 172, 58, 5, 5, 172]
abbrev dktX0_where_0 : List UInt8 := dkwX0_where_0 ++ dktX0_where_1
theorem dksX0_where_0 : cX0_where.data.toList.drop 0 = dktX0_where_0 := by decide +kernel
theorem dksX0_where_1 : cX0_where.data.toList.drop 23 = dktX0_where_1 := dk_seg dksX0_where_0 23 rfl rfl
theorem dX0_where_0 : decode cX0_where 0 = .ok (.aload 4, 2) := dk_25 4 (dk_at dksX0_where_0 0 rfl rfl)
theorem dX0_where_2 : decode cX0_where 2 = .ok (.iconst 0, 1) := dk_3 (dk_at dksX0_where_0 2 rfl rfl)
theorem dX0_where_3 : decode cX0_where 3 = .ok (.aload_n 0, 1) := dk_42 (dk_at dksX0_where_0 3 rfl rfl)
theorem dX0_where_4 : decode cX0_where 4 = .ok (.iload_n 1, 1) := dk_27 (dk_at dksX0_where_0 4 rfl rfl)
theorem dX0_where_5 : decode cX0_where 5 = .ok (.iload_n 2, 1) := dk_28 (dk_at dksX0_where_0 5 rfl rfl)
theorem dX0_where_6 : decode cX0_where 6 = .ok (.iload_n 3, 1) := dk_29 (dk_at dksX0_where_0 6 rfl rfl)
theorem dX0_where_7 : decode cX0_where 7 = .ok (.invokevirtual 36, 3) := dk_182 0 36 (dk_at dksX0_where_0 7 rfl rfl)
theorem dX0_where_10 : decode cX0_where 10 = .ok (.i2l, 1) := dk_133 (dk_at dksX0_where_0 10 rfl rfl)
theorem dX0_where_11 : decode cX0_where 11 = .ok (.lastore, 1) := dk_80 (dk_at dksX0_where_0 11 rfl rfl)
theorem dX0_where_12 : decode cX0_where 12 = .ok (.goto 15, 3) := dk_167 0 15 (dk_at dksX0_where_0 12 rfl rfl)
theorem dX0_where_15 : decode cX0_where 15 = .ok (.astore 5, 2) := dk_58 5 (dk_at dksX0_where_0 15 rfl rfl)
theorem dX0_where_17 : decode cX0_where 17 = .ok (.iconst 1, 1) := dk_4 (dk_at dksX0_where_0 17 rfl rfl)
theorem dX0_where_18 : decode cX0_where 18 = .ok (.ireturn, 1) := dk_172 (dk_at dksX0_where_0 18 rfl rfl)
theorem dX0_where_19 : decode cX0_where 19 = .ok (.astore 5, 2) := dk_58 5 (dk_at dksX0_where_0 19 rfl rfl)
theorem dX0_where_21 : decode cX0_where 21 = .ok (.iconst 2, 1) := dk_5 (dk_at dksX0_where_0 21 rfl rfl)
theorem dX0_where_22 : decode cX0_where 22 = .ok (.ireturn, 1) := dk_172 (dk_at dksX0_where_0 22 rfl rfl)
theorem dX0_where_23 : decode cX0_where 23 = .ok (.astore 5, 2) := dk_58 5 (dk_at dksX0_where_1 0 rfl rfl)
theorem dX0_where_25 : decode cX0_where 25 = .ok (.iconst 3, 1) := dk_6 (dk_at dksX0_where_1 2 rfl rfl)
theorem dX0_where_26 : decode cX0_where 26 = .ok (.ireturn, 1) := dk_172 (dk_at dksX0_where_1 3 rfl rfl)
theorem dX0_where_27 : decode cX0_where 27 = .ok (.iconst 0, 1) := dk_3 (dk_at dksX0_where_1 4 rfl rfl)
theorem dX0_where_28 : decode cX0_where 28 = .ok (.ireturn, 1) := dk_172 (dk_at dksX0_where_1 5 rfl rfl)
abbrev cX0_area : ByteArray := method_10_code
def yX0_area : MethodName := ⟨RX0, "area", "(LCornerClaims;I[J)I"⟩
def dkwX0_area_0 : List UInt8 := [44, 3, 42, 27, 182, 0, 41, 133, 80, 167, 0, 9, 78, 4, 172, 78, 5, 172, 3, 172]
abbrev dktX0_area_0 : List UInt8 := dkwX0_area_0 ++ []
theorem dksX0_area_0 : cX0_area.data.toList.drop 0 = dktX0_area_0 := by decide +kernel
theorem dX0_area_0 : decode cX0_area 0 = .ok (.aload_n 2, 1) := dk_44 (dk_at dksX0_area_0 0 rfl rfl)
theorem dX0_area_1 : decode cX0_area 1 = .ok (.iconst 0, 1) := dk_3 (dk_at dksX0_area_0 1 rfl rfl)
theorem dX0_area_2 : decode cX0_area 2 = .ok (.aload_n 0, 1) := dk_42 (dk_at dksX0_area_0 2 rfl rfl)
theorem dX0_area_3 : decode cX0_area 3 = .ok (.iload_n 1, 1) := dk_27 (dk_at dksX0_area_0 3 rfl rfl)
theorem dX0_area_4 : decode cX0_area 4 = .ok (.invokevirtual 41, 3) := dk_182 0 41 (dk_at dksX0_area_0 4 rfl rfl)
theorem dX0_area_7 : decode cX0_area 7 = .ok (.i2l, 1) := dk_133 (dk_at dksX0_area_0 7 rfl rfl)
theorem dX0_area_8 : decode cX0_area 8 = .ok (.lastore, 1) := dk_80 (dk_at dksX0_area_0 8 rfl rfl)
theorem dX0_area_9 : decode cX0_area 9 = .ok (.goto 9, 3) := dk_167 0 9 (dk_at dksX0_area_0 9 rfl rfl)
theorem dX0_area_12 : decode cX0_area 12 = .ok (.astore_n 3, 1) := dk_78 (dk_at dksX0_area_0 12 rfl rfl)
theorem dX0_area_13 : decode cX0_area 13 = .ok (.iconst 1, 1) := dk_4 (dk_at dksX0_area_0 13 rfl rfl)
theorem dX0_area_14 : decode cX0_area 14 = .ok (.ireturn, 1) := dk_172 (dk_at dksX0_area_0 14 rfl rfl)
theorem dX0_area_15 : decode cX0_area 15 = .ok (.astore_n 3, 1) := dk_78 (dk_at dksX0_area_0 15 rfl rfl)
theorem dX0_area_16 : decode cX0_area 16 = .ok (.iconst 2, 1) := dk_5 (dk_at dksX0_area_0 16 rfl rfl)
theorem dX0_area_17 : decode cX0_area 17 = .ok (.ireturn, 1) := dk_172 (dk_at dksX0_area_0 17 rfl rfl)
theorem dX0_area_18 : decode cX0_area 18 = .ok (.iconst 0, 1) := dk_3 (dk_at dksX0_area_0 18 rfl rfl)
theorem dX0_area_19 : decode cX0_area 19 = .ok (.ireturn, 1) := dk_172 (dk_at dksX0_area_0 19 rfl rfl)
abbrev cX0_border : ByteArray := method_11_code
def yX0_border : MethodName := ⟨RX0, "border", "(LCornerClaims;I[J)I"⟩
def dkwX0_border_0 : List UInt8 := [44, 3, 42, 27, 182, 0, 44, 133, 80, 167, 0, 9, 78, 4, 172, 78, 5, 172, 3, 172]
abbrev dktX0_border_0 : List UInt8 := dkwX0_border_0 ++ []
theorem dksX0_border_0 : cX0_border.data.toList.drop 0 = dktX0_border_0 := by decide +kernel
theorem dX0_border_0 : decode cX0_border 0 = .ok (.aload_n 2, 1) := dk_44 (dk_at dksX0_border_0 0 rfl rfl)
theorem dX0_border_1 : decode cX0_border 1 = .ok (.iconst 0, 1) := dk_3 (dk_at dksX0_border_0 1 rfl rfl)
theorem dX0_border_2 : decode cX0_border 2 = .ok (.aload_n 0, 1) := dk_42 (dk_at dksX0_border_0 2 rfl rfl)
theorem dX0_border_3 : decode cX0_border 3 = .ok (.iload_n 1, 1) := dk_27 (dk_at dksX0_border_0 3 rfl rfl)
theorem dX0_border_4 : decode cX0_border 4 = .ok (.invokevirtual 44, 3) := dk_182 0 44 (dk_at dksX0_border_0 4 rfl rfl)
theorem dX0_border_7 : decode cX0_border 7 = .ok (.i2l, 1) := dk_133 (dk_at dksX0_border_0 7 rfl rfl)
theorem dX0_border_8 : decode cX0_border 8 = .ok (.lastore, 1) := dk_80 (dk_at dksX0_border_0 8 rfl rfl)
theorem dX0_border_9 : decode cX0_border 9 = .ok (.goto 9, 3) := dk_167 0 9 (dk_at dksX0_border_0 9 rfl rfl)
theorem dX0_border_12 : decode cX0_border 12 = .ok (.astore_n 3, 1) := dk_78 (dk_at dksX0_border_0 12 rfl rfl)
theorem dX0_border_13 : decode cX0_border 13 = .ok (.iconst 1, 1) := dk_4 (dk_at dksX0_border_0 13 rfl rfl)
theorem dX0_border_14 : decode cX0_border 14 = .ok (.ireturn, 1) := dk_172 (dk_at dksX0_border_0 14 rfl rfl)
theorem dX0_border_15 : decode cX0_border 15 = .ok (.astore_n 3, 1) := dk_78 (dk_at dksX0_border_0 15 rfl rfl)
theorem dX0_border_16 : decode cX0_border 16 = .ok (.iconst 2, 1) := dk_5 (dk_at dksX0_border_0 16 rfl rfl)
theorem dX0_border_17 : decode cX0_border 17 = .ok (.ireturn, 1) := dk_172 (dk_at dksX0_border_0 17 rfl rfl)
theorem dX0_border_18 : decode cX0_border 18 = .ok (.iconst 0, 1) := dk_3 (dk_at dksX0_border_0 18 rfl rfl)
theorem dX0_border_19 : decode cX0_border 19 = .ok (.ireturn, 1) := dk_172 (dk_at dksX0_border_0 19 rfl rfl)
abbrev cX0_inner : ByteArray := method_12_code
def yX0_inner : MethodName := ⟨RX0, "inner", "(LCornerClaims;I[J)I"⟩
def dkwX0_inner_0 : List UInt8 := [44, 3, 42, 27, 182, 0, 47, 133, 80, 167, 0, 9, 78, 4, 172, 78, 5, 172, 3, 172]
abbrev dktX0_inner_0 : List UInt8 := dkwX0_inner_0 ++ []
theorem dksX0_inner_0 : cX0_inner.data.toList.drop 0 = dktX0_inner_0 := by decide +kernel
theorem dX0_inner_0 : decode cX0_inner 0 = .ok (.aload_n 2, 1) := dk_44 (dk_at dksX0_inner_0 0 rfl rfl)
theorem dX0_inner_1 : decode cX0_inner 1 = .ok (.iconst 0, 1) := dk_3 (dk_at dksX0_inner_0 1 rfl rfl)
theorem dX0_inner_2 : decode cX0_inner 2 = .ok (.aload_n 0, 1) := dk_42 (dk_at dksX0_inner_0 2 rfl rfl)
theorem dX0_inner_3 : decode cX0_inner 3 = .ok (.iload_n 1, 1) := dk_27 (dk_at dksX0_inner_0 3 rfl rfl)
theorem dX0_inner_4 : decode cX0_inner 4 = .ok (.invokevirtual 47, 3) := dk_182 0 47 (dk_at dksX0_inner_0 4 rfl rfl)
theorem dX0_inner_7 : decode cX0_inner 7 = .ok (.i2l, 1) := dk_133 (dk_at dksX0_inner_0 7 rfl rfl)
theorem dX0_inner_8 : decode cX0_inner 8 = .ok (.lastore, 1) := dk_80 (dk_at dksX0_inner_0 8 rfl rfl)
theorem dX0_inner_9 : decode cX0_inner 9 = .ok (.goto 9, 3) := dk_167 0 9 (dk_at dksX0_inner_0 9 rfl rfl)
theorem dX0_inner_12 : decode cX0_inner 12 = .ok (.astore_n 3, 1) := dk_78 (dk_at dksX0_inner_0 12 rfl rfl)
theorem dX0_inner_13 : decode cX0_inner 13 = .ok (.iconst 1, 1) := dk_4 (dk_at dksX0_inner_0 13 rfl rfl)
theorem dX0_inner_14 : decode cX0_inner 14 = .ok (.ireturn, 1) := dk_172 (dk_at dksX0_inner_0 14 rfl rfl)
theorem dX0_inner_15 : decode cX0_inner 15 = .ok (.astore_n 3, 1) := dk_78 (dk_at dksX0_inner_0 15 rfl rfl)
theorem dX0_inner_16 : decode cX0_inner 16 = .ok (.iconst 2, 1) := dk_5 (dk_at dksX0_inner_0 16 rfl rfl)
theorem dX0_inner_17 : decode cX0_inner 17 = .ok (.ireturn, 1) := dk_172 (dk_at dksX0_inner_0 17 rfl rfl)
theorem dX0_inner_18 : decode cX0_inner 18 = .ok (.iconst 0, 1) := dk_3 (dk_at dksX0_inner_0 18 rfl rfl)
theorem dX0_inner_19 : decode cX0_inner 19 = .ok (.ireturn, 1) := dk_172 (dk_at dksX0_inner_0 19 rfl rfl)
abbrev cX0_dents : ByteArray := method_13_code
def yX0_dents : MethodName := ⟨RX0, "dents", "(LCornerClaims;I[J)I"⟩
def dkwX0_dents_0 : List UInt8 := [44, 3, 42, 27, 182, 0, 50, 133, 80, 167, 0, 9, 78, 4, 172, 78, 5, 172, 3, 172]
abbrev dktX0_dents_0 : List UInt8 := dkwX0_dents_0 ++ []
theorem dksX0_dents_0 : cX0_dents.data.toList.drop 0 = dktX0_dents_0 := by decide +kernel
theorem dX0_dents_0 : decode cX0_dents 0 = .ok (.aload_n 2, 1) := dk_44 (dk_at dksX0_dents_0 0 rfl rfl)
theorem dX0_dents_1 : decode cX0_dents 1 = .ok (.iconst 0, 1) := dk_3 (dk_at dksX0_dents_0 1 rfl rfl)
theorem dX0_dents_2 : decode cX0_dents 2 = .ok (.aload_n 0, 1) := dk_42 (dk_at dksX0_dents_0 2 rfl rfl)
theorem dX0_dents_3 : decode cX0_dents 3 = .ok (.iload_n 1, 1) := dk_27 (dk_at dksX0_dents_0 3 rfl rfl)
theorem dX0_dents_4 : decode cX0_dents 4 = .ok (.invokevirtual 50, 3) := dk_182 0 50 (dk_at dksX0_dents_0 4 rfl rfl)
theorem dX0_dents_7 : decode cX0_dents 7 = .ok (.i2l, 1) := dk_133 (dk_at dksX0_dents_0 7 rfl rfl)
theorem dX0_dents_8 : decode cX0_dents 8 = .ok (.lastore, 1) := dk_80 (dk_at dksX0_dents_0 8 rfl rfl)
theorem dX0_dents_9 : decode cX0_dents 9 = .ok (.goto 9, 3) := dk_167 0 9 (dk_at dksX0_dents_0 9 rfl rfl)
theorem dX0_dents_12 : decode cX0_dents 12 = .ok (.astore_n 3, 1) := dk_78 (dk_at dksX0_dents_0 12 rfl rfl)
theorem dX0_dents_13 : decode cX0_dents 13 = .ok (.iconst 1, 1) := dk_4 (dk_at dksX0_dents_0 13 rfl rfl)
theorem dX0_dents_14 : decode cX0_dents 14 = .ok (.ireturn, 1) := dk_172 (dk_at dksX0_dents_0 14 rfl rfl)
theorem dX0_dents_15 : decode cX0_dents 15 = .ok (.astore_n 3, 1) := dk_78 (dk_at dksX0_dents_0 15 rfl rfl)
theorem dX0_dents_16 : decode cX0_dents 16 = .ok (.iconst 2, 1) := dk_5 (dk_at dksX0_dents_0 16 rfl rfl)
theorem dX0_dents_17 : decode cX0_dents 17 = .ok (.ireturn, 1) := dk_172 (dk_at dksX0_dents_0 17 rfl rfl)
theorem dX0_dents_18 : decode cX0_dents 18 = .ok (.iconst 0, 1) := dk_3 (dk_at dksX0_dents_0 18 rfl rfl)
theorem dX0_dents_19 : decode cX0_dents 19 = .ok (.ireturn, 1) := dk_172 (dk_at dksX0_dents_0 19 rfl rfl)
abbrev cX0_parent : ByteArray := method_14_code
def yX0_parent : MethodName := ⟨RX0, "parent", "(LCornerClaims;I[J)I"⟩
def dkwX0_parent_0 : List UInt8 := [44, 3, 42, 27, 182, 0, 53, 133, 80, 167, 0, 9, 78, 4, 172, 78, 5, 172, 3, 172]
abbrev dktX0_parent_0 : List UInt8 := dkwX0_parent_0 ++ []
theorem dksX0_parent_0 : cX0_parent.data.toList.drop 0 = dktX0_parent_0 := by decide +kernel
theorem dX0_parent_0 : decode cX0_parent 0 = .ok (.aload_n 2, 1) := dk_44 (dk_at dksX0_parent_0 0 rfl rfl)
theorem dX0_parent_1 : decode cX0_parent 1 = .ok (.iconst 0, 1) := dk_3 (dk_at dksX0_parent_0 1 rfl rfl)
theorem dX0_parent_2 : decode cX0_parent 2 = .ok (.aload_n 0, 1) := dk_42 (dk_at dksX0_parent_0 2 rfl rfl)
theorem dX0_parent_3 : decode cX0_parent 3 = .ok (.iload_n 1, 1) := dk_27 (dk_at dksX0_parent_0 3 rfl rfl)
theorem dX0_parent_4 : decode cX0_parent 4 = .ok (.invokevirtual 53, 3) := dk_182 0 53 (dk_at dksX0_parent_0 4 rfl rfl)
theorem dX0_parent_7 : decode cX0_parent 7 = .ok (.i2l, 1) := dk_133 (dk_at dksX0_parent_0 7 rfl rfl)
theorem dX0_parent_8 : decode cX0_parent 8 = .ok (.lastore, 1) := dk_80 (dk_at dksX0_parent_0 8 rfl rfl)
theorem dX0_parent_9 : decode cX0_parent 9 = .ok (.goto 9, 3) := dk_167 0 9 (dk_at dksX0_parent_0 9 rfl rfl)
theorem dX0_parent_12 : decode cX0_parent 12 = .ok (.astore_n 3, 1) := dk_78 (dk_at dksX0_parent_0 12 rfl rfl)
theorem dX0_parent_13 : decode cX0_parent 13 = .ok (.iconst 1, 1) := dk_4 (dk_at dksX0_parent_0 13 rfl rfl)
theorem dX0_parent_14 : decode cX0_parent 14 = .ok (.ireturn, 1) := dk_172 (dk_at dksX0_parent_0 14 rfl rfl)
theorem dX0_parent_15 : decode cX0_parent 15 = .ok (.astore_n 3, 1) := dk_78 (dk_at dksX0_parent_0 15 rfl rfl)
theorem dX0_parent_16 : decode cX0_parent 16 = .ok (.iconst 2, 1) := dk_5 (dk_at dksX0_parent_0 16 rfl rfl)
theorem dX0_parent_17 : decode cX0_parent 17 = .ok (.ireturn, 1) := dk_172 (dk_at dksX0_parent_0 17 rfl rfl)
theorem dX0_parent_18 : decode cX0_parent 18 = .ok (.iconst 0, 1) := dk_3 (dk_at dksX0_parent_0 18 rfl rfl)
theorem dX0_parent_19 : decode cX0_parent 19 = .ok (.ireturn, 1) := dk_172 (dk_at dksX0_parent_0 19 rfl rfl)
abbrev cX0_score : ByteArray := method_15_code
def yX0_score : MethodName := ⟨RX0, "score", "(LCornerClaims;I[J)I"⟩
def dkwX0_score_0 : List UInt8 := [44, 3, 42, 27, 182, 0, 56, 133, 80, 167, 0, 9, 78, 4, 172, 78, 5, 172, 3, 172]
abbrev dktX0_score_0 : List UInt8 := dkwX0_score_0 ++ []
theorem dksX0_score_0 : cX0_score.data.toList.drop 0 = dktX0_score_0 := by decide +kernel
theorem dX0_score_0 : decode cX0_score 0 = .ok (.aload_n 2, 1) := dk_44 (dk_at dksX0_score_0 0 rfl rfl)
theorem dX0_score_1 : decode cX0_score 1 = .ok (.iconst 0, 1) := dk_3 (dk_at dksX0_score_0 1 rfl rfl)
theorem dX0_score_2 : decode cX0_score 2 = .ok (.aload_n 0, 1) := dk_42 (dk_at dksX0_score_0 2 rfl rfl)
theorem dX0_score_3 : decode cX0_score 3 = .ok (.iload_n 1, 1) := dk_27 (dk_at dksX0_score_0 3 rfl rfl)
theorem dX0_score_4 : decode cX0_score 4 = .ok (.invokevirtual 56, 3) := dk_182 0 56 (dk_at dksX0_score_0 4 rfl rfl)
theorem dX0_score_7 : decode cX0_score 7 = .ok (.i2l, 1) := dk_133 (dk_at dksX0_score_0 7 rfl rfl)
theorem dX0_score_8 : decode cX0_score 8 = .ok (.lastore, 1) := dk_80 (dk_at dksX0_score_0 8 rfl rfl)
theorem dX0_score_9 : decode cX0_score 9 = .ok (.goto 9, 3) := dk_167 0 9 (dk_at dksX0_score_0 9 rfl rfl)
theorem dX0_score_12 : decode cX0_score 12 = .ok (.astore_n 3, 1) := dk_78 (dk_at dksX0_score_0 12 rfl rfl)
theorem dX0_score_13 : decode cX0_score 13 = .ok (.iconst 1, 1) := dk_4 (dk_at dksX0_score_0 13 rfl rfl)
theorem dX0_score_14 : decode cX0_score 14 = .ok (.ireturn, 1) := dk_172 (dk_at dksX0_score_0 14 rfl rfl)
theorem dX0_score_15 : decode cX0_score 15 = .ok (.astore_n 3, 1) := dk_78 (dk_at dksX0_score_0 15 rfl rfl)
theorem dX0_score_16 : decode cX0_score 16 = .ok (.iconst 2, 1) := dk_5 (dk_at dksX0_score_0 16 rfl rfl)
theorem dX0_score_17 : decode cX0_score 17 = .ok (.ireturn, 1) := dk_172 (dk_at dksX0_score_0 17 rfl rfl)
theorem dX0_score_18 : decode cX0_score 18 = .ok (.iconst 0, 1) := dk_3 (dk_at dksX0_score_0 18 rfl rfl)
theorem dX0_score_19 : decode cX0_score 19 = .ok (.ireturn, 1) := dk_172 (dk_at dksX0_score_0 19 rfl rfl)
abbrev cX0_points : ByteArray := method_16_code
def yX0_points : MethodName := ⟨RX0, "points", "(LCornerClaims;I[J)I"⟩
def dkwX0_points_0 : List UInt8 := [44, 3, 42, 27, 182, 0, 59, 133, 80, 167, 0, 6, 78, 4, 172, 3, 172]
abbrev dktX0_points_0 : List UInt8 := dkwX0_points_0 ++ []
theorem dksX0_points_0 : cX0_points.data.toList.drop 0 = dktX0_points_0 := by decide +kernel
theorem dX0_points_0 : decode cX0_points 0 = .ok (.aload_n 2, 1) := dk_44 (dk_at dksX0_points_0 0 rfl rfl)
theorem dX0_points_1 : decode cX0_points 1 = .ok (.iconst 0, 1) := dk_3 (dk_at dksX0_points_0 1 rfl rfl)
theorem dX0_points_2 : decode cX0_points 2 = .ok (.aload_n 0, 1) := dk_42 (dk_at dksX0_points_0 2 rfl rfl)
theorem dX0_points_3 : decode cX0_points 3 = .ok (.iload_n 1, 1) := dk_27 (dk_at dksX0_points_0 3 rfl rfl)
theorem dX0_points_4 : decode cX0_points 4 = .ok (.invokevirtual 59, 3) := dk_182 0 59 (dk_at dksX0_points_0 4 rfl rfl)
theorem dX0_points_7 : decode cX0_points 7 = .ok (.i2l, 1) := dk_133 (dk_at dksX0_points_0 7 rfl rfl)
theorem dX0_points_8 : decode cX0_points 8 = .ok (.lastore, 1) := dk_80 (dk_at dksX0_points_0 8 rfl rfl)
theorem dX0_points_9 : decode cX0_points 9 = .ok (.goto 6, 3) := dk_167 0 6 (dk_at dksX0_points_0 9 rfl rfl)
theorem dX0_points_12 : decode cX0_points 12 = .ok (.astore_n 3, 1) := dk_78 (dk_at dksX0_points_0 12 rfl rfl)
theorem dX0_points_13 : decode cX0_points 13 = .ok (.iconst 1, 1) := dk_4 (dk_at dksX0_points_0 13 rfl rfl)
theorem dX0_points_14 : decode cX0_points 14 = .ok (.ireturn, 1) := dk_172 (dk_at dksX0_points_0 14 rfl rfl)
theorem dX0_points_15 : decode cX0_points 15 = .ok (.iconst 0, 1) := dk_3 (dk_at dksX0_points_0 15 rfl rfl)
theorem dX0_points_16 : decode cX0_points 16 = .ok (.ireturn, 1) := dk_172 (dk_at dksX0_points_0 16 rfl rfl)
abbrev cX0_begin : ByteArray := method_17_code
def yX0_begin : MethodName := ⟨RX0, "begin", "(LCornerClaims;III[J)I"⟩
def dkwX0_begin_1 : List UInt8 := [172]
abbrev dktX0_begin_1 : List UInt8 := dkwX0_begin_1 ++ []
def dkwX0_begin_0 : List UInt8 := [25, 4, 3, 42, 27, 28, 29, 182, 0, 62, 133, 80, 167, 0, 11, 58, 5, 4, 172, 58, 5, 5, 172, 3]
abbrev dktX0_begin_0 : List UInt8 := dkwX0_begin_0 ++ dktX0_begin_1
theorem dksX0_begin_0 : cX0_begin.data.toList.drop 0 = dktX0_begin_0 := by decide +kernel
theorem dksX0_begin_1 : cX0_begin.data.toList.drop 24 = dktX0_begin_1 := dk_seg dksX0_begin_0 24 rfl rfl
theorem dX0_begin_0 : decode cX0_begin 0 = .ok (.aload 4, 2) := dk_25 4 (dk_at dksX0_begin_0 0 rfl rfl)
theorem dX0_begin_2 : decode cX0_begin 2 = .ok (.iconst 0, 1) := dk_3 (dk_at dksX0_begin_0 2 rfl rfl)
theorem dX0_begin_3 : decode cX0_begin 3 = .ok (.aload_n 0, 1) := dk_42 (dk_at dksX0_begin_0 3 rfl rfl)
theorem dX0_begin_4 : decode cX0_begin 4 = .ok (.iload_n 1, 1) := dk_27 (dk_at dksX0_begin_0 4 rfl rfl)
theorem dX0_begin_5 : decode cX0_begin 5 = .ok (.iload_n 2, 1) := dk_28 (dk_at dksX0_begin_0 5 rfl rfl)
theorem dX0_begin_6 : decode cX0_begin 6 = .ok (.iload_n 3, 1) := dk_29 (dk_at dksX0_begin_0 6 rfl rfl)
theorem dX0_begin_7 : decode cX0_begin 7 = .ok (.invokevirtual 62, 3) := dk_182 0 62 (dk_at dksX0_begin_0 7 rfl rfl)
theorem dX0_begin_10 : decode cX0_begin 10 = .ok (.i2l, 1) := dk_133 (dk_at dksX0_begin_0 10 rfl rfl)
theorem dX0_begin_11 : decode cX0_begin 11 = .ok (.lastore, 1) := dk_80 (dk_at dksX0_begin_0 11 rfl rfl)
theorem dX0_begin_12 : decode cX0_begin 12 = .ok (.goto 11, 3) := dk_167 0 11 (dk_at dksX0_begin_0 12 rfl rfl)
theorem dX0_begin_15 : decode cX0_begin 15 = .ok (.astore 5, 2) := dk_58 5 (dk_at dksX0_begin_0 15 rfl rfl)
theorem dX0_begin_17 : decode cX0_begin 17 = .ok (.iconst 1, 1) := dk_4 (dk_at dksX0_begin_0 17 rfl rfl)
theorem dX0_begin_18 : decode cX0_begin 18 = .ok (.ireturn, 1) := dk_172 (dk_at dksX0_begin_0 18 rfl rfl)
theorem dX0_begin_19 : decode cX0_begin 19 = .ok (.astore 5, 2) := dk_58 5 (dk_at dksX0_begin_0 19 rfl rfl)
theorem dX0_begin_21 : decode cX0_begin 21 = .ok (.iconst 2, 1) := dk_5 (dk_at dksX0_begin_0 21 rfl rfl)
theorem dX0_begin_22 : decode cX0_begin 22 = .ok (.ireturn, 1) := dk_172 (dk_at dksX0_begin_0 22 rfl rfl)
theorem dX0_begin_23 : decode cX0_begin 23 = .ok (.iconst 0, 1) := dk_3 (dk_at dksX0_begin_0 23 rfl rfl)
theorem dX0_begin_24 : decode cX0_begin 24 = .ok (.ireturn, 1) := dk_172 (dk_at dksX0_begin_1 0 rfl rfl)
abbrev cX0_corner : ByteArray := method_18_code
def yX0_corner : MethodName := ⟨RX0, "corner", "(LCornerClaims;III[J)I"⟩
def dkwX0_corner_1 : List UInt8 := [172]
abbrev dktX0_corner_1 : List UInt8 := dkwX0_corner_1 ++ []
def dkwX0_corner_0 : List UInt8 := [25, 4, 3, 42, 27, 28, 29, 182, 0, 65, 133, 80, 167, 0, 11, 58, 5, 4, 172, 58, 5, 5, 172, 3]
abbrev dktX0_corner_0 : List UInt8 := dkwX0_corner_0 ++ dktX0_corner_1
theorem dksX0_corner_0 : cX0_corner.data.toList.drop 0 = dktX0_corner_0 := by decide +kernel
theorem dksX0_corner_1 : cX0_corner.data.toList.drop 24 = dktX0_corner_1 := dk_seg dksX0_corner_0 24 rfl rfl
theorem dX0_corner_0 : decode cX0_corner 0 = .ok (.aload 4, 2) := dk_25 4 (dk_at dksX0_corner_0 0 rfl rfl)
theorem dX0_corner_2 : decode cX0_corner 2 = .ok (.iconst 0, 1) := dk_3 (dk_at dksX0_corner_0 2 rfl rfl)
theorem dX0_corner_3 : decode cX0_corner 3 = .ok (.aload_n 0, 1) := dk_42 (dk_at dksX0_corner_0 3 rfl rfl)
theorem dX0_corner_4 : decode cX0_corner 4 = .ok (.iload_n 1, 1) := dk_27 (dk_at dksX0_corner_0 4 rfl rfl)
theorem dX0_corner_5 : decode cX0_corner 5 = .ok (.iload_n 2, 1) := dk_28 (dk_at dksX0_corner_0 5 rfl rfl)
theorem dX0_corner_6 : decode cX0_corner 6 = .ok (.iload_n 3, 1) := dk_29 (dk_at dksX0_corner_0 6 rfl rfl)
theorem dX0_corner_7 : decode cX0_corner 7 = .ok (.invokevirtual 65, 3) := dk_182 0 65 (dk_at dksX0_corner_0 7 rfl rfl)
theorem dX0_corner_10 : decode cX0_corner 10 = .ok (.i2l, 1) := dk_133 (dk_at dksX0_corner_0 10 rfl rfl)
theorem dX0_corner_11 : decode cX0_corner 11 = .ok (.lastore, 1) := dk_80 (dk_at dksX0_corner_0 11 rfl rfl)
theorem dX0_corner_12 : decode cX0_corner 12 = .ok (.goto 11, 3) := dk_167 0 11 (dk_at dksX0_corner_0 12 rfl rfl)
theorem dX0_corner_15 : decode cX0_corner 15 = .ok (.astore 5, 2) := dk_58 5 (dk_at dksX0_corner_0 15 rfl rfl)
theorem dX0_corner_17 : decode cX0_corner 17 = .ok (.iconst 1, 1) := dk_4 (dk_at dksX0_corner_0 17 rfl rfl)
theorem dX0_corner_18 : decode cX0_corner 18 = .ok (.ireturn, 1) := dk_172 (dk_at dksX0_corner_0 18 rfl rfl)
theorem dX0_corner_19 : decode cX0_corner 19 = .ok (.astore 5, 2) := dk_58 5 (dk_at dksX0_corner_0 19 rfl rfl)
theorem dX0_corner_21 : decode cX0_corner 21 = .ok (.iconst 2, 1) := dk_5 (dk_at dksX0_corner_0 21 rfl rfl)
theorem dX0_corner_22 : decode cX0_corner 22 = .ok (.ireturn, 1) := dk_172 (dk_at dksX0_corner_0 22 rfl rfl)
theorem dX0_corner_23 : decode cX0_corner 23 = .ok (.iconst 0, 1) := dk_3 (dk_at dksX0_corner_0 23 rfl rfl)
theorem dX0_corner_24 : decode cX0_corner 24 = .ok (.ireturn, 1) := dk_172 (dk_at dksX0_corner_1 0 rfl rfl)
abbrev cX0_close : ByteArray := method_19_code
def yX0_close : MethodName := ⟨RX0, "close", "(LCornerClaims;I[J)I"⟩
def dkwX0_close_0 : List UInt8 := [44, 3, 42, 27, 182, 0, 68, 133, 80, 167, 0, 6, 78, 4, 172, 3, 172]
abbrev dktX0_close_0 : List UInt8 := dkwX0_close_0 ++ []
theorem dksX0_close_0 : cX0_close.data.toList.drop 0 = dktX0_close_0 := by decide +kernel
theorem dX0_close_0 : decode cX0_close 0 = .ok (.aload_n 2, 1) := dk_44 (dk_at dksX0_close_0 0 rfl rfl)
theorem dX0_close_1 : decode cX0_close 1 = .ok (.iconst 0, 1) := dk_3 (dk_at dksX0_close_0 1 rfl rfl)
theorem dX0_close_2 : decode cX0_close 2 = .ok (.aload_n 0, 1) := dk_42 (dk_at dksX0_close_0 2 rfl rfl)
theorem dX0_close_3 : decode cX0_close 3 = .ok (.iload_n 1, 1) := dk_27 (dk_at dksX0_close_0 3 rfl rfl)
theorem dX0_close_4 : decode cX0_close 4 = .ok (.invokevirtual 68, 3) := dk_182 0 68 (dk_at dksX0_close_0 4 rfl rfl)
theorem dX0_close_7 : decode cX0_close 7 = .ok (.i2l, 1) := dk_133 (dk_at dksX0_close_0 7 rfl rfl)
theorem dX0_close_8 : decode cX0_close 8 = .ok (.lastore, 1) := dk_80 (dk_at dksX0_close_0 8 rfl rfl)
theorem dX0_close_9 : decode cX0_close 9 = .ok (.goto 6, 3) := dk_167 0 6 (dk_at dksX0_close_0 9 rfl rfl)
theorem dX0_close_12 : decode cX0_close 12 = .ok (.astore_n 3, 1) := dk_78 (dk_at dksX0_close_0 12 rfl rfl)
theorem dX0_close_13 : decode cX0_close 13 = .ok (.iconst 1, 1) := dk_4 (dk_at dksX0_close_0 13 rfl rfl)
theorem dX0_close_14 : decode cX0_close 14 = .ok (.ireturn, 1) := dk_172 (dk_at dksX0_close_0 14 rfl rfl)
theorem dX0_close_15 : decode cX0_close 15 = .ok (.iconst 0, 1) := dk_3 (dk_at dksX0_close_0 15 rfl rfl)
theorem dX0_close_16 : decode cX0_close 16 = .ok (.ireturn, 1) := dk_172 (dk_at dksX0_close_0 16 rfl rfl)
abbrev cX0_bend : ByteArray := method_20_code
def yX0_bend : MethodName := ⟨RX0, "bend", "(LCornerClaims;IIII[J)I"⟩
def dkwX0_bend_1 : List UInt8 := [172, 58, 6, 6, 172, 3, 172]
abbrev dktX0_bend_1 : List UInt8 := dkwX0_bend_1 ++ []
def dkwX0_bend_0 : List UInt8 := [25, 5, 3, 42, 27, 28, 29, 21, 4, 182, 0, 71, 133, 80, 167, 0, 15, 58, 6, 4, 172, 58, 6, 5]
abbrev dktX0_bend_0 : List UInt8 := dkwX0_bend_0 ++ dktX0_bend_1
theorem dksX0_bend_0 : cX0_bend.data.toList.drop 0 = dktX0_bend_0 := by decide +kernel
theorem dksX0_bend_1 : cX0_bend.data.toList.drop 24 = dktX0_bend_1 := dk_seg dksX0_bend_0 24 rfl rfl
theorem dX0_bend_0 : decode cX0_bend 0 = .ok (.aload 5, 2) := dk_25 5 (dk_at dksX0_bend_0 0 rfl rfl)
theorem dX0_bend_2 : decode cX0_bend 2 = .ok (.iconst 0, 1) := dk_3 (dk_at dksX0_bend_0 2 rfl rfl)
theorem dX0_bend_3 : decode cX0_bend 3 = .ok (.aload_n 0, 1) := dk_42 (dk_at dksX0_bend_0 3 rfl rfl)
theorem dX0_bend_4 : decode cX0_bend 4 = .ok (.iload_n 1, 1) := dk_27 (dk_at dksX0_bend_0 4 rfl rfl)
theorem dX0_bend_5 : decode cX0_bend 5 = .ok (.iload_n 2, 1) := dk_28 (dk_at dksX0_bend_0 5 rfl rfl)
theorem dX0_bend_6 : decode cX0_bend 6 = .ok (.iload_n 3, 1) := dk_29 (dk_at dksX0_bend_0 6 rfl rfl)
theorem dX0_bend_7 : decode cX0_bend 7 = .ok (.iload 4, 2) := dk_21 4 (dk_at dksX0_bend_0 7 rfl rfl)
theorem dX0_bend_9 : decode cX0_bend 9 = .ok (.invokevirtual 71, 3) := dk_182 0 71 (dk_at dksX0_bend_0 9 rfl rfl)
theorem dX0_bend_12 : decode cX0_bend 12 = .ok (.i2l, 1) := dk_133 (dk_at dksX0_bend_0 12 rfl rfl)
theorem dX0_bend_13 : decode cX0_bend 13 = .ok (.lastore, 1) := dk_80 (dk_at dksX0_bend_0 13 rfl rfl)
theorem dX0_bend_14 : decode cX0_bend 14 = .ok (.goto 15, 3) := dk_167 0 15 (dk_at dksX0_bend_0 14 rfl rfl)
theorem dX0_bend_17 : decode cX0_bend 17 = .ok (.astore 6, 2) := dk_58 6 (dk_at dksX0_bend_0 17 rfl rfl)
theorem dX0_bend_19 : decode cX0_bend 19 = .ok (.iconst 1, 1) := dk_4 (dk_at dksX0_bend_0 19 rfl rfl)
theorem dX0_bend_20 : decode cX0_bend 20 = .ok (.ireturn, 1) := dk_172 (dk_at dksX0_bend_0 20 rfl rfl)
theorem dX0_bend_21 : decode cX0_bend 21 = .ok (.astore 6, 2) := dk_58 6 (dk_at dksX0_bend_0 21 rfl rfl)
theorem dX0_bend_23 : decode cX0_bend 23 = .ok (.iconst 2, 1) := dk_5 (dk_at dksX0_bend_0 23 rfl rfl)
theorem dX0_bend_24 : decode cX0_bend 24 = .ok (.ireturn, 1) := dk_172 (dk_at dksX0_bend_1 0 rfl rfl)
theorem dX0_bend_25 : decode cX0_bend 25 = .ok (.astore 6, 2) := dk_58 6 (dk_at dksX0_bend_1 1 rfl rfl)
theorem dX0_bend_27 : decode cX0_bend 27 = .ok (.iconst 3, 1) := dk_6 (dk_at dksX0_bend_1 3 rfl rfl)
theorem dX0_bend_28 : decode cX0_bend 28 = .ok (.ireturn, 1) := dk_172 (dk_at dksX0_bend_1 4 rfl rfl)
theorem dX0_bend_29 : decode cX0_bend 29 = .ok (.iconst 0, 1) := dk_3 (dk_at dksX0_bend_1 5 rfl rfl)
theorem dX0_bend_30 : decode cX0_bend 30 = .ok (.ireturn, 1) := dk_172 (dk_at dksX0_bend_1 6 rfl rfl)
abbrev cX0_takeOut : ByteArray := method_21_code
def yX0_takeOut : MethodName := ⟨RX0, "takeOut", "(LCornerClaims;II[J)I"⟩
def dkwX0_takeOut_0 : List UInt8 := [45, 3, 42, 27, 28, 182, 0, 75, 133, 80, 167, 0, 11, 58, 4, 4, 172, 58, 4, 5, 172, 3, 172]
abbrev dktX0_takeOut_0 : List UInt8 := dkwX0_takeOut_0 ++ []
theorem dksX0_takeOut_0 : cX0_takeOut.data.toList.drop 0 = dktX0_takeOut_0 := by decide +kernel
theorem dX0_takeOut_0 : decode cX0_takeOut 0 = .ok (.aload_n 3, 1) := dk_45 (dk_at dksX0_takeOut_0 0 rfl rfl)
theorem dX0_takeOut_1 : decode cX0_takeOut 1 = .ok (.iconst 0, 1) := dk_3 (dk_at dksX0_takeOut_0 1 rfl rfl)
theorem dX0_takeOut_2 : decode cX0_takeOut 2 = .ok (.aload_n 0, 1) := dk_42 (dk_at dksX0_takeOut_0 2 rfl rfl)
theorem dX0_takeOut_3 : decode cX0_takeOut 3 = .ok (.iload_n 1, 1) := dk_27 (dk_at dksX0_takeOut_0 3 rfl rfl)
theorem dX0_takeOut_4 : decode cX0_takeOut 4 = .ok (.iload_n 2, 1) := dk_28 (dk_at dksX0_takeOut_0 4 rfl rfl)
theorem dX0_takeOut_5 : decode cX0_takeOut 5 = .ok (.invokevirtual 75, 3) := dk_182 0 75 (dk_at dksX0_takeOut_0 5 rfl rfl)
theorem dX0_takeOut_8 : decode cX0_takeOut 8 = .ok (.i2l, 1) := dk_133 (dk_at dksX0_takeOut_0 8 rfl rfl)
theorem dX0_takeOut_9 : decode cX0_takeOut 9 = .ok (.lastore, 1) := dk_80 (dk_at dksX0_takeOut_0 9 rfl rfl)
theorem dX0_takeOut_10 : decode cX0_takeOut 10 = .ok (.goto 11, 3) := dk_167 0 11 (dk_at dksX0_takeOut_0 10 rfl rfl)
theorem dX0_takeOut_13 : decode cX0_takeOut 13 = .ok (.astore 4, 2) := dk_58 4 (dk_at dksX0_takeOut_0 13 rfl rfl)
theorem dX0_takeOut_15 : decode cX0_takeOut 15 = .ok (.iconst 1, 1) := dk_4 (dk_at dksX0_takeOut_0 15 rfl rfl)
theorem dX0_takeOut_16 : decode cX0_takeOut 16 = .ok (.ireturn, 1) := dk_172 (dk_at dksX0_takeOut_0 16 rfl rfl)
theorem dX0_takeOut_17 : decode cX0_takeOut 17 = .ok (.astore 4, 2) := dk_58 4 (dk_at dksX0_takeOut_0 17 rfl rfl)
theorem dX0_takeOut_19 : decode cX0_takeOut 19 = .ok (.iconst 2, 1) := dk_5 (dk_at dksX0_takeOut_0 19 rfl rfl)
theorem dX0_takeOut_20 : decode cX0_takeOut 20 = .ok (.ireturn, 1) := dk_172 (dk_at dksX0_takeOut_0 20 rfl rfl)
theorem dX0_takeOut_21 : decode cX0_takeOut 21 = .ok (.iconst 0, 1) := dk_3 (dk_at dksX0_takeOut_0 21 rfl rfl)
theorem dX0_takeOut_22 : decode cX0_takeOut 22 = .ok (.ireturn, 1) := dk_172 (dk_at dksX0_takeOut_0 22 rfl rfl)
abbrev cX0_remove : ByteArray := method_22_code
def yX0_remove : MethodName := ⟨RX0, "remove", "(LCornerClaims;I[J)I"⟩
def dkwX0_remove_0 : List UInt8 := [44, 3, 42, 27, 182, 0, 78, 133, 80, 167, 0, 6, 78, 4, 172, 3, 172]
abbrev dktX0_remove_0 : List UInt8 := dkwX0_remove_0 ++ []
theorem dksX0_remove_0 : cX0_remove.data.toList.drop 0 = dktX0_remove_0 := by decide +kernel
theorem dX0_remove_0 : decode cX0_remove 0 = .ok (.aload_n 2, 1) := dk_44 (dk_at dksX0_remove_0 0 rfl rfl)
theorem dX0_remove_1 : decode cX0_remove 1 = .ok (.iconst 0, 1) := dk_3 (dk_at dksX0_remove_0 1 rfl rfl)
theorem dX0_remove_2 : decode cX0_remove 2 = .ok (.aload_n 0, 1) := dk_42 (dk_at dksX0_remove_0 2 rfl rfl)
theorem dX0_remove_3 : decode cX0_remove 3 = .ok (.iload_n 1, 1) := dk_27 (dk_at dksX0_remove_0 3 rfl rfl)
theorem dX0_remove_4 : decode cX0_remove 4 = .ok (.invokevirtual 78, 3) := dk_182 0 78 (dk_at dksX0_remove_0 4 rfl rfl)
theorem dX0_remove_7 : decode cX0_remove 7 = .ok (.i2l, 1) := dk_133 (dk_at dksX0_remove_0 7 rfl rfl)
theorem dX0_remove_8 : decode cX0_remove 8 = .ok (.lastore, 1) := dk_80 (dk_at dksX0_remove_0 8 rfl rfl)
theorem dX0_remove_9 : decode cX0_remove 9 = .ok (.goto 6, 3) := dk_167 0 6 (dk_at dksX0_remove_0 9 rfl rfl)
theorem dX0_remove_12 : decode cX0_remove 12 = .ok (.astore_n 3, 1) := dk_78 (dk_at dksX0_remove_0 12 rfl rfl)
theorem dX0_remove_13 : decode cX0_remove 13 = .ok (.iconst 1, 1) := dk_4 (dk_at dksX0_remove_0 13 rfl rfl)
theorem dX0_remove_14 : decode cX0_remove 14 = .ok (.ireturn, 1) := dk_172 (dk_at dksX0_remove_0 14 rfl rfl)
theorem dX0_remove_15 : decode cX0_remove 15 = .ok (.iconst 0, 1) := dk_3 (dk_at dksX0_remove_0 15 rfl rfl)
theorem dX0_remove_16 : decode cX0_remove 16 = .ok (.ireturn, 1) := dk_172 (dk_at dksX0_remove_0 16 rfl rfl)
theorem q83 : (Jvm.Cond.initialized "CornerClaimsLaw") ∈ lw_all := lw_g (lw_at lw_m1 0 rfl) rfl
theorem q126 : (Jvm.Cond.classLink "CornerClaimsLaw" (8 : Nat) "CornerClaims") ∈ lw_all := lw_g (lw_at lw_m1 43 rfl) rfl
theorem q128 : (Jvm.Cond.methodLink "CornerClaimsLaw" (81 : Nat) ({ cls := "CornerClaims", name := "<init>", desc := "()V" } : Jvm.MethodName)) ∈ lw_all := lw_g (lw_at lw_m1 45 rfl) rfl
theorem q698 : (Jvm.Cond.methodLink "CornerClaimsLaw" (85 : Nat) ({ cls := "CornerClaims", name := "append", desc := "(IIIII)I" } : Jvm.MethodName)) ∈ lw_all := lw_g (lw_at lw_m3 135 rfl) rfl
theorem q706 : (Jvm.Cond.methodLink "CornerClaimsLaw" (100 : Nat) ({ cls := "CornerClaims", name := "errorOffset", desc := "()I" } : Jvm.MethodName)) ∈ lw_all := lw_g (lw_at lw_m3 143 rfl) rfl
theorem q710 : (Jvm.Cond.methodLink "CornerClaimsLaw" (145 : Nat) ({ cls := "CornerClaims", name := "leader", desc := "()I" } : Jvm.MethodName)) ∈ lw_all := lw_g (lw_at lw_m3 147 rfl) rfl
theorem q843 : (Jvm.Cond.methodLink "CornerClaimsLaw" (168 : Nat) ({ cls := "CornerClaims", name := "undo", desc := "()I" } : Jvm.MethodName)) ∈ lw_all := lw_g (lw_at lw_m4 40 rfl) rfl
theorem q893 : (Jvm.Cond.methodLink "CornerClaimsLaw" (172 : Nat) ({ cls := "CornerClaims", name := "checksum", desc := "()J" } : Jvm.MethodName)) ∈ lw_all := lw_g (lw_at lw_m4 90 rfl) rfl
theorem q913 : (Jvm.Cond.methodLink "CornerClaimsLaw" (90 : Nat) ({ cls := "CornerClaimsLaw", name := "load", desc := "(LCornerClaims;I[J)I" } : Jvm.MethodName)) ∈ lw_all := lw_g (lw_at lw_m4 110 rfl) rfl
theorem q914 : (Jvm.Cond.static ({ cls := "CornerClaimsLaw", name := "load", desc := "(LCornerClaims;I[J)I" } : Jvm.MethodName)) ∈ lw_all := lw_g (lw_at lw_m4 111 rfl) rfl
theorem q915 : (Jvm.Cond.codeWith ({ cls := "CornerClaimsLaw", name := "load", desc := "(LCornerClaims;I[J)I" } : Jvm.MethodName) method_3_code (4 : Nat) (Option.some Jvm.ClassFile.FieldType.int) [((0 : Nat), (9 : Nat), (12 : Nat), (13 : Nat))]) ∈ lw_all := lw_g (lw_at lw_m4 112 rfl) rfl
theorem q916 : (Jvm.Cond.classLink "CornerClaimsLaw" (13 : Nat) "java/lang/IllegalArgumentException") ∈ lw_all := lw_g (lw_at lw_m4 113 rfl) rfl
theorem q917 : (Jvm.Cond.methodLink "CornerClaimsLaw" (7 : Nat) ({ cls := "CornerClaims", name := "load", desc := "(I)I" } : Jvm.MethodName)) ∈ lw_all := lw_g (lw_at lw_m4 114 rfl) rfl
theorem q1765 : (Jvm.Cond.methodLink "CornerClaimsLaw" (104 : Nat) ({ cls := "CornerClaimsLaw", name := "count", desc := "(LCornerClaims;I[J)I" } : Jvm.MethodName)) ∈ lw_all := lw_g (lw_at lw_m8 2 rfl) rfl
theorem q1766 : (Jvm.Cond.static ({ cls := "CornerClaimsLaw", name := "count", desc := "(LCornerClaims;I[J)I" } : Jvm.MethodName)) ∈ lw_all := lw_g (lw_at lw_m8 3 rfl) rfl
theorem q1767 : (Jvm.Cond.codeWith ({ cls := "CornerClaimsLaw", name := "count", desc := "(LCornerClaims;I[J)I" } : Jvm.MethodName) method_4_code (4 : Nat) (Option.some Jvm.ClassFile.FieldType.int) [((0 : Nat), (9 : Nat), (12 : Nat), (13 : Nat))]) ∈ lw_all := lw_g (lw_at lw_m8 4 rfl) rfl
theorem q1768 : (Jvm.Cond.methodLink "CornerClaimsLaw" (15 : Nat) ({ cls := "CornerClaims", name := "count", desc := "(I)I" } : Jvm.MethodName)) ∈ lw_all := lw_g (lw_at lw_m8 5 rfl) rfl
theorem q1785 : (Jvm.Cond.methodLink "CornerClaimsLaw" (107 : Nat) ({ cls := "CornerClaimsLaw", name := "stone", desc := "(LCornerClaims;II[J)I" } : Jvm.MethodName)) ∈ lw_all := lw_g (lw_at lw_m8 22 rfl) rfl
theorem q1786 : (Jvm.Cond.static ({ cls := "CornerClaimsLaw", name := "stone", desc := "(LCornerClaims;II[J)I" } : Jvm.MethodName)) ∈ lw_all := lw_g (lw_at lw_m8 23 rfl) rfl
theorem q1787 : (Jvm.Cond.codeWith ({ cls := "CornerClaimsLaw", name := "stone", desc := "(LCornerClaims;II[J)I" } : Jvm.MethodName) method_5_code (5 : Nat) (Option.some Jvm.ClassFile.FieldType.int) [((0 : Nat), (10 : Nat), (13 : Nat), (22 : Nat)), ((0 : Nat), (10 : Nat), (17 : Nat), (13 : Nat))]) ∈ lw_all := lw_g (lw_at lw_m8 24 rfl) rfl
theorem q1788 : (Jvm.Cond.classLink "CornerClaimsLaw" (22 : Nat) "java/util/NoSuchElementException") ∈ lw_all := lw_g (lw_at lw_m8 25 rfl) rfl
theorem q1789 : (Jvm.Cond.methodLink "CornerClaimsLaw" (18 : Nat) ({ cls := "CornerClaims", name := "stone", desc := "(II)I" } : Jvm.MethodName)) ∈ lw_all := lw_g (lw_at lw_m8 26 rfl) rfl
theorem q1802 : (Jvm.Cond.methodLink "CornerClaimsLaw" (111 : Nat) ({ cls := "CornerClaimsLaw", name := "polygon", desc := "(LCornerClaims;II[J)I" } : Jvm.MethodName)) ∈ lw_all := lw_g (lw_at lw_m8 39 rfl) rfl
theorem q1803 : (Jvm.Cond.static ({ cls := "CornerClaimsLaw", name := "polygon", desc := "(LCornerClaims;II[J)I" } : Jvm.MethodName)) ∈ lw_all := lw_g (lw_at lw_m8 40 rfl) rfl
theorem q1804 : (Jvm.Cond.codeWith ({ cls := "CornerClaimsLaw", name := "polygon", desc := "(LCornerClaims;II[J)I" } : Jvm.MethodName) method_6_code (5 : Nat) (Option.some Jvm.ClassFile.FieldType.int) [((0 : Nat), (10 : Nat), (13 : Nat), (27 : Nat)), ((0 : Nat), (10 : Nat), (17 : Nat), (13 : Nat))]) ∈ lw_all := lw_g (lw_at lw_m8 41 rfl) rfl
theorem q1805 : (Jvm.Cond.classLink "CornerClaimsLaw" (27 : Nat) "java/lang/IndexOutOfBoundsException") ∈ lw_all := lw_g (lw_at lw_m8 42 rfl) rfl
theorem q1824 : (Jvm.Cond.methodLink "CornerClaimsLaw" (24 : Nat) ({ cls := "CornerClaims", name := "polygon", desc := "(II)I" } : Jvm.MethodName)) ∈ lw_all := lw_g (lw_at lw_m8 61 rfl) rfl
theorem q1848 : (Jvm.Cond.methodLink "CornerClaimsLaw" (114 : Nat) ({ cls := "CornerClaimsLaw", name := "cornerAt", desc := "(LCornerClaims;II[J)I" } : Jvm.MethodName)) ∈ lw_all := lw_g (lw_at lw_m8 85 rfl) rfl
theorem q1849 : (Jvm.Cond.static ({ cls := "CornerClaimsLaw", name := "cornerAt", desc := "(LCornerClaims;II[J)I" } : Jvm.MethodName)) ∈ lw_all := lw_g (lw_at lw_m8 86 rfl) rfl
theorem q1850 : (Jvm.Cond.codeWith ({ cls := "CornerClaimsLaw", name := "cornerAt", desc := "(LCornerClaims;II[J)I" } : Jvm.MethodName) method_7_code (5 : Nat) (Option.some Jvm.ClassFile.FieldType.int) [((0 : Nat), (10 : Nat), (13 : Nat), (27 : Nat)), ((0 : Nat), (10 : Nat), (17 : Nat), (22 : Nat))]) ∈ lw_all := lw_g (lw_at lw_m8 87 rfl) rfl
theorem q1851 : (Jvm.Cond.methodLink "CornerClaimsLaw" (29 : Nat) ({ cls := "CornerClaims", name := "cornerAt", desc := "(II)I" } : Jvm.MethodName)) ∈ lw_all := lw_g (lw_at lw_m8 88 rfl) rfl
theorem q1855 : (Jvm.Cond.methodLink "CornerClaimsLaw" (117 : Nat) ({ cls := "CornerClaimsLaw", name := "reason", desc := "(LCornerClaims;III[J)I" } : Jvm.MethodName)) ∈ lw_all := lw_g (lw_at lw_m8 92 rfl) rfl
theorem q1856 : (Jvm.Cond.static ({ cls := "CornerClaimsLaw", name := "reason", desc := "(LCornerClaims;III[J)I" } : Jvm.MethodName)) ∈ lw_all := lw_g (lw_at lw_m8 93 rfl) rfl
theorem q1857 : (Jvm.Cond.codeWith ({ cls := "CornerClaimsLaw", name := "reason", desc := "(LCornerClaims;III[J)I" } : Jvm.MethodName) method_8_code (6 : Nat) (Option.some Jvm.ClassFile.FieldType.int) [((0 : Nat), (12 : Nat), (15 : Nat), (27 : Nat)), ((0 : Nat), (12 : Nat), (19 : Nat), (13 : Nat))]) ∈ lw_all := lw_g (lw_at lw_m8 94 rfl) rfl
theorem q1858 : (Jvm.Cond.methodLink "CornerClaimsLaw" (32 : Nat) ({ cls := "CornerClaims", name := "reason", desc := "(III)I" } : Jvm.MethodName)) ∈ lw_all := lw_g (lw_at lw_m8 95 rfl) rfl
theorem q1873 : (Jvm.Cond.methodLink "CornerClaimsLaw" (121 : Nat) ({ cls := "CornerClaimsLaw", name := "where", desc := "(LCornerClaims;III[J)I" } : Jvm.MethodName)) ∈ lw_all := lw_g (lw_at lw_m8 110 rfl) rfl
theorem q1874 : (Jvm.Cond.static ({ cls := "CornerClaimsLaw", name := "where", desc := "(LCornerClaims;III[J)I" } : Jvm.MethodName)) ∈ lw_all := lw_g (lw_at lw_m8 111 rfl) rfl
theorem q1875 : (Jvm.Cond.codeWith ({ cls := "CornerClaimsLaw", name := "where", desc := "(LCornerClaims;III[J)I" } : Jvm.MethodName) method_9_code (6 : Nat) (Option.some Jvm.ClassFile.FieldType.int) [((0 : Nat), (12 : Nat), (15 : Nat), (27 : Nat)), ((0 : Nat), (12 : Nat), (19 : Nat), (13 : Nat)), ((0 : Nat), (12 : Nat), (23 : Nat), (39 : Nat))]) ∈ lw_all := lw_g (lw_at lw_m8 112 rfl) rfl
theorem q1876 : (Jvm.Cond.classLink "CornerClaimsLaw" (39 : Nat) "java/lang/IllegalStateException") ∈ lw_all := lw_g (lw_at lw_m8 113 rfl) rfl
theorem q1877 : (Jvm.Cond.methodLink "CornerClaimsLaw" (36 : Nat) ({ cls := "CornerClaims", name := "where", desc := "(III)I" } : Jvm.MethodName)) ∈ lw_all := lw_g (lw_at lw_m8 114 rfl) rfl
theorem q1890 : (Jvm.Cond.methodLink "CornerClaimsLaw" (124 : Nat) ({ cls := "CornerClaimsLaw", name := "area", desc := "(LCornerClaims;I[J)I" } : Jvm.MethodName)) ∈ lw_all := lw_g (lw_at lw_m8 127 rfl) rfl
theorem q1891 : (Jvm.Cond.static ({ cls := "CornerClaimsLaw", name := "area", desc := "(LCornerClaims;I[J)I" } : Jvm.MethodName)) ∈ lw_all := lw_g (lw_at lw_m8 128 rfl) rfl
theorem q1892 : (Jvm.Cond.codeWith ({ cls := "CornerClaimsLaw", name := "area", desc := "(LCornerClaims;I[J)I" } : Jvm.MethodName) method_10_code (4 : Nat) (Option.some Jvm.ClassFile.FieldType.int) [((0 : Nat), (9 : Nat), (12 : Nat), (27 : Nat)), ((0 : Nat), (9 : Nat), (15 : Nat), (39 : Nat))]) ∈ lw_all := lw_g (lw_at lw_m8 129 rfl) rfl
theorem q1893 : (Jvm.Cond.methodLink "CornerClaimsLaw" (41 : Nat) ({ cls := "CornerClaims", name := "area", desc := "(I)I" } : Jvm.MethodName)) ∈ lw_all := lw_g (lw_at lw_m8 130 rfl) rfl
theorem q1902 : (Jvm.Cond.methodLink "CornerClaimsLaw" (127 : Nat) ({ cls := "CornerClaimsLaw", name := "border", desc := "(LCornerClaims;I[J)I" } : Jvm.MethodName)) ∈ lw_all := lw_g (lw_at lw_m8 139 rfl) rfl
theorem q1903 : (Jvm.Cond.static ({ cls := "CornerClaimsLaw", name := "border", desc := "(LCornerClaims;I[J)I" } : Jvm.MethodName)) ∈ lw_all := lw_g (lw_at lw_m8 140 rfl) rfl
theorem q1904 : (Jvm.Cond.codeWith ({ cls := "CornerClaimsLaw", name := "border", desc := "(LCornerClaims;I[J)I" } : Jvm.MethodName) method_11_code (4 : Nat) (Option.some Jvm.ClassFile.FieldType.int) [((0 : Nat), (9 : Nat), (12 : Nat), (27 : Nat)), ((0 : Nat), (9 : Nat), (15 : Nat), (39 : Nat))]) ∈ lw_all := lw_g (lw_at lw_m8 141 rfl) rfl
theorem q1905 : (Jvm.Cond.methodLink "CornerClaimsLaw" (44 : Nat) ({ cls := "CornerClaims", name := "border", desc := "(I)I" } : Jvm.MethodName)) ∈ lw_all := lw_g (lw_at lw_m8 142 rfl) rfl
theorem q1910 : (Jvm.Cond.methodLink "CornerClaimsLaw" (130 : Nat) ({ cls := "CornerClaimsLaw", name := "inner", desc := "(LCornerClaims;I[J)I" } : Jvm.MethodName)) ∈ lw_all := lw_g (lw_at lw_m8 147 rfl) rfl
theorem q1911 : (Jvm.Cond.static ({ cls := "CornerClaimsLaw", name := "inner", desc := "(LCornerClaims;I[J)I" } : Jvm.MethodName)) ∈ lw_all := lw_g (lw_at lw_m8 148 rfl) rfl
theorem q1912 : (Jvm.Cond.codeWith ({ cls := "CornerClaimsLaw", name := "inner", desc := "(LCornerClaims;I[J)I" } : Jvm.MethodName) method_12_code (4 : Nat) (Option.some Jvm.ClassFile.FieldType.int) [((0 : Nat), (9 : Nat), (12 : Nat), (27 : Nat)), ((0 : Nat), (9 : Nat), (15 : Nat), (39 : Nat))]) ∈ lw_all := lw_g (lw_at lw_m8 149 rfl) rfl
theorem q1913 : (Jvm.Cond.methodLink "CornerClaimsLaw" (47 : Nat) ({ cls := "CornerClaims", name := "inner", desc := "(I)I" } : Jvm.MethodName)) ∈ lw_all := lw_g (lw_at lw_m8 150 rfl) rfl
theorem q1918 : (Jvm.Cond.methodLink "CornerClaimsLaw" (133 : Nat) ({ cls := "CornerClaimsLaw", name := "dents", desc := "(LCornerClaims;I[J)I" } : Jvm.MethodName)) ∈ lw_all := lw_g (lw_at lw_m8 155 rfl) rfl
theorem q1919 : (Jvm.Cond.static ({ cls := "CornerClaimsLaw", name := "dents", desc := "(LCornerClaims;I[J)I" } : Jvm.MethodName)) ∈ lw_all := lw_g (lw_at lw_m8 156 rfl) rfl
theorem q1920 : (Jvm.Cond.codeWith ({ cls := "CornerClaimsLaw", name := "dents", desc := "(LCornerClaims;I[J)I" } : Jvm.MethodName) method_13_code (4 : Nat) (Option.some Jvm.ClassFile.FieldType.int) [((0 : Nat), (9 : Nat), (12 : Nat), (27 : Nat)), ((0 : Nat), (9 : Nat), (15 : Nat), (39 : Nat))]) ∈ lw_all := lw_g (lw_at lw_m8 157 rfl) rfl
theorem q1921 : (Jvm.Cond.methodLink "CornerClaimsLaw" (50 : Nat) ({ cls := "CornerClaims", name := "dents", desc := "(I)I" } : Jvm.MethodName)) ∈ lw_all := lw_g (lw_at lw_m8 158 rfl) rfl
theorem q1926 : (Jvm.Cond.methodLink "CornerClaimsLaw" (136 : Nat) ({ cls := "CornerClaimsLaw", name := "parent", desc := "(LCornerClaims;I[J)I" } : Jvm.MethodName)) ∈ lw_all := lw_g (lw_at lw_m8 163 rfl) rfl
theorem q1927 : (Jvm.Cond.static ({ cls := "CornerClaimsLaw", name := "parent", desc := "(LCornerClaims;I[J)I" } : Jvm.MethodName)) ∈ lw_all := lw_g (lw_at lw_m8 164 rfl) rfl
theorem q1928 : (Jvm.Cond.codeWith ({ cls := "CornerClaimsLaw", name := "parent", desc := "(LCornerClaims;I[J)I" } : Jvm.MethodName) method_14_code (4 : Nat) (Option.some Jvm.ClassFile.FieldType.int) [((0 : Nat), (9 : Nat), (12 : Nat), (27 : Nat)), ((0 : Nat), (9 : Nat), (15 : Nat), (39 : Nat))]) ∈ lw_all := lw_g (lw_at lw_m8 165 rfl) rfl
theorem q1929 : (Jvm.Cond.methodLink "CornerClaimsLaw" (53 : Nat) ({ cls := "CornerClaims", name := "parent", desc := "(I)I" } : Jvm.MethodName)) ∈ lw_all := lw_g (lw_at lw_m8 166 rfl) rfl
theorem q1934 : (Jvm.Cond.methodLink "CornerClaimsLaw" (139 : Nat) ({ cls := "CornerClaimsLaw", name := "score", desc := "(LCornerClaims;I[J)I" } : Jvm.MethodName)) ∈ lw_all := lw_g (lw_at lw_m8 171 rfl) rfl
theorem q1935 : (Jvm.Cond.static ({ cls := "CornerClaimsLaw", name := "score", desc := "(LCornerClaims;I[J)I" } : Jvm.MethodName)) ∈ lw_all := lw_g (lw_at lw_m8 172 rfl) rfl
theorem q1936 : (Jvm.Cond.codeWith ({ cls := "CornerClaimsLaw", name := "score", desc := "(LCornerClaims;I[J)I" } : Jvm.MethodName) method_15_code (4 : Nat) (Option.some Jvm.ClassFile.FieldType.int) [((0 : Nat), (9 : Nat), (12 : Nat), (27 : Nat)), ((0 : Nat), (9 : Nat), (15 : Nat), (39 : Nat))]) ∈ lw_all := lw_g (lw_at lw_m8 173 rfl) rfl
theorem q1937 : (Jvm.Cond.methodLink "CornerClaimsLaw" (56 : Nat) ({ cls := "CornerClaims", name := "score", desc := "(I)I" } : Jvm.MethodName)) ∈ lw_all := lw_g (lw_at lw_m8 174 rfl) rfl
theorem q1942 : (Jvm.Cond.methodLink "CornerClaimsLaw" (142 : Nat) ({ cls := "CornerClaimsLaw", name := "points", desc := "(LCornerClaims;I[J)I" } : Jvm.MethodName)) ∈ lw_all := lw_g (lw_at lw_m8 179 rfl) rfl
theorem q1943 : (Jvm.Cond.static ({ cls := "CornerClaimsLaw", name := "points", desc := "(LCornerClaims;I[J)I" } : Jvm.MethodName)) ∈ lw_all := lw_g (lw_at lw_m8 180 rfl) rfl
theorem q1944 : (Jvm.Cond.codeWith ({ cls := "CornerClaimsLaw", name := "points", desc := "(LCornerClaims;I[J)I" } : Jvm.MethodName) method_16_code (4 : Nat) (Option.some Jvm.ClassFile.FieldType.int) [((0 : Nat), (9 : Nat), (12 : Nat), (13 : Nat))]) ∈ lw_all := lw_g (lw_at lw_m8 181 rfl) rfl
theorem q1945 : (Jvm.Cond.methodLink "CornerClaimsLaw" (59 : Nat) ({ cls := "CornerClaims", name := "points", desc := "(I)I" } : Jvm.MethodName)) ∈ lw_all := lw_g (lw_at lw_m8 182 rfl) rfl
theorem q1952 : (Jvm.Cond.methodLink "CornerClaimsLaw" (149 : Nat) ({ cls := "CornerClaimsLaw", name := "begin", desc := "(LCornerClaims;III[J)I" } : Jvm.MethodName)) ∈ lw_all := lw_g (lw_at lw_m8 189 rfl) rfl
theorem q1953 : (Jvm.Cond.static ({ cls := "CornerClaimsLaw", name := "begin", desc := "(LCornerClaims;III[J)I" } : Jvm.MethodName)) ∈ lw_all := lw_g (lw_at lw_m8 190 rfl) rfl
theorem q1954 : (Jvm.Cond.codeWith ({ cls := "CornerClaimsLaw", name := "begin", desc := "(LCornerClaims;III[J)I" } : Jvm.MethodName) method_17_code (6 : Nat) (Option.some Jvm.ClassFile.FieldType.int) [((0 : Nat), (12 : Nat), (15 : Nat), (13 : Nat)), ((0 : Nat), (12 : Nat), (19 : Nat), (39 : Nat))]) ∈ lw_all := lw_g (lw_at lw_m8 191 rfl) rfl
theorem q1955 : (Jvm.Cond.methodLink "CornerClaimsLaw" (62 : Nat) ({ cls := "CornerClaims", name := "begin", desc := "(III)I" } : Jvm.MethodName)) ∈ lw_all := lw_g (lw_at lw_m8 192 rfl) rfl
theorem q1984 : (Jvm.Cond.methodLink "CornerClaimsLaw" (152 : Nat) ({ cls := "CornerClaimsLaw", name := "corner", desc := "(LCornerClaims;III[J)I" } : Jvm.MethodName)) ∈ lw_all := lw_g (lw_at lw_m8 221 rfl) rfl
theorem q1985 : (Jvm.Cond.static ({ cls := "CornerClaimsLaw", name := "corner", desc := "(LCornerClaims;III[J)I" } : Jvm.MethodName)) ∈ lw_all := lw_g (lw_at lw_m8 222 rfl) rfl
theorem q1986 : (Jvm.Cond.codeWith ({ cls := "CornerClaimsLaw", name := "corner", desc := "(LCornerClaims;III[J)I" } : Jvm.MethodName) method_18_code (6 : Nat) (Option.some Jvm.ClassFile.FieldType.int) [((0 : Nat), (12 : Nat), (15 : Nat), (27 : Nat)), ((0 : Nat), (12 : Nat), (19 : Nat), (13 : Nat))]) ∈ lw_all := lw_g (lw_at lw_m8 223 rfl) rfl
theorem q1987 : (Jvm.Cond.methodLink "CornerClaimsLaw" (65 : Nat) ({ cls := "CornerClaims", name := "corner", desc := "(III)I" } : Jvm.MethodName)) ∈ lw_all := lw_g (lw_at lw_m8 224 rfl) rfl
theorem q1992 : (Jvm.Cond.methodLink "CornerClaimsLaw" (155 : Nat) ({ cls := "CornerClaimsLaw", name := "close", desc := "(LCornerClaims;I[J)I" } : Jvm.MethodName)) ∈ lw_all := lw_g (lw_at lw_m8 229 rfl) rfl
theorem q1993 : (Jvm.Cond.static ({ cls := "CornerClaimsLaw", name := "close", desc := "(LCornerClaims;I[J)I" } : Jvm.MethodName)) ∈ lw_all := lw_g (lw_at lw_m8 230 rfl) rfl
theorem q1994 : (Jvm.Cond.codeWith ({ cls := "CornerClaimsLaw", name := "close", desc := "(LCornerClaims;I[J)I" } : Jvm.MethodName) method_19_code (4 : Nat) (Option.some Jvm.ClassFile.FieldType.int) [((0 : Nat), (9 : Nat), (12 : Nat), (27 : Nat))]) ∈ lw_all := lw_g (lw_at lw_m8 231 rfl) rfl
theorem q1995 : (Jvm.Cond.methodLink "CornerClaimsLaw" (68 : Nat) ({ cls := "CornerClaims", name := "close", desc := "(I)I" } : Jvm.MethodName)) ∈ lw_all := lw_g (lw_at lw_m8 232 rfl) rfl
theorem q2001 : (Jvm.Cond.methodLink "CornerClaimsLaw" (158 : Nat) ({ cls := "CornerClaimsLaw", name := "bend", desc := "(LCornerClaims;IIII[J)I" } : Jvm.MethodName)) ∈ lw_all := lw_g (lw_at lw_m8 238 rfl) rfl
theorem q2002 : (Jvm.Cond.static ({ cls := "CornerClaimsLaw", name := "bend", desc := "(LCornerClaims;IIII[J)I" } : Jvm.MethodName)) ∈ lw_all := lw_g (lw_at lw_m8 239 rfl) rfl
theorem q2003 : (Jvm.Cond.codeWith ({ cls := "CornerClaimsLaw", name := "bend", desc := "(LCornerClaims;IIII[J)I" } : Jvm.MethodName) method_20_code (7 : Nat) (Option.some Jvm.ClassFile.FieldType.int) [((0 : Nat), (14 : Nat), (17 : Nat), (27 : Nat)), ((0 : Nat), (14 : Nat), (21 : Nat), (22 : Nat)), ((0 : Nat), (14 : Nat), (25 : Nat), (13 : Nat))]) ∈ lw_all := lw_g (lw_at lw_m9 0 rfl) rfl
theorem q2004 : (Jvm.Cond.methodLink "CornerClaimsLaw" (71 : Nat) ({ cls := "CornerClaims", name := "bend", desc := "(IIII)I" } : Jvm.MethodName)) ∈ lw_all := lw_g (lw_at lw_m9 1 rfl) rfl
theorem q2039 : (Jvm.Cond.methodLink "CornerClaimsLaw" (162 : Nat) ({ cls := "CornerClaimsLaw", name := "takeOut", desc := "(LCornerClaims;II[J)I" } : Jvm.MethodName)) ∈ lw_all := lw_g (lw_at lw_m9 36 rfl) rfl
theorem q2040 : (Jvm.Cond.static ({ cls := "CornerClaimsLaw", name := "takeOut", desc := "(LCornerClaims;II[J)I" } : Jvm.MethodName)) ∈ lw_all := lw_g (lw_at lw_m9 37 rfl) rfl
theorem q2041 : (Jvm.Cond.codeWith ({ cls := "CornerClaimsLaw", name := "takeOut", desc := "(LCornerClaims;II[J)I" } : Jvm.MethodName) method_21_code (5 : Nat) (Option.some Jvm.ClassFile.FieldType.int) [((0 : Nat), (10 : Nat), (13 : Nat), (27 : Nat)), ((0 : Nat), (10 : Nat), (17 : Nat), (22 : Nat))]) ∈ lw_all := lw_g (lw_at lw_m9 38 rfl) rfl
theorem q2042 : (Jvm.Cond.methodLink "CornerClaimsLaw" (75 : Nat) ({ cls := "CornerClaims", name := "takeOut", desc := "(II)I" } : Jvm.MethodName)) ∈ lw_all := lw_g (lw_at lw_m9 39 rfl) rfl
theorem q2064 : (Jvm.Cond.methodLink "CornerClaimsLaw" (165 : Nat) ({ cls := "CornerClaimsLaw", name := "remove", desc := "(LCornerClaims;I[J)I" } : Jvm.MethodName)) ∈ lw_all := lw_g (lw_at lw_m9 61 rfl) rfl
theorem q2065 : (Jvm.Cond.static ({ cls := "CornerClaimsLaw", name := "remove", desc := "(LCornerClaims;I[J)I" } : Jvm.MethodName)) ∈ lw_all := lw_g (lw_at lw_m9 62 rfl) rfl
theorem q2066 : (Jvm.Cond.codeWith ({ cls := "CornerClaimsLaw", name := "remove", desc := "(LCornerClaims;I[J)I" } : Jvm.MethodName) method_22_code (4 : Nat) (Option.some Jvm.ClassFile.FieldType.int) [((0 : Nat), (9 : Nat), (12 : Nat), (27 : Nat))]) ∈ lw_all := lw_g (lw_at lw_m9 63 rfl) rfl
theorem q2067 : (Jvm.Cond.methodLink "CornerClaimsLaw" (78 : Nat) ({ cls := "CornerClaims", name := "remove", desc := "(I)I" } : Jvm.MethodName)) ∈ lw_all := lw_g (lw_at lw_m9 64 rfl) rfl
theorem q2071 : (Jvm.Cond.classLink "CornerClaimsLaw" (82 : Nat) "CornerClaimsModel") ∈ lw_all := lw_g (lw_at lw_m9 68 rfl) rfl
theorem q2073 : (Jvm.Cond.methodLink "CornerClaimsLaw" (84 : Nat) ({ cls := "CornerClaimsModel", name := "<init>", desc := "()V" } : Jvm.MethodName)) ∈ lw_all := lw_g (lw_at lw_m9 70 rfl) rfl
theorem q2142 : (Jvm.Cond.methodLink "CornerClaimsLaw" (96 : Nat) ({ cls := "CornerClaimsModel", name := "thrown", desc := "()I" } : Jvm.MethodName)) ∈ lw_all := lw_g (lw_at lw_m9 139 rfl) rfl
theorem q2146 : (Jvm.Cond.methodLink "CornerClaimsLaw" (89 : Nat) ({ cls := "CornerClaimsModel", name := "append", desc := "(IIIII)I" } : Jvm.MethodName)) ∈ lw_all := lw_g (lw_at lw_m9 143 rfl) rfl
theorem q2150 : (Jvm.Cond.methodLink "CornerClaimsLaw" (95 : Nat) ({ cls := "CornerClaimsModel", name := "load", desc := "(I)I" } : Jvm.MethodName)) ∈ lw_all := lw_g (lw_at lw_m9 147 rfl) rfl
theorem q2345 : (Jvm.Cond.methodLink "CornerClaimsLaw" (103 : Nat) ({ cls := "CornerClaimsModel", name := "errorOffset", desc := "()I" } : Jvm.MethodName)) ∈ lw_all := lw_g (lw_at lw_m10 102 rfl) rfl
theorem q2349 : (Jvm.Cond.methodLink "CornerClaimsLaw" (106 : Nat) ({ cls := "CornerClaimsModel", name := "count", desc := "(I)I" } : Jvm.MethodName)) ∈ lw_all := lw_g (lw_at lw_m10 106 rfl) rfl
theorem q2377 : (Jvm.Cond.methodLink "CornerClaimsLaw" (110 : Nat) ({ cls := "CornerClaimsModel", name := "stone", desc := "(II)I" } : Jvm.MethodName)) ∈ lw_all := lw_g (lw_at lw_m10 134 rfl) rfl
theorem q2381 : (Jvm.Cond.methodLink "CornerClaimsLaw" (113 : Nat) ({ cls := "CornerClaimsModel", name := "polygon", desc := "(II)I" } : Jvm.MethodName)) ∈ lw_all := lw_g (lw_at lw_m10 138 rfl) rfl
theorem q2389 : (Jvm.Cond.methodLink "CornerClaimsLaw" (116 : Nat) ({ cls := "CornerClaimsModel", name := "cornerAt", desc := "(II)I" } : Jvm.MethodName)) ∈ lw_all := lw_g (lw_at lw_m10 146 rfl) rfl
theorem q2393 : (Jvm.Cond.methodLink "CornerClaimsLaw" (120 : Nat) ({ cls := "CornerClaimsModel", name := "reason", desc := "(III)I" } : Jvm.MethodName)) ∈ lw_all := lw_g (lw_at lw_m10 150 rfl) rfl
theorem q2401 : (Jvm.Cond.methodLink "CornerClaimsLaw" (123 : Nat) ({ cls := "CornerClaimsModel", name := "where", desc := "(III)I" } : Jvm.MethodName)) ∈ lw_all := lw_g (lw_at lw_m10 158 rfl) rfl
theorem q2405 : (Jvm.Cond.methodLink "CornerClaimsLaw" (126 : Nat) ({ cls := "CornerClaimsModel", name := "area", desc := "(I)I" } : Jvm.MethodName)) ∈ lw_all := lw_g (lw_at lw_m10 162 rfl) rfl
theorem q2413 : (Jvm.Cond.methodLink "CornerClaimsLaw" (129 : Nat) ({ cls := "CornerClaimsModel", name := "border", desc := "(I)I" } : Jvm.MethodName)) ∈ lw_all := lw_g (lw_at lw_m10 170 rfl) rfl
theorem q2421 : (Jvm.Cond.methodLink "CornerClaimsLaw" (132 : Nat) ({ cls := "CornerClaimsModel", name := "inner", desc := "(I)I" } : Jvm.MethodName)) ∈ lw_all := lw_g (lw_at lw_m10 178 rfl) rfl
theorem q2425 : (Jvm.Cond.methodLink "CornerClaimsLaw" (135 : Nat) ({ cls := "CornerClaimsModel", name := "dents", desc := "(I)I" } : Jvm.MethodName)) ∈ lw_all := lw_g (lw_at lw_m10 182 rfl) rfl
theorem q2437 : (Jvm.Cond.methodLink "CornerClaimsLaw" (138 : Nat) ({ cls := "CornerClaimsModel", name := "parent", desc := "(I)I" } : Jvm.MethodName)) ∈ lw_all := lw_g (lw_at lw_m10 194 rfl) rfl
theorem q2441 : (Jvm.Cond.methodLink "CornerClaimsLaw" (141 : Nat) ({ cls := "CornerClaimsModel", name := "score", desc := "(I)I" } : Jvm.MethodName)) ∈ lw_all := lw_g (lw_at lw_m10 198 rfl) rfl
theorem q2461 : (Jvm.Cond.methodLink "CornerClaimsLaw" (144 : Nat) ({ cls := "CornerClaimsModel", name := "points", desc := "(I)I" } : Jvm.MethodName)) ∈ lw_all := lw_g (lw_at lw_m10 218 rfl) rfl
theorem q2469 : (Jvm.Cond.methodLink "CornerClaimsLaw" (148 : Nat) ({ cls := "CornerClaimsModel", name := "leader", desc := "()I" } : Jvm.MethodName)) ∈ lw_all := lw_g (lw_at lw_m10 226 rfl) rfl
theorem q2473 : (Jvm.Cond.methodLink "CornerClaimsLaw" (151 : Nat) ({ cls := "CornerClaimsModel", name := "begin", desc := "(III)I" } : Jvm.MethodName)) ∈ lw_all := lw_g (lw_at lw_m10 230 rfl) rfl
theorem q2477 : (Jvm.Cond.methodLink "CornerClaimsLaw" (154 : Nat) ({ cls := "CornerClaimsModel", name := "corner", desc := "(III)I" } : Jvm.MethodName)) ∈ lw_all := lw_g (lw_at lw_m10 234 rfl) rfl
theorem q2481 : (Jvm.Cond.methodLink "CornerClaimsLaw" (157 : Nat) ({ cls := "CornerClaimsModel", name := "close", desc := "(I)I" } : Jvm.MethodName)) ∈ lw_all := lw_g (lw_at lw_m10 238 rfl) rfl
theorem q2485 : (Jvm.Cond.methodLink "CornerClaimsLaw" (161 : Nat) ({ cls := "CornerClaimsModel", name := "bend", desc := "(IIII)I" } : Jvm.MethodName)) ∈ lw_all := lw_g (lw_at lw_m11 2 rfl) rfl
theorem q2493 : (Jvm.Cond.methodLink "CornerClaimsLaw" (164 : Nat) ({ cls := "CornerClaimsModel", name := "takeOut", desc := "(II)I" } : Jvm.MethodName)) ∈ lw_all := lw_g (lw_at lw_m11 10 rfl) rfl
theorem q2501 : (Jvm.Cond.methodLink "CornerClaimsLaw" (167 : Nat) ({ cls := "CornerClaimsModel", name := "remove", desc := "(I)I" } : Jvm.MethodName)) ∈ lw_all := lw_g (lw_at lw_m11 18 rfl) rfl
theorem q2505 : (Jvm.Cond.methodLink "CornerClaimsLaw" (171 : Nat) ({ cls := "CornerClaimsModel", name := "undo", desc := "()I" } : Jvm.MethodName)) ∈ lw_all := lw_g (lw_at lw_m11 22 rfl) rfl
theorem q2509 : (Jvm.Cond.methodLink "CornerClaimsLaw" (176 : Nat) ({ cls := "CornerClaimsModel", name := "checksum", desc := "()J" } : Jvm.MethodName)) ∈ lw_all := lw_g (lw_at lw_m11 26 rfl) rfl
/-! the law's own entry -/
set_option maxRecDepth 100000
abbrev cL_law : ByteArray := code
def dkwL_law_64 : List UInt8 := [3, 172, 132, 4, 6, 167, 249, 230, 4, 172]
abbrev dktL_law_64 : List UInt8 := dkwL_law_64 ++ []
def dkwL_law_63 : List UInt8 := [182, 0, 168, 44, 182, 0, 171, 159, 0, 19, 3, 172, 43, 182, 0, 172, 44, 182, 0, 176, 148, 153, 0, 5]
abbrev dktL_law_63 : List UInt8 := dkwL_law_63 ++ dktL_law_64
def dkwL_law_62 : List UInt8 := [172, 21, 5, 154, 0, 15, 45, 3, 47, 21, 6, 133, 148, 153, 0, 5, 3, 172, 167, 0, 30, 43]
abbrev dktL_law_62 : List UInt8 := dkwL_law_62 ++ dktL_law_63
def dkwL_law_61 : List UInt8 := [54, 5, 44, 42, 21, 4, 4, 96, 46, 182, 0, 167, 54, 6, 44, 182, 0, 96, 21, 5, 159, 0, 5, 3]
abbrev dktL_law_61 : List UInt8 := dkwL_law_61 ++ dktL_law_62
def dkwL_law_60 : List UInt8 := [21, 6, 133, 148, 153, 0, 5, 3, 172, 167, 0, 86, 43, 42, 21, 4, 4, 96, 46, 45, 184, 0, 165]
abbrev dktL_law_60 : List UInt8 := dkwL_law_60 ++ dktL_law_61
def dkwL_law_59 : List UInt8 := [182, 0, 164, 54, 6, 44, 182, 0, 96, 21, 5, 159, 0, 5, 3, 172, 21, 5, 154, 0, 15, 45, 3, 47]
abbrev dktL_law_59 : List UInt8 := dkwL_law_59 ++ dktL_law_60
def dkwL_law_58 : List UInt8 := [21, 4, 5, 96, 46, 45, 184, 0, 162, 54, 5, 44, 42, 21, 4, 4, 96, 46, 42, 21, 4, 5, 96, 46]
abbrev dktL_law_58 : List UInt8 := dkwL_law_58 ++ dktL_law_59
def dkwL_law_57 : List UInt8 := [45, 3, 47, 21, 6, 133, 148, 153, 0, 5, 3, 172, 167, 0, 154, 43, 42, 21, 4, 4, 96, 46, 42]
abbrev dktL_law_57 : List UInt8 := dkwL_law_57 ++ dktL_law_58
def dkwL_law_56 : List UInt8 := [7, 96, 46, 182, 0, 161, 54, 6, 44, 182, 0, 96, 21, 5, 159, 0, 5, 3, 172, 21, 5, 154, 0, 15]
abbrev dktL_law_56 : List UInt8 := dkwL_law_56 ++ dktL_law_57
def dkwL_law_55 : List UInt8 := [54, 5, 44, 42, 21, 4, 4, 96, 46, 42, 21, 4, 5, 96, 46, 42, 21, 4, 6, 96, 46, 42, 21, 4]
abbrev dktL_law_55 : List UInt8 := dkwL_law_55 ++ dktL_law_56
def dkwL_law_54 : List UInt8 := [46, 42, 21, 4, 5, 96, 46, 42, 21, 4, 6, 96, 46, 42, 21, 4, 7, 96, 46, 45, 184, 0, 158]
abbrev dktL_law_54 : List UInt8 := dkwL_law_54 ++ dktL_law_55
def dkwL_law_53 : List UInt8 := [154, 0, 15, 45, 3, 47, 21, 6, 133, 148, 153, 0, 5, 3, 172, 167, 0, 246, 43, 42, 21, 4, 4, 96]
abbrev dktL_law_53 : List UInt8 := dkwL_law_53 ++ dktL_law_54
def dkwL_law_52 : List UInt8 := [21, 4, 4, 96, 46, 182, 0, 157, 54, 6, 44, 182, 0, 96, 21, 5, 159, 0, 5, 3, 172, 21, 5]
abbrev dktL_law_52 : List UInt8 := dkwL_law_52 ++ dktL_law_53
def dkwL_law_51 : List UInt8 := [153, 0, 5, 3, 172, 167, 1, 46, 43, 42, 21, 4, 4, 96, 46, 45, 184, 0, 155, 54, 5, 44, 42]
abbrev dktL_law_51 : List UInt8 := dkwL_law_51 ++ dktL_law_52
def dkwL_law_50 : List UInt8 := [182, 0, 96, 21, 5, 159, 0, 5, 3, 172, 21, 5, 154, 0, 15, 45, 3, 47, 21, 6, 133, 148]
abbrev dktL_law_50 : List UInt8 := dkwL_law_50 ++ dktL_law_51
def dkwL_law_49 : List UInt8 := [21, 4, 4, 96, 46, 42, 21, 4, 5, 96, 46, 42, 21, 4, 6, 96, 46, 182, 0, 154, 54, 6, 44]
abbrev dktL_law_49 : List UInt8 := dkwL_law_49 ++ dktL_law_50
def dkwL_law_48 : List UInt8 := [4, 96, 46, 42, 21, 4, 5, 96, 46, 42, 21, 4, 6, 96, 46, 45, 184, 0, 152, 54, 5, 44, 42]
abbrev dktL_law_48 : List UInt8 := dkwL_law_48 ++ dktL_law_49
def dkwL_law_47 : List UInt8 := [21, 5, 154, 0, 15, 45, 3, 47, 21, 6, 133, 148, 153, 0, 5, 3, 172, 167, 1, 126, 43, 42, 21, 4]
abbrev dktL_law_47 : List UInt8 := dkwL_law_47 ++ dktL_law_48
def dkwL_law_46 : List UInt8 := [96, 46, 42, 21, 4, 6, 96, 46, 182, 0, 151, 54, 6, 44, 182, 0, 96, 21, 5, 159, 0, 5, 3, 172]
abbrev dktL_law_46 : List UInt8 := dkwL_law_46 ++ dktL_law_47
def dkwL_law_45 : List UInt8 := [46, 42, 21, 4, 6, 96, 46, 45, 184, 0, 149, 54, 5, 44, 42, 21, 4, 4, 96, 46, 42, 21, 4, 5]
abbrev dktL_law_45 : List UInt8 := dkwL_law_45 ++ dktL_law_46
def dkwL_law_44 : List UInt8 := [182, 0, 145, 44, 182, 0, 148, 159, 1, 208, 3, 172, 43, 42, 21, 4, 4, 96, 46, 42, 21, 4, 5, 96]
abbrev dktL_law_44 : List UInt8 := dkwL_law_44 ++ dktL_law_45
def dkwL_law_43 : List UInt8 := [172, 21, 5, 154, 0, 15, 45, 3, 47, 21, 6, 133, 148, 153, 0, 5, 3, 172, 167, 1, 219, 43]
abbrev dktL_law_43 : List UInt8 := dkwL_law_43 ++ dktL_law_44
def dkwL_law_42 : List UInt8 := [54, 5, 44, 42, 21, 4, 4, 96, 46, 182, 0, 144, 54, 6, 44, 182, 0, 96, 21, 5, 159, 0, 5, 3]
abbrev dktL_law_42 : List UInt8 := dkwL_law_42 ++ dktL_law_43
def dkwL_law_41 : List UInt8 := [21, 6, 133, 148, 153, 0, 5, 3, 172, 167, 2, 19, 43, 42, 21, 4, 4, 96, 46, 45, 184, 0, 142]
abbrev dktL_law_41 : List UInt8 := dkwL_law_41 ++ dktL_law_42
def dkwL_law_40 : List UInt8 := [182, 0, 141, 54, 6, 44, 182, 0, 96, 21, 5, 159, 0, 5, 3, 172, 21, 5, 154, 0, 15, 45, 3, 47]
abbrev dktL_law_40 : List UInt8 := dkwL_law_40 ++ dktL_law_41
def dkwL_law_39 : List UInt8 := [167, 2, 75, 43, 42, 21, 4, 4, 96, 46, 45, 184, 0, 139, 54, 5, 44, 42, 21, 4, 4, 96, 46]
abbrev dktL_law_39 : List UInt8 := dkwL_law_39 ++ dktL_law_40
def dkwL_law_38 : List UInt8 := [21, 5, 159, 0, 5, 3, 172, 21, 5, 154, 0, 15, 45, 3, 47, 21, 6, 133, 148, 153, 0, 5, 3, 172]
abbrev dktL_law_38 : List UInt8 := dkwL_law_38 ++ dktL_law_39
def dkwL_law_37 : List UInt8 := [46, 45, 184, 0, 136, 54, 5, 44, 42, 21, 4, 4, 96, 46, 182, 0, 138, 54, 6, 44, 182, 0, 96]
abbrev dktL_law_37 : List UInt8 := dkwL_law_37 ++ dktL_law_38
def dkwL_law_36 : List UInt8 := [154, 0, 15, 45, 3, 47, 21, 6, 133, 148, 153, 0, 5, 3, 172, 167, 2, 131, 43, 42, 21, 4, 4, 96]
abbrev dktL_law_36 : List UInt8 := dkwL_law_36 ++ dktL_law_37
def dkwL_law_35 : List UInt8 := [21, 4, 4, 96, 46, 182, 0, 135, 54, 6, 44, 182, 0, 96, 21, 5, 159, 0, 5, 3, 172, 21, 5]
abbrev dktL_law_35 : List UInt8 := dkwL_law_35 ++ dktL_law_36
def dkwL_law_34 : List UInt8 := [153, 0, 5, 3, 172, 167, 2, 187, 43, 42, 21, 4, 4, 96, 46, 45, 184, 0, 133, 54, 5, 44, 42]
abbrev dktL_law_34 : List UInt8 := dkwL_law_34 ++ dktL_law_35
def dkwL_law_33 : List UInt8 := [182, 0, 96, 21, 5, 159, 0, 5, 3, 172, 21, 5, 154, 0, 15, 45, 3, 47, 21, 6, 133, 148]
abbrev dktL_law_33 : List UInt8 := dkwL_law_33 ++ dktL_law_34
def dkwL_law_32 : List UInt8 := [21, 4, 4, 96, 46, 45, 184, 0, 130, 54, 5, 44, 42, 21, 4, 4, 96, 46, 182, 0, 132, 54, 6, 44]
abbrev dktL_law_32 : List UInt8 := dkwL_law_32 ++ dktL_law_33
def dkwL_law_31 : List UInt8 := [172, 21, 5, 154, 0, 15, 45, 3, 47, 21, 6, 133, 148, 153, 0, 5, 3, 172, 167, 2, 243, 43, 42]
abbrev dktL_law_31 : List UInt8 := dkwL_law_31 ++ dktL_law_32
def dkwL_law_30 : List UInt8 := [54, 5, 44, 42, 21, 4, 4, 96, 46, 182, 0, 129, 54, 6, 44, 182, 0, 96, 21, 5, 159, 0, 5, 3]
abbrev dktL_law_30 : List UInt8 := dkwL_law_30 ++ dktL_law_31
def dkwL_law_29 : List UInt8 := [21, 6, 133, 148, 153, 0, 5, 3, 172, 167, 3, 43, 43, 42, 21, 4, 4, 96, 46, 45, 184, 0, 127]
abbrev dktL_law_29 : List UInt8 := dkwL_law_29 ++ dktL_law_30
def dkwL_law_28 : List UInt8 := [182, 0, 126, 54, 6, 44, 182, 0, 96, 21, 5, 159, 0, 5, 3, 172, 21, 5, 154, 0, 15, 45, 3, 47]
abbrev dktL_law_28 : List UInt8 := dkwL_law_28 ++ dktL_law_29
def dkwL_law_27 : List UInt8 := [167, 3, 99, 43, 42, 21, 4, 4, 96, 46, 45, 184, 0, 124, 54, 5, 44, 42, 21, 4, 4, 96, 46]
abbrev dktL_law_27 : List UInt8 := dkwL_law_27 ++ dktL_law_28
def dkwL_law_26 : List UInt8 := [21, 5, 159, 0, 5, 3, 172, 21, 5, 154, 0, 15, 45, 3, 47, 21, 6, 133, 148, 153, 0, 5, 3, 172]
abbrev dktL_law_26 : List UInt8 := dkwL_law_26 ++ dktL_law_27
def dkwL_law_25 : List UInt8 := [96, 46, 42, 21, 4, 5, 96, 46, 42, 21, 4, 6, 96, 46, 182, 0, 123, 54, 6, 44, 182, 0, 96]
abbrev dktL_law_25 : List UInt8 := dkwL_law_25 ++ dktL_law_26
def dkwL_law_24 : List UInt8 := [46, 42, 21, 4, 5, 96, 46, 42, 21, 4, 6, 96, 46, 45, 184, 0, 121, 54, 5, 44, 42, 21, 4, 4]
abbrev dktL_law_24 : List UInt8 := dkwL_law_24 ++ dktL_law_25
def dkwL_law_23 : List UInt8 := [154, 0, 15, 45, 3, 47, 21, 6, 133, 148, 153, 0, 5, 3, 172, 167, 3, 179, 43, 42, 21, 4, 4, 96]
abbrev dktL_law_23 : List UInt8 := dkwL_law_23 ++ dktL_law_24
def dkwL_law_22 : List UInt8 := [21, 4, 6, 96, 46, 182, 0, 120, 54, 6, 44, 182, 0, 96, 21, 5, 159, 0, 5, 3, 172, 21, 5]
abbrev dktL_law_22 : List UInt8 := dkwL_law_22 ++ dktL_law_23
def dkwL_law_21 : List UInt8 := [6, 96, 46, 45, 184, 0, 117, 54, 5, 44, 42, 21, 4, 4, 96, 46, 42, 21, 4, 5, 96, 46, 42]
abbrev dktL_law_21 : List UInt8 := dkwL_law_21 ++ dktL_law_22
def dkwL_law_20 : List UInt8 := [153, 0, 5, 3, 172, 167, 4, 3, 43, 42, 21, 4, 4, 96, 46, 42, 21, 4, 5, 96, 46, 42, 21, 4]
abbrev dktL_law_20 : List UInt8 := dkwL_law_20 ++ dktL_law_21
def dkwL_law_19 : List UInt8 := [182, 0, 96, 21, 5, 159, 0, 5, 3, 172, 21, 5, 154, 0, 15, 45, 3, 47, 21, 6, 133, 148]
abbrev dktL_law_19 : List UInt8 := dkwL_law_19 ++ dktL_law_20
def dkwL_law_18 : List UInt8 := [184, 0, 114, 54, 5, 44, 42, 21, 4, 4, 96, 46, 42, 21, 4, 5, 96, 46, 182, 0, 116, 54, 6, 44]
abbrev dktL_law_18 : List UInt8 := dkwL_law_18 ++ dktL_law_19
def dkwL_law_17 : List UInt8 := [153, 0, 5, 3, 172, 167, 4, 71, 43, 42, 21, 4, 4, 96, 46, 42, 21, 4, 5, 96, 46, 45]
abbrev dktL_law_17 : List UInt8 := dkwL_law_17 ++ dktL_law_18
def dkwL_law_16 : List UInt8 := [182, 0, 96, 21, 5, 159, 0, 5, 3, 172, 21, 5, 154, 0, 15, 45, 3, 47, 21, 6, 133, 148]
abbrev dktL_law_16 : List UInt8 := dkwL_law_16 ++ dktL_law_17
def dkwL_law_15 : List UInt8 := [184, 0, 111, 54, 5, 44, 42, 21, 4, 4, 96, 46, 42, 21, 4, 5, 96, 46, 182, 0, 113, 54, 6, 44]
abbrev dktL_law_15 : List UInt8 := dkwL_law_15 ++ dktL_law_16
def dkwL_law_14 : List UInt8 := [153, 0, 5, 3, 172, 167, 4, 139, 43, 42, 21, 4, 4, 96, 46, 42, 21, 4, 5, 96, 46, 45]
abbrev dktL_law_14 : List UInt8 := dkwL_law_14 ++ dktL_law_15
def dkwL_law_13 : List UInt8 := [182, 0, 96, 21, 5, 159, 0, 5, 3, 172, 21, 5, 154, 0, 15, 45, 3, 47, 21, 6, 133, 148]
abbrev dktL_law_13 : List UInt8 := dkwL_law_13 ++ dktL_law_14
def dkwL_law_12 : List UInt8 := [184, 0, 107, 54, 5, 44, 42, 21, 4, 4, 96, 46, 42, 21, 4, 5, 96, 46, 182, 0, 110, 54, 6, 44]
abbrev dktL_law_12 : List UInt8 := dkwL_law_12 ++ dktL_law_13
def dkwL_law_11 : List UInt8 := [153, 0, 5, 3, 172, 167, 4, 207, 43, 42, 21, 4, 4, 96, 46, 42, 21, 4, 5, 96, 46, 45]
abbrev dktL_law_11 : List UInt8 := dkwL_law_11 ++ dktL_law_12
def dkwL_law_10 : List UInt8 := [182, 0, 96, 21, 5, 159, 0, 5, 3, 172, 21, 5, 154, 0, 15, 45, 3, 47, 21, 6, 133, 148]
abbrev dktL_law_10 : List UInt8 := dkwL_law_10 ++ dktL_law_11
def dkwL_law_9 : List UInt8 := [21, 4, 4, 96, 46, 45, 184, 0, 104, 54, 5, 44, 42, 21, 4, 4, 96, 46, 182, 0, 106, 54, 6, 44]
abbrev dktL_law_9 : List UInt8 := dkwL_law_9 ++ dktL_law_10
def dkwL_law_8 : List UInt8 := [148, 153, 0, 5, 3, 172, 167, 5, 20, 43, 182, 0, 100, 44, 182, 0, 103, 159, 5, 9, 3, 172, 43, 42]
abbrev dktL_law_8 : List UInt8 := dkwL_law_8 ++ dktL_law_9
def dkwL_law_7 : List UInt8 := [54, 6, 44, 182, 0, 96, 21, 5, 159, 0, 5, 3, 172, 21, 5, 154, 0, 15, 45, 3, 47, 21, 6, 133]
abbrev dktL_law_7 : List UInt8 := dkwL_law_7 ++ dktL_law_8
def dkwL_law_6 : List UInt8 := [172, 43, 42, 21, 4, 4, 96, 46, 45, 184, 0, 90, 54, 5, 44, 42, 21, 4, 4, 96, 46, 182, 0, 95]
abbrev dktL_law_6 : List UInt8 := dkwL_law_6 ++ dktL_law_7
def dkwL_law_5 : List UInt8 := [21, 4, 6, 96, 46, 42, 21, 4, 7, 96, 46, 42, 21, 4, 8, 96, 46, 182, 0, 89, 159, 5, 78, 3]
abbrev dktL_law_5 : List UInt8 := dkwL_law_5 ++ dktL_law_6
def dkwL_law_4 : List UInt8 := [46, 42, 21, 4, 8, 96, 46, 182, 0, 85, 44, 42, 21, 4, 4, 96, 46, 42, 21, 4, 5, 96, 46, 42]
abbrev dktL_law_4 : List UInt8 := dkwL_law_4 ++ dktL_law_5
def dkwL_law_3 : List UInt8 := [43, 42, 21, 4, 4, 96, 46, 42, 21, 4, 5, 96, 46, 42, 21, 4, 6, 96, 46, 42, 21, 4, 7, 96]
abbrev dktL_law_3 : List UInt8 := dkwL_law_3 ++ dktL_law_4
def dkwL_law_2 : List UInt8 := [170, 0, 0, 0, 0, 0, 6, 6, 0, 0, 0, 0, 0, 0, 0, 24, 0, 0, 0, 116, 0, 0, 0, 189, 0, 0, 0, 245, 0, 0, 1, 2, 0, 0, 1, 58, 0, 0, 1, 126, 0, 0, 1, 194, 0, 0, 2, 6, 0, 0, 2, 86, 0, 0, 2, 166, 0, 0, 2, 222, 0, 0, 3, 22, 0, 0, 3, 78, 0, 0, 3, 134, 0, 0, 3, 190, 0, 0, 3, 246, 0, 0, 4, 46, 0, 0, 4, 59, 0, 0, 4, 139, 0, 0, 4, 219, 0, 0, 5, 19, 0, 0, 5, 111, 0, 0, 5, 179, 0, 0, 5, 235, 0, 0, 5, 248]
abbrev dktL_law_2 : List UInt8 := dkwL_law_2 ++ dktL_law_3
def dkwL_law_1 : List UInt8 := [21, 4, 42, 190, 16, 6, 100, 163, 6, 22, 42, 21, 4, 46, 16, 31, 126]
abbrev dktL_law_1 : List UInt8 := dkwL_law_1 ++ dktL_law_2
def dkwL_law_0 : List UInt8 := [187, 0, 8, 89, 183, 0, 81, 76, 187, 0, 82, 89, 183, 0, 84, 77, 4, 188, 11, 78, 3, 54, 4]
abbrev dktL_law_0 : List UInt8 := dkwL_law_0 ++ dktL_law_1
theorem dksL_law_0 : cL_law.data.toList.drop 0 = dktL_law_0 := by decide +kernel
theorem dksL_law_1 : cL_law.data.toList.drop 23 = dktL_law_1 := dk_seg dksL_law_0 23 rfl rfl
theorem dksL_law_2 : cL_law.data.toList.drop 40 = dktL_law_2 := dk_seg dksL_law_1 17 rfl rfl
theorem dksL_law_3 : cL_law.data.toList.drop 156 = dktL_law_3 := dk_seg dksL_law_2 116 rfl rfl
theorem dksL_law_4 : cL_law.data.toList.drop 180 = dktL_law_4 := dk_seg dksL_law_3 24 rfl rfl
theorem dksL_law_5 : cL_law.data.toList.drop 204 = dktL_law_5 := dk_seg dksL_law_4 24 rfl rfl
theorem dksL_law_6 : cL_law.data.toList.drop 228 = dktL_law_6 := dk_seg dksL_law_5 24 rfl rfl
theorem dksL_law_7 : cL_law.data.toList.drop 252 = dktL_law_7 := dk_seg dksL_law_6 24 rfl rfl
theorem dksL_law_8 : cL_law.data.toList.drop 276 = dktL_law_8 := dk_seg dksL_law_7 24 rfl rfl
theorem dksL_law_9 : cL_law.data.toList.drop 300 = dktL_law_9 := dk_seg dksL_law_8 24 rfl rfl
theorem dksL_law_10 : cL_law.data.toList.drop 324 = dktL_law_10 := dk_seg dksL_law_9 24 rfl rfl
theorem dksL_law_11 : cL_law.data.toList.drop 346 = dktL_law_11 := dk_seg dksL_law_10 22 rfl rfl
theorem dksL_law_12 : cL_law.data.toList.drop 368 = dktL_law_12 := dk_seg dksL_law_11 22 rfl rfl
theorem dksL_law_13 : cL_law.data.toList.drop 392 = dktL_law_13 := dk_seg dksL_law_12 24 rfl rfl
theorem dksL_law_14 : cL_law.data.toList.drop 414 = dktL_law_14 := dk_seg dksL_law_13 22 rfl rfl
theorem dksL_law_15 : cL_law.data.toList.drop 436 = dktL_law_15 := dk_seg dksL_law_14 22 rfl rfl
theorem dksL_law_16 : cL_law.data.toList.drop 460 = dktL_law_16 := dk_seg dksL_law_15 24 rfl rfl
theorem dksL_law_17 : cL_law.data.toList.drop 482 = dktL_law_17 := dk_seg dksL_law_16 22 rfl rfl
theorem dksL_law_18 : cL_law.data.toList.drop 504 = dktL_law_18 := dk_seg dksL_law_17 22 rfl rfl
theorem dksL_law_19 : cL_law.data.toList.drop 528 = dktL_law_19 := dk_seg dksL_law_18 24 rfl rfl
theorem dksL_law_20 : cL_law.data.toList.drop 550 = dktL_law_20 := dk_seg dksL_law_19 22 rfl rfl
theorem dksL_law_21 : cL_law.data.toList.drop 574 = dktL_law_21 := dk_seg dksL_law_20 24 rfl rfl
theorem dksL_law_22 : cL_law.data.toList.drop 597 = dktL_law_22 := dk_seg dksL_law_21 23 rfl rfl
theorem dksL_law_23 : cL_law.data.toList.drop 620 = dktL_law_23 := dk_seg dksL_law_22 23 rfl rfl
theorem dksL_law_24 : cL_law.data.toList.drop 644 = dktL_law_24 := dk_seg dksL_law_23 24 rfl rfl
theorem dksL_law_25 : cL_law.data.toList.drop 668 = dktL_law_25 := dk_seg dksL_law_24 24 rfl rfl
theorem dksL_law_26 : cL_law.data.toList.drop 691 = dktL_law_26 := dk_seg dksL_law_25 23 rfl rfl
theorem dksL_law_27 : cL_law.data.toList.drop 715 = dktL_law_27 := dk_seg dksL_law_26 24 rfl rfl
theorem dksL_law_28 : cL_law.data.toList.drop 738 = dktL_law_28 := dk_seg dksL_law_27 23 rfl rfl
theorem dksL_law_29 : cL_law.data.toList.drop 762 = dktL_law_29 := dk_seg dksL_law_28 24 rfl rfl
theorem dksL_law_30 : cL_law.data.toList.drop 785 = dktL_law_30 := dk_seg dksL_law_29 23 rfl rfl
theorem dksL_law_31 : cL_law.data.toList.drop 809 = dktL_law_31 := dk_seg dksL_law_30 24 rfl rfl
theorem dksL_law_32 : cL_law.data.toList.drop 832 = dktL_law_32 := dk_seg dksL_law_31 23 rfl rfl
theorem dksL_law_33 : cL_law.data.toList.drop 856 = dktL_law_33 := dk_seg dksL_law_32 24 rfl rfl
theorem dksL_law_34 : cL_law.data.toList.drop 878 = dktL_law_34 := dk_seg dksL_law_33 22 rfl rfl
theorem dksL_law_35 : cL_law.data.toList.drop 901 = dktL_law_35 := dk_seg dksL_law_34 23 rfl rfl
theorem dksL_law_36 : cL_law.data.toList.drop 924 = dktL_law_36 := dk_seg dksL_law_35 23 rfl rfl
theorem dksL_law_37 : cL_law.data.toList.drop 948 = dktL_law_37 := dk_seg dksL_law_36 24 rfl rfl
theorem dksL_law_38 : cL_law.data.toList.drop 971 = dktL_law_38 := dk_seg dksL_law_37 23 rfl rfl
theorem dksL_law_39 : cL_law.data.toList.drop 995 = dktL_law_39 := dk_seg dksL_law_38 24 rfl rfl
theorem dksL_law_40 : cL_law.data.toList.drop 1018 = dktL_law_40 := dk_seg dksL_law_39 23 rfl rfl
theorem dksL_law_41 : cL_law.data.toList.drop 1042 = dktL_law_41 := dk_seg dksL_law_40 24 rfl rfl
theorem dksL_law_42 : cL_law.data.toList.drop 1065 = dktL_law_42 := dk_seg dksL_law_41 23 rfl rfl
theorem dksL_law_43 : cL_law.data.toList.drop 1089 = dktL_law_43 := dk_seg dksL_law_42 24 rfl rfl
theorem dksL_law_44 : cL_law.data.toList.drop 1111 = dktL_law_44 := dk_seg dksL_law_43 22 rfl rfl
theorem dksL_law_45 : cL_law.data.toList.drop 1135 = dktL_law_45 := dk_seg dksL_law_44 24 rfl rfl
theorem dksL_law_46 : cL_law.data.toList.drop 1159 = dktL_law_46 := dk_seg dksL_law_45 24 rfl rfl
theorem dksL_law_47 : cL_law.data.toList.drop 1183 = dktL_law_47 := dk_seg dksL_law_46 24 rfl rfl
theorem dksL_law_48 : cL_law.data.toList.drop 1207 = dktL_law_48 := dk_seg dksL_law_47 24 rfl rfl
theorem dksL_law_49 : cL_law.data.toList.drop 1230 = dktL_law_49 := dk_seg dksL_law_48 23 rfl rfl
theorem dksL_law_50 : cL_law.data.toList.drop 1253 = dktL_law_50 := dk_seg dksL_law_49 23 rfl rfl
theorem dksL_law_51 : cL_law.data.toList.drop 1275 = dktL_law_51 := dk_seg dksL_law_50 22 rfl rfl
theorem dksL_law_52 : cL_law.data.toList.drop 1298 = dktL_law_52 := dk_seg dksL_law_51 23 rfl rfl
theorem dksL_law_53 : cL_law.data.toList.drop 1321 = dktL_law_53 := dk_seg dksL_law_52 23 rfl rfl
theorem dksL_law_54 : cL_law.data.toList.drop 1345 = dktL_law_54 := dk_seg dksL_law_53 24 rfl rfl
theorem dksL_law_55 : cL_law.data.toList.drop 1368 = dktL_law_55 := dk_seg dksL_law_54 23 rfl rfl
theorem dksL_law_56 : cL_law.data.toList.drop 1392 = dktL_law_56 := dk_seg dksL_law_55 24 rfl rfl
theorem dksL_law_57 : cL_law.data.toList.drop 1416 = dktL_law_57 := dk_seg dksL_law_56 24 rfl rfl
theorem dksL_law_58 : cL_law.data.toList.drop 1439 = dktL_law_58 := dk_seg dksL_law_57 23 rfl rfl
theorem dksL_law_59 : cL_law.data.toList.drop 1463 = dktL_law_59 := dk_seg dksL_law_58 24 rfl rfl
theorem dksL_law_60 : cL_law.data.toList.drop 1487 = dktL_law_60 := dk_seg dksL_law_59 24 rfl rfl
theorem dksL_law_61 : cL_law.data.toList.drop 1510 = dktL_law_61 := dk_seg dksL_law_60 23 rfl rfl
theorem dksL_law_62 : cL_law.data.toList.drop 1534 = dktL_law_62 := dk_seg dksL_law_61 24 rfl rfl
theorem dksL_law_63 : cL_law.data.toList.drop 1556 = dktL_law_63 := dk_seg dksL_law_62 22 rfl rfl
theorem dksL_law_64 : cL_law.data.toList.drop 1580 = dktL_law_64 := dk_seg dksL_law_63 24 rfl rfl
theorem dL_law_0 : decode cL_law 0 = .ok (.new 8, 3) := dk_187 0 8 (dk_at dksL_law_0 0 rfl rfl)
theorem dL_law_3 : decode cL_law 3 = .ok (.dup, 1) := dk_89 (dk_at dksL_law_0 3 rfl rfl)
theorem dL_law_4 : decode cL_law 4 = .ok (.invokespecial 81, 3) := dk_183 0 81 (dk_at dksL_law_0 4 rfl rfl)
theorem dL_law_7 : decode cL_law 7 = .ok (.astore_n 1, 1) := dk_76 (dk_at dksL_law_0 7 rfl rfl)
theorem dL_law_8 : decode cL_law 8 = .ok (.new 82, 3) := dk_187 0 82 (dk_at dksL_law_0 8 rfl rfl)
theorem dL_law_11 : decode cL_law 11 = .ok (.dup, 1) := dk_89 (dk_at dksL_law_0 11 rfl rfl)
theorem dL_law_12 : decode cL_law 12 = .ok (.invokespecial 84, 3) := dk_183 0 84 (dk_at dksL_law_0 12 rfl rfl)
theorem dL_law_15 : decode cL_law 15 = .ok (.astore_n 2, 1) := dk_77 (dk_at dksL_law_0 15 rfl rfl)
theorem dL_law_16 : decode cL_law 16 = .ok (.iconst 1, 1) := dk_4 (dk_at dksL_law_0 16 rfl rfl)
theorem dL_law_17 : decode cL_law 17 = .ok (.newarray .long, 2) := dk_188_11 (dk_at dksL_law_0 17 rfl rfl)
theorem dL_law_19 : decode cL_law 19 = .ok (.astore_n 3, 1) := dk_78 (dk_at dksL_law_0 19 rfl rfl)
theorem dL_law_20 : decode cL_law 20 = .ok (.iconst 0, 1) := dk_3 (dk_at dksL_law_0 20 rfl rfl)
theorem dL_law_21 : decode cL_law 21 = .ok (.istore 4, 2) := dk_54 4 (dk_at dksL_law_0 21 rfl rfl)
theorem dL_law_23 : decode cL_law 23 = .ok (.iload 4, 2) := dk_21 4 (dk_at dksL_law_1 0 rfl rfl)
theorem dL_law_25 : decode cL_law 25 = .ok (.aload_n 0, 1) := dk_42 (dk_at dksL_law_1 2 rfl rfl)
theorem dL_law_26 : decode cL_law 26 = .ok (.arraylength, 1) := dk_190 (dk_at dksL_law_1 3 rfl rfl)
theorem dL_law_27 : decode cL_law 27 = .ok (.bipush 6, 2) := dk_16 6 (dk_at dksL_law_1 4 rfl rfl)
theorem dL_law_29 : decode cL_law 29 = .ok (.isub, 1) := dk_100 (dk_at dksL_law_1 6 rfl rfl)
theorem dL_law_30 : decode cL_law 30 = .ok (.if_icmp .gt 1558, 3) := dk_163 6 22 (dk_at dksL_law_1 7 rfl rfl)
theorem dL_law_33 : decode cL_law 33 = .ok (.aload_n 0, 1) := dk_42 (dk_at dksL_law_1 10 rfl rfl)
theorem dL_law_34 : decode cL_law 34 = .ok (.iload 4, 2) := dk_21 4 (dk_at dksL_law_1 11 rfl rfl)
theorem dL_law_36 : decode cL_law 36 = .ok (.iaload, 1) := dk_46 (dk_at dksL_law_1 13 rfl rfl)
theorem dL_law_37 : decode cL_law 37 = .ok (.bipush 31, 2) := dk_16 31 (dk_at dksL_law_1 14 rfl rfl)
theorem dL_law_39 : decode cL_law 39 = .ok (.iand, 1) := dk_126 (dk_at dksL_law_1 16 rfl rfl)
theorem dL_law_40 : decode cL_law 40 = .ok (.tableswitch 1542 0 24 #[116, 189, 245, 258, 314, 382, 450, 518, 598, 678, 734, 790, 846, 902, 958, 1014, 1070, 1083, 1163, 1243, 1299, 1391, 1459, 1515, 1528], 116) := by decide +kernel
theorem dL_law_156 : decode cL_law 156 = .ok (.aload_n 1, 1) := dk_43 (dk_at dksL_law_3 0 rfl rfl)
theorem dL_law_157 : decode cL_law 157 = .ok (.aload_n 0, 1) := dk_42 (dk_at dksL_law_3 1 rfl rfl)
theorem dL_law_158 : decode cL_law 158 = .ok (.iload 4, 2) := dk_21 4 (dk_at dksL_law_3 2 rfl rfl)
theorem dL_law_160 : decode cL_law 160 = .ok (.iconst 1, 1) := dk_4 (dk_at dksL_law_3 4 rfl rfl)
theorem dL_law_161 : decode cL_law 161 = .ok (.iadd, 1) := dk_96 (dk_at dksL_law_3 5 rfl rfl)
theorem dL_law_162 : decode cL_law 162 = .ok (.iaload, 1) := dk_46 (dk_at dksL_law_3 6 rfl rfl)
theorem dL_law_163 : decode cL_law 163 = .ok (.aload_n 0, 1) := dk_42 (dk_at dksL_law_3 7 rfl rfl)
theorem dL_law_164 : decode cL_law 164 = .ok (.iload 4, 2) := dk_21 4 (dk_at dksL_law_3 8 rfl rfl)
theorem dL_law_166 : decode cL_law 166 = .ok (.iconst 2, 1) := dk_5 (dk_at dksL_law_3 10 rfl rfl)
theorem dL_law_167 : decode cL_law 167 = .ok (.iadd, 1) := dk_96 (dk_at dksL_law_3 11 rfl rfl)
theorem dL_law_168 : decode cL_law 168 = .ok (.iaload, 1) := dk_46 (dk_at dksL_law_3 12 rfl rfl)
theorem dL_law_169 : decode cL_law 169 = .ok (.aload_n 0, 1) := dk_42 (dk_at dksL_law_3 13 rfl rfl)
theorem dL_law_170 : decode cL_law 170 = .ok (.iload 4, 2) := dk_21 4 (dk_at dksL_law_3 14 rfl rfl)
theorem dL_law_172 : decode cL_law 172 = .ok (.iconst 3, 1) := dk_6 (dk_at dksL_law_3 16 rfl rfl)
theorem dL_law_173 : decode cL_law 173 = .ok (.iadd, 1) := dk_96 (dk_at dksL_law_3 17 rfl rfl)
theorem dL_law_174 : decode cL_law 174 = .ok (.iaload, 1) := dk_46 (dk_at dksL_law_3 18 rfl rfl)
theorem dL_law_175 : decode cL_law 175 = .ok (.aload_n 0, 1) := dk_42 (dk_at dksL_law_3 19 rfl rfl)
theorem dL_law_176 : decode cL_law 176 = .ok (.iload 4, 2) := dk_21 4 (dk_at dksL_law_3 20 rfl rfl)
theorem dL_law_178 : decode cL_law 178 = .ok (.iconst 4, 1) := dk_7 (dk_at dksL_law_3 22 rfl rfl)
theorem dL_law_179 : decode cL_law 179 = .ok (.iadd, 1) := dk_96 (dk_at dksL_law_3 23 rfl rfl)
theorem dL_law_180 : decode cL_law 180 = .ok (.iaload, 1) := dk_46 (dk_at dksL_law_4 0 rfl rfl)
theorem dL_law_181 : decode cL_law 181 = .ok (.aload_n 0, 1) := dk_42 (dk_at dksL_law_4 1 rfl rfl)
theorem dL_law_182 : decode cL_law 182 = .ok (.iload 4, 2) := dk_21 4 (dk_at dksL_law_4 2 rfl rfl)
theorem dL_law_184 : decode cL_law 184 = .ok (.iconst 5, 1) := dk_8 (dk_at dksL_law_4 4 rfl rfl)
theorem dL_law_185 : decode cL_law 185 = .ok (.iadd, 1) := dk_96 (dk_at dksL_law_4 5 rfl rfl)
theorem dL_law_186 : decode cL_law 186 = .ok (.iaload, 1) := dk_46 (dk_at dksL_law_4 6 rfl rfl)
theorem dL_law_187 : decode cL_law 187 = .ok (.invokevirtual 85, 3) := dk_182 0 85 (dk_at dksL_law_4 7 rfl rfl)
theorem dL_law_190 : decode cL_law 190 = .ok (.aload_n 2, 1) := dk_44 (dk_at dksL_law_4 10 rfl rfl)
theorem dL_law_191 : decode cL_law 191 = .ok (.aload_n 0, 1) := dk_42 (dk_at dksL_law_4 11 rfl rfl)
theorem dL_law_192 : decode cL_law 192 = .ok (.iload 4, 2) := dk_21 4 (dk_at dksL_law_4 12 rfl rfl)
theorem dL_law_194 : decode cL_law 194 = .ok (.iconst 1, 1) := dk_4 (dk_at dksL_law_4 14 rfl rfl)
theorem dL_law_195 : decode cL_law 195 = .ok (.iadd, 1) := dk_96 (dk_at dksL_law_4 15 rfl rfl)
theorem dL_law_196 : decode cL_law 196 = .ok (.iaload, 1) := dk_46 (dk_at dksL_law_4 16 rfl rfl)
theorem dL_law_197 : decode cL_law 197 = .ok (.aload_n 0, 1) := dk_42 (dk_at dksL_law_4 17 rfl rfl)
theorem dL_law_198 : decode cL_law 198 = .ok (.iload 4, 2) := dk_21 4 (dk_at dksL_law_4 18 rfl rfl)
theorem dL_law_200 : decode cL_law 200 = .ok (.iconst 2, 1) := dk_5 (dk_at dksL_law_4 20 rfl rfl)
theorem dL_law_201 : decode cL_law 201 = .ok (.iadd, 1) := dk_96 (dk_at dksL_law_4 21 rfl rfl)
theorem dL_law_202 : decode cL_law 202 = .ok (.iaload, 1) := dk_46 (dk_at dksL_law_4 22 rfl rfl)
theorem dL_law_203 : decode cL_law 203 = .ok (.aload_n 0, 1) := dk_42 (dk_at dksL_law_4 23 rfl rfl)
theorem dL_law_204 : decode cL_law 204 = .ok (.iload 4, 2) := dk_21 4 (dk_at dksL_law_5 0 rfl rfl)
theorem dL_law_206 : decode cL_law 206 = .ok (.iconst 3, 1) := dk_6 (dk_at dksL_law_5 2 rfl rfl)
theorem dL_law_207 : decode cL_law 207 = .ok (.iadd, 1) := dk_96 (dk_at dksL_law_5 3 rfl rfl)
theorem dL_law_208 : decode cL_law 208 = .ok (.iaload, 1) := dk_46 (dk_at dksL_law_5 4 rfl rfl)
theorem dL_law_209 : decode cL_law 209 = .ok (.aload_n 0, 1) := dk_42 (dk_at dksL_law_5 5 rfl rfl)
theorem dL_law_210 : decode cL_law 210 = .ok (.iload 4, 2) := dk_21 4 (dk_at dksL_law_5 6 rfl rfl)
theorem dL_law_212 : decode cL_law 212 = .ok (.iconst 4, 1) := dk_7 (dk_at dksL_law_5 8 rfl rfl)
theorem dL_law_213 : decode cL_law 213 = .ok (.iadd, 1) := dk_96 (dk_at dksL_law_5 9 rfl rfl)
theorem dL_law_214 : decode cL_law 214 = .ok (.iaload, 1) := dk_46 (dk_at dksL_law_5 10 rfl rfl)
theorem dL_law_215 : decode cL_law 215 = .ok (.aload_n 0, 1) := dk_42 (dk_at dksL_law_5 11 rfl rfl)
theorem dL_law_216 : decode cL_law 216 = .ok (.iload 4, 2) := dk_21 4 (dk_at dksL_law_5 12 rfl rfl)
theorem dL_law_218 : decode cL_law 218 = .ok (.iconst 5, 1) := dk_8 (dk_at dksL_law_5 14 rfl rfl)
theorem dL_law_219 : decode cL_law 219 = .ok (.iadd, 1) := dk_96 (dk_at dksL_law_5 15 rfl rfl)
theorem dL_law_220 : decode cL_law 220 = .ok (.iaload, 1) := dk_46 (dk_at dksL_law_5 16 rfl rfl)
theorem dL_law_221 : decode cL_law 221 = .ok (.invokevirtual 89, 3) := dk_182 0 89 (dk_at dksL_law_5 17 rfl rfl)
theorem dL_law_224 : decode cL_law 224 = .ok (.if_icmp .eq 1358, 3) := dk_159 5 78 (dk_at dksL_law_5 20 rfl rfl)
theorem dL_law_227 : decode cL_law 227 = .ok (.iconst 0, 1) := dk_3 (dk_at dksL_law_5 23 rfl rfl)
theorem dL_law_228 : decode cL_law 228 = .ok (.ireturn, 1) := dk_172 (dk_at dksL_law_6 0 rfl rfl)
theorem dL_law_229 : decode cL_law 229 = .ok (.aload_n 1, 1) := dk_43 (dk_at dksL_law_6 1 rfl rfl)
theorem dL_law_230 : decode cL_law 230 = .ok (.aload_n 0, 1) := dk_42 (dk_at dksL_law_6 2 rfl rfl)
theorem dL_law_231 : decode cL_law 231 = .ok (.iload 4, 2) := dk_21 4 (dk_at dksL_law_6 3 rfl rfl)
theorem dL_law_233 : decode cL_law 233 = .ok (.iconst 1, 1) := dk_4 (dk_at dksL_law_6 5 rfl rfl)
theorem dL_law_234 : decode cL_law 234 = .ok (.iadd, 1) := dk_96 (dk_at dksL_law_6 6 rfl rfl)
theorem dL_law_235 : decode cL_law 235 = .ok (.iaload, 1) := dk_46 (dk_at dksL_law_6 7 rfl rfl)
theorem dL_law_236 : decode cL_law 236 = .ok (.aload_n 3, 1) := dk_45 (dk_at dksL_law_6 8 rfl rfl)
theorem dL_law_237 : decode cL_law 237 = .ok (.invokestatic 90, 3) := dk_184 0 90 (dk_at dksL_law_6 9 rfl rfl)
theorem dL_law_240 : decode cL_law 240 = .ok (.istore 5, 2) := dk_54 5 (dk_at dksL_law_6 12 rfl rfl)
theorem dL_law_242 : decode cL_law 242 = .ok (.aload_n 2, 1) := dk_44 (dk_at dksL_law_6 14 rfl rfl)
theorem dL_law_243 : decode cL_law 243 = .ok (.aload_n 0, 1) := dk_42 (dk_at dksL_law_6 15 rfl rfl)
theorem dL_law_244 : decode cL_law 244 = .ok (.iload 4, 2) := dk_21 4 (dk_at dksL_law_6 16 rfl rfl)
theorem dL_law_246 : decode cL_law 246 = .ok (.iconst 1, 1) := dk_4 (dk_at dksL_law_6 18 rfl rfl)
theorem dL_law_247 : decode cL_law 247 = .ok (.iadd, 1) := dk_96 (dk_at dksL_law_6 19 rfl rfl)
theorem dL_law_248 : decode cL_law 248 = .ok (.iaload, 1) := dk_46 (dk_at dksL_law_6 20 rfl rfl)
theorem dL_law_249 : decode cL_law 249 = .ok (.invokevirtual 95, 3) := dk_182 0 95 (dk_at dksL_law_6 21 rfl rfl)
theorem dL_law_252 : decode cL_law 252 = .ok (.istore 6, 2) := dk_54 6 (dk_at dksL_law_7 0 rfl rfl)
theorem dL_law_254 : decode cL_law 254 = .ok (.aload_n 2, 1) := dk_44 (dk_at dksL_law_7 2 rfl rfl)
theorem dL_law_255 : decode cL_law 255 = .ok (.invokevirtual 96, 3) := dk_182 0 96 (dk_at dksL_law_7 3 rfl rfl)
theorem dL_law_258 : decode cL_law 258 = .ok (.iload 5, 2) := dk_21 5 (dk_at dksL_law_7 6 rfl rfl)
theorem dL_law_260 : decode cL_law 260 = .ok (.if_icmp .eq 5, 3) := dk_159 0 5 (dk_at dksL_law_7 8 rfl rfl)
theorem dL_law_263 : decode cL_law 263 = .ok (.iconst 0, 1) := dk_3 (dk_at dksL_law_7 11 rfl rfl)
theorem dL_law_264 : decode cL_law 264 = .ok (.ireturn, 1) := dk_172 (dk_at dksL_law_7 12 rfl rfl)
theorem dL_law_265 : decode cL_law 265 = .ok (.iload 5, 2) := dk_21 5 (dk_at dksL_law_7 13 rfl rfl)
theorem dL_law_267 : decode cL_law 267 = .ok (.ifCond .ne 15, 3) := dk_154 0 15 (dk_at dksL_law_7 15 rfl rfl)
theorem dL_law_270 : decode cL_law 270 = .ok (.aload_n 3, 1) := dk_45 (dk_at dksL_law_7 18 rfl rfl)
theorem dL_law_271 : decode cL_law 271 = .ok (.iconst 0, 1) := dk_3 (dk_at dksL_law_7 19 rfl rfl)
theorem dL_law_272 : decode cL_law 272 = .ok (.laload, 1) := dk_47 (dk_at dksL_law_7 20 rfl rfl)
theorem dL_law_273 : decode cL_law 273 = .ok (.iload 6, 2) := dk_21 6 (dk_at dksL_law_7 21 rfl rfl)
theorem dL_law_275 : decode cL_law 275 = .ok (.i2l, 1) := dk_133 (dk_at dksL_law_7 23 rfl rfl)
theorem dL_law_276 : decode cL_law 276 = .ok (.lcmp, 1) := dk_148 (dk_at dksL_law_8 0 rfl rfl)
theorem dL_law_277 : decode cL_law 277 = .ok (.ifCond .eq 5, 3) := dk_153 0 5 (dk_at dksL_law_8 1 rfl rfl)
theorem dL_law_280 : decode cL_law 280 = .ok (.iconst 0, 1) := dk_3 (dk_at dksL_law_8 4 rfl rfl)
theorem dL_law_281 : decode cL_law 281 = .ok (.ireturn, 1) := dk_172 (dk_at dksL_law_8 5 rfl rfl)
theorem dL_law_282 : decode cL_law 282 = .ok (.goto 1300, 3) := dk_167 5 20 (dk_at dksL_law_8 6 rfl rfl)
theorem dL_law_285 : decode cL_law 285 = .ok (.aload_n 1, 1) := dk_43 (dk_at dksL_law_8 9 rfl rfl)
theorem dL_law_286 : decode cL_law 286 = .ok (.invokevirtual 100, 3) := dk_182 0 100 (dk_at dksL_law_8 10 rfl rfl)
theorem dL_law_289 : decode cL_law 289 = .ok (.aload_n 2, 1) := dk_44 (dk_at dksL_law_8 13 rfl rfl)
theorem dL_law_290 : decode cL_law 290 = .ok (.invokevirtual 103, 3) := dk_182 0 103 (dk_at dksL_law_8 14 rfl rfl)
theorem dL_law_293 : decode cL_law 293 = .ok (.if_icmp .eq 1289, 3) := dk_159 5 9 (dk_at dksL_law_8 17 rfl rfl)
theorem dL_law_296 : decode cL_law 296 = .ok (.iconst 0, 1) := dk_3 (dk_at dksL_law_8 20 rfl rfl)
theorem dL_law_297 : decode cL_law 297 = .ok (.ireturn, 1) := dk_172 (dk_at dksL_law_8 21 rfl rfl)
theorem dL_law_298 : decode cL_law 298 = .ok (.aload_n 1, 1) := dk_43 (dk_at dksL_law_8 22 rfl rfl)
theorem dL_law_299 : decode cL_law 299 = .ok (.aload_n 0, 1) := dk_42 (dk_at dksL_law_8 23 rfl rfl)
theorem dL_law_300 : decode cL_law 300 = .ok (.iload 4, 2) := dk_21 4 (dk_at dksL_law_9 0 rfl rfl)
theorem dL_law_302 : decode cL_law 302 = .ok (.iconst 1, 1) := dk_4 (dk_at dksL_law_9 2 rfl rfl)
theorem dL_law_303 : decode cL_law 303 = .ok (.iadd, 1) := dk_96 (dk_at dksL_law_9 3 rfl rfl)
theorem dL_law_304 : decode cL_law 304 = .ok (.iaload, 1) := dk_46 (dk_at dksL_law_9 4 rfl rfl)
theorem dL_law_305 : decode cL_law 305 = .ok (.aload_n 3, 1) := dk_45 (dk_at dksL_law_9 5 rfl rfl)
theorem dL_law_306 : decode cL_law 306 = .ok (.invokestatic 104, 3) := dk_184 0 104 (dk_at dksL_law_9 6 rfl rfl)
theorem dL_law_309 : decode cL_law 309 = .ok (.istore 5, 2) := dk_54 5 (dk_at dksL_law_9 9 rfl rfl)
theorem dL_law_311 : decode cL_law 311 = .ok (.aload_n 2, 1) := dk_44 (dk_at dksL_law_9 11 rfl rfl)
theorem dL_law_312 : decode cL_law 312 = .ok (.aload_n 0, 1) := dk_42 (dk_at dksL_law_9 12 rfl rfl)
theorem dL_law_313 : decode cL_law 313 = .ok (.iload 4, 2) := dk_21 4 (dk_at dksL_law_9 13 rfl rfl)
theorem dL_law_315 : decode cL_law 315 = .ok (.iconst 1, 1) := dk_4 (dk_at dksL_law_9 15 rfl rfl)
theorem dL_law_316 : decode cL_law 316 = .ok (.iadd, 1) := dk_96 (dk_at dksL_law_9 16 rfl rfl)
theorem dL_law_317 : decode cL_law 317 = .ok (.iaload, 1) := dk_46 (dk_at dksL_law_9 17 rfl rfl)
theorem dL_law_318 : decode cL_law 318 = .ok (.invokevirtual 106, 3) := dk_182 0 106 (dk_at dksL_law_9 18 rfl rfl)
theorem dL_law_321 : decode cL_law 321 = .ok (.istore 6, 2) := dk_54 6 (dk_at dksL_law_9 21 rfl rfl)
theorem dL_law_323 : decode cL_law 323 = .ok (.aload_n 2, 1) := dk_44 (dk_at dksL_law_9 23 rfl rfl)
theorem dL_law_324 : decode cL_law 324 = .ok (.invokevirtual 96, 3) := dk_182 0 96 (dk_at dksL_law_10 0 rfl rfl)
theorem dL_law_327 : decode cL_law 327 = .ok (.iload 5, 2) := dk_21 5 (dk_at dksL_law_10 3 rfl rfl)
theorem dL_law_329 : decode cL_law 329 = .ok (.if_icmp .eq 5, 3) := dk_159 0 5 (dk_at dksL_law_10 5 rfl rfl)
theorem dL_law_332 : decode cL_law 332 = .ok (.iconst 0, 1) := dk_3 (dk_at dksL_law_10 8 rfl rfl)
theorem dL_law_333 : decode cL_law 333 = .ok (.ireturn, 1) := dk_172 (dk_at dksL_law_10 9 rfl rfl)
theorem dL_law_334 : decode cL_law 334 = .ok (.iload 5, 2) := dk_21 5 (dk_at dksL_law_10 10 rfl rfl)
theorem dL_law_336 : decode cL_law 336 = .ok (.ifCond .ne 15, 3) := dk_154 0 15 (dk_at dksL_law_10 12 rfl rfl)
theorem dL_law_339 : decode cL_law 339 = .ok (.aload_n 3, 1) := dk_45 (dk_at dksL_law_10 15 rfl rfl)
theorem dL_law_340 : decode cL_law 340 = .ok (.iconst 0, 1) := dk_3 (dk_at dksL_law_10 16 rfl rfl)
theorem dL_law_341 : decode cL_law 341 = .ok (.laload, 1) := dk_47 (dk_at dksL_law_10 17 rfl rfl)
theorem dL_law_342 : decode cL_law 342 = .ok (.iload 6, 2) := dk_21 6 (dk_at dksL_law_10 18 rfl rfl)
theorem dL_law_344 : decode cL_law 344 = .ok (.i2l, 1) := dk_133 (dk_at dksL_law_10 20 rfl rfl)
theorem dL_law_345 : decode cL_law 345 = .ok (.lcmp, 1) := dk_148 (dk_at dksL_law_10 21 rfl rfl)
theorem dL_law_346 : decode cL_law 346 = .ok (.ifCond .eq 5, 3) := dk_153 0 5 (dk_at dksL_law_11 0 rfl rfl)
theorem dL_law_349 : decode cL_law 349 = .ok (.iconst 0, 1) := dk_3 (dk_at dksL_law_11 3 rfl rfl)
theorem dL_law_350 : decode cL_law 350 = .ok (.ireturn, 1) := dk_172 (dk_at dksL_law_11 4 rfl rfl)
theorem dL_law_351 : decode cL_law 351 = .ok (.goto 1231, 3) := dk_167 4 207 (dk_at dksL_law_11 5 rfl rfl)
theorem dL_law_354 : decode cL_law 354 = .ok (.aload_n 1, 1) := dk_43 (dk_at dksL_law_11 8 rfl rfl)
theorem dL_law_355 : decode cL_law 355 = .ok (.aload_n 0, 1) := dk_42 (dk_at dksL_law_11 9 rfl rfl)
theorem dL_law_356 : decode cL_law 356 = .ok (.iload 4, 2) := dk_21 4 (dk_at dksL_law_11 10 rfl rfl)
theorem dL_law_358 : decode cL_law 358 = .ok (.iconst 1, 1) := dk_4 (dk_at dksL_law_11 12 rfl rfl)
theorem dL_law_359 : decode cL_law 359 = .ok (.iadd, 1) := dk_96 (dk_at dksL_law_11 13 rfl rfl)
theorem dL_law_360 : decode cL_law 360 = .ok (.iaload, 1) := dk_46 (dk_at dksL_law_11 14 rfl rfl)
theorem dL_law_361 : decode cL_law 361 = .ok (.aload_n 0, 1) := dk_42 (dk_at dksL_law_11 15 rfl rfl)
theorem dL_law_362 : decode cL_law 362 = .ok (.iload 4, 2) := dk_21 4 (dk_at dksL_law_11 16 rfl rfl)
theorem dL_law_364 : decode cL_law 364 = .ok (.iconst 2, 1) := dk_5 (dk_at dksL_law_11 18 rfl rfl)
theorem dL_law_365 : decode cL_law 365 = .ok (.iadd, 1) := dk_96 (dk_at dksL_law_11 19 rfl rfl)
theorem dL_law_366 : decode cL_law 366 = .ok (.iaload, 1) := dk_46 (dk_at dksL_law_11 20 rfl rfl)
theorem dL_law_367 : decode cL_law 367 = .ok (.aload_n 3, 1) := dk_45 (dk_at dksL_law_11 21 rfl rfl)
theorem dL_law_368 : decode cL_law 368 = .ok (.invokestatic 107, 3) := dk_184 0 107 (dk_at dksL_law_12 0 rfl rfl)
theorem dL_law_371 : decode cL_law 371 = .ok (.istore 5, 2) := dk_54 5 (dk_at dksL_law_12 3 rfl rfl)
theorem dL_law_373 : decode cL_law 373 = .ok (.aload_n 2, 1) := dk_44 (dk_at dksL_law_12 5 rfl rfl)
theorem dL_law_374 : decode cL_law 374 = .ok (.aload_n 0, 1) := dk_42 (dk_at dksL_law_12 6 rfl rfl)
theorem dL_law_375 : decode cL_law 375 = .ok (.iload 4, 2) := dk_21 4 (dk_at dksL_law_12 7 rfl rfl)
theorem dL_law_377 : decode cL_law 377 = .ok (.iconst 1, 1) := dk_4 (dk_at dksL_law_12 9 rfl rfl)
theorem dL_law_378 : decode cL_law 378 = .ok (.iadd, 1) := dk_96 (dk_at dksL_law_12 10 rfl rfl)
theorem dL_law_379 : decode cL_law 379 = .ok (.iaload, 1) := dk_46 (dk_at dksL_law_12 11 rfl rfl)
theorem dL_law_380 : decode cL_law 380 = .ok (.aload_n 0, 1) := dk_42 (dk_at dksL_law_12 12 rfl rfl)
theorem dL_law_381 : decode cL_law 381 = .ok (.iload 4, 2) := dk_21 4 (dk_at dksL_law_12 13 rfl rfl)
theorem dL_law_383 : decode cL_law 383 = .ok (.iconst 2, 1) := dk_5 (dk_at dksL_law_12 15 rfl rfl)
theorem dL_law_384 : decode cL_law 384 = .ok (.iadd, 1) := dk_96 (dk_at dksL_law_12 16 rfl rfl)
theorem dL_law_385 : decode cL_law 385 = .ok (.iaload, 1) := dk_46 (dk_at dksL_law_12 17 rfl rfl)
theorem dL_law_386 : decode cL_law 386 = .ok (.invokevirtual 110, 3) := dk_182 0 110 (dk_at dksL_law_12 18 rfl rfl)
theorem dL_law_389 : decode cL_law 389 = .ok (.istore 6, 2) := dk_54 6 (dk_at dksL_law_12 21 rfl rfl)
theorem dL_law_391 : decode cL_law 391 = .ok (.aload_n 2, 1) := dk_44 (dk_at dksL_law_12 23 rfl rfl)
theorem dL_law_392 : decode cL_law 392 = .ok (.invokevirtual 96, 3) := dk_182 0 96 (dk_at dksL_law_13 0 rfl rfl)
theorem dL_law_395 : decode cL_law 395 = .ok (.iload 5, 2) := dk_21 5 (dk_at dksL_law_13 3 rfl rfl)
theorem dL_law_397 : decode cL_law 397 = .ok (.if_icmp .eq 5, 3) := dk_159 0 5 (dk_at dksL_law_13 5 rfl rfl)
theorem dL_law_400 : decode cL_law 400 = .ok (.iconst 0, 1) := dk_3 (dk_at dksL_law_13 8 rfl rfl)
theorem dL_law_401 : decode cL_law 401 = .ok (.ireturn, 1) := dk_172 (dk_at dksL_law_13 9 rfl rfl)
theorem dL_law_402 : decode cL_law 402 = .ok (.iload 5, 2) := dk_21 5 (dk_at dksL_law_13 10 rfl rfl)
theorem dL_law_404 : decode cL_law 404 = .ok (.ifCond .ne 15, 3) := dk_154 0 15 (dk_at dksL_law_13 12 rfl rfl)
theorem dL_law_407 : decode cL_law 407 = .ok (.aload_n 3, 1) := dk_45 (dk_at dksL_law_13 15 rfl rfl)
theorem dL_law_408 : decode cL_law 408 = .ok (.iconst 0, 1) := dk_3 (dk_at dksL_law_13 16 rfl rfl)
theorem dL_law_409 : decode cL_law 409 = .ok (.laload, 1) := dk_47 (dk_at dksL_law_13 17 rfl rfl)
theorem dL_law_410 : decode cL_law 410 = .ok (.iload 6, 2) := dk_21 6 (dk_at dksL_law_13 18 rfl rfl)
theorem dL_law_412 : decode cL_law 412 = .ok (.i2l, 1) := dk_133 (dk_at dksL_law_13 20 rfl rfl)
theorem dL_law_413 : decode cL_law 413 = .ok (.lcmp, 1) := dk_148 (dk_at dksL_law_13 21 rfl rfl)
theorem dL_law_414 : decode cL_law 414 = .ok (.ifCond .eq 5, 3) := dk_153 0 5 (dk_at dksL_law_14 0 rfl rfl)
theorem dL_law_417 : decode cL_law 417 = .ok (.iconst 0, 1) := dk_3 (dk_at dksL_law_14 3 rfl rfl)
theorem dL_law_418 : decode cL_law 418 = .ok (.ireturn, 1) := dk_172 (dk_at dksL_law_14 4 rfl rfl)
theorem dL_law_419 : decode cL_law 419 = .ok (.goto 1163, 3) := dk_167 4 139 (dk_at dksL_law_14 5 rfl rfl)
theorem dL_law_422 : decode cL_law 422 = .ok (.aload_n 1, 1) := dk_43 (dk_at dksL_law_14 8 rfl rfl)
theorem dL_law_423 : decode cL_law 423 = .ok (.aload_n 0, 1) := dk_42 (dk_at dksL_law_14 9 rfl rfl)
theorem dL_law_424 : decode cL_law 424 = .ok (.iload 4, 2) := dk_21 4 (dk_at dksL_law_14 10 rfl rfl)
theorem dL_law_426 : decode cL_law 426 = .ok (.iconst 1, 1) := dk_4 (dk_at dksL_law_14 12 rfl rfl)
theorem dL_law_427 : decode cL_law 427 = .ok (.iadd, 1) := dk_96 (dk_at dksL_law_14 13 rfl rfl)
theorem dL_law_428 : decode cL_law 428 = .ok (.iaload, 1) := dk_46 (dk_at dksL_law_14 14 rfl rfl)
theorem dL_law_429 : decode cL_law 429 = .ok (.aload_n 0, 1) := dk_42 (dk_at dksL_law_14 15 rfl rfl)
theorem dL_law_430 : decode cL_law 430 = .ok (.iload 4, 2) := dk_21 4 (dk_at dksL_law_14 16 rfl rfl)
theorem dL_law_432 : decode cL_law 432 = .ok (.iconst 2, 1) := dk_5 (dk_at dksL_law_14 18 rfl rfl)
theorem dL_law_433 : decode cL_law 433 = .ok (.iadd, 1) := dk_96 (dk_at dksL_law_14 19 rfl rfl)
theorem dL_law_434 : decode cL_law 434 = .ok (.iaload, 1) := dk_46 (dk_at dksL_law_14 20 rfl rfl)
theorem dL_law_435 : decode cL_law 435 = .ok (.aload_n 3, 1) := dk_45 (dk_at dksL_law_14 21 rfl rfl)
theorem dL_law_436 : decode cL_law 436 = .ok (.invokestatic 111, 3) := dk_184 0 111 (dk_at dksL_law_15 0 rfl rfl)
theorem dL_law_439 : decode cL_law 439 = .ok (.istore 5, 2) := dk_54 5 (dk_at dksL_law_15 3 rfl rfl)
theorem dL_law_441 : decode cL_law 441 = .ok (.aload_n 2, 1) := dk_44 (dk_at dksL_law_15 5 rfl rfl)
theorem dL_law_442 : decode cL_law 442 = .ok (.aload_n 0, 1) := dk_42 (dk_at dksL_law_15 6 rfl rfl)
theorem dL_law_443 : decode cL_law 443 = .ok (.iload 4, 2) := dk_21 4 (dk_at dksL_law_15 7 rfl rfl)
theorem dL_law_445 : decode cL_law 445 = .ok (.iconst 1, 1) := dk_4 (dk_at dksL_law_15 9 rfl rfl)
theorem dL_law_446 : decode cL_law 446 = .ok (.iadd, 1) := dk_96 (dk_at dksL_law_15 10 rfl rfl)
theorem dL_law_447 : decode cL_law 447 = .ok (.iaload, 1) := dk_46 (dk_at dksL_law_15 11 rfl rfl)
theorem dL_law_448 : decode cL_law 448 = .ok (.aload_n 0, 1) := dk_42 (dk_at dksL_law_15 12 rfl rfl)
theorem dL_law_449 : decode cL_law 449 = .ok (.iload 4, 2) := dk_21 4 (dk_at dksL_law_15 13 rfl rfl)
theorem dL_law_451 : decode cL_law 451 = .ok (.iconst 2, 1) := dk_5 (dk_at dksL_law_15 15 rfl rfl)
theorem dL_law_452 : decode cL_law 452 = .ok (.iadd, 1) := dk_96 (dk_at dksL_law_15 16 rfl rfl)
theorem dL_law_453 : decode cL_law 453 = .ok (.iaload, 1) := dk_46 (dk_at dksL_law_15 17 rfl rfl)
theorem dL_law_454 : decode cL_law 454 = .ok (.invokevirtual 113, 3) := dk_182 0 113 (dk_at dksL_law_15 18 rfl rfl)
theorem dL_law_457 : decode cL_law 457 = .ok (.istore 6, 2) := dk_54 6 (dk_at dksL_law_15 21 rfl rfl)
theorem dL_law_459 : decode cL_law 459 = .ok (.aload_n 2, 1) := dk_44 (dk_at dksL_law_15 23 rfl rfl)
theorem dL_law_460 : decode cL_law 460 = .ok (.invokevirtual 96, 3) := dk_182 0 96 (dk_at dksL_law_16 0 rfl rfl)
theorem dL_law_463 : decode cL_law 463 = .ok (.iload 5, 2) := dk_21 5 (dk_at dksL_law_16 3 rfl rfl)
theorem dL_law_465 : decode cL_law 465 = .ok (.if_icmp .eq 5, 3) := dk_159 0 5 (dk_at dksL_law_16 5 rfl rfl)
theorem dL_law_468 : decode cL_law 468 = .ok (.iconst 0, 1) := dk_3 (dk_at dksL_law_16 8 rfl rfl)
theorem dL_law_469 : decode cL_law 469 = .ok (.ireturn, 1) := dk_172 (dk_at dksL_law_16 9 rfl rfl)
theorem dL_law_470 : decode cL_law 470 = .ok (.iload 5, 2) := dk_21 5 (dk_at dksL_law_16 10 rfl rfl)
theorem dL_law_472 : decode cL_law 472 = .ok (.ifCond .ne 15, 3) := dk_154 0 15 (dk_at dksL_law_16 12 rfl rfl)
theorem dL_law_475 : decode cL_law 475 = .ok (.aload_n 3, 1) := dk_45 (dk_at dksL_law_16 15 rfl rfl)
theorem dL_law_476 : decode cL_law 476 = .ok (.iconst 0, 1) := dk_3 (dk_at dksL_law_16 16 rfl rfl)
theorem dL_law_477 : decode cL_law 477 = .ok (.laload, 1) := dk_47 (dk_at dksL_law_16 17 rfl rfl)
theorem dL_law_478 : decode cL_law 478 = .ok (.iload 6, 2) := dk_21 6 (dk_at dksL_law_16 18 rfl rfl)
theorem dL_law_480 : decode cL_law 480 = .ok (.i2l, 1) := dk_133 (dk_at dksL_law_16 20 rfl rfl)
theorem dL_law_481 : decode cL_law 481 = .ok (.lcmp, 1) := dk_148 (dk_at dksL_law_16 21 rfl rfl)
theorem dL_law_482 : decode cL_law 482 = .ok (.ifCond .eq 5, 3) := dk_153 0 5 (dk_at dksL_law_17 0 rfl rfl)
theorem dL_law_485 : decode cL_law 485 = .ok (.iconst 0, 1) := dk_3 (dk_at dksL_law_17 3 rfl rfl)
theorem dL_law_486 : decode cL_law 486 = .ok (.ireturn, 1) := dk_172 (dk_at dksL_law_17 4 rfl rfl)
theorem dL_law_487 : decode cL_law 487 = .ok (.goto 1095, 3) := dk_167 4 71 (dk_at dksL_law_17 5 rfl rfl)
theorem dL_law_490 : decode cL_law 490 = .ok (.aload_n 1, 1) := dk_43 (dk_at dksL_law_17 8 rfl rfl)
theorem dL_law_491 : decode cL_law 491 = .ok (.aload_n 0, 1) := dk_42 (dk_at dksL_law_17 9 rfl rfl)
theorem dL_law_492 : decode cL_law 492 = .ok (.iload 4, 2) := dk_21 4 (dk_at dksL_law_17 10 rfl rfl)
theorem dL_law_494 : decode cL_law 494 = .ok (.iconst 1, 1) := dk_4 (dk_at dksL_law_17 12 rfl rfl)
theorem dL_law_495 : decode cL_law 495 = .ok (.iadd, 1) := dk_96 (dk_at dksL_law_17 13 rfl rfl)
theorem dL_law_496 : decode cL_law 496 = .ok (.iaload, 1) := dk_46 (dk_at dksL_law_17 14 rfl rfl)
theorem dL_law_497 : decode cL_law 497 = .ok (.aload_n 0, 1) := dk_42 (dk_at dksL_law_17 15 rfl rfl)
theorem dL_law_498 : decode cL_law 498 = .ok (.iload 4, 2) := dk_21 4 (dk_at dksL_law_17 16 rfl rfl)
theorem dL_law_500 : decode cL_law 500 = .ok (.iconst 2, 1) := dk_5 (dk_at dksL_law_17 18 rfl rfl)
theorem dL_law_501 : decode cL_law 501 = .ok (.iadd, 1) := dk_96 (dk_at dksL_law_17 19 rfl rfl)
theorem dL_law_502 : decode cL_law 502 = .ok (.iaload, 1) := dk_46 (dk_at dksL_law_17 20 rfl rfl)
theorem dL_law_503 : decode cL_law 503 = .ok (.aload_n 3, 1) := dk_45 (dk_at dksL_law_17 21 rfl rfl)
theorem dL_law_504 : decode cL_law 504 = .ok (.invokestatic 114, 3) := dk_184 0 114 (dk_at dksL_law_18 0 rfl rfl)
theorem dL_law_507 : decode cL_law 507 = .ok (.istore 5, 2) := dk_54 5 (dk_at dksL_law_18 3 rfl rfl)
theorem dL_law_509 : decode cL_law 509 = .ok (.aload_n 2, 1) := dk_44 (dk_at dksL_law_18 5 rfl rfl)
theorem dL_law_510 : decode cL_law 510 = .ok (.aload_n 0, 1) := dk_42 (dk_at dksL_law_18 6 rfl rfl)
theorem dL_law_511 : decode cL_law 511 = .ok (.iload 4, 2) := dk_21 4 (dk_at dksL_law_18 7 rfl rfl)
theorem dL_law_513 : decode cL_law 513 = .ok (.iconst 1, 1) := dk_4 (dk_at dksL_law_18 9 rfl rfl)
theorem dL_law_514 : decode cL_law 514 = .ok (.iadd, 1) := dk_96 (dk_at dksL_law_18 10 rfl rfl)
theorem dL_law_515 : decode cL_law 515 = .ok (.iaload, 1) := dk_46 (dk_at dksL_law_18 11 rfl rfl)
theorem dL_law_516 : decode cL_law 516 = .ok (.aload_n 0, 1) := dk_42 (dk_at dksL_law_18 12 rfl rfl)
theorem dL_law_517 : decode cL_law 517 = .ok (.iload 4, 2) := dk_21 4 (dk_at dksL_law_18 13 rfl rfl)
theorem dL_law_519 : decode cL_law 519 = .ok (.iconst 2, 1) := dk_5 (dk_at dksL_law_18 15 rfl rfl)
theorem dL_law_520 : decode cL_law 520 = .ok (.iadd, 1) := dk_96 (dk_at dksL_law_18 16 rfl rfl)
theorem dL_law_521 : decode cL_law 521 = .ok (.iaload, 1) := dk_46 (dk_at dksL_law_18 17 rfl rfl)
theorem dL_law_522 : decode cL_law 522 = .ok (.invokevirtual 116, 3) := dk_182 0 116 (dk_at dksL_law_18 18 rfl rfl)
theorem dL_law_525 : decode cL_law 525 = .ok (.istore 6, 2) := dk_54 6 (dk_at dksL_law_18 21 rfl rfl)
theorem dL_law_527 : decode cL_law 527 = .ok (.aload_n 2, 1) := dk_44 (dk_at dksL_law_18 23 rfl rfl)
theorem dL_law_528 : decode cL_law 528 = .ok (.invokevirtual 96, 3) := dk_182 0 96 (dk_at dksL_law_19 0 rfl rfl)
theorem dL_law_531 : decode cL_law 531 = .ok (.iload 5, 2) := dk_21 5 (dk_at dksL_law_19 3 rfl rfl)
theorem dL_law_533 : decode cL_law 533 = .ok (.if_icmp .eq 5, 3) := dk_159 0 5 (dk_at dksL_law_19 5 rfl rfl)
theorem dL_law_536 : decode cL_law 536 = .ok (.iconst 0, 1) := dk_3 (dk_at dksL_law_19 8 rfl rfl)
theorem dL_law_537 : decode cL_law 537 = .ok (.ireturn, 1) := dk_172 (dk_at dksL_law_19 9 rfl rfl)
theorem dL_law_538 : decode cL_law 538 = .ok (.iload 5, 2) := dk_21 5 (dk_at dksL_law_19 10 rfl rfl)
theorem dL_law_540 : decode cL_law 540 = .ok (.ifCond .ne 15, 3) := dk_154 0 15 (dk_at dksL_law_19 12 rfl rfl)
theorem dL_law_543 : decode cL_law 543 = .ok (.aload_n 3, 1) := dk_45 (dk_at dksL_law_19 15 rfl rfl)
theorem dL_law_544 : decode cL_law 544 = .ok (.iconst 0, 1) := dk_3 (dk_at dksL_law_19 16 rfl rfl)
theorem dL_law_545 : decode cL_law 545 = .ok (.laload, 1) := dk_47 (dk_at dksL_law_19 17 rfl rfl)
theorem dL_law_546 : decode cL_law 546 = .ok (.iload 6, 2) := dk_21 6 (dk_at dksL_law_19 18 rfl rfl)
theorem dL_law_548 : decode cL_law 548 = .ok (.i2l, 1) := dk_133 (dk_at dksL_law_19 20 rfl rfl)
theorem dL_law_549 : decode cL_law 549 = .ok (.lcmp, 1) := dk_148 (dk_at dksL_law_19 21 rfl rfl)
theorem dL_law_550 : decode cL_law 550 = .ok (.ifCond .eq 5, 3) := dk_153 0 5 (dk_at dksL_law_20 0 rfl rfl)
theorem dL_law_553 : decode cL_law 553 = .ok (.iconst 0, 1) := dk_3 (dk_at dksL_law_20 3 rfl rfl)
theorem dL_law_554 : decode cL_law 554 = .ok (.ireturn, 1) := dk_172 (dk_at dksL_law_20 4 rfl rfl)
theorem dL_law_555 : decode cL_law 555 = .ok (.goto 1027, 3) := dk_167 4 3 (dk_at dksL_law_20 5 rfl rfl)
theorem dL_law_558 : decode cL_law 558 = .ok (.aload_n 1, 1) := dk_43 (dk_at dksL_law_20 8 rfl rfl)
theorem dL_law_559 : decode cL_law 559 = .ok (.aload_n 0, 1) := dk_42 (dk_at dksL_law_20 9 rfl rfl)
theorem dL_law_560 : decode cL_law 560 = .ok (.iload 4, 2) := dk_21 4 (dk_at dksL_law_20 10 rfl rfl)
theorem dL_law_562 : decode cL_law 562 = .ok (.iconst 1, 1) := dk_4 (dk_at dksL_law_20 12 rfl rfl)
theorem dL_law_563 : decode cL_law 563 = .ok (.iadd, 1) := dk_96 (dk_at dksL_law_20 13 rfl rfl)
theorem dL_law_564 : decode cL_law 564 = .ok (.iaload, 1) := dk_46 (dk_at dksL_law_20 14 rfl rfl)
theorem dL_law_565 : decode cL_law 565 = .ok (.aload_n 0, 1) := dk_42 (dk_at dksL_law_20 15 rfl rfl)
theorem dL_law_566 : decode cL_law 566 = .ok (.iload 4, 2) := dk_21 4 (dk_at dksL_law_20 16 rfl rfl)
theorem dL_law_568 : decode cL_law 568 = .ok (.iconst 2, 1) := dk_5 (dk_at dksL_law_20 18 rfl rfl)
theorem dL_law_569 : decode cL_law 569 = .ok (.iadd, 1) := dk_96 (dk_at dksL_law_20 19 rfl rfl)
theorem dL_law_570 : decode cL_law 570 = .ok (.iaload, 1) := dk_46 (dk_at dksL_law_20 20 rfl rfl)
theorem dL_law_571 : decode cL_law 571 = .ok (.aload_n 0, 1) := dk_42 (dk_at dksL_law_20 21 rfl rfl)
theorem dL_law_572 : decode cL_law 572 = .ok (.iload 4, 2) := dk_21 4 (dk_at dksL_law_20 22 rfl rfl)
theorem dL_law_574 : decode cL_law 574 = .ok (.iconst 3, 1) := dk_6 (dk_at dksL_law_21 0 rfl rfl)
theorem dL_law_575 : decode cL_law 575 = .ok (.iadd, 1) := dk_96 (dk_at dksL_law_21 1 rfl rfl)
theorem dL_law_576 : decode cL_law 576 = .ok (.iaload, 1) := dk_46 (dk_at dksL_law_21 2 rfl rfl)
theorem dL_law_577 : decode cL_law 577 = .ok (.aload_n 3, 1) := dk_45 (dk_at dksL_law_21 3 rfl rfl)
theorem dL_law_578 : decode cL_law 578 = .ok (.invokestatic 117, 3) := dk_184 0 117 (dk_at dksL_law_21 4 rfl rfl)
theorem dL_law_581 : decode cL_law 581 = .ok (.istore 5, 2) := dk_54 5 (dk_at dksL_law_21 7 rfl rfl)
theorem dL_law_583 : decode cL_law 583 = .ok (.aload_n 2, 1) := dk_44 (dk_at dksL_law_21 9 rfl rfl)
theorem dL_law_584 : decode cL_law 584 = .ok (.aload_n 0, 1) := dk_42 (dk_at dksL_law_21 10 rfl rfl)
theorem dL_law_585 : decode cL_law 585 = .ok (.iload 4, 2) := dk_21 4 (dk_at dksL_law_21 11 rfl rfl)
theorem dL_law_587 : decode cL_law 587 = .ok (.iconst 1, 1) := dk_4 (dk_at dksL_law_21 13 rfl rfl)
theorem dL_law_588 : decode cL_law 588 = .ok (.iadd, 1) := dk_96 (dk_at dksL_law_21 14 rfl rfl)
theorem dL_law_589 : decode cL_law 589 = .ok (.iaload, 1) := dk_46 (dk_at dksL_law_21 15 rfl rfl)
theorem dL_law_590 : decode cL_law 590 = .ok (.aload_n 0, 1) := dk_42 (dk_at dksL_law_21 16 rfl rfl)
theorem dL_law_591 : decode cL_law 591 = .ok (.iload 4, 2) := dk_21 4 (dk_at dksL_law_21 17 rfl rfl)
theorem dL_law_593 : decode cL_law 593 = .ok (.iconst 2, 1) := dk_5 (dk_at dksL_law_21 19 rfl rfl)
theorem dL_law_594 : decode cL_law 594 = .ok (.iadd, 1) := dk_96 (dk_at dksL_law_21 20 rfl rfl)
theorem dL_law_595 : decode cL_law 595 = .ok (.iaload, 1) := dk_46 (dk_at dksL_law_21 21 rfl rfl)
theorem dL_law_596 : decode cL_law 596 = .ok (.aload_n 0, 1) := dk_42 (dk_at dksL_law_21 22 rfl rfl)
theorem dL_law_597 : decode cL_law 597 = .ok (.iload 4, 2) := dk_21 4 (dk_at dksL_law_22 0 rfl rfl)
theorem dL_law_599 : decode cL_law 599 = .ok (.iconst 3, 1) := dk_6 (dk_at dksL_law_22 2 rfl rfl)
theorem dL_law_600 : decode cL_law 600 = .ok (.iadd, 1) := dk_96 (dk_at dksL_law_22 3 rfl rfl)
theorem dL_law_601 : decode cL_law 601 = .ok (.iaload, 1) := dk_46 (dk_at dksL_law_22 4 rfl rfl)
theorem dL_law_602 : decode cL_law 602 = .ok (.invokevirtual 120, 3) := dk_182 0 120 (dk_at dksL_law_22 5 rfl rfl)
theorem dL_law_605 : decode cL_law 605 = .ok (.istore 6, 2) := dk_54 6 (dk_at dksL_law_22 8 rfl rfl)
theorem dL_law_607 : decode cL_law 607 = .ok (.aload_n 2, 1) := dk_44 (dk_at dksL_law_22 10 rfl rfl)
theorem dL_law_608 : decode cL_law 608 = .ok (.invokevirtual 96, 3) := dk_182 0 96 (dk_at dksL_law_22 11 rfl rfl)
theorem dL_law_611 : decode cL_law 611 = .ok (.iload 5, 2) := dk_21 5 (dk_at dksL_law_22 14 rfl rfl)
theorem dL_law_613 : decode cL_law 613 = .ok (.if_icmp .eq 5, 3) := dk_159 0 5 (dk_at dksL_law_22 16 rfl rfl)
theorem dL_law_616 : decode cL_law 616 = .ok (.iconst 0, 1) := dk_3 (dk_at dksL_law_22 19 rfl rfl)
theorem dL_law_617 : decode cL_law 617 = .ok (.ireturn, 1) := dk_172 (dk_at dksL_law_22 20 rfl rfl)
theorem dL_law_618 : decode cL_law 618 = .ok (.iload 5, 2) := dk_21 5 (dk_at dksL_law_22 21 rfl rfl)
theorem dL_law_620 : decode cL_law 620 = .ok (.ifCond .ne 15, 3) := dk_154 0 15 (dk_at dksL_law_23 0 rfl rfl)
theorem dL_law_623 : decode cL_law 623 = .ok (.aload_n 3, 1) := dk_45 (dk_at dksL_law_23 3 rfl rfl)
theorem dL_law_624 : decode cL_law 624 = .ok (.iconst 0, 1) := dk_3 (dk_at dksL_law_23 4 rfl rfl)
theorem dL_law_625 : decode cL_law 625 = .ok (.laload, 1) := dk_47 (dk_at dksL_law_23 5 rfl rfl)
theorem dL_law_626 : decode cL_law 626 = .ok (.iload 6, 2) := dk_21 6 (dk_at dksL_law_23 6 rfl rfl)
theorem dL_law_628 : decode cL_law 628 = .ok (.i2l, 1) := dk_133 (dk_at dksL_law_23 8 rfl rfl)
theorem dL_law_629 : decode cL_law 629 = .ok (.lcmp, 1) := dk_148 (dk_at dksL_law_23 9 rfl rfl)
theorem dL_law_630 : decode cL_law 630 = .ok (.ifCond .eq 5, 3) := dk_153 0 5 (dk_at dksL_law_23 10 rfl rfl)
theorem dL_law_633 : decode cL_law 633 = .ok (.iconst 0, 1) := dk_3 (dk_at dksL_law_23 13 rfl rfl)
theorem dL_law_634 : decode cL_law 634 = .ok (.ireturn, 1) := dk_172 (dk_at dksL_law_23 14 rfl rfl)
theorem dL_law_635 : decode cL_law 635 = .ok (.goto 947, 3) := dk_167 3 179 (dk_at dksL_law_23 15 rfl rfl)
theorem dL_law_638 : decode cL_law 638 = .ok (.aload_n 1, 1) := dk_43 (dk_at dksL_law_23 18 rfl rfl)
theorem dL_law_639 : decode cL_law 639 = .ok (.aload_n 0, 1) := dk_42 (dk_at dksL_law_23 19 rfl rfl)
theorem dL_law_640 : decode cL_law 640 = .ok (.iload 4, 2) := dk_21 4 (dk_at dksL_law_23 20 rfl rfl)
theorem dL_law_642 : decode cL_law 642 = .ok (.iconst 1, 1) := dk_4 (dk_at dksL_law_23 22 rfl rfl)
theorem dL_law_643 : decode cL_law 643 = .ok (.iadd, 1) := dk_96 (dk_at dksL_law_23 23 rfl rfl)
theorem dL_law_644 : decode cL_law 644 = .ok (.iaload, 1) := dk_46 (dk_at dksL_law_24 0 rfl rfl)
theorem dL_law_645 : decode cL_law 645 = .ok (.aload_n 0, 1) := dk_42 (dk_at dksL_law_24 1 rfl rfl)
theorem dL_law_646 : decode cL_law 646 = .ok (.iload 4, 2) := dk_21 4 (dk_at dksL_law_24 2 rfl rfl)
theorem dL_law_648 : decode cL_law 648 = .ok (.iconst 2, 1) := dk_5 (dk_at dksL_law_24 4 rfl rfl)
theorem dL_law_649 : decode cL_law 649 = .ok (.iadd, 1) := dk_96 (dk_at dksL_law_24 5 rfl rfl)
theorem dL_law_650 : decode cL_law 650 = .ok (.iaload, 1) := dk_46 (dk_at dksL_law_24 6 rfl rfl)
theorem dL_law_651 : decode cL_law 651 = .ok (.aload_n 0, 1) := dk_42 (dk_at dksL_law_24 7 rfl rfl)
theorem dL_law_652 : decode cL_law 652 = .ok (.iload 4, 2) := dk_21 4 (dk_at dksL_law_24 8 rfl rfl)
theorem dL_law_654 : decode cL_law 654 = .ok (.iconst 3, 1) := dk_6 (dk_at dksL_law_24 10 rfl rfl)
theorem dL_law_655 : decode cL_law 655 = .ok (.iadd, 1) := dk_96 (dk_at dksL_law_24 11 rfl rfl)
theorem dL_law_656 : decode cL_law 656 = .ok (.iaload, 1) := dk_46 (dk_at dksL_law_24 12 rfl rfl)
theorem dL_law_657 : decode cL_law 657 = .ok (.aload_n 3, 1) := dk_45 (dk_at dksL_law_24 13 rfl rfl)
theorem dL_law_658 : decode cL_law 658 = .ok (.invokestatic 121, 3) := dk_184 0 121 (dk_at dksL_law_24 14 rfl rfl)
theorem dL_law_661 : decode cL_law 661 = .ok (.istore 5, 2) := dk_54 5 (dk_at dksL_law_24 17 rfl rfl)
theorem dL_law_663 : decode cL_law 663 = .ok (.aload_n 2, 1) := dk_44 (dk_at dksL_law_24 19 rfl rfl)
theorem dL_law_664 : decode cL_law 664 = .ok (.aload_n 0, 1) := dk_42 (dk_at dksL_law_24 20 rfl rfl)
theorem dL_law_665 : decode cL_law 665 = .ok (.iload 4, 2) := dk_21 4 (dk_at dksL_law_24 21 rfl rfl)
theorem dL_law_667 : decode cL_law 667 = .ok (.iconst 1, 1) := dk_4 (dk_at dksL_law_24 23 rfl rfl)
theorem dL_law_668 : decode cL_law 668 = .ok (.iadd, 1) := dk_96 (dk_at dksL_law_25 0 rfl rfl)
theorem dL_law_669 : decode cL_law 669 = .ok (.iaload, 1) := dk_46 (dk_at dksL_law_25 1 rfl rfl)
theorem dL_law_670 : decode cL_law 670 = .ok (.aload_n 0, 1) := dk_42 (dk_at dksL_law_25 2 rfl rfl)
theorem dL_law_671 : decode cL_law 671 = .ok (.iload 4, 2) := dk_21 4 (dk_at dksL_law_25 3 rfl rfl)
theorem dL_law_673 : decode cL_law 673 = .ok (.iconst 2, 1) := dk_5 (dk_at dksL_law_25 5 rfl rfl)
theorem dL_law_674 : decode cL_law 674 = .ok (.iadd, 1) := dk_96 (dk_at dksL_law_25 6 rfl rfl)
theorem dL_law_675 : decode cL_law 675 = .ok (.iaload, 1) := dk_46 (dk_at dksL_law_25 7 rfl rfl)
theorem dL_law_676 : decode cL_law 676 = .ok (.aload_n 0, 1) := dk_42 (dk_at dksL_law_25 8 rfl rfl)
theorem dL_law_677 : decode cL_law 677 = .ok (.iload 4, 2) := dk_21 4 (dk_at dksL_law_25 9 rfl rfl)
theorem dL_law_679 : decode cL_law 679 = .ok (.iconst 3, 1) := dk_6 (dk_at dksL_law_25 11 rfl rfl)
theorem dL_law_680 : decode cL_law 680 = .ok (.iadd, 1) := dk_96 (dk_at dksL_law_25 12 rfl rfl)
theorem dL_law_681 : decode cL_law 681 = .ok (.iaload, 1) := dk_46 (dk_at dksL_law_25 13 rfl rfl)
theorem dL_law_682 : decode cL_law 682 = .ok (.invokevirtual 123, 3) := dk_182 0 123 (dk_at dksL_law_25 14 rfl rfl)
theorem dL_law_685 : decode cL_law 685 = .ok (.istore 6, 2) := dk_54 6 (dk_at dksL_law_25 17 rfl rfl)
theorem dL_law_687 : decode cL_law 687 = .ok (.aload_n 2, 1) := dk_44 (dk_at dksL_law_25 19 rfl rfl)
theorem dL_law_688 : decode cL_law 688 = .ok (.invokevirtual 96, 3) := dk_182 0 96 (dk_at dksL_law_25 20 rfl rfl)
theorem dL_law_691 : decode cL_law 691 = .ok (.iload 5, 2) := dk_21 5 (dk_at dksL_law_26 0 rfl rfl)
theorem dL_law_693 : decode cL_law 693 = .ok (.if_icmp .eq 5, 3) := dk_159 0 5 (dk_at dksL_law_26 2 rfl rfl)
theorem dL_law_696 : decode cL_law 696 = .ok (.iconst 0, 1) := dk_3 (dk_at dksL_law_26 5 rfl rfl)
theorem dL_law_697 : decode cL_law 697 = .ok (.ireturn, 1) := dk_172 (dk_at dksL_law_26 6 rfl rfl)
theorem dL_law_698 : decode cL_law 698 = .ok (.iload 5, 2) := dk_21 5 (dk_at dksL_law_26 7 rfl rfl)
theorem dL_law_700 : decode cL_law 700 = .ok (.ifCond .ne 15, 3) := dk_154 0 15 (dk_at dksL_law_26 9 rfl rfl)
theorem dL_law_703 : decode cL_law 703 = .ok (.aload_n 3, 1) := dk_45 (dk_at dksL_law_26 12 rfl rfl)
theorem dL_law_704 : decode cL_law 704 = .ok (.iconst 0, 1) := dk_3 (dk_at dksL_law_26 13 rfl rfl)
theorem dL_law_705 : decode cL_law 705 = .ok (.laload, 1) := dk_47 (dk_at dksL_law_26 14 rfl rfl)
theorem dL_law_706 : decode cL_law 706 = .ok (.iload 6, 2) := dk_21 6 (dk_at dksL_law_26 15 rfl rfl)
theorem dL_law_708 : decode cL_law 708 = .ok (.i2l, 1) := dk_133 (dk_at dksL_law_26 17 rfl rfl)
theorem dL_law_709 : decode cL_law 709 = .ok (.lcmp, 1) := dk_148 (dk_at dksL_law_26 18 rfl rfl)
theorem dL_law_710 : decode cL_law 710 = .ok (.ifCond .eq 5, 3) := dk_153 0 5 (dk_at dksL_law_26 19 rfl rfl)
theorem dL_law_713 : decode cL_law 713 = .ok (.iconst 0, 1) := dk_3 (dk_at dksL_law_26 22 rfl rfl)
theorem dL_law_714 : decode cL_law 714 = .ok (.ireturn, 1) := dk_172 (dk_at dksL_law_26 23 rfl rfl)
theorem dL_law_715 : decode cL_law 715 = .ok (.goto 867, 3) := dk_167 3 99 (dk_at dksL_law_27 0 rfl rfl)
theorem dL_law_718 : decode cL_law 718 = .ok (.aload_n 1, 1) := dk_43 (dk_at dksL_law_27 3 rfl rfl)
theorem dL_law_719 : decode cL_law 719 = .ok (.aload_n 0, 1) := dk_42 (dk_at dksL_law_27 4 rfl rfl)
theorem dL_law_720 : decode cL_law 720 = .ok (.iload 4, 2) := dk_21 4 (dk_at dksL_law_27 5 rfl rfl)
theorem dL_law_722 : decode cL_law 722 = .ok (.iconst 1, 1) := dk_4 (dk_at dksL_law_27 7 rfl rfl)
theorem dL_law_723 : decode cL_law 723 = .ok (.iadd, 1) := dk_96 (dk_at dksL_law_27 8 rfl rfl)
theorem dL_law_724 : decode cL_law 724 = .ok (.iaload, 1) := dk_46 (dk_at dksL_law_27 9 rfl rfl)
theorem dL_law_725 : decode cL_law 725 = .ok (.aload_n 3, 1) := dk_45 (dk_at dksL_law_27 10 rfl rfl)
theorem dL_law_726 : decode cL_law 726 = .ok (.invokestatic 124, 3) := dk_184 0 124 (dk_at dksL_law_27 11 rfl rfl)
theorem dL_law_729 : decode cL_law 729 = .ok (.istore 5, 2) := dk_54 5 (dk_at dksL_law_27 14 rfl rfl)
theorem dL_law_731 : decode cL_law 731 = .ok (.aload_n 2, 1) := dk_44 (dk_at dksL_law_27 16 rfl rfl)
theorem dL_law_732 : decode cL_law 732 = .ok (.aload_n 0, 1) := dk_42 (dk_at dksL_law_27 17 rfl rfl)
theorem dL_law_733 : decode cL_law 733 = .ok (.iload 4, 2) := dk_21 4 (dk_at dksL_law_27 18 rfl rfl)
theorem dL_law_735 : decode cL_law 735 = .ok (.iconst 1, 1) := dk_4 (dk_at dksL_law_27 20 rfl rfl)
theorem dL_law_736 : decode cL_law 736 = .ok (.iadd, 1) := dk_96 (dk_at dksL_law_27 21 rfl rfl)
theorem dL_law_737 : decode cL_law 737 = .ok (.iaload, 1) := dk_46 (dk_at dksL_law_27 22 rfl rfl)
theorem dL_law_738 : decode cL_law 738 = .ok (.invokevirtual 126, 3) := dk_182 0 126 (dk_at dksL_law_28 0 rfl rfl)
theorem dL_law_741 : decode cL_law 741 = .ok (.istore 6, 2) := dk_54 6 (dk_at dksL_law_28 3 rfl rfl)
theorem dL_law_743 : decode cL_law 743 = .ok (.aload_n 2, 1) := dk_44 (dk_at dksL_law_28 5 rfl rfl)
theorem dL_law_744 : decode cL_law 744 = .ok (.invokevirtual 96, 3) := dk_182 0 96 (dk_at dksL_law_28 6 rfl rfl)
theorem dL_law_747 : decode cL_law 747 = .ok (.iload 5, 2) := dk_21 5 (dk_at dksL_law_28 9 rfl rfl)
theorem dL_law_749 : decode cL_law 749 = .ok (.if_icmp .eq 5, 3) := dk_159 0 5 (dk_at dksL_law_28 11 rfl rfl)
theorem dL_law_752 : decode cL_law 752 = .ok (.iconst 0, 1) := dk_3 (dk_at dksL_law_28 14 rfl rfl)
theorem dL_law_753 : decode cL_law 753 = .ok (.ireturn, 1) := dk_172 (dk_at dksL_law_28 15 rfl rfl)
theorem dL_law_754 : decode cL_law 754 = .ok (.iload 5, 2) := dk_21 5 (dk_at dksL_law_28 16 rfl rfl)
theorem dL_law_756 : decode cL_law 756 = .ok (.ifCond .ne 15, 3) := dk_154 0 15 (dk_at dksL_law_28 18 rfl rfl)
theorem dL_law_759 : decode cL_law 759 = .ok (.aload_n 3, 1) := dk_45 (dk_at dksL_law_28 21 rfl rfl)
theorem dL_law_760 : decode cL_law 760 = .ok (.iconst 0, 1) := dk_3 (dk_at dksL_law_28 22 rfl rfl)
theorem dL_law_761 : decode cL_law 761 = .ok (.laload, 1) := dk_47 (dk_at dksL_law_28 23 rfl rfl)
theorem dL_law_762 : decode cL_law 762 = .ok (.iload 6, 2) := dk_21 6 (dk_at dksL_law_29 0 rfl rfl)
theorem dL_law_764 : decode cL_law 764 = .ok (.i2l, 1) := dk_133 (dk_at dksL_law_29 2 rfl rfl)
theorem dL_law_765 : decode cL_law 765 = .ok (.lcmp, 1) := dk_148 (dk_at dksL_law_29 3 rfl rfl)
theorem dL_law_766 : decode cL_law 766 = .ok (.ifCond .eq 5, 3) := dk_153 0 5 (dk_at dksL_law_29 4 rfl rfl)
theorem dL_law_769 : decode cL_law 769 = .ok (.iconst 0, 1) := dk_3 (dk_at dksL_law_29 7 rfl rfl)
theorem dL_law_770 : decode cL_law 770 = .ok (.ireturn, 1) := dk_172 (dk_at dksL_law_29 8 rfl rfl)
theorem dL_law_771 : decode cL_law 771 = .ok (.goto 811, 3) := dk_167 3 43 (dk_at dksL_law_29 9 rfl rfl)
theorem dL_law_774 : decode cL_law 774 = .ok (.aload_n 1, 1) := dk_43 (dk_at dksL_law_29 12 rfl rfl)
theorem dL_law_775 : decode cL_law 775 = .ok (.aload_n 0, 1) := dk_42 (dk_at dksL_law_29 13 rfl rfl)
theorem dL_law_776 : decode cL_law 776 = .ok (.iload 4, 2) := dk_21 4 (dk_at dksL_law_29 14 rfl rfl)
theorem dL_law_778 : decode cL_law 778 = .ok (.iconst 1, 1) := dk_4 (dk_at dksL_law_29 16 rfl rfl)
theorem dL_law_779 : decode cL_law 779 = .ok (.iadd, 1) := dk_96 (dk_at dksL_law_29 17 rfl rfl)
theorem dL_law_780 : decode cL_law 780 = .ok (.iaload, 1) := dk_46 (dk_at dksL_law_29 18 rfl rfl)
theorem dL_law_781 : decode cL_law 781 = .ok (.aload_n 3, 1) := dk_45 (dk_at dksL_law_29 19 rfl rfl)
theorem dL_law_782 : decode cL_law 782 = .ok (.invokestatic 127, 3) := dk_184 0 127 (dk_at dksL_law_29 20 rfl rfl)
theorem dL_law_785 : decode cL_law 785 = .ok (.istore 5, 2) := dk_54 5 (dk_at dksL_law_30 0 rfl rfl)
theorem dL_law_787 : decode cL_law 787 = .ok (.aload_n 2, 1) := dk_44 (dk_at dksL_law_30 2 rfl rfl)
theorem dL_law_788 : decode cL_law 788 = .ok (.aload_n 0, 1) := dk_42 (dk_at dksL_law_30 3 rfl rfl)
theorem dL_law_789 : decode cL_law 789 = .ok (.iload 4, 2) := dk_21 4 (dk_at dksL_law_30 4 rfl rfl)
theorem dL_law_791 : decode cL_law 791 = .ok (.iconst 1, 1) := dk_4 (dk_at dksL_law_30 6 rfl rfl)
theorem dL_law_792 : decode cL_law 792 = .ok (.iadd, 1) := dk_96 (dk_at dksL_law_30 7 rfl rfl)
theorem dL_law_793 : decode cL_law 793 = .ok (.iaload, 1) := dk_46 (dk_at dksL_law_30 8 rfl rfl)
theorem dL_law_794 : decode cL_law 794 = .ok (.invokevirtual 129, 3) := dk_182 0 129 (dk_at dksL_law_30 9 rfl rfl)
theorem dL_law_797 : decode cL_law 797 = .ok (.istore 6, 2) := dk_54 6 (dk_at dksL_law_30 12 rfl rfl)
theorem dL_law_799 : decode cL_law 799 = .ok (.aload_n 2, 1) := dk_44 (dk_at dksL_law_30 14 rfl rfl)
theorem dL_law_800 : decode cL_law 800 = .ok (.invokevirtual 96, 3) := dk_182 0 96 (dk_at dksL_law_30 15 rfl rfl)
theorem dL_law_803 : decode cL_law 803 = .ok (.iload 5, 2) := dk_21 5 (dk_at dksL_law_30 18 rfl rfl)
theorem dL_law_805 : decode cL_law 805 = .ok (.if_icmp .eq 5, 3) := dk_159 0 5 (dk_at dksL_law_30 20 rfl rfl)
theorem dL_law_808 : decode cL_law 808 = .ok (.iconst 0, 1) := dk_3 (dk_at dksL_law_30 23 rfl rfl)
theorem dL_law_809 : decode cL_law 809 = .ok (.ireturn, 1) := dk_172 (dk_at dksL_law_31 0 rfl rfl)
theorem dL_law_810 : decode cL_law 810 = .ok (.iload 5, 2) := dk_21 5 (dk_at dksL_law_31 1 rfl rfl)
theorem dL_law_812 : decode cL_law 812 = .ok (.ifCond .ne 15, 3) := dk_154 0 15 (dk_at dksL_law_31 3 rfl rfl)
theorem dL_law_815 : decode cL_law 815 = .ok (.aload_n 3, 1) := dk_45 (dk_at dksL_law_31 6 rfl rfl)
theorem dL_law_816 : decode cL_law 816 = .ok (.iconst 0, 1) := dk_3 (dk_at dksL_law_31 7 rfl rfl)
theorem dL_law_817 : decode cL_law 817 = .ok (.laload, 1) := dk_47 (dk_at dksL_law_31 8 rfl rfl)
theorem dL_law_818 : decode cL_law 818 = .ok (.iload 6, 2) := dk_21 6 (dk_at dksL_law_31 9 rfl rfl)
theorem dL_law_820 : decode cL_law 820 = .ok (.i2l, 1) := dk_133 (dk_at dksL_law_31 11 rfl rfl)
theorem dL_law_821 : decode cL_law 821 = .ok (.lcmp, 1) := dk_148 (dk_at dksL_law_31 12 rfl rfl)
theorem dL_law_822 : decode cL_law 822 = .ok (.ifCond .eq 5, 3) := dk_153 0 5 (dk_at dksL_law_31 13 rfl rfl)
theorem dL_law_825 : decode cL_law 825 = .ok (.iconst 0, 1) := dk_3 (dk_at dksL_law_31 16 rfl rfl)
theorem dL_law_826 : decode cL_law 826 = .ok (.ireturn, 1) := dk_172 (dk_at dksL_law_31 17 rfl rfl)
theorem dL_law_827 : decode cL_law 827 = .ok (.goto 755, 3) := dk_167 2 243 (dk_at dksL_law_31 18 rfl rfl)
theorem dL_law_830 : decode cL_law 830 = .ok (.aload_n 1, 1) := dk_43 (dk_at dksL_law_31 21 rfl rfl)
theorem dL_law_831 : decode cL_law 831 = .ok (.aload_n 0, 1) := dk_42 (dk_at dksL_law_31 22 rfl rfl)
theorem dL_law_832 : decode cL_law 832 = .ok (.iload 4, 2) := dk_21 4 (dk_at dksL_law_32 0 rfl rfl)
theorem dL_law_834 : decode cL_law 834 = .ok (.iconst 1, 1) := dk_4 (dk_at dksL_law_32 2 rfl rfl)
theorem dL_law_835 : decode cL_law 835 = .ok (.iadd, 1) := dk_96 (dk_at dksL_law_32 3 rfl rfl)
theorem dL_law_836 : decode cL_law 836 = .ok (.iaload, 1) := dk_46 (dk_at dksL_law_32 4 rfl rfl)
theorem dL_law_837 : decode cL_law 837 = .ok (.aload_n 3, 1) := dk_45 (dk_at dksL_law_32 5 rfl rfl)
theorem dL_law_838 : decode cL_law 838 = .ok (.invokestatic 130, 3) := dk_184 0 130 (dk_at dksL_law_32 6 rfl rfl)
theorem dL_law_841 : decode cL_law 841 = .ok (.istore 5, 2) := dk_54 5 (dk_at dksL_law_32 9 rfl rfl)
theorem dL_law_843 : decode cL_law 843 = .ok (.aload_n 2, 1) := dk_44 (dk_at dksL_law_32 11 rfl rfl)
theorem dL_law_844 : decode cL_law 844 = .ok (.aload_n 0, 1) := dk_42 (dk_at dksL_law_32 12 rfl rfl)
theorem dL_law_845 : decode cL_law 845 = .ok (.iload 4, 2) := dk_21 4 (dk_at dksL_law_32 13 rfl rfl)
theorem dL_law_847 : decode cL_law 847 = .ok (.iconst 1, 1) := dk_4 (dk_at dksL_law_32 15 rfl rfl)
theorem dL_law_848 : decode cL_law 848 = .ok (.iadd, 1) := dk_96 (dk_at dksL_law_32 16 rfl rfl)
theorem dL_law_849 : decode cL_law 849 = .ok (.iaload, 1) := dk_46 (dk_at dksL_law_32 17 rfl rfl)
theorem dL_law_850 : decode cL_law 850 = .ok (.invokevirtual 132, 3) := dk_182 0 132 (dk_at dksL_law_32 18 rfl rfl)
theorem dL_law_853 : decode cL_law 853 = .ok (.istore 6, 2) := dk_54 6 (dk_at dksL_law_32 21 rfl rfl)
theorem dL_law_855 : decode cL_law 855 = .ok (.aload_n 2, 1) := dk_44 (dk_at dksL_law_32 23 rfl rfl)
theorem dL_law_856 : decode cL_law 856 = .ok (.invokevirtual 96, 3) := dk_182 0 96 (dk_at dksL_law_33 0 rfl rfl)
theorem dL_law_859 : decode cL_law 859 = .ok (.iload 5, 2) := dk_21 5 (dk_at dksL_law_33 3 rfl rfl)
theorem dL_law_861 : decode cL_law 861 = .ok (.if_icmp .eq 5, 3) := dk_159 0 5 (dk_at dksL_law_33 5 rfl rfl)
theorem dL_law_864 : decode cL_law 864 = .ok (.iconst 0, 1) := dk_3 (dk_at dksL_law_33 8 rfl rfl)
theorem dL_law_865 : decode cL_law 865 = .ok (.ireturn, 1) := dk_172 (dk_at dksL_law_33 9 rfl rfl)
theorem dL_law_866 : decode cL_law 866 = .ok (.iload 5, 2) := dk_21 5 (dk_at dksL_law_33 10 rfl rfl)
theorem dL_law_868 : decode cL_law 868 = .ok (.ifCond .ne 15, 3) := dk_154 0 15 (dk_at dksL_law_33 12 rfl rfl)
theorem dL_law_871 : decode cL_law 871 = .ok (.aload_n 3, 1) := dk_45 (dk_at dksL_law_33 15 rfl rfl)
theorem dL_law_872 : decode cL_law 872 = .ok (.iconst 0, 1) := dk_3 (dk_at dksL_law_33 16 rfl rfl)
theorem dL_law_873 : decode cL_law 873 = .ok (.laload, 1) := dk_47 (dk_at dksL_law_33 17 rfl rfl)
theorem dL_law_874 : decode cL_law 874 = .ok (.iload 6, 2) := dk_21 6 (dk_at dksL_law_33 18 rfl rfl)
theorem dL_law_876 : decode cL_law 876 = .ok (.i2l, 1) := dk_133 (dk_at dksL_law_33 20 rfl rfl)
theorem dL_law_877 : decode cL_law 877 = .ok (.lcmp, 1) := dk_148 (dk_at dksL_law_33 21 rfl rfl)
theorem dL_law_878 : decode cL_law 878 = .ok (.ifCond .eq 5, 3) := dk_153 0 5 (dk_at dksL_law_34 0 rfl rfl)
theorem dL_law_881 : decode cL_law 881 = .ok (.iconst 0, 1) := dk_3 (dk_at dksL_law_34 3 rfl rfl)
theorem dL_law_882 : decode cL_law 882 = .ok (.ireturn, 1) := dk_172 (dk_at dksL_law_34 4 rfl rfl)
theorem dL_law_883 : decode cL_law 883 = .ok (.goto 699, 3) := dk_167 2 187 (dk_at dksL_law_34 5 rfl rfl)
theorem dL_law_886 : decode cL_law 886 = .ok (.aload_n 1, 1) := dk_43 (dk_at dksL_law_34 8 rfl rfl)
theorem dL_law_887 : decode cL_law 887 = .ok (.aload_n 0, 1) := dk_42 (dk_at dksL_law_34 9 rfl rfl)
theorem dL_law_888 : decode cL_law 888 = .ok (.iload 4, 2) := dk_21 4 (dk_at dksL_law_34 10 rfl rfl)
theorem dL_law_890 : decode cL_law 890 = .ok (.iconst 1, 1) := dk_4 (dk_at dksL_law_34 12 rfl rfl)
theorem dL_law_891 : decode cL_law 891 = .ok (.iadd, 1) := dk_96 (dk_at dksL_law_34 13 rfl rfl)
theorem dL_law_892 : decode cL_law 892 = .ok (.iaload, 1) := dk_46 (dk_at dksL_law_34 14 rfl rfl)
theorem dL_law_893 : decode cL_law 893 = .ok (.aload_n 3, 1) := dk_45 (dk_at dksL_law_34 15 rfl rfl)
theorem dL_law_894 : decode cL_law 894 = .ok (.invokestatic 133, 3) := dk_184 0 133 (dk_at dksL_law_34 16 rfl rfl)
theorem dL_law_897 : decode cL_law 897 = .ok (.istore 5, 2) := dk_54 5 (dk_at dksL_law_34 19 rfl rfl)
theorem dL_law_899 : decode cL_law 899 = .ok (.aload_n 2, 1) := dk_44 (dk_at dksL_law_34 21 rfl rfl)
theorem dL_law_900 : decode cL_law 900 = .ok (.aload_n 0, 1) := dk_42 (dk_at dksL_law_34 22 rfl rfl)
theorem dL_law_901 : decode cL_law 901 = .ok (.iload 4, 2) := dk_21 4 (dk_at dksL_law_35 0 rfl rfl)
theorem dL_law_903 : decode cL_law 903 = .ok (.iconst 1, 1) := dk_4 (dk_at dksL_law_35 2 rfl rfl)
theorem dL_law_904 : decode cL_law 904 = .ok (.iadd, 1) := dk_96 (dk_at dksL_law_35 3 rfl rfl)
theorem dL_law_905 : decode cL_law 905 = .ok (.iaload, 1) := dk_46 (dk_at dksL_law_35 4 rfl rfl)
theorem dL_law_906 : decode cL_law 906 = .ok (.invokevirtual 135, 3) := dk_182 0 135 (dk_at dksL_law_35 5 rfl rfl)
theorem dL_law_909 : decode cL_law 909 = .ok (.istore 6, 2) := dk_54 6 (dk_at dksL_law_35 8 rfl rfl)
theorem dL_law_911 : decode cL_law 911 = .ok (.aload_n 2, 1) := dk_44 (dk_at dksL_law_35 10 rfl rfl)
theorem dL_law_912 : decode cL_law 912 = .ok (.invokevirtual 96, 3) := dk_182 0 96 (dk_at dksL_law_35 11 rfl rfl)
theorem dL_law_915 : decode cL_law 915 = .ok (.iload 5, 2) := dk_21 5 (dk_at dksL_law_35 14 rfl rfl)
theorem dL_law_917 : decode cL_law 917 = .ok (.if_icmp .eq 5, 3) := dk_159 0 5 (dk_at dksL_law_35 16 rfl rfl)
theorem dL_law_920 : decode cL_law 920 = .ok (.iconst 0, 1) := dk_3 (dk_at dksL_law_35 19 rfl rfl)
theorem dL_law_921 : decode cL_law 921 = .ok (.ireturn, 1) := dk_172 (dk_at dksL_law_35 20 rfl rfl)
theorem dL_law_922 : decode cL_law 922 = .ok (.iload 5, 2) := dk_21 5 (dk_at dksL_law_35 21 rfl rfl)
theorem dL_law_924 : decode cL_law 924 = .ok (.ifCond .ne 15, 3) := dk_154 0 15 (dk_at dksL_law_36 0 rfl rfl)
theorem dL_law_927 : decode cL_law 927 = .ok (.aload_n 3, 1) := dk_45 (dk_at dksL_law_36 3 rfl rfl)
theorem dL_law_928 : decode cL_law 928 = .ok (.iconst 0, 1) := dk_3 (dk_at dksL_law_36 4 rfl rfl)
theorem dL_law_929 : decode cL_law 929 = .ok (.laload, 1) := dk_47 (dk_at dksL_law_36 5 rfl rfl)
theorem dL_law_930 : decode cL_law 930 = .ok (.iload 6, 2) := dk_21 6 (dk_at dksL_law_36 6 rfl rfl)
theorem dL_law_932 : decode cL_law 932 = .ok (.i2l, 1) := dk_133 (dk_at dksL_law_36 8 rfl rfl)
theorem dL_law_933 : decode cL_law 933 = .ok (.lcmp, 1) := dk_148 (dk_at dksL_law_36 9 rfl rfl)
theorem dL_law_934 : decode cL_law 934 = .ok (.ifCond .eq 5, 3) := dk_153 0 5 (dk_at dksL_law_36 10 rfl rfl)
theorem dL_law_937 : decode cL_law 937 = .ok (.iconst 0, 1) := dk_3 (dk_at dksL_law_36 13 rfl rfl)
theorem dL_law_938 : decode cL_law 938 = .ok (.ireturn, 1) := dk_172 (dk_at dksL_law_36 14 rfl rfl)
theorem dL_law_939 : decode cL_law 939 = .ok (.goto 643, 3) := dk_167 2 131 (dk_at dksL_law_36 15 rfl rfl)
theorem dL_law_942 : decode cL_law 942 = .ok (.aload_n 1, 1) := dk_43 (dk_at dksL_law_36 18 rfl rfl)
theorem dL_law_943 : decode cL_law 943 = .ok (.aload_n 0, 1) := dk_42 (dk_at dksL_law_36 19 rfl rfl)
theorem dL_law_944 : decode cL_law 944 = .ok (.iload 4, 2) := dk_21 4 (dk_at dksL_law_36 20 rfl rfl)
theorem dL_law_946 : decode cL_law 946 = .ok (.iconst 1, 1) := dk_4 (dk_at dksL_law_36 22 rfl rfl)
theorem dL_law_947 : decode cL_law 947 = .ok (.iadd, 1) := dk_96 (dk_at dksL_law_36 23 rfl rfl)
theorem dL_law_948 : decode cL_law 948 = .ok (.iaload, 1) := dk_46 (dk_at dksL_law_37 0 rfl rfl)
theorem dL_law_949 : decode cL_law 949 = .ok (.aload_n 3, 1) := dk_45 (dk_at dksL_law_37 1 rfl rfl)
theorem dL_law_950 : decode cL_law 950 = .ok (.invokestatic 136, 3) := dk_184 0 136 (dk_at dksL_law_37 2 rfl rfl)
theorem dL_law_953 : decode cL_law 953 = .ok (.istore 5, 2) := dk_54 5 (dk_at dksL_law_37 5 rfl rfl)
theorem dL_law_955 : decode cL_law 955 = .ok (.aload_n 2, 1) := dk_44 (dk_at dksL_law_37 7 rfl rfl)
theorem dL_law_956 : decode cL_law 956 = .ok (.aload_n 0, 1) := dk_42 (dk_at dksL_law_37 8 rfl rfl)
theorem dL_law_957 : decode cL_law 957 = .ok (.iload 4, 2) := dk_21 4 (dk_at dksL_law_37 9 rfl rfl)
theorem dL_law_959 : decode cL_law 959 = .ok (.iconst 1, 1) := dk_4 (dk_at dksL_law_37 11 rfl rfl)
theorem dL_law_960 : decode cL_law 960 = .ok (.iadd, 1) := dk_96 (dk_at dksL_law_37 12 rfl rfl)
theorem dL_law_961 : decode cL_law 961 = .ok (.iaload, 1) := dk_46 (dk_at dksL_law_37 13 rfl rfl)
theorem dL_law_962 : decode cL_law 962 = .ok (.invokevirtual 138, 3) := dk_182 0 138 (dk_at dksL_law_37 14 rfl rfl)
theorem dL_law_965 : decode cL_law 965 = .ok (.istore 6, 2) := dk_54 6 (dk_at dksL_law_37 17 rfl rfl)
theorem dL_law_967 : decode cL_law 967 = .ok (.aload_n 2, 1) := dk_44 (dk_at dksL_law_37 19 rfl rfl)
theorem dL_law_968 : decode cL_law 968 = .ok (.invokevirtual 96, 3) := dk_182 0 96 (dk_at dksL_law_37 20 rfl rfl)
theorem dL_law_971 : decode cL_law 971 = .ok (.iload 5, 2) := dk_21 5 (dk_at dksL_law_38 0 rfl rfl)
theorem dL_law_973 : decode cL_law 973 = .ok (.if_icmp .eq 5, 3) := dk_159 0 5 (dk_at dksL_law_38 2 rfl rfl)
theorem dL_law_976 : decode cL_law 976 = .ok (.iconst 0, 1) := dk_3 (dk_at dksL_law_38 5 rfl rfl)
theorem dL_law_977 : decode cL_law 977 = .ok (.ireturn, 1) := dk_172 (dk_at dksL_law_38 6 rfl rfl)
theorem dL_law_978 : decode cL_law 978 = .ok (.iload 5, 2) := dk_21 5 (dk_at dksL_law_38 7 rfl rfl)
theorem dL_law_980 : decode cL_law 980 = .ok (.ifCond .ne 15, 3) := dk_154 0 15 (dk_at dksL_law_38 9 rfl rfl)
theorem dL_law_983 : decode cL_law 983 = .ok (.aload_n 3, 1) := dk_45 (dk_at dksL_law_38 12 rfl rfl)
theorem dL_law_984 : decode cL_law 984 = .ok (.iconst 0, 1) := dk_3 (dk_at dksL_law_38 13 rfl rfl)
theorem dL_law_985 : decode cL_law 985 = .ok (.laload, 1) := dk_47 (dk_at dksL_law_38 14 rfl rfl)
theorem dL_law_986 : decode cL_law 986 = .ok (.iload 6, 2) := dk_21 6 (dk_at dksL_law_38 15 rfl rfl)
theorem dL_law_988 : decode cL_law 988 = .ok (.i2l, 1) := dk_133 (dk_at dksL_law_38 17 rfl rfl)
theorem dL_law_989 : decode cL_law 989 = .ok (.lcmp, 1) := dk_148 (dk_at dksL_law_38 18 rfl rfl)
theorem dL_law_990 : decode cL_law 990 = .ok (.ifCond .eq 5, 3) := dk_153 0 5 (dk_at dksL_law_38 19 rfl rfl)
theorem dL_law_993 : decode cL_law 993 = .ok (.iconst 0, 1) := dk_3 (dk_at dksL_law_38 22 rfl rfl)
theorem dL_law_994 : decode cL_law 994 = .ok (.ireturn, 1) := dk_172 (dk_at dksL_law_38 23 rfl rfl)
theorem dL_law_995 : decode cL_law 995 = .ok (.goto 587, 3) := dk_167 2 75 (dk_at dksL_law_39 0 rfl rfl)
theorem dL_law_998 : decode cL_law 998 = .ok (.aload_n 1, 1) := dk_43 (dk_at dksL_law_39 3 rfl rfl)
theorem dL_law_999 : decode cL_law 999 = .ok (.aload_n 0, 1) := dk_42 (dk_at dksL_law_39 4 rfl rfl)
theorem dL_law_1000 : decode cL_law 1000 = .ok (.iload 4, 2) := dk_21 4 (dk_at dksL_law_39 5 rfl rfl)
theorem dL_law_1002 : decode cL_law 1002 = .ok (.iconst 1, 1) := dk_4 (dk_at dksL_law_39 7 rfl rfl)
theorem dL_law_1003 : decode cL_law 1003 = .ok (.iadd, 1) := dk_96 (dk_at dksL_law_39 8 rfl rfl)
theorem dL_law_1004 : decode cL_law 1004 = .ok (.iaload, 1) := dk_46 (dk_at dksL_law_39 9 rfl rfl)
theorem dL_law_1005 : decode cL_law 1005 = .ok (.aload_n 3, 1) := dk_45 (dk_at dksL_law_39 10 rfl rfl)
theorem dL_law_1006 : decode cL_law 1006 = .ok (.invokestatic 139, 3) := dk_184 0 139 (dk_at dksL_law_39 11 rfl rfl)
theorem dL_law_1009 : decode cL_law 1009 = .ok (.istore 5, 2) := dk_54 5 (dk_at dksL_law_39 14 rfl rfl)
theorem dL_law_1011 : decode cL_law 1011 = .ok (.aload_n 2, 1) := dk_44 (dk_at dksL_law_39 16 rfl rfl)
theorem dL_law_1012 : decode cL_law 1012 = .ok (.aload_n 0, 1) := dk_42 (dk_at dksL_law_39 17 rfl rfl)
theorem dL_law_1013 : decode cL_law 1013 = .ok (.iload 4, 2) := dk_21 4 (dk_at dksL_law_39 18 rfl rfl)
theorem dL_law_1015 : decode cL_law 1015 = .ok (.iconst 1, 1) := dk_4 (dk_at dksL_law_39 20 rfl rfl)
theorem dL_law_1016 : decode cL_law 1016 = .ok (.iadd, 1) := dk_96 (dk_at dksL_law_39 21 rfl rfl)
theorem dL_law_1017 : decode cL_law 1017 = .ok (.iaload, 1) := dk_46 (dk_at dksL_law_39 22 rfl rfl)
theorem dL_law_1018 : decode cL_law 1018 = .ok (.invokevirtual 141, 3) := dk_182 0 141 (dk_at dksL_law_40 0 rfl rfl)
theorem dL_law_1021 : decode cL_law 1021 = .ok (.istore 6, 2) := dk_54 6 (dk_at dksL_law_40 3 rfl rfl)
theorem dL_law_1023 : decode cL_law 1023 = .ok (.aload_n 2, 1) := dk_44 (dk_at dksL_law_40 5 rfl rfl)
theorem dL_law_1024 : decode cL_law 1024 = .ok (.invokevirtual 96, 3) := dk_182 0 96 (dk_at dksL_law_40 6 rfl rfl)
theorem dL_law_1027 : decode cL_law 1027 = .ok (.iload 5, 2) := dk_21 5 (dk_at dksL_law_40 9 rfl rfl)
theorem dL_law_1029 : decode cL_law 1029 = .ok (.if_icmp .eq 5, 3) := dk_159 0 5 (dk_at dksL_law_40 11 rfl rfl)
theorem dL_law_1032 : decode cL_law 1032 = .ok (.iconst 0, 1) := dk_3 (dk_at dksL_law_40 14 rfl rfl)
theorem dL_law_1033 : decode cL_law 1033 = .ok (.ireturn, 1) := dk_172 (dk_at dksL_law_40 15 rfl rfl)
theorem dL_law_1034 : decode cL_law 1034 = .ok (.iload 5, 2) := dk_21 5 (dk_at dksL_law_40 16 rfl rfl)
theorem dL_law_1036 : decode cL_law 1036 = .ok (.ifCond .ne 15, 3) := dk_154 0 15 (dk_at dksL_law_40 18 rfl rfl)
theorem dL_law_1039 : decode cL_law 1039 = .ok (.aload_n 3, 1) := dk_45 (dk_at dksL_law_40 21 rfl rfl)
theorem dL_law_1040 : decode cL_law 1040 = .ok (.iconst 0, 1) := dk_3 (dk_at dksL_law_40 22 rfl rfl)
theorem dL_law_1041 : decode cL_law 1041 = .ok (.laload, 1) := dk_47 (dk_at dksL_law_40 23 rfl rfl)
theorem dL_law_1042 : decode cL_law 1042 = .ok (.iload 6, 2) := dk_21 6 (dk_at dksL_law_41 0 rfl rfl)
theorem dL_law_1044 : decode cL_law 1044 = .ok (.i2l, 1) := dk_133 (dk_at dksL_law_41 2 rfl rfl)
theorem dL_law_1045 : decode cL_law 1045 = .ok (.lcmp, 1) := dk_148 (dk_at dksL_law_41 3 rfl rfl)
theorem dL_law_1046 : decode cL_law 1046 = .ok (.ifCond .eq 5, 3) := dk_153 0 5 (dk_at dksL_law_41 4 rfl rfl)
theorem dL_law_1049 : decode cL_law 1049 = .ok (.iconst 0, 1) := dk_3 (dk_at dksL_law_41 7 rfl rfl)
theorem dL_law_1050 : decode cL_law 1050 = .ok (.ireturn, 1) := dk_172 (dk_at dksL_law_41 8 rfl rfl)
theorem dL_law_1051 : decode cL_law 1051 = .ok (.goto 531, 3) := dk_167 2 19 (dk_at dksL_law_41 9 rfl rfl)
theorem dL_law_1054 : decode cL_law 1054 = .ok (.aload_n 1, 1) := dk_43 (dk_at dksL_law_41 12 rfl rfl)
theorem dL_law_1055 : decode cL_law 1055 = .ok (.aload_n 0, 1) := dk_42 (dk_at dksL_law_41 13 rfl rfl)
theorem dL_law_1056 : decode cL_law 1056 = .ok (.iload 4, 2) := dk_21 4 (dk_at dksL_law_41 14 rfl rfl)
theorem dL_law_1058 : decode cL_law 1058 = .ok (.iconst 1, 1) := dk_4 (dk_at dksL_law_41 16 rfl rfl)
theorem dL_law_1059 : decode cL_law 1059 = .ok (.iadd, 1) := dk_96 (dk_at dksL_law_41 17 rfl rfl)
theorem dL_law_1060 : decode cL_law 1060 = .ok (.iaload, 1) := dk_46 (dk_at dksL_law_41 18 rfl rfl)
theorem dL_law_1061 : decode cL_law 1061 = .ok (.aload_n 3, 1) := dk_45 (dk_at dksL_law_41 19 rfl rfl)
theorem dL_law_1062 : decode cL_law 1062 = .ok (.invokestatic 142, 3) := dk_184 0 142 (dk_at dksL_law_41 20 rfl rfl)
theorem dL_law_1065 : decode cL_law 1065 = .ok (.istore 5, 2) := dk_54 5 (dk_at dksL_law_42 0 rfl rfl)
theorem dL_law_1067 : decode cL_law 1067 = .ok (.aload_n 2, 1) := dk_44 (dk_at dksL_law_42 2 rfl rfl)
theorem dL_law_1068 : decode cL_law 1068 = .ok (.aload_n 0, 1) := dk_42 (dk_at dksL_law_42 3 rfl rfl)
theorem dL_law_1069 : decode cL_law 1069 = .ok (.iload 4, 2) := dk_21 4 (dk_at dksL_law_42 4 rfl rfl)
theorem dL_law_1071 : decode cL_law 1071 = .ok (.iconst 1, 1) := dk_4 (dk_at dksL_law_42 6 rfl rfl)
theorem dL_law_1072 : decode cL_law 1072 = .ok (.iadd, 1) := dk_96 (dk_at dksL_law_42 7 rfl rfl)
theorem dL_law_1073 : decode cL_law 1073 = .ok (.iaload, 1) := dk_46 (dk_at dksL_law_42 8 rfl rfl)
theorem dL_law_1074 : decode cL_law 1074 = .ok (.invokevirtual 144, 3) := dk_182 0 144 (dk_at dksL_law_42 9 rfl rfl)
theorem dL_law_1077 : decode cL_law 1077 = .ok (.istore 6, 2) := dk_54 6 (dk_at dksL_law_42 12 rfl rfl)
theorem dL_law_1079 : decode cL_law 1079 = .ok (.aload_n 2, 1) := dk_44 (dk_at dksL_law_42 14 rfl rfl)
theorem dL_law_1080 : decode cL_law 1080 = .ok (.invokevirtual 96, 3) := dk_182 0 96 (dk_at dksL_law_42 15 rfl rfl)
theorem dL_law_1083 : decode cL_law 1083 = .ok (.iload 5, 2) := dk_21 5 (dk_at dksL_law_42 18 rfl rfl)
theorem dL_law_1085 : decode cL_law 1085 = .ok (.if_icmp .eq 5, 3) := dk_159 0 5 (dk_at dksL_law_42 20 rfl rfl)
theorem dL_law_1088 : decode cL_law 1088 = .ok (.iconst 0, 1) := dk_3 (dk_at dksL_law_42 23 rfl rfl)
theorem dL_law_1089 : decode cL_law 1089 = .ok (.ireturn, 1) := dk_172 (dk_at dksL_law_43 0 rfl rfl)
theorem dL_law_1090 : decode cL_law 1090 = .ok (.iload 5, 2) := dk_21 5 (dk_at dksL_law_43 1 rfl rfl)
theorem dL_law_1092 : decode cL_law 1092 = .ok (.ifCond .ne 15, 3) := dk_154 0 15 (dk_at dksL_law_43 3 rfl rfl)
theorem dL_law_1095 : decode cL_law 1095 = .ok (.aload_n 3, 1) := dk_45 (dk_at dksL_law_43 6 rfl rfl)
theorem dL_law_1096 : decode cL_law 1096 = .ok (.iconst 0, 1) := dk_3 (dk_at dksL_law_43 7 rfl rfl)
theorem dL_law_1097 : decode cL_law 1097 = .ok (.laload, 1) := dk_47 (dk_at dksL_law_43 8 rfl rfl)
theorem dL_law_1098 : decode cL_law 1098 = .ok (.iload 6, 2) := dk_21 6 (dk_at dksL_law_43 9 rfl rfl)
theorem dL_law_1100 : decode cL_law 1100 = .ok (.i2l, 1) := dk_133 (dk_at dksL_law_43 11 rfl rfl)
theorem dL_law_1101 : decode cL_law 1101 = .ok (.lcmp, 1) := dk_148 (dk_at dksL_law_43 12 rfl rfl)
theorem dL_law_1102 : decode cL_law 1102 = .ok (.ifCond .eq 5, 3) := dk_153 0 5 (dk_at dksL_law_43 13 rfl rfl)
theorem dL_law_1105 : decode cL_law 1105 = .ok (.iconst 0, 1) := dk_3 (dk_at dksL_law_43 16 rfl rfl)
theorem dL_law_1106 : decode cL_law 1106 = .ok (.ireturn, 1) := dk_172 (dk_at dksL_law_43 17 rfl rfl)
theorem dL_law_1107 : decode cL_law 1107 = .ok (.goto 475, 3) := dk_167 1 219 (dk_at dksL_law_43 18 rfl rfl)
theorem dL_law_1110 : decode cL_law 1110 = .ok (.aload_n 1, 1) := dk_43 (dk_at dksL_law_43 21 rfl rfl)
theorem dL_law_1111 : decode cL_law 1111 = .ok (.invokevirtual 145, 3) := dk_182 0 145 (dk_at dksL_law_44 0 rfl rfl)
theorem dL_law_1114 : decode cL_law 1114 = .ok (.aload_n 2, 1) := dk_44 (dk_at dksL_law_44 3 rfl rfl)
theorem dL_law_1115 : decode cL_law 1115 = .ok (.invokevirtual 148, 3) := dk_182 0 148 (dk_at dksL_law_44 4 rfl rfl)
theorem dL_law_1118 : decode cL_law 1118 = .ok (.if_icmp .eq 464, 3) := dk_159 1 208 (dk_at dksL_law_44 7 rfl rfl)
theorem dL_law_1121 : decode cL_law 1121 = .ok (.iconst 0, 1) := dk_3 (dk_at dksL_law_44 10 rfl rfl)
theorem dL_law_1122 : decode cL_law 1122 = .ok (.ireturn, 1) := dk_172 (dk_at dksL_law_44 11 rfl rfl)
theorem dL_law_1123 : decode cL_law 1123 = .ok (.aload_n 1, 1) := dk_43 (dk_at dksL_law_44 12 rfl rfl)
theorem dL_law_1124 : decode cL_law 1124 = .ok (.aload_n 0, 1) := dk_42 (dk_at dksL_law_44 13 rfl rfl)
theorem dL_law_1125 : decode cL_law 1125 = .ok (.iload 4, 2) := dk_21 4 (dk_at dksL_law_44 14 rfl rfl)
theorem dL_law_1127 : decode cL_law 1127 = .ok (.iconst 1, 1) := dk_4 (dk_at dksL_law_44 16 rfl rfl)
theorem dL_law_1128 : decode cL_law 1128 = .ok (.iadd, 1) := dk_96 (dk_at dksL_law_44 17 rfl rfl)
theorem dL_law_1129 : decode cL_law 1129 = .ok (.iaload, 1) := dk_46 (dk_at dksL_law_44 18 rfl rfl)
theorem dL_law_1130 : decode cL_law 1130 = .ok (.aload_n 0, 1) := dk_42 (dk_at dksL_law_44 19 rfl rfl)
theorem dL_law_1131 : decode cL_law 1131 = .ok (.iload 4, 2) := dk_21 4 (dk_at dksL_law_44 20 rfl rfl)
theorem dL_law_1133 : decode cL_law 1133 = .ok (.iconst 2, 1) := dk_5 (dk_at dksL_law_44 22 rfl rfl)
theorem dL_law_1134 : decode cL_law 1134 = .ok (.iadd, 1) := dk_96 (dk_at dksL_law_44 23 rfl rfl)
theorem dL_law_1135 : decode cL_law 1135 = .ok (.iaload, 1) := dk_46 (dk_at dksL_law_45 0 rfl rfl)
theorem dL_law_1136 : decode cL_law 1136 = .ok (.aload_n 0, 1) := dk_42 (dk_at dksL_law_45 1 rfl rfl)
theorem dL_law_1137 : decode cL_law 1137 = .ok (.iload 4, 2) := dk_21 4 (dk_at dksL_law_45 2 rfl rfl)
theorem dL_law_1139 : decode cL_law 1139 = .ok (.iconst 3, 1) := dk_6 (dk_at dksL_law_45 4 rfl rfl)
theorem dL_law_1140 : decode cL_law 1140 = .ok (.iadd, 1) := dk_96 (dk_at dksL_law_45 5 rfl rfl)
theorem dL_law_1141 : decode cL_law 1141 = .ok (.iaload, 1) := dk_46 (dk_at dksL_law_45 6 rfl rfl)
theorem dL_law_1142 : decode cL_law 1142 = .ok (.aload_n 3, 1) := dk_45 (dk_at dksL_law_45 7 rfl rfl)
theorem dL_law_1143 : decode cL_law 1143 = .ok (.invokestatic 149, 3) := dk_184 0 149 (dk_at dksL_law_45 8 rfl rfl)
theorem dL_law_1146 : decode cL_law 1146 = .ok (.istore 5, 2) := dk_54 5 (dk_at dksL_law_45 11 rfl rfl)
theorem dL_law_1148 : decode cL_law 1148 = .ok (.aload_n 2, 1) := dk_44 (dk_at dksL_law_45 13 rfl rfl)
theorem dL_law_1149 : decode cL_law 1149 = .ok (.aload_n 0, 1) := dk_42 (dk_at dksL_law_45 14 rfl rfl)
theorem dL_law_1150 : decode cL_law 1150 = .ok (.iload 4, 2) := dk_21 4 (dk_at dksL_law_45 15 rfl rfl)
theorem dL_law_1152 : decode cL_law 1152 = .ok (.iconst 1, 1) := dk_4 (dk_at dksL_law_45 17 rfl rfl)
theorem dL_law_1153 : decode cL_law 1153 = .ok (.iadd, 1) := dk_96 (dk_at dksL_law_45 18 rfl rfl)
theorem dL_law_1154 : decode cL_law 1154 = .ok (.iaload, 1) := dk_46 (dk_at dksL_law_45 19 rfl rfl)
theorem dL_law_1155 : decode cL_law 1155 = .ok (.aload_n 0, 1) := dk_42 (dk_at dksL_law_45 20 rfl rfl)
theorem dL_law_1156 : decode cL_law 1156 = .ok (.iload 4, 2) := dk_21 4 (dk_at dksL_law_45 21 rfl rfl)
theorem dL_law_1158 : decode cL_law 1158 = .ok (.iconst 2, 1) := dk_5 (dk_at dksL_law_45 23 rfl rfl)
theorem dL_law_1159 : decode cL_law 1159 = .ok (.iadd, 1) := dk_96 (dk_at dksL_law_46 0 rfl rfl)
theorem dL_law_1160 : decode cL_law 1160 = .ok (.iaload, 1) := dk_46 (dk_at dksL_law_46 1 rfl rfl)
theorem dL_law_1161 : decode cL_law 1161 = .ok (.aload_n 0, 1) := dk_42 (dk_at dksL_law_46 2 rfl rfl)
theorem dL_law_1162 : decode cL_law 1162 = .ok (.iload 4, 2) := dk_21 4 (dk_at dksL_law_46 3 rfl rfl)
theorem dL_law_1164 : decode cL_law 1164 = .ok (.iconst 3, 1) := dk_6 (dk_at dksL_law_46 5 rfl rfl)
theorem dL_law_1165 : decode cL_law 1165 = .ok (.iadd, 1) := dk_96 (dk_at dksL_law_46 6 rfl rfl)
theorem dL_law_1166 : decode cL_law 1166 = .ok (.iaload, 1) := dk_46 (dk_at dksL_law_46 7 rfl rfl)
theorem dL_law_1167 : decode cL_law 1167 = .ok (.invokevirtual 151, 3) := dk_182 0 151 (dk_at dksL_law_46 8 rfl rfl)
theorem dL_law_1170 : decode cL_law 1170 = .ok (.istore 6, 2) := dk_54 6 (dk_at dksL_law_46 11 rfl rfl)
theorem dL_law_1172 : decode cL_law 1172 = .ok (.aload_n 2, 1) := dk_44 (dk_at dksL_law_46 13 rfl rfl)
theorem dL_law_1173 : decode cL_law 1173 = .ok (.invokevirtual 96, 3) := dk_182 0 96 (dk_at dksL_law_46 14 rfl rfl)
theorem dL_law_1176 : decode cL_law 1176 = .ok (.iload 5, 2) := dk_21 5 (dk_at dksL_law_46 17 rfl rfl)
theorem dL_law_1178 : decode cL_law 1178 = .ok (.if_icmp .eq 5, 3) := dk_159 0 5 (dk_at dksL_law_46 19 rfl rfl)
theorem dL_law_1181 : decode cL_law 1181 = .ok (.iconst 0, 1) := dk_3 (dk_at dksL_law_46 22 rfl rfl)
theorem dL_law_1182 : decode cL_law 1182 = .ok (.ireturn, 1) := dk_172 (dk_at dksL_law_46 23 rfl rfl)
theorem dL_law_1183 : decode cL_law 1183 = .ok (.iload 5, 2) := dk_21 5 (dk_at dksL_law_47 0 rfl rfl)
theorem dL_law_1185 : decode cL_law 1185 = .ok (.ifCond .ne 15, 3) := dk_154 0 15 (dk_at dksL_law_47 2 rfl rfl)
theorem dL_law_1188 : decode cL_law 1188 = .ok (.aload_n 3, 1) := dk_45 (dk_at dksL_law_47 5 rfl rfl)
theorem dL_law_1189 : decode cL_law 1189 = .ok (.iconst 0, 1) := dk_3 (dk_at dksL_law_47 6 rfl rfl)
theorem dL_law_1190 : decode cL_law 1190 = .ok (.laload, 1) := dk_47 (dk_at dksL_law_47 7 rfl rfl)
theorem dL_law_1191 : decode cL_law 1191 = .ok (.iload 6, 2) := dk_21 6 (dk_at dksL_law_47 8 rfl rfl)
theorem dL_law_1193 : decode cL_law 1193 = .ok (.i2l, 1) := dk_133 (dk_at dksL_law_47 10 rfl rfl)
theorem dL_law_1194 : decode cL_law 1194 = .ok (.lcmp, 1) := dk_148 (dk_at dksL_law_47 11 rfl rfl)
theorem dL_law_1195 : decode cL_law 1195 = .ok (.ifCond .eq 5, 3) := dk_153 0 5 (dk_at dksL_law_47 12 rfl rfl)
theorem dL_law_1198 : decode cL_law 1198 = .ok (.iconst 0, 1) := dk_3 (dk_at dksL_law_47 15 rfl rfl)
theorem dL_law_1199 : decode cL_law 1199 = .ok (.ireturn, 1) := dk_172 (dk_at dksL_law_47 16 rfl rfl)
theorem dL_law_1200 : decode cL_law 1200 = .ok (.goto 382, 3) := dk_167 1 126 (dk_at dksL_law_47 17 rfl rfl)
theorem dL_law_1203 : decode cL_law 1203 = .ok (.aload_n 1, 1) := dk_43 (dk_at dksL_law_47 20 rfl rfl)
theorem dL_law_1204 : decode cL_law 1204 = .ok (.aload_n 0, 1) := dk_42 (dk_at dksL_law_47 21 rfl rfl)
theorem dL_law_1205 : decode cL_law 1205 = .ok (.iload 4, 2) := dk_21 4 (dk_at dksL_law_47 22 rfl rfl)
theorem dL_law_1207 : decode cL_law 1207 = .ok (.iconst 1, 1) := dk_4 (dk_at dksL_law_48 0 rfl rfl)
theorem dL_law_1208 : decode cL_law 1208 = .ok (.iadd, 1) := dk_96 (dk_at dksL_law_48 1 rfl rfl)
theorem dL_law_1209 : decode cL_law 1209 = .ok (.iaload, 1) := dk_46 (dk_at dksL_law_48 2 rfl rfl)
theorem dL_law_1210 : decode cL_law 1210 = .ok (.aload_n 0, 1) := dk_42 (dk_at dksL_law_48 3 rfl rfl)
theorem dL_law_1211 : decode cL_law 1211 = .ok (.iload 4, 2) := dk_21 4 (dk_at dksL_law_48 4 rfl rfl)
theorem dL_law_1213 : decode cL_law 1213 = .ok (.iconst 2, 1) := dk_5 (dk_at dksL_law_48 6 rfl rfl)
theorem dL_law_1214 : decode cL_law 1214 = .ok (.iadd, 1) := dk_96 (dk_at dksL_law_48 7 rfl rfl)
theorem dL_law_1215 : decode cL_law 1215 = .ok (.iaload, 1) := dk_46 (dk_at dksL_law_48 8 rfl rfl)
theorem dL_law_1216 : decode cL_law 1216 = .ok (.aload_n 0, 1) := dk_42 (dk_at dksL_law_48 9 rfl rfl)
theorem dL_law_1217 : decode cL_law 1217 = .ok (.iload 4, 2) := dk_21 4 (dk_at dksL_law_48 10 rfl rfl)
theorem dL_law_1219 : decode cL_law 1219 = .ok (.iconst 3, 1) := dk_6 (dk_at dksL_law_48 12 rfl rfl)
theorem dL_law_1220 : decode cL_law 1220 = .ok (.iadd, 1) := dk_96 (dk_at dksL_law_48 13 rfl rfl)
theorem dL_law_1221 : decode cL_law 1221 = .ok (.iaload, 1) := dk_46 (dk_at dksL_law_48 14 rfl rfl)
theorem dL_law_1222 : decode cL_law 1222 = .ok (.aload_n 3, 1) := dk_45 (dk_at dksL_law_48 15 rfl rfl)
theorem dL_law_1223 : decode cL_law 1223 = .ok (.invokestatic 152, 3) := dk_184 0 152 (dk_at dksL_law_48 16 rfl rfl)
theorem dL_law_1226 : decode cL_law 1226 = .ok (.istore 5, 2) := dk_54 5 (dk_at dksL_law_48 19 rfl rfl)
theorem dL_law_1228 : decode cL_law 1228 = .ok (.aload_n 2, 1) := dk_44 (dk_at dksL_law_48 21 rfl rfl)
theorem dL_law_1229 : decode cL_law 1229 = .ok (.aload_n 0, 1) := dk_42 (dk_at dksL_law_48 22 rfl rfl)
theorem dL_law_1230 : decode cL_law 1230 = .ok (.iload 4, 2) := dk_21 4 (dk_at dksL_law_49 0 rfl rfl)
theorem dL_law_1232 : decode cL_law 1232 = .ok (.iconst 1, 1) := dk_4 (dk_at dksL_law_49 2 rfl rfl)
theorem dL_law_1233 : decode cL_law 1233 = .ok (.iadd, 1) := dk_96 (dk_at dksL_law_49 3 rfl rfl)
theorem dL_law_1234 : decode cL_law 1234 = .ok (.iaload, 1) := dk_46 (dk_at dksL_law_49 4 rfl rfl)
theorem dL_law_1235 : decode cL_law 1235 = .ok (.aload_n 0, 1) := dk_42 (dk_at dksL_law_49 5 rfl rfl)
theorem dL_law_1236 : decode cL_law 1236 = .ok (.iload 4, 2) := dk_21 4 (dk_at dksL_law_49 6 rfl rfl)
theorem dL_law_1238 : decode cL_law 1238 = .ok (.iconst 2, 1) := dk_5 (dk_at dksL_law_49 8 rfl rfl)
theorem dL_law_1239 : decode cL_law 1239 = .ok (.iadd, 1) := dk_96 (dk_at dksL_law_49 9 rfl rfl)
theorem dL_law_1240 : decode cL_law 1240 = .ok (.iaload, 1) := dk_46 (dk_at dksL_law_49 10 rfl rfl)
theorem dL_law_1241 : decode cL_law 1241 = .ok (.aload_n 0, 1) := dk_42 (dk_at dksL_law_49 11 rfl rfl)
theorem dL_law_1242 : decode cL_law 1242 = .ok (.iload 4, 2) := dk_21 4 (dk_at dksL_law_49 12 rfl rfl)
theorem dL_law_1244 : decode cL_law 1244 = .ok (.iconst 3, 1) := dk_6 (dk_at dksL_law_49 14 rfl rfl)
theorem dL_law_1245 : decode cL_law 1245 = .ok (.iadd, 1) := dk_96 (dk_at dksL_law_49 15 rfl rfl)
theorem dL_law_1246 : decode cL_law 1246 = .ok (.iaload, 1) := dk_46 (dk_at dksL_law_49 16 rfl rfl)
theorem dL_law_1247 : decode cL_law 1247 = .ok (.invokevirtual 154, 3) := dk_182 0 154 (dk_at dksL_law_49 17 rfl rfl)
theorem dL_law_1250 : decode cL_law 1250 = .ok (.istore 6, 2) := dk_54 6 (dk_at dksL_law_49 20 rfl rfl)
theorem dL_law_1252 : decode cL_law 1252 = .ok (.aload_n 2, 1) := dk_44 (dk_at dksL_law_49 22 rfl rfl)
theorem dL_law_1253 : decode cL_law 1253 = .ok (.invokevirtual 96, 3) := dk_182 0 96 (dk_at dksL_law_50 0 rfl rfl)
theorem dL_law_1256 : decode cL_law 1256 = .ok (.iload 5, 2) := dk_21 5 (dk_at dksL_law_50 3 rfl rfl)
theorem dL_law_1258 : decode cL_law 1258 = .ok (.if_icmp .eq 5, 3) := dk_159 0 5 (dk_at dksL_law_50 5 rfl rfl)
theorem dL_law_1261 : decode cL_law 1261 = .ok (.iconst 0, 1) := dk_3 (dk_at dksL_law_50 8 rfl rfl)
theorem dL_law_1262 : decode cL_law 1262 = .ok (.ireturn, 1) := dk_172 (dk_at dksL_law_50 9 rfl rfl)
theorem dL_law_1263 : decode cL_law 1263 = .ok (.iload 5, 2) := dk_21 5 (dk_at dksL_law_50 10 rfl rfl)
theorem dL_law_1265 : decode cL_law 1265 = .ok (.ifCond .ne 15, 3) := dk_154 0 15 (dk_at dksL_law_50 12 rfl rfl)
theorem dL_law_1268 : decode cL_law 1268 = .ok (.aload_n 3, 1) := dk_45 (dk_at dksL_law_50 15 rfl rfl)
theorem dL_law_1269 : decode cL_law 1269 = .ok (.iconst 0, 1) := dk_3 (dk_at dksL_law_50 16 rfl rfl)
theorem dL_law_1270 : decode cL_law 1270 = .ok (.laload, 1) := dk_47 (dk_at dksL_law_50 17 rfl rfl)
theorem dL_law_1271 : decode cL_law 1271 = .ok (.iload 6, 2) := dk_21 6 (dk_at dksL_law_50 18 rfl rfl)
theorem dL_law_1273 : decode cL_law 1273 = .ok (.i2l, 1) := dk_133 (dk_at dksL_law_50 20 rfl rfl)
theorem dL_law_1274 : decode cL_law 1274 = .ok (.lcmp, 1) := dk_148 (dk_at dksL_law_50 21 rfl rfl)
theorem dL_law_1275 : decode cL_law 1275 = .ok (.ifCond .eq 5, 3) := dk_153 0 5 (dk_at dksL_law_51 0 rfl rfl)
theorem dL_law_1278 : decode cL_law 1278 = .ok (.iconst 0, 1) := dk_3 (dk_at dksL_law_51 3 rfl rfl)
theorem dL_law_1279 : decode cL_law 1279 = .ok (.ireturn, 1) := dk_172 (dk_at dksL_law_51 4 rfl rfl)
theorem dL_law_1280 : decode cL_law 1280 = .ok (.goto 302, 3) := dk_167 1 46 (dk_at dksL_law_51 5 rfl rfl)
theorem dL_law_1283 : decode cL_law 1283 = .ok (.aload_n 1, 1) := dk_43 (dk_at dksL_law_51 8 rfl rfl)
theorem dL_law_1284 : decode cL_law 1284 = .ok (.aload_n 0, 1) := dk_42 (dk_at dksL_law_51 9 rfl rfl)
theorem dL_law_1285 : decode cL_law 1285 = .ok (.iload 4, 2) := dk_21 4 (dk_at dksL_law_51 10 rfl rfl)
theorem dL_law_1287 : decode cL_law 1287 = .ok (.iconst 1, 1) := dk_4 (dk_at dksL_law_51 12 rfl rfl)
theorem dL_law_1288 : decode cL_law 1288 = .ok (.iadd, 1) := dk_96 (dk_at dksL_law_51 13 rfl rfl)
theorem dL_law_1289 : decode cL_law 1289 = .ok (.iaload, 1) := dk_46 (dk_at dksL_law_51 14 rfl rfl)
theorem dL_law_1290 : decode cL_law 1290 = .ok (.aload_n 3, 1) := dk_45 (dk_at dksL_law_51 15 rfl rfl)
theorem dL_law_1291 : decode cL_law 1291 = .ok (.invokestatic 155, 3) := dk_184 0 155 (dk_at dksL_law_51 16 rfl rfl)
theorem dL_law_1294 : decode cL_law 1294 = .ok (.istore 5, 2) := dk_54 5 (dk_at dksL_law_51 19 rfl rfl)
theorem dL_law_1296 : decode cL_law 1296 = .ok (.aload_n 2, 1) := dk_44 (dk_at dksL_law_51 21 rfl rfl)
theorem dL_law_1297 : decode cL_law 1297 = .ok (.aload_n 0, 1) := dk_42 (dk_at dksL_law_51 22 rfl rfl)
theorem dL_law_1298 : decode cL_law 1298 = .ok (.iload 4, 2) := dk_21 4 (dk_at dksL_law_52 0 rfl rfl)
theorem dL_law_1300 : decode cL_law 1300 = .ok (.iconst 1, 1) := dk_4 (dk_at dksL_law_52 2 rfl rfl)
theorem dL_law_1301 : decode cL_law 1301 = .ok (.iadd, 1) := dk_96 (dk_at dksL_law_52 3 rfl rfl)
theorem dL_law_1302 : decode cL_law 1302 = .ok (.iaload, 1) := dk_46 (dk_at dksL_law_52 4 rfl rfl)
theorem dL_law_1303 : decode cL_law 1303 = .ok (.invokevirtual 157, 3) := dk_182 0 157 (dk_at dksL_law_52 5 rfl rfl)
theorem dL_law_1306 : decode cL_law 1306 = .ok (.istore 6, 2) := dk_54 6 (dk_at dksL_law_52 8 rfl rfl)
theorem dL_law_1308 : decode cL_law 1308 = .ok (.aload_n 2, 1) := dk_44 (dk_at dksL_law_52 10 rfl rfl)
theorem dL_law_1309 : decode cL_law 1309 = .ok (.invokevirtual 96, 3) := dk_182 0 96 (dk_at dksL_law_52 11 rfl rfl)
theorem dL_law_1312 : decode cL_law 1312 = .ok (.iload 5, 2) := dk_21 5 (dk_at dksL_law_52 14 rfl rfl)
theorem dL_law_1314 : decode cL_law 1314 = .ok (.if_icmp .eq 5, 3) := dk_159 0 5 (dk_at dksL_law_52 16 rfl rfl)
theorem dL_law_1317 : decode cL_law 1317 = .ok (.iconst 0, 1) := dk_3 (dk_at dksL_law_52 19 rfl rfl)
theorem dL_law_1318 : decode cL_law 1318 = .ok (.ireturn, 1) := dk_172 (dk_at dksL_law_52 20 rfl rfl)
theorem dL_law_1319 : decode cL_law 1319 = .ok (.iload 5, 2) := dk_21 5 (dk_at dksL_law_52 21 rfl rfl)
theorem dL_law_1321 : decode cL_law 1321 = .ok (.ifCond .ne 15, 3) := dk_154 0 15 (dk_at dksL_law_53 0 rfl rfl)
theorem dL_law_1324 : decode cL_law 1324 = .ok (.aload_n 3, 1) := dk_45 (dk_at dksL_law_53 3 rfl rfl)
theorem dL_law_1325 : decode cL_law 1325 = .ok (.iconst 0, 1) := dk_3 (dk_at dksL_law_53 4 rfl rfl)
theorem dL_law_1326 : decode cL_law 1326 = .ok (.laload, 1) := dk_47 (dk_at dksL_law_53 5 rfl rfl)
theorem dL_law_1327 : decode cL_law 1327 = .ok (.iload 6, 2) := dk_21 6 (dk_at dksL_law_53 6 rfl rfl)
theorem dL_law_1329 : decode cL_law 1329 = .ok (.i2l, 1) := dk_133 (dk_at dksL_law_53 8 rfl rfl)
theorem dL_law_1330 : decode cL_law 1330 = .ok (.lcmp, 1) := dk_148 (dk_at dksL_law_53 9 rfl rfl)
theorem dL_law_1331 : decode cL_law 1331 = .ok (.ifCond .eq 5, 3) := dk_153 0 5 (dk_at dksL_law_53 10 rfl rfl)
theorem dL_law_1334 : decode cL_law 1334 = .ok (.iconst 0, 1) := dk_3 (dk_at dksL_law_53 13 rfl rfl)
theorem dL_law_1335 : decode cL_law 1335 = .ok (.ireturn, 1) := dk_172 (dk_at dksL_law_53 14 rfl rfl)
theorem dL_law_1336 : decode cL_law 1336 = .ok (.goto 246, 3) := dk_167 0 246 (dk_at dksL_law_53 15 rfl rfl)
theorem dL_law_1339 : decode cL_law 1339 = .ok (.aload_n 1, 1) := dk_43 (dk_at dksL_law_53 18 rfl rfl)
theorem dL_law_1340 : decode cL_law 1340 = .ok (.aload_n 0, 1) := dk_42 (dk_at dksL_law_53 19 rfl rfl)
theorem dL_law_1341 : decode cL_law 1341 = .ok (.iload 4, 2) := dk_21 4 (dk_at dksL_law_53 20 rfl rfl)
theorem dL_law_1343 : decode cL_law 1343 = .ok (.iconst 1, 1) := dk_4 (dk_at dksL_law_53 22 rfl rfl)
theorem dL_law_1344 : decode cL_law 1344 = .ok (.iadd, 1) := dk_96 (dk_at dksL_law_53 23 rfl rfl)
theorem dL_law_1345 : decode cL_law 1345 = .ok (.iaload, 1) := dk_46 (dk_at dksL_law_54 0 rfl rfl)
theorem dL_law_1346 : decode cL_law 1346 = .ok (.aload_n 0, 1) := dk_42 (dk_at dksL_law_54 1 rfl rfl)
theorem dL_law_1347 : decode cL_law 1347 = .ok (.iload 4, 2) := dk_21 4 (dk_at dksL_law_54 2 rfl rfl)
theorem dL_law_1349 : decode cL_law 1349 = .ok (.iconst 2, 1) := dk_5 (dk_at dksL_law_54 4 rfl rfl)
theorem dL_law_1350 : decode cL_law 1350 = .ok (.iadd, 1) := dk_96 (dk_at dksL_law_54 5 rfl rfl)
theorem dL_law_1351 : decode cL_law 1351 = .ok (.iaload, 1) := dk_46 (dk_at dksL_law_54 6 rfl rfl)
theorem dL_law_1352 : decode cL_law 1352 = .ok (.aload_n 0, 1) := dk_42 (dk_at dksL_law_54 7 rfl rfl)
theorem dL_law_1353 : decode cL_law 1353 = .ok (.iload 4, 2) := dk_21 4 (dk_at dksL_law_54 8 rfl rfl)
theorem dL_law_1355 : decode cL_law 1355 = .ok (.iconst 3, 1) := dk_6 (dk_at dksL_law_54 10 rfl rfl)
theorem dL_law_1356 : decode cL_law 1356 = .ok (.iadd, 1) := dk_96 (dk_at dksL_law_54 11 rfl rfl)
theorem dL_law_1357 : decode cL_law 1357 = .ok (.iaload, 1) := dk_46 (dk_at dksL_law_54 12 rfl rfl)
theorem dL_law_1358 : decode cL_law 1358 = .ok (.aload_n 0, 1) := dk_42 (dk_at dksL_law_54 13 rfl rfl)
theorem dL_law_1359 : decode cL_law 1359 = .ok (.iload 4, 2) := dk_21 4 (dk_at dksL_law_54 14 rfl rfl)
theorem dL_law_1361 : decode cL_law 1361 = .ok (.iconst 4, 1) := dk_7 (dk_at dksL_law_54 16 rfl rfl)
theorem dL_law_1362 : decode cL_law 1362 = .ok (.iadd, 1) := dk_96 (dk_at dksL_law_54 17 rfl rfl)
theorem dL_law_1363 : decode cL_law 1363 = .ok (.iaload, 1) := dk_46 (dk_at dksL_law_54 18 rfl rfl)
theorem dL_law_1364 : decode cL_law 1364 = .ok (.aload_n 3, 1) := dk_45 (dk_at dksL_law_54 19 rfl rfl)
theorem dL_law_1365 : decode cL_law 1365 = .ok (.invokestatic 158, 3) := dk_184 0 158 (dk_at dksL_law_54 20 rfl rfl)
theorem dL_law_1368 : decode cL_law 1368 = .ok (.istore 5, 2) := dk_54 5 (dk_at dksL_law_55 0 rfl rfl)
theorem dL_law_1370 : decode cL_law 1370 = .ok (.aload_n 2, 1) := dk_44 (dk_at dksL_law_55 2 rfl rfl)
theorem dL_law_1371 : decode cL_law 1371 = .ok (.aload_n 0, 1) := dk_42 (dk_at dksL_law_55 3 rfl rfl)
theorem dL_law_1372 : decode cL_law 1372 = .ok (.iload 4, 2) := dk_21 4 (dk_at dksL_law_55 4 rfl rfl)
theorem dL_law_1374 : decode cL_law 1374 = .ok (.iconst 1, 1) := dk_4 (dk_at dksL_law_55 6 rfl rfl)
theorem dL_law_1375 : decode cL_law 1375 = .ok (.iadd, 1) := dk_96 (dk_at dksL_law_55 7 rfl rfl)
theorem dL_law_1376 : decode cL_law 1376 = .ok (.iaload, 1) := dk_46 (dk_at dksL_law_55 8 rfl rfl)
theorem dL_law_1377 : decode cL_law 1377 = .ok (.aload_n 0, 1) := dk_42 (dk_at dksL_law_55 9 rfl rfl)
theorem dL_law_1378 : decode cL_law 1378 = .ok (.iload 4, 2) := dk_21 4 (dk_at dksL_law_55 10 rfl rfl)
theorem dL_law_1380 : decode cL_law 1380 = .ok (.iconst 2, 1) := dk_5 (dk_at dksL_law_55 12 rfl rfl)
theorem dL_law_1381 : decode cL_law 1381 = .ok (.iadd, 1) := dk_96 (dk_at dksL_law_55 13 rfl rfl)
theorem dL_law_1382 : decode cL_law 1382 = .ok (.iaload, 1) := dk_46 (dk_at dksL_law_55 14 rfl rfl)
theorem dL_law_1383 : decode cL_law 1383 = .ok (.aload_n 0, 1) := dk_42 (dk_at dksL_law_55 15 rfl rfl)
theorem dL_law_1384 : decode cL_law 1384 = .ok (.iload 4, 2) := dk_21 4 (dk_at dksL_law_55 16 rfl rfl)
theorem dL_law_1386 : decode cL_law 1386 = .ok (.iconst 3, 1) := dk_6 (dk_at dksL_law_55 18 rfl rfl)
theorem dL_law_1387 : decode cL_law 1387 = .ok (.iadd, 1) := dk_96 (dk_at dksL_law_55 19 rfl rfl)
theorem dL_law_1388 : decode cL_law 1388 = .ok (.iaload, 1) := dk_46 (dk_at dksL_law_55 20 rfl rfl)
theorem dL_law_1389 : decode cL_law 1389 = .ok (.aload_n 0, 1) := dk_42 (dk_at dksL_law_55 21 rfl rfl)
theorem dL_law_1390 : decode cL_law 1390 = .ok (.iload 4, 2) := dk_21 4 (dk_at dksL_law_55 22 rfl rfl)
theorem dL_law_1392 : decode cL_law 1392 = .ok (.iconst 4, 1) := dk_7 (dk_at dksL_law_56 0 rfl rfl)
theorem dL_law_1393 : decode cL_law 1393 = .ok (.iadd, 1) := dk_96 (dk_at dksL_law_56 1 rfl rfl)
theorem dL_law_1394 : decode cL_law 1394 = .ok (.iaload, 1) := dk_46 (dk_at dksL_law_56 2 rfl rfl)
theorem dL_law_1395 : decode cL_law 1395 = .ok (.invokevirtual 161, 3) := dk_182 0 161 (dk_at dksL_law_56 3 rfl rfl)
theorem dL_law_1398 : decode cL_law 1398 = .ok (.istore 6, 2) := dk_54 6 (dk_at dksL_law_56 6 rfl rfl)
theorem dL_law_1400 : decode cL_law 1400 = .ok (.aload_n 2, 1) := dk_44 (dk_at dksL_law_56 8 rfl rfl)
theorem dL_law_1401 : decode cL_law 1401 = .ok (.invokevirtual 96, 3) := dk_182 0 96 (dk_at dksL_law_56 9 rfl rfl)
theorem dL_law_1404 : decode cL_law 1404 = .ok (.iload 5, 2) := dk_21 5 (dk_at dksL_law_56 12 rfl rfl)
theorem dL_law_1406 : decode cL_law 1406 = .ok (.if_icmp .eq 5, 3) := dk_159 0 5 (dk_at dksL_law_56 14 rfl rfl)
theorem dL_law_1409 : decode cL_law 1409 = .ok (.iconst 0, 1) := dk_3 (dk_at dksL_law_56 17 rfl rfl)
theorem dL_law_1410 : decode cL_law 1410 = .ok (.ireturn, 1) := dk_172 (dk_at dksL_law_56 18 rfl rfl)
theorem dL_law_1411 : decode cL_law 1411 = .ok (.iload 5, 2) := dk_21 5 (dk_at dksL_law_56 19 rfl rfl)
theorem dL_law_1413 : decode cL_law 1413 = .ok (.ifCond .ne 15, 3) := dk_154 0 15 (dk_at dksL_law_56 21 rfl rfl)
theorem dL_law_1416 : decode cL_law 1416 = .ok (.aload_n 3, 1) := dk_45 (dk_at dksL_law_57 0 rfl rfl)
theorem dL_law_1417 : decode cL_law 1417 = .ok (.iconst 0, 1) := dk_3 (dk_at dksL_law_57 1 rfl rfl)
theorem dL_law_1418 : decode cL_law 1418 = .ok (.laload, 1) := dk_47 (dk_at dksL_law_57 2 rfl rfl)
theorem dL_law_1419 : decode cL_law 1419 = .ok (.iload 6, 2) := dk_21 6 (dk_at dksL_law_57 3 rfl rfl)
theorem dL_law_1421 : decode cL_law 1421 = .ok (.i2l, 1) := dk_133 (dk_at dksL_law_57 5 rfl rfl)
theorem dL_law_1422 : decode cL_law 1422 = .ok (.lcmp, 1) := dk_148 (dk_at dksL_law_57 6 rfl rfl)
theorem dL_law_1423 : decode cL_law 1423 = .ok (.ifCond .eq 5, 3) := dk_153 0 5 (dk_at dksL_law_57 7 rfl rfl)
theorem dL_law_1426 : decode cL_law 1426 = .ok (.iconst 0, 1) := dk_3 (dk_at dksL_law_57 10 rfl rfl)
theorem dL_law_1427 : decode cL_law 1427 = .ok (.ireturn, 1) := dk_172 (dk_at dksL_law_57 11 rfl rfl)
theorem dL_law_1428 : decode cL_law 1428 = .ok (.goto 154, 3) := dk_167 0 154 (dk_at dksL_law_57 12 rfl rfl)
theorem dL_law_1431 : decode cL_law 1431 = .ok (.aload_n 1, 1) := dk_43 (dk_at dksL_law_57 15 rfl rfl)
theorem dL_law_1432 : decode cL_law 1432 = .ok (.aload_n 0, 1) := dk_42 (dk_at dksL_law_57 16 rfl rfl)
theorem dL_law_1433 : decode cL_law 1433 = .ok (.iload 4, 2) := dk_21 4 (dk_at dksL_law_57 17 rfl rfl)
theorem dL_law_1435 : decode cL_law 1435 = .ok (.iconst 1, 1) := dk_4 (dk_at dksL_law_57 19 rfl rfl)
theorem dL_law_1436 : decode cL_law 1436 = .ok (.iadd, 1) := dk_96 (dk_at dksL_law_57 20 rfl rfl)
theorem dL_law_1437 : decode cL_law 1437 = .ok (.iaload, 1) := dk_46 (dk_at dksL_law_57 21 rfl rfl)
theorem dL_law_1438 : decode cL_law 1438 = .ok (.aload_n 0, 1) := dk_42 (dk_at dksL_law_57 22 rfl rfl)
theorem dL_law_1439 : decode cL_law 1439 = .ok (.iload 4, 2) := dk_21 4 (dk_at dksL_law_58 0 rfl rfl)
theorem dL_law_1441 : decode cL_law 1441 = .ok (.iconst 2, 1) := dk_5 (dk_at dksL_law_58 2 rfl rfl)
theorem dL_law_1442 : decode cL_law 1442 = .ok (.iadd, 1) := dk_96 (dk_at dksL_law_58 3 rfl rfl)
theorem dL_law_1443 : decode cL_law 1443 = .ok (.iaload, 1) := dk_46 (dk_at dksL_law_58 4 rfl rfl)
theorem dL_law_1444 : decode cL_law 1444 = .ok (.aload_n 3, 1) := dk_45 (dk_at dksL_law_58 5 rfl rfl)
theorem dL_law_1445 : decode cL_law 1445 = .ok (.invokestatic 162, 3) := dk_184 0 162 (dk_at dksL_law_58 6 rfl rfl)
theorem dL_law_1448 : decode cL_law 1448 = .ok (.istore 5, 2) := dk_54 5 (dk_at dksL_law_58 9 rfl rfl)
theorem dL_law_1450 : decode cL_law 1450 = .ok (.aload_n 2, 1) := dk_44 (dk_at dksL_law_58 11 rfl rfl)
theorem dL_law_1451 : decode cL_law 1451 = .ok (.aload_n 0, 1) := dk_42 (dk_at dksL_law_58 12 rfl rfl)
theorem dL_law_1452 : decode cL_law 1452 = .ok (.iload 4, 2) := dk_21 4 (dk_at dksL_law_58 13 rfl rfl)
theorem dL_law_1454 : decode cL_law 1454 = .ok (.iconst 1, 1) := dk_4 (dk_at dksL_law_58 15 rfl rfl)
theorem dL_law_1455 : decode cL_law 1455 = .ok (.iadd, 1) := dk_96 (dk_at dksL_law_58 16 rfl rfl)
theorem dL_law_1456 : decode cL_law 1456 = .ok (.iaload, 1) := dk_46 (dk_at dksL_law_58 17 rfl rfl)
theorem dL_law_1457 : decode cL_law 1457 = .ok (.aload_n 0, 1) := dk_42 (dk_at dksL_law_58 18 rfl rfl)
theorem dL_law_1458 : decode cL_law 1458 = .ok (.iload 4, 2) := dk_21 4 (dk_at dksL_law_58 19 rfl rfl)
theorem dL_law_1460 : decode cL_law 1460 = .ok (.iconst 2, 1) := dk_5 (dk_at dksL_law_58 21 rfl rfl)
theorem dL_law_1461 : decode cL_law 1461 = .ok (.iadd, 1) := dk_96 (dk_at dksL_law_58 22 rfl rfl)
theorem dL_law_1462 : decode cL_law 1462 = .ok (.iaload, 1) := dk_46 (dk_at dksL_law_58 23 rfl rfl)
theorem dL_law_1463 : decode cL_law 1463 = .ok (.invokevirtual 164, 3) := dk_182 0 164 (dk_at dksL_law_59 0 rfl rfl)
theorem dL_law_1466 : decode cL_law 1466 = .ok (.istore 6, 2) := dk_54 6 (dk_at dksL_law_59 3 rfl rfl)
theorem dL_law_1468 : decode cL_law 1468 = .ok (.aload_n 2, 1) := dk_44 (dk_at dksL_law_59 5 rfl rfl)
theorem dL_law_1469 : decode cL_law 1469 = .ok (.invokevirtual 96, 3) := dk_182 0 96 (dk_at dksL_law_59 6 rfl rfl)
theorem dL_law_1472 : decode cL_law 1472 = .ok (.iload 5, 2) := dk_21 5 (dk_at dksL_law_59 9 rfl rfl)
theorem dL_law_1474 : decode cL_law 1474 = .ok (.if_icmp .eq 5, 3) := dk_159 0 5 (dk_at dksL_law_59 11 rfl rfl)
theorem dL_law_1477 : decode cL_law 1477 = .ok (.iconst 0, 1) := dk_3 (dk_at dksL_law_59 14 rfl rfl)
theorem dL_law_1478 : decode cL_law 1478 = .ok (.ireturn, 1) := dk_172 (dk_at dksL_law_59 15 rfl rfl)
theorem dL_law_1479 : decode cL_law 1479 = .ok (.iload 5, 2) := dk_21 5 (dk_at dksL_law_59 16 rfl rfl)
theorem dL_law_1481 : decode cL_law 1481 = .ok (.ifCond .ne 15, 3) := dk_154 0 15 (dk_at dksL_law_59 18 rfl rfl)
theorem dL_law_1484 : decode cL_law 1484 = .ok (.aload_n 3, 1) := dk_45 (dk_at dksL_law_59 21 rfl rfl)
theorem dL_law_1485 : decode cL_law 1485 = .ok (.iconst 0, 1) := dk_3 (dk_at dksL_law_59 22 rfl rfl)
theorem dL_law_1486 : decode cL_law 1486 = .ok (.laload, 1) := dk_47 (dk_at dksL_law_59 23 rfl rfl)
theorem dL_law_1487 : decode cL_law 1487 = .ok (.iload 6, 2) := dk_21 6 (dk_at dksL_law_60 0 rfl rfl)
theorem dL_law_1489 : decode cL_law 1489 = .ok (.i2l, 1) := dk_133 (dk_at dksL_law_60 2 rfl rfl)
theorem dL_law_1490 : decode cL_law 1490 = .ok (.lcmp, 1) := dk_148 (dk_at dksL_law_60 3 rfl rfl)
theorem dL_law_1491 : decode cL_law 1491 = .ok (.ifCond .eq 5, 3) := dk_153 0 5 (dk_at dksL_law_60 4 rfl rfl)
theorem dL_law_1494 : decode cL_law 1494 = .ok (.iconst 0, 1) := dk_3 (dk_at dksL_law_60 7 rfl rfl)
theorem dL_law_1495 : decode cL_law 1495 = .ok (.ireturn, 1) := dk_172 (dk_at dksL_law_60 8 rfl rfl)
theorem dL_law_1496 : decode cL_law 1496 = .ok (.goto 86, 3) := dk_167 0 86 (dk_at dksL_law_60 9 rfl rfl)
theorem dL_law_1499 : decode cL_law 1499 = .ok (.aload_n 1, 1) := dk_43 (dk_at dksL_law_60 12 rfl rfl)
theorem dL_law_1500 : decode cL_law 1500 = .ok (.aload_n 0, 1) := dk_42 (dk_at dksL_law_60 13 rfl rfl)
theorem dL_law_1501 : decode cL_law 1501 = .ok (.iload 4, 2) := dk_21 4 (dk_at dksL_law_60 14 rfl rfl)
theorem dL_law_1503 : decode cL_law 1503 = .ok (.iconst 1, 1) := dk_4 (dk_at dksL_law_60 16 rfl rfl)
theorem dL_law_1504 : decode cL_law 1504 = .ok (.iadd, 1) := dk_96 (dk_at dksL_law_60 17 rfl rfl)
theorem dL_law_1505 : decode cL_law 1505 = .ok (.iaload, 1) := dk_46 (dk_at dksL_law_60 18 rfl rfl)
theorem dL_law_1506 : decode cL_law 1506 = .ok (.aload_n 3, 1) := dk_45 (dk_at dksL_law_60 19 rfl rfl)
theorem dL_law_1507 : decode cL_law 1507 = .ok (.invokestatic 165, 3) := dk_184 0 165 (dk_at dksL_law_60 20 rfl rfl)
theorem dL_law_1510 : decode cL_law 1510 = .ok (.istore 5, 2) := dk_54 5 (dk_at dksL_law_61 0 rfl rfl)
theorem dL_law_1512 : decode cL_law 1512 = .ok (.aload_n 2, 1) := dk_44 (dk_at dksL_law_61 2 rfl rfl)
theorem dL_law_1513 : decode cL_law 1513 = .ok (.aload_n 0, 1) := dk_42 (dk_at dksL_law_61 3 rfl rfl)
theorem dL_law_1514 : decode cL_law 1514 = .ok (.iload 4, 2) := dk_21 4 (dk_at dksL_law_61 4 rfl rfl)
theorem dL_law_1516 : decode cL_law 1516 = .ok (.iconst 1, 1) := dk_4 (dk_at dksL_law_61 6 rfl rfl)
theorem dL_law_1517 : decode cL_law 1517 = .ok (.iadd, 1) := dk_96 (dk_at dksL_law_61 7 rfl rfl)
theorem dL_law_1518 : decode cL_law 1518 = .ok (.iaload, 1) := dk_46 (dk_at dksL_law_61 8 rfl rfl)
theorem dL_law_1519 : decode cL_law 1519 = .ok (.invokevirtual 167, 3) := dk_182 0 167 (dk_at dksL_law_61 9 rfl rfl)
theorem dL_law_1522 : decode cL_law 1522 = .ok (.istore 6, 2) := dk_54 6 (dk_at dksL_law_61 12 rfl rfl)
theorem dL_law_1524 : decode cL_law 1524 = .ok (.aload_n 2, 1) := dk_44 (dk_at dksL_law_61 14 rfl rfl)
theorem dL_law_1525 : decode cL_law 1525 = .ok (.invokevirtual 96, 3) := dk_182 0 96 (dk_at dksL_law_61 15 rfl rfl)
theorem dL_law_1528 : decode cL_law 1528 = .ok (.iload 5, 2) := dk_21 5 (dk_at dksL_law_61 18 rfl rfl)
theorem dL_law_1530 : decode cL_law 1530 = .ok (.if_icmp .eq 5, 3) := dk_159 0 5 (dk_at dksL_law_61 20 rfl rfl)
theorem dL_law_1533 : decode cL_law 1533 = .ok (.iconst 0, 1) := dk_3 (dk_at dksL_law_61 23 rfl rfl)
theorem dL_law_1534 : decode cL_law 1534 = .ok (.ireturn, 1) := dk_172 (dk_at dksL_law_62 0 rfl rfl)
theorem dL_law_1535 : decode cL_law 1535 = .ok (.iload 5, 2) := dk_21 5 (dk_at dksL_law_62 1 rfl rfl)
theorem dL_law_1537 : decode cL_law 1537 = .ok (.ifCond .ne 15, 3) := dk_154 0 15 (dk_at dksL_law_62 3 rfl rfl)
theorem dL_law_1540 : decode cL_law 1540 = .ok (.aload_n 3, 1) := dk_45 (dk_at dksL_law_62 6 rfl rfl)
theorem dL_law_1541 : decode cL_law 1541 = .ok (.iconst 0, 1) := dk_3 (dk_at dksL_law_62 7 rfl rfl)
theorem dL_law_1542 : decode cL_law 1542 = .ok (.laload, 1) := dk_47 (dk_at dksL_law_62 8 rfl rfl)
theorem dL_law_1543 : decode cL_law 1543 = .ok (.iload 6, 2) := dk_21 6 (dk_at dksL_law_62 9 rfl rfl)
theorem dL_law_1545 : decode cL_law 1545 = .ok (.i2l, 1) := dk_133 (dk_at dksL_law_62 11 rfl rfl)
theorem dL_law_1546 : decode cL_law 1546 = .ok (.lcmp, 1) := dk_148 (dk_at dksL_law_62 12 rfl rfl)
theorem dL_law_1547 : decode cL_law 1547 = .ok (.ifCond .eq 5, 3) := dk_153 0 5 (dk_at dksL_law_62 13 rfl rfl)
theorem dL_law_1550 : decode cL_law 1550 = .ok (.iconst 0, 1) := dk_3 (dk_at dksL_law_62 16 rfl rfl)
theorem dL_law_1551 : decode cL_law 1551 = .ok (.ireturn, 1) := dk_172 (dk_at dksL_law_62 17 rfl rfl)
theorem dL_law_1552 : decode cL_law 1552 = .ok (.goto 30, 3) := dk_167 0 30 (dk_at dksL_law_62 18 rfl rfl)
theorem dL_law_1555 : decode cL_law 1555 = .ok (.aload_n 1, 1) := dk_43 (dk_at dksL_law_62 21 rfl rfl)
theorem dL_law_1556 : decode cL_law 1556 = .ok (.invokevirtual 168, 3) := dk_182 0 168 (dk_at dksL_law_63 0 rfl rfl)
theorem dL_law_1559 : decode cL_law 1559 = .ok (.aload_n 2, 1) := dk_44 (dk_at dksL_law_63 3 rfl rfl)
theorem dL_law_1560 : decode cL_law 1560 = .ok (.invokevirtual 171, 3) := dk_182 0 171 (dk_at dksL_law_63 4 rfl rfl)
theorem dL_law_1563 : decode cL_law 1563 = .ok (.if_icmp .eq 19, 3) := dk_159 0 19 (dk_at dksL_law_63 7 rfl rfl)
theorem dL_law_1566 : decode cL_law 1566 = .ok (.iconst 0, 1) := dk_3 (dk_at dksL_law_63 10 rfl rfl)
theorem dL_law_1567 : decode cL_law 1567 = .ok (.ireturn, 1) := dk_172 (dk_at dksL_law_63 11 rfl rfl)
theorem dL_law_1568 : decode cL_law 1568 = .ok (.aload_n 1, 1) := dk_43 (dk_at dksL_law_63 12 rfl rfl)
theorem dL_law_1569 : decode cL_law 1569 = .ok (.invokevirtual 172, 3) := dk_182 0 172 (dk_at dksL_law_63 13 rfl rfl)
theorem dL_law_1572 : decode cL_law 1572 = .ok (.aload_n 2, 1) := dk_44 (dk_at dksL_law_63 16 rfl rfl)
theorem dL_law_1573 : decode cL_law 1573 = .ok (.invokevirtual 176, 3) := dk_182 0 176 (dk_at dksL_law_63 17 rfl rfl)
theorem dL_law_1576 : decode cL_law 1576 = .ok (.lcmp, 1) := dk_148 (dk_at dksL_law_63 20 rfl rfl)
theorem dL_law_1577 : decode cL_law 1577 = .ok (.ifCond .eq 5, 3) := dk_153 0 5 (dk_at dksL_law_63 21 rfl rfl)
theorem dL_law_1580 : decode cL_law 1580 = .ok (.iconst 0, 1) := dk_3 (dk_at dksL_law_64 0 rfl rfl)
theorem dL_law_1581 : decode cL_law 1581 = .ok (.ireturn, 1) := dk_172 (dk_at dksL_law_64 1 rfl rfl)
theorem dL_law_1582 : decode cL_law 1582 = .ok (.iinc 4 6, 3) := dk_132 4 6 (dk_at dksL_law_64 2 rfl rfl)
theorem dL_law_1585 : decode cL_law 1585 = .ok (.goto (-1562), 3) := dk_167 249 230 (dk_at dksL_law_64 5 rfl rfl)
theorem dL_law_1588 : decode cL_law 1588 = .ok (.iconst 1, 1) := dk_4 (dk_at dksL_law_64 8 rfl rfl)
theorem dL_law_1589 : decode cL_law 1589 = .ok (.ireturn, 1) := dk_172 (dk_at dksL_law_64 9 rfl rfl)
