/-! BorrowedLuckModel -/
set_option maxRecDepth 100000
def RX7 : String := "BorrowedLuckModel"
def TX7 : u_T := fun k => match k with
  | 0 => ("BorrowedLuckModel", "thrown", "I", false)
  | 1 => ("BorrowedLuckModel", "world", "[I", true)
  | 2 => ("BorrowedLuckModel", "image", "[I", true)
  | 3 => ("BorrowedLuckModel", "before", "[I", true)
  | 4 => ("BorrowedLuckModel", "trial", "[I", true)
  | 5 => ("BorrowedLuckModel", "acts", "[I", true)
  | 6 => ("BorrowedLuckModel", "hasImage", "Z", false)
  | 7 => ("BorrowedLuckModel", "remembered", "I", false)
  | 8 => ("BorrowedLuckModel", "tape", "[B", true)
  | 9 => ("BorrowedLuckModel", "taped", "I", false)
  | 10 => ("BorrowedLuckModel", "point", "I", false)
  | 11 => ("BorrowedLuckModel", "end", "I", false)
  | 12 => ("BorrowedLuckModel", "begin", "I", false)
  | 13 => ("BorrowedLuckModel", "deep", "I", false)
  | 14 => ("BorrowedLuckModel", "faultAt", "I", false)
  | 15 => ("BorrowedLuckModel", "five", "[I", true)
  | 16 => ("BorrowedLuckModel", "steps", "I", false)
  | 17 => ("BorrowedLuckModel", "value", "[I", true)
  | 18 => ("BorrowedLuckModel", "more", "[I", true)
  | 19 => ("BorrowedLuckModel", "row", "[I", true)
  | 20 => ("BorrowedLuckModel", "best", "[I", true)
  | 21 => ("BorrowedLuckModel", "leastLuck", "I", false)
  | _ => ("BorrowedLuckModel", "together", "[I", true)
def tyX7 : Nat → FieldType := fun k => match k with
  | 0 => .int
  | 1 => .array .int
  | 2 => .array .int
  | 3 => .array .int
  | 4 => .array .int
  | 5 => .array .int
  | 6 => .boolean
  | 7 => .int
  | 8 => .array .byte
  | 9 => .int
  | 10 => .int
  | 11 => .int
  | 12 => .int
  | 13 => .int
  | 14 => .int
  | 15 => .array .int
  | 16 => .int
  | 17 => .array .int
  | 18 => .array .int
  | 19 => .array .int
  | 20 => .array .int
  | 21 => .int
  | _ => .array .int
abbrev wsX70 : List Cond := u_ws RX7 TX7 23
set_option maxRecDepth 100000 in
theorem nmX7 : ∀ a, a < 23 → ∀ b, b < 23 → a ≠ b → (TX7 a).2.1 ≠ (TX7 b).2.1 := by decide +kernel
set_option maxRecDepth 100000 in
theorem tyX7_ok : ∀ k, k < 23 → parseFieldDescriptor (TX7 k).2.2.1 = some (tyX7 k) := by decide +kernel
abbrev cX7_thrown : ByteArray := prog_18_method_1_code
def yX7_thrown : MethodName := ⟨RX7, "thrown", "()I"⟩
theorem dX7_thrown_0 : decode cX7_thrown 0 = .ok (.aload_n 0, 1) := by decide +kernel
theorem dX7_thrown_1 : decode cX7_thrown 1 = .ok (.getfield 3, 3) := by decide +kernel
theorem dX7_thrown_4 : decode cX7_thrown 4 = .ok (.ireturn, 1) := by decide +kernel
abbrev cX7_init : ByteArray := prog_18_method_5_code
def yX7_init : MethodName := ⟨RX7, "<init>", "()V"⟩
def dkwX7_init_5 : List UInt8 := [180, 0, 13, 16, 6, 16, 20, 79, 42, 180, 0, 13, 16, 8, 4, 79, 177]
abbrev dktX7_init_5 : List UInt8 := dkwX7_init_5 ++ []
def dkwX7_init_4 : List UInt8 := [8, 188, 10, 181, 0, 48, 42, 17, 6, 0, 188, 10, 181, 0, 51, 42, 180, 0, 13, 8, 8, 79, 42]
abbrev dktX7_init_4 : List UInt8 := dkwX7_init_4 ++ dktX7_init_5
def dkwX7_init_3 : List UInt8 := [42, 17, 1, 144, 188, 10, 181, 0, 39, 42, 7, 188, 10, 181, 0, 42, 42, 8, 188, 10, 181, 0, 45, 42]
abbrev dktX7_init_3 : List UInt8 := dkwX7_init_3 ++ dktX7_init_4
def dkwX7_init_2 : List UInt8 := [181, 0, 26, 42, 17, 1, 144, 188, 8, 181, 0, 29, 42, 2, 181, 0, 33, 42, 8, 188, 10, 181, 0, 36]
abbrev dktX7_init_2 : List UInt8 := dkwX7_init_2 ++ dktX7_init_3
def dkwX7_init_1 : List UInt8 := [17, 4, 202, 188, 10, 181, 0, 20, 42, 17, 1, 121, 188, 10, 181, 0, 23, 42, 17, 17, 172, 188, 10]
abbrev dktX7_init_1 : List UInt8 := dkwX7_init_1 ++ dktX7_init_2
def dkwX7_init_0 : List UInt8 := [42, 183, 0, 7, 42, 17, 8, 27, 188, 10, 181, 0, 13, 42, 17, 4, 202, 188, 10, 181, 0, 17, 42]
abbrev dktX7_init_0 : List UInt8 := dkwX7_init_0 ++ dktX7_init_1
theorem dksX7_init_0 : cX7_init.data.toList.drop 0 = dktX7_init_0 := by decide +kernel
theorem dksX7_init_1 : cX7_init.data.toList.drop 23 = dktX7_init_1 := dk_seg dksX7_init_0 23 rfl rfl
theorem dksX7_init_2 : cX7_init.data.toList.drop 46 = dktX7_init_2 := dk_seg dksX7_init_1 23 rfl rfl
theorem dksX7_init_3 : cX7_init.data.toList.drop 70 = dktX7_init_3 := dk_seg dksX7_init_2 24 rfl rfl
theorem dksX7_init_4 : cX7_init.data.toList.drop 94 = dktX7_init_4 := dk_seg dksX7_init_3 24 rfl rfl
theorem dksX7_init_5 : cX7_init.data.toList.drop 117 = dktX7_init_5 := dk_seg dksX7_init_4 23 rfl rfl
theorem dX7_init_0 : decode cX7_init 0 = .ok (.aload_n 0, 1) := dk_42 (dk_at dksX7_init_0 0 rfl rfl)
theorem dX7_init_1 : decode cX7_init 1 = .ok (.invokespecial 7, 3) := dk_183 0 7 (dk_at dksX7_init_0 1 rfl rfl)
theorem dX7_init_4 : decode cX7_init 4 = .ok (.aload_n 0, 1) := dk_42 (dk_at dksX7_init_0 4 rfl rfl)
theorem dX7_init_5 : decode cX7_init 5 = .ok (.sipush 2075, 3) := dk_17 8 27 (dk_at dksX7_init_0 5 rfl rfl)
theorem dX7_init_8 : decode cX7_init 8 = .ok (.newarray .int, 2) := dk_188_10 (dk_at dksX7_init_0 8 rfl rfl)
theorem dX7_init_10 : decode cX7_init 10 = .ok (.putfield 13, 3) := dk_181 0 13 (dk_at dksX7_init_0 10 rfl rfl)
theorem dX7_init_13 : decode cX7_init 13 = .ok (.aload_n 0, 1) := dk_42 (dk_at dksX7_init_0 13 rfl rfl)
theorem dX7_init_14 : decode cX7_init 14 = .ok (.sipush 1226, 3) := dk_17 4 202 (dk_at dksX7_init_0 14 rfl rfl)
theorem dX7_init_17 : decode cX7_init 17 = .ok (.newarray .int, 2) := dk_188_10 (dk_at dksX7_init_0 17 rfl rfl)
theorem dX7_init_19 : decode cX7_init 19 = .ok (.putfield 17, 3) := dk_181 0 17 (dk_at dksX7_init_0 19 rfl rfl)
theorem dX7_init_22 : decode cX7_init 22 = .ok (.aload_n 0, 1) := dk_42 (dk_at dksX7_init_0 22 rfl rfl)
theorem dX7_init_23 : decode cX7_init 23 = .ok (.sipush 1226, 3) := dk_17 4 202 (dk_at dksX7_init_1 0 rfl rfl)
theorem dX7_init_26 : decode cX7_init 26 = .ok (.newarray .int, 2) := dk_188_10 (dk_at dksX7_init_1 3 rfl rfl)
theorem dX7_init_28 : decode cX7_init 28 = .ok (.putfield 20, 3) := dk_181 0 20 (dk_at dksX7_init_1 5 rfl rfl)
theorem dX7_init_31 : decode cX7_init 31 = .ok (.aload_n 0, 1) := dk_42 (dk_at dksX7_init_1 8 rfl rfl)
theorem dX7_init_32 : decode cX7_init 32 = .ok (.sipush 377, 3) := dk_17 1 121 (dk_at dksX7_init_1 9 rfl rfl)
theorem dX7_init_35 : decode cX7_init 35 = .ok (.newarray .int, 2) := dk_188_10 (dk_at dksX7_init_1 12 rfl rfl)
theorem dX7_init_37 : decode cX7_init 37 = .ok (.putfield 23, 3) := dk_181 0 23 (dk_at dksX7_init_1 14 rfl rfl)
theorem dX7_init_40 : decode cX7_init 40 = .ok (.aload_n 0, 1) := dk_42 (dk_at dksX7_init_1 17 rfl rfl)
theorem dX7_init_41 : decode cX7_init 41 = .ok (.sipush 4524, 3) := dk_17 17 172 (dk_at dksX7_init_1 18 rfl rfl)
theorem dX7_init_44 : decode cX7_init 44 = .ok (.newarray .int, 2) := dk_188_10 (dk_at dksX7_init_1 21 rfl rfl)
theorem dX7_init_46 : decode cX7_init 46 = .ok (.putfield 26, 3) := dk_181 0 26 (dk_at dksX7_init_2 0 rfl rfl)
theorem dX7_init_49 : decode cX7_init 49 = .ok (.aload_n 0, 1) := dk_42 (dk_at dksX7_init_2 3 rfl rfl)
theorem dX7_init_50 : decode cX7_init 50 = .ok (.sipush 400, 3) := dk_17 1 144 (dk_at dksX7_init_2 4 rfl rfl)
theorem dX7_init_53 : decode cX7_init 53 = .ok (.newarray .byte, 2) := dk_188_8 (dk_at dksX7_init_2 7 rfl rfl)
theorem dX7_init_55 : decode cX7_init 55 = .ok (.putfield 29, 3) := dk_181 0 29 (dk_at dksX7_init_2 9 rfl rfl)
theorem dX7_init_58 : decode cX7_init 58 = .ok (.aload_n 0, 1) := dk_42 (dk_at dksX7_init_2 12 rfl rfl)
theorem dX7_init_59 : decode cX7_init 59 = .ok (.iconst (-1), 1) := dk_2 (dk_at dksX7_init_2 13 rfl rfl)
theorem dX7_init_60 : decode cX7_init 60 = .ok (.putfield 33, 3) := dk_181 0 33 (dk_at dksX7_init_2 14 rfl rfl)
theorem dX7_init_63 : decode cX7_init 63 = .ok (.aload_n 0, 1) := dk_42 (dk_at dksX7_init_2 17 rfl rfl)
theorem dX7_init_64 : decode cX7_init 64 = .ok (.iconst 5, 1) := dk_8 (dk_at dksX7_init_2 18 rfl rfl)
theorem dX7_init_65 : decode cX7_init 65 = .ok (.newarray .int, 2) := dk_188_10 (dk_at dksX7_init_2 19 rfl rfl)
theorem dX7_init_67 : decode cX7_init 67 = .ok (.putfield 36, 3) := dk_181 0 36 (dk_at dksX7_init_2 21 rfl rfl)
theorem dX7_init_70 : decode cX7_init 70 = .ok (.aload_n 0, 1) := dk_42 (dk_at dksX7_init_3 0 rfl rfl)
theorem dX7_init_71 : decode cX7_init 71 = .ok (.sipush 400, 3) := dk_17 1 144 (dk_at dksX7_init_3 1 rfl rfl)
theorem dX7_init_74 : decode cX7_init 74 = .ok (.newarray .int, 2) := dk_188_10 (dk_at dksX7_init_3 4 rfl rfl)
theorem dX7_init_76 : decode cX7_init 76 = .ok (.putfield 39, 3) := dk_181 0 39 (dk_at dksX7_init_3 6 rfl rfl)
theorem dX7_init_79 : decode cX7_init 79 = .ok (.aload_n 0, 1) := dk_42 (dk_at dksX7_init_3 9 rfl rfl)
theorem dX7_init_80 : decode cX7_init 80 = .ok (.iconst 4, 1) := dk_7 (dk_at dksX7_init_3 10 rfl rfl)
theorem dX7_init_81 : decode cX7_init 81 = .ok (.newarray .int, 2) := dk_188_10 (dk_at dksX7_init_3 11 rfl rfl)
theorem dX7_init_83 : decode cX7_init 83 = .ok (.putfield 42, 3) := dk_181 0 42 (dk_at dksX7_init_3 13 rfl rfl)
theorem dX7_init_86 : decode cX7_init 86 = .ok (.aload_n 0, 1) := dk_42 (dk_at dksX7_init_3 16 rfl rfl)
theorem dX7_init_87 : decode cX7_init 87 = .ok (.iconst 5, 1) := dk_8 (dk_at dksX7_init_3 17 rfl rfl)
theorem dX7_init_88 : decode cX7_init 88 = .ok (.newarray .int, 2) := dk_188_10 (dk_at dksX7_init_3 18 rfl rfl)
theorem dX7_init_90 : decode cX7_init 90 = .ok (.putfield 45, 3) := dk_181 0 45 (dk_at dksX7_init_3 20 rfl rfl)
theorem dX7_init_93 : decode cX7_init 93 = .ok (.aload_n 0, 1) := dk_42 (dk_at dksX7_init_3 23 rfl rfl)
theorem dX7_init_94 : decode cX7_init 94 = .ok (.iconst 5, 1) := dk_8 (dk_at dksX7_init_4 0 rfl rfl)
theorem dX7_init_95 : decode cX7_init 95 = .ok (.newarray .int, 2) := dk_188_10 (dk_at dksX7_init_4 1 rfl rfl)
theorem dX7_init_97 : decode cX7_init 97 = .ok (.putfield 48, 3) := dk_181 0 48 (dk_at dksX7_init_4 3 rfl rfl)
theorem dX7_init_100 : decode cX7_init 100 = .ok (.aload_n 0, 1) := dk_42 (dk_at dksX7_init_4 6 rfl rfl)
theorem dX7_init_101 : decode cX7_init 101 = .ok (.sipush 1536, 3) := dk_17 6 0 (dk_at dksX7_init_4 7 rfl rfl)
theorem dX7_init_104 : decode cX7_init 104 = .ok (.newarray .int, 2) := dk_188_10 (dk_at dksX7_init_4 10 rfl rfl)
theorem dX7_init_106 : decode cX7_init 106 = .ok (.putfield 51, 3) := dk_181 0 51 (dk_at dksX7_init_4 12 rfl rfl)
theorem dX7_init_109 : decode cX7_init 109 = .ok (.aload_n 0, 1) := dk_42 (dk_at dksX7_init_4 15 rfl rfl)
theorem dX7_init_110 : decode cX7_init 110 = .ok (.getfield 13, 3) := dk_180 0 13 (dk_at dksX7_init_4 16 rfl rfl)
theorem dX7_init_113 : decode cX7_init 113 = .ok (.iconst 5, 1) := dk_8 (dk_at dksX7_init_4 19 rfl rfl)
theorem dX7_init_114 : decode cX7_init 114 = .ok (.iconst 5, 1) := dk_8 (dk_at dksX7_init_4 20 rfl rfl)
theorem dX7_init_115 : decode cX7_init 115 = .ok (.iastore, 1) := dk_79 (dk_at dksX7_init_4 21 rfl rfl)
theorem dX7_init_116 : decode cX7_init 116 = .ok (.aload_n 0, 1) := dk_42 (dk_at dksX7_init_4 22 rfl rfl)
theorem dX7_init_117 : decode cX7_init 117 = .ok (.getfield 13, 3) := dk_180 0 13 (dk_at dksX7_init_5 0 rfl rfl)
theorem dX7_init_120 : decode cX7_init 120 = .ok (.bipush 6, 2) := dk_16 6 (dk_at dksX7_init_5 3 rfl rfl)
theorem dX7_init_122 : decode cX7_init 122 = .ok (.bipush 20, 2) := dk_16 20 (dk_at dksX7_init_5 5 rfl rfl)
theorem dX7_init_124 : decode cX7_init 124 = .ok (.iastore, 1) := dk_79 (dk_at dksX7_init_5 7 rfl rfl)
theorem dX7_init_125 : decode cX7_init 125 = .ok (.aload_n 0, 1) := dk_42 (dk_at dksX7_init_5 8 rfl rfl)
theorem dX7_init_126 : decode cX7_init 126 = .ok (.getfield 13, 3) := dk_180 0 13 (dk_at dksX7_init_5 9 rfl rfl)
theorem dX7_init_129 : decode cX7_init 129 = .ok (.bipush 8, 2) := dk_16 8 (dk_at dksX7_init_5 12 rfl rfl)
theorem dX7_init_131 : decode cX7_init 131 = .ok (.iconst 1, 1) := dk_4 (dk_at dksX7_init_5 14 rfl rfl)
theorem dX7_init_132 : decode cX7_init 132 = .ok (.iastore, 1) := dk_79 (dk_at dksX7_init_5 15 rfl rfl)
theorem dX7_init_133 : decode cX7_init 133 = .ok (.return_, 1) := dk_177 (dk_at dksX7_init_5 16 rfl rfl)
abbrev cX7_image : ByteArray := prog_18_method_6_code
def yX7_image : MethodName := ⟨RX7, "image", "()V"⟩
def dkwX7_image_1 : List UInt8 := [46, 79, 132, 1, 1, 167, 255, 234, 42, 4, 181, 0, 54, 177]
abbrev dktX7_image_1 : List UInt8 := dkwX7_image_1 ++ []
def dkwX7_image_0 : List UInt8 := [42, 3, 181, 0, 3, 3, 60, 27, 17, 4, 202, 162, 0, 21, 42, 180, 0, 17, 27, 42, 180, 0, 13, 27]
abbrev dktX7_image_0 : List UInt8 := dkwX7_image_0 ++ dktX7_image_1
theorem dksX7_image_0 : cX7_image.data.toList.drop 0 = dktX7_image_0 := by decide +kernel
theorem dksX7_image_1 : cX7_image.data.toList.drop 24 = dktX7_image_1 := dk_seg dksX7_image_0 24 rfl rfl
theorem dX7_image_0 : decode cX7_image 0 = .ok (.aload_n 0, 1) := dk_42 (dk_at dksX7_image_0 0 rfl rfl)
theorem dX7_image_1 : decode cX7_image 1 = .ok (.iconst 0, 1) := dk_3 (dk_at dksX7_image_0 1 rfl rfl)
theorem dX7_image_2 : decode cX7_image 2 = .ok (.putfield 3, 3) := dk_181 0 3 (dk_at dksX7_image_0 2 rfl rfl)
theorem dX7_image_5 : decode cX7_image 5 = .ok (.iconst 0, 1) := dk_3 (dk_at dksX7_image_0 5 rfl rfl)
theorem dX7_image_6 : decode cX7_image 6 = .ok (.istore_n 1, 1) := dk_60 (dk_at dksX7_image_0 6 rfl rfl)
theorem dX7_image_7 : decode cX7_image 7 = .ok (.iload_n 1, 1) := dk_27 (dk_at dksX7_image_0 7 rfl rfl)
theorem dX7_image_8 : decode cX7_image 8 = .ok (.sipush 1226, 3) := dk_17 4 202 (dk_at dksX7_image_0 8 rfl rfl)
theorem dX7_image_11 : decode cX7_image 11 = .ok (.if_icmp .ge 21, 3) := dk_162 0 21 (dk_at dksX7_image_0 11 rfl rfl)
theorem dX7_image_14 : decode cX7_image 14 = .ok (.aload_n 0, 1) := dk_42 (dk_at dksX7_image_0 14 rfl rfl)
theorem dX7_image_15 : decode cX7_image 15 = .ok (.getfield 17, 3) := dk_180 0 17 (dk_at dksX7_image_0 15 rfl rfl)
theorem dX7_image_18 : decode cX7_image 18 = .ok (.iload_n 1, 1) := dk_27 (dk_at dksX7_image_0 18 rfl rfl)
theorem dX7_image_19 : decode cX7_image 19 = .ok (.aload_n 0, 1) := dk_42 (dk_at dksX7_image_0 19 rfl rfl)
theorem dX7_image_20 : decode cX7_image 20 = .ok (.getfield 13, 3) := dk_180 0 13 (dk_at dksX7_image_0 20 rfl rfl)
theorem dX7_image_23 : decode cX7_image 23 = .ok (.iload_n 1, 1) := dk_27 (dk_at dksX7_image_0 23 rfl rfl)
theorem dX7_image_24 : decode cX7_image 24 = .ok (.iaload, 1) := dk_46 (dk_at dksX7_image_1 0 rfl rfl)
theorem dX7_image_25 : decode cX7_image 25 = .ok (.iastore, 1) := dk_79 (dk_at dksX7_image_1 1 rfl rfl)
theorem dX7_image_26 : decode cX7_image 26 = .ok (.iinc 1 1, 3) := dk_132 1 1 (dk_at dksX7_image_1 2 rfl rfl)
theorem dX7_image_29 : decode cX7_image 29 = .ok (.goto (-22), 3) := dk_167 255 234 (dk_at dksX7_image_1 5 rfl rfl)
theorem dX7_image_32 : decode cX7_image 32 = .ok (.aload_n 0, 1) := dk_42 (dk_at dksX7_image_1 8 rfl rfl)
theorem dX7_image_33 : decode cX7_image 33 = .ok (.iconst 1, 1) := dk_4 (dk_at dksX7_image_1 9 rfl rfl)
theorem dX7_image_34 : decode cX7_image 34 = .ok (.putfield 54, 3) := dk_181 0 54 (dk_at dksX7_image_1 10 rfl rfl)
theorem dX7_image_37 : decode cX7_image 37 = .ok (.return_, 1) := dk_177 (dk_at dksX7_image_1 13 rfl rfl)
abbrev cX7_back : ByteArray := prog_18_method_7_code
def yX7_back : MethodName := ⟨RX7, "back", "()Z"⟩
def dkwX7_back_1 : List UInt8 := [180, 0, 13, 27, 42, 180, 0, 17, 27, 46, 79, 132, 1, 1, 167, 255, 234, 42, 3, 181, 0, 58, 4, 172]
abbrev dktX7_back_1 : List UInt8 := dkwX7_back_1 ++ []
def dkwX7_back_0 : List UInt8 := [42, 3, 181, 0, 3, 42, 180, 0, 54, 154, 0, 5, 3, 172, 3, 60, 27, 17, 4, 202, 162, 0, 21, 42]
abbrev dktX7_back_0 : List UInt8 := dkwX7_back_0 ++ dktX7_back_1
theorem dksX7_back_0 : cX7_back.data.toList.drop 0 = dktX7_back_0 := by decide +kernel
theorem dksX7_back_1 : cX7_back.data.toList.drop 24 = dktX7_back_1 := dk_seg dksX7_back_0 24 rfl rfl
theorem dX7_back_0 : decode cX7_back 0 = .ok (.aload_n 0, 1) := dk_42 (dk_at dksX7_back_0 0 rfl rfl)
theorem dX7_back_1 : decode cX7_back 1 = .ok (.iconst 0, 1) := dk_3 (dk_at dksX7_back_0 1 rfl rfl)
theorem dX7_back_2 : decode cX7_back 2 = .ok (.putfield 3, 3) := dk_181 0 3 (dk_at dksX7_back_0 2 rfl rfl)
theorem dX7_back_5 : decode cX7_back 5 = .ok (.aload_n 0, 1) := dk_42 (dk_at dksX7_back_0 5 rfl rfl)
theorem dX7_back_6 : decode cX7_back 6 = .ok (.getfield 54, 3) := dk_180 0 54 (dk_at dksX7_back_0 6 rfl rfl)
theorem dX7_back_9 : decode cX7_back 9 = .ok (.ifCond .ne 5, 3) := dk_154 0 5 (dk_at dksX7_back_0 9 rfl rfl)
theorem dX7_back_12 : decode cX7_back 12 = .ok (.iconst 0, 1) := dk_3 (dk_at dksX7_back_0 12 rfl rfl)
theorem dX7_back_13 : decode cX7_back 13 = .ok (.ireturn, 1) := dk_172 (dk_at dksX7_back_0 13 rfl rfl)
theorem dX7_back_14 : decode cX7_back 14 = .ok (.iconst 0, 1) := dk_3 (dk_at dksX7_back_0 14 rfl rfl)
theorem dX7_back_15 : decode cX7_back 15 = .ok (.istore_n 1, 1) := dk_60 (dk_at dksX7_back_0 15 rfl rfl)
theorem dX7_back_16 : decode cX7_back 16 = .ok (.iload_n 1, 1) := dk_27 (dk_at dksX7_back_0 16 rfl rfl)
theorem dX7_back_17 : decode cX7_back 17 = .ok (.sipush 1226, 3) := dk_17 4 202 (dk_at dksX7_back_0 17 rfl rfl)
theorem dX7_back_20 : decode cX7_back 20 = .ok (.if_icmp .ge 21, 3) := dk_162 0 21 (dk_at dksX7_back_0 20 rfl rfl)
theorem dX7_back_23 : decode cX7_back 23 = .ok (.aload_n 0, 1) := dk_42 (dk_at dksX7_back_0 23 rfl rfl)
theorem dX7_back_24 : decode cX7_back 24 = .ok (.getfield 13, 3) := dk_180 0 13 (dk_at dksX7_back_1 0 rfl rfl)
theorem dX7_back_27 : decode cX7_back 27 = .ok (.iload_n 1, 1) := dk_27 (dk_at dksX7_back_1 3 rfl rfl)
theorem dX7_back_28 : decode cX7_back 28 = .ok (.aload_n 0, 1) := dk_42 (dk_at dksX7_back_1 4 rfl rfl)
theorem dX7_back_29 : decode cX7_back 29 = .ok (.getfield 17, 3) := dk_180 0 17 (dk_at dksX7_back_1 5 rfl rfl)
theorem dX7_back_32 : decode cX7_back 32 = .ok (.iload_n 1, 1) := dk_27 (dk_at dksX7_back_1 8 rfl rfl)
theorem dX7_back_33 : decode cX7_back 33 = .ok (.iaload, 1) := dk_46 (dk_at dksX7_back_1 9 rfl rfl)
theorem dX7_back_34 : decode cX7_back 34 = .ok (.iastore, 1) := dk_79 (dk_at dksX7_back_1 10 rfl rfl)
theorem dX7_back_35 : decode cX7_back 35 = .ok (.iinc 1 1, 3) := dk_132 1 1 (dk_at dksX7_back_1 11 rfl rfl)
theorem dX7_back_38 : decode cX7_back 38 = .ok (.goto (-22), 3) := dk_167 255 234 (dk_at dksX7_back_1 14 rfl rfl)
theorem dX7_back_41 : decode cX7_back 41 = .ok (.aload_n 0, 1) := dk_42 (dk_at dksX7_back_1 17 rfl rfl)
theorem dX7_back_42 : decode cX7_back 42 = .ok (.iconst 0, 1) := dk_3 (dk_at dksX7_back_1 18 rfl rfl)
theorem dX7_back_43 : decode cX7_back 43 = .ok (.putfield 58, 3) := dk_181 0 58 (dk_at dksX7_back_1 19 rfl rfl)
theorem dX7_back_46 : decode cX7_back 46 = .ok (.iconst 1, 1) := dk_4 (dk_at dksX7_back_1 22 rfl rfl)
theorem dX7_back_47 : decode cX7_back 47 = .ok (.ireturn, 1) := dk_172 (dk_at dksX7_back_1 23 rfl rfl)
abbrev cX7_undo : ByteArray := prog_18_method_9_code
def yX7_undo : MethodName := ⟨RX7, "undo", "()Z"⟩
def dkwX7_undo_2 : List UInt8 := [180, 0, 58, 104, 27, 96, 46, 79, 132, 1, 1, 167, 255, 225, 4, 172]
abbrev dktX7_undo_2 : List UInt8 := dkwX7_undo_2 ++ []
def dkwX7_undo_1 : List UInt8 := [3, 60, 27, 17, 1, 121, 162, 0, 30, 42, 180, 0, 13, 27, 42, 180, 0, 26, 17, 1, 121, 42]
abbrev dktX7_undo_1 : List UInt8 := dkwX7_undo_1 ++ dktX7_undo_2
def dkwX7_undo_0 : List UInt8 := [42, 3, 181, 0, 3, 42, 180, 0, 58, 154, 0, 5, 3, 172, 42, 89, 180, 0, 58, 4, 100, 181, 0, 58]
abbrev dktX7_undo_0 : List UInt8 := dkwX7_undo_0 ++ dktX7_undo_1
theorem dksX7_undo_0 : cX7_undo.data.toList.drop 0 = dktX7_undo_0 := by decide +kernel
theorem dksX7_undo_1 : cX7_undo.data.toList.drop 24 = dktX7_undo_1 := dk_seg dksX7_undo_0 24 rfl rfl
theorem dksX7_undo_2 : cX7_undo.data.toList.drop 46 = dktX7_undo_2 := dk_seg dksX7_undo_1 22 rfl rfl
theorem dX7_undo_0 : decode cX7_undo 0 = .ok (.aload_n 0, 1) := dk_42 (dk_at dksX7_undo_0 0 rfl rfl)
theorem dX7_undo_1 : decode cX7_undo 1 = .ok (.iconst 0, 1) := dk_3 (dk_at dksX7_undo_0 1 rfl rfl)
theorem dX7_undo_2 : decode cX7_undo 2 = .ok (.putfield 3, 3) := dk_181 0 3 (dk_at dksX7_undo_0 2 rfl rfl)
theorem dX7_undo_5 : decode cX7_undo 5 = .ok (.aload_n 0, 1) := dk_42 (dk_at dksX7_undo_0 5 rfl rfl)
theorem dX7_undo_6 : decode cX7_undo 6 = .ok (.getfield 58, 3) := dk_180 0 58 (dk_at dksX7_undo_0 6 rfl rfl)
theorem dX7_undo_9 : decode cX7_undo 9 = .ok (.ifCond .ne 5, 3) := dk_154 0 5 (dk_at dksX7_undo_0 9 rfl rfl)
theorem dX7_undo_12 : decode cX7_undo 12 = .ok (.iconst 0, 1) := dk_3 (dk_at dksX7_undo_0 12 rfl rfl)
theorem dX7_undo_13 : decode cX7_undo 13 = .ok (.ireturn, 1) := dk_172 (dk_at dksX7_undo_0 13 rfl rfl)
theorem dX7_undo_14 : decode cX7_undo 14 = .ok (.aload_n 0, 1) := dk_42 (dk_at dksX7_undo_0 14 rfl rfl)
theorem dX7_undo_15 : decode cX7_undo 15 = .ok (.dup, 1) := dk_89 (dk_at dksX7_undo_0 15 rfl rfl)
theorem dX7_undo_16 : decode cX7_undo 16 = .ok (.getfield 58, 3) := dk_180 0 58 (dk_at dksX7_undo_0 16 rfl rfl)
theorem dX7_undo_19 : decode cX7_undo 19 = .ok (.iconst 1, 1) := dk_4 (dk_at dksX7_undo_0 19 rfl rfl)
theorem dX7_undo_20 : decode cX7_undo 20 = .ok (.isub, 1) := dk_100 (dk_at dksX7_undo_0 20 rfl rfl)
theorem dX7_undo_21 : decode cX7_undo 21 = .ok (.putfield 58, 3) := dk_181 0 58 (dk_at dksX7_undo_0 21 rfl rfl)
theorem dX7_undo_24 : decode cX7_undo 24 = .ok (.iconst 0, 1) := dk_3 (dk_at dksX7_undo_1 0 rfl rfl)
theorem dX7_undo_25 : decode cX7_undo 25 = .ok (.istore_n 1, 1) := dk_60 (dk_at dksX7_undo_1 1 rfl rfl)
theorem dX7_undo_26 : decode cX7_undo 26 = .ok (.iload_n 1, 1) := dk_27 (dk_at dksX7_undo_1 2 rfl rfl)
theorem dX7_undo_27 : decode cX7_undo 27 = .ok (.sipush 377, 3) := dk_17 1 121 (dk_at dksX7_undo_1 3 rfl rfl)
theorem dX7_undo_30 : decode cX7_undo 30 = .ok (.if_icmp .ge 30, 3) := dk_162 0 30 (dk_at dksX7_undo_1 6 rfl rfl)
theorem dX7_undo_33 : decode cX7_undo 33 = .ok (.aload_n 0, 1) := dk_42 (dk_at dksX7_undo_1 9 rfl rfl)
theorem dX7_undo_34 : decode cX7_undo 34 = .ok (.getfield 13, 3) := dk_180 0 13 (dk_at dksX7_undo_1 10 rfl rfl)
theorem dX7_undo_37 : decode cX7_undo 37 = .ok (.iload_n 1, 1) := dk_27 (dk_at dksX7_undo_1 13 rfl rfl)
theorem dX7_undo_38 : decode cX7_undo 38 = .ok (.aload_n 0, 1) := dk_42 (dk_at dksX7_undo_1 14 rfl rfl)
theorem dX7_undo_39 : decode cX7_undo 39 = .ok (.getfield 26, 3) := dk_180 0 26 (dk_at dksX7_undo_1 15 rfl rfl)
theorem dX7_undo_42 : decode cX7_undo 42 = .ok (.sipush 377, 3) := dk_17 1 121 (dk_at dksX7_undo_1 18 rfl rfl)
theorem dX7_undo_45 : decode cX7_undo 45 = .ok (.aload_n 0, 1) := dk_42 (dk_at dksX7_undo_1 21 rfl rfl)
theorem dX7_undo_46 : decode cX7_undo 46 = .ok (.getfield 58, 3) := dk_180 0 58 (dk_at dksX7_undo_2 0 rfl rfl)
theorem dX7_undo_49 : decode cX7_undo 49 = .ok (.imul, 1) := dk_104 (dk_at dksX7_undo_2 3 rfl rfl)
theorem dX7_undo_50 : decode cX7_undo 50 = .ok (.iload_n 1, 1) := dk_27 (dk_at dksX7_undo_2 4 rfl rfl)
theorem dX7_undo_51 : decode cX7_undo 51 = .ok (.iadd, 1) := dk_96 (dk_at dksX7_undo_2 5 rfl rfl)
theorem dX7_undo_52 : decode cX7_undo 52 = .ok (.iaload, 1) := dk_46 (dk_at dksX7_undo_2 6 rfl rfl)
theorem dX7_undo_53 : decode cX7_undo 53 = .ok (.iastore, 1) := dk_79 (dk_at dksX7_undo_2 7 rfl rfl)
theorem dX7_undo_54 : decode cX7_undo 54 = .ok (.iinc 1 1, 3) := dk_132 1 1 (dk_at dksX7_undo_2 8 rfl rfl)
theorem dX7_undo_57 : decode cX7_undo 57 = .ok (.goto (-31), 3) := dk_167 255 225 (dk_at dksX7_undo_2 11 rfl rfl)
theorem dX7_undo_60 : decode cX7_undo 60 = .ok (.iconst 1, 1) := dk_4 (dk_at dksX7_undo_2 14 rfl rfl)
theorem dX7_undo_61 : decode cX7_undo 61 = .ok (.ireturn, 1) := dk_172 (dk_at dksX7_undo_2 15 rfl rfl)
abbrev cX7_feed : ByteArray := prog_18_method_23_code
def yX7_feed : MethodName := ⟨RX7, "feed", "(IIIII)I"⟩
def dkwX7_feed_5 : List UInt8 := [180, 0, 86, 172]
abbrev dktX7_feed_5 : List UInt8 := dkwX7_feed_5 ++ []
def dkwX7_feed_4 : List UInt8 := [100, 122, 145, 84, 132, 6, 1, 167, 255, 213, 42, 89, 180, 0, 86, 16, 20, 96, 181, 0, 86, 42]
abbrev dktX7_feed_4 : List UInt8 := dkwX7_feed_4 ++ dktX7_feed_5
def dkwX7_feed_3 : List UInt8 := [180, 0, 86, 21, 6, 96, 42, 180, 0, 36, 21, 6, 7, 108, 46, 16, 24, 16, 8, 21, 6, 7, 112, 104]
abbrev dktX7_feed_3 : List UInt8 := dkwX7_feed_3 ++ dktX7_feed_4
def dkwX7_feed_2 : List UInt8 := [79, 42, 180, 0, 36, 7, 21, 5, 79, 3, 54, 6, 21, 6, 16, 20, 162, 0, 42, 42, 180, 0, 29, 42]
abbrev dktX7_feed_2 : List UInt8 := dkwX7_feed_2 ++ dktX7_feed_3
def dkwX7_feed_1 : List UInt8 := [3, 27, 79, 42, 180, 0, 36, 4, 28, 79, 42, 180, 0, 36, 5, 29, 79, 42, 180, 0, 36, 6, 21, 4]
abbrev dktX7_feed_1 : List UInt8 := dkwX7_feed_1 ++ dktX7_feed_2
def dkwX7_feed_0 : List UInt8 := [42, 3, 181, 0, 3, 42, 180, 0, 86, 16, 20, 96, 17, 1, 144, 164, 0, 5, 2, 172, 42, 180, 0, 36]
abbrev dktX7_feed_0 : List UInt8 := dkwX7_feed_0 ++ dktX7_feed_1
theorem dksX7_feed_0 : cX7_feed.data.toList.drop 0 = dktX7_feed_0 := by decide +kernel
theorem dksX7_feed_1 : cX7_feed.data.toList.drop 24 = dktX7_feed_1 := dk_seg dksX7_feed_0 24 rfl rfl
theorem dksX7_feed_2 : cX7_feed.data.toList.drop 48 = dktX7_feed_2 := dk_seg dksX7_feed_1 24 rfl rfl
theorem dksX7_feed_3 : cX7_feed.data.toList.drop 72 = dktX7_feed_3 := dk_seg dksX7_feed_2 24 rfl rfl
theorem dksX7_feed_4 : cX7_feed.data.toList.drop 96 = dktX7_feed_4 := dk_seg dksX7_feed_3 24 rfl rfl
theorem dksX7_feed_5 : cX7_feed.data.toList.drop 118 = dktX7_feed_5 := dk_seg dksX7_feed_4 22 rfl rfl
theorem dX7_feed_0 : decode cX7_feed 0 = .ok (.aload_n 0, 1) := dk_42 (dk_at dksX7_feed_0 0 rfl rfl)
theorem dX7_feed_1 : decode cX7_feed 1 = .ok (.iconst 0, 1) := dk_3 (dk_at dksX7_feed_0 1 rfl rfl)
theorem dX7_feed_2 : decode cX7_feed 2 = .ok (.putfield 3, 3) := dk_181 0 3 (dk_at dksX7_feed_0 2 rfl rfl)
theorem dX7_feed_5 : decode cX7_feed 5 = .ok (.aload_n 0, 1) := dk_42 (dk_at dksX7_feed_0 5 rfl rfl)
theorem dX7_feed_6 : decode cX7_feed 6 = .ok (.getfield 86, 3) := dk_180 0 86 (dk_at dksX7_feed_0 6 rfl rfl)
theorem dX7_feed_9 : decode cX7_feed 9 = .ok (.bipush 20, 2) := dk_16 20 (dk_at dksX7_feed_0 9 rfl rfl)
theorem dX7_feed_11 : decode cX7_feed 11 = .ok (.iadd, 1) := dk_96 (dk_at dksX7_feed_0 11 rfl rfl)
theorem dX7_feed_12 : decode cX7_feed 12 = .ok (.sipush 400, 3) := dk_17 1 144 (dk_at dksX7_feed_0 12 rfl rfl)
theorem dX7_feed_15 : decode cX7_feed 15 = .ok (.if_icmp .le 5, 3) := dk_164 0 5 (dk_at dksX7_feed_0 15 rfl rfl)
theorem dX7_feed_18 : decode cX7_feed 18 = .ok (.iconst (-1), 1) := dk_2 (dk_at dksX7_feed_0 18 rfl rfl)
theorem dX7_feed_19 : decode cX7_feed 19 = .ok (.ireturn, 1) := dk_172 (dk_at dksX7_feed_0 19 rfl rfl)
theorem dX7_feed_20 : decode cX7_feed 20 = .ok (.aload_n 0, 1) := dk_42 (dk_at dksX7_feed_0 20 rfl rfl)
theorem dX7_feed_21 : decode cX7_feed 21 = .ok (.getfield 36, 3) := dk_180 0 36 (dk_at dksX7_feed_0 21 rfl rfl)
theorem dX7_feed_24 : decode cX7_feed 24 = .ok (.iconst 0, 1) := dk_3 (dk_at dksX7_feed_1 0 rfl rfl)
theorem dX7_feed_25 : decode cX7_feed 25 = .ok (.iload_n 1, 1) := dk_27 (dk_at dksX7_feed_1 1 rfl rfl)
theorem dX7_feed_26 : decode cX7_feed 26 = .ok (.iastore, 1) := dk_79 (dk_at dksX7_feed_1 2 rfl rfl)
theorem dX7_feed_27 : decode cX7_feed 27 = .ok (.aload_n 0, 1) := dk_42 (dk_at dksX7_feed_1 3 rfl rfl)
theorem dX7_feed_28 : decode cX7_feed 28 = .ok (.getfield 36, 3) := dk_180 0 36 (dk_at dksX7_feed_1 4 rfl rfl)
theorem dX7_feed_31 : decode cX7_feed 31 = .ok (.iconst 1, 1) := dk_4 (dk_at dksX7_feed_1 7 rfl rfl)
theorem dX7_feed_32 : decode cX7_feed 32 = .ok (.iload_n 2, 1) := dk_28 (dk_at dksX7_feed_1 8 rfl rfl)
theorem dX7_feed_33 : decode cX7_feed 33 = .ok (.iastore, 1) := dk_79 (dk_at dksX7_feed_1 9 rfl rfl)
theorem dX7_feed_34 : decode cX7_feed 34 = .ok (.aload_n 0, 1) := dk_42 (dk_at dksX7_feed_1 10 rfl rfl)
theorem dX7_feed_35 : decode cX7_feed 35 = .ok (.getfield 36, 3) := dk_180 0 36 (dk_at dksX7_feed_1 11 rfl rfl)
theorem dX7_feed_38 : decode cX7_feed 38 = .ok (.iconst 2, 1) := dk_5 (dk_at dksX7_feed_1 14 rfl rfl)
theorem dX7_feed_39 : decode cX7_feed 39 = .ok (.iload_n 3, 1) := dk_29 (dk_at dksX7_feed_1 15 rfl rfl)
theorem dX7_feed_40 : decode cX7_feed 40 = .ok (.iastore, 1) := dk_79 (dk_at dksX7_feed_1 16 rfl rfl)
theorem dX7_feed_41 : decode cX7_feed 41 = .ok (.aload_n 0, 1) := dk_42 (dk_at dksX7_feed_1 17 rfl rfl)
theorem dX7_feed_42 : decode cX7_feed 42 = .ok (.getfield 36, 3) := dk_180 0 36 (dk_at dksX7_feed_1 18 rfl rfl)
theorem dX7_feed_45 : decode cX7_feed 45 = .ok (.iconst 3, 1) := dk_6 (dk_at dksX7_feed_1 21 rfl rfl)
theorem dX7_feed_46 : decode cX7_feed 46 = .ok (.iload 4, 2) := dk_21 4 (dk_at dksX7_feed_1 22 rfl rfl)
theorem dX7_feed_48 : decode cX7_feed 48 = .ok (.iastore, 1) := dk_79 (dk_at dksX7_feed_2 0 rfl rfl)
theorem dX7_feed_49 : decode cX7_feed 49 = .ok (.aload_n 0, 1) := dk_42 (dk_at dksX7_feed_2 1 rfl rfl)
theorem dX7_feed_50 : decode cX7_feed 50 = .ok (.getfield 36, 3) := dk_180 0 36 (dk_at dksX7_feed_2 2 rfl rfl)
theorem dX7_feed_53 : decode cX7_feed 53 = .ok (.iconst 4, 1) := dk_7 (dk_at dksX7_feed_2 5 rfl rfl)
theorem dX7_feed_54 : decode cX7_feed 54 = .ok (.iload 5, 2) := dk_21 5 (dk_at dksX7_feed_2 6 rfl rfl)
theorem dX7_feed_56 : decode cX7_feed 56 = .ok (.iastore, 1) := dk_79 (dk_at dksX7_feed_2 8 rfl rfl)
theorem dX7_feed_57 : decode cX7_feed 57 = .ok (.iconst 0, 1) := dk_3 (dk_at dksX7_feed_2 9 rfl rfl)
theorem dX7_feed_58 : decode cX7_feed 58 = .ok (.istore 6, 2) := dk_54 6 (dk_at dksX7_feed_2 10 rfl rfl)
theorem dX7_feed_60 : decode cX7_feed 60 = .ok (.iload 6, 2) := dk_21 6 (dk_at dksX7_feed_2 12 rfl rfl)
theorem dX7_feed_62 : decode cX7_feed 62 = .ok (.bipush 20, 2) := dk_16 20 (dk_at dksX7_feed_2 14 rfl rfl)
theorem dX7_feed_64 : decode cX7_feed 64 = .ok (.if_icmp .ge 42, 3) := dk_162 0 42 (dk_at dksX7_feed_2 16 rfl rfl)
theorem dX7_feed_67 : decode cX7_feed 67 = .ok (.aload_n 0, 1) := dk_42 (dk_at dksX7_feed_2 19 rfl rfl)
theorem dX7_feed_68 : decode cX7_feed 68 = .ok (.getfield 29, 3) := dk_180 0 29 (dk_at dksX7_feed_2 20 rfl rfl)
theorem dX7_feed_71 : decode cX7_feed 71 = .ok (.aload_n 0, 1) := dk_42 (dk_at dksX7_feed_2 23 rfl rfl)
theorem dX7_feed_72 : decode cX7_feed 72 = .ok (.getfield 86, 3) := dk_180 0 86 (dk_at dksX7_feed_3 0 rfl rfl)
theorem dX7_feed_75 : decode cX7_feed 75 = .ok (.iload 6, 2) := dk_21 6 (dk_at dksX7_feed_3 3 rfl rfl)
theorem dX7_feed_77 : decode cX7_feed 77 = .ok (.iadd, 1) := dk_96 (dk_at dksX7_feed_3 5 rfl rfl)
theorem dX7_feed_78 : decode cX7_feed 78 = .ok (.aload_n 0, 1) := dk_42 (dk_at dksX7_feed_3 6 rfl rfl)
theorem dX7_feed_79 : decode cX7_feed 79 = .ok (.getfield 36, 3) := dk_180 0 36 (dk_at dksX7_feed_3 7 rfl rfl)
theorem dX7_feed_82 : decode cX7_feed 82 = .ok (.iload 6, 2) := dk_21 6 (dk_at dksX7_feed_3 10 rfl rfl)
theorem dX7_feed_84 : decode cX7_feed 84 = .ok (.iconst 4, 1) := dk_7 (dk_at dksX7_feed_3 12 rfl rfl)
theorem dX7_feed_85 : decode cX7_feed 85 = .ok (.idiv, 1) := dk_108 (dk_at dksX7_feed_3 13 rfl rfl)
theorem dX7_feed_86 : decode cX7_feed 86 = .ok (.iaload, 1) := dk_46 (dk_at dksX7_feed_3 14 rfl rfl)
theorem dX7_feed_87 : decode cX7_feed 87 = .ok (.bipush 24, 2) := dk_16 24 (dk_at dksX7_feed_3 15 rfl rfl)
theorem dX7_feed_89 : decode cX7_feed 89 = .ok (.bipush 8, 2) := dk_16 8 (dk_at dksX7_feed_3 17 rfl rfl)
theorem dX7_feed_91 : decode cX7_feed 91 = .ok (.iload 6, 2) := dk_21 6 (dk_at dksX7_feed_3 19 rfl rfl)
theorem dX7_feed_93 : decode cX7_feed 93 = .ok (.iconst 4, 1) := dk_7 (dk_at dksX7_feed_3 21 rfl rfl)
theorem dX7_feed_94 : decode cX7_feed 94 = .ok (.irem, 1) := dk_112 (dk_at dksX7_feed_3 22 rfl rfl)
theorem dX7_feed_95 : decode cX7_feed 95 = .ok (.imul, 1) := dk_104 (dk_at dksX7_feed_3 23 rfl rfl)
theorem dX7_feed_96 : decode cX7_feed 96 = .ok (.isub, 1) := dk_100 (dk_at dksX7_feed_4 0 rfl rfl)
theorem dX7_feed_97 : decode cX7_feed 97 = .ok (.ishr, 1) := dk_122 (dk_at dksX7_feed_4 1 rfl rfl)
theorem dX7_feed_98 : decode cX7_feed 98 = .ok (.i2b, 1) := dk_145 (dk_at dksX7_feed_4 2 rfl rfl)
theorem dX7_feed_99 : decode cX7_feed 99 = .ok (.bastore, 1) := dk_84 (dk_at dksX7_feed_4 3 rfl rfl)
theorem dX7_feed_100 : decode cX7_feed 100 = .ok (.iinc 6 1, 3) := dk_132 6 1 (dk_at dksX7_feed_4 4 rfl rfl)
theorem dX7_feed_103 : decode cX7_feed 103 = .ok (.goto (-43), 3) := dk_167 255 213 (dk_at dksX7_feed_4 7 rfl rfl)
theorem dX7_feed_106 : decode cX7_feed 106 = .ok (.aload_n 0, 1) := dk_42 (dk_at dksX7_feed_4 10 rfl rfl)
theorem dX7_feed_107 : decode cX7_feed 107 = .ok (.dup, 1) := dk_89 (dk_at dksX7_feed_4 11 rfl rfl)
theorem dX7_feed_108 : decode cX7_feed 108 = .ok (.getfield 86, 3) := dk_180 0 86 (dk_at dksX7_feed_4 12 rfl rfl)
theorem dX7_feed_111 : decode cX7_feed 111 = .ok (.bipush 20, 2) := dk_16 20 (dk_at dksX7_feed_4 15 rfl rfl)
theorem dX7_feed_113 : decode cX7_feed 113 = .ok (.iadd, 1) := dk_96 (dk_at dksX7_feed_4 17 rfl rfl)
theorem dX7_feed_114 : decode cX7_feed 114 = .ok (.putfield 86, 3) := dk_181 0 86 (dk_at dksX7_feed_4 18 rfl rfl)
theorem dX7_feed_117 : decode cX7_feed 117 = .ok (.aload_n 0, 1) := dk_42 (dk_at dksX7_feed_4 21 rfl rfl)
theorem dX7_feed_118 : decode cX7_feed 118 = .ok (.getfield 86, 3) := dk_180 0 86 (dk_at dksX7_feed_5 0 rfl rfl)
theorem dX7_feed_121 : decode cX7_feed 121 = .ok (.ireturn, 1) := dk_172 (dk_at dksX7_feed_5 3 rfl rfl)
abbrev cX7_end : ByteArray := prog_18_method_24_code
def yX7_end : MethodName := ⟨RX7, "end", "(I)Z"⟩
def dkwX7_end_1 : List UInt8 := [4, 172]
abbrev dktX7_end_1 : List UInt8 := dkwX7_end_1 ++ []
def dkwX7_end_0 : List UInt8 := [42, 3, 181, 0, 3, 27, 155, 0, 11, 27, 42, 180, 0, 86, 164, 0, 5, 3, 172, 42, 27, 181, 0, 86]
abbrev dktX7_end_0 : List UInt8 := dkwX7_end_0 ++ dktX7_end_1
theorem dksX7_end_0 : cX7_end.data.toList.drop 0 = dktX7_end_0 := by decide +kernel
theorem dksX7_end_1 : cX7_end.data.toList.drop 24 = dktX7_end_1 := dk_seg dksX7_end_0 24 rfl rfl
theorem dX7_end_0 : decode cX7_end 0 = .ok (.aload_n 0, 1) := dk_42 (dk_at dksX7_end_0 0 rfl rfl)
theorem dX7_end_1 : decode cX7_end 1 = .ok (.iconst 0, 1) := dk_3 (dk_at dksX7_end_0 1 rfl rfl)
theorem dX7_end_2 : decode cX7_end 2 = .ok (.putfield 3, 3) := dk_181 0 3 (dk_at dksX7_end_0 2 rfl rfl)
theorem dX7_end_5 : decode cX7_end 5 = .ok (.iload_n 1, 1) := dk_27 (dk_at dksX7_end_0 5 rfl rfl)
theorem dX7_end_6 : decode cX7_end 6 = .ok (.ifCond .lt 11, 3) := dk_155 0 11 (dk_at dksX7_end_0 6 rfl rfl)
theorem dX7_end_9 : decode cX7_end 9 = .ok (.iload_n 1, 1) := dk_27 (dk_at dksX7_end_0 9 rfl rfl)
theorem dX7_end_10 : decode cX7_end 10 = .ok (.aload_n 0, 1) := dk_42 (dk_at dksX7_end_0 10 rfl rfl)
theorem dX7_end_11 : decode cX7_end 11 = .ok (.getfield 86, 3) := dk_180 0 86 (dk_at dksX7_end_0 11 rfl rfl)
theorem dX7_end_14 : decode cX7_end 14 = .ok (.if_icmp .le 5, 3) := dk_164 0 5 (dk_at dksX7_end_0 14 rfl rfl)
theorem dX7_end_17 : decode cX7_end 17 = .ok (.iconst 0, 1) := dk_3 (dk_at dksX7_end_0 17 rfl rfl)
theorem dX7_end_18 : decode cX7_end 18 = .ok (.ireturn, 1) := dk_172 (dk_at dksX7_end_0 18 rfl rfl)
theorem dX7_end_19 : decode cX7_end 19 = .ok (.aload_n 0, 1) := dk_42 (dk_at dksX7_end_0 19 rfl rfl)
theorem dX7_end_20 : decode cX7_end 20 = .ok (.iload_n 1, 1) := dk_27 (dk_at dksX7_end_0 20 rfl rfl)
theorem dX7_end_21 : decode cX7_end 21 = .ok (.putfield 86, 3) := dk_181 0 86 (dk_at dksX7_end_0 21 rfl rfl)
theorem dX7_end_24 : decode cX7_end 24 = .ok (.iconst 1, 1) := dk_4 (dk_at dksX7_end_1 0 rfl rfl)
theorem dX7_end_25 : decode cX7_end 25 = .ok (.ireturn, 1) := dk_172 (dk_at dksX7_end_1 1 rfl rfl)
abbrev cX7_fault : ByteArray := prog_18_method_33_code
def yX7_fault : MethodName := ⟨RX7, "fault", "()I"⟩
def dkwX7_fault_0 : List UInt8 := [42, 3, 181, 0, 3, 42, 180, 0, 33, 172]
abbrev dktX7_fault_0 : List UInt8 := dkwX7_fault_0 ++ []
theorem dksX7_fault_0 : cX7_fault.data.toList.drop 0 = dktX7_fault_0 := by decide +kernel
theorem dX7_fault_0 : decode cX7_fault 0 = .ok (.aload_n 0, 1) := dk_42 (dk_at dksX7_fault_0 0 rfl rfl)
theorem dX7_fault_1 : decode cX7_fault 1 = .ok (.iconst 0, 1) := dk_3 (dk_at dksX7_fault_0 1 rfl rfl)
theorem dX7_fault_2 : decode cX7_fault 2 = .ok (.putfield 3, 3) := dk_181 0 3 (dk_at dksX7_fault_0 2 rfl rfl)
theorem dX7_fault_5 : decode cX7_fault 5 = .ok (.aload_n 0, 1) := dk_42 (dk_at dksX7_fault_0 5 rfl rfl)
theorem dX7_fault_6 : decode cX7_fault 6 = .ok (.getfield 33, 3) := dk_180 0 33 (dk_at dksX7_fault_0 6 rfl rfl)
theorem dX7_fault_9 : decode cX7_fault 9 = .ok (.ireturn, 1) := dk_172 (dk_at dksX7_fault_0 9 rfl rfl)
abbrev cX7_coast : ByteArray := prog_18_method_51_code
def yX7_coast : MethodName := ⟨RX7, "coast", "()I"⟩
def dkwX7_coast_6 : List UInt8 := [5, 46, 172]
abbrev dktX7_coast_6 : List UInt8 := dkwX7_coast_6 ++ []
def dkwX7_coast_5 : List UInt8 := [167, 255, 234, 3, 172, 42, 180, 0, 13, 5, 92, 46, 4, 96, 79, 42, 3, 181, 0, 58, 42, 180, 0, 13]
abbrev dktX7_coast_5 : List UInt8 := dkwX7_coast_5 ++ dktX7_coast_6
def dkwX7_coast_4 : List UInt8 := [28, 17, 4, 202, 162, 0, 21, 42, 180, 0, 13, 28, 42, 180, 0, 20, 28, 46, 79, 132, 2, 1]
abbrev dktX7_coast_4 : List UInt8 := dkwX7_coast_4 ++ dktX7_coast_5
def dkwX7_coast_3 : List UInt8 := [180, 0, 13, 5, 46, 16, 12, 160, 0, 7, 4, 167, 0, 4, 3, 5, 182, 0, 241, 153, 0, 32, 3, 61]
abbrev dktX7_coast_3 : List UInt8 := dkwX7_coast_3 ++ dktX7_coast_4
def dkwX7_coast_2 : List UInt8 := [181, 0, 33, 42, 27, 156, 0, 7, 4, 167, 0, 4, 3, 4, 182, 0, 241, 154, 0, 27, 42, 42]
abbrev dktX7_coast_2 : List UInt8 := dkwX7_coast_2 ++ dktX7_coast_3
def dkwX7_coast_1 : List UInt8 := [167, 255, 234, 42, 4, 182, 0, 237, 60, 42, 27, 156, 0, 10, 42, 180, 0, 99, 167, 0, 4, 2]
abbrev dktX7_coast_1 : List UInt8 := dkwX7_coast_1 ++ dktX7_coast_2
def dkwX7_coast_0 : List UInt8 := [3, 60, 27, 17, 4, 202, 162, 0, 21, 42, 180, 0, 20, 27, 42, 180, 0, 13, 27, 46, 79, 132, 1, 1]
abbrev dktX7_coast_0 : List UInt8 := dkwX7_coast_0 ++ dktX7_coast_1
theorem dksX7_coast_0 : cX7_coast.data.toList.drop 0 = dktX7_coast_0 := by decide +kernel
theorem dksX7_coast_1 : cX7_coast.data.toList.drop 24 = dktX7_coast_1 := dk_seg dksX7_coast_0 24 rfl rfl
theorem dksX7_coast_2 : cX7_coast.data.toList.drop 46 = dktX7_coast_2 := dk_seg dksX7_coast_1 22 rfl rfl
theorem dksX7_coast_3 : cX7_coast.data.toList.drop 68 = dktX7_coast_3 := dk_seg dksX7_coast_2 22 rfl rfl
theorem dksX7_coast_4 : cX7_coast.data.toList.drop 92 = dktX7_coast_4 := dk_seg dksX7_coast_3 24 rfl rfl
theorem dksX7_coast_5 : cX7_coast.data.toList.drop 114 = dktX7_coast_5 := dk_seg dksX7_coast_4 22 rfl rfl
theorem dksX7_coast_6 : cX7_coast.data.toList.drop 138 = dktX7_coast_6 := dk_seg dksX7_coast_5 24 rfl rfl
theorem dX7_coast_0 : decode cX7_coast 0 = .ok (.iconst 0, 1) := dk_3 (dk_at dksX7_coast_0 0 rfl rfl)
theorem dX7_coast_1 : decode cX7_coast 1 = .ok (.istore_n 1, 1) := dk_60 (dk_at dksX7_coast_0 1 rfl rfl)
theorem dX7_coast_2 : decode cX7_coast 2 = .ok (.iload_n 1, 1) := dk_27 (dk_at dksX7_coast_0 2 rfl rfl)
theorem dX7_coast_3 : decode cX7_coast 3 = .ok (.sipush 1226, 3) := dk_17 4 202 (dk_at dksX7_coast_0 3 rfl rfl)
theorem dX7_coast_6 : decode cX7_coast 6 = .ok (.if_icmp .ge 21, 3) := dk_162 0 21 (dk_at dksX7_coast_0 6 rfl rfl)
theorem dX7_coast_9 : decode cX7_coast 9 = .ok (.aload_n 0, 1) := dk_42 (dk_at dksX7_coast_0 9 rfl rfl)
theorem dX7_coast_10 : decode cX7_coast 10 = .ok (.getfield 20, 3) := dk_180 0 20 (dk_at dksX7_coast_0 10 rfl rfl)
theorem dX7_coast_13 : decode cX7_coast 13 = .ok (.iload_n 1, 1) := dk_27 (dk_at dksX7_coast_0 13 rfl rfl)
theorem dX7_coast_14 : decode cX7_coast 14 = .ok (.aload_n 0, 1) := dk_42 (dk_at dksX7_coast_0 14 rfl rfl)
theorem dX7_coast_15 : decode cX7_coast 15 = .ok (.getfield 13, 3) := dk_180 0 13 (dk_at dksX7_coast_0 15 rfl rfl)
theorem dX7_coast_18 : decode cX7_coast 18 = .ok (.iload_n 1, 1) := dk_27 (dk_at dksX7_coast_0 18 rfl rfl)
theorem dX7_coast_19 : decode cX7_coast 19 = .ok (.iaload, 1) := dk_46 (dk_at dksX7_coast_0 19 rfl rfl)
theorem dX7_coast_20 : decode cX7_coast 20 = .ok (.iastore, 1) := dk_79 (dk_at dksX7_coast_0 20 rfl rfl)
theorem dX7_coast_21 : decode cX7_coast 21 = .ok (.iinc 1 1, 3) := dk_132 1 1 (dk_at dksX7_coast_0 21 rfl rfl)
theorem dX7_coast_24 : decode cX7_coast 24 = .ok (.goto (-22), 3) := dk_167 255 234 (dk_at dksX7_coast_1 0 rfl rfl)
theorem dX7_coast_27 : decode cX7_coast 27 = .ok (.aload_n 0, 1) := dk_42 (dk_at dksX7_coast_1 3 rfl rfl)
theorem dX7_coast_28 : decode cX7_coast 28 = .ok (.iconst 1, 1) := dk_4 (dk_at dksX7_coast_1 4 rfl rfl)
theorem dX7_coast_29 : decode cX7_coast 29 = .ok (.invokevirtual 237, 3) := dk_182 0 237 (dk_at dksX7_coast_1 5 rfl rfl)
theorem dX7_coast_32 : decode cX7_coast 32 = .ok (.istore_n 1, 1) := dk_60 (dk_at dksX7_coast_1 8 rfl rfl)
theorem dX7_coast_33 : decode cX7_coast 33 = .ok (.aload_n 0, 1) := dk_42 (dk_at dksX7_coast_1 9 rfl rfl)
theorem dX7_coast_34 : decode cX7_coast 34 = .ok (.iload_n 1, 1) := dk_27 (dk_at dksX7_coast_1 10 rfl rfl)
theorem dX7_coast_35 : decode cX7_coast 35 = .ok (.ifCond .ge 10, 3) := dk_156 0 10 (dk_at dksX7_coast_1 11 rfl rfl)
theorem dX7_coast_38 : decode cX7_coast 38 = .ok (.aload_n 0, 1) := dk_42 (dk_at dksX7_coast_1 14 rfl rfl)
theorem dX7_coast_39 : decode cX7_coast 39 = .ok (.getfield 99, 3) := dk_180 0 99 (dk_at dksX7_coast_1 15 rfl rfl)
theorem dX7_coast_42 : decode cX7_coast 42 = .ok (.goto 4, 3) := dk_167 0 4 (dk_at dksX7_coast_1 18 rfl rfl)
theorem dX7_coast_45 : decode cX7_coast 45 = .ok (.iconst (-1), 1) := dk_2 (dk_at dksX7_coast_1 21 rfl rfl)
theorem dX7_coast_46 : decode cX7_coast 46 = .ok (.putfield 33, 3) := dk_181 0 33 (dk_at dksX7_coast_2 0 rfl rfl)
theorem dX7_coast_49 : decode cX7_coast 49 = .ok (.aload_n 0, 1) := dk_42 (dk_at dksX7_coast_2 3 rfl rfl)
theorem dX7_coast_50 : decode cX7_coast 50 = .ok (.iload_n 1, 1) := dk_27 (dk_at dksX7_coast_2 4 rfl rfl)
theorem dX7_coast_51 : decode cX7_coast 51 = .ok (.ifCond .ge 7, 3) := dk_156 0 7 (dk_at dksX7_coast_2 5 rfl rfl)
theorem dX7_coast_54 : decode cX7_coast 54 = .ok (.iconst 1, 1) := dk_4 (dk_at dksX7_coast_2 8 rfl rfl)
theorem dX7_coast_55 : decode cX7_coast 55 = .ok (.goto 4, 3) := dk_167 0 4 (dk_at dksX7_coast_2 9 rfl rfl)
theorem dX7_coast_58 : decode cX7_coast 58 = .ok (.iconst 0, 1) := dk_3 (dk_at dksX7_coast_2 12 rfl rfl)
theorem dX7_coast_59 : decode cX7_coast 59 = .ok (.iconst 1, 1) := dk_4 (dk_at dksX7_coast_2 13 rfl rfl)
theorem dX7_coast_60 : decode cX7_coast 60 = .ok (.invokevirtual 241, 3) := dk_182 0 241 (dk_at dksX7_coast_2 14 rfl rfl)
theorem dX7_coast_63 : decode cX7_coast 63 = .ok (.ifCond .ne 27, 3) := dk_154 0 27 (dk_at dksX7_coast_2 17 rfl rfl)
theorem dX7_coast_66 : decode cX7_coast 66 = .ok (.aload_n 0, 1) := dk_42 (dk_at dksX7_coast_2 20 rfl rfl)
theorem dX7_coast_67 : decode cX7_coast 67 = .ok (.aload_n 0, 1) := dk_42 (dk_at dksX7_coast_2 21 rfl rfl)
theorem dX7_coast_68 : decode cX7_coast 68 = .ok (.getfield 13, 3) := dk_180 0 13 (dk_at dksX7_coast_3 0 rfl rfl)
theorem dX7_coast_71 : decode cX7_coast 71 = .ok (.iconst 2, 1) := dk_5 (dk_at dksX7_coast_3 3 rfl rfl)
theorem dX7_coast_72 : decode cX7_coast 72 = .ok (.iaload, 1) := dk_46 (dk_at dksX7_coast_3 4 rfl rfl)
theorem dX7_coast_73 : decode cX7_coast 73 = .ok (.bipush 12, 2) := dk_16 12 (dk_at dksX7_coast_3 5 rfl rfl)
theorem dX7_coast_75 : decode cX7_coast 75 = .ok (.if_icmp .ne 7, 3) := dk_160 0 7 (dk_at dksX7_coast_3 7 rfl rfl)
theorem dX7_coast_78 : decode cX7_coast 78 = .ok (.iconst 1, 1) := dk_4 (dk_at dksX7_coast_3 10 rfl rfl)
theorem dX7_coast_79 : decode cX7_coast 79 = .ok (.goto 4, 3) := dk_167 0 4 (dk_at dksX7_coast_3 11 rfl rfl)
theorem dX7_coast_82 : decode cX7_coast 82 = .ok (.iconst 0, 1) := dk_3 (dk_at dksX7_coast_3 14 rfl rfl)
theorem dX7_coast_83 : decode cX7_coast 83 = .ok (.iconst 2, 1) := dk_5 (dk_at dksX7_coast_3 15 rfl rfl)
theorem dX7_coast_84 : decode cX7_coast 84 = .ok (.invokevirtual 241, 3) := dk_182 0 241 (dk_at dksX7_coast_3 16 rfl rfl)
theorem dX7_coast_87 : decode cX7_coast 87 = .ok (.ifCond .eq 32, 3) := dk_153 0 32 (dk_at dksX7_coast_3 19 rfl rfl)
theorem dX7_coast_90 : decode cX7_coast 90 = .ok (.iconst 0, 1) := dk_3 (dk_at dksX7_coast_3 22 rfl rfl)
theorem dX7_coast_91 : decode cX7_coast 91 = .ok (.istore_n 2, 1) := dk_61 (dk_at dksX7_coast_3 23 rfl rfl)
theorem dX7_coast_92 : decode cX7_coast 92 = .ok (.iload_n 2, 1) := dk_28 (dk_at dksX7_coast_4 0 rfl rfl)
theorem dX7_coast_93 : decode cX7_coast 93 = .ok (.sipush 1226, 3) := dk_17 4 202 (dk_at dksX7_coast_4 1 rfl rfl)
theorem dX7_coast_96 : decode cX7_coast 96 = .ok (.if_icmp .ge 21, 3) := dk_162 0 21 (dk_at dksX7_coast_4 4 rfl rfl)
theorem dX7_coast_99 : decode cX7_coast 99 = .ok (.aload_n 0, 1) := dk_42 (dk_at dksX7_coast_4 7 rfl rfl)
theorem dX7_coast_100 : decode cX7_coast 100 = .ok (.getfield 13, 3) := dk_180 0 13 (dk_at dksX7_coast_4 8 rfl rfl)
theorem dX7_coast_103 : decode cX7_coast 103 = .ok (.iload_n 2, 1) := dk_28 (dk_at dksX7_coast_4 11 rfl rfl)
theorem dX7_coast_104 : decode cX7_coast 104 = .ok (.aload_n 0, 1) := dk_42 (dk_at dksX7_coast_4 12 rfl rfl)
theorem dX7_coast_105 : decode cX7_coast 105 = .ok (.getfield 20, 3) := dk_180 0 20 (dk_at dksX7_coast_4 13 rfl rfl)
theorem dX7_coast_108 : decode cX7_coast 108 = .ok (.iload_n 2, 1) := dk_28 (dk_at dksX7_coast_4 16 rfl rfl)
theorem dX7_coast_109 : decode cX7_coast 109 = .ok (.iaload, 1) := dk_46 (dk_at dksX7_coast_4 17 rfl rfl)
theorem dX7_coast_110 : decode cX7_coast 110 = .ok (.iastore, 1) := dk_79 (dk_at dksX7_coast_4 18 rfl rfl)
theorem dX7_coast_111 : decode cX7_coast 111 = .ok (.iinc 2 1, 3) := dk_132 2 1 (dk_at dksX7_coast_4 19 rfl rfl)
theorem dX7_coast_114 : decode cX7_coast 114 = .ok (.goto (-22), 3) := dk_167 255 234 (dk_at dksX7_coast_5 0 rfl rfl)
theorem dX7_coast_117 : decode cX7_coast 117 = .ok (.iconst 0, 1) := dk_3 (dk_at dksX7_coast_5 3 rfl rfl)
theorem dX7_coast_118 : decode cX7_coast 118 = .ok (.ireturn, 1) := dk_172 (dk_at dksX7_coast_5 4 rfl rfl)
theorem dX7_coast_119 : decode cX7_coast 119 = .ok (.aload_n 0, 1) := dk_42 (dk_at dksX7_coast_5 5 rfl rfl)
theorem dX7_coast_120 : decode cX7_coast 120 = .ok (.getfield 13, 3) := dk_180 0 13 (dk_at dksX7_coast_5 6 rfl rfl)
theorem dX7_coast_123 : decode cX7_coast 123 = .ok (.iconst 2, 1) := dk_5 (dk_at dksX7_coast_5 9 rfl rfl)
theorem dX7_coast_124 : decode cX7_coast 124 = .ok (.dup2, 1) := dk_92 (dk_at dksX7_coast_5 10 rfl rfl)
theorem dX7_coast_125 : decode cX7_coast 125 = .ok (.iaload, 1) := dk_46 (dk_at dksX7_coast_5 11 rfl rfl)
theorem dX7_coast_126 : decode cX7_coast 126 = .ok (.iconst 1, 1) := dk_4 (dk_at dksX7_coast_5 12 rfl rfl)
theorem dX7_coast_127 : decode cX7_coast 127 = .ok (.iadd, 1) := dk_96 (dk_at dksX7_coast_5 13 rfl rfl)
theorem dX7_coast_128 : decode cX7_coast 128 = .ok (.iastore, 1) := dk_79 (dk_at dksX7_coast_5 14 rfl rfl)
theorem dX7_coast_129 : decode cX7_coast 129 = .ok (.aload_n 0, 1) := dk_42 (dk_at dksX7_coast_5 15 rfl rfl)
theorem dX7_coast_130 : decode cX7_coast 130 = .ok (.iconst 0, 1) := dk_3 (dk_at dksX7_coast_5 16 rfl rfl)
theorem dX7_coast_131 : decode cX7_coast 131 = .ok (.putfield 58, 3) := dk_181 0 58 (dk_at dksX7_coast_5 17 rfl rfl)
theorem dX7_coast_134 : decode cX7_coast 134 = .ok (.aload_n 0, 1) := dk_42 (dk_at dksX7_coast_5 20 rfl rfl)
theorem dX7_coast_135 : decode cX7_coast 135 = .ok (.getfield 13, 3) := dk_180 0 13 (dk_at dksX7_coast_5 21 rfl rfl)
theorem dX7_coast_138 : decode cX7_coast 138 = .ok (.iconst 2, 1) := dk_5 (dk_at dksX7_coast_6 0 rfl rfl)
theorem dX7_coast_139 : decode cX7_coast 139 = .ok (.iaload, 1) := dk_46 (dk_at dksX7_coast_6 1 rfl rfl)
theorem dX7_coast_140 : decode cX7_coast 140 = .ok (.ireturn, 1) := dk_172 (dk_at dksX7_coast_6 2 rfl rfl)
abbrev cX7_readAll : ByteArray := prog_18_method_50_code
def yX7_readAll : MethodName := ⟨RX7, "readAll", "(Z)I"⟩
def dkwX7_readAll_3 : List UInt8 := [89, 180, 0, 89, 4, 96, 181, 0, 89, 132, 2, 1, 167, 255, 200]
abbrev dktX7_readAll_3 : List UInt8 := dkwX7_readAll_3 ++ []
def dkwX7_readAll_2 : List UInt8 := [180, 0, 92, 160, 0, 7, 28, 4, 96, 172, 42, 16, 59, 16, 59, 182, 0, 95, 154, 0, 5, 2, 172, 42]
abbrev dktX7_readAll_2 : List UInt8 := dkwX7_readAll_2 ++ dktX7_readAll_3
def dkwX7_readAll_1 : List UInt8 := [3, 172, 3, 61, 42, 27, 28, 182, 0, 233, 154, 0, 5, 2, 172, 42, 182, 0, 102, 42, 180, 0, 89, 42]
abbrev dktX7_readAll_1 : List UInt8 := dkwX7_readAll_1 ++ dktX7_readAll_2
def dkwX7_readAll_0 : List UInt8 := [42, 182, 0, 230, 42, 3, 181, 0, 168, 42, 182, 0, 102, 42, 180, 0, 89, 42, 180, 0, 92, 160, 0, 5]
abbrev dktX7_readAll_0 : List UInt8 := dkwX7_readAll_0 ++ dktX7_readAll_1
theorem dksX7_readAll_0 : cX7_readAll.data.toList.drop 0 = dktX7_readAll_0 := by decide +kernel
theorem dksX7_readAll_1 : cX7_readAll.data.toList.drop 24 = dktX7_readAll_1 := dk_seg dksX7_readAll_0 24 rfl rfl
theorem dksX7_readAll_2 : cX7_readAll.data.toList.drop 48 = dktX7_readAll_2 := dk_seg dksX7_readAll_1 24 rfl rfl
theorem dksX7_readAll_3 : cX7_readAll.data.toList.drop 72 = dktX7_readAll_3 := dk_seg dksX7_readAll_2 24 rfl rfl
theorem dX7_readAll_0 : decode cX7_readAll 0 = .ok (.aload_n 0, 1) := dk_42 (dk_at dksX7_readAll_0 0 rfl rfl)
theorem dX7_readAll_1 : decode cX7_readAll 1 = .ok (.invokevirtual 230, 3) := dk_182 0 230 (dk_at dksX7_readAll_0 1 rfl rfl)
theorem dX7_readAll_4 : decode cX7_readAll 4 = .ok (.aload_n 0, 1) := dk_42 (dk_at dksX7_readAll_0 4 rfl rfl)
theorem dX7_readAll_5 : decode cX7_readAll 5 = .ok (.iconst 0, 1) := dk_3 (dk_at dksX7_readAll_0 5 rfl rfl)
theorem dX7_readAll_6 : decode cX7_readAll 6 = .ok (.putfield 168, 3) := dk_181 0 168 (dk_at dksX7_readAll_0 6 rfl rfl)
theorem dX7_readAll_9 : decode cX7_readAll 9 = .ok (.aload_n 0, 1) := dk_42 (dk_at dksX7_readAll_0 9 rfl rfl)
theorem dX7_readAll_10 : decode cX7_readAll 10 = .ok (.invokevirtual 102, 3) := dk_182 0 102 (dk_at dksX7_readAll_0 10 rfl rfl)
theorem dX7_readAll_13 : decode cX7_readAll 13 = .ok (.aload_n 0, 1) := dk_42 (dk_at dksX7_readAll_0 13 rfl rfl)
theorem dX7_readAll_14 : decode cX7_readAll 14 = .ok (.getfield 89, 3) := dk_180 0 89 (dk_at dksX7_readAll_0 14 rfl rfl)
theorem dX7_readAll_17 : decode cX7_readAll 17 = .ok (.aload_n 0, 1) := dk_42 (dk_at dksX7_readAll_0 17 rfl rfl)
theorem dX7_readAll_18 : decode cX7_readAll 18 = .ok (.getfield 92, 3) := dk_180 0 92 (dk_at dksX7_readAll_0 18 rfl rfl)
theorem dX7_readAll_21 : decode cX7_readAll 21 = .ok (.if_icmp .ne 5, 3) := dk_160 0 5 (dk_at dksX7_readAll_0 21 rfl rfl)
theorem dX7_readAll_24 : decode cX7_readAll 24 = .ok (.iconst 0, 1) := dk_3 (dk_at dksX7_readAll_1 0 rfl rfl)
theorem dX7_readAll_25 : decode cX7_readAll 25 = .ok (.ireturn, 1) := dk_172 (dk_at dksX7_readAll_1 1 rfl rfl)
theorem dX7_readAll_26 : decode cX7_readAll 26 = .ok (.iconst 0, 1) := dk_3 (dk_at dksX7_readAll_1 2 rfl rfl)
theorem dX7_readAll_27 : decode cX7_readAll 27 = .ok (.istore_n 2, 1) := dk_61 (dk_at dksX7_readAll_1 3 rfl rfl)
theorem dX7_readAll_28 : decode cX7_readAll 28 = .ok (.aload_n 0, 1) := dk_42 (dk_at dksX7_readAll_1 4 rfl rfl)
theorem dX7_readAll_29 : decode cX7_readAll 29 = .ok (.iload_n 1, 1) := dk_27 (dk_at dksX7_readAll_1 5 rfl rfl)
theorem dX7_readAll_30 : decode cX7_readAll 30 = .ok (.iload_n 2, 1) := dk_28 (dk_at dksX7_readAll_1 6 rfl rfl)
theorem dX7_readAll_31 : decode cX7_readAll 31 = .ok (.invokevirtual 233, 3) := dk_182 0 233 (dk_at dksX7_readAll_1 7 rfl rfl)
theorem dX7_readAll_34 : decode cX7_readAll 34 = .ok (.ifCond .ne 5, 3) := dk_154 0 5 (dk_at dksX7_readAll_1 10 rfl rfl)
theorem dX7_readAll_37 : decode cX7_readAll 37 = .ok (.iconst (-1), 1) := dk_2 (dk_at dksX7_readAll_1 13 rfl rfl)
theorem dX7_readAll_38 : decode cX7_readAll 38 = .ok (.ireturn, 1) := dk_172 (dk_at dksX7_readAll_1 14 rfl rfl)
theorem dX7_readAll_39 : decode cX7_readAll 39 = .ok (.aload_n 0, 1) := dk_42 (dk_at dksX7_readAll_1 15 rfl rfl)
theorem dX7_readAll_40 : decode cX7_readAll 40 = .ok (.invokevirtual 102, 3) := dk_182 0 102 (dk_at dksX7_readAll_1 16 rfl rfl)
theorem dX7_readAll_43 : decode cX7_readAll 43 = .ok (.aload_n 0, 1) := dk_42 (dk_at dksX7_readAll_1 19 rfl rfl)
theorem dX7_readAll_44 : decode cX7_readAll 44 = .ok (.getfield 89, 3) := dk_180 0 89 (dk_at dksX7_readAll_1 20 rfl rfl)
theorem dX7_readAll_47 : decode cX7_readAll 47 = .ok (.aload_n 0, 1) := dk_42 (dk_at dksX7_readAll_1 23 rfl rfl)
theorem dX7_readAll_48 : decode cX7_readAll 48 = .ok (.getfield 92, 3) := dk_180 0 92 (dk_at dksX7_readAll_2 0 rfl rfl)
theorem dX7_readAll_51 : decode cX7_readAll 51 = .ok (.if_icmp .ne 7, 3) := dk_160 0 7 (dk_at dksX7_readAll_2 3 rfl rfl)
theorem dX7_readAll_54 : decode cX7_readAll 54 = .ok (.iload_n 2, 1) := dk_28 (dk_at dksX7_readAll_2 6 rfl rfl)
theorem dX7_readAll_55 : decode cX7_readAll 55 = .ok (.iconst 1, 1) := dk_4 (dk_at dksX7_readAll_2 7 rfl rfl)
theorem dX7_readAll_56 : decode cX7_readAll 56 = .ok (.iadd, 1) := dk_96 (dk_at dksX7_readAll_2 8 rfl rfl)
theorem dX7_readAll_57 : decode cX7_readAll 57 = .ok (.ireturn, 1) := dk_172 (dk_at dksX7_readAll_2 9 rfl rfl)
theorem dX7_readAll_58 : decode cX7_readAll 58 = .ok (.aload_n 0, 1) := dk_42 (dk_at dksX7_readAll_2 10 rfl rfl)
theorem dX7_readAll_59 : decode cX7_readAll 59 = .ok (.bipush 59, 2) := dk_16 59 (dk_at dksX7_readAll_2 11 rfl rfl)
theorem dX7_readAll_61 : decode cX7_readAll 61 = .ok (.bipush 59, 2) := dk_16 59 (dk_at dksX7_readAll_2 13 rfl rfl)
theorem dX7_readAll_63 : decode cX7_readAll 63 = .ok (.invokevirtual 95, 3) := dk_182 0 95 (dk_at dksX7_readAll_2 15 rfl rfl)
theorem dX7_readAll_66 : decode cX7_readAll 66 = .ok (.ifCond .ne 5, 3) := dk_154 0 5 (dk_at dksX7_readAll_2 18 rfl rfl)
theorem dX7_readAll_69 : decode cX7_readAll 69 = .ok (.iconst (-1), 1) := dk_2 (dk_at dksX7_readAll_2 21 rfl rfl)
theorem dX7_readAll_70 : decode cX7_readAll 70 = .ok (.ireturn, 1) := dk_172 (dk_at dksX7_readAll_2 22 rfl rfl)
theorem dX7_readAll_71 : decode cX7_readAll 71 = .ok (.aload_n 0, 1) := dk_42 (dk_at dksX7_readAll_2 23 rfl rfl)
theorem dX7_readAll_72 : decode cX7_readAll 72 = .ok (.dup, 1) := dk_89 (dk_at dksX7_readAll_3 0 rfl rfl)
theorem dX7_readAll_73 : decode cX7_readAll 73 = .ok (.getfield 89, 3) := dk_180 0 89 (dk_at dksX7_readAll_3 1 rfl rfl)
theorem dX7_readAll_76 : decode cX7_readAll 76 = .ok (.iconst 1, 1) := dk_4 (dk_at dksX7_readAll_3 4 rfl rfl)
theorem dX7_readAll_77 : decode cX7_readAll 77 = .ok (.iadd, 1) := dk_96 (dk_at dksX7_readAll_3 5 rfl rfl)
theorem dX7_readAll_78 : decode cX7_readAll 78 = .ok (.putfield 89, 3) := dk_181 0 89 (dk_at dksX7_readAll_3 6 rfl rfl)
theorem dX7_readAll_81 : decode cX7_readAll 81 = .ok (.iinc 2 1, 3) := dk_132 2 1 (dk_at dksX7_readAll_3 9 rfl rfl)
theorem dX7_readAll_84 : decode cX7_readAll 84 = .ok (.goto (-56), 3) := dk_167 255 200 (dk_at dksX7_readAll_3 12 rfl rfl)
abbrev cX7_uses : ByteArray := prog_18_method_34_code
def yX7_uses : MethodName := ⟨RX7, "uses", "()V"⟩
def dkwX7_uses_0 : List UInt8 := [42, 3, 181, 0, 3, 42, 42, 180, 0, 86, 181, 0, 92, 42, 3, 181, 0, 86, 42, 3, 181, 0, 89, 177]
abbrev dktX7_uses_0 : List UInt8 := dkwX7_uses_0 ++ []
theorem dksX7_uses_0 : cX7_uses.data.toList.drop 0 = dktX7_uses_0 := by decide +kernel
theorem dX7_uses_0 : decode cX7_uses 0 = .ok (.aload_n 0, 1) := dk_42 (dk_at dksX7_uses_0 0 rfl rfl)
theorem dX7_uses_1 : decode cX7_uses 1 = .ok (.iconst 0, 1) := dk_3 (dk_at dksX7_uses_0 1 rfl rfl)
theorem dX7_uses_2 : decode cX7_uses 2 = .ok (.putfield 3, 3) := dk_181 0 3 (dk_at dksX7_uses_0 2 rfl rfl)
theorem dX7_uses_5 : decode cX7_uses 5 = .ok (.aload_n 0, 1) := dk_42 (dk_at dksX7_uses_0 5 rfl rfl)
theorem dX7_uses_6 : decode cX7_uses 6 = .ok (.aload_n 0, 1) := dk_42 (dk_at dksX7_uses_0 6 rfl rfl)
theorem dX7_uses_7 : decode cX7_uses 7 = .ok (.getfield 86, 3) := dk_180 0 86 (dk_at dksX7_uses_0 7 rfl rfl)
theorem dX7_uses_10 : decode cX7_uses 10 = .ok (.putfield 92, 3) := dk_181 0 92 (dk_at dksX7_uses_0 10 rfl rfl)
theorem dX7_uses_13 : decode cX7_uses 13 = .ok (.aload_n 0, 1) := dk_42 (dk_at dksX7_uses_0 13 rfl rfl)
theorem dX7_uses_14 : decode cX7_uses 14 = .ok (.iconst 0, 1) := dk_3 (dk_at dksX7_uses_0 14 rfl rfl)
theorem dX7_uses_15 : decode cX7_uses 15 = .ok (.putfield 86, 3) := dk_181 0 86 (dk_at dksX7_uses_0 15 rfl rfl)
theorem dX7_uses_18 : decode cX7_uses 18 = .ok (.aload_n 0, 1) := dk_42 (dk_at dksX7_uses_0 18 rfl rfl)
theorem dX7_uses_19 : decode cX7_uses 19 = .ok (.iconst 0, 1) := dk_3 (dk_at dksX7_uses_0 19 rfl rfl)
theorem dX7_uses_20 : decode cX7_uses 20 = .ok (.putfield 89, 3) := dk_181 0 89 (dk_at dksX7_uses_0 20 rfl rfl)
theorem dX7_uses_23 : decode cX7_uses 23 = .ok (.return_, 1) := dk_177 (dk_at dksX7_uses_0 23 rfl rfl)
abbrev cX7_blanks : ByteArray := prog_18_method_26_code
def yX7_blanks : MethodName := ⟨RX7, "blanks", "()V"⟩
def dkwX7_blanks_1 : List UInt8 := [42, 42, 180, 0, 89, 181, 0, 99, 177]
abbrev dktX7_blanks_1 : List UInt8 := dkwX7_blanks_1 ++ []
def dkwX7_blanks_0 : List UInt8 := [42, 16, 32, 16, 32, 182, 0, 95, 153, 0, 16, 42, 89, 180, 0, 89, 4, 96, 181, 0, 89, 167, 255, 235]
abbrev dktX7_blanks_0 : List UInt8 := dkwX7_blanks_0 ++ dktX7_blanks_1
theorem dksX7_blanks_0 : cX7_blanks.data.toList.drop 0 = dktX7_blanks_0 := by decide +kernel
theorem dksX7_blanks_1 : cX7_blanks.data.toList.drop 24 = dktX7_blanks_1 := dk_seg dksX7_blanks_0 24 rfl rfl
theorem dX7_blanks_0 : decode cX7_blanks 0 = .ok (.aload_n 0, 1) := dk_42 (dk_at dksX7_blanks_0 0 rfl rfl)
theorem dX7_blanks_1 : decode cX7_blanks 1 = .ok (.bipush 32, 2) := dk_16 32 (dk_at dksX7_blanks_0 1 rfl rfl)
theorem dX7_blanks_3 : decode cX7_blanks 3 = .ok (.bipush 32, 2) := dk_16 32 (dk_at dksX7_blanks_0 3 rfl rfl)
theorem dX7_blanks_5 : decode cX7_blanks 5 = .ok (.invokevirtual 95, 3) := dk_182 0 95 (dk_at dksX7_blanks_0 5 rfl rfl)
theorem dX7_blanks_8 : decode cX7_blanks 8 = .ok (.ifCond .eq 16, 3) := dk_153 0 16 (dk_at dksX7_blanks_0 8 rfl rfl)
theorem dX7_blanks_11 : decode cX7_blanks 11 = .ok (.aload_n 0, 1) := dk_42 (dk_at dksX7_blanks_0 11 rfl rfl)
theorem dX7_blanks_12 : decode cX7_blanks 12 = .ok (.dup, 1) := dk_89 (dk_at dksX7_blanks_0 12 rfl rfl)
theorem dX7_blanks_13 : decode cX7_blanks 13 = .ok (.getfield 89, 3) := dk_180 0 89 (dk_at dksX7_blanks_0 13 rfl rfl)
theorem dX7_blanks_16 : decode cX7_blanks 16 = .ok (.iconst 1, 1) := dk_4 (dk_at dksX7_blanks_0 16 rfl rfl)
theorem dX7_blanks_17 : decode cX7_blanks 17 = .ok (.iadd, 1) := dk_96 (dk_at dksX7_blanks_0 17 rfl rfl)
theorem dX7_blanks_18 : decode cX7_blanks 18 = .ok (.putfield 89, 3) := dk_181 0 89 (dk_at dksX7_blanks_0 18 rfl rfl)
theorem dX7_blanks_21 : decode cX7_blanks 21 = .ok (.goto (-21), 3) := dk_167 255 235 (dk_at dksX7_blanks_0 21 rfl rfl)
theorem dX7_blanks_24 : decode cX7_blanks 24 = .ok (.aload_n 0, 1) := dk_42 (dk_at dksX7_blanks_1 0 rfl rfl)
theorem dX7_blanks_25 : decode cX7_blanks 25 = .ok (.aload_n 0, 1) := dk_42 (dk_at dksX7_blanks_1 1 rfl rfl)
theorem dX7_blanks_26 : decode cX7_blanks 26 = .ok (.getfield 89, 3) := dk_180 0 89 (dk_at dksX7_blanks_1 2 rfl rfl)
theorem dX7_blanks_29 : decode cX7_blanks 29 = .ok (.putfield 99, 3) := dk_181 0 99 (dk_at dksX7_blanks_1 5 rfl rfl)
theorem dX7_blanks_32 : decode cX7_blanks 32 = .ok (.return_, 1) := dk_177 (dk_at dksX7_blanks_1 8 rfl rfl)
abbrev cX7_isAt : ByteArray := prog_18_method_25_code
def yX7_isAt : MethodName := ⟨RX7, "isAt", "(II)Z"⟩
def dkwX7_isAt_1 : List UInt8 := [42, 180, 0, 29, 42, 180, 0, 89, 51, 28, 163, 0, 7, 4, 167, 0, 4, 3, 172]
abbrev dktX7_isAt_1 : List UInt8 := dkwX7_isAt_1 ++ []
def dkwX7_isAt_0 : List UInt8 := [42, 180, 0, 89, 42, 180, 0, 92, 162, 0, 33, 42, 180, 0, 29, 42, 180, 0, 89, 51, 27, 161, 0, 20]
abbrev dktX7_isAt_0 : List UInt8 := dkwX7_isAt_0 ++ dktX7_isAt_1
theorem dksX7_isAt_0 : cX7_isAt.data.toList.drop 0 = dktX7_isAt_0 := by decide +kernel
theorem dksX7_isAt_1 : cX7_isAt.data.toList.drop 24 = dktX7_isAt_1 := dk_seg dksX7_isAt_0 24 rfl rfl
theorem dX7_isAt_0 : decode cX7_isAt 0 = .ok (.aload_n 0, 1) := dk_42 (dk_at dksX7_isAt_0 0 rfl rfl)
theorem dX7_isAt_1 : decode cX7_isAt 1 = .ok (.getfield 89, 3) := dk_180 0 89 (dk_at dksX7_isAt_0 1 rfl rfl)
theorem dX7_isAt_4 : decode cX7_isAt 4 = .ok (.aload_n 0, 1) := dk_42 (dk_at dksX7_isAt_0 4 rfl rfl)
theorem dX7_isAt_5 : decode cX7_isAt 5 = .ok (.getfield 92, 3) := dk_180 0 92 (dk_at dksX7_isAt_0 5 rfl rfl)
theorem dX7_isAt_8 : decode cX7_isAt 8 = .ok (.if_icmp .ge 33, 3) := dk_162 0 33 (dk_at dksX7_isAt_0 8 rfl rfl)
theorem dX7_isAt_11 : decode cX7_isAt 11 = .ok (.aload_n 0, 1) := dk_42 (dk_at dksX7_isAt_0 11 rfl rfl)
theorem dX7_isAt_12 : decode cX7_isAt 12 = .ok (.getfield 29, 3) := dk_180 0 29 (dk_at dksX7_isAt_0 12 rfl rfl)
theorem dX7_isAt_15 : decode cX7_isAt 15 = .ok (.aload_n 0, 1) := dk_42 (dk_at dksX7_isAt_0 15 rfl rfl)
theorem dX7_isAt_16 : decode cX7_isAt 16 = .ok (.getfield 89, 3) := dk_180 0 89 (dk_at dksX7_isAt_0 16 rfl rfl)
theorem dX7_isAt_19 : decode cX7_isAt 19 = .ok (.baload, 1) := dk_51 (dk_at dksX7_isAt_0 19 rfl rfl)
theorem dX7_isAt_20 : decode cX7_isAt 20 = .ok (.iload_n 1, 1) := dk_27 (dk_at dksX7_isAt_0 20 rfl rfl)
theorem dX7_isAt_21 : decode cX7_isAt 21 = .ok (.if_icmp .lt 20, 3) := dk_161 0 20 (dk_at dksX7_isAt_0 21 rfl rfl)
theorem dX7_isAt_24 : decode cX7_isAt 24 = .ok (.aload_n 0, 1) := dk_42 (dk_at dksX7_isAt_1 0 rfl rfl)
theorem dX7_isAt_25 : decode cX7_isAt 25 = .ok (.getfield 29, 3) := dk_180 0 29 (dk_at dksX7_isAt_1 1 rfl rfl)
theorem dX7_isAt_28 : decode cX7_isAt 28 = .ok (.aload_n 0, 1) := dk_42 (dk_at dksX7_isAt_1 4 rfl rfl)
theorem dX7_isAt_29 : decode cX7_isAt 29 = .ok (.getfield 89, 3) := dk_180 0 89 (dk_at dksX7_isAt_1 5 rfl rfl)
theorem dX7_isAt_32 : decode cX7_isAt 32 = .ok (.baload, 1) := dk_51 (dk_at dksX7_isAt_1 8 rfl rfl)
theorem dX7_isAt_33 : decode cX7_isAt 33 = .ok (.iload_n 2, 1) := dk_28 (dk_at dksX7_isAt_1 9 rfl rfl)
theorem dX7_isAt_34 : decode cX7_isAt 34 = .ok (.if_icmp .gt 7, 3) := dk_163 0 7 (dk_at dksX7_isAt_1 10 rfl rfl)
theorem dX7_isAt_37 : decode cX7_isAt 37 = .ok (.iconst 1, 1) := dk_4 (dk_at dksX7_isAt_1 13 rfl rfl)
theorem dX7_isAt_38 : decode cX7_isAt 38 = .ok (.goto 4, 3) := dk_167 0 4 (dk_at dksX7_isAt_1 14 rfl rfl)
theorem dX7_isAt_41 : decode cX7_isAt 41 = .ok (.iconst 0, 1) := dk_3 (dk_at dksX7_isAt_1 17 rfl rfl)
theorem dX7_isAt_42 : decode cX7_isAt 42 = .ok (.ireturn, 1) := dk_172 (dk_at dksX7_isAt_1 18 rfl rfl)
abbrev cX7_readLine : ByteArray := prog_18_method_49_code
def yX7_readLine : MethodName := ⟨RX7, "readLine", "(ZI)Z"⟩
def dkwX7_readLine_1 : List UInt8 := [182, 0, 224, 153, 0, 18, 167, 0, 11, 42, 28, 182, 0, 227, 153, 0, 7, 4, 167, 0, 4, 3, 172]
abbrev dktX7_readLine_1 : List UInt8 := dkwX7_readLine_1 ++ []
def dkwX7_readLine_0 : List UInt8 := [42, 182, 0, 114, 28, 27, 153, 0, 8, 16, 14, 167, 0, 5, 16, 12, 162, 0, 29, 27, 153, 0, 13, 42]
abbrev dktX7_readLine_0 : List UInt8 := dkwX7_readLine_0 ++ dktX7_readLine_1
theorem dksX7_readLine_0 : cX7_readLine.data.toList.drop 0 = dktX7_readLine_0 := by decide +kernel
theorem dksX7_readLine_1 : cX7_readLine.data.toList.drop 24 = dktX7_readLine_1 := dk_seg dksX7_readLine_0 24 rfl rfl
theorem dX7_readLine_0 : decode cX7_readLine 0 = .ok (.aload_n 0, 1) := dk_42 (dk_at dksX7_readLine_0 0 rfl rfl)
theorem dX7_readLine_1 : decode cX7_readLine 1 = .ok (.invokevirtual 114, 3) := dk_182 0 114 (dk_at dksX7_readLine_0 1 rfl rfl)
theorem dX7_readLine_4 : decode cX7_readLine 4 = .ok (.iload_n 2, 1) := dk_28 (dk_at dksX7_readLine_0 4 rfl rfl)
theorem dX7_readLine_5 : decode cX7_readLine 5 = .ok (.iload_n 1, 1) := dk_27 (dk_at dksX7_readLine_0 5 rfl rfl)
theorem dX7_readLine_6 : decode cX7_readLine 6 = .ok (.ifCond .eq 8, 3) := dk_153 0 8 (dk_at dksX7_readLine_0 6 rfl rfl)
theorem dX7_readLine_9 : decode cX7_readLine 9 = .ok (.bipush 14, 2) := dk_16 14 (dk_at dksX7_readLine_0 9 rfl rfl)
theorem dX7_readLine_11 : decode cX7_readLine 11 = .ok (.goto 5, 3) := dk_167 0 5 (dk_at dksX7_readLine_0 11 rfl rfl)
theorem dX7_readLine_14 : decode cX7_readLine 14 = .ok (.bipush 12, 2) := dk_16 12 (dk_at dksX7_readLine_0 14 rfl rfl)
theorem dX7_readLine_16 : decode cX7_readLine 16 = .ok (.if_icmp .ge 29, 3) := dk_162 0 29 (dk_at dksX7_readLine_0 16 rfl rfl)
theorem dX7_readLine_19 : decode cX7_readLine 19 = .ok (.iload_n 1, 1) := dk_27 (dk_at dksX7_readLine_0 19 rfl rfl)
theorem dX7_readLine_20 : decode cX7_readLine 20 = .ok (.ifCond .eq 13, 3) := dk_153 0 13 (dk_at dksX7_readLine_0 20 rfl rfl)
theorem dX7_readLine_23 : decode cX7_readLine 23 = .ok (.aload_n 0, 1) := dk_42 (dk_at dksX7_readLine_0 23 rfl rfl)
theorem dX7_readLine_24 : decode cX7_readLine 24 = .ok (.invokevirtual 224, 3) := dk_182 0 224 (dk_at dksX7_readLine_1 0 rfl rfl)
theorem dX7_readLine_27 : decode cX7_readLine 27 = .ok (.ifCond .eq 18, 3) := dk_153 0 18 (dk_at dksX7_readLine_1 3 rfl rfl)
theorem dX7_readLine_30 : decode cX7_readLine 30 = .ok (.goto 11, 3) := dk_167 0 11 (dk_at dksX7_readLine_1 6 rfl rfl)
theorem dX7_readLine_33 : decode cX7_readLine 33 = .ok (.aload_n 0, 1) := dk_42 (dk_at dksX7_readLine_1 9 rfl rfl)
theorem dX7_readLine_34 : decode cX7_readLine 34 = .ok (.iload_n 2, 1) := dk_28 (dk_at dksX7_readLine_1 10 rfl rfl)
theorem dX7_readLine_35 : decode cX7_readLine 35 = .ok (.invokevirtual 227, 3) := dk_182 0 227 (dk_at dksX7_readLine_1 11 rfl rfl)
theorem dX7_readLine_38 : decode cX7_readLine 38 = .ok (.ifCond .eq 7, 3) := dk_153 0 7 (dk_at dksX7_readLine_1 14 rfl rfl)
theorem dX7_readLine_41 : decode cX7_readLine 41 = .ok (.iconst 1, 1) := dk_4 (dk_at dksX7_readLine_1 17 rfl rfl)
theorem dX7_readLine_42 : decode cX7_readLine 42 = .ok (.goto 4, 3) := dk_167 0 4 (dk_at dksX7_readLine_1 18 rfl rfl)
theorem dX7_readLine_45 : decode cX7_readLine 45 = .ok (.iconst 0, 1) := dk_3 (dk_at dksX7_readLine_1 21 rfl rfl)
theorem dX7_readLine_46 : decode cX7_readLine 46 = .ok (.ireturn, 1) := dk_172 (dk_at dksX7_readLine_1 22 rfl rfl)
abbrev cX7_letters : ByteArray := prog_18_method_27_code
def yX7_letters : MethodName := ⟨RX7, "letters", "()V"⟩
def dkwX7_letters_1 : List UInt8 := [181, 0, 89, 167, 255, 235, 177]
abbrev dktX7_letters_1 : List UInt8 := dkwX7_letters_1 ++ []
def dkwX7_letters_0 : List UInt8 := [42, 182, 0, 102, 42, 16, 97, 16, 122, 182, 0, 95, 153, 0, 16, 42, 89, 180, 0, 89, 4, 96]
abbrev dktX7_letters_0 : List UInt8 := dkwX7_letters_0 ++ dktX7_letters_1
theorem dksX7_letters_0 : cX7_letters.data.toList.drop 0 = dktX7_letters_0 := by decide +kernel
theorem dksX7_letters_1 : cX7_letters.data.toList.drop 22 = dktX7_letters_1 := dk_seg dksX7_letters_0 22 rfl rfl
theorem dX7_letters_0 : decode cX7_letters 0 = .ok (.aload_n 0, 1) := dk_42 (dk_at dksX7_letters_0 0 rfl rfl)
theorem dX7_letters_1 : decode cX7_letters 1 = .ok (.invokevirtual 102, 3) := dk_182 0 102 (dk_at dksX7_letters_0 1 rfl rfl)
theorem dX7_letters_4 : decode cX7_letters 4 = .ok (.aload_n 0, 1) := dk_42 (dk_at dksX7_letters_0 4 rfl rfl)
theorem dX7_letters_5 : decode cX7_letters 5 = .ok (.bipush 97, 2) := dk_16 97 (dk_at dksX7_letters_0 5 rfl rfl)
theorem dX7_letters_7 : decode cX7_letters 7 = .ok (.bipush 122, 2) := dk_16 122 (dk_at dksX7_letters_0 7 rfl rfl)
theorem dX7_letters_9 : decode cX7_letters 9 = .ok (.invokevirtual 95, 3) := dk_182 0 95 (dk_at dksX7_letters_0 9 rfl rfl)
theorem dX7_letters_12 : decode cX7_letters 12 = .ok (.ifCond .eq 16, 3) := dk_153 0 16 (dk_at dksX7_letters_0 12 rfl rfl)
theorem dX7_letters_15 : decode cX7_letters 15 = .ok (.aload_n 0, 1) := dk_42 (dk_at dksX7_letters_0 15 rfl rfl)
theorem dX7_letters_16 : decode cX7_letters 16 = .ok (.dup, 1) := dk_89 (dk_at dksX7_letters_0 16 rfl rfl)
theorem dX7_letters_17 : decode cX7_letters 17 = .ok (.getfield 89, 3) := dk_180 0 89 (dk_at dksX7_letters_0 17 rfl rfl)
theorem dX7_letters_20 : decode cX7_letters 20 = .ok (.iconst 1, 1) := dk_4 (dk_at dksX7_letters_0 20 rfl rfl)
theorem dX7_letters_21 : decode cX7_letters 21 = .ok (.iadd, 1) := dk_96 (dk_at dksX7_letters_0 21 rfl rfl)
theorem dX7_letters_22 : decode cX7_letters 22 = .ok (.putfield 89, 3) := dk_181 0 89 (dk_at dksX7_letters_1 0 rfl rfl)
theorem dX7_letters_25 : decode cX7_letters 25 = .ok (.goto (-21), 3) := dk_167 255 235 (dk_at dksX7_letters_1 3 rfl rfl)
theorem dX7_letters_28 : decode cX7_letters 28 = .ok (.return_, 1) := dk_177 (dk_at dksX7_letters_1 6 rfl rfl)
abbrev cX7_readCoastLine : ByteArray := prog_18_method_39_code
def yX7_readCoastLine : MethodName := ⟨RX7, "readCoastLine", "()Z"⟩
def dkwX7_readCoastLine_3 : List UInt8 := [153, 0, 19, 42, 7, 3, 17, 3, 231, 182, 0, 124, 153, 0, 7, 4, 167, 0, 4, 3, 172]
abbrev dktX7_readCoastLine_3 : List UInt8 := dkwX7_readCoastLine_3 ++ []
def dkwX7_readCoastLine_2 : List UInt8 := [18, 164, 182, 0, 117, 153, 0, 13, 42, 16, 6, 3, 16, 100, 182, 0, 124, 172, 42, 18, 166, 182, 0, 117]
abbrev dktX7_readCoastLine_2 : List UInt8 := dkwX7_readCoastLine_2 ++ dktX7_readCoastLine_3
def dkwX7_readCoastLine_1 : List UInt8 := [182, 0, 159, 172, 42, 18, 162, 182, 0, 117, 153, 0, 12, 42, 8, 3, 16, 50, 182, 0, 124, 172, 42]
abbrev dktX7_readCoastLine_1 : List UInt8 := dkwX7_readCoastLine_1 ++ dktX7_readCoastLine_2
def dkwX7_readCoastLine_0 : List UInt8 := [42, 18, 151, 182, 0, 117, 153, 0, 8, 42, 182, 0, 153, 172, 42, 18, 157, 182, 0, 117, 153, 0, 8, 42]
abbrev dktX7_readCoastLine_0 : List UInt8 := dkwX7_readCoastLine_0 ++ dktX7_readCoastLine_1
theorem dksX7_readCoastLine_0 : cX7_readCoastLine.data.toList.drop 0 = dktX7_readCoastLine_0 := by decide +kernel
theorem dksX7_readCoastLine_1 : cX7_readCoastLine.data.toList.drop 24 = dktX7_readCoastLine_1 := dk_seg dksX7_readCoastLine_0 24 rfl rfl
theorem dksX7_readCoastLine_2 : cX7_readCoastLine.data.toList.drop 47 = dktX7_readCoastLine_2 := dk_seg dksX7_readCoastLine_1 23 rfl rfl
theorem dksX7_readCoastLine_3 : cX7_readCoastLine.data.toList.drop 71 = dktX7_readCoastLine_3 := dk_seg dksX7_readCoastLine_2 24 rfl rfl
theorem dX7_readCoastLine_0 : decode cX7_readCoastLine 0 = .ok (.aload_n 0, 1) := dk_42 (dk_at dksX7_readCoastLine_0 0 rfl rfl)
theorem dX7_readCoastLine_1 : decode cX7_readCoastLine 1 = .ok (.ldc 151, 2) := dk_18 151 (dk_at dksX7_readCoastLine_0 1 rfl rfl)
theorem dX7_readCoastLine_3 : decode cX7_readCoastLine 3 = .ok (.invokevirtual 117, 3) := dk_182 0 117 (dk_at dksX7_readCoastLine_0 3 rfl rfl)
theorem dX7_readCoastLine_6 : decode cX7_readCoastLine 6 = .ok (.ifCond .eq 8, 3) := dk_153 0 8 (dk_at dksX7_readCoastLine_0 6 rfl rfl)
theorem dX7_readCoastLine_9 : decode cX7_readCoastLine 9 = .ok (.aload_n 0, 1) := dk_42 (dk_at dksX7_readCoastLine_0 9 rfl rfl)
theorem dX7_readCoastLine_10 : decode cX7_readCoastLine 10 = .ok (.invokevirtual 153, 3) := dk_182 0 153 (dk_at dksX7_readCoastLine_0 10 rfl rfl)
theorem dX7_readCoastLine_13 : decode cX7_readCoastLine 13 = .ok (.ireturn, 1) := dk_172 (dk_at dksX7_readCoastLine_0 13 rfl rfl)
theorem dX7_readCoastLine_14 : decode cX7_readCoastLine 14 = .ok (.aload_n 0, 1) := dk_42 (dk_at dksX7_readCoastLine_0 14 rfl rfl)
theorem dX7_readCoastLine_15 : decode cX7_readCoastLine 15 = .ok (.ldc 157, 2) := dk_18 157 (dk_at dksX7_readCoastLine_0 15 rfl rfl)
theorem dX7_readCoastLine_17 : decode cX7_readCoastLine 17 = .ok (.invokevirtual 117, 3) := dk_182 0 117 (dk_at dksX7_readCoastLine_0 17 rfl rfl)
theorem dX7_readCoastLine_20 : decode cX7_readCoastLine 20 = .ok (.ifCond .eq 8, 3) := dk_153 0 8 (dk_at dksX7_readCoastLine_0 20 rfl rfl)
theorem dX7_readCoastLine_23 : decode cX7_readCoastLine 23 = .ok (.aload_n 0, 1) := dk_42 (dk_at dksX7_readCoastLine_0 23 rfl rfl)
theorem dX7_readCoastLine_24 : decode cX7_readCoastLine 24 = .ok (.invokevirtual 159, 3) := dk_182 0 159 (dk_at dksX7_readCoastLine_1 0 rfl rfl)
theorem dX7_readCoastLine_27 : decode cX7_readCoastLine 27 = .ok (.ireturn, 1) := dk_172 (dk_at dksX7_readCoastLine_1 3 rfl rfl)
theorem dX7_readCoastLine_28 : decode cX7_readCoastLine 28 = .ok (.aload_n 0, 1) := dk_42 (dk_at dksX7_readCoastLine_1 4 rfl rfl)
theorem dX7_readCoastLine_29 : decode cX7_readCoastLine 29 = .ok (.ldc 162, 2) := dk_18 162 (dk_at dksX7_readCoastLine_1 5 rfl rfl)
theorem dX7_readCoastLine_31 : decode cX7_readCoastLine 31 = .ok (.invokevirtual 117, 3) := dk_182 0 117 (dk_at dksX7_readCoastLine_1 7 rfl rfl)
theorem dX7_readCoastLine_34 : decode cX7_readCoastLine 34 = .ok (.ifCond .eq 12, 3) := dk_153 0 12 (dk_at dksX7_readCoastLine_1 10 rfl rfl)
theorem dX7_readCoastLine_37 : decode cX7_readCoastLine 37 = .ok (.aload_n 0, 1) := dk_42 (dk_at dksX7_readCoastLine_1 13 rfl rfl)
theorem dX7_readCoastLine_38 : decode cX7_readCoastLine 38 = .ok (.iconst 5, 1) := dk_8 (dk_at dksX7_readCoastLine_1 14 rfl rfl)
theorem dX7_readCoastLine_39 : decode cX7_readCoastLine 39 = .ok (.iconst 0, 1) := dk_3 (dk_at dksX7_readCoastLine_1 15 rfl rfl)
theorem dX7_readCoastLine_40 : decode cX7_readCoastLine 40 = .ok (.bipush 50, 2) := dk_16 50 (dk_at dksX7_readCoastLine_1 16 rfl rfl)
theorem dX7_readCoastLine_42 : decode cX7_readCoastLine 42 = .ok (.invokevirtual 124, 3) := dk_182 0 124 (dk_at dksX7_readCoastLine_1 18 rfl rfl)
theorem dX7_readCoastLine_45 : decode cX7_readCoastLine 45 = .ok (.ireturn, 1) := dk_172 (dk_at dksX7_readCoastLine_1 21 rfl rfl)
theorem dX7_readCoastLine_46 : decode cX7_readCoastLine 46 = .ok (.aload_n 0, 1) := dk_42 (dk_at dksX7_readCoastLine_1 22 rfl rfl)
theorem dX7_readCoastLine_47 : decode cX7_readCoastLine 47 = .ok (.ldc 164, 2) := dk_18 164 (dk_at dksX7_readCoastLine_2 0 rfl rfl)
theorem dX7_readCoastLine_49 : decode cX7_readCoastLine 49 = .ok (.invokevirtual 117, 3) := dk_182 0 117 (dk_at dksX7_readCoastLine_2 2 rfl rfl)
theorem dX7_readCoastLine_52 : decode cX7_readCoastLine 52 = .ok (.ifCond .eq 13, 3) := dk_153 0 13 (dk_at dksX7_readCoastLine_2 5 rfl rfl)
theorem dX7_readCoastLine_55 : decode cX7_readCoastLine 55 = .ok (.aload_n 0, 1) := dk_42 (dk_at dksX7_readCoastLine_2 8 rfl rfl)
theorem dX7_readCoastLine_56 : decode cX7_readCoastLine 56 = .ok (.bipush 6, 2) := dk_16 6 (dk_at dksX7_readCoastLine_2 9 rfl rfl)
theorem dX7_readCoastLine_58 : decode cX7_readCoastLine 58 = .ok (.iconst 0, 1) := dk_3 (dk_at dksX7_readCoastLine_2 11 rfl rfl)
theorem dX7_readCoastLine_59 : decode cX7_readCoastLine 59 = .ok (.bipush 100, 2) := dk_16 100 (dk_at dksX7_readCoastLine_2 12 rfl rfl)
theorem dX7_readCoastLine_61 : decode cX7_readCoastLine 61 = .ok (.invokevirtual 124, 3) := dk_182 0 124 (dk_at dksX7_readCoastLine_2 14 rfl rfl)
theorem dX7_readCoastLine_64 : decode cX7_readCoastLine 64 = .ok (.ireturn, 1) := dk_172 (dk_at dksX7_readCoastLine_2 17 rfl rfl)
theorem dX7_readCoastLine_65 : decode cX7_readCoastLine 65 = .ok (.aload_n 0, 1) := dk_42 (dk_at dksX7_readCoastLine_2 18 rfl rfl)
theorem dX7_readCoastLine_66 : decode cX7_readCoastLine 66 = .ok (.ldc 166, 2) := dk_18 166 (dk_at dksX7_readCoastLine_2 19 rfl rfl)
theorem dX7_readCoastLine_68 : decode cX7_readCoastLine 68 = .ok (.invokevirtual 117, 3) := dk_182 0 117 (dk_at dksX7_readCoastLine_2 21 rfl rfl)
theorem dX7_readCoastLine_71 : decode cX7_readCoastLine 71 = .ok (.ifCond .eq 19, 3) := dk_153 0 19 (dk_at dksX7_readCoastLine_3 0 rfl rfl)
theorem dX7_readCoastLine_74 : decode cX7_readCoastLine 74 = .ok (.aload_n 0, 1) := dk_42 (dk_at dksX7_readCoastLine_3 3 rfl rfl)
theorem dX7_readCoastLine_75 : decode cX7_readCoastLine 75 = .ok (.iconst 4, 1) := dk_7 (dk_at dksX7_readCoastLine_3 4 rfl rfl)
theorem dX7_readCoastLine_76 : decode cX7_readCoastLine 76 = .ok (.iconst 0, 1) := dk_3 (dk_at dksX7_readCoastLine_3 5 rfl rfl)
theorem dX7_readCoastLine_77 : decode cX7_readCoastLine 77 = .ok (.sipush 999, 3) := dk_17 3 231 (dk_at dksX7_readCoastLine_3 6 rfl rfl)
theorem dX7_readCoastLine_80 : decode cX7_readCoastLine 80 = .ok (.invokevirtual 124, 3) := dk_182 0 124 (dk_at dksX7_readCoastLine_3 9 rfl rfl)
theorem dX7_readCoastLine_83 : decode cX7_readCoastLine 83 = .ok (.ifCond .eq 7, 3) := dk_153 0 7 (dk_at dksX7_readCoastLine_3 12 rfl rfl)
theorem dX7_readCoastLine_86 : decode cX7_readCoastLine 86 = .ok (.iconst 1, 1) := dk_4 (dk_at dksX7_readCoastLine_3 15 rfl rfl)
theorem dX7_readCoastLine_87 : decode cX7_readCoastLine 87 = .ok (.goto 4, 3) := dk_167 0 4 (dk_at dksX7_readCoastLine_3 16 rfl rfl)
theorem dX7_readCoastLine_90 : decode cX7_readCoastLine 90 = .ok (.iconst 0, 1) := dk_3 (dk_at dksX7_readCoastLine_3 19 rfl rfl)
theorem dX7_readCoastLine_91 : decode cX7_readCoastLine 91 = .ok (.ireturn, 1) := dk_172 (dk_at dksX7_readCoastLine_3 20 rfl rfl)
abbrev cX7_isWord : ByteArray := prog_18_method_28_code
def yX7_isWord : MethodName := ⟨RX7, "isWord", "(Ljava/lang/String;)Z"⟩
def dkwX7_isWord_2 : List UInt8 := [29, 182, 0, 110, 160, 0, 7, 4, 167, 0, 4, 3, 61, 132, 3, 1, 167, 255, 216, 28, 172]
abbrev dktX7_isWord_2 : List UInt8 := dkwX7_isWord_2 ++ []
def dkwX7_isWord_1 : List UInt8 := [28, 153, 0, 42, 29, 43, 182, 0, 105, 162, 0, 34, 42, 180, 0, 29, 42, 180, 0, 99, 29, 96, 51, 43]
abbrev dktX7_isWord_1 : List UInt8 := dkwX7_isWord_1 ++ dktX7_isWord_2
def dkwX7_isWord_0 : List UInt8 := [42, 180, 0, 89, 42, 180, 0, 99, 100, 43, 182, 0, 105, 160, 0, 7, 4, 167, 0, 4, 3, 61, 3, 62]
abbrev dktX7_isWord_0 : List UInt8 := dkwX7_isWord_0 ++ dktX7_isWord_1
theorem dksX7_isWord_0 : cX7_isWord.data.toList.drop 0 = dktX7_isWord_0 := by decide +kernel
theorem dksX7_isWord_1 : cX7_isWord.data.toList.drop 24 = dktX7_isWord_1 := dk_seg dksX7_isWord_0 24 rfl rfl
theorem dksX7_isWord_2 : cX7_isWord.data.toList.drop 48 = dktX7_isWord_2 := dk_seg dksX7_isWord_1 24 rfl rfl
theorem dX7_isWord_0 : decode cX7_isWord 0 = .ok (.aload_n 0, 1) := dk_42 (dk_at dksX7_isWord_0 0 rfl rfl)
theorem dX7_isWord_1 : decode cX7_isWord 1 = .ok (.getfield 89, 3) := dk_180 0 89 (dk_at dksX7_isWord_0 1 rfl rfl)
theorem dX7_isWord_4 : decode cX7_isWord 4 = .ok (.aload_n 0, 1) := dk_42 (dk_at dksX7_isWord_0 4 rfl rfl)
theorem dX7_isWord_5 : decode cX7_isWord 5 = .ok (.getfield 99, 3) := dk_180 0 99 (dk_at dksX7_isWord_0 5 rfl rfl)
theorem dX7_isWord_8 : decode cX7_isWord 8 = .ok (.isub, 1) := dk_100 (dk_at dksX7_isWord_0 8 rfl rfl)
theorem dX7_isWord_9 : decode cX7_isWord 9 = .ok (.aload_n 1, 1) := dk_43 (dk_at dksX7_isWord_0 9 rfl rfl)
theorem dX7_isWord_10 : decode cX7_isWord 10 = .ok (.invokevirtual 105, 3) := dk_182 0 105 (dk_at dksX7_isWord_0 10 rfl rfl)
theorem dX7_isWord_13 : decode cX7_isWord 13 = .ok (.if_icmp .ne 7, 3) := dk_160 0 7 (dk_at dksX7_isWord_0 13 rfl rfl)
theorem dX7_isWord_16 : decode cX7_isWord 16 = .ok (.iconst 1, 1) := dk_4 (dk_at dksX7_isWord_0 16 rfl rfl)
theorem dX7_isWord_17 : decode cX7_isWord 17 = .ok (.goto 4, 3) := dk_167 0 4 (dk_at dksX7_isWord_0 17 rfl rfl)
theorem dX7_isWord_20 : decode cX7_isWord 20 = .ok (.iconst 0, 1) := dk_3 (dk_at dksX7_isWord_0 20 rfl rfl)
theorem dX7_isWord_21 : decode cX7_isWord 21 = .ok (.istore_n 2, 1) := dk_61 (dk_at dksX7_isWord_0 21 rfl rfl)
theorem dX7_isWord_22 : decode cX7_isWord 22 = .ok (.iconst 0, 1) := dk_3 (dk_at dksX7_isWord_0 22 rfl rfl)
theorem dX7_isWord_23 : decode cX7_isWord 23 = .ok (.istore_n 3, 1) := dk_62 (dk_at dksX7_isWord_0 23 rfl rfl)
theorem dX7_isWord_24 : decode cX7_isWord 24 = .ok (.iload_n 2, 1) := dk_28 (dk_at dksX7_isWord_1 0 rfl rfl)
theorem dX7_isWord_25 : decode cX7_isWord 25 = .ok (.ifCond .eq 42, 3) := dk_153 0 42 (dk_at dksX7_isWord_1 1 rfl rfl)
theorem dX7_isWord_28 : decode cX7_isWord 28 = .ok (.iload_n 3, 1) := dk_29 (dk_at dksX7_isWord_1 4 rfl rfl)
theorem dX7_isWord_29 : decode cX7_isWord 29 = .ok (.aload_n 1, 1) := dk_43 (dk_at dksX7_isWord_1 5 rfl rfl)
theorem dX7_isWord_30 : decode cX7_isWord 30 = .ok (.invokevirtual 105, 3) := dk_182 0 105 (dk_at dksX7_isWord_1 6 rfl rfl)
theorem dX7_isWord_33 : decode cX7_isWord 33 = .ok (.if_icmp .ge 34, 3) := dk_162 0 34 (dk_at dksX7_isWord_1 9 rfl rfl)
theorem dX7_isWord_36 : decode cX7_isWord 36 = .ok (.aload_n 0, 1) := dk_42 (dk_at dksX7_isWord_1 12 rfl rfl)
theorem dX7_isWord_37 : decode cX7_isWord 37 = .ok (.getfield 29, 3) := dk_180 0 29 (dk_at dksX7_isWord_1 13 rfl rfl)
theorem dX7_isWord_40 : decode cX7_isWord 40 = .ok (.aload_n 0, 1) := dk_42 (dk_at dksX7_isWord_1 16 rfl rfl)
theorem dX7_isWord_41 : decode cX7_isWord 41 = .ok (.getfield 99, 3) := dk_180 0 99 (dk_at dksX7_isWord_1 17 rfl rfl)
theorem dX7_isWord_44 : decode cX7_isWord 44 = .ok (.iload_n 3, 1) := dk_29 (dk_at dksX7_isWord_1 20 rfl rfl)
theorem dX7_isWord_45 : decode cX7_isWord 45 = .ok (.iadd, 1) := dk_96 (dk_at dksX7_isWord_1 21 rfl rfl)
theorem dX7_isWord_46 : decode cX7_isWord 46 = .ok (.baload, 1) := dk_51 (dk_at dksX7_isWord_1 22 rfl rfl)
theorem dX7_isWord_47 : decode cX7_isWord 47 = .ok (.aload_n 1, 1) := dk_43 (dk_at dksX7_isWord_1 23 rfl rfl)
theorem dX7_isWord_48 : decode cX7_isWord 48 = .ok (.iload_n 3, 1) := dk_29 (dk_at dksX7_isWord_2 0 rfl rfl)
theorem dX7_isWord_49 : decode cX7_isWord 49 = .ok (.invokevirtual 110, 3) := dk_182 0 110 (dk_at dksX7_isWord_2 1 rfl rfl)
theorem dX7_isWord_52 : decode cX7_isWord 52 = .ok (.if_icmp .ne 7, 3) := dk_160 0 7 (dk_at dksX7_isWord_2 4 rfl rfl)
theorem dX7_isWord_55 : decode cX7_isWord 55 = .ok (.iconst 1, 1) := dk_4 (dk_at dksX7_isWord_2 7 rfl rfl)
theorem dX7_isWord_56 : decode cX7_isWord 56 = .ok (.goto 4, 3) := dk_167 0 4 (dk_at dksX7_isWord_2 8 rfl rfl)
theorem dX7_isWord_59 : decode cX7_isWord 59 = .ok (.iconst 0, 1) := dk_3 (dk_at dksX7_isWord_2 11 rfl rfl)
theorem dX7_isWord_60 : decode cX7_isWord 60 = .ok (.istore_n 2, 1) := dk_61 (dk_at dksX7_isWord_2 12 rfl rfl)
theorem dX7_isWord_61 : decode cX7_isWord 61 = .ok (.iinc 3 1, 3) := dk_132 3 1 (dk_at dksX7_isWord_2 13 rfl rfl)
theorem dX7_isWord_64 : decode cX7_isWord 64 = .ok (.goto (-40), 3) := dk_167 255 216 (dk_at dksX7_isWord_2 16 rfl rfl)
theorem dX7_isWord_67 : decode cX7_isWord 67 = .ok (.iload_n 2, 1) := dk_28 (dk_at dksX7_isWord_2 19 rfl rfl)
theorem dX7_isWord_68 : decode cX7_isWord 68 = .ok (.ireturn, 1) := dk_172 (dk_at dksX7_isWord_2 20 rfl rfl)
abbrev cX7_readWoman : ByteArray := prog_18_method_37_code
def yX7_readWoman : MethodName := ⟨RX7, "readWoman", "()Z"⟩
def dkwX7_readWoman_5 : List UInt8 := [42, 180, 0, 13, 3, 92, 46, 4, 96, 79, 4, 172]
abbrev dktX7_readWoman_5 : List UInt8 := dkwX7_readWoman_5 ++ []
def dkwX7_readWoman_4 : List UInt8 := [180, 0, 13, 27, 16, 6, 184, 0, 61, 42, 18, 142, 182, 0, 139, 153, 0, 7, 4, 167, 0, 4, 3, 79]
abbrev dktX7_readWoman_4 : List UInt8 := dkwX7_readWoman_4 ++ dktX7_readWoman_5
def dkwX7_readWoman_3 : List UInt8 := [180, 0, 13, 27, 7, 184, 0, 61, 28, 79, 42, 180, 0, 13, 27, 8, 184, 0, 61, 29, 79, 42]
abbrev dktX7_readWoman_3 : List UInt8 := dkwX7_readWoman_3 ++ dktX7_readWoman_4
def dkwX7_readWoman_2 : List UInt8 := [153, 0, 13, 42, 3, 16, 9, 182, 0, 121, 167, 0, 4, 3, 62, 29, 156, 0, 5, 3, 172, 42]
abbrev dktX7_readWoman_2 : List UInt8 := dkwX7_readWoman_2 ++ dktX7_readWoman_3
def dkwX7_readWoman_1 : List UInt8 := [172, 42, 18, 131, 3, 17, 3, 231, 182, 0, 133, 61, 28, 156, 0, 5, 3, 172, 42, 18, 137, 182, 0, 139]
abbrev dktX7_readWoman_1 : List UInt8 := dkwX7_readWoman_1 ++ dktX7_readWoman_2
def dkwX7_readWoman_0 : List UInt8 := [42, 182, 0, 74, 60, 27, 16, 8, 159, 0, 15, 42, 27, 3, 184, 0, 61, 182, 0, 127, 154, 0, 5, 3]
abbrev dktX7_readWoman_0 : List UInt8 := dkwX7_readWoman_0 ++ dktX7_readWoman_1
theorem dksX7_readWoman_0 : cX7_readWoman.data.toList.drop 0 = dktX7_readWoman_0 := by decide +kernel
theorem dksX7_readWoman_1 : cX7_readWoman.data.toList.drop 24 = dktX7_readWoman_1 := dk_seg dksX7_readWoman_0 24 rfl rfl
theorem dksX7_readWoman_2 : cX7_readWoman.data.toList.drop 48 = dktX7_readWoman_2 := dk_seg dksX7_readWoman_1 24 rfl rfl
theorem dksX7_readWoman_3 : cX7_readWoman.data.toList.drop 70 = dktX7_readWoman_3 := dk_seg dksX7_readWoman_2 22 rfl rfl
theorem dksX7_readWoman_4 : cX7_readWoman.data.toList.drop 92 = dktX7_readWoman_4 := dk_seg dksX7_readWoman_3 22 rfl rfl
theorem dksX7_readWoman_5 : cX7_readWoman.data.toList.drop 116 = dktX7_readWoman_5 := dk_seg dksX7_readWoman_4 24 rfl rfl
theorem dX7_readWoman_0 : decode cX7_readWoman 0 = .ok (.aload_n 0, 1) := dk_42 (dk_at dksX7_readWoman_0 0 rfl rfl)
theorem dX7_readWoman_1 : decode cX7_readWoman 1 = .ok (.invokevirtual 74, 3) := dk_182 0 74 (dk_at dksX7_readWoman_0 1 rfl rfl)
theorem dX7_readWoman_4 : decode cX7_readWoman 4 = .ok (.istore_n 1, 1) := dk_60 (dk_at dksX7_readWoman_0 4 rfl rfl)
theorem dX7_readWoman_5 : decode cX7_readWoman 5 = .ok (.iload_n 1, 1) := dk_27 (dk_at dksX7_readWoman_0 5 rfl rfl)
theorem dX7_readWoman_6 : decode cX7_readWoman 6 = .ok (.bipush 8, 2) := dk_16 8 (dk_at dksX7_readWoman_0 6 rfl rfl)
theorem dX7_readWoman_8 : decode cX7_readWoman 8 = .ok (.if_icmp .eq 15, 3) := dk_159 0 15 (dk_at dksX7_readWoman_0 8 rfl rfl)
theorem dX7_readWoman_11 : decode cX7_readWoman 11 = .ok (.aload_n 0, 1) := dk_42 (dk_at dksX7_readWoman_0 11 rfl rfl)
theorem dX7_readWoman_12 : decode cX7_readWoman 12 = .ok (.iload_n 1, 1) := dk_27 (dk_at dksX7_readWoman_0 12 rfl rfl)
theorem dX7_readWoman_13 : decode cX7_readWoman 13 = .ok (.iconst 0, 1) := dk_3 (dk_at dksX7_readWoman_0 13 rfl rfl)
theorem dX7_readWoman_14 : decode cX7_readWoman 14 = .ok (.invokestatic 61, 3) := dk_184 0 61 (dk_at dksX7_readWoman_0 14 rfl rfl)
theorem dX7_readWoman_17 : decode cX7_readWoman 17 = .ok (.invokevirtual 127, 3) := dk_182 0 127 (dk_at dksX7_readWoman_0 17 rfl rfl)
theorem dX7_readWoman_20 : decode cX7_readWoman 20 = .ok (.ifCond .ne 5, 3) := dk_154 0 5 (dk_at dksX7_readWoman_0 20 rfl rfl)
theorem dX7_readWoman_23 : decode cX7_readWoman 23 = .ok (.iconst 0, 1) := dk_3 (dk_at dksX7_readWoman_0 23 rfl rfl)
theorem dX7_readWoman_24 : decode cX7_readWoman 24 = .ok (.ireturn, 1) := dk_172 (dk_at dksX7_readWoman_1 0 rfl rfl)
theorem dX7_readWoman_25 : decode cX7_readWoman 25 = .ok (.aload_n 0, 1) := dk_42 (dk_at dksX7_readWoman_1 1 rfl rfl)
theorem dX7_readWoman_26 : decode cX7_readWoman 26 = .ok (.ldc 131, 2) := dk_18 131 (dk_at dksX7_readWoman_1 2 rfl rfl)
theorem dX7_readWoman_28 : decode cX7_readWoman 28 = .ok (.iconst 0, 1) := dk_3 (dk_at dksX7_readWoman_1 4 rfl rfl)
theorem dX7_readWoman_29 : decode cX7_readWoman 29 = .ok (.sipush 999, 3) := dk_17 3 231 (dk_at dksX7_readWoman_1 5 rfl rfl)
theorem dX7_readWoman_32 : decode cX7_readWoman 32 = .ok (.invokevirtual 133, 3) := dk_182 0 133 (dk_at dksX7_readWoman_1 8 rfl rfl)
theorem dX7_readWoman_35 : decode cX7_readWoman 35 = .ok (.istore_n 2, 1) := dk_61 (dk_at dksX7_readWoman_1 11 rfl rfl)
theorem dX7_readWoman_36 : decode cX7_readWoman 36 = .ok (.iload_n 2, 1) := dk_28 (dk_at dksX7_readWoman_1 12 rfl rfl)
theorem dX7_readWoman_37 : decode cX7_readWoman 37 = .ok (.ifCond .ge 5, 3) := dk_156 0 5 (dk_at dksX7_readWoman_1 13 rfl rfl)
theorem dX7_readWoman_40 : decode cX7_readWoman 40 = .ok (.iconst 0, 1) := dk_3 (dk_at dksX7_readWoman_1 16 rfl rfl)
theorem dX7_readWoman_41 : decode cX7_readWoman 41 = .ok (.ireturn, 1) := dk_172 (dk_at dksX7_readWoman_1 17 rfl rfl)
theorem dX7_readWoman_42 : decode cX7_readWoman 42 = .ok (.aload_n 0, 1) := dk_42 (dk_at dksX7_readWoman_1 18 rfl rfl)
theorem dX7_readWoman_43 : decode cX7_readWoman 43 = .ok (.ldc 137, 2) := dk_18 137 (dk_at dksX7_readWoman_1 19 rfl rfl)
theorem dX7_readWoman_45 : decode cX7_readWoman 45 = .ok (.invokevirtual 139, 3) := dk_182 0 139 (dk_at dksX7_readWoman_1 21 rfl rfl)
theorem dX7_readWoman_48 : decode cX7_readWoman 48 = .ok (.ifCond .eq 13, 3) := dk_153 0 13 (dk_at dksX7_readWoman_2 0 rfl rfl)
theorem dX7_readWoman_51 : decode cX7_readWoman 51 = .ok (.aload_n 0, 1) := dk_42 (dk_at dksX7_readWoman_2 3 rfl rfl)
theorem dX7_readWoman_52 : decode cX7_readWoman 52 = .ok (.iconst 0, 1) := dk_3 (dk_at dksX7_readWoman_2 4 rfl rfl)
theorem dX7_readWoman_53 : decode cX7_readWoman 53 = .ok (.bipush 9, 2) := dk_16 9 (dk_at dksX7_readWoman_2 5 rfl rfl)
theorem dX7_readWoman_55 : decode cX7_readWoman 55 = .ok (.invokevirtual 121, 3) := dk_182 0 121 (dk_at dksX7_readWoman_2 7 rfl rfl)
theorem dX7_readWoman_58 : decode cX7_readWoman 58 = .ok (.goto 4, 3) := dk_167 0 4 (dk_at dksX7_readWoman_2 10 rfl rfl)
theorem dX7_readWoman_61 : decode cX7_readWoman 61 = .ok (.iconst 0, 1) := dk_3 (dk_at dksX7_readWoman_2 13 rfl rfl)
theorem dX7_readWoman_62 : decode cX7_readWoman 62 = .ok (.istore_n 3, 1) := dk_62 (dk_at dksX7_readWoman_2 14 rfl rfl)
theorem dX7_readWoman_63 : decode cX7_readWoman 63 = .ok (.iload_n 3, 1) := dk_29 (dk_at dksX7_readWoman_2 15 rfl rfl)
theorem dX7_readWoman_64 : decode cX7_readWoman 64 = .ok (.ifCond .ge 5, 3) := dk_156 0 5 (dk_at dksX7_readWoman_2 16 rfl rfl)
theorem dX7_readWoman_67 : decode cX7_readWoman 67 = .ok (.iconst 0, 1) := dk_3 (dk_at dksX7_readWoman_2 19 rfl rfl)
theorem dX7_readWoman_68 : decode cX7_readWoman 68 = .ok (.ireturn, 1) := dk_172 (dk_at dksX7_readWoman_2 20 rfl rfl)
theorem dX7_readWoman_69 : decode cX7_readWoman 69 = .ok (.aload_n 0, 1) := dk_42 (dk_at dksX7_readWoman_2 21 rfl rfl)
theorem dX7_readWoman_70 : decode cX7_readWoman 70 = .ok (.getfield 13, 3) := dk_180 0 13 (dk_at dksX7_readWoman_3 0 rfl rfl)
theorem dX7_readWoman_73 : decode cX7_readWoman 73 = .ok (.iload_n 1, 1) := dk_27 (dk_at dksX7_readWoman_3 3 rfl rfl)
theorem dX7_readWoman_74 : decode cX7_readWoman 74 = .ok (.iconst 4, 1) := dk_7 (dk_at dksX7_readWoman_3 4 rfl rfl)
theorem dX7_readWoman_75 : decode cX7_readWoman 75 = .ok (.invokestatic 61, 3) := dk_184 0 61 (dk_at dksX7_readWoman_3 5 rfl rfl)
theorem dX7_readWoman_78 : decode cX7_readWoman 78 = .ok (.iload_n 2, 1) := dk_28 (dk_at dksX7_readWoman_3 8 rfl rfl)
theorem dX7_readWoman_79 : decode cX7_readWoman 79 = .ok (.iastore, 1) := dk_79 (dk_at dksX7_readWoman_3 9 rfl rfl)
theorem dX7_readWoman_80 : decode cX7_readWoman 80 = .ok (.aload_n 0, 1) := dk_42 (dk_at dksX7_readWoman_3 10 rfl rfl)
theorem dX7_readWoman_81 : decode cX7_readWoman 81 = .ok (.getfield 13, 3) := dk_180 0 13 (dk_at dksX7_readWoman_3 11 rfl rfl)
theorem dX7_readWoman_84 : decode cX7_readWoman 84 = .ok (.iload_n 1, 1) := dk_27 (dk_at dksX7_readWoman_3 14 rfl rfl)
theorem dX7_readWoman_85 : decode cX7_readWoman 85 = .ok (.iconst 5, 1) := dk_8 (dk_at dksX7_readWoman_3 15 rfl rfl)
theorem dX7_readWoman_86 : decode cX7_readWoman 86 = .ok (.invokestatic 61, 3) := dk_184 0 61 (dk_at dksX7_readWoman_3 16 rfl rfl)
theorem dX7_readWoman_89 : decode cX7_readWoman 89 = .ok (.iload_n 3, 1) := dk_29 (dk_at dksX7_readWoman_3 19 rfl rfl)
theorem dX7_readWoman_90 : decode cX7_readWoman 90 = .ok (.iastore, 1) := dk_79 (dk_at dksX7_readWoman_3 20 rfl rfl)
theorem dX7_readWoman_91 : decode cX7_readWoman 91 = .ok (.aload_n 0, 1) := dk_42 (dk_at dksX7_readWoman_3 21 rfl rfl)
theorem dX7_readWoman_92 : decode cX7_readWoman 92 = .ok (.getfield 13, 3) := dk_180 0 13 (dk_at dksX7_readWoman_4 0 rfl rfl)
theorem dX7_readWoman_95 : decode cX7_readWoman 95 = .ok (.iload_n 1, 1) := dk_27 (dk_at dksX7_readWoman_4 3 rfl rfl)
theorem dX7_readWoman_96 : decode cX7_readWoman 96 = .ok (.bipush 6, 2) := dk_16 6 (dk_at dksX7_readWoman_4 4 rfl rfl)
theorem dX7_readWoman_98 : decode cX7_readWoman 98 = .ok (.invokestatic 61, 3) := dk_184 0 61 (dk_at dksX7_readWoman_4 6 rfl rfl)
theorem dX7_readWoman_101 : decode cX7_readWoman 101 = .ok (.aload_n 0, 1) := dk_42 (dk_at dksX7_readWoman_4 9 rfl rfl)
theorem dX7_readWoman_102 : decode cX7_readWoman 102 = .ok (.ldc 142, 2) := dk_18 142 (dk_at dksX7_readWoman_4 10 rfl rfl)
theorem dX7_readWoman_104 : decode cX7_readWoman 104 = .ok (.invokevirtual 139, 3) := dk_182 0 139 (dk_at dksX7_readWoman_4 12 rfl rfl)
theorem dX7_readWoman_107 : decode cX7_readWoman 107 = .ok (.ifCond .eq 7, 3) := dk_153 0 7 (dk_at dksX7_readWoman_4 15 rfl rfl)
theorem dX7_readWoman_110 : decode cX7_readWoman 110 = .ok (.iconst 1, 1) := dk_4 (dk_at dksX7_readWoman_4 18 rfl rfl)
theorem dX7_readWoman_111 : decode cX7_readWoman 111 = .ok (.goto 4, 3) := dk_167 0 4 (dk_at dksX7_readWoman_4 19 rfl rfl)
theorem dX7_readWoman_114 : decode cX7_readWoman 114 = .ok (.iconst 0, 1) := dk_3 (dk_at dksX7_readWoman_4 22 rfl rfl)
theorem dX7_readWoman_115 : decode cX7_readWoman 115 = .ok (.iastore, 1) := dk_79 (dk_at dksX7_readWoman_4 23 rfl rfl)
theorem dX7_readWoman_116 : decode cX7_readWoman 116 = .ok (.aload_n 0, 1) := dk_42 (dk_at dksX7_readWoman_5 0 rfl rfl)
theorem dX7_readWoman_117 : decode cX7_readWoman 117 = .ok (.getfield 13, 3) := dk_180 0 13 (dk_at dksX7_readWoman_5 1 rfl rfl)
theorem dX7_readWoman_120 : decode cX7_readWoman 120 = .ok (.iconst 0, 1) := dk_3 (dk_at dksX7_readWoman_5 4 rfl rfl)
theorem dX7_readWoman_121 : decode cX7_readWoman 121 = .ok (.dup2, 1) := dk_92 (dk_at dksX7_readWoman_5 5 rfl rfl)
theorem dX7_readWoman_122 : decode cX7_readWoman 122 = .ok (.iaload, 1) := dk_46 (dk_at dksX7_readWoman_5 6 rfl rfl)
theorem dX7_readWoman_123 : decode cX7_readWoman 123 = .ok (.iconst 1, 1) := dk_4 (dk_at dksX7_readWoman_5 7 rfl rfl)
theorem dX7_readWoman_124 : decode cX7_readWoman 124 = .ok (.iadd, 1) := dk_96 (dk_at dksX7_readWoman_5 8 rfl rfl)
theorem dX7_readWoman_125 : decode cX7_readWoman 125 = .ok (.iastore, 1) := dk_79 (dk_at dksX7_readWoman_5 9 rfl rfl)
theorem dX7_readWoman_126 : decode cX7_readWoman 126 = .ok (.iconst 1, 1) := dk_4 (dk_at dksX7_readWoman_5 10 rfl rfl)
theorem dX7_readWoman_127 : decode cX7_readWoman 127 = .ok (.ireturn, 1) := dk_172 (dk_at dksX7_readWoman_5 11 rfl rfl)
abbrev cX7_women : ByteArray := prog_18_method_10_code
def yX7_women : MethodName := ⟨RX7, "women", "()I"⟩
def dkwX7_women_0 : List UInt8 := [42, 180, 0, 13, 3, 46, 172]
abbrev dktX7_women_0 : List UInt8 := dkwX7_women_0 ++ []
theorem dksX7_women_0 : cX7_women.data.toList.drop 0 = dktX7_women_0 := by decide +kernel
theorem dX7_women_0 : decode cX7_women 0 = .ok (.aload_n 0, 1) := dk_42 (dk_at dksX7_women_0 0 rfl rfl)
theorem dX7_women_1 : decode cX7_women 1 = .ok (.getfield 13, 3) := dk_180 0 13 (dk_at dksX7_women_0 1 rfl rfl)
theorem dX7_women_4 : decode cX7_women 4 = .ok (.iconst 0, 1) := dk_3 (dk_at dksX7_women_0 4 rfl rfl)
theorem dX7_women_5 : decode cX7_women 5 = .ok (.iaload, 1) := dk_46 (dk_at dksX7_women_0 5 rfl rfl)
theorem dX7_women_6 : decode cX7_women 6 = .ok (.ireturn, 1) := dk_172 (dk_at dksX7_women_0 6 rfl rfl)
abbrev cX7_womanAt : ByteArray := prog_18_method_12_code
def yX7_womanAt : MethodName := ⟨RX7, "womanAt", "(II)I"⟩
def dkwX7_womanAt_0 : List UInt8 := [16, 9, 16, 7, 26, 104, 96, 27, 96, 172]
abbrev dktX7_womanAt_0 : List UInt8 := dkwX7_womanAt_0 ++ []
theorem dksX7_womanAt_0 : cX7_womanAt.data.toList.drop 0 = dktX7_womanAt_0 := by decide +kernel
theorem dX7_womanAt_0 : decode cX7_womanAt 0 = .ok (.bipush 9, 2) := dk_16 9 (dk_at dksX7_womanAt_0 0 rfl rfl)
theorem dX7_womanAt_2 : decode cX7_womanAt 2 = .ok (.bipush 7, 2) := dk_16 7 (dk_at dksX7_womanAt_0 2 rfl rfl)
theorem dX7_womanAt_4 : decode cX7_womanAt 4 = .ok (.iload_n 0, 1) := dk_26 (dk_at dksX7_womanAt_0 4 rfl rfl)
theorem dX7_womanAt_5 : decode cX7_womanAt 5 = .ok (.imul, 1) := dk_104 (dk_at dksX7_womanAt_0 5 rfl rfl)
theorem dX7_womanAt_6 : decode cX7_womanAt 6 = .ok (.iadd, 1) := dk_96 (dk_at dksX7_womanAt_0 6 rfl rfl)
theorem dX7_womanAt_7 : decode cX7_womanAt 7 = .ok (.iload_n 1, 1) := dk_27 (dk_at dksX7_womanAt_0 7 rfl rfl)
theorem dX7_womanAt_8 : decode cX7_womanAt 8 = .ok (.iadd, 1) := dk_96 (dk_at dksX7_womanAt_0 8 rfl rfl)
theorem dX7_womanAt_9 : decode cX7_womanAt 9 = .ok (.ireturn, 1) := dk_172 (dk_at dksX7_womanAt_0 9 rfl rfl)
abbrev cX7_readLuck : ByteArray := prog_18_method_36_code
def yX7_readLuck : MethodName := ⟨RX7, "readLuck", "(I)Z"⟩
def dkwX7_readLuck_1 : List UInt8 := [132, 2, 1, 167, 255, 233, 4, 172]
abbrev dktX7_readLuck_1 : List UInt8 := dkwX7_readLuck_1 ++ []
def dkwX7_readLuck_0 : List UInt8 := [3, 61, 28, 7, 162, 0, 24, 42, 27, 28, 96, 3, 16, 99, 182, 0, 124, 154, 0, 5, 3, 172]
abbrev dktX7_readLuck_0 : List UInt8 := dkwX7_readLuck_0 ++ dktX7_readLuck_1
theorem dksX7_readLuck_0 : cX7_readLuck.data.toList.drop 0 = dktX7_readLuck_0 := by decide +kernel
theorem dksX7_readLuck_1 : cX7_readLuck.data.toList.drop 22 = dktX7_readLuck_1 := dk_seg dksX7_readLuck_0 22 rfl rfl
theorem dX7_readLuck_0 : decode cX7_readLuck 0 = .ok (.iconst 0, 1) := dk_3 (dk_at dksX7_readLuck_0 0 rfl rfl)
theorem dX7_readLuck_1 : decode cX7_readLuck 1 = .ok (.istore_n 2, 1) := dk_61 (dk_at dksX7_readLuck_0 1 rfl rfl)
theorem dX7_readLuck_2 : decode cX7_readLuck 2 = .ok (.iload_n 2, 1) := dk_28 (dk_at dksX7_readLuck_0 2 rfl rfl)
theorem dX7_readLuck_3 : decode cX7_readLuck 3 = .ok (.iconst 4, 1) := dk_7 (dk_at dksX7_readLuck_0 3 rfl rfl)
theorem dX7_readLuck_4 : decode cX7_readLuck 4 = .ok (.if_icmp .ge 24, 3) := dk_162 0 24 (dk_at dksX7_readLuck_0 4 rfl rfl)
theorem dX7_readLuck_7 : decode cX7_readLuck 7 = .ok (.aload_n 0, 1) := dk_42 (dk_at dksX7_readLuck_0 7 rfl rfl)
theorem dX7_readLuck_8 : decode cX7_readLuck 8 = .ok (.iload_n 1, 1) := dk_27 (dk_at dksX7_readLuck_0 8 rfl rfl)
theorem dX7_readLuck_9 : decode cX7_readLuck 9 = .ok (.iload_n 2, 1) := dk_28 (dk_at dksX7_readLuck_0 9 rfl rfl)
theorem dX7_readLuck_10 : decode cX7_readLuck 10 = .ok (.iadd, 1) := dk_96 (dk_at dksX7_readLuck_0 10 rfl rfl)
theorem dX7_readLuck_11 : decode cX7_readLuck 11 = .ok (.iconst 0, 1) := dk_3 (dk_at dksX7_readLuck_0 11 rfl rfl)
theorem dX7_readLuck_12 : decode cX7_readLuck 12 = .ok (.bipush 99, 2) := dk_16 99 (dk_at dksX7_readLuck_0 12 rfl rfl)
theorem dX7_readLuck_14 : decode cX7_readLuck 14 = .ok (.invokevirtual 124, 3) := dk_182 0 124 (dk_at dksX7_readLuck_0 14 rfl rfl)
theorem dX7_readLuck_17 : decode cX7_readLuck 17 = .ok (.ifCond .ne 5, 3) := dk_154 0 5 (dk_at dksX7_readLuck_0 17 rfl rfl)
theorem dX7_readLuck_20 : decode cX7_readLuck 20 = .ok (.iconst 0, 1) := dk_3 (dk_at dksX7_readLuck_0 20 rfl rfl)
theorem dX7_readLuck_21 : decode cX7_readLuck 21 = .ok (.ireturn, 1) := dk_172 (dk_at dksX7_readLuck_0 21 rfl rfl)
theorem dX7_readLuck_22 : decode cX7_readLuck 22 = .ok (.iinc 2 1, 3) := dk_132 2 1 (dk_at dksX7_readLuck_1 0 rfl rfl)
theorem dX7_readLuck_25 : decode cX7_readLuck 25 = .ok (.goto (-23), 3) := dk_167 255 233 (dk_at dksX7_readLuck_1 3 rfl rfl)
theorem dX7_readLuck_28 : decode cX7_readLuck 28 = .ok (.iconst 1, 1) := dk_4 (dk_at dksX7_readLuck_1 6 rfl rfl)
theorem dX7_readLuck_29 : decode cX7_readLuck 29 = .ok (.ireturn, 1) := dk_172 (dk_at dksX7_readLuck_1 7 rfl rfl)
abbrev cX7_readNumber : ByteArray := prog_18_method_35_code
def yX7_readNumber : MethodName := ⟨RX7, "readNumber", "(III)Z"⟩
def dkwX7_readNumber_1 : List UInt8 := [167, 0, 5, 21, 4, 79, 21, 4, 155, 0, 7, 4, 167, 0, 4, 3, 172]
abbrev dktX7_readNumber_1 : List UInt8 := dkwX7_readNumber_1 ++ []
def dkwX7_readNumber_0 : List UInt8 := [42, 28, 29, 182, 0, 121, 54, 4, 42, 180, 0, 13, 27, 21, 4, 156, 0, 12, 42, 180, 0, 13, 27, 46]
abbrev dktX7_readNumber_0 : List UInt8 := dkwX7_readNumber_0 ++ dktX7_readNumber_1
theorem dksX7_readNumber_0 : cX7_readNumber.data.toList.drop 0 = dktX7_readNumber_0 := by decide +kernel
theorem dksX7_readNumber_1 : cX7_readNumber.data.toList.drop 24 = dktX7_readNumber_1 := dk_seg dksX7_readNumber_0 24 rfl rfl
theorem dX7_readNumber_0 : decode cX7_readNumber 0 = .ok (.aload_n 0, 1) := dk_42 (dk_at dksX7_readNumber_0 0 rfl rfl)
theorem dX7_readNumber_1 : decode cX7_readNumber 1 = .ok (.iload_n 2, 1) := dk_28 (dk_at dksX7_readNumber_0 1 rfl rfl)
theorem dX7_readNumber_2 : decode cX7_readNumber 2 = .ok (.iload_n 3, 1) := dk_29 (dk_at dksX7_readNumber_0 2 rfl rfl)
theorem dX7_readNumber_3 : decode cX7_readNumber 3 = .ok (.invokevirtual 121, 3) := dk_182 0 121 (dk_at dksX7_readNumber_0 3 rfl rfl)
theorem dX7_readNumber_6 : decode cX7_readNumber 6 = .ok (.istore 4, 2) := dk_54 4 (dk_at dksX7_readNumber_0 6 rfl rfl)
theorem dX7_readNumber_8 : decode cX7_readNumber 8 = .ok (.aload_n 0, 1) := dk_42 (dk_at dksX7_readNumber_0 8 rfl rfl)
theorem dX7_readNumber_9 : decode cX7_readNumber 9 = .ok (.getfield 13, 3) := dk_180 0 13 (dk_at dksX7_readNumber_0 9 rfl rfl)
theorem dX7_readNumber_12 : decode cX7_readNumber 12 = .ok (.iload_n 1, 1) := dk_27 (dk_at dksX7_readNumber_0 12 rfl rfl)
theorem dX7_readNumber_13 : decode cX7_readNumber 13 = .ok (.iload 4, 2) := dk_21 4 (dk_at dksX7_readNumber_0 13 rfl rfl)
theorem dX7_readNumber_15 : decode cX7_readNumber 15 = .ok (.ifCond .ge 12, 3) := dk_156 0 12 (dk_at dksX7_readNumber_0 15 rfl rfl)
theorem dX7_readNumber_18 : decode cX7_readNumber 18 = .ok (.aload_n 0, 1) := dk_42 (dk_at dksX7_readNumber_0 18 rfl rfl)
theorem dX7_readNumber_19 : decode cX7_readNumber 19 = .ok (.getfield 13, 3) := dk_180 0 13 (dk_at dksX7_readNumber_0 19 rfl rfl)
theorem dX7_readNumber_22 : decode cX7_readNumber 22 = .ok (.iload_n 1, 1) := dk_27 (dk_at dksX7_readNumber_0 22 rfl rfl)
theorem dX7_readNumber_23 : decode cX7_readNumber 23 = .ok (.iaload, 1) := dk_46 (dk_at dksX7_readNumber_0 23 rfl rfl)
theorem dX7_readNumber_24 : decode cX7_readNumber 24 = .ok (.goto 5, 3) := dk_167 0 5 (dk_at dksX7_readNumber_1 0 rfl rfl)
theorem dX7_readNumber_27 : decode cX7_readNumber 27 = .ok (.iload 4, 2) := dk_21 4 (dk_at dksX7_readNumber_1 3 rfl rfl)
theorem dX7_readNumber_29 : decode cX7_readNumber 29 = .ok (.iastore, 1) := dk_79 (dk_at dksX7_readNumber_1 5 rfl rfl)
theorem dX7_readNumber_30 : decode cX7_readNumber 30 = .ok (.iload 4, 2) := dk_21 4 (dk_at dksX7_readNumber_1 6 rfl rfl)
theorem dX7_readNumber_32 : decode cX7_readNumber 32 = .ok (.ifCond .lt 7, 3) := dk_155 0 7 (dk_at dksX7_readNumber_1 8 rfl rfl)
theorem dX7_readNumber_35 : decode cX7_readNumber 35 = .ok (.iconst 1, 1) := dk_4 (dk_at dksX7_readNumber_1 11 rfl rfl)
theorem dX7_readNumber_36 : decode cX7_readNumber 36 = .ok (.goto 4, 3) := dk_167 0 4 (dk_at dksX7_readNumber_1 12 rfl rfl)
theorem dX7_readNumber_39 : decode cX7_readNumber 39 = .ok (.iconst 0, 1) := dk_3 (dk_at dksX7_readNumber_1 15 rfl rfl)
theorem dX7_readNumber_40 : decode cX7_readNumber 40 = .ok (.ireturn, 1) := dk_172 (dk_at dksX7_readNumber_1 16 rfl rfl)
abbrev cX7_number : ByteArray := prog_18_method_31_code
def yX7_number : MethodName := ⟨RX7, "number", "(II)I"⟩
def dkwX7_number_4 : List UInt8 := [29, 28, 164, 0, 7, 2, 167, 0, 4, 29, 172]
abbrev dktX7_number_4 : List UInt8 := dkwX7_number_4 ++ []
def dkwX7_number_3 : List UInt8 := [180, 0, 99, 159, 0, 26, 42, 180, 0, 89, 42, 180, 0, 99, 100, 6, 163, 0, 13, 29, 27, 161, 0, 8]
abbrev dktX7_number_3 : List UInt8 := dkwX7_number_3 ++ dktX7_number_4
def dkwX7_number_2 : List UInt8 := [100, 167, 0, 4, 29, 62, 42, 89, 180, 0, 89, 4, 96, 181, 0, 89, 167, 255, 200, 42, 180, 0, 89, 42]
abbrev dktX7_number_2 : List UInt8 := dkwX7_number_2 ++ dktX7_number_3
def dkwX7_number_1 : List UInt8 := [180, 0, 99, 100, 6, 162, 0, 23, 16, 10, 29, 104, 42, 180, 0, 29, 42, 180, 0, 89, 51, 96, 16, 48]
abbrev dktX7_number_1 : List UInt8 := dkwX7_number_1 ++ dktX7_number_2
def dkwX7_number_0 : List UInt8 := [42, 182, 0, 102, 3, 62, 42, 16, 48, 16, 57, 182, 0, 95, 153, 0, 51, 42, 180, 0, 89, 42]
abbrev dktX7_number_0 : List UInt8 := dkwX7_number_0 ++ dktX7_number_1
theorem dksX7_number_0 : cX7_number.data.toList.drop 0 = dktX7_number_0 := by decide +kernel
theorem dksX7_number_1 : cX7_number.data.toList.drop 22 = dktX7_number_1 := dk_seg dksX7_number_0 22 rfl rfl
theorem dksX7_number_2 : cX7_number.data.toList.drop 46 = dktX7_number_2 := dk_seg dksX7_number_1 24 rfl rfl
theorem dksX7_number_3 : cX7_number.data.toList.drop 70 = dktX7_number_3 := dk_seg dksX7_number_2 24 rfl rfl
theorem dksX7_number_4 : cX7_number.data.toList.drop 94 = dktX7_number_4 := dk_seg dksX7_number_3 24 rfl rfl
theorem dX7_number_0 : decode cX7_number 0 = .ok (.aload_n 0, 1) := dk_42 (dk_at dksX7_number_0 0 rfl rfl)
theorem dX7_number_1 : decode cX7_number 1 = .ok (.invokevirtual 102, 3) := dk_182 0 102 (dk_at dksX7_number_0 1 rfl rfl)
theorem dX7_number_4 : decode cX7_number 4 = .ok (.iconst 0, 1) := dk_3 (dk_at dksX7_number_0 4 rfl rfl)
theorem dX7_number_5 : decode cX7_number 5 = .ok (.istore_n 3, 1) := dk_62 (dk_at dksX7_number_0 5 rfl rfl)
theorem dX7_number_6 : decode cX7_number 6 = .ok (.aload_n 0, 1) := dk_42 (dk_at dksX7_number_0 6 rfl rfl)
theorem dX7_number_7 : decode cX7_number 7 = .ok (.bipush 48, 2) := dk_16 48 (dk_at dksX7_number_0 7 rfl rfl)
theorem dX7_number_9 : decode cX7_number 9 = .ok (.bipush 57, 2) := dk_16 57 (dk_at dksX7_number_0 9 rfl rfl)
theorem dX7_number_11 : decode cX7_number 11 = .ok (.invokevirtual 95, 3) := dk_182 0 95 (dk_at dksX7_number_0 11 rfl rfl)
theorem dX7_number_14 : decode cX7_number 14 = .ok (.ifCond .eq 51, 3) := dk_153 0 51 (dk_at dksX7_number_0 14 rfl rfl)
theorem dX7_number_17 : decode cX7_number 17 = .ok (.aload_n 0, 1) := dk_42 (dk_at dksX7_number_0 17 rfl rfl)
theorem dX7_number_18 : decode cX7_number 18 = .ok (.getfield 89, 3) := dk_180 0 89 (dk_at dksX7_number_0 18 rfl rfl)
theorem dX7_number_21 : decode cX7_number 21 = .ok (.aload_n 0, 1) := dk_42 (dk_at dksX7_number_0 21 rfl rfl)
theorem dX7_number_22 : decode cX7_number 22 = .ok (.getfield 99, 3) := dk_180 0 99 (dk_at dksX7_number_1 0 rfl rfl)
theorem dX7_number_25 : decode cX7_number 25 = .ok (.isub, 1) := dk_100 (dk_at dksX7_number_1 3 rfl rfl)
theorem dX7_number_26 : decode cX7_number 26 = .ok (.iconst 3, 1) := dk_6 (dk_at dksX7_number_1 4 rfl rfl)
theorem dX7_number_27 : decode cX7_number 27 = .ok (.if_icmp .ge 23, 3) := dk_162 0 23 (dk_at dksX7_number_1 5 rfl rfl)
theorem dX7_number_30 : decode cX7_number 30 = .ok (.bipush 10, 2) := dk_16 10 (dk_at dksX7_number_1 8 rfl rfl)
theorem dX7_number_32 : decode cX7_number 32 = .ok (.iload_n 3, 1) := dk_29 (dk_at dksX7_number_1 10 rfl rfl)
theorem dX7_number_33 : decode cX7_number 33 = .ok (.imul, 1) := dk_104 (dk_at dksX7_number_1 11 rfl rfl)
theorem dX7_number_34 : decode cX7_number 34 = .ok (.aload_n 0, 1) := dk_42 (dk_at dksX7_number_1 12 rfl rfl)
theorem dX7_number_35 : decode cX7_number 35 = .ok (.getfield 29, 3) := dk_180 0 29 (dk_at dksX7_number_1 13 rfl rfl)
theorem dX7_number_38 : decode cX7_number 38 = .ok (.aload_n 0, 1) := dk_42 (dk_at dksX7_number_1 16 rfl rfl)
theorem dX7_number_39 : decode cX7_number 39 = .ok (.getfield 89, 3) := dk_180 0 89 (dk_at dksX7_number_1 17 rfl rfl)
theorem dX7_number_42 : decode cX7_number 42 = .ok (.baload, 1) := dk_51 (dk_at dksX7_number_1 20 rfl rfl)
theorem dX7_number_43 : decode cX7_number 43 = .ok (.iadd, 1) := dk_96 (dk_at dksX7_number_1 21 rfl rfl)
theorem dX7_number_44 : decode cX7_number 44 = .ok (.bipush 48, 2) := dk_16 48 (dk_at dksX7_number_1 22 rfl rfl)
theorem dX7_number_46 : decode cX7_number 46 = .ok (.isub, 1) := dk_100 (dk_at dksX7_number_2 0 rfl rfl)
theorem dX7_number_47 : decode cX7_number 47 = .ok (.goto 4, 3) := dk_167 0 4 (dk_at dksX7_number_2 1 rfl rfl)
theorem dX7_number_50 : decode cX7_number 50 = .ok (.iload_n 3, 1) := dk_29 (dk_at dksX7_number_2 4 rfl rfl)
theorem dX7_number_51 : decode cX7_number 51 = .ok (.istore_n 3, 1) := dk_62 (dk_at dksX7_number_2 5 rfl rfl)
theorem dX7_number_52 : decode cX7_number 52 = .ok (.aload_n 0, 1) := dk_42 (dk_at dksX7_number_2 6 rfl rfl)
theorem dX7_number_53 : decode cX7_number 53 = .ok (.dup, 1) := dk_89 (dk_at dksX7_number_2 7 rfl rfl)
theorem dX7_number_54 : decode cX7_number 54 = .ok (.getfield 89, 3) := dk_180 0 89 (dk_at dksX7_number_2 8 rfl rfl)
theorem dX7_number_57 : decode cX7_number 57 = .ok (.iconst 1, 1) := dk_4 (dk_at dksX7_number_2 11 rfl rfl)
theorem dX7_number_58 : decode cX7_number 58 = .ok (.iadd, 1) := dk_96 (dk_at dksX7_number_2 12 rfl rfl)
theorem dX7_number_59 : decode cX7_number 59 = .ok (.putfield 89, 3) := dk_181 0 89 (dk_at dksX7_number_2 13 rfl rfl)
theorem dX7_number_62 : decode cX7_number 62 = .ok (.goto (-56), 3) := dk_167 255 200 (dk_at dksX7_number_2 16 rfl rfl)
theorem dX7_number_65 : decode cX7_number 65 = .ok (.aload_n 0, 1) := dk_42 (dk_at dksX7_number_2 19 rfl rfl)
theorem dX7_number_66 : decode cX7_number 66 = .ok (.getfield 89, 3) := dk_180 0 89 (dk_at dksX7_number_2 20 rfl rfl)
theorem dX7_number_69 : decode cX7_number 69 = .ok (.aload_n 0, 1) := dk_42 (dk_at dksX7_number_2 23 rfl rfl)
theorem dX7_number_70 : decode cX7_number 70 = .ok (.getfield 99, 3) := dk_180 0 99 (dk_at dksX7_number_3 0 rfl rfl)
theorem dX7_number_73 : decode cX7_number 73 = .ok (.if_icmp .eq 26, 3) := dk_159 0 26 (dk_at dksX7_number_3 3 rfl rfl)
theorem dX7_number_76 : decode cX7_number 76 = .ok (.aload_n 0, 1) := dk_42 (dk_at dksX7_number_3 6 rfl rfl)
theorem dX7_number_77 : decode cX7_number 77 = .ok (.getfield 89, 3) := dk_180 0 89 (dk_at dksX7_number_3 7 rfl rfl)
theorem dX7_number_80 : decode cX7_number 80 = .ok (.aload_n 0, 1) := dk_42 (dk_at dksX7_number_3 10 rfl rfl)
theorem dX7_number_81 : decode cX7_number 81 = .ok (.getfield 99, 3) := dk_180 0 99 (dk_at dksX7_number_3 11 rfl rfl)
theorem dX7_number_84 : decode cX7_number 84 = .ok (.isub, 1) := dk_100 (dk_at dksX7_number_3 14 rfl rfl)
theorem dX7_number_85 : decode cX7_number 85 = .ok (.iconst 3, 1) := dk_6 (dk_at dksX7_number_3 15 rfl rfl)
theorem dX7_number_86 : decode cX7_number 86 = .ok (.if_icmp .gt 13, 3) := dk_163 0 13 (dk_at dksX7_number_3 16 rfl rfl)
theorem dX7_number_89 : decode cX7_number 89 = .ok (.iload_n 3, 1) := dk_29 (dk_at dksX7_number_3 19 rfl rfl)
theorem dX7_number_90 : decode cX7_number 90 = .ok (.iload_n 1, 1) := dk_27 (dk_at dksX7_number_3 20 rfl rfl)
theorem dX7_number_91 : decode cX7_number 91 = .ok (.if_icmp .lt 8, 3) := dk_161 0 8 (dk_at dksX7_number_3 21 rfl rfl)
theorem dX7_number_94 : decode cX7_number 94 = .ok (.iload_n 3, 1) := dk_29 (dk_at dksX7_number_4 0 rfl rfl)
theorem dX7_number_95 : decode cX7_number 95 = .ok (.iload_n 2, 1) := dk_28 (dk_at dksX7_number_4 1 rfl rfl)
theorem dX7_number_96 : decode cX7_number 96 = .ok (.if_icmp .le 7, 3) := dk_164 0 7 (dk_at dksX7_number_4 2 rfl rfl)
theorem dX7_number_99 : decode cX7_number 99 = .ok (.iconst (-1), 1) := dk_2 (dk_at dksX7_number_4 5 rfl rfl)
theorem dX7_number_100 : decode cX7_number 100 = .ok (.goto 4, 3) := dk_167 0 4 (dk_at dksX7_number_4 6 rfl rfl)
theorem dX7_number_103 : decode cX7_number 103 = .ok (.iload_n 3, 1) := dk_29 (dk_at dksX7_number_4 9 rfl rfl)
theorem dX7_number_104 : decode cX7_number 104 = .ok (.ireturn, 1) := dk_172 (dk_at dksX7_number_4 10 rfl rfl)
abbrev cX7_after : ByteArray := prog_18_method_32_code
def yX7_after : MethodName := ⟨RX7, "after", "(Ljava/lang/String;II)I"⟩
def dkwX7_after_0 : List UInt8 := [42, 182, 0, 114, 42, 43, 182, 0, 117, 153, 0, 12, 42, 28, 29, 182, 0, 121, 167, 0, 4, 2, 172]
abbrev dktX7_after_0 : List UInt8 := dkwX7_after_0 ++ []
theorem dksX7_after_0 : cX7_after.data.toList.drop 0 = dktX7_after_0 := by decide +kernel
theorem dX7_after_0 : decode cX7_after 0 = .ok (.aload_n 0, 1) := dk_42 (dk_at dksX7_after_0 0 rfl rfl)
theorem dX7_after_1 : decode cX7_after 1 = .ok (.invokevirtual 114, 3) := dk_182 0 114 (dk_at dksX7_after_0 1 rfl rfl)
theorem dX7_after_4 : decode cX7_after 4 = .ok (.aload_n 0, 1) := dk_42 (dk_at dksX7_after_0 4 rfl rfl)
theorem dX7_after_5 : decode cX7_after 5 = .ok (.aload_n 1, 1) := dk_43 (dk_at dksX7_after_0 5 rfl rfl)
theorem dX7_after_6 : decode cX7_after 6 = .ok (.invokevirtual 117, 3) := dk_182 0 117 (dk_at dksX7_after_0 6 rfl rfl)
theorem dX7_after_9 : decode cX7_after 9 = .ok (.ifCond .eq 12, 3) := dk_153 0 12 (dk_at dksX7_after_0 9 rfl rfl)
theorem dX7_after_12 : decode cX7_after 12 = .ok (.aload_n 0, 1) := dk_42 (dk_at dksX7_after_0 12 rfl rfl)
theorem dX7_after_13 : decode cX7_after 13 = .ok (.iload_n 2, 1) := dk_28 (dk_at dksX7_after_0 13 rfl rfl)
theorem dX7_after_14 : decode cX7_after 14 = .ok (.iload_n 3, 1) := dk_29 (dk_at dksX7_after_0 14 rfl rfl)
theorem dX7_after_15 : decode cX7_after 15 = .ok (.invokevirtual 121, 3) := dk_182 0 121 (dk_at dksX7_after_0 15 rfl rfl)
theorem dX7_after_18 : decode cX7_after 18 = .ok (.goto 4, 3) := dk_167 0 4 (dk_at dksX7_after_0 18 rfl rfl)
theorem dX7_after_21 : decode cX7_after 21 = .ok (.iconst (-1), 1) := dk_2 (dk_at dksX7_after_0 21 rfl rfl)
theorem dX7_after_22 : decode cX7_after 22 = .ok (.ireturn, 1) := dk_172 (dk_at dksX7_after_0 22 rfl rfl)
abbrev cX7_passes : ByteArray := prog_18_method_29_code
def yX7_passes : MethodName := ⟨RX7, "passes", "(Ljava/lang/String;)Z"⟩
def dkwX7_passes_0 : List UInt8 := [42, 182, 0, 114, 42, 43, 182, 0, 117, 153, 0, 5, 4, 172, 42, 42, 180, 0, 99, 181, 0, 89, 3, 172]
abbrev dktX7_passes_0 : List UInt8 := dkwX7_passes_0 ++ []
theorem dksX7_passes_0 : cX7_passes.data.toList.drop 0 = dktX7_passes_0 := by decide +kernel
theorem dX7_passes_0 : decode cX7_passes 0 = .ok (.aload_n 0, 1) := dk_42 (dk_at dksX7_passes_0 0 rfl rfl)
theorem dX7_passes_1 : decode cX7_passes 1 = .ok (.invokevirtual 114, 3) := dk_182 0 114 (dk_at dksX7_passes_0 1 rfl rfl)
theorem dX7_passes_4 : decode cX7_passes 4 = .ok (.aload_n 0, 1) := dk_42 (dk_at dksX7_passes_0 4 rfl rfl)
theorem dX7_passes_5 : decode cX7_passes 5 = .ok (.aload_n 1, 1) := dk_43 (dk_at dksX7_passes_0 5 rfl rfl)
theorem dX7_passes_6 : decode cX7_passes 6 = .ok (.invokevirtual 117, 3) := dk_182 0 117 (dk_at dksX7_passes_0 6 rfl rfl)
theorem dX7_passes_9 : decode cX7_passes 9 = .ok (.ifCond .eq 5, 3) := dk_153 0 5 (dk_at dksX7_passes_0 9 rfl rfl)
theorem dX7_passes_12 : decode cX7_passes 12 = .ok (.iconst 1, 1) := dk_4 (dk_at dksX7_passes_0 12 rfl rfl)
theorem dX7_passes_13 : decode cX7_passes 13 = .ok (.ireturn, 1) := dk_172 (dk_at dksX7_passes_0 13 rfl rfl)
theorem dX7_passes_14 : decode cX7_passes 14 = .ok (.aload_n 0, 1) := dk_42 (dk_at dksX7_passes_0 14 rfl rfl)
theorem dX7_passes_15 : decode cX7_passes 15 = .ok (.aload_n 0, 1) := dk_42 (dk_at dksX7_passes_0 15 rfl rfl)
theorem dX7_passes_16 : decode cX7_passes 16 = .ok (.getfield 99, 3) := dk_180 0 99 (dk_at dksX7_passes_0 16 rfl rfl)
theorem dX7_passes_19 : decode cX7_passes 19 = .ok (.putfield 89, 3) := dk_181 0 89 (dk_at dksX7_passes_0 19 rfl rfl)
theorem dX7_passes_22 : decode cX7_passes 22 = .ok (.iconst 0, 1) := dk_3 (dk_at dksX7_passes_0 22 rfl rfl)
theorem dX7_passes_23 : decode cX7_passes 23 = .ok (.ireturn, 1) := dk_172 (dk_at dksX7_passes_0 23 rfl rfl)
abbrev cX7_readThing : ByteArray := prog_18_method_38_code
def yX7_readThing : MethodName := ⟨RX7, "readThing", "()Z"⟩
def dkwX7_readThing_7 : List UInt8 := [153, 0, 7, 4, 167, 0, 4, 3, 79, 42, 180, 0, 13, 4, 92, 46, 4, 96, 79, 4, 172]
abbrev dktX7_readThing_7 : List UInt8 := dkwX7_readThing_7 ++ []
def dkwX7_readThing_6 : List UInt8 := [27, 16, 7, 184, 0, 68, 3, 79, 42, 180, 0, 13, 27, 16, 8, 184, 0, 68, 42, 18, 149, 182, 0, 139]
abbrev dktX7_readThing_6 : List UInt8 := dkwX7_readThing_6 ++ dktX7_readThing_7
def dkwX7_readThing_5 : List UInt8 := [27, 8, 184, 0, 68, 21, 4, 79, 42, 180, 0, 13, 27, 16, 6, 184, 0, 68, 29, 79, 42, 180, 0, 13]
abbrev dktX7_readThing_5 : List UInt8 := dkwX7_readThing_5 ++ dktX7_readThing_6
def dkwX7_readThing_4 : List UInt8 := [54, 4, 21, 4, 156, 0, 5, 3, 172, 42, 180, 0, 13, 27, 7, 184, 0, 68, 28, 79, 42, 180, 0, 13]
abbrev dktX7_readThing_4 : List UInt8 := dkwX7_readThing_4 ++ dktX7_readThing_5
def dkwX7_readThing_3 : List UInt8 := [42, 18, 147, 182, 0, 139, 153, 0, 17, 42, 3, 42, 182, 0, 74, 4, 100, 182, 0, 121, 167, 0, 4, 28]
abbrev dktX7_readThing_3 : List UInt8 := dkwX7_readThing_3 ++ dktX7_readThing_4
def dkwX7_readThing_2 : List UInt8 := [182, 0, 139, 153, 0, 13, 42, 3, 16, 99, 182, 0, 121, 167, 0, 4, 3, 62, 29, 156, 0, 5, 3, 172]
abbrev dktX7_readThing_2 : List UInt8 := dkwX7_readThing_2 ++ dktX7_readThing_3
def dkwX7_readThing_1 : List UInt8 := [172, 42, 18, 144, 3, 42, 182, 0, 74, 4, 100, 182, 0, 133, 61, 28, 156, 0, 5, 3, 172, 42, 18, 145]
abbrev dktX7_readThing_1 : List UInt8 := dkwX7_readThing_1 ++ dktX7_readThing_2
def dkwX7_readThing_0 : List UInt8 := [42, 182, 0, 82, 60, 27, 16, 8, 159, 0, 15, 42, 27, 3, 184, 0, 68, 182, 0, 127, 154, 0, 5, 3]
abbrev dktX7_readThing_0 : List UInt8 := dkwX7_readThing_0 ++ dktX7_readThing_1
theorem dksX7_readThing_0 : cX7_readThing.data.toList.drop 0 = dktX7_readThing_0 := by decide +kernel
theorem dksX7_readThing_1 : cX7_readThing.data.toList.drop 24 = dktX7_readThing_1 := dk_seg dksX7_readThing_0 24 rfl rfl
theorem dksX7_readThing_2 : cX7_readThing.data.toList.drop 48 = dktX7_readThing_2 := dk_seg dksX7_readThing_1 24 rfl rfl
theorem dksX7_readThing_3 : cX7_readThing.data.toList.drop 72 = dktX7_readThing_3 := dk_seg dksX7_readThing_2 24 rfl rfl
theorem dksX7_readThing_4 : cX7_readThing.data.toList.drop 96 = dktX7_readThing_4 := dk_seg dksX7_readThing_3 24 rfl rfl
theorem dksX7_readThing_5 : cX7_readThing.data.toList.drop 120 = dktX7_readThing_5 := dk_seg dksX7_readThing_4 24 rfl rfl
theorem dksX7_readThing_6 : cX7_readThing.data.toList.drop 144 = dktX7_readThing_6 := dk_seg dksX7_readThing_5 24 rfl rfl
theorem dksX7_readThing_7 : cX7_readThing.data.toList.drop 168 = dktX7_readThing_7 := dk_seg dksX7_readThing_6 24 rfl rfl
theorem dX7_readThing_0 : decode cX7_readThing 0 = .ok (.aload_n 0, 1) := dk_42 (dk_at dksX7_readThing_0 0 rfl rfl)
theorem dX7_readThing_1 : decode cX7_readThing 1 = .ok (.invokevirtual 82, 3) := dk_182 0 82 (dk_at dksX7_readThing_0 1 rfl rfl)
theorem dX7_readThing_4 : decode cX7_readThing 4 = .ok (.istore_n 1, 1) := dk_60 (dk_at dksX7_readThing_0 4 rfl rfl)
theorem dX7_readThing_5 : decode cX7_readThing 5 = .ok (.iload_n 1, 1) := dk_27 (dk_at dksX7_readThing_0 5 rfl rfl)
theorem dX7_readThing_6 : decode cX7_readThing 6 = .ok (.bipush 8, 2) := dk_16 8 (dk_at dksX7_readThing_0 6 rfl rfl)
theorem dX7_readThing_8 : decode cX7_readThing 8 = .ok (.if_icmp .eq 15, 3) := dk_159 0 15 (dk_at dksX7_readThing_0 8 rfl rfl)
theorem dX7_readThing_11 : decode cX7_readThing 11 = .ok (.aload_n 0, 1) := dk_42 (dk_at dksX7_readThing_0 11 rfl rfl)
theorem dX7_readThing_12 : decode cX7_readThing 12 = .ok (.iload_n 1, 1) := dk_27 (dk_at dksX7_readThing_0 12 rfl rfl)
theorem dX7_readThing_13 : decode cX7_readThing 13 = .ok (.iconst 0, 1) := dk_3 (dk_at dksX7_readThing_0 13 rfl rfl)
theorem dX7_readThing_14 : decode cX7_readThing 14 = .ok (.invokestatic 68, 3) := dk_184 0 68 (dk_at dksX7_readThing_0 14 rfl rfl)
theorem dX7_readThing_17 : decode cX7_readThing 17 = .ok (.invokevirtual 127, 3) := dk_182 0 127 (dk_at dksX7_readThing_0 17 rfl rfl)
theorem dX7_readThing_20 : decode cX7_readThing 20 = .ok (.ifCond .ne 5, 3) := dk_154 0 5 (dk_at dksX7_readThing_0 20 rfl rfl)
theorem dX7_readThing_23 : decode cX7_readThing 23 = .ok (.iconst 0, 1) := dk_3 (dk_at dksX7_readThing_0 23 rfl rfl)
theorem dX7_readThing_24 : decode cX7_readThing 24 = .ok (.ireturn, 1) := dk_172 (dk_at dksX7_readThing_1 0 rfl rfl)
theorem dX7_readThing_25 : decode cX7_readThing 25 = .ok (.aload_n 0, 1) := dk_42 (dk_at dksX7_readThing_1 1 rfl rfl)
theorem dX7_readThing_26 : decode cX7_readThing 26 = .ok (.ldc 144, 2) := dk_18 144 (dk_at dksX7_readThing_1 2 rfl rfl)
theorem dX7_readThing_28 : decode cX7_readThing 28 = .ok (.iconst 0, 1) := dk_3 (dk_at dksX7_readThing_1 4 rfl rfl)
theorem dX7_readThing_29 : decode cX7_readThing 29 = .ok (.aload_n 0, 1) := dk_42 (dk_at dksX7_readThing_1 5 rfl rfl)
theorem dX7_readThing_30 : decode cX7_readThing 30 = .ok (.invokevirtual 74, 3) := dk_182 0 74 (dk_at dksX7_readThing_1 6 rfl rfl)
theorem dX7_readThing_33 : decode cX7_readThing 33 = .ok (.iconst 1, 1) := dk_4 (dk_at dksX7_readThing_1 9 rfl rfl)
theorem dX7_readThing_34 : decode cX7_readThing 34 = .ok (.isub, 1) := dk_100 (dk_at dksX7_readThing_1 10 rfl rfl)
theorem dX7_readThing_35 : decode cX7_readThing 35 = .ok (.invokevirtual 133, 3) := dk_182 0 133 (dk_at dksX7_readThing_1 11 rfl rfl)
theorem dX7_readThing_38 : decode cX7_readThing 38 = .ok (.istore_n 2, 1) := dk_61 (dk_at dksX7_readThing_1 14 rfl rfl)
theorem dX7_readThing_39 : decode cX7_readThing 39 = .ok (.iload_n 2, 1) := dk_28 (dk_at dksX7_readThing_1 15 rfl rfl)
theorem dX7_readThing_40 : decode cX7_readThing 40 = .ok (.ifCond .ge 5, 3) := dk_156 0 5 (dk_at dksX7_readThing_1 16 rfl rfl)
theorem dX7_readThing_43 : decode cX7_readThing 43 = .ok (.iconst 0, 1) := dk_3 (dk_at dksX7_readThing_1 19 rfl rfl)
theorem dX7_readThing_44 : decode cX7_readThing 44 = .ok (.ireturn, 1) := dk_172 (dk_at dksX7_readThing_1 20 rfl rfl)
theorem dX7_readThing_45 : decode cX7_readThing 45 = .ok (.aload_n 0, 1) := dk_42 (dk_at dksX7_readThing_1 21 rfl rfl)
theorem dX7_readThing_46 : decode cX7_readThing 46 = .ok (.ldc 145, 2) := dk_18 145 (dk_at dksX7_readThing_1 22 rfl rfl)
theorem dX7_readThing_48 : decode cX7_readThing 48 = .ok (.invokevirtual 139, 3) := dk_182 0 139 (dk_at dksX7_readThing_2 0 rfl rfl)
theorem dX7_readThing_51 : decode cX7_readThing 51 = .ok (.ifCond .eq 13, 3) := dk_153 0 13 (dk_at dksX7_readThing_2 3 rfl rfl)
theorem dX7_readThing_54 : decode cX7_readThing 54 = .ok (.aload_n 0, 1) := dk_42 (dk_at dksX7_readThing_2 6 rfl rfl)
theorem dX7_readThing_55 : decode cX7_readThing 55 = .ok (.iconst 0, 1) := dk_3 (dk_at dksX7_readThing_2 7 rfl rfl)
theorem dX7_readThing_56 : decode cX7_readThing 56 = .ok (.bipush 99, 2) := dk_16 99 (dk_at dksX7_readThing_2 8 rfl rfl)
theorem dX7_readThing_58 : decode cX7_readThing 58 = .ok (.invokevirtual 121, 3) := dk_182 0 121 (dk_at dksX7_readThing_2 10 rfl rfl)
theorem dX7_readThing_61 : decode cX7_readThing 61 = .ok (.goto 4, 3) := dk_167 0 4 (dk_at dksX7_readThing_2 13 rfl rfl)
theorem dX7_readThing_64 : decode cX7_readThing 64 = .ok (.iconst 0, 1) := dk_3 (dk_at dksX7_readThing_2 16 rfl rfl)
theorem dX7_readThing_65 : decode cX7_readThing 65 = .ok (.istore_n 3, 1) := dk_62 (dk_at dksX7_readThing_2 17 rfl rfl)
theorem dX7_readThing_66 : decode cX7_readThing 66 = .ok (.iload_n 3, 1) := dk_29 (dk_at dksX7_readThing_2 18 rfl rfl)
theorem dX7_readThing_67 : decode cX7_readThing 67 = .ok (.ifCond .ge 5, 3) := dk_156 0 5 (dk_at dksX7_readThing_2 19 rfl rfl)
theorem dX7_readThing_70 : decode cX7_readThing 70 = .ok (.iconst 0, 1) := dk_3 (dk_at dksX7_readThing_2 22 rfl rfl)
theorem dX7_readThing_71 : decode cX7_readThing 71 = .ok (.ireturn, 1) := dk_172 (dk_at dksX7_readThing_2 23 rfl rfl)
theorem dX7_readThing_72 : decode cX7_readThing 72 = .ok (.aload_n 0, 1) := dk_42 (dk_at dksX7_readThing_3 0 rfl rfl)
theorem dX7_readThing_73 : decode cX7_readThing 73 = .ok (.ldc 147, 2) := dk_18 147 (dk_at dksX7_readThing_3 1 rfl rfl)
theorem dX7_readThing_75 : decode cX7_readThing 75 = .ok (.invokevirtual 139, 3) := dk_182 0 139 (dk_at dksX7_readThing_3 3 rfl rfl)
theorem dX7_readThing_78 : decode cX7_readThing 78 = .ok (.ifCond .eq 17, 3) := dk_153 0 17 (dk_at dksX7_readThing_3 6 rfl rfl)
theorem dX7_readThing_81 : decode cX7_readThing 81 = .ok (.aload_n 0, 1) := dk_42 (dk_at dksX7_readThing_3 9 rfl rfl)
theorem dX7_readThing_82 : decode cX7_readThing 82 = .ok (.iconst 0, 1) := dk_3 (dk_at dksX7_readThing_3 10 rfl rfl)
theorem dX7_readThing_83 : decode cX7_readThing 83 = .ok (.aload_n 0, 1) := dk_42 (dk_at dksX7_readThing_3 11 rfl rfl)
theorem dX7_readThing_84 : decode cX7_readThing 84 = .ok (.invokevirtual 74, 3) := dk_182 0 74 (dk_at dksX7_readThing_3 12 rfl rfl)
theorem dX7_readThing_87 : decode cX7_readThing 87 = .ok (.iconst 1, 1) := dk_4 (dk_at dksX7_readThing_3 15 rfl rfl)
theorem dX7_readThing_88 : decode cX7_readThing 88 = .ok (.isub, 1) := dk_100 (dk_at dksX7_readThing_3 16 rfl rfl)
theorem dX7_readThing_89 : decode cX7_readThing 89 = .ok (.invokevirtual 121, 3) := dk_182 0 121 (dk_at dksX7_readThing_3 17 rfl rfl)
theorem dX7_readThing_92 : decode cX7_readThing 92 = .ok (.goto 4, 3) := dk_167 0 4 (dk_at dksX7_readThing_3 20 rfl rfl)
theorem dX7_readThing_95 : decode cX7_readThing 95 = .ok (.iload_n 2, 1) := dk_28 (dk_at dksX7_readThing_3 23 rfl rfl)
theorem dX7_readThing_96 : decode cX7_readThing 96 = .ok (.istore 4, 2) := dk_54 4 (dk_at dksX7_readThing_4 0 rfl rfl)
theorem dX7_readThing_98 : decode cX7_readThing 98 = .ok (.iload 4, 2) := dk_21 4 (dk_at dksX7_readThing_4 2 rfl rfl)
theorem dX7_readThing_100 : decode cX7_readThing 100 = .ok (.ifCond .ge 5, 3) := dk_156 0 5 (dk_at dksX7_readThing_4 4 rfl rfl)
theorem dX7_readThing_103 : decode cX7_readThing 103 = .ok (.iconst 0, 1) := dk_3 (dk_at dksX7_readThing_4 7 rfl rfl)
theorem dX7_readThing_104 : decode cX7_readThing 104 = .ok (.ireturn, 1) := dk_172 (dk_at dksX7_readThing_4 8 rfl rfl)
theorem dX7_readThing_105 : decode cX7_readThing 105 = .ok (.aload_n 0, 1) := dk_42 (dk_at dksX7_readThing_4 9 rfl rfl)
theorem dX7_readThing_106 : decode cX7_readThing 106 = .ok (.getfield 13, 3) := dk_180 0 13 (dk_at dksX7_readThing_4 10 rfl rfl)
theorem dX7_readThing_109 : decode cX7_readThing 109 = .ok (.iload_n 1, 1) := dk_27 (dk_at dksX7_readThing_4 13 rfl rfl)
theorem dX7_readThing_110 : decode cX7_readThing 110 = .ok (.iconst 4, 1) := dk_7 (dk_at dksX7_readThing_4 14 rfl rfl)
theorem dX7_readThing_111 : decode cX7_readThing 111 = .ok (.invokestatic 68, 3) := dk_184 0 68 (dk_at dksX7_readThing_4 15 rfl rfl)
theorem dX7_readThing_114 : decode cX7_readThing 114 = .ok (.iload_n 2, 1) := dk_28 (dk_at dksX7_readThing_4 18 rfl rfl)
theorem dX7_readThing_115 : decode cX7_readThing 115 = .ok (.iastore, 1) := dk_79 (dk_at dksX7_readThing_4 19 rfl rfl)
theorem dX7_readThing_116 : decode cX7_readThing 116 = .ok (.aload_n 0, 1) := dk_42 (dk_at dksX7_readThing_4 20 rfl rfl)
theorem dX7_readThing_117 : decode cX7_readThing 117 = .ok (.getfield 13, 3) := dk_180 0 13 (dk_at dksX7_readThing_4 21 rfl rfl)
theorem dX7_readThing_120 : decode cX7_readThing 120 = .ok (.iload_n 1, 1) := dk_27 (dk_at dksX7_readThing_5 0 rfl rfl)
theorem dX7_readThing_121 : decode cX7_readThing 121 = .ok (.iconst 5, 1) := dk_8 (dk_at dksX7_readThing_5 1 rfl rfl)
theorem dX7_readThing_122 : decode cX7_readThing 122 = .ok (.invokestatic 68, 3) := dk_184 0 68 (dk_at dksX7_readThing_5 2 rfl rfl)
theorem dX7_readThing_125 : decode cX7_readThing 125 = .ok (.iload 4, 2) := dk_21 4 (dk_at dksX7_readThing_5 5 rfl rfl)
theorem dX7_readThing_127 : decode cX7_readThing 127 = .ok (.iastore, 1) := dk_79 (dk_at dksX7_readThing_5 7 rfl rfl)
theorem dX7_readThing_128 : decode cX7_readThing 128 = .ok (.aload_n 0, 1) := dk_42 (dk_at dksX7_readThing_5 8 rfl rfl)
theorem dX7_readThing_129 : decode cX7_readThing 129 = .ok (.getfield 13, 3) := dk_180 0 13 (dk_at dksX7_readThing_5 9 rfl rfl)
theorem dX7_readThing_132 : decode cX7_readThing 132 = .ok (.iload_n 1, 1) := dk_27 (dk_at dksX7_readThing_5 12 rfl rfl)
theorem dX7_readThing_133 : decode cX7_readThing 133 = .ok (.bipush 6, 2) := dk_16 6 (dk_at dksX7_readThing_5 13 rfl rfl)
theorem dX7_readThing_135 : decode cX7_readThing 135 = .ok (.invokestatic 68, 3) := dk_184 0 68 (dk_at dksX7_readThing_5 15 rfl rfl)
theorem dX7_readThing_138 : decode cX7_readThing 138 = .ok (.iload_n 3, 1) := dk_29 (dk_at dksX7_readThing_5 18 rfl rfl)
theorem dX7_readThing_139 : decode cX7_readThing 139 = .ok (.iastore, 1) := dk_79 (dk_at dksX7_readThing_5 19 rfl rfl)
theorem dX7_readThing_140 : decode cX7_readThing 140 = .ok (.aload_n 0, 1) := dk_42 (dk_at dksX7_readThing_5 20 rfl rfl)
theorem dX7_readThing_141 : decode cX7_readThing 141 = .ok (.getfield 13, 3) := dk_180 0 13 (dk_at dksX7_readThing_5 21 rfl rfl)
theorem dX7_readThing_144 : decode cX7_readThing 144 = .ok (.iload_n 1, 1) := dk_27 (dk_at dksX7_readThing_6 0 rfl rfl)
theorem dX7_readThing_145 : decode cX7_readThing 145 = .ok (.bipush 7, 2) := dk_16 7 (dk_at dksX7_readThing_6 1 rfl rfl)
theorem dX7_readThing_147 : decode cX7_readThing 147 = .ok (.invokestatic 68, 3) := dk_184 0 68 (dk_at dksX7_readThing_6 3 rfl rfl)
theorem dX7_readThing_150 : decode cX7_readThing 150 = .ok (.iconst 0, 1) := dk_3 (dk_at dksX7_readThing_6 6 rfl rfl)
theorem dX7_readThing_151 : decode cX7_readThing 151 = .ok (.iastore, 1) := dk_79 (dk_at dksX7_readThing_6 7 rfl rfl)
theorem dX7_readThing_152 : decode cX7_readThing 152 = .ok (.aload_n 0, 1) := dk_42 (dk_at dksX7_readThing_6 8 rfl rfl)
theorem dX7_readThing_153 : decode cX7_readThing 153 = .ok (.getfield 13, 3) := dk_180 0 13 (dk_at dksX7_readThing_6 9 rfl rfl)
theorem dX7_readThing_156 : decode cX7_readThing 156 = .ok (.iload_n 1, 1) := dk_27 (dk_at dksX7_readThing_6 12 rfl rfl)
theorem dX7_readThing_157 : decode cX7_readThing 157 = .ok (.bipush 8, 2) := dk_16 8 (dk_at dksX7_readThing_6 13 rfl rfl)
theorem dX7_readThing_159 : decode cX7_readThing 159 = .ok (.invokestatic 68, 3) := dk_184 0 68 (dk_at dksX7_readThing_6 15 rfl rfl)
theorem dX7_readThing_162 : decode cX7_readThing 162 = .ok (.aload_n 0, 1) := dk_42 (dk_at dksX7_readThing_6 18 rfl rfl)
theorem dX7_readThing_163 : decode cX7_readThing 163 = .ok (.ldc 149, 2) := dk_18 149 (dk_at dksX7_readThing_6 19 rfl rfl)
theorem dX7_readThing_165 : decode cX7_readThing 165 = .ok (.invokevirtual 139, 3) := dk_182 0 139 (dk_at dksX7_readThing_6 21 rfl rfl)
theorem dX7_readThing_168 : decode cX7_readThing 168 = .ok (.ifCond .eq 7, 3) := dk_153 0 7 (dk_at dksX7_readThing_7 0 rfl rfl)
theorem dX7_readThing_171 : decode cX7_readThing 171 = .ok (.iconst 1, 1) := dk_4 (dk_at dksX7_readThing_7 3 rfl rfl)
theorem dX7_readThing_172 : decode cX7_readThing 172 = .ok (.goto 4, 3) := dk_167 0 4 (dk_at dksX7_readThing_7 4 rfl rfl)
theorem dX7_readThing_175 : decode cX7_readThing 175 = .ok (.iconst 0, 1) := dk_3 (dk_at dksX7_readThing_7 7 rfl rfl)
theorem dX7_readThing_176 : decode cX7_readThing 176 = .ok (.iastore, 1) := dk_79 (dk_at dksX7_readThing_7 8 rfl rfl)
theorem dX7_readThing_177 : decode cX7_readThing 177 = .ok (.aload_n 0, 1) := dk_42 (dk_at dksX7_readThing_7 9 rfl rfl)
theorem dX7_readThing_178 : decode cX7_readThing 178 = .ok (.getfield 13, 3) := dk_180 0 13 (dk_at dksX7_readThing_7 10 rfl rfl)
theorem dX7_readThing_181 : decode cX7_readThing 181 = .ok (.iconst 1, 1) := dk_4 (dk_at dksX7_readThing_7 13 rfl rfl)
theorem dX7_readThing_182 : decode cX7_readThing 182 = .ok (.dup2, 1) := dk_92 (dk_at dksX7_readThing_7 14 rfl rfl)
theorem dX7_readThing_183 : decode cX7_readThing 183 = .ok (.iaload, 1) := dk_46 (dk_at dksX7_readThing_7 15 rfl rfl)
theorem dX7_readThing_184 : decode cX7_readThing 184 = .ok (.iconst 1, 1) := dk_4 (dk_at dksX7_readThing_7 16 rfl rfl)
theorem dX7_readThing_185 : decode cX7_readThing 185 = .ok (.iadd, 1) := dk_96 (dk_at dksX7_readThing_7 17 rfl rfl)
theorem dX7_readThing_186 : decode cX7_readThing 186 = .ok (.iastore, 1) := dk_79 (dk_at dksX7_readThing_7 18 rfl rfl)
theorem dX7_readThing_187 : decode cX7_readThing 187 = .ok (.iconst 1, 1) := dk_4 (dk_at dksX7_readThing_7 19 rfl rfl)
theorem dX7_readThing_188 : decode cX7_readThing 188 = .ok (.ireturn, 1) := dk_172 (dk_at dksX7_readThing_7 20 rfl rfl)
abbrev cX7_things : ByteArray := prog_18_method_11_code
def yX7_things : MethodName := ⟨RX7, "things", "()I"⟩
def dkwX7_things_0 : List UInt8 := [42, 180, 0, 13, 4, 46, 172]
abbrev dktX7_things_0 : List UInt8 := dkwX7_things_0 ++ []
theorem dksX7_things_0 : cX7_things.data.toList.drop 0 = dktX7_things_0 := by decide +kernel
theorem dX7_things_0 : decode cX7_things 0 = .ok (.aload_n 0, 1) := dk_42 (dk_at dksX7_things_0 0 rfl rfl)
theorem dX7_things_1 : decode cX7_things 1 = .ok (.getfield 13, 3) := dk_180 0 13 (dk_at dksX7_things_0 1 rfl rfl)
theorem dX7_things_4 : decode cX7_things 4 = .ok (.iconst 1, 1) := dk_4 (dk_at dksX7_things_0 4 rfl rfl)
theorem dX7_things_5 : decode cX7_things 5 = .ok (.iaload, 1) := dk_46 (dk_at dksX7_things_0 5 rfl rfl)
theorem dX7_things_6 : decode cX7_things 6 = .ok (.ireturn, 1) := dk_172 (dk_at dksX7_things_0 6 rfl rfl)
abbrev cX7_thingAt : ByteArray := prog_18_method_15_code
def yX7_thingAt : MethodName := ⟨RX7, "thingAt", "(II)I"⟩
def dkwX7_thingAt_0 : List UInt8 := [16, 65, 16, 9, 26, 104, 96, 27, 96, 172]
abbrev dktX7_thingAt_0 : List UInt8 := dkwX7_thingAt_0 ++ []
theorem dksX7_thingAt_0 : cX7_thingAt.data.toList.drop 0 = dktX7_thingAt_0 := by decide +kernel
theorem dX7_thingAt_0 : decode cX7_thingAt 0 = .ok (.bipush 65, 2) := dk_16 65 (dk_at dksX7_thingAt_0 0 rfl rfl)
theorem dX7_thingAt_2 : decode cX7_thingAt 2 = .ok (.bipush 9, 2) := dk_16 9 (dk_at dksX7_thingAt_0 2 rfl rfl)
theorem dX7_thingAt_4 : decode cX7_thingAt 4 = .ok (.iload_n 0, 1) := dk_26 (dk_at dksX7_thingAt_0 4 rfl rfl)
theorem dX7_thingAt_5 : decode cX7_thingAt 5 = .ok (.imul, 1) := dk_104 (dk_at dksX7_thingAt_0 5 rfl rfl)
theorem dX7_thingAt_6 : decode cX7_thingAt 6 = .ok (.iadd, 1) := dk_96 (dk_at dksX7_thingAt_0 6 rfl rfl)
theorem dX7_thingAt_7 : decode cX7_thingAt 7 = .ok (.iload_n 1, 1) := dk_27 (dk_at dksX7_thingAt_0 7 rfl rfl)
theorem dX7_thingAt_8 : decode cX7_thingAt 8 = .ok (.iadd, 1) := dk_96 (dk_at dksX7_thingAt_0 8 rfl rfl)
theorem dX7_thingAt_9 : decode cX7_thingAt 9 = .ok (.ireturn, 1) := dk_172 (dk_at dksX7_thingAt_0 9 rfl rfl)
abbrev cX7_readLawLine : ByteArray := prog_18_method_48_code
def yX7_readLawLine : MethodName := ⟨RX7, "readLawLine", "(I)Z"⟩
def dkwX7_readLawLine_6 : List UInt8 := [154, 0, 5, 3, 172, 42, 180, 0, 13, 28, 6, 96, 42, 180, 0, 168, 79, 4, 172]
abbrev dktX7_readLawLine_6 : List UInt8 := dkwX7_readLawLine_6 ++ []
def dkwX7_readLawLine_5 : List UInt8 := [180, 0, 168, 79, 42, 3, 181, 0, 194, 42, 18, 222, 182, 0, 139, 153, 0, 12, 42, 182, 0, 197]
abbrev dktX7_readLawLine_5 : List UInt8 := dkwX7_readLawLine_5 ++ dktX7_readLawLine_6
def dkwX7_readLawLine_4 : List UInt8 := [79, 42, 180, 0, 13, 28, 4, 96, 46, 156, 0, 5, 3, 172, 42, 180, 0, 13, 28, 5, 96, 42]
abbrev dktX7_readLawLine_4 : List UInt8 := dkwX7_readLawLine_4 ++ dktX7_readLawLine_5
def dkwX7_readLawLine_3 : List UInt8 := [28, 4, 96, 42, 180, 0, 13, 28, 46, 5, 160, 0, 7, 4, 167, 0, 10, 42, 3, 16, 60, 182, 0, 121]
abbrev dktX7_readLawLine_3 : List UInt8 := dkwX7_readLawLine_3 ++ dktX7_readLawLine_4
def dkwX7_readLawLine_2 : List UInt8 := [153, 0, 7, 5, 167, 0, 4, 2, 79, 42, 180, 0, 13, 28, 46, 156, 0, 5, 3, 172, 42, 180, 0, 13]
abbrev dktX7_readLawLine_2 : List UInt8 := dkwX7_readLawLine_2 ++ dktX7_readLawLine_3
def dkwX7_readLawLine_1 : List UInt8 := [167, 0, 30, 42, 18, 173, 182, 0, 117, 153, 0, 7, 4, 167, 0, 17, 42, 18, 220, 182, 0, 117]
abbrev dktX7_readLawLine_1 : List UInt8 := dkwX7_readLawLine_1 ++ dktX7_readLawLine_2
def dkwX7_readLawLine_0 : List UInt8 := [17, 4, 203, 7, 27, 104, 96, 61, 42, 180, 0, 13, 28, 42, 18, 218, 182, 0, 117, 153, 0, 7, 3]
abbrev dktX7_readLawLine_0 : List UInt8 := dkwX7_readLawLine_0 ++ dktX7_readLawLine_1
theorem dksX7_readLawLine_0 : cX7_readLawLine.data.toList.drop 0 = dktX7_readLawLine_0 := by decide +kernel
theorem dksX7_readLawLine_1 : cX7_readLawLine.data.toList.drop 23 = dktX7_readLawLine_1 := dk_seg dksX7_readLawLine_0 23 rfl rfl
theorem dksX7_readLawLine_2 : cX7_readLawLine.data.toList.drop 45 = dktX7_readLawLine_2 := dk_seg dksX7_readLawLine_1 22 rfl rfl
theorem dksX7_readLawLine_3 : cX7_readLawLine.data.toList.drop 69 = dktX7_readLawLine_3 := dk_seg dksX7_readLawLine_2 24 rfl rfl
theorem dksX7_readLawLine_4 : cX7_readLawLine.data.toList.drop 93 = dktX7_readLawLine_4 := dk_seg dksX7_readLawLine_3 24 rfl rfl
theorem dksX7_readLawLine_5 : cX7_readLawLine.data.toList.drop 115 = dktX7_readLawLine_5 := dk_seg dksX7_readLawLine_4 22 rfl rfl
theorem dksX7_readLawLine_6 : cX7_readLawLine.data.toList.drop 137 = dktX7_readLawLine_6 := dk_seg dksX7_readLawLine_5 22 rfl rfl
theorem dX7_readLawLine_0 : decode cX7_readLawLine 0 = .ok (.sipush 1227, 3) := dk_17 4 203 (dk_at dksX7_readLawLine_0 0 rfl rfl)
theorem dX7_readLawLine_3 : decode cX7_readLawLine 3 = .ok (.iconst 4, 1) := dk_7 (dk_at dksX7_readLawLine_0 3 rfl rfl)
theorem dX7_readLawLine_4 : decode cX7_readLawLine 4 = .ok (.iload_n 1, 1) := dk_27 (dk_at dksX7_readLawLine_0 4 rfl rfl)
theorem dX7_readLawLine_5 : decode cX7_readLawLine 5 = .ok (.imul, 1) := dk_104 (dk_at dksX7_readLawLine_0 5 rfl rfl)
theorem dX7_readLawLine_6 : decode cX7_readLawLine 6 = .ok (.iadd, 1) := dk_96 (dk_at dksX7_readLawLine_0 6 rfl rfl)
theorem dX7_readLawLine_7 : decode cX7_readLawLine 7 = .ok (.istore_n 2, 1) := dk_61 (dk_at dksX7_readLawLine_0 7 rfl rfl)
theorem dX7_readLawLine_8 : decode cX7_readLawLine 8 = .ok (.aload_n 0, 1) := dk_42 (dk_at dksX7_readLawLine_0 8 rfl rfl)
theorem dX7_readLawLine_9 : decode cX7_readLawLine 9 = .ok (.getfield 13, 3) := dk_180 0 13 (dk_at dksX7_readLawLine_0 9 rfl rfl)
theorem dX7_readLawLine_12 : decode cX7_readLawLine 12 = .ok (.iload_n 2, 1) := dk_28 (dk_at dksX7_readLawLine_0 12 rfl rfl)
theorem dX7_readLawLine_13 : decode cX7_readLawLine 13 = .ok (.aload_n 0, 1) := dk_42 (dk_at dksX7_readLawLine_0 13 rfl rfl)
theorem dX7_readLawLine_14 : decode cX7_readLawLine 14 = .ok (.ldc 218, 2) := dk_18 218 (dk_at dksX7_readLawLine_0 14 rfl rfl)
theorem dX7_readLawLine_16 : decode cX7_readLawLine 16 = .ok (.invokevirtual 117, 3) := dk_182 0 117 (dk_at dksX7_readLawLine_0 16 rfl rfl)
theorem dX7_readLawLine_19 : decode cX7_readLawLine 19 = .ok (.ifCond .eq 7, 3) := dk_153 0 7 (dk_at dksX7_readLawLine_0 19 rfl rfl)
theorem dX7_readLawLine_22 : decode cX7_readLawLine 22 = .ok (.iconst 0, 1) := dk_3 (dk_at dksX7_readLawLine_0 22 rfl rfl)
theorem dX7_readLawLine_23 : decode cX7_readLawLine 23 = .ok (.goto 30, 3) := dk_167 0 30 (dk_at dksX7_readLawLine_1 0 rfl rfl)
theorem dX7_readLawLine_26 : decode cX7_readLawLine 26 = .ok (.aload_n 0, 1) := dk_42 (dk_at dksX7_readLawLine_1 3 rfl rfl)
theorem dX7_readLawLine_27 : decode cX7_readLawLine 27 = .ok (.ldc 173, 2) := dk_18 173 (dk_at dksX7_readLawLine_1 4 rfl rfl)
theorem dX7_readLawLine_29 : decode cX7_readLawLine 29 = .ok (.invokevirtual 117, 3) := dk_182 0 117 (dk_at dksX7_readLawLine_1 6 rfl rfl)
theorem dX7_readLawLine_32 : decode cX7_readLawLine 32 = .ok (.ifCond .eq 7, 3) := dk_153 0 7 (dk_at dksX7_readLawLine_1 9 rfl rfl)
theorem dX7_readLawLine_35 : decode cX7_readLawLine 35 = .ok (.iconst 1, 1) := dk_4 (dk_at dksX7_readLawLine_1 12 rfl rfl)
theorem dX7_readLawLine_36 : decode cX7_readLawLine 36 = .ok (.goto 17, 3) := dk_167 0 17 (dk_at dksX7_readLawLine_1 13 rfl rfl)
theorem dX7_readLawLine_39 : decode cX7_readLawLine 39 = .ok (.aload_n 0, 1) := dk_42 (dk_at dksX7_readLawLine_1 16 rfl rfl)
theorem dX7_readLawLine_40 : decode cX7_readLawLine 40 = .ok (.ldc 220, 2) := dk_18 220 (dk_at dksX7_readLawLine_1 17 rfl rfl)
theorem dX7_readLawLine_42 : decode cX7_readLawLine 42 = .ok (.invokevirtual 117, 3) := dk_182 0 117 (dk_at dksX7_readLawLine_1 19 rfl rfl)
theorem dX7_readLawLine_45 : decode cX7_readLawLine 45 = .ok (.ifCond .eq 7, 3) := dk_153 0 7 (dk_at dksX7_readLawLine_2 0 rfl rfl)
theorem dX7_readLawLine_48 : decode cX7_readLawLine 48 = .ok (.iconst 2, 1) := dk_5 (dk_at dksX7_readLawLine_2 3 rfl rfl)
theorem dX7_readLawLine_49 : decode cX7_readLawLine 49 = .ok (.goto 4, 3) := dk_167 0 4 (dk_at dksX7_readLawLine_2 4 rfl rfl)
theorem dX7_readLawLine_52 : decode cX7_readLawLine 52 = .ok (.iconst (-1), 1) := dk_2 (dk_at dksX7_readLawLine_2 7 rfl rfl)
theorem dX7_readLawLine_53 : decode cX7_readLawLine 53 = .ok (.iastore, 1) := dk_79 (dk_at dksX7_readLawLine_2 8 rfl rfl)
theorem dX7_readLawLine_54 : decode cX7_readLawLine 54 = .ok (.aload_n 0, 1) := dk_42 (dk_at dksX7_readLawLine_2 9 rfl rfl)
theorem dX7_readLawLine_55 : decode cX7_readLawLine 55 = .ok (.getfield 13, 3) := dk_180 0 13 (dk_at dksX7_readLawLine_2 10 rfl rfl)
theorem dX7_readLawLine_58 : decode cX7_readLawLine 58 = .ok (.iload_n 2, 1) := dk_28 (dk_at dksX7_readLawLine_2 13 rfl rfl)
theorem dX7_readLawLine_59 : decode cX7_readLawLine 59 = .ok (.iaload, 1) := dk_46 (dk_at dksX7_readLawLine_2 14 rfl rfl)
theorem dX7_readLawLine_60 : decode cX7_readLawLine 60 = .ok (.ifCond .ge 5, 3) := dk_156 0 5 (dk_at dksX7_readLawLine_2 15 rfl rfl)
theorem dX7_readLawLine_63 : decode cX7_readLawLine 63 = .ok (.iconst 0, 1) := dk_3 (dk_at dksX7_readLawLine_2 18 rfl rfl)
theorem dX7_readLawLine_64 : decode cX7_readLawLine 64 = .ok (.ireturn, 1) := dk_172 (dk_at dksX7_readLawLine_2 19 rfl rfl)
theorem dX7_readLawLine_65 : decode cX7_readLawLine 65 = .ok (.aload_n 0, 1) := dk_42 (dk_at dksX7_readLawLine_2 20 rfl rfl)
theorem dX7_readLawLine_66 : decode cX7_readLawLine 66 = .ok (.getfield 13, 3) := dk_180 0 13 (dk_at dksX7_readLawLine_2 21 rfl rfl)
theorem dX7_readLawLine_69 : decode cX7_readLawLine 69 = .ok (.iload_n 2, 1) := dk_28 (dk_at dksX7_readLawLine_3 0 rfl rfl)
theorem dX7_readLawLine_70 : decode cX7_readLawLine 70 = .ok (.iconst 1, 1) := dk_4 (dk_at dksX7_readLawLine_3 1 rfl rfl)
theorem dX7_readLawLine_71 : decode cX7_readLawLine 71 = .ok (.iadd, 1) := dk_96 (dk_at dksX7_readLawLine_3 2 rfl rfl)
theorem dX7_readLawLine_72 : decode cX7_readLawLine 72 = .ok (.aload_n 0, 1) := dk_42 (dk_at dksX7_readLawLine_3 3 rfl rfl)
theorem dX7_readLawLine_73 : decode cX7_readLawLine 73 = .ok (.getfield 13, 3) := dk_180 0 13 (dk_at dksX7_readLawLine_3 4 rfl rfl)
theorem dX7_readLawLine_76 : decode cX7_readLawLine 76 = .ok (.iload_n 2, 1) := dk_28 (dk_at dksX7_readLawLine_3 7 rfl rfl)
theorem dX7_readLawLine_77 : decode cX7_readLawLine 77 = .ok (.iaload, 1) := dk_46 (dk_at dksX7_readLawLine_3 8 rfl rfl)
theorem dX7_readLawLine_78 : decode cX7_readLawLine 78 = .ok (.iconst 2, 1) := dk_5 (dk_at dksX7_readLawLine_3 9 rfl rfl)
theorem dX7_readLawLine_79 : decode cX7_readLawLine 79 = .ok (.if_icmp .ne 7, 3) := dk_160 0 7 (dk_at dksX7_readLawLine_3 10 rfl rfl)
theorem dX7_readLawLine_82 : decode cX7_readLawLine 82 = .ok (.iconst 1, 1) := dk_4 (dk_at dksX7_readLawLine_3 13 rfl rfl)
theorem dX7_readLawLine_83 : decode cX7_readLawLine 83 = .ok (.goto 10, 3) := dk_167 0 10 (dk_at dksX7_readLawLine_3 14 rfl rfl)
theorem dX7_readLawLine_86 : decode cX7_readLawLine 86 = .ok (.aload_n 0, 1) := dk_42 (dk_at dksX7_readLawLine_3 17 rfl rfl)
theorem dX7_readLawLine_87 : decode cX7_readLawLine 87 = .ok (.iconst 0, 1) := dk_3 (dk_at dksX7_readLawLine_3 18 rfl rfl)
theorem dX7_readLawLine_88 : decode cX7_readLawLine 88 = .ok (.bipush 60, 2) := dk_16 60 (dk_at dksX7_readLawLine_3 19 rfl rfl)
theorem dX7_readLawLine_90 : decode cX7_readLawLine 90 = .ok (.invokevirtual 121, 3) := dk_182 0 121 (dk_at dksX7_readLawLine_3 21 rfl rfl)
theorem dX7_readLawLine_93 : decode cX7_readLawLine 93 = .ok (.iastore, 1) := dk_79 (dk_at dksX7_readLawLine_4 0 rfl rfl)
theorem dX7_readLawLine_94 : decode cX7_readLawLine 94 = .ok (.aload_n 0, 1) := dk_42 (dk_at dksX7_readLawLine_4 1 rfl rfl)
theorem dX7_readLawLine_95 : decode cX7_readLawLine 95 = .ok (.getfield 13, 3) := dk_180 0 13 (dk_at dksX7_readLawLine_4 2 rfl rfl)
theorem dX7_readLawLine_98 : decode cX7_readLawLine 98 = .ok (.iload_n 2, 1) := dk_28 (dk_at dksX7_readLawLine_4 5 rfl rfl)
theorem dX7_readLawLine_99 : decode cX7_readLawLine 99 = .ok (.iconst 1, 1) := dk_4 (dk_at dksX7_readLawLine_4 6 rfl rfl)
theorem dX7_readLawLine_100 : decode cX7_readLawLine 100 = .ok (.iadd, 1) := dk_96 (dk_at dksX7_readLawLine_4 7 rfl rfl)
theorem dX7_readLawLine_101 : decode cX7_readLawLine 101 = .ok (.iaload, 1) := dk_46 (dk_at dksX7_readLawLine_4 8 rfl rfl)
theorem dX7_readLawLine_102 : decode cX7_readLawLine 102 = .ok (.ifCond .ge 5, 3) := dk_156 0 5 (dk_at dksX7_readLawLine_4 9 rfl rfl)
theorem dX7_readLawLine_105 : decode cX7_readLawLine 105 = .ok (.iconst 0, 1) := dk_3 (dk_at dksX7_readLawLine_4 12 rfl rfl)
theorem dX7_readLawLine_106 : decode cX7_readLawLine 106 = .ok (.ireturn, 1) := dk_172 (dk_at dksX7_readLawLine_4 13 rfl rfl)
theorem dX7_readLawLine_107 : decode cX7_readLawLine 107 = .ok (.aload_n 0, 1) := dk_42 (dk_at dksX7_readLawLine_4 14 rfl rfl)
theorem dX7_readLawLine_108 : decode cX7_readLawLine 108 = .ok (.getfield 13, 3) := dk_180 0 13 (dk_at dksX7_readLawLine_4 15 rfl rfl)
theorem dX7_readLawLine_111 : decode cX7_readLawLine 111 = .ok (.iload_n 2, 1) := dk_28 (dk_at dksX7_readLawLine_4 18 rfl rfl)
theorem dX7_readLawLine_112 : decode cX7_readLawLine 112 = .ok (.iconst 2, 1) := dk_5 (dk_at dksX7_readLawLine_4 19 rfl rfl)
theorem dX7_readLawLine_113 : decode cX7_readLawLine 113 = .ok (.iadd, 1) := dk_96 (dk_at dksX7_readLawLine_4 20 rfl rfl)
theorem dX7_readLawLine_114 : decode cX7_readLawLine 114 = .ok (.aload_n 0, 1) := dk_42 (dk_at dksX7_readLawLine_4 21 rfl rfl)
theorem dX7_readLawLine_115 : decode cX7_readLawLine 115 = .ok (.getfield 168, 3) := dk_180 0 168 (dk_at dksX7_readLawLine_5 0 rfl rfl)
theorem dX7_readLawLine_118 : decode cX7_readLawLine 118 = .ok (.iastore, 1) := dk_79 (dk_at dksX7_readLawLine_5 3 rfl rfl)
theorem dX7_readLawLine_119 : decode cX7_readLawLine 119 = .ok (.aload_n 0, 1) := dk_42 (dk_at dksX7_readLawLine_5 4 rfl rfl)
theorem dX7_readLawLine_120 : decode cX7_readLawLine 120 = .ok (.iconst 0, 1) := dk_3 (dk_at dksX7_readLawLine_5 5 rfl rfl)
theorem dX7_readLawLine_121 : decode cX7_readLawLine 121 = .ok (.putfield 194, 3) := dk_181 0 194 (dk_at dksX7_readLawLine_5 6 rfl rfl)
theorem dX7_readLawLine_124 : decode cX7_readLawLine 124 = .ok (.aload_n 0, 1) := dk_42 (dk_at dksX7_readLawLine_5 9 rfl rfl)
theorem dX7_readLawLine_125 : decode cX7_readLawLine 125 = .ok (.ldc 222, 2) := dk_18 222 (dk_at dksX7_readLawLine_5 10 rfl rfl)
theorem dX7_readLawLine_127 : decode cX7_readLawLine 127 = .ok (.invokevirtual 139, 3) := dk_182 0 139 (dk_at dksX7_readLawLine_5 12 rfl rfl)
theorem dX7_readLawLine_130 : decode cX7_readLawLine 130 = .ok (.ifCond .eq 12, 3) := dk_153 0 12 (dk_at dksX7_readLawLine_5 15 rfl rfl)
theorem dX7_readLawLine_133 : decode cX7_readLawLine 133 = .ok (.aload_n 0, 1) := dk_42 (dk_at dksX7_readLawLine_5 18 rfl rfl)
theorem dX7_readLawLine_134 : decode cX7_readLawLine 134 = .ok (.invokevirtual 197, 3) := dk_182 0 197 (dk_at dksX7_readLawLine_5 19 rfl rfl)
theorem dX7_readLawLine_137 : decode cX7_readLawLine 137 = .ok (.ifCond .ne 5, 3) := dk_154 0 5 (dk_at dksX7_readLawLine_6 0 rfl rfl)
theorem dX7_readLawLine_140 : decode cX7_readLawLine 140 = .ok (.iconst 0, 1) := dk_3 (dk_at dksX7_readLawLine_6 3 rfl rfl)
theorem dX7_readLawLine_141 : decode cX7_readLawLine 141 = .ok (.ireturn, 1) := dk_172 (dk_at dksX7_readLawLine_6 4 rfl rfl)
theorem dX7_readLawLine_142 : decode cX7_readLawLine 142 = .ok (.aload_n 0, 1) := dk_42 (dk_at dksX7_readLawLine_6 5 rfl rfl)
theorem dX7_readLawLine_143 : decode cX7_readLawLine 143 = .ok (.getfield 13, 3) := dk_180 0 13 (dk_at dksX7_readLawLine_6 6 rfl rfl)
theorem dX7_readLawLine_146 : decode cX7_readLawLine 146 = .ok (.iload_n 2, 1) := dk_28 (dk_at dksX7_readLawLine_6 9 rfl rfl)
theorem dX7_readLawLine_147 : decode cX7_readLawLine 147 = .ok (.iconst 3, 1) := dk_6 (dk_at dksX7_readLawLine_6 10 rfl rfl)
theorem dX7_readLawLine_148 : decode cX7_readLawLine 148 = .ok (.iadd, 1) := dk_96 (dk_at dksX7_readLawLine_6 11 rfl rfl)
theorem dX7_readLawLine_149 : decode cX7_readLawLine 149 = .ok (.aload_n 0, 1) := dk_42 (dk_at dksX7_readLawLine_6 12 rfl rfl)
theorem dX7_readLawLine_150 : decode cX7_readLawLine 150 = .ok (.getfield 168, 3) := dk_180 0 168 (dk_at dksX7_readLawLine_6 13 rfl rfl)
theorem dX7_readLawLine_153 : decode cX7_readLawLine 153 = .ok (.iastore, 1) := dk_79 (dk_at dksX7_readLawLine_6 16 rfl rfl)
theorem dX7_readLawLine_154 : decode cX7_readLawLine 154 = .ok (.iconst 1, 1) := dk_4 (dk_at dksX7_readLawLine_6 17 rfl rfl)
theorem dX7_readLawLine_155 : decode cX7_readLawLine 155 = .ok (.ireturn, 1) := dk_172 (dk_at dksX7_readLawLine_6 18 rfl rfl)
abbrev cX7_readCond : ByteArray := prog_18_method_47_code
def yX7_readCond : MethodName := ⟨RX7, "readCond", "()Z"⟩
def dkwX7_readCond_1 : List UInt8 := [154, 0, 5, 3, 172, 42, 16, 16, 3, 182, 0, 182, 167, 255, 231, 4, 172]
abbrev dktX7_readCond_1 : List UInt8 := dkwX7_readCond_1 ++ []
def dkwX7_readCond_0 : List UInt8 := [42, 182, 0, 213, 154, 0, 5, 3, 172, 42, 18, 216, 182, 0, 139, 153, 0, 22, 42, 182, 0, 213]
abbrev dktX7_readCond_0 : List UInt8 := dkwX7_readCond_0 ++ dktX7_readCond_1
theorem dksX7_readCond_0 : cX7_readCond.data.toList.drop 0 = dktX7_readCond_0 := by decide +kernel
theorem dksX7_readCond_1 : cX7_readCond.data.toList.drop 22 = dktX7_readCond_1 := dk_seg dksX7_readCond_0 22 rfl rfl
theorem dX7_readCond_0 : decode cX7_readCond 0 = .ok (.aload_n 0, 1) := dk_42 (dk_at dksX7_readCond_0 0 rfl rfl)
theorem dX7_readCond_1 : decode cX7_readCond 1 = .ok (.invokevirtual 213, 3) := dk_182 0 213 (dk_at dksX7_readCond_0 1 rfl rfl)
theorem dX7_readCond_4 : decode cX7_readCond 4 = .ok (.ifCond .ne 5, 3) := dk_154 0 5 (dk_at dksX7_readCond_0 4 rfl rfl)
theorem dX7_readCond_7 : decode cX7_readCond 7 = .ok (.iconst 0, 1) := dk_3 (dk_at dksX7_readCond_0 7 rfl rfl)
theorem dX7_readCond_8 : decode cX7_readCond 8 = .ok (.ireturn, 1) := dk_172 (dk_at dksX7_readCond_0 8 rfl rfl)
theorem dX7_readCond_9 : decode cX7_readCond 9 = .ok (.aload_n 0, 1) := dk_42 (dk_at dksX7_readCond_0 9 rfl rfl)
theorem dX7_readCond_10 : decode cX7_readCond 10 = .ok (.ldc 216, 2) := dk_18 216 (dk_at dksX7_readCond_0 10 rfl rfl)
theorem dX7_readCond_12 : decode cX7_readCond 12 = .ok (.invokevirtual 139, 3) := dk_182 0 139 (dk_at dksX7_readCond_0 12 rfl rfl)
theorem dX7_readCond_15 : decode cX7_readCond 15 = .ok (.ifCond .eq 22, 3) := dk_153 0 22 (dk_at dksX7_readCond_0 15 rfl rfl)
theorem dX7_readCond_18 : decode cX7_readCond 18 = .ok (.aload_n 0, 1) := dk_42 (dk_at dksX7_readCond_0 18 rfl rfl)
theorem dX7_readCond_19 : decode cX7_readCond 19 = .ok (.invokevirtual 213, 3) := dk_182 0 213 (dk_at dksX7_readCond_0 19 rfl rfl)
theorem dX7_readCond_22 : decode cX7_readCond 22 = .ok (.ifCond .ne 5, 3) := dk_154 0 5 (dk_at dksX7_readCond_1 0 rfl rfl)
theorem dX7_readCond_25 : decode cX7_readCond 25 = .ok (.iconst 0, 1) := dk_3 (dk_at dksX7_readCond_1 3 rfl rfl)
theorem dX7_readCond_26 : decode cX7_readCond 26 = .ok (.ireturn, 1) := dk_172 (dk_at dksX7_readCond_1 4 rfl rfl)
theorem dX7_readCond_27 : decode cX7_readCond 27 = .ok (.aload_n 0, 1) := dk_42 (dk_at dksX7_readCond_1 5 rfl rfl)
theorem dX7_readCond_28 : decode cX7_readCond 28 = .ok (.bipush 16, 2) := dk_16 16 (dk_at dksX7_readCond_1 6 rfl rfl)
theorem dX7_readCond_30 : decode cX7_readCond 30 = .ok (.iconst 0, 1) := dk_3 (dk_at dksX7_readCond_1 8 rfl rfl)
theorem dX7_readCond_31 : decode cX7_readCond 31 = .ok (.invokevirtual 182, 3) := dk_182 0 182 (dk_at dksX7_readCond_1 9 rfl rfl)
theorem dX7_readCond_34 : decode cX7_readCond 34 = .ok (.goto (-25), 3) := dk_167 255 231 (dk_at dksX7_readCond_1 12 rfl rfl)
theorem dX7_readCond_37 : decode cX7_readCond 37 = .ok (.iconst 1, 1) := dk_4 (dk_at dksX7_readCond_1 15 rfl rfl)
theorem dX7_readCond_38 : decode cX7_readCond 38 = .ok (.ireturn, 1) := dk_172 (dk_at dksX7_readCond_1 16 rfl rfl)
abbrev cX7_readAllOf : ByteArray := prog_18_method_46_code
def yX7_readAllOf : MethodName := ⟨RX7, "readAllOf", "()Z"⟩
def dkwX7_readAllOf_1 : List UInt8 := [154, 0, 5, 3, 172, 42, 16, 15, 3, 182, 0, 182, 167, 255, 231, 4, 172]
abbrev dktX7_readAllOf_1 : List UInt8 := dkwX7_readAllOf_1 ++ []
def dkwX7_readAllOf_0 : List UInt8 := [42, 182, 0, 202, 154, 0, 5, 3, 172, 42, 18, 211, 182, 0, 139, 153, 0, 22, 42, 182, 0, 202]
abbrev dktX7_readAllOf_0 : List UInt8 := dkwX7_readAllOf_0 ++ dktX7_readAllOf_1
theorem dksX7_readAllOf_0 : cX7_readAllOf.data.toList.drop 0 = dktX7_readAllOf_0 := by decide +kernel
theorem dksX7_readAllOf_1 : cX7_readAllOf.data.toList.drop 22 = dktX7_readAllOf_1 := dk_seg dksX7_readAllOf_0 22 rfl rfl
theorem dX7_readAllOf_0 : decode cX7_readAllOf 0 = .ok (.aload_n 0, 1) := dk_42 (dk_at dksX7_readAllOf_0 0 rfl rfl)
theorem dX7_readAllOf_1 : decode cX7_readAllOf 1 = .ok (.invokevirtual 202, 3) := dk_182 0 202 (dk_at dksX7_readAllOf_0 1 rfl rfl)
theorem dX7_readAllOf_4 : decode cX7_readAllOf 4 = .ok (.ifCond .ne 5, 3) := dk_154 0 5 (dk_at dksX7_readAllOf_0 4 rfl rfl)
theorem dX7_readAllOf_7 : decode cX7_readAllOf 7 = .ok (.iconst 0, 1) := dk_3 (dk_at dksX7_readAllOf_0 7 rfl rfl)
theorem dX7_readAllOf_8 : decode cX7_readAllOf 8 = .ok (.ireturn, 1) := dk_172 (dk_at dksX7_readAllOf_0 8 rfl rfl)
theorem dX7_readAllOf_9 : decode cX7_readAllOf 9 = .ok (.aload_n 0, 1) := dk_42 (dk_at dksX7_readAllOf_0 9 rfl rfl)
theorem dX7_readAllOf_10 : decode cX7_readAllOf 10 = .ok (.ldc 211, 2) := dk_18 211 (dk_at dksX7_readAllOf_0 10 rfl rfl)
theorem dX7_readAllOf_12 : decode cX7_readAllOf 12 = .ok (.invokevirtual 139, 3) := dk_182 0 139 (dk_at dksX7_readAllOf_0 12 rfl rfl)
theorem dX7_readAllOf_15 : decode cX7_readAllOf 15 = .ok (.ifCond .eq 22, 3) := dk_153 0 22 (dk_at dksX7_readAllOf_0 15 rfl rfl)
theorem dX7_readAllOf_18 : decode cX7_readAllOf 18 = .ok (.aload_n 0, 1) := dk_42 (dk_at dksX7_readAllOf_0 18 rfl rfl)
theorem dX7_readAllOf_19 : decode cX7_readAllOf 19 = .ok (.invokevirtual 202, 3) := dk_182 0 202 (dk_at dksX7_readAllOf_0 19 rfl rfl)
theorem dX7_readAllOf_22 : decode cX7_readAllOf 22 = .ok (.ifCond .ne 5, 3) := dk_154 0 5 (dk_at dksX7_readAllOf_1 0 rfl rfl)
theorem dX7_readAllOf_25 : decode cX7_readAllOf 25 = .ok (.iconst 0, 1) := dk_3 (dk_at dksX7_readAllOf_1 3 rfl rfl)
theorem dX7_readAllOf_26 : decode cX7_readAllOf 26 = .ok (.ireturn, 1) := dk_172 (dk_at dksX7_readAllOf_1 4 rfl rfl)
theorem dX7_readAllOf_27 : decode cX7_readAllOf 27 = .ok (.aload_n 0, 1) := dk_42 (dk_at dksX7_readAllOf_1 5 rfl rfl)
theorem dX7_readAllOf_28 : decode cX7_readAllOf 28 = .ok (.bipush 15, 2) := dk_16 15 (dk_at dksX7_readAllOf_1 6 rfl rfl)
theorem dX7_readAllOf_30 : decode cX7_readAllOf 30 = .ok (.iconst 0, 1) := dk_3 (dk_at dksX7_readAllOf_1 8 rfl rfl)
theorem dX7_readAllOf_31 : decode cX7_readAllOf 31 = .ok (.invokevirtual 182, 3) := dk_182 0 182 (dk_at dksX7_readAllOf_1 9 rfl rfl)
theorem dX7_readAllOf_34 : decode cX7_readAllOf 34 = .ok (.goto (-25), 3) := dk_167 255 231 (dk_at dksX7_readAllOf_1 12 rfl rfl)
theorem dX7_readAllOf_37 : decode cX7_readAllOf 37 = .ok (.iconst 1, 1) := dk_4 (dk_at dksX7_readAllOf_1 15 rfl rfl)
theorem dX7_readAllOf_38 : decode cX7_readAllOf 38 = .ok (.ireturn, 1) := dk_172 (dk_at dksX7_readAllOf_1 16 rfl rfl)
abbrev cX7_readAtom : ByteArray := prog_18_method_45_code
def yX7_readAtom : MethodName := ⟨RX7, "readAtom", "()Z"⟩
def dkwX7_readAtom_7 : List UInt8 := [153, 0, 8, 16, 12, 167, 0, 5, 16, 13, 3, 182, 0, 182, 4, 172]
abbrev dktX7_readAtom_7 : List UInt8 := dkwX7_readAtom_7 ++ []
def dkwX7_readAtom_6 : List UInt8 := [27, 154, 0, 12, 42, 16, 62, 182, 0, 189, 153, 0, 10, 42, 182, 0, 208, 154, 0, 5, 3, 172, 42, 27]
abbrev dktX7_readAtom_6 : List UInt8 := dkwX7_readAtom_6 ++ dktX7_readAtom_7
def dkwX7_readAtom_5 : List UInt8 := [182, 0, 205, 153, 0, 5, 4, 172, 42, 182, 0, 208, 154, 0, 5, 3, 172, 42, 16, 60, 182, 0, 189, 60]
abbrev dktX7_readAtom_5 : List UInt8 := dkwX7_readAtom_5 ++ dktX7_readAtom_6
def dkwX7_readAtom_4 : List UInt8 := [3, 172, 42, 89, 180, 0, 194, 4, 100, 181, 0, 194, 42, 16, 14, 3, 182, 0, 182, 4, 172, 42]
abbrev dktX7_readAtom_4 : List UInt8 := dkwX7_readAtom_4 ++ dktX7_readAtom_5
def dkwX7_readAtom_3 : List UInt8 := [16, 6, 160, 0, 5, 3, 172, 42, 89, 180, 0, 194, 4, 96, 181, 0, 194, 42, 182, 0, 202, 154, 0, 5]
abbrev dktX7_readAtom_3 : List UInt8 := dkwX7_readAtom_3 ++ dktX7_readAtom_4
def dkwX7_readAtom_2 : List UInt8 := [181, 0, 194, 42, 16, 41, 182, 0, 189, 172, 42, 18, 200, 182, 0, 139, 153, 0, 52, 42, 180, 0, 194]
abbrev dktX7_readAtom_2 : List UInt8 := dkwX7_readAtom_2 ++ dktX7_readAtom_3
def dkwX7_readAtom_1 : List UInt8 := [180, 0, 194, 4, 96, 181, 0, 194, 42, 182, 0, 197, 154, 0, 5, 3, 172, 42, 89, 180, 0, 194, 4, 100]
abbrev dktX7_readAtom_1 : List UInt8 := dkwX7_readAtom_1 ++ dktX7_readAtom_2
def dkwX7_readAtom_0 : List UInt8 := [42, 16, 40, 182, 0, 189, 153, 0, 50, 42, 180, 0, 194, 16, 6, 160, 0, 5, 3, 172, 42, 89]
abbrev dktX7_readAtom_0 : List UInt8 := dkwX7_readAtom_0 ++ dktX7_readAtom_1
theorem dksX7_readAtom_0 : cX7_readAtom.data.toList.drop 0 = dktX7_readAtom_0 := by decide +kernel
theorem dksX7_readAtom_1 : cX7_readAtom.data.toList.drop 22 = dktX7_readAtom_1 := dk_seg dksX7_readAtom_0 22 rfl rfl
theorem dksX7_readAtom_2 : cX7_readAtom.data.toList.drop 46 = dktX7_readAtom_2 := dk_seg dksX7_readAtom_1 24 rfl rfl
theorem dksX7_readAtom_3 : cX7_readAtom.data.toList.drop 69 = dktX7_readAtom_3 := dk_seg dksX7_readAtom_2 23 rfl rfl
theorem dksX7_readAtom_4 : cX7_readAtom.data.toList.drop 93 = dktX7_readAtom_4 := dk_seg dksX7_readAtom_3 24 rfl rfl
theorem dksX7_readAtom_5 : cX7_readAtom.data.toList.drop 115 = dktX7_readAtom_5 := dk_seg dksX7_readAtom_4 22 rfl rfl
theorem dksX7_readAtom_6 : cX7_readAtom.data.toList.drop 139 = dktX7_readAtom_6 := dk_seg dksX7_readAtom_5 24 rfl rfl
theorem dksX7_readAtom_7 : cX7_readAtom.data.toList.drop 163 = dktX7_readAtom_7 := dk_seg dksX7_readAtom_6 24 rfl rfl
theorem dX7_readAtom_0 : decode cX7_readAtom 0 = .ok (.aload_n 0, 1) := dk_42 (dk_at dksX7_readAtom_0 0 rfl rfl)
theorem dX7_readAtom_1 : decode cX7_readAtom 1 = .ok (.bipush 40, 2) := dk_16 40 (dk_at dksX7_readAtom_0 1 rfl rfl)
theorem dX7_readAtom_3 : decode cX7_readAtom 3 = .ok (.invokevirtual 189, 3) := dk_182 0 189 (dk_at dksX7_readAtom_0 3 rfl rfl)
theorem dX7_readAtom_6 : decode cX7_readAtom 6 = .ok (.ifCond .eq 50, 3) := dk_153 0 50 (dk_at dksX7_readAtom_0 6 rfl rfl)
theorem dX7_readAtom_9 : decode cX7_readAtom 9 = .ok (.aload_n 0, 1) := dk_42 (dk_at dksX7_readAtom_0 9 rfl rfl)
theorem dX7_readAtom_10 : decode cX7_readAtom 10 = .ok (.getfield 194, 3) := dk_180 0 194 (dk_at dksX7_readAtom_0 10 rfl rfl)
theorem dX7_readAtom_13 : decode cX7_readAtom 13 = .ok (.bipush 6, 2) := dk_16 6 (dk_at dksX7_readAtom_0 13 rfl rfl)
theorem dX7_readAtom_15 : decode cX7_readAtom 15 = .ok (.if_icmp .ne 5, 3) := dk_160 0 5 (dk_at dksX7_readAtom_0 15 rfl rfl)
theorem dX7_readAtom_18 : decode cX7_readAtom 18 = .ok (.iconst 0, 1) := dk_3 (dk_at dksX7_readAtom_0 18 rfl rfl)
theorem dX7_readAtom_19 : decode cX7_readAtom 19 = .ok (.ireturn, 1) := dk_172 (dk_at dksX7_readAtom_0 19 rfl rfl)
theorem dX7_readAtom_20 : decode cX7_readAtom 20 = .ok (.aload_n 0, 1) := dk_42 (dk_at dksX7_readAtom_0 20 rfl rfl)
theorem dX7_readAtom_21 : decode cX7_readAtom 21 = .ok (.dup, 1) := dk_89 (dk_at dksX7_readAtom_0 21 rfl rfl)
theorem dX7_readAtom_22 : decode cX7_readAtom 22 = .ok (.getfield 194, 3) := dk_180 0 194 (dk_at dksX7_readAtom_1 0 rfl rfl)
theorem dX7_readAtom_25 : decode cX7_readAtom 25 = .ok (.iconst 1, 1) := dk_4 (dk_at dksX7_readAtom_1 3 rfl rfl)
theorem dX7_readAtom_26 : decode cX7_readAtom 26 = .ok (.iadd, 1) := dk_96 (dk_at dksX7_readAtom_1 4 rfl rfl)
theorem dX7_readAtom_27 : decode cX7_readAtom 27 = .ok (.putfield 194, 3) := dk_181 0 194 (dk_at dksX7_readAtom_1 5 rfl rfl)
theorem dX7_readAtom_30 : decode cX7_readAtom 30 = .ok (.aload_n 0, 1) := dk_42 (dk_at dksX7_readAtom_1 8 rfl rfl)
theorem dX7_readAtom_31 : decode cX7_readAtom 31 = .ok (.invokevirtual 197, 3) := dk_182 0 197 (dk_at dksX7_readAtom_1 9 rfl rfl)
theorem dX7_readAtom_34 : decode cX7_readAtom 34 = .ok (.ifCond .ne 5, 3) := dk_154 0 5 (dk_at dksX7_readAtom_1 12 rfl rfl)
theorem dX7_readAtom_37 : decode cX7_readAtom 37 = .ok (.iconst 0, 1) := dk_3 (dk_at dksX7_readAtom_1 15 rfl rfl)
theorem dX7_readAtom_38 : decode cX7_readAtom 38 = .ok (.ireturn, 1) := dk_172 (dk_at dksX7_readAtom_1 16 rfl rfl)
theorem dX7_readAtom_39 : decode cX7_readAtom 39 = .ok (.aload_n 0, 1) := dk_42 (dk_at dksX7_readAtom_1 17 rfl rfl)
theorem dX7_readAtom_40 : decode cX7_readAtom 40 = .ok (.dup, 1) := dk_89 (dk_at dksX7_readAtom_1 18 rfl rfl)
theorem dX7_readAtom_41 : decode cX7_readAtom 41 = .ok (.getfield 194, 3) := dk_180 0 194 (dk_at dksX7_readAtom_1 19 rfl rfl)
theorem dX7_readAtom_44 : decode cX7_readAtom 44 = .ok (.iconst 1, 1) := dk_4 (dk_at dksX7_readAtom_1 22 rfl rfl)
theorem dX7_readAtom_45 : decode cX7_readAtom 45 = .ok (.isub, 1) := dk_100 (dk_at dksX7_readAtom_1 23 rfl rfl)
theorem dX7_readAtom_46 : decode cX7_readAtom 46 = .ok (.putfield 194, 3) := dk_181 0 194 (dk_at dksX7_readAtom_2 0 rfl rfl)
theorem dX7_readAtom_49 : decode cX7_readAtom 49 = .ok (.aload_n 0, 1) := dk_42 (dk_at dksX7_readAtom_2 3 rfl rfl)
theorem dX7_readAtom_50 : decode cX7_readAtom 50 = .ok (.bipush 41, 2) := dk_16 41 (dk_at dksX7_readAtom_2 4 rfl rfl)
theorem dX7_readAtom_52 : decode cX7_readAtom 52 = .ok (.invokevirtual 189, 3) := dk_182 0 189 (dk_at dksX7_readAtom_2 6 rfl rfl)
theorem dX7_readAtom_55 : decode cX7_readAtom 55 = .ok (.ireturn, 1) := dk_172 (dk_at dksX7_readAtom_2 9 rfl rfl)
theorem dX7_readAtom_56 : decode cX7_readAtom 56 = .ok (.aload_n 0, 1) := dk_42 (dk_at dksX7_readAtom_2 10 rfl rfl)
theorem dX7_readAtom_57 : decode cX7_readAtom 57 = .ok (.ldc 200, 2) := dk_18 200 (dk_at dksX7_readAtom_2 11 rfl rfl)
theorem dX7_readAtom_59 : decode cX7_readAtom 59 = .ok (.invokevirtual 139, 3) := dk_182 0 139 (dk_at dksX7_readAtom_2 13 rfl rfl)
theorem dX7_readAtom_62 : decode cX7_readAtom 62 = .ok (.ifCond .eq 52, 3) := dk_153 0 52 (dk_at dksX7_readAtom_2 16 rfl rfl)
theorem dX7_readAtom_65 : decode cX7_readAtom 65 = .ok (.aload_n 0, 1) := dk_42 (dk_at dksX7_readAtom_2 19 rfl rfl)
theorem dX7_readAtom_66 : decode cX7_readAtom 66 = .ok (.getfield 194, 3) := dk_180 0 194 (dk_at dksX7_readAtom_2 20 rfl rfl)
theorem dX7_readAtom_69 : decode cX7_readAtom 69 = .ok (.bipush 6, 2) := dk_16 6 (dk_at dksX7_readAtom_3 0 rfl rfl)
theorem dX7_readAtom_71 : decode cX7_readAtom 71 = .ok (.if_icmp .ne 5, 3) := dk_160 0 5 (dk_at dksX7_readAtom_3 2 rfl rfl)
theorem dX7_readAtom_74 : decode cX7_readAtom 74 = .ok (.iconst 0, 1) := dk_3 (dk_at dksX7_readAtom_3 5 rfl rfl)
theorem dX7_readAtom_75 : decode cX7_readAtom 75 = .ok (.ireturn, 1) := dk_172 (dk_at dksX7_readAtom_3 6 rfl rfl)
theorem dX7_readAtom_76 : decode cX7_readAtom 76 = .ok (.aload_n 0, 1) := dk_42 (dk_at dksX7_readAtom_3 7 rfl rfl)
theorem dX7_readAtom_77 : decode cX7_readAtom 77 = .ok (.dup, 1) := dk_89 (dk_at dksX7_readAtom_3 8 rfl rfl)
theorem dX7_readAtom_78 : decode cX7_readAtom 78 = .ok (.getfield 194, 3) := dk_180 0 194 (dk_at dksX7_readAtom_3 9 rfl rfl)
theorem dX7_readAtom_81 : decode cX7_readAtom 81 = .ok (.iconst 1, 1) := dk_4 (dk_at dksX7_readAtom_3 12 rfl rfl)
theorem dX7_readAtom_82 : decode cX7_readAtom 82 = .ok (.iadd, 1) := dk_96 (dk_at dksX7_readAtom_3 13 rfl rfl)
theorem dX7_readAtom_83 : decode cX7_readAtom 83 = .ok (.putfield 194, 3) := dk_181 0 194 (dk_at dksX7_readAtom_3 14 rfl rfl)
theorem dX7_readAtom_86 : decode cX7_readAtom 86 = .ok (.aload_n 0, 1) := dk_42 (dk_at dksX7_readAtom_3 17 rfl rfl)
theorem dX7_readAtom_87 : decode cX7_readAtom 87 = .ok (.invokevirtual 202, 3) := dk_182 0 202 (dk_at dksX7_readAtom_3 18 rfl rfl)
theorem dX7_readAtom_90 : decode cX7_readAtom 90 = .ok (.ifCond .ne 5, 3) := dk_154 0 5 (dk_at dksX7_readAtom_3 21 rfl rfl)
theorem dX7_readAtom_93 : decode cX7_readAtom 93 = .ok (.iconst 0, 1) := dk_3 (dk_at dksX7_readAtom_4 0 rfl rfl)
theorem dX7_readAtom_94 : decode cX7_readAtom 94 = .ok (.ireturn, 1) := dk_172 (dk_at dksX7_readAtom_4 1 rfl rfl)
theorem dX7_readAtom_95 : decode cX7_readAtom 95 = .ok (.aload_n 0, 1) := dk_42 (dk_at dksX7_readAtom_4 2 rfl rfl)
theorem dX7_readAtom_96 : decode cX7_readAtom 96 = .ok (.dup, 1) := dk_89 (dk_at dksX7_readAtom_4 3 rfl rfl)
theorem dX7_readAtom_97 : decode cX7_readAtom 97 = .ok (.getfield 194, 3) := dk_180 0 194 (dk_at dksX7_readAtom_4 4 rfl rfl)
theorem dX7_readAtom_100 : decode cX7_readAtom 100 = .ok (.iconst 1, 1) := dk_4 (dk_at dksX7_readAtom_4 7 rfl rfl)
theorem dX7_readAtom_101 : decode cX7_readAtom 101 = .ok (.isub, 1) := dk_100 (dk_at dksX7_readAtom_4 8 rfl rfl)
theorem dX7_readAtom_102 : decode cX7_readAtom 102 = .ok (.putfield 194, 3) := dk_181 0 194 (dk_at dksX7_readAtom_4 9 rfl rfl)
theorem dX7_readAtom_105 : decode cX7_readAtom 105 = .ok (.aload_n 0, 1) := dk_42 (dk_at dksX7_readAtom_4 12 rfl rfl)
theorem dX7_readAtom_106 : decode cX7_readAtom 106 = .ok (.bipush 14, 2) := dk_16 14 (dk_at dksX7_readAtom_4 13 rfl rfl)
theorem dX7_readAtom_108 : decode cX7_readAtom 108 = .ok (.iconst 0, 1) := dk_3 (dk_at dksX7_readAtom_4 15 rfl rfl)
theorem dX7_readAtom_109 : decode cX7_readAtom 109 = .ok (.invokevirtual 182, 3) := dk_182 0 182 (dk_at dksX7_readAtom_4 16 rfl rfl)
theorem dX7_readAtom_112 : decode cX7_readAtom 112 = .ok (.iconst 1, 1) := dk_4 (dk_at dksX7_readAtom_4 19 rfl rfl)
theorem dX7_readAtom_113 : decode cX7_readAtom 113 = .ok (.ireturn, 1) := dk_172 (dk_at dksX7_readAtom_4 20 rfl rfl)
theorem dX7_readAtom_114 : decode cX7_readAtom 114 = .ok (.aload_n 0, 1) := dk_42 (dk_at dksX7_readAtom_4 21 rfl rfl)
theorem dX7_readAtom_115 : decode cX7_readAtom 115 = .ok (.invokevirtual 205, 3) := dk_182 0 205 (dk_at dksX7_readAtom_5 0 rfl rfl)
theorem dX7_readAtom_118 : decode cX7_readAtom 118 = .ok (.ifCond .eq 5, 3) := dk_153 0 5 (dk_at dksX7_readAtom_5 3 rfl rfl)
theorem dX7_readAtom_121 : decode cX7_readAtom 121 = .ok (.iconst 1, 1) := dk_4 (dk_at dksX7_readAtom_5 6 rfl rfl)
theorem dX7_readAtom_122 : decode cX7_readAtom 122 = .ok (.ireturn, 1) := dk_172 (dk_at dksX7_readAtom_5 7 rfl rfl)
theorem dX7_readAtom_123 : decode cX7_readAtom 123 = .ok (.aload_n 0, 1) := dk_42 (dk_at dksX7_readAtom_5 8 rfl rfl)
theorem dX7_readAtom_124 : decode cX7_readAtom 124 = .ok (.invokevirtual 208, 3) := dk_182 0 208 (dk_at dksX7_readAtom_5 9 rfl rfl)
theorem dX7_readAtom_127 : decode cX7_readAtom 127 = .ok (.ifCond .ne 5, 3) := dk_154 0 5 (dk_at dksX7_readAtom_5 12 rfl rfl)
theorem dX7_readAtom_130 : decode cX7_readAtom 130 = .ok (.iconst 0, 1) := dk_3 (dk_at dksX7_readAtom_5 15 rfl rfl)
theorem dX7_readAtom_131 : decode cX7_readAtom 131 = .ok (.ireturn, 1) := dk_172 (dk_at dksX7_readAtom_5 16 rfl rfl)
theorem dX7_readAtom_132 : decode cX7_readAtom 132 = .ok (.aload_n 0, 1) := dk_42 (dk_at dksX7_readAtom_5 17 rfl rfl)
theorem dX7_readAtom_133 : decode cX7_readAtom 133 = .ok (.bipush 60, 2) := dk_16 60 (dk_at dksX7_readAtom_5 18 rfl rfl)
theorem dX7_readAtom_135 : decode cX7_readAtom 135 = .ok (.invokevirtual 189, 3) := dk_182 0 189 (dk_at dksX7_readAtom_5 20 rfl rfl)
theorem dX7_readAtom_138 : decode cX7_readAtom 138 = .ok (.istore_n 1, 1) := dk_60 (dk_at dksX7_readAtom_5 23 rfl rfl)
theorem dX7_readAtom_139 : decode cX7_readAtom 139 = .ok (.iload_n 1, 1) := dk_27 (dk_at dksX7_readAtom_6 0 rfl rfl)
theorem dX7_readAtom_140 : decode cX7_readAtom 140 = .ok (.ifCond .ne 12, 3) := dk_154 0 12 (dk_at dksX7_readAtom_6 1 rfl rfl)
theorem dX7_readAtom_143 : decode cX7_readAtom 143 = .ok (.aload_n 0, 1) := dk_42 (dk_at dksX7_readAtom_6 4 rfl rfl)
theorem dX7_readAtom_144 : decode cX7_readAtom 144 = .ok (.bipush 62, 2) := dk_16 62 (dk_at dksX7_readAtom_6 5 rfl rfl)
theorem dX7_readAtom_146 : decode cX7_readAtom 146 = .ok (.invokevirtual 189, 3) := dk_182 0 189 (dk_at dksX7_readAtom_6 7 rfl rfl)
theorem dX7_readAtom_149 : decode cX7_readAtom 149 = .ok (.ifCond .eq 10, 3) := dk_153 0 10 (dk_at dksX7_readAtom_6 10 rfl rfl)
theorem dX7_readAtom_152 : decode cX7_readAtom 152 = .ok (.aload_n 0, 1) := dk_42 (dk_at dksX7_readAtom_6 13 rfl rfl)
theorem dX7_readAtom_153 : decode cX7_readAtom 153 = .ok (.invokevirtual 208, 3) := dk_182 0 208 (dk_at dksX7_readAtom_6 14 rfl rfl)
theorem dX7_readAtom_156 : decode cX7_readAtom 156 = .ok (.ifCond .ne 5, 3) := dk_154 0 5 (dk_at dksX7_readAtom_6 17 rfl rfl)
theorem dX7_readAtom_159 : decode cX7_readAtom 159 = .ok (.iconst 0, 1) := dk_3 (dk_at dksX7_readAtom_6 20 rfl rfl)
theorem dX7_readAtom_160 : decode cX7_readAtom 160 = .ok (.ireturn, 1) := dk_172 (dk_at dksX7_readAtom_6 21 rfl rfl)
theorem dX7_readAtom_161 : decode cX7_readAtom 161 = .ok (.aload_n 0, 1) := dk_42 (dk_at dksX7_readAtom_6 22 rfl rfl)
theorem dX7_readAtom_162 : decode cX7_readAtom 162 = .ok (.iload_n 1, 1) := dk_27 (dk_at dksX7_readAtom_6 23 rfl rfl)
theorem dX7_readAtom_163 : decode cX7_readAtom 163 = .ok (.ifCond .eq 8, 3) := dk_153 0 8 (dk_at dksX7_readAtom_7 0 rfl rfl)
theorem dX7_readAtom_166 : decode cX7_readAtom 166 = .ok (.bipush 12, 2) := dk_16 12 (dk_at dksX7_readAtom_7 3 rfl rfl)
theorem dX7_readAtom_168 : decode cX7_readAtom 168 = .ok (.goto 5, 3) := dk_167 0 5 (dk_at dksX7_readAtom_7 5 rfl rfl)
theorem dX7_readAtom_171 : decode cX7_readAtom 171 = .ok (.bipush 13, 2) := dk_16 13 (dk_at dksX7_readAtom_7 8 rfl rfl)
theorem dX7_readAtom_173 : decode cX7_readAtom 173 = .ok (.iconst 0, 1) := dk_3 (dk_at dksX7_readAtom_7 10 rfl rfl)
theorem dX7_readAtom_174 : decode cX7_readAtom 174 = .ok (.invokevirtual 182, 3) := dk_182 0 182 (dk_at dksX7_readAtom_7 11 rfl rfl)
theorem dX7_readAtom_177 : decode cX7_readAtom 177 = .ok (.iconst 1, 1) := dk_4 (dk_at dksX7_readAtom_7 14 rfl rfl)
theorem dX7_readAtom_178 : decode cX7_readAtom 178 = .ok (.ireturn, 1) := dk_172 (dk_at dksX7_readAtom_7 15 rfl rfl)
abbrev cX7_sign : ByteArray := prog_18_method_30_code
def yX7_sign : MethodName := ⟨RX7, "sign", "(I)Z"⟩
def dkwX7_sign_1 : List UInt8 := [181, 0, 89, 4, 172]
abbrev dktX7_sign_1 : List UInt8 := dkwX7_sign_1 ++ []
def dkwX7_sign_0 : List UInt8 := [42, 182, 0, 102, 42, 27, 27, 182, 0, 95, 154, 0, 5, 3, 172, 42, 89, 180, 0, 89, 4, 96]
abbrev dktX7_sign_0 : List UInt8 := dkwX7_sign_0 ++ dktX7_sign_1
theorem dksX7_sign_0 : cX7_sign.data.toList.drop 0 = dktX7_sign_0 := by decide +kernel
theorem dksX7_sign_1 : cX7_sign.data.toList.drop 22 = dktX7_sign_1 := dk_seg dksX7_sign_0 22 rfl rfl
theorem dX7_sign_0 : decode cX7_sign 0 = .ok (.aload_n 0, 1) := dk_42 (dk_at dksX7_sign_0 0 rfl rfl)
theorem dX7_sign_1 : decode cX7_sign 1 = .ok (.invokevirtual 102, 3) := dk_182 0 102 (dk_at dksX7_sign_0 1 rfl rfl)
theorem dX7_sign_4 : decode cX7_sign 4 = .ok (.aload_n 0, 1) := dk_42 (dk_at dksX7_sign_0 4 rfl rfl)
theorem dX7_sign_5 : decode cX7_sign 5 = .ok (.iload_n 1, 1) := dk_27 (dk_at dksX7_sign_0 5 rfl rfl)
theorem dX7_sign_6 : decode cX7_sign 6 = .ok (.iload_n 1, 1) := dk_27 (dk_at dksX7_sign_0 6 rfl rfl)
theorem dX7_sign_7 : decode cX7_sign 7 = .ok (.invokevirtual 95, 3) := dk_182 0 95 (dk_at dksX7_sign_0 7 rfl rfl)
theorem dX7_sign_10 : decode cX7_sign 10 = .ok (.ifCond .ne 5, 3) := dk_154 0 5 (dk_at dksX7_sign_0 10 rfl rfl)
theorem dX7_sign_13 : decode cX7_sign 13 = .ok (.iconst 0, 1) := dk_3 (dk_at dksX7_sign_0 13 rfl rfl)
theorem dX7_sign_14 : decode cX7_sign 14 = .ok (.ireturn, 1) := dk_172 (dk_at dksX7_sign_0 14 rfl rfl)
theorem dX7_sign_15 : decode cX7_sign 15 = .ok (.aload_n 0, 1) := dk_42 (dk_at dksX7_sign_0 15 rfl rfl)
theorem dX7_sign_16 : decode cX7_sign 16 = .ok (.dup, 1) := dk_89 (dk_at dksX7_sign_0 16 rfl rfl)
theorem dX7_sign_17 : decode cX7_sign 17 = .ok (.getfield 89, 3) := dk_180 0 89 (dk_at dksX7_sign_0 17 rfl rfl)
theorem dX7_sign_20 : decode cX7_sign 20 = .ok (.iconst 1, 1) := dk_4 (dk_at dksX7_sign_0 20 rfl rfl)
theorem dX7_sign_21 : decode cX7_sign 21 = .ok (.iadd, 1) := dk_96 (dk_at dksX7_sign_0 21 rfl rfl)
theorem dX7_sign_22 : decode cX7_sign 22 = .ok (.putfield 89, 3) := dk_181 0 89 (dk_at dksX7_sign_1 0 rfl rfl)
theorem dX7_sign_25 : decode cX7_sign 25 = .ok (.iconst 1, 1) := dk_4 (dk_at dksX7_sign_1 3 rfl rfl)
theorem dX7_sign_26 : decode cX7_sign 26 = .ok (.ireturn, 1) := dk_172 (dk_at dksX7_sign_1 4 rfl rfl)
abbrev cX7_emits : ByteArray := prog_18_method_40_code
def yX7_emits : MethodName := ⟨RX7, "emits", "(II)V"⟩
def dkwX7_emits_1 : List UInt8 := [42, 180, 0, 168, 104, 96, 4, 96, 28, 79, 42, 89, 180, 0, 168, 4, 96, 181, 0, 168, 177]
abbrev dktX7_emits_1 : List UInt8 := dkwX7_emits_1 ++ []
def dkwX7_emits_0 : List UInt8 := [42, 180, 0, 13, 17, 4, 251, 5, 42, 180, 0, 168, 104, 96, 27, 79, 42, 180, 0, 13, 17, 4, 251, 5]
abbrev dktX7_emits_0 : List UInt8 := dkwX7_emits_0 ++ dktX7_emits_1
theorem dksX7_emits_0 : cX7_emits.data.toList.drop 0 = dktX7_emits_0 := by decide +kernel
theorem dksX7_emits_1 : cX7_emits.data.toList.drop 24 = dktX7_emits_1 := dk_seg dksX7_emits_0 24 rfl rfl
theorem dX7_emits_0 : decode cX7_emits 0 = .ok (.aload_n 0, 1) := dk_42 (dk_at dksX7_emits_0 0 rfl rfl)
theorem dX7_emits_1 : decode cX7_emits 1 = .ok (.getfield 13, 3) := dk_180 0 13 (dk_at dksX7_emits_0 1 rfl rfl)
theorem dX7_emits_4 : decode cX7_emits 4 = .ok (.sipush 1275, 3) := dk_17 4 251 (dk_at dksX7_emits_0 4 rfl rfl)
theorem dX7_emits_7 : decode cX7_emits 7 = .ok (.iconst 2, 1) := dk_5 (dk_at dksX7_emits_0 7 rfl rfl)
theorem dX7_emits_8 : decode cX7_emits 8 = .ok (.aload_n 0, 1) := dk_42 (dk_at dksX7_emits_0 8 rfl rfl)
theorem dX7_emits_9 : decode cX7_emits 9 = .ok (.getfield 168, 3) := dk_180 0 168 (dk_at dksX7_emits_0 9 rfl rfl)
theorem dX7_emits_12 : decode cX7_emits 12 = .ok (.imul, 1) := dk_104 (dk_at dksX7_emits_0 12 rfl rfl)
theorem dX7_emits_13 : decode cX7_emits 13 = .ok (.iadd, 1) := dk_96 (dk_at dksX7_emits_0 13 rfl rfl)
theorem dX7_emits_14 : decode cX7_emits 14 = .ok (.iload_n 1, 1) := dk_27 (dk_at dksX7_emits_0 14 rfl rfl)
theorem dX7_emits_15 : decode cX7_emits 15 = .ok (.iastore, 1) := dk_79 (dk_at dksX7_emits_0 15 rfl rfl)
theorem dX7_emits_16 : decode cX7_emits 16 = .ok (.aload_n 0, 1) := dk_42 (dk_at dksX7_emits_0 16 rfl rfl)
theorem dX7_emits_17 : decode cX7_emits 17 = .ok (.getfield 13, 3) := dk_180 0 13 (dk_at dksX7_emits_0 17 rfl rfl)
theorem dX7_emits_20 : decode cX7_emits 20 = .ok (.sipush 1275, 3) := dk_17 4 251 (dk_at dksX7_emits_0 20 rfl rfl)
theorem dX7_emits_23 : decode cX7_emits 23 = .ok (.iconst 2, 1) := dk_5 (dk_at dksX7_emits_0 23 rfl rfl)
theorem dX7_emits_24 : decode cX7_emits 24 = .ok (.aload_n 0, 1) := dk_42 (dk_at dksX7_emits_1 0 rfl rfl)
theorem dX7_emits_25 : decode cX7_emits 25 = .ok (.getfield 168, 3) := dk_180 0 168 (dk_at dksX7_emits_1 1 rfl rfl)
theorem dX7_emits_28 : decode cX7_emits 28 = .ok (.imul, 1) := dk_104 (dk_at dksX7_emits_1 4 rfl rfl)
theorem dX7_emits_29 : decode cX7_emits 29 = .ok (.iadd, 1) := dk_96 (dk_at dksX7_emits_1 5 rfl rfl)
theorem dX7_emits_30 : decode cX7_emits 30 = .ok (.iconst 1, 1) := dk_4 (dk_at dksX7_emits_1 6 rfl rfl)
theorem dX7_emits_31 : decode cX7_emits 31 = .ok (.iadd, 1) := dk_96 (dk_at dksX7_emits_1 7 rfl rfl)
theorem dX7_emits_32 : decode cX7_emits 32 = .ok (.iload_n 2, 1) := dk_28 (dk_at dksX7_emits_1 8 rfl rfl)
theorem dX7_emits_33 : decode cX7_emits 33 = .ok (.iastore, 1) := dk_79 (dk_at dksX7_emits_1 9 rfl rfl)
theorem dX7_emits_34 : decode cX7_emits 34 = .ok (.aload_n 0, 1) := dk_42 (dk_at dksX7_emits_1 10 rfl rfl)
theorem dX7_emits_35 : decode cX7_emits 35 = .ok (.dup, 1) := dk_89 (dk_at dksX7_emits_1 11 rfl rfl)
theorem dX7_emits_36 : decode cX7_emits 36 = .ok (.getfield 168, 3) := dk_180 0 168 (dk_at dksX7_emits_1 12 rfl rfl)
theorem dX7_emits_39 : decode cX7_emits 39 = .ok (.iconst 1, 1) := dk_4 (dk_at dksX7_emits_1 15 rfl rfl)
theorem dX7_emits_40 : decode cX7_emits 40 = .ok (.iadd, 1) := dk_96 (dk_at dksX7_emits_1 16 rfl rfl)
theorem dX7_emits_41 : decode cX7_emits 41 = .ok (.putfield 168, 3) := dk_181 0 168 (dk_at dksX7_emits_1 17 rfl rfl)
theorem dX7_emits_44 : decode cX7_emits 44 = .ok (.return_, 1) := dk_177 (dk_at dksX7_emits_1 20 rfl rfl)
abbrev cX7_readTag : ByteArray := prog_18_method_44_code
def yX7_readTag : MethodName := ⟨RX7, "readTag", "()Z"⟩
def dkwX7_readTag_3 : List UInt8 := [155, 0, 7, 4, 167, 0, 4, 3, 172]
abbrev dktX7_readTag_3 : List UInt8 := dkwX7_readTag_3 ++ []
def dkwX7_readTag_2 : List UInt8 := [27, 155, 0, 12, 42, 27, 3, 182, 0, 182, 167, 0, 11, 42, 42, 180, 0, 99, 181, 0, 89, 27]
abbrev dktX7_readTag_2 : List UInt8 := dkwX7_readTag_2 ++ dktX7_readTag_3
def dkwX7_readTag_1 : List UInt8 := [153, 0, 8, 16, 8, 167, 0, 18, 42, 18, 149, 182, 0, 117, 153, 0, 8, 16, 9, 167, 0, 4, 2, 60]
abbrev dktX7_readTag_1 : List UInt8 := dkwX7_readTag_1 ++ dktX7_readTag_2
def dkwX7_readTag_0 : List UInt8 := [42, 182, 0, 114, 42, 18, 142, 182, 0, 117, 153, 0, 8, 16, 7, 167, 0, 32, 42, 18, 192, 182, 0, 117]
abbrev dktX7_readTag_0 : List UInt8 := dkwX7_readTag_0 ++ dktX7_readTag_1
theorem dksX7_readTag_0 : cX7_readTag.data.toList.drop 0 = dktX7_readTag_0 := by decide +kernel
theorem dksX7_readTag_1 : cX7_readTag.data.toList.drop 24 = dktX7_readTag_1 := dk_seg dksX7_readTag_0 24 rfl rfl
theorem dksX7_readTag_2 : cX7_readTag.data.toList.drop 48 = dktX7_readTag_2 := dk_seg dksX7_readTag_1 24 rfl rfl
theorem dksX7_readTag_3 : cX7_readTag.data.toList.drop 70 = dktX7_readTag_3 := dk_seg dksX7_readTag_2 22 rfl rfl
theorem dX7_readTag_0 : decode cX7_readTag 0 = .ok (.aload_n 0, 1) := dk_42 (dk_at dksX7_readTag_0 0 rfl rfl)
theorem dX7_readTag_1 : decode cX7_readTag 1 = .ok (.invokevirtual 114, 3) := dk_182 0 114 (dk_at dksX7_readTag_0 1 rfl rfl)
theorem dX7_readTag_4 : decode cX7_readTag 4 = .ok (.aload_n 0, 1) := dk_42 (dk_at dksX7_readTag_0 4 rfl rfl)
theorem dX7_readTag_5 : decode cX7_readTag 5 = .ok (.ldc 142, 2) := dk_18 142 (dk_at dksX7_readTag_0 5 rfl rfl)
theorem dX7_readTag_7 : decode cX7_readTag 7 = .ok (.invokevirtual 117, 3) := dk_182 0 117 (dk_at dksX7_readTag_0 7 rfl rfl)
theorem dX7_readTag_10 : decode cX7_readTag 10 = .ok (.ifCond .eq 8, 3) := dk_153 0 8 (dk_at dksX7_readTag_0 10 rfl rfl)
theorem dX7_readTag_13 : decode cX7_readTag 13 = .ok (.bipush 7, 2) := dk_16 7 (dk_at dksX7_readTag_0 13 rfl rfl)
theorem dX7_readTag_15 : decode cX7_readTag 15 = .ok (.goto 32, 3) := dk_167 0 32 (dk_at dksX7_readTag_0 15 rfl rfl)
theorem dX7_readTag_18 : decode cX7_readTag 18 = .ok (.aload_n 0, 1) := dk_42 (dk_at dksX7_readTag_0 18 rfl rfl)
theorem dX7_readTag_19 : decode cX7_readTag 19 = .ok (.ldc 192, 2) := dk_18 192 (dk_at dksX7_readTag_0 19 rfl rfl)
theorem dX7_readTag_21 : decode cX7_readTag 21 = .ok (.invokevirtual 117, 3) := dk_182 0 117 (dk_at dksX7_readTag_0 21 rfl rfl)
theorem dX7_readTag_24 : decode cX7_readTag 24 = .ok (.ifCond .eq 8, 3) := dk_153 0 8 (dk_at dksX7_readTag_1 0 rfl rfl)
theorem dX7_readTag_27 : decode cX7_readTag 27 = .ok (.bipush 8, 2) := dk_16 8 (dk_at dksX7_readTag_1 3 rfl rfl)
theorem dX7_readTag_29 : decode cX7_readTag 29 = .ok (.goto 18, 3) := dk_167 0 18 (dk_at dksX7_readTag_1 5 rfl rfl)
theorem dX7_readTag_32 : decode cX7_readTag 32 = .ok (.aload_n 0, 1) := dk_42 (dk_at dksX7_readTag_1 8 rfl rfl)
theorem dX7_readTag_33 : decode cX7_readTag 33 = .ok (.ldc 149, 2) := dk_18 149 (dk_at dksX7_readTag_1 9 rfl rfl)
theorem dX7_readTag_35 : decode cX7_readTag 35 = .ok (.invokevirtual 117, 3) := dk_182 0 117 (dk_at dksX7_readTag_1 11 rfl rfl)
theorem dX7_readTag_38 : decode cX7_readTag 38 = .ok (.ifCond .eq 8, 3) := dk_153 0 8 (dk_at dksX7_readTag_1 14 rfl rfl)
theorem dX7_readTag_41 : decode cX7_readTag 41 = .ok (.bipush 9, 2) := dk_16 9 (dk_at dksX7_readTag_1 17 rfl rfl)
theorem dX7_readTag_43 : decode cX7_readTag 43 = .ok (.goto 4, 3) := dk_167 0 4 (dk_at dksX7_readTag_1 19 rfl rfl)
theorem dX7_readTag_46 : decode cX7_readTag 46 = .ok (.iconst (-1), 1) := dk_2 (dk_at dksX7_readTag_1 22 rfl rfl)
theorem dX7_readTag_47 : decode cX7_readTag 47 = .ok (.istore_n 1, 1) := dk_60 (dk_at dksX7_readTag_1 23 rfl rfl)
theorem dX7_readTag_48 : decode cX7_readTag 48 = .ok (.iload_n 1, 1) := dk_27 (dk_at dksX7_readTag_2 0 rfl rfl)
theorem dX7_readTag_49 : decode cX7_readTag 49 = .ok (.ifCond .lt 12, 3) := dk_155 0 12 (dk_at dksX7_readTag_2 1 rfl rfl)
theorem dX7_readTag_52 : decode cX7_readTag 52 = .ok (.aload_n 0, 1) := dk_42 (dk_at dksX7_readTag_2 4 rfl rfl)
theorem dX7_readTag_53 : decode cX7_readTag 53 = .ok (.iload_n 1, 1) := dk_27 (dk_at dksX7_readTag_2 5 rfl rfl)
theorem dX7_readTag_54 : decode cX7_readTag 54 = .ok (.iconst 0, 1) := dk_3 (dk_at dksX7_readTag_2 6 rfl rfl)
theorem dX7_readTag_55 : decode cX7_readTag 55 = .ok (.invokevirtual 182, 3) := dk_182 0 182 (dk_at dksX7_readTag_2 7 rfl rfl)
theorem dX7_readTag_58 : decode cX7_readTag 58 = .ok (.goto 11, 3) := dk_167 0 11 (dk_at dksX7_readTag_2 10 rfl rfl)
theorem dX7_readTag_61 : decode cX7_readTag 61 = .ok (.aload_n 0, 1) := dk_42 (dk_at dksX7_readTag_2 13 rfl rfl)
theorem dX7_readTag_62 : decode cX7_readTag 62 = .ok (.aload_n 0, 1) := dk_42 (dk_at dksX7_readTag_2 14 rfl rfl)
theorem dX7_readTag_63 : decode cX7_readTag 63 = .ok (.getfield 99, 3) := dk_180 0 99 (dk_at dksX7_readTag_2 15 rfl rfl)
theorem dX7_readTag_66 : decode cX7_readTag 66 = .ok (.putfield 89, 3) := dk_181 0 89 (dk_at dksX7_readTag_2 18 rfl rfl)
theorem dX7_readTag_69 : decode cX7_readTag 69 = .ok (.iload_n 1, 1) := dk_27 (dk_at dksX7_readTag_2 21 rfl rfl)
theorem dX7_readTag_70 : decode cX7_readTag 70 = .ok (.ifCond .lt 7, 3) := dk_155 0 7 (dk_at dksX7_readTag_3 0 rfl rfl)
theorem dX7_readTag_73 : decode cX7_readTag 73 = .ok (.iconst 1, 1) := dk_4 (dk_at dksX7_readTag_3 3 rfl rfl)
theorem dX7_readTag_74 : decode cX7_readTag 74 = .ok (.goto 4, 3) := dk_167 0 4 (dk_at dksX7_readTag_3 4 rfl rfl)
theorem dX7_readTag_77 : decode cX7_readTag 77 = .ok (.iconst 0, 1) := dk_3 (dk_at dksX7_readTag_3 7 rfl rfl)
theorem dX7_readTag_78 : decode cX7_readTag 78 = .ok (.ireturn, 1) := dk_172 (dk_at dksX7_readTag_3 8 rfl rfl)
abbrev cX7_readSum : ByteArray := prog_18_method_43_code
def yX7_readSum : MethodName := ⟨RX7, "readSum", "()Z"⟩
def dkwX7_readSum_1 : List UInt8 := [154, 0, 5, 3, 172, 42, 16, 11, 3, 182, 0, 182, 167, 255, 231, 4, 172]
abbrev dktX7_readSum_1 : List UInt8 := dkwX7_readSum_1 ++ []
def dkwX7_readSum_0 : List UInt8 := [42, 182, 0, 186, 154, 0, 5, 3, 172, 42, 16, 43, 182, 0, 189, 153, 0, 22, 42, 182, 0, 186]
abbrev dktX7_readSum_0 : List UInt8 := dkwX7_readSum_0 ++ dktX7_readSum_1
theorem dksX7_readSum_0 : cX7_readSum.data.toList.drop 0 = dktX7_readSum_0 := by decide +kernel
theorem dksX7_readSum_1 : cX7_readSum.data.toList.drop 22 = dktX7_readSum_1 := dk_seg dksX7_readSum_0 22 rfl rfl
theorem dX7_readSum_0 : decode cX7_readSum 0 = .ok (.aload_n 0, 1) := dk_42 (dk_at dksX7_readSum_0 0 rfl rfl)
theorem dX7_readSum_1 : decode cX7_readSum 1 = .ok (.invokevirtual 186, 3) := dk_182 0 186 (dk_at dksX7_readSum_0 1 rfl rfl)
theorem dX7_readSum_4 : decode cX7_readSum 4 = .ok (.ifCond .ne 5, 3) := dk_154 0 5 (dk_at dksX7_readSum_0 4 rfl rfl)
theorem dX7_readSum_7 : decode cX7_readSum 7 = .ok (.iconst 0, 1) := dk_3 (dk_at dksX7_readSum_0 7 rfl rfl)
theorem dX7_readSum_8 : decode cX7_readSum 8 = .ok (.ireturn, 1) := dk_172 (dk_at dksX7_readSum_0 8 rfl rfl)
theorem dX7_readSum_9 : decode cX7_readSum 9 = .ok (.aload_n 0, 1) := dk_42 (dk_at dksX7_readSum_0 9 rfl rfl)
theorem dX7_readSum_10 : decode cX7_readSum 10 = .ok (.bipush 43, 2) := dk_16 43 (dk_at dksX7_readSum_0 10 rfl rfl)
theorem dX7_readSum_12 : decode cX7_readSum 12 = .ok (.invokevirtual 189, 3) := dk_182 0 189 (dk_at dksX7_readSum_0 12 rfl rfl)
theorem dX7_readSum_15 : decode cX7_readSum 15 = .ok (.ifCond .eq 22, 3) := dk_153 0 22 (dk_at dksX7_readSum_0 15 rfl rfl)
theorem dX7_readSum_18 : decode cX7_readSum 18 = .ok (.aload_n 0, 1) := dk_42 (dk_at dksX7_readSum_0 18 rfl rfl)
theorem dX7_readSum_19 : decode cX7_readSum 19 = .ok (.invokevirtual 186, 3) := dk_182 0 186 (dk_at dksX7_readSum_0 19 rfl rfl)
theorem dX7_readSum_22 : decode cX7_readSum 22 = .ok (.ifCond .ne 5, 3) := dk_154 0 5 (dk_at dksX7_readSum_1 0 rfl rfl)
theorem dX7_readSum_25 : decode cX7_readSum 25 = .ok (.iconst 0, 1) := dk_3 (dk_at dksX7_readSum_1 3 rfl rfl)
theorem dX7_readSum_26 : decode cX7_readSum 26 = .ok (.ireturn, 1) := dk_172 (dk_at dksX7_readSum_1 4 rfl rfl)
theorem dX7_readSum_27 : decode cX7_readSum 27 = .ok (.aload_n 0, 1) := dk_42 (dk_at dksX7_readSum_1 5 rfl rfl)
theorem dX7_readSum_28 : decode cX7_readSum 28 = .ok (.bipush 11, 2) := dk_16 11 (dk_at dksX7_readSum_1 6 rfl rfl)
theorem dX7_readSum_30 : decode cX7_readSum 30 = .ok (.iconst 0, 1) := dk_3 (dk_at dksX7_readSum_1 8 rfl rfl)
theorem dX7_readSum_31 : decode cX7_readSum 31 = .ok (.invokevirtual 182, 3) := dk_182 0 182 (dk_at dksX7_readSum_1 9 rfl rfl)
theorem dX7_readSum_34 : decode cX7_readSum 34 = .ok (.goto (-25), 3) := dk_167 255 231 (dk_at dksX7_readSum_1 12 rfl rfl)
theorem dX7_readSum_37 : decode cX7_readSum 37 = .ok (.iconst 1, 1) := dk_4 (dk_at dksX7_readSum_1 15 rfl rfl)
theorem dX7_readSum_38 : decode cX7_readSum 38 = .ok (.ireturn, 1) := dk_172 (dk_at dksX7_readSum_1 16 rfl rfl)
abbrev cX7_readPart : ByteArray := prog_18_method_42_code
def yX7_readPart : MethodName := ⟨RX7, "readPart", "()Z"⟩
def dkwX7_readPart_3 : List UInt8 := [167, 0, 4, 3, 172]
abbrev dktX7_readPart_3 : List UInt8 := dkwX7_readPart_3 ++ []
def dkwX7_readPart_2 : List UInt8 := [16, 10, 167, 0, 4, 28, 27, 153, 0, 7, 28, 167, 0, 4, 3, 182, 0, 182, 28, 155, 0, 7, 4]
abbrev dktX7_readPart_2 : List UInt8 := dkwX7_readPart_2 ++ dktX7_readPart_3
def dkwX7_readPart_1 : List UInt8 := [153, 0, 14, 42, 3, 17, 3, 231, 182, 0, 121, 167, 0, 7, 42, 182, 0, 179, 61, 42, 27, 153, 0, 8]
abbrev dktX7_readPart_1 : List UInt8 := dkwX7_readPart_1 ++ dktX7_readPart_2
def dkwX7_readPart_0 : List UInt8 := [42, 182, 0, 114, 42, 180, 0, 89, 42, 180, 0, 99, 160, 0, 7, 4, 167, 0, 4, 3, 60, 27]
abbrev dktX7_readPart_0 : List UInt8 := dkwX7_readPart_0 ++ dktX7_readPart_1
theorem dksX7_readPart_0 : cX7_readPart.data.toList.drop 0 = dktX7_readPart_0 := by decide +kernel
theorem dksX7_readPart_1 : cX7_readPart.data.toList.drop 22 = dktX7_readPart_1 := dk_seg dksX7_readPart_0 22 rfl rfl
theorem dksX7_readPart_2 : cX7_readPart.data.toList.drop 46 = dktX7_readPart_2 := dk_seg dksX7_readPart_1 24 rfl rfl
theorem dksX7_readPart_3 : cX7_readPart.data.toList.drop 69 = dktX7_readPart_3 := dk_seg dksX7_readPart_2 23 rfl rfl
theorem dX7_readPart_0 : decode cX7_readPart 0 = .ok (.aload_n 0, 1) := dk_42 (dk_at dksX7_readPart_0 0 rfl rfl)
theorem dX7_readPart_1 : decode cX7_readPart 1 = .ok (.invokevirtual 114, 3) := dk_182 0 114 (dk_at dksX7_readPart_0 1 rfl rfl)
theorem dX7_readPart_4 : decode cX7_readPart 4 = .ok (.aload_n 0, 1) := dk_42 (dk_at dksX7_readPart_0 4 rfl rfl)
theorem dX7_readPart_5 : decode cX7_readPart 5 = .ok (.getfield 89, 3) := dk_180 0 89 (dk_at dksX7_readPart_0 5 rfl rfl)
theorem dX7_readPart_8 : decode cX7_readPart 8 = .ok (.aload_n 0, 1) := dk_42 (dk_at dksX7_readPart_0 8 rfl rfl)
theorem dX7_readPart_9 : decode cX7_readPart 9 = .ok (.getfield 99, 3) := dk_180 0 99 (dk_at dksX7_readPart_0 9 rfl rfl)
theorem dX7_readPart_12 : decode cX7_readPart 12 = .ok (.if_icmp .ne 7, 3) := dk_160 0 7 (dk_at dksX7_readPart_0 12 rfl rfl)
theorem dX7_readPart_15 : decode cX7_readPart 15 = .ok (.iconst 1, 1) := dk_4 (dk_at dksX7_readPart_0 15 rfl rfl)
theorem dX7_readPart_16 : decode cX7_readPart 16 = .ok (.goto 4, 3) := dk_167 0 4 (dk_at dksX7_readPart_0 16 rfl rfl)
theorem dX7_readPart_19 : decode cX7_readPart 19 = .ok (.iconst 0, 1) := dk_3 (dk_at dksX7_readPart_0 19 rfl rfl)
theorem dX7_readPart_20 : decode cX7_readPart 20 = .ok (.istore_n 1, 1) := dk_60 (dk_at dksX7_readPart_0 20 rfl rfl)
theorem dX7_readPart_21 : decode cX7_readPart 21 = .ok (.iload_n 1, 1) := dk_27 (dk_at dksX7_readPart_0 21 rfl rfl)
theorem dX7_readPart_22 : decode cX7_readPart 22 = .ok (.ifCond .eq 14, 3) := dk_153 0 14 (dk_at dksX7_readPart_1 0 rfl rfl)
theorem dX7_readPart_25 : decode cX7_readPart 25 = .ok (.aload_n 0, 1) := dk_42 (dk_at dksX7_readPart_1 3 rfl rfl)
theorem dX7_readPart_26 : decode cX7_readPart 26 = .ok (.iconst 0, 1) := dk_3 (dk_at dksX7_readPart_1 4 rfl rfl)
theorem dX7_readPart_27 : decode cX7_readPart 27 = .ok (.sipush 999, 3) := dk_17 3 231 (dk_at dksX7_readPart_1 5 rfl rfl)
theorem dX7_readPart_30 : decode cX7_readPart 30 = .ok (.invokevirtual 121, 3) := dk_182 0 121 (dk_at dksX7_readPart_1 8 rfl rfl)
theorem dX7_readPart_33 : decode cX7_readPart 33 = .ok (.goto 7, 3) := dk_167 0 7 (dk_at dksX7_readPart_1 11 rfl rfl)
theorem dX7_readPart_36 : decode cX7_readPart 36 = .ok (.aload_n 0, 1) := dk_42 (dk_at dksX7_readPart_1 14 rfl rfl)
theorem dX7_readPart_37 : decode cX7_readPart 37 = .ok (.invokevirtual 179, 3) := dk_182 0 179 (dk_at dksX7_readPart_1 15 rfl rfl)
theorem dX7_readPart_40 : decode cX7_readPart 40 = .ok (.istore_n 2, 1) := dk_61 (dk_at dksX7_readPart_1 18 rfl rfl)
theorem dX7_readPart_41 : decode cX7_readPart 41 = .ok (.aload_n 0, 1) := dk_42 (dk_at dksX7_readPart_1 19 rfl rfl)
theorem dX7_readPart_42 : decode cX7_readPart 42 = .ok (.iload_n 1, 1) := dk_27 (dk_at dksX7_readPart_1 20 rfl rfl)
theorem dX7_readPart_43 : decode cX7_readPart 43 = .ok (.ifCond .eq 8, 3) := dk_153 0 8 (dk_at dksX7_readPart_1 21 rfl rfl)
theorem dX7_readPart_46 : decode cX7_readPart 46 = .ok (.bipush 10, 2) := dk_16 10 (dk_at dksX7_readPart_2 0 rfl rfl)
theorem dX7_readPart_48 : decode cX7_readPart 48 = .ok (.goto 4, 3) := dk_167 0 4 (dk_at dksX7_readPart_2 2 rfl rfl)
theorem dX7_readPart_51 : decode cX7_readPart 51 = .ok (.iload_n 2, 1) := dk_28 (dk_at dksX7_readPart_2 5 rfl rfl)
theorem dX7_readPart_52 : decode cX7_readPart 52 = .ok (.iload_n 1, 1) := dk_27 (dk_at dksX7_readPart_2 6 rfl rfl)
theorem dX7_readPart_53 : decode cX7_readPart 53 = .ok (.ifCond .eq 7, 3) := dk_153 0 7 (dk_at dksX7_readPart_2 7 rfl rfl)
theorem dX7_readPart_56 : decode cX7_readPart 56 = .ok (.iload_n 2, 1) := dk_28 (dk_at dksX7_readPart_2 10 rfl rfl)
theorem dX7_readPart_57 : decode cX7_readPart 57 = .ok (.goto 4, 3) := dk_167 0 4 (dk_at dksX7_readPart_2 11 rfl rfl)
theorem dX7_readPart_60 : decode cX7_readPart 60 = .ok (.iconst 0, 1) := dk_3 (dk_at dksX7_readPart_2 14 rfl rfl)
theorem dX7_readPart_61 : decode cX7_readPart 61 = .ok (.invokevirtual 182, 3) := dk_182 0 182 (dk_at dksX7_readPart_2 15 rfl rfl)
theorem dX7_readPart_64 : decode cX7_readPart 64 = .ok (.iload_n 2, 1) := dk_28 (dk_at dksX7_readPart_2 18 rfl rfl)
theorem dX7_readPart_65 : decode cX7_readPart 65 = .ok (.ifCond .lt 7, 3) := dk_155 0 7 (dk_at dksX7_readPart_2 19 rfl rfl)
theorem dX7_readPart_68 : decode cX7_readPart 68 = .ok (.iconst 1, 1) := dk_4 (dk_at dksX7_readPart_2 22 rfl rfl)
theorem dX7_readPart_69 : decode cX7_readPart 69 = .ok (.goto 4, 3) := dk_167 0 4 (dk_at dksX7_readPart_3 0 rfl rfl)
theorem dX7_readPart_72 : decode cX7_readPart 72 = .ok (.iconst 0, 1) := dk_3 (dk_at dksX7_readPart_3 3 rfl rfl)
theorem dX7_readPart_73 : decode cX7_readPart 73 = .ok (.ireturn, 1) := dk_172 (dk_at dksX7_readPart_3 4 rfl rfl)
abbrev cX7_wordOfPart : ByteArray := prog_18_method_41_code
def yX7_wordOfPart : MethodName := ⟨RX7, "wordOfPart", "()I"⟩
def dkwX7_wordOfPart_3 : List UInt8 := [182, 0, 117, 153, 0, 8, 16, 6, 167, 0, 4, 2, 172]
abbrev dktX7_wordOfPart_3 : List UInt8 := dkwX7_wordOfPart_3 ++ []
def dkwX7_wordOfPart_2 : List UInt8 := [182, 0, 117, 153, 0, 5, 7, 172, 42, 18, 175, 182, 0, 117, 153, 0, 5, 8, 172, 42, 18, 177]
abbrev dktX7_wordOfPart_2 : List UInt8 := dkwX7_wordOfPart_2 ++ dktX7_wordOfPart_3
def dkwX7_wordOfPart_1 : List UInt8 := [18, 171, 182, 0, 117, 153, 0, 5, 5, 172, 42, 18, 173, 182, 0, 117, 153, 0, 5, 6, 172, 42, 18, 137]
abbrev dktX7_wordOfPart_1 : List UInt8 := dkwX7_wordOfPart_1 ++ dktX7_wordOfPart_2
def dkwX7_wordOfPart_0 : List UInt8 := [42, 18, 151, 182, 0, 117, 153, 0, 5, 3, 172, 42, 18, 157, 182, 0, 117, 153, 0, 5, 4, 172, 42]
abbrev dktX7_wordOfPart_0 : List UInt8 := dkwX7_wordOfPart_0 ++ dktX7_wordOfPart_1
theorem dksX7_wordOfPart_0 : cX7_wordOfPart.data.toList.drop 0 = dktX7_wordOfPart_0 := by decide +kernel
theorem dksX7_wordOfPart_1 : cX7_wordOfPart.data.toList.drop 23 = dktX7_wordOfPart_1 := dk_seg dksX7_wordOfPart_0 23 rfl rfl
theorem dksX7_wordOfPart_2 : cX7_wordOfPart.data.toList.drop 47 = dktX7_wordOfPart_2 := dk_seg dksX7_wordOfPart_1 24 rfl rfl
theorem dksX7_wordOfPart_3 : cX7_wordOfPart.data.toList.drop 69 = dktX7_wordOfPart_3 := dk_seg dksX7_wordOfPart_2 22 rfl rfl
theorem dX7_wordOfPart_0 : decode cX7_wordOfPart 0 = .ok (.aload_n 0, 1) := dk_42 (dk_at dksX7_wordOfPart_0 0 rfl rfl)
theorem dX7_wordOfPart_1 : decode cX7_wordOfPart 1 = .ok (.ldc 151, 2) := dk_18 151 (dk_at dksX7_wordOfPart_0 1 rfl rfl)
theorem dX7_wordOfPart_3 : decode cX7_wordOfPart 3 = .ok (.invokevirtual 117, 3) := dk_182 0 117 (dk_at dksX7_wordOfPart_0 3 rfl rfl)
theorem dX7_wordOfPart_6 : decode cX7_wordOfPart 6 = .ok (.ifCond .eq 5, 3) := dk_153 0 5 (dk_at dksX7_wordOfPart_0 6 rfl rfl)
theorem dX7_wordOfPart_9 : decode cX7_wordOfPart 9 = .ok (.iconst 0, 1) := dk_3 (dk_at dksX7_wordOfPart_0 9 rfl rfl)
theorem dX7_wordOfPart_10 : decode cX7_wordOfPart 10 = .ok (.ireturn, 1) := dk_172 (dk_at dksX7_wordOfPart_0 10 rfl rfl)
theorem dX7_wordOfPart_11 : decode cX7_wordOfPart 11 = .ok (.aload_n 0, 1) := dk_42 (dk_at dksX7_wordOfPart_0 11 rfl rfl)
theorem dX7_wordOfPart_12 : decode cX7_wordOfPart 12 = .ok (.ldc 157, 2) := dk_18 157 (dk_at dksX7_wordOfPart_0 12 rfl rfl)
theorem dX7_wordOfPart_14 : decode cX7_wordOfPart 14 = .ok (.invokevirtual 117, 3) := dk_182 0 117 (dk_at dksX7_wordOfPart_0 14 rfl rfl)
theorem dX7_wordOfPart_17 : decode cX7_wordOfPart 17 = .ok (.ifCond .eq 5, 3) := dk_153 0 5 (dk_at dksX7_wordOfPart_0 17 rfl rfl)
theorem dX7_wordOfPart_20 : decode cX7_wordOfPart 20 = .ok (.iconst 1, 1) := dk_4 (dk_at dksX7_wordOfPart_0 20 rfl rfl)
theorem dX7_wordOfPart_21 : decode cX7_wordOfPart 21 = .ok (.ireturn, 1) := dk_172 (dk_at dksX7_wordOfPart_0 21 rfl rfl)
theorem dX7_wordOfPart_22 : decode cX7_wordOfPart 22 = .ok (.aload_n 0, 1) := dk_42 (dk_at dksX7_wordOfPart_0 22 rfl rfl)
theorem dX7_wordOfPart_23 : decode cX7_wordOfPart 23 = .ok (.ldc 171, 2) := dk_18 171 (dk_at dksX7_wordOfPart_1 0 rfl rfl)
theorem dX7_wordOfPart_25 : decode cX7_wordOfPart 25 = .ok (.invokevirtual 117, 3) := dk_182 0 117 (dk_at dksX7_wordOfPart_1 2 rfl rfl)
theorem dX7_wordOfPart_28 : decode cX7_wordOfPart 28 = .ok (.ifCond .eq 5, 3) := dk_153 0 5 (dk_at dksX7_wordOfPart_1 5 rfl rfl)
theorem dX7_wordOfPart_31 : decode cX7_wordOfPart 31 = .ok (.iconst 2, 1) := dk_5 (dk_at dksX7_wordOfPart_1 8 rfl rfl)
theorem dX7_wordOfPart_32 : decode cX7_wordOfPart 32 = .ok (.ireturn, 1) := dk_172 (dk_at dksX7_wordOfPart_1 9 rfl rfl)
theorem dX7_wordOfPart_33 : decode cX7_wordOfPart 33 = .ok (.aload_n 0, 1) := dk_42 (dk_at dksX7_wordOfPart_1 10 rfl rfl)
theorem dX7_wordOfPart_34 : decode cX7_wordOfPart 34 = .ok (.ldc 173, 2) := dk_18 173 (dk_at dksX7_wordOfPart_1 11 rfl rfl)
theorem dX7_wordOfPart_36 : decode cX7_wordOfPart 36 = .ok (.invokevirtual 117, 3) := dk_182 0 117 (dk_at dksX7_wordOfPart_1 13 rfl rfl)
theorem dX7_wordOfPart_39 : decode cX7_wordOfPart 39 = .ok (.ifCond .eq 5, 3) := dk_153 0 5 (dk_at dksX7_wordOfPart_1 16 rfl rfl)
theorem dX7_wordOfPart_42 : decode cX7_wordOfPart 42 = .ok (.iconst 3, 1) := dk_6 (dk_at dksX7_wordOfPart_1 19 rfl rfl)
theorem dX7_wordOfPart_43 : decode cX7_wordOfPart 43 = .ok (.ireturn, 1) := dk_172 (dk_at dksX7_wordOfPart_1 20 rfl rfl)
theorem dX7_wordOfPart_44 : decode cX7_wordOfPart 44 = .ok (.aload_n 0, 1) := dk_42 (dk_at dksX7_wordOfPart_1 21 rfl rfl)
theorem dX7_wordOfPart_45 : decode cX7_wordOfPart 45 = .ok (.ldc 137, 2) := dk_18 137 (dk_at dksX7_wordOfPart_1 22 rfl rfl)
theorem dX7_wordOfPart_47 : decode cX7_wordOfPart 47 = .ok (.invokevirtual 117, 3) := dk_182 0 117 (dk_at dksX7_wordOfPart_2 0 rfl rfl)
theorem dX7_wordOfPart_50 : decode cX7_wordOfPart 50 = .ok (.ifCond .eq 5, 3) := dk_153 0 5 (dk_at dksX7_wordOfPart_2 3 rfl rfl)
theorem dX7_wordOfPart_53 : decode cX7_wordOfPart 53 = .ok (.iconst 4, 1) := dk_7 (dk_at dksX7_wordOfPart_2 6 rfl rfl)
theorem dX7_wordOfPart_54 : decode cX7_wordOfPart 54 = .ok (.ireturn, 1) := dk_172 (dk_at dksX7_wordOfPart_2 7 rfl rfl)
theorem dX7_wordOfPart_55 : decode cX7_wordOfPart 55 = .ok (.aload_n 0, 1) := dk_42 (dk_at dksX7_wordOfPart_2 8 rfl rfl)
theorem dX7_wordOfPart_56 : decode cX7_wordOfPart 56 = .ok (.ldc 175, 2) := dk_18 175 (dk_at dksX7_wordOfPart_2 9 rfl rfl)
theorem dX7_wordOfPart_58 : decode cX7_wordOfPart 58 = .ok (.invokevirtual 117, 3) := dk_182 0 117 (dk_at dksX7_wordOfPart_2 11 rfl rfl)
theorem dX7_wordOfPart_61 : decode cX7_wordOfPart 61 = .ok (.ifCond .eq 5, 3) := dk_153 0 5 (dk_at dksX7_wordOfPart_2 14 rfl rfl)
theorem dX7_wordOfPart_64 : decode cX7_wordOfPart 64 = .ok (.iconst 5, 1) := dk_8 (dk_at dksX7_wordOfPart_2 17 rfl rfl)
theorem dX7_wordOfPart_65 : decode cX7_wordOfPart 65 = .ok (.ireturn, 1) := dk_172 (dk_at dksX7_wordOfPart_2 18 rfl rfl)
theorem dX7_wordOfPart_66 : decode cX7_wordOfPart 66 = .ok (.aload_n 0, 1) := dk_42 (dk_at dksX7_wordOfPart_2 19 rfl rfl)
theorem dX7_wordOfPart_67 : decode cX7_wordOfPart 67 = .ok (.ldc 177, 2) := dk_18 177 (dk_at dksX7_wordOfPart_2 20 rfl rfl)
theorem dX7_wordOfPart_69 : decode cX7_wordOfPart 69 = .ok (.invokevirtual 117, 3) := dk_182 0 117 (dk_at dksX7_wordOfPart_3 0 rfl rfl)
theorem dX7_wordOfPart_72 : decode cX7_wordOfPart 72 = .ok (.ifCond .eq 8, 3) := dk_153 0 8 (dk_at dksX7_wordOfPart_3 3 rfl rfl)
theorem dX7_wordOfPart_75 : decode cX7_wordOfPart 75 = .ok (.bipush 6, 2) := dk_16 6 (dk_at dksX7_wordOfPart_3 6 rfl rfl)
theorem dX7_wordOfPart_77 : decode cX7_wordOfPart 77 = .ok (.goto 4, 3) := dk_167 0 4 (dk_at dksX7_wordOfPart_3 8 rfl rfl)
theorem dX7_wordOfPart_80 : decode cX7_wordOfPart 80 = .ok (.iconst (-1), 1) := dk_2 (dk_at dksX7_wordOfPart_3 11 rfl rfl)
theorem dX7_wordOfPart_81 : decode cX7_wordOfPart 81 = .ok (.ireturn, 1) := dk_172 (dk_at dksX7_wordOfPart_3 12 rfl rfl)
abbrev cX7_throwsIf : ByteArray := prog_18_method_2_code
def yX7_throwsIf : MethodName := ⟨RX7, "throwsIf", "(ZI)Z"⟩
def dkwX7_throwsIf_0 : List UInt8 := [27, 153, 0, 8, 42, 28, 181, 0, 3, 27, 172]
abbrev dktX7_throwsIf_0 : List UInt8 := dkwX7_throwsIf_0 ++ []
theorem dksX7_throwsIf_0 : cX7_throwsIf.data.toList.drop 0 = dktX7_throwsIf_0 := by decide +kernel
theorem dX7_throwsIf_0 : decode cX7_throwsIf 0 = .ok (.iload_n 1, 1) := dk_27 (dk_at dksX7_throwsIf_0 0 rfl rfl)
theorem dX7_throwsIf_1 : decode cX7_throwsIf 1 = .ok (.ifCond .eq 8, 3) := dk_153 0 8 (dk_at dksX7_throwsIf_0 1 rfl rfl)
theorem dX7_throwsIf_4 : decode cX7_throwsIf 4 = .ok (.aload_n 0, 1) := dk_42 (dk_at dksX7_throwsIf_0 4 rfl rfl)
theorem dX7_throwsIf_5 : decode cX7_throwsIf 5 = .ok (.iload_n 2, 1) := dk_28 (dk_at dksX7_throwsIf_0 5 rfl rfl)
theorem dX7_throwsIf_6 : decode cX7_throwsIf 6 = .ok (.putfield 3, 3) := dk_181 0 3 (dk_at dksX7_throwsIf_0 6 rfl rfl)
theorem dX7_throwsIf_9 : decode cX7_throwsIf 9 = .ok (.iload_n 1, 1) := dk_27 (dk_at dksX7_throwsIf_0 9 rfl rfl)
theorem dX7_throwsIf_10 : decode cX7_throwsIf 10 = .ok (.ireturn, 1) := dk_172 (dk_at dksX7_throwsIf_0 10 rfl rfl)
abbrev cX7_law : ByteArray := prog_18_method_52_code
def yX7_law : MethodName := ⟨RX7, "law", "()I"⟩
def dkwX7_law_4 : List UInt8 := [181, 0, 58, 27, 172]
abbrev dktX7_law_4 : List UInt8 := dkwX7_law_4 ++ []
def dkwX7_law_3 : List UInt8 := [17, 4, 202, 28, 96, 46, 79, 132, 2, 1, 167, 255, 226, 42, 180, 0, 13, 6, 4, 79, 42, 3]
abbrev dktX7_law_3 : List UInt8 := dkwX7_law_3 ++ dktX7_law_4
def dkwX7_law_2 : List UInt8 := [27, 79, 3, 61, 28, 17, 3, 81, 162, 0, 29, 42, 180, 0, 13, 17, 1, 121, 28, 96, 42, 180, 0, 13]
abbrev dktX7_law_2 : List UInt8 := dkwX7_law_2 ++ dktX7_law_3
def dkwX7_law_1 : List UInt8 := [156, 0, 7, 4, 167, 0, 4, 3, 4, 182, 0, 241, 153, 0, 5, 3, 172, 42, 180, 0, 13, 17, 4, 202]
abbrev dktX7_law_1 : List UInt8 := dkwX7_law_1 ++ dktX7_law_2
def dkwX7_law_0 : List UInt8 := [42, 3, 182, 0, 237, 60, 42, 27, 156, 0, 10, 42, 180, 0, 99, 167, 0, 4, 2, 181, 0, 33, 42, 27]
abbrev dktX7_law_0 : List UInt8 := dkwX7_law_0 ++ dktX7_law_1
theorem dksX7_law_0 : cX7_law.data.toList.drop 0 = dktX7_law_0 := by decide +kernel
theorem dksX7_law_1 : cX7_law.data.toList.drop 24 = dktX7_law_1 := dk_seg dksX7_law_0 24 rfl rfl
theorem dksX7_law_2 : cX7_law.data.toList.drop 48 = dktX7_law_2 := dk_seg dksX7_law_1 24 rfl rfl
theorem dksX7_law_3 : cX7_law.data.toList.drop 72 = dktX7_law_3 := dk_seg dksX7_law_2 24 rfl rfl
theorem dksX7_law_4 : cX7_law.data.toList.drop 94 = dktX7_law_4 := dk_seg dksX7_law_3 22 rfl rfl
theorem dX7_law_0 : decode cX7_law 0 = .ok (.aload_n 0, 1) := dk_42 (dk_at dksX7_law_0 0 rfl rfl)
theorem dX7_law_1 : decode cX7_law 1 = .ok (.iconst 0, 1) := dk_3 (dk_at dksX7_law_0 1 rfl rfl)
theorem dX7_law_2 : decode cX7_law 2 = .ok (.invokevirtual 237, 3) := dk_182 0 237 (dk_at dksX7_law_0 2 rfl rfl)
theorem dX7_law_5 : decode cX7_law 5 = .ok (.istore_n 1, 1) := dk_60 (dk_at dksX7_law_0 5 rfl rfl)
theorem dX7_law_6 : decode cX7_law 6 = .ok (.aload_n 0, 1) := dk_42 (dk_at dksX7_law_0 6 rfl rfl)
theorem dX7_law_7 : decode cX7_law 7 = .ok (.iload_n 1, 1) := dk_27 (dk_at dksX7_law_0 7 rfl rfl)
theorem dX7_law_8 : decode cX7_law 8 = .ok (.ifCond .ge 10, 3) := dk_156 0 10 (dk_at dksX7_law_0 8 rfl rfl)
theorem dX7_law_11 : decode cX7_law 11 = .ok (.aload_n 0, 1) := dk_42 (dk_at dksX7_law_0 11 rfl rfl)
theorem dX7_law_12 : decode cX7_law 12 = .ok (.getfield 99, 3) := dk_180 0 99 (dk_at dksX7_law_0 12 rfl rfl)
theorem dX7_law_15 : decode cX7_law 15 = .ok (.goto 4, 3) := dk_167 0 4 (dk_at dksX7_law_0 15 rfl rfl)
theorem dX7_law_18 : decode cX7_law 18 = .ok (.iconst (-1), 1) := dk_2 (dk_at dksX7_law_0 18 rfl rfl)
theorem dX7_law_19 : decode cX7_law 19 = .ok (.putfield 33, 3) := dk_181 0 33 (dk_at dksX7_law_0 19 rfl rfl)
theorem dX7_law_22 : decode cX7_law 22 = .ok (.aload_n 0, 1) := dk_42 (dk_at dksX7_law_0 22 rfl rfl)
theorem dX7_law_23 : decode cX7_law 23 = .ok (.iload_n 1, 1) := dk_27 (dk_at dksX7_law_0 23 rfl rfl)
theorem dX7_law_24 : decode cX7_law 24 = .ok (.ifCond .ge 7, 3) := dk_156 0 7 (dk_at dksX7_law_1 0 rfl rfl)
theorem dX7_law_27 : decode cX7_law 27 = .ok (.iconst 1, 1) := dk_4 (dk_at dksX7_law_1 3 rfl rfl)
theorem dX7_law_28 : decode cX7_law 28 = .ok (.goto 4, 3) := dk_167 0 4 (dk_at dksX7_law_1 4 rfl rfl)
theorem dX7_law_31 : decode cX7_law 31 = .ok (.iconst 0, 1) := dk_3 (dk_at dksX7_law_1 7 rfl rfl)
theorem dX7_law_32 : decode cX7_law 32 = .ok (.iconst 1, 1) := dk_4 (dk_at dksX7_law_1 8 rfl rfl)
theorem dX7_law_33 : decode cX7_law 33 = .ok (.invokevirtual 241, 3) := dk_182 0 241 (dk_at dksX7_law_1 9 rfl rfl)
theorem dX7_law_36 : decode cX7_law 36 = .ok (.ifCond .eq 5, 3) := dk_153 0 5 (dk_at dksX7_law_1 12 rfl rfl)
theorem dX7_law_39 : decode cX7_law 39 = .ok (.iconst 0, 1) := dk_3 (dk_at dksX7_law_1 15 rfl rfl)
theorem dX7_law_40 : decode cX7_law 40 = .ok (.ireturn, 1) := dk_172 (dk_at dksX7_law_1 16 rfl rfl)
theorem dX7_law_41 : decode cX7_law 41 = .ok (.aload_n 0, 1) := dk_42 (dk_at dksX7_law_1 17 rfl rfl)
theorem dX7_law_42 : decode cX7_law 42 = .ok (.getfield 13, 3) := dk_180 0 13 (dk_at dksX7_law_1 18 rfl rfl)
theorem dX7_law_45 : decode cX7_law 45 = .ok (.sipush 1226, 3) := dk_17 4 202 (dk_at dksX7_law_1 21 rfl rfl)
theorem dX7_law_48 : decode cX7_law 48 = .ok (.iload_n 1, 1) := dk_27 (dk_at dksX7_law_2 0 rfl rfl)
theorem dX7_law_49 : decode cX7_law 49 = .ok (.iastore, 1) := dk_79 (dk_at dksX7_law_2 1 rfl rfl)
theorem dX7_law_50 : decode cX7_law 50 = .ok (.iconst 0, 1) := dk_3 (dk_at dksX7_law_2 2 rfl rfl)
theorem dX7_law_51 : decode cX7_law 51 = .ok (.istore_n 2, 1) := dk_61 (dk_at dksX7_law_2 3 rfl rfl)
theorem dX7_law_52 : decode cX7_law 52 = .ok (.iload_n 2, 1) := dk_28 (dk_at dksX7_law_2 4 rfl rfl)
theorem dX7_law_53 : decode cX7_law 53 = .ok (.sipush 849, 3) := dk_17 3 81 (dk_at dksX7_law_2 5 rfl rfl)
theorem dX7_law_56 : decode cX7_law 56 = .ok (.if_icmp .ge 29, 3) := dk_162 0 29 (dk_at dksX7_law_2 8 rfl rfl)
theorem dX7_law_59 : decode cX7_law 59 = .ok (.aload_n 0, 1) := dk_42 (dk_at dksX7_law_2 11 rfl rfl)
theorem dX7_law_60 : decode cX7_law 60 = .ok (.getfield 13, 3) := dk_180 0 13 (dk_at dksX7_law_2 12 rfl rfl)
theorem dX7_law_63 : decode cX7_law 63 = .ok (.sipush 377, 3) := dk_17 1 121 (dk_at dksX7_law_2 15 rfl rfl)
theorem dX7_law_66 : decode cX7_law 66 = .ok (.iload_n 2, 1) := dk_28 (dk_at dksX7_law_2 18 rfl rfl)
theorem dX7_law_67 : decode cX7_law 67 = .ok (.iadd, 1) := dk_96 (dk_at dksX7_law_2 19 rfl rfl)
theorem dX7_law_68 : decode cX7_law 68 = .ok (.aload_n 0, 1) := dk_42 (dk_at dksX7_law_2 20 rfl rfl)
theorem dX7_law_69 : decode cX7_law 69 = .ok (.getfield 13, 3) := dk_180 0 13 (dk_at dksX7_law_2 21 rfl rfl)
theorem dX7_law_72 : decode cX7_law 72 = .ok (.sipush 1226, 3) := dk_17 4 202 (dk_at dksX7_law_3 0 rfl rfl)
theorem dX7_law_75 : decode cX7_law 75 = .ok (.iload_n 2, 1) := dk_28 (dk_at dksX7_law_3 3 rfl rfl)
theorem dX7_law_76 : decode cX7_law 76 = .ok (.iadd, 1) := dk_96 (dk_at dksX7_law_3 4 rfl rfl)
theorem dX7_law_77 : decode cX7_law 77 = .ok (.iaload, 1) := dk_46 (dk_at dksX7_law_3 5 rfl rfl)
theorem dX7_law_78 : decode cX7_law 78 = .ok (.iastore, 1) := dk_79 (dk_at dksX7_law_3 6 rfl rfl)
theorem dX7_law_79 : decode cX7_law 79 = .ok (.iinc 2 1, 3) := dk_132 2 1 (dk_at dksX7_law_3 7 rfl rfl)
theorem dX7_law_82 : decode cX7_law 82 = .ok (.goto (-30), 3) := dk_167 255 226 (dk_at dksX7_law_3 10 rfl rfl)
theorem dX7_law_85 : decode cX7_law 85 = .ok (.aload_n 0, 1) := dk_42 (dk_at dksX7_law_3 13 rfl rfl)
theorem dX7_law_86 : decode cX7_law 86 = .ok (.getfield 13, 3) := dk_180 0 13 (dk_at dksX7_law_3 14 rfl rfl)
theorem dX7_law_89 : decode cX7_law 89 = .ok (.iconst 3, 1) := dk_6 (dk_at dksX7_law_3 17 rfl rfl)
theorem dX7_law_90 : decode cX7_law 90 = .ok (.iconst 1, 1) := dk_4 (dk_at dksX7_law_3 18 rfl rfl)
theorem dX7_law_91 : decode cX7_law 91 = .ok (.iastore, 1) := dk_79 (dk_at dksX7_law_3 19 rfl rfl)
theorem dX7_law_92 : decode cX7_law 92 = .ok (.aload_n 0, 1) := dk_42 (dk_at dksX7_law_3 20 rfl rfl)
theorem dX7_law_93 : decode cX7_law 93 = .ok (.iconst 0, 1) := dk_3 (dk_at dksX7_law_3 21 rfl rfl)
theorem dX7_law_94 : decode cX7_law 94 = .ok (.putfield 58, 3) := dk_181 0 58 (dk_at dksX7_law_4 0 rfl rfl)
theorem dX7_law_97 : decode cX7_law 97 = .ok (.iload_n 1, 1) := dk_27 (dk_at dksX7_law_4 3 rfl rfl)
theorem dX7_law_98 : decode cX7_law 98 = .ok (.ireturn, 1) := dk_172 (dk_at dksX7_law_4 4 rfl rfl)
abbrev cX7_woman : ByteArray := prog_18_method_65_code
def yX7_woman : MethodName := ⟨RX7, "woman", "(II)I"⟩
def dkwX7_woman_3 : List UInt8 := [167, 0, 23, 28, 16, 9, 160, 0, 11, 42, 27, 182, 1, 25, 167, 0, 9, 42, 27, 28, 182, 0, 65, 172]
abbrev dktX7_woman_3 : List UInt8 := dkwX7_woman_3 ++ []
def dkwX7_woman_2 : List UInt8 := [160, 0, 12, 42, 8, 27, 182, 1, 22, 167, 0, 38, 28, 16, 8, 160, 0, 12, 42, 7, 27, 182, 1, 22]
abbrev dktX7_woman_2 : List UInt8 := dkwX7_woman_2 ++ dktX7_woman_3
def dkwX7_woman_1 : List UInt8 := [184, 0, 78, 154, 0, 7, 4, 167, 0, 4, 3, 5, 182, 0, 241, 153, 0, 5, 3, 172, 28, 16, 7]
abbrev dktX7_woman_1 : List UInt8 := dkwX7_woman_1 ++ dktX7_woman_2
def dkwX7_woman_0 : List UInt8 := [42, 3, 181, 0, 3, 42, 42, 27, 182, 1, 19, 4, 182, 0, 241, 154, 0, 26, 42, 28, 3, 16, 9]
abbrev dktX7_woman_0 : List UInt8 := dkwX7_woman_0 ++ dktX7_woman_1
theorem dksX7_woman_0 : cX7_woman.data.toList.drop 0 = dktX7_woman_0 := by decide +kernel
theorem dksX7_woman_1 : cX7_woman.data.toList.drop 23 = dktX7_woman_1 := dk_seg dksX7_woman_0 23 rfl rfl
theorem dksX7_woman_2 : cX7_woman.data.toList.drop 46 = dktX7_woman_2 := dk_seg dksX7_woman_1 23 rfl rfl
theorem dksX7_woman_3 : cX7_woman.data.toList.drop 70 = dktX7_woman_3 := dk_seg dksX7_woman_2 24 rfl rfl
theorem dX7_woman_0 : decode cX7_woman 0 = .ok (.aload_n 0, 1) := dk_42 (dk_at dksX7_woman_0 0 rfl rfl)
theorem dX7_woman_1 : decode cX7_woman 1 = .ok (.iconst 0, 1) := dk_3 (dk_at dksX7_woman_0 1 rfl rfl)
theorem dX7_woman_2 : decode cX7_woman 2 = .ok (.putfield 3, 3) := dk_181 0 3 (dk_at dksX7_woman_0 2 rfl rfl)
theorem dX7_woman_5 : decode cX7_woman 5 = .ok (.aload_n 0, 1) := dk_42 (dk_at dksX7_woman_0 5 rfl rfl)
theorem dX7_woman_6 : decode cX7_woman 6 = .ok (.aload_n 0, 1) := dk_42 (dk_at dksX7_woman_0 6 rfl rfl)
theorem dX7_woman_7 : decode cX7_woman 7 = .ok (.iload_n 1, 1) := dk_27 (dk_at dksX7_woman_0 7 rfl rfl)
theorem dX7_woman_8 : decode cX7_woman 8 = .ok (.invokevirtual 275, 3) := dk_182 1 19 (dk_at dksX7_woman_0 8 rfl rfl)
theorem dX7_woman_11 : decode cX7_woman 11 = .ok (.iconst 1, 1) := dk_4 (dk_at dksX7_woman_0 11 rfl rfl)
theorem dX7_woman_12 : decode cX7_woman 12 = .ok (.invokevirtual 241, 3) := dk_182 0 241 (dk_at dksX7_woman_0 12 rfl rfl)
theorem dX7_woman_15 : decode cX7_woman 15 = .ok (.ifCond .ne 26, 3) := dk_154 0 26 (dk_at dksX7_woman_0 15 rfl rfl)
theorem dX7_woman_18 : decode cX7_woman 18 = .ok (.aload_n 0, 1) := dk_42 (dk_at dksX7_woman_0 18 rfl rfl)
theorem dX7_woman_19 : decode cX7_woman 19 = .ok (.iload_n 2, 1) := dk_28 (dk_at dksX7_woman_0 19 rfl rfl)
theorem dX7_woman_20 : decode cX7_woman 20 = .ok (.iconst 0, 1) := dk_3 (dk_at dksX7_woman_0 20 rfl rfl)
theorem dX7_woman_21 : decode cX7_woman 21 = .ok (.bipush 9, 2) := dk_16 9 (dk_at dksX7_woman_0 21 rfl rfl)
theorem dX7_woman_23 : decode cX7_woman 23 = .ok (.invokestatic 78, 3) := dk_184 0 78 (dk_at dksX7_woman_1 0 rfl rfl)
theorem dX7_woman_26 : decode cX7_woman 26 = .ok (.ifCond .ne 7, 3) := dk_154 0 7 (dk_at dksX7_woman_1 3 rfl rfl)
theorem dX7_woman_29 : decode cX7_woman 29 = .ok (.iconst 1, 1) := dk_4 (dk_at dksX7_woman_1 6 rfl rfl)
theorem dX7_woman_30 : decode cX7_woman 30 = .ok (.goto 4, 3) := dk_167 0 4 (dk_at dksX7_woman_1 7 rfl rfl)
theorem dX7_woman_33 : decode cX7_woman 33 = .ok (.iconst 0, 1) := dk_3 (dk_at dksX7_woman_1 10 rfl rfl)
theorem dX7_woman_34 : decode cX7_woman 34 = .ok (.iconst 2, 1) := dk_5 (dk_at dksX7_woman_1 11 rfl rfl)
theorem dX7_woman_35 : decode cX7_woman 35 = .ok (.invokevirtual 241, 3) := dk_182 0 241 (dk_at dksX7_woman_1 12 rfl rfl)
theorem dX7_woman_38 : decode cX7_woman 38 = .ok (.ifCond .eq 5, 3) := dk_153 0 5 (dk_at dksX7_woman_1 15 rfl rfl)
theorem dX7_woman_41 : decode cX7_woman 41 = .ok (.iconst 0, 1) := dk_3 (dk_at dksX7_woman_1 18 rfl rfl)
theorem dX7_woman_42 : decode cX7_woman 42 = .ok (.ireturn, 1) := dk_172 (dk_at dksX7_woman_1 19 rfl rfl)
theorem dX7_woman_43 : decode cX7_woman 43 = .ok (.iload_n 2, 1) := dk_28 (dk_at dksX7_woman_1 20 rfl rfl)
theorem dX7_woman_44 : decode cX7_woman 44 = .ok (.bipush 7, 2) := dk_16 7 (dk_at dksX7_woman_1 21 rfl rfl)
theorem dX7_woman_46 : decode cX7_woman 46 = .ok (.if_icmp .ne 12, 3) := dk_160 0 12 (dk_at dksX7_woman_2 0 rfl rfl)
theorem dX7_woman_49 : decode cX7_woman 49 = .ok (.aload_n 0, 1) := dk_42 (dk_at dksX7_woman_2 3 rfl rfl)
theorem dX7_woman_50 : decode cX7_woman 50 = .ok (.iconst 5, 1) := dk_8 (dk_at dksX7_woman_2 4 rfl rfl)
theorem dX7_woman_51 : decode cX7_woman 51 = .ok (.iload_n 1, 1) := dk_27 (dk_at dksX7_woman_2 5 rfl rfl)
theorem dX7_woman_52 : decode cX7_woman 52 = .ok (.invokevirtual 278, 3) := dk_182 1 22 (dk_at dksX7_woman_2 6 rfl rfl)
theorem dX7_woman_55 : decode cX7_woman 55 = .ok (.goto 38, 3) := dk_167 0 38 (dk_at dksX7_woman_2 9 rfl rfl)
theorem dX7_woman_58 : decode cX7_woman 58 = .ok (.iload_n 2, 1) := dk_28 (dk_at dksX7_woman_2 12 rfl rfl)
theorem dX7_woman_59 : decode cX7_woman 59 = .ok (.bipush 8, 2) := dk_16 8 (dk_at dksX7_woman_2 13 rfl rfl)
theorem dX7_woman_61 : decode cX7_woman 61 = .ok (.if_icmp .ne 12, 3) := dk_160 0 12 (dk_at dksX7_woman_2 15 rfl rfl)
theorem dX7_woman_64 : decode cX7_woman 64 = .ok (.aload_n 0, 1) := dk_42 (dk_at dksX7_woman_2 18 rfl rfl)
theorem dX7_woman_65 : decode cX7_woman 65 = .ok (.iconst 4, 1) := dk_7 (dk_at dksX7_woman_2 19 rfl rfl)
theorem dX7_woman_66 : decode cX7_woman 66 = .ok (.iload_n 1, 1) := dk_27 (dk_at dksX7_woman_2 20 rfl rfl)
theorem dX7_woman_67 : decode cX7_woman 67 = .ok (.invokevirtual 278, 3) := dk_182 1 22 (dk_at dksX7_woman_2 21 rfl rfl)
theorem dX7_woman_70 : decode cX7_woman 70 = .ok (.goto 23, 3) := dk_167 0 23 (dk_at dksX7_woman_3 0 rfl rfl)
theorem dX7_woman_73 : decode cX7_woman 73 = .ok (.iload_n 2, 1) := dk_28 (dk_at dksX7_woman_3 3 rfl rfl)
theorem dX7_woman_74 : decode cX7_woman 74 = .ok (.bipush 9, 2) := dk_16 9 (dk_at dksX7_woman_3 4 rfl rfl)
theorem dX7_woman_76 : decode cX7_woman 76 = .ok (.if_icmp .ne 11, 3) := dk_160 0 11 (dk_at dksX7_woman_3 6 rfl rfl)
theorem dX7_woman_79 : decode cX7_woman 79 = .ok (.aload_n 0, 1) := dk_42 (dk_at dksX7_woman_3 9 rfl rfl)
theorem dX7_woman_80 : decode cX7_woman 80 = .ok (.iload_n 1, 1) := dk_27 (dk_at dksX7_woman_3 10 rfl rfl)
theorem dX7_woman_81 : decode cX7_woman 81 = .ok (.invokevirtual 281, 3) := dk_182 1 25 (dk_at dksX7_woman_3 11 rfl rfl)
theorem dX7_woman_84 : decode cX7_woman 84 = .ok (.goto 9, 3) := dk_167 0 9 (dk_at dksX7_woman_3 14 rfl rfl)
theorem dX7_woman_87 : decode cX7_woman 87 = .ok (.aload_n 0, 1) := dk_42 (dk_at dksX7_woman_3 17 rfl rfl)
theorem dX7_woman_88 : decode cX7_woman 88 = .ok (.iload_n 1, 1) := dk_27 (dk_at dksX7_woman_3 18 rfl rfl)
theorem dX7_woman_89 : decode cX7_woman 89 = .ok (.iload_n 2, 1) := dk_28 (dk_at dksX7_woman_3 19 rfl rfl)
theorem dX7_woman_90 : decode cX7_woman 90 = .ok (.invokevirtual 65, 3) := dk_182 0 65 (dk_at dksX7_woman_3 20 rfl rfl)
theorem dX7_woman_93 : decode cX7_woman 93 = .ok (.ireturn, 1) := dk_172 (dk_at dksX7_woman_3 23 rfl rfl)
abbrev cX7_noWoman : ByteArray := prog_18_method_19_code
def yX7_noWoman : MethodName := ⟨RX7, "noWoman", "(I)Z"⟩
def dkwX7_noWoman_0 : List UInt8 := [27, 3, 42, 182, 0, 74, 4, 100, 184, 0, 78, 154, 0, 7, 4, 167, 0, 4, 3, 172]
abbrev dktX7_noWoman_0 : List UInt8 := dkwX7_noWoman_0 ++ []
theorem dksX7_noWoman_0 : cX7_noWoman.data.toList.drop 0 = dktX7_noWoman_0 := by decide +kernel
theorem dX7_noWoman_0 : decode cX7_noWoman 0 = .ok (.iload_n 1, 1) := dk_27 (dk_at dksX7_noWoman_0 0 rfl rfl)
theorem dX7_noWoman_1 : decode cX7_noWoman 1 = .ok (.iconst 0, 1) := dk_3 (dk_at dksX7_noWoman_0 1 rfl rfl)
theorem dX7_noWoman_2 : decode cX7_noWoman 2 = .ok (.aload_n 0, 1) := dk_42 (dk_at dksX7_noWoman_0 2 rfl rfl)
theorem dX7_noWoman_3 : decode cX7_noWoman 3 = .ok (.invokevirtual 74, 3) := dk_182 0 74 (dk_at dksX7_noWoman_0 3 rfl rfl)
theorem dX7_noWoman_6 : decode cX7_noWoman 6 = .ok (.iconst 1, 1) := dk_4 (dk_at dksX7_noWoman_0 6 rfl rfl)
theorem dX7_noWoman_7 : decode cX7_noWoman 7 = .ok (.isub, 1) := dk_100 (dk_at dksX7_noWoman_0 7 rfl rfl)
theorem dX7_noWoman_8 : decode cX7_noWoman 8 = .ok (.invokestatic 78, 3) := dk_184 0 78 (dk_at dksX7_noWoman_0 8 rfl rfl)
theorem dX7_noWoman_11 : decode cX7_noWoman 11 = .ok (.ifCond .ne 7, 3) := dk_154 0 7 (dk_at dksX7_noWoman_0 11 rfl rfl)
theorem dX7_noWoman_14 : decode cX7_noWoman 14 = .ok (.iconst 1, 1) := dk_4 (dk_at dksX7_noWoman_0 14 rfl rfl)
theorem dX7_noWoman_15 : decode cX7_noWoman 15 = .ok (.goto 4, 3) := dk_167 0 4 (dk_at dksX7_noWoman_0 15 rfl rfl)
theorem dX7_noWoman_18 : decode cX7_noWoman 18 = .ok (.iconst 0, 1) := dk_3 (dk_at dksX7_noWoman_0 18 rfl rfl)
theorem dX7_noWoman_19 : decode cX7_noWoman 19 = .ok (.ireturn, 1) := dk_172 (dk_at dksX7_noWoman_0 19 rfl rfl)
abbrev cX7_in : ByteArray := prog_18_method_3_code
def yX7_in : MethodName := ⟨RX7, "in", "(III)Z"⟩
def dkwX7_in_0 : List UInt8 := [26, 27, 161, 0, 12, 26, 28, 163, 0, 7, 4, 167, 0, 4, 3, 172]
abbrev dktX7_in_0 : List UInt8 := dkwX7_in_0 ++ []
theorem dksX7_in_0 : cX7_in.data.toList.drop 0 = dktX7_in_0 := by decide +kernel
theorem dX7_in_0 : decode cX7_in 0 = .ok (.iload_n 0, 1) := dk_26 (dk_at dksX7_in_0 0 rfl rfl)
theorem dX7_in_1 : decode cX7_in 1 = .ok (.iload_n 1, 1) := dk_27 (dk_at dksX7_in_0 1 rfl rfl)
theorem dX7_in_2 : decode cX7_in 2 = .ok (.if_icmp .lt 12, 3) := dk_161 0 12 (dk_at dksX7_in_0 2 rfl rfl)
theorem dX7_in_5 : decode cX7_in 5 = .ok (.iload_n 0, 1) := dk_26 (dk_at dksX7_in_0 5 rfl rfl)
theorem dX7_in_6 : decode cX7_in 6 = .ok (.iload_n 2, 1) := dk_28 (dk_at dksX7_in_0 6 rfl rfl)
theorem dX7_in_7 : decode cX7_in 7 = .ok (.if_icmp .gt 7, 3) := dk_163 0 7 (dk_at dksX7_in_0 7 rfl rfl)
theorem dX7_in_10 : decode cX7_in 10 = .ok (.iconst 1, 1) := dk_4 (dk_at dksX7_in_0 10 rfl rfl)
theorem dX7_in_11 : decode cX7_in 11 = .ok (.goto 4, 3) := dk_167 0 4 (dk_at dksX7_in_0 11 rfl rfl)
theorem dX7_in_14 : decode cX7_in 14 = .ok (.iconst 0, 1) := dk_3 (dk_at dksX7_in_0 14 rfl rfl)
theorem dX7_in_15 : decode cX7_in 15 = .ok (.ireturn, 1) := dk_172 (dk_at dksX7_in_0 15 rfl rfl)
abbrev cX7_thingsBy : ByteArray := prog_18_method_64_code
def yX7_thingsBy : MethodName := ⟨RX7, "thingsBy", "(II)I"⟩
def dkwX7_thingsBy_1 : List UInt8 := [160, 0, 10, 4, 21, 4, 120, 167, 0, 4, 3, 128, 62, 132, 4, 1, 167, 255, 222, 29, 172]
abbrev dktX7_thingsBy_1 : List UInt8 := dkwX7_thingsBy_1 ++ []
def dkwX7_thingsBy_0 : List UInt8 := [3, 62, 3, 54, 4, 21, 4, 42, 182, 0, 82, 162, 0, 31, 29, 42, 21, 4, 27, 182, 0, 71, 28]
abbrev dktX7_thingsBy_0 : List UInt8 := dkwX7_thingsBy_0 ++ dktX7_thingsBy_1
theorem dksX7_thingsBy_0 : cX7_thingsBy.data.toList.drop 0 = dktX7_thingsBy_0 := by decide +kernel
theorem dksX7_thingsBy_1 : cX7_thingsBy.data.toList.drop 23 = dktX7_thingsBy_1 := dk_seg dksX7_thingsBy_0 23 rfl rfl
theorem dX7_thingsBy_0 : decode cX7_thingsBy 0 = .ok (.iconst 0, 1) := dk_3 (dk_at dksX7_thingsBy_0 0 rfl rfl)
theorem dX7_thingsBy_1 : decode cX7_thingsBy 1 = .ok (.istore_n 3, 1) := dk_62 (dk_at dksX7_thingsBy_0 1 rfl rfl)
theorem dX7_thingsBy_2 : decode cX7_thingsBy 2 = .ok (.iconst 0, 1) := dk_3 (dk_at dksX7_thingsBy_0 2 rfl rfl)
theorem dX7_thingsBy_3 : decode cX7_thingsBy 3 = .ok (.istore 4, 2) := dk_54 4 (dk_at dksX7_thingsBy_0 3 rfl rfl)
theorem dX7_thingsBy_5 : decode cX7_thingsBy 5 = .ok (.iload 4, 2) := dk_21 4 (dk_at dksX7_thingsBy_0 5 rfl rfl)
theorem dX7_thingsBy_7 : decode cX7_thingsBy 7 = .ok (.aload_n 0, 1) := dk_42 (dk_at dksX7_thingsBy_0 7 rfl rfl)
theorem dX7_thingsBy_8 : decode cX7_thingsBy 8 = .ok (.invokevirtual 82, 3) := dk_182 0 82 (dk_at dksX7_thingsBy_0 8 rfl rfl)
theorem dX7_thingsBy_11 : decode cX7_thingsBy 11 = .ok (.if_icmp .ge 31, 3) := dk_162 0 31 (dk_at dksX7_thingsBy_0 11 rfl rfl)
theorem dX7_thingsBy_14 : decode cX7_thingsBy 14 = .ok (.iload_n 3, 1) := dk_29 (dk_at dksX7_thingsBy_0 14 rfl rfl)
theorem dX7_thingsBy_15 : decode cX7_thingsBy 15 = .ok (.aload_n 0, 1) := dk_42 (dk_at dksX7_thingsBy_0 15 rfl rfl)
theorem dX7_thingsBy_16 : decode cX7_thingsBy 16 = .ok (.iload 4, 2) := dk_21 4 (dk_at dksX7_thingsBy_0 16 rfl rfl)
theorem dX7_thingsBy_18 : decode cX7_thingsBy 18 = .ok (.iload_n 1, 1) := dk_27 (dk_at dksX7_thingsBy_0 18 rfl rfl)
theorem dX7_thingsBy_19 : decode cX7_thingsBy 19 = .ok (.invokevirtual 71, 3) := dk_182 0 71 (dk_at dksX7_thingsBy_0 19 rfl rfl)
theorem dX7_thingsBy_22 : decode cX7_thingsBy 22 = .ok (.iload_n 2, 1) := dk_28 (dk_at dksX7_thingsBy_0 22 rfl rfl)
theorem dX7_thingsBy_23 : decode cX7_thingsBy 23 = .ok (.if_icmp .ne 10, 3) := dk_160 0 10 (dk_at dksX7_thingsBy_1 0 rfl rfl)
theorem dX7_thingsBy_26 : decode cX7_thingsBy 26 = .ok (.iconst 1, 1) := dk_4 (dk_at dksX7_thingsBy_1 3 rfl rfl)
theorem dX7_thingsBy_27 : decode cX7_thingsBy 27 = .ok (.iload 4, 2) := dk_21 4 (dk_at dksX7_thingsBy_1 4 rfl rfl)
theorem dX7_thingsBy_29 : decode cX7_thingsBy 29 = .ok (.ishl, 1) := dk_120 (dk_at dksX7_thingsBy_1 6 rfl rfl)
theorem dX7_thingsBy_30 : decode cX7_thingsBy 30 = .ok (.goto 4, 3) := dk_167 0 4 (dk_at dksX7_thingsBy_1 7 rfl rfl)
theorem dX7_thingsBy_33 : decode cX7_thingsBy 33 = .ok (.iconst 0, 1) := dk_3 (dk_at dksX7_thingsBy_1 10 rfl rfl)
theorem dX7_thingsBy_34 : decode cX7_thingsBy 34 = .ok (.ior, 1) := dk_128 (dk_at dksX7_thingsBy_1 11 rfl rfl)
theorem dX7_thingsBy_35 : decode cX7_thingsBy 35 = .ok (.istore_n 3, 1) := dk_62 (dk_at dksX7_thingsBy_1 12 rfl rfl)
theorem dX7_thingsBy_36 : decode cX7_thingsBy 36 = .ok (.iinc 4 1, 3) := dk_132 4 1 (dk_at dksX7_thingsBy_1 13 rfl rfl)
theorem dX7_thingsBy_39 : decode cX7_thingsBy 39 = .ok (.goto (-34), 3) := dk_167 255 222 (dk_at dksX7_thingsBy_1 16 rfl rfl)
theorem dX7_thingsBy_42 : decode cX7_thingsBy 42 = .ok (.iload_n 3, 1) := dk_29 (dk_at dksX7_thingsBy_1 19 rfl rfl)
theorem dX7_thingsBy_43 : decode cX7_thingsBy 43 = .ok (.ireturn, 1) := dk_172 (dk_at dksX7_thingsBy_1 20 rfl rfl)
abbrev cX7_ofThing : ByteArray := prog_18_method_16_code
def yX7_ofThing : MethodName := ⟨RX7, "ofThing", "(II)I"⟩
def dkwX7_ofThing_0 : List UInt8 := [42, 180, 0, 13, 27, 28, 184, 0, 68, 46, 172]
abbrev dktX7_ofThing_0 : List UInt8 := dkwX7_ofThing_0 ++ []
theorem dksX7_ofThing_0 : cX7_ofThing.data.toList.drop 0 = dktX7_ofThing_0 := by decide +kernel
theorem dX7_ofThing_0 : decode cX7_ofThing 0 = .ok (.aload_n 0, 1) := dk_42 (dk_at dksX7_ofThing_0 0 rfl rfl)
theorem dX7_ofThing_1 : decode cX7_ofThing 1 = .ok (.getfield 13, 3) := dk_180 0 13 (dk_at dksX7_ofThing_0 1 rfl rfl)
theorem dX7_ofThing_4 : decode cX7_ofThing 4 = .ok (.iload_n 1, 1) := dk_27 (dk_at dksX7_ofThing_0 4 rfl rfl)
theorem dX7_ofThing_5 : decode cX7_ofThing 5 = .ok (.iload_n 2, 1) := dk_28 (dk_at dksX7_ofThing_0 5 rfl rfl)
theorem dX7_ofThing_6 : decode cX7_ofThing 6 = .ok (.invokestatic 68, 3) := dk_184 0 68 (dk_at dksX7_ofThing_0 6 rfl rfl)
theorem dX7_ofThing_9 : decode cX7_ofThing 9 = .ok (.iaload, 1) := dk_46 (dk_at dksX7_ofThing_0 9 rfl rfl)
theorem dX7_ofThing_10 : decode cX7_ofThing 10 = .ok (.ireturn, 1) := dk_172 (dk_at dksX7_ofThing_0 10 rfl rfl)
abbrev cX7_luckOf : ByteArray := prog_18_method_61_code
def yX7_luckOf : MethodName := ⟨RX7, "luckOf", "(I)I"⟩
def dkwX7_luckOf_1 : List UInt8 := [28, 172]
abbrev dktX7_luckOf_1 : List UInt8 := dkwX7_luckOf_1 ++ []
def dkwX7_luckOf_0 : List UInt8 := [3, 61, 3, 62, 29, 7, 162, 0, 18, 28, 42, 27, 29, 182, 0, 65, 96, 61, 132, 3, 1, 167, 255, 239]
abbrev dktX7_luckOf_0 : List UInt8 := dkwX7_luckOf_0 ++ dktX7_luckOf_1
theorem dksX7_luckOf_0 : cX7_luckOf.data.toList.drop 0 = dktX7_luckOf_0 := by decide +kernel
theorem dksX7_luckOf_1 : cX7_luckOf.data.toList.drop 24 = dktX7_luckOf_1 := dk_seg dksX7_luckOf_0 24 rfl rfl
theorem dX7_luckOf_0 : decode cX7_luckOf 0 = .ok (.iconst 0, 1) := dk_3 (dk_at dksX7_luckOf_0 0 rfl rfl)
theorem dX7_luckOf_1 : decode cX7_luckOf 1 = .ok (.istore_n 2, 1) := dk_61 (dk_at dksX7_luckOf_0 1 rfl rfl)
theorem dX7_luckOf_2 : decode cX7_luckOf 2 = .ok (.iconst 0, 1) := dk_3 (dk_at dksX7_luckOf_0 2 rfl rfl)
theorem dX7_luckOf_3 : decode cX7_luckOf 3 = .ok (.istore_n 3, 1) := dk_62 (dk_at dksX7_luckOf_0 3 rfl rfl)
theorem dX7_luckOf_4 : decode cX7_luckOf 4 = .ok (.iload_n 3, 1) := dk_29 (dk_at dksX7_luckOf_0 4 rfl rfl)
theorem dX7_luckOf_5 : decode cX7_luckOf 5 = .ok (.iconst 4, 1) := dk_7 (dk_at dksX7_luckOf_0 5 rfl rfl)
theorem dX7_luckOf_6 : decode cX7_luckOf 6 = .ok (.if_icmp .ge 18, 3) := dk_162 0 18 (dk_at dksX7_luckOf_0 6 rfl rfl)
theorem dX7_luckOf_9 : decode cX7_luckOf 9 = .ok (.iload_n 2, 1) := dk_28 (dk_at dksX7_luckOf_0 9 rfl rfl)
theorem dX7_luckOf_10 : decode cX7_luckOf 10 = .ok (.aload_n 0, 1) := dk_42 (dk_at dksX7_luckOf_0 10 rfl rfl)
theorem dX7_luckOf_11 : decode cX7_luckOf 11 = .ok (.iload_n 1, 1) := dk_27 (dk_at dksX7_luckOf_0 11 rfl rfl)
theorem dX7_luckOf_12 : decode cX7_luckOf 12 = .ok (.iload_n 3, 1) := dk_29 (dk_at dksX7_luckOf_0 12 rfl rfl)
theorem dX7_luckOf_13 : decode cX7_luckOf 13 = .ok (.invokevirtual 65, 3) := dk_182 0 65 (dk_at dksX7_luckOf_0 13 rfl rfl)
theorem dX7_luckOf_16 : decode cX7_luckOf 16 = .ok (.iadd, 1) := dk_96 (dk_at dksX7_luckOf_0 16 rfl rfl)
theorem dX7_luckOf_17 : decode cX7_luckOf 17 = .ok (.istore_n 2, 1) := dk_61 (dk_at dksX7_luckOf_0 17 rfl rfl)
theorem dX7_luckOf_18 : decode cX7_luckOf 18 = .ok (.iinc 3 1, 3) := dk_132 3 1 (dk_at dksX7_luckOf_0 18 rfl rfl)
theorem dX7_luckOf_21 : decode cX7_luckOf 21 = .ok (.goto (-17), 3) := dk_167 255 239 (dk_at dksX7_luckOf_0 21 rfl rfl)
theorem dX7_luckOf_24 : decode cX7_luckOf 24 = .ok (.iload_n 2, 1) := dk_28 (dk_at dksX7_luckOf_1 0 rfl rfl)
theorem dX7_luckOf_25 : decode cX7_luckOf 25 = .ok (.ireturn, 1) := dk_172 (dk_at dksX7_luckOf_1 1 rfl rfl)
abbrev cX7_of : ByteArray := prog_18_method_13_code
def yX7_of : MethodName := ⟨RX7, "of", "(II)I"⟩
def dkwX7_of_0 : List UInt8 := [42, 180, 0, 13, 27, 28, 184, 0, 61, 46, 172]
abbrev dktX7_of_0 : List UInt8 := dkwX7_of_0 ++ []
theorem dksX7_of_0 : cX7_of.data.toList.drop 0 = dktX7_of_0 := by decide +kernel
theorem dX7_of_0 : decode cX7_of 0 = .ok (.aload_n 0, 1) := dk_42 (dk_at dksX7_of_0 0 rfl rfl)
theorem dX7_of_1 : decode cX7_of 1 = .ok (.getfield 13, 3) := dk_180 0 13 (dk_at dksX7_of_0 1 rfl rfl)
theorem dX7_of_4 : decode cX7_of 4 = .ok (.iload_n 1, 1) := dk_27 (dk_at dksX7_of_0 4 rfl rfl)
theorem dX7_of_5 : decode cX7_of 5 = .ok (.iload_n 2, 1) := dk_28 (dk_at dksX7_of_0 5 rfl rfl)
theorem dX7_of_6 : decode cX7_of 6 = .ok (.invokestatic 61, 3) := dk_184 0 61 (dk_at dksX7_of_0 6 rfl rfl)
theorem dX7_of_9 : decode cX7_of 9 = .ok (.iaload, 1) := dk_46 (dk_at dksX7_of_0 9 rfl rfl)
theorem dX7_of_10 : decode cX7_of 10 = .ok (.ireturn, 1) := dk_172 (dk_at dksX7_of_0 10 rfl rfl)
abbrev cX7_thing : ByteArray := prog_18_method_66_code
def yX7_thing : MethodName := ⟨RX7, "thing", "(II)I"⟩
def dkwX7_thing_2 : List UInt8 := [160, 0, 11, 42, 27, 182, 1, 31, 167, 0, 9, 42, 27, 28, 182, 0, 71, 172]
abbrev dktX7_thing_2 : List UInt8 := dkwX7_thing_2 ++ []
def dkwX7_thing_1 : List UInt8 := [184, 0, 78, 154, 0, 7, 4, 167, 0, 4, 3, 5, 182, 0, 241, 153, 0, 5, 3, 172, 28, 16, 9]
abbrev dktX7_thing_1 : List UInt8 := dkwX7_thing_1 ++ dktX7_thing_2
def dkwX7_thing_0 : List UInt8 := [42, 3, 181, 0, 3, 42, 42, 27, 182, 1, 28, 4, 182, 0, 241, 154, 0, 26, 42, 28, 3, 16, 9]
abbrev dktX7_thing_0 : List UInt8 := dkwX7_thing_0 ++ dktX7_thing_1
theorem dksX7_thing_0 : cX7_thing.data.toList.drop 0 = dktX7_thing_0 := by decide +kernel
theorem dksX7_thing_1 : cX7_thing.data.toList.drop 23 = dktX7_thing_1 := dk_seg dksX7_thing_0 23 rfl rfl
theorem dksX7_thing_2 : cX7_thing.data.toList.drop 46 = dktX7_thing_2 := dk_seg dksX7_thing_1 23 rfl rfl
theorem dX7_thing_0 : decode cX7_thing 0 = .ok (.aload_n 0, 1) := dk_42 (dk_at dksX7_thing_0 0 rfl rfl)
theorem dX7_thing_1 : decode cX7_thing 1 = .ok (.iconst 0, 1) := dk_3 (dk_at dksX7_thing_0 1 rfl rfl)
theorem dX7_thing_2 : decode cX7_thing 2 = .ok (.putfield 3, 3) := dk_181 0 3 (dk_at dksX7_thing_0 2 rfl rfl)
theorem dX7_thing_5 : decode cX7_thing 5 = .ok (.aload_n 0, 1) := dk_42 (dk_at dksX7_thing_0 5 rfl rfl)
theorem dX7_thing_6 : decode cX7_thing 6 = .ok (.aload_n 0, 1) := dk_42 (dk_at dksX7_thing_0 6 rfl rfl)
theorem dX7_thing_7 : decode cX7_thing 7 = .ok (.iload_n 1, 1) := dk_27 (dk_at dksX7_thing_0 7 rfl rfl)
theorem dX7_thing_8 : decode cX7_thing 8 = .ok (.invokevirtual 284, 3) := dk_182 1 28 (dk_at dksX7_thing_0 8 rfl rfl)
theorem dX7_thing_11 : decode cX7_thing 11 = .ok (.iconst 1, 1) := dk_4 (dk_at dksX7_thing_0 11 rfl rfl)
theorem dX7_thing_12 : decode cX7_thing 12 = .ok (.invokevirtual 241, 3) := dk_182 0 241 (dk_at dksX7_thing_0 12 rfl rfl)
theorem dX7_thing_15 : decode cX7_thing 15 = .ok (.ifCond .ne 26, 3) := dk_154 0 26 (dk_at dksX7_thing_0 15 rfl rfl)
theorem dX7_thing_18 : decode cX7_thing 18 = .ok (.aload_n 0, 1) := dk_42 (dk_at dksX7_thing_0 18 rfl rfl)
theorem dX7_thing_19 : decode cX7_thing 19 = .ok (.iload_n 2, 1) := dk_28 (dk_at dksX7_thing_0 19 rfl rfl)
theorem dX7_thing_20 : decode cX7_thing 20 = .ok (.iconst 0, 1) := dk_3 (dk_at dksX7_thing_0 20 rfl rfl)
theorem dX7_thing_21 : decode cX7_thing 21 = .ok (.bipush 9, 2) := dk_16 9 (dk_at dksX7_thing_0 21 rfl rfl)
theorem dX7_thing_23 : decode cX7_thing 23 = .ok (.invokestatic 78, 3) := dk_184 0 78 (dk_at dksX7_thing_1 0 rfl rfl)
theorem dX7_thing_26 : decode cX7_thing 26 = .ok (.ifCond .ne 7, 3) := dk_154 0 7 (dk_at dksX7_thing_1 3 rfl rfl)
theorem dX7_thing_29 : decode cX7_thing 29 = .ok (.iconst 1, 1) := dk_4 (dk_at dksX7_thing_1 6 rfl rfl)
theorem dX7_thing_30 : decode cX7_thing 30 = .ok (.goto 4, 3) := dk_167 0 4 (dk_at dksX7_thing_1 7 rfl rfl)
theorem dX7_thing_33 : decode cX7_thing 33 = .ok (.iconst 0, 1) := dk_3 (dk_at dksX7_thing_1 10 rfl rfl)
theorem dX7_thing_34 : decode cX7_thing 34 = .ok (.iconst 2, 1) := dk_5 (dk_at dksX7_thing_1 11 rfl rfl)
theorem dX7_thing_35 : decode cX7_thing 35 = .ok (.invokevirtual 241, 3) := dk_182 0 241 (dk_at dksX7_thing_1 12 rfl rfl)
theorem dX7_thing_38 : decode cX7_thing 38 = .ok (.ifCond .eq 5, 3) := dk_153 0 5 (dk_at dksX7_thing_1 15 rfl rfl)
theorem dX7_thing_41 : decode cX7_thing 41 = .ok (.iconst 0, 1) := dk_3 (dk_at dksX7_thing_1 18 rfl rfl)
theorem dX7_thing_42 : decode cX7_thing 42 = .ok (.ireturn, 1) := dk_172 (dk_at dksX7_thing_1 19 rfl rfl)
theorem dX7_thing_43 : decode cX7_thing 43 = .ok (.iload_n 2, 1) := dk_28 (dk_at dksX7_thing_1 20 rfl rfl)
theorem dX7_thing_44 : decode cX7_thing 44 = .ok (.bipush 9, 2) := dk_16 9 (dk_at dksX7_thing_1 21 rfl rfl)
theorem dX7_thing_46 : decode cX7_thing 46 = .ok (.if_icmp .ne 11, 3) := dk_160 0 11 (dk_at dksX7_thing_2 0 rfl rfl)
theorem dX7_thing_49 : decode cX7_thing 49 = .ok (.aload_n 0, 1) := dk_42 (dk_at dksX7_thing_2 3 rfl rfl)
theorem dX7_thing_50 : decode cX7_thing 50 = .ok (.iload_n 1, 1) := dk_27 (dk_at dksX7_thing_2 4 rfl rfl)
theorem dX7_thing_51 : decode cX7_thing 51 = .ok (.invokevirtual 287, 3) := dk_182 1 31 (dk_at dksX7_thing_2 5 rfl rfl)
theorem dX7_thing_54 : decode cX7_thing 54 = .ok (.goto 9, 3) := dk_167 0 9 (dk_at dksX7_thing_2 8 rfl rfl)
theorem dX7_thing_57 : decode cX7_thing 57 = .ok (.aload_n 0, 1) := dk_42 (dk_at dksX7_thing_2 11 rfl rfl)
theorem dX7_thing_58 : decode cX7_thing 58 = .ok (.iload_n 1, 1) := dk_27 (dk_at dksX7_thing_2 12 rfl rfl)
theorem dX7_thing_59 : decode cX7_thing 59 = .ok (.iload_n 2, 1) := dk_28 (dk_at dksX7_thing_2 13 rfl rfl)
theorem dX7_thing_60 : decode cX7_thing 60 = .ok (.invokevirtual 71, 3) := dk_182 0 71 (dk_at dksX7_thing_2 14 rfl rfl)
theorem dX7_thing_63 : decode cX7_thing 63 = .ok (.ireturn, 1) := dk_172 (dk_at dksX7_thing_2 17 rfl rfl)
abbrev cX7_noThing : ByteArray := prog_18_method_20_code
def yX7_noThing : MethodName := ⟨RX7, "noThing", "(I)Z"⟩
def dkwX7_noThing_0 : List UInt8 := [27, 3, 42, 182, 0, 82, 4, 100, 184, 0, 78, 154, 0, 7, 4, 167, 0, 4, 3, 172]
abbrev dktX7_noThing_0 : List UInt8 := dkwX7_noThing_0 ++ []
theorem dksX7_noThing_0 : cX7_noThing.data.toList.drop 0 = dktX7_noThing_0 := by decide +kernel
theorem dX7_noThing_0 : decode cX7_noThing 0 = .ok (.iload_n 1, 1) := dk_27 (dk_at dksX7_noThing_0 0 rfl rfl)
theorem dX7_noThing_1 : decode cX7_noThing 1 = .ok (.iconst 0, 1) := dk_3 (dk_at dksX7_noThing_0 1 rfl rfl)
theorem dX7_noThing_2 : decode cX7_noThing 2 = .ok (.aload_n 0, 1) := dk_42 (dk_at dksX7_noThing_0 2 rfl rfl)
theorem dX7_noThing_3 : decode cX7_noThing 3 = .ok (.invokevirtual 82, 3) := dk_182 0 82 (dk_at dksX7_noThing_0 3 rfl rfl)
theorem dX7_noThing_6 : decode cX7_noThing 6 = .ok (.iconst 1, 1) := dk_4 (dk_at dksX7_noThing_0 6 rfl rfl)
theorem dX7_noThing_7 : decode cX7_noThing 7 = .ok (.isub, 1) := dk_100 (dk_at dksX7_noThing_0 7 rfl rfl)
theorem dX7_noThing_8 : decode cX7_noThing 8 = .ok (.invokestatic 78, 3) := dk_184 0 78 (dk_at dksX7_noThing_0 8 rfl rfl)
theorem dX7_noThing_11 : decode cX7_noThing 11 = .ok (.ifCond .ne 7, 3) := dk_154 0 7 (dk_at dksX7_noThing_0 11 rfl rfl)
theorem dX7_noThing_14 : decode cX7_noThing 14 = .ok (.iconst 1, 1) := dk_4 (dk_at dksX7_noThing_0 14 rfl rfl)
theorem dX7_noThing_15 : decode cX7_noThing 15 = .ok (.goto 4, 3) := dk_167 0 4 (dk_at dksX7_noThing_0 15 rfl rfl)
theorem dX7_noThing_18 : decode cX7_noThing 18 = .ok (.iconst 0, 1) := dk_3 (dk_at dksX7_noThing_0 18 rfl rfl)
theorem dX7_noThing_19 : decode cX7_noThing 19 = .ok (.ireturn, 1) := dk_172 (dk_at dksX7_noThing_0 19 rfl rfl)
abbrev cX7_worthOf : ByteArray := prog_18_method_63_code
def yX7_worthOf : MethodName := ⟨RX7, "worthOf", "(I)I"⟩
def dkwX7_worthOf_0 : List UInt8 := [42, 27, 182, 1, 16, 42, 27, 16, 6, 182, 0, 71, 100, 172]
abbrev dktX7_worthOf_0 : List UInt8 := dkwX7_worthOf_0 ++ []
theorem dksX7_worthOf_0 : cX7_worthOf.data.toList.drop 0 = dktX7_worthOf_0 := by decide +kernel
theorem dX7_worthOf_0 : decode cX7_worthOf 0 = .ok (.aload_n 0, 1) := dk_42 (dk_at dksX7_worthOf_0 0 rfl rfl)
theorem dX7_worthOf_1 : decode cX7_worthOf 1 = .ok (.iload_n 1, 1) := dk_27 (dk_at dksX7_worthOf_0 1 rfl rfl)
theorem dX7_worthOf_2 : decode cX7_worthOf 2 = .ok (.invokevirtual 272, 3) := dk_182 1 16 (dk_at dksX7_worthOf_0 2 rfl rfl)
theorem dX7_worthOf_5 : decode cX7_worthOf 5 = .ok (.aload_n 0, 1) := dk_42 (dk_at dksX7_worthOf_0 5 rfl rfl)
theorem dX7_worthOf_6 : decode cX7_worthOf 6 = .ok (.iload_n 1, 1) := dk_27 (dk_at dksX7_worthOf_0 6 rfl rfl)
theorem dX7_worthOf_7 : decode cX7_worthOf 7 = .ok (.bipush 6, 2) := dk_16 6 (dk_at dksX7_worthOf_0 7 rfl rfl)
theorem dX7_worthOf_9 : decode cX7_worthOf 9 = .ok (.invokevirtual 71, 3) := dk_182 0 71 (dk_at dksX7_worthOf_0 9 rfl rfl)
theorem dX7_worthOf_12 : decode cX7_worthOf 12 = .ok (.isub, 1) := dk_100 (dk_at dksX7_worthOf_0 12 rfl rfl)
theorem dX7_worthOf_13 : decode cX7_worthOf 13 = .ok (.ireturn, 1) := dk_172 (dk_at dksX7_worthOf_0 13 rfl rfl)
abbrev cX7_luckIn : ByteArray := prog_18_method_62_code
def yX7_luckIn : MethodName := ⟨RX7, "luckIn", "(I)I"⟩
def dkwX7_luckIn_1 : List UInt8 := [28, 172]
abbrev dktX7_luckIn_1 : List UInt8 := dkwX7_luckIn_1 ++ []
def dkwX7_luckIn_0 : List UInt8 := [3, 61, 3, 62, 29, 7, 162, 0, 18, 28, 42, 27, 29, 182, 0, 71, 96, 61, 132, 3, 1, 167, 255, 239]
abbrev dktX7_luckIn_0 : List UInt8 := dkwX7_luckIn_0 ++ dktX7_luckIn_1
theorem dksX7_luckIn_0 : cX7_luckIn.data.toList.drop 0 = dktX7_luckIn_0 := by decide +kernel
theorem dksX7_luckIn_1 : cX7_luckIn.data.toList.drop 24 = dktX7_luckIn_1 := dk_seg dksX7_luckIn_0 24 rfl rfl
theorem dX7_luckIn_0 : decode cX7_luckIn 0 = .ok (.iconst 0, 1) := dk_3 (dk_at dksX7_luckIn_0 0 rfl rfl)
theorem dX7_luckIn_1 : decode cX7_luckIn 1 = .ok (.istore_n 2, 1) := dk_61 (dk_at dksX7_luckIn_0 1 rfl rfl)
theorem dX7_luckIn_2 : decode cX7_luckIn 2 = .ok (.iconst 0, 1) := dk_3 (dk_at dksX7_luckIn_0 2 rfl rfl)
theorem dX7_luckIn_3 : decode cX7_luckIn 3 = .ok (.istore_n 3, 1) := dk_62 (dk_at dksX7_luckIn_0 3 rfl rfl)
theorem dX7_luckIn_4 : decode cX7_luckIn 4 = .ok (.iload_n 3, 1) := dk_29 (dk_at dksX7_luckIn_0 4 rfl rfl)
theorem dX7_luckIn_5 : decode cX7_luckIn 5 = .ok (.iconst 4, 1) := dk_7 (dk_at dksX7_luckIn_0 5 rfl rfl)
theorem dX7_luckIn_6 : decode cX7_luckIn 6 = .ok (.if_icmp .ge 18, 3) := dk_162 0 18 (dk_at dksX7_luckIn_0 6 rfl rfl)
theorem dX7_luckIn_9 : decode cX7_luckIn 9 = .ok (.iload_n 2, 1) := dk_28 (dk_at dksX7_luckIn_0 9 rfl rfl)
theorem dX7_luckIn_10 : decode cX7_luckIn 10 = .ok (.aload_n 0, 1) := dk_42 (dk_at dksX7_luckIn_0 10 rfl rfl)
theorem dX7_luckIn_11 : decode cX7_luckIn 11 = .ok (.iload_n 1, 1) := dk_27 (dk_at dksX7_luckIn_0 11 rfl rfl)
theorem dX7_luckIn_12 : decode cX7_luckIn 12 = .ok (.iload_n 3, 1) := dk_29 (dk_at dksX7_luckIn_0 12 rfl rfl)
theorem dX7_luckIn_13 : decode cX7_luckIn 13 = .ok (.invokevirtual 71, 3) := dk_182 0 71 (dk_at dksX7_luckIn_0 13 rfl rfl)
theorem dX7_luckIn_16 : decode cX7_luckIn 16 = .ok (.iadd, 1) := dk_96 (dk_at dksX7_luckIn_0 16 rfl rfl)
theorem dX7_luckIn_17 : decode cX7_luckIn 17 = .ok (.istore_n 2, 1) := dk_61 (dk_at dksX7_luckIn_0 17 rfl rfl)
theorem dX7_luckIn_18 : decode cX7_luckIn 18 = .ok (.iinc 3 1, 3) := dk_132 3 1 (dk_at dksX7_luckIn_0 18 rfl rfl)
theorem dX7_luckIn_21 : decode cX7_luckIn 21 = .ok (.goto (-17), 3) := dk_167 255 239 (dk_at dksX7_luckIn_0 21 rfl rfl)
theorem dX7_luckIn_24 : decode cX7_luckIn 24 = .ok (.iload_n 2, 1) := dk_28 (dk_at dksX7_luckIn_1 0 rfl rfl)
theorem dX7_luckIn_25 : decode cX7_luckIn 25 = .ok (.ireturn, 1) := dk_172 (dk_at dksX7_luckIn_1 1 rfl rfl)
abbrev cX7_gain : ByteArray := prog_18_method_67_code
def yX7_gain : MethodName := ⟨RX7, "gain", "(II)I"⟩
def dkwX7_gain_1 : List UInt8 := [167, 0, 4, 3, 4, 182, 0, 241, 153, 0, 7, 3, 167, 0, 9, 42, 27, 28, 182, 1, 34, 172]
abbrev dktX7_gain_1 : List UInt8 := dkwX7_gain_1 ++ []
def dkwX7_gain_0 : List UInt8 := [42, 3, 181, 0, 3, 42, 42, 27, 182, 1, 19, 154, 0, 11, 42, 28, 182, 1, 28, 153, 0, 7, 4]
abbrev dktX7_gain_0 : List UInt8 := dkwX7_gain_0 ++ dktX7_gain_1
theorem dksX7_gain_0 : cX7_gain.data.toList.drop 0 = dktX7_gain_0 := by decide +kernel
theorem dksX7_gain_1 : cX7_gain.data.toList.drop 23 = dktX7_gain_1 := dk_seg dksX7_gain_0 23 rfl rfl
theorem dX7_gain_0 : decode cX7_gain 0 = .ok (.aload_n 0, 1) := dk_42 (dk_at dksX7_gain_0 0 rfl rfl)
theorem dX7_gain_1 : decode cX7_gain 1 = .ok (.iconst 0, 1) := dk_3 (dk_at dksX7_gain_0 1 rfl rfl)
theorem dX7_gain_2 : decode cX7_gain 2 = .ok (.putfield 3, 3) := dk_181 0 3 (dk_at dksX7_gain_0 2 rfl rfl)
theorem dX7_gain_5 : decode cX7_gain 5 = .ok (.aload_n 0, 1) := dk_42 (dk_at dksX7_gain_0 5 rfl rfl)
theorem dX7_gain_6 : decode cX7_gain 6 = .ok (.aload_n 0, 1) := dk_42 (dk_at dksX7_gain_0 6 rfl rfl)
theorem dX7_gain_7 : decode cX7_gain 7 = .ok (.iload_n 1, 1) := dk_27 (dk_at dksX7_gain_0 7 rfl rfl)
theorem dX7_gain_8 : decode cX7_gain 8 = .ok (.invokevirtual 275, 3) := dk_182 1 19 (dk_at dksX7_gain_0 8 rfl rfl)
theorem dX7_gain_11 : decode cX7_gain 11 = .ok (.ifCond .ne 11, 3) := dk_154 0 11 (dk_at dksX7_gain_0 11 rfl rfl)
theorem dX7_gain_14 : decode cX7_gain 14 = .ok (.aload_n 0, 1) := dk_42 (dk_at dksX7_gain_0 14 rfl rfl)
theorem dX7_gain_15 : decode cX7_gain 15 = .ok (.iload_n 2, 1) := dk_28 (dk_at dksX7_gain_0 15 rfl rfl)
theorem dX7_gain_16 : decode cX7_gain 16 = .ok (.invokevirtual 284, 3) := dk_182 1 28 (dk_at dksX7_gain_0 16 rfl rfl)
theorem dX7_gain_19 : decode cX7_gain 19 = .ok (.ifCond .eq 7, 3) := dk_153 0 7 (dk_at dksX7_gain_0 19 rfl rfl)
theorem dX7_gain_22 : decode cX7_gain 22 = .ok (.iconst 1, 1) := dk_4 (dk_at dksX7_gain_0 22 rfl rfl)
theorem dX7_gain_23 : decode cX7_gain 23 = .ok (.goto 4, 3) := dk_167 0 4 (dk_at dksX7_gain_1 0 rfl rfl)
theorem dX7_gain_26 : decode cX7_gain 26 = .ok (.iconst 0, 1) := dk_3 (dk_at dksX7_gain_1 3 rfl rfl)
theorem dX7_gain_27 : decode cX7_gain 27 = .ok (.iconst 1, 1) := dk_4 (dk_at dksX7_gain_1 4 rfl rfl)
theorem dX7_gain_28 : decode cX7_gain 28 = .ok (.invokevirtual 241, 3) := dk_182 0 241 (dk_at dksX7_gain_1 5 rfl rfl)
theorem dX7_gain_31 : decode cX7_gain 31 = .ok (.ifCond .eq 7, 3) := dk_153 0 7 (dk_at dksX7_gain_1 8 rfl rfl)
theorem dX7_gain_34 : decode cX7_gain 34 = .ok (.iconst 0, 1) := dk_3 (dk_at dksX7_gain_1 11 rfl rfl)
theorem dX7_gain_35 : decode cX7_gain 35 = .ok (.goto 9, 3) := dk_167 0 9 (dk_at dksX7_gain_1 12 rfl rfl)
theorem dX7_gain_38 : decode cX7_gain 38 = .ok (.aload_n 0, 1) := dk_42 (dk_at dksX7_gain_1 15 rfl rfl)
theorem dX7_gain_39 : decode cX7_gain 39 = .ok (.iload_n 1, 1) := dk_27 (dk_at dksX7_gain_1 16 rfl rfl)
theorem dX7_gain_40 : decode cX7_gain 40 = .ok (.iload_n 2, 1) := dk_28 (dk_at dksX7_gain_1 17 rfl rfl)
theorem dX7_gain_41 : decode cX7_gain 41 = .ok (.invokevirtual 290, 3) := dk_182 1 34 (dk_at dksX7_gain_1 18 rfl rfl)
theorem dX7_gain_44 : decode cX7_gain 44 = .ok (.ireturn, 1) := dk_172 (dk_at dksX7_gain_1 21 rfl rfl)
abbrev cX7_gainOf : ByteArray := prog_18_method_60_code
def yX7_gainOf : MethodName := ⟨RX7, "gainOf", "(II)I"⟩
def dkwX7_gainOf_1 : List UInt8 := [132, 4, 1, 167, 255, 236, 29, 172]
abbrev dktX7_gainOf_1 : List UInt8 := dkwX7_gainOf_1 ++ []
def dkwX7_gainOf_0 : List UInt8 := [3, 62, 3, 54, 4, 21, 4, 7, 162, 0, 20, 29, 42, 27, 28, 21, 4, 182, 1, 13, 96, 62]
abbrev dktX7_gainOf_0 : List UInt8 := dkwX7_gainOf_0 ++ dktX7_gainOf_1
theorem dksX7_gainOf_0 : cX7_gainOf.data.toList.drop 0 = dktX7_gainOf_0 := by decide +kernel
theorem dksX7_gainOf_1 : cX7_gainOf.data.toList.drop 22 = dktX7_gainOf_1 := dk_seg dksX7_gainOf_0 22 rfl rfl
theorem dX7_gainOf_0 : decode cX7_gainOf 0 = .ok (.iconst 0, 1) := dk_3 (dk_at dksX7_gainOf_0 0 rfl rfl)
theorem dX7_gainOf_1 : decode cX7_gainOf 1 = .ok (.istore_n 3, 1) := dk_62 (dk_at dksX7_gainOf_0 1 rfl rfl)
theorem dX7_gainOf_2 : decode cX7_gainOf 2 = .ok (.iconst 0, 1) := dk_3 (dk_at dksX7_gainOf_0 2 rfl rfl)
theorem dX7_gainOf_3 : decode cX7_gainOf 3 = .ok (.istore 4, 2) := dk_54 4 (dk_at dksX7_gainOf_0 3 rfl rfl)
theorem dX7_gainOf_5 : decode cX7_gainOf 5 = .ok (.iload 4, 2) := dk_21 4 (dk_at dksX7_gainOf_0 5 rfl rfl)
theorem dX7_gainOf_7 : decode cX7_gainOf 7 = .ok (.iconst 4, 1) := dk_7 (dk_at dksX7_gainOf_0 7 rfl rfl)
theorem dX7_gainOf_8 : decode cX7_gainOf 8 = .ok (.if_icmp .ge 20, 3) := dk_162 0 20 (dk_at dksX7_gainOf_0 8 rfl rfl)
theorem dX7_gainOf_11 : decode cX7_gainOf 11 = .ok (.iload_n 3, 1) := dk_29 (dk_at dksX7_gainOf_0 11 rfl rfl)
theorem dX7_gainOf_12 : decode cX7_gainOf 12 = .ok (.aload_n 0, 1) := dk_42 (dk_at dksX7_gainOf_0 12 rfl rfl)
theorem dX7_gainOf_13 : decode cX7_gainOf 13 = .ok (.iload_n 1, 1) := dk_27 (dk_at dksX7_gainOf_0 13 rfl rfl)
theorem dX7_gainOf_14 : decode cX7_gainOf 14 = .ok (.iload_n 2, 1) := dk_28 (dk_at dksX7_gainOf_0 14 rfl rfl)
theorem dX7_gainOf_15 : decode cX7_gainOf 15 = .ok (.iload 4, 2) := dk_21 4 (dk_at dksX7_gainOf_0 15 rfl rfl)
theorem dX7_gainOf_17 : decode cX7_gainOf 17 = .ok (.invokevirtual 269, 3) := dk_182 1 13 (dk_at dksX7_gainOf_0 17 rfl rfl)
theorem dX7_gainOf_20 : decode cX7_gainOf 20 = .ok (.iadd, 1) := dk_96 (dk_at dksX7_gainOf_0 20 rfl rfl)
theorem dX7_gainOf_21 : decode cX7_gainOf 21 = .ok (.istore_n 3, 1) := dk_62 (dk_at dksX7_gainOf_0 21 rfl rfl)
theorem dX7_gainOf_22 : decode cX7_gainOf 22 = .ok (.iinc 4 1, 3) := dk_132 4 1 (dk_at dksX7_gainOf_1 0 rfl rfl)
theorem dX7_gainOf_25 : decode cX7_gainOf 25 = .ok (.goto (-20), 3) := dk_167 255 236 (dk_at dksX7_gainOf_1 3 rfl rfl)
theorem dX7_gainOf_28 : decode cX7_gainOf 28 = .ok (.iload_n 3, 1) := dk_29 (dk_at dksX7_gainOf_1 6 rfl rfl)
theorem dX7_gainOf_29 : decode cX7_gainOf 29 = .ok (.ireturn, 1) := dk_172 (dk_at dksX7_gainOf_1 7 rfl rfl)
abbrev cX7_moreOf : ByteArray := prog_18_method_59_code
def yX7_moreOf : MethodName := ⟨RX7, "moreOf", "(III)I"⟩
def dkwX7_moreOf_1 : List UInt8 := [184, 1, 4, 5, 108, 184, 1, 10, 54, 5, 21, 4, 156, 0, 9, 21, 5, 116, 167, 0, 5, 21, 5, 172]
abbrev dktX7_moreOf_1 : List UInt8 := dkwX7_moreOf_1 ++ []
def dkwX7_moreOf_0 : List UInt8 := [42, 28, 29, 182, 0, 71, 42, 27, 29, 182, 0, 65, 100, 54, 4, 42, 27, 28, 29, 182, 1, 0, 21, 4]
abbrev dktX7_moreOf_0 : List UInt8 := dkwX7_moreOf_0 ++ dktX7_moreOf_1
theorem dksX7_moreOf_0 : cX7_moreOf.data.toList.drop 0 = dktX7_moreOf_0 := by decide +kernel
theorem dksX7_moreOf_1 : cX7_moreOf.data.toList.drop 24 = dktX7_moreOf_1 := dk_seg dksX7_moreOf_0 24 rfl rfl
theorem dX7_moreOf_0 : decode cX7_moreOf 0 = .ok (.aload_n 0, 1) := dk_42 (dk_at dksX7_moreOf_0 0 rfl rfl)
theorem dX7_moreOf_1 : decode cX7_moreOf 1 = .ok (.iload_n 2, 1) := dk_28 (dk_at dksX7_moreOf_0 1 rfl rfl)
theorem dX7_moreOf_2 : decode cX7_moreOf 2 = .ok (.iload_n 3, 1) := dk_29 (dk_at dksX7_moreOf_0 2 rfl rfl)
theorem dX7_moreOf_3 : decode cX7_moreOf 3 = .ok (.invokevirtual 71, 3) := dk_182 0 71 (dk_at dksX7_moreOf_0 3 rfl rfl)
theorem dX7_moreOf_6 : decode cX7_moreOf 6 = .ok (.aload_n 0, 1) := dk_42 (dk_at dksX7_moreOf_0 6 rfl rfl)
theorem dX7_moreOf_7 : decode cX7_moreOf 7 = .ok (.iload_n 1, 1) := dk_27 (dk_at dksX7_moreOf_0 7 rfl rfl)
theorem dX7_moreOf_8 : decode cX7_moreOf 8 = .ok (.iload_n 3, 1) := dk_29 (dk_at dksX7_moreOf_0 8 rfl rfl)
theorem dX7_moreOf_9 : decode cX7_moreOf 9 = .ok (.invokevirtual 65, 3) := dk_182 0 65 (dk_at dksX7_moreOf_0 9 rfl rfl)
theorem dX7_moreOf_12 : decode cX7_moreOf 12 = .ok (.isub, 1) := dk_100 (dk_at dksX7_moreOf_0 12 rfl rfl)
theorem dX7_moreOf_13 : decode cX7_moreOf 13 = .ok (.istore 4, 2) := dk_54 4 (dk_at dksX7_moreOf_0 13 rfl rfl)
theorem dX7_moreOf_15 : decode cX7_moreOf 15 = .ok (.aload_n 0, 1) := dk_42 (dk_at dksX7_moreOf_0 15 rfl rfl)
theorem dX7_moreOf_16 : decode cX7_moreOf 16 = .ok (.iload_n 1, 1) := dk_27 (dk_at dksX7_moreOf_0 16 rfl rfl)
theorem dX7_moreOf_17 : decode cX7_moreOf 17 = .ok (.iload_n 2, 1) := dk_28 (dk_at dksX7_moreOf_0 17 rfl rfl)
theorem dX7_moreOf_18 : decode cX7_moreOf 18 = .ok (.iload_n 3, 1) := dk_29 (dk_at dksX7_moreOf_0 18 rfl rfl)
theorem dX7_moreOf_19 : decode cX7_moreOf 19 = .ok (.invokevirtual 256, 3) := dk_182 1 0 (dk_at dksX7_moreOf_0 19 rfl rfl)
theorem dX7_moreOf_22 : decode cX7_moreOf 22 = .ok (.iload 4, 2) := dk_21 4 (dk_at dksX7_moreOf_0 22 rfl rfl)
theorem dX7_moreOf_24 : decode cX7_moreOf 24 = .ok (.invokestatic 260, 3) := dk_184 1 4 (dk_at dksX7_moreOf_1 0 rfl rfl)
theorem dX7_moreOf_27 : decode cX7_moreOf 27 = .ok (.iconst 2, 1) := dk_5 (dk_at dksX7_moreOf_1 3 rfl rfl)
theorem dX7_moreOf_28 : decode cX7_moreOf 28 = .ok (.idiv, 1) := dk_108 (dk_at dksX7_moreOf_1 4 rfl rfl)
theorem dX7_moreOf_29 : decode cX7_moreOf 29 = .ok (.invokestatic 266, 3) := dk_184 1 10 (dk_at dksX7_moreOf_1 5 rfl rfl)
theorem dX7_moreOf_32 : decode cX7_moreOf 32 = .ok (.istore 5, 2) := dk_54 5 (dk_at dksX7_moreOf_1 8 rfl rfl)
theorem dX7_moreOf_34 : decode cX7_moreOf 34 = .ok (.iload 4, 2) := dk_21 4 (dk_at dksX7_moreOf_1 10 rfl rfl)
theorem dX7_moreOf_36 : decode cX7_moreOf 36 = .ok (.ifCond .ge 9, 3) := dk_156 0 9 (dk_at dksX7_moreOf_1 12 rfl rfl)
theorem dX7_moreOf_39 : decode cX7_moreOf 39 = .ok (.iload 5, 2) := dk_21 5 (dk_at dksX7_moreOf_1 15 rfl rfl)
theorem dX7_moreOf_41 : decode cX7_moreOf 41 = .ok (.ineg, 1) := dk_116 (dk_at dksX7_moreOf_1 17 rfl rfl)
theorem dX7_moreOf_42 : decode cX7_moreOf 42 = .ok (.goto 5, 3) := dk_167 0 5 (dk_at dksX7_moreOf_1 18 rfl rfl)
theorem dX7_moreOf_45 : decode cX7_moreOf 45 = .ok (.iload 5, 2) := dk_21 5 (dk_at dksX7_moreOf_1 21 rfl rfl)
theorem dX7_moreOf_47 : decode cX7_moreOf 47 = .ok (.ireturn, 1) := dk_172 (dk_at dksX7_moreOf_1 23 rfl rfl)
abbrev cX7_flowsBy : ByteArray := prog_18_method_56_code
def yX7_flowsBy : MethodName := ⟨RX7, "flowsBy", "(III)I"⟩
def dkwX7_flowsBy_0 : List UInt8 := [42, 180, 0, 13, 6, 46, 154, 0, 8, 16, 10, 167, 0, 11, 42, 3, 27, 28, 29, 182, 0, 252, 172]
abbrev dktX7_flowsBy_0 : List UInt8 := dkwX7_flowsBy_0 ++ []
theorem dksX7_flowsBy_0 : cX7_flowsBy.data.toList.drop 0 = dktX7_flowsBy_0 := by decide +kernel
theorem dX7_flowsBy_0 : decode cX7_flowsBy 0 = .ok (.aload_n 0, 1) := dk_42 (dk_at dksX7_flowsBy_0 0 rfl rfl)
theorem dX7_flowsBy_1 : decode cX7_flowsBy 1 = .ok (.getfield 13, 3) := dk_180 0 13 (dk_at dksX7_flowsBy_0 1 rfl rfl)
theorem dX7_flowsBy_4 : decode cX7_flowsBy 4 = .ok (.iconst 3, 1) := dk_6 (dk_at dksX7_flowsBy_0 4 rfl rfl)
theorem dX7_flowsBy_5 : decode cX7_flowsBy 5 = .ok (.iaload, 1) := dk_46 (dk_at dksX7_flowsBy_0 5 rfl rfl)
theorem dX7_flowsBy_6 : decode cX7_flowsBy 6 = .ok (.ifCond .ne 8, 3) := dk_154 0 8 (dk_at dksX7_flowsBy_0 6 rfl rfl)
theorem dX7_flowsBy_9 : decode cX7_flowsBy 9 = .ok (.bipush 10, 2) := dk_16 10 (dk_at dksX7_flowsBy_0 9 rfl rfl)
theorem dX7_flowsBy_11 : decode cX7_flowsBy 11 = .ok (.goto 11, 3) := dk_167 0 11 (dk_at dksX7_flowsBy_0 11 rfl rfl)
theorem dX7_flowsBy_14 : decode cX7_flowsBy 14 = .ok (.aload_n 0, 1) := dk_42 (dk_at dksX7_flowsBy_0 14 rfl rfl)
theorem dX7_flowsBy_15 : decode cX7_flowsBy 15 = .ok (.iconst 0, 1) := dk_3 (dk_at dksX7_flowsBy_0 15 rfl rfl)
theorem dX7_flowsBy_16 : decode cX7_flowsBy 16 = .ok (.iload_n 1, 1) := dk_27 (dk_at dksX7_flowsBy_0 16 rfl rfl)
theorem dX7_flowsBy_17 : decode cX7_flowsBy 17 = .ok (.iload_n 2, 1) := dk_28 (dk_at dksX7_flowsBy_0 17 rfl rfl)
theorem dX7_flowsBy_18 : decode cX7_flowsBy 18 = .ok (.iload_n 3, 1) := dk_29 (dk_at dksX7_flowsBy_0 18 rfl rfl)
theorem dX7_flowsBy_19 : decode cX7_flowsBy 19 = .ok (.invokevirtual 252, 3) := dk_182 0 252 (dk_at dksX7_flowsBy_0 19 rfl rfl)
theorem dX7_flowsBy_22 : decode cX7_flowsBy 22 = .ok (.ireturn, 1) := dk_172 (dk_at dksX7_flowsBy_0 22 rfl rfl)
abbrev cX7_sumOf : ByteArray := prog_18_method_55_code
def yX7_sumOf : MethodName := ⟨RX7, "sumOf", "(IIII)I"⟩
def dkwX7_sumOf_3 : List UInt8 := [21, 6, 104, 96, 4, 96, 46, 96, 54, 5, 132, 6, 1, 167, 255, 180, 21, 5, 172]
abbrev dktX7_sumOf_3 : List UInt8 := dkwX7_sumOf_3 ++ []
def dkwX7_sumOf_2 : List UInt8 := [42, 21, 6, 28, 29, 21, 4, 182, 0, 248, 153, 0, 23, 21, 5, 42, 180, 0, 13, 17, 1, 122, 7]
abbrev dktX7_sumOf_2 : List UInt8 := dkwX7_sumOf_2 ++ dktX7_sumOf_3
def dkwX7_sumOf_1 : List UInt8 := [17, 1, 121, 46, 162, 0, 59, 42, 180, 0, 13, 17, 1, 122, 7, 21, 6, 104, 96, 46, 27, 160, 0, 36]
abbrev dktX7_sumOf_1 : List UInt8 := dkwX7_sumOf_1 ++ dktX7_sumOf_2
def dkwX7_sumOf_0 : List UInt8 := [3, 54, 5, 3, 54, 6, 42, 180, 0, 13, 6, 46, 4, 160, 0, 72, 21, 6, 42, 180, 0, 13]
abbrev dktX7_sumOf_0 : List UInt8 := dkwX7_sumOf_0 ++ dktX7_sumOf_1
theorem dksX7_sumOf_0 : cX7_sumOf.data.toList.drop 0 = dktX7_sumOf_0 := by decide +kernel
theorem dksX7_sumOf_1 : cX7_sumOf.data.toList.drop 22 = dktX7_sumOf_1 := dk_seg dksX7_sumOf_0 22 rfl rfl
theorem dksX7_sumOf_2 : cX7_sumOf.data.toList.drop 46 = dktX7_sumOf_2 := dk_seg dksX7_sumOf_1 24 rfl rfl
theorem dksX7_sumOf_3 : cX7_sumOf.data.toList.drop 69 = dktX7_sumOf_3 := dk_seg dksX7_sumOf_2 23 rfl rfl
theorem dX7_sumOf_0 : decode cX7_sumOf 0 = .ok (.iconst 0, 1) := dk_3 (dk_at dksX7_sumOf_0 0 rfl rfl)
theorem dX7_sumOf_1 : decode cX7_sumOf 1 = .ok (.istore 5, 2) := dk_54 5 (dk_at dksX7_sumOf_0 1 rfl rfl)
theorem dX7_sumOf_3 : decode cX7_sumOf 3 = .ok (.iconst 0, 1) := dk_3 (dk_at dksX7_sumOf_0 3 rfl rfl)
theorem dX7_sumOf_4 : decode cX7_sumOf 4 = .ok (.istore 6, 2) := dk_54 6 (dk_at dksX7_sumOf_0 4 rfl rfl)
theorem dX7_sumOf_6 : decode cX7_sumOf 6 = .ok (.aload_n 0, 1) := dk_42 (dk_at dksX7_sumOf_0 6 rfl rfl)
theorem dX7_sumOf_7 : decode cX7_sumOf 7 = .ok (.getfield 13, 3) := dk_180 0 13 (dk_at dksX7_sumOf_0 7 rfl rfl)
theorem dX7_sumOf_10 : decode cX7_sumOf 10 = .ok (.iconst 3, 1) := dk_6 (dk_at dksX7_sumOf_0 10 rfl rfl)
theorem dX7_sumOf_11 : decode cX7_sumOf 11 = .ok (.iaload, 1) := dk_46 (dk_at dksX7_sumOf_0 11 rfl rfl)
theorem dX7_sumOf_12 : decode cX7_sumOf 12 = .ok (.iconst 1, 1) := dk_4 (dk_at dksX7_sumOf_0 12 rfl rfl)
theorem dX7_sumOf_13 : decode cX7_sumOf 13 = .ok (.if_icmp .ne 72, 3) := dk_160 0 72 (dk_at dksX7_sumOf_0 13 rfl rfl)
theorem dX7_sumOf_16 : decode cX7_sumOf 16 = .ok (.iload 6, 2) := dk_21 6 (dk_at dksX7_sumOf_0 16 rfl rfl)
theorem dX7_sumOf_18 : decode cX7_sumOf 18 = .ok (.aload_n 0, 1) := dk_42 (dk_at dksX7_sumOf_0 18 rfl rfl)
theorem dX7_sumOf_19 : decode cX7_sumOf 19 = .ok (.getfield 13, 3) := dk_180 0 13 (dk_at dksX7_sumOf_0 19 rfl rfl)
theorem dX7_sumOf_22 : decode cX7_sumOf 22 = .ok (.sipush 377, 3) := dk_17 1 121 (dk_at dksX7_sumOf_1 0 rfl rfl)
theorem dX7_sumOf_25 : decode cX7_sumOf 25 = .ok (.iaload, 1) := dk_46 (dk_at dksX7_sumOf_1 3 rfl rfl)
theorem dX7_sumOf_26 : decode cX7_sumOf 26 = .ok (.if_icmp .ge 59, 3) := dk_162 0 59 (dk_at dksX7_sumOf_1 4 rfl rfl)
theorem dX7_sumOf_29 : decode cX7_sumOf 29 = .ok (.aload_n 0, 1) := dk_42 (dk_at dksX7_sumOf_1 7 rfl rfl)
theorem dX7_sumOf_30 : decode cX7_sumOf 30 = .ok (.getfield 13, 3) := dk_180 0 13 (dk_at dksX7_sumOf_1 8 rfl rfl)
theorem dX7_sumOf_33 : decode cX7_sumOf 33 = .ok (.sipush 378, 3) := dk_17 1 122 (dk_at dksX7_sumOf_1 11 rfl rfl)
theorem dX7_sumOf_36 : decode cX7_sumOf 36 = .ok (.iconst 4, 1) := dk_7 (dk_at dksX7_sumOf_1 14 rfl rfl)
theorem dX7_sumOf_37 : decode cX7_sumOf 37 = .ok (.iload 6, 2) := dk_21 6 (dk_at dksX7_sumOf_1 15 rfl rfl)
theorem dX7_sumOf_39 : decode cX7_sumOf 39 = .ok (.imul, 1) := dk_104 (dk_at dksX7_sumOf_1 17 rfl rfl)
theorem dX7_sumOf_40 : decode cX7_sumOf 40 = .ok (.iadd, 1) := dk_96 (dk_at dksX7_sumOf_1 18 rfl rfl)
theorem dX7_sumOf_41 : decode cX7_sumOf 41 = .ok (.iaload, 1) := dk_46 (dk_at dksX7_sumOf_1 19 rfl rfl)
theorem dX7_sumOf_42 : decode cX7_sumOf 42 = .ok (.iload_n 1, 1) := dk_27 (dk_at dksX7_sumOf_1 20 rfl rfl)
theorem dX7_sumOf_43 : decode cX7_sumOf 43 = .ok (.if_icmp .ne 36, 3) := dk_160 0 36 (dk_at dksX7_sumOf_1 21 rfl rfl)
theorem dX7_sumOf_46 : decode cX7_sumOf 46 = .ok (.aload_n 0, 1) := dk_42 (dk_at dksX7_sumOf_2 0 rfl rfl)
theorem dX7_sumOf_47 : decode cX7_sumOf 47 = .ok (.iload 6, 2) := dk_21 6 (dk_at dksX7_sumOf_2 1 rfl rfl)
theorem dX7_sumOf_49 : decode cX7_sumOf 49 = .ok (.iload_n 2, 1) := dk_28 (dk_at dksX7_sumOf_2 3 rfl rfl)
theorem dX7_sumOf_50 : decode cX7_sumOf 50 = .ok (.iload_n 3, 1) := dk_29 (dk_at dksX7_sumOf_2 4 rfl rfl)
theorem dX7_sumOf_51 : decode cX7_sumOf 51 = .ok (.iload 4, 2) := dk_21 4 (dk_at dksX7_sumOf_2 5 rfl rfl)
theorem dX7_sumOf_53 : decode cX7_sumOf 53 = .ok (.invokevirtual 248, 3) := dk_182 0 248 (dk_at dksX7_sumOf_2 7 rfl rfl)
theorem dX7_sumOf_56 : decode cX7_sumOf 56 = .ok (.ifCond .eq 23, 3) := dk_153 0 23 (dk_at dksX7_sumOf_2 10 rfl rfl)
theorem dX7_sumOf_59 : decode cX7_sumOf 59 = .ok (.iload 5, 2) := dk_21 5 (dk_at dksX7_sumOf_2 13 rfl rfl)
theorem dX7_sumOf_61 : decode cX7_sumOf 61 = .ok (.aload_n 0, 1) := dk_42 (dk_at dksX7_sumOf_2 15 rfl rfl)
theorem dX7_sumOf_62 : decode cX7_sumOf 62 = .ok (.getfield 13, 3) := dk_180 0 13 (dk_at dksX7_sumOf_2 16 rfl rfl)
theorem dX7_sumOf_65 : decode cX7_sumOf 65 = .ok (.sipush 378, 3) := dk_17 1 122 (dk_at dksX7_sumOf_2 19 rfl rfl)
theorem dX7_sumOf_68 : decode cX7_sumOf 68 = .ok (.iconst 4, 1) := dk_7 (dk_at dksX7_sumOf_2 22 rfl rfl)
theorem dX7_sumOf_69 : decode cX7_sumOf 69 = .ok (.iload 6, 2) := dk_21 6 (dk_at dksX7_sumOf_3 0 rfl rfl)
theorem dX7_sumOf_71 : decode cX7_sumOf 71 = .ok (.imul, 1) := dk_104 (dk_at dksX7_sumOf_3 2 rfl rfl)
theorem dX7_sumOf_72 : decode cX7_sumOf 72 = .ok (.iadd, 1) := dk_96 (dk_at dksX7_sumOf_3 3 rfl rfl)
theorem dX7_sumOf_73 : decode cX7_sumOf 73 = .ok (.iconst 1, 1) := dk_4 (dk_at dksX7_sumOf_3 4 rfl rfl)
theorem dX7_sumOf_74 : decode cX7_sumOf 74 = .ok (.iadd, 1) := dk_96 (dk_at dksX7_sumOf_3 5 rfl rfl)
theorem dX7_sumOf_75 : decode cX7_sumOf 75 = .ok (.iaload, 1) := dk_46 (dk_at dksX7_sumOf_3 6 rfl rfl)
theorem dX7_sumOf_76 : decode cX7_sumOf 76 = .ok (.iadd, 1) := dk_96 (dk_at dksX7_sumOf_3 7 rfl rfl)
theorem dX7_sumOf_77 : decode cX7_sumOf 77 = .ok (.istore 5, 2) := dk_54 5 (dk_at dksX7_sumOf_3 8 rfl rfl)
theorem dX7_sumOf_79 : decode cX7_sumOf 79 = .ok (.iinc 6 1, 3) := dk_132 6 1 (dk_at dksX7_sumOf_3 10 rfl rfl)
theorem dX7_sumOf_82 : decode cX7_sumOf 82 = .ok (.goto (-76), 3) := dk_167 255 180 (dk_at dksX7_sumOf_3 13 rfl rfl)
theorem dX7_sumOf_85 : decode cX7_sumOf 85 = .ok (.iload 5, 2) := dk_21 5 (dk_at dksX7_sumOf_3 16 rfl rfl)
theorem dX7_sumOf_87 : decode cX7_sumOf 87 = .ok (.ireturn, 1) := dk_172 (dk_at dksX7_sumOf_3 18 rfl rfl)
abbrev cX7_holdsLine : ByteArray := prog_18_method_54_code
def yX7_holdsLine : MethodName := ⟨RX7, "holdsLine", "(IIII)Z"⟩
def dkwX7_holdsLine_12 : List UInt8 := [153, 0, 13, 42, 180, 0, 39, 3, 46, 4, 160, 0, 7, 4, 167, 0, 4, 3, 172]
abbrev dktX7_holdsLine_12 : List UInt8 := dkwX7_holdsLine_12 ++ []
def dkwX7_holdsLine_11 : List UInt8 := [167, 0, 13, 21, 11, 153, 0, 7, 4, 167, 0, 4, 3, 79, 132, 7, 1, 167, 255, 9, 21, 5]
abbrev dktX7_holdsLine_11 : List UInt8 := dkwX7_holdsLine_11 ++ dktX7_holdsLine_12
def dkwX7_holdsLine_10 : List UInt8 := [54, 11, 42, 180, 0, 39, 21, 5, 4, 100, 21, 8, 16, 11, 160, 0, 11, 21, 9, 21, 10, 96]
abbrev dktX7_holdsLine_10 : List UInt8 := dkwX7_holdsLine_10 ++ dktX7_holdsLine_11
def dkwX7_holdsLine_9 : List UInt8 := [160, 0, 7, 4, 167, 0, 20, 3, 167, 0, 16, 21, 9, 21, 10, 96, 158, 0, 7, 4, 167, 0, 4, 3]
abbrev dktX7_holdsLine_9 : List UInt8 := dkwX7_holdsLine_9 ++ dktX7_holdsLine_10
def dkwX7_holdsLine_8 : List UInt8 := [164, 0, 7, 4, 167, 0, 44, 3, 167, 0, 40, 21, 8, 16, 15, 160, 0, 20, 21, 9, 21, 10, 96, 5]
abbrev dktX7_holdsLine_8 : List UInt8 := dkwX7_holdsLine_8 ++ dktX7_holdsLine_9
def dkwX7_holdsLine_7 : List UInt8 := [162, 0, 7, 4, 167, 0, 66, 3, 167, 0, 62, 21, 8, 16, 13, 160, 0, 18, 21, 9, 21, 10]
abbrev dktX7_holdsLine_7 : List UInt8 := dkwX7_holdsLine_7 ++ dktX7_holdsLine_8
def dkwX7_holdsLine_6 : List UInt8 := [46, 54, 9, 42, 180, 0, 39, 21, 5, 46, 54, 10, 21, 8, 16, 12, 160, 0, 18, 21, 9, 21, 10]
abbrev dktX7_holdsLine_6 : List UInt8 := dkwX7_holdsLine_6 ++ dktX7_holdsLine_7
def dkwX7_holdsLine_5 : List UInt8 := [180, 0, 39, 21, 5, 4, 100, 46, 100, 79, 167, 0, 143, 132, 5, 255, 42, 180, 0, 39, 21, 5, 4, 100]
abbrev dktX7_holdsLine_5 : List UInt8 := dkwX7_holdsLine_5 ++ dktX7_holdsLine_6
def dkwX7_holdsLine_4 : List UInt8 := [132, 5, 1, 167, 0, 173, 21, 8, 16, 14, 160, 0, 26, 42, 180, 0, 39, 21, 5, 4, 100, 4, 42]
abbrev dktX7_holdsLine_4 : List UInt8 := dkwX7_holdsLine_4 ++ dktX7_holdsLine_5
def dkwX7_holdsLine_3 : List UInt8 := [180, 0, 13, 17, 1, 170, 5, 21, 7, 104, 96, 4, 96, 46, 28, 29, 21, 4, 182, 0, 244, 79]
abbrev dktX7_holdsLine_3 : List UInt8 := dkwX7_holdsLine_3 ++ dktX7_holdsLine_4
def dkwX7_holdsLine_2 : List UInt8 := [104, 96, 46, 54, 8, 21, 8, 16, 10, 163, 0, 41, 42, 180, 0, 39, 21, 5, 42, 21, 8, 42]
abbrev dktX7_holdsLine_2 : List UInt8 := dkwX7_holdsLine_2 ++ dktX7_holdsLine_3
def dkwX7_holdsLine_1 : List UInt8 := [21, 7, 42, 180, 0, 13, 21, 6, 6, 96, 46, 162, 0, 239, 42, 180, 0, 13, 17, 1, 170, 5, 21, 7]
abbrev dktX7_holdsLine_1 : List UInt8 := dkwX7_holdsLine_1 ++ dktX7_holdsLine_2
def dkwX7_holdsLine_0 : List UInt8 := [3, 54, 5, 17, 1, 122, 7, 27, 104, 96, 54, 6, 42, 180, 0, 13, 21, 6, 5, 96, 46, 54, 7]
abbrev dktX7_holdsLine_0 : List UInt8 := dkwX7_holdsLine_0 ++ dktX7_holdsLine_1
theorem dksX7_holdsLine_0 : cX7_holdsLine.data.toList.drop 0 = dktX7_holdsLine_0 := by decide +kernel
theorem dksX7_holdsLine_1 : cX7_holdsLine.data.toList.drop 23 = dktX7_holdsLine_1 := dk_seg dksX7_holdsLine_0 23 rfl rfl
theorem dksX7_holdsLine_2 : cX7_holdsLine.data.toList.drop 47 = dktX7_holdsLine_2 := dk_seg dksX7_holdsLine_1 24 rfl rfl
theorem dksX7_holdsLine_3 : cX7_holdsLine.data.toList.drop 69 = dktX7_holdsLine_3 := dk_seg dksX7_holdsLine_2 22 rfl rfl
theorem dksX7_holdsLine_4 : cX7_holdsLine.data.toList.drop 91 = dktX7_holdsLine_4 := dk_seg dksX7_holdsLine_3 22 rfl rfl
theorem dksX7_holdsLine_5 : cX7_holdsLine.data.toList.drop 114 = dktX7_holdsLine_5 := dk_seg dksX7_holdsLine_4 23 rfl rfl
theorem dksX7_holdsLine_6 : cX7_holdsLine.data.toList.drop 138 = dktX7_holdsLine_6 := dk_seg dksX7_holdsLine_5 24 rfl rfl
theorem dksX7_holdsLine_7 : cX7_holdsLine.data.toList.drop 161 = dktX7_holdsLine_7 := dk_seg dksX7_holdsLine_6 23 rfl rfl
theorem dksX7_holdsLine_8 : cX7_holdsLine.data.toList.drop 183 = dktX7_holdsLine_8 := dk_seg dksX7_holdsLine_7 22 rfl rfl
theorem dksX7_holdsLine_9 : cX7_holdsLine.data.toList.drop 207 = dktX7_holdsLine_9 := dk_seg dksX7_holdsLine_8 24 rfl rfl
theorem dksX7_holdsLine_10 : cX7_holdsLine.data.toList.drop 231 = dktX7_holdsLine_10 := dk_seg dksX7_holdsLine_9 24 rfl rfl
theorem dksX7_holdsLine_11 : cX7_holdsLine.data.toList.drop 253 = dktX7_holdsLine_11 := dk_seg dksX7_holdsLine_10 22 rfl rfl
theorem dksX7_holdsLine_12 : cX7_holdsLine.data.toList.drop 275 = dktX7_holdsLine_12 := dk_seg dksX7_holdsLine_11 22 rfl rfl
theorem dX7_holdsLine_0 : decode cX7_holdsLine 0 = .ok (.iconst 0, 1) := dk_3 (dk_at dksX7_holdsLine_0 0 rfl rfl)
theorem dX7_holdsLine_1 : decode cX7_holdsLine 1 = .ok (.istore 5, 2) := dk_54 5 (dk_at dksX7_holdsLine_0 1 rfl rfl)
theorem dX7_holdsLine_3 : decode cX7_holdsLine 3 = .ok (.sipush 378, 3) := dk_17 1 122 (dk_at dksX7_holdsLine_0 3 rfl rfl)
theorem dX7_holdsLine_6 : decode cX7_holdsLine 6 = .ok (.iconst 4, 1) := dk_7 (dk_at dksX7_holdsLine_0 6 rfl rfl)
theorem dX7_holdsLine_7 : decode cX7_holdsLine 7 = .ok (.iload_n 1, 1) := dk_27 (dk_at dksX7_holdsLine_0 7 rfl rfl)
theorem dX7_holdsLine_8 : decode cX7_holdsLine 8 = .ok (.imul, 1) := dk_104 (dk_at dksX7_holdsLine_0 8 rfl rfl)
theorem dX7_holdsLine_9 : decode cX7_holdsLine 9 = .ok (.iadd, 1) := dk_96 (dk_at dksX7_holdsLine_0 9 rfl rfl)
theorem dX7_holdsLine_10 : decode cX7_holdsLine 10 = .ok (.istore 6, 2) := dk_54 6 (dk_at dksX7_holdsLine_0 10 rfl rfl)
theorem dX7_holdsLine_12 : decode cX7_holdsLine 12 = .ok (.aload_n 0, 1) := dk_42 (dk_at dksX7_holdsLine_0 12 rfl rfl)
theorem dX7_holdsLine_13 : decode cX7_holdsLine 13 = .ok (.getfield 13, 3) := dk_180 0 13 (dk_at dksX7_holdsLine_0 13 rfl rfl)
theorem dX7_holdsLine_16 : decode cX7_holdsLine 16 = .ok (.iload 6, 2) := dk_21 6 (dk_at dksX7_holdsLine_0 16 rfl rfl)
theorem dX7_holdsLine_18 : decode cX7_holdsLine 18 = .ok (.iconst 2, 1) := dk_5 (dk_at dksX7_holdsLine_0 18 rfl rfl)
theorem dX7_holdsLine_19 : decode cX7_holdsLine 19 = .ok (.iadd, 1) := dk_96 (dk_at dksX7_holdsLine_0 19 rfl rfl)
theorem dX7_holdsLine_20 : decode cX7_holdsLine 20 = .ok (.iaload, 1) := dk_46 (dk_at dksX7_holdsLine_0 20 rfl rfl)
theorem dX7_holdsLine_21 : decode cX7_holdsLine 21 = .ok (.istore 7, 2) := dk_54 7 (dk_at dksX7_holdsLine_0 21 rfl rfl)
theorem dX7_holdsLine_23 : decode cX7_holdsLine 23 = .ok (.iload 7, 2) := dk_21 7 (dk_at dksX7_holdsLine_1 0 rfl rfl)
theorem dX7_holdsLine_25 : decode cX7_holdsLine 25 = .ok (.aload_n 0, 1) := dk_42 (dk_at dksX7_holdsLine_1 2 rfl rfl)
theorem dX7_holdsLine_26 : decode cX7_holdsLine 26 = .ok (.getfield 13, 3) := dk_180 0 13 (dk_at dksX7_holdsLine_1 3 rfl rfl)
theorem dX7_holdsLine_29 : decode cX7_holdsLine 29 = .ok (.iload 6, 2) := dk_21 6 (dk_at dksX7_holdsLine_1 6 rfl rfl)
theorem dX7_holdsLine_31 : decode cX7_holdsLine 31 = .ok (.iconst 3, 1) := dk_6 (dk_at dksX7_holdsLine_1 8 rfl rfl)
theorem dX7_holdsLine_32 : decode cX7_holdsLine 32 = .ok (.iadd, 1) := dk_96 (dk_at dksX7_holdsLine_1 9 rfl rfl)
theorem dX7_holdsLine_33 : decode cX7_holdsLine 33 = .ok (.iaload, 1) := dk_46 (dk_at dksX7_holdsLine_1 10 rfl rfl)
theorem dX7_holdsLine_34 : decode cX7_holdsLine 34 = .ok (.if_icmp .ge 239, 3) := dk_162 0 239 (dk_at dksX7_holdsLine_1 11 rfl rfl)
theorem dX7_holdsLine_37 : decode cX7_holdsLine 37 = .ok (.aload_n 0, 1) := dk_42 (dk_at dksX7_holdsLine_1 14 rfl rfl)
theorem dX7_holdsLine_38 : decode cX7_holdsLine 38 = .ok (.getfield 13, 3) := dk_180 0 13 (dk_at dksX7_holdsLine_1 15 rfl rfl)
theorem dX7_holdsLine_41 : decode cX7_holdsLine 41 = .ok (.sipush 426, 3) := dk_17 1 170 (dk_at dksX7_holdsLine_1 18 rfl rfl)
theorem dX7_holdsLine_44 : decode cX7_holdsLine 44 = .ok (.iconst 2, 1) := dk_5 (dk_at dksX7_holdsLine_1 21 rfl rfl)
theorem dX7_holdsLine_45 : decode cX7_holdsLine 45 = .ok (.iload 7, 2) := dk_21 7 (dk_at dksX7_holdsLine_1 22 rfl rfl)
theorem dX7_holdsLine_47 : decode cX7_holdsLine 47 = .ok (.imul, 1) := dk_104 (dk_at dksX7_holdsLine_2 0 rfl rfl)
theorem dX7_holdsLine_48 : decode cX7_holdsLine 48 = .ok (.iadd, 1) := dk_96 (dk_at dksX7_holdsLine_2 1 rfl rfl)
theorem dX7_holdsLine_49 : decode cX7_holdsLine 49 = .ok (.iaload, 1) := dk_46 (dk_at dksX7_holdsLine_2 2 rfl rfl)
theorem dX7_holdsLine_50 : decode cX7_holdsLine 50 = .ok (.istore 8, 2) := dk_54 8 (dk_at dksX7_holdsLine_2 3 rfl rfl)
theorem dX7_holdsLine_52 : decode cX7_holdsLine 52 = .ok (.iload 8, 2) := dk_21 8 (dk_at dksX7_holdsLine_2 5 rfl rfl)
theorem dX7_holdsLine_54 : decode cX7_holdsLine 54 = .ok (.bipush 10, 2) := dk_16 10 (dk_at dksX7_holdsLine_2 7 rfl rfl)
theorem dX7_holdsLine_56 : decode cX7_holdsLine 56 = .ok (.if_icmp .gt 41, 3) := dk_163 0 41 (dk_at dksX7_holdsLine_2 9 rfl rfl)
theorem dX7_holdsLine_59 : decode cX7_holdsLine 59 = .ok (.aload_n 0, 1) := dk_42 (dk_at dksX7_holdsLine_2 12 rfl rfl)
theorem dX7_holdsLine_60 : decode cX7_holdsLine 60 = .ok (.getfield 39, 3) := dk_180 0 39 (dk_at dksX7_holdsLine_2 13 rfl rfl)
theorem dX7_holdsLine_63 : decode cX7_holdsLine 63 = .ok (.iload 5, 2) := dk_21 5 (dk_at dksX7_holdsLine_2 16 rfl rfl)
theorem dX7_holdsLine_65 : decode cX7_holdsLine 65 = .ok (.aload_n 0, 1) := dk_42 (dk_at dksX7_holdsLine_2 18 rfl rfl)
theorem dX7_holdsLine_66 : decode cX7_holdsLine 66 = .ok (.iload 8, 2) := dk_21 8 (dk_at dksX7_holdsLine_2 19 rfl rfl)
theorem dX7_holdsLine_68 : decode cX7_holdsLine 68 = .ok (.aload_n 0, 1) := dk_42 (dk_at dksX7_holdsLine_2 21 rfl rfl)
theorem dX7_holdsLine_69 : decode cX7_holdsLine 69 = .ok (.getfield 13, 3) := dk_180 0 13 (dk_at dksX7_holdsLine_3 0 rfl rfl)
theorem dX7_holdsLine_72 : decode cX7_holdsLine 72 = .ok (.sipush 426, 3) := dk_17 1 170 (dk_at dksX7_holdsLine_3 3 rfl rfl)
theorem dX7_holdsLine_75 : decode cX7_holdsLine 75 = .ok (.iconst 2, 1) := dk_5 (dk_at dksX7_holdsLine_3 6 rfl rfl)
theorem dX7_holdsLine_76 : decode cX7_holdsLine 76 = .ok (.iload 7, 2) := dk_21 7 (dk_at dksX7_holdsLine_3 7 rfl rfl)
theorem dX7_holdsLine_78 : decode cX7_holdsLine 78 = .ok (.imul, 1) := dk_104 (dk_at dksX7_holdsLine_3 9 rfl rfl)
theorem dX7_holdsLine_79 : decode cX7_holdsLine 79 = .ok (.iadd, 1) := dk_96 (dk_at dksX7_holdsLine_3 10 rfl rfl)
theorem dX7_holdsLine_80 : decode cX7_holdsLine 80 = .ok (.iconst 1, 1) := dk_4 (dk_at dksX7_holdsLine_3 11 rfl rfl)
theorem dX7_holdsLine_81 : decode cX7_holdsLine 81 = .ok (.iadd, 1) := dk_96 (dk_at dksX7_holdsLine_3 12 rfl rfl)
theorem dX7_holdsLine_82 : decode cX7_holdsLine 82 = .ok (.iaload, 1) := dk_46 (dk_at dksX7_holdsLine_3 13 rfl rfl)
theorem dX7_holdsLine_83 : decode cX7_holdsLine 83 = .ok (.iload_n 2, 1) := dk_28 (dk_at dksX7_holdsLine_3 14 rfl rfl)
theorem dX7_holdsLine_84 : decode cX7_holdsLine 84 = .ok (.iload_n 3, 1) := dk_29 (dk_at dksX7_holdsLine_3 15 rfl rfl)
theorem dX7_holdsLine_85 : decode cX7_holdsLine 85 = .ok (.iload 4, 2) := dk_21 4 (dk_at dksX7_holdsLine_3 16 rfl rfl)
theorem dX7_holdsLine_87 : decode cX7_holdsLine 87 = .ok (.invokevirtual 244, 3) := dk_182 0 244 (dk_at dksX7_holdsLine_3 18 rfl rfl)
theorem dX7_holdsLine_90 : decode cX7_holdsLine 90 = .ok (.iastore, 1) := dk_79 (dk_at dksX7_holdsLine_3 21 rfl rfl)
theorem dX7_holdsLine_91 : decode cX7_holdsLine 91 = .ok (.iinc 5 1, 3) := dk_132 5 1 (dk_at dksX7_holdsLine_4 0 rfl rfl)
theorem dX7_holdsLine_94 : decode cX7_holdsLine 94 = .ok (.goto 173, 3) := dk_167 0 173 (dk_at dksX7_holdsLine_4 3 rfl rfl)
theorem dX7_holdsLine_97 : decode cX7_holdsLine 97 = .ok (.iload 8, 2) := dk_21 8 (dk_at dksX7_holdsLine_4 6 rfl rfl)
theorem dX7_holdsLine_99 : decode cX7_holdsLine 99 = .ok (.bipush 14, 2) := dk_16 14 (dk_at dksX7_holdsLine_4 8 rfl rfl)
theorem dX7_holdsLine_101 : decode cX7_holdsLine 101 = .ok (.if_icmp .ne 26, 3) := dk_160 0 26 (dk_at dksX7_holdsLine_4 10 rfl rfl)
theorem dX7_holdsLine_104 : decode cX7_holdsLine 104 = .ok (.aload_n 0, 1) := dk_42 (dk_at dksX7_holdsLine_4 13 rfl rfl)
theorem dX7_holdsLine_105 : decode cX7_holdsLine 105 = .ok (.getfield 39, 3) := dk_180 0 39 (dk_at dksX7_holdsLine_4 14 rfl rfl)
theorem dX7_holdsLine_108 : decode cX7_holdsLine 108 = .ok (.iload 5, 2) := dk_21 5 (dk_at dksX7_holdsLine_4 17 rfl rfl)
theorem dX7_holdsLine_110 : decode cX7_holdsLine 110 = .ok (.iconst 1, 1) := dk_4 (dk_at dksX7_holdsLine_4 19 rfl rfl)
theorem dX7_holdsLine_111 : decode cX7_holdsLine 111 = .ok (.isub, 1) := dk_100 (dk_at dksX7_holdsLine_4 20 rfl rfl)
theorem dX7_holdsLine_112 : decode cX7_holdsLine 112 = .ok (.iconst 1, 1) := dk_4 (dk_at dksX7_holdsLine_4 21 rfl rfl)
theorem dX7_holdsLine_113 : decode cX7_holdsLine 113 = .ok (.aload_n 0, 1) := dk_42 (dk_at dksX7_holdsLine_4 22 rfl rfl)
theorem dX7_holdsLine_114 : decode cX7_holdsLine 114 = .ok (.getfield 39, 3) := dk_180 0 39 (dk_at dksX7_holdsLine_5 0 rfl rfl)
theorem dX7_holdsLine_117 : decode cX7_holdsLine 117 = .ok (.iload 5, 2) := dk_21 5 (dk_at dksX7_holdsLine_5 3 rfl rfl)
theorem dX7_holdsLine_119 : decode cX7_holdsLine 119 = .ok (.iconst 1, 1) := dk_4 (dk_at dksX7_holdsLine_5 5 rfl rfl)
theorem dX7_holdsLine_120 : decode cX7_holdsLine 120 = .ok (.isub, 1) := dk_100 (dk_at dksX7_holdsLine_5 6 rfl rfl)
theorem dX7_holdsLine_121 : decode cX7_holdsLine 121 = .ok (.iaload, 1) := dk_46 (dk_at dksX7_holdsLine_5 7 rfl rfl)
theorem dX7_holdsLine_122 : decode cX7_holdsLine 122 = .ok (.isub, 1) := dk_100 (dk_at dksX7_holdsLine_5 8 rfl rfl)
theorem dX7_holdsLine_123 : decode cX7_holdsLine 123 = .ok (.iastore, 1) := dk_79 (dk_at dksX7_holdsLine_5 9 rfl rfl)
theorem dX7_holdsLine_124 : decode cX7_holdsLine 124 = .ok (.goto 143, 3) := dk_167 0 143 (dk_at dksX7_holdsLine_5 10 rfl rfl)
theorem dX7_holdsLine_127 : decode cX7_holdsLine 127 = .ok (.iinc 5 (-1), 3) := dk_132 5 255 (dk_at dksX7_holdsLine_5 13 rfl rfl)
theorem dX7_holdsLine_130 : decode cX7_holdsLine 130 = .ok (.aload_n 0, 1) := dk_42 (dk_at dksX7_holdsLine_5 16 rfl rfl)
theorem dX7_holdsLine_131 : decode cX7_holdsLine 131 = .ok (.getfield 39, 3) := dk_180 0 39 (dk_at dksX7_holdsLine_5 17 rfl rfl)
theorem dX7_holdsLine_134 : decode cX7_holdsLine 134 = .ok (.iload 5, 2) := dk_21 5 (dk_at dksX7_holdsLine_5 20 rfl rfl)
theorem dX7_holdsLine_136 : decode cX7_holdsLine 136 = .ok (.iconst 1, 1) := dk_4 (dk_at dksX7_holdsLine_5 22 rfl rfl)
theorem dX7_holdsLine_137 : decode cX7_holdsLine 137 = .ok (.isub, 1) := dk_100 (dk_at dksX7_holdsLine_5 23 rfl rfl)
theorem dX7_holdsLine_138 : decode cX7_holdsLine 138 = .ok (.iaload, 1) := dk_46 (dk_at dksX7_holdsLine_6 0 rfl rfl)
theorem dX7_holdsLine_139 : decode cX7_holdsLine 139 = .ok (.istore 9, 2) := dk_54 9 (dk_at dksX7_holdsLine_6 1 rfl rfl)
theorem dX7_holdsLine_141 : decode cX7_holdsLine 141 = .ok (.aload_n 0, 1) := dk_42 (dk_at dksX7_holdsLine_6 3 rfl rfl)
theorem dX7_holdsLine_142 : decode cX7_holdsLine 142 = .ok (.getfield 39, 3) := dk_180 0 39 (dk_at dksX7_holdsLine_6 4 rfl rfl)
theorem dX7_holdsLine_145 : decode cX7_holdsLine 145 = .ok (.iload 5, 2) := dk_21 5 (dk_at dksX7_holdsLine_6 7 rfl rfl)
theorem dX7_holdsLine_147 : decode cX7_holdsLine 147 = .ok (.iaload, 1) := dk_46 (dk_at dksX7_holdsLine_6 9 rfl rfl)
theorem dX7_holdsLine_148 : decode cX7_holdsLine 148 = .ok (.istore 10, 2) := dk_54 10 (dk_at dksX7_holdsLine_6 10 rfl rfl)
theorem dX7_holdsLine_150 : decode cX7_holdsLine 150 = .ok (.iload 8, 2) := dk_21 8 (dk_at dksX7_holdsLine_6 12 rfl rfl)
theorem dX7_holdsLine_152 : decode cX7_holdsLine 152 = .ok (.bipush 12, 2) := dk_16 12 (dk_at dksX7_holdsLine_6 14 rfl rfl)
theorem dX7_holdsLine_154 : decode cX7_holdsLine 154 = .ok (.if_icmp .ne 18, 3) := dk_160 0 18 (dk_at dksX7_holdsLine_6 16 rfl rfl)
theorem dX7_holdsLine_157 : decode cX7_holdsLine 157 = .ok (.iload 9, 2) := dk_21 9 (dk_at dksX7_holdsLine_6 19 rfl rfl)
theorem dX7_holdsLine_159 : decode cX7_holdsLine 159 = .ok (.iload 10, 2) := dk_21 10 (dk_at dksX7_holdsLine_6 21 rfl rfl)
theorem dX7_holdsLine_161 : decode cX7_holdsLine 161 = .ok (.if_icmp .ge 7, 3) := dk_162 0 7 (dk_at dksX7_holdsLine_7 0 rfl rfl)
theorem dX7_holdsLine_164 : decode cX7_holdsLine 164 = .ok (.iconst 1, 1) := dk_4 (dk_at dksX7_holdsLine_7 3 rfl rfl)
theorem dX7_holdsLine_165 : decode cX7_holdsLine 165 = .ok (.goto 66, 3) := dk_167 0 66 (dk_at dksX7_holdsLine_7 4 rfl rfl)
theorem dX7_holdsLine_168 : decode cX7_holdsLine 168 = .ok (.iconst 0, 1) := dk_3 (dk_at dksX7_holdsLine_7 7 rfl rfl)
theorem dX7_holdsLine_169 : decode cX7_holdsLine 169 = .ok (.goto 62, 3) := dk_167 0 62 (dk_at dksX7_holdsLine_7 8 rfl rfl)
theorem dX7_holdsLine_172 : decode cX7_holdsLine 172 = .ok (.iload 8, 2) := dk_21 8 (dk_at dksX7_holdsLine_7 11 rfl rfl)
theorem dX7_holdsLine_174 : decode cX7_holdsLine 174 = .ok (.bipush 13, 2) := dk_16 13 (dk_at dksX7_holdsLine_7 13 rfl rfl)
theorem dX7_holdsLine_176 : decode cX7_holdsLine 176 = .ok (.if_icmp .ne 18, 3) := dk_160 0 18 (dk_at dksX7_holdsLine_7 15 rfl rfl)
theorem dX7_holdsLine_179 : decode cX7_holdsLine 179 = .ok (.iload 9, 2) := dk_21 9 (dk_at dksX7_holdsLine_7 18 rfl rfl)
theorem dX7_holdsLine_181 : decode cX7_holdsLine 181 = .ok (.iload 10, 2) := dk_21 10 (dk_at dksX7_holdsLine_7 20 rfl rfl)
theorem dX7_holdsLine_183 : decode cX7_holdsLine 183 = .ok (.if_icmp .le 7, 3) := dk_164 0 7 (dk_at dksX7_holdsLine_8 0 rfl rfl)
theorem dX7_holdsLine_186 : decode cX7_holdsLine 186 = .ok (.iconst 1, 1) := dk_4 (dk_at dksX7_holdsLine_8 3 rfl rfl)
theorem dX7_holdsLine_187 : decode cX7_holdsLine 187 = .ok (.goto 44, 3) := dk_167 0 44 (dk_at dksX7_holdsLine_8 4 rfl rfl)
theorem dX7_holdsLine_190 : decode cX7_holdsLine 190 = .ok (.iconst 0, 1) := dk_3 (dk_at dksX7_holdsLine_8 7 rfl rfl)
theorem dX7_holdsLine_191 : decode cX7_holdsLine 191 = .ok (.goto 40, 3) := dk_167 0 40 (dk_at dksX7_holdsLine_8 8 rfl rfl)
theorem dX7_holdsLine_194 : decode cX7_holdsLine 194 = .ok (.iload 8, 2) := dk_21 8 (dk_at dksX7_holdsLine_8 11 rfl rfl)
theorem dX7_holdsLine_196 : decode cX7_holdsLine 196 = .ok (.bipush 15, 2) := dk_16 15 (dk_at dksX7_holdsLine_8 13 rfl rfl)
theorem dX7_holdsLine_198 : decode cX7_holdsLine 198 = .ok (.if_icmp .ne 20, 3) := dk_160 0 20 (dk_at dksX7_holdsLine_8 15 rfl rfl)
theorem dX7_holdsLine_201 : decode cX7_holdsLine 201 = .ok (.iload 9, 2) := dk_21 9 (dk_at dksX7_holdsLine_8 18 rfl rfl)
theorem dX7_holdsLine_203 : decode cX7_holdsLine 203 = .ok (.iload 10, 2) := dk_21 10 (dk_at dksX7_holdsLine_8 20 rfl rfl)
theorem dX7_holdsLine_205 : decode cX7_holdsLine 205 = .ok (.iadd, 1) := dk_96 (dk_at dksX7_holdsLine_8 22 rfl rfl)
theorem dX7_holdsLine_206 : decode cX7_holdsLine 206 = .ok (.iconst 2, 1) := dk_5 (dk_at dksX7_holdsLine_8 23 rfl rfl)
theorem dX7_holdsLine_207 : decode cX7_holdsLine 207 = .ok (.if_icmp .ne 7, 3) := dk_160 0 7 (dk_at dksX7_holdsLine_9 0 rfl rfl)
theorem dX7_holdsLine_210 : decode cX7_holdsLine 210 = .ok (.iconst 1, 1) := dk_4 (dk_at dksX7_holdsLine_9 3 rfl rfl)
theorem dX7_holdsLine_211 : decode cX7_holdsLine 211 = .ok (.goto 20, 3) := dk_167 0 20 (dk_at dksX7_holdsLine_9 4 rfl rfl)
theorem dX7_holdsLine_214 : decode cX7_holdsLine 214 = .ok (.iconst 0, 1) := dk_3 (dk_at dksX7_holdsLine_9 7 rfl rfl)
theorem dX7_holdsLine_215 : decode cX7_holdsLine 215 = .ok (.goto 16, 3) := dk_167 0 16 (dk_at dksX7_holdsLine_9 8 rfl rfl)
theorem dX7_holdsLine_218 : decode cX7_holdsLine 218 = .ok (.iload 9, 2) := dk_21 9 (dk_at dksX7_holdsLine_9 11 rfl rfl)
theorem dX7_holdsLine_220 : decode cX7_holdsLine 220 = .ok (.iload 10, 2) := dk_21 10 (dk_at dksX7_holdsLine_9 13 rfl rfl)
theorem dX7_holdsLine_222 : decode cX7_holdsLine 222 = .ok (.iadd, 1) := dk_96 (dk_at dksX7_holdsLine_9 15 rfl rfl)
theorem dX7_holdsLine_223 : decode cX7_holdsLine 223 = .ok (.ifCond .le 7, 3) := dk_158 0 7 (dk_at dksX7_holdsLine_9 16 rfl rfl)
theorem dX7_holdsLine_226 : decode cX7_holdsLine 226 = .ok (.iconst 1, 1) := dk_4 (dk_at dksX7_holdsLine_9 19 rfl rfl)
theorem dX7_holdsLine_227 : decode cX7_holdsLine 227 = .ok (.goto 4, 3) := dk_167 0 4 (dk_at dksX7_holdsLine_9 20 rfl rfl)
theorem dX7_holdsLine_230 : decode cX7_holdsLine 230 = .ok (.iconst 0, 1) := dk_3 (dk_at dksX7_holdsLine_9 23 rfl rfl)
theorem dX7_holdsLine_231 : decode cX7_holdsLine 231 = .ok (.istore 11, 2) := dk_54 11 (dk_at dksX7_holdsLine_10 0 rfl rfl)
theorem dX7_holdsLine_233 : decode cX7_holdsLine 233 = .ok (.aload_n 0, 1) := dk_42 (dk_at dksX7_holdsLine_10 2 rfl rfl)
theorem dX7_holdsLine_234 : decode cX7_holdsLine 234 = .ok (.getfield 39, 3) := dk_180 0 39 (dk_at dksX7_holdsLine_10 3 rfl rfl)
theorem dX7_holdsLine_237 : decode cX7_holdsLine 237 = .ok (.iload 5, 2) := dk_21 5 (dk_at dksX7_holdsLine_10 6 rfl rfl)
theorem dX7_holdsLine_239 : decode cX7_holdsLine 239 = .ok (.iconst 1, 1) := dk_4 (dk_at dksX7_holdsLine_10 8 rfl rfl)
theorem dX7_holdsLine_240 : decode cX7_holdsLine 240 = .ok (.isub, 1) := dk_100 (dk_at dksX7_holdsLine_10 9 rfl rfl)
theorem dX7_holdsLine_241 : decode cX7_holdsLine 241 = .ok (.iload 8, 2) := dk_21 8 (dk_at dksX7_holdsLine_10 10 rfl rfl)
theorem dX7_holdsLine_243 : decode cX7_holdsLine 243 = .ok (.bipush 11, 2) := dk_16 11 (dk_at dksX7_holdsLine_10 12 rfl rfl)
theorem dX7_holdsLine_245 : decode cX7_holdsLine 245 = .ok (.if_icmp .ne 11, 3) := dk_160 0 11 (dk_at dksX7_holdsLine_10 14 rfl rfl)
theorem dX7_holdsLine_248 : decode cX7_holdsLine 248 = .ok (.iload 9, 2) := dk_21 9 (dk_at dksX7_holdsLine_10 17 rfl rfl)
theorem dX7_holdsLine_250 : decode cX7_holdsLine 250 = .ok (.iload 10, 2) := dk_21 10 (dk_at dksX7_holdsLine_10 19 rfl rfl)
theorem dX7_holdsLine_252 : decode cX7_holdsLine 252 = .ok (.iadd, 1) := dk_96 (dk_at dksX7_holdsLine_10 21 rfl rfl)
theorem dX7_holdsLine_253 : decode cX7_holdsLine 253 = .ok (.goto 13, 3) := dk_167 0 13 (dk_at dksX7_holdsLine_11 0 rfl rfl)
theorem dX7_holdsLine_256 : decode cX7_holdsLine 256 = .ok (.iload 11, 2) := dk_21 11 (dk_at dksX7_holdsLine_11 3 rfl rfl)
theorem dX7_holdsLine_258 : decode cX7_holdsLine 258 = .ok (.ifCond .eq 7, 3) := dk_153 0 7 (dk_at dksX7_holdsLine_11 5 rfl rfl)
theorem dX7_holdsLine_261 : decode cX7_holdsLine 261 = .ok (.iconst 1, 1) := dk_4 (dk_at dksX7_holdsLine_11 8 rfl rfl)
theorem dX7_holdsLine_262 : decode cX7_holdsLine 262 = .ok (.goto 4, 3) := dk_167 0 4 (dk_at dksX7_holdsLine_11 9 rfl rfl)
theorem dX7_holdsLine_265 : decode cX7_holdsLine 265 = .ok (.iconst 0, 1) := dk_3 (dk_at dksX7_holdsLine_11 12 rfl rfl)
theorem dX7_holdsLine_266 : decode cX7_holdsLine 266 = .ok (.iastore, 1) := dk_79 (dk_at dksX7_holdsLine_11 13 rfl rfl)
theorem dX7_holdsLine_267 : decode cX7_holdsLine 267 = .ok (.iinc 7 1, 3) := dk_132 7 1 (dk_at dksX7_holdsLine_11 14 rfl rfl)
theorem dX7_holdsLine_270 : decode cX7_holdsLine 270 = .ok (.goto (-247), 3) := dk_167 255 9 (dk_at dksX7_holdsLine_11 17 rfl rfl)
theorem dX7_holdsLine_273 : decode cX7_holdsLine 273 = .ok (.iload 5, 2) := dk_21 5 (dk_at dksX7_holdsLine_11 20 rfl rfl)
theorem dX7_holdsLine_275 : decode cX7_holdsLine 275 = .ok (.ifCond .eq 13, 3) := dk_153 0 13 (dk_at dksX7_holdsLine_12 0 rfl rfl)
theorem dX7_holdsLine_278 : decode cX7_holdsLine 278 = .ok (.aload_n 0, 1) := dk_42 (dk_at dksX7_holdsLine_12 3 rfl rfl)
theorem dX7_holdsLine_279 : decode cX7_holdsLine 279 = .ok (.getfield 39, 3) := dk_180 0 39 (dk_at dksX7_holdsLine_12 4 rfl rfl)
theorem dX7_holdsLine_282 : decode cX7_holdsLine 282 = .ok (.iconst 0, 1) := dk_3 (dk_at dksX7_holdsLine_12 7 rfl rfl)
theorem dX7_holdsLine_283 : decode cX7_holdsLine 283 = .ok (.iaload, 1) := dk_46 (dk_at dksX7_holdsLine_12 8 rfl rfl)
theorem dX7_holdsLine_284 : decode cX7_holdsLine 284 = .ok (.iconst 1, 1) := dk_4 (dk_at dksX7_holdsLine_12 9 rfl rfl)
theorem dX7_holdsLine_285 : decode cX7_holdsLine 285 = .ok (.if_icmp .ne 7, 3) := dk_160 0 7 (dk_at dksX7_holdsLine_12 10 rfl rfl)
theorem dX7_holdsLine_288 : decode cX7_holdsLine 288 = .ok (.iconst 1, 1) := dk_4 (dk_at dksX7_holdsLine_12 13 rfl rfl)
theorem dX7_holdsLine_289 : decode cX7_holdsLine 289 = .ok (.goto 4, 3) := dk_167 0 4 (dk_at dksX7_holdsLine_12 14 rfl rfl)
theorem dX7_holdsLine_292 : decode cX7_holdsLine 292 = .ok (.iconst 0, 1) := dk_3 (dk_at dksX7_holdsLine_12 17 rfl rfl)
theorem dX7_holdsLine_293 : decode cX7_holdsLine 293 = .ok (.ireturn, 1) := dk_172 (dk_at dksX7_holdsLine_12 18 rfl rfl)
abbrev cX7_factOf : ByteArray := prog_18_method_53_code
def yX7_factOf : MethodName := ⟨RX7, "factOf", "(IIIII)I"⟩
def dkwX7_factOf_5 : List UInt8 := [182, 0, 71, 172, 28, 172]
abbrev dktX7_factOf_5 : List UInt8 := dkwX7_factOf_5 ++ []
def dkwX7_factOf_4 : List UInt8 := [172, 42, 21, 4, 7, 182, 0, 71, 29, 160, 0, 7, 4, 167, 0, 4, 3, 172, 42, 21, 4, 16, 8]
abbrev dktX7_factOf_4 : List UInt8 := dkwX7_factOf_4 ++ dktX7_factOf_5
def dkwX7_factOf_3 : List UInt8 := [42, 29, 21, 5, 182, 0, 65, 172, 42, 21, 4, 21, 5, 182, 0, 71, 172, 42, 29, 16, 6, 182, 0, 65]
abbrev dktX7_factOf_3 : List UInt8 := dkwX7_factOf_3 ++ dktX7_factOf_4
def dkwX7_factOf_2 : List UInt8 := [29, 172, 21, 4, 172, 21, 5, 172, 42, 21, 4, 16, 6, 182, 0, 71, 172, 42, 29, 8, 182, 0, 65, 172]
abbrev dktX7_factOf_2 : List UInt8 := dkwX7_factOf_2 ++ dktX7_factOf_3
def dkwX7_factOf_1 : List UInt8 := [170, 0, 0, 0, 0, 0, 130, 0, 0, 0, 0, 0, 0, 0, 9, 0, 0, 0, 55, 0, 0, 0, 57, 0, 0, 0, 60, 0, 0, 0, 63, 0, 0, 0, 72, 0, 0, 0, 79, 0, 0, 0, 87, 0, 0, 0, 96, 0, 0, 0, 104, 0, 0, 0, 121]
abbrev dktX7_factOf_1 : List UInt8 := dkwX7_factOf_1 ++ dktX7_factOf_2
def dkwX7_factOf_0 : List UInt8 := [27]
abbrev dktX7_factOf_0 : List UInt8 := dkwX7_factOf_0 ++ dktX7_factOf_1
theorem dksX7_factOf_0 : cX7_factOf.data.toList.drop 0 = dktX7_factOf_0 := by decide +kernel
theorem dksX7_factOf_1 : cX7_factOf.data.toList.drop 1 = dktX7_factOf_1 := dk_seg dksX7_factOf_0 1 rfl rfl
theorem dksX7_factOf_2 : cX7_factOf.data.toList.drop 56 = dktX7_factOf_2 := dk_seg dksX7_factOf_1 55 rfl rfl
theorem dksX7_factOf_3 : cX7_factOf.data.toList.drop 80 = dktX7_factOf_3 := dk_seg dksX7_factOf_2 24 rfl rfl
theorem dksX7_factOf_4 : cX7_factOf.data.toList.drop 104 = dktX7_factOf_4 := dk_seg dksX7_factOf_3 24 rfl rfl
theorem dksX7_factOf_5 : cX7_factOf.data.toList.drop 127 = dktX7_factOf_5 := dk_seg dksX7_factOf_4 23 rfl rfl
theorem dX7_factOf_0 : decode cX7_factOf 0 = .ok (.iload_n 1, 1) := dk_27 (dk_at dksX7_factOf_0 0 rfl rfl)
theorem dX7_factOf_1 : decode cX7_factOf 1 = .ok (.tableswitch 130 0 9 #[55, 57, 60, 63, 72, 79, 87, 96, 104, 121], 55) := by decide +kernel
theorem dX7_factOf_56 : decode cX7_factOf 56 = .ok (.iload_n 3, 1) := dk_29 (dk_at dksX7_factOf_2 0 rfl rfl)
theorem dX7_factOf_57 : decode cX7_factOf 57 = .ok (.ireturn, 1) := dk_172 (dk_at dksX7_factOf_2 1 rfl rfl)
theorem dX7_factOf_58 : decode cX7_factOf 58 = .ok (.iload 4, 2) := dk_21 4 (dk_at dksX7_factOf_2 2 rfl rfl)
theorem dX7_factOf_60 : decode cX7_factOf 60 = .ok (.ireturn, 1) := dk_172 (dk_at dksX7_factOf_2 4 rfl rfl)
theorem dX7_factOf_61 : decode cX7_factOf 61 = .ok (.iload 5, 2) := dk_21 5 (dk_at dksX7_factOf_2 5 rfl rfl)
theorem dX7_factOf_63 : decode cX7_factOf 63 = .ok (.ireturn, 1) := dk_172 (dk_at dksX7_factOf_2 7 rfl rfl)
theorem dX7_factOf_64 : decode cX7_factOf 64 = .ok (.aload_n 0, 1) := dk_42 (dk_at dksX7_factOf_2 8 rfl rfl)
theorem dX7_factOf_65 : decode cX7_factOf 65 = .ok (.iload 4, 2) := dk_21 4 (dk_at dksX7_factOf_2 9 rfl rfl)
theorem dX7_factOf_67 : decode cX7_factOf 67 = .ok (.bipush 6, 2) := dk_16 6 (dk_at dksX7_factOf_2 11 rfl rfl)
theorem dX7_factOf_69 : decode cX7_factOf 69 = .ok (.invokevirtual 71, 3) := dk_182 0 71 (dk_at dksX7_factOf_2 13 rfl rfl)
theorem dX7_factOf_72 : decode cX7_factOf 72 = .ok (.ireturn, 1) := dk_172 (dk_at dksX7_factOf_2 16 rfl rfl)
theorem dX7_factOf_73 : decode cX7_factOf 73 = .ok (.aload_n 0, 1) := dk_42 (dk_at dksX7_factOf_2 17 rfl rfl)
theorem dX7_factOf_74 : decode cX7_factOf 74 = .ok (.iload_n 3, 1) := dk_29 (dk_at dksX7_factOf_2 18 rfl rfl)
theorem dX7_factOf_75 : decode cX7_factOf 75 = .ok (.iconst 5, 1) := dk_8 (dk_at dksX7_factOf_2 19 rfl rfl)
theorem dX7_factOf_76 : decode cX7_factOf 76 = .ok (.invokevirtual 65, 3) := dk_182 0 65 (dk_at dksX7_factOf_2 20 rfl rfl)
theorem dX7_factOf_79 : decode cX7_factOf 79 = .ok (.ireturn, 1) := dk_172 (dk_at dksX7_factOf_2 23 rfl rfl)
theorem dX7_factOf_80 : decode cX7_factOf 80 = .ok (.aload_n 0, 1) := dk_42 (dk_at dksX7_factOf_3 0 rfl rfl)
theorem dX7_factOf_81 : decode cX7_factOf 81 = .ok (.iload_n 3, 1) := dk_29 (dk_at dksX7_factOf_3 1 rfl rfl)
theorem dX7_factOf_82 : decode cX7_factOf 82 = .ok (.iload 5, 2) := dk_21 5 (dk_at dksX7_factOf_3 2 rfl rfl)
theorem dX7_factOf_84 : decode cX7_factOf 84 = .ok (.invokevirtual 65, 3) := dk_182 0 65 (dk_at dksX7_factOf_3 4 rfl rfl)
theorem dX7_factOf_87 : decode cX7_factOf 87 = .ok (.ireturn, 1) := dk_172 (dk_at dksX7_factOf_3 7 rfl rfl)
theorem dX7_factOf_88 : decode cX7_factOf 88 = .ok (.aload_n 0, 1) := dk_42 (dk_at dksX7_factOf_3 8 rfl rfl)
theorem dX7_factOf_89 : decode cX7_factOf 89 = .ok (.iload 4, 2) := dk_21 4 (dk_at dksX7_factOf_3 9 rfl rfl)
theorem dX7_factOf_91 : decode cX7_factOf 91 = .ok (.iload 5, 2) := dk_21 5 (dk_at dksX7_factOf_3 11 rfl rfl)
theorem dX7_factOf_93 : decode cX7_factOf 93 = .ok (.invokevirtual 71, 3) := dk_182 0 71 (dk_at dksX7_factOf_3 13 rfl rfl)
theorem dX7_factOf_96 : decode cX7_factOf 96 = .ok (.ireturn, 1) := dk_172 (dk_at dksX7_factOf_3 16 rfl rfl)
theorem dX7_factOf_97 : decode cX7_factOf 97 = .ok (.aload_n 0, 1) := dk_42 (dk_at dksX7_factOf_3 17 rfl rfl)
theorem dX7_factOf_98 : decode cX7_factOf 98 = .ok (.iload_n 3, 1) := dk_29 (dk_at dksX7_factOf_3 18 rfl rfl)
theorem dX7_factOf_99 : decode cX7_factOf 99 = .ok (.bipush 6, 2) := dk_16 6 (dk_at dksX7_factOf_3 19 rfl rfl)
theorem dX7_factOf_101 : decode cX7_factOf 101 = .ok (.invokevirtual 65, 3) := dk_182 0 65 (dk_at dksX7_factOf_3 21 rfl rfl)
theorem dX7_factOf_104 : decode cX7_factOf 104 = .ok (.ireturn, 1) := dk_172 (dk_at dksX7_factOf_4 0 rfl rfl)
theorem dX7_factOf_105 : decode cX7_factOf 105 = .ok (.aload_n 0, 1) := dk_42 (dk_at dksX7_factOf_4 1 rfl rfl)
theorem dX7_factOf_106 : decode cX7_factOf 106 = .ok (.iload 4, 2) := dk_21 4 (dk_at dksX7_factOf_4 2 rfl rfl)
theorem dX7_factOf_108 : decode cX7_factOf 108 = .ok (.iconst 4, 1) := dk_7 (dk_at dksX7_factOf_4 4 rfl rfl)
theorem dX7_factOf_109 : decode cX7_factOf 109 = .ok (.invokevirtual 71, 3) := dk_182 0 71 (dk_at dksX7_factOf_4 5 rfl rfl)
theorem dX7_factOf_112 : decode cX7_factOf 112 = .ok (.iload_n 3, 1) := dk_29 (dk_at dksX7_factOf_4 8 rfl rfl)
theorem dX7_factOf_113 : decode cX7_factOf 113 = .ok (.if_icmp .ne 7, 3) := dk_160 0 7 (dk_at dksX7_factOf_4 9 rfl rfl)
theorem dX7_factOf_116 : decode cX7_factOf 116 = .ok (.iconst 1, 1) := dk_4 (dk_at dksX7_factOf_4 12 rfl rfl)
theorem dX7_factOf_117 : decode cX7_factOf 117 = .ok (.goto 4, 3) := dk_167 0 4 (dk_at dksX7_factOf_4 13 rfl rfl)
theorem dX7_factOf_120 : decode cX7_factOf 120 = .ok (.iconst 0, 1) := dk_3 (dk_at dksX7_factOf_4 16 rfl rfl)
theorem dX7_factOf_121 : decode cX7_factOf 121 = .ok (.ireturn, 1) := dk_172 (dk_at dksX7_factOf_4 17 rfl rfl)
theorem dX7_factOf_122 : decode cX7_factOf 122 = .ok (.aload_n 0, 1) := dk_42 (dk_at dksX7_factOf_4 18 rfl rfl)
theorem dX7_factOf_123 : decode cX7_factOf 123 = .ok (.iload 4, 2) := dk_21 4 (dk_at dksX7_factOf_4 19 rfl rfl)
theorem dX7_factOf_125 : decode cX7_factOf 125 = .ok (.bipush 8, 2) := dk_16 8 (dk_at dksX7_factOf_4 21 rfl rfl)
theorem dX7_factOf_127 : decode cX7_factOf 127 = .ok (.invokevirtual 71, 3) := dk_182 0 71 (dk_at dksX7_factOf_5 0 rfl rfl)
theorem dX7_factOf_130 : decode cX7_factOf 130 = .ok (.ireturn, 1) := dk_172 (dk_at dksX7_factOf_5 3 rfl rfl)
theorem dX7_factOf_131 : decode cX7_factOf 131 = .ok (.iload_n 2, 1) := dk_28 (dk_at dksX7_factOf_5 4 rfl rfl)
theorem dX7_factOf_132 : decode cX7_factOf 132 = .ok (.ireturn, 1) := dk_172 (dk_at dksX7_factOf_5 5 rfl rfl)
abbrev cX7_flows : ByteArray := prog_18_method_68_code
def yX7_flows : MethodName := ⟨RX7, "flows", "(III)I"⟩
def dkwX7_flows_2 : List UInt8 := [28, 29, 182, 1, 0, 172]
abbrev dktX7_flows_2 : List UInt8 := dkwX7_flows_2 ++ []
def dkwX7_flows_1 : List UInt8 := [184, 1, 37, 153, 0, 7, 4, 167, 0, 4, 3, 4, 182, 0, 241, 153, 0, 7, 3, 167, 0, 10, 42, 27]
abbrev dktX7_flows_1 : List UInt8 := dkwX7_flows_1 ++ dktX7_flows_2
def dkwX7_flows_0 : List UInt8 := [42, 3, 181, 0, 3, 42, 42, 27, 182, 1, 19, 154, 0, 18, 42, 28, 182, 1, 28, 154, 0, 10, 29]
abbrev dktX7_flows_0 : List UInt8 := dkwX7_flows_0 ++ dktX7_flows_1
theorem dksX7_flows_0 : cX7_flows.data.toList.drop 0 = dktX7_flows_0 := by decide +kernel
theorem dksX7_flows_1 : cX7_flows.data.toList.drop 23 = dktX7_flows_1 := dk_seg dksX7_flows_0 23 rfl rfl
theorem dksX7_flows_2 : cX7_flows.data.toList.drop 47 = dktX7_flows_2 := dk_seg dksX7_flows_1 24 rfl rfl
theorem dX7_flows_0 : decode cX7_flows 0 = .ok (.aload_n 0, 1) := dk_42 (dk_at dksX7_flows_0 0 rfl rfl)
theorem dX7_flows_1 : decode cX7_flows 1 = .ok (.iconst 0, 1) := dk_3 (dk_at dksX7_flows_0 1 rfl rfl)
theorem dX7_flows_2 : decode cX7_flows 2 = .ok (.putfield 3, 3) := dk_181 0 3 (dk_at dksX7_flows_0 2 rfl rfl)
theorem dX7_flows_5 : decode cX7_flows 5 = .ok (.aload_n 0, 1) := dk_42 (dk_at dksX7_flows_0 5 rfl rfl)
theorem dX7_flows_6 : decode cX7_flows 6 = .ok (.aload_n 0, 1) := dk_42 (dk_at dksX7_flows_0 6 rfl rfl)
theorem dX7_flows_7 : decode cX7_flows 7 = .ok (.iload_n 1, 1) := dk_27 (dk_at dksX7_flows_0 7 rfl rfl)
theorem dX7_flows_8 : decode cX7_flows 8 = .ok (.invokevirtual 275, 3) := dk_182 1 19 (dk_at dksX7_flows_0 8 rfl rfl)
theorem dX7_flows_11 : decode cX7_flows 11 = .ok (.ifCond .ne 18, 3) := dk_154 0 18 (dk_at dksX7_flows_0 11 rfl rfl)
theorem dX7_flows_14 : decode cX7_flows 14 = .ok (.aload_n 0, 1) := dk_42 (dk_at dksX7_flows_0 14 rfl rfl)
theorem dX7_flows_15 : decode cX7_flows 15 = .ok (.iload_n 2, 1) := dk_28 (dk_at dksX7_flows_0 15 rfl rfl)
theorem dX7_flows_16 : decode cX7_flows 16 = .ok (.invokevirtual 284, 3) := dk_182 1 28 (dk_at dksX7_flows_0 16 rfl rfl)
theorem dX7_flows_19 : decode cX7_flows 19 = .ok (.ifCond .ne 10, 3) := dk_154 0 10 (dk_at dksX7_flows_0 19 rfl rfl)
theorem dX7_flows_22 : decode cX7_flows 22 = .ok (.iload_n 3, 1) := dk_29 (dk_at dksX7_flows_0 22 rfl rfl)
theorem dX7_flows_23 : decode cX7_flows 23 = .ok (.invokestatic 293, 3) := dk_184 1 37 (dk_at dksX7_flows_1 0 rfl rfl)
theorem dX7_flows_26 : decode cX7_flows 26 = .ok (.ifCond .eq 7, 3) := dk_153 0 7 (dk_at dksX7_flows_1 3 rfl rfl)
theorem dX7_flows_29 : decode cX7_flows 29 = .ok (.iconst 1, 1) := dk_4 (dk_at dksX7_flows_1 6 rfl rfl)
theorem dX7_flows_30 : decode cX7_flows 30 = .ok (.goto 4, 3) := dk_167 0 4 (dk_at dksX7_flows_1 7 rfl rfl)
theorem dX7_flows_33 : decode cX7_flows 33 = .ok (.iconst 0, 1) := dk_3 (dk_at dksX7_flows_1 10 rfl rfl)
theorem dX7_flows_34 : decode cX7_flows 34 = .ok (.iconst 1, 1) := dk_4 (dk_at dksX7_flows_1 11 rfl rfl)
theorem dX7_flows_35 : decode cX7_flows 35 = .ok (.invokevirtual 241, 3) := dk_182 0 241 (dk_at dksX7_flows_1 12 rfl rfl)
theorem dX7_flows_38 : decode cX7_flows 38 = .ok (.ifCond .eq 7, 3) := dk_153 0 7 (dk_at dksX7_flows_1 15 rfl rfl)
theorem dX7_flows_41 : decode cX7_flows 41 = .ok (.iconst 0, 1) := dk_3 (dk_at dksX7_flows_1 18 rfl rfl)
theorem dX7_flows_42 : decode cX7_flows 42 = .ok (.goto 10, 3) := dk_167 0 10 (dk_at dksX7_flows_1 19 rfl rfl)
theorem dX7_flows_45 : decode cX7_flows 45 = .ok (.aload_n 0, 1) := dk_42 (dk_at dksX7_flows_1 22 rfl rfl)
theorem dX7_flows_46 : decode cX7_flows 46 = .ok (.iload_n 1, 1) := dk_27 (dk_at dksX7_flows_1 23 rfl rfl)
theorem dX7_flows_47 : decode cX7_flows 47 = .ok (.iload_n 2, 1) := dk_28 (dk_at dksX7_flows_2 0 rfl rfl)
theorem dX7_flows_48 : decode cX7_flows 48 = .ok (.iload_n 3, 1) := dk_29 (dk_at dksX7_flows_2 1 rfl rfl)
theorem dX7_flows_49 : decode cX7_flows 49 = .ok (.invokevirtual 256, 3) := dk_182 1 0 (dk_at dksX7_flows_2 2 rfl rfl)
theorem dX7_flows_52 : decode cX7_flows 52 = .ok (.ireturn, 1) := dk_172 (dk_at dksX7_flows_2 5 rfl rfl)
abbrev cX7_noSort : ByteArray := prog_18_method_21_code
def yX7_noSort : MethodName := ⟨RX7, "noSort", "(I)Z"⟩
def dkwX7_noSort_0 : List UInt8 := [26, 3, 6, 184, 0, 78, 154, 0, 7, 4, 167, 0, 4, 3, 172]
abbrev dktX7_noSort_0 : List UInt8 := dkwX7_noSort_0 ++ []
theorem dksX7_noSort_0 : cX7_noSort.data.toList.drop 0 = dktX7_noSort_0 := by decide +kernel
theorem dX7_noSort_0 : decode cX7_noSort 0 = .ok (.iload_n 0, 1) := dk_26 (dk_at dksX7_noSort_0 0 rfl rfl)
theorem dX7_noSort_1 : decode cX7_noSort 1 = .ok (.iconst 0, 1) := dk_3 (dk_at dksX7_noSort_0 1 rfl rfl)
theorem dX7_noSort_2 : decode cX7_noSort 2 = .ok (.iconst 3, 1) := dk_6 (dk_at dksX7_noSort_0 2 rfl rfl)
theorem dX7_noSort_3 : decode cX7_noSort 3 = .ok (.invokestatic 78, 3) := dk_184 0 78 (dk_at dksX7_noSort_0 3 rfl rfl)
theorem dX7_noSort_6 : decode cX7_noSort 6 = .ok (.ifCond .ne 7, 3) := dk_154 0 7 (dk_at dksX7_noSort_0 6 rfl rfl)
theorem dX7_noSort_9 : decode cX7_noSort 9 = .ok (.iconst 1, 1) := dk_4 (dk_at dksX7_noSort_0 9 rfl rfl)
theorem dX7_noSort_10 : decode cX7_noSort 10 = .ok (.goto 4, 3) := dk_167 0 4 (dk_at dksX7_noSort_0 10 rfl rfl)
theorem dX7_noSort_13 : decode cX7_noSort 13 = .ok (.iconst 0, 1) := dk_3 (dk_at dksX7_noSort_0 13 rfl rfl)
theorem dX7_noSort_14 : decode cX7_noSort 14 = .ok (.ireturn, 1) := dk_172 (dk_at dksX7_noSort_0 14 rfl rfl)
abbrev cX7_lend : ByteArray := prog_18_method_76_code
def yX7_lend : MethodName := ⟨RX7, "lend", "(II)I"⟩
def dkwX7_lend_4 : List UInt8 := [184, 0, 68, 28, 79, 29, 172]
abbrev dktX7_lend_4 : List UInt8 := dkwX7_lend_4 ++ []
def dkwX7_lend_3 : List UInt8 := [153, 0, 5, 3, 172, 42, 182, 1, 77, 42, 27, 8, 182, 0, 71, 62, 42, 180, 0, 13, 27, 8]
abbrev dktX7_lend_3 : List UInt8 := dkwX7_lend_3 ++ dktX7_lend_4
def dkwX7_lend_2 : List UInt8 := [167, 0, 4, 3, 5, 182, 0, 241, 154, 0, 17, 42, 42, 27, 28, 182, 1, 74, 6, 182, 0, 241]
abbrev dktX7_lend_2 : List UInt8 := dkwX7_lend_2 ++ dktX7_lend_3
def dkwX7_lend_1 : List UInt8 := [167, 0, 4, 3, 4, 182, 0, 241, 154, 0, 40, 42, 42, 27, 8, 182, 0, 71, 28, 160, 0, 7, 4]
abbrev dktX7_lend_1 : List UInt8 := dkwX7_lend_1 ++ dktX7_lend_2
def dkwX7_lend_0 : List UInt8 := [42, 3, 181, 0, 3, 42, 42, 27, 182, 1, 28, 154, 0, 11, 42, 28, 182, 1, 19, 153, 0, 7, 4]
abbrev dktX7_lend_0 : List UInt8 := dkwX7_lend_0 ++ dktX7_lend_1
theorem dksX7_lend_0 : cX7_lend.data.toList.drop 0 = dktX7_lend_0 := by decide +kernel
theorem dksX7_lend_1 : cX7_lend.data.toList.drop 23 = dktX7_lend_1 := dk_seg dksX7_lend_0 23 rfl rfl
theorem dksX7_lend_2 : cX7_lend.data.toList.drop 46 = dktX7_lend_2 := dk_seg dksX7_lend_1 23 rfl rfl
theorem dksX7_lend_3 : cX7_lend.data.toList.drop 68 = dktX7_lend_3 := dk_seg dksX7_lend_2 22 rfl rfl
theorem dksX7_lend_4 : cX7_lend.data.toList.drop 90 = dktX7_lend_4 := dk_seg dksX7_lend_3 22 rfl rfl
theorem dX7_lend_0 : decode cX7_lend 0 = .ok (.aload_n 0, 1) := dk_42 (dk_at dksX7_lend_0 0 rfl rfl)
theorem dX7_lend_1 : decode cX7_lend 1 = .ok (.iconst 0, 1) := dk_3 (dk_at dksX7_lend_0 1 rfl rfl)
theorem dX7_lend_2 : decode cX7_lend 2 = .ok (.putfield 3, 3) := dk_181 0 3 (dk_at dksX7_lend_0 2 rfl rfl)
theorem dX7_lend_5 : decode cX7_lend 5 = .ok (.aload_n 0, 1) := dk_42 (dk_at dksX7_lend_0 5 rfl rfl)
theorem dX7_lend_6 : decode cX7_lend 6 = .ok (.aload_n 0, 1) := dk_42 (dk_at dksX7_lend_0 6 rfl rfl)
theorem dX7_lend_7 : decode cX7_lend 7 = .ok (.iload_n 1, 1) := dk_27 (dk_at dksX7_lend_0 7 rfl rfl)
theorem dX7_lend_8 : decode cX7_lend 8 = .ok (.invokevirtual 284, 3) := dk_182 1 28 (dk_at dksX7_lend_0 8 rfl rfl)
theorem dX7_lend_11 : decode cX7_lend 11 = .ok (.ifCond .ne 11, 3) := dk_154 0 11 (dk_at dksX7_lend_0 11 rfl rfl)
theorem dX7_lend_14 : decode cX7_lend 14 = .ok (.aload_n 0, 1) := dk_42 (dk_at dksX7_lend_0 14 rfl rfl)
theorem dX7_lend_15 : decode cX7_lend 15 = .ok (.iload_n 2, 1) := dk_28 (dk_at dksX7_lend_0 15 rfl rfl)
theorem dX7_lend_16 : decode cX7_lend 16 = .ok (.invokevirtual 275, 3) := dk_182 1 19 (dk_at dksX7_lend_0 16 rfl rfl)
theorem dX7_lend_19 : decode cX7_lend 19 = .ok (.ifCond .eq 7, 3) := dk_153 0 7 (dk_at dksX7_lend_0 19 rfl rfl)
theorem dX7_lend_22 : decode cX7_lend 22 = .ok (.iconst 1, 1) := dk_4 (dk_at dksX7_lend_0 22 rfl rfl)
theorem dX7_lend_23 : decode cX7_lend 23 = .ok (.goto 4, 3) := dk_167 0 4 (dk_at dksX7_lend_1 0 rfl rfl)
theorem dX7_lend_26 : decode cX7_lend 26 = .ok (.iconst 0, 1) := dk_3 (dk_at dksX7_lend_1 3 rfl rfl)
theorem dX7_lend_27 : decode cX7_lend 27 = .ok (.iconst 1, 1) := dk_4 (dk_at dksX7_lend_1 4 rfl rfl)
theorem dX7_lend_28 : decode cX7_lend 28 = .ok (.invokevirtual 241, 3) := dk_182 0 241 (dk_at dksX7_lend_1 5 rfl rfl)
theorem dX7_lend_31 : decode cX7_lend 31 = .ok (.ifCond .ne 40, 3) := dk_154 0 40 (dk_at dksX7_lend_1 8 rfl rfl)
theorem dX7_lend_34 : decode cX7_lend 34 = .ok (.aload_n 0, 1) := dk_42 (dk_at dksX7_lend_1 11 rfl rfl)
theorem dX7_lend_35 : decode cX7_lend 35 = .ok (.aload_n 0, 1) := dk_42 (dk_at dksX7_lend_1 12 rfl rfl)
theorem dX7_lend_36 : decode cX7_lend 36 = .ok (.iload_n 1, 1) := dk_27 (dk_at dksX7_lend_1 13 rfl rfl)
theorem dX7_lend_37 : decode cX7_lend 37 = .ok (.iconst 5, 1) := dk_8 (dk_at dksX7_lend_1 14 rfl rfl)
theorem dX7_lend_38 : decode cX7_lend 38 = .ok (.invokevirtual 71, 3) := dk_182 0 71 (dk_at dksX7_lend_1 15 rfl rfl)
theorem dX7_lend_41 : decode cX7_lend 41 = .ok (.iload_n 2, 1) := dk_28 (dk_at dksX7_lend_1 18 rfl rfl)
theorem dX7_lend_42 : decode cX7_lend 42 = .ok (.if_icmp .ne 7, 3) := dk_160 0 7 (dk_at dksX7_lend_1 19 rfl rfl)
theorem dX7_lend_45 : decode cX7_lend 45 = .ok (.iconst 1, 1) := dk_4 (dk_at dksX7_lend_1 22 rfl rfl)
theorem dX7_lend_46 : decode cX7_lend 46 = .ok (.goto 4, 3) := dk_167 0 4 (dk_at dksX7_lend_2 0 rfl rfl)
theorem dX7_lend_49 : decode cX7_lend 49 = .ok (.iconst 0, 1) := dk_3 (dk_at dksX7_lend_2 3 rfl rfl)
theorem dX7_lend_50 : decode cX7_lend 50 = .ok (.iconst 2, 1) := dk_5 (dk_at dksX7_lend_2 4 rfl rfl)
theorem dX7_lend_51 : decode cX7_lend 51 = .ok (.invokevirtual 241, 3) := dk_182 0 241 (dk_at dksX7_lend_2 5 rfl rfl)
theorem dX7_lend_54 : decode cX7_lend 54 = .ok (.ifCond .ne 17, 3) := dk_154 0 17 (dk_at dksX7_lend_2 8 rfl rfl)
theorem dX7_lend_57 : decode cX7_lend 57 = .ok (.aload_n 0, 1) := dk_42 (dk_at dksX7_lend_2 11 rfl rfl)
theorem dX7_lend_58 : decode cX7_lend 58 = .ok (.aload_n 0, 1) := dk_42 (dk_at dksX7_lend_2 12 rfl rfl)
theorem dX7_lend_59 : decode cX7_lend 59 = .ok (.iload_n 1, 1) := dk_27 (dk_at dksX7_lend_2 13 rfl rfl)
theorem dX7_lend_60 : decode cX7_lend 60 = .ok (.iload_n 2, 1) := dk_28 (dk_at dksX7_lend_2 14 rfl rfl)
theorem dX7_lend_61 : decode cX7_lend 61 = .ok (.invokevirtual 330, 3) := dk_182 1 74 (dk_at dksX7_lend_2 15 rfl rfl)
theorem dX7_lend_64 : decode cX7_lend 64 = .ok (.iconst 3, 1) := dk_6 (dk_at dksX7_lend_2 18 rfl rfl)
theorem dX7_lend_65 : decode cX7_lend 65 = .ok (.invokevirtual 241, 3) := dk_182 0 241 (dk_at dksX7_lend_2 19 rfl rfl)
theorem dX7_lend_68 : decode cX7_lend 68 = .ok (.ifCond .eq 5, 3) := dk_153 0 5 (dk_at dksX7_lend_3 0 rfl rfl)
theorem dX7_lend_71 : decode cX7_lend 71 = .ok (.iconst 0, 1) := dk_3 (dk_at dksX7_lend_3 3 rfl rfl)
theorem dX7_lend_72 : decode cX7_lend 72 = .ok (.ireturn, 1) := dk_172 (dk_at dksX7_lend_3 4 rfl rfl)
theorem dX7_lend_73 : decode cX7_lend 73 = .ok (.aload_n 0, 1) := dk_42 (dk_at dksX7_lend_3 5 rfl rfl)
theorem dX7_lend_74 : decode cX7_lend 74 = .ok (.invokevirtual 333, 3) := dk_182 1 77 (dk_at dksX7_lend_3 6 rfl rfl)
theorem dX7_lend_77 : decode cX7_lend 77 = .ok (.aload_n 0, 1) := dk_42 (dk_at dksX7_lend_3 9 rfl rfl)
theorem dX7_lend_78 : decode cX7_lend 78 = .ok (.iload_n 1, 1) := dk_27 (dk_at dksX7_lend_3 10 rfl rfl)
theorem dX7_lend_79 : decode cX7_lend 79 = .ok (.iconst 5, 1) := dk_8 (dk_at dksX7_lend_3 11 rfl rfl)
theorem dX7_lend_80 : decode cX7_lend 80 = .ok (.invokevirtual 71, 3) := dk_182 0 71 (dk_at dksX7_lend_3 12 rfl rfl)
theorem dX7_lend_83 : decode cX7_lend 83 = .ok (.istore_n 3, 1) := dk_62 (dk_at dksX7_lend_3 15 rfl rfl)
theorem dX7_lend_84 : decode cX7_lend 84 = .ok (.aload_n 0, 1) := dk_42 (dk_at dksX7_lend_3 16 rfl rfl)
theorem dX7_lend_85 : decode cX7_lend 85 = .ok (.getfield 13, 3) := dk_180 0 13 (dk_at dksX7_lend_3 17 rfl rfl)
theorem dX7_lend_88 : decode cX7_lend 88 = .ok (.iload_n 1, 1) := dk_27 (dk_at dksX7_lend_3 20 rfl rfl)
theorem dX7_lend_89 : decode cX7_lend 89 = .ok (.iconst 5, 1) := dk_8 (dk_at dksX7_lend_3 21 rfl rfl)
theorem dX7_lend_90 : decode cX7_lend 90 = .ok (.invokestatic 68, 3) := dk_184 0 68 (dk_at dksX7_lend_4 0 rfl rfl)
theorem dX7_lend_93 : decode cX7_lend 93 = .ok (.iload_n 2, 1) := dk_28 (dk_at dksX7_lend_4 3 rfl rfl)
theorem dX7_lend_94 : decode cX7_lend 94 = .ok (.iastore, 1) := dk_79 (dk_at dksX7_lend_4 4 rfl rfl)
theorem dX7_lend_95 : decode cX7_lend 95 = .ok (.iload_n 3, 1) := dk_29 (dk_at dksX7_lend_4 5 rfl rfl)
theorem dX7_lend_96 : decode cX7_lend 96 = .ok (.ireturn, 1) := dk_172 (dk_at dksX7_lend_4 6 rfl rfl)
abbrev cX7_mayNot : ByteArray := prog_18_method_75_code
def yX7_mayNot : MethodName := ⟨RX7, "mayNot", "(II)Z"⟩
def dkwX7_mayNot_2 : List UInt8 := [182, 0, 71, 159, 0, 7, 4, 167, 0, 4, 3, 172]
abbrev dktX7_mayNot_2 : List UInt8 := dkwX7_mayNot_2 ++ []
def dkwX7_mayNot_1 : List UInt8 := [62, 42, 29, 182, 1, 55, 153, 0, 27, 29, 42, 27, 7, 182, 0, 71, 159, 0, 17, 28, 42, 27, 7]
abbrev dktX7_mayNot_1 : List UInt8 := dkwX7_mayNot_1 ++ dktX7_mayNot_2
def dkwX7_mayNot_0 : List UInt8 := [42, 27, 182, 1, 49, 154, 0, 11, 42, 27, 182, 1, 46, 153, 0, 5, 4, 172, 42, 27, 8, 182, 0, 71]
abbrev dktX7_mayNot_0 : List UInt8 := dkwX7_mayNot_0 ++ dktX7_mayNot_1
theorem dksX7_mayNot_0 : cX7_mayNot.data.toList.drop 0 = dktX7_mayNot_0 := by decide +kernel
theorem dksX7_mayNot_1 : cX7_mayNot.data.toList.drop 24 = dktX7_mayNot_1 := dk_seg dksX7_mayNot_0 24 rfl rfl
theorem dksX7_mayNot_2 : cX7_mayNot.data.toList.drop 47 = dktX7_mayNot_2 := dk_seg dksX7_mayNot_1 23 rfl rfl
theorem dX7_mayNot_0 : decode cX7_mayNot 0 = .ok (.aload_n 0, 1) := dk_42 (dk_at dksX7_mayNot_0 0 rfl rfl)
theorem dX7_mayNot_1 : decode cX7_mayNot 1 = .ok (.iload_n 1, 1) := dk_27 (dk_at dksX7_mayNot_0 1 rfl rfl)
theorem dX7_mayNot_2 : decode cX7_mayNot 2 = .ok (.invokevirtual 305, 3) := dk_182 1 49 (dk_at dksX7_mayNot_0 2 rfl rfl)
theorem dX7_mayNot_5 : decode cX7_mayNot 5 = .ok (.ifCond .ne 11, 3) := dk_154 0 11 (dk_at dksX7_mayNot_0 5 rfl rfl)
theorem dX7_mayNot_8 : decode cX7_mayNot 8 = .ok (.aload_n 0, 1) := dk_42 (dk_at dksX7_mayNot_0 8 rfl rfl)
theorem dX7_mayNot_9 : decode cX7_mayNot 9 = .ok (.iload_n 1, 1) := dk_27 (dk_at dksX7_mayNot_0 9 rfl rfl)
theorem dX7_mayNot_10 : decode cX7_mayNot 10 = .ok (.invokevirtual 302, 3) := dk_182 1 46 (dk_at dksX7_mayNot_0 10 rfl rfl)
theorem dX7_mayNot_13 : decode cX7_mayNot 13 = .ok (.ifCond .eq 5, 3) := dk_153 0 5 (dk_at dksX7_mayNot_0 13 rfl rfl)
theorem dX7_mayNot_16 : decode cX7_mayNot 16 = .ok (.iconst 1, 1) := dk_4 (dk_at dksX7_mayNot_0 16 rfl rfl)
theorem dX7_mayNot_17 : decode cX7_mayNot 17 = .ok (.ireturn, 1) := dk_172 (dk_at dksX7_mayNot_0 17 rfl rfl)
theorem dX7_mayNot_18 : decode cX7_mayNot 18 = .ok (.aload_n 0, 1) := dk_42 (dk_at dksX7_mayNot_0 18 rfl rfl)
theorem dX7_mayNot_19 : decode cX7_mayNot 19 = .ok (.iload_n 1, 1) := dk_27 (dk_at dksX7_mayNot_0 19 rfl rfl)
theorem dX7_mayNot_20 : decode cX7_mayNot 20 = .ok (.iconst 5, 1) := dk_8 (dk_at dksX7_mayNot_0 20 rfl rfl)
theorem dX7_mayNot_21 : decode cX7_mayNot 21 = .ok (.invokevirtual 71, 3) := dk_182 0 71 (dk_at dksX7_mayNot_0 21 rfl rfl)
theorem dX7_mayNot_24 : decode cX7_mayNot 24 = .ok (.istore_n 3, 1) := dk_62 (dk_at dksX7_mayNot_1 0 rfl rfl)
theorem dX7_mayNot_25 : decode cX7_mayNot 25 = .ok (.aload_n 0, 1) := dk_42 (dk_at dksX7_mayNot_1 1 rfl rfl)
theorem dX7_mayNot_26 : decode cX7_mayNot 26 = .ok (.iload_n 3, 1) := dk_29 (dk_at dksX7_mayNot_1 2 rfl rfl)
theorem dX7_mayNot_27 : decode cX7_mayNot 27 = .ok (.invokevirtual 311, 3) := dk_182 1 55 (dk_at dksX7_mayNot_1 3 rfl rfl)
theorem dX7_mayNot_30 : decode cX7_mayNot 30 = .ok (.ifCond .eq 27, 3) := dk_153 0 27 (dk_at dksX7_mayNot_1 6 rfl rfl)
theorem dX7_mayNot_33 : decode cX7_mayNot 33 = .ok (.iload_n 3, 1) := dk_29 (dk_at dksX7_mayNot_1 9 rfl rfl)
theorem dX7_mayNot_34 : decode cX7_mayNot 34 = .ok (.aload_n 0, 1) := dk_42 (dk_at dksX7_mayNot_1 10 rfl rfl)
theorem dX7_mayNot_35 : decode cX7_mayNot 35 = .ok (.iload_n 1, 1) := dk_27 (dk_at dksX7_mayNot_1 11 rfl rfl)
theorem dX7_mayNot_36 : decode cX7_mayNot 36 = .ok (.iconst 4, 1) := dk_7 (dk_at dksX7_mayNot_1 12 rfl rfl)
theorem dX7_mayNot_37 : decode cX7_mayNot 37 = .ok (.invokevirtual 71, 3) := dk_182 0 71 (dk_at dksX7_mayNot_1 13 rfl rfl)
theorem dX7_mayNot_40 : decode cX7_mayNot 40 = .ok (.if_icmp .eq 17, 3) := dk_159 0 17 (dk_at dksX7_mayNot_1 16 rfl rfl)
theorem dX7_mayNot_43 : decode cX7_mayNot 43 = .ok (.iload_n 2, 1) := dk_28 (dk_at dksX7_mayNot_1 19 rfl rfl)
theorem dX7_mayNot_44 : decode cX7_mayNot 44 = .ok (.aload_n 0, 1) := dk_42 (dk_at dksX7_mayNot_1 20 rfl rfl)
theorem dX7_mayNot_45 : decode cX7_mayNot 45 = .ok (.iload_n 1, 1) := dk_27 (dk_at dksX7_mayNot_1 21 rfl rfl)
theorem dX7_mayNot_46 : decode cX7_mayNot 46 = .ok (.iconst 4, 1) := dk_7 (dk_at dksX7_mayNot_1 22 rfl rfl)
theorem dX7_mayNot_47 : decode cX7_mayNot 47 = .ok (.invokevirtual 71, 3) := dk_182 0 71 (dk_at dksX7_mayNot_2 0 rfl rfl)
theorem dX7_mayNot_50 : decode cX7_mayNot 50 = .ok (.if_icmp .eq 7, 3) := dk_159 0 7 (dk_at dksX7_mayNot_2 3 rfl rfl)
theorem dX7_mayNot_53 : decode cX7_mayNot 53 = .ok (.iconst 1, 1) := dk_4 (dk_at dksX7_mayNot_2 6 rfl rfl)
theorem dX7_mayNot_54 : decode cX7_mayNot 54 = .ok (.goto 4, 3) := dk_167 0 4 (dk_at dksX7_mayNot_2 7 rfl rfl)
theorem dX7_mayNot_57 : decode cX7_mayNot 57 = .ok (.iconst 0, 1) := dk_3 (dk_at dksX7_mayNot_2 10 rfl rfl)
theorem dX7_mayNot_58 : decode cX7_mayNot 58 = .ok (.ireturn, 1) := dk_172 (dk_at dksX7_mayNot_2 11 rfl rfl)
abbrev cX7_isPawned : ByteArray := prog_18_method_17_code
def yX7_isPawned : MethodName := ⟨RX7, "isPawned", "(I)Z"⟩
def dkwX7_isPawned_0 : List UInt8 := [42, 27, 8, 182, 0, 71, 2, 160, 0, 7, 4, 167, 0, 4, 3, 172]
abbrev dktX7_isPawned_0 : List UInt8 := dkwX7_isPawned_0 ++ []
theorem dksX7_isPawned_0 : cX7_isPawned.data.toList.drop 0 = dktX7_isPawned_0 := by decide +kernel
theorem dX7_isPawned_0 : decode cX7_isPawned 0 = .ok (.aload_n 0, 1) := dk_42 (dk_at dksX7_isPawned_0 0 rfl rfl)
theorem dX7_isPawned_1 : decode cX7_isPawned 1 = .ok (.iload_n 1, 1) := dk_27 (dk_at dksX7_isPawned_0 1 rfl rfl)
theorem dX7_isPawned_2 : decode cX7_isPawned 2 = .ok (.iconst 5, 1) := dk_8 (dk_at dksX7_isPawned_0 2 rfl rfl)
theorem dX7_isPawned_3 : decode cX7_isPawned 3 = .ok (.invokevirtual 71, 3) := dk_182 0 71 (dk_at dksX7_isPawned_0 3 rfl rfl)
theorem dX7_isPawned_6 : decode cX7_isPawned 6 = .ok (.iconst (-1), 1) := dk_2 (dk_at dksX7_isPawned_0 6 rfl rfl)
theorem dX7_isPawned_7 : decode cX7_isPawned 7 = .ok (.if_icmp .ne 7, 3) := dk_160 0 7 (dk_at dksX7_isPawned_0 7 rfl rfl)
theorem dX7_isPawned_10 : decode cX7_isPawned 10 = .ok (.iconst 1, 1) := dk_4 (dk_at dksX7_isPawned_0 10 rfl rfl)
theorem dX7_isPawned_11 : decode cX7_isPawned 11 = .ok (.goto 4, 3) := dk_167 0 4 (dk_at dksX7_isPawned_0 11 rfl rfl)
theorem dX7_isPawned_14 : decode cX7_isPawned 14 = .ok (.iconst 0, 1) := dk_3 (dk_at dksX7_isPawned_0 14 rfl rfl)
theorem dX7_isPawned_15 : decode cX7_isPawned 15 = .ok (.ireturn, 1) := dk_172 (dk_at dksX7_isPawned_0 15 rfl rfl)
abbrev cX7_isStuck : ByteArray := prog_18_method_18_code
def yX7_isStuck : MethodName := ⟨RX7, "isStuck", "(I)Z"⟩
def dkwX7_isStuck_0 : List UInt8 := [42, 27, 16, 7, 182, 0, 71, 4, 160, 0, 7, 4, 167, 0, 4, 3, 172]
abbrev dktX7_isStuck_0 : List UInt8 := dkwX7_isStuck_0 ++ []
theorem dksX7_isStuck_0 : cX7_isStuck.data.toList.drop 0 = dktX7_isStuck_0 := by decide +kernel
theorem dX7_isStuck_0 : decode cX7_isStuck 0 = .ok (.aload_n 0, 1) := dk_42 (dk_at dksX7_isStuck_0 0 rfl rfl)
theorem dX7_isStuck_1 : decode cX7_isStuck 1 = .ok (.iload_n 1, 1) := dk_27 (dk_at dksX7_isStuck_0 1 rfl rfl)
theorem dX7_isStuck_2 : decode cX7_isStuck 2 = .ok (.bipush 7, 2) := dk_16 7 (dk_at dksX7_isStuck_0 2 rfl rfl)
theorem dX7_isStuck_4 : decode cX7_isStuck 4 = .ok (.invokevirtual 71, 3) := dk_182 0 71 (dk_at dksX7_isStuck_0 4 rfl rfl)
theorem dX7_isStuck_7 : decode cX7_isStuck 7 = .ok (.iconst 1, 1) := dk_4 (dk_at dksX7_isStuck_0 7 rfl rfl)
theorem dX7_isStuck_8 : decode cX7_isStuck 8 = .ok (.if_icmp .ne 7, 3) := dk_160 0 7 (dk_at dksX7_isStuck_0 8 rfl rfl)
theorem dX7_isStuck_11 : decode cX7_isStuck 11 = .ok (.iconst 1, 1) := dk_4 (dk_at dksX7_isStuck_0 11 rfl rfl)
theorem dX7_isStuck_12 : decode cX7_isStuck 12 = .ok (.goto 4, 3) := dk_167 0 4 (dk_at dksX7_isStuck_0 12 rfl rfl)
theorem dX7_isStuck_15 : decode cX7_isStuck 15 = .ok (.iconst 0, 1) := dk_3 (dk_at dksX7_isStuck_0 15 rfl rfl)
theorem dX7_isStuck_16 : decode cX7_isStuck 16 = .ok (.ireturn, 1) := dk_172 (dk_at dksX7_isStuck_0 16 rfl rfl)
abbrev cX7_isWidow : ByteArray := prog_18_method_14_code
def yX7_isWidow : MethodName := ⟨RX7, "isWidow", "(I)Z"⟩
def dkwX7_isWidow_0 : List UInt8 := [42, 27, 16, 6, 182, 0, 65, 4, 160, 0, 7, 4, 167, 0, 4, 3, 172]
abbrev dktX7_isWidow_0 : List UInt8 := dkwX7_isWidow_0 ++ []
theorem dksX7_isWidow_0 : cX7_isWidow.data.toList.drop 0 = dktX7_isWidow_0 := by decide +kernel
theorem dX7_isWidow_0 : decode cX7_isWidow 0 = .ok (.aload_n 0, 1) := dk_42 (dk_at dksX7_isWidow_0 0 rfl rfl)
theorem dX7_isWidow_1 : decode cX7_isWidow 1 = .ok (.iload_n 1, 1) := dk_27 (dk_at dksX7_isWidow_0 1 rfl rfl)
theorem dX7_isWidow_2 : decode cX7_isWidow 2 = .ok (.bipush 6, 2) := dk_16 6 (dk_at dksX7_isWidow_0 2 rfl rfl)
theorem dX7_isWidow_4 : decode cX7_isWidow 4 = .ok (.invokevirtual 65, 3) := dk_182 0 65 (dk_at dksX7_isWidow_0 4 rfl rfl)
theorem dX7_isWidow_7 : decode cX7_isWidow 7 = .ok (.iconst 1, 1) := dk_4 (dk_at dksX7_isWidow_0 7 rfl rfl)
theorem dX7_isWidow_8 : decode cX7_isWidow 8 = .ok (.if_icmp .ne 7, 3) := dk_160 0 7 (dk_at dksX7_isWidow_0 8 rfl rfl)
theorem dX7_isWidow_11 : decode cX7_isWidow 11 = .ok (.iconst 1, 1) := dk_4 (dk_at dksX7_isWidow_0 11 rfl rfl)
theorem dX7_isWidow_12 : decode cX7_isWidow 12 = .ok (.goto 4, 3) := dk_167 0 4 (dk_at dksX7_isWidow_0 12 rfl rfl)
theorem dX7_isWidow_15 : decode cX7_isWidow 15 = .ok (.iconst 0, 1) := dk_3 (dk_at dksX7_isWidow_0 15 rfl rfl)
theorem dX7_isWidow_16 : decode cX7_isWidow 16 = .ok (.ireturn, 1) := dk_172 (dk_at dksX7_isWidow_0 16 rfl rfl)
abbrev cX7_remembers : ByteArray := prog_18_method_8_code
def yX7_remembers : MethodName := ⟨RX7, "remembers", "()V"⟩
def dkwX7_remembers_3 : List UInt8 := [180, 0, 58, 4, 100, 104, 27, 96, 42, 180, 0, 13, 27, 46, 79, 132, 1, 1, 167, 255, 223, 177]
abbrev dktX7_remembers_3 : List UInt8 := dkwX7_remembers_3 ++ []
def dkwX7_remembers_2 : List UInt8 := [4, 96, 181, 0, 58, 3, 60, 27, 17, 1, 121, 162, 0, 32, 42, 180, 0, 26, 17, 1, 121, 42]
abbrev dktX7_remembers_2 : List UInt8 := dkwX7_remembers_2 ++ dktX7_remembers_3
def dkwX7_remembers_1 : List UInt8 := [180, 0, 26, 27, 17, 1, 121, 96, 46, 79, 132, 1, 1, 167, 255, 230, 167, 0, 13, 42, 89, 180, 0, 58]
abbrev dktX7_remembers_1 : List UInt8 := dkwX7_remembers_1 ++ dktX7_remembers_2
def dkwX7_remembers_0 : List UInt8 := [42, 180, 0, 58, 16, 12, 160, 0, 37, 3, 60, 27, 17, 16, 51, 162, 0, 25, 42, 180, 0, 26, 27, 42]
abbrev dktX7_remembers_0 : List UInt8 := dkwX7_remembers_0 ++ dktX7_remembers_1
theorem dksX7_remembers_0 : cX7_remembers.data.toList.drop 0 = dktX7_remembers_0 := by decide +kernel
theorem dksX7_remembers_1 : cX7_remembers.data.toList.drop 24 = dktX7_remembers_1 := dk_seg dksX7_remembers_0 24 rfl rfl
theorem dksX7_remembers_2 : cX7_remembers.data.toList.drop 48 = dktX7_remembers_2 := dk_seg dksX7_remembers_1 24 rfl rfl
theorem dksX7_remembers_3 : cX7_remembers.data.toList.drop 70 = dktX7_remembers_3 := dk_seg dksX7_remembers_2 22 rfl rfl
theorem dX7_remembers_0 : decode cX7_remembers 0 = .ok (.aload_n 0, 1) := dk_42 (dk_at dksX7_remembers_0 0 rfl rfl)
theorem dX7_remembers_1 : decode cX7_remembers 1 = .ok (.getfield 58, 3) := dk_180 0 58 (dk_at dksX7_remembers_0 1 rfl rfl)
theorem dX7_remembers_4 : decode cX7_remembers 4 = .ok (.bipush 12, 2) := dk_16 12 (dk_at dksX7_remembers_0 4 rfl rfl)
theorem dX7_remembers_6 : decode cX7_remembers 6 = .ok (.if_icmp .ne 37, 3) := dk_160 0 37 (dk_at dksX7_remembers_0 6 rfl rfl)
theorem dX7_remembers_9 : decode cX7_remembers 9 = .ok (.iconst 0, 1) := dk_3 (dk_at dksX7_remembers_0 9 rfl rfl)
theorem dX7_remembers_10 : decode cX7_remembers 10 = .ok (.istore_n 1, 1) := dk_60 (dk_at dksX7_remembers_0 10 rfl rfl)
theorem dX7_remembers_11 : decode cX7_remembers 11 = .ok (.iload_n 1, 1) := dk_27 (dk_at dksX7_remembers_0 11 rfl rfl)
theorem dX7_remembers_12 : decode cX7_remembers 12 = .ok (.sipush 4147, 3) := dk_17 16 51 (dk_at dksX7_remembers_0 12 rfl rfl)
theorem dX7_remembers_15 : decode cX7_remembers 15 = .ok (.if_icmp .ge 25, 3) := dk_162 0 25 (dk_at dksX7_remembers_0 15 rfl rfl)
theorem dX7_remembers_18 : decode cX7_remembers 18 = .ok (.aload_n 0, 1) := dk_42 (dk_at dksX7_remembers_0 18 rfl rfl)
theorem dX7_remembers_19 : decode cX7_remembers 19 = .ok (.getfield 26, 3) := dk_180 0 26 (dk_at dksX7_remembers_0 19 rfl rfl)
theorem dX7_remembers_22 : decode cX7_remembers 22 = .ok (.iload_n 1, 1) := dk_27 (dk_at dksX7_remembers_0 22 rfl rfl)
theorem dX7_remembers_23 : decode cX7_remembers 23 = .ok (.aload_n 0, 1) := dk_42 (dk_at dksX7_remembers_0 23 rfl rfl)
theorem dX7_remembers_24 : decode cX7_remembers 24 = .ok (.getfield 26, 3) := dk_180 0 26 (dk_at dksX7_remembers_1 0 rfl rfl)
theorem dX7_remembers_27 : decode cX7_remembers 27 = .ok (.iload_n 1, 1) := dk_27 (dk_at dksX7_remembers_1 3 rfl rfl)
theorem dX7_remembers_28 : decode cX7_remembers 28 = .ok (.sipush 377, 3) := dk_17 1 121 (dk_at dksX7_remembers_1 4 rfl rfl)
theorem dX7_remembers_31 : decode cX7_remembers 31 = .ok (.iadd, 1) := dk_96 (dk_at dksX7_remembers_1 7 rfl rfl)
theorem dX7_remembers_32 : decode cX7_remembers 32 = .ok (.iaload, 1) := dk_46 (dk_at dksX7_remembers_1 8 rfl rfl)
theorem dX7_remembers_33 : decode cX7_remembers 33 = .ok (.iastore, 1) := dk_79 (dk_at dksX7_remembers_1 9 rfl rfl)
theorem dX7_remembers_34 : decode cX7_remembers 34 = .ok (.iinc 1 1, 3) := dk_132 1 1 (dk_at dksX7_remembers_1 10 rfl rfl)
theorem dX7_remembers_37 : decode cX7_remembers 37 = .ok (.goto (-26), 3) := dk_167 255 230 (dk_at dksX7_remembers_1 13 rfl rfl)
theorem dX7_remembers_40 : decode cX7_remembers 40 = .ok (.goto 13, 3) := dk_167 0 13 (dk_at dksX7_remembers_1 16 rfl rfl)
theorem dX7_remembers_43 : decode cX7_remembers 43 = .ok (.aload_n 0, 1) := dk_42 (dk_at dksX7_remembers_1 19 rfl rfl)
theorem dX7_remembers_44 : decode cX7_remembers 44 = .ok (.dup, 1) := dk_89 (dk_at dksX7_remembers_1 20 rfl rfl)
theorem dX7_remembers_45 : decode cX7_remembers 45 = .ok (.getfield 58, 3) := dk_180 0 58 (dk_at dksX7_remembers_1 21 rfl rfl)
theorem dX7_remembers_48 : decode cX7_remembers 48 = .ok (.iconst 1, 1) := dk_4 (dk_at dksX7_remembers_2 0 rfl rfl)
theorem dX7_remembers_49 : decode cX7_remembers 49 = .ok (.iadd, 1) := dk_96 (dk_at dksX7_remembers_2 1 rfl rfl)
theorem dX7_remembers_50 : decode cX7_remembers 50 = .ok (.putfield 58, 3) := dk_181 0 58 (dk_at dksX7_remembers_2 2 rfl rfl)
theorem dX7_remembers_53 : decode cX7_remembers 53 = .ok (.iconst 0, 1) := dk_3 (dk_at dksX7_remembers_2 5 rfl rfl)
theorem dX7_remembers_54 : decode cX7_remembers 54 = .ok (.istore_n 1, 1) := dk_60 (dk_at dksX7_remembers_2 6 rfl rfl)
theorem dX7_remembers_55 : decode cX7_remembers 55 = .ok (.iload_n 1, 1) := dk_27 (dk_at dksX7_remembers_2 7 rfl rfl)
theorem dX7_remembers_56 : decode cX7_remembers 56 = .ok (.sipush 377, 3) := dk_17 1 121 (dk_at dksX7_remembers_2 8 rfl rfl)
theorem dX7_remembers_59 : decode cX7_remembers 59 = .ok (.if_icmp .ge 32, 3) := dk_162 0 32 (dk_at dksX7_remembers_2 11 rfl rfl)
theorem dX7_remembers_62 : decode cX7_remembers 62 = .ok (.aload_n 0, 1) := dk_42 (dk_at dksX7_remembers_2 14 rfl rfl)
theorem dX7_remembers_63 : decode cX7_remembers 63 = .ok (.getfield 26, 3) := dk_180 0 26 (dk_at dksX7_remembers_2 15 rfl rfl)
theorem dX7_remembers_66 : decode cX7_remembers 66 = .ok (.sipush 377, 3) := dk_17 1 121 (dk_at dksX7_remembers_2 18 rfl rfl)
theorem dX7_remembers_69 : decode cX7_remembers 69 = .ok (.aload_n 0, 1) := dk_42 (dk_at dksX7_remembers_2 21 rfl rfl)
theorem dX7_remembers_70 : decode cX7_remembers 70 = .ok (.getfield 58, 3) := dk_180 0 58 (dk_at dksX7_remembers_3 0 rfl rfl)
theorem dX7_remembers_73 : decode cX7_remembers 73 = .ok (.iconst 1, 1) := dk_4 (dk_at dksX7_remembers_3 3 rfl rfl)
theorem dX7_remembers_74 : decode cX7_remembers 74 = .ok (.isub, 1) := dk_100 (dk_at dksX7_remembers_3 4 rfl rfl)
theorem dX7_remembers_75 : decode cX7_remembers 75 = .ok (.imul, 1) := dk_104 (dk_at dksX7_remembers_3 5 rfl rfl)
theorem dX7_remembers_76 : decode cX7_remembers 76 = .ok (.iload_n 1, 1) := dk_27 (dk_at dksX7_remembers_3 6 rfl rfl)
theorem dX7_remembers_77 : decode cX7_remembers 77 = .ok (.iadd, 1) := dk_96 (dk_at dksX7_remembers_3 7 rfl rfl)
theorem dX7_remembers_78 : decode cX7_remembers 78 = .ok (.aload_n 0, 1) := dk_42 (dk_at dksX7_remembers_3 8 rfl rfl)
theorem dX7_remembers_79 : decode cX7_remembers 79 = .ok (.getfield 13, 3) := dk_180 0 13 (dk_at dksX7_remembers_3 9 rfl rfl)
theorem dX7_remembers_82 : decode cX7_remembers 82 = .ok (.iload_n 1, 1) := dk_27 (dk_at dksX7_remembers_3 12 rfl rfl)
theorem dX7_remembers_83 : decode cX7_remembers 83 = .ok (.iaload, 1) := dk_46 (dk_at dksX7_remembers_3 13 rfl rfl)
theorem dX7_remembers_84 : decode cX7_remembers 84 = .ok (.iastore, 1) := dk_79 (dk_at dksX7_remembers_3 14 rfl rfl)
theorem dX7_remembers_85 : decode cX7_remembers 85 = .ok (.iinc 1 1, 3) := dk_132 1 1 (dk_at dksX7_remembers_3 15 rfl rfl)
theorem dX7_remembers_88 : decode cX7_remembers 88 = .ok (.goto (-33), 3) := dk_167 255 223 (dk_at dksX7_remembers_3 18 rfl rfl)
theorem dX7_remembers_91 : decode cX7_remembers 91 = .ok (.return_, 1) := dk_177 (dk_at dksX7_remembers_3 21 rfl rfl)
abbrev cX7_wed : ByteArray := prog_18_method_77_code
def yX7_wed : MethodName := ⟨RX7, "wed", "(II)I"⟩
def dkwX7_wed_3 : List UInt8 := [42, 27, 28, 29, 182, 1, 67, 29, 172]
abbrev dktX7_wed_3 : List UInt8 := dkwX7_wed_3 ++ []
def dkwX7_wed_2 : List UInt8 := [167, 0, 4, 3, 5, 182, 0, 241, 153, 0, 5, 3, 172, 42, 182, 1, 77, 42, 27, 28, 182, 1, 64, 62]
abbrev dktX7_wed_2 : List UInt8 := dkwX7_wed_2 ++ dktX7_wed_3
def dkwX7_wed_1 : List UInt8 := [167, 0, 4, 3, 4, 182, 0, 241, 154, 0, 26, 42, 42, 28, 8, 182, 0, 71, 27, 159, 0, 7, 4]
abbrev dktX7_wed_1 : List UInt8 := dkwX7_wed_1 ++ dktX7_wed_2
def dkwX7_wed_0 : List UInt8 := [42, 3, 181, 0, 3, 42, 42, 27, 182, 1, 19, 154, 0, 11, 42, 28, 182, 1, 28, 153, 0, 7, 4]
abbrev dktX7_wed_0 : List UInt8 := dkwX7_wed_0 ++ dktX7_wed_1
theorem dksX7_wed_0 : cX7_wed.data.toList.drop 0 = dktX7_wed_0 := by decide +kernel
theorem dksX7_wed_1 : cX7_wed.data.toList.drop 23 = dktX7_wed_1 := dk_seg dksX7_wed_0 23 rfl rfl
theorem dksX7_wed_2 : cX7_wed.data.toList.drop 46 = dktX7_wed_2 := dk_seg dksX7_wed_1 23 rfl rfl
theorem dksX7_wed_3 : cX7_wed.data.toList.drop 70 = dktX7_wed_3 := dk_seg dksX7_wed_2 24 rfl rfl
theorem dX7_wed_0 : decode cX7_wed 0 = .ok (.aload_n 0, 1) := dk_42 (dk_at dksX7_wed_0 0 rfl rfl)
theorem dX7_wed_1 : decode cX7_wed 1 = .ok (.iconst 0, 1) := dk_3 (dk_at dksX7_wed_0 1 rfl rfl)
theorem dX7_wed_2 : decode cX7_wed 2 = .ok (.putfield 3, 3) := dk_181 0 3 (dk_at dksX7_wed_0 2 rfl rfl)
theorem dX7_wed_5 : decode cX7_wed 5 = .ok (.aload_n 0, 1) := dk_42 (dk_at dksX7_wed_0 5 rfl rfl)
theorem dX7_wed_6 : decode cX7_wed 6 = .ok (.aload_n 0, 1) := dk_42 (dk_at dksX7_wed_0 6 rfl rfl)
theorem dX7_wed_7 : decode cX7_wed 7 = .ok (.iload_n 1, 1) := dk_27 (dk_at dksX7_wed_0 7 rfl rfl)
theorem dX7_wed_8 : decode cX7_wed 8 = .ok (.invokevirtual 275, 3) := dk_182 1 19 (dk_at dksX7_wed_0 8 rfl rfl)
theorem dX7_wed_11 : decode cX7_wed 11 = .ok (.ifCond .ne 11, 3) := dk_154 0 11 (dk_at dksX7_wed_0 11 rfl rfl)
theorem dX7_wed_14 : decode cX7_wed 14 = .ok (.aload_n 0, 1) := dk_42 (dk_at dksX7_wed_0 14 rfl rfl)
theorem dX7_wed_15 : decode cX7_wed 15 = .ok (.iload_n 2, 1) := dk_28 (dk_at dksX7_wed_0 15 rfl rfl)
theorem dX7_wed_16 : decode cX7_wed 16 = .ok (.invokevirtual 284, 3) := dk_182 1 28 (dk_at dksX7_wed_0 16 rfl rfl)
theorem dX7_wed_19 : decode cX7_wed 19 = .ok (.ifCond .eq 7, 3) := dk_153 0 7 (dk_at dksX7_wed_0 19 rfl rfl)
theorem dX7_wed_22 : decode cX7_wed 22 = .ok (.iconst 1, 1) := dk_4 (dk_at dksX7_wed_0 22 rfl rfl)
theorem dX7_wed_23 : decode cX7_wed 23 = .ok (.goto 4, 3) := dk_167 0 4 (dk_at dksX7_wed_1 0 rfl rfl)
theorem dX7_wed_26 : decode cX7_wed 26 = .ok (.iconst 0, 1) := dk_3 (dk_at dksX7_wed_1 3 rfl rfl)
theorem dX7_wed_27 : decode cX7_wed 27 = .ok (.iconst 1, 1) := dk_4 (dk_at dksX7_wed_1 4 rfl rfl)
theorem dX7_wed_28 : decode cX7_wed 28 = .ok (.invokevirtual 241, 3) := dk_182 0 241 (dk_at dksX7_wed_1 5 rfl rfl)
theorem dX7_wed_31 : decode cX7_wed 31 = .ok (.ifCond .ne 26, 3) := dk_154 0 26 (dk_at dksX7_wed_1 8 rfl rfl)
theorem dX7_wed_34 : decode cX7_wed 34 = .ok (.aload_n 0, 1) := dk_42 (dk_at dksX7_wed_1 11 rfl rfl)
theorem dX7_wed_35 : decode cX7_wed 35 = .ok (.aload_n 0, 1) := dk_42 (dk_at dksX7_wed_1 12 rfl rfl)
theorem dX7_wed_36 : decode cX7_wed 36 = .ok (.iload_n 2, 1) := dk_28 (dk_at dksX7_wed_1 13 rfl rfl)
theorem dX7_wed_37 : decode cX7_wed 37 = .ok (.iconst 5, 1) := dk_8 (dk_at dksX7_wed_1 14 rfl rfl)
theorem dX7_wed_38 : decode cX7_wed 38 = .ok (.invokevirtual 71, 3) := dk_182 0 71 (dk_at dksX7_wed_1 15 rfl rfl)
theorem dX7_wed_41 : decode cX7_wed 41 = .ok (.iload_n 1, 1) := dk_27 (dk_at dksX7_wed_1 18 rfl rfl)
theorem dX7_wed_42 : decode cX7_wed 42 = .ok (.if_icmp .eq 7, 3) := dk_159 0 7 (dk_at dksX7_wed_1 19 rfl rfl)
theorem dX7_wed_45 : decode cX7_wed 45 = .ok (.iconst 1, 1) := dk_4 (dk_at dksX7_wed_1 22 rfl rfl)
theorem dX7_wed_46 : decode cX7_wed 46 = .ok (.goto 4, 3) := dk_167 0 4 (dk_at dksX7_wed_2 0 rfl rfl)
theorem dX7_wed_49 : decode cX7_wed 49 = .ok (.iconst 0, 1) := dk_3 (dk_at dksX7_wed_2 3 rfl rfl)
theorem dX7_wed_50 : decode cX7_wed 50 = .ok (.iconst 2, 1) := dk_5 (dk_at dksX7_wed_2 4 rfl rfl)
theorem dX7_wed_51 : decode cX7_wed 51 = .ok (.invokevirtual 241, 3) := dk_182 0 241 (dk_at dksX7_wed_2 5 rfl rfl)
theorem dX7_wed_54 : decode cX7_wed 54 = .ok (.ifCond .eq 5, 3) := dk_153 0 5 (dk_at dksX7_wed_2 8 rfl rfl)
theorem dX7_wed_57 : decode cX7_wed 57 = .ok (.iconst 0, 1) := dk_3 (dk_at dksX7_wed_2 11 rfl rfl)
theorem dX7_wed_58 : decode cX7_wed 58 = .ok (.ireturn, 1) := dk_172 (dk_at dksX7_wed_2 12 rfl rfl)
theorem dX7_wed_59 : decode cX7_wed 59 = .ok (.aload_n 0, 1) := dk_42 (dk_at dksX7_wed_2 13 rfl rfl)
theorem dX7_wed_60 : decode cX7_wed 60 = .ok (.invokevirtual 333, 3) := dk_182 1 77 (dk_at dksX7_wed_2 14 rfl rfl)
theorem dX7_wed_63 : decode cX7_wed 63 = .ok (.aload_n 0, 1) := dk_42 (dk_at dksX7_wed_2 17 rfl rfl)
theorem dX7_wed_64 : decode cX7_wed 64 = .ok (.iload_n 1, 1) := dk_27 (dk_at dksX7_wed_2 18 rfl rfl)
theorem dX7_wed_65 : decode cX7_wed 65 = .ok (.iload_n 2, 1) := dk_28 (dk_at dksX7_wed_2 19 rfl rfl)
theorem dX7_wed_66 : decode cX7_wed 66 = .ok (.invokevirtual 320, 3) := dk_182 1 64 (dk_at dksX7_wed_2 20 rfl rfl)
theorem dX7_wed_69 : decode cX7_wed 69 = .ok (.istore_n 3, 1) := dk_62 (dk_at dksX7_wed_2 23 rfl rfl)
theorem dX7_wed_70 : decode cX7_wed 70 = .ok (.aload_n 0, 1) := dk_42 (dk_at dksX7_wed_3 0 rfl rfl)
theorem dX7_wed_71 : decode cX7_wed 71 = .ok (.iload_n 1, 1) := dk_27 (dk_at dksX7_wed_3 1 rfl rfl)
theorem dX7_wed_72 : decode cX7_wed 72 = .ok (.iload_n 2, 1) := dk_28 (dk_at dksX7_wed_3 2 rfl rfl)
theorem dX7_wed_73 : decode cX7_wed 73 = .ok (.iload_n 3, 1) := dk_29 (dk_at dksX7_wed_3 3 rfl rfl)
theorem dX7_wed_74 : decode cX7_wed 74 = .ok (.invokevirtual 323, 3) := dk_182 1 67 (dk_at dksX7_wed_3 4 rfl rfl)
theorem dX7_wed_77 : decode cX7_wed 77 = .ok (.iload_n 3, 1) := dk_29 (dk_at dksX7_wed_3 7 rfl rfl)
theorem dX7_wed_78 : decode cX7_wed 78 = .ok (.ireturn, 1) := dk_172 (dk_at dksX7_wed_3 8 rfl rfl)
abbrev cX7_weds : ByteArray := prog_18_method_69_code
def yX7_weds : MethodName := ⟨RX7, "weds", "(II)I"⟩
def dkwX7_weds_7 : List UInt8 := [184, 0, 61, 16, 9, 42, 27, 8, 182, 0, 65, 4, 96, 184, 1, 10, 79, 29, 172]
abbrev dktX7_weds_7 : List UInt8 := dkwX7_weds_7 ++ []
def dkwX7_weds_6 : List UInt8 := [79, 21, 5, 153, 0, 15, 42, 180, 0, 13, 28, 16, 7, 184, 0, 68, 4, 79, 42, 180, 0, 13, 27, 8]
abbrev dktX7_weds_6 : List UInt8 := dkwX7_weds_6 ++ dktX7_weds_7
def dkwX7_weds_5 : List UInt8 := [180, 0, 13, 28, 16, 6, 184, 0, 68, 16, 99, 42, 28, 16, 6, 182, 0, 71, 21, 4, 96, 184, 1, 10]
abbrev dktX7_weds_5 : List UInt8 := dkwX7_weds_5 ++ dktX7_weds_6
def dkwX7_weds_4 : List UInt8 := [21, 6, 46, 100, 79, 29, 42, 180, 0, 42, 21, 6, 46, 96, 62, 132, 6, 1, 167, 255, 195, 42]
abbrev dktX7_weds_4 : List UInt8 := dkwX7_weds_4 ++ dktX7_weds_5
def dkwX7_weds_3 : List UInt8 := [180, 0, 42, 21, 6, 46, 96, 79, 42, 180, 0, 13, 28, 21, 6, 184, 0, 68, 92, 46, 42, 180, 0, 42]
abbrev dktX7_weds_3 : List UInt8 := dkwX7_weds_3 ++ dktX7_weds_4
def dkwX7_weds_2 : List UInt8 := [3, 54, 6, 21, 6, 7, 162, 0, 61, 42, 180, 0, 13, 27, 21, 6, 184, 0, 61, 92, 46, 42]
abbrev dktX7_weds_2 : List UInt8 := dkwX7_weds_2 ++ dktX7_weds_3
def dkwX7_weds_1 : List UInt8 := [162, 0, 24, 42, 180, 0, 42, 21, 6, 42, 27, 28, 21, 6, 182, 1, 13, 79, 132, 6, 1, 167, 255, 232]
abbrev dktX7_weds_1 : List UInt8 := dkwX7_weds_1 ++ dktX7_weds_2
def dkwX7_weds_0 : List UInt8 := [3, 62, 42, 27, 28, 182, 1, 40, 54, 4, 42, 27, 28, 182, 1, 43, 54, 5, 3, 54, 6, 21, 6, 7]
abbrev dktX7_weds_0 : List UInt8 := dkwX7_weds_0 ++ dktX7_weds_1
theorem dksX7_weds_0 : cX7_weds.data.toList.drop 0 = dktX7_weds_0 := by decide +kernel
theorem dksX7_weds_1 : cX7_weds.data.toList.drop 24 = dktX7_weds_1 := dk_seg dksX7_weds_0 24 rfl rfl
theorem dksX7_weds_2 : cX7_weds.data.toList.drop 48 = dktX7_weds_2 := dk_seg dksX7_weds_1 24 rfl rfl
theorem dksX7_weds_3 : cX7_weds.data.toList.drop 70 = dktX7_weds_3 := dk_seg dksX7_weds_2 22 rfl rfl
theorem dksX7_weds_4 : cX7_weds.data.toList.drop 94 = dktX7_weds_4 := dk_seg dksX7_weds_3 24 rfl rfl
theorem dksX7_weds_5 : cX7_weds.data.toList.drop 116 = dktX7_weds_5 := dk_seg dksX7_weds_4 22 rfl rfl
theorem dksX7_weds_6 : cX7_weds.data.toList.drop 140 = dktX7_weds_6 := dk_seg dksX7_weds_5 24 rfl rfl
theorem dksX7_weds_7 : cX7_weds.data.toList.drop 164 = dktX7_weds_7 := dk_seg dksX7_weds_6 24 rfl rfl
theorem dX7_weds_0 : decode cX7_weds 0 = .ok (.iconst 0, 1) := dk_3 (dk_at dksX7_weds_0 0 rfl rfl)
theorem dX7_weds_1 : decode cX7_weds 1 = .ok (.istore_n 3, 1) := dk_62 (dk_at dksX7_weds_0 1 rfl rfl)
theorem dX7_weds_2 : decode cX7_weds 2 = .ok (.aload_n 0, 1) := dk_42 (dk_at dksX7_weds_0 2 rfl rfl)
theorem dX7_weds_3 : decode cX7_weds 3 = .ok (.iload_n 1, 1) := dk_27 (dk_at dksX7_weds_0 3 rfl rfl)
theorem dX7_weds_4 : decode cX7_weds 4 = .ok (.iload_n 2, 1) := dk_28 (dk_at dksX7_weds_0 4 rfl rfl)
theorem dX7_weds_5 : decode cX7_weds 5 = .ok (.invokevirtual 296, 3) := dk_182 1 40 (dk_at dksX7_weds_0 5 rfl rfl)
theorem dX7_weds_8 : decode cX7_weds 8 = .ok (.istore 4, 2) := dk_54 4 (dk_at dksX7_weds_0 8 rfl rfl)
theorem dX7_weds_10 : decode cX7_weds 10 = .ok (.aload_n 0, 1) := dk_42 (dk_at dksX7_weds_0 10 rfl rfl)
theorem dX7_weds_11 : decode cX7_weds 11 = .ok (.iload_n 1, 1) := dk_27 (dk_at dksX7_weds_0 11 rfl rfl)
theorem dX7_weds_12 : decode cX7_weds 12 = .ok (.iload_n 2, 1) := dk_28 (dk_at dksX7_weds_0 12 rfl rfl)
theorem dX7_weds_13 : decode cX7_weds 13 = .ok (.invokevirtual 299, 3) := dk_182 1 43 (dk_at dksX7_weds_0 13 rfl rfl)
theorem dX7_weds_16 : decode cX7_weds 16 = .ok (.istore 5, 2) := dk_54 5 (dk_at dksX7_weds_0 16 rfl rfl)
theorem dX7_weds_18 : decode cX7_weds 18 = .ok (.iconst 0, 1) := dk_3 (dk_at dksX7_weds_0 18 rfl rfl)
theorem dX7_weds_19 : decode cX7_weds 19 = .ok (.istore 6, 2) := dk_54 6 (dk_at dksX7_weds_0 19 rfl rfl)
theorem dX7_weds_21 : decode cX7_weds 21 = .ok (.iload 6, 2) := dk_21 6 (dk_at dksX7_weds_0 21 rfl rfl)
theorem dX7_weds_23 : decode cX7_weds 23 = .ok (.iconst 4, 1) := dk_7 (dk_at dksX7_weds_0 23 rfl rfl)
theorem dX7_weds_24 : decode cX7_weds 24 = .ok (.if_icmp .ge 24, 3) := dk_162 0 24 (dk_at dksX7_weds_1 0 rfl rfl)
theorem dX7_weds_27 : decode cX7_weds 27 = .ok (.aload_n 0, 1) := dk_42 (dk_at dksX7_weds_1 3 rfl rfl)
theorem dX7_weds_28 : decode cX7_weds 28 = .ok (.getfield 42, 3) := dk_180 0 42 (dk_at dksX7_weds_1 4 rfl rfl)
theorem dX7_weds_31 : decode cX7_weds 31 = .ok (.iload 6, 2) := dk_21 6 (dk_at dksX7_weds_1 7 rfl rfl)
theorem dX7_weds_33 : decode cX7_weds 33 = .ok (.aload_n 0, 1) := dk_42 (dk_at dksX7_weds_1 9 rfl rfl)
theorem dX7_weds_34 : decode cX7_weds 34 = .ok (.iload_n 1, 1) := dk_27 (dk_at dksX7_weds_1 10 rfl rfl)
theorem dX7_weds_35 : decode cX7_weds 35 = .ok (.iload_n 2, 1) := dk_28 (dk_at dksX7_weds_1 11 rfl rfl)
theorem dX7_weds_36 : decode cX7_weds 36 = .ok (.iload 6, 2) := dk_21 6 (dk_at dksX7_weds_1 12 rfl rfl)
theorem dX7_weds_38 : decode cX7_weds 38 = .ok (.invokevirtual 269, 3) := dk_182 1 13 (dk_at dksX7_weds_1 14 rfl rfl)
theorem dX7_weds_41 : decode cX7_weds 41 = .ok (.iastore, 1) := dk_79 (dk_at dksX7_weds_1 17 rfl rfl)
theorem dX7_weds_42 : decode cX7_weds 42 = .ok (.iinc 6 1, 3) := dk_132 6 1 (dk_at dksX7_weds_1 18 rfl rfl)
theorem dX7_weds_45 : decode cX7_weds 45 = .ok (.goto (-24), 3) := dk_167 255 232 (dk_at dksX7_weds_1 21 rfl rfl)
theorem dX7_weds_48 : decode cX7_weds 48 = .ok (.iconst 0, 1) := dk_3 (dk_at dksX7_weds_2 0 rfl rfl)
theorem dX7_weds_49 : decode cX7_weds 49 = .ok (.istore 6, 2) := dk_54 6 (dk_at dksX7_weds_2 1 rfl rfl)
theorem dX7_weds_51 : decode cX7_weds 51 = .ok (.iload 6, 2) := dk_21 6 (dk_at dksX7_weds_2 3 rfl rfl)
theorem dX7_weds_53 : decode cX7_weds 53 = .ok (.iconst 4, 1) := dk_7 (dk_at dksX7_weds_2 5 rfl rfl)
theorem dX7_weds_54 : decode cX7_weds 54 = .ok (.if_icmp .ge 61, 3) := dk_162 0 61 (dk_at dksX7_weds_2 6 rfl rfl)
theorem dX7_weds_57 : decode cX7_weds 57 = .ok (.aload_n 0, 1) := dk_42 (dk_at dksX7_weds_2 9 rfl rfl)
theorem dX7_weds_58 : decode cX7_weds 58 = .ok (.getfield 13, 3) := dk_180 0 13 (dk_at dksX7_weds_2 10 rfl rfl)
theorem dX7_weds_61 : decode cX7_weds 61 = .ok (.iload_n 1, 1) := dk_27 (dk_at dksX7_weds_2 13 rfl rfl)
theorem dX7_weds_62 : decode cX7_weds 62 = .ok (.iload 6, 2) := dk_21 6 (dk_at dksX7_weds_2 14 rfl rfl)
theorem dX7_weds_64 : decode cX7_weds 64 = .ok (.invokestatic 61, 3) := dk_184 0 61 (dk_at dksX7_weds_2 16 rfl rfl)
theorem dX7_weds_67 : decode cX7_weds 67 = .ok (.dup2, 1) := dk_92 (dk_at dksX7_weds_2 19 rfl rfl)
theorem dX7_weds_68 : decode cX7_weds 68 = .ok (.iaload, 1) := dk_46 (dk_at dksX7_weds_2 20 rfl rfl)
theorem dX7_weds_69 : decode cX7_weds 69 = .ok (.aload_n 0, 1) := dk_42 (dk_at dksX7_weds_2 21 rfl rfl)
theorem dX7_weds_70 : decode cX7_weds 70 = .ok (.getfield 42, 3) := dk_180 0 42 (dk_at dksX7_weds_3 0 rfl rfl)
theorem dX7_weds_73 : decode cX7_weds 73 = .ok (.iload 6, 2) := dk_21 6 (dk_at dksX7_weds_3 3 rfl rfl)
theorem dX7_weds_75 : decode cX7_weds 75 = .ok (.iaload, 1) := dk_46 (dk_at dksX7_weds_3 5 rfl rfl)
theorem dX7_weds_76 : decode cX7_weds 76 = .ok (.iadd, 1) := dk_96 (dk_at dksX7_weds_3 6 rfl rfl)
theorem dX7_weds_77 : decode cX7_weds 77 = .ok (.iastore, 1) := dk_79 (dk_at dksX7_weds_3 7 rfl rfl)
theorem dX7_weds_78 : decode cX7_weds 78 = .ok (.aload_n 0, 1) := dk_42 (dk_at dksX7_weds_3 8 rfl rfl)
theorem dX7_weds_79 : decode cX7_weds 79 = .ok (.getfield 13, 3) := dk_180 0 13 (dk_at dksX7_weds_3 9 rfl rfl)
theorem dX7_weds_82 : decode cX7_weds 82 = .ok (.iload_n 2, 1) := dk_28 (dk_at dksX7_weds_3 12 rfl rfl)
theorem dX7_weds_83 : decode cX7_weds 83 = .ok (.iload 6, 2) := dk_21 6 (dk_at dksX7_weds_3 13 rfl rfl)
theorem dX7_weds_85 : decode cX7_weds 85 = .ok (.invokestatic 68, 3) := dk_184 0 68 (dk_at dksX7_weds_3 15 rfl rfl)
theorem dX7_weds_88 : decode cX7_weds 88 = .ok (.dup2, 1) := dk_92 (dk_at dksX7_weds_3 18 rfl rfl)
theorem dX7_weds_89 : decode cX7_weds 89 = .ok (.iaload, 1) := dk_46 (dk_at dksX7_weds_3 19 rfl rfl)
theorem dX7_weds_90 : decode cX7_weds 90 = .ok (.aload_n 0, 1) := dk_42 (dk_at dksX7_weds_3 20 rfl rfl)
theorem dX7_weds_91 : decode cX7_weds 91 = .ok (.getfield 42, 3) := dk_180 0 42 (dk_at dksX7_weds_3 21 rfl rfl)
theorem dX7_weds_94 : decode cX7_weds 94 = .ok (.iload 6, 2) := dk_21 6 (dk_at dksX7_weds_4 0 rfl rfl)
theorem dX7_weds_96 : decode cX7_weds 96 = .ok (.iaload, 1) := dk_46 (dk_at dksX7_weds_4 2 rfl rfl)
theorem dX7_weds_97 : decode cX7_weds 97 = .ok (.isub, 1) := dk_100 (dk_at dksX7_weds_4 3 rfl rfl)
theorem dX7_weds_98 : decode cX7_weds 98 = .ok (.iastore, 1) := dk_79 (dk_at dksX7_weds_4 4 rfl rfl)
theorem dX7_weds_99 : decode cX7_weds 99 = .ok (.iload_n 3, 1) := dk_29 (dk_at dksX7_weds_4 5 rfl rfl)
theorem dX7_weds_100 : decode cX7_weds 100 = .ok (.aload_n 0, 1) := dk_42 (dk_at dksX7_weds_4 6 rfl rfl)
theorem dX7_weds_101 : decode cX7_weds 101 = .ok (.getfield 42, 3) := dk_180 0 42 (dk_at dksX7_weds_4 7 rfl rfl)
theorem dX7_weds_104 : decode cX7_weds 104 = .ok (.iload 6, 2) := dk_21 6 (dk_at dksX7_weds_4 10 rfl rfl)
theorem dX7_weds_106 : decode cX7_weds 106 = .ok (.iaload, 1) := dk_46 (dk_at dksX7_weds_4 12 rfl rfl)
theorem dX7_weds_107 : decode cX7_weds 107 = .ok (.iadd, 1) := dk_96 (dk_at dksX7_weds_4 13 rfl rfl)
theorem dX7_weds_108 : decode cX7_weds 108 = .ok (.istore_n 3, 1) := dk_62 (dk_at dksX7_weds_4 14 rfl rfl)
theorem dX7_weds_109 : decode cX7_weds 109 = .ok (.iinc 6 1, 3) := dk_132 6 1 (dk_at dksX7_weds_4 15 rfl rfl)
theorem dX7_weds_112 : decode cX7_weds 112 = .ok (.goto (-61), 3) := dk_167 255 195 (dk_at dksX7_weds_4 18 rfl rfl)
theorem dX7_weds_115 : decode cX7_weds 115 = .ok (.aload_n 0, 1) := dk_42 (dk_at dksX7_weds_4 21 rfl rfl)
theorem dX7_weds_116 : decode cX7_weds 116 = .ok (.getfield 13, 3) := dk_180 0 13 (dk_at dksX7_weds_5 0 rfl rfl)
theorem dX7_weds_119 : decode cX7_weds 119 = .ok (.iload_n 2, 1) := dk_28 (dk_at dksX7_weds_5 3 rfl rfl)
theorem dX7_weds_120 : decode cX7_weds 120 = .ok (.bipush 6, 2) := dk_16 6 (dk_at dksX7_weds_5 4 rfl rfl)
theorem dX7_weds_122 : decode cX7_weds 122 = .ok (.invokestatic 68, 3) := dk_184 0 68 (dk_at dksX7_weds_5 6 rfl rfl)
theorem dX7_weds_125 : decode cX7_weds 125 = .ok (.bipush 99, 2) := dk_16 99 (dk_at dksX7_weds_5 9 rfl rfl)
theorem dX7_weds_127 : decode cX7_weds 127 = .ok (.aload_n 0, 1) := dk_42 (dk_at dksX7_weds_5 11 rfl rfl)
theorem dX7_weds_128 : decode cX7_weds 128 = .ok (.iload_n 2, 1) := dk_28 (dk_at dksX7_weds_5 12 rfl rfl)
theorem dX7_weds_129 : decode cX7_weds 129 = .ok (.bipush 6, 2) := dk_16 6 (dk_at dksX7_weds_5 13 rfl rfl)
theorem dX7_weds_131 : decode cX7_weds 131 = .ok (.invokevirtual 71, 3) := dk_182 0 71 (dk_at dksX7_weds_5 15 rfl rfl)
theorem dX7_weds_134 : decode cX7_weds 134 = .ok (.iload 4, 2) := dk_21 4 (dk_at dksX7_weds_5 18 rfl rfl)
theorem dX7_weds_136 : decode cX7_weds 136 = .ok (.iadd, 1) := dk_96 (dk_at dksX7_weds_5 20 rfl rfl)
theorem dX7_weds_137 : decode cX7_weds 137 = .ok (.invokestatic 266, 3) := dk_184 1 10 (dk_at dksX7_weds_5 21 rfl rfl)
theorem dX7_weds_140 : decode cX7_weds 140 = .ok (.iastore, 1) := dk_79 (dk_at dksX7_weds_6 0 rfl rfl)
theorem dX7_weds_141 : decode cX7_weds 141 = .ok (.iload 5, 2) := dk_21 5 (dk_at dksX7_weds_6 1 rfl rfl)
theorem dX7_weds_143 : decode cX7_weds 143 = .ok (.ifCond .eq 15, 3) := dk_153 0 15 (dk_at dksX7_weds_6 3 rfl rfl)
theorem dX7_weds_146 : decode cX7_weds 146 = .ok (.aload_n 0, 1) := dk_42 (dk_at dksX7_weds_6 6 rfl rfl)
theorem dX7_weds_147 : decode cX7_weds 147 = .ok (.getfield 13, 3) := dk_180 0 13 (dk_at dksX7_weds_6 7 rfl rfl)
theorem dX7_weds_150 : decode cX7_weds 150 = .ok (.iload_n 2, 1) := dk_28 (dk_at dksX7_weds_6 10 rfl rfl)
theorem dX7_weds_151 : decode cX7_weds 151 = .ok (.bipush 7, 2) := dk_16 7 (dk_at dksX7_weds_6 11 rfl rfl)
theorem dX7_weds_153 : decode cX7_weds 153 = .ok (.invokestatic 68, 3) := dk_184 0 68 (dk_at dksX7_weds_6 13 rfl rfl)
theorem dX7_weds_156 : decode cX7_weds 156 = .ok (.iconst 1, 1) := dk_4 (dk_at dksX7_weds_6 16 rfl rfl)
theorem dX7_weds_157 : decode cX7_weds 157 = .ok (.iastore, 1) := dk_79 (dk_at dksX7_weds_6 17 rfl rfl)
theorem dX7_weds_158 : decode cX7_weds 158 = .ok (.aload_n 0, 1) := dk_42 (dk_at dksX7_weds_6 18 rfl rfl)
theorem dX7_weds_159 : decode cX7_weds 159 = .ok (.getfield 13, 3) := dk_180 0 13 (dk_at dksX7_weds_6 19 rfl rfl)
theorem dX7_weds_162 : decode cX7_weds 162 = .ok (.iload_n 1, 1) := dk_27 (dk_at dksX7_weds_6 22 rfl rfl)
theorem dX7_weds_163 : decode cX7_weds 163 = .ok (.iconst 5, 1) := dk_8 (dk_at dksX7_weds_6 23 rfl rfl)
theorem dX7_weds_164 : decode cX7_weds 164 = .ok (.invokestatic 61, 3) := dk_184 0 61 (dk_at dksX7_weds_7 0 rfl rfl)
theorem dX7_weds_167 : decode cX7_weds 167 = .ok (.bipush 9, 2) := dk_16 9 (dk_at dksX7_weds_7 3 rfl rfl)
theorem dX7_weds_169 : decode cX7_weds 169 = .ok (.aload_n 0, 1) := dk_42 (dk_at dksX7_weds_7 5 rfl rfl)
theorem dX7_weds_170 : decode cX7_weds 170 = .ok (.iload_n 1, 1) := dk_27 (dk_at dksX7_weds_7 6 rfl rfl)
theorem dX7_weds_171 : decode cX7_weds 171 = .ok (.iconst 5, 1) := dk_8 (dk_at dksX7_weds_7 7 rfl rfl)
theorem dX7_weds_172 : decode cX7_weds 172 = .ok (.invokevirtual 65, 3) := dk_182 0 65 (dk_at dksX7_weds_7 8 rfl rfl)
theorem dX7_weds_175 : decode cX7_weds 175 = .ok (.iconst 1, 1) := dk_4 (dk_at dksX7_weds_7 11 rfl rfl)
theorem dX7_weds_176 : decode cX7_weds 176 = .ok (.iadd, 1) := dk_96 (dk_at dksX7_weds_7 12 rfl rfl)
theorem dX7_weds_177 : decode cX7_weds 177 = .ok (.invokestatic 266, 3) := dk_184 1 10 (dk_at dksX7_weds_7 13 rfl rfl)
theorem dX7_weds_180 : decode cX7_weds 180 = .ok (.iastore, 1) := dk_79 (dk_at dksX7_weds_7 16 rfl rfl)
theorem dX7_weds_181 : decode cX7_weds 181 = .ok (.iload_n 3, 1) := dk_29 (dk_at dksX7_weds_7 17 rfl rfl)
theorem dX7_weds_182 : decode cX7_weds 182 = .ok (.ireturn, 1) := dk_172 (dk_at dksX7_weds_7 18 rfl rfl)
abbrev cX7_wearsBy : ByteArray := prog_18_method_57_code
def yX7_wearsBy : MethodName := ⟨RX7, "wearsBy", "(II)I"⟩
def dkwX7_wearsBy_0 : List UInt8 := [4, 42, 4, 27, 28, 3, 182, 0, 252, 96, 172]
abbrev dktX7_wearsBy_0 : List UInt8 := dkwX7_wearsBy_0 ++ []
theorem dksX7_wearsBy_0 : cX7_wearsBy.data.toList.drop 0 = dktX7_wearsBy_0 := by decide +kernel
theorem dX7_wearsBy_0 : decode cX7_wearsBy 0 = .ok (.iconst 1, 1) := dk_4 (dk_at dksX7_wearsBy_0 0 rfl rfl)
theorem dX7_wearsBy_1 : decode cX7_wearsBy 1 = .ok (.aload_n 0, 1) := dk_42 (dk_at dksX7_wearsBy_0 1 rfl rfl)
theorem dX7_wearsBy_2 : decode cX7_wearsBy 2 = .ok (.iconst 1, 1) := dk_4 (dk_at dksX7_wearsBy_0 2 rfl rfl)
theorem dX7_wearsBy_3 : decode cX7_wearsBy 3 = .ok (.iload_n 1, 1) := dk_27 (dk_at dksX7_wearsBy_0 3 rfl rfl)
theorem dX7_wearsBy_4 : decode cX7_wearsBy 4 = .ok (.iload_n 2, 1) := dk_28 (dk_at dksX7_wearsBy_0 4 rfl rfl)
theorem dX7_wearsBy_5 : decode cX7_wearsBy 5 = .ok (.iconst 0, 1) := dk_3 (dk_at dksX7_wearsBy_0 5 rfl rfl)
theorem dX7_wearsBy_6 : decode cX7_wearsBy 6 = .ok (.invokevirtual 252, 3) := dk_182 0 252 (dk_at dksX7_wearsBy_0 6 rfl rfl)
theorem dX7_wearsBy_9 : decode cX7_wearsBy 9 = .ok (.iadd, 1) := dk_96 (dk_at dksX7_wearsBy_0 9 rfl rfl)
theorem dX7_wearsBy_10 : decode cX7_wearsBy 10 = .ok (.ireturn, 1) := dk_172 (dk_at dksX7_wearsBy_0 10 rfl rfl)
abbrev cX7_sticksTo : ByteArray := prog_18_method_58_code
def yX7_sticksTo : MethodName := ⟨RX7, "sticksTo", "(II)Z"⟩
def dkwX7_sticksTo_0 : List UInt8 := [42, 5, 27, 28, 3, 182, 0, 252, 158, 0, 7, 4, 167, 0, 4, 3, 172]
abbrev dktX7_sticksTo_0 : List UInt8 := dkwX7_sticksTo_0 ++ []
theorem dksX7_sticksTo_0 : cX7_sticksTo.data.toList.drop 0 = dktX7_sticksTo_0 := by decide +kernel
theorem dX7_sticksTo_0 : decode cX7_sticksTo 0 = .ok (.aload_n 0, 1) := dk_42 (dk_at dksX7_sticksTo_0 0 rfl rfl)
theorem dX7_sticksTo_1 : decode cX7_sticksTo 1 = .ok (.iconst 2, 1) := dk_5 (dk_at dksX7_sticksTo_0 1 rfl rfl)
theorem dX7_sticksTo_2 : decode cX7_sticksTo 2 = .ok (.iload_n 1, 1) := dk_27 (dk_at dksX7_sticksTo_0 2 rfl rfl)
theorem dX7_sticksTo_3 : decode cX7_sticksTo 3 = .ok (.iload_n 2, 1) := dk_28 (dk_at dksX7_sticksTo_0 3 rfl rfl)
theorem dX7_sticksTo_4 : decode cX7_sticksTo 4 = .ok (.iconst 0, 1) := dk_3 (dk_at dksX7_sticksTo_0 4 rfl rfl)
theorem dX7_sticksTo_5 : decode cX7_sticksTo 5 = .ok (.invokevirtual 252, 3) := dk_182 0 252 (dk_at dksX7_sticksTo_0 5 rfl rfl)
theorem dX7_sticksTo_8 : decode cX7_sticksTo 8 = .ok (.ifCond .le 7, 3) := dk_158 0 7 (dk_at dksX7_sticksTo_0 8 rfl rfl)
theorem dX7_sticksTo_11 : decode cX7_sticksTo 11 = .ok (.iconst 1, 1) := dk_4 (dk_at dksX7_sticksTo_0 11 rfl rfl)
theorem dX7_sticksTo_12 : decode cX7_sticksTo 12 = .ok (.goto 4, 3) := dk_167 0 4 (dk_at dksX7_sticksTo_0 12 rfl rfl)
theorem dX7_sticksTo_15 : decode cX7_sticksTo 15 = .ok (.iconst 0, 1) := dk_3 (dk_at dksX7_sticksTo_0 15 rfl rfl)
theorem dX7_sticksTo_16 : decode cX7_sticksTo 16 = .ok (.ireturn, 1) := dk_172 (dk_at dksX7_sticksTo_0 16 rfl rfl)
abbrev cX7_tells : ByteArray := prog_18_method_70_code
def yX7_tells : MethodName := ⟨RX7, "tells", "(III)V"⟩
def dkwX7_tells_4 : List UInt8 := [180, 0, 13, 16, 7, 46, 4, 96, 184, 1, 10, 79, 177]
abbrev dktX7_tells_4 : List UInt8 := dkwX7_tells_4 ++ []
def dkwX7_tells_3 : List UInt8 := [17, 0, 139, 28, 79, 42, 180, 0, 13, 17, 0, 140, 29, 79, 42, 180, 0, 13, 16, 7, 16, 60, 42]
abbrev dktX7_tells_3 : List UInt8 := dkwX7_tells_3 ++ dktX7_tells_4
def dkwX7_tells_2 : List UInt8 := [17, 0, 137, 42, 180, 0, 13, 7, 46, 79, 42, 180, 0, 13, 17, 0, 138, 27, 79, 42, 180, 0, 13]
abbrev dktX7_tells_2 : List UInt8 := dkwX7_tells_2 ++ dktX7_tells_3
def dkwX7_tells_1 : List UInt8 := [180, 0, 13, 17, 0, 137, 21, 4, 96, 7, 100, 46, 79, 132, 4, 255, 167, 255, 223, 42, 180, 0, 13]
abbrev dktX7_tells_1 : List UInt8 := dkwX7_tells_1 ++ dktX7_tells_2
def dkwX7_tells_0 : List UInt8 := [17, 0, 239, 54, 4, 21, 4, 7, 161, 0, 33, 42, 180, 0, 13, 17, 0, 137, 21, 4, 96, 42]
abbrev dktX7_tells_0 : List UInt8 := dkwX7_tells_0 ++ dktX7_tells_1
theorem dksX7_tells_0 : cX7_tells.data.toList.drop 0 = dktX7_tells_0 := by decide +kernel
theorem dksX7_tells_1 : cX7_tells.data.toList.drop 22 = dktX7_tells_1 := dk_seg dksX7_tells_0 22 rfl rfl
theorem dksX7_tells_2 : cX7_tells.data.toList.drop 45 = dktX7_tells_2 := dk_seg dksX7_tells_1 23 rfl rfl
theorem dksX7_tells_3 : cX7_tells.data.toList.drop 68 = dktX7_tells_3 := dk_seg dksX7_tells_2 23 rfl rfl
theorem dksX7_tells_4 : cX7_tells.data.toList.drop 91 = dktX7_tells_4 := dk_seg dksX7_tells_3 23 rfl rfl
theorem dX7_tells_0 : decode cX7_tells 0 = .ok (.sipush 239, 3) := dk_17 0 239 (dk_at dksX7_tells_0 0 rfl rfl)
theorem dX7_tells_3 : decode cX7_tells 3 = .ok (.istore 4, 2) := dk_54 4 (dk_at dksX7_tells_0 3 rfl rfl)
theorem dX7_tells_5 : decode cX7_tells 5 = .ok (.iload 4, 2) := dk_21 4 (dk_at dksX7_tells_0 5 rfl rfl)
theorem dX7_tells_7 : decode cX7_tells 7 = .ok (.iconst 4, 1) := dk_7 (dk_at dksX7_tells_0 7 rfl rfl)
theorem dX7_tells_8 : decode cX7_tells 8 = .ok (.if_icmp .lt 33, 3) := dk_161 0 33 (dk_at dksX7_tells_0 8 rfl rfl)
theorem dX7_tells_11 : decode cX7_tells 11 = .ok (.aload_n 0, 1) := dk_42 (dk_at dksX7_tells_0 11 rfl rfl)
theorem dX7_tells_12 : decode cX7_tells 12 = .ok (.getfield 13, 3) := dk_180 0 13 (dk_at dksX7_tells_0 12 rfl rfl)
theorem dX7_tells_15 : decode cX7_tells 15 = .ok (.sipush 137, 3) := dk_17 0 137 (dk_at dksX7_tells_0 15 rfl rfl)
theorem dX7_tells_18 : decode cX7_tells 18 = .ok (.iload 4, 2) := dk_21 4 (dk_at dksX7_tells_0 18 rfl rfl)
theorem dX7_tells_20 : decode cX7_tells 20 = .ok (.iadd, 1) := dk_96 (dk_at dksX7_tells_0 20 rfl rfl)
theorem dX7_tells_21 : decode cX7_tells 21 = .ok (.aload_n 0, 1) := dk_42 (dk_at dksX7_tells_0 21 rfl rfl)
theorem dX7_tells_22 : decode cX7_tells 22 = .ok (.getfield 13, 3) := dk_180 0 13 (dk_at dksX7_tells_1 0 rfl rfl)
theorem dX7_tells_25 : decode cX7_tells 25 = .ok (.sipush 137, 3) := dk_17 0 137 (dk_at dksX7_tells_1 3 rfl rfl)
theorem dX7_tells_28 : decode cX7_tells 28 = .ok (.iload 4, 2) := dk_21 4 (dk_at dksX7_tells_1 6 rfl rfl)
theorem dX7_tells_30 : decode cX7_tells 30 = .ok (.iadd, 1) := dk_96 (dk_at dksX7_tells_1 8 rfl rfl)
theorem dX7_tells_31 : decode cX7_tells 31 = .ok (.iconst 4, 1) := dk_7 (dk_at dksX7_tells_1 9 rfl rfl)
theorem dX7_tells_32 : decode cX7_tells 32 = .ok (.isub, 1) := dk_100 (dk_at dksX7_tells_1 10 rfl rfl)
theorem dX7_tells_33 : decode cX7_tells 33 = .ok (.iaload, 1) := dk_46 (dk_at dksX7_tells_1 11 rfl rfl)
theorem dX7_tells_34 : decode cX7_tells 34 = .ok (.iastore, 1) := dk_79 (dk_at dksX7_tells_1 12 rfl rfl)
theorem dX7_tells_35 : decode cX7_tells 35 = .ok (.iinc 4 (-1), 3) := dk_132 4 255 (dk_at dksX7_tells_1 13 rfl rfl)
theorem dX7_tells_38 : decode cX7_tells 38 = .ok (.goto (-33), 3) := dk_167 255 223 (dk_at dksX7_tells_1 16 rfl rfl)
theorem dX7_tells_41 : decode cX7_tells 41 = .ok (.aload_n 0, 1) := dk_42 (dk_at dksX7_tells_1 19 rfl rfl)
theorem dX7_tells_42 : decode cX7_tells 42 = .ok (.getfield 13, 3) := dk_180 0 13 (dk_at dksX7_tells_1 20 rfl rfl)
theorem dX7_tells_45 : decode cX7_tells 45 = .ok (.sipush 137, 3) := dk_17 0 137 (dk_at dksX7_tells_2 0 rfl rfl)
theorem dX7_tells_48 : decode cX7_tells 48 = .ok (.aload_n 0, 1) := dk_42 (dk_at dksX7_tells_2 3 rfl rfl)
theorem dX7_tells_49 : decode cX7_tells 49 = .ok (.getfield 13, 3) := dk_180 0 13 (dk_at dksX7_tells_2 4 rfl rfl)
theorem dX7_tells_52 : decode cX7_tells 52 = .ok (.iconst 4, 1) := dk_7 (dk_at dksX7_tells_2 7 rfl rfl)
theorem dX7_tells_53 : decode cX7_tells 53 = .ok (.iaload, 1) := dk_46 (dk_at dksX7_tells_2 8 rfl rfl)
theorem dX7_tells_54 : decode cX7_tells 54 = .ok (.iastore, 1) := dk_79 (dk_at dksX7_tells_2 9 rfl rfl)
theorem dX7_tells_55 : decode cX7_tells 55 = .ok (.aload_n 0, 1) := dk_42 (dk_at dksX7_tells_2 10 rfl rfl)
theorem dX7_tells_56 : decode cX7_tells 56 = .ok (.getfield 13, 3) := dk_180 0 13 (dk_at dksX7_tells_2 11 rfl rfl)
theorem dX7_tells_59 : decode cX7_tells 59 = .ok (.sipush 138, 3) := dk_17 0 138 (dk_at dksX7_tells_2 14 rfl rfl)
theorem dX7_tells_62 : decode cX7_tells 62 = .ok (.iload_n 1, 1) := dk_27 (dk_at dksX7_tells_2 17 rfl rfl)
theorem dX7_tells_63 : decode cX7_tells 63 = .ok (.iastore, 1) := dk_79 (dk_at dksX7_tells_2 18 rfl rfl)
theorem dX7_tells_64 : decode cX7_tells 64 = .ok (.aload_n 0, 1) := dk_42 (dk_at dksX7_tells_2 19 rfl rfl)
theorem dX7_tells_65 : decode cX7_tells 65 = .ok (.getfield 13, 3) := dk_180 0 13 (dk_at dksX7_tells_2 20 rfl rfl)
theorem dX7_tells_68 : decode cX7_tells 68 = .ok (.sipush 139, 3) := dk_17 0 139 (dk_at dksX7_tells_3 0 rfl rfl)
theorem dX7_tells_71 : decode cX7_tells 71 = .ok (.iload_n 2, 1) := dk_28 (dk_at dksX7_tells_3 3 rfl rfl)
theorem dX7_tells_72 : decode cX7_tells 72 = .ok (.iastore, 1) := dk_79 (dk_at dksX7_tells_3 4 rfl rfl)
theorem dX7_tells_73 : decode cX7_tells 73 = .ok (.aload_n 0, 1) := dk_42 (dk_at dksX7_tells_3 5 rfl rfl)
theorem dX7_tells_74 : decode cX7_tells 74 = .ok (.getfield 13, 3) := dk_180 0 13 (dk_at dksX7_tells_3 6 rfl rfl)
theorem dX7_tells_77 : decode cX7_tells 77 = .ok (.sipush 140, 3) := dk_17 0 140 (dk_at dksX7_tells_3 9 rfl rfl)
theorem dX7_tells_80 : decode cX7_tells 80 = .ok (.iload_n 3, 1) := dk_29 (dk_at dksX7_tells_3 12 rfl rfl)
theorem dX7_tells_81 : decode cX7_tells 81 = .ok (.iastore, 1) := dk_79 (dk_at dksX7_tells_3 13 rfl rfl)
theorem dX7_tells_82 : decode cX7_tells 82 = .ok (.aload_n 0, 1) := dk_42 (dk_at dksX7_tells_3 14 rfl rfl)
theorem dX7_tells_83 : decode cX7_tells 83 = .ok (.getfield 13, 3) := dk_180 0 13 (dk_at dksX7_tells_3 15 rfl rfl)
theorem dX7_tells_86 : decode cX7_tells 86 = .ok (.bipush 7, 2) := dk_16 7 (dk_at dksX7_tells_3 18 rfl rfl)
theorem dX7_tells_88 : decode cX7_tells 88 = .ok (.bipush 60, 2) := dk_16 60 (dk_at dksX7_tells_3 20 rfl rfl)
theorem dX7_tells_90 : decode cX7_tells 90 = .ok (.aload_n 0, 1) := dk_42 (dk_at dksX7_tells_3 22 rfl rfl)
theorem dX7_tells_91 : decode cX7_tells 91 = .ok (.getfield 13, 3) := dk_180 0 13 (dk_at dksX7_tells_4 0 rfl rfl)
theorem dX7_tells_94 : decode cX7_tells 94 = .ok (.bipush 7, 2) := dk_16 7 (dk_at dksX7_tells_4 3 rfl rfl)
theorem dX7_tells_96 : decode cX7_tells 96 = .ok (.iaload, 1) := dk_46 (dk_at dksX7_tells_4 5 rfl rfl)
theorem dX7_tells_97 : decode cX7_tells 97 = .ok (.iconst 1, 1) := dk_4 (dk_at dksX7_tells_4 6 rfl rfl)
theorem dX7_tells_98 : decode cX7_tells 98 = .ok (.iadd, 1) := dk_96 (dk_at dksX7_tells_4 7 rfl rfl)
theorem dX7_tells_99 : decode cX7_tells 99 = .ok (.invokestatic 266, 3) := dk_184 1 10 (dk_at dksX7_tells_4 8 rfl rfl)
theorem dX7_tells_102 : decode cX7_tells 102 = .ok (.iastore, 1) := dk_79 (dk_at dksX7_tells_4 11 rfl rfl)
theorem dX7_tells_103 : decode cX7_tells 103 = .ok (.return_, 1) := dk_177 (dk_at dksX7_tells_4 12 rfl rfl)
abbrev cX7_pawn : ByteArray := prog_18_method_78_code
def yX7_pawn : MethodName := ⟨RX7, "pawn", "(I)I"⟩
def dkwX7_pawn_4 : List UInt8 := [180, 0, 13, 8, 46, 96, 184, 1, 10, 79, 42, 28, 7, 182, 0, 65, 172]
abbrev dktX7_pawn_4 : List UInt8 := dkwX7_pawn_4 ++ []
def dkwX7_pawn_3 : List UInt8 := [184, 0, 68, 2, 79, 42, 180, 0, 13, 28, 7, 184, 0, 61, 17, 39, 15, 42, 28, 7, 182, 0, 65, 42]
abbrev dktX7_pawn_3 : List UInt8 := dkwX7_pawn_3 ++ dktX7_pawn_4
def dkwX7_pawn_2 : List UInt8 := [167, 0, 4, 3, 5, 182, 0, 241, 153, 0, 5, 3, 172, 42, 182, 1, 77, 42, 180, 0, 13, 27, 8]
abbrev dktX7_pawn_2 : List UInt8 := dkwX7_pawn_2 ++ dktX7_pawn_3
def dkwX7_pawn_1 : List UInt8 := [182, 0, 71, 61, 42, 42, 27, 8, 182, 0, 71, 28, 160, 0, 11, 42, 27, 182, 1, 46, 153, 0, 7, 4]
abbrev dktX7_pawn_1 : List UInt8 := dkwX7_pawn_1 ++ dktX7_pawn_2
def dkwX7_pawn_0 : List UInt8 := [42, 3, 181, 0, 3, 42, 42, 27, 182, 1, 28, 4, 182, 0, 241, 153, 0, 5, 3, 172, 42, 27, 7]
abbrev dktX7_pawn_0 : List UInt8 := dkwX7_pawn_0 ++ dktX7_pawn_1
theorem dksX7_pawn_0 : cX7_pawn.data.toList.drop 0 = dktX7_pawn_0 := by decide +kernel
theorem dksX7_pawn_1 : cX7_pawn.data.toList.drop 23 = dktX7_pawn_1 := dk_seg dksX7_pawn_0 23 rfl rfl
theorem dksX7_pawn_2 : cX7_pawn.data.toList.drop 47 = dktX7_pawn_2 := dk_seg dksX7_pawn_1 24 rfl rfl
theorem dksX7_pawn_3 : cX7_pawn.data.toList.drop 70 = dktX7_pawn_3 := dk_seg dksX7_pawn_2 23 rfl rfl
theorem dksX7_pawn_4 : cX7_pawn.data.toList.drop 94 = dktX7_pawn_4 := dk_seg dksX7_pawn_3 24 rfl rfl
theorem dX7_pawn_0 : decode cX7_pawn 0 = .ok (.aload_n 0, 1) := dk_42 (dk_at dksX7_pawn_0 0 rfl rfl)
theorem dX7_pawn_1 : decode cX7_pawn 1 = .ok (.iconst 0, 1) := dk_3 (dk_at dksX7_pawn_0 1 rfl rfl)
theorem dX7_pawn_2 : decode cX7_pawn 2 = .ok (.putfield 3, 3) := dk_181 0 3 (dk_at dksX7_pawn_0 2 rfl rfl)
theorem dX7_pawn_5 : decode cX7_pawn 5 = .ok (.aload_n 0, 1) := dk_42 (dk_at dksX7_pawn_0 5 rfl rfl)
theorem dX7_pawn_6 : decode cX7_pawn 6 = .ok (.aload_n 0, 1) := dk_42 (dk_at dksX7_pawn_0 6 rfl rfl)
theorem dX7_pawn_7 : decode cX7_pawn 7 = .ok (.iload_n 1, 1) := dk_27 (dk_at dksX7_pawn_0 7 rfl rfl)
theorem dX7_pawn_8 : decode cX7_pawn 8 = .ok (.invokevirtual 284, 3) := dk_182 1 28 (dk_at dksX7_pawn_0 8 rfl rfl)
theorem dX7_pawn_11 : decode cX7_pawn 11 = .ok (.iconst 1, 1) := dk_4 (dk_at dksX7_pawn_0 11 rfl rfl)
theorem dX7_pawn_12 : decode cX7_pawn 12 = .ok (.invokevirtual 241, 3) := dk_182 0 241 (dk_at dksX7_pawn_0 12 rfl rfl)
theorem dX7_pawn_15 : decode cX7_pawn 15 = .ok (.ifCond .eq 5, 3) := dk_153 0 5 (dk_at dksX7_pawn_0 15 rfl rfl)
theorem dX7_pawn_18 : decode cX7_pawn 18 = .ok (.iconst 0, 1) := dk_3 (dk_at dksX7_pawn_0 18 rfl rfl)
theorem dX7_pawn_19 : decode cX7_pawn 19 = .ok (.ireturn, 1) := dk_172 (dk_at dksX7_pawn_0 19 rfl rfl)
theorem dX7_pawn_20 : decode cX7_pawn 20 = .ok (.aload_n 0, 1) := dk_42 (dk_at dksX7_pawn_0 20 rfl rfl)
theorem dX7_pawn_21 : decode cX7_pawn 21 = .ok (.iload_n 1, 1) := dk_27 (dk_at dksX7_pawn_0 21 rfl rfl)
theorem dX7_pawn_22 : decode cX7_pawn 22 = .ok (.iconst 4, 1) := dk_7 (dk_at dksX7_pawn_0 22 rfl rfl)
theorem dX7_pawn_23 : decode cX7_pawn 23 = .ok (.invokevirtual 71, 3) := dk_182 0 71 (dk_at dksX7_pawn_1 0 rfl rfl)
theorem dX7_pawn_26 : decode cX7_pawn 26 = .ok (.istore_n 2, 1) := dk_61 (dk_at dksX7_pawn_1 3 rfl rfl)
theorem dX7_pawn_27 : decode cX7_pawn 27 = .ok (.aload_n 0, 1) := dk_42 (dk_at dksX7_pawn_1 4 rfl rfl)
theorem dX7_pawn_28 : decode cX7_pawn 28 = .ok (.aload_n 0, 1) := dk_42 (dk_at dksX7_pawn_1 5 rfl rfl)
theorem dX7_pawn_29 : decode cX7_pawn 29 = .ok (.iload_n 1, 1) := dk_27 (dk_at dksX7_pawn_1 6 rfl rfl)
theorem dX7_pawn_30 : decode cX7_pawn 30 = .ok (.iconst 5, 1) := dk_8 (dk_at dksX7_pawn_1 7 rfl rfl)
theorem dX7_pawn_31 : decode cX7_pawn 31 = .ok (.invokevirtual 71, 3) := dk_182 0 71 (dk_at dksX7_pawn_1 8 rfl rfl)
theorem dX7_pawn_34 : decode cX7_pawn 34 = .ok (.iload_n 2, 1) := dk_28 (dk_at dksX7_pawn_1 11 rfl rfl)
theorem dX7_pawn_35 : decode cX7_pawn 35 = .ok (.if_icmp .ne 11, 3) := dk_160 0 11 (dk_at dksX7_pawn_1 12 rfl rfl)
theorem dX7_pawn_38 : decode cX7_pawn 38 = .ok (.aload_n 0, 1) := dk_42 (dk_at dksX7_pawn_1 15 rfl rfl)
theorem dX7_pawn_39 : decode cX7_pawn 39 = .ok (.iload_n 1, 1) := dk_27 (dk_at dksX7_pawn_1 16 rfl rfl)
theorem dX7_pawn_40 : decode cX7_pawn 40 = .ok (.invokevirtual 302, 3) := dk_182 1 46 (dk_at dksX7_pawn_1 17 rfl rfl)
theorem dX7_pawn_43 : decode cX7_pawn 43 = .ok (.ifCond .eq 7, 3) := dk_153 0 7 (dk_at dksX7_pawn_1 20 rfl rfl)
theorem dX7_pawn_46 : decode cX7_pawn 46 = .ok (.iconst 1, 1) := dk_4 (dk_at dksX7_pawn_1 23 rfl rfl)
theorem dX7_pawn_47 : decode cX7_pawn 47 = .ok (.goto 4, 3) := dk_167 0 4 (dk_at dksX7_pawn_2 0 rfl rfl)
theorem dX7_pawn_50 : decode cX7_pawn 50 = .ok (.iconst 0, 1) := dk_3 (dk_at dksX7_pawn_2 3 rfl rfl)
theorem dX7_pawn_51 : decode cX7_pawn 51 = .ok (.iconst 2, 1) := dk_5 (dk_at dksX7_pawn_2 4 rfl rfl)
theorem dX7_pawn_52 : decode cX7_pawn 52 = .ok (.invokevirtual 241, 3) := dk_182 0 241 (dk_at dksX7_pawn_2 5 rfl rfl)
theorem dX7_pawn_55 : decode cX7_pawn 55 = .ok (.ifCond .eq 5, 3) := dk_153 0 5 (dk_at dksX7_pawn_2 8 rfl rfl)
theorem dX7_pawn_58 : decode cX7_pawn 58 = .ok (.iconst 0, 1) := dk_3 (dk_at dksX7_pawn_2 11 rfl rfl)
theorem dX7_pawn_59 : decode cX7_pawn 59 = .ok (.ireturn, 1) := dk_172 (dk_at dksX7_pawn_2 12 rfl rfl)
theorem dX7_pawn_60 : decode cX7_pawn 60 = .ok (.aload_n 0, 1) := dk_42 (dk_at dksX7_pawn_2 13 rfl rfl)
theorem dX7_pawn_61 : decode cX7_pawn 61 = .ok (.invokevirtual 333, 3) := dk_182 1 77 (dk_at dksX7_pawn_2 14 rfl rfl)
theorem dX7_pawn_64 : decode cX7_pawn 64 = .ok (.aload_n 0, 1) := dk_42 (dk_at dksX7_pawn_2 17 rfl rfl)
theorem dX7_pawn_65 : decode cX7_pawn 65 = .ok (.getfield 13, 3) := dk_180 0 13 (dk_at dksX7_pawn_2 18 rfl rfl)
theorem dX7_pawn_68 : decode cX7_pawn 68 = .ok (.iload_n 1, 1) := dk_27 (dk_at dksX7_pawn_2 21 rfl rfl)
theorem dX7_pawn_69 : decode cX7_pawn 69 = .ok (.iconst 5, 1) := dk_8 (dk_at dksX7_pawn_2 22 rfl rfl)
theorem dX7_pawn_70 : decode cX7_pawn 70 = .ok (.invokestatic 68, 3) := dk_184 0 68 (dk_at dksX7_pawn_3 0 rfl rfl)
theorem dX7_pawn_73 : decode cX7_pawn 73 = .ok (.iconst (-1), 1) := dk_2 (dk_at dksX7_pawn_3 3 rfl rfl)
theorem dX7_pawn_74 : decode cX7_pawn 74 = .ok (.iastore, 1) := dk_79 (dk_at dksX7_pawn_3 4 rfl rfl)
theorem dX7_pawn_75 : decode cX7_pawn 75 = .ok (.aload_n 0, 1) := dk_42 (dk_at dksX7_pawn_3 5 rfl rfl)
theorem dX7_pawn_76 : decode cX7_pawn 76 = .ok (.getfield 13, 3) := dk_180 0 13 (dk_at dksX7_pawn_3 6 rfl rfl)
theorem dX7_pawn_79 : decode cX7_pawn 79 = .ok (.iload_n 2, 1) := dk_28 (dk_at dksX7_pawn_3 9 rfl rfl)
theorem dX7_pawn_80 : decode cX7_pawn 80 = .ok (.iconst 4, 1) := dk_7 (dk_at dksX7_pawn_3 10 rfl rfl)
theorem dX7_pawn_81 : decode cX7_pawn 81 = .ok (.invokestatic 61, 3) := dk_184 0 61 (dk_at dksX7_pawn_3 11 rfl rfl)
theorem dX7_pawn_84 : decode cX7_pawn 84 = .ok (.sipush 9999, 3) := dk_17 39 15 (dk_at dksX7_pawn_3 14 rfl rfl)
theorem dX7_pawn_87 : decode cX7_pawn 87 = .ok (.aload_n 0, 1) := dk_42 (dk_at dksX7_pawn_3 17 rfl rfl)
theorem dX7_pawn_88 : decode cX7_pawn 88 = .ok (.iload_n 2, 1) := dk_28 (dk_at dksX7_pawn_3 18 rfl rfl)
theorem dX7_pawn_89 : decode cX7_pawn 89 = .ok (.iconst 4, 1) := dk_7 (dk_at dksX7_pawn_3 19 rfl rfl)
theorem dX7_pawn_90 : decode cX7_pawn 90 = .ok (.invokevirtual 65, 3) := dk_182 0 65 (dk_at dksX7_pawn_3 20 rfl rfl)
theorem dX7_pawn_93 : decode cX7_pawn 93 = .ok (.aload_n 0, 1) := dk_42 (dk_at dksX7_pawn_3 23 rfl rfl)
theorem dX7_pawn_94 : decode cX7_pawn 94 = .ok (.getfield 13, 3) := dk_180 0 13 (dk_at dksX7_pawn_4 0 rfl rfl)
theorem dX7_pawn_97 : decode cX7_pawn 97 = .ok (.iconst 5, 1) := dk_8 (dk_at dksX7_pawn_4 3 rfl rfl)
theorem dX7_pawn_98 : decode cX7_pawn 98 = .ok (.iaload, 1) := dk_46 (dk_at dksX7_pawn_4 4 rfl rfl)
theorem dX7_pawn_99 : decode cX7_pawn 99 = .ok (.iadd, 1) := dk_96 (dk_at dksX7_pawn_4 5 rfl rfl)
theorem dX7_pawn_100 : decode cX7_pawn 100 = .ok (.invokestatic 266, 3) := dk_184 1 10 (dk_at dksX7_pawn_4 6 rfl rfl)
theorem dX7_pawn_103 : decode cX7_pawn 103 = .ok (.iastore, 1) := dk_79 (dk_at dksX7_pawn_4 9 rfl rfl)
theorem dX7_pawn_104 : decode cX7_pawn 104 = .ok (.aload_n 0, 1) := dk_42 (dk_at dksX7_pawn_4 10 rfl rfl)
theorem dX7_pawn_105 : decode cX7_pawn 105 = .ok (.iload_n 2, 1) := dk_28 (dk_at dksX7_pawn_4 11 rfl rfl)
theorem dX7_pawn_106 : decode cX7_pawn 106 = .ok (.iconst 4, 1) := dk_7 (dk_at dksX7_pawn_4 12 rfl rfl)
theorem dX7_pawn_107 : decode cX7_pawn 107 = .ok (.invokevirtual 65, 3) := dk_182 0 65 (dk_at dksX7_pawn_4 13 rfl rfl)
theorem dX7_pawn_110 : decode cX7_pawn 110 = .ok (.ireturn, 1) := dk_172 (dk_at dksX7_pawn_4 16 rfl rfl)
abbrev cX7_redeem : ByteArray := prog_18_method_79_code
def yX7_redeem : MethodName := ⟨RX7, "redeem", "(I)I"⟩
def dkwX7_redeem_4 : List UInt8 := [180, 0, 13, 8, 46, 104, 100, 79, 42, 28, 7, 182, 0, 65, 172]
abbrev dktX7_redeem_4 : List UInt8 := dkwX7_redeem_4 ++ []
def dkwX7_redeem_3 : List UInt8 := [42, 180, 0, 13, 27, 8, 184, 0, 68, 28, 79, 42, 180, 0, 13, 28, 7, 184, 0, 61, 92, 46, 5, 42]
abbrev dktX7_redeem_3 : List UInt8 := dkwX7_redeem_3 ++ dktX7_redeem_4
def dkwX7_redeem_2 : List UInt8 := [8, 46, 104, 162, 0, 7, 4, 167, 0, 4, 3, 5, 182, 0, 241, 153, 0, 5, 3, 172, 42, 182, 1, 77]
abbrev dktX7_redeem_2 : List UInt8 := dkwX7_redeem_2 ++ dktX7_redeem_3
def dkwX7_redeem_1 : List UInt8 := [182, 0, 71, 61, 42, 42, 27, 182, 1, 49, 153, 0, 20, 42, 28, 7, 182, 0, 65, 5, 42, 180, 0, 13]
abbrev dktX7_redeem_1 : List UInt8 := dkwX7_redeem_1 ++ dktX7_redeem_2
def dkwX7_redeem_0 : List UInt8 := [42, 3, 181, 0, 3, 42, 42, 27, 182, 1, 28, 4, 182, 0, 241, 153, 0, 5, 3, 172, 42, 27, 7]
abbrev dktX7_redeem_0 : List UInt8 := dkwX7_redeem_0 ++ dktX7_redeem_1
theorem dksX7_redeem_0 : cX7_redeem.data.toList.drop 0 = dktX7_redeem_0 := by decide +kernel
theorem dksX7_redeem_1 : cX7_redeem.data.toList.drop 23 = dktX7_redeem_1 := dk_seg dksX7_redeem_0 23 rfl rfl
theorem dksX7_redeem_2 : cX7_redeem.data.toList.drop 47 = dktX7_redeem_2 := dk_seg dksX7_redeem_1 24 rfl rfl
theorem dksX7_redeem_3 : cX7_redeem.data.toList.drop 71 = dktX7_redeem_3 := dk_seg dksX7_redeem_2 24 rfl rfl
theorem dksX7_redeem_4 : cX7_redeem.data.toList.drop 95 = dktX7_redeem_4 := dk_seg dksX7_redeem_3 24 rfl rfl
theorem dX7_redeem_0 : decode cX7_redeem 0 = .ok (.aload_n 0, 1) := dk_42 (dk_at dksX7_redeem_0 0 rfl rfl)
theorem dX7_redeem_1 : decode cX7_redeem 1 = .ok (.iconst 0, 1) := dk_3 (dk_at dksX7_redeem_0 1 rfl rfl)
theorem dX7_redeem_2 : decode cX7_redeem 2 = .ok (.putfield 3, 3) := dk_181 0 3 (dk_at dksX7_redeem_0 2 rfl rfl)
theorem dX7_redeem_5 : decode cX7_redeem 5 = .ok (.aload_n 0, 1) := dk_42 (dk_at dksX7_redeem_0 5 rfl rfl)
theorem dX7_redeem_6 : decode cX7_redeem 6 = .ok (.aload_n 0, 1) := dk_42 (dk_at dksX7_redeem_0 6 rfl rfl)
theorem dX7_redeem_7 : decode cX7_redeem 7 = .ok (.iload_n 1, 1) := dk_27 (dk_at dksX7_redeem_0 7 rfl rfl)
theorem dX7_redeem_8 : decode cX7_redeem 8 = .ok (.invokevirtual 284, 3) := dk_182 1 28 (dk_at dksX7_redeem_0 8 rfl rfl)
theorem dX7_redeem_11 : decode cX7_redeem 11 = .ok (.iconst 1, 1) := dk_4 (dk_at dksX7_redeem_0 11 rfl rfl)
theorem dX7_redeem_12 : decode cX7_redeem 12 = .ok (.invokevirtual 241, 3) := dk_182 0 241 (dk_at dksX7_redeem_0 12 rfl rfl)
theorem dX7_redeem_15 : decode cX7_redeem 15 = .ok (.ifCond .eq 5, 3) := dk_153 0 5 (dk_at dksX7_redeem_0 15 rfl rfl)
theorem dX7_redeem_18 : decode cX7_redeem 18 = .ok (.iconst 0, 1) := dk_3 (dk_at dksX7_redeem_0 18 rfl rfl)
theorem dX7_redeem_19 : decode cX7_redeem 19 = .ok (.ireturn, 1) := dk_172 (dk_at dksX7_redeem_0 19 rfl rfl)
theorem dX7_redeem_20 : decode cX7_redeem 20 = .ok (.aload_n 0, 1) := dk_42 (dk_at dksX7_redeem_0 20 rfl rfl)
theorem dX7_redeem_21 : decode cX7_redeem 21 = .ok (.iload_n 1, 1) := dk_27 (dk_at dksX7_redeem_0 21 rfl rfl)
theorem dX7_redeem_22 : decode cX7_redeem 22 = .ok (.iconst 4, 1) := dk_7 (dk_at dksX7_redeem_0 22 rfl rfl)
theorem dX7_redeem_23 : decode cX7_redeem 23 = .ok (.invokevirtual 71, 3) := dk_182 0 71 (dk_at dksX7_redeem_1 0 rfl rfl)
theorem dX7_redeem_26 : decode cX7_redeem 26 = .ok (.istore_n 2, 1) := dk_61 (dk_at dksX7_redeem_1 3 rfl rfl)
theorem dX7_redeem_27 : decode cX7_redeem 27 = .ok (.aload_n 0, 1) := dk_42 (dk_at dksX7_redeem_1 4 rfl rfl)
theorem dX7_redeem_28 : decode cX7_redeem 28 = .ok (.aload_n 0, 1) := dk_42 (dk_at dksX7_redeem_1 5 rfl rfl)
theorem dX7_redeem_29 : decode cX7_redeem 29 = .ok (.iload_n 1, 1) := dk_27 (dk_at dksX7_redeem_1 6 rfl rfl)
theorem dX7_redeem_30 : decode cX7_redeem 30 = .ok (.invokevirtual 305, 3) := dk_182 1 49 (dk_at dksX7_redeem_1 7 rfl rfl)
theorem dX7_redeem_33 : decode cX7_redeem 33 = .ok (.ifCond .eq 20, 3) := dk_153 0 20 (dk_at dksX7_redeem_1 10 rfl rfl)
theorem dX7_redeem_36 : decode cX7_redeem 36 = .ok (.aload_n 0, 1) := dk_42 (dk_at dksX7_redeem_1 13 rfl rfl)
theorem dX7_redeem_37 : decode cX7_redeem 37 = .ok (.iload_n 2, 1) := dk_28 (dk_at dksX7_redeem_1 14 rfl rfl)
theorem dX7_redeem_38 : decode cX7_redeem 38 = .ok (.iconst 4, 1) := dk_7 (dk_at dksX7_redeem_1 15 rfl rfl)
theorem dX7_redeem_39 : decode cX7_redeem 39 = .ok (.invokevirtual 65, 3) := dk_182 0 65 (dk_at dksX7_redeem_1 16 rfl rfl)
theorem dX7_redeem_42 : decode cX7_redeem 42 = .ok (.iconst 2, 1) := dk_5 (dk_at dksX7_redeem_1 19 rfl rfl)
theorem dX7_redeem_43 : decode cX7_redeem 43 = .ok (.aload_n 0, 1) := dk_42 (dk_at dksX7_redeem_1 20 rfl rfl)
theorem dX7_redeem_44 : decode cX7_redeem 44 = .ok (.getfield 13, 3) := dk_180 0 13 (dk_at dksX7_redeem_1 21 rfl rfl)
theorem dX7_redeem_47 : decode cX7_redeem 47 = .ok (.iconst 5, 1) := dk_8 (dk_at dksX7_redeem_2 0 rfl rfl)
theorem dX7_redeem_48 : decode cX7_redeem 48 = .ok (.iaload, 1) := dk_46 (dk_at dksX7_redeem_2 1 rfl rfl)
theorem dX7_redeem_49 : decode cX7_redeem 49 = .ok (.imul, 1) := dk_104 (dk_at dksX7_redeem_2 2 rfl rfl)
theorem dX7_redeem_50 : decode cX7_redeem 50 = .ok (.if_icmp .ge 7, 3) := dk_162 0 7 (dk_at dksX7_redeem_2 3 rfl rfl)
theorem dX7_redeem_53 : decode cX7_redeem 53 = .ok (.iconst 1, 1) := dk_4 (dk_at dksX7_redeem_2 6 rfl rfl)
theorem dX7_redeem_54 : decode cX7_redeem 54 = .ok (.goto 4, 3) := dk_167 0 4 (dk_at dksX7_redeem_2 7 rfl rfl)
theorem dX7_redeem_57 : decode cX7_redeem 57 = .ok (.iconst 0, 1) := dk_3 (dk_at dksX7_redeem_2 10 rfl rfl)
theorem dX7_redeem_58 : decode cX7_redeem 58 = .ok (.iconst 2, 1) := dk_5 (dk_at dksX7_redeem_2 11 rfl rfl)
theorem dX7_redeem_59 : decode cX7_redeem 59 = .ok (.invokevirtual 241, 3) := dk_182 0 241 (dk_at dksX7_redeem_2 12 rfl rfl)
theorem dX7_redeem_62 : decode cX7_redeem 62 = .ok (.ifCond .eq 5, 3) := dk_153 0 5 (dk_at dksX7_redeem_2 15 rfl rfl)
theorem dX7_redeem_65 : decode cX7_redeem 65 = .ok (.iconst 0, 1) := dk_3 (dk_at dksX7_redeem_2 18 rfl rfl)
theorem dX7_redeem_66 : decode cX7_redeem 66 = .ok (.ireturn, 1) := dk_172 (dk_at dksX7_redeem_2 19 rfl rfl)
theorem dX7_redeem_67 : decode cX7_redeem 67 = .ok (.aload_n 0, 1) := dk_42 (dk_at dksX7_redeem_2 20 rfl rfl)
theorem dX7_redeem_68 : decode cX7_redeem 68 = .ok (.invokevirtual 333, 3) := dk_182 1 77 (dk_at dksX7_redeem_2 21 rfl rfl)
theorem dX7_redeem_71 : decode cX7_redeem 71 = .ok (.aload_n 0, 1) := dk_42 (dk_at dksX7_redeem_3 0 rfl rfl)
theorem dX7_redeem_72 : decode cX7_redeem 72 = .ok (.getfield 13, 3) := dk_180 0 13 (dk_at dksX7_redeem_3 1 rfl rfl)
theorem dX7_redeem_75 : decode cX7_redeem 75 = .ok (.iload_n 1, 1) := dk_27 (dk_at dksX7_redeem_3 4 rfl rfl)
theorem dX7_redeem_76 : decode cX7_redeem 76 = .ok (.iconst 5, 1) := dk_8 (dk_at dksX7_redeem_3 5 rfl rfl)
theorem dX7_redeem_77 : decode cX7_redeem 77 = .ok (.invokestatic 68, 3) := dk_184 0 68 (dk_at dksX7_redeem_3 6 rfl rfl)
theorem dX7_redeem_80 : decode cX7_redeem 80 = .ok (.iload_n 2, 1) := dk_28 (dk_at dksX7_redeem_3 9 rfl rfl)
theorem dX7_redeem_81 : decode cX7_redeem 81 = .ok (.iastore, 1) := dk_79 (dk_at dksX7_redeem_3 10 rfl rfl)
theorem dX7_redeem_82 : decode cX7_redeem 82 = .ok (.aload_n 0, 1) := dk_42 (dk_at dksX7_redeem_3 11 rfl rfl)
theorem dX7_redeem_83 : decode cX7_redeem 83 = .ok (.getfield 13, 3) := dk_180 0 13 (dk_at dksX7_redeem_3 12 rfl rfl)
theorem dX7_redeem_86 : decode cX7_redeem 86 = .ok (.iload_n 2, 1) := dk_28 (dk_at dksX7_redeem_3 15 rfl rfl)
theorem dX7_redeem_87 : decode cX7_redeem 87 = .ok (.iconst 4, 1) := dk_7 (dk_at dksX7_redeem_3 16 rfl rfl)
theorem dX7_redeem_88 : decode cX7_redeem 88 = .ok (.invokestatic 61, 3) := dk_184 0 61 (dk_at dksX7_redeem_3 17 rfl rfl)
theorem dX7_redeem_91 : decode cX7_redeem 91 = .ok (.dup2, 1) := dk_92 (dk_at dksX7_redeem_3 20 rfl rfl)
theorem dX7_redeem_92 : decode cX7_redeem 92 = .ok (.iaload, 1) := dk_46 (dk_at dksX7_redeem_3 21 rfl rfl)
theorem dX7_redeem_93 : decode cX7_redeem 93 = .ok (.iconst 2, 1) := dk_5 (dk_at dksX7_redeem_3 22 rfl rfl)
theorem dX7_redeem_94 : decode cX7_redeem 94 = .ok (.aload_n 0, 1) := dk_42 (dk_at dksX7_redeem_3 23 rfl rfl)
theorem dX7_redeem_95 : decode cX7_redeem 95 = .ok (.getfield 13, 3) := dk_180 0 13 (dk_at dksX7_redeem_4 0 rfl rfl)
theorem dX7_redeem_98 : decode cX7_redeem 98 = .ok (.iconst 5, 1) := dk_8 (dk_at dksX7_redeem_4 3 rfl rfl)
theorem dX7_redeem_99 : decode cX7_redeem 99 = .ok (.iaload, 1) := dk_46 (dk_at dksX7_redeem_4 4 rfl rfl)
theorem dX7_redeem_100 : decode cX7_redeem 100 = .ok (.imul, 1) := dk_104 (dk_at dksX7_redeem_4 5 rfl rfl)
theorem dX7_redeem_101 : decode cX7_redeem 101 = .ok (.isub, 1) := dk_100 (dk_at dksX7_redeem_4 6 rfl rfl)
theorem dX7_redeem_102 : decode cX7_redeem 102 = .ok (.iastore, 1) := dk_79 (dk_at dksX7_redeem_4 7 rfl rfl)
theorem dX7_redeem_103 : decode cX7_redeem 103 = .ok (.aload_n 0, 1) := dk_42 (dk_at dksX7_redeem_4 8 rfl rfl)
theorem dX7_redeem_104 : decode cX7_redeem 104 = .ok (.iload_n 2, 1) := dk_28 (dk_at dksX7_redeem_4 9 rfl rfl)
theorem dX7_redeem_105 : decode cX7_redeem 105 = .ok (.iconst 4, 1) := dk_7 (dk_at dksX7_redeem_4 10 rfl rfl)
theorem dX7_redeem_106 : decode cX7_redeem 106 = .ok (.invokevirtual 65, 3) := dk_182 0 65 (dk_at dksX7_redeem_4 11 rfl rfl)
theorem dX7_redeem_109 : decode cX7_redeem 109 = .ok (.ireturn, 1) := dk_172 (dk_at dksX7_redeem_4 14 rfl rfl)
abbrev cX7_cut : ByteArray := prog_18_method_80_code
def yX7_cut : MethodName := ⟨RX7, "cut", "(I)I"⟩
def dkwX7_cut_3 : List UInt8 := [184, 0, 68, 92, 46, 5, 108, 79, 132, 2, 1, 167, 255, 234, 42, 27, 182, 1, 16, 172]
abbrev dktX7_cut_3 : List UInt8 := dkwX7_cut_3 ++ []
def dkwX7_cut_2 : List UInt8 := [180, 0, 13, 27, 16, 7, 184, 0, 68, 3, 79, 3, 61, 28, 7, 162, 0, 23, 42, 180, 0, 13, 27, 28]
abbrev dktX7_cut_2 : List UInt8 := dkwX7_cut_2 ++ dktX7_cut_3
def dkwX7_cut_1 : List UInt8 := [154, 0, 7, 4, 167, 0, 4, 3, 5, 182, 0, 241, 153, 0, 5, 3, 172, 42, 182, 1, 77, 42]
abbrev dktX7_cut_1 : List UInt8 := dkwX7_cut_1 ++ dktX7_cut_2
def dkwX7_cut_0 : List UInt8 := [42, 3, 181, 0, 3, 42, 42, 27, 182, 1, 28, 4, 182, 0, 241, 154, 0, 24, 42, 42, 27, 182, 1, 46]
abbrev dktX7_cut_0 : List UInt8 := dkwX7_cut_0 ++ dktX7_cut_1
theorem dksX7_cut_0 : cX7_cut.data.toList.drop 0 = dktX7_cut_0 := by decide +kernel
theorem dksX7_cut_1 : cX7_cut.data.toList.drop 24 = dktX7_cut_1 := dk_seg dksX7_cut_0 24 rfl rfl
theorem dksX7_cut_2 : cX7_cut.data.toList.drop 46 = dktX7_cut_2 := dk_seg dksX7_cut_1 22 rfl rfl
theorem dksX7_cut_3 : cX7_cut.data.toList.drop 70 = dktX7_cut_3 := dk_seg dksX7_cut_2 24 rfl rfl
theorem dX7_cut_0 : decode cX7_cut 0 = .ok (.aload_n 0, 1) := dk_42 (dk_at dksX7_cut_0 0 rfl rfl)
theorem dX7_cut_1 : decode cX7_cut 1 = .ok (.iconst 0, 1) := dk_3 (dk_at dksX7_cut_0 1 rfl rfl)
theorem dX7_cut_2 : decode cX7_cut 2 = .ok (.putfield 3, 3) := dk_181 0 3 (dk_at dksX7_cut_0 2 rfl rfl)
theorem dX7_cut_5 : decode cX7_cut 5 = .ok (.aload_n 0, 1) := dk_42 (dk_at dksX7_cut_0 5 rfl rfl)
theorem dX7_cut_6 : decode cX7_cut 6 = .ok (.aload_n 0, 1) := dk_42 (dk_at dksX7_cut_0 6 rfl rfl)
theorem dX7_cut_7 : decode cX7_cut 7 = .ok (.iload_n 1, 1) := dk_27 (dk_at dksX7_cut_0 7 rfl rfl)
theorem dX7_cut_8 : decode cX7_cut 8 = .ok (.invokevirtual 284, 3) := dk_182 1 28 (dk_at dksX7_cut_0 8 rfl rfl)
theorem dX7_cut_11 : decode cX7_cut 11 = .ok (.iconst 1, 1) := dk_4 (dk_at dksX7_cut_0 11 rfl rfl)
theorem dX7_cut_12 : decode cX7_cut 12 = .ok (.invokevirtual 241, 3) := dk_182 0 241 (dk_at dksX7_cut_0 12 rfl rfl)
theorem dX7_cut_15 : decode cX7_cut 15 = .ok (.ifCond .ne 24, 3) := dk_154 0 24 (dk_at dksX7_cut_0 15 rfl rfl)
theorem dX7_cut_18 : decode cX7_cut 18 = .ok (.aload_n 0, 1) := dk_42 (dk_at dksX7_cut_0 18 rfl rfl)
theorem dX7_cut_19 : decode cX7_cut 19 = .ok (.aload_n 0, 1) := dk_42 (dk_at dksX7_cut_0 19 rfl rfl)
theorem dX7_cut_20 : decode cX7_cut 20 = .ok (.iload_n 1, 1) := dk_27 (dk_at dksX7_cut_0 20 rfl rfl)
theorem dX7_cut_21 : decode cX7_cut 21 = .ok (.invokevirtual 302, 3) := dk_182 1 46 (dk_at dksX7_cut_0 21 rfl rfl)
theorem dX7_cut_24 : decode cX7_cut 24 = .ok (.ifCond .ne 7, 3) := dk_154 0 7 (dk_at dksX7_cut_1 0 rfl rfl)
theorem dX7_cut_27 : decode cX7_cut 27 = .ok (.iconst 1, 1) := dk_4 (dk_at dksX7_cut_1 3 rfl rfl)
theorem dX7_cut_28 : decode cX7_cut 28 = .ok (.goto 4, 3) := dk_167 0 4 (dk_at dksX7_cut_1 4 rfl rfl)
theorem dX7_cut_31 : decode cX7_cut 31 = .ok (.iconst 0, 1) := dk_3 (dk_at dksX7_cut_1 7 rfl rfl)
theorem dX7_cut_32 : decode cX7_cut 32 = .ok (.iconst 2, 1) := dk_5 (dk_at dksX7_cut_1 8 rfl rfl)
theorem dX7_cut_33 : decode cX7_cut 33 = .ok (.invokevirtual 241, 3) := dk_182 0 241 (dk_at dksX7_cut_1 9 rfl rfl)
theorem dX7_cut_36 : decode cX7_cut 36 = .ok (.ifCond .eq 5, 3) := dk_153 0 5 (dk_at dksX7_cut_1 12 rfl rfl)
theorem dX7_cut_39 : decode cX7_cut 39 = .ok (.iconst 0, 1) := dk_3 (dk_at dksX7_cut_1 15 rfl rfl)
theorem dX7_cut_40 : decode cX7_cut 40 = .ok (.ireturn, 1) := dk_172 (dk_at dksX7_cut_1 16 rfl rfl)
theorem dX7_cut_41 : decode cX7_cut 41 = .ok (.aload_n 0, 1) := dk_42 (dk_at dksX7_cut_1 17 rfl rfl)
theorem dX7_cut_42 : decode cX7_cut 42 = .ok (.invokevirtual 333, 3) := dk_182 1 77 (dk_at dksX7_cut_1 18 rfl rfl)
theorem dX7_cut_45 : decode cX7_cut 45 = .ok (.aload_n 0, 1) := dk_42 (dk_at dksX7_cut_1 21 rfl rfl)
theorem dX7_cut_46 : decode cX7_cut 46 = .ok (.getfield 13, 3) := dk_180 0 13 (dk_at dksX7_cut_2 0 rfl rfl)
theorem dX7_cut_49 : decode cX7_cut 49 = .ok (.iload_n 1, 1) := dk_27 (dk_at dksX7_cut_2 3 rfl rfl)
theorem dX7_cut_50 : decode cX7_cut 50 = .ok (.bipush 7, 2) := dk_16 7 (dk_at dksX7_cut_2 4 rfl rfl)
theorem dX7_cut_52 : decode cX7_cut 52 = .ok (.invokestatic 68, 3) := dk_184 0 68 (dk_at dksX7_cut_2 6 rfl rfl)
theorem dX7_cut_55 : decode cX7_cut 55 = .ok (.iconst 0, 1) := dk_3 (dk_at dksX7_cut_2 9 rfl rfl)
theorem dX7_cut_56 : decode cX7_cut 56 = .ok (.iastore, 1) := dk_79 (dk_at dksX7_cut_2 10 rfl rfl)
theorem dX7_cut_57 : decode cX7_cut 57 = .ok (.iconst 0, 1) := dk_3 (dk_at dksX7_cut_2 11 rfl rfl)
theorem dX7_cut_58 : decode cX7_cut 58 = .ok (.istore_n 2, 1) := dk_61 (dk_at dksX7_cut_2 12 rfl rfl)
theorem dX7_cut_59 : decode cX7_cut 59 = .ok (.iload_n 2, 1) := dk_28 (dk_at dksX7_cut_2 13 rfl rfl)
theorem dX7_cut_60 : decode cX7_cut 60 = .ok (.iconst 4, 1) := dk_7 (dk_at dksX7_cut_2 14 rfl rfl)
theorem dX7_cut_61 : decode cX7_cut 61 = .ok (.if_icmp .ge 23, 3) := dk_162 0 23 (dk_at dksX7_cut_2 15 rfl rfl)
theorem dX7_cut_64 : decode cX7_cut 64 = .ok (.aload_n 0, 1) := dk_42 (dk_at dksX7_cut_2 18 rfl rfl)
theorem dX7_cut_65 : decode cX7_cut 65 = .ok (.getfield 13, 3) := dk_180 0 13 (dk_at dksX7_cut_2 19 rfl rfl)
theorem dX7_cut_68 : decode cX7_cut 68 = .ok (.iload_n 1, 1) := dk_27 (dk_at dksX7_cut_2 22 rfl rfl)
theorem dX7_cut_69 : decode cX7_cut 69 = .ok (.iload_n 2, 1) := dk_28 (dk_at dksX7_cut_2 23 rfl rfl)
theorem dX7_cut_70 : decode cX7_cut 70 = .ok (.invokestatic 68, 3) := dk_184 0 68 (dk_at dksX7_cut_3 0 rfl rfl)
theorem dX7_cut_73 : decode cX7_cut 73 = .ok (.dup2, 1) := dk_92 (dk_at dksX7_cut_3 3 rfl rfl)
theorem dX7_cut_74 : decode cX7_cut 74 = .ok (.iaload, 1) := dk_46 (dk_at dksX7_cut_3 4 rfl rfl)
theorem dX7_cut_75 : decode cX7_cut 75 = .ok (.iconst 2, 1) := dk_5 (dk_at dksX7_cut_3 5 rfl rfl)
theorem dX7_cut_76 : decode cX7_cut 76 = .ok (.idiv, 1) := dk_108 (dk_at dksX7_cut_3 6 rfl rfl)
theorem dX7_cut_77 : decode cX7_cut 77 = .ok (.iastore, 1) := dk_79 (dk_at dksX7_cut_3 7 rfl rfl)
theorem dX7_cut_78 : decode cX7_cut 78 = .ok (.iinc 2 1, 3) := dk_132 2 1 (dk_at dksX7_cut_3 8 rfl rfl)
theorem dX7_cut_81 : decode cX7_cut 81 = .ok (.goto (-22), 3) := dk_167 255 234 (dk_at dksX7_cut_3 11 rfl rfl)
theorem dX7_cut_84 : decode cX7_cut 84 = .ok (.aload_n 0, 1) := dk_42 (dk_at dksX7_cut_3 14 rfl rfl)
theorem dX7_cut_85 : decode cX7_cut 85 = .ok (.iload_n 1, 1) := dk_27 (dk_at dksX7_cut_3 15 rfl rfl)
theorem dX7_cut_86 : decode cX7_cut 86 = .ok (.invokevirtual 272, 3) := dk_182 1 16 (dk_at dksX7_cut_3 16 rfl rfl)
theorem dX7_cut_89 : decode cX7_cut 89 = .ok (.ireturn, 1) := dk_172 (dk_at dksX7_cut_3 19 rfl rfl)
abbrev cX7_widow : ByteArray := prog_18_method_81_code
def yX7_widow : MethodName := ⟨RX7, "widow", "(IZ)Z"⟩
def dkwX7_widow_2 : List UInt8 := [3, 79, 29, 28, 159, 0, 7, 4, 167, 0, 4, 3, 172]
abbrev dktX7_widow_2 : List UInt8 := dkwX7_widow_2 ++ []
def dkwX7_widow_1 : List UInt8 := [42, 27, 182, 1, 55, 62, 42, 180, 0, 13, 27, 16, 6, 184, 0, 61, 28, 153, 0, 7, 4, 167, 0, 4]
abbrev dktX7_widow_1 : List UInt8 := dkwX7_widow_1 ++ dktX7_widow_2
def dkwX7_widow_0 : List UInt8 := [42, 3, 181, 0, 3, 42, 42, 27, 182, 1, 19, 4, 182, 0, 241, 153, 0, 5, 3, 172, 42, 182, 1, 77]
abbrev dktX7_widow_0 : List UInt8 := dkwX7_widow_0 ++ dktX7_widow_1
theorem dksX7_widow_0 : cX7_widow.data.toList.drop 0 = dktX7_widow_0 := by decide +kernel
theorem dksX7_widow_1 : cX7_widow.data.toList.drop 24 = dktX7_widow_1 := dk_seg dksX7_widow_0 24 rfl rfl
theorem dksX7_widow_2 : cX7_widow.data.toList.drop 48 = dktX7_widow_2 := dk_seg dksX7_widow_1 24 rfl rfl
theorem dX7_widow_0 : decode cX7_widow 0 = .ok (.aload_n 0, 1) := dk_42 (dk_at dksX7_widow_0 0 rfl rfl)
theorem dX7_widow_1 : decode cX7_widow 1 = .ok (.iconst 0, 1) := dk_3 (dk_at dksX7_widow_0 1 rfl rfl)
theorem dX7_widow_2 : decode cX7_widow 2 = .ok (.putfield 3, 3) := dk_181 0 3 (dk_at dksX7_widow_0 2 rfl rfl)
theorem dX7_widow_5 : decode cX7_widow 5 = .ok (.aload_n 0, 1) := dk_42 (dk_at dksX7_widow_0 5 rfl rfl)
theorem dX7_widow_6 : decode cX7_widow 6 = .ok (.aload_n 0, 1) := dk_42 (dk_at dksX7_widow_0 6 rfl rfl)
theorem dX7_widow_7 : decode cX7_widow 7 = .ok (.iload_n 1, 1) := dk_27 (dk_at dksX7_widow_0 7 rfl rfl)
theorem dX7_widow_8 : decode cX7_widow 8 = .ok (.invokevirtual 275, 3) := dk_182 1 19 (dk_at dksX7_widow_0 8 rfl rfl)
theorem dX7_widow_11 : decode cX7_widow 11 = .ok (.iconst 1, 1) := dk_4 (dk_at dksX7_widow_0 11 rfl rfl)
theorem dX7_widow_12 : decode cX7_widow 12 = .ok (.invokevirtual 241, 3) := dk_182 0 241 (dk_at dksX7_widow_0 12 rfl rfl)
theorem dX7_widow_15 : decode cX7_widow 15 = .ok (.ifCond .eq 5, 3) := dk_153 0 5 (dk_at dksX7_widow_0 15 rfl rfl)
theorem dX7_widow_18 : decode cX7_widow 18 = .ok (.iconst 0, 1) := dk_3 (dk_at dksX7_widow_0 18 rfl rfl)
theorem dX7_widow_19 : decode cX7_widow 19 = .ok (.ireturn, 1) := dk_172 (dk_at dksX7_widow_0 19 rfl rfl)
theorem dX7_widow_20 : decode cX7_widow 20 = .ok (.aload_n 0, 1) := dk_42 (dk_at dksX7_widow_0 20 rfl rfl)
theorem dX7_widow_21 : decode cX7_widow 21 = .ok (.invokevirtual 333, 3) := dk_182 1 77 (dk_at dksX7_widow_0 21 rfl rfl)
theorem dX7_widow_24 : decode cX7_widow 24 = .ok (.aload_n 0, 1) := dk_42 (dk_at dksX7_widow_1 0 rfl rfl)
theorem dX7_widow_25 : decode cX7_widow 25 = .ok (.iload_n 1, 1) := dk_27 (dk_at dksX7_widow_1 1 rfl rfl)
theorem dX7_widow_26 : decode cX7_widow 26 = .ok (.invokevirtual 311, 3) := dk_182 1 55 (dk_at dksX7_widow_1 2 rfl rfl)
theorem dX7_widow_29 : decode cX7_widow 29 = .ok (.istore_n 3, 1) := dk_62 (dk_at dksX7_widow_1 5 rfl rfl)
theorem dX7_widow_30 : decode cX7_widow 30 = .ok (.aload_n 0, 1) := dk_42 (dk_at dksX7_widow_1 6 rfl rfl)
theorem dX7_widow_31 : decode cX7_widow 31 = .ok (.getfield 13, 3) := dk_180 0 13 (dk_at dksX7_widow_1 7 rfl rfl)
theorem dX7_widow_34 : decode cX7_widow 34 = .ok (.iload_n 1, 1) := dk_27 (dk_at dksX7_widow_1 10 rfl rfl)
theorem dX7_widow_35 : decode cX7_widow 35 = .ok (.bipush 6, 2) := dk_16 6 (dk_at dksX7_widow_1 11 rfl rfl)
theorem dX7_widow_37 : decode cX7_widow 37 = .ok (.invokestatic 61, 3) := dk_184 0 61 (dk_at dksX7_widow_1 13 rfl rfl)
theorem dX7_widow_40 : decode cX7_widow 40 = .ok (.iload_n 2, 1) := dk_28 (dk_at dksX7_widow_1 16 rfl rfl)
theorem dX7_widow_41 : decode cX7_widow 41 = .ok (.ifCond .eq 7, 3) := dk_153 0 7 (dk_at dksX7_widow_1 17 rfl rfl)
theorem dX7_widow_44 : decode cX7_widow 44 = .ok (.iconst 1, 1) := dk_4 (dk_at dksX7_widow_1 20 rfl rfl)
theorem dX7_widow_45 : decode cX7_widow 45 = .ok (.goto 4, 3) := dk_167 0 4 (dk_at dksX7_widow_1 21 rfl rfl)
theorem dX7_widow_48 : decode cX7_widow 48 = .ok (.iconst 0, 1) := dk_3 (dk_at dksX7_widow_2 0 rfl rfl)
theorem dX7_widow_49 : decode cX7_widow 49 = .ok (.iastore, 1) := dk_79 (dk_at dksX7_widow_2 1 rfl rfl)
theorem dX7_widow_50 : decode cX7_widow 50 = .ok (.iload_n 3, 1) := dk_29 (dk_at dksX7_widow_2 2 rfl rfl)
theorem dX7_widow_51 : decode cX7_widow 51 = .ok (.iload_n 2, 1) := dk_28 (dk_at dksX7_widow_2 3 rfl rfl)
theorem dX7_widow_52 : decode cX7_widow 52 = .ok (.if_icmp .eq 7, 3) := dk_159 0 7 (dk_at dksX7_widow_2 4 rfl rfl)
theorem dX7_widow_55 : decode cX7_widow 55 = .ok (.iconst 1, 1) := dk_4 (dk_at dksX7_widow_2 7 rfl rfl)
theorem dX7_widow_56 : decode cX7_widow 56 = .ok (.goto 4, 3) := dk_167 0 4 (dk_at dksX7_widow_2 8 rfl rfl)
theorem dX7_widow_59 : decode cX7_widow 59 = .ok (.iconst 0, 1) := dk_3 (dk_at dksX7_widow_2 11 rfl rfl)
theorem dX7_widow_60 : decode cX7_widow 60 = .ok (.ireturn, 1) := dk_172 (dk_at dksX7_widow_2 12 rfl rfl)
abbrev cX7_days : ByteArray := prog_18_method_82_code
def yX7_days : MethodName := ⟨RX7, "days", "(I)I"⟩
def dkwX7_days_1 : List UInt8 := [182, 0, 241, 153, 0, 5, 3, 172, 42, 182, 1, 77, 42, 27, 182, 1, 80, 172]
abbrev dktX7_days_1 : List UInt8 := dkwX7_days_1 ++ []
def dkwX7_days_0 : List UInt8 := [42, 3, 181, 0, 3, 42, 27, 4, 16, 60, 184, 0, 78, 154, 0, 7, 4, 167, 0, 4, 3, 4]
abbrev dktX7_days_0 : List UInt8 := dkwX7_days_0 ++ dktX7_days_1
theorem dksX7_days_0 : cX7_days.data.toList.drop 0 = dktX7_days_0 := by decide +kernel
theorem dksX7_days_1 : cX7_days.data.toList.drop 22 = dktX7_days_1 := dk_seg dksX7_days_0 22 rfl rfl
theorem dX7_days_0 : decode cX7_days 0 = .ok (.aload_n 0, 1) := dk_42 (dk_at dksX7_days_0 0 rfl rfl)
theorem dX7_days_1 : decode cX7_days 1 = .ok (.iconst 0, 1) := dk_3 (dk_at dksX7_days_0 1 rfl rfl)
theorem dX7_days_2 : decode cX7_days 2 = .ok (.putfield 3, 3) := dk_181 0 3 (dk_at dksX7_days_0 2 rfl rfl)
theorem dX7_days_5 : decode cX7_days 5 = .ok (.aload_n 0, 1) := dk_42 (dk_at dksX7_days_0 5 rfl rfl)
theorem dX7_days_6 : decode cX7_days 6 = .ok (.iload_n 1, 1) := dk_27 (dk_at dksX7_days_0 6 rfl rfl)
theorem dX7_days_7 : decode cX7_days 7 = .ok (.iconst 1, 1) := dk_4 (dk_at dksX7_days_0 7 rfl rfl)
theorem dX7_days_8 : decode cX7_days 8 = .ok (.bipush 60, 2) := dk_16 60 (dk_at dksX7_days_0 8 rfl rfl)
theorem dX7_days_10 : decode cX7_days 10 = .ok (.invokestatic 78, 3) := dk_184 0 78 (dk_at dksX7_days_0 10 rfl rfl)
theorem dX7_days_13 : decode cX7_days 13 = .ok (.ifCond .ne 7, 3) := dk_154 0 7 (dk_at dksX7_days_0 13 rfl rfl)
theorem dX7_days_16 : decode cX7_days 16 = .ok (.iconst 1, 1) := dk_4 (dk_at dksX7_days_0 16 rfl rfl)
theorem dX7_days_17 : decode cX7_days 17 = .ok (.goto 4, 3) := dk_167 0 4 (dk_at dksX7_days_0 17 rfl rfl)
theorem dX7_days_20 : decode cX7_days 20 = .ok (.iconst 0, 1) := dk_3 (dk_at dksX7_days_0 20 rfl rfl)
theorem dX7_days_21 : decode cX7_days 21 = .ok (.iconst 1, 1) := dk_4 (dk_at dksX7_days_0 21 rfl rfl)
theorem dX7_days_22 : decode cX7_days 22 = .ok (.invokevirtual 241, 3) := dk_182 0 241 (dk_at dksX7_days_1 0 rfl rfl)
theorem dX7_days_25 : decode cX7_days 25 = .ok (.ifCond .eq 5, 3) := dk_153 0 5 (dk_at dksX7_days_1 3 rfl rfl)
theorem dX7_days_28 : decode cX7_days 28 = .ok (.iconst 0, 1) := dk_3 (dk_at dksX7_days_1 6 rfl rfl)
theorem dX7_days_29 : decode cX7_days 29 = .ok (.ireturn, 1) := dk_172 (dk_at dksX7_days_1 7 rfl rfl)
theorem dX7_days_30 : decode cX7_days 30 = .ok (.aload_n 0, 1) := dk_42 (dk_at dksX7_days_1 8 rfl rfl)
theorem dX7_days_31 : decode cX7_days 31 = .ok (.invokevirtual 333, 3) := dk_182 1 77 (dk_at dksX7_days_1 9 rfl rfl)
theorem dX7_days_34 : decode cX7_days 34 = .ok (.aload_n 0, 1) := dk_42 (dk_at dksX7_days_1 12 rfl rfl)
theorem dX7_days_35 : decode cX7_days 35 = .ok (.iload_n 1, 1) := dk_27 (dk_at dksX7_days_1 13 rfl rfl)
theorem dX7_days_36 : decode cX7_days 36 = .ok (.invokevirtual 336, 3) := dk_182 1 80 (dk_at dksX7_days_1 14 rfl rfl)
theorem dX7_days_39 : decode cX7_days 39 = .ok (.ireturn, 1) := dk_172 (dk_at dksX7_days_1 17 rfl rfl)
abbrev cX7_goesOn : ByteArray := prog_18_method_74_code
def yX7_goesOn : MethodName := ⟨RX7, "goesOn", "(I)I"⟩
def dkwX7_goesOn_0 : List UInt8 := [3, 61, 3, 62, 29, 27, 162, 0, 16, 28, 42, 182, 1, 71, 96, 61, 132, 3, 1, 167, 255, 241, 28, 172]
abbrev dktX7_goesOn_0 : List UInt8 := dkwX7_goesOn_0 ++ []
theorem dksX7_goesOn_0 : cX7_goesOn.data.toList.drop 0 = dktX7_goesOn_0 := by decide +kernel
theorem dX7_goesOn_0 : decode cX7_goesOn 0 = .ok (.iconst 0, 1) := dk_3 (dk_at dksX7_goesOn_0 0 rfl rfl)
theorem dX7_goesOn_1 : decode cX7_goesOn 1 = .ok (.istore_n 2, 1) := dk_61 (dk_at dksX7_goesOn_0 1 rfl rfl)
theorem dX7_goesOn_2 : decode cX7_goesOn 2 = .ok (.iconst 0, 1) := dk_3 (dk_at dksX7_goesOn_0 2 rfl rfl)
theorem dX7_goesOn_3 : decode cX7_goesOn 3 = .ok (.istore_n 3, 1) := dk_62 (dk_at dksX7_goesOn_0 3 rfl rfl)
theorem dX7_goesOn_4 : decode cX7_goesOn 4 = .ok (.iload_n 3, 1) := dk_29 (dk_at dksX7_goesOn_0 4 rfl rfl)
theorem dX7_goesOn_5 : decode cX7_goesOn 5 = .ok (.iload_n 1, 1) := dk_27 (dk_at dksX7_goesOn_0 5 rfl rfl)
theorem dX7_goesOn_6 : decode cX7_goesOn 6 = .ok (.if_icmp .ge 16, 3) := dk_162 0 16 (dk_at dksX7_goesOn_0 6 rfl rfl)
theorem dX7_goesOn_9 : decode cX7_goesOn 9 = .ok (.iload_n 2, 1) := dk_28 (dk_at dksX7_goesOn_0 9 rfl rfl)
theorem dX7_goesOn_10 : decode cX7_goesOn 10 = .ok (.aload_n 0, 1) := dk_42 (dk_at dksX7_goesOn_0 10 rfl rfl)
theorem dX7_goesOn_11 : decode cX7_goesOn 11 = .ok (.invokevirtual 327, 3) := dk_182 1 71 (dk_at dksX7_goesOn_0 11 rfl rfl)
theorem dX7_goesOn_14 : decode cX7_goesOn 14 = .ok (.iadd, 1) := dk_96 (dk_at dksX7_goesOn_0 14 rfl rfl)
theorem dX7_goesOn_15 : decode cX7_goesOn 15 = .ok (.istore_n 2, 1) := dk_61 (dk_at dksX7_goesOn_0 15 rfl rfl)
theorem dX7_goesOn_16 : decode cX7_goesOn 16 = .ok (.iinc 3 1, 3) := dk_132 3 1 (dk_at dksX7_goesOn_0 16 rfl rfl)
theorem dX7_goesOn_19 : decode cX7_goesOn 19 = .ok (.goto (-15), 3) := dk_167 255 241 (dk_at dksX7_goesOn_0 19 rfl rfl)
theorem dX7_goesOn_22 : decode cX7_goesOn 22 = .ok (.iload_n 2, 1) := dk_28 (dk_at dksX7_goesOn_0 22 rfl rfl)
theorem dX7_goesOn_23 : decode cX7_goesOn 23 = .ok (.ireturn, 1) := dk_172 (dk_at dksX7_goesOn_0 23 rfl rfl)
abbrev cX7_oneDay : ByteArray := prog_18_method_73_code
def yX7_oneDay : MethodName := ⟨RX7, "oneDay", "()I"⟩
def dkwX7_oneDay_5 : List UInt8 := [7, 46, 4, 96, 184, 1, 10, 79, 27, 172]
abbrev dktX7_oneDay_5 : List UInt8 := dkwX7_oneDay_5 ++ []
def dkwX7_oneDay_4 : List UInt8 := [42, 28, 3, 182, 0, 65, 4, 96, 184, 1, 10, 79, 42, 180, 0, 13, 7, 17, 39, 15, 42, 180, 0, 13]
abbrev dktX7_oneDay_4 : List UInt8 := dkwX7_oneDay_4 ++ dktX7_oneDay_5
def dkwX7_oneDay_3 : List UInt8 := [182, 1, 58, 42, 180, 0, 13, 16, 6, 46, 162, 0, 26, 42, 180, 0, 13, 28, 3, 184, 0, 61, 16, 99]
abbrev dktX7_oneDay_3 : List UInt8 := dkwX7_oneDay_3 ++ dktX7_oneDay_4
def dkwX7_oneDay_2 : List UInt8 := [8, 184, 0, 68, 28, 79, 42, 28, 29, 42, 28, 29, 182, 1, 64, 182, 1, 67, 4, 60, 42, 16, 100]
abbrev dktX7_oneDay_2 : List UInt8 := dkwX7_oneDay_2 ++ dktX7_oneDay_3
def dkwX7_oneDay_1 : List UInt8 := [61, 42, 42, 182, 0, 82, 182, 1, 58, 62, 42, 29, 28, 182, 1, 61, 153, 0, 28, 42, 180, 0, 13, 29]
abbrev dktX7_oneDay_1 : List UInt8 := dkwX7_oneDay_1 ++ dktX7_oneDay_2
def dkwX7_oneDay_0 : List UInt8 := [3, 60, 42, 182, 0, 74, 158, 0, 101, 42, 182, 0, 82, 158, 0, 94, 42, 42, 182, 0, 74, 182, 1, 58]
abbrev dktX7_oneDay_0 : List UInt8 := dkwX7_oneDay_0 ++ dktX7_oneDay_1
theorem dksX7_oneDay_0 : cX7_oneDay.data.toList.drop 0 = dktX7_oneDay_0 := by decide +kernel
theorem dksX7_oneDay_1 : cX7_oneDay.data.toList.drop 24 = dktX7_oneDay_1 := dk_seg dksX7_oneDay_0 24 rfl rfl
theorem dksX7_oneDay_2 : cX7_oneDay.data.toList.drop 48 = dktX7_oneDay_2 := dk_seg dksX7_oneDay_1 24 rfl rfl
theorem dksX7_oneDay_3 : cX7_oneDay.data.toList.drop 71 = dktX7_oneDay_3 := dk_seg dksX7_oneDay_2 23 rfl rfl
theorem dksX7_oneDay_4 : cX7_oneDay.data.toList.drop 95 = dktX7_oneDay_4 := dk_seg dksX7_oneDay_3 24 rfl rfl
theorem dksX7_oneDay_5 : cX7_oneDay.data.toList.drop 119 = dktX7_oneDay_5 := dk_seg dksX7_oneDay_4 24 rfl rfl
theorem dX7_oneDay_0 : decode cX7_oneDay 0 = .ok (.iconst 0, 1) := dk_3 (dk_at dksX7_oneDay_0 0 rfl rfl)
theorem dX7_oneDay_1 : decode cX7_oneDay 1 = .ok (.istore_n 1, 1) := dk_60 (dk_at dksX7_oneDay_0 1 rfl rfl)
theorem dX7_oneDay_2 : decode cX7_oneDay 2 = .ok (.aload_n 0, 1) := dk_42 (dk_at dksX7_oneDay_0 2 rfl rfl)
theorem dX7_oneDay_3 : decode cX7_oneDay 3 = .ok (.invokevirtual 74, 3) := dk_182 0 74 (dk_at dksX7_oneDay_0 3 rfl rfl)
theorem dX7_oneDay_6 : decode cX7_oneDay 6 = .ok (.ifCond .le 101, 3) := dk_158 0 101 (dk_at dksX7_oneDay_0 6 rfl rfl)
theorem dX7_oneDay_9 : decode cX7_oneDay 9 = .ok (.aload_n 0, 1) := dk_42 (dk_at dksX7_oneDay_0 9 rfl rfl)
theorem dX7_oneDay_10 : decode cX7_oneDay 10 = .ok (.invokevirtual 82, 3) := dk_182 0 82 (dk_at dksX7_oneDay_0 10 rfl rfl)
theorem dX7_oneDay_13 : decode cX7_oneDay 13 = .ok (.ifCond .le 94, 3) := dk_158 0 94 (dk_at dksX7_oneDay_0 13 rfl rfl)
theorem dX7_oneDay_16 : decode cX7_oneDay 16 = .ok (.aload_n 0, 1) := dk_42 (dk_at dksX7_oneDay_0 16 rfl rfl)
theorem dX7_oneDay_17 : decode cX7_oneDay 17 = .ok (.aload_n 0, 1) := dk_42 (dk_at dksX7_oneDay_0 17 rfl rfl)
theorem dX7_oneDay_18 : decode cX7_oneDay 18 = .ok (.invokevirtual 74, 3) := dk_182 0 74 (dk_at dksX7_oneDay_0 18 rfl rfl)
theorem dX7_oneDay_21 : decode cX7_oneDay 21 = .ok (.invokevirtual 314, 3) := dk_182 1 58 (dk_at dksX7_oneDay_0 21 rfl rfl)
theorem dX7_oneDay_24 : decode cX7_oneDay 24 = .ok (.istore_n 2, 1) := dk_61 (dk_at dksX7_oneDay_1 0 rfl rfl)
theorem dX7_oneDay_25 : decode cX7_oneDay 25 = .ok (.aload_n 0, 1) := dk_42 (dk_at dksX7_oneDay_1 1 rfl rfl)
theorem dX7_oneDay_26 : decode cX7_oneDay 26 = .ok (.aload_n 0, 1) := dk_42 (dk_at dksX7_oneDay_1 2 rfl rfl)
theorem dX7_oneDay_27 : decode cX7_oneDay 27 = .ok (.invokevirtual 82, 3) := dk_182 0 82 (dk_at dksX7_oneDay_1 3 rfl rfl)
theorem dX7_oneDay_30 : decode cX7_oneDay 30 = .ok (.invokevirtual 314, 3) := dk_182 1 58 (dk_at dksX7_oneDay_1 6 rfl rfl)
theorem dX7_oneDay_33 : decode cX7_oneDay 33 = .ok (.istore_n 3, 1) := dk_62 (dk_at dksX7_oneDay_1 9 rfl rfl)
theorem dX7_oneDay_34 : decode cX7_oneDay 34 = .ok (.aload_n 0, 1) := dk_42 (dk_at dksX7_oneDay_1 10 rfl rfl)
theorem dX7_oneDay_35 : decode cX7_oneDay 35 = .ok (.iload_n 3, 1) := dk_29 (dk_at dksX7_oneDay_1 11 rfl rfl)
theorem dX7_oneDay_36 : decode cX7_oneDay 36 = .ok (.iload_n 2, 1) := dk_28 (dk_at dksX7_oneDay_1 12 rfl rfl)
theorem dX7_oneDay_37 : decode cX7_oneDay 37 = .ok (.invokevirtual 317, 3) := dk_182 1 61 (dk_at dksX7_oneDay_1 13 rfl rfl)
theorem dX7_oneDay_40 : decode cX7_oneDay 40 = .ok (.ifCond .eq 28, 3) := dk_153 0 28 (dk_at dksX7_oneDay_1 16 rfl rfl)
theorem dX7_oneDay_43 : decode cX7_oneDay 43 = .ok (.aload_n 0, 1) := dk_42 (dk_at dksX7_oneDay_1 19 rfl rfl)
theorem dX7_oneDay_44 : decode cX7_oneDay 44 = .ok (.getfield 13, 3) := dk_180 0 13 (dk_at dksX7_oneDay_1 20 rfl rfl)
theorem dX7_oneDay_47 : decode cX7_oneDay 47 = .ok (.iload_n 3, 1) := dk_29 (dk_at dksX7_oneDay_1 23 rfl rfl)
theorem dX7_oneDay_48 : decode cX7_oneDay 48 = .ok (.iconst 5, 1) := dk_8 (dk_at dksX7_oneDay_2 0 rfl rfl)
theorem dX7_oneDay_49 : decode cX7_oneDay 49 = .ok (.invokestatic 68, 3) := dk_184 0 68 (dk_at dksX7_oneDay_2 1 rfl rfl)
theorem dX7_oneDay_52 : decode cX7_oneDay 52 = .ok (.iload_n 2, 1) := dk_28 (dk_at dksX7_oneDay_2 4 rfl rfl)
theorem dX7_oneDay_53 : decode cX7_oneDay 53 = .ok (.iastore, 1) := dk_79 (dk_at dksX7_oneDay_2 5 rfl rfl)
theorem dX7_oneDay_54 : decode cX7_oneDay 54 = .ok (.aload_n 0, 1) := dk_42 (dk_at dksX7_oneDay_2 6 rfl rfl)
theorem dX7_oneDay_55 : decode cX7_oneDay 55 = .ok (.iload_n 2, 1) := dk_28 (dk_at dksX7_oneDay_2 7 rfl rfl)
theorem dX7_oneDay_56 : decode cX7_oneDay 56 = .ok (.iload_n 3, 1) := dk_29 (dk_at dksX7_oneDay_2 8 rfl rfl)
theorem dX7_oneDay_57 : decode cX7_oneDay 57 = .ok (.aload_n 0, 1) := dk_42 (dk_at dksX7_oneDay_2 9 rfl rfl)
theorem dX7_oneDay_58 : decode cX7_oneDay 58 = .ok (.iload_n 2, 1) := dk_28 (dk_at dksX7_oneDay_2 10 rfl rfl)
theorem dX7_oneDay_59 : decode cX7_oneDay 59 = .ok (.iload_n 3, 1) := dk_29 (dk_at dksX7_oneDay_2 11 rfl rfl)
theorem dX7_oneDay_60 : decode cX7_oneDay 60 = .ok (.invokevirtual 320, 3) := dk_182 1 64 (dk_at dksX7_oneDay_2 12 rfl rfl)
theorem dX7_oneDay_63 : decode cX7_oneDay 63 = .ok (.invokevirtual 323, 3) := dk_182 1 67 (dk_at dksX7_oneDay_2 15 rfl rfl)
theorem dX7_oneDay_66 : decode cX7_oneDay 66 = .ok (.iconst 1, 1) := dk_4 (dk_at dksX7_oneDay_2 18 rfl rfl)
theorem dX7_oneDay_67 : decode cX7_oneDay 67 = .ok (.istore_n 1, 1) := dk_60 (dk_at dksX7_oneDay_2 19 rfl rfl)
theorem dX7_oneDay_68 : decode cX7_oneDay 68 = .ok (.aload_n 0, 1) := dk_42 (dk_at dksX7_oneDay_2 20 rfl rfl)
theorem dX7_oneDay_69 : decode cX7_oneDay 69 = .ok (.bipush 100, 2) := dk_16 100 (dk_at dksX7_oneDay_2 21 rfl rfl)
theorem dX7_oneDay_71 : decode cX7_oneDay 71 = .ok (.invokevirtual 314, 3) := dk_182 1 58 (dk_at dksX7_oneDay_3 0 rfl rfl)
theorem dX7_oneDay_74 : decode cX7_oneDay 74 = .ok (.aload_n 0, 1) := dk_42 (dk_at dksX7_oneDay_3 3 rfl rfl)
theorem dX7_oneDay_75 : decode cX7_oneDay 75 = .ok (.getfield 13, 3) := dk_180 0 13 (dk_at dksX7_oneDay_3 4 rfl rfl)
theorem dX7_oneDay_78 : decode cX7_oneDay 78 = .ok (.bipush 6, 2) := dk_16 6 (dk_at dksX7_oneDay_3 7 rfl rfl)
theorem dX7_oneDay_80 : decode cX7_oneDay 80 = .ok (.iaload, 1) := dk_46 (dk_at dksX7_oneDay_3 9 rfl rfl)
theorem dX7_oneDay_81 : decode cX7_oneDay 81 = .ok (.if_icmp .ge 26, 3) := dk_162 0 26 (dk_at dksX7_oneDay_3 10 rfl rfl)
theorem dX7_oneDay_84 : decode cX7_oneDay 84 = .ok (.aload_n 0, 1) := dk_42 (dk_at dksX7_oneDay_3 13 rfl rfl)
theorem dX7_oneDay_85 : decode cX7_oneDay 85 = .ok (.getfield 13, 3) := dk_180 0 13 (dk_at dksX7_oneDay_3 14 rfl rfl)
theorem dX7_oneDay_88 : decode cX7_oneDay 88 = .ok (.iload_n 2, 1) := dk_28 (dk_at dksX7_oneDay_3 17 rfl rfl)
theorem dX7_oneDay_89 : decode cX7_oneDay 89 = .ok (.iconst 0, 1) := dk_3 (dk_at dksX7_oneDay_3 18 rfl rfl)
theorem dX7_oneDay_90 : decode cX7_oneDay 90 = .ok (.invokestatic 61, 3) := dk_184 0 61 (dk_at dksX7_oneDay_3 19 rfl rfl)
theorem dX7_oneDay_93 : decode cX7_oneDay 93 = .ok (.bipush 99, 2) := dk_16 99 (dk_at dksX7_oneDay_3 22 rfl rfl)
theorem dX7_oneDay_95 : decode cX7_oneDay 95 = .ok (.aload_n 0, 1) := dk_42 (dk_at dksX7_oneDay_4 0 rfl rfl)
theorem dX7_oneDay_96 : decode cX7_oneDay 96 = .ok (.iload_n 2, 1) := dk_28 (dk_at dksX7_oneDay_4 1 rfl rfl)
theorem dX7_oneDay_97 : decode cX7_oneDay 97 = .ok (.iconst 0, 1) := dk_3 (dk_at dksX7_oneDay_4 2 rfl rfl)
theorem dX7_oneDay_98 : decode cX7_oneDay 98 = .ok (.invokevirtual 65, 3) := dk_182 0 65 (dk_at dksX7_oneDay_4 3 rfl rfl)
theorem dX7_oneDay_101 : decode cX7_oneDay 101 = .ok (.iconst 1, 1) := dk_4 (dk_at dksX7_oneDay_4 6 rfl rfl)
theorem dX7_oneDay_102 : decode cX7_oneDay 102 = .ok (.iadd, 1) := dk_96 (dk_at dksX7_oneDay_4 7 rfl rfl)
theorem dX7_oneDay_103 : decode cX7_oneDay 103 = .ok (.invokestatic 266, 3) := dk_184 1 10 (dk_at dksX7_oneDay_4 8 rfl rfl)
theorem dX7_oneDay_106 : decode cX7_oneDay 106 = .ok (.iastore, 1) := dk_79 (dk_at dksX7_oneDay_4 11 rfl rfl)
theorem dX7_oneDay_107 : decode cX7_oneDay 107 = .ok (.aload_n 0, 1) := dk_42 (dk_at dksX7_oneDay_4 12 rfl rfl)
theorem dX7_oneDay_108 : decode cX7_oneDay 108 = .ok (.getfield 13, 3) := dk_180 0 13 (dk_at dksX7_oneDay_4 13 rfl rfl)
theorem dX7_oneDay_111 : decode cX7_oneDay 111 = .ok (.iconst 4, 1) := dk_7 (dk_at dksX7_oneDay_4 16 rfl rfl)
theorem dX7_oneDay_112 : decode cX7_oneDay 112 = .ok (.sipush 9999, 3) := dk_17 39 15 (dk_at dksX7_oneDay_4 17 rfl rfl)
theorem dX7_oneDay_115 : decode cX7_oneDay 115 = .ok (.aload_n 0, 1) := dk_42 (dk_at dksX7_oneDay_4 20 rfl rfl)
theorem dX7_oneDay_116 : decode cX7_oneDay 116 = .ok (.getfield 13, 3) := dk_180 0 13 (dk_at dksX7_oneDay_4 21 rfl rfl)
theorem dX7_oneDay_119 : decode cX7_oneDay 119 = .ok (.iconst 4, 1) := dk_7 (dk_at dksX7_oneDay_5 0 rfl rfl)
theorem dX7_oneDay_120 : decode cX7_oneDay 120 = .ok (.iaload, 1) := dk_46 (dk_at dksX7_oneDay_5 1 rfl rfl)
theorem dX7_oneDay_121 : decode cX7_oneDay 121 = .ok (.iconst 1, 1) := dk_4 (dk_at dksX7_oneDay_5 2 rfl rfl)
theorem dX7_oneDay_122 : decode cX7_oneDay 122 = .ok (.iadd, 1) := dk_96 (dk_at dksX7_oneDay_5 3 rfl rfl)
theorem dX7_oneDay_123 : decode cX7_oneDay 123 = .ok (.invokestatic 266, 3) := dk_184 1 10 (dk_at dksX7_oneDay_5 4 rfl rfl)
theorem dX7_oneDay_126 : decode cX7_oneDay 126 = .ok (.iastore, 1) := dk_79 (dk_at dksX7_oneDay_5 7 rfl rfl)
theorem dX7_oneDay_127 : decode cX7_oneDay 127 = .ok (.iload_n 1, 1) := dk_27 (dk_at dksX7_oneDay_5 8 rfl rfl)
theorem dX7_oneDay_128 : decode cX7_oneDay 128 = .ok (.ireturn, 1) := dk_172 (dk_at dksX7_oneDay_5 9 rfl rfl)
abbrev cX7_drawn : ByteArray := prog_18_method_22_code
def yX7_drawn : MethodName := ⟨RX7, "drawn", "(I)I"⟩
def dkwX7_drawn_1 : List UInt8 := [180, 0, 13, 16, 8, 46, 16, 16, 122, 17, 127, 255, 126, 27, 112, 172]
abbrev dktX7_drawn_1 : List UInt8 := dkwX7_drawn_1 ++ []
def dkwX7_drawn_0 : List UInt8 := [42, 180, 0, 13, 16, 8, 18, 85, 42, 180, 0, 13, 16, 8, 46, 104, 17, 48, 57, 96, 79, 42]
abbrev dktX7_drawn_0 : List UInt8 := dkwX7_drawn_0 ++ dktX7_drawn_1
theorem dksX7_drawn_0 : cX7_drawn.data.toList.drop 0 = dktX7_drawn_0 := by decide +kernel
theorem dksX7_drawn_1 : cX7_drawn.data.toList.drop 22 = dktX7_drawn_1 := dk_seg dksX7_drawn_0 22 rfl rfl
theorem dX7_drawn_0 : decode cX7_drawn 0 = .ok (.aload_n 0, 1) := dk_42 (dk_at dksX7_drawn_0 0 rfl rfl)
theorem dX7_drawn_1 : decode cX7_drawn 1 = .ok (.getfield 13, 3) := dk_180 0 13 (dk_at dksX7_drawn_0 1 rfl rfl)
theorem dX7_drawn_4 : decode cX7_drawn 4 = .ok (.bipush 8, 2) := dk_16 8 (dk_at dksX7_drawn_0 4 rfl rfl)
theorem dX7_drawn_6 : decode cX7_drawn 6 = .ok (.ldc 85, 2) := dk_18 85 (dk_at dksX7_drawn_0 6 rfl rfl)
theorem dX7_drawn_8 : decode cX7_drawn 8 = .ok (.aload_n 0, 1) := dk_42 (dk_at dksX7_drawn_0 8 rfl rfl)
theorem dX7_drawn_9 : decode cX7_drawn 9 = .ok (.getfield 13, 3) := dk_180 0 13 (dk_at dksX7_drawn_0 9 rfl rfl)
theorem dX7_drawn_12 : decode cX7_drawn 12 = .ok (.bipush 8, 2) := dk_16 8 (dk_at dksX7_drawn_0 12 rfl rfl)
theorem dX7_drawn_14 : decode cX7_drawn 14 = .ok (.iaload, 1) := dk_46 (dk_at dksX7_drawn_0 14 rfl rfl)
theorem dX7_drawn_15 : decode cX7_drawn 15 = .ok (.imul, 1) := dk_104 (dk_at dksX7_drawn_0 15 rfl rfl)
theorem dX7_drawn_16 : decode cX7_drawn 16 = .ok (.sipush 12345, 3) := dk_17 48 57 (dk_at dksX7_drawn_0 16 rfl rfl)
theorem dX7_drawn_19 : decode cX7_drawn 19 = .ok (.iadd, 1) := dk_96 (dk_at dksX7_drawn_0 19 rfl rfl)
theorem dX7_drawn_20 : decode cX7_drawn 20 = .ok (.iastore, 1) := dk_79 (dk_at dksX7_drawn_0 20 rfl rfl)
theorem dX7_drawn_21 : decode cX7_drawn 21 = .ok (.aload_n 0, 1) := dk_42 (dk_at dksX7_drawn_0 21 rfl rfl)
theorem dX7_drawn_22 : decode cX7_drawn 22 = .ok (.getfield 13, 3) := dk_180 0 13 (dk_at dksX7_drawn_1 0 rfl rfl)
theorem dX7_drawn_25 : decode cX7_drawn 25 = .ok (.bipush 8, 2) := dk_16 8 (dk_at dksX7_drawn_1 3 rfl rfl)
theorem dX7_drawn_27 : decode cX7_drawn 27 = .ok (.iaload, 1) := dk_46 (dk_at dksX7_drawn_1 5 rfl rfl)
theorem dX7_drawn_28 : decode cX7_drawn 28 = .ok (.bipush 16, 2) := dk_16 16 (dk_at dksX7_drawn_1 6 rfl rfl)
theorem dX7_drawn_30 : decode cX7_drawn 30 = .ok (.ishr, 1) := dk_122 (dk_at dksX7_drawn_1 8 rfl rfl)
theorem dX7_drawn_31 : decode cX7_drawn 31 = .ok (.sipush 32767, 3) := dk_17 127 255 (dk_at dksX7_drawn_1 9 rfl rfl)
theorem dX7_drawn_34 : decode cX7_drawn 34 = .ok (.iand, 1) := dk_126 (dk_at dksX7_drawn_1 12 rfl rfl)
theorem dX7_drawn_35 : decode cX7_drawn 35 = .ok (.iload_n 1, 1) := dk_27 (dk_at dksX7_drawn_1 13 rfl rfl)
theorem dX7_drawn_36 : decode cX7_drawn 36 = .ok (.irem, 1) := dk_112 (dk_at dksX7_drawn_1 14 rfl rfl)
theorem dX7_drawn_37 : decode cX7_drawn 37 = .ok (.ireturn, 1) := dk_172 (dk_at dksX7_drawn_1 15 rfl rfl)
abbrev cX7_comesTo : ByteArray := prog_18_method_72_code
def yX7_comesTo : MethodName := ⟨RX7, "comesTo", "(II)Z"⟩
def dkwX7_comesTo_2 : List UInt8 := [3, 172]
abbrev dktX7_comesTo_2 : List UInt8 := dkwX7_comesTo_2 ++ []
def dkwX7_comesTo_1 : List UInt8 := [182, 0, 71, 28, 159, 0, 16, 42, 42, 27, 8, 182, 0, 71, 182, 1, 55, 154, 0, 7, 4, 167, 0, 4]
abbrev dktX7_comesTo_1 : List UInt8 := dkwX7_comesTo_1 ++ dktX7_comesTo_2
def dkwX7_comesTo_0 : List UInt8 := [42, 27, 182, 1, 49, 154, 0, 12, 42, 27, 28, 182, 1, 52, 153, 0, 5, 3, 172, 42, 27, 8]
abbrev dktX7_comesTo_0 : List UInt8 := dkwX7_comesTo_0 ++ dktX7_comesTo_1
theorem dksX7_comesTo_0 : cX7_comesTo.data.toList.drop 0 = dktX7_comesTo_0 := by decide +kernel
theorem dksX7_comesTo_1 : cX7_comesTo.data.toList.drop 22 = dktX7_comesTo_1 := dk_seg dksX7_comesTo_0 22 rfl rfl
theorem dksX7_comesTo_2 : cX7_comesTo.data.toList.drop 46 = dktX7_comesTo_2 := dk_seg dksX7_comesTo_1 24 rfl rfl
theorem dX7_comesTo_0 : decode cX7_comesTo 0 = .ok (.aload_n 0, 1) := dk_42 (dk_at dksX7_comesTo_0 0 rfl rfl)
theorem dX7_comesTo_1 : decode cX7_comesTo 1 = .ok (.iload_n 1, 1) := dk_27 (dk_at dksX7_comesTo_0 1 rfl rfl)
theorem dX7_comesTo_2 : decode cX7_comesTo 2 = .ok (.invokevirtual 305, 3) := dk_182 1 49 (dk_at dksX7_comesTo_0 2 rfl rfl)
theorem dX7_comesTo_5 : decode cX7_comesTo 5 = .ok (.ifCond .ne 12, 3) := dk_154 0 12 (dk_at dksX7_comesTo_0 5 rfl rfl)
theorem dX7_comesTo_8 : decode cX7_comesTo 8 = .ok (.aload_n 0, 1) := dk_42 (dk_at dksX7_comesTo_0 8 rfl rfl)
theorem dX7_comesTo_9 : decode cX7_comesTo 9 = .ok (.iload_n 1, 1) := dk_27 (dk_at dksX7_comesTo_0 9 rfl rfl)
theorem dX7_comesTo_10 : decode cX7_comesTo 10 = .ok (.iload_n 2, 1) := dk_28 (dk_at dksX7_comesTo_0 10 rfl rfl)
theorem dX7_comesTo_11 : decode cX7_comesTo 11 = .ok (.invokevirtual 308, 3) := dk_182 1 52 (dk_at dksX7_comesTo_0 11 rfl rfl)
theorem dX7_comesTo_14 : decode cX7_comesTo 14 = .ok (.ifCond .eq 5, 3) := dk_153 0 5 (dk_at dksX7_comesTo_0 14 rfl rfl)
theorem dX7_comesTo_17 : decode cX7_comesTo 17 = .ok (.iconst 0, 1) := dk_3 (dk_at dksX7_comesTo_0 17 rfl rfl)
theorem dX7_comesTo_18 : decode cX7_comesTo 18 = .ok (.ireturn, 1) := dk_172 (dk_at dksX7_comesTo_0 18 rfl rfl)
theorem dX7_comesTo_19 : decode cX7_comesTo 19 = .ok (.aload_n 0, 1) := dk_42 (dk_at dksX7_comesTo_0 19 rfl rfl)
theorem dX7_comesTo_20 : decode cX7_comesTo 20 = .ok (.iload_n 1, 1) := dk_27 (dk_at dksX7_comesTo_0 20 rfl rfl)
theorem dX7_comesTo_21 : decode cX7_comesTo 21 = .ok (.iconst 5, 1) := dk_8 (dk_at dksX7_comesTo_0 21 rfl rfl)
theorem dX7_comesTo_22 : decode cX7_comesTo 22 = .ok (.invokevirtual 71, 3) := dk_182 0 71 (dk_at dksX7_comesTo_1 0 rfl rfl)
theorem dX7_comesTo_25 : decode cX7_comesTo 25 = .ok (.iload_n 2, 1) := dk_28 (dk_at dksX7_comesTo_1 3 rfl rfl)
theorem dX7_comesTo_26 : decode cX7_comesTo 26 = .ok (.if_icmp .eq 16, 3) := dk_159 0 16 (dk_at dksX7_comesTo_1 4 rfl rfl)
theorem dX7_comesTo_29 : decode cX7_comesTo 29 = .ok (.aload_n 0, 1) := dk_42 (dk_at dksX7_comesTo_1 7 rfl rfl)
theorem dX7_comesTo_30 : decode cX7_comesTo 30 = .ok (.aload_n 0, 1) := dk_42 (dk_at dksX7_comesTo_1 8 rfl rfl)
theorem dX7_comesTo_31 : decode cX7_comesTo 31 = .ok (.iload_n 1, 1) := dk_27 (dk_at dksX7_comesTo_1 9 rfl rfl)
theorem dX7_comesTo_32 : decode cX7_comesTo 32 = .ok (.iconst 5, 1) := dk_8 (dk_at dksX7_comesTo_1 10 rfl rfl)
theorem dX7_comesTo_33 : decode cX7_comesTo 33 = .ok (.invokevirtual 71, 3) := dk_182 0 71 (dk_at dksX7_comesTo_1 11 rfl rfl)
theorem dX7_comesTo_36 : decode cX7_comesTo 36 = .ok (.invokevirtual 311, 3) := dk_182 1 55 (dk_at dksX7_comesTo_1 14 rfl rfl)
theorem dX7_comesTo_39 : decode cX7_comesTo 39 = .ok (.ifCond .ne 7, 3) := dk_154 0 7 (dk_at dksX7_comesTo_1 17 rfl rfl)
theorem dX7_comesTo_42 : decode cX7_comesTo 42 = .ok (.iconst 1, 1) := dk_4 (dk_at dksX7_comesTo_1 20 rfl rfl)
theorem dX7_comesTo_43 : decode cX7_comesTo 43 = .ok (.goto 4, 3) := dk_167 0 4 (dk_at dksX7_comesTo_1 21 rfl rfl)
theorem dX7_comesTo_46 : decode cX7_comesTo 46 = .ok (.iconst 0, 1) := dk_3 (dk_at dksX7_comesTo_2 0 rfl rfl)
theorem dX7_comesTo_47 : decode cX7_comesTo 47 = .ok (.ireturn, 1) := dk_172 (dk_at dksX7_comesTo_2 1 rfl rfl)
abbrev cX7_isStuckElsewhere : ByteArray := prog_18_method_71_code
def yX7_isStuckElsewhere : MethodName := ⟨RX7, "isStuckElsewhere", "(II)Z"⟩
def dkwX7_isStuckElsewhere_0 : List UInt8 := [42, 27, 182, 1, 46, 153, 0, 17, 42, 27, 8, 182, 0, 71, 28, 159, 0, 7, 4, 167, 0, 4, 3, 172]
abbrev dktX7_isStuckElsewhere_0 : List UInt8 := dkwX7_isStuckElsewhere_0 ++ []
theorem dksX7_isStuckElsewhere_0 : cX7_isStuckElsewhere.data.toList.drop 0 = dktX7_isStuckElsewhere_0 := by decide +kernel
theorem dX7_isStuckElsewhere_0 : decode cX7_isStuckElsewhere 0 = .ok (.aload_n 0, 1) := dk_42 (dk_at dksX7_isStuckElsewhere_0 0 rfl rfl)
theorem dX7_isStuckElsewhere_1 : decode cX7_isStuckElsewhere 1 = .ok (.iload_n 1, 1) := dk_27 (dk_at dksX7_isStuckElsewhere_0 1 rfl rfl)
theorem dX7_isStuckElsewhere_2 : decode cX7_isStuckElsewhere 2 = .ok (.invokevirtual 302, 3) := dk_182 1 46 (dk_at dksX7_isStuckElsewhere_0 2 rfl rfl)
theorem dX7_isStuckElsewhere_5 : decode cX7_isStuckElsewhere 5 = .ok (.ifCond .eq 17, 3) := dk_153 0 17 (dk_at dksX7_isStuckElsewhere_0 5 rfl rfl)
theorem dX7_isStuckElsewhere_8 : decode cX7_isStuckElsewhere 8 = .ok (.aload_n 0, 1) := dk_42 (dk_at dksX7_isStuckElsewhere_0 8 rfl rfl)
theorem dX7_isStuckElsewhere_9 : decode cX7_isStuckElsewhere 9 = .ok (.iload_n 1, 1) := dk_27 (dk_at dksX7_isStuckElsewhere_0 9 rfl rfl)
theorem dX7_isStuckElsewhere_10 : decode cX7_isStuckElsewhere 10 = .ok (.iconst 5, 1) := dk_8 (dk_at dksX7_isStuckElsewhere_0 10 rfl rfl)
theorem dX7_isStuckElsewhere_11 : decode cX7_isStuckElsewhere 11 = .ok (.invokevirtual 71, 3) := dk_182 0 71 (dk_at dksX7_isStuckElsewhere_0 11 rfl rfl)
theorem dX7_isStuckElsewhere_14 : decode cX7_isStuckElsewhere 14 = .ok (.iload_n 2, 1) := dk_28 (dk_at dksX7_isStuckElsewhere_0 14 rfl rfl)
theorem dX7_isStuckElsewhere_15 : decode cX7_isStuckElsewhere 15 = .ok (.if_icmp .eq 7, 3) := dk_159 0 7 (dk_at dksX7_isStuckElsewhere_0 15 rfl rfl)
theorem dX7_isStuckElsewhere_18 : decode cX7_isStuckElsewhere 18 = .ok (.iconst 1, 1) := dk_4 (dk_at dksX7_isStuckElsewhere_0 18 rfl rfl)
theorem dX7_isStuckElsewhere_19 : decode cX7_isStuckElsewhere 19 = .ok (.goto 4, 3) := dk_167 0 4 (dk_at dksX7_isStuckElsewhere_0 19 rfl rfl)
theorem dX7_isStuckElsewhere_22 : decode cX7_isStuckElsewhere 22 = .ok (.iconst 0, 1) := dk_3 (dk_at dksX7_isStuckElsewhere_0 22 rfl rfl)
theorem dX7_isStuckElsewhere_23 : decode cX7_isStuckElsewhere 23 = .ok (.ireturn, 1) := dk_172 (dk_at dksX7_isStuckElsewhere_0 23 rfl rfl)
abbrev cX7_best : ByteArray := prog_18_method_86_code
def yX7_best : MethodName := ⟨RX7, "best", "(I)I"⟩
def dkwX7_best_2 : List UInt8 := [29, 182, 1, 34, 42, 27, 28, 182, 1, 34, 164, 0, 5, 29, 61, 132, 3, 1, 167, 255, 214, 28, 172]
abbrev dktX7_best_2 : List UInt8 := dkwX7_best_2 ++ []
def dkwX7_best_1 : List UInt8 := [29, 42, 182, 0, 82, 162, 0, 40, 42, 29, 27, 182, 1, 83, 153, 0, 25, 28, 2, 159, 0, 18, 42, 27]
abbrev dktX7_best_1 : List UInt8 := dkwX7_best_1 ++ dktX7_best_2
def dkwX7_best_0 : List UInt8 := [42, 3, 181, 0, 3, 42, 42, 27, 182, 1, 19, 4, 182, 0, 241, 153, 0, 5, 3, 172, 2, 61, 3, 62]
abbrev dktX7_best_0 : List UInt8 := dkwX7_best_0 ++ dktX7_best_1
theorem dksX7_best_0 : cX7_best.data.toList.drop 0 = dktX7_best_0 := by decide +kernel
theorem dksX7_best_1 : cX7_best.data.toList.drop 24 = dktX7_best_1 := dk_seg dksX7_best_0 24 rfl rfl
theorem dksX7_best_2 : cX7_best.data.toList.drop 48 = dktX7_best_2 := dk_seg dksX7_best_1 24 rfl rfl
theorem dX7_best_0 : decode cX7_best 0 = .ok (.aload_n 0, 1) := dk_42 (dk_at dksX7_best_0 0 rfl rfl)
theorem dX7_best_1 : decode cX7_best 1 = .ok (.iconst 0, 1) := dk_3 (dk_at dksX7_best_0 1 rfl rfl)
theorem dX7_best_2 : decode cX7_best 2 = .ok (.putfield 3, 3) := dk_181 0 3 (dk_at dksX7_best_0 2 rfl rfl)
theorem dX7_best_5 : decode cX7_best 5 = .ok (.aload_n 0, 1) := dk_42 (dk_at dksX7_best_0 5 rfl rfl)
theorem dX7_best_6 : decode cX7_best 6 = .ok (.aload_n 0, 1) := dk_42 (dk_at dksX7_best_0 6 rfl rfl)
theorem dX7_best_7 : decode cX7_best 7 = .ok (.iload_n 1, 1) := dk_27 (dk_at dksX7_best_0 7 rfl rfl)
theorem dX7_best_8 : decode cX7_best 8 = .ok (.invokevirtual 275, 3) := dk_182 1 19 (dk_at dksX7_best_0 8 rfl rfl)
theorem dX7_best_11 : decode cX7_best 11 = .ok (.iconst 1, 1) := dk_4 (dk_at dksX7_best_0 11 rfl rfl)
theorem dX7_best_12 : decode cX7_best 12 = .ok (.invokevirtual 241, 3) := dk_182 0 241 (dk_at dksX7_best_0 12 rfl rfl)
theorem dX7_best_15 : decode cX7_best 15 = .ok (.ifCond .eq 5, 3) := dk_153 0 5 (dk_at dksX7_best_0 15 rfl rfl)
theorem dX7_best_18 : decode cX7_best 18 = .ok (.iconst 0, 1) := dk_3 (dk_at dksX7_best_0 18 rfl rfl)
theorem dX7_best_19 : decode cX7_best 19 = .ok (.ireturn, 1) := dk_172 (dk_at dksX7_best_0 19 rfl rfl)
theorem dX7_best_20 : decode cX7_best 20 = .ok (.iconst (-1), 1) := dk_2 (dk_at dksX7_best_0 20 rfl rfl)
theorem dX7_best_21 : decode cX7_best 21 = .ok (.istore_n 2, 1) := dk_61 (dk_at dksX7_best_0 21 rfl rfl)
theorem dX7_best_22 : decode cX7_best 22 = .ok (.iconst 0, 1) := dk_3 (dk_at dksX7_best_0 22 rfl rfl)
theorem dX7_best_23 : decode cX7_best 23 = .ok (.istore_n 3, 1) := dk_62 (dk_at dksX7_best_0 23 rfl rfl)
theorem dX7_best_24 : decode cX7_best 24 = .ok (.iload_n 3, 1) := dk_29 (dk_at dksX7_best_1 0 rfl rfl)
theorem dX7_best_25 : decode cX7_best 25 = .ok (.aload_n 0, 1) := dk_42 (dk_at dksX7_best_1 1 rfl rfl)
theorem dX7_best_26 : decode cX7_best 26 = .ok (.invokevirtual 82, 3) := dk_182 0 82 (dk_at dksX7_best_1 2 rfl rfl)
theorem dX7_best_29 : decode cX7_best 29 = .ok (.if_icmp .ge 40, 3) := dk_162 0 40 (dk_at dksX7_best_1 5 rfl rfl)
theorem dX7_best_32 : decode cX7_best 32 = .ok (.aload_n 0, 1) := dk_42 (dk_at dksX7_best_1 8 rfl rfl)
theorem dX7_best_33 : decode cX7_best 33 = .ok (.iload_n 3, 1) := dk_29 (dk_at dksX7_best_1 9 rfl rfl)
theorem dX7_best_34 : decode cX7_best 34 = .ok (.iload_n 1, 1) := dk_27 (dk_at dksX7_best_1 10 rfl rfl)
theorem dX7_best_35 : decode cX7_best 35 = .ok (.invokevirtual 339, 3) := dk_182 1 83 (dk_at dksX7_best_1 11 rfl rfl)
theorem dX7_best_38 : decode cX7_best 38 = .ok (.ifCond .eq 25, 3) := dk_153 0 25 (dk_at dksX7_best_1 14 rfl rfl)
theorem dX7_best_41 : decode cX7_best 41 = .ok (.iload_n 2, 1) := dk_28 (dk_at dksX7_best_1 17 rfl rfl)
theorem dX7_best_42 : decode cX7_best 42 = .ok (.iconst (-1), 1) := dk_2 (dk_at dksX7_best_1 18 rfl rfl)
theorem dX7_best_43 : decode cX7_best 43 = .ok (.if_icmp .eq 18, 3) := dk_159 0 18 (dk_at dksX7_best_1 19 rfl rfl)
theorem dX7_best_46 : decode cX7_best 46 = .ok (.aload_n 0, 1) := dk_42 (dk_at dksX7_best_1 22 rfl rfl)
theorem dX7_best_47 : decode cX7_best 47 = .ok (.iload_n 1, 1) := dk_27 (dk_at dksX7_best_1 23 rfl rfl)
theorem dX7_best_48 : decode cX7_best 48 = .ok (.iload_n 3, 1) := dk_29 (dk_at dksX7_best_2 0 rfl rfl)
theorem dX7_best_49 : decode cX7_best 49 = .ok (.invokevirtual 290, 3) := dk_182 1 34 (dk_at dksX7_best_2 1 rfl rfl)
theorem dX7_best_52 : decode cX7_best 52 = .ok (.aload_n 0, 1) := dk_42 (dk_at dksX7_best_2 4 rfl rfl)
theorem dX7_best_53 : decode cX7_best 53 = .ok (.iload_n 1, 1) := dk_27 (dk_at dksX7_best_2 5 rfl rfl)
theorem dX7_best_54 : decode cX7_best 54 = .ok (.iload_n 2, 1) := dk_28 (dk_at dksX7_best_2 6 rfl rfl)
theorem dX7_best_55 : decode cX7_best 55 = .ok (.invokevirtual 290, 3) := dk_182 1 34 (dk_at dksX7_best_2 7 rfl rfl)
theorem dX7_best_58 : decode cX7_best 58 = .ok (.if_icmp .le 5, 3) := dk_164 0 5 (dk_at dksX7_best_2 10 rfl rfl)
theorem dX7_best_61 : decode cX7_best 61 = .ok (.iload_n 3, 1) := dk_29 (dk_at dksX7_best_2 13 rfl rfl)
theorem dX7_best_62 : decode cX7_best 62 = .ok (.istore_n 2, 1) := dk_61 (dk_at dksX7_best_2 14 rfl rfl)
theorem dX7_best_63 : decode cX7_best 63 = .ok (.iinc 3 1, 3) := dk_132 3 1 (dk_at dksX7_best_2 15 rfl rfl)
theorem dX7_best_66 : decode cX7_best 66 = .ok (.goto (-42), 3) := dk_167 255 214 (dk_at dksX7_best_2 18 rfl rfl)
theorem dX7_best_69 : decode cX7_best 69 = .ok (.iload_n 2, 1) := dk_28 (dk_at dksX7_best_2 21 rfl rfl)
theorem dX7_best_70 : decode cX7_best 70 = .ok (.ireturn, 1) := dk_172 (dk_at dksX7_best_2 22 rfl rfl)
abbrev cX7_mayHave : ByteArray := prog_18_method_85_code
def yX7_mayHave : MethodName := ⟨RX7, "mayHave", "(II)Z"⟩
def dkwX7_mayHave_0 : List UInt8 := [42, 27, 182, 1, 49, 154, 0, 16, 42, 27, 28, 182, 1, 52, 154, 0, 7, 4, 167, 0, 4, 3, 172]
abbrev dktX7_mayHave_0 : List UInt8 := dkwX7_mayHave_0 ++ []
theorem dksX7_mayHave_0 : cX7_mayHave.data.toList.drop 0 = dktX7_mayHave_0 := by decide +kernel
theorem dX7_mayHave_0 : decode cX7_mayHave 0 = .ok (.aload_n 0, 1) := dk_42 (dk_at dksX7_mayHave_0 0 rfl rfl)
theorem dX7_mayHave_1 : decode cX7_mayHave 1 = .ok (.iload_n 1, 1) := dk_27 (dk_at dksX7_mayHave_0 1 rfl rfl)
theorem dX7_mayHave_2 : decode cX7_mayHave 2 = .ok (.invokevirtual 305, 3) := dk_182 1 49 (dk_at dksX7_mayHave_0 2 rfl rfl)
theorem dX7_mayHave_5 : decode cX7_mayHave 5 = .ok (.ifCond .ne 16, 3) := dk_154 0 16 (dk_at dksX7_mayHave_0 5 rfl rfl)
theorem dX7_mayHave_8 : decode cX7_mayHave 8 = .ok (.aload_n 0, 1) := dk_42 (dk_at dksX7_mayHave_0 8 rfl rfl)
theorem dX7_mayHave_9 : decode cX7_mayHave 9 = .ok (.iload_n 1, 1) := dk_27 (dk_at dksX7_mayHave_0 9 rfl rfl)
theorem dX7_mayHave_10 : decode cX7_mayHave 10 = .ok (.iload_n 2, 1) := dk_28 (dk_at dksX7_mayHave_0 10 rfl rfl)
theorem dX7_mayHave_11 : decode cX7_mayHave 11 = .ok (.invokevirtual 308, 3) := dk_182 1 52 (dk_at dksX7_mayHave_0 11 rfl rfl)
theorem dX7_mayHave_14 : decode cX7_mayHave 14 = .ok (.ifCond .ne 7, 3) := dk_154 0 7 (dk_at dksX7_mayHave_0 14 rfl rfl)
theorem dX7_mayHave_17 : decode cX7_mayHave 17 = .ok (.iconst 1, 1) := dk_4 (dk_at dksX7_mayHave_0 17 rfl rfl)
theorem dX7_mayHave_18 : decode cX7_mayHave 18 = .ok (.goto 4, 3) := dk_167 0 4 (dk_at dksX7_mayHave_0 18 rfl rfl)
theorem dX7_mayHave_21 : decode cX7_mayHave 21 = .ok (.iconst 0, 1) := dk_3 (dk_at dksX7_mayHave_0 21 rfl rfl)
theorem dX7_mayHave_22 : decode cX7_mayHave 22 = .ok (.ireturn, 1) := dk_172 (dk_at dksX7_mayHave_0 22 rfl rfl)
abbrev cX7_order : ByteArray := prog_18_method_91_code
def yX7_order : MethodName := ⟨RX7, "order", "(III)I"⟩
def dkwX7_order_7 : List UInt8 := [153, 0, 12, 42, 180, 0, 48, 29, 46, 167, 0, 4, 2, 172]
abbrev dktX7_order_7 : List UInt8 := dkwX7_order_7 ++ []
def dkwX7_order_6 : List UInt8 := [167, 255, 180, 29, 2, 160, 0, 8, 21, 6, 167, 0, 25, 29, 3, 21, 5, 4, 100, 184, 0, 78]
abbrev dktX7_order_6 : List UInt8 := dkwX7_order_6 ++ dktX7_order_7
def dkwX7_order_5 : List UInt8 := [21, 9, 46, 79, 132, 9, 1, 167, 255, 225, 21, 6, 21, 8, 184, 1, 116, 54, 6, 132, 7, 1]
abbrev dktX7_order_5 : List UInt8 := dkwX7_order_5 ++ dktX7_order_6
def dkwX7_order_4 : List UInt8 := [21, 9, 21, 5, 162, 0, 30, 21, 8, 21, 6, 164, 0, 23, 42, 180, 0, 48, 21, 9, 42, 180, 0, 45]
abbrev dktX7_order_4 : List UInt8 := dkwX7_order_4 ++ dktX7_order_5
def dkwX7_order_3 : List UInt8 := [162, 0, 72, 42, 21, 4, 21, 7, 182, 1, 110, 42, 27, 21, 5, 182, 1, 113, 54, 8, 3, 54, 9]
abbrev dktX7_order_3 : List UInt8 := dkwX7_order_3 ++ dktX7_order_4
def dkwX7_order_2 : List UInt8 := [182, 0, 241, 153, 0, 5, 3, 172, 19, 1, 109, 54, 6, 3, 54, 7, 21, 7, 21, 5, 184, 1, 91]
abbrev dktX7_order_2 : List UInt8 := dkwX7_order_2 ++ dktX7_order_3
def dkwX7_order_1 : List UInt8 := [182, 1, 28, 4, 182, 0, 241, 154, 0, 22, 42, 21, 5, 8, 164, 0, 7, 4, 167, 0, 4, 3, 5]
abbrev dktX7_order_1 : List UInt8 := dkwX7_order_1 ++ dktX7_order_2
def dkwX7_order_0 : List UInt8 := [42, 3, 181, 0, 3, 28, 42, 182, 1, 106, 126, 54, 4, 21, 4, 184, 1, 86, 54, 5, 42, 42, 27]
abbrev dktX7_order_0 : List UInt8 := dkwX7_order_0 ++ dktX7_order_1
theorem dksX7_order_0 : cX7_order.data.toList.drop 0 = dktX7_order_0 := by decide +kernel
theorem dksX7_order_1 : cX7_order.data.toList.drop 23 = dktX7_order_1 := dk_seg dksX7_order_0 23 rfl rfl
theorem dksX7_order_2 : cX7_order.data.toList.drop 46 = dktX7_order_2 := dk_seg dksX7_order_1 23 rfl rfl
theorem dksX7_order_3 : cX7_order.data.toList.drop 69 = dktX7_order_3 := dk_seg dksX7_order_2 23 rfl rfl
theorem dksX7_order_4 : cX7_order.data.toList.drop 92 = dktX7_order_4 := dk_seg dksX7_order_3 23 rfl rfl
theorem dksX7_order_5 : cX7_order.data.toList.drop 116 = dktX7_order_5 := dk_seg dksX7_order_4 24 rfl rfl
theorem dksX7_order_6 : cX7_order.data.toList.drop 138 = dktX7_order_6 := dk_seg dksX7_order_5 22 rfl rfl
theorem dksX7_order_7 : cX7_order.data.toList.drop 160 = dktX7_order_7 := dk_seg dksX7_order_6 22 rfl rfl
theorem dX7_order_0 : decode cX7_order 0 = .ok (.aload_n 0, 1) := dk_42 (dk_at dksX7_order_0 0 rfl rfl)
theorem dX7_order_1 : decode cX7_order 1 = .ok (.iconst 0, 1) := dk_3 (dk_at dksX7_order_0 1 rfl rfl)
theorem dX7_order_2 : decode cX7_order 2 = .ok (.putfield 3, 3) := dk_181 0 3 (dk_at dksX7_order_0 2 rfl rfl)
theorem dX7_order_5 : decode cX7_order 5 = .ok (.iload_n 2, 1) := dk_28 (dk_at dksX7_order_0 5 rfl rfl)
theorem dX7_order_6 : decode cX7_order 6 = .ok (.aload_n 0, 1) := dk_42 (dk_at dksX7_order_0 6 rfl rfl)
theorem dX7_order_7 : decode cX7_order 7 = .ok (.invokevirtual 362, 3) := dk_182 1 106 (dk_at dksX7_order_0 7 rfl rfl)
theorem dX7_order_10 : decode cX7_order 10 = .ok (.iand, 1) := dk_126 (dk_at dksX7_order_0 10 rfl rfl)
theorem dX7_order_11 : decode cX7_order 11 = .ok (.istore 4, 2) := dk_54 4 (dk_at dksX7_order_0 11 rfl rfl)
theorem dX7_order_13 : decode cX7_order 13 = .ok (.iload 4, 2) := dk_21 4 (dk_at dksX7_order_0 13 rfl rfl)
theorem dX7_order_15 : decode cX7_order 15 = .ok (.invokestatic 342, 3) := dk_184 1 86 (dk_at dksX7_order_0 15 rfl rfl)
theorem dX7_order_18 : decode cX7_order 18 = .ok (.istore 5, 2) := dk_54 5 (dk_at dksX7_order_0 18 rfl rfl)
theorem dX7_order_20 : decode cX7_order 20 = .ok (.aload_n 0, 1) := dk_42 (dk_at dksX7_order_0 20 rfl rfl)
theorem dX7_order_21 : decode cX7_order 21 = .ok (.aload_n 0, 1) := dk_42 (dk_at dksX7_order_0 21 rfl rfl)
theorem dX7_order_22 : decode cX7_order 22 = .ok (.iload_n 1, 1) := dk_27 (dk_at dksX7_order_0 22 rfl rfl)
theorem dX7_order_23 : decode cX7_order 23 = .ok (.invokevirtual 284, 3) := dk_182 1 28 (dk_at dksX7_order_1 0 rfl rfl)
theorem dX7_order_26 : decode cX7_order 26 = .ok (.iconst 1, 1) := dk_4 (dk_at dksX7_order_1 3 rfl rfl)
theorem dX7_order_27 : decode cX7_order 27 = .ok (.invokevirtual 241, 3) := dk_182 0 241 (dk_at dksX7_order_1 4 rfl rfl)
theorem dX7_order_30 : decode cX7_order 30 = .ok (.ifCond .ne 22, 3) := dk_154 0 22 (dk_at dksX7_order_1 7 rfl rfl)
theorem dX7_order_33 : decode cX7_order 33 = .ok (.aload_n 0, 1) := dk_42 (dk_at dksX7_order_1 10 rfl rfl)
theorem dX7_order_34 : decode cX7_order 34 = .ok (.iload 5, 2) := dk_21 5 (dk_at dksX7_order_1 11 rfl rfl)
theorem dX7_order_36 : decode cX7_order 36 = .ok (.iconst 5, 1) := dk_8 (dk_at dksX7_order_1 13 rfl rfl)
theorem dX7_order_37 : decode cX7_order 37 = .ok (.if_icmp .le 7, 3) := dk_164 0 7 (dk_at dksX7_order_1 14 rfl rfl)
theorem dX7_order_40 : decode cX7_order 40 = .ok (.iconst 1, 1) := dk_4 (dk_at dksX7_order_1 17 rfl rfl)
theorem dX7_order_41 : decode cX7_order 41 = .ok (.goto 4, 3) := dk_167 0 4 (dk_at dksX7_order_1 18 rfl rfl)
theorem dX7_order_44 : decode cX7_order 44 = .ok (.iconst 0, 1) := dk_3 (dk_at dksX7_order_1 21 rfl rfl)
theorem dX7_order_45 : decode cX7_order 45 = .ok (.iconst 2, 1) := dk_5 (dk_at dksX7_order_1 22 rfl rfl)
theorem dX7_order_46 : decode cX7_order 46 = .ok (.invokevirtual 241, 3) := dk_182 0 241 (dk_at dksX7_order_2 0 rfl rfl)
theorem dX7_order_49 : decode cX7_order 49 = .ok (.ifCond .eq 5, 3) := dk_153 0 5 (dk_at dksX7_order_2 3 rfl rfl)
theorem dX7_order_52 : decode cX7_order 52 = .ok (.iconst 0, 1) := dk_3 (dk_at dksX7_order_2 6 rfl rfl)
theorem dX7_order_53 : decode cX7_order 53 = .ok (.ireturn, 1) := dk_172 (dk_at dksX7_order_2 7 rfl rfl)
theorem dX7_order_54 : decode cX7_order 54 = .ok (.ldc_w 365, 3) := dk_19 1 109 (dk_at dksX7_order_2 8 rfl rfl)
theorem dX7_order_57 : decode cX7_order 57 = .ok (.istore 6, 2) := dk_54 6 (dk_at dksX7_order_2 11 rfl rfl)
theorem dX7_order_59 : decode cX7_order 59 = .ok (.iconst 0, 1) := dk_3 (dk_at dksX7_order_2 13 rfl rfl)
theorem dX7_order_60 : decode cX7_order 60 = .ok (.istore 7, 2) := dk_54 7 (dk_at dksX7_order_2 14 rfl rfl)
theorem dX7_order_62 : decode cX7_order 62 = .ok (.iload 7, 2) := dk_21 7 (dk_at dksX7_order_2 16 rfl rfl)
theorem dX7_order_64 : decode cX7_order 64 = .ok (.iload 5, 2) := dk_21 5 (dk_at dksX7_order_2 18 rfl rfl)
theorem dX7_order_66 : decode cX7_order 66 = .ok (.invokestatic 347, 3) := dk_184 1 91 (dk_at dksX7_order_2 20 rfl rfl)
theorem dX7_order_69 : decode cX7_order 69 = .ok (.if_icmp .ge 72, 3) := dk_162 0 72 (dk_at dksX7_order_3 0 rfl rfl)
theorem dX7_order_72 : decode cX7_order 72 = .ok (.aload_n 0, 1) := dk_42 (dk_at dksX7_order_3 3 rfl rfl)
theorem dX7_order_73 : decode cX7_order 73 = .ok (.iload 4, 2) := dk_21 4 (dk_at dksX7_order_3 4 rfl rfl)
theorem dX7_order_75 : decode cX7_order 75 = .ok (.iload 7, 2) := dk_21 7 (dk_at dksX7_order_3 6 rfl rfl)
theorem dX7_order_77 : decode cX7_order 77 = .ok (.invokevirtual 366, 3) := dk_182 1 110 (dk_at dksX7_order_3 8 rfl rfl)
theorem dX7_order_80 : decode cX7_order 80 = .ok (.aload_n 0, 1) := dk_42 (dk_at dksX7_order_3 11 rfl rfl)
theorem dX7_order_81 : decode cX7_order 81 = .ok (.iload_n 1, 1) := dk_27 (dk_at dksX7_order_3 12 rfl rfl)
theorem dX7_order_82 : decode cX7_order 82 = .ok (.iload 5, 2) := dk_21 5 (dk_at dksX7_order_3 13 rfl rfl)
theorem dX7_order_84 : decode cX7_order 84 = .ok (.invokevirtual 369, 3) := dk_182 1 113 (dk_at dksX7_order_3 15 rfl rfl)
theorem dX7_order_87 : decode cX7_order 87 = .ok (.istore 8, 2) := dk_54 8 (dk_at dksX7_order_3 18 rfl rfl)
theorem dX7_order_89 : decode cX7_order 89 = .ok (.iconst 0, 1) := dk_3 (dk_at dksX7_order_3 20 rfl rfl)
theorem dX7_order_90 : decode cX7_order 90 = .ok (.istore 9, 2) := dk_54 9 (dk_at dksX7_order_3 21 rfl rfl)
theorem dX7_order_92 : decode cX7_order 92 = .ok (.iload 9, 2) := dk_21 9 (dk_at dksX7_order_4 0 rfl rfl)
theorem dX7_order_94 : decode cX7_order 94 = .ok (.iload 5, 2) := dk_21 5 (dk_at dksX7_order_4 2 rfl rfl)
theorem dX7_order_96 : decode cX7_order 96 = .ok (.if_icmp .ge 30, 3) := dk_162 0 30 (dk_at dksX7_order_4 4 rfl rfl)
theorem dX7_order_99 : decode cX7_order 99 = .ok (.iload 8, 2) := dk_21 8 (dk_at dksX7_order_4 7 rfl rfl)
theorem dX7_order_101 : decode cX7_order 101 = .ok (.iload 6, 2) := dk_21 6 (dk_at dksX7_order_4 9 rfl rfl)
theorem dX7_order_103 : decode cX7_order 103 = .ok (.if_icmp .le 23, 3) := dk_164 0 23 (dk_at dksX7_order_4 11 rfl rfl)
theorem dX7_order_106 : decode cX7_order 106 = .ok (.aload_n 0, 1) := dk_42 (dk_at dksX7_order_4 14 rfl rfl)
theorem dX7_order_107 : decode cX7_order 107 = .ok (.getfield 48, 3) := dk_180 0 48 (dk_at dksX7_order_4 15 rfl rfl)
theorem dX7_order_110 : decode cX7_order 110 = .ok (.iload 9, 2) := dk_21 9 (dk_at dksX7_order_4 18 rfl rfl)
theorem dX7_order_112 : decode cX7_order 112 = .ok (.aload_n 0, 1) := dk_42 (dk_at dksX7_order_4 20 rfl rfl)
theorem dX7_order_113 : decode cX7_order 113 = .ok (.getfield 45, 3) := dk_180 0 45 (dk_at dksX7_order_4 21 rfl rfl)
theorem dX7_order_116 : decode cX7_order 116 = .ok (.iload 9, 2) := dk_21 9 (dk_at dksX7_order_5 0 rfl rfl)
theorem dX7_order_118 : decode cX7_order 118 = .ok (.iaload, 1) := dk_46 (dk_at dksX7_order_5 2 rfl rfl)
theorem dX7_order_119 : decode cX7_order 119 = .ok (.iastore, 1) := dk_79 (dk_at dksX7_order_5 3 rfl rfl)
theorem dX7_order_120 : decode cX7_order 120 = .ok (.iinc 9 1, 3) := dk_132 9 1 (dk_at dksX7_order_5 4 rfl rfl)
theorem dX7_order_123 : decode cX7_order 123 = .ok (.goto (-31), 3) := dk_167 255 225 (dk_at dksX7_order_5 7 rfl rfl)
theorem dX7_order_126 : decode cX7_order 126 = .ok (.iload 6, 2) := dk_21 6 (dk_at dksX7_order_5 10 rfl rfl)
theorem dX7_order_128 : decode cX7_order 128 = .ok (.iload 8, 2) := dk_21 8 (dk_at dksX7_order_5 12 rfl rfl)
theorem dX7_order_130 : decode cX7_order 130 = .ok (.invokestatic 372, 3) := dk_184 1 116 (dk_at dksX7_order_5 14 rfl rfl)
theorem dX7_order_133 : decode cX7_order 133 = .ok (.istore 6, 2) := dk_54 6 (dk_at dksX7_order_5 17 rfl rfl)
theorem dX7_order_135 : decode cX7_order 135 = .ok (.iinc 7 1, 3) := dk_132 7 1 (dk_at dksX7_order_5 19 rfl rfl)
theorem dX7_order_138 : decode cX7_order 138 = .ok (.goto (-76), 3) := dk_167 255 180 (dk_at dksX7_order_6 0 rfl rfl)
theorem dX7_order_141 : decode cX7_order 141 = .ok (.iload_n 3, 1) := dk_29 (dk_at dksX7_order_6 3 rfl rfl)
theorem dX7_order_142 : decode cX7_order 142 = .ok (.iconst (-1), 1) := dk_2 (dk_at dksX7_order_6 4 rfl rfl)
theorem dX7_order_143 : decode cX7_order 143 = .ok (.if_icmp .ne 8, 3) := dk_160 0 8 (dk_at dksX7_order_6 5 rfl rfl)
theorem dX7_order_146 : decode cX7_order 146 = .ok (.iload 6, 2) := dk_21 6 (dk_at dksX7_order_6 8 rfl rfl)
theorem dX7_order_148 : decode cX7_order 148 = .ok (.goto 25, 3) := dk_167 0 25 (dk_at dksX7_order_6 10 rfl rfl)
theorem dX7_order_151 : decode cX7_order 151 = .ok (.iload_n 3, 1) := dk_29 (dk_at dksX7_order_6 13 rfl rfl)
theorem dX7_order_152 : decode cX7_order 152 = .ok (.iconst 0, 1) := dk_3 (dk_at dksX7_order_6 14 rfl rfl)
theorem dX7_order_153 : decode cX7_order 153 = .ok (.iload 5, 2) := dk_21 5 (dk_at dksX7_order_6 15 rfl rfl)
theorem dX7_order_155 : decode cX7_order 155 = .ok (.iconst 1, 1) := dk_4 (dk_at dksX7_order_6 17 rfl rfl)
theorem dX7_order_156 : decode cX7_order 156 = .ok (.isub, 1) := dk_100 (dk_at dksX7_order_6 18 rfl rfl)
theorem dX7_order_157 : decode cX7_order 157 = .ok (.invokestatic 78, 3) := dk_184 0 78 (dk_at dksX7_order_6 19 rfl rfl)
theorem dX7_order_160 : decode cX7_order 160 = .ok (.ifCond .eq 12, 3) := dk_153 0 12 (dk_at dksX7_order_7 0 rfl rfl)
theorem dX7_order_163 : decode cX7_order 163 = .ok (.aload_n 0, 1) := dk_42 (dk_at dksX7_order_7 3 rfl rfl)
theorem dX7_order_164 : decode cX7_order 164 = .ok (.getfield 48, 3) := dk_180 0 48 (dk_at dksX7_order_7 4 rfl rfl)
theorem dX7_order_167 : decode cX7_order 167 = .ok (.iload_n 3, 1) := dk_29 (dk_at dksX7_order_7 7 rfl rfl)
theorem dX7_order_168 : decode cX7_order 168 = .ok (.iaload, 1) := dk_46 (dk_at dksX7_order_7 8 rfl rfl)
theorem dX7_order_169 : decode cX7_order 169 = .ok (.goto 4, 3) := dk_167 0 4 (dk_at dksX7_order_7 9 rfl rfl)
theorem dX7_order_172 : decode cX7_order 172 = .ok (.iconst (-1), 1) := dk_2 (dk_at dksX7_order_7 12 rfl rfl)
theorem dX7_order_173 : decode cX7_order 173 = .ok (.ireturn, 1) := dk_172 (dk_at dksX7_order_7 13 rfl rfl)
abbrev cX7_allWomen : ByteArray := prog_18_method_88_code
def yX7_allWomen : MethodName := ⟨RX7, "allWomen", "()I"⟩
def dkwX7_allWomen_0 : List UInt8 := [4, 42, 182, 0, 74, 120, 4, 100, 172]
abbrev dktX7_allWomen_0 : List UInt8 := dkwX7_allWomen_0 ++ []
theorem dksX7_allWomen_0 : cX7_allWomen.data.toList.drop 0 = dktX7_allWomen_0 := by decide +kernel
theorem dX7_allWomen_0 : decode cX7_allWomen 0 = .ok (.iconst 1, 1) := dk_4 (dk_at dksX7_allWomen_0 0 rfl rfl)
theorem dX7_allWomen_1 : decode cX7_allWomen 1 = .ok (.aload_n 0, 1) := dk_42 (dk_at dksX7_allWomen_0 1 rfl rfl)
theorem dX7_allWomen_2 : decode cX7_allWomen 2 = .ok (.invokevirtual 74, 3) := dk_182 0 74 (dk_at dksX7_allWomen_0 2 rfl rfl)
theorem dX7_allWomen_5 : decode cX7_allWomen 5 = .ok (.ishl, 1) := dk_120 (dk_at dksX7_allWomen_0 5 rfl rfl)
theorem dX7_allWomen_6 : decode cX7_allWomen 6 = .ok (.iconst 1, 1) := dk_4 (dk_at dksX7_allWomen_0 6 rfl rfl)
theorem dX7_allWomen_7 : decode cX7_allWomen 7 = .ok (.isub, 1) := dk_100 (dk_at dksX7_allWomen_0 7 rfl rfl)
theorem dX7_allWomen_8 : decode cX7_allWomen 8 = .ok (.ireturn, 1) := dk_172 (dk_at dksX7_allWomen_0 8 rfl rfl)
abbrev cX7_ordersOf : ByteArray := prog_18_method_87_code
def yX7_ordersOf : MethodName := ⟨RX7, "ordersOf", "(I)I"⟩
def dkwX7_ordersOf_0 : List UInt8 := [4, 60, 5, 61, 28, 26, 163, 0, 13, 27, 28, 104, 60, 132, 2, 1, 167, 255, 244, 27, 172]
abbrev dktX7_ordersOf_0 : List UInt8 := dkwX7_ordersOf_0 ++ []
theorem dksX7_ordersOf_0 : cX7_ordersOf.data.toList.drop 0 = dktX7_ordersOf_0 := by decide +kernel
theorem dX7_ordersOf_0 : decode cX7_ordersOf 0 = .ok (.iconst 1, 1) := dk_4 (dk_at dksX7_ordersOf_0 0 rfl rfl)
theorem dX7_ordersOf_1 : decode cX7_ordersOf 1 = .ok (.istore_n 1, 1) := dk_60 (dk_at dksX7_ordersOf_0 1 rfl rfl)
theorem dX7_ordersOf_2 : decode cX7_ordersOf 2 = .ok (.iconst 2, 1) := dk_5 (dk_at dksX7_ordersOf_0 2 rfl rfl)
theorem dX7_ordersOf_3 : decode cX7_ordersOf 3 = .ok (.istore_n 2, 1) := dk_61 (dk_at dksX7_ordersOf_0 3 rfl rfl)
theorem dX7_ordersOf_4 : decode cX7_ordersOf 4 = .ok (.iload_n 2, 1) := dk_28 (dk_at dksX7_ordersOf_0 4 rfl rfl)
theorem dX7_ordersOf_5 : decode cX7_ordersOf 5 = .ok (.iload_n 0, 1) := dk_26 (dk_at dksX7_ordersOf_0 5 rfl rfl)
theorem dX7_ordersOf_6 : decode cX7_ordersOf 6 = .ok (.if_icmp .gt 13, 3) := dk_163 0 13 (dk_at dksX7_ordersOf_0 6 rfl rfl)
theorem dX7_ordersOf_9 : decode cX7_ordersOf 9 = .ok (.iload_n 1, 1) := dk_27 (dk_at dksX7_ordersOf_0 9 rfl rfl)
theorem dX7_ordersOf_10 : decode cX7_ordersOf 10 = .ok (.iload_n 2, 1) := dk_28 (dk_at dksX7_ordersOf_0 10 rfl rfl)
theorem dX7_ordersOf_11 : decode cX7_ordersOf 11 = .ok (.imul, 1) := dk_104 (dk_at dksX7_ordersOf_0 11 rfl rfl)
theorem dX7_ordersOf_12 : decode cX7_ordersOf 12 = .ok (.istore_n 1, 1) := dk_60 (dk_at dksX7_ordersOf_0 12 rfl rfl)
theorem dX7_ordersOf_13 : decode cX7_ordersOf 13 = .ok (.iinc 2 1, 3) := dk_132 2 1 (dk_at dksX7_ordersOf_0 13 rfl rfl)
theorem dX7_ordersOf_16 : decode cX7_ordersOf 16 = .ok (.goto (-12), 3) := dk_167 255 244 (dk_at dksX7_ordersOf_0 16 rfl rfl)
theorem dX7_ordersOf_19 : decode cX7_ordersOf 19 = .ok (.iload_n 1, 1) := dk_27 (dk_at dksX7_ordersOf_0 19 rfl rfl)
theorem dX7_ordersOf_20 : decode cX7_ordersOf 20 = .ok (.ireturn, 1) := dk_172 (dk_at dksX7_ordersOf_0 20 rfl rfl)
abbrev cX7_laysRow : ByteArray := prog_18_method_89_code
def yX7_laysRow : MethodName := ⟨RX7, "laysRow", "(II)V"⟩
def dkwX7_laysRow_4 : List UInt8 := [21, 9, 120, 2, 130, 126, 62, 21, 5, 21, 7, 112, 54, 5, 132, 6, 1, 167, 255, 160, 177]
abbrev dktX7_laysRow_4 : List UInt8 := dkwX7_laysRow_4 ++ []
def dkwX7_laysRow_3 : List UInt8 := [167, 0, 4, 3, 100, 54, 8, 132, 9, 1, 167, 255, 220, 42, 180, 0, 45, 21, 6, 21, 9, 79, 29, 4]
abbrev dktX7_laysRow_3 : List UInt8 := dkwX7_laysRow_3 ++ dktX7_laysRow_4
def dkwX7_laysRow_2 : List UInt8 := [184, 1, 94, 153, 0, 8, 21, 8, 158, 0, 28, 21, 8, 29, 21, 9, 184, 1, 94, 153, 0, 7, 4]
abbrev dktX7_laysRow_2 : List UInt8 := dkwX7_laysRow_2 ++ dktX7_laysRow_3
def dkwX7_laysRow_1 : List UInt8 := [100, 21, 6, 100, 184, 1, 91, 54, 7, 21, 5, 21, 7, 108, 54, 8, 3, 54, 9, 29, 21, 9]
abbrev dktX7_laysRow_1 : List UInt8 := dkwX7_laysRow_1 ++ dktX7_laysRow_2
def dkwX7_laysRow_0 : List UInt8 := [27, 62, 27, 184, 1, 86, 54, 4, 28, 54, 5, 3, 54, 6, 21, 6, 21, 4, 162, 0, 95, 21, 4, 4]
abbrev dktX7_laysRow_0 : List UInt8 := dkwX7_laysRow_0 ++ dktX7_laysRow_1
theorem dksX7_laysRow_0 : cX7_laysRow.data.toList.drop 0 = dktX7_laysRow_0 := by decide +kernel
theorem dksX7_laysRow_1 : cX7_laysRow.data.toList.drop 24 = dktX7_laysRow_1 := dk_seg dksX7_laysRow_0 24 rfl rfl
theorem dksX7_laysRow_2 : cX7_laysRow.data.toList.drop 46 = dktX7_laysRow_2 := dk_seg dksX7_laysRow_1 22 rfl rfl
theorem dksX7_laysRow_3 : cX7_laysRow.data.toList.drop 69 = dktX7_laysRow_3 := dk_seg dksX7_laysRow_2 23 rfl rfl
theorem dksX7_laysRow_4 : cX7_laysRow.data.toList.drop 93 = dktX7_laysRow_4 := dk_seg dksX7_laysRow_3 24 rfl rfl
theorem dX7_laysRow_0 : decode cX7_laysRow 0 = .ok (.iload_n 1, 1) := dk_27 (dk_at dksX7_laysRow_0 0 rfl rfl)
theorem dX7_laysRow_1 : decode cX7_laysRow 1 = .ok (.istore_n 3, 1) := dk_62 (dk_at dksX7_laysRow_0 1 rfl rfl)
theorem dX7_laysRow_2 : decode cX7_laysRow 2 = .ok (.iload_n 1, 1) := dk_27 (dk_at dksX7_laysRow_0 2 rfl rfl)
theorem dX7_laysRow_3 : decode cX7_laysRow 3 = .ok (.invokestatic 342, 3) := dk_184 1 86 (dk_at dksX7_laysRow_0 3 rfl rfl)
theorem dX7_laysRow_6 : decode cX7_laysRow 6 = .ok (.istore 4, 2) := dk_54 4 (dk_at dksX7_laysRow_0 6 rfl rfl)
theorem dX7_laysRow_8 : decode cX7_laysRow 8 = .ok (.iload_n 2, 1) := dk_28 (dk_at dksX7_laysRow_0 8 rfl rfl)
theorem dX7_laysRow_9 : decode cX7_laysRow 9 = .ok (.istore 5, 2) := dk_54 5 (dk_at dksX7_laysRow_0 9 rfl rfl)
theorem dX7_laysRow_11 : decode cX7_laysRow 11 = .ok (.iconst 0, 1) := dk_3 (dk_at dksX7_laysRow_0 11 rfl rfl)
theorem dX7_laysRow_12 : decode cX7_laysRow 12 = .ok (.istore 6, 2) := dk_54 6 (dk_at dksX7_laysRow_0 12 rfl rfl)
theorem dX7_laysRow_14 : decode cX7_laysRow 14 = .ok (.iload 6, 2) := dk_21 6 (dk_at dksX7_laysRow_0 14 rfl rfl)
theorem dX7_laysRow_16 : decode cX7_laysRow 16 = .ok (.iload 4, 2) := dk_21 4 (dk_at dksX7_laysRow_0 16 rfl rfl)
theorem dX7_laysRow_18 : decode cX7_laysRow 18 = .ok (.if_icmp .ge 95, 3) := dk_162 0 95 (dk_at dksX7_laysRow_0 18 rfl rfl)
theorem dX7_laysRow_21 : decode cX7_laysRow 21 = .ok (.iload 4, 2) := dk_21 4 (dk_at dksX7_laysRow_0 21 rfl rfl)
theorem dX7_laysRow_23 : decode cX7_laysRow 23 = .ok (.iconst 1, 1) := dk_4 (dk_at dksX7_laysRow_0 23 rfl rfl)
theorem dX7_laysRow_24 : decode cX7_laysRow 24 = .ok (.isub, 1) := dk_100 (dk_at dksX7_laysRow_1 0 rfl rfl)
theorem dX7_laysRow_25 : decode cX7_laysRow 25 = .ok (.iload 6, 2) := dk_21 6 (dk_at dksX7_laysRow_1 1 rfl rfl)
theorem dX7_laysRow_27 : decode cX7_laysRow 27 = .ok (.isub, 1) := dk_100 (dk_at dksX7_laysRow_1 3 rfl rfl)
theorem dX7_laysRow_28 : decode cX7_laysRow 28 = .ok (.invokestatic 347, 3) := dk_184 1 91 (dk_at dksX7_laysRow_1 4 rfl rfl)
theorem dX7_laysRow_31 : decode cX7_laysRow 31 = .ok (.istore 7, 2) := dk_54 7 (dk_at dksX7_laysRow_1 7 rfl rfl)
theorem dX7_laysRow_33 : decode cX7_laysRow 33 = .ok (.iload 5, 2) := dk_21 5 (dk_at dksX7_laysRow_1 9 rfl rfl)
theorem dX7_laysRow_35 : decode cX7_laysRow 35 = .ok (.iload 7, 2) := dk_21 7 (dk_at dksX7_laysRow_1 11 rfl rfl)
theorem dX7_laysRow_37 : decode cX7_laysRow 37 = .ok (.idiv, 1) := dk_108 (dk_at dksX7_laysRow_1 13 rfl rfl)
theorem dX7_laysRow_38 : decode cX7_laysRow 38 = .ok (.istore 8, 2) := dk_54 8 (dk_at dksX7_laysRow_1 14 rfl rfl)
theorem dX7_laysRow_40 : decode cX7_laysRow 40 = .ok (.iconst 0, 1) := dk_3 (dk_at dksX7_laysRow_1 16 rfl rfl)
theorem dX7_laysRow_41 : decode cX7_laysRow 41 = .ok (.istore 9, 2) := dk_54 9 (dk_at dksX7_laysRow_1 17 rfl rfl)
theorem dX7_laysRow_43 : decode cX7_laysRow 43 = .ok (.iload_n 3, 1) := dk_29 (dk_at dksX7_laysRow_1 19 rfl rfl)
theorem dX7_laysRow_44 : decode cX7_laysRow 44 = .ok (.iload 9, 2) := dk_21 9 (dk_at dksX7_laysRow_1 20 rfl rfl)
theorem dX7_laysRow_46 : decode cX7_laysRow 46 = .ok (.invokestatic 350, 3) := dk_184 1 94 (dk_at dksX7_laysRow_2 0 rfl rfl)
theorem dX7_laysRow_49 : decode cX7_laysRow 49 = .ok (.ifCond .eq 8, 3) := dk_153 0 8 (dk_at dksX7_laysRow_2 3 rfl rfl)
theorem dX7_laysRow_52 : decode cX7_laysRow 52 = .ok (.iload 8, 2) := dk_21 8 (dk_at dksX7_laysRow_2 6 rfl rfl)
theorem dX7_laysRow_54 : decode cX7_laysRow 54 = .ok (.ifCond .le 28, 3) := dk_158 0 28 (dk_at dksX7_laysRow_2 8 rfl rfl)
theorem dX7_laysRow_57 : decode cX7_laysRow 57 = .ok (.iload 8, 2) := dk_21 8 (dk_at dksX7_laysRow_2 11 rfl rfl)
theorem dX7_laysRow_59 : decode cX7_laysRow 59 = .ok (.iload_n 3, 1) := dk_29 (dk_at dksX7_laysRow_2 13 rfl rfl)
theorem dX7_laysRow_60 : decode cX7_laysRow 60 = .ok (.iload 9, 2) := dk_21 9 (dk_at dksX7_laysRow_2 14 rfl rfl)
theorem dX7_laysRow_62 : decode cX7_laysRow 62 = .ok (.invokestatic 350, 3) := dk_184 1 94 (dk_at dksX7_laysRow_2 16 rfl rfl)
theorem dX7_laysRow_65 : decode cX7_laysRow 65 = .ok (.ifCond .eq 7, 3) := dk_153 0 7 (dk_at dksX7_laysRow_2 19 rfl rfl)
theorem dX7_laysRow_68 : decode cX7_laysRow 68 = .ok (.iconst 1, 1) := dk_4 (dk_at dksX7_laysRow_2 22 rfl rfl)
theorem dX7_laysRow_69 : decode cX7_laysRow 69 = .ok (.goto 4, 3) := dk_167 0 4 (dk_at dksX7_laysRow_3 0 rfl rfl)
theorem dX7_laysRow_72 : decode cX7_laysRow 72 = .ok (.iconst 0, 1) := dk_3 (dk_at dksX7_laysRow_3 3 rfl rfl)
theorem dX7_laysRow_73 : decode cX7_laysRow 73 = .ok (.isub, 1) := dk_100 (dk_at dksX7_laysRow_3 4 rfl rfl)
theorem dX7_laysRow_74 : decode cX7_laysRow 74 = .ok (.istore 8, 2) := dk_54 8 (dk_at dksX7_laysRow_3 5 rfl rfl)
theorem dX7_laysRow_76 : decode cX7_laysRow 76 = .ok (.iinc 9 1, 3) := dk_132 9 1 (dk_at dksX7_laysRow_3 7 rfl rfl)
theorem dX7_laysRow_79 : decode cX7_laysRow 79 = .ok (.goto (-36), 3) := dk_167 255 220 (dk_at dksX7_laysRow_3 10 rfl rfl)
theorem dX7_laysRow_82 : decode cX7_laysRow 82 = .ok (.aload_n 0, 1) := dk_42 (dk_at dksX7_laysRow_3 13 rfl rfl)
theorem dX7_laysRow_83 : decode cX7_laysRow 83 = .ok (.getfield 45, 3) := dk_180 0 45 (dk_at dksX7_laysRow_3 14 rfl rfl)
theorem dX7_laysRow_86 : decode cX7_laysRow 86 = .ok (.iload 6, 2) := dk_21 6 (dk_at dksX7_laysRow_3 17 rfl rfl)
theorem dX7_laysRow_88 : decode cX7_laysRow 88 = .ok (.iload 9, 2) := dk_21 9 (dk_at dksX7_laysRow_3 19 rfl rfl)
theorem dX7_laysRow_90 : decode cX7_laysRow 90 = .ok (.iastore, 1) := dk_79 (dk_at dksX7_laysRow_3 21 rfl rfl)
theorem dX7_laysRow_91 : decode cX7_laysRow 91 = .ok (.iload_n 3, 1) := dk_29 (dk_at dksX7_laysRow_3 22 rfl rfl)
theorem dX7_laysRow_92 : decode cX7_laysRow 92 = .ok (.iconst 1, 1) := dk_4 (dk_at dksX7_laysRow_3 23 rfl rfl)
theorem dX7_laysRow_93 : decode cX7_laysRow 93 = .ok (.iload 9, 2) := dk_21 9 (dk_at dksX7_laysRow_4 0 rfl rfl)
theorem dX7_laysRow_95 : decode cX7_laysRow 95 = .ok (.ishl, 1) := dk_120 (dk_at dksX7_laysRow_4 2 rfl rfl)
theorem dX7_laysRow_96 : decode cX7_laysRow 96 = .ok (.iconst (-1), 1) := dk_2 (dk_at dksX7_laysRow_4 3 rfl rfl)
theorem dX7_laysRow_97 : decode cX7_laysRow 97 = .ok (.ixor, 1) := dk_130 (dk_at dksX7_laysRow_4 4 rfl rfl)
theorem dX7_laysRow_98 : decode cX7_laysRow 98 = .ok (.iand, 1) := dk_126 (dk_at dksX7_laysRow_4 5 rfl rfl)
theorem dX7_laysRow_99 : decode cX7_laysRow 99 = .ok (.istore_n 3, 1) := dk_62 (dk_at dksX7_laysRow_4 6 rfl rfl)
theorem dX7_laysRow_100 : decode cX7_laysRow 100 = .ok (.iload 5, 2) := dk_21 5 (dk_at dksX7_laysRow_4 7 rfl rfl)
theorem dX7_laysRow_102 : decode cX7_laysRow 102 = .ok (.iload 7, 2) := dk_21 7 (dk_at dksX7_laysRow_4 9 rfl rfl)
theorem dX7_laysRow_104 : decode cX7_laysRow 104 = .ok (.irem, 1) := dk_112 (dk_at dksX7_laysRow_4 11 rfl rfl)
theorem dX7_laysRow_105 : decode cX7_laysRow 105 = .ok (.istore 5, 2) := dk_54 5 (dk_at dksX7_laysRow_4 12 rfl rfl)
theorem dX7_laysRow_107 : decode cX7_laysRow 107 = .ok (.iinc 6 1, 3) := dk_132 6 1 (dk_at dksX7_laysRow_4 14 rfl rfl)
theorem dX7_laysRow_110 : decode cX7_laysRow 110 = .ok (.goto (-96), 3) := dk_167 255 160 (dk_at dksX7_laysRow_4 17 rfl rfl)
theorem dX7_laysRow_113 : decode cX7_laysRow 113 = .ok (.return_, 1) := dk_177 (dk_at dksX7_laysRow_4 20 rfl rfl)
abbrev cX7_has : ByteArray := prog_18_method_4_code
def yX7_has : MethodName := ⟨RX7, "has", "(II)Z"⟩
def dkwX7_has_0 : List UInt8 := [26, 27, 122, 4, 126, 4, 160, 0, 7, 4, 167, 0, 4, 3, 172]
abbrev dktX7_has_0 : List UInt8 := dkwX7_has_0 ++ []
theorem dksX7_has_0 : cX7_has.data.toList.drop 0 = dktX7_has_0 := by decide +kernel
theorem dX7_has_0 : decode cX7_has 0 = .ok (.iload_n 0, 1) := dk_26 (dk_at dksX7_has_0 0 rfl rfl)
theorem dX7_has_1 : decode cX7_has 1 = .ok (.iload_n 1, 1) := dk_27 (dk_at dksX7_has_0 1 rfl rfl)
theorem dX7_has_2 : decode cX7_has 2 = .ok (.ishr, 1) := dk_122 (dk_at dksX7_has_0 2 rfl rfl)
theorem dX7_has_3 : decode cX7_has 3 = .ok (.iconst 1, 1) := dk_4 (dk_at dksX7_has_0 3 rfl rfl)
theorem dX7_has_4 : decode cX7_has 4 = .ok (.iand, 1) := dk_126 (dk_at dksX7_has_0 4 rfl rfl)
theorem dX7_has_5 : decode cX7_has 5 = .ok (.iconst 1, 1) := dk_4 (dk_at dksX7_has_0 5 rfl rfl)
theorem dX7_has_6 : decode cX7_has 6 = .ok (.if_icmp .ne 7, 3) := dk_160 0 7 (dk_at dksX7_has_0 6 rfl rfl)
theorem dX7_has_9 : decode cX7_has 9 = .ok (.iconst 1, 1) := dk_4 (dk_at dksX7_has_0 9 rfl rfl)
theorem dX7_has_10 : decode cX7_has 10 = .ok (.goto 4, 3) := dk_167 0 4 (dk_at dksX7_has_0 10 rfl rfl)
theorem dX7_has_13 : decode cX7_has 13 = .ok (.iconst 0, 1) := dk_3 (dk_at dksX7_has_0 13 rfl rfl)
theorem dX7_has_14 : decode cX7_has 14 = .ok (.ireturn, 1) := dk_172 (dk_at dksX7_has_0 14 rfl rfl)
abbrev cX7_bringsTo : ByteArray := prog_18_method_90_code
def yX7_bringsTo : MethodName := ⟨RX7, "bringsTo", "(II)I"⟩
def dkwX7_bringsTo_3 : List UInt8 := [181, 1, 100, 132, 4, 1, 167, 255, 225, 42, 182, 1, 103, 29, 172]
abbrev dktX7_bringsTo_3 : List UInt8 := dkwX7_bringsTo_3 ++ []
def dkwX7_bringsTo_2 : List UInt8 := [28, 162, 0, 31, 42, 42, 180, 1, 100, 42, 42, 180, 0, 45, 21, 4, 46, 182, 1, 25, 184, 1, 10]
abbrev dktX7_bringsTo_2 : List UInt8 := dkwX7_bringsTo_2 ++ dktX7_bringsTo_3
def dkwX7_bringsTo_1 : List UInt8 := [27, 182, 1, 64, 96, 62, 132, 4, 1, 167, 255, 232, 42, 19, 1, 99, 181, 1, 100, 3, 54, 4, 21, 4]
abbrev dktX7_bringsTo_1 : List UInt8 := dkwX7_bringsTo_1 ++ dktX7_bringsTo_2
def dkwX7_bringsTo_0 : List UInt8 := [42, 182, 1, 96, 3, 62, 3, 54, 4, 21, 4, 28, 162, 0, 24, 29, 42, 42, 180, 0, 45, 21, 4, 46]
abbrev dktX7_bringsTo_0 : List UInt8 := dkwX7_bringsTo_0 ++ dktX7_bringsTo_1
theorem dksX7_bringsTo_0 : cX7_bringsTo.data.toList.drop 0 = dktX7_bringsTo_0 := by decide +kernel
theorem dksX7_bringsTo_1 : cX7_bringsTo.data.toList.drop 24 = dktX7_bringsTo_1 := dk_seg dksX7_bringsTo_0 24 rfl rfl
theorem dksX7_bringsTo_2 : cX7_bringsTo.data.toList.drop 48 = dktX7_bringsTo_2 := dk_seg dksX7_bringsTo_1 24 rfl rfl
theorem dksX7_bringsTo_3 : cX7_bringsTo.data.toList.drop 71 = dktX7_bringsTo_3 := dk_seg dksX7_bringsTo_2 23 rfl rfl
theorem dX7_bringsTo_0 : decode cX7_bringsTo 0 = .ok (.aload_n 0, 1) := dk_42 (dk_at dksX7_bringsTo_0 0 rfl rfl)
theorem dX7_bringsTo_1 : decode cX7_bringsTo 1 = .ok (.invokevirtual 352, 3) := dk_182 1 96 (dk_at dksX7_bringsTo_0 1 rfl rfl)
theorem dX7_bringsTo_4 : decode cX7_bringsTo 4 = .ok (.iconst 0, 1) := dk_3 (dk_at dksX7_bringsTo_0 4 rfl rfl)
theorem dX7_bringsTo_5 : decode cX7_bringsTo 5 = .ok (.istore_n 3, 1) := dk_62 (dk_at dksX7_bringsTo_0 5 rfl rfl)
theorem dX7_bringsTo_6 : decode cX7_bringsTo 6 = .ok (.iconst 0, 1) := dk_3 (dk_at dksX7_bringsTo_0 6 rfl rfl)
theorem dX7_bringsTo_7 : decode cX7_bringsTo 7 = .ok (.istore 4, 2) := dk_54 4 (dk_at dksX7_bringsTo_0 7 rfl rfl)
theorem dX7_bringsTo_9 : decode cX7_bringsTo 9 = .ok (.iload 4, 2) := dk_21 4 (dk_at dksX7_bringsTo_0 9 rfl rfl)
theorem dX7_bringsTo_11 : decode cX7_bringsTo 11 = .ok (.iload_n 2, 1) := dk_28 (dk_at dksX7_bringsTo_0 11 rfl rfl)
theorem dX7_bringsTo_12 : decode cX7_bringsTo 12 = .ok (.if_icmp .ge 24, 3) := dk_162 0 24 (dk_at dksX7_bringsTo_0 12 rfl rfl)
theorem dX7_bringsTo_15 : decode cX7_bringsTo 15 = .ok (.iload_n 3, 1) := dk_29 (dk_at dksX7_bringsTo_0 15 rfl rfl)
theorem dX7_bringsTo_16 : decode cX7_bringsTo 16 = .ok (.aload_n 0, 1) := dk_42 (dk_at dksX7_bringsTo_0 16 rfl rfl)
theorem dX7_bringsTo_17 : decode cX7_bringsTo 17 = .ok (.aload_n 0, 1) := dk_42 (dk_at dksX7_bringsTo_0 17 rfl rfl)
theorem dX7_bringsTo_18 : decode cX7_bringsTo 18 = .ok (.getfield 45, 3) := dk_180 0 45 (dk_at dksX7_bringsTo_0 18 rfl rfl)
theorem dX7_bringsTo_21 : decode cX7_bringsTo 21 = .ok (.iload 4, 2) := dk_21 4 (dk_at dksX7_bringsTo_0 21 rfl rfl)
theorem dX7_bringsTo_23 : decode cX7_bringsTo 23 = .ok (.iaload, 1) := dk_46 (dk_at dksX7_bringsTo_0 23 rfl rfl)
theorem dX7_bringsTo_24 : decode cX7_bringsTo 24 = .ok (.iload_n 1, 1) := dk_27 (dk_at dksX7_bringsTo_1 0 rfl rfl)
theorem dX7_bringsTo_25 : decode cX7_bringsTo 25 = .ok (.invokevirtual 320, 3) := dk_182 1 64 (dk_at dksX7_bringsTo_1 1 rfl rfl)
theorem dX7_bringsTo_28 : decode cX7_bringsTo 28 = .ok (.iadd, 1) := dk_96 (dk_at dksX7_bringsTo_1 4 rfl rfl)
theorem dX7_bringsTo_29 : decode cX7_bringsTo 29 = .ok (.istore_n 3, 1) := dk_62 (dk_at dksX7_bringsTo_1 5 rfl rfl)
theorem dX7_bringsTo_30 : decode cX7_bringsTo 30 = .ok (.iinc 4 1, 3) := dk_132 4 1 (dk_at dksX7_bringsTo_1 6 rfl rfl)
theorem dX7_bringsTo_33 : decode cX7_bringsTo 33 = .ok (.goto (-24), 3) := dk_167 255 232 (dk_at dksX7_bringsTo_1 9 rfl rfl)
theorem dX7_bringsTo_36 : decode cX7_bringsTo 36 = .ok (.aload_n 0, 1) := dk_42 (dk_at dksX7_bringsTo_1 12 rfl rfl)
theorem dX7_bringsTo_37 : decode cX7_bringsTo 37 = .ok (.ldc_w 355, 3) := dk_19 1 99 (dk_at dksX7_bringsTo_1 13 rfl rfl)
theorem dX7_bringsTo_40 : decode cX7_bringsTo 40 = .ok (.putfield 356, 3) := dk_181 1 100 (dk_at dksX7_bringsTo_1 16 rfl rfl)
theorem dX7_bringsTo_43 : decode cX7_bringsTo 43 = .ok (.iconst 0, 1) := dk_3 (dk_at dksX7_bringsTo_1 19 rfl rfl)
theorem dX7_bringsTo_44 : decode cX7_bringsTo 44 = .ok (.istore 4, 2) := dk_54 4 (dk_at dksX7_bringsTo_1 20 rfl rfl)
theorem dX7_bringsTo_46 : decode cX7_bringsTo 46 = .ok (.iload 4, 2) := dk_21 4 (dk_at dksX7_bringsTo_1 22 rfl rfl)
theorem dX7_bringsTo_48 : decode cX7_bringsTo 48 = .ok (.iload_n 2, 1) := dk_28 (dk_at dksX7_bringsTo_2 0 rfl rfl)
theorem dX7_bringsTo_49 : decode cX7_bringsTo 49 = .ok (.if_icmp .ge 31, 3) := dk_162 0 31 (dk_at dksX7_bringsTo_2 1 rfl rfl)
theorem dX7_bringsTo_52 : decode cX7_bringsTo 52 = .ok (.aload_n 0, 1) := dk_42 (dk_at dksX7_bringsTo_2 4 rfl rfl)
theorem dX7_bringsTo_53 : decode cX7_bringsTo 53 = .ok (.aload_n 0, 1) := dk_42 (dk_at dksX7_bringsTo_2 5 rfl rfl)
theorem dX7_bringsTo_54 : decode cX7_bringsTo 54 = .ok (.getfield 356, 3) := dk_180 1 100 (dk_at dksX7_bringsTo_2 6 rfl rfl)
theorem dX7_bringsTo_57 : decode cX7_bringsTo 57 = .ok (.aload_n 0, 1) := dk_42 (dk_at dksX7_bringsTo_2 9 rfl rfl)
theorem dX7_bringsTo_58 : decode cX7_bringsTo 58 = .ok (.aload_n 0, 1) := dk_42 (dk_at dksX7_bringsTo_2 10 rfl rfl)
theorem dX7_bringsTo_59 : decode cX7_bringsTo 59 = .ok (.getfield 45, 3) := dk_180 0 45 (dk_at dksX7_bringsTo_2 11 rfl rfl)
theorem dX7_bringsTo_62 : decode cX7_bringsTo 62 = .ok (.iload 4, 2) := dk_21 4 (dk_at dksX7_bringsTo_2 14 rfl rfl)
theorem dX7_bringsTo_64 : decode cX7_bringsTo 64 = .ok (.iaload, 1) := dk_46 (dk_at dksX7_bringsTo_2 16 rfl rfl)
theorem dX7_bringsTo_65 : decode cX7_bringsTo 65 = .ok (.invokevirtual 281, 3) := dk_182 1 25 (dk_at dksX7_bringsTo_2 17 rfl rfl)
theorem dX7_bringsTo_68 : decode cX7_bringsTo 68 = .ok (.invokestatic 266, 3) := dk_184 1 10 (dk_at dksX7_bringsTo_2 20 rfl rfl)
theorem dX7_bringsTo_71 : decode cX7_bringsTo 71 = .ok (.putfield 356, 3) := dk_181 1 100 (dk_at dksX7_bringsTo_3 0 rfl rfl)
theorem dX7_bringsTo_74 : decode cX7_bringsTo 74 = .ok (.iinc 4 1, 3) := dk_132 4 1 (dk_at dksX7_bringsTo_3 3 rfl rfl)
theorem dX7_bringsTo_77 : decode cX7_bringsTo 77 = .ok (.goto (-31), 3) := dk_167 255 225 (dk_at dksX7_bringsTo_3 6 rfl rfl)
theorem dX7_bringsTo_80 : decode cX7_bringsTo 80 = .ok (.aload_n 0, 1) := dk_42 (dk_at dksX7_bringsTo_3 9 rfl rfl)
theorem dX7_bringsTo_81 : decode cX7_bringsTo 81 = .ok (.invokevirtual 359, 3) := dk_182 1 103 (dk_at dksX7_bringsTo_3 10 rfl rfl)
theorem dX7_bringsTo_84 : decode cX7_bringsTo 84 = .ok (.iload_n 3, 1) := dk_29 (dk_at dksX7_bringsTo_3 13 rfl rfl)
theorem dX7_bringsTo_85 : decode cX7_bringsTo 85 = .ok (.ireturn, 1) := dk_172 (dk_at dksX7_bringsTo_3 14 rfl rfl)
abbrev cX7_keepsAll : ByteArray := prog_18_method_83_code
def yX7_keepsAll : MethodName := ⟨RX7, "keepsAll", "()V"⟩
def dkwX7_keepsAll_1 : List UInt8 := [167, 255, 234, 177]
abbrev dktX7_keepsAll_1 : List UInt8 := dkwX7_keepsAll_1 ++ []
def dkwX7_keepsAll_0 : List UInt8 := [3, 60, 27, 17, 1, 121, 162, 0, 21, 42, 180, 0, 23, 27, 42, 180, 0, 13, 27, 46, 79, 132, 1, 1]
abbrev dktX7_keepsAll_0 : List UInt8 := dkwX7_keepsAll_0 ++ dktX7_keepsAll_1
theorem dksX7_keepsAll_0 : cX7_keepsAll.data.toList.drop 0 = dktX7_keepsAll_0 := by decide +kernel
theorem dksX7_keepsAll_1 : cX7_keepsAll.data.toList.drop 24 = dktX7_keepsAll_1 := dk_seg dksX7_keepsAll_0 24 rfl rfl
theorem dX7_keepsAll_0 : decode cX7_keepsAll 0 = .ok (.iconst 0, 1) := dk_3 (dk_at dksX7_keepsAll_0 0 rfl rfl)
theorem dX7_keepsAll_1 : decode cX7_keepsAll 1 = .ok (.istore_n 1, 1) := dk_60 (dk_at dksX7_keepsAll_0 1 rfl rfl)
theorem dX7_keepsAll_2 : decode cX7_keepsAll 2 = .ok (.iload_n 1, 1) := dk_27 (dk_at dksX7_keepsAll_0 2 rfl rfl)
theorem dX7_keepsAll_3 : decode cX7_keepsAll 3 = .ok (.sipush 377, 3) := dk_17 1 121 (dk_at dksX7_keepsAll_0 3 rfl rfl)
theorem dX7_keepsAll_6 : decode cX7_keepsAll 6 = .ok (.if_icmp .ge 21, 3) := dk_162 0 21 (dk_at dksX7_keepsAll_0 6 rfl rfl)
theorem dX7_keepsAll_9 : decode cX7_keepsAll 9 = .ok (.aload_n 0, 1) := dk_42 (dk_at dksX7_keepsAll_0 9 rfl rfl)
theorem dX7_keepsAll_10 : decode cX7_keepsAll 10 = .ok (.getfield 23, 3) := dk_180 0 23 (dk_at dksX7_keepsAll_0 10 rfl rfl)
theorem dX7_keepsAll_13 : decode cX7_keepsAll 13 = .ok (.iload_n 1, 1) := dk_27 (dk_at dksX7_keepsAll_0 13 rfl rfl)
theorem dX7_keepsAll_14 : decode cX7_keepsAll 14 = .ok (.aload_n 0, 1) := dk_42 (dk_at dksX7_keepsAll_0 14 rfl rfl)
theorem dX7_keepsAll_15 : decode cX7_keepsAll 15 = .ok (.getfield 13, 3) := dk_180 0 13 (dk_at dksX7_keepsAll_0 15 rfl rfl)
theorem dX7_keepsAll_18 : decode cX7_keepsAll 18 = .ok (.iload_n 1, 1) := dk_27 (dk_at dksX7_keepsAll_0 18 rfl rfl)
theorem dX7_keepsAll_19 : decode cX7_keepsAll 19 = .ok (.iaload, 1) := dk_46 (dk_at dksX7_keepsAll_0 19 rfl rfl)
theorem dX7_keepsAll_20 : decode cX7_keepsAll 20 = .ok (.iastore, 1) := dk_79 (dk_at dksX7_keepsAll_0 20 rfl rfl)
theorem dX7_keepsAll_21 : decode cX7_keepsAll 21 = .ok (.iinc 1 1, 3) := dk_132 1 1 (dk_at dksX7_keepsAll_0 21 rfl rfl)
theorem dX7_keepsAll_24 : decode cX7_keepsAll 24 = .ok (.goto (-22), 3) := dk_167 255 234 (dk_at dksX7_keepsAll_1 0 rfl rfl)
theorem dX7_keepsAll_27 : decode cX7_keepsAll 27 = .ok (.return_, 1) := dk_177 (dk_at dksX7_keepsAll_1 3 rfl rfl)
abbrev cX7_bringsBack : ByteArray := prog_18_method_84_code
def yX7_bringsBack : MethodName := ⟨RX7, "bringsBack", "()V"⟩
def dkwX7_bringsBack_1 : List UInt8 := [167, 255, 234, 177]
abbrev dktX7_bringsBack_1 : List UInt8 := dkwX7_bringsBack_1 ++ []
def dkwX7_bringsBack_0 : List UInt8 := [3, 60, 27, 17, 1, 121, 162, 0, 21, 42, 180, 0, 13, 27, 42, 180, 0, 23, 27, 46, 79, 132, 1, 1]
abbrev dktX7_bringsBack_0 : List UInt8 := dkwX7_bringsBack_0 ++ dktX7_bringsBack_1
theorem dksX7_bringsBack_0 : cX7_bringsBack.data.toList.drop 0 = dktX7_bringsBack_0 := by decide +kernel
theorem dksX7_bringsBack_1 : cX7_bringsBack.data.toList.drop 24 = dktX7_bringsBack_1 := dk_seg dksX7_bringsBack_0 24 rfl rfl
theorem dX7_bringsBack_0 : decode cX7_bringsBack 0 = .ok (.iconst 0, 1) := dk_3 (dk_at dksX7_bringsBack_0 0 rfl rfl)
theorem dX7_bringsBack_1 : decode cX7_bringsBack 1 = .ok (.istore_n 1, 1) := dk_60 (dk_at dksX7_bringsBack_0 1 rfl rfl)
theorem dX7_bringsBack_2 : decode cX7_bringsBack 2 = .ok (.iload_n 1, 1) := dk_27 (dk_at dksX7_bringsBack_0 2 rfl rfl)
theorem dX7_bringsBack_3 : decode cX7_bringsBack 3 = .ok (.sipush 377, 3) := dk_17 1 121 (dk_at dksX7_bringsBack_0 3 rfl rfl)
theorem dX7_bringsBack_6 : decode cX7_bringsBack 6 = .ok (.if_icmp .ge 21, 3) := dk_162 0 21 (dk_at dksX7_bringsBack_0 6 rfl rfl)
theorem dX7_bringsBack_9 : decode cX7_bringsBack 9 = .ok (.aload_n 0, 1) := dk_42 (dk_at dksX7_bringsBack_0 9 rfl rfl)
theorem dX7_bringsBack_10 : decode cX7_bringsBack 10 = .ok (.getfield 13, 3) := dk_180 0 13 (dk_at dksX7_bringsBack_0 10 rfl rfl)
theorem dX7_bringsBack_13 : decode cX7_bringsBack 13 = .ok (.iload_n 1, 1) := dk_27 (dk_at dksX7_bringsBack_0 13 rfl rfl)
theorem dX7_bringsBack_14 : decode cX7_bringsBack 14 = .ok (.aload_n 0, 1) := dk_42 (dk_at dksX7_bringsBack_0 14 rfl rfl)
theorem dX7_bringsBack_15 : decode cX7_bringsBack 15 = .ok (.getfield 23, 3) := dk_180 0 23 (dk_at dksX7_bringsBack_0 15 rfl rfl)
theorem dX7_bringsBack_18 : decode cX7_bringsBack 18 = .ok (.iload_n 1, 1) := dk_27 (dk_at dksX7_bringsBack_0 18 rfl rfl)
theorem dX7_bringsBack_19 : decode cX7_bringsBack 19 = .ok (.iaload, 1) := dk_46 (dk_at dksX7_bringsBack_0 19 rfl rfl)
theorem dX7_bringsBack_20 : decode cX7_bringsBack 20 = .ok (.iastore, 1) := dk_79 (dk_at dksX7_bringsBack_0 20 rfl rfl)
theorem dX7_bringsBack_21 : decode cX7_bringsBack 21 = .ok (.iinc 1 1, 3) := dk_132 1 1 (dk_at dksX7_bringsBack_0 21 rfl rfl)
theorem dX7_bringsBack_24 : decode cX7_bringsBack 24 = .ok (.goto (-22), 3) := dk_167 255 234 (dk_at dksX7_bringsBack_1 0 rfl rfl)
theorem dX7_bringsBack_27 : decode cX7_bringsBack 27 = .ok (.return_, 1) := dk_177 (dk_at dksX7_bringsBack_1 3 rfl rfl)
abbrev cX7_lowest : ByteArray := prog_18_method_92_code
def yX7_lowest : MethodName := ⟨RX7, "lowest", "(II)I"⟩
def dkwX7_lowest_4 : List UInt8 := [184, 1, 116, 54, 5, 132, 6, 1, 167, 255, 212, 21, 5, 172]
abbrev dktX7_lowest_4 : List UInt8 := dkwX7_lowest_4 ++ []
def dkwX7_lowest_3 : List UInt8 := [158, 0, 35, 42, 29, 21, 6, 182, 1, 110, 42, 27, 21, 4, 182, 1, 113, 87, 21, 5, 42, 180, 1, 100]
abbrev dktX7_lowest_3 : List UInt8 := dkwX7_lowest_3 ++ dktX7_lowest_4
def dkwX7_lowest_2 : List UInt8 := [153, 0, 5, 3, 172, 2, 54, 5, 3, 54, 6, 21, 6, 21, 4, 184, 1, 91, 162, 0, 40, 21, 4]
abbrev dktX7_lowest_2 : List UInt8 := dkwX7_lowest_2 ++ dktX7_lowest_3
def dkwX7_lowest_1 : List UInt8 := [4, 182, 0, 241, 154, 0, 22, 42, 21, 4, 8, 164, 0, 7, 4, 167, 0, 4, 3, 5, 182, 0, 241]
abbrev dktX7_lowest_1 : List UInt8 := dkwX7_lowest_1 ++ dktX7_lowest_2
def dkwX7_lowest_0 : List UInt8 := [42, 3, 181, 0, 3, 28, 42, 182, 1, 106, 126, 62, 29, 184, 1, 86, 54, 4, 42, 42, 27, 182, 1, 28]
abbrev dktX7_lowest_0 : List UInt8 := dkwX7_lowest_0 ++ dktX7_lowest_1
theorem dksX7_lowest_0 : cX7_lowest.data.toList.drop 0 = dktX7_lowest_0 := by decide +kernel
theorem dksX7_lowest_1 : cX7_lowest.data.toList.drop 24 = dktX7_lowest_1 := dk_seg dksX7_lowest_0 24 rfl rfl
theorem dksX7_lowest_2 : cX7_lowest.data.toList.drop 47 = dktX7_lowest_2 := dk_seg dksX7_lowest_1 23 rfl rfl
theorem dksX7_lowest_3 : cX7_lowest.data.toList.drop 70 = dktX7_lowest_3 := dk_seg dksX7_lowest_2 23 rfl rfl
theorem dksX7_lowest_4 : cX7_lowest.data.toList.drop 94 = dktX7_lowest_4 := dk_seg dksX7_lowest_3 24 rfl rfl
theorem dX7_lowest_0 : decode cX7_lowest 0 = .ok (.aload_n 0, 1) := dk_42 (dk_at dksX7_lowest_0 0 rfl rfl)
theorem dX7_lowest_1 : decode cX7_lowest 1 = .ok (.iconst 0, 1) := dk_3 (dk_at dksX7_lowest_0 1 rfl rfl)
theorem dX7_lowest_2 : decode cX7_lowest 2 = .ok (.putfield 3, 3) := dk_181 0 3 (dk_at dksX7_lowest_0 2 rfl rfl)
theorem dX7_lowest_5 : decode cX7_lowest 5 = .ok (.iload_n 2, 1) := dk_28 (dk_at dksX7_lowest_0 5 rfl rfl)
theorem dX7_lowest_6 : decode cX7_lowest 6 = .ok (.aload_n 0, 1) := dk_42 (dk_at dksX7_lowest_0 6 rfl rfl)
theorem dX7_lowest_7 : decode cX7_lowest 7 = .ok (.invokevirtual 362, 3) := dk_182 1 106 (dk_at dksX7_lowest_0 7 rfl rfl)
theorem dX7_lowest_10 : decode cX7_lowest 10 = .ok (.iand, 1) := dk_126 (dk_at dksX7_lowest_0 10 rfl rfl)
theorem dX7_lowest_11 : decode cX7_lowest 11 = .ok (.istore_n 3, 1) := dk_62 (dk_at dksX7_lowest_0 11 rfl rfl)
theorem dX7_lowest_12 : decode cX7_lowest 12 = .ok (.iload_n 3, 1) := dk_29 (dk_at dksX7_lowest_0 12 rfl rfl)
theorem dX7_lowest_13 : decode cX7_lowest 13 = .ok (.invokestatic 342, 3) := dk_184 1 86 (dk_at dksX7_lowest_0 13 rfl rfl)
theorem dX7_lowest_16 : decode cX7_lowest 16 = .ok (.istore 4, 2) := dk_54 4 (dk_at dksX7_lowest_0 16 rfl rfl)
theorem dX7_lowest_18 : decode cX7_lowest 18 = .ok (.aload_n 0, 1) := dk_42 (dk_at dksX7_lowest_0 18 rfl rfl)
theorem dX7_lowest_19 : decode cX7_lowest 19 = .ok (.aload_n 0, 1) := dk_42 (dk_at dksX7_lowest_0 19 rfl rfl)
theorem dX7_lowest_20 : decode cX7_lowest 20 = .ok (.iload_n 1, 1) := dk_27 (dk_at dksX7_lowest_0 20 rfl rfl)
theorem dX7_lowest_21 : decode cX7_lowest 21 = .ok (.invokevirtual 284, 3) := dk_182 1 28 (dk_at dksX7_lowest_0 21 rfl rfl)
theorem dX7_lowest_24 : decode cX7_lowest 24 = .ok (.iconst 1, 1) := dk_4 (dk_at dksX7_lowest_1 0 rfl rfl)
theorem dX7_lowest_25 : decode cX7_lowest 25 = .ok (.invokevirtual 241, 3) := dk_182 0 241 (dk_at dksX7_lowest_1 1 rfl rfl)
theorem dX7_lowest_28 : decode cX7_lowest 28 = .ok (.ifCond .ne 22, 3) := dk_154 0 22 (dk_at dksX7_lowest_1 4 rfl rfl)
theorem dX7_lowest_31 : decode cX7_lowest 31 = .ok (.aload_n 0, 1) := dk_42 (dk_at dksX7_lowest_1 7 rfl rfl)
theorem dX7_lowest_32 : decode cX7_lowest 32 = .ok (.iload 4, 2) := dk_21 4 (dk_at dksX7_lowest_1 8 rfl rfl)
theorem dX7_lowest_34 : decode cX7_lowest 34 = .ok (.iconst 5, 1) := dk_8 (dk_at dksX7_lowest_1 10 rfl rfl)
theorem dX7_lowest_35 : decode cX7_lowest 35 = .ok (.if_icmp .le 7, 3) := dk_164 0 7 (dk_at dksX7_lowest_1 11 rfl rfl)
theorem dX7_lowest_38 : decode cX7_lowest 38 = .ok (.iconst 1, 1) := dk_4 (dk_at dksX7_lowest_1 14 rfl rfl)
theorem dX7_lowest_39 : decode cX7_lowest 39 = .ok (.goto 4, 3) := dk_167 0 4 (dk_at dksX7_lowest_1 15 rfl rfl)
theorem dX7_lowest_42 : decode cX7_lowest 42 = .ok (.iconst 0, 1) := dk_3 (dk_at dksX7_lowest_1 18 rfl rfl)
theorem dX7_lowest_43 : decode cX7_lowest 43 = .ok (.iconst 2, 1) := dk_5 (dk_at dksX7_lowest_1 19 rfl rfl)
theorem dX7_lowest_44 : decode cX7_lowest 44 = .ok (.invokevirtual 241, 3) := dk_182 0 241 (dk_at dksX7_lowest_1 20 rfl rfl)
theorem dX7_lowest_47 : decode cX7_lowest 47 = .ok (.ifCond .eq 5, 3) := dk_153 0 5 (dk_at dksX7_lowest_2 0 rfl rfl)
theorem dX7_lowest_50 : decode cX7_lowest 50 = .ok (.iconst 0, 1) := dk_3 (dk_at dksX7_lowest_2 3 rfl rfl)
theorem dX7_lowest_51 : decode cX7_lowest 51 = .ok (.ireturn, 1) := dk_172 (dk_at dksX7_lowest_2 4 rfl rfl)
theorem dX7_lowest_52 : decode cX7_lowest 52 = .ok (.iconst (-1), 1) := dk_2 (dk_at dksX7_lowest_2 5 rfl rfl)
theorem dX7_lowest_53 : decode cX7_lowest 53 = .ok (.istore 5, 2) := dk_54 5 (dk_at dksX7_lowest_2 6 rfl rfl)
theorem dX7_lowest_55 : decode cX7_lowest 55 = .ok (.iconst 0, 1) := dk_3 (dk_at dksX7_lowest_2 8 rfl rfl)
theorem dX7_lowest_56 : decode cX7_lowest 56 = .ok (.istore 6, 2) := dk_54 6 (dk_at dksX7_lowest_2 9 rfl rfl)
theorem dX7_lowest_58 : decode cX7_lowest 58 = .ok (.iload 6, 2) := dk_21 6 (dk_at dksX7_lowest_2 11 rfl rfl)
theorem dX7_lowest_60 : decode cX7_lowest 60 = .ok (.iload 4, 2) := dk_21 4 (dk_at dksX7_lowest_2 13 rfl rfl)
theorem dX7_lowest_62 : decode cX7_lowest 62 = .ok (.invokestatic 347, 3) := dk_184 1 91 (dk_at dksX7_lowest_2 15 rfl rfl)
theorem dX7_lowest_65 : decode cX7_lowest 65 = .ok (.if_icmp .ge 40, 3) := dk_162 0 40 (dk_at dksX7_lowest_2 18 rfl rfl)
theorem dX7_lowest_68 : decode cX7_lowest 68 = .ok (.iload 4, 2) := dk_21 4 (dk_at dksX7_lowest_2 21 rfl rfl)
theorem dX7_lowest_70 : decode cX7_lowest 70 = .ok (.ifCond .le 35, 3) := dk_158 0 35 (dk_at dksX7_lowest_3 0 rfl rfl)
theorem dX7_lowest_73 : decode cX7_lowest 73 = .ok (.aload_n 0, 1) := dk_42 (dk_at dksX7_lowest_3 3 rfl rfl)
theorem dX7_lowest_74 : decode cX7_lowest 74 = .ok (.iload_n 3, 1) := dk_29 (dk_at dksX7_lowest_3 4 rfl rfl)
theorem dX7_lowest_75 : decode cX7_lowest 75 = .ok (.iload 6, 2) := dk_21 6 (dk_at dksX7_lowest_3 5 rfl rfl)
theorem dX7_lowest_77 : decode cX7_lowest 77 = .ok (.invokevirtual 366, 3) := dk_182 1 110 (dk_at dksX7_lowest_3 7 rfl rfl)
theorem dX7_lowest_80 : decode cX7_lowest 80 = .ok (.aload_n 0, 1) := dk_42 (dk_at dksX7_lowest_3 10 rfl rfl)
theorem dX7_lowest_81 : decode cX7_lowest 81 = .ok (.iload_n 1, 1) := dk_27 (dk_at dksX7_lowest_3 11 rfl rfl)
theorem dX7_lowest_82 : decode cX7_lowest 82 = .ok (.iload 4, 2) := dk_21 4 (dk_at dksX7_lowest_3 12 rfl rfl)
theorem dX7_lowest_84 : decode cX7_lowest 84 = .ok (.invokevirtual 369, 3) := dk_182 1 113 (dk_at dksX7_lowest_3 14 rfl rfl)
theorem dX7_lowest_87 : decode cX7_lowest 87 = .ok (.pop, 1) := dk_87 (dk_at dksX7_lowest_3 17 rfl rfl)
theorem dX7_lowest_88 : decode cX7_lowest 88 = .ok (.iload 5, 2) := dk_21 5 (dk_at dksX7_lowest_3 18 rfl rfl)
theorem dX7_lowest_90 : decode cX7_lowest 90 = .ok (.aload_n 0, 1) := dk_42 (dk_at dksX7_lowest_3 20 rfl rfl)
theorem dX7_lowest_91 : decode cX7_lowest 91 = .ok (.getfield 356, 3) := dk_180 1 100 (dk_at dksX7_lowest_3 21 rfl rfl)
theorem dX7_lowest_94 : decode cX7_lowest 94 = .ok (.invokestatic 372, 3) := dk_184 1 116 (dk_at dksX7_lowest_4 0 rfl rfl)
theorem dX7_lowest_97 : decode cX7_lowest 97 = .ok (.istore 5, 2) := dk_54 5 (dk_at dksX7_lowest_4 3 rfl rfl)
theorem dX7_lowest_99 : decode cX7_lowest 99 = .ok (.iinc 6 1, 3) := dk_132 6 1 (dk_at dksX7_lowest_4 5 rfl rfl)
theorem dX7_lowest_102 : decode cX7_lowest 102 = .ok (.goto (-44), 3) := dk_167 255 212 (dk_at dksX7_lowest_4 8 rfl rfl)
theorem dX7_lowest_105 : decode cX7_lowest 105 = .ok (.iload 5, 2) := dk_21 5 (dk_at dksX7_lowest_4 11 rfl rfl)
theorem dX7_lowest_107 : decode cX7_lowest 107 = .ok (.ireturn, 1) := dk_172 (dk_at dksX7_lowest_4 13 rfl rfl)
abbrev cX7_reach : ByteArray := prog_18_method_93_code
def yX7_reach : MethodName := ⟨RX7, "reach", "(IIII)I"⟩
def dkwX7_reach_5 : List UInt8 := [132, 6, 1, 167, 255, 214, 42, 182, 1, 103, 21, 5, 172]
abbrev dktX7_reach_5 : List UInt8 := dkwX7_reach_5 ++ []
def dkwX7_reach_4 : List UInt8 := [182, 0, 65, 21, 4, 161, 0, 8, 21, 6, 167, 0, 4, 2, 54, 5, 42, 27, 28, 182, 1, 64, 87]
abbrev dktX7_reach_4 : List UInt8 := dkwX7_reach_4 ++ dktX7_reach_5
def dkwX7_reach_3 : List UInt8 := [182, 1, 96, 3, 54, 6, 21, 6, 16, 20, 163, 0, 41, 21, 5, 2, 160, 0, 35, 42, 27, 29]
abbrev dktX7_reach_3 : List UInt8 := dkwX7_reach_3 ++ dktX7_reach_4
def dkwX7_reach_2 : List UInt8 := [184, 0, 78, 154, 0, 7, 4, 167, 0, 4, 3, 5, 182, 0, 241, 153, 0, 5, 3, 172, 2, 54, 5, 42]
abbrev dktX7_reach_2 : List UInt8 := dkwX7_reach_2 ++ dktX7_reach_3
def dkwX7_reach_1 : List UInt8 := [184, 1, 37, 153, 0, 7, 4, 167, 0, 4, 3, 4, 182, 0, 241, 154, 0, 27, 42, 21, 4, 4, 16, 99]
abbrev dktX7_reach_1 : List UInt8 := dkwX7_reach_1 ++ dktX7_reach_2
def dkwX7_reach_0 : List UInt8 := [42, 3, 181, 0, 3, 42, 42, 27, 182, 1, 19, 154, 0, 18, 42, 28, 182, 1, 28, 154, 0, 10, 29]
abbrev dktX7_reach_0 : List UInt8 := dkwX7_reach_0 ++ dktX7_reach_1
theorem dksX7_reach_0 : cX7_reach.data.toList.drop 0 = dktX7_reach_0 := by decide +kernel
theorem dksX7_reach_1 : cX7_reach.data.toList.drop 23 = dktX7_reach_1 := dk_seg dksX7_reach_0 23 rfl rfl
theorem dksX7_reach_2 : cX7_reach.data.toList.drop 47 = dktX7_reach_2 := dk_seg dksX7_reach_1 24 rfl rfl
theorem dksX7_reach_3 : cX7_reach.data.toList.drop 71 = dktX7_reach_3 := dk_seg dksX7_reach_2 24 rfl rfl
theorem dksX7_reach_4 : cX7_reach.data.toList.drop 93 = dktX7_reach_4 := dk_seg dksX7_reach_3 22 rfl rfl
theorem dksX7_reach_5 : cX7_reach.data.toList.drop 116 = dktX7_reach_5 := dk_seg dksX7_reach_4 23 rfl rfl
theorem dX7_reach_0 : decode cX7_reach 0 = .ok (.aload_n 0, 1) := dk_42 (dk_at dksX7_reach_0 0 rfl rfl)
theorem dX7_reach_1 : decode cX7_reach 1 = .ok (.iconst 0, 1) := dk_3 (dk_at dksX7_reach_0 1 rfl rfl)
theorem dX7_reach_2 : decode cX7_reach 2 = .ok (.putfield 3, 3) := dk_181 0 3 (dk_at dksX7_reach_0 2 rfl rfl)
theorem dX7_reach_5 : decode cX7_reach 5 = .ok (.aload_n 0, 1) := dk_42 (dk_at dksX7_reach_0 5 rfl rfl)
theorem dX7_reach_6 : decode cX7_reach 6 = .ok (.aload_n 0, 1) := dk_42 (dk_at dksX7_reach_0 6 rfl rfl)
theorem dX7_reach_7 : decode cX7_reach 7 = .ok (.iload_n 1, 1) := dk_27 (dk_at dksX7_reach_0 7 rfl rfl)
theorem dX7_reach_8 : decode cX7_reach 8 = .ok (.invokevirtual 275, 3) := dk_182 1 19 (dk_at dksX7_reach_0 8 rfl rfl)
theorem dX7_reach_11 : decode cX7_reach 11 = .ok (.ifCond .ne 18, 3) := dk_154 0 18 (dk_at dksX7_reach_0 11 rfl rfl)
theorem dX7_reach_14 : decode cX7_reach 14 = .ok (.aload_n 0, 1) := dk_42 (dk_at dksX7_reach_0 14 rfl rfl)
theorem dX7_reach_15 : decode cX7_reach 15 = .ok (.iload_n 2, 1) := dk_28 (dk_at dksX7_reach_0 15 rfl rfl)
theorem dX7_reach_16 : decode cX7_reach 16 = .ok (.invokevirtual 284, 3) := dk_182 1 28 (dk_at dksX7_reach_0 16 rfl rfl)
theorem dX7_reach_19 : decode cX7_reach 19 = .ok (.ifCond .ne 10, 3) := dk_154 0 10 (dk_at dksX7_reach_0 19 rfl rfl)
theorem dX7_reach_22 : decode cX7_reach 22 = .ok (.iload_n 3, 1) := dk_29 (dk_at dksX7_reach_0 22 rfl rfl)
theorem dX7_reach_23 : decode cX7_reach 23 = .ok (.invokestatic 293, 3) := dk_184 1 37 (dk_at dksX7_reach_1 0 rfl rfl)
theorem dX7_reach_26 : decode cX7_reach 26 = .ok (.ifCond .eq 7, 3) := dk_153 0 7 (dk_at dksX7_reach_1 3 rfl rfl)
theorem dX7_reach_29 : decode cX7_reach 29 = .ok (.iconst 1, 1) := dk_4 (dk_at dksX7_reach_1 6 rfl rfl)
theorem dX7_reach_30 : decode cX7_reach 30 = .ok (.goto 4, 3) := dk_167 0 4 (dk_at dksX7_reach_1 7 rfl rfl)
theorem dX7_reach_33 : decode cX7_reach 33 = .ok (.iconst 0, 1) := dk_3 (dk_at dksX7_reach_1 10 rfl rfl)
theorem dX7_reach_34 : decode cX7_reach 34 = .ok (.iconst 1, 1) := dk_4 (dk_at dksX7_reach_1 11 rfl rfl)
theorem dX7_reach_35 : decode cX7_reach 35 = .ok (.invokevirtual 241, 3) := dk_182 0 241 (dk_at dksX7_reach_1 12 rfl rfl)
theorem dX7_reach_38 : decode cX7_reach 38 = .ok (.ifCond .ne 27, 3) := dk_154 0 27 (dk_at dksX7_reach_1 15 rfl rfl)
theorem dX7_reach_41 : decode cX7_reach 41 = .ok (.aload_n 0, 1) := dk_42 (dk_at dksX7_reach_1 18 rfl rfl)
theorem dX7_reach_42 : decode cX7_reach 42 = .ok (.iload 4, 2) := dk_21 4 (dk_at dksX7_reach_1 19 rfl rfl)
theorem dX7_reach_44 : decode cX7_reach 44 = .ok (.iconst 1, 1) := dk_4 (dk_at dksX7_reach_1 21 rfl rfl)
theorem dX7_reach_45 : decode cX7_reach 45 = .ok (.bipush 99, 2) := dk_16 99 (dk_at dksX7_reach_1 22 rfl rfl)
theorem dX7_reach_47 : decode cX7_reach 47 = .ok (.invokestatic 78, 3) := dk_184 0 78 (dk_at dksX7_reach_2 0 rfl rfl)
theorem dX7_reach_50 : decode cX7_reach 50 = .ok (.ifCond .ne 7, 3) := dk_154 0 7 (dk_at dksX7_reach_2 3 rfl rfl)
theorem dX7_reach_53 : decode cX7_reach 53 = .ok (.iconst 1, 1) := dk_4 (dk_at dksX7_reach_2 6 rfl rfl)
theorem dX7_reach_54 : decode cX7_reach 54 = .ok (.goto 4, 3) := dk_167 0 4 (dk_at dksX7_reach_2 7 rfl rfl)
theorem dX7_reach_57 : decode cX7_reach 57 = .ok (.iconst 0, 1) := dk_3 (dk_at dksX7_reach_2 10 rfl rfl)
theorem dX7_reach_58 : decode cX7_reach 58 = .ok (.iconst 2, 1) := dk_5 (dk_at dksX7_reach_2 11 rfl rfl)
theorem dX7_reach_59 : decode cX7_reach 59 = .ok (.invokevirtual 241, 3) := dk_182 0 241 (dk_at dksX7_reach_2 12 rfl rfl)
theorem dX7_reach_62 : decode cX7_reach 62 = .ok (.ifCond .eq 5, 3) := dk_153 0 5 (dk_at dksX7_reach_2 15 rfl rfl)
theorem dX7_reach_65 : decode cX7_reach 65 = .ok (.iconst 0, 1) := dk_3 (dk_at dksX7_reach_2 18 rfl rfl)
theorem dX7_reach_66 : decode cX7_reach 66 = .ok (.ireturn, 1) := dk_172 (dk_at dksX7_reach_2 19 rfl rfl)
theorem dX7_reach_67 : decode cX7_reach 67 = .ok (.iconst (-1), 1) := dk_2 (dk_at dksX7_reach_2 20 rfl rfl)
theorem dX7_reach_68 : decode cX7_reach 68 = .ok (.istore 5, 2) := dk_54 5 (dk_at dksX7_reach_2 21 rfl rfl)
theorem dX7_reach_70 : decode cX7_reach 70 = .ok (.aload_n 0, 1) := dk_42 (dk_at dksX7_reach_2 23 rfl rfl)
theorem dX7_reach_71 : decode cX7_reach 71 = .ok (.invokevirtual 352, 3) := dk_182 1 96 (dk_at dksX7_reach_3 0 rfl rfl)
theorem dX7_reach_74 : decode cX7_reach 74 = .ok (.iconst 0, 1) := dk_3 (dk_at dksX7_reach_3 3 rfl rfl)
theorem dX7_reach_75 : decode cX7_reach 75 = .ok (.istore 6, 2) := dk_54 6 (dk_at dksX7_reach_3 4 rfl rfl)
theorem dX7_reach_77 : decode cX7_reach 77 = .ok (.iload 6, 2) := dk_21 6 (dk_at dksX7_reach_3 6 rfl rfl)
theorem dX7_reach_79 : decode cX7_reach 79 = .ok (.bipush 20, 2) := dk_16 20 (dk_at dksX7_reach_3 8 rfl rfl)
theorem dX7_reach_81 : decode cX7_reach 81 = .ok (.if_icmp .gt 41, 3) := dk_163 0 41 (dk_at dksX7_reach_3 10 rfl rfl)
theorem dX7_reach_84 : decode cX7_reach 84 = .ok (.iload 5, 2) := dk_21 5 (dk_at dksX7_reach_3 13 rfl rfl)
theorem dX7_reach_86 : decode cX7_reach 86 = .ok (.iconst (-1), 1) := dk_2 (dk_at dksX7_reach_3 15 rfl rfl)
theorem dX7_reach_87 : decode cX7_reach 87 = .ok (.if_icmp .ne 35, 3) := dk_160 0 35 (dk_at dksX7_reach_3 16 rfl rfl)
theorem dX7_reach_90 : decode cX7_reach 90 = .ok (.aload_n 0, 1) := dk_42 (dk_at dksX7_reach_3 19 rfl rfl)
theorem dX7_reach_91 : decode cX7_reach 91 = .ok (.iload_n 1, 1) := dk_27 (dk_at dksX7_reach_3 20 rfl rfl)
theorem dX7_reach_92 : decode cX7_reach 92 = .ok (.iload_n 3, 1) := dk_29 (dk_at dksX7_reach_3 21 rfl rfl)
theorem dX7_reach_93 : decode cX7_reach 93 = .ok (.invokevirtual 65, 3) := dk_182 0 65 (dk_at dksX7_reach_4 0 rfl rfl)
theorem dX7_reach_96 : decode cX7_reach 96 = .ok (.iload 4, 2) := dk_21 4 (dk_at dksX7_reach_4 3 rfl rfl)
theorem dX7_reach_98 : decode cX7_reach 98 = .ok (.if_icmp .lt 8, 3) := dk_161 0 8 (dk_at dksX7_reach_4 5 rfl rfl)
theorem dX7_reach_101 : decode cX7_reach 101 = .ok (.iload 6, 2) := dk_21 6 (dk_at dksX7_reach_4 8 rfl rfl)
theorem dX7_reach_103 : decode cX7_reach 103 = .ok (.goto 4, 3) := dk_167 0 4 (dk_at dksX7_reach_4 10 rfl rfl)
theorem dX7_reach_106 : decode cX7_reach 106 = .ok (.iconst (-1), 1) := dk_2 (dk_at dksX7_reach_4 13 rfl rfl)
theorem dX7_reach_107 : decode cX7_reach 107 = .ok (.istore 5, 2) := dk_54 5 (dk_at dksX7_reach_4 14 rfl rfl)
theorem dX7_reach_109 : decode cX7_reach 109 = .ok (.aload_n 0, 1) := dk_42 (dk_at dksX7_reach_4 16 rfl rfl)
theorem dX7_reach_110 : decode cX7_reach 110 = .ok (.iload_n 1, 1) := dk_27 (dk_at dksX7_reach_4 17 rfl rfl)
theorem dX7_reach_111 : decode cX7_reach 111 = .ok (.iload_n 2, 1) := dk_28 (dk_at dksX7_reach_4 18 rfl rfl)
theorem dX7_reach_112 : decode cX7_reach 112 = .ok (.invokevirtual 320, 3) := dk_182 1 64 (dk_at dksX7_reach_4 19 rfl rfl)
theorem dX7_reach_115 : decode cX7_reach 115 = .ok (.pop, 1) := dk_87 (dk_at dksX7_reach_4 22 rfl rfl)
theorem dX7_reach_116 : decode cX7_reach 116 = .ok (.iinc 6 1, 3) := dk_132 6 1 (dk_at dksX7_reach_5 0 rfl rfl)
theorem dX7_reach_119 : decode cX7_reach 119 = .ok (.goto (-42), 3) := dk_167 255 214 (dk_at dksX7_reach_5 3 rfl rfl)
theorem dX7_reach_122 : decode cX7_reach 122 = .ok (.aload_n 0, 1) := dk_42 (dk_at dksX7_reach_5 6 rfl rfl)
theorem dX7_reach_123 : decode cX7_reach 123 = .ok (.invokevirtual 359, 3) := dk_182 1 103 (dk_at dksX7_reach_5 7 rfl rfl)
theorem dX7_reach_126 : decode cX7_reach 126 = .ok (.iload 5, 2) := dk_21 5 (dk_at dksX7_reach_5 10 rfl rfl)
theorem dX7_reach_128 : decode cX7_reach 128 = .ok (.ireturn, 1) := dk_172 (dk_at dksX7_reach_5 12 rfl rfl)
abbrev cX7_runs : ByteArray := prog_18_method_95_code
def yX7_runs : MethodName := ⟨RX7, "runs", "(II)I"⟩
def dkwX7_runs_2 : List UInt8 := [42, 27, 3, 28, 182, 1, 119, 42, 27, 182, 1, 16, 62, 42, 182, 1, 103, 29, 172]
abbrev dktX7_runs_2 : List UInt8 := dkwX7_runs_2 ++ []
def dkwX7_runs_1 : List UInt8 := [184, 0, 78, 154, 0, 7, 4, 167, 0, 4, 3, 5, 182, 0, 241, 153, 0, 5, 3, 172, 42, 182, 1, 96]
abbrev dktX7_runs_1 : List UInt8 := dkwX7_runs_1 ++ dktX7_runs_2
def dkwX7_runs_0 : List UInt8 := [42, 3, 181, 0, 3, 42, 42, 27, 182, 1, 28, 4, 182, 0, 241, 154, 0, 26, 42, 28, 3, 16, 60]
abbrev dktX7_runs_0 : List UInt8 := dkwX7_runs_0 ++ dktX7_runs_1
theorem dksX7_runs_0 : cX7_runs.data.toList.drop 0 = dktX7_runs_0 := by decide +kernel
theorem dksX7_runs_1 : cX7_runs.data.toList.drop 23 = dktX7_runs_1 := dk_seg dksX7_runs_0 23 rfl rfl
theorem dksX7_runs_2 : cX7_runs.data.toList.drop 47 = dktX7_runs_2 := dk_seg dksX7_runs_1 24 rfl rfl
theorem dX7_runs_0 : decode cX7_runs 0 = .ok (.aload_n 0, 1) := dk_42 (dk_at dksX7_runs_0 0 rfl rfl)
theorem dX7_runs_1 : decode cX7_runs 1 = .ok (.iconst 0, 1) := dk_3 (dk_at dksX7_runs_0 1 rfl rfl)
theorem dX7_runs_2 : decode cX7_runs 2 = .ok (.putfield 3, 3) := dk_181 0 3 (dk_at dksX7_runs_0 2 rfl rfl)
theorem dX7_runs_5 : decode cX7_runs 5 = .ok (.aload_n 0, 1) := dk_42 (dk_at dksX7_runs_0 5 rfl rfl)
theorem dX7_runs_6 : decode cX7_runs 6 = .ok (.aload_n 0, 1) := dk_42 (dk_at dksX7_runs_0 6 rfl rfl)
theorem dX7_runs_7 : decode cX7_runs 7 = .ok (.iload_n 1, 1) := dk_27 (dk_at dksX7_runs_0 7 rfl rfl)
theorem dX7_runs_8 : decode cX7_runs 8 = .ok (.invokevirtual 284, 3) := dk_182 1 28 (dk_at dksX7_runs_0 8 rfl rfl)
theorem dX7_runs_11 : decode cX7_runs 11 = .ok (.iconst 1, 1) := dk_4 (dk_at dksX7_runs_0 11 rfl rfl)
theorem dX7_runs_12 : decode cX7_runs 12 = .ok (.invokevirtual 241, 3) := dk_182 0 241 (dk_at dksX7_runs_0 12 rfl rfl)
theorem dX7_runs_15 : decode cX7_runs 15 = .ok (.ifCond .ne 26, 3) := dk_154 0 26 (dk_at dksX7_runs_0 15 rfl rfl)
theorem dX7_runs_18 : decode cX7_runs 18 = .ok (.aload_n 0, 1) := dk_42 (dk_at dksX7_runs_0 18 rfl rfl)
theorem dX7_runs_19 : decode cX7_runs 19 = .ok (.iload_n 2, 1) := dk_28 (dk_at dksX7_runs_0 19 rfl rfl)
theorem dX7_runs_20 : decode cX7_runs 20 = .ok (.iconst 0, 1) := dk_3 (dk_at dksX7_runs_0 20 rfl rfl)
theorem dX7_runs_21 : decode cX7_runs 21 = .ok (.bipush 60, 2) := dk_16 60 (dk_at dksX7_runs_0 21 rfl rfl)
theorem dX7_runs_23 : decode cX7_runs 23 = .ok (.invokestatic 78, 3) := dk_184 0 78 (dk_at dksX7_runs_1 0 rfl rfl)
theorem dX7_runs_26 : decode cX7_runs 26 = .ok (.ifCond .ne 7, 3) := dk_154 0 7 (dk_at dksX7_runs_1 3 rfl rfl)
theorem dX7_runs_29 : decode cX7_runs 29 = .ok (.iconst 1, 1) := dk_4 (dk_at dksX7_runs_1 6 rfl rfl)
theorem dX7_runs_30 : decode cX7_runs 30 = .ok (.goto 4, 3) := dk_167 0 4 (dk_at dksX7_runs_1 7 rfl rfl)
theorem dX7_runs_33 : decode cX7_runs 33 = .ok (.iconst 0, 1) := dk_3 (dk_at dksX7_runs_1 10 rfl rfl)
theorem dX7_runs_34 : decode cX7_runs 34 = .ok (.iconst 2, 1) := dk_5 (dk_at dksX7_runs_1 11 rfl rfl)
theorem dX7_runs_35 : decode cX7_runs 35 = .ok (.invokevirtual 241, 3) := dk_182 0 241 (dk_at dksX7_runs_1 12 rfl rfl)
theorem dX7_runs_38 : decode cX7_runs 38 = .ok (.ifCond .eq 5, 3) := dk_153 0 5 (dk_at dksX7_runs_1 15 rfl rfl)
theorem dX7_runs_41 : decode cX7_runs 41 = .ok (.iconst 0, 1) := dk_3 (dk_at dksX7_runs_1 18 rfl rfl)
theorem dX7_runs_42 : decode cX7_runs 42 = .ok (.ireturn, 1) := dk_172 (dk_at dksX7_runs_1 19 rfl rfl)
theorem dX7_runs_43 : decode cX7_runs 43 = .ok (.aload_n 0, 1) := dk_42 (dk_at dksX7_runs_1 20 rfl rfl)
theorem dX7_runs_44 : decode cX7_runs 44 = .ok (.invokevirtual 352, 3) := dk_182 1 96 (dk_at dksX7_runs_1 21 rfl rfl)
theorem dX7_runs_47 : decode cX7_runs 47 = .ok (.aload_n 0, 1) := dk_42 (dk_at dksX7_runs_2 0 rfl rfl)
theorem dX7_runs_48 : decode cX7_runs 48 = .ok (.iload_n 1, 1) := dk_27 (dk_at dksX7_runs_2 1 rfl rfl)
theorem dX7_runs_49 : decode cX7_runs 49 = .ok (.iconst 0, 1) := dk_3 (dk_at dksX7_runs_2 2 rfl rfl)
theorem dX7_runs_50 : decode cX7_runs 50 = .ok (.iload_n 2, 1) := dk_28 (dk_at dksX7_runs_2 3 rfl rfl)
theorem dX7_runs_51 : decode cX7_runs 51 = .ok (.invokevirtual 375, 3) := dk_182 1 119 (dk_at dksX7_runs_2 4 rfl rfl)
theorem dX7_runs_54 : decode cX7_runs 54 = .ok (.aload_n 0, 1) := dk_42 (dk_at dksX7_runs_2 7 rfl rfl)
theorem dX7_runs_55 : decode cX7_runs 55 = .ok (.iload_n 1, 1) := dk_27 (dk_at dksX7_runs_2 8 rfl rfl)
theorem dX7_runs_56 : decode cX7_runs 56 = .ok (.invokevirtual 272, 3) := dk_182 1 16 (dk_at dksX7_runs_2 9 rfl rfl)
theorem dX7_runs_59 : decode cX7_runs 59 = .ok (.istore_n 3, 1) := dk_62 (dk_at dksX7_runs_2 12 rfl rfl)
theorem dX7_runs_60 : decode cX7_runs 60 = .ok (.aload_n 0, 1) := dk_42 (dk_at dksX7_runs_2 13 rfl rfl)
theorem dX7_runs_61 : decode cX7_runs 61 = .ok (.invokevirtual 359, 3) := dk_182 1 103 (dk_at dksX7_runs_2 14 rfl rfl)
theorem dX7_runs_64 : decode cX7_runs 64 = .ok (.iload_n 3, 1) := dk_29 (dk_at dksX7_runs_2 17 rfl rfl)
theorem dX7_runs_65 : decode cX7_runs 65 = .ok (.ireturn, 1) := dk_172 (dk_at dksX7_runs_2 18 rfl rfl)
abbrev cX7_turns : ByteArray := prog_18_method_94_code
def yX7_turns : MethodName := ⟨RX7, "turns", "(III)V"⟩
def dkwX7_turns_1 : List UInt8 := [27, 182, 1, 64, 87, 132, 4, 1, 167, 255, 227, 177]
abbrev dktX7_turns_1 : List UInt8 := dkwX7_turns_1 ++ []
def dkwX7_turns_0 : List UInt8 := [28, 54, 4, 21, 4, 29, 162, 0, 29, 42, 182, 0, 74, 158, 0, 22, 42, 21, 4, 42, 182, 0, 74, 112]
abbrev dktX7_turns_0 : List UInt8 := dkwX7_turns_0 ++ dktX7_turns_1
theorem dksX7_turns_0 : cX7_turns.data.toList.drop 0 = dktX7_turns_0 := by decide +kernel
theorem dksX7_turns_1 : cX7_turns.data.toList.drop 24 = dktX7_turns_1 := dk_seg dksX7_turns_0 24 rfl rfl
theorem dX7_turns_0 : decode cX7_turns 0 = .ok (.iload_n 2, 1) := dk_28 (dk_at dksX7_turns_0 0 rfl rfl)
theorem dX7_turns_1 : decode cX7_turns 1 = .ok (.istore 4, 2) := dk_54 4 (dk_at dksX7_turns_0 1 rfl rfl)
theorem dX7_turns_3 : decode cX7_turns 3 = .ok (.iload 4, 2) := dk_21 4 (dk_at dksX7_turns_0 3 rfl rfl)
theorem dX7_turns_5 : decode cX7_turns 5 = .ok (.iload_n 3, 1) := dk_29 (dk_at dksX7_turns_0 5 rfl rfl)
theorem dX7_turns_6 : decode cX7_turns 6 = .ok (.if_icmp .ge 29, 3) := dk_162 0 29 (dk_at dksX7_turns_0 6 rfl rfl)
theorem dX7_turns_9 : decode cX7_turns 9 = .ok (.aload_n 0, 1) := dk_42 (dk_at dksX7_turns_0 9 rfl rfl)
theorem dX7_turns_10 : decode cX7_turns 10 = .ok (.invokevirtual 74, 3) := dk_182 0 74 (dk_at dksX7_turns_0 10 rfl rfl)
theorem dX7_turns_13 : decode cX7_turns 13 = .ok (.ifCond .le 22, 3) := dk_158 0 22 (dk_at dksX7_turns_0 13 rfl rfl)
theorem dX7_turns_16 : decode cX7_turns 16 = .ok (.aload_n 0, 1) := dk_42 (dk_at dksX7_turns_0 16 rfl rfl)
theorem dX7_turns_17 : decode cX7_turns 17 = .ok (.iload 4, 2) := dk_21 4 (dk_at dksX7_turns_0 17 rfl rfl)
theorem dX7_turns_19 : decode cX7_turns 19 = .ok (.aload_n 0, 1) := dk_42 (dk_at dksX7_turns_0 19 rfl rfl)
theorem dX7_turns_20 : decode cX7_turns 20 = .ok (.invokevirtual 74, 3) := dk_182 0 74 (dk_at dksX7_turns_0 20 rfl rfl)
theorem dX7_turns_23 : decode cX7_turns 23 = .ok (.irem, 1) := dk_112 (dk_at dksX7_turns_0 23 rfl rfl)
theorem dX7_turns_24 : decode cX7_turns 24 = .ok (.iload_n 1, 1) := dk_27 (dk_at dksX7_turns_1 0 rfl rfl)
theorem dX7_turns_25 : decode cX7_turns 25 = .ok (.invokevirtual 320, 3) := dk_182 1 64 (dk_at dksX7_turns_1 1 rfl rfl)
theorem dX7_turns_28 : decode cX7_turns 28 = .ok (.pop, 1) := dk_87 (dk_at dksX7_turns_1 4 rfl rfl)
theorem dX7_turns_29 : decode cX7_turns 29 = .ok (.iinc 4 1, 3) := dk_132 4 1 (dk_at dksX7_turns_1 5 rfl rfl)
theorem dX7_turns_32 : decode cX7_turns 32 = .ok (.goto (-29), 3) := dk_167 255 227 (dk_at dksX7_turns_1 8 rfl rfl)
theorem dX7_turns_35 : decode cX7_turns 35 = .ok (.return_, 1) := dk_177 (dk_at dksX7_turns_1 11 rfl rfl)
abbrev cX7_spent : ByteArray := prog_18_method_96_code
def yX7_spent : MethodName := ⟨RX7, "spent", "(I)I"⟩
def dkwX7_spent_3 : List UInt8 := [42, 182, 1, 103, 28, 172]
abbrev dktX7_spent_3 : List UInt8 := dkwX7_spent_3 ++ []
def dkwX7_spent_2 : List UInt8 := [154, 0, 7, 29, 167, 0, 4, 2, 61, 42, 27, 29, 29, 4, 96, 182, 1, 119, 132, 3, 1, 167, 255, 218]
abbrev dktX7_spent_2 : List UInt8 := dkwX7_spent_2 ++ dktX7_spent_3
def dkwX7_spent_1 : List UInt8 := [182, 1, 96, 3, 62, 29, 16, 60, 163, 0, 38, 28, 2, 160, 0, 33, 42, 27, 3, 182, 0, 71]
abbrev dktX7_spent_1 : List UInt8 := dkwX7_spent_1 ++ dktX7_spent_2
def dkwX7_spent_0 : List UInt8 := [42, 3, 181, 0, 3, 42, 42, 27, 182, 1, 28, 4, 182, 0, 241, 153, 0, 5, 3, 172, 2, 61, 42]
abbrev dktX7_spent_0 : List UInt8 := dkwX7_spent_0 ++ dktX7_spent_1
theorem dksX7_spent_0 : cX7_spent.data.toList.drop 0 = dktX7_spent_0 := by decide +kernel
theorem dksX7_spent_1 : cX7_spent.data.toList.drop 23 = dktX7_spent_1 := dk_seg dksX7_spent_0 23 rfl rfl
theorem dksX7_spent_2 : cX7_spent.data.toList.drop 45 = dktX7_spent_2 := dk_seg dksX7_spent_1 22 rfl rfl
theorem dksX7_spent_3 : cX7_spent.data.toList.drop 69 = dktX7_spent_3 := dk_seg dksX7_spent_2 24 rfl rfl
theorem dX7_spent_0 : decode cX7_spent 0 = .ok (.aload_n 0, 1) := dk_42 (dk_at dksX7_spent_0 0 rfl rfl)
theorem dX7_spent_1 : decode cX7_spent 1 = .ok (.iconst 0, 1) := dk_3 (dk_at dksX7_spent_0 1 rfl rfl)
theorem dX7_spent_2 : decode cX7_spent 2 = .ok (.putfield 3, 3) := dk_181 0 3 (dk_at dksX7_spent_0 2 rfl rfl)
theorem dX7_spent_5 : decode cX7_spent 5 = .ok (.aload_n 0, 1) := dk_42 (dk_at dksX7_spent_0 5 rfl rfl)
theorem dX7_spent_6 : decode cX7_spent 6 = .ok (.aload_n 0, 1) := dk_42 (dk_at dksX7_spent_0 6 rfl rfl)
theorem dX7_spent_7 : decode cX7_spent 7 = .ok (.iload_n 1, 1) := dk_27 (dk_at dksX7_spent_0 7 rfl rfl)
theorem dX7_spent_8 : decode cX7_spent 8 = .ok (.invokevirtual 284, 3) := dk_182 1 28 (dk_at dksX7_spent_0 8 rfl rfl)
theorem dX7_spent_11 : decode cX7_spent 11 = .ok (.iconst 1, 1) := dk_4 (dk_at dksX7_spent_0 11 rfl rfl)
theorem dX7_spent_12 : decode cX7_spent 12 = .ok (.invokevirtual 241, 3) := dk_182 0 241 (dk_at dksX7_spent_0 12 rfl rfl)
theorem dX7_spent_15 : decode cX7_spent 15 = .ok (.ifCond .eq 5, 3) := dk_153 0 5 (dk_at dksX7_spent_0 15 rfl rfl)
theorem dX7_spent_18 : decode cX7_spent 18 = .ok (.iconst 0, 1) := dk_3 (dk_at dksX7_spent_0 18 rfl rfl)
theorem dX7_spent_19 : decode cX7_spent 19 = .ok (.ireturn, 1) := dk_172 (dk_at dksX7_spent_0 19 rfl rfl)
theorem dX7_spent_20 : decode cX7_spent 20 = .ok (.iconst (-1), 1) := dk_2 (dk_at dksX7_spent_0 20 rfl rfl)
theorem dX7_spent_21 : decode cX7_spent 21 = .ok (.istore_n 2, 1) := dk_61 (dk_at dksX7_spent_0 21 rfl rfl)
theorem dX7_spent_22 : decode cX7_spent 22 = .ok (.aload_n 0, 1) := dk_42 (dk_at dksX7_spent_0 22 rfl rfl)
theorem dX7_spent_23 : decode cX7_spent 23 = .ok (.invokevirtual 352, 3) := dk_182 1 96 (dk_at dksX7_spent_1 0 rfl rfl)
theorem dX7_spent_26 : decode cX7_spent 26 = .ok (.iconst 0, 1) := dk_3 (dk_at dksX7_spent_1 3 rfl rfl)
theorem dX7_spent_27 : decode cX7_spent 27 = .ok (.istore_n 3, 1) := dk_62 (dk_at dksX7_spent_1 4 rfl rfl)
theorem dX7_spent_28 : decode cX7_spent 28 = .ok (.iload_n 3, 1) := dk_29 (dk_at dksX7_spent_1 5 rfl rfl)
theorem dX7_spent_29 : decode cX7_spent 29 = .ok (.bipush 60, 2) := dk_16 60 (dk_at dksX7_spent_1 6 rfl rfl)
theorem dX7_spent_31 : decode cX7_spent 31 = .ok (.if_icmp .gt 38, 3) := dk_163 0 38 (dk_at dksX7_spent_1 8 rfl rfl)
theorem dX7_spent_34 : decode cX7_spent 34 = .ok (.iload_n 2, 1) := dk_28 (dk_at dksX7_spent_1 11 rfl rfl)
theorem dX7_spent_35 : decode cX7_spent 35 = .ok (.iconst (-1), 1) := dk_2 (dk_at dksX7_spent_1 12 rfl rfl)
theorem dX7_spent_36 : decode cX7_spent 36 = .ok (.if_icmp .ne 33, 3) := dk_160 0 33 (dk_at dksX7_spent_1 13 rfl rfl)
theorem dX7_spent_39 : decode cX7_spent 39 = .ok (.aload_n 0, 1) := dk_42 (dk_at dksX7_spent_1 16 rfl rfl)
theorem dX7_spent_40 : decode cX7_spent 40 = .ok (.iload_n 1, 1) := dk_27 (dk_at dksX7_spent_1 17 rfl rfl)
theorem dX7_spent_41 : decode cX7_spent 41 = .ok (.iconst 0, 1) := dk_3 (dk_at dksX7_spent_1 18 rfl rfl)
theorem dX7_spent_42 : decode cX7_spent 42 = .ok (.invokevirtual 71, 3) := dk_182 0 71 (dk_at dksX7_spent_1 19 rfl rfl)
theorem dX7_spent_45 : decode cX7_spent 45 = .ok (.ifCond .ne 7, 3) := dk_154 0 7 (dk_at dksX7_spent_2 0 rfl rfl)
theorem dX7_spent_48 : decode cX7_spent 48 = .ok (.iload_n 3, 1) := dk_29 (dk_at dksX7_spent_2 3 rfl rfl)
theorem dX7_spent_49 : decode cX7_spent 49 = .ok (.goto 4, 3) := dk_167 0 4 (dk_at dksX7_spent_2 4 rfl rfl)
theorem dX7_spent_52 : decode cX7_spent 52 = .ok (.iconst (-1), 1) := dk_2 (dk_at dksX7_spent_2 7 rfl rfl)
theorem dX7_spent_53 : decode cX7_spent 53 = .ok (.istore_n 2, 1) := dk_61 (dk_at dksX7_spent_2 8 rfl rfl)
theorem dX7_spent_54 : decode cX7_spent 54 = .ok (.aload_n 0, 1) := dk_42 (dk_at dksX7_spent_2 9 rfl rfl)
theorem dX7_spent_55 : decode cX7_spent 55 = .ok (.iload_n 1, 1) := dk_27 (dk_at dksX7_spent_2 10 rfl rfl)
theorem dX7_spent_56 : decode cX7_spent 56 = .ok (.iload_n 3, 1) := dk_29 (dk_at dksX7_spent_2 11 rfl rfl)
theorem dX7_spent_57 : decode cX7_spent 57 = .ok (.iload_n 3, 1) := dk_29 (dk_at dksX7_spent_2 12 rfl rfl)
theorem dX7_spent_58 : decode cX7_spent 58 = .ok (.iconst 1, 1) := dk_4 (dk_at dksX7_spent_2 13 rfl rfl)
theorem dX7_spent_59 : decode cX7_spent 59 = .ok (.iadd, 1) := dk_96 (dk_at dksX7_spent_2 14 rfl rfl)
theorem dX7_spent_60 : decode cX7_spent 60 = .ok (.invokevirtual 375, 3) := dk_182 1 119 (dk_at dksX7_spent_2 15 rfl rfl)
theorem dX7_spent_63 : decode cX7_spent 63 = .ok (.iinc 3 1, 3) := dk_132 3 1 (dk_at dksX7_spent_2 18 rfl rfl)
theorem dX7_spent_66 : decode cX7_spent 66 = .ok (.goto (-38), 3) := dk_167 255 218 (dk_at dksX7_spent_2 21 rfl rfl)
theorem dX7_spent_69 : decode cX7_spent 69 = .ok (.aload_n 0, 1) := dk_42 (dk_at dksX7_spent_3 0 rfl rfl)
theorem dX7_spent_70 : decode cX7_spent 70 = .ok (.invokevirtual 359, 3) := dk_182 1 103 (dk_at dksX7_spent_3 1 rfl rfl)
theorem dX7_spent_73 : decode cX7_spent 73 = .ok (.iload_n 2, 1) := dk_28 (dk_at dksX7_spent_3 4 rfl rfl)
theorem dX7_spent_74 : decode cX7_spent 74 = .ok (.ireturn, 1) := dk_172 (dk_at dksX7_spent_3 5 rfl rfl)
abbrev cX7_match : ByteArray := prog_18_method_100_code
def yX7_match : MethodName := ⟨RX7, "match", "(II)I"⟩
def dkwX7_match_7 : List UInt8 := [21, 7, 172]
abbrev dktX7_match_7 : List UInt8 := dkwX7_match_7 ++ []
def dkwX7_match_6 : List UInt8 := [159, 0, 9, 132, 7, 1, 167, 255, 221, 21, 6, 4, 21, 7, 120, 128, 54, 6, 132, 8, 1, 167, 255, 197]
abbrev dktX7_match_6 : List UInt8 := dkwX7_match_6 ++ dktX7_match_7
def dkwX7_match_5 : List UInt8 := [180, 0, 45, 21, 8, 46, 21, 7, 182, 1, 125, 42, 180, 0, 51, 21, 8, 21, 6, 184, 1, 122, 46]
abbrev dktX7_match_5 : List UInt8 := dkwX7_match_5 ++ dktX7_match_6
def dkwX7_match_4 : List UInt8 := [54, 6, 3, 54, 7, 3, 54, 8, 21, 8, 28, 163, 0, 59, 3, 54, 7, 42, 21, 8, 21, 6, 42]
abbrev dktX7_match_4 : List UInt8 := dkwX7_match_4 ++ dktX7_match_5
def dkwX7_match_3 : List UInt8 := [172, 28, 3, 21, 4, 4, 100, 184, 0, 78, 153, 0, 11, 21, 5, 19, 1, 109, 160, 0, 5, 2, 172, 3]
abbrev dktX7_match_3 : List UInt8 := dkwX7_match_3 ++ dktX7_match_4
def dkwX7_match_2 : List UInt8 := [21, 4, 182, 1, 129, 42, 180, 0, 51, 3, 3, 184, 1, 122, 46, 54, 5, 28, 2, 160, 0, 6, 21, 5]
abbrev dktX7_match_2 : List UInt8 := dkwX7_match_2 ++ dktX7_match_3
def dkwX7_match_1 : List UInt8 := [164, 0, 7, 4, 167, 0, 4, 3, 4, 182, 0, 241, 153, 0, 5, 3, 172, 42, 29, 3, 182, 1, 110, 42]
abbrev dktX7_match_1 : List UInt8 := dkwX7_match_1 ++ dktX7_match_2
def dkwX7_match_0 : List UInt8 := [42, 3, 181, 0, 3, 27, 42, 182, 1, 106, 126, 62, 29, 184, 1, 86, 54, 4, 42, 21, 4, 8]
abbrev dktX7_match_0 : List UInt8 := dkwX7_match_0 ++ dktX7_match_1
theorem dksX7_match_0 : cX7_match.data.toList.drop 0 = dktX7_match_0 := by decide +kernel
theorem dksX7_match_1 : cX7_match.data.toList.drop 22 = dktX7_match_1 := dk_seg dksX7_match_0 22 rfl rfl
theorem dksX7_match_2 : cX7_match.data.toList.drop 46 = dktX7_match_2 := dk_seg dksX7_match_1 24 rfl rfl
theorem dksX7_match_3 : cX7_match.data.toList.drop 70 = dktX7_match_3 := dk_seg dksX7_match_2 24 rfl rfl
theorem dksX7_match_4 : cX7_match.data.toList.drop 94 = dktX7_match_4 := dk_seg dksX7_match_3 24 rfl rfl
theorem dksX7_match_5 : cX7_match.data.toList.drop 117 = dktX7_match_5 := dk_seg dksX7_match_4 23 rfl rfl
theorem dksX7_match_6 : cX7_match.data.toList.drop 140 = dktX7_match_6 := dk_seg dksX7_match_5 23 rfl rfl
theorem dksX7_match_7 : cX7_match.data.toList.drop 164 = dktX7_match_7 := dk_seg dksX7_match_6 24 rfl rfl
theorem dX7_match_0 : decode cX7_match 0 = .ok (.aload_n 0, 1) := dk_42 (dk_at dksX7_match_0 0 rfl rfl)
theorem dX7_match_1 : decode cX7_match 1 = .ok (.iconst 0, 1) := dk_3 (dk_at dksX7_match_0 1 rfl rfl)
theorem dX7_match_2 : decode cX7_match 2 = .ok (.putfield 3, 3) := dk_181 0 3 (dk_at dksX7_match_0 2 rfl rfl)
theorem dX7_match_5 : decode cX7_match 5 = .ok (.iload_n 1, 1) := dk_27 (dk_at dksX7_match_0 5 rfl rfl)
theorem dX7_match_6 : decode cX7_match 6 = .ok (.aload_n 0, 1) := dk_42 (dk_at dksX7_match_0 6 rfl rfl)
theorem dX7_match_7 : decode cX7_match 7 = .ok (.invokevirtual 362, 3) := dk_182 1 106 (dk_at dksX7_match_0 7 rfl rfl)
theorem dX7_match_10 : decode cX7_match 10 = .ok (.iand, 1) := dk_126 (dk_at dksX7_match_0 10 rfl rfl)
theorem dX7_match_11 : decode cX7_match 11 = .ok (.istore_n 3, 1) := dk_62 (dk_at dksX7_match_0 11 rfl rfl)
theorem dX7_match_12 : decode cX7_match 12 = .ok (.iload_n 3, 1) := dk_29 (dk_at dksX7_match_0 12 rfl rfl)
theorem dX7_match_13 : decode cX7_match 13 = .ok (.invokestatic 342, 3) := dk_184 1 86 (dk_at dksX7_match_0 13 rfl rfl)
theorem dX7_match_16 : decode cX7_match 16 = .ok (.istore 4, 2) := dk_54 4 (dk_at dksX7_match_0 16 rfl rfl)
theorem dX7_match_18 : decode cX7_match 18 = .ok (.aload_n 0, 1) := dk_42 (dk_at dksX7_match_0 18 rfl rfl)
theorem dX7_match_19 : decode cX7_match 19 = .ok (.iload 4, 2) := dk_21 4 (dk_at dksX7_match_0 19 rfl rfl)
theorem dX7_match_21 : decode cX7_match 21 = .ok (.iconst 5, 1) := dk_8 (dk_at dksX7_match_0 21 rfl rfl)
theorem dX7_match_22 : decode cX7_match 22 = .ok (.if_icmp .le 7, 3) := dk_164 0 7 (dk_at dksX7_match_1 0 rfl rfl)
theorem dX7_match_25 : decode cX7_match 25 = .ok (.iconst 1, 1) := dk_4 (dk_at dksX7_match_1 3 rfl rfl)
theorem dX7_match_26 : decode cX7_match 26 = .ok (.goto 4, 3) := dk_167 0 4 (dk_at dksX7_match_1 4 rfl rfl)
theorem dX7_match_29 : decode cX7_match 29 = .ok (.iconst 0, 1) := dk_3 (dk_at dksX7_match_1 7 rfl rfl)
theorem dX7_match_30 : decode cX7_match 30 = .ok (.iconst 1, 1) := dk_4 (dk_at dksX7_match_1 8 rfl rfl)
theorem dX7_match_31 : decode cX7_match 31 = .ok (.invokevirtual 241, 3) := dk_182 0 241 (dk_at dksX7_match_1 9 rfl rfl)
theorem dX7_match_34 : decode cX7_match 34 = .ok (.ifCond .eq 5, 3) := dk_153 0 5 (dk_at dksX7_match_1 12 rfl rfl)
theorem dX7_match_37 : decode cX7_match 37 = .ok (.iconst 0, 1) := dk_3 (dk_at dksX7_match_1 15 rfl rfl)
theorem dX7_match_38 : decode cX7_match 38 = .ok (.ireturn, 1) := dk_172 (dk_at dksX7_match_1 16 rfl rfl)
theorem dX7_match_39 : decode cX7_match 39 = .ok (.aload_n 0, 1) := dk_42 (dk_at dksX7_match_1 17 rfl rfl)
theorem dX7_match_40 : decode cX7_match 40 = .ok (.iload_n 3, 1) := dk_29 (dk_at dksX7_match_1 18 rfl rfl)
theorem dX7_match_41 : decode cX7_match 41 = .ok (.iconst 0, 1) := dk_3 (dk_at dksX7_match_1 19 rfl rfl)
theorem dX7_match_42 : decode cX7_match 42 = .ok (.invokevirtual 366, 3) := dk_182 1 110 (dk_at dksX7_match_1 20 rfl rfl)
theorem dX7_match_45 : decode cX7_match 45 = .ok (.aload_n 0, 1) := dk_42 (dk_at dksX7_match_1 23 rfl rfl)
theorem dX7_match_46 : decode cX7_match 46 = .ok (.iload 4, 2) := dk_21 4 (dk_at dksX7_match_2 0 rfl rfl)
theorem dX7_match_48 : decode cX7_match 48 = .ok (.invokevirtual 385, 3) := dk_182 1 129 (dk_at dksX7_match_2 2 rfl rfl)
theorem dX7_match_51 : decode cX7_match 51 = .ok (.aload_n 0, 1) := dk_42 (dk_at dksX7_match_2 5 rfl rfl)
theorem dX7_match_52 : decode cX7_match 52 = .ok (.getfield 51, 3) := dk_180 0 51 (dk_at dksX7_match_2 6 rfl rfl)
theorem dX7_match_55 : decode cX7_match 55 = .ok (.iconst 0, 1) := dk_3 (dk_at dksX7_match_2 9 rfl rfl)
theorem dX7_match_56 : decode cX7_match 56 = .ok (.iconst 0, 1) := dk_3 (dk_at dksX7_match_2 10 rfl rfl)
theorem dX7_match_57 : decode cX7_match 57 = .ok (.invokestatic 378, 3) := dk_184 1 122 (dk_at dksX7_match_2 11 rfl rfl)
theorem dX7_match_60 : decode cX7_match 60 = .ok (.iaload, 1) := dk_46 (dk_at dksX7_match_2 14 rfl rfl)
theorem dX7_match_61 : decode cX7_match 61 = .ok (.istore 5, 2) := dk_54 5 (dk_at dksX7_match_2 15 rfl rfl)
theorem dX7_match_63 : decode cX7_match 63 = .ok (.iload_n 2, 1) := dk_28 (dk_at dksX7_match_2 17 rfl rfl)
theorem dX7_match_64 : decode cX7_match 64 = .ok (.iconst (-1), 1) := dk_2 (dk_at dksX7_match_2 18 rfl rfl)
theorem dX7_match_65 : decode cX7_match 65 = .ok (.if_icmp .ne 6, 3) := dk_160 0 6 (dk_at dksX7_match_2 19 rfl rfl)
theorem dX7_match_68 : decode cX7_match 68 = .ok (.iload 5, 2) := dk_21 5 (dk_at dksX7_match_2 22 rfl rfl)
theorem dX7_match_70 : decode cX7_match 70 = .ok (.ireturn, 1) := dk_172 (dk_at dksX7_match_3 0 rfl rfl)
theorem dX7_match_71 : decode cX7_match 71 = .ok (.iload_n 2, 1) := dk_28 (dk_at dksX7_match_3 1 rfl rfl)
theorem dX7_match_72 : decode cX7_match 72 = .ok (.iconst 0, 1) := dk_3 (dk_at dksX7_match_3 2 rfl rfl)
theorem dX7_match_73 : decode cX7_match 73 = .ok (.iload 4, 2) := dk_21 4 (dk_at dksX7_match_3 3 rfl rfl)
theorem dX7_match_75 : decode cX7_match 75 = .ok (.iconst 1, 1) := dk_4 (dk_at dksX7_match_3 5 rfl rfl)
theorem dX7_match_76 : decode cX7_match 76 = .ok (.isub, 1) := dk_100 (dk_at dksX7_match_3 6 rfl rfl)
theorem dX7_match_77 : decode cX7_match 77 = .ok (.invokestatic 78, 3) := dk_184 0 78 (dk_at dksX7_match_3 7 rfl rfl)
theorem dX7_match_80 : decode cX7_match 80 = .ok (.ifCond .eq 11, 3) := dk_153 0 11 (dk_at dksX7_match_3 10 rfl rfl)
theorem dX7_match_83 : decode cX7_match 83 = .ok (.iload 5, 2) := dk_21 5 (dk_at dksX7_match_3 13 rfl rfl)
theorem dX7_match_85 : decode cX7_match 85 = .ok (.ldc_w 365, 3) := dk_19 1 109 (dk_at dksX7_match_3 15 rfl rfl)
theorem dX7_match_88 : decode cX7_match 88 = .ok (.if_icmp .ne 5, 3) := dk_160 0 5 (dk_at dksX7_match_3 18 rfl rfl)
theorem dX7_match_91 : decode cX7_match 91 = .ok (.iconst (-1), 1) := dk_2 (dk_at dksX7_match_3 21 rfl rfl)
theorem dX7_match_92 : decode cX7_match 92 = .ok (.ireturn, 1) := dk_172 (dk_at dksX7_match_3 22 rfl rfl)
theorem dX7_match_93 : decode cX7_match 93 = .ok (.iconst 0, 1) := dk_3 (dk_at dksX7_match_3 23 rfl rfl)
theorem dX7_match_94 : decode cX7_match 94 = .ok (.istore 6, 2) := dk_54 6 (dk_at dksX7_match_4 0 rfl rfl)
theorem dX7_match_96 : decode cX7_match 96 = .ok (.iconst 0, 1) := dk_3 (dk_at dksX7_match_4 2 rfl rfl)
theorem dX7_match_97 : decode cX7_match 97 = .ok (.istore 7, 2) := dk_54 7 (dk_at dksX7_match_4 3 rfl rfl)
theorem dX7_match_99 : decode cX7_match 99 = .ok (.iconst 0, 1) := dk_3 (dk_at dksX7_match_4 5 rfl rfl)
theorem dX7_match_100 : decode cX7_match 100 = .ok (.istore 8, 2) := dk_54 8 (dk_at dksX7_match_4 6 rfl rfl)
theorem dX7_match_102 : decode cX7_match 102 = .ok (.iload 8, 2) := dk_21 8 (dk_at dksX7_match_4 8 rfl rfl)
theorem dX7_match_104 : decode cX7_match 104 = .ok (.iload_n 2, 1) := dk_28 (dk_at dksX7_match_4 10 rfl rfl)
theorem dX7_match_105 : decode cX7_match 105 = .ok (.if_icmp .gt 59, 3) := dk_163 0 59 (dk_at dksX7_match_4 11 rfl rfl)
theorem dX7_match_108 : decode cX7_match 108 = .ok (.iconst 0, 1) := dk_3 (dk_at dksX7_match_4 14 rfl rfl)
theorem dX7_match_109 : decode cX7_match 109 = .ok (.istore 7, 2) := dk_54 7 (dk_at dksX7_match_4 15 rfl rfl)
theorem dX7_match_111 : decode cX7_match 111 = .ok (.aload_n 0, 1) := dk_42 (dk_at dksX7_match_4 17 rfl rfl)
theorem dX7_match_112 : decode cX7_match 112 = .ok (.iload 8, 2) := dk_21 8 (dk_at dksX7_match_4 18 rfl rfl)
theorem dX7_match_114 : decode cX7_match 114 = .ok (.iload 6, 2) := dk_21 6 (dk_at dksX7_match_4 20 rfl rfl)
theorem dX7_match_116 : decode cX7_match 116 = .ok (.aload_n 0, 1) := dk_42 (dk_at dksX7_match_4 22 rfl rfl)
theorem dX7_match_117 : decode cX7_match 117 = .ok (.getfield 45, 3) := dk_180 0 45 (dk_at dksX7_match_5 0 rfl rfl)
theorem dX7_match_120 : decode cX7_match 120 = .ok (.iload 8, 2) := dk_21 8 (dk_at dksX7_match_5 3 rfl rfl)
theorem dX7_match_122 : decode cX7_match 122 = .ok (.iaload, 1) := dk_46 (dk_at dksX7_match_5 5 rfl rfl)
theorem dX7_match_123 : decode cX7_match 123 = .ok (.iload 7, 2) := dk_21 7 (dk_at dksX7_match_5 6 rfl rfl)
theorem dX7_match_125 : decode cX7_match 125 = .ok (.invokevirtual 381, 3) := dk_182 1 125 (dk_at dksX7_match_5 8 rfl rfl)
theorem dX7_match_128 : decode cX7_match 128 = .ok (.aload_n 0, 1) := dk_42 (dk_at dksX7_match_5 11 rfl rfl)
theorem dX7_match_129 : decode cX7_match 129 = .ok (.getfield 51, 3) := dk_180 0 51 (dk_at dksX7_match_5 12 rfl rfl)
theorem dX7_match_132 : decode cX7_match 132 = .ok (.iload 8, 2) := dk_21 8 (dk_at dksX7_match_5 15 rfl rfl)
theorem dX7_match_134 : decode cX7_match 134 = .ok (.iload 6, 2) := dk_21 6 (dk_at dksX7_match_5 17 rfl rfl)
theorem dX7_match_136 : decode cX7_match 136 = .ok (.invokestatic 378, 3) := dk_184 1 122 (dk_at dksX7_match_5 19 rfl rfl)
theorem dX7_match_139 : decode cX7_match 139 = .ok (.iaload, 1) := dk_46 (dk_at dksX7_match_5 22 rfl rfl)
theorem dX7_match_140 : decode cX7_match 140 = .ok (.if_icmp .eq 9, 3) := dk_159 0 9 (dk_at dksX7_match_6 0 rfl rfl)
theorem dX7_match_143 : decode cX7_match 143 = .ok (.iinc 7 1, 3) := dk_132 7 1 (dk_at dksX7_match_6 3 rfl rfl)
theorem dX7_match_146 : decode cX7_match 146 = .ok (.goto (-35), 3) := dk_167 255 221 (dk_at dksX7_match_6 6 rfl rfl)
theorem dX7_match_149 : decode cX7_match 149 = .ok (.iload 6, 2) := dk_21 6 (dk_at dksX7_match_6 9 rfl rfl)
theorem dX7_match_151 : decode cX7_match 151 = .ok (.iconst 1, 1) := dk_4 (dk_at dksX7_match_6 11 rfl rfl)
theorem dX7_match_152 : decode cX7_match 152 = .ok (.iload 7, 2) := dk_21 7 (dk_at dksX7_match_6 12 rfl rfl)
theorem dX7_match_154 : decode cX7_match 154 = .ok (.ishl, 1) := dk_120 (dk_at dksX7_match_6 14 rfl rfl)
theorem dX7_match_155 : decode cX7_match 155 = .ok (.ior, 1) := dk_128 (dk_at dksX7_match_6 15 rfl rfl)
theorem dX7_match_156 : decode cX7_match 156 = .ok (.istore 6, 2) := dk_54 6 (dk_at dksX7_match_6 16 rfl rfl)
theorem dX7_match_158 : decode cX7_match 158 = .ok (.iinc 8 1, 3) := dk_132 8 1 (dk_at dksX7_match_6 18 rfl rfl)
theorem dX7_match_161 : decode cX7_match 161 = .ok (.goto (-59), 3) := dk_167 255 197 (dk_at dksX7_match_6 21 rfl rfl)
theorem dX7_match_164 : decode cX7_match 164 = .ok (.iload 7, 2) := dk_21 7 (dk_at dksX7_match_7 0 rfl rfl)
theorem dX7_match_166 : decode cX7_match 166 = .ok (.ireturn, 1) := dk_172 (dk_at dksX7_match_7 2 rfl rfl)
abbrev cX7_laysJobs : ByteArray := prog_18_method_99_code
def yX7_laysJobs : MethodName := ⟨RX7, "laysJobs", "(I)V"⟩
def dkwX7_laysJobs_5 : List UInt8 := [167, 255, 176, 132, 2, 255, 167, 255, 164, 177]
abbrev dktX7_laysJobs_5 : List UInt8 := dkwX7_laysJobs_5 ++ []
def dkwX7_laysJobs_4 : List UInt8 := [184, 1, 122, 21, 4, 19, 1, 128, 162, 0, 9, 19, 1, 109, 167, 0, 5, 21, 4, 79, 132, 3, 1]
abbrev dktX7_laysJobs_4 : List UInt8 := dkwX7_laysJobs_4 ++ dktX7_laysJobs_5
def dkwX7_laysJobs_3 : List UInt8 := [46, 21, 5, 182, 1, 125, 184, 1, 116, 54, 4, 132, 5, 1, 167, 255, 223, 42, 180, 0, 51, 28, 29]
abbrev dktX7_laysJobs_3 : List UInt8 := dkwX7_laysJobs_3 ++ dktX7_laysJobs_4
def dkwX7_laysJobs_2 : List UInt8 := [54, 4, 3, 54, 5, 21, 5, 42, 182, 0, 82, 162, 0, 30, 21, 4, 42, 28, 29, 42, 180, 0, 45, 28]
abbrev dktX7_laysJobs_2 : List UInt8 := dkwX7_laysJobs_2 ++ dktX7_laysJobs_3
def dkwX7_laysJobs_1 : List UInt8 := [167, 255, 235, 27, 4, 100, 61, 28, 155, 0, 94, 3, 62, 29, 17, 1, 0, 162, 0, 79, 19, 1, 109]
abbrev dktX7_laysJobs_1 : List UInt8 := dkwX7_laysJobs_1 ++ dktX7_laysJobs_2
def dkwX7_laysJobs_0 : List UInt8 := [3, 61, 28, 17, 1, 0, 162, 0, 20, 42, 180, 0, 51, 27, 28, 184, 1, 122, 3, 79, 132, 2, 1]
abbrev dktX7_laysJobs_0 : List UInt8 := dkwX7_laysJobs_0 ++ dktX7_laysJobs_1
theorem dksX7_laysJobs_0 : cX7_laysJobs.data.toList.drop 0 = dktX7_laysJobs_0 := by decide +kernel
theorem dksX7_laysJobs_1 : cX7_laysJobs.data.toList.drop 23 = dktX7_laysJobs_1 := dk_seg dksX7_laysJobs_0 23 rfl rfl
theorem dksX7_laysJobs_2 : cX7_laysJobs.data.toList.drop 46 = dktX7_laysJobs_2 := dk_seg dksX7_laysJobs_1 23 rfl rfl
theorem dksX7_laysJobs_3 : cX7_laysJobs.data.toList.drop 70 = dktX7_laysJobs_3 := dk_seg dksX7_laysJobs_2 24 rfl rfl
theorem dksX7_laysJobs_4 : cX7_laysJobs.data.toList.drop 93 = dktX7_laysJobs_4 := dk_seg dksX7_laysJobs_3 23 rfl rfl
theorem dksX7_laysJobs_5 : cX7_laysJobs.data.toList.drop 116 = dktX7_laysJobs_5 := dk_seg dksX7_laysJobs_4 23 rfl rfl
theorem dX7_laysJobs_0 : decode cX7_laysJobs 0 = .ok (.iconst 0, 1) := dk_3 (dk_at dksX7_laysJobs_0 0 rfl rfl)
theorem dX7_laysJobs_1 : decode cX7_laysJobs 1 = .ok (.istore_n 2, 1) := dk_61 (dk_at dksX7_laysJobs_0 1 rfl rfl)
theorem dX7_laysJobs_2 : decode cX7_laysJobs 2 = .ok (.iload_n 2, 1) := dk_28 (dk_at dksX7_laysJobs_0 2 rfl rfl)
theorem dX7_laysJobs_3 : decode cX7_laysJobs 3 = .ok (.sipush 256, 3) := dk_17 1 0 (dk_at dksX7_laysJobs_0 3 rfl rfl)
theorem dX7_laysJobs_6 : decode cX7_laysJobs 6 = .ok (.if_icmp .ge 20, 3) := dk_162 0 20 (dk_at dksX7_laysJobs_0 6 rfl rfl)
theorem dX7_laysJobs_9 : decode cX7_laysJobs 9 = .ok (.aload_n 0, 1) := dk_42 (dk_at dksX7_laysJobs_0 9 rfl rfl)
theorem dX7_laysJobs_10 : decode cX7_laysJobs 10 = .ok (.getfield 51, 3) := dk_180 0 51 (dk_at dksX7_laysJobs_0 10 rfl rfl)
theorem dX7_laysJobs_13 : decode cX7_laysJobs 13 = .ok (.iload_n 1, 1) := dk_27 (dk_at dksX7_laysJobs_0 13 rfl rfl)
theorem dX7_laysJobs_14 : decode cX7_laysJobs 14 = .ok (.iload_n 2, 1) := dk_28 (dk_at dksX7_laysJobs_0 14 rfl rfl)
theorem dX7_laysJobs_15 : decode cX7_laysJobs 15 = .ok (.invokestatic 378, 3) := dk_184 1 122 (dk_at dksX7_laysJobs_0 15 rfl rfl)
theorem dX7_laysJobs_18 : decode cX7_laysJobs 18 = .ok (.iconst 0, 1) := dk_3 (dk_at dksX7_laysJobs_0 18 rfl rfl)
theorem dX7_laysJobs_19 : decode cX7_laysJobs 19 = .ok (.iastore, 1) := dk_79 (dk_at dksX7_laysJobs_0 19 rfl rfl)
theorem dX7_laysJobs_20 : decode cX7_laysJobs 20 = .ok (.iinc 2 1, 3) := dk_132 2 1 (dk_at dksX7_laysJobs_0 20 rfl rfl)
theorem dX7_laysJobs_23 : decode cX7_laysJobs 23 = .ok (.goto (-21), 3) := dk_167 255 235 (dk_at dksX7_laysJobs_1 0 rfl rfl)
theorem dX7_laysJobs_26 : decode cX7_laysJobs 26 = .ok (.iload_n 1, 1) := dk_27 (dk_at dksX7_laysJobs_1 3 rfl rfl)
theorem dX7_laysJobs_27 : decode cX7_laysJobs 27 = .ok (.iconst 1, 1) := dk_4 (dk_at dksX7_laysJobs_1 4 rfl rfl)
theorem dX7_laysJobs_28 : decode cX7_laysJobs 28 = .ok (.isub, 1) := dk_100 (dk_at dksX7_laysJobs_1 5 rfl rfl)
theorem dX7_laysJobs_29 : decode cX7_laysJobs 29 = .ok (.istore_n 2, 1) := dk_61 (dk_at dksX7_laysJobs_1 6 rfl rfl)
theorem dX7_laysJobs_30 : decode cX7_laysJobs 30 = .ok (.iload_n 2, 1) := dk_28 (dk_at dksX7_laysJobs_1 7 rfl rfl)
theorem dX7_laysJobs_31 : decode cX7_laysJobs 31 = .ok (.ifCond .lt 94, 3) := dk_155 0 94 (dk_at dksX7_laysJobs_1 8 rfl rfl)
theorem dX7_laysJobs_34 : decode cX7_laysJobs 34 = .ok (.iconst 0, 1) := dk_3 (dk_at dksX7_laysJobs_1 11 rfl rfl)
theorem dX7_laysJobs_35 : decode cX7_laysJobs 35 = .ok (.istore_n 3, 1) := dk_62 (dk_at dksX7_laysJobs_1 12 rfl rfl)
theorem dX7_laysJobs_36 : decode cX7_laysJobs 36 = .ok (.iload_n 3, 1) := dk_29 (dk_at dksX7_laysJobs_1 13 rfl rfl)
theorem dX7_laysJobs_37 : decode cX7_laysJobs 37 = .ok (.sipush 256, 3) := dk_17 1 0 (dk_at dksX7_laysJobs_1 14 rfl rfl)
theorem dX7_laysJobs_40 : decode cX7_laysJobs 40 = .ok (.if_icmp .ge 79, 3) := dk_162 0 79 (dk_at dksX7_laysJobs_1 17 rfl rfl)
theorem dX7_laysJobs_43 : decode cX7_laysJobs 43 = .ok (.ldc_w 365, 3) := dk_19 1 109 (dk_at dksX7_laysJobs_1 20 rfl rfl)
theorem dX7_laysJobs_46 : decode cX7_laysJobs 46 = .ok (.istore 4, 2) := dk_54 4 (dk_at dksX7_laysJobs_2 0 rfl rfl)
theorem dX7_laysJobs_48 : decode cX7_laysJobs 48 = .ok (.iconst 0, 1) := dk_3 (dk_at dksX7_laysJobs_2 2 rfl rfl)
theorem dX7_laysJobs_49 : decode cX7_laysJobs 49 = .ok (.istore 5, 2) := dk_54 5 (dk_at dksX7_laysJobs_2 3 rfl rfl)
theorem dX7_laysJobs_51 : decode cX7_laysJobs 51 = .ok (.iload 5, 2) := dk_21 5 (dk_at dksX7_laysJobs_2 5 rfl rfl)
theorem dX7_laysJobs_53 : decode cX7_laysJobs 53 = .ok (.aload_n 0, 1) := dk_42 (dk_at dksX7_laysJobs_2 7 rfl rfl)
theorem dX7_laysJobs_54 : decode cX7_laysJobs 54 = .ok (.invokevirtual 82, 3) := dk_182 0 82 (dk_at dksX7_laysJobs_2 8 rfl rfl)
theorem dX7_laysJobs_57 : decode cX7_laysJobs 57 = .ok (.if_icmp .ge 30, 3) := dk_162 0 30 (dk_at dksX7_laysJobs_2 11 rfl rfl)
theorem dX7_laysJobs_60 : decode cX7_laysJobs 60 = .ok (.iload 4, 2) := dk_21 4 (dk_at dksX7_laysJobs_2 14 rfl rfl)
theorem dX7_laysJobs_62 : decode cX7_laysJobs 62 = .ok (.aload_n 0, 1) := dk_42 (dk_at dksX7_laysJobs_2 16 rfl rfl)
theorem dX7_laysJobs_63 : decode cX7_laysJobs 63 = .ok (.iload_n 2, 1) := dk_28 (dk_at dksX7_laysJobs_2 17 rfl rfl)
theorem dX7_laysJobs_64 : decode cX7_laysJobs 64 = .ok (.iload_n 3, 1) := dk_29 (dk_at dksX7_laysJobs_2 18 rfl rfl)
theorem dX7_laysJobs_65 : decode cX7_laysJobs 65 = .ok (.aload_n 0, 1) := dk_42 (dk_at dksX7_laysJobs_2 19 rfl rfl)
theorem dX7_laysJobs_66 : decode cX7_laysJobs 66 = .ok (.getfield 45, 3) := dk_180 0 45 (dk_at dksX7_laysJobs_2 20 rfl rfl)
theorem dX7_laysJobs_69 : decode cX7_laysJobs 69 = .ok (.iload_n 2, 1) := dk_28 (dk_at dksX7_laysJobs_2 23 rfl rfl)
theorem dX7_laysJobs_70 : decode cX7_laysJobs 70 = .ok (.iaload, 1) := dk_46 (dk_at dksX7_laysJobs_3 0 rfl rfl)
theorem dX7_laysJobs_71 : decode cX7_laysJobs 71 = .ok (.iload 5, 2) := dk_21 5 (dk_at dksX7_laysJobs_3 1 rfl rfl)
theorem dX7_laysJobs_73 : decode cX7_laysJobs 73 = .ok (.invokevirtual 381, 3) := dk_182 1 125 (dk_at dksX7_laysJobs_3 3 rfl rfl)
theorem dX7_laysJobs_76 : decode cX7_laysJobs 76 = .ok (.invokestatic 372, 3) := dk_184 1 116 (dk_at dksX7_laysJobs_3 6 rfl rfl)
theorem dX7_laysJobs_79 : decode cX7_laysJobs 79 = .ok (.istore 4, 2) := dk_54 4 (dk_at dksX7_laysJobs_3 9 rfl rfl)
theorem dX7_laysJobs_81 : decode cX7_laysJobs 81 = .ok (.iinc 5 1, 3) := dk_132 5 1 (dk_at dksX7_laysJobs_3 11 rfl rfl)
theorem dX7_laysJobs_84 : decode cX7_laysJobs 84 = .ok (.goto (-33), 3) := dk_167 255 223 (dk_at dksX7_laysJobs_3 14 rfl rfl)
theorem dX7_laysJobs_87 : decode cX7_laysJobs 87 = .ok (.aload_n 0, 1) := dk_42 (dk_at dksX7_laysJobs_3 17 rfl rfl)
theorem dX7_laysJobs_88 : decode cX7_laysJobs 88 = .ok (.getfield 51, 3) := dk_180 0 51 (dk_at dksX7_laysJobs_3 18 rfl rfl)
theorem dX7_laysJobs_91 : decode cX7_laysJobs 91 = .ok (.iload_n 2, 1) := dk_28 (dk_at dksX7_laysJobs_3 21 rfl rfl)
theorem dX7_laysJobs_92 : decode cX7_laysJobs 92 = .ok (.iload_n 3, 1) := dk_29 (dk_at dksX7_laysJobs_3 22 rfl rfl)
theorem dX7_laysJobs_93 : decode cX7_laysJobs 93 = .ok (.invokestatic 378, 3) := dk_184 1 122 (dk_at dksX7_laysJobs_4 0 rfl rfl)
theorem dX7_laysJobs_96 : decode cX7_laysJobs 96 = .ok (.iload 4, 2) := dk_21 4 (dk_at dksX7_laysJobs_4 3 rfl rfl)
theorem dX7_laysJobs_98 : decode cX7_laysJobs 98 = .ok (.ldc_w 384, 3) := dk_19 1 128 (dk_at dksX7_laysJobs_4 5 rfl rfl)
theorem dX7_laysJobs_101 : decode cX7_laysJobs 101 = .ok (.if_icmp .ge 9, 3) := dk_162 0 9 (dk_at dksX7_laysJobs_4 8 rfl rfl)
theorem dX7_laysJobs_104 : decode cX7_laysJobs 104 = .ok (.ldc_w 365, 3) := dk_19 1 109 (dk_at dksX7_laysJobs_4 11 rfl rfl)
theorem dX7_laysJobs_107 : decode cX7_laysJobs 107 = .ok (.goto 5, 3) := dk_167 0 5 (dk_at dksX7_laysJobs_4 14 rfl rfl)
theorem dX7_laysJobs_110 : decode cX7_laysJobs 110 = .ok (.iload 4, 2) := dk_21 4 (dk_at dksX7_laysJobs_4 17 rfl rfl)
theorem dX7_laysJobs_112 : decode cX7_laysJobs 112 = .ok (.iastore, 1) := dk_79 (dk_at dksX7_laysJobs_4 19 rfl rfl)
theorem dX7_laysJobs_113 : decode cX7_laysJobs 113 = .ok (.iinc 3 1, 3) := dk_132 3 1 (dk_at dksX7_laysJobs_4 20 rfl rfl)
theorem dX7_laysJobs_116 : decode cX7_laysJobs 116 = .ok (.goto (-80), 3) := dk_167 255 176 (dk_at dksX7_laysJobs_5 0 rfl rfl)
theorem dX7_laysJobs_119 : decode cX7_laysJobs 119 = .ok (.iinc 2 (-1), 3) := dk_132 2 255 (dk_at dksX7_laysJobs_5 3 rfl rfl)
theorem dX7_laysJobs_122 : decode cX7_laysJobs 122 = .ok (.goto (-92), 3) := dk_167 255 164 (dk_at dksX7_laysJobs_5 6 rfl rfl)
theorem dX7_laysJobs_125 : decode cX7_laysJobs 125 = .ok (.return_, 1) := dk_177 (dk_at dksX7_laysJobs_5 9 rfl rfl)
abbrev cX7_jobAt : ByteArray := prog_18_method_97_code
def yX7_jobAt : MethodName := ⟨RX7, "jobAt", "(II)I"⟩
def dkwX7_jobAt_0 : List UInt8 := [26, 16, 8, 120, 27, 96, 172]
abbrev dktX7_jobAt_0 : List UInt8 := dkwX7_jobAt_0 ++ []
theorem dksX7_jobAt_0 : cX7_jobAt.data.toList.drop 0 = dktX7_jobAt_0 := by decide +kernel
theorem dX7_jobAt_0 : decode cX7_jobAt 0 = .ok (.iload_n 0, 1) := dk_26 (dk_at dksX7_jobAt_0 0 rfl rfl)
theorem dX7_jobAt_1 : decode cX7_jobAt 1 = .ok (.bipush 8, 2) := dk_16 8 (dk_at dksX7_jobAt_0 1 rfl rfl)
theorem dX7_jobAt_3 : decode cX7_jobAt 3 = .ok (.ishl, 1) := dk_120 (dk_at dksX7_jobAt_0 3 rfl rfl)
theorem dX7_jobAt_4 : decode cX7_jobAt 4 = .ok (.iload_n 1, 1) := dk_27 (dk_at dksX7_jobAt_0 4 rfl rfl)
theorem dX7_jobAt_5 : decode cX7_jobAt 5 = .ok (.iadd, 1) := dk_96 (dk_at dksX7_jobAt_0 5 rfl rfl)
theorem dX7_jobAt_6 : decode cX7_jobAt 6 = .ok (.ireturn, 1) := dk_172 (dk_at dksX7_jobAt_0 6 rfl rfl)
abbrev cX7_jobBy : ByteArray := prog_18_method_98_code
def yX7_jobBy : MethodName := ⟨RX7, "jobBy", "(IIII)I"⟩
def dkwX7_jobBy_2 : List UInt8 := [184, 1, 122, 46, 96, 172]
abbrev dktX7_jobBy_2 : List UInt8 := dkwX7_jobBy_2 ++ []
def dkwX7_jobBy_1 : List UInt8 := [167, 0, 28, 42, 29, 21, 4, 182, 1, 34, 42, 180, 0, 51, 27, 4, 96, 28, 4, 21, 4, 120, 128]
abbrev dktX7_jobBy_1 : List UInt8 := dkwX7_jobBy_1 ++ dktX7_jobBy_2
def dkwX7_jobBy_0 : List UInt8 := [28, 21, 4, 184, 1, 94, 154, 0, 13, 42, 21, 4, 29, 182, 1, 83, 154, 0, 9, 19, 1, 109]
abbrev dktX7_jobBy_0 : List UInt8 := dkwX7_jobBy_0 ++ dktX7_jobBy_1
theorem dksX7_jobBy_0 : cX7_jobBy.data.toList.drop 0 = dktX7_jobBy_0 := by decide +kernel
theorem dksX7_jobBy_1 : cX7_jobBy.data.toList.drop 22 = dktX7_jobBy_1 := dk_seg dksX7_jobBy_0 22 rfl rfl
theorem dksX7_jobBy_2 : cX7_jobBy.data.toList.drop 45 = dktX7_jobBy_2 := dk_seg dksX7_jobBy_1 23 rfl rfl
theorem dX7_jobBy_0 : decode cX7_jobBy 0 = .ok (.iload_n 2, 1) := dk_28 (dk_at dksX7_jobBy_0 0 rfl rfl)
theorem dX7_jobBy_1 : decode cX7_jobBy 1 = .ok (.iload 4, 2) := dk_21 4 (dk_at dksX7_jobBy_0 1 rfl rfl)
theorem dX7_jobBy_3 : decode cX7_jobBy 3 = .ok (.invokestatic 350, 3) := dk_184 1 94 (dk_at dksX7_jobBy_0 3 rfl rfl)
theorem dX7_jobBy_6 : decode cX7_jobBy 6 = .ok (.ifCond .ne 13, 3) := dk_154 0 13 (dk_at dksX7_jobBy_0 6 rfl rfl)
theorem dX7_jobBy_9 : decode cX7_jobBy 9 = .ok (.aload_n 0, 1) := dk_42 (dk_at dksX7_jobBy_0 9 rfl rfl)
theorem dX7_jobBy_10 : decode cX7_jobBy 10 = .ok (.iload 4, 2) := dk_21 4 (dk_at dksX7_jobBy_0 10 rfl rfl)
theorem dX7_jobBy_12 : decode cX7_jobBy 12 = .ok (.iload_n 3, 1) := dk_29 (dk_at dksX7_jobBy_0 12 rfl rfl)
theorem dX7_jobBy_13 : decode cX7_jobBy 13 = .ok (.invokevirtual 339, 3) := dk_182 1 83 (dk_at dksX7_jobBy_0 13 rfl rfl)
theorem dX7_jobBy_16 : decode cX7_jobBy 16 = .ok (.ifCond .ne 9, 3) := dk_154 0 9 (dk_at dksX7_jobBy_0 16 rfl rfl)
theorem dX7_jobBy_19 : decode cX7_jobBy 19 = .ok (.ldc_w 365, 3) := dk_19 1 109 (dk_at dksX7_jobBy_0 19 rfl rfl)
theorem dX7_jobBy_22 : decode cX7_jobBy 22 = .ok (.goto 28, 3) := dk_167 0 28 (dk_at dksX7_jobBy_1 0 rfl rfl)
theorem dX7_jobBy_25 : decode cX7_jobBy 25 = .ok (.aload_n 0, 1) := dk_42 (dk_at dksX7_jobBy_1 3 rfl rfl)
theorem dX7_jobBy_26 : decode cX7_jobBy 26 = .ok (.iload_n 3, 1) := dk_29 (dk_at dksX7_jobBy_1 4 rfl rfl)
theorem dX7_jobBy_27 : decode cX7_jobBy 27 = .ok (.iload 4, 2) := dk_21 4 (dk_at dksX7_jobBy_1 5 rfl rfl)
theorem dX7_jobBy_29 : decode cX7_jobBy 29 = .ok (.invokevirtual 290, 3) := dk_182 1 34 (dk_at dksX7_jobBy_1 7 rfl rfl)
theorem dX7_jobBy_32 : decode cX7_jobBy 32 = .ok (.aload_n 0, 1) := dk_42 (dk_at dksX7_jobBy_1 10 rfl rfl)
theorem dX7_jobBy_33 : decode cX7_jobBy 33 = .ok (.getfield 51, 3) := dk_180 0 51 (dk_at dksX7_jobBy_1 11 rfl rfl)
theorem dX7_jobBy_36 : decode cX7_jobBy 36 = .ok (.iload_n 1, 1) := dk_27 (dk_at dksX7_jobBy_1 14 rfl rfl)
theorem dX7_jobBy_37 : decode cX7_jobBy 37 = .ok (.iconst 1, 1) := dk_4 (dk_at dksX7_jobBy_1 15 rfl rfl)
theorem dX7_jobBy_38 : decode cX7_jobBy 38 = .ok (.iadd, 1) := dk_96 (dk_at dksX7_jobBy_1 16 rfl rfl)
theorem dX7_jobBy_39 : decode cX7_jobBy 39 = .ok (.iload_n 2, 1) := dk_28 (dk_at dksX7_jobBy_1 17 rfl rfl)
theorem dX7_jobBy_40 : decode cX7_jobBy 40 = .ok (.iconst 1, 1) := dk_4 (dk_at dksX7_jobBy_1 18 rfl rfl)
theorem dX7_jobBy_41 : decode cX7_jobBy 41 = .ok (.iload 4, 2) := dk_21 4 (dk_at dksX7_jobBy_1 19 rfl rfl)
theorem dX7_jobBy_43 : decode cX7_jobBy 43 = .ok (.ishl, 1) := dk_120 (dk_at dksX7_jobBy_1 21 rfl rfl)
theorem dX7_jobBy_44 : decode cX7_jobBy 44 = .ok (.ior, 1) := dk_128 (dk_at dksX7_jobBy_1 22 rfl rfl)
theorem dX7_jobBy_45 : decode cX7_jobBy 45 = .ok (.invokestatic 378, 3) := dk_184 1 122 (dk_at dksX7_jobBy_2 0 rfl rfl)
theorem dX7_jobBy_48 : decode cX7_jobBy 48 = .ok (.iaload, 1) := dk_46 (dk_at dksX7_jobBy_2 3 rfl rfl)
theorem dX7_jobBy_49 : decode cX7_jobBy 49 = .ok (.iadd, 1) := dk_96 (dk_at dksX7_jobBy_2 4 rfl rfl)
theorem dX7_jobBy_50 : decode cX7_jobBy 50 = .ok (.ireturn, 1) := dk_172 (dk_at dksX7_jobBy_2 5 rfl rfl)
abbrev cX7_chain : ByteArray := prog_18_method_103_code
def yX7_chain : MethodName := ⟨RX7, "chain", "(I)I"⟩
def dkwX7_chain_1 : List UInt8 := [182, 1, 136, 172]
abbrev dktX7_chain_1 : List UInt8 := dkwX7_chain_1 ++ []
def dkwX7_chain_0 : List UInt8 := [42, 3, 181, 0, 3, 42, 42, 27, 182, 1, 28, 4, 182, 0, 241, 153, 0, 7, 3, 167, 0, 8, 42, 27]
abbrev dktX7_chain_0 : List UInt8 := dkwX7_chain_0 ++ dktX7_chain_1
theorem dksX7_chain_0 : cX7_chain.data.toList.drop 0 = dktX7_chain_0 := by decide +kernel
theorem dksX7_chain_1 : cX7_chain.data.toList.drop 24 = dktX7_chain_1 := dk_seg dksX7_chain_0 24 rfl rfl
theorem dX7_chain_0 : decode cX7_chain 0 = .ok (.aload_n 0, 1) := dk_42 (dk_at dksX7_chain_0 0 rfl rfl)
theorem dX7_chain_1 : decode cX7_chain 1 = .ok (.iconst 0, 1) := dk_3 (dk_at dksX7_chain_0 1 rfl rfl)
theorem dX7_chain_2 : decode cX7_chain 2 = .ok (.putfield 3, 3) := dk_181 0 3 (dk_at dksX7_chain_0 2 rfl rfl)
theorem dX7_chain_5 : decode cX7_chain 5 = .ok (.aload_n 0, 1) := dk_42 (dk_at dksX7_chain_0 5 rfl rfl)
theorem dX7_chain_6 : decode cX7_chain 6 = .ok (.aload_n 0, 1) := dk_42 (dk_at dksX7_chain_0 6 rfl rfl)
theorem dX7_chain_7 : decode cX7_chain 7 = .ok (.iload_n 1, 1) := dk_27 (dk_at dksX7_chain_0 7 rfl rfl)
theorem dX7_chain_8 : decode cX7_chain 8 = .ok (.invokevirtual 284, 3) := dk_182 1 28 (dk_at dksX7_chain_0 8 rfl rfl)
theorem dX7_chain_11 : decode cX7_chain 11 = .ok (.iconst 1, 1) := dk_4 (dk_at dksX7_chain_0 11 rfl rfl)
theorem dX7_chain_12 : decode cX7_chain 12 = .ok (.invokevirtual 241, 3) := dk_182 0 241 (dk_at dksX7_chain_0 12 rfl rfl)
theorem dX7_chain_15 : decode cX7_chain 15 = .ok (.ifCond .eq 7, 3) := dk_153 0 7 (dk_at dksX7_chain_0 15 rfl rfl)
theorem dX7_chain_18 : decode cX7_chain 18 = .ok (.iconst 0, 1) := dk_3 (dk_at dksX7_chain_0 18 rfl rfl)
theorem dX7_chain_19 : decode cX7_chain 19 = .ok (.goto 8, 3) := dk_167 0 8 (dk_at dksX7_chain_0 19 rfl rfl)
theorem dX7_chain_22 : decode cX7_chain 22 = .ok (.aload_n 0, 1) := dk_42 (dk_at dksX7_chain_0 22 rfl rfl)
theorem dX7_chain_23 : decode cX7_chain 23 = .ok (.iload_n 1, 1) := dk_27 (dk_at dksX7_chain_0 23 rfl rfl)
theorem dX7_chain_24 : decode cX7_chain 24 = .ok (.invokevirtual 392, 3) := dk_182 1 136 (dk_at dksX7_chain_1 0 rfl rfl)
theorem dX7_chain_27 : decode cX7_chain 27 = .ok (.ireturn, 1) := dk_172 (dk_at dksX7_chain_1 3 rfl rfl)
abbrev cX7_chainOf : ByteArray := prog_18_method_102_code
def yX7_chainOf : MethodName := ⟨RX7, "chainOf", "(I)I"⟩
def dkwX7_chainOf_2 : List UInt8 := [172]
abbrev dktX7_chainOf_2 : List UInt8 := dkwX7_chainOf_2 ++ []
def dkwX7_chainOf_1 : List UInt8 := [160, 0, 14, 4, 42, 29, 4, 182, 1, 133, 120, 167, 0, 4, 3, 128, 61, 132, 3, 1, 167, 255, 217, 28]
abbrev dktX7_chainOf_1 : List UInt8 := dkwX7_chainOf_1 ++ dktX7_chainOf_2
def dkwX7_chainOf_0 : List UInt8 := [3, 61, 3, 62, 29, 42, 180, 0, 13, 16, 7, 46, 162, 0, 34, 28, 42, 29, 5, 182, 1, 133, 27]
abbrev dktX7_chainOf_0 : List UInt8 := dkwX7_chainOf_0 ++ dktX7_chainOf_1
theorem dksX7_chainOf_0 : cX7_chainOf.data.toList.drop 0 = dktX7_chainOf_0 := by decide +kernel
theorem dksX7_chainOf_1 : cX7_chainOf.data.toList.drop 23 = dktX7_chainOf_1 := dk_seg dksX7_chainOf_0 23 rfl rfl
theorem dksX7_chainOf_2 : cX7_chainOf.data.toList.drop 47 = dktX7_chainOf_2 := dk_seg dksX7_chainOf_1 24 rfl rfl
theorem dX7_chainOf_0 : decode cX7_chainOf 0 = .ok (.iconst 0, 1) := dk_3 (dk_at dksX7_chainOf_0 0 rfl rfl)
theorem dX7_chainOf_1 : decode cX7_chainOf 1 = .ok (.istore_n 2, 1) := dk_61 (dk_at dksX7_chainOf_0 1 rfl rfl)
theorem dX7_chainOf_2 : decode cX7_chainOf 2 = .ok (.iconst 0, 1) := dk_3 (dk_at dksX7_chainOf_0 2 rfl rfl)
theorem dX7_chainOf_3 : decode cX7_chainOf 3 = .ok (.istore_n 3, 1) := dk_62 (dk_at dksX7_chainOf_0 3 rfl rfl)
theorem dX7_chainOf_4 : decode cX7_chainOf 4 = .ok (.iload_n 3, 1) := dk_29 (dk_at dksX7_chainOf_0 4 rfl rfl)
theorem dX7_chainOf_5 : decode cX7_chainOf 5 = .ok (.aload_n 0, 1) := dk_42 (dk_at dksX7_chainOf_0 5 rfl rfl)
theorem dX7_chainOf_6 : decode cX7_chainOf 6 = .ok (.getfield 13, 3) := dk_180 0 13 (dk_at dksX7_chainOf_0 6 rfl rfl)
theorem dX7_chainOf_9 : decode cX7_chainOf 9 = .ok (.bipush 7, 2) := dk_16 7 (dk_at dksX7_chainOf_0 9 rfl rfl)
theorem dX7_chainOf_11 : decode cX7_chainOf 11 = .ok (.iaload, 1) := dk_46 (dk_at dksX7_chainOf_0 11 rfl rfl)
theorem dX7_chainOf_12 : decode cX7_chainOf 12 = .ok (.if_icmp .ge 34, 3) := dk_162 0 34 (dk_at dksX7_chainOf_0 12 rfl rfl)
theorem dX7_chainOf_15 : decode cX7_chainOf 15 = .ok (.iload_n 2, 1) := dk_28 (dk_at dksX7_chainOf_0 15 rfl rfl)
theorem dX7_chainOf_16 : decode cX7_chainOf 16 = .ok (.aload_n 0, 1) := dk_42 (dk_at dksX7_chainOf_0 16 rfl rfl)
theorem dX7_chainOf_17 : decode cX7_chainOf 17 = .ok (.iload_n 3, 1) := dk_29 (dk_at dksX7_chainOf_0 17 rfl rfl)
theorem dX7_chainOf_18 : decode cX7_chainOf 18 = .ok (.iconst 2, 1) := dk_5 (dk_at dksX7_chainOf_0 18 rfl rfl)
theorem dX7_chainOf_19 : decode cX7_chainOf 19 = .ok (.invokevirtual 389, 3) := dk_182 1 133 (dk_at dksX7_chainOf_0 19 rfl rfl)
theorem dX7_chainOf_22 : decode cX7_chainOf 22 = .ok (.iload_n 1, 1) := dk_27 (dk_at dksX7_chainOf_0 22 rfl rfl)
theorem dX7_chainOf_23 : decode cX7_chainOf 23 = .ok (.if_icmp .ne 14, 3) := dk_160 0 14 (dk_at dksX7_chainOf_1 0 rfl rfl)
theorem dX7_chainOf_26 : decode cX7_chainOf 26 = .ok (.iconst 1, 1) := dk_4 (dk_at dksX7_chainOf_1 3 rfl rfl)
theorem dX7_chainOf_27 : decode cX7_chainOf 27 = .ok (.aload_n 0, 1) := dk_42 (dk_at dksX7_chainOf_1 4 rfl rfl)
theorem dX7_chainOf_28 : decode cX7_chainOf 28 = .ok (.iload_n 3, 1) := dk_29 (dk_at dksX7_chainOf_1 5 rfl rfl)
theorem dX7_chainOf_29 : decode cX7_chainOf 29 = .ok (.iconst 1, 1) := dk_4 (dk_at dksX7_chainOf_1 6 rfl rfl)
theorem dX7_chainOf_30 : decode cX7_chainOf 30 = .ok (.invokevirtual 389, 3) := dk_182 1 133 (dk_at dksX7_chainOf_1 7 rfl rfl)
theorem dX7_chainOf_33 : decode cX7_chainOf 33 = .ok (.ishl, 1) := dk_120 (dk_at dksX7_chainOf_1 10 rfl rfl)
theorem dX7_chainOf_34 : decode cX7_chainOf 34 = .ok (.goto 4, 3) := dk_167 0 4 (dk_at dksX7_chainOf_1 11 rfl rfl)
theorem dX7_chainOf_37 : decode cX7_chainOf 37 = .ok (.iconst 0, 1) := dk_3 (dk_at dksX7_chainOf_1 14 rfl rfl)
theorem dX7_chainOf_38 : decode cX7_chainOf 38 = .ok (.ior, 1) := dk_128 (dk_at dksX7_chainOf_1 15 rfl rfl)
theorem dX7_chainOf_39 : decode cX7_chainOf 39 = .ok (.istore_n 2, 1) := dk_61 (dk_at dksX7_chainOf_1 16 rfl rfl)
theorem dX7_chainOf_40 : decode cX7_chainOf 40 = .ok (.iinc 3 1, 3) := dk_132 3 1 (dk_at dksX7_chainOf_1 17 rfl rfl)
theorem dX7_chainOf_43 : decode cX7_chainOf 43 = .ok (.goto (-39), 3) := dk_167 255 217 (dk_at dksX7_chainOf_1 20 rfl rfl)
theorem dX7_chainOf_46 : decode cX7_chainOf 46 = .ok (.iload_n 2, 1) := dk_28 (dk_at dksX7_chainOf_1 23 rfl rfl)
theorem dX7_chainOf_47 : decode cX7_chainOf 47 = .ok (.ireturn, 1) := dk_172 (dk_at dksX7_chainOf_2 0 rfl rfl)
abbrev cX7_ofLog : ByteArray := prog_18_method_101_code
def yX7_ofLog : MethodName := ⟨RX7, "ofLog", "(II)I"⟩
def dkwX7_ofLog_0 : List UInt8 := [42, 180, 0, 13, 17, 0, 137, 7, 27, 104, 96, 28, 96, 46, 172]
abbrev dktX7_ofLog_0 : List UInt8 := dkwX7_ofLog_0 ++ []
theorem dksX7_ofLog_0 : cX7_ofLog.data.toList.drop 0 = dktX7_ofLog_0 := by decide +kernel
theorem dX7_ofLog_0 : decode cX7_ofLog 0 = .ok (.aload_n 0, 1) := dk_42 (dk_at dksX7_ofLog_0 0 rfl rfl)
theorem dX7_ofLog_1 : decode cX7_ofLog 1 = .ok (.getfield 13, 3) := dk_180 0 13 (dk_at dksX7_ofLog_0 1 rfl rfl)
theorem dX7_ofLog_4 : decode cX7_ofLog 4 = .ok (.sipush 137, 3) := dk_17 0 137 (dk_at dksX7_ofLog_0 4 rfl rfl)
theorem dX7_ofLog_7 : decode cX7_ofLog 7 = .ok (.iconst 4, 1) := dk_7 (dk_at dksX7_ofLog_0 7 rfl rfl)
theorem dX7_ofLog_8 : decode cX7_ofLog 8 = .ok (.iload_n 1, 1) := dk_27 (dk_at dksX7_ofLog_0 8 rfl rfl)
theorem dX7_ofLog_9 : decode cX7_ofLog 9 = .ok (.imul, 1) := dk_104 (dk_at dksX7_ofLog_0 9 rfl rfl)
theorem dX7_ofLog_10 : decode cX7_ofLog 10 = .ok (.iadd, 1) := dk_96 (dk_at dksX7_ofLog_0 10 rfl rfl)
theorem dX7_ofLog_11 : decode cX7_ofLog 11 = .ok (.iload_n 2, 1) := dk_28 (dk_at dksX7_ofLog_0 11 rfl rfl)
theorem dX7_ofLog_12 : decode cX7_ofLog 12 = .ok (.iadd, 1) := dk_96 (dk_at dksX7_ofLog_0 12 rfl rfl)
theorem dX7_ofLog_13 : decode cX7_ofLog 13 = .ok (.iaload, 1) := dk_46 (dk_at dksX7_ofLog_0 13 rfl rfl)
theorem dX7_ofLog_14 : decode cX7_ofLog 14 = .ok (.ireturn, 1) := dk_172 (dk_at dksX7_ofLog_0 14 rfl rfl)
abbrev cX7_since : ByteArray := prog_18_method_104_code
def yX7_since : MethodName := ⟨RX7, "since", "(II)I"⟩
def dkwX7_since_4 : List UInt8 := [153, 0, 10, 4, 21, 4, 120, 167, 0, 4, 3, 128, 62, 132, 4, 1, 167, 255, 207, 29, 172]
abbrev dktX7_since_4 : List UInt8 := dkwX7_since_4 ++ []
def dkwX7_since_3 : List UInt8 := [21, 4, 182, 1, 136, 27, 184, 1, 94, 153, 0, 23, 42, 21, 4, 182, 1, 136, 28, 184, 1, 94]
abbrev dktX7_since_3 : List UInt8 := dkwX7_since_3 ++ dktX7_since_4
def dkwX7_since_2 : List UInt8 := [182, 0, 241, 153, 0, 5, 3, 172, 3, 62, 3, 54, 4, 21, 4, 42, 182, 0, 82, 162, 0, 46, 29, 42]
abbrev dktX7_since_2 : List UInt8 := dkwX7_since_2 ++ dktX7_since_3
def dkwX7_since_1 : List UInt8 := [167, 0, 4, 3, 4, 182, 0, 241, 154, 0, 21, 42, 27, 28, 160, 0, 7, 4, 167, 0, 4, 3, 5]
abbrev dktX7_since_1 : List UInt8 := dkwX7_since_1 ++ dktX7_since_2
def dkwX7_since_0 : List UInt8 := [42, 3, 181, 0, 3, 42, 42, 27, 182, 1, 19, 154, 0, 11, 42, 28, 182, 1, 19, 153, 0, 7, 4]
abbrev dktX7_since_0 : List UInt8 := dkwX7_since_0 ++ dktX7_since_1
theorem dksX7_since_0 : cX7_since.data.toList.drop 0 = dktX7_since_0 := by decide +kernel
theorem dksX7_since_1 : cX7_since.data.toList.drop 23 = dktX7_since_1 := dk_seg dksX7_since_0 23 rfl rfl
theorem dksX7_since_2 : cX7_since.data.toList.drop 46 = dktX7_since_2 := dk_seg dksX7_since_1 23 rfl rfl
theorem dksX7_since_3 : cX7_since.data.toList.drop 70 = dktX7_since_3 := dk_seg dksX7_since_2 24 rfl rfl
theorem dksX7_since_4 : cX7_since.data.toList.drop 92 = dktX7_since_4 := dk_seg dksX7_since_3 22 rfl rfl
theorem dX7_since_0 : decode cX7_since 0 = .ok (.aload_n 0, 1) := dk_42 (dk_at dksX7_since_0 0 rfl rfl)
theorem dX7_since_1 : decode cX7_since 1 = .ok (.iconst 0, 1) := dk_3 (dk_at dksX7_since_0 1 rfl rfl)
theorem dX7_since_2 : decode cX7_since 2 = .ok (.putfield 3, 3) := dk_181 0 3 (dk_at dksX7_since_0 2 rfl rfl)
theorem dX7_since_5 : decode cX7_since 5 = .ok (.aload_n 0, 1) := dk_42 (dk_at dksX7_since_0 5 rfl rfl)
theorem dX7_since_6 : decode cX7_since 6 = .ok (.aload_n 0, 1) := dk_42 (dk_at dksX7_since_0 6 rfl rfl)
theorem dX7_since_7 : decode cX7_since 7 = .ok (.iload_n 1, 1) := dk_27 (dk_at dksX7_since_0 7 rfl rfl)
theorem dX7_since_8 : decode cX7_since 8 = .ok (.invokevirtual 275, 3) := dk_182 1 19 (dk_at dksX7_since_0 8 rfl rfl)
theorem dX7_since_11 : decode cX7_since 11 = .ok (.ifCond .ne 11, 3) := dk_154 0 11 (dk_at dksX7_since_0 11 rfl rfl)
theorem dX7_since_14 : decode cX7_since 14 = .ok (.aload_n 0, 1) := dk_42 (dk_at dksX7_since_0 14 rfl rfl)
theorem dX7_since_15 : decode cX7_since 15 = .ok (.iload_n 2, 1) := dk_28 (dk_at dksX7_since_0 15 rfl rfl)
theorem dX7_since_16 : decode cX7_since 16 = .ok (.invokevirtual 275, 3) := dk_182 1 19 (dk_at dksX7_since_0 16 rfl rfl)
theorem dX7_since_19 : decode cX7_since 19 = .ok (.ifCond .eq 7, 3) := dk_153 0 7 (dk_at dksX7_since_0 19 rfl rfl)
theorem dX7_since_22 : decode cX7_since 22 = .ok (.iconst 1, 1) := dk_4 (dk_at dksX7_since_0 22 rfl rfl)
theorem dX7_since_23 : decode cX7_since 23 = .ok (.goto 4, 3) := dk_167 0 4 (dk_at dksX7_since_1 0 rfl rfl)
theorem dX7_since_26 : decode cX7_since 26 = .ok (.iconst 0, 1) := dk_3 (dk_at dksX7_since_1 3 rfl rfl)
theorem dX7_since_27 : decode cX7_since 27 = .ok (.iconst 1, 1) := dk_4 (dk_at dksX7_since_1 4 rfl rfl)
theorem dX7_since_28 : decode cX7_since 28 = .ok (.invokevirtual 241, 3) := dk_182 0 241 (dk_at dksX7_since_1 5 rfl rfl)
theorem dX7_since_31 : decode cX7_since 31 = .ok (.ifCond .ne 21, 3) := dk_154 0 21 (dk_at dksX7_since_1 8 rfl rfl)
theorem dX7_since_34 : decode cX7_since 34 = .ok (.aload_n 0, 1) := dk_42 (dk_at dksX7_since_1 11 rfl rfl)
theorem dX7_since_35 : decode cX7_since 35 = .ok (.iload_n 1, 1) := dk_27 (dk_at dksX7_since_1 12 rfl rfl)
theorem dX7_since_36 : decode cX7_since 36 = .ok (.iload_n 2, 1) := dk_28 (dk_at dksX7_since_1 13 rfl rfl)
theorem dX7_since_37 : decode cX7_since 37 = .ok (.if_icmp .ne 7, 3) := dk_160 0 7 (dk_at dksX7_since_1 14 rfl rfl)
theorem dX7_since_40 : decode cX7_since 40 = .ok (.iconst 1, 1) := dk_4 (dk_at dksX7_since_1 17 rfl rfl)
theorem dX7_since_41 : decode cX7_since 41 = .ok (.goto 4, 3) := dk_167 0 4 (dk_at dksX7_since_1 18 rfl rfl)
theorem dX7_since_44 : decode cX7_since 44 = .ok (.iconst 0, 1) := dk_3 (dk_at dksX7_since_1 21 rfl rfl)
theorem dX7_since_45 : decode cX7_since 45 = .ok (.iconst 2, 1) := dk_5 (dk_at dksX7_since_1 22 rfl rfl)
theorem dX7_since_46 : decode cX7_since 46 = .ok (.invokevirtual 241, 3) := dk_182 0 241 (dk_at dksX7_since_2 0 rfl rfl)
theorem dX7_since_49 : decode cX7_since 49 = .ok (.ifCond .eq 5, 3) := dk_153 0 5 (dk_at dksX7_since_2 3 rfl rfl)
theorem dX7_since_52 : decode cX7_since 52 = .ok (.iconst 0, 1) := dk_3 (dk_at dksX7_since_2 6 rfl rfl)
theorem dX7_since_53 : decode cX7_since 53 = .ok (.ireturn, 1) := dk_172 (dk_at dksX7_since_2 7 rfl rfl)
theorem dX7_since_54 : decode cX7_since 54 = .ok (.iconst 0, 1) := dk_3 (dk_at dksX7_since_2 8 rfl rfl)
theorem dX7_since_55 : decode cX7_since 55 = .ok (.istore_n 3, 1) := dk_62 (dk_at dksX7_since_2 9 rfl rfl)
theorem dX7_since_56 : decode cX7_since 56 = .ok (.iconst 0, 1) := dk_3 (dk_at dksX7_since_2 10 rfl rfl)
theorem dX7_since_57 : decode cX7_since 57 = .ok (.istore 4, 2) := dk_54 4 (dk_at dksX7_since_2 11 rfl rfl)
theorem dX7_since_59 : decode cX7_since 59 = .ok (.iload 4, 2) := dk_21 4 (dk_at dksX7_since_2 13 rfl rfl)
theorem dX7_since_61 : decode cX7_since 61 = .ok (.aload_n 0, 1) := dk_42 (dk_at dksX7_since_2 15 rfl rfl)
theorem dX7_since_62 : decode cX7_since 62 = .ok (.invokevirtual 82, 3) := dk_182 0 82 (dk_at dksX7_since_2 16 rfl rfl)
theorem dX7_since_65 : decode cX7_since 65 = .ok (.if_icmp .ge 46, 3) := dk_162 0 46 (dk_at dksX7_since_2 19 rfl rfl)
theorem dX7_since_68 : decode cX7_since 68 = .ok (.iload_n 3, 1) := dk_29 (dk_at dksX7_since_2 22 rfl rfl)
theorem dX7_since_69 : decode cX7_since 69 = .ok (.aload_n 0, 1) := dk_42 (dk_at dksX7_since_2 23 rfl rfl)
theorem dX7_since_70 : decode cX7_since 70 = .ok (.iload 4, 2) := dk_21 4 (dk_at dksX7_since_3 0 rfl rfl)
theorem dX7_since_72 : decode cX7_since 72 = .ok (.invokevirtual 392, 3) := dk_182 1 136 (dk_at dksX7_since_3 2 rfl rfl)
theorem dX7_since_75 : decode cX7_since 75 = .ok (.iload_n 1, 1) := dk_27 (dk_at dksX7_since_3 5 rfl rfl)
theorem dX7_since_76 : decode cX7_since 76 = .ok (.invokestatic 350, 3) := dk_184 1 94 (dk_at dksX7_since_3 6 rfl rfl)
theorem dX7_since_79 : decode cX7_since 79 = .ok (.ifCond .eq 23, 3) := dk_153 0 23 (dk_at dksX7_since_3 9 rfl rfl)
theorem dX7_since_82 : decode cX7_since 82 = .ok (.aload_n 0, 1) := dk_42 (dk_at dksX7_since_3 12 rfl rfl)
theorem dX7_since_83 : decode cX7_since 83 = .ok (.iload 4, 2) := dk_21 4 (dk_at dksX7_since_3 13 rfl rfl)
theorem dX7_since_85 : decode cX7_since 85 = .ok (.invokevirtual 392, 3) := dk_182 1 136 (dk_at dksX7_since_3 15 rfl rfl)
theorem dX7_since_88 : decode cX7_since 88 = .ok (.iload_n 2, 1) := dk_28 (dk_at dksX7_since_3 18 rfl rfl)
theorem dX7_since_89 : decode cX7_since 89 = .ok (.invokestatic 350, 3) := dk_184 1 94 (dk_at dksX7_since_3 19 rfl rfl)
theorem dX7_since_92 : decode cX7_since 92 = .ok (.ifCond .eq 10, 3) := dk_153 0 10 (dk_at dksX7_since_4 0 rfl rfl)
theorem dX7_since_95 : decode cX7_since 95 = .ok (.iconst 1, 1) := dk_4 (dk_at dksX7_since_4 3 rfl rfl)
theorem dX7_since_96 : decode cX7_since 96 = .ok (.iload 4, 2) := dk_21 4 (dk_at dksX7_since_4 4 rfl rfl)
theorem dX7_since_98 : decode cX7_since 98 = .ok (.ishl, 1) := dk_120 (dk_at dksX7_since_4 6 rfl rfl)
theorem dX7_since_99 : decode cX7_since 99 = .ok (.goto 4, 3) := dk_167 0 4 (dk_at dksX7_since_4 7 rfl rfl)
theorem dX7_since_102 : decode cX7_since 102 = .ok (.iconst 0, 1) := dk_3 (dk_at dksX7_since_4 10 rfl rfl)
theorem dX7_since_103 : decode cX7_since 103 = .ok (.ior, 1) := dk_128 (dk_at dksX7_since_4 11 rfl rfl)
theorem dX7_since_104 : decode cX7_since 104 = .ok (.istore_n 3, 1) := dk_62 (dk_at dksX7_since_4 12 rfl rfl)
theorem dX7_since_105 : decode cX7_since 105 = .ok (.iinc 4 1, 3) := dk_132 4 1 (dk_at dksX7_since_4 13 rfl rfl)
theorem dX7_since_108 : decode cX7_since 108 = .ok (.goto (-49), 3) := dk_167 255 207 (dk_at dksX7_since_4 16 rfl rfl)
theorem dX7_since_111 : decode cX7_since 111 = .ok (.iload_n 3, 1) := dk_29 (dk_at dksX7_since_4 19 rfl rfl)
theorem dX7_since_112 : decode cX7_since 112 = .ok (.ireturn, 1) := dk_172 (dk_at dksX7_since_4 20 rfl rfl)
abbrev cX7_whose : ByteArray := prog_18_method_107_code
def yX7_whose : MethodName := ⟨RX7, "whose", "()I"⟩
def dkwX7_whose_1 : List UInt8 := [3, 167, 0, 7, 42, 182, 1, 142, 172]
abbrev dktX7_whose_1 : List UInt8 := dkwX7_whose_1 ++ []
def dkwX7_whose_0 : List UInt8 := [42, 182, 0, 230, 42, 42, 182, 1, 139, 154, 0, 7, 4, 167, 0, 4, 3, 4, 182, 0, 241, 153, 0, 7]
abbrev dktX7_whose_0 : List UInt8 := dkwX7_whose_0 ++ dktX7_whose_1
theorem dksX7_whose_0 : cX7_whose.data.toList.drop 0 = dktX7_whose_0 := by decide +kernel
theorem dksX7_whose_1 : cX7_whose.data.toList.drop 24 = dktX7_whose_1 := dk_seg dksX7_whose_0 24 rfl rfl
theorem dX7_whose_0 : decode cX7_whose 0 = .ok (.aload_n 0, 1) := dk_42 (dk_at dksX7_whose_0 0 rfl rfl)
theorem dX7_whose_1 : decode cX7_whose 1 = .ok (.invokevirtual 230, 3) := dk_182 0 230 (dk_at dksX7_whose_0 1 rfl rfl)
theorem dX7_whose_4 : decode cX7_whose 4 = .ok (.aload_n 0, 1) := dk_42 (dk_at dksX7_whose_0 4 rfl rfl)
theorem dX7_whose_5 : decode cX7_whose 5 = .ok (.aload_n 0, 1) := dk_42 (dk_at dksX7_whose_0 5 rfl rfl)
theorem dX7_whose_6 : decode cX7_whose 6 = .ok (.invokevirtual 395, 3) := dk_182 1 139 (dk_at dksX7_whose_0 6 rfl rfl)
theorem dX7_whose_9 : decode cX7_whose 9 = .ok (.ifCond .ne 7, 3) := dk_154 0 7 (dk_at dksX7_whose_0 9 rfl rfl)
theorem dX7_whose_12 : decode cX7_whose 12 = .ok (.iconst 1, 1) := dk_4 (dk_at dksX7_whose_0 12 rfl rfl)
theorem dX7_whose_13 : decode cX7_whose 13 = .ok (.goto 4, 3) := dk_167 0 4 (dk_at dksX7_whose_0 13 rfl rfl)
theorem dX7_whose_16 : decode cX7_whose 16 = .ok (.iconst 0, 1) := dk_3 (dk_at dksX7_whose_0 16 rfl rfl)
theorem dX7_whose_17 : decode cX7_whose 17 = .ok (.iconst 1, 1) := dk_4 (dk_at dksX7_whose_0 17 rfl rfl)
theorem dX7_whose_18 : decode cX7_whose 18 = .ok (.invokevirtual 241, 3) := dk_182 0 241 (dk_at dksX7_whose_0 18 rfl rfl)
theorem dX7_whose_21 : decode cX7_whose 21 = .ok (.ifCond .eq 7, 3) := dk_153 0 7 (dk_at dksX7_whose_0 21 rfl rfl)
theorem dX7_whose_24 : decode cX7_whose 24 = .ok (.iconst 0, 1) := dk_3 (dk_at dksX7_whose_1 0 rfl rfl)
theorem dX7_whose_25 : decode cX7_whose 25 = .ok (.goto 7, 3) := dk_167 0 7 (dk_at dksX7_whose_1 1 rfl rfl)
theorem dX7_whose_28 : decode cX7_whose 28 = .ok (.aload_n 0, 1) := dk_42 (dk_at dksX7_whose_1 4 rfl rfl)
theorem dX7_whose_29 : decode cX7_whose 29 = .ok (.invokevirtual 398, 3) := dk_182 1 142 (dk_at dksX7_whose_1 5 rfl rfl)
theorem dX7_whose_32 : decode cX7_whose 32 = .ok (.ireturn, 1) := dk_172 (dk_at dksX7_whose_1 8 rfl rfl)
abbrev cX7_isTold : ByteArray := prog_18_method_105_code
def yX7_isTold : MethodName := ⟨RX7, "isTold", "()Z"⟩
def dkwX7_isTold_3 : List UInt8 := [3, 60, 132, 2, 2, 167, 255, 206, 27, 172]
abbrev dktX7_isTold_3 : List UInt8 := dkwX7_isTold_3 ++ []
def dkwX7_isTold_2 : List UInt8 := [154, 0, 24, 42, 180, 0, 29, 28, 4, 96, 51, 3, 16, 99, 184, 0, 78, 153, 0, 7, 4, 167, 0, 4]
abbrev dktX7_isTold_2 : List UInt8 := dkwX7_isTold_2 ++ dktX7_isTold_3
def dkwX7_isTold_1 : List UInt8 := [3, 61, 28, 42, 180, 0, 92, 162, 0, 48, 27, 153, 0, 44, 42, 180, 0, 29, 28, 51, 184, 1, 37]
abbrev dktX7_isTold_1 : List UInt8 := dkwX7_isTold_1 ++ dktX7_isTold_2
def dkwX7_isTold_0 : List UInt8 := [42, 180, 0, 92, 5, 112, 154, 0, 16, 42, 180, 0, 92, 16, 40, 163, 0, 7, 4, 167, 0, 4, 3, 60]
abbrev dktX7_isTold_0 : List UInt8 := dkwX7_isTold_0 ++ dktX7_isTold_1
theorem dksX7_isTold_0 : cX7_isTold.data.toList.drop 0 = dktX7_isTold_0 := by decide +kernel
theorem dksX7_isTold_1 : cX7_isTold.data.toList.drop 24 = dktX7_isTold_1 := dk_seg dksX7_isTold_0 24 rfl rfl
theorem dksX7_isTold_2 : cX7_isTold.data.toList.drop 47 = dktX7_isTold_2 := dk_seg dksX7_isTold_1 23 rfl rfl
theorem dksX7_isTold_3 : cX7_isTold.data.toList.drop 71 = dktX7_isTold_3 := dk_seg dksX7_isTold_2 24 rfl rfl
theorem dX7_isTold_0 : decode cX7_isTold 0 = .ok (.aload_n 0, 1) := dk_42 (dk_at dksX7_isTold_0 0 rfl rfl)
theorem dX7_isTold_1 : decode cX7_isTold 1 = .ok (.getfield 92, 3) := dk_180 0 92 (dk_at dksX7_isTold_0 1 rfl rfl)
theorem dX7_isTold_4 : decode cX7_isTold 4 = .ok (.iconst 2, 1) := dk_5 (dk_at dksX7_isTold_0 4 rfl rfl)
theorem dX7_isTold_5 : decode cX7_isTold 5 = .ok (.irem, 1) := dk_112 (dk_at dksX7_isTold_0 5 rfl rfl)
theorem dX7_isTold_6 : decode cX7_isTold 6 = .ok (.ifCond .ne 16, 3) := dk_154 0 16 (dk_at dksX7_isTold_0 6 rfl rfl)
theorem dX7_isTold_9 : decode cX7_isTold 9 = .ok (.aload_n 0, 1) := dk_42 (dk_at dksX7_isTold_0 9 rfl rfl)
theorem dX7_isTold_10 : decode cX7_isTold 10 = .ok (.getfield 92, 3) := dk_180 0 92 (dk_at dksX7_isTold_0 10 rfl rfl)
theorem dX7_isTold_13 : decode cX7_isTold 13 = .ok (.bipush 40, 2) := dk_16 40 (dk_at dksX7_isTold_0 13 rfl rfl)
theorem dX7_isTold_15 : decode cX7_isTold 15 = .ok (.if_icmp .gt 7, 3) := dk_163 0 7 (dk_at dksX7_isTold_0 15 rfl rfl)
theorem dX7_isTold_18 : decode cX7_isTold 18 = .ok (.iconst 1, 1) := dk_4 (dk_at dksX7_isTold_0 18 rfl rfl)
theorem dX7_isTold_19 : decode cX7_isTold 19 = .ok (.goto 4, 3) := dk_167 0 4 (dk_at dksX7_isTold_0 19 rfl rfl)
theorem dX7_isTold_22 : decode cX7_isTold 22 = .ok (.iconst 0, 1) := dk_3 (dk_at dksX7_isTold_0 22 rfl rfl)
theorem dX7_isTold_23 : decode cX7_isTold 23 = .ok (.istore_n 1, 1) := dk_60 (dk_at dksX7_isTold_0 23 rfl rfl)
theorem dX7_isTold_24 : decode cX7_isTold 24 = .ok (.iconst 0, 1) := dk_3 (dk_at dksX7_isTold_1 0 rfl rfl)
theorem dX7_isTold_25 : decode cX7_isTold 25 = .ok (.istore_n 2, 1) := dk_61 (dk_at dksX7_isTold_1 1 rfl rfl)
theorem dX7_isTold_26 : decode cX7_isTold 26 = .ok (.iload_n 2, 1) := dk_28 (dk_at dksX7_isTold_1 2 rfl rfl)
theorem dX7_isTold_27 : decode cX7_isTold 27 = .ok (.aload_n 0, 1) := dk_42 (dk_at dksX7_isTold_1 3 rfl rfl)
theorem dX7_isTold_28 : decode cX7_isTold 28 = .ok (.getfield 92, 3) := dk_180 0 92 (dk_at dksX7_isTold_1 4 rfl rfl)
theorem dX7_isTold_31 : decode cX7_isTold 31 = .ok (.if_icmp .ge 48, 3) := dk_162 0 48 (dk_at dksX7_isTold_1 7 rfl rfl)
theorem dX7_isTold_34 : decode cX7_isTold 34 = .ok (.iload_n 1, 1) := dk_27 (dk_at dksX7_isTold_1 10 rfl rfl)
theorem dX7_isTold_35 : decode cX7_isTold 35 = .ok (.ifCond .eq 44, 3) := dk_153 0 44 (dk_at dksX7_isTold_1 11 rfl rfl)
theorem dX7_isTold_38 : decode cX7_isTold 38 = .ok (.aload_n 0, 1) := dk_42 (dk_at dksX7_isTold_1 14 rfl rfl)
theorem dX7_isTold_39 : decode cX7_isTold 39 = .ok (.getfield 29, 3) := dk_180 0 29 (dk_at dksX7_isTold_1 15 rfl rfl)
theorem dX7_isTold_42 : decode cX7_isTold 42 = .ok (.iload_n 2, 1) := dk_28 (dk_at dksX7_isTold_1 18 rfl rfl)
theorem dX7_isTold_43 : decode cX7_isTold 43 = .ok (.baload, 1) := dk_51 (dk_at dksX7_isTold_1 19 rfl rfl)
theorem dX7_isTold_44 : decode cX7_isTold 44 = .ok (.invokestatic 293, 3) := dk_184 1 37 (dk_at dksX7_isTold_1 20 rfl rfl)
theorem dX7_isTold_47 : decode cX7_isTold 47 = .ok (.ifCond .ne 24, 3) := dk_154 0 24 (dk_at dksX7_isTold_2 0 rfl rfl)
theorem dX7_isTold_50 : decode cX7_isTold 50 = .ok (.aload_n 0, 1) := dk_42 (dk_at dksX7_isTold_2 3 rfl rfl)
theorem dX7_isTold_51 : decode cX7_isTold 51 = .ok (.getfield 29, 3) := dk_180 0 29 (dk_at dksX7_isTold_2 4 rfl rfl)
theorem dX7_isTold_54 : decode cX7_isTold 54 = .ok (.iload_n 2, 1) := dk_28 (dk_at dksX7_isTold_2 7 rfl rfl)
theorem dX7_isTold_55 : decode cX7_isTold 55 = .ok (.iconst 1, 1) := dk_4 (dk_at dksX7_isTold_2 8 rfl rfl)
theorem dX7_isTold_56 : decode cX7_isTold 56 = .ok (.iadd, 1) := dk_96 (dk_at dksX7_isTold_2 9 rfl rfl)
theorem dX7_isTold_57 : decode cX7_isTold 57 = .ok (.baload, 1) := dk_51 (dk_at dksX7_isTold_2 10 rfl rfl)
theorem dX7_isTold_58 : decode cX7_isTold 58 = .ok (.iconst 0, 1) := dk_3 (dk_at dksX7_isTold_2 11 rfl rfl)
theorem dX7_isTold_59 : decode cX7_isTold 59 = .ok (.bipush 99, 2) := dk_16 99 (dk_at dksX7_isTold_2 12 rfl rfl)
theorem dX7_isTold_61 : decode cX7_isTold 61 = .ok (.invokestatic 78, 3) := dk_184 0 78 (dk_at dksX7_isTold_2 14 rfl rfl)
theorem dX7_isTold_64 : decode cX7_isTold 64 = .ok (.ifCond .eq 7, 3) := dk_153 0 7 (dk_at dksX7_isTold_2 17 rfl rfl)
theorem dX7_isTold_67 : decode cX7_isTold 67 = .ok (.iconst 1, 1) := dk_4 (dk_at dksX7_isTold_2 20 rfl rfl)
theorem dX7_isTold_68 : decode cX7_isTold 68 = .ok (.goto 4, 3) := dk_167 0 4 (dk_at dksX7_isTold_2 21 rfl rfl)
theorem dX7_isTold_71 : decode cX7_isTold 71 = .ok (.iconst 0, 1) := dk_3 (dk_at dksX7_isTold_3 0 rfl rfl)
theorem dX7_isTold_72 : decode cX7_isTold 72 = .ok (.istore_n 1, 1) := dk_60 (dk_at dksX7_isTold_3 1 rfl rfl)
theorem dX7_isTold_73 : decode cX7_isTold 73 = .ok (.iinc 2 2, 3) := dk_132 2 2 (dk_at dksX7_isTold_3 2 rfl rfl)
theorem dX7_isTold_76 : decode cX7_isTold 76 = .ok (.goto (-50), 3) := dk_167 255 206 (dk_at dksX7_isTold_3 5 rfl rfl)
theorem dX7_isTold_79 : decode cX7_isTold 79 = .ok (.iload_n 1, 1) := dk_27 (dk_at dksX7_isTold_3 8 rfl rfl)
theorem dX7_isTold_80 : decode cX7_isTold 80 = .ok (.ireturn, 1) := dk_172 (dk_at dksX7_isTold_3 9 rfl rfl)
abbrev cX7_allThatFit : ByteArray := prog_18_method_106_code
def yX7_allThatFit : MethodName := ⟨RX7, "allThatFit", "()I"⟩
def dkwX7_allThatFit_3 : List UInt8 := [153, 0, 9, 4, 28, 120, 167, 0, 4, 3, 128, 60, 132, 2, 1, 167, 255, 177, 27, 172]
abbrev dktX7_allThatFit_3 : List UInt8 := dkwX7_allThatFit_3 ++ []
def dkwX7_allThatFit_2 : List UInt8 := [21, 4, 4, 96, 51, 160, 0, 7, 4, 167, 0, 4, 3, 62, 132, 4, 2, 167, 255, 210, 27, 29]
abbrev dktX7_allThatFit_2 : List UInt8 := dkwX7_allThatFit_2 ++ dktX7_allThatFit_3
def dkwX7_allThatFit_1 : List UInt8 := [162, 0, 43, 29, 153, 0, 31, 42, 28, 42, 180, 0, 29, 21, 4, 51, 182, 0, 65, 42, 180, 0, 29]
abbrev dktX7_allThatFit_1 : List UInt8 := dkwX7_allThatFit_1 ++ dktX7_allThatFit_2
def dkwX7_allThatFit_0 : List UInt8 := [3, 60, 3, 61, 28, 42, 182, 0, 74, 162, 0, 77, 4, 62, 3, 54, 4, 21, 4, 42, 180, 0, 92]
abbrev dktX7_allThatFit_0 : List UInt8 := dkwX7_allThatFit_0 ++ dktX7_allThatFit_1
theorem dksX7_allThatFit_0 : cX7_allThatFit.data.toList.drop 0 = dktX7_allThatFit_0 := by decide +kernel
theorem dksX7_allThatFit_1 : cX7_allThatFit.data.toList.drop 23 = dktX7_allThatFit_1 := dk_seg dksX7_allThatFit_0 23 rfl rfl
theorem dksX7_allThatFit_2 : cX7_allThatFit.data.toList.drop 46 = dktX7_allThatFit_2 := dk_seg dksX7_allThatFit_1 23 rfl rfl
theorem dksX7_allThatFit_3 : cX7_allThatFit.data.toList.drop 68 = dktX7_allThatFit_3 := dk_seg dksX7_allThatFit_2 22 rfl rfl
theorem dX7_allThatFit_0 : decode cX7_allThatFit 0 = .ok (.iconst 0, 1) := dk_3 (dk_at dksX7_allThatFit_0 0 rfl rfl)
theorem dX7_allThatFit_1 : decode cX7_allThatFit 1 = .ok (.istore_n 1, 1) := dk_60 (dk_at dksX7_allThatFit_0 1 rfl rfl)
theorem dX7_allThatFit_2 : decode cX7_allThatFit 2 = .ok (.iconst 0, 1) := dk_3 (dk_at dksX7_allThatFit_0 2 rfl rfl)
theorem dX7_allThatFit_3 : decode cX7_allThatFit 3 = .ok (.istore_n 2, 1) := dk_61 (dk_at dksX7_allThatFit_0 3 rfl rfl)
theorem dX7_allThatFit_4 : decode cX7_allThatFit 4 = .ok (.iload_n 2, 1) := dk_28 (dk_at dksX7_allThatFit_0 4 rfl rfl)
theorem dX7_allThatFit_5 : decode cX7_allThatFit 5 = .ok (.aload_n 0, 1) := dk_42 (dk_at dksX7_allThatFit_0 5 rfl rfl)
theorem dX7_allThatFit_6 : decode cX7_allThatFit 6 = .ok (.invokevirtual 74, 3) := dk_182 0 74 (dk_at dksX7_allThatFit_0 6 rfl rfl)
theorem dX7_allThatFit_9 : decode cX7_allThatFit 9 = .ok (.if_icmp .ge 77, 3) := dk_162 0 77 (dk_at dksX7_allThatFit_0 9 rfl rfl)
theorem dX7_allThatFit_12 : decode cX7_allThatFit 12 = .ok (.iconst 1, 1) := dk_4 (dk_at dksX7_allThatFit_0 12 rfl rfl)
theorem dX7_allThatFit_13 : decode cX7_allThatFit 13 = .ok (.istore_n 3, 1) := dk_62 (dk_at dksX7_allThatFit_0 13 rfl rfl)
theorem dX7_allThatFit_14 : decode cX7_allThatFit 14 = .ok (.iconst 0, 1) := dk_3 (dk_at dksX7_allThatFit_0 14 rfl rfl)
theorem dX7_allThatFit_15 : decode cX7_allThatFit 15 = .ok (.istore 4, 2) := dk_54 4 (dk_at dksX7_allThatFit_0 15 rfl rfl)
theorem dX7_allThatFit_17 : decode cX7_allThatFit 17 = .ok (.iload 4, 2) := dk_21 4 (dk_at dksX7_allThatFit_0 17 rfl rfl)
theorem dX7_allThatFit_19 : decode cX7_allThatFit 19 = .ok (.aload_n 0, 1) := dk_42 (dk_at dksX7_allThatFit_0 19 rfl rfl)
theorem dX7_allThatFit_20 : decode cX7_allThatFit 20 = .ok (.getfield 92, 3) := dk_180 0 92 (dk_at dksX7_allThatFit_0 20 rfl rfl)
theorem dX7_allThatFit_23 : decode cX7_allThatFit 23 = .ok (.if_icmp .ge 43, 3) := dk_162 0 43 (dk_at dksX7_allThatFit_1 0 rfl rfl)
theorem dX7_allThatFit_26 : decode cX7_allThatFit 26 = .ok (.iload_n 3, 1) := dk_29 (dk_at dksX7_allThatFit_1 3 rfl rfl)
theorem dX7_allThatFit_27 : decode cX7_allThatFit 27 = .ok (.ifCond .eq 31, 3) := dk_153 0 31 (dk_at dksX7_allThatFit_1 4 rfl rfl)
theorem dX7_allThatFit_30 : decode cX7_allThatFit 30 = .ok (.aload_n 0, 1) := dk_42 (dk_at dksX7_allThatFit_1 7 rfl rfl)
theorem dX7_allThatFit_31 : decode cX7_allThatFit 31 = .ok (.iload_n 2, 1) := dk_28 (dk_at dksX7_allThatFit_1 8 rfl rfl)
theorem dX7_allThatFit_32 : decode cX7_allThatFit 32 = .ok (.aload_n 0, 1) := dk_42 (dk_at dksX7_allThatFit_1 9 rfl rfl)
theorem dX7_allThatFit_33 : decode cX7_allThatFit 33 = .ok (.getfield 29, 3) := dk_180 0 29 (dk_at dksX7_allThatFit_1 10 rfl rfl)
theorem dX7_allThatFit_36 : decode cX7_allThatFit 36 = .ok (.iload 4, 2) := dk_21 4 (dk_at dksX7_allThatFit_1 13 rfl rfl)
theorem dX7_allThatFit_38 : decode cX7_allThatFit 38 = .ok (.baload, 1) := dk_51 (dk_at dksX7_allThatFit_1 15 rfl rfl)
theorem dX7_allThatFit_39 : decode cX7_allThatFit 39 = .ok (.invokevirtual 65, 3) := dk_182 0 65 (dk_at dksX7_allThatFit_1 16 rfl rfl)
theorem dX7_allThatFit_42 : decode cX7_allThatFit 42 = .ok (.aload_n 0, 1) := dk_42 (dk_at dksX7_allThatFit_1 19 rfl rfl)
theorem dX7_allThatFit_43 : decode cX7_allThatFit 43 = .ok (.getfield 29, 3) := dk_180 0 29 (dk_at dksX7_allThatFit_1 20 rfl rfl)
theorem dX7_allThatFit_46 : decode cX7_allThatFit 46 = .ok (.iload 4, 2) := dk_21 4 (dk_at dksX7_allThatFit_2 0 rfl rfl)
theorem dX7_allThatFit_48 : decode cX7_allThatFit 48 = .ok (.iconst 1, 1) := dk_4 (dk_at dksX7_allThatFit_2 2 rfl rfl)
theorem dX7_allThatFit_49 : decode cX7_allThatFit 49 = .ok (.iadd, 1) := dk_96 (dk_at dksX7_allThatFit_2 3 rfl rfl)
theorem dX7_allThatFit_50 : decode cX7_allThatFit 50 = .ok (.baload, 1) := dk_51 (dk_at dksX7_allThatFit_2 4 rfl rfl)
theorem dX7_allThatFit_51 : decode cX7_allThatFit 51 = .ok (.if_icmp .ne 7, 3) := dk_160 0 7 (dk_at dksX7_allThatFit_2 5 rfl rfl)
theorem dX7_allThatFit_54 : decode cX7_allThatFit 54 = .ok (.iconst 1, 1) := dk_4 (dk_at dksX7_allThatFit_2 8 rfl rfl)
theorem dX7_allThatFit_55 : decode cX7_allThatFit 55 = .ok (.goto 4, 3) := dk_167 0 4 (dk_at dksX7_allThatFit_2 9 rfl rfl)
theorem dX7_allThatFit_58 : decode cX7_allThatFit 58 = .ok (.iconst 0, 1) := dk_3 (dk_at dksX7_allThatFit_2 12 rfl rfl)
theorem dX7_allThatFit_59 : decode cX7_allThatFit 59 = .ok (.istore_n 3, 1) := dk_62 (dk_at dksX7_allThatFit_2 13 rfl rfl)
theorem dX7_allThatFit_60 : decode cX7_allThatFit 60 = .ok (.iinc 4 2, 3) := dk_132 4 2 (dk_at dksX7_allThatFit_2 14 rfl rfl)
theorem dX7_allThatFit_63 : decode cX7_allThatFit 63 = .ok (.goto (-46), 3) := dk_167 255 210 (dk_at dksX7_allThatFit_2 17 rfl rfl)
theorem dX7_allThatFit_66 : decode cX7_allThatFit 66 = .ok (.iload_n 1, 1) := dk_27 (dk_at dksX7_allThatFit_2 20 rfl rfl)
theorem dX7_allThatFit_67 : decode cX7_allThatFit 67 = .ok (.iload_n 3, 1) := dk_29 (dk_at dksX7_allThatFit_2 21 rfl rfl)
theorem dX7_allThatFit_68 : decode cX7_allThatFit 68 = .ok (.ifCond .eq 9, 3) := dk_153 0 9 (dk_at dksX7_allThatFit_3 0 rfl rfl)
theorem dX7_allThatFit_71 : decode cX7_allThatFit 71 = .ok (.iconst 1, 1) := dk_4 (dk_at dksX7_allThatFit_3 3 rfl rfl)
theorem dX7_allThatFit_72 : decode cX7_allThatFit 72 = .ok (.iload_n 2, 1) := dk_28 (dk_at dksX7_allThatFit_3 4 rfl rfl)
theorem dX7_allThatFit_73 : decode cX7_allThatFit 73 = .ok (.ishl, 1) := dk_120 (dk_at dksX7_allThatFit_3 5 rfl rfl)
theorem dX7_allThatFit_74 : decode cX7_allThatFit 74 = .ok (.goto 4, 3) := dk_167 0 4 (dk_at dksX7_allThatFit_3 6 rfl rfl)
theorem dX7_allThatFit_77 : decode cX7_allThatFit 77 = .ok (.iconst 0, 1) := dk_3 (dk_at dksX7_allThatFit_3 9 rfl rfl)
theorem dX7_allThatFit_78 : decode cX7_allThatFit 78 = .ok (.ior, 1) := dk_128 (dk_at dksX7_allThatFit_3 10 rfl rfl)
theorem dX7_allThatFit_79 : decode cX7_allThatFit 79 = .ok (.istore_n 1, 1) := dk_60 (dk_at dksX7_allThatFit_3 11 rfl rfl)
theorem dX7_allThatFit_80 : decode cX7_allThatFit 80 = .ok (.iinc 2 1, 3) := dk_132 2 1 (dk_at dksX7_allThatFit_3 12 rfl rfl)
theorem dX7_allThatFit_83 : decode cX7_allThatFit 83 = .ok (.goto (-79), 3) := dk_167 255 177 (dk_at dksX7_allThatFit_3 15 rfl rfl)
theorem dX7_allThatFit_86 : decode cX7_allThatFit 86 = .ok (.iload_n 1, 1) := dk_27 (dk_at dksX7_allThatFit_3 18 rfl rfl)
theorem dX7_allThatFit_87 : decode cX7_allThatFit 87 = .ok (.ireturn, 1) := dk_172 (dk_at dksX7_allThatFit_3 19 rfl rfl)
abbrev cX7_next : ByteArray := prog_18_method_108_code
def yX7_next : MethodName := ⟨RX7, "next", "()I"⟩
def dkwX7_next_7 : List UInt8 := [28, 61, 29, 21, 5, 184, 1, 10, 62, 132, 4, 1, 167, 255, 129, 28, 172]
abbrev dktX7_next_7 : List UInt8 := dkwX7_next_7 ++ []
def dkwX7_next_6 : List UInt8 := [21, 7, 184, 1, 116, 54, 5, 132, 6, 1, 167, 255, 167, 21, 5, 29, 162, 0, 8, 21, 4, 167, 0, 4]
abbrev dktX7_next_6 : List UInt8 := dkwX7_next_6 ++ dktX7_next_7
def dkwX7_next_5 : List UInt8 := [21, 4, 182, 0, 65, 160, 0, 7, 4, 167, 0, 4, 3, 96, 54, 7, 132, 8, 1, 167, 255, 197, 21, 5]
abbrev dktX7_next_5 : List UInt8 := dkwX7_next_5 ++ dktX7_next_6
def dkwX7_next_4 : List UInt8 := [153, 0, 35, 27, 21, 8, 184, 1, 94, 153, 0, 26, 42, 21, 8, 21, 4, 182, 0, 65, 42, 21, 6]
abbrev dktX7_next_4 : List UInt8 := dkwX7_next_4 ++ dktX7_next_5
def dkwX7_next_3 : List UInt8 := [54, 7, 3, 54, 8, 21, 8, 42, 182, 0, 74, 162, 0, 56, 21, 7, 27, 21, 6, 184, 1, 94]
abbrev dktX7_next_3 : List UInt8 := dkwX7_next_3 ++ dktX7_next_4
def dkwX7_next_2 : List UInt8 := [54, 4, 21, 4, 7, 162, 0, 127, 3, 54, 5, 3, 54, 6, 21, 6, 42, 182, 0, 74, 162, 0, 86, 3]
abbrev dktX7_next_2 : List UInt8 := dkwX7_next_2 ++ dktX7_next_3
def dkwX7_next_1 : List UInt8 := [3, 172, 42, 182, 1, 142, 60, 27, 184, 1, 86, 5, 162, 0, 5, 2, 172, 2, 61, 19, 1, 99, 62, 3]
abbrev dktX7_next_1 : List UInt8 := dkwX7_next_1 ++ dktX7_next_2
def dkwX7_next_0 : List UInt8 := [42, 182, 0, 230, 42, 42, 182, 1, 139, 154, 0, 7, 4, 167, 0, 4, 3, 4, 182, 0, 241, 153, 0, 5]
abbrev dktX7_next_0 : List UInt8 := dkwX7_next_0 ++ dktX7_next_1
theorem dksX7_next_0 : cX7_next.data.toList.drop 0 = dktX7_next_0 := by decide +kernel
theorem dksX7_next_1 : cX7_next.data.toList.drop 24 = dktX7_next_1 := dk_seg dksX7_next_0 24 rfl rfl
theorem dksX7_next_2 : cX7_next.data.toList.drop 48 = dktX7_next_2 := dk_seg dksX7_next_1 24 rfl rfl
theorem dksX7_next_3 : cX7_next.data.toList.drop 72 = dktX7_next_3 := dk_seg dksX7_next_2 24 rfl rfl
theorem dksX7_next_4 : cX7_next.data.toList.drop 94 = dktX7_next_4 := dk_seg dksX7_next_3 22 rfl rfl
theorem dksX7_next_5 : cX7_next.data.toList.drop 117 = dktX7_next_5 := dk_seg dksX7_next_4 23 rfl rfl
theorem dksX7_next_6 : cX7_next.data.toList.drop 141 = dktX7_next_6 := dk_seg dksX7_next_5 24 rfl rfl
theorem dksX7_next_7 : cX7_next.data.toList.drop 165 = dktX7_next_7 := dk_seg dksX7_next_6 24 rfl rfl
theorem dX7_next_0 : decode cX7_next 0 = .ok (.aload_n 0, 1) := dk_42 (dk_at dksX7_next_0 0 rfl rfl)
theorem dX7_next_1 : decode cX7_next 1 = .ok (.invokevirtual 230, 3) := dk_182 0 230 (dk_at dksX7_next_0 1 rfl rfl)
theorem dX7_next_4 : decode cX7_next 4 = .ok (.aload_n 0, 1) := dk_42 (dk_at dksX7_next_0 4 rfl rfl)
theorem dX7_next_5 : decode cX7_next 5 = .ok (.aload_n 0, 1) := dk_42 (dk_at dksX7_next_0 5 rfl rfl)
theorem dX7_next_6 : decode cX7_next 6 = .ok (.invokevirtual 395, 3) := dk_182 1 139 (dk_at dksX7_next_0 6 rfl rfl)
theorem dX7_next_9 : decode cX7_next 9 = .ok (.ifCond .ne 7, 3) := dk_154 0 7 (dk_at dksX7_next_0 9 rfl rfl)
theorem dX7_next_12 : decode cX7_next 12 = .ok (.iconst 1, 1) := dk_4 (dk_at dksX7_next_0 12 rfl rfl)
theorem dX7_next_13 : decode cX7_next 13 = .ok (.goto 4, 3) := dk_167 0 4 (dk_at dksX7_next_0 13 rfl rfl)
theorem dX7_next_16 : decode cX7_next 16 = .ok (.iconst 0, 1) := dk_3 (dk_at dksX7_next_0 16 rfl rfl)
theorem dX7_next_17 : decode cX7_next 17 = .ok (.iconst 1, 1) := dk_4 (dk_at dksX7_next_0 17 rfl rfl)
theorem dX7_next_18 : decode cX7_next 18 = .ok (.invokevirtual 241, 3) := dk_182 0 241 (dk_at dksX7_next_0 18 rfl rfl)
theorem dX7_next_21 : decode cX7_next 21 = .ok (.ifCond .eq 5, 3) := dk_153 0 5 (dk_at dksX7_next_0 21 rfl rfl)
theorem dX7_next_24 : decode cX7_next 24 = .ok (.iconst 0, 1) := dk_3 (dk_at dksX7_next_1 0 rfl rfl)
theorem dX7_next_25 : decode cX7_next 25 = .ok (.ireturn, 1) := dk_172 (dk_at dksX7_next_1 1 rfl rfl)
theorem dX7_next_26 : decode cX7_next 26 = .ok (.aload_n 0, 1) := dk_42 (dk_at dksX7_next_1 2 rfl rfl)
theorem dX7_next_27 : decode cX7_next 27 = .ok (.invokevirtual 398, 3) := dk_182 1 142 (dk_at dksX7_next_1 3 rfl rfl)
theorem dX7_next_30 : decode cX7_next 30 = .ok (.istore_n 1, 1) := dk_60 (dk_at dksX7_next_1 6 rfl rfl)
theorem dX7_next_31 : decode cX7_next 31 = .ok (.iload_n 1, 1) := dk_27 (dk_at dksX7_next_1 7 rfl rfl)
theorem dX7_next_32 : decode cX7_next 32 = .ok (.invokestatic 342, 3) := dk_184 1 86 (dk_at dksX7_next_1 8 rfl rfl)
theorem dX7_next_35 : decode cX7_next 35 = .ok (.iconst 2, 1) := dk_5 (dk_at dksX7_next_1 11 rfl rfl)
theorem dX7_next_36 : decode cX7_next 36 = .ok (.if_icmp .ge 5, 3) := dk_162 0 5 (dk_at dksX7_next_1 12 rfl rfl)
theorem dX7_next_39 : decode cX7_next 39 = .ok (.iconst (-1), 1) := dk_2 (dk_at dksX7_next_1 15 rfl rfl)
theorem dX7_next_40 : decode cX7_next 40 = .ok (.ireturn, 1) := dk_172 (dk_at dksX7_next_1 16 rfl rfl)
theorem dX7_next_41 : decode cX7_next 41 = .ok (.iconst (-1), 1) := dk_2 (dk_at dksX7_next_1 17 rfl rfl)
theorem dX7_next_42 : decode cX7_next 42 = .ok (.istore_n 2, 1) := dk_61 (dk_at dksX7_next_1 18 rfl rfl)
theorem dX7_next_43 : decode cX7_next 43 = .ok (.ldc_w 355, 3) := dk_19 1 99 (dk_at dksX7_next_1 19 rfl rfl)
theorem dX7_next_46 : decode cX7_next 46 = .ok (.istore_n 3, 1) := dk_62 (dk_at dksX7_next_1 22 rfl rfl)
theorem dX7_next_47 : decode cX7_next 47 = .ok (.iconst 0, 1) := dk_3 (dk_at dksX7_next_1 23 rfl rfl)
theorem dX7_next_48 : decode cX7_next 48 = .ok (.istore 4, 2) := dk_54 4 (dk_at dksX7_next_2 0 rfl rfl)
theorem dX7_next_50 : decode cX7_next 50 = .ok (.iload 4, 2) := dk_21 4 (dk_at dksX7_next_2 2 rfl rfl)
theorem dX7_next_52 : decode cX7_next 52 = .ok (.iconst 4, 1) := dk_7 (dk_at dksX7_next_2 4 rfl rfl)
theorem dX7_next_53 : decode cX7_next 53 = .ok (.if_icmp .ge 127, 3) := dk_162 0 127 (dk_at dksX7_next_2 5 rfl rfl)
theorem dX7_next_56 : decode cX7_next 56 = .ok (.iconst 0, 1) := dk_3 (dk_at dksX7_next_2 8 rfl rfl)
theorem dX7_next_57 : decode cX7_next 57 = .ok (.istore 5, 2) := dk_54 5 (dk_at dksX7_next_2 9 rfl rfl)
theorem dX7_next_59 : decode cX7_next 59 = .ok (.iconst 0, 1) := dk_3 (dk_at dksX7_next_2 11 rfl rfl)
theorem dX7_next_60 : decode cX7_next 60 = .ok (.istore 6, 2) := dk_54 6 (dk_at dksX7_next_2 12 rfl rfl)
theorem dX7_next_62 : decode cX7_next 62 = .ok (.iload 6, 2) := dk_21 6 (dk_at dksX7_next_2 14 rfl rfl)
theorem dX7_next_64 : decode cX7_next 64 = .ok (.aload_n 0, 1) := dk_42 (dk_at dksX7_next_2 16 rfl rfl)
theorem dX7_next_65 : decode cX7_next 65 = .ok (.invokevirtual 74, 3) := dk_182 0 74 (dk_at dksX7_next_2 17 rfl rfl)
theorem dX7_next_68 : decode cX7_next 68 = .ok (.if_icmp .ge 86, 3) := dk_162 0 86 (dk_at dksX7_next_2 20 rfl rfl)
theorem dX7_next_71 : decode cX7_next 71 = .ok (.iconst 0, 1) := dk_3 (dk_at dksX7_next_2 23 rfl rfl)
theorem dX7_next_72 : decode cX7_next 72 = .ok (.istore 7, 2) := dk_54 7 (dk_at dksX7_next_3 0 rfl rfl)
theorem dX7_next_74 : decode cX7_next 74 = .ok (.iconst 0, 1) := dk_3 (dk_at dksX7_next_3 2 rfl rfl)
theorem dX7_next_75 : decode cX7_next 75 = .ok (.istore 8, 2) := dk_54 8 (dk_at dksX7_next_3 3 rfl rfl)
theorem dX7_next_77 : decode cX7_next 77 = .ok (.iload 8, 2) := dk_21 8 (dk_at dksX7_next_3 5 rfl rfl)
theorem dX7_next_79 : decode cX7_next 79 = .ok (.aload_n 0, 1) := dk_42 (dk_at dksX7_next_3 7 rfl rfl)
theorem dX7_next_80 : decode cX7_next 80 = .ok (.invokevirtual 74, 3) := dk_182 0 74 (dk_at dksX7_next_3 8 rfl rfl)
theorem dX7_next_83 : decode cX7_next 83 = .ok (.if_icmp .ge 56, 3) := dk_162 0 56 (dk_at dksX7_next_3 11 rfl rfl)
theorem dX7_next_86 : decode cX7_next 86 = .ok (.iload 7, 2) := dk_21 7 (dk_at dksX7_next_3 14 rfl rfl)
theorem dX7_next_88 : decode cX7_next 88 = .ok (.iload_n 1, 1) := dk_27 (dk_at dksX7_next_3 16 rfl rfl)
theorem dX7_next_89 : decode cX7_next 89 = .ok (.iload 6, 2) := dk_21 6 (dk_at dksX7_next_3 17 rfl rfl)
theorem dX7_next_91 : decode cX7_next 91 = .ok (.invokestatic 350, 3) := dk_184 1 94 (dk_at dksX7_next_3 19 rfl rfl)
theorem dX7_next_94 : decode cX7_next 94 = .ok (.ifCond .eq 35, 3) := dk_153 0 35 (dk_at dksX7_next_4 0 rfl rfl)
theorem dX7_next_97 : decode cX7_next 97 = .ok (.iload_n 1, 1) := dk_27 (dk_at dksX7_next_4 3 rfl rfl)
theorem dX7_next_98 : decode cX7_next 98 = .ok (.iload 8, 2) := dk_21 8 (dk_at dksX7_next_4 4 rfl rfl)
theorem dX7_next_100 : decode cX7_next 100 = .ok (.invokestatic 350, 3) := dk_184 1 94 (dk_at dksX7_next_4 6 rfl rfl)
theorem dX7_next_103 : decode cX7_next 103 = .ok (.ifCond .eq 26, 3) := dk_153 0 26 (dk_at dksX7_next_4 9 rfl rfl)
theorem dX7_next_106 : decode cX7_next 106 = .ok (.aload_n 0, 1) := dk_42 (dk_at dksX7_next_4 12 rfl rfl)
theorem dX7_next_107 : decode cX7_next 107 = .ok (.iload 8, 2) := dk_21 8 (dk_at dksX7_next_4 13 rfl rfl)
theorem dX7_next_109 : decode cX7_next 109 = .ok (.iload 4, 2) := dk_21 4 (dk_at dksX7_next_4 15 rfl rfl)
theorem dX7_next_111 : decode cX7_next 111 = .ok (.invokevirtual 65, 3) := dk_182 0 65 (dk_at dksX7_next_4 17 rfl rfl)
theorem dX7_next_114 : decode cX7_next 114 = .ok (.aload_n 0, 1) := dk_42 (dk_at dksX7_next_4 20 rfl rfl)
theorem dX7_next_115 : decode cX7_next 115 = .ok (.iload 6, 2) := dk_21 6 (dk_at dksX7_next_4 21 rfl rfl)
theorem dX7_next_117 : decode cX7_next 117 = .ok (.iload 4, 2) := dk_21 4 (dk_at dksX7_next_5 0 rfl rfl)
theorem dX7_next_119 : decode cX7_next 119 = .ok (.invokevirtual 65, 3) := dk_182 0 65 (dk_at dksX7_next_5 2 rfl rfl)
theorem dX7_next_122 : decode cX7_next 122 = .ok (.if_icmp .ne 7, 3) := dk_160 0 7 (dk_at dksX7_next_5 5 rfl rfl)
theorem dX7_next_125 : decode cX7_next 125 = .ok (.iconst 1, 1) := dk_4 (dk_at dksX7_next_5 8 rfl rfl)
theorem dX7_next_126 : decode cX7_next 126 = .ok (.goto 4, 3) := dk_167 0 4 (dk_at dksX7_next_5 9 rfl rfl)
theorem dX7_next_129 : decode cX7_next 129 = .ok (.iconst 0, 1) := dk_3 (dk_at dksX7_next_5 12 rfl rfl)
theorem dX7_next_130 : decode cX7_next 130 = .ok (.iadd, 1) := dk_96 (dk_at dksX7_next_5 13 rfl rfl)
theorem dX7_next_131 : decode cX7_next 131 = .ok (.istore 7, 2) := dk_54 7 (dk_at dksX7_next_5 14 rfl rfl)
theorem dX7_next_133 : decode cX7_next 133 = .ok (.iinc 8 1, 3) := dk_132 8 1 (dk_at dksX7_next_5 16 rfl rfl)
theorem dX7_next_136 : decode cX7_next 136 = .ok (.goto (-59), 3) := dk_167 255 197 (dk_at dksX7_next_5 19 rfl rfl)
theorem dX7_next_139 : decode cX7_next 139 = .ok (.iload 5, 2) := dk_21 5 (dk_at dksX7_next_5 22 rfl rfl)
theorem dX7_next_141 : decode cX7_next 141 = .ok (.iload 7, 2) := dk_21 7 (dk_at dksX7_next_6 0 rfl rfl)
theorem dX7_next_143 : decode cX7_next 143 = .ok (.invokestatic 372, 3) := dk_184 1 116 (dk_at dksX7_next_6 2 rfl rfl)
theorem dX7_next_146 : decode cX7_next 146 = .ok (.istore 5, 2) := dk_54 5 (dk_at dksX7_next_6 5 rfl rfl)
theorem dX7_next_148 : decode cX7_next 148 = .ok (.iinc 6 1, 3) := dk_132 6 1 (dk_at dksX7_next_6 7 rfl rfl)
theorem dX7_next_151 : decode cX7_next 151 = .ok (.goto (-89), 3) := dk_167 255 167 (dk_at dksX7_next_6 10 rfl rfl)
theorem dX7_next_154 : decode cX7_next 154 = .ok (.iload 5, 2) := dk_21 5 (dk_at dksX7_next_6 13 rfl rfl)
theorem dX7_next_156 : decode cX7_next 156 = .ok (.iload_n 3, 1) := dk_29 (dk_at dksX7_next_6 15 rfl rfl)
theorem dX7_next_157 : decode cX7_next 157 = .ok (.if_icmp .ge 8, 3) := dk_162 0 8 (dk_at dksX7_next_6 16 rfl rfl)
theorem dX7_next_160 : decode cX7_next 160 = .ok (.iload 4, 2) := dk_21 4 (dk_at dksX7_next_6 19 rfl rfl)
theorem dX7_next_162 : decode cX7_next 162 = .ok (.goto 4, 3) := dk_167 0 4 (dk_at dksX7_next_6 21 rfl rfl)
theorem dX7_next_165 : decode cX7_next 165 = .ok (.iload_n 2, 1) := dk_28 (dk_at dksX7_next_7 0 rfl rfl)
theorem dX7_next_166 : decode cX7_next 166 = .ok (.istore_n 2, 1) := dk_61 (dk_at dksX7_next_7 1 rfl rfl)
theorem dX7_next_167 : decode cX7_next 167 = .ok (.iload_n 3, 1) := dk_29 (dk_at dksX7_next_7 2 rfl rfl)
theorem dX7_next_168 : decode cX7_next 168 = .ok (.iload 5, 2) := dk_21 5 (dk_at dksX7_next_7 3 rfl rfl)
theorem dX7_next_170 : decode cX7_next 170 = .ok (.invokestatic 266, 3) := dk_184 1 10 (dk_at dksX7_next_7 5 rfl rfl)
theorem dX7_next_173 : decode cX7_next 173 = .ok (.istore_n 3, 1) := dk_62 (dk_at dksX7_next_7 8 rfl rfl)
theorem dX7_next_174 : decode cX7_next 174 = .ok (.iinc 4 1, 3) := dk_132 4 1 (dk_at dksX7_next_7 9 rfl rfl)
theorem dX7_next_177 : decode cX7_next 177 = .ok (.goto (-127), 3) := dk_167 255 129 (dk_at dksX7_next_7 12 rfl rfl)
theorem dX7_next_180 : decode cX7_next 180 = .ok (.iload_n 2, 1) := dk_28 (dk_at dksX7_next_7 15 rfl rfl)
theorem dX7_next_181 : decode cX7_next 181 = .ok (.ireturn, 1) := dk_172 (dk_at dksX7_next_7 16 rfl rfl)
abbrev cX7_rests : ByteArray := prog_18_method_111_code
def yX7_rests : MethodName := ⟨RX7, "rests", "(III)I"⟩
def dkwX7_rests_7 : List UInt8 := [167, 255, 169, 132, 5, 1, 167, 255, 154, 21, 4, 172]
abbrev dktX7_rests_7 : List UInt8 := dkwX7_rests_7 ++ []
def dkwX7_rests_6 : List UInt8 := [153, 0, 15, 4, 5, 21, 5, 104, 21, 6, 96, 120, 167, 0, 4, 3, 128, 54, 4, 132, 6, 1]
abbrev dktX7_rests_6 : List UInt8 := dkwX7_rests_6 ++ dktX7_rests_7
def dkwX7_rests_5 : List UInt8 := [21, 5, 4, 21, 6, 100, 182, 1, 148, 161, 0, 7, 4, 167, 0, 4, 3, 54, 7, 21, 4, 21, 7]
abbrev dktX7_rests_5 : List UInt8 := dkwX7_rests_5 ++ dktX7_rests_6
def dkwX7_rests_4 : List UInt8 := [21, 5, 100, 21, 6, 182, 1, 145, 161, 0, 32, 42, 28, 29, 21, 5, 21, 6, 182, 1, 148, 42, 28, 29]
abbrev dktX7_rests_4 : List UInt8 := dkwX7_rests_4 ++ dktX7_rests_5
def dkwX7_rests_3 : List UInt8 := [162, 0, 102, 3, 54, 6, 21, 6, 5, 162, 0, 87, 42, 29, 21, 5, 21, 6, 182, 1, 145, 42, 29, 4]
abbrev dktX7_rests_3 : List UInt8 := dkwX7_rests_3 ++ dktX7_rests_4
def dkwX7_rests_2 : List UInt8 := [4, 167, 0, 4, 3, 5, 182, 0, 241, 153, 0, 5, 3, 172, 3, 54, 4, 3, 54, 5, 21, 5, 5]
abbrev dktX7_rests_2 : List UInt8 := dkwX7_rests_2 ++ dktX7_rests_3
def dkwX7_rests_1 : List UInt8 := [182, 1, 28, 153, 0, 7, 4, 167, 0, 4, 3, 4, 182, 0, 241, 154, 0, 21, 42, 27, 28, 160, 0, 7]
abbrev dktX7_rests_1 : List UInt8 := dkwX7_rests_1 ++ dktX7_rests_2
def dkwX7_rests_0 : List UInt8 := [42, 3, 181, 0, 3, 42, 42, 27, 182, 1, 19, 154, 0, 19, 42, 28, 182, 1, 19, 154, 0, 11, 42, 29]
abbrev dktX7_rests_0 : List UInt8 := dkwX7_rests_0 ++ dktX7_rests_1
theorem dksX7_rests_0 : cX7_rests.data.toList.drop 0 = dktX7_rests_0 := by decide +kernel
theorem dksX7_rests_1 : cX7_rests.data.toList.drop 24 = dktX7_rests_1 := dk_seg dksX7_rests_0 24 rfl rfl
theorem dksX7_rests_2 : cX7_rests.data.toList.drop 48 = dktX7_rests_2 := dk_seg dksX7_rests_1 24 rfl rfl
theorem dksX7_rests_3 : cX7_rests.data.toList.drop 71 = dktX7_rests_3 := dk_seg dksX7_rests_2 23 rfl rfl
theorem dksX7_rests_4 : cX7_rests.data.toList.drop 95 = dktX7_rests_4 := dk_seg dksX7_rests_3 24 rfl rfl
theorem dksX7_rests_5 : cX7_rests.data.toList.drop 119 = dktX7_rests_5 := dk_seg dksX7_rests_4 24 rfl rfl
theorem dksX7_rests_6 : cX7_rests.data.toList.drop 142 = dktX7_rests_6 := dk_seg dksX7_rests_5 23 rfl rfl
theorem dksX7_rests_7 : cX7_rests.data.toList.drop 164 = dktX7_rests_7 := dk_seg dksX7_rests_6 22 rfl rfl
theorem dX7_rests_0 : decode cX7_rests 0 = .ok (.aload_n 0, 1) := dk_42 (dk_at dksX7_rests_0 0 rfl rfl)
theorem dX7_rests_1 : decode cX7_rests 1 = .ok (.iconst 0, 1) := dk_3 (dk_at dksX7_rests_0 1 rfl rfl)
theorem dX7_rests_2 : decode cX7_rests 2 = .ok (.putfield 3, 3) := dk_181 0 3 (dk_at dksX7_rests_0 2 rfl rfl)
theorem dX7_rests_5 : decode cX7_rests 5 = .ok (.aload_n 0, 1) := dk_42 (dk_at dksX7_rests_0 5 rfl rfl)
theorem dX7_rests_6 : decode cX7_rests 6 = .ok (.aload_n 0, 1) := dk_42 (dk_at dksX7_rests_0 6 rfl rfl)
theorem dX7_rests_7 : decode cX7_rests 7 = .ok (.iload_n 1, 1) := dk_27 (dk_at dksX7_rests_0 7 rfl rfl)
theorem dX7_rests_8 : decode cX7_rests 8 = .ok (.invokevirtual 275, 3) := dk_182 1 19 (dk_at dksX7_rests_0 8 rfl rfl)
theorem dX7_rests_11 : decode cX7_rests 11 = .ok (.ifCond .ne 19, 3) := dk_154 0 19 (dk_at dksX7_rests_0 11 rfl rfl)
theorem dX7_rests_14 : decode cX7_rests 14 = .ok (.aload_n 0, 1) := dk_42 (dk_at dksX7_rests_0 14 rfl rfl)
theorem dX7_rests_15 : decode cX7_rests 15 = .ok (.iload_n 2, 1) := dk_28 (dk_at dksX7_rests_0 15 rfl rfl)
theorem dX7_rests_16 : decode cX7_rests 16 = .ok (.invokevirtual 275, 3) := dk_182 1 19 (dk_at dksX7_rests_0 16 rfl rfl)
theorem dX7_rests_19 : decode cX7_rests 19 = .ok (.ifCond .ne 11, 3) := dk_154 0 11 (dk_at dksX7_rests_0 19 rfl rfl)
theorem dX7_rests_22 : decode cX7_rests 22 = .ok (.aload_n 0, 1) := dk_42 (dk_at dksX7_rests_0 22 rfl rfl)
theorem dX7_rests_23 : decode cX7_rests 23 = .ok (.iload_n 3, 1) := dk_29 (dk_at dksX7_rests_0 23 rfl rfl)
theorem dX7_rests_24 : decode cX7_rests 24 = .ok (.invokevirtual 284, 3) := dk_182 1 28 (dk_at dksX7_rests_1 0 rfl rfl)
theorem dX7_rests_27 : decode cX7_rests 27 = .ok (.ifCond .eq 7, 3) := dk_153 0 7 (dk_at dksX7_rests_1 3 rfl rfl)
theorem dX7_rests_30 : decode cX7_rests 30 = .ok (.iconst 1, 1) := dk_4 (dk_at dksX7_rests_1 6 rfl rfl)
theorem dX7_rests_31 : decode cX7_rests 31 = .ok (.goto 4, 3) := dk_167 0 4 (dk_at dksX7_rests_1 7 rfl rfl)
theorem dX7_rests_34 : decode cX7_rests 34 = .ok (.iconst 0, 1) := dk_3 (dk_at dksX7_rests_1 10 rfl rfl)
theorem dX7_rests_35 : decode cX7_rests 35 = .ok (.iconst 1, 1) := dk_4 (dk_at dksX7_rests_1 11 rfl rfl)
theorem dX7_rests_36 : decode cX7_rests 36 = .ok (.invokevirtual 241, 3) := dk_182 0 241 (dk_at dksX7_rests_1 12 rfl rfl)
theorem dX7_rests_39 : decode cX7_rests 39 = .ok (.ifCond .ne 21, 3) := dk_154 0 21 (dk_at dksX7_rests_1 15 rfl rfl)
theorem dX7_rests_42 : decode cX7_rests 42 = .ok (.aload_n 0, 1) := dk_42 (dk_at dksX7_rests_1 18 rfl rfl)
theorem dX7_rests_43 : decode cX7_rests 43 = .ok (.iload_n 1, 1) := dk_27 (dk_at dksX7_rests_1 19 rfl rfl)
theorem dX7_rests_44 : decode cX7_rests 44 = .ok (.iload_n 2, 1) := dk_28 (dk_at dksX7_rests_1 20 rfl rfl)
theorem dX7_rests_45 : decode cX7_rests 45 = .ok (.if_icmp .ne 7, 3) := dk_160 0 7 (dk_at dksX7_rests_1 21 rfl rfl)
theorem dX7_rests_48 : decode cX7_rests 48 = .ok (.iconst 1, 1) := dk_4 (dk_at dksX7_rests_2 0 rfl rfl)
theorem dX7_rests_49 : decode cX7_rests 49 = .ok (.goto 4, 3) := dk_167 0 4 (dk_at dksX7_rests_2 1 rfl rfl)
theorem dX7_rests_52 : decode cX7_rests 52 = .ok (.iconst 0, 1) := dk_3 (dk_at dksX7_rests_2 4 rfl rfl)
theorem dX7_rests_53 : decode cX7_rests 53 = .ok (.iconst 2, 1) := dk_5 (dk_at dksX7_rests_2 5 rfl rfl)
theorem dX7_rests_54 : decode cX7_rests 54 = .ok (.invokevirtual 241, 3) := dk_182 0 241 (dk_at dksX7_rests_2 6 rfl rfl)
theorem dX7_rests_57 : decode cX7_rests 57 = .ok (.ifCond .eq 5, 3) := dk_153 0 5 (dk_at dksX7_rests_2 9 rfl rfl)
theorem dX7_rests_60 : decode cX7_rests 60 = .ok (.iconst 0, 1) := dk_3 (dk_at dksX7_rests_2 12 rfl rfl)
theorem dX7_rests_61 : decode cX7_rests 61 = .ok (.ireturn, 1) := dk_172 (dk_at dksX7_rests_2 13 rfl rfl)
theorem dX7_rests_62 : decode cX7_rests 62 = .ok (.iconst 0, 1) := dk_3 (dk_at dksX7_rests_2 14 rfl rfl)
theorem dX7_rests_63 : decode cX7_rests 63 = .ok (.istore 4, 2) := dk_54 4 (dk_at dksX7_rests_2 15 rfl rfl)
theorem dX7_rests_65 : decode cX7_rests 65 = .ok (.iconst 0, 1) := dk_3 (dk_at dksX7_rests_2 17 rfl rfl)
theorem dX7_rests_66 : decode cX7_rests 66 = .ok (.istore 5, 2) := dk_54 5 (dk_at dksX7_rests_2 18 rfl rfl)
theorem dX7_rests_68 : decode cX7_rests 68 = .ok (.iload 5, 2) := dk_21 5 (dk_at dksX7_rests_2 20 rfl rfl)
theorem dX7_rests_70 : decode cX7_rests 70 = .ok (.iconst 2, 1) := dk_5 (dk_at dksX7_rests_2 22 rfl rfl)
theorem dX7_rests_71 : decode cX7_rests 71 = .ok (.if_icmp .ge 102, 3) := dk_162 0 102 (dk_at dksX7_rests_3 0 rfl rfl)
theorem dX7_rests_74 : decode cX7_rests 74 = .ok (.iconst 0, 1) := dk_3 (dk_at dksX7_rests_3 3 rfl rfl)
theorem dX7_rests_75 : decode cX7_rests 75 = .ok (.istore 6, 2) := dk_54 6 (dk_at dksX7_rests_3 4 rfl rfl)
theorem dX7_rests_77 : decode cX7_rests 77 = .ok (.iload 6, 2) := dk_21 6 (dk_at dksX7_rests_3 6 rfl rfl)
theorem dX7_rests_79 : decode cX7_rests 79 = .ok (.iconst 2, 1) := dk_5 (dk_at dksX7_rests_3 8 rfl rfl)
theorem dX7_rests_80 : decode cX7_rests 80 = .ok (.if_icmp .ge 87, 3) := dk_162 0 87 (dk_at dksX7_rests_3 9 rfl rfl)
theorem dX7_rests_83 : decode cX7_rests 83 = .ok (.aload_n 0, 1) := dk_42 (dk_at dksX7_rests_3 12 rfl rfl)
theorem dX7_rests_84 : decode cX7_rests 84 = .ok (.iload_n 3, 1) := dk_29 (dk_at dksX7_rests_3 13 rfl rfl)
theorem dX7_rests_85 : decode cX7_rests 85 = .ok (.iload 5, 2) := dk_21 5 (dk_at dksX7_rests_3 14 rfl rfl)
theorem dX7_rests_87 : decode cX7_rests 87 = .ok (.iload 6, 2) := dk_21 6 (dk_at dksX7_rests_3 16 rfl rfl)
theorem dX7_rests_89 : decode cX7_rests 89 = .ok (.invokevirtual 401, 3) := dk_182 1 145 (dk_at dksX7_rests_3 18 rfl rfl)
theorem dX7_rests_92 : decode cX7_rests 92 = .ok (.aload_n 0, 1) := dk_42 (dk_at dksX7_rests_3 21 rfl rfl)
theorem dX7_rests_93 : decode cX7_rests 93 = .ok (.iload_n 3, 1) := dk_29 (dk_at dksX7_rests_3 22 rfl rfl)
theorem dX7_rests_94 : decode cX7_rests 94 = .ok (.iconst 1, 1) := dk_4 (dk_at dksX7_rests_3 23 rfl rfl)
theorem dX7_rests_95 : decode cX7_rests 95 = .ok (.iload 5, 2) := dk_21 5 (dk_at dksX7_rests_4 0 rfl rfl)
theorem dX7_rests_97 : decode cX7_rests 97 = .ok (.isub, 1) := dk_100 (dk_at dksX7_rests_4 2 rfl rfl)
theorem dX7_rests_98 : decode cX7_rests 98 = .ok (.iload 6, 2) := dk_21 6 (dk_at dksX7_rests_4 3 rfl rfl)
theorem dX7_rests_100 : decode cX7_rests 100 = .ok (.invokevirtual 401, 3) := dk_182 1 145 (dk_at dksX7_rests_4 5 rfl rfl)
theorem dX7_rests_103 : decode cX7_rests 103 = .ok (.if_icmp .lt 32, 3) := dk_161 0 32 (dk_at dksX7_rests_4 8 rfl rfl)
theorem dX7_rests_106 : decode cX7_rests 106 = .ok (.aload_n 0, 1) := dk_42 (dk_at dksX7_rests_4 11 rfl rfl)
theorem dX7_rests_107 : decode cX7_rests 107 = .ok (.iload_n 2, 1) := dk_28 (dk_at dksX7_rests_4 12 rfl rfl)
theorem dX7_rests_108 : decode cX7_rests 108 = .ok (.iload_n 3, 1) := dk_29 (dk_at dksX7_rests_4 13 rfl rfl)
theorem dX7_rests_109 : decode cX7_rests 109 = .ok (.iload 5, 2) := dk_21 5 (dk_at dksX7_rests_4 14 rfl rfl)
theorem dX7_rests_111 : decode cX7_rests 111 = .ok (.iload 6, 2) := dk_21 6 (dk_at dksX7_rests_4 16 rfl rfl)
theorem dX7_rests_113 : decode cX7_rests 113 = .ok (.invokevirtual 404, 3) := dk_182 1 148 (dk_at dksX7_rests_4 18 rfl rfl)
theorem dX7_rests_116 : decode cX7_rests 116 = .ok (.aload_n 0, 1) := dk_42 (dk_at dksX7_rests_4 21 rfl rfl)
theorem dX7_rests_117 : decode cX7_rests 117 = .ok (.iload_n 2, 1) := dk_28 (dk_at dksX7_rests_4 22 rfl rfl)
theorem dX7_rests_118 : decode cX7_rests 118 = .ok (.iload_n 3, 1) := dk_29 (dk_at dksX7_rests_4 23 rfl rfl)
theorem dX7_rests_119 : decode cX7_rests 119 = .ok (.iload 5, 2) := dk_21 5 (dk_at dksX7_rests_5 0 rfl rfl)
theorem dX7_rests_121 : decode cX7_rests 121 = .ok (.iconst 1, 1) := dk_4 (dk_at dksX7_rests_5 2 rfl rfl)
theorem dX7_rests_122 : decode cX7_rests 122 = .ok (.iload 6, 2) := dk_21 6 (dk_at dksX7_rests_5 3 rfl rfl)
theorem dX7_rests_124 : decode cX7_rests 124 = .ok (.isub, 1) := dk_100 (dk_at dksX7_rests_5 5 rfl rfl)
theorem dX7_rests_125 : decode cX7_rests 125 = .ok (.invokevirtual 404, 3) := dk_182 1 148 (dk_at dksX7_rests_5 6 rfl rfl)
theorem dX7_rests_128 : decode cX7_rests 128 = .ok (.if_icmp .lt 7, 3) := dk_161 0 7 (dk_at dksX7_rests_5 9 rfl rfl)
theorem dX7_rests_131 : decode cX7_rests 131 = .ok (.iconst 1, 1) := dk_4 (dk_at dksX7_rests_5 12 rfl rfl)
theorem dX7_rests_132 : decode cX7_rests 132 = .ok (.goto 4, 3) := dk_167 0 4 (dk_at dksX7_rests_5 13 rfl rfl)
theorem dX7_rests_135 : decode cX7_rests 135 = .ok (.iconst 0, 1) := dk_3 (dk_at dksX7_rests_5 16 rfl rfl)
theorem dX7_rests_136 : decode cX7_rests 136 = .ok (.istore 7, 2) := dk_54 7 (dk_at dksX7_rests_5 17 rfl rfl)
theorem dX7_rests_138 : decode cX7_rests 138 = .ok (.iload 4, 2) := dk_21 4 (dk_at dksX7_rests_5 19 rfl rfl)
theorem dX7_rests_140 : decode cX7_rests 140 = .ok (.iload 7, 2) := dk_21 7 (dk_at dksX7_rests_5 21 rfl rfl)
theorem dX7_rests_142 : decode cX7_rests 142 = .ok (.ifCond .eq 15, 3) := dk_153 0 15 (dk_at dksX7_rests_6 0 rfl rfl)
theorem dX7_rests_145 : decode cX7_rests 145 = .ok (.iconst 1, 1) := dk_4 (dk_at dksX7_rests_6 3 rfl rfl)
theorem dX7_rests_146 : decode cX7_rests 146 = .ok (.iconst 2, 1) := dk_5 (dk_at dksX7_rests_6 4 rfl rfl)
theorem dX7_rests_147 : decode cX7_rests 147 = .ok (.iload 5, 2) := dk_21 5 (dk_at dksX7_rests_6 5 rfl rfl)
theorem dX7_rests_149 : decode cX7_rests 149 = .ok (.imul, 1) := dk_104 (dk_at dksX7_rests_6 7 rfl rfl)
theorem dX7_rests_150 : decode cX7_rests 150 = .ok (.iload 6, 2) := dk_21 6 (dk_at dksX7_rests_6 8 rfl rfl)
theorem dX7_rests_152 : decode cX7_rests 152 = .ok (.iadd, 1) := dk_96 (dk_at dksX7_rests_6 10 rfl rfl)
theorem dX7_rests_153 : decode cX7_rests 153 = .ok (.ishl, 1) := dk_120 (dk_at dksX7_rests_6 11 rfl rfl)
theorem dX7_rests_154 : decode cX7_rests 154 = .ok (.goto 4, 3) := dk_167 0 4 (dk_at dksX7_rests_6 12 rfl rfl)
theorem dX7_rests_157 : decode cX7_rests 157 = .ok (.iconst 0, 1) := dk_3 (dk_at dksX7_rests_6 15 rfl rfl)
theorem dX7_rests_158 : decode cX7_rests 158 = .ok (.ior, 1) := dk_128 (dk_at dksX7_rests_6 16 rfl rfl)
theorem dX7_rests_159 : decode cX7_rests 159 = .ok (.istore 4, 2) := dk_54 4 (dk_at dksX7_rests_6 17 rfl rfl)
theorem dX7_rests_161 : decode cX7_rests 161 = .ok (.iinc 6 1, 3) := dk_132 6 1 (dk_at dksX7_rests_6 19 rfl rfl)
theorem dX7_rests_164 : decode cX7_rests 164 = .ok (.goto (-87), 3) := dk_167 255 169 (dk_at dksX7_rests_7 0 rfl rfl)
theorem dX7_rests_167 : decode cX7_rests 167 = .ok (.iinc 5 1, 3) := dk_132 5 1 (dk_at dksX7_rests_7 3 rfl rfl)
theorem dX7_rests_170 : decode cX7_rests 170 = .ok (.goto (-102), 3) := dk_167 255 154 (dk_at dksX7_rests_7 6 rfl rfl)
theorem dX7_rests_173 : decode cX7_rests 173 = .ok (.iload 4, 2) := dk_21 4 (dk_at dksX7_rests_7 9 rfl rfl)
theorem dX7_rests_175 : decode cX7_rests 175 = .ok (.ireturn, 1) := dk_172 (dk_at dksX7_rests_7 11 rfl rfl)
abbrev cX7_widowHas : ByteArray := prog_18_method_109_code
def yX7_widowHas : MethodName := ⟨RX7, "widowHas", "(III)I"⟩
def dkwX7_widowHas_1 : List UInt8 := [16, 10, 108, 184, 1, 116, 167, 0, 4, 4, 172]
abbrev dktX7_widowHas_1 : List UInt8 := dkwX7_widowHas_1 ++ []
def dkwX7_widowHas_0 : List UInt8 := [28, 154, 0, 13, 29, 154, 0, 7, 5, 167, 0, 4, 3, 172, 29, 154, 0, 18, 3, 42, 27, 182, 1, 31]
abbrev dktX7_widowHas_0 : List UInt8 := dkwX7_widowHas_0 ++ dktX7_widowHas_1
theorem dksX7_widowHas_0 : cX7_widowHas.data.toList.drop 0 = dktX7_widowHas_0 := by decide +kernel
theorem dksX7_widowHas_1 : cX7_widowHas.data.toList.drop 24 = dktX7_widowHas_1 := dk_seg dksX7_widowHas_0 24 rfl rfl
theorem dX7_widowHas_0 : decode cX7_widowHas 0 = .ok (.iload_n 2, 1) := dk_28 (dk_at dksX7_widowHas_0 0 rfl rfl)
theorem dX7_widowHas_1 : decode cX7_widowHas 1 = .ok (.ifCond .ne 13, 3) := dk_154 0 13 (dk_at dksX7_widowHas_0 1 rfl rfl)
theorem dX7_widowHas_4 : decode cX7_widowHas 4 = .ok (.iload_n 3, 1) := dk_29 (dk_at dksX7_widowHas_0 4 rfl rfl)
theorem dX7_widowHas_5 : decode cX7_widowHas 5 = .ok (.ifCond .ne 7, 3) := dk_154 0 7 (dk_at dksX7_widowHas_0 5 rfl rfl)
theorem dX7_widowHas_8 : decode cX7_widowHas 8 = .ok (.iconst 2, 1) := dk_5 (dk_at dksX7_widowHas_0 8 rfl rfl)
theorem dX7_widowHas_9 : decode cX7_widowHas 9 = .ok (.goto 4, 3) := dk_167 0 4 (dk_at dksX7_widowHas_0 9 rfl rfl)
theorem dX7_widowHas_12 : decode cX7_widowHas 12 = .ok (.iconst 0, 1) := dk_3 (dk_at dksX7_widowHas_0 12 rfl rfl)
theorem dX7_widowHas_13 : decode cX7_widowHas 13 = .ok (.ireturn, 1) := dk_172 (dk_at dksX7_widowHas_0 13 rfl rfl)
theorem dX7_widowHas_14 : decode cX7_widowHas 14 = .ok (.iload_n 3, 1) := dk_29 (dk_at dksX7_widowHas_0 14 rfl rfl)
theorem dX7_widowHas_15 : decode cX7_widowHas 15 = .ok (.ifCond .ne 18, 3) := dk_154 0 18 (dk_at dksX7_widowHas_0 15 rfl rfl)
theorem dX7_widowHas_18 : decode cX7_widowHas 18 = .ok (.iconst 0, 1) := dk_3 (dk_at dksX7_widowHas_0 18 rfl rfl)
theorem dX7_widowHas_19 : decode cX7_widowHas 19 = .ok (.aload_n 0, 1) := dk_42 (dk_at dksX7_widowHas_0 19 rfl rfl)
theorem dX7_widowHas_20 : decode cX7_widowHas 20 = .ok (.iload_n 1, 1) := dk_27 (dk_at dksX7_widowHas_0 20 rfl rfl)
theorem dX7_widowHas_21 : decode cX7_widowHas 21 = .ok (.invokevirtual 287, 3) := dk_182 1 31 (dk_at dksX7_widowHas_0 21 rfl rfl)
theorem dX7_widowHas_24 : decode cX7_widowHas 24 = .ok (.bipush 10, 2) := dk_16 10 (dk_at dksX7_widowHas_1 0 rfl rfl)
theorem dX7_widowHas_26 : decode cX7_widowHas 26 = .ok (.idiv, 1) := dk_108 (dk_at dksX7_widowHas_1 2 rfl rfl)
theorem dX7_widowHas_27 : decode cX7_widowHas 27 = .ok (.invokestatic 372, 3) := dk_184 1 116 (dk_at dksX7_widowHas_1 3 rfl rfl)
theorem dX7_widowHas_30 : decode cX7_widowHas 30 = .ok (.goto 4, 3) := dk_167 0 4 (dk_at dksX7_widowHas_1 6 rfl rfl)
theorem dX7_widowHas_33 : decode cX7_widowHas 33 = .ok (.iconst 1, 1) := dk_4 (dk_at dksX7_widowHas_1 9 rfl rfl)
theorem dX7_widowHas_34 : decode cX7_widowHas 34 = .ok (.ireturn, 1) := dk_172 (dk_at dksX7_widowHas_1 10 rfl rfl)
abbrev cX7_brideHas : ByteArray := prog_18_method_110_code
def yX7_brideHas : MethodName := ⟨RX7, "brideHas", "(IIII)I"⟩
def dkwX7_brideHas_1 : List UInt8 := [182, 1, 34, 29, 4, 96, 42, 180, 0, 13, 8, 46, 104, 100, 172]
abbrev dktX7_brideHas_1 : List UInt8 := dkwX7_brideHas_1 ++ []
def dkwX7_brideHas_0 : List UInt8 := [21, 4, 154, 0, 18, 29, 154, 0, 12, 42, 27, 28, 182, 1, 34, 167, 0, 4, 3, 172, 42, 27, 28]
abbrev dktX7_brideHas_0 : List UInt8 := dkwX7_brideHas_0 ++ dktX7_brideHas_1
theorem dksX7_brideHas_0 : cX7_brideHas.data.toList.drop 0 = dktX7_brideHas_0 := by decide +kernel
theorem dksX7_brideHas_1 : cX7_brideHas.data.toList.drop 23 = dktX7_brideHas_1 := dk_seg dksX7_brideHas_0 23 rfl rfl
theorem dX7_brideHas_0 : decode cX7_brideHas 0 = .ok (.iload 4, 2) := dk_21 4 (dk_at dksX7_brideHas_0 0 rfl rfl)
theorem dX7_brideHas_2 : decode cX7_brideHas 2 = .ok (.ifCond .ne 18, 3) := dk_154 0 18 (dk_at dksX7_brideHas_0 2 rfl rfl)
theorem dX7_brideHas_5 : decode cX7_brideHas 5 = .ok (.iload_n 3, 1) := dk_29 (dk_at dksX7_brideHas_0 5 rfl rfl)
theorem dX7_brideHas_6 : decode cX7_brideHas 6 = .ok (.ifCond .ne 12, 3) := dk_154 0 12 (dk_at dksX7_brideHas_0 6 rfl rfl)
theorem dX7_brideHas_9 : decode cX7_brideHas 9 = .ok (.aload_n 0, 1) := dk_42 (dk_at dksX7_brideHas_0 9 rfl rfl)
theorem dX7_brideHas_10 : decode cX7_brideHas 10 = .ok (.iload_n 1, 1) := dk_27 (dk_at dksX7_brideHas_0 10 rfl rfl)
theorem dX7_brideHas_11 : decode cX7_brideHas 11 = .ok (.iload_n 2, 1) := dk_28 (dk_at dksX7_brideHas_0 11 rfl rfl)
theorem dX7_brideHas_12 : decode cX7_brideHas 12 = .ok (.invokevirtual 290, 3) := dk_182 1 34 (dk_at dksX7_brideHas_0 12 rfl rfl)
theorem dX7_brideHas_15 : decode cX7_brideHas 15 = .ok (.goto 4, 3) := dk_167 0 4 (dk_at dksX7_brideHas_0 15 rfl rfl)
theorem dX7_brideHas_18 : decode cX7_brideHas 18 = .ok (.iconst 0, 1) := dk_3 (dk_at dksX7_brideHas_0 18 rfl rfl)
theorem dX7_brideHas_19 : decode cX7_brideHas 19 = .ok (.ireturn, 1) := dk_172 (dk_at dksX7_brideHas_0 19 rfl rfl)
theorem dX7_brideHas_20 : decode cX7_brideHas 20 = .ok (.aload_n 0, 1) := dk_42 (dk_at dksX7_brideHas_0 20 rfl rfl)
theorem dX7_brideHas_21 : decode cX7_brideHas 21 = .ok (.iload_n 1, 1) := dk_27 (dk_at dksX7_brideHas_0 21 rfl rfl)
theorem dX7_brideHas_22 : decode cX7_brideHas 22 = .ok (.iload_n 2, 1) := dk_28 (dk_at dksX7_brideHas_0 22 rfl rfl)
theorem dX7_brideHas_23 : decode cX7_brideHas 23 = .ok (.invokevirtual 290, 3) := dk_182 1 34 (dk_at dksX7_brideHas_1 0 rfl rfl)
theorem dX7_brideHas_26 : decode cX7_brideHas 26 = .ok (.iload_n 3, 1) := dk_29 (dk_at dksX7_brideHas_1 3 rfl rfl)
theorem dX7_brideHas_27 : decode cX7_brideHas 27 = .ok (.iconst 1, 1) := dk_4 (dk_at dksX7_brideHas_1 4 rfl rfl)
theorem dX7_brideHas_28 : decode cX7_brideHas 28 = .ok (.iadd, 1) := dk_96 (dk_at dksX7_brideHas_1 5 rfl rfl)
theorem dX7_brideHas_29 : decode cX7_brideHas 29 = .ok (.aload_n 0, 1) := dk_42 (dk_at dksX7_brideHas_1 6 rfl rfl)
theorem dX7_brideHas_30 : decode cX7_brideHas 30 = .ok (.getfield 13, 3) := dk_180 0 13 (dk_at dksX7_brideHas_1 7 rfl rfl)
theorem dX7_brideHas_33 : decode cX7_brideHas 33 = .ok (.iconst 5, 1) := dk_8 (dk_at dksX7_brideHas_1 10 rfl rfl)
theorem dX7_brideHas_34 : decode cX7_brideHas 34 = .ok (.iaload, 1) := dk_46 (dk_at dksX7_brideHas_1 11 rfl rfl)
theorem dX7_brideHas_35 : decode cX7_brideHas 35 = .ok (.imul, 1) := dk_104 (dk_at dksX7_brideHas_1 12 rfl rfl)
theorem dX7_brideHas_36 : decode cX7_brideHas 36 = .ok (.isub, 1) := dk_100 (dk_at dksX7_brideHas_1 13 rfl rfl)
theorem dX7_brideHas_37 : decode cX7_brideHas 37 = .ok (.ireturn, 1) := dk_172 (dk_at dksX7_brideHas_1 14 rfl rfl)
abbrev cX7_sells : ByteArray := prog_18_method_114_code
def yX7_sells : MethodName := ⟨RX7, "sells", "(I)I"⟩
def dkwX7_sells_1 : List UInt8 := [182, 1, 154, 172]
abbrev dktX7_sells_1 : List UInt8 := dkwX7_sells_1 ++ []
def dkwX7_sells_0 : List UInt8 := [42, 3, 181, 0, 3, 42, 27, 184, 1, 151, 4, 182, 0, 241, 153, 0, 7, 3, 167, 0, 8, 42, 27]
abbrev dktX7_sells_0 : List UInt8 := dkwX7_sells_0 ++ dktX7_sells_1
theorem dksX7_sells_0 : cX7_sells.data.toList.drop 0 = dktX7_sells_0 := by decide +kernel
theorem dksX7_sells_1 : cX7_sells.data.toList.drop 23 = dktX7_sells_1 := dk_seg dksX7_sells_0 23 rfl rfl
theorem dX7_sells_0 : decode cX7_sells 0 = .ok (.aload_n 0, 1) := dk_42 (dk_at dksX7_sells_0 0 rfl rfl)
theorem dX7_sells_1 : decode cX7_sells 1 = .ok (.iconst 0, 1) := dk_3 (dk_at dksX7_sells_0 1 rfl rfl)
theorem dX7_sells_2 : decode cX7_sells 2 = .ok (.putfield 3, 3) := dk_181 0 3 (dk_at dksX7_sells_0 2 rfl rfl)
theorem dX7_sells_5 : decode cX7_sells 5 = .ok (.aload_n 0, 1) := dk_42 (dk_at dksX7_sells_0 5 rfl rfl)
theorem dX7_sells_6 : decode cX7_sells 6 = .ok (.iload_n 1, 1) := dk_27 (dk_at dksX7_sells_0 6 rfl rfl)
theorem dX7_sells_7 : decode cX7_sells 7 = .ok (.invokestatic 407, 3) := dk_184 1 151 (dk_at dksX7_sells_0 7 rfl rfl)
theorem dX7_sells_10 : decode cX7_sells 10 = .ok (.iconst 1, 1) := dk_4 (dk_at dksX7_sells_0 10 rfl rfl)
theorem dX7_sells_11 : decode cX7_sells 11 = .ok (.invokevirtual 241, 3) := dk_182 0 241 (dk_at dksX7_sells_0 11 rfl rfl)
theorem dX7_sells_14 : decode cX7_sells 14 = .ok (.ifCond .eq 7, 3) := dk_153 0 7 (dk_at dksX7_sells_0 14 rfl rfl)
theorem dX7_sells_17 : decode cX7_sells 17 = .ok (.iconst 0, 1) := dk_3 (dk_at dksX7_sells_0 17 rfl rfl)
theorem dX7_sells_18 : decode cX7_sells 18 = .ok (.goto 8, 3) := dk_167 0 8 (dk_at dksX7_sells_0 18 rfl rfl)
theorem dX7_sells_21 : decode cX7_sells 21 = .ok (.aload_n 0, 1) := dk_42 (dk_at dksX7_sells_0 21 rfl rfl)
theorem dX7_sells_22 : decode cX7_sells 22 = .ok (.iload_n 1, 1) := dk_27 (dk_at dksX7_sells_0 22 rfl rfl)
theorem dX7_sells_23 : decode cX7_sells 23 = .ok (.invokevirtual 410, 3) := dk_182 1 154 (dk_at dksX7_sells_1 0 rfl rfl)
theorem dX7_sells_26 : decode cX7_sells 26 = .ok (.ireturn, 1) := dk_172 (dk_at dksX7_sells_1 3 rfl rfl)
abbrev cX7_noPrice : ByteArray := prog_18_method_112_code
def yX7_noPrice : MethodName := ⟨RX7, "noPrice", "(I)Z"⟩
def dkwX7_noPrice_0 : List UInt8 := [26, 3, 16, 50, 184, 0, 78, 154, 0, 7, 4, 167, 0, 4, 3, 172]
abbrev dktX7_noPrice_0 : List UInt8 := dkwX7_noPrice_0 ++ []
theorem dksX7_noPrice_0 : cX7_noPrice.data.toList.drop 0 = dktX7_noPrice_0 := by decide +kernel
theorem dX7_noPrice_0 : decode cX7_noPrice 0 = .ok (.iload_n 0, 1) := dk_26 (dk_at dksX7_noPrice_0 0 rfl rfl)
theorem dX7_noPrice_1 : decode cX7_noPrice 1 = .ok (.iconst 0, 1) := dk_3 (dk_at dksX7_noPrice_0 1 rfl rfl)
theorem dX7_noPrice_2 : decode cX7_noPrice 2 = .ok (.bipush 50, 2) := dk_16 50 (dk_at dksX7_noPrice_0 2 rfl rfl)
theorem dX7_noPrice_4 : decode cX7_noPrice 4 = .ok (.invokestatic 78, 3) := dk_184 0 78 (dk_at dksX7_noPrice_0 4 rfl rfl)
theorem dX7_noPrice_7 : decode cX7_noPrice 7 = .ok (.ifCond .ne 7, 3) := dk_154 0 7 (dk_at dksX7_noPrice_0 7 rfl rfl)
theorem dX7_noPrice_10 : decode cX7_noPrice 10 = .ok (.iconst 1, 1) := dk_4 (dk_at dksX7_noPrice_0 10 rfl rfl)
theorem dX7_noPrice_11 : decode cX7_noPrice 11 = .ok (.goto 4, 3) := dk_167 0 4 (dk_at dksX7_noPrice_0 11 rfl rfl)
theorem dX7_noPrice_14 : decode cX7_noPrice 14 = .ok (.iconst 0, 1) := dk_3 (dk_at dksX7_noPrice_0 14 rfl rfl)
theorem dX7_noPrice_15 : decode cX7_noPrice 15 = .ok (.ireturn, 1) := dk_172 (dk_at dksX7_noPrice_0 15 rfl rfl)
abbrev cX7_soldBy : ByteArray := prog_18_method_113_code
def yX7_soldBy : MethodName := ⟨RX7, "soldBy", "(I)I"⟩
def dkwX7_soldBy_2 : List UInt8 := [132, 3, 1, 167, 255, 212, 28, 172]
abbrev dktX7_soldBy_2 : List UInt8 := dkwX7_soldBy_2 ++ []
def dkwX7_soldBy_1 : List UInt8 := [182, 1, 46, 154, 0, 16, 42, 29, 182, 1, 31, 27, 162, 0, 7, 27, 167, 0, 4, 3, 96, 61]
abbrev dktX7_soldBy_1 : List UInt8 := dkwX7_soldBy_1 ++ dktX7_soldBy_2
def dkwX7_soldBy_0 : List UInt8 := [3, 61, 3, 62, 29, 42, 182, 0, 82, 162, 0, 42, 28, 42, 29, 182, 1, 49, 154, 0, 24, 42, 29]
abbrev dktX7_soldBy_0 : List UInt8 := dkwX7_soldBy_0 ++ dktX7_soldBy_1
theorem dksX7_soldBy_0 : cX7_soldBy.data.toList.drop 0 = dktX7_soldBy_0 := by decide +kernel
theorem dksX7_soldBy_1 : cX7_soldBy.data.toList.drop 23 = dktX7_soldBy_1 := dk_seg dksX7_soldBy_0 23 rfl rfl
theorem dksX7_soldBy_2 : cX7_soldBy.data.toList.drop 45 = dktX7_soldBy_2 := dk_seg dksX7_soldBy_1 22 rfl rfl
theorem dX7_soldBy_0 : decode cX7_soldBy 0 = .ok (.iconst 0, 1) := dk_3 (dk_at dksX7_soldBy_0 0 rfl rfl)
theorem dX7_soldBy_1 : decode cX7_soldBy 1 = .ok (.istore_n 2, 1) := dk_61 (dk_at dksX7_soldBy_0 1 rfl rfl)
theorem dX7_soldBy_2 : decode cX7_soldBy 2 = .ok (.iconst 0, 1) := dk_3 (dk_at dksX7_soldBy_0 2 rfl rfl)
theorem dX7_soldBy_3 : decode cX7_soldBy 3 = .ok (.istore_n 3, 1) := dk_62 (dk_at dksX7_soldBy_0 3 rfl rfl)
theorem dX7_soldBy_4 : decode cX7_soldBy 4 = .ok (.iload_n 3, 1) := dk_29 (dk_at dksX7_soldBy_0 4 rfl rfl)
theorem dX7_soldBy_5 : decode cX7_soldBy 5 = .ok (.aload_n 0, 1) := dk_42 (dk_at dksX7_soldBy_0 5 rfl rfl)
theorem dX7_soldBy_6 : decode cX7_soldBy 6 = .ok (.invokevirtual 82, 3) := dk_182 0 82 (dk_at dksX7_soldBy_0 6 rfl rfl)
theorem dX7_soldBy_9 : decode cX7_soldBy 9 = .ok (.if_icmp .ge 42, 3) := dk_162 0 42 (dk_at dksX7_soldBy_0 9 rfl rfl)
theorem dX7_soldBy_12 : decode cX7_soldBy 12 = .ok (.iload_n 2, 1) := dk_28 (dk_at dksX7_soldBy_0 12 rfl rfl)
theorem dX7_soldBy_13 : decode cX7_soldBy 13 = .ok (.aload_n 0, 1) := dk_42 (dk_at dksX7_soldBy_0 13 rfl rfl)
theorem dX7_soldBy_14 : decode cX7_soldBy 14 = .ok (.iload_n 3, 1) := dk_29 (dk_at dksX7_soldBy_0 14 rfl rfl)
theorem dX7_soldBy_15 : decode cX7_soldBy 15 = .ok (.invokevirtual 305, 3) := dk_182 1 49 (dk_at dksX7_soldBy_0 15 rfl rfl)
theorem dX7_soldBy_18 : decode cX7_soldBy 18 = .ok (.ifCond .ne 24, 3) := dk_154 0 24 (dk_at dksX7_soldBy_0 18 rfl rfl)
theorem dX7_soldBy_21 : decode cX7_soldBy 21 = .ok (.aload_n 0, 1) := dk_42 (dk_at dksX7_soldBy_0 21 rfl rfl)
theorem dX7_soldBy_22 : decode cX7_soldBy 22 = .ok (.iload_n 3, 1) := dk_29 (dk_at dksX7_soldBy_0 22 rfl rfl)
theorem dX7_soldBy_23 : decode cX7_soldBy 23 = .ok (.invokevirtual 302, 3) := dk_182 1 46 (dk_at dksX7_soldBy_1 0 rfl rfl)
theorem dX7_soldBy_26 : decode cX7_soldBy 26 = .ok (.ifCond .ne 16, 3) := dk_154 0 16 (dk_at dksX7_soldBy_1 3 rfl rfl)
theorem dX7_soldBy_29 : decode cX7_soldBy 29 = .ok (.aload_n 0, 1) := dk_42 (dk_at dksX7_soldBy_1 6 rfl rfl)
theorem dX7_soldBy_30 : decode cX7_soldBy 30 = .ok (.iload_n 3, 1) := dk_29 (dk_at dksX7_soldBy_1 7 rfl rfl)
theorem dX7_soldBy_31 : decode cX7_soldBy 31 = .ok (.invokevirtual 287, 3) := dk_182 1 31 (dk_at dksX7_soldBy_1 8 rfl rfl)
theorem dX7_soldBy_34 : decode cX7_soldBy 34 = .ok (.iload_n 1, 1) := dk_27 (dk_at dksX7_soldBy_1 11 rfl rfl)
theorem dX7_soldBy_35 : decode cX7_soldBy 35 = .ok (.if_icmp .ge 7, 3) := dk_162 0 7 (dk_at dksX7_soldBy_1 12 rfl rfl)
theorem dX7_soldBy_38 : decode cX7_soldBy 38 = .ok (.iload_n 1, 1) := dk_27 (dk_at dksX7_soldBy_1 15 rfl rfl)
theorem dX7_soldBy_39 : decode cX7_soldBy 39 = .ok (.goto 4, 3) := dk_167 0 4 (dk_at dksX7_soldBy_1 16 rfl rfl)
theorem dX7_soldBy_42 : decode cX7_soldBy 42 = .ok (.iconst 0, 1) := dk_3 (dk_at dksX7_soldBy_1 19 rfl rfl)
theorem dX7_soldBy_43 : decode cX7_soldBy 43 = .ok (.iadd, 1) := dk_96 (dk_at dksX7_soldBy_1 20 rfl rfl)
theorem dX7_soldBy_44 : decode cX7_soldBy 44 = .ok (.istore_n 2, 1) := dk_61 (dk_at dksX7_soldBy_1 21 rfl rfl)
theorem dX7_soldBy_45 : decode cX7_soldBy 45 = .ok (.iinc 3 1, 3) := dk_132 3 1 (dk_at dksX7_soldBy_2 0 rfl rfl)
theorem dX7_soldBy_48 : decode cX7_soldBy 48 = .ok (.goto (-44), 3) := dk_167 255 212 (dk_at dksX7_soldBy_2 3 rfl rfl)
theorem dX7_soldBy_51 : decode cX7_soldBy 51 = .ok (.iload_n 2, 1) := dk_28 (dk_at dksX7_soldBy_2 6 rfl rfl)
theorem dX7_soldBy_52 : decode cX7_soldBy 52 = .ok (.ireturn, 1) := dk_172 (dk_at dksX7_soldBy_2 7 rfl rfl)
abbrev cX7_dearest : ByteArray := prog_18_method_115_code
def yX7_dearest : MethodName := ⟨RX7, "dearest", "()I"⟩
def dkwX7_dearest_1 : List UInt8 := [182, 1, 154, 164, 0, 7, 28, 167, 0, 4, 27, 60, 132, 2, 1, 167, 255, 228, 27, 172]
abbrev dktX7_dearest_1 : List UInt8 := dkwX7_dearest_1 ++ []
def dkwX7_dearest_0 : List UInt8 := [42, 3, 181, 0, 3, 3, 60, 4, 61, 28, 16, 50, 163, 0, 28, 42, 28, 182, 1, 154, 42, 27]
abbrev dktX7_dearest_0 : List UInt8 := dkwX7_dearest_0 ++ dktX7_dearest_1
theorem dksX7_dearest_0 : cX7_dearest.data.toList.drop 0 = dktX7_dearest_0 := by decide +kernel
theorem dksX7_dearest_1 : cX7_dearest.data.toList.drop 22 = dktX7_dearest_1 := dk_seg dksX7_dearest_0 22 rfl rfl
theorem dX7_dearest_0 : decode cX7_dearest 0 = .ok (.aload_n 0, 1) := dk_42 (dk_at dksX7_dearest_0 0 rfl rfl)
theorem dX7_dearest_1 : decode cX7_dearest 1 = .ok (.iconst 0, 1) := dk_3 (dk_at dksX7_dearest_0 1 rfl rfl)
theorem dX7_dearest_2 : decode cX7_dearest 2 = .ok (.putfield 3, 3) := dk_181 0 3 (dk_at dksX7_dearest_0 2 rfl rfl)
theorem dX7_dearest_5 : decode cX7_dearest 5 = .ok (.iconst 0, 1) := dk_3 (dk_at dksX7_dearest_0 5 rfl rfl)
theorem dX7_dearest_6 : decode cX7_dearest 6 = .ok (.istore_n 1, 1) := dk_60 (dk_at dksX7_dearest_0 6 rfl rfl)
theorem dX7_dearest_7 : decode cX7_dearest 7 = .ok (.iconst 1, 1) := dk_4 (dk_at dksX7_dearest_0 7 rfl rfl)
theorem dX7_dearest_8 : decode cX7_dearest 8 = .ok (.istore_n 2, 1) := dk_61 (dk_at dksX7_dearest_0 8 rfl rfl)
theorem dX7_dearest_9 : decode cX7_dearest 9 = .ok (.iload_n 2, 1) := dk_28 (dk_at dksX7_dearest_0 9 rfl rfl)
theorem dX7_dearest_10 : decode cX7_dearest 10 = .ok (.bipush 50, 2) := dk_16 50 (dk_at dksX7_dearest_0 10 rfl rfl)
theorem dX7_dearest_12 : decode cX7_dearest 12 = .ok (.if_icmp .gt 28, 3) := dk_163 0 28 (dk_at dksX7_dearest_0 12 rfl rfl)
theorem dX7_dearest_15 : decode cX7_dearest 15 = .ok (.aload_n 0, 1) := dk_42 (dk_at dksX7_dearest_0 15 rfl rfl)
theorem dX7_dearest_16 : decode cX7_dearest 16 = .ok (.iload_n 2, 1) := dk_28 (dk_at dksX7_dearest_0 16 rfl rfl)
theorem dX7_dearest_17 : decode cX7_dearest 17 = .ok (.invokevirtual 410, 3) := dk_182 1 154 (dk_at dksX7_dearest_0 17 rfl rfl)
theorem dX7_dearest_20 : decode cX7_dearest 20 = .ok (.aload_n 0, 1) := dk_42 (dk_at dksX7_dearest_0 20 rfl rfl)
theorem dX7_dearest_21 : decode cX7_dearest 21 = .ok (.iload_n 1, 1) := dk_27 (dk_at dksX7_dearest_0 21 rfl rfl)
theorem dX7_dearest_22 : decode cX7_dearest 22 = .ok (.invokevirtual 410, 3) := dk_182 1 154 (dk_at dksX7_dearest_1 0 rfl rfl)
theorem dX7_dearest_25 : decode cX7_dearest 25 = .ok (.if_icmp .le 7, 3) := dk_164 0 7 (dk_at dksX7_dearest_1 3 rfl rfl)
theorem dX7_dearest_28 : decode cX7_dearest 28 = .ok (.iload_n 2, 1) := dk_28 (dk_at dksX7_dearest_1 6 rfl rfl)
theorem dX7_dearest_29 : decode cX7_dearest 29 = .ok (.goto 4, 3) := dk_167 0 4 (dk_at dksX7_dearest_1 7 rfl rfl)
theorem dX7_dearest_32 : decode cX7_dearest 32 = .ok (.iload_n 1, 1) := dk_27 (dk_at dksX7_dearest_1 10 rfl rfl)
theorem dX7_dearest_33 : decode cX7_dearest 33 = .ok (.istore_n 1, 1) := dk_60 (dk_at dksX7_dearest_1 11 rfl rfl)
theorem dX7_dearest_34 : decode cX7_dearest 34 = .ok (.iinc 2 1, 3) := dk_132 2 1 (dk_at dksX7_dearest_1 12 rfl rfl)
theorem dX7_dearest_37 : decode cX7_dearest 37 = .ok (.goto (-28), 3) := dk_167 255 228 (dk_at dksX7_dearest_1 15 rfl rfl)
theorem dX7_dearest_40 : decode cX7_dearest 40 = .ok (.iload_n 1, 1) := dk_27 (dk_at dksX7_dearest_1 18 rfl rfl)
theorem dX7_dearest_41 : decode cX7_dearest 41 = .ok (.ireturn, 1) := dk_172 (dk_at dksX7_dearest_1 19 rfl rfl)
abbrev cX7_unlucky : ByteArray := prog_18_method_116_code
def yX7_unlucky : MethodName := ⟨RX7, "unlucky", "()I"⟩
def dkwX7_unlucky_1 : List UInt8 := [182, 1, 25, 42, 27, 182, 1, 25, 162, 0, 5, 28, 60, 132, 2, 1, 167, 255, 225, 27, 172]
abbrev dktX7_unlucky_1 : List UInt8 := dkwX7_unlucky_1 ++ []
def dkwX7_unlucky_0 : List UInt8 := [42, 3, 181, 0, 3, 2, 60, 3, 61, 28, 42, 182, 0, 74, 162, 0, 29, 27, 2, 159, 0, 16, 42, 28]
abbrev dktX7_unlucky_0 : List UInt8 := dkwX7_unlucky_0 ++ dktX7_unlucky_1
theorem dksX7_unlucky_0 : cX7_unlucky.data.toList.drop 0 = dktX7_unlucky_0 := by decide +kernel
theorem dksX7_unlucky_1 : cX7_unlucky.data.toList.drop 24 = dktX7_unlucky_1 := dk_seg dksX7_unlucky_0 24 rfl rfl
theorem dX7_unlucky_0 : decode cX7_unlucky 0 = .ok (.aload_n 0, 1) := dk_42 (dk_at dksX7_unlucky_0 0 rfl rfl)
theorem dX7_unlucky_1 : decode cX7_unlucky 1 = .ok (.iconst 0, 1) := dk_3 (dk_at dksX7_unlucky_0 1 rfl rfl)
theorem dX7_unlucky_2 : decode cX7_unlucky 2 = .ok (.putfield 3, 3) := dk_181 0 3 (dk_at dksX7_unlucky_0 2 rfl rfl)
theorem dX7_unlucky_5 : decode cX7_unlucky 5 = .ok (.iconst (-1), 1) := dk_2 (dk_at dksX7_unlucky_0 5 rfl rfl)
theorem dX7_unlucky_6 : decode cX7_unlucky 6 = .ok (.istore_n 1, 1) := dk_60 (dk_at dksX7_unlucky_0 6 rfl rfl)
theorem dX7_unlucky_7 : decode cX7_unlucky 7 = .ok (.iconst 0, 1) := dk_3 (dk_at dksX7_unlucky_0 7 rfl rfl)
theorem dX7_unlucky_8 : decode cX7_unlucky 8 = .ok (.istore_n 2, 1) := dk_61 (dk_at dksX7_unlucky_0 8 rfl rfl)
theorem dX7_unlucky_9 : decode cX7_unlucky 9 = .ok (.iload_n 2, 1) := dk_28 (dk_at dksX7_unlucky_0 9 rfl rfl)
theorem dX7_unlucky_10 : decode cX7_unlucky 10 = .ok (.aload_n 0, 1) := dk_42 (dk_at dksX7_unlucky_0 10 rfl rfl)
theorem dX7_unlucky_11 : decode cX7_unlucky 11 = .ok (.invokevirtual 74, 3) := dk_182 0 74 (dk_at dksX7_unlucky_0 11 rfl rfl)
theorem dX7_unlucky_14 : decode cX7_unlucky 14 = .ok (.if_icmp .ge 29, 3) := dk_162 0 29 (dk_at dksX7_unlucky_0 14 rfl rfl)
theorem dX7_unlucky_17 : decode cX7_unlucky 17 = .ok (.iload_n 1, 1) := dk_27 (dk_at dksX7_unlucky_0 17 rfl rfl)
theorem dX7_unlucky_18 : decode cX7_unlucky 18 = .ok (.iconst (-1), 1) := dk_2 (dk_at dksX7_unlucky_0 18 rfl rfl)
theorem dX7_unlucky_19 : decode cX7_unlucky 19 = .ok (.if_icmp .eq 16, 3) := dk_159 0 16 (dk_at dksX7_unlucky_0 19 rfl rfl)
theorem dX7_unlucky_22 : decode cX7_unlucky 22 = .ok (.aload_n 0, 1) := dk_42 (dk_at dksX7_unlucky_0 22 rfl rfl)
theorem dX7_unlucky_23 : decode cX7_unlucky 23 = .ok (.iload_n 2, 1) := dk_28 (dk_at dksX7_unlucky_0 23 rfl rfl)
theorem dX7_unlucky_24 : decode cX7_unlucky 24 = .ok (.invokevirtual 281, 3) := dk_182 1 25 (dk_at dksX7_unlucky_1 0 rfl rfl)
theorem dX7_unlucky_27 : decode cX7_unlucky 27 = .ok (.aload_n 0, 1) := dk_42 (dk_at dksX7_unlucky_1 3 rfl rfl)
theorem dX7_unlucky_28 : decode cX7_unlucky 28 = .ok (.iload_n 1, 1) := dk_27 (dk_at dksX7_unlucky_1 4 rfl rfl)
theorem dX7_unlucky_29 : decode cX7_unlucky 29 = .ok (.invokevirtual 281, 3) := dk_182 1 25 (dk_at dksX7_unlucky_1 5 rfl rfl)
theorem dX7_unlucky_32 : decode cX7_unlucky 32 = .ok (.if_icmp .ge 5, 3) := dk_162 0 5 (dk_at dksX7_unlucky_1 8 rfl rfl)
theorem dX7_unlucky_35 : decode cX7_unlucky 35 = .ok (.iload_n 2, 1) := dk_28 (dk_at dksX7_unlucky_1 11 rfl rfl)
theorem dX7_unlucky_36 : decode cX7_unlucky 36 = .ok (.istore_n 1, 1) := dk_60 (dk_at dksX7_unlucky_1 12 rfl rfl)
theorem dX7_unlucky_37 : decode cX7_unlucky 37 = .ok (.iinc 2 1, 3) := dk_132 2 1 (dk_at dksX7_unlucky_1 13 rfl rfl)
theorem dX7_unlucky_40 : decode cX7_unlucky 40 = .ok (.goto (-31), 3) := dk_167 255 225 (dk_at dksX7_unlucky_1 16 rfl rfl)
theorem dX7_unlucky_43 : decode cX7_unlucky 43 = .ok (.iload_n 1, 1) := dk_27 (dk_at dksX7_unlucky_1 19 rfl rfl)
theorem dX7_unlucky_44 : decode cX7_unlucky 44 = .ok (.ireturn, 1) := dk_172 (dk_at dksX7_unlucky_1 20 rfl rfl)
abbrev cX7_luckiest : ByteArray := prog_18_method_117_code
def yX7_luckiest : MethodName := ⟨RX7, "luckiest", "(I)I"⟩
def dkwX7_luckiest_2 : List UInt8 := [164, 0, 5, 29, 61, 132, 3, 1, 167, 255, 223, 28, 172]
abbrev dktX7_luckiest_2 : List UInt8 := dkwX7_luckiest_2 ++ []
def dkwX7_luckiest_1 : List UInt8 := [42, 182, 0, 74, 162, 0, 31, 28, 2, 159, 0, 18, 42, 29, 27, 182, 0, 65, 42, 28, 27, 182, 0, 65]
abbrev dktX7_luckiest_1 : List UInt8 := dkwX7_luckiest_1 ++ dktX7_luckiest_2
def dkwX7_luckiest_0 : List UInt8 := [42, 3, 181, 0, 3, 42, 27, 184, 1, 37, 4, 182, 0, 241, 153, 0, 5, 3, 172, 2, 61, 3, 62, 29]
abbrev dktX7_luckiest_0 : List UInt8 := dkwX7_luckiest_0 ++ dktX7_luckiest_1
theorem dksX7_luckiest_0 : cX7_luckiest.data.toList.drop 0 = dktX7_luckiest_0 := by decide +kernel
theorem dksX7_luckiest_1 : cX7_luckiest.data.toList.drop 24 = dktX7_luckiest_1 := dk_seg dksX7_luckiest_0 24 rfl rfl
theorem dksX7_luckiest_2 : cX7_luckiest.data.toList.drop 48 = dktX7_luckiest_2 := dk_seg dksX7_luckiest_1 24 rfl rfl
theorem dX7_luckiest_0 : decode cX7_luckiest 0 = .ok (.aload_n 0, 1) := dk_42 (dk_at dksX7_luckiest_0 0 rfl rfl)
theorem dX7_luckiest_1 : decode cX7_luckiest 1 = .ok (.iconst 0, 1) := dk_3 (dk_at dksX7_luckiest_0 1 rfl rfl)
theorem dX7_luckiest_2 : decode cX7_luckiest 2 = .ok (.putfield 3, 3) := dk_181 0 3 (dk_at dksX7_luckiest_0 2 rfl rfl)
theorem dX7_luckiest_5 : decode cX7_luckiest 5 = .ok (.aload_n 0, 1) := dk_42 (dk_at dksX7_luckiest_0 5 rfl rfl)
theorem dX7_luckiest_6 : decode cX7_luckiest 6 = .ok (.iload_n 1, 1) := dk_27 (dk_at dksX7_luckiest_0 6 rfl rfl)
theorem dX7_luckiest_7 : decode cX7_luckiest 7 = .ok (.invokestatic 293, 3) := dk_184 1 37 (dk_at dksX7_luckiest_0 7 rfl rfl)
theorem dX7_luckiest_10 : decode cX7_luckiest 10 = .ok (.iconst 1, 1) := dk_4 (dk_at dksX7_luckiest_0 10 rfl rfl)
theorem dX7_luckiest_11 : decode cX7_luckiest 11 = .ok (.invokevirtual 241, 3) := dk_182 0 241 (dk_at dksX7_luckiest_0 11 rfl rfl)
theorem dX7_luckiest_14 : decode cX7_luckiest 14 = .ok (.ifCond .eq 5, 3) := dk_153 0 5 (dk_at dksX7_luckiest_0 14 rfl rfl)
theorem dX7_luckiest_17 : decode cX7_luckiest 17 = .ok (.iconst 0, 1) := dk_3 (dk_at dksX7_luckiest_0 17 rfl rfl)
theorem dX7_luckiest_18 : decode cX7_luckiest 18 = .ok (.ireturn, 1) := dk_172 (dk_at dksX7_luckiest_0 18 rfl rfl)
theorem dX7_luckiest_19 : decode cX7_luckiest 19 = .ok (.iconst (-1), 1) := dk_2 (dk_at dksX7_luckiest_0 19 rfl rfl)
theorem dX7_luckiest_20 : decode cX7_luckiest 20 = .ok (.istore_n 2, 1) := dk_61 (dk_at dksX7_luckiest_0 20 rfl rfl)
theorem dX7_luckiest_21 : decode cX7_luckiest 21 = .ok (.iconst 0, 1) := dk_3 (dk_at dksX7_luckiest_0 21 rfl rfl)
theorem dX7_luckiest_22 : decode cX7_luckiest 22 = .ok (.istore_n 3, 1) := dk_62 (dk_at dksX7_luckiest_0 22 rfl rfl)
theorem dX7_luckiest_23 : decode cX7_luckiest 23 = .ok (.iload_n 3, 1) := dk_29 (dk_at dksX7_luckiest_0 23 rfl rfl)
theorem dX7_luckiest_24 : decode cX7_luckiest 24 = .ok (.aload_n 0, 1) := dk_42 (dk_at dksX7_luckiest_1 0 rfl rfl)
theorem dX7_luckiest_25 : decode cX7_luckiest 25 = .ok (.invokevirtual 74, 3) := dk_182 0 74 (dk_at dksX7_luckiest_1 1 rfl rfl)
theorem dX7_luckiest_28 : decode cX7_luckiest 28 = .ok (.if_icmp .ge 31, 3) := dk_162 0 31 (dk_at dksX7_luckiest_1 4 rfl rfl)
theorem dX7_luckiest_31 : decode cX7_luckiest 31 = .ok (.iload_n 2, 1) := dk_28 (dk_at dksX7_luckiest_1 7 rfl rfl)
theorem dX7_luckiest_32 : decode cX7_luckiest 32 = .ok (.iconst (-1), 1) := dk_2 (dk_at dksX7_luckiest_1 8 rfl rfl)
theorem dX7_luckiest_33 : decode cX7_luckiest 33 = .ok (.if_icmp .eq 18, 3) := dk_159 0 18 (dk_at dksX7_luckiest_1 9 rfl rfl)
theorem dX7_luckiest_36 : decode cX7_luckiest 36 = .ok (.aload_n 0, 1) := dk_42 (dk_at dksX7_luckiest_1 12 rfl rfl)
theorem dX7_luckiest_37 : decode cX7_luckiest 37 = .ok (.iload_n 3, 1) := dk_29 (dk_at dksX7_luckiest_1 13 rfl rfl)
theorem dX7_luckiest_38 : decode cX7_luckiest 38 = .ok (.iload_n 1, 1) := dk_27 (dk_at dksX7_luckiest_1 14 rfl rfl)
theorem dX7_luckiest_39 : decode cX7_luckiest 39 = .ok (.invokevirtual 65, 3) := dk_182 0 65 (dk_at dksX7_luckiest_1 15 rfl rfl)
theorem dX7_luckiest_42 : decode cX7_luckiest 42 = .ok (.aload_n 0, 1) := dk_42 (dk_at dksX7_luckiest_1 18 rfl rfl)
theorem dX7_luckiest_43 : decode cX7_luckiest 43 = .ok (.iload_n 2, 1) := dk_28 (dk_at dksX7_luckiest_1 19 rfl rfl)
theorem dX7_luckiest_44 : decode cX7_luckiest 44 = .ok (.iload_n 1, 1) := dk_27 (dk_at dksX7_luckiest_1 20 rfl rfl)
theorem dX7_luckiest_45 : decode cX7_luckiest 45 = .ok (.invokevirtual 65, 3) := dk_182 0 65 (dk_at dksX7_luckiest_1 21 rfl rfl)
theorem dX7_luckiest_48 : decode cX7_luckiest 48 = .ok (.if_icmp .le 5, 3) := dk_164 0 5 (dk_at dksX7_luckiest_2 0 rfl rfl)
theorem dX7_luckiest_51 : decode cX7_luckiest 51 = .ok (.iload_n 3, 1) := dk_29 (dk_at dksX7_luckiest_2 3 rfl rfl)
theorem dX7_luckiest_52 : decode cX7_luckiest 52 = .ok (.istore_n 2, 1) := dk_61 (dk_at dksX7_luckiest_2 4 rfl rfl)
theorem dX7_luckiest_53 : decode cX7_luckiest 53 = .ok (.iinc 3 1, 3) := dk_132 3 1 (dk_at dksX7_luckiest_2 5 rfl rfl)
theorem dX7_luckiest_56 : decode cX7_luckiest 56 = .ok (.goto (-33), 3) := dk_167 255 223 (dk_at dksX7_luckiest_2 8 rfl rfl)
theorem dX7_luckiest_59 : decode cX7_luckiest 59 = .ok (.iload_n 2, 1) := dk_28 (dk_at dksX7_luckiest_2 11 rfl rfl)
theorem dX7_luckiest_60 : decode cX7_luckiest 60 = .ok (.ireturn, 1) := dk_172 (dk_at dksX7_luckiest_2 12 rfl rfl)
abbrev cX7_ring : ByteArray := prog_18_method_119_code
def yX7_ring : MethodName := ⟨RX7, "ring", "(I)Z"⟩
def dkwX7_ring_2 : List UInt8 := [182, 1, 157, 61, 132, 3, 1, 167, 255, 231, 28, 27, 160, 0, 7, 4, 167, 0, 4, 3, 172]
abbrev dktX7_ring_2 : List UInt8 := dkwX7_ring_2 ++ []
def dkwX7_ring_1 : List UInt8 := [182, 1, 157, 61, 3, 62, 29, 16, 8, 162, 0, 25, 28, 2, 159, 0, 20, 28, 27, 159, 0, 15, 42, 28]
abbrev dktX7_ring_1 : List UInt8 := dkwX7_ring_1 ++ dktX7_ring_2
def dkwX7_ring_0 : List UInt8 := [42, 3, 181, 0, 3, 42, 42, 27, 182, 1, 19, 4, 182, 0, 241, 153, 0, 5, 3, 172, 42, 27]
abbrev dktX7_ring_0 : List UInt8 := dkwX7_ring_0 ++ dktX7_ring_1
theorem dksX7_ring_0 : cX7_ring.data.toList.drop 0 = dktX7_ring_0 := by decide +kernel
theorem dksX7_ring_1 : cX7_ring.data.toList.drop 22 = dktX7_ring_1 := dk_seg dksX7_ring_0 22 rfl rfl
theorem dksX7_ring_2 : cX7_ring.data.toList.drop 46 = dktX7_ring_2 := dk_seg dksX7_ring_1 24 rfl rfl
theorem dX7_ring_0 : decode cX7_ring 0 = .ok (.aload_n 0, 1) := dk_42 (dk_at dksX7_ring_0 0 rfl rfl)
theorem dX7_ring_1 : decode cX7_ring 1 = .ok (.iconst 0, 1) := dk_3 (dk_at dksX7_ring_0 1 rfl rfl)
theorem dX7_ring_2 : decode cX7_ring 2 = .ok (.putfield 3, 3) := dk_181 0 3 (dk_at dksX7_ring_0 2 rfl rfl)
theorem dX7_ring_5 : decode cX7_ring 5 = .ok (.aload_n 0, 1) := dk_42 (dk_at dksX7_ring_0 5 rfl rfl)
theorem dX7_ring_6 : decode cX7_ring 6 = .ok (.aload_n 0, 1) := dk_42 (dk_at dksX7_ring_0 6 rfl rfl)
theorem dX7_ring_7 : decode cX7_ring 7 = .ok (.iload_n 1, 1) := dk_27 (dk_at dksX7_ring_0 7 rfl rfl)
theorem dX7_ring_8 : decode cX7_ring 8 = .ok (.invokevirtual 275, 3) := dk_182 1 19 (dk_at dksX7_ring_0 8 rfl rfl)
theorem dX7_ring_11 : decode cX7_ring 11 = .ok (.iconst 1, 1) := dk_4 (dk_at dksX7_ring_0 11 rfl rfl)
theorem dX7_ring_12 : decode cX7_ring 12 = .ok (.invokevirtual 241, 3) := dk_182 0 241 (dk_at dksX7_ring_0 12 rfl rfl)
theorem dX7_ring_15 : decode cX7_ring 15 = .ok (.ifCond .eq 5, 3) := dk_153 0 5 (dk_at dksX7_ring_0 15 rfl rfl)
theorem dX7_ring_18 : decode cX7_ring 18 = .ok (.iconst 0, 1) := dk_3 (dk_at dksX7_ring_0 18 rfl rfl)
theorem dX7_ring_19 : decode cX7_ring 19 = .ok (.ireturn, 1) := dk_172 (dk_at dksX7_ring_0 19 rfl rfl)
theorem dX7_ring_20 : decode cX7_ring 20 = .ok (.aload_n 0, 1) := dk_42 (dk_at dksX7_ring_0 20 rfl rfl)
theorem dX7_ring_21 : decode cX7_ring 21 = .ok (.iload_n 1, 1) := dk_27 (dk_at dksX7_ring_0 21 rfl rfl)
theorem dX7_ring_22 : decode cX7_ring 22 = .ok (.invokevirtual 413, 3) := dk_182 1 157 (dk_at dksX7_ring_1 0 rfl rfl)
theorem dX7_ring_25 : decode cX7_ring 25 = .ok (.istore_n 2, 1) := dk_61 (dk_at dksX7_ring_1 3 rfl rfl)
theorem dX7_ring_26 : decode cX7_ring 26 = .ok (.iconst 0, 1) := dk_3 (dk_at dksX7_ring_1 4 rfl rfl)
theorem dX7_ring_27 : decode cX7_ring 27 = .ok (.istore_n 3, 1) := dk_62 (dk_at dksX7_ring_1 5 rfl rfl)
theorem dX7_ring_28 : decode cX7_ring 28 = .ok (.iload_n 3, 1) := dk_29 (dk_at dksX7_ring_1 6 rfl rfl)
theorem dX7_ring_29 : decode cX7_ring 29 = .ok (.bipush 8, 2) := dk_16 8 (dk_at dksX7_ring_1 7 rfl rfl)
theorem dX7_ring_31 : decode cX7_ring 31 = .ok (.if_icmp .ge 25, 3) := dk_162 0 25 (dk_at dksX7_ring_1 9 rfl rfl)
theorem dX7_ring_34 : decode cX7_ring 34 = .ok (.iload_n 2, 1) := dk_28 (dk_at dksX7_ring_1 12 rfl rfl)
theorem dX7_ring_35 : decode cX7_ring 35 = .ok (.iconst (-1), 1) := dk_2 (dk_at dksX7_ring_1 13 rfl rfl)
theorem dX7_ring_36 : decode cX7_ring 36 = .ok (.if_icmp .eq 20, 3) := dk_159 0 20 (dk_at dksX7_ring_1 14 rfl rfl)
theorem dX7_ring_39 : decode cX7_ring 39 = .ok (.iload_n 2, 1) := dk_28 (dk_at dksX7_ring_1 17 rfl rfl)
theorem dX7_ring_40 : decode cX7_ring 40 = .ok (.iload_n 1, 1) := dk_27 (dk_at dksX7_ring_1 18 rfl rfl)
theorem dX7_ring_41 : decode cX7_ring 41 = .ok (.if_icmp .eq 15, 3) := dk_159 0 15 (dk_at dksX7_ring_1 19 rfl rfl)
theorem dX7_ring_44 : decode cX7_ring 44 = .ok (.aload_n 0, 1) := dk_42 (dk_at dksX7_ring_1 22 rfl rfl)
theorem dX7_ring_45 : decode cX7_ring 45 = .ok (.iload_n 2, 1) := dk_28 (dk_at dksX7_ring_1 23 rfl rfl)
theorem dX7_ring_46 : decode cX7_ring 46 = .ok (.invokevirtual 413, 3) := dk_182 1 157 (dk_at dksX7_ring_2 0 rfl rfl)
theorem dX7_ring_49 : decode cX7_ring 49 = .ok (.istore_n 2, 1) := dk_61 (dk_at dksX7_ring_2 3 rfl rfl)
theorem dX7_ring_50 : decode cX7_ring 50 = .ok (.iinc 3 1, 3) := dk_132 3 1 (dk_at dksX7_ring_2 4 rfl rfl)
theorem dX7_ring_53 : decode cX7_ring 53 = .ok (.goto (-25), 3) := dk_167 255 231 (dk_at dksX7_ring_2 7 rfl rfl)
theorem dX7_ring_56 : decode cX7_ring 56 = .ok (.iload_n 2, 1) := dk_28 (dk_at dksX7_ring_2 10 rfl rfl)
theorem dX7_ring_57 : decode cX7_ring 57 = .ok (.iload_n 1, 1) := dk_27 (dk_at dksX7_ring_2 11 rfl rfl)
theorem dX7_ring_58 : decode cX7_ring 58 = .ok (.if_icmp .ne 7, 3) := dk_160 0 7 (dk_at dksX7_ring_2 12 rfl rfl)
theorem dX7_ring_61 : decode cX7_ring 61 = .ok (.iconst 1, 1) := dk_4 (dk_at dksX7_ring_2 15 rfl rfl)
theorem dX7_ring_62 : decode cX7_ring 62 = .ok (.goto 4, 3) := dk_167 0 4 (dk_at dksX7_ring_2 16 rfl rfl)
theorem dX7_ring_65 : decode cX7_ring 65 = .ok (.iconst 0, 1) := dk_3 (dk_at dksX7_ring_2 19 rfl rfl)
theorem dX7_ring_66 : decode cX7_ring 66 = .ok (.ireturn, 1) := dk_172 (dk_at dksX7_ring_2 20 rfl rfl)
abbrev cX7_borrowerOf : ByteArray := prog_18_method_118_code
def yX7_borrowerOf : MethodName := ⟨RX7, "borrowerOf", "(I)I"⟩
def dkwX7_borrowerOf_2 : List UInt8 := [132, 2, 1, 167, 255, 210, 2, 172]
abbrev dktX7_borrowerOf_2 : List UInt8 := dkwX7_borrowerOf_2 ++ []
def dkwX7_borrowerOf_1 : List UInt8 := [182, 0, 71, 27, 159, 0, 18, 42, 28, 182, 1, 49, 154, 0, 10, 42, 28, 8, 182, 0, 71, 172]
abbrev dktX7_borrowerOf_1 : List UInt8 := dkwX7_borrowerOf_1 ++ dktX7_borrowerOf_2
def dkwX7_borrowerOf_0 : List UInt8 := [3, 61, 28, 42, 182, 0, 82, 162, 0, 44, 42, 28, 7, 182, 0, 71, 27, 160, 0, 28, 42, 28, 8]
abbrev dktX7_borrowerOf_0 : List UInt8 := dkwX7_borrowerOf_0 ++ dktX7_borrowerOf_1
theorem dksX7_borrowerOf_0 : cX7_borrowerOf.data.toList.drop 0 = dktX7_borrowerOf_0 := by decide +kernel
theorem dksX7_borrowerOf_1 : cX7_borrowerOf.data.toList.drop 23 = dktX7_borrowerOf_1 := dk_seg dksX7_borrowerOf_0 23 rfl rfl
theorem dksX7_borrowerOf_2 : cX7_borrowerOf.data.toList.drop 45 = dktX7_borrowerOf_2 := dk_seg dksX7_borrowerOf_1 22 rfl rfl
theorem dX7_borrowerOf_0 : decode cX7_borrowerOf 0 = .ok (.iconst 0, 1) := dk_3 (dk_at dksX7_borrowerOf_0 0 rfl rfl)
theorem dX7_borrowerOf_1 : decode cX7_borrowerOf 1 = .ok (.istore_n 2, 1) := dk_61 (dk_at dksX7_borrowerOf_0 1 rfl rfl)
theorem dX7_borrowerOf_2 : decode cX7_borrowerOf 2 = .ok (.iload_n 2, 1) := dk_28 (dk_at dksX7_borrowerOf_0 2 rfl rfl)
theorem dX7_borrowerOf_3 : decode cX7_borrowerOf 3 = .ok (.aload_n 0, 1) := dk_42 (dk_at dksX7_borrowerOf_0 3 rfl rfl)
theorem dX7_borrowerOf_4 : decode cX7_borrowerOf 4 = .ok (.invokevirtual 82, 3) := dk_182 0 82 (dk_at dksX7_borrowerOf_0 4 rfl rfl)
theorem dX7_borrowerOf_7 : decode cX7_borrowerOf 7 = .ok (.if_icmp .ge 44, 3) := dk_162 0 44 (dk_at dksX7_borrowerOf_0 7 rfl rfl)
theorem dX7_borrowerOf_10 : decode cX7_borrowerOf 10 = .ok (.aload_n 0, 1) := dk_42 (dk_at dksX7_borrowerOf_0 10 rfl rfl)
theorem dX7_borrowerOf_11 : decode cX7_borrowerOf 11 = .ok (.iload_n 2, 1) := dk_28 (dk_at dksX7_borrowerOf_0 11 rfl rfl)
theorem dX7_borrowerOf_12 : decode cX7_borrowerOf 12 = .ok (.iconst 4, 1) := dk_7 (dk_at dksX7_borrowerOf_0 12 rfl rfl)
theorem dX7_borrowerOf_13 : decode cX7_borrowerOf 13 = .ok (.invokevirtual 71, 3) := dk_182 0 71 (dk_at dksX7_borrowerOf_0 13 rfl rfl)
theorem dX7_borrowerOf_16 : decode cX7_borrowerOf 16 = .ok (.iload_n 1, 1) := dk_27 (dk_at dksX7_borrowerOf_0 16 rfl rfl)
theorem dX7_borrowerOf_17 : decode cX7_borrowerOf 17 = .ok (.if_icmp .ne 28, 3) := dk_160 0 28 (dk_at dksX7_borrowerOf_0 17 rfl rfl)
theorem dX7_borrowerOf_20 : decode cX7_borrowerOf 20 = .ok (.aload_n 0, 1) := dk_42 (dk_at dksX7_borrowerOf_0 20 rfl rfl)
theorem dX7_borrowerOf_21 : decode cX7_borrowerOf 21 = .ok (.iload_n 2, 1) := dk_28 (dk_at dksX7_borrowerOf_0 21 rfl rfl)
theorem dX7_borrowerOf_22 : decode cX7_borrowerOf 22 = .ok (.iconst 5, 1) := dk_8 (dk_at dksX7_borrowerOf_0 22 rfl rfl)
theorem dX7_borrowerOf_23 : decode cX7_borrowerOf 23 = .ok (.invokevirtual 71, 3) := dk_182 0 71 (dk_at dksX7_borrowerOf_1 0 rfl rfl)
theorem dX7_borrowerOf_26 : decode cX7_borrowerOf 26 = .ok (.iload_n 1, 1) := dk_27 (dk_at dksX7_borrowerOf_1 3 rfl rfl)
theorem dX7_borrowerOf_27 : decode cX7_borrowerOf 27 = .ok (.if_icmp .eq 18, 3) := dk_159 0 18 (dk_at dksX7_borrowerOf_1 4 rfl rfl)
theorem dX7_borrowerOf_30 : decode cX7_borrowerOf 30 = .ok (.aload_n 0, 1) := dk_42 (dk_at dksX7_borrowerOf_1 7 rfl rfl)
theorem dX7_borrowerOf_31 : decode cX7_borrowerOf 31 = .ok (.iload_n 2, 1) := dk_28 (dk_at dksX7_borrowerOf_1 8 rfl rfl)
theorem dX7_borrowerOf_32 : decode cX7_borrowerOf 32 = .ok (.invokevirtual 305, 3) := dk_182 1 49 (dk_at dksX7_borrowerOf_1 9 rfl rfl)
theorem dX7_borrowerOf_35 : decode cX7_borrowerOf 35 = .ok (.ifCond .ne 10, 3) := dk_154 0 10 (dk_at dksX7_borrowerOf_1 12 rfl rfl)
theorem dX7_borrowerOf_38 : decode cX7_borrowerOf 38 = .ok (.aload_n 0, 1) := dk_42 (dk_at dksX7_borrowerOf_1 15 rfl rfl)
theorem dX7_borrowerOf_39 : decode cX7_borrowerOf 39 = .ok (.iload_n 2, 1) := dk_28 (dk_at dksX7_borrowerOf_1 16 rfl rfl)
theorem dX7_borrowerOf_40 : decode cX7_borrowerOf 40 = .ok (.iconst 5, 1) := dk_8 (dk_at dksX7_borrowerOf_1 17 rfl rfl)
theorem dX7_borrowerOf_41 : decode cX7_borrowerOf 41 = .ok (.invokevirtual 71, 3) := dk_182 0 71 (dk_at dksX7_borrowerOf_1 18 rfl rfl)
theorem dX7_borrowerOf_44 : decode cX7_borrowerOf 44 = .ok (.ireturn, 1) := dk_172 (dk_at dksX7_borrowerOf_1 21 rfl rfl)
theorem dX7_borrowerOf_45 : decode cX7_borrowerOf 45 = .ok (.iinc 2 1, 3) := dk_132 2 1 (dk_at dksX7_borrowerOf_2 0 rfl rfl)
theorem dX7_borrowerOf_48 : decode cX7_borrowerOf 48 = .ok (.goto (-46), 3) := dk_167 255 210 (dk_at dksX7_borrowerOf_2 3 rfl rfl)
theorem dX7_borrowerOf_51 : decode cX7_borrowerOf 51 = .ok (.iconst (-1), 1) := dk_2 (dk_at dksX7_borrowerOf_2 6 rfl rfl)
theorem dX7_borrowerOf_52 : decode cX7_borrowerOf 52 = .ok (.ireturn, 1) := dk_172 (dk_at dksX7_borrowerOf_2 7 rfl rfl)
abbrev cX7_oldest : ByteArray := prog_18_method_120_code
def yX7_oldest : MethodName := ⟨RX7, "oldest", "()I"⟩
def dkwX7_oldest_2 : List UInt8 := [172]
abbrev dktX7_oldest_2 : List UInt8 := dkwX7_oldest_2 ++ []
def dkwX7_oldest_1 : List UInt8 := [16, 6, 182, 0, 71, 42, 27, 16, 6, 182, 0, 71, 164, 0, 5, 28, 60, 132, 2, 1, 167, 255, 221, 27]
abbrev dktX7_oldest_1 : List UInt8 := dkwX7_oldest_1 ++ dktX7_oldest_2
def dkwX7_oldest_0 : List UInt8 := [42, 3, 181, 0, 3, 2, 60, 3, 61, 28, 42, 182, 0, 82, 162, 0, 33, 27, 2, 159, 0, 20, 42, 28]
abbrev dktX7_oldest_0 : List UInt8 := dkwX7_oldest_0 ++ dktX7_oldest_1
theorem dksX7_oldest_0 : cX7_oldest.data.toList.drop 0 = dktX7_oldest_0 := by decide +kernel
theorem dksX7_oldest_1 : cX7_oldest.data.toList.drop 24 = dktX7_oldest_1 := dk_seg dksX7_oldest_0 24 rfl rfl
theorem dksX7_oldest_2 : cX7_oldest.data.toList.drop 48 = dktX7_oldest_2 := dk_seg dksX7_oldest_1 24 rfl rfl
theorem dX7_oldest_0 : decode cX7_oldest 0 = .ok (.aload_n 0, 1) := dk_42 (dk_at dksX7_oldest_0 0 rfl rfl)
theorem dX7_oldest_1 : decode cX7_oldest 1 = .ok (.iconst 0, 1) := dk_3 (dk_at dksX7_oldest_0 1 rfl rfl)
theorem dX7_oldest_2 : decode cX7_oldest 2 = .ok (.putfield 3, 3) := dk_181 0 3 (dk_at dksX7_oldest_0 2 rfl rfl)
theorem dX7_oldest_5 : decode cX7_oldest 5 = .ok (.iconst (-1), 1) := dk_2 (dk_at dksX7_oldest_0 5 rfl rfl)
theorem dX7_oldest_6 : decode cX7_oldest 6 = .ok (.istore_n 1, 1) := dk_60 (dk_at dksX7_oldest_0 6 rfl rfl)
theorem dX7_oldest_7 : decode cX7_oldest 7 = .ok (.iconst 0, 1) := dk_3 (dk_at dksX7_oldest_0 7 rfl rfl)
theorem dX7_oldest_8 : decode cX7_oldest 8 = .ok (.istore_n 2, 1) := dk_61 (dk_at dksX7_oldest_0 8 rfl rfl)
theorem dX7_oldest_9 : decode cX7_oldest 9 = .ok (.iload_n 2, 1) := dk_28 (dk_at dksX7_oldest_0 9 rfl rfl)
theorem dX7_oldest_10 : decode cX7_oldest 10 = .ok (.aload_n 0, 1) := dk_42 (dk_at dksX7_oldest_0 10 rfl rfl)
theorem dX7_oldest_11 : decode cX7_oldest 11 = .ok (.invokevirtual 82, 3) := dk_182 0 82 (dk_at dksX7_oldest_0 11 rfl rfl)
theorem dX7_oldest_14 : decode cX7_oldest 14 = .ok (.if_icmp .ge 33, 3) := dk_162 0 33 (dk_at dksX7_oldest_0 14 rfl rfl)
theorem dX7_oldest_17 : decode cX7_oldest 17 = .ok (.iload_n 1, 1) := dk_27 (dk_at dksX7_oldest_0 17 rfl rfl)
theorem dX7_oldest_18 : decode cX7_oldest 18 = .ok (.iconst (-1), 1) := dk_2 (dk_at dksX7_oldest_0 18 rfl rfl)
theorem dX7_oldest_19 : decode cX7_oldest 19 = .ok (.if_icmp .eq 20, 3) := dk_159 0 20 (dk_at dksX7_oldest_0 19 rfl rfl)
theorem dX7_oldest_22 : decode cX7_oldest 22 = .ok (.aload_n 0, 1) := dk_42 (dk_at dksX7_oldest_0 22 rfl rfl)
theorem dX7_oldest_23 : decode cX7_oldest 23 = .ok (.iload_n 2, 1) := dk_28 (dk_at dksX7_oldest_0 23 rfl rfl)
theorem dX7_oldest_24 : decode cX7_oldest 24 = .ok (.bipush 6, 2) := dk_16 6 (dk_at dksX7_oldest_1 0 rfl rfl)
theorem dX7_oldest_26 : decode cX7_oldest 26 = .ok (.invokevirtual 71, 3) := dk_182 0 71 (dk_at dksX7_oldest_1 2 rfl rfl)
theorem dX7_oldest_29 : decode cX7_oldest 29 = .ok (.aload_n 0, 1) := dk_42 (dk_at dksX7_oldest_1 5 rfl rfl)
theorem dX7_oldest_30 : decode cX7_oldest 30 = .ok (.iload_n 1, 1) := dk_27 (dk_at dksX7_oldest_1 6 rfl rfl)
theorem dX7_oldest_31 : decode cX7_oldest 31 = .ok (.bipush 6, 2) := dk_16 6 (dk_at dksX7_oldest_1 7 rfl rfl)
theorem dX7_oldest_33 : decode cX7_oldest 33 = .ok (.invokevirtual 71, 3) := dk_182 0 71 (dk_at dksX7_oldest_1 9 rfl rfl)
theorem dX7_oldest_36 : decode cX7_oldest 36 = .ok (.if_icmp .le 5, 3) := dk_164 0 5 (dk_at dksX7_oldest_1 12 rfl rfl)
theorem dX7_oldest_39 : decode cX7_oldest 39 = .ok (.iload_n 2, 1) := dk_28 (dk_at dksX7_oldest_1 15 rfl rfl)
theorem dX7_oldest_40 : decode cX7_oldest 40 = .ok (.istore_n 1, 1) := dk_60 (dk_at dksX7_oldest_1 16 rfl rfl)
theorem dX7_oldest_41 : decode cX7_oldest 41 = .ok (.iinc 2 1, 3) := dk_132 2 1 (dk_at dksX7_oldest_1 17 rfl rfl)
theorem dX7_oldest_44 : decode cX7_oldest 44 = .ok (.goto (-35), 3) := dk_167 255 221 (dk_at dksX7_oldest_1 20 rfl rfl)
theorem dX7_oldest_47 : decode cX7_oldest 47 = .ok (.iload_n 1, 1) := dk_27 (dk_at dksX7_oldest_1 23 rfl rfl)
theorem dX7_oldest_48 : decode cX7_oldest 48 = .ok (.ireturn, 1) := dk_172 (dk_at dksX7_oldest_2 0 rfl rfl)
abbrev cX7_stuck : ByteArray := prog_18_method_121_code
def yX7_stuck : MethodName := ⟨RX7, "stuck", "()I"⟩
def dkwX7_stuck_0 : List UInt8 := [42, 3, 181, 0, 3, 42, 16, 7, 4, 182, 1, 22, 172]
abbrev dktX7_stuck_0 : List UInt8 := dkwX7_stuck_0 ++ []
theorem dksX7_stuck_0 : cX7_stuck.data.toList.drop 0 = dktX7_stuck_0 := by decide +kernel
theorem dX7_stuck_0 : decode cX7_stuck 0 = .ok (.aload_n 0, 1) := dk_42 (dk_at dksX7_stuck_0 0 rfl rfl)
theorem dX7_stuck_1 : decode cX7_stuck 1 = .ok (.iconst 0, 1) := dk_3 (dk_at dksX7_stuck_0 1 rfl rfl)
theorem dX7_stuck_2 : decode cX7_stuck 2 = .ok (.putfield 3, 3) := dk_181 0 3 (dk_at dksX7_stuck_0 2 rfl rfl)
theorem dX7_stuck_5 : decode cX7_stuck 5 = .ok (.aload_n 0, 1) := dk_42 (dk_at dksX7_stuck_0 5 rfl rfl)
theorem dX7_stuck_6 : decode cX7_stuck 6 = .ok (.bipush 7, 2) := dk_16 7 (dk_at dksX7_stuck_0 6 rfl rfl)
theorem dX7_stuck_8 : decode cX7_stuck 8 = .ok (.iconst 1, 1) := dk_4 (dk_at dksX7_stuck_0 8 rfl rfl)
theorem dX7_stuck_9 : decode cX7_stuck 9 = .ok (.invokevirtual 278, 3) := dk_182 1 22 (dk_at dksX7_stuck_0 9 rfl rfl)
theorem dX7_stuck_12 : decode cX7_stuck 12 = .ok (.ireturn, 1) := dk_172 (dk_at dksX7_stuck_0 12 rfl rfl)
abbrev cX7_pawned : ByteArray := prog_18_method_122_code
def yX7_pawned : MethodName := ⟨RX7, "pawned", "()I"⟩
def dkwX7_pawned_0 : List UInt8 := [42, 3, 181, 0, 3, 42, 8, 2, 182, 1, 22, 172]
abbrev dktX7_pawned_0 : List UInt8 := dkwX7_pawned_0 ++ []
theorem dksX7_pawned_0 : cX7_pawned.data.toList.drop 0 = dktX7_pawned_0 := by decide +kernel
theorem dX7_pawned_0 : decode cX7_pawned 0 = .ok (.aload_n 0, 1) := dk_42 (dk_at dksX7_pawned_0 0 rfl rfl)
theorem dX7_pawned_1 : decode cX7_pawned 1 = .ok (.iconst 0, 1) := dk_3 (dk_at dksX7_pawned_0 1 rfl rfl)
theorem dX7_pawned_2 : decode cX7_pawned 2 = .ok (.putfield 3, 3) := dk_181 0 3 (dk_at dksX7_pawned_0 2 rfl rfl)
theorem dX7_pawned_5 : decode cX7_pawned 5 = .ok (.aload_n 0, 1) := dk_42 (dk_at dksX7_pawned_0 5 rfl rfl)
theorem dX7_pawned_6 : decode cX7_pawned 6 = .ok (.iconst 5, 1) := dk_8 (dk_at dksX7_pawned_0 6 rfl rfl)
theorem dX7_pawned_7 : decode cX7_pawned 7 = .ok (.iconst (-1), 1) := dk_2 (dk_at dksX7_pawned_0 7 rfl rfl)
theorem dX7_pawned_8 : decode cX7_pawned 8 = .ok (.invokevirtual 278, 3) := dk_182 1 22 (dk_at dksX7_pawned_0 8 rfl rfl)
theorem dX7_pawned_11 : decode cX7_pawned 11 = .ok (.ireturn, 1) := dk_172 (dk_at dksX7_pawned_0 11 rfl rfl)
abbrev cX7_blue : ByteArray := prog_18_method_123_code
def yX7_blue : MethodName := ⟨RX7, "blue", "()I"⟩
def dkwX7_blue_0 : List UInt8 := [42, 3, 181, 0, 3, 42, 16, 8, 4, 182, 1, 22, 172]
abbrev dktX7_blue_0 : List UInt8 := dkwX7_blue_0 ++ []
theorem dksX7_blue_0 : cX7_blue.data.toList.drop 0 = dktX7_blue_0 := by decide +kernel
theorem dX7_blue_0 : decode cX7_blue 0 = .ok (.aload_n 0, 1) := dk_42 (dk_at dksX7_blue_0 0 rfl rfl)
theorem dX7_blue_1 : decode cX7_blue 1 = .ok (.iconst 0, 1) := dk_3 (dk_at dksX7_blue_0 1 rfl rfl)
theorem dX7_blue_2 : decode cX7_blue 2 = .ok (.putfield 3, 3) := dk_181 0 3 (dk_at dksX7_blue_0 2 rfl rfl)
theorem dX7_blue_5 : decode cX7_blue 5 = .ok (.aload_n 0, 1) := dk_42 (dk_at dksX7_blue_0 5 rfl rfl)
theorem dX7_blue_6 : decode cX7_blue 6 = .ok (.bipush 8, 2) := dk_16 8 (dk_at dksX7_blue_0 6 rfl rfl)
theorem dX7_blue_8 : decode cX7_blue 8 = .ok (.iconst 1, 1) := dk_4 (dk_at dksX7_blue_0 8 rfl rfl)
theorem dX7_blue_9 : decode cX7_blue 9 = .ok (.invokevirtual 278, 3) := dk_182 1 22 (dk_at dksX7_blue_0 9 rfl rfl)
theorem dX7_blue_12 : decode cX7_blue 12 = .ok (.ireturn, 1) := dk_172 (dk_at dksX7_blue_0 12 rfl rfl)
abbrev cX7_alike : ByteArray := prog_18_method_125_code
def yX7_alike : MethodName := ⟨RX7, "alike", "()I"⟩
def dkwX7_alike_2 : List UInt8 := [132, 2, 1, 167, 255, 215, 27, 172]
abbrev dktX7_alike_2 : List UInt8 := dkwX7_alike_2 ++ []
def dkwX7_alike_1 : List UInt8 := [27, 42, 28, 29, 182, 1, 160, 153, 0, 7, 4, 167, 0, 4, 3, 96, 60, 132, 3, 1, 167, 255, 231]
abbrev dktX7_alike_1 : List UInt8 := dkwX7_alike_1 ++ dktX7_alike_2
def dkwX7_alike_0 : List UInt8 := [42, 3, 181, 0, 3, 3, 60, 3, 61, 28, 42, 182, 0, 82, 162, 0, 39, 3, 62, 29, 28, 162, 0, 26]
abbrev dktX7_alike_0 : List UInt8 := dkwX7_alike_0 ++ dktX7_alike_1
theorem dksX7_alike_0 : cX7_alike.data.toList.drop 0 = dktX7_alike_0 := by decide +kernel
theorem dksX7_alike_1 : cX7_alike.data.toList.drop 24 = dktX7_alike_1 := dk_seg dksX7_alike_0 24 rfl rfl
theorem dksX7_alike_2 : cX7_alike.data.toList.drop 47 = dktX7_alike_2 := dk_seg dksX7_alike_1 23 rfl rfl
theorem dX7_alike_0 : decode cX7_alike 0 = .ok (.aload_n 0, 1) := dk_42 (dk_at dksX7_alike_0 0 rfl rfl)
theorem dX7_alike_1 : decode cX7_alike 1 = .ok (.iconst 0, 1) := dk_3 (dk_at dksX7_alike_0 1 rfl rfl)
theorem dX7_alike_2 : decode cX7_alike 2 = .ok (.putfield 3, 3) := dk_181 0 3 (dk_at dksX7_alike_0 2 rfl rfl)
theorem dX7_alike_5 : decode cX7_alike 5 = .ok (.iconst 0, 1) := dk_3 (dk_at dksX7_alike_0 5 rfl rfl)
theorem dX7_alike_6 : decode cX7_alike 6 = .ok (.istore_n 1, 1) := dk_60 (dk_at dksX7_alike_0 6 rfl rfl)
theorem dX7_alike_7 : decode cX7_alike 7 = .ok (.iconst 0, 1) := dk_3 (dk_at dksX7_alike_0 7 rfl rfl)
theorem dX7_alike_8 : decode cX7_alike 8 = .ok (.istore_n 2, 1) := dk_61 (dk_at dksX7_alike_0 8 rfl rfl)
theorem dX7_alike_9 : decode cX7_alike 9 = .ok (.iload_n 2, 1) := dk_28 (dk_at dksX7_alike_0 9 rfl rfl)
theorem dX7_alike_10 : decode cX7_alike 10 = .ok (.aload_n 0, 1) := dk_42 (dk_at dksX7_alike_0 10 rfl rfl)
theorem dX7_alike_11 : decode cX7_alike 11 = .ok (.invokevirtual 82, 3) := dk_182 0 82 (dk_at dksX7_alike_0 11 rfl rfl)
theorem dX7_alike_14 : decode cX7_alike 14 = .ok (.if_icmp .ge 39, 3) := dk_162 0 39 (dk_at dksX7_alike_0 14 rfl rfl)
theorem dX7_alike_17 : decode cX7_alike 17 = .ok (.iconst 0, 1) := dk_3 (dk_at dksX7_alike_0 17 rfl rfl)
theorem dX7_alike_18 : decode cX7_alike 18 = .ok (.istore_n 3, 1) := dk_62 (dk_at dksX7_alike_0 18 rfl rfl)
theorem dX7_alike_19 : decode cX7_alike 19 = .ok (.iload_n 3, 1) := dk_29 (dk_at dksX7_alike_0 19 rfl rfl)
theorem dX7_alike_20 : decode cX7_alike 20 = .ok (.iload_n 2, 1) := dk_28 (dk_at dksX7_alike_0 20 rfl rfl)
theorem dX7_alike_21 : decode cX7_alike 21 = .ok (.if_icmp .ge 26, 3) := dk_162 0 26 (dk_at dksX7_alike_0 21 rfl rfl)
theorem dX7_alike_24 : decode cX7_alike 24 = .ok (.iload_n 1, 1) := dk_27 (dk_at dksX7_alike_1 0 rfl rfl)
theorem dX7_alike_25 : decode cX7_alike 25 = .ok (.aload_n 0, 1) := dk_42 (dk_at dksX7_alike_1 1 rfl rfl)
theorem dX7_alike_26 : decode cX7_alike 26 = .ok (.iload_n 2, 1) := dk_28 (dk_at dksX7_alike_1 2 rfl rfl)
theorem dX7_alike_27 : decode cX7_alike 27 = .ok (.iload_n 3, 1) := dk_29 (dk_at dksX7_alike_1 3 rfl rfl)
theorem dX7_alike_28 : decode cX7_alike 28 = .ok (.invokevirtual 416, 3) := dk_182 1 160 (dk_at dksX7_alike_1 4 rfl rfl)
theorem dX7_alike_31 : decode cX7_alike 31 = .ok (.ifCond .eq 7, 3) := dk_153 0 7 (dk_at dksX7_alike_1 7 rfl rfl)
theorem dX7_alike_34 : decode cX7_alike 34 = .ok (.iconst 1, 1) := dk_4 (dk_at dksX7_alike_1 10 rfl rfl)
theorem dX7_alike_35 : decode cX7_alike 35 = .ok (.goto 4, 3) := dk_167 0 4 (dk_at dksX7_alike_1 11 rfl rfl)
theorem dX7_alike_38 : decode cX7_alike 38 = .ok (.iconst 0, 1) := dk_3 (dk_at dksX7_alike_1 14 rfl rfl)
theorem dX7_alike_39 : decode cX7_alike 39 = .ok (.iadd, 1) := dk_96 (dk_at dksX7_alike_1 15 rfl rfl)
theorem dX7_alike_40 : decode cX7_alike 40 = .ok (.istore_n 1, 1) := dk_60 (dk_at dksX7_alike_1 16 rfl rfl)
theorem dX7_alike_41 : decode cX7_alike 41 = .ok (.iinc 3 1, 3) := dk_132 3 1 (dk_at dksX7_alike_1 17 rfl rfl)
theorem dX7_alike_44 : decode cX7_alike 44 = .ok (.goto (-25), 3) := dk_167 255 231 (dk_at dksX7_alike_1 20 rfl rfl)
theorem dX7_alike_47 : decode cX7_alike 47 = .ok (.iinc 2 1, 3) := dk_132 2 1 (dk_at dksX7_alike_2 0 rfl rfl)
theorem dX7_alike_50 : decode cX7_alike 50 = .ok (.goto (-41), 3) := dk_167 255 215 (dk_at dksX7_alike_2 3 rfl rfl)
theorem dX7_alike_53 : decode cX7_alike 53 = .ok (.iload_n 1, 1) := dk_27 (dk_at dksX7_alike_2 6 rfl rfl)
theorem dX7_alike_54 : decode cX7_alike 54 = .ok (.ireturn, 1) := dk_172 (dk_at dksX7_alike_2 7 rfl rfl)
abbrev cX7_likens : ByteArray := prog_18_method_124_code
def yX7_likens : MethodName := ⟨RX7, "likens", "(II)Z"⟩
def dkwX7_likens_1 : List UInt8 := [21, 4, 182, 0, 71, 160, 0, 7, 4, 167, 0, 4, 3, 62, 132, 4, 1, 167, 255, 220, 29, 172]
abbrev dktX7_likens_1 : List UInt8 := dkwX7_likens_1 ++ []
def dkwX7_likens_0 : List UInt8 := [4, 62, 3, 54, 4, 21, 4, 7, 162, 0, 36, 29, 153, 0, 24, 42, 27, 21, 4, 182, 0, 71, 42, 28]
abbrev dktX7_likens_0 : List UInt8 := dkwX7_likens_0 ++ dktX7_likens_1
theorem dksX7_likens_0 : cX7_likens.data.toList.drop 0 = dktX7_likens_0 := by decide +kernel
theorem dksX7_likens_1 : cX7_likens.data.toList.drop 24 = dktX7_likens_1 := dk_seg dksX7_likens_0 24 rfl rfl
theorem dX7_likens_0 : decode cX7_likens 0 = .ok (.iconst 1, 1) := dk_4 (dk_at dksX7_likens_0 0 rfl rfl)
theorem dX7_likens_1 : decode cX7_likens 1 = .ok (.istore_n 3, 1) := dk_62 (dk_at dksX7_likens_0 1 rfl rfl)
theorem dX7_likens_2 : decode cX7_likens 2 = .ok (.iconst 0, 1) := dk_3 (dk_at dksX7_likens_0 2 rfl rfl)
theorem dX7_likens_3 : decode cX7_likens 3 = .ok (.istore 4, 2) := dk_54 4 (dk_at dksX7_likens_0 3 rfl rfl)
theorem dX7_likens_5 : decode cX7_likens 5 = .ok (.iload 4, 2) := dk_21 4 (dk_at dksX7_likens_0 5 rfl rfl)
theorem dX7_likens_7 : decode cX7_likens 7 = .ok (.iconst 4, 1) := dk_7 (dk_at dksX7_likens_0 7 rfl rfl)
theorem dX7_likens_8 : decode cX7_likens 8 = .ok (.if_icmp .ge 36, 3) := dk_162 0 36 (dk_at dksX7_likens_0 8 rfl rfl)
theorem dX7_likens_11 : decode cX7_likens 11 = .ok (.iload_n 3, 1) := dk_29 (dk_at dksX7_likens_0 11 rfl rfl)
theorem dX7_likens_12 : decode cX7_likens 12 = .ok (.ifCond .eq 24, 3) := dk_153 0 24 (dk_at dksX7_likens_0 12 rfl rfl)
theorem dX7_likens_15 : decode cX7_likens 15 = .ok (.aload_n 0, 1) := dk_42 (dk_at dksX7_likens_0 15 rfl rfl)
theorem dX7_likens_16 : decode cX7_likens 16 = .ok (.iload_n 1, 1) := dk_27 (dk_at dksX7_likens_0 16 rfl rfl)
theorem dX7_likens_17 : decode cX7_likens 17 = .ok (.iload 4, 2) := dk_21 4 (dk_at dksX7_likens_0 17 rfl rfl)
theorem dX7_likens_19 : decode cX7_likens 19 = .ok (.invokevirtual 71, 3) := dk_182 0 71 (dk_at dksX7_likens_0 19 rfl rfl)
theorem dX7_likens_22 : decode cX7_likens 22 = .ok (.aload_n 0, 1) := dk_42 (dk_at dksX7_likens_0 22 rfl rfl)
theorem dX7_likens_23 : decode cX7_likens 23 = .ok (.iload_n 2, 1) := dk_28 (dk_at dksX7_likens_0 23 rfl rfl)
theorem dX7_likens_24 : decode cX7_likens 24 = .ok (.iload 4, 2) := dk_21 4 (dk_at dksX7_likens_1 0 rfl rfl)
theorem dX7_likens_26 : decode cX7_likens 26 = .ok (.invokevirtual 71, 3) := dk_182 0 71 (dk_at dksX7_likens_1 2 rfl rfl)
theorem dX7_likens_29 : decode cX7_likens 29 = .ok (.if_icmp .ne 7, 3) := dk_160 0 7 (dk_at dksX7_likens_1 5 rfl rfl)
theorem dX7_likens_32 : decode cX7_likens 32 = .ok (.iconst 1, 1) := dk_4 (dk_at dksX7_likens_1 8 rfl rfl)
theorem dX7_likens_33 : decode cX7_likens 33 = .ok (.goto 4, 3) := dk_167 0 4 (dk_at dksX7_likens_1 9 rfl rfl)
theorem dX7_likens_36 : decode cX7_likens 36 = .ok (.iconst 0, 1) := dk_3 (dk_at dksX7_likens_1 12 rfl rfl)
theorem dX7_likens_37 : decode cX7_likens 37 = .ok (.istore_n 3, 1) := dk_62 (dk_at dksX7_likens_1 13 rfl rfl)
theorem dX7_likens_38 : decode cX7_likens 38 = .ok (.iinc 4 1, 3) := dk_132 4 1 (dk_at dksX7_likens_1 14 rfl rfl)
theorem dX7_likens_41 : decode cX7_likens 41 = .ok (.goto (-36), 3) := dk_167 255 220 (dk_at dksX7_likens_1 17 rfl rfl)
theorem dX7_likens_44 : decode cX7_likens 44 = .ok (.iload_n 3, 1) := dk_29 (dk_at dksX7_likens_1 20 rfl rfl)
theorem dX7_likens_45 : decode cX7_likens 45 = .ok (.ireturn, 1) := dk_172 (dk_at dksX7_likens_1 21 rfl rfl)
abbrev cX7_share : ByteArray := prog_18_method_126_code
def yX7_share : MethodName := ⟨RX7, "share", "(II)I"⟩
def dkwX7_share_3 : List UInt8 := [167, 0, 14, 16, 100, 42, 27, 28, 182, 0, 65, 104, 29, 108, 172]
abbrev dktX7_share_3 : List UInt8 := dkwX7_share_3 ++ []
def dkwX7_share_2 : List UInt8 := [162, 0, 19, 29, 42, 21, 4, 28, 182, 0, 65, 96, 62, 132, 4, 1, 167, 255, 234, 29, 154, 0, 7, 3]
abbrev dktX7_share_2 : List UInt8 := dkwX7_share_2 ++ dktX7_share_3
def dkwX7_share_1 : List UInt8 := [167, 0, 4, 3, 4, 182, 0, 241, 153, 0, 5, 3, 172, 3, 62, 3, 54, 4, 21, 4, 42, 182, 0, 74]
abbrev dktX7_share_1 : List UInt8 := dkwX7_share_1 ++ dktX7_share_2
def dkwX7_share_0 : List UInt8 := [42, 3, 181, 0, 3, 42, 42, 27, 182, 1, 19, 154, 0, 10, 28, 184, 1, 37, 153, 0, 7, 4]
abbrev dktX7_share_0 : List UInt8 := dkwX7_share_0 ++ dktX7_share_1
theorem dksX7_share_0 : cX7_share.data.toList.drop 0 = dktX7_share_0 := by decide +kernel
theorem dksX7_share_1 : cX7_share.data.toList.drop 22 = dktX7_share_1 := dk_seg dksX7_share_0 22 rfl rfl
theorem dksX7_share_2 : cX7_share.data.toList.drop 46 = dktX7_share_2 := dk_seg dksX7_share_1 24 rfl rfl
theorem dksX7_share_3 : cX7_share.data.toList.drop 70 = dktX7_share_3 := dk_seg dksX7_share_2 24 rfl rfl
theorem dX7_share_0 : decode cX7_share 0 = .ok (.aload_n 0, 1) := dk_42 (dk_at dksX7_share_0 0 rfl rfl)
theorem dX7_share_1 : decode cX7_share 1 = .ok (.iconst 0, 1) := dk_3 (dk_at dksX7_share_0 1 rfl rfl)
theorem dX7_share_2 : decode cX7_share 2 = .ok (.putfield 3, 3) := dk_181 0 3 (dk_at dksX7_share_0 2 rfl rfl)
theorem dX7_share_5 : decode cX7_share 5 = .ok (.aload_n 0, 1) := dk_42 (dk_at dksX7_share_0 5 rfl rfl)
theorem dX7_share_6 : decode cX7_share 6 = .ok (.aload_n 0, 1) := dk_42 (dk_at dksX7_share_0 6 rfl rfl)
theorem dX7_share_7 : decode cX7_share 7 = .ok (.iload_n 1, 1) := dk_27 (dk_at dksX7_share_0 7 rfl rfl)
theorem dX7_share_8 : decode cX7_share 8 = .ok (.invokevirtual 275, 3) := dk_182 1 19 (dk_at dksX7_share_0 8 rfl rfl)
theorem dX7_share_11 : decode cX7_share 11 = .ok (.ifCond .ne 10, 3) := dk_154 0 10 (dk_at dksX7_share_0 11 rfl rfl)
theorem dX7_share_14 : decode cX7_share 14 = .ok (.iload_n 2, 1) := dk_28 (dk_at dksX7_share_0 14 rfl rfl)
theorem dX7_share_15 : decode cX7_share 15 = .ok (.invokestatic 293, 3) := dk_184 1 37 (dk_at dksX7_share_0 15 rfl rfl)
theorem dX7_share_18 : decode cX7_share 18 = .ok (.ifCond .eq 7, 3) := dk_153 0 7 (dk_at dksX7_share_0 18 rfl rfl)
theorem dX7_share_21 : decode cX7_share 21 = .ok (.iconst 1, 1) := dk_4 (dk_at dksX7_share_0 21 rfl rfl)
theorem dX7_share_22 : decode cX7_share 22 = .ok (.goto 4, 3) := dk_167 0 4 (dk_at dksX7_share_1 0 rfl rfl)
theorem dX7_share_25 : decode cX7_share 25 = .ok (.iconst 0, 1) := dk_3 (dk_at dksX7_share_1 3 rfl rfl)
theorem dX7_share_26 : decode cX7_share 26 = .ok (.iconst 1, 1) := dk_4 (dk_at dksX7_share_1 4 rfl rfl)
theorem dX7_share_27 : decode cX7_share 27 = .ok (.invokevirtual 241, 3) := dk_182 0 241 (dk_at dksX7_share_1 5 rfl rfl)
theorem dX7_share_30 : decode cX7_share 30 = .ok (.ifCond .eq 5, 3) := dk_153 0 5 (dk_at dksX7_share_1 8 rfl rfl)
theorem dX7_share_33 : decode cX7_share 33 = .ok (.iconst 0, 1) := dk_3 (dk_at dksX7_share_1 11 rfl rfl)
theorem dX7_share_34 : decode cX7_share 34 = .ok (.ireturn, 1) := dk_172 (dk_at dksX7_share_1 12 rfl rfl)
theorem dX7_share_35 : decode cX7_share 35 = .ok (.iconst 0, 1) := dk_3 (dk_at dksX7_share_1 13 rfl rfl)
theorem dX7_share_36 : decode cX7_share 36 = .ok (.istore_n 3, 1) := dk_62 (dk_at dksX7_share_1 14 rfl rfl)
theorem dX7_share_37 : decode cX7_share 37 = .ok (.iconst 0, 1) := dk_3 (dk_at dksX7_share_1 15 rfl rfl)
theorem dX7_share_38 : decode cX7_share 38 = .ok (.istore 4, 2) := dk_54 4 (dk_at dksX7_share_1 16 rfl rfl)
theorem dX7_share_40 : decode cX7_share 40 = .ok (.iload 4, 2) := dk_21 4 (dk_at dksX7_share_1 18 rfl rfl)
theorem dX7_share_42 : decode cX7_share 42 = .ok (.aload_n 0, 1) := dk_42 (dk_at dksX7_share_1 20 rfl rfl)
theorem dX7_share_43 : decode cX7_share 43 = .ok (.invokevirtual 74, 3) := dk_182 0 74 (dk_at dksX7_share_1 21 rfl rfl)
theorem dX7_share_46 : decode cX7_share 46 = .ok (.if_icmp .ge 19, 3) := dk_162 0 19 (dk_at dksX7_share_2 0 rfl rfl)
theorem dX7_share_49 : decode cX7_share 49 = .ok (.iload_n 3, 1) := dk_29 (dk_at dksX7_share_2 3 rfl rfl)
theorem dX7_share_50 : decode cX7_share 50 = .ok (.aload_n 0, 1) := dk_42 (dk_at dksX7_share_2 4 rfl rfl)
theorem dX7_share_51 : decode cX7_share 51 = .ok (.iload 4, 2) := dk_21 4 (dk_at dksX7_share_2 5 rfl rfl)
theorem dX7_share_53 : decode cX7_share 53 = .ok (.iload_n 2, 1) := dk_28 (dk_at dksX7_share_2 7 rfl rfl)
theorem dX7_share_54 : decode cX7_share 54 = .ok (.invokevirtual 65, 3) := dk_182 0 65 (dk_at dksX7_share_2 8 rfl rfl)
theorem dX7_share_57 : decode cX7_share 57 = .ok (.iadd, 1) := dk_96 (dk_at dksX7_share_2 11 rfl rfl)
theorem dX7_share_58 : decode cX7_share 58 = .ok (.istore_n 3, 1) := dk_62 (dk_at dksX7_share_2 12 rfl rfl)
theorem dX7_share_59 : decode cX7_share 59 = .ok (.iinc 4 1, 3) := dk_132 4 1 (dk_at dksX7_share_2 13 rfl rfl)
theorem dX7_share_62 : decode cX7_share 62 = .ok (.goto (-22), 3) := dk_167 255 234 (dk_at dksX7_share_2 16 rfl rfl)
theorem dX7_share_65 : decode cX7_share 65 = .ok (.iload_n 3, 1) := dk_29 (dk_at dksX7_share_2 19 rfl rfl)
theorem dX7_share_66 : decode cX7_share 66 = .ok (.ifCond .ne 7, 3) := dk_154 0 7 (dk_at dksX7_share_2 20 rfl rfl)
theorem dX7_share_69 : decode cX7_share 69 = .ok (.iconst 0, 1) := dk_3 (dk_at dksX7_share_2 23 rfl rfl)
theorem dX7_share_70 : decode cX7_share 70 = .ok (.goto 14, 3) := dk_167 0 14 (dk_at dksX7_share_3 0 rfl rfl)
theorem dX7_share_73 : decode cX7_share 73 = .ok (.bipush 100, 2) := dk_16 100 (dk_at dksX7_share_3 3 rfl rfl)
theorem dX7_share_75 : decode cX7_share 75 = .ok (.aload_n 0, 1) := dk_42 (dk_at dksX7_share_3 5 rfl rfl)
theorem dX7_share_76 : decode cX7_share 76 = .ok (.iload_n 1, 1) := dk_27 (dk_at dksX7_share_3 6 rfl rfl)
theorem dX7_share_77 : decode cX7_share 77 = .ok (.iload_n 2, 1) := dk_28 (dk_at dksX7_share_3 7 rfl rfl)
theorem dX7_share_78 : decode cX7_share 78 = .ok (.invokevirtual 65, 3) := dk_182 0 65 (dk_at dksX7_share_3 8 rfl rfl)
theorem dX7_share_81 : decode cX7_share 81 = .ok (.imul, 1) := dk_104 (dk_at dksX7_share_3 11 rfl rfl)
theorem dX7_share_82 : decode cX7_share 82 = .ok (.iload_n 3, 1) := dk_29 (dk_at dksX7_share_3 12 rfl rfl)
theorem dX7_share_83 : decode cX7_share 83 = .ok (.idiv, 1) := dk_108 (dk_at dksX7_share_3 13 rfl rfl)
theorem dX7_share_84 : decode cX7_share 84 = .ok (.ireturn, 1) := dk_172 (dk_at dksX7_share_3 14 rfl rfl)
abbrev cX7_odds : ByteArray := prog_18_method_127_code
def yX7_odds : MethodName := ⟨RX7, "odds", "()I"⟩
def dkwX7_odds_3 : List UInt8 := [182, 0, 74, 42, 182, 0, 82, 104, 108, 172]
abbrev dktX7_odds_3 : List UInt8 := dkwX7_odds_3 ++ []
def dkwX7_odds_2 : List UInt8 := [167, 255, 228, 132, 2, 1, 167, 255, 212, 27, 154, 0, 7, 3, 167, 0, 18, 17, 39, 16, 27, 104, 42]
abbrev dktX7_odds_2 : List UInt8 := dkwX7_odds_2 ++ dktX7_odds_3
def dkwX7_odds_1 : List UInt8 := [162, 0, 26, 27, 42, 29, 28, 182, 1, 61, 153, 0, 7, 4, 167, 0, 4, 3, 96, 60, 132, 3, 1]
abbrev dktX7_odds_1 : List UInt8 := dkwX7_odds_1 ++ dktX7_odds_2
def dkwX7_odds_0 : List UInt8 := [42, 3, 181, 0, 3, 3, 60, 3, 61, 28, 42, 182, 0, 74, 162, 0, 42, 3, 62, 29, 42, 182, 0, 82]
abbrev dktX7_odds_0 : List UInt8 := dkwX7_odds_0 ++ dktX7_odds_1
theorem dksX7_odds_0 : cX7_odds.data.toList.drop 0 = dktX7_odds_0 := by decide +kernel
theorem dksX7_odds_1 : cX7_odds.data.toList.drop 24 = dktX7_odds_1 := dk_seg dksX7_odds_0 24 rfl rfl
theorem dksX7_odds_2 : cX7_odds.data.toList.drop 47 = dktX7_odds_2 := dk_seg dksX7_odds_1 23 rfl rfl
theorem dksX7_odds_3 : cX7_odds.data.toList.drop 70 = dktX7_odds_3 := dk_seg dksX7_odds_2 23 rfl rfl
theorem dX7_odds_0 : decode cX7_odds 0 = .ok (.aload_n 0, 1) := dk_42 (dk_at dksX7_odds_0 0 rfl rfl)
theorem dX7_odds_1 : decode cX7_odds 1 = .ok (.iconst 0, 1) := dk_3 (dk_at dksX7_odds_0 1 rfl rfl)
theorem dX7_odds_2 : decode cX7_odds 2 = .ok (.putfield 3, 3) := dk_181 0 3 (dk_at dksX7_odds_0 2 rfl rfl)
theorem dX7_odds_5 : decode cX7_odds 5 = .ok (.iconst 0, 1) := dk_3 (dk_at dksX7_odds_0 5 rfl rfl)
theorem dX7_odds_6 : decode cX7_odds 6 = .ok (.istore_n 1, 1) := dk_60 (dk_at dksX7_odds_0 6 rfl rfl)
theorem dX7_odds_7 : decode cX7_odds 7 = .ok (.iconst 0, 1) := dk_3 (dk_at dksX7_odds_0 7 rfl rfl)
theorem dX7_odds_8 : decode cX7_odds 8 = .ok (.istore_n 2, 1) := dk_61 (dk_at dksX7_odds_0 8 rfl rfl)
theorem dX7_odds_9 : decode cX7_odds 9 = .ok (.iload_n 2, 1) := dk_28 (dk_at dksX7_odds_0 9 rfl rfl)
theorem dX7_odds_10 : decode cX7_odds 10 = .ok (.aload_n 0, 1) := dk_42 (dk_at dksX7_odds_0 10 rfl rfl)
theorem dX7_odds_11 : decode cX7_odds 11 = .ok (.invokevirtual 74, 3) := dk_182 0 74 (dk_at dksX7_odds_0 11 rfl rfl)
theorem dX7_odds_14 : decode cX7_odds 14 = .ok (.if_icmp .ge 42, 3) := dk_162 0 42 (dk_at dksX7_odds_0 14 rfl rfl)
theorem dX7_odds_17 : decode cX7_odds 17 = .ok (.iconst 0, 1) := dk_3 (dk_at dksX7_odds_0 17 rfl rfl)
theorem dX7_odds_18 : decode cX7_odds 18 = .ok (.istore_n 3, 1) := dk_62 (dk_at dksX7_odds_0 18 rfl rfl)
theorem dX7_odds_19 : decode cX7_odds 19 = .ok (.iload_n 3, 1) := dk_29 (dk_at dksX7_odds_0 19 rfl rfl)
theorem dX7_odds_20 : decode cX7_odds 20 = .ok (.aload_n 0, 1) := dk_42 (dk_at dksX7_odds_0 20 rfl rfl)
theorem dX7_odds_21 : decode cX7_odds 21 = .ok (.invokevirtual 82, 3) := dk_182 0 82 (dk_at dksX7_odds_0 21 rfl rfl)
theorem dX7_odds_24 : decode cX7_odds 24 = .ok (.if_icmp .ge 26, 3) := dk_162 0 26 (dk_at dksX7_odds_1 0 rfl rfl)
theorem dX7_odds_27 : decode cX7_odds 27 = .ok (.iload_n 1, 1) := dk_27 (dk_at dksX7_odds_1 3 rfl rfl)
theorem dX7_odds_28 : decode cX7_odds 28 = .ok (.aload_n 0, 1) := dk_42 (dk_at dksX7_odds_1 4 rfl rfl)
theorem dX7_odds_29 : decode cX7_odds 29 = .ok (.iload_n 3, 1) := dk_29 (dk_at dksX7_odds_1 5 rfl rfl)
theorem dX7_odds_30 : decode cX7_odds 30 = .ok (.iload_n 2, 1) := dk_28 (dk_at dksX7_odds_1 6 rfl rfl)
theorem dX7_odds_31 : decode cX7_odds 31 = .ok (.invokevirtual 317, 3) := dk_182 1 61 (dk_at dksX7_odds_1 7 rfl rfl)
theorem dX7_odds_34 : decode cX7_odds 34 = .ok (.ifCond .eq 7, 3) := dk_153 0 7 (dk_at dksX7_odds_1 10 rfl rfl)
theorem dX7_odds_37 : decode cX7_odds 37 = .ok (.iconst 1, 1) := dk_4 (dk_at dksX7_odds_1 13 rfl rfl)
theorem dX7_odds_38 : decode cX7_odds 38 = .ok (.goto 4, 3) := dk_167 0 4 (dk_at dksX7_odds_1 14 rfl rfl)
theorem dX7_odds_41 : decode cX7_odds 41 = .ok (.iconst 0, 1) := dk_3 (dk_at dksX7_odds_1 17 rfl rfl)
theorem dX7_odds_42 : decode cX7_odds 42 = .ok (.iadd, 1) := dk_96 (dk_at dksX7_odds_1 18 rfl rfl)
theorem dX7_odds_43 : decode cX7_odds 43 = .ok (.istore_n 1, 1) := dk_60 (dk_at dksX7_odds_1 19 rfl rfl)
theorem dX7_odds_44 : decode cX7_odds 44 = .ok (.iinc 3 1, 3) := dk_132 3 1 (dk_at dksX7_odds_1 20 rfl rfl)
theorem dX7_odds_47 : decode cX7_odds 47 = .ok (.goto (-28), 3) := dk_167 255 228 (dk_at dksX7_odds_2 0 rfl rfl)
theorem dX7_odds_50 : decode cX7_odds 50 = .ok (.iinc 2 1, 3) := dk_132 2 1 (dk_at dksX7_odds_2 3 rfl rfl)
theorem dX7_odds_53 : decode cX7_odds 53 = .ok (.goto (-44), 3) := dk_167 255 212 (dk_at dksX7_odds_2 6 rfl rfl)
theorem dX7_odds_56 : decode cX7_odds 56 = .ok (.iload_n 1, 1) := dk_27 (dk_at dksX7_odds_2 9 rfl rfl)
theorem dX7_odds_57 : decode cX7_odds 57 = .ok (.ifCond .ne 7, 3) := dk_154 0 7 (dk_at dksX7_odds_2 10 rfl rfl)
theorem dX7_odds_60 : decode cX7_odds 60 = .ok (.iconst 0, 1) := dk_3 (dk_at dksX7_odds_2 13 rfl rfl)
theorem dX7_odds_61 : decode cX7_odds 61 = .ok (.goto 18, 3) := dk_167 0 18 (dk_at dksX7_odds_2 14 rfl rfl)
theorem dX7_odds_64 : decode cX7_odds 64 = .ok (.sipush 10000, 3) := dk_17 39 16 (dk_at dksX7_odds_2 17 rfl rfl)
theorem dX7_odds_67 : decode cX7_odds 67 = .ok (.iload_n 1, 1) := dk_27 (dk_at dksX7_odds_2 20 rfl rfl)
theorem dX7_odds_68 : decode cX7_odds 68 = .ok (.imul, 1) := dk_104 (dk_at dksX7_odds_2 21 rfl rfl)
theorem dX7_odds_69 : decode cX7_odds 69 = .ok (.aload_n 0, 1) := dk_42 (dk_at dksX7_odds_2 22 rfl rfl)
theorem dX7_odds_70 : decode cX7_odds 70 = .ok (.invokevirtual 74, 3) := dk_182 0 74 (dk_at dksX7_odds_3 0 rfl rfl)
theorem dX7_odds_73 : decode cX7_odds 73 = .ok (.aload_n 0, 1) := dk_42 (dk_at dksX7_odds_3 3 rfl rfl)
theorem dX7_odds_74 : decode cX7_odds 74 = .ok (.invokevirtual 82, 3) := dk_182 0 82 (dk_at dksX7_odds_3 4 rfl rfl)
theorem dX7_odds_77 : decode cX7_odds 77 = .ok (.imul, 1) := dk_104 (dk_at dksX7_odds_3 7 rfl rfl)
theorem dX7_odds_78 : decode cX7_odds 78 = .ok (.idiv, 1) := dk_108 (dk_at dksX7_odds_3 8 rfl rfl)
theorem dX7_odds_79 : decode cX7_odds 79 = .ok (.ireturn, 1) := dk_172 (dk_at dksX7_odds_3 9 rfl rfl)
abbrev cX7_trial : ByteArray := prog_18_method_129_code
def yX7_trial : MethodName := ⟨RX7, "trial", "(IZ)I"⟩
def dkwX7_trial_2 : List UInt8 := [16, 7, 4, 182, 1, 22, 167, 0, 7, 42, 182, 1, 163, 62, 42, 182, 1, 103, 29, 172]
abbrev dktX7_trial_2 : List UInt8 := dkwX7_trial_2 ++ []
def dkwX7_trial_1 : List UInt8 := [182, 0, 241, 153, 0, 5, 3, 172, 42, 182, 1, 96, 42, 27, 182, 1, 80, 87, 28, 153, 0, 13, 42]
abbrev dktX7_trial_1 : List UInt8 := dkwX7_trial_1 ++ dktX7_trial_2
def dkwX7_trial_0 : List UInt8 := [42, 3, 181, 0, 3, 42, 27, 3, 16, 60, 184, 0, 78, 154, 0, 7, 4, 167, 0, 4, 3, 4]
abbrev dktX7_trial_0 : List UInt8 := dkwX7_trial_0 ++ dktX7_trial_1
theorem dksX7_trial_0 : cX7_trial.data.toList.drop 0 = dktX7_trial_0 := by decide +kernel
theorem dksX7_trial_1 : cX7_trial.data.toList.drop 22 = dktX7_trial_1 := dk_seg dksX7_trial_0 22 rfl rfl
theorem dksX7_trial_2 : cX7_trial.data.toList.drop 45 = dktX7_trial_2 := dk_seg dksX7_trial_1 23 rfl rfl
theorem dX7_trial_0 : decode cX7_trial 0 = .ok (.aload_n 0, 1) := dk_42 (dk_at dksX7_trial_0 0 rfl rfl)
theorem dX7_trial_1 : decode cX7_trial 1 = .ok (.iconst 0, 1) := dk_3 (dk_at dksX7_trial_0 1 rfl rfl)
theorem dX7_trial_2 : decode cX7_trial 2 = .ok (.putfield 3, 3) := dk_181 0 3 (dk_at dksX7_trial_0 2 rfl rfl)
theorem dX7_trial_5 : decode cX7_trial 5 = .ok (.aload_n 0, 1) := dk_42 (dk_at dksX7_trial_0 5 rfl rfl)
theorem dX7_trial_6 : decode cX7_trial 6 = .ok (.iload_n 1, 1) := dk_27 (dk_at dksX7_trial_0 6 rfl rfl)
theorem dX7_trial_7 : decode cX7_trial 7 = .ok (.iconst 0, 1) := dk_3 (dk_at dksX7_trial_0 7 rfl rfl)
theorem dX7_trial_8 : decode cX7_trial 8 = .ok (.bipush 60, 2) := dk_16 60 (dk_at dksX7_trial_0 8 rfl rfl)
theorem dX7_trial_10 : decode cX7_trial 10 = .ok (.invokestatic 78, 3) := dk_184 0 78 (dk_at dksX7_trial_0 10 rfl rfl)
theorem dX7_trial_13 : decode cX7_trial 13 = .ok (.ifCond .ne 7, 3) := dk_154 0 7 (dk_at dksX7_trial_0 13 rfl rfl)
theorem dX7_trial_16 : decode cX7_trial 16 = .ok (.iconst 1, 1) := dk_4 (dk_at dksX7_trial_0 16 rfl rfl)
theorem dX7_trial_17 : decode cX7_trial 17 = .ok (.goto 4, 3) := dk_167 0 4 (dk_at dksX7_trial_0 17 rfl rfl)
theorem dX7_trial_20 : decode cX7_trial 20 = .ok (.iconst 0, 1) := dk_3 (dk_at dksX7_trial_0 20 rfl rfl)
theorem dX7_trial_21 : decode cX7_trial 21 = .ok (.iconst 1, 1) := dk_4 (dk_at dksX7_trial_0 21 rfl rfl)
theorem dX7_trial_22 : decode cX7_trial 22 = .ok (.invokevirtual 241, 3) := dk_182 0 241 (dk_at dksX7_trial_1 0 rfl rfl)
theorem dX7_trial_25 : decode cX7_trial 25 = .ok (.ifCond .eq 5, 3) := dk_153 0 5 (dk_at dksX7_trial_1 3 rfl rfl)
theorem dX7_trial_28 : decode cX7_trial 28 = .ok (.iconst 0, 1) := dk_3 (dk_at dksX7_trial_1 6 rfl rfl)
theorem dX7_trial_29 : decode cX7_trial 29 = .ok (.ireturn, 1) := dk_172 (dk_at dksX7_trial_1 7 rfl rfl)
theorem dX7_trial_30 : decode cX7_trial 30 = .ok (.aload_n 0, 1) := dk_42 (dk_at dksX7_trial_1 8 rfl rfl)
theorem dX7_trial_31 : decode cX7_trial 31 = .ok (.invokevirtual 352, 3) := dk_182 1 96 (dk_at dksX7_trial_1 9 rfl rfl)
theorem dX7_trial_34 : decode cX7_trial 34 = .ok (.aload_n 0, 1) := dk_42 (dk_at dksX7_trial_1 12 rfl rfl)
theorem dX7_trial_35 : decode cX7_trial 35 = .ok (.iload_n 1, 1) := dk_27 (dk_at dksX7_trial_1 13 rfl rfl)
theorem dX7_trial_36 : decode cX7_trial 36 = .ok (.invokevirtual 336, 3) := dk_182 1 80 (dk_at dksX7_trial_1 14 rfl rfl)
theorem dX7_trial_39 : decode cX7_trial 39 = .ok (.pop, 1) := dk_87 (dk_at dksX7_trial_1 17 rfl rfl)
theorem dX7_trial_40 : decode cX7_trial 40 = .ok (.iload_n 2, 1) := dk_28 (dk_at dksX7_trial_1 18 rfl rfl)
theorem dX7_trial_41 : decode cX7_trial 41 = .ok (.ifCond .eq 13, 3) := dk_153 0 13 (dk_at dksX7_trial_1 19 rfl rfl)
theorem dX7_trial_44 : decode cX7_trial 44 = .ok (.aload_n 0, 1) := dk_42 (dk_at dksX7_trial_1 22 rfl rfl)
theorem dX7_trial_45 : decode cX7_trial 45 = .ok (.bipush 7, 2) := dk_16 7 (dk_at dksX7_trial_2 0 rfl rfl)
theorem dX7_trial_47 : decode cX7_trial 47 = .ok (.iconst 1, 1) := dk_4 (dk_at dksX7_trial_2 2 rfl rfl)
theorem dX7_trial_48 : decode cX7_trial 48 = .ok (.invokevirtual 278, 3) := dk_182 1 22 (dk_at dksX7_trial_2 3 rfl rfl)
theorem dX7_trial_51 : decode cX7_trial 51 = .ok (.goto 7, 3) := dk_167 0 7 (dk_at dksX7_trial_2 6 rfl rfl)
theorem dX7_trial_54 : decode cX7_trial 54 = .ok (.aload_n 0, 1) := dk_42 (dk_at dksX7_trial_2 9 rfl rfl)
theorem dX7_trial_55 : decode cX7_trial 55 = .ok (.invokevirtual 419, 3) := dk_182 1 163 (dk_at dksX7_trial_2 10 rfl rfl)
theorem dX7_trial_58 : decode cX7_trial 58 = .ok (.istore_n 3, 1) := dk_62 (dk_at dksX7_trial_2 13 rfl rfl)
theorem dX7_trial_59 : decode cX7_trial 59 = .ok (.aload_n 0, 1) := dk_42 (dk_at dksX7_trial_2 14 rfl rfl)
theorem dX7_trial_60 : decode cX7_trial 60 = .ok (.invokevirtual 359, 3) := dk_182 1 103 (dk_at dksX7_trial_2 15 rfl rfl)
theorem dX7_trial_63 : decode cX7_trial 63 = .ok (.iload_n 3, 1) := dk_29 (dk_at dksX7_trial_2 18 rfl rfl)
theorem dX7_trial_64 : decode cX7_trial 64 = .ok (.ireturn, 1) := dk_172 (dk_at dksX7_trial_2 19 rfl rfl)
abbrev cX7_luckOfAll : ByteArray := prog_18_method_128_code
def yX7_luckOfAll : MethodName := ⟨RX7, "luckOfAll", "()I"⟩
def dkwX7_luckOfAll_1 : List UInt8 := [167, 255, 237, 27, 172]
abbrev dktX7_luckOfAll_1 : List UInt8 := dkwX7_luckOfAll_1 ++ []
def dkwX7_luckOfAll_0 : List UInt8 := [3, 60, 3, 61, 28, 42, 182, 0, 74, 162, 0, 17, 27, 42, 28, 182, 1, 25, 96, 60, 132, 2, 1]
abbrev dktX7_luckOfAll_0 : List UInt8 := dkwX7_luckOfAll_0 ++ dktX7_luckOfAll_1
theorem dksX7_luckOfAll_0 : cX7_luckOfAll.data.toList.drop 0 = dktX7_luckOfAll_0 := by decide +kernel
theorem dksX7_luckOfAll_1 : cX7_luckOfAll.data.toList.drop 23 = dktX7_luckOfAll_1 := dk_seg dksX7_luckOfAll_0 23 rfl rfl
theorem dX7_luckOfAll_0 : decode cX7_luckOfAll 0 = .ok (.iconst 0, 1) := dk_3 (dk_at dksX7_luckOfAll_0 0 rfl rfl)
theorem dX7_luckOfAll_1 : decode cX7_luckOfAll 1 = .ok (.istore_n 1, 1) := dk_60 (dk_at dksX7_luckOfAll_0 1 rfl rfl)
theorem dX7_luckOfAll_2 : decode cX7_luckOfAll 2 = .ok (.iconst 0, 1) := dk_3 (dk_at dksX7_luckOfAll_0 2 rfl rfl)
theorem dX7_luckOfAll_3 : decode cX7_luckOfAll 3 = .ok (.istore_n 2, 1) := dk_61 (dk_at dksX7_luckOfAll_0 3 rfl rfl)
theorem dX7_luckOfAll_4 : decode cX7_luckOfAll 4 = .ok (.iload_n 2, 1) := dk_28 (dk_at dksX7_luckOfAll_0 4 rfl rfl)
theorem dX7_luckOfAll_5 : decode cX7_luckOfAll 5 = .ok (.aload_n 0, 1) := dk_42 (dk_at dksX7_luckOfAll_0 5 rfl rfl)
theorem dX7_luckOfAll_6 : decode cX7_luckOfAll 6 = .ok (.invokevirtual 74, 3) := dk_182 0 74 (dk_at dksX7_luckOfAll_0 6 rfl rfl)
theorem dX7_luckOfAll_9 : decode cX7_luckOfAll 9 = .ok (.if_icmp .ge 17, 3) := dk_162 0 17 (dk_at dksX7_luckOfAll_0 9 rfl rfl)
theorem dX7_luckOfAll_12 : decode cX7_luckOfAll 12 = .ok (.iload_n 1, 1) := dk_27 (dk_at dksX7_luckOfAll_0 12 rfl rfl)
theorem dX7_luckOfAll_13 : decode cX7_luckOfAll 13 = .ok (.aload_n 0, 1) := dk_42 (dk_at dksX7_luckOfAll_0 13 rfl rfl)
theorem dX7_luckOfAll_14 : decode cX7_luckOfAll 14 = .ok (.iload_n 2, 1) := dk_28 (dk_at dksX7_luckOfAll_0 14 rfl rfl)
theorem dX7_luckOfAll_15 : decode cX7_luckOfAll 15 = .ok (.invokevirtual 281, 3) := dk_182 1 25 (dk_at dksX7_luckOfAll_0 15 rfl rfl)
theorem dX7_luckOfAll_18 : decode cX7_luckOfAll 18 = .ok (.iadd, 1) := dk_96 (dk_at dksX7_luckOfAll_0 18 rfl rfl)
theorem dX7_luckOfAll_19 : decode cX7_luckOfAll 19 = .ok (.istore_n 1, 1) := dk_60 (dk_at dksX7_luckOfAll_0 19 rfl rfl)
theorem dX7_luckOfAll_20 : decode cX7_luckOfAll 20 = .ok (.iinc 2 1, 3) := dk_132 2 1 (dk_at dksX7_luckOfAll_0 20 rfl rfl)
theorem dX7_luckOfAll_23 : decode cX7_luckOfAll 23 = .ok (.goto (-19), 3) := dk_167 255 237 (dk_at dksX7_luckOfAll_1 0 rfl rfl)
theorem dX7_luckOfAll_26 : decode cX7_luckOfAll 26 = .ok (.iload_n 1, 1) := dk_27 (dk_at dksX7_luckOfAll_1 3 rfl rfl)
theorem dX7_luckOfAll_27 : decode cX7_luckOfAll 27 = .ok (.ireturn, 1) := dk_172 (dk_at dksX7_luckOfAll_1 4 rfl rfl)
abbrev cX7_span : ByteArray := prog_18_method_130_code
def yX7_span : MethodName := ⟨RX7, "span", "(IZ)I"⟩
def dkwX7_span_4 : List UInt8 := [167, 0, 9, 29, 21, 5, 184, 1, 10, 62, 132, 4, 1, 167, 255, 192, 29, 172]
abbrev dktX7_span_4 : List UInt8 := dkwX7_span_4 ++ []
def dkwX7_span_3 : List UInt8 := [182, 1, 103, 29, 156, 0, 8, 21, 5, 167, 0, 22, 28, 153, 0, 12, 29, 21, 5, 184, 1, 116]
abbrev dktX7_span_3 : List UInt8 := dkwX7_span_3 ++ dktX7_span_4
def dkwX7_span_2 : List UInt8 := [42, 180, 0, 13, 16, 8, 21, 4, 79, 42, 27, 182, 1, 80, 87, 42, 182, 1, 163, 54, 5, 42]
abbrev dktX7_span_2 : List UInt8 := dkwX7_span_2 ++ dktX7_span_3
def dkwX7_span_1 : List UInt8 := [182, 0, 241, 153, 0, 5, 3, 172, 42, 182, 1, 96, 2, 62, 4, 54, 4, 21, 4, 16, 6, 163, 0, 63]
abbrev dktX7_span_1 : List UInt8 := dkwX7_span_1 ++ dktX7_span_2
def dkwX7_span_0 : List UInt8 := [42, 3, 181, 0, 3, 42, 27, 3, 16, 60, 184, 0, 78, 154, 0, 7, 4, 167, 0, 4, 3, 4]
abbrev dktX7_span_0 : List UInt8 := dkwX7_span_0 ++ dktX7_span_1
theorem dksX7_span_0 : cX7_span.data.toList.drop 0 = dktX7_span_0 := by decide +kernel
theorem dksX7_span_1 : cX7_span.data.toList.drop 22 = dktX7_span_1 := dk_seg dksX7_span_0 22 rfl rfl
theorem dksX7_span_2 : cX7_span.data.toList.drop 46 = dktX7_span_2 := dk_seg dksX7_span_1 24 rfl rfl
theorem dksX7_span_3 : cX7_span.data.toList.drop 68 = dktX7_span_3 := dk_seg dksX7_span_2 22 rfl rfl
theorem dksX7_span_4 : cX7_span.data.toList.drop 90 = dktX7_span_4 := dk_seg dksX7_span_3 22 rfl rfl
theorem dX7_span_0 : decode cX7_span 0 = .ok (.aload_n 0, 1) := dk_42 (dk_at dksX7_span_0 0 rfl rfl)
theorem dX7_span_1 : decode cX7_span 1 = .ok (.iconst 0, 1) := dk_3 (dk_at dksX7_span_0 1 rfl rfl)
theorem dX7_span_2 : decode cX7_span 2 = .ok (.putfield 3, 3) := dk_181 0 3 (dk_at dksX7_span_0 2 rfl rfl)
theorem dX7_span_5 : decode cX7_span 5 = .ok (.aload_n 0, 1) := dk_42 (dk_at dksX7_span_0 5 rfl rfl)
theorem dX7_span_6 : decode cX7_span 6 = .ok (.iload_n 1, 1) := dk_27 (dk_at dksX7_span_0 6 rfl rfl)
theorem dX7_span_7 : decode cX7_span 7 = .ok (.iconst 0, 1) := dk_3 (dk_at dksX7_span_0 7 rfl rfl)
theorem dX7_span_8 : decode cX7_span 8 = .ok (.bipush 60, 2) := dk_16 60 (dk_at dksX7_span_0 8 rfl rfl)
theorem dX7_span_10 : decode cX7_span 10 = .ok (.invokestatic 78, 3) := dk_184 0 78 (dk_at dksX7_span_0 10 rfl rfl)
theorem dX7_span_13 : decode cX7_span 13 = .ok (.ifCond .ne 7, 3) := dk_154 0 7 (dk_at dksX7_span_0 13 rfl rfl)
theorem dX7_span_16 : decode cX7_span 16 = .ok (.iconst 1, 1) := dk_4 (dk_at dksX7_span_0 16 rfl rfl)
theorem dX7_span_17 : decode cX7_span 17 = .ok (.goto 4, 3) := dk_167 0 4 (dk_at dksX7_span_0 17 rfl rfl)
theorem dX7_span_20 : decode cX7_span 20 = .ok (.iconst 0, 1) := dk_3 (dk_at dksX7_span_0 20 rfl rfl)
theorem dX7_span_21 : decode cX7_span 21 = .ok (.iconst 1, 1) := dk_4 (dk_at dksX7_span_0 21 rfl rfl)
theorem dX7_span_22 : decode cX7_span 22 = .ok (.invokevirtual 241, 3) := dk_182 0 241 (dk_at dksX7_span_1 0 rfl rfl)
theorem dX7_span_25 : decode cX7_span 25 = .ok (.ifCond .eq 5, 3) := dk_153 0 5 (dk_at dksX7_span_1 3 rfl rfl)
theorem dX7_span_28 : decode cX7_span 28 = .ok (.iconst 0, 1) := dk_3 (dk_at dksX7_span_1 6 rfl rfl)
theorem dX7_span_29 : decode cX7_span 29 = .ok (.ireturn, 1) := dk_172 (dk_at dksX7_span_1 7 rfl rfl)
theorem dX7_span_30 : decode cX7_span 30 = .ok (.aload_n 0, 1) := dk_42 (dk_at dksX7_span_1 8 rfl rfl)
theorem dX7_span_31 : decode cX7_span 31 = .ok (.invokevirtual 352, 3) := dk_182 1 96 (dk_at dksX7_span_1 9 rfl rfl)
theorem dX7_span_34 : decode cX7_span 34 = .ok (.iconst (-1), 1) := dk_2 (dk_at dksX7_span_1 12 rfl rfl)
theorem dX7_span_35 : decode cX7_span 35 = .ok (.istore_n 3, 1) := dk_62 (dk_at dksX7_span_1 13 rfl rfl)
theorem dX7_span_36 : decode cX7_span 36 = .ok (.iconst 1, 1) := dk_4 (dk_at dksX7_span_1 14 rfl rfl)
theorem dX7_span_37 : decode cX7_span 37 = .ok (.istore 4, 2) := dk_54 4 (dk_at dksX7_span_1 15 rfl rfl)
theorem dX7_span_39 : decode cX7_span 39 = .ok (.iload 4, 2) := dk_21 4 (dk_at dksX7_span_1 17 rfl rfl)
theorem dX7_span_41 : decode cX7_span 41 = .ok (.bipush 6, 2) := dk_16 6 (dk_at dksX7_span_1 19 rfl rfl)
theorem dX7_span_43 : decode cX7_span 43 = .ok (.if_icmp .gt 63, 3) := dk_163 0 63 (dk_at dksX7_span_1 21 rfl rfl)
theorem dX7_span_46 : decode cX7_span 46 = .ok (.aload_n 0, 1) := dk_42 (dk_at dksX7_span_2 0 rfl rfl)
theorem dX7_span_47 : decode cX7_span 47 = .ok (.getfield 13, 3) := dk_180 0 13 (dk_at dksX7_span_2 1 rfl rfl)
theorem dX7_span_50 : decode cX7_span 50 = .ok (.bipush 8, 2) := dk_16 8 (dk_at dksX7_span_2 4 rfl rfl)
theorem dX7_span_52 : decode cX7_span 52 = .ok (.iload 4, 2) := dk_21 4 (dk_at dksX7_span_2 6 rfl rfl)
theorem dX7_span_54 : decode cX7_span 54 = .ok (.iastore, 1) := dk_79 (dk_at dksX7_span_2 8 rfl rfl)
theorem dX7_span_55 : decode cX7_span 55 = .ok (.aload_n 0, 1) := dk_42 (dk_at dksX7_span_2 9 rfl rfl)
theorem dX7_span_56 : decode cX7_span 56 = .ok (.iload_n 1, 1) := dk_27 (dk_at dksX7_span_2 10 rfl rfl)
theorem dX7_span_57 : decode cX7_span 57 = .ok (.invokevirtual 336, 3) := dk_182 1 80 (dk_at dksX7_span_2 11 rfl rfl)
theorem dX7_span_60 : decode cX7_span 60 = .ok (.pop, 1) := dk_87 (dk_at dksX7_span_2 14 rfl rfl)
theorem dX7_span_61 : decode cX7_span 61 = .ok (.aload_n 0, 1) := dk_42 (dk_at dksX7_span_2 15 rfl rfl)
theorem dX7_span_62 : decode cX7_span 62 = .ok (.invokevirtual 419, 3) := dk_182 1 163 (dk_at dksX7_span_2 16 rfl rfl)
theorem dX7_span_65 : decode cX7_span 65 = .ok (.istore 5, 2) := dk_54 5 (dk_at dksX7_span_2 19 rfl rfl)
theorem dX7_span_67 : decode cX7_span 67 = .ok (.aload_n 0, 1) := dk_42 (dk_at dksX7_span_2 21 rfl rfl)
theorem dX7_span_68 : decode cX7_span 68 = .ok (.invokevirtual 359, 3) := dk_182 1 103 (dk_at dksX7_span_3 0 rfl rfl)
theorem dX7_span_71 : decode cX7_span 71 = .ok (.iload_n 3, 1) := dk_29 (dk_at dksX7_span_3 3 rfl rfl)
theorem dX7_span_72 : decode cX7_span 72 = .ok (.ifCond .ge 8, 3) := dk_156 0 8 (dk_at dksX7_span_3 4 rfl rfl)
theorem dX7_span_75 : decode cX7_span 75 = .ok (.iload 5, 2) := dk_21 5 (dk_at dksX7_span_3 7 rfl rfl)
theorem dX7_span_77 : decode cX7_span 77 = .ok (.goto 22, 3) := dk_167 0 22 (dk_at dksX7_span_3 9 rfl rfl)
theorem dX7_span_80 : decode cX7_span 80 = .ok (.iload_n 2, 1) := dk_28 (dk_at dksX7_span_3 12 rfl rfl)
theorem dX7_span_81 : decode cX7_span 81 = .ok (.ifCond .eq 12, 3) := dk_153 0 12 (dk_at dksX7_span_3 13 rfl rfl)
theorem dX7_span_84 : decode cX7_span 84 = .ok (.iload_n 3, 1) := dk_29 (dk_at dksX7_span_3 16 rfl rfl)
theorem dX7_span_85 : decode cX7_span 85 = .ok (.iload 5, 2) := dk_21 5 (dk_at dksX7_span_3 17 rfl rfl)
theorem dX7_span_87 : decode cX7_span 87 = .ok (.invokestatic 372, 3) := dk_184 1 116 (dk_at dksX7_span_3 19 rfl rfl)
theorem dX7_span_90 : decode cX7_span 90 = .ok (.goto 9, 3) := dk_167 0 9 (dk_at dksX7_span_4 0 rfl rfl)
theorem dX7_span_93 : decode cX7_span 93 = .ok (.iload_n 3, 1) := dk_29 (dk_at dksX7_span_4 3 rfl rfl)
theorem dX7_span_94 : decode cX7_span 94 = .ok (.iload 5, 2) := dk_21 5 (dk_at dksX7_span_4 4 rfl rfl)
theorem dX7_span_96 : decode cX7_span 96 = .ok (.invokestatic 266, 3) := dk_184 1 10 (dk_at dksX7_span_4 6 rfl rfl)
theorem dX7_span_99 : decode cX7_span 99 = .ok (.istore_n 3, 1) := dk_62 (dk_at dksX7_span_4 9 rfl rfl)
theorem dX7_span_100 : decode cX7_span 100 = .ok (.iinc 4 1, 3) := dk_132 4 1 (dk_at dksX7_span_4 10 rfl rfl)
theorem dX7_span_103 : decode cX7_span 103 = .ok (.goto (-64), 3) := dk_167 255 192 (dk_at dksX7_span_4 13 rfl rfl)
theorem dX7_span_106 : decode cX7_span 106 = .ok (.iload_n 3, 1) := dk_29 (dk_at dksX7_span_4 16 rfl rfl)
theorem dX7_span_107 : decode cX7_span 107 = .ok (.ireturn, 1) := dk_172 (dk_at dksX7_span_4 17 rfl rfl)
abbrev cX7_led : ByteArray := prog_18_method_131_code
def yX7_led : MethodName := ⟨RX7, "led", "(IZ)I"⟩
def dkwX7_led_3 : List UInt8 := [132, 5, 255, 167, 255, 222, 28, 153, 0, 8, 21, 4, 167, 0, 4, 29, 172]
abbrev dktX7_led_3 : List UInt8 := dkwX7_led_3 ++ []
def dkwX7_led_2 : List UInt8 := [182, 1, 133, 27, 159, 0, 6, 167, 0, 15, 132, 3, 1, 42, 21, 5, 3, 182, 1, 133, 54, 4]
abbrev dktX7_led_2 : List UInt8 := dkwX7_led_2 ++ dktX7_led_3
def dkwX7_led_1 : List UInt8 := [54, 4, 42, 180, 0, 13, 16, 7, 46, 4, 100, 54, 5, 21, 5, 155, 0, 35, 42, 21, 5, 4]
abbrev dktX7_led_1 : List UInt8 := dkwX7_led_1 ++ dktX7_led_2
def dkwX7_led_0 : List UInt8 := [42, 3, 181, 0, 3, 42, 42, 27, 182, 1, 19, 4, 182, 0, 241, 153, 0, 5, 3, 172, 3, 62, 2]
abbrev dktX7_led_0 : List UInt8 := dkwX7_led_0 ++ dktX7_led_1
theorem dksX7_led_0 : cX7_led.data.toList.drop 0 = dktX7_led_0 := by decide +kernel
theorem dksX7_led_1 : cX7_led.data.toList.drop 23 = dktX7_led_1 := dk_seg dksX7_led_0 23 rfl rfl
theorem dksX7_led_2 : cX7_led.data.toList.drop 45 = dktX7_led_2 := dk_seg dksX7_led_1 22 rfl rfl
theorem dksX7_led_3 : cX7_led.data.toList.drop 67 = dktX7_led_3 := dk_seg dksX7_led_2 22 rfl rfl
theorem dX7_led_0 : decode cX7_led 0 = .ok (.aload_n 0, 1) := dk_42 (dk_at dksX7_led_0 0 rfl rfl)
theorem dX7_led_1 : decode cX7_led 1 = .ok (.iconst 0, 1) := dk_3 (dk_at dksX7_led_0 1 rfl rfl)
theorem dX7_led_2 : decode cX7_led 2 = .ok (.putfield 3, 3) := dk_181 0 3 (dk_at dksX7_led_0 2 rfl rfl)
theorem dX7_led_5 : decode cX7_led 5 = .ok (.aload_n 0, 1) := dk_42 (dk_at dksX7_led_0 5 rfl rfl)
theorem dX7_led_6 : decode cX7_led 6 = .ok (.aload_n 0, 1) := dk_42 (dk_at dksX7_led_0 6 rfl rfl)
theorem dX7_led_7 : decode cX7_led 7 = .ok (.iload_n 1, 1) := dk_27 (dk_at dksX7_led_0 7 rfl rfl)
theorem dX7_led_8 : decode cX7_led 8 = .ok (.invokevirtual 275, 3) := dk_182 1 19 (dk_at dksX7_led_0 8 rfl rfl)
theorem dX7_led_11 : decode cX7_led 11 = .ok (.iconst 1, 1) := dk_4 (dk_at dksX7_led_0 11 rfl rfl)
theorem dX7_led_12 : decode cX7_led 12 = .ok (.invokevirtual 241, 3) := dk_182 0 241 (dk_at dksX7_led_0 12 rfl rfl)
theorem dX7_led_15 : decode cX7_led 15 = .ok (.ifCond .eq 5, 3) := dk_153 0 5 (dk_at dksX7_led_0 15 rfl rfl)
theorem dX7_led_18 : decode cX7_led 18 = .ok (.iconst 0, 1) := dk_3 (dk_at dksX7_led_0 18 rfl rfl)
theorem dX7_led_19 : decode cX7_led 19 = .ok (.ireturn, 1) := dk_172 (dk_at dksX7_led_0 19 rfl rfl)
theorem dX7_led_20 : decode cX7_led 20 = .ok (.iconst 0, 1) := dk_3 (dk_at dksX7_led_0 20 rfl rfl)
theorem dX7_led_21 : decode cX7_led 21 = .ok (.istore_n 3, 1) := dk_62 (dk_at dksX7_led_0 21 rfl rfl)
theorem dX7_led_22 : decode cX7_led 22 = .ok (.iconst (-1), 1) := dk_2 (dk_at dksX7_led_0 22 rfl rfl)
theorem dX7_led_23 : decode cX7_led 23 = .ok (.istore 4, 2) := dk_54 4 (dk_at dksX7_led_1 0 rfl rfl)
theorem dX7_led_25 : decode cX7_led 25 = .ok (.aload_n 0, 1) := dk_42 (dk_at dksX7_led_1 2 rfl rfl)
theorem dX7_led_26 : decode cX7_led 26 = .ok (.getfield 13, 3) := dk_180 0 13 (dk_at dksX7_led_1 3 rfl rfl)
theorem dX7_led_29 : decode cX7_led 29 = .ok (.bipush 7, 2) := dk_16 7 (dk_at dksX7_led_1 6 rfl rfl)
theorem dX7_led_31 : decode cX7_led 31 = .ok (.iaload, 1) := dk_46 (dk_at dksX7_led_1 8 rfl rfl)
theorem dX7_led_32 : decode cX7_led 32 = .ok (.iconst 1, 1) := dk_4 (dk_at dksX7_led_1 9 rfl rfl)
theorem dX7_led_33 : decode cX7_led 33 = .ok (.isub, 1) := dk_100 (dk_at dksX7_led_1 10 rfl rfl)
theorem dX7_led_34 : decode cX7_led 34 = .ok (.istore 5, 2) := dk_54 5 (dk_at dksX7_led_1 11 rfl rfl)
theorem dX7_led_36 : decode cX7_led 36 = .ok (.iload 5, 2) := dk_21 5 (dk_at dksX7_led_1 13 rfl rfl)
theorem dX7_led_38 : decode cX7_led 38 = .ok (.ifCond .lt 35, 3) := dk_155 0 35 (dk_at dksX7_led_1 15 rfl rfl)
theorem dX7_led_41 : decode cX7_led 41 = .ok (.aload_n 0, 1) := dk_42 (dk_at dksX7_led_1 18 rfl rfl)
theorem dX7_led_42 : decode cX7_led 42 = .ok (.iload 5, 2) := dk_21 5 (dk_at dksX7_led_1 19 rfl rfl)
theorem dX7_led_44 : decode cX7_led 44 = .ok (.iconst 1, 1) := dk_4 (dk_at dksX7_led_1 21 rfl rfl)
theorem dX7_led_45 : decode cX7_led 45 = .ok (.invokevirtual 389, 3) := dk_182 1 133 (dk_at dksX7_led_2 0 rfl rfl)
theorem dX7_led_48 : decode cX7_led 48 = .ok (.iload_n 1, 1) := dk_27 (dk_at dksX7_led_2 3 rfl rfl)
theorem dX7_led_49 : decode cX7_led 49 = .ok (.if_icmp .eq 6, 3) := dk_159 0 6 (dk_at dksX7_led_2 4 rfl rfl)
theorem dX7_led_52 : decode cX7_led 52 = .ok (.goto 15, 3) := dk_167 0 15 (dk_at dksX7_led_2 7 rfl rfl)
theorem dX7_led_55 : decode cX7_led 55 = .ok (.iinc 3 1, 3) := dk_132 3 1 (dk_at dksX7_led_2 10 rfl rfl)
theorem dX7_led_58 : decode cX7_led 58 = .ok (.aload_n 0, 1) := dk_42 (dk_at dksX7_led_2 13 rfl rfl)
theorem dX7_led_59 : decode cX7_led 59 = .ok (.iload 5, 2) := dk_21 5 (dk_at dksX7_led_2 14 rfl rfl)
theorem dX7_led_61 : decode cX7_led 61 = .ok (.iconst 0, 1) := dk_3 (dk_at dksX7_led_2 16 rfl rfl)
theorem dX7_led_62 : decode cX7_led 62 = .ok (.invokevirtual 389, 3) := dk_182 1 133 (dk_at dksX7_led_2 17 rfl rfl)
theorem dX7_led_65 : decode cX7_led 65 = .ok (.istore 4, 2) := dk_54 4 (dk_at dksX7_led_2 20 rfl rfl)
theorem dX7_led_67 : decode cX7_led 67 = .ok (.iinc 5 (-1), 3) := dk_132 5 255 (dk_at dksX7_led_3 0 rfl rfl)
theorem dX7_led_70 : decode cX7_led 70 = .ok (.goto (-34), 3) := dk_167 255 222 (dk_at dksX7_led_3 3 rfl rfl)
theorem dX7_led_73 : decode cX7_led 73 = .ok (.iload_n 2, 1) := dk_28 (dk_at dksX7_led_3 6 rfl rfl)
theorem dX7_led_74 : decode cX7_led 74 = .ok (.ifCond .eq 8, 3) := dk_153 0 8 (dk_at dksX7_led_3 7 rfl rfl)
theorem dX7_led_77 : decode cX7_led 77 = .ok (.iload 4, 2) := dk_21 4 (dk_at dksX7_led_3 10 rfl rfl)
theorem dX7_led_79 : decode cX7_led 79 = .ok (.goto 4, 3) := dk_167 0 4 (dk_at dksX7_led_3 12 rfl rfl)
theorem dX7_led_82 : decode cX7_led 82 = .ok (.iload_n 3, 1) := dk_29 (dk_at dksX7_led_3 15 rfl rfl)
theorem dX7_led_83 : decode cX7_led 83 = .ok (.ireturn, 1) := dk_172 (dk_at dksX7_led_3 16 rfl rfl)
abbrev cX7_log : ByteArray := prog_18_method_132_code
def yX7_log : MethodName := ⟨RX7, "log", "(II)I"⟩
def dkwX7_log_2 : List UInt8 := [28, 182, 1, 133, 167, 0, 6, 17, 252, 24, 172]
abbrev dktX7_log_2 : List UInt8 := dkwX7_log_2 ++ []
def dkwX7_log_1 : List UInt8 := [153, 0, 5, 3, 172, 27, 3, 42, 180, 0, 13, 16, 7, 46, 4, 100, 184, 0, 78, 153, 0, 12, 42, 27]
abbrev dktX7_log_1 : List UInt8 := dkwX7_log_1 ++ dktX7_log_2
def dkwX7_log_0 : List UInt8 := [42, 3, 181, 0, 3, 42, 28, 3, 6, 184, 0, 78, 154, 0, 7, 4, 167, 0, 4, 3, 4, 182, 0, 241]
abbrev dktX7_log_0 : List UInt8 := dkwX7_log_0 ++ dktX7_log_1
theorem dksX7_log_0 : cX7_log.data.toList.drop 0 = dktX7_log_0 := by decide +kernel
theorem dksX7_log_1 : cX7_log.data.toList.drop 24 = dktX7_log_1 := dk_seg dksX7_log_0 24 rfl rfl
theorem dksX7_log_2 : cX7_log.data.toList.drop 48 = dktX7_log_2 := dk_seg dksX7_log_1 24 rfl rfl
theorem dX7_log_0 : decode cX7_log 0 = .ok (.aload_n 0, 1) := dk_42 (dk_at dksX7_log_0 0 rfl rfl)
theorem dX7_log_1 : decode cX7_log 1 = .ok (.iconst 0, 1) := dk_3 (dk_at dksX7_log_0 1 rfl rfl)
theorem dX7_log_2 : decode cX7_log 2 = .ok (.putfield 3, 3) := dk_181 0 3 (dk_at dksX7_log_0 2 rfl rfl)
theorem dX7_log_5 : decode cX7_log 5 = .ok (.aload_n 0, 1) := dk_42 (dk_at dksX7_log_0 5 rfl rfl)
theorem dX7_log_6 : decode cX7_log 6 = .ok (.iload_n 2, 1) := dk_28 (dk_at dksX7_log_0 6 rfl rfl)
theorem dX7_log_7 : decode cX7_log 7 = .ok (.iconst 0, 1) := dk_3 (dk_at dksX7_log_0 7 rfl rfl)
theorem dX7_log_8 : decode cX7_log 8 = .ok (.iconst 3, 1) := dk_6 (dk_at dksX7_log_0 8 rfl rfl)
theorem dX7_log_9 : decode cX7_log 9 = .ok (.invokestatic 78, 3) := dk_184 0 78 (dk_at dksX7_log_0 9 rfl rfl)
theorem dX7_log_12 : decode cX7_log 12 = .ok (.ifCond .ne 7, 3) := dk_154 0 7 (dk_at dksX7_log_0 12 rfl rfl)
theorem dX7_log_15 : decode cX7_log 15 = .ok (.iconst 1, 1) := dk_4 (dk_at dksX7_log_0 15 rfl rfl)
theorem dX7_log_16 : decode cX7_log 16 = .ok (.goto 4, 3) := dk_167 0 4 (dk_at dksX7_log_0 16 rfl rfl)
theorem dX7_log_19 : decode cX7_log 19 = .ok (.iconst 0, 1) := dk_3 (dk_at dksX7_log_0 19 rfl rfl)
theorem dX7_log_20 : decode cX7_log 20 = .ok (.iconst 1, 1) := dk_4 (dk_at dksX7_log_0 20 rfl rfl)
theorem dX7_log_21 : decode cX7_log 21 = .ok (.invokevirtual 241, 3) := dk_182 0 241 (dk_at dksX7_log_0 21 rfl rfl)
theorem dX7_log_24 : decode cX7_log 24 = .ok (.ifCond .eq 5, 3) := dk_153 0 5 (dk_at dksX7_log_1 0 rfl rfl)
theorem dX7_log_27 : decode cX7_log 27 = .ok (.iconst 0, 1) := dk_3 (dk_at dksX7_log_1 3 rfl rfl)
theorem dX7_log_28 : decode cX7_log 28 = .ok (.ireturn, 1) := dk_172 (dk_at dksX7_log_1 4 rfl rfl)
theorem dX7_log_29 : decode cX7_log 29 = .ok (.iload_n 1, 1) := dk_27 (dk_at dksX7_log_1 5 rfl rfl)
theorem dX7_log_30 : decode cX7_log 30 = .ok (.iconst 0, 1) := dk_3 (dk_at dksX7_log_1 6 rfl rfl)
theorem dX7_log_31 : decode cX7_log 31 = .ok (.aload_n 0, 1) := dk_42 (dk_at dksX7_log_1 7 rfl rfl)
theorem dX7_log_32 : decode cX7_log 32 = .ok (.getfield 13, 3) := dk_180 0 13 (dk_at dksX7_log_1 8 rfl rfl)
theorem dX7_log_35 : decode cX7_log 35 = .ok (.bipush 7, 2) := dk_16 7 (dk_at dksX7_log_1 11 rfl rfl)
theorem dX7_log_37 : decode cX7_log 37 = .ok (.iaload, 1) := dk_46 (dk_at dksX7_log_1 13 rfl rfl)
theorem dX7_log_38 : decode cX7_log 38 = .ok (.iconst 1, 1) := dk_4 (dk_at dksX7_log_1 14 rfl rfl)
theorem dX7_log_39 : decode cX7_log 39 = .ok (.isub, 1) := dk_100 (dk_at dksX7_log_1 15 rfl rfl)
theorem dX7_log_40 : decode cX7_log 40 = .ok (.invokestatic 78, 3) := dk_184 0 78 (dk_at dksX7_log_1 16 rfl rfl)
theorem dX7_log_43 : decode cX7_log 43 = .ok (.ifCond .eq 12, 3) := dk_153 0 12 (dk_at dksX7_log_1 19 rfl rfl)
theorem dX7_log_46 : decode cX7_log 46 = .ok (.aload_n 0, 1) := dk_42 (dk_at dksX7_log_1 22 rfl rfl)
theorem dX7_log_47 : decode cX7_log 47 = .ok (.iload_n 1, 1) := dk_27 (dk_at dksX7_log_1 23 rfl rfl)
theorem dX7_log_48 : decode cX7_log 48 = .ok (.iload_n 2, 1) := dk_28 (dk_at dksX7_log_2 0 rfl rfl)
theorem dX7_log_49 : decode cX7_log 49 = .ok (.invokevirtual 389, 3) := dk_182 1 133 (dk_at dksX7_log_2 1 rfl rfl)
theorem dX7_log_52 : decode cX7_log 52 = .ok (.goto 6, 3) := dk_167 0 6 (dk_at dksX7_log_2 4 rfl rfl)
theorem dX7_log_55 : decode cX7_log 55 = .ok (.sipush (-1000), 3) := dk_17 252 24 (dk_at dksX7_log_2 7 rfl rfl)
theorem dX7_log_58 : decode cX7_log 58 = .ok (.ireturn, 1) := dk_172 (dk_at dksX7_log_2 10 rfl rfl)
abbrev cX7_seed : ByteArray := prog_18_method_133_code
def yX7_seed : MethodName := ⟨RX7, "seed", "(I)I"⟩
def dkwX7_seed_0 : List UInt8 := [42, 3, 181, 0, 3, 42, 180, 0, 13, 16, 8, 46, 61, 42, 180, 0, 13, 16, 8, 27, 79, 28, 172]
abbrev dktX7_seed_0 : List UInt8 := dkwX7_seed_0 ++ []
theorem dksX7_seed_0 : cX7_seed.data.toList.drop 0 = dktX7_seed_0 := by decide +kernel
theorem dX7_seed_0 : decode cX7_seed 0 = .ok (.aload_n 0, 1) := dk_42 (dk_at dksX7_seed_0 0 rfl rfl)
theorem dX7_seed_1 : decode cX7_seed 1 = .ok (.iconst 0, 1) := dk_3 (dk_at dksX7_seed_0 1 rfl rfl)
theorem dX7_seed_2 : decode cX7_seed 2 = .ok (.putfield 3, 3) := dk_181 0 3 (dk_at dksX7_seed_0 2 rfl rfl)
theorem dX7_seed_5 : decode cX7_seed 5 = .ok (.aload_n 0, 1) := dk_42 (dk_at dksX7_seed_0 5 rfl rfl)
theorem dX7_seed_6 : decode cX7_seed 6 = .ok (.getfield 13, 3) := dk_180 0 13 (dk_at dksX7_seed_0 6 rfl rfl)
theorem dX7_seed_9 : decode cX7_seed 9 = .ok (.bipush 8, 2) := dk_16 8 (dk_at dksX7_seed_0 9 rfl rfl)
theorem dX7_seed_11 : decode cX7_seed 11 = .ok (.iaload, 1) := dk_46 (dk_at dksX7_seed_0 11 rfl rfl)
theorem dX7_seed_12 : decode cX7_seed 12 = .ok (.istore_n 2, 1) := dk_61 (dk_at dksX7_seed_0 12 rfl rfl)
theorem dX7_seed_13 : decode cX7_seed 13 = .ok (.aload_n 0, 1) := dk_42 (dk_at dksX7_seed_0 13 rfl rfl)
theorem dX7_seed_14 : decode cX7_seed 14 = .ok (.getfield 13, 3) := dk_180 0 13 (dk_at dksX7_seed_0 14 rfl rfl)
theorem dX7_seed_17 : decode cX7_seed 17 = .ok (.bipush 8, 2) := dk_16 8 (dk_at dksX7_seed_0 17 rfl rfl)
theorem dX7_seed_19 : decode cX7_seed 19 = .ok (.iload_n 1, 1) := dk_27 (dk_at dksX7_seed_0 19 rfl rfl)
theorem dX7_seed_20 : decode cX7_seed 20 = .ok (.iastore, 1) := dk_79 (dk_at dksX7_seed_0 20 rfl rfl)
theorem dX7_seed_21 : decode cX7_seed 21 = .ok (.iload_n 2, 1) := dk_28 (dk_at dksX7_seed_0 21 rfl rfl)
theorem dX7_seed_22 : decode cX7_seed 22 = .ok (.ireturn, 1) := dk_172 (dk_at dksX7_seed_0 22 rfl rfl)
abbrev cX7_count : ByteArray := prog_18_method_134_code
def yX7_count : MethodName := ⟨RX7, "count", "(I)I"⟩
def dkwX7_count_6 : List UInt8 := [16, 6, 184, 0, 78, 153, 0, 12, 42, 180, 0, 13, 27, 46, 167, 0, 4, 2, 172]
abbrev dktX7_count_6 : List UInt8 := dkwX7_count_6 ++ []
def dkwX7_count_5 : List UInt8 := [182, 1, 163, 172, 28, 172, 29, 172, 42, 180, 0, 13, 16, 7, 46, 172, 42, 180, 0, 58, 172, 27, 3]
abbrev dktX7_count_5 : List UInt8 := dkwX7_count_5 ++ dktX7_count_6
def dkwX7_count_4 : List UInt8 := [42, 180, 0, 13, 6, 46, 4, 160, 0, 14, 42, 180, 0, 13, 17, 1, 121, 46, 167, 0, 4, 2, 172, 42]
abbrev dktX7_count_4 : List UInt8 := dkwX7_count_4 ++ dktX7_count_5
def dkwX7_count_3 : List UInt8 := [170, 0, 0, 0, 0, 0, 96, 0, 0, 0, 3, 0, 0, 0, 11, 0, 0, 0, 51, 0, 0, 0, 96, 0, 0, 0, 96, 0, 0, 0, 96, 0, 0, 0, 74, 0, 0, 0, 79, 0, 0, 0, 81, 0, 0, 0, 83, 0, 0, 0, 91]
abbrev dktX7_count_3 : List UInt8 := dkwX7_count_3 ++ dktX7_count_4
def dkwX7_count_2 : List UInt8 := [162, 0, 23, 29, 42, 21, 4, 16, 6, 182, 0, 65, 21, 4, 120, 128, 62, 132, 4, 1, 167, 255, 230, 27]
abbrev dktX7_count_2 : List UInt8 := dkwX7_count_2 ++ dktX7_count_3
def dkwX7_count_1 : List UInt8 := [21, 4, 182, 1, 16, 96, 61, 132, 4, 1, 167, 255, 235, 3, 54, 4, 21, 4, 42, 182, 0, 74]
abbrev dktX7_count_1 : List UInt8 := dkwX7_count_1 ++ dktX7_count_2
def dkwX7_count_0 : List UInt8 := [42, 3, 181, 0, 3, 3, 61, 3, 62, 3, 54, 4, 21, 4, 42, 182, 0, 82, 162, 0, 18, 28, 42]
abbrev dktX7_count_0 : List UInt8 := dkwX7_count_0 ++ dktX7_count_1
theorem dksX7_count_0 : cX7_count.data.toList.drop 0 = dktX7_count_0 := by decide +kernel
theorem dksX7_count_1 : cX7_count.data.toList.drop 23 = dktX7_count_1 := dk_seg dksX7_count_0 23 rfl rfl
theorem dksX7_count_2 : cX7_count.data.toList.drop 45 = dktX7_count_2 := dk_seg dksX7_count_1 22 rfl rfl
theorem dksX7_count_3 : cX7_count.data.toList.drop 69 = dktX7_count_3 := dk_seg dksX7_count_2 24 rfl rfl
theorem dksX7_count_4 : cX7_count.data.toList.drop 120 = dktX7_count_4 := dk_seg dksX7_count_3 51 rfl rfl
theorem dksX7_count_5 : cX7_count.data.toList.drop 144 = dktX7_count_5 := dk_seg dksX7_count_4 24 rfl rfl
theorem dksX7_count_6 : cX7_count.data.toList.drop 167 = dktX7_count_6 := dk_seg dksX7_count_5 23 rfl rfl
theorem dX7_count_0 : decode cX7_count 0 = .ok (.aload_n 0, 1) := dk_42 (dk_at dksX7_count_0 0 rfl rfl)
theorem dX7_count_1 : decode cX7_count 1 = .ok (.iconst 0, 1) := dk_3 (dk_at dksX7_count_0 1 rfl rfl)
theorem dX7_count_2 : decode cX7_count 2 = .ok (.putfield 3, 3) := dk_181 0 3 (dk_at dksX7_count_0 2 rfl rfl)
theorem dX7_count_5 : decode cX7_count 5 = .ok (.iconst 0, 1) := dk_3 (dk_at dksX7_count_0 5 rfl rfl)
theorem dX7_count_6 : decode cX7_count 6 = .ok (.istore_n 2, 1) := dk_61 (dk_at dksX7_count_0 6 rfl rfl)
theorem dX7_count_7 : decode cX7_count 7 = .ok (.iconst 0, 1) := dk_3 (dk_at dksX7_count_0 7 rfl rfl)
theorem dX7_count_8 : decode cX7_count 8 = .ok (.istore_n 3, 1) := dk_62 (dk_at dksX7_count_0 8 rfl rfl)
theorem dX7_count_9 : decode cX7_count 9 = .ok (.iconst 0, 1) := dk_3 (dk_at dksX7_count_0 9 rfl rfl)
theorem dX7_count_10 : decode cX7_count 10 = .ok (.istore 4, 2) := dk_54 4 (dk_at dksX7_count_0 10 rfl rfl)
theorem dX7_count_12 : decode cX7_count 12 = .ok (.iload 4, 2) := dk_21 4 (dk_at dksX7_count_0 12 rfl rfl)
theorem dX7_count_14 : decode cX7_count 14 = .ok (.aload_n 0, 1) := dk_42 (dk_at dksX7_count_0 14 rfl rfl)
theorem dX7_count_15 : decode cX7_count 15 = .ok (.invokevirtual 82, 3) := dk_182 0 82 (dk_at dksX7_count_0 15 rfl rfl)
theorem dX7_count_18 : decode cX7_count 18 = .ok (.if_icmp .ge 18, 3) := dk_162 0 18 (dk_at dksX7_count_0 18 rfl rfl)
theorem dX7_count_21 : decode cX7_count 21 = .ok (.iload_n 2, 1) := dk_28 (dk_at dksX7_count_0 21 rfl rfl)
theorem dX7_count_22 : decode cX7_count 22 = .ok (.aload_n 0, 1) := dk_42 (dk_at dksX7_count_0 22 rfl rfl)
theorem dX7_count_23 : decode cX7_count 23 = .ok (.iload 4, 2) := dk_21 4 (dk_at dksX7_count_1 0 rfl rfl)
theorem dX7_count_25 : decode cX7_count 25 = .ok (.invokevirtual 272, 3) := dk_182 1 16 (dk_at dksX7_count_1 2 rfl rfl)
theorem dX7_count_28 : decode cX7_count 28 = .ok (.iadd, 1) := dk_96 (dk_at dksX7_count_1 5 rfl rfl)
theorem dX7_count_29 : decode cX7_count 29 = .ok (.istore_n 2, 1) := dk_61 (dk_at dksX7_count_1 6 rfl rfl)
theorem dX7_count_30 : decode cX7_count 30 = .ok (.iinc 4 1, 3) := dk_132 4 1 (dk_at dksX7_count_1 7 rfl rfl)
theorem dX7_count_33 : decode cX7_count 33 = .ok (.goto (-21), 3) := dk_167 255 235 (dk_at dksX7_count_1 10 rfl rfl)
theorem dX7_count_36 : decode cX7_count 36 = .ok (.iconst 0, 1) := dk_3 (dk_at dksX7_count_1 13 rfl rfl)
theorem dX7_count_37 : decode cX7_count 37 = .ok (.istore 4, 2) := dk_54 4 (dk_at dksX7_count_1 14 rfl rfl)
theorem dX7_count_39 : decode cX7_count 39 = .ok (.iload 4, 2) := dk_21 4 (dk_at dksX7_count_1 16 rfl rfl)
theorem dX7_count_41 : decode cX7_count 41 = .ok (.aload_n 0, 1) := dk_42 (dk_at dksX7_count_1 18 rfl rfl)
theorem dX7_count_42 : decode cX7_count 42 = .ok (.invokevirtual 74, 3) := dk_182 0 74 (dk_at dksX7_count_1 19 rfl rfl)
theorem dX7_count_45 : decode cX7_count 45 = .ok (.if_icmp .ge 23, 3) := dk_162 0 23 (dk_at dksX7_count_2 0 rfl rfl)
theorem dX7_count_48 : decode cX7_count 48 = .ok (.iload_n 3, 1) := dk_29 (dk_at dksX7_count_2 3 rfl rfl)
theorem dX7_count_49 : decode cX7_count 49 = .ok (.aload_n 0, 1) := dk_42 (dk_at dksX7_count_2 4 rfl rfl)
theorem dX7_count_50 : decode cX7_count 50 = .ok (.iload 4, 2) := dk_21 4 (dk_at dksX7_count_2 5 rfl rfl)
theorem dX7_count_52 : decode cX7_count 52 = .ok (.bipush 6, 2) := dk_16 6 (dk_at dksX7_count_2 7 rfl rfl)
theorem dX7_count_54 : decode cX7_count 54 = .ok (.invokevirtual 65, 3) := dk_182 0 65 (dk_at dksX7_count_2 9 rfl rfl)
theorem dX7_count_57 : decode cX7_count 57 = .ok (.iload 4, 2) := dk_21 4 (dk_at dksX7_count_2 12 rfl rfl)
theorem dX7_count_59 : decode cX7_count 59 = .ok (.ishl, 1) := dk_120 (dk_at dksX7_count_2 14 rfl rfl)
theorem dX7_count_60 : decode cX7_count 60 = .ok (.ior, 1) := dk_128 (dk_at dksX7_count_2 15 rfl rfl)
theorem dX7_count_61 : decode cX7_count 61 = .ok (.istore_n 3, 1) := dk_62 (dk_at dksX7_count_2 16 rfl rfl)
theorem dX7_count_62 : decode cX7_count 62 = .ok (.iinc 4 1, 3) := dk_132 4 1 (dk_at dksX7_count_2 17 rfl rfl)
theorem dX7_count_65 : decode cX7_count 65 = .ok (.goto (-26), 3) := dk_167 255 230 (dk_at dksX7_count_2 20 rfl rfl)
theorem dX7_count_68 : decode cX7_count 68 = .ok (.iload_n 1, 1) := dk_27 (dk_at dksX7_count_2 23 rfl rfl)
theorem dX7_count_69 : decode cX7_count 69 = .ok (.tableswitch 96 3 11 #[51, 96, 96, 96, 74, 79, 81, 83, 91], 51) := by decide +kernel
theorem dX7_count_120 : decode cX7_count 120 = .ok (.aload_n 0, 1) := dk_42 (dk_at dksX7_count_4 0 rfl rfl)
theorem dX7_count_121 : decode cX7_count 121 = .ok (.getfield 13, 3) := dk_180 0 13 (dk_at dksX7_count_4 1 rfl rfl)
theorem dX7_count_124 : decode cX7_count 124 = .ok (.iconst 3, 1) := dk_6 (dk_at dksX7_count_4 4 rfl rfl)
theorem dX7_count_125 : decode cX7_count 125 = .ok (.iaload, 1) := dk_46 (dk_at dksX7_count_4 5 rfl rfl)
theorem dX7_count_126 : decode cX7_count 126 = .ok (.iconst 1, 1) := dk_4 (dk_at dksX7_count_4 6 rfl rfl)
theorem dX7_count_127 : decode cX7_count 127 = .ok (.if_icmp .ne 14, 3) := dk_160 0 14 (dk_at dksX7_count_4 7 rfl rfl)
theorem dX7_count_130 : decode cX7_count 130 = .ok (.aload_n 0, 1) := dk_42 (dk_at dksX7_count_4 10 rfl rfl)
theorem dX7_count_131 : decode cX7_count 131 = .ok (.getfield 13, 3) := dk_180 0 13 (dk_at dksX7_count_4 11 rfl rfl)
theorem dX7_count_134 : decode cX7_count 134 = .ok (.sipush 377, 3) := dk_17 1 121 (dk_at dksX7_count_4 14 rfl rfl)
theorem dX7_count_137 : decode cX7_count 137 = .ok (.iaload, 1) := dk_46 (dk_at dksX7_count_4 17 rfl rfl)
theorem dX7_count_138 : decode cX7_count 138 = .ok (.goto 4, 3) := dk_167 0 4 (dk_at dksX7_count_4 18 rfl rfl)
theorem dX7_count_141 : decode cX7_count 141 = .ok (.iconst (-1), 1) := dk_2 (dk_at dksX7_count_4 21 rfl rfl)
theorem dX7_count_142 : decode cX7_count 142 = .ok (.ireturn, 1) := dk_172 (dk_at dksX7_count_4 22 rfl rfl)
theorem dX7_count_143 : decode cX7_count 143 = .ok (.aload_n 0, 1) := dk_42 (dk_at dksX7_count_4 23 rfl rfl)
theorem dX7_count_144 : decode cX7_count 144 = .ok (.invokevirtual 419, 3) := dk_182 1 163 (dk_at dksX7_count_5 0 rfl rfl)
theorem dX7_count_147 : decode cX7_count 147 = .ok (.ireturn, 1) := dk_172 (dk_at dksX7_count_5 3 rfl rfl)
theorem dX7_count_148 : decode cX7_count 148 = .ok (.iload_n 2, 1) := dk_28 (dk_at dksX7_count_5 4 rfl rfl)
theorem dX7_count_149 : decode cX7_count 149 = .ok (.ireturn, 1) := dk_172 (dk_at dksX7_count_5 5 rfl rfl)
theorem dX7_count_150 : decode cX7_count 150 = .ok (.iload_n 3, 1) := dk_29 (dk_at dksX7_count_5 6 rfl rfl)
theorem dX7_count_151 : decode cX7_count 151 = .ok (.ireturn, 1) := dk_172 (dk_at dksX7_count_5 7 rfl rfl)
theorem dX7_count_152 : decode cX7_count 152 = .ok (.aload_n 0, 1) := dk_42 (dk_at dksX7_count_5 8 rfl rfl)
theorem dX7_count_153 : decode cX7_count 153 = .ok (.getfield 13, 3) := dk_180 0 13 (dk_at dksX7_count_5 9 rfl rfl)
theorem dX7_count_156 : decode cX7_count 156 = .ok (.bipush 7, 2) := dk_16 7 (dk_at dksX7_count_5 12 rfl rfl)
theorem dX7_count_158 : decode cX7_count 158 = .ok (.iaload, 1) := dk_46 (dk_at dksX7_count_5 14 rfl rfl)
theorem dX7_count_159 : decode cX7_count 159 = .ok (.ireturn, 1) := dk_172 (dk_at dksX7_count_5 15 rfl rfl)
theorem dX7_count_160 : decode cX7_count 160 = .ok (.aload_n 0, 1) := dk_42 (dk_at dksX7_count_5 16 rfl rfl)
theorem dX7_count_161 : decode cX7_count 161 = .ok (.getfield 58, 3) := dk_180 0 58 (dk_at dksX7_count_5 17 rfl rfl)
theorem dX7_count_164 : decode cX7_count 164 = .ok (.ireturn, 1) := dk_172 (dk_at dksX7_count_5 20 rfl rfl)
theorem dX7_count_165 : decode cX7_count 165 = .ok (.iload_n 1, 1) := dk_27 (dk_at dksX7_count_5 21 rfl rfl)
theorem dX7_count_166 : decode cX7_count 166 = .ok (.iconst 0, 1) := dk_3 (dk_at dksX7_count_5 22 rfl rfl)
theorem dX7_count_167 : decode cX7_count 167 = .ok (.bipush 6, 2) := dk_16 6 (dk_at dksX7_count_6 0 rfl rfl)
theorem dX7_count_169 : decode cX7_count 169 = .ok (.invokestatic 78, 3) := dk_184 0 78 (dk_at dksX7_count_6 2 rfl rfl)
theorem dX7_count_172 : decode cX7_count 172 = .ok (.ifCond .eq 12, 3) := dk_153 0 12 (dk_at dksX7_count_6 5 rfl rfl)
theorem dX7_count_175 : decode cX7_count 175 = .ok (.aload_n 0, 1) := dk_42 (dk_at dksX7_count_6 8 rfl rfl)
theorem dX7_count_176 : decode cX7_count 176 = .ok (.getfield 13, 3) := dk_180 0 13 (dk_at dksX7_count_6 9 rfl rfl)
theorem dX7_count_179 : decode cX7_count 179 = .ok (.iload_n 1, 1) := dk_27 (dk_at dksX7_count_6 12 rfl rfl)
theorem dX7_count_180 : decode cX7_count 180 = .ok (.iaload, 1) := dk_46 (dk_at dksX7_count_6 13 rfl rfl)
theorem dX7_count_181 : decode cX7_count 181 = .ok (.goto 4, 3) := dk_167 0 4 (dk_at dksX7_count_6 14 rfl rfl)
theorem dX7_count_184 : decode cX7_count 184 = .ok (.iconst (-1), 1) := dk_2 (dk_at dksX7_count_6 17 rfl rfl)
theorem dX7_count_185 : decode cX7_count 185 = .ok (.ireturn, 1) := dk_172 (dk_at dksX7_count_6 18 rfl rfl)
theorem q131 : (Jvm.Cond.initialized "BorrowedLuckModel") ∈ lw_all := lw_g (lw_at lw_m1 10 rfl) rfl
theorem q1455 : (Jvm.Cond.instanceMethod ({ cls := "BorrowedLuckModel", name := "thrown", desc := "()I" } : Jvm.MethodName)) ∈ lw_all := lw_g (lw_at lw_m6 134 rfl) rfl
theorem q1456 : (Jvm.Cond.selects "BorrowedLuckModel" ({ cls := "BorrowedLuckModel", name := "thrown", desc := "()I" } : Jvm.MethodName) ({ cls := "BorrowedLuckModel", name := "thrown", desc := "()I" } : Jvm.MethodName)) ∈ lw_all := lw_g (lw_at lw_m6 135 rfl) rfl
theorem q1457 : (Jvm.Cond.code ({ cls := "BorrowedLuckModel", name := "thrown", desc := "()I" } : Jvm.MethodName) prog_18_method_1_code (1 : Nat) (Option.some Jvm.ClassFile.FieldType.int)) ∈ lw_all := lw_g (lw_at lw_m6 136 rfl) rfl
theorem q1459 : (Jvm.Cond.instantiable "BorrowedLuckModel" (23 : Nat)) ∈ lw_all := lw_g (lw_at lw_m6 138 rfl) rfl
theorem q1461 : (Jvm.Cond.instanceMethod ({ cls := "BorrowedLuckModel", name := "<init>", desc := "()V" } : Jvm.MethodName)) ∈ lw_all := lw_g (lw_at lw_m6 140 rfl) rfl
theorem q1462 : (Jvm.Cond.code ({ cls := "BorrowedLuckModel", name := "<init>", desc := "()V" } : Jvm.MethodName) prog_18_method_5_code (1 : Nat) (Option.none : Option Jvm.ClassFile.FieldType)) ∈ lw_all := lw_g (lw_at lw_m6 141 rfl) rfl
theorem q1463 : (Jvm.Cond.methodLink "BorrowedLuckModel" (7 : Nat) ({ cls := "java/lang/Object", name := "<init>", desc := "()V" } : Jvm.MethodName)) ∈ lw_all := lw_g (lw_at lw_m6 142 rfl) rfl
theorem q1464 : (Jvm.Cond.fieldLink "BorrowedLuckModel" (3 : Nat) "BorrowedLuckModel" "thrown" "I") ∈ lw_all := lw_g (lw_at lw_m6 143 rfl) rfl
theorem q1465 : (Jvm.Cond.fieldLink "BorrowedLuckModel" (13 : Nat) "BorrowedLuckModel" "world" "[I") ∈ lw_all := lw_g (lw_at lw_m6 144 rfl) rfl
theorem q1466 : (Jvm.Cond.fieldLink "BorrowedLuckModel" (17 : Nat) "BorrowedLuckModel" "image" "[I") ∈ lw_all := lw_g (lw_at lw_m6 145 rfl) rfl
theorem q1467 : (Jvm.Cond.fieldLink "BorrowedLuckModel" (20 : Nat) "BorrowedLuckModel" "before" "[I") ∈ lw_all := lw_g (lw_at lw_m6 146 rfl) rfl
theorem q1468 : (Jvm.Cond.fieldLink "BorrowedLuckModel" (23 : Nat) "BorrowedLuckModel" "trial" "[I") ∈ lw_all := lw_g (lw_at lw_m6 147 rfl) rfl
theorem q1469 : (Jvm.Cond.fieldLink "BorrowedLuckModel" (26 : Nat) "BorrowedLuckModel" "acts" "[I") ∈ lw_all := lw_g (lw_at lw_m6 148 rfl) rfl
theorem q1470 : (Jvm.Cond.fieldLink "BorrowedLuckModel" (54 : Nat) "BorrowedLuckModel" "hasImage" "Z") ∈ lw_all := lw_g (lw_at lw_m6 149 rfl) rfl
theorem q1471 : (Jvm.Cond.fieldLink "BorrowedLuckModel" (58 : Nat) "BorrowedLuckModel" "remembered" "I") ∈ lw_all := lw_g (lw_at lw_m6 150 rfl) rfl
theorem q1472 : (Jvm.Cond.fieldLink "BorrowedLuckModel" (29 : Nat) "BorrowedLuckModel" "tape" "[B") ∈ lw_all := lw_g (lw_at lw_m6 151 rfl) rfl
theorem q1473 : (Jvm.Cond.fieldLink "BorrowedLuckModel" (86 : Nat) "BorrowedLuckModel" "taped" "I") ∈ lw_all := lw_g (lw_at lw_m6 152 rfl) rfl
theorem q1474 : (Jvm.Cond.fieldLink "BorrowedLuckModel" (89 : Nat) "BorrowedLuckModel" "point" "I") ∈ lw_all := lw_g (lw_at lw_m6 153 rfl) rfl
theorem q1475 : (Jvm.Cond.fieldLink "BorrowedLuckModel" (92 : Nat) "BorrowedLuckModel" "end" "I") ∈ lw_all := lw_g (lw_at lw_m6 154 rfl) rfl
theorem q1476 : (Jvm.Cond.fieldLink "BorrowedLuckModel" (99 : Nat) "BorrowedLuckModel" "begin" "I") ∈ lw_all := lw_g (lw_at lw_m6 155 rfl) rfl
theorem q1477 : (Jvm.Cond.fieldLink "BorrowedLuckModel" (194 : Nat) "BorrowedLuckModel" "deep" "I") ∈ lw_all := lw_g (lw_at lw_m6 156 rfl) rfl
theorem q1478 : (Jvm.Cond.fieldLink "BorrowedLuckModel" (33 : Nat) "BorrowedLuckModel" "faultAt" "I") ∈ lw_all := lw_g (lw_at lw_m6 157 rfl) rfl
theorem q1479 : (Jvm.Cond.fieldLink "BorrowedLuckModel" (36 : Nat) "BorrowedLuckModel" "five" "[I") ∈ lw_all := lw_g (lw_at lw_m6 158 rfl) rfl
theorem q1480 : (Jvm.Cond.fieldLink "BorrowedLuckModel" (168 : Nat) "BorrowedLuckModel" "steps" "I") ∈ lw_all := lw_g (lw_at lw_m6 159 rfl) rfl
theorem q1481 : (Jvm.Cond.fieldLink "BorrowedLuckModel" (39 : Nat) "BorrowedLuckModel" "value" "[I") ∈ lw_all := lw_g (lw_at lw_m6 160 rfl) rfl
theorem q1482 : (Jvm.Cond.fieldLink "BorrowedLuckModel" (42 : Nat) "BorrowedLuckModel" "more" "[I") ∈ lw_all := lw_g (lw_at lw_m6 161 rfl) rfl
theorem q1483 : (Jvm.Cond.fieldLink "BorrowedLuckModel" (45 : Nat) "BorrowedLuckModel" "row" "[I") ∈ lw_all := lw_g (lw_at lw_m6 162 rfl) rfl
theorem q1484 : (Jvm.Cond.fieldLink "BorrowedLuckModel" (48 : Nat) "BorrowedLuckModel" "best" "[I") ∈ lw_all := lw_g (lw_at lw_m6 163 rfl) rfl
theorem q1485 : (Jvm.Cond.fieldLink "BorrowedLuckModel" (356 : Nat) "BorrowedLuckModel" "leastLuck" "I") ∈ lw_all := lw_g (lw_at lw_m6 164 rfl) rfl
theorem q1486 : (Jvm.Cond.fieldLink "BorrowedLuckModel" (51 : Nat) "BorrowedLuckModel" "together" "[I") ∈ lw_all := lw_g (lw_at lw_m6 165 rfl) rfl
theorem q1487 : (Jvm.Cond.lays "BorrowedLuckModel" "BorrowedLuckModel" "thrown" "I") ∈ lw_all := lw_g (lw_at lw_m6 166 rfl) rfl
theorem q1488 : (Jvm.Cond.soleField "BorrowedLuckModel" "thrown") ∈ lw_all := lw_g (lw_at lw_m6 167 rfl) rfl
theorem q1489 : (Jvm.Cond.laysFinal "BorrowedLuckModel" "BorrowedLuckModel" "world" "[I") ∈ lw_all := lw_g (lw_at lw_m6 168 rfl) rfl
theorem q1490 : (Jvm.Cond.soleField "BorrowedLuckModel" "world") ∈ lw_all := lw_g (lw_at lw_m6 169 rfl) rfl
theorem q1491 : (Jvm.Cond.laysFinal "BorrowedLuckModel" "BorrowedLuckModel" "image" "[I") ∈ lw_all := lw_g (lw_at lw_m6 170 rfl) rfl
theorem q1492 : (Jvm.Cond.soleField "BorrowedLuckModel" "image") ∈ lw_all := lw_g (lw_at lw_m6 171 rfl) rfl
theorem q1493 : (Jvm.Cond.laysFinal "BorrowedLuckModel" "BorrowedLuckModel" "before" "[I") ∈ lw_all := lw_g (lw_at lw_m6 172 rfl) rfl
theorem q1494 : (Jvm.Cond.soleField "BorrowedLuckModel" "before") ∈ lw_all := lw_g (lw_at lw_m6 173 rfl) rfl
theorem q1495 : (Jvm.Cond.laysFinal "BorrowedLuckModel" "BorrowedLuckModel" "trial" "[I") ∈ lw_all := lw_g (lw_at lw_m6 174 rfl) rfl
theorem q1496 : (Jvm.Cond.soleField "BorrowedLuckModel" "trial") ∈ lw_all := lw_g (lw_at lw_m6 175 rfl) rfl
theorem q1497 : (Jvm.Cond.laysFinal "BorrowedLuckModel" "BorrowedLuckModel" "acts" "[I") ∈ lw_all := lw_g (lw_at lw_m6 176 rfl) rfl
theorem q1498 : (Jvm.Cond.soleField "BorrowedLuckModel" "acts") ∈ lw_all := lw_g (lw_at lw_m6 177 rfl) rfl
theorem q1499 : (Jvm.Cond.lays "BorrowedLuckModel" "BorrowedLuckModel" "hasImage" "Z") ∈ lw_all := lw_g (lw_at lw_m6 178 rfl) rfl
theorem q1500 : (Jvm.Cond.soleField "BorrowedLuckModel" "hasImage") ∈ lw_all := lw_g (lw_at lw_m6 179 rfl) rfl
theorem q1501 : (Jvm.Cond.lays "BorrowedLuckModel" "BorrowedLuckModel" "remembered" "I") ∈ lw_all := lw_g (lw_at lw_m6 180 rfl) rfl
theorem q1502 : (Jvm.Cond.soleField "BorrowedLuckModel" "remembered") ∈ lw_all := lw_g (lw_at lw_m6 181 rfl) rfl
theorem q1503 : (Jvm.Cond.laysFinal "BorrowedLuckModel" "BorrowedLuckModel" "tape" "[B") ∈ lw_all := lw_g (lw_at lw_m6 182 rfl) rfl
theorem q1504 : (Jvm.Cond.soleField "BorrowedLuckModel" "tape") ∈ lw_all := lw_g (lw_at lw_m6 183 rfl) rfl
theorem q1505 : (Jvm.Cond.lays "BorrowedLuckModel" "BorrowedLuckModel" "taped" "I") ∈ lw_all := lw_g (lw_at lw_m6 184 rfl) rfl
theorem q1506 : (Jvm.Cond.soleField "BorrowedLuckModel" "taped") ∈ lw_all := lw_g (lw_at lw_m6 185 rfl) rfl
theorem q1507 : (Jvm.Cond.lays "BorrowedLuckModel" "BorrowedLuckModel" "point" "I") ∈ lw_all := lw_g (lw_at lw_m6 186 rfl) rfl
theorem q1508 : (Jvm.Cond.soleField "BorrowedLuckModel" "point") ∈ lw_all := lw_g (lw_at lw_m6 187 rfl) rfl
theorem q1509 : (Jvm.Cond.lays "BorrowedLuckModel" "BorrowedLuckModel" "end" "I") ∈ lw_all := lw_g (lw_at lw_m6 188 rfl) rfl
theorem q1510 : (Jvm.Cond.soleField "BorrowedLuckModel" "end") ∈ lw_all := lw_g (lw_at lw_m6 189 rfl) rfl
theorem q1511 : (Jvm.Cond.lays "BorrowedLuckModel" "BorrowedLuckModel" "begin" "I") ∈ lw_all := lw_g (lw_at lw_m6 190 rfl) rfl
theorem q1512 : (Jvm.Cond.soleField "BorrowedLuckModel" "begin") ∈ lw_all := lw_g (lw_at lw_m6 191 rfl) rfl
theorem q1513 : (Jvm.Cond.lays "BorrowedLuckModel" "BorrowedLuckModel" "deep" "I") ∈ lw_all := lw_g (lw_at lw_m6 192 rfl) rfl
theorem q1514 : (Jvm.Cond.soleField "BorrowedLuckModel" "deep") ∈ lw_all := lw_g (lw_at lw_m6 193 rfl) rfl
theorem q1515 : (Jvm.Cond.lays "BorrowedLuckModel" "BorrowedLuckModel" "faultAt" "I") ∈ lw_all := lw_g (lw_at lw_m6 194 rfl) rfl
theorem q1516 : (Jvm.Cond.soleField "BorrowedLuckModel" "faultAt") ∈ lw_all := lw_g (lw_at lw_m6 195 rfl) rfl
theorem q1517 : (Jvm.Cond.laysFinal "BorrowedLuckModel" "BorrowedLuckModel" "five" "[I") ∈ lw_all := lw_g (lw_at lw_m6 196 rfl) rfl
theorem q1518 : (Jvm.Cond.soleField "BorrowedLuckModel" "five") ∈ lw_all := lw_g (lw_at lw_m6 197 rfl) rfl
theorem q1519 : (Jvm.Cond.lays "BorrowedLuckModel" "BorrowedLuckModel" "steps" "I") ∈ lw_all := lw_g (lw_at lw_m6 198 rfl) rfl
theorem q1520 : (Jvm.Cond.soleField "BorrowedLuckModel" "steps") ∈ lw_all := lw_g (lw_at lw_m6 199 rfl) rfl
theorem q1521 : (Jvm.Cond.laysFinal "BorrowedLuckModel" "BorrowedLuckModel" "value" "[I") ∈ lw_all := lw_g (lw_at lw_m6 200 rfl) rfl
theorem q1522 : (Jvm.Cond.soleField "BorrowedLuckModel" "value") ∈ lw_all := lw_g (lw_at lw_m6 201 rfl) rfl
theorem q1523 : (Jvm.Cond.laysFinal "BorrowedLuckModel" "BorrowedLuckModel" "more" "[I") ∈ lw_all := lw_g (lw_at lw_m6 202 rfl) rfl
theorem q1524 : (Jvm.Cond.soleField "BorrowedLuckModel" "more") ∈ lw_all := lw_g (lw_at lw_m6 203 rfl) rfl
theorem q1525 : (Jvm.Cond.laysFinal "BorrowedLuckModel" "BorrowedLuckModel" "row" "[I") ∈ lw_all := lw_g (lw_at lw_m6 204 rfl) rfl
theorem q1526 : (Jvm.Cond.soleField "BorrowedLuckModel" "row") ∈ lw_all := lw_g (lw_at lw_m6 205 rfl) rfl
theorem q1527 : (Jvm.Cond.laysFinal "BorrowedLuckModel" "BorrowedLuckModel" "best" "[I") ∈ lw_all := lw_g (lw_at lw_m6 206 rfl) rfl
theorem q1528 : (Jvm.Cond.soleField "BorrowedLuckModel" "best") ∈ lw_all := lw_g (lw_at lw_m6 207 rfl) rfl
theorem q1529 : (Jvm.Cond.lays "BorrowedLuckModel" "BorrowedLuckModel" "leastLuck" "I") ∈ lw_all := lw_g (lw_at lw_m6 208 rfl) rfl
theorem q1530 : (Jvm.Cond.soleField "BorrowedLuckModel" "leastLuck") ∈ lw_all := lw_g (lw_at lw_m6 209 rfl) rfl
theorem q1531 : (Jvm.Cond.laysFinal "BorrowedLuckModel" "BorrowedLuckModel" "together" "[I") ∈ lw_all := lw_g (lw_at lw_m6 210 rfl) rfl
theorem q1532 : (Jvm.Cond.soleField "BorrowedLuckModel" "together") ∈ lw_all := lw_g (lw_at lw_m6 211 rfl) rfl
theorem q1533 : (Jvm.Cond.superclass "BorrowedLuckModel" "java/lang/Object") ∈ lw_all := lw_g (lw_at lw_m6 212 rfl) rfl
theorem q1535 : (Jvm.Cond.instanceMethod ({ cls := "BorrowedLuckModel", name := "image", desc := "()V" } : Jvm.MethodName)) ∈ lw_all := lw_g (lw_at lw_m6 214 rfl) rfl
theorem q1536 : (Jvm.Cond.selects "BorrowedLuckModel" ({ cls := "BorrowedLuckModel", name := "image", desc := "()V" } : Jvm.MethodName) ({ cls := "BorrowedLuckModel", name := "image", desc := "()V" } : Jvm.MethodName)) ∈ lw_all := lw_g (lw_at lw_m6 215 rfl) rfl
theorem q1537 : (Jvm.Cond.code ({ cls := "BorrowedLuckModel", name := "image", desc := "()V" } : Jvm.MethodName) prog_18_method_6_code (2 : Nat) (Option.none : Option Jvm.ClassFile.FieldType)) ∈ lw_all := lw_g (lw_at lw_m6 216 rfl) rfl
theorem q1539 : (Jvm.Cond.instanceMethod ({ cls := "BorrowedLuckModel", name := "back", desc := "()Z" } : Jvm.MethodName)) ∈ lw_all := lw_g (lw_at lw_m6 218 rfl) rfl
theorem q1540 : (Jvm.Cond.selects "BorrowedLuckModel" ({ cls := "BorrowedLuckModel", name := "back", desc := "()Z" } : Jvm.MethodName) ({ cls := "BorrowedLuckModel", name := "back", desc := "()Z" } : Jvm.MethodName)) ∈ lw_all := lw_g (lw_at lw_m6 219 rfl) rfl
theorem q1541 : (Jvm.Cond.code ({ cls := "BorrowedLuckModel", name := "back", desc := "()Z" } : Jvm.MethodName) prog_18_method_7_code (2 : Nat) (Option.some Jvm.ClassFile.FieldType.boolean)) ∈ lw_all := lw_g (lw_at lw_m6 220 rfl) rfl
theorem q1543 : (Jvm.Cond.instanceMethod ({ cls := "BorrowedLuckModel", name := "undo", desc := "()Z" } : Jvm.MethodName)) ∈ lw_all := lw_g (lw_at lw_m6 222 rfl) rfl
theorem q1544 : (Jvm.Cond.selects "BorrowedLuckModel" ({ cls := "BorrowedLuckModel", name := "undo", desc := "()Z" } : Jvm.MethodName) ({ cls := "BorrowedLuckModel", name := "undo", desc := "()Z" } : Jvm.MethodName)) ∈ lw_all := lw_g (lw_at lw_m6 223 rfl) rfl
theorem q1545 : (Jvm.Cond.code ({ cls := "BorrowedLuckModel", name := "undo", desc := "()Z" } : Jvm.MethodName) prog_18_method_9_code (2 : Nat) (Option.some Jvm.ClassFile.FieldType.boolean)) ∈ lw_all := lw_g (lw_at lw_m6 224 rfl) rfl
theorem q1547 : (Jvm.Cond.instanceMethod ({ cls := "BorrowedLuckModel", name := "feed", desc := "(IIIII)I" } : Jvm.MethodName)) ∈ lw_all := lw_g (lw_at lw_m6 226 rfl) rfl
theorem q1548 : (Jvm.Cond.selects "BorrowedLuckModel" ({ cls := "BorrowedLuckModel", name := "feed", desc := "(IIIII)I" } : Jvm.MethodName) ({ cls := "BorrowedLuckModel", name := "feed", desc := "(IIIII)I" } : Jvm.MethodName)) ∈ lw_all := lw_g (lw_at lw_m6 227 rfl) rfl
theorem q1549 : (Jvm.Cond.code ({ cls := "BorrowedLuckModel", name := "feed", desc := "(IIIII)I" } : Jvm.MethodName) prog_18_method_23_code (7 : Nat) (Option.some Jvm.ClassFile.FieldType.int)) ∈ lw_all := lw_g (lw_at lw_m6 228 rfl) rfl
theorem q1551 : (Jvm.Cond.instanceMethod ({ cls := "BorrowedLuckModel", name := "end", desc := "(I)Z" } : Jvm.MethodName)) ∈ lw_all := lw_g (lw_at lw_m6 230 rfl) rfl
theorem q1552 : (Jvm.Cond.selects "BorrowedLuckModel" ({ cls := "BorrowedLuckModel", name := "end", desc := "(I)Z" } : Jvm.MethodName) ({ cls := "BorrowedLuckModel", name := "end", desc := "(I)Z" } : Jvm.MethodName)) ∈ lw_all := lw_g (lw_at lw_m6 231 rfl) rfl
theorem q1553 : (Jvm.Cond.code ({ cls := "BorrowedLuckModel", name := "end", desc := "(I)Z" } : Jvm.MethodName) prog_18_method_24_code (2 : Nat) (Option.some Jvm.ClassFile.FieldType.boolean)) ∈ lw_all := lw_g (lw_at lw_m6 232 rfl) rfl
theorem q1555 : (Jvm.Cond.instanceMethod ({ cls := "BorrowedLuckModel", name := "fault", desc := "()I" } : Jvm.MethodName)) ∈ lw_all := lw_g (lw_at lw_m6 234 rfl) rfl
theorem q1556 : (Jvm.Cond.selects "BorrowedLuckModel" ({ cls := "BorrowedLuckModel", name := "fault", desc := "()I" } : Jvm.MethodName) ({ cls := "BorrowedLuckModel", name := "fault", desc := "()I" } : Jvm.MethodName)) ∈ lw_all := lw_g (lw_at lw_m6 235 rfl) rfl
theorem q1557 : (Jvm.Cond.code ({ cls := "BorrowedLuckModel", name := "fault", desc := "()I" } : Jvm.MethodName) prog_18_method_33_code (1 : Nat) (Option.some Jvm.ClassFile.FieldType.int)) ∈ lw_all := lw_g (lw_at lw_m6 236 rfl) rfl
theorem q1559 : (Jvm.Cond.instanceMethod ({ cls := "BorrowedLuckModel", name := "coast", desc := "()I" } : Jvm.MethodName)) ∈ lw_all := lw_g (lw_at lw_m6 238 rfl) rfl
theorem q1560 : (Jvm.Cond.selects "BorrowedLuckModel" ({ cls := "BorrowedLuckModel", name := "coast", desc := "()I" } : Jvm.MethodName) ({ cls := "BorrowedLuckModel", name := "coast", desc := "()I" } : Jvm.MethodName)) ∈ lw_all := lw_g (lw_at lw_m6 239 rfl) rfl
theorem q1561 : (Jvm.Cond.code ({ cls := "BorrowedLuckModel", name := "coast", desc := "()I" } : Jvm.MethodName) prog_18_method_51_code (3 : Nat) (Option.some Jvm.ClassFile.FieldType.int)) ∈ lw_all := lw_g (lw_at lw_m7 0 rfl) rfl
theorem q1562 : (Jvm.Cond.methodLink "BorrowedLuckModel" (237 : Nat) ({ cls := "BorrowedLuckModel", name := "readAll", desc := "(Z)I" } : Jvm.MethodName)) ∈ lw_all := lw_g (lw_at lw_m7 1 rfl) rfl
theorem q1563 : (Jvm.Cond.privateMethod ({ cls := "BorrowedLuckModel", name := "readAll", desc := "(Z)I" } : Jvm.MethodName)) ∈ lw_tbl := lw_at lw_m7 2 rfl
theorem q1564 : (Jvm.Cond.instanceMethod ({ cls := "BorrowedLuckModel", name := "readAll", desc := "(Z)I" } : Jvm.MethodName)) ∈ lw_all := lw_g (lw_at lw_m7 3 rfl) rfl
theorem q1565 : (Jvm.Cond.code ({ cls := "BorrowedLuckModel", name := "readAll", desc := "(Z)I" } : Jvm.MethodName) prog_18_method_50_code (3 : Nat) (Option.some Jvm.ClassFile.FieldType.int)) ∈ lw_all := lw_g (lw_at lw_m7 4 rfl) rfl
theorem q1566 : (Jvm.Cond.methodLink "BorrowedLuckModel" (230 : Nat) ({ cls := "BorrowedLuckModel", name := "uses", desc := "()V" } : Jvm.MethodName)) ∈ lw_all := lw_g (lw_at lw_m7 5 rfl) rfl
theorem q1567 : (Jvm.Cond.privateMethod ({ cls := "BorrowedLuckModel", name := "uses", desc := "()V" } : Jvm.MethodName)) ∈ lw_tbl := lw_at lw_m7 6 rfl
theorem q1568 : (Jvm.Cond.instanceMethod ({ cls := "BorrowedLuckModel", name := "uses", desc := "()V" } : Jvm.MethodName)) ∈ lw_all := lw_g (lw_at lw_m7 7 rfl) rfl
theorem q1569 : (Jvm.Cond.code ({ cls := "BorrowedLuckModel", name := "uses", desc := "()V" } : Jvm.MethodName) prog_18_method_34_code (1 : Nat) (Option.none : Option Jvm.ClassFile.FieldType)) ∈ lw_all := lw_g (lw_at lw_m7 8 rfl) rfl
theorem q1570 : (Jvm.Cond.methodLink "BorrowedLuckModel" (102 : Nat) ({ cls := "BorrowedLuckModel", name := "blanks", desc := "()V" } : Jvm.MethodName)) ∈ lw_all := lw_g (lw_at lw_m7 9 rfl) rfl
theorem q1571 : (Jvm.Cond.privateMethod ({ cls := "BorrowedLuckModel", name := "blanks", desc := "()V" } : Jvm.MethodName)) ∈ lw_tbl := lw_at lw_m7 10 rfl
theorem q1572 : (Jvm.Cond.instanceMethod ({ cls := "BorrowedLuckModel", name := "blanks", desc := "()V" } : Jvm.MethodName)) ∈ lw_all := lw_g (lw_at lw_m7 11 rfl) rfl
theorem q1573 : (Jvm.Cond.code ({ cls := "BorrowedLuckModel", name := "blanks", desc := "()V" } : Jvm.MethodName) prog_18_method_26_code (1 : Nat) (Option.none : Option Jvm.ClassFile.FieldType)) ∈ lw_all := lw_g (lw_at lw_m7 12 rfl) rfl
theorem q1574 : (Jvm.Cond.methodLink "BorrowedLuckModel" (95 : Nat) ({ cls := "BorrowedLuckModel", name := "isAt", desc := "(II)Z" } : Jvm.MethodName)) ∈ lw_all := lw_g (lw_at lw_m7 13 rfl) rfl
theorem q1575 : (Jvm.Cond.privateMethod ({ cls := "BorrowedLuckModel", name := "isAt", desc := "(II)Z" } : Jvm.MethodName)) ∈ lw_tbl := lw_at lw_m7 14 rfl
theorem q1576 : (Jvm.Cond.instanceMethod ({ cls := "BorrowedLuckModel", name := "isAt", desc := "(II)Z" } : Jvm.MethodName)) ∈ lw_all := lw_g (lw_at lw_m7 15 rfl) rfl
theorem q1577 : (Jvm.Cond.code ({ cls := "BorrowedLuckModel", name := "isAt", desc := "(II)Z" } : Jvm.MethodName) prog_18_method_25_code (3 : Nat) (Option.some Jvm.ClassFile.FieldType.boolean)) ∈ lw_all := lw_g (lw_at lw_m7 16 rfl) rfl
theorem q1578 : (Jvm.Cond.methodLink "BorrowedLuckModel" (233 : Nat) ({ cls := "BorrowedLuckModel", name := "readLine", desc := "(ZI)Z" } : Jvm.MethodName)) ∈ lw_all := lw_g (lw_at lw_m7 17 rfl) rfl
theorem q1579 : (Jvm.Cond.privateMethod ({ cls := "BorrowedLuckModel", name := "readLine", desc := "(ZI)Z" } : Jvm.MethodName)) ∈ lw_tbl := lw_at lw_m7 18 rfl
theorem q1580 : (Jvm.Cond.instanceMethod ({ cls := "BorrowedLuckModel", name := "readLine", desc := "(ZI)Z" } : Jvm.MethodName)) ∈ lw_all := lw_g (lw_at lw_m7 19 rfl) rfl
theorem q1581 : (Jvm.Cond.code ({ cls := "BorrowedLuckModel", name := "readLine", desc := "(ZI)Z" } : Jvm.MethodName) prog_18_method_49_code (3 : Nat) (Option.some Jvm.ClassFile.FieldType.boolean)) ∈ lw_all := lw_g (lw_at lw_m7 20 rfl) rfl
theorem q1582 : (Jvm.Cond.methodLink "BorrowedLuckModel" (114 : Nat) ({ cls := "BorrowedLuckModel", name := "letters", desc := "()V" } : Jvm.MethodName)) ∈ lw_all := lw_g (lw_at lw_m7 21 rfl) rfl
theorem q1583 : (Jvm.Cond.privateMethod ({ cls := "BorrowedLuckModel", name := "letters", desc := "()V" } : Jvm.MethodName)) ∈ lw_tbl := lw_at lw_m7 22 rfl
theorem q1584 : (Jvm.Cond.instanceMethod ({ cls := "BorrowedLuckModel", name := "letters", desc := "()V" } : Jvm.MethodName)) ∈ lw_all := lw_g (lw_at lw_m7 23 rfl) rfl
theorem q1585 : (Jvm.Cond.code ({ cls := "BorrowedLuckModel", name := "letters", desc := "()V" } : Jvm.MethodName) prog_18_method_27_code (1 : Nat) (Option.none : Option Jvm.ClassFile.FieldType)) ∈ lw_all := lw_g (lw_at lw_m7 24 rfl) rfl
theorem q1586 : (Jvm.Cond.methodLink "BorrowedLuckModel" (224 : Nat) ({ cls := "BorrowedLuckModel", name := "readCoastLine", desc := "()Z" } : Jvm.MethodName)) ∈ lw_all := lw_g (lw_at lw_m7 25 rfl) rfl
theorem q1587 : (Jvm.Cond.privateMethod ({ cls := "BorrowedLuckModel", name := "readCoastLine", desc := "()Z" } : Jvm.MethodName)) ∈ lw_tbl := lw_at lw_m7 26 rfl
theorem q1588 : (Jvm.Cond.instanceMethod ({ cls := "BorrowedLuckModel", name := "readCoastLine", desc := "()Z" } : Jvm.MethodName)) ∈ lw_all := lw_g (lw_at lw_m7 27 rfl) rfl
theorem q1589 : (Jvm.Cond.code ({ cls := "BorrowedLuckModel", name := "readCoastLine", desc := "()Z" } : Jvm.MethodName) prog_18_method_39_code (1 : Nat) (Option.some Jvm.ClassFile.FieldType.boolean)) ∈ lw_all := lw_g (lw_at lw_m7 28 rfl) rfl
theorem q1590 : (Jvm.Cond.stringRef "BorrowedLuckModel" (151 : Nat) "woman") ∈ lw_tbl := lw_at lw_m7 29 rfl
theorem q1591 : (Jvm.Cond.methodLink "BorrowedLuckModel" (117 : Nat) ({ cls := "BorrowedLuckModel", name := "isWord", desc := "(Ljava/lang/String;)Z" } : Jvm.MethodName)) ∈ lw_all := lw_g (lw_at lw_m7 30 rfl) rfl
theorem q1592 : (Jvm.Cond.privateMethod ({ cls := "BorrowedLuckModel", name := "isWord", desc := "(Ljava/lang/String;)Z" } : Jvm.MethodName)) ∈ lw_tbl := lw_at lw_m7 31 rfl
theorem q1593 : (Jvm.Cond.instanceMethod ({ cls := "BorrowedLuckModel", name := "isWord", desc := "(Ljava/lang/String;)Z" } : Jvm.MethodName)) ∈ lw_all := lw_g (lw_at lw_m7 32 rfl) rfl
theorem q1594 : (Jvm.Cond.code ({ cls := "BorrowedLuckModel", name := "isWord", desc := "(Ljava/lang/String;)Z" } : Jvm.MethodName) prog_18_method_28_code (4 : Nat) (Option.some Jvm.ClassFile.FieldType.boolean)) ∈ lw_all := lw_g (lw_at lw_m7 33 rfl) rfl
theorem q1595 : (Jvm.Cond.methodLink "BorrowedLuckModel" (105 : Nat) ({ cls := "java/lang/String", name := "length", desc := "()I" } : Jvm.MethodName)) ∈ lw_all := lw_g (lw_at lw_m7 34 rfl) rfl
theorem q1596 : (Jvm.Cond.methodLink "BorrowedLuckModel" (110 : Nat) ({ cls := "java/lang/String", name := "charAt", desc := "(I)C" } : Jvm.MethodName)) ∈ lw_all := lw_g (lw_at lw_m7 35 rfl) rfl
theorem q1597 : (Jvm.Cond.methodLink "BorrowedLuckModel" (153 : Nat) ({ cls := "BorrowedLuckModel", name := "readWoman", desc := "()Z" } : Jvm.MethodName)) ∈ lw_all := lw_g (lw_at lw_m7 36 rfl) rfl
theorem q1598 : (Jvm.Cond.privateMethod ({ cls := "BorrowedLuckModel", name := "readWoman", desc := "()Z" } : Jvm.MethodName)) ∈ lw_tbl := lw_at lw_m7 37 rfl
theorem q1599 : (Jvm.Cond.instanceMethod ({ cls := "BorrowedLuckModel", name := "readWoman", desc := "()Z" } : Jvm.MethodName)) ∈ lw_all := lw_g (lw_at lw_m7 38 rfl) rfl
theorem q1600 : (Jvm.Cond.code ({ cls := "BorrowedLuckModel", name := "readWoman", desc := "()Z" } : Jvm.MethodName) prog_18_method_37_code (4 : Nat) (Option.some Jvm.ClassFile.FieldType.boolean)) ∈ lw_all := lw_g (lw_at lw_m7 39 rfl) rfl
theorem q1601 : (Jvm.Cond.methodLink "BorrowedLuckModel" (74 : Nat) ({ cls := "BorrowedLuckModel", name := "women", desc := "()I" } : Jvm.MethodName)) ∈ lw_all := lw_g (lw_at lw_m7 40 rfl) rfl
theorem q1602 : (Jvm.Cond.privateMethod ({ cls := "BorrowedLuckModel", name := "women", desc := "()I" } : Jvm.MethodName)) ∈ lw_tbl := lw_at lw_m7 41 rfl
theorem q1603 : (Jvm.Cond.instanceMethod ({ cls := "BorrowedLuckModel", name := "women", desc := "()I" } : Jvm.MethodName)) ∈ lw_all := lw_g (lw_at lw_m7 42 rfl) rfl
theorem q1604 : (Jvm.Cond.code ({ cls := "BorrowedLuckModel", name := "women", desc := "()I" } : Jvm.MethodName) prog_18_method_10_code (1 : Nat) (Option.some Jvm.ClassFile.FieldType.int)) ∈ lw_all := lw_g (lw_at lw_m7 43 rfl) rfl
theorem q1605 : (Jvm.Cond.methodLink "BorrowedLuckModel" (61 : Nat) ({ cls := "BorrowedLuckModel", name := "womanAt", desc := "(II)I" } : Jvm.MethodName)) ∈ lw_all := lw_g (lw_at lw_m7 44 rfl) rfl
theorem q1606 : (Jvm.Cond.static ({ cls := "BorrowedLuckModel", name := "womanAt", desc := "(II)I" } : Jvm.MethodName)) ∈ lw_all := lw_g (lw_at lw_m7 45 rfl) rfl
theorem q1607 : (Jvm.Cond.code ({ cls := "BorrowedLuckModel", name := "womanAt", desc := "(II)I" } : Jvm.MethodName) prog_18_method_12_code (2 : Nat) (Option.some Jvm.ClassFile.FieldType.int)) ∈ lw_all := lw_g (lw_at lw_m7 46 rfl) rfl
theorem q1608 : (Jvm.Cond.methodLink "BorrowedLuckModel" (127 : Nat) ({ cls := "BorrowedLuckModel", name := "readLuck", desc := "(I)Z" } : Jvm.MethodName)) ∈ lw_all := lw_g (lw_at lw_m7 47 rfl) rfl
theorem q1609 : (Jvm.Cond.privateMethod ({ cls := "BorrowedLuckModel", name := "readLuck", desc := "(I)Z" } : Jvm.MethodName)) ∈ lw_tbl := lw_at lw_m7 48 rfl
theorem q1610 : (Jvm.Cond.instanceMethod ({ cls := "BorrowedLuckModel", name := "readLuck", desc := "(I)Z" } : Jvm.MethodName)) ∈ lw_all := lw_g (lw_at lw_m7 49 rfl) rfl
theorem q1611 : (Jvm.Cond.code ({ cls := "BorrowedLuckModel", name := "readLuck", desc := "(I)Z" } : Jvm.MethodName) prog_18_method_36_code (3 : Nat) (Option.some Jvm.ClassFile.FieldType.boolean)) ∈ lw_all := lw_g (lw_at lw_m7 50 rfl) rfl
theorem q1612 : (Jvm.Cond.methodLink "BorrowedLuckModel" (124 : Nat) ({ cls := "BorrowedLuckModel", name := "readNumber", desc := "(III)Z" } : Jvm.MethodName)) ∈ lw_all := lw_g (lw_at lw_m7 51 rfl) rfl
theorem q1613 : (Jvm.Cond.privateMethod ({ cls := "BorrowedLuckModel", name := "readNumber", desc := "(III)Z" } : Jvm.MethodName)) ∈ lw_tbl := lw_at lw_m7 52 rfl
theorem q1614 : (Jvm.Cond.instanceMethod ({ cls := "BorrowedLuckModel", name := "readNumber", desc := "(III)Z" } : Jvm.MethodName)) ∈ lw_all := lw_g (lw_at lw_m7 53 rfl) rfl
theorem q1615 : (Jvm.Cond.code ({ cls := "BorrowedLuckModel", name := "readNumber", desc := "(III)Z" } : Jvm.MethodName) prog_18_method_35_code (5 : Nat) (Option.some Jvm.ClassFile.FieldType.boolean)) ∈ lw_all := lw_g (lw_at lw_m7 54 rfl) rfl
theorem q1616 : (Jvm.Cond.methodLink "BorrowedLuckModel" (121 : Nat) ({ cls := "BorrowedLuckModel", name := "number", desc := "(II)I" } : Jvm.MethodName)) ∈ lw_all := lw_g (lw_at lw_m7 55 rfl) rfl
theorem q1617 : (Jvm.Cond.privateMethod ({ cls := "BorrowedLuckModel", name := "number", desc := "(II)I" } : Jvm.MethodName)) ∈ lw_tbl := lw_at lw_m7 56 rfl
theorem q1618 : (Jvm.Cond.instanceMethod ({ cls := "BorrowedLuckModel", name := "number", desc := "(II)I" } : Jvm.MethodName)) ∈ lw_all := lw_g (lw_at lw_m7 57 rfl) rfl
theorem q1619 : (Jvm.Cond.code ({ cls := "BorrowedLuckModel", name := "number", desc := "(II)I" } : Jvm.MethodName) prog_18_method_31_code (4 : Nat) (Option.some Jvm.ClassFile.FieldType.int)) ∈ lw_all := lw_g (lw_at lw_m7 58 rfl) rfl
theorem q1620 : (Jvm.Cond.stringRef "BorrowedLuckModel" (131 : Nat) "purse") ∈ lw_tbl := lw_at lw_m7 59 rfl
theorem q1621 : (Jvm.Cond.methodLink "BorrowedLuckModel" (133 : Nat) ({ cls := "BorrowedLuckModel", name := "after", desc := "(Ljava/lang/String;II)I" } : Jvm.MethodName)) ∈ lw_all := lw_g (lw_at lw_m7 60 rfl) rfl
theorem q1622 : (Jvm.Cond.privateMethod ({ cls := "BorrowedLuckModel", name := "after", desc := "(Ljava/lang/String;II)I" } : Jvm.MethodName)) ∈ lw_tbl := lw_at lw_m7 61 rfl
theorem q1623 : (Jvm.Cond.instanceMethod ({ cls := "BorrowedLuckModel", name := "after", desc := "(Ljava/lang/String;II)I" } : Jvm.MethodName)) ∈ lw_all := lw_g (lw_at lw_m7 62 rfl) rfl
theorem q1624 : (Jvm.Cond.code ({ cls := "BorrowedLuckModel", name := "after", desc := "(Ljava/lang/String;II)I" } : Jvm.MethodName) prog_18_method_32_code (4 : Nat) (Option.some Jvm.ClassFile.FieldType.int)) ∈ lw_all := lw_g (lw_at lw_m7 63 rfl) rfl
theorem q1625 : (Jvm.Cond.stringRef "BorrowedLuckModel" (137 : Nat) "wed") ∈ lw_tbl := lw_at lw_m7 64 rfl
theorem q1626 : (Jvm.Cond.methodLink "BorrowedLuckModel" (139 : Nat) ({ cls := "BorrowedLuckModel", name := "passes", desc := "(Ljava/lang/String;)Z" } : Jvm.MethodName)) ∈ lw_all := lw_g (lw_at lw_m7 65 rfl) rfl
theorem q1627 : (Jvm.Cond.privateMethod ({ cls := "BorrowedLuckModel", name := "passes", desc := "(Ljava/lang/String;)Z" } : Jvm.MethodName)) ∈ lw_tbl := lw_at lw_m7 66 rfl
theorem q1628 : (Jvm.Cond.instanceMethod ({ cls := "BorrowedLuckModel", name := "passes", desc := "(Ljava/lang/String;)Z" } : Jvm.MethodName)) ∈ lw_all := lw_g (lw_at lw_m7 67 rfl) rfl
theorem q1629 : (Jvm.Cond.code ({ cls := "BorrowedLuckModel", name := "passes", desc := "(Ljava/lang/String;)Z" } : Jvm.MethodName) prog_18_method_29_code (2 : Nat) (Option.some Jvm.ClassFile.FieldType.boolean)) ∈ lw_all := lw_g (lw_at lw_m7 68 rfl) rfl
theorem q1630 : (Jvm.Cond.stringRef "BorrowedLuckModel" (142 : Nat) "widow") ∈ lw_tbl := lw_at lw_m7 69 rfl
theorem q1631 : (Jvm.Cond.stringRef "BorrowedLuckModel" (157 : Nat) "thing") ∈ lw_tbl := lw_at lw_m7 70 rfl
theorem q1632 : (Jvm.Cond.methodLink "BorrowedLuckModel" (159 : Nat) ({ cls := "BorrowedLuckModel", name := "readThing", desc := "()Z" } : Jvm.MethodName)) ∈ lw_all := lw_g (lw_at lw_m7 71 rfl) rfl
theorem q1633 : (Jvm.Cond.privateMethod ({ cls := "BorrowedLuckModel", name := "readThing", desc := "()Z" } : Jvm.MethodName)) ∈ lw_tbl := lw_at lw_m7 72 rfl
theorem q1634 : (Jvm.Cond.instanceMethod ({ cls := "BorrowedLuckModel", name := "readThing", desc := "()Z" } : Jvm.MethodName)) ∈ lw_all := lw_g (lw_at lw_m7 73 rfl) rfl
theorem q1635 : (Jvm.Cond.code ({ cls := "BorrowedLuckModel", name := "readThing", desc := "()Z" } : Jvm.MethodName) prog_18_method_38_code (5 : Nat) (Option.some Jvm.ClassFile.FieldType.boolean)) ∈ lw_all := lw_g (lw_at lw_m7 74 rfl) rfl
theorem q1636 : (Jvm.Cond.methodLink "BorrowedLuckModel" (82 : Nat) ({ cls := "BorrowedLuckModel", name := "things", desc := "()I" } : Jvm.MethodName)) ∈ lw_all := lw_g (lw_at lw_m7 75 rfl) rfl
theorem q1637 : (Jvm.Cond.privateMethod ({ cls := "BorrowedLuckModel", name := "things", desc := "()I" } : Jvm.MethodName)) ∈ lw_tbl := lw_at lw_m7 76 rfl
theorem q1638 : (Jvm.Cond.instanceMethod ({ cls := "BorrowedLuckModel", name := "things", desc := "()I" } : Jvm.MethodName)) ∈ lw_all := lw_g (lw_at lw_m7 77 rfl) rfl
theorem q1639 : (Jvm.Cond.code ({ cls := "BorrowedLuckModel", name := "things", desc := "()I" } : Jvm.MethodName) prog_18_method_11_code (1 : Nat) (Option.some Jvm.ClassFile.FieldType.int)) ∈ lw_all := lw_g (lw_at lw_m7 78 rfl) rfl
theorem q1640 : (Jvm.Cond.methodLink "BorrowedLuckModel" (68 : Nat) ({ cls := "BorrowedLuckModel", name := "thingAt", desc := "(II)I" } : Jvm.MethodName)) ∈ lw_all := lw_g (lw_at lw_m7 79 rfl) rfl
theorem q1641 : (Jvm.Cond.static ({ cls := "BorrowedLuckModel", name := "thingAt", desc := "(II)I" } : Jvm.MethodName)) ∈ lw_all := lw_g (lw_at lw_m7 80 rfl) rfl
theorem q1642 : (Jvm.Cond.code ({ cls := "BorrowedLuckModel", name := "thingAt", desc := "(II)I" } : Jvm.MethodName) prog_18_method_15_code (2 : Nat) (Option.some Jvm.ClassFile.FieldType.int)) ∈ lw_all := lw_g (lw_at lw_m7 81 rfl) rfl
theorem q1643 : (Jvm.Cond.stringRef "BorrowedLuckModel" (144 : Nat) "of") ∈ lw_tbl := lw_at lw_m7 82 rfl
theorem q1644 : (Jvm.Cond.stringRef "BorrowedLuckModel" (145 : Nat) "worn") ∈ lw_tbl := lw_at lw_m7 83 rfl
theorem q1645 : (Jvm.Cond.stringRef "BorrowedLuckModel" (147 : Nat) "with") ∈ lw_tbl := lw_at lw_m7 84 rfl
theorem q1646 : (Jvm.Cond.stringRef "BorrowedLuckModel" (149 : Nat) "blue") ∈ lw_tbl := lw_at lw_m7 85 rfl
theorem q1647 : (Jvm.Cond.stringRef "BorrowedLuckModel" (162 : Nat) "price") ∈ lw_tbl := lw_at lw_m7 86 rfl
theorem q1648 : (Jvm.Cond.stringRef "BorrowedLuckModel" (164 : Nat) "love") ∈ lw_tbl := lw_at lw_m7 87 rfl
theorem q1649 : (Jvm.Cond.stringRef "BorrowedLuckModel" (166 : Nat) "day") ∈ lw_tbl := lw_at lw_m7 88 rfl
theorem q1650 : (Jvm.Cond.methodLink "BorrowedLuckModel" (227 : Nat) ({ cls := "BorrowedLuckModel", name := "readLawLine", desc := "(I)Z" } : Jvm.MethodName)) ∈ lw_all := lw_g (lw_at lw_m7 89 rfl) rfl
theorem q1651 : (Jvm.Cond.privateMethod ({ cls := "BorrowedLuckModel", name := "readLawLine", desc := "(I)Z" } : Jvm.MethodName)) ∈ lw_tbl := lw_at lw_m7 90 rfl
theorem q1652 : (Jvm.Cond.instanceMethod ({ cls := "BorrowedLuckModel", name := "readLawLine", desc := "(I)Z" } : Jvm.MethodName)) ∈ lw_all := lw_g (lw_at lw_m7 91 rfl) rfl
theorem q1653 : (Jvm.Cond.code ({ cls := "BorrowedLuckModel", name := "readLawLine", desc := "(I)Z" } : Jvm.MethodName) prog_18_method_48_code (3 : Nat) (Option.some Jvm.ClassFile.FieldType.boolean)) ∈ lw_all := lw_g (lw_at lw_m7 92 rfl) rfl
theorem q1654 : (Jvm.Cond.stringRef "BorrowedLuckModel" (218 : Nat) "flow") ∈ lw_tbl := lw_at lw_m7 93 rfl
theorem q1655 : (Jvm.Cond.stringRef "BorrowedLuckModel" (173 : Nat) "wear") ∈ lw_tbl := lw_at lw_m7 94 rfl
theorem q1656 : (Jvm.Cond.stringRef "BorrowedLuckModel" (220 : Nat) "stick") ∈ lw_tbl := lw_at lw_m7 95 rfl
theorem q1657 : (Jvm.Cond.stringRef "BorrowedLuckModel" (222 : Nat) "if") ∈ lw_tbl := lw_at lw_m7 96 rfl
theorem q1658 : (Jvm.Cond.methodLink "BorrowedLuckModel" (197 : Nat) ({ cls := "BorrowedLuckModel", name := "readCond", desc := "()Z" } : Jvm.MethodName)) ∈ lw_all := lw_g (lw_at lw_m7 97 rfl) rfl
theorem q1659 : (Jvm.Cond.privateMethod ({ cls := "BorrowedLuckModel", name := "readCond", desc := "()Z" } : Jvm.MethodName)) ∈ lw_tbl := lw_at lw_m7 98 rfl
theorem q1660 : (Jvm.Cond.instanceMethod ({ cls := "BorrowedLuckModel", name := "readCond", desc := "()Z" } : Jvm.MethodName)) ∈ lw_all := lw_g (lw_at lw_m7 99 rfl) rfl
theorem q1661 : (Jvm.Cond.code ({ cls := "BorrowedLuckModel", name := "readCond", desc := "()Z" } : Jvm.MethodName) prog_18_method_47_code (1 : Nat) (Option.some Jvm.ClassFile.FieldType.boolean)) ∈ lw_all := lw_g (lw_at lw_m7 100 rfl) rfl
theorem q1662 : (Jvm.Cond.methodLink "BorrowedLuckModel" (213 : Nat) ({ cls := "BorrowedLuckModel", name := "readAllOf", desc := "()Z" } : Jvm.MethodName)) ∈ lw_all := lw_g (lw_at lw_m7 101 rfl) rfl
theorem q1663 : (Jvm.Cond.privateMethod ({ cls := "BorrowedLuckModel", name := "readAllOf", desc := "()Z" } : Jvm.MethodName)) ∈ lw_tbl := lw_at lw_m7 102 rfl
theorem q1664 : (Jvm.Cond.instanceMethod ({ cls := "BorrowedLuckModel", name := "readAllOf", desc := "()Z" } : Jvm.MethodName)) ∈ lw_all := lw_g (lw_at lw_m7 103 rfl) rfl
theorem q1665 : (Jvm.Cond.code ({ cls := "BorrowedLuckModel", name := "readAllOf", desc := "()Z" } : Jvm.MethodName) prog_18_method_46_code (1 : Nat) (Option.some Jvm.ClassFile.FieldType.boolean)) ∈ lw_all := lw_g (lw_at lw_m7 104 rfl) rfl
theorem q1666 : (Jvm.Cond.methodLink "BorrowedLuckModel" (202 : Nat) ({ cls := "BorrowedLuckModel", name := "readAtom", desc := "()Z" } : Jvm.MethodName)) ∈ lw_all := lw_g (lw_at lw_m7 105 rfl) rfl
theorem q1667 : (Jvm.Cond.privateMethod ({ cls := "BorrowedLuckModel", name := "readAtom", desc := "()Z" } : Jvm.MethodName)) ∈ lw_tbl := lw_at lw_m7 106 rfl
theorem q1668 : (Jvm.Cond.instanceMethod ({ cls := "BorrowedLuckModel", name := "readAtom", desc := "()Z" } : Jvm.MethodName)) ∈ lw_all := lw_g (lw_at lw_m7 107 rfl) rfl
theorem q1669 : (Jvm.Cond.code ({ cls := "BorrowedLuckModel", name := "readAtom", desc := "()Z" } : Jvm.MethodName) prog_18_method_45_code (2 : Nat) (Option.some Jvm.ClassFile.FieldType.boolean)) ∈ lw_all := lw_g (lw_at lw_m7 108 rfl) rfl
theorem q1670 : (Jvm.Cond.methodLink "BorrowedLuckModel" (189 : Nat) ({ cls := "BorrowedLuckModel", name := "sign", desc := "(I)Z" } : Jvm.MethodName)) ∈ lw_all := lw_g (lw_at lw_m7 109 rfl) rfl
theorem q1671 : (Jvm.Cond.privateMethod ({ cls := "BorrowedLuckModel", name := "sign", desc := "(I)Z" } : Jvm.MethodName)) ∈ lw_tbl := lw_at lw_m7 110 rfl
theorem q1672 : (Jvm.Cond.instanceMethod ({ cls := "BorrowedLuckModel", name := "sign", desc := "(I)Z" } : Jvm.MethodName)) ∈ lw_all := lw_g (lw_at lw_m7 111 rfl) rfl
theorem q1673 : (Jvm.Cond.code ({ cls := "BorrowedLuckModel", name := "sign", desc := "(I)Z" } : Jvm.MethodName) prog_18_method_30_code (2 : Nat) (Option.some Jvm.ClassFile.FieldType.boolean)) ∈ lw_all := lw_g (lw_at lw_m7 112 rfl) rfl
theorem q1674 : (Jvm.Cond.stringRef "BorrowedLuckModel" (200 : Nat) "not") ∈ lw_tbl := lw_at lw_m7 113 rfl
theorem q1675 : (Jvm.Cond.methodLink "BorrowedLuckModel" (182 : Nat) ({ cls := "BorrowedLuckModel", name := "emits", desc := "(II)V" } : Jvm.MethodName)) ∈ lw_all := lw_g (lw_at lw_m7 114 rfl) rfl
theorem q1676 : (Jvm.Cond.privateMethod ({ cls := "BorrowedLuckModel", name := "emits", desc := "(II)V" } : Jvm.MethodName)) ∈ lw_tbl := lw_at lw_m7 115 rfl
theorem q1677 : (Jvm.Cond.instanceMethod ({ cls := "BorrowedLuckModel", name := "emits", desc := "(II)V" } : Jvm.MethodName)) ∈ lw_all := lw_g (lw_at lw_m7 116 rfl) rfl
theorem q1678 : (Jvm.Cond.code ({ cls := "BorrowedLuckModel", name := "emits", desc := "(II)V" } : Jvm.MethodName) prog_18_method_40_code (3 : Nat) (Option.none : Option Jvm.ClassFile.FieldType)) ∈ lw_all := lw_g (lw_at lw_m7 117 rfl) rfl
theorem q1679 : (Jvm.Cond.methodLink "BorrowedLuckModel" (205 : Nat) ({ cls := "BorrowedLuckModel", name := "readTag", desc := "()Z" } : Jvm.MethodName)) ∈ lw_all := lw_g (lw_at lw_m7 118 rfl) rfl
theorem q1680 : (Jvm.Cond.privateMethod ({ cls := "BorrowedLuckModel", name := "readTag", desc := "()Z" } : Jvm.MethodName)) ∈ lw_tbl := lw_at lw_m7 119 rfl
theorem q1681 : (Jvm.Cond.instanceMethod ({ cls := "BorrowedLuckModel", name := "readTag", desc := "()Z" } : Jvm.MethodName)) ∈ lw_all := lw_g (lw_at lw_m7 120 rfl) rfl
theorem q1682 : (Jvm.Cond.code ({ cls := "BorrowedLuckModel", name := "readTag", desc := "()Z" } : Jvm.MethodName) prog_18_method_44_code (2 : Nat) (Option.some Jvm.ClassFile.FieldType.boolean)) ∈ lw_all := lw_g (lw_at lw_m7 121 rfl) rfl
theorem q1683 : (Jvm.Cond.stringRef "BorrowedLuckModel" (192 : Nat) "own") ∈ lw_tbl := lw_at lw_m7 122 rfl
theorem q1684 : (Jvm.Cond.methodLink "BorrowedLuckModel" (208 : Nat) ({ cls := "BorrowedLuckModel", name := "readSum", desc := "()Z" } : Jvm.MethodName)) ∈ lw_all := lw_g (lw_at lw_m7 123 rfl) rfl
theorem q1685 : (Jvm.Cond.privateMethod ({ cls := "BorrowedLuckModel", name := "readSum", desc := "()Z" } : Jvm.MethodName)) ∈ lw_tbl := lw_at lw_m7 124 rfl
theorem q1686 : (Jvm.Cond.instanceMethod ({ cls := "BorrowedLuckModel", name := "readSum", desc := "()Z" } : Jvm.MethodName)) ∈ lw_all := lw_g (lw_at lw_m7 125 rfl) rfl
theorem q1687 : (Jvm.Cond.code ({ cls := "BorrowedLuckModel", name := "readSum", desc := "()Z" } : Jvm.MethodName) prog_18_method_43_code (1 : Nat) (Option.some Jvm.ClassFile.FieldType.boolean)) ∈ lw_all := lw_g (lw_at lw_m7 126 rfl) rfl
theorem q1688 : (Jvm.Cond.methodLink "BorrowedLuckModel" (186 : Nat) ({ cls := "BorrowedLuckModel", name := "readPart", desc := "()Z" } : Jvm.MethodName)) ∈ lw_all := lw_g (lw_at lw_m7 127 rfl) rfl
theorem q1689 : (Jvm.Cond.privateMethod ({ cls := "BorrowedLuckModel", name := "readPart", desc := "()Z" } : Jvm.MethodName)) ∈ lw_tbl := lw_at lw_m7 128 rfl
theorem q1690 : (Jvm.Cond.instanceMethod ({ cls := "BorrowedLuckModel", name := "readPart", desc := "()Z" } : Jvm.MethodName)) ∈ lw_all := lw_g (lw_at lw_m7 129 rfl) rfl
theorem q1691 : (Jvm.Cond.code ({ cls := "BorrowedLuckModel", name := "readPart", desc := "()Z" } : Jvm.MethodName) prog_18_method_42_code (3 : Nat) (Option.some Jvm.ClassFile.FieldType.boolean)) ∈ lw_all := lw_g (lw_at lw_m7 130 rfl) rfl
theorem q1692 : (Jvm.Cond.methodLink "BorrowedLuckModel" (179 : Nat) ({ cls := "BorrowedLuckModel", name := "wordOfPart", desc := "()I" } : Jvm.MethodName)) ∈ lw_all := lw_g (lw_at lw_m7 131 rfl) rfl
theorem q1693 : (Jvm.Cond.privateMethod ({ cls := "BorrowedLuckModel", name := "wordOfPart", desc := "()I" } : Jvm.MethodName)) ∈ lw_tbl := lw_at lw_m7 132 rfl
theorem q1694 : (Jvm.Cond.instanceMethod ({ cls := "BorrowedLuckModel", name := "wordOfPart", desc := "()I" } : Jvm.MethodName)) ∈ lw_all := lw_g (lw_at lw_m7 133 rfl) rfl
theorem q1695 : (Jvm.Cond.code ({ cls := "BorrowedLuckModel", name := "wordOfPart", desc := "()I" } : Jvm.MethodName) prog_18_method_41_code (1 : Nat) (Option.some Jvm.ClassFile.FieldType.int)) ∈ lw_all := lw_g (lw_at lw_m7 134 rfl) rfl
theorem q1696 : (Jvm.Cond.stringRef "BorrowedLuckModel" (171 : Nat) "sort") ∈ lw_tbl := lw_at lw_m7 135 rfl
theorem q1697 : (Jvm.Cond.stringRef "BorrowedLuckModel" (175 : Nat) "has") ∈ lw_tbl := lw_at lw_m7 136 rfl
theorem q1698 : (Jvm.Cond.stringRef "BorrowedLuckModel" (177 : Nat) "holds") ∈ lw_tbl := lw_at lw_m7 137 rfl
theorem q1699 : (Jvm.Cond.stringRef "BorrowedLuckModel" (211 : Nat) "and") ∈ lw_tbl := lw_at lw_m7 138 rfl
theorem q1700 : (Jvm.Cond.stringRef "BorrowedLuckModel" (216 : Nat) "or") ∈ lw_tbl := lw_at lw_m7 139 rfl
theorem q1701 : (Jvm.Cond.methodLink "BorrowedLuckModel" (241 : Nat) ({ cls := "BorrowedLuckModel", name := "throwsIf", desc := "(ZI)Z" } : Jvm.MethodName)) ∈ lw_all := lw_g (lw_at lw_m7 140 rfl) rfl
theorem q1702 : (Jvm.Cond.privateMethod ({ cls := "BorrowedLuckModel", name := "throwsIf", desc := "(ZI)Z" } : Jvm.MethodName)) ∈ lw_tbl := lw_at lw_m7 141 rfl
theorem q1703 : (Jvm.Cond.instanceMethod ({ cls := "BorrowedLuckModel", name := "throwsIf", desc := "(ZI)Z" } : Jvm.MethodName)) ∈ lw_all := lw_g (lw_at lw_m7 142 rfl) rfl
theorem q1704 : (Jvm.Cond.code ({ cls := "BorrowedLuckModel", name := "throwsIf", desc := "(ZI)Z" } : Jvm.MethodName) prog_18_method_2_code (3 : Nat) (Option.some Jvm.ClassFile.FieldType.boolean)) ∈ lw_all := lw_g (lw_at lw_m7 143 rfl) rfl
theorem q1706 : (Jvm.Cond.instanceMethod ({ cls := "BorrowedLuckModel", name := "law", desc := "()I" } : Jvm.MethodName)) ∈ lw_all := lw_g (lw_at lw_m7 145 rfl) rfl
theorem q1707 : (Jvm.Cond.selects "BorrowedLuckModel" ({ cls := "BorrowedLuckModel", name := "law", desc := "()I" } : Jvm.MethodName) ({ cls := "BorrowedLuckModel", name := "law", desc := "()I" } : Jvm.MethodName)) ∈ lw_all := lw_g (lw_at lw_m7 146 rfl) rfl
theorem q1708 : (Jvm.Cond.code ({ cls := "BorrowedLuckModel", name := "law", desc := "()I" } : Jvm.MethodName) prog_18_method_52_code (3 : Nat) (Option.some Jvm.ClassFile.FieldType.int)) ∈ lw_all := lw_g (lw_at lw_m7 147 rfl) rfl
theorem q1710 : (Jvm.Cond.instanceMethod ({ cls := "BorrowedLuckModel", name := "woman", desc := "(II)I" } : Jvm.MethodName)) ∈ lw_all := lw_g (lw_at lw_m7 149 rfl) rfl
theorem q1711 : (Jvm.Cond.selects "BorrowedLuckModel" ({ cls := "BorrowedLuckModel", name := "woman", desc := "(II)I" } : Jvm.MethodName) ({ cls := "BorrowedLuckModel", name := "woman", desc := "(II)I" } : Jvm.MethodName)) ∈ lw_all := lw_g (lw_at lw_m7 150 rfl) rfl
theorem q1712 : (Jvm.Cond.code ({ cls := "BorrowedLuckModel", name := "woman", desc := "(II)I" } : Jvm.MethodName) prog_18_method_65_code (3 : Nat) (Option.some Jvm.ClassFile.FieldType.int)) ∈ lw_all := lw_g (lw_at lw_m7 151 rfl) rfl
theorem q1713 : (Jvm.Cond.methodLink "BorrowedLuckModel" (275 : Nat) ({ cls := "BorrowedLuckModel", name := "noWoman", desc := "(I)Z" } : Jvm.MethodName)) ∈ lw_all := lw_g (lw_at lw_m7 152 rfl) rfl
theorem q1714 : (Jvm.Cond.privateMethod ({ cls := "BorrowedLuckModel", name := "noWoman", desc := "(I)Z" } : Jvm.MethodName)) ∈ lw_tbl := lw_at lw_m7 153 rfl
theorem q1715 : (Jvm.Cond.instanceMethod ({ cls := "BorrowedLuckModel", name := "noWoman", desc := "(I)Z" } : Jvm.MethodName)) ∈ lw_all := lw_g (lw_at lw_m7 154 rfl) rfl
theorem q1716 : (Jvm.Cond.code ({ cls := "BorrowedLuckModel", name := "noWoman", desc := "(I)Z" } : Jvm.MethodName) prog_18_method_19_code (2 : Nat) (Option.some Jvm.ClassFile.FieldType.boolean)) ∈ lw_all := lw_g (lw_at lw_m7 155 rfl) rfl
theorem q1717 : (Jvm.Cond.methodLink "BorrowedLuckModel" (78 : Nat) ({ cls := "BorrowedLuckModel", name := "in", desc := "(III)Z" } : Jvm.MethodName)) ∈ lw_all := lw_g (lw_at lw_m7 156 rfl) rfl
theorem q1718 : (Jvm.Cond.static ({ cls := "BorrowedLuckModel", name := "in", desc := "(III)Z" } : Jvm.MethodName)) ∈ lw_all := lw_g (lw_at lw_m7 157 rfl) rfl
theorem q1719 : (Jvm.Cond.code ({ cls := "BorrowedLuckModel", name := "in", desc := "(III)Z" } : Jvm.MethodName) prog_18_method_3_code (3 : Nat) (Option.some Jvm.ClassFile.FieldType.boolean)) ∈ lw_all := lw_g (lw_at lw_m7 158 rfl) rfl
theorem q1720 : (Jvm.Cond.methodLink "BorrowedLuckModel" (278 : Nat) ({ cls := "BorrowedLuckModel", name := "thingsBy", desc := "(II)I" } : Jvm.MethodName)) ∈ lw_all := lw_g (lw_at lw_m7 159 rfl) rfl
theorem q1721 : (Jvm.Cond.privateMethod ({ cls := "BorrowedLuckModel", name := "thingsBy", desc := "(II)I" } : Jvm.MethodName)) ∈ lw_tbl := lw_at lw_m7 160 rfl
theorem q1722 : (Jvm.Cond.instanceMethod ({ cls := "BorrowedLuckModel", name := "thingsBy", desc := "(II)I" } : Jvm.MethodName)) ∈ lw_all := lw_g (lw_at lw_m7 161 rfl) rfl
theorem q1723 : (Jvm.Cond.code ({ cls := "BorrowedLuckModel", name := "thingsBy", desc := "(II)I" } : Jvm.MethodName) prog_18_method_64_code (5 : Nat) (Option.some Jvm.ClassFile.FieldType.int)) ∈ lw_all := lw_g (lw_at lw_m7 162 rfl) rfl
theorem q1724 : (Jvm.Cond.methodLink "BorrowedLuckModel" (71 : Nat) ({ cls := "BorrowedLuckModel", name := "ofThing", desc := "(II)I" } : Jvm.MethodName)) ∈ lw_all := lw_g (lw_at lw_m7 163 rfl) rfl
theorem q1725 : (Jvm.Cond.privateMethod ({ cls := "BorrowedLuckModel", name := "ofThing", desc := "(II)I" } : Jvm.MethodName)) ∈ lw_tbl := lw_at lw_m7 164 rfl
theorem q1726 : (Jvm.Cond.instanceMethod ({ cls := "BorrowedLuckModel", name := "ofThing", desc := "(II)I" } : Jvm.MethodName)) ∈ lw_all := lw_g (lw_at lw_m7 165 rfl) rfl
theorem q1727 : (Jvm.Cond.code ({ cls := "BorrowedLuckModel", name := "ofThing", desc := "(II)I" } : Jvm.MethodName) prog_18_method_16_code (3 : Nat) (Option.some Jvm.ClassFile.FieldType.int)) ∈ lw_all := lw_g (lw_at lw_m7 166 rfl) rfl
theorem q1728 : (Jvm.Cond.methodLink "BorrowedLuckModel" (281 : Nat) ({ cls := "BorrowedLuckModel", name := "luckOf", desc := "(I)I" } : Jvm.MethodName)) ∈ lw_all := lw_g (lw_at lw_m7 167 rfl) rfl
theorem q1729 : (Jvm.Cond.privateMethod ({ cls := "BorrowedLuckModel", name := "luckOf", desc := "(I)I" } : Jvm.MethodName)) ∈ lw_tbl := lw_at lw_m7 168 rfl
theorem q1730 : (Jvm.Cond.instanceMethod ({ cls := "BorrowedLuckModel", name := "luckOf", desc := "(I)I" } : Jvm.MethodName)) ∈ lw_all := lw_g (lw_at lw_m7 169 rfl) rfl
theorem q1731 : (Jvm.Cond.code ({ cls := "BorrowedLuckModel", name := "luckOf", desc := "(I)I" } : Jvm.MethodName) prog_18_method_61_code (4 : Nat) (Option.some Jvm.ClassFile.FieldType.int)) ∈ lw_all := lw_g (lw_at lw_m7 170 rfl) rfl
theorem q1732 : (Jvm.Cond.methodLink "BorrowedLuckModel" (65 : Nat) ({ cls := "BorrowedLuckModel", name := "of", desc := "(II)I" } : Jvm.MethodName)) ∈ lw_all := lw_g (lw_at lw_m7 171 rfl) rfl
theorem q1733 : (Jvm.Cond.privateMethod ({ cls := "BorrowedLuckModel", name := "of", desc := "(II)I" } : Jvm.MethodName)) ∈ lw_tbl := lw_at lw_m7 172 rfl
theorem q1734 : (Jvm.Cond.instanceMethod ({ cls := "BorrowedLuckModel", name := "of", desc := "(II)I" } : Jvm.MethodName)) ∈ lw_all := lw_g (lw_at lw_m7 173 rfl) rfl
theorem q1735 : (Jvm.Cond.code ({ cls := "BorrowedLuckModel", name := "of", desc := "(II)I" } : Jvm.MethodName) prog_18_method_13_code (3 : Nat) (Option.some Jvm.ClassFile.FieldType.int)) ∈ lw_all := lw_g (lw_at lw_m7 174 rfl) rfl
theorem q1737 : (Jvm.Cond.instanceMethod ({ cls := "BorrowedLuckModel", name := "thing", desc := "(II)I" } : Jvm.MethodName)) ∈ lw_all := lw_g (lw_at lw_m7 176 rfl) rfl
theorem q1738 : (Jvm.Cond.selects "BorrowedLuckModel" ({ cls := "BorrowedLuckModel", name := "thing", desc := "(II)I" } : Jvm.MethodName) ({ cls := "BorrowedLuckModel", name := "thing", desc := "(II)I" } : Jvm.MethodName)) ∈ lw_all := lw_g (lw_at lw_m7 177 rfl) rfl
theorem q1739 : (Jvm.Cond.code ({ cls := "BorrowedLuckModel", name := "thing", desc := "(II)I" } : Jvm.MethodName) prog_18_method_66_code (3 : Nat) (Option.some Jvm.ClassFile.FieldType.int)) ∈ lw_all := lw_g (lw_at lw_m7 178 rfl) rfl
theorem q1740 : (Jvm.Cond.methodLink "BorrowedLuckModel" (284 : Nat) ({ cls := "BorrowedLuckModel", name := "noThing", desc := "(I)Z" } : Jvm.MethodName)) ∈ lw_all := lw_g (lw_at lw_m7 179 rfl) rfl
theorem q1741 : (Jvm.Cond.privateMethod ({ cls := "BorrowedLuckModel", name := "noThing", desc := "(I)Z" } : Jvm.MethodName)) ∈ lw_tbl := lw_at lw_m7 180 rfl
theorem q1742 : (Jvm.Cond.instanceMethod ({ cls := "BorrowedLuckModel", name := "noThing", desc := "(I)Z" } : Jvm.MethodName)) ∈ lw_all := lw_g (lw_at lw_m7 181 rfl) rfl
theorem q1743 : (Jvm.Cond.code ({ cls := "BorrowedLuckModel", name := "noThing", desc := "(I)Z" } : Jvm.MethodName) prog_18_method_20_code (2 : Nat) (Option.some Jvm.ClassFile.FieldType.boolean)) ∈ lw_all := lw_g (lw_at lw_m7 182 rfl) rfl
theorem q1744 : (Jvm.Cond.methodLink "BorrowedLuckModel" (287 : Nat) ({ cls := "BorrowedLuckModel", name := "worthOf", desc := "(I)I" } : Jvm.MethodName)) ∈ lw_all := lw_g (lw_at lw_m7 183 rfl) rfl
theorem q1745 : (Jvm.Cond.privateMethod ({ cls := "BorrowedLuckModel", name := "worthOf", desc := "(I)I" } : Jvm.MethodName)) ∈ lw_tbl := lw_at lw_m7 184 rfl
theorem q1746 : (Jvm.Cond.instanceMethod ({ cls := "BorrowedLuckModel", name := "worthOf", desc := "(I)I" } : Jvm.MethodName)) ∈ lw_all := lw_g (lw_at lw_m7 185 rfl) rfl
theorem q1747 : (Jvm.Cond.code ({ cls := "BorrowedLuckModel", name := "worthOf", desc := "(I)I" } : Jvm.MethodName) prog_18_method_63_code (2 : Nat) (Option.some Jvm.ClassFile.FieldType.int)) ∈ lw_all := lw_g (lw_at lw_m7 186 rfl) rfl
theorem q1748 : (Jvm.Cond.methodLink "BorrowedLuckModel" (272 : Nat) ({ cls := "BorrowedLuckModel", name := "luckIn", desc := "(I)I" } : Jvm.MethodName)) ∈ lw_all := lw_g (lw_at lw_m7 187 rfl) rfl
theorem q1749 : (Jvm.Cond.privateMethod ({ cls := "BorrowedLuckModel", name := "luckIn", desc := "(I)I" } : Jvm.MethodName)) ∈ lw_tbl := lw_at lw_m7 188 rfl
theorem q1750 : (Jvm.Cond.instanceMethod ({ cls := "BorrowedLuckModel", name := "luckIn", desc := "(I)I" } : Jvm.MethodName)) ∈ lw_all := lw_g (lw_at lw_m7 189 rfl) rfl
theorem q1751 : (Jvm.Cond.code ({ cls := "BorrowedLuckModel", name := "luckIn", desc := "(I)I" } : Jvm.MethodName) prog_18_method_62_code (4 : Nat) (Option.some Jvm.ClassFile.FieldType.int)) ∈ lw_all := lw_g (lw_at lw_m7 190 rfl) rfl
theorem q1753 : (Jvm.Cond.instanceMethod ({ cls := "BorrowedLuckModel", name := "gain", desc := "(II)I" } : Jvm.MethodName)) ∈ lw_all := lw_g (lw_at lw_m7 192 rfl) rfl
theorem q1754 : (Jvm.Cond.selects "BorrowedLuckModel" ({ cls := "BorrowedLuckModel", name := "gain", desc := "(II)I" } : Jvm.MethodName) ({ cls := "BorrowedLuckModel", name := "gain", desc := "(II)I" } : Jvm.MethodName)) ∈ lw_all := lw_g (lw_at lw_m7 193 rfl) rfl
theorem q1755 : (Jvm.Cond.code ({ cls := "BorrowedLuckModel", name := "gain", desc := "(II)I" } : Jvm.MethodName) prog_18_method_67_code (3 : Nat) (Option.some Jvm.ClassFile.FieldType.int)) ∈ lw_all := lw_g (lw_at lw_m7 194 rfl) rfl
theorem q1756 : (Jvm.Cond.methodLink "BorrowedLuckModel" (290 : Nat) ({ cls := "BorrowedLuckModel", name := "gainOf", desc := "(II)I" } : Jvm.MethodName)) ∈ lw_all := lw_g (lw_at lw_m7 195 rfl) rfl
theorem q1757 : (Jvm.Cond.privateMethod ({ cls := "BorrowedLuckModel", name := "gainOf", desc := "(II)I" } : Jvm.MethodName)) ∈ lw_tbl := lw_at lw_m7 196 rfl
theorem q1758 : (Jvm.Cond.instanceMethod ({ cls := "BorrowedLuckModel", name := "gainOf", desc := "(II)I" } : Jvm.MethodName)) ∈ lw_all := lw_g (lw_at lw_m7 197 rfl) rfl
theorem q1759 : (Jvm.Cond.code ({ cls := "BorrowedLuckModel", name := "gainOf", desc := "(II)I" } : Jvm.MethodName) prog_18_method_60_code (5 : Nat) (Option.some Jvm.ClassFile.FieldType.int)) ∈ lw_all := lw_g (lw_at lw_m7 198 rfl) rfl
theorem q1760 : (Jvm.Cond.methodLink "BorrowedLuckModel" (269 : Nat) ({ cls := "BorrowedLuckModel", name := "moreOf", desc := "(III)I" } : Jvm.MethodName)) ∈ lw_all := lw_g (lw_at lw_m7 199 rfl) rfl
theorem q1761 : (Jvm.Cond.privateMethod ({ cls := "BorrowedLuckModel", name := "moreOf", desc := "(III)I" } : Jvm.MethodName)) ∈ lw_tbl := lw_at lw_m7 200 rfl
theorem q1762 : (Jvm.Cond.instanceMethod ({ cls := "BorrowedLuckModel", name := "moreOf", desc := "(III)I" } : Jvm.MethodName)) ∈ lw_all := lw_g (lw_at lw_m7 201 rfl) rfl
theorem q1763 : (Jvm.Cond.code ({ cls := "BorrowedLuckModel", name := "moreOf", desc := "(III)I" } : Jvm.MethodName) prog_18_method_59_code (6 : Nat) (Option.some Jvm.ClassFile.FieldType.int)) ∈ lw_all := lw_g (lw_at lw_m7 202 rfl) rfl
theorem q1764 : (Jvm.Cond.methodLink "BorrowedLuckModel" (256 : Nat) ({ cls := "BorrowedLuckModel", name := "flowsBy", desc := "(III)I" } : Jvm.MethodName)) ∈ lw_all := lw_g (lw_at lw_m7 203 rfl) rfl
theorem q1765 : (Jvm.Cond.privateMethod ({ cls := "BorrowedLuckModel", name := "flowsBy", desc := "(III)I" } : Jvm.MethodName)) ∈ lw_tbl := lw_at lw_m7 204 rfl
theorem q1766 : (Jvm.Cond.instanceMethod ({ cls := "BorrowedLuckModel", name := "flowsBy", desc := "(III)I" } : Jvm.MethodName)) ∈ lw_all := lw_g (lw_at lw_m7 205 rfl) rfl
theorem q1767 : (Jvm.Cond.code ({ cls := "BorrowedLuckModel", name := "flowsBy", desc := "(III)I" } : Jvm.MethodName) prog_18_method_56_code (4 : Nat) (Option.some Jvm.ClassFile.FieldType.int)) ∈ lw_all := lw_g (lw_at lw_m7 206 rfl) rfl
theorem q1768 : (Jvm.Cond.methodLink "BorrowedLuckModel" (252 : Nat) ({ cls := "BorrowedLuckModel", name := "sumOf", desc := "(IIII)I" } : Jvm.MethodName)) ∈ lw_all := lw_g (lw_at lw_m7 207 rfl) rfl
theorem q1769 : (Jvm.Cond.privateMethod ({ cls := "BorrowedLuckModel", name := "sumOf", desc := "(IIII)I" } : Jvm.MethodName)) ∈ lw_tbl := lw_at lw_m7 208 rfl
theorem q1770 : (Jvm.Cond.instanceMethod ({ cls := "BorrowedLuckModel", name := "sumOf", desc := "(IIII)I" } : Jvm.MethodName)) ∈ lw_all := lw_g (lw_at lw_m7 209 rfl) rfl
theorem q1771 : (Jvm.Cond.code ({ cls := "BorrowedLuckModel", name := "sumOf", desc := "(IIII)I" } : Jvm.MethodName) prog_18_method_55_code (7 : Nat) (Option.some Jvm.ClassFile.FieldType.int)) ∈ lw_all := lw_g (lw_at lw_m7 210 rfl) rfl
theorem q1772 : (Jvm.Cond.methodLink "BorrowedLuckModel" (248 : Nat) ({ cls := "BorrowedLuckModel", name := "holdsLine", desc := "(IIII)Z" } : Jvm.MethodName)) ∈ lw_all := lw_g (lw_at lw_m7 211 rfl) rfl
theorem q1773 : (Jvm.Cond.privateMethod ({ cls := "BorrowedLuckModel", name := "holdsLine", desc := "(IIII)Z" } : Jvm.MethodName)) ∈ lw_tbl := lw_at lw_m7 212 rfl
theorem q1774 : (Jvm.Cond.instanceMethod ({ cls := "BorrowedLuckModel", name := "holdsLine", desc := "(IIII)Z" } : Jvm.MethodName)) ∈ lw_all := lw_g (lw_at lw_m7 213 rfl) rfl
theorem q1775 : (Jvm.Cond.code ({ cls := "BorrowedLuckModel", name := "holdsLine", desc := "(IIII)Z" } : Jvm.MethodName) prog_18_method_54_code (12 : Nat) (Option.some Jvm.ClassFile.FieldType.boolean)) ∈ lw_all := lw_g (lw_at lw_m7 214 rfl) rfl
theorem q1776 : (Jvm.Cond.methodLink "BorrowedLuckModel" (244 : Nat) ({ cls := "BorrowedLuckModel", name := "factOf", desc := "(IIIII)I" } : Jvm.MethodName)) ∈ lw_all := lw_g (lw_at lw_m7 215 rfl) rfl
theorem q1777 : (Jvm.Cond.privateMethod ({ cls := "BorrowedLuckModel", name := "factOf", desc := "(IIIII)I" } : Jvm.MethodName)) ∈ lw_tbl := lw_at lw_m7 216 rfl
theorem q1778 : (Jvm.Cond.instanceMethod ({ cls := "BorrowedLuckModel", name := "factOf", desc := "(IIIII)I" } : Jvm.MethodName)) ∈ lw_all := lw_g (lw_at lw_m7 217 rfl) rfl
theorem q1779 : (Jvm.Cond.code ({ cls := "BorrowedLuckModel", name := "factOf", desc := "(IIIII)I" } : Jvm.MethodName) prog_18_method_53_code (6 : Nat) (Option.some Jvm.ClassFile.FieldType.int)) ∈ lw_all := lw_g (lw_at lw_m7 218 rfl) rfl
theorem q1780 : (Jvm.Cond.methodLink "BorrowedLuckModel" (260 : Nat) ({ cls := "java/lang/Math", name := "abs", desc := "(I)I" } : Jvm.MethodName)) ∈ lw_all := lw_g (lw_at lw_m7 219 rfl) rfl
theorem q1781 : (Jvm.Cond.methodLink "BorrowedLuckModel" (266 : Nat) ({ cls := "java/lang/Math", name := "min", desc := "(II)I" } : Jvm.MethodName)) ∈ lw_all := lw_g (lw_at lw_m7 220 rfl) rfl
theorem q1783 : (Jvm.Cond.instanceMethod ({ cls := "BorrowedLuckModel", name := "flows", desc := "(III)I" } : Jvm.MethodName)) ∈ lw_all := lw_g (lw_at lw_m7 222 rfl) rfl
theorem q1784 : (Jvm.Cond.selects "BorrowedLuckModel" ({ cls := "BorrowedLuckModel", name := "flows", desc := "(III)I" } : Jvm.MethodName) ({ cls := "BorrowedLuckModel", name := "flows", desc := "(III)I" } : Jvm.MethodName)) ∈ lw_all := lw_g (lw_at lw_m7 223 rfl) rfl
theorem q1785 : (Jvm.Cond.code ({ cls := "BorrowedLuckModel", name := "flows", desc := "(III)I" } : Jvm.MethodName) prog_18_method_68_code (4 : Nat) (Option.some Jvm.ClassFile.FieldType.int)) ∈ lw_all := lw_g (lw_at lw_m7 224 rfl) rfl
theorem q1786 : (Jvm.Cond.methodLink "BorrowedLuckModel" (293 : Nat) ({ cls := "BorrowedLuckModel", name := "noSort", desc := "(I)Z" } : Jvm.MethodName)) ∈ lw_all := lw_g (lw_at lw_m7 225 rfl) rfl
theorem q1787 : (Jvm.Cond.static ({ cls := "BorrowedLuckModel", name := "noSort", desc := "(I)Z" } : Jvm.MethodName)) ∈ lw_all := lw_g (lw_at lw_m7 226 rfl) rfl
theorem q1788 : (Jvm.Cond.code ({ cls := "BorrowedLuckModel", name := "noSort", desc := "(I)Z" } : Jvm.MethodName) prog_18_method_21_code (1 : Nat) (Option.some Jvm.ClassFile.FieldType.boolean)) ∈ lw_all := lw_g (lw_at lw_m7 227 rfl) rfl
theorem q1790 : (Jvm.Cond.instanceMethod ({ cls := "BorrowedLuckModel", name := "lend", desc := "(II)I" } : Jvm.MethodName)) ∈ lw_all := lw_g (lw_at lw_m7 229 rfl) rfl
theorem q1791 : (Jvm.Cond.selects "BorrowedLuckModel" ({ cls := "BorrowedLuckModel", name := "lend", desc := "(II)I" } : Jvm.MethodName) ({ cls := "BorrowedLuckModel", name := "lend", desc := "(II)I" } : Jvm.MethodName)) ∈ lw_all := lw_g (lw_at lw_m7 230 rfl) rfl
theorem q1792 : (Jvm.Cond.code ({ cls := "BorrowedLuckModel", name := "lend", desc := "(II)I" } : Jvm.MethodName) prog_18_method_76_code (4 : Nat) (Option.some Jvm.ClassFile.FieldType.int)) ∈ lw_all := lw_g (lw_at lw_m7 231 rfl) rfl
theorem q1793 : (Jvm.Cond.methodLink "BorrowedLuckModel" (330 : Nat) ({ cls := "BorrowedLuckModel", name := "mayNot", desc := "(II)Z" } : Jvm.MethodName)) ∈ lw_all := lw_g (lw_at lw_m7 232 rfl) rfl
theorem q1794 : (Jvm.Cond.privateMethod ({ cls := "BorrowedLuckModel", name := "mayNot", desc := "(II)Z" } : Jvm.MethodName)) ∈ lw_tbl := lw_at lw_m7 233 rfl
theorem q1795 : (Jvm.Cond.instanceMethod ({ cls := "BorrowedLuckModel", name := "mayNot", desc := "(II)Z" } : Jvm.MethodName)) ∈ lw_all := lw_g (lw_at lw_m7 234 rfl) rfl
theorem q1796 : (Jvm.Cond.code ({ cls := "BorrowedLuckModel", name := "mayNot", desc := "(II)Z" } : Jvm.MethodName) prog_18_method_75_code (4 : Nat) (Option.some Jvm.ClassFile.FieldType.boolean)) ∈ lw_all := lw_g (lw_at lw_m7 235 rfl) rfl
theorem q1797 : (Jvm.Cond.methodLink "BorrowedLuckModel" (305 : Nat) ({ cls := "BorrowedLuckModel", name := "isPawned", desc := "(I)Z" } : Jvm.MethodName)) ∈ lw_all := lw_g (lw_at lw_m7 236 rfl) rfl
theorem q1798 : (Jvm.Cond.privateMethod ({ cls := "BorrowedLuckModel", name := "isPawned", desc := "(I)Z" } : Jvm.MethodName)) ∈ lw_tbl := lw_at lw_m7 237 rfl
theorem q1799 : (Jvm.Cond.instanceMethod ({ cls := "BorrowedLuckModel", name := "isPawned", desc := "(I)Z" } : Jvm.MethodName)) ∈ lw_all := lw_g (lw_at lw_m7 238 rfl) rfl
theorem q1800 : (Jvm.Cond.code ({ cls := "BorrowedLuckModel", name := "isPawned", desc := "(I)Z" } : Jvm.MethodName) prog_18_method_17_code (2 : Nat) (Option.some Jvm.ClassFile.FieldType.boolean)) ∈ lw_all := lw_g (lw_at lw_m7 239 rfl) rfl
theorem q1801 : (Jvm.Cond.methodLink "BorrowedLuckModel" (302 : Nat) ({ cls := "BorrowedLuckModel", name := "isStuck", desc := "(I)Z" } : Jvm.MethodName)) ∈ lw_all := lw_g (lw_at lw_m8 0 rfl) rfl
theorem q1802 : (Jvm.Cond.privateMethod ({ cls := "BorrowedLuckModel", name := "isStuck", desc := "(I)Z" } : Jvm.MethodName)) ∈ lw_tbl := lw_at lw_m8 1 rfl
theorem q1803 : (Jvm.Cond.instanceMethod ({ cls := "BorrowedLuckModel", name := "isStuck", desc := "(I)Z" } : Jvm.MethodName)) ∈ lw_all := lw_g (lw_at lw_m8 2 rfl) rfl
theorem q1804 : (Jvm.Cond.code ({ cls := "BorrowedLuckModel", name := "isStuck", desc := "(I)Z" } : Jvm.MethodName) prog_18_method_18_code (2 : Nat) (Option.some Jvm.ClassFile.FieldType.boolean)) ∈ lw_all := lw_g (lw_at lw_m8 3 rfl) rfl
theorem q1805 : (Jvm.Cond.methodLink "BorrowedLuckModel" (311 : Nat) ({ cls := "BorrowedLuckModel", name := "isWidow", desc := "(I)Z" } : Jvm.MethodName)) ∈ lw_all := lw_g (lw_at lw_m8 4 rfl) rfl
theorem q1806 : (Jvm.Cond.privateMethod ({ cls := "BorrowedLuckModel", name := "isWidow", desc := "(I)Z" } : Jvm.MethodName)) ∈ lw_tbl := lw_at lw_m8 5 rfl
theorem q1807 : (Jvm.Cond.instanceMethod ({ cls := "BorrowedLuckModel", name := "isWidow", desc := "(I)Z" } : Jvm.MethodName)) ∈ lw_all := lw_g (lw_at lw_m8 6 rfl) rfl
theorem q1808 : (Jvm.Cond.code ({ cls := "BorrowedLuckModel", name := "isWidow", desc := "(I)Z" } : Jvm.MethodName) prog_18_method_14_code (2 : Nat) (Option.some Jvm.ClassFile.FieldType.boolean)) ∈ lw_all := lw_g (lw_at lw_m8 7 rfl) rfl
theorem q1809 : (Jvm.Cond.methodLink "BorrowedLuckModel" (333 : Nat) ({ cls := "BorrowedLuckModel", name := "remembers", desc := "()V" } : Jvm.MethodName)) ∈ lw_all := lw_g (lw_at lw_m8 8 rfl) rfl
theorem q1810 : (Jvm.Cond.privateMethod ({ cls := "BorrowedLuckModel", name := "remembers", desc := "()V" } : Jvm.MethodName)) ∈ lw_tbl := lw_at lw_m8 9 rfl
theorem q1811 : (Jvm.Cond.instanceMethod ({ cls := "BorrowedLuckModel", name := "remembers", desc := "()V" } : Jvm.MethodName)) ∈ lw_all := lw_g (lw_at lw_m8 10 rfl) rfl
theorem q1812 : (Jvm.Cond.code ({ cls := "BorrowedLuckModel", name := "remembers", desc := "()V" } : Jvm.MethodName) prog_18_method_8_code (2 : Nat) (Option.none : Option Jvm.ClassFile.FieldType)) ∈ lw_all := lw_g (lw_at lw_m8 11 rfl) rfl
theorem q1814 : (Jvm.Cond.instanceMethod ({ cls := "BorrowedLuckModel", name := "wed", desc := "(II)I" } : Jvm.MethodName)) ∈ lw_all := lw_g (lw_at lw_m8 13 rfl) rfl
theorem q1815 : (Jvm.Cond.selects "BorrowedLuckModel" ({ cls := "BorrowedLuckModel", name := "wed", desc := "(II)I" } : Jvm.MethodName) ({ cls := "BorrowedLuckModel", name := "wed", desc := "(II)I" } : Jvm.MethodName)) ∈ lw_all := lw_g (lw_at lw_m8 14 rfl) rfl
theorem q1816 : (Jvm.Cond.code ({ cls := "BorrowedLuckModel", name := "wed", desc := "(II)I" } : Jvm.MethodName) prog_18_method_77_code (4 : Nat) (Option.some Jvm.ClassFile.FieldType.int)) ∈ lw_all := lw_g (lw_at lw_m8 15 rfl) rfl
theorem q1817 : (Jvm.Cond.methodLink "BorrowedLuckModel" (320 : Nat) ({ cls := "BorrowedLuckModel", name := "weds", desc := "(II)I" } : Jvm.MethodName)) ∈ lw_all := lw_g (lw_at lw_m8 16 rfl) rfl
theorem q1818 : (Jvm.Cond.privateMethod ({ cls := "BorrowedLuckModel", name := "weds", desc := "(II)I" } : Jvm.MethodName)) ∈ lw_tbl := lw_at lw_m8 17 rfl
theorem q1819 : (Jvm.Cond.instanceMethod ({ cls := "BorrowedLuckModel", name := "weds", desc := "(II)I" } : Jvm.MethodName)) ∈ lw_all := lw_g (lw_at lw_m8 18 rfl) rfl
theorem q1820 : (Jvm.Cond.code ({ cls := "BorrowedLuckModel", name := "weds", desc := "(II)I" } : Jvm.MethodName) prog_18_method_69_code (7 : Nat) (Option.some Jvm.ClassFile.FieldType.int)) ∈ lw_all := lw_g (lw_at lw_m8 19 rfl) rfl
theorem q1821 : (Jvm.Cond.methodLink "BorrowedLuckModel" (296 : Nat) ({ cls := "BorrowedLuckModel", name := "wearsBy", desc := "(II)I" } : Jvm.MethodName)) ∈ lw_all := lw_g (lw_at lw_m8 20 rfl) rfl
theorem q1822 : (Jvm.Cond.privateMethod ({ cls := "BorrowedLuckModel", name := "wearsBy", desc := "(II)I" } : Jvm.MethodName)) ∈ lw_tbl := lw_at lw_m8 21 rfl
theorem q1823 : (Jvm.Cond.instanceMethod ({ cls := "BorrowedLuckModel", name := "wearsBy", desc := "(II)I" } : Jvm.MethodName)) ∈ lw_all := lw_g (lw_at lw_m8 22 rfl) rfl
theorem q1824 : (Jvm.Cond.code ({ cls := "BorrowedLuckModel", name := "wearsBy", desc := "(II)I" } : Jvm.MethodName) prog_18_method_57_code (3 : Nat) (Option.some Jvm.ClassFile.FieldType.int)) ∈ lw_all := lw_g (lw_at lw_m8 23 rfl) rfl
theorem q1825 : (Jvm.Cond.methodLink "BorrowedLuckModel" (299 : Nat) ({ cls := "BorrowedLuckModel", name := "sticksTo", desc := "(II)Z" } : Jvm.MethodName)) ∈ lw_all := lw_g (lw_at lw_m8 24 rfl) rfl
theorem q1826 : (Jvm.Cond.privateMethod ({ cls := "BorrowedLuckModel", name := "sticksTo", desc := "(II)Z" } : Jvm.MethodName)) ∈ lw_tbl := lw_at lw_m8 25 rfl
theorem q1827 : (Jvm.Cond.instanceMethod ({ cls := "BorrowedLuckModel", name := "sticksTo", desc := "(II)Z" } : Jvm.MethodName)) ∈ lw_all := lw_g (lw_at lw_m8 26 rfl) rfl
theorem q1828 : (Jvm.Cond.code ({ cls := "BorrowedLuckModel", name := "sticksTo", desc := "(II)Z" } : Jvm.MethodName) prog_18_method_58_code (3 : Nat) (Option.some Jvm.ClassFile.FieldType.boolean)) ∈ lw_all := lw_g (lw_at lw_m8 27 rfl) rfl
theorem q1829 : (Jvm.Cond.methodLink "BorrowedLuckModel" (323 : Nat) ({ cls := "BorrowedLuckModel", name := "tells", desc := "(III)V" } : Jvm.MethodName)) ∈ lw_all := lw_g (lw_at lw_m8 28 rfl) rfl
theorem q1830 : (Jvm.Cond.privateMethod ({ cls := "BorrowedLuckModel", name := "tells", desc := "(III)V" } : Jvm.MethodName)) ∈ lw_tbl := lw_at lw_m8 29 rfl
theorem q1831 : (Jvm.Cond.instanceMethod ({ cls := "BorrowedLuckModel", name := "tells", desc := "(III)V" } : Jvm.MethodName)) ∈ lw_all := lw_g (lw_at lw_m8 30 rfl) rfl
theorem q1832 : (Jvm.Cond.code ({ cls := "BorrowedLuckModel", name := "tells", desc := "(III)V" } : Jvm.MethodName) prog_18_method_70_code (5 : Nat) (Option.none : Option Jvm.ClassFile.FieldType)) ∈ lw_all := lw_g (lw_at lw_m8 31 rfl) rfl
theorem q1834 : (Jvm.Cond.instanceMethod ({ cls := "BorrowedLuckModel", name := "pawn", desc := "(I)I" } : Jvm.MethodName)) ∈ lw_all := lw_g (lw_at lw_m8 33 rfl) rfl
theorem q1835 : (Jvm.Cond.selects "BorrowedLuckModel" ({ cls := "BorrowedLuckModel", name := "pawn", desc := "(I)I" } : Jvm.MethodName) ({ cls := "BorrowedLuckModel", name := "pawn", desc := "(I)I" } : Jvm.MethodName)) ∈ lw_all := lw_g (lw_at lw_m8 34 rfl) rfl
theorem q1836 : (Jvm.Cond.code ({ cls := "BorrowedLuckModel", name := "pawn", desc := "(I)I" } : Jvm.MethodName) prog_18_method_78_code (3 : Nat) (Option.some Jvm.ClassFile.FieldType.int)) ∈ lw_all := lw_g (lw_at lw_m8 35 rfl) rfl
theorem q1838 : (Jvm.Cond.instanceMethod ({ cls := "BorrowedLuckModel", name := "redeem", desc := "(I)I" } : Jvm.MethodName)) ∈ lw_all := lw_g (lw_at lw_m8 37 rfl) rfl
theorem q1839 : (Jvm.Cond.selects "BorrowedLuckModel" ({ cls := "BorrowedLuckModel", name := "redeem", desc := "(I)I" } : Jvm.MethodName) ({ cls := "BorrowedLuckModel", name := "redeem", desc := "(I)I" } : Jvm.MethodName)) ∈ lw_all := lw_g (lw_at lw_m8 38 rfl) rfl
theorem q1840 : (Jvm.Cond.code ({ cls := "BorrowedLuckModel", name := "redeem", desc := "(I)I" } : Jvm.MethodName) prog_18_method_79_code (3 : Nat) (Option.some Jvm.ClassFile.FieldType.int)) ∈ lw_all := lw_g (lw_at lw_m8 39 rfl) rfl
theorem q1842 : (Jvm.Cond.instanceMethod ({ cls := "BorrowedLuckModel", name := "cut", desc := "(I)I" } : Jvm.MethodName)) ∈ lw_all := lw_g (lw_at lw_m8 41 rfl) rfl
theorem q1843 : (Jvm.Cond.selects "BorrowedLuckModel" ({ cls := "BorrowedLuckModel", name := "cut", desc := "(I)I" } : Jvm.MethodName) ({ cls := "BorrowedLuckModel", name := "cut", desc := "(I)I" } : Jvm.MethodName)) ∈ lw_all := lw_g (lw_at lw_m8 42 rfl) rfl
theorem q1844 : (Jvm.Cond.code ({ cls := "BorrowedLuckModel", name := "cut", desc := "(I)I" } : Jvm.MethodName) prog_18_method_80_code (3 : Nat) (Option.some Jvm.ClassFile.FieldType.int)) ∈ lw_all := lw_g (lw_at lw_m8 43 rfl) rfl
theorem q1846 : (Jvm.Cond.instanceMethod ({ cls := "BorrowedLuckModel", name := "widow", desc := "(IZ)Z" } : Jvm.MethodName)) ∈ lw_all := lw_g (lw_at lw_m8 45 rfl) rfl
theorem q1847 : (Jvm.Cond.selects "BorrowedLuckModel" ({ cls := "BorrowedLuckModel", name := "widow", desc := "(IZ)Z" } : Jvm.MethodName) ({ cls := "BorrowedLuckModel", name := "widow", desc := "(IZ)Z" } : Jvm.MethodName)) ∈ lw_all := lw_g (lw_at lw_m8 46 rfl) rfl
theorem q1848 : (Jvm.Cond.code ({ cls := "BorrowedLuckModel", name := "widow", desc := "(IZ)Z" } : Jvm.MethodName) prog_18_method_81_code (4 : Nat) (Option.some Jvm.ClassFile.FieldType.boolean)) ∈ lw_all := lw_g (lw_at lw_m8 47 rfl) rfl
theorem q1850 : (Jvm.Cond.instanceMethod ({ cls := "BorrowedLuckModel", name := "days", desc := "(I)I" } : Jvm.MethodName)) ∈ lw_all := lw_g (lw_at lw_m8 49 rfl) rfl
theorem q1851 : (Jvm.Cond.selects "BorrowedLuckModel" ({ cls := "BorrowedLuckModel", name := "days", desc := "(I)I" } : Jvm.MethodName) ({ cls := "BorrowedLuckModel", name := "days", desc := "(I)I" } : Jvm.MethodName)) ∈ lw_all := lw_g (lw_at lw_m8 50 rfl) rfl
theorem q1852 : (Jvm.Cond.code ({ cls := "BorrowedLuckModel", name := "days", desc := "(I)I" } : Jvm.MethodName) prog_18_method_82_code (2 : Nat) (Option.some Jvm.ClassFile.FieldType.int)) ∈ lw_all := lw_g (lw_at lw_m8 51 rfl) rfl
theorem q1853 : (Jvm.Cond.methodLink "BorrowedLuckModel" (336 : Nat) ({ cls := "BorrowedLuckModel", name := "goesOn", desc := "(I)I" } : Jvm.MethodName)) ∈ lw_all := lw_g (lw_at lw_m8 52 rfl) rfl
theorem q1854 : (Jvm.Cond.privateMethod ({ cls := "BorrowedLuckModel", name := "goesOn", desc := "(I)I" } : Jvm.MethodName)) ∈ lw_tbl := lw_at lw_m8 53 rfl
theorem q1855 : (Jvm.Cond.instanceMethod ({ cls := "BorrowedLuckModel", name := "goesOn", desc := "(I)I" } : Jvm.MethodName)) ∈ lw_all := lw_g (lw_at lw_m8 54 rfl) rfl
theorem q1856 : (Jvm.Cond.code ({ cls := "BorrowedLuckModel", name := "goesOn", desc := "(I)I" } : Jvm.MethodName) prog_18_method_74_code (4 : Nat) (Option.some Jvm.ClassFile.FieldType.int)) ∈ lw_all := lw_g (lw_at lw_m8 55 rfl) rfl
theorem q1857 : (Jvm.Cond.methodLink "BorrowedLuckModel" (327 : Nat) ({ cls := "BorrowedLuckModel", name := "oneDay", desc := "()I" } : Jvm.MethodName)) ∈ lw_all := lw_g (lw_at lw_m8 56 rfl) rfl
theorem q1858 : (Jvm.Cond.privateMethod ({ cls := "BorrowedLuckModel", name := "oneDay", desc := "()I" } : Jvm.MethodName)) ∈ lw_tbl := lw_at lw_m8 57 rfl
theorem q1859 : (Jvm.Cond.instanceMethod ({ cls := "BorrowedLuckModel", name := "oneDay", desc := "()I" } : Jvm.MethodName)) ∈ lw_all := lw_g (lw_at lw_m8 58 rfl) rfl
theorem q1860 : (Jvm.Cond.code ({ cls := "BorrowedLuckModel", name := "oneDay", desc := "()I" } : Jvm.MethodName) prog_18_method_73_code (4 : Nat) (Option.some Jvm.ClassFile.FieldType.int)) ∈ lw_all := lw_g (lw_at lw_m8 59 rfl) rfl
theorem q1861 : (Jvm.Cond.methodLink "BorrowedLuckModel" (314 : Nat) ({ cls := "BorrowedLuckModel", name := "drawn", desc := "(I)I" } : Jvm.MethodName)) ∈ lw_all := lw_g (lw_at lw_m8 60 rfl) rfl
theorem q1862 : (Jvm.Cond.privateMethod ({ cls := "BorrowedLuckModel", name := "drawn", desc := "(I)I" } : Jvm.MethodName)) ∈ lw_tbl := lw_at lw_m8 61 rfl
theorem q1863 : (Jvm.Cond.instanceMethod ({ cls := "BorrowedLuckModel", name := "drawn", desc := "(I)I" } : Jvm.MethodName)) ∈ lw_all := lw_g (lw_at lw_m8 62 rfl) rfl
theorem q1864 : (Jvm.Cond.code ({ cls := "BorrowedLuckModel", name := "drawn", desc := "(I)I" } : Jvm.MethodName) prog_18_method_22_code (2 : Nat) (Option.some Jvm.ClassFile.FieldType.int)) ∈ lw_all := lw_g (lw_at lw_m8 63 rfl) rfl
theorem q1865 : (Jvm.Cond.constant "BorrowedLuckModel" (85 : Nat) (1103515245 : Int32)) ∈ lw_all := lw_g (lw_at lw_m8 64 rfl) rfl
theorem q1866 : (Jvm.Cond.methodLink "BorrowedLuckModel" (317 : Nat) ({ cls := "BorrowedLuckModel", name := "comesTo", desc := "(II)Z" } : Jvm.MethodName)) ∈ lw_all := lw_g (lw_at lw_m8 65 rfl) rfl
theorem q1867 : (Jvm.Cond.privateMethod ({ cls := "BorrowedLuckModel", name := "comesTo", desc := "(II)Z" } : Jvm.MethodName)) ∈ lw_tbl := lw_at lw_m8 66 rfl
theorem q1868 : (Jvm.Cond.instanceMethod ({ cls := "BorrowedLuckModel", name := "comesTo", desc := "(II)Z" } : Jvm.MethodName)) ∈ lw_all := lw_g (lw_at lw_m8 67 rfl) rfl
theorem q1869 : (Jvm.Cond.code ({ cls := "BorrowedLuckModel", name := "comesTo", desc := "(II)Z" } : Jvm.MethodName) prog_18_method_72_code (3 : Nat) (Option.some Jvm.ClassFile.FieldType.boolean)) ∈ lw_all := lw_g (lw_at lw_m8 68 rfl) rfl
theorem q1870 : (Jvm.Cond.methodLink "BorrowedLuckModel" (308 : Nat) ({ cls := "BorrowedLuckModel", name := "isStuckElsewhere", desc := "(II)Z" } : Jvm.MethodName)) ∈ lw_all := lw_g (lw_at lw_m8 69 rfl) rfl
theorem q1871 : (Jvm.Cond.privateMethod ({ cls := "BorrowedLuckModel", name := "isStuckElsewhere", desc := "(II)Z" } : Jvm.MethodName)) ∈ lw_tbl := lw_at lw_m8 70 rfl
theorem q1872 : (Jvm.Cond.instanceMethod ({ cls := "BorrowedLuckModel", name := "isStuckElsewhere", desc := "(II)Z" } : Jvm.MethodName)) ∈ lw_all := lw_g (lw_at lw_m8 71 rfl) rfl
theorem q1873 : (Jvm.Cond.code ({ cls := "BorrowedLuckModel", name := "isStuckElsewhere", desc := "(II)Z" } : Jvm.MethodName) prog_18_method_71_code (3 : Nat) (Option.some Jvm.ClassFile.FieldType.boolean)) ∈ lw_all := lw_g (lw_at lw_m8 72 rfl) rfl
theorem q1875 : (Jvm.Cond.instanceMethod ({ cls := "BorrowedLuckModel", name := "best", desc := "(I)I" } : Jvm.MethodName)) ∈ lw_all := lw_g (lw_at lw_m8 74 rfl) rfl
theorem q1876 : (Jvm.Cond.selects "BorrowedLuckModel" ({ cls := "BorrowedLuckModel", name := "best", desc := "(I)I" } : Jvm.MethodName) ({ cls := "BorrowedLuckModel", name := "best", desc := "(I)I" } : Jvm.MethodName)) ∈ lw_all := lw_g (lw_at lw_m8 75 rfl) rfl
theorem q1877 : (Jvm.Cond.code ({ cls := "BorrowedLuckModel", name := "best", desc := "(I)I" } : Jvm.MethodName) prog_18_method_86_code (4 : Nat) (Option.some Jvm.ClassFile.FieldType.int)) ∈ lw_all := lw_g (lw_at lw_m8 76 rfl) rfl
theorem q1878 : (Jvm.Cond.methodLink "BorrowedLuckModel" (339 : Nat) ({ cls := "BorrowedLuckModel", name := "mayHave", desc := "(II)Z" } : Jvm.MethodName)) ∈ lw_all := lw_g (lw_at lw_m8 77 rfl) rfl
theorem q1879 : (Jvm.Cond.privateMethod ({ cls := "BorrowedLuckModel", name := "mayHave", desc := "(II)Z" } : Jvm.MethodName)) ∈ lw_tbl := lw_at lw_m8 78 rfl
theorem q1880 : (Jvm.Cond.instanceMethod ({ cls := "BorrowedLuckModel", name := "mayHave", desc := "(II)Z" } : Jvm.MethodName)) ∈ lw_all := lw_g (lw_at lw_m8 79 rfl) rfl
theorem q1881 : (Jvm.Cond.code ({ cls := "BorrowedLuckModel", name := "mayHave", desc := "(II)Z" } : Jvm.MethodName) prog_18_method_85_code (3 : Nat) (Option.some Jvm.ClassFile.FieldType.boolean)) ∈ lw_all := lw_g (lw_at lw_m8 80 rfl) rfl
theorem q1883 : (Jvm.Cond.instanceMethod ({ cls := "BorrowedLuckModel", name := "order", desc := "(III)I" } : Jvm.MethodName)) ∈ lw_all := lw_g (lw_at lw_m8 82 rfl) rfl
theorem q1884 : (Jvm.Cond.selects "BorrowedLuckModel" ({ cls := "BorrowedLuckModel", name := "order", desc := "(III)I" } : Jvm.MethodName) ({ cls := "BorrowedLuckModel", name := "order", desc := "(III)I" } : Jvm.MethodName)) ∈ lw_all := lw_g (lw_at lw_m8 83 rfl) rfl
theorem q1885 : (Jvm.Cond.code ({ cls := "BorrowedLuckModel", name := "order", desc := "(III)I" } : Jvm.MethodName) prog_18_method_91_code (10 : Nat) (Option.some Jvm.ClassFile.FieldType.int)) ∈ lw_all := lw_g (lw_at lw_m8 84 rfl) rfl
theorem q1886 : (Jvm.Cond.methodLink "BorrowedLuckModel" (362 : Nat) ({ cls := "BorrowedLuckModel", name := "allWomen", desc := "()I" } : Jvm.MethodName)) ∈ lw_all := lw_g (lw_at lw_m8 85 rfl) rfl
theorem q1887 : (Jvm.Cond.privateMethod ({ cls := "BorrowedLuckModel", name := "allWomen", desc := "()I" } : Jvm.MethodName)) ∈ lw_tbl := lw_at lw_m8 86 rfl
theorem q1888 : (Jvm.Cond.instanceMethod ({ cls := "BorrowedLuckModel", name := "allWomen", desc := "()I" } : Jvm.MethodName)) ∈ lw_all := lw_g (lw_at lw_m8 87 rfl) rfl
theorem q1889 : (Jvm.Cond.code ({ cls := "BorrowedLuckModel", name := "allWomen", desc := "()I" } : Jvm.MethodName) prog_18_method_88_code (1 : Nat) (Option.some Jvm.ClassFile.FieldType.int)) ∈ lw_all := lw_g (lw_at lw_m8 88 rfl) rfl
theorem q1890 : (Jvm.Cond.methodLink "BorrowedLuckModel" (342 : Nat) ({ cls := "java/lang/Integer", name := "bitCount", desc := "(I)I" } : Jvm.MethodName)) ∈ lw_all := lw_g (lw_at lw_m8 89 rfl) rfl
theorem q1891 : (Jvm.Cond.constant "BorrowedLuckModel" (365 : Nat) (-1000000 : Int32)) ∈ lw_all := lw_g (lw_at lw_m8 90 rfl) rfl
theorem q1892 : (Jvm.Cond.methodLink "BorrowedLuckModel" (347 : Nat) ({ cls := "BorrowedLuckModel", name := "ordersOf", desc := "(I)I" } : Jvm.MethodName)) ∈ lw_all := lw_g (lw_at lw_m8 91 rfl) rfl
theorem q1893 : (Jvm.Cond.static ({ cls := "BorrowedLuckModel", name := "ordersOf", desc := "(I)I" } : Jvm.MethodName)) ∈ lw_all := lw_g (lw_at lw_m8 92 rfl) rfl
theorem q1894 : (Jvm.Cond.code ({ cls := "BorrowedLuckModel", name := "ordersOf", desc := "(I)I" } : Jvm.MethodName) prog_18_method_87_code (3 : Nat) (Option.some Jvm.ClassFile.FieldType.int)) ∈ lw_all := lw_g (lw_at lw_m8 93 rfl) rfl
theorem q1895 : (Jvm.Cond.methodLink "BorrowedLuckModel" (366 : Nat) ({ cls := "BorrowedLuckModel", name := "laysRow", desc := "(II)V" } : Jvm.MethodName)) ∈ lw_all := lw_g (lw_at lw_m8 94 rfl) rfl
theorem q1896 : (Jvm.Cond.privateMethod ({ cls := "BorrowedLuckModel", name := "laysRow", desc := "(II)V" } : Jvm.MethodName)) ∈ lw_tbl := lw_at lw_m8 95 rfl
theorem q1897 : (Jvm.Cond.instanceMethod ({ cls := "BorrowedLuckModel", name := "laysRow", desc := "(II)V" } : Jvm.MethodName)) ∈ lw_all := lw_g (lw_at lw_m8 96 rfl) rfl
theorem q1898 : (Jvm.Cond.code ({ cls := "BorrowedLuckModel", name := "laysRow", desc := "(II)V" } : Jvm.MethodName) prog_18_method_89_code (10 : Nat) (Option.none : Option Jvm.ClassFile.FieldType)) ∈ lw_all := lw_g (lw_at lw_m8 97 rfl) rfl
theorem q1899 : (Jvm.Cond.methodLink "BorrowedLuckModel" (350 : Nat) ({ cls := "BorrowedLuckModel", name := "has", desc := "(II)Z" } : Jvm.MethodName)) ∈ lw_all := lw_g (lw_at lw_m8 98 rfl) rfl
theorem q1900 : (Jvm.Cond.static ({ cls := "BorrowedLuckModel", name := "has", desc := "(II)Z" } : Jvm.MethodName)) ∈ lw_all := lw_g (lw_at lw_m8 99 rfl) rfl
theorem q1901 : (Jvm.Cond.code ({ cls := "BorrowedLuckModel", name := "has", desc := "(II)Z" } : Jvm.MethodName) prog_18_method_4_code (2 : Nat) (Option.some Jvm.ClassFile.FieldType.boolean)) ∈ lw_all := lw_g (lw_at lw_m8 100 rfl) rfl
theorem q1902 : (Jvm.Cond.methodLink "BorrowedLuckModel" (369 : Nat) ({ cls := "BorrowedLuckModel", name := "bringsTo", desc := "(II)I" } : Jvm.MethodName)) ∈ lw_all := lw_g (lw_at lw_m8 101 rfl) rfl
theorem q1903 : (Jvm.Cond.privateMethod ({ cls := "BorrowedLuckModel", name := "bringsTo", desc := "(II)I" } : Jvm.MethodName)) ∈ lw_tbl := lw_at lw_m8 102 rfl
theorem q1904 : (Jvm.Cond.instanceMethod ({ cls := "BorrowedLuckModel", name := "bringsTo", desc := "(II)I" } : Jvm.MethodName)) ∈ lw_all := lw_g (lw_at lw_m8 103 rfl) rfl
theorem q1905 : (Jvm.Cond.code ({ cls := "BorrowedLuckModel", name := "bringsTo", desc := "(II)I" } : Jvm.MethodName) prog_18_method_90_code (5 : Nat) (Option.some Jvm.ClassFile.FieldType.int)) ∈ lw_all := lw_g (lw_at lw_m8 104 rfl) rfl
theorem q1906 : (Jvm.Cond.methodLink "BorrowedLuckModel" (352 : Nat) ({ cls := "BorrowedLuckModel", name := "keepsAll", desc := "()V" } : Jvm.MethodName)) ∈ lw_all := lw_g (lw_at lw_m8 105 rfl) rfl
theorem q1907 : (Jvm.Cond.privateMethod ({ cls := "BorrowedLuckModel", name := "keepsAll", desc := "()V" } : Jvm.MethodName)) ∈ lw_tbl := lw_at lw_m8 106 rfl
theorem q1908 : (Jvm.Cond.instanceMethod ({ cls := "BorrowedLuckModel", name := "keepsAll", desc := "()V" } : Jvm.MethodName)) ∈ lw_all := lw_g (lw_at lw_m8 107 rfl) rfl
theorem q1909 : (Jvm.Cond.code ({ cls := "BorrowedLuckModel", name := "keepsAll", desc := "()V" } : Jvm.MethodName) prog_18_method_83_code (2 : Nat) (Option.none : Option Jvm.ClassFile.FieldType)) ∈ lw_all := lw_g (lw_at lw_m8 108 rfl) rfl
theorem q1910 : (Jvm.Cond.constant "BorrowedLuckModel" (355 : Nat) (1000000 : Int32)) ∈ lw_all := lw_g (lw_at lw_m8 109 rfl) rfl
theorem q1911 : (Jvm.Cond.methodLink "BorrowedLuckModel" (359 : Nat) ({ cls := "BorrowedLuckModel", name := "bringsBack", desc := "()V" } : Jvm.MethodName)) ∈ lw_all := lw_g (lw_at lw_m8 110 rfl) rfl
theorem q1912 : (Jvm.Cond.privateMethod ({ cls := "BorrowedLuckModel", name := "bringsBack", desc := "()V" } : Jvm.MethodName)) ∈ lw_tbl := lw_at lw_m8 111 rfl
theorem q1913 : (Jvm.Cond.instanceMethod ({ cls := "BorrowedLuckModel", name := "bringsBack", desc := "()V" } : Jvm.MethodName)) ∈ lw_all := lw_g (lw_at lw_m8 112 rfl) rfl
theorem q1914 : (Jvm.Cond.code ({ cls := "BorrowedLuckModel", name := "bringsBack", desc := "()V" } : Jvm.MethodName) prog_18_method_84_code (2 : Nat) (Option.none : Option Jvm.ClassFile.FieldType)) ∈ lw_all := lw_g (lw_at lw_m8 113 rfl) rfl
theorem q1915 : (Jvm.Cond.methodLink "BorrowedLuckModel" (372 : Nat) ({ cls := "java/lang/Math", name := "max", desc := "(II)I" } : Jvm.MethodName)) ∈ lw_all := lw_g (lw_at lw_m8 114 rfl) rfl
theorem q1917 : (Jvm.Cond.instanceMethod ({ cls := "BorrowedLuckModel", name := "lowest", desc := "(II)I" } : Jvm.MethodName)) ∈ lw_all := lw_g (lw_at lw_m8 116 rfl) rfl
theorem q1918 : (Jvm.Cond.selects "BorrowedLuckModel" ({ cls := "BorrowedLuckModel", name := "lowest", desc := "(II)I" } : Jvm.MethodName) ({ cls := "BorrowedLuckModel", name := "lowest", desc := "(II)I" } : Jvm.MethodName)) ∈ lw_all := lw_g (lw_at lw_m8 117 rfl) rfl
theorem q1919 : (Jvm.Cond.code ({ cls := "BorrowedLuckModel", name := "lowest", desc := "(II)I" } : Jvm.MethodName) prog_18_method_92_code (7 : Nat) (Option.some Jvm.ClassFile.FieldType.int)) ∈ lw_all := lw_g (lw_at lw_m8 118 rfl) rfl
theorem q1921 : (Jvm.Cond.instanceMethod ({ cls := "BorrowedLuckModel", name := "reach", desc := "(IIII)I" } : Jvm.MethodName)) ∈ lw_all := lw_g (lw_at lw_m8 120 rfl) rfl
theorem q1922 : (Jvm.Cond.selects "BorrowedLuckModel" ({ cls := "BorrowedLuckModel", name := "reach", desc := "(IIII)I" } : Jvm.MethodName) ({ cls := "BorrowedLuckModel", name := "reach", desc := "(IIII)I" } : Jvm.MethodName)) ∈ lw_all := lw_g (lw_at lw_m8 121 rfl) rfl
theorem q1923 : (Jvm.Cond.code ({ cls := "BorrowedLuckModel", name := "reach", desc := "(IIII)I" } : Jvm.MethodName) prog_18_method_93_code (7 : Nat) (Option.some Jvm.ClassFile.FieldType.int)) ∈ lw_all := lw_g (lw_at lw_m8 122 rfl) rfl
theorem q1925 : (Jvm.Cond.instanceMethod ({ cls := "BorrowedLuckModel", name := "runs", desc := "(II)I" } : Jvm.MethodName)) ∈ lw_all := lw_g (lw_at lw_m8 124 rfl) rfl
theorem q1926 : (Jvm.Cond.selects "BorrowedLuckModel" ({ cls := "BorrowedLuckModel", name := "runs", desc := "(II)I" } : Jvm.MethodName) ({ cls := "BorrowedLuckModel", name := "runs", desc := "(II)I" } : Jvm.MethodName)) ∈ lw_all := lw_g (lw_at lw_m8 125 rfl) rfl
theorem q1927 : (Jvm.Cond.code ({ cls := "BorrowedLuckModel", name := "runs", desc := "(II)I" } : Jvm.MethodName) prog_18_method_95_code (4 : Nat) (Option.some Jvm.ClassFile.FieldType.int)) ∈ lw_all := lw_g (lw_at lw_m8 126 rfl) rfl
theorem q1928 : (Jvm.Cond.methodLink "BorrowedLuckModel" (375 : Nat) ({ cls := "BorrowedLuckModel", name := "turns", desc := "(III)V" } : Jvm.MethodName)) ∈ lw_all := lw_g (lw_at lw_m8 127 rfl) rfl
theorem q1929 : (Jvm.Cond.privateMethod ({ cls := "BorrowedLuckModel", name := "turns", desc := "(III)V" } : Jvm.MethodName)) ∈ lw_tbl := lw_at lw_m8 128 rfl
theorem q1930 : (Jvm.Cond.instanceMethod ({ cls := "BorrowedLuckModel", name := "turns", desc := "(III)V" } : Jvm.MethodName)) ∈ lw_all := lw_g (lw_at lw_m8 129 rfl) rfl
theorem q1931 : (Jvm.Cond.code ({ cls := "BorrowedLuckModel", name := "turns", desc := "(III)V" } : Jvm.MethodName) prog_18_method_94_code (5 : Nat) (Option.none : Option Jvm.ClassFile.FieldType)) ∈ lw_all := lw_g (lw_at lw_m8 130 rfl) rfl
theorem q1933 : (Jvm.Cond.instanceMethod ({ cls := "BorrowedLuckModel", name := "spent", desc := "(I)I" } : Jvm.MethodName)) ∈ lw_all := lw_g (lw_at lw_m8 132 rfl) rfl
theorem q1934 : (Jvm.Cond.selects "BorrowedLuckModel" ({ cls := "BorrowedLuckModel", name := "spent", desc := "(I)I" } : Jvm.MethodName) ({ cls := "BorrowedLuckModel", name := "spent", desc := "(I)I" } : Jvm.MethodName)) ∈ lw_all := lw_g (lw_at lw_m8 133 rfl) rfl
theorem q1935 : (Jvm.Cond.code ({ cls := "BorrowedLuckModel", name := "spent", desc := "(I)I" } : Jvm.MethodName) prog_18_method_96_code (4 : Nat) (Option.some Jvm.ClassFile.FieldType.int)) ∈ lw_all := lw_g (lw_at lw_m8 134 rfl) rfl
theorem q1937 : (Jvm.Cond.instanceMethod ({ cls := "BorrowedLuckModel", name := "match", desc := "(II)I" } : Jvm.MethodName)) ∈ lw_all := lw_g (lw_at lw_m8 136 rfl) rfl
theorem q1938 : (Jvm.Cond.selects "BorrowedLuckModel" ({ cls := "BorrowedLuckModel", name := "match", desc := "(II)I" } : Jvm.MethodName) ({ cls := "BorrowedLuckModel", name := "match", desc := "(II)I" } : Jvm.MethodName)) ∈ lw_all := lw_g (lw_at lw_m8 137 rfl) rfl
theorem q1939 : (Jvm.Cond.code ({ cls := "BorrowedLuckModel", name := "match", desc := "(II)I" } : Jvm.MethodName) prog_18_method_100_code (9 : Nat) (Option.some Jvm.ClassFile.FieldType.int)) ∈ lw_all := lw_g (lw_at lw_m8 138 rfl) rfl
theorem q1940 : (Jvm.Cond.methodLink "BorrowedLuckModel" (385 : Nat) ({ cls := "BorrowedLuckModel", name := "laysJobs", desc := "(I)V" } : Jvm.MethodName)) ∈ lw_all := lw_g (lw_at lw_m8 139 rfl) rfl
theorem q1941 : (Jvm.Cond.privateMethod ({ cls := "BorrowedLuckModel", name := "laysJobs", desc := "(I)V" } : Jvm.MethodName)) ∈ lw_tbl := lw_at lw_m8 140 rfl
theorem q1942 : (Jvm.Cond.instanceMethod ({ cls := "BorrowedLuckModel", name := "laysJobs", desc := "(I)V" } : Jvm.MethodName)) ∈ lw_all := lw_g (lw_at lw_m8 141 rfl) rfl
theorem q1943 : (Jvm.Cond.code ({ cls := "BorrowedLuckModel", name := "laysJobs", desc := "(I)V" } : Jvm.MethodName) prog_18_method_99_code (6 : Nat) (Option.none : Option Jvm.ClassFile.FieldType)) ∈ lw_all := lw_g (lw_at lw_m8 142 rfl) rfl
theorem q1944 : (Jvm.Cond.methodLink "BorrowedLuckModel" (378 : Nat) ({ cls := "BorrowedLuckModel", name := "jobAt", desc := "(II)I" } : Jvm.MethodName)) ∈ lw_all := lw_g (lw_at lw_m8 143 rfl) rfl
theorem q1945 : (Jvm.Cond.static ({ cls := "BorrowedLuckModel", name := "jobAt", desc := "(II)I" } : Jvm.MethodName)) ∈ lw_all := lw_g (lw_at lw_m8 144 rfl) rfl
theorem q1946 : (Jvm.Cond.code ({ cls := "BorrowedLuckModel", name := "jobAt", desc := "(II)I" } : Jvm.MethodName) prog_18_method_97_code (2 : Nat) (Option.some Jvm.ClassFile.FieldType.int)) ∈ lw_all := lw_g (lw_at lw_m8 145 rfl) rfl
theorem q1947 : (Jvm.Cond.methodLink "BorrowedLuckModel" (381 : Nat) ({ cls := "BorrowedLuckModel", name := "jobBy", desc := "(IIII)I" } : Jvm.MethodName)) ∈ lw_all := lw_g (lw_at lw_m8 146 rfl) rfl
theorem q1948 : (Jvm.Cond.privateMethod ({ cls := "BorrowedLuckModel", name := "jobBy", desc := "(IIII)I" } : Jvm.MethodName)) ∈ lw_tbl := lw_at lw_m8 147 rfl
theorem q1949 : (Jvm.Cond.instanceMethod ({ cls := "BorrowedLuckModel", name := "jobBy", desc := "(IIII)I" } : Jvm.MethodName)) ∈ lw_all := lw_g (lw_at lw_m8 148 rfl) rfl
theorem q1950 : (Jvm.Cond.code ({ cls := "BorrowedLuckModel", name := "jobBy", desc := "(IIII)I" } : Jvm.MethodName) prog_18_method_98_code (5 : Nat) (Option.some Jvm.ClassFile.FieldType.int)) ∈ lw_all := lw_g (lw_at lw_m8 149 rfl) rfl
theorem q1951 : (Jvm.Cond.constant "BorrowedLuckModel" (384 : Nat) (-500000 : Int32)) ∈ lw_all := lw_g (lw_at lw_m8 150 rfl) rfl
theorem q1953 : (Jvm.Cond.instanceMethod ({ cls := "BorrowedLuckModel", name := "chain", desc := "(I)I" } : Jvm.MethodName)) ∈ lw_all := lw_g (lw_at lw_m8 152 rfl) rfl
theorem q1954 : (Jvm.Cond.selects "BorrowedLuckModel" ({ cls := "BorrowedLuckModel", name := "chain", desc := "(I)I" } : Jvm.MethodName) ({ cls := "BorrowedLuckModel", name := "chain", desc := "(I)I" } : Jvm.MethodName)) ∈ lw_all := lw_g (lw_at lw_m8 153 rfl) rfl
theorem q1955 : (Jvm.Cond.code ({ cls := "BorrowedLuckModel", name := "chain", desc := "(I)I" } : Jvm.MethodName) prog_18_method_103_code (2 : Nat) (Option.some Jvm.ClassFile.FieldType.int)) ∈ lw_all := lw_g (lw_at lw_m8 154 rfl) rfl
theorem q1956 : (Jvm.Cond.methodLink "BorrowedLuckModel" (392 : Nat) ({ cls := "BorrowedLuckModel", name := "chainOf", desc := "(I)I" } : Jvm.MethodName)) ∈ lw_all := lw_g (lw_at lw_m8 155 rfl) rfl
theorem q1957 : (Jvm.Cond.privateMethod ({ cls := "BorrowedLuckModel", name := "chainOf", desc := "(I)I" } : Jvm.MethodName)) ∈ lw_tbl := lw_at lw_m8 156 rfl
theorem q1958 : (Jvm.Cond.instanceMethod ({ cls := "BorrowedLuckModel", name := "chainOf", desc := "(I)I" } : Jvm.MethodName)) ∈ lw_all := lw_g (lw_at lw_m8 157 rfl) rfl
theorem q1959 : (Jvm.Cond.code ({ cls := "BorrowedLuckModel", name := "chainOf", desc := "(I)I" } : Jvm.MethodName) prog_18_method_102_code (4 : Nat) (Option.some Jvm.ClassFile.FieldType.int)) ∈ lw_all := lw_g (lw_at lw_m8 158 rfl) rfl
theorem q1960 : (Jvm.Cond.methodLink "BorrowedLuckModel" (389 : Nat) ({ cls := "BorrowedLuckModel", name := "ofLog", desc := "(II)I" } : Jvm.MethodName)) ∈ lw_all := lw_g (lw_at lw_m8 159 rfl) rfl
theorem q1961 : (Jvm.Cond.privateMethod ({ cls := "BorrowedLuckModel", name := "ofLog", desc := "(II)I" } : Jvm.MethodName)) ∈ lw_tbl := lw_at lw_m8 160 rfl
theorem q1962 : (Jvm.Cond.instanceMethod ({ cls := "BorrowedLuckModel", name := "ofLog", desc := "(II)I" } : Jvm.MethodName)) ∈ lw_all := lw_g (lw_at lw_m8 161 rfl) rfl
theorem q1963 : (Jvm.Cond.code ({ cls := "BorrowedLuckModel", name := "ofLog", desc := "(II)I" } : Jvm.MethodName) prog_18_method_101_code (3 : Nat) (Option.some Jvm.ClassFile.FieldType.int)) ∈ lw_all := lw_g (lw_at lw_m8 162 rfl) rfl
theorem q1965 : (Jvm.Cond.instanceMethod ({ cls := "BorrowedLuckModel", name := "since", desc := "(II)I" } : Jvm.MethodName)) ∈ lw_all := lw_g (lw_at lw_m8 164 rfl) rfl
theorem q1966 : (Jvm.Cond.selects "BorrowedLuckModel" ({ cls := "BorrowedLuckModel", name := "since", desc := "(II)I" } : Jvm.MethodName) ({ cls := "BorrowedLuckModel", name := "since", desc := "(II)I" } : Jvm.MethodName)) ∈ lw_all := lw_g (lw_at lw_m8 165 rfl) rfl
theorem q1967 : (Jvm.Cond.code ({ cls := "BorrowedLuckModel", name := "since", desc := "(II)I" } : Jvm.MethodName) prog_18_method_104_code (5 : Nat) (Option.some Jvm.ClassFile.FieldType.int)) ∈ lw_all := lw_g (lw_at lw_m8 166 rfl) rfl
theorem q1969 : (Jvm.Cond.instanceMethod ({ cls := "BorrowedLuckModel", name := "whose", desc := "()I" } : Jvm.MethodName)) ∈ lw_all := lw_g (lw_at lw_m8 168 rfl) rfl
theorem q1970 : (Jvm.Cond.selects "BorrowedLuckModel" ({ cls := "BorrowedLuckModel", name := "whose", desc := "()I" } : Jvm.MethodName) ({ cls := "BorrowedLuckModel", name := "whose", desc := "()I" } : Jvm.MethodName)) ∈ lw_all := lw_g (lw_at lw_m8 169 rfl) rfl
theorem q1971 : (Jvm.Cond.code ({ cls := "BorrowedLuckModel", name := "whose", desc := "()I" } : Jvm.MethodName) prog_18_method_107_code (1 : Nat) (Option.some Jvm.ClassFile.FieldType.int)) ∈ lw_all := lw_g (lw_at lw_m8 170 rfl) rfl
theorem q1972 : (Jvm.Cond.methodLink "BorrowedLuckModel" (395 : Nat) ({ cls := "BorrowedLuckModel", name := "isTold", desc := "()Z" } : Jvm.MethodName)) ∈ lw_all := lw_g (lw_at lw_m8 171 rfl) rfl
theorem q1973 : (Jvm.Cond.privateMethod ({ cls := "BorrowedLuckModel", name := "isTold", desc := "()Z" } : Jvm.MethodName)) ∈ lw_tbl := lw_at lw_m8 172 rfl
theorem q1974 : (Jvm.Cond.instanceMethod ({ cls := "BorrowedLuckModel", name := "isTold", desc := "()Z" } : Jvm.MethodName)) ∈ lw_all := lw_g (lw_at lw_m8 173 rfl) rfl
theorem q1975 : (Jvm.Cond.code ({ cls := "BorrowedLuckModel", name := "isTold", desc := "()Z" } : Jvm.MethodName) prog_18_method_105_code (3 : Nat) (Option.some Jvm.ClassFile.FieldType.boolean)) ∈ lw_all := lw_g (lw_at lw_m8 174 rfl) rfl
theorem q1976 : (Jvm.Cond.methodLink "BorrowedLuckModel" (398 : Nat) ({ cls := "BorrowedLuckModel", name := "allThatFit", desc := "()I" } : Jvm.MethodName)) ∈ lw_all := lw_g (lw_at lw_m8 175 rfl) rfl
theorem q1977 : (Jvm.Cond.privateMethod ({ cls := "BorrowedLuckModel", name := "allThatFit", desc := "()I" } : Jvm.MethodName)) ∈ lw_tbl := lw_at lw_m8 176 rfl
theorem q1978 : (Jvm.Cond.instanceMethod ({ cls := "BorrowedLuckModel", name := "allThatFit", desc := "()I" } : Jvm.MethodName)) ∈ lw_all := lw_g (lw_at lw_m8 177 rfl) rfl
theorem q1979 : (Jvm.Cond.code ({ cls := "BorrowedLuckModel", name := "allThatFit", desc := "()I" } : Jvm.MethodName) prog_18_method_106_code (5 : Nat) (Option.some Jvm.ClassFile.FieldType.int)) ∈ lw_all := lw_g (lw_at lw_m8 178 rfl) rfl
theorem q1981 : (Jvm.Cond.instanceMethod ({ cls := "BorrowedLuckModel", name := "next", desc := "()I" } : Jvm.MethodName)) ∈ lw_all := lw_g (lw_at lw_m8 180 rfl) rfl
theorem q1982 : (Jvm.Cond.selects "BorrowedLuckModel" ({ cls := "BorrowedLuckModel", name := "next", desc := "()I" } : Jvm.MethodName) ({ cls := "BorrowedLuckModel", name := "next", desc := "()I" } : Jvm.MethodName)) ∈ lw_all := lw_g (lw_at lw_m8 181 rfl) rfl
theorem q1983 : (Jvm.Cond.code ({ cls := "BorrowedLuckModel", name := "next", desc := "()I" } : Jvm.MethodName) prog_18_method_108_code (9 : Nat) (Option.some Jvm.ClassFile.FieldType.int)) ∈ lw_all := lw_g (lw_at lw_m8 182 rfl) rfl
theorem q1985 : (Jvm.Cond.instanceMethod ({ cls := "BorrowedLuckModel", name := "rests", desc := "(III)I" } : Jvm.MethodName)) ∈ lw_all := lw_g (lw_at lw_m8 184 rfl) rfl
theorem q1986 : (Jvm.Cond.selects "BorrowedLuckModel" ({ cls := "BorrowedLuckModel", name := "rests", desc := "(III)I" } : Jvm.MethodName) ({ cls := "BorrowedLuckModel", name := "rests", desc := "(III)I" } : Jvm.MethodName)) ∈ lw_all := lw_g (lw_at lw_m8 185 rfl) rfl
theorem q1987 : (Jvm.Cond.code ({ cls := "BorrowedLuckModel", name := "rests", desc := "(III)I" } : Jvm.MethodName) prog_18_method_111_code (8 : Nat) (Option.some Jvm.ClassFile.FieldType.int)) ∈ lw_all := lw_g (lw_at lw_m8 186 rfl) rfl
theorem q1988 : (Jvm.Cond.methodLink "BorrowedLuckModel" (401 : Nat) ({ cls := "BorrowedLuckModel", name := "widowHas", desc := "(III)I" } : Jvm.MethodName)) ∈ lw_all := lw_g (lw_at lw_m8 187 rfl) rfl
theorem q1989 : (Jvm.Cond.privateMethod ({ cls := "BorrowedLuckModel", name := "widowHas", desc := "(III)I" } : Jvm.MethodName)) ∈ lw_tbl := lw_at lw_m8 188 rfl
theorem q1990 : (Jvm.Cond.instanceMethod ({ cls := "BorrowedLuckModel", name := "widowHas", desc := "(III)I" } : Jvm.MethodName)) ∈ lw_all := lw_g (lw_at lw_m8 189 rfl) rfl
theorem q1991 : (Jvm.Cond.code ({ cls := "BorrowedLuckModel", name := "widowHas", desc := "(III)I" } : Jvm.MethodName) prog_18_method_109_code (4 : Nat) (Option.some Jvm.ClassFile.FieldType.int)) ∈ lw_all := lw_g (lw_at lw_m8 190 rfl) rfl
theorem q1992 : (Jvm.Cond.methodLink "BorrowedLuckModel" (404 : Nat) ({ cls := "BorrowedLuckModel", name := "brideHas", desc := "(IIII)I" } : Jvm.MethodName)) ∈ lw_all := lw_g (lw_at lw_m8 191 rfl) rfl
theorem q1993 : (Jvm.Cond.privateMethod ({ cls := "BorrowedLuckModel", name := "brideHas", desc := "(IIII)I" } : Jvm.MethodName)) ∈ lw_tbl := lw_at lw_m8 192 rfl
theorem q1994 : (Jvm.Cond.instanceMethod ({ cls := "BorrowedLuckModel", name := "brideHas", desc := "(IIII)I" } : Jvm.MethodName)) ∈ lw_all := lw_g (lw_at lw_m8 193 rfl) rfl
theorem q1995 : (Jvm.Cond.code ({ cls := "BorrowedLuckModel", name := "brideHas", desc := "(IIII)I" } : Jvm.MethodName) prog_18_method_110_code (5 : Nat) (Option.some Jvm.ClassFile.FieldType.int)) ∈ lw_all := lw_g (lw_at lw_m8 194 rfl) rfl
theorem q1997 : (Jvm.Cond.instanceMethod ({ cls := "BorrowedLuckModel", name := "sells", desc := "(I)I" } : Jvm.MethodName)) ∈ lw_all := lw_g (lw_at lw_m8 196 rfl) rfl
theorem q1998 : (Jvm.Cond.selects "BorrowedLuckModel" ({ cls := "BorrowedLuckModel", name := "sells", desc := "(I)I" } : Jvm.MethodName) ({ cls := "BorrowedLuckModel", name := "sells", desc := "(I)I" } : Jvm.MethodName)) ∈ lw_all := lw_g (lw_at lw_m8 197 rfl) rfl
theorem q1999 : (Jvm.Cond.code ({ cls := "BorrowedLuckModel", name := "sells", desc := "(I)I" } : Jvm.MethodName) prog_18_method_114_code (2 : Nat) (Option.some Jvm.ClassFile.FieldType.int)) ∈ lw_all := lw_g (lw_at lw_m8 198 rfl) rfl
theorem q2000 : (Jvm.Cond.methodLink "BorrowedLuckModel" (407 : Nat) ({ cls := "BorrowedLuckModel", name := "noPrice", desc := "(I)Z" } : Jvm.MethodName)) ∈ lw_all := lw_g (lw_at lw_m8 199 rfl) rfl
theorem q2001 : (Jvm.Cond.static ({ cls := "BorrowedLuckModel", name := "noPrice", desc := "(I)Z" } : Jvm.MethodName)) ∈ lw_all := lw_g (lw_at lw_m8 200 rfl) rfl
theorem q2002 : (Jvm.Cond.code ({ cls := "BorrowedLuckModel", name := "noPrice", desc := "(I)Z" } : Jvm.MethodName) prog_18_method_112_code (1 : Nat) (Option.some Jvm.ClassFile.FieldType.boolean)) ∈ lw_all := lw_g (lw_at lw_m8 201 rfl) rfl
theorem q2003 : (Jvm.Cond.methodLink "BorrowedLuckModel" (410 : Nat) ({ cls := "BorrowedLuckModel", name := "soldBy", desc := "(I)I" } : Jvm.MethodName)) ∈ lw_all := lw_g (lw_at lw_m8 202 rfl) rfl
theorem q2004 : (Jvm.Cond.privateMethod ({ cls := "BorrowedLuckModel", name := "soldBy", desc := "(I)I" } : Jvm.MethodName)) ∈ lw_tbl := lw_at lw_m8 203 rfl
theorem q2005 : (Jvm.Cond.instanceMethod ({ cls := "BorrowedLuckModel", name := "soldBy", desc := "(I)I" } : Jvm.MethodName)) ∈ lw_all := lw_g (lw_at lw_m8 204 rfl) rfl
theorem q2006 : (Jvm.Cond.code ({ cls := "BorrowedLuckModel", name := "soldBy", desc := "(I)I" } : Jvm.MethodName) prog_18_method_113_code (4 : Nat) (Option.some Jvm.ClassFile.FieldType.int)) ∈ lw_all := lw_g (lw_at lw_m8 205 rfl) rfl
theorem q2008 : (Jvm.Cond.instanceMethod ({ cls := "BorrowedLuckModel", name := "dearest", desc := "()I" } : Jvm.MethodName)) ∈ lw_all := lw_g (lw_at lw_m8 207 rfl) rfl
theorem q2009 : (Jvm.Cond.selects "BorrowedLuckModel" ({ cls := "BorrowedLuckModel", name := "dearest", desc := "()I" } : Jvm.MethodName) ({ cls := "BorrowedLuckModel", name := "dearest", desc := "()I" } : Jvm.MethodName)) ∈ lw_all := lw_g (lw_at lw_m8 208 rfl) rfl
theorem q2010 : (Jvm.Cond.code ({ cls := "BorrowedLuckModel", name := "dearest", desc := "()I" } : Jvm.MethodName) prog_18_method_115_code (3 : Nat) (Option.some Jvm.ClassFile.FieldType.int)) ∈ lw_all := lw_g (lw_at lw_m8 209 rfl) rfl
theorem q2012 : (Jvm.Cond.instanceMethod ({ cls := "BorrowedLuckModel", name := "unlucky", desc := "()I" } : Jvm.MethodName)) ∈ lw_all := lw_g (lw_at lw_m8 211 rfl) rfl
theorem q2013 : (Jvm.Cond.selects "BorrowedLuckModel" ({ cls := "BorrowedLuckModel", name := "unlucky", desc := "()I" } : Jvm.MethodName) ({ cls := "BorrowedLuckModel", name := "unlucky", desc := "()I" } : Jvm.MethodName)) ∈ lw_all := lw_g (lw_at lw_m8 212 rfl) rfl
theorem q2014 : (Jvm.Cond.code ({ cls := "BorrowedLuckModel", name := "unlucky", desc := "()I" } : Jvm.MethodName) prog_18_method_116_code (3 : Nat) (Option.some Jvm.ClassFile.FieldType.int)) ∈ lw_all := lw_g (lw_at lw_m8 213 rfl) rfl
theorem q2016 : (Jvm.Cond.instanceMethod ({ cls := "BorrowedLuckModel", name := "luckiest", desc := "(I)I" } : Jvm.MethodName)) ∈ lw_all := lw_g (lw_at lw_m8 215 rfl) rfl
theorem q2017 : (Jvm.Cond.selects "BorrowedLuckModel" ({ cls := "BorrowedLuckModel", name := "luckiest", desc := "(I)I" } : Jvm.MethodName) ({ cls := "BorrowedLuckModel", name := "luckiest", desc := "(I)I" } : Jvm.MethodName)) ∈ lw_all := lw_g (lw_at lw_m8 216 rfl) rfl
theorem q2018 : (Jvm.Cond.code ({ cls := "BorrowedLuckModel", name := "luckiest", desc := "(I)I" } : Jvm.MethodName) prog_18_method_117_code (4 : Nat) (Option.some Jvm.ClassFile.FieldType.int)) ∈ lw_all := lw_g (lw_at lw_m8 217 rfl) rfl
theorem q2020 : (Jvm.Cond.instanceMethod ({ cls := "BorrowedLuckModel", name := "ring", desc := "(I)Z" } : Jvm.MethodName)) ∈ lw_all := lw_g (lw_at lw_m8 219 rfl) rfl
theorem q2021 : (Jvm.Cond.selects "BorrowedLuckModel" ({ cls := "BorrowedLuckModel", name := "ring", desc := "(I)Z" } : Jvm.MethodName) ({ cls := "BorrowedLuckModel", name := "ring", desc := "(I)Z" } : Jvm.MethodName)) ∈ lw_all := lw_g (lw_at lw_m8 220 rfl) rfl
theorem q2022 : (Jvm.Cond.code ({ cls := "BorrowedLuckModel", name := "ring", desc := "(I)Z" } : Jvm.MethodName) prog_18_method_119_code (4 : Nat) (Option.some Jvm.ClassFile.FieldType.boolean)) ∈ lw_all := lw_g (lw_at lw_m8 221 rfl) rfl
theorem q2023 : (Jvm.Cond.methodLink "BorrowedLuckModel" (413 : Nat) ({ cls := "BorrowedLuckModel", name := "borrowerOf", desc := "(I)I" } : Jvm.MethodName)) ∈ lw_all := lw_g (lw_at lw_m8 222 rfl) rfl
theorem q2024 : (Jvm.Cond.privateMethod ({ cls := "BorrowedLuckModel", name := "borrowerOf", desc := "(I)I" } : Jvm.MethodName)) ∈ lw_tbl := lw_at lw_m8 223 rfl
theorem q2025 : (Jvm.Cond.instanceMethod ({ cls := "BorrowedLuckModel", name := "borrowerOf", desc := "(I)I" } : Jvm.MethodName)) ∈ lw_all := lw_g (lw_at lw_m8 224 rfl) rfl
theorem q2026 : (Jvm.Cond.code ({ cls := "BorrowedLuckModel", name := "borrowerOf", desc := "(I)I" } : Jvm.MethodName) prog_18_method_118_code (3 : Nat) (Option.some Jvm.ClassFile.FieldType.int)) ∈ lw_all := lw_g (lw_at lw_m8 225 rfl) rfl
theorem q2028 : (Jvm.Cond.instanceMethod ({ cls := "BorrowedLuckModel", name := "oldest", desc := "()I" } : Jvm.MethodName)) ∈ lw_all := lw_g (lw_at lw_m8 227 rfl) rfl
theorem q2029 : (Jvm.Cond.selects "BorrowedLuckModel" ({ cls := "BorrowedLuckModel", name := "oldest", desc := "()I" } : Jvm.MethodName) ({ cls := "BorrowedLuckModel", name := "oldest", desc := "()I" } : Jvm.MethodName)) ∈ lw_all := lw_g (lw_at lw_m8 228 rfl) rfl
theorem q2030 : (Jvm.Cond.code ({ cls := "BorrowedLuckModel", name := "oldest", desc := "()I" } : Jvm.MethodName) prog_18_method_120_code (3 : Nat) (Option.some Jvm.ClassFile.FieldType.int)) ∈ lw_all := lw_g (lw_at lw_m8 229 rfl) rfl
theorem q2032 : (Jvm.Cond.instanceMethod ({ cls := "BorrowedLuckModel", name := "stuck", desc := "()I" } : Jvm.MethodName)) ∈ lw_all := lw_g (lw_at lw_m8 231 rfl) rfl
theorem q2033 : (Jvm.Cond.selects "BorrowedLuckModel" ({ cls := "BorrowedLuckModel", name := "stuck", desc := "()I" } : Jvm.MethodName) ({ cls := "BorrowedLuckModel", name := "stuck", desc := "()I" } : Jvm.MethodName)) ∈ lw_all := lw_g (lw_at lw_m8 232 rfl) rfl
theorem q2034 : (Jvm.Cond.code ({ cls := "BorrowedLuckModel", name := "stuck", desc := "()I" } : Jvm.MethodName) prog_18_method_121_code (1 : Nat) (Option.some Jvm.ClassFile.FieldType.int)) ∈ lw_all := lw_g (lw_at lw_m8 233 rfl) rfl
theorem q2036 : (Jvm.Cond.instanceMethod ({ cls := "BorrowedLuckModel", name := "pawned", desc := "()I" } : Jvm.MethodName)) ∈ lw_all := lw_g (lw_at lw_m8 235 rfl) rfl
theorem q2037 : (Jvm.Cond.selects "BorrowedLuckModel" ({ cls := "BorrowedLuckModel", name := "pawned", desc := "()I" } : Jvm.MethodName) ({ cls := "BorrowedLuckModel", name := "pawned", desc := "()I" } : Jvm.MethodName)) ∈ lw_all := lw_g (lw_at lw_m8 236 rfl) rfl
theorem q2038 : (Jvm.Cond.code ({ cls := "BorrowedLuckModel", name := "pawned", desc := "()I" } : Jvm.MethodName) prog_18_method_122_code (1 : Nat) (Option.some Jvm.ClassFile.FieldType.int)) ∈ lw_all := lw_g (lw_at lw_m8 237 rfl) rfl
theorem q2040 : (Jvm.Cond.instanceMethod ({ cls := "BorrowedLuckModel", name := "blue", desc := "()I" } : Jvm.MethodName)) ∈ lw_all := lw_g (lw_at lw_m8 239 rfl) rfl
theorem q2041 : (Jvm.Cond.selects "BorrowedLuckModel" ({ cls := "BorrowedLuckModel", name := "blue", desc := "()I" } : Jvm.MethodName) ({ cls := "BorrowedLuckModel", name := "blue", desc := "()I" } : Jvm.MethodName)) ∈ lw_all := lw_g (lw_at lw_m9 0 rfl) rfl
theorem q2042 : (Jvm.Cond.code ({ cls := "BorrowedLuckModel", name := "blue", desc := "()I" } : Jvm.MethodName) prog_18_method_123_code (1 : Nat) (Option.some Jvm.ClassFile.FieldType.int)) ∈ lw_all := lw_g (lw_at lw_m9 1 rfl) rfl
theorem q2044 : (Jvm.Cond.instanceMethod ({ cls := "BorrowedLuckModel", name := "alike", desc := "()I" } : Jvm.MethodName)) ∈ lw_all := lw_g (lw_at lw_m9 3 rfl) rfl
theorem q2045 : (Jvm.Cond.selects "BorrowedLuckModel" ({ cls := "BorrowedLuckModel", name := "alike", desc := "()I" } : Jvm.MethodName) ({ cls := "BorrowedLuckModel", name := "alike", desc := "()I" } : Jvm.MethodName)) ∈ lw_all := lw_g (lw_at lw_m9 4 rfl) rfl
theorem q2046 : (Jvm.Cond.code ({ cls := "BorrowedLuckModel", name := "alike", desc := "()I" } : Jvm.MethodName) prog_18_method_125_code (4 : Nat) (Option.some Jvm.ClassFile.FieldType.int)) ∈ lw_all := lw_g (lw_at lw_m9 5 rfl) rfl
theorem q2047 : (Jvm.Cond.methodLink "BorrowedLuckModel" (416 : Nat) ({ cls := "BorrowedLuckModel", name := "likens", desc := "(II)Z" } : Jvm.MethodName)) ∈ lw_all := lw_g (lw_at lw_m9 6 rfl) rfl
theorem q2048 : (Jvm.Cond.privateMethod ({ cls := "BorrowedLuckModel", name := "likens", desc := "(II)Z" } : Jvm.MethodName)) ∈ lw_tbl := lw_at lw_m9 7 rfl
theorem q2049 : (Jvm.Cond.instanceMethod ({ cls := "BorrowedLuckModel", name := "likens", desc := "(II)Z" } : Jvm.MethodName)) ∈ lw_all := lw_g (lw_at lw_m9 8 rfl) rfl
theorem q2050 : (Jvm.Cond.code ({ cls := "BorrowedLuckModel", name := "likens", desc := "(II)Z" } : Jvm.MethodName) prog_18_method_124_code (5 : Nat) (Option.some Jvm.ClassFile.FieldType.boolean)) ∈ lw_all := lw_g (lw_at lw_m9 9 rfl) rfl
theorem q2052 : (Jvm.Cond.instanceMethod ({ cls := "BorrowedLuckModel", name := "share", desc := "(II)I" } : Jvm.MethodName)) ∈ lw_all := lw_g (lw_at lw_m9 11 rfl) rfl
theorem q2053 : (Jvm.Cond.selects "BorrowedLuckModel" ({ cls := "BorrowedLuckModel", name := "share", desc := "(II)I" } : Jvm.MethodName) ({ cls := "BorrowedLuckModel", name := "share", desc := "(II)I" } : Jvm.MethodName)) ∈ lw_all := lw_g (lw_at lw_m9 12 rfl) rfl
theorem q2054 : (Jvm.Cond.code ({ cls := "BorrowedLuckModel", name := "share", desc := "(II)I" } : Jvm.MethodName) prog_18_method_126_code (5 : Nat) (Option.some Jvm.ClassFile.FieldType.int)) ∈ lw_all := lw_g (lw_at lw_m9 13 rfl) rfl
theorem q2056 : (Jvm.Cond.instanceMethod ({ cls := "BorrowedLuckModel", name := "odds", desc := "()I" } : Jvm.MethodName)) ∈ lw_all := lw_g (lw_at lw_m9 15 rfl) rfl
theorem q2057 : (Jvm.Cond.selects "BorrowedLuckModel" ({ cls := "BorrowedLuckModel", name := "odds", desc := "()I" } : Jvm.MethodName) ({ cls := "BorrowedLuckModel", name := "odds", desc := "()I" } : Jvm.MethodName)) ∈ lw_all := lw_g (lw_at lw_m9 16 rfl) rfl
theorem q2058 : (Jvm.Cond.code ({ cls := "BorrowedLuckModel", name := "odds", desc := "()I" } : Jvm.MethodName) prog_18_method_127_code (4 : Nat) (Option.some Jvm.ClassFile.FieldType.int)) ∈ lw_all := lw_g (lw_at lw_m9 17 rfl) rfl
theorem q2060 : (Jvm.Cond.instanceMethod ({ cls := "BorrowedLuckModel", name := "trial", desc := "(IZ)I" } : Jvm.MethodName)) ∈ lw_all := lw_g (lw_at lw_m9 19 rfl) rfl
theorem q2061 : (Jvm.Cond.selects "BorrowedLuckModel" ({ cls := "BorrowedLuckModel", name := "trial", desc := "(IZ)I" } : Jvm.MethodName) ({ cls := "BorrowedLuckModel", name := "trial", desc := "(IZ)I" } : Jvm.MethodName)) ∈ lw_all := lw_g (lw_at lw_m9 20 rfl) rfl
theorem q2062 : (Jvm.Cond.code ({ cls := "BorrowedLuckModel", name := "trial", desc := "(IZ)I" } : Jvm.MethodName) prog_18_method_129_code (4 : Nat) (Option.some Jvm.ClassFile.FieldType.int)) ∈ lw_all := lw_g (lw_at lw_m9 21 rfl) rfl
theorem q2063 : (Jvm.Cond.methodLink "BorrowedLuckModel" (419 : Nat) ({ cls := "BorrowedLuckModel", name := "luckOfAll", desc := "()I" } : Jvm.MethodName)) ∈ lw_all := lw_g (lw_at lw_m9 22 rfl) rfl
theorem q2064 : (Jvm.Cond.privateMethod ({ cls := "BorrowedLuckModel", name := "luckOfAll", desc := "()I" } : Jvm.MethodName)) ∈ lw_tbl := lw_at lw_m9 23 rfl
theorem q2065 : (Jvm.Cond.instanceMethod ({ cls := "BorrowedLuckModel", name := "luckOfAll", desc := "()I" } : Jvm.MethodName)) ∈ lw_all := lw_g (lw_at lw_m9 24 rfl) rfl
theorem q2066 : (Jvm.Cond.code ({ cls := "BorrowedLuckModel", name := "luckOfAll", desc := "()I" } : Jvm.MethodName) prog_18_method_128_code (3 : Nat) (Option.some Jvm.ClassFile.FieldType.int)) ∈ lw_all := lw_g (lw_at lw_m9 25 rfl) rfl
theorem q2068 : (Jvm.Cond.instanceMethod ({ cls := "BorrowedLuckModel", name := "span", desc := "(IZ)I" } : Jvm.MethodName)) ∈ lw_all := lw_g (lw_at lw_m9 27 rfl) rfl
theorem q2069 : (Jvm.Cond.selects "BorrowedLuckModel" ({ cls := "BorrowedLuckModel", name := "span", desc := "(IZ)I" } : Jvm.MethodName) ({ cls := "BorrowedLuckModel", name := "span", desc := "(IZ)I" } : Jvm.MethodName)) ∈ lw_all := lw_g (lw_at lw_m9 28 rfl) rfl
theorem q2070 : (Jvm.Cond.code ({ cls := "BorrowedLuckModel", name := "span", desc := "(IZ)I" } : Jvm.MethodName) prog_18_method_130_code (6 : Nat) (Option.some Jvm.ClassFile.FieldType.int)) ∈ lw_all := lw_g (lw_at lw_m9 29 rfl) rfl
theorem q2072 : (Jvm.Cond.instanceMethod ({ cls := "BorrowedLuckModel", name := "led", desc := "(IZ)I" } : Jvm.MethodName)) ∈ lw_all := lw_g (lw_at lw_m9 31 rfl) rfl
theorem q2073 : (Jvm.Cond.selects "BorrowedLuckModel" ({ cls := "BorrowedLuckModel", name := "led", desc := "(IZ)I" } : Jvm.MethodName) ({ cls := "BorrowedLuckModel", name := "led", desc := "(IZ)I" } : Jvm.MethodName)) ∈ lw_all := lw_g (lw_at lw_m9 32 rfl) rfl
theorem q2074 : (Jvm.Cond.code ({ cls := "BorrowedLuckModel", name := "led", desc := "(IZ)I" } : Jvm.MethodName) prog_18_method_131_code (6 : Nat) (Option.some Jvm.ClassFile.FieldType.int)) ∈ lw_all := lw_g (lw_at lw_m9 33 rfl) rfl
theorem q2076 : (Jvm.Cond.instanceMethod ({ cls := "BorrowedLuckModel", name := "log", desc := "(II)I" } : Jvm.MethodName)) ∈ lw_all := lw_g (lw_at lw_m9 35 rfl) rfl
theorem q2077 : (Jvm.Cond.selects "BorrowedLuckModel" ({ cls := "BorrowedLuckModel", name := "log", desc := "(II)I" } : Jvm.MethodName) ({ cls := "BorrowedLuckModel", name := "log", desc := "(II)I" } : Jvm.MethodName)) ∈ lw_all := lw_g (lw_at lw_m9 36 rfl) rfl
theorem q2078 : (Jvm.Cond.code ({ cls := "BorrowedLuckModel", name := "log", desc := "(II)I" } : Jvm.MethodName) prog_18_method_132_code (3 : Nat) (Option.some Jvm.ClassFile.FieldType.int)) ∈ lw_all := lw_g (lw_at lw_m9 37 rfl) rfl
theorem q2080 : (Jvm.Cond.instanceMethod ({ cls := "BorrowedLuckModel", name := "seed", desc := "(I)I" } : Jvm.MethodName)) ∈ lw_all := lw_g (lw_at lw_m9 39 rfl) rfl
theorem q2081 : (Jvm.Cond.selects "BorrowedLuckModel" ({ cls := "BorrowedLuckModel", name := "seed", desc := "(I)I" } : Jvm.MethodName) ({ cls := "BorrowedLuckModel", name := "seed", desc := "(I)I" } : Jvm.MethodName)) ∈ lw_all := lw_g (lw_at lw_m9 40 rfl) rfl
theorem q2082 : (Jvm.Cond.code ({ cls := "BorrowedLuckModel", name := "seed", desc := "(I)I" } : Jvm.MethodName) prog_18_method_133_code (3 : Nat) (Option.some Jvm.ClassFile.FieldType.int)) ∈ lw_all := lw_g (lw_at lw_m9 41 rfl) rfl
theorem q2084 : (Jvm.Cond.instanceMethod ({ cls := "BorrowedLuckModel", name := "count", desc := "(I)I" } : Jvm.MethodName)) ∈ lw_all := lw_g (lw_at lw_m9 43 rfl) rfl
theorem q2085 : (Jvm.Cond.selects "BorrowedLuckModel" ({ cls := "BorrowedLuckModel", name := "count", desc := "(I)I" } : Jvm.MethodName) ({ cls := "BorrowedLuckModel", name := "count", desc := "(I)I" } : Jvm.MethodName)) ∈ lw_all := lw_g (lw_at lw_m9 44 rfl) rfl
theorem q2086 : (Jvm.Cond.code ({ cls := "BorrowedLuckModel", name := "count", desc := "(I)I" } : Jvm.MethodName) prog_18_method_134_code (5 : Nat) (Option.some Jvm.ClassFile.FieldType.int)) ∈ lw_all := lw_g (lw_at lw_m9 45 rfl) rfl
theorem q2096 : (Jvm.Cond.castable "BorrowedLuckModel" "java/lang/Object") ∈ lw_tbl := lw_at lw_m9 55 rfl
theorem in_X7 : ∀ w ∈ wsX70, w ∈ lw_all := lw_in wsX70 [1487, 1489, 1491, 1493, 1495, 1497, 1499, 1501, 1503, 1505, 1507, 1509, 1511, 1513, 1515, 1517, 1519, 1521, 1523, 1525, 1527, 1529, 1531] (by decide +kernel) (by decide +kernel)
