/-! BorrowedLuck -/
set_option maxRecDepth 100000
def RX1 : String := "BorrowedLuck"
def TX1 : u_T := fun k => match k with
  | 0 => ("BorrowedLuck", "reader", "LBorrowedLuck$Reader;", true)
  | 1 => ("BorrowedLuck", "now", "LBorrowedLuck$State;", true)
  | 2 => ("BorrowedLuck", "image", "LBorrowedLuck$State;", true)
  | 3 => ("BorrowedLuck", "put", "LBorrowedLuck$State;", true)
  | 4 => ("BorrowedLuck", "acts", "[LBorrowedLuck$State;", true)
  | 5 => ("BorrowedLuck", "steps", "[LBorrowedLuck$State;", true)
  | 6 => ("BorrowedLuck", "least", "[I", true)
  | 7 => ("BorrowedLuck", "gains", "[I", true)
  | 8 => ("BorrowedLuck", "row", "[I", true)
  | 9 => ("BorrowedLuck", "best", "[I", true)
  | 10 => ("BorrowedLuck", "whose", "[I", true)
  | 11 => ("BorrowedLuck", "seen", "[I", true)
  | 12 => ("BorrowedLuck", "wrongAt", "I", false)
  | 13 => ("BorrowedLuck", "actMany", "I", false)
  | 14 => ("BorrowedLuck", "actAt", "I", false)
  | 15 => ("BorrowedLuck", "bestSum", "I", false)
  | 16 => ("BorrowedLuck", "bestLow", "I", false)
  | _ => ("BorrowedLuck", "kept", "Z", false)
def tyX1 : Nat → FieldType := fun k => match k with
  | 0 => .object "BorrowedLuck$Reader"
  | 1 => .object "BorrowedLuck$State"
  | 2 => .object "BorrowedLuck$State"
  | 3 => .object "BorrowedLuck$State"
  | 4 => .array (.object "BorrowedLuck$State")
  | 5 => .array (.object "BorrowedLuck$State")
  | 6 => .array .int
  | 7 => .array .int
  | 8 => .array .int
  | 9 => .array .int
  | 10 => .array .int
  | 11 => .array .int
  | 12 => .int
  | 13 => .int
  | 14 => .int
  | 15 => .int
  | 16 => .int
  | _ => .boolean
abbrev wsX10 : List Cond := u_ws RX1 TX1 18
set_option maxRecDepth 100000 in
theorem nmX1 : ∀ a, a < 18 → ∀ b, b < 18 → a ≠ b → (TX1 a).2.1 ≠ (TX1 b).2.1 := by decide +kernel
set_option maxRecDepth 100000 in
theorem tyX1_ok : ∀ k, k < 18 → parseFieldDescriptor (TX1 k).2.2.1 = some (tyX1 k) := by decide +kernel
abbrev cX1_init : ByteArray := prog_1_method_2_code
def yX1_init : MethodName := ⟨RX1, "<init>", "()V"⟩
def dkwX1_init_7 : List UInt8 := [132, 1, 1, 167, 255, 235, 177]
abbrev dktX1_init_7 : List UInt8 := dkwX1_init_7 ++ []
def dkwX1_init_6 : List UInt8 := [167, 255, 234, 3, 60, 27, 8, 162, 0, 22, 42, 180, 0, 33, 27, 187, 0, 16, 89, 183, 0, 18, 83]
abbrev dktX1_init_6 : List UInt8 := dkwX1_init_6 ++ dktX1_init_7
def dkwX1_init_5 : List UInt8 := [60, 27, 16, 12, 162, 0, 22, 42, 180, 0, 29, 27, 187, 0, 16, 89, 183, 0, 18, 83, 132, 1, 1]
abbrev dktX1_init_5 : List UInt8 := dkwX1_init_5 ++ dktX1_init_6
def dkwX1_init_4 : List UInt8 := [181, 0, 46, 42, 8, 188, 10, 181, 0, 49, 42, 16, 100, 188, 10, 181, 0, 52, 42, 2, 181, 0, 55, 3]
abbrev dktX1_init_4 : List UInt8 := dkwX1_init_4 ++ dktX1_init_5
def dkwX1_init_3 : List UInt8 := [188, 10, 181, 0, 36, 42, 16, 40, 188, 10, 181, 0, 40, 42, 8, 188, 10, 181, 0, 43, 42, 8, 188, 10]
abbrev dktX1_init_3 : List UInt8 := dkwX1_init_3 ++ dktX1_init_4
def dkwX1_init_2 : List UInt8 := [181, 0, 26, 42, 16, 12, 189, 0, 16, 181, 0, 29, 42, 8, 189, 0, 16, 181, 0, 33, 42, 17, 1, 0]
abbrev dktX1_init_2 : List UInt8 := dkwX1_init_2 ++ dktX1_init_3
def dkwX1_init_1 : List UInt8 := [181, 0, 19, 42, 187, 0, 16, 89, 183, 0, 18, 181, 0, 23, 42, 187, 0, 16, 89, 183, 0, 18]
abbrev dktX1_init_1 : List UInt8 := dkwX1_init_1 ++ dktX1_init_2
def dkwX1_init_0 : List UInt8 := [42, 183, 0, 3, 42, 187, 0, 9, 89, 183, 0, 11, 181, 0, 12, 42, 187, 0, 16, 89, 183, 0, 18]
abbrev dktX1_init_0 : List UInt8 := dkwX1_init_0 ++ dktX1_init_1
theorem dksX1_init_0 : cX1_init.data.toList.drop 0 = dktX1_init_0 := by decide +kernel
theorem dksX1_init_1 : cX1_init.data.toList.drop 23 = dktX1_init_1 := dk_seg dksX1_init_0 23 rfl rfl
theorem dksX1_init_2 : cX1_init.data.toList.drop 45 = dktX1_init_2 := dk_seg dksX1_init_1 22 rfl rfl
theorem dksX1_init_3 : cX1_init.data.toList.drop 69 = dktX1_init_3 := dk_seg dksX1_init_2 24 rfl rfl
theorem dksX1_init_4 : cX1_init.data.toList.drop 93 = dktX1_init_4 := dk_seg dksX1_init_3 24 rfl rfl
theorem dksX1_init_5 : cX1_init.data.toList.drop 117 = dktX1_init_5 := dk_seg dksX1_init_4 24 rfl rfl
theorem dksX1_init_6 : cX1_init.data.toList.drop 140 = dktX1_init_6 := dk_seg dksX1_init_5 23 rfl rfl
theorem dksX1_init_7 : cX1_init.data.toList.drop 163 = dktX1_init_7 := dk_seg dksX1_init_6 23 rfl rfl
theorem dX1_init_0 : decode cX1_init 0 = .ok (.aload_n 0, 1) := dk_42 (dk_at dksX1_init_0 0 rfl rfl)
theorem dX1_init_1 : decode cX1_init 1 = .ok (.invokespecial 3, 3) := dk_183 0 3 (dk_at dksX1_init_0 1 rfl rfl)
theorem dX1_init_4 : decode cX1_init 4 = .ok (.aload_n 0, 1) := dk_42 (dk_at dksX1_init_0 4 rfl rfl)
theorem dX1_init_5 : decode cX1_init 5 = .ok (.new 9, 3) := dk_187 0 9 (dk_at dksX1_init_0 5 rfl rfl)
theorem dX1_init_8 : decode cX1_init 8 = .ok (.dup, 1) := dk_89 (dk_at dksX1_init_0 8 rfl rfl)
theorem dX1_init_9 : decode cX1_init 9 = .ok (.invokespecial 11, 3) := dk_183 0 11 (dk_at dksX1_init_0 9 rfl rfl)
theorem dX1_init_12 : decode cX1_init 12 = .ok (.putfield 12, 3) := dk_181 0 12 (dk_at dksX1_init_0 12 rfl rfl)
theorem dX1_init_15 : decode cX1_init 15 = .ok (.aload_n 0, 1) := dk_42 (dk_at dksX1_init_0 15 rfl rfl)
theorem dX1_init_16 : decode cX1_init 16 = .ok (.new 16, 3) := dk_187 0 16 (dk_at dksX1_init_0 16 rfl rfl)
theorem dX1_init_19 : decode cX1_init 19 = .ok (.dup, 1) := dk_89 (dk_at dksX1_init_0 19 rfl rfl)
theorem dX1_init_20 : decode cX1_init 20 = .ok (.invokespecial 18, 3) := dk_183 0 18 (dk_at dksX1_init_0 20 rfl rfl)
theorem dX1_init_23 : decode cX1_init 23 = .ok (.putfield 19, 3) := dk_181 0 19 (dk_at dksX1_init_1 0 rfl rfl)
theorem dX1_init_26 : decode cX1_init 26 = .ok (.aload_n 0, 1) := dk_42 (dk_at dksX1_init_1 3 rfl rfl)
theorem dX1_init_27 : decode cX1_init 27 = .ok (.new 16, 3) := dk_187 0 16 (dk_at dksX1_init_1 4 rfl rfl)
theorem dX1_init_30 : decode cX1_init 30 = .ok (.dup, 1) := dk_89 (dk_at dksX1_init_1 7 rfl rfl)
theorem dX1_init_31 : decode cX1_init 31 = .ok (.invokespecial 18, 3) := dk_183 0 18 (dk_at dksX1_init_1 8 rfl rfl)
theorem dX1_init_34 : decode cX1_init 34 = .ok (.putfield 23, 3) := dk_181 0 23 (dk_at dksX1_init_1 11 rfl rfl)
theorem dX1_init_37 : decode cX1_init 37 = .ok (.aload_n 0, 1) := dk_42 (dk_at dksX1_init_1 14 rfl rfl)
theorem dX1_init_38 : decode cX1_init 38 = .ok (.new 16, 3) := dk_187 0 16 (dk_at dksX1_init_1 15 rfl rfl)
theorem dX1_init_41 : decode cX1_init 41 = .ok (.dup, 1) := dk_89 (dk_at dksX1_init_1 18 rfl rfl)
theorem dX1_init_42 : decode cX1_init 42 = .ok (.invokespecial 18, 3) := dk_183 0 18 (dk_at dksX1_init_1 19 rfl rfl)
theorem dX1_init_45 : decode cX1_init 45 = .ok (.putfield 26, 3) := dk_181 0 26 (dk_at dksX1_init_2 0 rfl rfl)
theorem dX1_init_48 : decode cX1_init 48 = .ok (.aload_n 0, 1) := dk_42 (dk_at dksX1_init_2 3 rfl rfl)
theorem dX1_init_49 : decode cX1_init 49 = .ok (.bipush 12, 2) := dk_16 12 (dk_at dksX1_init_2 4 rfl rfl)
theorem dX1_init_51 : decode cX1_init 51 = .ok (.anewarray 16, 3) := dk_189 0 16 (dk_at dksX1_init_2 6 rfl rfl)
theorem dX1_init_54 : decode cX1_init 54 = .ok (.putfield 29, 3) := dk_181 0 29 (dk_at dksX1_init_2 9 rfl rfl)
theorem dX1_init_57 : decode cX1_init 57 = .ok (.aload_n 0, 1) := dk_42 (dk_at dksX1_init_2 12 rfl rfl)
theorem dX1_init_58 : decode cX1_init 58 = .ok (.iconst 5, 1) := dk_8 (dk_at dksX1_init_2 13 rfl rfl)
theorem dX1_init_59 : decode cX1_init 59 = .ok (.anewarray 16, 3) := dk_189 0 16 (dk_at dksX1_init_2 14 rfl rfl)
theorem dX1_init_62 : decode cX1_init 62 = .ok (.putfield 33, 3) := dk_181 0 33 (dk_at dksX1_init_2 17 rfl rfl)
theorem dX1_init_65 : decode cX1_init 65 = .ok (.aload_n 0, 1) := dk_42 (dk_at dksX1_init_2 20 rfl rfl)
theorem dX1_init_66 : decode cX1_init 66 = .ok (.sipush 256, 3) := dk_17 1 0 (dk_at dksX1_init_2 21 rfl rfl)
theorem dX1_init_69 : decode cX1_init 69 = .ok (.newarray .int, 2) := dk_188_10 (dk_at dksX1_init_3 0 rfl rfl)
theorem dX1_init_71 : decode cX1_init 71 = .ok (.putfield 36, 3) := dk_181 0 36 (dk_at dksX1_init_3 2 rfl rfl)
theorem dX1_init_74 : decode cX1_init 74 = .ok (.aload_n 0, 1) := dk_42 (dk_at dksX1_init_3 5 rfl rfl)
theorem dX1_init_75 : decode cX1_init 75 = .ok (.bipush 40, 2) := dk_16 40 (dk_at dksX1_init_3 6 rfl rfl)
theorem dX1_init_77 : decode cX1_init 77 = .ok (.newarray .int, 2) := dk_188_10 (dk_at dksX1_init_3 8 rfl rfl)
theorem dX1_init_79 : decode cX1_init 79 = .ok (.putfield 40, 3) := dk_181 0 40 (dk_at dksX1_init_3 10 rfl rfl)
theorem dX1_init_82 : decode cX1_init 82 = .ok (.aload_n 0, 1) := dk_42 (dk_at dksX1_init_3 13 rfl rfl)
theorem dX1_init_83 : decode cX1_init 83 = .ok (.iconst 5, 1) := dk_8 (dk_at dksX1_init_3 14 rfl rfl)
theorem dX1_init_84 : decode cX1_init 84 = .ok (.newarray .int, 2) := dk_188_10 (dk_at dksX1_init_3 15 rfl rfl)
theorem dX1_init_86 : decode cX1_init 86 = .ok (.putfield 43, 3) := dk_181 0 43 (dk_at dksX1_init_3 17 rfl rfl)
theorem dX1_init_89 : decode cX1_init 89 = .ok (.aload_n 0, 1) := dk_42 (dk_at dksX1_init_3 20 rfl rfl)
theorem dX1_init_90 : decode cX1_init 90 = .ok (.iconst 5, 1) := dk_8 (dk_at dksX1_init_3 21 rfl rfl)
theorem dX1_init_91 : decode cX1_init 91 = .ok (.newarray .int, 2) := dk_188_10 (dk_at dksX1_init_3 22 rfl rfl)
theorem dX1_init_93 : decode cX1_init 93 = .ok (.putfield 46, 3) := dk_181 0 46 (dk_at dksX1_init_4 0 rfl rfl)
theorem dX1_init_96 : decode cX1_init 96 = .ok (.aload_n 0, 1) := dk_42 (dk_at dksX1_init_4 3 rfl rfl)
theorem dX1_init_97 : decode cX1_init 97 = .ok (.iconst 5, 1) := dk_8 (dk_at dksX1_init_4 4 rfl rfl)
theorem dX1_init_98 : decode cX1_init 98 = .ok (.newarray .int, 2) := dk_188_10 (dk_at dksX1_init_4 5 rfl rfl)
theorem dX1_init_100 : decode cX1_init 100 = .ok (.putfield 49, 3) := dk_181 0 49 (dk_at dksX1_init_4 7 rfl rfl)
theorem dX1_init_103 : decode cX1_init 103 = .ok (.aload_n 0, 1) := dk_42 (dk_at dksX1_init_4 10 rfl rfl)
theorem dX1_init_104 : decode cX1_init 104 = .ok (.bipush 100, 2) := dk_16 100 (dk_at dksX1_init_4 11 rfl rfl)
theorem dX1_init_106 : decode cX1_init 106 = .ok (.newarray .int, 2) := dk_188_10 (dk_at dksX1_init_4 13 rfl rfl)
theorem dX1_init_108 : decode cX1_init 108 = .ok (.putfield 52, 3) := dk_181 0 52 (dk_at dksX1_init_4 15 rfl rfl)
theorem dX1_init_111 : decode cX1_init 111 = .ok (.aload_n 0, 1) := dk_42 (dk_at dksX1_init_4 18 rfl rfl)
theorem dX1_init_112 : decode cX1_init 112 = .ok (.iconst (-1), 1) := dk_2 (dk_at dksX1_init_4 19 rfl rfl)
theorem dX1_init_113 : decode cX1_init 113 = .ok (.putfield 55, 3) := dk_181 0 55 (dk_at dksX1_init_4 20 rfl rfl)
theorem dX1_init_116 : decode cX1_init 116 = .ok (.iconst 0, 1) := dk_3 (dk_at dksX1_init_4 23 rfl rfl)
theorem dX1_init_117 : decode cX1_init 117 = .ok (.istore_n 1, 1) := dk_60 (dk_at dksX1_init_5 0 rfl rfl)
theorem dX1_init_118 : decode cX1_init 118 = .ok (.iload_n 1, 1) := dk_27 (dk_at dksX1_init_5 1 rfl rfl)
theorem dX1_init_119 : decode cX1_init 119 = .ok (.bipush 12, 2) := dk_16 12 (dk_at dksX1_init_5 2 rfl rfl)
theorem dX1_init_121 : decode cX1_init 121 = .ok (.if_icmp .ge 22, 3) := dk_162 0 22 (dk_at dksX1_init_5 4 rfl rfl)
theorem dX1_init_124 : decode cX1_init 124 = .ok (.aload_n 0, 1) := dk_42 (dk_at dksX1_init_5 7 rfl rfl)
theorem dX1_init_125 : decode cX1_init 125 = .ok (.getfield 29, 3) := dk_180 0 29 (dk_at dksX1_init_5 8 rfl rfl)
theorem dX1_init_128 : decode cX1_init 128 = .ok (.iload_n 1, 1) := dk_27 (dk_at dksX1_init_5 11 rfl rfl)
theorem dX1_init_129 : decode cX1_init 129 = .ok (.new 16, 3) := dk_187 0 16 (dk_at dksX1_init_5 12 rfl rfl)
theorem dX1_init_132 : decode cX1_init 132 = .ok (.dup, 1) := dk_89 (dk_at dksX1_init_5 15 rfl rfl)
theorem dX1_init_133 : decode cX1_init 133 = .ok (.invokespecial 18, 3) := dk_183 0 18 (dk_at dksX1_init_5 16 rfl rfl)
theorem dX1_init_136 : decode cX1_init 136 = .ok (.aastore, 1) := dk_83 (dk_at dksX1_init_5 19 rfl rfl)
theorem dX1_init_137 : decode cX1_init 137 = .ok (.iinc 1 1, 3) := dk_132 1 1 (dk_at dksX1_init_5 20 rfl rfl)
theorem dX1_init_140 : decode cX1_init 140 = .ok (.goto (-22), 3) := dk_167 255 234 (dk_at dksX1_init_6 0 rfl rfl)
theorem dX1_init_143 : decode cX1_init 143 = .ok (.iconst 0, 1) := dk_3 (dk_at dksX1_init_6 3 rfl rfl)
theorem dX1_init_144 : decode cX1_init 144 = .ok (.istore_n 1, 1) := dk_60 (dk_at dksX1_init_6 4 rfl rfl)
theorem dX1_init_145 : decode cX1_init 145 = .ok (.iload_n 1, 1) := dk_27 (dk_at dksX1_init_6 5 rfl rfl)
theorem dX1_init_146 : decode cX1_init 146 = .ok (.iconst 5, 1) := dk_8 (dk_at dksX1_init_6 6 rfl rfl)
theorem dX1_init_147 : decode cX1_init 147 = .ok (.if_icmp .ge 22, 3) := dk_162 0 22 (dk_at dksX1_init_6 7 rfl rfl)
theorem dX1_init_150 : decode cX1_init 150 = .ok (.aload_n 0, 1) := dk_42 (dk_at dksX1_init_6 10 rfl rfl)
theorem dX1_init_151 : decode cX1_init 151 = .ok (.getfield 33, 3) := dk_180 0 33 (dk_at dksX1_init_6 11 rfl rfl)
theorem dX1_init_154 : decode cX1_init 154 = .ok (.iload_n 1, 1) := dk_27 (dk_at dksX1_init_6 14 rfl rfl)
theorem dX1_init_155 : decode cX1_init 155 = .ok (.new 16, 3) := dk_187 0 16 (dk_at dksX1_init_6 15 rfl rfl)
theorem dX1_init_158 : decode cX1_init 158 = .ok (.dup, 1) := dk_89 (dk_at dksX1_init_6 18 rfl rfl)
theorem dX1_init_159 : decode cX1_init 159 = .ok (.invokespecial 18, 3) := dk_183 0 18 (dk_at dksX1_init_6 19 rfl rfl)
theorem dX1_init_162 : decode cX1_init 162 = .ok (.aastore, 1) := dk_83 (dk_at dksX1_init_6 22 rfl rfl)
theorem dX1_init_163 : decode cX1_init 163 = .ok (.iinc 1 1, 3) := dk_132 1 1 (dk_at dksX1_init_7 0 rfl rfl)
theorem dX1_init_166 : decode cX1_init 166 = .ok (.goto (-21), 3) := dk_167 255 235 (dk_at dksX1_init_7 3 rfl rfl)
theorem dX1_init_169 : decode cX1_init 169 = .ok (.return_, 1) := dk_177 (dk_at dksX1_init_7 6 rfl rfl)
abbrev cX1_feed : ByteArray := prog_1_method_13_code
def yX1_feed : MethodName := ⟨RX1, "feed", "(IIIII)I"⟩
def dkwX1_feed_2 : List UInt8 := [180, 0, 12, 180, 0, 100, 172]
abbrev dktX1_feed_2 : List UInt8 := dkwX1_feed_2 ++ []
def dkwX1_feed_1 : List UInt8 := [28, 182, 0, 103, 42, 29, 182, 0, 103, 42, 21, 4, 182, 0, 103, 42, 21, 5, 182, 0, 103, 42]
abbrev dktX1_feed_1 : List UInt8 := dkwX1_feed_1 ++ dktX1_feed_2
def dkwX1_feed_0 : List UInt8 := [42, 180, 0, 12, 180, 0, 100, 16, 20, 96, 17, 1, 144, 164, 0, 5, 2, 172, 42, 27, 182, 0, 103, 42]
abbrev dktX1_feed_0 : List UInt8 := dkwX1_feed_0 ++ dktX1_feed_1
theorem dksX1_feed_0 : cX1_feed.data.toList.drop 0 = dktX1_feed_0 := by decide +kernel
theorem dksX1_feed_1 : cX1_feed.data.toList.drop 24 = dktX1_feed_1 := dk_seg dksX1_feed_0 24 rfl rfl
theorem dksX1_feed_2 : cX1_feed.data.toList.drop 46 = dktX1_feed_2 := dk_seg dksX1_feed_1 22 rfl rfl
theorem dX1_feed_0 : decode cX1_feed 0 = .ok (.aload_n 0, 1) := dk_42 (dk_at dksX1_feed_0 0 rfl rfl)
theorem dX1_feed_1 : decode cX1_feed 1 = .ok (.getfield 12, 3) := dk_180 0 12 (dk_at dksX1_feed_0 1 rfl rfl)
theorem dX1_feed_4 : decode cX1_feed 4 = .ok (.getfield 100, 3) := dk_180 0 100 (dk_at dksX1_feed_0 4 rfl rfl)
theorem dX1_feed_7 : decode cX1_feed 7 = .ok (.bipush 20, 2) := dk_16 20 (dk_at dksX1_feed_0 7 rfl rfl)
theorem dX1_feed_9 : decode cX1_feed 9 = .ok (.iadd, 1) := dk_96 (dk_at dksX1_feed_0 9 rfl rfl)
theorem dX1_feed_10 : decode cX1_feed 10 = .ok (.sipush 400, 3) := dk_17 1 144 (dk_at dksX1_feed_0 10 rfl rfl)
theorem dX1_feed_13 : decode cX1_feed 13 = .ok (.if_icmp .le 5, 3) := dk_164 0 5 (dk_at dksX1_feed_0 13 rfl rfl)
theorem dX1_feed_16 : decode cX1_feed 16 = .ok (.iconst (-1), 1) := dk_2 (dk_at dksX1_feed_0 16 rfl rfl)
theorem dX1_feed_17 : decode cX1_feed 17 = .ok (.ireturn, 1) := dk_172 (dk_at dksX1_feed_0 17 rfl rfl)
theorem dX1_feed_18 : decode cX1_feed 18 = .ok (.aload_n 0, 1) := dk_42 (dk_at dksX1_feed_0 18 rfl rfl)
theorem dX1_feed_19 : decode cX1_feed 19 = .ok (.iload_n 1, 1) := dk_27 (dk_at dksX1_feed_0 19 rfl rfl)
theorem dX1_feed_20 : decode cX1_feed 20 = .ok (.invokevirtual 103, 3) := dk_182 0 103 (dk_at dksX1_feed_0 20 rfl rfl)
theorem dX1_feed_23 : decode cX1_feed 23 = .ok (.aload_n 0, 1) := dk_42 (dk_at dksX1_feed_0 23 rfl rfl)
theorem dX1_feed_24 : decode cX1_feed 24 = .ok (.iload_n 2, 1) := dk_28 (dk_at dksX1_feed_1 0 rfl rfl)
theorem dX1_feed_25 : decode cX1_feed 25 = .ok (.invokevirtual 103, 3) := dk_182 0 103 (dk_at dksX1_feed_1 1 rfl rfl)
theorem dX1_feed_28 : decode cX1_feed 28 = .ok (.aload_n 0, 1) := dk_42 (dk_at dksX1_feed_1 4 rfl rfl)
theorem dX1_feed_29 : decode cX1_feed 29 = .ok (.iload_n 3, 1) := dk_29 (dk_at dksX1_feed_1 5 rfl rfl)
theorem dX1_feed_30 : decode cX1_feed 30 = .ok (.invokevirtual 103, 3) := dk_182 0 103 (dk_at dksX1_feed_1 6 rfl rfl)
theorem dX1_feed_33 : decode cX1_feed 33 = .ok (.aload_n 0, 1) := dk_42 (dk_at dksX1_feed_1 9 rfl rfl)
theorem dX1_feed_34 : decode cX1_feed 34 = .ok (.iload 4, 2) := dk_21 4 (dk_at dksX1_feed_1 10 rfl rfl)
theorem dX1_feed_36 : decode cX1_feed 36 = .ok (.invokevirtual 103, 3) := dk_182 0 103 (dk_at dksX1_feed_1 12 rfl rfl)
theorem dX1_feed_39 : decode cX1_feed 39 = .ok (.aload_n 0, 1) := dk_42 (dk_at dksX1_feed_1 15 rfl rfl)
theorem dX1_feed_40 : decode cX1_feed 40 = .ok (.iload 5, 2) := dk_21 5 (dk_at dksX1_feed_1 16 rfl rfl)
theorem dX1_feed_42 : decode cX1_feed 42 = .ok (.invokevirtual 103, 3) := dk_182 0 103 (dk_at dksX1_feed_1 18 rfl rfl)
theorem dX1_feed_45 : decode cX1_feed 45 = .ok (.aload_n 0, 1) := dk_42 (dk_at dksX1_feed_1 21 rfl rfl)
theorem dX1_feed_46 : decode cX1_feed 46 = .ok (.getfield 12, 3) := dk_180 0 12 (dk_at dksX1_feed_2 0 rfl rfl)
theorem dX1_feed_49 : decode cX1_feed 49 = .ok (.getfield 100, 3) := dk_180 0 100 (dk_at dksX1_feed_2 3 rfl rfl)
theorem dX1_feed_52 : decode cX1_feed 52 = .ok (.ireturn, 1) := dk_172 (dk_at dksX1_feed_2 6 rfl rfl)
abbrev cX1_four : ByteArray := prog_1_method_12_code
def yX1_four : MethodName := ⟨RX1, "four", "(I)V"⟩
def dkwX1_four_1 : List UInt8 := [145, 84, 42, 180, 0, 12, 89, 180, 0, 100, 4, 96, 181, 0, 100, 132, 2, 248, 167, 255, 217, 177]
abbrev dktX1_four_1 : List UInt8 := dkwX1_four_1 ++ []
def dkwX1_four_0 : List UInt8 := [16, 24, 61, 28, 155, 0, 41, 42, 180, 0, 12, 180, 0, 96, 42, 180, 0, 12, 180, 0, 100, 27, 28, 122]
abbrev dktX1_four_0 : List UInt8 := dkwX1_four_0 ++ dktX1_four_1
theorem dksX1_four_0 : cX1_four.data.toList.drop 0 = dktX1_four_0 := by decide +kernel
theorem dksX1_four_1 : cX1_four.data.toList.drop 24 = dktX1_four_1 := dk_seg dksX1_four_0 24 rfl rfl
theorem dX1_four_0 : decode cX1_four 0 = .ok (.bipush 24, 2) := dk_16 24 (dk_at dksX1_four_0 0 rfl rfl)
theorem dX1_four_2 : decode cX1_four 2 = .ok (.istore_n 2, 1) := dk_61 (dk_at dksX1_four_0 2 rfl rfl)
theorem dX1_four_3 : decode cX1_four 3 = .ok (.iload_n 2, 1) := dk_28 (dk_at dksX1_four_0 3 rfl rfl)
theorem dX1_four_4 : decode cX1_four 4 = .ok (.ifCond .lt 41, 3) := dk_155 0 41 (dk_at dksX1_four_0 4 rfl rfl)
theorem dX1_four_7 : decode cX1_four 7 = .ok (.aload_n 0, 1) := dk_42 (dk_at dksX1_four_0 7 rfl rfl)
theorem dX1_four_8 : decode cX1_four 8 = .ok (.getfield 12, 3) := dk_180 0 12 (dk_at dksX1_four_0 8 rfl rfl)
theorem dX1_four_11 : decode cX1_four 11 = .ok (.getfield 96, 3) := dk_180 0 96 (dk_at dksX1_four_0 11 rfl rfl)
theorem dX1_four_14 : decode cX1_four 14 = .ok (.aload_n 0, 1) := dk_42 (dk_at dksX1_four_0 14 rfl rfl)
theorem dX1_four_15 : decode cX1_four 15 = .ok (.getfield 12, 3) := dk_180 0 12 (dk_at dksX1_four_0 15 rfl rfl)
theorem dX1_four_18 : decode cX1_four 18 = .ok (.getfield 100, 3) := dk_180 0 100 (dk_at dksX1_four_0 18 rfl rfl)
theorem dX1_four_21 : decode cX1_four 21 = .ok (.iload_n 1, 1) := dk_27 (dk_at dksX1_four_0 21 rfl rfl)
theorem dX1_four_22 : decode cX1_four 22 = .ok (.iload_n 2, 1) := dk_28 (dk_at dksX1_four_0 22 rfl rfl)
theorem dX1_four_23 : decode cX1_four 23 = .ok (.ishr, 1) := dk_122 (dk_at dksX1_four_0 23 rfl rfl)
theorem dX1_four_24 : decode cX1_four 24 = .ok (.i2b, 1) := dk_145 (dk_at dksX1_four_1 0 rfl rfl)
theorem dX1_four_25 : decode cX1_four 25 = .ok (.bastore, 1) := dk_84 (dk_at dksX1_four_1 1 rfl rfl)
theorem dX1_four_26 : decode cX1_four 26 = .ok (.aload_n 0, 1) := dk_42 (dk_at dksX1_four_1 2 rfl rfl)
theorem dX1_four_27 : decode cX1_four 27 = .ok (.getfield 12, 3) := dk_180 0 12 (dk_at dksX1_four_1 3 rfl rfl)
theorem dX1_four_30 : decode cX1_four 30 = .ok (.dup, 1) := dk_89 (dk_at dksX1_four_1 6 rfl rfl)
theorem dX1_four_31 : decode cX1_four 31 = .ok (.getfield 100, 3) := dk_180 0 100 (dk_at dksX1_four_1 7 rfl rfl)
theorem dX1_four_34 : decode cX1_four 34 = .ok (.iconst 1, 1) := dk_4 (dk_at dksX1_four_1 10 rfl rfl)
theorem dX1_four_35 : decode cX1_four 35 = .ok (.iadd, 1) := dk_96 (dk_at dksX1_four_1 11 rfl rfl)
theorem dX1_four_36 : decode cX1_four 36 = .ok (.putfield 100, 3) := dk_181 0 100 (dk_at dksX1_four_1 12 rfl rfl)
theorem dX1_four_39 : decode cX1_four 39 = .ok (.iinc 2 (-8), 3) := dk_132 2 248 (dk_at dksX1_four_1 15 rfl rfl)
theorem dX1_four_42 : decode cX1_four 42 = .ok (.goto (-39), 3) := dk_167 255 217 (dk_at dksX1_four_1 18 rfl rfl)
theorem dX1_four_45 : decode cX1_four 45 = .ok (.return_, 1) := dk_177 (dk_at dksX1_four_1 21 rfl rfl)
abbrev cX1_end : ByteArray := prog_1_method_14_code
def yX1_end : MethodName := ⟨RX1, "end", "(I)Z"⟩
def dkwX1_end_1 : List UInt8 := [181, 0, 100, 4, 172]
abbrev dktX1_end_1 : List UInt8 := dkwX1_end_1 ++ []
def dkwX1_end_0 : List UInt8 := [27, 3, 42, 180, 0, 12, 180, 0, 100, 184, 0, 77, 154, 0, 5, 3, 172, 42, 180, 0, 12, 27]
abbrev dktX1_end_0 : List UInt8 := dkwX1_end_0 ++ dktX1_end_1
theorem dksX1_end_0 : cX1_end.data.toList.drop 0 = dktX1_end_0 := by decide +kernel
theorem dksX1_end_1 : cX1_end.data.toList.drop 22 = dktX1_end_1 := dk_seg dksX1_end_0 22 rfl rfl
theorem dX1_end_0 : decode cX1_end 0 = .ok (.iload_n 1, 1) := dk_27 (dk_at dksX1_end_0 0 rfl rfl)
theorem dX1_end_1 : decode cX1_end 1 = .ok (.iconst 0, 1) := dk_3 (dk_at dksX1_end_0 1 rfl rfl)
theorem dX1_end_2 : decode cX1_end 2 = .ok (.aload_n 0, 1) := dk_42 (dk_at dksX1_end_0 2 rfl rfl)
theorem dX1_end_3 : decode cX1_end 3 = .ok (.getfield 12, 3) := dk_180 0 12 (dk_at dksX1_end_0 3 rfl rfl)
theorem dX1_end_6 : decode cX1_end 6 = .ok (.getfield 100, 3) := dk_180 0 100 (dk_at dksX1_end_0 6 rfl rfl)
theorem dX1_end_9 : decode cX1_end 9 = .ok (.invokestatic 77, 3) := dk_184 0 77 (dk_at dksX1_end_0 9 rfl rfl)
theorem dX1_end_12 : decode cX1_end 12 = .ok (.ifCond .ne 5, 3) := dk_154 0 5 (dk_at dksX1_end_0 12 rfl rfl)
theorem dX1_end_15 : decode cX1_end 15 = .ok (.iconst 0, 1) := dk_3 (dk_at dksX1_end_0 15 rfl rfl)
theorem dX1_end_16 : decode cX1_end 16 = .ok (.ireturn, 1) := dk_172 (dk_at dksX1_end_0 16 rfl rfl)
theorem dX1_end_17 : decode cX1_end 17 = .ok (.aload_n 0, 1) := dk_42 (dk_at dksX1_end_0 17 rfl rfl)
theorem dX1_end_18 : decode cX1_end 18 = .ok (.getfield 12, 3) := dk_180 0 12 (dk_at dksX1_end_0 18 rfl rfl)
theorem dX1_end_21 : decode cX1_end 21 = .ok (.iload_n 1, 1) := dk_27 (dk_at dksX1_end_0 21 rfl rfl)
theorem dX1_end_22 : decode cX1_end 22 = .ok (.putfield 100, 3) := dk_181 0 100 (dk_at dksX1_end_1 0 rfl rfl)
theorem dX1_end_25 : decode cX1_end 25 = .ok (.iconst 1, 1) := dk_4 (dk_at dksX1_end_1 3 rfl rfl)
theorem dX1_end_26 : decode cX1_end 26 = .ok (.ireturn, 1) := dk_172 (dk_at dksX1_end_1 4 rfl rfl)
abbrev cX1_isIn : ByteArray := prog_1_method_8_code
def yX1_isIn : MethodName := ⟨RX1, "isIn", "(III)Z"⟩
def dkwX1_isIn_0 : List UInt8 := [26, 27, 161, 0, 12, 26, 28, 163, 0, 7, 4, 167, 0, 4, 3, 172]
abbrev dktX1_isIn_0 : List UInt8 := dkwX1_isIn_0 ++ []
theorem dksX1_isIn_0 : cX1_isIn.data.toList.drop 0 = dktX1_isIn_0 := by decide +kernel
theorem dX1_isIn_0 : decode cX1_isIn 0 = .ok (.iload_n 0, 1) := dk_26 (dk_at dksX1_isIn_0 0 rfl rfl)
theorem dX1_isIn_1 : decode cX1_isIn 1 = .ok (.iload_n 1, 1) := dk_27 (dk_at dksX1_isIn_0 1 rfl rfl)
theorem dX1_isIn_2 : decode cX1_isIn 2 = .ok (.if_icmp .lt 12, 3) := dk_161 0 12 (dk_at dksX1_isIn_0 2 rfl rfl)
theorem dX1_isIn_5 : decode cX1_isIn 5 = .ok (.iload_n 0, 1) := dk_26 (dk_at dksX1_isIn_0 5 rfl rfl)
theorem dX1_isIn_6 : decode cX1_isIn 6 = .ok (.iload_n 2, 1) := dk_28 (dk_at dksX1_isIn_0 6 rfl rfl)
theorem dX1_isIn_7 : decode cX1_isIn 7 = .ok (.if_icmp .gt 7, 3) := dk_163 0 7 (dk_at dksX1_isIn_0 7 rfl rfl)
theorem dX1_isIn_10 : decode cX1_isIn 10 = .ok (.iconst 1, 1) := dk_4 (dk_at dksX1_isIn_0 10 rfl rfl)
theorem dX1_isIn_11 : decode cX1_isIn 11 = .ok (.goto 4, 3) := dk_167 0 4 (dk_at dksX1_isIn_0 11 rfl rfl)
theorem dX1_isIn_14 : decode cX1_isIn 14 = .ok (.iconst 0, 1) := dk_3 (dk_at dksX1_isIn_0 14 rfl rfl)
theorem dX1_isIn_15 : decode cX1_isIn 15 = .ok (.ireturn, 1) := dk_172 (dk_at dksX1_isIn_0 15 rfl rfl)
abbrev cX1_fault : ByteArray := prog_1_method_19_code
def yX1_fault : MethodName := ⟨RX1, "fault", "()I"⟩
theorem dX1_fault_0 : decode cX1_fault 0 = .ok (.aload_n 0, 1) := by decide +kernel
theorem dX1_fault_1 : decode cX1_fault 1 = .ok (.getfield 55, 3) := by decide +kernel
theorem dX1_fault_4 : decode cX1_fault 4 = .ok (.ireturn, 1) := by decide +kernel
abbrev cX1_dearest : ByteArray := prog_1_method_55_code
def yX1_dearest : MethodName := ⟨RX1, "dearest", "()I"⟩
def dkwX1_dearest_1 : List UInt8 := [167, 0, 4, 27, 60, 132, 2, 1, 167, 255, 228, 27, 172]
abbrev dktX1_dearest_1 : List UInt8 := dkwX1_dearest_1 ++ []
def dkwX1_dearest_0 : List UInt8 := [3, 60, 4, 61, 28, 16, 50, 163, 0, 28, 42, 28, 182, 1, 44, 42, 27, 182, 1, 44, 164, 0, 7, 28]
abbrev dktX1_dearest_0 : List UInt8 := dkwX1_dearest_0 ++ dktX1_dearest_1
theorem dksX1_dearest_0 : cX1_dearest.data.toList.drop 0 = dktX1_dearest_0 := by decide +kernel
theorem dksX1_dearest_1 : cX1_dearest.data.toList.drop 24 = dktX1_dearest_1 := dk_seg dksX1_dearest_0 24 rfl rfl
theorem dX1_dearest_0 : decode cX1_dearest 0 = .ok (.iconst 0, 1) := dk_3 (dk_at dksX1_dearest_0 0 rfl rfl)
theorem dX1_dearest_1 : decode cX1_dearest 1 = .ok (.istore_n 1, 1) := dk_60 (dk_at dksX1_dearest_0 1 rfl rfl)
theorem dX1_dearest_2 : decode cX1_dearest 2 = .ok (.iconst 1, 1) := dk_4 (dk_at dksX1_dearest_0 2 rfl rfl)
theorem dX1_dearest_3 : decode cX1_dearest 3 = .ok (.istore_n 2, 1) := dk_61 (dk_at dksX1_dearest_0 3 rfl rfl)
theorem dX1_dearest_4 : decode cX1_dearest 4 = .ok (.iload_n 2, 1) := dk_28 (dk_at dksX1_dearest_0 4 rfl rfl)
theorem dX1_dearest_5 : decode cX1_dearest 5 = .ok (.bipush 50, 2) := dk_16 50 (dk_at dksX1_dearest_0 5 rfl rfl)
theorem dX1_dearest_7 : decode cX1_dearest 7 = .ok (.if_icmp .gt 28, 3) := dk_163 0 28 (dk_at dksX1_dearest_0 7 rfl rfl)
theorem dX1_dearest_10 : decode cX1_dearest 10 = .ok (.aload_n 0, 1) := dk_42 (dk_at dksX1_dearest_0 10 rfl rfl)
theorem dX1_dearest_11 : decode cX1_dearest 11 = .ok (.iload_n 2, 1) := dk_28 (dk_at dksX1_dearest_0 11 rfl rfl)
theorem dX1_dearest_12 : decode cX1_dearest 12 = .ok (.invokevirtual 300, 3) := dk_182 1 44 (dk_at dksX1_dearest_0 12 rfl rfl)
theorem dX1_dearest_15 : decode cX1_dearest 15 = .ok (.aload_n 0, 1) := dk_42 (dk_at dksX1_dearest_0 15 rfl rfl)
theorem dX1_dearest_16 : decode cX1_dearest 16 = .ok (.iload_n 1, 1) := dk_27 (dk_at dksX1_dearest_0 16 rfl rfl)
theorem dX1_dearest_17 : decode cX1_dearest 17 = .ok (.invokevirtual 300, 3) := dk_182 1 44 (dk_at dksX1_dearest_0 17 rfl rfl)
theorem dX1_dearest_20 : decode cX1_dearest 20 = .ok (.if_icmp .le 7, 3) := dk_164 0 7 (dk_at dksX1_dearest_0 20 rfl rfl)
theorem dX1_dearest_23 : decode cX1_dearest 23 = .ok (.iload_n 2, 1) := dk_28 (dk_at dksX1_dearest_0 23 rfl rfl)
theorem dX1_dearest_24 : decode cX1_dearest 24 = .ok (.goto 4, 3) := dk_167 0 4 (dk_at dksX1_dearest_1 0 rfl rfl)
theorem dX1_dearest_27 : decode cX1_dearest 27 = .ok (.iload_n 1, 1) := dk_27 (dk_at dksX1_dearest_1 3 rfl rfl)
theorem dX1_dearest_28 : decode cX1_dearest 28 = .ok (.istore_n 1, 1) := dk_60 (dk_at dksX1_dearest_1 4 rfl rfl)
theorem dX1_dearest_29 : decode cX1_dearest 29 = .ok (.iinc 2 1, 3) := dk_132 2 1 (dk_at dksX1_dearest_1 5 rfl rfl)
theorem dX1_dearest_32 : decode cX1_dearest 32 = .ok (.goto (-28), 3) := dk_167 255 228 (dk_at dksX1_dearest_1 8 rfl rfl)
theorem dX1_dearest_35 : decode cX1_dearest 35 = .ok (.iload_n 1, 1) := dk_27 (dk_at dksX1_dearest_1 11 rfl rfl)
theorem dX1_dearest_36 : decode cX1_dearest 36 = .ok (.ireturn, 1) := dk_172 (dk_at dksX1_dearest_1 12 rfl rfl)
abbrev cX1_sellsBy : ByteArray := prog_1_method_53_code
def yX1_sellsBy : MethodName := ⟨RX1, "sellsBy", "(I)I"⟩
def dkwX1_sellsBy_3 : List UInt8 := [132, 3, 1, 167, 255, 187, 28, 172]
abbrev dktX1_sellsBy_3 : List UInt8 := dkwX1_sellsBy_3 ++ []
def dkwX1_sellsBy_2 : List UInt8 := [180, 0, 19, 180, 0, 92, 29, 50, 182, 0, 206, 27, 162, 0, 7, 27, 167, 0, 4, 3, 96, 61]
abbrev dktX1_sellsBy_2 : List UInt8 := dkwX1_sellsBy_2 ++ dktX1_sellsBy_3
def dkwX1_sellsBy_1 : List UInt8 := [50, 180, 0, 155, 2, 159, 0, 38, 42, 180, 0, 19, 180, 0, 92, 29, 50, 180, 0, 200, 154, 0, 23, 42]
abbrev dktX1_sellsBy_1 : List UInt8 := dkwX1_sellsBy_1 ++ dktX1_sellsBy_2
def dkwX1_sellsBy_0 : List UInt8 := [3, 61, 3, 62, 29, 42, 180, 0, 19, 180, 0, 89, 162, 0, 64, 28, 42, 180, 0, 19, 180, 0, 92, 29]
abbrev dktX1_sellsBy_0 : List UInt8 := dkwX1_sellsBy_0 ++ dktX1_sellsBy_1
theorem dksX1_sellsBy_0 : cX1_sellsBy.data.toList.drop 0 = dktX1_sellsBy_0 := by decide +kernel
theorem dksX1_sellsBy_1 : cX1_sellsBy.data.toList.drop 24 = dktX1_sellsBy_1 := dk_seg dksX1_sellsBy_0 24 rfl rfl
theorem dksX1_sellsBy_2 : cX1_sellsBy.data.toList.drop 48 = dktX1_sellsBy_2 := dk_seg dksX1_sellsBy_1 24 rfl rfl
theorem dksX1_sellsBy_3 : cX1_sellsBy.data.toList.drop 70 = dktX1_sellsBy_3 := dk_seg dksX1_sellsBy_2 22 rfl rfl
theorem dX1_sellsBy_0 : decode cX1_sellsBy 0 = .ok (.iconst 0, 1) := dk_3 (dk_at dksX1_sellsBy_0 0 rfl rfl)
theorem dX1_sellsBy_1 : decode cX1_sellsBy 1 = .ok (.istore_n 2, 1) := dk_61 (dk_at dksX1_sellsBy_0 1 rfl rfl)
theorem dX1_sellsBy_2 : decode cX1_sellsBy 2 = .ok (.iconst 0, 1) := dk_3 (dk_at dksX1_sellsBy_0 2 rfl rfl)
theorem dX1_sellsBy_3 : decode cX1_sellsBy 3 = .ok (.istore_n 3, 1) := dk_62 (dk_at dksX1_sellsBy_0 3 rfl rfl)
theorem dX1_sellsBy_4 : decode cX1_sellsBy 4 = .ok (.iload_n 3, 1) := dk_29 (dk_at dksX1_sellsBy_0 4 rfl rfl)
theorem dX1_sellsBy_5 : decode cX1_sellsBy 5 = .ok (.aload_n 0, 1) := dk_42 (dk_at dksX1_sellsBy_0 5 rfl rfl)
theorem dX1_sellsBy_6 : decode cX1_sellsBy 6 = .ok (.getfield 19, 3) := dk_180 0 19 (dk_at dksX1_sellsBy_0 6 rfl rfl)
theorem dX1_sellsBy_9 : decode cX1_sellsBy 9 = .ok (.getfield 89, 3) := dk_180 0 89 (dk_at dksX1_sellsBy_0 9 rfl rfl)
theorem dX1_sellsBy_12 : decode cX1_sellsBy 12 = .ok (.if_icmp .ge 64, 3) := dk_162 0 64 (dk_at dksX1_sellsBy_0 12 rfl rfl)
theorem dX1_sellsBy_15 : decode cX1_sellsBy 15 = .ok (.iload_n 2, 1) := dk_28 (dk_at dksX1_sellsBy_0 15 rfl rfl)
theorem dX1_sellsBy_16 : decode cX1_sellsBy 16 = .ok (.aload_n 0, 1) := dk_42 (dk_at dksX1_sellsBy_0 16 rfl rfl)
theorem dX1_sellsBy_17 : decode cX1_sellsBy 17 = .ok (.getfield 19, 3) := dk_180 0 19 (dk_at dksX1_sellsBy_0 17 rfl rfl)
theorem dX1_sellsBy_20 : decode cX1_sellsBy 20 = .ok (.getfield 92, 3) := dk_180 0 92 (dk_at dksX1_sellsBy_0 20 rfl rfl)
theorem dX1_sellsBy_23 : decode cX1_sellsBy 23 = .ok (.iload_n 3, 1) := dk_29 (dk_at dksX1_sellsBy_0 23 rfl rfl)
theorem dX1_sellsBy_24 : decode cX1_sellsBy 24 = .ok (.aaload, 1) := dk_50 (dk_at dksX1_sellsBy_1 0 rfl rfl)
theorem dX1_sellsBy_25 : decode cX1_sellsBy 25 = .ok (.getfield 155, 3) := dk_180 0 155 (dk_at dksX1_sellsBy_1 1 rfl rfl)
theorem dX1_sellsBy_28 : decode cX1_sellsBy 28 = .ok (.iconst (-1), 1) := dk_2 (dk_at dksX1_sellsBy_1 4 rfl rfl)
theorem dX1_sellsBy_29 : decode cX1_sellsBy 29 = .ok (.if_icmp .eq 38, 3) := dk_159 0 38 (dk_at dksX1_sellsBy_1 5 rfl rfl)
theorem dX1_sellsBy_32 : decode cX1_sellsBy 32 = .ok (.aload_n 0, 1) := dk_42 (dk_at dksX1_sellsBy_1 8 rfl rfl)
theorem dX1_sellsBy_33 : decode cX1_sellsBy 33 = .ok (.getfield 19, 3) := dk_180 0 19 (dk_at dksX1_sellsBy_1 9 rfl rfl)
theorem dX1_sellsBy_36 : decode cX1_sellsBy 36 = .ok (.getfield 92, 3) := dk_180 0 92 (dk_at dksX1_sellsBy_1 12 rfl rfl)
theorem dX1_sellsBy_39 : decode cX1_sellsBy 39 = .ok (.iload_n 3, 1) := dk_29 (dk_at dksX1_sellsBy_1 15 rfl rfl)
theorem dX1_sellsBy_40 : decode cX1_sellsBy 40 = .ok (.aaload, 1) := dk_50 (dk_at dksX1_sellsBy_1 16 rfl rfl)
theorem dX1_sellsBy_41 : decode cX1_sellsBy 41 = .ok (.getfield 200, 3) := dk_180 0 200 (dk_at dksX1_sellsBy_1 17 rfl rfl)
theorem dX1_sellsBy_44 : decode cX1_sellsBy 44 = .ok (.ifCond .ne 23, 3) := dk_154 0 23 (dk_at dksX1_sellsBy_1 20 rfl rfl)
theorem dX1_sellsBy_47 : decode cX1_sellsBy 47 = .ok (.aload_n 0, 1) := dk_42 (dk_at dksX1_sellsBy_1 23 rfl rfl)
theorem dX1_sellsBy_48 : decode cX1_sellsBy 48 = .ok (.getfield 19, 3) := dk_180 0 19 (dk_at dksX1_sellsBy_2 0 rfl rfl)
theorem dX1_sellsBy_51 : decode cX1_sellsBy 51 = .ok (.getfield 92, 3) := dk_180 0 92 (dk_at dksX1_sellsBy_2 3 rfl rfl)
theorem dX1_sellsBy_54 : decode cX1_sellsBy 54 = .ok (.iload_n 3, 1) := dk_29 (dk_at dksX1_sellsBy_2 6 rfl rfl)
theorem dX1_sellsBy_55 : decode cX1_sellsBy 55 = .ok (.aaload, 1) := dk_50 (dk_at dksX1_sellsBy_2 7 rfl rfl)
theorem dX1_sellsBy_56 : decode cX1_sellsBy 56 = .ok (.invokevirtual 206, 3) := dk_182 0 206 (dk_at dksX1_sellsBy_2 8 rfl rfl)
theorem dX1_sellsBy_59 : decode cX1_sellsBy 59 = .ok (.iload_n 1, 1) := dk_27 (dk_at dksX1_sellsBy_2 11 rfl rfl)
theorem dX1_sellsBy_60 : decode cX1_sellsBy 60 = .ok (.if_icmp .ge 7, 3) := dk_162 0 7 (dk_at dksX1_sellsBy_2 12 rfl rfl)
theorem dX1_sellsBy_63 : decode cX1_sellsBy 63 = .ok (.iload_n 1, 1) := dk_27 (dk_at dksX1_sellsBy_2 15 rfl rfl)
theorem dX1_sellsBy_64 : decode cX1_sellsBy 64 = .ok (.goto 4, 3) := dk_167 0 4 (dk_at dksX1_sellsBy_2 16 rfl rfl)
theorem dX1_sellsBy_67 : decode cX1_sellsBy 67 = .ok (.iconst 0, 1) := dk_3 (dk_at dksX1_sellsBy_2 19 rfl rfl)
theorem dX1_sellsBy_68 : decode cX1_sellsBy 68 = .ok (.iadd, 1) := dk_96 (dk_at dksX1_sellsBy_2 20 rfl rfl)
theorem dX1_sellsBy_69 : decode cX1_sellsBy 69 = .ok (.istore_n 2, 1) := dk_61 (dk_at dksX1_sellsBy_2 21 rfl rfl)
theorem dX1_sellsBy_70 : decode cX1_sellsBy 70 = .ok (.iinc 3 1, 3) := dk_132 3 1 (dk_at dksX1_sellsBy_3 0 rfl rfl)
theorem dX1_sellsBy_73 : decode cX1_sellsBy 73 = .ok (.goto (-69), 3) := dk_167 255 187 (dk_at dksX1_sellsBy_3 3 rfl rfl)
theorem dX1_sellsBy_76 : decode cX1_sellsBy 76 = .ok (.iload_n 2, 1) := dk_28 (dk_at dksX1_sellsBy_3 6 rfl rfl)
theorem dX1_sellsBy_77 : decode cX1_sellsBy 77 = .ok (.ireturn, 1) := dk_172 (dk_at dksX1_sellsBy_3 7 rfl rfl)
abbrev cX1_sum : ByteArray := prog_1_method_1_code
def yX1_sum : MethodName := ⟨RX1, "sum", "([I)I"⟩
def dkwX1_sum_0 : List UInt8 := [3, 60, 3, 61, 28, 7, 162, 0, 15, 27, 42, 28, 46, 96, 60, 132, 2, 1, 167, 255, 242, 27, 172]
abbrev dktX1_sum_0 : List UInt8 := dkwX1_sum_0 ++ []
theorem dksX1_sum_0 : cX1_sum.data.toList.drop 0 = dktX1_sum_0 := by decide +kernel
theorem dX1_sum_0 : decode cX1_sum 0 = .ok (.iconst 0, 1) := dk_3 (dk_at dksX1_sum_0 0 rfl rfl)
theorem dX1_sum_1 : decode cX1_sum 1 = .ok (.istore_n 1, 1) := dk_60 (dk_at dksX1_sum_0 1 rfl rfl)
theorem dX1_sum_2 : decode cX1_sum 2 = .ok (.iconst 0, 1) := dk_3 (dk_at dksX1_sum_0 2 rfl rfl)
theorem dX1_sum_3 : decode cX1_sum 3 = .ok (.istore_n 2, 1) := dk_61 (dk_at dksX1_sum_0 3 rfl rfl)
theorem dX1_sum_4 : decode cX1_sum 4 = .ok (.iload_n 2, 1) := dk_28 (dk_at dksX1_sum_0 4 rfl rfl)
theorem dX1_sum_5 : decode cX1_sum 5 = .ok (.iconst 4, 1) := dk_7 (dk_at dksX1_sum_0 5 rfl rfl)
theorem dX1_sum_6 : decode cX1_sum 6 = .ok (.if_icmp .ge 15, 3) := dk_162 0 15 (dk_at dksX1_sum_0 6 rfl rfl)
theorem dX1_sum_9 : decode cX1_sum 9 = .ok (.iload_n 1, 1) := dk_27 (dk_at dksX1_sum_0 9 rfl rfl)
theorem dX1_sum_10 : decode cX1_sum 10 = .ok (.aload_n 0, 1) := dk_42 (dk_at dksX1_sum_0 10 rfl rfl)
theorem dX1_sum_11 : decode cX1_sum 11 = .ok (.iload_n 2, 1) := dk_28 (dk_at dksX1_sum_0 11 rfl rfl)
theorem dX1_sum_12 : decode cX1_sum 12 = .ok (.iaload, 1) := dk_46 (dk_at dksX1_sum_0 12 rfl rfl)
theorem dX1_sum_13 : decode cX1_sum 13 = .ok (.iadd, 1) := dk_96 (dk_at dksX1_sum_0 13 rfl rfl)
theorem dX1_sum_14 : decode cX1_sum 14 = .ok (.istore_n 1, 1) := dk_60 (dk_at dksX1_sum_0 14 rfl rfl)
theorem dX1_sum_15 : decode cX1_sum 15 = .ok (.iinc 2 1, 3) := dk_132 2 1 (dk_at dksX1_sum_0 15 rfl rfl)
theorem dX1_sum_18 : decode cX1_sum 18 = .ok (.goto (-14), 3) := dk_167 255 242 (dk_at dksX1_sum_0 18 rfl rfl)
theorem dX1_sum_21 : decode cX1_sum 21 = .ok (.iload_n 1, 1) := dk_27 (dk_at dksX1_sum_0 21 rfl rfl)
theorem dX1_sum_22 : decode cX1_sum 22 = .ok (.ireturn, 1) := dk_172 (dk_at dksX1_sum_0 22 rfl rfl)
abbrev cX1_unlucky : ByteArray := prog_1_method_56_code
def yX1_unlucky : MethodName := ⟨RX1, "unlucky", "()I"⟩
def dkwX1_unlucky_2 : List UInt8 := [184, 0, 188, 162, 0, 5, 28, 60, 132, 2, 1, 167, 255, 202, 27, 172]
abbrev dktX1_unlucky_2 : List UInt8 := dkwX1_unlucky_2 ++ []
def dkwX1_unlucky_1 : List UInt8 := [180, 0, 85, 28, 50, 180, 0, 167, 184, 0, 188, 42, 180, 0, 19, 180, 0, 85, 27, 50, 180, 0, 167]
abbrev dktX1_unlucky_1 : List UInt8 := dkwX1_unlucky_1 ++ dktX1_unlucky_2
def dkwX1_unlucky_0 : List UInt8 := [2, 60, 3, 61, 28, 42, 180, 0, 19, 180, 0, 74, 162, 0, 49, 27, 2, 159, 0, 36, 42, 180, 0, 19]
abbrev dktX1_unlucky_0 : List UInt8 := dkwX1_unlucky_0 ++ dktX1_unlucky_1
theorem dksX1_unlucky_0 : cX1_unlucky.data.toList.drop 0 = dktX1_unlucky_0 := by decide +kernel
theorem dksX1_unlucky_1 : cX1_unlucky.data.toList.drop 24 = dktX1_unlucky_1 := dk_seg dksX1_unlucky_0 24 rfl rfl
theorem dksX1_unlucky_2 : cX1_unlucky.data.toList.drop 47 = dktX1_unlucky_2 := dk_seg dksX1_unlucky_1 23 rfl rfl
theorem dX1_unlucky_0 : decode cX1_unlucky 0 = .ok (.iconst (-1), 1) := dk_2 (dk_at dksX1_unlucky_0 0 rfl rfl)
theorem dX1_unlucky_1 : decode cX1_unlucky 1 = .ok (.istore_n 1, 1) := dk_60 (dk_at dksX1_unlucky_0 1 rfl rfl)
theorem dX1_unlucky_2 : decode cX1_unlucky 2 = .ok (.iconst 0, 1) := dk_3 (dk_at dksX1_unlucky_0 2 rfl rfl)
theorem dX1_unlucky_3 : decode cX1_unlucky 3 = .ok (.istore_n 2, 1) := dk_61 (dk_at dksX1_unlucky_0 3 rfl rfl)
theorem dX1_unlucky_4 : decode cX1_unlucky 4 = .ok (.iload_n 2, 1) := dk_28 (dk_at dksX1_unlucky_0 4 rfl rfl)
theorem dX1_unlucky_5 : decode cX1_unlucky 5 = .ok (.aload_n 0, 1) := dk_42 (dk_at dksX1_unlucky_0 5 rfl rfl)
theorem dX1_unlucky_6 : decode cX1_unlucky 6 = .ok (.getfield 19, 3) := dk_180 0 19 (dk_at dksX1_unlucky_0 6 rfl rfl)
theorem dX1_unlucky_9 : decode cX1_unlucky 9 = .ok (.getfield 74, 3) := dk_180 0 74 (dk_at dksX1_unlucky_0 9 rfl rfl)
theorem dX1_unlucky_12 : decode cX1_unlucky 12 = .ok (.if_icmp .ge 49, 3) := dk_162 0 49 (dk_at dksX1_unlucky_0 12 rfl rfl)
theorem dX1_unlucky_15 : decode cX1_unlucky 15 = .ok (.iload_n 1, 1) := dk_27 (dk_at dksX1_unlucky_0 15 rfl rfl)
theorem dX1_unlucky_16 : decode cX1_unlucky 16 = .ok (.iconst (-1), 1) := dk_2 (dk_at dksX1_unlucky_0 16 rfl rfl)
theorem dX1_unlucky_17 : decode cX1_unlucky 17 = .ok (.if_icmp .eq 36, 3) := dk_159 0 36 (dk_at dksX1_unlucky_0 17 rfl rfl)
theorem dX1_unlucky_20 : decode cX1_unlucky 20 = .ok (.aload_n 0, 1) := dk_42 (dk_at dksX1_unlucky_0 20 rfl rfl)
theorem dX1_unlucky_21 : decode cX1_unlucky 21 = .ok (.getfield 19, 3) := dk_180 0 19 (dk_at dksX1_unlucky_0 21 rfl rfl)
theorem dX1_unlucky_24 : decode cX1_unlucky 24 = .ok (.getfield 85, 3) := dk_180 0 85 (dk_at dksX1_unlucky_1 0 rfl rfl)
theorem dX1_unlucky_27 : decode cX1_unlucky 27 = .ok (.iload_n 2, 1) := dk_28 (dk_at dksX1_unlucky_1 3 rfl rfl)
theorem dX1_unlucky_28 : decode cX1_unlucky 28 = .ok (.aaload, 1) := dk_50 (dk_at dksX1_unlucky_1 4 rfl rfl)
theorem dX1_unlucky_29 : decode cX1_unlucky 29 = .ok (.getfield 167, 3) := dk_180 0 167 (dk_at dksX1_unlucky_1 5 rfl rfl)
theorem dX1_unlucky_32 : decode cX1_unlucky 32 = .ok (.invokestatic 188, 3) := dk_184 0 188 (dk_at dksX1_unlucky_1 8 rfl rfl)
theorem dX1_unlucky_35 : decode cX1_unlucky 35 = .ok (.aload_n 0, 1) := dk_42 (dk_at dksX1_unlucky_1 11 rfl rfl)
theorem dX1_unlucky_36 : decode cX1_unlucky 36 = .ok (.getfield 19, 3) := dk_180 0 19 (dk_at dksX1_unlucky_1 12 rfl rfl)
theorem dX1_unlucky_39 : decode cX1_unlucky 39 = .ok (.getfield 85, 3) := dk_180 0 85 (dk_at dksX1_unlucky_1 15 rfl rfl)
theorem dX1_unlucky_42 : decode cX1_unlucky 42 = .ok (.iload_n 1, 1) := dk_27 (dk_at dksX1_unlucky_1 18 rfl rfl)
theorem dX1_unlucky_43 : decode cX1_unlucky 43 = .ok (.aaload, 1) := dk_50 (dk_at dksX1_unlucky_1 19 rfl rfl)
theorem dX1_unlucky_44 : decode cX1_unlucky 44 = .ok (.getfield 167, 3) := dk_180 0 167 (dk_at dksX1_unlucky_1 20 rfl rfl)
theorem dX1_unlucky_47 : decode cX1_unlucky 47 = .ok (.invokestatic 188, 3) := dk_184 0 188 (dk_at dksX1_unlucky_2 0 rfl rfl)
theorem dX1_unlucky_50 : decode cX1_unlucky 50 = .ok (.if_icmp .ge 5, 3) := dk_162 0 5 (dk_at dksX1_unlucky_2 3 rfl rfl)
theorem dX1_unlucky_53 : decode cX1_unlucky 53 = .ok (.iload_n 2, 1) := dk_28 (dk_at dksX1_unlucky_2 6 rfl rfl)
theorem dX1_unlucky_54 : decode cX1_unlucky 54 = .ok (.istore_n 1, 1) := dk_60 (dk_at dksX1_unlucky_2 7 rfl rfl)
theorem dX1_unlucky_55 : decode cX1_unlucky 55 = .ok (.iinc 2 1, 3) := dk_132 2 1 (dk_at dksX1_unlucky_2 8 rfl rfl)
theorem dX1_unlucky_58 : decode cX1_unlucky 58 = .ok (.goto (-54), 3) := dk_167 255 202 (dk_at dksX1_unlucky_2 11 rfl rfl)
theorem dX1_unlucky_61 : decode cX1_unlucky 61 = .ok (.iload_n 1, 1) := dk_27 (dk_at dksX1_unlucky_2 14 rfl rfl)
theorem dX1_unlucky_62 : decode cX1_unlucky 62 = .ok (.ireturn, 1) := dk_172 (dk_at dksX1_unlucky_2 15 rfl rfl)
abbrev cX1_oldest : ByteArray := prog_1_method_62_code
def yX1_oldest : MethodName := ⟨RX1, "oldest", "()I"⟩
def dkwX1_oldest_2 : List UInt8 := [60, 132, 2, 1, 167, 255, 208, 27, 172]
abbrev dktX1_oldest_2 : List UInt8 := dkwX1_oldest_2 ++ []
def dkwX1_oldest_1 : List UInt8 := [180, 0, 92, 28, 50, 180, 0, 197, 42, 180, 0, 19, 180, 0, 92, 27, 50, 180, 0, 197, 164, 0, 5, 28]
abbrev dktX1_oldest_1 : List UInt8 := dkwX1_oldest_1 ++ dktX1_oldest_2
def dkwX1_oldest_0 : List UInt8 := [2, 60, 3, 61, 28, 42, 180, 0, 19, 180, 0, 89, 162, 0, 43, 27, 2, 159, 0, 30, 42, 180, 0, 19]
abbrev dktX1_oldest_0 : List UInt8 := dkwX1_oldest_0 ++ dktX1_oldest_1
theorem dksX1_oldest_0 : cX1_oldest.data.toList.drop 0 = dktX1_oldest_0 := by decide +kernel
theorem dksX1_oldest_1 : cX1_oldest.data.toList.drop 24 = dktX1_oldest_1 := dk_seg dksX1_oldest_0 24 rfl rfl
theorem dksX1_oldest_2 : cX1_oldest.data.toList.drop 48 = dktX1_oldest_2 := dk_seg dksX1_oldest_1 24 rfl rfl
theorem dX1_oldest_0 : decode cX1_oldest 0 = .ok (.iconst (-1), 1) := dk_2 (dk_at dksX1_oldest_0 0 rfl rfl)
theorem dX1_oldest_1 : decode cX1_oldest 1 = .ok (.istore_n 1, 1) := dk_60 (dk_at dksX1_oldest_0 1 rfl rfl)
theorem dX1_oldest_2 : decode cX1_oldest 2 = .ok (.iconst 0, 1) := dk_3 (dk_at dksX1_oldest_0 2 rfl rfl)
theorem dX1_oldest_3 : decode cX1_oldest 3 = .ok (.istore_n 2, 1) := dk_61 (dk_at dksX1_oldest_0 3 rfl rfl)
theorem dX1_oldest_4 : decode cX1_oldest 4 = .ok (.iload_n 2, 1) := dk_28 (dk_at dksX1_oldest_0 4 rfl rfl)
theorem dX1_oldest_5 : decode cX1_oldest 5 = .ok (.aload_n 0, 1) := dk_42 (dk_at dksX1_oldest_0 5 rfl rfl)
theorem dX1_oldest_6 : decode cX1_oldest 6 = .ok (.getfield 19, 3) := dk_180 0 19 (dk_at dksX1_oldest_0 6 rfl rfl)
theorem dX1_oldest_9 : decode cX1_oldest 9 = .ok (.getfield 89, 3) := dk_180 0 89 (dk_at dksX1_oldest_0 9 rfl rfl)
theorem dX1_oldest_12 : decode cX1_oldest 12 = .ok (.if_icmp .ge 43, 3) := dk_162 0 43 (dk_at dksX1_oldest_0 12 rfl rfl)
theorem dX1_oldest_15 : decode cX1_oldest 15 = .ok (.iload_n 1, 1) := dk_27 (dk_at dksX1_oldest_0 15 rfl rfl)
theorem dX1_oldest_16 : decode cX1_oldest 16 = .ok (.iconst (-1), 1) := dk_2 (dk_at dksX1_oldest_0 16 rfl rfl)
theorem dX1_oldest_17 : decode cX1_oldest 17 = .ok (.if_icmp .eq 30, 3) := dk_159 0 30 (dk_at dksX1_oldest_0 17 rfl rfl)
theorem dX1_oldest_20 : decode cX1_oldest 20 = .ok (.aload_n 0, 1) := dk_42 (dk_at dksX1_oldest_0 20 rfl rfl)
theorem dX1_oldest_21 : decode cX1_oldest 21 = .ok (.getfield 19, 3) := dk_180 0 19 (dk_at dksX1_oldest_0 21 rfl rfl)
theorem dX1_oldest_24 : decode cX1_oldest 24 = .ok (.getfield 92, 3) := dk_180 0 92 (dk_at dksX1_oldest_1 0 rfl rfl)
theorem dX1_oldest_27 : decode cX1_oldest 27 = .ok (.iload_n 2, 1) := dk_28 (dk_at dksX1_oldest_1 3 rfl rfl)
theorem dX1_oldest_28 : decode cX1_oldest 28 = .ok (.aaload, 1) := dk_50 (dk_at dksX1_oldest_1 4 rfl rfl)
theorem dX1_oldest_29 : decode cX1_oldest 29 = .ok (.getfield 197, 3) := dk_180 0 197 (dk_at dksX1_oldest_1 5 rfl rfl)
theorem dX1_oldest_32 : decode cX1_oldest 32 = .ok (.aload_n 0, 1) := dk_42 (dk_at dksX1_oldest_1 8 rfl rfl)
theorem dX1_oldest_33 : decode cX1_oldest 33 = .ok (.getfield 19, 3) := dk_180 0 19 (dk_at dksX1_oldest_1 9 rfl rfl)
theorem dX1_oldest_36 : decode cX1_oldest 36 = .ok (.getfield 92, 3) := dk_180 0 92 (dk_at dksX1_oldest_1 12 rfl rfl)
theorem dX1_oldest_39 : decode cX1_oldest 39 = .ok (.iload_n 1, 1) := dk_27 (dk_at dksX1_oldest_1 15 rfl rfl)
theorem dX1_oldest_40 : decode cX1_oldest 40 = .ok (.aaload, 1) := dk_50 (dk_at dksX1_oldest_1 16 rfl rfl)
theorem dX1_oldest_41 : decode cX1_oldest 41 = .ok (.getfield 197, 3) := dk_180 0 197 (dk_at dksX1_oldest_1 17 rfl rfl)
theorem dX1_oldest_44 : decode cX1_oldest 44 = .ok (.if_icmp .le 5, 3) := dk_164 0 5 (dk_at dksX1_oldest_1 20 rfl rfl)
theorem dX1_oldest_47 : decode cX1_oldest 47 = .ok (.iload_n 2, 1) := dk_28 (dk_at dksX1_oldest_1 23 rfl rfl)
theorem dX1_oldest_48 : decode cX1_oldest 48 = .ok (.istore_n 1, 1) := dk_60 (dk_at dksX1_oldest_2 0 rfl rfl)
theorem dX1_oldest_49 : decode cX1_oldest 49 = .ok (.iinc 2 1, 3) := dk_132 2 1 (dk_at dksX1_oldest_2 1 rfl rfl)
theorem dX1_oldest_52 : decode cX1_oldest 52 = .ok (.goto (-48), 3) := dk_167 255 208 (dk_at dksX1_oldest_2 4 rfl rfl)
theorem dX1_oldest_55 : decode cX1_oldest 55 = .ok (.iload_n 1, 1) := dk_27 (dk_at dksX1_oldest_2 7 rfl rfl)
theorem dX1_oldest_56 : decode cX1_oldest 56 = .ok (.ireturn, 1) := dk_172 (dk_at dksX1_oldest_2 8 rfl rfl)
abbrev cX1_stuck : ByteArray := prog_1_method_63_code
def yX1_stuck : MethodName := ⟨RX1, "stuck", "()I"⟩
def dkwX1_stuck_0 : List UInt8 := [42, 180, 0, 19, 182, 1, 50, 172]
abbrev dktX1_stuck_0 : List UInt8 := dkwX1_stuck_0 ++ []
theorem dksX1_stuck_0 : cX1_stuck.data.toList.drop 0 = dktX1_stuck_0 := by decide +kernel
theorem dX1_stuck_0 : decode cX1_stuck 0 = .ok (.aload_n 0, 1) := dk_42 (dk_at dksX1_stuck_0 0 rfl rfl)
theorem dX1_stuck_1 : decode cX1_stuck 1 = .ok (.getfield 19, 3) := dk_180 0 19 (dk_at dksX1_stuck_0 1 rfl rfl)
theorem dX1_stuck_4 : decode cX1_stuck 4 = .ok (.invokevirtual 306, 3) := dk_182 1 50 (dk_at dksX1_stuck_0 4 rfl rfl)
theorem dX1_stuck_7 : decode cX1_stuck 7 = .ok (.ireturn, 1) := dk_172 (dk_at dksX1_stuck_0 7 rfl rfl)
abbrev cX1_pawned : ByteArray := prog_1_method_64_code
def yX1_pawned : MethodName := ⟨RX1, "pawned", "()I"⟩
def dkwX1_pawned_0 : List UInt8 := [42, 2, 182, 0, 182, 172]
abbrev dktX1_pawned_0 : List UInt8 := dkwX1_pawned_0 ++ []
theorem dksX1_pawned_0 : cX1_pawned.data.toList.drop 0 = dktX1_pawned_0 := by decide +kernel
theorem dX1_pawned_0 : decode cX1_pawned 0 = .ok (.aload_n 0, 1) := dk_42 (dk_at dksX1_pawned_0 0 rfl rfl)
theorem dX1_pawned_1 : decode cX1_pawned 1 = .ok (.iconst (-1), 1) := dk_2 (dk_at dksX1_pawned_0 1 rfl rfl)
theorem dX1_pawned_2 : decode cX1_pawned 2 = .ok (.invokevirtual 182, 3) := dk_182 0 182 (dk_at dksX1_pawned_0 2 rfl rfl)
theorem dX1_pawned_5 : decode cX1_pawned 5 = .ok (.ireturn, 1) := dk_172 (dk_at dksX1_pawned_0 5 rfl rfl)
abbrev cX1_heldBy : ByteArray := prog_1_method_20_code
def yX1_heldBy : MethodName := ⟨RX1, "heldBy", "(I)I"⟩
def dkwX1_heldBy_2 : List UInt8 := [172]
abbrev dktX1_heldBy_2 : List UInt8 := dkwX1_heldBy_2 ++ []
def dkwX1_heldBy_1 : List UInt8 := [50, 180, 0, 155, 27, 160, 0, 9, 4, 29, 120, 167, 0, 4, 3, 128, 61, 132, 3, 1, 167, 255, 216, 28]
abbrev dktX1_heldBy_1 : List UInt8 := dkwX1_heldBy_1 ++ dktX1_heldBy_2
def dkwX1_heldBy_0 : List UInt8 := [3, 61, 3, 62, 29, 42, 180, 0, 19, 180, 0, 89, 162, 0, 35, 28, 42, 180, 0, 19, 180, 0, 92, 29]
abbrev dktX1_heldBy_0 : List UInt8 := dkwX1_heldBy_0 ++ dktX1_heldBy_1
theorem dksX1_heldBy_0 : cX1_heldBy.data.toList.drop 0 = dktX1_heldBy_0 := by decide +kernel
theorem dksX1_heldBy_1 : cX1_heldBy.data.toList.drop 24 = dktX1_heldBy_1 := dk_seg dksX1_heldBy_0 24 rfl rfl
theorem dksX1_heldBy_2 : cX1_heldBy.data.toList.drop 48 = dktX1_heldBy_2 := dk_seg dksX1_heldBy_1 24 rfl rfl
theorem dX1_heldBy_0 : decode cX1_heldBy 0 = .ok (.iconst 0, 1) := dk_3 (dk_at dksX1_heldBy_0 0 rfl rfl)
theorem dX1_heldBy_1 : decode cX1_heldBy 1 = .ok (.istore_n 2, 1) := dk_61 (dk_at dksX1_heldBy_0 1 rfl rfl)
theorem dX1_heldBy_2 : decode cX1_heldBy 2 = .ok (.iconst 0, 1) := dk_3 (dk_at dksX1_heldBy_0 2 rfl rfl)
theorem dX1_heldBy_3 : decode cX1_heldBy 3 = .ok (.istore_n 3, 1) := dk_62 (dk_at dksX1_heldBy_0 3 rfl rfl)
theorem dX1_heldBy_4 : decode cX1_heldBy 4 = .ok (.iload_n 3, 1) := dk_29 (dk_at dksX1_heldBy_0 4 rfl rfl)
theorem dX1_heldBy_5 : decode cX1_heldBy 5 = .ok (.aload_n 0, 1) := dk_42 (dk_at dksX1_heldBy_0 5 rfl rfl)
theorem dX1_heldBy_6 : decode cX1_heldBy 6 = .ok (.getfield 19, 3) := dk_180 0 19 (dk_at dksX1_heldBy_0 6 rfl rfl)
theorem dX1_heldBy_9 : decode cX1_heldBy 9 = .ok (.getfield 89, 3) := dk_180 0 89 (dk_at dksX1_heldBy_0 9 rfl rfl)
theorem dX1_heldBy_12 : decode cX1_heldBy 12 = .ok (.if_icmp .ge 35, 3) := dk_162 0 35 (dk_at dksX1_heldBy_0 12 rfl rfl)
theorem dX1_heldBy_15 : decode cX1_heldBy 15 = .ok (.iload_n 2, 1) := dk_28 (dk_at dksX1_heldBy_0 15 rfl rfl)
theorem dX1_heldBy_16 : decode cX1_heldBy 16 = .ok (.aload_n 0, 1) := dk_42 (dk_at dksX1_heldBy_0 16 rfl rfl)
theorem dX1_heldBy_17 : decode cX1_heldBy 17 = .ok (.getfield 19, 3) := dk_180 0 19 (dk_at dksX1_heldBy_0 17 rfl rfl)
theorem dX1_heldBy_20 : decode cX1_heldBy 20 = .ok (.getfield 92, 3) := dk_180 0 92 (dk_at dksX1_heldBy_0 20 rfl rfl)
theorem dX1_heldBy_23 : decode cX1_heldBy 23 = .ok (.iload_n 3, 1) := dk_29 (dk_at dksX1_heldBy_0 23 rfl rfl)
theorem dX1_heldBy_24 : decode cX1_heldBy 24 = .ok (.aaload, 1) := dk_50 (dk_at dksX1_heldBy_1 0 rfl rfl)
theorem dX1_heldBy_25 : decode cX1_heldBy 25 = .ok (.getfield 155, 3) := dk_180 0 155 (dk_at dksX1_heldBy_1 1 rfl rfl)
theorem dX1_heldBy_28 : decode cX1_heldBy 28 = .ok (.iload_n 1, 1) := dk_27 (dk_at dksX1_heldBy_1 4 rfl rfl)
theorem dX1_heldBy_29 : decode cX1_heldBy 29 = .ok (.if_icmp .ne 9, 3) := dk_160 0 9 (dk_at dksX1_heldBy_1 5 rfl rfl)
theorem dX1_heldBy_32 : decode cX1_heldBy 32 = .ok (.iconst 1, 1) := dk_4 (dk_at dksX1_heldBy_1 8 rfl rfl)
theorem dX1_heldBy_33 : decode cX1_heldBy 33 = .ok (.iload_n 3, 1) := dk_29 (dk_at dksX1_heldBy_1 9 rfl rfl)
theorem dX1_heldBy_34 : decode cX1_heldBy 34 = .ok (.ishl, 1) := dk_120 (dk_at dksX1_heldBy_1 10 rfl rfl)
theorem dX1_heldBy_35 : decode cX1_heldBy 35 = .ok (.goto 4, 3) := dk_167 0 4 (dk_at dksX1_heldBy_1 11 rfl rfl)
theorem dX1_heldBy_38 : decode cX1_heldBy 38 = .ok (.iconst 0, 1) := dk_3 (dk_at dksX1_heldBy_1 14 rfl rfl)
theorem dX1_heldBy_39 : decode cX1_heldBy 39 = .ok (.ior, 1) := dk_128 (dk_at dksX1_heldBy_1 15 rfl rfl)
theorem dX1_heldBy_40 : decode cX1_heldBy 40 = .ok (.istore_n 2, 1) := dk_61 (dk_at dksX1_heldBy_1 16 rfl rfl)
theorem dX1_heldBy_41 : decode cX1_heldBy 41 = .ok (.iinc 3 1, 3) := dk_132 3 1 (dk_at dksX1_heldBy_1 17 rfl rfl)
theorem dX1_heldBy_44 : decode cX1_heldBy 44 = .ok (.goto (-40), 3) := dk_167 255 216 (dk_at dksX1_heldBy_1 20 rfl rfl)
theorem dX1_heldBy_47 : decode cX1_heldBy 47 = .ok (.iload_n 2, 1) := dk_28 (dk_at dksX1_heldBy_1 23 rfl rfl)
theorem dX1_heldBy_48 : decode cX1_heldBy 48 = .ok (.ireturn, 1) := dk_172 (dk_at dksX1_heldBy_2 0 rfl rfl)
abbrev cX1_blue : ByteArray := prog_1_method_65_code
def yX1_blue : MethodName := ⟨RX1, "blue", "()I"⟩
def dkwX1_blue_1 : List UInt8 := [50, 180, 0, 203, 153, 0, 9, 4, 28, 120, 167, 0, 4, 3, 128, 60, 132, 2, 1, 167, 255, 217, 27, 172]
abbrev dktX1_blue_1 : List UInt8 := dkwX1_blue_1 ++ []
def dkwX1_blue_0 : List UInt8 := [3, 60, 3, 61, 28, 42, 180, 0, 19, 180, 0, 89, 162, 0, 34, 27, 42, 180, 0, 19, 180, 0, 92, 28]
abbrev dktX1_blue_0 : List UInt8 := dkwX1_blue_0 ++ dktX1_blue_1
theorem dksX1_blue_0 : cX1_blue.data.toList.drop 0 = dktX1_blue_0 := by decide +kernel
theorem dksX1_blue_1 : cX1_blue.data.toList.drop 24 = dktX1_blue_1 := dk_seg dksX1_blue_0 24 rfl rfl
theorem dX1_blue_0 : decode cX1_blue 0 = .ok (.iconst 0, 1) := dk_3 (dk_at dksX1_blue_0 0 rfl rfl)
theorem dX1_blue_1 : decode cX1_blue 1 = .ok (.istore_n 1, 1) := dk_60 (dk_at dksX1_blue_0 1 rfl rfl)
theorem dX1_blue_2 : decode cX1_blue 2 = .ok (.iconst 0, 1) := dk_3 (dk_at dksX1_blue_0 2 rfl rfl)
theorem dX1_blue_3 : decode cX1_blue 3 = .ok (.istore_n 2, 1) := dk_61 (dk_at dksX1_blue_0 3 rfl rfl)
theorem dX1_blue_4 : decode cX1_blue 4 = .ok (.iload_n 2, 1) := dk_28 (dk_at dksX1_blue_0 4 rfl rfl)
theorem dX1_blue_5 : decode cX1_blue 5 = .ok (.aload_n 0, 1) := dk_42 (dk_at dksX1_blue_0 5 rfl rfl)
theorem dX1_blue_6 : decode cX1_blue 6 = .ok (.getfield 19, 3) := dk_180 0 19 (dk_at dksX1_blue_0 6 rfl rfl)
theorem dX1_blue_9 : decode cX1_blue 9 = .ok (.getfield 89, 3) := dk_180 0 89 (dk_at dksX1_blue_0 9 rfl rfl)
theorem dX1_blue_12 : decode cX1_blue 12 = .ok (.if_icmp .ge 34, 3) := dk_162 0 34 (dk_at dksX1_blue_0 12 rfl rfl)
theorem dX1_blue_15 : decode cX1_blue 15 = .ok (.iload_n 1, 1) := dk_27 (dk_at dksX1_blue_0 15 rfl rfl)
theorem dX1_blue_16 : decode cX1_blue 16 = .ok (.aload_n 0, 1) := dk_42 (dk_at dksX1_blue_0 16 rfl rfl)
theorem dX1_blue_17 : decode cX1_blue 17 = .ok (.getfield 19, 3) := dk_180 0 19 (dk_at dksX1_blue_0 17 rfl rfl)
theorem dX1_blue_20 : decode cX1_blue 20 = .ok (.getfield 92, 3) := dk_180 0 92 (dk_at dksX1_blue_0 20 rfl rfl)
theorem dX1_blue_23 : decode cX1_blue 23 = .ok (.iload_n 2, 1) := dk_28 (dk_at dksX1_blue_0 23 rfl rfl)
theorem dX1_blue_24 : decode cX1_blue 24 = .ok (.aaload, 1) := dk_50 (dk_at dksX1_blue_1 0 rfl rfl)
theorem dX1_blue_25 : decode cX1_blue 25 = .ok (.getfield 203, 3) := dk_180 0 203 (dk_at dksX1_blue_1 1 rfl rfl)
theorem dX1_blue_28 : decode cX1_blue 28 = .ok (.ifCond .eq 9, 3) := dk_153 0 9 (dk_at dksX1_blue_1 4 rfl rfl)
theorem dX1_blue_31 : decode cX1_blue 31 = .ok (.iconst 1, 1) := dk_4 (dk_at dksX1_blue_1 7 rfl rfl)
theorem dX1_blue_32 : decode cX1_blue 32 = .ok (.iload_n 2, 1) := dk_28 (dk_at dksX1_blue_1 8 rfl rfl)
theorem dX1_blue_33 : decode cX1_blue 33 = .ok (.ishl, 1) := dk_120 (dk_at dksX1_blue_1 9 rfl rfl)
theorem dX1_blue_34 : decode cX1_blue 34 = .ok (.goto 4, 3) := dk_167 0 4 (dk_at dksX1_blue_1 10 rfl rfl)
theorem dX1_blue_37 : decode cX1_blue 37 = .ok (.iconst 0, 1) := dk_3 (dk_at dksX1_blue_1 13 rfl rfl)
theorem dX1_blue_38 : decode cX1_blue 38 = .ok (.ior, 1) := dk_128 (dk_at dksX1_blue_1 14 rfl rfl)
theorem dX1_blue_39 : decode cX1_blue 39 = .ok (.istore_n 1, 1) := dk_60 (dk_at dksX1_blue_1 15 rfl rfl)
theorem dX1_blue_40 : decode cX1_blue 40 = .ok (.iinc 2 1, 3) := dk_132 2 1 (dk_at dksX1_blue_1 16 rfl rfl)
theorem dX1_blue_43 : decode cX1_blue 43 = .ok (.goto (-39), 3) := dk_167 255 217 (dk_at dksX1_blue_1 19 rfl rfl)
theorem dX1_blue_46 : decode cX1_blue 46 = .ok (.iload_n 1, 1) := dk_27 (dk_at dksX1_blue_1 22 rfl rfl)
theorem dX1_blue_47 : decode cX1_blue 47 = .ok (.ireturn, 1) := dk_172 (dk_at dksX1_blue_1 23 rfl rfl)
abbrev cX1_alike : ByteArray := prog_1_method_67_code
def yX1_alike : MethodName := ⟨RX1, "alike", "()I"⟩
def dkwX1_alike_2 : List UInt8 := [132, 3, 1, 167, 255, 225, 132, 2, 1, 167, 255, 204, 27, 172]
abbrev dktX1_alike_2 : List UInt8 := dkwX1_alike_2 ++ []
def dkwX1_alike_1 : List UInt8 := [180, 0, 89, 162, 0, 26, 27, 42, 28, 29, 182, 1, 53, 153, 0, 7, 4, 167, 0, 4, 3, 96, 60]
abbrev dktX1_alike_1 : List UInt8 := dkwX1_alike_1 ++ dktX1_alike_2
def dkwX1_alike_0 : List UInt8 := [3, 60, 3, 61, 28, 42, 180, 0, 19, 180, 0, 89, 162, 0, 47, 28, 4, 96, 62, 29, 42, 180, 0, 19]
abbrev dktX1_alike_0 : List UInt8 := dkwX1_alike_0 ++ dktX1_alike_1
theorem dksX1_alike_0 : cX1_alike.data.toList.drop 0 = dktX1_alike_0 := by decide +kernel
theorem dksX1_alike_1 : cX1_alike.data.toList.drop 24 = dktX1_alike_1 := dk_seg dksX1_alike_0 24 rfl rfl
theorem dksX1_alike_2 : cX1_alike.data.toList.drop 47 = dktX1_alike_2 := dk_seg dksX1_alike_1 23 rfl rfl
theorem dX1_alike_0 : decode cX1_alike 0 = .ok (.iconst 0, 1) := dk_3 (dk_at dksX1_alike_0 0 rfl rfl)
theorem dX1_alike_1 : decode cX1_alike 1 = .ok (.istore_n 1, 1) := dk_60 (dk_at dksX1_alike_0 1 rfl rfl)
theorem dX1_alike_2 : decode cX1_alike 2 = .ok (.iconst 0, 1) := dk_3 (dk_at dksX1_alike_0 2 rfl rfl)
theorem dX1_alike_3 : decode cX1_alike 3 = .ok (.istore_n 2, 1) := dk_61 (dk_at dksX1_alike_0 3 rfl rfl)
theorem dX1_alike_4 : decode cX1_alike 4 = .ok (.iload_n 2, 1) := dk_28 (dk_at dksX1_alike_0 4 rfl rfl)
theorem dX1_alike_5 : decode cX1_alike 5 = .ok (.aload_n 0, 1) := dk_42 (dk_at dksX1_alike_0 5 rfl rfl)
theorem dX1_alike_6 : decode cX1_alike 6 = .ok (.getfield 19, 3) := dk_180 0 19 (dk_at dksX1_alike_0 6 rfl rfl)
theorem dX1_alike_9 : decode cX1_alike 9 = .ok (.getfield 89, 3) := dk_180 0 89 (dk_at dksX1_alike_0 9 rfl rfl)
theorem dX1_alike_12 : decode cX1_alike 12 = .ok (.if_icmp .ge 47, 3) := dk_162 0 47 (dk_at dksX1_alike_0 12 rfl rfl)
theorem dX1_alike_15 : decode cX1_alike 15 = .ok (.iload_n 2, 1) := dk_28 (dk_at dksX1_alike_0 15 rfl rfl)
theorem dX1_alike_16 : decode cX1_alike 16 = .ok (.iconst 1, 1) := dk_4 (dk_at dksX1_alike_0 16 rfl rfl)
theorem dX1_alike_17 : decode cX1_alike 17 = .ok (.iadd, 1) := dk_96 (dk_at dksX1_alike_0 17 rfl rfl)
theorem dX1_alike_18 : decode cX1_alike 18 = .ok (.istore_n 3, 1) := dk_62 (dk_at dksX1_alike_0 18 rfl rfl)
theorem dX1_alike_19 : decode cX1_alike 19 = .ok (.iload_n 3, 1) := dk_29 (dk_at dksX1_alike_0 19 rfl rfl)
theorem dX1_alike_20 : decode cX1_alike 20 = .ok (.aload_n 0, 1) := dk_42 (dk_at dksX1_alike_0 20 rfl rfl)
theorem dX1_alike_21 : decode cX1_alike 21 = .ok (.getfield 19, 3) := dk_180 0 19 (dk_at dksX1_alike_0 21 rfl rfl)
theorem dX1_alike_24 : decode cX1_alike 24 = .ok (.getfield 89, 3) := dk_180 0 89 (dk_at dksX1_alike_1 0 rfl rfl)
theorem dX1_alike_27 : decode cX1_alike 27 = .ok (.if_icmp .ge 26, 3) := dk_162 0 26 (dk_at dksX1_alike_1 3 rfl rfl)
theorem dX1_alike_30 : decode cX1_alike 30 = .ok (.iload_n 1, 1) := dk_27 (dk_at dksX1_alike_1 6 rfl rfl)
theorem dX1_alike_31 : decode cX1_alike 31 = .ok (.aload_n 0, 1) := dk_42 (dk_at dksX1_alike_1 7 rfl rfl)
theorem dX1_alike_32 : decode cX1_alike 32 = .ok (.iload_n 2, 1) := dk_28 (dk_at dksX1_alike_1 8 rfl rfl)
theorem dX1_alike_33 : decode cX1_alike 33 = .ok (.iload_n 3, 1) := dk_29 (dk_at dksX1_alike_1 9 rfl rfl)
theorem dX1_alike_34 : decode cX1_alike 34 = .ok (.invokevirtual 309, 3) := dk_182 1 53 (dk_at dksX1_alike_1 10 rfl rfl)
theorem dX1_alike_37 : decode cX1_alike 37 = .ok (.ifCond .eq 7, 3) := dk_153 0 7 (dk_at dksX1_alike_1 13 rfl rfl)
theorem dX1_alike_40 : decode cX1_alike 40 = .ok (.iconst 1, 1) := dk_4 (dk_at dksX1_alike_1 16 rfl rfl)
theorem dX1_alike_41 : decode cX1_alike 41 = .ok (.goto 4, 3) := dk_167 0 4 (dk_at dksX1_alike_1 17 rfl rfl)
theorem dX1_alike_44 : decode cX1_alike 44 = .ok (.iconst 0, 1) := dk_3 (dk_at dksX1_alike_1 20 rfl rfl)
theorem dX1_alike_45 : decode cX1_alike 45 = .ok (.iadd, 1) := dk_96 (dk_at dksX1_alike_1 21 rfl rfl)
theorem dX1_alike_46 : decode cX1_alike 46 = .ok (.istore_n 1, 1) := dk_60 (dk_at dksX1_alike_1 22 rfl rfl)
theorem dX1_alike_47 : decode cX1_alike 47 = .ok (.iinc 3 1, 3) := dk_132 3 1 (dk_at dksX1_alike_2 0 rfl rfl)
theorem dX1_alike_50 : decode cX1_alike 50 = .ok (.goto (-31), 3) := dk_167 255 225 (dk_at dksX1_alike_2 3 rfl rfl)
theorem dX1_alike_53 : decode cX1_alike 53 = .ok (.iinc 2 1, 3) := dk_132 2 1 (dk_at dksX1_alike_2 6 rfl rfl)
theorem dX1_alike_56 : decode cX1_alike 56 = .ok (.goto (-52), 3) := dk_167 255 204 (dk_at dksX1_alike_2 9 rfl rfl)
theorem dX1_alike_59 : decode cX1_alike 59 = .ok (.iload_n 1, 1) := dk_27 (dk_at dksX1_alike_2 12 rfl rfl)
theorem dX1_alike_60 : decode cX1_alike 60 = .ok (.ireturn, 1) := dk_172 (dk_at dksX1_alike_2 13 rfl rfl)
abbrev cX1_areAlike : ByteArray := prog_1_method_66_code
def yX1_areAlike : MethodName := ⟨RX1, "areAlike", "(II)Z"⟩
def dkwX1_areAlike_2 : List UInt8 := [167, 0, 4, 3, 126, 62, 132, 4, 1, 167, 255, 206, 29, 172]
abbrev dktX1_areAlike_2 : List UInt8 := dkwX1_areAlike_2 ++ []
def dkwX1_areAlike_1 : List UInt8 := [21, 4, 46, 42, 180, 0, 19, 180, 0, 92, 28, 50, 180, 0, 196, 21, 4, 46, 160, 0, 7, 4]
abbrev dktX1_areAlike_1 : List UInt8 := dkwX1_areAlike_1 ++ dktX1_areAlike_2
def dkwX1_areAlike_0 : List UInt8 := [4, 62, 3, 54, 4, 21, 4, 7, 162, 0, 50, 29, 42, 180, 0, 19, 180, 0, 92, 27, 50, 180, 0, 196]
abbrev dktX1_areAlike_0 : List UInt8 := dkwX1_areAlike_0 ++ dktX1_areAlike_1
theorem dksX1_areAlike_0 : cX1_areAlike.data.toList.drop 0 = dktX1_areAlike_0 := by decide +kernel
theorem dksX1_areAlike_1 : cX1_areAlike.data.toList.drop 24 = dktX1_areAlike_1 := dk_seg dksX1_areAlike_0 24 rfl rfl
theorem dksX1_areAlike_2 : cX1_areAlike.data.toList.drop 46 = dktX1_areAlike_2 := dk_seg dksX1_areAlike_1 22 rfl rfl
theorem dX1_areAlike_0 : decode cX1_areAlike 0 = .ok (.iconst 1, 1) := dk_4 (dk_at dksX1_areAlike_0 0 rfl rfl)
theorem dX1_areAlike_1 : decode cX1_areAlike 1 = .ok (.istore_n 3, 1) := dk_62 (dk_at dksX1_areAlike_0 1 rfl rfl)
theorem dX1_areAlike_2 : decode cX1_areAlike 2 = .ok (.iconst 0, 1) := dk_3 (dk_at dksX1_areAlike_0 2 rfl rfl)
theorem dX1_areAlike_3 : decode cX1_areAlike 3 = .ok (.istore 4, 2) := dk_54 4 (dk_at dksX1_areAlike_0 3 rfl rfl)
theorem dX1_areAlike_5 : decode cX1_areAlike 5 = .ok (.iload 4, 2) := dk_21 4 (dk_at dksX1_areAlike_0 5 rfl rfl)
theorem dX1_areAlike_7 : decode cX1_areAlike 7 = .ok (.iconst 4, 1) := dk_7 (dk_at dksX1_areAlike_0 7 rfl rfl)
theorem dX1_areAlike_8 : decode cX1_areAlike 8 = .ok (.if_icmp .ge 50, 3) := dk_162 0 50 (dk_at dksX1_areAlike_0 8 rfl rfl)
theorem dX1_areAlike_11 : decode cX1_areAlike 11 = .ok (.iload_n 3, 1) := dk_29 (dk_at dksX1_areAlike_0 11 rfl rfl)
theorem dX1_areAlike_12 : decode cX1_areAlike 12 = .ok (.aload_n 0, 1) := dk_42 (dk_at dksX1_areAlike_0 12 rfl rfl)
theorem dX1_areAlike_13 : decode cX1_areAlike 13 = .ok (.getfield 19, 3) := dk_180 0 19 (dk_at dksX1_areAlike_0 13 rfl rfl)
theorem dX1_areAlike_16 : decode cX1_areAlike 16 = .ok (.getfield 92, 3) := dk_180 0 92 (dk_at dksX1_areAlike_0 16 rfl rfl)
theorem dX1_areAlike_19 : decode cX1_areAlike 19 = .ok (.iload_n 1, 1) := dk_27 (dk_at dksX1_areAlike_0 19 rfl rfl)
theorem dX1_areAlike_20 : decode cX1_areAlike 20 = .ok (.aaload, 1) := dk_50 (dk_at dksX1_areAlike_0 20 rfl rfl)
theorem dX1_areAlike_21 : decode cX1_areAlike 21 = .ok (.getfield 196, 3) := dk_180 0 196 (dk_at dksX1_areAlike_0 21 rfl rfl)
theorem dX1_areAlike_24 : decode cX1_areAlike 24 = .ok (.iload 4, 2) := dk_21 4 (dk_at dksX1_areAlike_1 0 rfl rfl)
theorem dX1_areAlike_26 : decode cX1_areAlike 26 = .ok (.iaload, 1) := dk_46 (dk_at dksX1_areAlike_1 2 rfl rfl)
theorem dX1_areAlike_27 : decode cX1_areAlike 27 = .ok (.aload_n 0, 1) := dk_42 (dk_at dksX1_areAlike_1 3 rfl rfl)
theorem dX1_areAlike_28 : decode cX1_areAlike 28 = .ok (.getfield 19, 3) := dk_180 0 19 (dk_at dksX1_areAlike_1 4 rfl rfl)
theorem dX1_areAlike_31 : decode cX1_areAlike 31 = .ok (.getfield 92, 3) := dk_180 0 92 (dk_at dksX1_areAlike_1 7 rfl rfl)
theorem dX1_areAlike_34 : decode cX1_areAlike 34 = .ok (.iload_n 2, 1) := dk_28 (dk_at dksX1_areAlike_1 10 rfl rfl)
theorem dX1_areAlike_35 : decode cX1_areAlike 35 = .ok (.aaload, 1) := dk_50 (dk_at dksX1_areAlike_1 11 rfl rfl)
theorem dX1_areAlike_36 : decode cX1_areAlike 36 = .ok (.getfield 196, 3) := dk_180 0 196 (dk_at dksX1_areAlike_1 12 rfl rfl)
theorem dX1_areAlike_39 : decode cX1_areAlike 39 = .ok (.iload 4, 2) := dk_21 4 (dk_at dksX1_areAlike_1 15 rfl rfl)
theorem dX1_areAlike_41 : decode cX1_areAlike 41 = .ok (.iaload, 1) := dk_46 (dk_at dksX1_areAlike_1 17 rfl rfl)
theorem dX1_areAlike_42 : decode cX1_areAlike 42 = .ok (.if_icmp .ne 7, 3) := dk_160 0 7 (dk_at dksX1_areAlike_1 18 rfl rfl)
theorem dX1_areAlike_45 : decode cX1_areAlike 45 = .ok (.iconst 1, 1) := dk_4 (dk_at dksX1_areAlike_1 21 rfl rfl)
theorem dX1_areAlike_46 : decode cX1_areAlike 46 = .ok (.goto 4, 3) := dk_167 0 4 (dk_at dksX1_areAlike_2 0 rfl rfl)
theorem dX1_areAlike_49 : decode cX1_areAlike 49 = .ok (.iconst 0, 1) := dk_3 (dk_at dksX1_areAlike_2 3 rfl rfl)
theorem dX1_areAlike_50 : decode cX1_areAlike 50 = .ok (.iand, 1) := dk_126 (dk_at dksX1_areAlike_2 4 rfl rfl)
theorem dX1_areAlike_51 : decode cX1_areAlike 51 = .ok (.istore_n 3, 1) := dk_62 (dk_at dksX1_areAlike_2 5 rfl rfl)
theorem dX1_areAlike_52 : decode cX1_areAlike 52 = .ok (.iinc 4 1, 3) := dk_132 4 1 (dk_at dksX1_areAlike_2 6 rfl rfl)
theorem dX1_areAlike_55 : decode cX1_areAlike 55 = .ok (.goto (-50), 3) := dk_167 255 206 (dk_at dksX1_areAlike_2 9 rfl rfl)
theorem dX1_areAlike_58 : decode cX1_areAlike 58 = .ok (.iload_n 3, 1) := dk_29 (dk_at dksX1_areAlike_2 12 rfl rfl)
theorem dX1_areAlike_59 : decode cX1_areAlike 59 = .ok (.ireturn, 1) := dk_172 (dk_at dksX1_areAlike_2 13 rfl rfl)
abbrev cX1_odds : ByteArray := prog_1_method_69_code
def yX1_odds : MethodName := ⟨RX1, "odds", "()I"⟩
def dkwX1_odds_4 : List UInt8 := [172]
abbrev dktX1_odds_4 : List UInt8 := dkwX1_odds_4 ++ []
def dkwX1_odds_3 : List UInt8 := [167, 255, 220, 132, 3, 1, 167, 255, 200, 27, 154, 0, 7, 3, 167, 0, 10, 17, 39, 16, 28, 104, 27, 108]
abbrev dktX1_odds_3 : List UInt8 := dkwX1_odds_3 ++ dktX1_odds_4
def dkwX1_odds_2 : List UInt8 := [28, 42, 180, 0, 19, 29, 21, 4, 182, 1, 57, 153, 0, 7, 4, 167, 0, 4, 3, 96, 61, 132, 4, 1]
abbrev dktX1_odds_2 : List UInt8 := dkwX1_odds_2 ++ dktX1_odds_3
def dkwX1_odds_1 : List UInt8 := [180, 0, 19, 180, 0, 74, 162, 0, 51, 3, 54, 4, 21, 4, 42, 180, 0, 19, 180, 0, 89, 162, 0, 30]
abbrev dktX1_odds_1 : List UInt8 := dkwX1_odds_1 ++ dktX1_odds_2
def dkwX1_odds_0 : List UInt8 := [42, 180, 0, 19, 180, 0, 74, 42, 180, 0, 19, 180, 0, 89, 104, 60, 3, 61, 3, 62, 29, 42]
abbrev dktX1_odds_0 : List UInt8 := dkwX1_odds_0 ++ dktX1_odds_1
theorem dksX1_odds_0 : cX1_odds.data.toList.drop 0 = dktX1_odds_0 := by decide +kernel
theorem dksX1_odds_1 : cX1_odds.data.toList.drop 22 = dktX1_odds_1 := dk_seg dksX1_odds_0 22 rfl rfl
theorem dksX1_odds_2 : cX1_odds.data.toList.drop 46 = dktX1_odds_2 := dk_seg dksX1_odds_1 24 rfl rfl
theorem dksX1_odds_3 : cX1_odds.data.toList.drop 70 = dktX1_odds_3 := dk_seg dksX1_odds_2 24 rfl rfl
theorem dksX1_odds_4 : cX1_odds.data.toList.drop 94 = dktX1_odds_4 := dk_seg dksX1_odds_3 24 rfl rfl
theorem dX1_odds_0 : decode cX1_odds 0 = .ok (.aload_n 0, 1) := dk_42 (dk_at dksX1_odds_0 0 rfl rfl)
theorem dX1_odds_1 : decode cX1_odds 1 = .ok (.getfield 19, 3) := dk_180 0 19 (dk_at dksX1_odds_0 1 rfl rfl)
theorem dX1_odds_4 : decode cX1_odds 4 = .ok (.getfield 74, 3) := dk_180 0 74 (dk_at dksX1_odds_0 4 rfl rfl)
theorem dX1_odds_7 : decode cX1_odds 7 = .ok (.aload_n 0, 1) := dk_42 (dk_at dksX1_odds_0 7 rfl rfl)
theorem dX1_odds_8 : decode cX1_odds 8 = .ok (.getfield 19, 3) := dk_180 0 19 (dk_at dksX1_odds_0 8 rfl rfl)
theorem dX1_odds_11 : decode cX1_odds 11 = .ok (.getfield 89, 3) := dk_180 0 89 (dk_at dksX1_odds_0 11 rfl rfl)
theorem dX1_odds_14 : decode cX1_odds 14 = .ok (.imul, 1) := dk_104 (dk_at dksX1_odds_0 14 rfl rfl)
theorem dX1_odds_15 : decode cX1_odds 15 = .ok (.istore_n 1, 1) := dk_60 (dk_at dksX1_odds_0 15 rfl rfl)
theorem dX1_odds_16 : decode cX1_odds 16 = .ok (.iconst 0, 1) := dk_3 (dk_at dksX1_odds_0 16 rfl rfl)
theorem dX1_odds_17 : decode cX1_odds 17 = .ok (.istore_n 2, 1) := dk_61 (dk_at dksX1_odds_0 17 rfl rfl)
theorem dX1_odds_18 : decode cX1_odds 18 = .ok (.iconst 0, 1) := dk_3 (dk_at dksX1_odds_0 18 rfl rfl)
theorem dX1_odds_19 : decode cX1_odds 19 = .ok (.istore_n 3, 1) := dk_62 (dk_at dksX1_odds_0 19 rfl rfl)
theorem dX1_odds_20 : decode cX1_odds 20 = .ok (.iload_n 3, 1) := dk_29 (dk_at dksX1_odds_0 20 rfl rfl)
theorem dX1_odds_21 : decode cX1_odds 21 = .ok (.aload_n 0, 1) := dk_42 (dk_at dksX1_odds_0 21 rfl rfl)
theorem dX1_odds_22 : decode cX1_odds 22 = .ok (.getfield 19, 3) := dk_180 0 19 (dk_at dksX1_odds_1 0 rfl rfl)
theorem dX1_odds_25 : decode cX1_odds 25 = .ok (.getfield 74, 3) := dk_180 0 74 (dk_at dksX1_odds_1 3 rfl rfl)
theorem dX1_odds_28 : decode cX1_odds 28 = .ok (.if_icmp .ge 51, 3) := dk_162 0 51 (dk_at dksX1_odds_1 6 rfl rfl)
theorem dX1_odds_31 : decode cX1_odds 31 = .ok (.iconst 0, 1) := dk_3 (dk_at dksX1_odds_1 9 rfl rfl)
theorem dX1_odds_32 : decode cX1_odds 32 = .ok (.istore 4, 2) := dk_54 4 (dk_at dksX1_odds_1 10 rfl rfl)
theorem dX1_odds_34 : decode cX1_odds 34 = .ok (.iload 4, 2) := dk_21 4 (dk_at dksX1_odds_1 12 rfl rfl)
theorem dX1_odds_36 : decode cX1_odds 36 = .ok (.aload_n 0, 1) := dk_42 (dk_at dksX1_odds_1 14 rfl rfl)
theorem dX1_odds_37 : decode cX1_odds 37 = .ok (.getfield 19, 3) := dk_180 0 19 (dk_at dksX1_odds_1 15 rfl rfl)
theorem dX1_odds_40 : decode cX1_odds 40 = .ok (.getfield 89, 3) := dk_180 0 89 (dk_at dksX1_odds_1 18 rfl rfl)
theorem dX1_odds_43 : decode cX1_odds 43 = .ok (.if_icmp .ge 30, 3) := dk_162 0 30 (dk_at dksX1_odds_1 21 rfl rfl)
theorem dX1_odds_46 : decode cX1_odds 46 = .ok (.iload_n 2, 1) := dk_28 (dk_at dksX1_odds_2 0 rfl rfl)
theorem dX1_odds_47 : decode cX1_odds 47 = .ok (.aload_n 0, 1) := dk_42 (dk_at dksX1_odds_2 1 rfl rfl)
theorem dX1_odds_48 : decode cX1_odds 48 = .ok (.getfield 19, 3) := dk_180 0 19 (dk_at dksX1_odds_2 2 rfl rfl)
theorem dX1_odds_51 : decode cX1_odds 51 = .ok (.iload_n 3, 1) := dk_29 (dk_at dksX1_odds_2 5 rfl rfl)
theorem dX1_odds_52 : decode cX1_odds 52 = .ok (.iload 4, 2) := dk_21 4 (dk_at dksX1_odds_2 6 rfl rfl)
theorem dX1_odds_54 : decode cX1_odds 54 = .ok (.invokevirtual 313, 3) := dk_182 1 57 (dk_at dksX1_odds_2 8 rfl rfl)
theorem dX1_odds_57 : decode cX1_odds 57 = .ok (.ifCond .eq 7, 3) := dk_153 0 7 (dk_at dksX1_odds_2 11 rfl rfl)
theorem dX1_odds_60 : decode cX1_odds 60 = .ok (.iconst 1, 1) := dk_4 (dk_at dksX1_odds_2 14 rfl rfl)
theorem dX1_odds_61 : decode cX1_odds 61 = .ok (.goto 4, 3) := dk_167 0 4 (dk_at dksX1_odds_2 15 rfl rfl)
theorem dX1_odds_64 : decode cX1_odds 64 = .ok (.iconst 0, 1) := dk_3 (dk_at dksX1_odds_2 18 rfl rfl)
theorem dX1_odds_65 : decode cX1_odds 65 = .ok (.iadd, 1) := dk_96 (dk_at dksX1_odds_2 19 rfl rfl)
theorem dX1_odds_66 : decode cX1_odds 66 = .ok (.istore_n 2, 1) := dk_61 (dk_at dksX1_odds_2 20 rfl rfl)
theorem dX1_odds_67 : decode cX1_odds 67 = .ok (.iinc 4 1, 3) := dk_132 4 1 (dk_at dksX1_odds_2 21 rfl rfl)
theorem dX1_odds_70 : decode cX1_odds 70 = .ok (.goto (-36), 3) := dk_167 255 220 (dk_at dksX1_odds_3 0 rfl rfl)
theorem dX1_odds_73 : decode cX1_odds 73 = .ok (.iinc 3 1, 3) := dk_132 3 1 (dk_at dksX1_odds_3 3 rfl rfl)
theorem dX1_odds_76 : decode cX1_odds 76 = .ok (.goto (-56), 3) := dk_167 255 200 (dk_at dksX1_odds_3 6 rfl rfl)
theorem dX1_odds_79 : decode cX1_odds 79 = .ok (.iload_n 1, 1) := dk_27 (dk_at dksX1_odds_3 9 rfl rfl)
theorem dX1_odds_80 : decode cX1_odds 80 = .ok (.ifCond .ne 7, 3) := dk_154 0 7 (dk_at dksX1_odds_3 10 rfl rfl)
theorem dX1_odds_83 : decode cX1_odds 83 = .ok (.iconst 0, 1) := dk_3 (dk_at dksX1_odds_3 13 rfl rfl)
theorem dX1_odds_84 : decode cX1_odds 84 = .ok (.goto 10, 3) := dk_167 0 10 (dk_at dksX1_odds_3 14 rfl rfl)
theorem dX1_odds_87 : decode cX1_odds 87 = .ok (.sipush 10000, 3) := dk_17 39 16 (dk_at dksX1_odds_3 17 rfl rfl)
theorem dX1_odds_90 : decode cX1_odds 90 = .ok (.iload_n 2, 1) := dk_28 (dk_at dksX1_odds_3 20 rfl rfl)
theorem dX1_odds_91 : decode cX1_odds 91 = .ok (.imul, 1) := dk_104 (dk_at dksX1_odds_3 21 rfl rfl)
theorem dX1_odds_92 : decode cX1_odds 92 = .ok (.iload_n 1, 1) := dk_27 (dk_at dksX1_odds_3 22 rfl rfl)
theorem dX1_odds_93 : decode cX1_odds 93 = .ok (.idiv, 1) := dk_108 (dk_at dksX1_odds_3 23 rfl rfl)
theorem dX1_odds_94 : decode cX1_odds 94 = .ok (.ireturn, 1) := dk_172 (dk_at dksX1_odds_4 0 rfl rfl)
abbrev cX1_seed : ByteArray := prog_1_method_74_code
def yX1_seed : MethodName := ⟨RX1, "seed", "(I)I"⟩
def dkwX1_seed_0 : List UInt8 := [42, 180, 0, 19, 180, 1, 63, 61, 42, 180, 0, 19, 27, 181, 1, 63, 28, 172]
abbrev dktX1_seed_0 : List UInt8 := dkwX1_seed_0 ++ []
theorem dksX1_seed_0 : cX1_seed.data.toList.drop 0 = dktX1_seed_0 := by decide +kernel
theorem dX1_seed_0 : decode cX1_seed 0 = .ok (.aload_n 0, 1) := dk_42 (dk_at dksX1_seed_0 0 rfl rfl)
theorem dX1_seed_1 : decode cX1_seed 1 = .ok (.getfield 19, 3) := dk_180 0 19 (dk_at dksX1_seed_0 1 rfl rfl)
theorem dX1_seed_4 : decode cX1_seed 4 = .ok (.getfield 319, 3) := dk_180 1 63 (dk_at dksX1_seed_0 4 rfl rfl)
theorem dX1_seed_7 : decode cX1_seed 7 = .ok (.istore_n 2, 1) := dk_61 (dk_at dksX1_seed_0 7 rfl rfl)
theorem dX1_seed_8 : decode cX1_seed 8 = .ok (.aload_n 0, 1) := dk_42 (dk_at dksX1_seed_0 8 rfl rfl)
theorem dX1_seed_9 : decode cX1_seed 9 = .ok (.getfield 19, 3) := dk_180 0 19 (dk_at dksX1_seed_0 9 rfl rfl)
theorem dX1_seed_12 : decode cX1_seed 12 = .ok (.iload_n 1, 1) := dk_27 (dk_at dksX1_seed_0 12 rfl rfl)
theorem dX1_seed_13 : decode cX1_seed 13 = .ok (.putfield 319, 3) := dk_181 1 63 (dk_at dksX1_seed_0 13 rfl rfl)
theorem dX1_seed_16 : decode cX1_seed 16 = .ok (.iload_n 2, 1) := dk_28 (dk_at dksX1_seed_0 16 rfl rfl)
theorem dX1_seed_17 : decode cX1_seed 17 = .ok (.ireturn, 1) := dk_172 (dk_at dksX1_seed_0 17 rfl rfl)
abbrev cX1_undo : ByteArray := prog_1_method_75_code
def yX1_undo : MethodName := ⟨RX1, "undo", "()Z"⟩
def dkwX1_undo_2 : List UInt8 := [182, 0, 130, 4, 172]
abbrev dktX1_undo_2 : List UInt8 := dkwX1_undo_2 ++ []
def dkwX1_undo_1 : List UInt8 := [16, 12, 96, 4, 100, 16, 12, 112, 181, 0, 220, 42, 180, 0, 19, 42, 180, 0, 29, 42, 180, 0, 220, 50]
abbrev dktX1_undo_1 : List UInt8 := dkwX1_undo_1 ++ dktX1_undo_2
def dkwX1_undo_0 : List UInt8 := [42, 180, 0, 134, 154, 0, 5, 3, 172, 42, 89, 180, 0, 134, 4, 100, 181, 0, 134, 42, 42, 180, 0, 220]
abbrev dktX1_undo_0 : List UInt8 := dkwX1_undo_0 ++ dktX1_undo_1
theorem dksX1_undo_0 : cX1_undo.data.toList.drop 0 = dktX1_undo_0 := by decide +kernel
theorem dksX1_undo_1 : cX1_undo.data.toList.drop 24 = dktX1_undo_1 := dk_seg dksX1_undo_0 24 rfl rfl
theorem dksX1_undo_2 : cX1_undo.data.toList.drop 48 = dktX1_undo_2 := dk_seg dksX1_undo_1 24 rfl rfl
theorem dX1_undo_0 : decode cX1_undo 0 = .ok (.aload_n 0, 1) := dk_42 (dk_at dksX1_undo_0 0 rfl rfl)
theorem dX1_undo_1 : decode cX1_undo 1 = .ok (.getfield 134, 3) := dk_180 0 134 (dk_at dksX1_undo_0 1 rfl rfl)
theorem dX1_undo_4 : decode cX1_undo 4 = .ok (.ifCond .ne 5, 3) := dk_154 0 5 (dk_at dksX1_undo_0 4 rfl rfl)
theorem dX1_undo_7 : decode cX1_undo 7 = .ok (.iconst 0, 1) := dk_3 (dk_at dksX1_undo_0 7 rfl rfl)
theorem dX1_undo_8 : decode cX1_undo 8 = .ok (.ireturn, 1) := dk_172 (dk_at dksX1_undo_0 8 rfl rfl)
theorem dX1_undo_9 : decode cX1_undo 9 = .ok (.aload_n 0, 1) := dk_42 (dk_at dksX1_undo_0 9 rfl rfl)
theorem dX1_undo_10 : decode cX1_undo 10 = .ok (.dup, 1) := dk_89 (dk_at dksX1_undo_0 10 rfl rfl)
theorem dX1_undo_11 : decode cX1_undo 11 = .ok (.getfield 134, 3) := dk_180 0 134 (dk_at dksX1_undo_0 11 rfl rfl)
theorem dX1_undo_14 : decode cX1_undo 14 = .ok (.iconst 1, 1) := dk_4 (dk_at dksX1_undo_0 14 rfl rfl)
theorem dX1_undo_15 : decode cX1_undo 15 = .ok (.isub, 1) := dk_100 (dk_at dksX1_undo_0 15 rfl rfl)
theorem dX1_undo_16 : decode cX1_undo 16 = .ok (.putfield 134, 3) := dk_181 0 134 (dk_at dksX1_undo_0 16 rfl rfl)
theorem dX1_undo_19 : decode cX1_undo 19 = .ok (.aload_n 0, 1) := dk_42 (dk_at dksX1_undo_0 19 rfl rfl)
theorem dX1_undo_20 : decode cX1_undo 20 = .ok (.aload_n 0, 1) := dk_42 (dk_at dksX1_undo_0 20 rfl rfl)
theorem dX1_undo_21 : decode cX1_undo 21 = .ok (.getfield 220, 3) := dk_180 0 220 (dk_at dksX1_undo_0 21 rfl rfl)
theorem dX1_undo_24 : decode cX1_undo 24 = .ok (.bipush 12, 2) := dk_16 12 (dk_at dksX1_undo_1 0 rfl rfl)
theorem dX1_undo_26 : decode cX1_undo 26 = .ok (.iadd, 1) := dk_96 (dk_at dksX1_undo_1 2 rfl rfl)
theorem dX1_undo_27 : decode cX1_undo 27 = .ok (.iconst 1, 1) := dk_4 (dk_at dksX1_undo_1 3 rfl rfl)
theorem dX1_undo_28 : decode cX1_undo 28 = .ok (.isub, 1) := dk_100 (dk_at dksX1_undo_1 4 rfl rfl)
theorem dX1_undo_29 : decode cX1_undo 29 = .ok (.bipush 12, 2) := dk_16 12 (dk_at dksX1_undo_1 5 rfl rfl)
theorem dX1_undo_31 : decode cX1_undo 31 = .ok (.irem, 1) := dk_112 (dk_at dksX1_undo_1 7 rfl rfl)
theorem dX1_undo_32 : decode cX1_undo 32 = .ok (.putfield 220, 3) := dk_181 0 220 (dk_at dksX1_undo_1 8 rfl rfl)
theorem dX1_undo_35 : decode cX1_undo 35 = .ok (.aload_n 0, 1) := dk_42 (dk_at dksX1_undo_1 11 rfl rfl)
theorem dX1_undo_36 : decode cX1_undo 36 = .ok (.getfield 19, 3) := dk_180 0 19 (dk_at dksX1_undo_1 12 rfl rfl)
theorem dX1_undo_39 : decode cX1_undo 39 = .ok (.aload_n 0, 1) := dk_42 (dk_at dksX1_undo_1 15 rfl rfl)
theorem dX1_undo_40 : decode cX1_undo 40 = .ok (.getfield 29, 3) := dk_180 0 29 (dk_at dksX1_undo_1 16 rfl rfl)
theorem dX1_undo_43 : decode cX1_undo 43 = .ok (.aload_n 0, 1) := dk_42 (dk_at dksX1_undo_1 19 rfl rfl)
theorem dX1_undo_44 : decode cX1_undo 44 = .ok (.getfield 220, 3) := dk_180 0 220 (dk_at dksX1_undo_1 20 rfl rfl)
theorem dX1_undo_47 : decode cX1_undo 47 = .ok (.aaload, 1) := dk_50 (dk_at dksX1_undo_1 23 rfl rfl)
theorem dX1_undo_48 : decode cX1_undo 48 = .ok (.invokevirtual 130, 3) := dk_182 0 130 (dk_at dksX1_undo_2 0 rfl rfl)
theorem dX1_undo_51 : decode cX1_undo 51 = .ok (.iconst 1, 1) := dk_4 (dk_at dksX1_undo_2 3 rfl rfl)
theorem dX1_undo_52 : decode cX1_undo 52 = .ok (.ireturn, 1) := dk_172 (dk_at dksX1_undo_2 4 rfl rfl)
abbrev cX1_image : ByteArray := prog_1_method_76_code
def yX1_image : MethodName := ⟨RX1, "image", "()V"⟩
def dkwX1_image_0 : List UInt8 := [42, 180, 0, 23, 42, 180, 0, 19, 182, 0, 130, 42, 4, 181, 1, 69, 177]
abbrev dktX1_image_0 : List UInt8 := dkwX1_image_0 ++ []
theorem dksX1_image_0 : cX1_image.data.toList.drop 0 = dktX1_image_0 := by decide +kernel
theorem dX1_image_0 : decode cX1_image 0 = .ok (.aload_n 0, 1) := dk_42 (dk_at dksX1_image_0 0 rfl rfl)
theorem dX1_image_1 : decode cX1_image 1 = .ok (.getfield 23, 3) := dk_180 0 23 (dk_at dksX1_image_0 1 rfl rfl)
theorem dX1_image_4 : decode cX1_image 4 = .ok (.aload_n 0, 1) := dk_42 (dk_at dksX1_image_0 4 rfl rfl)
theorem dX1_image_5 : decode cX1_image 5 = .ok (.getfield 19, 3) := dk_180 0 19 (dk_at dksX1_image_0 5 rfl rfl)
theorem dX1_image_8 : decode cX1_image 8 = .ok (.invokevirtual 130, 3) := dk_182 0 130 (dk_at dksX1_image_0 8 rfl rfl)
theorem dX1_image_11 : decode cX1_image 11 = .ok (.aload_n 0, 1) := dk_42 (dk_at dksX1_image_0 11 rfl rfl)
theorem dX1_image_12 : decode cX1_image 12 = .ok (.iconst 1, 1) := dk_4 (dk_at dksX1_image_0 12 rfl rfl)
theorem dX1_image_13 : decode cX1_image 13 = .ok (.putfield 325, 3) := dk_181 1 69 (dk_at dksX1_image_0 13 rfl rfl)
theorem dX1_image_16 : decode cX1_image 16 = .ok (.return_, 1) := dk_177 (dk_at dksX1_image_0 16 rfl rfl)
abbrev cX1_back : ByteArray := prog_1_method_77_code
def yX1_back : MethodName := ⟨RX1, "back", "()Z"⟩
def dkwX1_back_1 : List UInt8 := [181, 0, 134, 4, 172]
abbrev dktX1_back_1 : List UInt8 := dkwX1_back_1 ++ []
def dkwX1_back_0 : List UInt8 := [42, 180, 1, 69, 154, 0, 5, 3, 172, 42, 180, 0, 19, 42, 180, 0, 23, 182, 0, 130, 42, 3]
abbrev dktX1_back_0 : List UInt8 := dkwX1_back_0 ++ dktX1_back_1
theorem dksX1_back_0 : cX1_back.data.toList.drop 0 = dktX1_back_0 := by decide +kernel
theorem dksX1_back_1 : cX1_back.data.toList.drop 22 = dktX1_back_1 := dk_seg dksX1_back_0 22 rfl rfl
theorem dX1_back_0 : decode cX1_back 0 = .ok (.aload_n 0, 1) := dk_42 (dk_at dksX1_back_0 0 rfl rfl)
theorem dX1_back_1 : decode cX1_back 1 = .ok (.getfield 325, 3) := dk_180 1 69 (dk_at dksX1_back_0 1 rfl rfl)
theorem dX1_back_4 : decode cX1_back 4 = .ok (.ifCond .ne 5, 3) := dk_154 0 5 (dk_at dksX1_back_0 4 rfl rfl)
theorem dX1_back_7 : decode cX1_back 7 = .ok (.iconst 0, 1) := dk_3 (dk_at dksX1_back_0 7 rfl rfl)
theorem dX1_back_8 : decode cX1_back 8 = .ok (.ireturn, 1) := dk_172 (dk_at dksX1_back_0 8 rfl rfl)
theorem dX1_back_9 : decode cX1_back 9 = .ok (.aload_n 0, 1) := dk_42 (dk_at dksX1_back_0 9 rfl rfl)
theorem dX1_back_10 : decode cX1_back 10 = .ok (.getfield 19, 3) := dk_180 0 19 (dk_at dksX1_back_0 10 rfl rfl)
theorem dX1_back_13 : decode cX1_back 13 = .ok (.aload_n 0, 1) := dk_42 (dk_at dksX1_back_0 13 rfl rfl)
theorem dX1_back_14 : decode cX1_back 14 = .ok (.getfield 23, 3) := dk_180 0 23 (dk_at dksX1_back_0 14 rfl rfl)
theorem dX1_back_17 : decode cX1_back 17 = .ok (.invokevirtual 130, 3) := dk_182 0 130 (dk_at dksX1_back_0 17 rfl rfl)
theorem dX1_back_20 : decode cX1_back 20 = .ok (.aload_n 0, 1) := dk_42 (dk_at dksX1_back_0 20 rfl rfl)
theorem dX1_back_21 : decode cX1_back 21 = .ok (.iconst 0, 1) := dk_3 (dk_at dksX1_back_0 21 rfl rfl)
theorem dX1_back_22 : decode cX1_back 22 = .ok (.putfield 134, 3) := dk_181 0 134 (dk_at dksX1_back_1 0 rfl rfl)
theorem dX1_back_25 : decode cX1_back 25 = .ok (.iconst 1, 1) := dk_4 (dk_at dksX1_back_1 3 rfl rfl)
theorem dX1_back_26 : decode cX1_back 26 = .ok (.ireturn, 1) := dk_172 (dk_at dksX1_back_1 4 rfl rfl)
abbrev cX1_count : ByteArray := prog_1_method_80_code
def yX1_count : MethodName := ⟨RX1, "count", "(I)I"⟩
def dkwX1_count_5 : List UInt8 := [182, 1, 81, 172, 16, 60, 42, 180, 0, 19, 180, 1, 84, 184, 0, 223, 172, 42, 180, 0, 134, 172, 2, 172]
abbrev dktX1_count_5 : List UInt8 := dkwX1_count_5 ++ []
def dkwX1_count_4 : List UInt8 := [42, 180, 0, 19, 180, 1, 75, 172, 42, 180, 0, 19, 182, 1, 60, 172, 42, 182, 1, 78, 172, 42]
abbrev dktX1_count_4 : List UInt8 := dkwX1_count_4 ++ dktX1_count_5
def dkwX1_count_3 : List UInt8 := [42, 180, 0, 19, 180, 0, 141, 172, 42, 180, 0, 19, 180, 1, 72, 172, 42, 180, 0, 19, 180, 0, 240, 172]
abbrev dktX1_count_3 : List UInt8 := dkwX1_count_3 ++ dktX1_count_4
def dkwX1_count_2 : List UInt8 := [42, 180, 0, 19, 180, 0, 74, 172, 42, 180, 0, 19, 180, 0, 89, 172, 42, 180, 0, 19, 180, 0, 124, 172]
abbrev dktX1_count_2 : List UInt8 := dkwX1_count_2 ++ dktX1_count_3
def dkwX1_count_1 : List UInt8 := [170, 0, 0, 0, 0, 0, 155, 0, 0, 0, 0, 0, 0, 0, 11, 0, 0, 0, 63, 0, 0, 0, 71, 0, 0, 0, 79, 0, 0, 0, 87, 0, 0, 0, 95, 0, 0, 0, 103, 0, 0, 0, 111, 0, 0, 0, 119, 0, 0, 0, 127, 0, 0, 0, 132, 0, 0, 0, 137, 0, 0, 0, 150]
abbrev dktX1_count_1 : List UInt8 := dkwX1_count_1 ++ dktX1_count_2
def dkwX1_count_0 : List UInt8 := [27]
abbrev dktX1_count_0 : List UInt8 := dkwX1_count_0 ++ dktX1_count_1
theorem dksX1_count_0 : cX1_count.data.toList.drop 0 = dktX1_count_0 := by decide +kernel
theorem dksX1_count_1 : cX1_count.data.toList.drop 1 = dktX1_count_1 := dk_seg dksX1_count_0 1 rfl rfl
theorem dksX1_count_2 : cX1_count.data.toList.drop 64 = dktX1_count_2 := dk_seg dksX1_count_1 63 rfl rfl
theorem dksX1_count_3 : cX1_count.data.toList.drop 88 = dktX1_count_3 := dk_seg dksX1_count_2 24 rfl rfl
theorem dksX1_count_4 : cX1_count.data.toList.drop 112 = dktX1_count_4 := dk_seg dksX1_count_3 24 rfl rfl
theorem dksX1_count_5 : cX1_count.data.toList.drop 134 = dktX1_count_5 := dk_seg dksX1_count_4 22 rfl rfl
theorem dX1_count_0 : decode cX1_count 0 = .ok (.iload_n 1, 1) := dk_27 (dk_at dksX1_count_0 0 rfl rfl)
theorem dX1_count_1 : decode cX1_count 1 = .ok (.tableswitch 155 0 11 #[63, 71, 79, 87, 95, 103, 111, 119, 127, 132, 137, 150], 63) := by decide +kernel
theorem dX1_count_64 : decode cX1_count 64 = .ok (.aload_n 0, 1) := dk_42 (dk_at dksX1_count_2 0 rfl rfl)
theorem dX1_count_65 : decode cX1_count 65 = .ok (.getfield 19, 3) := dk_180 0 19 (dk_at dksX1_count_2 1 rfl rfl)
theorem dX1_count_68 : decode cX1_count 68 = .ok (.getfield 74, 3) := dk_180 0 74 (dk_at dksX1_count_2 4 rfl rfl)
theorem dX1_count_71 : decode cX1_count 71 = .ok (.ireturn, 1) := dk_172 (dk_at dksX1_count_2 7 rfl rfl)
theorem dX1_count_72 : decode cX1_count 72 = .ok (.aload_n 0, 1) := dk_42 (dk_at dksX1_count_2 8 rfl rfl)
theorem dX1_count_73 : decode cX1_count 73 = .ok (.getfield 19, 3) := dk_180 0 19 (dk_at dksX1_count_2 9 rfl rfl)
theorem dX1_count_76 : decode cX1_count 76 = .ok (.getfield 89, 3) := dk_180 0 89 (dk_at dksX1_count_2 12 rfl rfl)
theorem dX1_count_79 : decode cX1_count 79 = .ok (.ireturn, 1) := dk_172 (dk_at dksX1_count_2 15 rfl rfl)
theorem dX1_count_80 : decode cX1_count 80 = .ok (.aload_n 0, 1) := dk_42 (dk_at dksX1_count_2 16 rfl rfl)
theorem dX1_count_81 : decode cX1_count 81 = .ok (.getfield 19, 3) := dk_180 0 19 (dk_at dksX1_count_2 17 rfl rfl)
theorem dX1_count_84 : decode cX1_count 84 = .ok (.getfield 124, 3) := dk_180 0 124 (dk_at dksX1_count_2 20 rfl rfl)
theorem dX1_count_87 : decode cX1_count 87 = .ok (.ireturn, 1) := dk_172 (dk_at dksX1_count_2 23 rfl rfl)
theorem dX1_count_88 : decode cX1_count 88 = .ok (.aload_n 0, 1) := dk_42 (dk_at dksX1_count_3 0 rfl rfl)
theorem dX1_count_89 : decode cX1_count 89 = .ok (.getfield 19, 3) := dk_180 0 19 (dk_at dksX1_count_3 1 rfl rfl)
theorem dX1_count_92 : decode cX1_count 92 = .ok (.getfield 141, 3) := dk_180 0 141 (dk_at dksX1_count_3 4 rfl rfl)
theorem dX1_count_95 : decode cX1_count 95 = .ok (.ireturn, 1) := dk_172 (dk_at dksX1_count_3 7 rfl rfl)
theorem dX1_count_96 : decode cX1_count 96 = .ok (.aload_n 0, 1) := dk_42 (dk_at dksX1_count_3 8 rfl rfl)
theorem dX1_count_97 : decode cX1_count 97 = .ok (.getfield 19, 3) := dk_180 0 19 (dk_at dksX1_count_3 9 rfl rfl)
theorem dX1_count_100 : decode cX1_count 100 = .ok (.getfield 328, 3) := dk_180 1 72 (dk_at dksX1_count_3 12 rfl rfl)
theorem dX1_count_103 : decode cX1_count 103 = .ok (.ireturn, 1) := dk_172 (dk_at dksX1_count_3 15 rfl rfl)
theorem dX1_count_104 : decode cX1_count 104 = .ok (.aload_n 0, 1) := dk_42 (dk_at dksX1_count_3 16 rfl rfl)
theorem dX1_count_105 : decode cX1_count 105 = .ok (.getfield 19, 3) := dk_180 0 19 (dk_at dksX1_count_3 17 rfl rfl)
theorem dX1_count_108 : decode cX1_count 108 = .ok (.getfield 240, 3) := dk_180 0 240 (dk_at dksX1_count_3 20 rfl rfl)
theorem dX1_count_111 : decode cX1_count 111 = .ok (.ireturn, 1) := dk_172 (dk_at dksX1_count_3 23 rfl rfl)
theorem dX1_count_112 : decode cX1_count 112 = .ok (.aload_n 0, 1) := dk_42 (dk_at dksX1_count_4 0 rfl rfl)
theorem dX1_count_113 : decode cX1_count 113 = .ok (.getfield 19, 3) := dk_180 0 19 (dk_at dksX1_count_4 1 rfl rfl)
theorem dX1_count_116 : decode cX1_count 116 = .ok (.getfield 331, 3) := dk_180 1 75 (dk_at dksX1_count_4 4 rfl rfl)
theorem dX1_count_119 : decode cX1_count 119 = .ok (.ireturn, 1) := dk_172 (dk_at dksX1_count_4 7 rfl rfl)
theorem dX1_count_120 : decode cX1_count 120 = .ok (.aload_n 0, 1) := dk_42 (dk_at dksX1_count_4 8 rfl rfl)
theorem dX1_count_121 : decode cX1_count 121 = .ok (.getfield 19, 3) := dk_180 0 19 (dk_at dksX1_count_4 9 rfl rfl)
theorem dX1_count_124 : decode cX1_count 124 = .ok (.invokevirtual 316, 3) := dk_182 1 60 (dk_at dksX1_count_4 12 rfl rfl)
theorem dX1_count_127 : decode cX1_count 127 = .ok (.ireturn, 1) := dk_172 (dk_at dksX1_count_4 15 rfl rfl)
theorem dX1_count_128 : decode cX1_count 128 = .ok (.aload_n 0, 1) := dk_42 (dk_at dksX1_count_4 16 rfl rfl)
theorem dX1_count_129 : decode cX1_count 129 = .ok (.invokevirtual 334, 3) := dk_182 1 78 (dk_at dksX1_count_4 17 rfl rfl)
theorem dX1_count_132 : decode cX1_count 132 = .ok (.ireturn, 1) := dk_172 (dk_at dksX1_count_4 20 rfl rfl)
theorem dX1_count_133 : decode cX1_count 133 = .ok (.aload_n 0, 1) := dk_42 (dk_at dksX1_count_4 21 rfl rfl)
theorem dX1_count_134 : decode cX1_count 134 = .ok (.invokevirtual 337, 3) := dk_182 1 81 (dk_at dksX1_count_5 0 rfl rfl)
theorem dX1_count_137 : decode cX1_count 137 = .ok (.ireturn, 1) := dk_172 (dk_at dksX1_count_5 3 rfl rfl)
theorem dX1_count_138 : decode cX1_count 138 = .ok (.bipush 60, 2) := dk_16 60 (dk_at dksX1_count_5 4 rfl rfl)
theorem dX1_count_140 : decode cX1_count 140 = .ok (.aload_n 0, 1) := dk_42 (dk_at dksX1_count_5 6 rfl rfl)
theorem dX1_count_141 : decode cX1_count 141 = .ok (.getfield 19, 3) := dk_180 0 19 (dk_at dksX1_count_5 7 rfl rfl)
theorem dX1_count_144 : decode cX1_count 144 = .ok (.getfield 340, 3) := dk_180 1 84 (dk_at dksX1_count_5 10 rfl rfl)
theorem dX1_count_147 : decode cX1_count 147 = .ok (.invokestatic 223, 3) := dk_184 0 223 (dk_at dksX1_count_5 13 rfl rfl)
theorem dX1_count_150 : decode cX1_count 150 = .ok (.ireturn, 1) := dk_172 (dk_at dksX1_count_5 16 rfl rfl)
theorem dX1_count_151 : decode cX1_count 151 = .ok (.aload_n 0, 1) := dk_42 (dk_at dksX1_count_5 17 rfl rfl)
theorem dX1_count_152 : decode cX1_count 152 = .ok (.getfield 134, 3) := dk_180 0 134 (dk_at dksX1_count_5 18 rfl rfl)
theorem dX1_count_155 : decode cX1_count 155 = .ok (.ireturn, 1) := dk_172 (dk_at dksX1_count_5 21 rfl rfl)
theorem dX1_count_156 : decode cX1_count 156 = .ok (.iconst (-1), 1) := dk_2 (dk_at dksX1_count_5 22 rfl rfl)
theorem dX1_count_157 : decode cX1_count 157 = .ok (.ireturn, 1) := dk_172 (dk_at dksX1_count_5 23 rfl rfl)
abbrev cX1_luckOfThings : ByteArray := prog_1_method_78_code
def yX1_luckOfThings : MethodName := ⟨RX1, "luckOfThings", "()I"⟩
def dkwX1_luckOfThings_1 : List UInt8 := [50, 180, 0, 196, 184, 0, 188, 96, 60, 132, 2, 1, 167, 255, 224, 27, 172]
abbrev dktX1_luckOfThings_1 : List UInt8 := dkwX1_luckOfThings_1 ++ []
def dkwX1_luckOfThings_0 : List UInt8 := [3, 60, 3, 61, 28, 42, 180, 0, 19, 180, 0, 89, 162, 0, 27, 27, 42, 180, 0, 19, 180, 0, 92, 28]
abbrev dktX1_luckOfThings_0 : List UInt8 := dkwX1_luckOfThings_0 ++ dktX1_luckOfThings_1
theorem dksX1_luckOfThings_0 : cX1_luckOfThings.data.toList.drop 0 = dktX1_luckOfThings_0 := by decide +kernel
theorem dksX1_luckOfThings_1 : cX1_luckOfThings.data.toList.drop 24 = dktX1_luckOfThings_1 := dk_seg dksX1_luckOfThings_0 24 rfl rfl
theorem dX1_luckOfThings_0 : decode cX1_luckOfThings 0 = .ok (.iconst 0, 1) := dk_3 (dk_at dksX1_luckOfThings_0 0 rfl rfl)
theorem dX1_luckOfThings_1 : decode cX1_luckOfThings 1 = .ok (.istore_n 1, 1) := dk_60 (dk_at dksX1_luckOfThings_0 1 rfl rfl)
theorem dX1_luckOfThings_2 : decode cX1_luckOfThings 2 = .ok (.iconst 0, 1) := dk_3 (dk_at dksX1_luckOfThings_0 2 rfl rfl)
theorem dX1_luckOfThings_3 : decode cX1_luckOfThings 3 = .ok (.istore_n 2, 1) := dk_61 (dk_at dksX1_luckOfThings_0 3 rfl rfl)
theorem dX1_luckOfThings_4 : decode cX1_luckOfThings 4 = .ok (.iload_n 2, 1) := dk_28 (dk_at dksX1_luckOfThings_0 4 rfl rfl)
theorem dX1_luckOfThings_5 : decode cX1_luckOfThings 5 = .ok (.aload_n 0, 1) := dk_42 (dk_at dksX1_luckOfThings_0 5 rfl rfl)
theorem dX1_luckOfThings_6 : decode cX1_luckOfThings 6 = .ok (.getfield 19, 3) := dk_180 0 19 (dk_at dksX1_luckOfThings_0 6 rfl rfl)
theorem dX1_luckOfThings_9 : decode cX1_luckOfThings 9 = .ok (.getfield 89, 3) := dk_180 0 89 (dk_at dksX1_luckOfThings_0 9 rfl rfl)
theorem dX1_luckOfThings_12 : decode cX1_luckOfThings 12 = .ok (.if_icmp .ge 27, 3) := dk_162 0 27 (dk_at dksX1_luckOfThings_0 12 rfl rfl)
theorem dX1_luckOfThings_15 : decode cX1_luckOfThings 15 = .ok (.iload_n 1, 1) := dk_27 (dk_at dksX1_luckOfThings_0 15 rfl rfl)
theorem dX1_luckOfThings_16 : decode cX1_luckOfThings 16 = .ok (.aload_n 0, 1) := dk_42 (dk_at dksX1_luckOfThings_0 16 rfl rfl)
theorem dX1_luckOfThings_17 : decode cX1_luckOfThings 17 = .ok (.getfield 19, 3) := dk_180 0 19 (dk_at dksX1_luckOfThings_0 17 rfl rfl)
theorem dX1_luckOfThings_20 : decode cX1_luckOfThings 20 = .ok (.getfield 92, 3) := dk_180 0 92 (dk_at dksX1_luckOfThings_0 20 rfl rfl)
theorem dX1_luckOfThings_23 : decode cX1_luckOfThings 23 = .ok (.iload_n 2, 1) := dk_28 (dk_at dksX1_luckOfThings_0 23 rfl rfl)
theorem dX1_luckOfThings_24 : decode cX1_luckOfThings 24 = .ok (.aaload, 1) := dk_50 (dk_at dksX1_luckOfThings_1 0 rfl rfl)
theorem dX1_luckOfThings_25 : decode cX1_luckOfThings 25 = .ok (.getfield 196, 3) := dk_180 0 196 (dk_at dksX1_luckOfThings_1 1 rfl rfl)
theorem dX1_luckOfThings_28 : decode cX1_luckOfThings 28 = .ok (.invokestatic 188, 3) := dk_184 0 188 (dk_at dksX1_luckOfThings_1 4 rfl rfl)
theorem dX1_luckOfThings_31 : decode cX1_luckOfThings 31 = .ok (.iadd, 1) := dk_96 (dk_at dksX1_luckOfThings_1 7 rfl rfl)
theorem dX1_luckOfThings_32 : decode cX1_luckOfThings 32 = .ok (.istore_n 1, 1) := dk_60 (dk_at dksX1_luckOfThings_1 8 rfl rfl)
theorem dX1_luckOfThings_33 : decode cX1_luckOfThings 33 = .ok (.iinc 2 1, 3) := dk_132 2 1 (dk_at dksX1_luckOfThings_1 9 rfl rfl)
theorem dX1_luckOfThings_36 : decode cX1_luckOfThings 36 = .ok (.goto (-32), 3) := dk_167 255 224 (dk_at dksX1_luckOfThings_1 12 rfl rfl)
theorem dX1_luckOfThings_39 : decode cX1_luckOfThings 39 = .ok (.iload_n 1, 1) := dk_27 (dk_at dksX1_luckOfThings_1 15 rfl rfl)
theorem dX1_luckOfThings_40 : decode cX1_luckOfThings 40 = .ok (.ireturn, 1) := dk_172 (dk_at dksX1_luckOfThings_1 16 rfl rfl)
abbrev cX1_widows : ByteArray := prog_1_method_79_code
def yX1_widows : MethodName := ⟨RX1, "widows", "()I"⟩
def dkwX1_widows_1 : List UInt8 := [50, 180, 0, 178, 153, 0, 9, 4, 28, 120, 167, 0, 4, 3, 128, 60, 132, 2, 1, 167, 255, 217, 27, 172]
abbrev dktX1_widows_1 : List UInt8 := dkwX1_widows_1 ++ []
def dkwX1_widows_0 : List UInt8 := [3, 60, 3, 61, 28, 42, 180, 0, 19, 180, 0, 74, 162, 0, 34, 27, 42, 180, 0, 19, 180, 0, 85, 28]
abbrev dktX1_widows_0 : List UInt8 := dkwX1_widows_0 ++ dktX1_widows_1
theorem dksX1_widows_0 : cX1_widows.data.toList.drop 0 = dktX1_widows_0 := by decide +kernel
theorem dksX1_widows_1 : cX1_widows.data.toList.drop 24 = dktX1_widows_1 := dk_seg dksX1_widows_0 24 rfl rfl
theorem dX1_widows_0 : decode cX1_widows 0 = .ok (.iconst 0, 1) := dk_3 (dk_at dksX1_widows_0 0 rfl rfl)
theorem dX1_widows_1 : decode cX1_widows 1 = .ok (.istore_n 1, 1) := dk_60 (dk_at dksX1_widows_0 1 rfl rfl)
theorem dX1_widows_2 : decode cX1_widows 2 = .ok (.iconst 0, 1) := dk_3 (dk_at dksX1_widows_0 2 rfl rfl)
theorem dX1_widows_3 : decode cX1_widows 3 = .ok (.istore_n 2, 1) := dk_61 (dk_at dksX1_widows_0 3 rfl rfl)
theorem dX1_widows_4 : decode cX1_widows 4 = .ok (.iload_n 2, 1) := dk_28 (dk_at dksX1_widows_0 4 rfl rfl)
theorem dX1_widows_5 : decode cX1_widows 5 = .ok (.aload_n 0, 1) := dk_42 (dk_at dksX1_widows_0 5 rfl rfl)
theorem dX1_widows_6 : decode cX1_widows 6 = .ok (.getfield 19, 3) := dk_180 0 19 (dk_at dksX1_widows_0 6 rfl rfl)
theorem dX1_widows_9 : decode cX1_widows 9 = .ok (.getfield 74, 3) := dk_180 0 74 (dk_at dksX1_widows_0 9 rfl rfl)
theorem dX1_widows_12 : decode cX1_widows 12 = .ok (.if_icmp .ge 34, 3) := dk_162 0 34 (dk_at dksX1_widows_0 12 rfl rfl)
theorem dX1_widows_15 : decode cX1_widows 15 = .ok (.iload_n 1, 1) := dk_27 (dk_at dksX1_widows_0 15 rfl rfl)
theorem dX1_widows_16 : decode cX1_widows 16 = .ok (.aload_n 0, 1) := dk_42 (dk_at dksX1_widows_0 16 rfl rfl)
theorem dX1_widows_17 : decode cX1_widows 17 = .ok (.getfield 19, 3) := dk_180 0 19 (dk_at dksX1_widows_0 17 rfl rfl)
theorem dX1_widows_20 : decode cX1_widows 20 = .ok (.getfield 85, 3) := dk_180 0 85 (dk_at dksX1_widows_0 20 rfl rfl)
theorem dX1_widows_23 : decode cX1_widows 23 = .ok (.iload_n 2, 1) := dk_28 (dk_at dksX1_widows_0 23 rfl rfl)
theorem dX1_widows_24 : decode cX1_widows 24 = .ok (.aaload, 1) := dk_50 (dk_at dksX1_widows_1 0 rfl rfl)
theorem dX1_widows_25 : decode cX1_widows 25 = .ok (.getfield 178, 3) := dk_180 0 178 (dk_at dksX1_widows_1 1 rfl rfl)
theorem dX1_widows_28 : decode cX1_widows 28 = .ok (.ifCond .eq 9, 3) := dk_153 0 9 (dk_at dksX1_widows_1 4 rfl rfl)
theorem dX1_widows_31 : decode cX1_widows 31 = .ok (.iconst 1, 1) := dk_4 (dk_at dksX1_widows_1 7 rfl rfl)
theorem dX1_widows_32 : decode cX1_widows 32 = .ok (.iload_n 2, 1) := dk_28 (dk_at dksX1_widows_1 8 rfl rfl)
theorem dX1_widows_33 : decode cX1_widows 33 = .ok (.ishl, 1) := dk_120 (dk_at dksX1_widows_1 9 rfl rfl)
theorem dX1_widows_34 : decode cX1_widows 34 = .ok (.goto 4, 3) := dk_167 0 4 (dk_at dksX1_widows_1 10 rfl rfl)
theorem dX1_widows_37 : decode cX1_widows 37 = .ok (.iconst 0, 1) := dk_3 (dk_at dksX1_widows_1 13 rfl rfl)
theorem dX1_widows_38 : decode cX1_widows 38 = .ok (.ior, 1) := dk_128 (dk_at dksX1_widows_1 14 rfl rfl)
theorem dX1_widows_39 : decode cX1_widows 39 = .ok (.istore_n 1, 1) := dk_60 (dk_at dksX1_widows_1 15 rfl rfl)
theorem dX1_widows_40 : decode cX1_widows 40 = .ok (.iinc 2 1, 3) := dk_132 2 1 (dk_at dksX1_widows_1 16 rfl rfl)
theorem dX1_widows_43 : decode cX1_widows 43 = .ok (.goto (-39), 3) := dk_167 255 217 (dk_at dksX1_widows_1 19 rfl rfl)
theorem dX1_widows_46 : decode cX1_widows 46 = .ok (.iload_n 1, 1) := dk_27 (dk_at dksX1_widows_1 22 rfl rfl)
theorem dX1_widows_47 : decode cX1_widows 47 = .ok (.ireturn, 1) := dk_172 (dk_at dksX1_widows_1 23 rfl rfl)
abbrev cX1_coast : ByteArray := prog_1_method_17_code
def yX1_coast : MethodName := ⟨RX1, "coast", "()I"⟩
def dkwX1_coast_3 : List UInt8 := [96, 181, 0, 124, 42, 3, 181, 0, 134, 42, 180, 0, 19, 180, 0, 124, 172]
abbrev dktX1_coast_3 : List UInt8 := dkwX1_coast_3 ++ []
def dkwX1_coast_2 : List UInt8 := [167, 0, 4, 3, 184, 0, 127, 42, 180, 0, 19, 44, 182, 0, 130, 42, 180, 0, 19, 89, 180, 0, 124, 4]
abbrev dktX1_coast_2 : List UInt8 := dkwX1_coast_2 ++ dktX1_coast_3
def dkwX1_coast_1 : List UInt8 := [167, 0, 10, 78, 42, 45, 182, 0, 120, 191, 42, 180, 0, 19, 180, 0, 124, 16, 12, 162, 0, 7, 4]
abbrev dktX1_coast_1 : List UInt8 := dkwX1_coast_1 ++ dktX1_coast_2
def dkwX1_coast_0 : List UInt8 := [42, 182, 0, 112, 60, 42, 2, 181, 0, 55, 42, 180, 0, 12, 27, 42, 180, 0, 19, 182, 0, 116, 77]
abbrev dktX1_coast_0 : List UInt8 := dkwX1_coast_0 ++ dktX1_coast_1
theorem dksX1_coast_0 : cX1_coast.data.toList.drop 0 = dktX1_coast_0 := by decide +kernel
theorem dksX1_coast_1 : cX1_coast.data.toList.drop 23 = dktX1_coast_1 := dk_seg dksX1_coast_0 23 rfl rfl
theorem dksX1_coast_2 : cX1_coast.data.toList.drop 46 = dktX1_coast_2 := dk_seg dksX1_coast_1 23 rfl rfl
theorem dksX1_coast_3 : cX1_coast.data.toList.drop 70 = dktX1_coast_3 := dk_seg dksX1_coast_2 24 rfl rfl
theorem dX1_coast_0 : decode cX1_coast 0 = .ok (.aload_n 0, 1) := dk_42 (dk_at dksX1_coast_0 0 rfl rfl)
theorem dX1_coast_1 : decode cX1_coast 1 = .ok (.invokevirtual 112, 3) := dk_182 0 112 (dk_at dksX1_coast_0 1 rfl rfl)
theorem dX1_coast_4 : decode cX1_coast 4 = .ok (.istore_n 1, 1) := dk_60 (dk_at dksX1_coast_0 4 rfl rfl)
theorem dX1_coast_5 : decode cX1_coast 5 = .ok (.aload_n 0, 1) := dk_42 (dk_at dksX1_coast_0 5 rfl rfl)
theorem dX1_coast_6 : decode cX1_coast 6 = .ok (.iconst (-1), 1) := dk_2 (dk_at dksX1_coast_0 6 rfl rfl)
theorem dX1_coast_7 : decode cX1_coast 7 = .ok (.putfield 55, 3) := dk_181 0 55 (dk_at dksX1_coast_0 7 rfl rfl)
theorem dX1_coast_10 : decode cX1_coast 10 = .ok (.aload_n 0, 1) := dk_42 (dk_at dksX1_coast_0 10 rfl rfl)
theorem dX1_coast_11 : decode cX1_coast 11 = .ok (.getfield 12, 3) := dk_180 0 12 (dk_at dksX1_coast_0 11 rfl rfl)
theorem dX1_coast_14 : decode cX1_coast 14 = .ok (.iload_n 1, 1) := dk_27 (dk_at dksX1_coast_0 14 rfl rfl)
theorem dX1_coast_15 : decode cX1_coast 15 = .ok (.aload_n 0, 1) := dk_42 (dk_at dksX1_coast_0 15 rfl rfl)
theorem dX1_coast_16 : decode cX1_coast 16 = .ok (.getfield 19, 3) := dk_180 0 19 (dk_at dksX1_coast_0 16 rfl rfl)
theorem dX1_coast_19 : decode cX1_coast 19 = .ok (.invokevirtual 116, 3) := dk_182 0 116 (dk_at dksX1_coast_0 19 rfl rfl)
theorem dX1_coast_22 : decode cX1_coast 22 = .ok (.astore_n 2, 1) := dk_77 (dk_at dksX1_coast_0 22 rfl rfl)
theorem dX1_coast_23 : decode cX1_coast 23 = .ok (.goto 10, 3) := dk_167 0 10 (dk_at dksX1_coast_1 0 rfl rfl)
theorem dX1_coast_26 : decode cX1_coast 26 = .ok (.astore_n 3, 1) := dk_78 (dk_at dksX1_coast_1 3 rfl rfl)
theorem dX1_coast_27 : decode cX1_coast 27 = .ok (.aload_n 0, 1) := dk_42 (dk_at dksX1_coast_1 4 rfl rfl)
theorem dX1_coast_28 : decode cX1_coast 28 = .ok (.aload_n 3, 1) := dk_45 (dk_at dksX1_coast_1 5 rfl rfl)
theorem dX1_coast_29 : decode cX1_coast 29 = .ok (.invokevirtual 120, 3) := dk_182 0 120 (dk_at dksX1_coast_1 6 rfl rfl)
theorem dX1_coast_32 : decode cX1_coast 32 = .ok (.athrow, 1) := dk_191 (dk_at dksX1_coast_1 9 rfl rfl)
theorem dX1_coast_33 : decode cX1_coast 33 = .ok (.aload_n 0, 1) := dk_42 (dk_at dksX1_coast_1 10 rfl rfl)
theorem dX1_coast_34 : decode cX1_coast 34 = .ok (.getfield 19, 3) := dk_180 0 19 (dk_at dksX1_coast_1 11 rfl rfl)
theorem dX1_coast_37 : decode cX1_coast 37 = .ok (.getfield 124, 3) := dk_180 0 124 (dk_at dksX1_coast_1 14 rfl rfl)
theorem dX1_coast_40 : decode cX1_coast 40 = .ok (.bipush 12, 2) := dk_16 12 (dk_at dksX1_coast_1 17 rfl rfl)
theorem dX1_coast_42 : decode cX1_coast 42 = .ok (.if_icmp .ge 7, 3) := dk_162 0 7 (dk_at dksX1_coast_1 19 rfl rfl)
theorem dX1_coast_45 : decode cX1_coast 45 = .ok (.iconst 1, 1) := dk_4 (dk_at dksX1_coast_1 22 rfl rfl)
theorem dX1_coast_46 : decode cX1_coast 46 = .ok (.goto 4, 3) := dk_167 0 4 (dk_at dksX1_coast_2 0 rfl rfl)
theorem dX1_coast_49 : decode cX1_coast 49 = .ok (.iconst 0, 1) := dk_3 (dk_at dksX1_coast_2 3 rfl rfl)
theorem dX1_coast_50 : decode cX1_coast 50 = .ok (.invokestatic 127, 3) := dk_184 0 127 (dk_at dksX1_coast_2 4 rfl rfl)
theorem dX1_coast_53 : decode cX1_coast 53 = .ok (.aload_n 0, 1) := dk_42 (dk_at dksX1_coast_2 7 rfl rfl)
theorem dX1_coast_54 : decode cX1_coast 54 = .ok (.getfield 19, 3) := dk_180 0 19 (dk_at dksX1_coast_2 8 rfl rfl)
theorem dX1_coast_57 : decode cX1_coast 57 = .ok (.aload_n 2, 1) := dk_44 (dk_at dksX1_coast_2 11 rfl rfl)
theorem dX1_coast_58 : decode cX1_coast 58 = .ok (.invokevirtual 130, 3) := dk_182 0 130 (dk_at dksX1_coast_2 12 rfl rfl)
theorem dX1_coast_61 : decode cX1_coast 61 = .ok (.aload_n 0, 1) := dk_42 (dk_at dksX1_coast_2 15 rfl rfl)
theorem dX1_coast_62 : decode cX1_coast 62 = .ok (.getfield 19, 3) := dk_180 0 19 (dk_at dksX1_coast_2 16 rfl rfl)
theorem dX1_coast_65 : decode cX1_coast 65 = .ok (.dup, 1) := dk_89 (dk_at dksX1_coast_2 19 rfl rfl)
theorem dX1_coast_66 : decode cX1_coast 66 = .ok (.getfield 124, 3) := dk_180 0 124 (dk_at dksX1_coast_2 20 rfl rfl)
theorem dX1_coast_69 : decode cX1_coast 69 = .ok (.iconst 1, 1) := dk_4 (dk_at dksX1_coast_2 23 rfl rfl)
theorem dX1_coast_70 : decode cX1_coast 70 = .ok (.iadd, 1) := dk_96 (dk_at dksX1_coast_3 0 rfl rfl)
theorem dX1_coast_71 : decode cX1_coast 71 = .ok (.putfield 124, 3) := dk_181 0 124 (dk_at dksX1_coast_3 1 rfl rfl)
theorem dX1_coast_74 : decode cX1_coast 74 = .ok (.aload_n 0, 1) := dk_42 (dk_at dksX1_coast_3 4 rfl rfl)
theorem dX1_coast_75 : decode cX1_coast 75 = .ok (.iconst 0, 1) := dk_3 (dk_at dksX1_coast_3 5 rfl rfl)
theorem dX1_coast_76 : decode cX1_coast 76 = .ok (.putfield 134, 3) := dk_181 0 134 (dk_at dksX1_coast_3 6 rfl rfl)
theorem dX1_coast_79 : decode cX1_coast 79 = .ok (.aload_n 0, 1) := dk_42 (dk_at dksX1_coast_3 9 rfl rfl)
theorem dX1_coast_80 : decode cX1_coast 80 = .ok (.getfield 19, 3) := dk_180 0 19 (dk_at dksX1_coast_3 10 rfl rfl)
theorem dX1_coast_83 : decode cX1_coast 83 = .ok (.getfield 124, 3) := dk_180 0 124 (dk_at dksX1_coast_3 13 rfl rfl)
theorem dX1_coast_86 : decode cX1_coast 86 = .ok (.ireturn, 1) := dk_172 (dk_at dksX1_coast_3 16 rfl rfl)
abbrev cX1_took : ByteArray := prog_1_method_15_code
def yX1_took : MethodName := ⟨RX1, "took", "()I"⟩
def dkwX1_took_0 : List UInt8 := [42, 180, 0, 12, 180, 0, 100, 60, 42, 180, 0, 12, 3, 181, 0, 100, 27, 172]
abbrev dktX1_took_0 : List UInt8 := dkwX1_took_0 ++ []
theorem dksX1_took_0 : cX1_took.data.toList.drop 0 = dktX1_took_0 := by decide +kernel
theorem dX1_took_0 : decode cX1_took 0 = .ok (.aload_n 0, 1) := dk_42 (dk_at dksX1_took_0 0 rfl rfl)
theorem dX1_took_1 : decode cX1_took 1 = .ok (.getfield 12, 3) := dk_180 0 12 (dk_at dksX1_took_0 1 rfl rfl)
theorem dX1_took_4 : decode cX1_took 4 = .ok (.getfield 100, 3) := dk_180 0 100 (dk_at dksX1_took_0 4 rfl rfl)
theorem dX1_took_7 : decode cX1_took 7 = .ok (.istore_n 1, 1) := dk_60 (dk_at dksX1_took_0 7 rfl rfl)
theorem dX1_took_8 : decode cX1_took 8 = .ok (.aload_n 0, 1) := dk_42 (dk_at dksX1_took_0 8 rfl rfl)
theorem dX1_took_9 : decode cX1_took 9 = .ok (.getfield 12, 3) := dk_180 0 12 (dk_at dksX1_took_0 9 rfl rfl)
theorem dX1_took_12 : decode cX1_took 12 = .ok (.iconst 0, 1) := dk_3 (dk_at dksX1_took_0 12 rfl rfl)
theorem dX1_took_13 : decode cX1_took 13 = .ok (.putfield 100, 3) := dk_181 0 100 (dk_at dksX1_took_0 13 rfl rfl)
theorem dX1_took_16 : decode cX1_took 16 = .ok (.iload_n 1, 1) := dk_27 (dk_at dksX1_took_0 16 rfl rfl)
theorem dX1_took_17 : decode cX1_took 17 = .ok (.ireturn, 1) := dk_172 (dk_at dksX1_took_0 17 rfl rfl)
abbrev cX1_isWrong : ByteArray := prog_1_method_16_code
def yX1_isWrong : MethodName := ⟨RX1, "isWrong", "(LBorrowedLuck$Wrong;)Ljava/lang/IllegalArgumentException;"⟩
def dkwX1_isWrong_0 : List UInt8 := [42, 43, 180, 0, 107, 181, 0, 55, 187, 0, 59, 89, 183, 0, 61, 176]
abbrev dktX1_isWrong_0 : List UInt8 := dkwX1_isWrong_0 ++ []
theorem dksX1_isWrong_0 : cX1_isWrong.data.toList.drop 0 = dktX1_isWrong_0 := by decide +kernel
theorem dX1_isWrong_0 : decode cX1_isWrong 0 = .ok (.aload_n 0, 1) := dk_42 (dk_at dksX1_isWrong_0 0 rfl rfl)
theorem dX1_isWrong_1 : decode cX1_isWrong 1 = .ok (.aload_n 1, 1) := dk_43 (dk_at dksX1_isWrong_0 1 rfl rfl)
theorem dX1_isWrong_2 : decode cX1_isWrong 2 = .ok (.getfield 107, 3) := dk_180 0 107 (dk_at dksX1_isWrong_0 2 rfl rfl)
theorem dX1_isWrong_5 : decode cX1_isWrong 5 = .ok (.putfield 55, 3) := dk_181 0 55 (dk_at dksX1_isWrong_0 5 rfl rfl)
theorem dX1_isWrong_8 : decode cX1_isWrong 8 = .ok (.new 59, 3) := dk_187 0 59 (dk_at dksX1_isWrong_0 8 rfl rfl)
theorem dX1_isWrong_11 : decode cX1_isWrong 11 = .ok (.dup, 1) := dk_89 (dk_at dksX1_isWrong_0 11 rfl rfl)
theorem dX1_isWrong_12 : decode cX1_isWrong 12 = .ok (.invokespecial 61, 3) := dk_183 0 61 (dk_at dksX1_isWrong_0 12 rfl rfl)
theorem dX1_isWrong_15 : decode cX1_isWrong 15 = .ok (.areturn, 1) := dk_176 (dk_at dksX1_isWrong_0 15 rfl rfl)
abbrev cX1_mayBe : ByteArray := prog_1_method_4_code
def yX1_mayBe : MethodName := ⟨RX1, "mayBe", "(Z)V"⟩
def dkwX1_mayBe_0 : List UInt8 := [26, 154, 0, 11, 187, 0, 62, 89, 183, 0, 64, 191, 177]
abbrev dktX1_mayBe_0 : List UInt8 := dkwX1_mayBe_0 ++ []
theorem dksX1_mayBe_0 : cX1_mayBe.data.toList.drop 0 = dktX1_mayBe_0 := by decide +kernel
theorem dX1_mayBe_0 : decode cX1_mayBe 0 = .ok (.iload_n 0, 1) := dk_26 (dk_at dksX1_mayBe_0 0 rfl rfl)
theorem dX1_mayBe_1 : decode cX1_mayBe 1 = .ok (.ifCond .ne 11, 3) := dk_154 0 11 (dk_at dksX1_mayBe_0 1 rfl rfl)
theorem dX1_mayBe_4 : decode cX1_mayBe 4 = .ok (.new 62, 3) := dk_187 0 62 (dk_at dksX1_mayBe_0 4 rfl rfl)
theorem dX1_mayBe_7 : decode cX1_mayBe 7 = .ok (.dup, 1) := dk_89 (dk_at dksX1_mayBe_0 7 rfl rfl)
theorem dX1_mayBe_8 : decode cX1_mayBe 8 = .ok (.invokespecial 64, 3) := dk_183 0 64 (dk_at dksX1_mayBe_0 8 rfl rfl)
theorem dX1_mayBe_11 : decode cX1_mayBe 11 = .ok (.athrow, 1) := dk_191 (dk_at dksX1_mayBe_0 11 rfl rfl)
theorem dX1_mayBe_12 : decode cX1_mayBe 12 = .ok (.return_, 1) := dk_177 (dk_at dksX1_mayBe_0 12 rfl rfl)
abbrev cX1_law : ByteArray := prog_1_method_18_code
def yX1_law : MethodName := ⟨RX1, "law", "()I"⟩
def dkwX1_law_3 : List UInt8 := [172]
abbrev dktX1_law_3 : List UInt8 := dkwX1_law_3 ++ []
def dkwX1_law_2 : List UInt8 := [180, 0, 19, 180, 0, 147, 3, 16, 12, 184, 0, 149, 42, 3, 181, 0, 134, 42, 180, 0, 19, 180, 0, 141]
abbrev dktX1_law_2 : List UInt8 := dkwX1_law_2 ++ dktX1_law_3
def dkwX1_law_1 : List UInt8 := [181, 0, 141, 167, 0, 10, 77, 42, 44, 182, 0, 120, 191, 42, 180, 0, 12, 180, 0, 144, 3, 42]
abbrev dktX1_law_1 : List UInt8 := dkwX1_law_1 ++ dktX1_law_2
def dkwX1_law_0 : List UInt8 := [42, 182, 0, 112, 60, 42, 2, 181, 0, 55, 42, 180, 0, 19, 42, 180, 0, 12, 27, 182, 0, 137]
abbrev dktX1_law_0 : List UInt8 := dkwX1_law_0 ++ dktX1_law_1
theorem dksX1_law_0 : cX1_law.data.toList.drop 0 = dktX1_law_0 := by decide +kernel
theorem dksX1_law_1 : cX1_law.data.toList.drop 22 = dktX1_law_1 := dk_seg dksX1_law_0 22 rfl rfl
theorem dksX1_law_2 : cX1_law.data.toList.drop 44 = dktX1_law_2 := dk_seg dksX1_law_1 22 rfl rfl
theorem dksX1_law_3 : cX1_law.data.toList.drop 68 = dktX1_law_3 := dk_seg dksX1_law_2 24 rfl rfl
theorem dX1_law_0 : decode cX1_law 0 = .ok (.aload_n 0, 1) := dk_42 (dk_at dksX1_law_0 0 rfl rfl)
theorem dX1_law_1 : decode cX1_law 1 = .ok (.invokevirtual 112, 3) := dk_182 0 112 (dk_at dksX1_law_0 1 rfl rfl)
theorem dX1_law_4 : decode cX1_law 4 = .ok (.istore_n 1, 1) := dk_60 (dk_at dksX1_law_0 4 rfl rfl)
theorem dX1_law_5 : decode cX1_law 5 = .ok (.aload_n 0, 1) := dk_42 (dk_at dksX1_law_0 5 rfl rfl)
theorem dX1_law_6 : decode cX1_law 6 = .ok (.iconst (-1), 1) := dk_2 (dk_at dksX1_law_0 6 rfl rfl)
theorem dX1_law_7 : decode cX1_law 7 = .ok (.putfield 55, 3) := dk_181 0 55 (dk_at dksX1_law_0 7 rfl rfl)
theorem dX1_law_10 : decode cX1_law 10 = .ok (.aload_n 0, 1) := dk_42 (dk_at dksX1_law_0 10 rfl rfl)
theorem dX1_law_11 : decode cX1_law 11 = .ok (.getfield 19, 3) := dk_180 0 19 (dk_at dksX1_law_0 11 rfl rfl)
theorem dX1_law_14 : decode cX1_law 14 = .ok (.aload_n 0, 1) := dk_42 (dk_at dksX1_law_0 14 rfl rfl)
theorem dX1_law_15 : decode cX1_law 15 = .ok (.getfield 12, 3) := dk_180 0 12 (dk_at dksX1_law_0 15 rfl rfl)
theorem dX1_law_18 : decode cX1_law 18 = .ok (.iload_n 1, 1) := dk_27 (dk_at dksX1_law_0 18 rfl rfl)
theorem dX1_law_19 : decode cX1_law 19 = .ok (.invokevirtual 137, 3) := dk_182 0 137 (dk_at dksX1_law_0 19 rfl rfl)
theorem dX1_law_22 : decode cX1_law 22 = .ok (.putfield 141, 3) := dk_181 0 141 (dk_at dksX1_law_1 0 rfl rfl)
theorem dX1_law_25 : decode cX1_law 25 = .ok (.goto 10, 3) := dk_167 0 10 (dk_at dksX1_law_1 3 rfl rfl)
theorem dX1_law_28 : decode cX1_law 28 = .ok (.astore_n 2, 1) := dk_77 (dk_at dksX1_law_1 6 rfl rfl)
theorem dX1_law_29 : decode cX1_law 29 = .ok (.aload_n 0, 1) := dk_42 (dk_at dksX1_law_1 7 rfl rfl)
theorem dX1_law_30 : decode cX1_law 30 = .ok (.aload_n 2, 1) := dk_44 (dk_at dksX1_law_1 8 rfl rfl)
theorem dX1_law_31 : decode cX1_law 31 = .ok (.invokevirtual 120, 3) := dk_182 0 120 (dk_at dksX1_law_1 9 rfl rfl)
theorem dX1_law_34 : decode cX1_law 34 = .ok (.athrow, 1) := dk_191 (dk_at dksX1_law_1 12 rfl rfl)
theorem dX1_law_35 : decode cX1_law 35 = .ok (.aload_n 0, 1) := dk_42 (dk_at dksX1_law_1 13 rfl rfl)
theorem dX1_law_36 : decode cX1_law 36 = .ok (.getfield 12, 3) := dk_180 0 12 (dk_at dksX1_law_1 14 rfl rfl)
theorem dX1_law_39 : decode cX1_law 39 = .ok (.getfield 144, 3) := dk_180 0 144 (dk_at dksX1_law_1 17 rfl rfl)
theorem dX1_law_42 : decode cX1_law 42 = .ok (.iconst 0, 1) := dk_3 (dk_at dksX1_law_1 20 rfl rfl)
theorem dX1_law_43 : decode cX1_law 43 = .ok (.aload_n 0, 1) := dk_42 (dk_at dksX1_law_1 21 rfl rfl)
theorem dX1_law_44 : decode cX1_law 44 = .ok (.getfield 19, 3) := dk_180 0 19 (dk_at dksX1_law_2 0 rfl rfl)
theorem dX1_law_47 : decode cX1_law 47 = .ok (.getfield 147, 3) := dk_180 0 147 (dk_at dksX1_law_2 3 rfl rfl)
theorem dX1_law_50 : decode cX1_law 50 = .ok (.iconst 0, 1) := dk_3 (dk_at dksX1_law_2 6 rfl rfl)
theorem dX1_law_51 : decode cX1_law 51 = .ok (.bipush 12, 2) := dk_16 12 (dk_at dksX1_law_2 7 rfl rfl)
theorem dX1_law_53 : decode cX1_law 53 = .ok (.invokestatic 149, 3) := dk_184 0 149 (dk_at dksX1_law_2 9 rfl rfl)
theorem dX1_law_56 : decode cX1_law 56 = .ok (.aload_n 0, 1) := dk_42 (dk_at dksX1_law_2 12 rfl rfl)
theorem dX1_law_57 : decode cX1_law 57 = .ok (.iconst 0, 1) := dk_3 (dk_at dksX1_law_2 13 rfl rfl)
theorem dX1_law_58 : decode cX1_law 58 = .ok (.putfield 134, 3) := dk_181 0 134 (dk_at dksX1_law_2 14 rfl rfl)
theorem dX1_law_61 : decode cX1_law 61 = .ok (.aload_n 0, 1) := dk_42 (dk_at dksX1_law_2 17 rfl rfl)
theorem dX1_law_62 : decode cX1_law 62 = .ok (.getfield 19, 3) := dk_180 0 19 (dk_at dksX1_law_2 18 rfl rfl)
theorem dX1_law_65 : decode cX1_law 65 = .ok (.getfield 141, 3) := dk_180 0 141 (dk_at dksX1_law_2 21 rfl rfl)
theorem dX1_law_68 : decode cX1_law 68 = .ok (.ireturn, 1) := dk_172 (dk_at dksX1_law_3 0 rfl rfl)
abbrev cX1_woman : ByteArray := prog_1_method_22_code
def yX1_woman : MethodName := ⟨RX1, "woman", "(II)I"⟩
def dkwX1_woman_4 : List UInt8 := [183, 0, 70, 191]
abbrev dktX1_woman_4 : List UInt8 := dkwX1_woman_4 ++ []
def dkwX1_woman_3 : List UInt8 := [27, 182, 0, 182, 172, 42, 27, 182, 0, 185, 172, 45, 180, 0, 167, 184, 0, 188, 172, 187, 0, 68, 89]
abbrev dktX1_woman_3 : List UInt8 := dkwX1_woman_3 ++ dktX1_woman_4
def dkwX1_woman_2 : List UInt8 := [45, 180, 0, 172, 172, 45, 180, 0, 175, 172, 45, 180, 0, 178, 153, 0, 7, 4, 167, 0, 4, 3, 172, 42]
abbrev dktX1_woman_2 : List UInt8 := dkwX1_woman_2 ++ dktX1_woman_3
def dkwX1_woman_1 : List UInt8 := [170, 0, 0, 0, 80, 0, 0, 0, 4, 0, 0, 0, 9, 0, 0, 0, 37, 0, 0, 0, 42, 0, 0, 0, 47, 0, 0, 0, 60, 0, 0, 0, 66, 0, 0, 0, 72]
abbrev dktX1_woman_1 : List UInt8 := dkwX1_woman_1 ++ dktX1_woman_2
def dkwX1_woman_0 : List UInt8 := [42, 27, 182, 0, 163, 78, 28, 3, 6, 184, 0, 77, 153, 0, 10, 45, 180, 0, 167, 28, 46, 172, 28]
abbrev dktX1_woman_0 : List UInt8 := dkwX1_woman_0 ++ dktX1_woman_1
theorem dksX1_woman_0 : cX1_woman.data.toList.drop 0 = dktX1_woman_0 := by decide +kernel
theorem dksX1_woman_1 : cX1_woman.data.toList.drop 23 = dktX1_woman_1 := dk_seg dksX1_woman_0 23 rfl rfl
theorem dksX1_woman_2 : cX1_woman.data.toList.drop 60 = dktX1_woman_2 := dk_seg dksX1_woman_1 37 rfl rfl
theorem dksX1_woman_3 : cX1_woman.data.toList.drop 84 = dktX1_woman_3 := dk_seg dksX1_woman_2 24 rfl rfl
theorem dksX1_woman_4 : cX1_woman.data.toList.drop 107 = dktX1_woman_4 := dk_seg dksX1_woman_3 23 rfl rfl
theorem dX1_woman_0 : decode cX1_woman 0 = .ok (.aload_n 0, 1) := dk_42 (dk_at dksX1_woman_0 0 rfl rfl)
theorem dX1_woman_1 : decode cX1_woman 1 = .ok (.iload_n 1, 1) := dk_27 (dk_at dksX1_woman_0 1 rfl rfl)
theorem dX1_woman_2 : decode cX1_woman 2 = .ok (.invokevirtual 163, 3) := dk_182 0 163 (dk_at dksX1_woman_0 2 rfl rfl)
theorem dX1_woman_5 : decode cX1_woman 5 = .ok (.astore_n 3, 1) := dk_78 (dk_at dksX1_woman_0 5 rfl rfl)
theorem dX1_woman_6 : decode cX1_woman 6 = .ok (.iload_n 2, 1) := dk_28 (dk_at dksX1_woman_0 6 rfl rfl)
theorem dX1_woman_7 : decode cX1_woman 7 = .ok (.iconst 0, 1) := dk_3 (dk_at dksX1_woman_0 7 rfl rfl)
theorem dX1_woman_8 : decode cX1_woman 8 = .ok (.iconst 3, 1) := dk_6 (dk_at dksX1_woman_0 8 rfl rfl)
theorem dX1_woman_9 : decode cX1_woman 9 = .ok (.invokestatic 77, 3) := dk_184 0 77 (dk_at dksX1_woman_0 9 rfl rfl)
theorem dX1_woman_12 : decode cX1_woman 12 = .ok (.ifCond .eq 10, 3) := dk_153 0 10 (dk_at dksX1_woman_0 12 rfl rfl)
theorem dX1_woman_15 : decode cX1_woman 15 = .ok (.aload_n 3, 1) := dk_45 (dk_at dksX1_woman_0 15 rfl rfl)
theorem dX1_woman_16 : decode cX1_woman 16 = .ok (.getfield 167, 3) := dk_180 0 167 (dk_at dksX1_woman_0 16 rfl rfl)
theorem dX1_woman_19 : decode cX1_woman 19 = .ok (.iload_n 2, 1) := dk_28 (dk_at dksX1_woman_0 19 rfl rfl)
theorem dX1_woman_20 : decode cX1_woman 20 = .ok (.iaload, 1) := dk_46 (dk_at dksX1_woman_0 20 rfl rfl)
theorem dX1_woman_21 : decode cX1_woman 21 = .ok (.ireturn, 1) := dk_172 (dk_at dksX1_woman_0 21 rfl rfl)
theorem dX1_woman_22 : decode cX1_woman 22 = .ok (.iload_n 2, 1) := dk_28 (dk_at dksX1_woman_0 22 rfl rfl)
theorem dX1_woman_23 : decode cX1_woman 23 = .ok (.tableswitch 80 4 9 #[37, 42, 47, 60, 66, 72], 37) := by decide +kernel
theorem dX1_woman_60 : decode cX1_woman 60 = .ok (.aload_n 3, 1) := dk_45 (dk_at dksX1_woman_2 0 rfl rfl)
theorem dX1_woman_61 : decode cX1_woman 61 = .ok (.getfield 172, 3) := dk_180 0 172 (dk_at dksX1_woman_2 1 rfl rfl)
theorem dX1_woman_64 : decode cX1_woman 64 = .ok (.ireturn, 1) := dk_172 (dk_at dksX1_woman_2 4 rfl rfl)
theorem dX1_woman_65 : decode cX1_woman 65 = .ok (.aload_n 3, 1) := dk_45 (dk_at dksX1_woman_2 5 rfl rfl)
theorem dX1_woman_66 : decode cX1_woman 66 = .ok (.getfield 175, 3) := dk_180 0 175 (dk_at dksX1_woman_2 6 rfl rfl)
theorem dX1_woman_69 : decode cX1_woman 69 = .ok (.ireturn, 1) := dk_172 (dk_at dksX1_woman_2 9 rfl rfl)
theorem dX1_woman_70 : decode cX1_woman 70 = .ok (.aload_n 3, 1) := dk_45 (dk_at dksX1_woman_2 10 rfl rfl)
theorem dX1_woman_71 : decode cX1_woman 71 = .ok (.getfield 178, 3) := dk_180 0 178 (dk_at dksX1_woman_2 11 rfl rfl)
theorem dX1_woman_74 : decode cX1_woman 74 = .ok (.ifCond .eq 7, 3) := dk_153 0 7 (dk_at dksX1_woman_2 14 rfl rfl)
theorem dX1_woman_77 : decode cX1_woman 77 = .ok (.iconst 1, 1) := dk_4 (dk_at dksX1_woman_2 17 rfl rfl)
theorem dX1_woman_78 : decode cX1_woman 78 = .ok (.goto 4, 3) := dk_167 0 4 (dk_at dksX1_woman_2 18 rfl rfl)
theorem dX1_woman_81 : decode cX1_woman 81 = .ok (.iconst 0, 1) := dk_3 (dk_at dksX1_woman_2 21 rfl rfl)
theorem dX1_woman_82 : decode cX1_woman 82 = .ok (.ireturn, 1) := dk_172 (dk_at dksX1_woman_2 22 rfl rfl)
theorem dX1_woman_83 : decode cX1_woman 83 = .ok (.aload_n 0, 1) := dk_42 (dk_at dksX1_woman_2 23 rfl rfl)
theorem dX1_woman_84 : decode cX1_woman 84 = .ok (.iload_n 1, 1) := dk_27 (dk_at dksX1_woman_3 0 rfl rfl)
theorem dX1_woman_85 : decode cX1_woman 85 = .ok (.invokevirtual 182, 3) := dk_182 0 182 (dk_at dksX1_woman_3 1 rfl rfl)
theorem dX1_woman_88 : decode cX1_woman 88 = .ok (.ireturn, 1) := dk_172 (dk_at dksX1_woman_3 4 rfl rfl)
theorem dX1_woman_89 : decode cX1_woman 89 = .ok (.aload_n 0, 1) := dk_42 (dk_at dksX1_woman_3 5 rfl rfl)
theorem dX1_woman_90 : decode cX1_woman 90 = .ok (.iload_n 1, 1) := dk_27 (dk_at dksX1_woman_3 6 rfl rfl)
theorem dX1_woman_91 : decode cX1_woman 91 = .ok (.invokevirtual 185, 3) := dk_182 0 185 (dk_at dksX1_woman_3 7 rfl rfl)
theorem dX1_woman_94 : decode cX1_woman 94 = .ok (.ireturn, 1) := dk_172 (dk_at dksX1_woman_3 10 rfl rfl)
theorem dX1_woman_95 : decode cX1_woman 95 = .ok (.aload_n 3, 1) := dk_45 (dk_at dksX1_woman_3 11 rfl rfl)
theorem dX1_woman_96 : decode cX1_woman 96 = .ok (.getfield 167, 3) := dk_180 0 167 (dk_at dksX1_woman_3 12 rfl rfl)
theorem dX1_woman_99 : decode cX1_woman 99 = .ok (.invokestatic 188, 3) := dk_184 0 188 (dk_at dksX1_woman_3 15 rfl rfl)
theorem dX1_woman_102 : decode cX1_woman 102 = .ok (.ireturn, 1) := dk_172 (dk_at dksX1_woman_3 18 rfl rfl)
theorem dX1_woman_103 : decode cX1_woman 103 = .ok (.new 68, 3) := dk_187 0 68 (dk_at dksX1_woman_3 19 rfl rfl)
theorem dX1_woman_106 : decode cX1_woman 106 = .ok (.dup, 1) := dk_89 (dk_at dksX1_woman_3 22 rfl rfl)
theorem dX1_woman_107 : decode cX1_woman 107 = .ok (.invokespecial 70, 3) := dk_183 0 70 (dk_at dksX1_woman_4 0 rfl rfl)
theorem dX1_woman_110 : decode cX1_woman 110 = .ok (.athrow, 1) := dk_191 (dk_at dksX1_woman_4 3 rfl rfl)
abbrev cX1_womanAt : ByteArray := prog_1_method_9_code
def yX1_womanAt : MethodName := ⟨RX1, "womanAt", "(I)LBorrowedLuck$Woman;"⟩
def dkwX1_womanAt_1 : List UInt8 := [27, 50, 176]
abbrev dktX1_womanAt_1 : List UInt8 := dkwX1_womanAt_1 ++ []
def dkwX1_womanAt_0 : List UInt8 := [27, 3, 42, 180, 0, 19, 180, 0, 74, 4, 100, 184, 0, 77, 184, 0, 81, 42, 180, 0, 19, 180, 0, 85]
abbrev dktX1_womanAt_0 : List UInt8 := dkwX1_womanAt_0 ++ dktX1_womanAt_1
theorem dksX1_womanAt_0 : cX1_womanAt.data.toList.drop 0 = dktX1_womanAt_0 := by decide +kernel
theorem dksX1_womanAt_1 : cX1_womanAt.data.toList.drop 24 = dktX1_womanAt_1 := dk_seg dksX1_womanAt_0 24 rfl rfl
theorem dX1_womanAt_0 : decode cX1_womanAt 0 = .ok (.iload_n 1, 1) := dk_27 (dk_at dksX1_womanAt_0 0 rfl rfl)
theorem dX1_womanAt_1 : decode cX1_womanAt 1 = .ok (.iconst 0, 1) := dk_3 (dk_at dksX1_womanAt_0 1 rfl rfl)
theorem dX1_womanAt_2 : decode cX1_womanAt 2 = .ok (.aload_n 0, 1) := dk_42 (dk_at dksX1_womanAt_0 2 rfl rfl)
theorem dX1_womanAt_3 : decode cX1_womanAt 3 = .ok (.getfield 19, 3) := dk_180 0 19 (dk_at dksX1_womanAt_0 3 rfl rfl)
theorem dX1_womanAt_6 : decode cX1_womanAt 6 = .ok (.getfield 74, 3) := dk_180 0 74 (dk_at dksX1_womanAt_0 6 rfl rfl)
theorem dX1_womanAt_9 : decode cX1_womanAt 9 = .ok (.iconst 1, 1) := dk_4 (dk_at dksX1_womanAt_0 9 rfl rfl)
theorem dX1_womanAt_10 : decode cX1_womanAt 10 = .ok (.isub, 1) := dk_100 (dk_at dksX1_womanAt_0 10 rfl rfl)
theorem dX1_womanAt_11 : decode cX1_womanAt 11 = .ok (.invokestatic 77, 3) := dk_184 0 77 (dk_at dksX1_womanAt_0 11 rfl rfl)
theorem dX1_womanAt_14 : decode cX1_womanAt 14 = .ok (.invokestatic 81, 3) := dk_184 0 81 (dk_at dksX1_womanAt_0 14 rfl rfl)
theorem dX1_womanAt_17 : decode cX1_womanAt 17 = .ok (.aload_n 0, 1) := dk_42 (dk_at dksX1_womanAt_0 17 rfl rfl)
theorem dX1_womanAt_18 : decode cX1_womanAt 18 = .ok (.getfield 19, 3) := dk_180 0 19 (dk_at dksX1_womanAt_0 18 rfl rfl)
theorem dX1_womanAt_21 : decode cX1_womanAt 21 = .ok (.getfield 85, 3) := dk_180 0 85 (dk_at dksX1_womanAt_0 21 rfl rfl)
theorem dX1_womanAt_24 : decode cX1_womanAt 24 = .ok (.iload_n 1, 1) := dk_27 (dk_at dksX1_womanAt_1 0 rfl rfl)
theorem dX1_womanAt_25 : decode cX1_womanAt 25 = .ok (.aaload, 1) := dk_50 (dk_at dksX1_womanAt_1 1 rfl rfl)
theorem dX1_womanAt_26 : decode cX1_womanAt 26 = .ok (.areturn, 1) := dk_176 (dk_at dksX1_womanAt_1 2 rfl rfl)
abbrev cX1_mustBe : ByteArray := prog_1_method_5_code
def yX1_mustBe : MethodName := ⟨RX1, "mustBe", "(Z)V"⟩
def dkwX1_mustBe_0 : List UInt8 := [26, 154, 0, 11, 187, 0, 65, 89, 183, 0, 67, 191, 177]
abbrev dktX1_mustBe_0 : List UInt8 := dkwX1_mustBe_0 ++ []
theorem dksX1_mustBe_0 : cX1_mustBe.data.toList.drop 0 = dktX1_mustBe_0 := by decide +kernel
theorem dX1_mustBe_0 : decode cX1_mustBe 0 = .ok (.iload_n 0, 1) := dk_26 (dk_at dksX1_mustBe_0 0 rfl rfl)
theorem dX1_mustBe_1 : decode cX1_mustBe 1 = .ok (.ifCond .ne 11, 3) := dk_154 0 11 (dk_at dksX1_mustBe_0 1 rfl rfl)
theorem dX1_mustBe_4 : decode cX1_mustBe 4 = .ok (.new 65, 3) := dk_187 0 65 (dk_at dksX1_mustBe_0 4 rfl rfl)
theorem dX1_mustBe_7 : decode cX1_mustBe 7 = .ok (.dup, 1) := dk_89 (dk_at dksX1_mustBe_0 7 rfl rfl)
theorem dX1_mustBe_8 : decode cX1_mustBe 8 = .ok (.invokespecial 67, 3) := dk_183 0 67 (dk_at dksX1_mustBe_0 8 rfl rfl)
theorem dX1_mustBe_11 : decode cX1_mustBe 11 = .ok (.athrow, 1) := dk_191 (dk_at dksX1_mustBe_0 11 rfl rfl)
theorem dX1_mustBe_12 : decode cX1_mustBe 12 = .ok (.return_, 1) := dk_177 (dk_at dksX1_mustBe_0 12 rfl rfl)
abbrev cX1_ownedBy : ByteArray := prog_1_method_21_code
def yX1_ownedBy : MethodName := ⟨RX1, "ownedBy", "(I)I"⟩
def dkwX1_ownedBy_2 : List UInt8 := [172]
abbrev dktX1_ownedBy_2 : List UInt8 := dkwX1_ownedBy_2 ++ []
def dkwX1_ownedBy_1 : List UInt8 := [50, 180, 0, 160, 27, 160, 0, 9, 4, 29, 120, 167, 0, 4, 3, 128, 61, 132, 3, 1, 167, 255, 216, 28]
abbrev dktX1_ownedBy_1 : List UInt8 := dkwX1_ownedBy_1 ++ dktX1_ownedBy_2
def dkwX1_ownedBy_0 : List UInt8 := [3, 61, 3, 62, 29, 42, 180, 0, 19, 180, 0, 89, 162, 0, 35, 28, 42, 180, 0, 19, 180, 0, 92, 29]
abbrev dktX1_ownedBy_0 : List UInt8 := dkwX1_ownedBy_0 ++ dktX1_ownedBy_1
theorem dksX1_ownedBy_0 : cX1_ownedBy.data.toList.drop 0 = dktX1_ownedBy_0 := by decide +kernel
theorem dksX1_ownedBy_1 : cX1_ownedBy.data.toList.drop 24 = dktX1_ownedBy_1 := dk_seg dksX1_ownedBy_0 24 rfl rfl
theorem dksX1_ownedBy_2 : cX1_ownedBy.data.toList.drop 48 = dktX1_ownedBy_2 := dk_seg dksX1_ownedBy_1 24 rfl rfl
theorem dX1_ownedBy_0 : decode cX1_ownedBy 0 = .ok (.iconst 0, 1) := dk_3 (dk_at dksX1_ownedBy_0 0 rfl rfl)
theorem dX1_ownedBy_1 : decode cX1_ownedBy 1 = .ok (.istore_n 2, 1) := dk_61 (dk_at dksX1_ownedBy_0 1 rfl rfl)
theorem dX1_ownedBy_2 : decode cX1_ownedBy 2 = .ok (.iconst 0, 1) := dk_3 (dk_at dksX1_ownedBy_0 2 rfl rfl)
theorem dX1_ownedBy_3 : decode cX1_ownedBy 3 = .ok (.istore_n 3, 1) := dk_62 (dk_at dksX1_ownedBy_0 3 rfl rfl)
theorem dX1_ownedBy_4 : decode cX1_ownedBy 4 = .ok (.iload_n 3, 1) := dk_29 (dk_at dksX1_ownedBy_0 4 rfl rfl)
theorem dX1_ownedBy_5 : decode cX1_ownedBy 5 = .ok (.aload_n 0, 1) := dk_42 (dk_at dksX1_ownedBy_0 5 rfl rfl)
theorem dX1_ownedBy_6 : decode cX1_ownedBy 6 = .ok (.getfield 19, 3) := dk_180 0 19 (dk_at dksX1_ownedBy_0 6 rfl rfl)
theorem dX1_ownedBy_9 : decode cX1_ownedBy 9 = .ok (.getfield 89, 3) := dk_180 0 89 (dk_at dksX1_ownedBy_0 9 rfl rfl)
theorem dX1_ownedBy_12 : decode cX1_ownedBy 12 = .ok (.if_icmp .ge 35, 3) := dk_162 0 35 (dk_at dksX1_ownedBy_0 12 rfl rfl)
theorem dX1_ownedBy_15 : decode cX1_ownedBy 15 = .ok (.iload_n 2, 1) := dk_28 (dk_at dksX1_ownedBy_0 15 rfl rfl)
theorem dX1_ownedBy_16 : decode cX1_ownedBy 16 = .ok (.aload_n 0, 1) := dk_42 (dk_at dksX1_ownedBy_0 16 rfl rfl)
theorem dX1_ownedBy_17 : decode cX1_ownedBy 17 = .ok (.getfield 19, 3) := dk_180 0 19 (dk_at dksX1_ownedBy_0 17 rfl rfl)
theorem dX1_ownedBy_20 : decode cX1_ownedBy 20 = .ok (.getfield 92, 3) := dk_180 0 92 (dk_at dksX1_ownedBy_0 20 rfl rfl)
theorem dX1_ownedBy_23 : decode cX1_ownedBy 23 = .ok (.iload_n 3, 1) := dk_29 (dk_at dksX1_ownedBy_0 23 rfl rfl)
theorem dX1_ownedBy_24 : decode cX1_ownedBy 24 = .ok (.aaload, 1) := dk_50 (dk_at dksX1_ownedBy_1 0 rfl rfl)
theorem dX1_ownedBy_25 : decode cX1_ownedBy 25 = .ok (.getfield 160, 3) := dk_180 0 160 (dk_at dksX1_ownedBy_1 1 rfl rfl)
theorem dX1_ownedBy_28 : decode cX1_ownedBy 28 = .ok (.iload_n 1, 1) := dk_27 (dk_at dksX1_ownedBy_1 4 rfl rfl)
theorem dX1_ownedBy_29 : decode cX1_ownedBy 29 = .ok (.if_icmp .ne 9, 3) := dk_160 0 9 (dk_at dksX1_ownedBy_1 5 rfl rfl)
theorem dX1_ownedBy_32 : decode cX1_ownedBy 32 = .ok (.iconst 1, 1) := dk_4 (dk_at dksX1_ownedBy_1 8 rfl rfl)
theorem dX1_ownedBy_33 : decode cX1_ownedBy 33 = .ok (.iload_n 3, 1) := dk_29 (dk_at dksX1_ownedBy_1 9 rfl rfl)
theorem dX1_ownedBy_34 : decode cX1_ownedBy 34 = .ok (.ishl, 1) := dk_120 (dk_at dksX1_ownedBy_1 10 rfl rfl)
theorem dX1_ownedBy_35 : decode cX1_ownedBy 35 = .ok (.goto 4, 3) := dk_167 0 4 (dk_at dksX1_ownedBy_1 11 rfl rfl)
theorem dX1_ownedBy_38 : decode cX1_ownedBy 38 = .ok (.iconst 0, 1) := dk_3 (dk_at dksX1_ownedBy_1 14 rfl rfl)
theorem dX1_ownedBy_39 : decode cX1_ownedBy 39 = .ok (.ior, 1) := dk_128 (dk_at dksX1_ownedBy_1 15 rfl rfl)
theorem dX1_ownedBy_40 : decode cX1_ownedBy 40 = .ok (.istore_n 2, 1) := dk_61 (dk_at dksX1_ownedBy_1 16 rfl rfl)
theorem dX1_ownedBy_41 : decode cX1_ownedBy 41 = .ok (.iinc 3 1, 3) := dk_132 3 1 (dk_at dksX1_ownedBy_1 17 rfl rfl)
theorem dX1_ownedBy_44 : decode cX1_ownedBy 44 = .ok (.goto (-40), 3) := dk_167 255 216 (dk_at dksX1_ownedBy_1 20 rfl rfl)
theorem dX1_ownedBy_47 : decode cX1_ownedBy 47 = .ok (.iload_n 2, 1) := dk_28 (dk_at dksX1_ownedBy_1 23 rfl rfl)
theorem dX1_ownedBy_48 : decode cX1_ownedBy 48 = .ok (.ireturn, 1) := dk_172 (dk_at dksX1_ownedBy_2 0 rfl rfl)
abbrev cX1_thing : ByteArray := prog_1_method_23_code
def yX1_thing : MethodName := ⟨RX1, "thing", "(II)I"⟩
def dkwX1_thing_4 : List UInt8 := [187, 0, 68, 89, 183, 0, 70, 191]
abbrev dktX1_thing_4 : List UInt8 := dkwX1_thing_4 ++ []
def dkwX1_thing_3 : List UInt8 := [167, 0, 4, 3, 172, 45, 180, 0, 203, 153, 0, 7, 4, 167, 0, 4, 3, 172, 45, 182, 0, 206, 172]
abbrev dktX1_thing_3 : List UInt8 := dkwX1_thing_3 ++ dktX1_thing_4
def dkwX1_thing_2 : List UInt8 := [45, 180, 0, 160, 172, 45, 180, 0, 155, 172, 45, 180, 0, 197, 172, 45, 180, 0, 200, 153, 0, 7, 4]
abbrev dktX1_thing_2 : List UInt8 := dkwX1_thing_2 ++ dktX1_thing_3
def dkwX1_thing_1 : List UInt8 := [170, 0, 0, 0, 83, 0, 0, 0, 4, 0, 0, 0, 9, 0, 0, 0, 37, 0, 0, 0, 42, 0, 0, 0, 47, 0, 0, 0, 52, 0, 0, 0, 65, 0, 0, 0, 78]
abbrev dktX1_thing_1 : List UInt8 := dkwX1_thing_1 ++ dktX1_thing_2
def dkwX1_thing_0 : List UInt8 := [42, 27, 182, 0, 192, 78, 28, 3, 6, 184, 0, 77, 153, 0, 10, 45, 180, 0, 196, 28, 46, 172, 28]
abbrev dktX1_thing_0 : List UInt8 := dkwX1_thing_0 ++ dktX1_thing_1
theorem dksX1_thing_0 : cX1_thing.data.toList.drop 0 = dktX1_thing_0 := by decide +kernel
theorem dksX1_thing_1 : cX1_thing.data.toList.drop 23 = dktX1_thing_1 := dk_seg dksX1_thing_0 23 rfl rfl
theorem dksX1_thing_2 : cX1_thing.data.toList.drop 60 = dktX1_thing_2 := dk_seg dksX1_thing_1 37 rfl rfl
theorem dksX1_thing_3 : cX1_thing.data.toList.drop 83 = dktX1_thing_3 := dk_seg dksX1_thing_2 23 rfl rfl
theorem dksX1_thing_4 : cX1_thing.data.toList.drop 106 = dktX1_thing_4 := dk_seg dksX1_thing_3 23 rfl rfl
theorem dX1_thing_0 : decode cX1_thing 0 = .ok (.aload_n 0, 1) := dk_42 (dk_at dksX1_thing_0 0 rfl rfl)
theorem dX1_thing_1 : decode cX1_thing 1 = .ok (.iload_n 1, 1) := dk_27 (dk_at dksX1_thing_0 1 rfl rfl)
theorem dX1_thing_2 : decode cX1_thing 2 = .ok (.invokevirtual 192, 3) := dk_182 0 192 (dk_at dksX1_thing_0 2 rfl rfl)
theorem dX1_thing_5 : decode cX1_thing 5 = .ok (.astore_n 3, 1) := dk_78 (dk_at dksX1_thing_0 5 rfl rfl)
theorem dX1_thing_6 : decode cX1_thing 6 = .ok (.iload_n 2, 1) := dk_28 (dk_at dksX1_thing_0 6 rfl rfl)
theorem dX1_thing_7 : decode cX1_thing 7 = .ok (.iconst 0, 1) := dk_3 (dk_at dksX1_thing_0 7 rfl rfl)
theorem dX1_thing_8 : decode cX1_thing 8 = .ok (.iconst 3, 1) := dk_6 (dk_at dksX1_thing_0 8 rfl rfl)
theorem dX1_thing_9 : decode cX1_thing 9 = .ok (.invokestatic 77, 3) := dk_184 0 77 (dk_at dksX1_thing_0 9 rfl rfl)
theorem dX1_thing_12 : decode cX1_thing 12 = .ok (.ifCond .eq 10, 3) := dk_153 0 10 (dk_at dksX1_thing_0 12 rfl rfl)
theorem dX1_thing_15 : decode cX1_thing 15 = .ok (.aload_n 3, 1) := dk_45 (dk_at dksX1_thing_0 15 rfl rfl)
theorem dX1_thing_16 : decode cX1_thing 16 = .ok (.getfield 196, 3) := dk_180 0 196 (dk_at dksX1_thing_0 16 rfl rfl)
theorem dX1_thing_19 : decode cX1_thing 19 = .ok (.iload_n 2, 1) := dk_28 (dk_at dksX1_thing_0 19 rfl rfl)
theorem dX1_thing_20 : decode cX1_thing 20 = .ok (.iaload, 1) := dk_46 (dk_at dksX1_thing_0 20 rfl rfl)
theorem dX1_thing_21 : decode cX1_thing 21 = .ok (.ireturn, 1) := dk_172 (dk_at dksX1_thing_0 21 rfl rfl)
theorem dX1_thing_22 : decode cX1_thing 22 = .ok (.iload_n 2, 1) := dk_28 (dk_at dksX1_thing_0 22 rfl rfl)
theorem dX1_thing_23 : decode cX1_thing 23 = .ok (.tableswitch 83 4 9 #[37, 42, 47, 52, 65, 78], 37) := by decide +kernel
theorem dX1_thing_60 : decode cX1_thing 60 = .ok (.aload_n 3, 1) := dk_45 (dk_at dksX1_thing_2 0 rfl rfl)
theorem dX1_thing_61 : decode cX1_thing 61 = .ok (.getfield 160, 3) := dk_180 0 160 (dk_at dksX1_thing_2 1 rfl rfl)
theorem dX1_thing_64 : decode cX1_thing 64 = .ok (.ireturn, 1) := dk_172 (dk_at dksX1_thing_2 4 rfl rfl)
theorem dX1_thing_65 : decode cX1_thing 65 = .ok (.aload_n 3, 1) := dk_45 (dk_at dksX1_thing_2 5 rfl rfl)
theorem dX1_thing_66 : decode cX1_thing 66 = .ok (.getfield 155, 3) := dk_180 0 155 (dk_at dksX1_thing_2 6 rfl rfl)
theorem dX1_thing_69 : decode cX1_thing 69 = .ok (.ireturn, 1) := dk_172 (dk_at dksX1_thing_2 9 rfl rfl)
theorem dX1_thing_70 : decode cX1_thing 70 = .ok (.aload_n 3, 1) := dk_45 (dk_at dksX1_thing_2 10 rfl rfl)
theorem dX1_thing_71 : decode cX1_thing 71 = .ok (.getfield 197, 3) := dk_180 0 197 (dk_at dksX1_thing_2 11 rfl rfl)
theorem dX1_thing_74 : decode cX1_thing 74 = .ok (.ireturn, 1) := dk_172 (dk_at dksX1_thing_2 14 rfl rfl)
theorem dX1_thing_75 : decode cX1_thing 75 = .ok (.aload_n 3, 1) := dk_45 (dk_at dksX1_thing_2 15 rfl rfl)
theorem dX1_thing_76 : decode cX1_thing 76 = .ok (.getfield 200, 3) := dk_180 0 200 (dk_at dksX1_thing_2 16 rfl rfl)
theorem dX1_thing_79 : decode cX1_thing 79 = .ok (.ifCond .eq 7, 3) := dk_153 0 7 (dk_at dksX1_thing_2 19 rfl rfl)
theorem dX1_thing_82 : decode cX1_thing 82 = .ok (.iconst 1, 1) := dk_4 (dk_at dksX1_thing_2 22 rfl rfl)
theorem dX1_thing_83 : decode cX1_thing 83 = .ok (.goto 4, 3) := dk_167 0 4 (dk_at dksX1_thing_3 0 rfl rfl)
theorem dX1_thing_86 : decode cX1_thing 86 = .ok (.iconst 0, 1) := dk_3 (dk_at dksX1_thing_3 3 rfl rfl)
theorem dX1_thing_87 : decode cX1_thing 87 = .ok (.ireturn, 1) := dk_172 (dk_at dksX1_thing_3 4 rfl rfl)
theorem dX1_thing_88 : decode cX1_thing 88 = .ok (.aload_n 3, 1) := dk_45 (dk_at dksX1_thing_3 5 rfl rfl)
theorem dX1_thing_89 : decode cX1_thing 89 = .ok (.getfield 203, 3) := dk_180 0 203 (dk_at dksX1_thing_3 6 rfl rfl)
theorem dX1_thing_92 : decode cX1_thing 92 = .ok (.ifCond .eq 7, 3) := dk_153 0 7 (dk_at dksX1_thing_3 9 rfl rfl)
theorem dX1_thing_95 : decode cX1_thing 95 = .ok (.iconst 1, 1) := dk_4 (dk_at dksX1_thing_3 12 rfl rfl)
theorem dX1_thing_96 : decode cX1_thing 96 = .ok (.goto 4, 3) := dk_167 0 4 (dk_at dksX1_thing_3 13 rfl rfl)
theorem dX1_thing_99 : decode cX1_thing 99 = .ok (.iconst 0, 1) := dk_3 (dk_at dksX1_thing_3 16 rfl rfl)
theorem dX1_thing_100 : decode cX1_thing 100 = .ok (.ireturn, 1) := dk_172 (dk_at dksX1_thing_3 17 rfl rfl)
theorem dX1_thing_101 : decode cX1_thing 101 = .ok (.aload_n 3, 1) := dk_45 (dk_at dksX1_thing_3 18 rfl rfl)
theorem dX1_thing_102 : decode cX1_thing 102 = .ok (.invokevirtual 206, 3) := dk_182 0 206 (dk_at dksX1_thing_3 19 rfl rfl)
theorem dX1_thing_105 : decode cX1_thing 105 = .ok (.ireturn, 1) := dk_172 (dk_at dksX1_thing_3 22 rfl rfl)
theorem dX1_thing_106 : decode cX1_thing 106 = .ok (.new 68, 3) := dk_187 0 68 (dk_at dksX1_thing_4 0 rfl rfl)
theorem dX1_thing_109 : decode cX1_thing 109 = .ok (.dup, 1) := dk_89 (dk_at dksX1_thing_4 3 rfl rfl)
theorem dX1_thing_110 : decode cX1_thing 110 = .ok (.invokespecial 70, 3) := dk_183 0 70 (dk_at dksX1_thing_4 4 rfl rfl)
theorem dX1_thing_113 : decode cX1_thing 113 = .ok (.athrow, 1) := dk_191 (dk_at dksX1_thing_4 7 rfl rfl)
abbrev cX1_thingAt : ByteArray := prog_1_method_10_code
def yX1_thingAt : MethodName := ⟨RX1, "thingAt", "(I)LBorrowedLuck$Thing;"⟩
def dkwX1_thingAt_1 : List UInt8 := [27, 50, 176]
abbrev dktX1_thingAt_1 : List UInt8 := dkwX1_thingAt_1 ++ []
def dkwX1_thingAt_0 : List UInt8 := [27, 3, 42, 180, 0, 19, 180, 0, 89, 4, 100, 184, 0, 77, 184, 0, 81, 42, 180, 0, 19, 180, 0, 92]
abbrev dktX1_thingAt_0 : List UInt8 := dkwX1_thingAt_0 ++ dktX1_thingAt_1
theorem dksX1_thingAt_0 : cX1_thingAt.data.toList.drop 0 = dktX1_thingAt_0 := by decide +kernel
theorem dksX1_thingAt_1 : cX1_thingAt.data.toList.drop 24 = dktX1_thingAt_1 := dk_seg dksX1_thingAt_0 24 rfl rfl
theorem dX1_thingAt_0 : decode cX1_thingAt 0 = .ok (.iload_n 1, 1) := dk_27 (dk_at dksX1_thingAt_0 0 rfl rfl)
theorem dX1_thingAt_1 : decode cX1_thingAt 1 = .ok (.iconst 0, 1) := dk_3 (dk_at dksX1_thingAt_0 1 rfl rfl)
theorem dX1_thingAt_2 : decode cX1_thingAt 2 = .ok (.aload_n 0, 1) := dk_42 (dk_at dksX1_thingAt_0 2 rfl rfl)
theorem dX1_thingAt_3 : decode cX1_thingAt 3 = .ok (.getfield 19, 3) := dk_180 0 19 (dk_at dksX1_thingAt_0 3 rfl rfl)
theorem dX1_thingAt_6 : decode cX1_thingAt 6 = .ok (.getfield 89, 3) := dk_180 0 89 (dk_at dksX1_thingAt_0 6 rfl rfl)
theorem dX1_thingAt_9 : decode cX1_thingAt 9 = .ok (.iconst 1, 1) := dk_4 (dk_at dksX1_thingAt_0 9 rfl rfl)
theorem dX1_thingAt_10 : decode cX1_thingAt 10 = .ok (.isub, 1) := dk_100 (dk_at dksX1_thingAt_0 10 rfl rfl)
theorem dX1_thingAt_11 : decode cX1_thingAt 11 = .ok (.invokestatic 77, 3) := dk_184 0 77 (dk_at dksX1_thingAt_0 11 rfl rfl)
theorem dX1_thingAt_14 : decode cX1_thingAt 14 = .ok (.invokestatic 81, 3) := dk_184 0 81 (dk_at dksX1_thingAt_0 14 rfl rfl)
theorem dX1_thingAt_17 : decode cX1_thingAt 17 = .ok (.aload_n 0, 1) := dk_42 (dk_at dksX1_thingAt_0 17 rfl rfl)
theorem dX1_thingAt_18 : decode cX1_thingAt 18 = .ok (.getfield 19, 3) := dk_180 0 19 (dk_at dksX1_thingAt_0 18 rfl rfl)
theorem dX1_thingAt_21 : decode cX1_thingAt 21 = .ok (.getfield 92, 3) := dk_180 0 92 (dk_at dksX1_thingAt_0 21 rfl rfl)
theorem dX1_thingAt_24 : decode cX1_thingAt 24 = .ok (.iload_n 1, 1) := dk_27 (dk_at dksX1_thingAt_1 0 rfl rfl)
theorem dX1_thingAt_25 : decode cX1_thingAt 25 = .ok (.aaload, 1) := dk_50 (dk_at dksX1_thingAt_1 1 rfl rfl)
theorem dX1_thingAt_26 : decode cX1_thingAt 26 = .ok (.areturn, 1) := dk_176 (dk_at dksX1_thingAt_1 2 rfl rfl)
abbrev cX1_gain : ByteArray := prog_1_method_24_code
def yX1_gain : MethodName := ⟨RX1, "gain", "(II)I"⟩
def dkwX1_gain_0 : List UInt8 := [42, 27, 182, 0, 163, 87, 42, 28, 182, 0, 192, 87, 42, 180, 0, 19, 27, 28, 182, 0, 209, 172]
abbrev dktX1_gain_0 : List UInt8 := dkwX1_gain_0 ++ []
theorem dksX1_gain_0 : cX1_gain.data.toList.drop 0 = dktX1_gain_0 := by decide +kernel
theorem dX1_gain_0 : decode cX1_gain 0 = .ok (.aload_n 0, 1) := dk_42 (dk_at dksX1_gain_0 0 rfl rfl)
theorem dX1_gain_1 : decode cX1_gain 1 = .ok (.iload_n 1, 1) := dk_27 (dk_at dksX1_gain_0 1 rfl rfl)
theorem dX1_gain_2 : decode cX1_gain 2 = .ok (.invokevirtual 163, 3) := dk_182 0 163 (dk_at dksX1_gain_0 2 rfl rfl)
theorem dX1_gain_5 : decode cX1_gain 5 = .ok (.pop, 1) := dk_87 (dk_at dksX1_gain_0 5 rfl rfl)
theorem dX1_gain_6 : decode cX1_gain 6 = .ok (.aload_n 0, 1) := dk_42 (dk_at dksX1_gain_0 6 rfl rfl)
theorem dX1_gain_7 : decode cX1_gain 7 = .ok (.iload_n 2, 1) := dk_28 (dk_at dksX1_gain_0 7 rfl rfl)
theorem dX1_gain_8 : decode cX1_gain 8 = .ok (.invokevirtual 192, 3) := dk_182 0 192 (dk_at dksX1_gain_0 8 rfl rfl)
theorem dX1_gain_11 : decode cX1_gain 11 = .ok (.pop, 1) := dk_87 (dk_at dksX1_gain_0 11 rfl rfl)
theorem dX1_gain_12 : decode cX1_gain 12 = .ok (.aload_n 0, 1) := dk_42 (dk_at dksX1_gain_0 12 rfl rfl)
theorem dX1_gain_13 : decode cX1_gain 13 = .ok (.getfield 19, 3) := dk_180 0 19 (dk_at dksX1_gain_0 13 rfl rfl)
theorem dX1_gain_16 : decode cX1_gain 16 = .ok (.iload_n 1, 1) := dk_27 (dk_at dksX1_gain_0 16 rfl rfl)
theorem dX1_gain_17 : decode cX1_gain 17 = .ok (.iload_n 2, 1) := dk_28 (dk_at dksX1_gain_0 17 rfl rfl)
theorem dX1_gain_18 : decode cX1_gain 18 = .ok (.invokevirtual 209, 3) := dk_182 0 209 (dk_at dksX1_gain_0 18 rfl rfl)
theorem dX1_gain_21 : decode cX1_gain 21 = .ok (.ireturn, 1) := dk_172 (dk_at dksX1_gain_0 21 rfl rfl)
abbrev cX1_flows : ByteArray := prog_1_method_25_code
def yX1_flows : MethodName := ⟨RX1, "flows", "(III)I"⟩
def dkwX1_flows_1 : List UInt8 := [182, 0, 216, 172]
abbrev dktX1_flows_1 : List UInt8 := dkwX1_flows_1 ++ []
def dkwX1_flows_0 : List UInt8 := [42, 27, 182, 0, 163, 87, 42, 28, 182, 0, 192, 87, 29, 184, 0, 213, 42, 180, 0, 19, 27, 28, 29]
abbrev dktX1_flows_0 : List UInt8 := dkwX1_flows_0 ++ dktX1_flows_1
theorem dksX1_flows_0 : cX1_flows.data.toList.drop 0 = dktX1_flows_0 := by decide +kernel
theorem dksX1_flows_1 : cX1_flows.data.toList.drop 23 = dktX1_flows_1 := dk_seg dksX1_flows_0 23 rfl rfl
theorem dX1_flows_0 : decode cX1_flows 0 = .ok (.aload_n 0, 1) := dk_42 (dk_at dksX1_flows_0 0 rfl rfl)
theorem dX1_flows_1 : decode cX1_flows 1 = .ok (.iload_n 1, 1) := dk_27 (dk_at dksX1_flows_0 1 rfl rfl)
theorem dX1_flows_2 : decode cX1_flows 2 = .ok (.invokevirtual 163, 3) := dk_182 0 163 (dk_at dksX1_flows_0 2 rfl rfl)
theorem dX1_flows_5 : decode cX1_flows 5 = .ok (.pop, 1) := dk_87 (dk_at dksX1_flows_0 5 rfl rfl)
theorem dX1_flows_6 : decode cX1_flows 6 = .ok (.aload_n 0, 1) := dk_42 (dk_at dksX1_flows_0 6 rfl rfl)
theorem dX1_flows_7 : decode cX1_flows 7 = .ok (.iload_n 2, 1) := dk_28 (dk_at dksX1_flows_0 7 rfl rfl)
theorem dX1_flows_8 : decode cX1_flows 8 = .ok (.invokevirtual 192, 3) := dk_182 0 192 (dk_at dksX1_flows_0 8 rfl rfl)
theorem dX1_flows_11 : decode cX1_flows 11 = .ok (.pop, 1) := dk_87 (dk_at dksX1_flows_0 11 rfl rfl)
theorem dX1_flows_12 : decode cX1_flows 12 = .ok (.iload_n 3, 1) := dk_29 (dk_at dksX1_flows_0 12 rfl rfl)
theorem dX1_flows_13 : decode cX1_flows 13 = .ok (.invokestatic 213, 3) := dk_184 0 213 (dk_at dksX1_flows_0 13 rfl rfl)
theorem dX1_flows_16 : decode cX1_flows 16 = .ok (.aload_n 0, 1) := dk_42 (dk_at dksX1_flows_0 16 rfl rfl)
theorem dX1_flows_17 : decode cX1_flows 17 = .ok (.getfield 19, 3) := dk_180 0 19 (dk_at dksX1_flows_0 17 rfl rfl)
theorem dX1_flows_20 : decode cX1_flows 20 = .ok (.iload_n 1, 1) := dk_27 (dk_at dksX1_flows_0 20 rfl rfl)
theorem dX1_flows_21 : decode cX1_flows 21 = .ok (.iload_n 2, 1) := dk_28 (dk_at dksX1_flows_0 21 rfl rfl)
theorem dX1_flows_22 : decode cX1_flows 22 = .ok (.iload_n 3, 1) := dk_29 (dk_at dksX1_flows_0 22 rfl rfl)
theorem dX1_flows_23 : decode cX1_flows 23 = .ok (.invokevirtual 216, 3) := dk_182 0 216 (dk_at dksX1_flows_1 0 rfl rfl)
theorem dX1_flows_26 : decode cX1_flows 26 = .ok (.ireturn, 1) := dk_172 (dk_at dksX1_flows_1 3 rfl rfl)
abbrev cX1_isSort : ByteArray := prog_1_method_11_code
def yX1_isSort : MethodName := ⟨RX1, "isSort", "(I)V"⟩
def dkwX1_isSort_0 : List UInt8 := [26, 3, 6, 184, 0, 77, 184, 0, 81, 177]
abbrev dktX1_isSort_0 : List UInt8 := dkwX1_isSort_0 ++ []
theorem dksX1_isSort_0 : cX1_isSort.data.toList.drop 0 = dktX1_isSort_0 := by decide +kernel
theorem dX1_isSort_0 : decode cX1_isSort 0 = .ok (.iload_n 0, 1) := dk_26 (dk_at dksX1_isSort_0 0 rfl rfl)
theorem dX1_isSort_1 : decode cX1_isSort 1 = .ok (.iconst 0, 1) := dk_3 (dk_at dksX1_isSort_0 1 rfl rfl)
theorem dX1_isSort_2 : decode cX1_isSort 2 = .ok (.iconst 3, 1) := dk_6 (dk_at dksX1_isSort_0 2 rfl rfl)
theorem dX1_isSort_3 : decode cX1_isSort 3 = .ok (.invokestatic 77, 3) := dk_184 0 77 (dk_at dksX1_isSort_0 3 rfl rfl)
theorem dX1_isSort_6 : decode cX1_isSort 6 = .ok (.invokestatic 81, 3) := dk_184 0 81 (dk_at dksX1_isSort_0 6 rfl rfl)
theorem dX1_isSort_9 : decode cX1_isSort 9 = .ok (.return_, 1) := dk_177 (dk_at dksX1_isSort_0 9 rfl rfl)
abbrev cX1_lend : ByteArray := prog_1_method_27_code
def yX1_lend : MethodName := ⟨RX1, "lend", "(II)I"⟩
def dkwX1_lend_4 : List UInt8 := [180, 0, 155, 54, 4, 45, 28, 181, 0, 155, 21, 4, 172]
abbrev dktX1_lend_4 : List UInt8 := dkwX1_lend_4 ++ []
def dkwX1_lend_3 : List UInt8 := [159, 0, 11, 28, 45, 180, 0, 160, 160, 0, 7, 4, 167, 0, 4, 3, 184, 0, 231, 42, 182, 0, 234, 45]
abbrev dktX1_lend_3 : List UInt8 := dkwX1_lend_3 ++ dktX1_lend_4
def dkwX1_lend_2 : List UInt8 := [180, 0, 85, 45, 180, 0, 155, 50, 180, 0, 178, 153, 0, 22, 45, 180, 0, 155, 45, 180, 0, 160]
abbrev dktX1_lend_2 : List UInt8 := dkwX1_lend_2 ++ dktX1_lend_3
def dkwX1_lend_1 : List UInt8 := [3, 184, 0, 228, 45, 180, 0, 155, 2, 159, 0, 51, 45, 180, 0, 200, 154, 0, 44, 42, 180, 0, 19]
abbrev dktX1_lend_1 : List UInt8 := dkwX1_lend_1 ++ dktX1_lend_2
def dkwX1_lend_0 : List UInt8 := [42, 27, 182, 0, 192, 78, 42, 28, 182, 0, 163, 87, 45, 180, 0, 155, 28, 159, 0, 7, 4, 167, 0, 4]
abbrev dktX1_lend_0 : List UInt8 := dkwX1_lend_0 ++ dktX1_lend_1
theorem dksX1_lend_0 : cX1_lend.data.toList.drop 0 = dktX1_lend_0 := by decide +kernel
theorem dksX1_lend_1 : cX1_lend.data.toList.drop 24 = dktX1_lend_1 := dk_seg dksX1_lend_0 24 rfl rfl
theorem dksX1_lend_2 : cX1_lend.data.toList.drop 47 = dktX1_lend_2 := dk_seg dksX1_lend_1 23 rfl rfl
theorem dksX1_lend_3 : cX1_lend.data.toList.drop 69 = dktX1_lend_3 := dk_seg dksX1_lend_2 22 rfl rfl
theorem dksX1_lend_4 : cX1_lend.data.toList.drop 93 = dktX1_lend_4 := dk_seg dksX1_lend_3 24 rfl rfl
theorem dX1_lend_0 : decode cX1_lend 0 = .ok (.aload_n 0, 1) := dk_42 (dk_at dksX1_lend_0 0 rfl rfl)
theorem dX1_lend_1 : decode cX1_lend 1 = .ok (.iload_n 1, 1) := dk_27 (dk_at dksX1_lend_0 1 rfl rfl)
theorem dX1_lend_2 : decode cX1_lend 2 = .ok (.invokevirtual 192, 3) := dk_182 0 192 (dk_at dksX1_lend_0 2 rfl rfl)
theorem dX1_lend_5 : decode cX1_lend 5 = .ok (.astore_n 3, 1) := dk_78 (dk_at dksX1_lend_0 5 rfl rfl)
theorem dX1_lend_6 : decode cX1_lend 6 = .ok (.aload_n 0, 1) := dk_42 (dk_at dksX1_lend_0 6 rfl rfl)
theorem dX1_lend_7 : decode cX1_lend 7 = .ok (.iload_n 2, 1) := dk_28 (dk_at dksX1_lend_0 7 rfl rfl)
theorem dX1_lend_8 : decode cX1_lend 8 = .ok (.invokevirtual 163, 3) := dk_182 0 163 (dk_at dksX1_lend_0 8 rfl rfl)
theorem dX1_lend_11 : decode cX1_lend 11 = .ok (.pop, 1) := dk_87 (dk_at dksX1_lend_0 11 rfl rfl)
theorem dX1_lend_12 : decode cX1_lend 12 = .ok (.aload_n 3, 1) := dk_45 (dk_at dksX1_lend_0 12 rfl rfl)
theorem dX1_lend_13 : decode cX1_lend 13 = .ok (.getfield 155, 3) := dk_180 0 155 (dk_at dksX1_lend_0 13 rfl rfl)
theorem dX1_lend_16 : decode cX1_lend 16 = .ok (.iload_n 2, 1) := dk_28 (dk_at dksX1_lend_0 16 rfl rfl)
theorem dX1_lend_17 : decode cX1_lend 17 = .ok (.if_icmp .eq 7, 3) := dk_159 0 7 (dk_at dksX1_lend_0 17 rfl rfl)
theorem dX1_lend_20 : decode cX1_lend 20 = .ok (.iconst 1, 1) := dk_4 (dk_at dksX1_lend_0 20 rfl rfl)
theorem dX1_lend_21 : decode cX1_lend 21 = .ok (.goto 4, 3) := dk_167 0 4 (dk_at dksX1_lend_0 21 rfl rfl)
theorem dX1_lend_24 : decode cX1_lend 24 = .ok (.iconst 0, 1) := dk_3 (dk_at dksX1_lend_1 0 rfl rfl)
theorem dX1_lend_25 : decode cX1_lend 25 = .ok (.invokestatic 228, 3) := dk_184 0 228 (dk_at dksX1_lend_1 1 rfl rfl)
theorem dX1_lend_28 : decode cX1_lend 28 = .ok (.aload_n 3, 1) := dk_45 (dk_at dksX1_lend_1 4 rfl rfl)
theorem dX1_lend_29 : decode cX1_lend 29 = .ok (.getfield 155, 3) := dk_180 0 155 (dk_at dksX1_lend_1 5 rfl rfl)
theorem dX1_lend_32 : decode cX1_lend 32 = .ok (.iconst (-1), 1) := dk_2 (dk_at dksX1_lend_1 8 rfl rfl)
theorem dX1_lend_33 : decode cX1_lend 33 = .ok (.if_icmp .eq 51, 3) := dk_159 0 51 (dk_at dksX1_lend_1 9 rfl rfl)
theorem dX1_lend_36 : decode cX1_lend 36 = .ok (.aload_n 3, 1) := dk_45 (dk_at dksX1_lend_1 12 rfl rfl)
theorem dX1_lend_37 : decode cX1_lend 37 = .ok (.getfield 200, 3) := dk_180 0 200 (dk_at dksX1_lend_1 13 rfl rfl)
theorem dX1_lend_40 : decode cX1_lend 40 = .ok (.ifCond .ne 44, 3) := dk_154 0 44 (dk_at dksX1_lend_1 16 rfl rfl)
theorem dX1_lend_43 : decode cX1_lend 43 = .ok (.aload_n 0, 1) := dk_42 (dk_at dksX1_lend_1 19 rfl rfl)
theorem dX1_lend_44 : decode cX1_lend 44 = .ok (.getfield 19, 3) := dk_180 0 19 (dk_at dksX1_lend_1 20 rfl rfl)
theorem dX1_lend_47 : decode cX1_lend 47 = .ok (.getfield 85, 3) := dk_180 0 85 (dk_at dksX1_lend_2 0 rfl rfl)
theorem dX1_lend_50 : decode cX1_lend 50 = .ok (.aload_n 3, 1) := dk_45 (dk_at dksX1_lend_2 3 rfl rfl)
theorem dX1_lend_51 : decode cX1_lend 51 = .ok (.getfield 155, 3) := dk_180 0 155 (dk_at dksX1_lend_2 4 rfl rfl)
theorem dX1_lend_54 : decode cX1_lend 54 = .ok (.aaload, 1) := dk_50 (dk_at dksX1_lend_2 7 rfl rfl)
theorem dX1_lend_55 : decode cX1_lend 55 = .ok (.getfield 178, 3) := dk_180 0 178 (dk_at dksX1_lend_2 8 rfl rfl)
theorem dX1_lend_58 : decode cX1_lend 58 = .ok (.ifCond .eq 22, 3) := dk_153 0 22 (dk_at dksX1_lend_2 11 rfl rfl)
theorem dX1_lend_61 : decode cX1_lend 61 = .ok (.aload_n 3, 1) := dk_45 (dk_at dksX1_lend_2 14 rfl rfl)
theorem dX1_lend_62 : decode cX1_lend 62 = .ok (.getfield 155, 3) := dk_180 0 155 (dk_at dksX1_lend_2 15 rfl rfl)
theorem dX1_lend_65 : decode cX1_lend 65 = .ok (.aload_n 3, 1) := dk_45 (dk_at dksX1_lend_2 18 rfl rfl)
theorem dX1_lend_66 : decode cX1_lend 66 = .ok (.getfield 160, 3) := dk_180 0 160 (dk_at dksX1_lend_2 19 rfl rfl)
theorem dX1_lend_69 : decode cX1_lend 69 = .ok (.if_icmp .eq 11, 3) := dk_159 0 11 (dk_at dksX1_lend_3 0 rfl rfl)
theorem dX1_lend_72 : decode cX1_lend 72 = .ok (.iload_n 2, 1) := dk_28 (dk_at dksX1_lend_3 3 rfl rfl)
theorem dX1_lend_73 : decode cX1_lend 73 = .ok (.aload_n 3, 1) := dk_45 (dk_at dksX1_lend_3 4 rfl rfl)
theorem dX1_lend_74 : decode cX1_lend 74 = .ok (.getfield 160, 3) := dk_180 0 160 (dk_at dksX1_lend_3 5 rfl rfl)
theorem dX1_lend_77 : decode cX1_lend 77 = .ok (.if_icmp .ne 7, 3) := dk_160 0 7 (dk_at dksX1_lend_3 8 rfl rfl)
theorem dX1_lend_80 : decode cX1_lend 80 = .ok (.iconst 1, 1) := dk_4 (dk_at dksX1_lend_3 11 rfl rfl)
theorem dX1_lend_81 : decode cX1_lend 81 = .ok (.goto 4, 3) := dk_167 0 4 (dk_at dksX1_lend_3 12 rfl rfl)
theorem dX1_lend_84 : decode cX1_lend 84 = .ok (.iconst 0, 1) := dk_3 (dk_at dksX1_lend_3 15 rfl rfl)
theorem dX1_lend_85 : decode cX1_lend 85 = .ok (.invokestatic 231, 3) := dk_184 0 231 (dk_at dksX1_lend_3 16 rfl rfl)
theorem dX1_lend_88 : decode cX1_lend 88 = .ok (.aload_n 0, 1) := dk_42 (dk_at dksX1_lend_3 19 rfl rfl)
theorem dX1_lend_89 : decode cX1_lend 89 = .ok (.invokevirtual 234, 3) := dk_182 0 234 (dk_at dksX1_lend_3 20 rfl rfl)
theorem dX1_lend_92 : decode cX1_lend 92 = .ok (.aload_n 3, 1) := dk_45 (dk_at dksX1_lend_3 23 rfl rfl)
theorem dX1_lend_93 : decode cX1_lend 93 = .ok (.getfield 155, 3) := dk_180 0 155 (dk_at dksX1_lend_4 0 rfl rfl)
theorem dX1_lend_96 : decode cX1_lend 96 = .ok (.istore 4, 2) := dk_54 4 (dk_at dksX1_lend_4 3 rfl rfl)
theorem dX1_lend_98 : decode cX1_lend 98 = .ok (.aload_n 3, 1) := dk_45 (dk_at dksX1_lend_4 5 rfl rfl)
theorem dX1_lend_99 : decode cX1_lend 99 = .ok (.iload_n 2, 1) := dk_28 (dk_at dksX1_lend_4 6 rfl rfl)
theorem dX1_lend_100 : decode cX1_lend 100 = .ok (.putfield 155, 3) := dk_181 0 155 (dk_at dksX1_lend_4 7 rfl rfl)
theorem dX1_lend_103 : decode cX1_lend 103 = .ok (.iload 4, 2) := dk_21 4 (dk_at dksX1_lend_4 10 rfl rfl)
theorem dX1_lend_105 : decode cX1_lend 105 = .ok (.ireturn, 1) := dk_172 (dk_at dksX1_lend_4 12 rfl rfl)
abbrev cX1_must : ByteArray := prog_1_method_3_code
def yX1_must : MethodName := ⟨RX1, "must", "(Z)V"⟩
def dkwX1_must_0 : List UInt8 := [26, 154, 0, 11, 187, 0, 59, 89, 183, 0, 61, 191, 177]
abbrev dktX1_must_0 : List UInt8 := dkwX1_must_0 ++ []
theorem dksX1_must_0 : cX1_must.data.toList.drop 0 = dktX1_must_0 := by decide +kernel
theorem dX1_must_0 : decode cX1_must 0 = .ok (.iload_n 0, 1) := dk_26 (dk_at dksX1_must_0 0 rfl rfl)
theorem dX1_must_1 : decode cX1_must 1 = .ok (.ifCond .ne 11, 3) := dk_154 0 11 (dk_at dksX1_must_0 1 rfl rfl)
theorem dX1_must_4 : decode cX1_must 4 = .ok (.new 59, 3) := dk_187 0 59 (dk_at dksX1_must_0 4 rfl rfl)
theorem dX1_must_7 : decode cX1_must 7 = .ok (.dup, 1) := dk_89 (dk_at dksX1_must_0 7 rfl rfl)
theorem dX1_must_8 : decode cX1_must 8 = .ok (.invokespecial 61, 3) := dk_183 0 61 (dk_at dksX1_must_0 8 rfl rfl)
theorem dX1_must_11 : decode cX1_must 11 = .ok (.athrow, 1) := dk_191 (dk_at dksX1_must_0 11 rfl rfl)
theorem dX1_must_12 : decode cX1_must 12 = .ok (.return_, 1) := dk_177 (dk_at dksX1_must_0 12 rfl rfl)
abbrev cX1_can : ByteArray := prog_1_method_7_code
def yX1_can : MethodName := ⟨RX1, "can", "(Z)V"⟩
def dkwX1_can_0 : List UInt8 := [26, 154, 0, 11, 187, 0, 71, 89, 183, 0, 73, 191, 177]
abbrev dktX1_can_0 : List UInt8 := dkwX1_can_0 ++ []
theorem dksX1_can_0 : cX1_can.data.toList.drop 0 = dktX1_can_0 := by decide +kernel
theorem dX1_can_0 : decode cX1_can 0 = .ok (.iload_n 0, 1) := dk_26 (dk_at dksX1_can_0 0 rfl rfl)
theorem dX1_can_1 : decode cX1_can 1 = .ok (.ifCond .ne 11, 3) := dk_154 0 11 (dk_at dksX1_can_0 1 rfl rfl)
theorem dX1_can_4 : decode cX1_can 4 = .ok (.new 71, 3) := dk_187 0 71 (dk_at dksX1_can_0 4 rfl rfl)
theorem dX1_can_7 : decode cX1_can 7 = .ok (.dup, 1) := dk_89 (dk_at dksX1_can_0 7 rfl rfl)
theorem dX1_can_8 : decode cX1_can 8 = .ok (.invokespecial 73, 3) := dk_183 0 73 (dk_at dksX1_can_0 8 rfl rfl)
theorem dX1_can_11 : decode cX1_can 11 = .ok (.athrow, 1) := dk_191 (dk_at dksX1_can_0 11 rfl rfl)
theorem dX1_can_12 : decode cX1_can 12 = .ok (.return_, 1) := dk_177 (dk_at dksX1_can_0 12 rfl rfl)
abbrev cX1_remembers : ByteArray := prog_1_method_26_code
def yX1_remembers : MethodName := ⟨RX1, "remembers", "()V"⟩
def dkwX1_remembers_1 : List UInt8 := [16, 12, 112, 181, 0, 220, 42, 16, 12, 42, 180, 0, 134, 4, 96, 184, 0, 223, 181, 0, 134, 177]
abbrev dktX1_remembers_1 : List UInt8 := dkwX1_remembers_1 ++ []
def dkwX1_remembers_0 : List UInt8 := [42, 180, 0, 29, 42, 180, 0, 220, 50, 42, 180, 0, 19, 182, 0, 130, 42, 42, 180, 0, 220, 4, 96]
abbrev dktX1_remembers_0 : List UInt8 := dkwX1_remembers_0 ++ dktX1_remembers_1
theorem dksX1_remembers_0 : cX1_remembers.data.toList.drop 0 = dktX1_remembers_0 := by decide +kernel
theorem dksX1_remembers_1 : cX1_remembers.data.toList.drop 23 = dktX1_remembers_1 := dk_seg dksX1_remembers_0 23 rfl rfl
theorem dX1_remembers_0 : decode cX1_remembers 0 = .ok (.aload_n 0, 1) := dk_42 (dk_at dksX1_remembers_0 0 rfl rfl)
theorem dX1_remembers_1 : decode cX1_remembers 1 = .ok (.getfield 29, 3) := dk_180 0 29 (dk_at dksX1_remembers_0 1 rfl rfl)
theorem dX1_remembers_4 : decode cX1_remembers 4 = .ok (.aload_n 0, 1) := dk_42 (dk_at dksX1_remembers_0 4 rfl rfl)
theorem dX1_remembers_5 : decode cX1_remembers 5 = .ok (.getfield 220, 3) := dk_180 0 220 (dk_at dksX1_remembers_0 5 rfl rfl)
theorem dX1_remembers_8 : decode cX1_remembers 8 = .ok (.aaload, 1) := dk_50 (dk_at dksX1_remembers_0 8 rfl rfl)
theorem dX1_remembers_9 : decode cX1_remembers 9 = .ok (.aload_n 0, 1) := dk_42 (dk_at dksX1_remembers_0 9 rfl rfl)
theorem dX1_remembers_10 : decode cX1_remembers 10 = .ok (.getfield 19, 3) := dk_180 0 19 (dk_at dksX1_remembers_0 10 rfl rfl)
theorem dX1_remembers_13 : decode cX1_remembers 13 = .ok (.invokevirtual 130, 3) := dk_182 0 130 (dk_at dksX1_remembers_0 13 rfl rfl)
theorem dX1_remembers_16 : decode cX1_remembers 16 = .ok (.aload_n 0, 1) := dk_42 (dk_at dksX1_remembers_0 16 rfl rfl)
theorem dX1_remembers_17 : decode cX1_remembers 17 = .ok (.aload_n 0, 1) := dk_42 (dk_at dksX1_remembers_0 17 rfl rfl)
theorem dX1_remembers_18 : decode cX1_remembers 18 = .ok (.getfield 220, 3) := dk_180 0 220 (dk_at dksX1_remembers_0 18 rfl rfl)
theorem dX1_remembers_21 : decode cX1_remembers 21 = .ok (.iconst 1, 1) := dk_4 (dk_at dksX1_remembers_0 21 rfl rfl)
theorem dX1_remembers_22 : decode cX1_remembers 22 = .ok (.iadd, 1) := dk_96 (dk_at dksX1_remembers_0 22 rfl rfl)
theorem dX1_remembers_23 : decode cX1_remembers 23 = .ok (.bipush 12, 2) := dk_16 12 (dk_at dksX1_remembers_1 0 rfl rfl)
theorem dX1_remembers_25 : decode cX1_remembers 25 = .ok (.irem, 1) := dk_112 (dk_at dksX1_remembers_1 2 rfl rfl)
theorem dX1_remembers_26 : decode cX1_remembers 26 = .ok (.putfield 220, 3) := dk_181 0 220 (dk_at dksX1_remembers_1 3 rfl rfl)
theorem dX1_remembers_29 : decode cX1_remembers 29 = .ok (.aload_n 0, 1) := dk_42 (dk_at dksX1_remembers_1 6 rfl rfl)
theorem dX1_remembers_30 : decode cX1_remembers 30 = .ok (.bipush 12, 2) := dk_16 12 (dk_at dksX1_remembers_1 7 rfl rfl)
theorem dX1_remembers_32 : decode cX1_remembers 32 = .ok (.aload_n 0, 1) := dk_42 (dk_at dksX1_remembers_1 9 rfl rfl)
theorem dX1_remembers_33 : decode cX1_remembers 33 = .ok (.getfield 134, 3) := dk_180 0 134 (dk_at dksX1_remembers_1 10 rfl rfl)
theorem dX1_remembers_36 : decode cX1_remembers 36 = .ok (.iconst 1, 1) := dk_4 (dk_at dksX1_remembers_1 13 rfl rfl)
theorem dX1_remembers_37 : decode cX1_remembers 37 = .ok (.iadd, 1) := dk_96 (dk_at dksX1_remembers_1 14 rfl rfl)
theorem dX1_remembers_38 : decode cX1_remembers 38 = .ok (.invokestatic 223, 3) := dk_184 0 223 (dk_at dksX1_remembers_1 15 rfl rfl)
theorem dX1_remembers_41 : decode cX1_remembers 41 = .ok (.putfield 134, 3) := dk_181 0 134 (dk_at dksX1_remembers_1 18 rfl rfl)
theorem dX1_remembers_44 : decode cX1_remembers 44 = .ok (.return_, 1) := dk_177 (dk_at dksX1_remembers_1 21 rfl rfl)
abbrev cX1_wed : ByteArray := prog_1_method_28_code
def yX1_wed : MethodName := ⟨RX1, "wed", "(II)I"⟩
def dkwX1_wed_1 : List UInt8 := [3, 184, 0, 231, 42, 182, 0, 234, 42, 180, 0, 19, 27, 28, 182, 0, 237, 172]
abbrev dktX1_wed_1 : List UInt8 := dkwX1_wed_1 ++ []
def dkwX1_wed_0 : List UInt8 := [42, 27, 182, 0, 163, 87, 42, 28, 182, 0, 192, 78, 45, 180, 0, 155, 27, 160, 0, 7, 4, 167, 0, 4]
abbrev dktX1_wed_0 : List UInt8 := dkwX1_wed_0 ++ dktX1_wed_1
theorem dksX1_wed_0 : cX1_wed.data.toList.drop 0 = dktX1_wed_0 := by decide +kernel
theorem dksX1_wed_1 : cX1_wed.data.toList.drop 24 = dktX1_wed_1 := dk_seg dksX1_wed_0 24 rfl rfl
theorem dX1_wed_0 : decode cX1_wed 0 = .ok (.aload_n 0, 1) := dk_42 (dk_at dksX1_wed_0 0 rfl rfl)
theorem dX1_wed_1 : decode cX1_wed 1 = .ok (.iload_n 1, 1) := dk_27 (dk_at dksX1_wed_0 1 rfl rfl)
theorem dX1_wed_2 : decode cX1_wed 2 = .ok (.invokevirtual 163, 3) := dk_182 0 163 (dk_at dksX1_wed_0 2 rfl rfl)
theorem dX1_wed_5 : decode cX1_wed 5 = .ok (.pop, 1) := dk_87 (dk_at dksX1_wed_0 5 rfl rfl)
theorem dX1_wed_6 : decode cX1_wed 6 = .ok (.aload_n 0, 1) := dk_42 (dk_at dksX1_wed_0 6 rfl rfl)
theorem dX1_wed_7 : decode cX1_wed 7 = .ok (.iload_n 2, 1) := dk_28 (dk_at dksX1_wed_0 7 rfl rfl)
theorem dX1_wed_8 : decode cX1_wed 8 = .ok (.invokevirtual 192, 3) := dk_182 0 192 (dk_at dksX1_wed_0 8 rfl rfl)
theorem dX1_wed_11 : decode cX1_wed 11 = .ok (.astore_n 3, 1) := dk_78 (dk_at dksX1_wed_0 11 rfl rfl)
theorem dX1_wed_12 : decode cX1_wed 12 = .ok (.aload_n 3, 1) := dk_45 (dk_at dksX1_wed_0 12 rfl rfl)
theorem dX1_wed_13 : decode cX1_wed 13 = .ok (.getfield 155, 3) := dk_180 0 155 (dk_at dksX1_wed_0 13 rfl rfl)
theorem dX1_wed_16 : decode cX1_wed 16 = .ok (.iload_n 1, 1) := dk_27 (dk_at dksX1_wed_0 16 rfl rfl)
theorem dX1_wed_17 : decode cX1_wed 17 = .ok (.if_icmp .ne 7, 3) := dk_160 0 7 (dk_at dksX1_wed_0 17 rfl rfl)
theorem dX1_wed_20 : decode cX1_wed 20 = .ok (.iconst 1, 1) := dk_4 (dk_at dksX1_wed_0 20 rfl rfl)
theorem dX1_wed_21 : decode cX1_wed 21 = .ok (.goto 4, 3) := dk_167 0 4 (dk_at dksX1_wed_0 21 rfl rfl)
theorem dX1_wed_24 : decode cX1_wed 24 = .ok (.iconst 0, 1) := dk_3 (dk_at dksX1_wed_1 0 rfl rfl)
theorem dX1_wed_25 : decode cX1_wed 25 = .ok (.invokestatic 231, 3) := dk_184 0 231 (dk_at dksX1_wed_1 1 rfl rfl)
theorem dX1_wed_28 : decode cX1_wed 28 = .ok (.aload_n 0, 1) := dk_42 (dk_at dksX1_wed_1 4 rfl rfl)
theorem dX1_wed_29 : decode cX1_wed 29 = .ok (.invokevirtual 234, 3) := dk_182 0 234 (dk_at dksX1_wed_1 5 rfl rfl)
theorem dX1_wed_32 : decode cX1_wed 32 = .ok (.aload_n 0, 1) := dk_42 (dk_at dksX1_wed_1 8 rfl rfl)
theorem dX1_wed_33 : decode cX1_wed 33 = .ok (.getfield 19, 3) := dk_180 0 19 (dk_at dksX1_wed_1 9 rfl rfl)
theorem dX1_wed_36 : decode cX1_wed 36 = .ok (.iload_n 1, 1) := dk_27 (dk_at dksX1_wed_1 12 rfl rfl)
theorem dX1_wed_37 : decode cX1_wed 37 = .ok (.iload_n 2, 1) := dk_28 (dk_at dksX1_wed_1 13 rfl rfl)
theorem dX1_wed_38 : decode cX1_wed 38 = .ok (.invokevirtual 237, 3) := dk_182 0 237 (dk_at dksX1_wed_1 14 rfl rfl)
theorem dX1_wed_41 : decode cX1_wed 41 = .ok (.ireturn, 1) := dk_172 (dk_at dksX1_wed_1 17 rfl rfl)
abbrev cX1_pawn : ByteArray := prog_1_method_29_code
def yX1_pawn : MethodName := ⟨RX1, "pawn", "(I)I"⟩
def dkwX1_pawn_3 : List UInt8 := [2, 181, 0, 155, 45, 180, 0, 172, 172]
abbrev dktX1_pawn_3 : List UInt8 := dkwX1_pawn_3 ++ []
def dkwX1_pawn_2 : List UInt8 := [78, 45, 17, 39, 15, 45, 180, 0, 172, 42, 180, 0, 19, 180, 0, 240, 96, 184, 0, 223, 181, 0, 172, 44]
abbrev dktX1_pawn_2 : List UInt8 := dkwX1_pawn_2 ++ dktX1_pawn_3
def dkwX1_pawn_1 : List UInt8 := [4, 167, 0, 4, 3, 184, 0, 231, 42, 182, 0, 234, 42, 180, 0, 19, 180, 0, 85, 44, 180, 0, 160, 50]
abbrev dktX1_pawn_1 : List UInt8 := dkwX1_pawn_1 ++ dktX1_pawn_2
def dkwX1_pawn_0 : List UInt8 := [42, 27, 182, 0, 192, 77, 44, 180, 0, 155, 44, 180, 0, 160, 160, 0, 14, 44, 180, 0, 200, 154, 0, 7]
abbrev dktX1_pawn_0 : List UInt8 := dkwX1_pawn_0 ++ dktX1_pawn_1
theorem dksX1_pawn_0 : cX1_pawn.data.toList.drop 0 = dktX1_pawn_0 := by decide +kernel
theorem dksX1_pawn_1 : cX1_pawn.data.toList.drop 24 = dktX1_pawn_1 := dk_seg dksX1_pawn_0 24 rfl rfl
theorem dksX1_pawn_2 : cX1_pawn.data.toList.drop 48 = dktX1_pawn_2 := dk_seg dksX1_pawn_1 24 rfl rfl
theorem dksX1_pawn_3 : cX1_pawn.data.toList.drop 72 = dktX1_pawn_3 := dk_seg dksX1_pawn_2 24 rfl rfl
theorem dX1_pawn_0 : decode cX1_pawn 0 = .ok (.aload_n 0, 1) := dk_42 (dk_at dksX1_pawn_0 0 rfl rfl)
theorem dX1_pawn_1 : decode cX1_pawn 1 = .ok (.iload_n 1, 1) := dk_27 (dk_at dksX1_pawn_0 1 rfl rfl)
theorem dX1_pawn_2 : decode cX1_pawn 2 = .ok (.invokevirtual 192, 3) := dk_182 0 192 (dk_at dksX1_pawn_0 2 rfl rfl)
theorem dX1_pawn_5 : decode cX1_pawn 5 = .ok (.astore_n 2, 1) := dk_77 (dk_at dksX1_pawn_0 5 rfl rfl)
theorem dX1_pawn_6 : decode cX1_pawn 6 = .ok (.aload_n 2, 1) := dk_44 (dk_at dksX1_pawn_0 6 rfl rfl)
theorem dX1_pawn_7 : decode cX1_pawn 7 = .ok (.getfield 155, 3) := dk_180 0 155 (dk_at dksX1_pawn_0 7 rfl rfl)
theorem dX1_pawn_10 : decode cX1_pawn 10 = .ok (.aload_n 2, 1) := dk_44 (dk_at dksX1_pawn_0 10 rfl rfl)
theorem dX1_pawn_11 : decode cX1_pawn 11 = .ok (.getfield 160, 3) := dk_180 0 160 (dk_at dksX1_pawn_0 11 rfl rfl)
theorem dX1_pawn_14 : decode cX1_pawn 14 = .ok (.if_icmp .ne 14, 3) := dk_160 0 14 (dk_at dksX1_pawn_0 14 rfl rfl)
theorem dX1_pawn_17 : decode cX1_pawn 17 = .ok (.aload_n 2, 1) := dk_44 (dk_at dksX1_pawn_0 17 rfl rfl)
theorem dX1_pawn_18 : decode cX1_pawn 18 = .ok (.getfield 200, 3) := dk_180 0 200 (dk_at dksX1_pawn_0 18 rfl rfl)
theorem dX1_pawn_21 : decode cX1_pawn 21 = .ok (.ifCond .ne 7, 3) := dk_154 0 7 (dk_at dksX1_pawn_0 21 rfl rfl)
theorem dX1_pawn_24 : decode cX1_pawn 24 = .ok (.iconst 1, 1) := dk_4 (dk_at dksX1_pawn_1 0 rfl rfl)
theorem dX1_pawn_25 : decode cX1_pawn 25 = .ok (.goto 4, 3) := dk_167 0 4 (dk_at dksX1_pawn_1 1 rfl rfl)
theorem dX1_pawn_28 : decode cX1_pawn 28 = .ok (.iconst 0, 1) := dk_3 (dk_at dksX1_pawn_1 4 rfl rfl)
theorem dX1_pawn_29 : decode cX1_pawn 29 = .ok (.invokestatic 231, 3) := dk_184 0 231 (dk_at dksX1_pawn_1 5 rfl rfl)
theorem dX1_pawn_32 : decode cX1_pawn 32 = .ok (.aload_n 0, 1) := dk_42 (dk_at dksX1_pawn_1 8 rfl rfl)
theorem dX1_pawn_33 : decode cX1_pawn 33 = .ok (.invokevirtual 234, 3) := dk_182 0 234 (dk_at dksX1_pawn_1 9 rfl rfl)
theorem dX1_pawn_36 : decode cX1_pawn 36 = .ok (.aload_n 0, 1) := dk_42 (dk_at dksX1_pawn_1 12 rfl rfl)
theorem dX1_pawn_37 : decode cX1_pawn 37 = .ok (.getfield 19, 3) := dk_180 0 19 (dk_at dksX1_pawn_1 13 rfl rfl)
theorem dX1_pawn_40 : decode cX1_pawn 40 = .ok (.getfield 85, 3) := dk_180 0 85 (dk_at dksX1_pawn_1 16 rfl rfl)
theorem dX1_pawn_43 : decode cX1_pawn 43 = .ok (.aload_n 2, 1) := dk_44 (dk_at dksX1_pawn_1 19 rfl rfl)
theorem dX1_pawn_44 : decode cX1_pawn 44 = .ok (.getfield 160, 3) := dk_180 0 160 (dk_at dksX1_pawn_1 20 rfl rfl)
theorem dX1_pawn_47 : decode cX1_pawn 47 = .ok (.aaload, 1) := dk_50 (dk_at dksX1_pawn_1 23 rfl rfl)
theorem dX1_pawn_48 : decode cX1_pawn 48 = .ok (.astore_n 3, 1) := dk_78 (dk_at dksX1_pawn_2 0 rfl rfl)
theorem dX1_pawn_49 : decode cX1_pawn 49 = .ok (.aload_n 3, 1) := dk_45 (dk_at dksX1_pawn_2 1 rfl rfl)
theorem dX1_pawn_50 : decode cX1_pawn 50 = .ok (.sipush 9999, 3) := dk_17 39 15 (dk_at dksX1_pawn_2 2 rfl rfl)
theorem dX1_pawn_53 : decode cX1_pawn 53 = .ok (.aload_n 3, 1) := dk_45 (dk_at dksX1_pawn_2 5 rfl rfl)
theorem dX1_pawn_54 : decode cX1_pawn 54 = .ok (.getfield 172, 3) := dk_180 0 172 (dk_at dksX1_pawn_2 6 rfl rfl)
theorem dX1_pawn_57 : decode cX1_pawn 57 = .ok (.aload_n 0, 1) := dk_42 (dk_at dksX1_pawn_2 9 rfl rfl)
theorem dX1_pawn_58 : decode cX1_pawn 58 = .ok (.getfield 19, 3) := dk_180 0 19 (dk_at dksX1_pawn_2 10 rfl rfl)
theorem dX1_pawn_61 : decode cX1_pawn 61 = .ok (.getfield 240, 3) := dk_180 0 240 (dk_at dksX1_pawn_2 13 rfl rfl)
theorem dX1_pawn_64 : decode cX1_pawn 64 = .ok (.iadd, 1) := dk_96 (dk_at dksX1_pawn_2 16 rfl rfl)
theorem dX1_pawn_65 : decode cX1_pawn 65 = .ok (.invokestatic 223, 3) := dk_184 0 223 (dk_at dksX1_pawn_2 17 rfl rfl)
theorem dX1_pawn_68 : decode cX1_pawn 68 = .ok (.putfield 172, 3) := dk_181 0 172 (dk_at dksX1_pawn_2 20 rfl rfl)
theorem dX1_pawn_71 : decode cX1_pawn 71 = .ok (.aload_n 2, 1) := dk_44 (dk_at dksX1_pawn_2 23 rfl rfl)
theorem dX1_pawn_72 : decode cX1_pawn 72 = .ok (.iconst (-1), 1) := dk_2 (dk_at dksX1_pawn_3 0 rfl rfl)
theorem dX1_pawn_73 : decode cX1_pawn 73 = .ok (.putfield 155, 3) := dk_181 0 155 (dk_at dksX1_pawn_3 1 rfl rfl)
theorem dX1_pawn_76 : decode cX1_pawn 76 = .ok (.aload_n 3, 1) := dk_45 (dk_at dksX1_pawn_3 4 rfl rfl)
theorem dX1_pawn_77 : decode cX1_pawn 77 = .ok (.getfield 172, 3) := dk_180 0 172 (dk_at dksX1_pawn_3 5 rfl rfl)
theorem dX1_pawn_80 : decode cX1_pawn 80 = .ok (.ireturn, 1) := dk_172 (dk_at dksX1_pawn_3 8 rfl rfl)
abbrev cX1_redeem : ByteArray := prog_1_method_30_code
def yX1_redeem : MethodName := ⟨RX1, "redeem", "(I)I"⟩
def dkwX1_redeem_3 : List UInt8 := [181, 0, 172, 44, 44, 180, 0, 160, 181, 0, 155, 45, 180, 0, 172, 172]
abbrev dktX1_redeem_3 : List UInt8 := dkwX1_redeem_3 ++ []
def dkwX1_redeem_2 : List UInt8 := [184, 0, 231, 42, 182, 0, 234, 45, 89, 180, 0, 172, 5, 42, 180, 0, 19, 180, 0, 240, 104, 100]
abbrev dktX1_redeem_2 : List UInt8 := dkwX1_redeem_2 ++ dktX1_redeem_3
def dkwX1_redeem_1 : List UInt8 := [160, 0, 23, 45, 180, 0, 172, 5, 42, 180, 0, 19, 180, 0, 240, 104, 161, 0, 7, 4, 167, 0, 4, 3]
abbrev dktX1_redeem_1 : List UInt8 := dkwX1_redeem_1 ++ dktX1_redeem_2
def dkwX1_redeem_0 : List UInt8 := [42, 27, 182, 0, 192, 77, 42, 180, 0, 19, 180, 0, 85, 44, 180, 0, 160, 50, 78, 44, 180, 0, 155, 2]
abbrev dktX1_redeem_0 : List UInt8 := dkwX1_redeem_0 ++ dktX1_redeem_1
theorem dksX1_redeem_0 : cX1_redeem.data.toList.drop 0 = dktX1_redeem_0 := by decide +kernel
theorem dksX1_redeem_1 : cX1_redeem.data.toList.drop 24 = dktX1_redeem_1 := dk_seg dksX1_redeem_0 24 rfl rfl
theorem dksX1_redeem_2 : cX1_redeem.data.toList.drop 48 = dktX1_redeem_2 := dk_seg dksX1_redeem_1 24 rfl rfl
theorem dksX1_redeem_3 : cX1_redeem.data.toList.drop 70 = dktX1_redeem_3 := dk_seg dksX1_redeem_2 22 rfl rfl
theorem dX1_redeem_0 : decode cX1_redeem 0 = .ok (.aload_n 0, 1) := dk_42 (dk_at dksX1_redeem_0 0 rfl rfl)
theorem dX1_redeem_1 : decode cX1_redeem 1 = .ok (.iload_n 1, 1) := dk_27 (dk_at dksX1_redeem_0 1 rfl rfl)
theorem dX1_redeem_2 : decode cX1_redeem 2 = .ok (.invokevirtual 192, 3) := dk_182 0 192 (dk_at dksX1_redeem_0 2 rfl rfl)
theorem dX1_redeem_5 : decode cX1_redeem 5 = .ok (.astore_n 2, 1) := dk_77 (dk_at dksX1_redeem_0 5 rfl rfl)
theorem dX1_redeem_6 : decode cX1_redeem 6 = .ok (.aload_n 0, 1) := dk_42 (dk_at dksX1_redeem_0 6 rfl rfl)
theorem dX1_redeem_7 : decode cX1_redeem 7 = .ok (.getfield 19, 3) := dk_180 0 19 (dk_at dksX1_redeem_0 7 rfl rfl)
theorem dX1_redeem_10 : decode cX1_redeem 10 = .ok (.getfield 85, 3) := dk_180 0 85 (dk_at dksX1_redeem_0 10 rfl rfl)
theorem dX1_redeem_13 : decode cX1_redeem 13 = .ok (.aload_n 2, 1) := dk_44 (dk_at dksX1_redeem_0 13 rfl rfl)
theorem dX1_redeem_14 : decode cX1_redeem 14 = .ok (.getfield 160, 3) := dk_180 0 160 (dk_at dksX1_redeem_0 14 rfl rfl)
theorem dX1_redeem_17 : decode cX1_redeem 17 = .ok (.aaload, 1) := dk_50 (dk_at dksX1_redeem_0 17 rfl rfl)
theorem dX1_redeem_18 : decode cX1_redeem 18 = .ok (.astore_n 3, 1) := dk_78 (dk_at dksX1_redeem_0 18 rfl rfl)
theorem dX1_redeem_19 : decode cX1_redeem 19 = .ok (.aload_n 2, 1) := dk_44 (dk_at dksX1_redeem_0 19 rfl rfl)
theorem dX1_redeem_20 : decode cX1_redeem 20 = .ok (.getfield 155, 3) := dk_180 0 155 (dk_at dksX1_redeem_0 20 rfl rfl)
theorem dX1_redeem_23 : decode cX1_redeem 23 = .ok (.iconst (-1), 1) := dk_2 (dk_at dksX1_redeem_0 23 rfl rfl)
theorem dX1_redeem_24 : decode cX1_redeem 24 = .ok (.if_icmp .ne 23, 3) := dk_160 0 23 (dk_at dksX1_redeem_1 0 rfl rfl)
theorem dX1_redeem_27 : decode cX1_redeem 27 = .ok (.aload_n 3, 1) := dk_45 (dk_at dksX1_redeem_1 3 rfl rfl)
theorem dX1_redeem_28 : decode cX1_redeem 28 = .ok (.getfield 172, 3) := dk_180 0 172 (dk_at dksX1_redeem_1 4 rfl rfl)
theorem dX1_redeem_31 : decode cX1_redeem 31 = .ok (.iconst 2, 1) := dk_5 (dk_at dksX1_redeem_1 7 rfl rfl)
theorem dX1_redeem_32 : decode cX1_redeem 32 = .ok (.aload_n 0, 1) := dk_42 (dk_at dksX1_redeem_1 8 rfl rfl)
theorem dX1_redeem_33 : decode cX1_redeem 33 = .ok (.getfield 19, 3) := dk_180 0 19 (dk_at dksX1_redeem_1 9 rfl rfl)
theorem dX1_redeem_36 : decode cX1_redeem 36 = .ok (.getfield 240, 3) := dk_180 0 240 (dk_at dksX1_redeem_1 12 rfl rfl)
theorem dX1_redeem_39 : decode cX1_redeem 39 = .ok (.imul, 1) := dk_104 (dk_at dksX1_redeem_1 15 rfl rfl)
theorem dX1_redeem_40 : decode cX1_redeem 40 = .ok (.if_icmp .lt 7, 3) := dk_161 0 7 (dk_at dksX1_redeem_1 16 rfl rfl)
theorem dX1_redeem_43 : decode cX1_redeem 43 = .ok (.iconst 1, 1) := dk_4 (dk_at dksX1_redeem_1 19 rfl rfl)
theorem dX1_redeem_44 : decode cX1_redeem 44 = .ok (.goto 4, 3) := dk_167 0 4 (dk_at dksX1_redeem_1 20 rfl rfl)
theorem dX1_redeem_47 : decode cX1_redeem 47 = .ok (.iconst 0, 1) := dk_3 (dk_at dksX1_redeem_1 23 rfl rfl)
theorem dX1_redeem_48 : decode cX1_redeem 48 = .ok (.invokestatic 231, 3) := dk_184 0 231 (dk_at dksX1_redeem_2 0 rfl rfl)
theorem dX1_redeem_51 : decode cX1_redeem 51 = .ok (.aload_n 0, 1) := dk_42 (dk_at dksX1_redeem_2 3 rfl rfl)
theorem dX1_redeem_52 : decode cX1_redeem 52 = .ok (.invokevirtual 234, 3) := dk_182 0 234 (dk_at dksX1_redeem_2 4 rfl rfl)
theorem dX1_redeem_55 : decode cX1_redeem 55 = .ok (.aload_n 3, 1) := dk_45 (dk_at dksX1_redeem_2 7 rfl rfl)
theorem dX1_redeem_56 : decode cX1_redeem 56 = .ok (.dup, 1) := dk_89 (dk_at dksX1_redeem_2 8 rfl rfl)
theorem dX1_redeem_57 : decode cX1_redeem 57 = .ok (.getfield 172, 3) := dk_180 0 172 (dk_at dksX1_redeem_2 9 rfl rfl)
theorem dX1_redeem_60 : decode cX1_redeem 60 = .ok (.iconst 2, 1) := dk_5 (dk_at dksX1_redeem_2 12 rfl rfl)
theorem dX1_redeem_61 : decode cX1_redeem 61 = .ok (.aload_n 0, 1) := dk_42 (dk_at dksX1_redeem_2 13 rfl rfl)
theorem dX1_redeem_62 : decode cX1_redeem 62 = .ok (.getfield 19, 3) := dk_180 0 19 (dk_at dksX1_redeem_2 14 rfl rfl)
theorem dX1_redeem_65 : decode cX1_redeem 65 = .ok (.getfield 240, 3) := dk_180 0 240 (dk_at dksX1_redeem_2 17 rfl rfl)
theorem dX1_redeem_68 : decode cX1_redeem 68 = .ok (.imul, 1) := dk_104 (dk_at dksX1_redeem_2 20 rfl rfl)
theorem dX1_redeem_69 : decode cX1_redeem 69 = .ok (.isub, 1) := dk_100 (dk_at dksX1_redeem_2 21 rfl rfl)
theorem dX1_redeem_70 : decode cX1_redeem 70 = .ok (.putfield 172, 3) := dk_181 0 172 (dk_at dksX1_redeem_3 0 rfl rfl)
theorem dX1_redeem_73 : decode cX1_redeem 73 = .ok (.aload_n 2, 1) := dk_44 (dk_at dksX1_redeem_3 3 rfl rfl)
theorem dX1_redeem_74 : decode cX1_redeem 74 = .ok (.aload_n 2, 1) := dk_44 (dk_at dksX1_redeem_3 4 rfl rfl)
theorem dX1_redeem_75 : decode cX1_redeem 75 = .ok (.getfield 160, 3) := dk_180 0 160 (dk_at dksX1_redeem_3 5 rfl rfl)
theorem dX1_redeem_78 : decode cX1_redeem 78 = .ok (.putfield 155, 3) := dk_181 0 155 (dk_at dksX1_redeem_3 8 rfl rfl)
theorem dX1_redeem_81 : decode cX1_redeem 81 = .ok (.aload_n 3, 1) := dk_45 (dk_at dksX1_redeem_3 11 rfl rfl)
theorem dX1_redeem_82 : decode cX1_redeem 82 = .ok (.getfield 172, 3) := dk_180 0 172 (dk_at dksX1_redeem_3 12 rfl rfl)
theorem dX1_redeem_85 : decode cX1_redeem 85 = .ok (.ireturn, 1) := dk_172 (dk_at dksX1_redeem_3 15 rfl rfl)
abbrev cX1_cut : ByteArray := prog_1_method_31_code
def yX1_cut : MethodName := ⟨RX1, "cut", "(I)I"⟩
def dkwX1_cut_2 : List UInt8 := [180, 0, 196, 184, 0, 188, 172]
abbrev dktX1_cut_2 : List UInt8 := dkwX1_cut_2 ++ []
def dkwX1_cut_1 : List UInt8 := [29, 7, 162, 0, 19, 44, 180, 0, 196, 29, 92, 46, 5, 108, 79, 132, 3, 1, 167, 255, 238, 44]
abbrev dktX1_cut_1 : List UInt8 := dkwX1_cut_1 ++ dktX1_cut_2
def dkwX1_cut_0 : List UInt8 := [42, 27, 182, 0, 192, 77, 44, 180, 0, 200, 184, 0, 231, 42, 182, 0, 234, 44, 3, 181, 0, 200, 3, 62]
abbrev dktX1_cut_0 : List UInt8 := dkwX1_cut_0 ++ dktX1_cut_1
theorem dksX1_cut_0 : cX1_cut.data.toList.drop 0 = dktX1_cut_0 := by decide +kernel
theorem dksX1_cut_1 : cX1_cut.data.toList.drop 24 = dktX1_cut_1 := dk_seg dksX1_cut_0 24 rfl rfl
theorem dksX1_cut_2 : cX1_cut.data.toList.drop 46 = dktX1_cut_2 := dk_seg dksX1_cut_1 22 rfl rfl
theorem dX1_cut_0 : decode cX1_cut 0 = .ok (.aload_n 0, 1) := dk_42 (dk_at dksX1_cut_0 0 rfl rfl)
theorem dX1_cut_1 : decode cX1_cut 1 = .ok (.iload_n 1, 1) := dk_27 (dk_at dksX1_cut_0 1 rfl rfl)
theorem dX1_cut_2 : decode cX1_cut 2 = .ok (.invokevirtual 192, 3) := dk_182 0 192 (dk_at dksX1_cut_0 2 rfl rfl)
theorem dX1_cut_5 : decode cX1_cut 5 = .ok (.astore_n 2, 1) := dk_77 (dk_at dksX1_cut_0 5 rfl rfl)
theorem dX1_cut_6 : decode cX1_cut 6 = .ok (.aload_n 2, 1) := dk_44 (dk_at dksX1_cut_0 6 rfl rfl)
theorem dX1_cut_7 : decode cX1_cut 7 = .ok (.getfield 200, 3) := dk_180 0 200 (dk_at dksX1_cut_0 7 rfl rfl)
theorem dX1_cut_10 : decode cX1_cut 10 = .ok (.invokestatic 231, 3) := dk_184 0 231 (dk_at dksX1_cut_0 10 rfl rfl)
theorem dX1_cut_13 : decode cX1_cut 13 = .ok (.aload_n 0, 1) := dk_42 (dk_at dksX1_cut_0 13 rfl rfl)
theorem dX1_cut_14 : decode cX1_cut 14 = .ok (.invokevirtual 234, 3) := dk_182 0 234 (dk_at dksX1_cut_0 14 rfl rfl)
theorem dX1_cut_17 : decode cX1_cut 17 = .ok (.aload_n 2, 1) := dk_44 (dk_at dksX1_cut_0 17 rfl rfl)
theorem dX1_cut_18 : decode cX1_cut 18 = .ok (.iconst 0, 1) := dk_3 (dk_at dksX1_cut_0 18 rfl rfl)
theorem dX1_cut_19 : decode cX1_cut 19 = .ok (.putfield 200, 3) := dk_181 0 200 (dk_at dksX1_cut_0 19 rfl rfl)
theorem dX1_cut_22 : decode cX1_cut 22 = .ok (.iconst 0, 1) := dk_3 (dk_at dksX1_cut_0 22 rfl rfl)
theorem dX1_cut_23 : decode cX1_cut 23 = .ok (.istore_n 3, 1) := dk_62 (dk_at dksX1_cut_0 23 rfl rfl)
theorem dX1_cut_24 : decode cX1_cut 24 = .ok (.iload_n 3, 1) := dk_29 (dk_at dksX1_cut_1 0 rfl rfl)
theorem dX1_cut_25 : decode cX1_cut 25 = .ok (.iconst 4, 1) := dk_7 (dk_at dksX1_cut_1 1 rfl rfl)
theorem dX1_cut_26 : decode cX1_cut 26 = .ok (.if_icmp .ge 19, 3) := dk_162 0 19 (dk_at dksX1_cut_1 2 rfl rfl)
theorem dX1_cut_29 : decode cX1_cut 29 = .ok (.aload_n 2, 1) := dk_44 (dk_at dksX1_cut_1 5 rfl rfl)
theorem dX1_cut_30 : decode cX1_cut 30 = .ok (.getfield 196, 3) := dk_180 0 196 (dk_at dksX1_cut_1 6 rfl rfl)
theorem dX1_cut_33 : decode cX1_cut 33 = .ok (.iload_n 3, 1) := dk_29 (dk_at dksX1_cut_1 9 rfl rfl)
theorem dX1_cut_34 : decode cX1_cut 34 = .ok (.dup2, 1) := dk_92 (dk_at dksX1_cut_1 10 rfl rfl)
theorem dX1_cut_35 : decode cX1_cut 35 = .ok (.iaload, 1) := dk_46 (dk_at dksX1_cut_1 11 rfl rfl)
theorem dX1_cut_36 : decode cX1_cut 36 = .ok (.iconst 2, 1) := dk_5 (dk_at dksX1_cut_1 12 rfl rfl)
theorem dX1_cut_37 : decode cX1_cut 37 = .ok (.idiv, 1) := dk_108 (dk_at dksX1_cut_1 13 rfl rfl)
theorem dX1_cut_38 : decode cX1_cut 38 = .ok (.iastore, 1) := dk_79 (dk_at dksX1_cut_1 14 rfl rfl)
theorem dX1_cut_39 : decode cX1_cut 39 = .ok (.iinc 3 1, 3) := dk_132 3 1 (dk_at dksX1_cut_1 15 rfl rfl)
theorem dX1_cut_42 : decode cX1_cut 42 = .ok (.goto (-18), 3) := dk_167 255 238 (dk_at dksX1_cut_1 18 rfl rfl)
theorem dX1_cut_45 : decode cX1_cut 45 = .ok (.aload_n 2, 1) := dk_44 (dk_at dksX1_cut_1 21 rfl rfl)
theorem dX1_cut_46 : decode cX1_cut 46 = .ok (.getfield 196, 3) := dk_180 0 196 (dk_at dksX1_cut_2 0 rfl rfl)
theorem dX1_cut_49 : decode cX1_cut 49 = .ok (.invokestatic 188, 3) := dk_184 0 188 (dk_at dksX1_cut_2 3 rfl rfl)
theorem dX1_cut_52 : decode cX1_cut 52 = .ok (.ireturn, 1) := dk_172 (dk_at dksX1_cut_2 6 rfl rfl)
abbrev cX1_widow : ByteArray := prog_1_method_32_code
def yX1_widow : MethodName := ⟨RX1, "widow", "(IZ)Z"⟩
def dkwX1_widow_1 : List UInt8 := [159, 0, 7, 4, 167, 0, 4, 3, 172]
abbrev dktX1_widow_1 : List UInt8 := dkwX1_widow_1 ++ []
def dkwX1_widow_0 : List UInt8 := [42, 27, 182, 0, 163, 78, 42, 182, 0, 234, 45, 180, 0, 178, 54, 4, 45, 28, 181, 0, 178, 21, 4, 28]
abbrev dktX1_widow_0 : List UInt8 := dkwX1_widow_0 ++ dktX1_widow_1
theorem dksX1_widow_0 : cX1_widow.data.toList.drop 0 = dktX1_widow_0 := by decide +kernel
theorem dksX1_widow_1 : cX1_widow.data.toList.drop 24 = dktX1_widow_1 := dk_seg dksX1_widow_0 24 rfl rfl
theorem dX1_widow_0 : decode cX1_widow 0 = .ok (.aload_n 0, 1) := dk_42 (dk_at dksX1_widow_0 0 rfl rfl)
theorem dX1_widow_1 : decode cX1_widow 1 = .ok (.iload_n 1, 1) := dk_27 (dk_at dksX1_widow_0 1 rfl rfl)
theorem dX1_widow_2 : decode cX1_widow 2 = .ok (.invokevirtual 163, 3) := dk_182 0 163 (dk_at dksX1_widow_0 2 rfl rfl)
theorem dX1_widow_5 : decode cX1_widow 5 = .ok (.astore_n 3, 1) := dk_78 (dk_at dksX1_widow_0 5 rfl rfl)
theorem dX1_widow_6 : decode cX1_widow 6 = .ok (.aload_n 0, 1) := dk_42 (dk_at dksX1_widow_0 6 rfl rfl)
theorem dX1_widow_7 : decode cX1_widow 7 = .ok (.invokevirtual 234, 3) := dk_182 0 234 (dk_at dksX1_widow_0 7 rfl rfl)
theorem dX1_widow_10 : decode cX1_widow 10 = .ok (.aload_n 3, 1) := dk_45 (dk_at dksX1_widow_0 10 rfl rfl)
theorem dX1_widow_11 : decode cX1_widow 11 = .ok (.getfield 178, 3) := dk_180 0 178 (dk_at dksX1_widow_0 11 rfl rfl)
theorem dX1_widow_14 : decode cX1_widow 14 = .ok (.istore 4, 2) := dk_54 4 (dk_at dksX1_widow_0 14 rfl rfl)
theorem dX1_widow_16 : decode cX1_widow 16 = .ok (.aload_n 3, 1) := dk_45 (dk_at dksX1_widow_0 16 rfl rfl)
theorem dX1_widow_17 : decode cX1_widow 17 = .ok (.iload_n 2, 1) := dk_28 (dk_at dksX1_widow_0 17 rfl rfl)
theorem dX1_widow_18 : decode cX1_widow 18 = .ok (.putfield 178, 3) := dk_181 0 178 (dk_at dksX1_widow_0 18 rfl rfl)
theorem dX1_widow_21 : decode cX1_widow 21 = .ok (.iload 4, 2) := dk_21 4 (dk_at dksX1_widow_0 21 rfl rfl)
theorem dX1_widow_23 : decode cX1_widow 23 = .ok (.iload_n 2, 1) := dk_28 (dk_at dksX1_widow_0 23 rfl rfl)
theorem dX1_widow_24 : decode cX1_widow 24 = .ok (.if_icmp .eq 7, 3) := dk_159 0 7 (dk_at dksX1_widow_1 0 rfl rfl)
theorem dX1_widow_27 : decode cX1_widow 27 = .ok (.iconst 1, 1) := dk_4 (dk_at dksX1_widow_1 3 rfl rfl)
theorem dX1_widow_28 : decode cX1_widow 28 = .ok (.goto 4, 3) := dk_167 0 4 (dk_at dksX1_widow_1 4 rfl rfl)
theorem dX1_widow_31 : decode cX1_widow 31 = .ok (.iconst 0, 1) := dk_3 (dk_at dksX1_widow_1 7 rfl rfl)
theorem dX1_widow_32 : decode cX1_widow 32 = .ok (.ireturn, 1) := dk_172 (dk_at dksX1_widow_1 8 rfl rfl)
abbrev cX1_days : ByteArray := prog_1_method_34_code
def yX1_days : MethodName := ⟨RX1, "days", "(I)I"⟩
def dkwX1_days_0 : List UInt8 := [27, 4, 16, 60, 184, 0, 77, 184, 0, 228, 42, 182, 0, 234, 42, 27, 182, 0, 246, 172]
abbrev dktX1_days_0 : List UInt8 := dkwX1_days_0 ++ []
theorem dksX1_days_0 : cX1_days.data.toList.drop 0 = dktX1_days_0 := by decide +kernel
theorem dX1_days_0 : decode cX1_days 0 = .ok (.iload_n 1, 1) := dk_27 (dk_at dksX1_days_0 0 rfl rfl)
theorem dX1_days_1 : decode cX1_days 1 = .ok (.iconst 1, 1) := dk_4 (dk_at dksX1_days_0 1 rfl rfl)
theorem dX1_days_2 : decode cX1_days 2 = .ok (.bipush 60, 2) := dk_16 60 (dk_at dksX1_days_0 2 rfl rfl)
theorem dX1_days_4 : decode cX1_days 4 = .ok (.invokestatic 77, 3) := dk_184 0 77 (dk_at dksX1_days_0 4 rfl rfl)
theorem dX1_days_7 : decode cX1_days 7 = .ok (.invokestatic 228, 3) := dk_184 0 228 (dk_at dksX1_days_0 7 rfl rfl)
theorem dX1_days_10 : decode cX1_days 10 = .ok (.aload_n 0, 1) := dk_42 (dk_at dksX1_days_0 10 rfl rfl)
theorem dX1_days_11 : decode cX1_days 11 = .ok (.invokevirtual 234, 3) := dk_182 0 234 (dk_at dksX1_days_0 11 rfl rfl)
theorem dX1_days_14 : decode cX1_days 14 = .ok (.aload_n 0, 1) := dk_42 (dk_at dksX1_days_0 14 rfl rfl)
theorem dX1_days_15 : decode cX1_days 15 = .ok (.iload_n 1, 1) := dk_27 (dk_at dksX1_days_0 15 rfl rfl)
theorem dX1_days_16 : decode cX1_days 16 = .ok (.invokevirtual 246, 3) := dk_182 0 246 (dk_at dksX1_days_0 16 rfl rfl)
theorem dX1_days_19 : decode cX1_days 19 = .ok (.ireturn, 1) := dk_172 (dk_at dksX1_days_0 19 rfl rfl)
abbrev cX1_goOn : ByteArray := prog_1_method_33_code
def yX1_goOn : MethodName := ⟨RX1, "goOn", "(I)I"⟩
def dkwX1_goOn_1 : List UInt8 := [167, 255, 238, 28, 172]
abbrev dktX1_goOn_1 : List UInt8 := dkwX1_goOn_1 ++ []
def dkwX1_goOn_0 : List UInt8 := [3, 61, 3, 62, 29, 27, 162, 0, 19, 28, 42, 180, 0, 19, 182, 0, 243, 96, 61, 132, 3, 1]
abbrev dktX1_goOn_0 : List UInt8 := dkwX1_goOn_0 ++ dktX1_goOn_1
theorem dksX1_goOn_0 : cX1_goOn.data.toList.drop 0 = dktX1_goOn_0 := by decide +kernel
theorem dksX1_goOn_1 : cX1_goOn.data.toList.drop 22 = dktX1_goOn_1 := dk_seg dksX1_goOn_0 22 rfl rfl
theorem dX1_goOn_0 : decode cX1_goOn 0 = .ok (.iconst 0, 1) := dk_3 (dk_at dksX1_goOn_0 0 rfl rfl)
theorem dX1_goOn_1 : decode cX1_goOn 1 = .ok (.istore_n 2, 1) := dk_61 (dk_at dksX1_goOn_0 1 rfl rfl)
theorem dX1_goOn_2 : decode cX1_goOn 2 = .ok (.iconst 0, 1) := dk_3 (dk_at dksX1_goOn_0 2 rfl rfl)
theorem dX1_goOn_3 : decode cX1_goOn 3 = .ok (.istore_n 3, 1) := dk_62 (dk_at dksX1_goOn_0 3 rfl rfl)
theorem dX1_goOn_4 : decode cX1_goOn 4 = .ok (.iload_n 3, 1) := dk_29 (dk_at dksX1_goOn_0 4 rfl rfl)
theorem dX1_goOn_5 : decode cX1_goOn 5 = .ok (.iload_n 1, 1) := dk_27 (dk_at dksX1_goOn_0 5 rfl rfl)
theorem dX1_goOn_6 : decode cX1_goOn 6 = .ok (.if_icmp .ge 19, 3) := dk_162 0 19 (dk_at dksX1_goOn_0 6 rfl rfl)
theorem dX1_goOn_9 : decode cX1_goOn 9 = .ok (.iload_n 2, 1) := dk_28 (dk_at dksX1_goOn_0 9 rfl rfl)
theorem dX1_goOn_10 : decode cX1_goOn 10 = .ok (.aload_n 0, 1) := dk_42 (dk_at dksX1_goOn_0 10 rfl rfl)
theorem dX1_goOn_11 : decode cX1_goOn 11 = .ok (.getfield 19, 3) := dk_180 0 19 (dk_at dksX1_goOn_0 11 rfl rfl)
theorem dX1_goOn_14 : decode cX1_goOn 14 = .ok (.invokevirtual 243, 3) := dk_182 0 243 (dk_at dksX1_goOn_0 14 rfl rfl)
theorem dX1_goOn_17 : decode cX1_goOn 17 = .ok (.iadd, 1) := dk_96 (dk_at dksX1_goOn_0 17 rfl rfl)
theorem dX1_goOn_18 : decode cX1_goOn 18 = .ok (.istore_n 2, 1) := dk_61 (dk_at dksX1_goOn_0 18 rfl rfl)
theorem dX1_goOn_19 : decode cX1_goOn 19 = .ok (.iinc 3 1, 3) := dk_132 3 1 (dk_at dksX1_goOn_0 19 rfl rfl)
theorem dX1_goOn_22 : decode cX1_goOn 22 = .ok (.goto (-18), 3) := dk_167 255 238 (dk_at dksX1_goOn_1 0 rfl rfl)
theorem dX1_goOn_25 : decode cX1_goOn 25 = .ok (.iload_n 2, 1) := dk_28 (dk_at dksX1_goOn_1 3 rfl rfl)
theorem dX1_goOn_26 : decode cX1_goOn 26 = .ok (.ireturn, 1) := dk_172 (dk_at dksX1_goOn_1 4 rfl rfl)
abbrev cX1_best : ByteArray := prog_1_method_35_code
def yX1_best : MethodName := ⟨RX1, "best", "(I)I"⟩
def dkwX1_best_3 : List UInt8 := [167, 255, 198, 28, 172]
abbrev dktX1_best_3 : List UInt8 := dkwX1_best_3 ++ []
def dkwX1_best_2 : List UInt8 := [27, 29, 182, 0, 209, 42, 180, 0, 19, 27, 28, 182, 0, 209, 164, 0, 5, 29, 61, 132, 3, 1]
abbrev dktX1_best_2 : List UInt8 := dkwX1_best_2 ++ dktX1_best_3
def dkwX1_best_1 : List UInt8 := [180, 0, 19, 180, 0, 92, 29, 50, 27, 182, 0, 249, 153, 0, 31, 28, 2, 159, 0, 24, 42, 180, 0, 19]
abbrev dktX1_best_1 : List UInt8 := dkwX1_best_1 ++ dktX1_best_2
def dkwX1_best_0 : List UInt8 := [42, 27, 182, 0, 163, 87, 2, 61, 3, 62, 29, 42, 180, 0, 19, 180, 0, 89, 162, 0, 53, 42]
abbrev dktX1_best_0 : List UInt8 := dkwX1_best_0 ++ dktX1_best_1
theorem dksX1_best_0 : cX1_best.data.toList.drop 0 = dktX1_best_0 := by decide +kernel
theorem dksX1_best_1 : cX1_best.data.toList.drop 22 = dktX1_best_1 := dk_seg dksX1_best_0 22 rfl rfl
theorem dksX1_best_2 : cX1_best.data.toList.drop 46 = dktX1_best_2 := dk_seg dksX1_best_1 24 rfl rfl
theorem dksX1_best_3 : cX1_best.data.toList.drop 68 = dktX1_best_3 := dk_seg dksX1_best_2 22 rfl rfl
theorem dX1_best_0 : decode cX1_best 0 = .ok (.aload_n 0, 1) := dk_42 (dk_at dksX1_best_0 0 rfl rfl)
theorem dX1_best_1 : decode cX1_best 1 = .ok (.iload_n 1, 1) := dk_27 (dk_at dksX1_best_0 1 rfl rfl)
theorem dX1_best_2 : decode cX1_best 2 = .ok (.invokevirtual 163, 3) := dk_182 0 163 (dk_at dksX1_best_0 2 rfl rfl)
theorem dX1_best_5 : decode cX1_best 5 = .ok (.pop, 1) := dk_87 (dk_at dksX1_best_0 5 rfl rfl)
theorem dX1_best_6 : decode cX1_best 6 = .ok (.iconst (-1), 1) := dk_2 (dk_at dksX1_best_0 6 rfl rfl)
theorem dX1_best_7 : decode cX1_best 7 = .ok (.istore_n 2, 1) := dk_61 (dk_at dksX1_best_0 7 rfl rfl)
theorem dX1_best_8 : decode cX1_best 8 = .ok (.iconst 0, 1) := dk_3 (dk_at dksX1_best_0 8 rfl rfl)
theorem dX1_best_9 : decode cX1_best 9 = .ok (.istore_n 3, 1) := dk_62 (dk_at dksX1_best_0 9 rfl rfl)
theorem dX1_best_10 : decode cX1_best 10 = .ok (.iload_n 3, 1) := dk_29 (dk_at dksX1_best_0 10 rfl rfl)
theorem dX1_best_11 : decode cX1_best 11 = .ok (.aload_n 0, 1) := dk_42 (dk_at dksX1_best_0 11 rfl rfl)
theorem dX1_best_12 : decode cX1_best 12 = .ok (.getfield 19, 3) := dk_180 0 19 (dk_at dksX1_best_0 12 rfl rfl)
theorem dX1_best_15 : decode cX1_best 15 = .ok (.getfield 89, 3) := dk_180 0 89 (dk_at dksX1_best_0 15 rfl rfl)
theorem dX1_best_18 : decode cX1_best 18 = .ok (.if_icmp .ge 53, 3) := dk_162 0 53 (dk_at dksX1_best_0 18 rfl rfl)
theorem dX1_best_21 : decode cX1_best 21 = .ok (.aload_n 0, 1) := dk_42 (dk_at dksX1_best_0 21 rfl rfl)
theorem dX1_best_22 : decode cX1_best 22 = .ok (.getfield 19, 3) := dk_180 0 19 (dk_at dksX1_best_1 0 rfl rfl)
theorem dX1_best_25 : decode cX1_best 25 = .ok (.getfield 92, 3) := dk_180 0 92 (dk_at dksX1_best_1 3 rfl rfl)
theorem dX1_best_28 : decode cX1_best 28 = .ok (.iload_n 3, 1) := dk_29 (dk_at dksX1_best_1 6 rfl rfl)
theorem dX1_best_29 : decode cX1_best 29 = .ok (.aaload, 1) := dk_50 (dk_at dksX1_best_1 7 rfl rfl)
theorem dX1_best_30 : decode cX1_best 30 = .ok (.iload_n 1, 1) := dk_27 (dk_at dksX1_best_1 8 rfl rfl)
theorem dX1_best_31 : decode cX1_best 31 = .ok (.invokevirtual 249, 3) := dk_182 0 249 (dk_at dksX1_best_1 9 rfl rfl)
theorem dX1_best_34 : decode cX1_best 34 = .ok (.ifCond .eq 31, 3) := dk_153 0 31 (dk_at dksX1_best_1 12 rfl rfl)
theorem dX1_best_37 : decode cX1_best 37 = .ok (.iload_n 2, 1) := dk_28 (dk_at dksX1_best_1 15 rfl rfl)
theorem dX1_best_38 : decode cX1_best 38 = .ok (.iconst (-1), 1) := dk_2 (dk_at dksX1_best_1 16 rfl rfl)
theorem dX1_best_39 : decode cX1_best 39 = .ok (.if_icmp .eq 24, 3) := dk_159 0 24 (dk_at dksX1_best_1 17 rfl rfl)
theorem dX1_best_42 : decode cX1_best 42 = .ok (.aload_n 0, 1) := dk_42 (dk_at dksX1_best_1 20 rfl rfl)
theorem dX1_best_43 : decode cX1_best 43 = .ok (.getfield 19, 3) := dk_180 0 19 (dk_at dksX1_best_1 21 rfl rfl)
theorem dX1_best_46 : decode cX1_best 46 = .ok (.iload_n 1, 1) := dk_27 (dk_at dksX1_best_2 0 rfl rfl)
theorem dX1_best_47 : decode cX1_best 47 = .ok (.iload_n 3, 1) := dk_29 (dk_at dksX1_best_2 1 rfl rfl)
theorem dX1_best_48 : decode cX1_best 48 = .ok (.invokevirtual 209, 3) := dk_182 0 209 (dk_at dksX1_best_2 2 rfl rfl)
theorem dX1_best_51 : decode cX1_best 51 = .ok (.aload_n 0, 1) := dk_42 (dk_at dksX1_best_2 5 rfl rfl)
theorem dX1_best_52 : decode cX1_best 52 = .ok (.getfield 19, 3) := dk_180 0 19 (dk_at dksX1_best_2 6 rfl rfl)
theorem dX1_best_55 : decode cX1_best 55 = .ok (.iload_n 1, 1) := dk_27 (dk_at dksX1_best_2 9 rfl rfl)
theorem dX1_best_56 : decode cX1_best 56 = .ok (.iload_n 2, 1) := dk_28 (dk_at dksX1_best_2 10 rfl rfl)
theorem dX1_best_57 : decode cX1_best 57 = .ok (.invokevirtual 209, 3) := dk_182 0 209 (dk_at dksX1_best_2 11 rfl rfl)
theorem dX1_best_60 : decode cX1_best 60 = .ok (.if_icmp .le 5, 3) := dk_164 0 5 (dk_at dksX1_best_2 14 rfl rfl)
theorem dX1_best_63 : decode cX1_best 63 = .ok (.iload_n 3, 1) := dk_29 (dk_at dksX1_best_2 17 rfl rfl)
theorem dX1_best_64 : decode cX1_best 64 = .ok (.istore_n 2, 1) := dk_61 (dk_at dksX1_best_2 18 rfl rfl)
theorem dX1_best_65 : decode cX1_best 65 = .ok (.iinc 3 1, 3) := dk_132 3 1 (dk_at dksX1_best_2 19 rfl rfl)
theorem dX1_best_68 : decode cX1_best 68 = .ok (.goto (-58), 3) := dk_167 255 198 (dk_at dksX1_best_3 0 rfl rfl)
theorem dX1_best_71 : decode cX1_best 71 = .ok (.iload_n 2, 1) := dk_28 (dk_at dksX1_best_3 3 rfl rfl)
theorem dX1_best_72 : decode cX1_best 72 = .ok (.ireturn, 1) := dk_172 (dk_at dksX1_best_3 4 rfl rfl)
abbrev cX1_order : ByteArray := prog_1_method_39_code
def yX1_order : MethodName := ⟨RX1, "order", "(III)I"⟩
def dkwX1_order_2 : List UInt8 := [167, 0, 4, 2, 172]
abbrev dktX1_order_2 : List UInt8 := dkwX1_order_2 ++ []
def dkwX1_order_1 : List UInt8 := [180, 1, 7, 172, 29, 3, 21, 4, 4, 100, 184, 0, 77, 153, 0, 12, 42, 180, 0, 46, 29, 46]
abbrev dktX1_order_1 : List UInt8 := dkwX1_order_1 ++ dktX1_order_2
def dkwX1_order_0 : List UInt8 := [42, 27, 28, 182, 1, 20, 54, 4, 29, 2, 160, 0, 17, 21, 4, 154, 0, 7, 3, 167, 0, 7, 42]
abbrev dktX1_order_0 : List UInt8 := dkwX1_order_0 ++ dktX1_order_1
theorem dksX1_order_0 : cX1_order.data.toList.drop 0 = dktX1_order_0 := by decide +kernel
theorem dksX1_order_1 : cX1_order.data.toList.drop 23 = dktX1_order_1 := dk_seg dksX1_order_0 23 rfl rfl
theorem dksX1_order_2 : cX1_order.data.toList.drop 45 = dktX1_order_2 := dk_seg dksX1_order_1 22 rfl rfl
theorem dX1_order_0 : decode cX1_order 0 = .ok (.aload_n 0, 1) := dk_42 (dk_at dksX1_order_0 0 rfl rfl)
theorem dX1_order_1 : decode cX1_order 1 = .ok (.iload_n 1, 1) := dk_27 (dk_at dksX1_order_0 1 rfl rfl)
theorem dX1_order_2 : decode cX1_order 2 = .ok (.iload_n 2, 1) := dk_28 (dk_at dksX1_order_0 2 rfl rfl)
theorem dX1_order_3 : decode cX1_order 3 = .ok (.invokevirtual 276, 3) := dk_182 1 20 (dk_at dksX1_order_0 3 rfl rfl)
theorem dX1_order_6 : decode cX1_order 6 = .ok (.istore 4, 2) := dk_54 4 (dk_at dksX1_order_0 6 rfl rfl)
theorem dX1_order_8 : decode cX1_order 8 = .ok (.iload_n 3, 1) := dk_29 (dk_at dksX1_order_0 8 rfl rfl)
theorem dX1_order_9 : decode cX1_order 9 = .ok (.iconst (-1), 1) := dk_2 (dk_at dksX1_order_0 9 rfl rfl)
theorem dX1_order_10 : decode cX1_order 10 = .ok (.if_icmp .ne 17, 3) := dk_160 0 17 (dk_at dksX1_order_0 10 rfl rfl)
theorem dX1_order_13 : decode cX1_order 13 = .ok (.iload 4, 2) := dk_21 4 (dk_at dksX1_order_0 13 rfl rfl)
theorem dX1_order_15 : decode cX1_order 15 = .ok (.ifCond .ne 7, 3) := dk_154 0 7 (dk_at dksX1_order_0 15 rfl rfl)
theorem dX1_order_18 : decode cX1_order 18 = .ok (.iconst 0, 1) := dk_3 (dk_at dksX1_order_0 18 rfl rfl)
theorem dX1_order_19 : decode cX1_order 19 = .ok (.goto 7, 3) := dk_167 0 7 (dk_at dksX1_order_0 19 rfl rfl)
theorem dX1_order_22 : decode cX1_order 22 = .ok (.aload_n 0, 1) := dk_42 (dk_at dksX1_order_0 22 rfl rfl)
theorem dX1_order_23 : decode cX1_order 23 = .ok (.getfield 263, 3) := dk_180 1 7 (dk_at dksX1_order_1 0 rfl rfl)
theorem dX1_order_26 : decode cX1_order 26 = .ok (.ireturn, 1) := dk_172 (dk_at dksX1_order_1 3 rfl rfl)
theorem dX1_order_27 : decode cX1_order 27 = .ok (.iload_n 3, 1) := dk_29 (dk_at dksX1_order_1 4 rfl rfl)
theorem dX1_order_28 : decode cX1_order 28 = .ok (.iconst 0, 1) := dk_3 (dk_at dksX1_order_1 5 rfl rfl)
theorem dX1_order_29 : decode cX1_order 29 = .ok (.iload 4, 2) := dk_21 4 (dk_at dksX1_order_1 6 rfl rfl)
theorem dX1_order_31 : decode cX1_order 31 = .ok (.iconst 1, 1) := dk_4 (dk_at dksX1_order_1 8 rfl rfl)
theorem dX1_order_32 : decode cX1_order 32 = .ok (.isub, 1) := dk_100 (dk_at dksX1_order_1 9 rfl rfl)
theorem dX1_order_33 : decode cX1_order 33 = .ok (.invokestatic 77, 3) := dk_184 0 77 (dk_at dksX1_order_1 10 rfl rfl)
theorem dX1_order_36 : decode cX1_order 36 = .ok (.ifCond .eq 12, 3) := dk_153 0 12 (dk_at dksX1_order_1 13 rfl rfl)
theorem dX1_order_39 : decode cX1_order 39 = .ok (.aload_n 0, 1) := dk_42 (dk_at dksX1_order_1 16 rfl rfl)
theorem dX1_order_40 : decode cX1_order 40 = .ok (.getfield 46, 3) := dk_180 0 46 (dk_at dksX1_order_1 17 rfl rfl)
theorem dX1_order_43 : decode cX1_order 43 = .ok (.iload_n 3, 1) := dk_29 (dk_at dksX1_order_1 20 rfl rfl)
theorem dX1_order_44 : decode cX1_order 44 = .ok (.iaload, 1) := dk_46 (dk_at dksX1_order_1 21 rfl rfl)
theorem dX1_order_45 : decode cX1_order 45 = .ok (.goto 4, 3) := dk_167 0 4 (dk_at dksX1_order_2 0 rfl rfl)
theorem dX1_order_48 : decode cX1_order 48 = .ok (.iconst (-1), 1) := dk_2 (dk_at dksX1_order_2 3 rfl rfl)
theorem dX1_order_49 : decode cX1_order 49 = .ok (.ireturn, 1) := dk_172 (dk_at dksX1_order_2 4 rfl rfl)
abbrev cX1_tries : ByteArray := prog_1_method_38_code
def yX1_tries : MethodName := ⟨RX1, "tries", "(II)I"⟩
def dkwX1_tries_2 : List UInt8 := [29, 153, 0, 12, 42, 27, 3, 29, 29, 3, 182, 1, 10, 29, 184, 1, 14, 172]
abbrev dktX1_tries_2 : List UInt8 := dkwX1_tries_2 ++ []
def dkwX1_tries_1 : List UInt8 := [8, 163, 0, 7, 4, 167, 0, 4, 3, 184, 0, 228, 42, 19, 1, 19, 181, 1, 7, 42, 2, 181, 0, 254]
abbrev dktX1_tries_1 : List UInt8 := dkwX1_tries_1 ++ dktX1_tries_2
def dkwX1_tries_0 : List UInt8 := [42, 27, 182, 0, 192, 87, 28, 4, 42, 180, 0, 19, 180, 0, 74, 120, 4, 100, 126, 62, 29, 184, 1, 14]
abbrev dktX1_tries_0 : List UInt8 := dkwX1_tries_0 ++ dktX1_tries_1
theorem dksX1_tries_0 : cX1_tries.data.toList.drop 0 = dktX1_tries_0 := by decide +kernel
theorem dksX1_tries_1 : cX1_tries.data.toList.drop 24 = dktX1_tries_1 := dk_seg dksX1_tries_0 24 rfl rfl
theorem dksX1_tries_2 : cX1_tries.data.toList.drop 48 = dktX1_tries_2 := dk_seg dksX1_tries_1 24 rfl rfl
theorem dX1_tries_0 : decode cX1_tries 0 = .ok (.aload_n 0, 1) := dk_42 (dk_at dksX1_tries_0 0 rfl rfl)
theorem dX1_tries_1 : decode cX1_tries 1 = .ok (.iload_n 1, 1) := dk_27 (dk_at dksX1_tries_0 1 rfl rfl)
theorem dX1_tries_2 : decode cX1_tries 2 = .ok (.invokevirtual 192, 3) := dk_182 0 192 (dk_at dksX1_tries_0 2 rfl rfl)
theorem dX1_tries_5 : decode cX1_tries 5 = .ok (.pop, 1) := dk_87 (dk_at dksX1_tries_0 5 rfl rfl)
theorem dX1_tries_6 : decode cX1_tries 6 = .ok (.iload_n 2, 1) := dk_28 (dk_at dksX1_tries_0 6 rfl rfl)
theorem dX1_tries_7 : decode cX1_tries 7 = .ok (.iconst 1, 1) := dk_4 (dk_at dksX1_tries_0 7 rfl rfl)
theorem dX1_tries_8 : decode cX1_tries 8 = .ok (.aload_n 0, 1) := dk_42 (dk_at dksX1_tries_0 8 rfl rfl)
theorem dX1_tries_9 : decode cX1_tries 9 = .ok (.getfield 19, 3) := dk_180 0 19 (dk_at dksX1_tries_0 9 rfl rfl)
theorem dX1_tries_12 : decode cX1_tries 12 = .ok (.getfield 74, 3) := dk_180 0 74 (dk_at dksX1_tries_0 12 rfl rfl)
theorem dX1_tries_15 : decode cX1_tries 15 = .ok (.ishl, 1) := dk_120 (dk_at dksX1_tries_0 15 rfl rfl)
theorem dX1_tries_16 : decode cX1_tries 16 = .ok (.iconst 1, 1) := dk_4 (dk_at dksX1_tries_0 16 rfl rfl)
theorem dX1_tries_17 : decode cX1_tries 17 = .ok (.isub, 1) := dk_100 (dk_at dksX1_tries_0 17 rfl rfl)
theorem dX1_tries_18 : decode cX1_tries 18 = .ok (.iand, 1) := dk_126 (dk_at dksX1_tries_0 18 rfl rfl)
theorem dX1_tries_19 : decode cX1_tries 19 = .ok (.istore_n 3, 1) := dk_62 (dk_at dksX1_tries_0 19 rfl rfl)
theorem dX1_tries_20 : decode cX1_tries 20 = .ok (.iload_n 3, 1) := dk_29 (dk_at dksX1_tries_0 20 rfl rfl)
theorem dX1_tries_21 : decode cX1_tries 21 = .ok (.invokestatic 270, 3) := dk_184 1 14 (dk_at dksX1_tries_0 21 rfl rfl)
theorem dX1_tries_24 : decode cX1_tries 24 = .ok (.iconst 5, 1) := dk_8 (dk_at dksX1_tries_1 0 rfl rfl)
theorem dX1_tries_25 : decode cX1_tries 25 = .ok (.if_icmp .gt 7, 3) := dk_163 0 7 (dk_at dksX1_tries_1 1 rfl rfl)
theorem dX1_tries_28 : decode cX1_tries 28 = .ok (.iconst 1, 1) := dk_4 (dk_at dksX1_tries_1 4 rfl rfl)
theorem dX1_tries_29 : decode cX1_tries 29 = .ok (.goto 4, 3) := dk_167 0 4 (dk_at dksX1_tries_1 5 rfl rfl)
theorem dX1_tries_32 : decode cX1_tries 32 = .ok (.iconst 0, 1) := dk_3 (dk_at dksX1_tries_1 8 rfl rfl)
theorem dX1_tries_33 : decode cX1_tries 33 = .ok (.invokestatic 228, 3) := dk_184 0 228 (dk_at dksX1_tries_1 9 rfl rfl)
theorem dX1_tries_36 : decode cX1_tries 36 = .ok (.aload_n 0, 1) := dk_42 (dk_at dksX1_tries_1 12 rfl rfl)
theorem dX1_tries_37 : decode cX1_tries 37 = .ok (.ldc_w 275, 3) := dk_19 1 19 (dk_at dksX1_tries_1 13 rfl rfl)
theorem dX1_tries_40 : decode cX1_tries 40 = .ok (.putfield 263, 3) := dk_181 1 7 (dk_at dksX1_tries_1 16 rfl rfl)
theorem dX1_tries_43 : decode cX1_tries 43 = .ok (.aload_n 0, 1) := dk_42 (dk_at dksX1_tries_1 19 rfl rfl)
theorem dX1_tries_44 : decode cX1_tries 44 = .ok (.iconst (-1), 1) := dk_2 (dk_at dksX1_tries_1 20 rfl rfl)
theorem dX1_tries_45 : decode cX1_tries 45 = .ok (.putfield 254, 3) := dk_181 0 254 (dk_at dksX1_tries_1 21 rfl rfl)
theorem dX1_tries_48 : decode cX1_tries 48 = .ok (.iload_n 3, 1) := dk_29 (dk_at dksX1_tries_2 0 rfl rfl)
theorem dX1_tries_49 : decode cX1_tries 49 = .ok (.ifCond .eq 12, 3) := dk_153 0 12 (dk_at dksX1_tries_2 1 rfl rfl)
theorem dX1_tries_52 : decode cX1_tries 52 = .ok (.aload_n 0, 1) := dk_42 (dk_at dksX1_tries_2 4 rfl rfl)
theorem dX1_tries_53 : decode cX1_tries 53 = .ok (.iload_n 1, 1) := dk_27 (dk_at dksX1_tries_2 5 rfl rfl)
theorem dX1_tries_54 : decode cX1_tries 54 = .ok (.iconst 0, 1) := dk_3 (dk_at dksX1_tries_2 6 rfl rfl)
theorem dX1_tries_55 : decode cX1_tries 55 = .ok (.iload_n 3, 1) := dk_29 (dk_at dksX1_tries_2 7 rfl rfl)
theorem dX1_tries_56 : decode cX1_tries 56 = .ok (.iload_n 3, 1) := dk_29 (dk_at dksX1_tries_2 8 rfl rfl)
theorem dX1_tries_57 : decode cX1_tries 57 = .ok (.iconst 0, 1) := dk_3 (dk_at dksX1_tries_2 9 rfl rfl)
theorem dX1_tries_58 : decode cX1_tries 58 = .ok (.invokevirtual 266, 3) := dk_182 1 10 (dk_at dksX1_tries_2 10 rfl rfl)
theorem dX1_tries_61 : decode cX1_tries 61 = .ok (.iload_n 3, 1) := dk_29 (dk_at dksX1_tries_2 13 rfl rfl)
theorem dX1_tries_62 : decode cX1_tries 62 = .ok (.invokestatic 270, 3) := dk_184 1 14 (dk_at dksX1_tries_2 14 rfl rfl)
theorem dX1_tries_65 : decode cX1_tries 65 = .ok (.ireturn, 1) := dk_172 (dk_at dksX1_tries_2 17 rfl rfl)
abbrev cX1_orders : ByteArray := prog_1_method_37_code
def yX1_orders : MethodName := ⟨RX1, "orders", "(IIIII)V"⟩
def dkwX1_orders_6 : List UInt8 := [180, 0, 19, 42, 180, 0, 33, 28, 50, 182, 0, 130, 132, 6, 1, 167, 255, 176, 177]
abbrev dktX1_orders_6 : List UInt8 := dkwX1_orders_6 ++ []
def dkwX1_orders_5 : List UInt8 := [21, 6, 120, 2, 130, 126, 21, 5, 42, 180, 0, 19, 21, 6, 27, 182, 0, 237, 96, 182, 1, 10, 42]
abbrev dktX1_orders_5 : List UInt8 := dkwX1_orders_5 ++ dktX1_orders_6
def dkwX1_orders_4 : List UInt8 := [126, 154, 0, 6, 167, 0, 55, 42, 180, 0, 43, 28, 21, 6, 79, 42, 27, 28, 4, 96, 29, 21, 4, 4]
abbrev dktX1_orders_4 : List UInt8 := dkwX1_orders_4 ++ dktX1_orders_5
def dkwX1_orders_3 : List UInt8 := [182, 0, 130, 3, 54, 6, 21, 6, 42, 180, 0, 19, 180, 0, 74, 162, 0, 74, 21, 4, 21, 6, 122, 4]
abbrev dktX1_orders_3 : List UInt8 := dkwX1_orders_3 ++ dktX1_orders_4
def dkwX1_orders_2 : List UInt8 := [180, 1, 7, 21, 5, 184, 1, 4, 181, 1, 7, 177, 42, 180, 0, 33, 28, 50, 42, 180, 0, 19]
abbrev dktX1_orders_2 : List UInt8 := dkwX1_orders_2 ++ dktX1_orders_3
def dkwX1_orders_1 : List UInt8 := [180, 1, 7, 164, 0, 17, 42, 180, 0, 43, 3, 42, 180, 0, 46, 3, 28, 184, 0, 149, 42, 42]
abbrev dktX1_orders_1 : List UInt8 := dkwX1_orders_1 ++ dktX1_orders_2
def dkwX1_orders_0 : List UInt8 := [21, 4, 154, 0, 56, 42, 42, 180, 0, 254, 42, 29, 182, 1, 1, 184, 1, 4, 181, 0, 254, 21, 5, 42]
abbrev dktX1_orders_0 : List UInt8 := dkwX1_orders_0 ++ dktX1_orders_1
theorem dksX1_orders_0 : cX1_orders.data.toList.drop 0 = dktX1_orders_0 := by decide +kernel
theorem dksX1_orders_1 : cX1_orders.data.toList.drop 24 = dktX1_orders_1 := dk_seg dksX1_orders_0 24 rfl rfl
theorem dksX1_orders_2 : cX1_orders.data.toList.drop 46 = dktX1_orders_2 := dk_seg dksX1_orders_1 22 rfl rfl
theorem dksX1_orders_3 : cX1_orders.data.toList.drop 68 = dktX1_orders_3 := dk_seg dksX1_orders_2 22 rfl rfl
theorem dksX1_orders_4 : cX1_orders.data.toList.drop 92 = dktX1_orders_4 := dk_seg dksX1_orders_3 24 rfl rfl
theorem dksX1_orders_5 : cX1_orders.data.toList.drop 116 = dktX1_orders_5 := dk_seg dksX1_orders_4 24 rfl rfl
theorem dksX1_orders_6 : cX1_orders.data.toList.drop 139 = dktX1_orders_6 := dk_seg dksX1_orders_5 23 rfl rfl
theorem dX1_orders_0 : decode cX1_orders 0 = .ok (.iload 4, 2) := dk_21 4 (dk_at dksX1_orders_0 0 rfl rfl)
theorem dX1_orders_2 : decode cX1_orders 2 = .ok (.ifCond .ne 56, 3) := dk_154 0 56 (dk_at dksX1_orders_0 2 rfl rfl)
theorem dX1_orders_5 : decode cX1_orders 5 = .ok (.aload_n 0, 1) := dk_42 (dk_at dksX1_orders_0 5 rfl rfl)
theorem dX1_orders_6 : decode cX1_orders 6 = .ok (.aload_n 0, 1) := dk_42 (dk_at dksX1_orders_0 6 rfl rfl)
theorem dX1_orders_7 : decode cX1_orders 7 = .ok (.getfield 254, 3) := dk_180 0 254 (dk_at dksX1_orders_0 7 rfl rfl)
theorem dX1_orders_10 : decode cX1_orders 10 = .ok (.aload_n 0, 1) := dk_42 (dk_at dksX1_orders_0 10 rfl rfl)
theorem dX1_orders_11 : decode cX1_orders 11 = .ok (.iload_n 3, 1) := dk_29 (dk_at dksX1_orders_0 11 rfl rfl)
theorem dX1_orders_12 : decode cX1_orders 12 = .ok (.invokevirtual 257, 3) := dk_182 1 1 (dk_at dksX1_orders_0 12 rfl rfl)
theorem dX1_orders_15 : decode cX1_orders 15 = .ok (.invokestatic 260, 3) := dk_184 1 4 (dk_at dksX1_orders_0 15 rfl rfl)
theorem dX1_orders_18 : decode cX1_orders 18 = .ok (.putfield 254, 3) := dk_181 0 254 (dk_at dksX1_orders_0 18 rfl rfl)
theorem dX1_orders_21 : decode cX1_orders 21 = .ok (.iload 5, 2) := dk_21 5 (dk_at dksX1_orders_0 21 rfl rfl)
theorem dX1_orders_23 : decode cX1_orders 23 = .ok (.aload_n 0, 1) := dk_42 (dk_at dksX1_orders_0 23 rfl rfl)
theorem dX1_orders_24 : decode cX1_orders 24 = .ok (.getfield 263, 3) := dk_180 1 7 (dk_at dksX1_orders_1 0 rfl rfl)
theorem dX1_orders_27 : decode cX1_orders 27 = .ok (.if_icmp .le 17, 3) := dk_164 0 17 (dk_at dksX1_orders_1 3 rfl rfl)
theorem dX1_orders_30 : decode cX1_orders 30 = .ok (.aload_n 0, 1) := dk_42 (dk_at dksX1_orders_1 6 rfl rfl)
theorem dX1_orders_31 : decode cX1_orders 31 = .ok (.getfield 43, 3) := dk_180 0 43 (dk_at dksX1_orders_1 7 rfl rfl)
theorem dX1_orders_34 : decode cX1_orders 34 = .ok (.iconst 0, 1) := dk_3 (dk_at dksX1_orders_1 10 rfl rfl)
theorem dX1_orders_35 : decode cX1_orders 35 = .ok (.aload_n 0, 1) := dk_42 (dk_at dksX1_orders_1 11 rfl rfl)
theorem dX1_orders_36 : decode cX1_orders 36 = .ok (.getfield 46, 3) := dk_180 0 46 (dk_at dksX1_orders_1 12 rfl rfl)
theorem dX1_orders_39 : decode cX1_orders 39 = .ok (.iconst 0, 1) := dk_3 (dk_at dksX1_orders_1 15 rfl rfl)
theorem dX1_orders_40 : decode cX1_orders 40 = .ok (.iload_n 2, 1) := dk_28 (dk_at dksX1_orders_1 16 rfl rfl)
theorem dX1_orders_41 : decode cX1_orders 41 = .ok (.invokestatic 149, 3) := dk_184 0 149 (dk_at dksX1_orders_1 17 rfl rfl)
theorem dX1_orders_44 : decode cX1_orders 44 = .ok (.aload_n 0, 1) := dk_42 (dk_at dksX1_orders_1 20 rfl rfl)
theorem dX1_orders_45 : decode cX1_orders 45 = .ok (.aload_n 0, 1) := dk_42 (dk_at dksX1_orders_1 21 rfl rfl)
theorem dX1_orders_46 : decode cX1_orders 46 = .ok (.getfield 263, 3) := dk_180 1 7 (dk_at dksX1_orders_2 0 rfl rfl)
theorem dX1_orders_49 : decode cX1_orders 49 = .ok (.iload 5, 2) := dk_21 5 (dk_at dksX1_orders_2 3 rfl rfl)
theorem dX1_orders_51 : decode cX1_orders 51 = .ok (.invokestatic 260, 3) := dk_184 1 4 (dk_at dksX1_orders_2 5 rfl rfl)
theorem dX1_orders_54 : decode cX1_orders 54 = .ok (.putfield 263, 3) := dk_181 1 7 (dk_at dksX1_orders_2 8 rfl rfl)
theorem dX1_orders_57 : decode cX1_orders 57 = .ok (.return_, 1) := dk_177 (dk_at dksX1_orders_2 11 rfl rfl)
theorem dX1_orders_58 : decode cX1_orders 58 = .ok (.aload_n 0, 1) := dk_42 (dk_at dksX1_orders_2 12 rfl rfl)
theorem dX1_orders_59 : decode cX1_orders 59 = .ok (.getfield 33, 3) := dk_180 0 33 (dk_at dksX1_orders_2 13 rfl rfl)
theorem dX1_orders_62 : decode cX1_orders 62 = .ok (.iload_n 2, 1) := dk_28 (dk_at dksX1_orders_2 16 rfl rfl)
theorem dX1_orders_63 : decode cX1_orders 63 = .ok (.aaload, 1) := dk_50 (dk_at dksX1_orders_2 17 rfl rfl)
theorem dX1_orders_64 : decode cX1_orders 64 = .ok (.aload_n 0, 1) := dk_42 (dk_at dksX1_orders_2 18 rfl rfl)
theorem dX1_orders_65 : decode cX1_orders 65 = .ok (.getfield 19, 3) := dk_180 0 19 (dk_at dksX1_orders_2 19 rfl rfl)
theorem dX1_orders_68 : decode cX1_orders 68 = .ok (.invokevirtual 130, 3) := dk_182 0 130 (dk_at dksX1_orders_3 0 rfl rfl)
theorem dX1_orders_71 : decode cX1_orders 71 = .ok (.iconst 0, 1) := dk_3 (dk_at dksX1_orders_3 3 rfl rfl)
theorem dX1_orders_72 : decode cX1_orders 72 = .ok (.istore 6, 2) := dk_54 6 (dk_at dksX1_orders_3 4 rfl rfl)
theorem dX1_orders_74 : decode cX1_orders 74 = .ok (.iload 6, 2) := dk_21 6 (dk_at dksX1_orders_3 6 rfl rfl)
theorem dX1_orders_76 : decode cX1_orders 76 = .ok (.aload_n 0, 1) := dk_42 (dk_at dksX1_orders_3 8 rfl rfl)
theorem dX1_orders_77 : decode cX1_orders 77 = .ok (.getfield 19, 3) := dk_180 0 19 (dk_at dksX1_orders_3 9 rfl rfl)
theorem dX1_orders_80 : decode cX1_orders 80 = .ok (.getfield 74, 3) := dk_180 0 74 (dk_at dksX1_orders_3 12 rfl rfl)
theorem dX1_orders_83 : decode cX1_orders 83 = .ok (.if_icmp .ge 74, 3) := dk_162 0 74 (dk_at dksX1_orders_3 15 rfl rfl)
theorem dX1_orders_86 : decode cX1_orders 86 = .ok (.iload 4, 2) := dk_21 4 (dk_at dksX1_orders_3 18 rfl rfl)
theorem dX1_orders_88 : decode cX1_orders 88 = .ok (.iload 6, 2) := dk_21 6 (dk_at dksX1_orders_3 20 rfl rfl)
theorem dX1_orders_90 : decode cX1_orders 90 = .ok (.ishr, 1) := dk_122 (dk_at dksX1_orders_3 22 rfl rfl)
theorem dX1_orders_91 : decode cX1_orders 91 = .ok (.iconst 1, 1) := dk_4 (dk_at dksX1_orders_3 23 rfl rfl)
theorem dX1_orders_92 : decode cX1_orders 92 = .ok (.iand, 1) := dk_126 (dk_at dksX1_orders_4 0 rfl rfl)
theorem dX1_orders_93 : decode cX1_orders 93 = .ok (.ifCond .ne 6, 3) := dk_154 0 6 (dk_at dksX1_orders_4 1 rfl rfl)
theorem dX1_orders_96 : decode cX1_orders 96 = .ok (.goto 55, 3) := dk_167 0 55 (dk_at dksX1_orders_4 4 rfl rfl)
theorem dX1_orders_99 : decode cX1_orders 99 = .ok (.aload_n 0, 1) := dk_42 (dk_at dksX1_orders_4 7 rfl rfl)
theorem dX1_orders_100 : decode cX1_orders 100 = .ok (.getfield 43, 3) := dk_180 0 43 (dk_at dksX1_orders_4 8 rfl rfl)
theorem dX1_orders_103 : decode cX1_orders 103 = .ok (.iload_n 2, 1) := dk_28 (dk_at dksX1_orders_4 11 rfl rfl)
theorem dX1_orders_104 : decode cX1_orders 104 = .ok (.iload 6, 2) := dk_21 6 (dk_at dksX1_orders_4 12 rfl rfl)
theorem dX1_orders_106 : decode cX1_orders 106 = .ok (.iastore, 1) := dk_79 (dk_at dksX1_orders_4 14 rfl rfl)
theorem dX1_orders_107 : decode cX1_orders 107 = .ok (.aload_n 0, 1) := dk_42 (dk_at dksX1_orders_4 15 rfl rfl)
theorem dX1_orders_108 : decode cX1_orders 108 = .ok (.iload_n 1, 1) := dk_27 (dk_at dksX1_orders_4 16 rfl rfl)
theorem dX1_orders_109 : decode cX1_orders 109 = .ok (.iload_n 2, 1) := dk_28 (dk_at dksX1_orders_4 17 rfl rfl)
theorem dX1_orders_110 : decode cX1_orders 110 = .ok (.iconst 1, 1) := dk_4 (dk_at dksX1_orders_4 18 rfl rfl)
theorem dX1_orders_111 : decode cX1_orders 111 = .ok (.iadd, 1) := dk_96 (dk_at dksX1_orders_4 19 rfl rfl)
theorem dX1_orders_112 : decode cX1_orders 112 = .ok (.iload_n 3, 1) := dk_29 (dk_at dksX1_orders_4 20 rfl rfl)
theorem dX1_orders_113 : decode cX1_orders 113 = .ok (.iload 4, 2) := dk_21 4 (dk_at dksX1_orders_4 21 rfl rfl)
theorem dX1_orders_115 : decode cX1_orders 115 = .ok (.iconst 1, 1) := dk_4 (dk_at dksX1_orders_4 23 rfl rfl)
theorem dX1_orders_116 : decode cX1_orders 116 = .ok (.iload 6, 2) := dk_21 6 (dk_at dksX1_orders_5 0 rfl rfl)
theorem dX1_orders_118 : decode cX1_orders 118 = .ok (.ishl, 1) := dk_120 (dk_at dksX1_orders_5 2 rfl rfl)
theorem dX1_orders_119 : decode cX1_orders 119 = .ok (.iconst (-1), 1) := dk_2 (dk_at dksX1_orders_5 3 rfl rfl)
theorem dX1_orders_120 : decode cX1_orders 120 = .ok (.ixor, 1) := dk_130 (dk_at dksX1_orders_5 4 rfl rfl)
theorem dX1_orders_121 : decode cX1_orders 121 = .ok (.iand, 1) := dk_126 (dk_at dksX1_orders_5 5 rfl rfl)
theorem dX1_orders_122 : decode cX1_orders 122 = .ok (.iload 5, 2) := dk_21 5 (dk_at dksX1_orders_5 6 rfl rfl)
theorem dX1_orders_124 : decode cX1_orders 124 = .ok (.aload_n 0, 1) := dk_42 (dk_at dksX1_orders_5 8 rfl rfl)
theorem dX1_orders_125 : decode cX1_orders 125 = .ok (.getfield 19, 3) := dk_180 0 19 (dk_at dksX1_orders_5 9 rfl rfl)
theorem dX1_orders_128 : decode cX1_orders 128 = .ok (.iload 6, 2) := dk_21 6 (dk_at dksX1_orders_5 12 rfl rfl)
theorem dX1_orders_130 : decode cX1_orders 130 = .ok (.iload_n 1, 1) := dk_27 (dk_at dksX1_orders_5 14 rfl rfl)
theorem dX1_orders_131 : decode cX1_orders 131 = .ok (.invokevirtual 237, 3) := dk_182 0 237 (dk_at dksX1_orders_5 15 rfl rfl)
theorem dX1_orders_134 : decode cX1_orders 134 = .ok (.iadd, 1) := dk_96 (dk_at dksX1_orders_5 18 rfl rfl)
theorem dX1_orders_135 : decode cX1_orders 135 = .ok (.invokevirtual 266, 3) := dk_182 1 10 (dk_at dksX1_orders_5 19 rfl rfl)
theorem dX1_orders_138 : decode cX1_orders 138 = .ok (.aload_n 0, 1) := dk_42 (dk_at dksX1_orders_5 22 rfl rfl)
theorem dX1_orders_139 : decode cX1_orders 139 = .ok (.getfield 19, 3) := dk_180 0 19 (dk_at dksX1_orders_6 0 rfl rfl)
theorem dX1_orders_142 : decode cX1_orders 142 = .ok (.aload_n 0, 1) := dk_42 (dk_at dksX1_orders_6 3 rfl rfl)
theorem dX1_orders_143 : decode cX1_orders 143 = .ok (.getfield 33, 3) := dk_180 0 33 (dk_at dksX1_orders_6 4 rfl rfl)
theorem dX1_orders_146 : decode cX1_orders 146 = .ok (.iload_n 2, 1) := dk_28 (dk_at dksX1_orders_6 7 rfl rfl)
theorem dX1_orders_147 : decode cX1_orders 147 = .ok (.aaload, 1) := dk_50 (dk_at dksX1_orders_6 8 rfl rfl)
theorem dX1_orders_148 : decode cX1_orders 148 = .ok (.invokevirtual 130, 3) := dk_182 0 130 (dk_at dksX1_orders_6 9 rfl rfl)
theorem dX1_orders_151 : decode cX1_orders 151 = .ok (.iinc 6 1, 3) := dk_132 6 1 (dk_at dksX1_orders_6 12 rfl rfl)
theorem dX1_orders_154 : decode cX1_orders 154 = .ok (.goto (-80), 3) := dk_167 255 176 (dk_at dksX1_orders_6 15 rfl rfl)
theorem dX1_orders_157 : decode cX1_orders 157 = .ok (.return_, 1) := dk_177 (dk_at dksX1_orders_6 18 rfl rfl)
abbrev cX1_lowestOf : ByteArray := prog_1_method_36_code
def yX1_lowestOf : MethodName := ⟨RX1, "lowestOf", "(I)I"⟩
def dkwX1_lowestOf_2 : List UInt8 := [132, 3, 1, 167, 255, 213, 28, 172]
abbrev dktX1_lowestOf_2 : List UInt8 := dkwX1_lowestOf_2 ++ []
def dkwX1_lowestOf_1 : List UInt8 := [160, 0, 23, 28, 42, 180, 0, 19, 180, 0, 85, 29, 50, 180, 0, 167, 184, 0, 188, 184, 0, 223, 61]
abbrev dktX1_lowestOf_1 : List UInt8 := dkwX1_lowestOf_1 ++ dktX1_lowestOf_2
def dkwX1_lowestOf_0 : List UInt8 := [18, 253, 61, 3, 62, 29, 42, 180, 0, 19, 180, 0, 74, 162, 0, 38, 27, 29, 122, 4, 126, 4]
abbrev dktX1_lowestOf_0 : List UInt8 := dkwX1_lowestOf_0 ++ dktX1_lowestOf_1
theorem dksX1_lowestOf_0 : cX1_lowestOf.data.toList.drop 0 = dktX1_lowestOf_0 := by decide +kernel
theorem dksX1_lowestOf_1 : cX1_lowestOf.data.toList.drop 22 = dktX1_lowestOf_1 := dk_seg dksX1_lowestOf_0 22 rfl rfl
theorem dksX1_lowestOf_2 : cX1_lowestOf.data.toList.drop 45 = dktX1_lowestOf_2 := dk_seg dksX1_lowestOf_1 23 rfl rfl
theorem dX1_lowestOf_0 : decode cX1_lowestOf 0 = .ok (.ldc 253, 2) := dk_18 253 (dk_at dksX1_lowestOf_0 0 rfl rfl)
theorem dX1_lowestOf_2 : decode cX1_lowestOf 2 = .ok (.istore_n 2, 1) := dk_61 (dk_at dksX1_lowestOf_0 2 rfl rfl)
theorem dX1_lowestOf_3 : decode cX1_lowestOf 3 = .ok (.iconst 0, 1) := dk_3 (dk_at dksX1_lowestOf_0 3 rfl rfl)
theorem dX1_lowestOf_4 : decode cX1_lowestOf 4 = .ok (.istore_n 3, 1) := dk_62 (dk_at dksX1_lowestOf_0 4 rfl rfl)
theorem dX1_lowestOf_5 : decode cX1_lowestOf 5 = .ok (.iload_n 3, 1) := dk_29 (dk_at dksX1_lowestOf_0 5 rfl rfl)
theorem dX1_lowestOf_6 : decode cX1_lowestOf 6 = .ok (.aload_n 0, 1) := dk_42 (dk_at dksX1_lowestOf_0 6 rfl rfl)
theorem dX1_lowestOf_7 : decode cX1_lowestOf 7 = .ok (.getfield 19, 3) := dk_180 0 19 (dk_at dksX1_lowestOf_0 7 rfl rfl)
theorem dX1_lowestOf_10 : decode cX1_lowestOf 10 = .ok (.getfield 74, 3) := dk_180 0 74 (dk_at dksX1_lowestOf_0 10 rfl rfl)
theorem dX1_lowestOf_13 : decode cX1_lowestOf 13 = .ok (.if_icmp .ge 38, 3) := dk_162 0 38 (dk_at dksX1_lowestOf_0 13 rfl rfl)
theorem dX1_lowestOf_16 : decode cX1_lowestOf 16 = .ok (.iload_n 1, 1) := dk_27 (dk_at dksX1_lowestOf_0 16 rfl rfl)
theorem dX1_lowestOf_17 : decode cX1_lowestOf 17 = .ok (.iload_n 3, 1) := dk_29 (dk_at dksX1_lowestOf_0 17 rfl rfl)
theorem dX1_lowestOf_18 : decode cX1_lowestOf 18 = .ok (.ishr, 1) := dk_122 (dk_at dksX1_lowestOf_0 18 rfl rfl)
theorem dX1_lowestOf_19 : decode cX1_lowestOf 19 = .ok (.iconst 1, 1) := dk_4 (dk_at dksX1_lowestOf_0 19 rfl rfl)
theorem dX1_lowestOf_20 : decode cX1_lowestOf 20 = .ok (.iand, 1) := dk_126 (dk_at dksX1_lowestOf_0 20 rfl rfl)
theorem dX1_lowestOf_21 : decode cX1_lowestOf 21 = .ok (.iconst 1, 1) := dk_4 (dk_at dksX1_lowestOf_0 21 rfl rfl)
theorem dX1_lowestOf_22 : decode cX1_lowestOf 22 = .ok (.if_icmp .ne 23, 3) := dk_160 0 23 (dk_at dksX1_lowestOf_1 0 rfl rfl)
theorem dX1_lowestOf_25 : decode cX1_lowestOf 25 = .ok (.iload_n 2, 1) := dk_28 (dk_at dksX1_lowestOf_1 3 rfl rfl)
theorem dX1_lowestOf_26 : decode cX1_lowestOf 26 = .ok (.aload_n 0, 1) := dk_42 (dk_at dksX1_lowestOf_1 4 rfl rfl)
theorem dX1_lowestOf_27 : decode cX1_lowestOf 27 = .ok (.getfield 19, 3) := dk_180 0 19 (dk_at dksX1_lowestOf_1 5 rfl rfl)
theorem dX1_lowestOf_30 : decode cX1_lowestOf 30 = .ok (.getfield 85, 3) := dk_180 0 85 (dk_at dksX1_lowestOf_1 8 rfl rfl)
theorem dX1_lowestOf_33 : decode cX1_lowestOf 33 = .ok (.iload_n 3, 1) := dk_29 (dk_at dksX1_lowestOf_1 11 rfl rfl)
theorem dX1_lowestOf_34 : decode cX1_lowestOf 34 = .ok (.aaload, 1) := dk_50 (dk_at dksX1_lowestOf_1 12 rfl rfl)
theorem dX1_lowestOf_35 : decode cX1_lowestOf 35 = .ok (.getfield 167, 3) := dk_180 0 167 (dk_at dksX1_lowestOf_1 13 rfl rfl)
theorem dX1_lowestOf_38 : decode cX1_lowestOf 38 = .ok (.invokestatic 188, 3) := dk_184 0 188 (dk_at dksX1_lowestOf_1 16 rfl rfl)
theorem dX1_lowestOf_41 : decode cX1_lowestOf 41 = .ok (.invokestatic 223, 3) := dk_184 0 223 (dk_at dksX1_lowestOf_1 19 rfl rfl)
theorem dX1_lowestOf_44 : decode cX1_lowestOf 44 = .ok (.istore_n 2, 1) := dk_61 (dk_at dksX1_lowestOf_1 22 rfl rfl)
theorem dX1_lowestOf_45 : decode cX1_lowestOf 45 = .ok (.iinc 3 1, 3) := dk_132 3 1 (dk_at dksX1_lowestOf_2 0 rfl rfl)
theorem dX1_lowestOf_48 : decode cX1_lowestOf 48 = .ok (.goto (-43), 3) := dk_167 255 213 (dk_at dksX1_lowestOf_2 3 rfl rfl)
theorem dX1_lowestOf_51 : decode cX1_lowestOf 51 = .ok (.iload_n 2, 1) := dk_28 (dk_at dksX1_lowestOf_2 6 rfl rfl)
theorem dX1_lowestOf_52 : decode cX1_lowestOf 52 = .ok (.ireturn, 1) := dk_172 (dk_at dksX1_lowestOf_2 7 rfl rfl)
abbrev cX1_lowest : ByteArray := prog_1_method_40_code
def yX1_lowest : MethodName := ⟨RX1, "lowest", "(II)I"⟩
def dkwX1_lowest_0 : List UInt8 := [42, 27, 28, 182, 1, 20, 62, 42, 180, 0, 254, 172]
abbrev dktX1_lowest_0 : List UInt8 := dkwX1_lowest_0 ++ []
theorem dksX1_lowest_0 : cX1_lowest.data.toList.drop 0 = dktX1_lowest_0 := by decide +kernel
theorem dX1_lowest_0 : decode cX1_lowest 0 = .ok (.aload_n 0, 1) := dk_42 (dk_at dksX1_lowest_0 0 rfl rfl)
theorem dX1_lowest_1 : decode cX1_lowest 1 = .ok (.iload_n 1, 1) := dk_27 (dk_at dksX1_lowest_0 1 rfl rfl)
theorem dX1_lowest_2 : decode cX1_lowest 2 = .ok (.iload_n 2, 1) := dk_28 (dk_at dksX1_lowest_0 2 rfl rfl)
theorem dX1_lowest_3 : decode cX1_lowest 3 = .ok (.invokevirtual 276, 3) := dk_182 1 20 (dk_at dksX1_lowest_0 3 rfl rfl)
theorem dX1_lowest_6 : decode cX1_lowest 6 = .ok (.istore_n 3, 1) := dk_62 (dk_at dksX1_lowest_0 6 rfl rfl)
theorem dX1_lowest_7 : decode cX1_lowest 7 = .ok (.aload_n 0, 1) := dk_42 (dk_at dksX1_lowest_0 7 rfl rfl)
theorem dX1_lowest_8 : decode cX1_lowest 8 = .ok (.getfield 254, 3) := dk_180 0 254 (dk_at dksX1_lowest_0 8 rfl rfl)
theorem dX1_lowest_11 : decode cX1_lowest 11 = .ok (.ireturn, 1) := dk_172 (dk_at dksX1_lowest_0 11 rfl rfl)
abbrev cX1_reach : ByteArray := prog_1_method_41_code
def yX1_reach : MethodName := ⟨RX1, "reach", "(IIII)I"⟩
def dkwX1_reach_4 : List UInt8 := [42, 180, 0, 19, 42, 180, 0, 26, 182, 0, 130, 21, 6, 172]
abbrev dktX1_reach_4 : List UInt8 := dkwX1_reach_4 ++ []
def dkwX1_reach_3 : List UInt8 := [161, 0, 7, 21, 7, 54, 6, 42, 180, 0, 19, 27, 28, 182, 0, 237, 54, 8, 132, 7, 1, 167, 255, 213]
abbrev dktX1_reach_3 : List UInt8 := dkwX1_reach_3 ++ dktX1_reach_4
def dkwX1_reach_2 : List UInt8 := [21, 7, 16, 20, 163, 0, 42, 21, 6, 2, 160, 0, 36, 25, 5, 180, 0, 167, 29, 46, 21, 4]
abbrev dktX1_reach_2 : List UInt8 := dkwX1_reach_2 ++ dktX1_reach_3
def dkwX1_reach_1 : List UInt8 := [184, 0, 77, 184, 0, 228, 42, 180, 0, 26, 42, 180, 0, 19, 182, 0, 130, 2, 54, 6, 3, 54, 7]
abbrev dktX1_reach_1 : List UInt8 := dkwX1_reach_1 ++ dktX1_reach_2
def dkwX1_reach_0 : List UInt8 := [42, 27, 182, 0, 163, 58, 5, 42, 28, 182, 0, 192, 87, 29, 184, 0, 213, 21, 4, 4, 16, 99]
abbrev dktX1_reach_0 : List UInt8 := dkwX1_reach_0 ++ dktX1_reach_1
theorem dksX1_reach_0 : cX1_reach.data.toList.drop 0 = dktX1_reach_0 := by decide +kernel
theorem dksX1_reach_1 : cX1_reach.data.toList.drop 22 = dktX1_reach_1 := dk_seg dksX1_reach_0 22 rfl rfl
theorem dksX1_reach_2 : cX1_reach.data.toList.drop 45 = dktX1_reach_2 := dk_seg dksX1_reach_1 23 rfl rfl
theorem dksX1_reach_3 : cX1_reach.data.toList.drop 67 = dktX1_reach_3 := dk_seg dksX1_reach_2 22 rfl rfl
theorem dksX1_reach_4 : cX1_reach.data.toList.drop 91 = dktX1_reach_4 := dk_seg dksX1_reach_3 24 rfl rfl
theorem dX1_reach_0 : decode cX1_reach 0 = .ok (.aload_n 0, 1) := dk_42 (dk_at dksX1_reach_0 0 rfl rfl)
theorem dX1_reach_1 : decode cX1_reach 1 = .ok (.iload_n 1, 1) := dk_27 (dk_at dksX1_reach_0 1 rfl rfl)
theorem dX1_reach_2 : decode cX1_reach 2 = .ok (.invokevirtual 163, 3) := dk_182 0 163 (dk_at dksX1_reach_0 2 rfl rfl)
theorem dX1_reach_5 : decode cX1_reach 5 = .ok (.astore 5, 2) := dk_58 5 (dk_at dksX1_reach_0 5 rfl rfl)
theorem dX1_reach_7 : decode cX1_reach 7 = .ok (.aload_n 0, 1) := dk_42 (dk_at dksX1_reach_0 7 rfl rfl)
theorem dX1_reach_8 : decode cX1_reach 8 = .ok (.iload_n 2, 1) := dk_28 (dk_at dksX1_reach_0 8 rfl rfl)
theorem dX1_reach_9 : decode cX1_reach 9 = .ok (.invokevirtual 192, 3) := dk_182 0 192 (dk_at dksX1_reach_0 9 rfl rfl)
theorem dX1_reach_12 : decode cX1_reach 12 = .ok (.pop, 1) := dk_87 (dk_at dksX1_reach_0 12 rfl rfl)
theorem dX1_reach_13 : decode cX1_reach 13 = .ok (.iload_n 3, 1) := dk_29 (dk_at dksX1_reach_0 13 rfl rfl)
theorem dX1_reach_14 : decode cX1_reach 14 = .ok (.invokestatic 213, 3) := dk_184 0 213 (dk_at dksX1_reach_0 14 rfl rfl)
theorem dX1_reach_17 : decode cX1_reach 17 = .ok (.iload 4, 2) := dk_21 4 (dk_at dksX1_reach_0 17 rfl rfl)
theorem dX1_reach_19 : decode cX1_reach 19 = .ok (.iconst 1, 1) := dk_4 (dk_at dksX1_reach_0 19 rfl rfl)
theorem dX1_reach_20 : decode cX1_reach 20 = .ok (.bipush 99, 2) := dk_16 99 (dk_at dksX1_reach_0 20 rfl rfl)
theorem dX1_reach_22 : decode cX1_reach 22 = .ok (.invokestatic 77, 3) := dk_184 0 77 (dk_at dksX1_reach_1 0 rfl rfl)
theorem dX1_reach_25 : decode cX1_reach 25 = .ok (.invokestatic 228, 3) := dk_184 0 228 (dk_at dksX1_reach_1 3 rfl rfl)
theorem dX1_reach_28 : decode cX1_reach 28 = .ok (.aload_n 0, 1) := dk_42 (dk_at dksX1_reach_1 6 rfl rfl)
theorem dX1_reach_29 : decode cX1_reach 29 = .ok (.getfield 26, 3) := dk_180 0 26 (dk_at dksX1_reach_1 7 rfl rfl)
theorem dX1_reach_32 : decode cX1_reach 32 = .ok (.aload_n 0, 1) := dk_42 (dk_at dksX1_reach_1 10 rfl rfl)
theorem dX1_reach_33 : decode cX1_reach 33 = .ok (.getfield 19, 3) := dk_180 0 19 (dk_at dksX1_reach_1 11 rfl rfl)
theorem dX1_reach_36 : decode cX1_reach 36 = .ok (.invokevirtual 130, 3) := dk_182 0 130 (dk_at dksX1_reach_1 14 rfl rfl)
theorem dX1_reach_39 : decode cX1_reach 39 = .ok (.iconst (-1), 1) := dk_2 (dk_at dksX1_reach_1 17 rfl rfl)
theorem dX1_reach_40 : decode cX1_reach 40 = .ok (.istore 6, 2) := dk_54 6 (dk_at dksX1_reach_1 18 rfl rfl)
theorem dX1_reach_42 : decode cX1_reach 42 = .ok (.iconst 0, 1) := dk_3 (dk_at dksX1_reach_1 20 rfl rfl)
theorem dX1_reach_43 : decode cX1_reach 43 = .ok (.istore 7, 2) := dk_54 7 (dk_at dksX1_reach_1 21 rfl rfl)
theorem dX1_reach_45 : decode cX1_reach 45 = .ok (.iload 7, 2) := dk_21 7 (dk_at dksX1_reach_2 0 rfl rfl)
theorem dX1_reach_47 : decode cX1_reach 47 = .ok (.bipush 20, 2) := dk_16 20 (dk_at dksX1_reach_2 2 rfl rfl)
theorem dX1_reach_49 : decode cX1_reach 49 = .ok (.if_icmp .gt 42, 3) := dk_163 0 42 (dk_at dksX1_reach_2 4 rfl rfl)
theorem dX1_reach_52 : decode cX1_reach 52 = .ok (.iload 6, 2) := dk_21 6 (dk_at dksX1_reach_2 7 rfl rfl)
theorem dX1_reach_54 : decode cX1_reach 54 = .ok (.iconst (-1), 1) := dk_2 (dk_at dksX1_reach_2 9 rfl rfl)
theorem dX1_reach_55 : decode cX1_reach 55 = .ok (.if_icmp .ne 36, 3) := dk_160 0 36 (dk_at dksX1_reach_2 10 rfl rfl)
theorem dX1_reach_58 : decode cX1_reach 58 = .ok (.aload 5, 2) := dk_25 5 (dk_at dksX1_reach_2 13 rfl rfl)
theorem dX1_reach_60 : decode cX1_reach 60 = .ok (.getfield 167, 3) := dk_180 0 167 (dk_at dksX1_reach_2 15 rfl rfl)
theorem dX1_reach_63 : decode cX1_reach 63 = .ok (.iload_n 3, 1) := dk_29 (dk_at dksX1_reach_2 18 rfl rfl)
theorem dX1_reach_64 : decode cX1_reach 64 = .ok (.iaload, 1) := dk_46 (dk_at dksX1_reach_2 19 rfl rfl)
theorem dX1_reach_65 : decode cX1_reach 65 = .ok (.iload 4, 2) := dk_21 4 (dk_at dksX1_reach_2 20 rfl rfl)
theorem dX1_reach_67 : decode cX1_reach 67 = .ok (.if_icmp .lt 7, 3) := dk_161 0 7 (dk_at dksX1_reach_3 0 rfl rfl)
theorem dX1_reach_70 : decode cX1_reach 70 = .ok (.iload 7, 2) := dk_21 7 (dk_at dksX1_reach_3 3 rfl rfl)
theorem dX1_reach_72 : decode cX1_reach 72 = .ok (.istore 6, 2) := dk_54 6 (dk_at dksX1_reach_3 5 rfl rfl)
theorem dX1_reach_74 : decode cX1_reach 74 = .ok (.aload_n 0, 1) := dk_42 (dk_at dksX1_reach_3 7 rfl rfl)
theorem dX1_reach_75 : decode cX1_reach 75 = .ok (.getfield 19, 3) := dk_180 0 19 (dk_at dksX1_reach_3 8 rfl rfl)
theorem dX1_reach_78 : decode cX1_reach 78 = .ok (.iload_n 1, 1) := dk_27 (dk_at dksX1_reach_3 11 rfl rfl)
theorem dX1_reach_79 : decode cX1_reach 79 = .ok (.iload_n 2, 1) := dk_28 (dk_at dksX1_reach_3 12 rfl rfl)
theorem dX1_reach_80 : decode cX1_reach 80 = .ok (.invokevirtual 237, 3) := dk_182 0 237 (dk_at dksX1_reach_3 13 rfl rfl)
theorem dX1_reach_83 : decode cX1_reach 83 = .ok (.istore 8, 2) := dk_54 8 (dk_at dksX1_reach_3 16 rfl rfl)
theorem dX1_reach_85 : decode cX1_reach 85 = .ok (.iinc 7 1, 3) := dk_132 7 1 (dk_at dksX1_reach_3 18 rfl rfl)
theorem dX1_reach_88 : decode cX1_reach 88 = .ok (.goto (-43), 3) := dk_167 255 213 (dk_at dksX1_reach_3 21 rfl rfl)
theorem dX1_reach_91 : decode cX1_reach 91 = .ok (.aload_n 0, 1) := dk_42 (dk_at dksX1_reach_4 0 rfl rfl)
theorem dX1_reach_92 : decode cX1_reach 92 = .ok (.getfield 19, 3) := dk_180 0 19 (dk_at dksX1_reach_4 1 rfl rfl)
theorem dX1_reach_95 : decode cX1_reach 95 = .ok (.aload_n 0, 1) := dk_42 (dk_at dksX1_reach_4 4 rfl rfl)
theorem dX1_reach_96 : decode cX1_reach 96 = .ok (.getfield 26, 3) := dk_180 0 26 (dk_at dksX1_reach_4 5 rfl rfl)
theorem dX1_reach_99 : decode cX1_reach 99 = .ok (.invokevirtual 130, 3) := dk_182 0 130 (dk_at dksX1_reach_4 8 rfl rfl)
theorem dX1_reach_102 : decode cX1_reach 102 = .ok (.iload 6, 2) := dk_21 6 (dk_at dksX1_reach_4 11 rfl rfl)
theorem dX1_reach_104 : decode cX1_reach 104 = .ok (.ireturn, 1) := dk_172 (dk_at dksX1_reach_4 13 rfl rfl)
abbrev cX1_chain : ByteArray := prog_1_method_43_code
def yX1_chain : MethodName := ⟨RX1, "chain", "(I)I"⟩
def dkwX1_chain_0 : List UInt8 := [42, 27, 182, 0, 192, 87, 42, 27, 182, 1, 28, 172]
abbrev dktX1_chain_0 : List UInt8 := dkwX1_chain_0 ++ []
theorem dksX1_chain_0 : cX1_chain.data.toList.drop 0 = dktX1_chain_0 := by decide +kernel
theorem dX1_chain_0 : decode cX1_chain 0 = .ok (.aload_n 0, 1) := dk_42 (dk_at dksX1_chain_0 0 rfl rfl)
theorem dX1_chain_1 : decode cX1_chain 1 = .ok (.iload_n 1, 1) := dk_27 (dk_at dksX1_chain_0 1 rfl rfl)
theorem dX1_chain_2 : decode cX1_chain 2 = .ok (.invokevirtual 192, 3) := dk_182 0 192 (dk_at dksX1_chain_0 2 rfl rfl)
theorem dX1_chain_5 : decode cX1_chain 5 = .ok (.pop, 1) := dk_87 (dk_at dksX1_chain_0 5 rfl rfl)
theorem dX1_chain_6 : decode cX1_chain 6 = .ok (.aload_n 0, 1) := dk_42 (dk_at dksX1_chain_0 6 rfl rfl)
theorem dX1_chain_7 : decode cX1_chain 7 = .ok (.iload_n 1, 1) := dk_27 (dk_at dksX1_chain_0 7 rfl rfl)
theorem dX1_chain_8 : decode cX1_chain 8 = .ok (.invokevirtual 284, 3) := dk_182 1 28 (dk_at dksX1_chain_0 8 rfl rfl)
theorem dX1_chain_11 : decode cX1_chain 11 = .ok (.ireturn, 1) := dk_172 (dk_at dksX1_chain_0 11 rfl rfl)
abbrev cX1_chainOf : ByteArray := prog_1_method_42_code
def yX1_chainOf : MethodName := ⟨RX1, "chainOf", "(I)I"⟩
def dkwX1_chainOf_2 : List UInt8 := [132, 3, 1, 167, 255, 211, 28, 172]
abbrev dktX1_chainOf_2 : List UInt8 := dkwX1_chainOf_2 ++ []
def dkwX1_chainOf_1 : List UInt8 := [182, 1, 26, 27, 160, 0, 17, 4, 42, 180, 0, 19, 29, 4, 182, 1, 26, 120, 167, 0, 4, 3, 128, 61]
abbrev dktX1_chainOf_1 : List UInt8 := dkwX1_chainOf_1 ++ dktX1_chainOf_2
def dkwX1_chainOf_0 : List UInt8 := [3, 61, 3, 62, 42, 180, 0, 19, 29, 182, 1, 23, 153, 0, 40, 28, 42, 180, 0, 19, 29, 5]
abbrev dktX1_chainOf_0 : List UInt8 := dkwX1_chainOf_0 ++ dktX1_chainOf_1
theorem dksX1_chainOf_0 : cX1_chainOf.data.toList.drop 0 = dktX1_chainOf_0 := by decide +kernel
theorem dksX1_chainOf_1 : cX1_chainOf.data.toList.drop 22 = dktX1_chainOf_1 := dk_seg dksX1_chainOf_0 22 rfl rfl
theorem dksX1_chainOf_2 : cX1_chainOf.data.toList.drop 46 = dktX1_chainOf_2 := dk_seg dksX1_chainOf_1 24 rfl rfl
theorem dX1_chainOf_0 : decode cX1_chainOf 0 = .ok (.iconst 0, 1) := dk_3 (dk_at dksX1_chainOf_0 0 rfl rfl)
theorem dX1_chainOf_1 : decode cX1_chainOf 1 = .ok (.istore_n 2, 1) := dk_61 (dk_at dksX1_chainOf_0 1 rfl rfl)
theorem dX1_chainOf_2 : decode cX1_chainOf 2 = .ok (.iconst 0, 1) := dk_3 (dk_at dksX1_chainOf_0 2 rfl rfl)
theorem dX1_chainOf_3 : decode cX1_chainOf 3 = .ok (.istore_n 3, 1) := dk_62 (dk_at dksX1_chainOf_0 3 rfl rfl)
theorem dX1_chainOf_4 : decode cX1_chainOf 4 = .ok (.aload_n 0, 1) := dk_42 (dk_at dksX1_chainOf_0 4 rfl rfl)
theorem dX1_chainOf_5 : decode cX1_chainOf 5 = .ok (.getfield 19, 3) := dk_180 0 19 (dk_at dksX1_chainOf_0 5 rfl rfl)
theorem dX1_chainOf_8 : decode cX1_chainOf 8 = .ok (.iload_n 3, 1) := dk_29 (dk_at dksX1_chainOf_0 8 rfl rfl)
theorem dX1_chainOf_9 : decode cX1_chainOf 9 = .ok (.invokevirtual 279, 3) := dk_182 1 23 (dk_at dksX1_chainOf_0 9 rfl rfl)
theorem dX1_chainOf_12 : decode cX1_chainOf 12 = .ok (.ifCond .eq 40, 3) := dk_153 0 40 (dk_at dksX1_chainOf_0 12 rfl rfl)
theorem dX1_chainOf_15 : decode cX1_chainOf 15 = .ok (.iload_n 2, 1) := dk_28 (dk_at dksX1_chainOf_0 15 rfl rfl)
theorem dX1_chainOf_16 : decode cX1_chainOf 16 = .ok (.aload_n 0, 1) := dk_42 (dk_at dksX1_chainOf_0 16 rfl rfl)
theorem dX1_chainOf_17 : decode cX1_chainOf 17 = .ok (.getfield 19, 3) := dk_180 0 19 (dk_at dksX1_chainOf_0 17 rfl rfl)
theorem dX1_chainOf_20 : decode cX1_chainOf 20 = .ok (.iload_n 3, 1) := dk_29 (dk_at dksX1_chainOf_0 20 rfl rfl)
theorem dX1_chainOf_21 : decode cX1_chainOf 21 = .ok (.iconst 2, 1) := dk_5 (dk_at dksX1_chainOf_0 21 rfl rfl)
theorem dX1_chainOf_22 : decode cX1_chainOf 22 = .ok (.invokevirtual 282, 3) := dk_182 1 26 (dk_at dksX1_chainOf_1 0 rfl rfl)
theorem dX1_chainOf_25 : decode cX1_chainOf 25 = .ok (.iload_n 1, 1) := dk_27 (dk_at dksX1_chainOf_1 3 rfl rfl)
theorem dX1_chainOf_26 : decode cX1_chainOf 26 = .ok (.if_icmp .ne 17, 3) := dk_160 0 17 (dk_at dksX1_chainOf_1 4 rfl rfl)
theorem dX1_chainOf_29 : decode cX1_chainOf 29 = .ok (.iconst 1, 1) := dk_4 (dk_at dksX1_chainOf_1 7 rfl rfl)
theorem dX1_chainOf_30 : decode cX1_chainOf 30 = .ok (.aload_n 0, 1) := dk_42 (dk_at dksX1_chainOf_1 8 rfl rfl)
theorem dX1_chainOf_31 : decode cX1_chainOf 31 = .ok (.getfield 19, 3) := dk_180 0 19 (dk_at dksX1_chainOf_1 9 rfl rfl)
theorem dX1_chainOf_34 : decode cX1_chainOf 34 = .ok (.iload_n 3, 1) := dk_29 (dk_at dksX1_chainOf_1 12 rfl rfl)
theorem dX1_chainOf_35 : decode cX1_chainOf 35 = .ok (.iconst 1, 1) := dk_4 (dk_at dksX1_chainOf_1 13 rfl rfl)
theorem dX1_chainOf_36 : decode cX1_chainOf 36 = .ok (.invokevirtual 282, 3) := dk_182 1 26 (dk_at dksX1_chainOf_1 14 rfl rfl)
theorem dX1_chainOf_39 : decode cX1_chainOf 39 = .ok (.ishl, 1) := dk_120 (dk_at dksX1_chainOf_1 17 rfl rfl)
theorem dX1_chainOf_40 : decode cX1_chainOf 40 = .ok (.goto 4, 3) := dk_167 0 4 (dk_at dksX1_chainOf_1 18 rfl rfl)
theorem dX1_chainOf_43 : decode cX1_chainOf 43 = .ok (.iconst 0, 1) := dk_3 (dk_at dksX1_chainOf_1 21 rfl rfl)
theorem dX1_chainOf_44 : decode cX1_chainOf 44 = .ok (.ior, 1) := dk_128 (dk_at dksX1_chainOf_1 22 rfl rfl)
theorem dX1_chainOf_45 : decode cX1_chainOf 45 = .ok (.istore_n 2, 1) := dk_61 (dk_at dksX1_chainOf_1 23 rfl rfl)
theorem dX1_chainOf_46 : decode cX1_chainOf 46 = .ok (.iinc 3 1, 3) := dk_132 3 1 (dk_at dksX1_chainOf_2 0 rfl rfl)
theorem dX1_chainOf_49 : decode cX1_chainOf 49 = .ok (.goto (-45), 3) := dk_167 255 211 (dk_at dksX1_chainOf_2 3 rfl rfl)
theorem dX1_chainOf_52 : decode cX1_chainOf 52 = .ok (.iload_n 2, 1) := dk_28 (dk_at dksX1_chainOf_2 6 rfl rfl)
theorem dX1_chainOf_53 : decode cX1_chainOf 53 = .ok (.ireturn, 1) := dk_172 (dk_at dksX1_chainOf_2 7 rfl rfl)
abbrev cX1_since : ByteArray := prog_1_method_44_code
def yX1_since : MethodName := ⟨RX1, "since", "(II)I"⟩
def dkwX1_since_3 : List UInt8 := [160, 0, 10, 4, 21, 4, 120, 167, 0, 4, 3, 128, 62, 132, 4, 1, 167, 255, 202, 29, 172]
abbrev dktX1_since_3 : List UInt8 := dkwX1_since_3 ++ []
def dkwX1_since_2 : List UInt8 := [182, 1, 28, 54, 5, 29, 21, 5, 27, 122, 4, 126, 4, 160, 0, 20, 21, 5, 28, 122, 4, 126, 4]
abbrev dktX1_since_2 : List UInt8 := dkwX1_since_2 ++ dktX1_since_3
def dkwX1_since_1 : List UInt8 := [184, 0, 228, 3, 62, 3, 54, 4, 21, 4, 42, 180, 0, 19, 180, 0, 89, 162, 0, 48, 42, 21, 4]
abbrev dktX1_since_1 : List UInt8 := dkwX1_since_1 ++ dktX1_since_2
def dkwX1_since_0 : List UInt8 := [42, 27, 182, 0, 163, 87, 42, 28, 182, 0, 163, 87, 27, 28, 159, 0, 7, 4, 167, 0, 4, 3]
abbrev dktX1_since_0 : List UInt8 := dkwX1_since_0 ++ dktX1_since_1
theorem dksX1_since_0 : cX1_since.data.toList.drop 0 = dktX1_since_0 := by decide +kernel
theorem dksX1_since_1 : cX1_since.data.toList.drop 22 = dktX1_since_1 := dk_seg dksX1_since_0 22 rfl rfl
theorem dksX1_since_2 : cX1_since.data.toList.drop 45 = dktX1_since_2 := dk_seg dksX1_since_1 23 rfl rfl
theorem dksX1_since_3 : cX1_since.data.toList.drop 68 = dktX1_since_3 := dk_seg dksX1_since_2 23 rfl rfl
theorem dX1_since_0 : decode cX1_since 0 = .ok (.aload_n 0, 1) := dk_42 (dk_at dksX1_since_0 0 rfl rfl)
theorem dX1_since_1 : decode cX1_since 1 = .ok (.iload_n 1, 1) := dk_27 (dk_at dksX1_since_0 1 rfl rfl)
theorem dX1_since_2 : decode cX1_since 2 = .ok (.invokevirtual 163, 3) := dk_182 0 163 (dk_at dksX1_since_0 2 rfl rfl)
theorem dX1_since_5 : decode cX1_since 5 = .ok (.pop, 1) := dk_87 (dk_at dksX1_since_0 5 rfl rfl)
theorem dX1_since_6 : decode cX1_since 6 = .ok (.aload_n 0, 1) := dk_42 (dk_at dksX1_since_0 6 rfl rfl)
theorem dX1_since_7 : decode cX1_since 7 = .ok (.iload_n 2, 1) := dk_28 (dk_at dksX1_since_0 7 rfl rfl)
theorem dX1_since_8 : decode cX1_since 8 = .ok (.invokevirtual 163, 3) := dk_182 0 163 (dk_at dksX1_since_0 8 rfl rfl)
theorem dX1_since_11 : decode cX1_since 11 = .ok (.pop, 1) := dk_87 (dk_at dksX1_since_0 11 rfl rfl)
theorem dX1_since_12 : decode cX1_since 12 = .ok (.iload_n 1, 1) := dk_27 (dk_at dksX1_since_0 12 rfl rfl)
theorem dX1_since_13 : decode cX1_since 13 = .ok (.iload_n 2, 1) := dk_28 (dk_at dksX1_since_0 13 rfl rfl)
theorem dX1_since_14 : decode cX1_since 14 = .ok (.if_icmp .eq 7, 3) := dk_159 0 7 (dk_at dksX1_since_0 14 rfl rfl)
theorem dX1_since_17 : decode cX1_since 17 = .ok (.iconst 1, 1) := dk_4 (dk_at dksX1_since_0 17 rfl rfl)
theorem dX1_since_18 : decode cX1_since 18 = .ok (.goto 4, 3) := dk_167 0 4 (dk_at dksX1_since_0 18 rfl rfl)
theorem dX1_since_21 : decode cX1_since 21 = .ok (.iconst 0, 1) := dk_3 (dk_at dksX1_since_0 21 rfl rfl)
theorem dX1_since_22 : decode cX1_since 22 = .ok (.invokestatic 228, 3) := dk_184 0 228 (dk_at dksX1_since_1 0 rfl rfl)
theorem dX1_since_25 : decode cX1_since 25 = .ok (.iconst 0, 1) := dk_3 (dk_at dksX1_since_1 3 rfl rfl)
theorem dX1_since_26 : decode cX1_since 26 = .ok (.istore_n 3, 1) := dk_62 (dk_at dksX1_since_1 4 rfl rfl)
theorem dX1_since_27 : decode cX1_since 27 = .ok (.iconst 0, 1) := dk_3 (dk_at dksX1_since_1 5 rfl rfl)
theorem dX1_since_28 : decode cX1_since 28 = .ok (.istore 4, 2) := dk_54 4 (dk_at dksX1_since_1 6 rfl rfl)
theorem dX1_since_30 : decode cX1_since 30 = .ok (.iload 4, 2) := dk_21 4 (dk_at dksX1_since_1 8 rfl rfl)
theorem dX1_since_32 : decode cX1_since 32 = .ok (.aload_n 0, 1) := dk_42 (dk_at dksX1_since_1 10 rfl rfl)
theorem dX1_since_33 : decode cX1_since 33 = .ok (.getfield 19, 3) := dk_180 0 19 (dk_at dksX1_since_1 11 rfl rfl)
theorem dX1_since_36 : decode cX1_since 36 = .ok (.getfield 89, 3) := dk_180 0 89 (dk_at dksX1_since_1 14 rfl rfl)
theorem dX1_since_39 : decode cX1_since 39 = .ok (.if_icmp .ge 48, 3) := dk_162 0 48 (dk_at dksX1_since_1 17 rfl rfl)
theorem dX1_since_42 : decode cX1_since 42 = .ok (.aload_n 0, 1) := dk_42 (dk_at dksX1_since_1 20 rfl rfl)
theorem dX1_since_43 : decode cX1_since 43 = .ok (.iload 4, 2) := dk_21 4 (dk_at dksX1_since_1 21 rfl rfl)
theorem dX1_since_45 : decode cX1_since 45 = .ok (.invokevirtual 284, 3) := dk_182 1 28 (dk_at dksX1_since_2 0 rfl rfl)
theorem dX1_since_48 : decode cX1_since 48 = .ok (.istore 5, 2) := dk_54 5 (dk_at dksX1_since_2 3 rfl rfl)
theorem dX1_since_50 : decode cX1_since 50 = .ok (.iload_n 3, 1) := dk_29 (dk_at dksX1_since_2 5 rfl rfl)
theorem dX1_since_51 : decode cX1_since 51 = .ok (.iload 5, 2) := dk_21 5 (dk_at dksX1_since_2 6 rfl rfl)
theorem dX1_since_53 : decode cX1_since 53 = .ok (.iload_n 1, 1) := dk_27 (dk_at dksX1_since_2 8 rfl rfl)
theorem dX1_since_54 : decode cX1_since 54 = .ok (.ishr, 1) := dk_122 (dk_at dksX1_since_2 9 rfl rfl)
theorem dX1_since_55 : decode cX1_since 55 = .ok (.iconst 1, 1) := dk_4 (dk_at dksX1_since_2 10 rfl rfl)
theorem dX1_since_56 : decode cX1_since 56 = .ok (.iand, 1) := dk_126 (dk_at dksX1_since_2 11 rfl rfl)
theorem dX1_since_57 : decode cX1_since 57 = .ok (.iconst 1, 1) := dk_4 (dk_at dksX1_since_2 12 rfl rfl)
theorem dX1_since_58 : decode cX1_since 58 = .ok (.if_icmp .ne 20, 3) := dk_160 0 20 (dk_at dksX1_since_2 13 rfl rfl)
theorem dX1_since_61 : decode cX1_since 61 = .ok (.iload 5, 2) := dk_21 5 (dk_at dksX1_since_2 16 rfl rfl)
theorem dX1_since_63 : decode cX1_since 63 = .ok (.iload_n 2, 1) := dk_28 (dk_at dksX1_since_2 18 rfl rfl)
theorem dX1_since_64 : decode cX1_since 64 = .ok (.ishr, 1) := dk_122 (dk_at dksX1_since_2 19 rfl rfl)
theorem dX1_since_65 : decode cX1_since 65 = .ok (.iconst 1, 1) := dk_4 (dk_at dksX1_since_2 20 rfl rfl)
theorem dX1_since_66 : decode cX1_since 66 = .ok (.iand, 1) := dk_126 (dk_at dksX1_since_2 21 rfl rfl)
theorem dX1_since_67 : decode cX1_since 67 = .ok (.iconst 1, 1) := dk_4 (dk_at dksX1_since_2 22 rfl rfl)
theorem dX1_since_68 : decode cX1_since 68 = .ok (.if_icmp .ne 10, 3) := dk_160 0 10 (dk_at dksX1_since_3 0 rfl rfl)
theorem dX1_since_71 : decode cX1_since 71 = .ok (.iconst 1, 1) := dk_4 (dk_at dksX1_since_3 3 rfl rfl)
theorem dX1_since_72 : decode cX1_since 72 = .ok (.iload 4, 2) := dk_21 4 (dk_at dksX1_since_3 4 rfl rfl)
theorem dX1_since_74 : decode cX1_since 74 = .ok (.ishl, 1) := dk_120 (dk_at dksX1_since_3 6 rfl rfl)
theorem dX1_since_75 : decode cX1_since 75 = .ok (.goto 4, 3) := dk_167 0 4 (dk_at dksX1_since_3 7 rfl rfl)
theorem dX1_since_78 : decode cX1_since 78 = .ok (.iconst 0, 1) := dk_3 (dk_at dksX1_since_3 10 rfl rfl)
theorem dX1_since_79 : decode cX1_since 79 = .ok (.ior, 1) := dk_128 (dk_at dksX1_since_3 11 rfl rfl)
theorem dX1_since_80 : decode cX1_since 80 = .ok (.istore_n 3, 1) := dk_62 (dk_at dksX1_since_3 12 rfl rfl)
theorem dX1_since_81 : decode cX1_since 81 = .ok (.iinc 4 1, 3) := dk_132 4 1 (dk_at dksX1_since_3 13 rfl rfl)
theorem dX1_since_84 : decode cX1_since 84 = .ok (.goto (-54), 3) := dk_167 255 202 (dk_at dksX1_since_3 16 rfl rfl)
theorem dX1_since_87 : decode cX1_since 87 = .ok (.iload_n 3, 1) := dk_29 (dk_at dksX1_since_3 19 rfl rfl)
theorem dX1_since_88 : decode cX1_since 88 = .ok (.ireturn, 1) := dk_172 (dk_at dksX1_since_3 20 rfl rfl)
abbrev cX1_whose : ByteArray := prog_1_method_46_code
def yX1_whose : MethodName := ⟨RX1, "whose", "()I"⟩
theorem dX1_whose_0 : decode cX1_whose 0 = .ok (.aload_n 0, 1) := by decide +kernel
theorem dX1_whose_1 : decode cX1_whose 1 = .ok (.invokevirtual 287, 3) := by decide +kernel
theorem dX1_whose_4 : decode cX1_whose 4 = .ok (.ireturn, 1) := by decide +kernel
abbrev cX1_hears : ByteArray := prog_1_method_45_code
def yX1_hears : MethodName := ⟨RX1, "hears", "()I"⟩
def dkwX1_hears_7 : List UInt8 := [167, 255, 199, 132, 4, 1, 167, 255, 178, 29, 172]
abbrev dktX1_hears_7 : List UInt8 := dkwX1_hears_7 ++ []
def dkwX1_hears_6 : List UInt8 := [180, 0, 96, 21, 5, 4, 96, 51, 159, 0, 12, 29, 4, 21, 4, 120, 2, 130, 126, 62, 132, 5, 2]
abbrev dktX1_hears_6 : List UInt8 := dkwX1_hears_6 ++ dktX1_hears_7
def dkwX1_hears_5 : List UInt8 := [180, 0, 85, 21, 4, 50, 180, 0, 167, 42, 180, 0, 12, 180, 0, 96, 21, 5, 51, 46, 42, 180, 0, 12]
abbrev dktX1_hears_5 : List UInt8 := dkwX1_hears_5 ++ dktX1_hears_6
def dkwX1_hears_4 : List UInt8 := [42, 180, 0, 19, 180, 0, 74, 162, 0, 72, 3, 54, 5, 21, 5, 27, 162, 0, 57, 42, 180, 0, 19]
abbrev dktX1_hears_4 : List UInt8 := dkwX1_hears_4 ++ dktX1_hears_5
def dkwX1_hears_3 : List UInt8 := [167, 255, 210, 28, 184, 0, 228, 4, 42, 180, 0, 19, 180, 0, 74, 120, 4, 100, 62, 3, 54, 4, 21, 4]
abbrev dktX1_hears_3 : List UInt8 := dkwX1_hears_3 ++ dktX1_hears_4
def dkwX1_hears_2 : List UInt8 := [5, 112, 154, 0, 7, 7, 167, 0, 5, 16, 100, 162, 0, 7, 4, 167, 0, 4, 3, 61, 132, 3, 1]
abbrev dktX1_hears_2 : List UInt8 := dkwX1_hears_2 ++ dktX1_hears_3
def dkwX1_hears_1 : List UInt8 := [62, 29, 27, 162, 0, 47, 28, 153, 0, 43, 42, 180, 0, 12, 180, 0, 96, 29, 51, 17, 0, 255, 126, 29]
abbrev dktX1_hears_1 : List UInt8 := dkwX1_hears_1 ++ dktX1_hears_2
def dkwX1_hears_0 : List UInt8 := [42, 182, 0, 112, 60, 27, 5, 112, 154, 0, 13, 27, 16, 40, 163, 0, 7, 4, 167, 0, 4, 3, 61, 3]
abbrev dktX1_hears_0 : List UInt8 := dkwX1_hears_0 ++ dktX1_hears_1
theorem dksX1_hears_0 : cX1_hears.data.toList.drop 0 = dktX1_hears_0 := by decide +kernel
theorem dksX1_hears_1 : cX1_hears.data.toList.drop 24 = dktX1_hears_1 := dk_seg dksX1_hears_0 24 rfl rfl
theorem dksX1_hears_2 : cX1_hears.data.toList.drop 48 = dktX1_hears_2 := dk_seg dksX1_hears_1 24 rfl rfl
theorem dksX1_hears_3 : cX1_hears.data.toList.drop 71 = dktX1_hears_3 := dk_seg dksX1_hears_2 23 rfl rfl
theorem dksX1_hears_4 : cX1_hears.data.toList.drop 95 = dktX1_hears_4 := dk_seg dksX1_hears_3 24 rfl rfl
theorem dksX1_hears_5 : cX1_hears.data.toList.drop 118 = dktX1_hears_5 := dk_seg dksX1_hears_4 23 rfl rfl
theorem dksX1_hears_6 : cX1_hears.data.toList.drop 142 = dktX1_hears_6 := dk_seg dksX1_hears_5 24 rfl rfl
theorem dksX1_hears_7 : cX1_hears.data.toList.drop 165 = dktX1_hears_7 := dk_seg dksX1_hears_6 23 rfl rfl
theorem dX1_hears_0 : decode cX1_hears 0 = .ok (.aload_n 0, 1) := dk_42 (dk_at dksX1_hears_0 0 rfl rfl)
theorem dX1_hears_1 : decode cX1_hears 1 = .ok (.invokevirtual 112, 3) := dk_182 0 112 (dk_at dksX1_hears_0 1 rfl rfl)
theorem dX1_hears_4 : decode cX1_hears 4 = .ok (.istore_n 1, 1) := dk_60 (dk_at dksX1_hears_0 4 rfl rfl)
theorem dX1_hears_5 : decode cX1_hears 5 = .ok (.iload_n 1, 1) := dk_27 (dk_at dksX1_hears_0 5 rfl rfl)
theorem dX1_hears_6 : decode cX1_hears 6 = .ok (.iconst 2, 1) := dk_5 (dk_at dksX1_hears_0 6 rfl rfl)
theorem dX1_hears_7 : decode cX1_hears 7 = .ok (.irem, 1) := dk_112 (dk_at dksX1_hears_0 7 rfl rfl)
theorem dX1_hears_8 : decode cX1_hears 8 = .ok (.ifCond .ne 13, 3) := dk_154 0 13 (dk_at dksX1_hears_0 8 rfl rfl)
theorem dX1_hears_11 : decode cX1_hears 11 = .ok (.iload_n 1, 1) := dk_27 (dk_at dksX1_hears_0 11 rfl rfl)
theorem dX1_hears_12 : decode cX1_hears 12 = .ok (.bipush 40, 2) := dk_16 40 (dk_at dksX1_hears_0 12 rfl rfl)
theorem dX1_hears_14 : decode cX1_hears 14 = .ok (.if_icmp .gt 7, 3) := dk_163 0 7 (dk_at dksX1_hears_0 14 rfl rfl)
theorem dX1_hears_17 : decode cX1_hears 17 = .ok (.iconst 1, 1) := dk_4 (dk_at dksX1_hears_0 17 rfl rfl)
theorem dX1_hears_18 : decode cX1_hears 18 = .ok (.goto 4, 3) := dk_167 0 4 (dk_at dksX1_hears_0 18 rfl rfl)
theorem dX1_hears_21 : decode cX1_hears 21 = .ok (.iconst 0, 1) := dk_3 (dk_at dksX1_hears_0 21 rfl rfl)
theorem dX1_hears_22 : decode cX1_hears 22 = .ok (.istore_n 2, 1) := dk_61 (dk_at dksX1_hears_0 22 rfl rfl)
theorem dX1_hears_23 : decode cX1_hears 23 = .ok (.iconst 0, 1) := dk_3 (dk_at dksX1_hears_0 23 rfl rfl)
theorem dX1_hears_24 : decode cX1_hears 24 = .ok (.istore_n 3, 1) := dk_62 (dk_at dksX1_hears_1 0 rfl rfl)
theorem dX1_hears_25 : decode cX1_hears 25 = .ok (.iload_n 3, 1) := dk_29 (dk_at dksX1_hears_1 1 rfl rfl)
theorem dX1_hears_26 : decode cX1_hears 26 = .ok (.iload_n 1, 1) := dk_27 (dk_at dksX1_hears_1 2 rfl rfl)
theorem dX1_hears_27 : decode cX1_hears 27 = .ok (.if_icmp .ge 47, 3) := dk_162 0 47 (dk_at dksX1_hears_1 3 rfl rfl)
theorem dX1_hears_30 : decode cX1_hears 30 = .ok (.iload_n 2, 1) := dk_28 (dk_at dksX1_hears_1 6 rfl rfl)
theorem dX1_hears_31 : decode cX1_hears 31 = .ok (.ifCond .eq 43, 3) := dk_153 0 43 (dk_at dksX1_hears_1 7 rfl rfl)
theorem dX1_hears_34 : decode cX1_hears 34 = .ok (.aload_n 0, 1) := dk_42 (dk_at dksX1_hears_1 10 rfl rfl)
theorem dX1_hears_35 : decode cX1_hears 35 = .ok (.getfield 12, 3) := dk_180 0 12 (dk_at dksX1_hears_1 11 rfl rfl)
theorem dX1_hears_38 : decode cX1_hears 38 = .ok (.getfield 96, 3) := dk_180 0 96 (dk_at dksX1_hears_1 14 rfl rfl)
theorem dX1_hears_41 : decode cX1_hears 41 = .ok (.iload_n 3, 1) := dk_29 (dk_at dksX1_hears_1 17 rfl rfl)
theorem dX1_hears_42 : decode cX1_hears 42 = .ok (.baload, 1) := dk_51 (dk_at dksX1_hears_1 18 rfl rfl)
theorem dX1_hears_43 : decode cX1_hears 43 = .ok (.sipush 255, 3) := dk_17 0 255 (dk_at dksX1_hears_1 19 rfl rfl)
theorem dX1_hears_46 : decode cX1_hears 46 = .ok (.iand, 1) := dk_126 (dk_at dksX1_hears_1 22 rfl rfl)
theorem dX1_hears_47 : decode cX1_hears 47 = .ok (.iload_n 3, 1) := dk_29 (dk_at dksX1_hears_1 23 rfl rfl)
theorem dX1_hears_48 : decode cX1_hears 48 = .ok (.iconst 2, 1) := dk_5 (dk_at dksX1_hears_2 0 rfl rfl)
theorem dX1_hears_49 : decode cX1_hears 49 = .ok (.irem, 1) := dk_112 (dk_at dksX1_hears_2 1 rfl rfl)
theorem dX1_hears_50 : decode cX1_hears 50 = .ok (.ifCond .ne 7, 3) := dk_154 0 7 (dk_at dksX1_hears_2 2 rfl rfl)
theorem dX1_hears_53 : decode cX1_hears 53 = .ok (.iconst 4, 1) := dk_7 (dk_at dksX1_hears_2 5 rfl rfl)
theorem dX1_hears_54 : decode cX1_hears 54 = .ok (.goto 5, 3) := dk_167 0 5 (dk_at dksX1_hears_2 6 rfl rfl)
theorem dX1_hears_57 : decode cX1_hears 57 = .ok (.bipush 100, 2) := dk_16 100 (dk_at dksX1_hears_2 9 rfl rfl)
theorem dX1_hears_59 : decode cX1_hears 59 = .ok (.if_icmp .ge 7, 3) := dk_162 0 7 (dk_at dksX1_hears_2 11 rfl rfl)
theorem dX1_hears_62 : decode cX1_hears 62 = .ok (.iconst 1, 1) := dk_4 (dk_at dksX1_hears_2 14 rfl rfl)
theorem dX1_hears_63 : decode cX1_hears 63 = .ok (.goto 4, 3) := dk_167 0 4 (dk_at dksX1_hears_2 15 rfl rfl)
theorem dX1_hears_66 : decode cX1_hears 66 = .ok (.iconst 0, 1) := dk_3 (dk_at dksX1_hears_2 18 rfl rfl)
theorem dX1_hears_67 : decode cX1_hears 67 = .ok (.istore_n 2, 1) := dk_61 (dk_at dksX1_hears_2 19 rfl rfl)
theorem dX1_hears_68 : decode cX1_hears 68 = .ok (.iinc 3 1, 3) := dk_132 3 1 (dk_at dksX1_hears_2 20 rfl rfl)
theorem dX1_hears_71 : decode cX1_hears 71 = .ok (.goto (-46), 3) := dk_167 255 210 (dk_at dksX1_hears_3 0 rfl rfl)
theorem dX1_hears_74 : decode cX1_hears 74 = .ok (.iload_n 2, 1) := dk_28 (dk_at dksX1_hears_3 3 rfl rfl)
theorem dX1_hears_75 : decode cX1_hears 75 = .ok (.invokestatic 228, 3) := dk_184 0 228 (dk_at dksX1_hears_3 4 rfl rfl)
theorem dX1_hears_78 : decode cX1_hears 78 = .ok (.iconst 1, 1) := dk_4 (dk_at dksX1_hears_3 7 rfl rfl)
theorem dX1_hears_79 : decode cX1_hears 79 = .ok (.aload_n 0, 1) := dk_42 (dk_at dksX1_hears_3 8 rfl rfl)
theorem dX1_hears_80 : decode cX1_hears 80 = .ok (.getfield 19, 3) := dk_180 0 19 (dk_at dksX1_hears_3 9 rfl rfl)
theorem dX1_hears_83 : decode cX1_hears 83 = .ok (.getfield 74, 3) := dk_180 0 74 (dk_at dksX1_hears_3 12 rfl rfl)
theorem dX1_hears_86 : decode cX1_hears 86 = .ok (.ishl, 1) := dk_120 (dk_at dksX1_hears_3 15 rfl rfl)
theorem dX1_hears_87 : decode cX1_hears 87 = .ok (.iconst 1, 1) := dk_4 (dk_at dksX1_hears_3 16 rfl rfl)
theorem dX1_hears_88 : decode cX1_hears 88 = .ok (.isub, 1) := dk_100 (dk_at dksX1_hears_3 17 rfl rfl)
theorem dX1_hears_89 : decode cX1_hears 89 = .ok (.istore_n 3, 1) := dk_62 (dk_at dksX1_hears_3 18 rfl rfl)
theorem dX1_hears_90 : decode cX1_hears 90 = .ok (.iconst 0, 1) := dk_3 (dk_at dksX1_hears_3 19 rfl rfl)
theorem dX1_hears_91 : decode cX1_hears 91 = .ok (.istore 4, 2) := dk_54 4 (dk_at dksX1_hears_3 20 rfl rfl)
theorem dX1_hears_93 : decode cX1_hears 93 = .ok (.iload 4, 2) := dk_21 4 (dk_at dksX1_hears_3 22 rfl rfl)
theorem dX1_hears_95 : decode cX1_hears 95 = .ok (.aload_n 0, 1) := dk_42 (dk_at dksX1_hears_4 0 rfl rfl)
theorem dX1_hears_96 : decode cX1_hears 96 = .ok (.getfield 19, 3) := dk_180 0 19 (dk_at dksX1_hears_4 1 rfl rfl)
theorem dX1_hears_99 : decode cX1_hears 99 = .ok (.getfield 74, 3) := dk_180 0 74 (dk_at dksX1_hears_4 4 rfl rfl)
theorem dX1_hears_102 : decode cX1_hears 102 = .ok (.if_icmp .ge 72, 3) := dk_162 0 72 (dk_at dksX1_hears_4 7 rfl rfl)
theorem dX1_hears_105 : decode cX1_hears 105 = .ok (.iconst 0, 1) := dk_3 (dk_at dksX1_hears_4 10 rfl rfl)
theorem dX1_hears_106 : decode cX1_hears 106 = .ok (.istore 5, 2) := dk_54 5 (dk_at dksX1_hears_4 11 rfl rfl)
theorem dX1_hears_108 : decode cX1_hears 108 = .ok (.iload 5, 2) := dk_21 5 (dk_at dksX1_hears_4 13 rfl rfl)
theorem dX1_hears_110 : decode cX1_hears 110 = .ok (.iload_n 1, 1) := dk_27 (dk_at dksX1_hears_4 15 rfl rfl)
theorem dX1_hears_111 : decode cX1_hears 111 = .ok (.if_icmp .ge 57, 3) := dk_162 0 57 (dk_at dksX1_hears_4 16 rfl rfl)
theorem dX1_hears_114 : decode cX1_hears 114 = .ok (.aload_n 0, 1) := dk_42 (dk_at dksX1_hears_4 19 rfl rfl)
theorem dX1_hears_115 : decode cX1_hears 115 = .ok (.getfield 19, 3) := dk_180 0 19 (dk_at dksX1_hears_4 20 rfl rfl)
theorem dX1_hears_118 : decode cX1_hears 118 = .ok (.getfield 85, 3) := dk_180 0 85 (dk_at dksX1_hears_5 0 rfl rfl)
theorem dX1_hears_121 : decode cX1_hears 121 = .ok (.iload 4, 2) := dk_21 4 (dk_at dksX1_hears_5 3 rfl rfl)
theorem dX1_hears_123 : decode cX1_hears 123 = .ok (.aaload, 1) := dk_50 (dk_at dksX1_hears_5 5 rfl rfl)
theorem dX1_hears_124 : decode cX1_hears 124 = .ok (.getfield 167, 3) := dk_180 0 167 (dk_at dksX1_hears_5 6 rfl rfl)
theorem dX1_hears_127 : decode cX1_hears 127 = .ok (.aload_n 0, 1) := dk_42 (dk_at dksX1_hears_5 9 rfl rfl)
theorem dX1_hears_128 : decode cX1_hears 128 = .ok (.getfield 12, 3) := dk_180 0 12 (dk_at dksX1_hears_5 10 rfl rfl)
theorem dX1_hears_131 : decode cX1_hears 131 = .ok (.getfield 96, 3) := dk_180 0 96 (dk_at dksX1_hears_5 13 rfl rfl)
theorem dX1_hears_134 : decode cX1_hears 134 = .ok (.iload 5, 2) := dk_21 5 (dk_at dksX1_hears_5 16 rfl rfl)
theorem dX1_hears_136 : decode cX1_hears 136 = .ok (.baload, 1) := dk_51 (dk_at dksX1_hears_5 18 rfl rfl)
theorem dX1_hears_137 : decode cX1_hears 137 = .ok (.iaload, 1) := dk_46 (dk_at dksX1_hears_5 19 rfl rfl)
theorem dX1_hears_138 : decode cX1_hears 138 = .ok (.aload_n 0, 1) := dk_42 (dk_at dksX1_hears_5 20 rfl rfl)
theorem dX1_hears_139 : decode cX1_hears 139 = .ok (.getfield 12, 3) := dk_180 0 12 (dk_at dksX1_hears_5 21 rfl rfl)
theorem dX1_hears_142 : decode cX1_hears 142 = .ok (.getfield 96, 3) := dk_180 0 96 (dk_at dksX1_hears_6 0 rfl rfl)
theorem dX1_hears_145 : decode cX1_hears 145 = .ok (.iload 5, 2) := dk_21 5 (dk_at dksX1_hears_6 3 rfl rfl)
theorem dX1_hears_147 : decode cX1_hears 147 = .ok (.iconst 1, 1) := dk_4 (dk_at dksX1_hears_6 5 rfl rfl)
theorem dX1_hears_148 : decode cX1_hears 148 = .ok (.iadd, 1) := dk_96 (dk_at dksX1_hears_6 6 rfl rfl)
theorem dX1_hears_149 : decode cX1_hears 149 = .ok (.baload, 1) := dk_51 (dk_at dksX1_hears_6 7 rfl rfl)
theorem dX1_hears_150 : decode cX1_hears 150 = .ok (.if_icmp .eq 12, 3) := dk_159 0 12 (dk_at dksX1_hears_6 8 rfl rfl)
theorem dX1_hears_153 : decode cX1_hears 153 = .ok (.iload_n 3, 1) := dk_29 (dk_at dksX1_hears_6 11 rfl rfl)
theorem dX1_hears_154 : decode cX1_hears 154 = .ok (.iconst 1, 1) := dk_4 (dk_at dksX1_hears_6 12 rfl rfl)
theorem dX1_hears_155 : decode cX1_hears 155 = .ok (.iload 4, 2) := dk_21 4 (dk_at dksX1_hears_6 13 rfl rfl)
theorem dX1_hears_157 : decode cX1_hears 157 = .ok (.ishl, 1) := dk_120 (dk_at dksX1_hears_6 15 rfl rfl)
theorem dX1_hears_158 : decode cX1_hears 158 = .ok (.iconst (-1), 1) := dk_2 (dk_at dksX1_hears_6 16 rfl rfl)
theorem dX1_hears_159 : decode cX1_hears 159 = .ok (.ixor, 1) := dk_130 (dk_at dksX1_hears_6 17 rfl rfl)
theorem dX1_hears_160 : decode cX1_hears 160 = .ok (.iand, 1) := dk_126 (dk_at dksX1_hears_6 18 rfl rfl)
theorem dX1_hears_161 : decode cX1_hears 161 = .ok (.istore_n 3, 1) := dk_62 (dk_at dksX1_hears_6 19 rfl rfl)
theorem dX1_hears_162 : decode cX1_hears 162 = .ok (.iinc 5 2, 3) := dk_132 5 2 (dk_at dksX1_hears_6 20 rfl rfl)
theorem dX1_hears_165 : decode cX1_hears 165 = .ok (.goto (-57), 3) := dk_167 255 199 (dk_at dksX1_hears_7 0 rfl rfl)
theorem dX1_hears_168 : decode cX1_hears 168 = .ok (.iinc 4 1, 3) := dk_132 4 1 (dk_at dksX1_hears_7 3 rfl rfl)
theorem dX1_hears_171 : decode cX1_hears 171 = .ok (.goto (-78), 3) := dk_167 255 178 (dk_at dksX1_hears_7 6 rfl rfl)
theorem dX1_hears_174 : decode cX1_hears 174 = .ok (.iload_n 3, 1) := dk_29 (dk_at dksX1_hears_7 9 rfl rfl)
theorem dX1_hears_175 : decode cX1_hears 175 = .ok (.ireturn, 1) := dk_172 (dk_at dksX1_hears_7 10 rfl rfl)
abbrev cX1_next : ByteArray := prog_1_method_47_code
def yX1_next : MethodName := ⟨RX1, "next", "()I"⟩
def dkwX1_next_6 : List UInt8 := [21, 4, 61, 132, 4, 1, 167, 255, 121, 28, 172]
abbrev dktX1_next_6 : List UInt8 := dkwX1_next_6 ++ []
def dkwX1_next_5 : List UInt8 := [184, 1, 4, 54, 5, 132, 6, 1, 167, 255, 186, 21, 5, 29, 161, 0, 6, 167, 0, 9, 21, 5, 62]
abbrev dktX1_next_5 : List UInt8 := dkwX1_next_5 ++ dktX1_next_6
def dkwX1_next_4 : List UInt8 := [46, 54, 7, 42, 180, 0, 52, 21, 7, 92, 46, 4, 96, 79, 21, 5, 42, 180, 0, 52, 21, 7, 46]
abbrev dktX1_next_4 : List UInt8 := dkwX1_next_4 ++ dktX1_next_5
def dkwX1_next_3 : List UInt8 := [122, 4, 126, 154, 0, 6, 167, 0, 46, 42, 180, 0, 19, 180, 0, 85, 21, 6, 50, 180, 0, 167, 21, 4]
abbrev dktX1_next_3 : List UInt8 := dkwX1_next_3 ++ dktX1_next_4
def dkwX1_next_2 : List UInt8 := [132, 6, 1, 167, 255, 238, 3, 54, 6, 21, 6, 42, 180, 0, 19, 180, 0, 74, 162, 0, 64, 27, 21, 6]
abbrev dktX1_next_2 : List UInt8 := dkwX1_next_2 ++ dktX1_next_3
def dkwX1_next_1 : List UInt8 := [164, 0, 127, 3, 54, 5, 3, 54, 6, 21, 6, 16, 100, 162, 0, 17, 42, 180, 0, 52, 21, 6, 3, 79]
abbrev dktX1_next_1 : List UInt8 := dkwX1_next_1 ++ dktX1_next_2
def dkwX1_next_0 : List UInt8 := [42, 182, 1, 31, 60, 2, 61, 18, 253, 62, 3, 54, 4, 21, 4, 7, 162, 0, 135, 27, 184, 1, 14, 4]
abbrev dktX1_next_0 : List UInt8 := dkwX1_next_0 ++ dktX1_next_1
theorem dksX1_next_0 : cX1_next.data.toList.drop 0 = dktX1_next_0 := by decide +kernel
theorem dksX1_next_1 : cX1_next.data.toList.drop 24 = dktX1_next_1 := dk_seg dksX1_next_0 24 rfl rfl
theorem dksX1_next_2 : cX1_next.data.toList.drop 48 = dktX1_next_2 := dk_seg dksX1_next_1 24 rfl rfl
theorem dksX1_next_3 : cX1_next.data.toList.drop 72 = dktX1_next_3 := dk_seg dksX1_next_2 24 rfl rfl
theorem dksX1_next_4 : cX1_next.data.toList.drop 96 = dktX1_next_4 := dk_seg dksX1_next_3 24 rfl rfl
theorem dksX1_next_5 : cX1_next.data.toList.drop 119 = dktX1_next_5 := dk_seg dksX1_next_4 23 rfl rfl
theorem dksX1_next_6 : cX1_next.data.toList.drop 142 = dktX1_next_6 := dk_seg dksX1_next_5 23 rfl rfl
theorem dX1_next_0 : decode cX1_next 0 = .ok (.aload_n 0, 1) := dk_42 (dk_at dksX1_next_0 0 rfl rfl)
theorem dX1_next_1 : decode cX1_next 1 = .ok (.invokevirtual 287, 3) := dk_182 1 31 (dk_at dksX1_next_0 1 rfl rfl)
theorem dX1_next_4 : decode cX1_next 4 = .ok (.istore_n 1, 1) := dk_60 (dk_at dksX1_next_0 4 rfl rfl)
theorem dX1_next_5 : decode cX1_next 5 = .ok (.iconst (-1), 1) := dk_2 (dk_at dksX1_next_0 5 rfl rfl)
theorem dX1_next_6 : decode cX1_next 6 = .ok (.istore_n 2, 1) := dk_61 (dk_at dksX1_next_0 6 rfl rfl)
theorem dX1_next_7 : decode cX1_next 7 = .ok (.ldc 253, 2) := dk_18 253 (dk_at dksX1_next_0 7 rfl rfl)
theorem dX1_next_9 : decode cX1_next 9 = .ok (.istore_n 3, 1) := dk_62 (dk_at dksX1_next_0 9 rfl rfl)
theorem dX1_next_10 : decode cX1_next 10 = .ok (.iconst 0, 1) := dk_3 (dk_at dksX1_next_0 10 rfl rfl)
theorem dX1_next_11 : decode cX1_next 11 = .ok (.istore 4, 2) := dk_54 4 (dk_at dksX1_next_0 11 rfl rfl)
theorem dX1_next_13 : decode cX1_next 13 = .ok (.iload 4, 2) := dk_21 4 (dk_at dksX1_next_0 13 rfl rfl)
theorem dX1_next_15 : decode cX1_next 15 = .ok (.iconst 4, 1) := dk_7 (dk_at dksX1_next_0 15 rfl rfl)
theorem dX1_next_16 : decode cX1_next 16 = .ok (.if_icmp .ge 135, 3) := dk_162 0 135 (dk_at dksX1_next_0 16 rfl rfl)
theorem dX1_next_19 : decode cX1_next 19 = .ok (.iload_n 1, 1) := dk_27 (dk_at dksX1_next_0 19 rfl rfl)
theorem dX1_next_20 : decode cX1_next 20 = .ok (.invokestatic 270, 3) := dk_184 1 14 (dk_at dksX1_next_0 20 rfl rfl)
theorem dX1_next_23 : decode cX1_next 23 = .ok (.iconst 1, 1) := dk_4 (dk_at dksX1_next_0 23 rfl rfl)
theorem dX1_next_24 : decode cX1_next 24 = .ok (.if_icmp .le 127, 3) := dk_164 0 127 (dk_at dksX1_next_1 0 rfl rfl)
theorem dX1_next_27 : decode cX1_next 27 = .ok (.iconst 0, 1) := dk_3 (dk_at dksX1_next_1 3 rfl rfl)
theorem dX1_next_28 : decode cX1_next 28 = .ok (.istore 5, 2) := dk_54 5 (dk_at dksX1_next_1 4 rfl rfl)
theorem dX1_next_30 : decode cX1_next 30 = .ok (.iconst 0, 1) := dk_3 (dk_at dksX1_next_1 6 rfl rfl)
theorem dX1_next_31 : decode cX1_next 31 = .ok (.istore 6, 2) := dk_54 6 (dk_at dksX1_next_1 7 rfl rfl)
theorem dX1_next_33 : decode cX1_next 33 = .ok (.iload 6, 2) := dk_21 6 (dk_at dksX1_next_1 9 rfl rfl)
theorem dX1_next_35 : decode cX1_next 35 = .ok (.bipush 100, 2) := dk_16 100 (dk_at dksX1_next_1 11 rfl rfl)
theorem dX1_next_37 : decode cX1_next 37 = .ok (.if_icmp .ge 17, 3) := dk_162 0 17 (dk_at dksX1_next_1 13 rfl rfl)
theorem dX1_next_40 : decode cX1_next 40 = .ok (.aload_n 0, 1) := dk_42 (dk_at dksX1_next_1 16 rfl rfl)
theorem dX1_next_41 : decode cX1_next 41 = .ok (.getfield 52, 3) := dk_180 0 52 (dk_at dksX1_next_1 17 rfl rfl)
theorem dX1_next_44 : decode cX1_next 44 = .ok (.iload 6, 2) := dk_21 6 (dk_at dksX1_next_1 20 rfl rfl)
theorem dX1_next_46 : decode cX1_next 46 = .ok (.iconst 0, 1) := dk_3 (dk_at dksX1_next_1 22 rfl rfl)
theorem dX1_next_47 : decode cX1_next 47 = .ok (.iastore, 1) := dk_79 (dk_at dksX1_next_1 23 rfl rfl)
theorem dX1_next_48 : decode cX1_next 48 = .ok (.iinc 6 1, 3) := dk_132 6 1 (dk_at dksX1_next_2 0 rfl rfl)
theorem dX1_next_51 : decode cX1_next 51 = .ok (.goto (-18), 3) := dk_167 255 238 (dk_at dksX1_next_2 3 rfl rfl)
theorem dX1_next_54 : decode cX1_next 54 = .ok (.iconst 0, 1) := dk_3 (dk_at dksX1_next_2 6 rfl rfl)
theorem dX1_next_55 : decode cX1_next 55 = .ok (.istore 6, 2) := dk_54 6 (dk_at dksX1_next_2 7 rfl rfl)
theorem dX1_next_57 : decode cX1_next 57 = .ok (.iload 6, 2) := dk_21 6 (dk_at dksX1_next_2 9 rfl rfl)
theorem dX1_next_59 : decode cX1_next 59 = .ok (.aload_n 0, 1) := dk_42 (dk_at dksX1_next_2 11 rfl rfl)
theorem dX1_next_60 : decode cX1_next 60 = .ok (.getfield 19, 3) := dk_180 0 19 (dk_at dksX1_next_2 12 rfl rfl)
theorem dX1_next_63 : decode cX1_next 63 = .ok (.getfield 74, 3) := dk_180 0 74 (dk_at dksX1_next_2 15 rfl rfl)
theorem dX1_next_66 : decode cX1_next 66 = .ok (.if_icmp .ge 64, 3) := dk_162 0 64 (dk_at dksX1_next_2 18 rfl rfl)
theorem dX1_next_69 : decode cX1_next 69 = .ok (.iload_n 1, 1) := dk_27 (dk_at dksX1_next_2 21 rfl rfl)
theorem dX1_next_70 : decode cX1_next 70 = .ok (.iload 6, 2) := dk_21 6 (dk_at dksX1_next_2 22 rfl rfl)
theorem dX1_next_72 : decode cX1_next 72 = .ok (.ishr, 1) := dk_122 (dk_at dksX1_next_3 0 rfl rfl)
theorem dX1_next_73 : decode cX1_next 73 = .ok (.iconst 1, 1) := dk_4 (dk_at dksX1_next_3 1 rfl rfl)
theorem dX1_next_74 : decode cX1_next 74 = .ok (.iand, 1) := dk_126 (dk_at dksX1_next_3 2 rfl rfl)
theorem dX1_next_75 : decode cX1_next 75 = .ok (.ifCond .ne 6, 3) := dk_154 0 6 (dk_at dksX1_next_3 3 rfl rfl)
theorem dX1_next_78 : decode cX1_next 78 = .ok (.goto 46, 3) := dk_167 0 46 (dk_at dksX1_next_3 6 rfl rfl)
theorem dX1_next_81 : decode cX1_next 81 = .ok (.aload_n 0, 1) := dk_42 (dk_at dksX1_next_3 9 rfl rfl)
theorem dX1_next_82 : decode cX1_next 82 = .ok (.getfield 19, 3) := dk_180 0 19 (dk_at dksX1_next_3 10 rfl rfl)
theorem dX1_next_85 : decode cX1_next 85 = .ok (.getfield 85, 3) := dk_180 0 85 (dk_at dksX1_next_3 13 rfl rfl)
theorem dX1_next_88 : decode cX1_next 88 = .ok (.iload 6, 2) := dk_21 6 (dk_at dksX1_next_3 16 rfl rfl)
theorem dX1_next_90 : decode cX1_next 90 = .ok (.aaload, 1) := dk_50 (dk_at dksX1_next_3 18 rfl rfl)
theorem dX1_next_91 : decode cX1_next 91 = .ok (.getfield 167, 3) := dk_180 0 167 (dk_at dksX1_next_3 19 rfl rfl)
theorem dX1_next_94 : decode cX1_next 94 = .ok (.iload 4, 2) := dk_21 4 (dk_at dksX1_next_3 22 rfl rfl)
theorem dX1_next_96 : decode cX1_next 96 = .ok (.iaload, 1) := dk_46 (dk_at dksX1_next_4 0 rfl rfl)
theorem dX1_next_97 : decode cX1_next 97 = .ok (.istore 7, 2) := dk_54 7 (dk_at dksX1_next_4 1 rfl rfl)
theorem dX1_next_99 : decode cX1_next 99 = .ok (.aload_n 0, 1) := dk_42 (dk_at dksX1_next_4 3 rfl rfl)
theorem dX1_next_100 : decode cX1_next 100 = .ok (.getfield 52, 3) := dk_180 0 52 (dk_at dksX1_next_4 4 rfl rfl)
theorem dX1_next_103 : decode cX1_next 103 = .ok (.iload 7, 2) := dk_21 7 (dk_at dksX1_next_4 7 rfl rfl)
theorem dX1_next_105 : decode cX1_next 105 = .ok (.dup2, 1) := dk_92 (dk_at dksX1_next_4 9 rfl rfl)
theorem dX1_next_106 : decode cX1_next 106 = .ok (.iaload, 1) := dk_46 (dk_at dksX1_next_4 10 rfl rfl)
theorem dX1_next_107 : decode cX1_next 107 = .ok (.iconst 1, 1) := dk_4 (dk_at dksX1_next_4 11 rfl rfl)
theorem dX1_next_108 : decode cX1_next 108 = .ok (.iadd, 1) := dk_96 (dk_at dksX1_next_4 12 rfl rfl)
theorem dX1_next_109 : decode cX1_next 109 = .ok (.iastore, 1) := dk_79 (dk_at dksX1_next_4 13 rfl rfl)
theorem dX1_next_110 : decode cX1_next 110 = .ok (.iload 5, 2) := dk_21 5 (dk_at dksX1_next_4 14 rfl rfl)
theorem dX1_next_112 : decode cX1_next 112 = .ok (.aload_n 0, 1) := dk_42 (dk_at dksX1_next_4 16 rfl rfl)
theorem dX1_next_113 : decode cX1_next 113 = .ok (.getfield 52, 3) := dk_180 0 52 (dk_at dksX1_next_4 17 rfl rfl)
theorem dX1_next_116 : decode cX1_next 116 = .ok (.iload 7, 2) := dk_21 7 (dk_at dksX1_next_4 20 rfl rfl)
theorem dX1_next_118 : decode cX1_next 118 = .ok (.iaload, 1) := dk_46 (dk_at dksX1_next_4 22 rfl rfl)
theorem dX1_next_119 : decode cX1_next 119 = .ok (.invokestatic 260, 3) := dk_184 1 4 (dk_at dksX1_next_5 0 rfl rfl)
theorem dX1_next_122 : decode cX1_next 122 = .ok (.istore 5, 2) := dk_54 5 (dk_at dksX1_next_5 3 rfl rfl)
theorem dX1_next_124 : decode cX1_next 124 = .ok (.iinc 6 1, 3) := dk_132 6 1 (dk_at dksX1_next_5 5 rfl rfl)
theorem dX1_next_127 : decode cX1_next 127 = .ok (.goto (-70), 3) := dk_167 255 186 (dk_at dksX1_next_5 8 rfl rfl)
theorem dX1_next_130 : decode cX1_next 130 = .ok (.iload 5, 2) := dk_21 5 (dk_at dksX1_next_5 11 rfl rfl)
theorem dX1_next_132 : decode cX1_next 132 = .ok (.iload_n 3, 1) := dk_29 (dk_at dksX1_next_5 13 rfl rfl)
theorem dX1_next_133 : decode cX1_next 133 = .ok (.if_icmp .lt 6, 3) := dk_161 0 6 (dk_at dksX1_next_5 14 rfl rfl)
theorem dX1_next_136 : decode cX1_next 136 = .ok (.goto 9, 3) := dk_167 0 9 (dk_at dksX1_next_5 17 rfl rfl)
theorem dX1_next_139 : decode cX1_next 139 = .ok (.iload 5, 2) := dk_21 5 (dk_at dksX1_next_5 20 rfl rfl)
theorem dX1_next_141 : decode cX1_next 141 = .ok (.istore_n 3, 1) := dk_62 (dk_at dksX1_next_5 22 rfl rfl)
theorem dX1_next_142 : decode cX1_next 142 = .ok (.iload 4, 2) := dk_21 4 (dk_at dksX1_next_6 0 rfl rfl)
theorem dX1_next_144 : decode cX1_next 144 = .ok (.istore_n 2, 1) := dk_61 (dk_at dksX1_next_6 2 rfl rfl)
theorem dX1_next_145 : decode cX1_next 145 = .ok (.iinc 4 1, 3) := dk_132 4 1 (dk_at dksX1_next_6 3 rfl rfl)
theorem dX1_next_148 : decode cX1_next 148 = .ok (.goto (-135), 3) := dk_167 255 121 (dk_at dksX1_next_6 6 rfl rfl)
theorem dX1_next_151 : decode cX1_next 151 = .ok (.iload_n 2, 1) := dk_28 (dk_at dksX1_next_6 9 rfl rfl)
theorem dX1_next_152 : decode cX1_next 152 = .ok (.ireturn, 1) := dk_172 (dk_at dksX1_next_6 10 rfl rfl)
abbrev cX1_match : ByteArray := prog_1_method_49_code
def yX1_match : MethodName := ⟨RX1, "match", "(II)I"⟩
def dkwX1_match_16 : List UInt8 := [21, 5, 172]
abbrev dktX1_match_16 : List UInt8 := dkwX1_match_16 ++ []
def dkwX1_match_15 : List UInt8 := [159, 0, 9, 132, 5, 1, 167, 255, 222, 21, 4, 4, 21, 5, 120, 128, 54, 4, 132, 6, 1, 167, 255, 198]
abbrev dktX1_match_15 : List UInt8 := dkwX1_match_15 ++ dktX1_match_16
def dkwX1_match_14 : List UInt8 := [4, 126, 4, 159, 0, 23, 42, 21, 6, 21, 4, 21, 5, 182, 1, 34, 42, 180, 0, 36, 21, 4, 46]
abbrev dktX1_match_14 : List UInt8 := dkwX1_match_14 ++ dktX1_match_15
def dkwX1_match_13 : List UInt8 := [172, 3, 54, 4, 3, 54, 5, 3, 54, 6, 21, 6, 28, 163, 0, 58, 3, 54, 5, 21, 4, 21, 5, 122]
abbrev dktX1_match_13 : List UInt8 := dkwX1_match_13 ++ dktX1_match_14
def dkwX1_match_12 : List UInt8 := [28, 2, 160, 0, 10, 42, 180, 0, 36, 3, 46, 172, 28, 3, 29, 4, 100, 184, 0, 77, 154, 0, 5, 2]
abbrev dktX1_match_12 : List UInt8 := dkwX1_match_12 ++ dktX1_match_13
def dkwX1_match_11 : List UInt8 := [180, 0, 36, 3, 46, 17, 216, 240, 162, 0, 16, 28, 2, 160, 0, 9, 19, 1, 19, 167, 0, 4, 2, 172]
abbrev dktX1_match_11 : List UInt8 := dkwX1_match_11 ++ dktX1_match_12
def dkwX1_match_10 : List UInt8 := [21, 4, 21, 6, 182, 1, 34, 184, 1, 4, 79, 132, 6, 1, 167, 255, 198, 132, 4, 255, 167, 255, 157, 42]
abbrev dktX1_match_10 : List UInt8 := dkwX1_match_10 ++ dktX1_match_11
def dkwX1_match_9 : List UInt8 := [21, 6, 122, 4, 126, 154, 0, 30, 42, 180, 0, 36, 21, 4, 42, 180, 0, 36, 21, 4, 46, 42, 21, 5]
abbrev dktX1_match_9 : List UInt8 := dkwX1_match_9 ++ dktX1_match_10
def dkwX1_match_8 : List UInt8 := [79, 3, 54, 6, 21, 6, 42, 180, 0, 19, 180, 0, 89, 162, 0, 52, 21, 5, 29, 162, 0, 46, 21, 4]
abbrev dktX1_match_8 : List UInt8 := dkwX1_match_8 ++ dktX1_match_9
def dkwX1_match_7 : List UInt8 := [184, 1, 14, 54, 5, 42, 180, 0, 36, 21, 4, 21, 5, 29, 160, 0, 7, 3, 167, 0, 6, 19, 1, 19]
abbrev dktX1_match_7 : List UInt8 := dkwX1_match_7 ++ dktX1_match_8
def dkwX1_match_6 : List UInt8 := [167, 255, 150, 4, 42, 180, 0, 19, 180, 0, 89, 120, 4, 100, 54, 4, 21, 4, 155, 0, 100, 21, 4]
abbrev dktX1_match_6 : List UInt8 := dkwX1_match_6 ++ dktX1_match_7
def dkwX1_match_5 : List UInt8 := [21, 5, 182, 0, 209, 167, 0, 6, 19, 1, 19, 79, 132, 5, 1, 167, 255, 194, 132, 3, 1, 132, 4, 1]
abbrev dktX1_match_5 : List UInt8 := dkwX1_match_5 ++ dktX1_match_6
def dkwX1_match_4 : List UInt8 := [180, 0, 19, 180, 0, 92, 21, 5, 50, 21, 4, 182, 0, 249, 153, 0, 17, 42, 180, 0, 19, 21, 4]
abbrev dktX1_match_4 : List UInt8 := dkwX1_match_4 ++ dktX1_match_5
def dkwX1_match_3 : List UInt8 := [42, 180, 0, 19, 180, 0, 89, 162, 0, 56, 42, 180, 0, 40, 16, 8, 29, 104, 21, 5, 96, 42]
abbrev dktX1_match_3 : List UInt8 := dkwX1_match_3 ++ dktX1_match_4
def dkwX1_match_2 : List UInt8 := [21, 4, 122, 4, 126, 154, 0, 6, 167, 0, 82, 42, 180, 0, 49, 29, 21, 4, 79, 3, 54, 5, 21, 5]
abbrev dktX1_match_2 : List UInt8 := dkwX1_match_2 ++ dktX1_match_3
def dkwX1_match_1 : List UInt8 := [167, 0, 4, 3, 184, 0, 228, 3, 54, 4, 21, 4, 42, 180, 0, 19, 180, 0, 74, 162, 0, 100, 27]
abbrev dktX1_match_1 : List UInt8 := dkwX1_match_1 ++ dktX1_match_2
def dkwX1_match_0 : List UInt8 := [3, 62, 27, 4, 42, 180, 0, 19, 180, 0, 74, 120, 4, 100, 126, 184, 1, 14, 8, 163, 0, 7, 4]
abbrev dktX1_match_0 : List UInt8 := dkwX1_match_0 ++ dktX1_match_1
theorem dksX1_match_0 : cX1_match.data.toList.drop 0 = dktX1_match_0 := by decide +kernel
theorem dksX1_match_1 : cX1_match.data.toList.drop 23 = dktX1_match_1 := dk_seg dksX1_match_0 23 rfl rfl
theorem dksX1_match_2 : cX1_match.data.toList.drop 46 = dktX1_match_2 := dk_seg dksX1_match_1 23 rfl rfl
theorem dksX1_match_3 : cX1_match.data.toList.drop 70 = dktX1_match_3 := dk_seg dksX1_match_2 24 rfl rfl
theorem dksX1_match_4 : cX1_match.data.toList.drop 92 = dktX1_match_4 := dk_seg dksX1_match_3 22 rfl rfl
theorem dksX1_match_5 : cX1_match.data.toList.drop 115 = dktX1_match_5 := dk_seg dksX1_match_4 23 rfl rfl
theorem dksX1_match_6 : cX1_match.data.toList.drop 139 = dktX1_match_6 := dk_seg dksX1_match_5 24 rfl rfl
theorem dksX1_match_7 : cX1_match.data.toList.drop 162 = dktX1_match_7 := dk_seg dksX1_match_6 23 rfl rfl
theorem dksX1_match_8 : cX1_match.data.toList.drop 186 = dktX1_match_8 := dk_seg dksX1_match_7 24 rfl rfl
theorem dksX1_match_9 : cX1_match.data.toList.drop 210 = dktX1_match_9 := dk_seg dksX1_match_8 24 rfl rfl
theorem dksX1_match_10 : cX1_match.data.toList.drop 234 = dktX1_match_10 := dk_seg dksX1_match_9 24 rfl rfl
theorem dksX1_match_11 : cX1_match.data.toList.drop 258 = dktX1_match_11 := dk_seg dksX1_match_10 24 rfl rfl
theorem dksX1_match_12 : cX1_match.data.toList.drop 282 = dktX1_match_12 := dk_seg dksX1_match_11 24 rfl rfl
theorem dksX1_match_13 : cX1_match.data.toList.drop 306 = dktX1_match_13 := dk_seg dksX1_match_12 24 rfl rfl
theorem dksX1_match_14 : cX1_match.data.toList.drop 330 = dktX1_match_14 := dk_seg dksX1_match_13 24 rfl rfl
theorem dksX1_match_15 : cX1_match.data.toList.drop 353 = dktX1_match_15 := dk_seg dksX1_match_14 23 rfl rfl
theorem dksX1_match_16 : cX1_match.data.toList.drop 377 = dktX1_match_16 := dk_seg dksX1_match_15 24 rfl rfl
theorem dX1_match_0 : decode cX1_match 0 = .ok (.iconst 0, 1) := dk_3 (dk_at dksX1_match_0 0 rfl rfl)
theorem dX1_match_1 : decode cX1_match 1 = .ok (.istore_n 3, 1) := dk_62 (dk_at dksX1_match_0 1 rfl rfl)
theorem dX1_match_2 : decode cX1_match 2 = .ok (.iload_n 1, 1) := dk_27 (dk_at dksX1_match_0 2 rfl rfl)
theorem dX1_match_3 : decode cX1_match 3 = .ok (.iconst 1, 1) := dk_4 (dk_at dksX1_match_0 3 rfl rfl)
theorem dX1_match_4 : decode cX1_match 4 = .ok (.aload_n 0, 1) := dk_42 (dk_at dksX1_match_0 4 rfl rfl)
theorem dX1_match_5 : decode cX1_match 5 = .ok (.getfield 19, 3) := dk_180 0 19 (dk_at dksX1_match_0 5 rfl rfl)
theorem dX1_match_8 : decode cX1_match 8 = .ok (.getfield 74, 3) := dk_180 0 74 (dk_at dksX1_match_0 8 rfl rfl)
theorem dX1_match_11 : decode cX1_match 11 = .ok (.ishl, 1) := dk_120 (dk_at dksX1_match_0 11 rfl rfl)
theorem dX1_match_12 : decode cX1_match 12 = .ok (.iconst 1, 1) := dk_4 (dk_at dksX1_match_0 12 rfl rfl)
theorem dX1_match_13 : decode cX1_match 13 = .ok (.isub, 1) := dk_100 (dk_at dksX1_match_0 13 rfl rfl)
theorem dX1_match_14 : decode cX1_match 14 = .ok (.iand, 1) := dk_126 (dk_at dksX1_match_0 14 rfl rfl)
theorem dX1_match_15 : decode cX1_match 15 = .ok (.invokestatic 270, 3) := dk_184 1 14 (dk_at dksX1_match_0 15 rfl rfl)
theorem dX1_match_18 : decode cX1_match 18 = .ok (.iconst 5, 1) := dk_8 (dk_at dksX1_match_0 18 rfl rfl)
theorem dX1_match_19 : decode cX1_match 19 = .ok (.if_icmp .gt 7, 3) := dk_163 0 7 (dk_at dksX1_match_0 19 rfl rfl)
theorem dX1_match_22 : decode cX1_match 22 = .ok (.iconst 1, 1) := dk_4 (dk_at dksX1_match_0 22 rfl rfl)
theorem dX1_match_23 : decode cX1_match 23 = .ok (.goto 4, 3) := dk_167 0 4 (dk_at dksX1_match_1 0 rfl rfl)
theorem dX1_match_26 : decode cX1_match 26 = .ok (.iconst 0, 1) := dk_3 (dk_at dksX1_match_1 3 rfl rfl)
theorem dX1_match_27 : decode cX1_match 27 = .ok (.invokestatic 228, 3) := dk_184 0 228 (dk_at dksX1_match_1 4 rfl rfl)
theorem dX1_match_30 : decode cX1_match 30 = .ok (.iconst 0, 1) := dk_3 (dk_at dksX1_match_1 7 rfl rfl)
theorem dX1_match_31 : decode cX1_match 31 = .ok (.istore 4, 2) := dk_54 4 (dk_at dksX1_match_1 8 rfl rfl)
theorem dX1_match_33 : decode cX1_match 33 = .ok (.iload 4, 2) := dk_21 4 (dk_at dksX1_match_1 10 rfl rfl)
theorem dX1_match_35 : decode cX1_match 35 = .ok (.aload_n 0, 1) := dk_42 (dk_at dksX1_match_1 12 rfl rfl)
theorem dX1_match_36 : decode cX1_match 36 = .ok (.getfield 19, 3) := dk_180 0 19 (dk_at dksX1_match_1 13 rfl rfl)
theorem dX1_match_39 : decode cX1_match 39 = .ok (.getfield 74, 3) := dk_180 0 74 (dk_at dksX1_match_1 16 rfl rfl)
theorem dX1_match_42 : decode cX1_match 42 = .ok (.if_icmp .ge 100, 3) := dk_162 0 100 (dk_at dksX1_match_1 19 rfl rfl)
theorem dX1_match_45 : decode cX1_match 45 = .ok (.iload_n 1, 1) := dk_27 (dk_at dksX1_match_1 22 rfl rfl)
theorem dX1_match_46 : decode cX1_match 46 = .ok (.iload 4, 2) := dk_21 4 (dk_at dksX1_match_2 0 rfl rfl)
theorem dX1_match_48 : decode cX1_match 48 = .ok (.ishr, 1) := dk_122 (dk_at dksX1_match_2 2 rfl rfl)
theorem dX1_match_49 : decode cX1_match 49 = .ok (.iconst 1, 1) := dk_4 (dk_at dksX1_match_2 3 rfl rfl)
theorem dX1_match_50 : decode cX1_match 50 = .ok (.iand, 1) := dk_126 (dk_at dksX1_match_2 4 rfl rfl)
theorem dX1_match_51 : decode cX1_match 51 = .ok (.ifCond .ne 6, 3) := dk_154 0 6 (dk_at dksX1_match_2 5 rfl rfl)
theorem dX1_match_54 : decode cX1_match 54 = .ok (.goto 82, 3) := dk_167 0 82 (dk_at dksX1_match_2 8 rfl rfl)
theorem dX1_match_57 : decode cX1_match 57 = .ok (.aload_n 0, 1) := dk_42 (dk_at dksX1_match_2 11 rfl rfl)
theorem dX1_match_58 : decode cX1_match 58 = .ok (.getfield 49, 3) := dk_180 0 49 (dk_at dksX1_match_2 12 rfl rfl)
theorem dX1_match_61 : decode cX1_match 61 = .ok (.iload_n 3, 1) := dk_29 (dk_at dksX1_match_2 15 rfl rfl)
theorem dX1_match_62 : decode cX1_match 62 = .ok (.iload 4, 2) := dk_21 4 (dk_at dksX1_match_2 16 rfl rfl)
theorem dX1_match_64 : decode cX1_match 64 = .ok (.iastore, 1) := dk_79 (dk_at dksX1_match_2 18 rfl rfl)
theorem dX1_match_65 : decode cX1_match 65 = .ok (.iconst 0, 1) := dk_3 (dk_at dksX1_match_2 19 rfl rfl)
theorem dX1_match_66 : decode cX1_match 66 = .ok (.istore 5, 2) := dk_54 5 (dk_at dksX1_match_2 20 rfl rfl)
theorem dX1_match_68 : decode cX1_match 68 = .ok (.iload 5, 2) := dk_21 5 (dk_at dksX1_match_2 22 rfl rfl)
theorem dX1_match_70 : decode cX1_match 70 = .ok (.aload_n 0, 1) := dk_42 (dk_at dksX1_match_3 0 rfl rfl)
theorem dX1_match_71 : decode cX1_match 71 = .ok (.getfield 19, 3) := dk_180 0 19 (dk_at dksX1_match_3 1 rfl rfl)
theorem dX1_match_74 : decode cX1_match 74 = .ok (.getfield 89, 3) := dk_180 0 89 (dk_at dksX1_match_3 4 rfl rfl)
theorem dX1_match_77 : decode cX1_match 77 = .ok (.if_icmp .ge 56, 3) := dk_162 0 56 (dk_at dksX1_match_3 7 rfl rfl)
theorem dX1_match_80 : decode cX1_match 80 = .ok (.aload_n 0, 1) := dk_42 (dk_at dksX1_match_3 10 rfl rfl)
theorem dX1_match_81 : decode cX1_match 81 = .ok (.getfield 40, 3) := dk_180 0 40 (dk_at dksX1_match_3 11 rfl rfl)
theorem dX1_match_84 : decode cX1_match 84 = .ok (.bipush 8, 2) := dk_16 8 (dk_at dksX1_match_3 14 rfl rfl)
theorem dX1_match_86 : decode cX1_match 86 = .ok (.iload_n 3, 1) := dk_29 (dk_at dksX1_match_3 16 rfl rfl)
theorem dX1_match_87 : decode cX1_match 87 = .ok (.imul, 1) := dk_104 (dk_at dksX1_match_3 17 rfl rfl)
theorem dX1_match_88 : decode cX1_match 88 = .ok (.iload 5, 2) := dk_21 5 (dk_at dksX1_match_3 18 rfl rfl)
theorem dX1_match_90 : decode cX1_match 90 = .ok (.iadd, 1) := dk_96 (dk_at dksX1_match_3 20 rfl rfl)
theorem dX1_match_91 : decode cX1_match 91 = .ok (.aload_n 0, 1) := dk_42 (dk_at dksX1_match_3 21 rfl rfl)
theorem dX1_match_92 : decode cX1_match 92 = .ok (.getfield 19, 3) := dk_180 0 19 (dk_at dksX1_match_4 0 rfl rfl)
theorem dX1_match_95 : decode cX1_match 95 = .ok (.getfield 92, 3) := dk_180 0 92 (dk_at dksX1_match_4 3 rfl rfl)
theorem dX1_match_98 : decode cX1_match 98 = .ok (.iload 5, 2) := dk_21 5 (dk_at dksX1_match_4 6 rfl rfl)
theorem dX1_match_100 : decode cX1_match 100 = .ok (.aaload, 1) := dk_50 (dk_at dksX1_match_4 8 rfl rfl)
theorem dX1_match_101 : decode cX1_match 101 = .ok (.iload 4, 2) := dk_21 4 (dk_at dksX1_match_4 9 rfl rfl)
theorem dX1_match_103 : decode cX1_match 103 = .ok (.invokevirtual 249, 3) := dk_182 0 249 (dk_at dksX1_match_4 11 rfl rfl)
theorem dX1_match_106 : decode cX1_match 106 = .ok (.ifCond .eq 17, 3) := dk_153 0 17 (dk_at dksX1_match_4 14 rfl rfl)
theorem dX1_match_109 : decode cX1_match 109 = .ok (.aload_n 0, 1) := dk_42 (dk_at dksX1_match_4 17 rfl rfl)
theorem dX1_match_110 : decode cX1_match 110 = .ok (.getfield 19, 3) := dk_180 0 19 (dk_at dksX1_match_4 18 rfl rfl)
theorem dX1_match_113 : decode cX1_match 113 = .ok (.iload 4, 2) := dk_21 4 (dk_at dksX1_match_4 21 rfl rfl)
theorem dX1_match_115 : decode cX1_match 115 = .ok (.iload 5, 2) := dk_21 5 (dk_at dksX1_match_5 0 rfl rfl)
theorem dX1_match_117 : decode cX1_match 117 = .ok (.invokevirtual 209, 3) := dk_182 0 209 (dk_at dksX1_match_5 2 rfl rfl)
theorem dX1_match_120 : decode cX1_match 120 = .ok (.goto 6, 3) := dk_167 0 6 (dk_at dksX1_match_5 5 rfl rfl)
theorem dX1_match_123 : decode cX1_match 123 = .ok (.ldc_w 275, 3) := dk_19 1 19 (dk_at dksX1_match_5 8 rfl rfl)
theorem dX1_match_126 : decode cX1_match 126 = .ok (.iastore, 1) := dk_79 (dk_at dksX1_match_5 11 rfl rfl)
theorem dX1_match_127 : decode cX1_match 127 = .ok (.iinc 5 1, 3) := dk_132 5 1 (dk_at dksX1_match_5 12 rfl rfl)
theorem dX1_match_130 : decode cX1_match 130 = .ok (.goto (-62), 3) := dk_167 255 194 (dk_at dksX1_match_5 15 rfl rfl)
theorem dX1_match_133 : decode cX1_match 133 = .ok (.iinc 3 1, 3) := dk_132 3 1 (dk_at dksX1_match_5 18 rfl rfl)
theorem dX1_match_136 : decode cX1_match 136 = .ok (.iinc 4 1, 3) := dk_132 4 1 (dk_at dksX1_match_5 21 rfl rfl)
theorem dX1_match_139 : decode cX1_match 139 = .ok (.goto (-106), 3) := dk_167 255 150 (dk_at dksX1_match_6 0 rfl rfl)
theorem dX1_match_142 : decode cX1_match 142 = .ok (.iconst 1, 1) := dk_4 (dk_at dksX1_match_6 3 rfl rfl)
theorem dX1_match_143 : decode cX1_match 143 = .ok (.aload_n 0, 1) := dk_42 (dk_at dksX1_match_6 4 rfl rfl)
theorem dX1_match_144 : decode cX1_match 144 = .ok (.getfield 19, 3) := dk_180 0 19 (dk_at dksX1_match_6 5 rfl rfl)
theorem dX1_match_147 : decode cX1_match 147 = .ok (.getfield 89, 3) := dk_180 0 89 (dk_at dksX1_match_6 8 rfl rfl)
theorem dX1_match_150 : decode cX1_match 150 = .ok (.ishl, 1) := dk_120 (dk_at dksX1_match_6 11 rfl rfl)
theorem dX1_match_151 : decode cX1_match 151 = .ok (.iconst 1, 1) := dk_4 (dk_at dksX1_match_6 12 rfl rfl)
theorem dX1_match_152 : decode cX1_match 152 = .ok (.isub, 1) := dk_100 (dk_at dksX1_match_6 13 rfl rfl)
theorem dX1_match_153 : decode cX1_match 153 = .ok (.istore 4, 2) := dk_54 4 (dk_at dksX1_match_6 14 rfl rfl)
theorem dX1_match_155 : decode cX1_match 155 = .ok (.iload 4, 2) := dk_21 4 (dk_at dksX1_match_6 16 rfl rfl)
theorem dX1_match_157 : decode cX1_match 157 = .ok (.ifCond .lt 100, 3) := dk_155 0 100 (dk_at dksX1_match_6 18 rfl rfl)
theorem dX1_match_160 : decode cX1_match 160 = .ok (.iload 4, 2) := dk_21 4 (dk_at dksX1_match_6 21 rfl rfl)
theorem dX1_match_162 : decode cX1_match 162 = .ok (.invokestatic 270, 3) := dk_184 1 14 (dk_at dksX1_match_7 0 rfl rfl)
theorem dX1_match_165 : decode cX1_match 165 = .ok (.istore 5, 2) := dk_54 5 (dk_at dksX1_match_7 3 rfl rfl)
theorem dX1_match_167 : decode cX1_match 167 = .ok (.aload_n 0, 1) := dk_42 (dk_at dksX1_match_7 5 rfl rfl)
theorem dX1_match_168 : decode cX1_match 168 = .ok (.getfield 36, 3) := dk_180 0 36 (dk_at dksX1_match_7 6 rfl rfl)
theorem dX1_match_171 : decode cX1_match 171 = .ok (.iload 4, 2) := dk_21 4 (dk_at dksX1_match_7 9 rfl rfl)
theorem dX1_match_173 : decode cX1_match 173 = .ok (.iload 5, 2) := dk_21 5 (dk_at dksX1_match_7 11 rfl rfl)
theorem dX1_match_175 : decode cX1_match 175 = .ok (.iload_n 3, 1) := dk_29 (dk_at dksX1_match_7 13 rfl rfl)
theorem dX1_match_176 : decode cX1_match 176 = .ok (.if_icmp .ne 7, 3) := dk_160 0 7 (dk_at dksX1_match_7 14 rfl rfl)
theorem dX1_match_179 : decode cX1_match 179 = .ok (.iconst 0, 1) := dk_3 (dk_at dksX1_match_7 17 rfl rfl)
theorem dX1_match_180 : decode cX1_match 180 = .ok (.goto 6, 3) := dk_167 0 6 (dk_at dksX1_match_7 18 rfl rfl)
theorem dX1_match_183 : decode cX1_match 183 = .ok (.ldc_w 275, 3) := dk_19 1 19 (dk_at dksX1_match_7 21 rfl rfl)
theorem dX1_match_186 : decode cX1_match 186 = .ok (.iastore, 1) := dk_79 (dk_at dksX1_match_8 0 rfl rfl)
theorem dX1_match_187 : decode cX1_match 187 = .ok (.iconst 0, 1) := dk_3 (dk_at dksX1_match_8 1 rfl rfl)
theorem dX1_match_188 : decode cX1_match 188 = .ok (.istore 6, 2) := dk_54 6 (dk_at dksX1_match_8 2 rfl rfl)
theorem dX1_match_190 : decode cX1_match 190 = .ok (.iload 6, 2) := dk_21 6 (dk_at dksX1_match_8 4 rfl rfl)
theorem dX1_match_192 : decode cX1_match 192 = .ok (.aload_n 0, 1) := dk_42 (dk_at dksX1_match_8 6 rfl rfl)
theorem dX1_match_193 : decode cX1_match 193 = .ok (.getfield 19, 3) := dk_180 0 19 (dk_at dksX1_match_8 7 rfl rfl)
theorem dX1_match_196 : decode cX1_match 196 = .ok (.getfield 89, 3) := dk_180 0 89 (dk_at dksX1_match_8 10 rfl rfl)
theorem dX1_match_199 : decode cX1_match 199 = .ok (.if_icmp .ge 52, 3) := dk_162 0 52 (dk_at dksX1_match_8 13 rfl rfl)
theorem dX1_match_202 : decode cX1_match 202 = .ok (.iload 5, 2) := dk_21 5 (dk_at dksX1_match_8 16 rfl rfl)
theorem dX1_match_204 : decode cX1_match 204 = .ok (.iload_n 3, 1) := dk_29 (dk_at dksX1_match_8 18 rfl rfl)
theorem dX1_match_205 : decode cX1_match 205 = .ok (.if_icmp .ge 46, 3) := dk_162 0 46 (dk_at dksX1_match_8 19 rfl rfl)
theorem dX1_match_208 : decode cX1_match 208 = .ok (.iload 4, 2) := dk_21 4 (dk_at dksX1_match_8 22 rfl rfl)
theorem dX1_match_210 : decode cX1_match 210 = .ok (.iload 6, 2) := dk_21 6 (dk_at dksX1_match_9 0 rfl rfl)
theorem dX1_match_212 : decode cX1_match 212 = .ok (.ishr, 1) := dk_122 (dk_at dksX1_match_9 2 rfl rfl)
theorem dX1_match_213 : decode cX1_match 213 = .ok (.iconst 1, 1) := dk_4 (dk_at dksX1_match_9 3 rfl rfl)
theorem dX1_match_214 : decode cX1_match 214 = .ok (.iand, 1) := dk_126 (dk_at dksX1_match_9 4 rfl rfl)
theorem dX1_match_215 : decode cX1_match 215 = .ok (.ifCond .ne 30, 3) := dk_154 0 30 (dk_at dksX1_match_9 5 rfl rfl)
theorem dX1_match_218 : decode cX1_match 218 = .ok (.aload_n 0, 1) := dk_42 (dk_at dksX1_match_9 8 rfl rfl)
theorem dX1_match_219 : decode cX1_match 219 = .ok (.getfield 36, 3) := dk_180 0 36 (dk_at dksX1_match_9 9 rfl rfl)
theorem dX1_match_222 : decode cX1_match 222 = .ok (.iload 4, 2) := dk_21 4 (dk_at dksX1_match_9 12 rfl rfl)
theorem dX1_match_224 : decode cX1_match 224 = .ok (.aload_n 0, 1) := dk_42 (dk_at dksX1_match_9 14 rfl rfl)
theorem dX1_match_225 : decode cX1_match 225 = .ok (.getfield 36, 3) := dk_180 0 36 (dk_at dksX1_match_9 15 rfl rfl)
theorem dX1_match_228 : decode cX1_match 228 = .ok (.iload 4, 2) := dk_21 4 (dk_at dksX1_match_9 18 rfl rfl)
theorem dX1_match_230 : decode cX1_match 230 = .ok (.iaload, 1) := dk_46 (dk_at dksX1_match_9 20 rfl rfl)
theorem dX1_match_231 : decode cX1_match 231 = .ok (.aload_n 0, 1) := dk_42 (dk_at dksX1_match_9 21 rfl rfl)
theorem dX1_match_232 : decode cX1_match 232 = .ok (.iload 5, 2) := dk_21 5 (dk_at dksX1_match_9 22 rfl rfl)
theorem dX1_match_234 : decode cX1_match 234 = .ok (.iload 4, 2) := dk_21 4 (dk_at dksX1_match_10 0 rfl rfl)
theorem dX1_match_236 : decode cX1_match 236 = .ok (.iload 6, 2) := dk_21 6 (dk_at dksX1_match_10 2 rfl rfl)
theorem dX1_match_238 : decode cX1_match 238 = .ok (.invokevirtual 290, 3) := dk_182 1 34 (dk_at dksX1_match_10 4 rfl rfl)
theorem dX1_match_241 : decode cX1_match 241 = .ok (.invokestatic 260, 3) := dk_184 1 4 (dk_at dksX1_match_10 7 rfl rfl)
theorem dX1_match_244 : decode cX1_match 244 = .ok (.iastore, 1) := dk_79 (dk_at dksX1_match_10 10 rfl rfl)
theorem dX1_match_245 : decode cX1_match 245 = .ok (.iinc 6 1, 3) := dk_132 6 1 (dk_at dksX1_match_10 11 rfl rfl)
theorem dX1_match_248 : decode cX1_match 248 = .ok (.goto (-58), 3) := dk_167 255 198 (dk_at dksX1_match_10 14 rfl rfl)
theorem dX1_match_251 : decode cX1_match 251 = .ok (.iinc 4 (-1), 3) := dk_132 4 255 (dk_at dksX1_match_10 17 rfl rfl)
theorem dX1_match_254 : decode cX1_match 254 = .ok (.goto (-99), 3) := dk_167 255 157 (dk_at dksX1_match_10 20 rfl rfl)
theorem dX1_match_257 : decode cX1_match 257 = .ok (.aload_n 0, 1) := dk_42 (dk_at dksX1_match_10 23 rfl rfl)
theorem dX1_match_258 : decode cX1_match 258 = .ok (.getfield 36, 3) := dk_180 0 36 (dk_at dksX1_match_11 0 rfl rfl)
theorem dX1_match_261 : decode cX1_match 261 = .ok (.iconst 0, 1) := dk_3 (dk_at dksX1_match_11 3 rfl rfl)
theorem dX1_match_262 : decode cX1_match 262 = .ok (.iaload, 1) := dk_46 (dk_at dksX1_match_11 4 rfl rfl)
theorem dX1_match_263 : decode cX1_match 263 = .ok (.sipush (-10000), 3) := dk_17 216 240 (dk_at dksX1_match_11 5 rfl rfl)
theorem dX1_match_266 : decode cX1_match 266 = .ok (.if_icmp .ge 16, 3) := dk_162 0 16 (dk_at dksX1_match_11 8 rfl rfl)
theorem dX1_match_269 : decode cX1_match 269 = .ok (.iload_n 2, 1) := dk_28 (dk_at dksX1_match_11 11 rfl rfl)
theorem dX1_match_270 : decode cX1_match 270 = .ok (.iconst (-1), 1) := dk_2 (dk_at dksX1_match_11 12 rfl rfl)
theorem dX1_match_271 : decode cX1_match 271 = .ok (.if_icmp .ne 9, 3) := dk_160 0 9 (dk_at dksX1_match_11 13 rfl rfl)
theorem dX1_match_274 : decode cX1_match 274 = .ok (.ldc_w 275, 3) := dk_19 1 19 (dk_at dksX1_match_11 16 rfl rfl)
theorem dX1_match_277 : decode cX1_match 277 = .ok (.goto 4, 3) := dk_167 0 4 (dk_at dksX1_match_11 19 rfl rfl)
theorem dX1_match_280 : decode cX1_match 280 = .ok (.iconst (-1), 1) := dk_2 (dk_at dksX1_match_11 22 rfl rfl)
theorem dX1_match_281 : decode cX1_match 281 = .ok (.ireturn, 1) := dk_172 (dk_at dksX1_match_11 23 rfl rfl)
theorem dX1_match_282 : decode cX1_match 282 = .ok (.iload_n 2, 1) := dk_28 (dk_at dksX1_match_12 0 rfl rfl)
theorem dX1_match_283 : decode cX1_match 283 = .ok (.iconst (-1), 1) := dk_2 (dk_at dksX1_match_12 1 rfl rfl)
theorem dX1_match_284 : decode cX1_match 284 = .ok (.if_icmp .ne 10, 3) := dk_160 0 10 (dk_at dksX1_match_12 2 rfl rfl)
theorem dX1_match_287 : decode cX1_match 287 = .ok (.aload_n 0, 1) := dk_42 (dk_at dksX1_match_12 5 rfl rfl)
theorem dX1_match_288 : decode cX1_match 288 = .ok (.getfield 36, 3) := dk_180 0 36 (dk_at dksX1_match_12 6 rfl rfl)
theorem dX1_match_291 : decode cX1_match 291 = .ok (.iconst 0, 1) := dk_3 (dk_at dksX1_match_12 9 rfl rfl)
theorem dX1_match_292 : decode cX1_match 292 = .ok (.iaload, 1) := dk_46 (dk_at dksX1_match_12 10 rfl rfl)
theorem dX1_match_293 : decode cX1_match 293 = .ok (.ireturn, 1) := dk_172 (dk_at dksX1_match_12 11 rfl rfl)
theorem dX1_match_294 : decode cX1_match 294 = .ok (.iload_n 2, 1) := dk_28 (dk_at dksX1_match_12 12 rfl rfl)
theorem dX1_match_295 : decode cX1_match 295 = .ok (.iconst 0, 1) := dk_3 (dk_at dksX1_match_12 13 rfl rfl)
theorem dX1_match_296 : decode cX1_match 296 = .ok (.iload_n 3, 1) := dk_29 (dk_at dksX1_match_12 14 rfl rfl)
theorem dX1_match_297 : decode cX1_match 297 = .ok (.iconst 1, 1) := dk_4 (dk_at dksX1_match_12 15 rfl rfl)
theorem dX1_match_298 : decode cX1_match 298 = .ok (.isub, 1) := dk_100 (dk_at dksX1_match_12 16 rfl rfl)
theorem dX1_match_299 : decode cX1_match 299 = .ok (.invokestatic 77, 3) := dk_184 0 77 (dk_at dksX1_match_12 17 rfl rfl)
theorem dX1_match_302 : decode cX1_match 302 = .ok (.ifCond .ne 5, 3) := dk_154 0 5 (dk_at dksX1_match_12 20 rfl rfl)
theorem dX1_match_305 : decode cX1_match 305 = .ok (.iconst (-1), 1) := dk_2 (dk_at dksX1_match_12 23 rfl rfl)
theorem dX1_match_306 : decode cX1_match 306 = .ok (.ireturn, 1) := dk_172 (dk_at dksX1_match_13 0 rfl rfl)
theorem dX1_match_307 : decode cX1_match 307 = .ok (.iconst 0, 1) := dk_3 (dk_at dksX1_match_13 1 rfl rfl)
theorem dX1_match_308 : decode cX1_match 308 = .ok (.istore 4, 2) := dk_54 4 (dk_at dksX1_match_13 2 rfl rfl)
theorem dX1_match_310 : decode cX1_match 310 = .ok (.iconst 0, 1) := dk_3 (dk_at dksX1_match_13 4 rfl rfl)
theorem dX1_match_311 : decode cX1_match 311 = .ok (.istore 5, 2) := dk_54 5 (dk_at dksX1_match_13 5 rfl rfl)
theorem dX1_match_313 : decode cX1_match 313 = .ok (.iconst 0, 1) := dk_3 (dk_at dksX1_match_13 7 rfl rfl)
theorem dX1_match_314 : decode cX1_match 314 = .ok (.istore 6, 2) := dk_54 6 (dk_at dksX1_match_13 8 rfl rfl)
theorem dX1_match_316 : decode cX1_match 316 = .ok (.iload 6, 2) := dk_21 6 (dk_at dksX1_match_13 10 rfl rfl)
theorem dX1_match_318 : decode cX1_match 318 = .ok (.iload_n 2, 1) := dk_28 (dk_at dksX1_match_13 12 rfl rfl)
theorem dX1_match_319 : decode cX1_match 319 = .ok (.if_icmp .gt 58, 3) := dk_163 0 58 (dk_at dksX1_match_13 13 rfl rfl)
theorem dX1_match_322 : decode cX1_match 322 = .ok (.iconst 0, 1) := dk_3 (dk_at dksX1_match_13 16 rfl rfl)
theorem dX1_match_323 : decode cX1_match 323 = .ok (.istore 5, 2) := dk_54 5 (dk_at dksX1_match_13 17 rfl rfl)
theorem dX1_match_325 : decode cX1_match 325 = .ok (.iload 4, 2) := dk_21 4 (dk_at dksX1_match_13 19 rfl rfl)
theorem dX1_match_327 : decode cX1_match 327 = .ok (.iload 5, 2) := dk_21 5 (dk_at dksX1_match_13 21 rfl rfl)
theorem dX1_match_329 : decode cX1_match 329 = .ok (.ishr, 1) := dk_122 (dk_at dksX1_match_13 23 rfl rfl)
theorem dX1_match_330 : decode cX1_match 330 = .ok (.iconst 1, 1) := dk_4 (dk_at dksX1_match_14 0 rfl rfl)
theorem dX1_match_331 : decode cX1_match 331 = .ok (.iand, 1) := dk_126 (dk_at dksX1_match_14 1 rfl rfl)
theorem dX1_match_332 : decode cX1_match 332 = .ok (.iconst 1, 1) := dk_4 (dk_at dksX1_match_14 2 rfl rfl)
theorem dX1_match_333 : decode cX1_match 333 = .ok (.if_icmp .eq 23, 3) := dk_159 0 23 (dk_at dksX1_match_14 3 rfl rfl)
theorem dX1_match_336 : decode cX1_match 336 = .ok (.aload_n 0, 1) := dk_42 (dk_at dksX1_match_14 6 rfl rfl)
theorem dX1_match_337 : decode cX1_match 337 = .ok (.iload 6, 2) := dk_21 6 (dk_at dksX1_match_14 7 rfl rfl)
theorem dX1_match_339 : decode cX1_match 339 = .ok (.iload 4, 2) := dk_21 4 (dk_at dksX1_match_14 9 rfl rfl)
theorem dX1_match_341 : decode cX1_match 341 = .ok (.iload 5, 2) := dk_21 5 (dk_at dksX1_match_14 11 rfl rfl)
theorem dX1_match_343 : decode cX1_match 343 = .ok (.invokevirtual 290, 3) := dk_182 1 34 (dk_at dksX1_match_14 13 rfl rfl)
theorem dX1_match_346 : decode cX1_match 346 = .ok (.aload_n 0, 1) := dk_42 (dk_at dksX1_match_14 16 rfl rfl)
theorem dX1_match_347 : decode cX1_match 347 = .ok (.getfield 36, 3) := dk_180 0 36 (dk_at dksX1_match_14 17 rfl rfl)
theorem dX1_match_350 : decode cX1_match 350 = .ok (.iload 4, 2) := dk_21 4 (dk_at dksX1_match_14 20 rfl rfl)
theorem dX1_match_352 : decode cX1_match 352 = .ok (.iaload, 1) := dk_46 (dk_at dksX1_match_14 22 rfl rfl)
theorem dX1_match_353 : decode cX1_match 353 = .ok (.if_icmp .eq 9, 3) := dk_159 0 9 (dk_at dksX1_match_15 0 rfl rfl)
theorem dX1_match_356 : decode cX1_match 356 = .ok (.iinc 5 1, 3) := dk_132 5 1 (dk_at dksX1_match_15 3 rfl rfl)
theorem dX1_match_359 : decode cX1_match 359 = .ok (.goto (-34), 3) := dk_167 255 222 (dk_at dksX1_match_15 6 rfl rfl)
theorem dX1_match_362 : decode cX1_match 362 = .ok (.iload 4, 2) := dk_21 4 (dk_at dksX1_match_15 9 rfl rfl)
theorem dX1_match_364 : decode cX1_match 364 = .ok (.iconst 1, 1) := dk_4 (dk_at dksX1_match_15 11 rfl rfl)
theorem dX1_match_365 : decode cX1_match 365 = .ok (.iload 5, 2) := dk_21 5 (dk_at dksX1_match_15 12 rfl rfl)
theorem dX1_match_367 : decode cX1_match 367 = .ok (.ishl, 1) := dk_120 (dk_at dksX1_match_15 14 rfl rfl)
theorem dX1_match_368 : decode cX1_match 368 = .ok (.ior, 1) := dk_128 (dk_at dksX1_match_15 15 rfl rfl)
theorem dX1_match_369 : decode cX1_match 369 = .ok (.istore 4, 2) := dk_54 4 (dk_at dksX1_match_15 16 rfl rfl)
theorem dX1_match_371 : decode cX1_match 371 = .ok (.iinc 6 1, 3) := dk_132 6 1 (dk_at dksX1_match_15 18 rfl rfl)
theorem dX1_match_374 : decode cX1_match 374 = .ok (.goto (-58), 3) := dk_167 255 198 (dk_at dksX1_match_15 21 rfl rfl)
theorem dX1_match_377 : decode cX1_match 377 = .ok (.iload 5, 2) := dk_21 5 (dk_at dksX1_match_16 0 rfl rfl)
theorem dX1_match_379 : decode cX1_match 379 = .ok (.ireturn, 1) := dk_172 (dk_at dksX1_match_16 2 rfl rfl)
abbrev cX1_by : ByteArray := prog_1_method_48_code
def yX1_by : MethodName := ⟨RX1, "by", "(III)I"⟩
def dkwX1_by_1 : List UInt8 := [96, 184, 1, 4, 172]
abbrev dktX1_by_1 : List UInt8 := dkwX1_by_1 ++ []
def dkwX1_by_0 : List UInt8 := [19, 1, 19, 42, 180, 0, 40, 16, 8, 27, 104, 29, 96, 46, 42, 180, 0, 36, 28, 4, 29, 120, 128, 46]
abbrev dktX1_by_0 : List UInt8 := dkwX1_by_0 ++ dktX1_by_1
theorem dksX1_by_0 : cX1_by.data.toList.drop 0 = dktX1_by_0 := by decide +kernel
theorem dksX1_by_1 : cX1_by.data.toList.drop 24 = dktX1_by_1 := dk_seg dksX1_by_0 24 rfl rfl
theorem dX1_by_0 : decode cX1_by 0 = .ok (.ldc_w 275, 3) := dk_19 1 19 (dk_at dksX1_by_0 0 rfl rfl)
theorem dX1_by_3 : decode cX1_by 3 = .ok (.aload_n 0, 1) := dk_42 (dk_at dksX1_by_0 3 rfl rfl)
theorem dX1_by_4 : decode cX1_by 4 = .ok (.getfield 40, 3) := dk_180 0 40 (dk_at dksX1_by_0 4 rfl rfl)
theorem dX1_by_7 : decode cX1_by 7 = .ok (.bipush 8, 2) := dk_16 8 (dk_at dksX1_by_0 7 rfl rfl)
theorem dX1_by_9 : decode cX1_by 9 = .ok (.iload_n 1, 1) := dk_27 (dk_at dksX1_by_0 9 rfl rfl)
theorem dX1_by_10 : decode cX1_by 10 = .ok (.imul, 1) := dk_104 (dk_at dksX1_by_0 10 rfl rfl)
theorem dX1_by_11 : decode cX1_by 11 = .ok (.iload_n 3, 1) := dk_29 (dk_at dksX1_by_0 11 rfl rfl)
theorem dX1_by_12 : decode cX1_by 12 = .ok (.iadd, 1) := dk_96 (dk_at dksX1_by_0 12 rfl rfl)
theorem dX1_by_13 : decode cX1_by 13 = .ok (.iaload, 1) := dk_46 (dk_at dksX1_by_0 13 rfl rfl)
theorem dX1_by_14 : decode cX1_by 14 = .ok (.aload_n 0, 1) := dk_42 (dk_at dksX1_by_0 14 rfl rfl)
theorem dX1_by_15 : decode cX1_by 15 = .ok (.getfield 36, 3) := dk_180 0 36 (dk_at dksX1_by_0 15 rfl rfl)
theorem dX1_by_18 : decode cX1_by 18 = .ok (.iload_n 2, 1) := dk_28 (dk_at dksX1_by_0 18 rfl rfl)
theorem dX1_by_19 : decode cX1_by 19 = .ok (.iconst 1, 1) := dk_4 (dk_at dksX1_by_0 19 rfl rfl)
theorem dX1_by_20 : decode cX1_by 20 = .ok (.iload_n 3, 1) := dk_29 (dk_at dksX1_by_0 20 rfl rfl)
theorem dX1_by_21 : decode cX1_by 21 = .ok (.ishl, 1) := dk_120 (dk_at dksX1_by_0 21 rfl rfl)
theorem dX1_by_22 : decode cX1_by 22 = .ok (.ior, 1) := dk_128 (dk_at dksX1_by_0 22 rfl rfl)
theorem dX1_by_23 : decode cX1_by 23 = .ok (.iaload, 1) := dk_46 (dk_at dksX1_by_0 23 rfl rfl)
theorem dX1_by_24 : decode cX1_by 24 = .ok (.iadd, 1) := dk_96 (dk_at dksX1_by_1 0 rfl rfl)
theorem dX1_by_25 : decode cX1_by 25 = .ok (.invokestatic 260, 3) := dk_184 1 4 (dk_at dksX1_by_1 1 rfl rfl)
theorem dX1_by_28 : decode cX1_by 28 = .ok (.ireturn, 1) := dk_172 (dk_at dksX1_by_1 4 rfl rfl)
abbrev cX1_rests : ByteArray := prog_1_method_52_code
def yX1_rests : MethodName := ⟨RX1, "rests", "(III)I"⟩
def dkwX1_rests_5 : List UInt8 := [132, 5, 1, 167, 255, 174, 21, 4, 172]
abbrev dktX1_rests_5 : List UInt8 := dkwX1_rests_5 ++ []
def dkwX1_rests_4 : List UInt8 := [29, 21, 6, 21, 7, 182, 1, 40, 163, 0, 10, 4, 21, 5, 120, 167, 0, 4, 3, 128, 54, 4]
abbrev dktX1_rests_4 : List UInt8 := dkwX1_rests_4 ++ dktX1_rests_5
def dkwX1_rests_3 : List UInt8 := [21, 6, 21, 7, 182, 1, 37, 163, 0, 35, 42, 28, 29, 21, 6, 4, 21, 7, 100, 182, 1, 40, 42, 28]
abbrev dktX1_rests_3 : List UInt8 := dkwX1_rests_3 ++ dktX1_rests_4
def dkwX1_rests_2 : List UInt8 := [54, 6, 21, 5, 5, 112, 54, 7, 21, 4, 42, 29, 4, 21, 6, 100, 21, 7, 182, 1, 37, 42, 29]
abbrev dktX1_rests_2 : List UInt8 := dkwX1_rests_2 ++ dktX1_rests_3
def dkwX1_rests_1 : List UInt8 := [167, 0, 4, 3, 184, 0, 228, 3, 54, 4, 3, 54, 5, 21, 5, 7, 162, 0, 82, 21, 5, 5, 108]
abbrev dktX1_rests_1 : List UInt8 := dkwX1_rests_1 ++ dktX1_rests_2
def dkwX1_rests_0 : List UInt8 := [42, 27, 182, 0, 163, 87, 42, 28, 182, 0, 163, 87, 42, 29, 182, 0, 192, 87, 27, 28, 159, 0, 7, 4]
abbrev dktX1_rests_0 : List UInt8 := dkwX1_rests_0 ++ dktX1_rests_1
theorem dksX1_rests_0 : cX1_rests.data.toList.drop 0 = dktX1_rests_0 := by decide +kernel
theorem dksX1_rests_1 : cX1_rests.data.toList.drop 24 = dktX1_rests_1 := dk_seg dksX1_rests_0 24 rfl rfl
theorem dksX1_rests_2 : cX1_rests.data.toList.drop 47 = dktX1_rests_2 := dk_seg dksX1_rests_1 23 rfl rfl
theorem dksX1_rests_3 : cX1_rests.data.toList.drop 70 = dktX1_rests_3 := dk_seg dksX1_rests_2 23 rfl rfl
theorem dksX1_rests_4 : cX1_rests.data.toList.drop 94 = dktX1_rests_4 := dk_seg dksX1_rests_3 24 rfl rfl
theorem dksX1_rests_5 : cX1_rests.data.toList.drop 116 = dktX1_rests_5 := dk_seg dksX1_rests_4 22 rfl rfl
theorem dX1_rests_0 : decode cX1_rests 0 = .ok (.aload_n 0, 1) := dk_42 (dk_at dksX1_rests_0 0 rfl rfl)
theorem dX1_rests_1 : decode cX1_rests 1 = .ok (.iload_n 1, 1) := dk_27 (dk_at dksX1_rests_0 1 rfl rfl)
theorem dX1_rests_2 : decode cX1_rests 2 = .ok (.invokevirtual 163, 3) := dk_182 0 163 (dk_at dksX1_rests_0 2 rfl rfl)
theorem dX1_rests_5 : decode cX1_rests 5 = .ok (.pop, 1) := dk_87 (dk_at dksX1_rests_0 5 rfl rfl)
theorem dX1_rests_6 : decode cX1_rests 6 = .ok (.aload_n 0, 1) := dk_42 (dk_at dksX1_rests_0 6 rfl rfl)
theorem dX1_rests_7 : decode cX1_rests 7 = .ok (.iload_n 2, 1) := dk_28 (dk_at dksX1_rests_0 7 rfl rfl)
theorem dX1_rests_8 : decode cX1_rests 8 = .ok (.invokevirtual 163, 3) := dk_182 0 163 (dk_at dksX1_rests_0 8 rfl rfl)
theorem dX1_rests_11 : decode cX1_rests 11 = .ok (.pop, 1) := dk_87 (dk_at dksX1_rests_0 11 rfl rfl)
theorem dX1_rests_12 : decode cX1_rests 12 = .ok (.aload_n 0, 1) := dk_42 (dk_at dksX1_rests_0 12 rfl rfl)
theorem dX1_rests_13 : decode cX1_rests 13 = .ok (.iload_n 3, 1) := dk_29 (dk_at dksX1_rests_0 13 rfl rfl)
theorem dX1_rests_14 : decode cX1_rests 14 = .ok (.invokevirtual 192, 3) := dk_182 0 192 (dk_at dksX1_rests_0 14 rfl rfl)
theorem dX1_rests_17 : decode cX1_rests 17 = .ok (.pop, 1) := dk_87 (dk_at dksX1_rests_0 17 rfl rfl)
theorem dX1_rests_18 : decode cX1_rests 18 = .ok (.iload_n 1, 1) := dk_27 (dk_at dksX1_rests_0 18 rfl rfl)
theorem dX1_rests_19 : decode cX1_rests 19 = .ok (.iload_n 2, 1) := dk_28 (dk_at dksX1_rests_0 19 rfl rfl)
theorem dX1_rests_20 : decode cX1_rests 20 = .ok (.if_icmp .eq 7, 3) := dk_159 0 7 (dk_at dksX1_rests_0 20 rfl rfl)
theorem dX1_rests_23 : decode cX1_rests 23 = .ok (.iconst 1, 1) := dk_4 (dk_at dksX1_rests_0 23 rfl rfl)
theorem dX1_rests_24 : decode cX1_rests 24 = .ok (.goto 4, 3) := dk_167 0 4 (dk_at dksX1_rests_1 0 rfl rfl)
theorem dX1_rests_27 : decode cX1_rests 27 = .ok (.iconst 0, 1) := dk_3 (dk_at dksX1_rests_1 3 rfl rfl)
theorem dX1_rests_28 : decode cX1_rests 28 = .ok (.invokestatic 228, 3) := dk_184 0 228 (dk_at dksX1_rests_1 4 rfl rfl)
theorem dX1_rests_31 : decode cX1_rests 31 = .ok (.iconst 0, 1) := dk_3 (dk_at dksX1_rests_1 7 rfl rfl)
theorem dX1_rests_32 : decode cX1_rests 32 = .ok (.istore 4, 2) := dk_54 4 (dk_at dksX1_rests_1 8 rfl rfl)
theorem dX1_rests_34 : decode cX1_rests 34 = .ok (.iconst 0, 1) := dk_3 (dk_at dksX1_rests_1 10 rfl rfl)
theorem dX1_rests_35 : decode cX1_rests 35 = .ok (.istore 5, 2) := dk_54 5 (dk_at dksX1_rests_1 11 rfl rfl)
theorem dX1_rests_37 : decode cX1_rests 37 = .ok (.iload 5, 2) := dk_21 5 (dk_at dksX1_rests_1 13 rfl rfl)
theorem dX1_rests_39 : decode cX1_rests 39 = .ok (.iconst 4, 1) := dk_7 (dk_at dksX1_rests_1 15 rfl rfl)
theorem dX1_rests_40 : decode cX1_rests 40 = .ok (.if_icmp .ge 82, 3) := dk_162 0 82 (dk_at dksX1_rests_1 16 rfl rfl)
theorem dX1_rests_43 : decode cX1_rests 43 = .ok (.iload 5, 2) := dk_21 5 (dk_at dksX1_rests_1 19 rfl rfl)
theorem dX1_rests_45 : decode cX1_rests 45 = .ok (.iconst 2, 1) := dk_5 (dk_at dksX1_rests_1 21 rfl rfl)
theorem dX1_rests_46 : decode cX1_rests 46 = .ok (.idiv, 1) := dk_108 (dk_at dksX1_rests_1 22 rfl rfl)
theorem dX1_rests_47 : decode cX1_rests 47 = .ok (.istore 6, 2) := dk_54 6 (dk_at dksX1_rests_2 0 rfl rfl)
theorem dX1_rests_49 : decode cX1_rests 49 = .ok (.iload 5, 2) := dk_21 5 (dk_at dksX1_rests_2 2 rfl rfl)
theorem dX1_rests_51 : decode cX1_rests 51 = .ok (.iconst 2, 1) := dk_5 (dk_at dksX1_rests_2 4 rfl rfl)
theorem dX1_rests_52 : decode cX1_rests 52 = .ok (.irem, 1) := dk_112 (dk_at dksX1_rests_2 5 rfl rfl)
theorem dX1_rests_53 : decode cX1_rests 53 = .ok (.istore 7, 2) := dk_54 7 (dk_at dksX1_rests_2 6 rfl rfl)
theorem dX1_rests_55 : decode cX1_rests 55 = .ok (.iload 4, 2) := dk_21 4 (dk_at dksX1_rests_2 8 rfl rfl)
theorem dX1_rests_57 : decode cX1_rests 57 = .ok (.aload_n 0, 1) := dk_42 (dk_at dksX1_rests_2 10 rfl rfl)
theorem dX1_rests_58 : decode cX1_rests 58 = .ok (.iload_n 3, 1) := dk_29 (dk_at dksX1_rests_2 11 rfl rfl)
theorem dX1_rests_59 : decode cX1_rests 59 = .ok (.iconst 1, 1) := dk_4 (dk_at dksX1_rests_2 12 rfl rfl)
theorem dX1_rests_60 : decode cX1_rests 60 = .ok (.iload 6, 2) := dk_21 6 (dk_at dksX1_rests_2 13 rfl rfl)
theorem dX1_rests_62 : decode cX1_rests 62 = .ok (.isub, 1) := dk_100 (dk_at dksX1_rests_2 15 rfl rfl)
theorem dX1_rests_63 : decode cX1_rests 63 = .ok (.iload 7, 2) := dk_21 7 (dk_at dksX1_rests_2 16 rfl rfl)
theorem dX1_rests_65 : decode cX1_rests 65 = .ok (.invokevirtual 293, 3) := dk_182 1 37 (dk_at dksX1_rests_2 18 rfl rfl)
theorem dX1_rests_68 : decode cX1_rests 68 = .ok (.aload_n 0, 1) := dk_42 (dk_at dksX1_rests_2 21 rfl rfl)
theorem dX1_rests_69 : decode cX1_rests 69 = .ok (.iload_n 3, 1) := dk_29 (dk_at dksX1_rests_2 22 rfl rfl)
theorem dX1_rests_70 : decode cX1_rests 70 = .ok (.iload 6, 2) := dk_21 6 (dk_at dksX1_rests_3 0 rfl rfl)
theorem dX1_rests_72 : decode cX1_rests 72 = .ok (.iload 7, 2) := dk_21 7 (dk_at dksX1_rests_3 2 rfl rfl)
theorem dX1_rests_74 : decode cX1_rests 74 = .ok (.invokevirtual 293, 3) := dk_182 1 37 (dk_at dksX1_rests_3 4 rfl rfl)
theorem dX1_rests_77 : decode cX1_rests 77 = .ok (.if_icmp .gt 35, 3) := dk_163 0 35 (dk_at dksX1_rests_3 7 rfl rfl)
theorem dX1_rests_80 : decode cX1_rests 80 = .ok (.aload_n 0, 1) := dk_42 (dk_at dksX1_rests_3 10 rfl rfl)
theorem dX1_rests_81 : decode cX1_rests 81 = .ok (.iload_n 2, 1) := dk_28 (dk_at dksX1_rests_3 11 rfl rfl)
theorem dX1_rests_82 : decode cX1_rests 82 = .ok (.iload_n 3, 1) := dk_29 (dk_at dksX1_rests_3 12 rfl rfl)
theorem dX1_rests_83 : decode cX1_rests 83 = .ok (.iload 6, 2) := dk_21 6 (dk_at dksX1_rests_3 13 rfl rfl)
theorem dX1_rests_85 : decode cX1_rests 85 = .ok (.iconst 1, 1) := dk_4 (dk_at dksX1_rests_3 15 rfl rfl)
theorem dX1_rests_86 : decode cX1_rests 86 = .ok (.iload 7, 2) := dk_21 7 (dk_at dksX1_rests_3 16 rfl rfl)
theorem dX1_rests_88 : decode cX1_rests 88 = .ok (.isub, 1) := dk_100 (dk_at dksX1_rests_3 18 rfl rfl)
theorem dX1_rests_89 : decode cX1_rests 89 = .ok (.invokevirtual 296, 3) := dk_182 1 40 (dk_at dksX1_rests_3 19 rfl rfl)
theorem dX1_rests_92 : decode cX1_rests 92 = .ok (.aload_n 0, 1) := dk_42 (dk_at dksX1_rests_3 22 rfl rfl)
theorem dX1_rests_93 : decode cX1_rests 93 = .ok (.iload_n 2, 1) := dk_28 (dk_at dksX1_rests_3 23 rfl rfl)
theorem dX1_rests_94 : decode cX1_rests 94 = .ok (.iload_n 3, 1) := dk_29 (dk_at dksX1_rests_4 0 rfl rfl)
theorem dX1_rests_95 : decode cX1_rests 95 = .ok (.iload 6, 2) := dk_21 6 (dk_at dksX1_rests_4 1 rfl rfl)
theorem dX1_rests_97 : decode cX1_rests 97 = .ok (.iload 7, 2) := dk_21 7 (dk_at dksX1_rests_4 3 rfl rfl)
theorem dX1_rests_99 : decode cX1_rests 99 = .ok (.invokevirtual 296, 3) := dk_182 1 40 (dk_at dksX1_rests_4 5 rfl rfl)
theorem dX1_rests_102 : decode cX1_rests 102 = .ok (.if_icmp .gt 10, 3) := dk_163 0 10 (dk_at dksX1_rests_4 8 rfl rfl)
theorem dX1_rests_105 : decode cX1_rests 105 = .ok (.iconst 1, 1) := dk_4 (dk_at dksX1_rests_4 11 rfl rfl)
theorem dX1_rests_106 : decode cX1_rests 106 = .ok (.iload 5, 2) := dk_21 5 (dk_at dksX1_rests_4 12 rfl rfl)
theorem dX1_rests_108 : decode cX1_rests 108 = .ok (.ishl, 1) := dk_120 (dk_at dksX1_rests_4 14 rfl rfl)
theorem dX1_rests_109 : decode cX1_rests 109 = .ok (.goto 4, 3) := dk_167 0 4 (dk_at dksX1_rests_4 15 rfl rfl)
theorem dX1_rests_112 : decode cX1_rests 112 = .ok (.iconst 0, 1) := dk_3 (dk_at dksX1_rests_4 18 rfl rfl)
theorem dX1_rests_113 : decode cX1_rests 113 = .ok (.ior, 1) := dk_128 (dk_at dksX1_rests_4 19 rfl rfl)
theorem dX1_rests_114 : decode cX1_rests 114 = .ok (.istore 4, 2) := dk_54 4 (dk_at dksX1_rests_4 20 rfl rfl)
theorem dX1_rests_116 : decode cX1_rests 116 = .ok (.iinc 5 1, 3) := dk_132 5 1 (dk_at dksX1_rests_5 0 rfl rfl)
theorem dX1_rests_119 : decode cX1_rests 119 = .ok (.goto (-82), 3) := dk_167 255 174 (dk_at dksX1_rests_5 3 rfl rfl)
theorem dX1_rests_122 : decode cX1_rests 122 = .ok (.iload 4, 2) := dk_21 4 (dk_at dksX1_rests_5 6 rfl rfl)
theorem dX1_rests_124 : decode cX1_rests 124 = .ok (.ireturn, 1) := dk_172 (dk_at dksX1_rests_5 8 rfl rfl)
abbrev cX1_widowHas : ByteArray := prog_1_method_50_code
def yX1_widowHas : MethodName := ⟨RX1, "widowHas", "(III)I"⟩
def dkwX1_widowHas_1 : List UInt8 := [180, 0, 92, 27, 50, 182, 0, 206, 16, 10, 108, 184, 1, 4, 167, 0, 4, 4, 172]
abbrev dktX1_widowHas_1 : List UInt8 := dkwX1_widowHas_1 ++ []
def dkwX1_widowHas_0 : List UInt8 := [28, 154, 0, 13, 29, 154, 0, 7, 5, 167, 0, 4, 3, 172, 29, 154, 0, 25, 3, 42, 180, 0, 19]
abbrev dktX1_widowHas_0 : List UInt8 := dkwX1_widowHas_0 ++ dktX1_widowHas_1
theorem dksX1_widowHas_0 : cX1_widowHas.data.toList.drop 0 = dktX1_widowHas_0 := by decide +kernel
theorem dksX1_widowHas_1 : cX1_widowHas.data.toList.drop 23 = dktX1_widowHas_1 := dk_seg dksX1_widowHas_0 23 rfl rfl
theorem dX1_widowHas_0 : decode cX1_widowHas 0 = .ok (.iload_n 2, 1) := dk_28 (dk_at dksX1_widowHas_0 0 rfl rfl)
theorem dX1_widowHas_1 : decode cX1_widowHas 1 = .ok (.ifCond .ne 13, 3) := dk_154 0 13 (dk_at dksX1_widowHas_0 1 rfl rfl)
theorem dX1_widowHas_4 : decode cX1_widowHas 4 = .ok (.iload_n 3, 1) := dk_29 (dk_at dksX1_widowHas_0 4 rfl rfl)
theorem dX1_widowHas_5 : decode cX1_widowHas 5 = .ok (.ifCond .ne 7, 3) := dk_154 0 7 (dk_at dksX1_widowHas_0 5 rfl rfl)
theorem dX1_widowHas_8 : decode cX1_widowHas 8 = .ok (.iconst 2, 1) := dk_5 (dk_at dksX1_widowHas_0 8 rfl rfl)
theorem dX1_widowHas_9 : decode cX1_widowHas 9 = .ok (.goto 4, 3) := dk_167 0 4 (dk_at dksX1_widowHas_0 9 rfl rfl)
theorem dX1_widowHas_12 : decode cX1_widowHas 12 = .ok (.iconst 0, 1) := dk_3 (dk_at dksX1_widowHas_0 12 rfl rfl)
theorem dX1_widowHas_13 : decode cX1_widowHas 13 = .ok (.ireturn, 1) := dk_172 (dk_at dksX1_widowHas_0 13 rfl rfl)
theorem dX1_widowHas_14 : decode cX1_widowHas 14 = .ok (.iload_n 3, 1) := dk_29 (dk_at dksX1_widowHas_0 14 rfl rfl)
theorem dX1_widowHas_15 : decode cX1_widowHas 15 = .ok (.ifCond .ne 25, 3) := dk_154 0 25 (dk_at dksX1_widowHas_0 15 rfl rfl)
theorem dX1_widowHas_18 : decode cX1_widowHas 18 = .ok (.iconst 0, 1) := dk_3 (dk_at dksX1_widowHas_0 18 rfl rfl)
theorem dX1_widowHas_19 : decode cX1_widowHas 19 = .ok (.aload_n 0, 1) := dk_42 (dk_at dksX1_widowHas_0 19 rfl rfl)
theorem dX1_widowHas_20 : decode cX1_widowHas 20 = .ok (.getfield 19, 3) := dk_180 0 19 (dk_at dksX1_widowHas_0 20 rfl rfl)
theorem dX1_widowHas_23 : decode cX1_widowHas 23 = .ok (.getfield 92, 3) := dk_180 0 92 (dk_at dksX1_widowHas_1 0 rfl rfl)
theorem dX1_widowHas_26 : decode cX1_widowHas 26 = .ok (.iload_n 1, 1) := dk_27 (dk_at dksX1_widowHas_1 3 rfl rfl)
theorem dX1_widowHas_27 : decode cX1_widowHas 27 = .ok (.aaload, 1) := dk_50 (dk_at dksX1_widowHas_1 4 rfl rfl)
theorem dX1_widowHas_28 : decode cX1_widowHas 28 = .ok (.invokevirtual 206, 3) := dk_182 0 206 (dk_at dksX1_widowHas_1 5 rfl rfl)
theorem dX1_widowHas_31 : decode cX1_widowHas 31 = .ok (.bipush 10, 2) := dk_16 10 (dk_at dksX1_widowHas_1 8 rfl rfl)
theorem dX1_widowHas_33 : decode cX1_widowHas 33 = .ok (.idiv, 1) := dk_108 (dk_at dksX1_widowHas_1 10 rfl rfl)
theorem dX1_widowHas_34 : decode cX1_widowHas 34 = .ok (.invokestatic 260, 3) := dk_184 1 4 (dk_at dksX1_widowHas_1 11 rfl rfl)
theorem dX1_widowHas_37 : decode cX1_widowHas 37 = .ok (.goto 4, 3) := dk_167 0 4 (dk_at dksX1_widowHas_1 14 rfl rfl)
theorem dX1_widowHas_40 : decode cX1_widowHas 40 = .ok (.iconst 1, 1) := dk_4 (dk_at dksX1_widowHas_1 17 rfl rfl)
theorem dX1_widowHas_41 : decode cX1_widowHas 41 = .ok (.ireturn, 1) := dk_172 (dk_at dksX1_widowHas_1 18 rfl rfl)
abbrev cX1_brideHas : ByteArray := prog_1_method_51_code
def yX1_brideHas : MethodName := ⟨RX1, "brideHas", "(IIII)I"⟩
def dkwX1_brideHas_2 : List UInt8 := [180, 0, 19, 180, 0, 240, 104, 100, 172]
abbrev dktX1_brideHas_2 : List UInt8 := dkwX1_brideHas_2 ++ []
def dkwX1_brideHas_1 : List UInt8 := [154, 0, 7, 3, 167, 0, 26, 29, 154, 0, 13, 42, 180, 0, 19, 180, 0, 240, 167, 0, 12, 5, 42]
abbrev dktX1_brideHas_1 : List UInt8 := dkwX1_brideHas_1 ++ dktX1_brideHas_2
def dkwX1_brideHas_0 : List UInt8 := [29, 4, 160, 0, 10, 21, 4, 154, 0, 5, 3, 172, 42, 180, 0, 19, 27, 28, 182, 0, 209, 21, 4]
abbrev dktX1_brideHas_0 : List UInt8 := dkwX1_brideHas_0 ++ dktX1_brideHas_1
theorem dksX1_brideHas_0 : cX1_brideHas.data.toList.drop 0 = dktX1_brideHas_0 := by decide +kernel
theorem dksX1_brideHas_1 : cX1_brideHas.data.toList.drop 23 = dktX1_brideHas_1 := dk_seg dksX1_brideHas_0 23 rfl rfl
theorem dksX1_brideHas_2 : cX1_brideHas.data.toList.drop 46 = dktX1_brideHas_2 := dk_seg dksX1_brideHas_1 23 rfl rfl
theorem dX1_brideHas_0 : decode cX1_brideHas 0 = .ok (.iload_n 3, 1) := dk_29 (dk_at dksX1_brideHas_0 0 rfl rfl)
theorem dX1_brideHas_1 : decode cX1_brideHas 1 = .ok (.iconst 1, 1) := dk_4 (dk_at dksX1_brideHas_0 1 rfl rfl)
theorem dX1_brideHas_2 : decode cX1_brideHas 2 = .ok (.if_icmp .ne 10, 3) := dk_160 0 10 (dk_at dksX1_brideHas_0 2 rfl rfl)
theorem dX1_brideHas_5 : decode cX1_brideHas 5 = .ok (.iload 4, 2) := dk_21 4 (dk_at dksX1_brideHas_0 5 rfl rfl)
theorem dX1_brideHas_7 : decode cX1_brideHas 7 = .ok (.ifCond .ne 5, 3) := dk_154 0 5 (dk_at dksX1_brideHas_0 7 rfl rfl)
theorem dX1_brideHas_10 : decode cX1_brideHas 10 = .ok (.iconst 0, 1) := dk_3 (dk_at dksX1_brideHas_0 10 rfl rfl)
theorem dX1_brideHas_11 : decode cX1_brideHas 11 = .ok (.ireturn, 1) := dk_172 (dk_at dksX1_brideHas_0 11 rfl rfl)
theorem dX1_brideHas_12 : decode cX1_brideHas 12 = .ok (.aload_n 0, 1) := dk_42 (dk_at dksX1_brideHas_0 12 rfl rfl)
theorem dX1_brideHas_13 : decode cX1_brideHas 13 = .ok (.getfield 19, 3) := dk_180 0 19 (dk_at dksX1_brideHas_0 13 rfl rfl)
theorem dX1_brideHas_16 : decode cX1_brideHas 16 = .ok (.iload_n 1, 1) := dk_27 (dk_at dksX1_brideHas_0 16 rfl rfl)
theorem dX1_brideHas_17 : decode cX1_brideHas 17 = .ok (.iload_n 2, 1) := dk_28 (dk_at dksX1_brideHas_0 17 rfl rfl)
theorem dX1_brideHas_18 : decode cX1_brideHas 18 = .ok (.invokevirtual 209, 3) := dk_182 0 209 (dk_at dksX1_brideHas_0 18 rfl rfl)
theorem dX1_brideHas_21 : decode cX1_brideHas 21 = .ok (.iload 4, 2) := dk_21 4 (dk_at dksX1_brideHas_0 21 rfl rfl)
theorem dX1_brideHas_23 : decode cX1_brideHas 23 = .ok (.ifCond .ne 7, 3) := dk_154 0 7 (dk_at dksX1_brideHas_1 0 rfl rfl)
theorem dX1_brideHas_26 : decode cX1_brideHas 26 = .ok (.iconst 0, 1) := dk_3 (dk_at dksX1_brideHas_1 3 rfl rfl)
theorem dX1_brideHas_27 : decode cX1_brideHas 27 = .ok (.goto 26, 3) := dk_167 0 26 (dk_at dksX1_brideHas_1 4 rfl rfl)
theorem dX1_brideHas_30 : decode cX1_brideHas 30 = .ok (.iload_n 3, 1) := dk_29 (dk_at dksX1_brideHas_1 7 rfl rfl)
theorem dX1_brideHas_31 : decode cX1_brideHas 31 = .ok (.ifCond .ne 13, 3) := dk_154 0 13 (dk_at dksX1_brideHas_1 8 rfl rfl)
theorem dX1_brideHas_34 : decode cX1_brideHas 34 = .ok (.aload_n 0, 1) := dk_42 (dk_at dksX1_brideHas_1 11 rfl rfl)
theorem dX1_brideHas_35 : decode cX1_brideHas 35 = .ok (.getfield 19, 3) := dk_180 0 19 (dk_at dksX1_brideHas_1 12 rfl rfl)
theorem dX1_brideHas_38 : decode cX1_brideHas 38 = .ok (.getfield 240, 3) := dk_180 0 240 (dk_at dksX1_brideHas_1 15 rfl rfl)
theorem dX1_brideHas_41 : decode cX1_brideHas 41 = .ok (.goto 12, 3) := dk_167 0 12 (dk_at dksX1_brideHas_1 18 rfl rfl)
theorem dX1_brideHas_44 : decode cX1_brideHas 44 = .ok (.iconst 2, 1) := dk_5 (dk_at dksX1_brideHas_1 21 rfl rfl)
theorem dX1_brideHas_45 : decode cX1_brideHas 45 = .ok (.aload_n 0, 1) := dk_42 (dk_at dksX1_brideHas_1 22 rfl rfl)
theorem dX1_brideHas_46 : decode cX1_brideHas 46 = .ok (.getfield 19, 3) := dk_180 0 19 (dk_at dksX1_brideHas_2 0 rfl rfl)
theorem dX1_brideHas_49 : decode cX1_brideHas 49 = .ok (.getfield 240, 3) := dk_180 0 240 (dk_at dksX1_brideHas_2 3 rfl rfl)
theorem dX1_brideHas_52 : decode cX1_brideHas 52 = .ok (.imul, 1) := dk_104 (dk_at dksX1_brideHas_2 6 rfl rfl)
theorem dX1_brideHas_53 : decode cX1_brideHas 53 = .ok (.isub, 1) := dk_100 (dk_at dksX1_brideHas_2 7 rfl rfl)
theorem dX1_brideHas_54 : decode cX1_brideHas 54 = .ok (.ireturn, 1) := dk_172 (dk_at dksX1_brideHas_2 8 rfl rfl)
abbrev cX1_sells : ByteArray := prog_1_method_54_code
def yX1_sells : MethodName := ⟨RX1, "sells", "(I)I"⟩
def dkwX1_sells_0 : List UInt8 := [27, 3, 16, 50, 184, 0, 77, 184, 0, 228, 42, 27, 182, 1, 44, 172]
abbrev dktX1_sells_0 : List UInt8 := dkwX1_sells_0 ++ []
theorem dksX1_sells_0 : cX1_sells.data.toList.drop 0 = dktX1_sells_0 := by decide +kernel
theorem dX1_sells_0 : decode cX1_sells 0 = .ok (.iload_n 1, 1) := dk_27 (dk_at dksX1_sells_0 0 rfl rfl)
theorem dX1_sells_1 : decode cX1_sells 1 = .ok (.iconst 0, 1) := dk_3 (dk_at dksX1_sells_0 1 rfl rfl)
theorem dX1_sells_2 : decode cX1_sells 2 = .ok (.bipush 50, 2) := dk_16 50 (dk_at dksX1_sells_0 2 rfl rfl)
theorem dX1_sells_4 : decode cX1_sells 4 = .ok (.invokestatic 77, 3) := dk_184 0 77 (dk_at dksX1_sells_0 4 rfl rfl)
theorem dX1_sells_7 : decode cX1_sells 7 = .ok (.invokestatic 228, 3) := dk_184 0 228 (dk_at dksX1_sells_0 7 rfl rfl)
theorem dX1_sells_10 : decode cX1_sells 10 = .ok (.aload_n 0, 1) := dk_42 (dk_at dksX1_sells_0 10 rfl rfl)
theorem dX1_sells_11 : decode cX1_sells 11 = .ok (.iload_n 1, 1) := dk_27 (dk_at dksX1_sells_0 11 rfl rfl)
theorem dX1_sells_12 : decode cX1_sells 12 = .ok (.invokevirtual 300, 3) := dk_182 1 44 (dk_at dksX1_sells_0 12 rfl rfl)
theorem dX1_sells_15 : decode cX1_sells 15 = .ok (.ireturn, 1) := dk_172 (dk_at dksX1_sells_0 15 rfl rfl)
abbrev cX1_luckiest : ByteArray := prog_1_method_57_code
def yX1_luckiest : MethodName := ⟨RX1, "luckiest", "(I)I"⟩
def dkwX1_luckiest_2 : List UInt8 := [180, 0, 167, 27, 46, 164, 0, 5, 29, 61, 132, 3, 1, 167, 255, 204, 28, 172]
abbrev dktX1_luckiest_2 : List UInt8 := dkwX1_luckiest_2 ++ []
def dkwX1_luckiest_1 : List UInt8 := [42, 180, 0, 19, 180, 0, 85, 29, 50, 180, 0, 167, 27, 46, 42, 180, 0, 19, 180, 0, 85, 28, 50]
abbrev dktX1_luckiest_1 : List UInt8 := dkwX1_luckiest_1 ++ dktX1_luckiest_2
def dkwX1_luckiest_0 : List UInt8 := [27, 184, 0, 213, 2, 61, 3, 62, 29, 42, 180, 0, 19, 180, 0, 74, 162, 0, 47, 28, 2, 159, 0, 34]
abbrev dktX1_luckiest_0 : List UInt8 := dkwX1_luckiest_0 ++ dktX1_luckiest_1
theorem dksX1_luckiest_0 : cX1_luckiest.data.toList.drop 0 = dktX1_luckiest_0 := by decide +kernel
theorem dksX1_luckiest_1 : cX1_luckiest.data.toList.drop 24 = dktX1_luckiest_1 := dk_seg dksX1_luckiest_0 24 rfl rfl
theorem dksX1_luckiest_2 : cX1_luckiest.data.toList.drop 47 = dktX1_luckiest_2 := dk_seg dksX1_luckiest_1 23 rfl rfl
theorem dX1_luckiest_0 : decode cX1_luckiest 0 = .ok (.iload_n 1, 1) := dk_27 (dk_at dksX1_luckiest_0 0 rfl rfl)
theorem dX1_luckiest_1 : decode cX1_luckiest 1 = .ok (.invokestatic 213, 3) := dk_184 0 213 (dk_at dksX1_luckiest_0 1 rfl rfl)
theorem dX1_luckiest_4 : decode cX1_luckiest 4 = .ok (.iconst (-1), 1) := dk_2 (dk_at dksX1_luckiest_0 4 rfl rfl)
theorem dX1_luckiest_5 : decode cX1_luckiest 5 = .ok (.istore_n 2, 1) := dk_61 (dk_at dksX1_luckiest_0 5 rfl rfl)
theorem dX1_luckiest_6 : decode cX1_luckiest 6 = .ok (.iconst 0, 1) := dk_3 (dk_at dksX1_luckiest_0 6 rfl rfl)
theorem dX1_luckiest_7 : decode cX1_luckiest 7 = .ok (.istore_n 3, 1) := dk_62 (dk_at dksX1_luckiest_0 7 rfl rfl)
theorem dX1_luckiest_8 : decode cX1_luckiest 8 = .ok (.iload_n 3, 1) := dk_29 (dk_at dksX1_luckiest_0 8 rfl rfl)
theorem dX1_luckiest_9 : decode cX1_luckiest 9 = .ok (.aload_n 0, 1) := dk_42 (dk_at dksX1_luckiest_0 9 rfl rfl)
theorem dX1_luckiest_10 : decode cX1_luckiest 10 = .ok (.getfield 19, 3) := dk_180 0 19 (dk_at dksX1_luckiest_0 10 rfl rfl)
theorem dX1_luckiest_13 : decode cX1_luckiest 13 = .ok (.getfield 74, 3) := dk_180 0 74 (dk_at dksX1_luckiest_0 13 rfl rfl)
theorem dX1_luckiest_16 : decode cX1_luckiest 16 = .ok (.if_icmp .ge 47, 3) := dk_162 0 47 (dk_at dksX1_luckiest_0 16 rfl rfl)
theorem dX1_luckiest_19 : decode cX1_luckiest 19 = .ok (.iload_n 2, 1) := dk_28 (dk_at dksX1_luckiest_0 19 rfl rfl)
theorem dX1_luckiest_20 : decode cX1_luckiest 20 = .ok (.iconst (-1), 1) := dk_2 (dk_at dksX1_luckiest_0 20 rfl rfl)
theorem dX1_luckiest_21 : decode cX1_luckiest 21 = .ok (.if_icmp .eq 34, 3) := dk_159 0 34 (dk_at dksX1_luckiest_0 21 rfl rfl)
theorem dX1_luckiest_24 : decode cX1_luckiest 24 = .ok (.aload_n 0, 1) := dk_42 (dk_at dksX1_luckiest_1 0 rfl rfl)
theorem dX1_luckiest_25 : decode cX1_luckiest 25 = .ok (.getfield 19, 3) := dk_180 0 19 (dk_at dksX1_luckiest_1 1 rfl rfl)
theorem dX1_luckiest_28 : decode cX1_luckiest 28 = .ok (.getfield 85, 3) := dk_180 0 85 (dk_at dksX1_luckiest_1 4 rfl rfl)
theorem dX1_luckiest_31 : decode cX1_luckiest 31 = .ok (.iload_n 3, 1) := dk_29 (dk_at dksX1_luckiest_1 7 rfl rfl)
theorem dX1_luckiest_32 : decode cX1_luckiest 32 = .ok (.aaload, 1) := dk_50 (dk_at dksX1_luckiest_1 8 rfl rfl)
theorem dX1_luckiest_33 : decode cX1_luckiest 33 = .ok (.getfield 167, 3) := dk_180 0 167 (dk_at dksX1_luckiest_1 9 rfl rfl)
theorem dX1_luckiest_36 : decode cX1_luckiest 36 = .ok (.iload_n 1, 1) := dk_27 (dk_at dksX1_luckiest_1 12 rfl rfl)
theorem dX1_luckiest_37 : decode cX1_luckiest 37 = .ok (.iaload, 1) := dk_46 (dk_at dksX1_luckiest_1 13 rfl rfl)
theorem dX1_luckiest_38 : decode cX1_luckiest 38 = .ok (.aload_n 0, 1) := dk_42 (dk_at dksX1_luckiest_1 14 rfl rfl)
theorem dX1_luckiest_39 : decode cX1_luckiest 39 = .ok (.getfield 19, 3) := dk_180 0 19 (dk_at dksX1_luckiest_1 15 rfl rfl)
theorem dX1_luckiest_42 : decode cX1_luckiest 42 = .ok (.getfield 85, 3) := dk_180 0 85 (dk_at dksX1_luckiest_1 18 rfl rfl)
theorem dX1_luckiest_45 : decode cX1_luckiest 45 = .ok (.iload_n 2, 1) := dk_28 (dk_at dksX1_luckiest_1 21 rfl rfl)
theorem dX1_luckiest_46 : decode cX1_luckiest 46 = .ok (.aaload, 1) := dk_50 (dk_at dksX1_luckiest_1 22 rfl rfl)
theorem dX1_luckiest_47 : decode cX1_luckiest 47 = .ok (.getfield 167, 3) := dk_180 0 167 (dk_at dksX1_luckiest_2 0 rfl rfl)
theorem dX1_luckiest_50 : decode cX1_luckiest 50 = .ok (.iload_n 1, 1) := dk_27 (dk_at dksX1_luckiest_2 3 rfl rfl)
theorem dX1_luckiest_51 : decode cX1_luckiest 51 = .ok (.iaload, 1) := dk_46 (dk_at dksX1_luckiest_2 4 rfl rfl)
theorem dX1_luckiest_52 : decode cX1_luckiest 52 = .ok (.if_icmp .le 5, 3) := dk_164 0 5 (dk_at dksX1_luckiest_2 5 rfl rfl)
theorem dX1_luckiest_55 : decode cX1_luckiest 55 = .ok (.iload_n 3, 1) := dk_29 (dk_at dksX1_luckiest_2 8 rfl rfl)
theorem dX1_luckiest_56 : decode cX1_luckiest 56 = .ok (.istore_n 2, 1) := dk_61 (dk_at dksX1_luckiest_2 9 rfl rfl)
theorem dX1_luckiest_57 : decode cX1_luckiest 57 = .ok (.iinc 3 1, 3) := dk_132 3 1 (dk_at dksX1_luckiest_2 10 rfl rfl)
theorem dX1_luckiest_60 : decode cX1_luckiest 60 = .ok (.goto (-52), 3) := dk_167 255 204 (dk_at dksX1_luckiest_2 13 rfl rfl)
theorem dX1_luckiest_63 : decode cX1_luckiest 63 = .ok (.iload_n 2, 1) := dk_28 (dk_at dksX1_luckiest_2 16 rfl rfl)
theorem dX1_luckiest_64 : decode cX1_luckiest 64 = .ok (.ireturn, 1) := dk_172 (dk_at dksX1_luckiest_2 17 rfl rfl)
abbrev cX1_ring : ByteArray := prog_1_method_59_code
def yX1_ring : MethodName := ⟨RX1, "ring", "(I)Z"⟩
def dkwX1_ring_2 : List UInt8 := [160, 0, 7, 4, 167, 0, 4, 3, 172]
abbrev dktX1_ring_2 : List UInt8 := dkwX1_ring_2 ++ []
def dkwX1_ring_1 : List UInt8 := [159, 0, 20, 28, 27, 159, 0, 15, 42, 28, 182, 1, 47, 61, 132, 3, 1, 167, 255, 231, 28, 27]
abbrev dktX1_ring_1 : List UInt8 := dkwX1_ring_1 ++ dktX1_ring_2
def dkwX1_ring_0 : List UInt8 := [42, 27, 182, 0, 163, 87, 42, 27, 182, 1, 47, 61, 3, 62, 29, 16, 8, 162, 0, 25, 28, 2]
abbrev dktX1_ring_0 : List UInt8 := dkwX1_ring_0 ++ dktX1_ring_1
theorem dksX1_ring_0 : cX1_ring.data.toList.drop 0 = dktX1_ring_0 := by decide +kernel
theorem dksX1_ring_1 : cX1_ring.data.toList.drop 22 = dktX1_ring_1 := dk_seg dksX1_ring_0 22 rfl rfl
theorem dksX1_ring_2 : cX1_ring.data.toList.drop 44 = dktX1_ring_2 := dk_seg dksX1_ring_1 22 rfl rfl
theorem dX1_ring_0 : decode cX1_ring 0 = .ok (.aload_n 0, 1) := dk_42 (dk_at dksX1_ring_0 0 rfl rfl)
theorem dX1_ring_1 : decode cX1_ring 1 = .ok (.iload_n 1, 1) := dk_27 (dk_at dksX1_ring_0 1 rfl rfl)
theorem dX1_ring_2 : decode cX1_ring 2 = .ok (.invokevirtual 163, 3) := dk_182 0 163 (dk_at dksX1_ring_0 2 rfl rfl)
theorem dX1_ring_5 : decode cX1_ring 5 = .ok (.pop, 1) := dk_87 (dk_at dksX1_ring_0 5 rfl rfl)
theorem dX1_ring_6 : decode cX1_ring 6 = .ok (.aload_n 0, 1) := dk_42 (dk_at dksX1_ring_0 6 rfl rfl)
theorem dX1_ring_7 : decode cX1_ring 7 = .ok (.iload_n 1, 1) := dk_27 (dk_at dksX1_ring_0 7 rfl rfl)
theorem dX1_ring_8 : decode cX1_ring 8 = .ok (.invokevirtual 303, 3) := dk_182 1 47 (dk_at dksX1_ring_0 8 rfl rfl)
theorem dX1_ring_11 : decode cX1_ring 11 = .ok (.istore_n 2, 1) := dk_61 (dk_at dksX1_ring_0 11 rfl rfl)
theorem dX1_ring_12 : decode cX1_ring 12 = .ok (.iconst 0, 1) := dk_3 (dk_at dksX1_ring_0 12 rfl rfl)
theorem dX1_ring_13 : decode cX1_ring 13 = .ok (.istore_n 3, 1) := dk_62 (dk_at dksX1_ring_0 13 rfl rfl)
theorem dX1_ring_14 : decode cX1_ring 14 = .ok (.iload_n 3, 1) := dk_29 (dk_at dksX1_ring_0 14 rfl rfl)
theorem dX1_ring_15 : decode cX1_ring 15 = .ok (.bipush 8, 2) := dk_16 8 (dk_at dksX1_ring_0 15 rfl rfl)
theorem dX1_ring_17 : decode cX1_ring 17 = .ok (.if_icmp .ge 25, 3) := dk_162 0 25 (dk_at dksX1_ring_0 17 rfl rfl)
theorem dX1_ring_20 : decode cX1_ring 20 = .ok (.iload_n 2, 1) := dk_28 (dk_at dksX1_ring_0 20 rfl rfl)
theorem dX1_ring_21 : decode cX1_ring 21 = .ok (.iconst (-1), 1) := dk_2 (dk_at dksX1_ring_0 21 rfl rfl)
theorem dX1_ring_22 : decode cX1_ring 22 = .ok (.if_icmp .eq 20, 3) := dk_159 0 20 (dk_at dksX1_ring_1 0 rfl rfl)
theorem dX1_ring_25 : decode cX1_ring 25 = .ok (.iload_n 2, 1) := dk_28 (dk_at dksX1_ring_1 3 rfl rfl)
theorem dX1_ring_26 : decode cX1_ring 26 = .ok (.iload_n 1, 1) := dk_27 (dk_at dksX1_ring_1 4 rfl rfl)
theorem dX1_ring_27 : decode cX1_ring 27 = .ok (.if_icmp .eq 15, 3) := dk_159 0 15 (dk_at dksX1_ring_1 5 rfl rfl)
theorem dX1_ring_30 : decode cX1_ring 30 = .ok (.aload_n 0, 1) := dk_42 (dk_at dksX1_ring_1 8 rfl rfl)
theorem dX1_ring_31 : decode cX1_ring 31 = .ok (.iload_n 2, 1) := dk_28 (dk_at dksX1_ring_1 9 rfl rfl)
theorem dX1_ring_32 : decode cX1_ring 32 = .ok (.invokevirtual 303, 3) := dk_182 1 47 (dk_at dksX1_ring_1 10 rfl rfl)
theorem dX1_ring_35 : decode cX1_ring 35 = .ok (.istore_n 2, 1) := dk_61 (dk_at dksX1_ring_1 13 rfl rfl)
theorem dX1_ring_36 : decode cX1_ring 36 = .ok (.iinc 3 1, 3) := dk_132 3 1 (dk_at dksX1_ring_1 14 rfl rfl)
theorem dX1_ring_39 : decode cX1_ring 39 = .ok (.goto (-25), 3) := dk_167 255 231 (dk_at dksX1_ring_1 17 rfl rfl)
theorem dX1_ring_42 : decode cX1_ring 42 = .ok (.iload_n 2, 1) := dk_28 (dk_at dksX1_ring_1 20 rfl rfl)
theorem dX1_ring_43 : decode cX1_ring 43 = .ok (.iload_n 1, 1) := dk_27 (dk_at dksX1_ring_1 21 rfl rfl)
theorem dX1_ring_44 : decode cX1_ring 44 = .ok (.if_icmp .ne 7, 3) := dk_160 0 7 (dk_at dksX1_ring_2 0 rfl rfl)
theorem dX1_ring_47 : decode cX1_ring 47 = .ok (.iconst 1, 1) := dk_4 (dk_at dksX1_ring_2 3 rfl rfl)
theorem dX1_ring_48 : decode cX1_ring 48 = .ok (.goto 4, 3) := dk_167 0 4 (dk_at dksX1_ring_2 4 rfl rfl)
theorem dX1_ring_51 : decode cX1_ring 51 = .ok (.iconst 0, 1) := dk_3 (dk_at dksX1_ring_2 7 rfl rfl)
theorem dX1_ring_52 : decode cX1_ring 52 = .ok (.ireturn, 1) := dk_172 (dk_at dksX1_ring_2 8 rfl rfl)
abbrev cX1_debtor : ByteArray := prog_1_method_58_code
def yX1_debtor : MethodName := ⟨RX1, "debtor", "(I)I"⟩
def dkwX1_debtor_2 : List UInt8 := [180, 0, 155, 172, 132, 2, 1, 167, 255, 203, 2, 172]
abbrev dktX1_debtor_2 : List UInt8 := dkwX1_debtor_2 ++ []
def dkwX1_debtor_1 : List UInt8 := [180, 0, 160, 27, 160, 0, 24, 45, 180, 0, 155, 27, 159, 0, 16, 45, 180, 0, 155, 2, 159, 0, 8, 45]
abbrev dktX1_debtor_1 : List UInt8 := dkwX1_debtor_1 ++ dktX1_debtor_2
def dkwX1_debtor_0 : List UInt8 := [3, 61, 28, 42, 180, 0, 19, 180, 0, 89, 162, 0, 48, 42, 180, 0, 19, 180, 0, 92, 28, 50, 78, 45]
abbrev dktX1_debtor_0 : List UInt8 := dkwX1_debtor_0 ++ dktX1_debtor_1
theorem dksX1_debtor_0 : cX1_debtor.data.toList.drop 0 = dktX1_debtor_0 := by decide +kernel
theorem dksX1_debtor_1 : cX1_debtor.data.toList.drop 24 = dktX1_debtor_1 := dk_seg dksX1_debtor_0 24 rfl rfl
theorem dksX1_debtor_2 : cX1_debtor.data.toList.drop 48 = dktX1_debtor_2 := dk_seg dksX1_debtor_1 24 rfl rfl
theorem dX1_debtor_0 : decode cX1_debtor 0 = .ok (.iconst 0, 1) := dk_3 (dk_at dksX1_debtor_0 0 rfl rfl)
theorem dX1_debtor_1 : decode cX1_debtor 1 = .ok (.istore_n 2, 1) := dk_61 (dk_at dksX1_debtor_0 1 rfl rfl)
theorem dX1_debtor_2 : decode cX1_debtor 2 = .ok (.iload_n 2, 1) := dk_28 (dk_at dksX1_debtor_0 2 rfl rfl)
theorem dX1_debtor_3 : decode cX1_debtor 3 = .ok (.aload_n 0, 1) := dk_42 (dk_at dksX1_debtor_0 3 rfl rfl)
theorem dX1_debtor_4 : decode cX1_debtor 4 = .ok (.getfield 19, 3) := dk_180 0 19 (dk_at dksX1_debtor_0 4 rfl rfl)
theorem dX1_debtor_7 : decode cX1_debtor 7 = .ok (.getfield 89, 3) := dk_180 0 89 (dk_at dksX1_debtor_0 7 rfl rfl)
theorem dX1_debtor_10 : decode cX1_debtor 10 = .ok (.if_icmp .ge 48, 3) := dk_162 0 48 (dk_at dksX1_debtor_0 10 rfl rfl)
theorem dX1_debtor_13 : decode cX1_debtor 13 = .ok (.aload_n 0, 1) := dk_42 (dk_at dksX1_debtor_0 13 rfl rfl)
theorem dX1_debtor_14 : decode cX1_debtor 14 = .ok (.getfield 19, 3) := dk_180 0 19 (dk_at dksX1_debtor_0 14 rfl rfl)
theorem dX1_debtor_17 : decode cX1_debtor 17 = .ok (.getfield 92, 3) := dk_180 0 92 (dk_at dksX1_debtor_0 17 rfl rfl)
theorem dX1_debtor_20 : decode cX1_debtor 20 = .ok (.iload_n 2, 1) := dk_28 (dk_at dksX1_debtor_0 20 rfl rfl)
theorem dX1_debtor_21 : decode cX1_debtor 21 = .ok (.aaload, 1) := dk_50 (dk_at dksX1_debtor_0 21 rfl rfl)
theorem dX1_debtor_22 : decode cX1_debtor 22 = .ok (.astore_n 3, 1) := dk_78 (dk_at dksX1_debtor_0 22 rfl rfl)
theorem dX1_debtor_23 : decode cX1_debtor 23 = .ok (.aload_n 3, 1) := dk_45 (dk_at dksX1_debtor_0 23 rfl rfl)
theorem dX1_debtor_24 : decode cX1_debtor 24 = .ok (.getfield 160, 3) := dk_180 0 160 (dk_at dksX1_debtor_1 0 rfl rfl)
theorem dX1_debtor_27 : decode cX1_debtor 27 = .ok (.iload_n 1, 1) := dk_27 (dk_at dksX1_debtor_1 3 rfl rfl)
theorem dX1_debtor_28 : decode cX1_debtor 28 = .ok (.if_icmp .ne 24, 3) := dk_160 0 24 (dk_at dksX1_debtor_1 4 rfl rfl)
theorem dX1_debtor_31 : decode cX1_debtor 31 = .ok (.aload_n 3, 1) := dk_45 (dk_at dksX1_debtor_1 7 rfl rfl)
theorem dX1_debtor_32 : decode cX1_debtor 32 = .ok (.getfield 155, 3) := dk_180 0 155 (dk_at dksX1_debtor_1 8 rfl rfl)
theorem dX1_debtor_35 : decode cX1_debtor 35 = .ok (.iload_n 1, 1) := dk_27 (dk_at dksX1_debtor_1 11 rfl rfl)
theorem dX1_debtor_36 : decode cX1_debtor 36 = .ok (.if_icmp .eq 16, 3) := dk_159 0 16 (dk_at dksX1_debtor_1 12 rfl rfl)
theorem dX1_debtor_39 : decode cX1_debtor 39 = .ok (.aload_n 3, 1) := dk_45 (dk_at dksX1_debtor_1 15 rfl rfl)
theorem dX1_debtor_40 : decode cX1_debtor 40 = .ok (.getfield 155, 3) := dk_180 0 155 (dk_at dksX1_debtor_1 16 rfl rfl)
theorem dX1_debtor_43 : decode cX1_debtor 43 = .ok (.iconst (-1), 1) := dk_2 (dk_at dksX1_debtor_1 19 rfl rfl)
theorem dX1_debtor_44 : decode cX1_debtor 44 = .ok (.if_icmp .eq 8, 3) := dk_159 0 8 (dk_at dksX1_debtor_1 20 rfl rfl)
theorem dX1_debtor_47 : decode cX1_debtor 47 = .ok (.aload_n 3, 1) := dk_45 (dk_at dksX1_debtor_1 23 rfl rfl)
theorem dX1_debtor_48 : decode cX1_debtor 48 = .ok (.getfield 155, 3) := dk_180 0 155 (dk_at dksX1_debtor_2 0 rfl rfl)
theorem dX1_debtor_51 : decode cX1_debtor 51 = .ok (.ireturn, 1) := dk_172 (dk_at dksX1_debtor_2 3 rfl rfl)
theorem dX1_debtor_52 : decode cX1_debtor 52 = .ok (.iinc 2 1, 3) := dk_132 2 1 (dk_at dksX1_debtor_2 4 rfl rfl)
theorem dX1_debtor_55 : decode cX1_debtor 55 = .ok (.goto (-53), 3) := dk_167 255 203 (dk_at dksX1_debtor_2 7 rfl rfl)
theorem dX1_debtor_58 : decode cX1_debtor 58 = .ok (.iconst (-1), 1) := dk_2 (dk_at dksX1_debtor_2 10 rfl rfl)
theorem dX1_debtor_59 : decode cX1_debtor 59 = .ok (.ireturn, 1) := dk_172 (dk_at dksX1_debtor_2 11 rfl rfl)
abbrev cX1_runs : ByteArray := prog_1_method_60_code
def yX1_runs : MethodName := ⟨RX1, "runs", "(II)I"⟩
def dkwX1_runs_3 : List UInt8 := [54, 4, 42, 180, 0, 19, 42, 180, 0, 26, 182, 0, 130, 21, 4, 172]
abbrev dktX1_runs_3 : List UInt8 := dkwX1_runs_3 ++ []
def dkwX1_runs_2 : List UInt8 := [180, 0, 74, 112, 27, 182, 0, 237, 54, 5, 132, 4, 1, 167, 255, 227, 45, 180, 0, 196, 184, 0, 188]
abbrev dktX1_runs_2 : List UInt8 := dkwX1_runs_2 ++ dktX1_runs_3
def dkwX1_runs_1 : List UInt8 := [182, 0, 130, 3, 54, 4, 21, 4, 28, 162, 0, 29, 42, 180, 0, 19, 21, 4, 42, 180, 0, 19]
abbrev dktX1_runs_1 : List UInt8 := dkwX1_runs_1 ++ dktX1_runs_2
def dkwX1_runs_0 : List UInt8 := [42, 27, 182, 0, 192, 78, 28, 3, 16, 60, 184, 0, 77, 184, 0, 228, 42, 180, 0, 26, 42, 180, 0, 19]
abbrev dktX1_runs_0 : List UInt8 := dkwX1_runs_0 ++ dktX1_runs_1
theorem dksX1_runs_0 : cX1_runs.data.toList.drop 0 = dktX1_runs_0 := by decide +kernel
theorem dksX1_runs_1 : cX1_runs.data.toList.drop 24 = dktX1_runs_1 := dk_seg dksX1_runs_0 24 rfl rfl
theorem dksX1_runs_2 : cX1_runs.data.toList.drop 46 = dktX1_runs_2 := dk_seg dksX1_runs_1 22 rfl rfl
theorem dksX1_runs_3 : cX1_runs.data.toList.drop 69 = dktX1_runs_3 := dk_seg dksX1_runs_2 23 rfl rfl
theorem dX1_runs_0 : decode cX1_runs 0 = .ok (.aload_n 0, 1) := dk_42 (dk_at dksX1_runs_0 0 rfl rfl)
theorem dX1_runs_1 : decode cX1_runs 1 = .ok (.iload_n 1, 1) := dk_27 (dk_at dksX1_runs_0 1 rfl rfl)
theorem dX1_runs_2 : decode cX1_runs 2 = .ok (.invokevirtual 192, 3) := dk_182 0 192 (dk_at dksX1_runs_0 2 rfl rfl)
theorem dX1_runs_5 : decode cX1_runs 5 = .ok (.astore_n 3, 1) := dk_78 (dk_at dksX1_runs_0 5 rfl rfl)
theorem dX1_runs_6 : decode cX1_runs 6 = .ok (.iload_n 2, 1) := dk_28 (dk_at dksX1_runs_0 6 rfl rfl)
theorem dX1_runs_7 : decode cX1_runs 7 = .ok (.iconst 0, 1) := dk_3 (dk_at dksX1_runs_0 7 rfl rfl)
theorem dX1_runs_8 : decode cX1_runs 8 = .ok (.bipush 60, 2) := dk_16 60 (dk_at dksX1_runs_0 8 rfl rfl)
theorem dX1_runs_10 : decode cX1_runs 10 = .ok (.invokestatic 77, 3) := dk_184 0 77 (dk_at dksX1_runs_0 10 rfl rfl)
theorem dX1_runs_13 : decode cX1_runs 13 = .ok (.invokestatic 228, 3) := dk_184 0 228 (dk_at dksX1_runs_0 13 rfl rfl)
theorem dX1_runs_16 : decode cX1_runs 16 = .ok (.aload_n 0, 1) := dk_42 (dk_at dksX1_runs_0 16 rfl rfl)
theorem dX1_runs_17 : decode cX1_runs 17 = .ok (.getfield 26, 3) := dk_180 0 26 (dk_at dksX1_runs_0 17 rfl rfl)
theorem dX1_runs_20 : decode cX1_runs 20 = .ok (.aload_n 0, 1) := dk_42 (dk_at dksX1_runs_0 20 rfl rfl)
theorem dX1_runs_21 : decode cX1_runs 21 = .ok (.getfield 19, 3) := dk_180 0 19 (dk_at dksX1_runs_0 21 rfl rfl)
theorem dX1_runs_24 : decode cX1_runs 24 = .ok (.invokevirtual 130, 3) := dk_182 0 130 (dk_at dksX1_runs_1 0 rfl rfl)
theorem dX1_runs_27 : decode cX1_runs 27 = .ok (.iconst 0, 1) := dk_3 (dk_at dksX1_runs_1 3 rfl rfl)
theorem dX1_runs_28 : decode cX1_runs 28 = .ok (.istore 4, 2) := dk_54 4 (dk_at dksX1_runs_1 4 rfl rfl)
theorem dX1_runs_30 : decode cX1_runs 30 = .ok (.iload 4, 2) := dk_21 4 (dk_at dksX1_runs_1 6 rfl rfl)
theorem dX1_runs_32 : decode cX1_runs 32 = .ok (.iload_n 2, 1) := dk_28 (dk_at dksX1_runs_1 8 rfl rfl)
theorem dX1_runs_33 : decode cX1_runs 33 = .ok (.if_icmp .ge 29, 3) := dk_162 0 29 (dk_at dksX1_runs_1 9 rfl rfl)
theorem dX1_runs_36 : decode cX1_runs 36 = .ok (.aload_n 0, 1) := dk_42 (dk_at dksX1_runs_1 12 rfl rfl)
theorem dX1_runs_37 : decode cX1_runs 37 = .ok (.getfield 19, 3) := dk_180 0 19 (dk_at dksX1_runs_1 13 rfl rfl)
theorem dX1_runs_40 : decode cX1_runs 40 = .ok (.iload 4, 2) := dk_21 4 (dk_at dksX1_runs_1 16 rfl rfl)
theorem dX1_runs_42 : decode cX1_runs 42 = .ok (.aload_n 0, 1) := dk_42 (dk_at dksX1_runs_1 18 rfl rfl)
theorem dX1_runs_43 : decode cX1_runs 43 = .ok (.getfield 19, 3) := dk_180 0 19 (dk_at dksX1_runs_1 19 rfl rfl)
theorem dX1_runs_46 : decode cX1_runs 46 = .ok (.getfield 74, 3) := dk_180 0 74 (dk_at dksX1_runs_2 0 rfl rfl)
theorem dX1_runs_49 : decode cX1_runs 49 = .ok (.irem, 1) := dk_112 (dk_at dksX1_runs_2 3 rfl rfl)
theorem dX1_runs_50 : decode cX1_runs 50 = .ok (.iload_n 1, 1) := dk_27 (dk_at dksX1_runs_2 4 rfl rfl)
theorem dX1_runs_51 : decode cX1_runs 51 = .ok (.invokevirtual 237, 3) := dk_182 0 237 (dk_at dksX1_runs_2 5 rfl rfl)
theorem dX1_runs_54 : decode cX1_runs 54 = .ok (.istore 5, 2) := dk_54 5 (dk_at dksX1_runs_2 8 rfl rfl)
theorem dX1_runs_56 : decode cX1_runs 56 = .ok (.iinc 4 1, 3) := dk_132 4 1 (dk_at dksX1_runs_2 10 rfl rfl)
theorem dX1_runs_59 : decode cX1_runs 59 = .ok (.goto (-29), 3) := dk_167 255 227 (dk_at dksX1_runs_2 13 rfl rfl)
theorem dX1_runs_62 : decode cX1_runs 62 = .ok (.aload_n 3, 1) := dk_45 (dk_at dksX1_runs_2 16 rfl rfl)
theorem dX1_runs_63 : decode cX1_runs 63 = .ok (.getfield 196, 3) := dk_180 0 196 (dk_at dksX1_runs_2 17 rfl rfl)
theorem dX1_runs_66 : decode cX1_runs 66 = .ok (.invokestatic 188, 3) := dk_184 0 188 (dk_at dksX1_runs_2 20 rfl rfl)
theorem dX1_runs_69 : decode cX1_runs 69 = .ok (.istore 4, 2) := dk_54 4 (dk_at dksX1_runs_3 0 rfl rfl)
theorem dX1_runs_71 : decode cX1_runs 71 = .ok (.aload_n 0, 1) := dk_42 (dk_at dksX1_runs_3 2 rfl rfl)
theorem dX1_runs_72 : decode cX1_runs 72 = .ok (.getfield 19, 3) := dk_180 0 19 (dk_at dksX1_runs_3 3 rfl rfl)
theorem dX1_runs_75 : decode cX1_runs 75 = .ok (.aload_n 0, 1) := dk_42 (dk_at dksX1_runs_3 6 rfl rfl)
theorem dX1_runs_76 : decode cX1_runs 76 = .ok (.getfield 26, 3) := dk_180 0 26 (dk_at dksX1_runs_3 7 rfl rfl)
theorem dX1_runs_79 : decode cX1_runs 79 = .ok (.invokevirtual 130, 3) := dk_182 0 130 (dk_at dksX1_runs_3 10 rfl rfl)
theorem dX1_runs_82 : decode cX1_runs 82 = .ok (.iload 4, 2) := dk_21 4 (dk_at dksX1_runs_3 13 rfl rfl)
theorem dX1_runs_84 : decode cX1_runs 84 = .ok (.ireturn, 1) := dk_172 (dk_at dksX1_runs_3 15 rfl rfl)
abbrev cX1_spent : ByteArray := prog_1_method_61_code
def yX1_spent : MethodName := ⟨RX1, "spent", "(I)I"⟩
def dkwX1_spent_3 : List UInt8 := [167, 255, 209, 42, 180, 0, 19, 42, 180, 0, 26, 182, 0, 130, 29, 172]
abbrev dktX1_spent_3 : List UInt8 := dkwX1_spent_3 ++ []
def dkwX1_spent_2 : List UInt8 := [180, 0, 19, 21, 4, 42, 180, 0, 19, 180, 0, 74, 112, 27, 182, 0, 237, 54, 5, 132, 4, 1]
abbrev dktX1_spent_2 : List UInt8 := dkwX1_spent_2 ++ dktX1_spent_3
def dkwX1_spent_1 : List UInt8 := [16, 60, 163, 0, 46, 29, 2, 160, 0, 41, 44, 180, 0, 196, 3, 46, 154, 0, 6, 21, 4, 62, 42]
abbrev dktX1_spent_1 : List UInt8 := dkwX1_spent_1 ++ dktX1_spent_2
def dkwX1_spent_0 : List UInt8 := [42, 27, 182, 0, 192, 77, 42, 180, 0, 26, 42, 180, 0, 19, 182, 0, 130, 2, 62, 3, 54, 4, 21, 4]
abbrev dktX1_spent_0 : List UInt8 := dkwX1_spent_0 ++ dktX1_spent_1
theorem dksX1_spent_0 : cX1_spent.data.toList.drop 0 = dktX1_spent_0 := by decide +kernel
theorem dksX1_spent_1 : cX1_spent.data.toList.drop 24 = dktX1_spent_1 := dk_seg dksX1_spent_0 24 rfl rfl
theorem dksX1_spent_2 : cX1_spent.data.toList.drop 47 = dktX1_spent_2 := dk_seg dksX1_spent_1 23 rfl rfl
theorem dksX1_spent_3 : cX1_spent.data.toList.drop 69 = dktX1_spent_3 := dk_seg dksX1_spent_2 22 rfl rfl
theorem dX1_spent_0 : decode cX1_spent 0 = .ok (.aload_n 0, 1) := dk_42 (dk_at dksX1_spent_0 0 rfl rfl)
theorem dX1_spent_1 : decode cX1_spent 1 = .ok (.iload_n 1, 1) := dk_27 (dk_at dksX1_spent_0 1 rfl rfl)
theorem dX1_spent_2 : decode cX1_spent 2 = .ok (.invokevirtual 192, 3) := dk_182 0 192 (dk_at dksX1_spent_0 2 rfl rfl)
theorem dX1_spent_5 : decode cX1_spent 5 = .ok (.astore_n 2, 1) := dk_77 (dk_at dksX1_spent_0 5 rfl rfl)
theorem dX1_spent_6 : decode cX1_spent 6 = .ok (.aload_n 0, 1) := dk_42 (dk_at dksX1_spent_0 6 rfl rfl)
theorem dX1_spent_7 : decode cX1_spent 7 = .ok (.getfield 26, 3) := dk_180 0 26 (dk_at dksX1_spent_0 7 rfl rfl)
theorem dX1_spent_10 : decode cX1_spent 10 = .ok (.aload_n 0, 1) := dk_42 (dk_at dksX1_spent_0 10 rfl rfl)
theorem dX1_spent_11 : decode cX1_spent 11 = .ok (.getfield 19, 3) := dk_180 0 19 (dk_at dksX1_spent_0 11 rfl rfl)
theorem dX1_spent_14 : decode cX1_spent 14 = .ok (.invokevirtual 130, 3) := dk_182 0 130 (dk_at dksX1_spent_0 14 rfl rfl)
theorem dX1_spent_17 : decode cX1_spent 17 = .ok (.iconst (-1), 1) := dk_2 (dk_at dksX1_spent_0 17 rfl rfl)
theorem dX1_spent_18 : decode cX1_spent 18 = .ok (.istore_n 3, 1) := dk_62 (dk_at dksX1_spent_0 18 rfl rfl)
theorem dX1_spent_19 : decode cX1_spent 19 = .ok (.iconst 0, 1) := dk_3 (dk_at dksX1_spent_0 19 rfl rfl)
theorem dX1_spent_20 : decode cX1_spent 20 = .ok (.istore 4, 2) := dk_54 4 (dk_at dksX1_spent_0 20 rfl rfl)
theorem dX1_spent_22 : decode cX1_spent 22 = .ok (.iload 4, 2) := dk_21 4 (dk_at dksX1_spent_0 22 rfl rfl)
theorem dX1_spent_24 : decode cX1_spent 24 = .ok (.bipush 60, 2) := dk_16 60 (dk_at dksX1_spent_1 0 rfl rfl)
theorem dX1_spent_26 : decode cX1_spent 26 = .ok (.if_icmp .gt 46, 3) := dk_163 0 46 (dk_at dksX1_spent_1 2 rfl rfl)
theorem dX1_spent_29 : decode cX1_spent 29 = .ok (.iload_n 3, 1) := dk_29 (dk_at dksX1_spent_1 5 rfl rfl)
theorem dX1_spent_30 : decode cX1_spent 30 = .ok (.iconst (-1), 1) := dk_2 (dk_at dksX1_spent_1 6 rfl rfl)
theorem dX1_spent_31 : decode cX1_spent 31 = .ok (.if_icmp .ne 41, 3) := dk_160 0 41 (dk_at dksX1_spent_1 7 rfl rfl)
theorem dX1_spent_34 : decode cX1_spent 34 = .ok (.aload_n 2, 1) := dk_44 (dk_at dksX1_spent_1 10 rfl rfl)
theorem dX1_spent_35 : decode cX1_spent 35 = .ok (.getfield 196, 3) := dk_180 0 196 (dk_at dksX1_spent_1 11 rfl rfl)
theorem dX1_spent_38 : decode cX1_spent 38 = .ok (.iconst 0, 1) := dk_3 (dk_at dksX1_spent_1 14 rfl rfl)
theorem dX1_spent_39 : decode cX1_spent 39 = .ok (.iaload, 1) := dk_46 (dk_at dksX1_spent_1 15 rfl rfl)
theorem dX1_spent_40 : decode cX1_spent 40 = .ok (.ifCond .ne 6, 3) := dk_154 0 6 (dk_at dksX1_spent_1 16 rfl rfl)
theorem dX1_spent_43 : decode cX1_spent 43 = .ok (.iload 4, 2) := dk_21 4 (dk_at dksX1_spent_1 19 rfl rfl)
theorem dX1_spent_45 : decode cX1_spent 45 = .ok (.istore_n 3, 1) := dk_62 (dk_at dksX1_spent_1 21 rfl rfl)
theorem dX1_spent_46 : decode cX1_spent 46 = .ok (.aload_n 0, 1) := dk_42 (dk_at dksX1_spent_1 22 rfl rfl)
theorem dX1_spent_47 : decode cX1_spent 47 = .ok (.getfield 19, 3) := dk_180 0 19 (dk_at dksX1_spent_2 0 rfl rfl)
theorem dX1_spent_50 : decode cX1_spent 50 = .ok (.iload 4, 2) := dk_21 4 (dk_at dksX1_spent_2 3 rfl rfl)
theorem dX1_spent_52 : decode cX1_spent 52 = .ok (.aload_n 0, 1) := dk_42 (dk_at dksX1_spent_2 5 rfl rfl)
theorem dX1_spent_53 : decode cX1_spent 53 = .ok (.getfield 19, 3) := dk_180 0 19 (dk_at dksX1_spent_2 6 rfl rfl)
theorem dX1_spent_56 : decode cX1_spent 56 = .ok (.getfield 74, 3) := dk_180 0 74 (dk_at dksX1_spent_2 9 rfl rfl)
theorem dX1_spent_59 : decode cX1_spent 59 = .ok (.irem, 1) := dk_112 (dk_at dksX1_spent_2 12 rfl rfl)
theorem dX1_spent_60 : decode cX1_spent 60 = .ok (.iload_n 1, 1) := dk_27 (dk_at dksX1_spent_2 13 rfl rfl)
theorem dX1_spent_61 : decode cX1_spent 61 = .ok (.invokevirtual 237, 3) := dk_182 0 237 (dk_at dksX1_spent_2 14 rfl rfl)
theorem dX1_spent_64 : decode cX1_spent 64 = .ok (.istore 5, 2) := dk_54 5 (dk_at dksX1_spent_2 17 rfl rfl)
theorem dX1_spent_66 : decode cX1_spent 66 = .ok (.iinc 4 1, 3) := dk_132 4 1 (dk_at dksX1_spent_2 19 rfl rfl)
theorem dX1_spent_69 : decode cX1_spent 69 = .ok (.goto (-47), 3) := dk_167 255 209 (dk_at dksX1_spent_3 0 rfl rfl)
theorem dX1_spent_72 : decode cX1_spent 72 = .ok (.aload_n 0, 1) := dk_42 (dk_at dksX1_spent_3 3 rfl rfl)
theorem dX1_spent_73 : decode cX1_spent 73 = .ok (.getfield 19, 3) := dk_180 0 19 (dk_at dksX1_spent_3 4 rfl rfl)
theorem dX1_spent_76 : decode cX1_spent 76 = .ok (.aload_n 0, 1) := dk_42 (dk_at dksX1_spent_3 7 rfl rfl)
theorem dX1_spent_77 : decode cX1_spent 77 = .ok (.getfield 26, 3) := dk_180 0 26 (dk_at dksX1_spent_3 8 rfl rfl)
theorem dX1_spent_80 : decode cX1_spent 80 = .ok (.invokevirtual 130, 3) := dk_182 0 130 (dk_at dksX1_spent_3 11 rfl rfl)
theorem dX1_spent_83 : decode cX1_spent 83 = .ok (.iload_n 3, 1) := dk_29 (dk_at dksX1_spent_3 14 rfl rfl)
theorem dX1_spent_84 : decode cX1_spent 84 = .ok (.ireturn, 1) := dk_172 (dk_at dksX1_spent_3 15 rfl rfl)
abbrev cX1_share : ByteArray := prog_1_method_68_code
def yX1_share : MethodName := ⟨RX1, "share", "(II)I"⟩
def dkwX1_share_3 : List UInt8 := [46, 104, 21, 4, 108, 172]
abbrev dktX1_share_3 : List UInt8 := dkwX1_share_3 ++ []
def dkwX1_share_2 : List UInt8 := [54, 4, 132, 5, 1, 167, 255, 221, 21, 4, 154, 0, 7, 3, 167, 0, 15, 16, 100, 45, 180, 0, 167, 28]
abbrev dktX1_share_2 : List UInt8 := dkwX1_share_2 ++ dktX1_share_3
def dkwX1_share_1 : List UInt8 := [180, 0, 74, 162, 0, 29, 21, 4, 42, 180, 0, 19, 180, 0, 85, 21, 5, 50, 180, 0, 167, 28, 46, 96]
abbrev dktX1_share_1 : List UInt8 := dkwX1_share_1 ++ dktX1_share_2
def dkwX1_share_0 : List UInt8 := [42, 27, 182, 0, 163, 78, 28, 184, 0, 213, 3, 54, 4, 3, 54, 5, 21, 5, 42, 180, 0, 19]
abbrev dktX1_share_0 : List UInt8 := dkwX1_share_0 ++ dktX1_share_1
theorem dksX1_share_0 : cX1_share.data.toList.drop 0 = dktX1_share_0 := by decide +kernel
theorem dksX1_share_1 : cX1_share.data.toList.drop 22 = dktX1_share_1 := dk_seg dksX1_share_0 22 rfl rfl
theorem dksX1_share_2 : cX1_share.data.toList.drop 46 = dktX1_share_2 := dk_seg dksX1_share_1 24 rfl rfl
theorem dksX1_share_3 : cX1_share.data.toList.drop 70 = dktX1_share_3 := dk_seg dksX1_share_2 24 rfl rfl
theorem dX1_share_0 : decode cX1_share 0 = .ok (.aload_n 0, 1) := dk_42 (dk_at dksX1_share_0 0 rfl rfl)
theorem dX1_share_1 : decode cX1_share 1 = .ok (.iload_n 1, 1) := dk_27 (dk_at dksX1_share_0 1 rfl rfl)
theorem dX1_share_2 : decode cX1_share 2 = .ok (.invokevirtual 163, 3) := dk_182 0 163 (dk_at dksX1_share_0 2 rfl rfl)
theorem dX1_share_5 : decode cX1_share 5 = .ok (.astore_n 3, 1) := dk_78 (dk_at dksX1_share_0 5 rfl rfl)
theorem dX1_share_6 : decode cX1_share 6 = .ok (.iload_n 2, 1) := dk_28 (dk_at dksX1_share_0 6 rfl rfl)
theorem dX1_share_7 : decode cX1_share 7 = .ok (.invokestatic 213, 3) := dk_184 0 213 (dk_at dksX1_share_0 7 rfl rfl)
theorem dX1_share_10 : decode cX1_share 10 = .ok (.iconst 0, 1) := dk_3 (dk_at dksX1_share_0 10 rfl rfl)
theorem dX1_share_11 : decode cX1_share 11 = .ok (.istore 4, 2) := dk_54 4 (dk_at dksX1_share_0 11 rfl rfl)
theorem dX1_share_13 : decode cX1_share 13 = .ok (.iconst 0, 1) := dk_3 (dk_at dksX1_share_0 13 rfl rfl)
theorem dX1_share_14 : decode cX1_share 14 = .ok (.istore 5, 2) := dk_54 5 (dk_at dksX1_share_0 14 rfl rfl)
theorem dX1_share_16 : decode cX1_share 16 = .ok (.iload 5, 2) := dk_21 5 (dk_at dksX1_share_0 16 rfl rfl)
theorem dX1_share_18 : decode cX1_share 18 = .ok (.aload_n 0, 1) := dk_42 (dk_at dksX1_share_0 18 rfl rfl)
theorem dX1_share_19 : decode cX1_share 19 = .ok (.getfield 19, 3) := dk_180 0 19 (dk_at dksX1_share_0 19 rfl rfl)
theorem dX1_share_22 : decode cX1_share 22 = .ok (.getfield 74, 3) := dk_180 0 74 (dk_at dksX1_share_1 0 rfl rfl)
theorem dX1_share_25 : decode cX1_share 25 = .ok (.if_icmp .ge 29, 3) := dk_162 0 29 (dk_at dksX1_share_1 3 rfl rfl)
theorem dX1_share_28 : decode cX1_share 28 = .ok (.iload 4, 2) := dk_21 4 (dk_at dksX1_share_1 6 rfl rfl)
theorem dX1_share_30 : decode cX1_share 30 = .ok (.aload_n 0, 1) := dk_42 (dk_at dksX1_share_1 8 rfl rfl)
theorem dX1_share_31 : decode cX1_share 31 = .ok (.getfield 19, 3) := dk_180 0 19 (dk_at dksX1_share_1 9 rfl rfl)
theorem dX1_share_34 : decode cX1_share 34 = .ok (.getfield 85, 3) := dk_180 0 85 (dk_at dksX1_share_1 12 rfl rfl)
theorem dX1_share_37 : decode cX1_share 37 = .ok (.iload 5, 2) := dk_21 5 (dk_at dksX1_share_1 15 rfl rfl)
theorem dX1_share_39 : decode cX1_share 39 = .ok (.aaload, 1) := dk_50 (dk_at dksX1_share_1 17 rfl rfl)
theorem dX1_share_40 : decode cX1_share 40 = .ok (.getfield 167, 3) := dk_180 0 167 (dk_at dksX1_share_1 18 rfl rfl)
theorem dX1_share_43 : decode cX1_share 43 = .ok (.iload_n 2, 1) := dk_28 (dk_at dksX1_share_1 21 rfl rfl)
theorem dX1_share_44 : decode cX1_share 44 = .ok (.iaload, 1) := dk_46 (dk_at dksX1_share_1 22 rfl rfl)
theorem dX1_share_45 : decode cX1_share 45 = .ok (.iadd, 1) := dk_96 (dk_at dksX1_share_1 23 rfl rfl)
theorem dX1_share_46 : decode cX1_share 46 = .ok (.istore 4, 2) := dk_54 4 (dk_at dksX1_share_2 0 rfl rfl)
theorem dX1_share_48 : decode cX1_share 48 = .ok (.iinc 5 1, 3) := dk_132 5 1 (dk_at dksX1_share_2 2 rfl rfl)
theorem dX1_share_51 : decode cX1_share 51 = .ok (.goto (-35), 3) := dk_167 255 221 (dk_at dksX1_share_2 5 rfl rfl)
theorem dX1_share_54 : decode cX1_share 54 = .ok (.iload 4, 2) := dk_21 4 (dk_at dksX1_share_2 8 rfl rfl)
theorem dX1_share_56 : decode cX1_share 56 = .ok (.ifCond .ne 7, 3) := dk_154 0 7 (dk_at dksX1_share_2 10 rfl rfl)
theorem dX1_share_59 : decode cX1_share 59 = .ok (.iconst 0, 1) := dk_3 (dk_at dksX1_share_2 13 rfl rfl)
theorem dX1_share_60 : decode cX1_share 60 = .ok (.goto 15, 3) := dk_167 0 15 (dk_at dksX1_share_2 14 rfl rfl)
theorem dX1_share_63 : decode cX1_share 63 = .ok (.bipush 100, 2) := dk_16 100 (dk_at dksX1_share_2 17 rfl rfl)
theorem dX1_share_65 : decode cX1_share 65 = .ok (.aload_n 3, 1) := dk_45 (dk_at dksX1_share_2 19 rfl rfl)
theorem dX1_share_66 : decode cX1_share 66 = .ok (.getfield 167, 3) := dk_180 0 167 (dk_at dksX1_share_2 20 rfl rfl)
theorem dX1_share_69 : decode cX1_share 69 = .ok (.iload_n 2, 1) := dk_28 (dk_at dksX1_share_2 23 rfl rfl)
theorem dX1_share_70 : decode cX1_share 70 = .ok (.iaload, 1) := dk_46 (dk_at dksX1_share_3 0 rfl rfl)
theorem dX1_share_71 : decode cX1_share 71 = .ok (.imul, 1) := dk_104 (dk_at dksX1_share_3 1 rfl rfl)
theorem dX1_share_72 : decode cX1_share 72 = .ok (.iload 4, 2) := dk_21 4 (dk_at dksX1_share_3 2 rfl rfl)
theorem dX1_share_74 : decode cX1_share 74 = .ok (.idiv, 1) := dk_108 (dk_at dksX1_share_3 4 rfl rfl)
theorem dX1_share_75 : decode cX1_share 75 = .ok (.ireturn, 1) := dk_172 (dk_at dksX1_share_3 5 rfl rfl)
abbrev cX1_trial : ByteArray := prog_1_method_70_code
def yX1_trial : MethodName := ⟨RX1, "trial", "(IZ)I"⟩
def dkwX1_trial_2 : List UInt8 := [182, 1, 60, 54, 4, 42, 180, 0, 19, 42, 180, 0, 26, 182, 0, 130, 21, 4, 172]
abbrev dktX1_trial_2 : List UInt8 := dkwX1_trial_2 ++ []
def dkwX1_trial_1 : List UInt8 := [182, 0, 246, 62, 28, 153, 0, 13, 42, 180, 0, 19, 182, 1, 50, 167, 0, 10, 42, 180, 0, 19]
abbrev dktX1_trial_1 : List UInt8 := dkwX1_trial_1 ++ dktX1_trial_2
def dkwX1_trial_0 : List UInt8 := [27, 3, 16, 60, 184, 0, 77, 184, 0, 228, 42, 180, 0, 26, 42, 180, 0, 19, 182, 0, 130, 42, 27]
abbrev dktX1_trial_0 : List UInt8 := dkwX1_trial_0 ++ dktX1_trial_1
theorem dksX1_trial_0 : cX1_trial.data.toList.drop 0 = dktX1_trial_0 := by decide +kernel
theorem dksX1_trial_1 : cX1_trial.data.toList.drop 23 = dktX1_trial_1 := dk_seg dksX1_trial_0 23 rfl rfl
theorem dksX1_trial_2 : cX1_trial.data.toList.drop 45 = dktX1_trial_2 := dk_seg dksX1_trial_1 22 rfl rfl
theorem dX1_trial_0 : decode cX1_trial 0 = .ok (.iload_n 1, 1) := dk_27 (dk_at dksX1_trial_0 0 rfl rfl)
theorem dX1_trial_1 : decode cX1_trial 1 = .ok (.iconst 0, 1) := dk_3 (dk_at dksX1_trial_0 1 rfl rfl)
theorem dX1_trial_2 : decode cX1_trial 2 = .ok (.bipush 60, 2) := dk_16 60 (dk_at dksX1_trial_0 2 rfl rfl)
theorem dX1_trial_4 : decode cX1_trial 4 = .ok (.invokestatic 77, 3) := dk_184 0 77 (dk_at dksX1_trial_0 4 rfl rfl)
theorem dX1_trial_7 : decode cX1_trial 7 = .ok (.invokestatic 228, 3) := dk_184 0 228 (dk_at dksX1_trial_0 7 rfl rfl)
theorem dX1_trial_10 : decode cX1_trial 10 = .ok (.aload_n 0, 1) := dk_42 (dk_at dksX1_trial_0 10 rfl rfl)
theorem dX1_trial_11 : decode cX1_trial 11 = .ok (.getfield 26, 3) := dk_180 0 26 (dk_at dksX1_trial_0 11 rfl rfl)
theorem dX1_trial_14 : decode cX1_trial 14 = .ok (.aload_n 0, 1) := dk_42 (dk_at dksX1_trial_0 14 rfl rfl)
theorem dX1_trial_15 : decode cX1_trial 15 = .ok (.getfield 19, 3) := dk_180 0 19 (dk_at dksX1_trial_0 15 rfl rfl)
theorem dX1_trial_18 : decode cX1_trial 18 = .ok (.invokevirtual 130, 3) := dk_182 0 130 (dk_at dksX1_trial_0 18 rfl rfl)
theorem dX1_trial_21 : decode cX1_trial 21 = .ok (.aload_n 0, 1) := dk_42 (dk_at dksX1_trial_0 21 rfl rfl)
theorem dX1_trial_22 : decode cX1_trial 22 = .ok (.iload_n 1, 1) := dk_27 (dk_at dksX1_trial_0 22 rfl rfl)
theorem dX1_trial_23 : decode cX1_trial 23 = .ok (.invokevirtual 246, 3) := dk_182 0 246 (dk_at dksX1_trial_1 0 rfl rfl)
theorem dX1_trial_26 : decode cX1_trial 26 = .ok (.istore_n 3, 1) := dk_62 (dk_at dksX1_trial_1 3 rfl rfl)
theorem dX1_trial_27 : decode cX1_trial 27 = .ok (.iload_n 2, 1) := dk_28 (dk_at dksX1_trial_1 4 rfl rfl)
theorem dX1_trial_28 : decode cX1_trial 28 = .ok (.ifCond .eq 13, 3) := dk_153 0 13 (dk_at dksX1_trial_1 5 rfl rfl)
theorem dX1_trial_31 : decode cX1_trial 31 = .ok (.aload_n 0, 1) := dk_42 (dk_at dksX1_trial_1 8 rfl rfl)
theorem dX1_trial_32 : decode cX1_trial 32 = .ok (.getfield 19, 3) := dk_180 0 19 (dk_at dksX1_trial_1 9 rfl rfl)
theorem dX1_trial_35 : decode cX1_trial 35 = .ok (.invokevirtual 306, 3) := dk_182 1 50 (dk_at dksX1_trial_1 12 rfl rfl)
theorem dX1_trial_38 : decode cX1_trial 38 = .ok (.goto 10, 3) := dk_167 0 10 (dk_at dksX1_trial_1 15 rfl rfl)
theorem dX1_trial_41 : decode cX1_trial 41 = .ok (.aload_n 0, 1) := dk_42 (dk_at dksX1_trial_1 18 rfl rfl)
theorem dX1_trial_42 : decode cX1_trial 42 = .ok (.getfield 19, 3) := dk_180 0 19 (dk_at dksX1_trial_1 19 rfl rfl)
theorem dX1_trial_45 : decode cX1_trial 45 = .ok (.invokevirtual 316, 3) := dk_182 1 60 (dk_at dksX1_trial_2 0 rfl rfl)
theorem dX1_trial_48 : decode cX1_trial 48 = .ok (.istore 4, 2) := dk_54 4 (dk_at dksX1_trial_2 3 rfl rfl)
theorem dX1_trial_50 : decode cX1_trial 50 = .ok (.aload_n 0, 1) := dk_42 (dk_at dksX1_trial_2 5 rfl rfl)
theorem dX1_trial_51 : decode cX1_trial 51 = .ok (.getfield 19, 3) := dk_180 0 19 (dk_at dksX1_trial_2 6 rfl rfl)
theorem dX1_trial_54 : decode cX1_trial 54 = .ok (.aload_n 0, 1) := dk_42 (dk_at dksX1_trial_2 9 rfl rfl)
theorem dX1_trial_55 : decode cX1_trial 55 = .ok (.getfield 26, 3) := dk_180 0 26 (dk_at dksX1_trial_2 10 rfl rfl)
theorem dX1_trial_58 : decode cX1_trial 58 = .ok (.invokevirtual 130, 3) := dk_182 0 130 (dk_at dksX1_trial_2 13 rfl rfl)
theorem dX1_trial_61 : decode cX1_trial 61 = .ok (.iload 4, 2) := dk_21 4 (dk_at dksX1_trial_2 16 rfl rfl)
theorem dX1_trial_63 : decode cX1_trial 63 = .ok (.ireturn, 1) := dk_172 (dk_at dksX1_trial_2 18 rfl rfl)
abbrev cX1_span : ByteArray := prog_1_method_71_code
def yX1_span : MethodName := ⟨RX1, "span", "(IZ)I"⟩
def dkwX1_span_4 : List UInt8 := [180, 0, 26, 182, 0, 130, 132, 4, 1, 167, 255, 190, 29, 172]
abbrev dktX1_span_4 : List UInt8 := dkwX1_span_4 ++ []
def dkwX1_span_3 : List UInt8 := [153, 0, 12, 29, 21, 6, 184, 1, 4, 167, 0, 9, 29, 21, 6, 184, 0, 223, 62, 42, 180, 0, 19, 42]
abbrev dktX1_span_3 : List UInt8 := dkwX1_span_3 ++ dktX1_span_4
def dkwX1_span_2 : List UInt8 := [21, 4, 181, 1, 63, 42, 27, 182, 0, 246, 54, 5, 42, 180, 0, 19, 182, 1, 60, 54, 6, 28]
abbrev dktX1_span_2 : List UInt8 := dkwX1_span_2 ++ dktX1_span_3
def dkwX1_span_1 : List UInt8 := [153, 0, 7, 3, 167, 0, 5, 18, 253, 62, 4, 54, 4, 21, 4, 16, 6, 163, 0, 65, 42, 180, 0, 19]
abbrev dktX1_span_1 : List UInt8 := dkwX1_span_1 ++ dktX1_span_2
def dkwX1_span_0 : List UInt8 := [27, 3, 16, 60, 184, 0, 77, 184, 0, 228, 42, 180, 0, 26, 42, 180, 0, 19, 182, 0, 130, 28]
abbrev dktX1_span_0 : List UInt8 := dkwX1_span_0 ++ dktX1_span_1
theorem dksX1_span_0 : cX1_span.data.toList.drop 0 = dktX1_span_0 := by decide +kernel
theorem dksX1_span_1 : cX1_span.data.toList.drop 22 = dktX1_span_1 := dk_seg dksX1_span_0 22 rfl rfl
theorem dksX1_span_2 : cX1_span.data.toList.drop 46 = dktX1_span_2 := dk_seg dksX1_span_1 24 rfl rfl
theorem dksX1_span_3 : cX1_span.data.toList.drop 68 = dktX1_span_3 := dk_seg dksX1_span_2 22 rfl rfl
theorem dksX1_span_4 : cX1_span.data.toList.drop 92 = dktX1_span_4 := dk_seg dksX1_span_3 24 rfl rfl
theorem dX1_span_0 : decode cX1_span 0 = .ok (.iload_n 1, 1) := dk_27 (dk_at dksX1_span_0 0 rfl rfl)
theorem dX1_span_1 : decode cX1_span 1 = .ok (.iconst 0, 1) := dk_3 (dk_at dksX1_span_0 1 rfl rfl)
theorem dX1_span_2 : decode cX1_span 2 = .ok (.bipush 60, 2) := dk_16 60 (dk_at dksX1_span_0 2 rfl rfl)
theorem dX1_span_4 : decode cX1_span 4 = .ok (.invokestatic 77, 3) := dk_184 0 77 (dk_at dksX1_span_0 4 rfl rfl)
theorem dX1_span_7 : decode cX1_span 7 = .ok (.invokestatic 228, 3) := dk_184 0 228 (dk_at dksX1_span_0 7 rfl rfl)
theorem dX1_span_10 : decode cX1_span 10 = .ok (.aload_n 0, 1) := dk_42 (dk_at dksX1_span_0 10 rfl rfl)
theorem dX1_span_11 : decode cX1_span 11 = .ok (.getfield 26, 3) := dk_180 0 26 (dk_at dksX1_span_0 11 rfl rfl)
theorem dX1_span_14 : decode cX1_span 14 = .ok (.aload_n 0, 1) := dk_42 (dk_at dksX1_span_0 14 rfl rfl)
theorem dX1_span_15 : decode cX1_span 15 = .ok (.getfield 19, 3) := dk_180 0 19 (dk_at dksX1_span_0 15 rfl rfl)
theorem dX1_span_18 : decode cX1_span 18 = .ok (.invokevirtual 130, 3) := dk_182 0 130 (dk_at dksX1_span_0 18 rfl rfl)
theorem dX1_span_21 : decode cX1_span 21 = .ok (.iload_n 2, 1) := dk_28 (dk_at dksX1_span_0 21 rfl rfl)
theorem dX1_span_22 : decode cX1_span 22 = .ok (.ifCond .eq 7, 3) := dk_153 0 7 (dk_at dksX1_span_1 0 rfl rfl)
theorem dX1_span_25 : decode cX1_span 25 = .ok (.iconst 0, 1) := dk_3 (dk_at dksX1_span_1 3 rfl rfl)
theorem dX1_span_26 : decode cX1_span 26 = .ok (.goto 5, 3) := dk_167 0 5 (dk_at dksX1_span_1 4 rfl rfl)
theorem dX1_span_29 : decode cX1_span 29 = .ok (.ldc 253, 2) := dk_18 253 (dk_at dksX1_span_1 7 rfl rfl)
theorem dX1_span_31 : decode cX1_span 31 = .ok (.istore_n 3, 1) := dk_62 (dk_at dksX1_span_1 9 rfl rfl)
theorem dX1_span_32 : decode cX1_span 32 = .ok (.iconst 1, 1) := dk_4 (dk_at dksX1_span_1 10 rfl rfl)
theorem dX1_span_33 : decode cX1_span 33 = .ok (.istore 4, 2) := dk_54 4 (dk_at dksX1_span_1 11 rfl rfl)
theorem dX1_span_35 : decode cX1_span 35 = .ok (.iload 4, 2) := dk_21 4 (dk_at dksX1_span_1 13 rfl rfl)
theorem dX1_span_37 : decode cX1_span 37 = .ok (.bipush 6, 2) := dk_16 6 (dk_at dksX1_span_1 15 rfl rfl)
theorem dX1_span_39 : decode cX1_span 39 = .ok (.if_icmp .gt 65, 3) := dk_163 0 65 (dk_at dksX1_span_1 17 rfl rfl)
theorem dX1_span_42 : decode cX1_span 42 = .ok (.aload_n 0, 1) := dk_42 (dk_at dksX1_span_1 20 rfl rfl)
theorem dX1_span_43 : decode cX1_span 43 = .ok (.getfield 19, 3) := dk_180 0 19 (dk_at dksX1_span_1 21 rfl rfl)
theorem dX1_span_46 : decode cX1_span 46 = .ok (.iload 4, 2) := dk_21 4 (dk_at dksX1_span_2 0 rfl rfl)
theorem dX1_span_48 : decode cX1_span 48 = .ok (.putfield 319, 3) := dk_181 1 63 (dk_at dksX1_span_2 2 rfl rfl)
theorem dX1_span_51 : decode cX1_span 51 = .ok (.aload_n 0, 1) := dk_42 (dk_at dksX1_span_2 5 rfl rfl)
theorem dX1_span_52 : decode cX1_span 52 = .ok (.iload_n 1, 1) := dk_27 (dk_at dksX1_span_2 6 rfl rfl)
theorem dX1_span_53 : decode cX1_span 53 = .ok (.invokevirtual 246, 3) := dk_182 0 246 (dk_at dksX1_span_2 7 rfl rfl)
theorem dX1_span_56 : decode cX1_span 56 = .ok (.istore 5, 2) := dk_54 5 (dk_at dksX1_span_2 10 rfl rfl)
theorem dX1_span_58 : decode cX1_span 58 = .ok (.aload_n 0, 1) := dk_42 (dk_at dksX1_span_2 12 rfl rfl)
theorem dX1_span_59 : decode cX1_span 59 = .ok (.getfield 19, 3) := dk_180 0 19 (dk_at dksX1_span_2 13 rfl rfl)
theorem dX1_span_62 : decode cX1_span 62 = .ok (.invokevirtual 316, 3) := dk_182 1 60 (dk_at dksX1_span_2 16 rfl rfl)
theorem dX1_span_65 : decode cX1_span 65 = .ok (.istore 6, 2) := dk_54 6 (dk_at dksX1_span_2 19 rfl rfl)
theorem dX1_span_67 : decode cX1_span 67 = .ok (.iload_n 2, 1) := dk_28 (dk_at dksX1_span_2 21 rfl rfl)
theorem dX1_span_68 : decode cX1_span 68 = .ok (.ifCond .eq 12, 3) := dk_153 0 12 (dk_at dksX1_span_3 0 rfl rfl)
theorem dX1_span_71 : decode cX1_span 71 = .ok (.iload_n 3, 1) := dk_29 (dk_at dksX1_span_3 3 rfl rfl)
theorem dX1_span_72 : decode cX1_span 72 = .ok (.iload 6, 2) := dk_21 6 (dk_at dksX1_span_3 4 rfl rfl)
theorem dX1_span_74 : decode cX1_span 74 = .ok (.invokestatic 260, 3) := dk_184 1 4 (dk_at dksX1_span_3 6 rfl rfl)
theorem dX1_span_77 : decode cX1_span 77 = .ok (.goto 9, 3) := dk_167 0 9 (dk_at dksX1_span_3 9 rfl rfl)
theorem dX1_span_80 : decode cX1_span 80 = .ok (.iload_n 3, 1) := dk_29 (dk_at dksX1_span_3 12 rfl rfl)
theorem dX1_span_81 : decode cX1_span 81 = .ok (.iload 6, 2) := dk_21 6 (dk_at dksX1_span_3 13 rfl rfl)
theorem dX1_span_83 : decode cX1_span 83 = .ok (.invokestatic 223, 3) := dk_184 0 223 (dk_at dksX1_span_3 15 rfl rfl)
theorem dX1_span_86 : decode cX1_span 86 = .ok (.istore_n 3, 1) := dk_62 (dk_at dksX1_span_3 18 rfl rfl)
theorem dX1_span_87 : decode cX1_span 87 = .ok (.aload_n 0, 1) := dk_42 (dk_at dksX1_span_3 19 rfl rfl)
theorem dX1_span_88 : decode cX1_span 88 = .ok (.getfield 19, 3) := dk_180 0 19 (dk_at dksX1_span_3 20 rfl rfl)
theorem dX1_span_91 : decode cX1_span 91 = .ok (.aload_n 0, 1) := dk_42 (dk_at dksX1_span_3 23 rfl rfl)
theorem dX1_span_92 : decode cX1_span 92 = .ok (.getfield 26, 3) := dk_180 0 26 (dk_at dksX1_span_4 0 rfl rfl)
theorem dX1_span_95 : decode cX1_span 95 = .ok (.invokevirtual 130, 3) := dk_182 0 130 (dk_at dksX1_span_4 3 rfl rfl)
theorem dX1_span_98 : decode cX1_span 98 = .ok (.iinc 4 1, 3) := dk_132 4 1 (dk_at dksX1_span_4 6 rfl rfl)
theorem dX1_span_101 : decode cX1_span 101 = .ok (.goto (-66), 3) := dk_167 255 190 (dk_at dksX1_span_4 9 rfl rfl)
theorem dX1_span_104 : decode cX1_span 104 = .ok (.iload_n 3, 1) := dk_29 (dk_at dksX1_span_4 12 rfl rfl)
theorem dX1_span_105 : decode cX1_span 105 = .ok (.ireturn, 1) := dk_172 (dk_at dksX1_span_4 13 rfl rfl)
abbrev cX1_led : ByteArray := prog_1_method_72_code
def yX1_led : MethodName := ⟨RX1, "led", "(IZ)I"⟩
def dkwX1_led_3 : List UInt8 := [132, 5, 1, 167, 255, 198, 28, 153, 0, 8, 21, 4, 167, 0, 4, 29, 172]
abbrev dktX1_led_3 : List UInt8 := dkwX1_led_3 ++ []
def dkwX1_led_2 : List UInt8 := [21, 4, 2, 160, 0, 16, 42, 180, 0, 19, 21, 5, 3, 182, 1, 26, 167, 0, 5, 21, 4, 54, 4]
abbrev dktX1_led_2 : List UInt8 := dkwX1_led_2 ++ dktX1_led_3
def dkwX1_led_1 : List UInt8 := [153, 0, 52, 42, 180, 0, 19, 21, 5, 4, 182, 1, 26, 27, 159, 0, 6, 167, 0, 29, 132, 3, 1]
abbrev dktX1_led_1 : List UInt8 := dkwX1_led_1 ++ dktX1_led_2
def dkwX1_led_0 : List UInt8 := [42, 27, 182, 0, 163, 87, 3, 62, 2, 54, 4, 3, 54, 5, 42, 180, 0, 19, 21, 5, 182, 1, 23]
abbrev dktX1_led_0 : List UInt8 := dkwX1_led_0 ++ dktX1_led_1
theorem dksX1_led_0 : cX1_led.data.toList.drop 0 = dktX1_led_0 := by decide +kernel
theorem dksX1_led_1 : cX1_led.data.toList.drop 23 = dktX1_led_1 := dk_seg dksX1_led_0 23 rfl rfl
theorem dksX1_led_2 : cX1_led.data.toList.drop 46 = dktX1_led_2 := dk_seg dksX1_led_1 23 rfl rfl
theorem dksX1_led_3 : cX1_led.data.toList.drop 69 = dktX1_led_3 := dk_seg dksX1_led_2 23 rfl rfl
theorem dX1_led_0 : decode cX1_led 0 = .ok (.aload_n 0, 1) := dk_42 (dk_at dksX1_led_0 0 rfl rfl)
theorem dX1_led_1 : decode cX1_led 1 = .ok (.iload_n 1, 1) := dk_27 (dk_at dksX1_led_0 1 rfl rfl)
theorem dX1_led_2 : decode cX1_led 2 = .ok (.invokevirtual 163, 3) := dk_182 0 163 (dk_at dksX1_led_0 2 rfl rfl)
theorem dX1_led_5 : decode cX1_led 5 = .ok (.pop, 1) := dk_87 (dk_at dksX1_led_0 5 rfl rfl)
theorem dX1_led_6 : decode cX1_led 6 = .ok (.iconst 0, 1) := dk_3 (dk_at dksX1_led_0 6 rfl rfl)
theorem dX1_led_7 : decode cX1_led 7 = .ok (.istore_n 3, 1) := dk_62 (dk_at dksX1_led_0 7 rfl rfl)
theorem dX1_led_8 : decode cX1_led 8 = .ok (.iconst (-1), 1) := dk_2 (dk_at dksX1_led_0 8 rfl rfl)
theorem dX1_led_9 : decode cX1_led 9 = .ok (.istore 4, 2) := dk_54 4 (dk_at dksX1_led_0 9 rfl rfl)
theorem dX1_led_11 : decode cX1_led 11 = .ok (.iconst 0, 1) := dk_3 (dk_at dksX1_led_0 11 rfl rfl)
theorem dX1_led_12 : decode cX1_led 12 = .ok (.istore 5, 2) := dk_54 5 (dk_at dksX1_led_0 12 rfl rfl)
theorem dX1_led_14 : decode cX1_led 14 = .ok (.aload_n 0, 1) := dk_42 (dk_at dksX1_led_0 14 rfl rfl)
theorem dX1_led_15 : decode cX1_led 15 = .ok (.getfield 19, 3) := dk_180 0 19 (dk_at dksX1_led_0 15 rfl rfl)
theorem dX1_led_18 : decode cX1_led 18 = .ok (.iload 5, 2) := dk_21 5 (dk_at dksX1_led_0 18 rfl rfl)
theorem dX1_led_20 : decode cX1_led 20 = .ok (.invokevirtual 279, 3) := dk_182 1 23 (dk_at dksX1_led_0 20 rfl rfl)
theorem dX1_led_23 : decode cX1_led 23 = .ok (.ifCond .eq 52, 3) := dk_153 0 52 (dk_at dksX1_led_1 0 rfl rfl)
theorem dX1_led_26 : decode cX1_led 26 = .ok (.aload_n 0, 1) := dk_42 (dk_at dksX1_led_1 3 rfl rfl)
theorem dX1_led_27 : decode cX1_led 27 = .ok (.getfield 19, 3) := dk_180 0 19 (dk_at dksX1_led_1 4 rfl rfl)
theorem dX1_led_30 : decode cX1_led 30 = .ok (.iload 5, 2) := dk_21 5 (dk_at dksX1_led_1 7 rfl rfl)
theorem dX1_led_32 : decode cX1_led 32 = .ok (.iconst 1, 1) := dk_4 (dk_at dksX1_led_1 9 rfl rfl)
theorem dX1_led_33 : decode cX1_led 33 = .ok (.invokevirtual 282, 3) := dk_182 1 26 (dk_at dksX1_led_1 10 rfl rfl)
theorem dX1_led_36 : decode cX1_led 36 = .ok (.iload_n 1, 1) := dk_27 (dk_at dksX1_led_1 13 rfl rfl)
theorem dX1_led_37 : decode cX1_led 37 = .ok (.if_icmp .eq 6, 3) := dk_159 0 6 (dk_at dksX1_led_1 14 rfl rfl)
theorem dX1_led_40 : decode cX1_led 40 = .ok (.goto 29, 3) := dk_167 0 29 (dk_at dksX1_led_1 17 rfl rfl)
theorem dX1_led_43 : decode cX1_led 43 = .ok (.iinc 3 1, 3) := dk_132 3 1 (dk_at dksX1_led_1 20 rfl rfl)
theorem dX1_led_46 : decode cX1_led 46 = .ok (.iload 4, 2) := dk_21 4 (dk_at dksX1_led_2 0 rfl rfl)
theorem dX1_led_48 : decode cX1_led 48 = .ok (.iconst (-1), 1) := dk_2 (dk_at dksX1_led_2 2 rfl rfl)
theorem dX1_led_49 : decode cX1_led 49 = .ok (.if_icmp .ne 16, 3) := dk_160 0 16 (dk_at dksX1_led_2 3 rfl rfl)
theorem dX1_led_52 : decode cX1_led 52 = .ok (.aload_n 0, 1) := dk_42 (dk_at dksX1_led_2 6 rfl rfl)
theorem dX1_led_53 : decode cX1_led 53 = .ok (.getfield 19, 3) := dk_180 0 19 (dk_at dksX1_led_2 7 rfl rfl)
theorem dX1_led_56 : decode cX1_led 56 = .ok (.iload 5, 2) := dk_21 5 (dk_at dksX1_led_2 10 rfl rfl)
theorem dX1_led_58 : decode cX1_led 58 = .ok (.iconst 0, 1) := dk_3 (dk_at dksX1_led_2 12 rfl rfl)
theorem dX1_led_59 : decode cX1_led 59 = .ok (.invokevirtual 282, 3) := dk_182 1 26 (dk_at dksX1_led_2 13 rfl rfl)
theorem dX1_led_62 : decode cX1_led 62 = .ok (.goto 5, 3) := dk_167 0 5 (dk_at dksX1_led_2 16 rfl rfl)
theorem dX1_led_65 : decode cX1_led 65 = .ok (.iload 4, 2) := dk_21 4 (dk_at dksX1_led_2 19 rfl rfl)
theorem dX1_led_67 : decode cX1_led 67 = .ok (.istore 4, 2) := dk_54 4 (dk_at dksX1_led_2 21 rfl rfl)
theorem dX1_led_69 : decode cX1_led 69 = .ok (.iinc 5 1, 3) := dk_132 5 1 (dk_at dksX1_led_3 0 rfl rfl)
theorem dX1_led_72 : decode cX1_led 72 = .ok (.goto (-58), 3) := dk_167 255 198 (dk_at dksX1_led_3 3 rfl rfl)
theorem dX1_led_75 : decode cX1_led 75 = .ok (.iload_n 2, 1) := dk_28 (dk_at dksX1_led_3 6 rfl rfl)
theorem dX1_led_76 : decode cX1_led 76 = .ok (.ifCond .eq 8, 3) := dk_153 0 8 (dk_at dksX1_led_3 7 rfl rfl)
theorem dX1_led_79 : decode cX1_led 79 = .ok (.iload 4, 2) := dk_21 4 (dk_at dksX1_led_3 10 rfl rfl)
theorem dX1_led_81 : decode cX1_led 81 = .ok (.goto 4, 3) := dk_167 0 4 (dk_at dksX1_led_3 12 rfl rfl)
theorem dX1_led_84 : decode cX1_led 84 = .ok (.iload_n 3, 1) := dk_29 (dk_at dksX1_led_3 15 rfl rfl)
theorem dX1_led_85 : decode cX1_led 85 = .ok (.ireturn, 1) := dk_172 (dk_at dksX1_led_3 16 rfl rfl)
abbrev cX1_log : ByteArray := prog_1_method_73_code
def yX1_log : MethodName := ⟨RX1, "log", "(II)I"⟩
def dkwX1_log_0 : List UInt8 := [28, 3, 6, 184, 0, 77, 184, 1, 66, 42, 180, 0, 19, 27, 28, 182, 1, 26, 172]
abbrev dktX1_log_0 : List UInt8 := dkwX1_log_0 ++ []
theorem dksX1_log_0 : cX1_log.data.toList.drop 0 = dktX1_log_0 := by decide +kernel
theorem dX1_log_0 : decode cX1_log 0 = .ok (.iload_n 2, 1) := dk_28 (dk_at dksX1_log_0 0 rfl rfl)
theorem dX1_log_1 : decode cX1_log 1 = .ok (.iconst 0, 1) := dk_3 (dk_at dksX1_log_0 1 rfl rfl)
theorem dX1_log_2 : decode cX1_log 2 = .ok (.iconst 3, 1) := dk_6 (dk_at dksX1_log_0 2 rfl rfl)
theorem dX1_log_3 : decode cX1_log 3 = .ok (.invokestatic 77, 3) := dk_184 0 77 (dk_at dksX1_log_0 3 rfl rfl)
theorem dX1_log_6 : decode cX1_log 6 = .ok (.invokestatic 322, 3) := dk_184 1 66 (dk_at dksX1_log_0 6 rfl rfl)
theorem dX1_log_9 : decode cX1_log 9 = .ok (.aload_n 0, 1) := dk_42 (dk_at dksX1_log_0 9 rfl rfl)
theorem dX1_log_10 : decode cX1_log 10 = .ok (.getfield 19, 3) := dk_180 0 19 (dk_at dksX1_log_0 10 rfl rfl)
theorem dX1_log_13 : decode cX1_log 13 = .ok (.iload_n 1, 1) := dk_27 (dk_at dksX1_log_0 13 rfl rfl)
theorem dX1_log_14 : decode cX1_log 14 = .ok (.iload_n 2, 1) := dk_28 (dk_at dksX1_log_0 14 rfl rfl)
theorem dX1_log_15 : decode cX1_log 15 = .ok (.invokevirtual 282, 3) := dk_182 1 26 (dk_at dksX1_log_0 15 rfl rfl)
theorem dX1_log_18 : decode cX1_log 18 = .ok (.ireturn, 1) := dk_172 (dk_at dksX1_log_0 18 rfl rfl)
abbrev cX1_thereIs : ByteArray := prog_1_method_6_code
def yX1_thereIs : MethodName := ⟨RX1, "thereIs", "(Z)V"⟩
def dkwX1_thereIs_0 : List UInt8 := [26, 154, 0, 11, 187, 0, 68, 89, 183, 0, 70, 191, 177]
abbrev dktX1_thereIs_0 : List UInt8 := dkwX1_thereIs_0 ++ []
theorem dksX1_thereIs_0 : cX1_thereIs.data.toList.drop 0 = dktX1_thereIs_0 := by decide +kernel
theorem dX1_thereIs_0 : decode cX1_thereIs 0 = .ok (.iload_n 0, 1) := dk_26 (dk_at dksX1_thereIs_0 0 rfl rfl)
theorem dX1_thereIs_1 : decode cX1_thereIs 1 = .ok (.ifCond .ne 11, 3) := dk_154 0 11 (dk_at dksX1_thereIs_0 1 rfl rfl)
theorem dX1_thereIs_4 : decode cX1_thereIs 4 = .ok (.new 68, 3) := dk_187 0 68 (dk_at dksX1_thereIs_0 4 rfl rfl)
theorem dX1_thereIs_7 : decode cX1_thereIs 7 = .ok (.dup, 1) := dk_89 (dk_at dksX1_thereIs_0 7 rfl rfl)
theorem dX1_thereIs_8 : decode cX1_thereIs 8 = .ok (.invokespecial 70, 3) := dk_183 0 70 (dk_at dksX1_thereIs_0 8 rfl rfl)
theorem dX1_thereIs_11 : decode cX1_thereIs 11 = .ok (.athrow, 1) := dk_191 (dk_at dksX1_thereIs_0 11 rfl rfl)
theorem dX1_thereIs_12 : decode cX1_thereIs 12 = .ok (.return_, 1) := dk_177 (dk_at dksX1_thereIs_0 12 rfl rfl)
theorem q122 : (Jvm.Cond.initialized "BorrowedLuck") ∈ lw_all := lw_g (lw_at lw_m1 1 rfl) rfl
theorem q155 : (Jvm.Cond.instantiable "BorrowedLuck" (18 : Nat)) ∈ lw_all := lw_g (lw_at lw_m1 34 rfl) rfl
theorem q157 : (Jvm.Cond.instanceMethod ({ cls := "BorrowedLuck", name := "<init>", desc := "()V" } : Jvm.MethodName)) ∈ lw_all := lw_g (lw_at lw_m1 36 rfl) rfl
theorem q158 : (Jvm.Cond.code ({ cls := "BorrowedLuck", name := "<init>", desc := "()V" } : Jvm.MethodName) prog_1_method_2_code (2 : Nat) (Option.none : Option Jvm.ClassFile.FieldType)) ∈ lw_all := lw_g (lw_at lw_m1 37 rfl) rfl
theorem q159 : (Jvm.Cond.methodLink "BorrowedLuck" (3 : Nat) ({ cls := "java/lang/Object", name := "<init>", desc := "()V" } : Jvm.MethodName)) ∈ lw_all := lw_g (lw_at lw_m1 38 rfl) rfl
theorem q162 : (Jvm.Cond.classLink "BorrowedLuck" (9 : Nat) "BorrowedLuck$Reader") ∈ lw_all := lw_g (lw_at lw_m1 41 rfl) rfl
theorem q164 : (Jvm.Cond.methodLinkNest "BorrowedLuck" (11 : Nat) ({ cls := "BorrowedLuck$Reader", name := "<init>", desc := "()V" } : Jvm.MethodName) "BorrowedLuck") ∈ lw_tbl := lw_at lw_m1 43 rfl
theorem q201 : (Jvm.Cond.fieldLinkNest "BorrowedLuck" (167 : Nat) "BorrowedLuck$Woman" "luck" "[I" "BorrowedLuck") ∈ lw_tbl := lw_at lw_m1 80 rfl
theorem q204 : (Jvm.Cond.fieldLinkNest "BorrowedLuck" (172 : Nat) "BorrowedLuck$Woman" "purse" "I" "BorrowedLuck") ∈ lw_tbl := lw_at lw_m1 83 rfl
theorem q208 : (Jvm.Cond.fieldLinkNest "BorrowedLuck" (175 : Nat) "BorrowedLuck$Woman" "wed" "I" "BorrowedLuck") ∈ lw_tbl := lw_at lw_m1 87 rfl
theorem q212 : (Jvm.Cond.fieldLinkNest "BorrowedLuck" (178 : Nat) "BorrowedLuck$Woman" "widow" "Z" "BorrowedLuck") ∈ lw_tbl := lw_at lw_m1 91 rfl
theorem q232 : (Jvm.Cond.fieldLinkNest "BorrowedLuck" (196 : Nat) "BorrowedLuck$Thing" "luck" "[I" "BorrowedLuck") ∈ lw_tbl := lw_at lw_m1 111 rfl
theorem q236 : (Jvm.Cond.fieldLinkNest "BorrowedLuck" (160 : Nat) "BorrowedLuck$Thing" "owner" "I" "BorrowedLuck") ∈ lw_tbl := lw_at lw_m1 115 rfl
theorem q240 : (Jvm.Cond.fieldLinkNest "BorrowedLuck" (155 : Nat) "BorrowedLuck$Thing" "holder" "I" "BorrowedLuck") ∈ lw_tbl := lw_at lw_m1 119 rfl
theorem q244 : (Jvm.Cond.fieldLinkNest "BorrowedLuck" (197 : Nat) "BorrowedLuck$Thing" "wear" "I" "BorrowedLuck") ∈ lw_tbl := lw_at lw_m1 123 rfl
theorem q248 : (Jvm.Cond.fieldLinkNest "BorrowedLuck" (200 : Nat) "BorrowedLuck$Thing" "stuck" "Z" "BorrowedLuck") ∈ lw_tbl := lw_at lw_m1 127 rfl
theorem q252 : (Jvm.Cond.fieldLinkNest "BorrowedLuck" (203 : Nat) "BorrowedLuck$Thing" "blue" "Z" "BorrowedLuck") ∈ lw_tbl := lw_at lw_m1 131 rfl
theorem q267 : (Jvm.Cond.fieldLinkNest "BorrowedLuck" (85 : Nat) "BorrowedLuck$State" "women" "[LBorrowedLuck$Woman;" "BorrowedLuck") ∈ lw_tbl := lw_at lw_m1 146 rfl
theorem q270 : (Jvm.Cond.fieldLinkNest "BorrowedLuck" (92 : Nat) "BorrowedLuck$State" "things" "[LBorrowedLuck$Thing;" "BorrowedLuck") ∈ lw_tbl := lw_at lw_m1 149 rfl
theorem q273 : (Jvm.Cond.fieldLinkNest "BorrowedLuck" (147 : Nat) "BorrowedLuck$State" "law" "[LBorrowedLuck$Line;" "BorrowedLuck") ∈ lw_tbl := lw_at lw_m1 152 rfl
theorem q278 : (Jvm.Cond.fieldLinkNest "BorrowedLuck" (74 : Nat) "BorrowedLuck$State" "many" "I" "BorrowedLuck") ∈ lw_tbl := lw_at lw_m1 157 rfl
theorem q281 : (Jvm.Cond.fieldLinkNest "BorrowedLuck" (89 : Nat) "BorrowedLuck$State" "thingMany" "I" "BorrowedLuck") ∈ lw_tbl := lw_at lw_m1 160 rfl
theorem q284 : (Jvm.Cond.fieldLinkNest "BorrowedLuck" (141 : Nat) "BorrowedLuck$State" "lawMany" "I" "BorrowedLuck") ∈ lw_tbl := lw_at lw_m1 163 rfl
theorem q286 : (Jvm.Cond.fieldLinkNest "BorrowedLuck" (124 : Nat) "BorrowedLuck$State" "texts" "I" "BorrowedLuck") ∈ lw_tbl := lw_at lw_m1 165 rfl
theorem q289 : (Jvm.Cond.fieldLinkNest "BorrowedLuck" (328 : Nat) "BorrowedLuck$State" "day" "I" "BorrowedLuck") ∈ lw_tbl := lw_at lw_m1 168 rfl
theorem q292 : (Jvm.Cond.fieldLinkNest "BorrowedLuck" (240 : Nat) "BorrowedLuck$State" "price" "I" "BorrowedLuck") ∈ lw_tbl := lw_at lw_m1 171 rfl
theorem q295 : (Jvm.Cond.fieldLinkNest "BorrowedLuck" (331 : Nat) "BorrowedLuck$State" "love" "I" "BorrowedLuck") ∈ lw_tbl := lw_at lw_m1 174 rfl
theorem q297 : (Jvm.Cond.fieldLinkNest "BorrowedLuck" (319 : Nat) "BorrowedLuck$State" "seed" "I" "BorrowedLuck") ∈ lw_tbl := lw_at lw_m1 176 rfl
theorem q299 : (Jvm.Cond.fieldLinkNest "BorrowedLuck" (340 : Nat) "BorrowedLuck$State" "rowMany" "I" "BorrowedLuck") ∈ lw_tbl := lw_at lw_m1 178 rfl
theorem q389 : (Jvm.Cond.fieldLinkNest "BorrowedLuck" (107 : Nat) "BorrowedLuck$Wrong" "place" "I" "BorrowedLuck") ∈ lw_tbl := lw_at lw_m2 28 rfl
theorem q406 : (Jvm.Cond.fieldLinkNest "BorrowedLuck" (96 : Nat) "BorrowedLuck$Reader" "tape" "[B" "BorrowedLuck") ∈ lw_tbl := lw_at lw_m2 45 rfl
theorem q410 : (Jvm.Cond.fieldLinkNest "BorrowedLuck" (144 : Nat) "BorrowedLuck$Reader" "row" "[LBorrowedLuck$Line;" "BorrowedLuck") ∈ lw_tbl := lw_at lw_m2 49 rfl
theorem q413 : (Jvm.Cond.fieldLinkNest "BorrowedLuck" (100 : Nat) "BorrowedLuck$Reader" "size" "I" "BorrowedLuck") ∈ lw_tbl := lw_at lw_m2 52 rfl
theorem q438 : (Jvm.Cond.classLink "BorrowedLuck" (16 : Nat) "BorrowedLuck$State") ∈ lw_all := lw_g (lw_at lw_m2 77 rfl) rfl
theorem q439 : (Jvm.Cond.methodLink "BorrowedLuck" (18 : Nat) ({ cls := "BorrowedLuck$State", name := "<init>", desc := "()V" } : Jvm.MethodName)) ∈ lw_all := lw_g (lw_at lw_m2 78 rfl) rfl
theorem q441 : (Jvm.Cond.fieldLink "BorrowedLuck" (12 : Nat) "BorrowedLuck" "reader" "LBorrowedLuck$Reader;") ∈ lw_all := lw_g (lw_at lw_m2 80 rfl) rfl
theorem q442 : (Jvm.Cond.fieldLink "BorrowedLuck" (19 : Nat) "BorrowedLuck" "now" "LBorrowedLuck$State;") ∈ lw_all := lw_g (lw_at lw_m2 81 rfl) rfl
theorem q443 : (Jvm.Cond.fieldLink "BorrowedLuck" (23 : Nat) "BorrowedLuck" "image" "LBorrowedLuck$State;") ∈ lw_all := lw_g (lw_at lw_m2 82 rfl) rfl
theorem q444 : (Jvm.Cond.fieldLink "BorrowedLuck" (26 : Nat) "BorrowedLuck" "put" "LBorrowedLuck$State;") ∈ lw_all := lw_g (lw_at lw_m2 83 rfl) rfl
theorem q445 : (Jvm.Cond.fieldLink "BorrowedLuck" (29 : Nat) "BorrowedLuck" "acts" "[LBorrowedLuck$State;") ∈ lw_all := lw_g (lw_at lw_m2 84 rfl) rfl
theorem q446 : (Jvm.Cond.fieldLink "BorrowedLuck" (33 : Nat) "BorrowedLuck" "steps" "[LBorrowedLuck$State;") ∈ lw_all := lw_g (lw_at lw_m2 85 rfl) rfl
theorem q447 : (Jvm.Cond.fieldLink "BorrowedLuck" (36 : Nat) "BorrowedLuck" "least" "[I") ∈ lw_all := lw_g (lw_at lw_m2 86 rfl) rfl
theorem q448 : (Jvm.Cond.fieldLink "BorrowedLuck" (40 : Nat) "BorrowedLuck" "gains" "[I") ∈ lw_all := lw_g (lw_at lw_m2 87 rfl) rfl
theorem q449 : (Jvm.Cond.fieldLink "BorrowedLuck" (43 : Nat) "BorrowedLuck" "row" "[I") ∈ lw_all := lw_g (lw_at lw_m2 88 rfl) rfl
theorem q450 : (Jvm.Cond.fieldLink "BorrowedLuck" (46 : Nat) "BorrowedLuck" "best" "[I") ∈ lw_all := lw_g (lw_at lw_m2 89 rfl) rfl
theorem q451 : (Jvm.Cond.fieldLink "BorrowedLuck" (49 : Nat) "BorrowedLuck" "whose" "[I") ∈ lw_all := lw_g (lw_at lw_m2 90 rfl) rfl
theorem q452 : (Jvm.Cond.fieldLink "BorrowedLuck" (52 : Nat) "BorrowedLuck" "seen" "[I") ∈ lw_all := lw_g (lw_at lw_m2 91 rfl) rfl
theorem q453 : (Jvm.Cond.fieldLink "BorrowedLuck" (55 : Nat) "BorrowedLuck" "wrongAt" "I") ∈ lw_all := lw_g (lw_at lw_m2 92 rfl) rfl
theorem q454 : (Jvm.Cond.fieldLink "BorrowedLuck" (134 : Nat) "BorrowedLuck" "actMany" "I") ∈ lw_all := lw_g (lw_at lw_m2 93 rfl) rfl
theorem q455 : (Jvm.Cond.fieldLink "BorrowedLuck" (220 : Nat) "BorrowedLuck" "actAt" "I") ∈ lw_all := lw_g (lw_at lw_m2 94 rfl) rfl
theorem q456 : (Jvm.Cond.fieldLink "BorrowedLuck" (263 : Nat) "BorrowedLuck" "bestSum" "I") ∈ lw_all := lw_g (lw_at lw_m2 95 rfl) rfl
theorem q457 : (Jvm.Cond.fieldLink "BorrowedLuck" (254 : Nat) "BorrowedLuck" "bestLow" "I") ∈ lw_all := lw_g (lw_at lw_m2 96 rfl) rfl
theorem q458 : (Jvm.Cond.fieldLink "BorrowedLuck" (325 : Nat) "BorrowedLuck" "kept" "Z") ∈ lw_all := lw_g (lw_at lw_m2 97 rfl) rfl
theorem q459 : (Jvm.Cond.laysFinal "BorrowedLuck" "BorrowedLuck" "reader" "LBorrowedLuck$Reader;") ∈ lw_all := lw_g (lw_at lw_m2 98 rfl) rfl
theorem q460 : (Jvm.Cond.soleField "BorrowedLuck" "reader") ∈ lw_all := lw_g (lw_at lw_m2 99 rfl) rfl
theorem q461 : (Jvm.Cond.laysFinal "BorrowedLuck" "BorrowedLuck" "now" "LBorrowedLuck$State;") ∈ lw_all := lw_g (lw_at lw_m2 100 rfl) rfl
theorem q462 : (Jvm.Cond.soleField "BorrowedLuck" "now") ∈ lw_all := lw_g (lw_at lw_m2 101 rfl) rfl
theorem q463 : (Jvm.Cond.laysFinal "BorrowedLuck" "BorrowedLuck" "image" "LBorrowedLuck$State;") ∈ lw_all := lw_g (lw_at lw_m2 102 rfl) rfl
theorem q464 : (Jvm.Cond.soleField "BorrowedLuck" "image") ∈ lw_all := lw_g (lw_at lw_m2 103 rfl) rfl
theorem q465 : (Jvm.Cond.laysFinal "BorrowedLuck" "BorrowedLuck" "put" "LBorrowedLuck$State;") ∈ lw_all := lw_g (lw_at lw_m2 104 rfl) rfl
theorem q466 : (Jvm.Cond.soleField "BorrowedLuck" "put") ∈ lw_all := lw_g (lw_at lw_m2 105 rfl) rfl
theorem q467 : (Jvm.Cond.laysFinal "BorrowedLuck" "BorrowedLuck" "acts" "[LBorrowedLuck$State;") ∈ lw_all := lw_g (lw_at lw_m2 106 rfl) rfl
theorem q468 : (Jvm.Cond.soleField "BorrowedLuck" "acts") ∈ lw_all := lw_g (lw_at lw_m2 107 rfl) rfl
theorem q469 : (Jvm.Cond.laysFinal "BorrowedLuck" "BorrowedLuck" "steps" "[LBorrowedLuck$State;") ∈ lw_all := lw_g (lw_at lw_m2 108 rfl) rfl
theorem q470 : (Jvm.Cond.soleField "BorrowedLuck" "steps") ∈ lw_all := lw_g (lw_at lw_m2 109 rfl) rfl
theorem q471 : (Jvm.Cond.laysFinal "BorrowedLuck" "BorrowedLuck" "least" "[I") ∈ lw_all := lw_g (lw_at lw_m2 110 rfl) rfl
theorem q472 : (Jvm.Cond.soleField "BorrowedLuck" "least") ∈ lw_all := lw_g (lw_at lw_m2 111 rfl) rfl
theorem q473 : (Jvm.Cond.laysFinal "BorrowedLuck" "BorrowedLuck" "gains" "[I") ∈ lw_all := lw_g (lw_at lw_m2 112 rfl) rfl
theorem q474 : (Jvm.Cond.soleField "BorrowedLuck" "gains") ∈ lw_all := lw_g (lw_at lw_m2 113 rfl) rfl
theorem q475 : (Jvm.Cond.laysFinal "BorrowedLuck" "BorrowedLuck" "row" "[I") ∈ lw_all := lw_g (lw_at lw_m2 114 rfl) rfl
theorem q476 : (Jvm.Cond.soleField "BorrowedLuck" "row") ∈ lw_all := lw_g (lw_at lw_m2 115 rfl) rfl
theorem q477 : (Jvm.Cond.laysFinal "BorrowedLuck" "BorrowedLuck" "best" "[I") ∈ lw_all := lw_g (lw_at lw_m2 116 rfl) rfl
theorem q478 : (Jvm.Cond.soleField "BorrowedLuck" "best") ∈ lw_all := lw_g (lw_at lw_m2 117 rfl) rfl
theorem q479 : (Jvm.Cond.laysFinal "BorrowedLuck" "BorrowedLuck" "whose" "[I") ∈ lw_all := lw_g (lw_at lw_m2 118 rfl) rfl
theorem q480 : (Jvm.Cond.soleField "BorrowedLuck" "whose") ∈ lw_all := lw_g (lw_at lw_m2 119 rfl) rfl
theorem q481 : (Jvm.Cond.laysFinal "BorrowedLuck" "BorrowedLuck" "seen" "[I") ∈ lw_all := lw_g (lw_at lw_m2 120 rfl) rfl
theorem q482 : (Jvm.Cond.soleField "BorrowedLuck" "seen") ∈ lw_all := lw_g (lw_at lw_m2 121 rfl) rfl
theorem q483 : (Jvm.Cond.lays "BorrowedLuck" "BorrowedLuck" "wrongAt" "I") ∈ lw_all := lw_g (lw_at lw_m2 122 rfl) rfl
theorem q484 : (Jvm.Cond.soleField "BorrowedLuck" "wrongAt") ∈ lw_all := lw_g (lw_at lw_m2 123 rfl) rfl
theorem q485 : (Jvm.Cond.lays "BorrowedLuck" "BorrowedLuck" "actMany" "I") ∈ lw_all := lw_g (lw_at lw_m2 124 rfl) rfl
theorem q486 : (Jvm.Cond.soleField "BorrowedLuck" "actMany") ∈ lw_all := lw_g (lw_at lw_m2 125 rfl) rfl
theorem q487 : (Jvm.Cond.lays "BorrowedLuck" "BorrowedLuck" "actAt" "I") ∈ lw_all := lw_g (lw_at lw_m2 126 rfl) rfl
theorem q488 : (Jvm.Cond.soleField "BorrowedLuck" "actAt") ∈ lw_all := lw_g (lw_at lw_m2 127 rfl) rfl
theorem q489 : (Jvm.Cond.lays "BorrowedLuck" "BorrowedLuck" "bestSum" "I") ∈ lw_all := lw_g (lw_at lw_m2 128 rfl) rfl
theorem q490 : (Jvm.Cond.soleField "BorrowedLuck" "bestSum") ∈ lw_all := lw_g (lw_at lw_m2 129 rfl) rfl
theorem q491 : (Jvm.Cond.lays "BorrowedLuck" "BorrowedLuck" "bestLow" "I") ∈ lw_all := lw_g (lw_at lw_m2 130 rfl) rfl
theorem q492 : (Jvm.Cond.soleField "BorrowedLuck" "bestLow") ∈ lw_all := lw_g (lw_at lw_m2 131 rfl) rfl
theorem q493 : (Jvm.Cond.lays "BorrowedLuck" "BorrowedLuck" "kept" "Z") ∈ lw_all := lw_g (lw_at lw_m2 132 rfl) rfl
theorem q494 : (Jvm.Cond.soleField "BorrowedLuck" "kept") ∈ lw_all := lw_g (lw_at lw_m2 133 rfl) rfl
theorem q495 : (Jvm.Cond.superclass "BorrowedLuck" "java/lang/Object") ∈ lw_all := lw_g (lw_at lw_m2 134 rfl) rfl
theorem q497 : (Jvm.Cond.instanceMethod ({ cls := "BorrowedLuck", name := "feed", desc := "(IIIII)I" } : Jvm.MethodName)) ∈ lw_all := lw_g (lw_at lw_m2 136 rfl) rfl
theorem q498 : (Jvm.Cond.selects "BorrowedLuck" ({ cls := "BorrowedLuck", name := "feed", desc := "(IIIII)I" } : Jvm.MethodName) ({ cls := "BorrowedLuck", name := "feed", desc := "(IIIII)I" } : Jvm.MethodName)) ∈ lw_all := lw_g (lw_at lw_m2 137 rfl) rfl
theorem q499 : (Jvm.Cond.code ({ cls := "BorrowedLuck", name := "feed", desc := "(IIIII)I" } : Jvm.MethodName) prog_1_method_13_code (6 : Nat) (Option.some Jvm.ClassFile.FieldType.int)) ∈ lw_all := lw_g (lw_at lw_m2 138 rfl) rfl
theorem q500 : (Jvm.Cond.methodLink "BorrowedLuck" (103 : Nat) ({ cls := "BorrowedLuck", name := "four", desc := "(I)V" } : Jvm.MethodName)) ∈ lw_all := lw_g (lw_at lw_m2 139 rfl) rfl
theorem q501 : (Jvm.Cond.privateMethod ({ cls := "BorrowedLuck", name := "four", desc := "(I)V" } : Jvm.MethodName)) ∈ lw_tbl := lw_at lw_m2 140 rfl
theorem q502 : (Jvm.Cond.instanceMethod ({ cls := "BorrowedLuck", name := "four", desc := "(I)V" } : Jvm.MethodName)) ∈ lw_all := lw_g (lw_at lw_m2 141 rfl) rfl
theorem q503 : (Jvm.Cond.code ({ cls := "BorrowedLuck", name := "four", desc := "(I)V" } : Jvm.MethodName) prog_1_method_12_code (3 : Nat) (Option.none : Option Jvm.ClassFile.FieldType)) ∈ lw_all := lw_g (lw_at lw_m2 142 rfl) rfl
theorem q505 : (Jvm.Cond.instanceMethod ({ cls := "BorrowedLuck", name := "end", desc := "(I)Z" } : Jvm.MethodName)) ∈ lw_all := lw_g (lw_at lw_m2 144 rfl) rfl
theorem q506 : (Jvm.Cond.selects "BorrowedLuck" ({ cls := "BorrowedLuck", name := "end", desc := "(I)Z" } : Jvm.MethodName) ({ cls := "BorrowedLuck", name := "end", desc := "(I)Z" } : Jvm.MethodName)) ∈ lw_all := lw_g (lw_at lw_m2 145 rfl) rfl
theorem q507 : (Jvm.Cond.code ({ cls := "BorrowedLuck", name := "end", desc := "(I)Z" } : Jvm.MethodName) prog_1_method_14_code (2 : Nat) (Option.some Jvm.ClassFile.FieldType.boolean)) ∈ lw_all := lw_g (lw_at lw_m2 146 rfl) rfl
theorem q508 : (Jvm.Cond.methodLink "BorrowedLuck" (77 : Nat) ({ cls := "BorrowedLuck", name := "isIn", desc := "(III)Z" } : Jvm.MethodName)) ∈ lw_all := lw_g (lw_at lw_m2 147 rfl) rfl
theorem q509 : (Jvm.Cond.static ({ cls := "BorrowedLuck", name := "isIn", desc := "(III)Z" } : Jvm.MethodName)) ∈ lw_all := lw_g (lw_at lw_m2 148 rfl) rfl
theorem q510 : (Jvm.Cond.code ({ cls := "BorrowedLuck", name := "isIn", desc := "(III)Z" } : Jvm.MethodName) prog_1_method_8_code (3 : Nat) (Option.some Jvm.ClassFile.FieldType.boolean)) ∈ lw_all := lw_g (lw_at lw_m2 149 rfl) rfl
theorem q512 : (Jvm.Cond.instanceMethod ({ cls := "BorrowedLuck", name := "fault", desc := "()I" } : Jvm.MethodName)) ∈ lw_all := lw_g (lw_at lw_m2 151 rfl) rfl
theorem q513 : (Jvm.Cond.selects "BorrowedLuck" ({ cls := "BorrowedLuck", name := "fault", desc := "()I" } : Jvm.MethodName) ({ cls := "BorrowedLuck", name := "fault", desc := "()I" } : Jvm.MethodName)) ∈ lw_all := lw_g (lw_at lw_m2 152 rfl) rfl
theorem q514 : (Jvm.Cond.code ({ cls := "BorrowedLuck", name := "fault", desc := "()I" } : Jvm.MethodName) prog_1_method_19_code (1 : Nat) (Option.some Jvm.ClassFile.FieldType.int)) ∈ lw_all := lw_g (lw_at lw_m2 153 rfl) rfl
theorem q516 : (Jvm.Cond.instanceMethod ({ cls := "BorrowedLuck", name := "dearest", desc := "()I" } : Jvm.MethodName)) ∈ lw_all := lw_g (lw_at lw_m2 155 rfl) rfl
theorem q517 : (Jvm.Cond.selects "BorrowedLuck" ({ cls := "BorrowedLuck", name := "dearest", desc := "()I" } : Jvm.MethodName) ({ cls := "BorrowedLuck", name := "dearest", desc := "()I" } : Jvm.MethodName)) ∈ lw_all := lw_g (lw_at lw_m2 156 rfl) rfl
theorem q518 : (Jvm.Cond.code ({ cls := "BorrowedLuck", name := "dearest", desc := "()I" } : Jvm.MethodName) prog_1_method_55_code (3 : Nat) (Option.some Jvm.ClassFile.FieldType.int)) ∈ lw_all := lw_g (lw_at lw_m2 157 rfl) rfl
theorem q519 : (Jvm.Cond.methodLink "BorrowedLuck" (300 : Nat) ({ cls := "BorrowedLuck", name := "sellsBy", desc := "(I)I" } : Jvm.MethodName)) ∈ lw_all := lw_g (lw_at lw_m2 158 rfl) rfl
theorem q520 : (Jvm.Cond.privateMethod ({ cls := "BorrowedLuck", name := "sellsBy", desc := "(I)I" } : Jvm.MethodName)) ∈ lw_tbl := lw_at lw_m2 159 rfl
theorem q521 : (Jvm.Cond.instanceMethod ({ cls := "BorrowedLuck", name := "sellsBy", desc := "(I)I" } : Jvm.MethodName)) ∈ lw_all := lw_g (lw_at lw_m2 160 rfl) rfl
theorem q522 : (Jvm.Cond.code ({ cls := "BorrowedLuck", name := "sellsBy", desc := "(I)I" } : Jvm.MethodName) prog_1_method_53_code (4 : Nat) (Option.some Jvm.ClassFile.FieldType.int)) ∈ lw_all := lw_g (lw_at lw_m2 161 rfl) rfl
theorem q523 : (Jvm.Cond.methodLink "BorrowedLuck" (206 : Nat) ({ cls := "BorrowedLuck$Thing", name := "worth", desc := "()I" } : Jvm.MethodName)) ∈ lw_all := lw_g (lw_at lw_m2 162 rfl) rfl
theorem q528 : (Jvm.Cond.static ({ cls := "BorrowedLuck", name := "sum", desc := "([I)I" } : Jvm.MethodName)) ∈ lw_all := lw_g (lw_at lw_m2 167 rfl) rfl
theorem q529 : (Jvm.Cond.code ({ cls := "BorrowedLuck", name := "sum", desc := "([I)I" } : Jvm.MethodName) prog_1_method_1_code (3 : Nat) (Option.some Jvm.ClassFile.FieldType.int)) ∈ lw_all := lw_g (lw_at lw_m2 168 rfl) rfl
theorem q531 : (Jvm.Cond.instanceMethod ({ cls := "BorrowedLuck", name := "unlucky", desc := "()I" } : Jvm.MethodName)) ∈ lw_all := lw_g (lw_at lw_m2 170 rfl) rfl
theorem q532 : (Jvm.Cond.selects "BorrowedLuck" ({ cls := "BorrowedLuck", name := "unlucky", desc := "()I" } : Jvm.MethodName) ({ cls := "BorrowedLuck", name := "unlucky", desc := "()I" } : Jvm.MethodName)) ∈ lw_all := lw_g (lw_at lw_m2 171 rfl) rfl
theorem q533 : (Jvm.Cond.code ({ cls := "BorrowedLuck", name := "unlucky", desc := "()I" } : Jvm.MethodName) prog_1_method_56_code (3 : Nat) (Option.some Jvm.ClassFile.FieldType.int)) ∈ lw_all := lw_g (lw_at lw_m2 172 rfl) rfl
theorem q534 : (Jvm.Cond.methodLink "BorrowedLuck" (188 : Nat) ({ cls := "BorrowedLuck", name := "sum", desc := "([I)I" } : Jvm.MethodName)) ∈ lw_all := lw_g (lw_at lw_m2 173 rfl) rfl
theorem q536 : (Jvm.Cond.instanceMethod ({ cls := "BorrowedLuck", name := "oldest", desc := "()I" } : Jvm.MethodName)) ∈ lw_all := lw_g (lw_at lw_m2 175 rfl) rfl
theorem q537 : (Jvm.Cond.selects "BorrowedLuck" ({ cls := "BorrowedLuck", name := "oldest", desc := "()I" } : Jvm.MethodName) ({ cls := "BorrowedLuck", name := "oldest", desc := "()I" } : Jvm.MethodName)) ∈ lw_all := lw_g (lw_at lw_m2 176 rfl) rfl
theorem q538 : (Jvm.Cond.code ({ cls := "BorrowedLuck", name := "oldest", desc := "()I" } : Jvm.MethodName) prog_1_method_62_code (3 : Nat) (Option.some Jvm.ClassFile.FieldType.int)) ∈ lw_all := lw_g (lw_at lw_m2 177 rfl) rfl
theorem q540 : (Jvm.Cond.instanceMethod ({ cls := "BorrowedLuck", name := "stuck", desc := "()I" } : Jvm.MethodName)) ∈ lw_all := lw_g (lw_at lw_m2 179 rfl) rfl
theorem q541 : (Jvm.Cond.selects "BorrowedLuck" ({ cls := "BorrowedLuck", name := "stuck", desc := "()I" } : Jvm.MethodName) ({ cls := "BorrowedLuck", name := "stuck", desc := "()I" } : Jvm.MethodName)) ∈ lw_all := lw_g (lw_at lw_m2 180 rfl) rfl
theorem q542 : (Jvm.Cond.code ({ cls := "BorrowedLuck", name := "stuck", desc := "()I" } : Jvm.MethodName) prog_1_method_63_code (1 : Nat) (Option.some Jvm.ClassFile.FieldType.int)) ∈ lw_all := lw_g (lw_at lw_m2 181 rfl) rfl
theorem q543 : (Jvm.Cond.methodLink "BorrowedLuck" (306 : Nat) ({ cls := "BorrowedLuck$State", name := "stuckOnes", desc := "()I" } : Jvm.MethodName)) ∈ lw_all := lw_g (lw_at lw_m2 182 rfl) rfl
theorem q548 : (Jvm.Cond.instanceMethod ({ cls := "BorrowedLuck", name := "pawned", desc := "()I" } : Jvm.MethodName)) ∈ lw_all := lw_g (lw_at lw_m2 187 rfl) rfl
theorem q549 : (Jvm.Cond.selects "BorrowedLuck" ({ cls := "BorrowedLuck", name := "pawned", desc := "()I" } : Jvm.MethodName) ({ cls := "BorrowedLuck", name := "pawned", desc := "()I" } : Jvm.MethodName)) ∈ lw_all := lw_g (lw_at lw_m2 188 rfl) rfl
theorem q550 : (Jvm.Cond.code ({ cls := "BorrowedLuck", name := "pawned", desc := "()I" } : Jvm.MethodName) prog_1_method_64_code (1 : Nat) (Option.some Jvm.ClassFile.FieldType.int)) ∈ lw_all := lw_g (lw_at lw_m2 189 rfl) rfl
theorem q551 : (Jvm.Cond.methodLink "BorrowedLuck" (182 : Nat) ({ cls := "BorrowedLuck", name := "heldBy", desc := "(I)I" } : Jvm.MethodName)) ∈ lw_all := lw_g (lw_at lw_m2 190 rfl) rfl
theorem q552 : (Jvm.Cond.privateMethod ({ cls := "BorrowedLuck", name := "heldBy", desc := "(I)I" } : Jvm.MethodName)) ∈ lw_tbl := lw_at lw_m2 191 rfl
theorem q553 : (Jvm.Cond.instanceMethod ({ cls := "BorrowedLuck", name := "heldBy", desc := "(I)I" } : Jvm.MethodName)) ∈ lw_all := lw_g (lw_at lw_m2 192 rfl) rfl
theorem q554 : (Jvm.Cond.code ({ cls := "BorrowedLuck", name := "heldBy", desc := "(I)I" } : Jvm.MethodName) prog_1_method_20_code (4 : Nat) (Option.some Jvm.ClassFile.FieldType.int)) ∈ lw_all := lw_g (lw_at lw_m2 193 rfl) rfl
theorem q556 : (Jvm.Cond.instanceMethod ({ cls := "BorrowedLuck", name := "blue", desc := "()I" } : Jvm.MethodName)) ∈ lw_all := lw_g (lw_at lw_m2 195 rfl) rfl
theorem q557 : (Jvm.Cond.selects "BorrowedLuck" ({ cls := "BorrowedLuck", name := "blue", desc := "()I" } : Jvm.MethodName) ({ cls := "BorrowedLuck", name := "blue", desc := "()I" } : Jvm.MethodName)) ∈ lw_all := lw_g (lw_at lw_m2 196 rfl) rfl
theorem q558 : (Jvm.Cond.code ({ cls := "BorrowedLuck", name := "blue", desc := "()I" } : Jvm.MethodName) prog_1_method_65_code (3 : Nat) (Option.some Jvm.ClassFile.FieldType.int)) ∈ lw_all := lw_g (lw_at lw_m2 197 rfl) rfl
theorem q560 : (Jvm.Cond.instanceMethod ({ cls := "BorrowedLuck", name := "alike", desc := "()I" } : Jvm.MethodName)) ∈ lw_all := lw_g (lw_at lw_m2 199 rfl) rfl
theorem q561 : (Jvm.Cond.selects "BorrowedLuck" ({ cls := "BorrowedLuck", name := "alike", desc := "()I" } : Jvm.MethodName) ({ cls := "BorrowedLuck", name := "alike", desc := "()I" } : Jvm.MethodName)) ∈ lw_all := lw_g (lw_at lw_m2 200 rfl) rfl
theorem q562 : (Jvm.Cond.code ({ cls := "BorrowedLuck", name := "alike", desc := "()I" } : Jvm.MethodName) prog_1_method_67_code (4 : Nat) (Option.some Jvm.ClassFile.FieldType.int)) ∈ lw_all := lw_g (lw_at lw_m2 201 rfl) rfl
theorem q563 : (Jvm.Cond.methodLink "BorrowedLuck" (309 : Nat) ({ cls := "BorrowedLuck", name := "areAlike", desc := "(II)Z" } : Jvm.MethodName)) ∈ lw_all := lw_g (lw_at lw_m2 202 rfl) rfl
theorem q564 : (Jvm.Cond.privateMethod ({ cls := "BorrowedLuck", name := "areAlike", desc := "(II)Z" } : Jvm.MethodName)) ∈ lw_tbl := lw_at lw_m2 203 rfl
theorem q565 : (Jvm.Cond.instanceMethod ({ cls := "BorrowedLuck", name := "areAlike", desc := "(II)Z" } : Jvm.MethodName)) ∈ lw_all := lw_g (lw_at lw_m2 204 rfl) rfl
theorem q566 : (Jvm.Cond.code ({ cls := "BorrowedLuck", name := "areAlike", desc := "(II)Z" } : Jvm.MethodName) prog_1_method_66_code (5 : Nat) (Option.some Jvm.ClassFile.FieldType.boolean)) ∈ lw_all := lw_g (lw_at lw_m2 205 rfl) rfl
theorem q568 : (Jvm.Cond.instanceMethod ({ cls := "BorrowedLuck", name := "odds", desc := "()I" } : Jvm.MethodName)) ∈ lw_all := lw_g (lw_at lw_m2 207 rfl) rfl
theorem q569 : (Jvm.Cond.selects "BorrowedLuck" ({ cls := "BorrowedLuck", name := "odds", desc := "()I" } : Jvm.MethodName) ({ cls := "BorrowedLuck", name := "odds", desc := "()I" } : Jvm.MethodName)) ∈ lw_all := lw_g (lw_at lw_m2 208 rfl) rfl
theorem q570 : (Jvm.Cond.code ({ cls := "BorrowedLuck", name := "odds", desc := "()I" } : Jvm.MethodName) prog_1_method_69_code (5 : Nat) (Option.some Jvm.ClassFile.FieldType.int)) ∈ lw_all := lw_g (lw_at lw_m2 209 rfl) rfl
theorem q571 : (Jvm.Cond.methodLink "BorrowedLuck" (313 : Nat) ({ cls := "BorrowedLuck$State", name := "comes", desc := "(II)Z" } : Jvm.MethodName)) ∈ lw_all := lw_g (lw_at lw_m2 210 rfl) rfl
theorem q580 : (Jvm.Cond.instanceMethod ({ cls := "BorrowedLuck", name := "seed", desc := "(I)I" } : Jvm.MethodName)) ∈ lw_all := lw_g (lw_at lw_m2 219 rfl) rfl
theorem q581 : (Jvm.Cond.selects "BorrowedLuck" ({ cls := "BorrowedLuck", name := "seed", desc := "(I)I" } : Jvm.MethodName) ({ cls := "BorrowedLuck", name := "seed", desc := "(I)I" } : Jvm.MethodName)) ∈ lw_all := lw_g (lw_at lw_m2 220 rfl) rfl
theorem q582 : (Jvm.Cond.code ({ cls := "BorrowedLuck", name := "seed", desc := "(I)I" } : Jvm.MethodName) prog_1_method_74_code (3 : Nat) (Option.some Jvm.ClassFile.FieldType.int)) ∈ lw_all := lw_g (lw_at lw_m2 221 rfl) rfl
theorem q584 : (Jvm.Cond.instanceMethod ({ cls := "BorrowedLuck", name := "undo", desc := "()Z" } : Jvm.MethodName)) ∈ lw_all := lw_g (lw_at lw_m2 223 rfl) rfl
theorem q585 : (Jvm.Cond.selects "BorrowedLuck" ({ cls := "BorrowedLuck", name := "undo", desc := "()Z" } : Jvm.MethodName) ({ cls := "BorrowedLuck", name := "undo", desc := "()Z" } : Jvm.MethodName)) ∈ lw_all := lw_g (lw_at lw_m2 224 rfl) rfl
theorem q586 : (Jvm.Cond.code ({ cls := "BorrowedLuck", name := "undo", desc := "()Z" } : Jvm.MethodName) prog_1_method_75_code (1 : Nat) (Option.some Jvm.ClassFile.FieldType.boolean)) ∈ lw_all := lw_g (lw_at lw_m2 225 rfl) rfl
theorem q587 : (Jvm.Cond.methodLink "BorrowedLuck" (130 : Nat) ({ cls := "BorrowedLuck$State", name := "be", desc := "(LBorrowedLuck$State;)V" } : Jvm.MethodName)) ∈ lw_all := lw_g (lw_at lw_m2 226 rfl) rfl
theorem q605 : (Jvm.Cond.instanceMethod ({ cls := "BorrowedLuck", name := "image", desc := "()V" } : Jvm.MethodName)) ∈ lw_all := lw_g (lw_at lw_m3 4 rfl) rfl
theorem q606 : (Jvm.Cond.selects "BorrowedLuck" ({ cls := "BorrowedLuck", name := "image", desc := "()V" } : Jvm.MethodName) ({ cls := "BorrowedLuck", name := "image", desc := "()V" } : Jvm.MethodName)) ∈ lw_all := lw_g (lw_at lw_m3 5 rfl) rfl
theorem q607 : (Jvm.Cond.code ({ cls := "BorrowedLuck", name := "image", desc := "()V" } : Jvm.MethodName) prog_1_method_76_code (1 : Nat) (Option.none : Option Jvm.ClassFile.FieldType)) ∈ lw_all := lw_g (lw_at lw_m3 6 rfl) rfl
theorem q609 : (Jvm.Cond.instanceMethod ({ cls := "BorrowedLuck", name := "back", desc := "()Z" } : Jvm.MethodName)) ∈ lw_all := lw_g (lw_at lw_m3 8 rfl) rfl
theorem q610 : (Jvm.Cond.selects "BorrowedLuck" ({ cls := "BorrowedLuck", name := "back", desc := "()Z" } : Jvm.MethodName) ({ cls := "BorrowedLuck", name := "back", desc := "()Z" } : Jvm.MethodName)) ∈ lw_all := lw_g (lw_at lw_m3 9 rfl) rfl
theorem q611 : (Jvm.Cond.code ({ cls := "BorrowedLuck", name := "back", desc := "()Z" } : Jvm.MethodName) prog_1_method_77_code (1 : Nat) (Option.some Jvm.ClassFile.FieldType.boolean)) ∈ lw_all := lw_g (lw_at lw_m3 10 rfl) rfl
theorem q613 : (Jvm.Cond.instanceMethod ({ cls := "BorrowedLuck", name := "count", desc := "(I)I" } : Jvm.MethodName)) ∈ lw_all := lw_g (lw_at lw_m3 12 rfl) rfl
theorem q614 : (Jvm.Cond.selects "BorrowedLuck" ({ cls := "BorrowedLuck", name := "count", desc := "(I)I" } : Jvm.MethodName) ({ cls := "BorrowedLuck", name := "count", desc := "(I)I" } : Jvm.MethodName)) ∈ lw_all := lw_g (lw_at lw_m3 13 rfl) rfl
theorem q615 : (Jvm.Cond.code ({ cls := "BorrowedLuck", name := "count", desc := "(I)I" } : Jvm.MethodName) prog_1_method_80_code (2 : Nat) (Option.some Jvm.ClassFile.FieldType.int)) ∈ lw_all := lw_g (lw_at lw_m3 14 rfl) rfl
theorem q616 : (Jvm.Cond.methodLink "BorrowedLuck" (316 : Nat) ({ cls := "BorrowedLuck$State", name := "luckOfAll", desc := "()I" } : Jvm.MethodName)) ∈ lw_all := lw_g (lw_at lw_m3 15 rfl) rfl
theorem q621 : (Jvm.Cond.methodLink "BorrowedLuck" (334 : Nat) ({ cls := "BorrowedLuck", name := "luckOfThings", desc := "()I" } : Jvm.MethodName)) ∈ lw_all := lw_g (lw_at lw_m3 20 rfl) rfl
theorem q622 : (Jvm.Cond.privateMethod ({ cls := "BorrowedLuck", name := "luckOfThings", desc := "()I" } : Jvm.MethodName)) ∈ lw_tbl := lw_at lw_m3 21 rfl
theorem q623 : (Jvm.Cond.instanceMethod ({ cls := "BorrowedLuck", name := "luckOfThings", desc := "()I" } : Jvm.MethodName)) ∈ lw_all := lw_g (lw_at lw_m3 22 rfl) rfl
theorem q624 : (Jvm.Cond.code ({ cls := "BorrowedLuck", name := "luckOfThings", desc := "()I" } : Jvm.MethodName) prog_1_method_78_code (3 : Nat) (Option.some Jvm.ClassFile.FieldType.int)) ∈ lw_all := lw_g (lw_at lw_m3 23 rfl) rfl
theorem q625 : (Jvm.Cond.methodLink "BorrowedLuck" (337 : Nat) ({ cls := "BorrowedLuck", name := "widows", desc := "()I" } : Jvm.MethodName)) ∈ lw_all := lw_g (lw_at lw_m3 24 rfl) rfl
theorem q626 : (Jvm.Cond.privateMethod ({ cls := "BorrowedLuck", name := "widows", desc := "()I" } : Jvm.MethodName)) ∈ lw_tbl := lw_at lw_m3 25 rfl
theorem q627 : (Jvm.Cond.instanceMethod ({ cls := "BorrowedLuck", name := "widows", desc := "()I" } : Jvm.MethodName)) ∈ lw_all := lw_g (lw_at lw_m3 26 rfl) rfl
theorem q628 : (Jvm.Cond.code ({ cls := "BorrowedLuck", name := "widows", desc := "()I" } : Jvm.MethodName) prog_1_method_79_code (3 : Nat) (Option.some Jvm.ClassFile.FieldType.int)) ∈ lw_all := lw_g (lw_at lw_m3 27 rfl) rfl
theorem q629 : (Jvm.Cond.methodLink "BorrowedLuck" (223 : Nat) ({ cls := "java/lang/Math", name := "min", desc := "(II)I" } : Jvm.MethodName)) ∈ lw_all := lw_g (lw_at lw_m3 28 rfl) rfl
theorem q638 : (Jvm.Cond.instanceMethod ({ cls := "BorrowedLuck", name := "coast", desc := "()I" } : Jvm.MethodName)) ∈ lw_all := lw_g (lw_at lw_m3 37 rfl) rfl
theorem q639 : (Jvm.Cond.selects "BorrowedLuck" ({ cls := "BorrowedLuck", name := "coast", desc := "()I" } : Jvm.MethodName) ({ cls := "BorrowedLuck", name := "coast", desc := "()I" } : Jvm.MethodName)) ∈ lw_all := lw_g (lw_at lw_m3 38 rfl) rfl
theorem q640 : (Jvm.Cond.codeWith ({ cls := "BorrowedLuck", name := "coast", desc := "()I" } : Jvm.MethodName) prog_1_method_17_code (4 : Nat) (Option.some Jvm.ClassFile.FieldType.int) [((10 : Nat), (23 : Nat), (26 : Nat), (108 : Nat))]) ∈ lw_all := lw_g (lw_at lw_m3 39 rfl) rfl
theorem q641 : (Jvm.Cond.classLink "BorrowedLuck" (108 : Nat) "BorrowedLuck$Wrong") ∈ lw_all := lw_g (lw_at lw_m3 40 rfl) rfl
theorem q642 : (Jvm.Cond.methodLink "BorrowedLuck" (112 : Nat) ({ cls := "BorrowedLuck", name := "took", desc := "()I" } : Jvm.MethodName)) ∈ lw_all := lw_g (lw_at lw_m3 41 rfl) rfl
theorem q643 : (Jvm.Cond.privateMethod ({ cls := "BorrowedLuck", name := "took", desc := "()I" } : Jvm.MethodName)) ∈ lw_tbl := lw_at lw_m3 42 rfl
theorem q644 : (Jvm.Cond.instanceMethod ({ cls := "BorrowedLuck", name := "took", desc := "()I" } : Jvm.MethodName)) ∈ lw_all := lw_g (lw_at lw_m3 43 rfl) rfl
theorem q645 : (Jvm.Cond.code ({ cls := "BorrowedLuck", name := "took", desc := "()I" } : Jvm.MethodName) prog_1_method_15_code (2 : Nat) (Option.some Jvm.ClassFile.FieldType.int)) ∈ lw_all := lw_g (lw_at lw_m3 44 rfl) rfl
theorem q646 : (Jvm.Cond.methodLink "BorrowedLuck" (116 : Nat) ({ cls := "BorrowedLuck$Reader", name := "coast", desc := "(ILBorrowedLuck$State;)LBorrowedLuck$State;" } : Jvm.MethodName)) ∈ lw_all := lw_g (lw_at lw_m3 45 rfl) rfl
theorem q758 : (Jvm.Cond.methodLink "BorrowedLuck" (120 : Nat) ({ cls := "BorrowedLuck", name := "isWrong", desc := "(LBorrowedLuck$Wrong;)Ljava/lang/IllegalArgumentException;" } : Jvm.MethodName)) ∈ lw_all := lw_g (lw_at lw_m3 157 rfl) rfl
theorem q759 : (Jvm.Cond.privateMethod ({ cls := "BorrowedLuck", name := "isWrong", desc := "(LBorrowedLuck$Wrong;)Ljava/lang/IllegalArgumentException;" } : Jvm.MethodName)) ∈ lw_tbl := lw_at lw_m3 158 rfl
theorem q760 : (Jvm.Cond.instanceMethod ({ cls := "BorrowedLuck", name := "isWrong", desc := "(LBorrowedLuck$Wrong;)Ljava/lang/IllegalArgumentException;" } : Jvm.MethodName)) ∈ lw_all := lw_g (lw_at lw_m3 159 rfl) rfl
theorem q761 : (Jvm.Cond.code ({ cls := "BorrowedLuck", name := "isWrong", desc := "(LBorrowedLuck$Wrong;)Ljava/lang/IllegalArgumentException;" } : Jvm.MethodName) prog_1_method_16_code (2 : Nat) (Option.some (Jvm.ClassFile.FieldType.object "java/lang/IllegalArgumentException"))) ∈ lw_all := lw_g (lw_at lw_m3 160 rfl) rfl
theorem q762 : (Jvm.Cond.classLink "BorrowedLuck" (59 : Nat) "java/lang/IllegalArgumentException") ∈ lw_all := lw_g (lw_at lw_m3 161 rfl) rfl
theorem q771 : (Jvm.Cond.methodLink "BorrowedLuck" (61 : Nat) ({ cls := "java/lang/IllegalArgumentException", name := "<init>", desc := "()V" } : Jvm.MethodName)) ∈ lw_all := lw_g (lw_at lw_m3 170 rfl) rfl
theorem q783 : (Jvm.Cond.methodLink "BorrowedLuck" (127 : Nat) ({ cls := "BorrowedLuck", name := "mayBe", desc := "(Z)V" } : Jvm.MethodName)) ∈ lw_all := lw_g (lw_at lw_m3 182 rfl) rfl
theorem q784 : (Jvm.Cond.static ({ cls := "BorrowedLuck", name := "mayBe", desc := "(Z)V" } : Jvm.MethodName)) ∈ lw_all := lw_g (lw_at lw_m3 183 rfl) rfl
theorem q785 : (Jvm.Cond.code ({ cls := "BorrowedLuck", name := "mayBe", desc := "(Z)V" } : Jvm.MethodName) prog_1_method_4_code (1 : Nat) (Option.none : Option Jvm.ClassFile.FieldType)) ∈ lw_all := lw_g (lw_at lw_m3 184 rfl) rfl
theorem q786 : (Jvm.Cond.classLink "BorrowedLuck" (62 : Nat) "java/lang/UnsupportedOperationException") ∈ lw_all := lw_g (lw_at lw_m3 185 rfl) rfl
theorem q795 : (Jvm.Cond.methodLink "BorrowedLuck" (64 : Nat) ({ cls := "java/lang/UnsupportedOperationException", name := "<init>", desc := "()V" } : Jvm.MethodName)) ∈ lw_all := lw_g (lw_at lw_m3 194 rfl) rfl
theorem q805 : (Jvm.Cond.instanceMethod ({ cls := "BorrowedLuck", name := "law", desc := "()I" } : Jvm.MethodName)) ∈ lw_all := lw_g (lw_at lw_m3 204 rfl) rfl
theorem q806 : (Jvm.Cond.selects "BorrowedLuck" ({ cls := "BorrowedLuck", name := "law", desc := "()I" } : Jvm.MethodName) ({ cls := "BorrowedLuck", name := "law", desc := "()I" } : Jvm.MethodName)) ∈ lw_all := lw_g (lw_at lw_m3 205 rfl) rfl
theorem q807 : (Jvm.Cond.codeWith ({ cls := "BorrowedLuck", name := "law", desc := "()I" } : Jvm.MethodName) prog_1_method_18_code (3 : Nat) (Option.some Jvm.ClassFile.FieldType.int) [((10 : Nat), (25 : Nat), (28 : Nat), (108 : Nat))]) ∈ lw_all := lw_g (lw_at lw_m3 206 rfl) rfl
theorem q808 : (Jvm.Cond.methodLink "BorrowedLuck" (137 : Nat) ({ cls := "BorrowedLuck$Reader", name := "law", desc := "(I)I" } : Jvm.MethodName)) ∈ lw_all := lw_g (lw_at lw_m3 207 rfl) rfl
theorem q942 : (Jvm.Cond.methodLink "BorrowedLuck" (149 : Nat) ({ cls := "java/lang/System", name := "arraycopy", desc := "(Ljava/lang/Object;ILjava/lang/Object;II)V" } : Jvm.MethodName)) ∈ lw_all := lw_g (lw_at lw_m4 101 rfl) rfl
theorem q980 : (Jvm.Cond.instanceMethod ({ cls := "BorrowedLuck", name := "woman", desc := "(II)I" } : Jvm.MethodName)) ∈ lw_all := lw_g (lw_at lw_m4 139 rfl) rfl
theorem q981 : (Jvm.Cond.selects "BorrowedLuck" ({ cls := "BorrowedLuck", name := "woman", desc := "(II)I" } : Jvm.MethodName) ({ cls := "BorrowedLuck", name := "woman", desc := "(II)I" } : Jvm.MethodName)) ∈ lw_all := lw_g (lw_at lw_m4 140 rfl) rfl
theorem q982 : (Jvm.Cond.code ({ cls := "BorrowedLuck", name := "woman", desc := "(II)I" } : Jvm.MethodName) prog_1_method_22_code (4 : Nat) (Option.some Jvm.ClassFile.FieldType.int)) ∈ lw_all := lw_g (lw_at lw_m4 141 rfl) rfl
theorem q983 : (Jvm.Cond.methodLink "BorrowedLuck" (163 : Nat) ({ cls := "BorrowedLuck", name := "womanAt", desc := "(I)LBorrowedLuck$Woman;" } : Jvm.MethodName)) ∈ lw_all := lw_g (lw_at lw_m4 142 rfl) rfl
theorem q984 : (Jvm.Cond.privateMethod ({ cls := "BorrowedLuck", name := "womanAt", desc := "(I)LBorrowedLuck$Woman;" } : Jvm.MethodName)) ∈ lw_tbl := lw_at lw_m4 143 rfl
theorem q985 : (Jvm.Cond.instanceMethod ({ cls := "BorrowedLuck", name := "womanAt", desc := "(I)LBorrowedLuck$Woman;" } : Jvm.MethodName)) ∈ lw_all := lw_g (lw_at lw_m4 144 rfl) rfl
theorem q986 : (Jvm.Cond.code ({ cls := "BorrowedLuck", name := "womanAt", desc := "(I)LBorrowedLuck$Woman;" } : Jvm.MethodName) prog_1_method_9_code (2 : Nat) (Option.some (Jvm.ClassFile.FieldType.object "BorrowedLuck$Woman"))) ∈ lw_all := lw_g (lw_at lw_m4 145 rfl) rfl
theorem q987 : (Jvm.Cond.methodLink "BorrowedLuck" (81 : Nat) ({ cls := "BorrowedLuck", name := "mustBe", desc := "(Z)V" } : Jvm.MethodName)) ∈ lw_all := lw_g (lw_at lw_m4 146 rfl) rfl
theorem q988 : (Jvm.Cond.static ({ cls := "BorrowedLuck", name := "mustBe", desc := "(Z)V" } : Jvm.MethodName)) ∈ lw_all := lw_g (lw_at lw_m4 147 rfl) rfl
theorem q989 : (Jvm.Cond.code ({ cls := "BorrowedLuck", name := "mustBe", desc := "(Z)V" } : Jvm.MethodName) prog_1_method_5_code (1 : Nat) (Option.none : Option Jvm.ClassFile.FieldType)) ∈ lw_all := lw_g (lw_at lw_m4 148 rfl) rfl
theorem q990 : (Jvm.Cond.classLink "BorrowedLuck" (65 : Nat) "java/lang/IndexOutOfBoundsException") ∈ lw_all := lw_g (lw_at lw_m4 149 rfl) rfl
theorem q999 : (Jvm.Cond.methodLink "BorrowedLuck" (67 : Nat) ({ cls := "java/lang/IndexOutOfBoundsException", name := "<init>", desc := "()V" } : Jvm.MethodName)) ∈ lw_all := lw_g (lw_at lw_m4 158 rfl) rfl
theorem q1005 : (Jvm.Cond.methodLink "BorrowedLuck" (185 : Nat) ({ cls := "BorrowedLuck", name := "ownedBy", desc := "(I)I" } : Jvm.MethodName)) ∈ lw_all := lw_g (lw_at lw_m4 164 rfl) rfl
theorem q1006 : (Jvm.Cond.privateMethod ({ cls := "BorrowedLuck", name := "ownedBy", desc := "(I)I" } : Jvm.MethodName)) ∈ lw_tbl := lw_at lw_m4 165 rfl
theorem q1007 : (Jvm.Cond.instanceMethod ({ cls := "BorrowedLuck", name := "ownedBy", desc := "(I)I" } : Jvm.MethodName)) ∈ lw_all := lw_g (lw_at lw_m4 166 rfl) rfl
theorem q1008 : (Jvm.Cond.code ({ cls := "BorrowedLuck", name := "ownedBy", desc := "(I)I" } : Jvm.MethodName) prog_1_method_21_code (4 : Nat) (Option.some Jvm.ClassFile.FieldType.int)) ∈ lw_all := lw_g (lw_at lw_m4 167 rfl) rfl
theorem q1009 : (Jvm.Cond.classLink "BorrowedLuck" (68 : Nat) "java/util/NoSuchElementException") ∈ lw_all := lw_g (lw_at lw_m4 168 rfl) rfl
theorem q1018 : (Jvm.Cond.methodLink "BorrowedLuck" (70 : Nat) ({ cls := "java/util/NoSuchElementException", name := "<init>", desc := "()V" } : Jvm.MethodName)) ∈ lw_all := lw_g (lw_at lw_m4 177 rfl) rfl
theorem q1028 : (Jvm.Cond.instanceMethod ({ cls := "BorrowedLuck", name := "thing", desc := "(II)I" } : Jvm.MethodName)) ∈ lw_all := lw_g (lw_at lw_m4 187 rfl) rfl
theorem q1029 : (Jvm.Cond.selects "BorrowedLuck" ({ cls := "BorrowedLuck", name := "thing", desc := "(II)I" } : Jvm.MethodName) ({ cls := "BorrowedLuck", name := "thing", desc := "(II)I" } : Jvm.MethodName)) ∈ lw_all := lw_g (lw_at lw_m4 188 rfl) rfl
theorem q1030 : (Jvm.Cond.code ({ cls := "BorrowedLuck", name := "thing", desc := "(II)I" } : Jvm.MethodName) prog_1_method_23_code (4 : Nat) (Option.some Jvm.ClassFile.FieldType.int)) ∈ lw_all := lw_g (lw_at lw_m4 189 rfl) rfl
theorem q1031 : (Jvm.Cond.methodLink "BorrowedLuck" (192 : Nat) ({ cls := "BorrowedLuck", name := "thingAt", desc := "(I)LBorrowedLuck$Thing;" } : Jvm.MethodName)) ∈ lw_all := lw_g (lw_at lw_m4 190 rfl) rfl
theorem q1032 : (Jvm.Cond.privateMethod ({ cls := "BorrowedLuck", name := "thingAt", desc := "(I)LBorrowedLuck$Thing;" } : Jvm.MethodName)) ∈ lw_tbl := lw_at lw_m4 191 rfl
theorem q1033 : (Jvm.Cond.instanceMethod ({ cls := "BorrowedLuck", name := "thingAt", desc := "(I)LBorrowedLuck$Thing;" } : Jvm.MethodName)) ∈ lw_all := lw_g (lw_at lw_m4 192 rfl) rfl
theorem q1034 : (Jvm.Cond.code ({ cls := "BorrowedLuck", name := "thingAt", desc := "(I)LBorrowedLuck$Thing;" } : Jvm.MethodName) prog_1_method_10_code (2 : Nat) (Option.some (Jvm.ClassFile.FieldType.object "BorrowedLuck$Thing"))) ∈ lw_all := lw_g (lw_at lw_m4 193 rfl) rfl
theorem q1039 : (Jvm.Cond.instanceMethod ({ cls := "BorrowedLuck", name := "gain", desc := "(II)I" } : Jvm.MethodName)) ∈ lw_all := lw_g (lw_at lw_m4 198 rfl) rfl
theorem q1040 : (Jvm.Cond.selects "BorrowedLuck" ({ cls := "BorrowedLuck", name := "gain", desc := "(II)I" } : Jvm.MethodName) ({ cls := "BorrowedLuck", name := "gain", desc := "(II)I" } : Jvm.MethodName)) ∈ lw_all := lw_g (lw_at lw_m4 199 rfl) rfl
theorem q1041 : (Jvm.Cond.code ({ cls := "BorrowedLuck", name := "gain", desc := "(II)I" } : Jvm.MethodName) prog_1_method_24_code (3 : Nat) (Option.some Jvm.ClassFile.FieldType.int)) ∈ lw_all := lw_g (lw_at lw_m4 200 rfl) rfl
theorem q1042 : (Jvm.Cond.methodLink "BorrowedLuck" (209 : Nat) ({ cls := "BorrowedLuck$State", name := "gain", desc := "(II)I" } : Jvm.MethodName)) ∈ lw_all := lw_g (lw_at lw_m4 201 rfl) rfl
theorem q1117 : (Jvm.Cond.instanceMethod ({ cls := "BorrowedLuck", name := "flows", desc := "(III)I" } : Jvm.MethodName)) ∈ lw_all := lw_g (lw_at lw_m5 36 rfl) rfl
theorem q1118 : (Jvm.Cond.selects "BorrowedLuck" ({ cls := "BorrowedLuck", name := "flows", desc := "(III)I" } : Jvm.MethodName) ({ cls := "BorrowedLuck", name := "flows", desc := "(III)I" } : Jvm.MethodName)) ∈ lw_all := lw_g (lw_at lw_m5 37 rfl) rfl
theorem q1119 : (Jvm.Cond.code ({ cls := "BorrowedLuck", name := "flows", desc := "(III)I" } : Jvm.MethodName) prog_1_method_25_code (4 : Nat) (Option.some Jvm.ClassFile.FieldType.int)) ∈ lw_all := lw_g (lw_at lw_m5 38 rfl) rfl
theorem q1120 : (Jvm.Cond.methodLink "BorrowedLuck" (213 : Nat) ({ cls := "BorrowedLuck", name := "isSort", desc := "(I)V" } : Jvm.MethodName)) ∈ lw_all := lw_g (lw_at lw_m5 39 rfl) rfl
theorem q1121 : (Jvm.Cond.static ({ cls := "BorrowedLuck", name := "isSort", desc := "(I)V" } : Jvm.MethodName)) ∈ lw_all := lw_g (lw_at lw_m5 40 rfl) rfl
theorem q1122 : (Jvm.Cond.code ({ cls := "BorrowedLuck", name := "isSort", desc := "(I)V" } : Jvm.MethodName) prog_1_method_11_code (1 : Nat) (Option.none : Option Jvm.ClassFile.FieldType)) ∈ lw_all := lw_g (lw_at lw_m5 41 rfl) rfl
theorem q1123 : (Jvm.Cond.methodLink "BorrowedLuck" (216 : Nat) ({ cls := "BorrowedLuck$State", name := "flowsBy", desc := "(III)I" } : Jvm.MethodName)) ∈ lw_all := lw_g (lw_at lw_m5 42 rfl) rfl
theorem q1129 : (Jvm.Cond.instanceMethod ({ cls := "BorrowedLuck", name := "lend", desc := "(II)I" } : Jvm.MethodName)) ∈ lw_all := lw_g (lw_at lw_m5 48 rfl) rfl
theorem q1130 : (Jvm.Cond.selects "BorrowedLuck" ({ cls := "BorrowedLuck", name := "lend", desc := "(II)I" } : Jvm.MethodName) ({ cls := "BorrowedLuck", name := "lend", desc := "(II)I" } : Jvm.MethodName)) ∈ lw_all := lw_g (lw_at lw_m5 49 rfl) rfl
theorem q1131 : (Jvm.Cond.code ({ cls := "BorrowedLuck", name := "lend", desc := "(II)I" } : Jvm.MethodName) prog_1_method_27_code (5 : Nat) (Option.some Jvm.ClassFile.FieldType.int)) ∈ lw_all := lw_g (lw_at lw_m5 50 rfl) rfl
theorem q1132 : (Jvm.Cond.methodLink "BorrowedLuck" (228 : Nat) ({ cls := "BorrowedLuck", name := "must", desc := "(Z)V" } : Jvm.MethodName)) ∈ lw_all := lw_g (lw_at lw_m5 51 rfl) rfl
theorem q1133 : (Jvm.Cond.static ({ cls := "BorrowedLuck", name := "must", desc := "(Z)V" } : Jvm.MethodName)) ∈ lw_all := lw_g (lw_at lw_m5 52 rfl) rfl
theorem q1134 : (Jvm.Cond.code ({ cls := "BorrowedLuck", name := "must", desc := "(Z)V" } : Jvm.MethodName) prog_1_method_3_code (1 : Nat) (Option.none : Option Jvm.ClassFile.FieldType)) ∈ lw_all := lw_g (lw_at lw_m5 53 rfl) rfl
theorem q1135 : (Jvm.Cond.methodLink "BorrowedLuck" (231 : Nat) ({ cls := "BorrowedLuck", name := "can", desc := "(Z)V" } : Jvm.MethodName)) ∈ lw_all := lw_g (lw_at lw_m5 54 rfl) rfl
theorem q1136 : (Jvm.Cond.static ({ cls := "BorrowedLuck", name := "can", desc := "(Z)V" } : Jvm.MethodName)) ∈ lw_all := lw_g (lw_at lw_m5 55 rfl) rfl
theorem q1137 : (Jvm.Cond.code ({ cls := "BorrowedLuck", name := "can", desc := "(Z)V" } : Jvm.MethodName) prog_1_method_7_code (1 : Nat) (Option.none : Option Jvm.ClassFile.FieldType)) ∈ lw_all := lw_g (lw_at lw_m5 56 rfl) rfl
theorem q1138 : (Jvm.Cond.classLink "BorrowedLuck" (71 : Nat) "java/lang/IllegalStateException") ∈ lw_all := lw_g (lw_at lw_m5 57 rfl) rfl
theorem q1147 : (Jvm.Cond.methodLink "BorrowedLuck" (73 : Nat) ({ cls := "java/lang/IllegalStateException", name := "<init>", desc := "()V" } : Jvm.MethodName)) ∈ lw_all := lw_g (lw_at lw_m5 66 rfl) rfl
theorem q1153 : (Jvm.Cond.methodLink "BorrowedLuck" (234 : Nat) ({ cls := "BorrowedLuck", name := "remembers", desc := "()V" } : Jvm.MethodName)) ∈ lw_all := lw_g (lw_at lw_m5 72 rfl) rfl
theorem q1154 : (Jvm.Cond.privateMethod ({ cls := "BorrowedLuck", name := "remembers", desc := "()V" } : Jvm.MethodName)) ∈ lw_tbl := lw_at lw_m5 73 rfl
theorem q1155 : (Jvm.Cond.instanceMethod ({ cls := "BorrowedLuck", name := "remembers", desc := "()V" } : Jvm.MethodName)) ∈ lw_all := lw_g (lw_at lw_m5 74 rfl) rfl
theorem q1156 : (Jvm.Cond.code ({ cls := "BorrowedLuck", name := "remembers", desc := "()V" } : Jvm.MethodName) prog_1_method_26_code (1 : Nat) (Option.none : Option Jvm.ClassFile.FieldType)) ∈ lw_all := lw_g (lw_at lw_m5 75 rfl) rfl
theorem q1161 : (Jvm.Cond.instanceMethod ({ cls := "BorrowedLuck", name := "wed", desc := "(II)I" } : Jvm.MethodName)) ∈ lw_all := lw_g (lw_at lw_m5 80 rfl) rfl
theorem q1162 : (Jvm.Cond.selects "BorrowedLuck" ({ cls := "BorrowedLuck", name := "wed", desc := "(II)I" } : Jvm.MethodName) ({ cls := "BorrowedLuck", name := "wed", desc := "(II)I" } : Jvm.MethodName)) ∈ lw_all := lw_g (lw_at lw_m5 81 rfl) rfl
theorem q1163 : (Jvm.Cond.code ({ cls := "BorrowedLuck", name := "wed", desc := "(II)I" } : Jvm.MethodName) prog_1_method_28_code (4 : Nat) (Option.some Jvm.ClassFile.FieldType.int)) ∈ lw_all := lw_g (lw_at lw_m5 82 rfl) rfl
theorem q1164 : (Jvm.Cond.methodLink "BorrowedLuck" (237 : Nat) ({ cls := "BorrowedLuck$State", name := "weds", desc := "(II)I" } : Jvm.MethodName)) ∈ lw_all := lw_g (lw_at lw_m5 83 rfl) rfl
theorem q1208 : (Jvm.Cond.instanceMethod ({ cls := "BorrowedLuck", name := "pawn", desc := "(I)I" } : Jvm.MethodName)) ∈ lw_all := lw_g (lw_at lw_m5 127 rfl) rfl
theorem q1209 : (Jvm.Cond.selects "BorrowedLuck" ({ cls := "BorrowedLuck", name := "pawn", desc := "(I)I" } : Jvm.MethodName) ({ cls := "BorrowedLuck", name := "pawn", desc := "(I)I" } : Jvm.MethodName)) ∈ lw_all := lw_g (lw_at lw_m5 128 rfl) rfl
theorem q1210 : (Jvm.Cond.code ({ cls := "BorrowedLuck", name := "pawn", desc := "(I)I" } : Jvm.MethodName) prog_1_method_29_code (4 : Nat) (Option.some Jvm.ClassFile.FieldType.int)) ∈ lw_all := lw_g (lw_at lw_m5 129 rfl) rfl
theorem q1215 : (Jvm.Cond.instanceMethod ({ cls := "BorrowedLuck", name := "redeem", desc := "(I)I" } : Jvm.MethodName)) ∈ lw_all := lw_g (lw_at lw_m5 134 rfl) rfl
theorem q1216 : (Jvm.Cond.selects "BorrowedLuck" ({ cls := "BorrowedLuck", name := "redeem", desc := "(I)I" } : Jvm.MethodName) ({ cls := "BorrowedLuck", name := "redeem", desc := "(I)I" } : Jvm.MethodName)) ∈ lw_all := lw_g (lw_at lw_m5 135 rfl) rfl
theorem q1217 : (Jvm.Cond.code ({ cls := "BorrowedLuck", name := "redeem", desc := "(I)I" } : Jvm.MethodName) prog_1_method_30_code (4 : Nat) (Option.some Jvm.ClassFile.FieldType.int)) ∈ lw_all := lw_g (lw_at lw_m5 136 rfl) rfl
theorem q1222 : (Jvm.Cond.instanceMethod ({ cls := "BorrowedLuck", name := "cut", desc := "(I)I" } : Jvm.MethodName)) ∈ lw_all := lw_g (lw_at lw_m5 141 rfl) rfl
theorem q1223 : (Jvm.Cond.selects "BorrowedLuck" ({ cls := "BorrowedLuck", name := "cut", desc := "(I)I" } : Jvm.MethodName) ({ cls := "BorrowedLuck", name := "cut", desc := "(I)I" } : Jvm.MethodName)) ∈ lw_all := lw_g (lw_at lw_m5 142 rfl) rfl
theorem q1224 : (Jvm.Cond.code ({ cls := "BorrowedLuck", name := "cut", desc := "(I)I" } : Jvm.MethodName) prog_1_method_31_code (4 : Nat) (Option.some Jvm.ClassFile.FieldType.int)) ∈ lw_all := lw_g (lw_at lw_m5 143 rfl) rfl
theorem q1229 : (Jvm.Cond.instanceMethod ({ cls := "BorrowedLuck", name := "widow", desc := "(IZ)Z" } : Jvm.MethodName)) ∈ lw_all := lw_g (lw_at lw_m5 148 rfl) rfl
theorem q1230 : (Jvm.Cond.selects "BorrowedLuck" ({ cls := "BorrowedLuck", name := "widow", desc := "(IZ)Z" } : Jvm.MethodName) ({ cls := "BorrowedLuck", name := "widow", desc := "(IZ)Z" } : Jvm.MethodName)) ∈ lw_all := lw_g (lw_at lw_m5 149 rfl) rfl
theorem q1231 : (Jvm.Cond.code ({ cls := "BorrowedLuck", name := "widow", desc := "(IZ)Z" } : Jvm.MethodName) prog_1_method_32_code (5 : Nat) (Option.some Jvm.ClassFile.FieldType.boolean)) ∈ lw_all := lw_g (lw_at lw_m5 150 rfl) rfl
theorem q1236 : (Jvm.Cond.instanceMethod ({ cls := "BorrowedLuck", name := "days", desc := "(I)I" } : Jvm.MethodName)) ∈ lw_all := lw_g (lw_at lw_m5 155 rfl) rfl
theorem q1237 : (Jvm.Cond.selects "BorrowedLuck" ({ cls := "BorrowedLuck", name := "days", desc := "(I)I" } : Jvm.MethodName) ({ cls := "BorrowedLuck", name := "days", desc := "(I)I" } : Jvm.MethodName)) ∈ lw_all := lw_g (lw_at lw_m5 156 rfl) rfl
theorem q1238 : (Jvm.Cond.code ({ cls := "BorrowedLuck", name := "days", desc := "(I)I" } : Jvm.MethodName) prog_1_method_34_code (2 : Nat) (Option.some Jvm.ClassFile.FieldType.int)) ∈ lw_all := lw_g (lw_at lw_m5 157 rfl) rfl
theorem q1239 : (Jvm.Cond.methodLink "BorrowedLuck" (246 : Nat) ({ cls := "BorrowedLuck", name := "goOn", desc := "(I)I" } : Jvm.MethodName)) ∈ lw_all := lw_g (lw_at lw_m5 158 rfl) rfl
theorem q1240 : (Jvm.Cond.privateMethod ({ cls := "BorrowedLuck", name := "goOn", desc := "(I)I" } : Jvm.MethodName)) ∈ lw_tbl := lw_at lw_m5 159 rfl
theorem q1241 : (Jvm.Cond.instanceMethod ({ cls := "BorrowedLuck", name := "goOn", desc := "(I)I" } : Jvm.MethodName)) ∈ lw_all := lw_g (lw_at lw_m5 160 rfl) rfl
theorem q1242 : (Jvm.Cond.code ({ cls := "BorrowedLuck", name := "goOn", desc := "(I)I" } : Jvm.MethodName) prog_1_method_33_code (4 : Nat) (Option.some Jvm.ClassFile.FieldType.int)) ∈ lw_all := lw_g (lw_at lw_m5 161 rfl) rfl
theorem q1243 : (Jvm.Cond.methodLink "BorrowedLuck" (243 : Nat) ({ cls := "BorrowedLuck$State", name := "passes", desc := "()I" } : Jvm.MethodName)) ∈ lw_all := lw_g (lw_at lw_m5 162 rfl) rfl
theorem q1258 : (Jvm.Cond.instanceMethod ({ cls := "BorrowedLuck", name := "best", desc := "(I)I" } : Jvm.MethodName)) ∈ lw_all := lw_g (lw_at lw_m5 177 rfl) rfl
theorem q1259 : (Jvm.Cond.selects "BorrowedLuck" ({ cls := "BorrowedLuck", name := "best", desc := "(I)I" } : Jvm.MethodName) ({ cls := "BorrowedLuck", name := "best", desc := "(I)I" } : Jvm.MethodName)) ∈ lw_all := lw_g (lw_at lw_m5 178 rfl) rfl
theorem q1260 : (Jvm.Cond.code ({ cls := "BorrowedLuck", name := "best", desc := "(I)I" } : Jvm.MethodName) prog_1_method_35_code (4 : Nat) (Option.some Jvm.ClassFile.FieldType.int)) ∈ lw_all := lw_g (lw_at lw_m5 179 rfl) rfl
theorem q1261 : (Jvm.Cond.methodLink "BorrowedLuck" (249 : Nat) ({ cls := "BorrowedLuck$Thing", name := "isFreeFor", desc := "(I)Z" } : Jvm.MethodName)) ∈ lw_all := lw_g (lw_at lw_m5 180 rfl) rfl
theorem q1266 : (Jvm.Cond.instanceMethod ({ cls := "BorrowedLuck", name := "order", desc := "(III)I" } : Jvm.MethodName)) ∈ lw_all := lw_g (lw_at lw_m5 185 rfl) rfl
theorem q1267 : (Jvm.Cond.selects "BorrowedLuck" ({ cls := "BorrowedLuck", name := "order", desc := "(III)I" } : Jvm.MethodName) ({ cls := "BorrowedLuck", name := "order", desc := "(III)I" } : Jvm.MethodName)) ∈ lw_all := lw_g (lw_at lw_m5 186 rfl) rfl
theorem q1268 : (Jvm.Cond.code ({ cls := "BorrowedLuck", name := "order", desc := "(III)I" } : Jvm.MethodName) prog_1_method_39_code (5 : Nat) (Option.some Jvm.ClassFile.FieldType.int)) ∈ lw_all := lw_g (lw_at lw_m5 187 rfl) rfl
theorem q1269 : (Jvm.Cond.methodLink "BorrowedLuck" (276 : Nat) ({ cls := "BorrowedLuck", name := "tries", desc := "(II)I" } : Jvm.MethodName)) ∈ lw_all := lw_g (lw_at lw_m5 188 rfl) rfl
theorem q1270 : (Jvm.Cond.privateMethod ({ cls := "BorrowedLuck", name := "tries", desc := "(II)I" } : Jvm.MethodName)) ∈ lw_tbl := lw_at lw_m5 189 rfl
theorem q1271 : (Jvm.Cond.instanceMethod ({ cls := "BorrowedLuck", name := "tries", desc := "(II)I" } : Jvm.MethodName)) ∈ lw_all := lw_g (lw_at lw_m5 190 rfl) rfl
theorem q1272 : (Jvm.Cond.code ({ cls := "BorrowedLuck", name := "tries", desc := "(II)I" } : Jvm.MethodName) prog_1_method_38_code (4 : Nat) (Option.some Jvm.ClassFile.FieldType.int)) ∈ lw_all := lw_g (lw_at lw_m5 191 rfl) rfl
theorem q1273 : (Jvm.Cond.methodLink "BorrowedLuck" (270 : Nat) ({ cls := "java/lang/Integer", name := "bitCount", desc := "(I)I" } : Jvm.MethodName)) ∈ lw_all := lw_g (lw_at lw_m5 192 rfl) rfl
theorem q1279 : (Jvm.Cond.constant "BorrowedLuck" (275 : Nat) (-1000000 : Int32)) ∈ lw_all := lw_g (lw_at lw_m5 198 rfl) rfl
theorem q1280 : (Jvm.Cond.methodLink "BorrowedLuck" (266 : Nat) ({ cls := "BorrowedLuck", name := "orders", desc := "(IIIII)V" } : Jvm.MethodName)) ∈ lw_all := lw_g (lw_at lw_m5 199 rfl) rfl
theorem q1281 : (Jvm.Cond.privateMethod ({ cls := "BorrowedLuck", name := "orders", desc := "(IIIII)V" } : Jvm.MethodName)) ∈ lw_tbl := lw_at lw_m5 200 rfl
theorem q1282 : (Jvm.Cond.instanceMethod ({ cls := "BorrowedLuck", name := "orders", desc := "(IIIII)V" } : Jvm.MethodName)) ∈ lw_all := lw_g (lw_at lw_m5 201 rfl) rfl
theorem q1283 : (Jvm.Cond.code ({ cls := "BorrowedLuck", name := "orders", desc := "(IIIII)V" } : Jvm.MethodName) prog_1_method_37_code (7 : Nat) (Option.none : Option Jvm.ClassFile.FieldType)) ∈ lw_all := lw_g (lw_at lw_m5 202 rfl) rfl
theorem q1284 : (Jvm.Cond.methodLink "BorrowedLuck" (257 : Nat) ({ cls := "BorrowedLuck", name := "lowestOf", desc := "(I)I" } : Jvm.MethodName)) ∈ lw_all := lw_g (lw_at lw_m5 203 rfl) rfl
theorem q1285 : (Jvm.Cond.privateMethod ({ cls := "BorrowedLuck", name := "lowestOf", desc := "(I)I" } : Jvm.MethodName)) ∈ lw_tbl := lw_at lw_m5 204 rfl
theorem q1286 : (Jvm.Cond.instanceMethod ({ cls := "BorrowedLuck", name := "lowestOf", desc := "(I)I" } : Jvm.MethodName)) ∈ lw_all := lw_g (lw_at lw_m5 205 rfl) rfl
theorem q1287 : (Jvm.Cond.code ({ cls := "BorrowedLuck", name := "lowestOf", desc := "(I)I" } : Jvm.MethodName) prog_1_method_36_code (4 : Nat) (Option.some Jvm.ClassFile.FieldType.int)) ∈ lw_all := lw_g (lw_at lw_m5 206 rfl) rfl
theorem q1288 : (Jvm.Cond.constant "BorrowedLuck" (253 : Nat) (1000000 : Int32)) ∈ lw_all := lw_g (lw_at lw_m5 207 rfl) rfl
theorem q1289 : (Jvm.Cond.methodLink "BorrowedLuck" (260 : Nat) ({ cls := "java/lang/Math", name := "max", desc := "(II)I" } : Jvm.MethodName)) ∈ lw_all := lw_g (lw_at lw_m5 208 rfl) rfl
theorem q1296 : (Jvm.Cond.instanceMethod ({ cls := "BorrowedLuck", name := "lowest", desc := "(II)I" } : Jvm.MethodName)) ∈ lw_all := lw_g (lw_at lw_m5 215 rfl) rfl
theorem q1297 : (Jvm.Cond.selects "BorrowedLuck" ({ cls := "BorrowedLuck", name := "lowest", desc := "(II)I" } : Jvm.MethodName) ({ cls := "BorrowedLuck", name := "lowest", desc := "(II)I" } : Jvm.MethodName)) ∈ lw_all := lw_g (lw_at lw_m5 216 rfl) rfl
theorem q1298 : (Jvm.Cond.code ({ cls := "BorrowedLuck", name := "lowest", desc := "(II)I" } : Jvm.MethodName) prog_1_method_40_code (4 : Nat) (Option.some Jvm.ClassFile.FieldType.int)) ∈ lw_all := lw_g (lw_at lw_m5 217 rfl) rfl
theorem q1303 : (Jvm.Cond.instanceMethod ({ cls := "BorrowedLuck", name := "reach", desc := "(IIII)I" } : Jvm.MethodName)) ∈ lw_all := lw_g (lw_at lw_m5 222 rfl) rfl
theorem q1304 : (Jvm.Cond.selects "BorrowedLuck" ({ cls := "BorrowedLuck", name := "reach", desc := "(IIII)I" } : Jvm.MethodName) ({ cls := "BorrowedLuck", name := "reach", desc := "(IIII)I" } : Jvm.MethodName)) ∈ lw_all := lw_g (lw_at lw_m5 223 rfl) rfl
theorem q1305 : (Jvm.Cond.code ({ cls := "BorrowedLuck", name := "reach", desc := "(IIII)I" } : Jvm.MethodName) prog_1_method_41_code (9 : Nat) (Option.some Jvm.ClassFile.FieldType.int)) ∈ lw_all := lw_g (lw_at lw_m5 224 rfl) rfl
theorem q1310 : (Jvm.Cond.instanceMethod ({ cls := "BorrowedLuck", name := "chain", desc := "(I)I" } : Jvm.MethodName)) ∈ lw_all := lw_g (lw_at lw_m5 229 rfl) rfl
theorem q1311 : (Jvm.Cond.selects "BorrowedLuck" ({ cls := "BorrowedLuck", name := "chain", desc := "(I)I" } : Jvm.MethodName) ({ cls := "BorrowedLuck", name := "chain", desc := "(I)I" } : Jvm.MethodName)) ∈ lw_all := lw_g (lw_at lw_m5 230 rfl) rfl
theorem q1312 : (Jvm.Cond.code ({ cls := "BorrowedLuck", name := "chain", desc := "(I)I" } : Jvm.MethodName) prog_1_method_43_code (2 : Nat) (Option.some Jvm.ClassFile.FieldType.int)) ∈ lw_all := lw_g (lw_at lw_m5 231 rfl) rfl
theorem q1313 : (Jvm.Cond.methodLink "BorrowedLuck" (284 : Nat) ({ cls := "BorrowedLuck", name := "chainOf", desc := "(I)I" } : Jvm.MethodName)) ∈ lw_all := lw_g (lw_at lw_m5 232 rfl) rfl
theorem q1314 : (Jvm.Cond.privateMethod ({ cls := "BorrowedLuck", name := "chainOf", desc := "(I)I" } : Jvm.MethodName)) ∈ lw_tbl := lw_at lw_m5 233 rfl
theorem q1315 : (Jvm.Cond.instanceMethod ({ cls := "BorrowedLuck", name := "chainOf", desc := "(I)I" } : Jvm.MethodName)) ∈ lw_all := lw_g (lw_at lw_m5 234 rfl) rfl
theorem q1316 : (Jvm.Cond.code ({ cls := "BorrowedLuck", name := "chainOf", desc := "(I)I" } : Jvm.MethodName) prog_1_method_42_code (4 : Nat) (Option.some Jvm.ClassFile.FieldType.int)) ∈ lw_all := lw_g (lw_at lw_m5 235 rfl) rfl
theorem q1317 : (Jvm.Cond.methodLink "BorrowedLuck" (279 : Nat) ({ cls := "BorrowedLuck$State", name := "isKept", desc := "(I)Z" } : Jvm.MethodName)) ∈ lw_all := lw_g (lw_at lw_m5 236 rfl) rfl
theorem q1321 : (Jvm.Cond.methodLink "BorrowedLuck" (282 : Nat) ({ cls := "BorrowedLuck$State", name := "row", desc := "(II)I" } : Jvm.MethodName)) ∈ lw_all := lw_g (lw_at lw_m6 0 rfl) rfl
theorem q1330 : (Jvm.Cond.instanceMethod ({ cls := "BorrowedLuck", name := "since", desc := "(II)I" } : Jvm.MethodName)) ∈ lw_all := lw_g (lw_at lw_m6 9 rfl) rfl
theorem q1331 : (Jvm.Cond.selects "BorrowedLuck" ({ cls := "BorrowedLuck", name := "since", desc := "(II)I" } : Jvm.MethodName) ({ cls := "BorrowedLuck", name := "since", desc := "(II)I" } : Jvm.MethodName)) ∈ lw_all := lw_g (lw_at lw_m6 10 rfl) rfl
theorem q1332 : (Jvm.Cond.code ({ cls := "BorrowedLuck", name := "since", desc := "(II)I" } : Jvm.MethodName) prog_1_method_44_code (6 : Nat) (Option.some Jvm.ClassFile.FieldType.int)) ∈ lw_all := lw_g (lw_at lw_m6 11 rfl) rfl
theorem q1337 : (Jvm.Cond.instanceMethod ({ cls := "BorrowedLuck", name := "whose", desc := "()I" } : Jvm.MethodName)) ∈ lw_all := lw_g (lw_at lw_m6 16 rfl) rfl
theorem q1338 : (Jvm.Cond.selects "BorrowedLuck" ({ cls := "BorrowedLuck", name := "whose", desc := "()I" } : Jvm.MethodName) ({ cls := "BorrowedLuck", name := "whose", desc := "()I" } : Jvm.MethodName)) ∈ lw_all := lw_g (lw_at lw_m6 17 rfl) rfl
theorem q1339 : (Jvm.Cond.code ({ cls := "BorrowedLuck", name := "whose", desc := "()I" } : Jvm.MethodName) prog_1_method_46_code (1 : Nat) (Option.some Jvm.ClassFile.FieldType.int)) ∈ lw_all := lw_g (lw_at lw_m6 18 rfl) rfl
theorem q1340 : (Jvm.Cond.methodLink "BorrowedLuck" (287 : Nat) ({ cls := "BorrowedLuck", name := "hears", desc := "()I" } : Jvm.MethodName)) ∈ lw_all := lw_g (lw_at lw_m6 19 rfl) rfl
theorem q1341 : (Jvm.Cond.privateMethod ({ cls := "BorrowedLuck", name := "hears", desc := "()I" } : Jvm.MethodName)) ∈ lw_tbl := lw_at lw_m6 20 rfl
theorem q1342 : (Jvm.Cond.instanceMethod ({ cls := "BorrowedLuck", name := "hears", desc := "()I" } : Jvm.MethodName)) ∈ lw_all := lw_g (lw_at lw_m6 21 rfl) rfl
theorem q1343 : (Jvm.Cond.code ({ cls := "BorrowedLuck", name := "hears", desc := "()I" } : Jvm.MethodName) prog_1_method_45_code (6 : Nat) (Option.some Jvm.ClassFile.FieldType.int)) ∈ lw_all := lw_g (lw_at lw_m6 22 rfl) rfl
theorem q1348 : (Jvm.Cond.instanceMethod ({ cls := "BorrowedLuck", name := "next", desc := "()I" } : Jvm.MethodName)) ∈ lw_all := lw_g (lw_at lw_m6 27 rfl) rfl
theorem q1349 : (Jvm.Cond.selects "BorrowedLuck" ({ cls := "BorrowedLuck", name := "next", desc := "()I" } : Jvm.MethodName) ({ cls := "BorrowedLuck", name := "next", desc := "()I" } : Jvm.MethodName)) ∈ lw_all := lw_g (lw_at lw_m6 28 rfl) rfl
theorem q1350 : (Jvm.Cond.code ({ cls := "BorrowedLuck", name := "next", desc := "()I" } : Jvm.MethodName) prog_1_method_47_code (8 : Nat) (Option.some Jvm.ClassFile.FieldType.int)) ∈ lw_all := lw_g (lw_at lw_m6 29 rfl) rfl
theorem q1355 : (Jvm.Cond.instanceMethod ({ cls := "BorrowedLuck", name := "match", desc := "(II)I" } : Jvm.MethodName)) ∈ lw_all := lw_g (lw_at lw_m6 34 rfl) rfl
theorem q1356 : (Jvm.Cond.selects "BorrowedLuck" ({ cls := "BorrowedLuck", name := "match", desc := "(II)I" } : Jvm.MethodName) ({ cls := "BorrowedLuck", name := "match", desc := "(II)I" } : Jvm.MethodName)) ∈ lw_all := lw_g (lw_at lw_m6 35 rfl) rfl
theorem q1357 : (Jvm.Cond.code ({ cls := "BorrowedLuck", name := "match", desc := "(II)I" } : Jvm.MethodName) prog_1_method_49_code (7 : Nat) (Option.some Jvm.ClassFile.FieldType.int)) ∈ lw_all := lw_g (lw_at lw_m6 36 rfl) rfl
theorem q1358 : (Jvm.Cond.methodLink "BorrowedLuck" (290 : Nat) ({ cls := "BorrowedLuck", name := "by", desc := "(III)I" } : Jvm.MethodName)) ∈ lw_all := lw_g (lw_at lw_m6 37 rfl) rfl
theorem q1359 : (Jvm.Cond.privateMethod ({ cls := "BorrowedLuck", name := "by", desc := "(III)I" } : Jvm.MethodName)) ∈ lw_tbl := lw_at lw_m6 38 rfl
theorem q1360 : (Jvm.Cond.instanceMethod ({ cls := "BorrowedLuck", name := "by", desc := "(III)I" } : Jvm.MethodName)) ∈ lw_all := lw_g (lw_at lw_m6 39 rfl) rfl
theorem q1361 : (Jvm.Cond.code ({ cls := "BorrowedLuck", name := "by", desc := "(III)I" } : Jvm.MethodName) prog_1_method_48_code (4 : Nat) (Option.some Jvm.ClassFile.FieldType.int)) ∈ lw_all := lw_g (lw_at lw_m6 40 rfl) rfl
theorem q1366 : (Jvm.Cond.instanceMethod ({ cls := "BorrowedLuck", name := "rests", desc := "(III)I" } : Jvm.MethodName)) ∈ lw_all := lw_g (lw_at lw_m6 45 rfl) rfl
theorem q1367 : (Jvm.Cond.selects "BorrowedLuck" ({ cls := "BorrowedLuck", name := "rests", desc := "(III)I" } : Jvm.MethodName) ({ cls := "BorrowedLuck", name := "rests", desc := "(III)I" } : Jvm.MethodName)) ∈ lw_all := lw_g (lw_at lw_m6 46 rfl) rfl
theorem q1368 : (Jvm.Cond.code ({ cls := "BorrowedLuck", name := "rests", desc := "(III)I" } : Jvm.MethodName) prog_1_method_52_code (8 : Nat) (Option.some Jvm.ClassFile.FieldType.int)) ∈ lw_all := lw_g (lw_at lw_m6 47 rfl) rfl
theorem q1369 : (Jvm.Cond.methodLink "BorrowedLuck" (293 : Nat) ({ cls := "BorrowedLuck", name := "widowHas", desc := "(III)I" } : Jvm.MethodName)) ∈ lw_all := lw_g (lw_at lw_m6 48 rfl) rfl
theorem q1370 : (Jvm.Cond.privateMethod ({ cls := "BorrowedLuck", name := "widowHas", desc := "(III)I" } : Jvm.MethodName)) ∈ lw_tbl := lw_at lw_m6 49 rfl
theorem q1371 : (Jvm.Cond.instanceMethod ({ cls := "BorrowedLuck", name := "widowHas", desc := "(III)I" } : Jvm.MethodName)) ∈ lw_all := lw_g (lw_at lw_m6 50 rfl) rfl
theorem q1372 : (Jvm.Cond.code ({ cls := "BorrowedLuck", name := "widowHas", desc := "(III)I" } : Jvm.MethodName) prog_1_method_50_code (4 : Nat) (Option.some Jvm.ClassFile.FieldType.int)) ∈ lw_all := lw_g (lw_at lw_m6 51 rfl) rfl
theorem q1373 : (Jvm.Cond.methodLink "BorrowedLuck" (296 : Nat) ({ cls := "BorrowedLuck", name := "brideHas", desc := "(IIII)I" } : Jvm.MethodName)) ∈ lw_all := lw_g (lw_at lw_m6 52 rfl) rfl
theorem q1374 : (Jvm.Cond.privateMethod ({ cls := "BorrowedLuck", name := "brideHas", desc := "(IIII)I" } : Jvm.MethodName)) ∈ lw_tbl := lw_at lw_m6 53 rfl
theorem q1375 : (Jvm.Cond.instanceMethod ({ cls := "BorrowedLuck", name := "brideHas", desc := "(IIII)I" } : Jvm.MethodName)) ∈ lw_all := lw_g (lw_at lw_m6 54 rfl) rfl
theorem q1376 : (Jvm.Cond.code ({ cls := "BorrowedLuck", name := "brideHas", desc := "(IIII)I" } : Jvm.MethodName) prog_1_method_51_code (5 : Nat) (Option.some Jvm.ClassFile.FieldType.int)) ∈ lw_all := lw_g (lw_at lw_m6 55 rfl) rfl
theorem q1381 : (Jvm.Cond.instanceMethod ({ cls := "BorrowedLuck", name := "sells", desc := "(I)I" } : Jvm.MethodName)) ∈ lw_all := lw_g (lw_at lw_m6 60 rfl) rfl
theorem q1382 : (Jvm.Cond.selects "BorrowedLuck" ({ cls := "BorrowedLuck", name := "sells", desc := "(I)I" } : Jvm.MethodName) ({ cls := "BorrowedLuck", name := "sells", desc := "(I)I" } : Jvm.MethodName)) ∈ lw_all := lw_g (lw_at lw_m6 61 rfl) rfl
theorem q1383 : (Jvm.Cond.code ({ cls := "BorrowedLuck", name := "sells", desc := "(I)I" } : Jvm.MethodName) prog_1_method_54_code (2 : Nat) (Option.some Jvm.ClassFile.FieldType.int)) ∈ lw_all := lw_g (lw_at lw_m6 62 rfl) rfl
theorem q1388 : (Jvm.Cond.instanceMethod ({ cls := "BorrowedLuck", name := "luckiest", desc := "(I)I" } : Jvm.MethodName)) ∈ lw_all := lw_g (lw_at lw_m6 67 rfl) rfl
theorem q1389 : (Jvm.Cond.selects "BorrowedLuck" ({ cls := "BorrowedLuck", name := "luckiest", desc := "(I)I" } : Jvm.MethodName) ({ cls := "BorrowedLuck", name := "luckiest", desc := "(I)I" } : Jvm.MethodName)) ∈ lw_all := lw_g (lw_at lw_m6 68 rfl) rfl
theorem q1390 : (Jvm.Cond.code ({ cls := "BorrowedLuck", name := "luckiest", desc := "(I)I" } : Jvm.MethodName) prog_1_method_57_code (4 : Nat) (Option.some Jvm.ClassFile.FieldType.int)) ∈ lw_all := lw_g (lw_at lw_m6 69 rfl) rfl
theorem q1395 : (Jvm.Cond.instanceMethod ({ cls := "BorrowedLuck", name := "ring", desc := "(I)Z" } : Jvm.MethodName)) ∈ lw_all := lw_g (lw_at lw_m6 74 rfl) rfl
theorem q1396 : (Jvm.Cond.selects "BorrowedLuck" ({ cls := "BorrowedLuck", name := "ring", desc := "(I)Z" } : Jvm.MethodName) ({ cls := "BorrowedLuck", name := "ring", desc := "(I)Z" } : Jvm.MethodName)) ∈ lw_all := lw_g (lw_at lw_m6 75 rfl) rfl
theorem q1397 : (Jvm.Cond.code ({ cls := "BorrowedLuck", name := "ring", desc := "(I)Z" } : Jvm.MethodName) prog_1_method_59_code (4 : Nat) (Option.some Jvm.ClassFile.FieldType.boolean)) ∈ lw_all := lw_g (lw_at lw_m6 76 rfl) rfl
theorem q1398 : (Jvm.Cond.methodLink "BorrowedLuck" (303 : Nat) ({ cls := "BorrowedLuck", name := "debtor", desc := "(I)I" } : Jvm.MethodName)) ∈ lw_all := lw_g (lw_at lw_m6 77 rfl) rfl
theorem q1399 : (Jvm.Cond.privateMethod ({ cls := "BorrowedLuck", name := "debtor", desc := "(I)I" } : Jvm.MethodName)) ∈ lw_tbl := lw_at lw_m6 78 rfl
theorem q1400 : (Jvm.Cond.instanceMethod ({ cls := "BorrowedLuck", name := "debtor", desc := "(I)I" } : Jvm.MethodName)) ∈ lw_all := lw_g (lw_at lw_m6 79 rfl) rfl
theorem q1401 : (Jvm.Cond.code ({ cls := "BorrowedLuck", name := "debtor", desc := "(I)I" } : Jvm.MethodName) prog_1_method_58_code (4 : Nat) (Option.some Jvm.ClassFile.FieldType.int)) ∈ lw_all := lw_g (lw_at lw_m6 80 rfl) rfl
theorem q1406 : (Jvm.Cond.instanceMethod ({ cls := "BorrowedLuck", name := "runs", desc := "(II)I" } : Jvm.MethodName)) ∈ lw_all := lw_g (lw_at lw_m6 85 rfl) rfl
theorem q1407 : (Jvm.Cond.selects "BorrowedLuck" ({ cls := "BorrowedLuck", name := "runs", desc := "(II)I" } : Jvm.MethodName) ({ cls := "BorrowedLuck", name := "runs", desc := "(II)I" } : Jvm.MethodName)) ∈ lw_all := lw_g (lw_at lw_m6 86 rfl) rfl
theorem q1408 : (Jvm.Cond.code ({ cls := "BorrowedLuck", name := "runs", desc := "(II)I" } : Jvm.MethodName) prog_1_method_60_code (6 : Nat) (Option.some Jvm.ClassFile.FieldType.int)) ∈ lw_all := lw_g (lw_at lw_m6 87 rfl) rfl
theorem q1413 : (Jvm.Cond.instanceMethod ({ cls := "BorrowedLuck", name := "spent", desc := "(I)I" } : Jvm.MethodName)) ∈ lw_all := lw_g (lw_at lw_m6 92 rfl) rfl
theorem q1414 : (Jvm.Cond.selects "BorrowedLuck" ({ cls := "BorrowedLuck", name := "spent", desc := "(I)I" } : Jvm.MethodName) ({ cls := "BorrowedLuck", name := "spent", desc := "(I)I" } : Jvm.MethodName)) ∈ lw_all := lw_g (lw_at lw_m6 93 rfl) rfl
theorem q1415 : (Jvm.Cond.code ({ cls := "BorrowedLuck", name := "spent", desc := "(I)I" } : Jvm.MethodName) prog_1_method_61_code (6 : Nat) (Option.some Jvm.ClassFile.FieldType.int)) ∈ lw_all := lw_g (lw_at lw_m6 94 rfl) rfl
theorem q1420 : (Jvm.Cond.instanceMethod ({ cls := "BorrowedLuck", name := "share", desc := "(II)I" } : Jvm.MethodName)) ∈ lw_all := lw_g (lw_at lw_m6 99 rfl) rfl
theorem q1421 : (Jvm.Cond.selects "BorrowedLuck" ({ cls := "BorrowedLuck", name := "share", desc := "(II)I" } : Jvm.MethodName) ({ cls := "BorrowedLuck", name := "share", desc := "(II)I" } : Jvm.MethodName)) ∈ lw_all := lw_g (lw_at lw_m6 100 rfl) rfl
theorem q1422 : (Jvm.Cond.code ({ cls := "BorrowedLuck", name := "share", desc := "(II)I" } : Jvm.MethodName) prog_1_method_68_code (6 : Nat) (Option.some Jvm.ClassFile.FieldType.int)) ∈ lw_all := lw_g (lw_at lw_m6 101 rfl) rfl
theorem q1427 : (Jvm.Cond.instanceMethod ({ cls := "BorrowedLuck", name := "trial", desc := "(IZ)I" } : Jvm.MethodName)) ∈ lw_all := lw_g (lw_at lw_m6 106 rfl) rfl
theorem q1428 : (Jvm.Cond.selects "BorrowedLuck" ({ cls := "BorrowedLuck", name := "trial", desc := "(IZ)I" } : Jvm.MethodName) ({ cls := "BorrowedLuck", name := "trial", desc := "(IZ)I" } : Jvm.MethodName)) ∈ lw_all := lw_g (lw_at lw_m6 107 rfl) rfl
theorem q1429 : (Jvm.Cond.code ({ cls := "BorrowedLuck", name := "trial", desc := "(IZ)I" } : Jvm.MethodName) prog_1_method_70_code (5 : Nat) (Option.some Jvm.ClassFile.FieldType.int)) ∈ lw_all := lw_g (lw_at lw_m6 108 rfl) rfl
theorem q1434 : (Jvm.Cond.instanceMethod ({ cls := "BorrowedLuck", name := "span", desc := "(IZ)I" } : Jvm.MethodName)) ∈ lw_all := lw_g (lw_at lw_m6 113 rfl) rfl
theorem q1435 : (Jvm.Cond.selects "BorrowedLuck" ({ cls := "BorrowedLuck", name := "span", desc := "(IZ)I" } : Jvm.MethodName) ({ cls := "BorrowedLuck", name := "span", desc := "(IZ)I" } : Jvm.MethodName)) ∈ lw_all := lw_g (lw_at lw_m6 114 rfl) rfl
theorem q1436 : (Jvm.Cond.code ({ cls := "BorrowedLuck", name := "span", desc := "(IZ)I" } : Jvm.MethodName) prog_1_method_71_code (7 : Nat) (Option.some Jvm.ClassFile.FieldType.int)) ∈ lw_all := lw_g (lw_at lw_m6 115 rfl) rfl
theorem q1441 : (Jvm.Cond.instanceMethod ({ cls := "BorrowedLuck", name := "led", desc := "(IZ)I" } : Jvm.MethodName)) ∈ lw_all := lw_g (lw_at lw_m6 120 rfl) rfl
theorem q1442 : (Jvm.Cond.selects "BorrowedLuck" ({ cls := "BorrowedLuck", name := "led", desc := "(IZ)I" } : Jvm.MethodName) ({ cls := "BorrowedLuck", name := "led", desc := "(IZ)I" } : Jvm.MethodName)) ∈ lw_all := lw_g (lw_at lw_m6 121 rfl) rfl
theorem q1443 : (Jvm.Cond.code ({ cls := "BorrowedLuck", name := "led", desc := "(IZ)I" } : Jvm.MethodName) prog_1_method_72_code (6 : Nat) (Option.some Jvm.ClassFile.FieldType.int)) ∈ lw_all := lw_g (lw_at lw_m6 122 rfl) rfl
theorem q1448 : (Jvm.Cond.instanceMethod ({ cls := "BorrowedLuck", name := "log", desc := "(II)I" } : Jvm.MethodName)) ∈ lw_all := lw_g (lw_at lw_m6 127 rfl) rfl
theorem q1449 : (Jvm.Cond.selects "BorrowedLuck" ({ cls := "BorrowedLuck", name := "log", desc := "(II)I" } : Jvm.MethodName) ({ cls := "BorrowedLuck", name := "log", desc := "(II)I" } : Jvm.MethodName)) ∈ lw_all := lw_g (lw_at lw_m6 128 rfl) rfl
theorem q1450 : (Jvm.Cond.code ({ cls := "BorrowedLuck", name := "log", desc := "(II)I" } : Jvm.MethodName) prog_1_method_73_code (3 : Nat) (Option.some Jvm.ClassFile.FieldType.int)) ∈ lw_all := lw_g (lw_at lw_m6 129 rfl) rfl
theorem q1451 : (Jvm.Cond.methodLink "BorrowedLuck" (322 : Nat) ({ cls := "BorrowedLuck", name := "thereIs", desc := "(Z)V" } : Jvm.MethodName)) ∈ lw_all := lw_g (lw_at lw_m6 130 rfl) rfl
theorem q1452 : (Jvm.Cond.static ({ cls := "BorrowedLuck", name := "thereIs", desc := "(Z)V" } : Jvm.MethodName)) ∈ lw_all := lw_g (lw_at lw_m6 131 rfl) rfl
theorem q1453 : (Jvm.Cond.code ({ cls := "BorrowedLuck", name := "thereIs", desc := "(Z)V" } : Jvm.MethodName) prog_1_method_6_code (1 : Nat) (Option.none : Option Jvm.ClassFile.FieldType)) ∈ lw_all := lw_g (lw_at lw_m6 132 rfl) rfl
theorem q2090 : (Jvm.Cond.castable "BorrowedLuck" "java/lang/Object") ∈ lw_tbl := lw_at lw_m9 49 rfl
theorem in_X1 : ∀ w ∈ wsX10, w ∈ lw_all := lw_in wsX10 [459, 461, 463, 465, 467, 469, 471, 473, 475, 477, 479, 481, 483, 485, 487, 489, 491, 493] (by decide +kernel) (by decide +kernel)
