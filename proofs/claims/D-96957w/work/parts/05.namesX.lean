/-! PictureBlock -/
set_option maxRecDepth 100000
def RX0 : String := "PictureBlock"
def TX0 : u_T := fun k => match k with
  | 0 => ("PictureBlock", "pile", "[I", true)
  | 1 => ("PictureBlock", "named", "[I", true)
  | 2 => ("PictureBlock", "house", "LPictureBlock$House;", true)
  | 3 => ("PictureBlock", "kept", "LPictureBlock$House;", true)
  | 4 => ("PictureBlock", "aside", "LPictureBlock$House;", true)
  | 5 => ("PictureBlock", "trace", "LPictureBlock$Trace;", true)
  | 6 => ("PictureBlock", "found", "[I", true)
  | 7 => ("PictureBlock", "sheets", "[LPictureBlock$Slot;", true)
  | 8 => ("PictureBlock", "normal", "[[J", true)
  | 9 => ("PictureBlock", "work", "[[J", true)
  | 10 => ("PictureBlock", "right", "[J", true)
  | 11 => ("PictureBlock", "above", "[J", true)
  | 12 => ("PictureBlock", "weights", "[I", true)
  | 13 => ("PictureBlock", "saids", "[I", true)
  | 14 => ("PictureBlock", "below", "J", false)
  | _ => ("PictureBlock", "images", "I", false)
def tyX0 : Nat → FieldType := fun k => match k with
  | 0 => .array .int
  | 1 => .array .int
  | 2 => .object "PictureBlock$House"
  | 3 => .object "PictureBlock$House"
  | 4 => .object "PictureBlock$House"
  | 5 => .object "PictureBlock$Trace"
  | 6 => .array .int
  | 7 => .array (.object "PictureBlock$Slot")
  | 8 => .array (.array .long)
  | 9 => .array (.array .long)
  | 10 => .array .long
  | 11 => .array .long
  | 12 => .array .int
  | 13 => .array .int
  | 14 => .long
  | _ => .int
abbrev wsX00 : List Cond := u_ws RX0 TX0 16
set_option maxRecDepth 100000 in
theorem nmX0 : ∀ a, a < 16 → ∀ b, b < 16 → a ≠ b → (TX0 a).2.1 ≠ (TX0 b).2.1 := by decide +kernel
set_option maxRecDepth 100000 in
theorem tyX0_ok : ∀ k, k < 16 → parseFieldDescriptor (TX0 k).2.2.1 = some (tyX0 k) := by decide +kernel
abbrev cX0_init : ByteArray := prog_1_method_7_code
def yX0_init : MethodName := ⟨RX0, "<init>", "()V"⟩
def dkwX0_init_7 : List UInt8 := [188, 10, 181, 0, 109, 177]
abbrev dktX0_init_7 : List UInt8 := dkwX0_init_7 ++ []
def dkwX0_init_6 : List UInt8 := [7, 188, 11, 181, 0, 99, 42, 7, 188, 11, 181, 0, 103, 42, 16, 8, 188, 10, 181, 0, 106, 42, 16, 8]
abbrev dktX0_init_6 : List UInt8 := dkwX0_init_6 ++ dktX0_init_7
def dkwX0_init_5 : List UInt8 := [181, 0, 87, 42, 7, 7, 197, 0, 91, 2, 181, 0, 93, 42, 7, 7, 197, 0, 91, 2, 181, 0, 96, 42]
abbrev dktX0_init_5 : List UInt8 := dkwX0_init_5 ++ dktX0_init_6
def dkwX0_init_4 : List UInt8 := [183, 0, 86, 83, 89, 5, 187, 0, 84, 89, 183, 0, 86, 83, 89, 6, 187, 0, 84, 89, 183, 0, 86, 83]
abbrev dktX0_init_4 : List UInt8 := dkwX0_init_4 ++ dktX0_init_5
def dkwX0_init_3 : List UInt8 := [181, 0, 81, 42, 7, 189, 0, 84, 89, 3, 187, 0, 84, 89, 183, 0, 86, 83, 89, 4, 187, 0, 84, 89]
abbrev dktX0_init_3 : List UInt8 := dkwX0_init_3 ++ dktX0_init_4
def dkwX0_init_2 : List UInt8 := [183, 0, 63, 181, 0, 71, 42, 187, 0, 74, 89, 183, 0, 76, 181, 0, 77, 42, 16, 7, 188, 10]
abbrev dktX0_init_2 : List UInt8 := dkwX0_init_2 ++ dktX0_init_3
def dkwX0_init_1 : List UInt8 := [183, 0, 63, 181, 0, 64, 42, 187, 0, 61, 89, 183, 0, 63, 181, 0, 68, 42, 187, 0, 61, 89]
abbrev dktX0_init_1 : List UInt8 := dkwX0_init_1 ++ dktX0_init_2
def dkwX0_init_0 : List UInt8 := [42, 183, 0, 56, 42, 16, 60, 188, 10, 181, 0, 41, 42, 6, 188, 10, 181, 0, 49, 42, 187, 0, 61, 89]
abbrev dktX0_init_0 : List UInt8 := dkwX0_init_0 ++ dktX0_init_1
theorem dksX0_init_0 : cX0_init.data.toList.drop 0 = dktX0_init_0 := by decide +kernel
theorem dksX0_init_1 : cX0_init.data.toList.drop 24 = dktX0_init_1 := dk_seg dksX0_init_0 24 rfl rfl
theorem dksX0_init_2 : cX0_init.data.toList.drop 46 = dktX0_init_2 := dk_seg dksX0_init_1 22 rfl rfl
theorem dksX0_init_3 : cX0_init.data.toList.drop 68 = dktX0_init_3 := dk_seg dksX0_init_2 22 rfl rfl
theorem dksX0_init_4 : cX0_init.data.toList.drop 92 = dktX0_init_4 := dk_seg dksX0_init_3 24 rfl rfl
theorem dksX0_init_5 : cX0_init.data.toList.drop 116 = dktX0_init_5 := dk_seg dksX0_init_4 24 rfl rfl
theorem dksX0_init_6 : cX0_init.data.toList.drop 140 = dktX0_init_6 := dk_seg dksX0_init_5 24 rfl rfl
theorem dksX0_init_7 : cX0_init.data.toList.drop 164 = dktX0_init_7 := dk_seg dksX0_init_6 24 rfl rfl
theorem dX0_init_0 : decode cX0_init 0 = .ok (.aload_n 0, 1) := dk_42 (dk_at dksX0_init_0 0 rfl rfl)
theorem dX0_init_1 : decode cX0_init 1 = .ok (.invokespecial 56, 3) := dk_183 0 56 (dk_at dksX0_init_0 1 rfl rfl)
theorem dX0_init_4 : decode cX0_init 4 = .ok (.aload_n 0, 1) := dk_42 (dk_at dksX0_init_0 4 rfl rfl)
theorem dX0_init_5 : decode cX0_init 5 = .ok (.bipush 60, 2) := dk_16 60 (dk_at dksX0_init_0 5 rfl rfl)
theorem dX0_init_7 : decode cX0_init 7 = .ok (.newarray .int, 2) := dk_188_10 (dk_at dksX0_init_0 7 rfl rfl)
theorem dX0_init_9 : decode cX0_init 9 = .ok (.putfield 41, 3) := dk_181 0 41 (dk_at dksX0_init_0 9 rfl rfl)
theorem dX0_init_12 : decode cX0_init 12 = .ok (.aload_n 0, 1) := dk_42 (dk_at dksX0_init_0 12 rfl rfl)
theorem dX0_init_13 : decode cX0_init 13 = .ok (.iconst 3, 1) := dk_6 (dk_at dksX0_init_0 13 rfl rfl)
theorem dX0_init_14 : decode cX0_init 14 = .ok (.newarray .int, 2) := dk_188_10 (dk_at dksX0_init_0 14 rfl rfl)
theorem dX0_init_16 : decode cX0_init 16 = .ok (.putfield 49, 3) := dk_181 0 49 (dk_at dksX0_init_0 16 rfl rfl)
theorem dX0_init_19 : decode cX0_init 19 = .ok (.aload_n 0, 1) := dk_42 (dk_at dksX0_init_0 19 rfl rfl)
theorem dX0_init_20 : decode cX0_init 20 = .ok (.new 61, 3) := dk_187 0 61 (dk_at dksX0_init_0 20 rfl rfl)
theorem dX0_init_23 : decode cX0_init 23 = .ok (.dup, 1) := dk_89 (dk_at dksX0_init_0 23 rfl rfl)
theorem dX0_init_24 : decode cX0_init 24 = .ok (.invokespecial 63, 3) := dk_183 0 63 (dk_at dksX0_init_1 0 rfl rfl)
theorem dX0_init_27 : decode cX0_init 27 = .ok (.putfield 64, 3) := dk_181 0 64 (dk_at dksX0_init_1 3 rfl rfl)
theorem dX0_init_30 : decode cX0_init 30 = .ok (.aload_n 0, 1) := dk_42 (dk_at dksX0_init_1 6 rfl rfl)
theorem dX0_init_31 : decode cX0_init 31 = .ok (.new 61, 3) := dk_187 0 61 (dk_at dksX0_init_1 7 rfl rfl)
theorem dX0_init_34 : decode cX0_init 34 = .ok (.dup, 1) := dk_89 (dk_at dksX0_init_1 10 rfl rfl)
theorem dX0_init_35 : decode cX0_init 35 = .ok (.invokespecial 63, 3) := dk_183 0 63 (dk_at dksX0_init_1 11 rfl rfl)
theorem dX0_init_38 : decode cX0_init 38 = .ok (.putfield 68, 3) := dk_181 0 68 (dk_at dksX0_init_1 14 rfl rfl)
theorem dX0_init_41 : decode cX0_init 41 = .ok (.aload_n 0, 1) := dk_42 (dk_at dksX0_init_1 17 rfl rfl)
theorem dX0_init_42 : decode cX0_init 42 = .ok (.new 61, 3) := dk_187 0 61 (dk_at dksX0_init_1 18 rfl rfl)
theorem dX0_init_45 : decode cX0_init 45 = .ok (.dup, 1) := dk_89 (dk_at dksX0_init_1 21 rfl rfl)
theorem dX0_init_46 : decode cX0_init 46 = .ok (.invokespecial 63, 3) := dk_183 0 63 (dk_at dksX0_init_2 0 rfl rfl)
theorem dX0_init_49 : decode cX0_init 49 = .ok (.putfield 71, 3) := dk_181 0 71 (dk_at dksX0_init_2 3 rfl rfl)
theorem dX0_init_52 : decode cX0_init 52 = .ok (.aload_n 0, 1) := dk_42 (dk_at dksX0_init_2 6 rfl rfl)
theorem dX0_init_53 : decode cX0_init 53 = .ok (.new 74, 3) := dk_187 0 74 (dk_at dksX0_init_2 7 rfl rfl)
theorem dX0_init_56 : decode cX0_init 56 = .ok (.dup, 1) := dk_89 (dk_at dksX0_init_2 10 rfl rfl)
theorem dX0_init_57 : decode cX0_init 57 = .ok (.invokespecial 76, 3) := dk_183 0 76 (dk_at dksX0_init_2 11 rfl rfl)
theorem dX0_init_60 : decode cX0_init 60 = .ok (.putfield 77, 3) := dk_181 0 77 (dk_at dksX0_init_2 14 rfl rfl)
theorem dX0_init_63 : decode cX0_init 63 = .ok (.aload_n 0, 1) := dk_42 (dk_at dksX0_init_2 17 rfl rfl)
theorem dX0_init_64 : decode cX0_init 64 = .ok (.bipush 7, 2) := dk_16 7 (dk_at dksX0_init_2 18 rfl rfl)
theorem dX0_init_66 : decode cX0_init 66 = .ok (.newarray .int, 2) := dk_188_10 (dk_at dksX0_init_2 20 rfl rfl)
theorem dX0_init_68 : decode cX0_init 68 = .ok (.putfield 81, 3) := dk_181 0 81 (dk_at dksX0_init_3 0 rfl rfl)
theorem dX0_init_71 : decode cX0_init 71 = .ok (.aload_n 0, 1) := dk_42 (dk_at dksX0_init_3 3 rfl rfl)
theorem dX0_init_72 : decode cX0_init 72 = .ok (.iconst 4, 1) := dk_7 (dk_at dksX0_init_3 4 rfl rfl)
theorem dX0_init_73 : decode cX0_init 73 = .ok (.anewarray 84, 3) := dk_189 0 84 (dk_at dksX0_init_3 5 rfl rfl)
theorem dX0_init_76 : decode cX0_init 76 = .ok (.dup, 1) := dk_89 (dk_at dksX0_init_3 8 rfl rfl)
theorem dX0_init_77 : decode cX0_init 77 = .ok (.iconst 0, 1) := dk_3 (dk_at dksX0_init_3 9 rfl rfl)
theorem dX0_init_78 : decode cX0_init 78 = .ok (.new 84, 3) := dk_187 0 84 (dk_at dksX0_init_3 10 rfl rfl)
theorem dX0_init_81 : decode cX0_init 81 = .ok (.dup, 1) := dk_89 (dk_at dksX0_init_3 13 rfl rfl)
theorem dX0_init_82 : decode cX0_init 82 = .ok (.invokespecial 86, 3) := dk_183 0 86 (dk_at dksX0_init_3 14 rfl rfl)
theorem dX0_init_85 : decode cX0_init 85 = .ok (.aastore, 1) := dk_83 (dk_at dksX0_init_3 17 rfl rfl)
theorem dX0_init_86 : decode cX0_init 86 = .ok (.dup, 1) := dk_89 (dk_at dksX0_init_3 18 rfl rfl)
theorem dX0_init_87 : decode cX0_init 87 = .ok (.iconst 1, 1) := dk_4 (dk_at dksX0_init_3 19 rfl rfl)
theorem dX0_init_88 : decode cX0_init 88 = .ok (.new 84, 3) := dk_187 0 84 (dk_at dksX0_init_3 20 rfl rfl)
theorem dX0_init_91 : decode cX0_init 91 = .ok (.dup, 1) := dk_89 (dk_at dksX0_init_3 23 rfl rfl)
theorem dX0_init_92 : decode cX0_init 92 = .ok (.invokespecial 86, 3) := dk_183 0 86 (dk_at dksX0_init_4 0 rfl rfl)
theorem dX0_init_95 : decode cX0_init 95 = .ok (.aastore, 1) := dk_83 (dk_at dksX0_init_4 3 rfl rfl)
theorem dX0_init_96 : decode cX0_init 96 = .ok (.dup, 1) := dk_89 (dk_at dksX0_init_4 4 rfl rfl)
theorem dX0_init_97 : decode cX0_init 97 = .ok (.iconst 2, 1) := dk_5 (dk_at dksX0_init_4 5 rfl rfl)
theorem dX0_init_98 : decode cX0_init 98 = .ok (.new 84, 3) := dk_187 0 84 (dk_at dksX0_init_4 6 rfl rfl)
theorem dX0_init_101 : decode cX0_init 101 = .ok (.dup, 1) := dk_89 (dk_at dksX0_init_4 9 rfl rfl)
theorem dX0_init_102 : decode cX0_init 102 = .ok (.invokespecial 86, 3) := dk_183 0 86 (dk_at dksX0_init_4 10 rfl rfl)
theorem dX0_init_105 : decode cX0_init 105 = .ok (.aastore, 1) := dk_83 (dk_at dksX0_init_4 13 rfl rfl)
theorem dX0_init_106 : decode cX0_init 106 = .ok (.dup, 1) := dk_89 (dk_at dksX0_init_4 14 rfl rfl)
theorem dX0_init_107 : decode cX0_init 107 = .ok (.iconst 3, 1) := dk_6 (dk_at dksX0_init_4 15 rfl rfl)
theorem dX0_init_108 : decode cX0_init 108 = .ok (.new 84, 3) := dk_187 0 84 (dk_at dksX0_init_4 16 rfl rfl)
theorem dX0_init_111 : decode cX0_init 111 = .ok (.dup, 1) := dk_89 (dk_at dksX0_init_4 19 rfl rfl)
theorem dX0_init_112 : decode cX0_init 112 = .ok (.invokespecial 86, 3) := dk_183 0 86 (dk_at dksX0_init_4 20 rfl rfl)
theorem dX0_init_115 : decode cX0_init 115 = .ok (.aastore, 1) := dk_83 (dk_at dksX0_init_4 23 rfl rfl)
theorem dX0_init_116 : decode cX0_init 116 = .ok (.putfield 87, 3) := dk_181 0 87 (dk_at dksX0_init_5 0 rfl rfl)
theorem dX0_init_119 : decode cX0_init 119 = .ok (.aload_n 0, 1) := dk_42 (dk_at dksX0_init_5 3 rfl rfl)
theorem dX0_init_120 : decode cX0_init 120 = .ok (.iconst 4, 1) := dk_7 (dk_at dksX0_init_5 4 rfl rfl)
theorem dX0_init_121 : decode cX0_init 121 = .ok (.iconst 4, 1) := dk_7 (dk_at dksX0_init_5 5 rfl rfl)
theorem dX0_init_122 : decode cX0_init 122 = .ok (.multianewarray 91 2, 4) := by decide +kernel
theorem dX0_init_126 : decode cX0_init 126 = .ok (.putfield 93, 3) := dk_181 0 93 (dk_at dksX0_init_5 10 rfl rfl)
theorem dX0_init_129 : decode cX0_init 129 = .ok (.aload_n 0, 1) := dk_42 (dk_at dksX0_init_5 13 rfl rfl)
theorem dX0_init_130 : decode cX0_init 130 = .ok (.iconst 4, 1) := dk_7 (dk_at dksX0_init_5 14 rfl rfl)
theorem dX0_init_131 : decode cX0_init 131 = .ok (.iconst 4, 1) := dk_7 (dk_at dksX0_init_5 15 rfl rfl)
theorem dX0_init_132 : decode cX0_init 132 = .ok (.multianewarray 91 2, 4) := by decide +kernel
theorem dX0_init_136 : decode cX0_init 136 = .ok (.putfield 96, 3) := dk_181 0 96 (dk_at dksX0_init_5 20 rfl rfl)
theorem dX0_init_139 : decode cX0_init 139 = .ok (.aload_n 0, 1) := dk_42 (dk_at dksX0_init_5 23 rfl rfl)
theorem dX0_init_140 : decode cX0_init 140 = .ok (.iconst 4, 1) := dk_7 (dk_at dksX0_init_6 0 rfl rfl)
theorem dX0_init_141 : decode cX0_init 141 = .ok (.newarray .long, 2) := dk_188_11 (dk_at dksX0_init_6 1 rfl rfl)
theorem dX0_init_143 : decode cX0_init 143 = .ok (.putfield 99, 3) := dk_181 0 99 (dk_at dksX0_init_6 3 rfl rfl)
theorem dX0_init_146 : decode cX0_init 146 = .ok (.aload_n 0, 1) := dk_42 (dk_at dksX0_init_6 6 rfl rfl)
theorem dX0_init_147 : decode cX0_init 147 = .ok (.iconst 4, 1) := dk_7 (dk_at dksX0_init_6 7 rfl rfl)
theorem dX0_init_148 : decode cX0_init 148 = .ok (.newarray .long, 2) := dk_188_11 (dk_at dksX0_init_6 8 rfl rfl)
theorem dX0_init_150 : decode cX0_init 150 = .ok (.putfield 103, 3) := dk_181 0 103 (dk_at dksX0_init_6 10 rfl rfl)
theorem dX0_init_153 : decode cX0_init 153 = .ok (.aload_n 0, 1) := dk_42 (dk_at dksX0_init_6 13 rfl rfl)
theorem dX0_init_154 : decode cX0_init 154 = .ok (.bipush 8, 2) := dk_16 8 (dk_at dksX0_init_6 14 rfl rfl)
theorem dX0_init_156 : decode cX0_init 156 = .ok (.newarray .int, 2) := dk_188_10 (dk_at dksX0_init_6 16 rfl rfl)
theorem dX0_init_158 : decode cX0_init 158 = .ok (.putfield 106, 3) := dk_181 0 106 (dk_at dksX0_init_6 18 rfl rfl)
theorem dX0_init_161 : decode cX0_init 161 = .ok (.aload_n 0, 1) := dk_42 (dk_at dksX0_init_6 21 rfl rfl)
theorem dX0_init_162 : decode cX0_init 162 = .ok (.bipush 8, 2) := dk_16 8 (dk_at dksX0_init_6 22 rfl rfl)
theorem dX0_init_164 : decode cX0_init 164 = .ok (.newarray .int, 2) := dk_188_10 (dk_at dksX0_init_7 0 rfl rfl)
theorem dX0_init_166 : decode cX0_init 166 = .ok (.putfield 109, 3) := dk_181 0 109 (dk_at dksX0_init_7 2 rfl rfl)
theorem dX0_init_169 : decode cX0_init 169 = .ok (.return_, 1) := dk_177 (dk_at dksX0_init_7 5 rfl rfl)
abbrev cX0_mark : ByteArray := prog_1_method_22_code
def yX0_mark : MethodName := ⟨RX0, "mark", "(IIII)I"⟩
def dkwX0_mark_7 : List UInt8 := [180, 0, 64, 89, 180, 0, 113, 4, 96, 181, 0, 113, 21, 5, 172]
abbrev dktX0_mark_7 : List UInt8 := dkwX0_mark_7 ++ []
def dkwX0_mark_6 : List UInt8 := [180, 0, 64, 180, 0, 165, 21, 5, 21, 4, 79, 42, 180, 0, 64, 180, 0, 188, 21, 5, 4, 79, 42]
abbrev dktX0_mark_6 : List UInt8 := dkwX0_mark_6 ++ dktX0_mark_7
def dkwX0_mark_5 : List UInt8 := [180, 0, 64, 180, 0, 191, 21, 5, 28, 79, 42, 180, 0, 64, 180, 0, 194, 21, 5, 29, 79, 42]
abbrev dktX0_mark_5 : List UInt8 := dkwX0_mark_5 ++ dktX0_mark_6
def dkwX0_mark_4 : List UInt8 := [180, 0, 220, 21, 5, 50, 27, 16, 10, 108, 21, 5, 27, 16, 10, 112, 184, 0, 223, 181, 0, 227, 42]
abbrev dktX0_mark_4 : List UInt8 := dkwX0_mark_4 ++ dktX0_mark_5
def dkwX0_mark_3 : List UInt8 := [160, 0, 9, 42, 7, 182, 0, 217, 172, 42, 180, 0, 64, 180, 0, 113, 54, 5, 42, 180, 0, 64]
abbrev dktX0_mark_3 : List UInt8 := dkwX0_mark_3 ++ dktX0_mark_4
def dkwX0_mark_2 : List UInt8 := [16, 20, 184, 0, 116, 154, 0, 9, 42, 4, 182, 0, 217, 172, 42, 180, 0, 64, 180, 0, 113, 16, 8]
abbrev dktX0_mark_2 : List UInt8 := dkwX0_mark_2 ++ dktX0_mark_3
def dkwX0_mark_1 : List UInt8 := [184, 0, 116, 153, 0, 28, 42, 29, 182, 0, 213, 153, 0, 20, 28, 29, 159, 0, 15, 21, 4, 16, 236]
abbrev dktX0_mark_1 : List UInt8 := dkwX0_mark_1 ++ dktX0_mark_2
def dkwX0_mark_0 : List UInt8 := [27, 155, 0, 54, 27, 16, 10, 108, 16, 6, 163, 0, 45, 28, 2, 42, 180, 0, 64, 180, 0, 120, 4, 100]
abbrev dktX0_mark_0 : List UInt8 := dkwX0_mark_0 ++ dktX0_mark_1
theorem dksX0_mark_0 : cX0_mark.data.toList.drop 0 = dktX0_mark_0 := by decide +kernel
theorem dksX0_mark_1 : cX0_mark.data.toList.drop 24 = dktX0_mark_1 := dk_seg dksX0_mark_0 24 rfl rfl
theorem dksX0_mark_2 : cX0_mark.data.toList.drop 47 = dktX0_mark_2 := dk_seg dksX0_mark_1 23 rfl rfl
theorem dksX0_mark_3 : cX0_mark.data.toList.drop 70 = dktX0_mark_3 := dk_seg dksX0_mark_2 23 rfl rfl
theorem dksX0_mark_4 : cX0_mark.data.toList.drop 92 = dktX0_mark_4 := dk_seg dksX0_mark_3 22 rfl rfl
theorem dksX0_mark_5 : cX0_mark.data.toList.drop 115 = dktX0_mark_5 := dk_seg dksX0_mark_4 23 rfl rfl
theorem dksX0_mark_6 : cX0_mark.data.toList.drop 137 = dktX0_mark_6 := dk_seg dksX0_mark_5 22 rfl rfl
theorem dksX0_mark_7 : cX0_mark.data.toList.drop 160 = dktX0_mark_7 := dk_seg dksX0_mark_6 23 rfl rfl
theorem dX0_mark_0 : decode cX0_mark 0 = .ok (.iload_n 1, 1) := dk_27 (dk_at dksX0_mark_0 0 rfl rfl)
theorem dX0_mark_1 : decode cX0_mark 1 = .ok (.ifCond .lt 54, 3) := dk_155 0 54 (dk_at dksX0_mark_0 1 rfl rfl)
theorem dX0_mark_4 : decode cX0_mark 4 = .ok (.iload_n 1, 1) := dk_27 (dk_at dksX0_mark_0 4 rfl rfl)
theorem dX0_mark_5 : decode cX0_mark 5 = .ok (.bipush 10, 2) := dk_16 10 (dk_at dksX0_mark_0 5 rfl rfl)
theorem dX0_mark_7 : decode cX0_mark 7 = .ok (.idiv, 1) := dk_108 (dk_at dksX0_mark_0 7 rfl rfl)
theorem dX0_mark_8 : decode cX0_mark 8 = .ok (.bipush 6, 2) := dk_16 6 (dk_at dksX0_mark_0 8 rfl rfl)
theorem dX0_mark_10 : decode cX0_mark 10 = .ok (.if_icmp .gt 45, 3) := dk_163 0 45 (dk_at dksX0_mark_0 10 rfl rfl)
theorem dX0_mark_13 : decode cX0_mark 13 = .ok (.iload_n 2, 1) := dk_28 (dk_at dksX0_mark_0 13 rfl rfl)
theorem dX0_mark_14 : decode cX0_mark 14 = .ok (.iconst (-1), 1) := dk_2 (dk_at dksX0_mark_0 14 rfl rfl)
theorem dX0_mark_15 : decode cX0_mark 15 = .ok (.aload_n 0, 1) := dk_42 (dk_at dksX0_mark_0 15 rfl rfl)
theorem dX0_mark_16 : decode cX0_mark 16 = .ok (.getfield 64, 3) := dk_180 0 64 (dk_at dksX0_mark_0 16 rfl rfl)
theorem dX0_mark_19 : decode cX0_mark 19 = .ok (.getfield 120, 3) := dk_180 0 120 (dk_at dksX0_mark_0 19 rfl rfl)
theorem dX0_mark_22 : decode cX0_mark 22 = .ok (.iconst 1, 1) := dk_4 (dk_at dksX0_mark_0 22 rfl rfl)
theorem dX0_mark_23 : decode cX0_mark 23 = .ok (.isub, 1) := dk_100 (dk_at dksX0_mark_0 23 rfl rfl)
theorem dX0_mark_24 : decode cX0_mark 24 = .ok (.invokestatic 116, 3) := dk_184 0 116 (dk_at dksX0_mark_1 0 rfl rfl)
theorem dX0_mark_27 : decode cX0_mark 27 = .ok (.ifCond .eq 28, 3) := dk_153 0 28 (dk_at dksX0_mark_1 3 rfl rfl)
theorem dX0_mark_30 : decode cX0_mark 30 = .ok (.aload_n 0, 1) := dk_42 (dk_at dksX0_mark_1 6 rfl rfl)
theorem dX0_mark_31 : decode cX0_mark 31 = .ok (.iload_n 3, 1) := dk_29 (dk_at dksX0_mark_1 7 rfl rfl)
theorem dX0_mark_32 : decode cX0_mark 32 = .ok (.invokevirtual 213, 3) := dk_182 0 213 (dk_at dksX0_mark_1 8 rfl rfl)
theorem dX0_mark_35 : decode cX0_mark 35 = .ok (.ifCond .eq 20, 3) := dk_153 0 20 (dk_at dksX0_mark_1 11 rfl rfl)
theorem dX0_mark_38 : decode cX0_mark 38 = .ok (.iload_n 2, 1) := dk_28 (dk_at dksX0_mark_1 14 rfl rfl)
theorem dX0_mark_39 : decode cX0_mark 39 = .ok (.iload_n 3, 1) := dk_29 (dk_at dksX0_mark_1 15 rfl rfl)
theorem dX0_mark_40 : decode cX0_mark 40 = .ok (.if_icmp .eq 15, 3) := dk_159 0 15 (dk_at dksX0_mark_1 16 rfl rfl)
theorem dX0_mark_43 : decode cX0_mark 43 = .ok (.iload 4, 2) := dk_21 4 (dk_at dksX0_mark_1 19 rfl rfl)
theorem dX0_mark_45 : decode cX0_mark 45 = .ok (.bipush (-20), 2) := dk_16 236 (dk_at dksX0_mark_1 21 rfl rfl)
theorem dX0_mark_47 : decode cX0_mark 47 = .ok (.bipush 20, 2) := dk_16 20 (dk_at dksX0_mark_2 0 rfl rfl)
theorem dX0_mark_49 : decode cX0_mark 49 = .ok (.invokestatic 116, 3) := dk_184 0 116 (dk_at dksX0_mark_2 2 rfl rfl)
theorem dX0_mark_52 : decode cX0_mark 52 = .ok (.ifCond .ne 9, 3) := dk_154 0 9 (dk_at dksX0_mark_2 5 rfl rfl)
theorem dX0_mark_55 : decode cX0_mark 55 = .ok (.aload_n 0, 1) := dk_42 (dk_at dksX0_mark_2 8 rfl rfl)
theorem dX0_mark_56 : decode cX0_mark 56 = .ok (.iconst 1, 1) := dk_4 (dk_at dksX0_mark_2 9 rfl rfl)
theorem dX0_mark_57 : decode cX0_mark 57 = .ok (.invokevirtual 217, 3) := dk_182 0 217 (dk_at dksX0_mark_2 10 rfl rfl)
theorem dX0_mark_60 : decode cX0_mark 60 = .ok (.ireturn, 1) := dk_172 (dk_at dksX0_mark_2 13 rfl rfl)
theorem dX0_mark_61 : decode cX0_mark 61 = .ok (.aload_n 0, 1) := dk_42 (dk_at dksX0_mark_2 14 rfl rfl)
theorem dX0_mark_62 : decode cX0_mark 62 = .ok (.getfield 64, 3) := dk_180 0 64 (dk_at dksX0_mark_2 15 rfl rfl)
theorem dX0_mark_65 : decode cX0_mark 65 = .ok (.getfield 113, 3) := dk_180 0 113 (dk_at dksX0_mark_2 18 rfl rfl)
theorem dX0_mark_68 : decode cX0_mark 68 = .ok (.bipush 8, 2) := dk_16 8 (dk_at dksX0_mark_2 21 rfl rfl)
theorem dX0_mark_70 : decode cX0_mark 70 = .ok (.if_icmp .ne 9, 3) := dk_160 0 9 (dk_at dksX0_mark_3 0 rfl rfl)
theorem dX0_mark_73 : decode cX0_mark 73 = .ok (.aload_n 0, 1) := dk_42 (dk_at dksX0_mark_3 3 rfl rfl)
theorem dX0_mark_74 : decode cX0_mark 74 = .ok (.iconst 4, 1) := dk_7 (dk_at dksX0_mark_3 4 rfl rfl)
theorem dX0_mark_75 : decode cX0_mark 75 = .ok (.invokevirtual 217, 3) := dk_182 0 217 (dk_at dksX0_mark_3 5 rfl rfl)
theorem dX0_mark_78 : decode cX0_mark 78 = .ok (.ireturn, 1) := dk_172 (dk_at dksX0_mark_3 8 rfl rfl)
theorem dX0_mark_79 : decode cX0_mark 79 = .ok (.aload_n 0, 1) := dk_42 (dk_at dksX0_mark_3 9 rfl rfl)
theorem dX0_mark_80 : decode cX0_mark 80 = .ok (.getfield 64, 3) := dk_180 0 64 (dk_at dksX0_mark_3 10 rfl rfl)
theorem dX0_mark_83 : decode cX0_mark 83 = .ok (.getfield 113, 3) := dk_180 0 113 (dk_at dksX0_mark_3 13 rfl rfl)
theorem dX0_mark_86 : decode cX0_mark 86 = .ok (.istore 5, 2) := dk_54 5 (dk_at dksX0_mark_3 16 rfl rfl)
theorem dX0_mark_88 : decode cX0_mark 88 = .ok (.aload_n 0, 1) := dk_42 (dk_at dksX0_mark_3 18 rfl rfl)
theorem dX0_mark_89 : decode cX0_mark 89 = .ok (.getfield 64, 3) := dk_180 0 64 (dk_at dksX0_mark_3 19 rfl rfl)
theorem dX0_mark_92 : decode cX0_mark 92 = .ok (.getfield 220, 3) := dk_180 0 220 (dk_at dksX0_mark_4 0 rfl rfl)
theorem dX0_mark_95 : decode cX0_mark 95 = .ok (.iload 5, 2) := dk_21 5 (dk_at dksX0_mark_4 3 rfl rfl)
theorem dX0_mark_97 : decode cX0_mark 97 = .ok (.aaload, 1) := dk_50 (dk_at dksX0_mark_4 5 rfl rfl)
theorem dX0_mark_98 : decode cX0_mark 98 = .ok (.iload_n 1, 1) := dk_27 (dk_at dksX0_mark_4 6 rfl rfl)
theorem dX0_mark_99 : decode cX0_mark 99 = .ok (.bipush 10, 2) := dk_16 10 (dk_at dksX0_mark_4 7 rfl rfl)
theorem dX0_mark_101 : decode cX0_mark 101 = .ok (.idiv, 1) := dk_108 (dk_at dksX0_mark_4 9 rfl rfl)
theorem dX0_mark_102 : decode cX0_mark 102 = .ok (.iload 5, 2) := dk_21 5 (dk_at dksX0_mark_4 10 rfl rfl)
theorem dX0_mark_104 : decode cX0_mark 104 = .ok (.iload_n 1, 1) := dk_27 (dk_at dksX0_mark_4 12 rfl rfl)
theorem dX0_mark_105 : decode cX0_mark 105 = .ok (.bipush 10, 2) := dk_16 10 (dk_at dksX0_mark_4 13 rfl rfl)
theorem dX0_mark_107 : decode cX0_mark 107 = .ok (.irem, 1) := dk_112 (dk_at dksX0_mark_4 15 rfl rfl)
theorem dX0_mark_108 : decode cX0_mark 108 = .ok (.invokestatic 223, 3) := dk_184 0 223 (dk_at dksX0_mark_4 16 rfl rfl)
theorem dX0_mark_111 : decode cX0_mark 111 = .ok (.putfield 227, 3) := dk_181 0 227 (dk_at dksX0_mark_4 19 rfl rfl)
theorem dX0_mark_114 : decode cX0_mark 114 = .ok (.aload_n 0, 1) := dk_42 (dk_at dksX0_mark_4 22 rfl rfl)
theorem dX0_mark_115 : decode cX0_mark 115 = .ok (.getfield 64, 3) := dk_180 0 64 (dk_at dksX0_mark_5 0 rfl rfl)
theorem dX0_mark_118 : decode cX0_mark 118 = .ok (.getfield 191, 3) := dk_180 0 191 (dk_at dksX0_mark_5 3 rfl rfl)
theorem dX0_mark_121 : decode cX0_mark 121 = .ok (.iload 5, 2) := dk_21 5 (dk_at dksX0_mark_5 6 rfl rfl)
theorem dX0_mark_123 : decode cX0_mark 123 = .ok (.iload_n 2, 1) := dk_28 (dk_at dksX0_mark_5 8 rfl rfl)
theorem dX0_mark_124 : decode cX0_mark 124 = .ok (.iastore, 1) := dk_79 (dk_at dksX0_mark_5 9 rfl rfl)
theorem dX0_mark_125 : decode cX0_mark 125 = .ok (.aload_n 0, 1) := dk_42 (dk_at dksX0_mark_5 10 rfl rfl)
theorem dX0_mark_126 : decode cX0_mark 126 = .ok (.getfield 64, 3) := dk_180 0 64 (dk_at dksX0_mark_5 11 rfl rfl)
theorem dX0_mark_129 : decode cX0_mark 129 = .ok (.getfield 194, 3) := dk_180 0 194 (dk_at dksX0_mark_5 14 rfl rfl)
theorem dX0_mark_132 : decode cX0_mark 132 = .ok (.iload 5, 2) := dk_21 5 (dk_at dksX0_mark_5 17 rfl rfl)
theorem dX0_mark_134 : decode cX0_mark 134 = .ok (.iload_n 3, 1) := dk_29 (dk_at dksX0_mark_5 19 rfl rfl)
theorem dX0_mark_135 : decode cX0_mark 135 = .ok (.iastore, 1) := dk_79 (dk_at dksX0_mark_5 20 rfl rfl)
theorem dX0_mark_136 : decode cX0_mark 136 = .ok (.aload_n 0, 1) := dk_42 (dk_at dksX0_mark_5 21 rfl rfl)
theorem dX0_mark_137 : decode cX0_mark 137 = .ok (.getfield 64, 3) := dk_180 0 64 (dk_at dksX0_mark_6 0 rfl rfl)
theorem dX0_mark_140 : decode cX0_mark 140 = .ok (.getfield 165, 3) := dk_180 0 165 (dk_at dksX0_mark_6 3 rfl rfl)
theorem dX0_mark_143 : decode cX0_mark 143 = .ok (.iload 5, 2) := dk_21 5 (dk_at dksX0_mark_6 6 rfl rfl)
theorem dX0_mark_145 : decode cX0_mark 145 = .ok (.iload 4, 2) := dk_21 4 (dk_at dksX0_mark_6 8 rfl rfl)
theorem dX0_mark_147 : decode cX0_mark 147 = .ok (.iastore, 1) := dk_79 (dk_at dksX0_mark_6 10 rfl rfl)
theorem dX0_mark_148 : decode cX0_mark 148 = .ok (.aload_n 0, 1) := dk_42 (dk_at dksX0_mark_6 11 rfl rfl)
theorem dX0_mark_149 : decode cX0_mark 149 = .ok (.getfield 64, 3) := dk_180 0 64 (dk_at dksX0_mark_6 12 rfl rfl)
theorem dX0_mark_152 : decode cX0_mark 152 = .ok (.getfield 188, 3) := dk_180 0 188 (dk_at dksX0_mark_6 15 rfl rfl)
theorem dX0_mark_155 : decode cX0_mark 155 = .ok (.iload 5, 2) := dk_21 5 (dk_at dksX0_mark_6 18 rfl rfl)
theorem dX0_mark_157 : decode cX0_mark 157 = .ok (.iconst 1, 1) := dk_4 (dk_at dksX0_mark_6 20 rfl rfl)
theorem dX0_mark_158 : decode cX0_mark 158 = .ok (.iastore, 1) := dk_79 (dk_at dksX0_mark_6 21 rfl rfl)
theorem dX0_mark_159 : decode cX0_mark 159 = .ok (.aload_n 0, 1) := dk_42 (dk_at dksX0_mark_6 22 rfl rfl)
theorem dX0_mark_160 : decode cX0_mark 160 = .ok (.getfield 64, 3) := dk_180 0 64 (dk_at dksX0_mark_7 0 rfl rfl)
theorem dX0_mark_163 : decode cX0_mark 163 = .ok (.dup, 1) := dk_89 (dk_at dksX0_mark_7 3 rfl rfl)
theorem dX0_mark_164 : decode cX0_mark 164 = .ok (.getfield 113, 3) := dk_180 0 113 (dk_at dksX0_mark_7 4 rfl rfl)
theorem dX0_mark_167 : decode cX0_mark 167 = .ok (.iconst 1, 1) := dk_4 (dk_at dksX0_mark_7 7 rfl rfl)
theorem dX0_mark_168 : decode cX0_mark 168 = .ok (.iadd, 1) := dk_96 (dk_at dksX0_mark_7 8 rfl rfl)
theorem dX0_mark_169 : decode cX0_mark 169 = .ok (.putfield 113, 3) := dk_181 0 113 (dk_at dksX0_mark_7 9 rfl rfl)
theorem dX0_mark_172 : decode cX0_mark 172 = .ok (.iload 5, 2) := dk_21 5 (dk_at dksX0_mark_7 12 rfl rfl)
theorem dX0_mark_174 : decode cX0_mark 174 = .ok (.ireturn, 1) := dk_172 (dk_at dksX0_mark_7 14 rfl rfl)
abbrev cX0_isIn : ByteArray := prog_1_method_1_code
def yX0_isIn : MethodName := ⟨RX0, "isIn", "(III)Z"⟩
def dkwX0_isIn_0 : List UInt8 := [26, 27, 161, 0, 12, 26, 28, 163, 0, 7, 4, 167, 0, 4, 3, 172]
abbrev dktX0_isIn_0 : List UInt8 := dkwX0_isIn_0 ++ []
theorem dksX0_isIn_0 : cX0_isIn.data.toList.drop 0 = dktX0_isIn_0 := by decide +kernel
theorem dX0_isIn_0 : decode cX0_isIn 0 = .ok (.iload_n 0, 1) := dk_26 (dk_at dksX0_isIn_0 0 rfl rfl)
theorem dX0_isIn_1 : decode cX0_isIn 1 = .ok (.iload_n 1, 1) := dk_27 (dk_at dksX0_isIn_0 1 rfl rfl)
theorem dX0_isIn_2 : decode cX0_isIn 2 = .ok (.if_icmp .lt 12, 3) := dk_161 0 12 (dk_at dksX0_isIn_0 2 rfl rfl)
theorem dX0_isIn_5 : decode cX0_isIn 5 = .ok (.iload_n 0, 1) := dk_26 (dk_at dksX0_isIn_0 5 rfl rfl)
theorem dX0_isIn_6 : decode cX0_isIn 6 = .ok (.iload_n 2, 1) := dk_28 (dk_at dksX0_isIn_0 6 rfl rfl)
theorem dX0_isIn_7 : decode cX0_isIn 7 = .ok (.if_icmp .gt 7, 3) := dk_163 0 7 (dk_at dksX0_isIn_0 7 rfl rfl)
theorem dX0_isIn_10 : decode cX0_isIn 10 = .ok (.iconst 1, 1) := dk_4 (dk_at dksX0_isIn_0 10 rfl rfl)
theorem dX0_isIn_11 : decode cX0_isIn 11 = .ok (.goto 4, 3) := dk_167 0 4 (dk_at dksX0_isIn_0 11 rfl rfl)
theorem dX0_isIn_14 : decode cX0_isIn 14 = .ok (.iconst 0, 1) := dk_3 (dk_at dksX0_isIn_0 14 rfl rfl)
theorem dX0_isIn_15 : decode cX0_isIn 15 = .ok (.ireturn, 1) := dk_172 (dk_at dksX0_isIn_0 15 rfl rfl)
abbrev cX0_isPicture : ByteArray := prog_1_method_10_code
def yX0_isPicture : MethodName := ⟨RX0, "isPicture", "(I)Z"⟩
def dkwX0_isPicture_0 : List UInt8 := [27, 3, 42, 180, 0, 64, 180, 0, 120, 4, 100, 184, 0, 116, 172]
abbrev dktX0_isPicture_0 : List UInt8 := dkwX0_isPicture_0 ++ []
theorem dksX0_isPicture_0 : cX0_isPicture.data.toList.drop 0 = dktX0_isPicture_0 := by decide +kernel
theorem dX0_isPicture_0 : decode cX0_isPicture 0 = .ok (.iload_n 1, 1) := dk_27 (dk_at dksX0_isPicture_0 0 rfl rfl)
theorem dX0_isPicture_1 : decode cX0_isPicture 1 = .ok (.iconst 0, 1) := dk_3 (dk_at dksX0_isPicture_0 1 rfl rfl)
theorem dX0_isPicture_2 : decode cX0_isPicture 2 = .ok (.aload_n 0, 1) := dk_42 (dk_at dksX0_isPicture_0 2 rfl rfl)
theorem dX0_isPicture_3 : decode cX0_isPicture 3 = .ok (.getfield 64, 3) := dk_180 0 64 (dk_at dksX0_isPicture_0 3 rfl rfl)
theorem dX0_isPicture_6 : decode cX0_isPicture 6 = .ok (.getfield 120, 3) := dk_180 0 120 (dk_at dksX0_isPicture_0 6 rfl rfl)
theorem dX0_isPicture_9 : decode cX0_isPicture 9 = .ok (.iconst 1, 1) := dk_4 (dk_at dksX0_isPicture_0 9 rfl rfl)
theorem dX0_isPicture_10 : decode cX0_isPicture 10 = .ok (.isub, 1) := dk_100 (dk_at dksX0_isPicture_0 10 rfl rfl)
theorem dX0_isPicture_11 : decode cX0_isPicture 11 = .ok (.invokestatic 116, 3) := dk_184 0 116 (dk_at dksX0_isPicture_0 11 rfl rfl)
theorem dX0_isPicture_14 : decode cX0_isPicture 14 = .ok (.ireturn, 1) := dk_172 (dk_at dksX0_isPicture_0 14 rfl rfl)
abbrev cX0_finds : ByteArray := prog_1_method_8_code
def yX0_finds : MethodName := ⟨RX0, "finds", "(I)I"⟩
def dkwX0_finds_0 : List UInt8 := [42, 180, 0, 81, 27, 92, 46, 4, 96, 79, 18, 112, 27, 100, 172]
abbrev dktX0_finds_0 : List UInt8 := dkwX0_finds_0 ++ []
theorem dksX0_finds_0 : cX0_finds.data.toList.drop 0 = dktX0_finds_0 := by decide +kernel
theorem dX0_finds_0 : decode cX0_finds 0 = .ok (.aload_n 0, 1) := dk_42 (dk_at dksX0_finds_0 0 rfl rfl)
theorem dX0_finds_1 : decode cX0_finds 1 = .ok (.getfield 81, 3) := dk_180 0 81 (dk_at dksX0_finds_0 1 rfl rfl)
theorem dX0_finds_4 : decode cX0_finds 4 = .ok (.iload_n 1, 1) := dk_27 (dk_at dksX0_finds_0 4 rfl rfl)
theorem dX0_finds_5 : decode cX0_finds 5 = .ok (.dup2, 1) := dk_92 (dk_at dksX0_finds_0 5 rfl rfl)
theorem dX0_finds_6 : decode cX0_finds 6 = .ok (.iaload, 1) := dk_46 (dk_at dksX0_finds_0 6 rfl rfl)
theorem dX0_finds_7 : decode cX0_finds 7 = .ok (.iconst 1, 1) := dk_4 (dk_at dksX0_finds_0 7 rfl rfl)
theorem dX0_finds_8 : decode cX0_finds 8 = .ok (.iadd, 1) := dk_96 (dk_at dksX0_finds_0 8 rfl rfl)
theorem dX0_finds_9 : decode cX0_finds 9 = .ok (.iastore, 1) := dk_79 (dk_at dksX0_finds_0 9 rfl rfl)
theorem dX0_finds_10 : decode cX0_finds 10 = .ok (.ldc 112, 2) := dk_18 112 (dk_at dksX0_finds_0 10 rfl rfl)
theorem dX0_finds_12 : decode cX0_finds 12 = .ok (.iload_n 1, 1) := dk_27 (dk_at dksX0_finds_0 12 rfl rfl)
theorem dX0_finds_13 : decode cX0_finds 13 = .ok (.isub, 1) := dk_100 (dk_at dksX0_finds_0 13 rfl rfl)
theorem dX0_finds_14 : decode cX0_finds 14 = .ok (.ireturn, 1) := dk_172 (dk_at dksX0_finds_0 14 rfl rfl)
abbrev cX0_made : ByteArray := prog_1_method_2_code
def yX0_made : MethodName := ⟨RX0, "made", "(III)LPictureBlock$Mark;"⟩
def dkwX0_made_4 : List UInt8 := [183, 0, 18, 176, 187, 0, 19, 89, 27, 28, 183, 0, 21, 176, 187, 0, 22, 89, 27, 28, 183, 0, 24, 176]
abbrev dktX0_made_4 : List UInt8 := dkwX0_made_4 ++ []
def dkwX0_made_3 : List UInt8 := [27, 28, 183, 0, 12, 176, 187, 0, 13, 89, 27, 28, 183, 0, 15, 176, 187, 0, 16, 89, 27, 28]
abbrev dktX0_made_3 : List UInt8 := dkwX0_made_3 ++ dktX0_made_4
def dkwX0_made_2 : List UInt8 := [187, 0, 1, 89, 27, 28, 183, 0, 3, 176, 187, 0, 7, 89, 27, 28, 183, 0, 9, 176, 187, 0, 10, 89]
abbrev dktX0_made_2 : List UInt8 := dkwX0_made_2 ++ dktX0_made_3
def dkwX0_made_1 : List UInt8 := [170, 0, 0, 0, 0, 0, 99, 0, 0, 0, 1, 0, 0, 0, 6, 0, 0, 0, 39, 0, 0, 0, 49, 0, 0, 0, 59, 0, 0, 0, 69, 0, 0, 0, 79, 0, 0, 0, 89]
abbrev dktX0_made_1 : List UInt8 := dkwX0_made_1 ++ dktX0_made_2
def dkwX0_made_0 : List UInt8 := [26]
abbrev dktX0_made_0 : List UInt8 := dkwX0_made_0 ++ dktX0_made_1
theorem dksX0_made_0 : cX0_made.data.toList.drop 0 = dktX0_made_0 := by decide +kernel
theorem dksX0_made_1 : cX0_made.data.toList.drop 1 = dktX0_made_1 := dk_seg dksX0_made_0 1 rfl rfl
theorem dksX0_made_2 : cX0_made.data.toList.drop 40 = dktX0_made_2 := dk_seg dksX0_made_1 39 rfl rfl
theorem dksX0_made_3 : cX0_made.data.toList.drop 64 = dktX0_made_3 := dk_seg dksX0_made_2 24 rfl rfl
theorem dksX0_made_4 : cX0_made.data.toList.drop 86 = dktX0_made_4 := dk_seg dksX0_made_3 22 rfl rfl
theorem dX0_made_0 : decode cX0_made 0 = .ok (.iload_n 0, 1) := dk_26 (dk_at dksX0_made_0 0 rfl rfl)
theorem dX0_made_1 : decode cX0_made 1 = .ok (.tableswitch 99 1 6 #[39, 49, 59, 69, 79, 89], 39) := by decide +kernel
theorem dX0_made_40 : decode cX0_made 40 = .ok (.new 1, 3) := dk_187 0 1 (dk_at dksX0_made_2 0 rfl rfl)
theorem dX0_made_43 : decode cX0_made 43 = .ok (.dup, 1) := dk_89 (dk_at dksX0_made_2 3 rfl rfl)
theorem dX0_made_44 : decode cX0_made 44 = .ok (.iload_n 1, 1) := dk_27 (dk_at dksX0_made_2 4 rfl rfl)
theorem dX0_made_45 : decode cX0_made 45 = .ok (.iload_n 2, 1) := dk_28 (dk_at dksX0_made_2 5 rfl rfl)
theorem dX0_made_46 : decode cX0_made 46 = .ok (.invokespecial 3, 3) := dk_183 0 3 (dk_at dksX0_made_2 6 rfl rfl)
theorem dX0_made_49 : decode cX0_made 49 = .ok (.areturn, 1) := dk_176 (dk_at dksX0_made_2 9 rfl rfl)
theorem dX0_made_50 : decode cX0_made 50 = .ok (.new 7, 3) := dk_187 0 7 (dk_at dksX0_made_2 10 rfl rfl)
theorem dX0_made_53 : decode cX0_made 53 = .ok (.dup, 1) := dk_89 (dk_at dksX0_made_2 13 rfl rfl)
theorem dX0_made_54 : decode cX0_made 54 = .ok (.iload_n 1, 1) := dk_27 (dk_at dksX0_made_2 14 rfl rfl)
theorem dX0_made_55 : decode cX0_made 55 = .ok (.iload_n 2, 1) := dk_28 (dk_at dksX0_made_2 15 rfl rfl)
theorem dX0_made_56 : decode cX0_made 56 = .ok (.invokespecial 9, 3) := dk_183 0 9 (dk_at dksX0_made_2 16 rfl rfl)
theorem dX0_made_59 : decode cX0_made 59 = .ok (.areturn, 1) := dk_176 (dk_at dksX0_made_2 19 rfl rfl)
theorem dX0_made_60 : decode cX0_made 60 = .ok (.new 10, 3) := dk_187 0 10 (dk_at dksX0_made_2 20 rfl rfl)
theorem dX0_made_63 : decode cX0_made 63 = .ok (.dup, 1) := dk_89 (dk_at dksX0_made_2 23 rfl rfl)
theorem dX0_made_64 : decode cX0_made 64 = .ok (.iload_n 1, 1) := dk_27 (dk_at dksX0_made_3 0 rfl rfl)
theorem dX0_made_65 : decode cX0_made 65 = .ok (.iload_n 2, 1) := dk_28 (dk_at dksX0_made_3 1 rfl rfl)
theorem dX0_made_66 : decode cX0_made 66 = .ok (.invokespecial 12, 3) := dk_183 0 12 (dk_at dksX0_made_3 2 rfl rfl)
theorem dX0_made_69 : decode cX0_made 69 = .ok (.areturn, 1) := dk_176 (dk_at dksX0_made_3 5 rfl rfl)
theorem dX0_made_70 : decode cX0_made 70 = .ok (.new 13, 3) := dk_187 0 13 (dk_at dksX0_made_3 6 rfl rfl)
theorem dX0_made_73 : decode cX0_made 73 = .ok (.dup, 1) := dk_89 (dk_at dksX0_made_3 9 rfl rfl)
theorem dX0_made_74 : decode cX0_made 74 = .ok (.iload_n 1, 1) := dk_27 (dk_at dksX0_made_3 10 rfl rfl)
theorem dX0_made_75 : decode cX0_made 75 = .ok (.iload_n 2, 1) := dk_28 (dk_at dksX0_made_3 11 rfl rfl)
theorem dX0_made_76 : decode cX0_made 76 = .ok (.invokespecial 15, 3) := dk_183 0 15 (dk_at dksX0_made_3 12 rfl rfl)
theorem dX0_made_79 : decode cX0_made 79 = .ok (.areturn, 1) := dk_176 (dk_at dksX0_made_3 15 rfl rfl)
theorem dX0_made_80 : decode cX0_made 80 = .ok (.new 16, 3) := dk_187 0 16 (dk_at dksX0_made_3 16 rfl rfl)
theorem dX0_made_83 : decode cX0_made 83 = .ok (.dup, 1) := dk_89 (dk_at dksX0_made_3 19 rfl rfl)
theorem dX0_made_84 : decode cX0_made 84 = .ok (.iload_n 1, 1) := dk_27 (dk_at dksX0_made_3 20 rfl rfl)
theorem dX0_made_85 : decode cX0_made 85 = .ok (.iload_n 2, 1) := dk_28 (dk_at dksX0_made_3 21 rfl rfl)
theorem dX0_made_86 : decode cX0_made 86 = .ok (.invokespecial 18, 3) := dk_183 0 18 (dk_at dksX0_made_4 0 rfl rfl)
theorem dX0_made_89 : decode cX0_made 89 = .ok (.areturn, 1) := dk_176 (dk_at dksX0_made_4 3 rfl rfl)
theorem dX0_made_90 : decode cX0_made 90 = .ok (.new 19, 3) := dk_187 0 19 (dk_at dksX0_made_4 4 rfl rfl)
theorem dX0_made_93 : decode cX0_made 93 = .ok (.dup, 1) := dk_89 (dk_at dksX0_made_4 7 rfl rfl)
theorem dX0_made_94 : decode cX0_made 94 = .ok (.iload_n 1, 1) := dk_27 (dk_at dksX0_made_4 8 rfl rfl)
theorem dX0_made_95 : decode cX0_made 95 = .ok (.iload_n 2, 1) := dk_28 (dk_at dksX0_made_4 9 rfl rfl)
theorem dX0_made_96 : decode cX0_made 96 = .ok (.invokespecial 21, 3) := dk_183 0 21 (dk_at dksX0_made_4 10 rfl rfl)
theorem dX0_made_99 : decode cX0_made 99 = .ok (.areturn, 1) := dk_176 (dk_at dksX0_made_4 13 rfl rfl)
theorem dX0_made_100 : decode cX0_made 100 = .ok (.new 22, 3) := dk_187 0 22 (dk_at dksX0_made_4 14 rfl rfl)
theorem dX0_made_103 : decode cX0_made 103 = .ok (.dup, 1) := dk_89 (dk_at dksX0_made_4 17 rfl rfl)
theorem dX0_made_104 : decode cX0_made 104 = .ok (.iload_n 1, 1) := dk_27 (dk_at dksX0_made_4 18 rfl rfl)
theorem dX0_made_105 : decode cX0_made 105 = .ok (.iload_n 2, 1) := dk_28 (dk_at dksX0_made_4 19 rfl rfl)
theorem dX0_made_106 : decode cX0_made 106 = .ok (.invokespecial 24, 3) := dk_183 0 24 (dk_at dksX0_made_4 20 rfl rfl)
theorem dX0_made_109 : decode cX0_made 109 = .ok (.areturn, 1) := dk_176 (dk_at dksX0_made_4 23 rfl rfl)
abbrev cX0_markIs : ByteArray := prog_1_method_23_code
def yX0_markIs : MethodName := ⟨RX0, "markIs", "(II)I"⟩
def dkwX0_markIs_6 : List UInt8 := [182, 0, 185, 172]
abbrev dktX0_markIs_6 : List UInt8 := dkwX0_markIs_6 ++ []
def dkwX0_markIs_5 : List UInt8 := [180, 0, 165, 27, 46, 172, 42, 180, 0, 64, 180, 0, 188, 27, 46, 172, 42, 27, 182, 0, 182, 172, 42, 27]
abbrev dktX0_markIs_5 : List UInt8 := dkwX0_markIs_5 ++ dktX0_markIs_6
def dkwX0_markIs_4 : List UInt8 := [42, 180, 0, 64, 180, 0, 191, 27, 46, 172, 42, 180, 0, 64, 180, 0, 194, 27, 46, 172, 42, 180, 0, 64]
abbrev dktX0_markIs_4 : List UInt8 := dkwX0_markIs_4 ++ dktX0_markIs_5
def dkwX0_markIs_3 : List UInt8 := [42, 180, 0, 64, 27, 182, 0, 143, 182, 0, 233, 172, 42, 180, 0, 64, 27, 182, 0, 143, 180, 0, 236, 172]
abbrev dktX0_markIs_3 : List UInt8 := dkwX0_markIs_3 ++ dktX0_markIs_4
def dkwX0_markIs_2 : List UInt8 := [170, 0, 0, 0, 0, 0, 113, 0, 0, 0, 0, 0, 0, 0, 6, 0, 0, 0, 43, 0, 0, 0, 55, 0, 0, 0, 67, 0, 0, 0, 77, 0, 0, 0, 87, 0, 0, 0, 97, 0, 0, 0, 107]
abbrev dktX0_markIs_2 : List UInt8 := dkwX0_markIs_2 ++ dktX0_markIs_3
def dkwX0_markIs_1 : List UInt8 := [28]
abbrev dktX0_markIs_1 : List UInt8 := dkwX0_markIs_1 ++ dktX0_markIs_2
def dkwX0_markIs_0 : List UInt8 := [42, 27, 182, 0, 230, 153, 0, 13, 28, 3, 16, 7, 184, 0, 116, 154, 0, 9, 42, 4, 182, 0, 217, 172]
abbrev dktX0_markIs_0 : List UInt8 := dkwX0_markIs_0 ++ dktX0_markIs_1
theorem dksX0_markIs_0 : cX0_markIs.data.toList.drop 0 = dktX0_markIs_0 := by decide +kernel
theorem dksX0_markIs_1 : cX0_markIs.data.toList.drop 24 = dktX0_markIs_1 := dk_seg dksX0_markIs_0 24 rfl rfl
theorem dksX0_markIs_2 : cX0_markIs.data.toList.drop 25 = dktX0_markIs_2 := dk_seg dksX0_markIs_1 1 rfl rfl
theorem dksX0_markIs_3 : cX0_markIs.data.toList.drop 68 = dktX0_markIs_3 := dk_seg dksX0_markIs_2 43 rfl rfl
theorem dksX0_markIs_4 : cX0_markIs.data.toList.drop 92 = dktX0_markIs_4 := dk_seg dksX0_markIs_3 24 rfl rfl
theorem dksX0_markIs_5 : cX0_markIs.data.toList.drop 116 = dktX0_markIs_5 := dk_seg dksX0_markIs_4 24 rfl rfl
theorem dksX0_markIs_6 : cX0_markIs.data.toList.drop 140 = dktX0_markIs_6 := dk_seg dksX0_markIs_5 24 rfl rfl
theorem dX0_markIs_0 : decode cX0_markIs 0 = .ok (.aload_n 0, 1) := dk_42 (dk_at dksX0_markIs_0 0 rfl rfl)
theorem dX0_markIs_1 : decode cX0_markIs 1 = .ok (.iload_n 1, 1) := dk_27 (dk_at dksX0_markIs_0 1 rfl rfl)
theorem dX0_markIs_2 : decode cX0_markIs 2 = .ok (.invokevirtual 230, 3) := dk_182 0 230 (dk_at dksX0_markIs_0 2 rfl rfl)
theorem dX0_markIs_5 : decode cX0_markIs 5 = .ok (.ifCond .eq 13, 3) := dk_153 0 13 (dk_at dksX0_markIs_0 5 rfl rfl)
theorem dX0_markIs_8 : decode cX0_markIs 8 = .ok (.iload_n 2, 1) := dk_28 (dk_at dksX0_markIs_0 8 rfl rfl)
theorem dX0_markIs_9 : decode cX0_markIs 9 = .ok (.iconst 0, 1) := dk_3 (dk_at dksX0_markIs_0 9 rfl rfl)
theorem dX0_markIs_10 : decode cX0_markIs 10 = .ok (.bipush 7, 2) := dk_16 7 (dk_at dksX0_markIs_0 10 rfl rfl)
theorem dX0_markIs_12 : decode cX0_markIs 12 = .ok (.invokestatic 116, 3) := dk_184 0 116 (dk_at dksX0_markIs_0 12 rfl rfl)
theorem dX0_markIs_15 : decode cX0_markIs 15 = .ok (.ifCond .ne 9, 3) := dk_154 0 9 (dk_at dksX0_markIs_0 15 rfl rfl)
theorem dX0_markIs_18 : decode cX0_markIs 18 = .ok (.aload_n 0, 1) := dk_42 (dk_at dksX0_markIs_0 18 rfl rfl)
theorem dX0_markIs_19 : decode cX0_markIs 19 = .ok (.iconst 1, 1) := dk_4 (dk_at dksX0_markIs_0 19 rfl rfl)
theorem dX0_markIs_20 : decode cX0_markIs 20 = .ok (.invokevirtual 217, 3) := dk_182 0 217 (dk_at dksX0_markIs_0 20 rfl rfl)
theorem dX0_markIs_23 : decode cX0_markIs 23 = .ok (.ireturn, 1) := dk_172 (dk_at dksX0_markIs_0 23 rfl rfl)
theorem dX0_markIs_24 : decode cX0_markIs 24 = .ok (.iload_n 2, 1) := dk_28 (dk_at dksX0_markIs_1 0 rfl rfl)
theorem dX0_markIs_25 : decode cX0_markIs 25 = .ok (.tableswitch 113 0 6 #[43, 55, 67, 77, 87, 97, 107], 43) := by decide +kernel
theorem dX0_markIs_68 : decode cX0_markIs 68 = .ok (.aload_n 0, 1) := dk_42 (dk_at dksX0_markIs_3 0 rfl rfl)
theorem dX0_markIs_69 : decode cX0_markIs 69 = .ok (.getfield 64, 3) := dk_180 0 64 (dk_at dksX0_markIs_3 1 rfl rfl)
theorem dX0_markIs_72 : decode cX0_markIs 72 = .ok (.iload_n 1, 1) := dk_27 (dk_at dksX0_markIs_3 4 rfl rfl)
theorem dX0_markIs_73 : decode cX0_markIs 73 = .ok (.invokevirtual 143, 3) := dk_182 0 143 (dk_at dksX0_markIs_3 5 rfl rfl)
theorem dX0_markIs_76 : decode cX0_markIs 76 = .ok (.invokevirtual 233, 3) := dk_182 0 233 (dk_at dksX0_markIs_3 8 rfl rfl)
theorem dX0_markIs_79 : decode cX0_markIs 79 = .ok (.ireturn, 1) := dk_172 (dk_at dksX0_markIs_3 11 rfl rfl)
theorem dX0_markIs_80 : decode cX0_markIs 80 = .ok (.aload_n 0, 1) := dk_42 (dk_at dksX0_markIs_3 12 rfl rfl)
theorem dX0_markIs_81 : decode cX0_markIs 81 = .ok (.getfield 64, 3) := dk_180 0 64 (dk_at dksX0_markIs_3 13 rfl rfl)
theorem dX0_markIs_84 : decode cX0_markIs 84 = .ok (.iload_n 1, 1) := dk_27 (dk_at dksX0_markIs_3 16 rfl rfl)
theorem dX0_markIs_85 : decode cX0_markIs 85 = .ok (.invokevirtual 143, 3) := dk_182 0 143 (dk_at dksX0_markIs_3 17 rfl rfl)
theorem dX0_markIs_88 : decode cX0_markIs 88 = .ok (.getfield 236, 3) := dk_180 0 236 (dk_at dksX0_markIs_3 20 rfl rfl)
theorem dX0_markIs_91 : decode cX0_markIs 91 = .ok (.ireturn, 1) := dk_172 (dk_at dksX0_markIs_3 23 rfl rfl)
theorem dX0_markIs_92 : decode cX0_markIs 92 = .ok (.aload_n 0, 1) := dk_42 (dk_at dksX0_markIs_4 0 rfl rfl)
theorem dX0_markIs_93 : decode cX0_markIs 93 = .ok (.getfield 64, 3) := dk_180 0 64 (dk_at dksX0_markIs_4 1 rfl rfl)
theorem dX0_markIs_96 : decode cX0_markIs 96 = .ok (.getfield 191, 3) := dk_180 0 191 (dk_at dksX0_markIs_4 4 rfl rfl)
theorem dX0_markIs_99 : decode cX0_markIs 99 = .ok (.iload_n 1, 1) := dk_27 (dk_at dksX0_markIs_4 7 rfl rfl)
theorem dX0_markIs_100 : decode cX0_markIs 100 = .ok (.iaload, 1) := dk_46 (dk_at dksX0_markIs_4 8 rfl rfl)
theorem dX0_markIs_101 : decode cX0_markIs 101 = .ok (.ireturn, 1) := dk_172 (dk_at dksX0_markIs_4 9 rfl rfl)
theorem dX0_markIs_102 : decode cX0_markIs 102 = .ok (.aload_n 0, 1) := dk_42 (dk_at dksX0_markIs_4 10 rfl rfl)
theorem dX0_markIs_103 : decode cX0_markIs 103 = .ok (.getfield 64, 3) := dk_180 0 64 (dk_at dksX0_markIs_4 11 rfl rfl)
theorem dX0_markIs_106 : decode cX0_markIs 106 = .ok (.getfield 194, 3) := dk_180 0 194 (dk_at dksX0_markIs_4 14 rfl rfl)
theorem dX0_markIs_109 : decode cX0_markIs 109 = .ok (.iload_n 1, 1) := dk_27 (dk_at dksX0_markIs_4 17 rfl rfl)
theorem dX0_markIs_110 : decode cX0_markIs 110 = .ok (.iaload, 1) := dk_46 (dk_at dksX0_markIs_4 18 rfl rfl)
theorem dX0_markIs_111 : decode cX0_markIs 111 = .ok (.ireturn, 1) := dk_172 (dk_at dksX0_markIs_4 19 rfl rfl)
theorem dX0_markIs_112 : decode cX0_markIs 112 = .ok (.aload_n 0, 1) := dk_42 (dk_at dksX0_markIs_4 20 rfl rfl)
theorem dX0_markIs_113 : decode cX0_markIs 113 = .ok (.getfield 64, 3) := dk_180 0 64 (dk_at dksX0_markIs_4 21 rfl rfl)
theorem dX0_markIs_116 : decode cX0_markIs 116 = .ok (.getfield 165, 3) := dk_180 0 165 (dk_at dksX0_markIs_5 0 rfl rfl)
theorem dX0_markIs_119 : decode cX0_markIs 119 = .ok (.iload_n 1, 1) := dk_27 (dk_at dksX0_markIs_5 3 rfl rfl)
theorem dX0_markIs_120 : decode cX0_markIs 120 = .ok (.iaload, 1) := dk_46 (dk_at dksX0_markIs_5 4 rfl rfl)
theorem dX0_markIs_121 : decode cX0_markIs 121 = .ok (.ireturn, 1) := dk_172 (dk_at dksX0_markIs_5 5 rfl rfl)
theorem dX0_markIs_122 : decode cX0_markIs 122 = .ok (.aload_n 0, 1) := dk_42 (dk_at dksX0_markIs_5 6 rfl rfl)
theorem dX0_markIs_123 : decode cX0_markIs 123 = .ok (.getfield 64, 3) := dk_180 0 64 (dk_at dksX0_markIs_5 7 rfl rfl)
theorem dX0_markIs_126 : decode cX0_markIs 126 = .ok (.getfield 188, 3) := dk_180 0 188 (dk_at dksX0_markIs_5 10 rfl rfl)
theorem dX0_markIs_129 : decode cX0_markIs 129 = .ok (.iload_n 1, 1) := dk_27 (dk_at dksX0_markIs_5 13 rfl rfl)
theorem dX0_markIs_130 : decode cX0_markIs 130 = .ok (.iaload, 1) := dk_46 (dk_at dksX0_markIs_5 14 rfl rfl)
theorem dX0_markIs_131 : decode cX0_markIs 131 = .ok (.ireturn, 1) := dk_172 (dk_at dksX0_markIs_5 15 rfl rfl)
theorem dX0_markIs_132 : decode cX0_markIs 132 = .ok (.aload_n 0, 1) := dk_42 (dk_at dksX0_markIs_5 16 rfl rfl)
theorem dX0_markIs_133 : decode cX0_markIs 133 = .ok (.iload_n 1, 1) := dk_27 (dk_at dksX0_markIs_5 17 rfl rfl)
theorem dX0_markIs_134 : decode cX0_markIs 134 = .ok (.invokevirtual 182, 3) := dk_182 0 182 (dk_at dksX0_markIs_5 18 rfl rfl)
theorem dX0_markIs_137 : decode cX0_markIs 137 = .ok (.ireturn, 1) := dk_172 (dk_at dksX0_markIs_5 21 rfl rfl)
theorem dX0_markIs_138 : decode cX0_markIs 138 = .ok (.aload_n 0, 1) := dk_42 (dk_at dksX0_markIs_5 22 rfl rfl)
theorem dX0_markIs_139 : decode cX0_markIs 139 = .ok (.iload_n 1, 1) := dk_27 (dk_at dksX0_markIs_5 23 rfl rfl)
theorem dX0_markIs_140 : decode cX0_markIs 140 = .ok (.invokevirtual 185, 3) := dk_182 0 185 (dk_at dksX0_markIs_6 0 rfl rfl)
theorem dX0_markIs_143 : decode cX0_markIs 143 = .ok (.ireturn, 1) := dk_172 (dk_at dksX0_markIs_6 3 rfl rfl)
abbrev cX0_isMark : ByteArray := prog_1_method_9_code
def yX0_isMark : MethodName := ⟨RX0, "isMark", "(I)Z"⟩
def dkwX0_isMark_0 : List UInt8 := [27, 3, 42, 180, 0, 64, 180, 0, 113, 4, 100, 184, 0, 116, 172]
abbrev dktX0_isMark_0 : List UInt8 := dkwX0_isMark_0 ++ []
theorem dksX0_isMark_0 : cX0_isMark.data.toList.drop 0 = dktX0_isMark_0 := by decide +kernel
theorem dX0_isMark_0 : decode cX0_isMark 0 = .ok (.iload_n 1, 1) := dk_27 (dk_at dksX0_isMark_0 0 rfl rfl)
theorem dX0_isMark_1 : decode cX0_isMark 1 = .ok (.iconst 0, 1) := dk_3 (dk_at dksX0_isMark_0 1 rfl rfl)
theorem dX0_isMark_2 : decode cX0_isMark 2 = .ok (.aload_n 0, 1) := dk_42 (dk_at dksX0_isMark_0 2 rfl rfl)
theorem dX0_isMark_3 : decode cX0_isMark 3 = .ok (.getfield 64, 3) := dk_180 0 64 (dk_at dksX0_isMark_0 3 rfl rfl)
theorem dX0_isMark_6 : decode cX0_isMark 6 = .ok (.getfield 113, 3) := dk_180 0 113 (dk_at dksX0_isMark_0 6 rfl rfl)
theorem dX0_isMark_9 : decode cX0_isMark 9 = .ok (.iconst 1, 1) := dk_4 (dk_at dksX0_isMark_0 9 rfl rfl)
theorem dX0_isMark_10 : decode cX0_isMark 10 = .ok (.isub, 1) := dk_100 (dk_at dksX0_isMark_0 10 rfl rfl)
theorem dX0_isMark_11 : decode cX0_isMark 11 = .ok (.invokestatic 116, 3) := dk_184 0 116 (dk_at dksX0_isMark_0 11 rfl rfl)
theorem dX0_isMark_14 : decode cX0_isMark 14 = .ok (.ireturn, 1) := dk_172 (dk_at dksX0_isMark_0 14 rfl rfl)
abbrev cX0_weightOf : ByteArray := prog_1_method_13_code
def yX0_weightOf : MethodName := ⟨RX0, "weightOf", "(I)I"⟩
def dkwX0_weightOf_1 : List UInt8 := [180, 0, 64, 27, 182, 0, 153, 42, 180, 0, 64, 180, 0, 156, 16, 8, 112, 182, 0, 159, 172]
abbrev dktX0_weightOf_1 : List UInt8 := dkwX0_weightOf_1 ++ []
def dkwX0_weightOf_0 : List UInt8 := [42, 180, 0, 64, 27, 182, 0, 143, 77, 42, 3, 44, 42, 180, 0, 64, 185, 0, 147, 2, 0, 42]
abbrev dktX0_weightOf_0 : List UInt8 := dkwX0_weightOf_0 ++ dktX0_weightOf_1
theorem dksX0_weightOf_0 : cX0_weightOf.data.toList.drop 0 = dktX0_weightOf_0 := by decide +kernel
theorem dksX0_weightOf_1 : cX0_weightOf.data.toList.drop 22 = dktX0_weightOf_1 := dk_seg dksX0_weightOf_0 22 rfl rfl
theorem dX0_weightOf_0 : decode cX0_weightOf 0 = .ok (.aload_n 0, 1) := dk_42 (dk_at dksX0_weightOf_0 0 rfl rfl)
theorem dX0_weightOf_1 : decode cX0_weightOf 1 = .ok (.getfield 64, 3) := dk_180 0 64 (dk_at dksX0_weightOf_0 1 rfl rfl)
theorem dX0_weightOf_4 : decode cX0_weightOf 4 = .ok (.iload_n 1, 1) := dk_27 (dk_at dksX0_weightOf_0 4 rfl rfl)
theorem dX0_weightOf_5 : decode cX0_weightOf 5 = .ok (.invokevirtual 143, 3) := dk_182 0 143 (dk_at dksX0_weightOf_0 5 rfl rfl)
theorem dX0_weightOf_8 : decode cX0_weightOf 8 = .ok (.astore_n 2, 1) := dk_77 (dk_at dksX0_weightOf_0 8 rfl rfl)
theorem dX0_weightOf_9 : decode cX0_weightOf 9 = .ok (.aload_n 0, 1) := dk_42 (dk_at dksX0_weightOf_0 9 rfl rfl)
theorem dX0_weightOf_10 : decode cX0_weightOf 10 = .ok (.iconst 0, 1) := dk_3 (dk_at dksX0_weightOf_0 10 rfl rfl)
theorem dX0_weightOf_11 : decode cX0_weightOf 11 = .ok (.aload_n 2, 1) := dk_44 (dk_at dksX0_weightOf_0 11 rfl rfl)
theorem dX0_weightOf_12 : decode cX0_weightOf 12 = .ok (.aload_n 0, 1) := dk_42 (dk_at dksX0_weightOf_0 12 rfl rfl)
theorem dX0_weightOf_13 : decode cX0_weightOf 13 = .ok (.getfield 64, 3) := dk_180 0 64 (dk_at dksX0_weightOf_0 13 rfl rfl)
theorem dX0_weightOf_16 : decode cX0_weightOf 16 = .ok (.invokeinterface 147 2, 5) := by decide +kernel
theorem dX0_weightOf_21 : decode cX0_weightOf 21 = .ok (.aload_n 0, 1) := dk_42 (dk_at dksX0_weightOf_0 21 rfl rfl)
theorem dX0_weightOf_22 : decode cX0_weightOf 22 = .ok (.getfield 64, 3) := dk_180 0 64 (dk_at dksX0_weightOf_1 0 rfl rfl)
theorem dX0_weightOf_25 : decode cX0_weightOf 25 = .ok (.iload_n 1, 1) := dk_27 (dk_at dksX0_weightOf_1 3 rfl rfl)
theorem dX0_weightOf_26 : decode cX0_weightOf 26 = .ok (.invokevirtual 153, 3) := dk_182 0 153 (dk_at dksX0_weightOf_1 4 rfl rfl)
theorem dX0_weightOf_29 : decode cX0_weightOf 29 = .ok (.aload_n 0, 1) := dk_42 (dk_at dksX0_weightOf_1 7 rfl rfl)
theorem dX0_weightOf_30 : decode cX0_weightOf 30 = .ok (.getfield 64, 3) := dk_180 0 64 (dk_at dksX0_weightOf_1 8 rfl rfl)
theorem dX0_weightOf_33 : decode cX0_weightOf 33 = .ok (.getfield 156, 3) := dk_180 0 156 (dk_at dksX0_weightOf_1 11 rfl rfl)
theorem dX0_weightOf_36 : decode cX0_weightOf 36 = .ok (.bipush 8, 2) := dk_16 8 (dk_at dksX0_weightOf_1 14 rfl rfl)
theorem dX0_weightOf_38 : decode cX0_weightOf 38 = .ok (.irem, 1) := dk_112 (dk_at dksX0_weightOf_1 16 rfl rfl)
theorem dX0_weightOf_39 : decode cX0_weightOf 39 = .ok (.invokevirtual 159, 3) := dk_182 0 159 (dk_at dksX0_weightOf_1 17 rfl rfl)
theorem dX0_weightOf_42 : decode cX0_weightOf 42 = .ok (.ireturn, 1) := dk_172 (dk_at dksX0_weightOf_1 20 rfl rfl)
abbrev cX0_given : ByteArray := prog_1_method_12_code
def yX0_given : MethodName := ⟨RX0, "given", "(IIII)I"⟩
def dkwX0_given_3 : List UInt8 := [16, 30, 184, 0, 140, 172]
abbrev dktX0_given_3 : List UInt8 := dkwX0_given_3 ++ []
def dkwX0_given_2 : List UInt8 := [182, 0, 136, 54, 5, 27, 154, 0, 13, 21, 5, 4, 7, 184, 0, 140, 167, 0, 12, 21, 5, 16, 226]
abbrev dktX0_given_2 : List UInt8 := dkwX0_given_2 ++ dktX0_given_3
def dkwX0_given_1 : List UInt8 := [180, 0, 49, 4, 29, 79, 42, 180, 0, 49, 5, 21, 4, 79, 42, 42, 180, 0, 64, 180, 0, 132, 27, 50]
abbrev dktX0_given_1 : List UInt8 := dkwX0_given_1 ++ dktX0_given_2
def dkwX0_given_0 : List UInt8 := [28, 54, 5, 42, 180, 0, 64, 180, 0, 132, 27, 50, 198, 0, 40, 42, 180, 0, 49, 3, 28, 79, 42]
abbrev dktX0_given_0 : List UInt8 := dkwX0_given_0 ++ dktX0_given_1
theorem dksX0_given_0 : cX0_given.data.toList.drop 0 = dktX0_given_0 := by decide +kernel
theorem dksX0_given_1 : cX0_given.data.toList.drop 23 = dktX0_given_1 := dk_seg dksX0_given_0 23 rfl rfl
theorem dksX0_given_2 : cX0_given.data.toList.drop 47 = dktX0_given_2 := dk_seg dksX0_given_1 24 rfl rfl
theorem dksX0_given_3 : cX0_given.data.toList.drop 70 = dktX0_given_3 := dk_seg dksX0_given_2 23 rfl rfl
theorem dX0_given_0 : decode cX0_given 0 = .ok (.iload_n 2, 1) := dk_28 (dk_at dksX0_given_0 0 rfl rfl)
theorem dX0_given_1 : decode cX0_given 1 = .ok (.istore 5, 2) := dk_54 5 (dk_at dksX0_given_0 1 rfl rfl)
theorem dX0_given_3 : decode cX0_given 3 = .ok (.aload_n 0, 1) := dk_42 (dk_at dksX0_given_0 3 rfl rfl)
theorem dX0_given_4 : decode cX0_given 4 = .ok (.getfield 64, 3) := dk_180 0 64 (dk_at dksX0_given_0 4 rfl rfl)
theorem dX0_given_7 : decode cX0_given 7 = .ok (.getfield 132, 3) := dk_180 0 132 (dk_at dksX0_given_0 7 rfl rfl)
theorem dX0_given_10 : decode cX0_given 10 = .ok (.iload_n 1, 1) := dk_27 (dk_at dksX0_given_0 10 rfl rfl)
theorem dX0_given_11 : decode cX0_given 11 = .ok (.aaload, 1) := dk_50 (dk_at dksX0_given_0 11 rfl rfl)
theorem dX0_given_12 : decode cX0_given 12 = .ok (.ifnull 40, 3) := dk_198 0 40 (dk_at dksX0_given_0 12 rfl rfl)
theorem dX0_given_15 : decode cX0_given 15 = .ok (.aload_n 0, 1) := dk_42 (dk_at dksX0_given_0 15 rfl rfl)
theorem dX0_given_16 : decode cX0_given 16 = .ok (.getfield 49, 3) := dk_180 0 49 (dk_at dksX0_given_0 16 rfl rfl)
theorem dX0_given_19 : decode cX0_given 19 = .ok (.iconst 0, 1) := dk_3 (dk_at dksX0_given_0 19 rfl rfl)
theorem dX0_given_20 : decode cX0_given 20 = .ok (.iload_n 2, 1) := dk_28 (dk_at dksX0_given_0 20 rfl rfl)
theorem dX0_given_21 : decode cX0_given 21 = .ok (.iastore, 1) := dk_79 (dk_at dksX0_given_0 21 rfl rfl)
theorem dX0_given_22 : decode cX0_given 22 = .ok (.aload_n 0, 1) := dk_42 (dk_at dksX0_given_0 22 rfl rfl)
theorem dX0_given_23 : decode cX0_given 23 = .ok (.getfield 49, 3) := dk_180 0 49 (dk_at dksX0_given_1 0 rfl rfl)
theorem dX0_given_26 : decode cX0_given 26 = .ok (.iconst 1, 1) := dk_4 (dk_at dksX0_given_1 3 rfl rfl)
theorem dX0_given_27 : decode cX0_given 27 = .ok (.iload_n 3, 1) := dk_29 (dk_at dksX0_given_1 4 rfl rfl)
theorem dX0_given_28 : decode cX0_given 28 = .ok (.iastore, 1) := dk_79 (dk_at dksX0_given_1 5 rfl rfl)
theorem dX0_given_29 : decode cX0_given 29 = .ok (.aload_n 0, 1) := dk_42 (dk_at dksX0_given_1 6 rfl rfl)
theorem dX0_given_30 : decode cX0_given 30 = .ok (.getfield 49, 3) := dk_180 0 49 (dk_at dksX0_given_1 7 rfl rfl)
theorem dX0_given_33 : decode cX0_given 33 = .ok (.iconst 2, 1) := dk_5 (dk_at dksX0_given_1 10 rfl rfl)
theorem dX0_given_34 : decode cX0_given 34 = .ok (.iload 4, 2) := dk_21 4 (dk_at dksX0_given_1 11 rfl rfl)
theorem dX0_given_36 : decode cX0_given 36 = .ok (.iastore, 1) := dk_79 (dk_at dksX0_given_1 13 rfl rfl)
theorem dX0_given_37 : decode cX0_given 37 = .ok (.aload_n 0, 1) := dk_42 (dk_at dksX0_given_1 14 rfl rfl)
theorem dX0_given_38 : decode cX0_given 38 = .ok (.aload_n 0, 1) := dk_42 (dk_at dksX0_given_1 15 rfl rfl)
theorem dX0_given_39 : decode cX0_given 39 = .ok (.getfield 64, 3) := dk_180 0 64 (dk_at dksX0_given_1 16 rfl rfl)
theorem dX0_given_42 : decode cX0_given 42 = .ok (.getfield 132, 3) := dk_180 0 132 (dk_at dksX0_given_1 19 rfl rfl)
theorem dX0_given_45 : decode cX0_given 45 = .ok (.iload_n 1, 1) := dk_27 (dk_at dksX0_given_1 22 rfl rfl)
theorem dX0_given_46 : decode cX0_given 46 = .ok (.aaload, 1) := dk_50 (dk_at dksX0_given_1 23 rfl rfl)
theorem dX0_given_47 : decode cX0_given 47 = .ok (.invokevirtual 136, 3) := dk_182 0 136 (dk_at dksX0_given_2 0 rfl rfl)
theorem dX0_given_50 : decode cX0_given 50 = .ok (.istore 5, 2) := dk_54 5 (dk_at dksX0_given_2 3 rfl rfl)
theorem dX0_given_52 : decode cX0_given 52 = .ok (.iload_n 1, 1) := dk_27 (dk_at dksX0_given_2 5 rfl rfl)
theorem dX0_given_53 : decode cX0_given 53 = .ok (.ifCond .ne 13, 3) := dk_154 0 13 (dk_at dksX0_given_2 6 rfl rfl)
theorem dX0_given_56 : decode cX0_given 56 = .ok (.iload 5, 2) := dk_21 5 (dk_at dksX0_given_2 9 rfl rfl)
theorem dX0_given_58 : decode cX0_given 58 = .ok (.iconst 1, 1) := dk_4 (dk_at dksX0_given_2 11 rfl rfl)
theorem dX0_given_59 : decode cX0_given 59 = .ok (.iconst 4, 1) := dk_7 (dk_at dksX0_given_2 12 rfl rfl)
theorem dX0_given_60 : decode cX0_given 60 = .ok (.invokestatic 140, 3) := dk_184 0 140 (dk_at dksX0_given_2 13 rfl rfl)
theorem dX0_given_63 : decode cX0_given 63 = .ok (.goto 12, 3) := dk_167 0 12 (dk_at dksX0_given_2 16 rfl rfl)
theorem dX0_given_66 : decode cX0_given 66 = .ok (.iload 5, 2) := dk_21 5 (dk_at dksX0_given_2 19 rfl rfl)
theorem dX0_given_68 : decode cX0_given 68 = .ok (.bipush (-30), 2) := dk_16 226 (dk_at dksX0_given_2 21 rfl rfl)
theorem dX0_given_70 : decode cX0_given 70 = .ok (.bipush 30, 2) := dk_16 30 (dk_at dksX0_given_3 0 rfl rfl)
theorem dX0_given_72 : decode cX0_given 72 = .ok (.invokestatic 140, 3) := dk_184 0 140 (dk_at dksX0_given_3 2 rfl rfl)
theorem dX0_given_75 : decode cX0_given 75 = .ok (.ireturn, 1) := dk_172 (dk_at dksX0_given_3 5 rfl rfl)
abbrev cX0_worked : ByteArray := prog_1_method_6_code
def yX0_worked : MethodName := ⟨RX0, "worked", "(LPictureBlock$Text;)I"⟩
def dkwX0_worked_6 : List UInt8 := [180, 0, 41, 3, 46, 172]
abbrev dktX0_worked_6 : List UInt8 := dkwX0_worked_6 ++ []
def dkwX0_worked_5 : List UInt8 := [180, 0, 41, 28, 4, 100, 46, 42, 180, 0, 41, 28, 46, 184, 0, 52, 79, 132, 3, 1, 167, 255, 124, 42]
abbrev dktX0_worked_5 : List UInt8 := dkwX0_worked_5 ++ dktX0_worked_6
def dkwX0_worked_4 : List UInt8 := [4, 167, 0, 4, 3, 79, 167, 0, 33, 132, 2, 255, 42, 180, 0, 41, 28, 4, 100, 21, 4, 42]
abbrev dktX0_worked_4 : List UInt8 := dkwX0_worked_4 ++ dktX0_worked_5
def dkwX0_worked_3 : List UInt8 := [21, 4, 6, 160, 0, 30, 42, 180, 0, 41, 28, 4, 100, 42, 180, 0, 41, 28, 4, 100, 46, 154, 0, 7]
abbrev dktX0_worked_3 : List UInt8 := dkwX0_worked_3 ++ dktX0_worked_4
def dkwX0_worked_2 : List UInt8 := [29, 53, 167, 0, 14, 42, 180, 0, 49, 43, 180, 0, 45, 29, 53, 46, 79, 132, 2, 1, 167, 0, 66]
abbrev dktX0_worked_2 : List UInt8 := dkwX0_worked_2 ++ dktX0_worked_3
def dkwX0_worked_1 : List UInt8 := [159, 0, 9, 21, 4, 5, 160, 0, 41, 42, 180, 0, 41, 28, 21, 4, 4, 160, 0, 12, 43, 180, 0, 45]
abbrev dktX0_worked_1 : List UInt8 := dkwX0_worked_1 ++ dktX0_worked_2
def dkwX0_worked_0 : List UInt8 := [3, 61, 3, 62, 29, 43, 180, 0, 29, 162, 0, 130, 43, 180, 0, 35, 29, 51, 54, 4, 21, 4, 4]
abbrev dktX0_worked_0 : List UInt8 := dkwX0_worked_0 ++ dktX0_worked_1
theorem dksX0_worked_0 : cX0_worked.data.toList.drop 0 = dktX0_worked_0 := by decide +kernel
theorem dksX0_worked_1 : cX0_worked.data.toList.drop 23 = dktX0_worked_1 := dk_seg dksX0_worked_0 23 rfl rfl
theorem dksX0_worked_2 : cX0_worked.data.toList.drop 47 = dktX0_worked_2 := dk_seg dksX0_worked_1 24 rfl rfl
theorem dksX0_worked_3 : cX0_worked.data.toList.drop 70 = dktX0_worked_3 := dk_seg dksX0_worked_2 23 rfl rfl
theorem dksX0_worked_4 : cX0_worked.data.toList.drop 94 = dktX0_worked_4 := dk_seg dksX0_worked_3 24 rfl rfl
theorem dksX0_worked_5 : cX0_worked.data.toList.drop 116 = dktX0_worked_5 := dk_seg dksX0_worked_4 22 rfl rfl
theorem dksX0_worked_6 : cX0_worked.data.toList.drop 140 = dktX0_worked_6 := dk_seg dksX0_worked_5 24 rfl rfl
theorem dX0_worked_0 : decode cX0_worked 0 = .ok (.iconst 0, 1) := dk_3 (dk_at dksX0_worked_0 0 rfl rfl)
theorem dX0_worked_1 : decode cX0_worked 1 = .ok (.istore_n 2, 1) := dk_61 (dk_at dksX0_worked_0 1 rfl rfl)
theorem dX0_worked_2 : decode cX0_worked 2 = .ok (.iconst 0, 1) := dk_3 (dk_at dksX0_worked_0 2 rfl rfl)
theorem dX0_worked_3 : decode cX0_worked 3 = .ok (.istore_n 3, 1) := dk_62 (dk_at dksX0_worked_0 3 rfl rfl)
theorem dX0_worked_4 : decode cX0_worked 4 = .ok (.iload_n 3, 1) := dk_29 (dk_at dksX0_worked_0 4 rfl rfl)
theorem dX0_worked_5 : decode cX0_worked 5 = .ok (.aload_n 1, 1) := dk_43 (dk_at dksX0_worked_0 5 rfl rfl)
theorem dX0_worked_6 : decode cX0_worked 6 = .ok (.getfield 29, 3) := dk_180 0 29 (dk_at dksX0_worked_0 6 rfl rfl)
theorem dX0_worked_9 : decode cX0_worked 9 = .ok (.if_icmp .ge 130, 3) := dk_162 0 130 (dk_at dksX0_worked_0 9 rfl rfl)
theorem dX0_worked_12 : decode cX0_worked 12 = .ok (.aload_n 1, 1) := dk_43 (dk_at dksX0_worked_0 12 rfl rfl)
theorem dX0_worked_13 : decode cX0_worked 13 = .ok (.getfield 35, 3) := dk_180 0 35 (dk_at dksX0_worked_0 13 rfl rfl)
theorem dX0_worked_16 : decode cX0_worked 16 = .ok (.iload_n 3, 1) := dk_29 (dk_at dksX0_worked_0 16 rfl rfl)
theorem dX0_worked_17 : decode cX0_worked 17 = .ok (.baload, 1) := dk_51 (dk_at dksX0_worked_0 17 rfl rfl)
theorem dX0_worked_18 : decode cX0_worked 18 = .ok (.istore 4, 2) := dk_54 4 (dk_at dksX0_worked_0 18 rfl rfl)
theorem dX0_worked_20 : decode cX0_worked 20 = .ok (.iload 4, 2) := dk_21 4 (dk_at dksX0_worked_0 20 rfl rfl)
theorem dX0_worked_22 : decode cX0_worked 22 = .ok (.iconst 1, 1) := dk_4 (dk_at dksX0_worked_0 22 rfl rfl)
theorem dX0_worked_23 : decode cX0_worked 23 = .ok (.if_icmp .eq 9, 3) := dk_159 0 9 (dk_at dksX0_worked_1 0 rfl rfl)
theorem dX0_worked_26 : decode cX0_worked 26 = .ok (.iload 4, 2) := dk_21 4 (dk_at dksX0_worked_1 3 rfl rfl)
theorem dX0_worked_28 : decode cX0_worked 28 = .ok (.iconst 2, 1) := dk_5 (dk_at dksX0_worked_1 5 rfl rfl)
theorem dX0_worked_29 : decode cX0_worked 29 = .ok (.if_icmp .ne 41, 3) := dk_160 0 41 (dk_at dksX0_worked_1 6 rfl rfl)
theorem dX0_worked_32 : decode cX0_worked 32 = .ok (.aload_n 0, 1) := dk_42 (dk_at dksX0_worked_1 9 rfl rfl)
theorem dX0_worked_33 : decode cX0_worked 33 = .ok (.getfield 41, 3) := dk_180 0 41 (dk_at dksX0_worked_1 10 rfl rfl)
theorem dX0_worked_36 : decode cX0_worked 36 = .ok (.iload_n 2, 1) := dk_28 (dk_at dksX0_worked_1 13 rfl rfl)
theorem dX0_worked_37 : decode cX0_worked 37 = .ok (.iload 4, 2) := dk_21 4 (dk_at dksX0_worked_1 14 rfl rfl)
theorem dX0_worked_39 : decode cX0_worked 39 = .ok (.iconst 1, 1) := dk_4 (dk_at dksX0_worked_1 16 rfl rfl)
theorem dX0_worked_40 : decode cX0_worked 40 = .ok (.if_icmp .ne 12, 3) := dk_160 0 12 (dk_at dksX0_worked_1 17 rfl rfl)
theorem dX0_worked_43 : decode cX0_worked 43 = .ok (.aload_n 1, 1) := dk_43 (dk_at dksX0_worked_1 20 rfl rfl)
theorem dX0_worked_44 : decode cX0_worked 44 = .ok (.getfield 45, 3) := dk_180 0 45 (dk_at dksX0_worked_1 21 rfl rfl)
theorem dX0_worked_47 : decode cX0_worked 47 = .ok (.iload_n 3, 1) := dk_29 (dk_at dksX0_worked_2 0 rfl rfl)
theorem dX0_worked_48 : decode cX0_worked 48 = .ok (.saload, 1) := dk_53 (dk_at dksX0_worked_2 1 rfl rfl)
theorem dX0_worked_49 : decode cX0_worked 49 = .ok (.goto 14, 3) := dk_167 0 14 (dk_at dksX0_worked_2 2 rfl rfl)
theorem dX0_worked_52 : decode cX0_worked 52 = .ok (.aload_n 0, 1) := dk_42 (dk_at dksX0_worked_2 5 rfl rfl)
theorem dX0_worked_53 : decode cX0_worked 53 = .ok (.getfield 49, 3) := dk_180 0 49 (dk_at dksX0_worked_2 6 rfl rfl)
theorem dX0_worked_56 : decode cX0_worked 56 = .ok (.aload_n 1, 1) := dk_43 (dk_at dksX0_worked_2 9 rfl rfl)
theorem dX0_worked_57 : decode cX0_worked 57 = .ok (.getfield 45, 3) := dk_180 0 45 (dk_at dksX0_worked_2 10 rfl rfl)
theorem dX0_worked_60 : decode cX0_worked 60 = .ok (.iload_n 3, 1) := dk_29 (dk_at dksX0_worked_2 13 rfl rfl)
theorem dX0_worked_61 : decode cX0_worked 61 = .ok (.saload, 1) := dk_53 (dk_at dksX0_worked_2 14 rfl rfl)
theorem dX0_worked_62 : decode cX0_worked 62 = .ok (.iaload, 1) := dk_46 (dk_at dksX0_worked_2 15 rfl rfl)
theorem dX0_worked_63 : decode cX0_worked 63 = .ok (.iastore, 1) := dk_79 (dk_at dksX0_worked_2 16 rfl rfl)
theorem dX0_worked_64 : decode cX0_worked 64 = .ok (.iinc 2 1, 3) := dk_132 2 1 (dk_at dksX0_worked_2 17 rfl rfl)
theorem dX0_worked_67 : decode cX0_worked 67 = .ok (.goto 66, 3) := dk_167 0 66 (dk_at dksX0_worked_2 20 rfl rfl)
theorem dX0_worked_70 : decode cX0_worked 70 = .ok (.iload 4, 2) := dk_21 4 (dk_at dksX0_worked_3 0 rfl rfl)
theorem dX0_worked_72 : decode cX0_worked 72 = .ok (.iconst 3, 1) := dk_6 (dk_at dksX0_worked_3 2 rfl rfl)
theorem dX0_worked_73 : decode cX0_worked 73 = .ok (.if_icmp .ne 30, 3) := dk_160 0 30 (dk_at dksX0_worked_3 3 rfl rfl)
theorem dX0_worked_76 : decode cX0_worked 76 = .ok (.aload_n 0, 1) := dk_42 (dk_at dksX0_worked_3 6 rfl rfl)
theorem dX0_worked_77 : decode cX0_worked 77 = .ok (.getfield 41, 3) := dk_180 0 41 (dk_at dksX0_worked_3 7 rfl rfl)
theorem dX0_worked_80 : decode cX0_worked 80 = .ok (.iload_n 2, 1) := dk_28 (dk_at dksX0_worked_3 10 rfl rfl)
theorem dX0_worked_81 : decode cX0_worked 81 = .ok (.iconst 1, 1) := dk_4 (dk_at dksX0_worked_3 11 rfl rfl)
theorem dX0_worked_82 : decode cX0_worked 82 = .ok (.isub, 1) := dk_100 (dk_at dksX0_worked_3 12 rfl rfl)
theorem dX0_worked_83 : decode cX0_worked 83 = .ok (.aload_n 0, 1) := dk_42 (dk_at dksX0_worked_3 13 rfl rfl)
theorem dX0_worked_84 : decode cX0_worked 84 = .ok (.getfield 41, 3) := dk_180 0 41 (dk_at dksX0_worked_3 14 rfl rfl)
theorem dX0_worked_87 : decode cX0_worked 87 = .ok (.iload_n 2, 1) := dk_28 (dk_at dksX0_worked_3 17 rfl rfl)
theorem dX0_worked_88 : decode cX0_worked 88 = .ok (.iconst 1, 1) := dk_4 (dk_at dksX0_worked_3 18 rfl rfl)
theorem dX0_worked_89 : decode cX0_worked 89 = .ok (.isub, 1) := dk_100 (dk_at dksX0_worked_3 19 rfl rfl)
theorem dX0_worked_90 : decode cX0_worked 90 = .ok (.iaload, 1) := dk_46 (dk_at dksX0_worked_3 20 rfl rfl)
theorem dX0_worked_91 : decode cX0_worked 91 = .ok (.ifCond .ne 7, 3) := dk_154 0 7 (dk_at dksX0_worked_3 21 rfl rfl)
theorem dX0_worked_94 : decode cX0_worked 94 = .ok (.iconst 1, 1) := dk_4 (dk_at dksX0_worked_4 0 rfl rfl)
theorem dX0_worked_95 : decode cX0_worked 95 = .ok (.goto 4, 3) := dk_167 0 4 (dk_at dksX0_worked_4 1 rfl rfl)
theorem dX0_worked_98 : decode cX0_worked 98 = .ok (.iconst 0, 1) := dk_3 (dk_at dksX0_worked_4 4 rfl rfl)
theorem dX0_worked_99 : decode cX0_worked 99 = .ok (.iastore, 1) := dk_79 (dk_at dksX0_worked_4 5 rfl rfl)
theorem dX0_worked_100 : decode cX0_worked 100 = .ok (.goto 33, 3) := dk_167 0 33 (dk_at dksX0_worked_4 6 rfl rfl)
theorem dX0_worked_103 : decode cX0_worked 103 = .ok (.iinc 2 (-1), 3) := dk_132 2 255 (dk_at dksX0_worked_4 9 rfl rfl)
theorem dX0_worked_106 : decode cX0_worked 106 = .ok (.aload_n 0, 1) := dk_42 (dk_at dksX0_worked_4 12 rfl rfl)
theorem dX0_worked_107 : decode cX0_worked 107 = .ok (.getfield 41, 3) := dk_180 0 41 (dk_at dksX0_worked_4 13 rfl rfl)
theorem dX0_worked_110 : decode cX0_worked 110 = .ok (.iload_n 2, 1) := dk_28 (dk_at dksX0_worked_4 16 rfl rfl)
theorem dX0_worked_111 : decode cX0_worked 111 = .ok (.iconst 1, 1) := dk_4 (dk_at dksX0_worked_4 17 rfl rfl)
theorem dX0_worked_112 : decode cX0_worked 112 = .ok (.isub, 1) := dk_100 (dk_at dksX0_worked_4 18 rfl rfl)
theorem dX0_worked_113 : decode cX0_worked 113 = .ok (.iload 4, 2) := dk_21 4 (dk_at dksX0_worked_4 19 rfl rfl)
theorem dX0_worked_115 : decode cX0_worked 115 = .ok (.aload_n 0, 1) := dk_42 (dk_at dksX0_worked_4 21 rfl rfl)
theorem dX0_worked_116 : decode cX0_worked 116 = .ok (.getfield 41, 3) := dk_180 0 41 (dk_at dksX0_worked_5 0 rfl rfl)
theorem dX0_worked_119 : decode cX0_worked 119 = .ok (.iload_n 2, 1) := dk_28 (dk_at dksX0_worked_5 3 rfl rfl)
theorem dX0_worked_120 : decode cX0_worked 120 = .ok (.iconst 1, 1) := dk_4 (dk_at dksX0_worked_5 4 rfl rfl)
theorem dX0_worked_121 : decode cX0_worked 121 = .ok (.isub, 1) := dk_100 (dk_at dksX0_worked_5 5 rfl rfl)
theorem dX0_worked_122 : decode cX0_worked 122 = .ok (.iaload, 1) := dk_46 (dk_at dksX0_worked_5 6 rfl rfl)
theorem dX0_worked_123 : decode cX0_worked 123 = .ok (.aload_n 0, 1) := dk_42 (dk_at dksX0_worked_5 7 rfl rfl)
theorem dX0_worked_124 : decode cX0_worked 124 = .ok (.getfield 41, 3) := dk_180 0 41 (dk_at dksX0_worked_5 8 rfl rfl)
theorem dX0_worked_127 : decode cX0_worked 127 = .ok (.iload_n 2, 1) := dk_28 (dk_at dksX0_worked_5 11 rfl rfl)
theorem dX0_worked_128 : decode cX0_worked 128 = .ok (.iaload, 1) := dk_46 (dk_at dksX0_worked_5 12 rfl rfl)
theorem dX0_worked_129 : decode cX0_worked 129 = .ok (.invokestatic 52, 3) := dk_184 0 52 (dk_at dksX0_worked_5 13 rfl rfl)
theorem dX0_worked_132 : decode cX0_worked 132 = .ok (.iastore, 1) := dk_79 (dk_at dksX0_worked_5 16 rfl rfl)
theorem dX0_worked_133 : decode cX0_worked 133 = .ok (.iinc 3 1, 3) := dk_132 3 1 (dk_at dksX0_worked_5 17 rfl rfl)
theorem dX0_worked_136 : decode cX0_worked 136 = .ok (.goto (-132), 3) := dk_167 255 124 (dk_at dksX0_worked_5 20 rfl rfl)
theorem dX0_worked_139 : decode cX0_worked 139 = .ok (.aload_n 0, 1) := dk_42 (dk_at dksX0_worked_5 23 rfl rfl)
theorem dX0_worked_140 : decode cX0_worked 140 = .ok (.getfield 41, 3) := dk_180 0 41 (dk_at dksX0_worked_6 0 rfl rfl)
theorem dX0_worked_143 : decode cX0_worked 143 = .ok (.iconst 0, 1) := dk_3 (dk_at dksX0_worked_6 3 rfl rfl)
theorem dX0_worked_144 : decode cX0_worked 144 = .ok (.iaload, 1) := dk_46 (dk_at dksX0_worked_6 4 rfl rfl)
theorem dX0_worked_145 : decode cX0_worked 145 = .ok (.ireturn, 1) := dk_172 (dk_at dksX0_worked_6 5 rfl rfl)
abbrev cX0_both : ByteArray := prog_1_method_5_code
def yX0_both : MethodName := ⟨RX0, "both", "(III)I"⟩
def dkwX0_both_6 : List UInt8 := [167, 0, 4, 3, 172]
abbrev dktX0_both_6 : List UInt8 := dkwX0_both_6 ++ []
def dkwX0_both_5 : List UInt8 := [153, 0, 11, 28, 153, 0, 7, 4, 167, 0, 4, 3, 172, 27, 154, 0, 7, 28, 153, 0, 7, 4]
abbrev dktX0_both_5 : List UInt8 := dkwX0_both_5 ++ dktX0_both_6
def dkwX0_both_4 : List UInt8 := [28, 160, 0, 7, 4, 167, 0, 4, 3, 172, 27, 28, 164, 0, 7, 4, 167, 0, 4, 3, 172, 27]
abbrev dktX0_both_4 : List UInt8 := dkwX0_both_4 ++ dktX0_both_5
def dkwX0_both_3 : List UInt8 := [28, 154, 0, 7, 3, 167, 0, 6, 27, 28, 112, 172, 27, 28, 162, 0, 7, 4, 167, 0, 4, 3, 172, 27]
abbrev dktX0_both_3 : List UInt8 := dkwX0_both_3 ++ dktX0_both_4
def dkwX0_both_2 : List UInt8 := [27, 28, 96, 172, 27, 28, 100, 172, 27, 28, 104, 172, 28, 154, 0, 7, 3, 167, 0, 6, 27, 28, 108, 172]
abbrev dktX0_both_2 : List UInt8 := dkwX0_both_2 ++ dktX0_both_3
def dkwX0_both_1 : List UInt8 := [170, 0, 0, 0, 0, 0, 202, 0, 0, 0, 37, 0, 0, 0, 62, 0, 0, 0, 143, 0, 0, 0, 188, 0, 0, 0, 202, 0, 0, 0, 202, 0, 0, 0, 202, 0, 0, 0, 127, 0, 0, 0, 119, 0, 0, 0, 202, 0, 0, 0, 123, 0, 0, 0, 202, 0, 0, 0, 131, 0, 0, 0, 202, 0, 0, 0, 202, 0, 0, 0, 202, 0, 0, 0, 202, 0, 0, 0, 202, 0, 0, 0, 202, 0, 0, 0, 202, 0, 0, 0, 202, 0, 0, 0, 202, 0, 0, 0, 202, 0, 0, 0, 202, 0, 0, 0, 202, 0, 0, 0, 155, 0, 0, 0, 166, 0, 0, 0, 177]
abbrev dktX0_both_1 : List UInt8 := dkwX0_both_1 ++ dktX0_both_2
def dkwX0_both_0 : List UInt8 := [26]
abbrev dktX0_both_0 : List UInt8 := dkwX0_both_0 ++ dktX0_both_1
theorem dksX0_both_0 : cX0_both.data.toList.drop 0 = dktX0_both_0 := by decide +kernel
theorem dksX0_both_1 : cX0_both.data.toList.drop 1 = dktX0_both_1 := dk_seg dksX0_both_0 1 rfl rfl
theorem dksX0_both_2 : cX0_both.data.toList.drop 120 = dktX0_both_2 := dk_seg dksX0_both_1 119 rfl rfl
theorem dksX0_both_3 : cX0_both.data.toList.drop 144 = dktX0_both_3 := dk_seg dksX0_both_2 24 rfl rfl
theorem dksX0_both_4 : cX0_both.data.toList.drop 168 = dktX0_both_4 := dk_seg dksX0_both_3 24 rfl rfl
theorem dksX0_both_5 : cX0_both.data.toList.drop 190 = dktX0_both_5 := dk_seg dksX0_both_4 22 rfl rfl
theorem dksX0_both_6 : cX0_both.data.toList.drop 212 = dktX0_both_6 := dk_seg dksX0_both_5 22 rfl rfl
theorem dX0_both_0 : decode cX0_both 0 = .ok (.iload_n 0, 1) := dk_26 (dk_at dksX0_both_0 0 rfl rfl)
theorem dX0_both_1 : decode cX0_both 1 = .ok (.tableswitch 202 37 62 #[143, 188, 202, 202, 202, 127, 119, 202, 123, 202, 131, 202, 202, 202, 202, 202, 202, 202, 202, 202, 202, 202, 202, 155, 166, 177], 119) := by decide +kernel
theorem dX0_both_120 : decode cX0_both 120 = .ok (.iload_n 1, 1) := dk_27 (dk_at dksX0_both_2 0 rfl rfl)
theorem dX0_both_121 : decode cX0_both 121 = .ok (.iload_n 2, 1) := dk_28 (dk_at dksX0_both_2 1 rfl rfl)
theorem dX0_both_122 : decode cX0_both 122 = .ok (.iadd, 1) := dk_96 (dk_at dksX0_both_2 2 rfl rfl)
theorem dX0_both_123 : decode cX0_both 123 = .ok (.ireturn, 1) := dk_172 (dk_at dksX0_both_2 3 rfl rfl)
theorem dX0_both_124 : decode cX0_both 124 = .ok (.iload_n 1, 1) := dk_27 (dk_at dksX0_both_2 4 rfl rfl)
theorem dX0_both_125 : decode cX0_both 125 = .ok (.iload_n 2, 1) := dk_28 (dk_at dksX0_both_2 5 rfl rfl)
theorem dX0_both_126 : decode cX0_both 126 = .ok (.isub, 1) := dk_100 (dk_at dksX0_both_2 6 rfl rfl)
theorem dX0_both_127 : decode cX0_both 127 = .ok (.ireturn, 1) := dk_172 (dk_at dksX0_both_2 7 rfl rfl)
theorem dX0_both_128 : decode cX0_both 128 = .ok (.iload_n 1, 1) := dk_27 (dk_at dksX0_both_2 8 rfl rfl)
theorem dX0_both_129 : decode cX0_both 129 = .ok (.iload_n 2, 1) := dk_28 (dk_at dksX0_both_2 9 rfl rfl)
theorem dX0_both_130 : decode cX0_both 130 = .ok (.imul, 1) := dk_104 (dk_at dksX0_both_2 10 rfl rfl)
theorem dX0_both_131 : decode cX0_both 131 = .ok (.ireturn, 1) := dk_172 (dk_at dksX0_both_2 11 rfl rfl)
theorem dX0_both_132 : decode cX0_both 132 = .ok (.iload_n 2, 1) := dk_28 (dk_at dksX0_both_2 12 rfl rfl)
theorem dX0_both_133 : decode cX0_both 133 = .ok (.ifCond .ne 7, 3) := dk_154 0 7 (dk_at dksX0_both_2 13 rfl rfl)
theorem dX0_both_136 : decode cX0_both 136 = .ok (.iconst 0, 1) := dk_3 (dk_at dksX0_both_2 16 rfl rfl)
theorem dX0_both_137 : decode cX0_both 137 = .ok (.goto 6, 3) := dk_167 0 6 (dk_at dksX0_both_2 17 rfl rfl)
theorem dX0_both_140 : decode cX0_both 140 = .ok (.iload_n 1, 1) := dk_27 (dk_at dksX0_both_2 20 rfl rfl)
theorem dX0_both_141 : decode cX0_both 141 = .ok (.iload_n 2, 1) := dk_28 (dk_at dksX0_both_2 21 rfl rfl)
theorem dX0_both_142 : decode cX0_both 142 = .ok (.idiv, 1) := dk_108 (dk_at dksX0_both_2 22 rfl rfl)
theorem dX0_both_143 : decode cX0_both 143 = .ok (.ireturn, 1) := dk_172 (dk_at dksX0_both_2 23 rfl rfl)
theorem dX0_both_144 : decode cX0_both 144 = .ok (.iload_n 2, 1) := dk_28 (dk_at dksX0_both_3 0 rfl rfl)
theorem dX0_both_145 : decode cX0_both 145 = .ok (.ifCond .ne 7, 3) := dk_154 0 7 (dk_at dksX0_both_3 1 rfl rfl)
theorem dX0_both_148 : decode cX0_both 148 = .ok (.iconst 0, 1) := dk_3 (dk_at dksX0_both_3 4 rfl rfl)
theorem dX0_both_149 : decode cX0_both 149 = .ok (.goto 6, 3) := dk_167 0 6 (dk_at dksX0_both_3 5 rfl rfl)
theorem dX0_both_152 : decode cX0_both 152 = .ok (.iload_n 1, 1) := dk_27 (dk_at dksX0_both_3 8 rfl rfl)
theorem dX0_both_153 : decode cX0_both 153 = .ok (.iload_n 2, 1) := dk_28 (dk_at dksX0_both_3 9 rfl rfl)
theorem dX0_both_154 : decode cX0_both 154 = .ok (.irem, 1) := dk_112 (dk_at dksX0_both_3 10 rfl rfl)
theorem dX0_both_155 : decode cX0_both 155 = .ok (.ireturn, 1) := dk_172 (dk_at dksX0_both_3 11 rfl rfl)
theorem dX0_both_156 : decode cX0_both 156 = .ok (.iload_n 1, 1) := dk_27 (dk_at dksX0_both_3 12 rfl rfl)
theorem dX0_both_157 : decode cX0_both 157 = .ok (.iload_n 2, 1) := dk_28 (dk_at dksX0_both_3 13 rfl rfl)
theorem dX0_both_158 : decode cX0_both 158 = .ok (.if_icmp .ge 7, 3) := dk_162 0 7 (dk_at dksX0_both_3 14 rfl rfl)
theorem dX0_both_161 : decode cX0_both 161 = .ok (.iconst 1, 1) := dk_4 (dk_at dksX0_both_3 17 rfl rfl)
theorem dX0_both_162 : decode cX0_both 162 = .ok (.goto 4, 3) := dk_167 0 4 (dk_at dksX0_both_3 18 rfl rfl)
theorem dX0_both_165 : decode cX0_both 165 = .ok (.iconst 0, 1) := dk_3 (dk_at dksX0_both_3 21 rfl rfl)
theorem dX0_both_166 : decode cX0_both 166 = .ok (.ireturn, 1) := dk_172 (dk_at dksX0_both_3 22 rfl rfl)
theorem dX0_both_167 : decode cX0_both 167 = .ok (.iload_n 1, 1) := dk_27 (dk_at dksX0_both_3 23 rfl rfl)
theorem dX0_both_168 : decode cX0_both 168 = .ok (.iload_n 2, 1) := dk_28 (dk_at dksX0_both_4 0 rfl rfl)
theorem dX0_both_169 : decode cX0_both 169 = .ok (.if_icmp .ne 7, 3) := dk_160 0 7 (dk_at dksX0_both_4 1 rfl rfl)
theorem dX0_both_172 : decode cX0_both 172 = .ok (.iconst 1, 1) := dk_4 (dk_at dksX0_both_4 4 rfl rfl)
theorem dX0_both_173 : decode cX0_both 173 = .ok (.goto 4, 3) := dk_167 0 4 (dk_at dksX0_both_4 5 rfl rfl)
theorem dX0_both_176 : decode cX0_both 176 = .ok (.iconst 0, 1) := dk_3 (dk_at dksX0_both_4 8 rfl rfl)
theorem dX0_both_177 : decode cX0_both 177 = .ok (.ireturn, 1) := dk_172 (dk_at dksX0_both_4 9 rfl rfl)
theorem dX0_both_178 : decode cX0_both 178 = .ok (.iload_n 1, 1) := dk_27 (dk_at dksX0_both_4 10 rfl rfl)
theorem dX0_both_179 : decode cX0_both 179 = .ok (.iload_n 2, 1) := dk_28 (dk_at dksX0_both_4 11 rfl rfl)
theorem dX0_both_180 : decode cX0_both 180 = .ok (.if_icmp .le 7, 3) := dk_164 0 7 (dk_at dksX0_both_4 12 rfl rfl)
theorem dX0_both_183 : decode cX0_both 183 = .ok (.iconst 1, 1) := dk_4 (dk_at dksX0_both_4 15 rfl rfl)
theorem dX0_both_184 : decode cX0_both 184 = .ok (.goto 4, 3) := dk_167 0 4 (dk_at dksX0_both_4 16 rfl rfl)
theorem dX0_both_187 : decode cX0_both 187 = .ok (.iconst 0, 1) := dk_3 (dk_at dksX0_both_4 19 rfl rfl)
theorem dX0_both_188 : decode cX0_both 188 = .ok (.ireturn, 1) := dk_172 (dk_at dksX0_both_4 20 rfl rfl)
theorem dX0_both_189 : decode cX0_both 189 = .ok (.iload_n 1, 1) := dk_27 (dk_at dksX0_both_4 21 rfl rfl)
theorem dX0_both_190 : decode cX0_both 190 = .ok (.ifCond .eq 11, 3) := dk_153 0 11 (dk_at dksX0_both_5 0 rfl rfl)
theorem dX0_both_193 : decode cX0_both 193 = .ok (.iload_n 2, 1) := dk_28 (dk_at dksX0_both_5 3 rfl rfl)
theorem dX0_both_194 : decode cX0_both 194 = .ok (.ifCond .eq 7, 3) := dk_153 0 7 (dk_at dksX0_both_5 4 rfl rfl)
theorem dX0_both_197 : decode cX0_both 197 = .ok (.iconst 1, 1) := dk_4 (dk_at dksX0_both_5 7 rfl rfl)
theorem dX0_both_198 : decode cX0_both 198 = .ok (.goto 4, 3) := dk_167 0 4 (dk_at dksX0_both_5 8 rfl rfl)
theorem dX0_both_201 : decode cX0_both 201 = .ok (.iconst 0, 1) := dk_3 (dk_at dksX0_both_5 11 rfl rfl)
theorem dX0_both_202 : decode cX0_both 202 = .ok (.ireturn, 1) := dk_172 (dk_at dksX0_both_5 12 rfl rfl)
theorem dX0_both_203 : decode cX0_both 203 = .ok (.iload_n 1, 1) := dk_27 (dk_at dksX0_both_5 13 rfl rfl)
theorem dX0_both_204 : decode cX0_both 204 = .ok (.ifCond .ne 7, 3) := dk_154 0 7 (dk_at dksX0_both_5 14 rfl rfl)
theorem dX0_both_207 : decode cX0_both 207 = .ok (.iload_n 2, 1) := dk_28 (dk_at dksX0_both_5 17 rfl rfl)
theorem dX0_both_208 : decode cX0_both 208 = .ok (.ifCond .eq 7, 3) := dk_153 0 7 (dk_at dksX0_both_5 18 rfl rfl)
theorem dX0_both_211 : decode cX0_both 211 = .ok (.iconst 1, 1) := dk_4 (dk_at dksX0_both_5 21 rfl rfl)
theorem dX0_both_212 : decode cX0_both 212 = .ok (.goto 4, 3) := dk_167 0 4 (dk_at dksX0_both_6 0 rfl rfl)
theorem dX0_both_215 : decode cX0_both 215 = .ok (.iconst 0, 1) := dk_3 (dk_at dksX0_both_6 3 rfl rfl)
theorem dX0_both_216 : decode cX0_both 216 = .ok (.ireturn, 1) := dk_172 (dk_at dksX0_both_6 4 rfl rfl)
abbrev cX0_held : ByteArray := prog_1_method_11_code
def yX0_held : MethodName := ⟨RX0, "held", "(III)I"⟩
def dkwX0_held_0 : List UInt8 := [27, 28, 26, 184, 0, 123, 184, 0, 129, 172]
abbrev dktX0_held_0 : List UInt8 := dkwX0_held_0 ++ []
theorem dksX0_held_0 : cX0_held.data.toList.drop 0 = dktX0_held_0 := by decide +kernel
theorem dX0_held_0 : decode cX0_held 0 = .ok (.iload_n 1, 1) := dk_27 (dk_at dksX0_held_0 0 rfl rfl)
theorem dX0_held_1 : decode cX0_held 1 = .ok (.iload_n 2, 1) := dk_28 (dk_at dksX0_held_0 1 rfl rfl)
theorem dX0_held_2 : decode cX0_held 2 = .ok (.iload_n 0, 1) := dk_26 (dk_at dksX0_held_0 2 rfl rfl)
theorem dX0_held_3 : decode cX0_held 3 = .ok (.invokestatic 123, 3) := dk_184 0 123 (dk_at dksX0_held_0 3 rfl rfl)
theorem dX0_held_6 : decode cX0_held 6 = .ok (.invokestatic 129, 3) := dk_184 0 129 (dk_at dksX0_held_0 6 rfl rfl)
theorem dX0_held_9 : decode cX0_held 9 = .ok (.ireturn, 1) := dk_172 (dk_at dksX0_held_0 9 rfl rfl)
abbrev cX0_saidBy : ByteArray := prog_1_method_14_code
def yX0_saidBy : MethodName := ⟨RX0, "saidBy", "(I)I"⟩
def dkwX0_saidBy_1 : List UInt8 := [180, 0, 64, 180, 0, 165, 27, 46, 42, 180, 0, 64, 180, 0, 156, 16, 8, 112, 182, 0, 159, 172]
abbrev dktX0_saidBy_1 : List UInt8 := dkwX0_saidBy_1 ++ []
def dkwX0_saidBy_0 : List UInt8 := [42, 180, 0, 64, 27, 182, 0, 143, 77, 42, 4, 44, 42, 180, 0, 64, 185, 0, 163, 2, 0, 42]
abbrev dktX0_saidBy_0 : List UInt8 := dkwX0_saidBy_0 ++ dktX0_saidBy_1
theorem dksX0_saidBy_0 : cX0_saidBy.data.toList.drop 0 = dktX0_saidBy_0 := by decide +kernel
theorem dksX0_saidBy_1 : cX0_saidBy.data.toList.drop 22 = dktX0_saidBy_1 := dk_seg dksX0_saidBy_0 22 rfl rfl
theorem dX0_saidBy_0 : decode cX0_saidBy 0 = .ok (.aload_n 0, 1) := dk_42 (dk_at dksX0_saidBy_0 0 rfl rfl)
theorem dX0_saidBy_1 : decode cX0_saidBy 1 = .ok (.getfield 64, 3) := dk_180 0 64 (dk_at dksX0_saidBy_0 1 rfl rfl)
theorem dX0_saidBy_4 : decode cX0_saidBy 4 = .ok (.iload_n 1, 1) := dk_27 (dk_at dksX0_saidBy_0 4 rfl rfl)
theorem dX0_saidBy_5 : decode cX0_saidBy 5 = .ok (.invokevirtual 143, 3) := dk_182 0 143 (dk_at dksX0_saidBy_0 5 rfl rfl)
theorem dX0_saidBy_8 : decode cX0_saidBy 8 = .ok (.astore_n 2, 1) := dk_77 (dk_at dksX0_saidBy_0 8 rfl rfl)
theorem dX0_saidBy_9 : decode cX0_saidBy 9 = .ok (.aload_n 0, 1) := dk_42 (dk_at dksX0_saidBy_0 9 rfl rfl)
theorem dX0_saidBy_10 : decode cX0_saidBy 10 = .ok (.iconst 1, 1) := dk_4 (dk_at dksX0_saidBy_0 10 rfl rfl)
theorem dX0_saidBy_11 : decode cX0_saidBy 11 = .ok (.aload_n 2, 1) := dk_44 (dk_at dksX0_saidBy_0 11 rfl rfl)
theorem dX0_saidBy_12 : decode cX0_saidBy 12 = .ok (.aload_n 0, 1) := dk_42 (dk_at dksX0_saidBy_0 12 rfl rfl)
theorem dX0_saidBy_13 : decode cX0_saidBy 13 = .ok (.getfield 64, 3) := dk_180 0 64 (dk_at dksX0_saidBy_0 13 rfl rfl)
theorem dX0_saidBy_16 : decode cX0_saidBy 16 = .ok (.invokeinterface 163 2, 5) := by decide +kernel
theorem dX0_saidBy_21 : decode cX0_saidBy 21 = .ok (.aload_n 0, 1) := dk_42 (dk_at dksX0_saidBy_0 21 rfl rfl)
theorem dX0_saidBy_22 : decode cX0_saidBy 22 = .ok (.getfield 64, 3) := dk_180 0 64 (dk_at dksX0_saidBy_1 0 rfl rfl)
theorem dX0_saidBy_25 : decode cX0_saidBy 25 = .ok (.getfield 165, 3) := dk_180 0 165 (dk_at dksX0_saidBy_1 3 rfl rfl)
theorem dX0_saidBy_28 : decode cX0_saidBy 28 = .ok (.iload_n 1, 1) := dk_27 (dk_at dksX0_saidBy_1 6 rfl rfl)
theorem dX0_saidBy_29 : decode cX0_saidBy 29 = .ok (.iaload, 1) := dk_46 (dk_at dksX0_saidBy_1 7 rfl rfl)
theorem dX0_saidBy_30 : decode cX0_saidBy 30 = .ok (.aload_n 0, 1) := dk_42 (dk_at dksX0_saidBy_1 8 rfl rfl)
theorem dX0_saidBy_31 : decode cX0_saidBy 31 = .ok (.getfield 64, 3) := dk_180 0 64 (dk_at dksX0_saidBy_1 9 rfl rfl)
theorem dX0_saidBy_34 : decode cX0_saidBy 34 = .ok (.getfield 156, 3) := dk_180 0 156 (dk_at dksX0_saidBy_1 12 rfl rfl)
theorem dX0_saidBy_37 : decode cX0_saidBy 37 = .ok (.bipush 8, 2) := dk_16 8 (dk_at dksX0_saidBy_1 15 rfl rfl)
theorem dX0_saidBy_39 : decode cX0_saidBy 39 = .ok (.irem, 1) := dk_112 (dk_at dksX0_saidBy_1 17 rfl rfl)
theorem dX0_saidBy_40 : decode cX0_saidBy 40 = .ok (.invokevirtual 159, 3) := dk_182 0 159 (dk_at dksX0_saidBy_1 18 rfl rfl)
theorem dX0_saidBy_43 : decode cX0_saidBy 43 = .ok (.ireturn, 1) := dk_172 (dk_at dksX0_saidBy_1 21 rfl rfl)
abbrev cX0_become : ByteArray := prog_1_method_24_code
def yX0_become : MethodName := ⟨RX0, "become", "(II)I"⟩
def dkwX0_become_2 : List UInt8 := [50, 28, 16, 10, 108, 27, 28, 16, 10, 112, 184, 0, 223, 181, 0, 227, 29, 172]
abbrev dktX0_become_2 : List UInt8 := dkwX0_become_2 ++ []
def dkwX0_become_1 : List UInt8 := [182, 0, 217, 172, 42, 180, 0, 64, 27, 182, 0, 143, 182, 0, 233, 62, 42, 180, 0, 64, 180, 0, 220, 27]
abbrev dktX0_become_1 : List UInt8 := dkwX0_become_1 ++ dktX0_become_2
def dkwX0_become_0 : List UInt8 := [42, 27, 182, 0, 230, 153, 0, 16, 28, 155, 0, 12, 28, 16, 10, 108, 16, 6, 164, 0, 9, 42, 4]
abbrev dktX0_become_0 : List UInt8 := dkwX0_become_0 ++ dktX0_become_1
theorem dksX0_become_0 : cX0_become.data.toList.drop 0 = dktX0_become_0 := by decide +kernel
theorem dksX0_become_1 : cX0_become.data.toList.drop 23 = dktX0_become_1 := dk_seg dksX0_become_0 23 rfl rfl
theorem dksX0_become_2 : cX0_become.data.toList.drop 47 = dktX0_become_2 := dk_seg dksX0_become_1 24 rfl rfl
theorem dX0_become_0 : decode cX0_become 0 = .ok (.aload_n 0, 1) := dk_42 (dk_at dksX0_become_0 0 rfl rfl)
theorem dX0_become_1 : decode cX0_become 1 = .ok (.iload_n 1, 1) := dk_27 (dk_at dksX0_become_0 1 rfl rfl)
theorem dX0_become_2 : decode cX0_become 2 = .ok (.invokevirtual 230, 3) := dk_182 0 230 (dk_at dksX0_become_0 2 rfl rfl)
theorem dX0_become_5 : decode cX0_become 5 = .ok (.ifCond .eq 16, 3) := dk_153 0 16 (dk_at dksX0_become_0 5 rfl rfl)
theorem dX0_become_8 : decode cX0_become 8 = .ok (.iload_n 2, 1) := dk_28 (dk_at dksX0_become_0 8 rfl rfl)
theorem dX0_become_9 : decode cX0_become 9 = .ok (.ifCond .lt 12, 3) := dk_155 0 12 (dk_at dksX0_become_0 9 rfl rfl)
theorem dX0_become_12 : decode cX0_become 12 = .ok (.iload_n 2, 1) := dk_28 (dk_at dksX0_become_0 12 rfl rfl)
theorem dX0_become_13 : decode cX0_become 13 = .ok (.bipush 10, 2) := dk_16 10 (dk_at dksX0_become_0 13 rfl rfl)
theorem dX0_become_15 : decode cX0_become 15 = .ok (.idiv, 1) := dk_108 (dk_at dksX0_become_0 15 rfl rfl)
theorem dX0_become_16 : decode cX0_become 16 = .ok (.bipush 6, 2) := dk_16 6 (dk_at dksX0_become_0 16 rfl rfl)
theorem dX0_become_18 : decode cX0_become 18 = .ok (.if_icmp .le 9, 3) := dk_164 0 9 (dk_at dksX0_become_0 18 rfl rfl)
theorem dX0_become_21 : decode cX0_become 21 = .ok (.aload_n 0, 1) := dk_42 (dk_at dksX0_become_0 21 rfl rfl)
theorem dX0_become_22 : decode cX0_become 22 = .ok (.iconst 1, 1) := dk_4 (dk_at dksX0_become_0 22 rfl rfl)
theorem dX0_become_23 : decode cX0_become 23 = .ok (.invokevirtual 217, 3) := dk_182 0 217 (dk_at dksX0_become_1 0 rfl rfl)
theorem dX0_become_26 : decode cX0_become 26 = .ok (.ireturn, 1) := dk_172 (dk_at dksX0_become_1 3 rfl rfl)
theorem dX0_become_27 : decode cX0_become 27 = .ok (.aload_n 0, 1) := dk_42 (dk_at dksX0_become_1 4 rfl rfl)
theorem dX0_become_28 : decode cX0_become 28 = .ok (.getfield 64, 3) := dk_180 0 64 (dk_at dksX0_become_1 5 rfl rfl)
theorem dX0_become_31 : decode cX0_become 31 = .ok (.iload_n 1, 1) := dk_27 (dk_at dksX0_become_1 8 rfl rfl)
theorem dX0_become_32 : decode cX0_become 32 = .ok (.invokevirtual 143, 3) := dk_182 0 143 (dk_at dksX0_become_1 9 rfl rfl)
theorem dX0_become_35 : decode cX0_become 35 = .ok (.invokevirtual 233, 3) := dk_182 0 233 (dk_at dksX0_become_1 12 rfl rfl)
theorem dX0_become_38 : decode cX0_become 38 = .ok (.istore_n 3, 1) := dk_62 (dk_at dksX0_become_1 15 rfl rfl)
theorem dX0_become_39 : decode cX0_become 39 = .ok (.aload_n 0, 1) := dk_42 (dk_at dksX0_become_1 16 rfl rfl)
theorem dX0_become_40 : decode cX0_become 40 = .ok (.getfield 64, 3) := dk_180 0 64 (dk_at dksX0_become_1 17 rfl rfl)
theorem dX0_become_43 : decode cX0_become 43 = .ok (.getfield 220, 3) := dk_180 0 220 (dk_at dksX0_become_1 20 rfl rfl)
theorem dX0_become_46 : decode cX0_become 46 = .ok (.iload_n 1, 1) := dk_27 (dk_at dksX0_become_1 23 rfl rfl)
theorem dX0_become_47 : decode cX0_become 47 = .ok (.aaload, 1) := dk_50 (dk_at dksX0_become_2 0 rfl rfl)
theorem dX0_become_48 : decode cX0_become 48 = .ok (.iload_n 2, 1) := dk_28 (dk_at dksX0_become_2 1 rfl rfl)
theorem dX0_become_49 : decode cX0_become 49 = .ok (.bipush 10, 2) := dk_16 10 (dk_at dksX0_become_2 2 rfl rfl)
theorem dX0_become_51 : decode cX0_become 51 = .ok (.idiv, 1) := dk_108 (dk_at dksX0_become_2 4 rfl rfl)
theorem dX0_become_52 : decode cX0_become 52 = .ok (.iload_n 1, 1) := dk_27 (dk_at dksX0_become_2 5 rfl rfl)
theorem dX0_become_53 : decode cX0_become 53 = .ok (.iload_n 2, 1) := dk_28 (dk_at dksX0_become_2 6 rfl rfl)
theorem dX0_become_54 : decode cX0_become 54 = .ok (.bipush 10, 2) := dk_16 10 (dk_at dksX0_become_2 7 rfl rfl)
theorem dX0_become_56 : decode cX0_become 56 = .ok (.irem, 1) := dk_112 (dk_at dksX0_become_2 9 rfl rfl)
theorem dX0_become_57 : decode cX0_become 57 = .ok (.invokestatic 223, 3) := dk_184 0 223 (dk_at dksX0_become_2 10 rfl rfl)
theorem dX0_become_60 : decode cX0_become 60 = .ok (.putfield 227, 3) := dk_181 0 227 (dk_at dksX0_become_2 13 rfl rfl)
theorem dX0_become_63 : decode cX0_become 63 = .ok (.iload_n 3, 1) := dk_29 (dk_at dksX0_become_2 16 rfl rfl)
theorem dX0_become_64 : decode cX0_become 64 = .ok (.ireturn, 1) := dk_172 (dk_at dksX0_become_2 17 rfl rfl)
abbrev cX0_as : ByteArray := prog_1_method_25_code
def yX0_as : MethodName := ⟨RX0, "as", "(II)I"⟩
def dkwX0_as_2 : List UInt8 := [182, 0, 143, 180, 0, 236, 167, 0, 8, 42, 8, 182, 0, 217, 172]
abbrev dktX0_as_2 : List UInt8 := dkwX0_as_2 ++ []
def dkwX0_as_1 : List UInt8 := [42, 180, 0, 64, 180, 0, 220, 27, 50, 180, 0, 227, 28, 184, 0, 239, 153, 0, 17, 42, 180, 0, 64, 27]
abbrev dktX0_as_1 : List UInt8 := dkwX0_as_1 ++ dktX0_as_2
def dkwX0_as_0 : List UInt8 := [42, 27, 182, 0, 230, 153, 0, 13, 28, 3, 16, 6, 184, 0, 116, 154, 0, 9, 42, 4, 182, 0, 217, 172]
abbrev dktX0_as_0 : List UInt8 := dkwX0_as_0 ++ dktX0_as_1
theorem dksX0_as_0 : cX0_as.data.toList.drop 0 = dktX0_as_0 := by decide +kernel
theorem dksX0_as_1 : cX0_as.data.toList.drop 24 = dktX0_as_1 := dk_seg dksX0_as_0 24 rfl rfl
theorem dksX0_as_2 : cX0_as.data.toList.drop 48 = dktX0_as_2 := dk_seg dksX0_as_1 24 rfl rfl
theorem dX0_as_0 : decode cX0_as 0 = .ok (.aload_n 0, 1) := dk_42 (dk_at dksX0_as_0 0 rfl rfl)
theorem dX0_as_1 : decode cX0_as 1 = .ok (.iload_n 1, 1) := dk_27 (dk_at dksX0_as_0 1 rfl rfl)
theorem dX0_as_2 : decode cX0_as 2 = .ok (.invokevirtual 230, 3) := dk_182 0 230 (dk_at dksX0_as_0 2 rfl rfl)
theorem dX0_as_5 : decode cX0_as 5 = .ok (.ifCond .eq 13, 3) := dk_153 0 13 (dk_at dksX0_as_0 5 rfl rfl)
theorem dX0_as_8 : decode cX0_as 8 = .ok (.iload_n 2, 1) := dk_28 (dk_at dksX0_as_0 8 rfl rfl)
theorem dX0_as_9 : decode cX0_as 9 = .ok (.iconst 0, 1) := dk_3 (dk_at dksX0_as_0 9 rfl rfl)
theorem dX0_as_10 : decode cX0_as 10 = .ok (.bipush 6, 2) := dk_16 6 (dk_at dksX0_as_0 10 rfl rfl)
theorem dX0_as_12 : decode cX0_as 12 = .ok (.invokestatic 116, 3) := dk_184 0 116 (dk_at dksX0_as_0 12 rfl rfl)
theorem dX0_as_15 : decode cX0_as 15 = .ok (.ifCond .ne 9, 3) := dk_154 0 9 (dk_at dksX0_as_0 15 rfl rfl)
theorem dX0_as_18 : decode cX0_as 18 = .ok (.aload_n 0, 1) := dk_42 (dk_at dksX0_as_0 18 rfl rfl)
theorem dX0_as_19 : decode cX0_as 19 = .ok (.iconst 1, 1) := dk_4 (dk_at dksX0_as_0 19 rfl rfl)
theorem dX0_as_20 : decode cX0_as 20 = .ok (.invokevirtual 217, 3) := dk_182 0 217 (dk_at dksX0_as_0 20 rfl rfl)
theorem dX0_as_23 : decode cX0_as 23 = .ok (.ireturn, 1) := dk_172 (dk_at dksX0_as_0 23 rfl rfl)
theorem dX0_as_24 : decode cX0_as 24 = .ok (.aload_n 0, 1) := dk_42 (dk_at dksX0_as_1 0 rfl rfl)
theorem dX0_as_25 : decode cX0_as 25 = .ok (.getfield 64, 3) := dk_180 0 64 (dk_at dksX0_as_1 1 rfl rfl)
theorem dX0_as_28 : decode cX0_as 28 = .ok (.getfield 220, 3) := dk_180 0 220 (dk_at dksX0_as_1 4 rfl rfl)
theorem dX0_as_31 : decode cX0_as 31 = .ok (.iload_n 1, 1) := dk_27 (dk_at dksX0_as_1 7 rfl rfl)
theorem dX0_as_32 : decode cX0_as 32 = .ok (.aaload, 1) := dk_50 (dk_at dksX0_as_1 8 rfl rfl)
theorem dX0_as_33 : decode cX0_as 33 = .ok (.getfield 227, 3) := dk_180 0 227 (dk_at dksX0_as_1 9 rfl rfl)
theorem dX0_as_36 : decode cX0_as 36 = .ok (.iload_n 2, 1) := dk_28 (dk_at dksX0_as_1 12 rfl rfl)
theorem dX0_as_37 : decode cX0_as 37 = .ok (.invokestatic 239, 3) := dk_184 0 239 (dk_at dksX0_as_1 13 rfl rfl)
theorem dX0_as_40 : decode cX0_as 40 = .ok (.ifCond .eq 17, 3) := dk_153 0 17 (dk_at dksX0_as_1 16 rfl rfl)
theorem dX0_as_43 : decode cX0_as 43 = .ok (.aload_n 0, 1) := dk_42 (dk_at dksX0_as_1 19 rfl rfl)
theorem dX0_as_44 : decode cX0_as 44 = .ok (.getfield 64, 3) := dk_180 0 64 (dk_at dksX0_as_1 20 rfl rfl)
theorem dX0_as_47 : decode cX0_as 47 = .ok (.iload_n 1, 1) := dk_27 (dk_at dksX0_as_1 23 rfl rfl)
theorem dX0_as_48 : decode cX0_as 48 = .ok (.invokevirtual 143, 3) := dk_182 0 143 (dk_at dksX0_as_2 0 rfl rfl)
theorem dX0_as_51 : decode cX0_as 51 = .ok (.getfield 236, 3) := dk_180 0 236 (dk_at dksX0_as_2 3 rfl rfl)
theorem dX0_as_54 : decode cX0_as 54 = .ok (.goto 8, 3) := dk_167 0 8 (dk_at dksX0_as_2 6 rfl rfl)
theorem dX0_as_57 : decode cX0_as 57 = .ok (.aload_n 0, 1) := dk_42 (dk_at dksX0_as_2 9 rfl rfl)
theorem dX0_as_58 : decode cX0_as 58 = .ok (.iconst 5, 1) := dk_8 (dk_at dksX0_as_2 10 rfl rfl)
theorem dX0_as_59 : decode cX0_as 59 = .ok (.invokevirtual 217, 3) := dk_182 0 217 (dk_at dksX0_as_2 11 rfl rfl)
theorem dX0_as_62 : decode cX0_as 62 = .ok (.ireturn, 1) := dk_172 (dk_at dksX0_as_2 14 rfl rfl)
abbrev cX0_isOf : ByteArray := prog_1_method_3_code
def yX0_isOf : MethodName := ⟨RX0, "isOf", "(Ljava/lang/Object;I)Z"⟩
def dkwX0_isOf_3 : List UInt8 := [172, 42, 193, 0, 19, 172, 42, 193, 0, 22, 172]
abbrev dktX0_isOf_3 : List UInt8 := dkwX0_isOf_3 ++ []
def dkwX0_isOf_2 : List UInt8 := [42, 193, 0, 1, 172, 42, 193, 0, 7, 172, 42, 193, 0, 10, 172, 42, 193, 0, 13, 172, 42, 193, 0, 16]
abbrev dktX0_isOf_2 : List UInt8 := dkwX0_isOf_2 ++ dktX0_isOf_3
def dkwX0_isOf_1 : List UInt8 := [170, 0, 0, 0, 0, 0, 69, 0, 0, 0, 1, 0, 0, 0, 6, 0, 0, 0, 39, 0, 0, 0, 44, 0, 0, 0, 49, 0, 0, 0, 54, 0, 0, 0, 59, 0, 0, 0, 64]
abbrev dktX0_isOf_1 : List UInt8 := dkwX0_isOf_1 ++ dktX0_isOf_2
def dkwX0_isOf_0 : List UInt8 := [27]
abbrev dktX0_isOf_0 : List UInt8 := dkwX0_isOf_0 ++ dktX0_isOf_1
theorem dksX0_isOf_0 : cX0_isOf.data.toList.drop 0 = dktX0_isOf_0 := by decide +kernel
theorem dksX0_isOf_1 : cX0_isOf.data.toList.drop 1 = dktX0_isOf_1 := dk_seg dksX0_isOf_0 1 rfl rfl
theorem dksX0_isOf_2 : cX0_isOf.data.toList.drop 40 = dktX0_isOf_2 := dk_seg dksX0_isOf_1 39 rfl rfl
theorem dksX0_isOf_3 : cX0_isOf.data.toList.drop 64 = dktX0_isOf_3 := dk_seg dksX0_isOf_2 24 rfl rfl
theorem dX0_isOf_0 : decode cX0_isOf 0 = .ok (.iload_n 1, 1) := dk_27 (dk_at dksX0_isOf_0 0 rfl rfl)
theorem dX0_isOf_1 : decode cX0_isOf 1 = .ok (.tableswitch 69 1 6 #[39, 44, 49, 54, 59, 64], 39) := by decide +kernel
theorem dX0_isOf_40 : decode cX0_isOf 40 = .ok (.aload_n 0, 1) := dk_42 (dk_at dksX0_isOf_2 0 rfl rfl)
theorem dX0_isOf_41 : decode cX0_isOf 41 = .ok (.instanceof 1, 3) := dk_193 0 1 (dk_at dksX0_isOf_2 1 rfl rfl)
theorem dX0_isOf_44 : decode cX0_isOf 44 = .ok (.ireturn, 1) := dk_172 (dk_at dksX0_isOf_2 4 rfl rfl)
theorem dX0_isOf_45 : decode cX0_isOf 45 = .ok (.aload_n 0, 1) := dk_42 (dk_at dksX0_isOf_2 5 rfl rfl)
theorem dX0_isOf_46 : decode cX0_isOf 46 = .ok (.instanceof 7, 3) := dk_193 0 7 (dk_at dksX0_isOf_2 6 rfl rfl)
theorem dX0_isOf_49 : decode cX0_isOf 49 = .ok (.ireturn, 1) := dk_172 (dk_at dksX0_isOf_2 9 rfl rfl)
theorem dX0_isOf_50 : decode cX0_isOf 50 = .ok (.aload_n 0, 1) := dk_42 (dk_at dksX0_isOf_2 10 rfl rfl)
theorem dX0_isOf_51 : decode cX0_isOf 51 = .ok (.instanceof 10, 3) := dk_193 0 10 (dk_at dksX0_isOf_2 11 rfl rfl)
theorem dX0_isOf_54 : decode cX0_isOf 54 = .ok (.ireturn, 1) := dk_172 (dk_at dksX0_isOf_2 14 rfl rfl)
theorem dX0_isOf_55 : decode cX0_isOf 55 = .ok (.aload_n 0, 1) := dk_42 (dk_at dksX0_isOf_2 15 rfl rfl)
theorem dX0_isOf_56 : decode cX0_isOf 56 = .ok (.instanceof 13, 3) := dk_193 0 13 (dk_at dksX0_isOf_2 16 rfl rfl)
theorem dX0_isOf_59 : decode cX0_isOf 59 = .ok (.ireturn, 1) := dk_172 (dk_at dksX0_isOf_2 19 rfl rfl)
theorem dX0_isOf_60 : decode cX0_isOf 60 = .ok (.aload_n 0, 1) := dk_42 (dk_at dksX0_isOf_2 20 rfl rfl)
theorem dX0_isOf_61 : decode cX0_isOf 61 = .ok (.instanceof 16, 3) := dk_193 0 16 (dk_at dksX0_isOf_2 21 rfl rfl)
theorem dX0_isOf_64 : decode cX0_isOf 64 = .ok (.ireturn, 1) := dk_172 (dk_at dksX0_isOf_3 0 rfl rfl)
theorem dX0_isOf_65 : decode cX0_isOf 65 = .ok (.aload_n 0, 1) := dk_42 (dk_at dksX0_isOf_3 1 rfl rfl)
theorem dX0_isOf_66 : decode cX0_isOf 66 = .ok (.instanceof 19, 3) := dk_193 0 19 (dk_at dksX0_isOf_3 2 rfl rfl)
theorem dX0_isOf_69 : decode cX0_isOf 69 = .ok (.ireturn, 1) := dk_172 (dk_at dksX0_isOf_3 5 rfl rfl)
theorem dX0_isOf_70 : decode cX0_isOf 70 = .ok (.aload_n 0, 1) := dk_42 (dk_at dksX0_isOf_3 6 rfl rfl)
theorem dX0_isOf_71 : decode cX0_isOf 71 = .ok (.instanceof 22, 3) := dk_193 0 22 (dk_at dksX0_isOf_3 7 rfl rfl)
theorem dX0_isOf_74 : decode cX0_isOf 74 = .ok (.ireturn, 1) := dk_172 (dk_at dksX0_isOf_3 10 rfl rfl)
abbrev cX0_measure : ByteArray := prog_1_method_26_code
def yX0_measure : MethodName := ⟨RX0, "measure", "(II)I"⟩
def dkwX0_measure_1 : List UInt8 := [172, 42, 180, 0, 64, 180, 0, 165, 27, 46, 62, 42, 180, 0, 64, 180, 0, 165, 27, 28, 79, 29, 172]
abbrev dktX0_measure_1 : List UInt8 := dkwX0_measure_1 ++ []
def dkwX0_measure_0 : List UInt8 := [42, 27, 182, 0, 230, 153, 0, 14, 28, 16, 236, 16, 20, 184, 0, 116, 154, 0, 9, 42, 4, 182, 0, 217]
abbrev dktX0_measure_0 : List UInt8 := dkwX0_measure_0 ++ dktX0_measure_1
theorem dksX0_measure_0 : cX0_measure.data.toList.drop 0 = dktX0_measure_0 := by decide +kernel
theorem dksX0_measure_1 : cX0_measure.data.toList.drop 24 = dktX0_measure_1 := dk_seg dksX0_measure_0 24 rfl rfl
theorem dX0_measure_0 : decode cX0_measure 0 = .ok (.aload_n 0, 1) := dk_42 (dk_at dksX0_measure_0 0 rfl rfl)
theorem dX0_measure_1 : decode cX0_measure 1 = .ok (.iload_n 1, 1) := dk_27 (dk_at dksX0_measure_0 1 rfl rfl)
theorem dX0_measure_2 : decode cX0_measure 2 = .ok (.invokevirtual 230, 3) := dk_182 0 230 (dk_at dksX0_measure_0 2 rfl rfl)
theorem dX0_measure_5 : decode cX0_measure 5 = .ok (.ifCond .eq 14, 3) := dk_153 0 14 (dk_at dksX0_measure_0 5 rfl rfl)
theorem dX0_measure_8 : decode cX0_measure 8 = .ok (.iload_n 2, 1) := dk_28 (dk_at dksX0_measure_0 8 rfl rfl)
theorem dX0_measure_9 : decode cX0_measure 9 = .ok (.bipush (-20), 2) := dk_16 236 (dk_at dksX0_measure_0 9 rfl rfl)
theorem dX0_measure_11 : decode cX0_measure 11 = .ok (.bipush 20, 2) := dk_16 20 (dk_at dksX0_measure_0 11 rfl rfl)
theorem dX0_measure_13 : decode cX0_measure 13 = .ok (.invokestatic 116, 3) := dk_184 0 116 (dk_at dksX0_measure_0 13 rfl rfl)
theorem dX0_measure_16 : decode cX0_measure 16 = .ok (.ifCond .ne 9, 3) := dk_154 0 9 (dk_at dksX0_measure_0 16 rfl rfl)
theorem dX0_measure_19 : decode cX0_measure 19 = .ok (.aload_n 0, 1) := dk_42 (dk_at dksX0_measure_0 19 rfl rfl)
theorem dX0_measure_20 : decode cX0_measure 20 = .ok (.iconst 1, 1) := dk_4 (dk_at dksX0_measure_0 20 rfl rfl)
theorem dX0_measure_21 : decode cX0_measure 21 = .ok (.invokevirtual 217, 3) := dk_182 0 217 (dk_at dksX0_measure_0 21 rfl rfl)
theorem dX0_measure_24 : decode cX0_measure 24 = .ok (.ireturn, 1) := dk_172 (dk_at dksX0_measure_1 0 rfl rfl)
theorem dX0_measure_25 : decode cX0_measure 25 = .ok (.aload_n 0, 1) := dk_42 (dk_at dksX0_measure_1 1 rfl rfl)
theorem dX0_measure_26 : decode cX0_measure 26 = .ok (.getfield 64, 3) := dk_180 0 64 (dk_at dksX0_measure_1 2 rfl rfl)
theorem dX0_measure_29 : decode cX0_measure 29 = .ok (.getfield 165, 3) := dk_180 0 165 (dk_at dksX0_measure_1 5 rfl rfl)
theorem dX0_measure_32 : decode cX0_measure 32 = .ok (.iload_n 1, 1) := dk_27 (dk_at dksX0_measure_1 8 rfl rfl)
theorem dX0_measure_33 : decode cX0_measure 33 = .ok (.iaload, 1) := dk_46 (dk_at dksX0_measure_1 9 rfl rfl)
theorem dX0_measure_34 : decode cX0_measure 34 = .ok (.istore_n 3, 1) := dk_62 (dk_at dksX0_measure_1 10 rfl rfl)
theorem dX0_measure_35 : decode cX0_measure 35 = .ok (.aload_n 0, 1) := dk_42 (dk_at dksX0_measure_1 11 rfl rfl)
theorem dX0_measure_36 : decode cX0_measure 36 = .ok (.getfield 64, 3) := dk_180 0 64 (dk_at dksX0_measure_1 12 rfl rfl)
theorem dX0_measure_39 : decode cX0_measure 39 = .ok (.getfield 165, 3) := dk_180 0 165 (dk_at dksX0_measure_1 15 rfl rfl)
theorem dX0_measure_42 : decode cX0_measure 42 = .ok (.iload_n 1, 1) := dk_27 (dk_at dksX0_measure_1 18 rfl rfl)
theorem dX0_measure_43 : decode cX0_measure 43 = .ok (.iload_n 2, 1) := dk_28 (dk_at dksX0_measure_1 19 rfl rfl)
theorem dX0_measure_44 : decode cX0_measure 44 = .ok (.iastore, 1) := dk_79 (dk_at dksX0_measure_1 20 rfl rfl)
theorem dX0_measure_45 : decode cX0_measure 45 = .ok (.iload_n 3, 1) := dk_29 (dk_at dksX0_measure_1 21 rfl rfl)
theorem dX0_measure_46 : decode cX0_measure 46 = .ok (.ireturn, 1) := dk_172 (dk_at dksX0_measure_1 22 rfl rfl)
abbrev cX0_on : ByteArray := prog_1_method_27_code
def yX0_on : MethodName := ⟨RX0, "on", "(II)I"⟩
def dkwX0_on_1 : List UInt8 := [180, 0, 64, 180, 0, 188, 27, 46, 62, 42, 180, 0, 64, 180, 0, 188, 27, 28, 79, 29, 172]
abbrev dktX0_on_1 : List UInt8 := dkwX0_on_1 ++ []
def dkwX0_on_0 : List UInt8 := [42, 27, 182, 0, 230, 153, 0, 12, 28, 3, 4, 184, 0, 116, 154, 0, 9, 42, 4, 182, 0, 217, 172, 42]
abbrev dktX0_on_0 : List UInt8 := dkwX0_on_0 ++ dktX0_on_1
theorem dksX0_on_0 : cX0_on.data.toList.drop 0 = dktX0_on_0 := by decide +kernel
theorem dksX0_on_1 : cX0_on.data.toList.drop 24 = dktX0_on_1 := dk_seg dksX0_on_0 24 rfl rfl
theorem dX0_on_0 : decode cX0_on 0 = .ok (.aload_n 0, 1) := dk_42 (dk_at dksX0_on_0 0 rfl rfl)
theorem dX0_on_1 : decode cX0_on 1 = .ok (.iload_n 1, 1) := dk_27 (dk_at dksX0_on_0 1 rfl rfl)
theorem dX0_on_2 : decode cX0_on 2 = .ok (.invokevirtual 230, 3) := dk_182 0 230 (dk_at dksX0_on_0 2 rfl rfl)
theorem dX0_on_5 : decode cX0_on 5 = .ok (.ifCond .eq 12, 3) := dk_153 0 12 (dk_at dksX0_on_0 5 rfl rfl)
theorem dX0_on_8 : decode cX0_on 8 = .ok (.iload_n 2, 1) := dk_28 (dk_at dksX0_on_0 8 rfl rfl)
theorem dX0_on_9 : decode cX0_on 9 = .ok (.iconst 0, 1) := dk_3 (dk_at dksX0_on_0 9 rfl rfl)
theorem dX0_on_10 : decode cX0_on 10 = .ok (.iconst 1, 1) := dk_4 (dk_at dksX0_on_0 10 rfl rfl)
theorem dX0_on_11 : decode cX0_on 11 = .ok (.invokestatic 116, 3) := dk_184 0 116 (dk_at dksX0_on_0 11 rfl rfl)
theorem dX0_on_14 : decode cX0_on 14 = .ok (.ifCond .ne 9, 3) := dk_154 0 9 (dk_at dksX0_on_0 14 rfl rfl)
theorem dX0_on_17 : decode cX0_on 17 = .ok (.aload_n 0, 1) := dk_42 (dk_at dksX0_on_0 17 rfl rfl)
theorem dX0_on_18 : decode cX0_on 18 = .ok (.iconst 1, 1) := dk_4 (dk_at dksX0_on_0 18 rfl rfl)
theorem dX0_on_19 : decode cX0_on 19 = .ok (.invokevirtual 217, 3) := dk_182 0 217 (dk_at dksX0_on_0 19 rfl rfl)
theorem dX0_on_22 : decode cX0_on 22 = .ok (.ireturn, 1) := dk_172 (dk_at dksX0_on_0 22 rfl rfl)
theorem dX0_on_23 : decode cX0_on 23 = .ok (.aload_n 0, 1) := dk_42 (dk_at dksX0_on_0 23 rfl rfl)
theorem dX0_on_24 : decode cX0_on 24 = .ok (.getfield 64, 3) := dk_180 0 64 (dk_at dksX0_on_1 0 rfl rfl)
theorem dX0_on_27 : decode cX0_on 27 = .ok (.getfield 188, 3) := dk_180 0 188 (dk_at dksX0_on_1 3 rfl rfl)
theorem dX0_on_30 : decode cX0_on 30 = .ok (.iload_n 1, 1) := dk_27 (dk_at dksX0_on_1 6 rfl rfl)
theorem dX0_on_31 : decode cX0_on 31 = .ok (.iaload, 1) := dk_46 (dk_at dksX0_on_1 7 rfl rfl)
theorem dX0_on_32 : decode cX0_on 32 = .ok (.istore_n 3, 1) := dk_62 (dk_at dksX0_on_1 8 rfl rfl)
theorem dX0_on_33 : decode cX0_on 33 = .ok (.aload_n 0, 1) := dk_42 (dk_at dksX0_on_1 9 rfl rfl)
theorem dX0_on_34 : decode cX0_on 34 = .ok (.getfield 64, 3) := dk_180 0 64 (dk_at dksX0_on_1 10 rfl rfl)
theorem dX0_on_37 : decode cX0_on 37 = .ok (.getfield 188, 3) := dk_180 0 188 (dk_at dksX0_on_1 13 rfl rfl)
theorem dX0_on_40 : decode cX0_on 40 = .ok (.iload_n 1, 1) := dk_27 (dk_at dksX0_on_1 16 rfl rfl)
theorem dX0_on_41 : decode cX0_on 41 = .ok (.iload_n 2, 1) := dk_28 (dk_at dksX0_on_1 17 rfl rfl)
theorem dX0_on_42 : decode cX0_on 42 = .ok (.iastore, 1) := dk_79 (dk_at dksX0_on_1 18 rfl rfl)
theorem dX0_on_43 : decode cX0_on 43 = .ok (.iload_n 3, 1) := dk_29 (dk_at dksX0_on_1 19 rfl rfl)
theorem dX0_on_44 : decode cX0_on 44 = .ok (.ireturn, 1) := dk_172 (dk_at dksX0_on_1 20 rfl rfl)
abbrev cX0_pictures : ByteArray := prog_1_method_28_code
def yX0_pictures : MethodName := ⟨RX0, "pictures", "(I)I"⟩
def dkwX0_pictures_3 : List UInt8 := [180, 0, 64, 180, 0, 120, 61, 42, 180, 0, 64, 27, 181, 0, 120, 28, 172]
abbrev dktX0_pictures_3 : List UInt8 := dkwX0_pictures_3 ++ []
def dkwX0_pictures_2 : List UInt8 := [180, 0, 194, 28, 46, 27, 161, 0, 9, 42, 6, 182, 0, 217, 172, 132, 2, 1, 167, 255, 210, 42]
abbrev dktX0_pictures_2 : List UInt8 := dkwX0_pictures_2 ++ dktX0_pictures_3
def dkwX0_pictures_1 : List UInt8 := [180, 0, 113, 162, 0, 41, 42, 180, 0, 64, 180, 0, 191, 28, 46, 27, 162, 0, 16, 42, 180, 0, 64]
abbrev dktX0_pictures_1 : List UInt8 := dkwX0_pictures_1 ++ dktX0_pictures_2
def dkwX0_pictures_0 : List UInt8 := [27, 4, 7, 184, 0, 116, 154, 0, 9, 42, 4, 182, 0, 217, 172, 3, 61, 28, 42, 180, 0, 64]
abbrev dktX0_pictures_0 : List UInt8 := dkwX0_pictures_0 ++ dktX0_pictures_1
theorem dksX0_pictures_0 : cX0_pictures.data.toList.drop 0 = dktX0_pictures_0 := by decide +kernel
theorem dksX0_pictures_1 : cX0_pictures.data.toList.drop 22 = dktX0_pictures_1 := dk_seg dksX0_pictures_0 22 rfl rfl
theorem dksX0_pictures_2 : cX0_pictures.data.toList.drop 45 = dktX0_pictures_2 := dk_seg dksX0_pictures_1 23 rfl rfl
theorem dksX0_pictures_3 : cX0_pictures.data.toList.drop 67 = dktX0_pictures_3 := dk_seg dksX0_pictures_2 22 rfl rfl
theorem dX0_pictures_0 : decode cX0_pictures 0 = .ok (.iload_n 1, 1) := dk_27 (dk_at dksX0_pictures_0 0 rfl rfl)
theorem dX0_pictures_1 : decode cX0_pictures 1 = .ok (.iconst 1, 1) := dk_4 (dk_at dksX0_pictures_0 1 rfl rfl)
theorem dX0_pictures_2 : decode cX0_pictures 2 = .ok (.iconst 4, 1) := dk_7 (dk_at dksX0_pictures_0 2 rfl rfl)
theorem dX0_pictures_3 : decode cX0_pictures 3 = .ok (.invokestatic 116, 3) := dk_184 0 116 (dk_at dksX0_pictures_0 3 rfl rfl)
theorem dX0_pictures_6 : decode cX0_pictures 6 = .ok (.ifCond .ne 9, 3) := dk_154 0 9 (dk_at dksX0_pictures_0 6 rfl rfl)
theorem dX0_pictures_9 : decode cX0_pictures 9 = .ok (.aload_n 0, 1) := dk_42 (dk_at dksX0_pictures_0 9 rfl rfl)
theorem dX0_pictures_10 : decode cX0_pictures 10 = .ok (.iconst 1, 1) := dk_4 (dk_at dksX0_pictures_0 10 rfl rfl)
theorem dX0_pictures_11 : decode cX0_pictures 11 = .ok (.invokevirtual 217, 3) := dk_182 0 217 (dk_at dksX0_pictures_0 11 rfl rfl)
theorem dX0_pictures_14 : decode cX0_pictures 14 = .ok (.ireturn, 1) := dk_172 (dk_at dksX0_pictures_0 14 rfl rfl)
theorem dX0_pictures_15 : decode cX0_pictures 15 = .ok (.iconst 0, 1) := dk_3 (dk_at dksX0_pictures_0 15 rfl rfl)
theorem dX0_pictures_16 : decode cX0_pictures 16 = .ok (.istore_n 2, 1) := dk_61 (dk_at dksX0_pictures_0 16 rfl rfl)
theorem dX0_pictures_17 : decode cX0_pictures 17 = .ok (.iload_n 2, 1) := dk_28 (dk_at dksX0_pictures_0 17 rfl rfl)
theorem dX0_pictures_18 : decode cX0_pictures 18 = .ok (.aload_n 0, 1) := dk_42 (dk_at dksX0_pictures_0 18 rfl rfl)
theorem dX0_pictures_19 : decode cX0_pictures 19 = .ok (.getfield 64, 3) := dk_180 0 64 (dk_at dksX0_pictures_0 19 rfl rfl)
theorem dX0_pictures_22 : decode cX0_pictures 22 = .ok (.getfield 113, 3) := dk_180 0 113 (dk_at dksX0_pictures_1 0 rfl rfl)
theorem dX0_pictures_25 : decode cX0_pictures 25 = .ok (.if_icmp .ge 41, 3) := dk_162 0 41 (dk_at dksX0_pictures_1 3 rfl rfl)
theorem dX0_pictures_28 : decode cX0_pictures 28 = .ok (.aload_n 0, 1) := dk_42 (dk_at dksX0_pictures_1 6 rfl rfl)
theorem dX0_pictures_29 : decode cX0_pictures 29 = .ok (.getfield 64, 3) := dk_180 0 64 (dk_at dksX0_pictures_1 7 rfl rfl)
theorem dX0_pictures_32 : decode cX0_pictures 32 = .ok (.getfield 191, 3) := dk_180 0 191 (dk_at dksX0_pictures_1 10 rfl rfl)
theorem dX0_pictures_35 : decode cX0_pictures 35 = .ok (.iload_n 2, 1) := dk_28 (dk_at dksX0_pictures_1 13 rfl rfl)
theorem dX0_pictures_36 : decode cX0_pictures 36 = .ok (.iaload, 1) := dk_46 (dk_at dksX0_pictures_1 14 rfl rfl)
theorem dX0_pictures_37 : decode cX0_pictures 37 = .ok (.iload_n 1, 1) := dk_27 (dk_at dksX0_pictures_1 15 rfl rfl)
theorem dX0_pictures_38 : decode cX0_pictures 38 = .ok (.if_icmp .ge 16, 3) := dk_162 0 16 (dk_at dksX0_pictures_1 16 rfl rfl)
theorem dX0_pictures_41 : decode cX0_pictures 41 = .ok (.aload_n 0, 1) := dk_42 (dk_at dksX0_pictures_1 19 rfl rfl)
theorem dX0_pictures_42 : decode cX0_pictures 42 = .ok (.getfield 64, 3) := dk_180 0 64 (dk_at dksX0_pictures_1 20 rfl rfl)
theorem dX0_pictures_45 : decode cX0_pictures 45 = .ok (.getfield 194, 3) := dk_180 0 194 (dk_at dksX0_pictures_2 0 rfl rfl)
theorem dX0_pictures_48 : decode cX0_pictures 48 = .ok (.iload_n 2, 1) := dk_28 (dk_at dksX0_pictures_2 3 rfl rfl)
theorem dX0_pictures_49 : decode cX0_pictures 49 = .ok (.iaload, 1) := dk_46 (dk_at dksX0_pictures_2 4 rfl rfl)
theorem dX0_pictures_50 : decode cX0_pictures 50 = .ok (.iload_n 1, 1) := dk_27 (dk_at dksX0_pictures_2 5 rfl rfl)
theorem dX0_pictures_51 : decode cX0_pictures 51 = .ok (.if_icmp .lt 9, 3) := dk_161 0 9 (dk_at dksX0_pictures_2 6 rfl rfl)
theorem dX0_pictures_54 : decode cX0_pictures 54 = .ok (.aload_n 0, 1) := dk_42 (dk_at dksX0_pictures_2 9 rfl rfl)
theorem dX0_pictures_55 : decode cX0_pictures 55 = .ok (.iconst 3, 1) := dk_6 (dk_at dksX0_pictures_2 10 rfl rfl)
theorem dX0_pictures_56 : decode cX0_pictures 56 = .ok (.invokevirtual 217, 3) := dk_182 0 217 (dk_at dksX0_pictures_2 11 rfl rfl)
theorem dX0_pictures_59 : decode cX0_pictures 59 = .ok (.ireturn, 1) := dk_172 (dk_at dksX0_pictures_2 14 rfl rfl)
theorem dX0_pictures_60 : decode cX0_pictures 60 = .ok (.iinc 2 1, 3) := dk_132 2 1 (dk_at dksX0_pictures_2 15 rfl rfl)
theorem dX0_pictures_63 : decode cX0_pictures 63 = .ok (.goto (-46), 3) := dk_167 255 210 (dk_at dksX0_pictures_2 18 rfl rfl)
theorem dX0_pictures_66 : decode cX0_pictures 66 = .ok (.aload_n 0, 1) := dk_42 (dk_at dksX0_pictures_2 21 rfl rfl)
theorem dX0_pictures_67 : decode cX0_pictures 67 = .ok (.getfield 64, 3) := dk_180 0 64 (dk_at dksX0_pictures_3 0 rfl rfl)
theorem dX0_pictures_70 : decode cX0_pictures 70 = .ok (.getfield 120, 3) := dk_180 0 120 (dk_at dksX0_pictures_3 3 rfl rfl)
theorem dX0_pictures_73 : decode cX0_pictures 73 = .ok (.istore_n 2, 1) := dk_61 (dk_at dksX0_pictures_3 6 rfl rfl)
theorem dX0_pictures_74 : decode cX0_pictures 74 = .ok (.aload_n 0, 1) := dk_42 (dk_at dksX0_pictures_3 7 rfl rfl)
theorem dX0_pictures_75 : decode cX0_pictures 75 = .ok (.getfield 64, 3) := dk_180 0 64 (dk_at dksX0_pictures_3 8 rfl rfl)
theorem dX0_pictures_78 : decode cX0_pictures 78 = .ok (.iload_n 1, 1) := dk_27 (dk_at dksX0_pictures_3 11 rfl rfl)
theorem dX0_pictures_79 : decode cX0_pictures 79 = .ok (.putfield 120, 3) := dk_181 0 120 (dk_at dksX0_pictures_3 12 rfl rfl)
theorem dX0_pictures_82 : decode cX0_pictures 82 = .ok (.iload_n 2, 1) := dk_28 (dk_at dksX0_pictures_3 15 rfl rfl)
theorem dX0_pictures_83 : decode cX0_pictures 83 = .ok (.ireturn, 1) := dk_172 (dk_at dksX0_pictures_3 16 rfl rfl)
abbrev cX0_limit : ByteArray := prog_1_method_29_code
def yX0_limit : MethodName := ⟨RX0, "limit", "(I)I"⟩
def dkwX0_limit_1 : List UInt8 := [42, 180, 0, 64, 27, 181, 0, 243, 28, 172]
abbrev dktX0_limit_1 : List UInt8 := dkwX0_limit_1 ++ []
def dkwX0_limit_0 : List UInt8 := [27, 3, 16, 99, 184, 0, 116, 154, 0, 9, 42, 4, 182, 0, 217, 172, 42, 180, 0, 64, 180, 0, 243, 61]
abbrev dktX0_limit_0 : List UInt8 := dkwX0_limit_0 ++ dktX0_limit_1
theorem dksX0_limit_0 : cX0_limit.data.toList.drop 0 = dktX0_limit_0 := by decide +kernel
theorem dksX0_limit_1 : cX0_limit.data.toList.drop 24 = dktX0_limit_1 := dk_seg dksX0_limit_0 24 rfl rfl
theorem dX0_limit_0 : decode cX0_limit 0 = .ok (.iload_n 1, 1) := dk_27 (dk_at dksX0_limit_0 0 rfl rfl)
theorem dX0_limit_1 : decode cX0_limit 1 = .ok (.iconst 0, 1) := dk_3 (dk_at dksX0_limit_0 1 rfl rfl)
theorem dX0_limit_2 : decode cX0_limit 2 = .ok (.bipush 99, 2) := dk_16 99 (dk_at dksX0_limit_0 2 rfl rfl)
theorem dX0_limit_4 : decode cX0_limit 4 = .ok (.invokestatic 116, 3) := dk_184 0 116 (dk_at dksX0_limit_0 4 rfl rfl)
theorem dX0_limit_7 : decode cX0_limit 7 = .ok (.ifCond .ne 9, 3) := dk_154 0 9 (dk_at dksX0_limit_0 7 rfl rfl)
theorem dX0_limit_10 : decode cX0_limit 10 = .ok (.aload_n 0, 1) := dk_42 (dk_at dksX0_limit_0 10 rfl rfl)
theorem dX0_limit_11 : decode cX0_limit 11 = .ok (.iconst 1, 1) := dk_4 (dk_at dksX0_limit_0 11 rfl rfl)
theorem dX0_limit_12 : decode cX0_limit 12 = .ok (.invokevirtual 217, 3) := dk_182 0 217 (dk_at dksX0_limit_0 12 rfl rfl)
theorem dX0_limit_15 : decode cX0_limit 15 = .ok (.ireturn, 1) := dk_172 (dk_at dksX0_limit_0 15 rfl rfl)
theorem dX0_limit_16 : decode cX0_limit 16 = .ok (.aload_n 0, 1) := dk_42 (dk_at dksX0_limit_0 16 rfl rfl)
theorem dX0_limit_17 : decode cX0_limit 17 = .ok (.getfield 64, 3) := dk_180 0 64 (dk_at dksX0_limit_0 17 rfl rfl)
theorem dX0_limit_20 : decode cX0_limit 20 = .ok (.getfield 243, 3) := dk_180 0 243 (dk_at dksX0_limit_0 20 rfl rfl)
theorem dX0_limit_23 : decode cX0_limit 23 = .ok (.istore_n 2, 1) := dk_61 (dk_at dksX0_limit_0 23 rfl rfl)
theorem dX0_limit_24 : decode cX0_limit 24 = .ok (.aload_n 0, 1) := dk_42 (dk_at dksX0_limit_1 0 rfl rfl)
theorem dX0_limit_25 : decode cX0_limit 25 = .ok (.getfield 64, 3) := dk_180 0 64 (dk_at dksX0_limit_1 1 rfl rfl)
theorem dX0_limit_28 : decode cX0_limit 28 = .ok (.iload_n 1, 1) := dk_27 (dk_at dksX0_limit_1 4 rfl rfl)
theorem dX0_limit_29 : decode cX0_limit 29 = .ok (.putfield 243, 3) := dk_181 0 243 (dk_at dksX0_limit_1 5 rfl rfl)
theorem dX0_limit_32 : decode cX0_limit 32 = .ok (.iload_n 2, 1) := dk_28 (dk_at dksX0_limit_1 8 rfl rfl)
theorem dX0_limit_33 : decode cX0_limit 33 = .ok (.ireturn, 1) := dk_172 (dk_at dksX0_limit_1 9 rfl rfl)
abbrev cX0_feed : ByteArray := prog_1_method_30_code
def yX0_feed : MethodName := ⟨RX0, "feed", "(JI)I"⟩
def dkwX0_feed_4 : List UInt8 := [180, 0, 246, 172]
abbrev dktX0_feed_4 : List UInt8 := dkwX0_feed_4 ++ []
def dkwX0_feed_3 : List UInt8 := [180, 0, 64, 89, 180, 0, 246, 4, 96, 181, 0, 246, 132, 4, 1, 167, 255, 210, 42, 180, 0, 64]
abbrev dktX0_feed_3 : List UInt8 := dkwX0_feed_3 ++ dktX0_feed_4
def dkwX0_feed_2 : List UInt8 := [180, 0, 64, 180, 0, 249, 42, 180, 0, 64, 180, 0, 246, 31, 16, 8, 21, 4, 104, 123, 136, 145, 84, 42]
abbrev dktX0_feed_2 : List UInt8 := dkwX0_feed_2 ++ dktX0_feed_3
def dkwX0_feed_1 : List UInt8 := [96, 16, 60, 164, 0, 9, 42, 7, 182, 0, 217, 172, 3, 54, 4, 21, 4, 29, 162, 0, 46, 42]
abbrev dktX0_feed_1 : List UInt8 := dkwX0_feed_1 ++ dktX0_feed_2
def dkwX0_feed_0 : List UInt8 := [29, 4, 16, 8, 184, 0, 116, 154, 0, 9, 42, 4, 182, 0, 217, 172, 42, 180, 0, 64, 180, 0, 246, 29]
abbrev dktX0_feed_0 : List UInt8 := dkwX0_feed_0 ++ dktX0_feed_1
theorem dksX0_feed_0 : cX0_feed.data.toList.drop 0 = dktX0_feed_0 := by decide +kernel
theorem dksX0_feed_1 : cX0_feed.data.toList.drop 24 = dktX0_feed_1 := dk_seg dksX0_feed_0 24 rfl rfl
theorem dksX0_feed_2 : cX0_feed.data.toList.drop 46 = dktX0_feed_2 := dk_seg dksX0_feed_1 22 rfl rfl
theorem dksX0_feed_3 : cX0_feed.data.toList.drop 70 = dktX0_feed_3 := dk_seg dksX0_feed_2 24 rfl rfl
theorem dksX0_feed_4 : cX0_feed.data.toList.drop 92 = dktX0_feed_4 := dk_seg dksX0_feed_3 22 rfl rfl
theorem dX0_feed_0 : decode cX0_feed 0 = .ok (.iload_n 3, 1) := dk_29 (dk_at dksX0_feed_0 0 rfl rfl)
theorem dX0_feed_1 : decode cX0_feed 1 = .ok (.iconst 1, 1) := dk_4 (dk_at dksX0_feed_0 1 rfl rfl)
theorem dX0_feed_2 : decode cX0_feed 2 = .ok (.bipush 8, 2) := dk_16 8 (dk_at dksX0_feed_0 2 rfl rfl)
theorem dX0_feed_4 : decode cX0_feed 4 = .ok (.invokestatic 116, 3) := dk_184 0 116 (dk_at dksX0_feed_0 4 rfl rfl)
theorem dX0_feed_7 : decode cX0_feed 7 = .ok (.ifCond .ne 9, 3) := dk_154 0 9 (dk_at dksX0_feed_0 7 rfl rfl)
theorem dX0_feed_10 : decode cX0_feed 10 = .ok (.aload_n 0, 1) := dk_42 (dk_at dksX0_feed_0 10 rfl rfl)
theorem dX0_feed_11 : decode cX0_feed 11 = .ok (.iconst 1, 1) := dk_4 (dk_at dksX0_feed_0 11 rfl rfl)
theorem dX0_feed_12 : decode cX0_feed 12 = .ok (.invokevirtual 217, 3) := dk_182 0 217 (dk_at dksX0_feed_0 12 rfl rfl)
theorem dX0_feed_15 : decode cX0_feed 15 = .ok (.ireturn, 1) := dk_172 (dk_at dksX0_feed_0 15 rfl rfl)
theorem dX0_feed_16 : decode cX0_feed 16 = .ok (.aload_n 0, 1) := dk_42 (dk_at dksX0_feed_0 16 rfl rfl)
theorem dX0_feed_17 : decode cX0_feed 17 = .ok (.getfield 64, 3) := dk_180 0 64 (dk_at dksX0_feed_0 17 rfl rfl)
theorem dX0_feed_20 : decode cX0_feed 20 = .ok (.getfield 246, 3) := dk_180 0 246 (dk_at dksX0_feed_0 20 rfl rfl)
theorem dX0_feed_23 : decode cX0_feed 23 = .ok (.iload_n 3, 1) := dk_29 (dk_at dksX0_feed_0 23 rfl rfl)
theorem dX0_feed_24 : decode cX0_feed 24 = .ok (.iadd, 1) := dk_96 (dk_at dksX0_feed_1 0 rfl rfl)
theorem dX0_feed_25 : decode cX0_feed 25 = .ok (.bipush 60, 2) := dk_16 60 (dk_at dksX0_feed_1 1 rfl rfl)
theorem dX0_feed_27 : decode cX0_feed 27 = .ok (.if_icmp .le 9, 3) := dk_164 0 9 (dk_at dksX0_feed_1 3 rfl rfl)
theorem dX0_feed_30 : decode cX0_feed 30 = .ok (.aload_n 0, 1) := dk_42 (dk_at dksX0_feed_1 6 rfl rfl)
theorem dX0_feed_31 : decode cX0_feed 31 = .ok (.iconst 4, 1) := dk_7 (dk_at dksX0_feed_1 7 rfl rfl)
theorem dX0_feed_32 : decode cX0_feed 32 = .ok (.invokevirtual 217, 3) := dk_182 0 217 (dk_at dksX0_feed_1 8 rfl rfl)
theorem dX0_feed_35 : decode cX0_feed 35 = .ok (.ireturn, 1) := dk_172 (dk_at dksX0_feed_1 11 rfl rfl)
theorem dX0_feed_36 : decode cX0_feed 36 = .ok (.iconst 0, 1) := dk_3 (dk_at dksX0_feed_1 12 rfl rfl)
theorem dX0_feed_37 : decode cX0_feed 37 = .ok (.istore 4, 2) := dk_54 4 (dk_at dksX0_feed_1 13 rfl rfl)
theorem dX0_feed_39 : decode cX0_feed 39 = .ok (.iload 4, 2) := dk_21 4 (dk_at dksX0_feed_1 15 rfl rfl)
theorem dX0_feed_41 : decode cX0_feed 41 = .ok (.iload_n 3, 1) := dk_29 (dk_at dksX0_feed_1 17 rfl rfl)
theorem dX0_feed_42 : decode cX0_feed 42 = .ok (.if_icmp .ge 46, 3) := dk_162 0 46 (dk_at dksX0_feed_1 18 rfl rfl)
theorem dX0_feed_45 : decode cX0_feed 45 = .ok (.aload_n 0, 1) := dk_42 (dk_at dksX0_feed_1 21 rfl rfl)
theorem dX0_feed_46 : decode cX0_feed 46 = .ok (.getfield 64, 3) := dk_180 0 64 (dk_at dksX0_feed_2 0 rfl rfl)
theorem dX0_feed_49 : decode cX0_feed 49 = .ok (.getfield 249, 3) := dk_180 0 249 (dk_at dksX0_feed_2 3 rfl rfl)
theorem dX0_feed_52 : decode cX0_feed 52 = .ok (.aload_n 0, 1) := dk_42 (dk_at dksX0_feed_2 6 rfl rfl)
theorem dX0_feed_53 : decode cX0_feed 53 = .ok (.getfield 64, 3) := dk_180 0 64 (dk_at dksX0_feed_2 7 rfl rfl)
theorem dX0_feed_56 : decode cX0_feed 56 = .ok (.getfield 246, 3) := dk_180 0 246 (dk_at dksX0_feed_2 10 rfl rfl)
theorem dX0_feed_59 : decode cX0_feed 59 = .ok (.lload_n 1, 1) := dk_31 (dk_at dksX0_feed_2 13 rfl rfl)
theorem dX0_feed_60 : decode cX0_feed 60 = .ok (.bipush 8, 2) := dk_16 8 (dk_at dksX0_feed_2 14 rfl rfl)
theorem dX0_feed_62 : decode cX0_feed 62 = .ok (.iload 4, 2) := dk_21 4 (dk_at dksX0_feed_2 16 rfl rfl)
theorem dX0_feed_64 : decode cX0_feed 64 = .ok (.imul, 1) := dk_104 (dk_at dksX0_feed_2 18 rfl rfl)
theorem dX0_feed_65 : decode cX0_feed 65 = .ok (.lshr, 1) := dk_123 (dk_at dksX0_feed_2 19 rfl rfl)
theorem dX0_feed_66 : decode cX0_feed 66 = .ok (.l2i, 1) := dk_136 (dk_at dksX0_feed_2 20 rfl rfl)
theorem dX0_feed_67 : decode cX0_feed 67 = .ok (.i2b, 1) := dk_145 (dk_at dksX0_feed_2 21 rfl rfl)
theorem dX0_feed_68 : decode cX0_feed 68 = .ok (.bastore, 1) := dk_84 (dk_at dksX0_feed_2 22 rfl rfl)
theorem dX0_feed_69 : decode cX0_feed 69 = .ok (.aload_n 0, 1) := dk_42 (dk_at dksX0_feed_2 23 rfl rfl)
theorem dX0_feed_70 : decode cX0_feed 70 = .ok (.getfield 64, 3) := dk_180 0 64 (dk_at dksX0_feed_3 0 rfl rfl)
theorem dX0_feed_73 : decode cX0_feed 73 = .ok (.dup, 1) := dk_89 (dk_at dksX0_feed_3 3 rfl rfl)
theorem dX0_feed_74 : decode cX0_feed 74 = .ok (.getfield 246, 3) := dk_180 0 246 (dk_at dksX0_feed_3 4 rfl rfl)
theorem dX0_feed_77 : decode cX0_feed 77 = .ok (.iconst 1, 1) := dk_4 (dk_at dksX0_feed_3 7 rfl rfl)
theorem dX0_feed_78 : decode cX0_feed 78 = .ok (.iadd, 1) := dk_96 (dk_at dksX0_feed_3 8 rfl rfl)
theorem dX0_feed_79 : decode cX0_feed 79 = .ok (.putfield 246, 3) := dk_181 0 246 (dk_at dksX0_feed_3 9 rfl rfl)
theorem dX0_feed_82 : decode cX0_feed 82 = .ok (.iinc 4 1, 3) := dk_132 4 1 (dk_at dksX0_feed_3 12 rfl rfl)
theorem dX0_feed_85 : decode cX0_feed 85 = .ok (.goto (-46), 3) := dk_167 255 210 (dk_at dksX0_feed_3 15 rfl rfl)
theorem dX0_feed_88 : decode cX0_feed 88 = .ok (.aload_n 0, 1) := dk_42 (dk_at dksX0_feed_3 18 rfl rfl)
theorem dX0_feed_89 : decode cX0_feed 89 = .ok (.getfield 64, 3) := dk_180 0 64 (dk_at dksX0_feed_3 19 rfl rfl)
theorem dX0_feed_92 : decode cX0_feed 92 = .ok (.getfield 246, 3) := dk_180 0 246 (dk_at dksX0_feed_4 0 rfl rfl)
theorem dX0_feed_95 : decode cX0_feed 95 = .ok (.ireturn, 1) := dk_172 (dk_at dksX0_feed_4 3 rfl rfl)
abbrev cX0_text : ByteArray := prog_1_method_32_code
def yX0_text : MethodName := ⟨RX0, "text", "(I)I"⟩
def dkwX0_text_4 : List UInt8 := [25, 5, 191]
abbrev dktX0_text_4 : List UInt8 := dkwX0_text_4 ++ []
def dkwX0_text_3 : List UInt8 := [54, 4, 42, 180, 0, 64, 3, 181, 0, 246, 21, 4, 172, 58, 5, 42, 180, 0, 64, 3, 181, 0, 246]
abbrev dktX0_text_3 : List UInt8 := dkwX0_text_3 ++ dktX0_text_4
def dkwX0_text_2 : List UInt8 := [182, 1, 8, 83, 4, 62, 42, 180, 0, 64, 3, 181, 0, 246, 29, 172, 78, 16, 246, 45, 180, 1, 14, 100]
abbrev dktX0_text_2 : List UInt8 := dkwX0_text_2 ++ dktX0_text_3
def dkwX0_text_1 : List UInt8 := [42, 180, 0, 64, 180, 0, 246, 27, 184, 1, 1, 183, 1, 5, 77, 42, 180, 0, 64, 180, 0, 132, 27, 44]
abbrev dktX0_text_1 : List UInt8 := dkwX0_text_1 ++ dktX0_text_2
def dkwX0_text_0 : List UInt8 := [27, 184, 0, 252, 154, 0, 9, 42, 4, 182, 0, 217, 172, 187, 0, 255, 89, 42, 180, 0, 64, 180, 0, 249]
abbrev dktX0_text_0 : List UInt8 := dkwX0_text_0 ++ dktX0_text_1
theorem dksX0_text_0 : cX0_text.data.toList.drop 0 = dktX0_text_0 := by decide +kernel
theorem dksX0_text_1 : cX0_text.data.toList.drop 24 = dktX0_text_1 := dk_seg dksX0_text_0 24 rfl rfl
theorem dksX0_text_2 : cX0_text.data.toList.drop 48 = dktX0_text_2 := dk_seg dksX0_text_1 24 rfl rfl
theorem dksX0_text_3 : cX0_text.data.toList.drop 72 = dktX0_text_3 := dk_seg dksX0_text_2 24 rfl rfl
theorem dksX0_text_4 : cX0_text.data.toList.drop 95 = dktX0_text_4 := dk_seg dksX0_text_3 23 rfl rfl
theorem dX0_text_0 : decode cX0_text 0 = .ok (.iload_n 1, 1) := dk_27 (dk_at dksX0_text_0 0 rfl rfl)
theorem dX0_text_1 : decode cX0_text 1 = .ok (.invokestatic 252, 3) := dk_184 0 252 (dk_at dksX0_text_0 1 rfl rfl)
theorem dX0_text_4 : decode cX0_text 4 = .ok (.ifCond .ne 9, 3) := dk_154 0 9 (dk_at dksX0_text_0 4 rfl rfl)
theorem dX0_text_7 : decode cX0_text 7 = .ok (.aload_n 0, 1) := dk_42 (dk_at dksX0_text_0 7 rfl rfl)
theorem dX0_text_8 : decode cX0_text 8 = .ok (.iconst 1, 1) := dk_4 (dk_at dksX0_text_0 8 rfl rfl)
theorem dX0_text_9 : decode cX0_text 9 = .ok (.invokevirtual 217, 3) := dk_182 0 217 (dk_at dksX0_text_0 9 rfl rfl)
theorem dX0_text_12 : decode cX0_text 12 = .ok (.ireturn, 1) := dk_172 (dk_at dksX0_text_0 12 rfl rfl)
theorem dX0_text_13 : decode cX0_text 13 = .ok (.new 255, 3) := dk_187 0 255 (dk_at dksX0_text_0 13 rfl rfl)
theorem dX0_text_16 : decode cX0_text 16 = .ok (.dup, 1) := dk_89 (dk_at dksX0_text_0 16 rfl rfl)
theorem dX0_text_17 : decode cX0_text 17 = .ok (.aload_n 0, 1) := dk_42 (dk_at dksX0_text_0 17 rfl rfl)
theorem dX0_text_18 : decode cX0_text 18 = .ok (.getfield 64, 3) := dk_180 0 64 (dk_at dksX0_text_0 18 rfl rfl)
theorem dX0_text_21 : decode cX0_text 21 = .ok (.getfield 249, 3) := dk_180 0 249 (dk_at dksX0_text_0 21 rfl rfl)
theorem dX0_text_24 : decode cX0_text 24 = .ok (.aload_n 0, 1) := dk_42 (dk_at dksX0_text_1 0 rfl rfl)
theorem dX0_text_25 : decode cX0_text 25 = .ok (.getfield 64, 3) := dk_180 0 64 (dk_at dksX0_text_1 1 rfl rfl)
theorem dX0_text_28 : decode cX0_text 28 = .ok (.getfield 246, 3) := dk_180 0 246 (dk_at dksX0_text_1 4 rfl rfl)
theorem dX0_text_31 : decode cX0_text 31 = .ok (.iload_n 1, 1) := dk_27 (dk_at dksX0_text_1 7 rfl rfl)
theorem dX0_text_32 : decode cX0_text 32 = .ok (.invokestatic 257, 3) := dk_184 1 1 (dk_at dksX0_text_1 8 rfl rfl)
theorem dX0_text_35 : decode cX0_text 35 = .ok (.invokespecial 261, 3) := dk_183 1 5 (dk_at dksX0_text_1 11 rfl rfl)
theorem dX0_text_38 : decode cX0_text 38 = .ok (.astore_n 2, 1) := dk_77 (dk_at dksX0_text_1 14 rfl rfl)
theorem dX0_text_39 : decode cX0_text 39 = .ok (.aload_n 0, 1) := dk_42 (dk_at dksX0_text_1 15 rfl rfl)
theorem dX0_text_40 : decode cX0_text 40 = .ok (.getfield 64, 3) := dk_180 0 64 (dk_at dksX0_text_1 16 rfl rfl)
theorem dX0_text_43 : decode cX0_text 43 = .ok (.getfield 132, 3) := dk_180 0 132 (dk_at dksX0_text_1 19 rfl rfl)
theorem dX0_text_46 : decode cX0_text 46 = .ok (.iload_n 1, 1) := dk_27 (dk_at dksX0_text_1 22 rfl rfl)
theorem dX0_text_47 : decode cX0_text 47 = .ok (.aload_n 2, 1) := dk_44 (dk_at dksX0_text_1 23 rfl rfl)
theorem dX0_text_48 : decode cX0_text 48 = .ok (.invokevirtual 264, 3) := dk_182 1 8 (dk_at dksX0_text_2 0 rfl rfl)
theorem dX0_text_51 : decode cX0_text 51 = .ok (.aastore, 1) := dk_83 (dk_at dksX0_text_2 3 rfl rfl)
theorem dX0_text_52 : decode cX0_text 52 = .ok (.iconst 1, 1) := dk_4 (dk_at dksX0_text_2 4 rfl rfl)
theorem dX0_text_53 : decode cX0_text 53 = .ok (.istore_n 3, 1) := dk_62 (dk_at dksX0_text_2 5 rfl rfl)
theorem dX0_text_54 : decode cX0_text 54 = .ok (.aload_n 0, 1) := dk_42 (dk_at dksX0_text_2 6 rfl rfl)
theorem dX0_text_55 : decode cX0_text 55 = .ok (.getfield 64, 3) := dk_180 0 64 (dk_at dksX0_text_2 7 rfl rfl)
theorem dX0_text_58 : decode cX0_text 58 = .ok (.iconst 0, 1) := dk_3 (dk_at dksX0_text_2 10 rfl rfl)
theorem dX0_text_59 : decode cX0_text 59 = .ok (.putfield 246, 3) := dk_181 0 246 (dk_at dksX0_text_2 11 rfl rfl)
theorem dX0_text_62 : decode cX0_text 62 = .ok (.iload_n 3, 1) := dk_29 (dk_at dksX0_text_2 14 rfl rfl)
theorem dX0_text_63 : decode cX0_text 63 = .ok (.ireturn, 1) := dk_172 (dk_at dksX0_text_2 15 rfl rfl)
theorem dX0_text_64 : decode cX0_text 64 = .ok (.astore_n 3, 1) := dk_78 (dk_at dksX0_text_2 16 rfl rfl)
theorem dX0_text_65 : decode cX0_text 65 = .ok (.bipush (-10), 2) := dk_16 246 (dk_at dksX0_text_2 17 rfl rfl)
theorem dX0_text_67 : decode cX0_text 67 = .ok (.aload_n 3, 1) := dk_45 (dk_at dksX0_text_2 19 rfl rfl)
theorem dX0_text_68 : decode cX0_text 68 = .ok (.getfield 270, 3) := dk_180 1 14 (dk_at dksX0_text_2 20 rfl rfl)
theorem dX0_text_71 : decode cX0_text 71 = .ok (.isub, 1) := dk_100 (dk_at dksX0_text_2 23 rfl rfl)
theorem dX0_text_72 : decode cX0_text 72 = .ok (.istore 4, 2) := dk_54 4 (dk_at dksX0_text_3 0 rfl rfl)
theorem dX0_text_74 : decode cX0_text 74 = .ok (.aload_n 0, 1) := dk_42 (dk_at dksX0_text_3 2 rfl rfl)
theorem dX0_text_75 : decode cX0_text 75 = .ok (.getfield 64, 3) := dk_180 0 64 (dk_at dksX0_text_3 3 rfl rfl)
theorem dX0_text_78 : decode cX0_text 78 = .ok (.iconst 0, 1) := dk_3 (dk_at dksX0_text_3 6 rfl rfl)
theorem dX0_text_79 : decode cX0_text 79 = .ok (.putfield 246, 3) := dk_181 0 246 (dk_at dksX0_text_3 7 rfl rfl)
theorem dX0_text_82 : decode cX0_text 82 = .ok (.iload 4, 2) := dk_21 4 (dk_at dksX0_text_3 10 rfl rfl)
theorem dX0_text_84 : decode cX0_text 84 = .ok (.ireturn, 1) := dk_172 (dk_at dksX0_text_3 12 rfl rfl)
theorem dX0_text_85 : decode cX0_text 85 = .ok (.astore 5, 2) := dk_58 5 (dk_at dksX0_text_3 13 rfl rfl)
theorem dX0_text_87 : decode cX0_text 87 = .ok (.aload_n 0, 1) := dk_42 (dk_at dksX0_text_3 15 rfl rfl)
theorem dX0_text_88 : decode cX0_text 88 = .ok (.getfield 64, 3) := dk_180 0 64 (dk_at dksX0_text_3 16 rfl rfl)
theorem dX0_text_91 : decode cX0_text 91 = .ok (.iconst 0, 1) := dk_3 (dk_at dksX0_text_3 19 rfl rfl)
theorem dX0_text_92 : decode cX0_text 92 = .ok (.putfield 246, 3) := dk_181 0 246 (dk_at dksX0_text_3 20 rfl rfl)
theorem dX0_text_95 : decode cX0_text 95 = .ok (.aload 5, 2) := dk_25 5 (dk_at dksX0_text_4 0 rfl rfl)
theorem dX0_text_97 : decode cX0_text 97 = .ok (.athrow, 1) := dk_191 (dk_at dksX0_text_4 2 rfl rfl)
abbrev cX0_isUse : ByteArray := prog_1_method_31_code
def yX0_isUse : MethodName := ⟨RX0, "isUse", "(I)Z"⟩
def dkwX0_isUse_0 : List UInt8 := [26, 3, 4, 184, 0, 116, 172]
abbrev dktX0_isUse_0 : List UInt8 := dkwX0_isUse_0 ++ []
theorem dksX0_isUse_0 : cX0_isUse.data.toList.drop 0 = dktX0_isUse_0 := by decide +kernel
theorem dX0_isUse_0 : decode cX0_isUse 0 = .ok (.iload_n 0, 1) := dk_26 (dk_at dksX0_isUse_0 0 rfl rfl)
theorem dX0_isUse_1 : decode cX0_isUse 1 = .ok (.iconst 0, 1) := dk_3 (dk_at dksX0_isUse_0 1 rfl rfl)
theorem dX0_isUse_2 : decode cX0_isUse 2 = .ok (.iconst 1, 1) := dk_4 (dk_at dksX0_isUse_0 2 rfl rfl)
theorem dX0_isUse_3 : decode cX0_isUse 3 = .ok (.invokestatic 116, 3) := dk_184 0 116 (dk_at dksX0_isUse_0 3 rfl rfl)
theorem dX0_isUse_6 : decode cX0_isUse 6 = .ok (.ireturn, 1) := dk_172 (dk_at dksX0_isUse_0 6 rfl rfl)
abbrev cX0_namesOf : ByteArray := prog_1_method_4_code
def yX0_namesOf : MethodName := ⟨RX0, "namesOf", "(I)Ljava/lang/String;"⟩
def dkwX0_namesOf_0 : List UInt8 := [26, 154, 0, 8, 18, 25, 167, 0, 5, 18, 27, 176]
abbrev dktX0_namesOf_0 : List UInt8 := dkwX0_namesOf_0 ++ []
theorem dksX0_namesOf_0 : cX0_namesOf.data.toList.drop 0 = dktX0_namesOf_0 := by decide +kernel
theorem dX0_namesOf_0 : decode cX0_namesOf 0 = .ok (.iload_n 0, 1) := dk_26 (dk_at dksX0_namesOf_0 0 rfl rfl)
theorem dX0_namesOf_1 : decode cX0_namesOf 1 = .ok (.ifCond .ne 8, 3) := dk_154 0 8 (dk_at dksX0_namesOf_0 1 rfl rfl)
theorem dX0_namesOf_4 : decode cX0_namesOf 4 = .ok (.ldc 25, 2) := dk_18 25 (dk_at dksX0_namesOf_0 4 rfl rfl)
theorem dX0_namesOf_6 : decode cX0_namesOf 6 = .ok (.goto 5, 3) := dk_167 0 5 (dk_at dksX0_namesOf_0 6 rfl rfl)
theorem dX0_namesOf_9 : decode cX0_namesOf 9 = .ok (.ldc 27, 2) := dk_18 27 (dk_at dksX0_namesOf_0 9 rfl rfl)
theorem dX0_namesOf_11 : decode cX0_namesOf 11 = .ok (.areturn, 1) := dk_176 (dk_at dksX0_namesOf_0 11 rfl rfl)
abbrev cX0_untell : ByteArray := prog_1_method_33_code
def yX0_untell : MethodName := ⟨RX0, "untell", "(I)I"⟩
def dkwX0_untell_1 : List UInt8 := [199, 0, 7, 3, 167, 0, 4, 4, 61, 42, 180, 0, 64, 180, 0, 132, 27, 1, 83, 28, 172]
abbrev dktX0_untell_1 : List UInt8 := dkwX0_untell_1 ++ []
def dkwX0_untell_0 : List UInt8 := [27, 184, 0, 252, 154, 0, 9, 42, 4, 182, 0, 217, 172, 42, 180, 0, 64, 180, 0, 132, 27, 50]
abbrev dktX0_untell_0 : List UInt8 := dkwX0_untell_0 ++ dktX0_untell_1
theorem dksX0_untell_0 : cX0_untell.data.toList.drop 0 = dktX0_untell_0 := by decide +kernel
theorem dksX0_untell_1 : cX0_untell.data.toList.drop 22 = dktX0_untell_1 := dk_seg dksX0_untell_0 22 rfl rfl
theorem dX0_untell_0 : decode cX0_untell 0 = .ok (.iload_n 1, 1) := dk_27 (dk_at dksX0_untell_0 0 rfl rfl)
theorem dX0_untell_1 : decode cX0_untell 1 = .ok (.invokestatic 252, 3) := dk_184 0 252 (dk_at dksX0_untell_0 1 rfl rfl)
theorem dX0_untell_4 : decode cX0_untell 4 = .ok (.ifCond .ne 9, 3) := dk_154 0 9 (dk_at dksX0_untell_0 4 rfl rfl)
theorem dX0_untell_7 : decode cX0_untell 7 = .ok (.aload_n 0, 1) := dk_42 (dk_at dksX0_untell_0 7 rfl rfl)
theorem dX0_untell_8 : decode cX0_untell 8 = .ok (.iconst 1, 1) := dk_4 (dk_at dksX0_untell_0 8 rfl rfl)
theorem dX0_untell_9 : decode cX0_untell 9 = .ok (.invokevirtual 217, 3) := dk_182 0 217 (dk_at dksX0_untell_0 9 rfl rfl)
theorem dX0_untell_12 : decode cX0_untell 12 = .ok (.ireturn, 1) := dk_172 (dk_at dksX0_untell_0 12 rfl rfl)
theorem dX0_untell_13 : decode cX0_untell 13 = .ok (.aload_n 0, 1) := dk_42 (dk_at dksX0_untell_0 13 rfl rfl)
theorem dX0_untell_14 : decode cX0_untell 14 = .ok (.getfield 64, 3) := dk_180 0 64 (dk_at dksX0_untell_0 14 rfl rfl)
theorem dX0_untell_17 : decode cX0_untell 17 = .ok (.getfield 132, 3) := dk_180 0 132 (dk_at dksX0_untell_0 17 rfl rfl)
theorem dX0_untell_20 : decode cX0_untell 20 = .ok (.iload_n 1, 1) := dk_27 (dk_at dksX0_untell_0 20 rfl rfl)
theorem dX0_untell_21 : decode cX0_untell 21 = .ok (.aaload, 1) := dk_50 (dk_at dksX0_untell_0 21 rfl rfl)
theorem dX0_untell_22 : decode cX0_untell 22 = .ok (.ifnonnull 7, 3) := dk_199 0 7 (dk_at dksX0_untell_1 0 rfl rfl)
theorem dX0_untell_25 : decode cX0_untell 25 = .ok (.iconst 0, 1) := dk_3 (dk_at dksX0_untell_1 3 rfl rfl)
theorem dX0_untell_26 : decode cX0_untell 26 = .ok (.goto 4, 3) := dk_167 0 4 (dk_at dksX0_untell_1 4 rfl rfl)
theorem dX0_untell_29 : decode cX0_untell 29 = .ok (.iconst 1, 1) := dk_4 (dk_at dksX0_untell_1 7 rfl rfl)
theorem dX0_untell_30 : decode cX0_untell 30 = .ok (.istore_n 2, 1) := dk_61 (dk_at dksX0_untell_1 8 rfl rfl)
theorem dX0_untell_31 : decode cX0_untell 31 = .ok (.aload_n 0, 1) := dk_42 (dk_at dksX0_untell_1 9 rfl rfl)
theorem dX0_untell_32 : decode cX0_untell 32 = .ok (.getfield 64, 3) := dk_180 0 64 (dk_at dksX0_untell_1 10 rfl rfl)
theorem dX0_untell_35 : decode cX0_untell 35 = .ok (.getfield 132, 3) := dk_180 0 132 (dk_at dksX0_untell_1 13 rfl rfl)
theorem dX0_untell_38 : decode cX0_untell 38 = .ok (.iload_n 1, 1) := dk_27 (dk_at dksX0_untell_1 16 rfl rfl)
theorem dX0_untell_39 : decode cX0_untell 39 = .ok (.aconst_null, 1) := dk_1 (dk_at dksX0_untell_1 17 rfl rfl)
theorem dX0_untell_40 : decode cX0_untell 40 = .ok (.aastore, 1) := dk_83 (dk_at dksX0_untell_1 18 rfl rfl)
theorem dX0_untell_41 : decode cX0_untell 41 = .ok (.iload_n 2, 1) := dk_28 (dk_at dksX0_untell_1 19 rfl rfl)
theorem dX0_untell_42 : decode cX0_untell 42 = .ok (.ireturn, 1) := dk_172 (dk_at dksX0_untell_1 20 rfl rfl)
abbrev cX0_law : ByteArray := prog_1_method_34_code
def yX0_law : MethodName := ⟨RX0, "law", "(IIII)I"⟩
def dkwX0_law_1 : List UInt8 := [172]
abbrev dktX0_law_1 : List UInt8 := dkwX0_law_1 ++ []
def dkwX0_law_0 : List UInt8 := [27, 184, 0, 252, 153, 0, 15, 42, 27, 28, 29, 21, 4, 182, 0, 159, 167, 0, 8, 42, 4, 182, 0, 217]
abbrev dktX0_law_0 : List UInt8 := dkwX0_law_0 ++ dktX0_law_1
theorem dksX0_law_0 : cX0_law.data.toList.drop 0 = dktX0_law_0 := by decide +kernel
theorem dksX0_law_1 : cX0_law.data.toList.drop 24 = dktX0_law_1 := dk_seg dksX0_law_0 24 rfl rfl
theorem dX0_law_0 : decode cX0_law 0 = .ok (.iload_n 1, 1) := dk_27 (dk_at dksX0_law_0 0 rfl rfl)
theorem dX0_law_1 : decode cX0_law 1 = .ok (.invokestatic 252, 3) := dk_184 0 252 (dk_at dksX0_law_0 1 rfl rfl)
theorem dX0_law_4 : decode cX0_law 4 = .ok (.ifCond .eq 15, 3) := dk_153 0 15 (dk_at dksX0_law_0 4 rfl rfl)
theorem dX0_law_7 : decode cX0_law 7 = .ok (.aload_n 0, 1) := dk_42 (dk_at dksX0_law_0 7 rfl rfl)
theorem dX0_law_8 : decode cX0_law 8 = .ok (.iload_n 1, 1) := dk_27 (dk_at dksX0_law_0 8 rfl rfl)
theorem dX0_law_9 : decode cX0_law 9 = .ok (.iload_n 2, 1) := dk_28 (dk_at dksX0_law_0 9 rfl rfl)
theorem dX0_law_10 : decode cX0_law 10 = .ok (.iload_n 3, 1) := dk_29 (dk_at dksX0_law_0 10 rfl rfl)
theorem dX0_law_11 : decode cX0_law 11 = .ok (.iload 4, 2) := dk_21 4 (dk_at dksX0_law_0 11 rfl rfl)
theorem dX0_law_13 : decode cX0_law 13 = .ok (.invokevirtual 159, 3) := dk_182 0 159 (dk_at dksX0_law_0 13 rfl rfl)
theorem dX0_law_16 : decode cX0_law 16 = .ok (.goto 8, 3) := dk_167 0 8 (dk_at dksX0_law_0 16 rfl rfl)
theorem dX0_law_19 : decode cX0_law 19 = .ok (.aload_n 0, 1) := dk_42 (dk_at dksX0_law_0 19 rfl rfl)
theorem dX0_law_20 : decode cX0_law 20 = .ok (.iconst 1, 1) := dk_4 (dk_at dksX0_law_0 20 rfl rfl)
theorem dX0_law_21 : decode cX0_law 21 = .ok (.invokevirtual 217, 3) := dk_182 0 217 (dk_at dksX0_law_0 21 rfl rfl)
theorem dX0_law_24 : decode cX0_law 24 = .ok (.ireturn, 1) := dk_172 (dk_at dksX0_law_1 0 rfl rfl)
abbrev cX0_rounds : ByteArray := prog_1_method_39_code
def yX0_rounds : MethodName := ⟨RX0, "rounds", "(I)I"⟩
def dkwX0_rounds_2 : List UInt8 := [180, 0, 64, 182, 0, 168, 184, 1, 38, 172]
abbrev dktX0_rounds_2 : List UInt8 := dkwX0_rounds_2 ++ []
def dkwX0_rounds_1 : List UInt8 := [42, 6, 182, 0, 217, 172, 3, 61, 28, 27, 162, 0, 13, 42, 182, 1, 35, 132, 2, 1, 167, 255, 244, 42]
abbrev dktX0_rounds_1 : List UInt8 := dkwX0_rounds_1 ++ dktX0_rounds_2
def dkwX0_rounds_0 : List UInt8 := [27, 4, 16, 60, 184, 0, 116, 154, 0, 9, 42, 4, 182, 0, 217, 172, 42, 27, 182, 1, 32, 153, 0, 9]
abbrev dktX0_rounds_0 : List UInt8 := dkwX0_rounds_0 ++ dktX0_rounds_1
theorem dksX0_rounds_0 : cX0_rounds.data.toList.drop 0 = dktX0_rounds_0 := by decide +kernel
theorem dksX0_rounds_1 : cX0_rounds.data.toList.drop 24 = dktX0_rounds_1 := dk_seg dksX0_rounds_0 24 rfl rfl
theorem dksX0_rounds_2 : cX0_rounds.data.toList.drop 48 = dktX0_rounds_2 := dk_seg dksX0_rounds_1 24 rfl rfl
theorem dX0_rounds_0 : decode cX0_rounds 0 = .ok (.iload_n 1, 1) := dk_27 (dk_at dksX0_rounds_0 0 rfl rfl)
theorem dX0_rounds_1 : decode cX0_rounds 1 = .ok (.iconst 1, 1) := dk_4 (dk_at dksX0_rounds_0 1 rfl rfl)
theorem dX0_rounds_2 : decode cX0_rounds 2 = .ok (.bipush 60, 2) := dk_16 60 (dk_at dksX0_rounds_0 2 rfl rfl)
theorem dX0_rounds_4 : decode cX0_rounds 4 = .ok (.invokestatic 116, 3) := dk_184 0 116 (dk_at dksX0_rounds_0 4 rfl rfl)
theorem dX0_rounds_7 : decode cX0_rounds 7 = .ok (.ifCond .ne 9, 3) := dk_154 0 9 (dk_at dksX0_rounds_0 7 rfl rfl)
theorem dX0_rounds_10 : decode cX0_rounds 10 = .ok (.aload_n 0, 1) := dk_42 (dk_at dksX0_rounds_0 10 rfl rfl)
theorem dX0_rounds_11 : decode cX0_rounds 11 = .ok (.iconst 1, 1) := dk_4 (dk_at dksX0_rounds_0 11 rfl rfl)
theorem dX0_rounds_12 : decode cX0_rounds 12 = .ok (.invokevirtual 217, 3) := dk_182 0 217 (dk_at dksX0_rounds_0 12 rfl rfl)
theorem dX0_rounds_15 : decode cX0_rounds 15 = .ok (.ireturn, 1) := dk_172 (dk_at dksX0_rounds_0 15 rfl rfl)
theorem dX0_rounds_16 : decode cX0_rounds 16 = .ok (.aload_n 0, 1) := dk_42 (dk_at dksX0_rounds_0 16 rfl rfl)
theorem dX0_rounds_17 : decode cX0_rounds 17 = .ok (.iload_n 1, 1) := dk_27 (dk_at dksX0_rounds_0 17 rfl rfl)
theorem dX0_rounds_18 : decode cX0_rounds 18 = .ok (.invokevirtual 288, 3) := dk_182 1 32 (dk_at dksX0_rounds_0 18 rfl rfl)
theorem dX0_rounds_21 : decode cX0_rounds 21 = .ok (.ifCond .eq 9, 3) := dk_153 0 9 (dk_at dksX0_rounds_0 21 rfl rfl)
theorem dX0_rounds_24 : decode cX0_rounds 24 = .ok (.aload_n 0, 1) := dk_42 (dk_at dksX0_rounds_1 0 rfl rfl)
theorem dX0_rounds_25 : decode cX0_rounds 25 = .ok (.iconst 3, 1) := dk_6 (dk_at dksX0_rounds_1 1 rfl rfl)
theorem dX0_rounds_26 : decode cX0_rounds 26 = .ok (.invokevirtual 217, 3) := dk_182 0 217 (dk_at dksX0_rounds_1 2 rfl rfl)
theorem dX0_rounds_29 : decode cX0_rounds 29 = .ok (.ireturn, 1) := dk_172 (dk_at dksX0_rounds_1 5 rfl rfl)
theorem dX0_rounds_30 : decode cX0_rounds 30 = .ok (.iconst 0, 1) := dk_3 (dk_at dksX0_rounds_1 6 rfl rfl)
theorem dX0_rounds_31 : decode cX0_rounds 31 = .ok (.istore_n 2, 1) := dk_61 (dk_at dksX0_rounds_1 7 rfl rfl)
theorem dX0_rounds_32 : decode cX0_rounds 32 = .ok (.iload_n 2, 1) := dk_28 (dk_at dksX0_rounds_1 8 rfl rfl)
theorem dX0_rounds_33 : decode cX0_rounds 33 = .ok (.iload_n 1, 1) := dk_27 (dk_at dksX0_rounds_1 9 rfl rfl)
theorem dX0_rounds_34 : decode cX0_rounds 34 = .ok (.if_icmp .ge 13, 3) := dk_162 0 13 (dk_at dksX0_rounds_1 10 rfl rfl)
theorem dX0_rounds_37 : decode cX0_rounds 37 = .ok (.aload_n 0, 1) := dk_42 (dk_at dksX0_rounds_1 13 rfl rfl)
theorem dX0_rounds_38 : decode cX0_rounds 38 = .ok (.invokevirtual 291, 3) := dk_182 1 35 (dk_at dksX0_rounds_1 14 rfl rfl)
theorem dX0_rounds_41 : decode cX0_rounds 41 = .ok (.iinc 2 1, 3) := dk_132 2 1 (dk_at dksX0_rounds_1 17 rfl rfl)
theorem dX0_rounds_44 : decode cX0_rounds 44 = .ok (.goto (-12), 3) := dk_167 255 244 (dk_at dksX0_rounds_1 20 rfl rfl)
theorem dX0_rounds_47 : decode cX0_rounds 47 = .ok (.aload_n 0, 1) := dk_42 (dk_at dksX0_rounds_1 23 rfl rfl)
theorem dX0_rounds_48 : decode cX0_rounds 48 = .ok (.getfield 64, 3) := dk_180 0 64 (dk_at dksX0_rounds_2 0 rfl rfl)
theorem dX0_rounds_51 : decode cX0_rounds 51 = .ok (.invokevirtual 168, 3) := dk_182 0 168 (dk_at dksX0_rounds_2 3 rfl rfl)
theorem dX0_rounds_54 : decode cX0_rounds 54 = .ok (.invokestatic 294, 3) := dk_184 1 38 (dk_at dksX0_rounds_2 6 rfl rfl)
theorem dX0_rounds_57 : decode cX0_rounds 57 = .ok (.ireturn, 1) := dk_172 (dk_at dksX0_rounds_2 9 rfl rfl)
abbrev cX0_isLate : ByteArray := prog_1_method_38_code
def yX0_isLate : MethodName := ⟨RX0, "isLate", "(I)Z"⟩
def dkwX0_isLate_0 : List UInt8 := [42, 180, 0, 64, 180, 0, 156, 27, 96, 17, 39, 15, 164, 0, 7, 4, 167, 0, 4, 3, 172]
abbrev dktX0_isLate_0 : List UInt8 := dkwX0_isLate_0 ++ []
theorem dksX0_isLate_0 : cX0_isLate.data.toList.drop 0 = dktX0_isLate_0 := by decide +kernel
theorem dX0_isLate_0 : decode cX0_isLate 0 = .ok (.aload_n 0, 1) := dk_42 (dk_at dksX0_isLate_0 0 rfl rfl)
theorem dX0_isLate_1 : decode cX0_isLate 1 = .ok (.getfield 64, 3) := dk_180 0 64 (dk_at dksX0_isLate_0 1 rfl rfl)
theorem dX0_isLate_4 : decode cX0_isLate 4 = .ok (.getfield 156, 3) := dk_180 0 156 (dk_at dksX0_isLate_0 4 rfl rfl)
theorem dX0_isLate_7 : decode cX0_isLate 7 = .ok (.iload_n 1, 1) := dk_27 (dk_at dksX0_isLate_0 7 rfl rfl)
theorem dX0_isLate_8 : decode cX0_isLate 8 = .ok (.iadd, 1) := dk_96 (dk_at dksX0_isLate_0 8 rfl rfl)
theorem dX0_isLate_9 : decode cX0_isLate 9 = .ok (.sipush 9999, 3) := dk_17 39 15 (dk_at dksX0_isLate_0 9 rfl rfl)
theorem dX0_isLate_12 : decode cX0_isLate 12 = .ok (.if_icmp .le 7, 3) := dk_164 0 7 (dk_at dksX0_isLate_0 12 rfl rfl)
theorem dX0_isLate_15 : decode cX0_isLate 15 = .ok (.iconst 1, 1) := dk_4 (dk_at dksX0_isLate_0 15 rfl rfl)
theorem dX0_isLate_16 : decode cX0_isLate 16 = .ok (.goto 4, 3) := dk_167 0 4 (dk_at dksX0_isLate_0 16 rfl rfl)
theorem dX0_isLate_19 : decode cX0_isLate 19 = .ok (.iconst 0, 1) := dk_3 (dk_at dksX0_isLate_0 19 rfl rfl)
theorem dX0_isLate_20 : decode cX0_isLate 20 = .ok (.ireturn, 1) := dk_172 (dk_at dksX0_isLate_0 20 rfl rfl)
abbrev cX0_aRound : ByteArray := prog_1_method_37_code
def yX0_aRound : MethodName := ⟨RX0, "aRound", "()V"⟩
def dkwX0_aRound_3 : List UInt8 := [180, 0, 156, 4, 96, 181, 0, 156, 177]
abbrev dktX0_aRound_3 : List UInt8 := dkwX0_aRound_3 ++ []
def dkwX0_aRound_2 : List UInt8 := [17, 39, 15, 42, 180, 0, 64, 180, 1, 29, 4, 96, 184, 0, 123, 181, 1, 29, 42, 180, 0, 64, 89]
abbrev dktX0_aRound_2 : List UInt8 := dkwX0_aRound_2 ++ dktX0_aRound_3
def dkwX0_aRound_1 : List UInt8 := [133, 42, 180, 0, 201, 105, 148, 158, 0, 35, 42, 180, 0, 64, 180, 0, 188, 27, 3, 79, 42, 180, 0, 64]
abbrev dktX0_aRound_1 : List UInt8 := dkwX0_aRound_1 ++ dktX0_aRound_2
def dkwX0_aRound_0 : List UInt8 := [42, 182, 1, 23, 153, 0, 62, 42, 182, 1, 26, 60, 42, 27, 182, 1, 20, 42, 180, 0, 64, 180, 0, 243]
abbrev dktX0_aRound_0 : List UInt8 := dkwX0_aRound_0 ++ dktX0_aRound_1
theorem dksX0_aRound_0 : cX0_aRound.data.toList.drop 0 = dktX0_aRound_0 := by decide +kernel
theorem dksX0_aRound_1 : cX0_aRound.data.toList.drop 24 = dktX0_aRound_1 := dk_seg dksX0_aRound_0 24 rfl rfl
theorem dksX0_aRound_2 : cX0_aRound.data.toList.drop 48 = dktX0_aRound_2 := dk_seg dksX0_aRound_1 24 rfl rfl
theorem dksX0_aRound_3 : cX0_aRound.data.toList.drop 71 = dktX0_aRound_3 := dk_seg dksX0_aRound_2 23 rfl rfl
theorem dX0_aRound_0 : decode cX0_aRound 0 = .ok (.aload_n 0, 1) := dk_42 (dk_at dksX0_aRound_0 0 rfl rfl)
theorem dX0_aRound_1 : decode cX0_aRound 1 = .ok (.invokevirtual 279, 3) := dk_182 1 23 (dk_at dksX0_aRound_0 1 rfl rfl)
theorem dX0_aRound_4 : decode cX0_aRound 4 = .ok (.ifCond .eq 62, 3) := dk_153 0 62 (dk_at dksX0_aRound_0 4 rfl rfl)
theorem dX0_aRound_7 : decode cX0_aRound 7 = .ok (.aload_n 0, 1) := dk_42 (dk_at dksX0_aRound_0 7 rfl rfl)
theorem dX0_aRound_8 : decode cX0_aRound 8 = .ok (.invokevirtual 282, 3) := dk_182 1 26 (dk_at dksX0_aRound_0 8 rfl rfl)
theorem dX0_aRound_11 : decode cX0_aRound 11 = .ok (.istore_n 1, 1) := dk_60 (dk_at dksX0_aRound_0 11 rfl rfl)
theorem dX0_aRound_12 : decode cX0_aRound 12 = .ok (.aload_n 0, 1) := dk_42 (dk_at dksX0_aRound_0 12 rfl rfl)
theorem dX0_aRound_13 : decode cX0_aRound 13 = .ok (.iload_n 1, 1) := dk_27 (dk_at dksX0_aRound_0 13 rfl rfl)
theorem dX0_aRound_14 : decode cX0_aRound 14 = .ok (.invokevirtual 276, 3) := dk_182 1 20 (dk_at dksX0_aRound_0 14 rfl rfl)
theorem dX0_aRound_17 : decode cX0_aRound 17 = .ok (.aload_n 0, 1) := dk_42 (dk_at dksX0_aRound_0 17 rfl rfl)
theorem dX0_aRound_18 : decode cX0_aRound 18 = .ok (.getfield 64, 3) := dk_180 0 64 (dk_at dksX0_aRound_0 18 rfl rfl)
theorem dX0_aRound_21 : decode cX0_aRound 21 = .ok (.getfield 243, 3) := dk_180 0 243 (dk_at dksX0_aRound_0 21 rfl rfl)
theorem dX0_aRound_24 : decode cX0_aRound 24 = .ok (.i2l, 1) := dk_133 (dk_at dksX0_aRound_1 0 rfl rfl)
theorem dX0_aRound_25 : decode cX0_aRound 25 = .ok (.aload_n 0, 1) := dk_42 (dk_at dksX0_aRound_1 1 rfl rfl)
theorem dX0_aRound_26 : decode cX0_aRound 26 = .ok (.getfield 201, 3) := dk_180 0 201 (dk_at dksX0_aRound_1 2 rfl rfl)
theorem dX0_aRound_29 : decode cX0_aRound 29 = .ok (.lmul, 1) := dk_105 (dk_at dksX0_aRound_1 5 rfl rfl)
theorem dX0_aRound_30 : decode cX0_aRound 30 = .ok (.lcmp, 1) := dk_148 (dk_at dksX0_aRound_1 6 rfl rfl)
theorem dX0_aRound_31 : decode cX0_aRound 31 = .ok (.ifCond .le 35, 3) := dk_158 0 35 (dk_at dksX0_aRound_1 7 rfl rfl)
theorem dX0_aRound_34 : decode cX0_aRound 34 = .ok (.aload_n 0, 1) := dk_42 (dk_at dksX0_aRound_1 10 rfl rfl)
theorem dX0_aRound_35 : decode cX0_aRound 35 = .ok (.getfield 64, 3) := dk_180 0 64 (dk_at dksX0_aRound_1 11 rfl rfl)
theorem dX0_aRound_38 : decode cX0_aRound 38 = .ok (.getfield 188, 3) := dk_180 0 188 (dk_at dksX0_aRound_1 14 rfl rfl)
theorem dX0_aRound_41 : decode cX0_aRound 41 = .ok (.iload_n 1, 1) := dk_27 (dk_at dksX0_aRound_1 17 rfl rfl)
theorem dX0_aRound_42 : decode cX0_aRound 42 = .ok (.iconst 0, 1) := dk_3 (dk_at dksX0_aRound_1 18 rfl rfl)
theorem dX0_aRound_43 : decode cX0_aRound 43 = .ok (.iastore, 1) := dk_79 (dk_at dksX0_aRound_1 19 rfl rfl)
theorem dX0_aRound_44 : decode cX0_aRound 44 = .ok (.aload_n 0, 1) := dk_42 (dk_at dksX0_aRound_1 20 rfl rfl)
theorem dX0_aRound_45 : decode cX0_aRound 45 = .ok (.getfield 64, 3) := dk_180 0 64 (dk_at dksX0_aRound_1 21 rfl rfl)
theorem dX0_aRound_48 : decode cX0_aRound 48 = .ok (.sipush 9999, 3) := dk_17 39 15 (dk_at dksX0_aRound_2 0 rfl rfl)
theorem dX0_aRound_51 : decode cX0_aRound 51 = .ok (.aload_n 0, 1) := dk_42 (dk_at dksX0_aRound_2 3 rfl rfl)
theorem dX0_aRound_52 : decode cX0_aRound 52 = .ok (.getfield 64, 3) := dk_180 0 64 (dk_at dksX0_aRound_2 4 rfl rfl)
theorem dX0_aRound_55 : decode cX0_aRound 55 = .ok (.getfield 285, 3) := dk_180 1 29 (dk_at dksX0_aRound_2 7 rfl rfl)
theorem dX0_aRound_58 : decode cX0_aRound 58 = .ok (.iconst 1, 1) := dk_4 (dk_at dksX0_aRound_2 10 rfl rfl)
theorem dX0_aRound_59 : decode cX0_aRound 59 = .ok (.iadd, 1) := dk_96 (dk_at dksX0_aRound_2 11 rfl rfl)
theorem dX0_aRound_60 : decode cX0_aRound 60 = .ok (.invokestatic 123, 3) := dk_184 0 123 (dk_at dksX0_aRound_2 12 rfl rfl)
theorem dX0_aRound_63 : decode cX0_aRound 63 = .ok (.putfield 285, 3) := dk_181 1 29 (dk_at dksX0_aRound_2 15 rfl rfl)
theorem dX0_aRound_66 : decode cX0_aRound 66 = .ok (.aload_n 0, 1) := dk_42 (dk_at dksX0_aRound_2 18 rfl rfl)
theorem dX0_aRound_67 : decode cX0_aRound 67 = .ok (.getfield 64, 3) := dk_180 0 64 (dk_at dksX0_aRound_2 19 rfl rfl)
theorem dX0_aRound_70 : decode cX0_aRound 70 = .ok (.dup, 1) := dk_89 (dk_at dksX0_aRound_2 22 rfl rfl)
theorem dX0_aRound_71 : decode cX0_aRound 71 = .ok (.getfield 156, 3) := dk_180 0 156 (dk_at dksX0_aRound_3 0 rfl rfl)
theorem dX0_aRound_74 : decode cX0_aRound 74 = .ok (.iconst 1, 1) := dk_4 (dk_at dksX0_aRound_3 3 rfl rfl)
theorem dX0_aRound_75 : decode cX0_aRound 75 = .ok (.iadd, 1) := dk_96 (dk_at dksX0_aRound_3 4 rfl rfl)
theorem dX0_aRound_76 : decode cX0_aRound 76 = .ok (.putfield 156, 3) := dk_181 0 156 (dk_at dksX0_aRound_3 5 rfl rfl)
theorem dX0_aRound_79 : decode cX0_aRound 79 = .ok (.return_, 1) := dk_177 (dk_at dksX0_aRound_3 8 rfl rfl)
abbrev cX0_isSolved : ByteArray := prog_1_method_18_code
def yX0_isSolved : MethodName := ⟨RX0, "isSolved", "()Z"⟩
def dkwX0_isSolved_15 : List UInt8 := [180, 0, 103, 28, 33, 80, 132, 2, 1, 167, 255, 162, 4, 172]
abbrev dktX0_isSolved_15 : List UInt8 := dkwX0_isSolved_15 ++ []
def dkwX0_isSolved_14 : List UInt8 := [167, 255, 200, 42, 27, 182, 0, 197, 66, 28, 156, 0, 11, 42, 33, 181, 0, 201, 167, 0, 10, 42]
abbrev dktX0_isSolved_14 : List UInt8 := dkwX0_isSolved_14 ++ dktX0_isSolved_15
def dkwX0_isSolved_13 : List UInt8 := [29, 47, 167, 0, 12, 42, 180, 0, 93, 29, 50, 21, 4, 47, 80, 132, 4, 1, 167, 255, 214, 132, 3, 1]
abbrev dktX0_isSolved_13 : List UInt8 := dkwX0_isSolved_13 ++ dktX0_isSolved_14
def dkwX0_isSolved_12 : List UInt8 := [21, 4, 27, 162, 0, 42, 42, 180, 0, 96, 29, 50, 21, 4, 21, 4, 28, 160, 0, 12, 42, 180, 0, 99]
abbrev dktX0_isSolved_12 : List UInt8 := dkwX0_isSolved_12 ++ dktX0_isSolved_13
def dkwX0_isSolved_11 : List UInt8 := [132, 2, 1, 167, 255, 54, 2, 61, 28, 27, 162, 0, 95, 3, 62, 29, 27, 162, 0, 57, 3, 54, 4]
abbrev dktX0_isSolved_11 : List UInt8 := dkwX0_isSolved_11 ++ dktX0_isSolved_12
def dkwX0_isSolved_10 : List UInt8 := [42, 180, 0, 99, 29, 92, 47, 42, 180, 0, 106, 28, 46, 42, 180, 0, 109, 28, 46, 104, 133, 101, 80]
abbrev dktX0_isSolved_10 : List UInt8 := dkwX0_isSolved_10 ++ dktX0_isSolved_11
def dkwX0_isSolved_9 : List UInt8 := [28, 46, 133, 101, 80, 42, 180, 0, 93, 21, 4, 50, 29, 92, 47, 42, 180, 0, 106, 28, 46, 133, 101, 80]
abbrev dktX0_isSolved_9 : List UInt8 := dkwX0_isSolved_9 ++ dktX0_isSolved_10
def dkwX0_isSolved_8 : List UInt8 := [47, 42, 180, 0, 106, 28, 46, 133, 97, 80, 42, 180, 0, 93, 29, 50, 21, 4, 92, 47, 42, 180, 0, 106]
abbrev dktX0_isSolved_8 : List UInt8 := dkwX0_isSolved_8 ++ dktX0_isSolved_9
def dkwX0_isSolved_7 : List UInt8 := [180, 0, 109, 28, 46, 104, 133, 97, 80, 29, 156, 0, 6, 167, 0, 82, 42, 180, 0, 93, 29, 50, 29, 92]
abbrev dktX0_isSolved_7 : List UInt8 := dkwX0_isSolved_7 ++ dktX0_isSolved_8
def dkwX0_isSolved_6 : List UInt8 := [42, 180, 0, 106, 28, 46, 133, 97, 80, 42, 180, 0, 99, 21, 4, 92, 47, 42, 180, 0, 106, 28, 46, 42]
abbrev dktX0_isSolved_6 : List UInt8 := dkwX0_isSolved_6 ++ dktX0_isSolved_7
def dkwX0_isSolved_5 : List UInt8 := [46, 62, 42, 180, 0, 64, 180, 0, 194, 28, 46, 54, 4, 42, 180, 0, 93, 21, 4, 50, 21, 4, 92, 47]
abbrev dktX0_isSolved_5 : List UInt8 := dkwX0_isSolved_5 ++ dktX0_isSolved_6
def dkwX0_isSolved_4 : List UInt8 := [79, 42, 180, 0, 64, 180, 0, 188, 28, 46, 154, 0, 6, 167, 0, 154, 42, 180, 0, 64, 180, 0, 191, 28]
abbrev dktX0_isSolved_4 : List UInt8 := dkwX0_isSolved_4 ++ dktX0_isSolved_5
def dkwX0_isSolved_3 : List UInt8 := [162, 0, 197, 42, 180, 0, 106, 28, 42, 28, 182, 0, 182, 79, 42, 180, 0, 109, 28, 42, 28, 182, 0, 185]
abbrev dktX0_isSolved_3 : List UInt8 := dkwX0_isSolved_3 ++ dktX0_isSolved_4
def dkwX0_isSolved_2 : List UInt8 := [132, 3, 1, 167, 255, 239, 132, 2, 1, 167, 255, 219, 3, 61, 28, 42, 180, 0, 64, 180, 0, 113]
abbrev dktX0_isSolved_2 : List UInt8 := dkwX0_isSolved_2 ++ dktX0_isSolved_3
def dkwX0_isSolved_1 : List UInt8 := [42, 180, 0, 99, 28, 9, 80, 3, 62, 29, 27, 162, 0, 18, 42, 180, 0, 93, 28, 50, 29, 9, 80]
abbrev dktX0_isSolved_1 : List UInt8 := dkwX0_isSolved_1 ++ dktX0_isSolved_2
def dkwX0_isSolved_0 : List UInt8 := [42, 182, 0, 178, 154, 0, 5, 3, 172, 42, 180, 0, 64, 180, 0, 120, 60, 3, 61, 28, 27, 162, 0, 38]
abbrev dktX0_isSolved_0 : List UInt8 := dkwX0_isSolved_0 ++ dktX0_isSolved_1
theorem dksX0_isSolved_0 : cX0_isSolved.data.toList.drop 0 = dktX0_isSolved_0 := by decide +kernel
theorem dksX0_isSolved_1 : cX0_isSolved.data.toList.drop 24 = dktX0_isSolved_1 := dk_seg dksX0_isSolved_0 24 rfl rfl
theorem dksX0_isSolved_2 : cX0_isSolved.data.toList.drop 47 = dktX0_isSolved_2 := dk_seg dksX0_isSolved_1 23 rfl rfl
theorem dksX0_isSolved_3 : cX0_isSolved.data.toList.drop 69 = dktX0_isSolved_3 := dk_seg dksX0_isSolved_2 22 rfl rfl
theorem dksX0_isSolved_4 : cX0_isSolved.data.toList.drop 93 = dktX0_isSolved_4 := dk_seg dksX0_isSolved_3 24 rfl rfl
theorem dksX0_isSolved_5 : cX0_isSolved.data.toList.drop 117 = dktX0_isSolved_5 := dk_seg dksX0_isSolved_4 24 rfl rfl
theorem dksX0_isSolved_6 : cX0_isSolved.data.toList.drop 141 = dktX0_isSolved_6 := dk_seg dksX0_isSolved_5 24 rfl rfl
theorem dksX0_isSolved_7 : cX0_isSolved.data.toList.drop 165 = dktX0_isSolved_7 := dk_seg dksX0_isSolved_6 24 rfl rfl
theorem dksX0_isSolved_8 : cX0_isSolved.data.toList.drop 189 = dktX0_isSolved_8 := dk_seg dksX0_isSolved_7 24 rfl rfl
theorem dksX0_isSolved_9 : cX0_isSolved.data.toList.drop 213 = dktX0_isSolved_9 := dk_seg dksX0_isSolved_8 24 rfl rfl
theorem dksX0_isSolved_10 : cX0_isSolved.data.toList.drop 237 = dktX0_isSolved_10 := dk_seg dksX0_isSolved_9 24 rfl rfl
theorem dksX0_isSolved_11 : cX0_isSolved.data.toList.drop 260 = dktX0_isSolved_11 := dk_seg dksX0_isSolved_10 23 rfl rfl
theorem dksX0_isSolved_12 : cX0_isSolved.data.toList.drop 283 = dktX0_isSolved_12 := dk_seg dksX0_isSolved_11 23 rfl rfl
theorem dksX0_isSolved_13 : cX0_isSolved.data.toList.drop 307 = dktX0_isSolved_13 := dk_seg dksX0_isSolved_12 24 rfl rfl
theorem dksX0_isSolved_14 : cX0_isSolved.data.toList.drop 331 = dktX0_isSolved_14 := dk_seg dksX0_isSolved_13 24 rfl rfl
theorem dksX0_isSolved_15 : cX0_isSolved.data.toList.drop 353 = dktX0_isSolved_15 := dk_seg dksX0_isSolved_14 22 rfl rfl
theorem dX0_isSolved_0 : decode cX0_isSolved 0 = .ok (.aload_n 0, 1) := dk_42 (dk_at dksX0_isSolved_0 0 rfl rfl)
theorem dX0_isSolved_1 : decode cX0_isSolved 1 = .ok (.invokevirtual 178, 3) := dk_182 0 178 (dk_at dksX0_isSolved_0 1 rfl rfl)
theorem dX0_isSolved_4 : decode cX0_isSolved 4 = .ok (.ifCond .ne 5, 3) := dk_154 0 5 (dk_at dksX0_isSolved_0 4 rfl rfl)
theorem dX0_isSolved_7 : decode cX0_isSolved 7 = .ok (.iconst 0, 1) := dk_3 (dk_at dksX0_isSolved_0 7 rfl rfl)
theorem dX0_isSolved_8 : decode cX0_isSolved 8 = .ok (.ireturn, 1) := dk_172 (dk_at dksX0_isSolved_0 8 rfl rfl)
theorem dX0_isSolved_9 : decode cX0_isSolved 9 = .ok (.aload_n 0, 1) := dk_42 (dk_at dksX0_isSolved_0 9 rfl rfl)
theorem dX0_isSolved_10 : decode cX0_isSolved 10 = .ok (.getfield 64, 3) := dk_180 0 64 (dk_at dksX0_isSolved_0 10 rfl rfl)
theorem dX0_isSolved_13 : decode cX0_isSolved 13 = .ok (.getfield 120, 3) := dk_180 0 120 (dk_at dksX0_isSolved_0 13 rfl rfl)
theorem dX0_isSolved_16 : decode cX0_isSolved 16 = .ok (.istore_n 1, 1) := dk_60 (dk_at dksX0_isSolved_0 16 rfl rfl)
theorem dX0_isSolved_17 : decode cX0_isSolved 17 = .ok (.iconst 0, 1) := dk_3 (dk_at dksX0_isSolved_0 17 rfl rfl)
theorem dX0_isSolved_18 : decode cX0_isSolved 18 = .ok (.istore_n 2, 1) := dk_61 (dk_at dksX0_isSolved_0 18 rfl rfl)
theorem dX0_isSolved_19 : decode cX0_isSolved 19 = .ok (.iload_n 2, 1) := dk_28 (dk_at dksX0_isSolved_0 19 rfl rfl)
theorem dX0_isSolved_20 : decode cX0_isSolved 20 = .ok (.iload_n 1, 1) := dk_27 (dk_at dksX0_isSolved_0 20 rfl rfl)
theorem dX0_isSolved_21 : decode cX0_isSolved 21 = .ok (.if_icmp .ge 38, 3) := dk_162 0 38 (dk_at dksX0_isSolved_0 21 rfl rfl)
theorem dX0_isSolved_24 : decode cX0_isSolved 24 = .ok (.aload_n 0, 1) := dk_42 (dk_at dksX0_isSolved_1 0 rfl rfl)
theorem dX0_isSolved_25 : decode cX0_isSolved 25 = .ok (.getfield 99, 3) := dk_180 0 99 (dk_at dksX0_isSolved_1 1 rfl rfl)
theorem dX0_isSolved_28 : decode cX0_isSolved 28 = .ok (.iload_n 2, 1) := dk_28 (dk_at dksX0_isSolved_1 4 rfl rfl)
theorem dX0_isSolved_29 : decode cX0_isSolved 29 = .ok (.lconst 0, 1) := dk_9 (dk_at dksX0_isSolved_1 5 rfl rfl)
theorem dX0_isSolved_30 : decode cX0_isSolved 30 = .ok (.lastore, 1) := dk_80 (dk_at dksX0_isSolved_1 6 rfl rfl)
theorem dX0_isSolved_31 : decode cX0_isSolved 31 = .ok (.iconst 0, 1) := dk_3 (dk_at dksX0_isSolved_1 7 rfl rfl)
theorem dX0_isSolved_32 : decode cX0_isSolved 32 = .ok (.istore_n 3, 1) := dk_62 (dk_at dksX0_isSolved_1 8 rfl rfl)
theorem dX0_isSolved_33 : decode cX0_isSolved 33 = .ok (.iload_n 3, 1) := dk_29 (dk_at dksX0_isSolved_1 9 rfl rfl)
theorem dX0_isSolved_34 : decode cX0_isSolved 34 = .ok (.iload_n 1, 1) := dk_27 (dk_at dksX0_isSolved_1 10 rfl rfl)
theorem dX0_isSolved_35 : decode cX0_isSolved 35 = .ok (.if_icmp .ge 18, 3) := dk_162 0 18 (dk_at dksX0_isSolved_1 11 rfl rfl)
theorem dX0_isSolved_38 : decode cX0_isSolved 38 = .ok (.aload_n 0, 1) := dk_42 (dk_at dksX0_isSolved_1 14 rfl rfl)
theorem dX0_isSolved_39 : decode cX0_isSolved 39 = .ok (.getfield 93, 3) := dk_180 0 93 (dk_at dksX0_isSolved_1 15 rfl rfl)
theorem dX0_isSolved_42 : decode cX0_isSolved 42 = .ok (.iload_n 2, 1) := dk_28 (dk_at dksX0_isSolved_1 18 rfl rfl)
theorem dX0_isSolved_43 : decode cX0_isSolved 43 = .ok (.aaload, 1) := dk_50 (dk_at dksX0_isSolved_1 19 rfl rfl)
theorem dX0_isSolved_44 : decode cX0_isSolved 44 = .ok (.iload_n 3, 1) := dk_29 (dk_at dksX0_isSolved_1 20 rfl rfl)
theorem dX0_isSolved_45 : decode cX0_isSolved 45 = .ok (.lconst 0, 1) := dk_9 (dk_at dksX0_isSolved_1 21 rfl rfl)
theorem dX0_isSolved_46 : decode cX0_isSolved 46 = .ok (.lastore, 1) := dk_80 (dk_at dksX0_isSolved_1 22 rfl rfl)
theorem dX0_isSolved_47 : decode cX0_isSolved 47 = .ok (.iinc 3 1, 3) := dk_132 3 1 (dk_at dksX0_isSolved_2 0 rfl rfl)
theorem dX0_isSolved_50 : decode cX0_isSolved 50 = .ok (.goto (-17), 3) := dk_167 255 239 (dk_at dksX0_isSolved_2 3 rfl rfl)
theorem dX0_isSolved_53 : decode cX0_isSolved 53 = .ok (.iinc 2 1, 3) := dk_132 2 1 (dk_at dksX0_isSolved_2 6 rfl rfl)
theorem dX0_isSolved_56 : decode cX0_isSolved 56 = .ok (.goto (-37), 3) := dk_167 255 219 (dk_at dksX0_isSolved_2 9 rfl rfl)
theorem dX0_isSolved_59 : decode cX0_isSolved 59 = .ok (.iconst 0, 1) := dk_3 (dk_at dksX0_isSolved_2 12 rfl rfl)
theorem dX0_isSolved_60 : decode cX0_isSolved 60 = .ok (.istore_n 2, 1) := dk_61 (dk_at dksX0_isSolved_2 13 rfl rfl)
theorem dX0_isSolved_61 : decode cX0_isSolved 61 = .ok (.iload_n 2, 1) := dk_28 (dk_at dksX0_isSolved_2 14 rfl rfl)
theorem dX0_isSolved_62 : decode cX0_isSolved 62 = .ok (.aload_n 0, 1) := dk_42 (dk_at dksX0_isSolved_2 15 rfl rfl)
theorem dX0_isSolved_63 : decode cX0_isSolved 63 = .ok (.getfield 64, 3) := dk_180 0 64 (dk_at dksX0_isSolved_2 16 rfl rfl)
theorem dX0_isSolved_66 : decode cX0_isSolved 66 = .ok (.getfield 113, 3) := dk_180 0 113 (dk_at dksX0_isSolved_2 19 rfl rfl)
theorem dX0_isSolved_69 : decode cX0_isSolved 69 = .ok (.if_icmp .ge 197, 3) := dk_162 0 197 (dk_at dksX0_isSolved_3 0 rfl rfl)
theorem dX0_isSolved_72 : decode cX0_isSolved 72 = .ok (.aload_n 0, 1) := dk_42 (dk_at dksX0_isSolved_3 3 rfl rfl)
theorem dX0_isSolved_73 : decode cX0_isSolved 73 = .ok (.getfield 106, 3) := dk_180 0 106 (dk_at dksX0_isSolved_3 4 rfl rfl)
theorem dX0_isSolved_76 : decode cX0_isSolved 76 = .ok (.iload_n 2, 1) := dk_28 (dk_at dksX0_isSolved_3 7 rfl rfl)
theorem dX0_isSolved_77 : decode cX0_isSolved 77 = .ok (.aload_n 0, 1) := dk_42 (dk_at dksX0_isSolved_3 8 rfl rfl)
theorem dX0_isSolved_78 : decode cX0_isSolved 78 = .ok (.iload_n 2, 1) := dk_28 (dk_at dksX0_isSolved_3 9 rfl rfl)
theorem dX0_isSolved_79 : decode cX0_isSolved 79 = .ok (.invokevirtual 182, 3) := dk_182 0 182 (dk_at dksX0_isSolved_3 10 rfl rfl)
theorem dX0_isSolved_82 : decode cX0_isSolved 82 = .ok (.iastore, 1) := dk_79 (dk_at dksX0_isSolved_3 13 rfl rfl)
theorem dX0_isSolved_83 : decode cX0_isSolved 83 = .ok (.aload_n 0, 1) := dk_42 (dk_at dksX0_isSolved_3 14 rfl rfl)
theorem dX0_isSolved_84 : decode cX0_isSolved 84 = .ok (.getfield 109, 3) := dk_180 0 109 (dk_at dksX0_isSolved_3 15 rfl rfl)
theorem dX0_isSolved_87 : decode cX0_isSolved 87 = .ok (.iload_n 2, 1) := dk_28 (dk_at dksX0_isSolved_3 18 rfl rfl)
theorem dX0_isSolved_88 : decode cX0_isSolved 88 = .ok (.aload_n 0, 1) := dk_42 (dk_at dksX0_isSolved_3 19 rfl rfl)
theorem dX0_isSolved_89 : decode cX0_isSolved 89 = .ok (.iload_n 2, 1) := dk_28 (dk_at dksX0_isSolved_3 20 rfl rfl)
theorem dX0_isSolved_90 : decode cX0_isSolved 90 = .ok (.invokevirtual 185, 3) := dk_182 0 185 (dk_at dksX0_isSolved_3 21 rfl rfl)
theorem dX0_isSolved_93 : decode cX0_isSolved 93 = .ok (.iastore, 1) := dk_79 (dk_at dksX0_isSolved_4 0 rfl rfl)
theorem dX0_isSolved_94 : decode cX0_isSolved 94 = .ok (.aload_n 0, 1) := dk_42 (dk_at dksX0_isSolved_4 1 rfl rfl)
theorem dX0_isSolved_95 : decode cX0_isSolved 95 = .ok (.getfield 64, 3) := dk_180 0 64 (dk_at dksX0_isSolved_4 2 rfl rfl)
theorem dX0_isSolved_98 : decode cX0_isSolved 98 = .ok (.getfield 188, 3) := dk_180 0 188 (dk_at dksX0_isSolved_4 5 rfl rfl)
theorem dX0_isSolved_101 : decode cX0_isSolved 101 = .ok (.iload_n 2, 1) := dk_28 (dk_at dksX0_isSolved_4 8 rfl rfl)
theorem dX0_isSolved_102 : decode cX0_isSolved 102 = .ok (.iaload, 1) := dk_46 (dk_at dksX0_isSolved_4 9 rfl rfl)
theorem dX0_isSolved_103 : decode cX0_isSolved 103 = .ok (.ifCond .ne 6, 3) := dk_154 0 6 (dk_at dksX0_isSolved_4 10 rfl rfl)
theorem dX0_isSolved_106 : decode cX0_isSolved 106 = .ok (.goto 154, 3) := dk_167 0 154 (dk_at dksX0_isSolved_4 13 rfl rfl)
theorem dX0_isSolved_109 : decode cX0_isSolved 109 = .ok (.aload_n 0, 1) := dk_42 (dk_at dksX0_isSolved_4 16 rfl rfl)
theorem dX0_isSolved_110 : decode cX0_isSolved 110 = .ok (.getfield 64, 3) := dk_180 0 64 (dk_at dksX0_isSolved_4 17 rfl rfl)
theorem dX0_isSolved_113 : decode cX0_isSolved 113 = .ok (.getfield 191, 3) := dk_180 0 191 (dk_at dksX0_isSolved_4 20 rfl rfl)
theorem dX0_isSolved_116 : decode cX0_isSolved 116 = .ok (.iload_n 2, 1) := dk_28 (dk_at dksX0_isSolved_4 23 rfl rfl)
theorem dX0_isSolved_117 : decode cX0_isSolved 117 = .ok (.iaload, 1) := dk_46 (dk_at dksX0_isSolved_5 0 rfl rfl)
theorem dX0_isSolved_118 : decode cX0_isSolved 118 = .ok (.istore_n 3, 1) := dk_62 (dk_at dksX0_isSolved_5 1 rfl rfl)
theorem dX0_isSolved_119 : decode cX0_isSolved 119 = .ok (.aload_n 0, 1) := dk_42 (dk_at dksX0_isSolved_5 2 rfl rfl)
theorem dX0_isSolved_120 : decode cX0_isSolved 120 = .ok (.getfield 64, 3) := dk_180 0 64 (dk_at dksX0_isSolved_5 3 rfl rfl)
theorem dX0_isSolved_123 : decode cX0_isSolved 123 = .ok (.getfield 194, 3) := dk_180 0 194 (dk_at dksX0_isSolved_5 6 rfl rfl)
theorem dX0_isSolved_126 : decode cX0_isSolved 126 = .ok (.iload_n 2, 1) := dk_28 (dk_at dksX0_isSolved_5 9 rfl rfl)
theorem dX0_isSolved_127 : decode cX0_isSolved 127 = .ok (.iaload, 1) := dk_46 (dk_at dksX0_isSolved_5 10 rfl rfl)
theorem dX0_isSolved_128 : decode cX0_isSolved 128 = .ok (.istore 4, 2) := dk_54 4 (dk_at dksX0_isSolved_5 11 rfl rfl)
theorem dX0_isSolved_130 : decode cX0_isSolved 130 = .ok (.aload_n 0, 1) := dk_42 (dk_at dksX0_isSolved_5 13 rfl rfl)
theorem dX0_isSolved_131 : decode cX0_isSolved 131 = .ok (.getfield 93, 3) := dk_180 0 93 (dk_at dksX0_isSolved_5 14 rfl rfl)
theorem dX0_isSolved_134 : decode cX0_isSolved 134 = .ok (.iload 4, 2) := dk_21 4 (dk_at dksX0_isSolved_5 17 rfl rfl)
theorem dX0_isSolved_136 : decode cX0_isSolved 136 = .ok (.aaload, 1) := dk_50 (dk_at dksX0_isSolved_5 19 rfl rfl)
theorem dX0_isSolved_137 : decode cX0_isSolved 137 = .ok (.iload 4, 2) := dk_21 4 (dk_at dksX0_isSolved_5 20 rfl rfl)
theorem dX0_isSolved_139 : decode cX0_isSolved 139 = .ok (.dup2, 1) := dk_92 (dk_at dksX0_isSolved_5 22 rfl rfl)
theorem dX0_isSolved_140 : decode cX0_isSolved 140 = .ok (.laload, 1) := dk_47 (dk_at dksX0_isSolved_5 23 rfl rfl)
theorem dX0_isSolved_141 : decode cX0_isSolved 141 = .ok (.aload_n 0, 1) := dk_42 (dk_at dksX0_isSolved_6 0 rfl rfl)
theorem dX0_isSolved_142 : decode cX0_isSolved 142 = .ok (.getfield 106, 3) := dk_180 0 106 (dk_at dksX0_isSolved_6 1 rfl rfl)
theorem dX0_isSolved_145 : decode cX0_isSolved 145 = .ok (.iload_n 2, 1) := dk_28 (dk_at dksX0_isSolved_6 4 rfl rfl)
theorem dX0_isSolved_146 : decode cX0_isSolved 146 = .ok (.iaload, 1) := dk_46 (dk_at dksX0_isSolved_6 5 rfl rfl)
theorem dX0_isSolved_147 : decode cX0_isSolved 147 = .ok (.i2l, 1) := dk_133 (dk_at dksX0_isSolved_6 6 rfl rfl)
theorem dX0_isSolved_148 : decode cX0_isSolved 148 = .ok (.ladd, 1) := dk_97 (dk_at dksX0_isSolved_6 7 rfl rfl)
theorem dX0_isSolved_149 : decode cX0_isSolved 149 = .ok (.lastore, 1) := dk_80 (dk_at dksX0_isSolved_6 8 rfl rfl)
theorem dX0_isSolved_150 : decode cX0_isSolved 150 = .ok (.aload_n 0, 1) := dk_42 (dk_at dksX0_isSolved_6 9 rfl rfl)
theorem dX0_isSolved_151 : decode cX0_isSolved 151 = .ok (.getfield 99, 3) := dk_180 0 99 (dk_at dksX0_isSolved_6 10 rfl rfl)
theorem dX0_isSolved_154 : decode cX0_isSolved 154 = .ok (.iload 4, 2) := dk_21 4 (dk_at dksX0_isSolved_6 13 rfl rfl)
theorem dX0_isSolved_156 : decode cX0_isSolved 156 = .ok (.dup2, 1) := dk_92 (dk_at dksX0_isSolved_6 15 rfl rfl)
theorem dX0_isSolved_157 : decode cX0_isSolved 157 = .ok (.laload, 1) := dk_47 (dk_at dksX0_isSolved_6 16 rfl rfl)
theorem dX0_isSolved_158 : decode cX0_isSolved 158 = .ok (.aload_n 0, 1) := dk_42 (dk_at dksX0_isSolved_6 17 rfl rfl)
theorem dX0_isSolved_159 : decode cX0_isSolved 159 = .ok (.getfield 106, 3) := dk_180 0 106 (dk_at dksX0_isSolved_6 18 rfl rfl)
theorem dX0_isSolved_162 : decode cX0_isSolved 162 = .ok (.iload_n 2, 1) := dk_28 (dk_at dksX0_isSolved_6 21 rfl rfl)
theorem dX0_isSolved_163 : decode cX0_isSolved 163 = .ok (.iaload, 1) := dk_46 (dk_at dksX0_isSolved_6 22 rfl rfl)
theorem dX0_isSolved_164 : decode cX0_isSolved 164 = .ok (.aload_n 0, 1) := dk_42 (dk_at dksX0_isSolved_6 23 rfl rfl)
theorem dX0_isSolved_165 : decode cX0_isSolved 165 = .ok (.getfield 109, 3) := dk_180 0 109 (dk_at dksX0_isSolved_7 0 rfl rfl)
theorem dX0_isSolved_168 : decode cX0_isSolved 168 = .ok (.iload_n 2, 1) := dk_28 (dk_at dksX0_isSolved_7 3 rfl rfl)
theorem dX0_isSolved_169 : decode cX0_isSolved 169 = .ok (.iaload, 1) := dk_46 (dk_at dksX0_isSolved_7 4 rfl rfl)
theorem dX0_isSolved_170 : decode cX0_isSolved 170 = .ok (.imul, 1) := dk_104 (dk_at dksX0_isSolved_7 5 rfl rfl)
theorem dX0_isSolved_171 : decode cX0_isSolved 171 = .ok (.i2l, 1) := dk_133 (dk_at dksX0_isSolved_7 6 rfl rfl)
theorem dX0_isSolved_172 : decode cX0_isSolved 172 = .ok (.ladd, 1) := dk_97 (dk_at dksX0_isSolved_7 7 rfl rfl)
theorem dX0_isSolved_173 : decode cX0_isSolved 173 = .ok (.lastore, 1) := dk_80 (dk_at dksX0_isSolved_7 8 rfl rfl)
theorem dX0_isSolved_174 : decode cX0_isSolved 174 = .ok (.iload_n 3, 1) := dk_29 (dk_at dksX0_isSolved_7 9 rfl rfl)
theorem dX0_isSolved_175 : decode cX0_isSolved 175 = .ok (.ifCond .ge 6, 3) := dk_156 0 6 (dk_at dksX0_isSolved_7 10 rfl rfl)
theorem dX0_isSolved_178 : decode cX0_isSolved 178 = .ok (.goto 82, 3) := dk_167 0 82 (dk_at dksX0_isSolved_7 13 rfl rfl)
theorem dX0_isSolved_181 : decode cX0_isSolved 181 = .ok (.aload_n 0, 1) := dk_42 (dk_at dksX0_isSolved_7 16 rfl rfl)
theorem dX0_isSolved_182 : decode cX0_isSolved 182 = .ok (.getfield 93, 3) := dk_180 0 93 (dk_at dksX0_isSolved_7 17 rfl rfl)
theorem dX0_isSolved_185 : decode cX0_isSolved 185 = .ok (.iload_n 3, 1) := dk_29 (dk_at dksX0_isSolved_7 20 rfl rfl)
theorem dX0_isSolved_186 : decode cX0_isSolved 186 = .ok (.aaload, 1) := dk_50 (dk_at dksX0_isSolved_7 21 rfl rfl)
theorem dX0_isSolved_187 : decode cX0_isSolved 187 = .ok (.iload_n 3, 1) := dk_29 (dk_at dksX0_isSolved_7 22 rfl rfl)
theorem dX0_isSolved_188 : decode cX0_isSolved 188 = .ok (.dup2, 1) := dk_92 (dk_at dksX0_isSolved_7 23 rfl rfl)
theorem dX0_isSolved_189 : decode cX0_isSolved 189 = .ok (.laload, 1) := dk_47 (dk_at dksX0_isSolved_8 0 rfl rfl)
theorem dX0_isSolved_190 : decode cX0_isSolved 190 = .ok (.aload_n 0, 1) := dk_42 (dk_at dksX0_isSolved_8 1 rfl rfl)
theorem dX0_isSolved_191 : decode cX0_isSolved 191 = .ok (.getfield 106, 3) := dk_180 0 106 (dk_at dksX0_isSolved_8 2 rfl rfl)
theorem dX0_isSolved_194 : decode cX0_isSolved 194 = .ok (.iload_n 2, 1) := dk_28 (dk_at dksX0_isSolved_8 5 rfl rfl)
theorem dX0_isSolved_195 : decode cX0_isSolved 195 = .ok (.iaload, 1) := dk_46 (dk_at dksX0_isSolved_8 6 rfl rfl)
theorem dX0_isSolved_196 : decode cX0_isSolved 196 = .ok (.i2l, 1) := dk_133 (dk_at dksX0_isSolved_8 7 rfl rfl)
theorem dX0_isSolved_197 : decode cX0_isSolved 197 = .ok (.ladd, 1) := dk_97 (dk_at dksX0_isSolved_8 8 rfl rfl)
theorem dX0_isSolved_198 : decode cX0_isSolved 198 = .ok (.lastore, 1) := dk_80 (dk_at dksX0_isSolved_8 9 rfl rfl)
theorem dX0_isSolved_199 : decode cX0_isSolved 199 = .ok (.aload_n 0, 1) := dk_42 (dk_at dksX0_isSolved_8 10 rfl rfl)
theorem dX0_isSolved_200 : decode cX0_isSolved 200 = .ok (.getfield 93, 3) := dk_180 0 93 (dk_at dksX0_isSolved_8 11 rfl rfl)
theorem dX0_isSolved_203 : decode cX0_isSolved 203 = .ok (.iload_n 3, 1) := dk_29 (dk_at dksX0_isSolved_8 14 rfl rfl)
theorem dX0_isSolved_204 : decode cX0_isSolved 204 = .ok (.aaload, 1) := dk_50 (dk_at dksX0_isSolved_8 15 rfl rfl)
theorem dX0_isSolved_205 : decode cX0_isSolved 205 = .ok (.iload 4, 2) := dk_21 4 (dk_at dksX0_isSolved_8 16 rfl rfl)
theorem dX0_isSolved_207 : decode cX0_isSolved 207 = .ok (.dup2, 1) := dk_92 (dk_at dksX0_isSolved_8 18 rfl rfl)
theorem dX0_isSolved_208 : decode cX0_isSolved 208 = .ok (.laload, 1) := dk_47 (dk_at dksX0_isSolved_8 19 rfl rfl)
theorem dX0_isSolved_209 : decode cX0_isSolved 209 = .ok (.aload_n 0, 1) := dk_42 (dk_at dksX0_isSolved_8 20 rfl rfl)
theorem dX0_isSolved_210 : decode cX0_isSolved 210 = .ok (.getfield 106, 3) := dk_180 0 106 (dk_at dksX0_isSolved_8 21 rfl rfl)
theorem dX0_isSolved_213 : decode cX0_isSolved 213 = .ok (.iload_n 2, 1) := dk_28 (dk_at dksX0_isSolved_9 0 rfl rfl)
theorem dX0_isSolved_214 : decode cX0_isSolved 214 = .ok (.iaload, 1) := dk_46 (dk_at dksX0_isSolved_9 1 rfl rfl)
theorem dX0_isSolved_215 : decode cX0_isSolved 215 = .ok (.i2l, 1) := dk_133 (dk_at dksX0_isSolved_9 2 rfl rfl)
theorem dX0_isSolved_216 : decode cX0_isSolved 216 = .ok (.lsub, 1) := dk_101 (dk_at dksX0_isSolved_9 3 rfl rfl)
theorem dX0_isSolved_217 : decode cX0_isSolved 217 = .ok (.lastore, 1) := dk_80 (dk_at dksX0_isSolved_9 4 rfl rfl)
theorem dX0_isSolved_218 : decode cX0_isSolved 218 = .ok (.aload_n 0, 1) := dk_42 (dk_at dksX0_isSolved_9 5 rfl rfl)
theorem dX0_isSolved_219 : decode cX0_isSolved 219 = .ok (.getfield 93, 3) := dk_180 0 93 (dk_at dksX0_isSolved_9 6 rfl rfl)
theorem dX0_isSolved_222 : decode cX0_isSolved 222 = .ok (.iload 4, 2) := dk_21 4 (dk_at dksX0_isSolved_9 9 rfl rfl)
theorem dX0_isSolved_224 : decode cX0_isSolved 224 = .ok (.aaload, 1) := dk_50 (dk_at dksX0_isSolved_9 11 rfl rfl)
theorem dX0_isSolved_225 : decode cX0_isSolved 225 = .ok (.iload_n 3, 1) := dk_29 (dk_at dksX0_isSolved_9 12 rfl rfl)
theorem dX0_isSolved_226 : decode cX0_isSolved 226 = .ok (.dup2, 1) := dk_92 (dk_at dksX0_isSolved_9 13 rfl rfl)
theorem dX0_isSolved_227 : decode cX0_isSolved 227 = .ok (.laload, 1) := dk_47 (dk_at dksX0_isSolved_9 14 rfl rfl)
theorem dX0_isSolved_228 : decode cX0_isSolved 228 = .ok (.aload_n 0, 1) := dk_42 (dk_at dksX0_isSolved_9 15 rfl rfl)
theorem dX0_isSolved_229 : decode cX0_isSolved 229 = .ok (.getfield 106, 3) := dk_180 0 106 (dk_at dksX0_isSolved_9 16 rfl rfl)
theorem dX0_isSolved_232 : decode cX0_isSolved 232 = .ok (.iload_n 2, 1) := dk_28 (dk_at dksX0_isSolved_9 19 rfl rfl)
theorem dX0_isSolved_233 : decode cX0_isSolved 233 = .ok (.iaload, 1) := dk_46 (dk_at dksX0_isSolved_9 20 rfl rfl)
theorem dX0_isSolved_234 : decode cX0_isSolved 234 = .ok (.i2l, 1) := dk_133 (dk_at dksX0_isSolved_9 21 rfl rfl)
theorem dX0_isSolved_235 : decode cX0_isSolved 235 = .ok (.lsub, 1) := dk_101 (dk_at dksX0_isSolved_9 22 rfl rfl)
theorem dX0_isSolved_236 : decode cX0_isSolved 236 = .ok (.lastore, 1) := dk_80 (dk_at dksX0_isSolved_9 23 rfl rfl)
theorem dX0_isSolved_237 : decode cX0_isSolved 237 = .ok (.aload_n 0, 1) := dk_42 (dk_at dksX0_isSolved_10 0 rfl rfl)
theorem dX0_isSolved_238 : decode cX0_isSolved 238 = .ok (.getfield 99, 3) := dk_180 0 99 (dk_at dksX0_isSolved_10 1 rfl rfl)
theorem dX0_isSolved_241 : decode cX0_isSolved 241 = .ok (.iload_n 3, 1) := dk_29 (dk_at dksX0_isSolved_10 4 rfl rfl)
theorem dX0_isSolved_242 : decode cX0_isSolved 242 = .ok (.dup2, 1) := dk_92 (dk_at dksX0_isSolved_10 5 rfl rfl)
theorem dX0_isSolved_243 : decode cX0_isSolved 243 = .ok (.laload, 1) := dk_47 (dk_at dksX0_isSolved_10 6 rfl rfl)
theorem dX0_isSolved_244 : decode cX0_isSolved 244 = .ok (.aload_n 0, 1) := dk_42 (dk_at dksX0_isSolved_10 7 rfl rfl)
theorem dX0_isSolved_245 : decode cX0_isSolved 245 = .ok (.getfield 106, 3) := dk_180 0 106 (dk_at dksX0_isSolved_10 8 rfl rfl)
theorem dX0_isSolved_248 : decode cX0_isSolved 248 = .ok (.iload_n 2, 1) := dk_28 (dk_at dksX0_isSolved_10 11 rfl rfl)
theorem dX0_isSolved_249 : decode cX0_isSolved 249 = .ok (.iaload, 1) := dk_46 (dk_at dksX0_isSolved_10 12 rfl rfl)
theorem dX0_isSolved_250 : decode cX0_isSolved 250 = .ok (.aload_n 0, 1) := dk_42 (dk_at dksX0_isSolved_10 13 rfl rfl)
theorem dX0_isSolved_251 : decode cX0_isSolved 251 = .ok (.getfield 109, 3) := dk_180 0 109 (dk_at dksX0_isSolved_10 14 rfl rfl)
theorem dX0_isSolved_254 : decode cX0_isSolved 254 = .ok (.iload_n 2, 1) := dk_28 (dk_at dksX0_isSolved_10 17 rfl rfl)
theorem dX0_isSolved_255 : decode cX0_isSolved 255 = .ok (.iaload, 1) := dk_46 (dk_at dksX0_isSolved_10 18 rfl rfl)
theorem dX0_isSolved_256 : decode cX0_isSolved 256 = .ok (.imul, 1) := dk_104 (dk_at dksX0_isSolved_10 19 rfl rfl)
theorem dX0_isSolved_257 : decode cX0_isSolved 257 = .ok (.i2l, 1) := dk_133 (dk_at dksX0_isSolved_10 20 rfl rfl)
theorem dX0_isSolved_258 : decode cX0_isSolved 258 = .ok (.lsub, 1) := dk_101 (dk_at dksX0_isSolved_10 21 rfl rfl)
theorem dX0_isSolved_259 : decode cX0_isSolved 259 = .ok (.lastore, 1) := dk_80 (dk_at dksX0_isSolved_10 22 rfl rfl)
theorem dX0_isSolved_260 : decode cX0_isSolved 260 = .ok (.iinc 2 1, 3) := dk_132 2 1 (dk_at dksX0_isSolved_11 0 rfl rfl)
theorem dX0_isSolved_263 : decode cX0_isSolved 263 = .ok (.goto (-202), 3) := dk_167 255 54 (dk_at dksX0_isSolved_11 3 rfl rfl)
theorem dX0_isSolved_266 : decode cX0_isSolved 266 = .ok (.iconst (-1), 1) := dk_2 (dk_at dksX0_isSolved_11 6 rfl rfl)
theorem dX0_isSolved_267 : decode cX0_isSolved 267 = .ok (.istore_n 2, 1) := dk_61 (dk_at dksX0_isSolved_11 7 rfl rfl)
theorem dX0_isSolved_268 : decode cX0_isSolved 268 = .ok (.iload_n 2, 1) := dk_28 (dk_at dksX0_isSolved_11 8 rfl rfl)
theorem dX0_isSolved_269 : decode cX0_isSolved 269 = .ok (.iload_n 1, 1) := dk_27 (dk_at dksX0_isSolved_11 9 rfl rfl)
theorem dX0_isSolved_270 : decode cX0_isSolved 270 = .ok (.if_icmp .ge 95, 3) := dk_162 0 95 (dk_at dksX0_isSolved_11 10 rfl rfl)
theorem dX0_isSolved_273 : decode cX0_isSolved 273 = .ok (.iconst 0, 1) := dk_3 (dk_at dksX0_isSolved_11 13 rfl rfl)
theorem dX0_isSolved_274 : decode cX0_isSolved 274 = .ok (.istore_n 3, 1) := dk_62 (dk_at dksX0_isSolved_11 14 rfl rfl)
theorem dX0_isSolved_275 : decode cX0_isSolved 275 = .ok (.iload_n 3, 1) := dk_29 (dk_at dksX0_isSolved_11 15 rfl rfl)
theorem dX0_isSolved_276 : decode cX0_isSolved 276 = .ok (.iload_n 1, 1) := dk_27 (dk_at dksX0_isSolved_11 16 rfl rfl)
theorem dX0_isSolved_277 : decode cX0_isSolved 277 = .ok (.if_icmp .ge 57, 3) := dk_162 0 57 (dk_at dksX0_isSolved_11 17 rfl rfl)
theorem dX0_isSolved_280 : decode cX0_isSolved 280 = .ok (.iconst 0, 1) := dk_3 (dk_at dksX0_isSolved_11 20 rfl rfl)
theorem dX0_isSolved_281 : decode cX0_isSolved 281 = .ok (.istore 4, 2) := dk_54 4 (dk_at dksX0_isSolved_11 21 rfl rfl)
theorem dX0_isSolved_283 : decode cX0_isSolved 283 = .ok (.iload 4, 2) := dk_21 4 (dk_at dksX0_isSolved_12 0 rfl rfl)
theorem dX0_isSolved_285 : decode cX0_isSolved 285 = .ok (.iload_n 1, 1) := dk_27 (dk_at dksX0_isSolved_12 2 rfl rfl)
theorem dX0_isSolved_286 : decode cX0_isSolved 286 = .ok (.if_icmp .ge 42, 3) := dk_162 0 42 (dk_at dksX0_isSolved_12 3 rfl rfl)
theorem dX0_isSolved_289 : decode cX0_isSolved 289 = .ok (.aload_n 0, 1) := dk_42 (dk_at dksX0_isSolved_12 6 rfl rfl)
theorem dX0_isSolved_290 : decode cX0_isSolved 290 = .ok (.getfield 96, 3) := dk_180 0 96 (dk_at dksX0_isSolved_12 7 rfl rfl)
theorem dX0_isSolved_293 : decode cX0_isSolved 293 = .ok (.iload_n 3, 1) := dk_29 (dk_at dksX0_isSolved_12 10 rfl rfl)
theorem dX0_isSolved_294 : decode cX0_isSolved 294 = .ok (.aaload, 1) := dk_50 (dk_at dksX0_isSolved_12 11 rfl rfl)
theorem dX0_isSolved_295 : decode cX0_isSolved 295 = .ok (.iload 4, 2) := dk_21 4 (dk_at dksX0_isSolved_12 12 rfl rfl)
theorem dX0_isSolved_297 : decode cX0_isSolved 297 = .ok (.iload 4, 2) := dk_21 4 (dk_at dksX0_isSolved_12 14 rfl rfl)
theorem dX0_isSolved_299 : decode cX0_isSolved 299 = .ok (.iload_n 2, 1) := dk_28 (dk_at dksX0_isSolved_12 16 rfl rfl)
theorem dX0_isSolved_300 : decode cX0_isSolved 300 = .ok (.if_icmp .ne 12, 3) := dk_160 0 12 (dk_at dksX0_isSolved_12 17 rfl rfl)
theorem dX0_isSolved_303 : decode cX0_isSolved 303 = .ok (.aload_n 0, 1) := dk_42 (dk_at dksX0_isSolved_12 20 rfl rfl)
theorem dX0_isSolved_304 : decode cX0_isSolved 304 = .ok (.getfield 99, 3) := dk_180 0 99 (dk_at dksX0_isSolved_12 21 rfl rfl)
theorem dX0_isSolved_307 : decode cX0_isSolved 307 = .ok (.iload_n 3, 1) := dk_29 (dk_at dksX0_isSolved_13 0 rfl rfl)
theorem dX0_isSolved_308 : decode cX0_isSolved 308 = .ok (.laload, 1) := dk_47 (dk_at dksX0_isSolved_13 1 rfl rfl)
theorem dX0_isSolved_309 : decode cX0_isSolved 309 = .ok (.goto 12, 3) := dk_167 0 12 (dk_at dksX0_isSolved_13 2 rfl rfl)
theorem dX0_isSolved_312 : decode cX0_isSolved 312 = .ok (.aload_n 0, 1) := dk_42 (dk_at dksX0_isSolved_13 5 rfl rfl)
theorem dX0_isSolved_313 : decode cX0_isSolved 313 = .ok (.getfield 93, 3) := dk_180 0 93 (dk_at dksX0_isSolved_13 6 rfl rfl)
theorem dX0_isSolved_316 : decode cX0_isSolved 316 = .ok (.iload_n 3, 1) := dk_29 (dk_at dksX0_isSolved_13 9 rfl rfl)
theorem dX0_isSolved_317 : decode cX0_isSolved 317 = .ok (.aaload, 1) := dk_50 (dk_at dksX0_isSolved_13 10 rfl rfl)
theorem dX0_isSolved_318 : decode cX0_isSolved 318 = .ok (.iload 4, 2) := dk_21 4 (dk_at dksX0_isSolved_13 11 rfl rfl)
theorem dX0_isSolved_320 : decode cX0_isSolved 320 = .ok (.laload, 1) := dk_47 (dk_at dksX0_isSolved_13 13 rfl rfl)
theorem dX0_isSolved_321 : decode cX0_isSolved 321 = .ok (.lastore, 1) := dk_80 (dk_at dksX0_isSolved_13 14 rfl rfl)
theorem dX0_isSolved_322 : decode cX0_isSolved 322 = .ok (.iinc 4 1, 3) := dk_132 4 1 (dk_at dksX0_isSolved_13 15 rfl rfl)
theorem dX0_isSolved_325 : decode cX0_isSolved 325 = .ok (.goto (-42), 3) := dk_167 255 214 (dk_at dksX0_isSolved_13 18 rfl rfl)
theorem dX0_isSolved_328 : decode cX0_isSolved 328 = .ok (.iinc 3 1, 3) := dk_132 3 1 (dk_at dksX0_isSolved_13 21 rfl rfl)
theorem dX0_isSolved_331 : decode cX0_isSolved 331 = .ok (.goto (-56), 3) := dk_167 255 200 (dk_at dksX0_isSolved_14 0 rfl rfl)
theorem dX0_isSolved_334 : decode cX0_isSolved 334 = .ok (.aload_n 0, 1) := dk_42 (dk_at dksX0_isSolved_14 3 rfl rfl)
theorem dX0_isSolved_335 : decode cX0_isSolved 335 = .ok (.iload_n 1, 1) := dk_27 (dk_at dksX0_isSolved_14 4 rfl rfl)
theorem dX0_isSolved_336 : decode cX0_isSolved 336 = .ok (.invokevirtual 197, 3) := dk_182 0 197 (dk_at dksX0_isSolved_14 5 rfl rfl)
theorem dX0_isSolved_339 : decode cX0_isSolved 339 = .ok (.lstore_n 3, 1) := dk_66 (dk_at dksX0_isSolved_14 8 rfl rfl)
theorem dX0_isSolved_340 : decode cX0_isSolved 340 = .ok (.iload_n 2, 1) := dk_28 (dk_at dksX0_isSolved_14 9 rfl rfl)
theorem dX0_isSolved_341 : decode cX0_isSolved 341 = .ok (.ifCond .ge 11, 3) := dk_156 0 11 (dk_at dksX0_isSolved_14 10 rfl rfl)
theorem dX0_isSolved_344 : decode cX0_isSolved 344 = .ok (.aload_n 0, 1) := dk_42 (dk_at dksX0_isSolved_14 13 rfl rfl)
theorem dX0_isSolved_345 : decode cX0_isSolved 345 = .ok (.lload_n 3, 1) := dk_33 (dk_at dksX0_isSolved_14 14 rfl rfl)
theorem dX0_isSolved_346 : decode cX0_isSolved 346 = .ok (.putfield 201, 3) := dk_181 0 201 (dk_at dksX0_isSolved_14 15 rfl rfl)
theorem dX0_isSolved_349 : decode cX0_isSolved 349 = .ok (.goto 10, 3) := dk_167 0 10 (dk_at dksX0_isSolved_14 18 rfl rfl)
theorem dX0_isSolved_352 : decode cX0_isSolved 352 = .ok (.aload_n 0, 1) := dk_42 (dk_at dksX0_isSolved_14 21 rfl rfl)
theorem dX0_isSolved_353 : decode cX0_isSolved 353 = .ok (.getfield 103, 3) := dk_180 0 103 (dk_at dksX0_isSolved_15 0 rfl rfl)
theorem dX0_isSolved_356 : decode cX0_isSolved 356 = .ok (.iload_n 2, 1) := dk_28 (dk_at dksX0_isSolved_15 3 rfl rfl)
theorem dX0_isSolved_357 : decode cX0_isSolved 357 = .ok (.lload_n 3, 1) := dk_33 (dk_at dksX0_isSolved_15 4 rfl rfl)
theorem dX0_isSolved_358 : decode cX0_isSolved 358 = .ok (.lastore, 1) := dk_80 (dk_at dksX0_isSolved_15 5 rfl rfl)
theorem dX0_isSolved_359 : decode cX0_isSolved 359 = .ok (.iinc 2 1, 3) := dk_132 2 1 (dk_at dksX0_isSolved_15 6 rfl rfl)
theorem dX0_isSolved_362 : decode cX0_isSolved 362 = .ok (.goto (-94), 3) := dk_167 255 162 (dk_at dksX0_isSolved_15 9 rfl rfl)
theorem dX0_isSolved_365 : decode cX0_isSolved 365 = .ok (.iconst 1, 1) := dk_4 (dk_at dksX0_isSolved_15 12 rfl rfl)
theorem dX0_isSolved_366 : decode cX0_isSolved 366 = .ok (.ireturn, 1) := dk_172 (dk_at dksX0_isSolved_15 13 rfl rfl)
abbrev cX0_isHeld : ByteArray := prog_1_method_16_code
def yX0_isHeld : MethodName := ⟨RX0, "isHeld", "()Z"⟩
def dkwX0_isHeld_1 : List UInt8 := [160, 0, 7, 4, 167, 0, 4, 3, 172]
abbrev dktX0_isHeld_1 : List UInt8 := dkwX0_isHeld_1 ++ []
def dkwX0_isHeld_0 : List UInt8 := [42, 180, 0, 64, 42, 180, 0, 64, 182, 0, 168, 182, 0, 172, 42, 180, 0, 64, 180, 0, 120, 184, 0, 175]
abbrev dktX0_isHeld_0 : List UInt8 := dkwX0_isHeld_0 ++ dktX0_isHeld_1
theorem dksX0_isHeld_0 : cX0_isHeld.data.toList.drop 0 = dktX0_isHeld_0 := by decide +kernel
theorem dksX0_isHeld_1 : cX0_isHeld.data.toList.drop 24 = dktX0_isHeld_1 := dk_seg dksX0_isHeld_0 24 rfl rfl
theorem dX0_isHeld_0 : decode cX0_isHeld 0 = .ok (.aload_n 0, 1) := dk_42 (dk_at dksX0_isHeld_0 0 rfl rfl)
theorem dX0_isHeld_1 : decode cX0_isHeld 1 = .ok (.getfield 64, 3) := dk_180 0 64 (dk_at dksX0_isHeld_0 1 rfl rfl)
theorem dX0_isHeld_4 : decode cX0_isHeld 4 = .ok (.aload_n 0, 1) := dk_42 (dk_at dksX0_isHeld_0 4 rfl rfl)
theorem dX0_isHeld_5 : decode cX0_isHeld 5 = .ok (.getfield 64, 3) := dk_180 0 64 (dk_at dksX0_isHeld_0 5 rfl rfl)
theorem dX0_isHeld_8 : decode cX0_isHeld 8 = .ok (.invokevirtual 168, 3) := dk_182 0 168 (dk_at dksX0_isHeld_0 8 rfl rfl)
theorem dX0_isHeld_11 : decode cX0_isHeld 11 = .ok (.invokevirtual 172, 3) := dk_182 0 172 (dk_at dksX0_isHeld_0 11 rfl rfl)
theorem dX0_isHeld_14 : decode cX0_isHeld 14 = .ok (.aload_n 0, 1) := dk_42 (dk_at dksX0_isHeld_0 14 rfl rfl)
theorem dX0_isHeld_15 : decode cX0_isHeld 15 = .ok (.getfield 64, 3) := dk_180 0 64 (dk_at dksX0_isHeld_0 15 rfl rfl)
theorem dX0_isHeld_18 : decode cX0_isHeld 18 = .ok (.getfield 120, 3) := dk_180 0 120 (dk_at dksX0_isHeld_0 18 rfl rfl)
theorem dX0_isHeld_21 : decode cX0_isHeld 21 = .ok (.invokestatic 175, 3) := dk_184 0 175 (dk_at dksX0_isHeld_0 21 rfl rfl)
theorem dX0_isHeld_24 : decode cX0_isHeld 24 = .ok (.if_icmp .ne 7, 3) := dk_160 0 7 (dk_at dksX0_isHeld_1 0 rfl rfl)
theorem dX0_isHeld_27 : decode cX0_isHeld 27 = .ok (.iconst 1, 1) := dk_4 (dk_at dksX0_isHeld_1 3 rfl rfl)
theorem dX0_isHeld_28 : decode cX0_isHeld 28 = .ok (.goto 4, 3) := dk_167 0 4 (dk_at dksX0_isHeld_1 4 rfl rfl)
theorem dX0_isHeld_31 : decode cX0_isHeld 31 = .ok (.iconst 0, 1) := dk_3 (dk_at dksX0_isHeld_1 7 rfl rfl)
theorem dX0_isHeld_32 : decode cX0_isHeld 32 = .ok (.ireturn, 1) := dk_172 (dk_at dksX0_isHeld_1 8 rfl rfl)
abbrev cX0_all : ByteArray := prog_1_method_15_code
def yX0_all : MethodName := ⟨RX0, "all", "(I)I"⟩
def dkwX0_all_0 : List UInt8 := [4, 26, 120, 4, 100, 172]
abbrev dktX0_all_0 : List UInt8 := dkwX0_all_0 ++ []
theorem dksX0_all_0 : cX0_all.data.toList.drop 0 = dktX0_all_0 := by decide +kernel
theorem dX0_all_0 : decode cX0_all 0 = .ok (.iconst 1, 1) := dk_4 (dk_at dksX0_all_0 0 rfl rfl)
theorem dX0_all_1 : decode cX0_all 1 = .ok (.iload_n 0, 1) := dk_26 (dk_at dksX0_all_0 1 rfl rfl)
theorem dX0_all_2 : decode cX0_all 2 = .ok (.ishl, 1) := dk_120 (dk_at dksX0_all_0 2 rfl rfl)
theorem dX0_all_3 : decode cX0_all 3 = .ok (.iconst 1, 1) := dk_4 (dk_at dksX0_all_0 3 rfl rfl)
theorem dX0_all_4 : decode cX0_all 4 = .ok (.isub, 1) := dk_100 (dk_at dksX0_all_0 4 rfl rfl)
theorem dX0_all_5 : decode cX0_all 5 = .ok (.ireturn, 1) := dk_172 (dk_at dksX0_all_0 5 rfl rfl)
abbrev cX0_comesTo : ByteArray := prog_1_method_17_code
def yX0_comesTo : MethodName := ⟨RX0, "comesTo", "(I)J"⟩
def dkwX0_comesTo_8 : List UInt8 := [180, 0, 96, 21, 6, 50, 21, 6, 47, 65, 132, 6, 1, 167, 255, 62, 22, 4, 32, 105, 173]
abbrev dktX0_comesTo_8 : List UInt8 := dkwX0_comesTo_8 ++ []
def dkwX0_comesTo_7 : List UInt8 := [21, 6, 50, 21, 9, 47, 105, 101, 32, 109, 80, 132, 9, 1, 167, 255, 192, 132, 8, 1, 167, 255, 174, 42]
abbrev dktX0_comesTo_7 : List UInt8 := dkwX0_comesTo_7 ++ dktX0_comesTo_8
def dkwX0_comesTo_6 : List UInt8 := [180, 0, 96, 21, 6, 50, 21, 6, 47, 105, 42, 180, 0, 96, 21, 8, 50, 21, 6, 47, 42, 180, 0, 96]
abbrev dktX0_comesTo_6 : List UInt8 := dkwX0_comesTo_6 ++ dktX0_comesTo_7
def dkwX0_comesTo_5 : List UInt8 := [162, 0, 64, 42, 180, 0, 96, 21, 8, 50, 21, 9, 42, 180, 0, 96, 21, 8, 50, 21, 9, 47, 42]
abbrev dktX0_comesTo_5 : List UInt8 := dkwX0_comesTo_5 ++ dktX0_comesTo_6
def dkwX0_comesTo_4 : List UInt8 := [117, 55, 4, 21, 6, 4, 96, 54, 8, 21, 8, 27, 162, 0, 82, 21, 6, 4, 96, 54, 9, 21, 9, 27]
abbrev dktX0_comesTo_4 : List UInt8 := dkwX0_comesTo_4 ++ dktX0_comesTo_5
def dkwX0_comesTo_3 : List UInt8 := [180, 0, 96, 21, 7, 42, 180, 0, 96, 21, 6, 50, 83, 42, 180, 0, 96, 21, 6, 25, 8, 83, 22, 4]
abbrev dktX0_comesTo_3 : List UInt8 := dkwX0_comesTo_3 ++ dktX0_comesTo_4
def dkwX0_comesTo_2 : List UInt8 := [160, 0, 5, 9, 173, 21, 7, 21, 6, 164, 0, 40, 42, 180, 0, 96, 21, 7, 50, 58, 8, 42]
abbrev dktX0_comesTo_2 : List UInt8 := dkwX0_comesTo_2 ++ dktX0_comesTo_3
def dkwX0_comesTo_1 : List UInt8 := [42, 180, 0, 96, 21, 7, 50, 21, 6, 47, 9, 148, 154, 0, 9, 132, 7, 1, 167, 255, 232, 21, 7, 27]
abbrev dktX0_comesTo_1 : List UInt8 := dkwX0_comesTo_1 ++ dktX0_comesTo_2
def dkwX0_comesTo_0 : List UInt8 := [10, 65, 10, 55, 4, 3, 54, 6, 21, 6, 27, 162, 0, 194, 21, 6, 54, 7, 21, 7, 27, 162, 0, 24]
abbrev dktX0_comesTo_0 : List UInt8 := dkwX0_comesTo_0 ++ dktX0_comesTo_1
theorem dksX0_comesTo_0 : cX0_comesTo.data.toList.drop 0 = dktX0_comesTo_0 := by decide +kernel
theorem dksX0_comesTo_1 : cX0_comesTo.data.toList.drop 24 = dktX0_comesTo_1 := dk_seg dksX0_comesTo_0 24 rfl rfl
theorem dksX0_comesTo_2 : cX0_comesTo.data.toList.drop 48 = dktX0_comesTo_2 := dk_seg dksX0_comesTo_1 24 rfl rfl
theorem dksX0_comesTo_3 : cX0_comesTo.data.toList.drop 70 = dktX0_comesTo_3 := dk_seg dksX0_comesTo_2 22 rfl rfl
theorem dksX0_comesTo_4 : cX0_comesTo.data.toList.drop 94 = dktX0_comesTo_4 := dk_seg dksX0_comesTo_3 24 rfl rfl
theorem dksX0_comesTo_5 : cX0_comesTo.data.toList.drop 118 = dktX0_comesTo_5 := dk_seg dksX0_comesTo_4 24 rfl rfl
theorem dksX0_comesTo_6 : cX0_comesTo.data.toList.drop 141 = dktX0_comesTo_6 := dk_seg dksX0_comesTo_5 23 rfl rfl
theorem dksX0_comesTo_7 : cX0_comesTo.data.toList.drop 165 = dktX0_comesTo_7 := dk_seg dksX0_comesTo_6 24 rfl rfl
theorem dksX0_comesTo_8 : cX0_comesTo.data.toList.drop 189 = dktX0_comesTo_8 := dk_seg dksX0_comesTo_7 24 rfl rfl
theorem dX0_comesTo_0 : decode cX0_comesTo 0 = .ok (.lconst 1, 1) := dk_10 (dk_at dksX0_comesTo_0 0 rfl rfl)
theorem dX0_comesTo_1 : decode cX0_comesTo 1 = .ok (.lstore_n 2, 1) := dk_65 (dk_at dksX0_comesTo_0 1 rfl rfl)
theorem dX0_comesTo_2 : decode cX0_comesTo 2 = .ok (.lconst 1, 1) := dk_10 (dk_at dksX0_comesTo_0 2 rfl rfl)
theorem dX0_comesTo_3 : decode cX0_comesTo 3 = .ok (.lstore 4, 2) := dk_55 4 (dk_at dksX0_comesTo_0 3 rfl rfl)
theorem dX0_comesTo_5 : decode cX0_comesTo 5 = .ok (.iconst 0, 1) := dk_3 (dk_at dksX0_comesTo_0 5 rfl rfl)
theorem dX0_comesTo_6 : decode cX0_comesTo 6 = .ok (.istore 6, 2) := dk_54 6 (dk_at dksX0_comesTo_0 6 rfl rfl)
theorem dX0_comesTo_8 : decode cX0_comesTo 8 = .ok (.iload 6, 2) := dk_21 6 (dk_at dksX0_comesTo_0 8 rfl rfl)
theorem dX0_comesTo_10 : decode cX0_comesTo 10 = .ok (.iload_n 1, 1) := dk_27 (dk_at dksX0_comesTo_0 10 rfl rfl)
theorem dX0_comesTo_11 : decode cX0_comesTo 11 = .ok (.if_icmp .ge 194, 3) := dk_162 0 194 (dk_at dksX0_comesTo_0 11 rfl rfl)
theorem dX0_comesTo_14 : decode cX0_comesTo 14 = .ok (.iload 6, 2) := dk_21 6 (dk_at dksX0_comesTo_0 14 rfl rfl)
theorem dX0_comesTo_16 : decode cX0_comesTo 16 = .ok (.istore 7, 2) := dk_54 7 (dk_at dksX0_comesTo_0 16 rfl rfl)
theorem dX0_comesTo_18 : decode cX0_comesTo 18 = .ok (.iload 7, 2) := dk_21 7 (dk_at dksX0_comesTo_0 18 rfl rfl)
theorem dX0_comesTo_20 : decode cX0_comesTo 20 = .ok (.iload_n 1, 1) := dk_27 (dk_at dksX0_comesTo_0 20 rfl rfl)
theorem dX0_comesTo_21 : decode cX0_comesTo 21 = .ok (.if_icmp .ge 24, 3) := dk_162 0 24 (dk_at dksX0_comesTo_0 21 rfl rfl)
theorem dX0_comesTo_24 : decode cX0_comesTo 24 = .ok (.aload_n 0, 1) := dk_42 (dk_at dksX0_comesTo_1 0 rfl rfl)
theorem dX0_comesTo_25 : decode cX0_comesTo 25 = .ok (.getfield 96, 3) := dk_180 0 96 (dk_at dksX0_comesTo_1 1 rfl rfl)
theorem dX0_comesTo_28 : decode cX0_comesTo 28 = .ok (.iload 7, 2) := dk_21 7 (dk_at dksX0_comesTo_1 4 rfl rfl)
theorem dX0_comesTo_30 : decode cX0_comesTo 30 = .ok (.aaload, 1) := dk_50 (dk_at dksX0_comesTo_1 6 rfl rfl)
theorem dX0_comesTo_31 : decode cX0_comesTo 31 = .ok (.iload 6, 2) := dk_21 6 (dk_at dksX0_comesTo_1 7 rfl rfl)
theorem dX0_comesTo_33 : decode cX0_comesTo 33 = .ok (.laload, 1) := dk_47 (dk_at dksX0_comesTo_1 9 rfl rfl)
theorem dX0_comesTo_34 : decode cX0_comesTo 34 = .ok (.lconst 0, 1) := dk_9 (dk_at dksX0_comesTo_1 10 rfl rfl)
theorem dX0_comesTo_35 : decode cX0_comesTo 35 = .ok (.lcmp, 1) := dk_148 (dk_at dksX0_comesTo_1 11 rfl rfl)
theorem dX0_comesTo_36 : decode cX0_comesTo 36 = .ok (.ifCond .ne 9, 3) := dk_154 0 9 (dk_at dksX0_comesTo_1 12 rfl rfl)
theorem dX0_comesTo_39 : decode cX0_comesTo 39 = .ok (.iinc 7 1, 3) := dk_132 7 1 (dk_at dksX0_comesTo_1 15 rfl rfl)
theorem dX0_comesTo_42 : decode cX0_comesTo 42 = .ok (.goto (-24), 3) := dk_167 255 232 (dk_at dksX0_comesTo_1 18 rfl rfl)
theorem dX0_comesTo_45 : decode cX0_comesTo 45 = .ok (.iload 7, 2) := dk_21 7 (dk_at dksX0_comesTo_1 21 rfl rfl)
theorem dX0_comesTo_47 : decode cX0_comesTo 47 = .ok (.iload_n 1, 1) := dk_27 (dk_at dksX0_comesTo_1 23 rfl rfl)
theorem dX0_comesTo_48 : decode cX0_comesTo 48 = .ok (.if_icmp .ne 5, 3) := dk_160 0 5 (dk_at dksX0_comesTo_2 0 rfl rfl)
theorem dX0_comesTo_51 : decode cX0_comesTo 51 = .ok (.lconst 0, 1) := dk_9 (dk_at dksX0_comesTo_2 3 rfl rfl)
theorem dX0_comesTo_52 : decode cX0_comesTo 52 = .ok (.lreturn, 1) := dk_173 (dk_at dksX0_comesTo_2 4 rfl rfl)
theorem dX0_comesTo_53 : decode cX0_comesTo 53 = .ok (.iload 7, 2) := dk_21 7 (dk_at dksX0_comesTo_2 5 rfl rfl)
theorem dX0_comesTo_55 : decode cX0_comesTo 55 = .ok (.iload 6, 2) := dk_21 6 (dk_at dksX0_comesTo_2 7 rfl rfl)
theorem dX0_comesTo_57 : decode cX0_comesTo 57 = .ok (.if_icmp .le 40, 3) := dk_164 0 40 (dk_at dksX0_comesTo_2 9 rfl rfl)
theorem dX0_comesTo_60 : decode cX0_comesTo 60 = .ok (.aload_n 0, 1) := dk_42 (dk_at dksX0_comesTo_2 12 rfl rfl)
theorem dX0_comesTo_61 : decode cX0_comesTo 61 = .ok (.getfield 96, 3) := dk_180 0 96 (dk_at dksX0_comesTo_2 13 rfl rfl)
theorem dX0_comesTo_64 : decode cX0_comesTo 64 = .ok (.iload 7, 2) := dk_21 7 (dk_at dksX0_comesTo_2 16 rfl rfl)
theorem dX0_comesTo_66 : decode cX0_comesTo 66 = .ok (.aaload, 1) := dk_50 (dk_at dksX0_comesTo_2 18 rfl rfl)
theorem dX0_comesTo_67 : decode cX0_comesTo 67 = .ok (.astore 8, 2) := dk_58 8 (dk_at dksX0_comesTo_2 19 rfl rfl)
theorem dX0_comesTo_69 : decode cX0_comesTo 69 = .ok (.aload_n 0, 1) := dk_42 (dk_at dksX0_comesTo_2 21 rfl rfl)
theorem dX0_comesTo_70 : decode cX0_comesTo 70 = .ok (.getfield 96, 3) := dk_180 0 96 (dk_at dksX0_comesTo_3 0 rfl rfl)
theorem dX0_comesTo_73 : decode cX0_comesTo 73 = .ok (.iload 7, 2) := dk_21 7 (dk_at dksX0_comesTo_3 3 rfl rfl)
theorem dX0_comesTo_75 : decode cX0_comesTo 75 = .ok (.aload_n 0, 1) := dk_42 (dk_at dksX0_comesTo_3 5 rfl rfl)
theorem dX0_comesTo_76 : decode cX0_comesTo 76 = .ok (.getfield 96, 3) := dk_180 0 96 (dk_at dksX0_comesTo_3 6 rfl rfl)
theorem dX0_comesTo_79 : decode cX0_comesTo 79 = .ok (.iload 6, 2) := dk_21 6 (dk_at dksX0_comesTo_3 9 rfl rfl)
theorem dX0_comesTo_81 : decode cX0_comesTo 81 = .ok (.aaload, 1) := dk_50 (dk_at dksX0_comesTo_3 11 rfl rfl)
theorem dX0_comesTo_82 : decode cX0_comesTo 82 = .ok (.aastore, 1) := dk_83 (dk_at dksX0_comesTo_3 12 rfl rfl)
theorem dX0_comesTo_83 : decode cX0_comesTo 83 = .ok (.aload_n 0, 1) := dk_42 (dk_at dksX0_comesTo_3 13 rfl rfl)
theorem dX0_comesTo_84 : decode cX0_comesTo 84 = .ok (.getfield 96, 3) := dk_180 0 96 (dk_at dksX0_comesTo_3 14 rfl rfl)
theorem dX0_comesTo_87 : decode cX0_comesTo 87 = .ok (.iload 6, 2) := dk_21 6 (dk_at dksX0_comesTo_3 17 rfl rfl)
theorem dX0_comesTo_89 : decode cX0_comesTo 89 = .ok (.aload 8, 2) := dk_25 8 (dk_at dksX0_comesTo_3 19 rfl rfl)
theorem dX0_comesTo_91 : decode cX0_comesTo 91 = .ok (.aastore, 1) := dk_83 (dk_at dksX0_comesTo_3 21 rfl rfl)
theorem dX0_comesTo_92 : decode cX0_comesTo 92 = .ok (.lload 4, 2) := dk_22 4 (dk_at dksX0_comesTo_3 22 rfl rfl)
theorem dX0_comesTo_94 : decode cX0_comesTo 94 = .ok (.lneg, 1) := dk_117 (dk_at dksX0_comesTo_4 0 rfl rfl)
theorem dX0_comesTo_95 : decode cX0_comesTo 95 = .ok (.lstore 4, 2) := dk_55 4 (dk_at dksX0_comesTo_4 1 rfl rfl)
theorem dX0_comesTo_97 : decode cX0_comesTo 97 = .ok (.iload 6, 2) := dk_21 6 (dk_at dksX0_comesTo_4 3 rfl rfl)
theorem dX0_comesTo_99 : decode cX0_comesTo 99 = .ok (.iconst 1, 1) := dk_4 (dk_at dksX0_comesTo_4 5 rfl rfl)
theorem dX0_comesTo_100 : decode cX0_comesTo 100 = .ok (.iadd, 1) := dk_96 (dk_at dksX0_comesTo_4 6 rfl rfl)
theorem dX0_comesTo_101 : decode cX0_comesTo 101 = .ok (.istore 8, 2) := dk_54 8 (dk_at dksX0_comesTo_4 7 rfl rfl)
theorem dX0_comesTo_103 : decode cX0_comesTo 103 = .ok (.iload 8, 2) := dk_21 8 (dk_at dksX0_comesTo_4 9 rfl rfl)
theorem dX0_comesTo_105 : decode cX0_comesTo 105 = .ok (.iload_n 1, 1) := dk_27 (dk_at dksX0_comesTo_4 11 rfl rfl)
theorem dX0_comesTo_106 : decode cX0_comesTo 106 = .ok (.if_icmp .ge 82, 3) := dk_162 0 82 (dk_at dksX0_comesTo_4 12 rfl rfl)
theorem dX0_comesTo_109 : decode cX0_comesTo 109 = .ok (.iload 6, 2) := dk_21 6 (dk_at dksX0_comesTo_4 15 rfl rfl)
theorem dX0_comesTo_111 : decode cX0_comesTo 111 = .ok (.iconst 1, 1) := dk_4 (dk_at dksX0_comesTo_4 17 rfl rfl)
theorem dX0_comesTo_112 : decode cX0_comesTo 112 = .ok (.iadd, 1) := dk_96 (dk_at dksX0_comesTo_4 18 rfl rfl)
theorem dX0_comesTo_113 : decode cX0_comesTo 113 = .ok (.istore 9, 2) := dk_54 9 (dk_at dksX0_comesTo_4 19 rfl rfl)
theorem dX0_comesTo_115 : decode cX0_comesTo 115 = .ok (.iload 9, 2) := dk_21 9 (dk_at dksX0_comesTo_4 21 rfl rfl)
theorem dX0_comesTo_117 : decode cX0_comesTo 117 = .ok (.iload_n 1, 1) := dk_27 (dk_at dksX0_comesTo_4 23 rfl rfl)
theorem dX0_comesTo_118 : decode cX0_comesTo 118 = .ok (.if_icmp .ge 64, 3) := dk_162 0 64 (dk_at dksX0_comesTo_5 0 rfl rfl)
theorem dX0_comesTo_121 : decode cX0_comesTo 121 = .ok (.aload_n 0, 1) := dk_42 (dk_at dksX0_comesTo_5 3 rfl rfl)
theorem dX0_comesTo_122 : decode cX0_comesTo 122 = .ok (.getfield 96, 3) := dk_180 0 96 (dk_at dksX0_comesTo_5 4 rfl rfl)
theorem dX0_comesTo_125 : decode cX0_comesTo 125 = .ok (.iload 8, 2) := dk_21 8 (dk_at dksX0_comesTo_5 7 rfl rfl)
theorem dX0_comesTo_127 : decode cX0_comesTo 127 = .ok (.aaload, 1) := dk_50 (dk_at dksX0_comesTo_5 9 rfl rfl)
theorem dX0_comesTo_128 : decode cX0_comesTo 128 = .ok (.iload 9, 2) := dk_21 9 (dk_at dksX0_comesTo_5 10 rfl rfl)
theorem dX0_comesTo_130 : decode cX0_comesTo 130 = .ok (.aload_n 0, 1) := dk_42 (dk_at dksX0_comesTo_5 12 rfl rfl)
theorem dX0_comesTo_131 : decode cX0_comesTo 131 = .ok (.getfield 96, 3) := dk_180 0 96 (dk_at dksX0_comesTo_5 13 rfl rfl)
theorem dX0_comesTo_134 : decode cX0_comesTo 134 = .ok (.iload 8, 2) := dk_21 8 (dk_at dksX0_comesTo_5 16 rfl rfl)
theorem dX0_comesTo_136 : decode cX0_comesTo 136 = .ok (.aaload, 1) := dk_50 (dk_at dksX0_comesTo_5 18 rfl rfl)
theorem dX0_comesTo_137 : decode cX0_comesTo 137 = .ok (.iload 9, 2) := dk_21 9 (dk_at dksX0_comesTo_5 19 rfl rfl)
theorem dX0_comesTo_139 : decode cX0_comesTo 139 = .ok (.laload, 1) := dk_47 (dk_at dksX0_comesTo_5 21 rfl rfl)
theorem dX0_comesTo_140 : decode cX0_comesTo 140 = .ok (.aload_n 0, 1) := dk_42 (dk_at dksX0_comesTo_5 22 rfl rfl)
theorem dX0_comesTo_141 : decode cX0_comesTo 141 = .ok (.getfield 96, 3) := dk_180 0 96 (dk_at dksX0_comesTo_6 0 rfl rfl)
theorem dX0_comesTo_144 : decode cX0_comesTo 144 = .ok (.iload 6, 2) := dk_21 6 (dk_at dksX0_comesTo_6 3 rfl rfl)
theorem dX0_comesTo_146 : decode cX0_comesTo 146 = .ok (.aaload, 1) := dk_50 (dk_at dksX0_comesTo_6 5 rfl rfl)
theorem dX0_comesTo_147 : decode cX0_comesTo 147 = .ok (.iload 6, 2) := dk_21 6 (dk_at dksX0_comesTo_6 6 rfl rfl)
theorem dX0_comesTo_149 : decode cX0_comesTo 149 = .ok (.laload, 1) := dk_47 (dk_at dksX0_comesTo_6 8 rfl rfl)
theorem dX0_comesTo_150 : decode cX0_comesTo 150 = .ok (.lmul, 1) := dk_105 (dk_at dksX0_comesTo_6 9 rfl rfl)
theorem dX0_comesTo_151 : decode cX0_comesTo 151 = .ok (.aload_n 0, 1) := dk_42 (dk_at dksX0_comesTo_6 10 rfl rfl)
theorem dX0_comesTo_152 : decode cX0_comesTo 152 = .ok (.getfield 96, 3) := dk_180 0 96 (dk_at dksX0_comesTo_6 11 rfl rfl)
theorem dX0_comesTo_155 : decode cX0_comesTo 155 = .ok (.iload 8, 2) := dk_21 8 (dk_at dksX0_comesTo_6 14 rfl rfl)
theorem dX0_comesTo_157 : decode cX0_comesTo 157 = .ok (.aaload, 1) := dk_50 (dk_at dksX0_comesTo_6 16 rfl rfl)
theorem dX0_comesTo_158 : decode cX0_comesTo 158 = .ok (.iload 6, 2) := dk_21 6 (dk_at dksX0_comesTo_6 17 rfl rfl)
theorem dX0_comesTo_160 : decode cX0_comesTo 160 = .ok (.laload, 1) := dk_47 (dk_at dksX0_comesTo_6 19 rfl rfl)
theorem dX0_comesTo_161 : decode cX0_comesTo 161 = .ok (.aload_n 0, 1) := dk_42 (dk_at dksX0_comesTo_6 20 rfl rfl)
theorem dX0_comesTo_162 : decode cX0_comesTo 162 = .ok (.getfield 96, 3) := dk_180 0 96 (dk_at dksX0_comesTo_6 21 rfl rfl)
theorem dX0_comesTo_165 : decode cX0_comesTo 165 = .ok (.iload 6, 2) := dk_21 6 (dk_at dksX0_comesTo_7 0 rfl rfl)
theorem dX0_comesTo_167 : decode cX0_comesTo 167 = .ok (.aaload, 1) := dk_50 (dk_at dksX0_comesTo_7 2 rfl rfl)
theorem dX0_comesTo_168 : decode cX0_comesTo 168 = .ok (.iload 9, 2) := dk_21 9 (dk_at dksX0_comesTo_7 3 rfl rfl)
theorem dX0_comesTo_170 : decode cX0_comesTo 170 = .ok (.laload, 1) := dk_47 (dk_at dksX0_comesTo_7 5 rfl rfl)
theorem dX0_comesTo_171 : decode cX0_comesTo 171 = .ok (.lmul, 1) := dk_105 (dk_at dksX0_comesTo_7 6 rfl rfl)
theorem dX0_comesTo_172 : decode cX0_comesTo 172 = .ok (.lsub, 1) := dk_101 (dk_at dksX0_comesTo_7 7 rfl rfl)
theorem dX0_comesTo_173 : decode cX0_comesTo 173 = .ok (.lload_n 2, 1) := dk_32 (dk_at dksX0_comesTo_7 8 rfl rfl)
theorem dX0_comesTo_174 : decode cX0_comesTo 174 = .ok (.ldiv, 1) := dk_109 (dk_at dksX0_comesTo_7 9 rfl rfl)
theorem dX0_comesTo_175 : decode cX0_comesTo 175 = .ok (.lastore, 1) := dk_80 (dk_at dksX0_comesTo_7 10 rfl rfl)
theorem dX0_comesTo_176 : decode cX0_comesTo 176 = .ok (.iinc 9 1, 3) := dk_132 9 1 (dk_at dksX0_comesTo_7 11 rfl rfl)
theorem dX0_comesTo_179 : decode cX0_comesTo 179 = .ok (.goto (-64), 3) := dk_167 255 192 (dk_at dksX0_comesTo_7 14 rfl rfl)
theorem dX0_comesTo_182 : decode cX0_comesTo 182 = .ok (.iinc 8 1, 3) := dk_132 8 1 (dk_at dksX0_comesTo_7 17 rfl rfl)
theorem dX0_comesTo_185 : decode cX0_comesTo 185 = .ok (.goto (-82), 3) := dk_167 255 174 (dk_at dksX0_comesTo_7 20 rfl rfl)
theorem dX0_comesTo_188 : decode cX0_comesTo 188 = .ok (.aload_n 0, 1) := dk_42 (dk_at dksX0_comesTo_7 23 rfl rfl)
theorem dX0_comesTo_189 : decode cX0_comesTo 189 = .ok (.getfield 96, 3) := dk_180 0 96 (dk_at dksX0_comesTo_8 0 rfl rfl)
theorem dX0_comesTo_192 : decode cX0_comesTo 192 = .ok (.iload 6, 2) := dk_21 6 (dk_at dksX0_comesTo_8 3 rfl rfl)
theorem dX0_comesTo_194 : decode cX0_comesTo 194 = .ok (.aaload, 1) := dk_50 (dk_at dksX0_comesTo_8 5 rfl rfl)
theorem dX0_comesTo_195 : decode cX0_comesTo 195 = .ok (.iload 6, 2) := dk_21 6 (dk_at dksX0_comesTo_8 6 rfl rfl)
theorem dX0_comesTo_197 : decode cX0_comesTo 197 = .ok (.laload, 1) := dk_47 (dk_at dksX0_comesTo_8 8 rfl rfl)
theorem dX0_comesTo_198 : decode cX0_comesTo 198 = .ok (.lstore_n 2, 1) := dk_65 (dk_at dksX0_comesTo_8 9 rfl rfl)
theorem dX0_comesTo_199 : decode cX0_comesTo 199 = .ok (.iinc 6 1, 3) := dk_132 6 1 (dk_at dksX0_comesTo_8 10 rfl rfl)
theorem dX0_comesTo_202 : decode cX0_comesTo 202 = .ok (.goto (-194), 3) := dk_167 255 62 (dk_at dksX0_comesTo_8 13 rfl rfl)
theorem dX0_comesTo_205 : decode cX0_comesTo 205 = .ok (.lload 4, 2) := dk_22 4 (dk_at dksX0_comesTo_8 16 rfl rfl)
theorem dX0_comesTo_207 : decode cX0_comesTo 207 = .ok (.lload_n 2, 1) := dk_32 (dk_at dksX0_comesTo_8 18 rfl rfl)
theorem dX0_comesTo_208 : decode cX0_comesTo 208 = .ok (.lmul, 1) := dk_105 (dk_at dksX0_comesTo_8 19 rfl rfl)
theorem dX0_comesTo_209 : decode cX0_comesTo 209 = .ok (.lreturn, 1) := dk_173 (dk_at dksX0_comesTo_8 20 rfl rfl)
abbrev cX0_mostDoubted : ByteArray := prog_1_method_36_code
def yX0_mostDoubted : MethodName := ⟨RX0, "mostDoubted", "()I"⟩
def dkwX0_mostDoubted_2 : List UInt8 := [60, 132, 2, 1, 167, 255, 208, 27, 172]
abbrev dktX0_mostDoubted_2 : List UInt8 := dkwX0_mostDoubted_2 ++ []
def dkwX0_mostDoubted_1 : List UInt8 := [4, 160, 0, 24, 27, 2, 159, 0, 17, 42, 28, 182, 1, 20, 42, 27, 182, 1, 20, 148, 158, 0, 5, 28]
abbrev dktX0_mostDoubted_1 : List UInt8 := dkwX0_mostDoubted_1 ++ dktX0_mostDoubted_2
def dkwX0_mostDoubted_0 : List UInt8 := [2, 60, 3, 61, 28, 42, 180, 0, 64, 180, 0, 113, 162, 0, 43, 42, 180, 0, 64, 180, 0, 188, 28, 46]
abbrev dktX0_mostDoubted_0 : List UInt8 := dkwX0_mostDoubted_0 ++ dktX0_mostDoubted_1
theorem dksX0_mostDoubted_0 : cX0_mostDoubted.data.toList.drop 0 = dktX0_mostDoubted_0 := by decide +kernel
theorem dksX0_mostDoubted_1 : cX0_mostDoubted.data.toList.drop 24 = dktX0_mostDoubted_1 := dk_seg dksX0_mostDoubted_0 24 rfl rfl
theorem dksX0_mostDoubted_2 : cX0_mostDoubted.data.toList.drop 48 = dktX0_mostDoubted_2 := dk_seg dksX0_mostDoubted_1 24 rfl rfl
theorem dX0_mostDoubted_0 : decode cX0_mostDoubted 0 = .ok (.iconst (-1), 1) := dk_2 (dk_at dksX0_mostDoubted_0 0 rfl rfl)
theorem dX0_mostDoubted_1 : decode cX0_mostDoubted 1 = .ok (.istore_n 1, 1) := dk_60 (dk_at dksX0_mostDoubted_0 1 rfl rfl)
theorem dX0_mostDoubted_2 : decode cX0_mostDoubted 2 = .ok (.iconst 0, 1) := dk_3 (dk_at dksX0_mostDoubted_0 2 rfl rfl)
theorem dX0_mostDoubted_3 : decode cX0_mostDoubted 3 = .ok (.istore_n 2, 1) := dk_61 (dk_at dksX0_mostDoubted_0 3 rfl rfl)
theorem dX0_mostDoubted_4 : decode cX0_mostDoubted 4 = .ok (.iload_n 2, 1) := dk_28 (dk_at dksX0_mostDoubted_0 4 rfl rfl)
theorem dX0_mostDoubted_5 : decode cX0_mostDoubted 5 = .ok (.aload_n 0, 1) := dk_42 (dk_at dksX0_mostDoubted_0 5 rfl rfl)
theorem dX0_mostDoubted_6 : decode cX0_mostDoubted 6 = .ok (.getfield 64, 3) := dk_180 0 64 (dk_at dksX0_mostDoubted_0 6 rfl rfl)
theorem dX0_mostDoubted_9 : decode cX0_mostDoubted 9 = .ok (.getfield 113, 3) := dk_180 0 113 (dk_at dksX0_mostDoubted_0 9 rfl rfl)
theorem dX0_mostDoubted_12 : decode cX0_mostDoubted 12 = .ok (.if_icmp .ge 43, 3) := dk_162 0 43 (dk_at dksX0_mostDoubted_0 12 rfl rfl)
theorem dX0_mostDoubted_15 : decode cX0_mostDoubted 15 = .ok (.aload_n 0, 1) := dk_42 (dk_at dksX0_mostDoubted_0 15 rfl rfl)
theorem dX0_mostDoubted_16 : decode cX0_mostDoubted 16 = .ok (.getfield 64, 3) := dk_180 0 64 (dk_at dksX0_mostDoubted_0 16 rfl rfl)
theorem dX0_mostDoubted_19 : decode cX0_mostDoubted 19 = .ok (.getfield 188, 3) := dk_180 0 188 (dk_at dksX0_mostDoubted_0 19 rfl rfl)
theorem dX0_mostDoubted_22 : decode cX0_mostDoubted 22 = .ok (.iload_n 2, 1) := dk_28 (dk_at dksX0_mostDoubted_0 22 rfl rfl)
theorem dX0_mostDoubted_23 : decode cX0_mostDoubted 23 = .ok (.iaload, 1) := dk_46 (dk_at dksX0_mostDoubted_0 23 rfl rfl)
theorem dX0_mostDoubted_24 : decode cX0_mostDoubted 24 = .ok (.iconst 1, 1) := dk_4 (dk_at dksX0_mostDoubted_1 0 rfl rfl)
theorem dX0_mostDoubted_25 : decode cX0_mostDoubted 25 = .ok (.if_icmp .ne 24, 3) := dk_160 0 24 (dk_at dksX0_mostDoubted_1 1 rfl rfl)
theorem dX0_mostDoubted_28 : decode cX0_mostDoubted 28 = .ok (.iload_n 1, 1) := dk_27 (dk_at dksX0_mostDoubted_1 4 rfl rfl)
theorem dX0_mostDoubted_29 : decode cX0_mostDoubted 29 = .ok (.iconst (-1), 1) := dk_2 (dk_at dksX0_mostDoubted_1 5 rfl rfl)
theorem dX0_mostDoubted_30 : decode cX0_mostDoubted 30 = .ok (.if_icmp .eq 17, 3) := dk_159 0 17 (dk_at dksX0_mostDoubted_1 6 rfl rfl)
theorem dX0_mostDoubted_33 : decode cX0_mostDoubted 33 = .ok (.aload_n 0, 1) := dk_42 (dk_at dksX0_mostDoubted_1 9 rfl rfl)
theorem dX0_mostDoubted_34 : decode cX0_mostDoubted 34 = .ok (.iload_n 2, 1) := dk_28 (dk_at dksX0_mostDoubted_1 10 rfl rfl)
theorem dX0_mostDoubted_35 : decode cX0_mostDoubted 35 = .ok (.invokevirtual 276, 3) := dk_182 1 20 (dk_at dksX0_mostDoubted_1 11 rfl rfl)
theorem dX0_mostDoubted_38 : decode cX0_mostDoubted 38 = .ok (.aload_n 0, 1) := dk_42 (dk_at dksX0_mostDoubted_1 14 rfl rfl)
theorem dX0_mostDoubted_39 : decode cX0_mostDoubted 39 = .ok (.iload_n 1, 1) := dk_27 (dk_at dksX0_mostDoubted_1 15 rfl rfl)
theorem dX0_mostDoubted_40 : decode cX0_mostDoubted 40 = .ok (.invokevirtual 276, 3) := dk_182 1 20 (dk_at dksX0_mostDoubted_1 16 rfl rfl)
theorem dX0_mostDoubted_43 : decode cX0_mostDoubted 43 = .ok (.lcmp, 1) := dk_148 (dk_at dksX0_mostDoubted_1 19 rfl rfl)
theorem dX0_mostDoubted_44 : decode cX0_mostDoubted 44 = .ok (.ifCond .le 5, 3) := dk_158 0 5 (dk_at dksX0_mostDoubted_1 20 rfl rfl)
theorem dX0_mostDoubted_47 : decode cX0_mostDoubted 47 = .ok (.iload_n 2, 1) := dk_28 (dk_at dksX0_mostDoubted_1 23 rfl rfl)
theorem dX0_mostDoubted_48 : decode cX0_mostDoubted 48 = .ok (.istore_n 1, 1) := dk_60 (dk_at dksX0_mostDoubted_2 0 rfl rfl)
theorem dX0_mostDoubted_49 : decode cX0_mostDoubted 49 = .ok (.iinc 2 1, 3) := dk_132 2 1 (dk_at dksX0_mostDoubted_2 1 rfl rfl)
theorem dX0_mostDoubted_52 : decode cX0_mostDoubted 52 = .ok (.goto (-48), 3) := dk_167 255 208 (dk_at dksX0_mostDoubted_2 4 rfl rfl)
theorem dX0_mostDoubted_55 : decode cX0_mostDoubted 55 = .ok (.iload_n 1, 1) := dk_27 (dk_at dksX0_mostDoubted_2 7 rfl rfl)
theorem dX0_mostDoubted_56 : decode cX0_mostDoubted 56 = .ok (.ireturn, 1) := dk_172 (dk_at dksX0_mostDoubted_2 8 rfl rfl)
abbrev cX0_doubtOf : ByteArray := prog_1_method_35_code
def yX0_doubtOf : MethodName := ⟨RX0, "doubtOf", "(I)J"⟩
def dkwX0_doubtOf_0 : List UInt8 := [42, 180, 0, 106, 27, 46, 133, 42, 27, 182, 1, 17, 184, 0, 205, 105, 173]
abbrev dktX0_doubtOf_0 : List UInt8 := dkwX0_doubtOf_0 ++ []
theorem dksX0_doubtOf_0 : cX0_doubtOf.data.toList.drop 0 = dktX0_doubtOf_0 := by decide +kernel
theorem dX0_doubtOf_0 : decode cX0_doubtOf 0 = .ok (.aload_n 0, 1) := dk_42 (dk_at dksX0_doubtOf_0 0 rfl rfl)
theorem dX0_doubtOf_1 : decode cX0_doubtOf 1 = .ok (.getfield 106, 3) := dk_180 0 106 (dk_at dksX0_doubtOf_0 1 rfl rfl)
theorem dX0_doubtOf_4 : decode cX0_doubtOf 4 = .ok (.iload_n 1, 1) := dk_27 (dk_at dksX0_doubtOf_0 4 rfl rfl)
theorem dX0_doubtOf_5 : decode cX0_doubtOf 5 = .ok (.iaload, 1) := dk_46 (dk_at dksX0_doubtOf_0 5 rfl rfl)
theorem dX0_doubtOf_6 : decode cX0_doubtOf 6 = .ok (.i2l, 1) := dk_133 (dk_at dksX0_doubtOf_0 6 rfl rfl)
theorem dX0_doubtOf_7 : decode cX0_doubtOf 7 = .ok (.aload_n 0, 1) := dk_42 (dk_at dksX0_doubtOf_0 7 rfl rfl)
theorem dX0_doubtOf_8 : decode cX0_doubtOf 8 = .ok (.iload_n 1, 1) := dk_27 (dk_at dksX0_doubtOf_0 8 rfl rfl)
theorem dX0_doubtOf_9 : decode cX0_doubtOf 9 = .ok (.invokevirtual 273, 3) := dk_182 1 17 (dk_at dksX0_doubtOf_0 9 rfl rfl)
theorem dX0_doubtOf_12 : decode cX0_doubtOf 12 = .ok (.invokestatic 205, 3) := dk_184 0 205 (dk_at dksX0_doubtOf_0 12 rfl rfl)
theorem dX0_doubtOf_15 : decode cX0_doubtOf 15 = .ok (.lmul, 1) := dk_105 (dk_at dksX0_doubtOf_0 15 rfl rfl)
theorem dX0_doubtOf_16 : decode cX0_doubtOf 16 = .ok (.lreturn, 1) := dk_173 (dk_at dksX0_doubtOf_0 16 rfl rfl)
abbrev cX0_missOf : ByteArray := prog_1_method_19_code
def yX0_missOf : MethodName := ⟨RX0, "missOf", "(I)J"⟩
def dkwX0_missOf_2 : List UInt8 := [180, 0, 64, 180, 0, 191, 27, 46, 47, 97, 173]
abbrev dktX0_missOf_2 : List UInt8 := dkwX0_missOf_2 ++ []
def dkwX0_missOf_1 : List UInt8 := [46, 47, 101, 42, 180, 0, 64, 180, 0, 191, 27, 46, 156, 0, 7, 9, 167, 0, 17, 42, 180, 0, 103, 42]
abbrev dktX0_missOf_1 : List UInt8 := dkwX0_missOf_1 ++ dktX0_missOf_2
def dkwX0_missOf_0 : List UInt8 := [42, 180, 0, 109, 27, 46, 133, 42, 180, 0, 201, 105, 42, 180, 0, 103, 42, 180, 0, 64, 180, 0, 194, 27]
abbrev dktX0_missOf_0 : List UInt8 := dkwX0_missOf_0 ++ dktX0_missOf_1
theorem dksX0_missOf_0 : cX0_missOf.data.toList.drop 0 = dktX0_missOf_0 := by decide +kernel
theorem dksX0_missOf_1 : cX0_missOf.data.toList.drop 24 = dktX0_missOf_1 := dk_seg dksX0_missOf_0 24 rfl rfl
theorem dksX0_missOf_2 : cX0_missOf.data.toList.drop 48 = dktX0_missOf_2 := dk_seg dksX0_missOf_1 24 rfl rfl
theorem dX0_missOf_0 : decode cX0_missOf 0 = .ok (.aload_n 0, 1) := dk_42 (dk_at dksX0_missOf_0 0 rfl rfl)
theorem dX0_missOf_1 : decode cX0_missOf 1 = .ok (.getfield 109, 3) := dk_180 0 109 (dk_at dksX0_missOf_0 1 rfl rfl)
theorem dX0_missOf_4 : decode cX0_missOf 4 = .ok (.iload_n 1, 1) := dk_27 (dk_at dksX0_missOf_0 4 rfl rfl)
theorem dX0_missOf_5 : decode cX0_missOf 5 = .ok (.iaload, 1) := dk_46 (dk_at dksX0_missOf_0 5 rfl rfl)
theorem dX0_missOf_6 : decode cX0_missOf 6 = .ok (.i2l, 1) := dk_133 (dk_at dksX0_missOf_0 6 rfl rfl)
theorem dX0_missOf_7 : decode cX0_missOf 7 = .ok (.aload_n 0, 1) := dk_42 (dk_at dksX0_missOf_0 7 rfl rfl)
theorem dX0_missOf_8 : decode cX0_missOf 8 = .ok (.getfield 201, 3) := dk_180 0 201 (dk_at dksX0_missOf_0 8 rfl rfl)
theorem dX0_missOf_11 : decode cX0_missOf 11 = .ok (.lmul, 1) := dk_105 (dk_at dksX0_missOf_0 11 rfl rfl)
theorem dX0_missOf_12 : decode cX0_missOf 12 = .ok (.aload_n 0, 1) := dk_42 (dk_at dksX0_missOf_0 12 rfl rfl)
theorem dX0_missOf_13 : decode cX0_missOf 13 = .ok (.getfield 103, 3) := dk_180 0 103 (dk_at dksX0_missOf_0 13 rfl rfl)
theorem dX0_missOf_16 : decode cX0_missOf 16 = .ok (.aload_n 0, 1) := dk_42 (dk_at dksX0_missOf_0 16 rfl rfl)
theorem dX0_missOf_17 : decode cX0_missOf 17 = .ok (.getfield 64, 3) := dk_180 0 64 (dk_at dksX0_missOf_0 17 rfl rfl)
theorem dX0_missOf_20 : decode cX0_missOf 20 = .ok (.getfield 194, 3) := dk_180 0 194 (dk_at dksX0_missOf_0 20 rfl rfl)
theorem dX0_missOf_23 : decode cX0_missOf 23 = .ok (.iload_n 1, 1) := dk_27 (dk_at dksX0_missOf_0 23 rfl rfl)
theorem dX0_missOf_24 : decode cX0_missOf 24 = .ok (.iaload, 1) := dk_46 (dk_at dksX0_missOf_1 0 rfl rfl)
theorem dX0_missOf_25 : decode cX0_missOf 25 = .ok (.laload, 1) := dk_47 (dk_at dksX0_missOf_1 1 rfl rfl)
theorem dX0_missOf_26 : decode cX0_missOf 26 = .ok (.lsub, 1) := dk_101 (dk_at dksX0_missOf_1 2 rfl rfl)
theorem dX0_missOf_27 : decode cX0_missOf 27 = .ok (.aload_n 0, 1) := dk_42 (dk_at dksX0_missOf_1 3 rfl rfl)
theorem dX0_missOf_28 : decode cX0_missOf 28 = .ok (.getfield 64, 3) := dk_180 0 64 (dk_at dksX0_missOf_1 4 rfl rfl)
theorem dX0_missOf_31 : decode cX0_missOf 31 = .ok (.getfield 191, 3) := dk_180 0 191 (dk_at dksX0_missOf_1 7 rfl rfl)
theorem dX0_missOf_34 : decode cX0_missOf 34 = .ok (.iload_n 1, 1) := dk_27 (dk_at dksX0_missOf_1 10 rfl rfl)
theorem dX0_missOf_35 : decode cX0_missOf 35 = .ok (.iaload, 1) := dk_46 (dk_at dksX0_missOf_1 11 rfl rfl)
theorem dX0_missOf_36 : decode cX0_missOf 36 = .ok (.ifCond .ge 7, 3) := dk_156 0 7 (dk_at dksX0_missOf_1 12 rfl rfl)
theorem dX0_missOf_39 : decode cX0_missOf 39 = .ok (.lconst 0, 1) := dk_9 (dk_at dksX0_missOf_1 15 rfl rfl)
theorem dX0_missOf_40 : decode cX0_missOf 40 = .ok (.goto 17, 3) := dk_167 0 17 (dk_at dksX0_missOf_1 16 rfl rfl)
theorem dX0_missOf_43 : decode cX0_missOf 43 = .ok (.aload_n 0, 1) := dk_42 (dk_at dksX0_missOf_1 19 rfl rfl)
theorem dX0_missOf_44 : decode cX0_missOf 44 = .ok (.getfield 103, 3) := dk_180 0 103 (dk_at dksX0_missOf_1 20 rfl rfl)
theorem dX0_missOf_47 : decode cX0_missOf 47 = .ok (.aload_n 0, 1) := dk_42 (dk_at dksX0_missOf_1 23 rfl rfl)
theorem dX0_missOf_48 : decode cX0_missOf 48 = .ok (.getfield 64, 3) := dk_180 0 64 (dk_at dksX0_missOf_2 0 rfl rfl)
theorem dX0_missOf_51 : decode cX0_missOf 51 = .ok (.getfield 191, 3) := dk_180 0 191 (dk_at dksX0_missOf_2 3 rfl rfl)
theorem dX0_missOf_54 : decode cX0_missOf 54 = .ok (.iload_n 1, 1) := dk_27 (dk_at dksX0_missOf_2 6 rfl rfl)
theorem dX0_missOf_55 : decode cX0_missOf 55 = .ok (.iaload, 1) := dk_46 (dk_at dksX0_missOf_2 7 rfl rfl)
theorem dX0_missOf_56 : decode cX0_missOf 56 = .ok (.laload, 1) := dk_47 (dk_at dksX0_missOf_2 8 rfl rfl)
theorem dX0_missOf_57 : decode cX0_missOf 57 = .ok (.ladd, 1) := dk_97 (dk_at dksX0_missOf_2 9 rfl rfl)
theorem dX0_missOf_58 : decode cX0_missOf 58 = .ok (.lreturn, 1) := dk_173 (dk_at dksX0_missOf_2 10 rfl rfl)
abbrev cX0_loose : ByteArray := prog_1_method_40_code
def yX0_loose : MethodName := ⟨RX0, "loose", "(I)I"⟩
def dkwX0_loose_4 : List UInt8 := [182, 1, 35, 132, 2, 1, 167, 255, 186, 42, 180, 0, 64, 182, 0, 168, 184, 1, 38, 172]
abbrev dktX0_loose_4 : List UInt8 := dkwX0_loose_4 ++ []
def dkwX0_loose_3 : List UInt8 := [180, 0, 64, 182, 1, 43, 16, 41, 112, 16, 20, 100, 79, 42, 180, 0, 64, 180, 0, 188, 29, 4, 79, 42]
abbrev dktX0_loose_3 : List UInt8 := dkwX0_loose_3 ++ dktX0_loose_4
def dkwX0_loose_2 : List UInt8 := [180, 0, 64, 182, 1, 43, 42, 180, 0, 64, 180, 0, 113, 112, 62, 42, 180, 0, 64, 180, 0, 165, 29, 42]
abbrev dktX0_loose_2 : List UInt8 := dkwX0_loose_2 ++ dktX0_loose_3
def dkwX0_loose_1 : List UInt8 := [42, 6, 182, 0, 217, 172, 3, 61, 28, 27, 162, 0, 71, 42, 180, 0, 64, 180, 0, 113, 158, 0, 51, 42]
abbrev dktX0_loose_1 : List UInt8 := dkwX0_loose_1 ++ dktX0_loose_2
def dkwX0_loose_0 : List UInt8 := [27, 4, 16, 30, 184, 0, 116, 154, 0, 9, 42, 4, 182, 0, 217, 172, 42, 27, 182, 1, 32, 153, 0, 9]
abbrev dktX0_loose_0 : List UInt8 := dkwX0_loose_0 ++ dktX0_loose_1
theorem dksX0_loose_0 : cX0_loose.data.toList.drop 0 = dktX0_loose_0 := by decide +kernel
theorem dksX0_loose_1 : cX0_loose.data.toList.drop 24 = dktX0_loose_1 := dk_seg dksX0_loose_0 24 rfl rfl
theorem dksX0_loose_2 : cX0_loose.data.toList.drop 48 = dktX0_loose_2 := dk_seg dksX0_loose_1 24 rfl rfl
theorem dksX0_loose_3 : cX0_loose.data.toList.drop 72 = dktX0_loose_3 := dk_seg dksX0_loose_2 24 rfl rfl
theorem dksX0_loose_4 : cX0_loose.data.toList.drop 96 = dktX0_loose_4 := dk_seg dksX0_loose_3 24 rfl rfl
theorem dX0_loose_0 : decode cX0_loose 0 = .ok (.iload_n 1, 1) := dk_27 (dk_at dksX0_loose_0 0 rfl rfl)
theorem dX0_loose_1 : decode cX0_loose 1 = .ok (.iconst 1, 1) := dk_4 (dk_at dksX0_loose_0 1 rfl rfl)
theorem dX0_loose_2 : decode cX0_loose 2 = .ok (.bipush 30, 2) := dk_16 30 (dk_at dksX0_loose_0 2 rfl rfl)
theorem dX0_loose_4 : decode cX0_loose 4 = .ok (.invokestatic 116, 3) := dk_184 0 116 (dk_at dksX0_loose_0 4 rfl rfl)
theorem dX0_loose_7 : decode cX0_loose 7 = .ok (.ifCond .ne 9, 3) := dk_154 0 9 (dk_at dksX0_loose_0 7 rfl rfl)
theorem dX0_loose_10 : decode cX0_loose 10 = .ok (.aload_n 0, 1) := dk_42 (dk_at dksX0_loose_0 10 rfl rfl)
theorem dX0_loose_11 : decode cX0_loose 11 = .ok (.iconst 1, 1) := dk_4 (dk_at dksX0_loose_0 11 rfl rfl)
theorem dX0_loose_12 : decode cX0_loose 12 = .ok (.invokevirtual 217, 3) := dk_182 0 217 (dk_at dksX0_loose_0 12 rfl rfl)
theorem dX0_loose_15 : decode cX0_loose 15 = .ok (.ireturn, 1) := dk_172 (dk_at dksX0_loose_0 15 rfl rfl)
theorem dX0_loose_16 : decode cX0_loose 16 = .ok (.aload_n 0, 1) := dk_42 (dk_at dksX0_loose_0 16 rfl rfl)
theorem dX0_loose_17 : decode cX0_loose 17 = .ok (.iload_n 1, 1) := dk_27 (dk_at dksX0_loose_0 17 rfl rfl)
theorem dX0_loose_18 : decode cX0_loose 18 = .ok (.invokevirtual 288, 3) := dk_182 1 32 (dk_at dksX0_loose_0 18 rfl rfl)
theorem dX0_loose_21 : decode cX0_loose 21 = .ok (.ifCond .eq 9, 3) := dk_153 0 9 (dk_at dksX0_loose_0 21 rfl rfl)
theorem dX0_loose_24 : decode cX0_loose 24 = .ok (.aload_n 0, 1) := dk_42 (dk_at dksX0_loose_1 0 rfl rfl)
theorem dX0_loose_25 : decode cX0_loose 25 = .ok (.iconst 3, 1) := dk_6 (dk_at dksX0_loose_1 1 rfl rfl)
theorem dX0_loose_26 : decode cX0_loose 26 = .ok (.invokevirtual 217, 3) := dk_182 0 217 (dk_at dksX0_loose_1 2 rfl rfl)
theorem dX0_loose_29 : decode cX0_loose 29 = .ok (.ireturn, 1) := dk_172 (dk_at dksX0_loose_1 5 rfl rfl)
theorem dX0_loose_30 : decode cX0_loose 30 = .ok (.iconst 0, 1) := dk_3 (dk_at dksX0_loose_1 6 rfl rfl)
theorem dX0_loose_31 : decode cX0_loose 31 = .ok (.istore_n 2, 1) := dk_61 (dk_at dksX0_loose_1 7 rfl rfl)
theorem dX0_loose_32 : decode cX0_loose 32 = .ok (.iload_n 2, 1) := dk_28 (dk_at dksX0_loose_1 8 rfl rfl)
theorem dX0_loose_33 : decode cX0_loose 33 = .ok (.iload_n 1, 1) := dk_27 (dk_at dksX0_loose_1 9 rfl rfl)
theorem dX0_loose_34 : decode cX0_loose 34 = .ok (.if_icmp .ge 71, 3) := dk_162 0 71 (dk_at dksX0_loose_1 10 rfl rfl)
theorem dX0_loose_37 : decode cX0_loose 37 = .ok (.aload_n 0, 1) := dk_42 (dk_at dksX0_loose_1 13 rfl rfl)
theorem dX0_loose_38 : decode cX0_loose 38 = .ok (.getfield 64, 3) := dk_180 0 64 (dk_at dksX0_loose_1 14 rfl rfl)
theorem dX0_loose_41 : decode cX0_loose 41 = .ok (.getfield 113, 3) := dk_180 0 113 (dk_at dksX0_loose_1 17 rfl rfl)
theorem dX0_loose_44 : decode cX0_loose 44 = .ok (.ifCond .le 51, 3) := dk_158 0 51 (dk_at dksX0_loose_1 20 rfl rfl)
theorem dX0_loose_47 : decode cX0_loose 47 = .ok (.aload_n 0, 1) := dk_42 (dk_at dksX0_loose_1 23 rfl rfl)
theorem dX0_loose_48 : decode cX0_loose 48 = .ok (.getfield 64, 3) := dk_180 0 64 (dk_at dksX0_loose_2 0 rfl rfl)
theorem dX0_loose_51 : decode cX0_loose 51 = .ok (.invokevirtual 299, 3) := dk_182 1 43 (dk_at dksX0_loose_2 3 rfl rfl)
theorem dX0_loose_54 : decode cX0_loose 54 = .ok (.aload_n 0, 1) := dk_42 (dk_at dksX0_loose_2 6 rfl rfl)
theorem dX0_loose_55 : decode cX0_loose 55 = .ok (.getfield 64, 3) := dk_180 0 64 (dk_at dksX0_loose_2 7 rfl rfl)
theorem dX0_loose_58 : decode cX0_loose 58 = .ok (.getfield 113, 3) := dk_180 0 113 (dk_at dksX0_loose_2 10 rfl rfl)
theorem dX0_loose_61 : decode cX0_loose 61 = .ok (.irem, 1) := dk_112 (dk_at dksX0_loose_2 13 rfl rfl)
theorem dX0_loose_62 : decode cX0_loose 62 = .ok (.istore_n 3, 1) := dk_62 (dk_at dksX0_loose_2 14 rfl rfl)
theorem dX0_loose_63 : decode cX0_loose 63 = .ok (.aload_n 0, 1) := dk_42 (dk_at dksX0_loose_2 15 rfl rfl)
theorem dX0_loose_64 : decode cX0_loose 64 = .ok (.getfield 64, 3) := dk_180 0 64 (dk_at dksX0_loose_2 16 rfl rfl)
theorem dX0_loose_67 : decode cX0_loose 67 = .ok (.getfield 165, 3) := dk_180 0 165 (dk_at dksX0_loose_2 19 rfl rfl)
theorem dX0_loose_70 : decode cX0_loose 70 = .ok (.iload_n 3, 1) := dk_29 (dk_at dksX0_loose_2 22 rfl rfl)
theorem dX0_loose_71 : decode cX0_loose 71 = .ok (.aload_n 0, 1) := dk_42 (dk_at dksX0_loose_2 23 rfl rfl)
theorem dX0_loose_72 : decode cX0_loose 72 = .ok (.getfield 64, 3) := dk_180 0 64 (dk_at dksX0_loose_3 0 rfl rfl)
theorem dX0_loose_75 : decode cX0_loose 75 = .ok (.invokevirtual 299, 3) := dk_182 1 43 (dk_at dksX0_loose_3 3 rfl rfl)
theorem dX0_loose_78 : decode cX0_loose 78 = .ok (.bipush 41, 2) := dk_16 41 (dk_at dksX0_loose_3 6 rfl rfl)
theorem dX0_loose_80 : decode cX0_loose 80 = .ok (.irem, 1) := dk_112 (dk_at dksX0_loose_3 8 rfl rfl)
theorem dX0_loose_81 : decode cX0_loose 81 = .ok (.bipush 20, 2) := dk_16 20 (dk_at dksX0_loose_3 9 rfl rfl)
theorem dX0_loose_83 : decode cX0_loose 83 = .ok (.isub, 1) := dk_100 (dk_at dksX0_loose_3 11 rfl rfl)
theorem dX0_loose_84 : decode cX0_loose 84 = .ok (.iastore, 1) := dk_79 (dk_at dksX0_loose_3 12 rfl rfl)
theorem dX0_loose_85 : decode cX0_loose 85 = .ok (.aload_n 0, 1) := dk_42 (dk_at dksX0_loose_3 13 rfl rfl)
theorem dX0_loose_86 : decode cX0_loose 86 = .ok (.getfield 64, 3) := dk_180 0 64 (dk_at dksX0_loose_3 14 rfl rfl)
theorem dX0_loose_89 : decode cX0_loose 89 = .ok (.getfield 188, 3) := dk_180 0 188 (dk_at dksX0_loose_3 17 rfl rfl)
theorem dX0_loose_92 : decode cX0_loose 92 = .ok (.iload_n 3, 1) := dk_29 (dk_at dksX0_loose_3 20 rfl rfl)
theorem dX0_loose_93 : decode cX0_loose 93 = .ok (.iconst 1, 1) := dk_4 (dk_at dksX0_loose_3 21 rfl rfl)
theorem dX0_loose_94 : decode cX0_loose 94 = .ok (.iastore, 1) := dk_79 (dk_at dksX0_loose_3 22 rfl rfl)
theorem dX0_loose_95 : decode cX0_loose 95 = .ok (.aload_n 0, 1) := dk_42 (dk_at dksX0_loose_3 23 rfl rfl)
theorem dX0_loose_96 : decode cX0_loose 96 = .ok (.invokevirtual 291, 3) := dk_182 1 35 (dk_at dksX0_loose_4 0 rfl rfl)
theorem dX0_loose_99 : decode cX0_loose 99 = .ok (.iinc 2 1, 3) := dk_132 2 1 (dk_at dksX0_loose_4 3 rfl rfl)
theorem dX0_loose_102 : decode cX0_loose 102 = .ok (.goto (-70), 3) := dk_167 255 186 (dk_at dksX0_loose_4 6 rfl rfl)
theorem dX0_loose_105 : decode cX0_loose 105 = .ok (.aload_n 0, 1) := dk_42 (dk_at dksX0_loose_4 9 rfl rfl)
theorem dX0_loose_106 : decode cX0_loose 106 = .ok (.getfield 64, 3) := dk_180 0 64 (dk_at dksX0_loose_4 10 rfl rfl)
theorem dX0_loose_109 : decode cX0_loose 109 = .ok (.invokevirtual 168, 3) := dk_182 0 168 (dk_at dksX0_loose_4 13 rfl rfl)
theorem dX0_loose_112 : decode cX0_loose 112 = .ok (.invokestatic 294, 3) := dk_184 1 38 (dk_at dksX0_loose_4 16 rfl rfl)
theorem dX0_loose_115 : decode cX0_loose 115 = .ok (.ireturn, 1) := dk_172 (dk_at dksX0_loose_4 19 rfl rfl)
abbrev cX0_round : ByteArray := prog_1_method_41_code
def yX0_round : MethodName := ⟨RX0, "round", "(I)I"⟩
def dkwX0_round_1 : List UInt8 := [61, 42, 180, 0, 64, 27, 181, 0, 156, 28, 172]
abbrev dktX0_round_1 : List UInt8 := dkwX0_round_1 ++ []
def dkwX0_round_0 : List UInt8 := [27, 3, 17, 39, 15, 184, 0, 116, 154, 0, 9, 42, 4, 182, 0, 217, 172, 42, 180, 0, 64, 180, 0, 156]
abbrev dktX0_round_0 : List UInt8 := dkwX0_round_0 ++ dktX0_round_1
theorem dksX0_round_0 : cX0_round.data.toList.drop 0 = dktX0_round_0 := by decide +kernel
theorem dksX0_round_1 : cX0_round.data.toList.drop 24 = dktX0_round_1 := dk_seg dksX0_round_0 24 rfl rfl
theorem dX0_round_0 : decode cX0_round 0 = .ok (.iload_n 1, 1) := dk_27 (dk_at dksX0_round_0 0 rfl rfl)
theorem dX0_round_1 : decode cX0_round 1 = .ok (.iconst 0, 1) := dk_3 (dk_at dksX0_round_0 1 rfl rfl)
theorem dX0_round_2 : decode cX0_round 2 = .ok (.sipush 9999, 3) := dk_17 39 15 (dk_at dksX0_round_0 2 rfl rfl)
theorem dX0_round_5 : decode cX0_round 5 = .ok (.invokestatic 116, 3) := dk_184 0 116 (dk_at dksX0_round_0 5 rfl rfl)
theorem dX0_round_8 : decode cX0_round 8 = .ok (.ifCond .ne 9, 3) := dk_154 0 9 (dk_at dksX0_round_0 8 rfl rfl)
theorem dX0_round_11 : decode cX0_round 11 = .ok (.aload_n 0, 1) := dk_42 (dk_at dksX0_round_0 11 rfl rfl)
theorem dX0_round_12 : decode cX0_round 12 = .ok (.iconst 1, 1) := dk_4 (dk_at dksX0_round_0 12 rfl rfl)
theorem dX0_round_13 : decode cX0_round 13 = .ok (.invokevirtual 217, 3) := dk_182 0 217 (dk_at dksX0_round_0 13 rfl rfl)
theorem dX0_round_16 : decode cX0_round 16 = .ok (.ireturn, 1) := dk_172 (dk_at dksX0_round_0 16 rfl rfl)
theorem dX0_round_17 : decode cX0_round 17 = .ok (.aload_n 0, 1) := dk_42 (dk_at dksX0_round_0 17 rfl rfl)
theorem dX0_round_18 : decode cX0_round 18 = .ok (.getfield 64, 3) := dk_180 0 64 (dk_at dksX0_round_0 18 rfl rfl)
theorem dX0_round_21 : decode cX0_round 21 = .ok (.getfield 156, 3) := dk_180 0 156 (dk_at dksX0_round_0 21 rfl rfl)
theorem dX0_round_24 : decode cX0_round 24 = .ok (.istore_n 2, 1) := dk_61 (dk_at dksX0_round_1 0 rfl rfl)
theorem dX0_round_25 : decode cX0_round 25 = .ok (.aload_n 0, 1) := dk_42 (dk_at dksX0_round_1 1 rfl rfl)
theorem dX0_round_26 : decode cX0_round 26 = .ok (.getfield 64, 3) := dk_180 0 64 (dk_at dksX0_round_1 2 rfl rfl)
theorem dX0_round_29 : decode cX0_round 29 = .ok (.iload_n 1, 1) := dk_27 (dk_at dksX0_round_1 5 rfl rfl)
theorem dX0_round_30 : decode cX0_round 30 = .ok (.putfield 156, 3) := dk_181 0 156 (dk_at dksX0_round_1 6 rfl rfl)
theorem dX0_round_33 : decode cX0_round 33 = .ok (.iload_n 2, 1) := dk_28 (dk_at dksX0_round_1 9 rfl rfl)
theorem dX0_round_34 : decode cX0_round 34 = .ok (.ireturn, 1) := dk_172 (dk_at dksX0_round_1 10 rfl rfl)
abbrev cX0_seed : ByteArray := prog_1_method_42_code
def yX0_seed : MethodName := ⟨RX0, "seed", "(I)I"⟩
def dkwX0_seed_0 : List UInt8 := [42, 180, 0, 64, 180, 1, 46, 61, 42, 180, 0, 64, 27, 181, 1, 46, 28, 172]
abbrev dktX0_seed_0 : List UInt8 := dkwX0_seed_0 ++ []
theorem dksX0_seed_0 : cX0_seed.data.toList.drop 0 = dktX0_seed_0 := by decide +kernel
theorem dX0_seed_0 : decode cX0_seed 0 = .ok (.aload_n 0, 1) := dk_42 (dk_at dksX0_seed_0 0 rfl rfl)
theorem dX0_seed_1 : decode cX0_seed 1 = .ok (.getfield 64, 3) := dk_180 0 64 (dk_at dksX0_seed_0 1 rfl rfl)
theorem dX0_seed_4 : decode cX0_seed 4 = .ok (.getfield 302, 3) := dk_180 1 46 (dk_at dksX0_seed_0 4 rfl rfl)
theorem dX0_seed_7 : decode cX0_seed 7 = .ok (.istore_n 2, 1) := dk_61 (dk_at dksX0_seed_0 7 rfl rfl)
theorem dX0_seed_8 : decode cX0_seed 8 = .ok (.aload_n 0, 1) := dk_42 (dk_at dksX0_seed_0 8 rfl rfl)
theorem dX0_seed_9 : decode cX0_seed 9 = .ok (.getfield 64, 3) := dk_180 0 64 (dk_at dksX0_seed_0 9 rfl rfl)
theorem dX0_seed_12 : decode cX0_seed 12 = .ok (.iload_n 1, 1) := dk_27 (dk_at dksX0_seed_0 12 rfl rfl)
theorem dX0_seed_13 : decode cX0_seed 13 = .ok (.putfield 302, 3) := dk_181 1 46 (dk_at dksX0_seed_0 13 rfl rfl)
theorem dX0_seed_16 : decode cX0_seed 16 = .ok (.iload_n 2, 1) := dk_28 (dk_at dksX0_seed_0 16 rfl rfl)
theorem dX0_seed_17 : decode cX0_seed 17 = .ok (.ireturn, 1) := dk_172 (dk_at dksX0_seed_0 17 rfl rfl)
abbrev cX0_place : ByteArray := prog_1_method_43_code
def yX0_place : MethodName := ⟨RX0, "place", "(II)J"⟩
def dkwX0_place_2 : List UInt8 := [42, 6, 182, 0, 217, 133, 173]
abbrev dktX0_place_2 : List UInt8 := dkwX0_place_2 ++ []
def dkwX0_place_1 : List UInt8 := [42, 182, 1, 23, 153, 0, 20, 42, 180, 0, 103, 27, 47, 42, 180, 0, 201, 28, 184, 1, 49, 167, 0, 9]
abbrev dktX0_place_1 : List UInt8 := dkwX0_place_1 ++ dktX0_place_2
def dkwX0_place_0 : List UInt8 := [42, 27, 182, 0, 213, 153, 0, 12, 28, 3, 4, 184, 0, 116, 154, 0, 10, 42, 4, 182, 0, 217, 133, 173]
abbrev dktX0_place_0 : List UInt8 := dkwX0_place_0 ++ dktX0_place_1
theorem dksX0_place_0 : cX0_place.data.toList.drop 0 = dktX0_place_0 := by decide +kernel
theorem dksX0_place_1 : cX0_place.data.toList.drop 24 = dktX0_place_1 := dk_seg dksX0_place_0 24 rfl rfl
theorem dksX0_place_2 : cX0_place.data.toList.drop 48 = dktX0_place_2 := dk_seg dksX0_place_1 24 rfl rfl
theorem dX0_place_0 : decode cX0_place 0 = .ok (.aload_n 0, 1) := dk_42 (dk_at dksX0_place_0 0 rfl rfl)
theorem dX0_place_1 : decode cX0_place 1 = .ok (.iload_n 1, 1) := dk_27 (dk_at dksX0_place_0 1 rfl rfl)
theorem dX0_place_2 : decode cX0_place 2 = .ok (.invokevirtual 213, 3) := dk_182 0 213 (dk_at dksX0_place_0 2 rfl rfl)
theorem dX0_place_5 : decode cX0_place 5 = .ok (.ifCond .eq 12, 3) := dk_153 0 12 (dk_at dksX0_place_0 5 rfl rfl)
theorem dX0_place_8 : decode cX0_place 8 = .ok (.iload_n 2, 1) := dk_28 (dk_at dksX0_place_0 8 rfl rfl)
theorem dX0_place_9 : decode cX0_place 9 = .ok (.iconst 0, 1) := dk_3 (dk_at dksX0_place_0 9 rfl rfl)
theorem dX0_place_10 : decode cX0_place 10 = .ok (.iconst 1, 1) := dk_4 (dk_at dksX0_place_0 10 rfl rfl)
theorem dX0_place_11 : decode cX0_place 11 = .ok (.invokestatic 116, 3) := dk_184 0 116 (dk_at dksX0_place_0 11 rfl rfl)
theorem dX0_place_14 : decode cX0_place 14 = .ok (.ifCond .ne 10, 3) := dk_154 0 10 (dk_at dksX0_place_0 14 rfl rfl)
theorem dX0_place_17 : decode cX0_place 17 = .ok (.aload_n 0, 1) := dk_42 (dk_at dksX0_place_0 17 rfl rfl)
theorem dX0_place_18 : decode cX0_place 18 = .ok (.iconst 1, 1) := dk_4 (dk_at dksX0_place_0 18 rfl rfl)
theorem dX0_place_19 : decode cX0_place 19 = .ok (.invokevirtual 217, 3) := dk_182 0 217 (dk_at dksX0_place_0 19 rfl rfl)
theorem dX0_place_22 : decode cX0_place 22 = .ok (.i2l, 1) := dk_133 (dk_at dksX0_place_0 22 rfl rfl)
theorem dX0_place_23 : decode cX0_place 23 = .ok (.lreturn, 1) := dk_173 (dk_at dksX0_place_0 23 rfl rfl)
theorem dX0_place_24 : decode cX0_place 24 = .ok (.aload_n 0, 1) := dk_42 (dk_at dksX0_place_1 0 rfl rfl)
theorem dX0_place_25 : decode cX0_place 25 = .ok (.invokevirtual 279, 3) := dk_182 1 23 (dk_at dksX0_place_1 1 rfl rfl)
theorem dX0_place_28 : decode cX0_place 28 = .ok (.ifCond .eq 20, 3) := dk_153 0 20 (dk_at dksX0_place_1 4 rfl rfl)
theorem dX0_place_31 : decode cX0_place 31 = .ok (.aload_n 0, 1) := dk_42 (dk_at dksX0_place_1 7 rfl rfl)
theorem dX0_place_32 : decode cX0_place 32 = .ok (.getfield 103, 3) := dk_180 0 103 (dk_at dksX0_place_1 8 rfl rfl)
theorem dX0_place_35 : decode cX0_place 35 = .ok (.iload_n 1, 1) := dk_27 (dk_at dksX0_place_1 11 rfl rfl)
theorem dX0_place_36 : decode cX0_place 36 = .ok (.laload, 1) := dk_47 (dk_at dksX0_place_1 12 rfl rfl)
theorem dX0_place_37 : decode cX0_place 37 = .ok (.aload_n 0, 1) := dk_42 (dk_at dksX0_place_1 13 rfl rfl)
theorem dX0_place_38 : decode cX0_place 38 = .ok (.getfield 201, 3) := dk_180 0 201 (dk_at dksX0_place_1 14 rfl rfl)
theorem dX0_place_41 : decode cX0_place 41 = .ok (.iload_n 2, 1) := dk_28 (dk_at dksX0_place_1 17 rfl rfl)
theorem dX0_place_42 : decode cX0_place 42 = .ok (.invokestatic 305, 3) := dk_184 1 49 (dk_at dksX0_place_1 18 rfl rfl)
theorem dX0_place_45 : decode cX0_place 45 = .ok (.goto 9, 3) := dk_167 0 9 (dk_at dksX0_place_1 21 rfl rfl)
theorem dX0_place_48 : decode cX0_place 48 = .ok (.aload_n 0, 1) := dk_42 (dk_at dksX0_place_2 0 rfl rfl)
theorem dX0_place_49 : decode cX0_place 49 = .ok (.iconst 3, 1) := dk_6 (dk_at dksX0_place_2 1 rfl rfl)
theorem dX0_place_50 : decode cX0_place 50 = .ok (.invokevirtual 217, 3) := dk_182 0 217 (dk_at dksX0_place_2 2 rfl rfl)
theorem dX0_place_53 : decode cX0_place 53 = .ok (.i2l, 1) := dk_133 (dk_at dksX0_place_2 5 rfl rfl)
theorem dX0_place_54 : decode cX0_place 54 = .ok (.lreturn, 1) := dk_173 (dk_at dksX0_place_2 6 rfl rfl)
abbrev cX0_part : ByteArray := prog_1_method_21_code
def yX0_part : MethodName := ⟨RX0, "part", "(JJI)J"⟩
def dkwX0_part_0 : List UInt8 := [21, 4, 154, 0, 7, 30, 167, 0, 4, 32, 30, 32, 184, 0, 209, 109, 173]
abbrev dktX0_part_0 : List UInt8 := dkwX0_part_0 ++ []
theorem dksX0_part_0 : cX0_part.data.toList.drop 0 = dktX0_part_0 := by decide +kernel
theorem dX0_part_0 : decode cX0_part 0 = .ok (.iload 4, 2) := dk_21 4 (dk_at dksX0_part_0 0 rfl rfl)
theorem dX0_part_2 : decode cX0_part 2 = .ok (.ifCond .ne 7, 3) := dk_154 0 7 (dk_at dksX0_part_0 2 rfl rfl)
theorem dX0_part_5 : decode cX0_part 5 = .ok (.lload_n 0, 1) := dk_30 (dk_at dksX0_part_0 5 rfl rfl)
theorem dX0_part_6 : decode cX0_part 6 = .ok (.goto 4, 3) := dk_167 0 4 (dk_at dksX0_part_0 6 rfl rfl)
theorem dX0_part_9 : decode cX0_part 9 = .ok (.lload_n 2, 1) := dk_32 (dk_at dksX0_part_0 9 rfl rfl)
theorem dX0_part_10 : decode cX0_part 10 = .ok (.lload_n 0, 1) := dk_30 (dk_at dksX0_part_0 10 rfl rfl)
theorem dX0_part_11 : decode cX0_part 11 = .ok (.lload_n 2, 1) := dk_32 (dk_at dksX0_part_0 11 rfl rfl)
theorem dX0_part_12 : decode cX0_part 12 = .ok (.invokestatic 209, 3) := dk_184 0 209 (dk_at dksX0_part_0 12 rfl rfl)
theorem dX0_part_15 : decode cX0_part 15 = .ok (.ldiv, 1) := dk_109 (dk_at dksX0_part_0 15 rfl rfl)
theorem dX0_part_16 : decode cX0_part 16 = .ok (.lreturn, 1) := dk_173 (dk_at dksX0_part_0 16 rfl rfl)
abbrev cX0_common : ByteArray := prog_1_method_20_code
def yX0_common : MethodName := ⟨RX0, "common", "(JJ)J"⟩
def dkwX0_common_1 : List UInt8 := [22, 6, 55, 4, 22, 8, 55, 6, 167, 255, 234, 22, 4, 173]
abbrev dktX0_common_1 : List UInt8 := dkwX0_common_1 ++ []
def dkwX0_common_0 : List UInt8 := [30, 184, 0, 205, 55, 4, 32, 55, 6, 22, 6, 9, 148, 153, 0, 21, 22, 4, 22, 6, 113, 55, 8]
abbrev dktX0_common_0 : List UInt8 := dkwX0_common_0 ++ dktX0_common_1
theorem dksX0_common_0 : cX0_common.data.toList.drop 0 = dktX0_common_0 := by decide +kernel
theorem dksX0_common_1 : cX0_common.data.toList.drop 23 = dktX0_common_1 := dk_seg dksX0_common_0 23 rfl rfl
theorem dX0_common_0 : decode cX0_common 0 = .ok (.lload_n 0, 1) := dk_30 (dk_at dksX0_common_0 0 rfl rfl)
theorem dX0_common_1 : decode cX0_common 1 = .ok (.invokestatic 205, 3) := dk_184 0 205 (dk_at dksX0_common_0 1 rfl rfl)
theorem dX0_common_4 : decode cX0_common 4 = .ok (.lstore 4, 2) := dk_55 4 (dk_at dksX0_common_0 4 rfl rfl)
theorem dX0_common_6 : decode cX0_common 6 = .ok (.lload_n 2, 1) := dk_32 (dk_at dksX0_common_0 6 rfl rfl)
theorem dX0_common_7 : decode cX0_common 7 = .ok (.lstore 6, 2) := dk_55 6 (dk_at dksX0_common_0 7 rfl rfl)
theorem dX0_common_9 : decode cX0_common 9 = .ok (.lload 6, 2) := dk_22 6 (dk_at dksX0_common_0 9 rfl rfl)
theorem dX0_common_11 : decode cX0_common 11 = .ok (.lconst 0, 1) := dk_9 (dk_at dksX0_common_0 11 rfl rfl)
theorem dX0_common_12 : decode cX0_common 12 = .ok (.lcmp, 1) := dk_148 (dk_at dksX0_common_0 12 rfl rfl)
theorem dX0_common_13 : decode cX0_common 13 = .ok (.ifCond .eq 21, 3) := dk_153 0 21 (dk_at dksX0_common_0 13 rfl rfl)
theorem dX0_common_16 : decode cX0_common 16 = .ok (.lload 4, 2) := dk_22 4 (dk_at dksX0_common_0 16 rfl rfl)
theorem dX0_common_18 : decode cX0_common 18 = .ok (.lload 6, 2) := dk_22 6 (dk_at dksX0_common_0 18 rfl rfl)
theorem dX0_common_20 : decode cX0_common 20 = .ok (.lrem, 1) := dk_113 (dk_at dksX0_common_0 20 rfl rfl)
theorem dX0_common_21 : decode cX0_common 21 = .ok (.lstore 8, 2) := dk_55 8 (dk_at dksX0_common_0 21 rfl rfl)
theorem dX0_common_23 : decode cX0_common 23 = .ok (.lload 6, 2) := dk_22 6 (dk_at dksX0_common_1 0 rfl rfl)
theorem dX0_common_25 : decode cX0_common 25 = .ok (.lstore 4, 2) := dk_55 4 (dk_at dksX0_common_1 2 rfl rfl)
theorem dX0_common_27 : decode cX0_common 27 = .ok (.lload 8, 2) := dk_22 8 (dk_at dksX0_common_1 4 rfl rfl)
theorem dX0_common_29 : decode cX0_common 29 = .ok (.lstore 6, 2) := dk_55 6 (dk_at dksX0_common_1 6 rfl rfl)
theorem dX0_common_31 : decode cX0_common 31 = .ok (.goto (-22), 3) := dk_167 255 234 (dk_at dksX0_common_1 8 rfl rfl)
theorem dX0_common_34 : decode cX0_common 34 = .ok (.lload 4, 2) := dk_22 4 (dk_at dksX0_common_1 11 rfl rfl)
theorem dX0_common_36 : decode cX0_common 36 = .ok (.lreturn, 1) := dk_173 (dk_at dksX0_common_1 13 rfl rfl)
abbrev cX0_miss : ByteArray := prog_1_method_44_code
def yX0_miss : MethodName := ⟨RX0, "miss", "(II)J"⟩
def dkwX0_miss_2 : List UInt8 := [6, 182, 0, 217, 133, 173]
abbrev dktX0_miss_2 : List UInt8 := dkwX0_miss_2 ++ []
def dkwX0_miss_1 : List UInt8 := [42, 182, 1, 23, 153, 0, 19, 42, 27, 182, 1, 17, 42, 180, 0, 201, 28, 184, 1, 49, 167, 0, 9, 42]
abbrev dktX0_miss_1 : List UInt8 := dkwX0_miss_1 ++ dktX0_miss_2
def dkwX0_miss_0 : List UInt8 := [42, 27, 182, 0, 230, 153, 0, 12, 28, 3, 4, 184, 0, 116, 154, 0, 10, 42, 4, 182, 0, 217, 133, 173]
abbrev dktX0_miss_0 : List UInt8 := dkwX0_miss_0 ++ dktX0_miss_1
theorem dksX0_miss_0 : cX0_miss.data.toList.drop 0 = dktX0_miss_0 := by decide +kernel
theorem dksX0_miss_1 : cX0_miss.data.toList.drop 24 = dktX0_miss_1 := dk_seg dksX0_miss_0 24 rfl rfl
theorem dksX0_miss_2 : cX0_miss.data.toList.drop 48 = dktX0_miss_2 := dk_seg dksX0_miss_1 24 rfl rfl
theorem dX0_miss_0 : decode cX0_miss 0 = .ok (.aload_n 0, 1) := dk_42 (dk_at dksX0_miss_0 0 rfl rfl)
theorem dX0_miss_1 : decode cX0_miss 1 = .ok (.iload_n 1, 1) := dk_27 (dk_at dksX0_miss_0 1 rfl rfl)
theorem dX0_miss_2 : decode cX0_miss 2 = .ok (.invokevirtual 230, 3) := dk_182 0 230 (dk_at dksX0_miss_0 2 rfl rfl)
theorem dX0_miss_5 : decode cX0_miss 5 = .ok (.ifCond .eq 12, 3) := dk_153 0 12 (dk_at dksX0_miss_0 5 rfl rfl)
theorem dX0_miss_8 : decode cX0_miss 8 = .ok (.iload_n 2, 1) := dk_28 (dk_at dksX0_miss_0 8 rfl rfl)
theorem dX0_miss_9 : decode cX0_miss 9 = .ok (.iconst 0, 1) := dk_3 (dk_at dksX0_miss_0 9 rfl rfl)
theorem dX0_miss_10 : decode cX0_miss 10 = .ok (.iconst 1, 1) := dk_4 (dk_at dksX0_miss_0 10 rfl rfl)
theorem dX0_miss_11 : decode cX0_miss 11 = .ok (.invokestatic 116, 3) := dk_184 0 116 (dk_at dksX0_miss_0 11 rfl rfl)
theorem dX0_miss_14 : decode cX0_miss 14 = .ok (.ifCond .ne 10, 3) := dk_154 0 10 (dk_at dksX0_miss_0 14 rfl rfl)
theorem dX0_miss_17 : decode cX0_miss 17 = .ok (.aload_n 0, 1) := dk_42 (dk_at dksX0_miss_0 17 rfl rfl)
theorem dX0_miss_18 : decode cX0_miss 18 = .ok (.iconst 1, 1) := dk_4 (dk_at dksX0_miss_0 18 rfl rfl)
theorem dX0_miss_19 : decode cX0_miss 19 = .ok (.invokevirtual 217, 3) := dk_182 0 217 (dk_at dksX0_miss_0 19 rfl rfl)
theorem dX0_miss_22 : decode cX0_miss 22 = .ok (.i2l, 1) := dk_133 (dk_at dksX0_miss_0 22 rfl rfl)
theorem dX0_miss_23 : decode cX0_miss 23 = .ok (.lreturn, 1) := dk_173 (dk_at dksX0_miss_0 23 rfl rfl)
theorem dX0_miss_24 : decode cX0_miss 24 = .ok (.aload_n 0, 1) := dk_42 (dk_at dksX0_miss_1 0 rfl rfl)
theorem dX0_miss_25 : decode cX0_miss 25 = .ok (.invokevirtual 279, 3) := dk_182 1 23 (dk_at dksX0_miss_1 1 rfl rfl)
theorem dX0_miss_28 : decode cX0_miss 28 = .ok (.ifCond .eq 19, 3) := dk_153 0 19 (dk_at dksX0_miss_1 4 rfl rfl)
theorem dX0_miss_31 : decode cX0_miss 31 = .ok (.aload_n 0, 1) := dk_42 (dk_at dksX0_miss_1 7 rfl rfl)
theorem dX0_miss_32 : decode cX0_miss 32 = .ok (.iload_n 1, 1) := dk_27 (dk_at dksX0_miss_1 8 rfl rfl)
theorem dX0_miss_33 : decode cX0_miss 33 = .ok (.invokevirtual 273, 3) := dk_182 1 17 (dk_at dksX0_miss_1 9 rfl rfl)
theorem dX0_miss_36 : decode cX0_miss 36 = .ok (.aload_n 0, 1) := dk_42 (dk_at dksX0_miss_1 12 rfl rfl)
theorem dX0_miss_37 : decode cX0_miss 37 = .ok (.getfield 201, 3) := dk_180 0 201 (dk_at dksX0_miss_1 13 rfl rfl)
theorem dX0_miss_40 : decode cX0_miss 40 = .ok (.iload_n 2, 1) := dk_28 (dk_at dksX0_miss_1 16 rfl rfl)
theorem dX0_miss_41 : decode cX0_miss 41 = .ok (.invokestatic 305, 3) := dk_184 1 49 (dk_at dksX0_miss_1 17 rfl rfl)
theorem dX0_miss_44 : decode cX0_miss 44 = .ok (.goto 9, 3) := dk_167 0 9 (dk_at dksX0_miss_1 20 rfl rfl)
theorem dX0_miss_47 : decode cX0_miss 47 = .ok (.aload_n 0, 1) := dk_42 (dk_at dksX0_miss_1 23 rfl rfl)
theorem dX0_miss_48 : decode cX0_miss 48 = .ok (.iconst 3, 1) := dk_6 (dk_at dksX0_miss_2 0 rfl rfl)
theorem dX0_miss_49 : decode cX0_miss 49 = .ok (.invokevirtual 217, 3) := dk_182 0 217 (dk_at dksX0_miss_2 1 rfl rfl)
theorem dX0_miss_52 : decode cX0_miss 52 = .ok (.i2l, 1) := dk_133 (dk_at dksX0_miss_2 4 rfl rfl)
theorem dX0_miss_53 : decode cX0_miss 53 = .ok (.lreturn, 1) := dk_173 (dk_at dksX0_miss_2 5 rfl rfl)
abbrev cX0_sum : ByteArray := prog_1_method_46_code
def yX0_sum : MethodName := ⟨RX0, "sum", "(I)J"⟩
def dkwX0_sum_1 : List UInt8 := [182, 1, 53, 42, 180, 0, 201, 27, 184, 1, 49, 167, 0, 9, 42, 6, 182, 0, 217, 133, 173]
abbrev dktX0_sum_1 : List UInt8 := dkwX0_sum_1 ++ []
def dkwX0_sum_0 : List UInt8 := [27, 3, 4, 184, 0, 116, 154, 0, 10, 42, 4, 182, 0, 217, 133, 173, 42, 182, 1, 23, 153, 0, 18, 42]
abbrev dktX0_sum_0 : List UInt8 := dkwX0_sum_0 ++ dktX0_sum_1
theorem dksX0_sum_0 : cX0_sum.data.toList.drop 0 = dktX0_sum_0 := by decide +kernel
theorem dksX0_sum_1 : cX0_sum.data.toList.drop 24 = dktX0_sum_1 := dk_seg dksX0_sum_0 24 rfl rfl
theorem dX0_sum_0 : decode cX0_sum 0 = .ok (.iload_n 1, 1) := dk_27 (dk_at dksX0_sum_0 0 rfl rfl)
theorem dX0_sum_1 : decode cX0_sum 1 = .ok (.iconst 0, 1) := dk_3 (dk_at dksX0_sum_0 1 rfl rfl)
theorem dX0_sum_2 : decode cX0_sum 2 = .ok (.iconst 1, 1) := dk_4 (dk_at dksX0_sum_0 2 rfl rfl)
theorem dX0_sum_3 : decode cX0_sum 3 = .ok (.invokestatic 116, 3) := dk_184 0 116 (dk_at dksX0_sum_0 3 rfl rfl)
theorem dX0_sum_6 : decode cX0_sum 6 = .ok (.ifCond .ne 10, 3) := dk_154 0 10 (dk_at dksX0_sum_0 6 rfl rfl)
theorem dX0_sum_9 : decode cX0_sum 9 = .ok (.aload_n 0, 1) := dk_42 (dk_at dksX0_sum_0 9 rfl rfl)
theorem dX0_sum_10 : decode cX0_sum 10 = .ok (.iconst 1, 1) := dk_4 (dk_at dksX0_sum_0 10 rfl rfl)
theorem dX0_sum_11 : decode cX0_sum 11 = .ok (.invokevirtual 217, 3) := dk_182 0 217 (dk_at dksX0_sum_0 11 rfl rfl)
theorem dX0_sum_14 : decode cX0_sum 14 = .ok (.i2l, 1) := dk_133 (dk_at dksX0_sum_0 14 rfl rfl)
theorem dX0_sum_15 : decode cX0_sum 15 = .ok (.lreturn, 1) := dk_173 (dk_at dksX0_sum_0 15 rfl rfl)
theorem dX0_sum_16 : decode cX0_sum 16 = .ok (.aload_n 0, 1) := dk_42 (dk_at dksX0_sum_0 16 rfl rfl)
theorem dX0_sum_17 : decode cX0_sum 17 = .ok (.invokevirtual 279, 3) := dk_182 1 23 (dk_at dksX0_sum_0 17 rfl rfl)
theorem dX0_sum_20 : decode cX0_sum 20 = .ok (.ifCond .eq 18, 3) := dk_153 0 18 (dk_at dksX0_sum_0 20 rfl rfl)
theorem dX0_sum_23 : decode cX0_sum 23 = .ok (.aload_n 0, 1) := dk_42 (dk_at dksX0_sum_0 23 rfl rfl)
theorem dX0_sum_24 : decode cX0_sum 24 = .ok (.invokevirtual 309, 3) := dk_182 1 53 (dk_at dksX0_sum_1 0 rfl rfl)
theorem dX0_sum_27 : decode cX0_sum 27 = .ok (.aload_n 0, 1) := dk_42 (dk_at dksX0_sum_1 3 rfl rfl)
theorem dX0_sum_28 : decode cX0_sum 28 = .ok (.getfield 201, 3) := dk_180 0 201 (dk_at dksX0_sum_1 4 rfl rfl)
theorem dX0_sum_31 : decode cX0_sum 31 = .ok (.iload_n 1, 1) := dk_27 (dk_at dksX0_sum_1 7 rfl rfl)
theorem dX0_sum_32 : decode cX0_sum 32 = .ok (.invokestatic 305, 3) := dk_184 1 49 (dk_at dksX0_sum_1 8 rfl rfl)
theorem dX0_sum_35 : decode cX0_sum 35 = .ok (.goto 9, 3) := dk_167 0 9 (dk_at dksX0_sum_1 11 rfl rfl)
theorem dX0_sum_38 : decode cX0_sum 38 = .ok (.aload_n 0, 1) := dk_42 (dk_at dksX0_sum_1 14 rfl rfl)
theorem dX0_sum_39 : decode cX0_sum 39 = .ok (.iconst 3, 1) := dk_6 (dk_at dksX0_sum_1 15 rfl rfl)
theorem dX0_sum_40 : decode cX0_sum 40 = .ok (.invokevirtual 217, 3) := dk_182 0 217 (dk_at dksX0_sum_1 16 rfl rfl)
theorem dX0_sum_43 : decode cX0_sum 43 = .ok (.i2l, 1) := dk_133 (dk_at dksX0_sum_1 19 rfl rfl)
theorem dX0_sum_44 : decode cX0_sum 44 = .ok (.lreturn, 1) := dk_173 (dk_at dksX0_sum_1 20 rfl rfl)
abbrev cX0_sumOf : ByteArray := prog_1_method_45_code
def yX0_sumOf : MethodName := ⟨RX0, "sumOf", "()J"⟩
def dkwX0_sumOf_4 : List UInt8 := [64, 132, 3, 1, 167, 255, 226, 31, 173]
abbrev dktX0_sumOf_4 : List UInt8 := dkwX0_sumOf_4 ++ []
def dkwX0_sumOf_3 : List UInt8 := [180, 0, 64, 180, 0, 120, 162, 0, 25, 31, 42, 180, 0, 103, 29, 47, 42, 180, 0, 99, 29, 47, 105, 101]
abbrev dktX0_sumOf_3 : List UInt8 := dkwX0_sumOf_3 ++ dktX0_sumOf_4
def dkwX0_sumOf_2 : List UInt8 := [104, 133, 42, 180, 0, 201, 105, 167, 0, 4, 9, 97, 64, 132, 3, 1, 167, 255, 196, 3, 62, 29, 42]
abbrev dktX0_sumOf_2 : List UInt8 := dkwX0_sumOf_2 ++ dktX0_sumOf_3
def dkwX0_sumOf_1 : List UInt8 := [46, 4, 160, 0, 32, 42, 180, 0, 106, 29, 46, 42, 180, 0, 109, 29, 46, 104, 42, 180, 0, 109, 29, 46]
abbrev dktX0_sumOf_1 : List UInt8 := dkwX0_sumOf_1 ++ dktX0_sumOf_2
def dkwX0_sumOf_0 : List UInt8 := [9, 64, 3, 62, 29, 42, 180, 0, 64, 180, 0, 113, 162, 0, 55, 31, 42, 180, 0, 64, 180, 0, 188, 29]
abbrev dktX0_sumOf_0 : List UInt8 := dkwX0_sumOf_0 ++ dktX0_sumOf_1
theorem dksX0_sumOf_0 : cX0_sumOf.data.toList.drop 0 = dktX0_sumOf_0 := by decide +kernel
theorem dksX0_sumOf_1 : cX0_sumOf.data.toList.drop 24 = dktX0_sumOf_1 := dk_seg dksX0_sumOf_0 24 rfl rfl
theorem dksX0_sumOf_2 : cX0_sumOf.data.toList.drop 48 = dktX0_sumOf_2 := dk_seg dksX0_sumOf_1 24 rfl rfl
theorem dksX0_sumOf_3 : cX0_sumOf.data.toList.drop 71 = dktX0_sumOf_3 := dk_seg dksX0_sumOf_2 23 rfl rfl
theorem dksX0_sumOf_4 : cX0_sumOf.data.toList.drop 95 = dktX0_sumOf_4 := dk_seg dksX0_sumOf_3 24 rfl rfl
theorem dX0_sumOf_0 : decode cX0_sumOf 0 = .ok (.lconst 0, 1) := dk_9 (dk_at dksX0_sumOf_0 0 rfl rfl)
theorem dX0_sumOf_1 : decode cX0_sumOf 1 = .ok (.lstore_n 1, 1) := dk_64 (dk_at dksX0_sumOf_0 1 rfl rfl)
theorem dX0_sumOf_2 : decode cX0_sumOf 2 = .ok (.iconst 0, 1) := dk_3 (dk_at dksX0_sumOf_0 2 rfl rfl)
theorem dX0_sumOf_3 : decode cX0_sumOf 3 = .ok (.istore_n 3, 1) := dk_62 (dk_at dksX0_sumOf_0 3 rfl rfl)
theorem dX0_sumOf_4 : decode cX0_sumOf 4 = .ok (.iload_n 3, 1) := dk_29 (dk_at dksX0_sumOf_0 4 rfl rfl)
theorem dX0_sumOf_5 : decode cX0_sumOf 5 = .ok (.aload_n 0, 1) := dk_42 (dk_at dksX0_sumOf_0 5 rfl rfl)
theorem dX0_sumOf_6 : decode cX0_sumOf 6 = .ok (.getfield 64, 3) := dk_180 0 64 (dk_at dksX0_sumOf_0 6 rfl rfl)
theorem dX0_sumOf_9 : decode cX0_sumOf 9 = .ok (.getfield 113, 3) := dk_180 0 113 (dk_at dksX0_sumOf_0 9 rfl rfl)
theorem dX0_sumOf_12 : decode cX0_sumOf 12 = .ok (.if_icmp .ge 55, 3) := dk_162 0 55 (dk_at dksX0_sumOf_0 12 rfl rfl)
theorem dX0_sumOf_15 : decode cX0_sumOf 15 = .ok (.lload_n 1, 1) := dk_31 (dk_at dksX0_sumOf_0 15 rfl rfl)
theorem dX0_sumOf_16 : decode cX0_sumOf 16 = .ok (.aload_n 0, 1) := dk_42 (dk_at dksX0_sumOf_0 16 rfl rfl)
theorem dX0_sumOf_17 : decode cX0_sumOf 17 = .ok (.getfield 64, 3) := dk_180 0 64 (dk_at dksX0_sumOf_0 17 rfl rfl)
theorem dX0_sumOf_20 : decode cX0_sumOf 20 = .ok (.getfield 188, 3) := dk_180 0 188 (dk_at dksX0_sumOf_0 20 rfl rfl)
theorem dX0_sumOf_23 : decode cX0_sumOf 23 = .ok (.iload_n 3, 1) := dk_29 (dk_at dksX0_sumOf_0 23 rfl rfl)
theorem dX0_sumOf_24 : decode cX0_sumOf 24 = .ok (.iaload, 1) := dk_46 (dk_at dksX0_sumOf_1 0 rfl rfl)
theorem dX0_sumOf_25 : decode cX0_sumOf 25 = .ok (.iconst 1, 1) := dk_4 (dk_at dksX0_sumOf_1 1 rfl rfl)
theorem dX0_sumOf_26 : decode cX0_sumOf 26 = .ok (.if_icmp .ne 32, 3) := dk_160 0 32 (dk_at dksX0_sumOf_1 2 rfl rfl)
theorem dX0_sumOf_29 : decode cX0_sumOf 29 = .ok (.aload_n 0, 1) := dk_42 (dk_at dksX0_sumOf_1 5 rfl rfl)
theorem dX0_sumOf_30 : decode cX0_sumOf 30 = .ok (.getfield 106, 3) := dk_180 0 106 (dk_at dksX0_sumOf_1 6 rfl rfl)
theorem dX0_sumOf_33 : decode cX0_sumOf 33 = .ok (.iload_n 3, 1) := dk_29 (dk_at dksX0_sumOf_1 9 rfl rfl)
theorem dX0_sumOf_34 : decode cX0_sumOf 34 = .ok (.iaload, 1) := dk_46 (dk_at dksX0_sumOf_1 10 rfl rfl)
theorem dX0_sumOf_35 : decode cX0_sumOf 35 = .ok (.aload_n 0, 1) := dk_42 (dk_at dksX0_sumOf_1 11 rfl rfl)
theorem dX0_sumOf_36 : decode cX0_sumOf 36 = .ok (.getfield 109, 3) := dk_180 0 109 (dk_at dksX0_sumOf_1 12 rfl rfl)
theorem dX0_sumOf_39 : decode cX0_sumOf 39 = .ok (.iload_n 3, 1) := dk_29 (dk_at dksX0_sumOf_1 15 rfl rfl)
theorem dX0_sumOf_40 : decode cX0_sumOf 40 = .ok (.iaload, 1) := dk_46 (dk_at dksX0_sumOf_1 16 rfl rfl)
theorem dX0_sumOf_41 : decode cX0_sumOf 41 = .ok (.imul, 1) := dk_104 (dk_at dksX0_sumOf_1 17 rfl rfl)
theorem dX0_sumOf_42 : decode cX0_sumOf 42 = .ok (.aload_n 0, 1) := dk_42 (dk_at dksX0_sumOf_1 18 rfl rfl)
theorem dX0_sumOf_43 : decode cX0_sumOf 43 = .ok (.getfield 109, 3) := dk_180 0 109 (dk_at dksX0_sumOf_1 19 rfl rfl)
theorem dX0_sumOf_46 : decode cX0_sumOf 46 = .ok (.iload_n 3, 1) := dk_29 (dk_at dksX0_sumOf_1 22 rfl rfl)
theorem dX0_sumOf_47 : decode cX0_sumOf 47 = .ok (.iaload, 1) := dk_46 (dk_at dksX0_sumOf_1 23 rfl rfl)
theorem dX0_sumOf_48 : decode cX0_sumOf 48 = .ok (.imul, 1) := dk_104 (dk_at dksX0_sumOf_2 0 rfl rfl)
theorem dX0_sumOf_49 : decode cX0_sumOf 49 = .ok (.i2l, 1) := dk_133 (dk_at dksX0_sumOf_2 1 rfl rfl)
theorem dX0_sumOf_50 : decode cX0_sumOf 50 = .ok (.aload_n 0, 1) := dk_42 (dk_at dksX0_sumOf_2 2 rfl rfl)
theorem dX0_sumOf_51 : decode cX0_sumOf 51 = .ok (.getfield 201, 3) := dk_180 0 201 (dk_at dksX0_sumOf_2 3 rfl rfl)
theorem dX0_sumOf_54 : decode cX0_sumOf 54 = .ok (.lmul, 1) := dk_105 (dk_at dksX0_sumOf_2 6 rfl rfl)
theorem dX0_sumOf_55 : decode cX0_sumOf 55 = .ok (.goto 4, 3) := dk_167 0 4 (dk_at dksX0_sumOf_2 7 rfl rfl)
theorem dX0_sumOf_58 : decode cX0_sumOf 58 = .ok (.lconst 0, 1) := dk_9 (dk_at dksX0_sumOf_2 10 rfl rfl)
theorem dX0_sumOf_59 : decode cX0_sumOf 59 = .ok (.ladd, 1) := dk_97 (dk_at dksX0_sumOf_2 11 rfl rfl)
theorem dX0_sumOf_60 : decode cX0_sumOf 60 = .ok (.lstore_n 1, 1) := dk_64 (dk_at dksX0_sumOf_2 12 rfl rfl)
theorem dX0_sumOf_61 : decode cX0_sumOf 61 = .ok (.iinc 3 1, 3) := dk_132 3 1 (dk_at dksX0_sumOf_2 13 rfl rfl)
theorem dX0_sumOf_64 : decode cX0_sumOf 64 = .ok (.goto (-60), 3) := dk_167 255 196 (dk_at dksX0_sumOf_2 16 rfl rfl)
theorem dX0_sumOf_67 : decode cX0_sumOf 67 = .ok (.iconst 0, 1) := dk_3 (dk_at dksX0_sumOf_2 19 rfl rfl)
theorem dX0_sumOf_68 : decode cX0_sumOf 68 = .ok (.istore_n 3, 1) := dk_62 (dk_at dksX0_sumOf_2 20 rfl rfl)
theorem dX0_sumOf_69 : decode cX0_sumOf 69 = .ok (.iload_n 3, 1) := dk_29 (dk_at dksX0_sumOf_2 21 rfl rfl)
theorem dX0_sumOf_70 : decode cX0_sumOf 70 = .ok (.aload_n 0, 1) := dk_42 (dk_at dksX0_sumOf_2 22 rfl rfl)
theorem dX0_sumOf_71 : decode cX0_sumOf 71 = .ok (.getfield 64, 3) := dk_180 0 64 (dk_at dksX0_sumOf_3 0 rfl rfl)
theorem dX0_sumOf_74 : decode cX0_sumOf 74 = .ok (.getfield 120, 3) := dk_180 0 120 (dk_at dksX0_sumOf_3 3 rfl rfl)
theorem dX0_sumOf_77 : decode cX0_sumOf 77 = .ok (.if_icmp .ge 25, 3) := dk_162 0 25 (dk_at dksX0_sumOf_3 6 rfl rfl)
theorem dX0_sumOf_80 : decode cX0_sumOf 80 = .ok (.lload_n 1, 1) := dk_31 (dk_at dksX0_sumOf_3 9 rfl rfl)
theorem dX0_sumOf_81 : decode cX0_sumOf 81 = .ok (.aload_n 0, 1) := dk_42 (dk_at dksX0_sumOf_3 10 rfl rfl)
theorem dX0_sumOf_82 : decode cX0_sumOf 82 = .ok (.getfield 103, 3) := dk_180 0 103 (dk_at dksX0_sumOf_3 11 rfl rfl)
theorem dX0_sumOf_85 : decode cX0_sumOf 85 = .ok (.iload_n 3, 1) := dk_29 (dk_at dksX0_sumOf_3 14 rfl rfl)
theorem dX0_sumOf_86 : decode cX0_sumOf 86 = .ok (.laload, 1) := dk_47 (dk_at dksX0_sumOf_3 15 rfl rfl)
theorem dX0_sumOf_87 : decode cX0_sumOf 87 = .ok (.aload_n 0, 1) := dk_42 (dk_at dksX0_sumOf_3 16 rfl rfl)
theorem dX0_sumOf_88 : decode cX0_sumOf 88 = .ok (.getfield 99, 3) := dk_180 0 99 (dk_at dksX0_sumOf_3 17 rfl rfl)
theorem dX0_sumOf_91 : decode cX0_sumOf 91 = .ok (.iload_n 3, 1) := dk_29 (dk_at dksX0_sumOf_3 20 rfl rfl)
theorem dX0_sumOf_92 : decode cX0_sumOf 92 = .ok (.laload, 1) := dk_47 (dk_at dksX0_sumOf_3 21 rfl rfl)
theorem dX0_sumOf_93 : decode cX0_sumOf 93 = .ok (.lmul, 1) := dk_105 (dk_at dksX0_sumOf_3 22 rfl rfl)
theorem dX0_sumOf_94 : decode cX0_sumOf 94 = .ok (.lsub, 1) := dk_101 (dk_at dksX0_sumOf_3 23 rfl rfl)
theorem dX0_sumOf_95 : decode cX0_sumOf 95 = .ok (.lstore_n 1, 1) := dk_64 (dk_at dksX0_sumOf_4 0 rfl rfl)
theorem dX0_sumOf_96 : decode cX0_sumOf 96 = .ok (.iinc 3 1, 3) := dk_132 3 1 (dk_at dksX0_sumOf_4 1 rfl rfl)
theorem dX0_sumOf_99 : decode cX0_sumOf 99 = .ok (.goto (-30), 3) := dk_167 255 226 (dk_at dksX0_sumOf_4 4 rfl rfl)
theorem dX0_sumOf_102 : decode cX0_sumOf 102 = .ok (.lload_n 1, 1) := dk_31 (dk_at dksX0_sumOf_4 7 rfl rfl)
theorem dX0_sumOf_103 : decode cX0_sumOf 103 = .ok (.lreturn, 1) := dk_173 (dk_at dksX0_sumOf_4 8 rfl rfl)
abbrev cX0_doubted : ByteArray := prog_1_method_47_code
def yX0_doubted : MethodName := ⟨RX0, "doubted", "()I"⟩
def dkwX0_doubted_0 : List UInt8 := [42, 182, 1, 23, 153, 0, 10, 42, 182, 1, 26, 167, 0, 8, 42, 6, 182, 0, 217, 172]
abbrev dktX0_doubted_0 : List UInt8 := dkwX0_doubted_0 ++ []
theorem dksX0_doubted_0 : cX0_doubted.data.toList.drop 0 = dktX0_doubted_0 := by decide +kernel
theorem dX0_doubted_0 : decode cX0_doubted 0 = .ok (.aload_n 0, 1) := dk_42 (dk_at dksX0_doubted_0 0 rfl rfl)
theorem dX0_doubted_1 : decode cX0_doubted 1 = .ok (.invokevirtual 279, 3) := dk_182 1 23 (dk_at dksX0_doubted_0 1 rfl rfl)
theorem dX0_doubted_4 : decode cX0_doubted 4 = .ok (.ifCond .eq 10, 3) := dk_153 0 10 (dk_at dksX0_doubted_0 4 rfl rfl)
theorem dX0_doubted_7 : decode cX0_doubted 7 = .ok (.aload_n 0, 1) := dk_42 (dk_at dksX0_doubted_0 7 rfl rfl)
theorem dX0_doubted_8 : decode cX0_doubted 8 = .ok (.invokevirtual 282, 3) := dk_182 1 26 (dk_at dksX0_doubted_0 8 rfl rfl)
theorem dX0_doubted_11 : decode cX0_doubted 11 = .ok (.goto 8, 3) := dk_167 0 8 (dk_at dksX0_doubted_0 11 rfl rfl)
theorem dX0_doubted_14 : decode cX0_doubted 14 = .ok (.aload_n 0, 1) := dk_42 (dk_at dksX0_doubted_0 14 rfl rfl)
theorem dX0_doubted_15 : decode cX0_doubted 15 = .ok (.iconst 3, 1) := dk_6 (dk_at dksX0_doubted_0 15 rfl rfl)
theorem dX0_doubted_16 : decode cX0_doubted 16 = .ok (.invokevirtual 217, 3) := dk_182 0 217 (dk_at dksX0_doubted_0 16 rfl rfl)
theorem dX0_doubted_19 : decode cX0_doubted 19 = .ok (.ireturn, 1) := dk_172 (dk_at dksX0_doubted_0 19 rfl rfl)
abbrev cX0_needed : ByteArray := prog_1_method_48_code
def yX0_needed : MethodName := ⟨RX0, "needed", "()I"⟩
def dkwX0_needed_3 : List UInt8 := [184, 0, 175, 159, 0, 9, 27, 4, 28, 120, 128, 60, 132, 2, 1, 167, 255, 190, 27, 172]
abbrev dktX0_needed_3 : List UInt8 := dkwX0_needed_3 ++ []
def dkwX0_needed_2 : List UInt8 := [180, 0, 64, 182, 0, 168, 4, 28, 120, 2, 130, 126, 182, 0, 172, 42, 180, 0, 64, 180, 0, 120]
abbrev dktX0_needed_2 : List UInt8 := dkwX0_needed_2 ++ dktX0_needed_3
def dkwX0_needed_1 : List UInt8 := [180, 0, 113, 162, 0, 61, 42, 180, 0, 64, 180, 0, 188, 28, 46, 4, 160, 0, 42, 42, 180, 0, 64, 42]
abbrev dktX0_needed_1 : List UInt8 := dkwX0_needed_1 ++ dktX0_needed_2
def dkwX0_needed_0 : List UInt8 := [42, 182, 0, 178, 154, 0, 9, 42, 6, 182, 0, 217, 172, 3, 60, 3, 61, 28, 42, 180, 0, 64]
abbrev dktX0_needed_0 : List UInt8 := dkwX0_needed_0 ++ dktX0_needed_1
theorem dksX0_needed_0 : cX0_needed.data.toList.drop 0 = dktX0_needed_0 := by decide +kernel
theorem dksX0_needed_1 : cX0_needed.data.toList.drop 22 = dktX0_needed_1 := dk_seg dksX0_needed_0 22 rfl rfl
theorem dksX0_needed_2 : cX0_needed.data.toList.drop 46 = dktX0_needed_2 := dk_seg dksX0_needed_1 24 rfl rfl
theorem dksX0_needed_3 : cX0_needed.data.toList.drop 68 = dktX0_needed_3 := dk_seg dksX0_needed_2 22 rfl rfl
theorem dX0_needed_0 : decode cX0_needed 0 = .ok (.aload_n 0, 1) := dk_42 (dk_at dksX0_needed_0 0 rfl rfl)
theorem dX0_needed_1 : decode cX0_needed 1 = .ok (.invokevirtual 178, 3) := dk_182 0 178 (dk_at dksX0_needed_0 1 rfl rfl)
theorem dX0_needed_4 : decode cX0_needed 4 = .ok (.ifCond .ne 9, 3) := dk_154 0 9 (dk_at dksX0_needed_0 4 rfl rfl)
theorem dX0_needed_7 : decode cX0_needed 7 = .ok (.aload_n 0, 1) := dk_42 (dk_at dksX0_needed_0 7 rfl rfl)
theorem dX0_needed_8 : decode cX0_needed 8 = .ok (.iconst 3, 1) := dk_6 (dk_at dksX0_needed_0 8 rfl rfl)
theorem dX0_needed_9 : decode cX0_needed 9 = .ok (.invokevirtual 217, 3) := dk_182 0 217 (dk_at dksX0_needed_0 9 rfl rfl)
theorem dX0_needed_12 : decode cX0_needed 12 = .ok (.ireturn, 1) := dk_172 (dk_at dksX0_needed_0 12 rfl rfl)
theorem dX0_needed_13 : decode cX0_needed 13 = .ok (.iconst 0, 1) := dk_3 (dk_at dksX0_needed_0 13 rfl rfl)
theorem dX0_needed_14 : decode cX0_needed 14 = .ok (.istore_n 1, 1) := dk_60 (dk_at dksX0_needed_0 14 rfl rfl)
theorem dX0_needed_15 : decode cX0_needed 15 = .ok (.iconst 0, 1) := dk_3 (dk_at dksX0_needed_0 15 rfl rfl)
theorem dX0_needed_16 : decode cX0_needed 16 = .ok (.istore_n 2, 1) := dk_61 (dk_at dksX0_needed_0 16 rfl rfl)
theorem dX0_needed_17 : decode cX0_needed 17 = .ok (.iload_n 2, 1) := dk_28 (dk_at dksX0_needed_0 17 rfl rfl)
theorem dX0_needed_18 : decode cX0_needed 18 = .ok (.aload_n 0, 1) := dk_42 (dk_at dksX0_needed_0 18 rfl rfl)
theorem dX0_needed_19 : decode cX0_needed 19 = .ok (.getfield 64, 3) := dk_180 0 64 (dk_at dksX0_needed_0 19 rfl rfl)
theorem dX0_needed_22 : decode cX0_needed 22 = .ok (.getfield 113, 3) := dk_180 0 113 (dk_at dksX0_needed_1 0 rfl rfl)
theorem dX0_needed_25 : decode cX0_needed 25 = .ok (.if_icmp .ge 61, 3) := dk_162 0 61 (dk_at dksX0_needed_1 3 rfl rfl)
theorem dX0_needed_28 : decode cX0_needed 28 = .ok (.aload_n 0, 1) := dk_42 (dk_at dksX0_needed_1 6 rfl rfl)
theorem dX0_needed_29 : decode cX0_needed 29 = .ok (.getfield 64, 3) := dk_180 0 64 (dk_at dksX0_needed_1 7 rfl rfl)
theorem dX0_needed_32 : decode cX0_needed 32 = .ok (.getfield 188, 3) := dk_180 0 188 (dk_at dksX0_needed_1 10 rfl rfl)
theorem dX0_needed_35 : decode cX0_needed 35 = .ok (.iload_n 2, 1) := dk_28 (dk_at dksX0_needed_1 13 rfl rfl)
theorem dX0_needed_36 : decode cX0_needed 36 = .ok (.iaload, 1) := dk_46 (dk_at dksX0_needed_1 14 rfl rfl)
theorem dX0_needed_37 : decode cX0_needed 37 = .ok (.iconst 1, 1) := dk_4 (dk_at dksX0_needed_1 15 rfl rfl)
theorem dX0_needed_38 : decode cX0_needed 38 = .ok (.if_icmp .ne 42, 3) := dk_160 0 42 (dk_at dksX0_needed_1 16 rfl rfl)
theorem dX0_needed_41 : decode cX0_needed 41 = .ok (.aload_n 0, 1) := dk_42 (dk_at dksX0_needed_1 19 rfl rfl)
theorem dX0_needed_42 : decode cX0_needed 42 = .ok (.getfield 64, 3) := dk_180 0 64 (dk_at dksX0_needed_1 20 rfl rfl)
theorem dX0_needed_45 : decode cX0_needed 45 = .ok (.aload_n 0, 1) := dk_42 (dk_at dksX0_needed_1 23 rfl rfl)
theorem dX0_needed_46 : decode cX0_needed 46 = .ok (.getfield 64, 3) := dk_180 0 64 (dk_at dksX0_needed_2 0 rfl rfl)
theorem dX0_needed_49 : decode cX0_needed 49 = .ok (.invokevirtual 168, 3) := dk_182 0 168 (dk_at dksX0_needed_2 3 rfl rfl)
theorem dX0_needed_52 : decode cX0_needed 52 = .ok (.iconst 1, 1) := dk_4 (dk_at dksX0_needed_2 6 rfl rfl)
theorem dX0_needed_53 : decode cX0_needed 53 = .ok (.iload_n 2, 1) := dk_28 (dk_at dksX0_needed_2 7 rfl rfl)
theorem dX0_needed_54 : decode cX0_needed 54 = .ok (.ishl, 1) := dk_120 (dk_at dksX0_needed_2 8 rfl rfl)
theorem dX0_needed_55 : decode cX0_needed 55 = .ok (.iconst (-1), 1) := dk_2 (dk_at dksX0_needed_2 9 rfl rfl)
theorem dX0_needed_56 : decode cX0_needed 56 = .ok (.ixor, 1) := dk_130 (dk_at dksX0_needed_2 10 rfl rfl)
theorem dX0_needed_57 : decode cX0_needed 57 = .ok (.iand, 1) := dk_126 (dk_at dksX0_needed_2 11 rfl rfl)
theorem dX0_needed_58 : decode cX0_needed 58 = .ok (.invokevirtual 172, 3) := dk_182 0 172 (dk_at dksX0_needed_2 12 rfl rfl)
theorem dX0_needed_61 : decode cX0_needed 61 = .ok (.aload_n 0, 1) := dk_42 (dk_at dksX0_needed_2 15 rfl rfl)
theorem dX0_needed_62 : decode cX0_needed 62 = .ok (.getfield 64, 3) := dk_180 0 64 (dk_at dksX0_needed_2 16 rfl rfl)
theorem dX0_needed_65 : decode cX0_needed 65 = .ok (.getfield 120, 3) := dk_180 0 120 (dk_at dksX0_needed_2 19 rfl rfl)
theorem dX0_needed_68 : decode cX0_needed 68 = .ok (.invokestatic 175, 3) := dk_184 0 175 (dk_at dksX0_needed_3 0 rfl rfl)
theorem dX0_needed_71 : decode cX0_needed 71 = .ok (.if_icmp .eq 9, 3) := dk_159 0 9 (dk_at dksX0_needed_3 3 rfl rfl)
theorem dX0_needed_74 : decode cX0_needed 74 = .ok (.iload_n 1, 1) := dk_27 (dk_at dksX0_needed_3 6 rfl rfl)
theorem dX0_needed_75 : decode cX0_needed 75 = .ok (.iconst 1, 1) := dk_4 (dk_at dksX0_needed_3 7 rfl rfl)
theorem dX0_needed_76 : decode cX0_needed 76 = .ok (.iload_n 2, 1) := dk_28 (dk_at dksX0_needed_3 8 rfl rfl)
theorem dX0_needed_77 : decode cX0_needed 77 = .ok (.ishl, 1) := dk_120 (dk_at dksX0_needed_3 9 rfl rfl)
theorem dX0_needed_78 : decode cX0_needed 78 = .ok (.ior, 1) := dk_128 (dk_at dksX0_needed_3 10 rfl rfl)
theorem dX0_needed_79 : decode cX0_needed 79 = .ok (.istore_n 1, 1) := dk_60 (dk_at dksX0_needed_3 11 rfl rfl)
theorem dX0_needed_80 : decode cX0_needed 80 = .ok (.iinc 2 1, 3) := dk_132 2 1 (dk_at dksX0_needed_3 12 rfl rfl)
theorem dX0_needed_83 : decode cX0_needed 83 = .ok (.goto (-66), 3) := dk_167 255 190 (dk_at dksX0_needed_3 15 rfl rfl)
theorem dX0_needed_86 : decode cX0_needed 86 = .ok (.iload_n 1, 1) := dk_27 (dk_at dksX0_needed_3 18 rfl rfl)
theorem dX0_needed_87 : decode cX0_needed 87 = .ok (.ireturn, 1) := dk_172 (dk_at dksX0_needed_3 19 rfl rfl)
abbrev cX0_spine : ByteArray := prog_1_method_49_code
def yX0_spine : MethodName := ⟨RX0, "spine", "()I"⟩
def dkwX0_spine_6 : List UInt8 := [167, 0, 4, 27, 60, 28, 21, 4, 184, 0, 129, 61, 132, 3, 1, 167, 255, 120, 27, 172]
abbrev dktX0_spine_6 : List UInt8 := dkwX0_spine_6 ++ []
def dkwX0_spine_5 : List UInt8 := [182, 0, 182, 167, 0, 4, 3, 96, 54, 4, 132, 5, 1, 167, 255, 216, 21, 4, 28, 164, 0, 7, 29]
abbrev dktX0_spine_5 : List UInt8 := dkwX0_spine_5 ++ dktX0_spine_6
def dkwX0_spine_4 : List UInt8 := [180, 0, 64, 180, 0, 113, 162, 0, 34, 21, 4, 29, 21, 5, 122, 4, 126, 4, 160, 0, 12, 42, 21, 5]
abbrev dktX0_spine_4 : List UInt8 := dkwX0_spine_4 ++ dktX0_spine_5
def dkwX0_spine_3 : List UInt8 := [180, 0, 64, 180, 0, 120, 184, 0, 175, 159, 0, 6, 167, 0, 71, 3, 54, 4, 3, 54, 5, 21, 5, 42]
abbrev dktX0_spine_3 : List UInt8 := dkwX0_spine_3 ++ dktX0_spine_4
def dkwX0_spine_2 : List UInt8 := [29, 184, 1, 38, 42, 180, 0, 64, 180, 0, 120, 160, 0, 95, 42, 180, 0, 64, 29, 182, 0, 172, 42]
abbrev dktX0_spine_2 : List UInt8 := dkwX0_spine_2 ++ dktX0_spine_3
def dkwX0_spine_1 : List UInt8 := [180, 0, 64, 180, 0, 113, 120, 162, 0, 129, 29, 42, 180, 0, 64, 182, 0, 168, 2, 130, 126, 154, 0, 109]
abbrev dktX0_spine_1 : List UInt8 := dkwX0_spine_1 ++ dktX0_spine_2
def dkwX0_spine_0 : List UInt8 := [42, 182, 0, 178, 154, 0, 9, 42, 6, 182, 0, 217, 172, 2, 60, 3, 61, 3, 62, 29, 4, 42]
abbrev dktX0_spine_0 : List UInt8 := dkwX0_spine_0 ++ dktX0_spine_1
theorem dksX0_spine_0 : cX0_spine.data.toList.drop 0 = dktX0_spine_0 := by decide +kernel
theorem dksX0_spine_1 : cX0_spine.data.toList.drop 22 = dktX0_spine_1 := dk_seg dksX0_spine_0 22 rfl rfl
theorem dksX0_spine_2 : cX0_spine.data.toList.drop 46 = dktX0_spine_2 := dk_seg dksX0_spine_1 24 rfl rfl
theorem dksX0_spine_3 : cX0_spine.data.toList.drop 69 = dktX0_spine_3 := dk_seg dksX0_spine_2 23 rfl rfl
theorem dksX0_spine_4 : cX0_spine.data.toList.drop 93 = dktX0_spine_4 := dk_seg dksX0_spine_3 24 rfl rfl
theorem dksX0_spine_5 : cX0_spine.data.toList.drop 117 = dktX0_spine_5 := dk_seg dksX0_spine_4 24 rfl rfl
theorem dksX0_spine_6 : cX0_spine.data.toList.drop 140 = dktX0_spine_6 := dk_seg dksX0_spine_5 23 rfl rfl
theorem dX0_spine_0 : decode cX0_spine 0 = .ok (.aload_n 0, 1) := dk_42 (dk_at dksX0_spine_0 0 rfl rfl)
theorem dX0_spine_1 : decode cX0_spine 1 = .ok (.invokevirtual 178, 3) := dk_182 0 178 (dk_at dksX0_spine_0 1 rfl rfl)
theorem dX0_spine_4 : decode cX0_spine 4 = .ok (.ifCond .ne 9, 3) := dk_154 0 9 (dk_at dksX0_spine_0 4 rfl rfl)
theorem dX0_spine_7 : decode cX0_spine 7 = .ok (.aload_n 0, 1) := dk_42 (dk_at dksX0_spine_0 7 rfl rfl)
theorem dX0_spine_8 : decode cX0_spine 8 = .ok (.iconst 3, 1) := dk_6 (dk_at dksX0_spine_0 8 rfl rfl)
theorem dX0_spine_9 : decode cX0_spine 9 = .ok (.invokevirtual 217, 3) := dk_182 0 217 (dk_at dksX0_spine_0 9 rfl rfl)
theorem dX0_spine_12 : decode cX0_spine 12 = .ok (.ireturn, 1) := dk_172 (dk_at dksX0_spine_0 12 rfl rfl)
theorem dX0_spine_13 : decode cX0_spine 13 = .ok (.iconst (-1), 1) := dk_2 (dk_at dksX0_spine_0 13 rfl rfl)
theorem dX0_spine_14 : decode cX0_spine 14 = .ok (.istore_n 1, 1) := dk_60 (dk_at dksX0_spine_0 14 rfl rfl)
theorem dX0_spine_15 : decode cX0_spine 15 = .ok (.iconst 0, 1) := dk_3 (dk_at dksX0_spine_0 15 rfl rfl)
theorem dX0_spine_16 : decode cX0_spine 16 = .ok (.istore_n 2, 1) := dk_61 (dk_at dksX0_spine_0 16 rfl rfl)
theorem dX0_spine_17 : decode cX0_spine 17 = .ok (.iconst 0, 1) := dk_3 (dk_at dksX0_spine_0 17 rfl rfl)
theorem dX0_spine_18 : decode cX0_spine 18 = .ok (.istore_n 3, 1) := dk_62 (dk_at dksX0_spine_0 18 rfl rfl)
theorem dX0_spine_19 : decode cX0_spine 19 = .ok (.iload_n 3, 1) := dk_29 (dk_at dksX0_spine_0 19 rfl rfl)
theorem dX0_spine_20 : decode cX0_spine 20 = .ok (.iconst 1, 1) := dk_4 (dk_at dksX0_spine_0 20 rfl rfl)
theorem dX0_spine_21 : decode cX0_spine 21 = .ok (.aload_n 0, 1) := dk_42 (dk_at dksX0_spine_0 21 rfl rfl)
theorem dX0_spine_22 : decode cX0_spine 22 = .ok (.getfield 64, 3) := dk_180 0 64 (dk_at dksX0_spine_1 0 rfl rfl)
theorem dX0_spine_25 : decode cX0_spine 25 = .ok (.getfield 113, 3) := dk_180 0 113 (dk_at dksX0_spine_1 3 rfl rfl)
theorem dX0_spine_28 : decode cX0_spine 28 = .ok (.ishl, 1) := dk_120 (dk_at dksX0_spine_1 6 rfl rfl)
theorem dX0_spine_29 : decode cX0_spine 29 = .ok (.if_icmp .ge 129, 3) := dk_162 0 129 (dk_at dksX0_spine_1 7 rfl rfl)
theorem dX0_spine_32 : decode cX0_spine 32 = .ok (.iload_n 3, 1) := dk_29 (dk_at dksX0_spine_1 10 rfl rfl)
theorem dX0_spine_33 : decode cX0_spine 33 = .ok (.aload_n 0, 1) := dk_42 (dk_at dksX0_spine_1 11 rfl rfl)
theorem dX0_spine_34 : decode cX0_spine 34 = .ok (.getfield 64, 3) := dk_180 0 64 (dk_at dksX0_spine_1 12 rfl rfl)
theorem dX0_spine_37 : decode cX0_spine 37 = .ok (.invokevirtual 168, 3) := dk_182 0 168 (dk_at dksX0_spine_1 15 rfl rfl)
theorem dX0_spine_40 : decode cX0_spine 40 = .ok (.iconst (-1), 1) := dk_2 (dk_at dksX0_spine_1 18 rfl rfl)
theorem dX0_spine_41 : decode cX0_spine 41 = .ok (.ixor, 1) := dk_130 (dk_at dksX0_spine_1 19 rfl rfl)
theorem dX0_spine_42 : decode cX0_spine 42 = .ok (.iand, 1) := dk_126 (dk_at dksX0_spine_1 20 rfl rfl)
theorem dX0_spine_43 : decode cX0_spine 43 = .ok (.ifCond .ne 109, 3) := dk_154 0 109 (dk_at dksX0_spine_1 21 rfl rfl)
theorem dX0_spine_46 : decode cX0_spine 46 = .ok (.iload_n 3, 1) := dk_29 (dk_at dksX0_spine_2 0 rfl rfl)
theorem dX0_spine_47 : decode cX0_spine 47 = .ok (.invokestatic 294, 3) := dk_184 1 38 (dk_at dksX0_spine_2 1 rfl rfl)
theorem dX0_spine_50 : decode cX0_spine 50 = .ok (.aload_n 0, 1) := dk_42 (dk_at dksX0_spine_2 4 rfl rfl)
theorem dX0_spine_51 : decode cX0_spine 51 = .ok (.getfield 64, 3) := dk_180 0 64 (dk_at dksX0_spine_2 5 rfl rfl)
theorem dX0_spine_54 : decode cX0_spine 54 = .ok (.getfield 120, 3) := dk_180 0 120 (dk_at dksX0_spine_2 8 rfl rfl)
theorem dX0_spine_57 : decode cX0_spine 57 = .ok (.if_icmp .ne 95, 3) := dk_160 0 95 (dk_at dksX0_spine_2 11 rfl rfl)
theorem dX0_spine_60 : decode cX0_spine 60 = .ok (.aload_n 0, 1) := dk_42 (dk_at dksX0_spine_2 14 rfl rfl)
theorem dX0_spine_61 : decode cX0_spine 61 = .ok (.getfield 64, 3) := dk_180 0 64 (dk_at dksX0_spine_2 15 rfl rfl)
theorem dX0_spine_64 : decode cX0_spine 64 = .ok (.iload_n 3, 1) := dk_29 (dk_at dksX0_spine_2 18 rfl rfl)
theorem dX0_spine_65 : decode cX0_spine 65 = .ok (.invokevirtual 172, 3) := dk_182 0 172 (dk_at dksX0_spine_2 19 rfl rfl)
theorem dX0_spine_68 : decode cX0_spine 68 = .ok (.aload_n 0, 1) := dk_42 (dk_at dksX0_spine_2 22 rfl rfl)
theorem dX0_spine_69 : decode cX0_spine 69 = .ok (.getfield 64, 3) := dk_180 0 64 (dk_at dksX0_spine_3 0 rfl rfl)
theorem dX0_spine_72 : decode cX0_spine 72 = .ok (.getfield 120, 3) := dk_180 0 120 (dk_at dksX0_spine_3 3 rfl rfl)
theorem dX0_spine_75 : decode cX0_spine 75 = .ok (.invokestatic 175, 3) := dk_184 0 175 (dk_at dksX0_spine_3 6 rfl rfl)
theorem dX0_spine_78 : decode cX0_spine 78 = .ok (.if_icmp .eq 6, 3) := dk_159 0 6 (dk_at dksX0_spine_3 9 rfl rfl)
theorem dX0_spine_81 : decode cX0_spine 81 = .ok (.goto 71, 3) := dk_167 0 71 (dk_at dksX0_spine_3 12 rfl rfl)
theorem dX0_spine_84 : decode cX0_spine 84 = .ok (.iconst 0, 1) := dk_3 (dk_at dksX0_spine_3 15 rfl rfl)
theorem dX0_spine_85 : decode cX0_spine 85 = .ok (.istore 4, 2) := dk_54 4 (dk_at dksX0_spine_3 16 rfl rfl)
theorem dX0_spine_87 : decode cX0_spine 87 = .ok (.iconst 0, 1) := dk_3 (dk_at dksX0_spine_3 18 rfl rfl)
theorem dX0_spine_88 : decode cX0_spine 88 = .ok (.istore 5, 2) := dk_54 5 (dk_at dksX0_spine_3 19 rfl rfl)
theorem dX0_spine_90 : decode cX0_spine 90 = .ok (.iload 5, 2) := dk_21 5 (dk_at dksX0_spine_3 21 rfl rfl)
theorem dX0_spine_92 : decode cX0_spine 92 = .ok (.aload_n 0, 1) := dk_42 (dk_at dksX0_spine_3 23 rfl rfl)
theorem dX0_spine_93 : decode cX0_spine 93 = .ok (.getfield 64, 3) := dk_180 0 64 (dk_at dksX0_spine_4 0 rfl rfl)
theorem dX0_spine_96 : decode cX0_spine 96 = .ok (.getfield 113, 3) := dk_180 0 113 (dk_at dksX0_spine_4 3 rfl rfl)
theorem dX0_spine_99 : decode cX0_spine 99 = .ok (.if_icmp .ge 34, 3) := dk_162 0 34 (dk_at dksX0_spine_4 6 rfl rfl)
theorem dX0_spine_102 : decode cX0_spine 102 = .ok (.iload 4, 2) := dk_21 4 (dk_at dksX0_spine_4 9 rfl rfl)
theorem dX0_spine_104 : decode cX0_spine 104 = .ok (.iload_n 3, 1) := dk_29 (dk_at dksX0_spine_4 11 rfl rfl)
theorem dX0_spine_105 : decode cX0_spine 105 = .ok (.iload 5, 2) := dk_21 5 (dk_at dksX0_spine_4 12 rfl rfl)
theorem dX0_spine_107 : decode cX0_spine 107 = .ok (.ishr, 1) := dk_122 (dk_at dksX0_spine_4 14 rfl rfl)
theorem dX0_spine_108 : decode cX0_spine 108 = .ok (.iconst 1, 1) := dk_4 (dk_at dksX0_spine_4 15 rfl rfl)
theorem dX0_spine_109 : decode cX0_spine 109 = .ok (.iand, 1) := dk_126 (dk_at dksX0_spine_4 16 rfl rfl)
theorem dX0_spine_110 : decode cX0_spine 110 = .ok (.iconst 1, 1) := dk_4 (dk_at dksX0_spine_4 17 rfl rfl)
theorem dX0_spine_111 : decode cX0_spine 111 = .ok (.if_icmp .ne 12, 3) := dk_160 0 12 (dk_at dksX0_spine_4 18 rfl rfl)
theorem dX0_spine_114 : decode cX0_spine 114 = .ok (.aload_n 0, 1) := dk_42 (dk_at dksX0_spine_4 21 rfl rfl)
theorem dX0_spine_115 : decode cX0_spine 115 = .ok (.iload 5, 2) := dk_21 5 (dk_at dksX0_spine_4 22 rfl rfl)
theorem dX0_spine_117 : decode cX0_spine 117 = .ok (.invokevirtual 182, 3) := dk_182 0 182 (dk_at dksX0_spine_5 0 rfl rfl)
theorem dX0_spine_120 : decode cX0_spine 120 = .ok (.goto 4, 3) := dk_167 0 4 (dk_at dksX0_spine_5 3 rfl rfl)
theorem dX0_spine_123 : decode cX0_spine 123 = .ok (.iconst 0, 1) := dk_3 (dk_at dksX0_spine_5 6 rfl rfl)
theorem dX0_spine_124 : decode cX0_spine 124 = .ok (.iadd, 1) := dk_96 (dk_at dksX0_spine_5 7 rfl rfl)
theorem dX0_spine_125 : decode cX0_spine 125 = .ok (.istore 4, 2) := dk_54 4 (dk_at dksX0_spine_5 8 rfl rfl)
theorem dX0_spine_127 : decode cX0_spine 127 = .ok (.iinc 5 1, 3) := dk_132 5 1 (dk_at dksX0_spine_5 10 rfl rfl)
theorem dX0_spine_130 : decode cX0_spine 130 = .ok (.goto (-40), 3) := dk_167 255 216 (dk_at dksX0_spine_5 13 rfl rfl)
theorem dX0_spine_133 : decode cX0_spine 133 = .ok (.iload 4, 2) := dk_21 4 (dk_at dksX0_spine_5 16 rfl rfl)
theorem dX0_spine_135 : decode cX0_spine 135 = .ok (.iload_n 2, 1) := dk_28 (dk_at dksX0_spine_5 18 rfl rfl)
theorem dX0_spine_136 : decode cX0_spine 136 = .ok (.if_icmp .le 7, 3) := dk_164 0 7 (dk_at dksX0_spine_5 19 rfl rfl)
theorem dX0_spine_139 : decode cX0_spine 139 = .ok (.iload_n 3, 1) := dk_29 (dk_at dksX0_spine_5 22 rfl rfl)
theorem dX0_spine_140 : decode cX0_spine 140 = .ok (.goto 4, 3) := dk_167 0 4 (dk_at dksX0_spine_6 0 rfl rfl)
theorem dX0_spine_143 : decode cX0_spine 143 = .ok (.iload_n 1, 1) := dk_27 (dk_at dksX0_spine_6 3 rfl rfl)
theorem dX0_spine_144 : decode cX0_spine 144 = .ok (.istore_n 1, 1) := dk_60 (dk_at dksX0_spine_6 4 rfl rfl)
theorem dX0_spine_145 : decode cX0_spine 145 = .ok (.iload_n 2, 1) := dk_28 (dk_at dksX0_spine_6 5 rfl rfl)
theorem dX0_spine_146 : decode cX0_spine 146 = .ok (.iload 4, 2) := dk_21 4 (dk_at dksX0_spine_6 6 rfl rfl)
theorem dX0_spine_148 : decode cX0_spine 148 = .ok (.invokestatic 129, 3) := dk_184 0 129 (dk_at dksX0_spine_6 8 rfl rfl)
theorem dX0_spine_151 : decode cX0_spine 151 = .ok (.istore_n 2, 1) := dk_61 (dk_at dksX0_spine_6 11 rfl rfl)
theorem dX0_spine_152 : decode cX0_spine 152 = .ok (.iinc 3 1, 3) := dk_132 3 1 (dk_at dksX0_spine_6 12 rfl rfl)
theorem dX0_spine_155 : decode cX0_spine 155 = .ok (.goto (-136), 3) := dk_167 255 120 (dk_at dksX0_spine_6 15 rfl rfl)
theorem dX0_spine_158 : decode cX0_spine 158 = .ok (.iload_n 1, 1) := dk_27 (dk_at dksX0_spine_6 18 rfl rfl)
theorem dX0_spine_159 : decode cX0_spine 159 = .ok (.ireturn, 1) := dk_172 (dk_at dksX0_spine_6 19 rfl rfl)
abbrev cX0_then : ByteArray := prog_1_method_50_code
def yX0_then : MethodName := ⟨RX0, "then", "(II)I"⟩
def dkwX0_then_5 : List UInt8 := [182, 1, 57, 25, 4, 191]
abbrev dktX0_then_5 : List UInt8 := dkwX0_then_5 ++ []
def dkwX0_then_4 : List UInt8 := [180, 0, 64, 42, 180, 0, 71, 182, 1, 57, 29, 172, 58, 4, 42, 180, 0, 64, 42, 180, 0, 71]
abbrev dktX0_then_4 : List UInt8 := dkwX0_then_4 ++ dktX0_then_5
def dkwX0_then_3 : List UInt8 := [4, 160, 0, 13, 42, 180, 0, 64, 182, 0, 168, 167, 0, 10, 42, 180, 0, 64, 180, 1, 29, 62, 42]
abbrev dktX0_then_3 : List UInt8 := dkwX0_then_3 ++ dktX0_then_4
def dkwX0_then_2 : List UInt8 := [132, 3, 1, 167, 255, 244, 28, 154, 0, 16, 42, 180, 0, 64, 182, 0, 168, 184, 1, 38, 167, 0, 25, 28]
abbrev dktX0_then_2 : List UInt8 := dkwX0_then_2 ++ dktX0_then_3
def dkwX0_then_1 : List UInt8 := [172, 42, 180, 0, 71, 42, 180, 0, 64, 182, 1, 57, 3, 62, 29, 27, 162, 0, 13, 42, 182, 1, 35]
abbrev dktX0_then_1 : List UInt8 := dkwX0_then_1 ++ dktX0_then_2
def dkwX0_then_0 : List UInt8 := [27, 3, 16, 60, 184, 0, 116, 153, 0, 12, 28, 3, 5, 184, 0, 116, 154, 0, 9, 42, 4, 182, 0, 217]
abbrev dktX0_then_0 : List UInt8 := dkwX0_then_0 ++ dktX0_then_1
theorem dksX0_then_0 : cX0_then.data.toList.drop 0 = dktX0_then_0 := by decide +kernel
theorem dksX0_then_1 : cX0_then.data.toList.drop 24 = dktX0_then_1 := dk_seg dksX0_then_0 24 rfl rfl
theorem dksX0_then_2 : cX0_then.data.toList.drop 47 = dktX0_then_2 := dk_seg dksX0_then_1 23 rfl rfl
theorem dksX0_then_3 : cX0_then.data.toList.drop 71 = dktX0_then_3 := dk_seg dksX0_then_2 24 rfl rfl
theorem dksX0_then_4 : cX0_then.data.toList.drop 94 = dktX0_then_4 := dk_seg dksX0_then_3 23 rfl rfl
theorem dksX0_then_5 : cX0_then.data.toList.drop 116 = dktX0_then_5 := dk_seg dksX0_then_4 22 rfl rfl
theorem dX0_then_0 : decode cX0_then 0 = .ok (.iload_n 1, 1) := dk_27 (dk_at dksX0_then_0 0 rfl rfl)
theorem dX0_then_1 : decode cX0_then 1 = .ok (.iconst 0, 1) := dk_3 (dk_at dksX0_then_0 1 rfl rfl)
theorem dX0_then_2 : decode cX0_then 2 = .ok (.bipush 60, 2) := dk_16 60 (dk_at dksX0_then_0 2 rfl rfl)
theorem dX0_then_4 : decode cX0_then 4 = .ok (.invokestatic 116, 3) := dk_184 0 116 (dk_at dksX0_then_0 4 rfl rfl)
theorem dX0_then_7 : decode cX0_then 7 = .ok (.ifCond .eq 12, 3) := dk_153 0 12 (dk_at dksX0_then_0 7 rfl rfl)
theorem dX0_then_10 : decode cX0_then 10 = .ok (.iload_n 2, 1) := dk_28 (dk_at dksX0_then_0 10 rfl rfl)
theorem dX0_then_11 : decode cX0_then 11 = .ok (.iconst 0, 1) := dk_3 (dk_at dksX0_then_0 11 rfl rfl)
theorem dX0_then_12 : decode cX0_then 12 = .ok (.iconst 2, 1) := dk_5 (dk_at dksX0_then_0 12 rfl rfl)
theorem dX0_then_13 : decode cX0_then 13 = .ok (.invokestatic 116, 3) := dk_184 0 116 (dk_at dksX0_then_0 13 rfl rfl)
theorem dX0_then_16 : decode cX0_then 16 = .ok (.ifCond .ne 9, 3) := dk_154 0 9 (dk_at dksX0_then_0 16 rfl rfl)
theorem dX0_then_19 : decode cX0_then 19 = .ok (.aload_n 0, 1) := dk_42 (dk_at dksX0_then_0 19 rfl rfl)
theorem dX0_then_20 : decode cX0_then 20 = .ok (.iconst 1, 1) := dk_4 (dk_at dksX0_then_0 20 rfl rfl)
theorem dX0_then_21 : decode cX0_then 21 = .ok (.invokevirtual 217, 3) := dk_182 0 217 (dk_at dksX0_then_0 21 rfl rfl)
theorem dX0_then_24 : decode cX0_then 24 = .ok (.ireturn, 1) := dk_172 (dk_at dksX0_then_1 0 rfl rfl)
theorem dX0_then_25 : decode cX0_then 25 = .ok (.aload_n 0, 1) := dk_42 (dk_at dksX0_then_1 1 rfl rfl)
theorem dX0_then_26 : decode cX0_then 26 = .ok (.getfield 71, 3) := dk_180 0 71 (dk_at dksX0_then_1 2 rfl rfl)
theorem dX0_then_29 : decode cX0_then 29 = .ok (.aload_n 0, 1) := dk_42 (dk_at dksX0_then_1 5 rfl rfl)
theorem dX0_then_30 : decode cX0_then 30 = .ok (.getfield 64, 3) := dk_180 0 64 (dk_at dksX0_then_1 6 rfl rfl)
theorem dX0_then_33 : decode cX0_then 33 = .ok (.invokevirtual 313, 3) := dk_182 1 57 (dk_at dksX0_then_1 9 rfl rfl)
theorem dX0_then_36 : decode cX0_then 36 = .ok (.iconst 0, 1) := dk_3 (dk_at dksX0_then_1 12 rfl rfl)
theorem dX0_then_37 : decode cX0_then 37 = .ok (.istore_n 3, 1) := dk_62 (dk_at dksX0_then_1 13 rfl rfl)
theorem dX0_then_38 : decode cX0_then 38 = .ok (.iload_n 3, 1) := dk_29 (dk_at dksX0_then_1 14 rfl rfl)
theorem dX0_then_39 : decode cX0_then 39 = .ok (.iload_n 1, 1) := dk_27 (dk_at dksX0_then_1 15 rfl rfl)
theorem dX0_then_40 : decode cX0_then 40 = .ok (.if_icmp .ge 13, 3) := dk_162 0 13 (dk_at dksX0_then_1 16 rfl rfl)
theorem dX0_then_43 : decode cX0_then 43 = .ok (.aload_n 0, 1) := dk_42 (dk_at dksX0_then_1 19 rfl rfl)
theorem dX0_then_44 : decode cX0_then 44 = .ok (.invokevirtual 291, 3) := dk_182 1 35 (dk_at dksX0_then_1 20 rfl rfl)
theorem dX0_then_47 : decode cX0_then 47 = .ok (.iinc 3 1, 3) := dk_132 3 1 (dk_at dksX0_then_2 0 rfl rfl)
theorem dX0_then_50 : decode cX0_then 50 = .ok (.goto (-12), 3) := dk_167 255 244 (dk_at dksX0_then_2 3 rfl rfl)
theorem dX0_then_53 : decode cX0_then 53 = .ok (.iload_n 2, 1) := dk_28 (dk_at dksX0_then_2 6 rfl rfl)
theorem dX0_then_54 : decode cX0_then 54 = .ok (.ifCond .ne 16, 3) := dk_154 0 16 (dk_at dksX0_then_2 7 rfl rfl)
theorem dX0_then_57 : decode cX0_then 57 = .ok (.aload_n 0, 1) := dk_42 (dk_at dksX0_then_2 10 rfl rfl)
theorem dX0_then_58 : decode cX0_then 58 = .ok (.getfield 64, 3) := dk_180 0 64 (dk_at dksX0_then_2 11 rfl rfl)
theorem dX0_then_61 : decode cX0_then 61 = .ok (.invokevirtual 168, 3) := dk_182 0 168 (dk_at dksX0_then_2 14 rfl rfl)
theorem dX0_then_64 : decode cX0_then 64 = .ok (.invokestatic 294, 3) := dk_184 1 38 (dk_at dksX0_then_2 17 rfl rfl)
theorem dX0_then_67 : decode cX0_then 67 = .ok (.goto 25, 3) := dk_167 0 25 (dk_at dksX0_then_2 20 rfl rfl)
theorem dX0_then_70 : decode cX0_then 70 = .ok (.iload_n 2, 1) := dk_28 (dk_at dksX0_then_2 23 rfl rfl)
theorem dX0_then_71 : decode cX0_then 71 = .ok (.iconst 1, 1) := dk_4 (dk_at dksX0_then_3 0 rfl rfl)
theorem dX0_then_72 : decode cX0_then 72 = .ok (.if_icmp .ne 13, 3) := dk_160 0 13 (dk_at dksX0_then_3 1 rfl rfl)
theorem dX0_then_75 : decode cX0_then 75 = .ok (.aload_n 0, 1) := dk_42 (dk_at dksX0_then_3 4 rfl rfl)
theorem dX0_then_76 : decode cX0_then 76 = .ok (.getfield 64, 3) := dk_180 0 64 (dk_at dksX0_then_3 5 rfl rfl)
theorem dX0_then_79 : decode cX0_then 79 = .ok (.invokevirtual 168, 3) := dk_182 0 168 (dk_at dksX0_then_3 8 rfl rfl)
theorem dX0_then_82 : decode cX0_then 82 = .ok (.goto 10, 3) := dk_167 0 10 (dk_at dksX0_then_3 11 rfl rfl)
theorem dX0_then_85 : decode cX0_then 85 = .ok (.aload_n 0, 1) := dk_42 (dk_at dksX0_then_3 14 rfl rfl)
theorem dX0_then_86 : decode cX0_then 86 = .ok (.getfield 64, 3) := dk_180 0 64 (dk_at dksX0_then_3 15 rfl rfl)
theorem dX0_then_89 : decode cX0_then 89 = .ok (.getfield 285, 3) := dk_180 1 29 (dk_at dksX0_then_3 18 rfl rfl)
theorem dX0_then_92 : decode cX0_then 92 = .ok (.istore_n 3, 1) := dk_62 (dk_at dksX0_then_3 21 rfl rfl)
theorem dX0_then_93 : decode cX0_then 93 = .ok (.aload_n 0, 1) := dk_42 (dk_at dksX0_then_3 22 rfl rfl)
theorem dX0_then_94 : decode cX0_then 94 = .ok (.getfield 64, 3) := dk_180 0 64 (dk_at dksX0_then_4 0 rfl rfl)
theorem dX0_then_97 : decode cX0_then 97 = .ok (.aload_n 0, 1) := dk_42 (dk_at dksX0_then_4 3 rfl rfl)
theorem dX0_then_98 : decode cX0_then 98 = .ok (.getfield 71, 3) := dk_180 0 71 (dk_at dksX0_then_4 4 rfl rfl)
theorem dX0_then_101 : decode cX0_then 101 = .ok (.invokevirtual 313, 3) := dk_182 1 57 (dk_at dksX0_then_4 7 rfl rfl)
theorem dX0_then_104 : decode cX0_then 104 = .ok (.iload_n 3, 1) := dk_29 (dk_at dksX0_then_4 10 rfl rfl)
theorem dX0_then_105 : decode cX0_then 105 = .ok (.ireturn, 1) := dk_172 (dk_at dksX0_then_4 11 rfl rfl)
theorem dX0_then_106 : decode cX0_then 106 = .ok (.astore 4, 2) := dk_58 4 (dk_at dksX0_then_4 12 rfl rfl)
theorem dX0_then_108 : decode cX0_then 108 = .ok (.aload_n 0, 1) := dk_42 (dk_at dksX0_then_4 14 rfl rfl)
theorem dX0_then_109 : decode cX0_then 109 = .ok (.getfield 64, 3) := dk_180 0 64 (dk_at dksX0_then_4 15 rfl rfl)
theorem dX0_then_112 : decode cX0_then 112 = .ok (.aload_n 0, 1) := dk_42 (dk_at dksX0_then_4 18 rfl rfl)
theorem dX0_then_113 : decode cX0_then 113 = .ok (.getfield 71, 3) := dk_180 0 71 (dk_at dksX0_then_4 19 rfl rfl)
theorem dX0_then_116 : decode cX0_then 116 = .ok (.invokevirtual 313, 3) := dk_182 1 57 (dk_at dksX0_then_5 0 rfl rfl)
theorem dX0_then_119 : decode cX0_then 119 = .ok (.aload 4, 2) := dk_25 4 (dk_at dksX0_then_5 3 rfl rfl)
theorem dX0_then_121 : decode cX0_then 121 = .ok (.athrow, 1) := dk_191 (dk_at dksX0_then_5 5 rfl rfl)
abbrev cX0_soonest : ByteArray := prog_1_method_51_code
def yX0_soonest : MethodName := ⟨RX0, "soonest", "(I)I"⟩
def dkwX0_soonest_4 : List UInt8 := [180, 0, 64, 42, 180, 0, 71, 182, 1, 57, 25, 4, 191]
abbrev dktX0_soonest_4 : List UInt8 := dkwX0_soonest_4 ++ []
def dkwX0_soonest_3 : List UInt8 := [42, 5, 182, 0, 217, 61, 42, 180, 0, 64, 42, 180, 0, 71, 182, 1, 57, 28, 172, 58, 4, 42]
abbrev dktX0_soonest_3 : List UInt8 := dkwX0_soonest_3 ++ dktX0_soonest_4
def dkwX0_soonest_2 : List UInt8 := [62, 42, 180, 0, 64, 42, 180, 0, 71, 182, 1, 57, 29, 172, 42, 182, 1, 35, 132, 2, 1, 167, 255, 216]
abbrev dktX0_soonest_2 : List UInt8 := dkwX0_soonest_2 ++ dktX0_soonest_3
def dkwX0_soonest_1 : List UInt8 := [182, 1, 57, 3, 61, 28, 16, 60, 163, 0, 40, 42, 180, 0, 64, 180, 0, 188, 27, 46, 154, 0, 18, 28]
abbrev dktX0_soonest_1 : List UInt8 := dkwX0_soonest_1 ++ dktX0_soonest_2
def dkwX0_soonest_0 : List UInt8 := [42, 27, 182, 0, 230, 154, 0, 9, 42, 4, 182, 0, 217, 172, 42, 180, 0, 71, 42, 180, 0, 64]
abbrev dktX0_soonest_0 : List UInt8 := dkwX0_soonest_0 ++ dktX0_soonest_1
theorem dksX0_soonest_0 : cX0_soonest.data.toList.drop 0 = dktX0_soonest_0 := by decide +kernel
theorem dksX0_soonest_1 : cX0_soonest.data.toList.drop 22 = dktX0_soonest_1 := dk_seg dksX0_soonest_0 22 rfl rfl
theorem dksX0_soonest_2 : cX0_soonest.data.toList.drop 46 = dktX0_soonest_2 := dk_seg dksX0_soonest_1 24 rfl rfl
theorem dksX0_soonest_3 : cX0_soonest.data.toList.drop 70 = dktX0_soonest_3 := dk_seg dksX0_soonest_2 24 rfl rfl
theorem dksX0_soonest_4 : cX0_soonest.data.toList.drop 92 = dktX0_soonest_4 := dk_seg dksX0_soonest_3 22 rfl rfl
theorem dX0_soonest_0 : decode cX0_soonest 0 = .ok (.aload_n 0, 1) := dk_42 (dk_at dksX0_soonest_0 0 rfl rfl)
theorem dX0_soonest_1 : decode cX0_soonest 1 = .ok (.iload_n 1, 1) := dk_27 (dk_at dksX0_soonest_0 1 rfl rfl)
theorem dX0_soonest_2 : decode cX0_soonest 2 = .ok (.invokevirtual 230, 3) := dk_182 0 230 (dk_at dksX0_soonest_0 2 rfl rfl)
theorem dX0_soonest_5 : decode cX0_soonest 5 = .ok (.ifCond .ne 9, 3) := dk_154 0 9 (dk_at dksX0_soonest_0 5 rfl rfl)
theorem dX0_soonest_8 : decode cX0_soonest 8 = .ok (.aload_n 0, 1) := dk_42 (dk_at dksX0_soonest_0 8 rfl rfl)
theorem dX0_soonest_9 : decode cX0_soonest 9 = .ok (.iconst 1, 1) := dk_4 (dk_at dksX0_soonest_0 9 rfl rfl)
theorem dX0_soonest_10 : decode cX0_soonest 10 = .ok (.invokevirtual 217, 3) := dk_182 0 217 (dk_at dksX0_soonest_0 10 rfl rfl)
theorem dX0_soonest_13 : decode cX0_soonest 13 = .ok (.ireturn, 1) := dk_172 (dk_at dksX0_soonest_0 13 rfl rfl)
theorem dX0_soonest_14 : decode cX0_soonest 14 = .ok (.aload_n 0, 1) := dk_42 (dk_at dksX0_soonest_0 14 rfl rfl)
theorem dX0_soonest_15 : decode cX0_soonest 15 = .ok (.getfield 71, 3) := dk_180 0 71 (dk_at dksX0_soonest_0 15 rfl rfl)
theorem dX0_soonest_18 : decode cX0_soonest 18 = .ok (.aload_n 0, 1) := dk_42 (dk_at dksX0_soonest_0 18 rfl rfl)
theorem dX0_soonest_19 : decode cX0_soonest 19 = .ok (.getfield 64, 3) := dk_180 0 64 (dk_at dksX0_soonest_0 19 rfl rfl)
theorem dX0_soonest_22 : decode cX0_soonest 22 = .ok (.invokevirtual 313, 3) := dk_182 1 57 (dk_at dksX0_soonest_1 0 rfl rfl)
theorem dX0_soonest_25 : decode cX0_soonest 25 = .ok (.iconst 0, 1) := dk_3 (dk_at dksX0_soonest_1 3 rfl rfl)
theorem dX0_soonest_26 : decode cX0_soonest 26 = .ok (.istore_n 2, 1) := dk_61 (dk_at dksX0_soonest_1 4 rfl rfl)
theorem dX0_soonest_27 : decode cX0_soonest 27 = .ok (.iload_n 2, 1) := dk_28 (dk_at dksX0_soonest_1 5 rfl rfl)
theorem dX0_soonest_28 : decode cX0_soonest 28 = .ok (.bipush 60, 2) := dk_16 60 (dk_at dksX0_soonest_1 6 rfl rfl)
theorem dX0_soonest_30 : decode cX0_soonest 30 = .ok (.if_icmp .gt 40, 3) := dk_163 0 40 (dk_at dksX0_soonest_1 8 rfl rfl)
theorem dX0_soonest_33 : decode cX0_soonest 33 = .ok (.aload_n 0, 1) := dk_42 (dk_at dksX0_soonest_1 11 rfl rfl)
theorem dX0_soonest_34 : decode cX0_soonest 34 = .ok (.getfield 64, 3) := dk_180 0 64 (dk_at dksX0_soonest_1 12 rfl rfl)
theorem dX0_soonest_37 : decode cX0_soonest 37 = .ok (.getfield 188, 3) := dk_180 0 188 (dk_at dksX0_soonest_1 15 rfl rfl)
theorem dX0_soonest_40 : decode cX0_soonest 40 = .ok (.iload_n 1, 1) := dk_27 (dk_at dksX0_soonest_1 18 rfl rfl)
theorem dX0_soonest_41 : decode cX0_soonest 41 = .ok (.iaload, 1) := dk_46 (dk_at dksX0_soonest_1 19 rfl rfl)
theorem dX0_soonest_42 : decode cX0_soonest 42 = .ok (.ifCond .ne 18, 3) := dk_154 0 18 (dk_at dksX0_soonest_1 20 rfl rfl)
theorem dX0_soonest_45 : decode cX0_soonest 45 = .ok (.iload_n 2, 1) := dk_28 (dk_at dksX0_soonest_1 23 rfl rfl)
theorem dX0_soonest_46 : decode cX0_soonest 46 = .ok (.istore_n 3, 1) := dk_62 (dk_at dksX0_soonest_2 0 rfl rfl)
theorem dX0_soonest_47 : decode cX0_soonest 47 = .ok (.aload_n 0, 1) := dk_42 (dk_at dksX0_soonest_2 1 rfl rfl)
theorem dX0_soonest_48 : decode cX0_soonest 48 = .ok (.getfield 64, 3) := dk_180 0 64 (dk_at dksX0_soonest_2 2 rfl rfl)
theorem dX0_soonest_51 : decode cX0_soonest 51 = .ok (.aload_n 0, 1) := dk_42 (dk_at dksX0_soonest_2 5 rfl rfl)
theorem dX0_soonest_52 : decode cX0_soonest 52 = .ok (.getfield 71, 3) := dk_180 0 71 (dk_at dksX0_soonest_2 6 rfl rfl)
theorem dX0_soonest_55 : decode cX0_soonest 55 = .ok (.invokevirtual 313, 3) := dk_182 1 57 (dk_at dksX0_soonest_2 9 rfl rfl)
theorem dX0_soonest_58 : decode cX0_soonest 58 = .ok (.iload_n 3, 1) := dk_29 (dk_at dksX0_soonest_2 12 rfl rfl)
theorem dX0_soonest_59 : decode cX0_soonest 59 = .ok (.ireturn, 1) := dk_172 (dk_at dksX0_soonest_2 13 rfl rfl)
theorem dX0_soonest_60 : decode cX0_soonest 60 = .ok (.aload_n 0, 1) := dk_42 (dk_at dksX0_soonest_2 14 rfl rfl)
theorem dX0_soonest_61 : decode cX0_soonest 61 = .ok (.invokevirtual 291, 3) := dk_182 1 35 (dk_at dksX0_soonest_2 15 rfl rfl)
theorem dX0_soonest_64 : decode cX0_soonest 64 = .ok (.iinc 2 1, 3) := dk_132 2 1 (dk_at dksX0_soonest_2 18 rfl rfl)
theorem dX0_soonest_67 : decode cX0_soonest 67 = .ok (.goto (-40), 3) := dk_167 255 216 (dk_at dksX0_soonest_2 21 rfl rfl)
theorem dX0_soonest_70 : decode cX0_soonest 70 = .ok (.aload_n 0, 1) := dk_42 (dk_at dksX0_soonest_3 0 rfl rfl)
theorem dX0_soonest_71 : decode cX0_soonest 71 = .ok (.iconst 2, 1) := dk_5 (dk_at dksX0_soonest_3 1 rfl rfl)
theorem dX0_soonest_72 : decode cX0_soonest 72 = .ok (.invokevirtual 217, 3) := dk_182 0 217 (dk_at dksX0_soonest_3 2 rfl rfl)
theorem dX0_soonest_75 : decode cX0_soonest 75 = .ok (.istore_n 2, 1) := dk_61 (dk_at dksX0_soonest_3 5 rfl rfl)
theorem dX0_soonest_76 : decode cX0_soonest 76 = .ok (.aload_n 0, 1) := dk_42 (dk_at dksX0_soonest_3 6 rfl rfl)
theorem dX0_soonest_77 : decode cX0_soonest 77 = .ok (.getfield 64, 3) := dk_180 0 64 (dk_at dksX0_soonest_3 7 rfl rfl)
theorem dX0_soonest_80 : decode cX0_soonest 80 = .ok (.aload_n 0, 1) := dk_42 (dk_at dksX0_soonest_3 10 rfl rfl)
theorem dX0_soonest_81 : decode cX0_soonest 81 = .ok (.getfield 71, 3) := dk_180 0 71 (dk_at dksX0_soonest_3 11 rfl rfl)
theorem dX0_soonest_84 : decode cX0_soonest 84 = .ok (.invokevirtual 313, 3) := dk_182 1 57 (dk_at dksX0_soonest_3 14 rfl rfl)
theorem dX0_soonest_87 : decode cX0_soonest 87 = .ok (.iload_n 2, 1) := dk_28 (dk_at dksX0_soonest_3 17 rfl rfl)
theorem dX0_soonest_88 : decode cX0_soonest 88 = .ok (.ireturn, 1) := dk_172 (dk_at dksX0_soonest_3 18 rfl rfl)
theorem dX0_soonest_89 : decode cX0_soonest 89 = .ok (.astore 4, 2) := dk_58 4 (dk_at dksX0_soonest_3 19 rfl rfl)
theorem dX0_soonest_91 : decode cX0_soonest 91 = .ok (.aload_n 0, 1) := dk_42 (dk_at dksX0_soonest_3 21 rfl rfl)
theorem dX0_soonest_92 : decode cX0_soonest 92 = .ok (.getfield 64, 3) := dk_180 0 64 (dk_at dksX0_soonest_4 0 rfl rfl)
theorem dX0_soonest_95 : decode cX0_soonest 95 = .ok (.aload_n 0, 1) := dk_42 (dk_at dksX0_soonest_4 3 rfl rfl)
theorem dX0_soonest_96 : decode cX0_soonest 96 = .ok (.getfield 71, 3) := dk_180 0 71 (dk_at dksX0_soonest_4 4 rfl rfl)
theorem dX0_soonest_99 : decode cX0_soonest 99 = .ok (.invokevirtual 313, 3) := dk_182 1 57 (dk_at dksX0_soonest_4 7 rfl rfl)
theorem dX0_soonest_102 : decode cX0_soonest 102 = .ok (.aload 4, 2) := dk_25 4 (dk_at dksX0_soonest_4 10 rfl rfl)
theorem dX0_soonest_104 : decode cX0_soonest 104 = .ok (.athrow, 1) := dk_191 (dk_at dksX0_soonest_4 12 rfl rfl)
abbrev cX0_limitFor : ByteArray := prog_1_method_52_code
def yX0_limitFor : MethodName := ⟨RX0, "limitFor", "(I)I"⟩
def dkwX0_limitFor_6 : List UInt8 := [182, 1, 57, 25, 4, 191]
abbrev dktX0_limitFor_6 : List UInt8 := dkwX0_limitFor_6 ++ []
def dkwX0_limitFor_5 : List UInt8 := [180, 0, 64, 42, 180, 0, 71, 182, 1, 57, 28, 172, 58, 4, 42, 180, 0, 64, 42, 180, 0, 71]
abbrev dktX0_limitFor_5 : List UInt8 := dkwX0_limitFor_5 ++ dktX0_limitFor_6
def dkwX0_limitFor_4 : List UInt8 := [180, 0, 64, 42, 180, 0, 71, 182, 1, 57, 132, 2, 1, 167, 255, 179, 42, 5, 182, 0, 217, 61, 42]
abbrev dktX0_limitFor_4 : List UInt8 := dkwX0_limitFor_4 ++ dktX0_limitFor_5
def dkwX0_limitFor_3 : List UInt8 := [182, 0, 168, 160, 0, 18, 28, 62, 42, 180, 0, 64, 42, 180, 0, 71, 182, 1, 57, 29, 172, 42]
abbrev dktX0_limitFor_3 : List UInt8 := dkwX0_limitFor_3 ++ dktX0_limitFor_4
def dkwX0_limitFor_2 : List UInt8 := [162, 0, 13, 42, 182, 1, 35, 132, 3, 1, 167, 255, 244, 42, 180, 0, 64, 182, 0, 168, 42, 180, 0, 71]
abbrev dktX0_limitFor_2 : List UInt8 := dkwX0_limitFor_2 ++ dktX0_limitFor_3
def dkwX0_limitFor_1 : List UInt8 := [182, 1, 57, 3, 61, 28, 16, 99, 163, 0, 77, 42, 180, 0, 64, 28, 181, 0, 243, 3, 62, 29, 27]
abbrev dktX0_limitFor_1 : List UInt8 := dkwX0_limitFor_1 ++ dktX0_limitFor_2
def dkwX0_limitFor_0 : List UInt8 := [27, 3, 16, 40, 184, 0, 116, 154, 0, 9, 42, 4, 182, 0, 217, 172, 42, 180, 0, 71, 42, 180, 0, 64]
abbrev dktX0_limitFor_0 : List UInt8 := dkwX0_limitFor_0 ++ dktX0_limitFor_1
theorem dksX0_limitFor_0 : cX0_limitFor.data.toList.drop 0 = dktX0_limitFor_0 := by decide +kernel
theorem dksX0_limitFor_1 : cX0_limitFor.data.toList.drop 24 = dktX0_limitFor_1 := dk_seg dksX0_limitFor_0 24 rfl rfl
theorem dksX0_limitFor_2 : cX0_limitFor.data.toList.drop 47 = dktX0_limitFor_2 := dk_seg dksX0_limitFor_1 23 rfl rfl
theorem dksX0_limitFor_3 : cX0_limitFor.data.toList.drop 71 = dktX0_limitFor_3 := dk_seg dksX0_limitFor_2 24 rfl rfl
theorem dksX0_limitFor_4 : cX0_limitFor.data.toList.drop 93 = dktX0_limitFor_4 := dk_seg dksX0_limitFor_3 22 rfl rfl
theorem dksX0_limitFor_5 : cX0_limitFor.data.toList.drop 116 = dktX0_limitFor_5 := dk_seg dksX0_limitFor_4 23 rfl rfl
theorem dksX0_limitFor_6 : cX0_limitFor.data.toList.drop 138 = dktX0_limitFor_6 := dk_seg dksX0_limitFor_5 22 rfl rfl
theorem dX0_limitFor_0 : decode cX0_limitFor 0 = .ok (.iload_n 1, 1) := dk_27 (dk_at dksX0_limitFor_0 0 rfl rfl)
theorem dX0_limitFor_1 : decode cX0_limitFor 1 = .ok (.iconst 0, 1) := dk_3 (dk_at dksX0_limitFor_0 1 rfl rfl)
theorem dX0_limitFor_2 : decode cX0_limitFor 2 = .ok (.bipush 40, 2) := dk_16 40 (dk_at dksX0_limitFor_0 2 rfl rfl)
theorem dX0_limitFor_4 : decode cX0_limitFor 4 = .ok (.invokestatic 116, 3) := dk_184 0 116 (dk_at dksX0_limitFor_0 4 rfl rfl)
theorem dX0_limitFor_7 : decode cX0_limitFor 7 = .ok (.ifCond .ne 9, 3) := dk_154 0 9 (dk_at dksX0_limitFor_0 7 rfl rfl)
theorem dX0_limitFor_10 : decode cX0_limitFor 10 = .ok (.aload_n 0, 1) := dk_42 (dk_at dksX0_limitFor_0 10 rfl rfl)
theorem dX0_limitFor_11 : decode cX0_limitFor 11 = .ok (.iconst 1, 1) := dk_4 (dk_at dksX0_limitFor_0 11 rfl rfl)
theorem dX0_limitFor_12 : decode cX0_limitFor 12 = .ok (.invokevirtual 217, 3) := dk_182 0 217 (dk_at dksX0_limitFor_0 12 rfl rfl)
theorem dX0_limitFor_15 : decode cX0_limitFor 15 = .ok (.ireturn, 1) := dk_172 (dk_at dksX0_limitFor_0 15 rfl rfl)
theorem dX0_limitFor_16 : decode cX0_limitFor 16 = .ok (.aload_n 0, 1) := dk_42 (dk_at dksX0_limitFor_0 16 rfl rfl)
theorem dX0_limitFor_17 : decode cX0_limitFor 17 = .ok (.getfield 71, 3) := dk_180 0 71 (dk_at dksX0_limitFor_0 17 rfl rfl)
theorem dX0_limitFor_20 : decode cX0_limitFor 20 = .ok (.aload_n 0, 1) := dk_42 (dk_at dksX0_limitFor_0 20 rfl rfl)
theorem dX0_limitFor_21 : decode cX0_limitFor 21 = .ok (.getfield 64, 3) := dk_180 0 64 (dk_at dksX0_limitFor_0 21 rfl rfl)
theorem dX0_limitFor_24 : decode cX0_limitFor 24 = .ok (.invokevirtual 313, 3) := dk_182 1 57 (dk_at dksX0_limitFor_1 0 rfl rfl)
theorem dX0_limitFor_27 : decode cX0_limitFor 27 = .ok (.iconst 0, 1) := dk_3 (dk_at dksX0_limitFor_1 3 rfl rfl)
theorem dX0_limitFor_28 : decode cX0_limitFor 28 = .ok (.istore_n 2, 1) := dk_61 (dk_at dksX0_limitFor_1 4 rfl rfl)
theorem dX0_limitFor_29 : decode cX0_limitFor 29 = .ok (.iload_n 2, 1) := dk_28 (dk_at dksX0_limitFor_1 5 rfl rfl)
theorem dX0_limitFor_30 : decode cX0_limitFor 30 = .ok (.bipush 99, 2) := dk_16 99 (dk_at dksX0_limitFor_1 6 rfl rfl)
theorem dX0_limitFor_32 : decode cX0_limitFor 32 = .ok (.if_icmp .gt 77, 3) := dk_163 0 77 (dk_at dksX0_limitFor_1 8 rfl rfl)
theorem dX0_limitFor_35 : decode cX0_limitFor 35 = .ok (.aload_n 0, 1) := dk_42 (dk_at dksX0_limitFor_1 11 rfl rfl)
theorem dX0_limitFor_36 : decode cX0_limitFor 36 = .ok (.getfield 64, 3) := dk_180 0 64 (dk_at dksX0_limitFor_1 12 rfl rfl)
theorem dX0_limitFor_39 : decode cX0_limitFor 39 = .ok (.iload_n 2, 1) := dk_28 (dk_at dksX0_limitFor_1 15 rfl rfl)
theorem dX0_limitFor_40 : decode cX0_limitFor 40 = .ok (.putfield 243, 3) := dk_181 0 243 (dk_at dksX0_limitFor_1 16 rfl rfl)
theorem dX0_limitFor_43 : decode cX0_limitFor 43 = .ok (.iconst 0, 1) := dk_3 (dk_at dksX0_limitFor_1 19 rfl rfl)
theorem dX0_limitFor_44 : decode cX0_limitFor 44 = .ok (.istore_n 3, 1) := dk_62 (dk_at dksX0_limitFor_1 20 rfl rfl)
theorem dX0_limitFor_45 : decode cX0_limitFor 45 = .ok (.iload_n 3, 1) := dk_29 (dk_at dksX0_limitFor_1 21 rfl rfl)
theorem dX0_limitFor_46 : decode cX0_limitFor 46 = .ok (.iload_n 1, 1) := dk_27 (dk_at dksX0_limitFor_1 22 rfl rfl)
theorem dX0_limitFor_47 : decode cX0_limitFor 47 = .ok (.if_icmp .ge 13, 3) := dk_162 0 13 (dk_at dksX0_limitFor_2 0 rfl rfl)
theorem dX0_limitFor_50 : decode cX0_limitFor 50 = .ok (.aload_n 0, 1) := dk_42 (dk_at dksX0_limitFor_2 3 rfl rfl)
theorem dX0_limitFor_51 : decode cX0_limitFor 51 = .ok (.invokevirtual 291, 3) := dk_182 1 35 (dk_at dksX0_limitFor_2 4 rfl rfl)
theorem dX0_limitFor_54 : decode cX0_limitFor 54 = .ok (.iinc 3 1, 3) := dk_132 3 1 (dk_at dksX0_limitFor_2 7 rfl rfl)
theorem dX0_limitFor_57 : decode cX0_limitFor 57 = .ok (.goto (-12), 3) := dk_167 255 244 (dk_at dksX0_limitFor_2 10 rfl rfl)
theorem dX0_limitFor_60 : decode cX0_limitFor 60 = .ok (.aload_n 0, 1) := dk_42 (dk_at dksX0_limitFor_2 13 rfl rfl)
theorem dX0_limitFor_61 : decode cX0_limitFor 61 = .ok (.getfield 64, 3) := dk_180 0 64 (dk_at dksX0_limitFor_2 14 rfl rfl)
theorem dX0_limitFor_64 : decode cX0_limitFor 64 = .ok (.invokevirtual 168, 3) := dk_182 0 168 (dk_at dksX0_limitFor_2 17 rfl rfl)
theorem dX0_limitFor_67 : decode cX0_limitFor 67 = .ok (.aload_n 0, 1) := dk_42 (dk_at dksX0_limitFor_2 20 rfl rfl)
theorem dX0_limitFor_68 : decode cX0_limitFor 68 = .ok (.getfield 71, 3) := dk_180 0 71 (dk_at dksX0_limitFor_2 21 rfl rfl)
theorem dX0_limitFor_71 : decode cX0_limitFor 71 = .ok (.invokevirtual 168, 3) := dk_182 0 168 (dk_at dksX0_limitFor_3 0 rfl rfl)
theorem dX0_limitFor_74 : decode cX0_limitFor 74 = .ok (.if_icmp .ne 18, 3) := dk_160 0 18 (dk_at dksX0_limitFor_3 3 rfl rfl)
theorem dX0_limitFor_77 : decode cX0_limitFor 77 = .ok (.iload_n 2, 1) := dk_28 (dk_at dksX0_limitFor_3 6 rfl rfl)
theorem dX0_limitFor_78 : decode cX0_limitFor 78 = .ok (.istore_n 3, 1) := dk_62 (dk_at dksX0_limitFor_3 7 rfl rfl)
theorem dX0_limitFor_79 : decode cX0_limitFor 79 = .ok (.aload_n 0, 1) := dk_42 (dk_at dksX0_limitFor_3 8 rfl rfl)
theorem dX0_limitFor_80 : decode cX0_limitFor 80 = .ok (.getfield 64, 3) := dk_180 0 64 (dk_at dksX0_limitFor_3 9 rfl rfl)
theorem dX0_limitFor_83 : decode cX0_limitFor 83 = .ok (.aload_n 0, 1) := dk_42 (dk_at dksX0_limitFor_3 12 rfl rfl)
theorem dX0_limitFor_84 : decode cX0_limitFor 84 = .ok (.getfield 71, 3) := dk_180 0 71 (dk_at dksX0_limitFor_3 13 rfl rfl)
theorem dX0_limitFor_87 : decode cX0_limitFor 87 = .ok (.invokevirtual 313, 3) := dk_182 1 57 (dk_at dksX0_limitFor_3 16 rfl rfl)
theorem dX0_limitFor_90 : decode cX0_limitFor 90 = .ok (.iload_n 3, 1) := dk_29 (dk_at dksX0_limitFor_3 19 rfl rfl)
theorem dX0_limitFor_91 : decode cX0_limitFor 91 = .ok (.ireturn, 1) := dk_172 (dk_at dksX0_limitFor_3 20 rfl rfl)
theorem dX0_limitFor_92 : decode cX0_limitFor 92 = .ok (.aload_n 0, 1) := dk_42 (dk_at dksX0_limitFor_3 21 rfl rfl)
theorem dX0_limitFor_93 : decode cX0_limitFor 93 = .ok (.getfield 64, 3) := dk_180 0 64 (dk_at dksX0_limitFor_4 0 rfl rfl)
theorem dX0_limitFor_96 : decode cX0_limitFor 96 = .ok (.aload_n 0, 1) := dk_42 (dk_at dksX0_limitFor_4 3 rfl rfl)
theorem dX0_limitFor_97 : decode cX0_limitFor 97 = .ok (.getfield 71, 3) := dk_180 0 71 (dk_at dksX0_limitFor_4 4 rfl rfl)
theorem dX0_limitFor_100 : decode cX0_limitFor 100 = .ok (.invokevirtual 313, 3) := dk_182 1 57 (dk_at dksX0_limitFor_4 7 rfl rfl)
theorem dX0_limitFor_103 : decode cX0_limitFor 103 = .ok (.iinc 2 1, 3) := dk_132 2 1 (dk_at dksX0_limitFor_4 10 rfl rfl)
theorem dX0_limitFor_106 : decode cX0_limitFor 106 = .ok (.goto (-77), 3) := dk_167 255 179 (dk_at dksX0_limitFor_4 13 rfl rfl)
theorem dX0_limitFor_109 : decode cX0_limitFor 109 = .ok (.aload_n 0, 1) := dk_42 (dk_at dksX0_limitFor_4 16 rfl rfl)
theorem dX0_limitFor_110 : decode cX0_limitFor 110 = .ok (.iconst 2, 1) := dk_5 (dk_at dksX0_limitFor_4 17 rfl rfl)
theorem dX0_limitFor_111 : decode cX0_limitFor 111 = .ok (.invokevirtual 217, 3) := dk_182 0 217 (dk_at dksX0_limitFor_4 18 rfl rfl)
theorem dX0_limitFor_114 : decode cX0_limitFor 114 = .ok (.istore_n 2, 1) := dk_61 (dk_at dksX0_limitFor_4 21 rfl rfl)
theorem dX0_limitFor_115 : decode cX0_limitFor 115 = .ok (.aload_n 0, 1) := dk_42 (dk_at dksX0_limitFor_4 22 rfl rfl)
theorem dX0_limitFor_116 : decode cX0_limitFor 116 = .ok (.getfield 64, 3) := dk_180 0 64 (dk_at dksX0_limitFor_5 0 rfl rfl)
theorem dX0_limitFor_119 : decode cX0_limitFor 119 = .ok (.aload_n 0, 1) := dk_42 (dk_at dksX0_limitFor_5 3 rfl rfl)
theorem dX0_limitFor_120 : decode cX0_limitFor 120 = .ok (.getfield 71, 3) := dk_180 0 71 (dk_at dksX0_limitFor_5 4 rfl rfl)
theorem dX0_limitFor_123 : decode cX0_limitFor 123 = .ok (.invokevirtual 313, 3) := dk_182 1 57 (dk_at dksX0_limitFor_5 7 rfl rfl)
theorem dX0_limitFor_126 : decode cX0_limitFor 126 = .ok (.iload_n 2, 1) := dk_28 (dk_at dksX0_limitFor_5 10 rfl rfl)
theorem dX0_limitFor_127 : decode cX0_limitFor 127 = .ok (.ireturn, 1) := dk_172 (dk_at dksX0_limitFor_5 11 rfl rfl)
theorem dX0_limitFor_128 : decode cX0_limitFor 128 = .ok (.astore 4, 2) := dk_58 4 (dk_at dksX0_limitFor_5 12 rfl rfl)
theorem dX0_limitFor_130 : decode cX0_limitFor 130 = .ok (.aload_n 0, 1) := dk_42 (dk_at dksX0_limitFor_5 14 rfl rfl)
theorem dX0_limitFor_131 : decode cX0_limitFor 131 = .ok (.getfield 64, 3) := dk_180 0 64 (dk_at dksX0_limitFor_5 15 rfl rfl)
theorem dX0_limitFor_134 : decode cX0_limitFor 134 = .ok (.aload_n 0, 1) := dk_42 (dk_at dksX0_limitFor_5 18 rfl rfl)
theorem dX0_limitFor_135 : decode cX0_limitFor 135 = .ok (.getfield 71, 3) := dk_180 0 71 (dk_at dksX0_limitFor_5 19 rfl rfl)
theorem dX0_limitFor_138 : decode cX0_limitFor 138 = .ok (.invokevirtual 313, 3) := dk_182 1 57 (dk_at dksX0_limitFor_6 0 rfl rfl)
theorem dX0_limitFor_141 : decode cX0_limitFor 141 = .ok (.aload 4, 2) := dk_25 4 (dk_at dksX0_limitFor_6 3 rfl rfl)
theorem dX0_limitFor_143 : decode cX0_limitFor 143 = .ok (.athrow, 1) := dk_191 (dk_at dksX0_limitFor_6 5 rfl rfl)
abbrev cX0_toldFor : ByteArray := prog_1_method_53_code
def yX0_toldFor : MethodName := ⟨RX0, "toldFor", "(I)I"⟩
def dkwX0_toldFor_6 : List UInt8 := [21, 7, 79, 28, 172]
abbrev dktX0_toldFor_6 : List UInt8 := dkwX0_toldFor_6 ++ []
def dkwX0_toldFor_5 : List UInt8 := [182, 1, 53, 66, 42, 180, 0, 201, 55, 5, 132, 8, 1, 167, 255, 175, 42, 180, 0, 64, 180, 0, 165, 27]
abbrev dktX0_toldFor_5 : List UInt8 := dkwX0_toldFor_5 ++ dktX0_toldFor_6
def dkwX0_toldFor_4 : List UInt8 := [156, 0, 7, 4, 167, 0, 4, 3, 54, 9, 21, 9, 154, 0, 6, 167, 0, 17, 21, 8, 61, 42]
abbrev dktX0_toldFor_4 : List UInt8 := dkwX0_toldFor_4 ++ dktX0_toldFor_5
def dkwX0_toldFor_3 : List UInt8 := [153, 0, 31, 21, 8, 16, 236, 159, 0, 20, 42, 182, 1, 53, 22, 5, 105, 33, 42, 180, 0, 201, 105, 148]
abbrev dktX0_toldFor_3 : List UInt8 := dkwX0_toldFor_3 ++ dktX0_toldFor_4
def dkwX0_toldFor_2 : List UInt8 := [54, 8, 21, 8, 16, 20, 163, 0, 80, 42, 180, 0, 64, 180, 0, 165, 27, 21, 8, 79, 42, 182, 1, 23]
abbrev dktX0_toldFor_2 : List UInt8 := dkwX0_toldFor_2 ++ dktX0_toldFor_3
def dkwX0_toldFor_1 : List UInt8 := [182, 0, 217, 172, 2, 61, 9, 66, 10, 55, 5, 42, 180, 0, 64, 180, 0, 165, 27, 46, 54, 7, 16, 236]
abbrev dktX0_toldFor_1 : List UInt8 := dkwX0_toldFor_1 ++ dktX0_toldFor_2
def dkwX0_toldFor_0 : List UInt8 := [42, 27, 182, 0, 230, 154, 0, 9, 42, 4, 182, 0, 217, 172, 42, 182, 0, 178, 154, 0, 9, 42, 6]
abbrev dktX0_toldFor_0 : List UInt8 := dkwX0_toldFor_0 ++ dktX0_toldFor_1
theorem dksX0_toldFor_0 : cX0_toldFor.data.toList.drop 0 = dktX0_toldFor_0 := by decide +kernel
theorem dksX0_toldFor_1 : cX0_toldFor.data.toList.drop 23 = dktX0_toldFor_1 := dk_seg dksX0_toldFor_0 23 rfl rfl
theorem dksX0_toldFor_2 : cX0_toldFor.data.toList.drop 47 = dktX0_toldFor_2 := dk_seg dksX0_toldFor_1 24 rfl rfl
theorem dksX0_toldFor_3 : cX0_toldFor.data.toList.drop 71 = dktX0_toldFor_3 := dk_seg dksX0_toldFor_2 24 rfl rfl
theorem dksX0_toldFor_4 : cX0_toldFor.data.toList.drop 95 = dktX0_toldFor_4 := dk_seg dksX0_toldFor_3 24 rfl rfl
theorem dksX0_toldFor_5 : cX0_toldFor.data.toList.drop 117 = dktX0_toldFor_5 := dk_seg dksX0_toldFor_4 22 rfl rfl
theorem dksX0_toldFor_6 : cX0_toldFor.data.toList.drop 141 = dktX0_toldFor_6 := dk_seg dksX0_toldFor_5 24 rfl rfl
theorem dX0_toldFor_0 : decode cX0_toldFor 0 = .ok (.aload_n 0, 1) := dk_42 (dk_at dksX0_toldFor_0 0 rfl rfl)
theorem dX0_toldFor_1 : decode cX0_toldFor 1 = .ok (.iload_n 1, 1) := dk_27 (dk_at dksX0_toldFor_0 1 rfl rfl)
theorem dX0_toldFor_2 : decode cX0_toldFor 2 = .ok (.invokevirtual 230, 3) := dk_182 0 230 (dk_at dksX0_toldFor_0 2 rfl rfl)
theorem dX0_toldFor_5 : decode cX0_toldFor 5 = .ok (.ifCond .ne 9, 3) := dk_154 0 9 (dk_at dksX0_toldFor_0 5 rfl rfl)
theorem dX0_toldFor_8 : decode cX0_toldFor 8 = .ok (.aload_n 0, 1) := dk_42 (dk_at dksX0_toldFor_0 8 rfl rfl)
theorem dX0_toldFor_9 : decode cX0_toldFor 9 = .ok (.iconst 1, 1) := dk_4 (dk_at dksX0_toldFor_0 9 rfl rfl)
theorem dX0_toldFor_10 : decode cX0_toldFor 10 = .ok (.invokevirtual 217, 3) := dk_182 0 217 (dk_at dksX0_toldFor_0 10 rfl rfl)
theorem dX0_toldFor_13 : decode cX0_toldFor 13 = .ok (.ireturn, 1) := dk_172 (dk_at dksX0_toldFor_0 13 rfl rfl)
theorem dX0_toldFor_14 : decode cX0_toldFor 14 = .ok (.aload_n 0, 1) := dk_42 (dk_at dksX0_toldFor_0 14 rfl rfl)
theorem dX0_toldFor_15 : decode cX0_toldFor 15 = .ok (.invokevirtual 178, 3) := dk_182 0 178 (dk_at dksX0_toldFor_0 15 rfl rfl)
theorem dX0_toldFor_18 : decode cX0_toldFor 18 = .ok (.ifCond .ne 9, 3) := dk_154 0 9 (dk_at dksX0_toldFor_0 18 rfl rfl)
theorem dX0_toldFor_21 : decode cX0_toldFor 21 = .ok (.aload_n 0, 1) := dk_42 (dk_at dksX0_toldFor_0 21 rfl rfl)
theorem dX0_toldFor_22 : decode cX0_toldFor 22 = .ok (.iconst 3, 1) := dk_6 (dk_at dksX0_toldFor_0 22 rfl rfl)
theorem dX0_toldFor_23 : decode cX0_toldFor 23 = .ok (.invokevirtual 217, 3) := dk_182 0 217 (dk_at dksX0_toldFor_1 0 rfl rfl)
theorem dX0_toldFor_26 : decode cX0_toldFor 26 = .ok (.ireturn, 1) := dk_172 (dk_at dksX0_toldFor_1 3 rfl rfl)
theorem dX0_toldFor_27 : decode cX0_toldFor 27 = .ok (.iconst (-1), 1) := dk_2 (dk_at dksX0_toldFor_1 4 rfl rfl)
theorem dX0_toldFor_28 : decode cX0_toldFor 28 = .ok (.istore_n 2, 1) := dk_61 (dk_at dksX0_toldFor_1 5 rfl rfl)
theorem dX0_toldFor_29 : decode cX0_toldFor 29 = .ok (.lconst 0, 1) := dk_9 (dk_at dksX0_toldFor_1 6 rfl rfl)
theorem dX0_toldFor_30 : decode cX0_toldFor 30 = .ok (.lstore_n 3, 1) := dk_66 (dk_at dksX0_toldFor_1 7 rfl rfl)
theorem dX0_toldFor_31 : decode cX0_toldFor 31 = .ok (.lconst 1, 1) := dk_10 (dk_at dksX0_toldFor_1 8 rfl rfl)
theorem dX0_toldFor_32 : decode cX0_toldFor 32 = .ok (.lstore 5, 2) := dk_55 5 (dk_at dksX0_toldFor_1 9 rfl rfl)
theorem dX0_toldFor_34 : decode cX0_toldFor 34 = .ok (.aload_n 0, 1) := dk_42 (dk_at dksX0_toldFor_1 11 rfl rfl)
theorem dX0_toldFor_35 : decode cX0_toldFor 35 = .ok (.getfield 64, 3) := dk_180 0 64 (dk_at dksX0_toldFor_1 12 rfl rfl)
theorem dX0_toldFor_38 : decode cX0_toldFor 38 = .ok (.getfield 165, 3) := dk_180 0 165 (dk_at dksX0_toldFor_1 15 rfl rfl)
theorem dX0_toldFor_41 : decode cX0_toldFor 41 = .ok (.iload_n 1, 1) := dk_27 (dk_at dksX0_toldFor_1 18 rfl rfl)
theorem dX0_toldFor_42 : decode cX0_toldFor 42 = .ok (.iaload, 1) := dk_46 (dk_at dksX0_toldFor_1 19 rfl rfl)
theorem dX0_toldFor_43 : decode cX0_toldFor 43 = .ok (.istore 7, 2) := dk_54 7 (dk_at dksX0_toldFor_1 20 rfl rfl)
theorem dX0_toldFor_45 : decode cX0_toldFor 45 = .ok (.bipush (-20), 2) := dk_16 236 (dk_at dksX0_toldFor_1 22 rfl rfl)
theorem dX0_toldFor_47 : decode cX0_toldFor 47 = .ok (.istore 8, 2) := dk_54 8 (dk_at dksX0_toldFor_2 0 rfl rfl)
theorem dX0_toldFor_49 : decode cX0_toldFor 49 = .ok (.iload 8, 2) := dk_21 8 (dk_at dksX0_toldFor_2 2 rfl rfl)
theorem dX0_toldFor_51 : decode cX0_toldFor 51 = .ok (.bipush 20, 2) := dk_16 20 (dk_at dksX0_toldFor_2 4 rfl rfl)
theorem dX0_toldFor_53 : decode cX0_toldFor 53 = .ok (.if_icmp .gt 80, 3) := dk_163 0 80 (dk_at dksX0_toldFor_2 6 rfl rfl)
theorem dX0_toldFor_56 : decode cX0_toldFor 56 = .ok (.aload_n 0, 1) := dk_42 (dk_at dksX0_toldFor_2 9 rfl rfl)
theorem dX0_toldFor_57 : decode cX0_toldFor 57 = .ok (.getfield 64, 3) := dk_180 0 64 (dk_at dksX0_toldFor_2 10 rfl rfl)
theorem dX0_toldFor_60 : decode cX0_toldFor 60 = .ok (.getfield 165, 3) := dk_180 0 165 (dk_at dksX0_toldFor_2 13 rfl rfl)
theorem dX0_toldFor_63 : decode cX0_toldFor 63 = .ok (.iload_n 1, 1) := dk_27 (dk_at dksX0_toldFor_2 16 rfl rfl)
theorem dX0_toldFor_64 : decode cX0_toldFor 64 = .ok (.iload 8, 2) := dk_21 8 (dk_at dksX0_toldFor_2 17 rfl rfl)
theorem dX0_toldFor_66 : decode cX0_toldFor 66 = .ok (.iastore, 1) := dk_79 (dk_at dksX0_toldFor_2 19 rfl rfl)
theorem dX0_toldFor_67 : decode cX0_toldFor 67 = .ok (.aload_n 0, 1) := dk_42 (dk_at dksX0_toldFor_2 20 rfl rfl)
theorem dX0_toldFor_68 : decode cX0_toldFor 68 = .ok (.invokevirtual 279, 3) := dk_182 1 23 (dk_at dksX0_toldFor_2 21 rfl rfl)
theorem dX0_toldFor_71 : decode cX0_toldFor 71 = .ok (.ifCond .eq 31, 3) := dk_153 0 31 (dk_at dksX0_toldFor_3 0 rfl rfl)
theorem dX0_toldFor_74 : decode cX0_toldFor 74 = .ok (.iload 8, 2) := dk_21 8 (dk_at dksX0_toldFor_3 3 rfl rfl)
theorem dX0_toldFor_76 : decode cX0_toldFor 76 = .ok (.bipush (-20), 2) := dk_16 236 (dk_at dksX0_toldFor_3 5 rfl rfl)
theorem dX0_toldFor_78 : decode cX0_toldFor 78 = .ok (.if_icmp .eq 20, 3) := dk_159 0 20 (dk_at dksX0_toldFor_3 7 rfl rfl)
theorem dX0_toldFor_81 : decode cX0_toldFor 81 = .ok (.aload_n 0, 1) := dk_42 (dk_at dksX0_toldFor_3 10 rfl rfl)
theorem dX0_toldFor_82 : decode cX0_toldFor 82 = .ok (.invokevirtual 309, 3) := dk_182 1 53 (dk_at dksX0_toldFor_3 11 rfl rfl)
theorem dX0_toldFor_85 : decode cX0_toldFor 85 = .ok (.lload 5, 2) := dk_22 5 (dk_at dksX0_toldFor_3 14 rfl rfl)
theorem dX0_toldFor_87 : decode cX0_toldFor 87 = .ok (.lmul, 1) := dk_105 (dk_at dksX0_toldFor_3 16 rfl rfl)
theorem dX0_toldFor_88 : decode cX0_toldFor 88 = .ok (.lload_n 3, 1) := dk_33 (dk_at dksX0_toldFor_3 17 rfl rfl)
theorem dX0_toldFor_89 : decode cX0_toldFor 89 = .ok (.aload_n 0, 1) := dk_42 (dk_at dksX0_toldFor_3 18 rfl rfl)
theorem dX0_toldFor_90 : decode cX0_toldFor 90 = .ok (.getfield 201, 3) := dk_180 0 201 (dk_at dksX0_toldFor_3 19 rfl rfl)
theorem dX0_toldFor_93 : decode cX0_toldFor 93 = .ok (.lmul, 1) := dk_105 (dk_at dksX0_toldFor_3 22 rfl rfl)
theorem dX0_toldFor_94 : decode cX0_toldFor 94 = .ok (.lcmp, 1) := dk_148 (dk_at dksX0_toldFor_3 23 rfl rfl)
theorem dX0_toldFor_95 : decode cX0_toldFor 95 = .ok (.ifCond .ge 7, 3) := dk_156 0 7 (dk_at dksX0_toldFor_4 0 rfl rfl)
theorem dX0_toldFor_98 : decode cX0_toldFor 98 = .ok (.iconst 1, 1) := dk_4 (dk_at dksX0_toldFor_4 3 rfl rfl)
theorem dX0_toldFor_99 : decode cX0_toldFor 99 = .ok (.goto 4, 3) := dk_167 0 4 (dk_at dksX0_toldFor_4 4 rfl rfl)
theorem dX0_toldFor_102 : decode cX0_toldFor 102 = .ok (.iconst 0, 1) := dk_3 (dk_at dksX0_toldFor_4 7 rfl rfl)
theorem dX0_toldFor_103 : decode cX0_toldFor 103 = .ok (.istore 9, 2) := dk_54 9 (dk_at dksX0_toldFor_4 8 rfl rfl)
theorem dX0_toldFor_105 : decode cX0_toldFor 105 = .ok (.iload 9, 2) := dk_21 9 (dk_at dksX0_toldFor_4 10 rfl rfl)
theorem dX0_toldFor_107 : decode cX0_toldFor 107 = .ok (.ifCond .ne 6, 3) := dk_154 0 6 (dk_at dksX0_toldFor_4 12 rfl rfl)
theorem dX0_toldFor_110 : decode cX0_toldFor 110 = .ok (.goto 17, 3) := dk_167 0 17 (dk_at dksX0_toldFor_4 15 rfl rfl)
theorem dX0_toldFor_113 : decode cX0_toldFor 113 = .ok (.iload 8, 2) := dk_21 8 (dk_at dksX0_toldFor_4 18 rfl rfl)
theorem dX0_toldFor_115 : decode cX0_toldFor 115 = .ok (.istore_n 2, 1) := dk_61 (dk_at dksX0_toldFor_4 20 rfl rfl)
theorem dX0_toldFor_116 : decode cX0_toldFor 116 = .ok (.aload_n 0, 1) := dk_42 (dk_at dksX0_toldFor_4 21 rfl rfl)
theorem dX0_toldFor_117 : decode cX0_toldFor 117 = .ok (.invokevirtual 309, 3) := dk_182 1 53 (dk_at dksX0_toldFor_5 0 rfl rfl)
theorem dX0_toldFor_120 : decode cX0_toldFor 120 = .ok (.lstore_n 3, 1) := dk_66 (dk_at dksX0_toldFor_5 3 rfl rfl)
theorem dX0_toldFor_121 : decode cX0_toldFor 121 = .ok (.aload_n 0, 1) := dk_42 (dk_at dksX0_toldFor_5 4 rfl rfl)
theorem dX0_toldFor_122 : decode cX0_toldFor 122 = .ok (.getfield 201, 3) := dk_180 0 201 (dk_at dksX0_toldFor_5 5 rfl rfl)
theorem dX0_toldFor_125 : decode cX0_toldFor 125 = .ok (.lstore 5, 2) := dk_55 5 (dk_at dksX0_toldFor_5 8 rfl rfl)
theorem dX0_toldFor_127 : decode cX0_toldFor 127 = .ok (.iinc 8 1, 3) := dk_132 8 1 (dk_at dksX0_toldFor_5 10 rfl rfl)
theorem dX0_toldFor_130 : decode cX0_toldFor 130 = .ok (.goto (-81), 3) := dk_167 255 175 (dk_at dksX0_toldFor_5 13 rfl rfl)
theorem dX0_toldFor_133 : decode cX0_toldFor 133 = .ok (.aload_n 0, 1) := dk_42 (dk_at dksX0_toldFor_5 16 rfl rfl)
theorem dX0_toldFor_134 : decode cX0_toldFor 134 = .ok (.getfield 64, 3) := dk_180 0 64 (dk_at dksX0_toldFor_5 17 rfl rfl)
theorem dX0_toldFor_137 : decode cX0_toldFor 137 = .ok (.getfield 165, 3) := dk_180 0 165 (dk_at dksX0_toldFor_5 20 rfl rfl)
theorem dX0_toldFor_140 : decode cX0_toldFor 140 = .ok (.iload_n 1, 1) := dk_27 (dk_at dksX0_toldFor_5 23 rfl rfl)
theorem dX0_toldFor_141 : decode cX0_toldFor 141 = .ok (.iload 7, 2) := dk_21 7 (dk_at dksX0_toldFor_6 0 rfl rfl)
theorem dX0_toldFor_143 : decode cX0_toldFor 143 = .ok (.iastore, 1) := dk_79 (dk_at dksX0_toldFor_6 2 rfl rfl)
theorem dX0_toldFor_144 : decode cX0_toldFor 144 = .ok (.iload_n 2, 1) := dk_28 (dk_at dksX0_toldFor_6 3 rfl rfl)
theorem dX0_toldFor_145 : decode cX0_toldFor 145 = .ok (.ireturn, 1) := dk_172 (dk_at dksX0_toldFor_6 4 rfl rfl)
abbrev cX0_odds : ByteArray := prog_1_method_54_code
def yX0_odds : MethodName := ⟨RX0, "odds", "(III)I"⟩
def dkwX0_odds_5 : List UInt8 := [132, 6, 1, 167, 255, 191, 21, 4, 133, 21, 5, 133, 29, 184, 1, 49, 136, 172]
abbrev dktX0_odds_5 : List UInt8 := dkwX0_odds_5 ++ []
def dkwX0_odds_4 : List UInt8 := [180, 0, 64, 180, 0, 188, 27, 46, 96, 54, 4, 42, 180, 0, 64, 42, 180, 0, 71, 182, 1, 57]
abbrev dktX0_odds_4 : List UInt8 := dkwX0_odds_4 ++ dktX0_odds_5
def dkwX0_odds_3 : List UInt8 := [79, 3, 54, 7, 21, 7, 28, 162, 0, 13, 42, 182, 1, 35, 132, 7, 1, 167, 255, 243, 21, 4, 42]
abbrev dktX0_odds_3 : List UInt8 := dkwX0_odds_3 ++ dktX0_odds_4
def dkwX0_odds_2 : List UInt8 := [182, 1, 57, 16, 236, 54, 6, 21, 6, 16, 20, 163, 0, 64, 42, 180, 0, 64, 180, 0, 165, 27, 21, 6]
abbrev dktX0_odds_2 : List UInt8 := dkwX0_odds_2 ++ dktX0_odds_3
def dkwX0_odds_1 : List UInt8 := [154, 0, 9, 42, 4, 182, 0, 217, 172, 3, 54, 4, 16, 41, 54, 5, 42, 180, 0, 71, 42, 180, 0, 64]
abbrev dktX0_odds_1 : List UInt8 := dkwX0_odds_1 ++ dktX0_odds_2
def dkwX0_odds_0 : List UInt8 := [42, 27, 182, 0, 230, 153, 0, 22, 28, 3, 16, 40, 184, 0, 116, 153, 0, 12, 29, 3, 4, 184, 0, 116]
abbrev dktX0_odds_0 : List UInt8 := dkwX0_odds_0 ++ dktX0_odds_1
theorem dksX0_odds_0 : cX0_odds.data.toList.drop 0 = dktX0_odds_0 := by decide +kernel
theorem dksX0_odds_1 : cX0_odds.data.toList.drop 24 = dktX0_odds_1 := dk_seg dksX0_odds_0 24 rfl rfl
theorem dksX0_odds_2 : cX0_odds.data.toList.drop 48 = dktX0_odds_2 := dk_seg dksX0_odds_1 24 rfl rfl
theorem dksX0_odds_3 : cX0_odds.data.toList.drop 72 = dktX0_odds_3 := dk_seg dksX0_odds_2 24 rfl rfl
theorem dksX0_odds_4 : cX0_odds.data.toList.drop 95 = dktX0_odds_4 := dk_seg dksX0_odds_3 23 rfl rfl
theorem dksX0_odds_5 : cX0_odds.data.toList.drop 117 = dktX0_odds_5 := dk_seg dksX0_odds_4 22 rfl rfl
theorem dX0_odds_0 : decode cX0_odds 0 = .ok (.aload_n 0, 1) := dk_42 (dk_at dksX0_odds_0 0 rfl rfl)
theorem dX0_odds_1 : decode cX0_odds 1 = .ok (.iload_n 1, 1) := dk_27 (dk_at dksX0_odds_0 1 rfl rfl)
theorem dX0_odds_2 : decode cX0_odds 2 = .ok (.invokevirtual 230, 3) := dk_182 0 230 (dk_at dksX0_odds_0 2 rfl rfl)
theorem dX0_odds_5 : decode cX0_odds 5 = .ok (.ifCond .eq 22, 3) := dk_153 0 22 (dk_at dksX0_odds_0 5 rfl rfl)
theorem dX0_odds_8 : decode cX0_odds 8 = .ok (.iload_n 2, 1) := dk_28 (dk_at dksX0_odds_0 8 rfl rfl)
theorem dX0_odds_9 : decode cX0_odds 9 = .ok (.iconst 0, 1) := dk_3 (dk_at dksX0_odds_0 9 rfl rfl)
theorem dX0_odds_10 : decode cX0_odds 10 = .ok (.bipush 40, 2) := dk_16 40 (dk_at dksX0_odds_0 10 rfl rfl)
theorem dX0_odds_12 : decode cX0_odds 12 = .ok (.invokestatic 116, 3) := dk_184 0 116 (dk_at dksX0_odds_0 12 rfl rfl)
theorem dX0_odds_15 : decode cX0_odds 15 = .ok (.ifCond .eq 12, 3) := dk_153 0 12 (dk_at dksX0_odds_0 15 rfl rfl)
theorem dX0_odds_18 : decode cX0_odds 18 = .ok (.iload_n 3, 1) := dk_29 (dk_at dksX0_odds_0 18 rfl rfl)
theorem dX0_odds_19 : decode cX0_odds 19 = .ok (.iconst 0, 1) := dk_3 (dk_at dksX0_odds_0 19 rfl rfl)
theorem dX0_odds_20 : decode cX0_odds 20 = .ok (.iconst 1, 1) := dk_4 (dk_at dksX0_odds_0 20 rfl rfl)
theorem dX0_odds_21 : decode cX0_odds 21 = .ok (.invokestatic 116, 3) := dk_184 0 116 (dk_at dksX0_odds_0 21 rfl rfl)
theorem dX0_odds_24 : decode cX0_odds 24 = .ok (.ifCond .ne 9, 3) := dk_154 0 9 (dk_at dksX0_odds_1 0 rfl rfl)
theorem dX0_odds_27 : decode cX0_odds 27 = .ok (.aload_n 0, 1) := dk_42 (dk_at dksX0_odds_1 3 rfl rfl)
theorem dX0_odds_28 : decode cX0_odds 28 = .ok (.iconst 1, 1) := dk_4 (dk_at dksX0_odds_1 4 rfl rfl)
theorem dX0_odds_29 : decode cX0_odds 29 = .ok (.invokevirtual 217, 3) := dk_182 0 217 (dk_at dksX0_odds_1 5 rfl rfl)
theorem dX0_odds_32 : decode cX0_odds 32 = .ok (.ireturn, 1) := dk_172 (dk_at dksX0_odds_1 8 rfl rfl)
theorem dX0_odds_33 : decode cX0_odds 33 = .ok (.iconst 0, 1) := dk_3 (dk_at dksX0_odds_1 9 rfl rfl)
theorem dX0_odds_34 : decode cX0_odds 34 = .ok (.istore 4, 2) := dk_54 4 (dk_at dksX0_odds_1 10 rfl rfl)
theorem dX0_odds_36 : decode cX0_odds 36 = .ok (.bipush 41, 2) := dk_16 41 (dk_at dksX0_odds_1 12 rfl rfl)
theorem dX0_odds_38 : decode cX0_odds 38 = .ok (.istore 5, 2) := dk_54 5 (dk_at dksX0_odds_1 14 rfl rfl)
theorem dX0_odds_40 : decode cX0_odds 40 = .ok (.aload_n 0, 1) := dk_42 (dk_at dksX0_odds_1 16 rfl rfl)
theorem dX0_odds_41 : decode cX0_odds 41 = .ok (.getfield 71, 3) := dk_180 0 71 (dk_at dksX0_odds_1 17 rfl rfl)
theorem dX0_odds_44 : decode cX0_odds 44 = .ok (.aload_n 0, 1) := dk_42 (dk_at dksX0_odds_1 20 rfl rfl)
theorem dX0_odds_45 : decode cX0_odds 45 = .ok (.getfield 64, 3) := dk_180 0 64 (dk_at dksX0_odds_1 21 rfl rfl)
theorem dX0_odds_48 : decode cX0_odds 48 = .ok (.invokevirtual 313, 3) := dk_182 1 57 (dk_at dksX0_odds_2 0 rfl rfl)
theorem dX0_odds_51 : decode cX0_odds 51 = .ok (.bipush (-20), 2) := dk_16 236 (dk_at dksX0_odds_2 3 rfl rfl)
theorem dX0_odds_53 : decode cX0_odds 53 = .ok (.istore 6, 2) := dk_54 6 (dk_at dksX0_odds_2 5 rfl rfl)
theorem dX0_odds_55 : decode cX0_odds 55 = .ok (.iload 6, 2) := dk_21 6 (dk_at dksX0_odds_2 7 rfl rfl)
theorem dX0_odds_57 : decode cX0_odds 57 = .ok (.bipush 20, 2) := dk_16 20 (dk_at dksX0_odds_2 9 rfl rfl)
theorem dX0_odds_59 : decode cX0_odds 59 = .ok (.if_icmp .gt 64, 3) := dk_163 0 64 (dk_at dksX0_odds_2 11 rfl rfl)
theorem dX0_odds_62 : decode cX0_odds 62 = .ok (.aload_n 0, 1) := dk_42 (dk_at dksX0_odds_2 14 rfl rfl)
theorem dX0_odds_63 : decode cX0_odds 63 = .ok (.getfield 64, 3) := dk_180 0 64 (dk_at dksX0_odds_2 15 rfl rfl)
theorem dX0_odds_66 : decode cX0_odds 66 = .ok (.getfield 165, 3) := dk_180 0 165 (dk_at dksX0_odds_2 18 rfl rfl)
theorem dX0_odds_69 : decode cX0_odds 69 = .ok (.iload_n 1, 1) := dk_27 (dk_at dksX0_odds_2 21 rfl rfl)
theorem dX0_odds_70 : decode cX0_odds 70 = .ok (.iload 6, 2) := dk_21 6 (dk_at dksX0_odds_2 22 rfl rfl)
theorem dX0_odds_72 : decode cX0_odds 72 = .ok (.iastore, 1) := dk_79 (dk_at dksX0_odds_3 0 rfl rfl)
theorem dX0_odds_73 : decode cX0_odds 73 = .ok (.iconst 0, 1) := dk_3 (dk_at dksX0_odds_3 1 rfl rfl)
theorem dX0_odds_74 : decode cX0_odds 74 = .ok (.istore 7, 2) := dk_54 7 (dk_at dksX0_odds_3 2 rfl rfl)
theorem dX0_odds_76 : decode cX0_odds 76 = .ok (.iload 7, 2) := dk_21 7 (dk_at dksX0_odds_3 4 rfl rfl)
theorem dX0_odds_78 : decode cX0_odds 78 = .ok (.iload_n 2, 1) := dk_28 (dk_at dksX0_odds_3 6 rfl rfl)
theorem dX0_odds_79 : decode cX0_odds 79 = .ok (.if_icmp .ge 13, 3) := dk_162 0 13 (dk_at dksX0_odds_3 7 rfl rfl)
theorem dX0_odds_82 : decode cX0_odds 82 = .ok (.aload_n 0, 1) := dk_42 (dk_at dksX0_odds_3 10 rfl rfl)
theorem dX0_odds_83 : decode cX0_odds 83 = .ok (.invokevirtual 291, 3) := dk_182 1 35 (dk_at dksX0_odds_3 11 rfl rfl)
theorem dX0_odds_86 : decode cX0_odds 86 = .ok (.iinc 7 1, 3) := dk_132 7 1 (dk_at dksX0_odds_3 14 rfl rfl)
theorem dX0_odds_89 : decode cX0_odds 89 = .ok (.goto (-13), 3) := dk_167 255 243 (dk_at dksX0_odds_3 17 rfl rfl)
theorem dX0_odds_92 : decode cX0_odds 92 = .ok (.iload 4, 2) := dk_21 4 (dk_at dksX0_odds_3 20 rfl rfl)
theorem dX0_odds_94 : decode cX0_odds 94 = .ok (.aload_n 0, 1) := dk_42 (dk_at dksX0_odds_3 22 rfl rfl)
theorem dX0_odds_95 : decode cX0_odds 95 = .ok (.getfield 64, 3) := dk_180 0 64 (dk_at dksX0_odds_4 0 rfl rfl)
theorem dX0_odds_98 : decode cX0_odds 98 = .ok (.getfield 188, 3) := dk_180 0 188 (dk_at dksX0_odds_4 3 rfl rfl)
theorem dX0_odds_101 : decode cX0_odds 101 = .ok (.iload_n 1, 1) := dk_27 (dk_at dksX0_odds_4 6 rfl rfl)
theorem dX0_odds_102 : decode cX0_odds 102 = .ok (.iaload, 1) := dk_46 (dk_at dksX0_odds_4 7 rfl rfl)
theorem dX0_odds_103 : decode cX0_odds 103 = .ok (.iadd, 1) := dk_96 (dk_at dksX0_odds_4 8 rfl rfl)
theorem dX0_odds_104 : decode cX0_odds 104 = .ok (.istore 4, 2) := dk_54 4 (dk_at dksX0_odds_4 9 rfl rfl)
theorem dX0_odds_106 : decode cX0_odds 106 = .ok (.aload_n 0, 1) := dk_42 (dk_at dksX0_odds_4 11 rfl rfl)
theorem dX0_odds_107 : decode cX0_odds 107 = .ok (.getfield 64, 3) := dk_180 0 64 (dk_at dksX0_odds_4 12 rfl rfl)
theorem dX0_odds_110 : decode cX0_odds 110 = .ok (.aload_n 0, 1) := dk_42 (dk_at dksX0_odds_4 15 rfl rfl)
theorem dX0_odds_111 : decode cX0_odds 111 = .ok (.getfield 71, 3) := dk_180 0 71 (dk_at dksX0_odds_4 16 rfl rfl)
theorem dX0_odds_114 : decode cX0_odds 114 = .ok (.invokevirtual 313, 3) := dk_182 1 57 (dk_at dksX0_odds_4 19 rfl rfl)
theorem dX0_odds_117 : decode cX0_odds 117 = .ok (.iinc 6 1, 3) := dk_132 6 1 (dk_at dksX0_odds_5 0 rfl rfl)
theorem dX0_odds_120 : decode cX0_odds 120 = .ok (.goto (-65), 3) := dk_167 255 191 (dk_at dksX0_odds_5 3 rfl rfl)
theorem dX0_odds_123 : decode cX0_odds 123 = .ok (.iload 4, 2) := dk_21 4 (dk_at dksX0_odds_5 6 rfl rfl)
theorem dX0_odds_125 : decode cX0_odds 125 = .ok (.i2l, 1) := dk_133 (dk_at dksX0_odds_5 8 rfl rfl)
theorem dX0_odds_126 : decode cX0_odds 126 = .ok (.iload 5, 2) := dk_21 5 (dk_at dksX0_odds_5 9 rfl rfl)
theorem dX0_odds_128 : decode cX0_odds 128 = .ok (.i2l, 1) := dk_133 (dk_at dksX0_odds_5 11 rfl rfl)
theorem dX0_odds_129 : decode cX0_odds 129 = .ok (.iload_n 3, 1) := dk_29 (dk_at dksX0_odds_5 12 rfl rfl)
theorem dX0_odds_130 : decode cX0_odds 130 = .ok (.invokestatic 305, 3) := dk_184 1 49 (dk_at dksX0_odds_5 13 rfl rfl)
theorem dX0_odds_133 : decode cX0_odds 133 = .ok (.l2i, 1) := dk_136 (dk_at dksX0_odds_5 16 rfl rfl)
theorem dX0_odds_134 : decode cX0_odds 134 = .ok (.ireturn, 1) := dk_172 (dk_at dksX0_odds_5 17 rfl rfl)
abbrev cX0_fits : ByteArray := prog_1_method_55_code
def yX0_fits : MethodName := ⟨RX0, "fits", "(III)I"⟩
def dkwX0_fits_9 : List UInt8 := [172]
abbrev dktX0_fits_9 : List UInt8 := dkwX0_fits_9 ++ []
def dkwX0_fits_8 : List UInt8 := [3, 128, 54, 6, 132, 7, 1, 167, 255, 142, 29, 154, 0, 8, 21, 6, 167, 0, 8, 21, 6, 184, 1, 38]
abbrev dktX0_fits_8 : List UInt8 := dkwX0_fits_8 ++ dktX0_fits_9
def dkwX0_fits_7 : List UInt8 := [180, 0, 64, 42, 180, 0, 71, 182, 1, 57, 21, 6, 21, 8, 153, 0, 10, 4, 21, 7, 120, 167, 0, 4]
abbrev dktX0_fits_7 : List UInt8 := dkwX0_fits_7 ++ dktX0_fits_8
def dkwX0_fits_6 : List UInt8 := [182, 0, 168, 160, 0, 7, 4, 167, 0, 4, 3, 54, 8, 42, 182, 1, 35, 132, 9, 1, 167, 255, 210, 42]
abbrev dktX0_fits_6 : List UInt8 := dkwX0_fits_6 ++ dktX0_fits_7
def dkwX0_fits_5 : List UInt8 := [184, 1, 64, 162, 0, 42, 21, 8, 153, 0, 37, 25, 4, 21, 9, 184, 1, 68, 42, 180, 0, 64]
abbrev dktX0_fits_5 : List UInt8 := dkwX0_fits_5 ++ dktX0_fits_6
def dkwX0_fits_4 : List UInt8 := [28, 50, 21, 7, 28, 21, 5, 184, 0, 223, 181, 0, 227, 4, 54, 8, 3, 54, 9, 21, 9, 25, 4]
abbrev dktX0_fits_4 : List UInt8 := dkwX0_fits_4 ++ dktX0_fits_5
def dkwX0_fits_3 : List UInt8 := [42, 180, 0, 64, 182, 1, 57, 3, 54, 7, 21, 7, 16, 6, 163, 0, 113, 42, 180, 0, 64, 180, 0, 220]
abbrev dktX0_fits_3 : List UInt8 := dkwX0_fits_3 ++ dktX0_fits_4
def dkwX0_fits_2 : List UInt8 := [182, 0, 217, 172, 42, 180, 0, 64, 28, 182, 0, 143, 180, 0, 236, 54, 5, 3, 54, 6, 42, 180, 0, 71]
abbrev dktX0_fits_2 : List UInt8 := dkwX0_fits_2 ++ dktX0_fits_3
def dkwX0_fits_1 : List UInt8 := [42, 4, 182, 0, 217, 172, 42, 180, 0, 87, 27, 50, 180, 0, 227, 58, 4, 25, 4, 199, 0, 9, 42, 5]
abbrev dktX0_fits_1 : List UInt8 := dkwX0_fits_1 ++ dktX0_fits_2
def dkwX0_fits_0 : List UInt8 := [27, 184, 1, 61, 153, 0, 20, 42, 28, 182, 0, 230, 153, 0, 12, 29, 3, 4, 184, 0, 116, 154, 0, 9]
abbrev dktX0_fits_0 : List UInt8 := dkwX0_fits_0 ++ dktX0_fits_1
theorem dksX0_fits_0 : cX0_fits.data.toList.drop 0 = dktX0_fits_0 := by decide +kernel
theorem dksX0_fits_1 : cX0_fits.data.toList.drop 24 = dktX0_fits_1 := dk_seg dksX0_fits_0 24 rfl rfl
theorem dksX0_fits_2 : cX0_fits.data.toList.drop 48 = dktX0_fits_2 := dk_seg dksX0_fits_1 24 rfl rfl
theorem dksX0_fits_3 : cX0_fits.data.toList.drop 72 = dktX0_fits_3 := dk_seg dksX0_fits_2 24 rfl rfl
theorem dksX0_fits_4 : cX0_fits.data.toList.drop 96 = dktX0_fits_4 := dk_seg dksX0_fits_3 24 rfl rfl
theorem dksX0_fits_5 : cX0_fits.data.toList.drop 119 = dktX0_fits_5 := dk_seg dksX0_fits_4 23 rfl rfl
theorem dksX0_fits_6 : cX0_fits.data.toList.drop 141 = dktX0_fits_6 := dk_seg dksX0_fits_5 22 rfl rfl
theorem dksX0_fits_7 : cX0_fits.data.toList.drop 165 = dktX0_fits_7 := dk_seg dksX0_fits_6 24 rfl rfl
theorem dksX0_fits_8 : cX0_fits.data.toList.drop 189 = dktX0_fits_8 := dk_seg dksX0_fits_7 24 rfl rfl
theorem dksX0_fits_9 : cX0_fits.data.toList.drop 213 = dktX0_fits_9 := dk_seg dksX0_fits_8 24 rfl rfl
theorem dX0_fits_0 : decode cX0_fits 0 = .ok (.iload_n 1, 1) := dk_27 (dk_at dksX0_fits_0 0 rfl rfl)
theorem dX0_fits_1 : decode cX0_fits 1 = .ok (.invokestatic 317, 3) := dk_184 1 61 (dk_at dksX0_fits_0 1 rfl rfl)
theorem dX0_fits_4 : decode cX0_fits 4 = .ok (.ifCond .eq 20, 3) := dk_153 0 20 (dk_at dksX0_fits_0 4 rfl rfl)
theorem dX0_fits_7 : decode cX0_fits 7 = .ok (.aload_n 0, 1) := dk_42 (dk_at dksX0_fits_0 7 rfl rfl)
theorem dX0_fits_8 : decode cX0_fits 8 = .ok (.iload_n 2, 1) := dk_28 (dk_at dksX0_fits_0 8 rfl rfl)
theorem dX0_fits_9 : decode cX0_fits 9 = .ok (.invokevirtual 230, 3) := dk_182 0 230 (dk_at dksX0_fits_0 9 rfl rfl)
theorem dX0_fits_12 : decode cX0_fits 12 = .ok (.ifCond .eq 12, 3) := dk_153 0 12 (dk_at dksX0_fits_0 12 rfl rfl)
theorem dX0_fits_15 : decode cX0_fits 15 = .ok (.iload_n 3, 1) := dk_29 (dk_at dksX0_fits_0 15 rfl rfl)
theorem dX0_fits_16 : decode cX0_fits 16 = .ok (.iconst 0, 1) := dk_3 (dk_at dksX0_fits_0 16 rfl rfl)
theorem dX0_fits_17 : decode cX0_fits 17 = .ok (.iconst 1, 1) := dk_4 (dk_at dksX0_fits_0 17 rfl rfl)
theorem dX0_fits_18 : decode cX0_fits 18 = .ok (.invokestatic 116, 3) := dk_184 0 116 (dk_at dksX0_fits_0 18 rfl rfl)
theorem dX0_fits_21 : decode cX0_fits 21 = .ok (.ifCond .ne 9, 3) := dk_154 0 9 (dk_at dksX0_fits_0 21 rfl rfl)
theorem dX0_fits_24 : decode cX0_fits 24 = .ok (.aload_n 0, 1) := dk_42 (dk_at dksX0_fits_1 0 rfl rfl)
theorem dX0_fits_25 : decode cX0_fits 25 = .ok (.iconst 1, 1) := dk_4 (dk_at dksX0_fits_1 1 rfl rfl)
theorem dX0_fits_26 : decode cX0_fits 26 = .ok (.invokevirtual 217, 3) := dk_182 0 217 (dk_at dksX0_fits_1 2 rfl rfl)
theorem dX0_fits_29 : decode cX0_fits 29 = .ok (.ireturn, 1) := dk_172 (dk_at dksX0_fits_1 5 rfl rfl)
theorem dX0_fits_30 : decode cX0_fits 30 = .ok (.aload_n 0, 1) := dk_42 (dk_at dksX0_fits_1 6 rfl rfl)
theorem dX0_fits_31 : decode cX0_fits 31 = .ok (.getfield 87, 3) := dk_180 0 87 (dk_at dksX0_fits_1 7 rfl rfl)
theorem dX0_fits_34 : decode cX0_fits 34 = .ok (.iload_n 1, 1) := dk_27 (dk_at dksX0_fits_1 10 rfl rfl)
theorem dX0_fits_35 : decode cX0_fits 35 = .ok (.aaload, 1) := dk_50 (dk_at dksX0_fits_1 11 rfl rfl)
theorem dX0_fits_36 : decode cX0_fits 36 = .ok (.getfield 227, 3) := dk_180 0 227 (dk_at dksX0_fits_1 12 rfl rfl)
theorem dX0_fits_39 : decode cX0_fits 39 = .ok (.astore 4, 2) := dk_58 4 (dk_at dksX0_fits_1 15 rfl rfl)
theorem dX0_fits_41 : decode cX0_fits 41 = .ok (.aload 4, 2) := dk_25 4 (dk_at dksX0_fits_1 17 rfl rfl)
theorem dX0_fits_43 : decode cX0_fits 43 = .ok (.ifnonnull 9, 3) := dk_199 0 9 (dk_at dksX0_fits_1 19 rfl rfl)
theorem dX0_fits_46 : decode cX0_fits 46 = .ok (.aload_n 0, 1) := dk_42 (dk_at dksX0_fits_1 22 rfl rfl)
theorem dX0_fits_47 : decode cX0_fits 47 = .ok (.iconst 2, 1) := dk_5 (dk_at dksX0_fits_1 23 rfl rfl)
theorem dX0_fits_48 : decode cX0_fits 48 = .ok (.invokevirtual 217, 3) := dk_182 0 217 (dk_at dksX0_fits_2 0 rfl rfl)
theorem dX0_fits_51 : decode cX0_fits 51 = .ok (.ireturn, 1) := dk_172 (dk_at dksX0_fits_2 3 rfl rfl)
theorem dX0_fits_52 : decode cX0_fits 52 = .ok (.aload_n 0, 1) := dk_42 (dk_at dksX0_fits_2 4 rfl rfl)
theorem dX0_fits_53 : decode cX0_fits 53 = .ok (.getfield 64, 3) := dk_180 0 64 (dk_at dksX0_fits_2 5 rfl rfl)
theorem dX0_fits_56 : decode cX0_fits 56 = .ok (.iload_n 2, 1) := dk_28 (dk_at dksX0_fits_2 8 rfl rfl)
theorem dX0_fits_57 : decode cX0_fits 57 = .ok (.invokevirtual 143, 3) := dk_182 0 143 (dk_at dksX0_fits_2 9 rfl rfl)
theorem dX0_fits_60 : decode cX0_fits 60 = .ok (.getfield 236, 3) := dk_180 0 236 (dk_at dksX0_fits_2 12 rfl rfl)
theorem dX0_fits_63 : decode cX0_fits 63 = .ok (.istore 5, 2) := dk_54 5 (dk_at dksX0_fits_2 15 rfl rfl)
theorem dX0_fits_65 : decode cX0_fits 65 = .ok (.iconst 0, 1) := dk_3 (dk_at dksX0_fits_2 17 rfl rfl)
theorem dX0_fits_66 : decode cX0_fits 66 = .ok (.istore 6, 2) := dk_54 6 (dk_at dksX0_fits_2 18 rfl rfl)
theorem dX0_fits_68 : decode cX0_fits 68 = .ok (.aload_n 0, 1) := dk_42 (dk_at dksX0_fits_2 20 rfl rfl)
theorem dX0_fits_69 : decode cX0_fits 69 = .ok (.getfield 71, 3) := dk_180 0 71 (dk_at dksX0_fits_2 21 rfl rfl)
theorem dX0_fits_72 : decode cX0_fits 72 = .ok (.aload_n 0, 1) := dk_42 (dk_at dksX0_fits_3 0 rfl rfl)
theorem dX0_fits_73 : decode cX0_fits 73 = .ok (.getfield 64, 3) := dk_180 0 64 (dk_at dksX0_fits_3 1 rfl rfl)
theorem dX0_fits_76 : decode cX0_fits 76 = .ok (.invokevirtual 313, 3) := dk_182 1 57 (dk_at dksX0_fits_3 4 rfl rfl)
theorem dX0_fits_79 : decode cX0_fits 79 = .ok (.iconst 0, 1) := dk_3 (dk_at dksX0_fits_3 7 rfl rfl)
theorem dX0_fits_80 : decode cX0_fits 80 = .ok (.istore 7, 2) := dk_54 7 (dk_at dksX0_fits_3 8 rfl rfl)
theorem dX0_fits_82 : decode cX0_fits 82 = .ok (.iload 7, 2) := dk_21 7 (dk_at dksX0_fits_3 10 rfl rfl)
theorem dX0_fits_84 : decode cX0_fits 84 = .ok (.bipush 6, 2) := dk_16 6 (dk_at dksX0_fits_3 12 rfl rfl)
theorem dX0_fits_86 : decode cX0_fits 86 = .ok (.if_icmp .gt 113, 3) := dk_163 0 113 (dk_at dksX0_fits_3 14 rfl rfl)
theorem dX0_fits_89 : decode cX0_fits 89 = .ok (.aload_n 0, 1) := dk_42 (dk_at dksX0_fits_3 17 rfl rfl)
theorem dX0_fits_90 : decode cX0_fits 90 = .ok (.getfield 64, 3) := dk_180 0 64 (dk_at dksX0_fits_3 18 rfl rfl)
theorem dX0_fits_93 : decode cX0_fits 93 = .ok (.getfield 220, 3) := dk_180 0 220 (dk_at dksX0_fits_3 21 rfl rfl)
theorem dX0_fits_96 : decode cX0_fits 96 = .ok (.iload_n 2, 1) := dk_28 (dk_at dksX0_fits_4 0 rfl rfl)
theorem dX0_fits_97 : decode cX0_fits 97 = .ok (.aaload, 1) := dk_50 (dk_at dksX0_fits_4 1 rfl rfl)
theorem dX0_fits_98 : decode cX0_fits 98 = .ok (.iload 7, 2) := dk_21 7 (dk_at dksX0_fits_4 2 rfl rfl)
theorem dX0_fits_100 : decode cX0_fits 100 = .ok (.iload_n 2, 1) := dk_28 (dk_at dksX0_fits_4 4 rfl rfl)
theorem dX0_fits_101 : decode cX0_fits 101 = .ok (.iload 5, 2) := dk_21 5 (dk_at dksX0_fits_4 5 rfl rfl)
theorem dX0_fits_103 : decode cX0_fits 103 = .ok (.invokestatic 223, 3) := dk_184 0 223 (dk_at dksX0_fits_4 7 rfl rfl)
theorem dX0_fits_106 : decode cX0_fits 106 = .ok (.putfield 227, 3) := dk_181 0 227 (dk_at dksX0_fits_4 10 rfl rfl)
theorem dX0_fits_109 : decode cX0_fits 109 = .ok (.iconst 1, 1) := dk_4 (dk_at dksX0_fits_4 13 rfl rfl)
theorem dX0_fits_110 : decode cX0_fits 110 = .ok (.istore 8, 2) := dk_54 8 (dk_at dksX0_fits_4 14 rfl rfl)
theorem dX0_fits_112 : decode cX0_fits 112 = .ok (.iconst 0, 1) := dk_3 (dk_at dksX0_fits_4 16 rfl rfl)
theorem dX0_fits_113 : decode cX0_fits 113 = .ok (.istore 9, 2) := dk_54 9 (dk_at dksX0_fits_4 17 rfl rfl)
theorem dX0_fits_115 : decode cX0_fits 115 = .ok (.iload 9, 2) := dk_21 9 (dk_at dksX0_fits_4 19 rfl rfl)
theorem dX0_fits_117 : decode cX0_fits 117 = .ok (.aload 4, 2) := dk_25 4 (dk_at dksX0_fits_4 21 rfl rfl)
theorem dX0_fits_119 : decode cX0_fits 119 = .ok (.invokestatic 320, 3) := dk_184 1 64 (dk_at dksX0_fits_5 0 rfl rfl)
theorem dX0_fits_122 : decode cX0_fits 122 = .ok (.if_icmp .ge 42, 3) := dk_162 0 42 (dk_at dksX0_fits_5 3 rfl rfl)
theorem dX0_fits_125 : decode cX0_fits 125 = .ok (.iload 8, 2) := dk_21 8 (dk_at dksX0_fits_5 6 rfl rfl)
theorem dX0_fits_127 : decode cX0_fits 127 = .ok (.ifCond .eq 37, 3) := dk_153 0 37 (dk_at dksX0_fits_5 8 rfl rfl)
theorem dX0_fits_130 : decode cX0_fits 130 = .ok (.aload 4, 2) := dk_25 4 (dk_at dksX0_fits_5 11 rfl rfl)
theorem dX0_fits_132 : decode cX0_fits 132 = .ok (.iload 9, 2) := dk_21 9 (dk_at dksX0_fits_5 13 rfl rfl)
theorem dX0_fits_134 : decode cX0_fits 134 = .ok (.invokestatic 324, 3) := dk_184 1 68 (dk_at dksX0_fits_5 15 rfl rfl)
theorem dX0_fits_137 : decode cX0_fits 137 = .ok (.aload_n 0, 1) := dk_42 (dk_at dksX0_fits_5 18 rfl rfl)
theorem dX0_fits_138 : decode cX0_fits 138 = .ok (.getfield 64, 3) := dk_180 0 64 (dk_at dksX0_fits_5 19 rfl rfl)
theorem dX0_fits_141 : decode cX0_fits 141 = .ok (.invokevirtual 168, 3) := dk_182 0 168 (dk_at dksX0_fits_6 0 rfl rfl)
theorem dX0_fits_144 : decode cX0_fits 144 = .ok (.if_icmp .ne 7, 3) := dk_160 0 7 (dk_at dksX0_fits_6 3 rfl rfl)
theorem dX0_fits_147 : decode cX0_fits 147 = .ok (.iconst 1, 1) := dk_4 (dk_at dksX0_fits_6 6 rfl rfl)
theorem dX0_fits_148 : decode cX0_fits 148 = .ok (.goto 4, 3) := dk_167 0 4 (dk_at dksX0_fits_6 7 rfl rfl)
theorem dX0_fits_151 : decode cX0_fits 151 = .ok (.iconst 0, 1) := dk_3 (dk_at dksX0_fits_6 10 rfl rfl)
theorem dX0_fits_152 : decode cX0_fits 152 = .ok (.istore 8, 2) := dk_54 8 (dk_at dksX0_fits_6 11 rfl rfl)
theorem dX0_fits_154 : decode cX0_fits 154 = .ok (.aload_n 0, 1) := dk_42 (dk_at dksX0_fits_6 13 rfl rfl)
theorem dX0_fits_155 : decode cX0_fits 155 = .ok (.invokevirtual 291, 3) := dk_182 1 35 (dk_at dksX0_fits_6 14 rfl rfl)
theorem dX0_fits_158 : decode cX0_fits 158 = .ok (.iinc 9 1, 3) := dk_132 9 1 (dk_at dksX0_fits_6 17 rfl rfl)
theorem dX0_fits_161 : decode cX0_fits 161 = .ok (.goto (-46), 3) := dk_167 255 210 (dk_at dksX0_fits_6 20 rfl rfl)
theorem dX0_fits_164 : decode cX0_fits 164 = .ok (.aload_n 0, 1) := dk_42 (dk_at dksX0_fits_6 23 rfl rfl)
theorem dX0_fits_165 : decode cX0_fits 165 = .ok (.getfield 64, 3) := dk_180 0 64 (dk_at dksX0_fits_7 0 rfl rfl)
theorem dX0_fits_168 : decode cX0_fits 168 = .ok (.aload_n 0, 1) := dk_42 (dk_at dksX0_fits_7 3 rfl rfl)
theorem dX0_fits_169 : decode cX0_fits 169 = .ok (.getfield 71, 3) := dk_180 0 71 (dk_at dksX0_fits_7 4 rfl rfl)
theorem dX0_fits_172 : decode cX0_fits 172 = .ok (.invokevirtual 313, 3) := dk_182 1 57 (dk_at dksX0_fits_7 7 rfl rfl)
theorem dX0_fits_175 : decode cX0_fits 175 = .ok (.iload 6, 2) := dk_21 6 (dk_at dksX0_fits_7 10 rfl rfl)
theorem dX0_fits_177 : decode cX0_fits 177 = .ok (.iload 8, 2) := dk_21 8 (dk_at dksX0_fits_7 12 rfl rfl)
theorem dX0_fits_179 : decode cX0_fits 179 = .ok (.ifCond .eq 10, 3) := dk_153 0 10 (dk_at dksX0_fits_7 14 rfl rfl)
theorem dX0_fits_182 : decode cX0_fits 182 = .ok (.iconst 1, 1) := dk_4 (dk_at dksX0_fits_7 17 rfl rfl)
theorem dX0_fits_183 : decode cX0_fits 183 = .ok (.iload 7, 2) := dk_21 7 (dk_at dksX0_fits_7 18 rfl rfl)
theorem dX0_fits_185 : decode cX0_fits 185 = .ok (.ishl, 1) := dk_120 (dk_at dksX0_fits_7 20 rfl rfl)
theorem dX0_fits_186 : decode cX0_fits 186 = .ok (.goto 4, 3) := dk_167 0 4 (dk_at dksX0_fits_7 21 rfl rfl)
theorem dX0_fits_189 : decode cX0_fits 189 = .ok (.iconst 0, 1) := dk_3 (dk_at dksX0_fits_8 0 rfl rfl)
theorem dX0_fits_190 : decode cX0_fits 190 = .ok (.ior, 1) := dk_128 (dk_at dksX0_fits_8 1 rfl rfl)
theorem dX0_fits_191 : decode cX0_fits 191 = .ok (.istore 6, 2) := dk_54 6 (dk_at dksX0_fits_8 2 rfl rfl)
theorem dX0_fits_193 : decode cX0_fits 193 = .ok (.iinc 7 1, 3) := dk_132 7 1 (dk_at dksX0_fits_8 4 rfl rfl)
theorem dX0_fits_196 : decode cX0_fits 196 = .ok (.goto (-114), 3) := dk_167 255 142 (dk_at dksX0_fits_8 7 rfl rfl)
theorem dX0_fits_199 : decode cX0_fits 199 = .ok (.iload_n 3, 1) := dk_29 (dk_at dksX0_fits_8 10 rfl rfl)
theorem dX0_fits_200 : decode cX0_fits 200 = .ok (.ifCond .ne 8, 3) := dk_154 0 8 (dk_at dksX0_fits_8 11 rfl rfl)
theorem dX0_fits_203 : decode cX0_fits 203 = .ok (.iload 6, 2) := dk_21 6 (dk_at dksX0_fits_8 14 rfl rfl)
theorem dX0_fits_205 : decode cX0_fits 205 = .ok (.goto 8, 3) := dk_167 0 8 (dk_at dksX0_fits_8 16 rfl rfl)
theorem dX0_fits_208 : decode cX0_fits 208 = .ok (.iload 6, 2) := dk_21 6 (dk_at dksX0_fits_8 19 rfl rfl)
theorem dX0_fits_210 : decode cX0_fits 210 = .ok (.invokestatic 294, 3) := dk_184 1 38 (dk_at dksX0_fits_8 21 rfl rfl)
theorem dX0_fits_213 : decode cX0_fits 213 = .ok (.ireturn, 1) := dk_172 (dk_at dksX0_fits_9 0 rfl rfl)
abbrev cX0_isSheet : ByteArray := prog_1_method_58_code
def yX0_isSheet : MethodName := ⟨RX0, "isSheet", "(I)Z"⟩
def dkwX0_isSheet_0 : List UInt8 := [26, 3, 6, 184, 0, 116, 172]
abbrev dktX0_isSheet_0 : List UInt8 := dkwX0_isSheet_0 ++ []
theorem dksX0_isSheet_0 : cX0_isSheet.data.toList.drop 0 = dktX0_isSheet_0 := by decide +kernel
theorem dX0_isSheet_0 : decode cX0_isSheet 0 = .ok (.iload_n 0, 1) := dk_26 (dk_at dksX0_isSheet_0 0 rfl rfl)
theorem dX0_isSheet_1 : decode cX0_isSheet 1 = .ok (.iconst 0, 1) := dk_3 (dk_at dksX0_isSheet_0 1 rfl rfl)
theorem dX0_isSheet_2 : decode cX0_isSheet 2 = .ok (.iconst 3, 1) := dk_6 (dk_at dksX0_isSheet_0 2 rfl rfl)
theorem dX0_isSheet_3 : decode cX0_isSheet 3 = .ok (.invokestatic 116, 3) := dk_184 0 116 (dk_at dksX0_isSheet_0 3 rfl rfl)
theorem dX0_isSheet_6 : decode cX0_isSheet 6 = .ok (.ireturn, 1) := dk_172 (dk_at dksX0_isSheet_0 6 rfl rfl)
abbrev cX0_sizeOf : ByteArray := prog_1_method_59_code
def yX0_sizeOf : MethodName := ⟨RX0, "sizeOf", "(Ljava/lang/Object;)I"⟩
def dkwX0_sizeOf_1 : List UInt8 := [192, 1, 92, 190, 167, 0, 8, 42, 192, 1, 93, 190, 172]
abbrev dktX0_sizeOf_1 : List UInt8 := dkwX0_sizeOf_1 ++ []
def dkwX0_sizeOf_0 : List UInt8 := [42, 193, 1, 91, 153, 0, 11, 42, 192, 1, 91, 190, 167, 0, 23, 42, 193, 1, 92, 153, 0, 11, 42]
abbrev dktX0_sizeOf_0 : List UInt8 := dkwX0_sizeOf_0 ++ dktX0_sizeOf_1
theorem dksX0_sizeOf_0 : cX0_sizeOf.data.toList.drop 0 = dktX0_sizeOf_0 := by decide +kernel
theorem dksX0_sizeOf_1 : cX0_sizeOf.data.toList.drop 23 = dktX0_sizeOf_1 := dk_seg dksX0_sizeOf_0 23 rfl rfl
theorem dX0_sizeOf_0 : decode cX0_sizeOf 0 = .ok (.aload_n 0, 1) := dk_42 (dk_at dksX0_sizeOf_0 0 rfl rfl)
theorem dX0_sizeOf_1 : decode cX0_sizeOf 1 = .ok (.instanceof 347, 3) := dk_193 1 91 (dk_at dksX0_sizeOf_0 1 rfl rfl)
theorem dX0_sizeOf_4 : decode cX0_sizeOf 4 = .ok (.ifCond .eq 11, 3) := dk_153 0 11 (dk_at dksX0_sizeOf_0 4 rfl rfl)
theorem dX0_sizeOf_7 : decode cX0_sizeOf 7 = .ok (.aload_n 0, 1) := dk_42 (dk_at dksX0_sizeOf_0 7 rfl rfl)
theorem dX0_sizeOf_8 : decode cX0_sizeOf 8 = .ok (.checkcast 347, 3) := dk_192 1 91 (dk_at dksX0_sizeOf_0 8 rfl rfl)
theorem dX0_sizeOf_11 : decode cX0_sizeOf 11 = .ok (.arraylength, 1) := dk_190 (dk_at dksX0_sizeOf_0 11 rfl rfl)
theorem dX0_sizeOf_12 : decode cX0_sizeOf 12 = .ok (.goto 23, 3) := dk_167 0 23 (dk_at dksX0_sizeOf_0 12 rfl rfl)
theorem dX0_sizeOf_15 : decode cX0_sizeOf 15 = .ok (.aload_n 0, 1) := dk_42 (dk_at dksX0_sizeOf_0 15 rfl rfl)
theorem dX0_sizeOf_16 : decode cX0_sizeOf 16 = .ok (.instanceof 348, 3) := dk_193 1 92 (dk_at dksX0_sizeOf_0 16 rfl rfl)
theorem dX0_sizeOf_19 : decode cX0_sizeOf 19 = .ok (.ifCond .eq 11, 3) := dk_153 0 11 (dk_at dksX0_sizeOf_0 19 rfl rfl)
theorem dX0_sizeOf_22 : decode cX0_sizeOf 22 = .ok (.aload_n 0, 1) := dk_42 (dk_at dksX0_sizeOf_0 22 rfl rfl)
theorem dX0_sizeOf_23 : decode cX0_sizeOf 23 = .ok (.checkcast 348, 3) := dk_192 1 92 (dk_at dksX0_sizeOf_1 0 rfl rfl)
theorem dX0_sizeOf_26 : decode cX0_sizeOf 26 = .ok (.arraylength, 1) := dk_190 (dk_at dksX0_sizeOf_1 3 rfl rfl)
theorem dX0_sizeOf_27 : decode cX0_sizeOf 27 = .ok (.goto 8, 3) := dk_167 0 8 (dk_at dksX0_sizeOf_1 4 rfl rfl)
theorem dX0_sizeOf_30 : decode cX0_sizeOf 30 = .ok (.aload_n 0, 1) := dk_42 (dk_at dksX0_sizeOf_1 7 rfl rfl)
theorem dX0_sizeOf_31 : decode cX0_sizeOf 31 = .ok (.checkcast 349, 3) := dk_192 1 93 (dk_at dksX0_sizeOf_1 8 rfl rfl)
theorem dX0_sizeOf_34 : decode cX0_sizeOf 34 = .ok (.arraylength, 1) := dk_190 (dk_at dksX0_sizeOf_1 11 rfl rfl)
theorem dX0_sizeOf_35 : decode cX0_sizeOf 35 = .ok (.ireturn, 1) := dk_172 (dk_at dksX0_sizeOf_1 12 rfl rfl)
abbrev cX0_numberOf : ByteArray := prog_1_method_60_code
def yX0_numberOf : MethodName := ⟨RX0, "numberOf", "(Ljava/lang/Object;I)I"⟩
def dkwX0_numberOf_1 : List UInt8 := [192, 1, 92, 27, 53, 167, 0, 9, 42, 192, 1, 93, 27, 46, 172]
abbrev dktX0_numberOf_1 : List UInt8 := dkwX0_numberOf_1 ++ []
def dkwX0_numberOf_0 : List UInt8 := [42, 193, 1, 91, 153, 0, 12, 42, 192, 1, 91, 27, 51, 167, 0, 25, 42, 193, 1, 92, 153, 0, 12, 42]
abbrev dktX0_numberOf_0 : List UInt8 := dkwX0_numberOf_0 ++ dktX0_numberOf_1
theorem dksX0_numberOf_0 : cX0_numberOf.data.toList.drop 0 = dktX0_numberOf_0 := by decide +kernel
theorem dksX0_numberOf_1 : cX0_numberOf.data.toList.drop 24 = dktX0_numberOf_1 := dk_seg dksX0_numberOf_0 24 rfl rfl
theorem dX0_numberOf_0 : decode cX0_numberOf 0 = .ok (.aload_n 0, 1) := dk_42 (dk_at dksX0_numberOf_0 0 rfl rfl)
theorem dX0_numberOf_1 : decode cX0_numberOf 1 = .ok (.instanceof 347, 3) := dk_193 1 91 (dk_at dksX0_numberOf_0 1 rfl rfl)
theorem dX0_numberOf_4 : decode cX0_numberOf 4 = .ok (.ifCond .eq 12, 3) := dk_153 0 12 (dk_at dksX0_numberOf_0 4 rfl rfl)
theorem dX0_numberOf_7 : decode cX0_numberOf 7 = .ok (.aload_n 0, 1) := dk_42 (dk_at dksX0_numberOf_0 7 rfl rfl)
theorem dX0_numberOf_8 : decode cX0_numberOf 8 = .ok (.checkcast 347, 3) := dk_192 1 91 (dk_at dksX0_numberOf_0 8 rfl rfl)
theorem dX0_numberOf_11 : decode cX0_numberOf 11 = .ok (.iload_n 1, 1) := dk_27 (dk_at dksX0_numberOf_0 11 rfl rfl)
theorem dX0_numberOf_12 : decode cX0_numberOf 12 = .ok (.baload, 1) := dk_51 (dk_at dksX0_numberOf_0 12 rfl rfl)
theorem dX0_numberOf_13 : decode cX0_numberOf 13 = .ok (.goto 25, 3) := dk_167 0 25 (dk_at dksX0_numberOf_0 13 rfl rfl)
theorem dX0_numberOf_16 : decode cX0_numberOf 16 = .ok (.aload_n 0, 1) := dk_42 (dk_at dksX0_numberOf_0 16 rfl rfl)
theorem dX0_numberOf_17 : decode cX0_numberOf 17 = .ok (.instanceof 348, 3) := dk_193 1 92 (dk_at dksX0_numberOf_0 17 rfl rfl)
theorem dX0_numberOf_20 : decode cX0_numberOf 20 = .ok (.ifCond .eq 12, 3) := dk_153 0 12 (dk_at dksX0_numberOf_0 20 rfl rfl)
theorem dX0_numberOf_23 : decode cX0_numberOf 23 = .ok (.aload_n 0, 1) := dk_42 (dk_at dksX0_numberOf_0 23 rfl rfl)
theorem dX0_numberOf_24 : decode cX0_numberOf 24 = .ok (.checkcast 348, 3) := dk_192 1 92 (dk_at dksX0_numberOf_1 0 rfl rfl)
theorem dX0_numberOf_27 : decode cX0_numberOf 27 = .ok (.iload_n 1, 1) := dk_27 (dk_at dksX0_numberOf_1 3 rfl rfl)
theorem dX0_numberOf_28 : decode cX0_numberOf 28 = .ok (.saload, 1) := dk_53 (dk_at dksX0_numberOf_1 4 rfl rfl)
theorem dX0_numberOf_29 : decode cX0_numberOf 29 = .ok (.goto 9, 3) := dk_167 0 9 (dk_at dksX0_numberOf_1 5 rfl rfl)
theorem dX0_numberOf_32 : decode cX0_numberOf 32 = .ok (.aload_n 0, 1) := dk_42 (dk_at dksX0_numberOf_1 8 rfl rfl)
theorem dX0_numberOf_33 : decode cX0_numberOf 33 = .ok (.checkcast 349, 3) := dk_192 1 93 (dk_at dksX0_numberOf_1 9 rfl rfl)
theorem dX0_numberOf_36 : decode cX0_numberOf 36 = .ok (.iload_n 1, 1) := dk_27 (dk_at dksX0_numberOf_1 12 rfl rfl)
theorem dX0_numberOf_37 : decode cX0_numberOf 37 = .ok (.iaload, 1) := dk_46 (dk_at dksX0_numberOf_1 13 rfl rfl)
theorem dX0_numberOf_38 : decode cX0_numberOf 38 = .ok (.ireturn, 1) := dk_172 (dk_at dksX0_numberOf_1 14 rfl rfl)
abbrev cX0_voice : ByteArray := prog_1_method_56_code
def yX0_voice : MethodName := ⟨RX0, "voice", "(III)I"⟩
def dkwX0_voice_4 : List UInt8 := [25, 4, 29, 42, 180, 0, 77, 182, 1, 83, 172, 58, 5, 42, 16, 6, 182, 0, 217, 172]
abbrev dktX0_voice_4 : List UInt8 := dkwX0_voice_4 ++ []
def dkwX0_voice_3 : List UInt8 := [182, 1, 77, 167, 0, 31, 28, 5, 160, 0, 16, 25, 4, 29, 42, 180, 0, 77, 182, 1, 80, 167, 0, 13]
abbrev dktX0_voice_3 : List UInt8 := dkwX0_voice_3 ++ dktX0_voice_4
def dkwX0_voice_2 : List UInt8 := [42, 180, 0, 77, 182, 1, 73, 167, 0, 49, 28, 4, 160, 0, 16, 25, 4, 29, 42, 180, 0, 77]
abbrev dktX0_voice_2 : List UInt8 := dkwX0_voice_2 ++ dktX0_voice_3
def dkwX0_voice_1 : List UInt8 := [180, 0, 77, 3, 181, 1, 72, 42, 180, 0, 64, 27, 182, 0, 143, 58, 4, 28, 154, 0, 16, 25, 4, 29]
abbrev dktX0_voice_1 : List UInt8 := dkwX0_voice_1 ++ dktX0_voice_2
def dkwX0_voice_0 : List UInt8 := [42, 27, 182, 0, 230, 153, 0, 12, 28, 3, 6, 184, 0, 116, 154, 0, 9, 42, 4, 182, 0, 217, 172, 42]
abbrev dktX0_voice_0 : List UInt8 := dkwX0_voice_0 ++ dktX0_voice_1
theorem dksX0_voice_0 : cX0_voice.data.toList.drop 0 = dktX0_voice_0 := by decide +kernel
theorem dksX0_voice_1 : cX0_voice.data.toList.drop 24 = dktX0_voice_1 := dk_seg dksX0_voice_0 24 rfl rfl
theorem dksX0_voice_2 : cX0_voice.data.toList.drop 48 = dktX0_voice_2 := dk_seg dksX0_voice_1 24 rfl rfl
theorem dksX0_voice_3 : cX0_voice.data.toList.drop 70 = dktX0_voice_3 := dk_seg dksX0_voice_2 22 rfl rfl
theorem dksX0_voice_4 : cX0_voice.data.toList.drop 94 = dktX0_voice_4 := dk_seg dksX0_voice_3 24 rfl rfl
theorem dX0_voice_0 : decode cX0_voice 0 = .ok (.aload_n 0, 1) := dk_42 (dk_at dksX0_voice_0 0 rfl rfl)
theorem dX0_voice_1 : decode cX0_voice 1 = .ok (.iload_n 1, 1) := dk_27 (dk_at dksX0_voice_0 1 rfl rfl)
theorem dX0_voice_2 : decode cX0_voice 2 = .ok (.invokevirtual 230, 3) := dk_182 0 230 (dk_at dksX0_voice_0 2 rfl rfl)
theorem dX0_voice_5 : decode cX0_voice 5 = .ok (.ifCond .eq 12, 3) := dk_153 0 12 (dk_at dksX0_voice_0 5 rfl rfl)
theorem dX0_voice_8 : decode cX0_voice 8 = .ok (.iload_n 2, 1) := dk_28 (dk_at dksX0_voice_0 8 rfl rfl)
theorem dX0_voice_9 : decode cX0_voice 9 = .ok (.iconst 0, 1) := dk_3 (dk_at dksX0_voice_0 9 rfl rfl)
theorem dX0_voice_10 : decode cX0_voice 10 = .ok (.iconst 3, 1) := dk_6 (dk_at dksX0_voice_0 10 rfl rfl)
theorem dX0_voice_11 : decode cX0_voice 11 = .ok (.invokestatic 116, 3) := dk_184 0 116 (dk_at dksX0_voice_0 11 rfl rfl)
theorem dX0_voice_14 : decode cX0_voice 14 = .ok (.ifCond .ne 9, 3) := dk_154 0 9 (dk_at dksX0_voice_0 14 rfl rfl)
theorem dX0_voice_17 : decode cX0_voice 17 = .ok (.aload_n 0, 1) := dk_42 (dk_at dksX0_voice_0 17 rfl rfl)
theorem dX0_voice_18 : decode cX0_voice 18 = .ok (.iconst 1, 1) := dk_4 (dk_at dksX0_voice_0 18 rfl rfl)
theorem dX0_voice_19 : decode cX0_voice 19 = .ok (.invokevirtual 217, 3) := dk_182 0 217 (dk_at dksX0_voice_0 19 rfl rfl)
theorem dX0_voice_22 : decode cX0_voice 22 = .ok (.ireturn, 1) := dk_172 (dk_at dksX0_voice_0 22 rfl rfl)
theorem dX0_voice_23 : decode cX0_voice 23 = .ok (.aload_n 0, 1) := dk_42 (dk_at dksX0_voice_0 23 rfl rfl)
theorem dX0_voice_24 : decode cX0_voice 24 = .ok (.getfield 77, 3) := dk_180 0 77 (dk_at dksX0_voice_1 0 rfl rfl)
theorem dX0_voice_27 : decode cX0_voice 27 = .ok (.iconst 0, 1) := dk_3 (dk_at dksX0_voice_1 3 rfl rfl)
theorem dX0_voice_28 : decode cX0_voice 28 = .ok (.putfield 328, 3) := dk_181 1 72 (dk_at dksX0_voice_1 4 rfl rfl)
theorem dX0_voice_31 : decode cX0_voice 31 = .ok (.aload_n 0, 1) := dk_42 (dk_at dksX0_voice_1 7 rfl rfl)
theorem dX0_voice_32 : decode cX0_voice 32 = .ok (.getfield 64, 3) := dk_180 0 64 (dk_at dksX0_voice_1 8 rfl rfl)
theorem dX0_voice_35 : decode cX0_voice 35 = .ok (.iload_n 1, 1) := dk_27 (dk_at dksX0_voice_1 11 rfl rfl)
theorem dX0_voice_36 : decode cX0_voice 36 = .ok (.invokevirtual 143, 3) := dk_182 0 143 (dk_at dksX0_voice_1 12 rfl rfl)
theorem dX0_voice_39 : decode cX0_voice 39 = .ok (.astore 4, 2) := dk_58 4 (dk_at dksX0_voice_1 15 rfl rfl)
theorem dX0_voice_41 : decode cX0_voice 41 = .ok (.iload_n 2, 1) := dk_28 (dk_at dksX0_voice_1 17 rfl rfl)
theorem dX0_voice_42 : decode cX0_voice 42 = .ok (.ifCond .ne 16, 3) := dk_154 0 16 (dk_at dksX0_voice_1 18 rfl rfl)
theorem dX0_voice_45 : decode cX0_voice 45 = .ok (.aload 4, 2) := dk_25 4 (dk_at dksX0_voice_1 21 rfl rfl)
theorem dX0_voice_47 : decode cX0_voice 47 = .ok (.iload_n 3, 1) := dk_29 (dk_at dksX0_voice_1 23 rfl rfl)
theorem dX0_voice_48 : decode cX0_voice 48 = .ok (.aload_n 0, 1) := dk_42 (dk_at dksX0_voice_2 0 rfl rfl)
theorem dX0_voice_49 : decode cX0_voice 49 = .ok (.getfield 77, 3) := dk_180 0 77 (dk_at dksX0_voice_2 1 rfl rfl)
theorem dX0_voice_52 : decode cX0_voice 52 = .ok (.invokevirtual 329, 3) := dk_182 1 73 (dk_at dksX0_voice_2 4 rfl rfl)
theorem dX0_voice_55 : decode cX0_voice 55 = .ok (.goto 49, 3) := dk_167 0 49 (dk_at dksX0_voice_2 7 rfl rfl)
theorem dX0_voice_58 : decode cX0_voice 58 = .ok (.iload_n 2, 1) := dk_28 (dk_at dksX0_voice_2 10 rfl rfl)
theorem dX0_voice_59 : decode cX0_voice 59 = .ok (.iconst 1, 1) := dk_4 (dk_at dksX0_voice_2 11 rfl rfl)
theorem dX0_voice_60 : decode cX0_voice 60 = .ok (.if_icmp .ne 16, 3) := dk_160 0 16 (dk_at dksX0_voice_2 12 rfl rfl)
theorem dX0_voice_63 : decode cX0_voice 63 = .ok (.aload 4, 2) := dk_25 4 (dk_at dksX0_voice_2 15 rfl rfl)
theorem dX0_voice_65 : decode cX0_voice 65 = .ok (.iload_n 3, 1) := dk_29 (dk_at dksX0_voice_2 17 rfl rfl)
theorem dX0_voice_66 : decode cX0_voice 66 = .ok (.aload_n 0, 1) := dk_42 (dk_at dksX0_voice_2 18 rfl rfl)
theorem dX0_voice_67 : decode cX0_voice 67 = .ok (.getfield 77, 3) := dk_180 0 77 (dk_at dksX0_voice_2 19 rfl rfl)
theorem dX0_voice_70 : decode cX0_voice 70 = .ok (.invokevirtual 333, 3) := dk_182 1 77 (dk_at dksX0_voice_3 0 rfl rfl)
theorem dX0_voice_73 : decode cX0_voice 73 = .ok (.goto 31, 3) := dk_167 0 31 (dk_at dksX0_voice_3 3 rfl rfl)
theorem dX0_voice_76 : decode cX0_voice 76 = .ok (.iload_n 2, 1) := dk_28 (dk_at dksX0_voice_3 6 rfl rfl)
theorem dX0_voice_77 : decode cX0_voice 77 = .ok (.iconst 2, 1) := dk_5 (dk_at dksX0_voice_3 7 rfl rfl)
theorem dX0_voice_78 : decode cX0_voice 78 = .ok (.if_icmp .ne 16, 3) := dk_160 0 16 (dk_at dksX0_voice_3 8 rfl rfl)
theorem dX0_voice_81 : decode cX0_voice 81 = .ok (.aload 4, 2) := dk_25 4 (dk_at dksX0_voice_3 11 rfl rfl)
theorem dX0_voice_83 : decode cX0_voice 83 = .ok (.iload_n 3, 1) := dk_29 (dk_at dksX0_voice_3 13 rfl rfl)
theorem dX0_voice_84 : decode cX0_voice 84 = .ok (.aload_n 0, 1) := dk_42 (dk_at dksX0_voice_3 14 rfl rfl)
theorem dX0_voice_85 : decode cX0_voice 85 = .ok (.getfield 77, 3) := dk_180 0 77 (dk_at dksX0_voice_3 15 rfl rfl)
theorem dX0_voice_88 : decode cX0_voice 88 = .ok (.invokevirtual 336, 3) := dk_182 1 80 (dk_at dksX0_voice_3 18 rfl rfl)
theorem dX0_voice_91 : decode cX0_voice 91 = .ok (.goto 13, 3) := dk_167 0 13 (dk_at dksX0_voice_3 21 rfl rfl)
theorem dX0_voice_94 : decode cX0_voice 94 = .ok (.aload 4, 2) := dk_25 4 (dk_at dksX0_voice_4 0 rfl rfl)
theorem dX0_voice_96 : decode cX0_voice 96 = .ok (.iload_n 3, 1) := dk_29 (dk_at dksX0_voice_4 2 rfl rfl)
theorem dX0_voice_97 : decode cX0_voice 97 = .ok (.aload_n 0, 1) := dk_42 (dk_at dksX0_voice_4 3 rfl rfl)
theorem dX0_voice_98 : decode cX0_voice 98 = .ok (.getfield 77, 3) := dk_180 0 77 (dk_at dksX0_voice_4 4 rfl rfl)
theorem dX0_voice_101 : decode cX0_voice 101 = .ok (.invokevirtual 339, 3) := dk_182 1 83 (dk_at dksX0_voice_4 7 rfl rfl)
theorem dX0_voice_104 : decode cX0_voice 104 = .ok (.ireturn, 1) := dk_172 (dk_at dksX0_voice_4 10 rfl rfl)
theorem dX0_voice_105 : decode cX0_voice 105 = .ok (.astore 5, 2) := dk_58 5 (dk_at dksX0_voice_4 11 rfl rfl)
theorem dX0_voice_107 : decode cX0_voice 107 = .ok (.aload_n 0, 1) := dk_42 (dk_at dksX0_voice_4 13 rfl rfl)
theorem dX0_voice_108 : decode cX0_voice 108 = .ok (.bipush 6, 2) := dk_16 6 (dk_at dksX0_voice_4 14 rfl rfl)
theorem dX0_voice_110 : decode cX0_voice 110 = .ok (.invokevirtual 217, 3) := dk_182 0 217 (dk_at dksX0_voice_4 16 rfl rfl)
theorem dX0_voice_113 : decode cX0_voice 113 = .ok (.ireturn, 1) := dk_172 (dk_at dksX0_voice_4 19 rfl rfl)
abbrev cX0_body : ByteArray := prog_1_method_57_code
def yX0_body : MethodName := ⟨RX0, "body", "(I)I"⟩
def dkwX0_body_1 : List UInt8 := [27, 51, 167, 0, 8, 42, 5, 182, 0, 217, 172]
abbrev dktX0_body_1 : List UInt8 := dkwX0_body_1 ++ []
def dkwX0_body_0 : List UInt8 := [27, 3, 42, 180, 0, 77, 180, 1, 72, 4, 100, 184, 0, 116, 153, 0, 15, 42, 180, 0, 77, 180, 1, 88]
abbrev dktX0_body_0 : List UInt8 := dkwX0_body_0 ++ dktX0_body_1
theorem dksX0_body_0 : cX0_body.data.toList.drop 0 = dktX0_body_0 := by decide +kernel
theorem dksX0_body_1 : cX0_body.data.toList.drop 24 = dktX0_body_1 := dk_seg dksX0_body_0 24 rfl rfl
theorem dX0_body_0 : decode cX0_body 0 = .ok (.iload_n 1, 1) := dk_27 (dk_at dksX0_body_0 0 rfl rfl)
theorem dX0_body_1 : decode cX0_body 1 = .ok (.iconst 0, 1) := dk_3 (dk_at dksX0_body_0 1 rfl rfl)
theorem dX0_body_2 : decode cX0_body 2 = .ok (.aload_n 0, 1) := dk_42 (dk_at dksX0_body_0 2 rfl rfl)
theorem dX0_body_3 : decode cX0_body 3 = .ok (.getfield 77, 3) := dk_180 0 77 (dk_at dksX0_body_0 3 rfl rfl)
theorem dX0_body_6 : decode cX0_body 6 = .ok (.getfield 328, 3) := dk_180 1 72 (dk_at dksX0_body_0 6 rfl rfl)
theorem dX0_body_9 : decode cX0_body 9 = .ok (.iconst 1, 1) := dk_4 (dk_at dksX0_body_0 9 rfl rfl)
theorem dX0_body_10 : decode cX0_body 10 = .ok (.isub, 1) := dk_100 (dk_at dksX0_body_0 10 rfl rfl)
theorem dX0_body_11 : decode cX0_body 11 = .ok (.invokestatic 116, 3) := dk_184 0 116 (dk_at dksX0_body_0 11 rfl rfl)
theorem dX0_body_14 : decode cX0_body 14 = .ok (.ifCond .eq 15, 3) := dk_153 0 15 (dk_at dksX0_body_0 14 rfl rfl)
theorem dX0_body_17 : decode cX0_body 17 = .ok (.aload_n 0, 1) := dk_42 (dk_at dksX0_body_0 17 rfl rfl)
theorem dX0_body_18 : decode cX0_body 18 = .ok (.getfield 77, 3) := dk_180 0 77 (dk_at dksX0_body_0 18 rfl rfl)
theorem dX0_body_21 : decode cX0_body 21 = .ok (.getfield 344, 3) := dk_180 1 88 (dk_at dksX0_body_0 21 rfl rfl)
theorem dX0_body_24 : decode cX0_body 24 = .ok (.iload_n 1, 1) := dk_27 (dk_at dksX0_body_1 0 rfl rfl)
theorem dX0_body_25 : decode cX0_body 25 = .ok (.baload, 1) := dk_51 (dk_at dksX0_body_1 1 rfl rfl)
theorem dX0_body_26 : decode cX0_body 26 = .ok (.goto 8, 3) := dk_167 0 8 (dk_at dksX0_body_1 2 rfl rfl)
theorem dX0_body_29 : decode cX0_body 29 = .ok (.aload_n 0, 1) := dk_42 (dk_at dksX0_body_1 5 rfl rfl)
theorem dX0_body_30 : decode cX0_body 30 = .ok (.iconst 2, 1) := dk_5 (dk_at dksX0_body_1 6 rfl rfl)
theorem dX0_body_31 : decode cX0_body 31 = .ok (.invokevirtual 217, 3) := dk_182 0 217 (dk_at dksX0_body_1 7 rfl rfl)
theorem dX0_body_34 : decode cX0_body 34 = .ok (.ireturn, 1) := dk_172 (dk_at dksX0_body_1 10 rfl rfl)
abbrev cX0_sheet : ByteArray := prog_1_method_61_code
def yX0_sheet : MethodName := ⟨RX0, "sheet", "(III)I"⟩
def dkwX0_sheet_4 : List UInt8 := [4, 172, 58, 4, 42, 6, 182, 0, 217, 172]
abbrev dktX0_sheet_4 : List UInt8 := dkwX0_sheet_4 ++ []
def dkwX0_sheet_3 : List UInt8 := [29, 188, 8, 167, 0, 18, 28, 16, 16, 160, 0, 9, 29, 188, 9, 167, 0, 6, 29, 188, 10, 181, 0, 227]
abbrev dktX0_sheet_3 : List UInt8 := dkwX0_sheet_3 ++ dktX0_sheet_4
def dkwX0_sheet_2 : List UInt8 := [182, 0, 217, 172, 42, 180, 0, 87, 27, 50, 28, 154, 0, 7, 1, 167, 0, 30, 28, 16, 8, 160, 0, 9]
abbrev dktX0_sheet_2 : List UInt8 := dkwX0_sheet_2 ++ dktX0_sheet_3
def dkwX0_sheet_1 : List UInt8 := [16, 32, 159, 0, 9, 42, 4, 182, 0, 217, 172, 28, 153, 0, 15, 29, 16, 24, 164, 0, 9, 42, 4]
abbrev dktX0_sheet_1 : List UInt8 := dkwX0_sheet_1 ++ dktX0_sheet_2
def dkwX0_sheet_0 : List UInt8 := [27, 184, 1, 61, 153, 0, 25, 28, 153, 0, 27, 28, 16, 8, 159, 0, 21, 28, 16, 16, 159, 0, 15, 28]
abbrev dktX0_sheet_0 : List UInt8 := dkwX0_sheet_0 ++ dktX0_sheet_1
theorem dksX0_sheet_0 : cX0_sheet.data.toList.drop 0 = dktX0_sheet_0 := by decide +kernel
theorem dksX0_sheet_1 : cX0_sheet.data.toList.drop 24 = dktX0_sheet_1 := dk_seg dksX0_sheet_0 24 rfl rfl
theorem dksX0_sheet_2 : cX0_sheet.data.toList.drop 47 = dktX0_sheet_2 := dk_seg dksX0_sheet_1 23 rfl rfl
theorem dksX0_sheet_3 : cX0_sheet.data.toList.drop 71 = dktX0_sheet_3 := dk_seg dksX0_sheet_2 24 rfl rfl
theorem dksX0_sheet_4 : cX0_sheet.data.toList.drop 95 = dktX0_sheet_4 := dk_seg dksX0_sheet_3 24 rfl rfl
theorem dX0_sheet_0 : decode cX0_sheet 0 = .ok (.iload_n 1, 1) := dk_27 (dk_at dksX0_sheet_0 0 rfl rfl)
theorem dX0_sheet_1 : decode cX0_sheet 1 = .ok (.invokestatic 317, 3) := dk_184 1 61 (dk_at dksX0_sheet_0 1 rfl rfl)
theorem dX0_sheet_4 : decode cX0_sheet 4 = .ok (.ifCond .eq 25, 3) := dk_153 0 25 (dk_at dksX0_sheet_0 4 rfl rfl)
theorem dX0_sheet_7 : decode cX0_sheet 7 = .ok (.iload_n 2, 1) := dk_28 (dk_at dksX0_sheet_0 7 rfl rfl)
theorem dX0_sheet_8 : decode cX0_sheet 8 = .ok (.ifCond .eq 27, 3) := dk_153 0 27 (dk_at dksX0_sheet_0 8 rfl rfl)
theorem dX0_sheet_11 : decode cX0_sheet 11 = .ok (.iload_n 2, 1) := dk_28 (dk_at dksX0_sheet_0 11 rfl rfl)
theorem dX0_sheet_12 : decode cX0_sheet 12 = .ok (.bipush 8, 2) := dk_16 8 (dk_at dksX0_sheet_0 12 rfl rfl)
theorem dX0_sheet_14 : decode cX0_sheet 14 = .ok (.if_icmp .eq 21, 3) := dk_159 0 21 (dk_at dksX0_sheet_0 14 rfl rfl)
theorem dX0_sheet_17 : decode cX0_sheet 17 = .ok (.iload_n 2, 1) := dk_28 (dk_at dksX0_sheet_0 17 rfl rfl)
theorem dX0_sheet_18 : decode cX0_sheet 18 = .ok (.bipush 16, 2) := dk_16 16 (dk_at dksX0_sheet_0 18 rfl rfl)
theorem dX0_sheet_20 : decode cX0_sheet 20 = .ok (.if_icmp .eq 15, 3) := dk_159 0 15 (dk_at dksX0_sheet_0 20 rfl rfl)
theorem dX0_sheet_23 : decode cX0_sheet 23 = .ok (.iload_n 2, 1) := dk_28 (dk_at dksX0_sheet_0 23 rfl rfl)
theorem dX0_sheet_24 : decode cX0_sheet 24 = .ok (.bipush 32, 2) := dk_16 32 (dk_at dksX0_sheet_1 0 rfl rfl)
theorem dX0_sheet_26 : decode cX0_sheet 26 = .ok (.if_icmp .eq 9, 3) := dk_159 0 9 (dk_at dksX0_sheet_1 2 rfl rfl)
theorem dX0_sheet_29 : decode cX0_sheet 29 = .ok (.aload_n 0, 1) := dk_42 (dk_at dksX0_sheet_1 5 rfl rfl)
theorem dX0_sheet_30 : decode cX0_sheet 30 = .ok (.iconst 1, 1) := dk_4 (dk_at dksX0_sheet_1 6 rfl rfl)
theorem dX0_sheet_31 : decode cX0_sheet 31 = .ok (.invokevirtual 217, 3) := dk_182 0 217 (dk_at dksX0_sheet_1 7 rfl rfl)
theorem dX0_sheet_34 : decode cX0_sheet 34 = .ok (.ireturn, 1) := dk_172 (dk_at dksX0_sheet_1 10 rfl rfl)
theorem dX0_sheet_35 : decode cX0_sheet 35 = .ok (.iload_n 2, 1) := dk_28 (dk_at dksX0_sheet_1 11 rfl rfl)
theorem dX0_sheet_36 : decode cX0_sheet 36 = .ok (.ifCond .eq 15, 3) := dk_153 0 15 (dk_at dksX0_sheet_1 12 rfl rfl)
theorem dX0_sheet_39 : decode cX0_sheet 39 = .ok (.iload_n 3, 1) := dk_29 (dk_at dksX0_sheet_1 15 rfl rfl)
theorem dX0_sheet_40 : decode cX0_sheet 40 = .ok (.bipush 24, 2) := dk_16 24 (dk_at dksX0_sheet_1 16 rfl rfl)
theorem dX0_sheet_42 : decode cX0_sheet 42 = .ok (.if_icmp .le 9, 3) := dk_164 0 9 (dk_at dksX0_sheet_1 18 rfl rfl)
theorem dX0_sheet_45 : decode cX0_sheet 45 = .ok (.aload_n 0, 1) := dk_42 (dk_at dksX0_sheet_1 21 rfl rfl)
theorem dX0_sheet_46 : decode cX0_sheet 46 = .ok (.iconst 1, 1) := dk_4 (dk_at dksX0_sheet_1 22 rfl rfl)
theorem dX0_sheet_47 : decode cX0_sheet 47 = .ok (.invokevirtual 217, 3) := dk_182 0 217 (dk_at dksX0_sheet_2 0 rfl rfl)
theorem dX0_sheet_50 : decode cX0_sheet 50 = .ok (.ireturn, 1) := dk_172 (dk_at dksX0_sheet_2 3 rfl rfl)
theorem dX0_sheet_51 : decode cX0_sheet 51 = .ok (.aload_n 0, 1) := dk_42 (dk_at dksX0_sheet_2 4 rfl rfl)
theorem dX0_sheet_52 : decode cX0_sheet 52 = .ok (.getfield 87, 3) := dk_180 0 87 (dk_at dksX0_sheet_2 5 rfl rfl)
theorem dX0_sheet_55 : decode cX0_sheet 55 = .ok (.iload_n 1, 1) := dk_27 (dk_at dksX0_sheet_2 8 rfl rfl)
theorem dX0_sheet_56 : decode cX0_sheet 56 = .ok (.aaload, 1) := dk_50 (dk_at dksX0_sheet_2 9 rfl rfl)
theorem dX0_sheet_57 : decode cX0_sheet 57 = .ok (.iload_n 2, 1) := dk_28 (dk_at dksX0_sheet_2 10 rfl rfl)
theorem dX0_sheet_58 : decode cX0_sheet 58 = .ok (.ifCond .ne 7, 3) := dk_154 0 7 (dk_at dksX0_sheet_2 11 rfl rfl)
theorem dX0_sheet_61 : decode cX0_sheet 61 = .ok (.aconst_null, 1) := dk_1 (dk_at dksX0_sheet_2 14 rfl rfl)
theorem dX0_sheet_62 : decode cX0_sheet 62 = .ok (.goto 30, 3) := dk_167 0 30 (dk_at dksX0_sheet_2 15 rfl rfl)
theorem dX0_sheet_65 : decode cX0_sheet 65 = .ok (.iload_n 2, 1) := dk_28 (dk_at dksX0_sheet_2 18 rfl rfl)
theorem dX0_sheet_66 : decode cX0_sheet 66 = .ok (.bipush 8, 2) := dk_16 8 (dk_at dksX0_sheet_2 19 rfl rfl)
theorem dX0_sheet_68 : decode cX0_sheet 68 = .ok (.if_icmp .ne 9, 3) := dk_160 0 9 (dk_at dksX0_sheet_2 21 rfl rfl)
theorem dX0_sheet_71 : decode cX0_sheet 71 = .ok (.iload_n 3, 1) := dk_29 (dk_at dksX0_sheet_3 0 rfl rfl)
theorem dX0_sheet_72 : decode cX0_sheet 72 = .ok (.newarray .byte, 2) := dk_188_8 (dk_at dksX0_sheet_3 1 rfl rfl)
theorem dX0_sheet_74 : decode cX0_sheet 74 = .ok (.goto 18, 3) := dk_167 0 18 (dk_at dksX0_sheet_3 3 rfl rfl)
theorem dX0_sheet_77 : decode cX0_sheet 77 = .ok (.iload_n 2, 1) := dk_28 (dk_at dksX0_sheet_3 6 rfl rfl)
theorem dX0_sheet_78 : decode cX0_sheet 78 = .ok (.bipush 16, 2) := dk_16 16 (dk_at dksX0_sheet_3 7 rfl rfl)
theorem dX0_sheet_80 : decode cX0_sheet 80 = .ok (.if_icmp .ne 9, 3) := dk_160 0 9 (dk_at dksX0_sheet_3 9 rfl rfl)
theorem dX0_sheet_83 : decode cX0_sheet 83 = .ok (.iload_n 3, 1) := dk_29 (dk_at dksX0_sheet_3 12 rfl rfl)
theorem dX0_sheet_84 : decode cX0_sheet 84 = .ok (.newarray .short, 2) := dk_188_9 (dk_at dksX0_sheet_3 13 rfl rfl)
theorem dX0_sheet_86 : decode cX0_sheet 86 = .ok (.goto 6, 3) := dk_167 0 6 (dk_at dksX0_sheet_3 15 rfl rfl)
theorem dX0_sheet_89 : decode cX0_sheet 89 = .ok (.iload_n 3, 1) := dk_29 (dk_at dksX0_sheet_3 18 rfl rfl)
theorem dX0_sheet_90 : decode cX0_sheet 90 = .ok (.newarray .int, 2) := dk_188_10 (dk_at dksX0_sheet_3 19 rfl rfl)
theorem dX0_sheet_92 : decode cX0_sheet 92 = .ok (.putfield 227, 3) := dk_181 0 227 (dk_at dksX0_sheet_3 21 rfl rfl)
theorem dX0_sheet_95 : decode cX0_sheet 95 = .ok (.iconst 1, 1) := dk_4 (dk_at dksX0_sheet_4 0 rfl rfl)
theorem dX0_sheet_96 : decode cX0_sheet 96 = .ok (.ireturn, 1) := dk_172 (dk_at dksX0_sheet_4 1 rfl rfl)
theorem dX0_sheet_97 : decode cX0_sheet 97 = .ok (.astore 4, 2) := dk_58 4 (dk_at dksX0_sheet_4 2 rfl rfl)
theorem dX0_sheet_99 : decode cX0_sheet 99 = .ok (.aload_n 0, 1) := dk_42 (dk_at dksX0_sheet_4 4 rfl rfl)
theorem dX0_sheet_100 : decode cX0_sheet 100 = .ok (.iconst 3, 1) := dk_6 (dk_at dksX0_sheet_4 5 rfl rfl)
theorem dX0_sheet_101 : decode cX0_sheet 101 = .ok (.invokevirtual 217, 3) := dk_182 0 217 (dk_at dksX0_sheet_4 6 rfl rfl)
theorem dX0_sheet_104 : decode cX0_sheet 104 = .ok (.ireturn, 1) := dk_172 (dk_at dksX0_sheet_4 9 rfl rfl)
abbrev cX0_put : ByteArray := prog_1_method_62_code
def yX0_put : MethodName := ⟨RX0, "put", "(III)I"⟩
def dkwX0_put_4 : List UInt8 := [167, 0, 11, 25, 4, 192, 1, 93, 28, 29, 79, 4, 172]
abbrev dktX0_put_4 : List UInt8 := dkwX0_put_4 ++ []
def dkwX0_put_3 : List UInt8 := [145, 84, 167, 0, 31, 25, 4, 193, 1, 92, 153, 0, 15, 25, 4, 192, 1, 92, 28, 29, 147, 86]
abbrev dktX0_put_3 : List UInt8 := dkwX0_put_3 ++ dktX0_put_4
def dkwX0_put_2 : List UInt8 := [154, 0, 9, 42, 4, 182, 0, 217, 172, 25, 4, 193, 1, 91, 153, 0, 15, 25, 4, 192, 1, 91, 28, 29]
abbrev dktX0_put_2 : List UInt8 := dkwX0_put_2 ++ dktX0_put_3
def dkwX0_put_1 : List UInt8 := [25, 4, 199, 0, 9, 42, 5, 182, 0, 217, 172, 28, 3, 25, 4, 184, 1, 64, 4, 100, 184, 0, 116]
abbrev dktX0_put_1 : List UInt8 := dkwX0_put_1 ++ dktX0_put_2
def dkwX0_put_0 : List UInt8 := [27, 184, 1, 61, 154, 0, 9, 42, 4, 182, 0, 217, 172, 42, 180, 0, 87, 27, 50, 180, 0, 227, 58, 4]
abbrev dktX0_put_0 : List UInt8 := dkwX0_put_0 ++ dktX0_put_1
theorem dksX0_put_0 : cX0_put.data.toList.drop 0 = dktX0_put_0 := by decide +kernel
theorem dksX0_put_1 : cX0_put.data.toList.drop 24 = dktX0_put_1 := dk_seg dksX0_put_0 24 rfl rfl
theorem dksX0_put_2 : cX0_put.data.toList.drop 47 = dktX0_put_2 := dk_seg dksX0_put_1 23 rfl rfl
theorem dksX0_put_3 : cX0_put.data.toList.drop 71 = dktX0_put_3 := dk_seg dksX0_put_2 24 rfl rfl
theorem dksX0_put_4 : cX0_put.data.toList.drop 93 = dktX0_put_4 := dk_seg dksX0_put_3 22 rfl rfl
theorem dX0_put_0 : decode cX0_put 0 = .ok (.iload_n 1, 1) := dk_27 (dk_at dksX0_put_0 0 rfl rfl)
theorem dX0_put_1 : decode cX0_put 1 = .ok (.invokestatic 317, 3) := dk_184 1 61 (dk_at dksX0_put_0 1 rfl rfl)
theorem dX0_put_4 : decode cX0_put 4 = .ok (.ifCond .ne 9, 3) := dk_154 0 9 (dk_at dksX0_put_0 4 rfl rfl)
theorem dX0_put_7 : decode cX0_put 7 = .ok (.aload_n 0, 1) := dk_42 (dk_at dksX0_put_0 7 rfl rfl)
theorem dX0_put_8 : decode cX0_put 8 = .ok (.iconst 1, 1) := dk_4 (dk_at dksX0_put_0 8 rfl rfl)
theorem dX0_put_9 : decode cX0_put 9 = .ok (.invokevirtual 217, 3) := dk_182 0 217 (dk_at dksX0_put_0 9 rfl rfl)
theorem dX0_put_12 : decode cX0_put 12 = .ok (.ireturn, 1) := dk_172 (dk_at dksX0_put_0 12 rfl rfl)
theorem dX0_put_13 : decode cX0_put 13 = .ok (.aload_n 0, 1) := dk_42 (dk_at dksX0_put_0 13 rfl rfl)
theorem dX0_put_14 : decode cX0_put 14 = .ok (.getfield 87, 3) := dk_180 0 87 (dk_at dksX0_put_0 14 rfl rfl)
theorem dX0_put_17 : decode cX0_put 17 = .ok (.iload_n 1, 1) := dk_27 (dk_at dksX0_put_0 17 rfl rfl)
theorem dX0_put_18 : decode cX0_put 18 = .ok (.aaload, 1) := dk_50 (dk_at dksX0_put_0 18 rfl rfl)
theorem dX0_put_19 : decode cX0_put 19 = .ok (.getfield 227, 3) := dk_180 0 227 (dk_at dksX0_put_0 19 rfl rfl)
theorem dX0_put_22 : decode cX0_put 22 = .ok (.astore 4, 2) := dk_58 4 (dk_at dksX0_put_0 22 rfl rfl)
theorem dX0_put_24 : decode cX0_put 24 = .ok (.aload 4, 2) := dk_25 4 (dk_at dksX0_put_1 0 rfl rfl)
theorem dX0_put_26 : decode cX0_put 26 = .ok (.ifnonnull 9, 3) := dk_199 0 9 (dk_at dksX0_put_1 2 rfl rfl)
theorem dX0_put_29 : decode cX0_put 29 = .ok (.aload_n 0, 1) := dk_42 (dk_at dksX0_put_1 5 rfl rfl)
theorem dX0_put_30 : decode cX0_put 30 = .ok (.iconst 2, 1) := dk_5 (dk_at dksX0_put_1 6 rfl rfl)
theorem dX0_put_31 : decode cX0_put 31 = .ok (.invokevirtual 217, 3) := dk_182 0 217 (dk_at dksX0_put_1 7 rfl rfl)
theorem dX0_put_34 : decode cX0_put 34 = .ok (.ireturn, 1) := dk_172 (dk_at dksX0_put_1 10 rfl rfl)
theorem dX0_put_35 : decode cX0_put 35 = .ok (.iload_n 2, 1) := dk_28 (dk_at dksX0_put_1 11 rfl rfl)
theorem dX0_put_36 : decode cX0_put 36 = .ok (.iconst 0, 1) := dk_3 (dk_at dksX0_put_1 12 rfl rfl)
theorem dX0_put_37 : decode cX0_put 37 = .ok (.aload 4, 2) := dk_25 4 (dk_at dksX0_put_1 13 rfl rfl)
theorem dX0_put_39 : decode cX0_put 39 = .ok (.invokestatic 320, 3) := dk_184 1 64 (dk_at dksX0_put_1 15 rfl rfl)
theorem dX0_put_42 : decode cX0_put 42 = .ok (.iconst 1, 1) := dk_4 (dk_at dksX0_put_1 18 rfl rfl)
theorem dX0_put_43 : decode cX0_put 43 = .ok (.isub, 1) := dk_100 (dk_at dksX0_put_1 19 rfl rfl)
theorem dX0_put_44 : decode cX0_put 44 = .ok (.invokestatic 116, 3) := dk_184 0 116 (dk_at dksX0_put_1 20 rfl rfl)
theorem dX0_put_47 : decode cX0_put 47 = .ok (.ifCond .ne 9, 3) := dk_154 0 9 (dk_at dksX0_put_2 0 rfl rfl)
theorem dX0_put_50 : decode cX0_put 50 = .ok (.aload_n 0, 1) := dk_42 (dk_at dksX0_put_2 3 rfl rfl)
theorem dX0_put_51 : decode cX0_put 51 = .ok (.iconst 1, 1) := dk_4 (dk_at dksX0_put_2 4 rfl rfl)
theorem dX0_put_52 : decode cX0_put 52 = .ok (.invokevirtual 217, 3) := dk_182 0 217 (dk_at dksX0_put_2 5 rfl rfl)
theorem dX0_put_55 : decode cX0_put 55 = .ok (.ireturn, 1) := dk_172 (dk_at dksX0_put_2 8 rfl rfl)
theorem dX0_put_56 : decode cX0_put 56 = .ok (.aload 4, 2) := dk_25 4 (dk_at dksX0_put_2 9 rfl rfl)
theorem dX0_put_58 : decode cX0_put 58 = .ok (.instanceof 347, 3) := dk_193 1 91 (dk_at dksX0_put_2 11 rfl rfl)
theorem dX0_put_61 : decode cX0_put 61 = .ok (.ifCond .eq 15, 3) := dk_153 0 15 (dk_at dksX0_put_2 14 rfl rfl)
theorem dX0_put_64 : decode cX0_put 64 = .ok (.aload 4, 2) := dk_25 4 (dk_at dksX0_put_2 17 rfl rfl)
theorem dX0_put_66 : decode cX0_put 66 = .ok (.checkcast 347, 3) := dk_192 1 91 (dk_at dksX0_put_2 19 rfl rfl)
theorem dX0_put_69 : decode cX0_put 69 = .ok (.iload_n 2, 1) := dk_28 (dk_at dksX0_put_2 22 rfl rfl)
theorem dX0_put_70 : decode cX0_put 70 = .ok (.iload_n 3, 1) := dk_29 (dk_at dksX0_put_2 23 rfl rfl)
theorem dX0_put_71 : decode cX0_put 71 = .ok (.i2b, 1) := dk_145 (dk_at dksX0_put_3 0 rfl rfl)
theorem dX0_put_72 : decode cX0_put 72 = .ok (.bastore, 1) := dk_84 (dk_at dksX0_put_3 1 rfl rfl)
theorem dX0_put_73 : decode cX0_put 73 = .ok (.goto 31, 3) := dk_167 0 31 (dk_at dksX0_put_3 2 rfl rfl)
theorem dX0_put_76 : decode cX0_put 76 = .ok (.aload 4, 2) := dk_25 4 (dk_at dksX0_put_3 5 rfl rfl)
theorem dX0_put_78 : decode cX0_put 78 = .ok (.instanceof 348, 3) := dk_193 1 92 (dk_at dksX0_put_3 7 rfl rfl)
theorem dX0_put_81 : decode cX0_put 81 = .ok (.ifCond .eq 15, 3) := dk_153 0 15 (dk_at dksX0_put_3 10 rfl rfl)
theorem dX0_put_84 : decode cX0_put 84 = .ok (.aload 4, 2) := dk_25 4 (dk_at dksX0_put_3 13 rfl rfl)
theorem dX0_put_86 : decode cX0_put 86 = .ok (.checkcast 348, 3) := dk_192 1 92 (dk_at dksX0_put_3 15 rfl rfl)
theorem dX0_put_89 : decode cX0_put 89 = .ok (.iload_n 2, 1) := dk_28 (dk_at dksX0_put_3 18 rfl rfl)
theorem dX0_put_90 : decode cX0_put 90 = .ok (.iload_n 3, 1) := dk_29 (dk_at dksX0_put_3 19 rfl rfl)
theorem dX0_put_91 : decode cX0_put 91 = .ok (.i2s, 1) := dk_147 (dk_at dksX0_put_3 20 rfl rfl)
theorem dX0_put_92 : decode cX0_put 92 = .ok (.sastore, 1) := dk_86 (dk_at dksX0_put_3 21 rfl rfl)
theorem dX0_put_93 : decode cX0_put 93 = .ok (.goto 11, 3) := dk_167 0 11 (dk_at dksX0_put_4 0 rfl rfl)
theorem dX0_put_96 : decode cX0_put 96 = .ok (.aload 4, 2) := dk_25 4 (dk_at dksX0_put_4 3 rfl rfl)
theorem dX0_put_98 : decode cX0_put 98 = .ok (.checkcast 349, 3) := dk_192 1 93 (dk_at dksX0_put_4 5 rfl rfl)
theorem dX0_put_101 : decode cX0_put 101 = .ok (.iload_n 2, 1) := dk_28 (dk_at dksX0_put_4 8 rfl rfl)
theorem dX0_put_102 : decode cX0_put 102 = .ok (.iload_n 3, 1) := dk_29 (dk_at dksX0_put_4 9 rfl rfl)
theorem dX0_put_103 : decode cX0_put 103 = .ok (.iastore, 1) := dk_79 (dk_at dksX0_put_4 10 rfl rfl)
theorem dX0_put_104 : decode cX0_put 104 = .ok (.iconst 1, 1) := dk_4 (dk_at dksX0_put_4 11 rfl rfl)
theorem dX0_put_105 : decode cX0_put 105 = .ok (.ireturn, 1) := dk_172 (dk_at dksX0_put_4 12 rfl rfl)
abbrev cX0_move : ByteArray := prog_1_method_63_code
def yX0_move : MethodName := ⟨RX0, "move", "(IIIII)I"⟩
def dkwX0_move_5 : List UInt8 := [4, 182, 0, 217, 172, 25, 6, 28, 25, 7, 21, 4, 21, 5, 184, 1, 96, 21, 5, 172]
abbrev dktX0_move_5 : List UInt8 := dkwX0_move_5 ++ []
def dkwX0_move_4 : List UInt8 := [25, 6, 184, 1, 64, 28, 100, 163, 0, 16, 21, 5, 25, 7, 184, 1, 64, 21, 4, 100, 164, 0, 9, 42]
abbrev dktX0_move_4 : List UInt8 := dkwX0_move_4 ++ dktX0_move_5
def dkwX0_move_3 : List UInt8 := [58, 8, 42, 8, 182, 0, 217, 172, 21, 5, 155, 0, 37, 28, 155, 0, 33, 21, 4, 155, 0, 28, 21, 5]
abbrev dktX0_move_3 : List UInt8 := dkwX0_move_3 ++ dktX0_move_4
def dkwX0_move_2 : List UInt8 := [25, 7, 199, 0, 9, 42, 5, 182, 0, 217, 172, 25, 6, 3, 25, 7, 3, 3, 184, 1, 96, 167, 0, 11]
abbrev dktX0_move_2 : List UInt8 := dkwX0_move_2 ++ dktX0_move_3
def dkwX0_move_1 : List UInt8 := [27, 50, 180, 0, 227, 58, 6, 42, 180, 0, 87, 29, 50, 180, 0, 227, 58, 7, 25, 6, 198, 0, 8]
abbrev dktX0_move_1 : List UInt8 := dkwX0_move_1 ++ dktX0_move_2
def dkwX0_move_0 : List UInt8 := [27, 184, 1, 61, 153, 0, 10, 29, 184, 1, 61, 154, 0, 9, 42, 4, 182, 0, 217, 172, 42, 180, 0, 87]
abbrev dktX0_move_0 : List UInt8 := dkwX0_move_0 ++ dktX0_move_1
theorem dksX0_move_0 : cX0_move.data.toList.drop 0 = dktX0_move_0 := by decide +kernel
theorem dksX0_move_1 : cX0_move.data.toList.drop 24 = dktX0_move_1 := dk_seg dksX0_move_0 24 rfl rfl
theorem dksX0_move_2 : cX0_move.data.toList.drop 47 = dktX0_move_2 := dk_seg dksX0_move_1 23 rfl rfl
theorem dksX0_move_3 : cX0_move.data.toList.drop 71 = dktX0_move_3 := dk_seg dksX0_move_2 24 rfl rfl
theorem dksX0_move_4 : cX0_move.data.toList.drop 95 = dktX0_move_4 := dk_seg dksX0_move_3 24 rfl rfl
theorem dksX0_move_5 : cX0_move.data.toList.drop 119 = dktX0_move_5 := dk_seg dksX0_move_4 24 rfl rfl
theorem dX0_move_0 : decode cX0_move 0 = .ok (.iload_n 1, 1) := dk_27 (dk_at dksX0_move_0 0 rfl rfl)
theorem dX0_move_1 : decode cX0_move 1 = .ok (.invokestatic 317, 3) := dk_184 1 61 (dk_at dksX0_move_0 1 rfl rfl)
theorem dX0_move_4 : decode cX0_move 4 = .ok (.ifCond .eq 10, 3) := dk_153 0 10 (dk_at dksX0_move_0 4 rfl rfl)
theorem dX0_move_7 : decode cX0_move 7 = .ok (.iload_n 3, 1) := dk_29 (dk_at dksX0_move_0 7 rfl rfl)
theorem dX0_move_8 : decode cX0_move 8 = .ok (.invokestatic 317, 3) := dk_184 1 61 (dk_at dksX0_move_0 8 rfl rfl)
theorem dX0_move_11 : decode cX0_move 11 = .ok (.ifCond .ne 9, 3) := dk_154 0 9 (dk_at dksX0_move_0 11 rfl rfl)
theorem dX0_move_14 : decode cX0_move 14 = .ok (.aload_n 0, 1) := dk_42 (dk_at dksX0_move_0 14 rfl rfl)
theorem dX0_move_15 : decode cX0_move 15 = .ok (.iconst 1, 1) := dk_4 (dk_at dksX0_move_0 15 rfl rfl)
theorem dX0_move_16 : decode cX0_move 16 = .ok (.invokevirtual 217, 3) := dk_182 0 217 (dk_at dksX0_move_0 16 rfl rfl)
theorem dX0_move_19 : decode cX0_move 19 = .ok (.ireturn, 1) := dk_172 (dk_at dksX0_move_0 19 rfl rfl)
theorem dX0_move_20 : decode cX0_move 20 = .ok (.aload_n 0, 1) := dk_42 (dk_at dksX0_move_0 20 rfl rfl)
theorem dX0_move_21 : decode cX0_move 21 = .ok (.getfield 87, 3) := dk_180 0 87 (dk_at dksX0_move_0 21 rfl rfl)
theorem dX0_move_24 : decode cX0_move 24 = .ok (.iload_n 1, 1) := dk_27 (dk_at dksX0_move_1 0 rfl rfl)
theorem dX0_move_25 : decode cX0_move 25 = .ok (.aaload, 1) := dk_50 (dk_at dksX0_move_1 1 rfl rfl)
theorem dX0_move_26 : decode cX0_move 26 = .ok (.getfield 227, 3) := dk_180 0 227 (dk_at dksX0_move_1 2 rfl rfl)
theorem dX0_move_29 : decode cX0_move 29 = .ok (.astore 6, 2) := dk_58 6 (dk_at dksX0_move_1 5 rfl rfl)
theorem dX0_move_31 : decode cX0_move 31 = .ok (.aload_n 0, 1) := dk_42 (dk_at dksX0_move_1 7 rfl rfl)
theorem dX0_move_32 : decode cX0_move 32 = .ok (.getfield 87, 3) := dk_180 0 87 (dk_at dksX0_move_1 8 rfl rfl)
theorem dX0_move_35 : decode cX0_move 35 = .ok (.iload_n 3, 1) := dk_29 (dk_at dksX0_move_1 11 rfl rfl)
theorem dX0_move_36 : decode cX0_move 36 = .ok (.aaload, 1) := dk_50 (dk_at dksX0_move_1 12 rfl rfl)
theorem dX0_move_37 : decode cX0_move 37 = .ok (.getfield 227, 3) := dk_180 0 227 (dk_at dksX0_move_1 13 rfl rfl)
theorem dX0_move_40 : decode cX0_move 40 = .ok (.astore 7, 2) := dk_58 7 (dk_at dksX0_move_1 16 rfl rfl)
theorem dX0_move_42 : decode cX0_move 42 = .ok (.aload 6, 2) := dk_25 6 (dk_at dksX0_move_1 18 rfl rfl)
theorem dX0_move_44 : decode cX0_move 44 = .ok (.ifnull 8, 3) := dk_198 0 8 (dk_at dksX0_move_1 20 rfl rfl)
theorem dX0_move_47 : decode cX0_move 47 = .ok (.aload 7, 2) := dk_25 7 (dk_at dksX0_move_2 0 rfl rfl)
theorem dX0_move_49 : decode cX0_move 49 = .ok (.ifnonnull 9, 3) := dk_199 0 9 (dk_at dksX0_move_2 2 rfl rfl)
theorem dX0_move_52 : decode cX0_move 52 = .ok (.aload_n 0, 1) := dk_42 (dk_at dksX0_move_2 5 rfl rfl)
theorem dX0_move_53 : decode cX0_move 53 = .ok (.iconst 2, 1) := dk_5 (dk_at dksX0_move_2 6 rfl rfl)
theorem dX0_move_54 : decode cX0_move 54 = .ok (.invokevirtual 217, 3) := dk_182 0 217 (dk_at dksX0_move_2 7 rfl rfl)
theorem dX0_move_57 : decode cX0_move 57 = .ok (.ireturn, 1) := dk_172 (dk_at dksX0_move_2 10 rfl rfl)
theorem dX0_move_58 : decode cX0_move 58 = .ok (.aload 6, 2) := dk_25 6 (dk_at dksX0_move_2 11 rfl rfl)
theorem dX0_move_60 : decode cX0_move 60 = .ok (.iconst 0, 1) := dk_3 (dk_at dksX0_move_2 13 rfl rfl)
theorem dX0_move_61 : decode cX0_move 61 = .ok (.aload 7, 2) := dk_25 7 (dk_at dksX0_move_2 14 rfl rfl)
theorem dX0_move_63 : decode cX0_move 63 = .ok (.iconst 0, 1) := dk_3 (dk_at dksX0_move_2 16 rfl rfl)
theorem dX0_move_64 : decode cX0_move 64 = .ok (.iconst 0, 1) := dk_3 (dk_at dksX0_move_2 17 rfl rfl)
theorem dX0_move_65 : decode cX0_move 65 = .ok (.invokestatic 352, 3) := dk_184 1 96 (dk_at dksX0_move_2 18 rfl rfl)
theorem dX0_move_68 : decode cX0_move 68 = .ok (.goto 11, 3) := dk_167 0 11 (dk_at dksX0_move_2 21 rfl rfl)
theorem dX0_move_71 : decode cX0_move 71 = .ok (.astore 8, 2) := dk_58 8 (dk_at dksX0_move_3 0 rfl rfl)
theorem dX0_move_73 : decode cX0_move 73 = .ok (.aload_n 0, 1) := dk_42 (dk_at dksX0_move_3 2 rfl rfl)
theorem dX0_move_74 : decode cX0_move 74 = .ok (.iconst 5, 1) := dk_8 (dk_at dksX0_move_3 3 rfl rfl)
theorem dX0_move_75 : decode cX0_move 75 = .ok (.invokevirtual 217, 3) := dk_182 0 217 (dk_at dksX0_move_3 4 rfl rfl)
theorem dX0_move_78 : decode cX0_move 78 = .ok (.ireturn, 1) := dk_172 (dk_at dksX0_move_3 7 rfl rfl)
theorem dX0_move_79 : decode cX0_move 79 = .ok (.iload 5, 2) := dk_21 5 (dk_at dksX0_move_3 8 rfl rfl)
theorem dX0_move_81 : decode cX0_move 81 = .ok (.ifCond .lt 37, 3) := dk_155 0 37 (dk_at dksX0_move_3 10 rfl rfl)
theorem dX0_move_84 : decode cX0_move 84 = .ok (.iload_n 2, 1) := dk_28 (dk_at dksX0_move_3 13 rfl rfl)
theorem dX0_move_85 : decode cX0_move 85 = .ok (.ifCond .lt 33, 3) := dk_155 0 33 (dk_at dksX0_move_3 14 rfl rfl)
theorem dX0_move_88 : decode cX0_move 88 = .ok (.iload 4, 2) := dk_21 4 (dk_at dksX0_move_3 17 rfl rfl)
theorem dX0_move_90 : decode cX0_move 90 = .ok (.ifCond .lt 28, 3) := dk_155 0 28 (dk_at dksX0_move_3 19 rfl rfl)
theorem dX0_move_93 : decode cX0_move 93 = .ok (.iload 5, 2) := dk_21 5 (dk_at dksX0_move_3 22 rfl rfl)
theorem dX0_move_95 : decode cX0_move 95 = .ok (.aload 6, 2) := dk_25 6 (dk_at dksX0_move_4 0 rfl rfl)
theorem dX0_move_97 : decode cX0_move 97 = .ok (.invokestatic 320, 3) := dk_184 1 64 (dk_at dksX0_move_4 2 rfl rfl)
theorem dX0_move_100 : decode cX0_move 100 = .ok (.iload_n 2, 1) := dk_28 (dk_at dksX0_move_4 5 rfl rfl)
theorem dX0_move_101 : decode cX0_move 101 = .ok (.isub, 1) := dk_100 (dk_at dksX0_move_4 6 rfl rfl)
theorem dX0_move_102 : decode cX0_move 102 = .ok (.if_icmp .gt 16, 3) := dk_163 0 16 (dk_at dksX0_move_4 7 rfl rfl)
theorem dX0_move_105 : decode cX0_move 105 = .ok (.iload 5, 2) := dk_21 5 (dk_at dksX0_move_4 10 rfl rfl)
theorem dX0_move_107 : decode cX0_move 107 = .ok (.aload 7, 2) := dk_25 7 (dk_at dksX0_move_4 12 rfl rfl)
theorem dX0_move_109 : decode cX0_move 109 = .ok (.invokestatic 320, 3) := dk_184 1 64 (dk_at dksX0_move_4 14 rfl rfl)
theorem dX0_move_112 : decode cX0_move 112 = .ok (.iload 4, 2) := dk_21 4 (dk_at dksX0_move_4 17 rfl rfl)
theorem dX0_move_114 : decode cX0_move 114 = .ok (.isub, 1) := dk_100 (dk_at dksX0_move_4 19 rfl rfl)
theorem dX0_move_115 : decode cX0_move 115 = .ok (.if_icmp .le 9, 3) := dk_164 0 9 (dk_at dksX0_move_4 20 rfl rfl)
theorem dX0_move_118 : decode cX0_move 118 = .ok (.aload_n 0, 1) := dk_42 (dk_at dksX0_move_4 23 rfl rfl)
theorem dX0_move_119 : decode cX0_move 119 = .ok (.iconst 1, 1) := dk_4 (dk_at dksX0_move_5 0 rfl rfl)
theorem dX0_move_120 : decode cX0_move 120 = .ok (.invokevirtual 217, 3) := dk_182 0 217 (dk_at dksX0_move_5 1 rfl rfl)
theorem dX0_move_123 : decode cX0_move 123 = .ok (.ireturn, 1) := dk_172 (dk_at dksX0_move_5 4 rfl rfl)
theorem dX0_move_124 : decode cX0_move 124 = .ok (.aload 6, 2) := dk_25 6 (dk_at dksX0_move_5 5 rfl rfl)
theorem dX0_move_126 : decode cX0_move 126 = .ok (.iload_n 2, 1) := dk_28 (dk_at dksX0_move_5 7 rfl rfl)
theorem dX0_move_127 : decode cX0_move 127 = .ok (.aload 7, 2) := dk_25 7 (dk_at dksX0_move_5 8 rfl rfl)
theorem dX0_move_129 : decode cX0_move 129 = .ok (.iload 4, 2) := dk_21 4 (dk_at dksX0_move_5 10 rfl rfl)
theorem dX0_move_131 : decode cX0_move 131 = .ok (.iload 5, 2) := dk_21 5 (dk_at dksX0_move_5 12 rfl rfl)
theorem dX0_move_133 : decode cX0_move 133 = .ok (.invokestatic 352, 3) := dk_184 1 96 (dk_at dksX0_move_5 14 rfl rfl)
theorem dX0_move_136 : decode cX0_move 136 = .ok (.iload 5, 2) := dk_21 5 (dk_at dksX0_move_5 17 rfl rfl)
theorem dX0_move_138 : decode cX0_move 138 = .ok (.ireturn, 1) := dk_172 (dk_at dksX0_move_5 19 rfl rfl)
abbrev cX0_tells : ByteArray := prog_1_method_64_code
def yX0_tells : MethodName := ⟨RX0, "tells", "(I)I"⟩
def dkwX0_tells_3 : List UInt8 := [180, 0, 165, 29, 44, 29, 184, 1, 68, 79, 132, 3, 1, 167, 255, 208, 29, 172]
abbrev dktX0_tells_3 : List UInt8 := dkwX0_tells_3 ++ []
def dkwX0_tells_2 : List UInt8 := [153, 0, 38, 44, 29, 184, 1, 68, 16, 236, 16, 20, 184, 0, 116, 153, 0, 23, 42, 180, 0, 64]
abbrev dktX0_tells_2 : List UInt8 := dkwX0_tells_2 ++ dktX0_tells_3
def dkwX0_tells_1 : List UInt8 := [199, 0, 9, 42, 5, 182, 0, 217, 172, 3, 62, 29, 44, 184, 1, 64, 162, 0, 46, 42, 29, 182, 0, 230]
abbrev dktX0_tells_1 : List UInt8 := dkwX0_tells_1 ++ dktX0_tells_2
def dkwX0_tells_0 : List UInt8 := [27, 184, 1, 61, 154, 0, 9, 42, 4, 182, 0, 217, 172, 42, 180, 0, 87, 27, 50, 180, 0, 227, 77, 44]
abbrev dktX0_tells_0 : List UInt8 := dkwX0_tells_0 ++ dktX0_tells_1
theorem dksX0_tells_0 : cX0_tells.data.toList.drop 0 = dktX0_tells_0 := by decide +kernel
theorem dksX0_tells_1 : cX0_tells.data.toList.drop 24 = dktX0_tells_1 := dk_seg dksX0_tells_0 24 rfl rfl
theorem dksX0_tells_2 : cX0_tells.data.toList.drop 48 = dktX0_tells_2 := dk_seg dksX0_tells_1 24 rfl rfl
theorem dksX0_tells_3 : cX0_tells.data.toList.drop 70 = dktX0_tells_3 := dk_seg dksX0_tells_2 22 rfl rfl
theorem dX0_tells_0 : decode cX0_tells 0 = .ok (.iload_n 1, 1) := dk_27 (dk_at dksX0_tells_0 0 rfl rfl)
theorem dX0_tells_1 : decode cX0_tells 1 = .ok (.invokestatic 317, 3) := dk_184 1 61 (dk_at dksX0_tells_0 1 rfl rfl)
theorem dX0_tells_4 : decode cX0_tells 4 = .ok (.ifCond .ne 9, 3) := dk_154 0 9 (dk_at dksX0_tells_0 4 rfl rfl)
theorem dX0_tells_7 : decode cX0_tells 7 = .ok (.aload_n 0, 1) := dk_42 (dk_at dksX0_tells_0 7 rfl rfl)
theorem dX0_tells_8 : decode cX0_tells 8 = .ok (.iconst 1, 1) := dk_4 (dk_at dksX0_tells_0 8 rfl rfl)
theorem dX0_tells_9 : decode cX0_tells 9 = .ok (.invokevirtual 217, 3) := dk_182 0 217 (dk_at dksX0_tells_0 9 rfl rfl)
theorem dX0_tells_12 : decode cX0_tells 12 = .ok (.ireturn, 1) := dk_172 (dk_at dksX0_tells_0 12 rfl rfl)
theorem dX0_tells_13 : decode cX0_tells 13 = .ok (.aload_n 0, 1) := dk_42 (dk_at dksX0_tells_0 13 rfl rfl)
theorem dX0_tells_14 : decode cX0_tells 14 = .ok (.getfield 87, 3) := dk_180 0 87 (dk_at dksX0_tells_0 14 rfl rfl)
theorem dX0_tells_17 : decode cX0_tells 17 = .ok (.iload_n 1, 1) := dk_27 (dk_at dksX0_tells_0 17 rfl rfl)
theorem dX0_tells_18 : decode cX0_tells 18 = .ok (.aaload, 1) := dk_50 (dk_at dksX0_tells_0 18 rfl rfl)
theorem dX0_tells_19 : decode cX0_tells 19 = .ok (.getfield 227, 3) := dk_180 0 227 (dk_at dksX0_tells_0 19 rfl rfl)
theorem dX0_tells_22 : decode cX0_tells 22 = .ok (.astore_n 2, 1) := dk_77 (dk_at dksX0_tells_0 22 rfl rfl)
theorem dX0_tells_23 : decode cX0_tells 23 = .ok (.aload_n 2, 1) := dk_44 (dk_at dksX0_tells_0 23 rfl rfl)
theorem dX0_tells_24 : decode cX0_tells 24 = .ok (.ifnonnull 9, 3) := dk_199 0 9 (dk_at dksX0_tells_1 0 rfl rfl)
theorem dX0_tells_27 : decode cX0_tells 27 = .ok (.aload_n 0, 1) := dk_42 (dk_at dksX0_tells_1 3 rfl rfl)
theorem dX0_tells_28 : decode cX0_tells 28 = .ok (.iconst 2, 1) := dk_5 (dk_at dksX0_tells_1 4 rfl rfl)
theorem dX0_tells_29 : decode cX0_tells 29 = .ok (.invokevirtual 217, 3) := dk_182 0 217 (dk_at dksX0_tells_1 5 rfl rfl)
theorem dX0_tells_32 : decode cX0_tells 32 = .ok (.ireturn, 1) := dk_172 (dk_at dksX0_tells_1 8 rfl rfl)
theorem dX0_tells_33 : decode cX0_tells 33 = .ok (.iconst 0, 1) := dk_3 (dk_at dksX0_tells_1 9 rfl rfl)
theorem dX0_tells_34 : decode cX0_tells 34 = .ok (.istore_n 3, 1) := dk_62 (dk_at dksX0_tells_1 10 rfl rfl)
theorem dX0_tells_35 : decode cX0_tells 35 = .ok (.iload_n 3, 1) := dk_29 (dk_at dksX0_tells_1 11 rfl rfl)
theorem dX0_tells_36 : decode cX0_tells 36 = .ok (.aload_n 2, 1) := dk_44 (dk_at dksX0_tells_1 12 rfl rfl)
theorem dX0_tells_37 : decode cX0_tells 37 = .ok (.invokestatic 320, 3) := dk_184 1 64 (dk_at dksX0_tells_1 13 rfl rfl)
theorem dX0_tells_40 : decode cX0_tells 40 = .ok (.if_icmp .ge 46, 3) := dk_162 0 46 (dk_at dksX0_tells_1 16 rfl rfl)
theorem dX0_tells_43 : decode cX0_tells 43 = .ok (.aload_n 0, 1) := dk_42 (dk_at dksX0_tells_1 19 rfl rfl)
theorem dX0_tells_44 : decode cX0_tells 44 = .ok (.iload_n 3, 1) := dk_29 (dk_at dksX0_tells_1 20 rfl rfl)
theorem dX0_tells_45 : decode cX0_tells 45 = .ok (.invokevirtual 230, 3) := dk_182 0 230 (dk_at dksX0_tells_1 21 rfl rfl)
theorem dX0_tells_48 : decode cX0_tells 48 = .ok (.ifCond .eq 38, 3) := dk_153 0 38 (dk_at dksX0_tells_2 0 rfl rfl)
theorem dX0_tells_51 : decode cX0_tells 51 = .ok (.aload_n 2, 1) := dk_44 (dk_at dksX0_tells_2 3 rfl rfl)
theorem dX0_tells_52 : decode cX0_tells 52 = .ok (.iload_n 3, 1) := dk_29 (dk_at dksX0_tells_2 4 rfl rfl)
theorem dX0_tells_53 : decode cX0_tells 53 = .ok (.invokestatic 324, 3) := dk_184 1 68 (dk_at dksX0_tells_2 5 rfl rfl)
theorem dX0_tells_56 : decode cX0_tells 56 = .ok (.bipush (-20), 2) := dk_16 236 (dk_at dksX0_tells_2 8 rfl rfl)
theorem dX0_tells_58 : decode cX0_tells 58 = .ok (.bipush 20, 2) := dk_16 20 (dk_at dksX0_tells_2 10 rfl rfl)
theorem dX0_tells_60 : decode cX0_tells 60 = .ok (.invokestatic 116, 3) := dk_184 0 116 (dk_at dksX0_tells_2 12 rfl rfl)
theorem dX0_tells_63 : decode cX0_tells 63 = .ok (.ifCond .eq 23, 3) := dk_153 0 23 (dk_at dksX0_tells_2 15 rfl rfl)
theorem dX0_tells_66 : decode cX0_tells 66 = .ok (.aload_n 0, 1) := dk_42 (dk_at dksX0_tells_2 18 rfl rfl)
theorem dX0_tells_67 : decode cX0_tells 67 = .ok (.getfield 64, 3) := dk_180 0 64 (dk_at dksX0_tells_2 19 rfl rfl)
theorem dX0_tells_70 : decode cX0_tells 70 = .ok (.getfield 165, 3) := dk_180 0 165 (dk_at dksX0_tells_3 0 rfl rfl)
theorem dX0_tells_73 : decode cX0_tells 73 = .ok (.iload_n 3, 1) := dk_29 (dk_at dksX0_tells_3 3 rfl rfl)
theorem dX0_tells_74 : decode cX0_tells 74 = .ok (.aload_n 2, 1) := dk_44 (dk_at dksX0_tells_3 4 rfl rfl)
theorem dX0_tells_75 : decode cX0_tells 75 = .ok (.iload_n 3, 1) := dk_29 (dk_at dksX0_tells_3 5 rfl rfl)
theorem dX0_tells_76 : decode cX0_tells 76 = .ok (.invokestatic 324, 3) := dk_184 1 68 (dk_at dksX0_tells_3 6 rfl rfl)
theorem dX0_tells_79 : decode cX0_tells 79 = .ok (.iastore, 1) := dk_79 (dk_at dksX0_tells_3 9 rfl rfl)
theorem dX0_tells_80 : decode cX0_tells 80 = .ok (.iinc 3 1, 3) := dk_132 3 1 (dk_at dksX0_tells_3 10 rfl rfl)
theorem dX0_tells_83 : decode cX0_tells 83 = .ok (.goto (-48), 3) := dk_167 255 208 (dk_at dksX0_tells_3 13 rfl rfl)
theorem dX0_tells_86 : decode cX0_tells 86 = .ok (.iload_n 3, 1) := dk_29 (dk_at dksX0_tells_3 16 rfl rfl)
theorem dX0_tells_87 : decode cX0_tells 87 = .ok (.ireturn, 1) := dk_172 (dk_at dksX0_tells_3 17 rfl rfl)
abbrev cX0_judge : ByteArray := prog_1_method_65_code
def yX0_judge : MethodName := ⟨RX0, "judge", "(I)I"⟩
def dkwX0_judge_3 : List UInt8 := [167, 255, 220, 29, 172]
abbrev dktX0_judge_3 : List UInt8 := dkwX0_judge_3 ++ []
def dkwX0_judge_2 : List UInt8 := [153, 0, 26, 44, 29, 184, 1, 68, 42, 180, 0, 64, 180, 0, 165, 29, 46, 160, 0, 9, 132, 3, 1]
abbrev dktX0_judge_2 : List UInt8 := dkwX0_judge_2 ++ dktX0_judge_3
def dkwX0_judge_1 : List UInt8 := [199, 0, 9, 42, 5, 182, 0, 217, 172, 3, 62, 29, 44, 184, 1, 64, 162, 0, 34, 42, 29, 182, 0, 230]
abbrev dktX0_judge_1 : List UInt8 := dkwX0_judge_1 ++ dktX0_judge_2
def dkwX0_judge_0 : List UInt8 := [27, 184, 1, 61, 154, 0, 9, 42, 4, 182, 0, 217, 172, 42, 180, 0, 87, 27, 50, 180, 0, 227, 77, 44]
abbrev dktX0_judge_0 : List UInt8 := dkwX0_judge_0 ++ dktX0_judge_1
theorem dksX0_judge_0 : cX0_judge.data.toList.drop 0 = dktX0_judge_0 := by decide +kernel
theorem dksX0_judge_1 : cX0_judge.data.toList.drop 24 = dktX0_judge_1 := dk_seg dksX0_judge_0 24 rfl rfl
theorem dksX0_judge_2 : cX0_judge.data.toList.drop 48 = dktX0_judge_2 := dk_seg dksX0_judge_1 24 rfl rfl
theorem dksX0_judge_3 : cX0_judge.data.toList.drop 71 = dktX0_judge_3 := dk_seg dksX0_judge_2 23 rfl rfl
theorem dX0_judge_0 : decode cX0_judge 0 = .ok (.iload_n 1, 1) := dk_27 (dk_at dksX0_judge_0 0 rfl rfl)
theorem dX0_judge_1 : decode cX0_judge 1 = .ok (.invokestatic 317, 3) := dk_184 1 61 (dk_at dksX0_judge_0 1 rfl rfl)
theorem dX0_judge_4 : decode cX0_judge 4 = .ok (.ifCond .ne 9, 3) := dk_154 0 9 (dk_at dksX0_judge_0 4 rfl rfl)
theorem dX0_judge_7 : decode cX0_judge 7 = .ok (.aload_n 0, 1) := dk_42 (dk_at dksX0_judge_0 7 rfl rfl)
theorem dX0_judge_8 : decode cX0_judge 8 = .ok (.iconst 1, 1) := dk_4 (dk_at dksX0_judge_0 8 rfl rfl)
theorem dX0_judge_9 : decode cX0_judge 9 = .ok (.invokevirtual 217, 3) := dk_182 0 217 (dk_at dksX0_judge_0 9 rfl rfl)
theorem dX0_judge_12 : decode cX0_judge 12 = .ok (.ireturn, 1) := dk_172 (dk_at dksX0_judge_0 12 rfl rfl)
theorem dX0_judge_13 : decode cX0_judge 13 = .ok (.aload_n 0, 1) := dk_42 (dk_at dksX0_judge_0 13 rfl rfl)
theorem dX0_judge_14 : decode cX0_judge 14 = .ok (.getfield 87, 3) := dk_180 0 87 (dk_at dksX0_judge_0 14 rfl rfl)
theorem dX0_judge_17 : decode cX0_judge 17 = .ok (.iload_n 1, 1) := dk_27 (dk_at dksX0_judge_0 17 rfl rfl)
theorem dX0_judge_18 : decode cX0_judge 18 = .ok (.aaload, 1) := dk_50 (dk_at dksX0_judge_0 18 rfl rfl)
theorem dX0_judge_19 : decode cX0_judge 19 = .ok (.getfield 227, 3) := dk_180 0 227 (dk_at dksX0_judge_0 19 rfl rfl)
theorem dX0_judge_22 : decode cX0_judge 22 = .ok (.astore_n 2, 1) := dk_77 (dk_at dksX0_judge_0 22 rfl rfl)
theorem dX0_judge_23 : decode cX0_judge 23 = .ok (.aload_n 2, 1) := dk_44 (dk_at dksX0_judge_0 23 rfl rfl)
theorem dX0_judge_24 : decode cX0_judge 24 = .ok (.ifnonnull 9, 3) := dk_199 0 9 (dk_at dksX0_judge_1 0 rfl rfl)
theorem dX0_judge_27 : decode cX0_judge 27 = .ok (.aload_n 0, 1) := dk_42 (dk_at dksX0_judge_1 3 rfl rfl)
theorem dX0_judge_28 : decode cX0_judge 28 = .ok (.iconst 2, 1) := dk_5 (dk_at dksX0_judge_1 4 rfl rfl)
theorem dX0_judge_29 : decode cX0_judge 29 = .ok (.invokevirtual 217, 3) := dk_182 0 217 (dk_at dksX0_judge_1 5 rfl rfl)
theorem dX0_judge_32 : decode cX0_judge 32 = .ok (.ireturn, 1) := dk_172 (dk_at dksX0_judge_1 8 rfl rfl)
theorem dX0_judge_33 : decode cX0_judge 33 = .ok (.iconst 0, 1) := dk_3 (dk_at dksX0_judge_1 9 rfl rfl)
theorem dX0_judge_34 : decode cX0_judge 34 = .ok (.istore_n 3, 1) := dk_62 (dk_at dksX0_judge_1 10 rfl rfl)
theorem dX0_judge_35 : decode cX0_judge 35 = .ok (.iload_n 3, 1) := dk_29 (dk_at dksX0_judge_1 11 rfl rfl)
theorem dX0_judge_36 : decode cX0_judge 36 = .ok (.aload_n 2, 1) := dk_44 (dk_at dksX0_judge_1 12 rfl rfl)
theorem dX0_judge_37 : decode cX0_judge 37 = .ok (.invokestatic 320, 3) := dk_184 1 64 (dk_at dksX0_judge_1 13 rfl rfl)
theorem dX0_judge_40 : decode cX0_judge 40 = .ok (.if_icmp .ge 34, 3) := dk_162 0 34 (dk_at dksX0_judge_1 16 rfl rfl)
theorem dX0_judge_43 : decode cX0_judge 43 = .ok (.aload_n 0, 1) := dk_42 (dk_at dksX0_judge_1 19 rfl rfl)
theorem dX0_judge_44 : decode cX0_judge 44 = .ok (.iload_n 3, 1) := dk_29 (dk_at dksX0_judge_1 20 rfl rfl)
theorem dX0_judge_45 : decode cX0_judge 45 = .ok (.invokevirtual 230, 3) := dk_182 0 230 (dk_at dksX0_judge_1 21 rfl rfl)
theorem dX0_judge_48 : decode cX0_judge 48 = .ok (.ifCond .eq 26, 3) := dk_153 0 26 (dk_at dksX0_judge_2 0 rfl rfl)
theorem dX0_judge_51 : decode cX0_judge 51 = .ok (.aload_n 2, 1) := dk_44 (dk_at dksX0_judge_2 3 rfl rfl)
theorem dX0_judge_52 : decode cX0_judge 52 = .ok (.iload_n 3, 1) := dk_29 (dk_at dksX0_judge_2 4 rfl rfl)
theorem dX0_judge_53 : decode cX0_judge 53 = .ok (.invokestatic 324, 3) := dk_184 1 68 (dk_at dksX0_judge_2 5 rfl rfl)
theorem dX0_judge_56 : decode cX0_judge 56 = .ok (.aload_n 0, 1) := dk_42 (dk_at dksX0_judge_2 8 rfl rfl)
theorem dX0_judge_57 : decode cX0_judge 57 = .ok (.getfield 64, 3) := dk_180 0 64 (dk_at dksX0_judge_2 9 rfl rfl)
theorem dX0_judge_60 : decode cX0_judge 60 = .ok (.getfield 165, 3) := dk_180 0 165 (dk_at dksX0_judge_2 12 rfl rfl)
theorem dX0_judge_63 : decode cX0_judge 63 = .ok (.iload_n 3, 1) := dk_29 (dk_at dksX0_judge_2 15 rfl rfl)
theorem dX0_judge_64 : decode cX0_judge 64 = .ok (.iaload, 1) := dk_46 (dk_at dksX0_judge_2 16 rfl rfl)
theorem dX0_judge_65 : decode cX0_judge 65 = .ok (.if_icmp .ne 9, 3) := dk_160 0 9 (dk_at dksX0_judge_2 17 rfl rfl)
theorem dX0_judge_68 : decode cX0_judge 68 = .ok (.iinc 3 1, 3) := dk_132 3 1 (dk_at dksX0_judge_2 20 rfl rfl)
theorem dX0_judge_71 : decode cX0_judge 71 = .ok (.goto (-36), 3) := dk_167 255 220 (dk_at dksX0_judge_3 0 rfl rfl)
theorem dX0_judge_74 : decode cX0_judge 74 = .ok (.iload_n 3, 1) := dk_29 (dk_at dksX0_judge_3 3 rfl rfl)
theorem dX0_judge_75 : decode cX0_judge 75 = .ok (.ireturn, 1) := dk_172 (dk_at dksX0_judge_3 4 rfl rfl)
abbrev cX0_image : ByteArray := prog_1_method_66_code
def yX0_image : MethodName := ⟨RX0, "image", "()I"⟩
def dkwX0_image_1 : List UInt8 := [180, 1, 104, 172]
abbrev dktX0_image_1 : List UInt8 := dkwX0_image_1 ++ []
def dkwX0_image_0 : List UInt8 := [42, 180, 0, 68, 42, 180, 0, 64, 182, 1, 57, 42, 89, 180, 1, 104, 4, 96, 181, 1, 104, 42]
abbrev dktX0_image_0 : List UInt8 := dkwX0_image_0 ++ dktX0_image_1
theorem dksX0_image_0 : cX0_image.data.toList.drop 0 = dktX0_image_0 := by decide +kernel
theorem dksX0_image_1 : cX0_image.data.toList.drop 22 = dktX0_image_1 := dk_seg dksX0_image_0 22 rfl rfl
theorem dX0_image_0 : decode cX0_image 0 = .ok (.aload_n 0, 1) := dk_42 (dk_at dksX0_image_0 0 rfl rfl)
theorem dX0_image_1 : decode cX0_image 1 = .ok (.getfield 68, 3) := dk_180 0 68 (dk_at dksX0_image_0 1 rfl rfl)
theorem dX0_image_4 : decode cX0_image 4 = .ok (.aload_n 0, 1) := dk_42 (dk_at dksX0_image_0 4 rfl rfl)
theorem dX0_image_5 : decode cX0_image 5 = .ok (.getfield 64, 3) := dk_180 0 64 (dk_at dksX0_image_0 5 rfl rfl)
theorem dX0_image_8 : decode cX0_image 8 = .ok (.invokevirtual 313, 3) := dk_182 1 57 (dk_at dksX0_image_0 8 rfl rfl)
theorem dX0_image_11 : decode cX0_image 11 = .ok (.aload_n 0, 1) := dk_42 (dk_at dksX0_image_0 11 rfl rfl)
theorem dX0_image_12 : decode cX0_image 12 = .ok (.dup, 1) := dk_89 (dk_at dksX0_image_0 12 rfl rfl)
theorem dX0_image_13 : decode cX0_image 13 = .ok (.getfield 360, 3) := dk_180 1 104 (dk_at dksX0_image_0 13 rfl rfl)
theorem dX0_image_16 : decode cX0_image 16 = .ok (.iconst 1, 1) := dk_4 (dk_at dksX0_image_0 16 rfl rfl)
theorem dX0_image_17 : decode cX0_image 17 = .ok (.iadd, 1) := dk_96 (dk_at dksX0_image_0 17 rfl rfl)
theorem dX0_image_18 : decode cX0_image 18 = .ok (.putfield 360, 3) := dk_181 1 104 (dk_at dksX0_image_0 18 rfl rfl)
theorem dX0_image_21 : decode cX0_image 21 = .ok (.aload_n 0, 1) := dk_42 (dk_at dksX0_image_0 21 rfl rfl)
theorem dX0_image_22 : decode cX0_image 22 = .ok (.getfield 360, 3) := dk_180 1 104 (dk_at dksX0_image_1 0 rfl rfl)
theorem dX0_image_25 : decode cX0_image 25 = .ok (.ireturn, 1) := dk_172 (dk_at dksX0_image_1 3 rfl rfl)
abbrev cX0_restore : ByteArray := prog_1_method_67_code
def yX0_restore : MethodName := ⟨RX0, "restore", "()I"⟩
def dkwX0_restore_1 : List UInt8 := [42, 180, 0, 64, 180, 0, 156, 172]
abbrev dktX0_restore_1 : List UInt8 := dkwX0_restore_1 ++ []
def dkwX0_restore_0 : List UInt8 := [42, 180, 1, 104, 154, 0, 9, 42, 5, 182, 0, 217, 172, 42, 180, 0, 64, 42, 180, 0, 68, 182, 1, 57]
abbrev dktX0_restore_0 : List UInt8 := dkwX0_restore_0 ++ dktX0_restore_1
theorem dksX0_restore_0 : cX0_restore.data.toList.drop 0 = dktX0_restore_0 := by decide +kernel
theorem dksX0_restore_1 : cX0_restore.data.toList.drop 24 = dktX0_restore_1 := dk_seg dksX0_restore_0 24 rfl rfl
theorem dX0_restore_0 : decode cX0_restore 0 = .ok (.aload_n 0, 1) := dk_42 (dk_at dksX0_restore_0 0 rfl rfl)
theorem dX0_restore_1 : decode cX0_restore 1 = .ok (.getfield 360, 3) := dk_180 1 104 (dk_at dksX0_restore_0 1 rfl rfl)
theorem dX0_restore_4 : decode cX0_restore 4 = .ok (.ifCond .ne 9, 3) := dk_154 0 9 (dk_at dksX0_restore_0 4 rfl rfl)
theorem dX0_restore_7 : decode cX0_restore 7 = .ok (.aload_n 0, 1) := dk_42 (dk_at dksX0_restore_0 7 rfl rfl)
theorem dX0_restore_8 : decode cX0_restore 8 = .ok (.iconst 2, 1) := dk_5 (dk_at dksX0_restore_0 8 rfl rfl)
theorem dX0_restore_9 : decode cX0_restore 9 = .ok (.invokevirtual 217, 3) := dk_182 0 217 (dk_at dksX0_restore_0 9 rfl rfl)
theorem dX0_restore_12 : decode cX0_restore 12 = .ok (.ireturn, 1) := dk_172 (dk_at dksX0_restore_0 12 rfl rfl)
theorem dX0_restore_13 : decode cX0_restore 13 = .ok (.aload_n 0, 1) := dk_42 (dk_at dksX0_restore_0 13 rfl rfl)
theorem dX0_restore_14 : decode cX0_restore 14 = .ok (.getfield 64, 3) := dk_180 0 64 (dk_at dksX0_restore_0 14 rfl rfl)
theorem dX0_restore_17 : decode cX0_restore 17 = .ok (.aload_n 0, 1) := dk_42 (dk_at dksX0_restore_0 17 rfl rfl)
theorem dX0_restore_18 : decode cX0_restore 18 = .ok (.getfield 68, 3) := dk_180 0 68 (dk_at dksX0_restore_0 18 rfl rfl)
theorem dX0_restore_21 : decode cX0_restore 21 = .ok (.invokevirtual 313, 3) := dk_182 1 57 (dk_at dksX0_restore_0 21 rfl rfl)
theorem dX0_restore_24 : decode cX0_restore 24 = .ok (.aload_n 0, 1) := dk_42 (dk_at dksX0_restore_1 0 rfl rfl)
theorem dX0_restore_25 : decode cX0_restore 25 = .ok (.getfield 64, 3) := dk_180 0 64 (dk_at dksX0_restore_1 1 rfl rfl)
theorem dX0_restore_28 : decode cX0_restore 28 = .ok (.getfield 156, 3) := dk_180 0 156 (dk_at dksX0_restore_1 4 rfl rfl)
theorem dX0_restore_31 : decode cX0_restore 31 = .ok (.ireturn, 1) := dk_172 (dk_at dksX0_restore_1 7 rfl rfl)
abbrev cX0_tell : ByteArray := prog_1_method_68_code
def yX0_tell : MethodName := ⟨RX0, "tell", "(I)I"⟩
def dkwX0_tell_2 : List UInt8 := [181, 1, 107, 42, 180, 0, 64, 180, 1, 107, 172]
abbrev dktX0_tell_2 : List UInt8 := dkwX0_tell_2 ++ []
def dkwX0_tell_1 : List UInt8 := [180, 1, 110, 42, 180, 0, 64, 180, 1, 107, 27, 79, 42, 180, 0, 64, 89, 180, 1, 107, 4, 96]
abbrev dktX0_tell_1 : List UInt8 := dkwX0_tell_1 ++ dktX0_tell_2
def dkwX0_tell_0 : List UInt8 := [42, 180, 0, 64, 180, 1, 107, 16, 24, 160, 0, 9, 42, 7, 182, 0, 217, 172, 42, 180, 0, 64]
abbrev dktX0_tell_0 : List UInt8 := dkwX0_tell_0 ++ dktX0_tell_1
theorem dksX0_tell_0 : cX0_tell.data.toList.drop 0 = dktX0_tell_0 := by decide +kernel
theorem dksX0_tell_1 : cX0_tell.data.toList.drop 22 = dktX0_tell_1 := dk_seg dksX0_tell_0 22 rfl rfl
theorem dksX0_tell_2 : cX0_tell.data.toList.drop 44 = dktX0_tell_2 := dk_seg dksX0_tell_1 22 rfl rfl
theorem dX0_tell_0 : decode cX0_tell 0 = .ok (.aload_n 0, 1) := dk_42 (dk_at dksX0_tell_0 0 rfl rfl)
theorem dX0_tell_1 : decode cX0_tell 1 = .ok (.getfield 64, 3) := dk_180 0 64 (dk_at dksX0_tell_0 1 rfl rfl)
theorem dX0_tell_4 : decode cX0_tell 4 = .ok (.getfield 363, 3) := dk_180 1 107 (dk_at dksX0_tell_0 4 rfl rfl)
theorem dX0_tell_7 : decode cX0_tell 7 = .ok (.bipush 24, 2) := dk_16 24 (dk_at dksX0_tell_0 7 rfl rfl)
theorem dX0_tell_9 : decode cX0_tell 9 = .ok (.if_icmp .ne 9, 3) := dk_160 0 9 (dk_at dksX0_tell_0 9 rfl rfl)
theorem dX0_tell_12 : decode cX0_tell 12 = .ok (.aload_n 0, 1) := dk_42 (dk_at dksX0_tell_0 12 rfl rfl)
theorem dX0_tell_13 : decode cX0_tell 13 = .ok (.iconst 4, 1) := dk_7 (dk_at dksX0_tell_0 13 rfl rfl)
theorem dX0_tell_14 : decode cX0_tell 14 = .ok (.invokevirtual 217, 3) := dk_182 0 217 (dk_at dksX0_tell_0 14 rfl rfl)
theorem dX0_tell_17 : decode cX0_tell 17 = .ok (.ireturn, 1) := dk_172 (dk_at dksX0_tell_0 17 rfl rfl)
theorem dX0_tell_18 : decode cX0_tell 18 = .ok (.aload_n 0, 1) := dk_42 (dk_at dksX0_tell_0 18 rfl rfl)
theorem dX0_tell_19 : decode cX0_tell 19 = .ok (.getfield 64, 3) := dk_180 0 64 (dk_at dksX0_tell_0 19 rfl rfl)
theorem dX0_tell_22 : decode cX0_tell 22 = .ok (.getfield 366, 3) := dk_180 1 110 (dk_at dksX0_tell_1 0 rfl rfl)
theorem dX0_tell_25 : decode cX0_tell 25 = .ok (.aload_n 0, 1) := dk_42 (dk_at dksX0_tell_1 3 rfl rfl)
theorem dX0_tell_26 : decode cX0_tell 26 = .ok (.getfield 64, 3) := dk_180 0 64 (dk_at dksX0_tell_1 4 rfl rfl)
theorem dX0_tell_29 : decode cX0_tell 29 = .ok (.getfield 363, 3) := dk_180 1 107 (dk_at dksX0_tell_1 7 rfl rfl)
theorem dX0_tell_32 : decode cX0_tell 32 = .ok (.iload_n 1, 1) := dk_27 (dk_at dksX0_tell_1 10 rfl rfl)
theorem dX0_tell_33 : decode cX0_tell 33 = .ok (.iastore, 1) := dk_79 (dk_at dksX0_tell_1 11 rfl rfl)
theorem dX0_tell_34 : decode cX0_tell 34 = .ok (.aload_n 0, 1) := dk_42 (dk_at dksX0_tell_1 12 rfl rfl)
theorem dX0_tell_35 : decode cX0_tell 35 = .ok (.getfield 64, 3) := dk_180 0 64 (dk_at dksX0_tell_1 13 rfl rfl)
theorem dX0_tell_38 : decode cX0_tell 38 = .ok (.dup, 1) := dk_89 (dk_at dksX0_tell_1 16 rfl rfl)
theorem dX0_tell_39 : decode cX0_tell 39 = .ok (.getfield 363, 3) := dk_180 1 107 (dk_at dksX0_tell_1 17 rfl rfl)
theorem dX0_tell_42 : decode cX0_tell 42 = .ok (.iconst 1, 1) := dk_4 (dk_at dksX0_tell_1 20 rfl rfl)
theorem dX0_tell_43 : decode cX0_tell 43 = .ok (.iadd, 1) := dk_96 (dk_at dksX0_tell_1 21 rfl rfl)
theorem dX0_tell_44 : decode cX0_tell 44 = .ok (.putfield 363, 3) := dk_181 1 107 (dk_at dksX0_tell_2 0 rfl rfl)
theorem dX0_tell_47 : decode cX0_tell 47 = .ok (.aload_n 0, 1) := dk_42 (dk_at dksX0_tell_2 3 rfl rfl)
theorem dX0_tell_48 : decode cX0_tell 48 = .ok (.getfield 64, 3) := dk_180 0 64 (dk_at dksX0_tell_2 4 rfl rfl)
theorem dX0_tell_51 : decode cX0_tell 51 = .ok (.getfield 363, 3) := dk_180 1 107 (dk_at dksX0_tell_2 7 rfl rfl)
theorem dX0_tell_54 : decode cX0_tell 54 = .ok (.ireturn, 1) := dk_172 (dk_at dksX0_tell_2 10 rfl rfl)
abbrev cX0_check : ByteArray := prog_1_method_69_code
def yX0_check : MethodName := ⟨RX0, "check", "()I"⟩
def dkwX0_check_2 : List UInt8 := [132, 2, 1, 167, 255, 223, 28, 27, 160, 0, 7, 3, 167, 0, 6, 4, 28, 96, 172]
abbrev dktX0_check_2 : List UInt8 := dkwX0_check_2 ++ []
def dkwX0_check_1 : List UInt8 := [28, 182, 0, 230, 153, 0, 26, 42, 180, 0, 64, 180, 1, 110, 28, 46, 42, 28, 182, 0, 185, 160, 0, 9]
abbrev dktX0_check_1 : List UInt8 := dkwX0_check_1 ++ dktX0_check_2
def dkwX0_check_0 : List UInt8 := [42, 180, 0, 64, 180, 1, 107, 60, 42, 180, 0, 64, 3, 181, 1, 107, 3, 61, 28, 27, 162, 0, 34, 42]
abbrev dktX0_check_0 : List UInt8 := dkwX0_check_0 ++ dktX0_check_1
theorem dksX0_check_0 : cX0_check.data.toList.drop 0 = dktX0_check_0 := by decide +kernel
theorem dksX0_check_1 : cX0_check.data.toList.drop 24 = dktX0_check_1 := dk_seg dksX0_check_0 24 rfl rfl
theorem dksX0_check_2 : cX0_check.data.toList.drop 48 = dktX0_check_2 := dk_seg dksX0_check_1 24 rfl rfl
theorem dX0_check_0 : decode cX0_check 0 = .ok (.aload_n 0, 1) := dk_42 (dk_at dksX0_check_0 0 rfl rfl)
theorem dX0_check_1 : decode cX0_check 1 = .ok (.getfield 64, 3) := dk_180 0 64 (dk_at dksX0_check_0 1 rfl rfl)
theorem dX0_check_4 : decode cX0_check 4 = .ok (.getfield 363, 3) := dk_180 1 107 (dk_at dksX0_check_0 4 rfl rfl)
theorem dX0_check_7 : decode cX0_check 7 = .ok (.istore_n 1, 1) := dk_60 (dk_at dksX0_check_0 7 rfl rfl)
theorem dX0_check_8 : decode cX0_check 8 = .ok (.aload_n 0, 1) := dk_42 (dk_at dksX0_check_0 8 rfl rfl)
theorem dX0_check_9 : decode cX0_check 9 = .ok (.getfield 64, 3) := dk_180 0 64 (dk_at dksX0_check_0 9 rfl rfl)
theorem dX0_check_12 : decode cX0_check 12 = .ok (.iconst 0, 1) := dk_3 (dk_at dksX0_check_0 12 rfl rfl)
theorem dX0_check_13 : decode cX0_check 13 = .ok (.putfield 363, 3) := dk_181 1 107 (dk_at dksX0_check_0 13 rfl rfl)
theorem dX0_check_16 : decode cX0_check 16 = .ok (.iconst 0, 1) := dk_3 (dk_at dksX0_check_0 16 rfl rfl)
theorem dX0_check_17 : decode cX0_check 17 = .ok (.istore_n 2, 1) := dk_61 (dk_at dksX0_check_0 17 rfl rfl)
theorem dX0_check_18 : decode cX0_check 18 = .ok (.iload_n 2, 1) := dk_28 (dk_at dksX0_check_0 18 rfl rfl)
theorem dX0_check_19 : decode cX0_check 19 = .ok (.iload_n 1, 1) := dk_27 (dk_at dksX0_check_0 19 rfl rfl)
theorem dX0_check_20 : decode cX0_check 20 = .ok (.if_icmp .ge 34, 3) := dk_162 0 34 (dk_at dksX0_check_0 20 rfl rfl)
theorem dX0_check_23 : decode cX0_check 23 = .ok (.aload_n 0, 1) := dk_42 (dk_at dksX0_check_0 23 rfl rfl)
theorem dX0_check_24 : decode cX0_check 24 = .ok (.iload_n 2, 1) := dk_28 (dk_at dksX0_check_1 0 rfl rfl)
theorem dX0_check_25 : decode cX0_check 25 = .ok (.invokevirtual 230, 3) := dk_182 0 230 (dk_at dksX0_check_1 1 rfl rfl)
theorem dX0_check_28 : decode cX0_check 28 = .ok (.ifCond .eq 26, 3) := dk_153 0 26 (dk_at dksX0_check_1 4 rfl rfl)
theorem dX0_check_31 : decode cX0_check 31 = .ok (.aload_n 0, 1) := dk_42 (dk_at dksX0_check_1 7 rfl rfl)
theorem dX0_check_32 : decode cX0_check 32 = .ok (.getfield 64, 3) := dk_180 0 64 (dk_at dksX0_check_1 8 rfl rfl)
theorem dX0_check_35 : decode cX0_check 35 = .ok (.getfield 366, 3) := dk_180 1 110 (dk_at dksX0_check_1 11 rfl rfl)
theorem dX0_check_38 : decode cX0_check 38 = .ok (.iload_n 2, 1) := dk_28 (dk_at dksX0_check_1 14 rfl rfl)
theorem dX0_check_39 : decode cX0_check 39 = .ok (.iaload, 1) := dk_46 (dk_at dksX0_check_1 15 rfl rfl)
theorem dX0_check_40 : decode cX0_check 40 = .ok (.aload_n 0, 1) := dk_42 (dk_at dksX0_check_1 16 rfl rfl)
theorem dX0_check_41 : decode cX0_check 41 = .ok (.iload_n 2, 1) := dk_28 (dk_at dksX0_check_1 17 rfl rfl)
theorem dX0_check_42 : decode cX0_check 42 = .ok (.invokevirtual 185, 3) := dk_182 0 185 (dk_at dksX0_check_1 18 rfl rfl)
theorem dX0_check_45 : decode cX0_check 45 = .ok (.if_icmp .ne 9, 3) := dk_160 0 9 (dk_at dksX0_check_1 21 rfl rfl)
theorem dX0_check_48 : decode cX0_check 48 = .ok (.iinc 2 1, 3) := dk_132 2 1 (dk_at dksX0_check_2 0 rfl rfl)
theorem dX0_check_51 : decode cX0_check 51 = .ok (.goto (-33), 3) := dk_167 255 223 (dk_at dksX0_check_2 3 rfl rfl)
theorem dX0_check_54 : decode cX0_check 54 = .ok (.iload_n 2, 1) := dk_28 (dk_at dksX0_check_2 6 rfl rfl)
theorem dX0_check_55 : decode cX0_check 55 = .ok (.iload_n 1, 1) := dk_27 (dk_at dksX0_check_2 7 rfl rfl)
theorem dX0_check_56 : decode cX0_check 56 = .ok (.if_icmp .ne 7, 3) := dk_160 0 7 (dk_at dksX0_check_2 8 rfl rfl)
theorem dX0_check_59 : decode cX0_check 59 = .ok (.iconst 0, 1) := dk_3 (dk_at dksX0_check_2 11 rfl rfl)
theorem dX0_check_60 : decode cX0_check 60 = .ok (.goto 6, 3) := dk_167 0 6 (dk_at dksX0_check_2 12 rfl rfl)
theorem dX0_check_63 : decode cX0_check 63 = .ok (.iconst 1, 1) := dk_4 (dk_at dksX0_check_2 15 rfl rfl)
theorem dX0_check_64 : decode cX0_check 64 = .ok (.iload_n 2, 1) := dk_28 (dk_at dksX0_check_2 16 rfl rfl)
theorem dX0_check_65 : decode cX0_check 65 = .ok (.iadd, 1) := dk_96 (dk_at dksX0_check_2 17 rfl rfl)
theorem dX0_check_66 : decode cX0_check 66 = .ok (.ireturn, 1) := dk_172 (dk_at dksX0_check_2 18 rfl rfl)
abbrev cX0_count : ByteArray := prog_1_method_70_code
def yX0_count : MethodName := ⟨RX0, "count", "(I)I"⟩
def dkwX0_count_6 : List UInt8 := [4, 182, 0, 217, 172]
abbrev dktX0_count_6 : List UInt8 := dkwX0_count_6 ++ []
def dkwX0_count_5 : List UInt8 := [180, 0, 64, 180, 1, 107, 172, 42, 180, 0, 77, 180, 1, 72, 172, 42, 180, 0, 64, 180, 1, 46, 172, 42]
abbrev dktX0_count_5 : List UInt8 := dkwX0_count_5 ++ dktX0_count_6
def dkwX0_count_4 : List UInt8 := [42, 180, 0, 64, 42, 180, 0, 64, 182, 0, 168, 182, 0, 172, 172, 42, 180, 0, 64, 180, 0, 246, 172, 42]
abbrev dktX0_count_4 : List UInt8 := dkwX0_count_4 ++ dktX0_count_5
def dkwX0_count_3 : List UInt8 := [42, 180, 0, 64, 180, 0, 243, 172, 42, 180, 0, 64, 180, 1, 29, 172, 42, 180, 0, 64, 182, 0, 168, 172]
abbrev dktX0_count_3 : List UInt8 := dkwX0_count_3 ++ dktX0_count_4
def dkwX0_count_2 : List UInt8 := [42, 180, 0, 64, 180, 0, 113, 172, 42, 180, 0, 64, 180, 0, 120, 172, 42, 180, 0, 64, 180, 0, 156, 172]
abbrev dktX0_count_2 : List UInt8 := dkwX0_count_2 ++ dktX0_count_3
def dkwX0_count_1 : List UInt8 := [170, 0, 0, 0, 0, 0, 154, 0, 0, 0, 0, 0, 0, 0, 10, 0, 0, 0, 59, 0, 0, 0, 67, 0, 0, 0, 75, 0, 0, 0, 83, 0, 0, 0, 91, 0, 0, 0, 99, 0, 0, 0, 107, 0, 0, 0, 122, 0, 0, 0, 130, 0, 0, 0, 138, 0, 0, 0, 146]
abbrev dktX0_count_1 : List UInt8 := dkwX0_count_1 ++ dktX0_count_2
def dkwX0_count_0 : List UInt8 := [27]
abbrev dktX0_count_0 : List UInt8 := dkwX0_count_0 ++ dktX0_count_1
theorem dksX0_count_0 : cX0_count.data.toList.drop 0 = dktX0_count_0 := by decide +kernel
theorem dksX0_count_1 : cX0_count.data.toList.drop 1 = dktX0_count_1 := dk_seg dksX0_count_0 1 rfl rfl
theorem dksX0_count_2 : cX0_count.data.toList.drop 60 = dktX0_count_2 := dk_seg dksX0_count_1 59 rfl rfl
theorem dksX0_count_3 : cX0_count.data.toList.drop 84 = dktX0_count_3 := dk_seg dksX0_count_2 24 rfl rfl
theorem dksX0_count_4 : cX0_count.data.toList.drop 108 = dktX0_count_4 := dk_seg dksX0_count_3 24 rfl rfl
theorem dksX0_count_5 : cX0_count.data.toList.drop 132 = dktX0_count_5 := dk_seg dksX0_count_4 24 rfl rfl
theorem dksX0_count_6 : cX0_count.data.toList.drop 156 = dktX0_count_6 := dk_seg dksX0_count_5 24 rfl rfl
theorem dX0_count_0 : decode cX0_count 0 = .ok (.iload_n 1, 1) := dk_27 (dk_at dksX0_count_0 0 rfl rfl)
theorem dX0_count_1 : decode cX0_count 1 = .ok (.tableswitch 154 0 10 #[59, 67, 75, 83, 91, 99, 107, 122, 130, 138, 146], 59) := by decide +kernel
theorem dX0_count_60 : decode cX0_count 60 = .ok (.aload_n 0, 1) := dk_42 (dk_at dksX0_count_2 0 rfl rfl)
theorem dX0_count_61 : decode cX0_count 61 = .ok (.getfield 64, 3) := dk_180 0 64 (dk_at dksX0_count_2 1 rfl rfl)
theorem dX0_count_64 : decode cX0_count 64 = .ok (.getfield 113, 3) := dk_180 0 113 (dk_at dksX0_count_2 4 rfl rfl)
theorem dX0_count_67 : decode cX0_count 67 = .ok (.ireturn, 1) := dk_172 (dk_at dksX0_count_2 7 rfl rfl)
theorem dX0_count_68 : decode cX0_count 68 = .ok (.aload_n 0, 1) := dk_42 (dk_at dksX0_count_2 8 rfl rfl)
theorem dX0_count_69 : decode cX0_count 69 = .ok (.getfield 64, 3) := dk_180 0 64 (dk_at dksX0_count_2 9 rfl rfl)
theorem dX0_count_72 : decode cX0_count 72 = .ok (.getfield 120, 3) := dk_180 0 120 (dk_at dksX0_count_2 12 rfl rfl)
theorem dX0_count_75 : decode cX0_count 75 = .ok (.ireturn, 1) := dk_172 (dk_at dksX0_count_2 15 rfl rfl)
theorem dX0_count_76 : decode cX0_count 76 = .ok (.aload_n 0, 1) := dk_42 (dk_at dksX0_count_2 16 rfl rfl)
theorem dX0_count_77 : decode cX0_count 77 = .ok (.getfield 64, 3) := dk_180 0 64 (dk_at dksX0_count_2 17 rfl rfl)
theorem dX0_count_80 : decode cX0_count 80 = .ok (.getfield 156, 3) := dk_180 0 156 (dk_at dksX0_count_2 20 rfl rfl)
theorem dX0_count_83 : decode cX0_count 83 = .ok (.ireturn, 1) := dk_172 (dk_at dksX0_count_2 23 rfl rfl)
theorem dX0_count_84 : decode cX0_count 84 = .ok (.aload_n 0, 1) := dk_42 (dk_at dksX0_count_3 0 rfl rfl)
theorem dX0_count_85 : decode cX0_count 85 = .ok (.getfield 64, 3) := dk_180 0 64 (dk_at dksX0_count_3 1 rfl rfl)
theorem dX0_count_88 : decode cX0_count 88 = .ok (.getfield 243, 3) := dk_180 0 243 (dk_at dksX0_count_3 4 rfl rfl)
theorem dX0_count_91 : decode cX0_count 91 = .ok (.ireturn, 1) := dk_172 (dk_at dksX0_count_3 7 rfl rfl)
theorem dX0_count_92 : decode cX0_count 92 = .ok (.aload_n 0, 1) := dk_42 (dk_at dksX0_count_3 8 rfl rfl)
theorem dX0_count_93 : decode cX0_count 93 = .ok (.getfield 64, 3) := dk_180 0 64 (dk_at dksX0_count_3 9 rfl rfl)
theorem dX0_count_96 : decode cX0_count 96 = .ok (.getfield 285, 3) := dk_180 1 29 (dk_at dksX0_count_3 12 rfl rfl)
theorem dX0_count_99 : decode cX0_count 99 = .ok (.ireturn, 1) := dk_172 (dk_at dksX0_count_3 15 rfl rfl)
theorem dX0_count_100 : decode cX0_count 100 = .ok (.aload_n 0, 1) := dk_42 (dk_at dksX0_count_3 16 rfl rfl)
theorem dX0_count_101 : decode cX0_count 101 = .ok (.getfield 64, 3) := dk_180 0 64 (dk_at dksX0_count_3 17 rfl rfl)
theorem dX0_count_104 : decode cX0_count 104 = .ok (.invokevirtual 168, 3) := dk_182 0 168 (dk_at dksX0_count_3 20 rfl rfl)
theorem dX0_count_107 : decode cX0_count 107 = .ok (.ireturn, 1) := dk_172 (dk_at dksX0_count_3 23 rfl rfl)
theorem dX0_count_108 : decode cX0_count 108 = .ok (.aload_n 0, 1) := dk_42 (dk_at dksX0_count_4 0 rfl rfl)
theorem dX0_count_109 : decode cX0_count 109 = .ok (.getfield 64, 3) := dk_180 0 64 (dk_at dksX0_count_4 1 rfl rfl)
theorem dX0_count_112 : decode cX0_count 112 = .ok (.aload_n 0, 1) := dk_42 (dk_at dksX0_count_4 4 rfl rfl)
theorem dX0_count_113 : decode cX0_count 113 = .ok (.getfield 64, 3) := dk_180 0 64 (dk_at dksX0_count_4 5 rfl rfl)
theorem dX0_count_116 : decode cX0_count 116 = .ok (.invokevirtual 168, 3) := dk_182 0 168 (dk_at dksX0_count_4 8 rfl rfl)
theorem dX0_count_119 : decode cX0_count 119 = .ok (.invokevirtual 172, 3) := dk_182 0 172 (dk_at dksX0_count_4 11 rfl rfl)
theorem dX0_count_122 : decode cX0_count 122 = .ok (.ireturn, 1) := dk_172 (dk_at dksX0_count_4 14 rfl rfl)
theorem dX0_count_123 : decode cX0_count 123 = .ok (.aload_n 0, 1) := dk_42 (dk_at dksX0_count_4 15 rfl rfl)
theorem dX0_count_124 : decode cX0_count 124 = .ok (.getfield 64, 3) := dk_180 0 64 (dk_at dksX0_count_4 16 rfl rfl)
theorem dX0_count_127 : decode cX0_count 127 = .ok (.getfield 246, 3) := dk_180 0 246 (dk_at dksX0_count_4 19 rfl rfl)
theorem dX0_count_130 : decode cX0_count 130 = .ok (.ireturn, 1) := dk_172 (dk_at dksX0_count_4 22 rfl rfl)
theorem dX0_count_131 : decode cX0_count 131 = .ok (.aload_n 0, 1) := dk_42 (dk_at dksX0_count_4 23 rfl rfl)
theorem dX0_count_132 : decode cX0_count 132 = .ok (.getfield 64, 3) := dk_180 0 64 (dk_at dksX0_count_5 0 rfl rfl)
theorem dX0_count_135 : decode cX0_count 135 = .ok (.getfield 363, 3) := dk_180 1 107 (dk_at dksX0_count_5 3 rfl rfl)
theorem dX0_count_138 : decode cX0_count 138 = .ok (.ireturn, 1) := dk_172 (dk_at dksX0_count_5 6 rfl rfl)
theorem dX0_count_139 : decode cX0_count 139 = .ok (.aload_n 0, 1) := dk_42 (dk_at dksX0_count_5 7 rfl rfl)
theorem dX0_count_140 : decode cX0_count 140 = .ok (.getfield 77, 3) := dk_180 0 77 (dk_at dksX0_count_5 8 rfl rfl)
theorem dX0_count_143 : decode cX0_count 143 = .ok (.getfield 328, 3) := dk_180 1 72 (dk_at dksX0_count_5 11 rfl rfl)
theorem dX0_count_146 : decode cX0_count 146 = .ok (.ireturn, 1) := dk_172 (dk_at dksX0_count_5 14 rfl rfl)
theorem dX0_count_147 : decode cX0_count 147 = .ok (.aload_n 0, 1) := dk_42 (dk_at dksX0_count_5 15 rfl rfl)
theorem dX0_count_148 : decode cX0_count 148 = .ok (.getfield 64, 3) := dk_180 0 64 (dk_at dksX0_count_5 16 rfl rfl)
theorem dX0_count_151 : decode cX0_count 151 = .ok (.getfield 302, 3) := dk_180 1 46 (dk_at dksX0_count_5 19 rfl rfl)
theorem dX0_count_154 : decode cX0_count 154 = .ok (.ireturn, 1) := dk_172 (dk_at dksX0_count_5 22 rfl rfl)
theorem dX0_count_155 : decode cX0_count 155 = .ok (.aload_n 0, 1) := dk_42 (dk_at dksX0_count_5 23 rfl rfl)
theorem dX0_count_156 : decode cX0_count 156 = .ok (.iconst 1, 1) := dk_4 (dk_at dksX0_count_6 0 rfl rfl)
theorem dX0_count_157 : decode cX0_count 157 = .ok (.invokevirtual 217, 3) := dk_182 0 217 (dk_at dksX0_count_6 1 rfl rfl)
theorem dX0_count_160 : decode cX0_count 160 = .ok (.ireturn, 1) := dk_172 (dk_at dksX0_count_6 4 rfl rfl)
abbrev cX0_told : ByteArray := prog_1_method_71_code
def yX0_told : MethodName := ⟨RX0, "told", "(I)I"⟩
def dkwX0_told_1 : List UInt8 := [172]
abbrev dktX0_told_1 : List UInt8 := dkwX0_told_1 ++ []
def dkwX0_told_0 : List UInt8 := [27, 4, 16, 6, 184, 0, 116, 153, 0, 12, 42, 180, 0, 81, 27, 46, 167, 0, 8, 42, 4, 182, 0, 217]
abbrev dktX0_told_0 : List UInt8 := dkwX0_told_0 ++ dktX0_told_1
theorem dksX0_told_0 : cX0_told.data.toList.drop 0 = dktX0_told_0 := by decide +kernel
theorem dksX0_told_1 : cX0_told.data.toList.drop 24 = dktX0_told_1 := dk_seg dksX0_told_0 24 rfl rfl
theorem dX0_told_0 : decode cX0_told 0 = .ok (.iload_n 1, 1) := dk_27 (dk_at dksX0_told_0 0 rfl rfl)
theorem dX0_told_1 : decode cX0_told 1 = .ok (.iconst 1, 1) := dk_4 (dk_at dksX0_told_0 1 rfl rfl)
theorem dX0_told_2 : decode cX0_told 2 = .ok (.bipush 6, 2) := dk_16 6 (dk_at dksX0_told_0 2 rfl rfl)
theorem dX0_told_4 : decode cX0_told 4 = .ok (.invokestatic 116, 3) := dk_184 0 116 (dk_at dksX0_told_0 4 rfl rfl)
theorem dX0_told_7 : decode cX0_told 7 = .ok (.ifCond .eq 12, 3) := dk_153 0 12 (dk_at dksX0_told_0 7 rfl rfl)
theorem dX0_told_10 : decode cX0_told 10 = .ok (.aload_n 0, 1) := dk_42 (dk_at dksX0_told_0 10 rfl rfl)
theorem dX0_told_11 : decode cX0_told 11 = .ok (.getfield 81, 3) := dk_180 0 81 (dk_at dksX0_told_0 11 rfl rfl)
theorem dX0_told_14 : decode cX0_told 14 = .ok (.iload_n 1, 1) := dk_27 (dk_at dksX0_told_0 14 rfl rfl)
theorem dX0_told_15 : decode cX0_told 15 = .ok (.iaload, 1) := dk_46 (dk_at dksX0_told_0 15 rfl rfl)
theorem dX0_told_16 : decode cX0_told 16 = .ok (.goto 8, 3) := dk_167 0 8 (dk_at dksX0_told_0 16 rfl rfl)
theorem dX0_told_19 : decode cX0_told 19 = .ok (.aload_n 0, 1) := dk_42 (dk_at dksX0_told_0 19 rfl rfl)
theorem dX0_told_20 : decode cX0_told 20 = .ok (.iconst 1, 1) := dk_4 (dk_at dksX0_told_0 20 rfl rfl)
theorem dX0_told_21 : decode cX0_told 21 = .ok (.invokevirtual 217, 3) := dk_182 0 217 (dk_at dksX0_told_0 21 rfl rfl)
theorem dX0_told_24 : decode cX0_told 24 = .ok (.ireturn, 1) := dk_172 (dk_at dksX0_told_1 0 rfl rfl)
theorem q86 : (Jvm.Cond.initialized "PictureBlock") ∈ lw_all := lw_g (lw_at lw_m1 1 rfl) rfl
theorem q116 : (Jvm.Cond.instantiable "PictureBlock" (16 : Nat)) ∈ lw_all := lw_g (lw_at lw_m1 31 rfl) rfl
theorem q118 : (Jvm.Cond.instanceMethod ({ cls := "PictureBlock", name := "<init>", desc := "()V" } : Jvm.MethodName)) ∈ lw_all := lw_g (lw_at lw_m1 33 rfl) rfl
theorem q119 : (Jvm.Cond.code ({ cls := "PictureBlock", name := "<init>", desc := "()V" } : Jvm.MethodName) prog_1_method_7_code (1 : Nat) (Option.none : Option Jvm.ClassFile.FieldType)) ∈ lw_all := lw_g (lw_at lw_m1 34 rfl) rfl
theorem q120 : (Jvm.Cond.methodLink "PictureBlock" (56 : Nat) ({ cls := "java/lang/Object", name := "<init>", desc := "()V" } : Jvm.MethodName)) ∈ lw_all := lw_g (lw_at lw_m1 35 rfl) rfl
theorem q123 : (Jvm.Cond.classLink "PictureBlock" (61 : Nat) "PictureBlock$House") ∈ lw_all := lw_g (lw_at lw_m1 38 rfl) rfl
theorem q125 : (Jvm.Cond.methodLink "PictureBlock" (63 : Nat) ({ cls := "PictureBlock$House", name := "<init>", desc := "()V" } : Jvm.MethodName)) ∈ lw_all := lw_g (lw_at lw_m1 40 rfl) rfl
theorem q139 : (Jvm.Cond.fieldLinkNest "PictureBlock" (227 : Nat) "PictureBlock$Slot" "held" "Ljava/lang/Object;" "PictureBlock") ∈ lw_tbl := lw_at lw_m1 54 rfl
theorem q146 : (Jvm.Cond.fieldLinkNest "PictureBlock" (113 : Nat) "PictureBlock$House" "marks" "I" "PictureBlock") ∈ lw_tbl := lw_at lw_m1 61 rfl
theorem q148 : (Jvm.Cond.fieldLinkNest "PictureBlock" (120 : Nat) "PictureBlock$House" "pictures" "I" "PictureBlock") ∈ lw_tbl := lw_at lw_m1 63 rfl
theorem q150 : (Jvm.Cond.fieldLinkNest "PictureBlock" (156 : Nat) "PictureBlock$House" "round" "I" "PictureBlock") ∈ lw_tbl := lw_at lw_m1 65 rfl
theorem q152 : (Jvm.Cond.fieldLinkNest "PictureBlock" (243 : Nat) "PictureBlock$House" "limit" "I" "PictureBlock") ∈ lw_tbl := lw_at lw_m1 67 rfl
theorem q154 : (Jvm.Cond.fieldLinkNest "PictureBlock" (285 : Nat) "PictureBlock$House" "dropped" "I" "PictureBlock") ∈ lw_tbl := lw_at lw_m1 69 rfl
theorem q156 : (Jvm.Cond.fieldLinkNest "PictureBlock" (302 : Nat) "PictureBlock$House" "z" "I" "PictureBlock") ∈ lw_tbl := lw_at lw_m1 71 rfl
theorem q158 : (Jvm.Cond.fieldLinkNest "PictureBlock" (246 : Nat) "PictureBlock$House" "taped" "I" "PictureBlock") ∈ lw_tbl := lw_at lw_m1 73 rfl
theorem q160 : (Jvm.Cond.fieldLinkNest "PictureBlock" (363 : Nat) "PictureBlock$House" "waiting" "I" "PictureBlock") ∈ lw_tbl := lw_at lw_m1 75 rfl
theorem q162 : (Jvm.Cond.fieldLinkNest "PictureBlock" (220 : Nat) "PictureBlock$House" "mark" "[LPictureBlock$Slot;" "PictureBlock") ∈ lw_tbl := lw_at lw_m1 77 rfl
theorem q164 : (Jvm.Cond.fieldLinkNest "PictureBlock" (191 : Nat) "PictureBlock$House" "from" "[I" "PictureBlock") ∈ lw_tbl := lw_at lw_m1 79 rfl
theorem q166 : (Jvm.Cond.fieldLinkNest "PictureBlock" (194 : Nat) "PictureBlock$House" "to" "[I" "PictureBlock") ∈ lw_tbl := lw_at lw_m1 81 rfl
theorem q168 : (Jvm.Cond.fieldLinkNest "PictureBlock" (165 : Nat) "PictureBlock$House" "told" "[I" "PictureBlock") ∈ lw_tbl := lw_at lw_m1 83 rfl
theorem q170 : (Jvm.Cond.fieldLinkNest "PictureBlock" (188 : Nat) "PictureBlock$House" "on" "[I" "PictureBlock") ∈ lw_tbl := lw_at lw_m1 85 rfl
theorem q172 : (Jvm.Cond.fieldLinkNest "PictureBlock" (132 : Nat) "PictureBlock$House" "texts" "[LPictureBlock$Text;" "PictureBlock") ∈ lw_tbl := lw_at lw_m1 87 rfl
theorem q174 : (Jvm.Cond.fieldLinkNest "PictureBlock" (249 : Nat) "PictureBlock$House" "tape" "[B" "PictureBlock") ∈ lw_tbl := lw_at lw_m1 89 rfl
theorem q176 : (Jvm.Cond.fieldLinkNest "PictureBlock" (366 : Nat) "PictureBlock$House" "waits" "[I" "PictureBlock") ∈ lw_tbl := lw_at lw_m1 91 rfl
theorem q210 : (Jvm.Cond.classLink "PictureBlock" (74 : Nat) "PictureBlock$Trace") ∈ lw_all := lw_g (lw_at lw_m1 125 rfl) rfl
theorem q212 : (Jvm.Cond.methodLinkNest "PictureBlock" (76 : Nat) ({ cls := "PictureBlock$Trace", name := "<init>", desc := "()V" } : Jvm.MethodName) "PictureBlock") ∈ lw_tbl := lw_at lw_m1 127 rfl
theorem q217 : (Jvm.Cond.fieldLinkNest "PictureBlock" (344 : Nat) "PictureBlock$Trace" "bodies" "[B" "PictureBlock") ∈ lw_tbl := lw_at lw_m1 132 rfl
theorem q219 : (Jvm.Cond.fieldLinkNest "PictureBlock" (328 : Nat) "PictureBlock$Trace" "many" "I" "PictureBlock") ∈ lw_tbl := lw_at lw_m1 134 rfl
theorem q225 : (Jvm.Cond.classLink "PictureBlock" (84 : Nat) "PictureBlock$Slot") ∈ lw_all := lw_g (lw_at lw_m1 140 rfl) rfl
theorem q226 : (Jvm.Cond.methodLinkNest "PictureBlock" (86 : Nat) ({ cls := "PictureBlock$Slot", name := "<init>", desc := "()V" } : Jvm.MethodName) "PictureBlock") ∈ lw_tbl := lw_at lw_m1 141 rfl
theorem q227 : (Jvm.Cond.classLink "PictureBlock" (91 : Nat) "[[J") ∈ lw_all := lw_g (lw_at lw_m1 142 rfl) rfl
theorem q229 : (Jvm.Cond.fieldLink "PictureBlock" (41 : Nat) "PictureBlock" "pile" "[I") ∈ lw_all := lw_g (lw_at lw_m1 144 rfl) rfl
theorem q230 : (Jvm.Cond.fieldLink "PictureBlock" (49 : Nat) "PictureBlock" "named" "[I") ∈ lw_all := lw_g (lw_at lw_m1 145 rfl) rfl
theorem q231 : (Jvm.Cond.fieldLink "PictureBlock" (64 : Nat) "PictureBlock" "house" "LPictureBlock$House;") ∈ lw_all := lw_g (lw_at lw_m1 146 rfl) rfl
theorem q232 : (Jvm.Cond.fieldLink "PictureBlock" (68 : Nat) "PictureBlock" "kept" "LPictureBlock$House;") ∈ lw_all := lw_g (lw_at lw_m1 147 rfl) rfl
theorem q233 : (Jvm.Cond.fieldLink "PictureBlock" (71 : Nat) "PictureBlock" "aside" "LPictureBlock$House;") ∈ lw_all := lw_g (lw_at lw_m1 148 rfl) rfl
theorem q234 : (Jvm.Cond.fieldLink "PictureBlock" (77 : Nat) "PictureBlock" "trace" "LPictureBlock$Trace;") ∈ lw_all := lw_g (lw_at lw_m1 149 rfl) rfl
theorem q235 : (Jvm.Cond.fieldLink "PictureBlock" (81 : Nat) "PictureBlock" "found" "[I") ∈ lw_all := lw_g (lw_at lw_m1 150 rfl) rfl
theorem q236 : (Jvm.Cond.fieldLink "PictureBlock" (87 : Nat) "PictureBlock" "sheets" "[LPictureBlock$Slot;") ∈ lw_all := lw_g (lw_at lw_m1 151 rfl) rfl
theorem q237 : (Jvm.Cond.fieldLink "PictureBlock" (93 : Nat) "PictureBlock" "normal" "[[J") ∈ lw_all := lw_g (lw_at lw_m1 152 rfl) rfl
theorem q238 : (Jvm.Cond.fieldLink "PictureBlock" (96 : Nat) "PictureBlock" "work" "[[J") ∈ lw_all := lw_g (lw_at lw_m1 153 rfl) rfl
theorem q239 : (Jvm.Cond.fieldLink "PictureBlock" (99 : Nat) "PictureBlock" "right" "[J") ∈ lw_all := lw_g (lw_at lw_m1 154 rfl) rfl
theorem q240 : (Jvm.Cond.fieldLink "PictureBlock" (103 : Nat) "PictureBlock" "above" "[J") ∈ lw_all := lw_g (lw_at lw_m1 155 rfl) rfl
theorem q241 : (Jvm.Cond.fieldLink "PictureBlock" (106 : Nat) "PictureBlock" "weights" "[I") ∈ lw_all := lw_g (lw_at lw_m1 156 rfl) rfl
theorem q242 : (Jvm.Cond.fieldLink "PictureBlock" (109 : Nat) "PictureBlock" "saids" "[I") ∈ lw_all := lw_g (lw_at lw_m1 157 rfl) rfl
theorem q243 : (Jvm.Cond.fieldLink "PictureBlock" (201 : Nat) "PictureBlock" "below" "J") ∈ lw_all := lw_g (lw_at lw_m1 158 rfl) rfl
theorem q244 : (Jvm.Cond.fieldLink "PictureBlock" (360 : Nat) "PictureBlock" "images" "I") ∈ lw_all := lw_g (lw_at lw_m1 159 rfl) rfl
theorem q245 : (Jvm.Cond.laysFinal "PictureBlock" "PictureBlock" "pile" "[I") ∈ lw_all := lw_g (lw_at lw_m1 160 rfl) rfl
theorem q246 : (Jvm.Cond.soleField "PictureBlock" "pile") ∈ lw_all := lw_g (lw_at lw_m1 161 rfl) rfl
theorem q247 : (Jvm.Cond.laysFinal "PictureBlock" "PictureBlock" "named" "[I") ∈ lw_all := lw_g (lw_at lw_m1 162 rfl) rfl
theorem q248 : (Jvm.Cond.soleField "PictureBlock" "named") ∈ lw_all := lw_g (lw_at lw_m1 163 rfl) rfl
theorem q249 : (Jvm.Cond.laysFinal "PictureBlock" "PictureBlock" "house" "LPictureBlock$House;") ∈ lw_all := lw_g (lw_at lw_m1 164 rfl) rfl
theorem q250 : (Jvm.Cond.soleField "PictureBlock" "house") ∈ lw_all := lw_g (lw_at lw_m1 165 rfl) rfl
theorem q251 : (Jvm.Cond.laysFinal "PictureBlock" "PictureBlock" "kept" "LPictureBlock$House;") ∈ lw_all := lw_g (lw_at lw_m1 166 rfl) rfl
theorem q252 : (Jvm.Cond.soleField "PictureBlock" "kept") ∈ lw_all := lw_g (lw_at lw_m1 167 rfl) rfl
theorem q253 : (Jvm.Cond.laysFinal "PictureBlock" "PictureBlock" "aside" "LPictureBlock$House;") ∈ lw_all := lw_g (lw_at lw_m1 168 rfl) rfl
theorem q254 : (Jvm.Cond.soleField "PictureBlock" "aside") ∈ lw_all := lw_g (lw_at lw_m1 169 rfl) rfl
theorem q255 : (Jvm.Cond.laysFinal "PictureBlock" "PictureBlock" "trace" "LPictureBlock$Trace;") ∈ lw_all := lw_g (lw_at lw_m1 170 rfl) rfl
theorem q256 : (Jvm.Cond.soleField "PictureBlock" "trace") ∈ lw_all := lw_g (lw_at lw_m1 171 rfl) rfl
theorem q257 : (Jvm.Cond.laysFinal "PictureBlock" "PictureBlock" "found" "[I") ∈ lw_all := lw_g (lw_at lw_m1 172 rfl) rfl
theorem q258 : (Jvm.Cond.soleField "PictureBlock" "found") ∈ lw_all := lw_g (lw_at lw_m1 173 rfl) rfl
theorem q259 : (Jvm.Cond.laysFinal "PictureBlock" "PictureBlock" "sheets" "[LPictureBlock$Slot;") ∈ lw_all := lw_g (lw_at lw_m1 174 rfl) rfl
theorem q260 : (Jvm.Cond.soleField "PictureBlock" "sheets") ∈ lw_all := lw_g (lw_at lw_m1 175 rfl) rfl
theorem q261 : (Jvm.Cond.laysFinal "PictureBlock" "PictureBlock" "normal" "[[J") ∈ lw_all := lw_g (lw_at lw_m1 176 rfl) rfl
theorem q262 : (Jvm.Cond.soleField "PictureBlock" "normal") ∈ lw_all := lw_g (lw_at lw_m1 177 rfl) rfl
theorem q263 : (Jvm.Cond.laysFinal "PictureBlock" "PictureBlock" "work" "[[J") ∈ lw_all := lw_g (lw_at lw_m1 178 rfl) rfl
theorem q264 : (Jvm.Cond.soleField "PictureBlock" "work") ∈ lw_all := lw_g (lw_at lw_m1 179 rfl) rfl
theorem q265 : (Jvm.Cond.laysFinal "PictureBlock" "PictureBlock" "right" "[J") ∈ lw_all := lw_g (lw_at lw_m1 180 rfl) rfl
theorem q266 : (Jvm.Cond.soleField "PictureBlock" "right") ∈ lw_all := lw_g (lw_at lw_m1 181 rfl) rfl
theorem q267 : (Jvm.Cond.laysFinal "PictureBlock" "PictureBlock" "above" "[J") ∈ lw_all := lw_g (lw_at lw_m1 182 rfl) rfl
theorem q268 : (Jvm.Cond.soleField "PictureBlock" "above") ∈ lw_all := lw_g (lw_at lw_m1 183 rfl) rfl
theorem q269 : (Jvm.Cond.laysFinal "PictureBlock" "PictureBlock" "weights" "[I") ∈ lw_all := lw_g (lw_at lw_m1 184 rfl) rfl
theorem q270 : (Jvm.Cond.soleField "PictureBlock" "weights") ∈ lw_all := lw_g (lw_at lw_m1 185 rfl) rfl
theorem q271 : (Jvm.Cond.laysFinal "PictureBlock" "PictureBlock" "saids" "[I") ∈ lw_all := lw_g (lw_at lw_m1 186 rfl) rfl
theorem q272 : (Jvm.Cond.soleField "PictureBlock" "saids") ∈ lw_all := lw_g (lw_at lw_m1 187 rfl) rfl
theorem q273 : (Jvm.Cond.lays "PictureBlock" "PictureBlock" "below" "J") ∈ lw_all := lw_g (lw_at lw_m1 188 rfl) rfl
theorem q274 : (Jvm.Cond.soleField "PictureBlock" "below") ∈ lw_all := lw_g (lw_at lw_m1 189 rfl) rfl
theorem q275 : (Jvm.Cond.lays "PictureBlock" "PictureBlock" "images" "I") ∈ lw_all := lw_g (lw_at lw_m1 190 rfl) rfl
theorem q276 : (Jvm.Cond.soleField "PictureBlock" "images") ∈ lw_all := lw_g (lw_at lw_m1 191 rfl) rfl
theorem q277 : (Jvm.Cond.superclass "PictureBlock" "java/lang/Object") ∈ lw_all := lw_g (lw_at lw_m1 192 rfl) rfl
theorem q280 : (Jvm.Cond.instanceMethod ({ cls := "PictureBlock", name := "mark", desc := "(IIII)I" } : Jvm.MethodName)) ∈ lw_all := lw_g (lw_at lw_m1 195 rfl) rfl
theorem q281 : (Jvm.Cond.selects "PictureBlock" ({ cls := "PictureBlock", name := "mark", desc := "(IIII)I" } : Jvm.MethodName) ({ cls := "PictureBlock", name := "mark", desc := "(IIII)I" } : Jvm.MethodName)) ∈ lw_all := lw_g (lw_at lw_m1 196 rfl) rfl
theorem q282 : (Jvm.Cond.code ({ cls := "PictureBlock", name := "mark", desc := "(IIII)I" } : Jvm.MethodName) prog_1_method_22_code (6 : Nat) (Option.some Jvm.ClassFile.FieldType.int)) ∈ lw_all := lw_g (lw_at lw_m1 197 rfl) rfl
theorem q283 : (Jvm.Cond.methodLink "PictureBlock" (116 : Nat) ({ cls := "PictureBlock", name := "isIn", desc := "(III)Z" } : Jvm.MethodName)) ∈ lw_all := lw_g (lw_at lw_m1 198 rfl) rfl
theorem q284 : (Jvm.Cond.static ({ cls := "PictureBlock", name := "isIn", desc := "(III)Z" } : Jvm.MethodName)) ∈ lw_all := lw_g (lw_at lw_m1 199 rfl) rfl
theorem q285 : (Jvm.Cond.code ({ cls := "PictureBlock", name := "isIn", desc := "(III)Z" } : Jvm.MethodName) prog_1_method_1_code (3 : Nat) (Option.some Jvm.ClassFile.FieldType.boolean)) ∈ lw_all := lw_g (lw_at lw_m1 200 rfl) rfl
theorem q286 : (Jvm.Cond.methodLink "PictureBlock" (213 : Nat) ({ cls := "PictureBlock", name := "isPicture", desc := "(I)Z" } : Jvm.MethodName)) ∈ lw_all := lw_g (lw_at lw_m1 201 rfl) rfl
theorem q287 : (Jvm.Cond.privateMethod ({ cls := "PictureBlock", name := "isPicture", desc := "(I)Z" } : Jvm.MethodName)) ∈ lw_tbl := lw_at lw_m1 202 rfl
theorem q288 : (Jvm.Cond.instanceMethod ({ cls := "PictureBlock", name := "isPicture", desc := "(I)Z" } : Jvm.MethodName)) ∈ lw_all := lw_g (lw_at lw_m1 203 rfl) rfl
theorem q289 : (Jvm.Cond.code ({ cls := "PictureBlock", name := "isPicture", desc := "(I)Z" } : Jvm.MethodName) prog_1_method_10_code (2 : Nat) (Option.some Jvm.ClassFile.FieldType.boolean)) ∈ lw_all := lw_g (lw_at lw_m1 204 rfl) rfl
theorem q290 : (Jvm.Cond.methodLink "PictureBlock" (217 : Nat) ({ cls := "PictureBlock", name := "finds", desc := "(I)I" } : Jvm.MethodName)) ∈ lw_all := lw_g (lw_at lw_m1 205 rfl) rfl
theorem q291 : (Jvm.Cond.privateMethod ({ cls := "PictureBlock", name := "finds", desc := "(I)I" } : Jvm.MethodName)) ∈ lw_tbl := lw_at lw_m1 206 rfl
theorem q292 : (Jvm.Cond.instanceMethod ({ cls := "PictureBlock", name := "finds", desc := "(I)I" } : Jvm.MethodName)) ∈ lw_all := lw_g (lw_at lw_m1 207 rfl) rfl
theorem q293 : (Jvm.Cond.code ({ cls := "PictureBlock", name := "finds", desc := "(I)I" } : Jvm.MethodName) prog_1_method_8_code (2 : Nat) (Option.some Jvm.ClassFile.FieldType.int)) ∈ lw_all := lw_g (lw_at lw_m1 208 rfl) rfl
theorem q294 : (Jvm.Cond.constant "PictureBlock" (112 : Nat) (-1000000000 : Int32)) ∈ lw_all := lw_g (lw_at lw_m1 209 rfl) rfl
theorem q295 : (Jvm.Cond.methodLink "PictureBlock" (223 : Nat) ({ cls := "PictureBlock", name := "made", desc := "(III)LPictureBlock$Mark;" } : Jvm.MethodName)) ∈ lw_all := lw_g (lw_at lw_m1 210 rfl) rfl
theorem q296 : (Jvm.Cond.static ({ cls := "PictureBlock", name := "made", desc := "(III)LPictureBlock$Mark;" } : Jvm.MethodName)) ∈ lw_all := lw_g (lw_at lw_m1 211 rfl) rfl
theorem q297 : (Jvm.Cond.code ({ cls := "PictureBlock", name := "made", desc := "(III)LPictureBlock$Mark;" } : Jvm.MethodName) prog_1_method_2_code (3 : Nat) (Option.some (Jvm.ClassFile.FieldType.object "PictureBlock$Mark"))) ∈ lw_all := lw_g (lw_at lw_m1 212 rfl) rfl
theorem q298 : (Jvm.Cond.classLink "PictureBlock" (1 : Nat) "PictureBlock$Flat") ∈ lw_all := lw_g (lw_at lw_m1 213 rfl) rfl
theorem q300 : (Jvm.Cond.methodLink "PictureBlock" (3 : Nat) ({ cls := "PictureBlock$Flat", name := "<init>", desc := "(II)V" } : Jvm.MethodName)) ∈ lw_all := lw_g (lw_at lw_m1 215 rfl) rfl
theorem q319 : (Jvm.Cond.fieldLink "PictureBlock" (236 : Nat) "PictureBlock$Mark" "m" "I") ∈ lw_all := lw_g (lw_at lw_m1 234 rfl) rfl
theorem q325 : (Jvm.Cond.classLink "PictureBlock" (7 : Nat) "PictureBlock$Star") ∈ lw_all := lw_g (lw_at lw_m2 0 rfl) rfl
theorem q327 : (Jvm.Cond.methodLink "PictureBlock" (9 : Nat) ({ cls := "PictureBlock$Star", name := "<init>", desc := "(II)V" } : Jvm.MethodName)) ∈ lw_all := lw_g (lw_at lw_m2 2 rfl) rfl
theorem q334 : (Jvm.Cond.classLink "PictureBlock" (10 : Nat) "PictureBlock$Peak") ∈ lw_all := lw_g (lw_at lw_m2 9 rfl) rfl
theorem q336 : (Jvm.Cond.methodLink "PictureBlock" (12 : Nat) ({ cls := "PictureBlock$Peak", name := "<init>", desc := "(II)V" } : Jvm.MethodName)) ∈ lw_all := lw_g (lw_at lw_m2 11 rfl) rfl
theorem q343 : (Jvm.Cond.classLink "PictureBlock" (13 : Nat) "PictureBlock$Air") ∈ lw_all := lw_g (lw_at lw_m2 18 rfl) rfl
theorem q345 : (Jvm.Cond.methodLink "PictureBlock" (15 : Nat) ({ cls := "PictureBlock$Air", name := "<init>", desc := "(II)V" } : Jvm.MethodName)) ∈ lw_all := lw_g (lw_at lw_m2 20 rfl) rfl
theorem q352 : (Jvm.Cond.classLink "PictureBlock" (16 : Nat) "PictureBlock$Faint") ∈ lw_all := lw_g (lw_at lw_m2 27 rfl) rfl
theorem q354 : (Jvm.Cond.methodLink "PictureBlock" (18 : Nat) ({ cls := "PictureBlock$Faint", name := "<init>", desc := "(II)V" } : Jvm.MethodName)) ∈ lw_all := lw_g (lw_at lw_m2 29 rfl) rfl
theorem q361 : (Jvm.Cond.classLink "PictureBlock" (19 : Nat) "PictureBlock$Shore") ∈ lw_all := lw_g (lw_at lw_m2 36 rfl) rfl
theorem q363 : (Jvm.Cond.methodLink "PictureBlock" (21 : Nat) ({ cls := "PictureBlock$Shore", name := "<init>", desc := "(II)V" } : Jvm.MethodName)) ∈ lw_all := lw_g (lw_at lw_m2 38 rfl) rfl
theorem q370 : (Jvm.Cond.classLink "PictureBlock" (22 : Nat) "PictureBlock$Mark") ∈ lw_all := lw_g (lw_at lw_m2 45 rfl) rfl
theorem q372 : (Jvm.Cond.methodLink "PictureBlock" (24 : Nat) ({ cls := "PictureBlock$Mark", name := "<init>", desc := "(II)V" } : Jvm.MethodName)) ∈ lw_all := lw_g (lw_at lw_m2 47 rfl) rfl
theorem q377 : (Jvm.Cond.instanceMethod ({ cls := "PictureBlock", name := "markIs", desc := "(II)I" } : Jvm.MethodName)) ∈ lw_all := lw_g (lw_at lw_m2 52 rfl) rfl
theorem q378 : (Jvm.Cond.selects "PictureBlock" ({ cls := "PictureBlock", name := "markIs", desc := "(II)I" } : Jvm.MethodName) ({ cls := "PictureBlock", name := "markIs", desc := "(II)I" } : Jvm.MethodName)) ∈ lw_all := lw_g (lw_at lw_m2 53 rfl) rfl
theorem q379 : (Jvm.Cond.code ({ cls := "PictureBlock", name := "markIs", desc := "(II)I" } : Jvm.MethodName) prog_1_method_23_code (3 : Nat) (Option.some Jvm.ClassFile.FieldType.int)) ∈ lw_all := lw_g (lw_at lw_m2 54 rfl) rfl
theorem q380 : (Jvm.Cond.methodLink "PictureBlock" (230 : Nat) ({ cls := "PictureBlock", name := "isMark", desc := "(I)Z" } : Jvm.MethodName)) ∈ lw_all := lw_g (lw_at lw_m2 55 rfl) rfl
theorem q381 : (Jvm.Cond.privateMethod ({ cls := "PictureBlock", name := "isMark", desc := "(I)Z" } : Jvm.MethodName)) ∈ lw_tbl := lw_at lw_m2 56 rfl
theorem q382 : (Jvm.Cond.instanceMethod ({ cls := "PictureBlock", name := "isMark", desc := "(I)Z" } : Jvm.MethodName)) ∈ lw_all := lw_g (lw_at lw_m2 57 rfl) rfl
theorem q383 : (Jvm.Cond.code ({ cls := "PictureBlock", name := "isMark", desc := "(I)Z" } : Jvm.MethodName) prog_1_method_9_code (2 : Nat) (Option.some Jvm.ClassFile.FieldType.boolean)) ∈ lw_all := lw_g (lw_at lw_m2 58 rfl) rfl
theorem q384 : (Jvm.Cond.methodLink "PictureBlock" (143 : Nat) ({ cls := "PictureBlock$House", name := "at", desc := "(I)LPictureBlock$Mark;" } : Jvm.MethodName)) ∈ lw_all := lw_g (lw_at lw_m2 59 rfl) rfl
theorem q389 : (Jvm.Cond.methodLink "PictureBlock" (233 : Nat) ({ cls := "PictureBlock$Mark", name := "kind", desc := "()I" } : Jvm.MethodName)) ∈ lw_all := lw_g (lw_at lw_m2 64 rfl) rfl
theorem q418 : (Jvm.Cond.methodLink "PictureBlock" (182 : Nat) ({ cls := "PictureBlock", name := "weightOf", desc := "(I)I" } : Jvm.MethodName)) ∈ lw_all := lw_g (lw_at lw_m2 93 rfl) rfl
theorem q419 : (Jvm.Cond.privateMethod ({ cls := "PictureBlock", name := "weightOf", desc := "(I)I" } : Jvm.MethodName)) ∈ lw_tbl := lw_at lw_m2 94 rfl
theorem q420 : (Jvm.Cond.instanceMethod ({ cls := "PictureBlock", name := "weightOf", desc := "(I)I" } : Jvm.MethodName)) ∈ lw_all := lw_g (lw_at lw_m2 95 rfl) rfl
theorem q421 : (Jvm.Cond.code ({ cls := "PictureBlock", name := "weightOf", desc := "(I)I" } : Jvm.MethodName) prog_1_method_13_code (3 : Nat) (Option.some Jvm.ClassFile.FieldType.int)) ∈ lw_all := lw_g (lw_at lw_m2 96 rfl) rfl
theorem q422 : (Jvm.Cond.interfaceEntry "PictureBlock" (147 : Nat)) ∈ lw_tbl := lw_at lw_m2 97 rfl
theorem q423 : (Jvm.Cond.methodLink "PictureBlock" (147 : Nat) ({ cls := "PictureBlock$Seen", name := "weight", desc := "(LPictureBlock$Block;)I" } : Jvm.MethodName)) ∈ lw_all := lw_g (lw_at lw_m2 98 rfl) rfl
theorem q493 : (Jvm.Cond.methodLink "PictureBlock" (153 : Nat) ({ cls := "PictureBlock$House", name := "marks", desc := "(I)I" } : Jvm.MethodName)) ∈ lw_all := lw_g (lw_at lw_m2 168 rfl) rfl
theorem q494 : (Jvm.Cond.methodLink "PictureBlock" (159 : Nat) ({ cls := "PictureBlock", name := "given", desc := "(IIII)I" } : Jvm.MethodName)) ∈ lw_all := lw_g (lw_at lw_m2 169 rfl) rfl
theorem q495 : (Jvm.Cond.privateMethod ({ cls := "PictureBlock", name := "given", desc := "(IIII)I" } : Jvm.MethodName)) ∈ lw_tbl := lw_at lw_m2 170 rfl
theorem q496 : (Jvm.Cond.instanceMethod ({ cls := "PictureBlock", name := "given", desc := "(IIII)I" } : Jvm.MethodName)) ∈ lw_all := lw_g (lw_at lw_m2 171 rfl) rfl
theorem q497 : (Jvm.Cond.code ({ cls := "PictureBlock", name := "given", desc := "(IIII)I" } : Jvm.MethodName) prog_1_method_12_code (6 : Nat) (Option.some Jvm.ClassFile.FieldType.int)) ∈ lw_all := lw_g (lw_at lw_m2 172 rfl) rfl
theorem q498 : (Jvm.Cond.methodLink "PictureBlock" (136 : Nat) ({ cls := "PictureBlock", name := "worked", desc := "(LPictureBlock$Text;)I" } : Jvm.MethodName)) ∈ lw_all := lw_g (lw_at lw_m2 173 rfl) rfl
theorem q499 : (Jvm.Cond.privateMethod ({ cls := "PictureBlock", name := "worked", desc := "(LPictureBlock$Text;)I" } : Jvm.MethodName)) ∈ lw_tbl := lw_at lw_m2 174 rfl
theorem q500 : (Jvm.Cond.instanceMethod ({ cls := "PictureBlock", name := "worked", desc := "(LPictureBlock$Text;)I" } : Jvm.MethodName)) ∈ lw_all := lw_g (lw_at lw_m2 175 rfl) rfl
theorem q501 : (Jvm.Cond.code ({ cls := "PictureBlock", name := "worked", desc := "(LPictureBlock$Text;)I" } : Jvm.MethodName) prog_1_method_6_code (5 : Nat) (Option.some Jvm.ClassFile.FieldType.int)) ∈ lw_all := lw_g (lw_at lw_m2 176 rfl) rfl
theorem q502 : (Jvm.Cond.methodLink "PictureBlock" (52 : Nat) ({ cls := "PictureBlock", name := "both", desc := "(III)I" } : Jvm.MethodName)) ∈ lw_all := lw_g (lw_at lw_m2 177 rfl) rfl
theorem q503 : (Jvm.Cond.static ({ cls := "PictureBlock", name := "both", desc := "(III)I" } : Jvm.MethodName)) ∈ lw_all := lw_g (lw_at lw_m2 178 rfl) rfl
theorem q504 : (Jvm.Cond.code ({ cls := "PictureBlock", name := "both", desc := "(III)I" } : Jvm.MethodName) prog_1_method_5_code (3 : Nat) (Option.some Jvm.ClassFile.FieldType.int)) ∈ lw_all := lw_g (lw_at lw_m2 179 rfl) rfl
theorem q505 : (Jvm.Cond.methodLink "PictureBlock" (140 : Nat) ({ cls := "PictureBlock", name := "held", desc := "(III)I" } : Jvm.MethodName)) ∈ lw_all := lw_g (lw_at lw_m2 180 rfl) rfl
theorem q506 : (Jvm.Cond.static ({ cls := "PictureBlock", name := "held", desc := "(III)I" } : Jvm.MethodName)) ∈ lw_all := lw_g (lw_at lw_m2 181 rfl) rfl
theorem q507 : (Jvm.Cond.code ({ cls := "PictureBlock", name := "held", desc := "(III)I" } : Jvm.MethodName) prog_1_method_11_code (3 : Nat) (Option.some Jvm.ClassFile.FieldType.int)) ∈ lw_all := lw_g (lw_at lw_m2 182 rfl) rfl
theorem q508 : (Jvm.Cond.methodLink "PictureBlock" (123 : Nat) ({ cls := "java/lang/Math", name := "min", desc := "(II)I" } : Jvm.MethodName)) ∈ lw_all := lw_g (lw_at lw_m2 183 rfl) rfl
theorem q511 : (Jvm.Cond.methodLink "PictureBlock" (129 : Nat) ({ cls := "java/lang/Math", name := "max", desc := "(II)I" } : Jvm.MethodName)) ∈ lw_all := lw_g (lw_at lw_m2 186 rfl) rfl
theorem q514 : (Jvm.Cond.methodLink "PictureBlock" (185 : Nat) ({ cls := "PictureBlock", name := "saidBy", desc := "(I)I" } : Jvm.MethodName)) ∈ lw_all := lw_g (lw_at lw_m2 189 rfl) rfl
theorem q515 : (Jvm.Cond.privateMethod ({ cls := "PictureBlock", name := "saidBy", desc := "(I)I" } : Jvm.MethodName)) ∈ lw_tbl := lw_at lw_m2 190 rfl
theorem q516 : (Jvm.Cond.instanceMethod ({ cls := "PictureBlock", name := "saidBy", desc := "(I)I" } : Jvm.MethodName)) ∈ lw_all := lw_g (lw_at lw_m2 191 rfl) rfl
theorem q517 : (Jvm.Cond.code ({ cls := "PictureBlock", name := "saidBy", desc := "(I)I" } : Jvm.MethodName) prog_1_method_14_code (3 : Nat) (Option.some Jvm.ClassFile.FieldType.int)) ∈ lw_all := lw_g (lw_at lw_m2 192 rfl) rfl
theorem q518 : (Jvm.Cond.interfaceEntry "PictureBlock" (163 : Nat)) ∈ lw_tbl := lw_at lw_m2 193 rfl
theorem q519 : (Jvm.Cond.methodLink "PictureBlock" (163 : Nat) ({ cls := "PictureBlock$Seen", name := "value", desc := "(LPictureBlock$Block;)I" } : Jvm.MethodName)) ∈ lw_all := lw_g (lw_at lw_m2 194 rfl) rfl
theorem q569 : (Jvm.Cond.instanceMethod ({ cls := "PictureBlock", name := "become", desc := "(II)I" } : Jvm.MethodName)) ∈ lw_all := lw_g (lw_at lw_m3 4 rfl) rfl
theorem q570 : (Jvm.Cond.selects "PictureBlock" ({ cls := "PictureBlock", name := "become", desc := "(II)I" } : Jvm.MethodName) ({ cls := "PictureBlock", name := "become", desc := "(II)I" } : Jvm.MethodName)) ∈ lw_all := lw_g (lw_at lw_m3 5 rfl) rfl
theorem q571 : (Jvm.Cond.code ({ cls := "PictureBlock", name := "become", desc := "(II)I" } : Jvm.MethodName) prog_1_method_24_code (4 : Nat) (Option.some Jvm.ClassFile.FieldType.int)) ∈ lw_all := lw_g (lw_at lw_m3 6 rfl) rfl
theorem q573 : (Jvm.Cond.instanceMethod ({ cls := "PictureBlock", name := "as", desc := "(II)I" } : Jvm.MethodName)) ∈ lw_all := lw_g (lw_at lw_m3 8 rfl) rfl
theorem q574 : (Jvm.Cond.selects "PictureBlock" ({ cls := "PictureBlock", name := "as", desc := "(II)I" } : Jvm.MethodName) ({ cls := "PictureBlock", name := "as", desc := "(II)I" } : Jvm.MethodName)) ∈ lw_all := lw_g (lw_at lw_m3 9 rfl) rfl
theorem q575 : (Jvm.Cond.code ({ cls := "PictureBlock", name := "as", desc := "(II)I" } : Jvm.MethodName) prog_1_method_25_code (3 : Nat) (Option.some Jvm.ClassFile.FieldType.int)) ∈ lw_all := lw_g (lw_at lw_m3 10 rfl) rfl
theorem q576 : (Jvm.Cond.methodLink "PictureBlock" (239 : Nat) ({ cls := "PictureBlock", name := "isOf", desc := "(Ljava/lang/Object;I)Z" } : Jvm.MethodName)) ∈ lw_all := lw_g (lw_at lw_m3 11 rfl) rfl
theorem q577 : (Jvm.Cond.static ({ cls := "PictureBlock", name := "isOf", desc := "(Ljava/lang/Object;I)Z" } : Jvm.MethodName)) ∈ lw_all := lw_g (lw_at lw_m3 12 rfl) rfl
theorem q578 : (Jvm.Cond.code ({ cls := "PictureBlock", name := "isOf", desc := "(Ljava/lang/Object;I)Z" } : Jvm.MethodName) prog_1_method_3_code (2 : Nat) (Option.some Jvm.ClassFile.FieldType.boolean)) ∈ lw_all := lw_g (lw_at lw_m3 13 rfl) rfl
theorem q580 : (Jvm.Cond.instanceMethod ({ cls := "PictureBlock", name := "measure", desc := "(II)I" } : Jvm.MethodName)) ∈ lw_all := lw_g (lw_at lw_m3 15 rfl) rfl
theorem q581 : (Jvm.Cond.selects "PictureBlock" ({ cls := "PictureBlock", name := "measure", desc := "(II)I" } : Jvm.MethodName) ({ cls := "PictureBlock", name := "measure", desc := "(II)I" } : Jvm.MethodName)) ∈ lw_all := lw_g (lw_at lw_m3 16 rfl) rfl
theorem q582 : (Jvm.Cond.code ({ cls := "PictureBlock", name := "measure", desc := "(II)I" } : Jvm.MethodName) prog_1_method_26_code (4 : Nat) (Option.some Jvm.ClassFile.FieldType.int)) ∈ lw_all := lw_g (lw_at lw_m3 17 rfl) rfl
theorem q584 : (Jvm.Cond.instanceMethod ({ cls := "PictureBlock", name := "on", desc := "(II)I" } : Jvm.MethodName)) ∈ lw_all := lw_g (lw_at lw_m3 19 rfl) rfl
theorem q585 : (Jvm.Cond.selects "PictureBlock" ({ cls := "PictureBlock", name := "on", desc := "(II)I" } : Jvm.MethodName) ({ cls := "PictureBlock", name := "on", desc := "(II)I" } : Jvm.MethodName)) ∈ lw_all := lw_g (lw_at lw_m3 20 rfl) rfl
theorem q586 : (Jvm.Cond.code ({ cls := "PictureBlock", name := "on", desc := "(II)I" } : Jvm.MethodName) prog_1_method_27_code (4 : Nat) (Option.some Jvm.ClassFile.FieldType.int)) ∈ lw_all := lw_g (lw_at lw_m3 21 rfl) rfl
theorem q588 : (Jvm.Cond.instanceMethod ({ cls := "PictureBlock", name := "pictures", desc := "(I)I" } : Jvm.MethodName)) ∈ lw_all := lw_g (lw_at lw_m3 23 rfl) rfl
theorem q589 : (Jvm.Cond.selects "PictureBlock" ({ cls := "PictureBlock", name := "pictures", desc := "(I)I" } : Jvm.MethodName) ({ cls := "PictureBlock", name := "pictures", desc := "(I)I" } : Jvm.MethodName)) ∈ lw_all := lw_g (lw_at lw_m3 24 rfl) rfl
theorem q590 : (Jvm.Cond.code ({ cls := "PictureBlock", name := "pictures", desc := "(I)I" } : Jvm.MethodName) prog_1_method_28_code (3 : Nat) (Option.some Jvm.ClassFile.FieldType.int)) ∈ lw_all := lw_g (lw_at lw_m3 25 rfl) rfl
theorem q592 : (Jvm.Cond.instanceMethod ({ cls := "PictureBlock", name := "limit", desc := "(I)I" } : Jvm.MethodName)) ∈ lw_all := lw_g (lw_at lw_m3 27 rfl) rfl
theorem q593 : (Jvm.Cond.selects "PictureBlock" ({ cls := "PictureBlock", name := "limit", desc := "(I)I" } : Jvm.MethodName) ({ cls := "PictureBlock", name := "limit", desc := "(I)I" } : Jvm.MethodName)) ∈ lw_all := lw_g (lw_at lw_m3 28 rfl) rfl
theorem q594 : (Jvm.Cond.code ({ cls := "PictureBlock", name := "limit", desc := "(I)I" } : Jvm.MethodName) prog_1_method_29_code (3 : Nat) (Option.some Jvm.ClassFile.FieldType.int)) ∈ lw_all := lw_g (lw_at lw_m3 29 rfl) rfl
theorem q596 : (Jvm.Cond.instanceMethod ({ cls := "PictureBlock", name := "feed", desc := "(JI)I" } : Jvm.MethodName)) ∈ lw_all := lw_g (lw_at lw_m3 31 rfl) rfl
theorem q597 : (Jvm.Cond.selects "PictureBlock" ({ cls := "PictureBlock", name := "feed", desc := "(JI)I" } : Jvm.MethodName) ({ cls := "PictureBlock", name := "feed", desc := "(JI)I" } : Jvm.MethodName)) ∈ lw_all := lw_g (lw_at lw_m3 32 rfl) rfl
theorem q598 : (Jvm.Cond.code ({ cls := "PictureBlock", name := "feed", desc := "(JI)I" } : Jvm.MethodName) prog_1_method_30_code (5 : Nat) (Option.some Jvm.ClassFile.FieldType.int)) ∈ lw_all := lw_g (lw_at lw_m3 33 rfl) rfl
theorem q600 : (Jvm.Cond.instanceMethod ({ cls := "PictureBlock", name := "text", desc := "(I)I" } : Jvm.MethodName)) ∈ lw_all := lw_g (lw_at lw_m3 35 rfl) rfl
theorem q601 : (Jvm.Cond.selects "PictureBlock" ({ cls := "PictureBlock", name := "text", desc := "(I)I" } : Jvm.MethodName) ({ cls := "PictureBlock", name := "text", desc := "(I)I" } : Jvm.MethodName)) ∈ lw_all := lw_g (lw_at lw_m3 36 rfl) rfl
theorem q602 : (Jvm.Cond.codeWith ({ cls := "PictureBlock", name := "text", desc := "(I)I" } : Jvm.MethodName) prog_1_method_32_code (6 : Nat) (Option.some Jvm.ClassFile.FieldType.int) [((39 : Nat), (54 : Nat), (64 : Nat), (268 : Nat)), ((39 : Nat), (54 : Nat), (85 : Nat), (0 : Nat)), ((64 : Nat), (74 : Nat), (85 : Nat), (0 : Nat)), ((85 : Nat), (87 : Nat), (85 : Nat), (0 : Nat))]) ∈ lw_all := lw_g (lw_at lw_m3 37 rfl) rfl
theorem q603 : (Jvm.Cond.classLink "PictureBlock" (268 : Nat) "PictureBlock$Fault") ∈ lw_all := lw_g (lw_at lw_m3 38 rfl) rfl
theorem q604 : (Jvm.Cond.methodLink "PictureBlock" (252 : Nat) ({ cls := "PictureBlock", name := "isUse", desc := "(I)Z" } : Jvm.MethodName)) ∈ lw_all := lw_g (lw_at lw_m3 39 rfl) rfl
theorem q605 : (Jvm.Cond.static ({ cls := "PictureBlock", name := "isUse", desc := "(I)Z" } : Jvm.MethodName)) ∈ lw_all := lw_g (lw_at lw_m3 40 rfl) rfl
theorem q606 : (Jvm.Cond.code ({ cls := "PictureBlock", name := "isUse", desc := "(I)Z" } : Jvm.MethodName) prog_1_method_31_code (1 : Nat) (Option.some Jvm.ClassFile.FieldType.boolean)) ∈ lw_all := lw_g (lw_at lw_m3 41 rfl) rfl
theorem q607 : (Jvm.Cond.classLink "PictureBlock" (255 : Nat) "PictureBlock$Reader") ∈ lw_all := lw_g (lw_at lw_m3 42 rfl) rfl
theorem q609 : (Jvm.Cond.methodLink "PictureBlock" (257 : Nat) ({ cls := "PictureBlock", name := "namesOf", desc := "(I)Ljava/lang/String;" } : Jvm.MethodName)) ∈ lw_all := lw_g (lw_at lw_m3 44 rfl) rfl
theorem q610 : (Jvm.Cond.static ({ cls := "PictureBlock", name := "namesOf", desc := "(I)Ljava/lang/String;" } : Jvm.MethodName)) ∈ lw_all := lw_g (lw_at lw_m3 45 rfl) rfl
theorem q611 : (Jvm.Cond.code ({ cls := "PictureBlock", name := "namesOf", desc := "(I)Ljava/lang/String;" } : Jvm.MethodName) prog_1_method_4_code (1 : Nat) (Option.some (Jvm.ClassFile.FieldType.object "java/lang/String"))) ∈ lw_all := lw_g (lw_at lw_m3 46 rfl) rfl
theorem q612 : (Jvm.Cond.stringRef "PictureBlock" (25 : Nat) "wkn") ∈ lw_tbl := lw_at lw_m3 47 rfl
theorem q613 : (Jvm.Cond.stringRef "PictureBlock" (27 : Nat) "stn") ∈ lw_tbl := lw_at lw_m3 48 rfl
theorem q614 : (Jvm.Cond.methodLink "PictureBlock" (261 : Nat) ({ cls := "PictureBlock$Reader", name := "<init>", desc := "([BILjava/lang/String;)V" } : Jvm.MethodName)) ∈ lw_all := lw_g (lw_at lw_m3 49 rfl) rfl
theorem q625 : (Jvm.Cond.fieldLinkNest "PictureBlock" (35 : Nat) "PictureBlock$Text" "step" "[B" "PictureBlock") ∈ lw_tbl := lw_at lw_m3 60 rfl
theorem q627 : (Jvm.Cond.fieldLinkNest "PictureBlock" (45 : Nat) "PictureBlock$Text" "value" "[S" "PictureBlock") ∈ lw_tbl := lw_at lw_m3 62 rfl
theorem q629 : (Jvm.Cond.fieldLinkNest "PictureBlock" (29 : Nat) "PictureBlock$Text" "many" "I" "PictureBlock") ∈ lw_tbl := lw_at lw_m3 64 rfl
theorem q657 : (Jvm.Cond.methodLink "PictureBlock" (264 : Nat) ({ cls := "PictureBlock$Reader", name := "read", desc := "()LPictureBlock$Text;" } : Jvm.MethodName)) ∈ lw_all := lw_g (lw_at lw_m3 92 rfl) rfl
theorem q747 : (Jvm.Cond.fieldLinkNest "PictureBlock" (270 : Nat) "PictureBlock$Fault" "place" "I" "PictureBlock") ∈ lw_tbl := lw_at lw_m3 182 rfl
theorem q866 : (Jvm.Cond.instanceMethod ({ cls := "PictureBlock", name := "untell", desc := "(I)I" } : Jvm.MethodName)) ∈ lw_all := lw_g (lw_at lw_m4 61 rfl) rfl
theorem q867 : (Jvm.Cond.selects "PictureBlock" ({ cls := "PictureBlock", name := "untell", desc := "(I)I" } : Jvm.MethodName) ({ cls := "PictureBlock", name := "untell", desc := "(I)I" } : Jvm.MethodName)) ∈ lw_all := lw_g (lw_at lw_m4 62 rfl) rfl
theorem q868 : (Jvm.Cond.code ({ cls := "PictureBlock", name := "untell", desc := "(I)I" } : Jvm.MethodName) prog_1_method_33_code (3 : Nat) (Option.some Jvm.ClassFile.FieldType.int)) ∈ lw_all := lw_g (lw_at lw_m4 63 rfl) rfl
theorem q870 : (Jvm.Cond.instanceMethod ({ cls := "PictureBlock", name := "law", desc := "(IIII)I" } : Jvm.MethodName)) ∈ lw_all := lw_g (lw_at lw_m4 65 rfl) rfl
theorem q871 : (Jvm.Cond.selects "PictureBlock" ({ cls := "PictureBlock", name := "law", desc := "(IIII)I" } : Jvm.MethodName) ({ cls := "PictureBlock", name := "law", desc := "(IIII)I" } : Jvm.MethodName)) ∈ lw_all := lw_g (lw_at lw_m4 66 rfl) rfl
theorem q872 : (Jvm.Cond.code ({ cls := "PictureBlock", name := "law", desc := "(IIII)I" } : Jvm.MethodName) prog_1_method_34_code (5 : Nat) (Option.some Jvm.ClassFile.FieldType.int)) ∈ lw_all := lw_g (lw_at lw_m4 67 rfl) rfl
theorem q874 : (Jvm.Cond.instanceMethod ({ cls := "PictureBlock", name := "rounds", desc := "(I)I" } : Jvm.MethodName)) ∈ lw_all := lw_g (lw_at lw_m4 69 rfl) rfl
theorem q875 : (Jvm.Cond.selects "PictureBlock" ({ cls := "PictureBlock", name := "rounds", desc := "(I)I" } : Jvm.MethodName) ({ cls := "PictureBlock", name := "rounds", desc := "(I)I" } : Jvm.MethodName)) ∈ lw_all := lw_g (lw_at lw_m4 70 rfl) rfl
theorem q876 : (Jvm.Cond.code ({ cls := "PictureBlock", name := "rounds", desc := "(I)I" } : Jvm.MethodName) prog_1_method_39_code (3 : Nat) (Option.some Jvm.ClassFile.FieldType.int)) ∈ lw_all := lw_g (lw_at lw_m4 71 rfl) rfl
theorem q877 : (Jvm.Cond.methodLink "PictureBlock" (288 : Nat) ({ cls := "PictureBlock", name := "isLate", desc := "(I)Z" } : Jvm.MethodName)) ∈ lw_all := lw_g (lw_at lw_m4 72 rfl) rfl
theorem q878 : (Jvm.Cond.privateMethod ({ cls := "PictureBlock", name := "isLate", desc := "(I)Z" } : Jvm.MethodName)) ∈ lw_tbl := lw_at lw_m4 73 rfl
theorem q879 : (Jvm.Cond.instanceMethod ({ cls := "PictureBlock", name := "isLate", desc := "(I)Z" } : Jvm.MethodName)) ∈ lw_all := lw_g (lw_at lw_m4 74 rfl) rfl
theorem q880 : (Jvm.Cond.code ({ cls := "PictureBlock", name := "isLate", desc := "(I)Z" } : Jvm.MethodName) prog_1_method_38_code (2 : Nat) (Option.some Jvm.ClassFile.FieldType.boolean)) ∈ lw_all := lw_g (lw_at lw_m4 75 rfl) rfl
theorem q881 : (Jvm.Cond.methodLink "PictureBlock" (291 : Nat) ({ cls := "PictureBlock", name := "aRound", desc := "()V" } : Jvm.MethodName)) ∈ lw_all := lw_g (lw_at lw_m4 76 rfl) rfl
theorem q882 : (Jvm.Cond.privateMethod ({ cls := "PictureBlock", name := "aRound", desc := "()V" } : Jvm.MethodName)) ∈ lw_tbl := lw_at lw_m4 77 rfl
theorem q883 : (Jvm.Cond.instanceMethod ({ cls := "PictureBlock", name := "aRound", desc := "()V" } : Jvm.MethodName)) ∈ lw_all := lw_g (lw_at lw_m4 78 rfl) rfl
theorem q884 : (Jvm.Cond.code ({ cls := "PictureBlock", name := "aRound", desc := "()V" } : Jvm.MethodName) prog_1_method_37_code (2 : Nat) (Option.none : Option Jvm.ClassFile.FieldType)) ∈ lw_all := lw_g (lw_at lw_m4 79 rfl) rfl
theorem q885 : (Jvm.Cond.methodLink "PictureBlock" (279 : Nat) ({ cls := "PictureBlock", name := "isSolved", desc := "()Z" } : Jvm.MethodName)) ∈ lw_all := lw_g (lw_at lw_m4 80 rfl) rfl
theorem q886 : (Jvm.Cond.privateMethod ({ cls := "PictureBlock", name := "isSolved", desc := "()Z" } : Jvm.MethodName)) ∈ lw_tbl := lw_at lw_m4 81 rfl
theorem q887 : (Jvm.Cond.instanceMethod ({ cls := "PictureBlock", name := "isSolved", desc := "()Z" } : Jvm.MethodName)) ∈ lw_all := lw_g (lw_at lw_m4 82 rfl) rfl
theorem q888 : (Jvm.Cond.code ({ cls := "PictureBlock", name := "isSolved", desc := "()Z" } : Jvm.MethodName) prog_1_method_18_code (5 : Nat) (Option.some Jvm.ClassFile.FieldType.boolean)) ∈ lw_all := lw_g (lw_at lw_m4 83 rfl) rfl
theorem q889 : (Jvm.Cond.methodLink "PictureBlock" (178 : Nat) ({ cls := "PictureBlock", name := "isHeld", desc := "()Z" } : Jvm.MethodName)) ∈ lw_all := lw_g (lw_at lw_m4 84 rfl) rfl
theorem q890 : (Jvm.Cond.privateMethod ({ cls := "PictureBlock", name := "isHeld", desc := "()Z" } : Jvm.MethodName)) ∈ lw_tbl := lw_at lw_m4 85 rfl
theorem q891 : (Jvm.Cond.instanceMethod ({ cls := "PictureBlock", name := "isHeld", desc := "()Z" } : Jvm.MethodName)) ∈ lw_all := lw_g (lw_at lw_m4 86 rfl) rfl
theorem q892 : (Jvm.Cond.code ({ cls := "PictureBlock", name := "isHeld", desc := "()Z" } : Jvm.MethodName) prog_1_method_16_code (1 : Nat) (Option.some Jvm.ClassFile.FieldType.boolean)) ∈ lw_all := lw_g (lw_at lw_m4 87 rfl) rfl
theorem q893 : (Jvm.Cond.methodLink "PictureBlock" (168 : Nat) ({ cls := "PictureBlock$House", name := "used", desc := "()I" } : Jvm.MethodName)) ∈ lw_all := lw_g (lw_at lw_m4 88 rfl) rfl
theorem q897 : (Jvm.Cond.methodLink "PictureBlock" (172 : Nat) ({ cls := "PictureBlock$House", name := "tied", desc := "(I)I" } : Jvm.MethodName)) ∈ lw_all := lw_g (lw_at lw_m4 92 rfl) rfl
theorem q901 : (Jvm.Cond.methodLink "PictureBlock" (175 : Nat) ({ cls := "PictureBlock", name := "all", desc := "(I)I" } : Jvm.MethodName)) ∈ lw_all := lw_g (lw_at lw_m4 96 rfl) rfl
theorem q902 : (Jvm.Cond.static ({ cls := "PictureBlock", name := "all", desc := "(I)I" } : Jvm.MethodName)) ∈ lw_all := lw_g (lw_at lw_m4 97 rfl) rfl
theorem q903 : (Jvm.Cond.code ({ cls := "PictureBlock", name := "all", desc := "(I)I" } : Jvm.MethodName) prog_1_method_15_code (1 : Nat) (Option.some Jvm.ClassFile.FieldType.int)) ∈ lw_all := lw_g (lw_at lw_m4 98 rfl) rfl
theorem q904 : (Jvm.Cond.methodLink "PictureBlock" (197 : Nat) ({ cls := "PictureBlock", name := "comesTo", desc := "(I)J" } : Jvm.MethodName)) ∈ lw_all := lw_g (lw_at lw_m4 99 rfl) rfl
theorem q905 : (Jvm.Cond.privateMethod ({ cls := "PictureBlock", name := "comesTo", desc := "(I)J" } : Jvm.MethodName)) ∈ lw_tbl := lw_at lw_m4 100 rfl
theorem q906 : (Jvm.Cond.instanceMethod ({ cls := "PictureBlock", name := "comesTo", desc := "(I)J" } : Jvm.MethodName)) ∈ lw_all := lw_g (lw_at lw_m4 101 rfl) rfl
theorem q907 : (Jvm.Cond.code ({ cls := "PictureBlock", name := "comesTo", desc := "(I)J" } : Jvm.MethodName) prog_1_method_17_code (10 : Nat) (Option.some Jvm.ClassFile.FieldType.long)) ∈ lw_all := lw_g (lw_at lw_m4 102 rfl) rfl
theorem q908 : (Jvm.Cond.methodLink "PictureBlock" (282 : Nat) ({ cls := "PictureBlock", name := "mostDoubted", desc := "()I" } : Jvm.MethodName)) ∈ lw_all := lw_g (lw_at lw_m4 103 rfl) rfl
theorem q909 : (Jvm.Cond.privateMethod ({ cls := "PictureBlock", name := "mostDoubted", desc := "()I" } : Jvm.MethodName)) ∈ lw_tbl := lw_at lw_m4 104 rfl
theorem q910 : (Jvm.Cond.instanceMethod ({ cls := "PictureBlock", name := "mostDoubted", desc := "()I" } : Jvm.MethodName)) ∈ lw_all := lw_g (lw_at lw_m4 105 rfl) rfl
theorem q911 : (Jvm.Cond.code ({ cls := "PictureBlock", name := "mostDoubted", desc := "()I" } : Jvm.MethodName) prog_1_method_36_code (3 : Nat) (Option.some Jvm.ClassFile.FieldType.int)) ∈ lw_all := lw_g (lw_at lw_m4 106 rfl) rfl
theorem q912 : (Jvm.Cond.methodLink "PictureBlock" (276 : Nat) ({ cls := "PictureBlock", name := "doubtOf", desc := "(I)J" } : Jvm.MethodName)) ∈ lw_all := lw_g (lw_at lw_m4 107 rfl) rfl
theorem q913 : (Jvm.Cond.privateMethod ({ cls := "PictureBlock", name := "doubtOf", desc := "(I)J" } : Jvm.MethodName)) ∈ lw_tbl := lw_at lw_m4 108 rfl
theorem q914 : (Jvm.Cond.instanceMethod ({ cls := "PictureBlock", name := "doubtOf", desc := "(I)J" } : Jvm.MethodName)) ∈ lw_all := lw_g (lw_at lw_m4 109 rfl) rfl
theorem q915 : (Jvm.Cond.code ({ cls := "PictureBlock", name := "doubtOf", desc := "(I)J" } : Jvm.MethodName) prog_1_method_35_code (2 : Nat) (Option.some Jvm.ClassFile.FieldType.long)) ∈ lw_all := lw_g (lw_at lw_m4 110 rfl) rfl
theorem q916 : (Jvm.Cond.methodLink "PictureBlock" (273 : Nat) ({ cls := "PictureBlock", name := "missOf", desc := "(I)J" } : Jvm.MethodName)) ∈ lw_all := lw_g (lw_at lw_m4 111 rfl) rfl
theorem q917 : (Jvm.Cond.privateMethod ({ cls := "PictureBlock", name := "missOf", desc := "(I)J" } : Jvm.MethodName)) ∈ lw_tbl := lw_at lw_m4 112 rfl
theorem q918 : (Jvm.Cond.instanceMethod ({ cls := "PictureBlock", name := "missOf", desc := "(I)J" } : Jvm.MethodName)) ∈ lw_all := lw_g (lw_at lw_m4 113 rfl) rfl
theorem q919 : (Jvm.Cond.code ({ cls := "PictureBlock", name := "missOf", desc := "(I)J" } : Jvm.MethodName) prog_1_method_19_code (2 : Nat) (Option.some Jvm.ClassFile.FieldType.long)) ∈ lw_all := lw_g (lw_at lw_m4 114 rfl) rfl
theorem q920 : (Jvm.Cond.methodLink "PictureBlock" (205 : Nat) ({ cls := "java/lang/Math", name := "abs", desc := "(J)J" } : Jvm.MethodName)) ∈ lw_all := lw_g (lw_at lw_m4 115 rfl) rfl
theorem q923 : (Jvm.Cond.methodLink "PictureBlock" (294 : Nat) ({ cls := "java/lang/Integer", name := "bitCount", desc := "(I)I" } : Jvm.MethodName)) ∈ lw_all := lw_g (lw_at lw_m4 118 rfl) rfl
theorem q930 : (Jvm.Cond.instanceMethod ({ cls := "PictureBlock", name := "loose", desc := "(I)I" } : Jvm.MethodName)) ∈ lw_all := lw_g (lw_at lw_m4 125 rfl) rfl
theorem q931 : (Jvm.Cond.selects "PictureBlock" ({ cls := "PictureBlock", name := "loose", desc := "(I)I" } : Jvm.MethodName) ({ cls := "PictureBlock", name := "loose", desc := "(I)I" } : Jvm.MethodName)) ∈ lw_all := lw_g (lw_at lw_m4 126 rfl) rfl
theorem q932 : (Jvm.Cond.code ({ cls := "PictureBlock", name := "loose", desc := "(I)I" } : Jvm.MethodName) prog_1_method_40_code (4 : Nat) (Option.some Jvm.ClassFile.FieldType.int)) ∈ lw_all := lw_g (lw_at lw_m4 127 rfl) rfl
theorem q933 : (Jvm.Cond.methodLink "PictureBlock" (299 : Nat) ({ cls := "PictureBlock$House", name := "drawn", desc := "()I" } : Jvm.MethodName)) ∈ lw_all := lw_g (lw_at lw_m4 128 rfl) rfl
theorem q939 : (Jvm.Cond.instanceMethod ({ cls := "PictureBlock", name := "round", desc := "(I)I" } : Jvm.MethodName)) ∈ lw_all := lw_g (lw_at lw_m4 134 rfl) rfl
theorem q940 : (Jvm.Cond.selects "PictureBlock" ({ cls := "PictureBlock", name := "round", desc := "(I)I" } : Jvm.MethodName) ({ cls := "PictureBlock", name := "round", desc := "(I)I" } : Jvm.MethodName)) ∈ lw_all := lw_g (lw_at lw_m4 135 rfl) rfl
theorem q941 : (Jvm.Cond.code ({ cls := "PictureBlock", name := "round", desc := "(I)I" } : Jvm.MethodName) prog_1_method_41_code (3 : Nat) (Option.some Jvm.ClassFile.FieldType.int)) ∈ lw_all := lw_g (lw_at lw_m4 136 rfl) rfl
theorem q943 : (Jvm.Cond.instanceMethod ({ cls := "PictureBlock", name := "seed", desc := "(I)I" } : Jvm.MethodName)) ∈ lw_all := lw_g (lw_at lw_m4 138 rfl) rfl
theorem q944 : (Jvm.Cond.selects "PictureBlock" ({ cls := "PictureBlock", name := "seed", desc := "(I)I" } : Jvm.MethodName) ({ cls := "PictureBlock", name := "seed", desc := "(I)I" } : Jvm.MethodName)) ∈ lw_all := lw_g (lw_at lw_m4 139 rfl) rfl
theorem q945 : (Jvm.Cond.code ({ cls := "PictureBlock", name := "seed", desc := "(I)I" } : Jvm.MethodName) prog_1_method_42_code (3 : Nat) (Option.some Jvm.ClassFile.FieldType.int)) ∈ lw_all := lw_g (lw_at lw_m4 140 rfl) rfl
theorem q947 : (Jvm.Cond.instanceMethod ({ cls := "PictureBlock", name := "place", desc := "(II)J" } : Jvm.MethodName)) ∈ lw_all := lw_g (lw_at lw_m4 142 rfl) rfl
theorem q948 : (Jvm.Cond.selects "PictureBlock" ({ cls := "PictureBlock", name := "place", desc := "(II)J" } : Jvm.MethodName) ({ cls := "PictureBlock", name := "place", desc := "(II)J" } : Jvm.MethodName)) ∈ lw_all := lw_g (lw_at lw_m4 143 rfl) rfl
theorem q949 : (Jvm.Cond.code ({ cls := "PictureBlock", name := "place", desc := "(II)J" } : Jvm.MethodName) prog_1_method_43_code (3 : Nat) (Option.some Jvm.ClassFile.FieldType.long)) ∈ lw_all := lw_g (lw_at lw_m4 144 rfl) rfl
theorem q950 : (Jvm.Cond.methodLink "PictureBlock" (305 : Nat) ({ cls := "PictureBlock", name := "part", desc := "(JJI)J" } : Jvm.MethodName)) ∈ lw_all := lw_g (lw_at lw_m4 145 rfl) rfl
theorem q951 : (Jvm.Cond.static ({ cls := "PictureBlock", name := "part", desc := "(JJI)J" } : Jvm.MethodName)) ∈ lw_all := lw_g (lw_at lw_m4 146 rfl) rfl
theorem q952 : (Jvm.Cond.code ({ cls := "PictureBlock", name := "part", desc := "(JJI)J" } : Jvm.MethodName) prog_1_method_21_code (5 : Nat) (Option.some Jvm.ClassFile.FieldType.long)) ∈ lw_all := lw_g (lw_at lw_m4 147 rfl) rfl
theorem q953 : (Jvm.Cond.methodLink "PictureBlock" (209 : Nat) ({ cls := "PictureBlock", name := "common", desc := "(JJ)J" } : Jvm.MethodName)) ∈ lw_all := lw_g (lw_at lw_m4 148 rfl) rfl
theorem q954 : (Jvm.Cond.static ({ cls := "PictureBlock", name := "common", desc := "(JJ)J" } : Jvm.MethodName)) ∈ lw_all := lw_g (lw_at lw_m4 149 rfl) rfl
theorem q955 : (Jvm.Cond.code ({ cls := "PictureBlock", name := "common", desc := "(JJ)J" } : Jvm.MethodName) prog_1_method_20_code (10 : Nat) (Option.some Jvm.ClassFile.FieldType.long)) ∈ lw_all := lw_g (lw_at lw_m4 150 rfl) rfl
theorem q957 : (Jvm.Cond.instanceMethod ({ cls := "PictureBlock", name := "miss", desc := "(II)J" } : Jvm.MethodName)) ∈ lw_all := lw_g (lw_at lw_m4 152 rfl) rfl
theorem q958 : (Jvm.Cond.selects "PictureBlock" ({ cls := "PictureBlock", name := "miss", desc := "(II)J" } : Jvm.MethodName) ({ cls := "PictureBlock", name := "miss", desc := "(II)J" } : Jvm.MethodName)) ∈ lw_all := lw_g (lw_at lw_m4 153 rfl) rfl
theorem q959 : (Jvm.Cond.code ({ cls := "PictureBlock", name := "miss", desc := "(II)J" } : Jvm.MethodName) prog_1_method_44_code (3 : Nat) (Option.some Jvm.ClassFile.FieldType.long)) ∈ lw_all := lw_g (lw_at lw_m4 154 rfl) rfl
theorem q961 : (Jvm.Cond.instanceMethod ({ cls := "PictureBlock", name := "sum", desc := "(I)J" } : Jvm.MethodName)) ∈ lw_all := lw_g (lw_at lw_m4 156 rfl) rfl
theorem q962 : (Jvm.Cond.selects "PictureBlock" ({ cls := "PictureBlock", name := "sum", desc := "(I)J" } : Jvm.MethodName) ({ cls := "PictureBlock", name := "sum", desc := "(I)J" } : Jvm.MethodName)) ∈ lw_all := lw_g (lw_at lw_m4 157 rfl) rfl
theorem q963 : (Jvm.Cond.code ({ cls := "PictureBlock", name := "sum", desc := "(I)J" } : Jvm.MethodName) prog_1_method_46_code (2 : Nat) (Option.some Jvm.ClassFile.FieldType.long)) ∈ lw_all := lw_g (lw_at lw_m4 158 rfl) rfl
theorem q964 : (Jvm.Cond.methodLink "PictureBlock" (309 : Nat) ({ cls := "PictureBlock", name := "sumOf", desc := "()J" } : Jvm.MethodName)) ∈ lw_all := lw_g (lw_at lw_m4 159 rfl) rfl
theorem q965 : (Jvm.Cond.privateMethod ({ cls := "PictureBlock", name := "sumOf", desc := "()J" } : Jvm.MethodName)) ∈ lw_tbl := lw_at lw_m4 160 rfl
theorem q966 : (Jvm.Cond.instanceMethod ({ cls := "PictureBlock", name := "sumOf", desc := "()J" } : Jvm.MethodName)) ∈ lw_all := lw_g (lw_at lw_m4 161 rfl) rfl
theorem q967 : (Jvm.Cond.code ({ cls := "PictureBlock", name := "sumOf", desc := "()J" } : Jvm.MethodName) prog_1_method_45_code (4 : Nat) (Option.some Jvm.ClassFile.FieldType.long)) ∈ lw_all := lw_g (lw_at lw_m4 162 rfl) rfl
theorem q969 : (Jvm.Cond.instanceMethod ({ cls := "PictureBlock", name := "doubted", desc := "()I" } : Jvm.MethodName)) ∈ lw_all := lw_g (lw_at lw_m4 164 rfl) rfl
theorem q970 : (Jvm.Cond.selects "PictureBlock" ({ cls := "PictureBlock", name := "doubted", desc := "()I" } : Jvm.MethodName) ({ cls := "PictureBlock", name := "doubted", desc := "()I" } : Jvm.MethodName)) ∈ lw_all := lw_g (lw_at lw_m4 165 rfl) rfl
theorem q971 : (Jvm.Cond.code ({ cls := "PictureBlock", name := "doubted", desc := "()I" } : Jvm.MethodName) prog_1_method_47_code (1 : Nat) (Option.some Jvm.ClassFile.FieldType.int)) ∈ lw_all := lw_g (lw_at lw_m4 166 rfl) rfl
theorem q973 : (Jvm.Cond.instanceMethod ({ cls := "PictureBlock", name := "needed", desc := "()I" } : Jvm.MethodName)) ∈ lw_all := lw_g (lw_at lw_m4 168 rfl) rfl
theorem q974 : (Jvm.Cond.selects "PictureBlock" ({ cls := "PictureBlock", name := "needed", desc := "()I" } : Jvm.MethodName) ({ cls := "PictureBlock", name := "needed", desc := "()I" } : Jvm.MethodName)) ∈ lw_all := lw_g (lw_at lw_m4 169 rfl) rfl
theorem q975 : (Jvm.Cond.code ({ cls := "PictureBlock", name := "needed", desc := "()I" } : Jvm.MethodName) prog_1_method_48_code (3 : Nat) (Option.some Jvm.ClassFile.FieldType.int)) ∈ lw_all := lw_g (lw_at lw_m4 170 rfl) rfl
theorem q977 : (Jvm.Cond.instanceMethod ({ cls := "PictureBlock", name := "spine", desc := "()I" } : Jvm.MethodName)) ∈ lw_all := lw_g (lw_at lw_m4 172 rfl) rfl
theorem q978 : (Jvm.Cond.selects "PictureBlock" ({ cls := "PictureBlock", name := "spine", desc := "()I" } : Jvm.MethodName) ({ cls := "PictureBlock", name := "spine", desc := "()I" } : Jvm.MethodName)) ∈ lw_all := lw_g (lw_at lw_m4 173 rfl) rfl
theorem q979 : (Jvm.Cond.code ({ cls := "PictureBlock", name := "spine", desc := "()I" } : Jvm.MethodName) prog_1_method_49_code (6 : Nat) (Option.some Jvm.ClassFile.FieldType.int)) ∈ lw_all := lw_g (lw_at lw_m4 174 rfl) rfl
theorem q981 : (Jvm.Cond.instanceMethod ({ cls := "PictureBlock", name := "then", desc := "(II)I" } : Jvm.MethodName)) ∈ lw_all := lw_g (lw_at lw_m4 176 rfl) rfl
theorem q982 : (Jvm.Cond.selects "PictureBlock" ({ cls := "PictureBlock", name := "then", desc := "(II)I" } : Jvm.MethodName) ({ cls := "PictureBlock", name := "then", desc := "(II)I" } : Jvm.MethodName)) ∈ lw_all := lw_g (lw_at lw_m4 177 rfl) rfl
theorem q983 : (Jvm.Cond.codeWith ({ cls := "PictureBlock", name := "then", desc := "(II)I" } : Jvm.MethodName) prog_1_method_50_code (5 : Nat) (Option.some Jvm.ClassFile.FieldType.int) [((36 : Nat), (93 : Nat), (106 : Nat), (0 : Nat)), ((106 : Nat), (108 : Nat), (106 : Nat), (0 : Nat))]) ∈ lw_all := lw_g (lw_at lw_m4 178 rfl) rfl
theorem q984 : (Jvm.Cond.methodLink "PictureBlock" (313 : Nat) ({ cls := "PictureBlock$House", name := "follows", desc := "(LPictureBlock$House;)V" } : Jvm.MethodName)) ∈ lw_all := lw_g (lw_at lw_m4 179 rfl) rfl
theorem q992 : (Jvm.Cond.instanceMethod ({ cls := "PictureBlock", name := "soonest", desc := "(I)I" } : Jvm.MethodName)) ∈ lw_all := lw_g (lw_at lw_m4 187 rfl) rfl
theorem q993 : (Jvm.Cond.selects "PictureBlock" ({ cls := "PictureBlock", name := "soonest", desc := "(I)I" } : Jvm.MethodName) ({ cls := "PictureBlock", name := "soonest", desc := "(I)I" } : Jvm.MethodName)) ∈ lw_all := lw_g (lw_at lw_m4 188 rfl) rfl
theorem q994 : (Jvm.Cond.codeWith ({ cls := "PictureBlock", name := "soonest", desc := "(I)I" } : Jvm.MethodName) prog_1_method_51_code (5 : Nat) (Option.some Jvm.ClassFile.FieldType.int) [((25 : Nat), (47 : Nat), (89 : Nat), (0 : Nat)), ((60 : Nat), (76 : Nat), (89 : Nat), (0 : Nat)), ((89 : Nat), (91 : Nat), (89 : Nat), (0 : Nat))]) ∈ lw_all := lw_g (lw_at lw_m4 189 rfl) rfl
theorem q996 : (Jvm.Cond.instanceMethod ({ cls := "PictureBlock", name := "limitFor", desc := "(I)I" } : Jvm.MethodName)) ∈ lw_all := lw_g (lw_at lw_m4 191 rfl) rfl
theorem q997 : (Jvm.Cond.selects "PictureBlock" ({ cls := "PictureBlock", name := "limitFor", desc := "(I)I" } : Jvm.MethodName) ({ cls := "PictureBlock", name := "limitFor", desc := "(I)I" } : Jvm.MethodName)) ∈ lw_all := lw_g (lw_at lw_m4 192 rfl) rfl
theorem q998 : (Jvm.Cond.codeWith ({ cls := "PictureBlock", name := "limitFor", desc := "(I)I" } : Jvm.MethodName) prog_1_method_52_code (5 : Nat) (Option.some Jvm.ClassFile.FieldType.int) [((27 : Nat), (79 : Nat), (128 : Nat), (0 : Nat)), ((92 : Nat), (115 : Nat), (128 : Nat), (0 : Nat)), ((128 : Nat), (130 : Nat), (128 : Nat), (0 : Nat))]) ∈ lw_all := lw_g (lw_at lw_m4 193 rfl) rfl
theorem q1000 : (Jvm.Cond.instanceMethod ({ cls := "PictureBlock", name := "toldFor", desc := "(I)I" } : Jvm.MethodName)) ∈ lw_all := lw_g (lw_at lw_m4 195 rfl) rfl
theorem q1001 : (Jvm.Cond.selects "PictureBlock" ({ cls := "PictureBlock", name := "toldFor", desc := "(I)I" } : Jvm.MethodName) ({ cls := "PictureBlock", name := "toldFor", desc := "(I)I" } : Jvm.MethodName)) ∈ lw_all := lw_g (lw_at lw_m4 196 rfl) rfl
theorem q1002 : (Jvm.Cond.code ({ cls := "PictureBlock", name := "toldFor", desc := "(I)I" } : Jvm.MethodName) prog_1_method_53_code (10 : Nat) (Option.some Jvm.ClassFile.FieldType.int)) ∈ lw_all := lw_g (lw_at lw_m4 197 rfl) rfl
theorem q1004 : (Jvm.Cond.instanceMethod ({ cls := "PictureBlock", name := "odds", desc := "(III)I" } : Jvm.MethodName)) ∈ lw_all := lw_g (lw_at lw_m4 199 rfl) rfl
theorem q1005 : (Jvm.Cond.selects "PictureBlock" ({ cls := "PictureBlock", name := "odds", desc := "(III)I" } : Jvm.MethodName) ({ cls := "PictureBlock", name := "odds", desc := "(III)I" } : Jvm.MethodName)) ∈ lw_all := lw_g (lw_at lw_m4 200 rfl) rfl
theorem q1006 : (Jvm.Cond.code ({ cls := "PictureBlock", name := "odds", desc := "(III)I" } : Jvm.MethodName) prog_1_method_54_code (8 : Nat) (Option.some Jvm.ClassFile.FieldType.int)) ∈ lw_all := lw_g (lw_at lw_m4 201 rfl) rfl
theorem q1008 : (Jvm.Cond.instanceMethod ({ cls := "PictureBlock", name := "fits", desc := "(III)I" } : Jvm.MethodName)) ∈ lw_all := lw_g (lw_at lw_m4 203 rfl) rfl
theorem q1009 : (Jvm.Cond.selects "PictureBlock" ({ cls := "PictureBlock", name := "fits", desc := "(III)I" } : Jvm.MethodName) ({ cls := "PictureBlock", name := "fits", desc := "(III)I" } : Jvm.MethodName)) ∈ lw_all := lw_g (lw_at lw_m4 204 rfl) rfl
theorem q1010 : (Jvm.Cond.code ({ cls := "PictureBlock", name := "fits", desc := "(III)I" } : Jvm.MethodName) prog_1_method_55_code (10 : Nat) (Option.some Jvm.ClassFile.FieldType.int)) ∈ lw_all := lw_g (lw_at lw_m4 205 rfl) rfl
theorem q1011 : (Jvm.Cond.methodLink "PictureBlock" (317 : Nat) ({ cls := "PictureBlock", name := "isSheet", desc := "(I)Z" } : Jvm.MethodName)) ∈ lw_all := lw_g (lw_at lw_m4 206 rfl) rfl
theorem q1012 : (Jvm.Cond.static ({ cls := "PictureBlock", name := "isSheet", desc := "(I)Z" } : Jvm.MethodName)) ∈ lw_all := lw_g (lw_at lw_m4 207 rfl) rfl
theorem q1013 : (Jvm.Cond.code ({ cls := "PictureBlock", name := "isSheet", desc := "(I)Z" } : Jvm.MethodName) prog_1_method_58_code (1 : Nat) (Option.some Jvm.ClassFile.FieldType.boolean)) ∈ lw_all := lw_g (lw_at lw_m4 208 rfl) rfl
theorem q1014 : (Jvm.Cond.methodLink "PictureBlock" (320 : Nat) ({ cls := "PictureBlock", name := "sizeOf", desc := "(Ljava/lang/Object;)I" } : Jvm.MethodName)) ∈ lw_all := lw_g (lw_at lw_m4 209 rfl) rfl
theorem q1015 : (Jvm.Cond.static ({ cls := "PictureBlock", name := "sizeOf", desc := "(Ljava/lang/Object;)I" } : Jvm.MethodName)) ∈ lw_all := lw_g (lw_at lw_m4 210 rfl) rfl
theorem q1016 : (Jvm.Cond.code ({ cls := "PictureBlock", name := "sizeOf", desc := "(Ljava/lang/Object;)I" } : Jvm.MethodName) prog_1_method_59_code (1 : Nat) (Option.some Jvm.ClassFile.FieldType.int)) ∈ lw_all := lw_g (lw_at lw_m4 211 rfl) rfl
theorem q1017 : (Jvm.Cond.classLink "PictureBlock" (347 : Nat) "[B") ∈ lw_all := lw_g (lw_at lw_m4 212 rfl) rfl
theorem q1018 : (Jvm.Cond.classLink "PictureBlock" (348 : Nat) "[S") ∈ lw_all := lw_g (lw_at lw_m4 213 rfl) rfl
theorem q1019 : (Jvm.Cond.classLink "PictureBlock" (349 : Nat) "[I") ∈ lw_all := lw_g (lw_at lw_m4 214 rfl) rfl
theorem q1020 : (Jvm.Cond.methodLink "PictureBlock" (324 : Nat) ({ cls := "PictureBlock", name := "numberOf", desc := "(Ljava/lang/Object;I)I" } : Jvm.MethodName)) ∈ lw_all := lw_g (lw_at lw_m4 215 rfl) rfl
theorem q1021 : (Jvm.Cond.static ({ cls := "PictureBlock", name := "numberOf", desc := "(Ljava/lang/Object;I)I" } : Jvm.MethodName)) ∈ lw_all := lw_g (lw_at lw_m4 216 rfl) rfl
theorem q1022 : (Jvm.Cond.code ({ cls := "PictureBlock", name := "numberOf", desc := "(Ljava/lang/Object;I)I" } : Jvm.MethodName) prog_1_method_60_code (2 : Nat) (Option.some Jvm.ClassFile.FieldType.int)) ∈ lw_all := lw_g (lw_at lw_m4 217 rfl) rfl
theorem q1024 : (Jvm.Cond.instanceMethod ({ cls := "PictureBlock", name := "voice", desc := "(III)I" } : Jvm.MethodName)) ∈ lw_all := lw_g (lw_at lw_m4 219 rfl) rfl
theorem q1025 : (Jvm.Cond.selects "PictureBlock" ({ cls := "PictureBlock", name := "voice", desc := "(III)I" } : Jvm.MethodName) ({ cls := "PictureBlock", name := "voice", desc := "(III)I" } : Jvm.MethodName)) ∈ lw_all := lw_g (lw_at lw_m4 220 rfl) rfl
theorem q1026 : (Jvm.Cond.codeWith ({ cls := "PictureBlock", name := "voice", desc := "(III)I" } : Jvm.MethodName) prog_1_method_56_code (6 : Nat) (Option.some Jvm.ClassFile.FieldType.int) [((41 : Nat), (104 : Nat), (105 : Nat), (342 : Nat))]) ∈ lw_all := lw_g (lw_at lw_m4 221 rfl) rfl
theorem q1027 : (Jvm.Cond.classLink "PictureBlock" (342 : Nat) "java/lang/ArithmeticException") ∈ lw_all := lw_g (lw_at lw_m4 222 rfl) rfl
theorem q1056 : (Jvm.Cond.methodLink "PictureBlock" (329 : Nat) ({ cls := "PictureBlock$Mark", name := "weighs", desc := "(ILPictureBlock$Trace;)I" } : Jvm.MethodName)) ∈ lw_all := lw_g (lw_at lw_m5 11 rfl) rfl
theorem q1132 : (Jvm.Cond.methodLink "PictureBlock" (336 : Nat) ({ cls := "PictureBlock$Mark", name := "ties", desc := "(ILPictureBlock$Trace;)I" } : Jvm.MethodName)) ∈ lw_all := lw_g (lw_at lw_m5 87 rfl) rfl
theorem q1152 : (Jvm.Cond.methodLink "PictureBlock" (339 : Nat) ({ cls := "PictureBlock$Mark", name := "parts", desc := "(ILPictureBlock$Trace;)I" } : Jvm.MethodName)) ∈ lw_all := lw_g (lw_at lw_m5 107 rfl) rfl
theorem q1167 : (Jvm.Cond.instanceMethod ({ cls := "PictureBlock", name := "body", desc := "(I)I" } : Jvm.MethodName)) ∈ lw_all := lw_g (lw_at lw_m5 122 rfl) rfl
theorem q1168 : (Jvm.Cond.selects "PictureBlock" ({ cls := "PictureBlock", name := "body", desc := "(I)I" } : Jvm.MethodName) ({ cls := "PictureBlock", name := "body", desc := "(I)I" } : Jvm.MethodName)) ∈ lw_all := lw_g (lw_at lw_m5 123 rfl) rfl
theorem q1169 : (Jvm.Cond.code ({ cls := "PictureBlock", name := "body", desc := "(I)I" } : Jvm.MethodName) prog_1_method_57_code (2 : Nat) (Option.some Jvm.ClassFile.FieldType.int)) ∈ lw_all := lw_g (lw_at lw_m5 124 rfl) rfl
theorem q1171 : (Jvm.Cond.instanceMethod ({ cls := "PictureBlock", name := "sheet", desc := "(III)I" } : Jvm.MethodName)) ∈ lw_all := lw_g (lw_at lw_m5 126 rfl) rfl
theorem q1172 : (Jvm.Cond.selects "PictureBlock" ({ cls := "PictureBlock", name := "sheet", desc := "(III)I" } : Jvm.MethodName) ({ cls := "PictureBlock", name := "sheet", desc := "(III)I" } : Jvm.MethodName)) ∈ lw_all := lw_g (lw_at lw_m5 127 rfl) rfl
theorem q1173 : (Jvm.Cond.codeWith ({ cls := "PictureBlock", name := "sheet", desc := "(III)I" } : Jvm.MethodName) prog_1_method_61_code (5 : Nat) (Option.some Jvm.ClassFile.FieldType.int) [((51 : Nat), (96 : Nat), (97 : Nat), (350 : Nat))]) ∈ lw_all := lw_g (lw_at lw_m5 128 rfl) rfl
theorem q1174 : (Jvm.Cond.classLink "PictureBlock" (350 : Nat) "java/lang/NegativeArraySizeException") ∈ lw_all := lw_g (lw_at lw_m5 129 rfl) rfl
theorem q1189 : (Jvm.Cond.instanceMethod ({ cls := "PictureBlock", name := "put", desc := "(III)I" } : Jvm.MethodName)) ∈ lw_all := lw_g (lw_at lw_m5 144 rfl) rfl
theorem q1190 : (Jvm.Cond.selects "PictureBlock" ({ cls := "PictureBlock", name := "put", desc := "(III)I" } : Jvm.MethodName) ({ cls := "PictureBlock", name := "put", desc := "(III)I" } : Jvm.MethodName)) ∈ lw_all := lw_g (lw_at lw_m5 145 rfl) rfl
theorem q1191 : (Jvm.Cond.code ({ cls := "PictureBlock", name := "put", desc := "(III)I" } : Jvm.MethodName) prog_1_method_62_code (5 : Nat) (Option.some Jvm.ClassFile.FieldType.int)) ∈ lw_all := lw_g (lw_at lw_m5 146 rfl) rfl
theorem q1193 : (Jvm.Cond.instanceMethod ({ cls := "PictureBlock", name := "move", desc := "(IIIII)I" } : Jvm.MethodName)) ∈ lw_all := lw_g (lw_at lw_m5 148 rfl) rfl
theorem q1194 : (Jvm.Cond.selects "PictureBlock" ({ cls := "PictureBlock", name := "move", desc := "(IIIII)I" } : Jvm.MethodName) ({ cls := "PictureBlock", name := "move", desc := "(IIIII)I" } : Jvm.MethodName)) ∈ lw_all := lw_g (lw_at lw_m5 149 rfl) rfl
theorem q1195 : (Jvm.Cond.codeWith ({ cls := "PictureBlock", name := "move", desc := "(IIIII)I" } : Jvm.MethodName) prog_1_method_63_code (9 : Nat) (Option.some Jvm.ClassFile.FieldType.int) [((58 : Nat), (68 : Nat), (71 : Nat), (358 : Nat))]) ∈ lw_all := lw_g (lw_at lw_m5 150 rfl) rfl
theorem q1196 : (Jvm.Cond.classLink "PictureBlock" (358 : Nat) "java/lang/ArrayStoreException") ∈ lw_all := lw_g (lw_at lw_m5 151 rfl) rfl
theorem q1210 : (Jvm.Cond.methodLink "PictureBlock" (352 : Nat) ({ cls := "java/lang/System", name := "arraycopy", desc := "(Ljava/lang/Object;ILjava/lang/Object;II)V" } : Jvm.MethodName)) ∈ lw_all := lw_g (lw_at lw_m5 165 rfl) rfl
theorem q1212 : (Jvm.Cond.instanceMethod ({ cls := "PictureBlock", name := "tells", desc := "(I)I" } : Jvm.MethodName)) ∈ lw_all := lw_g (lw_at lw_m5 167 rfl) rfl
theorem q1213 : (Jvm.Cond.selects "PictureBlock" ({ cls := "PictureBlock", name := "tells", desc := "(I)I" } : Jvm.MethodName) ({ cls := "PictureBlock", name := "tells", desc := "(I)I" } : Jvm.MethodName)) ∈ lw_all := lw_g (lw_at lw_m5 168 rfl) rfl
theorem q1214 : (Jvm.Cond.code ({ cls := "PictureBlock", name := "tells", desc := "(I)I" } : Jvm.MethodName) prog_1_method_64_code (4 : Nat) (Option.some Jvm.ClassFile.FieldType.int)) ∈ lw_all := lw_g (lw_at lw_m5 169 rfl) rfl
theorem q1216 : (Jvm.Cond.instanceMethod ({ cls := "PictureBlock", name := "judge", desc := "(I)I" } : Jvm.MethodName)) ∈ lw_all := lw_g (lw_at lw_m5 171 rfl) rfl
theorem q1217 : (Jvm.Cond.selects "PictureBlock" ({ cls := "PictureBlock", name := "judge", desc := "(I)I" } : Jvm.MethodName) ({ cls := "PictureBlock", name := "judge", desc := "(I)I" } : Jvm.MethodName)) ∈ lw_all := lw_g (lw_at lw_m5 172 rfl) rfl
theorem q1218 : (Jvm.Cond.code ({ cls := "PictureBlock", name := "judge", desc := "(I)I" } : Jvm.MethodName) prog_1_method_65_code (4 : Nat) (Option.some Jvm.ClassFile.FieldType.int)) ∈ lw_all := lw_g (lw_at lw_m5 173 rfl) rfl
theorem q1220 : (Jvm.Cond.instanceMethod ({ cls := "PictureBlock", name := "image", desc := "()I" } : Jvm.MethodName)) ∈ lw_all := lw_g (lw_at lw_m5 175 rfl) rfl
theorem q1221 : (Jvm.Cond.selects "PictureBlock" ({ cls := "PictureBlock", name := "image", desc := "()I" } : Jvm.MethodName) ({ cls := "PictureBlock", name := "image", desc := "()I" } : Jvm.MethodName)) ∈ lw_all := lw_g (lw_at lw_m5 176 rfl) rfl
theorem q1222 : (Jvm.Cond.code ({ cls := "PictureBlock", name := "image", desc := "()I" } : Jvm.MethodName) prog_1_method_66_code (1 : Nat) (Option.some Jvm.ClassFile.FieldType.int)) ∈ lw_all := lw_g (lw_at lw_m5 177 rfl) rfl
theorem q1224 : (Jvm.Cond.instanceMethod ({ cls := "PictureBlock", name := "restore", desc := "()I" } : Jvm.MethodName)) ∈ lw_all := lw_g (lw_at lw_m5 179 rfl) rfl
theorem q1225 : (Jvm.Cond.selects "PictureBlock" ({ cls := "PictureBlock", name := "restore", desc := "()I" } : Jvm.MethodName) ({ cls := "PictureBlock", name := "restore", desc := "()I" } : Jvm.MethodName)) ∈ lw_all := lw_g (lw_at lw_m5 180 rfl) rfl
theorem q1226 : (Jvm.Cond.code ({ cls := "PictureBlock", name := "restore", desc := "()I" } : Jvm.MethodName) prog_1_method_67_code (1 : Nat) (Option.some Jvm.ClassFile.FieldType.int)) ∈ lw_all := lw_g (lw_at lw_m5 181 rfl) rfl
theorem q1228 : (Jvm.Cond.instanceMethod ({ cls := "PictureBlock", name := "tell", desc := "(I)I" } : Jvm.MethodName)) ∈ lw_all := lw_g (lw_at lw_m5 183 rfl) rfl
theorem q1229 : (Jvm.Cond.selects "PictureBlock" ({ cls := "PictureBlock", name := "tell", desc := "(I)I" } : Jvm.MethodName) ({ cls := "PictureBlock", name := "tell", desc := "(I)I" } : Jvm.MethodName)) ∈ lw_all := lw_g (lw_at lw_m5 184 rfl) rfl
theorem q1230 : (Jvm.Cond.code ({ cls := "PictureBlock", name := "tell", desc := "(I)I" } : Jvm.MethodName) prog_1_method_68_code (2 : Nat) (Option.some Jvm.ClassFile.FieldType.int)) ∈ lw_all := lw_g (lw_at lw_m5 185 rfl) rfl
theorem q1232 : (Jvm.Cond.instanceMethod ({ cls := "PictureBlock", name := "check", desc := "()I" } : Jvm.MethodName)) ∈ lw_all := lw_g (lw_at lw_m5 187 rfl) rfl
theorem q1233 : (Jvm.Cond.selects "PictureBlock" ({ cls := "PictureBlock", name := "check", desc := "()I" } : Jvm.MethodName) ({ cls := "PictureBlock", name := "check", desc := "()I" } : Jvm.MethodName)) ∈ lw_all := lw_g (lw_at lw_m5 188 rfl) rfl
theorem q1234 : (Jvm.Cond.code ({ cls := "PictureBlock", name := "check", desc := "()I" } : Jvm.MethodName) prog_1_method_69_code (3 : Nat) (Option.some Jvm.ClassFile.FieldType.int)) ∈ lw_all := lw_g (lw_at lw_m5 189 rfl) rfl
theorem q1236 : (Jvm.Cond.instanceMethod ({ cls := "PictureBlock", name := "count", desc := "(I)I" } : Jvm.MethodName)) ∈ lw_all := lw_g (lw_at lw_m5 191 rfl) rfl
theorem q1237 : (Jvm.Cond.selects "PictureBlock" ({ cls := "PictureBlock", name := "count", desc := "(I)I" } : Jvm.MethodName) ({ cls := "PictureBlock", name := "count", desc := "(I)I" } : Jvm.MethodName)) ∈ lw_all := lw_g (lw_at lw_m5 192 rfl) rfl
theorem q1238 : (Jvm.Cond.code ({ cls := "PictureBlock", name := "count", desc := "(I)I" } : Jvm.MethodName) prog_1_method_70_code (2 : Nat) (Option.some Jvm.ClassFile.FieldType.int)) ∈ lw_all := lw_g (lw_at lw_m5 193 rfl) rfl
theorem q1240 : (Jvm.Cond.instanceMethod ({ cls := "PictureBlock", name := "told", desc := "(I)I" } : Jvm.MethodName)) ∈ lw_all := lw_g (lw_at lw_m5 195 rfl) rfl
theorem q1241 : (Jvm.Cond.selects "PictureBlock" ({ cls := "PictureBlock", name := "told", desc := "(I)I" } : Jvm.MethodName) ({ cls := "PictureBlock", name := "told", desc := "(I)I" } : Jvm.MethodName)) ∈ lw_all := lw_g (lw_at lw_m5 196 rfl) rfl
theorem q1242 : (Jvm.Cond.code ({ cls := "PictureBlock", name := "told", desc := "(I)I" } : Jvm.MethodName) prog_1_method_71_code (2 : Nat) (Option.some Jvm.ClassFile.FieldType.int)) ∈ lw_all := lw_g (lw_at lw_m5 197 rfl) rfl
theorem in_X0 : ∀ w ∈ wsX00, w ∈ lw_all := lw_in wsX00 [245, 247, 249, 251, 253, 255, 257, 259, 261, 263, 265, 267, 269, 271, 273, 275] (by decide +kernel) (by decide +kernel)
