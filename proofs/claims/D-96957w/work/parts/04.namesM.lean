/-! PictureBlockModel -/
set_option maxRecDepth 100000
def RX4 : String := "PictureBlockModel"
def TX4 : u_T := fun k => match k with
  | 0 => ("PictureBlockModel", "row", "[I", true)
  | 1 => ("PictureBlockModel", "kept", "[I", true)
  | 2 => ("PictureBlockModel", "before", "[I", true)
  | 3 => ("PictureBlockModel", "images", "I", false)
  | 4 => ("PictureBlockModel", "errors", "[I", true)
  | 5 => ("PictureBlockModel", "bitsOf", "[I", true)
  | 6 => ("PictureBlockModel", "sizeOf", "[I", true)
  | 7 => ("PictureBlockModel", "cells", "[I", true)
  | 8 => ("PictureBlockModel", "square", "[J", true)
  | 9 => ("PictureBlockModel", "right", "[J", true)
  | 10 => ("PictureBlockModel", "above", "[J", true)
  | 11 => ("PictureBlockModel", "line", "J", false)
  | 12 => ("PictureBlockModel", "act", "[I", true)
  | 13 => ("PictureBlockModel", "with", "[I", true)
  | 14 => ("PictureBlockModel", "facts", "[I", true)
  | 15 => ("PictureBlockModel", "pile", "[I", true)
  | 16 => ("PictureBlockModel", "laid", "I", false)
  | 17 => ("PictureBlockModel", "here", "I", false)
  | 18 => ("PictureBlockModel", "opened", "I", false)
  | 19 => ("PictureBlockModel", "bad", "Z", false)
  | 20 => ("PictureBlockModel", "using", "I", false)
  | 21 => ("PictureBlockModel", "trace", "[I", true)
  | 22 => ("PictureBlockModel", "traced", "I", false)
  | _ => ("PictureBlockModel", "isParted", "Z", false)
def tyX4 : Nat → FieldType := fun k => match k with
  | 0 => .array .int
  | 1 => .array .int
  | 2 => .array .int
  | 3 => .int
  | 4 => .array .int
  | 5 => .array .int
  | 6 => .array .int
  | 7 => .array .int
  | 8 => .array .long
  | 9 => .array .long
  | 10 => .array .long
  | 11 => .long
  | 12 => .array .int
  | 13 => .array .int
  | 14 => .array .int
  | 15 => .array .int
  | 16 => .int
  | 17 => .int
  | 18 => .int
  | 19 => .boolean
  | 20 => .int
  | 21 => .array .int
  | 22 => .int
  | _ => .boolean
abbrev wsX40 : List Cond := u_ws RX4 TX4 24
set_option maxRecDepth 100000 in
theorem nmX4 : ∀ a, a < 24 → ∀ b, b < 24 → a ≠ b → (TX4 a).2.1 ≠ (TX4 b).2.1 := by decide +kernel
set_option maxRecDepth 100000 in
theorem tyX4_ok : ∀ k, k < 24 → parseFieldDescriptor (TX4 k).2.2.1 = some (tyX4 k) := by decide +kernel
abbrev cX4_init : ByteArray := prog_19_method_1_code
def yX4_init : MethodName := ⟨RX4, "<init>", "()V"⟩
def dkwX4_init_6 : List UInt8 := [16, 20, 79, 177]
abbrev dktX4_init_6 : List UInt8 := dkwX4_init_6 ++ []
def dkwX4_init_5 : List UInt8 := [188, 10, 181, 0, 53, 42, 180, 0, 9, 4, 4, 79, 42, 180, 0, 9, 6, 5, 79, 42, 180, 0, 9, 7]
abbrev dktX4_init_5 : List UInt8 := dkwX4_init_5 ++ dktX4_init_6
def dkwX4_init_4 : List UInt8 := [188, 10, 181, 0, 44, 42, 6, 188, 10, 181, 0, 47, 42, 16, 60, 188, 10, 181, 0, 50, 42, 16, 30]
abbrev dktX4_init_4 : List UInt8 := dkwX4_init_4 ++ dktX4_init_5
def dkwX4_init_3 : List UInt8 := [188, 11, 181, 0, 35, 42, 7, 188, 11, 181, 0, 38, 42, 16, 60, 188, 10, 181, 0, 41, 42, 16, 60]
abbrev dktX4_init_3 : List UInt8 := dkwX4_init_3 ++ dktX4_init_4
def dkwX4_init_2 : List UInt8 := [7, 188, 10, 181, 0, 25, 42, 16, 96, 188, 10, 181, 0, 28, 42, 16, 16, 188, 11, 181, 0, 31, 42, 7]
abbrev dktX4_init_2 : List UInt8 := dkwX4_init_2 ++ dktX4_init_3
def dkwX4_init_1 : List UInt8 := [17, 1, 126, 188, 10, 181, 0, 16, 42, 16, 7, 188, 10, 181, 0, 19, 42, 7, 188, 10, 181, 0, 22, 42]
abbrev dktX4_init_1 : List UInt8 := dkwX4_init_1 ++ dktX4_init_2
def dkwX4_init_0 : List UInt8 := [42, 183, 0, 3, 42, 17, 1, 126, 188, 10, 181, 0, 9, 42, 17, 1, 126, 188, 10, 181, 0, 13, 42]
abbrev dktX4_init_0 : List UInt8 := dkwX4_init_0 ++ dktX4_init_1
theorem dksX4_init_0 : cX4_init.data.toList.drop 0 = dktX4_init_0 := by decide +kernel
theorem dksX4_init_1 : cX4_init.data.toList.drop 23 = dktX4_init_1 := dk_seg dksX4_init_0 23 rfl rfl
theorem dksX4_init_2 : cX4_init.data.toList.drop 47 = dktX4_init_2 := dk_seg dksX4_init_1 24 rfl rfl
theorem dksX4_init_3 : cX4_init.data.toList.drop 71 = dktX4_init_3 := dk_seg dksX4_init_2 24 rfl rfl
theorem dksX4_init_4 : cX4_init.data.toList.drop 94 = dktX4_init_4 := dk_seg dksX4_init_3 23 rfl rfl
theorem dksX4_init_5 : cX4_init.data.toList.drop 117 = dktX4_init_5 := dk_seg dksX4_init_4 23 rfl rfl
theorem dksX4_init_6 : cX4_init.data.toList.drop 141 = dktX4_init_6 := dk_seg dksX4_init_5 24 rfl rfl
theorem dX4_init_0 : decode cX4_init 0 = .ok (.aload_n 0, 1) := dk_42 (dk_at dksX4_init_0 0 rfl rfl)
theorem dX4_init_1 : decode cX4_init 1 = .ok (.invokespecial 3, 3) := dk_183 0 3 (dk_at dksX4_init_0 1 rfl rfl)
theorem dX4_init_4 : decode cX4_init 4 = .ok (.aload_n 0, 1) := dk_42 (dk_at dksX4_init_0 4 rfl rfl)
theorem dX4_init_5 : decode cX4_init 5 = .ok (.sipush 382, 3) := dk_17 1 126 (dk_at dksX4_init_0 5 rfl rfl)
theorem dX4_init_8 : decode cX4_init 8 = .ok (.newarray .int, 2) := dk_188_10 (dk_at dksX4_init_0 8 rfl rfl)
theorem dX4_init_10 : decode cX4_init 10 = .ok (.putfield 9, 3) := dk_181 0 9 (dk_at dksX4_init_0 10 rfl rfl)
theorem dX4_init_13 : decode cX4_init 13 = .ok (.aload_n 0, 1) := dk_42 (dk_at dksX4_init_0 13 rfl rfl)
theorem dX4_init_14 : decode cX4_init 14 = .ok (.sipush 382, 3) := dk_17 1 126 (dk_at dksX4_init_0 14 rfl rfl)
theorem dX4_init_17 : decode cX4_init 17 = .ok (.newarray .int, 2) := dk_188_10 (dk_at dksX4_init_0 17 rfl rfl)
theorem dX4_init_19 : decode cX4_init 19 = .ok (.putfield 13, 3) := dk_181 0 13 (dk_at dksX4_init_0 19 rfl rfl)
theorem dX4_init_22 : decode cX4_init 22 = .ok (.aload_n 0, 1) := dk_42 (dk_at dksX4_init_0 22 rfl rfl)
theorem dX4_init_23 : decode cX4_init 23 = .ok (.sipush 382, 3) := dk_17 1 126 (dk_at dksX4_init_1 0 rfl rfl)
theorem dX4_init_26 : decode cX4_init 26 = .ok (.newarray .int, 2) := dk_188_10 (dk_at dksX4_init_1 3 rfl rfl)
theorem dX4_init_28 : decode cX4_init 28 = .ok (.putfield 16, 3) := dk_181 0 16 (dk_at dksX4_init_1 5 rfl rfl)
theorem dX4_init_31 : decode cX4_init 31 = .ok (.aload_n 0, 1) := dk_42 (dk_at dksX4_init_1 8 rfl rfl)
theorem dX4_init_32 : decode cX4_init 32 = .ok (.bipush 7, 2) := dk_16 7 (dk_at dksX4_init_1 9 rfl rfl)
theorem dX4_init_34 : decode cX4_init 34 = .ok (.newarray .int, 2) := dk_188_10 (dk_at dksX4_init_1 11 rfl rfl)
theorem dX4_init_36 : decode cX4_init 36 = .ok (.putfield 19, 3) := dk_181 0 19 (dk_at dksX4_init_1 13 rfl rfl)
theorem dX4_init_39 : decode cX4_init 39 = .ok (.aload_n 0, 1) := dk_42 (dk_at dksX4_init_1 16 rfl rfl)
theorem dX4_init_40 : decode cX4_init 40 = .ok (.iconst 4, 1) := dk_7 (dk_at dksX4_init_1 17 rfl rfl)
theorem dX4_init_41 : decode cX4_init 41 = .ok (.newarray .int, 2) := dk_188_10 (dk_at dksX4_init_1 18 rfl rfl)
theorem dX4_init_43 : decode cX4_init 43 = .ok (.putfield 22, 3) := dk_181 0 22 (dk_at dksX4_init_1 20 rfl rfl)
theorem dX4_init_46 : decode cX4_init 46 = .ok (.aload_n 0, 1) := dk_42 (dk_at dksX4_init_1 23 rfl rfl)
theorem dX4_init_47 : decode cX4_init 47 = .ok (.iconst 4, 1) := dk_7 (dk_at dksX4_init_2 0 rfl rfl)
theorem dX4_init_48 : decode cX4_init 48 = .ok (.newarray .int, 2) := dk_188_10 (dk_at dksX4_init_2 1 rfl rfl)
theorem dX4_init_50 : decode cX4_init 50 = .ok (.putfield 25, 3) := dk_181 0 25 (dk_at dksX4_init_2 3 rfl rfl)
theorem dX4_init_53 : decode cX4_init 53 = .ok (.aload_n 0, 1) := dk_42 (dk_at dksX4_init_2 6 rfl rfl)
theorem dX4_init_54 : decode cX4_init 54 = .ok (.bipush 96, 2) := dk_16 96 (dk_at dksX4_init_2 7 rfl rfl)
theorem dX4_init_56 : decode cX4_init 56 = .ok (.newarray .int, 2) := dk_188_10 (dk_at dksX4_init_2 9 rfl rfl)
theorem dX4_init_58 : decode cX4_init 58 = .ok (.putfield 28, 3) := dk_181 0 28 (dk_at dksX4_init_2 11 rfl rfl)
theorem dX4_init_61 : decode cX4_init 61 = .ok (.aload_n 0, 1) := dk_42 (dk_at dksX4_init_2 14 rfl rfl)
theorem dX4_init_62 : decode cX4_init 62 = .ok (.bipush 16, 2) := dk_16 16 (dk_at dksX4_init_2 15 rfl rfl)
theorem dX4_init_64 : decode cX4_init 64 = .ok (.newarray .long, 2) := dk_188_11 (dk_at dksX4_init_2 17 rfl rfl)
theorem dX4_init_66 : decode cX4_init 66 = .ok (.putfield 31, 3) := dk_181 0 31 (dk_at dksX4_init_2 19 rfl rfl)
theorem dX4_init_69 : decode cX4_init 69 = .ok (.aload_n 0, 1) := dk_42 (dk_at dksX4_init_2 22 rfl rfl)
theorem dX4_init_70 : decode cX4_init 70 = .ok (.iconst 4, 1) := dk_7 (dk_at dksX4_init_2 23 rfl rfl)
theorem dX4_init_71 : decode cX4_init 71 = .ok (.newarray .long, 2) := dk_188_11 (dk_at dksX4_init_3 0 rfl rfl)
theorem dX4_init_73 : decode cX4_init 73 = .ok (.putfield 35, 3) := dk_181 0 35 (dk_at dksX4_init_3 2 rfl rfl)
theorem dX4_init_76 : decode cX4_init 76 = .ok (.aload_n 0, 1) := dk_42 (dk_at dksX4_init_3 5 rfl rfl)
theorem dX4_init_77 : decode cX4_init 77 = .ok (.iconst 4, 1) := dk_7 (dk_at dksX4_init_3 6 rfl rfl)
theorem dX4_init_78 : decode cX4_init 78 = .ok (.newarray .long, 2) := dk_188_11 (dk_at dksX4_init_3 7 rfl rfl)
theorem dX4_init_80 : decode cX4_init 80 = .ok (.putfield 38, 3) := dk_181 0 38 (dk_at dksX4_init_3 9 rfl rfl)
theorem dX4_init_83 : decode cX4_init 83 = .ok (.aload_n 0, 1) := dk_42 (dk_at dksX4_init_3 12 rfl rfl)
theorem dX4_init_84 : decode cX4_init 84 = .ok (.bipush 60, 2) := dk_16 60 (dk_at dksX4_init_3 13 rfl rfl)
theorem dX4_init_86 : decode cX4_init 86 = .ok (.newarray .int, 2) := dk_188_10 (dk_at dksX4_init_3 15 rfl rfl)
theorem dX4_init_88 : decode cX4_init 88 = .ok (.putfield 41, 3) := dk_181 0 41 (dk_at dksX4_init_3 17 rfl rfl)
theorem dX4_init_91 : decode cX4_init 91 = .ok (.aload_n 0, 1) := dk_42 (dk_at dksX4_init_3 20 rfl rfl)
theorem dX4_init_92 : decode cX4_init 92 = .ok (.bipush 60, 2) := dk_16 60 (dk_at dksX4_init_3 21 rfl rfl)
theorem dX4_init_94 : decode cX4_init 94 = .ok (.newarray .int, 2) := dk_188_10 (dk_at dksX4_init_4 0 rfl rfl)
theorem dX4_init_96 : decode cX4_init 96 = .ok (.putfield 44, 3) := dk_181 0 44 (dk_at dksX4_init_4 2 rfl rfl)
theorem dX4_init_99 : decode cX4_init 99 = .ok (.aload_n 0, 1) := dk_42 (dk_at dksX4_init_4 5 rfl rfl)
theorem dX4_init_100 : decode cX4_init 100 = .ok (.iconst 3, 1) := dk_6 (dk_at dksX4_init_4 6 rfl rfl)
theorem dX4_init_101 : decode cX4_init 101 = .ok (.newarray .int, 2) := dk_188_10 (dk_at dksX4_init_4 7 rfl rfl)
theorem dX4_init_103 : decode cX4_init 103 = .ok (.putfield 47, 3) := dk_181 0 47 (dk_at dksX4_init_4 9 rfl rfl)
theorem dX4_init_106 : decode cX4_init 106 = .ok (.aload_n 0, 1) := dk_42 (dk_at dksX4_init_4 12 rfl rfl)
theorem dX4_init_107 : decode cX4_init 107 = .ok (.bipush 60, 2) := dk_16 60 (dk_at dksX4_init_4 13 rfl rfl)
theorem dX4_init_109 : decode cX4_init 109 = .ok (.newarray .int, 2) := dk_188_10 (dk_at dksX4_init_4 15 rfl rfl)
theorem dX4_init_111 : decode cX4_init 111 = .ok (.putfield 50, 3) := dk_181 0 50 (dk_at dksX4_init_4 17 rfl rfl)
theorem dX4_init_114 : decode cX4_init 114 = .ok (.aload_n 0, 1) := dk_42 (dk_at dksX4_init_4 20 rfl rfl)
theorem dX4_init_115 : decode cX4_init 115 = .ok (.bipush 30, 2) := dk_16 30 (dk_at dksX4_init_4 21 rfl rfl)
theorem dX4_init_117 : decode cX4_init 117 = .ok (.newarray .int, 2) := dk_188_10 (dk_at dksX4_init_5 0 rfl rfl)
theorem dX4_init_119 : decode cX4_init 119 = .ok (.putfield 53, 3) := dk_181 0 53 (dk_at dksX4_init_5 2 rfl rfl)
theorem dX4_init_122 : decode cX4_init 122 = .ok (.aload_n 0, 1) := dk_42 (dk_at dksX4_init_5 5 rfl rfl)
theorem dX4_init_123 : decode cX4_init 123 = .ok (.getfield 9, 3) := dk_180 0 9 (dk_at dksX4_init_5 6 rfl rfl)
theorem dX4_init_126 : decode cX4_init 126 = .ok (.iconst 1, 1) := dk_4 (dk_at dksX4_init_5 9 rfl rfl)
theorem dX4_init_127 : decode cX4_init 127 = .ok (.iconst 1, 1) := dk_4 (dk_at dksX4_init_5 10 rfl rfl)
theorem dX4_init_128 : decode cX4_init 128 = .ok (.iastore, 1) := dk_79 (dk_at dksX4_init_5 11 rfl rfl)
theorem dX4_init_129 : decode cX4_init 129 = .ok (.aload_n 0, 1) := dk_42 (dk_at dksX4_init_5 12 rfl rfl)
theorem dX4_init_130 : decode cX4_init 130 = .ok (.getfield 9, 3) := dk_180 0 9 (dk_at dksX4_init_5 13 rfl rfl)
theorem dX4_init_133 : decode cX4_init 133 = .ok (.iconst 3, 1) := dk_6 (dk_at dksX4_init_5 16 rfl rfl)
theorem dX4_init_134 : decode cX4_init 134 = .ok (.iconst 2, 1) := dk_5 (dk_at dksX4_init_5 17 rfl rfl)
theorem dX4_init_135 : decode cX4_init 135 = .ok (.iastore, 1) := dk_79 (dk_at dksX4_init_5 18 rfl rfl)
theorem dX4_init_136 : decode cX4_init 136 = .ok (.aload_n 0, 1) := dk_42 (dk_at dksX4_init_5 19 rfl rfl)
theorem dX4_init_137 : decode cX4_init 137 = .ok (.getfield 9, 3) := dk_180 0 9 (dk_at dksX4_init_5 20 rfl rfl)
theorem dX4_init_140 : decode cX4_init 140 = .ok (.iconst 4, 1) := dk_7 (dk_at dksX4_init_5 23 rfl rfl)
theorem dX4_init_141 : decode cX4_init 141 = .ok (.bipush 20, 2) := dk_16 20 (dk_at dksX4_init_6 0 rfl rfl)
theorem dX4_init_143 : decode cX4_init 143 = .ok (.iastore, 1) := dk_79 (dk_at dksX4_init_6 2 rfl rfl)
theorem dX4_init_144 : decode cX4_init 144 = .ok (.return_, 1) := dk_177 (dk_at dksX4_init_6 3 rfl rfl)
abbrev cX4_mark : ByteArray := prog_19_method_31_code
def yX4_mark : MethodName := ⟨RX4, "mark", "(IIII)I"⟩
def dkwX4_mark_6 : List UInt8 := [21, 5, 172]
abbrev dktX4_mark_6 : List UInt8 := dkwX4_mark_6 ++ []
def dkwX4_mark_5 : List UInt8 := [21, 5, 6, 29, 182, 0, 130, 42, 21, 5, 7, 21, 4, 182, 0, 130, 42, 21, 5, 8, 4, 182, 0, 130]
abbrev dktX4_mark_5 : List UInt8 := dkwX4_mark_5 ++ dktX4_mark_6
def dkwX4_mark_4 : List UInt8 := [182, 0, 130, 42, 21, 5, 4, 27, 16, 10, 112, 182, 0, 130, 42, 21, 5, 5, 28, 182, 0, 130, 42]
abbrev dktX4_mark_4 : List UInt8 := dkwX4_mark_4 ++ dktX4_mark_5
def dkwX4_mark_3 : List UInt8 := [182, 0, 126, 172, 42, 180, 0, 9, 5, 92, 46, 4, 96, 79, 42, 21, 5, 3, 27, 16, 10, 108]
abbrev dktX4_mark_3 : List UInt8 := dkwX4_mark_3 ++ dktX4_mark_4
def dkwX4_mark_2 : List UInt8 := [18, 125, 182, 0, 126, 172, 42, 180, 0, 9, 5, 46, 54, 5, 21, 5, 16, 8, 160, 0, 10, 42, 18, 129]
abbrev dktX4_mark_2 : List UInt8 := dkwX4_mark_2 ++ dktX4_mark_3
def dkwX4_mark_1 : List UInt8 := [182, 0, 122, 153, 0, 20, 28, 29, 159, 0, 15, 21, 4, 16, 236, 16, 20, 184, 0, 61, 154, 0, 10, 42]
abbrev dktX4_mark_1 : List UInt8 := dkwX4_mark_1 ++ dktX4_mark_2
def dkwX4_mark_0 : List UInt8 := [27, 184, 0, 119, 153, 0, 41, 28, 2, 159, 0, 11, 42, 28, 182, 0, 122, 153, 0, 28, 42, 29]
abbrev dktX4_mark_0 : List UInt8 := dkwX4_mark_0 ++ dktX4_mark_1
theorem dksX4_mark_0 : cX4_mark.data.toList.drop 0 = dktX4_mark_0 := by decide +kernel
theorem dksX4_mark_1 : cX4_mark.data.toList.drop 22 = dktX4_mark_1 := dk_seg dksX4_mark_0 22 rfl rfl
theorem dksX4_mark_2 : cX4_mark.data.toList.drop 46 = dktX4_mark_2 := dk_seg dksX4_mark_1 24 rfl rfl
theorem dksX4_mark_3 : cX4_mark.data.toList.drop 70 = dktX4_mark_3 := dk_seg dksX4_mark_2 24 rfl rfl
theorem dksX4_mark_4 : cX4_mark.data.toList.drop 92 = dktX4_mark_4 := dk_seg dksX4_mark_3 22 rfl rfl
theorem dksX4_mark_5 : cX4_mark.data.toList.drop 115 = dktX4_mark_5 := dk_seg dksX4_mark_4 23 rfl rfl
theorem dksX4_mark_6 : cX4_mark.data.toList.drop 139 = dktX4_mark_6 := dk_seg dksX4_mark_5 24 rfl rfl
theorem dX4_mark_0 : decode cX4_mark 0 = .ok (.iload_n 1, 1) := dk_27 (dk_at dksX4_mark_0 0 rfl rfl)
theorem dX4_mark_1 : decode cX4_mark 1 = .ok (.invokestatic 119, 3) := dk_184 0 119 (dk_at dksX4_mark_0 1 rfl rfl)
theorem dX4_mark_4 : decode cX4_mark 4 = .ok (.ifCond .eq 41, 3) := dk_153 0 41 (dk_at dksX4_mark_0 4 rfl rfl)
theorem dX4_mark_7 : decode cX4_mark 7 = .ok (.iload_n 2, 1) := dk_28 (dk_at dksX4_mark_0 7 rfl rfl)
theorem dX4_mark_8 : decode cX4_mark 8 = .ok (.iconst (-1), 1) := dk_2 (dk_at dksX4_mark_0 8 rfl rfl)
theorem dX4_mark_9 : decode cX4_mark 9 = .ok (.if_icmp .eq 11, 3) := dk_159 0 11 (dk_at dksX4_mark_0 9 rfl rfl)
theorem dX4_mark_12 : decode cX4_mark 12 = .ok (.aload_n 0, 1) := dk_42 (dk_at dksX4_mark_0 12 rfl rfl)
theorem dX4_mark_13 : decode cX4_mark 13 = .ok (.iload_n 2, 1) := dk_28 (dk_at dksX4_mark_0 13 rfl rfl)
theorem dX4_mark_14 : decode cX4_mark 14 = .ok (.invokevirtual 122, 3) := dk_182 0 122 (dk_at dksX4_mark_0 14 rfl rfl)
theorem dX4_mark_17 : decode cX4_mark 17 = .ok (.ifCond .eq 28, 3) := dk_153 0 28 (dk_at dksX4_mark_0 17 rfl rfl)
theorem dX4_mark_20 : decode cX4_mark 20 = .ok (.aload_n 0, 1) := dk_42 (dk_at dksX4_mark_0 20 rfl rfl)
theorem dX4_mark_21 : decode cX4_mark 21 = .ok (.iload_n 3, 1) := dk_29 (dk_at dksX4_mark_0 21 rfl rfl)
theorem dX4_mark_22 : decode cX4_mark 22 = .ok (.invokevirtual 122, 3) := dk_182 0 122 (dk_at dksX4_mark_1 0 rfl rfl)
theorem dX4_mark_25 : decode cX4_mark 25 = .ok (.ifCond .eq 20, 3) := dk_153 0 20 (dk_at dksX4_mark_1 3 rfl rfl)
theorem dX4_mark_28 : decode cX4_mark 28 = .ok (.iload_n 2, 1) := dk_28 (dk_at dksX4_mark_1 6 rfl rfl)
theorem dX4_mark_29 : decode cX4_mark 29 = .ok (.iload_n 3, 1) := dk_29 (dk_at dksX4_mark_1 7 rfl rfl)
theorem dX4_mark_30 : decode cX4_mark 30 = .ok (.if_icmp .eq 15, 3) := dk_159 0 15 (dk_at dksX4_mark_1 8 rfl rfl)
theorem dX4_mark_33 : decode cX4_mark 33 = .ok (.iload 4, 2) := dk_21 4 (dk_at dksX4_mark_1 11 rfl rfl)
theorem dX4_mark_35 : decode cX4_mark 35 = .ok (.bipush (-20), 2) := dk_16 236 (dk_at dksX4_mark_1 13 rfl rfl)
theorem dX4_mark_37 : decode cX4_mark 37 = .ok (.bipush 20, 2) := dk_16 20 (dk_at dksX4_mark_1 15 rfl rfl)
theorem dX4_mark_39 : decode cX4_mark 39 = .ok (.invokestatic 61, 3) := dk_184 0 61 (dk_at dksX4_mark_1 17 rfl rfl)
theorem dX4_mark_42 : decode cX4_mark 42 = .ok (.ifCond .ne 10, 3) := dk_154 0 10 (dk_at dksX4_mark_1 20 rfl rfl)
theorem dX4_mark_45 : decode cX4_mark 45 = .ok (.aload_n 0, 1) := dk_42 (dk_at dksX4_mark_1 23 rfl rfl)
theorem dX4_mark_46 : decode cX4_mark 46 = .ok (.ldc 125, 2) := dk_18 125 (dk_at dksX4_mark_2 0 rfl rfl)
theorem dX4_mark_48 : decode cX4_mark 48 = .ok (.invokevirtual 126, 3) := dk_182 0 126 (dk_at dksX4_mark_2 2 rfl rfl)
theorem dX4_mark_51 : decode cX4_mark 51 = .ok (.ireturn, 1) := dk_172 (dk_at dksX4_mark_2 5 rfl rfl)
theorem dX4_mark_52 : decode cX4_mark 52 = .ok (.aload_n 0, 1) := dk_42 (dk_at dksX4_mark_2 6 rfl rfl)
theorem dX4_mark_53 : decode cX4_mark 53 = .ok (.getfield 9, 3) := dk_180 0 9 (dk_at dksX4_mark_2 7 rfl rfl)
theorem dX4_mark_56 : decode cX4_mark 56 = .ok (.iconst 2, 1) := dk_5 (dk_at dksX4_mark_2 10 rfl rfl)
theorem dX4_mark_57 : decode cX4_mark 57 = .ok (.iaload, 1) := dk_46 (dk_at dksX4_mark_2 11 rfl rfl)
theorem dX4_mark_58 : decode cX4_mark 58 = .ok (.istore 5, 2) := dk_54 5 (dk_at dksX4_mark_2 12 rfl rfl)
theorem dX4_mark_60 : decode cX4_mark 60 = .ok (.iload 5, 2) := dk_21 5 (dk_at dksX4_mark_2 14 rfl rfl)
theorem dX4_mark_62 : decode cX4_mark 62 = .ok (.bipush 8, 2) := dk_16 8 (dk_at dksX4_mark_2 16 rfl rfl)
theorem dX4_mark_64 : decode cX4_mark 64 = .ok (.if_icmp .ne 10, 3) := dk_160 0 10 (dk_at dksX4_mark_2 18 rfl rfl)
theorem dX4_mark_67 : decode cX4_mark 67 = .ok (.aload_n 0, 1) := dk_42 (dk_at dksX4_mark_2 21 rfl rfl)
theorem dX4_mark_68 : decode cX4_mark 68 = .ok (.ldc 129, 2) := dk_18 129 (dk_at dksX4_mark_2 22 rfl rfl)
theorem dX4_mark_70 : decode cX4_mark 70 = .ok (.invokevirtual 126, 3) := dk_182 0 126 (dk_at dksX4_mark_3 0 rfl rfl)
theorem dX4_mark_73 : decode cX4_mark 73 = .ok (.ireturn, 1) := dk_172 (dk_at dksX4_mark_3 3 rfl rfl)
theorem dX4_mark_74 : decode cX4_mark 74 = .ok (.aload_n 0, 1) := dk_42 (dk_at dksX4_mark_3 4 rfl rfl)
theorem dX4_mark_75 : decode cX4_mark 75 = .ok (.getfield 9, 3) := dk_180 0 9 (dk_at dksX4_mark_3 5 rfl rfl)
theorem dX4_mark_78 : decode cX4_mark 78 = .ok (.iconst 2, 1) := dk_5 (dk_at dksX4_mark_3 8 rfl rfl)
theorem dX4_mark_79 : decode cX4_mark 79 = .ok (.dup2, 1) := dk_92 (dk_at dksX4_mark_3 9 rfl rfl)
theorem dX4_mark_80 : decode cX4_mark 80 = .ok (.iaload, 1) := dk_46 (dk_at dksX4_mark_3 10 rfl rfl)
theorem dX4_mark_81 : decode cX4_mark 81 = .ok (.iconst 1, 1) := dk_4 (dk_at dksX4_mark_3 11 rfl rfl)
theorem dX4_mark_82 : decode cX4_mark 82 = .ok (.iadd, 1) := dk_96 (dk_at dksX4_mark_3 12 rfl rfl)
theorem dX4_mark_83 : decode cX4_mark 83 = .ok (.iastore, 1) := dk_79 (dk_at dksX4_mark_3 13 rfl rfl)
theorem dX4_mark_84 : decode cX4_mark 84 = .ok (.aload_n 0, 1) := dk_42 (dk_at dksX4_mark_3 14 rfl rfl)
theorem dX4_mark_85 : decode cX4_mark 85 = .ok (.iload 5, 2) := dk_21 5 (dk_at dksX4_mark_3 15 rfl rfl)
theorem dX4_mark_87 : decode cX4_mark 87 = .ok (.iconst 0, 1) := dk_3 (dk_at dksX4_mark_3 17 rfl rfl)
theorem dX4_mark_88 : decode cX4_mark 88 = .ok (.iload_n 1, 1) := dk_27 (dk_at dksX4_mark_3 18 rfl rfl)
theorem dX4_mark_89 : decode cX4_mark 89 = .ok (.bipush 10, 2) := dk_16 10 (dk_at dksX4_mark_3 19 rfl rfl)
theorem dX4_mark_91 : decode cX4_mark 91 = .ok (.idiv, 1) := dk_108 (dk_at dksX4_mark_3 21 rfl rfl)
theorem dX4_mark_92 : decode cX4_mark 92 = .ok (.invokevirtual 130, 3) := dk_182 0 130 (dk_at dksX4_mark_4 0 rfl rfl)
theorem dX4_mark_95 : decode cX4_mark 95 = .ok (.aload_n 0, 1) := dk_42 (dk_at dksX4_mark_4 3 rfl rfl)
theorem dX4_mark_96 : decode cX4_mark 96 = .ok (.iload 5, 2) := dk_21 5 (dk_at dksX4_mark_4 4 rfl rfl)
theorem dX4_mark_98 : decode cX4_mark 98 = .ok (.iconst 1, 1) := dk_4 (dk_at dksX4_mark_4 6 rfl rfl)
theorem dX4_mark_99 : decode cX4_mark 99 = .ok (.iload_n 1, 1) := dk_27 (dk_at dksX4_mark_4 7 rfl rfl)
theorem dX4_mark_100 : decode cX4_mark 100 = .ok (.bipush 10, 2) := dk_16 10 (dk_at dksX4_mark_4 8 rfl rfl)
theorem dX4_mark_102 : decode cX4_mark 102 = .ok (.irem, 1) := dk_112 (dk_at dksX4_mark_4 10 rfl rfl)
theorem dX4_mark_103 : decode cX4_mark 103 = .ok (.invokevirtual 130, 3) := dk_182 0 130 (dk_at dksX4_mark_4 11 rfl rfl)
theorem dX4_mark_106 : decode cX4_mark 106 = .ok (.aload_n 0, 1) := dk_42 (dk_at dksX4_mark_4 14 rfl rfl)
theorem dX4_mark_107 : decode cX4_mark 107 = .ok (.iload 5, 2) := dk_21 5 (dk_at dksX4_mark_4 15 rfl rfl)
theorem dX4_mark_109 : decode cX4_mark 109 = .ok (.iconst 2, 1) := dk_5 (dk_at dksX4_mark_4 17 rfl rfl)
theorem dX4_mark_110 : decode cX4_mark 110 = .ok (.iload_n 2, 1) := dk_28 (dk_at dksX4_mark_4 18 rfl rfl)
theorem dX4_mark_111 : decode cX4_mark 111 = .ok (.invokevirtual 130, 3) := dk_182 0 130 (dk_at dksX4_mark_4 19 rfl rfl)
theorem dX4_mark_114 : decode cX4_mark 114 = .ok (.aload_n 0, 1) := dk_42 (dk_at dksX4_mark_4 22 rfl rfl)
theorem dX4_mark_115 : decode cX4_mark 115 = .ok (.iload 5, 2) := dk_21 5 (dk_at dksX4_mark_5 0 rfl rfl)
theorem dX4_mark_117 : decode cX4_mark 117 = .ok (.iconst 3, 1) := dk_6 (dk_at dksX4_mark_5 2 rfl rfl)
theorem dX4_mark_118 : decode cX4_mark 118 = .ok (.iload_n 3, 1) := dk_29 (dk_at dksX4_mark_5 3 rfl rfl)
theorem dX4_mark_119 : decode cX4_mark 119 = .ok (.invokevirtual 130, 3) := dk_182 0 130 (dk_at dksX4_mark_5 4 rfl rfl)
theorem dX4_mark_122 : decode cX4_mark 122 = .ok (.aload_n 0, 1) := dk_42 (dk_at dksX4_mark_5 7 rfl rfl)
theorem dX4_mark_123 : decode cX4_mark 123 = .ok (.iload 5, 2) := dk_21 5 (dk_at dksX4_mark_5 8 rfl rfl)
theorem dX4_mark_125 : decode cX4_mark 125 = .ok (.iconst 4, 1) := dk_7 (dk_at dksX4_mark_5 10 rfl rfl)
theorem dX4_mark_126 : decode cX4_mark 126 = .ok (.iload 4, 2) := dk_21 4 (dk_at dksX4_mark_5 11 rfl rfl)
theorem dX4_mark_128 : decode cX4_mark 128 = .ok (.invokevirtual 130, 3) := dk_182 0 130 (dk_at dksX4_mark_5 13 rfl rfl)
theorem dX4_mark_131 : decode cX4_mark 131 = .ok (.aload_n 0, 1) := dk_42 (dk_at dksX4_mark_5 16 rfl rfl)
theorem dX4_mark_132 : decode cX4_mark 132 = .ok (.iload 5, 2) := dk_21 5 (dk_at dksX4_mark_5 17 rfl rfl)
theorem dX4_mark_134 : decode cX4_mark 134 = .ok (.iconst 5, 1) := dk_8 (dk_at dksX4_mark_5 19 rfl rfl)
theorem dX4_mark_135 : decode cX4_mark 135 = .ok (.iconst 1, 1) := dk_4 (dk_at dksX4_mark_5 20 rfl rfl)
theorem dX4_mark_136 : decode cX4_mark 136 = .ok (.invokevirtual 130, 3) := dk_182 0 130 (dk_at dksX4_mark_5 21 rfl rfl)
theorem dX4_mark_139 : decode cX4_mark 139 = .ok (.iload 5, 2) := dk_21 5 (dk_at dksX4_mark_6 0 rfl rfl)
theorem dX4_mark_141 : decode cX4_mark 141 = .ok (.ireturn, 1) := dk_172 (dk_at dksX4_mark_6 2 rfl rfl)
abbrev cX4_isKm : ByteArray := prog_19_method_30_code
def yX4_isKm : MethodName := ⟨RX4, "isKm", "(I)Z"⟩
def dkwX4_isKm_0 : List UInt8 := [26, 3, 16, 69, 184, 0, 61, 172]
abbrev dktX4_isKm_0 : List UInt8 := dkwX4_isKm_0 ++ []
theorem dksX4_isKm_0 : cX4_isKm.data.toList.drop 0 = dktX4_isKm_0 := by decide +kernel
theorem dX4_isKm_0 : decode cX4_isKm 0 = .ok (.iload_n 0, 1) := dk_26 (dk_at dksX4_isKm_0 0 rfl rfl)
theorem dX4_isKm_1 : decode cX4_isKm 1 = .ok (.iconst 0, 1) := dk_3 (dk_at dksX4_isKm_0 1 rfl rfl)
theorem dX4_isKm_2 : decode cX4_isKm 2 = .ok (.bipush 69, 2) := dk_16 69 (dk_at dksX4_isKm_0 2 rfl rfl)
theorem dX4_isKm_4 : decode cX4_isKm 4 = .ok (.invokestatic 61, 3) := dk_184 0 61 (dk_at dksX4_isKm_0 4 rfl rfl)
theorem dX4_isKm_7 : decode cX4_isKm 7 = .ok (.ireturn, 1) := dk_172 (dk_at dksX4_isKm_0 7 rfl rfl)
abbrev cX4_in : ByteArray := prog_19_method_3_code
def yX4_in : MethodName := ⟨RX4, "in", "(III)Z"⟩
def dkwX4_in_0 : List UInt8 := [26, 27, 161, 0, 12, 26, 28, 163, 0, 7, 4, 167, 0, 4, 3, 172]
abbrev dktX4_in_0 : List UInt8 := dkwX4_in_0 ++ []
theorem dksX4_in_0 : cX4_in.data.toList.drop 0 = dktX4_in_0 := by decide +kernel
theorem dX4_in_0 : decode cX4_in 0 = .ok (.iload_n 0, 1) := dk_26 (dk_at dksX4_in_0 0 rfl rfl)
theorem dX4_in_1 : decode cX4_in 1 = .ok (.iload_n 1, 1) := dk_27 (dk_at dksX4_in_0 1 rfl rfl)
theorem dX4_in_2 : decode cX4_in 2 = .ok (.if_icmp .lt 12, 3) := dk_161 0 12 (dk_at dksX4_in_0 2 rfl rfl)
theorem dX4_in_5 : decode cX4_in 5 = .ok (.iload_n 0, 1) := dk_26 (dk_at dksX4_in_0 5 rfl rfl)
theorem dX4_in_6 : decode cX4_in 6 = .ok (.iload_n 2, 1) := dk_28 (dk_at dksX4_in_0 6 rfl rfl)
theorem dX4_in_7 : decode cX4_in 7 = .ok (.if_icmp .gt 7, 3) := dk_163 0 7 (dk_at dksX4_in_0 7 rfl rfl)
theorem dX4_in_10 : decode cX4_in 10 = .ok (.iconst 1, 1) := dk_4 (dk_at dksX4_in_0 10 rfl rfl)
theorem dX4_in_11 : decode cX4_in 11 = .ok (.goto 4, 3) := dk_167 0 4 (dk_at dksX4_in_0 11 rfl rfl)
theorem dX4_in_14 : decode cX4_in 14 = .ok (.iconst 0, 1) := dk_3 (dk_at dksX4_in_0 14 rfl rfl)
theorem dX4_in_15 : decode cX4_in 15 = .ok (.ireturn, 1) := dk_172 (dk_at dksX4_in_0 15 rfl rfl)
abbrev cX4_isPicture : ByteArray := prog_19_method_10_code
def yX4_isPicture : MethodName := ⟨RX4, "isPicture", "(I)Z"⟩
def dkwX4_isPicture_0 : List UInt8 := [27, 3, 42, 180, 0, 9, 6, 46, 4, 100, 184, 0, 61, 172]
abbrev dktX4_isPicture_0 : List UInt8 := dkwX4_isPicture_0 ++ []
theorem dksX4_isPicture_0 : cX4_isPicture.data.toList.drop 0 = dktX4_isPicture_0 := by decide +kernel
theorem dX4_isPicture_0 : decode cX4_isPicture 0 = .ok (.iload_n 1, 1) := dk_27 (dk_at dksX4_isPicture_0 0 rfl rfl)
theorem dX4_isPicture_1 : decode cX4_isPicture 1 = .ok (.iconst 0, 1) := dk_3 (dk_at dksX4_isPicture_0 1 rfl rfl)
theorem dX4_isPicture_2 : decode cX4_isPicture 2 = .ok (.aload_n 0, 1) := dk_42 (dk_at dksX4_isPicture_0 2 rfl rfl)
theorem dX4_isPicture_3 : decode cX4_isPicture 3 = .ok (.getfield 9, 3) := dk_180 0 9 (dk_at dksX4_isPicture_0 3 rfl rfl)
theorem dX4_isPicture_6 : decode cX4_isPicture 6 = .ok (.iconst 3, 1) := dk_6 (dk_at dksX4_isPicture_0 6 rfl rfl)
theorem dX4_isPicture_7 : decode cX4_isPicture 7 = .ok (.iaload, 1) := dk_46 (dk_at dksX4_isPicture_0 7 rfl rfl)
theorem dX4_isPicture_8 : decode cX4_isPicture 8 = .ok (.iconst 1, 1) := dk_4 (dk_at dksX4_isPicture_0 8 rfl rfl)
theorem dX4_isPicture_9 : decode cX4_isPicture 9 = .ok (.isub, 1) := dk_100 (dk_at dksX4_isPicture_0 9 rfl rfl)
theorem dX4_isPicture_10 : decode cX4_isPicture 10 = .ok (.invokestatic 61, 3) := dk_184 0 61 (dk_at dksX4_isPicture_0 10 rfl rfl)
theorem dX4_isPicture_13 : decode cX4_isPicture 13 = .ok (.ireturn, 1) := dk_172 (dk_at dksX4_isPicture_0 13 rfl rfl)
abbrev cX4_error : ByteArray := prog_19_method_2_code
def yX4_error : MethodName := ⟨RX4, "error", "(I)I"⟩
def dkwX4_error_0 : List UInt8 := [42, 180, 0, 19, 18, 56, 27, 100, 92, 46, 4, 96, 79, 27, 172]
abbrev dktX4_error_0 : List UInt8 := dkwX4_error_0 ++ []
theorem dksX4_error_0 : cX4_error.data.toList.drop 0 = dktX4_error_0 := by decide +kernel
theorem dX4_error_0 : decode cX4_error 0 = .ok (.aload_n 0, 1) := dk_42 (dk_at dksX4_error_0 0 rfl rfl)
theorem dX4_error_1 : decode cX4_error 1 = .ok (.getfield 19, 3) := dk_180 0 19 (dk_at dksX4_error_0 1 rfl rfl)
theorem dX4_error_4 : decode cX4_error 4 = .ok (.ldc 56, 2) := dk_18 56 (dk_at dksX4_error_0 4 rfl rfl)
theorem dX4_error_6 : decode cX4_error 6 = .ok (.iload_n 1, 1) := dk_27 (dk_at dksX4_error_0 6 rfl rfl)
theorem dX4_error_7 : decode cX4_error 7 = .ok (.isub, 1) := dk_100 (dk_at dksX4_error_0 7 rfl rfl)
theorem dX4_error_8 : decode cX4_error 8 = .ok (.dup2, 1) := dk_92 (dk_at dksX4_error_0 8 rfl rfl)
theorem dX4_error_9 : decode cX4_error 9 = .ok (.iaload, 1) := dk_46 (dk_at dksX4_error_0 9 rfl rfl)
theorem dX4_error_10 : decode cX4_error 10 = .ok (.iconst 1, 1) := dk_4 (dk_at dksX4_error_0 10 rfl rfl)
theorem dX4_error_11 : decode cX4_error 11 = .ok (.iadd, 1) := dk_96 (dk_at dksX4_error_0 11 rfl rfl)
theorem dX4_error_12 : decode cX4_error 12 = .ok (.iastore, 1) := dk_79 (dk_at dksX4_error_0 12 rfl rfl)
theorem dX4_error_13 : decode cX4_error 13 = .ok (.iload_n 1, 1) := dk_27 (dk_at dksX4_error_0 13 rfl rfl)
theorem dX4_error_14 : decode cX4_error 14 = .ok (.ireturn, 1) := dk_172 (dk_at dksX4_error_0 14 rfl rfl)
abbrev cX4_puts : ByteArray := prog_19_method_13_code
def yX4_puts : MethodName := ⟨RX4, "puts", "(III)V"⟩
def dkwX4_puts_0 : List UInt8 := [42, 180, 0, 9, 16, 8, 16, 6, 27, 104, 96, 28, 96, 29, 79, 177]
abbrev dktX4_puts_0 : List UInt8 := dkwX4_puts_0 ++ []
theorem dksX4_puts_0 : cX4_puts.data.toList.drop 0 = dktX4_puts_0 := by decide +kernel
theorem dX4_puts_0 : decode cX4_puts 0 = .ok (.aload_n 0, 1) := dk_42 (dk_at dksX4_puts_0 0 rfl rfl)
theorem dX4_puts_1 : decode cX4_puts 1 = .ok (.getfield 9, 3) := dk_180 0 9 (dk_at dksX4_puts_0 1 rfl rfl)
theorem dX4_puts_4 : decode cX4_puts 4 = .ok (.bipush 8, 2) := dk_16 8 (dk_at dksX4_puts_0 4 rfl rfl)
theorem dX4_puts_6 : decode cX4_puts 6 = .ok (.bipush 6, 2) := dk_16 6 (dk_at dksX4_puts_0 6 rfl rfl)
theorem dX4_puts_8 : decode cX4_puts 8 = .ok (.iload_n 1, 1) := dk_27 (dk_at dksX4_puts_0 8 rfl rfl)
theorem dX4_puts_9 : decode cX4_puts 9 = .ok (.imul, 1) := dk_104 (dk_at dksX4_puts_0 9 rfl rfl)
theorem dX4_puts_10 : decode cX4_puts 10 = .ok (.iadd, 1) := dk_96 (dk_at dksX4_puts_0 10 rfl rfl)
theorem dX4_puts_11 : decode cX4_puts 11 = .ok (.iload_n 2, 1) := dk_28 (dk_at dksX4_puts_0 11 rfl rfl)
theorem dX4_puts_12 : decode cX4_puts 12 = .ok (.iadd, 1) := dk_96 (dk_at dksX4_puts_0 12 rfl rfl)
theorem dX4_puts_13 : decode cX4_puts 13 = .ok (.iload_n 3, 1) := dk_29 (dk_at dksX4_puts_0 13 rfl rfl)
theorem dX4_puts_14 : decode cX4_puts 14 = .ok (.iastore, 1) := dk_79 (dk_at dksX4_puts_0 14 rfl rfl)
theorem dX4_puts_15 : decode cX4_puts 15 = .ok (.return_, 1) := dk_177 (dk_at dksX4_puts_0 15 rfl rfl)
abbrev cX4_markIs : ByteArray := prog_19_method_32_code
def yX4_markIs : MethodName := ⟨RX4, "markIs", "(II)I"⟩
def dkwX4_markIs_2 : List UInt8 := [182, 0, 90, 167, 0, 8, 42, 27, 182, 0, 93, 172]
abbrev dktX4_markIs_2 : List UInt8 := dkwX4_markIs_2 ++ []
def dkwX4_markIs_1 : List UInt8 := [172, 28, 16, 6, 162, 0, 12, 42, 27, 28, 182, 0, 65, 167, 0, 22, 28, 16, 6, 160, 0, 11, 42, 27]
abbrev dktX4_markIs_1 : List UInt8 := dkwX4_markIs_1 ++ dktX4_markIs_2
def dkwX4_markIs_0 : List UInt8 := [42, 27, 182, 0, 134, 153, 0, 13, 28, 3, 16, 7, 184, 0, 61, 154, 0, 10, 42, 18, 125, 182, 0, 126]
abbrev dktX4_markIs_0 : List UInt8 := dkwX4_markIs_0 ++ dktX4_markIs_1
theorem dksX4_markIs_0 : cX4_markIs.data.toList.drop 0 = dktX4_markIs_0 := by decide +kernel
theorem dksX4_markIs_1 : cX4_markIs.data.toList.drop 24 = dktX4_markIs_1 := dk_seg dksX4_markIs_0 24 rfl rfl
theorem dksX4_markIs_2 : cX4_markIs.data.toList.drop 48 = dktX4_markIs_2 := dk_seg dksX4_markIs_1 24 rfl rfl
theorem dX4_markIs_0 : decode cX4_markIs 0 = .ok (.aload_n 0, 1) := dk_42 (dk_at dksX4_markIs_0 0 rfl rfl)
theorem dX4_markIs_1 : decode cX4_markIs 1 = .ok (.iload_n 1, 1) := dk_27 (dk_at dksX4_markIs_0 1 rfl rfl)
theorem dX4_markIs_2 : decode cX4_markIs 2 = .ok (.invokevirtual 134, 3) := dk_182 0 134 (dk_at dksX4_markIs_0 2 rfl rfl)
theorem dX4_markIs_5 : decode cX4_markIs 5 = .ok (.ifCond .eq 13, 3) := dk_153 0 13 (dk_at dksX4_markIs_0 5 rfl rfl)
theorem dX4_markIs_8 : decode cX4_markIs 8 = .ok (.iload_n 2, 1) := dk_28 (dk_at dksX4_markIs_0 8 rfl rfl)
theorem dX4_markIs_9 : decode cX4_markIs 9 = .ok (.iconst 0, 1) := dk_3 (dk_at dksX4_markIs_0 9 rfl rfl)
theorem dX4_markIs_10 : decode cX4_markIs 10 = .ok (.bipush 7, 2) := dk_16 7 (dk_at dksX4_markIs_0 10 rfl rfl)
theorem dX4_markIs_12 : decode cX4_markIs 12 = .ok (.invokestatic 61, 3) := dk_184 0 61 (dk_at dksX4_markIs_0 12 rfl rfl)
theorem dX4_markIs_15 : decode cX4_markIs 15 = .ok (.ifCond .ne 10, 3) := dk_154 0 10 (dk_at dksX4_markIs_0 15 rfl rfl)
theorem dX4_markIs_18 : decode cX4_markIs 18 = .ok (.aload_n 0, 1) := dk_42 (dk_at dksX4_markIs_0 18 rfl rfl)
theorem dX4_markIs_19 : decode cX4_markIs 19 = .ok (.ldc 125, 2) := dk_18 125 (dk_at dksX4_markIs_0 19 rfl rfl)
theorem dX4_markIs_21 : decode cX4_markIs 21 = .ok (.invokevirtual 126, 3) := dk_182 0 126 (dk_at dksX4_markIs_0 21 rfl rfl)
theorem dX4_markIs_24 : decode cX4_markIs 24 = .ok (.ireturn, 1) := dk_172 (dk_at dksX4_markIs_1 0 rfl rfl)
theorem dX4_markIs_25 : decode cX4_markIs 25 = .ok (.iload_n 2, 1) := dk_28 (dk_at dksX4_markIs_1 1 rfl rfl)
theorem dX4_markIs_26 : decode cX4_markIs 26 = .ok (.bipush 6, 2) := dk_16 6 (dk_at dksX4_markIs_1 2 rfl rfl)
theorem dX4_markIs_28 : decode cX4_markIs 28 = .ok (.if_icmp .ge 12, 3) := dk_162 0 12 (dk_at dksX4_markIs_1 4 rfl rfl)
theorem dX4_markIs_31 : decode cX4_markIs 31 = .ok (.aload_n 0, 1) := dk_42 (dk_at dksX4_markIs_1 7 rfl rfl)
theorem dX4_markIs_32 : decode cX4_markIs 32 = .ok (.iload_n 1, 1) := dk_27 (dk_at dksX4_markIs_1 8 rfl rfl)
theorem dX4_markIs_33 : decode cX4_markIs 33 = .ok (.iload_n 2, 1) := dk_28 (dk_at dksX4_markIs_1 9 rfl rfl)
theorem dX4_markIs_34 : decode cX4_markIs 34 = .ok (.invokevirtual 65, 3) := dk_182 0 65 (dk_at dksX4_markIs_1 10 rfl rfl)
theorem dX4_markIs_37 : decode cX4_markIs 37 = .ok (.goto 22, 3) := dk_167 0 22 (dk_at dksX4_markIs_1 13 rfl rfl)
theorem dX4_markIs_40 : decode cX4_markIs 40 = .ok (.iload_n 2, 1) := dk_28 (dk_at dksX4_markIs_1 16 rfl rfl)
theorem dX4_markIs_41 : decode cX4_markIs 41 = .ok (.bipush 6, 2) := dk_16 6 (dk_at dksX4_markIs_1 17 rfl rfl)
theorem dX4_markIs_43 : decode cX4_markIs 43 = .ok (.if_icmp .ne 11, 3) := dk_160 0 11 (dk_at dksX4_markIs_1 19 rfl rfl)
theorem dX4_markIs_46 : decode cX4_markIs 46 = .ok (.aload_n 0, 1) := dk_42 (dk_at dksX4_markIs_1 22 rfl rfl)
theorem dX4_markIs_47 : decode cX4_markIs 47 = .ok (.iload_n 1, 1) := dk_27 (dk_at dksX4_markIs_1 23 rfl rfl)
theorem dX4_markIs_48 : decode cX4_markIs 48 = .ok (.invokevirtual 90, 3) := dk_182 0 90 (dk_at dksX4_markIs_2 0 rfl rfl)
theorem dX4_markIs_51 : decode cX4_markIs 51 = .ok (.goto 8, 3) := dk_167 0 8 (dk_at dksX4_markIs_2 3 rfl rfl)
theorem dX4_markIs_54 : decode cX4_markIs 54 = .ok (.aload_n 0, 1) := dk_42 (dk_at dksX4_markIs_2 6 rfl rfl)
theorem dX4_markIs_55 : decode cX4_markIs 55 = .ok (.iload_n 1, 1) := dk_27 (dk_at dksX4_markIs_2 7 rfl rfl)
theorem dX4_markIs_56 : decode cX4_markIs 56 = .ok (.invokevirtual 93, 3) := dk_182 0 93 (dk_at dksX4_markIs_2 8 rfl rfl)
theorem dX4_markIs_59 : decode cX4_markIs 59 = .ok (.ireturn, 1) := dk_172 (dk_at dksX4_markIs_2 11 rfl rfl)
abbrev cX4_isMark : ByteArray := prog_19_method_9_code
def yX4_isMark : MethodName := ⟨RX4, "isMark", "(I)Z"⟩
def dkwX4_isMark_0 : List UInt8 := [27, 3, 42, 180, 0, 9, 5, 46, 4, 100, 184, 0, 61, 172]
abbrev dktX4_isMark_0 : List UInt8 := dkwX4_isMark_0 ++ []
theorem dksX4_isMark_0 : cX4_isMark.data.toList.drop 0 = dktX4_isMark_0 := by decide +kernel
theorem dX4_isMark_0 : decode cX4_isMark 0 = .ok (.iload_n 1, 1) := dk_27 (dk_at dksX4_isMark_0 0 rfl rfl)
theorem dX4_isMark_1 : decode cX4_isMark 1 = .ok (.iconst 0, 1) := dk_3 (dk_at dksX4_isMark_0 1 rfl rfl)
theorem dX4_isMark_2 : decode cX4_isMark 2 = .ok (.aload_n 0, 1) := dk_42 (dk_at dksX4_isMark_0 2 rfl rfl)
theorem dX4_isMark_3 : decode cX4_isMark 3 = .ok (.getfield 9, 3) := dk_180 0 9 (dk_at dksX4_isMark_0 3 rfl rfl)
theorem dX4_isMark_6 : decode cX4_isMark 6 = .ok (.iconst 2, 1) := dk_5 (dk_at dksX4_isMark_0 6 rfl rfl)
theorem dX4_isMark_7 : decode cX4_isMark 7 = .ok (.iaload, 1) := dk_46 (dk_at dksX4_isMark_0 7 rfl rfl)
theorem dX4_isMark_8 : decode cX4_isMark 8 = .ok (.iconst 1, 1) := dk_4 (dk_at dksX4_isMark_0 8 rfl rfl)
theorem dX4_isMark_9 : decode cX4_isMark 9 = .ok (.isub, 1) := dk_100 (dk_at dksX4_isMark_0 9 rfl rfl)
theorem dX4_isMark_10 : decode cX4_isMark 10 = .ok (.invokestatic 61, 3) := dk_184 0 61 (dk_at dksX4_isMark_0 10 rfl rfl)
theorem dX4_isMark_13 : decode cX4_isMark 13 = .ok (.ireturn, 1) := dk_172 (dk_at dksX4_isMark_0 13 rfl rfl)
abbrev cX4_of : ByteArray := prog_19_method_12_code
def yX4_of : MethodName := ⟨RX4, "of", "(II)I"⟩
def dkwX4_of_0 : List UInt8 := [42, 180, 0, 9, 16, 8, 16, 6, 27, 104, 96, 28, 96, 46, 172]
abbrev dktX4_of_0 : List UInt8 := dkwX4_of_0 ++ []
theorem dksX4_of_0 : cX4_of.data.toList.drop 0 = dktX4_of_0 := by decide +kernel
theorem dX4_of_0 : decode cX4_of 0 = .ok (.aload_n 0, 1) := dk_42 (dk_at dksX4_of_0 0 rfl rfl)
theorem dX4_of_1 : decode cX4_of 1 = .ok (.getfield 9, 3) := dk_180 0 9 (dk_at dksX4_of_0 1 rfl rfl)
theorem dX4_of_4 : decode cX4_of 4 = .ok (.bipush 8, 2) := dk_16 8 (dk_at dksX4_of_0 4 rfl rfl)
theorem dX4_of_6 : decode cX4_of 6 = .ok (.bipush 6, 2) := dk_16 6 (dk_at dksX4_of_0 6 rfl rfl)
theorem dX4_of_8 : decode cX4_of 8 = .ok (.iload_n 1, 1) := dk_27 (dk_at dksX4_of_0 8 rfl rfl)
theorem dX4_of_9 : decode cX4_of 9 = .ok (.imul, 1) := dk_104 (dk_at dksX4_of_0 9 rfl rfl)
theorem dX4_of_10 : decode cX4_of 10 = .ok (.iadd, 1) := dk_96 (dk_at dksX4_of_0 10 rfl rfl)
theorem dX4_of_11 : decode cX4_of 11 = .ok (.iload_n 2, 1) := dk_28 (dk_at dksX4_of_0 11 rfl rfl)
theorem dX4_of_12 : decode cX4_of 12 = .ok (.iadd, 1) := dk_96 (dk_at dksX4_of_0 12 rfl rfl)
theorem dX4_of_13 : decode cX4_of 13 = .ok (.iaload, 1) := dk_46 (dk_at dksX4_of_0 13 rfl rfl)
theorem dX4_of_14 : decode cX4_of 14 = .ok (.ireturn, 1) := dk_172 (dk_at dksX4_of_0 14 rfl rfl)
abbrev cX4_weight : ByteArray := prog_19_method_18_code
def yX4_weight : MethodName := ⟨RX4, "weight", "(I)I"⟩
def dkwX4_weight_1 : List UInt8 := [172]
abbrev dktX4_weight_1 : List UInt8 := dkwX4_weight_1 ++ []
def dkwX4_weight_0 : List UInt8 := [42, 3, 42, 27, 182, 0, 73, 42, 27, 182, 0, 69, 42, 180, 0, 9, 3, 46, 16, 8, 112, 182, 0, 76]
abbrev dktX4_weight_0 : List UInt8 := dkwX4_weight_0 ++ dktX4_weight_1
theorem dksX4_weight_0 : cX4_weight.data.toList.drop 0 = dktX4_weight_0 := by decide +kernel
theorem dksX4_weight_1 : cX4_weight.data.toList.drop 24 = dktX4_weight_1 := dk_seg dksX4_weight_0 24 rfl rfl
theorem dX4_weight_0 : decode cX4_weight 0 = .ok (.aload_n 0, 1) := dk_42 (dk_at dksX4_weight_0 0 rfl rfl)
theorem dX4_weight_1 : decode cX4_weight 1 = .ok (.iconst 0, 1) := dk_3 (dk_at dksX4_weight_0 1 rfl rfl)
theorem dX4_weight_2 : decode cX4_weight 2 = .ok (.aload_n 0, 1) := dk_42 (dk_at dksX4_weight_0 2 rfl rfl)
theorem dX4_weight_3 : decode cX4_weight 3 = .ok (.iload_n 1, 1) := dk_27 (dk_at dksX4_weight_0 3 rfl rfl)
theorem dX4_weight_4 : decode cX4_weight 4 = .ok (.invokevirtual 73, 3) := dk_182 0 73 (dk_at dksX4_weight_0 4 rfl rfl)
theorem dX4_weight_7 : decode cX4_weight 7 = .ok (.aload_n 0, 1) := dk_42 (dk_at dksX4_weight_0 7 rfl rfl)
theorem dX4_weight_8 : decode cX4_weight 8 = .ok (.iload_n 1, 1) := dk_27 (dk_at dksX4_weight_0 8 rfl rfl)
theorem dX4_weight_9 : decode cX4_weight 9 = .ok (.invokevirtual 69, 3) := dk_182 0 69 (dk_at dksX4_weight_0 9 rfl rfl)
theorem dX4_weight_12 : decode cX4_weight 12 = .ok (.aload_n 0, 1) := dk_42 (dk_at dksX4_weight_0 12 rfl rfl)
theorem dX4_weight_13 : decode cX4_weight 13 = .ok (.getfield 9, 3) := dk_180 0 9 (dk_at dksX4_weight_0 13 rfl rfl)
theorem dX4_weight_16 : decode cX4_weight 16 = .ok (.iconst 0, 1) := dk_3 (dk_at dksX4_weight_0 16 rfl rfl)
theorem dX4_weight_17 : decode cX4_weight 17 = .ok (.iaload, 1) := dk_46 (dk_at dksX4_weight_0 17 rfl rfl)
theorem dX4_weight_18 : decode cX4_weight 18 = .ok (.bipush 8, 2) := dk_16 8 (dk_at dksX4_weight_0 18 rfl rfl)
theorem dX4_weight_20 : decode cX4_weight 20 = .ok (.irem, 1) := dk_112 (dk_at dksX4_weight_0 20 rfl rfl)
theorem dX4_weight_21 : decode cX4_weight 21 = .ok (.invokevirtual 76, 3) := dk_182 0 76 (dk_at dksX4_weight_0 21 rfl rfl)
theorem dX4_weight_24 : decode cX4_weight 24 = .ok (.ireturn, 1) := dk_172 (dk_at dksX4_weight_1 0 rfl rfl)
abbrev cX4_weighsBy : ByteArray := prog_19_method_16_code
def yX4_weighsBy : MethodName := ⟨RX4, "weighsBy", "(I)I"⟩
def dkwX4_weighsBy_3 : List UInt8 := [3, 46, 5, 112, 154, 0, 7, 6, 167, 0, 4, 4, 172, 28, 4, 100, 172, 7, 172, 5, 172]
abbrev dktX4_weighsBy_3 : List UInt8 := dkwX4_weighsBy_3 ++ []
def dkwX4_weighsBy_2 : List UInt8 := [6, 172, 28, 172, 42, 27, 4, 182, 0, 65, 7, 164, 0, 7, 7, 167, 0, 4, 5, 172, 42, 180, 0, 9]
abbrev dktX4_weighsBy_2 : List UInt8 := dkwX4_weighsBy_2 ++ dktX4_weighsBy_3
def dkwX4_weighsBy_1 : List UInt8 := [170, 0, 0, 0, 0, 0, 82, 0, 0, 0, 1, 0, 0, 0, 6, 0, 0, 0, 39, 0, 0, 0, 41, 0, 0, 0, 43, 0, 0, 0, 59, 0, 0, 0, 76, 0, 0, 0, 80]
abbrev dktX4_weighsBy_1 : List UInt8 := dkwX4_weighsBy_1 ++ dktX4_weighsBy_2
def dkwX4_weighsBy_0 : List UInt8 := [42, 27, 182, 0, 69, 6, 164, 0, 7, 4, 167, 0, 4, 6, 61, 42, 27, 3, 182, 0, 65]
abbrev dktX4_weighsBy_0 : List UInt8 := dkwX4_weighsBy_0 ++ dktX4_weighsBy_1
theorem dksX4_weighsBy_0 : cX4_weighsBy.data.toList.drop 0 = dktX4_weighsBy_0 := by decide +kernel
theorem dksX4_weighsBy_1 : cX4_weighsBy.data.toList.drop 21 = dktX4_weighsBy_1 := dk_seg dksX4_weighsBy_0 21 rfl rfl
theorem dksX4_weighsBy_2 : cX4_weighsBy.data.toList.drop 60 = dktX4_weighsBy_2 := dk_seg dksX4_weighsBy_1 39 rfl rfl
theorem dksX4_weighsBy_3 : cX4_weighsBy.data.toList.drop 84 = dktX4_weighsBy_3 := dk_seg dksX4_weighsBy_2 24 rfl rfl
theorem dX4_weighsBy_0 : decode cX4_weighsBy 0 = .ok (.aload_n 0, 1) := dk_42 (dk_at dksX4_weighsBy_0 0 rfl rfl)
theorem dX4_weighsBy_1 : decode cX4_weighsBy 1 = .ok (.iload_n 1, 1) := dk_27 (dk_at dksX4_weighsBy_0 1 rfl rfl)
theorem dX4_weighsBy_2 : decode cX4_weighsBy 2 = .ok (.invokevirtual 69, 3) := dk_182 0 69 (dk_at dksX4_weighsBy_0 2 rfl rfl)
theorem dX4_weighsBy_5 : decode cX4_weighsBy 5 = .ok (.iconst 3, 1) := dk_6 (dk_at dksX4_weighsBy_0 5 rfl rfl)
theorem dX4_weighsBy_6 : decode cX4_weighsBy 6 = .ok (.if_icmp .le 7, 3) := dk_164 0 7 (dk_at dksX4_weighsBy_0 6 rfl rfl)
theorem dX4_weighsBy_9 : decode cX4_weighsBy 9 = .ok (.iconst 1, 1) := dk_4 (dk_at dksX4_weighsBy_0 9 rfl rfl)
theorem dX4_weighsBy_10 : decode cX4_weighsBy 10 = .ok (.goto 4, 3) := dk_167 0 4 (dk_at dksX4_weighsBy_0 10 rfl rfl)
theorem dX4_weighsBy_13 : decode cX4_weighsBy 13 = .ok (.iconst 3, 1) := dk_6 (dk_at dksX4_weighsBy_0 13 rfl rfl)
theorem dX4_weighsBy_14 : decode cX4_weighsBy 14 = .ok (.istore_n 2, 1) := dk_61 (dk_at dksX4_weighsBy_0 14 rfl rfl)
theorem dX4_weighsBy_15 : decode cX4_weighsBy 15 = .ok (.aload_n 0, 1) := dk_42 (dk_at dksX4_weighsBy_0 15 rfl rfl)
theorem dX4_weighsBy_16 : decode cX4_weighsBy 16 = .ok (.iload_n 1, 1) := dk_27 (dk_at dksX4_weighsBy_0 16 rfl rfl)
theorem dX4_weighsBy_17 : decode cX4_weighsBy 17 = .ok (.iconst 0, 1) := dk_3 (dk_at dksX4_weighsBy_0 17 rfl rfl)
theorem dX4_weighsBy_18 : decode cX4_weighsBy 18 = .ok (.invokevirtual 65, 3) := dk_182 0 65 (dk_at dksX4_weighsBy_0 18 rfl rfl)
theorem dX4_weighsBy_21 : decode cX4_weighsBy 21 = .ok (.tableswitch 82 1 6 #[39, 41, 43, 59, 76, 80], 39) := by decide +kernel
theorem dX4_weighsBy_60 : decode cX4_weighsBy 60 = .ok (.iconst 3, 1) := dk_6 (dk_at dksX4_weighsBy_2 0 rfl rfl)
theorem dX4_weighsBy_61 : decode cX4_weighsBy 61 = .ok (.ireturn, 1) := dk_172 (dk_at dksX4_weighsBy_2 1 rfl rfl)
theorem dX4_weighsBy_62 : decode cX4_weighsBy 62 = .ok (.iload_n 2, 1) := dk_28 (dk_at dksX4_weighsBy_2 2 rfl rfl)
theorem dX4_weighsBy_63 : decode cX4_weighsBy 63 = .ok (.ireturn, 1) := dk_172 (dk_at dksX4_weighsBy_2 3 rfl rfl)
theorem dX4_weighsBy_64 : decode cX4_weighsBy 64 = .ok (.aload_n 0, 1) := dk_42 (dk_at dksX4_weighsBy_2 4 rfl rfl)
theorem dX4_weighsBy_65 : decode cX4_weighsBy 65 = .ok (.iload_n 1, 1) := dk_27 (dk_at dksX4_weighsBy_2 5 rfl rfl)
theorem dX4_weighsBy_66 : decode cX4_weighsBy 66 = .ok (.iconst 1, 1) := dk_4 (dk_at dksX4_weighsBy_2 6 rfl rfl)
theorem dX4_weighsBy_67 : decode cX4_weighsBy 67 = .ok (.invokevirtual 65, 3) := dk_182 0 65 (dk_at dksX4_weighsBy_2 7 rfl rfl)
theorem dX4_weighsBy_70 : decode cX4_weighsBy 70 = .ok (.iconst 4, 1) := dk_7 (dk_at dksX4_weighsBy_2 10 rfl rfl)
theorem dX4_weighsBy_71 : decode cX4_weighsBy 71 = .ok (.if_icmp .le 7, 3) := dk_164 0 7 (dk_at dksX4_weighsBy_2 11 rfl rfl)
theorem dX4_weighsBy_74 : decode cX4_weighsBy 74 = .ok (.iconst 4, 1) := dk_7 (dk_at dksX4_weighsBy_2 14 rfl rfl)
theorem dX4_weighsBy_75 : decode cX4_weighsBy 75 = .ok (.goto 4, 3) := dk_167 0 4 (dk_at dksX4_weighsBy_2 15 rfl rfl)
theorem dX4_weighsBy_78 : decode cX4_weighsBy 78 = .ok (.iconst 2, 1) := dk_5 (dk_at dksX4_weighsBy_2 18 rfl rfl)
theorem dX4_weighsBy_79 : decode cX4_weighsBy 79 = .ok (.ireturn, 1) := dk_172 (dk_at dksX4_weighsBy_2 19 rfl rfl)
theorem dX4_weighsBy_80 : decode cX4_weighsBy 80 = .ok (.aload_n 0, 1) := dk_42 (dk_at dksX4_weighsBy_2 20 rfl rfl)
theorem dX4_weighsBy_81 : decode cX4_weighsBy 81 = .ok (.getfield 9, 3) := dk_180 0 9 (dk_at dksX4_weighsBy_2 21 rfl rfl)
theorem dX4_weighsBy_84 : decode cX4_weighsBy 84 = .ok (.iconst 0, 1) := dk_3 (dk_at dksX4_weighsBy_3 0 rfl rfl)
theorem dX4_weighsBy_85 : decode cX4_weighsBy 85 = .ok (.iaload, 1) := dk_46 (dk_at dksX4_weighsBy_3 1 rfl rfl)
theorem dX4_weighsBy_86 : decode cX4_weighsBy 86 = .ok (.iconst 2, 1) := dk_5 (dk_at dksX4_weighsBy_3 2 rfl rfl)
theorem dX4_weighsBy_87 : decode cX4_weighsBy 87 = .ok (.irem, 1) := dk_112 (dk_at dksX4_weighsBy_3 3 rfl rfl)
theorem dX4_weighsBy_88 : decode cX4_weighsBy 88 = .ok (.ifCond .ne 7, 3) := dk_154 0 7 (dk_at dksX4_weighsBy_3 4 rfl rfl)
theorem dX4_weighsBy_91 : decode cX4_weighsBy 91 = .ok (.iconst 3, 1) := dk_6 (dk_at dksX4_weighsBy_3 7 rfl rfl)
theorem dX4_weighsBy_92 : decode cX4_weighsBy 92 = .ok (.goto 4, 3) := dk_167 0 4 (dk_at dksX4_weighsBy_3 8 rfl rfl)
theorem dX4_weighsBy_95 : decode cX4_weighsBy 95 = .ok (.iconst 1, 1) := dk_4 (dk_at dksX4_weighsBy_3 11 rfl rfl)
theorem dX4_weighsBy_96 : decode cX4_weighsBy 96 = .ok (.ireturn, 1) := dk_172 (dk_at dksX4_weighsBy_3 12 rfl rfl)
theorem dX4_weighsBy_97 : decode cX4_weighsBy 97 = .ok (.iload_n 2, 1) := dk_28 (dk_at dksX4_weighsBy_3 13 rfl rfl)
theorem dX4_weighsBy_98 : decode cX4_weighsBy 98 = .ok (.iconst 1, 1) := dk_4 (dk_at dksX4_weighsBy_3 14 rfl rfl)
theorem dX4_weighsBy_99 : decode cX4_weighsBy 99 = .ok (.isub, 1) := dk_100 (dk_at dksX4_weighsBy_3 15 rfl rfl)
theorem dX4_weighsBy_100 : decode cX4_weighsBy 100 = .ok (.ireturn, 1) := dk_172 (dk_at dksX4_weighsBy_3 16 rfl rfl)
theorem dX4_weighsBy_101 : decode cX4_weighsBy 101 = .ok (.iconst 4, 1) := dk_7 (dk_at dksX4_weighsBy_3 17 rfl rfl)
theorem dX4_weighsBy_102 : decode cX4_weighsBy 102 = .ok (.ireturn, 1) := dk_172 (dk_at dksX4_weighsBy_3 18 rfl rfl)
theorem dX4_weighsBy_103 : decode cX4_weighsBy 103 = .ok (.iconst 2, 1) := dk_5 (dk_at dksX4_weighsBy_3 19 rfl rfl)
theorem dX4_weighsBy_104 : decode cX4_weighsBy 104 = .ok (.ireturn, 1) := dk_172 (dk_at dksX4_weighsBy_3 20 rfl rfl)
abbrev cX4_touching : ByteArray := prog_19_method_15_code
def yX4_touching : MethodName := ⟨RX4, "touching", "(I)I"⟩
def dkwX4_touching_3 : List UInt8 := [167, 0, 4, 3, 96, 61, 132, 3, 1, 167, 255, 183, 28, 172]
abbrev dktX4_touching_3 : List UInt8 := dkwX4_touching_3 ++ []
def dkwX4_touching_2 : List UInt8 := [167, 0, 4, 3, 54, 4, 28, 21, 4, 153, 0, 17, 42, 29, 8, 182, 0, 65, 4, 160, 0, 7, 4]
abbrev dktX4_touching_2 : List UInt8 := dkwX4_touching_2 ++ dktX4_touching_3
def dkwX4_touching_1 : List UInt8 := [182, 0, 65, 159, 0, 18, 42, 29, 6, 182, 0, 65, 42, 27, 6, 182, 0, 65, 160, 0, 7, 4]
abbrev dktX4_touching_1 : List UInt8 := dkwX4_touching_1 ++ dktX4_touching_2
def dkwX4_touching_0 : List UInt8 := [3, 61, 3, 62, 29, 42, 180, 0, 9, 5, 46, 162, 0, 69, 42, 29, 5, 182, 0, 65, 42, 27, 6]
abbrev dktX4_touching_0 : List UInt8 := dkwX4_touching_0 ++ dktX4_touching_1
theorem dksX4_touching_0 : cX4_touching.data.toList.drop 0 = dktX4_touching_0 := by decide +kernel
theorem dksX4_touching_1 : cX4_touching.data.toList.drop 23 = dktX4_touching_1 := dk_seg dksX4_touching_0 23 rfl rfl
theorem dksX4_touching_2 : cX4_touching.data.toList.drop 45 = dktX4_touching_2 := dk_seg dksX4_touching_1 22 rfl rfl
theorem dksX4_touching_3 : cX4_touching.data.toList.drop 68 = dktX4_touching_3 := dk_seg dksX4_touching_2 23 rfl rfl
theorem dX4_touching_0 : decode cX4_touching 0 = .ok (.iconst 0, 1) := dk_3 (dk_at dksX4_touching_0 0 rfl rfl)
theorem dX4_touching_1 : decode cX4_touching 1 = .ok (.istore_n 2, 1) := dk_61 (dk_at dksX4_touching_0 1 rfl rfl)
theorem dX4_touching_2 : decode cX4_touching 2 = .ok (.iconst 0, 1) := dk_3 (dk_at dksX4_touching_0 2 rfl rfl)
theorem dX4_touching_3 : decode cX4_touching 3 = .ok (.istore_n 3, 1) := dk_62 (dk_at dksX4_touching_0 3 rfl rfl)
theorem dX4_touching_4 : decode cX4_touching 4 = .ok (.iload_n 3, 1) := dk_29 (dk_at dksX4_touching_0 4 rfl rfl)
theorem dX4_touching_5 : decode cX4_touching 5 = .ok (.aload_n 0, 1) := dk_42 (dk_at dksX4_touching_0 5 rfl rfl)
theorem dX4_touching_6 : decode cX4_touching 6 = .ok (.getfield 9, 3) := dk_180 0 9 (dk_at dksX4_touching_0 6 rfl rfl)
theorem dX4_touching_9 : decode cX4_touching 9 = .ok (.iconst 2, 1) := dk_5 (dk_at dksX4_touching_0 9 rfl rfl)
theorem dX4_touching_10 : decode cX4_touching 10 = .ok (.iaload, 1) := dk_46 (dk_at dksX4_touching_0 10 rfl rfl)
theorem dX4_touching_11 : decode cX4_touching 11 = .ok (.if_icmp .ge 69, 3) := dk_162 0 69 (dk_at dksX4_touching_0 11 rfl rfl)
theorem dX4_touching_14 : decode cX4_touching 14 = .ok (.aload_n 0, 1) := dk_42 (dk_at dksX4_touching_0 14 rfl rfl)
theorem dX4_touching_15 : decode cX4_touching 15 = .ok (.iload_n 3, 1) := dk_29 (dk_at dksX4_touching_0 15 rfl rfl)
theorem dX4_touching_16 : decode cX4_touching 16 = .ok (.iconst 2, 1) := dk_5 (dk_at dksX4_touching_0 16 rfl rfl)
theorem dX4_touching_17 : decode cX4_touching 17 = .ok (.invokevirtual 65, 3) := dk_182 0 65 (dk_at dksX4_touching_0 17 rfl rfl)
theorem dX4_touching_20 : decode cX4_touching 20 = .ok (.aload_n 0, 1) := dk_42 (dk_at dksX4_touching_0 20 rfl rfl)
theorem dX4_touching_21 : decode cX4_touching 21 = .ok (.iload_n 1, 1) := dk_27 (dk_at dksX4_touching_0 21 rfl rfl)
theorem dX4_touching_22 : decode cX4_touching 22 = .ok (.iconst 3, 1) := dk_6 (dk_at dksX4_touching_0 22 rfl rfl)
theorem dX4_touching_23 : decode cX4_touching 23 = .ok (.invokevirtual 65, 3) := dk_182 0 65 (dk_at dksX4_touching_1 0 rfl rfl)
theorem dX4_touching_26 : decode cX4_touching 26 = .ok (.if_icmp .eq 18, 3) := dk_159 0 18 (dk_at dksX4_touching_1 3 rfl rfl)
theorem dX4_touching_29 : decode cX4_touching 29 = .ok (.aload_n 0, 1) := dk_42 (dk_at dksX4_touching_1 6 rfl rfl)
theorem dX4_touching_30 : decode cX4_touching 30 = .ok (.iload_n 3, 1) := dk_29 (dk_at dksX4_touching_1 7 rfl rfl)
theorem dX4_touching_31 : decode cX4_touching 31 = .ok (.iconst 3, 1) := dk_6 (dk_at dksX4_touching_1 8 rfl rfl)
theorem dX4_touching_32 : decode cX4_touching 32 = .ok (.invokevirtual 65, 3) := dk_182 0 65 (dk_at dksX4_touching_1 9 rfl rfl)
theorem dX4_touching_35 : decode cX4_touching 35 = .ok (.aload_n 0, 1) := dk_42 (dk_at dksX4_touching_1 12 rfl rfl)
theorem dX4_touching_36 : decode cX4_touching 36 = .ok (.iload_n 1, 1) := dk_27 (dk_at dksX4_touching_1 13 rfl rfl)
theorem dX4_touching_37 : decode cX4_touching 37 = .ok (.iconst 3, 1) := dk_6 (dk_at dksX4_touching_1 14 rfl rfl)
theorem dX4_touching_38 : decode cX4_touching 38 = .ok (.invokevirtual 65, 3) := dk_182 0 65 (dk_at dksX4_touching_1 15 rfl rfl)
theorem dX4_touching_41 : decode cX4_touching 41 = .ok (.if_icmp .ne 7, 3) := dk_160 0 7 (dk_at dksX4_touching_1 18 rfl rfl)
theorem dX4_touching_44 : decode cX4_touching 44 = .ok (.iconst 1, 1) := dk_4 (dk_at dksX4_touching_1 21 rfl rfl)
theorem dX4_touching_45 : decode cX4_touching 45 = .ok (.goto 4, 3) := dk_167 0 4 (dk_at dksX4_touching_2 0 rfl rfl)
theorem dX4_touching_48 : decode cX4_touching 48 = .ok (.iconst 0, 1) := dk_3 (dk_at dksX4_touching_2 3 rfl rfl)
theorem dX4_touching_49 : decode cX4_touching 49 = .ok (.istore 4, 2) := dk_54 4 (dk_at dksX4_touching_2 4 rfl rfl)
theorem dX4_touching_51 : decode cX4_touching 51 = .ok (.iload_n 2, 1) := dk_28 (dk_at dksX4_touching_2 6 rfl rfl)
theorem dX4_touching_52 : decode cX4_touching 52 = .ok (.iload 4, 2) := dk_21 4 (dk_at dksX4_touching_2 7 rfl rfl)
theorem dX4_touching_54 : decode cX4_touching 54 = .ok (.ifCond .eq 17, 3) := dk_153 0 17 (dk_at dksX4_touching_2 9 rfl rfl)
theorem dX4_touching_57 : decode cX4_touching 57 = .ok (.aload_n 0, 1) := dk_42 (dk_at dksX4_touching_2 12 rfl rfl)
theorem dX4_touching_58 : decode cX4_touching 58 = .ok (.iload_n 3, 1) := dk_29 (dk_at dksX4_touching_2 13 rfl rfl)
theorem dX4_touching_59 : decode cX4_touching 59 = .ok (.iconst 5, 1) := dk_8 (dk_at dksX4_touching_2 14 rfl rfl)
theorem dX4_touching_60 : decode cX4_touching 60 = .ok (.invokevirtual 65, 3) := dk_182 0 65 (dk_at dksX4_touching_2 15 rfl rfl)
theorem dX4_touching_63 : decode cX4_touching 63 = .ok (.iconst 1, 1) := dk_4 (dk_at dksX4_touching_2 18 rfl rfl)
theorem dX4_touching_64 : decode cX4_touching 64 = .ok (.if_icmp .ne 7, 3) := dk_160 0 7 (dk_at dksX4_touching_2 19 rfl rfl)
theorem dX4_touching_67 : decode cX4_touching 67 = .ok (.iconst 1, 1) := dk_4 (dk_at dksX4_touching_2 22 rfl rfl)
theorem dX4_touching_68 : decode cX4_touching 68 = .ok (.goto 4, 3) := dk_167 0 4 (dk_at dksX4_touching_3 0 rfl rfl)
theorem dX4_touching_71 : decode cX4_touching 71 = .ok (.iconst 0, 1) := dk_3 (dk_at dksX4_touching_3 3 rfl rfl)
theorem dX4_touching_72 : decode cX4_touching 72 = .ok (.iadd, 1) := dk_96 (dk_at dksX4_touching_3 4 rfl rfl)
theorem dX4_touching_73 : decode cX4_touching 73 = .ok (.istore_n 2, 1) := dk_61 (dk_at dksX4_touching_3 5 rfl rfl)
theorem dX4_touching_74 : decode cX4_touching 74 = .ok (.iinc 3 1, 3) := dk_132 3 1 (dk_at dksX4_touching_3 6 rfl rfl)
theorem dX4_touching_77 : decode cX4_touching 77 = .ok (.goto (-73), 3) := dk_167 255 183 (dk_at dksX4_touching_3 9 rfl rfl)
theorem dX4_touching_80 : decode cX4_touching 80 = .ok (.iload_n 2, 1) := dk_28 (dk_at dksX4_touching_3 12 rfl rfl)
theorem dX4_touching_81 : decode cX4_touching 81 = .ok (.ireturn, 1) := dk_172 (dk_at dksX4_touching_3 13 rfl rfl)
abbrev cX4_gives : ByteArray := prog_19_method_55_code
def yX4_gives : MethodName := ⟨RX4, "gives", "(IIII)I"⟩
def dkwX4_gives_3 : List UInt8 := [16, 30, 184, 0, 202, 172]
abbrev dktX4_gives_3 : List UInt8 := dkwX4_gives_3 ++ []
def dkwX4_gives_2 : List UInt8 := [167, 0, 4, 28, 54, 6, 27, 154, 0, 13, 21, 6, 4, 7, 184, 0, 202, 167, 0, 12, 21, 6, 16, 226]
abbrev dktX4_gives_2 : List UInt8 := dkwX4_gives_2 ++ dktX4_gives_3
def dkwX4_gives_1 : List UInt8 := [42, 180, 0, 47, 5, 21, 4, 79, 42, 180, 0, 9, 21, 5, 46, 158, 0, 12, 42, 21, 5, 182, 0, 199]
abbrev dktX4_gives_1 : List UInt8 := dkwX4_gives_1 ++ dktX4_gives_2
def dkwX4_gives_0 : List UInt8 := [17, 0, 140, 16, 121, 27, 104, 96, 54, 5, 42, 180, 0, 47, 3, 28, 79, 42, 180, 0, 47, 4, 29, 79]
abbrev dktX4_gives_0 : List UInt8 := dkwX4_gives_0 ++ dktX4_gives_1
theorem dksX4_gives_0 : cX4_gives.data.toList.drop 0 = dktX4_gives_0 := by decide +kernel
theorem dksX4_gives_1 : cX4_gives.data.toList.drop 24 = dktX4_gives_1 := dk_seg dksX4_gives_0 24 rfl rfl
theorem dksX4_gives_2 : cX4_gives.data.toList.drop 48 = dktX4_gives_2 := dk_seg dksX4_gives_1 24 rfl rfl
theorem dksX4_gives_3 : cX4_gives.data.toList.drop 72 = dktX4_gives_3 := dk_seg dksX4_gives_2 24 rfl rfl
theorem dX4_gives_0 : decode cX4_gives 0 = .ok (.sipush 140, 3) := dk_17 0 140 (dk_at dksX4_gives_0 0 rfl rfl)
theorem dX4_gives_3 : decode cX4_gives 3 = .ok (.bipush 121, 2) := dk_16 121 (dk_at dksX4_gives_0 3 rfl rfl)
theorem dX4_gives_5 : decode cX4_gives 5 = .ok (.iload_n 1, 1) := dk_27 (dk_at dksX4_gives_0 5 rfl rfl)
theorem dX4_gives_6 : decode cX4_gives 6 = .ok (.imul, 1) := dk_104 (dk_at dksX4_gives_0 6 rfl rfl)
theorem dX4_gives_7 : decode cX4_gives 7 = .ok (.iadd, 1) := dk_96 (dk_at dksX4_gives_0 7 rfl rfl)
theorem dX4_gives_8 : decode cX4_gives 8 = .ok (.istore 5, 2) := dk_54 5 (dk_at dksX4_gives_0 8 rfl rfl)
theorem dX4_gives_10 : decode cX4_gives 10 = .ok (.aload_n 0, 1) := dk_42 (dk_at dksX4_gives_0 10 rfl rfl)
theorem dX4_gives_11 : decode cX4_gives 11 = .ok (.getfield 47, 3) := dk_180 0 47 (dk_at dksX4_gives_0 11 rfl rfl)
theorem dX4_gives_14 : decode cX4_gives 14 = .ok (.iconst 0, 1) := dk_3 (dk_at dksX4_gives_0 14 rfl rfl)
theorem dX4_gives_15 : decode cX4_gives 15 = .ok (.iload_n 2, 1) := dk_28 (dk_at dksX4_gives_0 15 rfl rfl)
theorem dX4_gives_16 : decode cX4_gives 16 = .ok (.iastore, 1) := dk_79 (dk_at dksX4_gives_0 16 rfl rfl)
theorem dX4_gives_17 : decode cX4_gives 17 = .ok (.aload_n 0, 1) := dk_42 (dk_at dksX4_gives_0 17 rfl rfl)
theorem dX4_gives_18 : decode cX4_gives 18 = .ok (.getfield 47, 3) := dk_180 0 47 (dk_at dksX4_gives_0 18 rfl rfl)
theorem dX4_gives_21 : decode cX4_gives 21 = .ok (.iconst 1, 1) := dk_4 (dk_at dksX4_gives_0 21 rfl rfl)
theorem dX4_gives_22 : decode cX4_gives 22 = .ok (.iload_n 3, 1) := dk_29 (dk_at dksX4_gives_0 22 rfl rfl)
theorem dX4_gives_23 : decode cX4_gives 23 = .ok (.iastore, 1) := dk_79 (dk_at dksX4_gives_0 23 rfl rfl)
theorem dX4_gives_24 : decode cX4_gives 24 = .ok (.aload_n 0, 1) := dk_42 (dk_at dksX4_gives_1 0 rfl rfl)
theorem dX4_gives_25 : decode cX4_gives 25 = .ok (.getfield 47, 3) := dk_180 0 47 (dk_at dksX4_gives_1 1 rfl rfl)
theorem dX4_gives_28 : decode cX4_gives 28 = .ok (.iconst 2, 1) := dk_5 (dk_at dksX4_gives_1 4 rfl rfl)
theorem dX4_gives_29 : decode cX4_gives 29 = .ok (.iload 4, 2) := dk_21 4 (dk_at dksX4_gives_1 5 rfl rfl)
theorem dX4_gives_31 : decode cX4_gives 31 = .ok (.iastore, 1) := dk_79 (dk_at dksX4_gives_1 7 rfl rfl)
theorem dX4_gives_32 : decode cX4_gives 32 = .ok (.aload_n 0, 1) := dk_42 (dk_at dksX4_gives_1 8 rfl rfl)
theorem dX4_gives_33 : decode cX4_gives 33 = .ok (.getfield 9, 3) := dk_180 0 9 (dk_at dksX4_gives_1 9 rfl rfl)
theorem dX4_gives_36 : decode cX4_gives 36 = .ok (.iload 5, 2) := dk_21 5 (dk_at dksX4_gives_1 12 rfl rfl)
theorem dX4_gives_38 : decode cX4_gives 38 = .ok (.iaload, 1) := dk_46 (dk_at dksX4_gives_1 14 rfl rfl)
theorem dX4_gives_39 : decode cX4_gives 39 = .ok (.ifCond .le 12, 3) := dk_158 0 12 (dk_at dksX4_gives_1 15 rfl rfl)
theorem dX4_gives_42 : decode cX4_gives 42 = .ok (.aload_n 0, 1) := dk_42 (dk_at dksX4_gives_1 18 rfl rfl)
theorem dX4_gives_43 : decode cX4_gives 43 = .ok (.iload 5, 2) := dk_21 5 (dk_at dksX4_gives_1 19 rfl rfl)
theorem dX4_gives_45 : decode cX4_gives 45 = .ok (.invokevirtual 199, 3) := dk_182 0 199 (dk_at dksX4_gives_1 21 rfl rfl)
theorem dX4_gives_48 : decode cX4_gives 48 = .ok (.goto 4, 3) := dk_167 0 4 (dk_at dksX4_gives_2 0 rfl rfl)
theorem dX4_gives_51 : decode cX4_gives 51 = .ok (.iload_n 2, 1) := dk_28 (dk_at dksX4_gives_2 3 rfl rfl)
theorem dX4_gives_52 : decode cX4_gives 52 = .ok (.istore 6, 2) := dk_54 6 (dk_at dksX4_gives_2 4 rfl rfl)
theorem dX4_gives_54 : decode cX4_gives 54 = .ok (.iload_n 1, 1) := dk_27 (dk_at dksX4_gives_2 6 rfl rfl)
theorem dX4_gives_55 : decode cX4_gives 55 = .ok (.ifCond .ne 13, 3) := dk_154 0 13 (dk_at dksX4_gives_2 7 rfl rfl)
theorem dX4_gives_58 : decode cX4_gives 58 = .ok (.iload 6, 2) := dk_21 6 (dk_at dksX4_gives_2 10 rfl rfl)
theorem dX4_gives_60 : decode cX4_gives 60 = .ok (.iconst 1, 1) := dk_4 (dk_at dksX4_gives_2 12 rfl rfl)
theorem dX4_gives_61 : decode cX4_gives 61 = .ok (.iconst 4, 1) := dk_7 (dk_at dksX4_gives_2 13 rfl rfl)
theorem dX4_gives_62 : decode cX4_gives 62 = .ok (.invokestatic 202, 3) := dk_184 0 202 (dk_at dksX4_gives_2 14 rfl rfl)
theorem dX4_gives_65 : decode cX4_gives 65 = .ok (.goto 12, 3) := dk_167 0 12 (dk_at dksX4_gives_2 17 rfl rfl)
theorem dX4_gives_68 : decode cX4_gives 68 = .ok (.iload 6, 2) := dk_21 6 (dk_at dksX4_gives_2 20 rfl rfl)
theorem dX4_gives_70 : decode cX4_gives 70 = .ok (.bipush (-30), 2) := dk_16 226 (dk_at dksX4_gives_2 22 rfl rfl)
theorem dX4_gives_72 : decode cX4_gives 72 = .ok (.bipush 30, 2) := dk_16 30 (dk_at dksX4_gives_3 0 rfl rfl)
theorem dX4_gives_74 : decode cX4_gives 74 = .ok (.invokestatic 202, 3) := dk_184 0 202 (dk_at dksX4_gives_3 2 rfl rfl)
theorem dX4_gives_77 : decode cX4_gives 77 = .ok (.ireturn, 1) := dk_172 (dk_at dksX4_gives_3 5 rfl rfl)
abbrev cX4_works : ByteArray := prog_19_method_54_code
def yX4_works : MethodName := ⟨RX4, "works", "(I)I"⟩
def dkwX4_works_6 : List UInt8 := [180, 0, 50, 28, 46, 184, 0, 195, 79, 132, 3, 1, 167, 255, 108, 42, 180, 0, 50, 3, 46, 172]
abbrev dktX4_works_6 : List UInt8 := dkwX4_works_6 ++ []
def dkwX4_works_5 : List UInt8 := [167, 0, 33, 132, 2, 255, 42, 180, 0, 50, 28, 4, 100, 21, 4, 42, 180, 0, 50, 28, 4, 100, 46, 42]
abbrev dktX4_works_5 : List UInt8 := dkwX4_works_5 ++ dktX4_works_6
def dkwX4_works_4 : List UInt8 := [42, 180, 0, 50, 28, 4, 100, 42, 180, 0, 50, 28, 4, 100, 46, 154, 0, 7, 4, 167, 0, 4, 3, 79]
abbrev dktX4_works_4 : List UInt8 := dkwX4_works_4 ++ dktX4_works_5
def dkwX4_works_3 : List UInt8 := [180, 0, 9, 27, 16, 61, 96, 29, 96, 46, 46, 79, 132, 2, 1, 167, 0, 66, 21, 4, 6, 160, 0, 30]
abbrev dktX4_works_3 : List UInt8 := dkwX4_works_3 ++ dktX4_works_4
def dkwX4_works_2 : List UInt8 := [160, 0, 17, 42, 180, 0, 9, 27, 16, 61, 96, 29, 96, 46, 167, 0, 19, 42, 180, 0, 47, 42]
abbrev dktX4_works_2 : List UInt8 := dkwX4_works_2 ++ dktX4_works_3
def dkwX4_works_1 : List UInt8 := [54, 4, 21, 4, 4, 159, 0, 9, 21, 4, 5, 160, 0, 51, 42, 180, 0, 50, 28, 21, 4, 4]
abbrev dktX4_works_1 : List UInt8 := dkwX4_works_1 ++ dktX4_works_2
def dkwX4_works_0 : List UInt8 := [3, 61, 3, 62, 29, 42, 180, 0, 9, 27, 46, 162, 0, 144, 42, 180, 0, 9, 27, 4, 96, 29, 96, 46]
abbrev dktX4_works_0 : List UInt8 := dkwX4_works_0 ++ dktX4_works_1
theorem dksX4_works_0 : cX4_works.data.toList.drop 0 = dktX4_works_0 := by decide +kernel
theorem dksX4_works_1 : cX4_works.data.toList.drop 24 = dktX4_works_1 := dk_seg dksX4_works_0 24 rfl rfl
theorem dksX4_works_2 : cX4_works.data.toList.drop 46 = dktX4_works_2 := dk_seg dksX4_works_1 22 rfl rfl
theorem dksX4_works_3 : cX4_works.data.toList.drop 68 = dktX4_works_3 := dk_seg dksX4_works_2 22 rfl rfl
theorem dksX4_works_4 : cX4_works.data.toList.drop 92 = dktX4_works_4 := dk_seg dksX4_works_3 24 rfl rfl
theorem dksX4_works_5 : cX4_works.data.toList.drop 116 = dktX4_works_5 := dk_seg dksX4_works_4 24 rfl rfl
theorem dksX4_works_6 : cX4_works.data.toList.drop 140 = dktX4_works_6 := dk_seg dksX4_works_5 24 rfl rfl
theorem dX4_works_0 : decode cX4_works 0 = .ok (.iconst 0, 1) := dk_3 (dk_at dksX4_works_0 0 rfl rfl)
theorem dX4_works_1 : decode cX4_works 1 = .ok (.istore_n 2, 1) := dk_61 (dk_at dksX4_works_0 1 rfl rfl)
theorem dX4_works_2 : decode cX4_works 2 = .ok (.iconst 0, 1) := dk_3 (dk_at dksX4_works_0 2 rfl rfl)
theorem dX4_works_3 : decode cX4_works 3 = .ok (.istore_n 3, 1) := dk_62 (dk_at dksX4_works_0 3 rfl rfl)
theorem dX4_works_4 : decode cX4_works 4 = .ok (.iload_n 3, 1) := dk_29 (dk_at dksX4_works_0 4 rfl rfl)
theorem dX4_works_5 : decode cX4_works 5 = .ok (.aload_n 0, 1) := dk_42 (dk_at dksX4_works_0 5 rfl rfl)
theorem dX4_works_6 : decode cX4_works 6 = .ok (.getfield 9, 3) := dk_180 0 9 (dk_at dksX4_works_0 6 rfl rfl)
theorem dX4_works_9 : decode cX4_works 9 = .ok (.iload_n 1, 1) := dk_27 (dk_at dksX4_works_0 9 rfl rfl)
theorem dX4_works_10 : decode cX4_works 10 = .ok (.iaload, 1) := dk_46 (dk_at dksX4_works_0 10 rfl rfl)
theorem dX4_works_11 : decode cX4_works 11 = .ok (.if_icmp .ge 144, 3) := dk_162 0 144 (dk_at dksX4_works_0 11 rfl rfl)
theorem dX4_works_14 : decode cX4_works 14 = .ok (.aload_n 0, 1) := dk_42 (dk_at dksX4_works_0 14 rfl rfl)
theorem dX4_works_15 : decode cX4_works 15 = .ok (.getfield 9, 3) := dk_180 0 9 (dk_at dksX4_works_0 15 rfl rfl)
theorem dX4_works_18 : decode cX4_works 18 = .ok (.iload_n 1, 1) := dk_27 (dk_at dksX4_works_0 18 rfl rfl)
theorem dX4_works_19 : decode cX4_works 19 = .ok (.iconst 1, 1) := dk_4 (dk_at dksX4_works_0 19 rfl rfl)
theorem dX4_works_20 : decode cX4_works 20 = .ok (.iadd, 1) := dk_96 (dk_at dksX4_works_0 20 rfl rfl)
theorem dX4_works_21 : decode cX4_works 21 = .ok (.iload_n 3, 1) := dk_29 (dk_at dksX4_works_0 21 rfl rfl)
theorem dX4_works_22 : decode cX4_works 22 = .ok (.iadd, 1) := dk_96 (dk_at dksX4_works_0 22 rfl rfl)
theorem dX4_works_23 : decode cX4_works 23 = .ok (.iaload, 1) := dk_46 (dk_at dksX4_works_0 23 rfl rfl)
theorem dX4_works_24 : decode cX4_works 24 = .ok (.istore 4, 2) := dk_54 4 (dk_at dksX4_works_1 0 rfl rfl)
theorem dX4_works_26 : decode cX4_works 26 = .ok (.iload 4, 2) := dk_21 4 (dk_at dksX4_works_1 2 rfl rfl)
theorem dX4_works_28 : decode cX4_works 28 = .ok (.iconst 1, 1) := dk_4 (dk_at dksX4_works_1 4 rfl rfl)
theorem dX4_works_29 : decode cX4_works 29 = .ok (.if_icmp .eq 9, 3) := dk_159 0 9 (dk_at dksX4_works_1 5 rfl rfl)
theorem dX4_works_32 : decode cX4_works 32 = .ok (.iload 4, 2) := dk_21 4 (dk_at dksX4_works_1 8 rfl rfl)
theorem dX4_works_34 : decode cX4_works 34 = .ok (.iconst 2, 1) := dk_5 (dk_at dksX4_works_1 10 rfl rfl)
theorem dX4_works_35 : decode cX4_works 35 = .ok (.if_icmp .ne 51, 3) := dk_160 0 51 (dk_at dksX4_works_1 11 rfl rfl)
theorem dX4_works_38 : decode cX4_works 38 = .ok (.aload_n 0, 1) := dk_42 (dk_at dksX4_works_1 14 rfl rfl)
theorem dX4_works_39 : decode cX4_works 39 = .ok (.getfield 50, 3) := dk_180 0 50 (dk_at dksX4_works_1 15 rfl rfl)
theorem dX4_works_42 : decode cX4_works 42 = .ok (.iload_n 2, 1) := dk_28 (dk_at dksX4_works_1 18 rfl rfl)
theorem dX4_works_43 : decode cX4_works 43 = .ok (.iload 4, 2) := dk_21 4 (dk_at dksX4_works_1 19 rfl rfl)
theorem dX4_works_45 : decode cX4_works 45 = .ok (.iconst 1, 1) := dk_4 (dk_at dksX4_works_1 21 rfl rfl)
theorem dX4_works_46 : decode cX4_works 46 = .ok (.if_icmp .ne 17, 3) := dk_160 0 17 (dk_at dksX4_works_2 0 rfl rfl)
theorem dX4_works_49 : decode cX4_works 49 = .ok (.aload_n 0, 1) := dk_42 (dk_at dksX4_works_2 3 rfl rfl)
theorem dX4_works_50 : decode cX4_works 50 = .ok (.getfield 9, 3) := dk_180 0 9 (dk_at dksX4_works_2 4 rfl rfl)
theorem dX4_works_53 : decode cX4_works 53 = .ok (.iload_n 1, 1) := dk_27 (dk_at dksX4_works_2 7 rfl rfl)
theorem dX4_works_54 : decode cX4_works 54 = .ok (.bipush 61, 2) := dk_16 61 (dk_at dksX4_works_2 8 rfl rfl)
theorem dX4_works_56 : decode cX4_works 56 = .ok (.iadd, 1) := dk_96 (dk_at dksX4_works_2 10 rfl rfl)
theorem dX4_works_57 : decode cX4_works 57 = .ok (.iload_n 3, 1) := dk_29 (dk_at dksX4_works_2 11 rfl rfl)
theorem dX4_works_58 : decode cX4_works 58 = .ok (.iadd, 1) := dk_96 (dk_at dksX4_works_2 12 rfl rfl)
theorem dX4_works_59 : decode cX4_works 59 = .ok (.iaload, 1) := dk_46 (dk_at dksX4_works_2 13 rfl rfl)
theorem dX4_works_60 : decode cX4_works 60 = .ok (.goto 19, 3) := dk_167 0 19 (dk_at dksX4_works_2 14 rfl rfl)
theorem dX4_works_63 : decode cX4_works 63 = .ok (.aload_n 0, 1) := dk_42 (dk_at dksX4_works_2 17 rfl rfl)
theorem dX4_works_64 : decode cX4_works 64 = .ok (.getfield 47, 3) := dk_180 0 47 (dk_at dksX4_works_2 18 rfl rfl)
theorem dX4_works_67 : decode cX4_works 67 = .ok (.aload_n 0, 1) := dk_42 (dk_at dksX4_works_2 21 rfl rfl)
theorem dX4_works_68 : decode cX4_works 68 = .ok (.getfield 9, 3) := dk_180 0 9 (dk_at dksX4_works_3 0 rfl rfl)
theorem dX4_works_71 : decode cX4_works 71 = .ok (.iload_n 1, 1) := dk_27 (dk_at dksX4_works_3 3 rfl rfl)
theorem dX4_works_72 : decode cX4_works 72 = .ok (.bipush 61, 2) := dk_16 61 (dk_at dksX4_works_3 4 rfl rfl)
theorem dX4_works_74 : decode cX4_works 74 = .ok (.iadd, 1) := dk_96 (dk_at dksX4_works_3 6 rfl rfl)
theorem dX4_works_75 : decode cX4_works 75 = .ok (.iload_n 3, 1) := dk_29 (dk_at dksX4_works_3 7 rfl rfl)
theorem dX4_works_76 : decode cX4_works 76 = .ok (.iadd, 1) := dk_96 (dk_at dksX4_works_3 8 rfl rfl)
theorem dX4_works_77 : decode cX4_works 77 = .ok (.iaload, 1) := dk_46 (dk_at dksX4_works_3 9 rfl rfl)
theorem dX4_works_78 : decode cX4_works 78 = .ok (.iaload, 1) := dk_46 (dk_at dksX4_works_3 10 rfl rfl)
theorem dX4_works_79 : decode cX4_works 79 = .ok (.iastore, 1) := dk_79 (dk_at dksX4_works_3 11 rfl rfl)
theorem dX4_works_80 : decode cX4_works 80 = .ok (.iinc 2 1, 3) := dk_132 2 1 (dk_at dksX4_works_3 12 rfl rfl)
theorem dX4_works_83 : decode cX4_works 83 = .ok (.goto 66, 3) := dk_167 0 66 (dk_at dksX4_works_3 15 rfl rfl)
theorem dX4_works_86 : decode cX4_works 86 = .ok (.iload 4, 2) := dk_21 4 (dk_at dksX4_works_3 18 rfl rfl)
theorem dX4_works_88 : decode cX4_works 88 = .ok (.iconst 3, 1) := dk_6 (dk_at dksX4_works_3 20 rfl rfl)
theorem dX4_works_89 : decode cX4_works 89 = .ok (.if_icmp .ne 30, 3) := dk_160 0 30 (dk_at dksX4_works_3 21 rfl rfl)
theorem dX4_works_92 : decode cX4_works 92 = .ok (.aload_n 0, 1) := dk_42 (dk_at dksX4_works_4 0 rfl rfl)
theorem dX4_works_93 : decode cX4_works 93 = .ok (.getfield 50, 3) := dk_180 0 50 (dk_at dksX4_works_4 1 rfl rfl)
theorem dX4_works_96 : decode cX4_works 96 = .ok (.iload_n 2, 1) := dk_28 (dk_at dksX4_works_4 4 rfl rfl)
theorem dX4_works_97 : decode cX4_works 97 = .ok (.iconst 1, 1) := dk_4 (dk_at dksX4_works_4 5 rfl rfl)
theorem dX4_works_98 : decode cX4_works 98 = .ok (.isub, 1) := dk_100 (dk_at dksX4_works_4 6 rfl rfl)
theorem dX4_works_99 : decode cX4_works 99 = .ok (.aload_n 0, 1) := dk_42 (dk_at dksX4_works_4 7 rfl rfl)
theorem dX4_works_100 : decode cX4_works 100 = .ok (.getfield 50, 3) := dk_180 0 50 (dk_at dksX4_works_4 8 rfl rfl)
theorem dX4_works_103 : decode cX4_works 103 = .ok (.iload_n 2, 1) := dk_28 (dk_at dksX4_works_4 11 rfl rfl)
theorem dX4_works_104 : decode cX4_works 104 = .ok (.iconst 1, 1) := dk_4 (dk_at dksX4_works_4 12 rfl rfl)
theorem dX4_works_105 : decode cX4_works 105 = .ok (.isub, 1) := dk_100 (dk_at dksX4_works_4 13 rfl rfl)
theorem dX4_works_106 : decode cX4_works 106 = .ok (.iaload, 1) := dk_46 (dk_at dksX4_works_4 14 rfl rfl)
theorem dX4_works_107 : decode cX4_works 107 = .ok (.ifCond .ne 7, 3) := dk_154 0 7 (dk_at dksX4_works_4 15 rfl rfl)
theorem dX4_works_110 : decode cX4_works 110 = .ok (.iconst 1, 1) := dk_4 (dk_at dksX4_works_4 18 rfl rfl)
theorem dX4_works_111 : decode cX4_works 111 = .ok (.goto 4, 3) := dk_167 0 4 (dk_at dksX4_works_4 19 rfl rfl)
theorem dX4_works_114 : decode cX4_works 114 = .ok (.iconst 0, 1) := dk_3 (dk_at dksX4_works_4 22 rfl rfl)
theorem dX4_works_115 : decode cX4_works 115 = .ok (.iastore, 1) := dk_79 (dk_at dksX4_works_4 23 rfl rfl)
theorem dX4_works_116 : decode cX4_works 116 = .ok (.goto 33, 3) := dk_167 0 33 (dk_at dksX4_works_5 0 rfl rfl)
theorem dX4_works_119 : decode cX4_works 119 = .ok (.iinc 2 (-1), 3) := dk_132 2 255 (dk_at dksX4_works_5 3 rfl rfl)
theorem dX4_works_122 : decode cX4_works 122 = .ok (.aload_n 0, 1) := dk_42 (dk_at dksX4_works_5 6 rfl rfl)
theorem dX4_works_123 : decode cX4_works 123 = .ok (.getfield 50, 3) := dk_180 0 50 (dk_at dksX4_works_5 7 rfl rfl)
theorem dX4_works_126 : decode cX4_works 126 = .ok (.iload_n 2, 1) := dk_28 (dk_at dksX4_works_5 10 rfl rfl)
theorem dX4_works_127 : decode cX4_works 127 = .ok (.iconst 1, 1) := dk_4 (dk_at dksX4_works_5 11 rfl rfl)
theorem dX4_works_128 : decode cX4_works 128 = .ok (.isub, 1) := dk_100 (dk_at dksX4_works_5 12 rfl rfl)
theorem dX4_works_129 : decode cX4_works 129 = .ok (.iload 4, 2) := dk_21 4 (dk_at dksX4_works_5 13 rfl rfl)
theorem dX4_works_131 : decode cX4_works 131 = .ok (.aload_n 0, 1) := dk_42 (dk_at dksX4_works_5 15 rfl rfl)
theorem dX4_works_132 : decode cX4_works 132 = .ok (.getfield 50, 3) := dk_180 0 50 (dk_at dksX4_works_5 16 rfl rfl)
theorem dX4_works_135 : decode cX4_works 135 = .ok (.iload_n 2, 1) := dk_28 (dk_at dksX4_works_5 19 rfl rfl)
theorem dX4_works_136 : decode cX4_works 136 = .ok (.iconst 1, 1) := dk_4 (dk_at dksX4_works_5 20 rfl rfl)
theorem dX4_works_137 : decode cX4_works 137 = .ok (.isub, 1) := dk_100 (dk_at dksX4_works_5 21 rfl rfl)
theorem dX4_works_138 : decode cX4_works 138 = .ok (.iaload, 1) := dk_46 (dk_at dksX4_works_5 22 rfl rfl)
theorem dX4_works_139 : decode cX4_works 139 = .ok (.aload_n 0, 1) := dk_42 (dk_at dksX4_works_5 23 rfl rfl)
theorem dX4_works_140 : decode cX4_works 140 = .ok (.getfield 50, 3) := dk_180 0 50 (dk_at dksX4_works_6 0 rfl rfl)
theorem dX4_works_143 : decode cX4_works 143 = .ok (.iload_n 2, 1) := dk_28 (dk_at dksX4_works_6 3 rfl rfl)
theorem dX4_works_144 : decode cX4_works 144 = .ok (.iaload, 1) := dk_46 (dk_at dksX4_works_6 4 rfl rfl)
theorem dX4_works_145 : decode cX4_works 145 = .ok (.invokestatic 195, 3) := dk_184 0 195 (dk_at dksX4_works_6 5 rfl rfl)
theorem dX4_works_148 : decode cX4_works 148 = .ok (.iastore, 1) := dk_79 (dk_at dksX4_works_6 8 rfl rfl)
theorem dX4_works_149 : decode cX4_works 149 = .ok (.iinc 3 1, 3) := dk_132 3 1 (dk_at dksX4_works_6 9 rfl rfl)
theorem dX4_works_152 : decode cX4_works 152 = .ok (.goto (-148), 3) := dk_167 255 108 (dk_at dksX4_works_6 12 rfl rfl)
theorem dX4_works_155 : decode cX4_works 155 = .ok (.aload_n 0, 1) := dk_42 (dk_at dksX4_works_6 15 rfl rfl)
theorem dX4_works_156 : decode cX4_works 156 = .ok (.getfield 50, 3) := dk_180 0 50 (dk_at dksX4_works_6 16 rfl rfl)
theorem dX4_works_159 : decode cX4_works 159 = .ok (.iconst 0, 1) := dk_3 (dk_at dksX4_works_6 19 rfl rfl)
theorem dX4_works_160 : decode cX4_works 160 = .ok (.iaload, 1) := dk_46 (dk_at dksX4_works_6 20 rfl rfl)
theorem dX4_works_161 : decode cX4_works 161 = .ok (.ireturn, 1) := dk_172 (dk_at dksX4_works_6 21 rfl rfl)
abbrev cX4_twoOf : ByteArray := prog_19_method_53_code
def yX4_twoOf : MethodName := ⟨RX4, "twoOf", "(III)I"⟩
def dkwX4_twoOf_6 : List UInt8 := [167, 0, 4, 3, 172]
abbrev dktX4_twoOf_6 : List UInt8 := dkwX4_twoOf_6 ++ []
def dkwX4_twoOf_5 : List UInt8 := [153, 0, 11, 28, 153, 0, 7, 4, 167, 0, 4, 3, 172, 27, 154, 0, 7, 28, 153, 0, 7, 4]
abbrev dktX4_twoOf_5 : List UInt8 := dkwX4_twoOf_5 ++ dktX4_twoOf_6
def dkwX4_twoOf_4 : List UInt8 := [28, 160, 0, 7, 4, 167, 0, 4, 3, 172, 27, 28, 164, 0, 7, 4, 167, 0, 4, 3, 172, 27]
abbrev dktX4_twoOf_4 : List UInt8 := dkwX4_twoOf_4 ++ dktX4_twoOf_5
def dkwX4_twoOf_3 : List UInt8 := [28, 154, 0, 7, 3, 167, 0, 6, 27, 28, 112, 172, 27, 28, 162, 0, 7, 4, 167, 0, 4, 3, 172, 27]
abbrev dktX4_twoOf_3 : List UInt8 := dkwX4_twoOf_3 ++ dktX4_twoOf_4
def dkwX4_twoOf_2 : List UInt8 := [27, 28, 96, 172, 27, 28, 100, 172, 27, 28, 104, 172, 28, 154, 0, 7, 3, 167, 0, 6, 27, 28, 108, 172]
abbrev dktX4_twoOf_2 : List UInt8 := dkwX4_twoOf_2 ++ dktX4_twoOf_3
def dkwX4_twoOf_1 : List UInt8 := [170, 0, 0, 0, 0, 0, 202, 0, 0, 0, 37, 0, 0, 0, 62, 0, 0, 0, 143, 0, 0, 0, 188, 0, 0, 0, 202, 0, 0, 0, 202, 0, 0, 0, 202, 0, 0, 0, 127, 0, 0, 0, 119, 0, 0, 0, 202, 0, 0, 0, 123, 0, 0, 0, 202, 0, 0, 0, 131, 0, 0, 0, 202, 0, 0, 0, 202, 0, 0, 0, 202, 0, 0, 0, 202, 0, 0, 0, 202, 0, 0, 0, 202, 0, 0, 0, 202, 0, 0, 0, 202, 0, 0, 0, 202, 0, 0, 0, 202, 0, 0, 0, 202, 0, 0, 0, 202, 0, 0, 0, 155, 0, 0, 0, 166, 0, 0, 0, 177]
abbrev dktX4_twoOf_1 : List UInt8 := dkwX4_twoOf_1 ++ dktX4_twoOf_2
def dkwX4_twoOf_0 : List UInt8 := [26]
abbrev dktX4_twoOf_0 : List UInt8 := dkwX4_twoOf_0 ++ dktX4_twoOf_1
theorem dksX4_twoOf_0 : cX4_twoOf.data.toList.drop 0 = dktX4_twoOf_0 := by decide +kernel
theorem dksX4_twoOf_1 : cX4_twoOf.data.toList.drop 1 = dktX4_twoOf_1 := dk_seg dksX4_twoOf_0 1 rfl rfl
theorem dksX4_twoOf_2 : cX4_twoOf.data.toList.drop 120 = dktX4_twoOf_2 := dk_seg dksX4_twoOf_1 119 rfl rfl
theorem dksX4_twoOf_3 : cX4_twoOf.data.toList.drop 144 = dktX4_twoOf_3 := dk_seg dksX4_twoOf_2 24 rfl rfl
theorem dksX4_twoOf_4 : cX4_twoOf.data.toList.drop 168 = dktX4_twoOf_4 := dk_seg dksX4_twoOf_3 24 rfl rfl
theorem dksX4_twoOf_5 : cX4_twoOf.data.toList.drop 190 = dktX4_twoOf_5 := dk_seg dksX4_twoOf_4 22 rfl rfl
theorem dksX4_twoOf_6 : cX4_twoOf.data.toList.drop 212 = dktX4_twoOf_6 := dk_seg dksX4_twoOf_5 22 rfl rfl
theorem dX4_twoOf_0 : decode cX4_twoOf 0 = .ok (.iload_n 0, 1) := dk_26 (dk_at dksX4_twoOf_0 0 rfl rfl)
theorem dX4_twoOf_1 : decode cX4_twoOf 1 = .ok (.tableswitch 202 37 62 #[143, 188, 202, 202, 202, 127, 119, 202, 123, 202, 131, 202, 202, 202, 202, 202, 202, 202, 202, 202, 202, 202, 202, 155, 166, 177], 119) := by decide +kernel
theorem dX4_twoOf_120 : decode cX4_twoOf 120 = .ok (.iload_n 1, 1) := dk_27 (dk_at dksX4_twoOf_2 0 rfl rfl)
theorem dX4_twoOf_121 : decode cX4_twoOf 121 = .ok (.iload_n 2, 1) := dk_28 (dk_at dksX4_twoOf_2 1 rfl rfl)
theorem dX4_twoOf_122 : decode cX4_twoOf 122 = .ok (.iadd, 1) := dk_96 (dk_at dksX4_twoOf_2 2 rfl rfl)
theorem dX4_twoOf_123 : decode cX4_twoOf 123 = .ok (.ireturn, 1) := dk_172 (dk_at dksX4_twoOf_2 3 rfl rfl)
theorem dX4_twoOf_124 : decode cX4_twoOf 124 = .ok (.iload_n 1, 1) := dk_27 (dk_at dksX4_twoOf_2 4 rfl rfl)
theorem dX4_twoOf_125 : decode cX4_twoOf 125 = .ok (.iload_n 2, 1) := dk_28 (dk_at dksX4_twoOf_2 5 rfl rfl)
theorem dX4_twoOf_126 : decode cX4_twoOf 126 = .ok (.isub, 1) := dk_100 (dk_at dksX4_twoOf_2 6 rfl rfl)
theorem dX4_twoOf_127 : decode cX4_twoOf 127 = .ok (.ireturn, 1) := dk_172 (dk_at dksX4_twoOf_2 7 rfl rfl)
theorem dX4_twoOf_128 : decode cX4_twoOf 128 = .ok (.iload_n 1, 1) := dk_27 (dk_at dksX4_twoOf_2 8 rfl rfl)
theorem dX4_twoOf_129 : decode cX4_twoOf 129 = .ok (.iload_n 2, 1) := dk_28 (dk_at dksX4_twoOf_2 9 rfl rfl)
theorem dX4_twoOf_130 : decode cX4_twoOf 130 = .ok (.imul, 1) := dk_104 (dk_at dksX4_twoOf_2 10 rfl rfl)
theorem dX4_twoOf_131 : decode cX4_twoOf 131 = .ok (.ireturn, 1) := dk_172 (dk_at dksX4_twoOf_2 11 rfl rfl)
theorem dX4_twoOf_132 : decode cX4_twoOf 132 = .ok (.iload_n 2, 1) := dk_28 (dk_at dksX4_twoOf_2 12 rfl rfl)
theorem dX4_twoOf_133 : decode cX4_twoOf 133 = .ok (.ifCond .ne 7, 3) := dk_154 0 7 (dk_at dksX4_twoOf_2 13 rfl rfl)
theorem dX4_twoOf_136 : decode cX4_twoOf 136 = .ok (.iconst 0, 1) := dk_3 (dk_at dksX4_twoOf_2 16 rfl rfl)
theorem dX4_twoOf_137 : decode cX4_twoOf 137 = .ok (.goto 6, 3) := dk_167 0 6 (dk_at dksX4_twoOf_2 17 rfl rfl)
theorem dX4_twoOf_140 : decode cX4_twoOf 140 = .ok (.iload_n 1, 1) := dk_27 (dk_at dksX4_twoOf_2 20 rfl rfl)
theorem dX4_twoOf_141 : decode cX4_twoOf 141 = .ok (.iload_n 2, 1) := dk_28 (dk_at dksX4_twoOf_2 21 rfl rfl)
theorem dX4_twoOf_142 : decode cX4_twoOf 142 = .ok (.idiv, 1) := dk_108 (dk_at dksX4_twoOf_2 22 rfl rfl)
theorem dX4_twoOf_143 : decode cX4_twoOf 143 = .ok (.ireturn, 1) := dk_172 (dk_at dksX4_twoOf_2 23 rfl rfl)
theorem dX4_twoOf_144 : decode cX4_twoOf 144 = .ok (.iload_n 2, 1) := dk_28 (dk_at dksX4_twoOf_3 0 rfl rfl)
theorem dX4_twoOf_145 : decode cX4_twoOf 145 = .ok (.ifCond .ne 7, 3) := dk_154 0 7 (dk_at dksX4_twoOf_3 1 rfl rfl)
theorem dX4_twoOf_148 : decode cX4_twoOf 148 = .ok (.iconst 0, 1) := dk_3 (dk_at dksX4_twoOf_3 4 rfl rfl)
theorem dX4_twoOf_149 : decode cX4_twoOf 149 = .ok (.goto 6, 3) := dk_167 0 6 (dk_at dksX4_twoOf_3 5 rfl rfl)
theorem dX4_twoOf_152 : decode cX4_twoOf 152 = .ok (.iload_n 1, 1) := dk_27 (dk_at dksX4_twoOf_3 8 rfl rfl)
theorem dX4_twoOf_153 : decode cX4_twoOf 153 = .ok (.iload_n 2, 1) := dk_28 (dk_at dksX4_twoOf_3 9 rfl rfl)
theorem dX4_twoOf_154 : decode cX4_twoOf 154 = .ok (.irem, 1) := dk_112 (dk_at dksX4_twoOf_3 10 rfl rfl)
theorem dX4_twoOf_155 : decode cX4_twoOf 155 = .ok (.ireturn, 1) := dk_172 (dk_at dksX4_twoOf_3 11 rfl rfl)
theorem dX4_twoOf_156 : decode cX4_twoOf 156 = .ok (.iload_n 1, 1) := dk_27 (dk_at dksX4_twoOf_3 12 rfl rfl)
theorem dX4_twoOf_157 : decode cX4_twoOf 157 = .ok (.iload_n 2, 1) := dk_28 (dk_at dksX4_twoOf_3 13 rfl rfl)
theorem dX4_twoOf_158 : decode cX4_twoOf 158 = .ok (.if_icmp .ge 7, 3) := dk_162 0 7 (dk_at dksX4_twoOf_3 14 rfl rfl)
theorem dX4_twoOf_161 : decode cX4_twoOf 161 = .ok (.iconst 1, 1) := dk_4 (dk_at dksX4_twoOf_3 17 rfl rfl)
theorem dX4_twoOf_162 : decode cX4_twoOf 162 = .ok (.goto 4, 3) := dk_167 0 4 (dk_at dksX4_twoOf_3 18 rfl rfl)
theorem dX4_twoOf_165 : decode cX4_twoOf 165 = .ok (.iconst 0, 1) := dk_3 (dk_at dksX4_twoOf_3 21 rfl rfl)
theorem dX4_twoOf_166 : decode cX4_twoOf 166 = .ok (.ireturn, 1) := dk_172 (dk_at dksX4_twoOf_3 22 rfl rfl)
theorem dX4_twoOf_167 : decode cX4_twoOf 167 = .ok (.iload_n 1, 1) := dk_27 (dk_at dksX4_twoOf_3 23 rfl rfl)
theorem dX4_twoOf_168 : decode cX4_twoOf 168 = .ok (.iload_n 2, 1) := dk_28 (dk_at dksX4_twoOf_4 0 rfl rfl)
theorem dX4_twoOf_169 : decode cX4_twoOf 169 = .ok (.if_icmp .ne 7, 3) := dk_160 0 7 (dk_at dksX4_twoOf_4 1 rfl rfl)
theorem dX4_twoOf_172 : decode cX4_twoOf 172 = .ok (.iconst 1, 1) := dk_4 (dk_at dksX4_twoOf_4 4 rfl rfl)
theorem dX4_twoOf_173 : decode cX4_twoOf 173 = .ok (.goto 4, 3) := dk_167 0 4 (dk_at dksX4_twoOf_4 5 rfl rfl)
theorem dX4_twoOf_176 : decode cX4_twoOf 176 = .ok (.iconst 0, 1) := dk_3 (dk_at dksX4_twoOf_4 8 rfl rfl)
theorem dX4_twoOf_177 : decode cX4_twoOf 177 = .ok (.ireturn, 1) := dk_172 (dk_at dksX4_twoOf_4 9 rfl rfl)
theorem dX4_twoOf_178 : decode cX4_twoOf 178 = .ok (.iload_n 1, 1) := dk_27 (dk_at dksX4_twoOf_4 10 rfl rfl)
theorem dX4_twoOf_179 : decode cX4_twoOf 179 = .ok (.iload_n 2, 1) := dk_28 (dk_at dksX4_twoOf_4 11 rfl rfl)
theorem dX4_twoOf_180 : decode cX4_twoOf 180 = .ok (.if_icmp .le 7, 3) := dk_164 0 7 (dk_at dksX4_twoOf_4 12 rfl rfl)
theorem dX4_twoOf_183 : decode cX4_twoOf 183 = .ok (.iconst 1, 1) := dk_4 (dk_at dksX4_twoOf_4 15 rfl rfl)
theorem dX4_twoOf_184 : decode cX4_twoOf 184 = .ok (.goto 4, 3) := dk_167 0 4 (dk_at dksX4_twoOf_4 16 rfl rfl)
theorem dX4_twoOf_187 : decode cX4_twoOf 187 = .ok (.iconst 0, 1) := dk_3 (dk_at dksX4_twoOf_4 19 rfl rfl)
theorem dX4_twoOf_188 : decode cX4_twoOf 188 = .ok (.ireturn, 1) := dk_172 (dk_at dksX4_twoOf_4 20 rfl rfl)
theorem dX4_twoOf_189 : decode cX4_twoOf 189 = .ok (.iload_n 1, 1) := dk_27 (dk_at dksX4_twoOf_4 21 rfl rfl)
theorem dX4_twoOf_190 : decode cX4_twoOf 190 = .ok (.ifCond .eq 11, 3) := dk_153 0 11 (dk_at dksX4_twoOf_5 0 rfl rfl)
theorem dX4_twoOf_193 : decode cX4_twoOf 193 = .ok (.iload_n 2, 1) := dk_28 (dk_at dksX4_twoOf_5 3 rfl rfl)
theorem dX4_twoOf_194 : decode cX4_twoOf 194 = .ok (.ifCond .eq 7, 3) := dk_153 0 7 (dk_at dksX4_twoOf_5 4 rfl rfl)
theorem dX4_twoOf_197 : decode cX4_twoOf 197 = .ok (.iconst 1, 1) := dk_4 (dk_at dksX4_twoOf_5 7 rfl rfl)
theorem dX4_twoOf_198 : decode cX4_twoOf 198 = .ok (.goto 4, 3) := dk_167 0 4 (dk_at dksX4_twoOf_5 8 rfl rfl)
theorem dX4_twoOf_201 : decode cX4_twoOf 201 = .ok (.iconst 0, 1) := dk_3 (dk_at dksX4_twoOf_5 11 rfl rfl)
theorem dX4_twoOf_202 : decode cX4_twoOf 202 = .ok (.ireturn, 1) := dk_172 (dk_at dksX4_twoOf_5 12 rfl rfl)
theorem dX4_twoOf_203 : decode cX4_twoOf 203 = .ok (.iload_n 1, 1) := dk_27 (dk_at dksX4_twoOf_5 13 rfl rfl)
theorem dX4_twoOf_204 : decode cX4_twoOf 204 = .ok (.ifCond .ne 7, 3) := dk_154 0 7 (dk_at dksX4_twoOf_5 14 rfl rfl)
theorem dX4_twoOf_207 : decode cX4_twoOf 207 = .ok (.iload_n 2, 1) := dk_28 (dk_at dksX4_twoOf_5 17 rfl rfl)
theorem dX4_twoOf_208 : decode cX4_twoOf 208 = .ok (.ifCond .eq 7, 3) := dk_153 0 7 (dk_at dksX4_twoOf_5 18 rfl rfl)
theorem dX4_twoOf_211 : decode cX4_twoOf 211 = .ok (.iconst 1, 1) := dk_4 (dk_at dksX4_twoOf_5 21 rfl rfl)
theorem dX4_twoOf_212 : decode cX4_twoOf 212 = .ok (.goto 4, 3) := dk_167 0 4 (dk_at dksX4_twoOf_6 0 rfl rfl)
theorem dX4_twoOf_215 : decode cX4_twoOf 215 = .ok (.iconst 0, 1) := dk_3 (dk_at dksX4_twoOf_6 3 rfl rfl)
theorem dX4_twoOf_216 : decode cX4_twoOf 216 = .ok (.ireturn, 1) := dk_172 (dk_at dksX4_twoOf_6 4 rfl rfl)
abbrev cX4_held : ByteArray := prog_19_method_4_code
def yX4_held : MethodName := ⟨RX4, "held", "(III)I"⟩
def dkwX4_held_0 : List UInt8 := [26, 27, 162, 0, 7, 27, 167, 0, 13, 26, 28, 164, 0, 7, 28, 167, 0, 4, 26, 172]
abbrev dktX4_held_0 : List UInt8 := dkwX4_held_0 ++ []
theorem dksX4_held_0 : cX4_held.data.toList.drop 0 = dktX4_held_0 := by decide +kernel
theorem dX4_held_0 : decode cX4_held 0 = .ok (.iload_n 0, 1) := dk_26 (dk_at dksX4_held_0 0 rfl rfl)
theorem dX4_held_1 : decode cX4_held 1 = .ok (.iload_n 1, 1) := dk_27 (dk_at dksX4_held_0 1 rfl rfl)
theorem dX4_held_2 : decode cX4_held 2 = .ok (.if_icmp .ge 7, 3) := dk_162 0 7 (dk_at dksX4_held_0 2 rfl rfl)
theorem dX4_held_5 : decode cX4_held 5 = .ok (.iload_n 1, 1) := dk_27 (dk_at dksX4_held_0 5 rfl rfl)
theorem dX4_held_6 : decode cX4_held 6 = .ok (.goto 13, 3) := dk_167 0 13 (dk_at dksX4_held_0 6 rfl rfl)
theorem dX4_held_9 : decode cX4_held 9 = .ok (.iload_n 0, 1) := dk_26 (dk_at dksX4_held_0 9 rfl rfl)
theorem dX4_held_10 : decode cX4_held 10 = .ok (.iload_n 2, 1) := dk_28 (dk_at dksX4_held_0 10 rfl rfl)
theorem dX4_held_11 : decode cX4_held 11 = .ok (.if_icmp .le 7, 3) := dk_164 0 7 (dk_at dksX4_held_0 11 rfl rfl)
theorem dX4_held_14 : decode cX4_held 14 = .ok (.iload_n 2, 1) := dk_28 (dk_at dksX4_held_0 14 rfl rfl)
theorem dX4_held_15 : decode cX4_held 15 = .ok (.goto 4, 3) := dk_167 0 4 (dk_at dksX4_held_0 15 rfl rfl)
theorem dX4_held_18 : decode cX4_held 18 = .ok (.iload_n 0, 1) := dk_26 (dk_at dksX4_held_0 18 rfl rfl)
theorem dX4_held_19 : decode cX4_held 19 = .ok (.ireturn, 1) := dk_172 (dk_at dksX4_held_0 19 rfl rfl)
abbrev cX4_saysOf : ByteArray := prog_19_method_19_code
def yX4_saysOf : MethodName := ⟨RX4, "saysOf", "(I)I"⟩
def dkwX4_saysOf_1 : List UInt8 := [182, 0, 76, 172]
abbrev dktX4_saysOf_1 : List UInt8 := dkwX4_saysOf_1 ++ []
def dkwX4_saysOf_0 : List UInt8 := [42, 4, 42, 27, 182, 0, 80, 42, 27, 7, 182, 0, 65, 42, 180, 0, 9, 3, 46, 16, 8, 112]
abbrev dktX4_saysOf_0 : List UInt8 := dkwX4_saysOf_0 ++ dktX4_saysOf_1
theorem dksX4_saysOf_0 : cX4_saysOf.data.toList.drop 0 = dktX4_saysOf_0 := by decide +kernel
theorem dksX4_saysOf_1 : cX4_saysOf.data.toList.drop 22 = dktX4_saysOf_1 := dk_seg dksX4_saysOf_0 22 rfl rfl
theorem dX4_saysOf_0 : decode cX4_saysOf 0 = .ok (.aload_n 0, 1) := dk_42 (dk_at dksX4_saysOf_0 0 rfl rfl)
theorem dX4_saysOf_1 : decode cX4_saysOf 1 = .ok (.iconst 1, 1) := dk_4 (dk_at dksX4_saysOf_0 1 rfl rfl)
theorem dX4_saysOf_2 : decode cX4_saysOf 2 = .ok (.aload_n 0, 1) := dk_42 (dk_at dksX4_saysOf_0 2 rfl rfl)
theorem dX4_saysOf_3 : decode cX4_saysOf 3 = .ok (.iload_n 1, 1) := dk_27 (dk_at dksX4_saysOf_0 3 rfl rfl)
theorem dX4_saysOf_4 : decode cX4_saysOf 4 = .ok (.invokevirtual 80, 3) := dk_182 0 80 (dk_at dksX4_saysOf_0 4 rfl rfl)
theorem dX4_saysOf_7 : decode cX4_saysOf 7 = .ok (.aload_n 0, 1) := dk_42 (dk_at dksX4_saysOf_0 7 rfl rfl)
theorem dX4_saysOf_8 : decode cX4_saysOf 8 = .ok (.iload_n 1, 1) := dk_27 (dk_at dksX4_saysOf_0 8 rfl rfl)
theorem dX4_saysOf_9 : decode cX4_saysOf 9 = .ok (.iconst 4, 1) := dk_7 (dk_at dksX4_saysOf_0 9 rfl rfl)
theorem dX4_saysOf_10 : decode cX4_saysOf 10 = .ok (.invokevirtual 65, 3) := dk_182 0 65 (dk_at dksX4_saysOf_0 10 rfl rfl)
theorem dX4_saysOf_13 : decode cX4_saysOf 13 = .ok (.aload_n 0, 1) := dk_42 (dk_at dksX4_saysOf_0 13 rfl rfl)
theorem dX4_saysOf_14 : decode cX4_saysOf 14 = .ok (.getfield 9, 3) := dk_180 0 9 (dk_at dksX4_saysOf_0 14 rfl rfl)
theorem dX4_saysOf_17 : decode cX4_saysOf 17 = .ok (.iconst 0, 1) := dk_3 (dk_at dksX4_saysOf_0 17 rfl rfl)
theorem dX4_saysOf_18 : decode cX4_saysOf 18 = .ok (.iaload, 1) := dk_46 (dk_at dksX4_saysOf_0 18 rfl rfl)
theorem dX4_saysOf_19 : decode cX4_saysOf 19 = .ok (.bipush 8, 2) := dk_16 8 (dk_at dksX4_saysOf_0 19 rfl rfl)
theorem dX4_saysOf_21 : decode cX4_saysOf 21 = .ok (.irem, 1) := dk_112 (dk_at dksX4_saysOf_0 21 rfl rfl)
theorem dX4_saysOf_22 : decode cX4_saysOf 22 = .ok (.invokevirtual 76, 3) := dk_182 0 76 (dk_at dksX4_saysOf_1 0 rfl rfl)
theorem dX4_saysOf_25 : decode cX4_saysOf 25 = .ok (.ireturn, 1) := dk_172 (dk_at dksX4_saysOf_1 3 rfl rfl)
abbrev cX4_readBy : ByteArray := prog_19_method_17_code
def yX4_readBy : MethodName := ⟨RX4, "readBy", "(I)I"⟩
def dkwX4_readBy_4 : List UInt8 := [27, 4, 182, 0, 65, 100, 172, 28, 172]
abbrev dktX4_readBy_4 : List UInt8 := dkwX4_readBy_4 ++ []
def dkwX4_readBy_3 : List UInt8 := [182, 0, 65, 4, 96, 112, 96, 172, 5, 28, 5, 108, 104, 172, 28, 156, 0, 7, 3, 167, 0, 4, 28, 42]
abbrev dktX4_readBy_3 : List UInt8 := dkwX4_readBy_3 ++ dktX4_readBy_4
def dkwX4_readBy_2 : List UInt8 := [28, 42, 27, 4, 182, 0, 65, 6, 112, 96, 4, 100, 172, 28, 42, 180, 0, 9, 3, 46, 42, 27, 4]
abbrev dktX4_readBy_2 : List UInt8 := dkwX4_readBy_2 ++ dktX4_readBy_3
def dkwX4_readBy_1 : List UInt8 := [170, 0, 0, 0, 0, 0, 85, 0, 0, 0, 3, 0, 0, 0, 6, 0, 0, 0, 31, 0, 0, 0, 44, 0, 0, 0, 62, 0, 0, 0, 68]
abbrev dktX4_readBy_1 : List UInt8 := dkwX4_readBy_1 ++ dktX4_readBy_2
def dkwX4_readBy_0 : List UInt8 := [42, 27, 7, 182, 0, 65, 61, 42, 27, 3, 182, 0, 65]
abbrev dktX4_readBy_0 : List UInt8 := dkwX4_readBy_0 ++ dktX4_readBy_1
theorem dksX4_readBy_0 : cX4_readBy.data.toList.drop 0 = dktX4_readBy_0 := by decide +kernel
theorem dksX4_readBy_1 : cX4_readBy.data.toList.drop 13 = dktX4_readBy_1 := dk_seg dksX4_readBy_0 13 rfl rfl
theorem dksX4_readBy_2 : cX4_readBy.data.toList.drop 44 = dktX4_readBy_2 := dk_seg dksX4_readBy_1 31 rfl rfl
theorem dksX4_readBy_3 : cX4_readBy.data.toList.drop 67 = dktX4_readBy_3 := dk_seg dksX4_readBy_2 23 rfl rfl
theorem dksX4_readBy_4 : cX4_readBy.data.toList.drop 91 = dktX4_readBy_4 := dk_seg dksX4_readBy_3 24 rfl rfl
theorem dX4_readBy_0 : decode cX4_readBy 0 = .ok (.aload_n 0, 1) := dk_42 (dk_at dksX4_readBy_0 0 rfl rfl)
theorem dX4_readBy_1 : decode cX4_readBy 1 = .ok (.iload_n 1, 1) := dk_27 (dk_at dksX4_readBy_0 1 rfl rfl)
theorem dX4_readBy_2 : decode cX4_readBy 2 = .ok (.iconst 4, 1) := dk_7 (dk_at dksX4_readBy_0 2 rfl rfl)
theorem dX4_readBy_3 : decode cX4_readBy 3 = .ok (.invokevirtual 65, 3) := dk_182 0 65 (dk_at dksX4_readBy_0 3 rfl rfl)
theorem dX4_readBy_6 : decode cX4_readBy 6 = .ok (.istore_n 2, 1) := dk_61 (dk_at dksX4_readBy_0 6 rfl rfl)
theorem dX4_readBy_7 : decode cX4_readBy 7 = .ok (.aload_n 0, 1) := dk_42 (dk_at dksX4_readBy_0 7 rfl rfl)
theorem dX4_readBy_8 : decode cX4_readBy 8 = .ok (.iload_n 1, 1) := dk_27 (dk_at dksX4_readBy_0 8 rfl rfl)
theorem dX4_readBy_9 : decode cX4_readBy 9 = .ok (.iconst 0, 1) := dk_3 (dk_at dksX4_readBy_0 9 rfl rfl)
theorem dX4_readBy_10 : decode cX4_readBy 10 = .ok (.invokevirtual 65, 3) := dk_182 0 65 (dk_at dksX4_readBy_0 10 rfl rfl)
theorem dX4_readBy_13 : decode cX4_readBy 13 = .ok (.tableswitch 85 3 6 #[31, 44, 62, 68], 31) := by decide +kernel
theorem dX4_readBy_44 : decode cX4_readBy 44 = .ok (.iload_n 2, 1) := dk_28 (dk_at dksX4_readBy_2 0 rfl rfl)
theorem dX4_readBy_45 : decode cX4_readBy 45 = .ok (.aload_n 0, 1) := dk_42 (dk_at dksX4_readBy_2 1 rfl rfl)
theorem dX4_readBy_46 : decode cX4_readBy 46 = .ok (.iload_n 1, 1) := dk_27 (dk_at dksX4_readBy_2 2 rfl rfl)
theorem dX4_readBy_47 : decode cX4_readBy 47 = .ok (.iconst 1, 1) := dk_4 (dk_at dksX4_readBy_2 3 rfl rfl)
theorem dX4_readBy_48 : decode cX4_readBy 48 = .ok (.invokevirtual 65, 3) := dk_182 0 65 (dk_at dksX4_readBy_2 4 rfl rfl)
theorem dX4_readBy_51 : decode cX4_readBy 51 = .ok (.iconst 3, 1) := dk_6 (dk_at dksX4_readBy_2 7 rfl rfl)
theorem dX4_readBy_52 : decode cX4_readBy 52 = .ok (.irem, 1) := dk_112 (dk_at dksX4_readBy_2 8 rfl rfl)
theorem dX4_readBy_53 : decode cX4_readBy 53 = .ok (.iadd, 1) := dk_96 (dk_at dksX4_readBy_2 9 rfl rfl)
theorem dX4_readBy_54 : decode cX4_readBy 54 = .ok (.iconst 1, 1) := dk_4 (dk_at dksX4_readBy_2 10 rfl rfl)
theorem dX4_readBy_55 : decode cX4_readBy 55 = .ok (.isub, 1) := dk_100 (dk_at dksX4_readBy_2 11 rfl rfl)
theorem dX4_readBy_56 : decode cX4_readBy 56 = .ok (.ireturn, 1) := dk_172 (dk_at dksX4_readBy_2 12 rfl rfl)
theorem dX4_readBy_57 : decode cX4_readBy 57 = .ok (.iload_n 2, 1) := dk_28 (dk_at dksX4_readBy_2 13 rfl rfl)
theorem dX4_readBy_58 : decode cX4_readBy 58 = .ok (.aload_n 0, 1) := dk_42 (dk_at dksX4_readBy_2 14 rfl rfl)
theorem dX4_readBy_59 : decode cX4_readBy 59 = .ok (.getfield 9, 3) := dk_180 0 9 (dk_at dksX4_readBy_2 15 rfl rfl)
theorem dX4_readBy_62 : decode cX4_readBy 62 = .ok (.iconst 0, 1) := dk_3 (dk_at dksX4_readBy_2 18 rfl rfl)
theorem dX4_readBy_63 : decode cX4_readBy 63 = .ok (.iaload, 1) := dk_46 (dk_at dksX4_readBy_2 19 rfl rfl)
theorem dX4_readBy_64 : decode cX4_readBy 64 = .ok (.aload_n 0, 1) := dk_42 (dk_at dksX4_readBy_2 20 rfl rfl)
theorem dX4_readBy_65 : decode cX4_readBy 65 = .ok (.iload_n 1, 1) := dk_27 (dk_at dksX4_readBy_2 21 rfl rfl)
theorem dX4_readBy_66 : decode cX4_readBy 66 = .ok (.iconst 1, 1) := dk_4 (dk_at dksX4_readBy_2 22 rfl rfl)
theorem dX4_readBy_67 : decode cX4_readBy 67 = .ok (.invokevirtual 65, 3) := dk_182 0 65 (dk_at dksX4_readBy_3 0 rfl rfl)
theorem dX4_readBy_70 : decode cX4_readBy 70 = .ok (.iconst 1, 1) := dk_4 (dk_at dksX4_readBy_3 3 rfl rfl)
theorem dX4_readBy_71 : decode cX4_readBy 71 = .ok (.iadd, 1) := dk_96 (dk_at dksX4_readBy_3 4 rfl rfl)
theorem dX4_readBy_72 : decode cX4_readBy 72 = .ok (.irem, 1) := dk_112 (dk_at dksX4_readBy_3 5 rfl rfl)
theorem dX4_readBy_73 : decode cX4_readBy 73 = .ok (.iadd, 1) := dk_96 (dk_at dksX4_readBy_3 6 rfl rfl)
theorem dX4_readBy_74 : decode cX4_readBy 74 = .ok (.ireturn, 1) := dk_172 (dk_at dksX4_readBy_3 7 rfl rfl)
theorem dX4_readBy_75 : decode cX4_readBy 75 = .ok (.iconst 2, 1) := dk_5 (dk_at dksX4_readBy_3 8 rfl rfl)
theorem dX4_readBy_76 : decode cX4_readBy 76 = .ok (.iload_n 2, 1) := dk_28 (dk_at dksX4_readBy_3 9 rfl rfl)
theorem dX4_readBy_77 : decode cX4_readBy 77 = .ok (.iconst 2, 1) := dk_5 (dk_at dksX4_readBy_3 10 rfl rfl)
theorem dX4_readBy_78 : decode cX4_readBy 78 = .ok (.idiv, 1) := dk_108 (dk_at dksX4_readBy_3 11 rfl rfl)
theorem dX4_readBy_79 : decode cX4_readBy 79 = .ok (.imul, 1) := dk_104 (dk_at dksX4_readBy_3 12 rfl rfl)
theorem dX4_readBy_80 : decode cX4_readBy 80 = .ok (.ireturn, 1) := dk_172 (dk_at dksX4_readBy_3 13 rfl rfl)
theorem dX4_readBy_81 : decode cX4_readBy 81 = .ok (.iload_n 2, 1) := dk_28 (dk_at dksX4_readBy_3 14 rfl rfl)
theorem dX4_readBy_82 : decode cX4_readBy 82 = .ok (.ifCond .ge 7, 3) := dk_156 0 7 (dk_at dksX4_readBy_3 15 rfl rfl)
theorem dX4_readBy_85 : decode cX4_readBy 85 = .ok (.iconst 0, 1) := dk_3 (dk_at dksX4_readBy_3 18 rfl rfl)
theorem dX4_readBy_86 : decode cX4_readBy 86 = .ok (.goto 4, 3) := dk_167 0 4 (dk_at dksX4_readBy_3 19 rfl rfl)
theorem dX4_readBy_89 : decode cX4_readBy 89 = .ok (.iload_n 2, 1) := dk_28 (dk_at dksX4_readBy_3 22 rfl rfl)
theorem dX4_readBy_90 : decode cX4_readBy 90 = .ok (.aload_n 0, 1) := dk_42 (dk_at dksX4_readBy_3 23 rfl rfl)
theorem dX4_readBy_91 : decode cX4_readBy 91 = .ok (.iload_n 1, 1) := dk_27 (dk_at dksX4_readBy_4 0 rfl rfl)
theorem dX4_readBy_92 : decode cX4_readBy 92 = .ok (.iconst 1, 1) := dk_4 (dk_at dksX4_readBy_4 1 rfl rfl)
theorem dX4_readBy_93 : decode cX4_readBy 93 = .ok (.invokevirtual 65, 3) := dk_182 0 65 (dk_at dksX4_readBy_4 2 rfl rfl)
theorem dX4_readBy_96 : decode cX4_readBy 96 = .ok (.isub, 1) := dk_100 (dk_at dksX4_readBy_4 5 rfl rfl)
theorem dX4_readBy_97 : decode cX4_readBy 97 = .ok (.ireturn, 1) := dk_172 (dk_at dksX4_readBy_4 6 rfl rfl)
theorem dX4_readBy_98 : decode cX4_readBy 98 = .ok (.iload_n 2, 1) := dk_28 (dk_at dksX4_readBy_4 7 rfl rfl)
theorem dX4_readBy_99 : decode cX4_readBy 99 = .ok (.ireturn, 1) := dk_172 (dk_at dksX4_readBy_4 8 rfl rfl)
abbrev cX4_become : ByteArray := prog_19_method_33_code
def yX4_become : MethodName := ⟨RX4, "become", "(II)I"⟩
def dkwX4_become_1 : List UInt8 := [4, 28, 16, 10, 112, 182, 0, 130, 42, 16, 8, 16, 6, 27, 104, 96, 28, 16, 10, 108, 182, 0, 137, 172]
abbrev dktX4_become_1 : List UInt8 := dkwX4_become_1 ++ []
def dkwX4_become_0 : List UInt8 := [42, 27, 182, 0, 134, 153, 0, 10, 28, 184, 0, 119, 154, 0, 10, 42, 18, 125, 182, 0, 126, 172, 42, 27]
abbrev dktX4_become_0 : List UInt8 := dkwX4_become_0 ++ dktX4_become_1
theorem dksX4_become_0 : cX4_become.data.toList.drop 0 = dktX4_become_0 := by decide +kernel
theorem dksX4_become_1 : cX4_become.data.toList.drop 24 = dktX4_become_1 := dk_seg dksX4_become_0 24 rfl rfl
theorem dX4_become_0 : decode cX4_become 0 = .ok (.aload_n 0, 1) := dk_42 (dk_at dksX4_become_0 0 rfl rfl)
theorem dX4_become_1 : decode cX4_become 1 = .ok (.iload_n 1, 1) := dk_27 (dk_at dksX4_become_0 1 rfl rfl)
theorem dX4_become_2 : decode cX4_become 2 = .ok (.invokevirtual 134, 3) := dk_182 0 134 (dk_at dksX4_become_0 2 rfl rfl)
theorem dX4_become_5 : decode cX4_become 5 = .ok (.ifCond .eq 10, 3) := dk_153 0 10 (dk_at dksX4_become_0 5 rfl rfl)
theorem dX4_become_8 : decode cX4_become 8 = .ok (.iload_n 2, 1) := dk_28 (dk_at dksX4_become_0 8 rfl rfl)
theorem dX4_become_9 : decode cX4_become 9 = .ok (.invokestatic 119, 3) := dk_184 0 119 (dk_at dksX4_become_0 9 rfl rfl)
theorem dX4_become_12 : decode cX4_become 12 = .ok (.ifCond .ne 10, 3) := dk_154 0 10 (dk_at dksX4_become_0 12 rfl rfl)
theorem dX4_become_15 : decode cX4_become 15 = .ok (.aload_n 0, 1) := dk_42 (dk_at dksX4_become_0 15 rfl rfl)
theorem dX4_become_16 : decode cX4_become 16 = .ok (.ldc 125, 2) := dk_18 125 (dk_at dksX4_become_0 16 rfl rfl)
theorem dX4_become_18 : decode cX4_become 18 = .ok (.invokevirtual 126, 3) := dk_182 0 126 (dk_at dksX4_become_0 18 rfl rfl)
theorem dX4_become_21 : decode cX4_become 21 = .ok (.ireturn, 1) := dk_172 (dk_at dksX4_become_0 21 rfl rfl)
theorem dX4_become_22 : decode cX4_become 22 = .ok (.aload_n 0, 1) := dk_42 (dk_at dksX4_become_0 22 rfl rfl)
theorem dX4_become_23 : decode cX4_become 23 = .ok (.iload_n 1, 1) := dk_27 (dk_at dksX4_become_0 23 rfl rfl)
theorem dX4_become_24 : decode cX4_become 24 = .ok (.iconst 1, 1) := dk_4 (dk_at dksX4_become_1 0 rfl rfl)
theorem dX4_become_25 : decode cX4_become 25 = .ok (.iload_n 2, 1) := dk_28 (dk_at dksX4_become_1 1 rfl rfl)
theorem dX4_become_26 : decode cX4_become 26 = .ok (.bipush 10, 2) := dk_16 10 (dk_at dksX4_become_1 2 rfl rfl)
theorem dX4_become_28 : decode cX4_become 28 = .ok (.irem, 1) := dk_112 (dk_at dksX4_become_1 4 rfl rfl)
theorem dX4_become_29 : decode cX4_become 29 = .ok (.invokevirtual 130, 3) := dk_182 0 130 (dk_at dksX4_become_1 5 rfl rfl)
theorem dX4_become_32 : decode cX4_become 32 = .ok (.aload_n 0, 1) := dk_42 (dk_at dksX4_become_1 8 rfl rfl)
theorem dX4_become_33 : decode cX4_become 33 = .ok (.bipush 8, 2) := dk_16 8 (dk_at dksX4_become_1 9 rfl rfl)
theorem dX4_become_35 : decode cX4_become 35 = .ok (.bipush 6, 2) := dk_16 6 (dk_at dksX4_become_1 11 rfl rfl)
theorem dX4_become_37 : decode cX4_become 37 = .ok (.iload_n 1, 1) := dk_27 (dk_at dksX4_become_1 13 rfl rfl)
theorem dX4_become_38 : decode cX4_become 38 = .ok (.imul, 1) := dk_104 (dk_at dksX4_become_1 14 rfl rfl)
theorem dX4_become_39 : decode cX4_become 39 = .ok (.iadd, 1) := dk_96 (dk_at dksX4_become_1 15 rfl rfl)
theorem dX4_become_40 : decode cX4_become 40 = .ok (.iload_n 2, 1) := dk_28 (dk_at dksX4_become_1 16 rfl rfl)
theorem dX4_become_41 : decode cX4_become 41 = .ok (.bipush 10, 2) := dk_16 10 (dk_at dksX4_become_1 17 rfl rfl)
theorem dX4_become_43 : decode cX4_become 43 = .ok (.idiv, 1) := dk_108 (dk_at dksX4_become_1 19 rfl rfl)
theorem dX4_become_44 : decode cX4_become 44 = .ok (.invokevirtual 137, 3) := dk_182 0 137 (dk_at dksX4_become_1 20 rfl rfl)
theorem dX4_become_47 : decode cX4_become 47 = .ok (.ireturn, 1) := dk_172 (dk_at dksX4_become_1 23 rfl rfl)
abbrev cX4_becomes : ByteArray := prog_19_method_11_code
def yX4_becomes : MethodName := ⟨RX4, "becomes", "(II)I"⟩
def dkwX4_becomes_0 : List UInt8 := [42, 180, 0, 9, 27, 46, 62, 42, 180, 0, 9, 27, 28, 79, 29, 172]
abbrev dktX4_becomes_0 : List UInt8 := dkwX4_becomes_0 ++ []
theorem dksX4_becomes_0 : cX4_becomes.data.toList.drop 0 = dktX4_becomes_0 := by decide +kernel
theorem dX4_becomes_0 : decode cX4_becomes 0 = .ok (.aload_n 0, 1) := dk_42 (dk_at dksX4_becomes_0 0 rfl rfl)
theorem dX4_becomes_1 : decode cX4_becomes 1 = .ok (.getfield 9, 3) := dk_180 0 9 (dk_at dksX4_becomes_0 1 rfl rfl)
theorem dX4_becomes_4 : decode cX4_becomes 4 = .ok (.iload_n 1, 1) := dk_27 (dk_at dksX4_becomes_0 4 rfl rfl)
theorem dX4_becomes_5 : decode cX4_becomes 5 = .ok (.iaload, 1) := dk_46 (dk_at dksX4_becomes_0 5 rfl rfl)
theorem dX4_becomes_6 : decode cX4_becomes 6 = .ok (.istore_n 3, 1) := dk_62 (dk_at dksX4_becomes_0 6 rfl rfl)
theorem dX4_becomes_7 : decode cX4_becomes 7 = .ok (.aload_n 0, 1) := dk_42 (dk_at dksX4_becomes_0 7 rfl rfl)
theorem dX4_becomes_8 : decode cX4_becomes 8 = .ok (.getfield 9, 3) := dk_180 0 9 (dk_at dksX4_becomes_0 8 rfl rfl)
theorem dX4_becomes_11 : decode cX4_becomes 11 = .ok (.iload_n 1, 1) := dk_27 (dk_at dksX4_becomes_0 11 rfl rfl)
theorem dX4_becomes_12 : decode cX4_becomes 12 = .ok (.iload_n 2, 1) := dk_28 (dk_at dksX4_becomes_0 12 rfl rfl)
theorem dX4_becomes_13 : decode cX4_becomes 13 = .ok (.iastore, 1) := dk_79 (dk_at dksX4_becomes_0 13 rfl rfl)
theorem dX4_becomes_14 : decode cX4_becomes 14 = .ok (.iload_n 3, 1) := dk_29 (dk_at dksX4_becomes_0 14 rfl rfl)
theorem dX4_becomes_15 : decode cX4_becomes 15 = .ok (.ireturn, 1) := dk_172 (dk_at dksX4_becomes_0 15 rfl rfl)
abbrev cX4_as : ByteArray := prog_19_method_34_code
def yX4_as : MethodName := ⟨RX4, "as", "(II)I"⟩
def dkwX4_as_3 : List UInt8 := [153, 0, 12, 42, 27, 4, 182, 0, 65, 167, 0, 9, 42, 18, 140, 182, 0, 126, 172]
abbrev dktX4_as_3 : List UInt8 := dkwX4_as_3 ++ []
def dkwX4_as_2 : List UInt8 := [159, 0, 13, 28, 5, 160, 0, 12, 29, 8, 160, 0, 7, 4, 167, 0, 4, 3, 54, 4, 21, 4]
abbrev dktX4_as_2 : List UInt8 := dkwX4_as_2 ++ dktX4_as_3
def dkwX4_as_1 : List UInt8 := [172, 42, 27, 3, 182, 0, 65, 62, 28, 153, 0, 28, 28, 29, 159, 0, 23, 28, 4, 160, 0, 8, 29, 7]
abbrev dktX4_as_1 : List UInt8 := dkwX4_as_1 ++ dktX4_as_2
def dkwX4_as_0 : List UInt8 := [42, 27, 182, 0, 134, 153, 0, 13, 28, 3, 16, 6, 184, 0, 61, 154, 0, 10, 42, 18, 125, 182, 0, 126]
abbrev dktX4_as_0 : List UInt8 := dkwX4_as_0 ++ dktX4_as_1
theorem dksX4_as_0 : cX4_as.data.toList.drop 0 = dktX4_as_0 := by decide +kernel
theorem dksX4_as_1 : cX4_as.data.toList.drop 24 = dktX4_as_1 := dk_seg dksX4_as_0 24 rfl rfl
theorem dksX4_as_2 : cX4_as.data.toList.drop 48 = dktX4_as_2 := dk_seg dksX4_as_1 24 rfl rfl
theorem dksX4_as_3 : cX4_as.data.toList.drop 70 = dktX4_as_3 := dk_seg dksX4_as_2 22 rfl rfl
theorem dX4_as_0 : decode cX4_as 0 = .ok (.aload_n 0, 1) := dk_42 (dk_at dksX4_as_0 0 rfl rfl)
theorem dX4_as_1 : decode cX4_as 1 = .ok (.iload_n 1, 1) := dk_27 (dk_at dksX4_as_0 1 rfl rfl)
theorem dX4_as_2 : decode cX4_as 2 = .ok (.invokevirtual 134, 3) := dk_182 0 134 (dk_at dksX4_as_0 2 rfl rfl)
theorem dX4_as_5 : decode cX4_as 5 = .ok (.ifCond .eq 13, 3) := dk_153 0 13 (dk_at dksX4_as_0 5 rfl rfl)
theorem dX4_as_8 : decode cX4_as 8 = .ok (.iload_n 2, 1) := dk_28 (dk_at dksX4_as_0 8 rfl rfl)
theorem dX4_as_9 : decode cX4_as 9 = .ok (.iconst 0, 1) := dk_3 (dk_at dksX4_as_0 9 rfl rfl)
theorem dX4_as_10 : decode cX4_as 10 = .ok (.bipush 6, 2) := dk_16 6 (dk_at dksX4_as_0 10 rfl rfl)
theorem dX4_as_12 : decode cX4_as 12 = .ok (.invokestatic 61, 3) := dk_184 0 61 (dk_at dksX4_as_0 12 rfl rfl)
theorem dX4_as_15 : decode cX4_as 15 = .ok (.ifCond .ne 10, 3) := dk_154 0 10 (dk_at dksX4_as_0 15 rfl rfl)
theorem dX4_as_18 : decode cX4_as 18 = .ok (.aload_n 0, 1) := dk_42 (dk_at dksX4_as_0 18 rfl rfl)
theorem dX4_as_19 : decode cX4_as 19 = .ok (.ldc 125, 2) := dk_18 125 (dk_at dksX4_as_0 19 rfl rfl)
theorem dX4_as_21 : decode cX4_as 21 = .ok (.invokevirtual 126, 3) := dk_182 0 126 (dk_at dksX4_as_0 21 rfl rfl)
theorem dX4_as_24 : decode cX4_as 24 = .ok (.ireturn, 1) := dk_172 (dk_at dksX4_as_1 0 rfl rfl)
theorem dX4_as_25 : decode cX4_as 25 = .ok (.aload_n 0, 1) := dk_42 (dk_at dksX4_as_1 1 rfl rfl)
theorem dX4_as_26 : decode cX4_as 26 = .ok (.iload_n 1, 1) := dk_27 (dk_at dksX4_as_1 2 rfl rfl)
theorem dX4_as_27 : decode cX4_as 27 = .ok (.iconst 0, 1) := dk_3 (dk_at dksX4_as_1 3 rfl rfl)
theorem dX4_as_28 : decode cX4_as 28 = .ok (.invokevirtual 65, 3) := dk_182 0 65 (dk_at dksX4_as_1 4 rfl rfl)
theorem dX4_as_31 : decode cX4_as 31 = .ok (.istore_n 3, 1) := dk_62 (dk_at dksX4_as_1 7 rfl rfl)
theorem dX4_as_32 : decode cX4_as 32 = .ok (.iload_n 2, 1) := dk_28 (dk_at dksX4_as_1 8 rfl rfl)
theorem dX4_as_33 : decode cX4_as 33 = .ok (.ifCond .eq 28, 3) := dk_153 0 28 (dk_at dksX4_as_1 9 rfl rfl)
theorem dX4_as_36 : decode cX4_as 36 = .ok (.iload_n 2, 1) := dk_28 (dk_at dksX4_as_1 12 rfl rfl)
theorem dX4_as_37 : decode cX4_as 37 = .ok (.iload_n 3, 1) := dk_29 (dk_at dksX4_as_1 13 rfl rfl)
theorem dX4_as_38 : decode cX4_as 38 = .ok (.if_icmp .eq 23, 3) := dk_159 0 23 (dk_at dksX4_as_1 14 rfl rfl)
theorem dX4_as_41 : decode cX4_as 41 = .ok (.iload_n 2, 1) := dk_28 (dk_at dksX4_as_1 17 rfl rfl)
theorem dX4_as_42 : decode cX4_as 42 = .ok (.iconst 1, 1) := dk_4 (dk_at dksX4_as_1 18 rfl rfl)
theorem dX4_as_43 : decode cX4_as 43 = .ok (.if_icmp .ne 8, 3) := dk_160 0 8 (dk_at dksX4_as_1 19 rfl rfl)
theorem dX4_as_46 : decode cX4_as 46 = .ok (.iload_n 3, 1) := dk_29 (dk_at dksX4_as_1 22 rfl rfl)
theorem dX4_as_47 : decode cX4_as 47 = .ok (.iconst 4, 1) := dk_7 (dk_at dksX4_as_1 23 rfl rfl)
theorem dX4_as_48 : decode cX4_as 48 = .ok (.if_icmp .eq 13, 3) := dk_159 0 13 (dk_at dksX4_as_2 0 rfl rfl)
theorem dX4_as_51 : decode cX4_as 51 = .ok (.iload_n 2, 1) := dk_28 (dk_at dksX4_as_2 3 rfl rfl)
theorem dX4_as_52 : decode cX4_as 52 = .ok (.iconst 2, 1) := dk_5 (dk_at dksX4_as_2 4 rfl rfl)
theorem dX4_as_53 : decode cX4_as 53 = .ok (.if_icmp .ne 12, 3) := dk_160 0 12 (dk_at dksX4_as_2 5 rfl rfl)
theorem dX4_as_56 : decode cX4_as 56 = .ok (.iload_n 3, 1) := dk_29 (dk_at dksX4_as_2 8 rfl rfl)
theorem dX4_as_57 : decode cX4_as 57 = .ok (.iconst 5, 1) := dk_8 (dk_at dksX4_as_2 9 rfl rfl)
theorem dX4_as_58 : decode cX4_as 58 = .ok (.if_icmp .ne 7, 3) := dk_160 0 7 (dk_at dksX4_as_2 10 rfl rfl)
theorem dX4_as_61 : decode cX4_as 61 = .ok (.iconst 1, 1) := dk_4 (dk_at dksX4_as_2 13 rfl rfl)
theorem dX4_as_62 : decode cX4_as 62 = .ok (.goto 4, 3) := dk_167 0 4 (dk_at dksX4_as_2 14 rfl rfl)
theorem dX4_as_65 : decode cX4_as 65 = .ok (.iconst 0, 1) := dk_3 (dk_at dksX4_as_2 17 rfl rfl)
theorem dX4_as_66 : decode cX4_as 66 = .ok (.istore 4, 2) := dk_54 4 (dk_at dksX4_as_2 18 rfl rfl)
theorem dX4_as_68 : decode cX4_as 68 = .ok (.iload 4, 2) := dk_21 4 (dk_at dksX4_as_2 20 rfl rfl)
theorem dX4_as_70 : decode cX4_as 70 = .ok (.ifCond .eq 12, 3) := dk_153 0 12 (dk_at dksX4_as_3 0 rfl rfl)
theorem dX4_as_73 : decode cX4_as 73 = .ok (.aload_n 0, 1) := dk_42 (dk_at dksX4_as_3 3 rfl rfl)
theorem dX4_as_74 : decode cX4_as 74 = .ok (.iload_n 1, 1) := dk_27 (dk_at dksX4_as_3 4 rfl rfl)
theorem dX4_as_75 : decode cX4_as 75 = .ok (.iconst 1, 1) := dk_4 (dk_at dksX4_as_3 5 rfl rfl)
theorem dX4_as_76 : decode cX4_as 76 = .ok (.invokevirtual 65, 3) := dk_182 0 65 (dk_at dksX4_as_3 6 rfl rfl)
theorem dX4_as_79 : decode cX4_as 79 = .ok (.goto 9, 3) := dk_167 0 9 (dk_at dksX4_as_3 9 rfl rfl)
theorem dX4_as_82 : decode cX4_as 82 = .ok (.aload_n 0, 1) := dk_42 (dk_at dksX4_as_3 12 rfl rfl)
theorem dX4_as_83 : decode cX4_as 83 = .ok (.ldc 140, 2) := dk_18 140 (dk_at dksX4_as_3 13 rfl rfl)
theorem dX4_as_85 : decode cX4_as 85 = .ok (.invokevirtual 126, 3) := dk_182 0 126 (dk_at dksX4_as_3 15 rfl rfl)
theorem dX4_as_88 : decode cX4_as 88 = .ok (.ireturn, 1) := dk_172 (dk_at dksX4_as_3 18 rfl rfl)
abbrev cX4_measure : ByteArray := prog_19_method_35_code
def yX4_measure : MethodName := ⟨RX4, "measure", "(II)I"⟩
def dkwX4_measure_1 : List UInt8 := [27, 104, 96, 7, 96, 28, 182, 0, 137, 167, 0, 9, 42, 18, 125, 182, 0, 126, 172]
abbrev dktX4_measure_1 : List UInt8 := dkwX4_measure_1 ++ []
def dkwX4_measure_0 : List UInt8 := [42, 27, 182, 0, 134, 153, 0, 31, 28, 16, 236, 16, 20, 184, 0, 61, 153, 0, 20, 42, 16, 8, 16, 6]
abbrev dktX4_measure_0 : List UInt8 := dkwX4_measure_0 ++ dktX4_measure_1
theorem dksX4_measure_0 : cX4_measure.data.toList.drop 0 = dktX4_measure_0 := by decide +kernel
theorem dksX4_measure_1 : cX4_measure.data.toList.drop 24 = dktX4_measure_1 := dk_seg dksX4_measure_0 24 rfl rfl
theorem dX4_measure_0 : decode cX4_measure 0 = .ok (.aload_n 0, 1) := dk_42 (dk_at dksX4_measure_0 0 rfl rfl)
theorem dX4_measure_1 : decode cX4_measure 1 = .ok (.iload_n 1, 1) := dk_27 (dk_at dksX4_measure_0 1 rfl rfl)
theorem dX4_measure_2 : decode cX4_measure 2 = .ok (.invokevirtual 134, 3) := dk_182 0 134 (dk_at dksX4_measure_0 2 rfl rfl)
theorem dX4_measure_5 : decode cX4_measure 5 = .ok (.ifCond .eq 31, 3) := dk_153 0 31 (dk_at dksX4_measure_0 5 rfl rfl)
theorem dX4_measure_8 : decode cX4_measure 8 = .ok (.iload_n 2, 1) := dk_28 (dk_at dksX4_measure_0 8 rfl rfl)
theorem dX4_measure_9 : decode cX4_measure 9 = .ok (.bipush (-20), 2) := dk_16 236 (dk_at dksX4_measure_0 9 rfl rfl)
theorem dX4_measure_11 : decode cX4_measure 11 = .ok (.bipush 20, 2) := dk_16 20 (dk_at dksX4_measure_0 11 rfl rfl)
theorem dX4_measure_13 : decode cX4_measure 13 = .ok (.invokestatic 61, 3) := dk_184 0 61 (dk_at dksX4_measure_0 13 rfl rfl)
theorem dX4_measure_16 : decode cX4_measure 16 = .ok (.ifCond .eq 20, 3) := dk_153 0 20 (dk_at dksX4_measure_0 16 rfl rfl)
theorem dX4_measure_19 : decode cX4_measure 19 = .ok (.aload_n 0, 1) := dk_42 (dk_at dksX4_measure_0 19 rfl rfl)
theorem dX4_measure_20 : decode cX4_measure 20 = .ok (.bipush 8, 2) := dk_16 8 (dk_at dksX4_measure_0 20 rfl rfl)
theorem dX4_measure_22 : decode cX4_measure 22 = .ok (.bipush 6, 2) := dk_16 6 (dk_at dksX4_measure_0 22 rfl rfl)
theorem dX4_measure_24 : decode cX4_measure 24 = .ok (.iload_n 1, 1) := dk_27 (dk_at dksX4_measure_1 0 rfl rfl)
theorem dX4_measure_25 : decode cX4_measure 25 = .ok (.imul, 1) := dk_104 (dk_at dksX4_measure_1 1 rfl rfl)
theorem dX4_measure_26 : decode cX4_measure 26 = .ok (.iadd, 1) := dk_96 (dk_at dksX4_measure_1 2 rfl rfl)
theorem dX4_measure_27 : decode cX4_measure 27 = .ok (.iconst 4, 1) := dk_7 (dk_at dksX4_measure_1 3 rfl rfl)
theorem dX4_measure_28 : decode cX4_measure 28 = .ok (.iadd, 1) := dk_96 (dk_at dksX4_measure_1 4 rfl rfl)
theorem dX4_measure_29 : decode cX4_measure 29 = .ok (.iload_n 2, 1) := dk_28 (dk_at dksX4_measure_1 5 rfl rfl)
theorem dX4_measure_30 : decode cX4_measure 30 = .ok (.invokevirtual 137, 3) := dk_182 0 137 (dk_at dksX4_measure_1 6 rfl rfl)
theorem dX4_measure_33 : decode cX4_measure 33 = .ok (.goto 9, 3) := dk_167 0 9 (dk_at dksX4_measure_1 9 rfl rfl)
theorem dX4_measure_36 : decode cX4_measure 36 = .ok (.aload_n 0, 1) := dk_42 (dk_at dksX4_measure_1 12 rfl rfl)
theorem dX4_measure_37 : decode cX4_measure 37 = .ok (.ldc 125, 2) := dk_18 125 (dk_at dksX4_measure_1 13 rfl rfl)
theorem dX4_measure_39 : decode cX4_measure 39 = .ok (.invokevirtual 126, 3) := dk_182 0 126 (dk_at dksX4_measure_1 15 rfl rfl)
theorem dX4_measure_42 : decode cX4_measure 42 = .ok (.ireturn, 1) := dk_172 (dk_at dksX4_measure_1 18 rfl rfl)
abbrev cX4_on : ByteArray := prog_19_method_36_code
def yX4_on : MethodName := ⟨RX4, "on", "(II)I"⟩
def dkwX4_on_1 : List UInt8 := [96, 8, 96, 28, 182, 0, 137, 167, 0, 9, 42, 18, 125, 182, 0, 126, 172]
abbrev dktX4_on_1 : List UInt8 := dkwX4_on_1 ++ []
def dkwX4_on_0 : List UInt8 := [42, 27, 182, 0, 134, 153, 0, 29, 28, 3, 4, 184, 0, 61, 153, 0, 20, 42, 16, 8, 16, 6, 27, 104]
abbrev dktX4_on_0 : List UInt8 := dkwX4_on_0 ++ dktX4_on_1
theorem dksX4_on_0 : cX4_on.data.toList.drop 0 = dktX4_on_0 := by decide +kernel
theorem dksX4_on_1 : cX4_on.data.toList.drop 24 = dktX4_on_1 := dk_seg dksX4_on_0 24 rfl rfl
theorem dX4_on_0 : decode cX4_on 0 = .ok (.aload_n 0, 1) := dk_42 (dk_at dksX4_on_0 0 rfl rfl)
theorem dX4_on_1 : decode cX4_on 1 = .ok (.iload_n 1, 1) := dk_27 (dk_at dksX4_on_0 1 rfl rfl)
theorem dX4_on_2 : decode cX4_on 2 = .ok (.invokevirtual 134, 3) := dk_182 0 134 (dk_at dksX4_on_0 2 rfl rfl)
theorem dX4_on_5 : decode cX4_on 5 = .ok (.ifCond .eq 29, 3) := dk_153 0 29 (dk_at dksX4_on_0 5 rfl rfl)
theorem dX4_on_8 : decode cX4_on 8 = .ok (.iload_n 2, 1) := dk_28 (dk_at dksX4_on_0 8 rfl rfl)
theorem dX4_on_9 : decode cX4_on 9 = .ok (.iconst 0, 1) := dk_3 (dk_at dksX4_on_0 9 rfl rfl)
theorem dX4_on_10 : decode cX4_on 10 = .ok (.iconst 1, 1) := dk_4 (dk_at dksX4_on_0 10 rfl rfl)
theorem dX4_on_11 : decode cX4_on 11 = .ok (.invokestatic 61, 3) := dk_184 0 61 (dk_at dksX4_on_0 11 rfl rfl)
theorem dX4_on_14 : decode cX4_on 14 = .ok (.ifCond .eq 20, 3) := dk_153 0 20 (dk_at dksX4_on_0 14 rfl rfl)
theorem dX4_on_17 : decode cX4_on 17 = .ok (.aload_n 0, 1) := dk_42 (dk_at dksX4_on_0 17 rfl rfl)
theorem dX4_on_18 : decode cX4_on 18 = .ok (.bipush 8, 2) := dk_16 8 (dk_at dksX4_on_0 18 rfl rfl)
theorem dX4_on_20 : decode cX4_on 20 = .ok (.bipush 6, 2) := dk_16 6 (dk_at dksX4_on_0 20 rfl rfl)
theorem dX4_on_22 : decode cX4_on 22 = .ok (.iload_n 1, 1) := dk_27 (dk_at dksX4_on_0 22 rfl rfl)
theorem dX4_on_23 : decode cX4_on 23 = .ok (.imul, 1) := dk_104 (dk_at dksX4_on_0 23 rfl rfl)
theorem dX4_on_24 : decode cX4_on 24 = .ok (.iadd, 1) := dk_96 (dk_at dksX4_on_1 0 rfl rfl)
theorem dX4_on_25 : decode cX4_on 25 = .ok (.iconst 5, 1) := dk_8 (dk_at dksX4_on_1 1 rfl rfl)
theorem dX4_on_26 : decode cX4_on 26 = .ok (.iadd, 1) := dk_96 (dk_at dksX4_on_1 2 rfl rfl)
theorem dX4_on_27 : decode cX4_on 27 = .ok (.iload_n 2, 1) := dk_28 (dk_at dksX4_on_1 3 rfl rfl)
theorem dX4_on_28 : decode cX4_on 28 = .ok (.invokevirtual 137, 3) := dk_182 0 137 (dk_at dksX4_on_1 4 rfl rfl)
theorem dX4_on_31 : decode cX4_on 31 = .ok (.goto 9, 3) := dk_167 0 9 (dk_at dksX4_on_1 7 rfl rfl)
theorem dX4_on_34 : decode cX4_on 34 = .ok (.aload_n 0, 1) := dk_42 (dk_at dksX4_on_1 10 rfl rfl)
theorem dX4_on_35 : decode cX4_on 35 = .ok (.ldc 125, 2) := dk_18 125 (dk_at dksX4_on_1 11 rfl rfl)
theorem dX4_on_37 : decode cX4_on 37 = .ok (.invokevirtual 126, 3) := dk_182 0 126 (dk_at dksX4_on_1 13 rfl rfl)
theorem dX4_on_40 : decode cX4_on 40 = .ok (.ireturn, 1) := dk_172 (dk_at dksX4_on_1 16 rfl rfl)
abbrev cX4_pictures : ByteArray := prog_19_method_37_code
def yX4_pictures : MethodName := ⟨RX4, "pictures", "(I)I"⟩
def dkwX4_pictures_3 : List UInt8 := [42, 6, 27, 182, 0, 137, 167, 0, 9, 42, 18, 141, 182, 0, 126, 172]
abbrev dktX4_pictures_3 : List UInt8 := dkwX4_pictures_3 ++ []
def dkwX4_pictures_2 : List UInt8 := [6, 182, 0, 65, 27, 162, 0, 7, 4, 167, 0, 4, 3, 61, 132, 3, 1, 167, 255, 213, 28, 153, 0, 12]
abbrev dktX4_pictures_2 : List UInt8 := dkwX4_pictures_2 ++ dktX4_pictures_3
def dkwX4_pictures_1 : List UInt8 := [180, 0, 9, 5, 46, 162, 0, 39, 28, 153, 0, 27, 42, 29, 5, 182, 0, 65, 27, 162, 0, 17, 42, 29]
abbrev dktX4_pictures_1 : List UInt8 := dkwX4_pictures_1 ++ dktX4_pictures_2
def dkwX4_pictures_0 : List UInt8 := [27, 4, 7, 184, 0, 61, 154, 0, 10, 42, 18, 125, 182, 0, 126, 172, 4, 61, 3, 62, 29, 42]
abbrev dktX4_pictures_0 : List UInt8 := dkwX4_pictures_0 ++ dktX4_pictures_1
theorem dksX4_pictures_0 : cX4_pictures.data.toList.drop 0 = dktX4_pictures_0 := by decide +kernel
theorem dksX4_pictures_1 : cX4_pictures.data.toList.drop 22 = dktX4_pictures_1 := dk_seg dksX4_pictures_0 22 rfl rfl
theorem dksX4_pictures_2 : cX4_pictures.data.toList.drop 46 = dktX4_pictures_2 := dk_seg dksX4_pictures_1 24 rfl rfl
theorem dksX4_pictures_3 : cX4_pictures.data.toList.drop 70 = dktX4_pictures_3 := dk_seg dksX4_pictures_2 24 rfl rfl
theorem dX4_pictures_0 : decode cX4_pictures 0 = .ok (.iload_n 1, 1) := dk_27 (dk_at dksX4_pictures_0 0 rfl rfl)
theorem dX4_pictures_1 : decode cX4_pictures 1 = .ok (.iconst 1, 1) := dk_4 (dk_at dksX4_pictures_0 1 rfl rfl)
theorem dX4_pictures_2 : decode cX4_pictures 2 = .ok (.iconst 4, 1) := dk_7 (dk_at dksX4_pictures_0 2 rfl rfl)
theorem dX4_pictures_3 : decode cX4_pictures 3 = .ok (.invokestatic 61, 3) := dk_184 0 61 (dk_at dksX4_pictures_0 3 rfl rfl)
theorem dX4_pictures_6 : decode cX4_pictures 6 = .ok (.ifCond .ne 10, 3) := dk_154 0 10 (dk_at dksX4_pictures_0 6 rfl rfl)
theorem dX4_pictures_9 : decode cX4_pictures 9 = .ok (.aload_n 0, 1) := dk_42 (dk_at dksX4_pictures_0 9 rfl rfl)
theorem dX4_pictures_10 : decode cX4_pictures 10 = .ok (.ldc 125, 2) := dk_18 125 (dk_at dksX4_pictures_0 10 rfl rfl)
theorem dX4_pictures_12 : decode cX4_pictures 12 = .ok (.invokevirtual 126, 3) := dk_182 0 126 (dk_at dksX4_pictures_0 12 rfl rfl)
theorem dX4_pictures_15 : decode cX4_pictures 15 = .ok (.ireturn, 1) := dk_172 (dk_at dksX4_pictures_0 15 rfl rfl)
theorem dX4_pictures_16 : decode cX4_pictures 16 = .ok (.iconst 1, 1) := dk_4 (dk_at dksX4_pictures_0 16 rfl rfl)
theorem dX4_pictures_17 : decode cX4_pictures 17 = .ok (.istore_n 2, 1) := dk_61 (dk_at dksX4_pictures_0 17 rfl rfl)
theorem dX4_pictures_18 : decode cX4_pictures 18 = .ok (.iconst 0, 1) := dk_3 (dk_at dksX4_pictures_0 18 rfl rfl)
theorem dX4_pictures_19 : decode cX4_pictures 19 = .ok (.istore_n 3, 1) := dk_62 (dk_at dksX4_pictures_0 19 rfl rfl)
theorem dX4_pictures_20 : decode cX4_pictures 20 = .ok (.iload_n 3, 1) := dk_29 (dk_at dksX4_pictures_0 20 rfl rfl)
theorem dX4_pictures_21 : decode cX4_pictures 21 = .ok (.aload_n 0, 1) := dk_42 (dk_at dksX4_pictures_0 21 rfl rfl)
theorem dX4_pictures_22 : decode cX4_pictures 22 = .ok (.getfield 9, 3) := dk_180 0 9 (dk_at dksX4_pictures_1 0 rfl rfl)
theorem dX4_pictures_25 : decode cX4_pictures 25 = .ok (.iconst 2, 1) := dk_5 (dk_at dksX4_pictures_1 3 rfl rfl)
theorem dX4_pictures_26 : decode cX4_pictures 26 = .ok (.iaload, 1) := dk_46 (dk_at dksX4_pictures_1 4 rfl rfl)
theorem dX4_pictures_27 : decode cX4_pictures 27 = .ok (.if_icmp .ge 39, 3) := dk_162 0 39 (dk_at dksX4_pictures_1 5 rfl rfl)
theorem dX4_pictures_30 : decode cX4_pictures 30 = .ok (.iload_n 2, 1) := dk_28 (dk_at dksX4_pictures_1 8 rfl rfl)
theorem dX4_pictures_31 : decode cX4_pictures 31 = .ok (.ifCond .eq 27, 3) := dk_153 0 27 (dk_at dksX4_pictures_1 9 rfl rfl)
theorem dX4_pictures_34 : decode cX4_pictures 34 = .ok (.aload_n 0, 1) := dk_42 (dk_at dksX4_pictures_1 12 rfl rfl)
theorem dX4_pictures_35 : decode cX4_pictures 35 = .ok (.iload_n 3, 1) := dk_29 (dk_at dksX4_pictures_1 13 rfl rfl)
theorem dX4_pictures_36 : decode cX4_pictures 36 = .ok (.iconst 2, 1) := dk_5 (dk_at dksX4_pictures_1 14 rfl rfl)
theorem dX4_pictures_37 : decode cX4_pictures 37 = .ok (.invokevirtual 65, 3) := dk_182 0 65 (dk_at dksX4_pictures_1 15 rfl rfl)
theorem dX4_pictures_40 : decode cX4_pictures 40 = .ok (.iload_n 1, 1) := dk_27 (dk_at dksX4_pictures_1 18 rfl rfl)
theorem dX4_pictures_41 : decode cX4_pictures 41 = .ok (.if_icmp .ge 17, 3) := dk_162 0 17 (dk_at dksX4_pictures_1 19 rfl rfl)
theorem dX4_pictures_44 : decode cX4_pictures 44 = .ok (.aload_n 0, 1) := dk_42 (dk_at dksX4_pictures_1 22 rfl rfl)
theorem dX4_pictures_45 : decode cX4_pictures 45 = .ok (.iload_n 3, 1) := dk_29 (dk_at dksX4_pictures_1 23 rfl rfl)
theorem dX4_pictures_46 : decode cX4_pictures 46 = .ok (.iconst 3, 1) := dk_6 (dk_at dksX4_pictures_2 0 rfl rfl)
theorem dX4_pictures_47 : decode cX4_pictures 47 = .ok (.invokevirtual 65, 3) := dk_182 0 65 (dk_at dksX4_pictures_2 1 rfl rfl)
theorem dX4_pictures_50 : decode cX4_pictures 50 = .ok (.iload_n 1, 1) := dk_27 (dk_at dksX4_pictures_2 4 rfl rfl)
theorem dX4_pictures_51 : decode cX4_pictures 51 = .ok (.if_icmp .ge 7, 3) := dk_162 0 7 (dk_at dksX4_pictures_2 5 rfl rfl)
theorem dX4_pictures_54 : decode cX4_pictures 54 = .ok (.iconst 1, 1) := dk_4 (dk_at dksX4_pictures_2 8 rfl rfl)
theorem dX4_pictures_55 : decode cX4_pictures 55 = .ok (.goto 4, 3) := dk_167 0 4 (dk_at dksX4_pictures_2 9 rfl rfl)
theorem dX4_pictures_58 : decode cX4_pictures 58 = .ok (.iconst 0, 1) := dk_3 (dk_at dksX4_pictures_2 12 rfl rfl)
theorem dX4_pictures_59 : decode cX4_pictures 59 = .ok (.istore_n 2, 1) := dk_61 (dk_at dksX4_pictures_2 13 rfl rfl)
theorem dX4_pictures_60 : decode cX4_pictures 60 = .ok (.iinc 3 1, 3) := dk_132 3 1 (dk_at dksX4_pictures_2 14 rfl rfl)
theorem dX4_pictures_63 : decode cX4_pictures 63 = .ok (.goto (-43), 3) := dk_167 255 213 (dk_at dksX4_pictures_2 17 rfl rfl)
theorem dX4_pictures_66 : decode cX4_pictures 66 = .ok (.iload_n 2, 1) := dk_28 (dk_at dksX4_pictures_2 20 rfl rfl)
theorem dX4_pictures_67 : decode cX4_pictures 67 = .ok (.ifCond .eq 12, 3) := dk_153 0 12 (dk_at dksX4_pictures_2 21 rfl rfl)
theorem dX4_pictures_70 : decode cX4_pictures 70 = .ok (.aload_n 0, 1) := dk_42 (dk_at dksX4_pictures_3 0 rfl rfl)
theorem dX4_pictures_71 : decode cX4_pictures 71 = .ok (.iconst 3, 1) := dk_6 (dk_at dksX4_pictures_3 1 rfl rfl)
theorem dX4_pictures_72 : decode cX4_pictures 72 = .ok (.iload_n 1, 1) := dk_27 (dk_at dksX4_pictures_3 2 rfl rfl)
theorem dX4_pictures_73 : decode cX4_pictures 73 = .ok (.invokevirtual 137, 3) := dk_182 0 137 (dk_at dksX4_pictures_3 3 rfl rfl)
theorem dX4_pictures_76 : decode cX4_pictures 76 = .ok (.goto 9, 3) := dk_167 0 9 (dk_at dksX4_pictures_3 6 rfl rfl)
theorem dX4_pictures_79 : decode cX4_pictures 79 = .ok (.aload_n 0, 1) := dk_42 (dk_at dksX4_pictures_3 9 rfl rfl)
theorem dX4_pictures_80 : decode cX4_pictures 80 = .ok (.ldc 141, 2) := dk_18 141 (dk_at dksX4_pictures_3 10 rfl rfl)
theorem dX4_pictures_82 : decode cX4_pictures 82 = .ok (.invokevirtual 126, 3) := dk_182 0 126 (dk_at dksX4_pictures_3 12 rfl rfl)
theorem dX4_pictures_85 : decode cX4_pictures 85 = .ok (.ireturn, 1) := dk_172 (dk_at dksX4_pictures_3 15 rfl rfl)
abbrev cX4_limit : ByteArray := prog_19_method_38_code
def yX4_limit : MethodName := ⟨RX4, "limit", "(I)I"⟩
def dkwX4_limit_1 : List UInt8 := [182, 0, 126, 172]
abbrev dktX4_limit_1 : List UInt8 := dkwX4_limit_1 ++ []
def dkwX4_limit_0 : List UInt8 := [27, 3, 16, 99, 184, 0, 61, 153, 0, 12, 42, 7, 27, 182, 0, 137, 167, 0, 9, 42, 18, 125]
abbrev dktX4_limit_0 : List UInt8 := dkwX4_limit_0 ++ dktX4_limit_1
theorem dksX4_limit_0 : cX4_limit.data.toList.drop 0 = dktX4_limit_0 := by decide +kernel
theorem dksX4_limit_1 : cX4_limit.data.toList.drop 22 = dktX4_limit_1 := dk_seg dksX4_limit_0 22 rfl rfl
theorem dX4_limit_0 : decode cX4_limit 0 = .ok (.iload_n 1, 1) := dk_27 (dk_at dksX4_limit_0 0 rfl rfl)
theorem dX4_limit_1 : decode cX4_limit 1 = .ok (.iconst 0, 1) := dk_3 (dk_at dksX4_limit_0 1 rfl rfl)
theorem dX4_limit_2 : decode cX4_limit 2 = .ok (.bipush 99, 2) := dk_16 99 (dk_at dksX4_limit_0 2 rfl rfl)
theorem dX4_limit_4 : decode cX4_limit 4 = .ok (.invokestatic 61, 3) := dk_184 0 61 (dk_at dksX4_limit_0 4 rfl rfl)
theorem dX4_limit_7 : decode cX4_limit 7 = .ok (.ifCond .eq 12, 3) := dk_153 0 12 (dk_at dksX4_limit_0 7 rfl rfl)
theorem dX4_limit_10 : decode cX4_limit 10 = .ok (.aload_n 0, 1) := dk_42 (dk_at dksX4_limit_0 10 rfl rfl)
theorem dX4_limit_11 : decode cX4_limit 11 = .ok (.iconst 4, 1) := dk_7 (dk_at dksX4_limit_0 11 rfl rfl)
theorem dX4_limit_12 : decode cX4_limit 12 = .ok (.iload_n 1, 1) := dk_27 (dk_at dksX4_limit_0 12 rfl rfl)
theorem dX4_limit_13 : decode cX4_limit 13 = .ok (.invokevirtual 137, 3) := dk_182 0 137 (dk_at dksX4_limit_0 13 rfl rfl)
theorem dX4_limit_16 : decode cX4_limit 16 = .ok (.goto 9, 3) := dk_167 0 9 (dk_at dksX4_limit_0 16 rfl rfl)
theorem dX4_limit_19 : decode cX4_limit 19 = .ok (.aload_n 0, 1) := dk_42 (dk_at dksX4_limit_0 19 rfl rfl)
theorem dX4_limit_20 : decode cX4_limit 20 = .ok (.ldc 125, 2) := dk_18 125 (dk_at dksX4_limit_0 20 rfl rfl)
theorem dX4_limit_22 : decode cX4_limit 22 = .ok (.invokevirtual 126, 3) := dk_182 0 126 (dk_at dksX4_limit_1 0 rfl rfl)
theorem dX4_limit_25 : decode cX4_limit 25 = .ok (.ireturn, 1) := dk_172 (dk_at dksX4_limit_1 3 rfl rfl)
abbrev cX4_feed : ByteArray := prog_19_method_39_code
def yX4_feed : MethodName := ⟨RX4, "feed", "(JI)I"⟩
def dkwX4_feed_4 : List UInt8 := [16, 6, 46, 172]
abbrev dktX4_feed_4 : List UInt8 := dkwX4_feed_4 ++ []
def dkwX4_feed_3 : List UInt8 := [136, 79, 42, 180, 0, 9, 16, 6, 92, 46, 4, 96, 79, 132, 4, 1, 167, 255, 209, 42, 180, 0, 9]
abbrev dktX4_feed_3 : List UInt8 := dkwX4_feed_3 ++ dktX4_feed_4
def dkwX4_feed_2 : List UInt8 := [180, 0, 9, 16, 56, 42, 180, 0, 9, 16, 6, 46, 96, 31, 16, 8, 21, 4, 104, 123, 20, 0, 142, 127]
abbrev dktX4_feed_2 : List UInt8 := dkwX4_feed_2 ++ dktX4_feed_3
def dkwX4_feed_1 : List UInt8 := [29, 96, 16, 60, 164, 0, 10, 42, 18, 129, 182, 0, 126, 172, 3, 54, 4, 21, 4, 29, 162, 0, 47, 42]
abbrev dktX4_feed_1 : List UInt8 := dkwX4_feed_1 ++ dktX4_feed_2
def dkwX4_feed_0 : List UInt8 := [29, 4, 16, 8, 184, 0, 61, 154, 0, 10, 42, 18, 125, 182, 0, 126, 172, 42, 180, 0, 9, 16, 6, 46]
abbrev dktX4_feed_0 : List UInt8 := dkwX4_feed_0 ++ dktX4_feed_1
theorem dksX4_feed_0 : cX4_feed.data.toList.drop 0 = dktX4_feed_0 := by decide +kernel
theorem dksX4_feed_1 : cX4_feed.data.toList.drop 24 = dktX4_feed_1 := dk_seg dksX4_feed_0 24 rfl rfl
theorem dksX4_feed_2 : cX4_feed.data.toList.drop 48 = dktX4_feed_2 := dk_seg dksX4_feed_1 24 rfl rfl
theorem dksX4_feed_3 : cX4_feed.data.toList.drop 72 = dktX4_feed_3 := dk_seg dksX4_feed_2 24 rfl rfl
theorem dksX4_feed_4 : cX4_feed.data.toList.drop 95 = dktX4_feed_4 := dk_seg dksX4_feed_3 23 rfl rfl
theorem dX4_feed_0 : decode cX4_feed 0 = .ok (.iload_n 3, 1) := dk_29 (dk_at dksX4_feed_0 0 rfl rfl)
theorem dX4_feed_1 : decode cX4_feed 1 = .ok (.iconst 1, 1) := dk_4 (dk_at dksX4_feed_0 1 rfl rfl)
theorem dX4_feed_2 : decode cX4_feed 2 = .ok (.bipush 8, 2) := dk_16 8 (dk_at dksX4_feed_0 2 rfl rfl)
theorem dX4_feed_4 : decode cX4_feed 4 = .ok (.invokestatic 61, 3) := dk_184 0 61 (dk_at dksX4_feed_0 4 rfl rfl)
theorem dX4_feed_7 : decode cX4_feed 7 = .ok (.ifCond .ne 10, 3) := dk_154 0 10 (dk_at dksX4_feed_0 7 rfl rfl)
theorem dX4_feed_10 : decode cX4_feed 10 = .ok (.aload_n 0, 1) := dk_42 (dk_at dksX4_feed_0 10 rfl rfl)
theorem dX4_feed_11 : decode cX4_feed 11 = .ok (.ldc 125, 2) := dk_18 125 (dk_at dksX4_feed_0 11 rfl rfl)
theorem dX4_feed_13 : decode cX4_feed 13 = .ok (.invokevirtual 126, 3) := dk_182 0 126 (dk_at dksX4_feed_0 13 rfl rfl)
theorem dX4_feed_16 : decode cX4_feed 16 = .ok (.ireturn, 1) := dk_172 (dk_at dksX4_feed_0 16 rfl rfl)
theorem dX4_feed_17 : decode cX4_feed 17 = .ok (.aload_n 0, 1) := dk_42 (dk_at dksX4_feed_0 17 rfl rfl)
theorem dX4_feed_18 : decode cX4_feed 18 = .ok (.getfield 9, 3) := dk_180 0 9 (dk_at dksX4_feed_0 18 rfl rfl)
theorem dX4_feed_21 : decode cX4_feed 21 = .ok (.bipush 6, 2) := dk_16 6 (dk_at dksX4_feed_0 21 rfl rfl)
theorem dX4_feed_23 : decode cX4_feed 23 = .ok (.iaload, 1) := dk_46 (dk_at dksX4_feed_0 23 rfl rfl)
theorem dX4_feed_24 : decode cX4_feed 24 = .ok (.iload_n 3, 1) := dk_29 (dk_at dksX4_feed_1 0 rfl rfl)
theorem dX4_feed_25 : decode cX4_feed 25 = .ok (.iadd, 1) := dk_96 (dk_at dksX4_feed_1 1 rfl rfl)
theorem dX4_feed_26 : decode cX4_feed 26 = .ok (.bipush 60, 2) := dk_16 60 (dk_at dksX4_feed_1 2 rfl rfl)
theorem dX4_feed_28 : decode cX4_feed 28 = .ok (.if_icmp .le 10, 3) := dk_164 0 10 (dk_at dksX4_feed_1 4 rfl rfl)
theorem dX4_feed_31 : decode cX4_feed 31 = .ok (.aload_n 0, 1) := dk_42 (dk_at dksX4_feed_1 7 rfl rfl)
theorem dX4_feed_32 : decode cX4_feed 32 = .ok (.ldc 129, 2) := dk_18 129 (dk_at dksX4_feed_1 8 rfl rfl)
theorem dX4_feed_34 : decode cX4_feed 34 = .ok (.invokevirtual 126, 3) := dk_182 0 126 (dk_at dksX4_feed_1 10 rfl rfl)
theorem dX4_feed_37 : decode cX4_feed 37 = .ok (.ireturn, 1) := dk_172 (dk_at dksX4_feed_1 13 rfl rfl)
theorem dX4_feed_38 : decode cX4_feed 38 = .ok (.iconst 0, 1) := dk_3 (dk_at dksX4_feed_1 14 rfl rfl)
theorem dX4_feed_39 : decode cX4_feed 39 = .ok (.istore 4, 2) := dk_54 4 (dk_at dksX4_feed_1 15 rfl rfl)
theorem dX4_feed_41 : decode cX4_feed 41 = .ok (.iload 4, 2) := dk_21 4 (dk_at dksX4_feed_1 17 rfl rfl)
theorem dX4_feed_43 : decode cX4_feed 43 = .ok (.iload_n 3, 1) := dk_29 (dk_at dksX4_feed_1 19 rfl rfl)
theorem dX4_feed_44 : decode cX4_feed 44 = .ok (.if_icmp .ge 47, 3) := dk_162 0 47 (dk_at dksX4_feed_1 20 rfl rfl)
theorem dX4_feed_47 : decode cX4_feed 47 = .ok (.aload_n 0, 1) := dk_42 (dk_at dksX4_feed_1 23 rfl rfl)
theorem dX4_feed_48 : decode cX4_feed 48 = .ok (.getfield 9, 3) := dk_180 0 9 (dk_at dksX4_feed_2 0 rfl rfl)
theorem dX4_feed_51 : decode cX4_feed 51 = .ok (.bipush 56, 2) := dk_16 56 (dk_at dksX4_feed_2 3 rfl rfl)
theorem dX4_feed_53 : decode cX4_feed 53 = .ok (.aload_n 0, 1) := dk_42 (dk_at dksX4_feed_2 5 rfl rfl)
theorem dX4_feed_54 : decode cX4_feed 54 = .ok (.getfield 9, 3) := dk_180 0 9 (dk_at dksX4_feed_2 6 rfl rfl)
theorem dX4_feed_57 : decode cX4_feed 57 = .ok (.bipush 6, 2) := dk_16 6 (dk_at dksX4_feed_2 9 rfl rfl)
theorem dX4_feed_59 : decode cX4_feed 59 = .ok (.iaload, 1) := dk_46 (dk_at dksX4_feed_2 11 rfl rfl)
theorem dX4_feed_60 : decode cX4_feed 60 = .ok (.iadd, 1) := dk_96 (dk_at dksX4_feed_2 12 rfl rfl)
theorem dX4_feed_61 : decode cX4_feed 61 = .ok (.lload_n 1, 1) := dk_31 (dk_at dksX4_feed_2 13 rfl rfl)
theorem dX4_feed_62 : decode cX4_feed 62 = .ok (.bipush 8, 2) := dk_16 8 (dk_at dksX4_feed_2 14 rfl rfl)
theorem dX4_feed_64 : decode cX4_feed 64 = .ok (.iload 4, 2) := dk_21 4 (dk_at dksX4_feed_2 16 rfl rfl)
theorem dX4_feed_66 : decode cX4_feed 66 = .ok (.imul, 1) := dk_104 (dk_at dksX4_feed_2 18 rfl rfl)
theorem dX4_feed_67 : decode cX4_feed 67 = .ok (.lshr, 1) := dk_123 (dk_at dksX4_feed_2 19 rfl rfl)
theorem dX4_feed_68 : decode cX4_feed 68 = .ok (.ldc2_w 142, 3) := dk_20 0 142 (dk_at dksX4_feed_2 20 rfl rfl)
theorem dX4_feed_71 : decode cX4_feed 71 = .ok (.land, 1) := dk_127 (dk_at dksX4_feed_2 23 rfl rfl)
theorem dX4_feed_72 : decode cX4_feed 72 = .ok (.l2i, 1) := dk_136 (dk_at dksX4_feed_3 0 rfl rfl)
theorem dX4_feed_73 : decode cX4_feed 73 = .ok (.iastore, 1) := dk_79 (dk_at dksX4_feed_3 1 rfl rfl)
theorem dX4_feed_74 : decode cX4_feed 74 = .ok (.aload_n 0, 1) := dk_42 (dk_at dksX4_feed_3 2 rfl rfl)
theorem dX4_feed_75 : decode cX4_feed 75 = .ok (.getfield 9, 3) := dk_180 0 9 (dk_at dksX4_feed_3 3 rfl rfl)
theorem dX4_feed_78 : decode cX4_feed 78 = .ok (.bipush 6, 2) := dk_16 6 (dk_at dksX4_feed_3 6 rfl rfl)
theorem dX4_feed_80 : decode cX4_feed 80 = .ok (.dup2, 1) := dk_92 (dk_at dksX4_feed_3 8 rfl rfl)
theorem dX4_feed_81 : decode cX4_feed 81 = .ok (.iaload, 1) := dk_46 (dk_at dksX4_feed_3 9 rfl rfl)
theorem dX4_feed_82 : decode cX4_feed 82 = .ok (.iconst 1, 1) := dk_4 (dk_at dksX4_feed_3 10 rfl rfl)
theorem dX4_feed_83 : decode cX4_feed 83 = .ok (.iadd, 1) := dk_96 (dk_at dksX4_feed_3 11 rfl rfl)
theorem dX4_feed_84 : decode cX4_feed 84 = .ok (.iastore, 1) := dk_79 (dk_at dksX4_feed_3 12 rfl rfl)
theorem dX4_feed_85 : decode cX4_feed 85 = .ok (.iinc 4 1, 3) := dk_132 4 1 (dk_at dksX4_feed_3 13 rfl rfl)
theorem dX4_feed_88 : decode cX4_feed 88 = .ok (.goto (-47), 3) := dk_167 255 209 (dk_at dksX4_feed_3 16 rfl rfl)
theorem dX4_feed_91 : decode cX4_feed 91 = .ok (.aload_n 0, 1) := dk_42 (dk_at dksX4_feed_3 19 rfl rfl)
theorem dX4_feed_92 : decode cX4_feed 92 = .ok (.getfield 9, 3) := dk_180 0 9 (dk_at dksX4_feed_3 20 rfl rfl)
theorem dX4_feed_95 : decode cX4_feed 95 = .ok (.bipush 6, 2) := dk_16 6 (dk_at dksX4_feed_4 0 rfl rfl)
theorem dX4_feed_97 : decode cX4_feed 97 = .ok (.iaload, 1) := dk_46 (dk_at dksX4_feed_4 2 rfl rfl)
theorem dX4_feed_98 : decode cX4_feed 98 = .ok (.ireturn, 1) := dk_172 (dk_at dksX4_feed_4 3 rfl rfl)
abbrev cX4_text : ByteArray := prog_19_method_51_code
def yX4_text : MethodName := ⟨RX4, "text", "(I)I"⟩
def dkwX4_text_7 : List UInt8 := [167, 255, 212, 4, 172]
abbrev dktX4_text_7 : List UInt8 := dkwX4_text_7 ++ []
def dkwX4_text_6 : List UInt8 := [46, 79, 42, 180, 0, 9, 28, 16, 61, 96, 29, 96, 42, 180, 0, 44, 29, 46, 79, 132, 3, 1]
abbrev dktX4_text_6 : List UInt8 := dkwX4_text_6 ++ dktX4_text_7
def dkwX4_text_5 : List UInt8 := [3, 62, 29, 42, 180, 0, 148, 162, 0, 42, 42, 180, 0, 9, 28, 4, 96, 29, 96, 42, 180, 0, 41, 29]
abbrev dktX4_text_5 : List UInt8 := dkwX4_text_5 ++ dktX4_text_6
def dkwX4_text_4 : List UInt8 := [180, 0, 144, 100, 172, 17, 0, 140, 16, 121, 27, 104, 96, 61, 42, 180, 0, 9, 28, 42, 180, 0, 148, 79]
abbrev dktX4_text_4 : List UInt8 := dkwX4_text_4 ++ dktX4_text_5
def dkwX4_text_3 : List UInt8 := [3, 181, 0, 157, 42, 180, 0, 9, 16, 6, 3, 79, 42, 180, 0, 157, 153, 0, 11, 16, 246, 42]
abbrev dktX4_text_3 : List UInt8 := dkwX4_text_3 ++ dktX4_text_4
def dkwX4_text_2 : List UInt8 := [180, 0, 157, 154, 0, 17, 42, 180, 0, 144, 42, 180, 0, 9, 16, 6, 46, 162, 0, 7, 4, 167, 0, 4]
abbrev dktX4_text_2 : List UInt8 := dkwX4_text_2 ++ dktX4_text_3
def dkwX4_text_1 : List UInt8 := [181, 0, 148, 42, 3, 181, 0, 144, 42, 3, 181, 0, 165, 42, 3, 181, 0, 157, 42, 182, 0, 171, 42, 42]
abbrev dktX4_text_1 : List UInt8 := dkwX4_text_1 ++ dktX4_text_2
def dkwX4_text_0 : List UInt8 := [27, 3, 4, 184, 0, 61, 154, 0, 10, 42, 18, 125, 182, 0, 126, 172, 42, 27, 181, 0, 151, 42, 3]
abbrev dktX4_text_0 : List UInt8 := dkwX4_text_0 ++ dktX4_text_1
theorem dksX4_text_0 : cX4_text.data.toList.drop 0 = dktX4_text_0 := by decide +kernel
theorem dksX4_text_1 : cX4_text.data.toList.drop 23 = dktX4_text_1 := dk_seg dksX4_text_0 23 rfl rfl
theorem dksX4_text_2 : cX4_text.data.toList.drop 47 = dktX4_text_2 := dk_seg dksX4_text_1 24 rfl rfl
theorem dksX4_text_3 : cX4_text.data.toList.drop 71 = dktX4_text_3 := dk_seg dksX4_text_2 24 rfl rfl
theorem dksX4_text_4 : cX4_text.data.toList.drop 93 = dktX4_text_4 := dk_seg dksX4_text_3 22 rfl rfl
theorem dksX4_text_5 : cX4_text.data.toList.drop 117 = dktX4_text_5 := dk_seg dksX4_text_4 24 rfl rfl
theorem dksX4_text_6 : cX4_text.data.toList.drop 141 = dktX4_text_6 := dk_seg dksX4_text_5 24 rfl rfl
theorem dksX4_text_7 : cX4_text.data.toList.drop 163 = dktX4_text_7 := dk_seg dksX4_text_6 22 rfl rfl
theorem dX4_text_0 : decode cX4_text 0 = .ok (.iload_n 1, 1) := dk_27 (dk_at dksX4_text_0 0 rfl rfl)
theorem dX4_text_1 : decode cX4_text 1 = .ok (.iconst 0, 1) := dk_3 (dk_at dksX4_text_0 1 rfl rfl)
theorem dX4_text_2 : decode cX4_text 2 = .ok (.iconst 1, 1) := dk_4 (dk_at dksX4_text_0 2 rfl rfl)
theorem dX4_text_3 : decode cX4_text 3 = .ok (.invokestatic 61, 3) := dk_184 0 61 (dk_at dksX4_text_0 3 rfl rfl)
theorem dX4_text_6 : decode cX4_text 6 = .ok (.ifCond .ne 10, 3) := dk_154 0 10 (dk_at dksX4_text_0 6 rfl rfl)
theorem dX4_text_9 : decode cX4_text 9 = .ok (.aload_n 0, 1) := dk_42 (dk_at dksX4_text_0 9 rfl rfl)
theorem dX4_text_10 : decode cX4_text 10 = .ok (.ldc 125, 2) := dk_18 125 (dk_at dksX4_text_0 10 rfl rfl)
theorem dX4_text_12 : decode cX4_text 12 = .ok (.invokevirtual 126, 3) := dk_182 0 126 (dk_at dksX4_text_0 12 rfl rfl)
theorem dX4_text_15 : decode cX4_text 15 = .ok (.ireturn, 1) := dk_172 (dk_at dksX4_text_0 15 rfl rfl)
theorem dX4_text_16 : decode cX4_text 16 = .ok (.aload_n 0, 1) := dk_42 (dk_at dksX4_text_0 16 rfl rfl)
theorem dX4_text_17 : decode cX4_text 17 = .ok (.iload_n 1, 1) := dk_27 (dk_at dksX4_text_0 17 rfl rfl)
theorem dX4_text_18 : decode cX4_text 18 = .ok (.putfield 151, 3) := dk_181 0 151 (dk_at dksX4_text_0 18 rfl rfl)
theorem dX4_text_21 : decode cX4_text 21 = .ok (.aload_n 0, 1) := dk_42 (dk_at dksX4_text_0 21 rfl rfl)
theorem dX4_text_22 : decode cX4_text 22 = .ok (.iconst 0, 1) := dk_3 (dk_at dksX4_text_0 22 rfl rfl)
theorem dX4_text_23 : decode cX4_text 23 = .ok (.putfield 148, 3) := dk_181 0 148 (dk_at dksX4_text_1 0 rfl rfl)
theorem dX4_text_26 : decode cX4_text 26 = .ok (.aload_n 0, 1) := dk_42 (dk_at dksX4_text_1 3 rfl rfl)
theorem dX4_text_27 : decode cX4_text 27 = .ok (.iconst 0, 1) := dk_3 (dk_at dksX4_text_1 4 rfl rfl)
theorem dX4_text_28 : decode cX4_text 28 = .ok (.putfield 144, 3) := dk_181 0 144 (dk_at dksX4_text_1 5 rfl rfl)
theorem dX4_text_31 : decode cX4_text 31 = .ok (.aload_n 0, 1) := dk_42 (dk_at dksX4_text_1 8 rfl rfl)
theorem dX4_text_32 : decode cX4_text 32 = .ok (.iconst 0, 1) := dk_3 (dk_at dksX4_text_1 9 rfl rfl)
theorem dX4_text_33 : decode cX4_text 33 = .ok (.putfield 165, 3) := dk_181 0 165 (dk_at dksX4_text_1 10 rfl rfl)
theorem dX4_text_36 : decode cX4_text 36 = .ok (.aload_n 0, 1) := dk_42 (dk_at dksX4_text_1 13 rfl rfl)
theorem dX4_text_37 : decode cX4_text 37 = .ok (.iconst 0, 1) := dk_3 (dk_at dksX4_text_1 14 rfl rfl)
theorem dX4_text_38 : decode cX4_text 38 = .ok (.putfield 157, 3) := dk_181 0 157 (dk_at dksX4_text_1 15 rfl rfl)
theorem dX4_text_41 : decode cX4_text 41 = .ok (.aload_n 0, 1) := dk_42 (dk_at dksX4_text_1 18 rfl rfl)
theorem dX4_text_42 : decode cX4_text 42 = .ok (.invokevirtual 171, 3) := dk_182 0 171 (dk_at dksX4_text_1 19 rfl rfl)
theorem dX4_text_45 : decode cX4_text 45 = .ok (.aload_n 0, 1) := dk_42 (dk_at dksX4_text_1 22 rfl rfl)
theorem dX4_text_46 : decode cX4_text 46 = .ok (.aload_n 0, 1) := dk_42 (dk_at dksX4_text_1 23 rfl rfl)
theorem dX4_text_47 : decode cX4_text 47 = .ok (.getfield 157, 3) := dk_180 0 157 (dk_at dksX4_text_2 0 rfl rfl)
theorem dX4_text_50 : decode cX4_text 50 = .ok (.ifCond .ne 17, 3) := dk_154 0 17 (dk_at dksX4_text_2 3 rfl rfl)
theorem dX4_text_53 : decode cX4_text 53 = .ok (.aload_n 0, 1) := dk_42 (dk_at dksX4_text_2 6 rfl rfl)
theorem dX4_text_54 : decode cX4_text 54 = .ok (.getfield 144, 3) := dk_180 0 144 (dk_at dksX4_text_2 7 rfl rfl)
theorem dX4_text_57 : decode cX4_text 57 = .ok (.aload_n 0, 1) := dk_42 (dk_at dksX4_text_2 10 rfl rfl)
theorem dX4_text_58 : decode cX4_text 58 = .ok (.getfield 9, 3) := dk_180 0 9 (dk_at dksX4_text_2 11 rfl rfl)
theorem dX4_text_61 : decode cX4_text 61 = .ok (.bipush 6, 2) := dk_16 6 (dk_at dksX4_text_2 14 rfl rfl)
theorem dX4_text_63 : decode cX4_text 63 = .ok (.iaload, 1) := dk_46 (dk_at dksX4_text_2 16 rfl rfl)
theorem dX4_text_64 : decode cX4_text 64 = .ok (.if_icmp .ge 7, 3) := dk_162 0 7 (dk_at dksX4_text_2 17 rfl rfl)
theorem dX4_text_67 : decode cX4_text 67 = .ok (.iconst 1, 1) := dk_4 (dk_at dksX4_text_2 20 rfl rfl)
theorem dX4_text_68 : decode cX4_text 68 = .ok (.goto 4, 3) := dk_167 0 4 (dk_at dksX4_text_2 21 rfl rfl)
theorem dX4_text_71 : decode cX4_text 71 = .ok (.iconst 0, 1) := dk_3 (dk_at dksX4_text_3 0 rfl rfl)
theorem dX4_text_72 : decode cX4_text 72 = .ok (.putfield 157, 3) := dk_181 0 157 (dk_at dksX4_text_3 1 rfl rfl)
theorem dX4_text_75 : decode cX4_text 75 = .ok (.aload_n 0, 1) := dk_42 (dk_at dksX4_text_3 4 rfl rfl)
theorem dX4_text_76 : decode cX4_text 76 = .ok (.getfield 9, 3) := dk_180 0 9 (dk_at dksX4_text_3 5 rfl rfl)
theorem dX4_text_79 : decode cX4_text 79 = .ok (.bipush 6, 2) := dk_16 6 (dk_at dksX4_text_3 8 rfl rfl)
theorem dX4_text_81 : decode cX4_text 81 = .ok (.iconst 0, 1) := dk_3 (dk_at dksX4_text_3 10 rfl rfl)
theorem dX4_text_82 : decode cX4_text 82 = .ok (.iastore, 1) := dk_79 (dk_at dksX4_text_3 11 rfl rfl)
theorem dX4_text_83 : decode cX4_text 83 = .ok (.aload_n 0, 1) := dk_42 (dk_at dksX4_text_3 12 rfl rfl)
theorem dX4_text_84 : decode cX4_text 84 = .ok (.getfield 157, 3) := dk_180 0 157 (dk_at dksX4_text_3 13 rfl rfl)
theorem dX4_text_87 : decode cX4_text 87 = .ok (.ifCond .eq 11, 3) := dk_153 0 11 (dk_at dksX4_text_3 16 rfl rfl)
theorem dX4_text_90 : decode cX4_text 90 = .ok (.bipush (-10), 2) := dk_16 246 (dk_at dksX4_text_3 19 rfl rfl)
theorem dX4_text_92 : decode cX4_text 92 = .ok (.aload_n 0, 1) := dk_42 (dk_at dksX4_text_3 21 rfl rfl)
theorem dX4_text_93 : decode cX4_text 93 = .ok (.getfield 144, 3) := dk_180 0 144 (dk_at dksX4_text_4 0 rfl rfl)
theorem dX4_text_96 : decode cX4_text 96 = .ok (.isub, 1) := dk_100 (dk_at dksX4_text_4 3 rfl rfl)
theorem dX4_text_97 : decode cX4_text 97 = .ok (.ireturn, 1) := dk_172 (dk_at dksX4_text_4 4 rfl rfl)
theorem dX4_text_98 : decode cX4_text 98 = .ok (.sipush 140, 3) := dk_17 0 140 (dk_at dksX4_text_4 5 rfl rfl)
theorem dX4_text_101 : decode cX4_text 101 = .ok (.bipush 121, 2) := dk_16 121 (dk_at dksX4_text_4 8 rfl rfl)
theorem dX4_text_103 : decode cX4_text 103 = .ok (.iload_n 1, 1) := dk_27 (dk_at dksX4_text_4 10 rfl rfl)
theorem dX4_text_104 : decode cX4_text 104 = .ok (.imul, 1) := dk_104 (dk_at dksX4_text_4 11 rfl rfl)
theorem dX4_text_105 : decode cX4_text 105 = .ok (.iadd, 1) := dk_96 (dk_at dksX4_text_4 12 rfl rfl)
theorem dX4_text_106 : decode cX4_text 106 = .ok (.istore_n 2, 1) := dk_61 (dk_at dksX4_text_4 13 rfl rfl)
theorem dX4_text_107 : decode cX4_text 107 = .ok (.aload_n 0, 1) := dk_42 (dk_at dksX4_text_4 14 rfl rfl)
theorem dX4_text_108 : decode cX4_text 108 = .ok (.getfield 9, 3) := dk_180 0 9 (dk_at dksX4_text_4 15 rfl rfl)
theorem dX4_text_111 : decode cX4_text 111 = .ok (.iload_n 2, 1) := dk_28 (dk_at dksX4_text_4 18 rfl rfl)
theorem dX4_text_112 : decode cX4_text 112 = .ok (.aload_n 0, 1) := dk_42 (dk_at dksX4_text_4 19 rfl rfl)
theorem dX4_text_113 : decode cX4_text 113 = .ok (.getfield 148, 3) := dk_180 0 148 (dk_at dksX4_text_4 20 rfl rfl)
theorem dX4_text_116 : decode cX4_text 116 = .ok (.iastore, 1) := dk_79 (dk_at dksX4_text_4 23 rfl rfl)
theorem dX4_text_117 : decode cX4_text 117 = .ok (.iconst 0, 1) := dk_3 (dk_at dksX4_text_5 0 rfl rfl)
theorem dX4_text_118 : decode cX4_text 118 = .ok (.istore_n 3, 1) := dk_62 (dk_at dksX4_text_5 1 rfl rfl)
theorem dX4_text_119 : decode cX4_text 119 = .ok (.iload_n 3, 1) := dk_29 (dk_at dksX4_text_5 2 rfl rfl)
theorem dX4_text_120 : decode cX4_text 120 = .ok (.aload_n 0, 1) := dk_42 (dk_at dksX4_text_5 3 rfl rfl)
theorem dX4_text_121 : decode cX4_text 121 = .ok (.getfield 148, 3) := dk_180 0 148 (dk_at dksX4_text_5 4 rfl rfl)
theorem dX4_text_124 : decode cX4_text 124 = .ok (.if_icmp .ge 42, 3) := dk_162 0 42 (dk_at dksX4_text_5 7 rfl rfl)
theorem dX4_text_127 : decode cX4_text 127 = .ok (.aload_n 0, 1) := dk_42 (dk_at dksX4_text_5 10 rfl rfl)
theorem dX4_text_128 : decode cX4_text 128 = .ok (.getfield 9, 3) := dk_180 0 9 (dk_at dksX4_text_5 11 rfl rfl)
theorem dX4_text_131 : decode cX4_text 131 = .ok (.iload_n 2, 1) := dk_28 (dk_at dksX4_text_5 14 rfl rfl)
theorem dX4_text_132 : decode cX4_text 132 = .ok (.iconst 1, 1) := dk_4 (dk_at dksX4_text_5 15 rfl rfl)
theorem dX4_text_133 : decode cX4_text 133 = .ok (.iadd, 1) := dk_96 (dk_at dksX4_text_5 16 rfl rfl)
theorem dX4_text_134 : decode cX4_text 134 = .ok (.iload_n 3, 1) := dk_29 (dk_at dksX4_text_5 17 rfl rfl)
theorem dX4_text_135 : decode cX4_text 135 = .ok (.iadd, 1) := dk_96 (dk_at dksX4_text_5 18 rfl rfl)
theorem dX4_text_136 : decode cX4_text 136 = .ok (.aload_n 0, 1) := dk_42 (dk_at dksX4_text_5 19 rfl rfl)
theorem dX4_text_137 : decode cX4_text 137 = .ok (.getfield 41, 3) := dk_180 0 41 (dk_at dksX4_text_5 20 rfl rfl)
theorem dX4_text_140 : decode cX4_text 140 = .ok (.iload_n 3, 1) := dk_29 (dk_at dksX4_text_5 23 rfl rfl)
theorem dX4_text_141 : decode cX4_text 141 = .ok (.iaload, 1) := dk_46 (dk_at dksX4_text_6 0 rfl rfl)
theorem dX4_text_142 : decode cX4_text 142 = .ok (.iastore, 1) := dk_79 (dk_at dksX4_text_6 1 rfl rfl)
theorem dX4_text_143 : decode cX4_text 143 = .ok (.aload_n 0, 1) := dk_42 (dk_at dksX4_text_6 2 rfl rfl)
theorem dX4_text_144 : decode cX4_text 144 = .ok (.getfield 9, 3) := dk_180 0 9 (dk_at dksX4_text_6 3 rfl rfl)
theorem dX4_text_147 : decode cX4_text 147 = .ok (.iload_n 2, 1) := dk_28 (dk_at dksX4_text_6 6 rfl rfl)
theorem dX4_text_148 : decode cX4_text 148 = .ok (.bipush 61, 2) := dk_16 61 (dk_at dksX4_text_6 7 rfl rfl)
theorem dX4_text_150 : decode cX4_text 150 = .ok (.iadd, 1) := dk_96 (dk_at dksX4_text_6 9 rfl rfl)
theorem dX4_text_151 : decode cX4_text 151 = .ok (.iload_n 3, 1) := dk_29 (dk_at dksX4_text_6 10 rfl rfl)
theorem dX4_text_152 : decode cX4_text 152 = .ok (.iadd, 1) := dk_96 (dk_at dksX4_text_6 11 rfl rfl)
theorem dX4_text_153 : decode cX4_text 153 = .ok (.aload_n 0, 1) := dk_42 (dk_at dksX4_text_6 12 rfl rfl)
theorem dX4_text_154 : decode cX4_text 154 = .ok (.getfield 44, 3) := dk_180 0 44 (dk_at dksX4_text_6 13 rfl rfl)
theorem dX4_text_157 : decode cX4_text 157 = .ok (.iload_n 3, 1) := dk_29 (dk_at dksX4_text_6 16 rfl rfl)
theorem dX4_text_158 : decode cX4_text 158 = .ok (.iaload, 1) := dk_46 (dk_at dksX4_text_6 17 rfl rfl)
theorem dX4_text_159 : decode cX4_text 159 = .ok (.iastore, 1) := dk_79 (dk_at dksX4_text_6 18 rfl rfl)
theorem dX4_text_160 : decode cX4_text 160 = .ok (.iinc 3 1, 3) := dk_132 3 1 (dk_at dksX4_text_6 19 rfl rfl)
theorem dX4_text_163 : decode cX4_text 163 = .ok (.goto (-44), 3) := dk_167 255 212 (dk_at dksX4_text_7 0 rfl rfl)
theorem dX4_text_166 : decode cX4_text 166 = .ok (.iconst 1, 1) := dk_4 (dk_at dksX4_text_7 3 rfl rfl)
theorem dX4_text_167 : decode cX4_text 167 = .ok (.ireturn, 1) := dk_172 (dk_at dksX4_text_7 4 rfl rfl)
abbrev cX4_any : ByteArray := prog_19_method_50_code
def yX4_any : MethodName := ⟨RX4, "any", "()V"⟩
def dkwX4_any_1 : List UInt8 := [180, 0, 144, 4, 96, 181, 0, 144, 42, 182, 0, 192, 42, 16, 124, 3, 182, 0, 161, 167, 255, 219, 177]
abbrev dktX4_any_1 : List UInt8 := dkwX4_any_1 ++ []
def dkwX4_any_0 : List UInt8 := [42, 182, 0, 192, 42, 180, 0, 157, 154, 0, 36, 42, 182, 0, 154, 16, 124, 160, 0, 27, 42, 89]
abbrev dktX4_any_0 : List UInt8 := dkwX4_any_0 ++ dktX4_any_1
theorem dksX4_any_0 : cX4_any.data.toList.drop 0 = dktX4_any_0 := by decide +kernel
theorem dksX4_any_1 : cX4_any.data.toList.drop 22 = dktX4_any_1 := dk_seg dksX4_any_0 22 rfl rfl
theorem dX4_any_0 : decode cX4_any 0 = .ok (.aload_n 0, 1) := dk_42 (dk_at dksX4_any_0 0 rfl rfl)
theorem dX4_any_1 : decode cX4_any 1 = .ok (.invokevirtual 192, 3) := dk_182 0 192 (dk_at dksX4_any_0 1 rfl rfl)
theorem dX4_any_4 : decode cX4_any 4 = .ok (.aload_n 0, 1) := dk_42 (dk_at dksX4_any_0 4 rfl rfl)
theorem dX4_any_5 : decode cX4_any 5 = .ok (.getfield 157, 3) := dk_180 0 157 (dk_at dksX4_any_0 5 rfl rfl)
theorem dX4_any_8 : decode cX4_any 8 = .ok (.ifCond .ne 36, 3) := dk_154 0 36 (dk_at dksX4_any_0 8 rfl rfl)
theorem dX4_any_11 : decode cX4_any 11 = .ok (.aload_n 0, 1) := dk_42 (dk_at dksX4_any_0 11 rfl rfl)
theorem dX4_any_12 : decode cX4_any 12 = .ok (.invokevirtual 154, 3) := dk_182 0 154 (dk_at dksX4_any_0 12 rfl rfl)
theorem dX4_any_15 : decode cX4_any 15 = .ok (.bipush 124, 2) := dk_16 124 (dk_at dksX4_any_0 15 rfl rfl)
theorem dX4_any_17 : decode cX4_any 17 = .ok (.if_icmp .ne 27, 3) := dk_160 0 27 (dk_at dksX4_any_0 17 rfl rfl)
theorem dX4_any_20 : decode cX4_any 20 = .ok (.aload_n 0, 1) := dk_42 (dk_at dksX4_any_0 20 rfl rfl)
theorem dX4_any_21 : decode cX4_any 21 = .ok (.dup, 1) := dk_89 (dk_at dksX4_any_0 21 rfl rfl)
theorem dX4_any_22 : decode cX4_any 22 = .ok (.getfield 144, 3) := dk_180 0 144 (dk_at dksX4_any_1 0 rfl rfl)
theorem dX4_any_25 : decode cX4_any 25 = .ok (.iconst 1, 1) := dk_4 (dk_at dksX4_any_1 3 rfl rfl)
theorem dX4_any_26 : decode cX4_any 26 = .ok (.iadd, 1) := dk_96 (dk_at dksX4_any_1 4 rfl rfl)
theorem dX4_any_27 : decode cX4_any 27 = .ok (.putfield 144, 3) := dk_181 0 144 (dk_at dksX4_any_1 5 rfl rfl)
theorem dX4_any_30 : decode cX4_any 30 = .ok (.aload_n 0, 1) := dk_42 (dk_at dksX4_any_1 8 rfl rfl)
theorem dX4_any_31 : decode cX4_any 31 = .ok (.invokevirtual 192, 3) := dk_182 0 192 (dk_at dksX4_any_1 9 rfl rfl)
theorem dX4_any_34 : decode cX4_any 34 = .ok (.aload_n 0, 1) := dk_42 (dk_at dksX4_any_1 12 rfl rfl)
theorem dX4_any_35 : decode cX4_any 35 = .ok (.bipush 124, 2) := dk_16 124 (dk_at dksX4_any_1 13 rfl rfl)
theorem dX4_any_37 : decode cX4_any 37 = .ok (.iconst 0, 1) := dk_3 (dk_at dksX4_any_1 15 rfl rfl)
theorem dX4_any_38 : decode cX4_any 38 = .ok (.invokevirtual 161, 3) := dk_182 0 161 (dk_at dksX4_any_1 16 rfl rfl)
theorem dX4_any_41 : decode cX4_any 41 = .ok (.goto (-37), 3) := dk_167 255 219 (dk_at dksX4_any_1 19 rfl rfl)
theorem dX4_any_44 : decode cX4_any 44 = .ok (.return_, 1) := dk_177 (dk_at dksX4_any_1 22 rfl rfl)
abbrev cX4_all : ByteArray := prog_19_method_49_code
def yX4_all : MethodName := ⟨RX4, "all", "()V"⟩
def dkwX4_all_1 : List UInt8 := [180, 0, 144, 4, 96, 181, 0, 144, 42, 182, 0, 189, 42, 16, 38, 3, 182, 0, 161, 167, 255, 219, 177]
abbrev dktX4_all_1 : List UInt8 := dkwX4_all_1 ++ []
def dkwX4_all_0 : List UInt8 := [42, 182, 0, 189, 42, 180, 0, 157, 154, 0, 36, 42, 182, 0, 154, 16, 38, 160, 0, 27, 42, 89]
abbrev dktX4_all_0 : List UInt8 := dkwX4_all_0 ++ dktX4_all_1
theorem dksX4_all_0 : cX4_all.data.toList.drop 0 = dktX4_all_0 := by decide +kernel
theorem dksX4_all_1 : cX4_all.data.toList.drop 22 = dktX4_all_1 := dk_seg dksX4_all_0 22 rfl rfl
theorem dX4_all_0 : decode cX4_all 0 = .ok (.aload_n 0, 1) := dk_42 (dk_at dksX4_all_0 0 rfl rfl)
theorem dX4_all_1 : decode cX4_all 1 = .ok (.invokevirtual 189, 3) := dk_182 0 189 (dk_at dksX4_all_0 1 rfl rfl)
theorem dX4_all_4 : decode cX4_all 4 = .ok (.aload_n 0, 1) := dk_42 (dk_at dksX4_all_0 4 rfl rfl)
theorem dX4_all_5 : decode cX4_all 5 = .ok (.getfield 157, 3) := dk_180 0 157 (dk_at dksX4_all_0 5 rfl rfl)
theorem dX4_all_8 : decode cX4_all 8 = .ok (.ifCond .ne 36, 3) := dk_154 0 36 (dk_at dksX4_all_0 8 rfl rfl)
theorem dX4_all_11 : decode cX4_all 11 = .ok (.aload_n 0, 1) := dk_42 (dk_at dksX4_all_0 11 rfl rfl)
theorem dX4_all_12 : decode cX4_all 12 = .ok (.invokevirtual 154, 3) := dk_182 0 154 (dk_at dksX4_all_0 12 rfl rfl)
theorem dX4_all_15 : decode cX4_all 15 = .ok (.bipush 38, 2) := dk_16 38 (dk_at dksX4_all_0 15 rfl rfl)
theorem dX4_all_17 : decode cX4_all 17 = .ok (.if_icmp .ne 27, 3) := dk_160 0 27 (dk_at dksX4_all_0 17 rfl rfl)
theorem dX4_all_20 : decode cX4_all 20 = .ok (.aload_n 0, 1) := dk_42 (dk_at dksX4_all_0 20 rfl rfl)
theorem dX4_all_21 : decode cX4_all 21 = .ok (.dup, 1) := dk_89 (dk_at dksX4_all_0 21 rfl rfl)
theorem dX4_all_22 : decode cX4_all 22 = .ok (.getfield 144, 3) := dk_180 0 144 (dk_at dksX4_all_1 0 rfl rfl)
theorem dX4_all_25 : decode cX4_all 25 = .ok (.iconst 1, 1) := dk_4 (dk_at dksX4_all_1 3 rfl rfl)
theorem dX4_all_26 : decode cX4_all 26 = .ok (.iadd, 1) := dk_96 (dk_at dksX4_all_1 4 rfl rfl)
theorem dX4_all_27 : decode cX4_all 27 = .ok (.putfield 144, 3) := dk_181 0 144 (dk_at dksX4_all_1 5 rfl rfl)
theorem dX4_all_30 : decode cX4_all 30 = .ok (.aload_n 0, 1) := dk_42 (dk_at dksX4_all_1 8 rfl rfl)
theorem dX4_all_31 : decode cX4_all 31 = .ok (.invokevirtual 189, 3) := dk_182 0 189 (dk_at dksX4_all_1 9 rfl rfl)
theorem dX4_all_34 : decode cX4_all 34 = .ok (.aload_n 0, 1) := dk_42 (dk_at dksX4_all_1 12 rfl rfl)
theorem dX4_all_35 : decode cX4_all 35 = .ok (.bipush 38, 2) := dk_16 38 (dk_at dksX4_all_1 13 rfl rfl)
theorem dX4_all_37 : decode cX4_all 37 = .ok (.iconst 0, 1) := dk_3 (dk_at dksX4_all_1 15 rfl rfl)
theorem dX4_all_38 : decode cX4_all 38 = .ok (.invokevirtual 161, 3) := dk_182 0 161 (dk_at dksX4_all_1 16 rfl rfl)
theorem dX4_all_41 : decode cX4_all 41 = .ok (.goto (-37), 3) := dk_167 255 219 (dk_at dksX4_all_1 19 rfl rfl)
theorem dX4_all_44 : decode cX4_all 44 = .ok (.return_, 1) := dk_177 (dk_at dksX4_all_1 22 rfl rfl)
abbrev cX4_compares : ByteArray := prog_19_method_48_code
def yX4_compares : MethodName := ⟨RX4, "compares", "()V"⟩
def dkwX4_compares_2 : List UInt8 := [182, 0, 186, 42, 27, 3, 182, 0, 161, 177]
abbrev dktX4_compares_2 : List UInt8 := dkwX4_compares_2 ++ []
def dkwX4_compares_1 : List UInt8 := [16, 61, 159, 0, 9, 27, 16, 62, 160, 0, 23, 42, 89, 180, 0, 144, 4, 96, 181, 0, 144, 42]
abbrev dktX4_compares_1 : List UInt8 := dkwX4_compares_1 ++ dktX4_compares_2
def dkwX4_compares_0 : List UInt8 := [42, 182, 0, 186, 42, 182, 0, 154, 60, 42, 180, 0, 157, 154, 0, 41, 27, 16, 60, 159, 0, 15, 27]
abbrev dktX4_compares_0 : List UInt8 := dkwX4_compares_0 ++ dktX4_compares_1
theorem dksX4_compares_0 : cX4_compares.data.toList.drop 0 = dktX4_compares_0 := by decide +kernel
theorem dksX4_compares_1 : cX4_compares.data.toList.drop 23 = dktX4_compares_1 := dk_seg dksX4_compares_0 23 rfl rfl
theorem dksX4_compares_2 : cX4_compares.data.toList.drop 45 = dktX4_compares_2 := dk_seg dksX4_compares_1 22 rfl rfl
theorem dX4_compares_0 : decode cX4_compares 0 = .ok (.aload_n 0, 1) := dk_42 (dk_at dksX4_compares_0 0 rfl rfl)
theorem dX4_compares_1 : decode cX4_compares 1 = .ok (.invokevirtual 186, 3) := dk_182 0 186 (dk_at dksX4_compares_0 1 rfl rfl)
theorem dX4_compares_4 : decode cX4_compares 4 = .ok (.aload_n 0, 1) := dk_42 (dk_at dksX4_compares_0 4 rfl rfl)
theorem dX4_compares_5 : decode cX4_compares 5 = .ok (.invokevirtual 154, 3) := dk_182 0 154 (dk_at dksX4_compares_0 5 rfl rfl)
theorem dX4_compares_8 : decode cX4_compares 8 = .ok (.istore_n 1, 1) := dk_60 (dk_at dksX4_compares_0 8 rfl rfl)
theorem dX4_compares_9 : decode cX4_compares 9 = .ok (.aload_n 0, 1) := dk_42 (dk_at dksX4_compares_0 9 rfl rfl)
theorem dX4_compares_10 : decode cX4_compares 10 = .ok (.getfield 157, 3) := dk_180 0 157 (dk_at dksX4_compares_0 10 rfl rfl)
theorem dX4_compares_13 : decode cX4_compares 13 = .ok (.ifCond .ne 41, 3) := dk_154 0 41 (dk_at dksX4_compares_0 13 rfl rfl)
theorem dX4_compares_16 : decode cX4_compares 16 = .ok (.iload_n 1, 1) := dk_27 (dk_at dksX4_compares_0 16 rfl rfl)
theorem dX4_compares_17 : decode cX4_compares 17 = .ok (.bipush 60, 2) := dk_16 60 (dk_at dksX4_compares_0 17 rfl rfl)
theorem dX4_compares_19 : decode cX4_compares 19 = .ok (.if_icmp .eq 15, 3) := dk_159 0 15 (dk_at dksX4_compares_0 19 rfl rfl)
theorem dX4_compares_22 : decode cX4_compares 22 = .ok (.iload_n 1, 1) := dk_27 (dk_at dksX4_compares_0 22 rfl rfl)
theorem dX4_compares_23 : decode cX4_compares 23 = .ok (.bipush 61, 2) := dk_16 61 (dk_at dksX4_compares_1 0 rfl rfl)
theorem dX4_compares_25 : decode cX4_compares 25 = .ok (.if_icmp .eq 9, 3) := dk_159 0 9 (dk_at dksX4_compares_1 2 rfl rfl)
theorem dX4_compares_28 : decode cX4_compares 28 = .ok (.iload_n 1, 1) := dk_27 (dk_at dksX4_compares_1 5 rfl rfl)
theorem dX4_compares_29 : decode cX4_compares 29 = .ok (.bipush 62, 2) := dk_16 62 (dk_at dksX4_compares_1 6 rfl rfl)
theorem dX4_compares_31 : decode cX4_compares 31 = .ok (.if_icmp .ne 23, 3) := dk_160 0 23 (dk_at dksX4_compares_1 8 rfl rfl)
theorem dX4_compares_34 : decode cX4_compares 34 = .ok (.aload_n 0, 1) := dk_42 (dk_at dksX4_compares_1 11 rfl rfl)
theorem dX4_compares_35 : decode cX4_compares 35 = .ok (.dup, 1) := dk_89 (dk_at dksX4_compares_1 12 rfl rfl)
theorem dX4_compares_36 : decode cX4_compares 36 = .ok (.getfield 144, 3) := dk_180 0 144 (dk_at dksX4_compares_1 13 rfl rfl)
theorem dX4_compares_39 : decode cX4_compares 39 = .ok (.iconst 1, 1) := dk_4 (dk_at dksX4_compares_1 16 rfl rfl)
theorem dX4_compares_40 : decode cX4_compares 40 = .ok (.iadd, 1) := dk_96 (dk_at dksX4_compares_1 17 rfl rfl)
theorem dX4_compares_41 : decode cX4_compares 41 = .ok (.putfield 144, 3) := dk_181 0 144 (dk_at dksX4_compares_1 18 rfl rfl)
theorem dX4_compares_44 : decode cX4_compares 44 = .ok (.aload_n 0, 1) := dk_42 (dk_at dksX4_compares_1 21 rfl rfl)
theorem dX4_compares_45 : decode cX4_compares 45 = .ok (.invokevirtual 186, 3) := dk_182 0 186 (dk_at dksX4_compares_2 0 rfl rfl)
theorem dX4_compares_48 : decode cX4_compares 48 = .ok (.aload_n 0, 1) := dk_42 (dk_at dksX4_compares_2 3 rfl rfl)
theorem dX4_compares_49 : decode cX4_compares 49 = .ok (.iload_n 1, 1) := dk_27 (dk_at dksX4_compares_2 4 rfl rfl)
theorem dX4_compares_50 : decode cX4_compares 50 = .ok (.iconst 0, 1) := dk_3 (dk_at dksX4_compares_2 5 rfl rfl)
theorem dX4_compares_51 : decode cX4_compares 51 = .ok (.invokevirtual 161, 3) := dk_182 0 161 (dk_at dksX4_compares_2 6 rfl rfl)
theorem dX4_compares_54 : decode cX4_compares 54 = .ok (.return_, 1) := dk_177 (dk_at dksX4_compares_2 9 rfl rfl)
abbrev cX4_sumBy : ByteArray := prog_19_method_47_code
def yX4_sumBy : MethodName := ⟨RX4, "sumBy", "()V"⟩
def dkwX4_sumBy_2 : List UInt8 := [42, 27, 3, 182, 0, 161, 167, 255, 206, 177]
abbrev dktX4_sumBy_2 : List UInt8 := dkwX4_sumBy_2 ++ []
def dkwX4_sumBy_1 : List UInt8 := [16, 45, 160, 0, 31, 42, 182, 0, 154, 60, 42, 89, 180, 0, 144, 4, 96, 181, 0, 144, 42, 182, 0, 183]
abbrev dktX4_sumBy_1 : List UInt8 := dkwX4_sumBy_1 ++ dktX4_sumBy_2
def dkwX4_sumBy_0 : List UInt8 := [42, 182, 0, 183, 42, 180, 0, 157, 154, 0, 49, 42, 182, 0, 154, 16, 43, 159, 0, 12, 42, 182, 0, 154]
abbrev dktX4_sumBy_0 : List UInt8 := dkwX4_sumBy_0 ++ dktX4_sumBy_1
theorem dksX4_sumBy_0 : cX4_sumBy.data.toList.drop 0 = dktX4_sumBy_0 := by decide +kernel
theorem dksX4_sumBy_1 : cX4_sumBy.data.toList.drop 24 = dktX4_sumBy_1 := dk_seg dksX4_sumBy_0 24 rfl rfl
theorem dksX4_sumBy_2 : cX4_sumBy.data.toList.drop 48 = dktX4_sumBy_2 := dk_seg dksX4_sumBy_1 24 rfl rfl
theorem dX4_sumBy_0 : decode cX4_sumBy 0 = .ok (.aload_n 0, 1) := dk_42 (dk_at dksX4_sumBy_0 0 rfl rfl)
theorem dX4_sumBy_1 : decode cX4_sumBy 1 = .ok (.invokevirtual 183, 3) := dk_182 0 183 (dk_at dksX4_sumBy_0 1 rfl rfl)
theorem dX4_sumBy_4 : decode cX4_sumBy 4 = .ok (.aload_n 0, 1) := dk_42 (dk_at dksX4_sumBy_0 4 rfl rfl)
theorem dX4_sumBy_5 : decode cX4_sumBy 5 = .ok (.getfield 157, 3) := dk_180 0 157 (dk_at dksX4_sumBy_0 5 rfl rfl)
theorem dX4_sumBy_8 : decode cX4_sumBy 8 = .ok (.ifCond .ne 49, 3) := dk_154 0 49 (dk_at dksX4_sumBy_0 8 rfl rfl)
theorem dX4_sumBy_11 : decode cX4_sumBy 11 = .ok (.aload_n 0, 1) := dk_42 (dk_at dksX4_sumBy_0 11 rfl rfl)
theorem dX4_sumBy_12 : decode cX4_sumBy 12 = .ok (.invokevirtual 154, 3) := dk_182 0 154 (dk_at dksX4_sumBy_0 12 rfl rfl)
theorem dX4_sumBy_15 : decode cX4_sumBy 15 = .ok (.bipush 43, 2) := dk_16 43 (dk_at dksX4_sumBy_0 15 rfl rfl)
theorem dX4_sumBy_17 : decode cX4_sumBy 17 = .ok (.if_icmp .eq 12, 3) := dk_159 0 12 (dk_at dksX4_sumBy_0 17 rfl rfl)
theorem dX4_sumBy_20 : decode cX4_sumBy 20 = .ok (.aload_n 0, 1) := dk_42 (dk_at dksX4_sumBy_0 20 rfl rfl)
theorem dX4_sumBy_21 : decode cX4_sumBy 21 = .ok (.invokevirtual 154, 3) := dk_182 0 154 (dk_at dksX4_sumBy_0 21 rfl rfl)
theorem dX4_sumBy_24 : decode cX4_sumBy 24 = .ok (.bipush 45, 2) := dk_16 45 (dk_at dksX4_sumBy_1 0 rfl rfl)
theorem dX4_sumBy_26 : decode cX4_sumBy 26 = .ok (.if_icmp .ne 31, 3) := dk_160 0 31 (dk_at dksX4_sumBy_1 2 rfl rfl)
theorem dX4_sumBy_29 : decode cX4_sumBy 29 = .ok (.aload_n 0, 1) := dk_42 (dk_at dksX4_sumBy_1 5 rfl rfl)
theorem dX4_sumBy_30 : decode cX4_sumBy 30 = .ok (.invokevirtual 154, 3) := dk_182 0 154 (dk_at dksX4_sumBy_1 6 rfl rfl)
theorem dX4_sumBy_33 : decode cX4_sumBy 33 = .ok (.istore_n 1, 1) := dk_60 (dk_at dksX4_sumBy_1 9 rfl rfl)
theorem dX4_sumBy_34 : decode cX4_sumBy 34 = .ok (.aload_n 0, 1) := dk_42 (dk_at dksX4_sumBy_1 10 rfl rfl)
theorem dX4_sumBy_35 : decode cX4_sumBy 35 = .ok (.dup, 1) := dk_89 (dk_at dksX4_sumBy_1 11 rfl rfl)
theorem dX4_sumBy_36 : decode cX4_sumBy 36 = .ok (.getfield 144, 3) := dk_180 0 144 (dk_at dksX4_sumBy_1 12 rfl rfl)
theorem dX4_sumBy_39 : decode cX4_sumBy 39 = .ok (.iconst 1, 1) := dk_4 (dk_at dksX4_sumBy_1 15 rfl rfl)
theorem dX4_sumBy_40 : decode cX4_sumBy 40 = .ok (.iadd, 1) := dk_96 (dk_at dksX4_sumBy_1 16 rfl rfl)
theorem dX4_sumBy_41 : decode cX4_sumBy 41 = .ok (.putfield 144, 3) := dk_181 0 144 (dk_at dksX4_sumBy_1 17 rfl rfl)
theorem dX4_sumBy_44 : decode cX4_sumBy 44 = .ok (.aload_n 0, 1) := dk_42 (dk_at dksX4_sumBy_1 20 rfl rfl)
theorem dX4_sumBy_45 : decode cX4_sumBy 45 = .ok (.invokevirtual 183, 3) := dk_182 0 183 (dk_at dksX4_sumBy_1 21 rfl rfl)
theorem dX4_sumBy_48 : decode cX4_sumBy 48 = .ok (.aload_n 0, 1) := dk_42 (dk_at dksX4_sumBy_2 0 rfl rfl)
theorem dX4_sumBy_49 : decode cX4_sumBy 49 = .ok (.iload_n 1, 1) := dk_27 (dk_at dksX4_sumBy_2 1 rfl rfl)
theorem dX4_sumBy_50 : decode cX4_sumBy 50 = .ok (.iconst 0, 1) := dk_3 (dk_at dksX4_sumBy_2 2 rfl rfl)
theorem dX4_sumBy_51 : decode cX4_sumBy 51 = .ok (.invokevirtual 161, 3) := dk_182 0 161 (dk_at dksX4_sumBy_2 3 rfl rfl)
theorem dX4_sumBy_54 : decode cX4_sumBy 54 = .ok (.goto (-50), 3) := dk_167 255 206 (dk_at dksX4_sumBy_2 6 rfl rfl)
theorem dX4_sumBy_57 : decode cX4_sumBy 57 = .ok (.return_, 1) := dk_177 (dk_at dksX4_sumBy_2 9 rfl rfl)
abbrev cX4_times : ByteArray := prog_19_method_46_code
def yX4_times : MethodName := ⟨RX4, "times", "()V"⟩
def dkwX4_times_2 : List UInt8 := [4, 96, 181, 0, 144, 42, 182, 0, 168, 42, 27, 3, 182, 0, 161, 167, 255, 197, 177]
abbrev dktX4_times_2 : List UInt8 := dkwX4_times_2 ++ []
def dkwX4_times_1 : List UInt8 := [16, 47, 159, 0, 12, 42, 182, 0, 154, 16, 37, 160, 0, 31, 42, 182, 0, 154, 60, 42, 89, 180, 0, 144]
abbrev dktX4_times_1 : List UInt8 := dkwX4_times_1 ++ dktX4_times_2
def dkwX4_times_0 : List UInt8 := [42, 182, 0, 168, 42, 180, 0, 157, 154, 0, 58, 42, 182, 0, 154, 16, 42, 159, 0, 21, 42, 182, 0, 154]
abbrev dktX4_times_0 : List UInt8 := dkwX4_times_0 ++ dktX4_times_1
theorem dksX4_times_0 : cX4_times.data.toList.drop 0 = dktX4_times_0 := by decide +kernel
theorem dksX4_times_1 : cX4_times.data.toList.drop 24 = dktX4_times_1 := dk_seg dksX4_times_0 24 rfl rfl
theorem dksX4_times_2 : cX4_times.data.toList.drop 48 = dktX4_times_2 := dk_seg dksX4_times_1 24 rfl rfl
theorem dX4_times_0 : decode cX4_times 0 = .ok (.aload_n 0, 1) := dk_42 (dk_at dksX4_times_0 0 rfl rfl)
theorem dX4_times_1 : decode cX4_times 1 = .ok (.invokevirtual 168, 3) := dk_182 0 168 (dk_at dksX4_times_0 1 rfl rfl)
theorem dX4_times_4 : decode cX4_times 4 = .ok (.aload_n 0, 1) := dk_42 (dk_at dksX4_times_0 4 rfl rfl)
theorem dX4_times_5 : decode cX4_times 5 = .ok (.getfield 157, 3) := dk_180 0 157 (dk_at dksX4_times_0 5 rfl rfl)
theorem dX4_times_8 : decode cX4_times 8 = .ok (.ifCond .ne 58, 3) := dk_154 0 58 (dk_at dksX4_times_0 8 rfl rfl)
theorem dX4_times_11 : decode cX4_times 11 = .ok (.aload_n 0, 1) := dk_42 (dk_at dksX4_times_0 11 rfl rfl)
theorem dX4_times_12 : decode cX4_times 12 = .ok (.invokevirtual 154, 3) := dk_182 0 154 (dk_at dksX4_times_0 12 rfl rfl)
theorem dX4_times_15 : decode cX4_times 15 = .ok (.bipush 42, 2) := dk_16 42 (dk_at dksX4_times_0 15 rfl rfl)
theorem dX4_times_17 : decode cX4_times 17 = .ok (.if_icmp .eq 21, 3) := dk_159 0 21 (dk_at dksX4_times_0 17 rfl rfl)
theorem dX4_times_20 : decode cX4_times 20 = .ok (.aload_n 0, 1) := dk_42 (dk_at dksX4_times_0 20 rfl rfl)
theorem dX4_times_21 : decode cX4_times 21 = .ok (.invokevirtual 154, 3) := dk_182 0 154 (dk_at dksX4_times_0 21 rfl rfl)
theorem dX4_times_24 : decode cX4_times 24 = .ok (.bipush 47, 2) := dk_16 47 (dk_at dksX4_times_1 0 rfl rfl)
theorem dX4_times_26 : decode cX4_times 26 = .ok (.if_icmp .eq 12, 3) := dk_159 0 12 (dk_at dksX4_times_1 2 rfl rfl)
theorem dX4_times_29 : decode cX4_times 29 = .ok (.aload_n 0, 1) := dk_42 (dk_at dksX4_times_1 5 rfl rfl)
theorem dX4_times_30 : decode cX4_times 30 = .ok (.invokevirtual 154, 3) := dk_182 0 154 (dk_at dksX4_times_1 6 rfl rfl)
theorem dX4_times_33 : decode cX4_times 33 = .ok (.bipush 37, 2) := dk_16 37 (dk_at dksX4_times_1 9 rfl rfl)
theorem dX4_times_35 : decode cX4_times 35 = .ok (.if_icmp .ne 31, 3) := dk_160 0 31 (dk_at dksX4_times_1 11 rfl rfl)
theorem dX4_times_38 : decode cX4_times 38 = .ok (.aload_n 0, 1) := dk_42 (dk_at dksX4_times_1 14 rfl rfl)
theorem dX4_times_39 : decode cX4_times 39 = .ok (.invokevirtual 154, 3) := dk_182 0 154 (dk_at dksX4_times_1 15 rfl rfl)
theorem dX4_times_42 : decode cX4_times 42 = .ok (.istore_n 1, 1) := dk_60 (dk_at dksX4_times_1 18 rfl rfl)
theorem dX4_times_43 : decode cX4_times 43 = .ok (.aload_n 0, 1) := dk_42 (dk_at dksX4_times_1 19 rfl rfl)
theorem dX4_times_44 : decode cX4_times 44 = .ok (.dup, 1) := dk_89 (dk_at dksX4_times_1 20 rfl rfl)
theorem dX4_times_45 : decode cX4_times 45 = .ok (.getfield 144, 3) := dk_180 0 144 (dk_at dksX4_times_1 21 rfl rfl)
theorem dX4_times_48 : decode cX4_times 48 = .ok (.iconst 1, 1) := dk_4 (dk_at dksX4_times_2 0 rfl rfl)
theorem dX4_times_49 : decode cX4_times 49 = .ok (.iadd, 1) := dk_96 (dk_at dksX4_times_2 1 rfl rfl)
theorem dX4_times_50 : decode cX4_times 50 = .ok (.putfield 144, 3) := dk_181 0 144 (dk_at dksX4_times_2 2 rfl rfl)
theorem dX4_times_53 : decode cX4_times 53 = .ok (.aload_n 0, 1) := dk_42 (dk_at dksX4_times_2 5 rfl rfl)
theorem dX4_times_54 : decode cX4_times 54 = .ok (.invokevirtual 168, 3) := dk_182 0 168 (dk_at dksX4_times_2 6 rfl rfl)
theorem dX4_times_57 : decode cX4_times 57 = .ok (.aload_n 0, 1) := dk_42 (dk_at dksX4_times_2 9 rfl rfl)
theorem dX4_times_58 : decode cX4_times 58 = .ok (.iload_n 1, 1) := dk_27 (dk_at dksX4_times_2 10 rfl rfl)
theorem dX4_times_59 : decode cX4_times 59 = .ok (.iconst 0, 1) := dk_3 (dk_at dksX4_times_2 11 rfl rfl)
theorem dX4_times_60 : decode cX4_times 60 = .ok (.invokevirtual 161, 3) := dk_182 0 161 (dk_at dksX4_times_2 12 rfl rfl)
theorem dX4_times_63 : decode cX4_times 63 = .ok (.goto (-59), 3) := dk_167 255 197 (dk_at dksX4_times_2 15 rfl rfl)
theorem dX4_times_66 : decode cX4_times 66 = .ok (.return_, 1) := dk_177 (dk_at dksX4_times_2 18 rfl rfl)
abbrev cX4_one : ByteArray := prog_19_method_45_code
def yX4_one : MethodName := ⟨RX4, "one", "()V"⟩
def dkwX4_one_2 : List UInt8 := [42, 27, 182, 0, 177, 167, 0, 7, 42, 182, 0, 180, 177]
abbrev dktX4_one_2 : List UInt8 := dkwX4_one_2 ++ []
def dkwX4_one_1 : List UInt8 := [181, 0, 144, 42, 5, 28, 182, 0, 161, 167, 0, 27, 27, 16, 33, 159, 0, 9, 27, 16, 40, 160, 0, 11]
abbrev dktX4_one_1 : List UInt8 := dkwX4_one_1 ++ dktX4_one_2
def dkwX4_one_0 : List UInt8 := [42, 182, 0, 154, 60, 42, 27, 182, 0, 174, 61, 28, 155, 0, 22, 42, 89, 180, 0, 144, 4, 96]
abbrev dktX4_one_0 : List UInt8 := dkwX4_one_0 ++ dktX4_one_1
theorem dksX4_one_0 : cX4_one.data.toList.drop 0 = dktX4_one_0 := by decide +kernel
theorem dksX4_one_1 : cX4_one.data.toList.drop 22 = dktX4_one_1 := dk_seg dksX4_one_0 22 rfl rfl
theorem dksX4_one_2 : cX4_one.data.toList.drop 46 = dktX4_one_2 := dk_seg dksX4_one_1 24 rfl rfl
theorem dX4_one_0 : decode cX4_one 0 = .ok (.aload_n 0, 1) := dk_42 (dk_at dksX4_one_0 0 rfl rfl)
theorem dX4_one_1 : decode cX4_one 1 = .ok (.invokevirtual 154, 3) := dk_182 0 154 (dk_at dksX4_one_0 1 rfl rfl)
theorem dX4_one_4 : decode cX4_one 4 = .ok (.istore_n 1, 1) := dk_60 (dk_at dksX4_one_0 4 rfl rfl)
theorem dX4_one_5 : decode cX4_one 5 = .ok (.aload_n 0, 1) := dk_42 (dk_at dksX4_one_0 5 rfl rfl)
theorem dX4_one_6 : decode cX4_one 6 = .ok (.iload_n 1, 1) := dk_27 (dk_at dksX4_one_0 6 rfl rfl)
theorem dX4_one_7 : decode cX4_one 7 = .ok (.invokevirtual 174, 3) := dk_182 0 174 (dk_at dksX4_one_0 7 rfl rfl)
theorem dX4_one_10 : decode cX4_one 10 = .ok (.istore_n 2, 1) := dk_61 (dk_at dksX4_one_0 10 rfl rfl)
theorem dX4_one_11 : decode cX4_one 11 = .ok (.iload_n 2, 1) := dk_28 (dk_at dksX4_one_0 11 rfl rfl)
theorem dX4_one_12 : decode cX4_one 12 = .ok (.ifCond .lt 22, 3) := dk_155 0 22 (dk_at dksX4_one_0 12 rfl rfl)
theorem dX4_one_15 : decode cX4_one 15 = .ok (.aload_n 0, 1) := dk_42 (dk_at dksX4_one_0 15 rfl rfl)
theorem dX4_one_16 : decode cX4_one 16 = .ok (.dup, 1) := dk_89 (dk_at dksX4_one_0 16 rfl rfl)
theorem dX4_one_17 : decode cX4_one 17 = .ok (.getfield 144, 3) := dk_180 0 144 (dk_at dksX4_one_0 17 rfl rfl)
theorem dX4_one_20 : decode cX4_one 20 = .ok (.iconst 1, 1) := dk_4 (dk_at dksX4_one_0 20 rfl rfl)
theorem dX4_one_21 : decode cX4_one 21 = .ok (.iadd, 1) := dk_96 (dk_at dksX4_one_0 21 rfl rfl)
theorem dX4_one_22 : decode cX4_one 22 = .ok (.putfield 144, 3) := dk_181 0 144 (dk_at dksX4_one_1 0 rfl rfl)
theorem dX4_one_25 : decode cX4_one 25 = .ok (.aload_n 0, 1) := dk_42 (dk_at dksX4_one_1 3 rfl rfl)
theorem dX4_one_26 : decode cX4_one 26 = .ok (.iconst 2, 1) := dk_5 (dk_at dksX4_one_1 4 rfl rfl)
theorem dX4_one_27 : decode cX4_one 27 = .ok (.iload_n 2, 1) := dk_28 (dk_at dksX4_one_1 5 rfl rfl)
theorem dX4_one_28 : decode cX4_one 28 = .ok (.invokevirtual 161, 3) := dk_182 0 161 (dk_at dksX4_one_1 6 rfl rfl)
theorem dX4_one_31 : decode cX4_one 31 = .ok (.goto 27, 3) := dk_167 0 27 (dk_at dksX4_one_1 9 rfl rfl)
theorem dX4_one_34 : decode cX4_one 34 = .ok (.iload_n 1, 1) := dk_27 (dk_at dksX4_one_1 12 rfl rfl)
theorem dX4_one_35 : decode cX4_one 35 = .ok (.bipush 33, 2) := dk_16 33 (dk_at dksX4_one_1 13 rfl rfl)
theorem dX4_one_37 : decode cX4_one 37 = .ok (.if_icmp .eq 9, 3) := dk_159 0 9 (dk_at dksX4_one_1 15 rfl rfl)
theorem dX4_one_40 : decode cX4_one 40 = .ok (.iload_n 1, 1) := dk_27 (dk_at dksX4_one_1 18 rfl rfl)
theorem dX4_one_41 : decode cX4_one 41 = .ok (.bipush 40, 2) := dk_16 40 (dk_at dksX4_one_1 19 rfl rfl)
theorem dX4_one_43 : decode cX4_one 43 = .ok (.if_icmp .ne 11, 3) := dk_160 0 11 (dk_at dksX4_one_1 21 rfl rfl)
theorem dX4_one_46 : decode cX4_one 46 = .ok (.aload_n 0, 1) := dk_42 (dk_at dksX4_one_2 0 rfl rfl)
theorem dX4_one_47 : decode cX4_one 47 = .ok (.iload_n 1, 1) := dk_27 (dk_at dksX4_one_2 1 rfl rfl)
theorem dX4_one_48 : decode cX4_one 48 = .ok (.invokevirtual 177, 3) := dk_182 0 177 (dk_at dksX4_one_2 2 rfl rfl)
theorem dX4_one_51 : decode cX4_one 51 = .ok (.goto 7, 3) := dk_167 0 7 (dk_at dksX4_one_2 5 rfl rfl)
theorem dX4_one_54 : decode cX4_one 54 = .ok (.aload_n 0, 1) := dk_42 (dk_at dksX4_one_2 8 rfl rfl)
theorem dX4_one_55 : decode cX4_one 55 = .ok (.invokevirtual 180, 3) := dk_182 0 180 (dk_at dksX4_one_2 9 rfl rfl)
theorem dX4_one_58 : decode cX4_one 58 = .ok (.return_, 1) := dk_177 (dk_at dksX4_one_2 12 rfl rfl)
abbrev cX4_look : ByteArray := prog_19_method_40_code
def yX4_look : MethodName := ⟨RX4, "look", "()I"⟩
def dkwX4_look_1 : List UInt8 := [96, 46, 167, 0, 4, 2, 172]
abbrev dktX4_look_1 : List UInt8 := dkwX4_look_1 ++ []
def dkwX4_look_0 : List UInt8 := [42, 180, 0, 144, 42, 180, 0, 9, 16, 6, 46, 162, 0, 18, 42, 180, 0, 9, 16, 56, 42, 180, 0, 144]
abbrev dktX4_look_0 : List UInt8 := dkwX4_look_0 ++ dktX4_look_1
theorem dksX4_look_0 : cX4_look.data.toList.drop 0 = dktX4_look_0 := by decide +kernel
theorem dksX4_look_1 : cX4_look.data.toList.drop 24 = dktX4_look_1 := dk_seg dksX4_look_0 24 rfl rfl
theorem dX4_look_0 : decode cX4_look 0 = .ok (.aload_n 0, 1) := dk_42 (dk_at dksX4_look_0 0 rfl rfl)
theorem dX4_look_1 : decode cX4_look 1 = .ok (.getfield 144, 3) := dk_180 0 144 (dk_at dksX4_look_0 1 rfl rfl)
theorem dX4_look_4 : decode cX4_look 4 = .ok (.aload_n 0, 1) := dk_42 (dk_at dksX4_look_0 4 rfl rfl)
theorem dX4_look_5 : decode cX4_look 5 = .ok (.getfield 9, 3) := dk_180 0 9 (dk_at dksX4_look_0 5 rfl rfl)
theorem dX4_look_8 : decode cX4_look 8 = .ok (.bipush 6, 2) := dk_16 6 (dk_at dksX4_look_0 8 rfl rfl)
theorem dX4_look_10 : decode cX4_look 10 = .ok (.iaload, 1) := dk_46 (dk_at dksX4_look_0 10 rfl rfl)
theorem dX4_look_11 : decode cX4_look 11 = .ok (.if_icmp .ge 18, 3) := dk_162 0 18 (dk_at dksX4_look_0 11 rfl rfl)
theorem dX4_look_14 : decode cX4_look 14 = .ok (.aload_n 0, 1) := dk_42 (dk_at dksX4_look_0 14 rfl rfl)
theorem dX4_look_15 : decode cX4_look 15 = .ok (.getfield 9, 3) := dk_180 0 9 (dk_at dksX4_look_0 15 rfl rfl)
theorem dX4_look_18 : decode cX4_look 18 = .ok (.bipush 56, 2) := dk_16 56 (dk_at dksX4_look_0 18 rfl rfl)
theorem dX4_look_20 : decode cX4_look 20 = .ok (.aload_n 0, 1) := dk_42 (dk_at dksX4_look_0 20 rfl rfl)
theorem dX4_look_21 : decode cX4_look 21 = .ok (.getfield 144, 3) := dk_180 0 144 (dk_at dksX4_look_0 21 rfl rfl)
theorem dX4_look_24 : decode cX4_look 24 = .ok (.iadd, 1) := dk_96 (dk_at dksX4_look_1 0 rfl rfl)
theorem dX4_look_25 : decode cX4_look 25 = .ok (.iaload, 1) := dk_46 (dk_at dksX4_look_1 1 rfl rfl)
theorem dX4_look_26 : decode cX4_look 26 = .ok (.goto 4, 3) := dk_167 0 4 (dk_at dksX4_look_1 2 rfl rfl)
theorem dX4_look_29 : decode cX4_look 29 = .ok (.iconst (-1), 1) := dk_2 (dk_at dksX4_look_1 5 rfl rfl)
theorem dX4_look_30 : decode cX4_look 30 = .ok (.ireturn, 1) := dk_172 (dk_at dksX4_look_1 6 rfl rfl)
abbrev cX4_nameOf : ByteArray := prog_19_method_42_code
def yX4_nameOf : MethodName := ⟨RX4, "nameOf", "(I)I"⟩
def dkwX4_nameOf_4 : List UInt8 := [172, 2, 172]
abbrev dktX4_nameOf_4 : List UInt8 := dkwX4_nameOf_4 ++ []
def dkwX4_nameOf_3 : List UInt8 := [180, 0, 151, 4, 159, 0, 7, 2, 167, 0, 14, 27, 16, 115, 160, 0, 7, 3, 167, 0, 4, 4, 172, 5]
abbrev dktX4_nameOf_3 : List UInt8 := dkwX4_nameOf_3 ++ dktX4_nameOf_4
def dkwX4_nameOf_2 : List UInt8 := [42, 180, 0, 151, 153, 0, 7, 2, 167, 0, 14, 27, 16, 119, 160, 0, 7, 3, 167, 0, 4, 4, 172, 42]
abbrev dktX4_nameOf_2 : List UInt8 := dkwX4_nameOf_2 ++ dktX4_nameOf_3
def dkwX4_nameOf_1 : List UInt8 := [170, 0, 0, 0, 0, 0, 116, 0, 0, 0, 107, 0, 0, 0, 119, 0, 0, 0, 67, 0, 0, 0, 116, 0, 0, 0, 116, 0, 0, 0, 114, 0, 0, 0, 116, 0, 0, 0, 116, 0, 0, 0, 116, 0, 0, 0, 116, 0, 0, 0, 90, 0, 0, 0, 90, 0, 0, 0, 116, 0, 0, 0, 116, 0, 0, 0, 67]
abbrev dktX4_nameOf_1 : List UInt8 := dkwX4_nameOf_1 ++ dktX4_nameOf_2
def dkwX4_nameOf_0 : List UInt8 := [27]
abbrev dktX4_nameOf_0 : List UInt8 := dkwX4_nameOf_0 ++ dktX4_nameOf_1
theorem dksX4_nameOf_0 : cX4_nameOf.data.toList.drop 0 = dktX4_nameOf_0 := by decide +kernel
theorem dksX4_nameOf_1 : cX4_nameOf.data.toList.drop 1 = dktX4_nameOf_1 := dk_seg dksX4_nameOf_0 1 rfl rfl
theorem dksX4_nameOf_2 : cX4_nameOf.data.toList.drop 68 = dktX4_nameOf_2 := dk_seg dksX4_nameOf_1 67 rfl rfl
theorem dksX4_nameOf_3 : cX4_nameOf.data.toList.drop 92 = dktX4_nameOf_3 := dk_seg dksX4_nameOf_2 24 rfl rfl
theorem dksX4_nameOf_4 : cX4_nameOf.data.toList.drop 116 = dktX4_nameOf_4 := dk_seg dksX4_nameOf_3 24 rfl rfl
theorem dX4_nameOf_0 : decode cX4_nameOf 0 = .ok (.iload_n 1, 1) := dk_27 (dk_at dksX4_nameOf_0 0 rfl rfl)
theorem dX4_nameOf_1 : decode cX4_nameOf 1 = .ok (.tableswitch 116 107 119 #[67, 116, 116, 114, 116, 116, 116, 116, 90, 90, 116, 116, 67], 67) := by decide +kernel
theorem dX4_nameOf_68 : decode cX4_nameOf 68 = .ok (.aload_n 0, 1) := dk_42 (dk_at dksX4_nameOf_2 0 rfl rfl)
theorem dX4_nameOf_69 : decode cX4_nameOf 69 = .ok (.getfield 151, 3) := dk_180 0 151 (dk_at dksX4_nameOf_2 1 rfl rfl)
theorem dX4_nameOf_72 : decode cX4_nameOf 72 = .ok (.ifCond .eq 7, 3) := dk_153 0 7 (dk_at dksX4_nameOf_2 4 rfl rfl)
theorem dX4_nameOf_75 : decode cX4_nameOf 75 = .ok (.iconst (-1), 1) := dk_2 (dk_at dksX4_nameOf_2 7 rfl rfl)
theorem dX4_nameOf_76 : decode cX4_nameOf 76 = .ok (.goto 14, 3) := dk_167 0 14 (dk_at dksX4_nameOf_2 8 rfl rfl)
theorem dX4_nameOf_79 : decode cX4_nameOf 79 = .ok (.iload_n 1, 1) := dk_27 (dk_at dksX4_nameOf_2 11 rfl rfl)
theorem dX4_nameOf_80 : decode cX4_nameOf 80 = .ok (.bipush 119, 2) := dk_16 119 (dk_at dksX4_nameOf_2 12 rfl rfl)
theorem dX4_nameOf_82 : decode cX4_nameOf 82 = .ok (.if_icmp .ne 7, 3) := dk_160 0 7 (dk_at dksX4_nameOf_2 14 rfl rfl)
theorem dX4_nameOf_85 : decode cX4_nameOf 85 = .ok (.iconst 0, 1) := dk_3 (dk_at dksX4_nameOf_2 17 rfl rfl)
theorem dX4_nameOf_86 : decode cX4_nameOf 86 = .ok (.goto 4, 3) := dk_167 0 4 (dk_at dksX4_nameOf_2 18 rfl rfl)
theorem dX4_nameOf_89 : decode cX4_nameOf 89 = .ok (.iconst 1, 1) := dk_4 (dk_at dksX4_nameOf_2 21 rfl rfl)
theorem dX4_nameOf_90 : decode cX4_nameOf 90 = .ok (.ireturn, 1) := dk_172 (dk_at dksX4_nameOf_2 22 rfl rfl)
theorem dX4_nameOf_91 : decode cX4_nameOf 91 = .ok (.aload_n 0, 1) := dk_42 (dk_at dksX4_nameOf_2 23 rfl rfl)
theorem dX4_nameOf_92 : decode cX4_nameOf 92 = .ok (.getfield 151, 3) := dk_180 0 151 (dk_at dksX4_nameOf_3 0 rfl rfl)
theorem dX4_nameOf_95 : decode cX4_nameOf 95 = .ok (.iconst 1, 1) := dk_4 (dk_at dksX4_nameOf_3 3 rfl rfl)
theorem dX4_nameOf_96 : decode cX4_nameOf 96 = .ok (.if_icmp .eq 7, 3) := dk_159 0 7 (dk_at dksX4_nameOf_3 4 rfl rfl)
theorem dX4_nameOf_99 : decode cX4_nameOf 99 = .ok (.iconst (-1), 1) := dk_2 (dk_at dksX4_nameOf_3 7 rfl rfl)
theorem dX4_nameOf_100 : decode cX4_nameOf 100 = .ok (.goto 14, 3) := dk_167 0 14 (dk_at dksX4_nameOf_3 8 rfl rfl)
theorem dX4_nameOf_103 : decode cX4_nameOf 103 = .ok (.iload_n 1, 1) := dk_27 (dk_at dksX4_nameOf_3 11 rfl rfl)
theorem dX4_nameOf_104 : decode cX4_nameOf 104 = .ok (.bipush 115, 2) := dk_16 115 (dk_at dksX4_nameOf_3 12 rfl rfl)
theorem dX4_nameOf_106 : decode cX4_nameOf 106 = .ok (.if_icmp .ne 7, 3) := dk_160 0 7 (dk_at dksX4_nameOf_3 14 rfl rfl)
theorem dX4_nameOf_109 : decode cX4_nameOf 109 = .ok (.iconst 0, 1) := dk_3 (dk_at dksX4_nameOf_3 17 rfl rfl)
theorem dX4_nameOf_110 : decode cX4_nameOf 110 = .ok (.goto 4, 3) := dk_167 0 4 (dk_at dksX4_nameOf_3 18 rfl rfl)
theorem dX4_nameOf_113 : decode cX4_nameOf 113 = .ok (.iconst 1, 1) := dk_4 (dk_at dksX4_nameOf_3 21 rfl rfl)
theorem dX4_nameOf_114 : decode cX4_nameOf 114 = .ok (.ireturn, 1) := dk_172 (dk_at dksX4_nameOf_3 22 rfl rfl)
theorem dX4_nameOf_115 : decode cX4_nameOf 115 = .ok (.iconst 2, 1) := dk_5 (dk_at dksX4_nameOf_3 23 rfl rfl)
theorem dX4_nameOf_116 : decode cX4_nameOf 116 = .ok (.ireturn, 1) := dk_172 (dk_at dksX4_nameOf_4 0 rfl rfl)
theorem dX4_nameOf_117 : decode cX4_nameOf 117 = .ok (.iconst (-1), 1) := dk_2 (dk_at dksX4_nameOf_4 1 rfl rfl)
theorem dX4_nameOf_118 : decode cX4_nameOf 118 = .ok (.ireturn, 1) := dk_172 (dk_at dksX4_nameOf_4 2 rfl rfl)
abbrev cX4_lays : ByteArray := prog_19_method_41_code
def yX4_lays : MethodName := ⟨RX4, "lays", "(II)V"⟩
def dkwX4_lays_1 : List UInt8 := [180, 0, 44, 42, 180, 0, 148, 28, 79, 42, 89, 180, 0, 148, 4, 96, 181, 0, 148, 177]
abbrev dktX4_lays_1 : List UInt8 := dkwX4_lays_1 ++ []
def dkwX4_lays_0 : List UInt8 := [42, 180, 0, 148, 42, 180, 0, 41, 190, 162, 0, 33, 42, 180, 0, 41, 42, 180, 0, 148, 27, 79, 42]
abbrev dktX4_lays_0 : List UInt8 := dkwX4_lays_0 ++ dktX4_lays_1
theorem dksX4_lays_0 : cX4_lays.data.toList.drop 0 = dktX4_lays_0 := by decide +kernel
theorem dksX4_lays_1 : cX4_lays.data.toList.drop 23 = dktX4_lays_1 := dk_seg dksX4_lays_0 23 rfl rfl
theorem dX4_lays_0 : decode cX4_lays 0 = .ok (.aload_n 0, 1) := dk_42 (dk_at dksX4_lays_0 0 rfl rfl)
theorem dX4_lays_1 : decode cX4_lays 1 = .ok (.getfield 148, 3) := dk_180 0 148 (dk_at dksX4_lays_0 1 rfl rfl)
theorem dX4_lays_4 : decode cX4_lays 4 = .ok (.aload_n 0, 1) := dk_42 (dk_at dksX4_lays_0 4 rfl rfl)
theorem dX4_lays_5 : decode cX4_lays 5 = .ok (.getfield 41, 3) := dk_180 0 41 (dk_at dksX4_lays_0 5 rfl rfl)
theorem dX4_lays_8 : decode cX4_lays 8 = .ok (.arraylength, 1) := dk_190 (dk_at dksX4_lays_0 8 rfl rfl)
theorem dX4_lays_9 : decode cX4_lays 9 = .ok (.if_icmp .ge 33, 3) := dk_162 0 33 (dk_at dksX4_lays_0 9 rfl rfl)
theorem dX4_lays_12 : decode cX4_lays 12 = .ok (.aload_n 0, 1) := dk_42 (dk_at dksX4_lays_0 12 rfl rfl)
theorem dX4_lays_13 : decode cX4_lays 13 = .ok (.getfield 41, 3) := dk_180 0 41 (dk_at dksX4_lays_0 13 rfl rfl)
theorem dX4_lays_16 : decode cX4_lays 16 = .ok (.aload_n 0, 1) := dk_42 (dk_at dksX4_lays_0 16 rfl rfl)
theorem dX4_lays_17 : decode cX4_lays 17 = .ok (.getfield 148, 3) := dk_180 0 148 (dk_at dksX4_lays_0 17 rfl rfl)
theorem dX4_lays_20 : decode cX4_lays 20 = .ok (.iload_n 1, 1) := dk_27 (dk_at dksX4_lays_0 20 rfl rfl)
theorem dX4_lays_21 : decode cX4_lays 21 = .ok (.iastore, 1) := dk_79 (dk_at dksX4_lays_0 21 rfl rfl)
theorem dX4_lays_22 : decode cX4_lays 22 = .ok (.aload_n 0, 1) := dk_42 (dk_at dksX4_lays_0 22 rfl rfl)
theorem dX4_lays_23 : decode cX4_lays 23 = .ok (.getfield 44, 3) := dk_180 0 44 (dk_at dksX4_lays_1 0 rfl rfl)
theorem dX4_lays_26 : decode cX4_lays 26 = .ok (.aload_n 0, 1) := dk_42 (dk_at dksX4_lays_1 3 rfl rfl)
theorem dX4_lays_27 : decode cX4_lays 27 = .ok (.getfield 148, 3) := dk_180 0 148 (dk_at dksX4_lays_1 4 rfl rfl)
theorem dX4_lays_30 : decode cX4_lays 30 = .ok (.iload_n 2, 1) := dk_28 (dk_at dksX4_lays_1 7 rfl rfl)
theorem dX4_lays_31 : decode cX4_lays 31 = .ok (.iastore, 1) := dk_79 (dk_at dksX4_lays_1 8 rfl rfl)
theorem dX4_lays_32 : decode cX4_lays 32 = .ok (.aload_n 0, 1) := dk_42 (dk_at dksX4_lays_1 9 rfl rfl)
theorem dX4_lays_33 : decode cX4_lays 33 = .ok (.dup, 1) := dk_89 (dk_at dksX4_lays_1 10 rfl rfl)
theorem dX4_lays_34 : decode cX4_lays 34 = .ok (.getfield 148, 3) := dk_180 0 148 (dk_at dksX4_lays_1 11 rfl rfl)
theorem dX4_lays_37 : decode cX4_lays 37 = .ok (.iconst 1, 1) := dk_4 (dk_at dksX4_lays_1 14 rfl rfl)
theorem dX4_lays_38 : decode cX4_lays 38 = .ok (.iadd, 1) := dk_96 (dk_at dksX4_lays_1 15 rfl rfl)
theorem dX4_lays_39 : decode cX4_lays 39 = .ok (.putfield 148, 3) := dk_181 0 148 (dk_at dksX4_lays_1 16 rfl rfl)
theorem dX4_lays_42 : decode cX4_lays 42 = .ok (.return_, 1) := dk_177 (dk_at dksX4_lays_1 19 rfl rfl)
abbrev cX4_opens : ByteArray := prog_19_method_44_code
def yX4_opens : MethodName := ⟨RX4, "opens", "(I)V"⟩
def dkwX4_opens_4 : List UInt8 := [167, 0, 4, 4, 96, 181, 0, 144, 42, 89, 180, 0, 165, 4, 100, 181, 0, 165, 177]
abbrev dktX4_opens_4 : List UInt8 := dkwX4_opens_4 ++ []
def dkwX4_opens_3 : List UInt8 := [159, 0, 7, 4, 167, 0, 4, 3, 181, 0, 157, 42, 89, 180, 0, 144, 42, 180, 0, 157, 153, 0, 7, 3]
abbrev dktX4_opens_3 : List UInt8 := dkwX4_opens_3 ++ dktX4_opens_4
def dkwX4_opens_2 : List UInt8 := [182, 0, 161, 167, 0, 53, 42, 182, 0, 171, 42, 42, 180, 0, 157, 154, 0, 12, 42, 182, 0, 154, 16, 41]
abbrev dktX4_opens_2 : List UInt8 := dkwX4_opens_2 ++ dktX4_opens_3
def dkwX4_opens_1 : List UInt8 := [42, 89, 180, 0, 144, 4, 96, 181, 0, 144, 27, 16, 33, 160, 0, 16, 42, 182, 0, 168, 42, 6, 3]
abbrev dktX4_opens_1 : List UInt8 := dkwX4_opens_1 ++ dktX4_opens_2
def dkwX4_opens_0 : List UInt8 := [42, 180, 0, 165, 8, 160, 0, 9, 42, 4, 181, 0, 157, 177, 42, 89, 180, 0, 165, 4, 96, 181, 0, 165]
abbrev dktX4_opens_0 : List UInt8 := dkwX4_opens_0 ++ dktX4_opens_1
theorem dksX4_opens_0 : cX4_opens.data.toList.drop 0 = dktX4_opens_0 := by decide +kernel
theorem dksX4_opens_1 : cX4_opens.data.toList.drop 24 = dktX4_opens_1 := dk_seg dksX4_opens_0 24 rfl rfl
theorem dksX4_opens_2 : cX4_opens.data.toList.drop 47 = dktX4_opens_2 := dk_seg dksX4_opens_1 23 rfl rfl
theorem dksX4_opens_3 : cX4_opens.data.toList.drop 71 = dktX4_opens_3 := dk_seg dksX4_opens_2 24 rfl rfl
theorem dksX4_opens_4 : cX4_opens.data.toList.drop 95 = dktX4_opens_4 := dk_seg dksX4_opens_3 24 rfl rfl
theorem dX4_opens_0 : decode cX4_opens 0 = .ok (.aload_n 0, 1) := dk_42 (dk_at dksX4_opens_0 0 rfl rfl)
theorem dX4_opens_1 : decode cX4_opens 1 = .ok (.getfield 165, 3) := dk_180 0 165 (dk_at dksX4_opens_0 1 rfl rfl)
theorem dX4_opens_4 : decode cX4_opens 4 = .ok (.iconst 5, 1) := dk_8 (dk_at dksX4_opens_0 4 rfl rfl)
theorem dX4_opens_5 : decode cX4_opens 5 = .ok (.if_icmp .ne 9, 3) := dk_160 0 9 (dk_at dksX4_opens_0 5 rfl rfl)
theorem dX4_opens_8 : decode cX4_opens 8 = .ok (.aload_n 0, 1) := dk_42 (dk_at dksX4_opens_0 8 rfl rfl)
theorem dX4_opens_9 : decode cX4_opens 9 = .ok (.iconst 1, 1) := dk_4 (dk_at dksX4_opens_0 9 rfl rfl)
theorem dX4_opens_10 : decode cX4_opens 10 = .ok (.putfield 157, 3) := dk_181 0 157 (dk_at dksX4_opens_0 10 rfl rfl)
theorem dX4_opens_13 : decode cX4_opens 13 = .ok (.return_, 1) := dk_177 (dk_at dksX4_opens_0 13 rfl rfl)
theorem dX4_opens_14 : decode cX4_opens 14 = .ok (.aload_n 0, 1) := dk_42 (dk_at dksX4_opens_0 14 rfl rfl)
theorem dX4_opens_15 : decode cX4_opens 15 = .ok (.dup, 1) := dk_89 (dk_at dksX4_opens_0 15 rfl rfl)
theorem dX4_opens_16 : decode cX4_opens 16 = .ok (.getfield 165, 3) := dk_180 0 165 (dk_at dksX4_opens_0 16 rfl rfl)
theorem dX4_opens_19 : decode cX4_opens 19 = .ok (.iconst 1, 1) := dk_4 (dk_at dksX4_opens_0 19 rfl rfl)
theorem dX4_opens_20 : decode cX4_opens 20 = .ok (.iadd, 1) := dk_96 (dk_at dksX4_opens_0 20 rfl rfl)
theorem dX4_opens_21 : decode cX4_opens 21 = .ok (.putfield 165, 3) := dk_181 0 165 (dk_at dksX4_opens_0 21 rfl rfl)
theorem dX4_opens_24 : decode cX4_opens 24 = .ok (.aload_n 0, 1) := dk_42 (dk_at dksX4_opens_1 0 rfl rfl)
theorem dX4_opens_25 : decode cX4_opens 25 = .ok (.dup, 1) := dk_89 (dk_at dksX4_opens_1 1 rfl rfl)
theorem dX4_opens_26 : decode cX4_opens 26 = .ok (.getfield 144, 3) := dk_180 0 144 (dk_at dksX4_opens_1 2 rfl rfl)
theorem dX4_opens_29 : decode cX4_opens 29 = .ok (.iconst 1, 1) := dk_4 (dk_at dksX4_opens_1 5 rfl rfl)
theorem dX4_opens_30 : decode cX4_opens 30 = .ok (.iadd, 1) := dk_96 (dk_at dksX4_opens_1 6 rfl rfl)
theorem dX4_opens_31 : decode cX4_opens 31 = .ok (.putfield 144, 3) := dk_181 0 144 (dk_at dksX4_opens_1 7 rfl rfl)
theorem dX4_opens_34 : decode cX4_opens 34 = .ok (.iload_n 1, 1) := dk_27 (dk_at dksX4_opens_1 10 rfl rfl)
theorem dX4_opens_35 : decode cX4_opens 35 = .ok (.bipush 33, 2) := dk_16 33 (dk_at dksX4_opens_1 11 rfl rfl)
theorem dX4_opens_37 : decode cX4_opens 37 = .ok (.if_icmp .ne 16, 3) := dk_160 0 16 (dk_at dksX4_opens_1 13 rfl rfl)
theorem dX4_opens_40 : decode cX4_opens 40 = .ok (.aload_n 0, 1) := dk_42 (dk_at dksX4_opens_1 16 rfl rfl)
theorem dX4_opens_41 : decode cX4_opens 41 = .ok (.invokevirtual 168, 3) := dk_182 0 168 (dk_at dksX4_opens_1 17 rfl rfl)
theorem dX4_opens_44 : decode cX4_opens 44 = .ok (.aload_n 0, 1) := dk_42 (dk_at dksX4_opens_1 20 rfl rfl)
theorem dX4_opens_45 : decode cX4_opens 45 = .ok (.iconst 3, 1) := dk_6 (dk_at dksX4_opens_1 21 rfl rfl)
theorem dX4_opens_46 : decode cX4_opens 46 = .ok (.iconst 0, 1) := dk_3 (dk_at dksX4_opens_1 22 rfl rfl)
theorem dX4_opens_47 : decode cX4_opens 47 = .ok (.invokevirtual 161, 3) := dk_182 0 161 (dk_at dksX4_opens_2 0 rfl rfl)
theorem dX4_opens_50 : decode cX4_opens 50 = .ok (.goto 53, 3) := dk_167 0 53 (dk_at dksX4_opens_2 3 rfl rfl)
theorem dX4_opens_53 : decode cX4_opens 53 = .ok (.aload_n 0, 1) := dk_42 (dk_at dksX4_opens_2 6 rfl rfl)
theorem dX4_opens_54 : decode cX4_opens 54 = .ok (.invokevirtual 171, 3) := dk_182 0 171 (dk_at dksX4_opens_2 7 rfl rfl)
theorem dX4_opens_57 : decode cX4_opens 57 = .ok (.aload_n 0, 1) := dk_42 (dk_at dksX4_opens_2 10 rfl rfl)
theorem dX4_opens_58 : decode cX4_opens 58 = .ok (.aload_n 0, 1) := dk_42 (dk_at dksX4_opens_2 11 rfl rfl)
theorem dX4_opens_59 : decode cX4_opens 59 = .ok (.getfield 157, 3) := dk_180 0 157 (dk_at dksX4_opens_2 12 rfl rfl)
theorem dX4_opens_62 : decode cX4_opens 62 = .ok (.ifCond .ne 12, 3) := dk_154 0 12 (dk_at dksX4_opens_2 15 rfl rfl)
theorem dX4_opens_65 : decode cX4_opens 65 = .ok (.aload_n 0, 1) := dk_42 (dk_at dksX4_opens_2 18 rfl rfl)
theorem dX4_opens_66 : decode cX4_opens 66 = .ok (.invokevirtual 154, 3) := dk_182 0 154 (dk_at dksX4_opens_2 19 rfl rfl)
theorem dX4_opens_69 : decode cX4_opens 69 = .ok (.bipush 41, 2) := dk_16 41 (dk_at dksX4_opens_2 22 rfl rfl)
theorem dX4_opens_71 : decode cX4_opens 71 = .ok (.if_icmp .eq 7, 3) := dk_159 0 7 (dk_at dksX4_opens_3 0 rfl rfl)
theorem dX4_opens_74 : decode cX4_opens 74 = .ok (.iconst 1, 1) := dk_4 (dk_at dksX4_opens_3 3 rfl rfl)
theorem dX4_opens_75 : decode cX4_opens 75 = .ok (.goto 4, 3) := dk_167 0 4 (dk_at dksX4_opens_3 4 rfl rfl)
theorem dX4_opens_78 : decode cX4_opens 78 = .ok (.iconst 0, 1) := dk_3 (dk_at dksX4_opens_3 7 rfl rfl)
theorem dX4_opens_79 : decode cX4_opens 79 = .ok (.putfield 157, 3) := dk_181 0 157 (dk_at dksX4_opens_3 8 rfl rfl)
theorem dX4_opens_82 : decode cX4_opens 82 = .ok (.aload_n 0, 1) := dk_42 (dk_at dksX4_opens_3 11 rfl rfl)
theorem dX4_opens_83 : decode cX4_opens 83 = .ok (.dup, 1) := dk_89 (dk_at dksX4_opens_3 12 rfl rfl)
theorem dX4_opens_84 : decode cX4_opens 84 = .ok (.getfield 144, 3) := dk_180 0 144 (dk_at dksX4_opens_3 13 rfl rfl)
theorem dX4_opens_87 : decode cX4_opens 87 = .ok (.aload_n 0, 1) := dk_42 (dk_at dksX4_opens_3 16 rfl rfl)
theorem dX4_opens_88 : decode cX4_opens 88 = .ok (.getfield 157, 3) := dk_180 0 157 (dk_at dksX4_opens_3 17 rfl rfl)
theorem dX4_opens_91 : decode cX4_opens 91 = .ok (.ifCond .eq 7, 3) := dk_153 0 7 (dk_at dksX4_opens_3 20 rfl rfl)
theorem dX4_opens_94 : decode cX4_opens 94 = .ok (.iconst 0, 1) := dk_3 (dk_at dksX4_opens_3 23 rfl rfl)
theorem dX4_opens_95 : decode cX4_opens 95 = .ok (.goto 4, 3) := dk_167 0 4 (dk_at dksX4_opens_4 0 rfl rfl)
theorem dX4_opens_98 : decode cX4_opens 98 = .ok (.iconst 1, 1) := dk_4 (dk_at dksX4_opens_4 3 rfl rfl)
theorem dX4_opens_99 : decode cX4_opens 99 = .ok (.iadd, 1) := dk_96 (dk_at dksX4_opens_4 4 rfl rfl)
theorem dX4_opens_100 : decode cX4_opens 100 = .ok (.putfield 144, 3) := dk_181 0 144 (dk_at dksX4_opens_4 5 rfl rfl)
theorem dX4_opens_103 : decode cX4_opens 103 = .ok (.aload_n 0, 1) := dk_42 (dk_at dksX4_opens_4 8 rfl rfl)
theorem dX4_opens_104 : decode cX4_opens 104 = .ok (.dup, 1) := dk_89 (dk_at dksX4_opens_4 9 rfl rfl)
theorem dX4_opens_105 : decode cX4_opens 105 = .ok (.getfield 165, 3) := dk_180 0 165 (dk_at dksX4_opens_4 10 rfl rfl)
theorem dX4_opens_108 : decode cX4_opens 108 = .ok (.iconst 1, 1) := dk_4 (dk_at dksX4_opens_4 13 rfl rfl)
theorem dX4_opens_109 : decode cX4_opens 109 = .ok (.isub, 1) := dk_100 (dk_at dksX4_opens_4 14 rfl rfl)
theorem dX4_opens_110 : decode cX4_opens 110 = .ok (.putfield 165, 3) := dk_181 0 165 (dk_at dksX4_opens_4 15 rfl rfl)
theorem dX4_opens_113 : decode cX4_opens 113 = .ok (.return_, 1) := dk_177 (dk_at dksX4_opens_4 18 rfl rfl)
abbrev cX4_number : ByteArray := prog_19_method_43_code
def yX4_number : MethodName := ⟨RX4, "number", "()V"⟩
def dkwX4_number_3 : List UInt8 := [182, 0, 161, 177]
abbrev dktX4_number_3 : List UInt8 := dkwX4_number_3 ++ []
def dkwX4_number_2 : List UInt8 := [132, 2, 1, 167, 255, 211, 42, 28, 154, 0, 7, 4, 167, 0, 4, 3, 181, 0, 157, 42, 4, 27]
abbrev dktX4_number_2 : List UInt8 := dkwX4_number_2 ++ dktX4_number_3
def dkwX4_number_1 : List UInt8 := [16, 10, 27, 104, 42, 182, 0, 154, 96, 16, 48, 100, 60, 42, 89, 180, 0, 144, 4, 96, 181, 0, 144]
abbrev dktX4_number_1 : List UInt8 := dkwX4_number_1 ++ dktX4_number_2
def dkwX4_number_0 : List UInt8 := [3, 60, 3, 61, 28, 7, 162, 0, 46, 42, 182, 0, 154, 16, 48, 16, 57, 184, 0, 61, 153, 0, 32]
abbrev dktX4_number_0 : List UInt8 := dkwX4_number_0 ++ dktX4_number_1
theorem dksX4_number_0 : cX4_number.data.toList.drop 0 = dktX4_number_0 := by decide +kernel
theorem dksX4_number_1 : cX4_number.data.toList.drop 23 = dktX4_number_1 := dk_seg dksX4_number_0 23 rfl rfl
theorem dksX4_number_2 : cX4_number.data.toList.drop 46 = dktX4_number_2 := dk_seg dksX4_number_1 23 rfl rfl
theorem dksX4_number_3 : cX4_number.data.toList.drop 68 = dktX4_number_3 := dk_seg dksX4_number_2 22 rfl rfl
theorem dX4_number_0 : decode cX4_number 0 = .ok (.iconst 0, 1) := dk_3 (dk_at dksX4_number_0 0 rfl rfl)
theorem dX4_number_1 : decode cX4_number 1 = .ok (.istore_n 1, 1) := dk_60 (dk_at dksX4_number_0 1 rfl rfl)
theorem dX4_number_2 : decode cX4_number 2 = .ok (.iconst 0, 1) := dk_3 (dk_at dksX4_number_0 2 rfl rfl)
theorem dX4_number_3 : decode cX4_number 3 = .ok (.istore_n 2, 1) := dk_61 (dk_at dksX4_number_0 3 rfl rfl)
theorem dX4_number_4 : decode cX4_number 4 = .ok (.iload_n 2, 1) := dk_28 (dk_at dksX4_number_0 4 rfl rfl)
theorem dX4_number_5 : decode cX4_number 5 = .ok (.iconst 4, 1) := dk_7 (dk_at dksX4_number_0 5 rfl rfl)
theorem dX4_number_6 : decode cX4_number 6 = .ok (.if_icmp .ge 46, 3) := dk_162 0 46 (dk_at dksX4_number_0 6 rfl rfl)
theorem dX4_number_9 : decode cX4_number 9 = .ok (.aload_n 0, 1) := dk_42 (dk_at dksX4_number_0 9 rfl rfl)
theorem dX4_number_10 : decode cX4_number 10 = .ok (.invokevirtual 154, 3) := dk_182 0 154 (dk_at dksX4_number_0 10 rfl rfl)
theorem dX4_number_13 : decode cX4_number 13 = .ok (.bipush 48, 2) := dk_16 48 (dk_at dksX4_number_0 13 rfl rfl)
theorem dX4_number_15 : decode cX4_number 15 = .ok (.bipush 57, 2) := dk_16 57 (dk_at dksX4_number_0 15 rfl rfl)
theorem dX4_number_17 : decode cX4_number 17 = .ok (.invokestatic 61, 3) := dk_184 0 61 (dk_at dksX4_number_0 17 rfl rfl)
theorem dX4_number_20 : decode cX4_number 20 = .ok (.ifCond .eq 32, 3) := dk_153 0 32 (dk_at dksX4_number_0 20 rfl rfl)
theorem dX4_number_23 : decode cX4_number 23 = .ok (.bipush 10, 2) := dk_16 10 (dk_at dksX4_number_1 0 rfl rfl)
theorem dX4_number_25 : decode cX4_number 25 = .ok (.iload_n 1, 1) := dk_27 (dk_at dksX4_number_1 2 rfl rfl)
theorem dX4_number_26 : decode cX4_number 26 = .ok (.imul, 1) := dk_104 (dk_at dksX4_number_1 3 rfl rfl)
theorem dX4_number_27 : decode cX4_number 27 = .ok (.aload_n 0, 1) := dk_42 (dk_at dksX4_number_1 4 rfl rfl)
theorem dX4_number_28 : decode cX4_number 28 = .ok (.invokevirtual 154, 3) := dk_182 0 154 (dk_at dksX4_number_1 5 rfl rfl)
theorem dX4_number_31 : decode cX4_number 31 = .ok (.iadd, 1) := dk_96 (dk_at dksX4_number_1 8 rfl rfl)
theorem dX4_number_32 : decode cX4_number 32 = .ok (.bipush 48, 2) := dk_16 48 (dk_at dksX4_number_1 9 rfl rfl)
theorem dX4_number_34 : decode cX4_number 34 = .ok (.isub, 1) := dk_100 (dk_at dksX4_number_1 11 rfl rfl)
theorem dX4_number_35 : decode cX4_number 35 = .ok (.istore_n 1, 1) := dk_60 (dk_at dksX4_number_1 12 rfl rfl)
theorem dX4_number_36 : decode cX4_number 36 = .ok (.aload_n 0, 1) := dk_42 (dk_at dksX4_number_1 13 rfl rfl)
theorem dX4_number_37 : decode cX4_number 37 = .ok (.dup, 1) := dk_89 (dk_at dksX4_number_1 14 rfl rfl)
theorem dX4_number_38 : decode cX4_number 38 = .ok (.getfield 144, 3) := dk_180 0 144 (dk_at dksX4_number_1 15 rfl rfl)
theorem dX4_number_41 : decode cX4_number 41 = .ok (.iconst 1, 1) := dk_4 (dk_at dksX4_number_1 18 rfl rfl)
theorem dX4_number_42 : decode cX4_number 42 = .ok (.iadd, 1) := dk_96 (dk_at dksX4_number_1 19 rfl rfl)
theorem dX4_number_43 : decode cX4_number 43 = .ok (.putfield 144, 3) := dk_181 0 144 (dk_at dksX4_number_1 20 rfl rfl)
theorem dX4_number_46 : decode cX4_number 46 = .ok (.iinc 2 1, 3) := dk_132 2 1 (dk_at dksX4_number_2 0 rfl rfl)
theorem dX4_number_49 : decode cX4_number 49 = .ok (.goto (-45), 3) := dk_167 255 211 (dk_at dksX4_number_2 3 rfl rfl)
theorem dX4_number_52 : decode cX4_number 52 = .ok (.aload_n 0, 1) := dk_42 (dk_at dksX4_number_2 6 rfl rfl)
theorem dX4_number_53 : decode cX4_number 53 = .ok (.iload_n 2, 1) := dk_28 (dk_at dksX4_number_2 7 rfl rfl)
theorem dX4_number_54 : decode cX4_number 54 = .ok (.ifCond .ne 7, 3) := dk_154 0 7 (dk_at dksX4_number_2 8 rfl rfl)
theorem dX4_number_57 : decode cX4_number 57 = .ok (.iconst 1, 1) := dk_4 (dk_at dksX4_number_2 11 rfl rfl)
theorem dX4_number_58 : decode cX4_number 58 = .ok (.goto 4, 3) := dk_167 0 4 (dk_at dksX4_number_2 12 rfl rfl)
theorem dX4_number_61 : decode cX4_number 61 = .ok (.iconst 0, 1) := dk_3 (dk_at dksX4_number_2 15 rfl rfl)
theorem dX4_number_62 : decode cX4_number 62 = .ok (.putfield 157, 3) := dk_181 0 157 (dk_at dksX4_number_2 16 rfl rfl)
theorem dX4_number_65 : decode cX4_number 65 = .ok (.aload_n 0, 1) := dk_42 (dk_at dksX4_number_2 19 rfl rfl)
theorem dX4_number_66 : decode cX4_number 66 = .ok (.iconst 1, 1) := dk_4 (dk_at dksX4_number_2 20 rfl rfl)
theorem dX4_number_67 : decode cX4_number 67 = .ok (.iload_n 1, 1) := dk_27 (dk_at dksX4_number_2 21 rfl rfl)
theorem dX4_number_68 : decode cX4_number 68 = .ok (.invokevirtual 161, 3) := dk_182 0 161 (dk_at dksX4_number_3 0 rfl rfl)
theorem dX4_number_71 : decode cX4_number 71 = .ok (.return_, 1) := dk_177 (dk_at dksX4_number_3 3 rfl rfl)
abbrev cX4_untell : ByteArray := prog_19_method_52_code
def yX4_untell : MethodName := ⟨RX4, "untell", "(I)I"⟩
def dkwX4_untell_1 : List UInt8 := [96, 3, 182, 0, 137, 158, 0, 7, 4, 167, 0, 4, 3, 172]
abbrev dktX4_untell_1 : List UInt8 := dkwX4_untell_1 ++ []
def dkwX4_untell_0 : List UInt8 := [27, 3, 4, 184, 0, 61, 154, 0, 10, 42, 18, 125, 182, 0, 126, 172, 42, 17, 0, 140, 16, 121, 27, 104]
abbrev dktX4_untell_0 : List UInt8 := dkwX4_untell_0 ++ dktX4_untell_1
theorem dksX4_untell_0 : cX4_untell.data.toList.drop 0 = dktX4_untell_0 := by decide +kernel
theorem dksX4_untell_1 : cX4_untell.data.toList.drop 24 = dktX4_untell_1 := dk_seg dksX4_untell_0 24 rfl rfl
theorem dX4_untell_0 : decode cX4_untell 0 = .ok (.iload_n 1, 1) := dk_27 (dk_at dksX4_untell_0 0 rfl rfl)
theorem dX4_untell_1 : decode cX4_untell 1 = .ok (.iconst 0, 1) := dk_3 (dk_at dksX4_untell_0 1 rfl rfl)
theorem dX4_untell_2 : decode cX4_untell 2 = .ok (.iconst 1, 1) := dk_4 (dk_at dksX4_untell_0 2 rfl rfl)
theorem dX4_untell_3 : decode cX4_untell 3 = .ok (.invokestatic 61, 3) := dk_184 0 61 (dk_at dksX4_untell_0 3 rfl rfl)
theorem dX4_untell_6 : decode cX4_untell 6 = .ok (.ifCond .ne 10, 3) := dk_154 0 10 (dk_at dksX4_untell_0 6 rfl rfl)
theorem dX4_untell_9 : decode cX4_untell 9 = .ok (.aload_n 0, 1) := dk_42 (dk_at dksX4_untell_0 9 rfl rfl)
theorem dX4_untell_10 : decode cX4_untell 10 = .ok (.ldc 125, 2) := dk_18 125 (dk_at dksX4_untell_0 10 rfl rfl)
theorem dX4_untell_12 : decode cX4_untell 12 = .ok (.invokevirtual 126, 3) := dk_182 0 126 (dk_at dksX4_untell_0 12 rfl rfl)
theorem dX4_untell_15 : decode cX4_untell 15 = .ok (.ireturn, 1) := dk_172 (dk_at dksX4_untell_0 15 rfl rfl)
theorem dX4_untell_16 : decode cX4_untell 16 = .ok (.aload_n 0, 1) := dk_42 (dk_at dksX4_untell_0 16 rfl rfl)
theorem dX4_untell_17 : decode cX4_untell 17 = .ok (.sipush 140, 3) := dk_17 0 140 (dk_at dksX4_untell_0 17 rfl rfl)
theorem dX4_untell_20 : decode cX4_untell 20 = .ok (.bipush 121, 2) := dk_16 121 (dk_at dksX4_untell_0 20 rfl rfl)
theorem dX4_untell_22 : decode cX4_untell 22 = .ok (.iload_n 1, 1) := dk_27 (dk_at dksX4_untell_0 22 rfl rfl)
theorem dX4_untell_23 : decode cX4_untell 23 = .ok (.imul, 1) := dk_104 (dk_at dksX4_untell_0 23 rfl rfl)
theorem dX4_untell_24 : decode cX4_untell 24 = .ok (.iadd, 1) := dk_96 (dk_at dksX4_untell_1 0 rfl rfl)
theorem dX4_untell_25 : decode cX4_untell 25 = .ok (.iconst 0, 1) := dk_3 (dk_at dksX4_untell_1 1 rfl rfl)
theorem dX4_untell_26 : decode cX4_untell 26 = .ok (.invokevirtual 137, 3) := dk_182 0 137 (dk_at dksX4_untell_1 2 rfl rfl)
theorem dX4_untell_29 : decode cX4_untell 29 = .ok (.ifCond .le 7, 3) := dk_158 0 7 (dk_at dksX4_untell_1 5 rfl rfl)
theorem dX4_untell_32 : decode cX4_untell 32 = .ok (.iconst 1, 1) := dk_4 (dk_at dksX4_untell_1 8 rfl rfl)
theorem dX4_untell_33 : decode cX4_untell 33 = .ok (.goto 4, 3) := dk_167 0 4 (dk_at dksX4_untell_1 9 rfl rfl)
theorem dX4_untell_36 : decode cX4_untell 36 = .ok (.iconst 0, 1) := dk_3 (dk_at dksX4_untell_1 12 rfl rfl)
theorem dX4_untell_37 : decode cX4_untell 37 = .ok (.ireturn, 1) := dk_172 (dk_at dksX4_untell_1 13 rfl rfl)
abbrev cX4_law : ByteArray := prog_19_method_56_code
def yX4_law : MethodName := ⟨RX4, "law", "(IIII)I"⟩
def dkwX4_law_1 : List UInt8 := [182, 0, 126, 172]
abbrev dktX4_law_1 : List UInt8 := dkwX4_law_1 ++ []
def dkwX4_law_0 : List UInt8 := [27, 3, 4, 184, 0, 61, 153, 0, 15, 42, 27, 28, 29, 21, 4, 182, 0, 76, 167, 0, 9, 42, 18, 125]
abbrev dktX4_law_0 : List UInt8 := dkwX4_law_0 ++ dktX4_law_1
theorem dksX4_law_0 : cX4_law.data.toList.drop 0 = dktX4_law_0 := by decide +kernel
theorem dksX4_law_1 : cX4_law.data.toList.drop 24 = dktX4_law_1 := dk_seg dksX4_law_0 24 rfl rfl
theorem dX4_law_0 : decode cX4_law 0 = .ok (.iload_n 1, 1) := dk_27 (dk_at dksX4_law_0 0 rfl rfl)
theorem dX4_law_1 : decode cX4_law 1 = .ok (.iconst 0, 1) := dk_3 (dk_at dksX4_law_0 1 rfl rfl)
theorem dX4_law_2 : decode cX4_law 2 = .ok (.iconst 1, 1) := dk_4 (dk_at dksX4_law_0 2 rfl rfl)
theorem dX4_law_3 : decode cX4_law 3 = .ok (.invokestatic 61, 3) := dk_184 0 61 (dk_at dksX4_law_0 3 rfl rfl)
theorem dX4_law_6 : decode cX4_law 6 = .ok (.ifCond .eq 15, 3) := dk_153 0 15 (dk_at dksX4_law_0 6 rfl rfl)
theorem dX4_law_9 : decode cX4_law 9 = .ok (.aload_n 0, 1) := dk_42 (dk_at dksX4_law_0 9 rfl rfl)
theorem dX4_law_10 : decode cX4_law 10 = .ok (.iload_n 1, 1) := dk_27 (dk_at dksX4_law_0 10 rfl rfl)
theorem dX4_law_11 : decode cX4_law 11 = .ok (.iload_n 2, 1) := dk_28 (dk_at dksX4_law_0 11 rfl rfl)
theorem dX4_law_12 : decode cX4_law 12 = .ok (.iload_n 3, 1) := dk_29 (dk_at dksX4_law_0 12 rfl rfl)
theorem dX4_law_13 : decode cX4_law 13 = .ok (.iload 4, 2) := dk_21 4 (dk_at dksX4_law_0 13 rfl rfl)
theorem dX4_law_15 : decode cX4_law 15 = .ok (.invokevirtual 76, 3) := dk_182 0 76 (dk_at dksX4_law_0 15 rfl rfl)
theorem dX4_law_18 : decode cX4_law 18 = .ok (.goto 9, 3) := dk_167 0 9 (dk_at dksX4_law_0 18 rfl rfl)
theorem dX4_law_21 : decode cX4_law 21 = .ok (.aload_n 0, 1) := dk_42 (dk_at dksX4_law_0 21 rfl rfl)
theorem dX4_law_22 : decode cX4_law 22 = .ok (.ldc 125, 2) := dk_18 125 (dk_at dksX4_law_0 22 rfl rfl)
theorem dX4_law_24 : decode cX4_law 24 = .ok (.invokevirtual 126, 3) := dk_182 0 126 (dk_at dksX4_law_1 0 rfl rfl)
theorem dX4_law_27 : decode cX4_law 27 = .ok (.ireturn, 1) := dk_172 (dk_at dksX4_law_1 3 rfl rfl)
abbrev cX4_rounds : ByteArray := prog_19_method_59_code
def yX4_rounds : MethodName := ⟨RX4, "rounds", "(I)I"⟩
def dkwX4_rounds_2 : List UInt8 := [184, 0, 218, 172]
abbrev dktX4_rounds_2 : List UInt8 := dkwX4_rounds_2 ++ []
def dkwX4_rounds_1 : List UInt8 := [96, 17, 39, 15, 164, 0, 10, 42, 18, 141, 182, 0, 126, 172, 42, 27, 182, 0, 215, 42, 182, 0, 96]
abbrev dktX4_rounds_1 : List UInt8 := dkwX4_rounds_1 ++ dktX4_rounds_2
def dkwX4_rounds_0 : List UInt8 := [27, 4, 16, 60, 184, 0, 61, 154, 0, 10, 42, 18, 125, 182, 0, 126, 172, 42, 180, 0, 9, 3, 46, 27]
abbrev dktX4_rounds_0 : List UInt8 := dkwX4_rounds_0 ++ dktX4_rounds_1
theorem dksX4_rounds_0 : cX4_rounds.data.toList.drop 0 = dktX4_rounds_0 := by decide +kernel
theorem dksX4_rounds_1 : cX4_rounds.data.toList.drop 24 = dktX4_rounds_1 := dk_seg dksX4_rounds_0 24 rfl rfl
theorem dksX4_rounds_2 : cX4_rounds.data.toList.drop 47 = dktX4_rounds_2 := dk_seg dksX4_rounds_1 23 rfl rfl
theorem dX4_rounds_0 : decode cX4_rounds 0 = .ok (.iload_n 1, 1) := dk_27 (dk_at dksX4_rounds_0 0 rfl rfl)
theorem dX4_rounds_1 : decode cX4_rounds 1 = .ok (.iconst 1, 1) := dk_4 (dk_at dksX4_rounds_0 1 rfl rfl)
theorem dX4_rounds_2 : decode cX4_rounds 2 = .ok (.bipush 60, 2) := dk_16 60 (dk_at dksX4_rounds_0 2 rfl rfl)
theorem dX4_rounds_4 : decode cX4_rounds 4 = .ok (.invokestatic 61, 3) := dk_184 0 61 (dk_at dksX4_rounds_0 4 rfl rfl)
theorem dX4_rounds_7 : decode cX4_rounds 7 = .ok (.ifCond .ne 10, 3) := dk_154 0 10 (dk_at dksX4_rounds_0 7 rfl rfl)
theorem dX4_rounds_10 : decode cX4_rounds 10 = .ok (.aload_n 0, 1) := dk_42 (dk_at dksX4_rounds_0 10 rfl rfl)
theorem dX4_rounds_11 : decode cX4_rounds 11 = .ok (.ldc 125, 2) := dk_18 125 (dk_at dksX4_rounds_0 11 rfl rfl)
theorem dX4_rounds_13 : decode cX4_rounds 13 = .ok (.invokevirtual 126, 3) := dk_182 0 126 (dk_at dksX4_rounds_0 13 rfl rfl)
theorem dX4_rounds_16 : decode cX4_rounds 16 = .ok (.ireturn, 1) := dk_172 (dk_at dksX4_rounds_0 16 rfl rfl)
theorem dX4_rounds_17 : decode cX4_rounds 17 = .ok (.aload_n 0, 1) := dk_42 (dk_at dksX4_rounds_0 17 rfl rfl)
theorem dX4_rounds_18 : decode cX4_rounds 18 = .ok (.getfield 9, 3) := dk_180 0 9 (dk_at dksX4_rounds_0 18 rfl rfl)
theorem dX4_rounds_21 : decode cX4_rounds 21 = .ok (.iconst 0, 1) := dk_3 (dk_at dksX4_rounds_0 21 rfl rfl)
theorem dX4_rounds_22 : decode cX4_rounds 22 = .ok (.iaload, 1) := dk_46 (dk_at dksX4_rounds_0 22 rfl rfl)
theorem dX4_rounds_23 : decode cX4_rounds 23 = .ok (.iload_n 1, 1) := dk_27 (dk_at dksX4_rounds_0 23 rfl rfl)
theorem dX4_rounds_24 : decode cX4_rounds 24 = .ok (.iadd, 1) := dk_96 (dk_at dksX4_rounds_1 0 rfl rfl)
theorem dX4_rounds_25 : decode cX4_rounds 25 = .ok (.sipush 9999, 3) := dk_17 39 15 (dk_at dksX4_rounds_1 1 rfl rfl)
theorem dX4_rounds_28 : decode cX4_rounds 28 = .ok (.if_icmp .le 10, 3) := dk_164 0 10 (dk_at dksX4_rounds_1 4 rfl rfl)
theorem dX4_rounds_31 : decode cX4_rounds 31 = .ok (.aload_n 0, 1) := dk_42 (dk_at dksX4_rounds_1 7 rfl rfl)
theorem dX4_rounds_32 : decode cX4_rounds 32 = .ok (.ldc 141, 2) := dk_18 141 (dk_at dksX4_rounds_1 8 rfl rfl)
theorem dX4_rounds_34 : decode cX4_rounds 34 = .ok (.invokevirtual 126, 3) := dk_182 0 126 (dk_at dksX4_rounds_1 10 rfl rfl)
theorem dX4_rounds_37 : decode cX4_rounds 37 = .ok (.ireturn, 1) := dk_172 (dk_at dksX4_rounds_1 13 rfl rfl)
theorem dX4_rounds_38 : decode cX4_rounds 38 = .ok (.aload_n 0, 1) := dk_42 (dk_at dksX4_rounds_1 14 rfl rfl)
theorem dX4_rounds_39 : decode cX4_rounds 39 = .ok (.iload_n 1, 1) := dk_27 (dk_at dksX4_rounds_1 15 rfl rfl)
theorem dX4_rounds_40 : decode cX4_rounds 40 = .ok (.invokevirtual 215, 3) := dk_182 0 215 (dk_at dksX4_rounds_1 16 rfl rfl)
theorem dX4_rounds_43 : decode cX4_rounds 43 = .ok (.aload_n 0, 1) := dk_42 (dk_at dksX4_rounds_1 19 rfl rfl)
theorem dX4_rounds_44 : decode cX4_rounds 44 = .ok (.invokevirtual 96, 3) := dk_182 0 96 (dk_at dksX4_rounds_1 20 rfl rfl)
theorem dX4_rounds_47 : decode cX4_rounds 47 = .ok (.invokestatic 218, 3) := dk_184 0 218 (dk_at dksX4_rounds_2 0 rfl rfl)
theorem dX4_rounds_50 : decode cX4_rounds 50 = .ok (.ireturn, 1) := dk_172 (dk_at dksX4_rounds_2 3 rfl rfl)
abbrev cX4_goesFor : ByteArray := prog_19_method_58_code
def yX4_goesFor : MethodName := ⟨RX4, "goesFor", "(I)V"⟩
def dkwX4_goesFor_0 : List UInt8 := [3, 61, 28, 27, 162, 0, 13, 42, 182, 0, 212, 132, 2, 1, 167, 255, 244, 177]
abbrev dktX4_goesFor_0 : List UInt8 := dkwX4_goesFor_0 ++ []
theorem dksX4_goesFor_0 : cX4_goesFor.data.toList.drop 0 = dktX4_goesFor_0 := by decide +kernel
theorem dX4_goesFor_0 : decode cX4_goesFor 0 = .ok (.iconst 0, 1) := dk_3 (dk_at dksX4_goesFor_0 0 rfl rfl)
theorem dX4_goesFor_1 : decode cX4_goesFor 1 = .ok (.istore_n 2, 1) := dk_61 (dk_at dksX4_goesFor_0 1 rfl rfl)
theorem dX4_goesFor_2 : decode cX4_goesFor 2 = .ok (.iload_n 2, 1) := dk_28 (dk_at dksX4_goesFor_0 2 rfl rfl)
theorem dX4_goesFor_3 : decode cX4_goesFor 3 = .ok (.iload_n 1, 1) := dk_27 (dk_at dksX4_goesFor_0 3 rfl rfl)
theorem dX4_goesFor_4 : decode cX4_goesFor 4 = .ok (.if_icmp .ge 13, 3) := dk_162 0 13 (dk_at dksX4_goesFor_0 4 rfl rfl)
theorem dX4_goesFor_7 : decode cX4_goesFor 7 = .ok (.aload_n 0, 1) := dk_42 (dk_at dksX4_goesFor_0 7 rfl rfl)
theorem dX4_goesFor_8 : decode cX4_goesFor 8 = .ok (.invokevirtual 212, 3) := dk_182 0 212 (dk_at dksX4_goesFor_0 8 rfl rfl)
theorem dX4_goesFor_11 : decode cX4_goesFor 11 = .ok (.iinc 2 1, 3) := dk_132 2 1 (dk_at dksX4_goesFor_0 11 rfl rfl)
theorem dX4_goesFor_14 : decode cX4_goesFor 14 = .ok (.goto (-12), 3) := dk_167 255 244 (dk_at dksX4_goesFor_0 14 rfl rfl)
theorem dX4_goesFor_17 : decode cX4_goesFor 17 = .ok (.return_, 1) := dk_177 (dk_at dksX4_goesFor_0 17 rfl rfl)
abbrev cX4_goes : ByteArray := prog_19_method_57_code
def yX4_goes : MethodName := ⟨RX4, "goes", "()V"⟩
def dkwX4_goes_3 : List UInt8 := [79, 177]
abbrev dktX4_goes_3 : List UInt8 := dkwX4_goes_3 ++ []
def dkwX4_goes_2 : List UInt8 := [180, 0, 9, 8, 46, 4, 96, 3, 17, 39, 15, 184, 0, 202, 79, 42, 180, 0, 9, 3, 92, 46, 4, 96]
abbrev dktX4_goes_2 : List UInt8 := dkwX4_goes_2 ++ dktX4_goes_3
def dkwX4_goes_1 : List UInt8 := [42, 180, 0, 108, 105, 148, 158, 0, 31, 42, 27, 8, 3, 182, 0, 130, 42, 180, 0, 9, 8, 42]
abbrev dktX4_goes_1 : List UInt8 := dkwX4_goes_1 ++ dktX4_goes_2
def dkwX4_goes_0 : List UInt8 := [42, 182, 0, 205, 153, 0, 57, 42, 182, 0, 209, 60, 42, 27, 182, 0, 116, 42, 180, 0, 9, 7, 46, 133]
abbrev dktX4_goes_0 : List UInt8 := dkwX4_goes_0 ++ dktX4_goes_1
theorem dksX4_goes_0 : cX4_goes.data.toList.drop 0 = dktX4_goes_0 := by decide +kernel
theorem dksX4_goes_1 : cX4_goes.data.toList.drop 24 = dktX4_goes_1 := dk_seg dksX4_goes_0 24 rfl rfl
theorem dksX4_goes_2 : cX4_goes.data.toList.drop 46 = dktX4_goes_2 := dk_seg dksX4_goes_1 22 rfl rfl
theorem dksX4_goes_3 : cX4_goes.data.toList.drop 70 = dktX4_goes_3 := dk_seg dksX4_goes_2 24 rfl rfl
theorem dX4_goes_0 : decode cX4_goes 0 = .ok (.aload_n 0, 1) := dk_42 (dk_at dksX4_goes_0 0 rfl rfl)
theorem dX4_goes_1 : decode cX4_goes 1 = .ok (.invokevirtual 205, 3) := dk_182 0 205 (dk_at dksX4_goes_0 1 rfl rfl)
theorem dX4_goes_4 : decode cX4_goes 4 = .ok (.ifCond .eq 57, 3) := dk_153 0 57 (dk_at dksX4_goes_0 4 rfl rfl)
theorem dX4_goes_7 : decode cX4_goes 7 = .ok (.aload_n 0, 1) := dk_42 (dk_at dksX4_goes_0 7 rfl rfl)
theorem dX4_goes_8 : decode cX4_goes 8 = .ok (.invokevirtual 209, 3) := dk_182 0 209 (dk_at dksX4_goes_0 8 rfl rfl)
theorem dX4_goes_11 : decode cX4_goes 11 = .ok (.istore_n 1, 1) := dk_60 (dk_at dksX4_goes_0 11 rfl rfl)
theorem dX4_goes_12 : decode cX4_goes 12 = .ok (.aload_n 0, 1) := dk_42 (dk_at dksX4_goes_0 12 rfl rfl)
theorem dX4_goes_13 : decode cX4_goes 13 = .ok (.iload_n 1, 1) := dk_27 (dk_at dksX4_goes_0 13 rfl rfl)
theorem dX4_goes_14 : decode cX4_goes 14 = .ok (.invokevirtual 116, 3) := dk_182 0 116 (dk_at dksX4_goes_0 14 rfl rfl)
theorem dX4_goes_17 : decode cX4_goes 17 = .ok (.aload_n 0, 1) := dk_42 (dk_at dksX4_goes_0 17 rfl rfl)
theorem dX4_goes_18 : decode cX4_goes 18 = .ok (.getfield 9, 3) := dk_180 0 9 (dk_at dksX4_goes_0 18 rfl rfl)
theorem dX4_goes_21 : decode cX4_goes 21 = .ok (.iconst 4, 1) := dk_7 (dk_at dksX4_goes_0 21 rfl rfl)
theorem dX4_goes_22 : decode cX4_goes 22 = .ok (.iaload, 1) := dk_46 (dk_at dksX4_goes_0 22 rfl rfl)
theorem dX4_goes_23 : decode cX4_goes 23 = .ok (.i2l, 1) := dk_133 (dk_at dksX4_goes_0 23 rfl rfl)
theorem dX4_goes_24 : decode cX4_goes 24 = .ok (.aload_n 0, 1) := dk_42 (dk_at dksX4_goes_1 0 rfl rfl)
theorem dX4_goes_25 : decode cX4_goes 25 = .ok (.getfield 108, 3) := dk_180 0 108 (dk_at dksX4_goes_1 1 rfl rfl)
theorem dX4_goes_28 : decode cX4_goes 28 = .ok (.lmul, 1) := dk_105 (dk_at dksX4_goes_1 4 rfl rfl)
theorem dX4_goes_29 : decode cX4_goes 29 = .ok (.lcmp, 1) := dk_148 (dk_at dksX4_goes_1 5 rfl rfl)
theorem dX4_goes_30 : decode cX4_goes 30 = .ok (.ifCond .le 31, 3) := dk_158 0 31 (dk_at dksX4_goes_1 6 rfl rfl)
theorem dX4_goes_33 : decode cX4_goes 33 = .ok (.aload_n 0, 1) := dk_42 (dk_at dksX4_goes_1 9 rfl rfl)
theorem dX4_goes_34 : decode cX4_goes 34 = .ok (.iload_n 1, 1) := dk_27 (dk_at dksX4_goes_1 10 rfl rfl)
theorem dX4_goes_35 : decode cX4_goes 35 = .ok (.iconst 5, 1) := dk_8 (dk_at dksX4_goes_1 11 rfl rfl)
theorem dX4_goes_36 : decode cX4_goes 36 = .ok (.iconst 0, 1) := dk_3 (dk_at dksX4_goes_1 12 rfl rfl)
theorem dX4_goes_37 : decode cX4_goes 37 = .ok (.invokevirtual 130, 3) := dk_182 0 130 (dk_at dksX4_goes_1 13 rfl rfl)
theorem dX4_goes_40 : decode cX4_goes 40 = .ok (.aload_n 0, 1) := dk_42 (dk_at dksX4_goes_1 16 rfl rfl)
theorem dX4_goes_41 : decode cX4_goes 41 = .ok (.getfield 9, 3) := dk_180 0 9 (dk_at dksX4_goes_1 17 rfl rfl)
theorem dX4_goes_44 : decode cX4_goes 44 = .ok (.iconst 5, 1) := dk_8 (dk_at dksX4_goes_1 20 rfl rfl)
theorem dX4_goes_45 : decode cX4_goes 45 = .ok (.aload_n 0, 1) := dk_42 (dk_at dksX4_goes_1 21 rfl rfl)
theorem dX4_goes_46 : decode cX4_goes 46 = .ok (.getfield 9, 3) := dk_180 0 9 (dk_at dksX4_goes_2 0 rfl rfl)
theorem dX4_goes_49 : decode cX4_goes 49 = .ok (.iconst 5, 1) := dk_8 (dk_at dksX4_goes_2 3 rfl rfl)
theorem dX4_goes_50 : decode cX4_goes 50 = .ok (.iaload, 1) := dk_46 (dk_at dksX4_goes_2 4 rfl rfl)
theorem dX4_goes_51 : decode cX4_goes 51 = .ok (.iconst 1, 1) := dk_4 (dk_at dksX4_goes_2 5 rfl rfl)
theorem dX4_goes_52 : decode cX4_goes 52 = .ok (.iadd, 1) := dk_96 (dk_at dksX4_goes_2 6 rfl rfl)
theorem dX4_goes_53 : decode cX4_goes 53 = .ok (.iconst 0, 1) := dk_3 (dk_at dksX4_goes_2 7 rfl rfl)
theorem dX4_goes_54 : decode cX4_goes 54 = .ok (.sipush 9999, 3) := dk_17 39 15 (dk_at dksX4_goes_2 8 rfl rfl)
theorem dX4_goes_57 : decode cX4_goes 57 = .ok (.invokestatic 202, 3) := dk_184 0 202 (dk_at dksX4_goes_2 11 rfl rfl)
theorem dX4_goes_60 : decode cX4_goes 60 = .ok (.iastore, 1) := dk_79 (dk_at dksX4_goes_2 14 rfl rfl)
theorem dX4_goes_61 : decode cX4_goes 61 = .ok (.aload_n 0, 1) := dk_42 (dk_at dksX4_goes_2 15 rfl rfl)
theorem dX4_goes_62 : decode cX4_goes 62 = .ok (.getfield 9, 3) := dk_180 0 9 (dk_at dksX4_goes_2 16 rfl rfl)
theorem dX4_goes_65 : decode cX4_goes 65 = .ok (.iconst 0, 1) := dk_3 (dk_at dksX4_goes_2 19 rfl rfl)
theorem dX4_goes_66 : decode cX4_goes 66 = .ok (.dup2, 1) := dk_92 (dk_at dksX4_goes_2 20 rfl rfl)
theorem dX4_goes_67 : decode cX4_goes 67 = .ok (.iaload, 1) := dk_46 (dk_at dksX4_goes_2 21 rfl rfl)
theorem dX4_goes_68 : decode cX4_goes 68 = .ok (.iconst 1, 1) := dk_4 (dk_at dksX4_goes_2 22 rfl rfl)
theorem dX4_goes_69 : decode cX4_goes 69 = .ok (.iadd, 1) := dk_96 (dk_at dksX4_goes_2 23 rfl rfl)
theorem dX4_goes_70 : decode cX4_goes 70 = .ok (.iastore, 1) := dk_79 (dk_at dksX4_goes_3 0 rfl rfl)
theorem dX4_goes_71 : decode cX4_goes 71 = .ok (.return_, 1) := dk_177 (dk_at dksX4_goes_3 1 rfl rfl)
abbrev cX4_isSolved : ByteArray := prog_19_method_24_code
def yX4_isSolved : MethodName := ⟨RX4, "isSolved", "()Z"⟩
def dkwX4_isSolved_5 : List UInt8 := [4, 172]
abbrev dktX4_isSolved_5 : List UInt8 := dkwX4_isSolved_5 ++ []
def dkwX4_isSolved_4 : List UInt8 := [6, 46, 162, 0, 22, 42, 180, 0, 38, 27, 42, 3, 3, 27, 182, 0, 86, 80, 132, 1, 1, 167, 255, 230]
abbrev dktX4_isSolved_4 : List UInt8 := dkwX4_isSolved_4 ++ dktX4_isSolved_5
def dkwX4_isSolved_3 : List UInt8 := [132, 1, 1, 167, 255, 228, 42, 42, 3, 3, 2, 182, 0, 86, 181, 0, 108, 3, 60, 27, 42, 180, 0, 9]
abbrev dktX4_isSolved_3 : List UInt8 := dkwX4_isSolved_3 ++ dktX4_isSolved_4
def dkwX4_isSolved_2 : List UInt8 := [42, 180, 0, 9, 5, 46, 162, 0, 24, 42, 27, 8, 182, 0, 65, 4, 160, 0, 8, 42, 27, 182, 0, 104]
abbrev dktX4_isSolved_2 : List UInt8 := dkwX4_isSolved_2 ++ dktX4_isSolved_3
def dkwX4_isSolved_1 : List UInt8 := [180, 0, 31, 27, 9, 80, 42, 180, 0, 35, 27, 7, 108, 9, 80, 132, 1, 1, 167, 255, 231, 3, 60, 27]
abbrev dktX4_isSolved_1 : List UInt8 := dkwX4_isSolved_1 ++ dktX4_isSolved_2
def dkwX4_isSolved_0 : List UInt8 := [42, 42, 182, 0, 96, 182, 0, 100, 154, 0, 5, 3, 172, 3, 60, 27, 16, 16, 162, 0, 25, 42]
abbrev dktX4_isSolved_0 : List UInt8 := dkwX4_isSolved_0 ++ dktX4_isSolved_1
theorem dksX4_isSolved_0 : cX4_isSolved.data.toList.drop 0 = dktX4_isSolved_0 := by decide +kernel
theorem dksX4_isSolved_1 : cX4_isSolved.data.toList.drop 22 = dktX4_isSolved_1 := dk_seg dksX4_isSolved_0 22 rfl rfl
theorem dksX4_isSolved_2 : cX4_isSolved.data.toList.drop 46 = dktX4_isSolved_2 := dk_seg dksX4_isSolved_1 24 rfl rfl
theorem dksX4_isSolved_3 : cX4_isSolved.data.toList.drop 70 = dktX4_isSolved_3 := dk_seg dksX4_isSolved_2 24 rfl rfl
theorem dksX4_isSolved_4 : cX4_isSolved.data.toList.drop 94 = dktX4_isSolved_4 := dk_seg dksX4_isSolved_3 24 rfl rfl
theorem dksX4_isSolved_5 : cX4_isSolved.data.toList.drop 118 = dktX4_isSolved_5 := dk_seg dksX4_isSolved_4 24 rfl rfl
theorem dX4_isSolved_0 : decode cX4_isSolved 0 = .ok (.aload_n 0, 1) := dk_42 (dk_at dksX4_isSolved_0 0 rfl rfl)
theorem dX4_isSolved_1 : decode cX4_isSolved 1 = .ok (.aload_n 0, 1) := dk_42 (dk_at dksX4_isSolved_0 1 rfl rfl)
theorem dX4_isSolved_2 : decode cX4_isSolved 2 = .ok (.invokevirtual 96, 3) := dk_182 0 96 (dk_at dksX4_isSolved_0 2 rfl rfl)
theorem dX4_isSolved_5 : decode cX4_isSolved 5 = .ok (.invokevirtual 100, 3) := dk_182 0 100 (dk_at dksX4_isSolved_0 5 rfl rfl)
theorem dX4_isSolved_8 : decode cX4_isSolved 8 = .ok (.ifCond .ne 5, 3) := dk_154 0 5 (dk_at dksX4_isSolved_0 8 rfl rfl)
theorem dX4_isSolved_11 : decode cX4_isSolved 11 = .ok (.iconst 0, 1) := dk_3 (dk_at dksX4_isSolved_0 11 rfl rfl)
theorem dX4_isSolved_12 : decode cX4_isSolved 12 = .ok (.ireturn, 1) := dk_172 (dk_at dksX4_isSolved_0 12 rfl rfl)
theorem dX4_isSolved_13 : decode cX4_isSolved 13 = .ok (.iconst 0, 1) := dk_3 (dk_at dksX4_isSolved_0 13 rfl rfl)
theorem dX4_isSolved_14 : decode cX4_isSolved 14 = .ok (.istore_n 1, 1) := dk_60 (dk_at dksX4_isSolved_0 14 rfl rfl)
theorem dX4_isSolved_15 : decode cX4_isSolved 15 = .ok (.iload_n 1, 1) := dk_27 (dk_at dksX4_isSolved_0 15 rfl rfl)
theorem dX4_isSolved_16 : decode cX4_isSolved 16 = .ok (.bipush 16, 2) := dk_16 16 (dk_at dksX4_isSolved_0 16 rfl rfl)
theorem dX4_isSolved_18 : decode cX4_isSolved 18 = .ok (.if_icmp .ge 25, 3) := dk_162 0 25 (dk_at dksX4_isSolved_0 18 rfl rfl)
theorem dX4_isSolved_21 : decode cX4_isSolved 21 = .ok (.aload_n 0, 1) := dk_42 (dk_at dksX4_isSolved_0 21 rfl rfl)
theorem dX4_isSolved_22 : decode cX4_isSolved 22 = .ok (.getfield 31, 3) := dk_180 0 31 (dk_at dksX4_isSolved_1 0 rfl rfl)
theorem dX4_isSolved_25 : decode cX4_isSolved 25 = .ok (.iload_n 1, 1) := dk_27 (dk_at dksX4_isSolved_1 3 rfl rfl)
theorem dX4_isSolved_26 : decode cX4_isSolved 26 = .ok (.lconst 0, 1) := dk_9 (dk_at dksX4_isSolved_1 4 rfl rfl)
theorem dX4_isSolved_27 : decode cX4_isSolved 27 = .ok (.lastore, 1) := dk_80 (dk_at dksX4_isSolved_1 5 rfl rfl)
theorem dX4_isSolved_28 : decode cX4_isSolved 28 = .ok (.aload_n 0, 1) := dk_42 (dk_at dksX4_isSolved_1 6 rfl rfl)
theorem dX4_isSolved_29 : decode cX4_isSolved 29 = .ok (.getfield 35, 3) := dk_180 0 35 (dk_at dksX4_isSolved_1 7 rfl rfl)
theorem dX4_isSolved_32 : decode cX4_isSolved 32 = .ok (.iload_n 1, 1) := dk_27 (dk_at dksX4_isSolved_1 10 rfl rfl)
theorem dX4_isSolved_33 : decode cX4_isSolved 33 = .ok (.iconst 4, 1) := dk_7 (dk_at dksX4_isSolved_1 11 rfl rfl)
theorem dX4_isSolved_34 : decode cX4_isSolved 34 = .ok (.idiv, 1) := dk_108 (dk_at dksX4_isSolved_1 12 rfl rfl)
theorem dX4_isSolved_35 : decode cX4_isSolved 35 = .ok (.lconst 0, 1) := dk_9 (dk_at dksX4_isSolved_1 13 rfl rfl)
theorem dX4_isSolved_36 : decode cX4_isSolved 36 = .ok (.lastore, 1) := dk_80 (dk_at dksX4_isSolved_1 14 rfl rfl)
theorem dX4_isSolved_37 : decode cX4_isSolved 37 = .ok (.iinc 1 1, 3) := dk_132 1 1 (dk_at dksX4_isSolved_1 15 rfl rfl)
theorem dX4_isSolved_40 : decode cX4_isSolved 40 = .ok (.goto (-25), 3) := dk_167 255 231 (dk_at dksX4_isSolved_1 18 rfl rfl)
theorem dX4_isSolved_43 : decode cX4_isSolved 43 = .ok (.iconst 0, 1) := dk_3 (dk_at dksX4_isSolved_1 21 rfl rfl)
theorem dX4_isSolved_44 : decode cX4_isSolved 44 = .ok (.istore_n 1, 1) := dk_60 (dk_at dksX4_isSolved_1 22 rfl rfl)
theorem dX4_isSolved_45 : decode cX4_isSolved 45 = .ok (.iload_n 1, 1) := dk_27 (dk_at dksX4_isSolved_1 23 rfl rfl)
theorem dX4_isSolved_46 : decode cX4_isSolved 46 = .ok (.aload_n 0, 1) := dk_42 (dk_at dksX4_isSolved_2 0 rfl rfl)
theorem dX4_isSolved_47 : decode cX4_isSolved 47 = .ok (.getfield 9, 3) := dk_180 0 9 (dk_at dksX4_isSolved_2 1 rfl rfl)
theorem dX4_isSolved_50 : decode cX4_isSolved 50 = .ok (.iconst 2, 1) := dk_5 (dk_at dksX4_isSolved_2 4 rfl rfl)
theorem dX4_isSolved_51 : decode cX4_isSolved 51 = .ok (.iaload, 1) := dk_46 (dk_at dksX4_isSolved_2 5 rfl rfl)
theorem dX4_isSolved_52 : decode cX4_isSolved 52 = .ok (.if_icmp .ge 24, 3) := dk_162 0 24 (dk_at dksX4_isSolved_2 6 rfl rfl)
theorem dX4_isSolved_55 : decode cX4_isSolved 55 = .ok (.aload_n 0, 1) := dk_42 (dk_at dksX4_isSolved_2 9 rfl rfl)
theorem dX4_isSolved_56 : decode cX4_isSolved 56 = .ok (.iload_n 1, 1) := dk_27 (dk_at dksX4_isSolved_2 10 rfl rfl)
theorem dX4_isSolved_57 : decode cX4_isSolved 57 = .ok (.iconst 5, 1) := dk_8 (dk_at dksX4_isSolved_2 11 rfl rfl)
theorem dX4_isSolved_58 : decode cX4_isSolved 58 = .ok (.invokevirtual 65, 3) := dk_182 0 65 (dk_at dksX4_isSolved_2 12 rfl rfl)
theorem dX4_isSolved_61 : decode cX4_isSolved 61 = .ok (.iconst 1, 1) := dk_4 (dk_at dksX4_isSolved_2 15 rfl rfl)
theorem dX4_isSolved_62 : decode cX4_isSolved 62 = .ok (.if_icmp .ne 8, 3) := dk_160 0 8 (dk_at dksX4_isSolved_2 16 rfl rfl)
theorem dX4_isSolved_65 : decode cX4_isSolved 65 = .ok (.aload_n 0, 1) := dk_42 (dk_at dksX4_isSolved_2 19 rfl rfl)
theorem dX4_isSolved_66 : decode cX4_isSolved 66 = .ok (.iload_n 1, 1) := dk_27 (dk_at dksX4_isSolved_2 20 rfl rfl)
theorem dX4_isSolved_67 : decode cX4_isSolved 67 = .ok (.invokevirtual 104, 3) := dk_182 0 104 (dk_at dksX4_isSolved_2 21 rfl rfl)
theorem dX4_isSolved_70 : decode cX4_isSolved 70 = .ok (.iinc 1 1, 3) := dk_132 1 1 (dk_at dksX4_isSolved_3 0 rfl rfl)
theorem dX4_isSolved_73 : decode cX4_isSolved 73 = .ok (.goto (-28), 3) := dk_167 255 228 (dk_at dksX4_isSolved_3 3 rfl rfl)
theorem dX4_isSolved_76 : decode cX4_isSolved 76 = .ok (.aload_n 0, 1) := dk_42 (dk_at dksX4_isSolved_3 6 rfl rfl)
theorem dX4_isSolved_77 : decode cX4_isSolved 77 = .ok (.aload_n 0, 1) := dk_42 (dk_at dksX4_isSolved_3 7 rfl rfl)
theorem dX4_isSolved_78 : decode cX4_isSolved 78 = .ok (.iconst 0, 1) := dk_3 (dk_at dksX4_isSolved_3 8 rfl rfl)
theorem dX4_isSolved_79 : decode cX4_isSolved 79 = .ok (.iconst 0, 1) := dk_3 (dk_at dksX4_isSolved_3 9 rfl rfl)
theorem dX4_isSolved_80 : decode cX4_isSolved 80 = .ok (.iconst (-1), 1) := dk_2 (dk_at dksX4_isSolved_3 10 rfl rfl)
theorem dX4_isSolved_81 : decode cX4_isSolved 81 = .ok (.invokevirtual 86, 3) := dk_182 0 86 (dk_at dksX4_isSolved_3 11 rfl rfl)
theorem dX4_isSolved_84 : decode cX4_isSolved 84 = .ok (.putfield 108, 3) := dk_181 0 108 (dk_at dksX4_isSolved_3 14 rfl rfl)
theorem dX4_isSolved_87 : decode cX4_isSolved 87 = .ok (.iconst 0, 1) := dk_3 (dk_at dksX4_isSolved_3 17 rfl rfl)
theorem dX4_isSolved_88 : decode cX4_isSolved 88 = .ok (.istore_n 1, 1) := dk_60 (dk_at dksX4_isSolved_3 18 rfl rfl)
theorem dX4_isSolved_89 : decode cX4_isSolved 89 = .ok (.iload_n 1, 1) := dk_27 (dk_at dksX4_isSolved_3 19 rfl rfl)
theorem dX4_isSolved_90 : decode cX4_isSolved 90 = .ok (.aload_n 0, 1) := dk_42 (dk_at dksX4_isSolved_3 20 rfl rfl)
theorem dX4_isSolved_91 : decode cX4_isSolved 91 = .ok (.getfield 9, 3) := dk_180 0 9 (dk_at dksX4_isSolved_3 21 rfl rfl)
theorem dX4_isSolved_94 : decode cX4_isSolved 94 = .ok (.iconst 3, 1) := dk_6 (dk_at dksX4_isSolved_4 0 rfl rfl)
theorem dX4_isSolved_95 : decode cX4_isSolved 95 = .ok (.iaload, 1) := dk_46 (dk_at dksX4_isSolved_4 1 rfl rfl)
theorem dX4_isSolved_96 : decode cX4_isSolved 96 = .ok (.if_icmp .ge 22, 3) := dk_162 0 22 (dk_at dksX4_isSolved_4 2 rfl rfl)
theorem dX4_isSolved_99 : decode cX4_isSolved 99 = .ok (.aload_n 0, 1) := dk_42 (dk_at dksX4_isSolved_4 5 rfl rfl)
theorem dX4_isSolved_100 : decode cX4_isSolved 100 = .ok (.getfield 38, 3) := dk_180 0 38 (dk_at dksX4_isSolved_4 6 rfl rfl)
theorem dX4_isSolved_103 : decode cX4_isSolved 103 = .ok (.iload_n 1, 1) := dk_27 (dk_at dksX4_isSolved_4 9 rfl rfl)
theorem dX4_isSolved_104 : decode cX4_isSolved 104 = .ok (.aload_n 0, 1) := dk_42 (dk_at dksX4_isSolved_4 10 rfl rfl)
theorem dX4_isSolved_105 : decode cX4_isSolved 105 = .ok (.iconst 0, 1) := dk_3 (dk_at dksX4_isSolved_4 11 rfl rfl)
theorem dX4_isSolved_106 : decode cX4_isSolved 106 = .ok (.iconst 0, 1) := dk_3 (dk_at dksX4_isSolved_4 12 rfl rfl)
theorem dX4_isSolved_107 : decode cX4_isSolved 107 = .ok (.iload_n 1, 1) := dk_27 (dk_at dksX4_isSolved_4 13 rfl rfl)
theorem dX4_isSolved_108 : decode cX4_isSolved 108 = .ok (.invokevirtual 86, 3) := dk_182 0 86 (dk_at dksX4_isSolved_4 14 rfl rfl)
theorem dX4_isSolved_111 : decode cX4_isSolved 111 = .ok (.lastore, 1) := dk_80 (dk_at dksX4_isSolved_4 17 rfl rfl)
theorem dX4_isSolved_112 : decode cX4_isSolved 112 = .ok (.iinc 1 1, 3) := dk_132 1 1 (dk_at dksX4_isSolved_4 18 rfl rfl)
theorem dX4_isSolved_115 : decode cX4_isSolved 115 = .ok (.goto (-26), 3) := dk_167 255 230 (dk_at dksX4_isSolved_4 21 rfl rfl)
theorem dX4_isSolved_118 : decode cX4_isSolved 118 = .ok (.iconst 1, 1) := dk_4 (dk_at dksX4_isSolved_5 0 rfl rfl)
theorem dX4_isSolved_119 : decode cX4_isSolved 119 = .ok (.ireturn, 1) := dk_172 (dk_at dksX4_isSolved_5 1 rfl rfl)
abbrev cX4_onOnes : ByteArray := prog_19_method_14_code
def yX4_onOnes : MethodName := ⟨RX4, "onOnes", "()I"⟩
def dkwX4_onOnes_1 : List UInt8 := [60, 132, 2, 1, 167, 255, 232, 27, 172]
abbrev dktX4_onOnes_1 : List UInt8 := dkwX4_onOnes_1 ++ []
def dkwX4_onOnes_0 : List UInt8 := [3, 60, 3, 61, 28, 42, 180, 0, 9, 5, 46, 162, 0, 20, 27, 42, 28, 8, 182, 0, 65, 28, 120, 128]
abbrev dktX4_onOnes_0 : List UInt8 := dkwX4_onOnes_0 ++ dktX4_onOnes_1
theorem dksX4_onOnes_0 : cX4_onOnes.data.toList.drop 0 = dktX4_onOnes_0 := by decide +kernel
theorem dksX4_onOnes_1 : cX4_onOnes.data.toList.drop 24 = dktX4_onOnes_1 := dk_seg dksX4_onOnes_0 24 rfl rfl
theorem dX4_onOnes_0 : decode cX4_onOnes 0 = .ok (.iconst 0, 1) := dk_3 (dk_at dksX4_onOnes_0 0 rfl rfl)
theorem dX4_onOnes_1 : decode cX4_onOnes 1 = .ok (.istore_n 1, 1) := dk_60 (dk_at dksX4_onOnes_0 1 rfl rfl)
theorem dX4_onOnes_2 : decode cX4_onOnes 2 = .ok (.iconst 0, 1) := dk_3 (dk_at dksX4_onOnes_0 2 rfl rfl)
theorem dX4_onOnes_3 : decode cX4_onOnes 3 = .ok (.istore_n 2, 1) := dk_61 (dk_at dksX4_onOnes_0 3 rfl rfl)
theorem dX4_onOnes_4 : decode cX4_onOnes 4 = .ok (.iload_n 2, 1) := dk_28 (dk_at dksX4_onOnes_0 4 rfl rfl)
theorem dX4_onOnes_5 : decode cX4_onOnes 5 = .ok (.aload_n 0, 1) := dk_42 (dk_at dksX4_onOnes_0 5 rfl rfl)
theorem dX4_onOnes_6 : decode cX4_onOnes 6 = .ok (.getfield 9, 3) := dk_180 0 9 (dk_at dksX4_onOnes_0 6 rfl rfl)
theorem dX4_onOnes_9 : decode cX4_onOnes 9 = .ok (.iconst 2, 1) := dk_5 (dk_at dksX4_onOnes_0 9 rfl rfl)
theorem dX4_onOnes_10 : decode cX4_onOnes 10 = .ok (.iaload, 1) := dk_46 (dk_at dksX4_onOnes_0 10 rfl rfl)
theorem dX4_onOnes_11 : decode cX4_onOnes 11 = .ok (.if_icmp .ge 20, 3) := dk_162 0 20 (dk_at dksX4_onOnes_0 11 rfl rfl)
theorem dX4_onOnes_14 : decode cX4_onOnes 14 = .ok (.iload_n 1, 1) := dk_27 (dk_at dksX4_onOnes_0 14 rfl rfl)
theorem dX4_onOnes_15 : decode cX4_onOnes 15 = .ok (.aload_n 0, 1) := dk_42 (dk_at dksX4_onOnes_0 15 rfl rfl)
theorem dX4_onOnes_16 : decode cX4_onOnes 16 = .ok (.iload_n 2, 1) := dk_28 (dk_at dksX4_onOnes_0 16 rfl rfl)
theorem dX4_onOnes_17 : decode cX4_onOnes 17 = .ok (.iconst 5, 1) := dk_8 (dk_at dksX4_onOnes_0 17 rfl rfl)
theorem dX4_onOnes_18 : decode cX4_onOnes 18 = .ok (.invokevirtual 65, 3) := dk_182 0 65 (dk_at dksX4_onOnes_0 18 rfl rfl)
theorem dX4_onOnes_21 : decode cX4_onOnes 21 = .ok (.iload_n 2, 1) := dk_28 (dk_at dksX4_onOnes_0 21 rfl rfl)
theorem dX4_onOnes_22 : decode cX4_onOnes 22 = .ok (.ishl, 1) := dk_120 (dk_at dksX4_onOnes_0 22 rfl rfl)
theorem dX4_onOnes_23 : decode cX4_onOnes 23 = .ok (.ior, 1) := dk_128 (dk_at dksX4_onOnes_0 23 rfl rfl)
theorem dX4_onOnes_24 : decode cX4_onOnes 24 = .ok (.istore_n 1, 1) := dk_60 (dk_at dksX4_onOnes_1 0 rfl rfl)
theorem dX4_onOnes_25 : decode cX4_onOnes 25 = .ok (.iinc 2 1, 3) := dk_132 2 1 (dk_at dksX4_onOnes_1 1 rfl rfl)
theorem dX4_onOnes_28 : decode cX4_onOnes 28 = .ok (.goto (-24), 3) := dk_167 255 232 (dk_at dksX4_onOnes_1 4 rfl rfl)
theorem dX4_onOnes_31 : decode cX4_onOnes 31 = .ok (.iload_n 1, 1) := dk_27 (dk_at dksX4_onOnes_1 7 rfl rfl)
theorem dX4_onOnes_32 : decode cX4_onOnes 32 = .ok (.ireturn, 1) := dk_172 (dk_at dksX4_onOnes_1 8 rfl rfl)
abbrev cX4_doesHold : ByteArray := prog_19_method_21_code
def yX4_doesHold : MethodName := ⟨RX4, "doesHold", "(I)Z"⟩
def dkwX4_doesHold_0 : List UInt8 := [42, 27, 182, 0, 83, 4, 42, 180, 0, 9, 6, 46, 120, 4, 100, 160, 0, 7, 4, 167, 0, 4, 3, 172]
abbrev dktX4_doesHold_0 : List UInt8 := dkwX4_doesHold_0 ++ []
theorem dksX4_doesHold_0 : cX4_doesHold.data.toList.drop 0 = dktX4_doesHold_0 := by decide +kernel
theorem dX4_doesHold_0 : decode cX4_doesHold 0 = .ok (.aload_n 0, 1) := dk_42 (dk_at dksX4_doesHold_0 0 rfl rfl)
theorem dX4_doesHold_1 : decode cX4_doesHold 1 = .ok (.iload_n 1, 1) := dk_27 (dk_at dksX4_doesHold_0 1 rfl rfl)
theorem dX4_doesHold_2 : decode cX4_doesHold 2 = .ok (.invokevirtual 83, 3) := dk_182 0 83 (dk_at dksX4_doesHold_0 2 rfl rfl)
theorem dX4_doesHold_5 : decode cX4_doesHold 5 = .ok (.iconst 1, 1) := dk_4 (dk_at dksX4_doesHold_0 5 rfl rfl)
theorem dX4_doesHold_6 : decode cX4_doesHold 6 = .ok (.aload_n 0, 1) := dk_42 (dk_at dksX4_doesHold_0 6 rfl rfl)
theorem dX4_doesHold_7 : decode cX4_doesHold 7 = .ok (.getfield 9, 3) := dk_180 0 9 (dk_at dksX4_doesHold_0 7 rfl rfl)
theorem dX4_doesHold_10 : decode cX4_doesHold 10 = .ok (.iconst 3, 1) := dk_6 (dk_at dksX4_doesHold_0 10 rfl rfl)
theorem dX4_doesHold_11 : decode cX4_doesHold 11 = .ok (.iaload, 1) := dk_46 (dk_at dksX4_doesHold_0 11 rfl rfl)
theorem dX4_doesHold_12 : decode cX4_doesHold 12 = .ok (.ishl, 1) := dk_120 (dk_at dksX4_doesHold_0 12 rfl rfl)
theorem dX4_doesHold_13 : decode cX4_doesHold 13 = .ok (.iconst 1, 1) := dk_4 (dk_at dksX4_doesHold_0 13 rfl rfl)
theorem dX4_doesHold_14 : decode cX4_doesHold 14 = .ok (.isub, 1) := dk_100 (dk_at dksX4_doesHold_0 14 rfl rfl)
theorem dX4_doesHold_15 : decode cX4_doesHold 15 = .ok (.if_icmp .ne 7, 3) := dk_160 0 7 (dk_at dksX4_doesHold_0 15 rfl rfl)
theorem dX4_doesHold_18 : decode cX4_doesHold 18 = .ok (.iconst 1, 1) := dk_4 (dk_at dksX4_doesHold_0 18 rfl rfl)
theorem dX4_doesHold_19 : decode cX4_doesHold 19 = .ok (.goto 4, 3) := dk_167 0 4 (dk_at dksX4_doesHold_0 19 rfl rfl)
theorem dX4_doesHold_22 : decode cX4_doesHold 22 = .ok (.iconst 0, 1) := dk_3 (dk_at dksX4_doesHold_0 22 rfl rfl)
theorem dX4_doesHold_23 : decode cX4_doesHold 23 = .ok (.ireturn, 1) := dk_172 (dk_at dksX4_doesHold_0 23 rfl rfl)
abbrev cX4_tiedBy : ByteArray := prog_19_method_20_code
def yX4_tiedBy : MethodName := ⟨RX4, "tiedBy", "(I)I"⟩
def dkwX4_tiedBy_6 : List UInt8 := [167, 255, 118, 28, 172]
abbrev dktX4_tiedBy_6 : List UInt8 := dkwX4_tiedBy_6 ++ []
def dkwX4_tiedBy_5 : List UInt8 := [167, 0, 12, 4, 42, 21, 4, 5, 182, 0, 65, 120, 128, 128, 61, 132, 4, 1, 167, 255, 132, 132, 3, 1]
abbrev dktX4_tiedBy_5 : List UInt8 := dkwX4_tiedBy_5 ++ dktX4_tiedBy_6
def dkwX4_tiedBy_4 : List UInt8 := [153, 0, 39, 28, 4, 42, 21, 4, 6, 182, 0, 65, 120, 42, 21, 4, 5, 182, 0, 65, 156, 0, 7, 3]
abbrev dktX4_tiedBy_4 : List UInt8 := dkwX4_tiedBy_4 ++ dktX4_tiedBy_5
def dkwX4_tiedBy_3 : List UInt8 := [167, 0, 4, 3, 54, 6, 27, 21, 4, 122, 4, 126, 4, 160, 0, 49, 21, 5, 154, 0, 8, 21, 6]
abbrev dktX4_tiedBy_3 : List UInt8 := dkwX4_tiedBy_3 ++ dktX4_tiedBy_4
def dkwX4_tiedBy_2 : List UInt8 := [4, 167, 0, 4, 3, 54, 5, 28, 42, 21, 4, 6, 182, 0, 65, 122, 4, 126, 4, 160, 0, 7, 4]
abbrev dktX4_tiedBy_2 : List UInt8 := dkwX4_tiedBy_2 ++ dktX4_tiedBy_3
def dkwX4_tiedBy_1 : List UInt8 := [21, 4, 5, 182, 0, 65, 155, 0, 18, 28, 42, 21, 4, 5, 182, 0, 65, 122, 4, 126, 4, 160, 0, 7]
abbrev dktX4_tiedBy_1 : List UInt8 := dkwX4_tiedBy_1 ++ dktX4_tiedBy_2
def dkwX4_tiedBy_0 : List UInt8 := [3, 61, 3, 62, 29, 7, 162, 0, 139, 3, 54, 4, 21, 4, 42, 180, 0, 9, 5, 46, 162, 0, 119, 42]
abbrev dktX4_tiedBy_0 : List UInt8 := dkwX4_tiedBy_0 ++ dktX4_tiedBy_1
theorem dksX4_tiedBy_0 : cX4_tiedBy.data.toList.drop 0 = dktX4_tiedBy_0 := by decide +kernel
theorem dksX4_tiedBy_1 : cX4_tiedBy.data.toList.drop 24 = dktX4_tiedBy_1 := dk_seg dksX4_tiedBy_0 24 rfl rfl
theorem dksX4_tiedBy_2 : cX4_tiedBy.data.toList.drop 48 = dktX4_tiedBy_2 := dk_seg dksX4_tiedBy_1 24 rfl rfl
theorem dksX4_tiedBy_3 : cX4_tiedBy.data.toList.drop 71 = dktX4_tiedBy_3 := dk_seg dksX4_tiedBy_2 23 rfl rfl
theorem dksX4_tiedBy_4 : cX4_tiedBy.data.toList.drop 94 = dktX4_tiedBy_4 := dk_seg dksX4_tiedBy_3 23 rfl rfl
theorem dksX4_tiedBy_5 : cX4_tiedBy.data.toList.drop 118 = dktX4_tiedBy_5 := dk_seg dksX4_tiedBy_4 24 rfl rfl
theorem dksX4_tiedBy_6 : cX4_tiedBy.data.toList.drop 142 = dktX4_tiedBy_6 := dk_seg dksX4_tiedBy_5 24 rfl rfl
theorem dX4_tiedBy_0 : decode cX4_tiedBy 0 = .ok (.iconst 0, 1) := dk_3 (dk_at dksX4_tiedBy_0 0 rfl rfl)
theorem dX4_tiedBy_1 : decode cX4_tiedBy 1 = .ok (.istore_n 2, 1) := dk_61 (dk_at dksX4_tiedBy_0 1 rfl rfl)
theorem dX4_tiedBy_2 : decode cX4_tiedBy 2 = .ok (.iconst 0, 1) := dk_3 (dk_at dksX4_tiedBy_0 2 rfl rfl)
theorem dX4_tiedBy_3 : decode cX4_tiedBy 3 = .ok (.istore_n 3, 1) := dk_62 (dk_at dksX4_tiedBy_0 3 rfl rfl)
theorem dX4_tiedBy_4 : decode cX4_tiedBy 4 = .ok (.iload_n 3, 1) := dk_29 (dk_at dksX4_tiedBy_0 4 rfl rfl)
theorem dX4_tiedBy_5 : decode cX4_tiedBy 5 = .ok (.iconst 4, 1) := dk_7 (dk_at dksX4_tiedBy_0 5 rfl rfl)
theorem dX4_tiedBy_6 : decode cX4_tiedBy 6 = .ok (.if_icmp .ge 139, 3) := dk_162 0 139 (dk_at dksX4_tiedBy_0 6 rfl rfl)
theorem dX4_tiedBy_9 : decode cX4_tiedBy 9 = .ok (.iconst 0, 1) := dk_3 (dk_at dksX4_tiedBy_0 9 rfl rfl)
theorem dX4_tiedBy_10 : decode cX4_tiedBy 10 = .ok (.istore 4, 2) := dk_54 4 (dk_at dksX4_tiedBy_0 10 rfl rfl)
theorem dX4_tiedBy_12 : decode cX4_tiedBy 12 = .ok (.iload 4, 2) := dk_21 4 (dk_at dksX4_tiedBy_0 12 rfl rfl)
theorem dX4_tiedBy_14 : decode cX4_tiedBy 14 = .ok (.aload_n 0, 1) := dk_42 (dk_at dksX4_tiedBy_0 14 rfl rfl)
theorem dX4_tiedBy_15 : decode cX4_tiedBy 15 = .ok (.getfield 9, 3) := dk_180 0 9 (dk_at dksX4_tiedBy_0 15 rfl rfl)
theorem dX4_tiedBy_18 : decode cX4_tiedBy 18 = .ok (.iconst 2, 1) := dk_5 (dk_at dksX4_tiedBy_0 18 rfl rfl)
theorem dX4_tiedBy_19 : decode cX4_tiedBy 19 = .ok (.iaload, 1) := dk_46 (dk_at dksX4_tiedBy_0 19 rfl rfl)
theorem dX4_tiedBy_20 : decode cX4_tiedBy 20 = .ok (.if_icmp .ge 119, 3) := dk_162 0 119 (dk_at dksX4_tiedBy_0 20 rfl rfl)
theorem dX4_tiedBy_23 : decode cX4_tiedBy 23 = .ok (.aload_n 0, 1) := dk_42 (dk_at dksX4_tiedBy_0 23 rfl rfl)
theorem dX4_tiedBy_24 : decode cX4_tiedBy 24 = .ok (.iload 4, 2) := dk_21 4 (dk_at dksX4_tiedBy_1 0 rfl rfl)
theorem dX4_tiedBy_26 : decode cX4_tiedBy 26 = .ok (.iconst 2, 1) := dk_5 (dk_at dksX4_tiedBy_1 2 rfl rfl)
theorem dX4_tiedBy_27 : decode cX4_tiedBy 27 = .ok (.invokevirtual 65, 3) := dk_182 0 65 (dk_at dksX4_tiedBy_1 3 rfl rfl)
theorem dX4_tiedBy_30 : decode cX4_tiedBy 30 = .ok (.ifCond .lt 18, 3) := dk_155 0 18 (dk_at dksX4_tiedBy_1 6 rfl rfl)
theorem dX4_tiedBy_33 : decode cX4_tiedBy 33 = .ok (.iload_n 2, 1) := dk_28 (dk_at dksX4_tiedBy_1 9 rfl rfl)
theorem dX4_tiedBy_34 : decode cX4_tiedBy 34 = .ok (.aload_n 0, 1) := dk_42 (dk_at dksX4_tiedBy_1 10 rfl rfl)
theorem dX4_tiedBy_35 : decode cX4_tiedBy 35 = .ok (.iload 4, 2) := dk_21 4 (dk_at dksX4_tiedBy_1 11 rfl rfl)
theorem dX4_tiedBy_37 : decode cX4_tiedBy 37 = .ok (.iconst 2, 1) := dk_5 (dk_at dksX4_tiedBy_1 13 rfl rfl)
theorem dX4_tiedBy_38 : decode cX4_tiedBy 38 = .ok (.invokevirtual 65, 3) := dk_182 0 65 (dk_at dksX4_tiedBy_1 14 rfl rfl)
theorem dX4_tiedBy_41 : decode cX4_tiedBy 41 = .ok (.ishr, 1) := dk_122 (dk_at dksX4_tiedBy_1 17 rfl rfl)
theorem dX4_tiedBy_42 : decode cX4_tiedBy 42 = .ok (.iconst 1, 1) := dk_4 (dk_at dksX4_tiedBy_1 18 rfl rfl)
theorem dX4_tiedBy_43 : decode cX4_tiedBy 43 = .ok (.iand, 1) := dk_126 (dk_at dksX4_tiedBy_1 19 rfl rfl)
theorem dX4_tiedBy_44 : decode cX4_tiedBy 44 = .ok (.iconst 1, 1) := dk_4 (dk_at dksX4_tiedBy_1 20 rfl rfl)
theorem dX4_tiedBy_45 : decode cX4_tiedBy 45 = .ok (.if_icmp .ne 7, 3) := dk_160 0 7 (dk_at dksX4_tiedBy_1 21 rfl rfl)
theorem dX4_tiedBy_48 : decode cX4_tiedBy 48 = .ok (.iconst 1, 1) := dk_4 (dk_at dksX4_tiedBy_2 0 rfl rfl)
theorem dX4_tiedBy_49 : decode cX4_tiedBy 49 = .ok (.goto 4, 3) := dk_167 0 4 (dk_at dksX4_tiedBy_2 1 rfl rfl)
theorem dX4_tiedBy_52 : decode cX4_tiedBy 52 = .ok (.iconst 0, 1) := dk_3 (dk_at dksX4_tiedBy_2 4 rfl rfl)
theorem dX4_tiedBy_53 : decode cX4_tiedBy 53 = .ok (.istore 5, 2) := dk_54 5 (dk_at dksX4_tiedBy_2 5 rfl rfl)
theorem dX4_tiedBy_55 : decode cX4_tiedBy 55 = .ok (.iload_n 2, 1) := dk_28 (dk_at dksX4_tiedBy_2 7 rfl rfl)
theorem dX4_tiedBy_56 : decode cX4_tiedBy 56 = .ok (.aload_n 0, 1) := dk_42 (dk_at dksX4_tiedBy_2 8 rfl rfl)
theorem dX4_tiedBy_57 : decode cX4_tiedBy 57 = .ok (.iload 4, 2) := dk_21 4 (dk_at dksX4_tiedBy_2 9 rfl rfl)
theorem dX4_tiedBy_59 : decode cX4_tiedBy 59 = .ok (.iconst 3, 1) := dk_6 (dk_at dksX4_tiedBy_2 11 rfl rfl)
theorem dX4_tiedBy_60 : decode cX4_tiedBy 60 = .ok (.invokevirtual 65, 3) := dk_182 0 65 (dk_at dksX4_tiedBy_2 12 rfl rfl)
theorem dX4_tiedBy_63 : decode cX4_tiedBy 63 = .ok (.ishr, 1) := dk_122 (dk_at dksX4_tiedBy_2 15 rfl rfl)
theorem dX4_tiedBy_64 : decode cX4_tiedBy 64 = .ok (.iconst 1, 1) := dk_4 (dk_at dksX4_tiedBy_2 16 rfl rfl)
theorem dX4_tiedBy_65 : decode cX4_tiedBy 65 = .ok (.iand, 1) := dk_126 (dk_at dksX4_tiedBy_2 17 rfl rfl)
theorem dX4_tiedBy_66 : decode cX4_tiedBy 66 = .ok (.iconst 1, 1) := dk_4 (dk_at dksX4_tiedBy_2 18 rfl rfl)
theorem dX4_tiedBy_67 : decode cX4_tiedBy 67 = .ok (.if_icmp .ne 7, 3) := dk_160 0 7 (dk_at dksX4_tiedBy_2 19 rfl rfl)
theorem dX4_tiedBy_70 : decode cX4_tiedBy 70 = .ok (.iconst 1, 1) := dk_4 (dk_at dksX4_tiedBy_2 22 rfl rfl)
theorem dX4_tiedBy_71 : decode cX4_tiedBy 71 = .ok (.goto 4, 3) := dk_167 0 4 (dk_at dksX4_tiedBy_3 0 rfl rfl)
theorem dX4_tiedBy_74 : decode cX4_tiedBy 74 = .ok (.iconst 0, 1) := dk_3 (dk_at dksX4_tiedBy_3 3 rfl rfl)
theorem dX4_tiedBy_75 : decode cX4_tiedBy 75 = .ok (.istore 6, 2) := dk_54 6 (dk_at dksX4_tiedBy_3 4 rfl rfl)
theorem dX4_tiedBy_77 : decode cX4_tiedBy 77 = .ok (.iload_n 1, 1) := dk_27 (dk_at dksX4_tiedBy_3 6 rfl rfl)
theorem dX4_tiedBy_78 : decode cX4_tiedBy 78 = .ok (.iload 4, 2) := dk_21 4 (dk_at dksX4_tiedBy_3 7 rfl rfl)
theorem dX4_tiedBy_80 : decode cX4_tiedBy 80 = .ok (.ishr, 1) := dk_122 (dk_at dksX4_tiedBy_3 9 rfl rfl)
theorem dX4_tiedBy_81 : decode cX4_tiedBy 81 = .ok (.iconst 1, 1) := dk_4 (dk_at dksX4_tiedBy_3 10 rfl rfl)
theorem dX4_tiedBy_82 : decode cX4_tiedBy 82 = .ok (.iand, 1) := dk_126 (dk_at dksX4_tiedBy_3 11 rfl rfl)
theorem dX4_tiedBy_83 : decode cX4_tiedBy 83 = .ok (.iconst 1, 1) := dk_4 (dk_at dksX4_tiedBy_3 12 rfl rfl)
theorem dX4_tiedBy_84 : decode cX4_tiedBy 84 = .ok (.if_icmp .ne 49, 3) := dk_160 0 49 (dk_at dksX4_tiedBy_3 13 rfl rfl)
theorem dX4_tiedBy_87 : decode cX4_tiedBy 87 = .ok (.iload 5, 2) := dk_21 5 (dk_at dksX4_tiedBy_3 16 rfl rfl)
theorem dX4_tiedBy_89 : decode cX4_tiedBy 89 = .ok (.ifCond .ne 8, 3) := dk_154 0 8 (dk_at dksX4_tiedBy_3 18 rfl rfl)
theorem dX4_tiedBy_92 : decode cX4_tiedBy 92 = .ok (.iload 6, 2) := dk_21 6 (dk_at dksX4_tiedBy_3 21 rfl rfl)
theorem dX4_tiedBy_94 : decode cX4_tiedBy 94 = .ok (.ifCond .eq 39, 3) := dk_153 0 39 (dk_at dksX4_tiedBy_4 0 rfl rfl)
theorem dX4_tiedBy_97 : decode cX4_tiedBy 97 = .ok (.iload_n 2, 1) := dk_28 (dk_at dksX4_tiedBy_4 3 rfl rfl)
theorem dX4_tiedBy_98 : decode cX4_tiedBy 98 = .ok (.iconst 1, 1) := dk_4 (dk_at dksX4_tiedBy_4 4 rfl rfl)
theorem dX4_tiedBy_99 : decode cX4_tiedBy 99 = .ok (.aload_n 0, 1) := dk_42 (dk_at dksX4_tiedBy_4 5 rfl rfl)
theorem dX4_tiedBy_100 : decode cX4_tiedBy 100 = .ok (.iload 4, 2) := dk_21 4 (dk_at dksX4_tiedBy_4 6 rfl rfl)
theorem dX4_tiedBy_102 : decode cX4_tiedBy 102 = .ok (.iconst 3, 1) := dk_6 (dk_at dksX4_tiedBy_4 8 rfl rfl)
theorem dX4_tiedBy_103 : decode cX4_tiedBy 103 = .ok (.invokevirtual 65, 3) := dk_182 0 65 (dk_at dksX4_tiedBy_4 9 rfl rfl)
theorem dX4_tiedBy_106 : decode cX4_tiedBy 106 = .ok (.ishl, 1) := dk_120 (dk_at dksX4_tiedBy_4 12 rfl rfl)
theorem dX4_tiedBy_107 : decode cX4_tiedBy 107 = .ok (.aload_n 0, 1) := dk_42 (dk_at dksX4_tiedBy_4 13 rfl rfl)
theorem dX4_tiedBy_108 : decode cX4_tiedBy 108 = .ok (.iload 4, 2) := dk_21 4 (dk_at dksX4_tiedBy_4 14 rfl rfl)
theorem dX4_tiedBy_110 : decode cX4_tiedBy 110 = .ok (.iconst 2, 1) := dk_5 (dk_at dksX4_tiedBy_4 16 rfl rfl)
theorem dX4_tiedBy_111 : decode cX4_tiedBy 111 = .ok (.invokevirtual 65, 3) := dk_182 0 65 (dk_at dksX4_tiedBy_4 17 rfl rfl)
theorem dX4_tiedBy_114 : decode cX4_tiedBy 114 = .ok (.ifCond .ge 7, 3) := dk_156 0 7 (dk_at dksX4_tiedBy_4 20 rfl rfl)
theorem dX4_tiedBy_117 : decode cX4_tiedBy 117 = .ok (.iconst 0, 1) := dk_3 (dk_at dksX4_tiedBy_4 23 rfl rfl)
theorem dX4_tiedBy_118 : decode cX4_tiedBy 118 = .ok (.goto 12, 3) := dk_167 0 12 (dk_at dksX4_tiedBy_5 0 rfl rfl)
theorem dX4_tiedBy_121 : decode cX4_tiedBy 121 = .ok (.iconst 1, 1) := dk_4 (dk_at dksX4_tiedBy_5 3 rfl rfl)
theorem dX4_tiedBy_122 : decode cX4_tiedBy 122 = .ok (.aload_n 0, 1) := dk_42 (dk_at dksX4_tiedBy_5 4 rfl rfl)
theorem dX4_tiedBy_123 : decode cX4_tiedBy 123 = .ok (.iload 4, 2) := dk_21 4 (dk_at dksX4_tiedBy_5 5 rfl rfl)
theorem dX4_tiedBy_125 : decode cX4_tiedBy 125 = .ok (.iconst 2, 1) := dk_5 (dk_at dksX4_tiedBy_5 7 rfl rfl)
theorem dX4_tiedBy_126 : decode cX4_tiedBy 126 = .ok (.invokevirtual 65, 3) := dk_182 0 65 (dk_at dksX4_tiedBy_5 8 rfl rfl)
theorem dX4_tiedBy_129 : decode cX4_tiedBy 129 = .ok (.ishl, 1) := dk_120 (dk_at dksX4_tiedBy_5 11 rfl rfl)
theorem dX4_tiedBy_130 : decode cX4_tiedBy 130 = .ok (.ior, 1) := dk_128 (dk_at dksX4_tiedBy_5 12 rfl rfl)
theorem dX4_tiedBy_131 : decode cX4_tiedBy 131 = .ok (.ior, 1) := dk_128 (dk_at dksX4_tiedBy_5 13 rfl rfl)
theorem dX4_tiedBy_132 : decode cX4_tiedBy 132 = .ok (.istore_n 2, 1) := dk_61 (dk_at dksX4_tiedBy_5 14 rfl rfl)
theorem dX4_tiedBy_133 : decode cX4_tiedBy 133 = .ok (.iinc 4 1, 3) := dk_132 4 1 (dk_at dksX4_tiedBy_5 15 rfl rfl)
theorem dX4_tiedBy_136 : decode cX4_tiedBy 136 = .ok (.goto (-124), 3) := dk_167 255 132 (dk_at dksX4_tiedBy_5 18 rfl rfl)
theorem dX4_tiedBy_139 : decode cX4_tiedBy 139 = .ok (.iinc 3 1, 3) := dk_132 3 1 (dk_at dksX4_tiedBy_5 21 rfl rfl)
theorem dX4_tiedBy_142 : decode cX4_tiedBy 142 = .ok (.goto (-138), 3) := dk_167 255 118 (dk_at dksX4_tiedBy_6 0 rfl rfl)
theorem dX4_tiedBy_145 : decode cX4_tiedBy 145 = .ok (.iload_n 2, 1) := dk_28 (dk_at dksX4_tiedBy_6 3 rfl rfl)
theorem dX4_tiedBy_146 : decode cX4_tiedBy 146 = .ok (.ireturn, 1) := dk_172 (dk_at dksX4_tiedBy_6 4 rfl rfl)
abbrev cX4_adds : ByteArray := prog_19_method_23_code
def yX4_adds : MethodName := ⟨RX4, "adds", "(I)V"⟩
def dkwX4_adds_5 : List UInt8 := [105, 101, 80, 177]
abbrev dktX4_adds_5 : List UInt8 := dkwX4_adds_5 ++ []
def dkwX4_adds_4 : List UInt8 := [104, 21, 4, 96, 92, 47, 32, 101, 80, 42, 180, 0, 35, 21, 4, 92, 47, 32, 42, 27, 182, 0, 93, 133]
abbrev dktX4_adds_4 : List UInt8 := dkwX4_adds_4 ++ dktX4_adds_5
def dkwX4_adds_3 : List UInt8 := [80, 42, 180, 0, 31, 7, 21, 4, 104, 21, 5, 96, 92, 47, 32, 101, 80, 42, 180, 0, 31, 7, 21, 5]
abbrev dktX4_adds_3 : List UInt8 := dkwX4_adds_3 ++ dktX4_adds_4
def dkwX4_adds_2 : List UInt8 := [182, 0, 93, 133, 105, 97, 80, 21, 4, 155, 0, 66, 42, 180, 0, 31, 8, 21, 4, 104, 92, 47, 32, 97]
abbrev dktX4_adds_2 : List UInt8 := dkwX4_adds_2 ++ dktX4_adds_3
def dkwX4_adds_1 : List UInt8 := [180, 0, 31, 8, 21, 5, 104, 92, 47, 32, 97, 80, 42, 180, 0, 35, 21, 5, 92, 47, 32, 42, 27]
abbrev dktX4_adds_1 : List UInt8 := dkwX4_adds_1 ++ dktX4_adds_2
def dkwX4_adds_0 : List UInt8 := [42, 27, 182, 0, 90, 133, 65, 42, 27, 5, 182, 0, 65, 54, 4, 42, 27, 6, 182, 0, 65, 54, 5, 42]
abbrev dktX4_adds_0 : List UInt8 := dkwX4_adds_0 ++ dktX4_adds_1
theorem dksX4_adds_0 : cX4_adds.data.toList.drop 0 = dktX4_adds_0 := by decide +kernel
theorem dksX4_adds_1 : cX4_adds.data.toList.drop 24 = dktX4_adds_1 := dk_seg dksX4_adds_0 24 rfl rfl
theorem dksX4_adds_2 : cX4_adds.data.toList.drop 47 = dktX4_adds_2 := dk_seg dksX4_adds_1 23 rfl rfl
theorem dksX4_adds_3 : cX4_adds.data.toList.drop 71 = dktX4_adds_3 := dk_seg dksX4_adds_2 24 rfl rfl
theorem dksX4_adds_4 : cX4_adds.data.toList.drop 95 = dktX4_adds_4 := dk_seg dksX4_adds_3 24 rfl rfl
theorem dksX4_adds_5 : cX4_adds.data.toList.drop 119 = dktX4_adds_5 := dk_seg dksX4_adds_4 24 rfl rfl
theorem dX4_adds_0 : decode cX4_adds 0 = .ok (.aload_n 0, 1) := dk_42 (dk_at dksX4_adds_0 0 rfl rfl)
theorem dX4_adds_1 : decode cX4_adds 1 = .ok (.iload_n 1, 1) := dk_27 (dk_at dksX4_adds_0 1 rfl rfl)
theorem dX4_adds_2 : decode cX4_adds 2 = .ok (.invokevirtual 90, 3) := dk_182 0 90 (dk_at dksX4_adds_0 2 rfl rfl)
theorem dX4_adds_5 : decode cX4_adds 5 = .ok (.i2l, 1) := dk_133 (dk_at dksX4_adds_0 5 rfl rfl)
theorem dX4_adds_6 : decode cX4_adds 6 = .ok (.lstore_n 2, 1) := dk_65 (dk_at dksX4_adds_0 6 rfl rfl)
theorem dX4_adds_7 : decode cX4_adds 7 = .ok (.aload_n 0, 1) := dk_42 (dk_at dksX4_adds_0 7 rfl rfl)
theorem dX4_adds_8 : decode cX4_adds 8 = .ok (.iload_n 1, 1) := dk_27 (dk_at dksX4_adds_0 8 rfl rfl)
theorem dX4_adds_9 : decode cX4_adds 9 = .ok (.iconst 2, 1) := dk_5 (dk_at dksX4_adds_0 9 rfl rfl)
theorem dX4_adds_10 : decode cX4_adds 10 = .ok (.invokevirtual 65, 3) := dk_182 0 65 (dk_at dksX4_adds_0 10 rfl rfl)
theorem dX4_adds_13 : decode cX4_adds 13 = .ok (.istore 4, 2) := dk_54 4 (dk_at dksX4_adds_0 13 rfl rfl)
theorem dX4_adds_15 : decode cX4_adds 15 = .ok (.aload_n 0, 1) := dk_42 (dk_at dksX4_adds_0 15 rfl rfl)
theorem dX4_adds_16 : decode cX4_adds 16 = .ok (.iload_n 1, 1) := dk_27 (dk_at dksX4_adds_0 16 rfl rfl)
theorem dX4_adds_17 : decode cX4_adds 17 = .ok (.iconst 3, 1) := dk_6 (dk_at dksX4_adds_0 17 rfl rfl)
theorem dX4_adds_18 : decode cX4_adds 18 = .ok (.invokevirtual 65, 3) := dk_182 0 65 (dk_at dksX4_adds_0 18 rfl rfl)
theorem dX4_adds_21 : decode cX4_adds 21 = .ok (.istore 5, 2) := dk_54 5 (dk_at dksX4_adds_0 21 rfl rfl)
theorem dX4_adds_23 : decode cX4_adds 23 = .ok (.aload_n 0, 1) := dk_42 (dk_at dksX4_adds_0 23 rfl rfl)
theorem dX4_adds_24 : decode cX4_adds 24 = .ok (.getfield 31, 3) := dk_180 0 31 (dk_at dksX4_adds_1 0 rfl rfl)
theorem dX4_adds_27 : decode cX4_adds 27 = .ok (.iconst 5, 1) := dk_8 (dk_at dksX4_adds_1 3 rfl rfl)
theorem dX4_adds_28 : decode cX4_adds 28 = .ok (.iload 5, 2) := dk_21 5 (dk_at dksX4_adds_1 4 rfl rfl)
theorem dX4_adds_30 : decode cX4_adds 30 = .ok (.imul, 1) := dk_104 (dk_at dksX4_adds_1 6 rfl rfl)
theorem dX4_adds_31 : decode cX4_adds 31 = .ok (.dup2, 1) := dk_92 (dk_at dksX4_adds_1 7 rfl rfl)
theorem dX4_adds_32 : decode cX4_adds 32 = .ok (.laload, 1) := dk_47 (dk_at dksX4_adds_1 8 rfl rfl)
theorem dX4_adds_33 : decode cX4_adds 33 = .ok (.lload_n 2, 1) := dk_32 (dk_at dksX4_adds_1 9 rfl rfl)
theorem dX4_adds_34 : decode cX4_adds 34 = .ok (.ladd, 1) := dk_97 (dk_at dksX4_adds_1 10 rfl rfl)
theorem dX4_adds_35 : decode cX4_adds 35 = .ok (.lastore, 1) := dk_80 (dk_at dksX4_adds_1 11 rfl rfl)
theorem dX4_adds_36 : decode cX4_adds 36 = .ok (.aload_n 0, 1) := dk_42 (dk_at dksX4_adds_1 12 rfl rfl)
theorem dX4_adds_37 : decode cX4_adds 37 = .ok (.getfield 35, 3) := dk_180 0 35 (dk_at dksX4_adds_1 13 rfl rfl)
theorem dX4_adds_40 : decode cX4_adds 40 = .ok (.iload 5, 2) := dk_21 5 (dk_at dksX4_adds_1 16 rfl rfl)
theorem dX4_adds_42 : decode cX4_adds 42 = .ok (.dup2, 1) := dk_92 (dk_at dksX4_adds_1 18 rfl rfl)
theorem dX4_adds_43 : decode cX4_adds 43 = .ok (.laload, 1) := dk_47 (dk_at dksX4_adds_1 19 rfl rfl)
theorem dX4_adds_44 : decode cX4_adds 44 = .ok (.lload_n 2, 1) := dk_32 (dk_at dksX4_adds_1 20 rfl rfl)
theorem dX4_adds_45 : decode cX4_adds 45 = .ok (.aload_n 0, 1) := dk_42 (dk_at dksX4_adds_1 21 rfl rfl)
theorem dX4_adds_46 : decode cX4_adds 46 = .ok (.iload_n 1, 1) := dk_27 (dk_at dksX4_adds_1 22 rfl rfl)
theorem dX4_adds_47 : decode cX4_adds 47 = .ok (.invokevirtual 93, 3) := dk_182 0 93 (dk_at dksX4_adds_2 0 rfl rfl)
theorem dX4_adds_50 : decode cX4_adds 50 = .ok (.i2l, 1) := dk_133 (dk_at dksX4_adds_2 3 rfl rfl)
theorem dX4_adds_51 : decode cX4_adds 51 = .ok (.lmul, 1) := dk_105 (dk_at dksX4_adds_2 4 rfl rfl)
theorem dX4_adds_52 : decode cX4_adds 52 = .ok (.ladd, 1) := dk_97 (dk_at dksX4_adds_2 5 rfl rfl)
theorem dX4_adds_53 : decode cX4_adds 53 = .ok (.lastore, 1) := dk_80 (dk_at dksX4_adds_2 6 rfl rfl)
theorem dX4_adds_54 : decode cX4_adds 54 = .ok (.iload 4, 2) := dk_21 4 (dk_at dksX4_adds_2 7 rfl rfl)
theorem dX4_adds_56 : decode cX4_adds 56 = .ok (.ifCond .lt 66, 3) := dk_155 0 66 (dk_at dksX4_adds_2 9 rfl rfl)
theorem dX4_adds_59 : decode cX4_adds 59 = .ok (.aload_n 0, 1) := dk_42 (dk_at dksX4_adds_2 12 rfl rfl)
theorem dX4_adds_60 : decode cX4_adds 60 = .ok (.getfield 31, 3) := dk_180 0 31 (dk_at dksX4_adds_2 13 rfl rfl)
theorem dX4_adds_63 : decode cX4_adds 63 = .ok (.iconst 5, 1) := dk_8 (dk_at dksX4_adds_2 16 rfl rfl)
theorem dX4_adds_64 : decode cX4_adds 64 = .ok (.iload 4, 2) := dk_21 4 (dk_at dksX4_adds_2 17 rfl rfl)
theorem dX4_adds_66 : decode cX4_adds 66 = .ok (.imul, 1) := dk_104 (dk_at dksX4_adds_2 19 rfl rfl)
theorem dX4_adds_67 : decode cX4_adds 67 = .ok (.dup2, 1) := dk_92 (dk_at dksX4_adds_2 20 rfl rfl)
theorem dX4_adds_68 : decode cX4_adds 68 = .ok (.laload, 1) := dk_47 (dk_at dksX4_adds_2 21 rfl rfl)
theorem dX4_adds_69 : decode cX4_adds 69 = .ok (.lload_n 2, 1) := dk_32 (dk_at dksX4_adds_2 22 rfl rfl)
theorem dX4_adds_70 : decode cX4_adds 70 = .ok (.ladd, 1) := dk_97 (dk_at dksX4_adds_2 23 rfl rfl)
theorem dX4_adds_71 : decode cX4_adds 71 = .ok (.lastore, 1) := dk_80 (dk_at dksX4_adds_3 0 rfl rfl)
theorem dX4_adds_72 : decode cX4_adds 72 = .ok (.aload_n 0, 1) := dk_42 (dk_at dksX4_adds_3 1 rfl rfl)
theorem dX4_adds_73 : decode cX4_adds 73 = .ok (.getfield 31, 3) := dk_180 0 31 (dk_at dksX4_adds_3 2 rfl rfl)
theorem dX4_adds_76 : decode cX4_adds 76 = .ok (.iconst 4, 1) := dk_7 (dk_at dksX4_adds_3 5 rfl rfl)
theorem dX4_adds_77 : decode cX4_adds 77 = .ok (.iload 4, 2) := dk_21 4 (dk_at dksX4_adds_3 6 rfl rfl)
theorem dX4_adds_79 : decode cX4_adds 79 = .ok (.imul, 1) := dk_104 (dk_at dksX4_adds_3 8 rfl rfl)
theorem dX4_adds_80 : decode cX4_adds 80 = .ok (.iload 5, 2) := dk_21 5 (dk_at dksX4_adds_3 9 rfl rfl)
theorem dX4_adds_82 : decode cX4_adds 82 = .ok (.iadd, 1) := dk_96 (dk_at dksX4_adds_3 11 rfl rfl)
theorem dX4_adds_83 : decode cX4_adds 83 = .ok (.dup2, 1) := dk_92 (dk_at dksX4_adds_3 12 rfl rfl)
theorem dX4_adds_84 : decode cX4_adds 84 = .ok (.laload, 1) := dk_47 (dk_at dksX4_adds_3 13 rfl rfl)
theorem dX4_adds_85 : decode cX4_adds 85 = .ok (.lload_n 2, 1) := dk_32 (dk_at dksX4_adds_3 14 rfl rfl)
theorem dX4_adds_86 : decode cX4_adds 86 = .ok (.lsub, 1) := dk_101 (dk_at dksX4_adds_3 15 rfl rfl)
theorem dX4_adds_87 : decode cX4_adds 87 = .ok (.lastore, 1) := dk_80 (dk_at dksX4_adds_3 16 rfl rfl)
theorem dX4_adds_88 : decode cX4_adds 88 = .ok (.aload_n 0, 1) := dk_42 (dk_at dksX4_adds_3 17 rfl rfl)
theorem dX4_adds_89 : decode cX4_adds 89 = .ok (.getfield 31, 3) := dk_180 0 31 (dk_at dksX4_adds_3 18 rfl rfl)
theorem dX4_adds_92 : decode cX4_adds 92 = .ok (.iconst 4, 1) := dk_7 (dk_at dksX4_adds_3 21 rfl rfl)
theorem dX4_adds_93 : decode cX4_adds 93 = .ok (.iload 5, 2) := dk_21 5 (dk_at dksX4_adds_3 22 rfl rfl)
theorem dX4_adds_95 : decode cX4_adds 95 = .ok (.imul, 1) := dk_104 (dk_at dksX4_adds_4 0 rfl rfl)
theorem dX4_adds_96 : decode cX4_adds 96 = .ok (.iload 4, 2) := dk_21 4 (dk_at dksX4_adds_4 1 rfl rfl)
theorem dX4_adds_98 : decode cX4_adds 98 = .ok (.iadd, 1) := dk_96 (dk_at dksX4_adds_4 3 rfl rfl)
theorem dX4_adds_99 : decode cX4_adds 99 = .ok (.dup2, 1) := dk_92 (dk_at dksX4_adds_4 4 rfl rfl)
theorem dX4_adds_100 : decode cX4_adds 100 = .ok (.laload, 1) := dk_47 (dk_at dksX4_adds_4 5 rfl rfl)
theorem dX4_adds_101 : decode cX4_adds 101 = .ok (.lload_n 2, 1) := dk_32 (dk_at dksX4_adds_4 6 rfl rfl)
theorem dX4_adds_102 : decode cX4_adds 102 = .ok (.lsub, 1) := dk_101 (dk_at dksX4_adds_4 7 rfl rfl)
theorem dX4_adds_103 : decode cX4_adds 103 = .ok (.lastore, 1) := dk_80 (dk_at dksX4_adds_4 8 rfl rfl)
theorem dX4_adds_104 : decode cX4_adds 104 = .ok (.aload_n 0, 1) := dk_42 (dk_at dksX4_adds_4 9 rfl rfl)
theorem dX4_adds_105 : decode cX4_adds 105 = .ok (.getfield 35, 3) := dk_180 0 35 (dk_at dksX4_adds_4 10 rfl rfl)
theorem dX4_adds_108 : decode cX4_adds 108 = .ok (.iload 4, 2) := dk_21 4 (dk_at dksX4_adds_4 13 rfl rfl)
theorem dX4_adds_110 : decode cX4_adds 110 = .ok (.dup2, 1) := dk_92 (dk_at dksX4_adds_4 15 rfl rfl)
theorem dX4_adds_111 : decode cX4_adds 111 = .ok (.laload, 1) := dk_47 (dk_at dksX4_adds_4 16 rfl rfl)
theorem dX4_adds_112 : decode cX4_adds 112 = .ok (.lload_n 2, 1) := dk_32 (dk_at dksX4_adds_4 17 rfl rfl)
theorem dX4_adds_113 : decode cX4_adds 113 = .ok (.aload_n 0, 1) := dk_42 (dk_at dksX4_adds_4 18 rfl rfl)
theorem dX4_adds_114 : decode cX4_adds 114 = .ok (.iload_n 1, 1) := dk_27 (dk_at dksX4_adds_4 19 rfl rfl)
theorem dX4_adds_115 : decode cX4_adds 115 = .ok (.invokevirtual 93, 3) := dk_182 0 93 (dk_at dksX4_adds_4 20 rfl rfl)
theorem dX4_adds_118 : decode cX4_adds 118 = .ok (.i2l, 1) := dk_133 (dk_at dksX4_adds_4 23 rfl rfl)
theorem dX4_adds_119 : decode cX4_adds 119 = .ok (.lmul, 1) := dk_105 (dk_at dksX4_adds_5 0 rfl rfl)
theorem dX4_adds_120 : decode cX4_adds 120 = .ok (.lsub, 1) := dk_101 (dk_at dksX4_adds_5 1 rfl rfl)
theorem dX4_adds_121 : decode cX4_adds 121 = .ok (.lastore, 1) := dk_80 (dk_at dksX4_adds_5 2 rfl rfl)
theorem dX4_adds_122 : decode cX4_adds 122 = .ok (.return_, 1) := dk_177 (dk_at dksX4_adds_5 3 rfl rfl)
abbrev cX4_det : ByteArray := prog_19_method_22_code
def yX4_det : MethodName := ⟨RX4, "det", "(III)J"⟩
def dkwX4_det_4 : List UInt8 := [120, 128, 29, 182, 0, 86, 105, 97, 55, 5, 22, 7, 117, 55, 7, 132, 9, 1, 167, 255, 168, 22, 5, 173]
abbrev dktX4_det_4 : List UInt8 := dkwX4_det_4 ++ []
def dkwX4_det_3 : List UInt8 := [22, 10, 9, 148, 154, 0, 7, 9, 167, 0, 23, 22, 7, 22, 10, 105, 42, 27, 4, 96, 28, 4, 21, 9]
abbrev dktX4_det_3 : List UInt8 := dkwX4_det_3 ++ dktX4_det_4
def dkwX4_det_2 : List UInt8 := [42, 180, 0, 35, 27, 47, 167, 0, 14, 42, 180, 0, 31, 7, 27, 104, 21, 9, 96, 47, 55, 10, 22, 5]
abbrev dktX4_det_2 : List UInt8 := dkwX4_det_2 ++ dktX4_det_3
def dkwX4_det_1 : List UInt8 := [54, 9, 21, 9, 21, 4, 162, 0, 87, 28, 21, 9, 122, 4, 126, 154, 0, 72, 21, 9, 29, 160, 0, 12]
abbrev dktX4_det_1 : List UInt8 := dkwX4_det_1 ++ dktX4_det_2
def dkwX4_det_0 : List UInt8 := [42, 180, 0, 9, 6, 46, 54, 4, 27, 21, 4, 160, 0, 5, 10, 173, 9, 55, 5, 10, 55, 7, 3]
abbrev dktX4_det_0 : List UInt8 := dkwX4_det_0 ++ dktX4_det_1
theorem dksX4_det_0 : cX4_det.data.toList.drop 0 = dktX4_det_0 := by decide +kernel
theorem dksX4_det_1 : cX4_det.data.toList.drop 23 = dktX4_det_1 := dk_seg dksX4_det_0 23 rfl rfl
theorem dksX4_det_2 : cX4_det.data.toList.drop 47 = dktX4_det_2 := dk_seg dksX4_det_1 24 rfl rfl
theorem dksX4_det_3 : cX4_det.data.toList.drop 71 = dktX4_det_3 := dk_seg dksX4_det_2 24 rfl rfl
theorem dksX4_det_4 : cX4_det.data.toList.drop 95 = dktX4_det_4 := dk_seg dksX4_det_3 24 rfl rfl
theorem dX4_det_0 : decode cX4_det 0 = .ok (.aload_n 0, 1) := dk_42 (dk_at dksX4_det_0 0 rfl rfl)
theorem dX4_det_1 : decode cX4_det 1 = .ok (.getfield 9, 3) := dk_180 0 9 (dk_at dksX4_det_0 1 rfl rfl)
theorem dX4_det_4 : decode cX4_det 4 = .ok (.iconst 3, 1) := dk_6 (dk_at dksX4_det_0 4 rfl rfl)
theorem dX4_det_5 : decode cX4_det 5 = .ok (.iaload, 1) := dk_46 (dk_at dksX4_det_0 5 rfl rfl)
theorem dX4_det_6 : decode cX4_det 6 = .ok (.istore 4, 2) := dk_54 4 (dk_at dksX4_det_0 6 rfl rfl)
theorem dX4_det_8 : decode cX4_det 8 = .ok (.iload_n 1, 1) := dk_27 (dk_at dksX4_det_0 8 rfl rfl)
theorem dX4_det_9 : decode cX4_det 9 = .ok (.iload 4, 2) := dk_21 4 (dk_at dksX4_det_0 9 rfl rfl)
theorem dX4_det_11 : decode cX4_det 11 = .ok (.if_icmp .ne 5, 3) := dk_160 0 5 (dk_at dksX4_det_0 11 rfl rfl)
theorem dX4_det_14 : decode cX4_det 14 = .ok (.lconst 1, 1) := dk_10 (dk_at dksX4_det_0 14 rfl rfl)
theorem dX4_det_15 : decode cX4_det 15 = .ok (.lreturn, 1) := dk_173 (dk_at dksX4_det_0 15 rfl rfl)
theorem dX4_det_16 : decode cX4_det 16 = .ok (.lconst 0, 1) := dk_9 (dk_at dksX4_det_0 16 rfl rfl)
theorem dX4_det_17 : decode cX4_det 17 = .ok (.lstore 5, 2) := dk_55 5 (dk_at dksX4_det_0 17 rfl rfl)
theorem dX4_det_19 : decode cX4_det 19 = .ok (.lconst 1, 1) := dk_10 (dk_at dksX4_det_0 19 rfl rfl)
theorem dX4_det_20 : decode cX4_det 20 = .ok (.lstore 7, 2) := dk_55 7 (dk_at dksX4_det_0 20 rfl rfl)
theorem dX4_det_22 : decode cX4_det 22 = .ok (.iconst 0, 1) := dk_3 (dk_at dksX4_det_0 22 rfl rfl)
theorem dX4_det_23 : decode cX4_det 23 = .ok (.istore 9, 2) := dk_54 9 (dk_at dksX4_det_1 0 rfl rfl)
theorem dX4_det_25 : decode cX4_det 25 = .ok (.iload 9, 2) := dk_21 9 (dk_at dksX4_det_1 2 rfl rfl)
theorem dX4_det_27 : decode cX4_det 27 = .ok (.iload 4, 2) := dk_21 4 (dk_at dksX4_det_1 4 rfl rfl)
theorem dX4_det_29 : decode cX4_det 29 = .ok (.if_icmp .ge 87, 3) := dk_162 0 87 (dk_at dksX4_det_1 6 rfl rfl)
theorem dX4_det_32 : decode cX4_det 32 = .ok (.iload_n 2, 1) := dk_28 (dk_at dksX4_det_1 9 rfl rfl)
theorem dX4_det_33 : decode cX4_det 33 = .ok (.iload 9, 2) := dk_21 9 (dk_at dksX4_det_1 10 rfl rfl)
theorem dX4_det_35 : decode cX4_det 35 = .ok (.ishr, 1) := dk_122 (dk_at dksX4_det_1 12 rfl rfl)
theorem dX4_det_36 : decode cX4_det 36 = .ok (.iconst 1, 1) := dk_4 (dk_at dksX4_det_1 13 rfl rfl)
theorem dX4_det_37 : decode cX4_det 37 = .ok (.iand, 1) := dk_126 (dk_at dksX4_det_1 14 rfl rfl)
theorem dX4_det_38 : decode cX4_det 38 = .ok (.ifCond .ne 72, 3) := dk_154 0 72 (dk_at dksX4_det_1 15 rfl rfl)
theorem dX4_det_41 : decode cX4_det 41 = .ok (.iload 9, 2) := dk_21 9 (dk_at dksX4_det_1 18 rfl rfl)
theorem dX4_det_43 : decode cX4_det 43 = .ok (.iload_n 3, 1) := dk_29 (dk_at dksX4_det_1 20 rfl rfl)
theorem dX4_det_44 : decode cX4_det 44 = .ok (.if_icmp .ne 12, 3) := dk_160 0 12 (dk_at dksX4_det_1 21 rfl rfl)
theorem dX4_det_47 : decode cX4_det 47 = .ok (.aload_n 0, 1) := dk_42 (dk_at dksX4_det_2 0 rfl rfl)
theorem dX4_det_48 : decode cX4_det 48 = .ok (.getfield 35, 3) := dk_180 0 35 (dk_at dksX4_det_2 1 rfl rfl)
theorem dX4_det_51 : decode cX4_det 51 = .ok (.iload_n 1, 1) := dk_27 (dk_at dksX4_det_2 4 rfl rfl)
theorem dX4_det_52 : decode cX4_det 52 = .ok (.laload, 1) := dk_47 (dk_at dksX4_det_2 5 rfl rfl)
theorem dX4_det_53 : decode cX4_det 53 = .ok (.goto 14, 3) := dk_167 0 14 (dk_at dksX4_det_2 6 rfl rfl)
theorem dX4_det_56 : decode cX4_det 56 = .ok (.aload_n 0, 1) := dk_42 (dk_at dksX4_det_2 9 rfl rfl)
theorem dX4_det_57 : decode cX4_det 57 = .ok (.getfield 31, 3) := dk_180 0 31 (dk_at dksX4_det_2 10 rfl rfl)
theorem dX4_det_60 : decode cX4_det 60 = .ok (.iconst 4, 1) := dk_7 (dk_at dksX4_det_2 13 rfl rfl)
theorem dX4_det_61 : decode cX4_det 61 = .ok (.iload_n 1, 1) := dk_27 (dk_at dksX4_det_2 14 rfl rfl)
theorem dX4_det_62 : decode cX4_det 62 = .ok (.imul, 1) := dk_104 (dk_at dksX4_det_2 15 rfl rfl)
theorem dX4_det_63 : decode cX4_det 63 = .ok (.iload 9, 2) := dk_21 9 (dk_at dksX4_det_2 16 rfl rfl)
theorem dX4_det_65 : decode cX4_det 65 = .ok (.iadd, 1) := dk_96 (dk_at dksX4_det_2 18 rfl rfl)
theorem dX4_det_66 : decode cX4_det 66 = .ok (.laload, 1) := dk_47 (dk_at dksX4_det_2 19 rfl rfl)
theorem dX4_det_67 : decode cX4_det 67 = .ok (.lstore 10, 2) := dk_55 10 (dk_at dksX4_det_2 20 rfl rfl)
theorem dX4_det_69 : decode cX4_det 69 = .ok (.lload 5, 2) := dk_22 5 (dk_at dksX4_det_2 22 rfl rfl)
theorem dX4_det_71 : decode cX4_det 71 = .ok (.lload 10, 2) := dk_22 10 (dk_at dksX4_det_3 0 rfl rfl)
theorem dX4_det_73 : decode cX4_det 73 = .ok (.lconst 0, 1) := dk_9 (dk_at dksX4_det_3 2 rfl rfl)
theorem dX4_det_74 : decode cX4_det 74 = .ok (.lcmp, 1) := dk_148 (dk_at dksX4_det_3 3 rfl rfl)
theorem dX4_det_75 : decode cX4_det 75 = .ok (.ifCond .ne 7, 3) := dk_154 0 7 (dk_at dksX4_det_3 4 rfl rfl)
theorem dX4_det_78 : decode cX4_det 78 = .ok (.lconst 0, 1) := dk_9 (dk_at dksX4_det_3 7 rfl rfl)
theorem dX4_det_79 : decode cX4_det 79 = .ok (.goto 23, 3) := dk_167 0 23 (dk_at dksX4_det_3 8 rfl rfl)
theorem dX4_det_82 : decode cX4_det 82 = .ok (.lload 7, 2) := dk_22 7 (dk_at dksX4_det_3 11 rfl rfl)
theorem dX4_det_84 : decode cX4_det 84 = .ok (.lload 10, 2) := dk_22 10 (dk_at dksX4_det_3 13 rfl rfl)
theorem dX4_det_86 : decode cX4_det 86 = .ok (.lmul, 1) := dk_105 (dk_at dksX4_det_3 15 rfl rfl)
theorem dX4_det_87 : decode cX4_det 87 = .ok (.aload_n 0, 1) := dk_42 (dk_at dksX4_det_3 16 rfl rfl)
theorem dX4_det_88 : decode cX4_det 88 = .ok (.iload_n 1, 1) := dk_27 (dk_at dksX4_det_3 17 rfl rfl)
theorem dX4_det_89 : decode cX4_det 89 = .ok (.iconst 1, 1) := dk_4 (dk_at dksX4_det_3 18 rfl rfl)
theorem dX4_det_90 : decode cX4_det 90 = .ok (.iadd, 1) := dk_96 (dk_at dksX4_det_3 19 rfl rfl)
theorem dX4_det_91 : decode cX4_det 91 = .ok (.iload_n 2, 1) := dk_28 (dk_at dksX4_det_3 20 rfl rfl)
theorem dX4_det_92 : decode cX4_det 92 = .ok (.iconst 1, 1) := dk_4 (dk_at dksX4_det_3 21 rfl rfl)
theorem dX4_det_93 : decode cX4_det 93 = .ok (.iload 9, 2) := dk_21 9 (dk_at dksX4_det_3 22 rfl rfl)
theorem dX4_det_95 : decode cX4_det 95 = .ok (.ishl, 1) := dk_120 (dk_at dksX4_det_4 0 rfl rfl)
theorem dX4_det_96 : decode cX4_det 96 = .ok (.ior, 1) := dk_128 (dk_at dksX4_det_4 1 rfl rfl)
theorem dX4_det_97 : decode cX4_det 97 = .ok (.iload_n 3, 1) := dk_29 (dk_at dksX4_det_4 2 rfl rfl)
theorem dX4_det_98 : decode cX4_det 98 = .ok (.invokevirtual 86, 3) := dk_182 0 86 (dk_at dksX4_det_4 3 rfl rfl)
theorem dX4_det_101 : decode cX4_det 101 = .ok (.lmul, 1) := dk_105 (dk_at dksX4_det_4 6 rfl rfl)
theorem dX4_det_102 : decode cX4_det 102 = .ok (.ladd, 1) := dk_97 (dk_at dksX4_det_4 7 rfl rfl)
theorem dX4_det_103 : decode cX4_det 103 = .ok (.lstore 5, 2) := dk_55 5 (dk_at dksX4_det_4 8 rfl rfl)
theorem dX4_det_105 : decode cX4_det 105 = .ok (.lload 7, 2) := dk_22 7 (dk_at dksX4_det_4 10 rfl rfl)
theorem dX4_det_107 : decode cX4_det 107 = .ok (.lneg, 1) := dk_117 (dk_at dksX4_det_4 12 rfl rfl)
theorem dX4_det_108 : decode cX4_det 108 = .ok (.lstore 7, 2) := dk_55 7 (dk_at dksX4_det_4 13 rfl rfl)
theorem dX4_det_110 : decode cX4_det 110 = .ok (.iinc 9 1, 3) := dk_132 9 1 (dk_at dksX4_det_4 15 rfl rfl)
theorem dX4_det_113 : decode cX4_det 113 = .ok (.goto (-88), 3) := dk_167 255 168 (dk_at dksX4_det_4 18 rfl rfl)
theorem dX4_det_116 : decode cX4_det 116 = .ok (.lload 5, 2) := dk_22 5 (dk_at dksX4_det_4 21 rfl rfl)
theorem dX4_det_118 : decode cX4_det 118 = .ok (.lreturn, 1) := dk_173 (dk_at dksX4_det_4 23 rfl rfl)
abbrev cX4_mostDoubted : ByteArray := prog_19_method_27_code
def yX4_mostDoubted : MethodName := ⟨RX4, "mostDoubted", "()I"⟩
def dkwX4_mostDoubted_2 : List UInt8 := [132, 2, 1, 167, 255, 209, 27, 172]
abbrev dktX4_mostDoubted_2 : List UInt8 := dkwX4_mostDoubted_2 ++ []
def dkwX4_mostDoubted_1 : List UInt8 := [27, 155, 0, 17, 42, 28, 182, 0, 116, 42, 27, 182, 0, 116, 148, 158, 0, 7, 28, 167, 0, 4, 27, 60]
abbrev dktX4_mostDoubted_1 : List UInt8 := dkwX4_mostDoubted_1 ++ dktX4_mostDoubted_2
def dkwX4_mostDoubted_0 : List UInt8 := [2, 60, 3, 61, 28, 42, 180, 0, 9, 5, 46, 162, 0, 43, 42, 28, 8, 182, 0, 65, 4, 160, 0, 25]
abbrev dktX4_mostDoubted_0 : List UInt8 := dkwX4_mostDoubted_0 ++ dktX4_mostDoubted_1
theorem dksX4_mostDoubted_0 : cX4_mostDoubted.data.toList.drop 0 = dktX4_mostDoubted_0 := by decide +kernel
theorem dksX4_mostDoubted_1 : cX4_mostDoubted.data.toList.drop 24 = dktX4_mostDoubted_1 := dk_seg dksX4_mostDoubted_0 24 rfl rfl
theorem dksX4_mostDoubted_2 : cX4_mostDoubted.data.toList.drop 48 = dktX4_mostDoubted_2 := dk_seg dksX4_mostDoubted_1 24 rfl rfl
theorem dX4_mostDoubted_0 : decode cX4_mostDoubted 0 = .ok (.iconst (-1), 1) := dk_2 (dk_at dksX4_mostDoubted_0 0 rfl rfl)
theorem dX4_mostDoubted_1 : decode cX4_mostDoubted 1 = .ok (.istore_n 1, 1) := dk_60 (dk_at dksX4_mostDoubted_0 1 rfl rfl)
theorem dX4_mostDoubted_2 : decode cX4_mostDoubted 2 = .ok (.iconst 0, 1) := dk_3 (dk_at dksX4_mostDoubted_0 2 rfl rfl)
theorem dX4_mostDoubted_3 : decode cX4_mostDoubted 3 = .ok (.istore_n 2, 1) := dk_61 (dk_at dksX4_mostDoubted_0 3 rfl rfl)
theorem dX4_mostDoubted_4 : decode cX4_mostDoubted 4 = .ok (.iload_n 2, 1) := dk_28 (dk_at dksX4_mostDoubted_0 4 rfl rfl)
theorem dX4_mostDoubted_5 : decode cX4_mostDoubted 5 = .ok (.aload_n 0, 1) := dk_42 (dk_at dksX4_mostDoubted_0 5 rfl rfl)
theorem dX4_mostDoubted_6 : decode cX4_mostDoubted 6 = .ok (.getfield 9, 3) := dk_180 0 9 (dk_at dksX4_mostDoubted_0 6 rfl rfl)
theorem dX4_mostDoubted_9 : decode cX4_mostDoubted 9 = .ok (.iconst 2, 1) := dk_5 (dk_at dksX4_mostDoubted_0 9 rfl rfl)
theorem dX4_mostDoubted_10 : decode cX4_mostDoubted 10 = .ok (.iaload, 1) := dk_46 (dk_at dksX4_mostDoubted_0 10 rfl rfl)
theorem dX4_mostDoubted_11 : decode cX4_mostDoubted 11 = .ok (.if_icmp .ge 43, 3) := dk_162 0 43 (dk_at dksX4_mostDoubted_0 11 rfl rfl)
theorem dX4_mostDoubted_14 : decode cX4_mostDoubted 14 = .ok (.aload_n 0, 1) := dk_42 (dk_at dksX4_mostDoubted_0 14 rfl rfl)
theorem dX4_mostDoubted_15 : decode cX4_mostDoubted 15 = .ok (.iload_n 2, 1) := dk_28 (dk_at dksX4_mostDoubted_0 15 rfl rfl)
theorem dX4_mostDoubted_16 : decode cX4_mostDoubted 16 = .ok (.iconst 5, 1) := dk_8 (dk_at dksX4_mostDoubted_0 16 rfl rfl)
theorem dX4_mostDoubted_17 : decode cX4_mostDoubted 17 = .ok (.invokevirtual 65, 3) := dk_182 0 65 (dk_at dksX4_mostDoubted_0 17 rfl rfl)
theorem dX4_mostDoubted_20 : decode cX4_mostDoubted 20 = .ok (.iconst 1, 1) := dk_4 (dk_at dksX4_mostDoubted_0 20 rfl rfl)
theorem dX4_mostDoubted_21 : decode cX4_mostDoubted 21 = .ok (.if_icmp .ne 25, 3) := dk_160 0 25 (dk_at dksX4_mostDoubted_0 21 rfl rfl)
theorem dX4_mostDoubted_24 : decode cX4_mostDoubted 24 = .ok (.iload_n 1, 1) := dk_27 (dk_at dksX4_mostDoubted_1 0 rfl rfl)
theorem dX4_mostDoubted_25 : decode cX4_mostDoubted 25 = .ok (.ifCond .lt 17, 3) := dk_155 0 17 (dk_at dksX4_mostDoubted_1 1 rfl rfl)
theorem dX4_mostDoubted_28 : decode cX4_mostDoubted 28 = .ok (.aload_n 0, 1) := dk_42 (dk_at dksX4_mostDoubted_1 4 rfl rfl)
theorem dX4_mostDoubted_29 : decode cX4_mostDoubted 29 = .ok (.iload_n 2, 1) := dk_28 (dk_at dksX4_mostDoubted_1 5 rfl rfl)
theorem dX4_mostDoubted_30 : decode cX4_mostDoubted 30 = .ok (.invokevirtual 116, 3) := dk_182 0 116 (dk_at dksX4_mostDoubted_1 6 rfl rfl)
theorem dX4_mostDoubted_33 : decode cX4_mostDoubted 33 = .ok (.aload_n 0, 1) := dk_42 (dk_at dksX4_mostDoubted_1 9 rfl rfl)
theorem dX4_mostDoubted_34 : decode cX4_mostDoubted 34 = .ok (.iload_n 1, 1) := dk_27 (dk_at dksX4_mostDoubted_1 10 rfl rfl)
theorem dX4_mostDoubted_35 : decode cX4_mostDoubted 35 = .ok (.invokevirtual 116, 3) := dk_182 0 116 (dk_at dksX4_mostDoubted_1 11 rfl rfl)
theorem dX4_mostDoubted_38 : decode cX4_mostDoubted 38 = .ok (.lcmp, 1) := dk_148 (dk_at dksX4_mostDoubted_1 14 rfl rfl)
theorem dX4_mostDoubted_39 : decode cX4_mostDoubted 39 = .ok (.ifCond .le 7, 3) := dk_158 0 7 (dk_at dksX4_mostDoubted_1 15 rfl rfl)
theorem dX4_mostDoubted_42 : decode cX4_mostDoubted 42 = .ok (.iload_n 2, 1) := dk_28 (dk_at dksX4_mostDoubted_1 18 rfl rfl)
theorem dX4_mostDoubted_43 : decode cX4_mostDoubted 43 = .ok (.goto 4, 3) := dk_167 0 4 (dk_at dksX4_mostDoubted_1 19 rfl rfl)
theorem dX4_mostDoubted_46 : decode cX4_mostDoubted 46 = .ok (.iload_n 1, 1) := dk_27 (dk_at dksX4_mostDoubted_1 22 rfl rfl)
theorem dX4_mostDoubted_47 : decode cX4_mostDoubted 47 = .ok (.istore_n 1, 1) := dk_60 (dk_at dksX4_mostDoubted_1 23 rfl rfl)
theorem dX4_mostDoubted_48 : decode cX4_mostDoubted 48 = .ok (.iinc 2 1, 3) := dk_132 2 1 (dk_at dksX4_mostDoubted_2 0 rfl rfl)
theorem dX4_mostDoubted_51 : decode cX4_mostDoubted 51 = .ok (.goto (-47), 3) := dk_167 255 209 (dk_at dksX4_mostDoubted_2 3 rfl rfl)
theorem dX4_mostDoubted_54 : decode cX4_mostDoubted 54 = .ok (.iload_n 1, 1) := dk_27 (dk_at dksX4_mostDoubted_2 6 rfl rfl)
theorem dX4_mostDoubted_55 : decode cX4_mostDoubted 55 = .ok (.ireturn, 1) := dk_172 (dk_at dksX4_mostDoubted_2 7 rfl rfl)
abbrev cX4_doubt : ByteArray := prog_19_method_26_code
def yX4_doubt : MethodName := ⟨RX4, "doubt", "(I)J"⟩
def dkwX4_doubt_1 : List UInt8 := [105, 173]
abbrev dktX4_doubt_1 : List UInt8 := dkwX4_doubt_1 ++ []
def dkwX4_doubt_0 : List UInt8 := [42, 27, 182, 0, 112, 65, 42, 27, 182, 0, 90, 133, 32, 9, 148, 156, 0, 8, 32, 117, 167, 0, 4, 32]
abbrev dktX4_doubt_0 : List UInt8 := dkwX4_doubt_0 ++ dktX4_doubt_1
theorem dksX4_doubt_0 : cX4_doubt.data.toList.drop 0 = dktX4_doubt_0 := by decide +kernel
theorem dksX4_doubt_1 : cX4_doubt.data.toList.drop 24 = dktX4_doubt_1 := dk_seg dksX4_doubt_0 24 rfl rfl
theorem dX4_doubt_0 : decode cX4_doubt 0 = .ok (.aload_n 0, 1) := dk_42 (dk_at dksX4_doubt_0 0 rfl rfl)
theorem dX4_doubt_1 : decode cX4_doubt 1 = .ok (.iload_n 1, 1) := dk_27 (dk_at dksX4_doubt_0 1 rfl rfl)
theorem dX4_doubt_2 : decode cX4_doubt 2 = .ok (.invokevirtual 112, 3) := dk_182 0 112 (dk_at dksX4_doubt_0 2 rfl rfl)
theorem dX4_doubt_5 : decode cX4_doubt 5 = .ok (.lstore_n 2, 1) := dk_65 (dk_at dksX4_doubt_0 5 rfl rfl)
theorem dX4_doubt_6 : decode cX4_doubt 6 = .ok (.aload_n 0, 1) := dk_42 (dk_at dksX4_doubt_0 6 rfl rfl)
theorem dX4_doubt_7 : decode cX4_doubt 7 = .ok (.iload_n 1, 1) := dk_27 (dk_at dksX4_doubt_0 7 rfl rfl)
theorem dX4_doubt_8 : decode cX4_doubt 8 = .ok (.invokevirtual 90, 3) := dk_182 0 90 (dk_at dksX4_doubt_0 8 rfl rfl)
theorem dX4_doubt_11 : decode cX4_doubt 11 = .ok (.i2l, 1) := dk_133 (dk_at dksX4_doubt_0 11 rfl rfl)
theorem dX4_doubt_12 : decode cX4_doubt 12 = .ok (.lload_n 2, 1) := dk_32 (dk_at dksX4_doubt_0 12 rfl rfl)
theorem dX4_doubt_13 : decode cX4_doubt 13 = .ok (.lconst 0, 1) := dk_9 (dk_at dksX4_doubt_0 13 rfl rfl)
theorem dX4_doubt_14 : decode cX4_doubt 14 = .ok (.lcmp, 1) := dk_148 (dk_at dksX4_doubt_0 14 rfl rfl)
theorem dX4_doubt_15 : decode cX4_doubt 15 = .ok (.ifCond .ge 8, 3) := dk_156 0 8 (dk_at dksX4_doubt_0 15 rfl rfl)
theorem dX4_doubt_18 : decode cX4_doubt 18 = .ok (.lload_n 2, 1) := dk_32 (dk_at dksX4_doubt_0 18 rfl rfl)
theorem dX4_doubt_19 : decode cX4_doubt 19 = .ok (.lneg, 1) := dk_117 (dk_at dksX4_doubt_0 19 rfl rfl)
theorem dX4_doubt_20 : decode cX4_doubt 20 = .ok (.goto 4, 3) := dk_167 0 4 (dk_at dksX4_doubt_0 20 rfl rfl)
theorem dX4_doubt_23 : decode cX4_doubt 23 = .ok (.lload_n 2, 1) := dk_32 (dk_at dksX4_doubt_0 23 rfl rfl)
theorem dX4_doubt_24 : decode cX4_doubt 24 = .ok (.lmul, 1) := dk_105 (dk_at dksX4_doubt_1 0 rfl rfl)
theorem dX4_doubt_25 : decode cX4_doubt 25 = .ok (.lreturn, 1) := dk_173 (dk_at dksX4_doubt_1 1 rfl rfl)
abbrev cX4_missOf : ByteArray := prog_19_method_25_code
def yX4_missOf : MethodName := ⟨RX4, "missOf", "(I)J"⟩
def dkwX4_missOf_2 : List UInt8 := [32, 97, 173]
abbrev dktX4_missOf_2 : List UInt8 := dkwX4_missOf_2 ++ []
def dkwX4_missOf_1 : List UInt8 := [65, 42, 27, 182, 0, 93, 133, 42, 180, 0, 108, 105, 42, 180, 0, 38, 42, 27, 6, 182, 0, 65, 47, 101]
abbrev dktX4_missOf_1 : List UInt8 := dkwX4_missOf_1 ++ dktX4_missOf_2
def dkwX4_missOf_0 : List UInt8 := [42, 27, 5, 182, 0, 65, 156, 0, 7, 9, 167, 0, 14, 42, 180, 0, 38, 42, 27, 5, 182, 0, 65, 47]
abbrev dktX4_missOf_0 : List UInt8 := dkwX4_missOf_0 ++ dktX4_missOf_1
theorem dksX4_missOf_0 : cX4_missOf.data.toList.drop 0 = dktX4_missOf_0 := by decide +kernel
theorem dksX4_missOf_1 : cX4_missOf.data.toList.drop 24 = dktX4_missOf_1 := dk_seg dksX4_missOf_0 24 rfl rfl
theorem dksX4_missOf_2 : cX4_missOf.data.toList.drop 48 = dktX4_missOf_2 := dk_seg dksX4_missOf_1 24 rfl rfl
theorem dX4_missOf_0 : decode cX4_missOf 0 = .ok (.aload_n 0, 1) := dk_42 (dk_at dksX4_missOf_0 0 rfl rfl)
theorem dX4_missOf_1 : decode cX4_missOf 1 = .ok (.iload_n 1, 1) := dk_27 (dk_at dksX4_missOf_0 1 rfl rfl)
theorem dX4_missOf_2 : decode cX4_missOf 2 = .ok (.iconst 2, 1) := dk_5 (dk_at dksX4_missOf_0 2 rfl rfl)
theorem dX4_missOf_3 : decode cX4_missOf 3 = .ok (.invokevirtual 65, 3) := dk_182 0 65 (dk_at dksX4_missOf_0 3 rfl rfl)
theorem dX4_missOf_6 : decode cX4_missOf 6 = .ok (.ifCond .ge 7, 3) := dk_156 0 7 (dk_at dksX4_missOf_0 6 rfl rfl)
theorem dX4_missOf_9 : decode cX4_missOf 9 = .ok (.lconst 0, 1) := dk_9 (dk_at dksX4_missOf_0 9 rfl rfl)
theorem dX4_missOf_10 : decode cX4_missOf 10 = .ok (.goto 14, 3) := dk_167 0 14 (dk_at dksX4_missOf_0 10 rfl rfl)
theorem dX4_missOf_13 : decode cX4_missOf 13 = .ok (.aload_n 0, 1) := dk_42 (dk_at dksX4_missOf_0 13 rfl rfl)
theorem dX4_missOf_14 : decode cX4_missOf 14 = .ok (.getfield 38, 3) := dk_180 0 38 (dk_at dksX4_missOf_0 14 rfl rfl)
theorem dX4_missOf_17 : decode cX4_missOf 17 = .ok (.aload_n 0, 1) := dk_42 (dk_at dksX4_missOf_0 17 rfl rfl)
theorem dX4_missOf_18 : decode cX4_missOf 18 = .ok (.iload_n 1, 1) := dk_27 (dk_at dksX4_missOf_0 18 rfl rfl)
theorem dX4_missOf_19 : decode cX4_missOf 19 = .ok (.iconst 2, 1) := dk_5 (dk_at dksX4_missOf_0 19 rfl rfl)
theorem dX4_missOf_20 : decode cX4_missOf 20 = .ok (.invokevirtual 65, 3) := dk_182 0 65 (dk_at dksX4_missOf_0 20 rfl rfl)
theorem dX4_missOf_23 : decode cX4_missOf 23 = .ok (.laload, 1) := dk_47 (dk_at dksX4_missOf_0 23 rfl rfl)
theorem dX4_missOf_24 : decode cX4_missOf 24 = .ok (.lstore_n 2, 1) := dk_65 (dk_at dksX4_missOf_1 0 rfl rfl)
theorem dX4_missOf_25 : decode cX4_missOf 25 = .ok (.aload_n 0, 1) := dk_42 (dk_at dksX4_missOf_1 1 rfl rfl)
theorem dX4_missOf_26 : decode cX4_missOf 26 = .ok (.iload_n 1, 1) := dk_27 (dk_at dksX4_missOf_1 2 rfl rfl)
theorem dX4_missOf_27 : decode cX4_missOf 27 = .ok (.invokevirtual 93, 3) := dk_182 0 93 (dk_at dksX4_missOf_1 3 rfl rfl)
theorem dX4_missOf_30 : decode cX4_missOf 30 = .ok (.i2l, 1) := dk_133 (dk_at dksX4_missOf_1 6 rfl rfl)
theorem dX4_missOf_31 : decode cX4_missOf 31 = .ok (.aload_n 0, 1) := dk_42 (dk_at dksX4_missOf_1 7 rfl rfl)
theorem dX4_missOf_32 : decode cX4_missOf 32 = .ok (.getfield 108, 3) := dk_180 0 108 (dk_at dksX4_missOf_1 8 rfl rfl)
theorem dX4_missOf_35 : decode cX4_missOf 35 = .ok (.lmul, 1) := dk_105 (dk_at dksX4_missOf_1 11 rfl rfl)
theorem dX4_missOf_36 : decode cX4_missOf 36 = .ok (.aload_n 0, 1) := dk_42 (dk_at dksX4_missOf_1 12 rfl rfl)
theorem dX4_missOf_37 : decode cX4_missOf 37 = .ok (.getfield 38, 3) := dk_180 0 38 (dk_at dksX4_missOf_1 13 rfl rfl)
theorem dX4_missOf_40 : decode cX4_missOf 40 = .ok (.aload_n 0, 1) := dk_42 (dk_at dksX4_missOf_1 16 rfl rfl)
theorem dX4_missOf_41 : decode cX4_missOf 41 = .ok (.iload_n 1, 1) := dk_27 (dk_at dksX4_missOf_1 17 rfl rfl)
theorem dX4_missOf_42 : decode cX4_missOf 42 = .ok (.iconst 3, 1) := dk_6 (dk_at dksX4_missOf_1 18 rfl rfl)
theorem dX4_missOf_43 : decode cX4_missOf 43 = .ok (.invokevirtual 65, 3) := dk_182 0 65 (dk_at dksX4_missOf_1 19 rfl rfl)
theorem dX4_missOf_46 : decode cX4_missOf 46 = .ok (.laload, 1) := dk_47 (dk_at dksX4_missOf_1 22 rfl rfl)
theorem dX4_missOf_47 : decode cX4_missOf 47 = .ok (.lsub, 1) := dk_101 (dk_at dksX4_missOf_1 23 rfl rfl)
theorem dX4_missOf_48 : decode cX4_missOf 48 = .ok (.lload_n 2, 1) := dk_32 (dk_at dksX4_missOf_2 0 rfl rfl)
theorem dX4_missOf_49 : decode cX4_missOf 49 = .ok (.ladd, 1) := dk_97 (dk_at dksX4_missOf_2 1 rfl rfl)
theorem dX4_missOf_50 : decode cX4_missOf 50 = .ok (.lreturn, 1) := dk_173 (dk_at dksX4_missOf_2 2 rfl rfl)
abbrev cX4_bits : ByteArray := prog_19_method_8_code
def yX4_bits : MethodName := ⟨RX4, "bits", "(I)I"⟩
def dkwX4_bits_0 : List UInt8 := [3, 60, 26, 61, 28, 153, 0, 15, 132, 1, 1, 28, 28, 4, 100, 126, 61, 167, 255, 243, 27, 172]
abbrev dktX4_bits_0 : List UInt8 := dkwX4_bits_0 ++ []
theorem dksX4_bits_0 : cX4_bits.data.toList.drop 0 = dktX4_bits_0 := by decide +kernel
theorem dX4_bits_0 : decode cX4_bits 0 = .ok (.iconst 0, 1) := dk_3 (dk_at dksX4_bits_0 0 rfl rfl)
theorem dX4_bits_1 : decode cX4_bits 1 = .ok (.istore_n 1, 1) := dk_60 (dk_at dksX4_bits_0 1 rfl rfl)
theorem dX4_bits_2 : decode cX4_bits 2 = .ok (.iload_n 0, 1) := dk_26 (dk_at dksX4_bits_0 2 rfl rfl)
theorem dX4_bits_3 : decode cX4_bits 3 = .ok (.istore_n 2, 1) := dk_61 (dk_at dksX4_bits_0 3 rfl rfl)
theorem dX4_bits_4 : decode cX4_bits 4 = .ok (.iload_n 2, 1) := dk_28 (dk_at dksX4_bits_0 4 rfl rfl)
theorem dX4_bits_5 : decode cX4_bits 5 = .ok (.ifCond .eq 15, 3) := dk_153 0 15 (dk_at dksX4_bits_0 5 rfl rfl)
theorem dX4_bits_8 : decode cX4_bits 8 = .ok (.iinc 1 1, 3) := dk_132 1 1 (dk_at dksX4_bits_0 8 rfl rfl)
theorem dX4_bits_11 : decode cX4_bits 11 = .ok (.iload_n 2, 1) := dk_28 (dk_at dksX4_bits_0 11 rfl rfl)
theorem dX4_bits_12 : decode cX4_bits 12 = .ok (.iload_n 2, 1) := dk_28 (dk_at dksX4_bits_0 12 rfl rfl)
theorem dX4_bits_13 : decode cX4_bits 13 = .ok (.iconst 1, 1) := dk_4 (dk_at dksX4_bits_0 13 rfl rfl)
theorem dX4_bits_14 : decode cX4_bits 14 = .ok (.isub, 1) := dk_100 (dk_at dksX4_bits_0 14 rfl rfl)
theorem dX4_bits_15 : decode cX4_bits 15 = .ok (.iand, 1) := dk_126 (dk_at dksX4_bits_0 15 rfl rfl)
theorem dX4_bits_16 : decode cX4_bits 16 = .ok (.istore_n 2, 1) := dk_61 (dk_at dksX4_bits_0 16 rfl rfl)
theorem dX4_bits_17 : decode cX4_bits 17 = .ok (.goto (-13), 3) := dk_167 255 243 (dk_at dksX4_bits_0 17 rfl rfl)
theorem dX4_bits_20 : decode cX4_bits 20 = .ok (.iload_n 1, 1) := dk_27 (dk_at dksX4_bits_0 20 rfl rfl)
theorem dX4_bits_21 : decode cX4_bits 21 = .ok (.ireturn, 1) := dk_172 (dk_at dksX4_bits_0 21 rfl rfl)
abbrev cX4_loose : ByteArray := prog_19_method_62_code
def yX4_loose : MethodName := ⟨RX4, "loose", "(I)I"⟩
def dkwX4_loose_2 : List UInt8 := [182, 0, 225, 132, 2, 1, 167, 255, 244, 42, 182, 0, 96, 184, 0, 218, 172]
abbrev dktX4_loose_2 : List UInt8 := dkwX4_loose_2 ++ []
def dkwX4_loose_1 : List UInt8 := [96, 17, 39, 15, 164, 0, 10, 42, 18, 141, 182, 0, 126, 172, 3, 61, 28, 27, 162, 0, 13, 42]
abbrev dktX4_loose_1 : List UInt8 := dkwX4_loose_1 ++ dktX4_loose_2
def dkwX4_loose_0 : List UInt8 := [27, 4, 16, 30, 184, 0, 61, 154, 0, 10, 42, 18, 125, 182, 0, 126, 172, 42, 180, 0, 9, 3, 46, 27]
abbrev dktX4_loose_0 : List UInt8 := dkwX4_loose_0 ++ dktX4_loose_1
theorem dksX4_loose_0 : cX4_loose.data.toList.drop 0 = dktX4_loose_0 := by decide +kernel
theorem dksX4_loose_1 : cX4_loose.data.toList.drop 24 = dktX4_loose_1 := dk_seg dksX4_loose_0 24 rfl rfl
theorem dksX4_loose_2 : cX4_loose.data.toList.drop 46 = dktX4_loose_2 := dk_seg dksX4_loose_1 22 rfl rfl
theorem dX4_loose_0 : decode cX4_loose 0 = .ok (.iload_n 1, 1) := dk_27 (dk_at dksX4_loose_0 0 rfl rfl)
theorem dX4_loose_1 : decode cX4_loose 1 = .ok (.iconst 1, 1) := dk_4 (dk_at dksX4_loose_0 1 rfl rfl)
theorem dX4_loose_2 : decode cX4_loose 2 = .ok (.bipush 30, 2) := dk_16 30 (dk_at dksX4_loose_0 2 rfl rfl)
theorem dX4_loose_4 : decode cX4_loose 4 = .ok (.invokestatic 61, 3) := dk_184 0 61 (dk_at dksX4_loose_0 4 rfl rfl)
theorem dX4_loose_7 : decode cX4_loose 7 = .ok (.ifCond .ne 10, 3) := dk_154 0 10 (dk_at dksX4_loose_0 7 rfl rfl)
theorem dX4_loose_10 : decode cX4_loose 10 = .ok (.aload_n 0, 1) := dk_42 (dk_at dksX4_loose_0 10 rfl rfl)
theorem dX4_loose_11 : decode cX4_loose 11 = .ok (.ldc 125, 2) := dk_18 125 (dk_at dksX4_loose_0 11 rfl rfl)
theorem dX4_loose_13 : decode cX4_loose 13 = .ok (.invokevirtual 126, 3) := dk_182 0 126 (dk_at dksX4_loose_0 13 rfl rfl)
theorem dX4_loose_16 : decode cX4_loose 16 = .ok (.ireturn, 1) := dk_172 (dk_at dksX4_loose_0 16 rfl rfl)
theorem dX4_loose_17 : decode cX4_loose 17 = .ok (.aload_n 0, 1) := dk_42 (dk_at dksX4_loose_0 17 rfl rfl)
theorem dX4_loose_18 : decode cX4_loose 18 = .ok (.getfield 9, 3) := dk_180 0 9 (dk_at dksX4_loose_0 18 rfl rfl)
theorem dX4_loose_21 : decode cX4_loose 21 = .ok (.iconst 0, 1) := dk_3 (dk_at dksX4_loose_0 21 rfl rfl)
theorem dX4_loose_22 : decode cX4_loose 22 = .ok (.iaload, 1) := dk_46 (dk_at dksX4_loose_0 22 rfl rfl)
theorem dX4_loose_23 : decode cX4_loose 23 = .ok (.iload_n 1, 1) := dk_27 (dk_at dksX4_loose_0 23 rfl rfl)
theorem dX4_loose_24 : decode cX4_loose 24 = .ok (.iadd, 1) := dk_96 (dk_at dksX4_loose_1 0 rfl rfl)
theorem dX4_loose_25 : decode cX4_loose 25 = .ok (.sipush 9999, 3) := dk_17 39 15 (dk_at dksX4_loose_1 1 rfl rfl)
theorem dX4_loose_28 : decode cX4_loose 28 = .ok (.if_icmp .le 10, 3) := dk_164 0 10 (dk_at dksX4_loose_1 4 rfl rfl)
theorem dX4_loose_31 : decode cX4_loose 31 = .ok (.aload_n 0, 1) := dk_42 (dk_at dksX4_loose_1 7 rfl rfl)
theorem dX4_loose_32 : decode cX4_loose 32 = .ok (.ldc 141, 2) := dk_18 141 (dk_at dksX4_loose_1 8 rfl rfl)
theorem dX4_loose_34 : decode cX4_loose 34 = .ok (.invokevirtual 126, 3) := dk_182 0 126 (dk_at dksX4_loose_1 10 rfl rfl)
theorem dX4_loose_37 : decode cX4_loose 37 = .ok (.ireturn, 1) := dk_172 (dk_at dksX4_loose_1 13 rfl rfl)
theorem dX4_loose_38 : decode cX4_loose 38 = .ok (.iconst 0, 1) := dk_3 (dk_at dksX4_loose_1 14 rfl rfl)
theorem dX4_loose_39 : decode cX4_loose 39 = .ok (.istore_n 2, 1) := dk_61 (dk_at dksX4_loose_1 15 rfl rfl)
theorem dX4_loose_40 : decode cX4_loose 40 = .ok (.iload_n 2, 1) := dk_28 (dk_at dksX4_loose_1 16 rfl rfl)
theorem dX4_loose_41 : decode cX4_loose 41 = .ok (.iload_n 1, 1) := dk_27 (dk_at dksX4_loose_1 17 rfl rfl)
theorem dX4_loose_42 : decode cX4_loose 42 = .ok (.if_icmp .ge 13, 3) := dk_162 0 13 (dk_at dksX4_loose_1 18 rfl rfl)
theorem dX4_loose_45 : decode cX4_loose 45 = .ok (.aload_n 0, 1) := dk_42 (dk_at dksX4_loose_1 21 rfl rfl)
theorem dX4_loose_46 : decode cX4_loose 46 = .ok (.invokevirtual 225, 3) := dk_182 0 225 (dk_at dksX4_loose_2 0 rfl rfl)
theorem dX4_loose_49 : decode cX4_loose 49 = .ok (.iinc 2 1, 3) := dk_132 2 1 (dk_at dksX4_loose_2 3 rfl rfl)
theorem dX4_loose_52 : decode cX4_loose 52 = .ok (.goto (-12), 3) := dk_167 255 244 (dk_at dksX4_loose_2 6 rfl rfl)
theorem dX4_loose_55 : decode cX4_loose 55 = .ok (.aload_n 0, 1) := dk_42 (dk_at dksX4_loose_2 9 rfl rfl)
theorem dX4_loose_56 : decode cX4_loose 56 = .ok (.invokevirtual 96, 3) := dk_182 0 96 (dk_at dksX4_loose_2 10 rfl rfl)
theorem dX4_loose_59 : decode cX4_loose 59 = .ok (.invokestatic 218, 3) := dk_184 0 218 (dk_at dksX4_loose_2 13 rfl rfl)
theorem dX4_loose_62 : decode cX4_loose 62 = .ok (.ireturn, 1) := dk_172 (dk_at dksX4_loose_2 16 rfl rfl)
abbrev cX4_drawn : ByteArray := prog_19_method_61_code
def yX4_drawn : MethodName := ⟨RX4, "drawn", "()V"⟩
def dkwX4_drawn_2 : List UInt8 := [177]
abbrev dktX4_drawn_2 : List UInt8 := dkwX4_drawn_2 ++ []
def dkwX4_drawn_1 : List UInt8 := [42, 182, 0, 222, 16, 41, 112, 16, 20, 100, 182, 0, 130, 42, 27, 8, 4, 182, 0, 130, 42, 182, 0, 212]
abbrev dktX4_drawn_1 : List UInt8 := dkwX4_drawn_1 ++ dktX4_drawn_2
def dkwX4_drawn_0 : List UInt8 := [42, 180, 0, 9, 5, 46, 158, 0, 38, 42, 182, 0, 222, 42, 180, 0, 9, 5, 46, 112, 60, 42, 27, 7]
abbrev dktX4_drawn_0 : List UInt8 := dkwX4_drawn_0 ++ dktX4_drawn_1
theorem dksX4_drawn_0 : cX4_drawn.data.toList.drop 0 = dktX4_drawn_0 := by decide +kernel
theorem dksX4_drawn_1 : cX4_drawn.data.toList.drop 24 = dktX4_drawn_1 := dk_seg dksX4_drawn_0 24 rfl rfl
theorem dksX4_drawn_2 : cX4_drawn.data.toList.drop 48 = dktX4_drawn_2 := dk_seg dksX4_drawn_1 24 rfl rfl
theorem dX4_drawn_0 : decode cX4_drawn 0 = .ok (.aload_n 0, 1) := dk_42 (dk_at dksX4_drawn_0 0 rfl rfl)
theorem dX4_drawn_1 : decode cX4_drawn 1 = .ok (.getfield 9, 3) := dk_180 0 9 (dk_at dksX4_drawn_0 1 rfl rfl)
theorem dX4_drawn_4 : decode cX4_drawn 4 = .ok (.iconst 2, 1) := dk_5 (dk_at dksX4_drawn_0 4 rfl rfl)
theorem dX4_drawn_5 : decode cX4_drawn 5 = .ok (.iaload, 1) := dk_46 (dk_at dksX4_drawn_0 5 rfl rfl)
theorem dX4_drawn_6 : decode cX4_drawn 6 = .ok (.ifCond .le 38, 3) := dk_158 0 38 (dk_at dksX4_drawn_0 6 rfl rfl)
theorem dX4_drawn_9 : decode cX4_drawn 9 = .ok (.aload_n 0, 1) := dk_42 (dk_at dksX4_drawn_0 9 rfl rfl)
theorem dX4_drawn_10 : decode cX4_drawn 10 = .ok (.invokevirtual 222, 3) := dk_182 0 222 (dk_at dksX4_drawn_0 10 rfl rfl)
theorem dX4_drawn_13 : decode cX4_drawn 13 = .ok (.aload_n 0, 1) := dk_42 (dk_at dksX4_drawn_0 13 rfl rfl)
theorem dX4_drawn_14 : decode cX4_drawn 14 = .ok (.getfield 9, 3) := dk_180 0 9 (dk_at dksX4_drawn_0 14 rfl rfl)
theorem dX4_drawn_17 : decode cX4_drawn 17 = .ok (.iconst 2, 1) := dk_5 (dk_at dksX4_drawn_0 17 rfl rfl)
theorem dX4_drawn_18 : decode cX4_drawn 18 = .ok (.iaload, 1) := dk_46 (dk_at dksX4_drawn_0 18 rfl rfl)
theorem dX4_drawn_19 : decode cX4_drawn 19 = .ok (.irem, 1) := dk_112 (dk_at dksX4_drawn_0 19 rfl rfl)
theorem dX4_drawn_20 : decode cX4_drawn 20 = .ok (.istore_n 1, 1) := dk_60 (dk_at dksX4_drawn_0 20 rfl rfl)
theorem dX4_drawn_21 : decode cX4_drawn 21 = .ok (.aload_n 0, 1) := dk_42 (dk_at dksX4_drawn_0 21 rfl rfl)
theorem dX4_drawn_22 : decode cX4_drawn 22 = .ok (.iload_n 1, 1) := dk_27 (dk_at dksX4_drawn_0 22 rfl rfl)
theorem dX4_drawn_23 : decode cX4_drawn 23 = .ok (.iconst 4, 1) := dk_7 (dk_at dksX4_drawn_0 23 rfl rfl)
theorem dX4_drawn_24 : decode cX4_drawn 24 = .ok (.aload_n 0, 1) := dk_42 (dk_at dksX4_drawn_1 0 rfl rfl)
theorem dX4_drawn_25 : decode cX4_drawn 25 = .ok (.invokevirtual 222, 3) := dk_182 0 222 (dk_at dksX4_drawn_1 1 rfl rfl)
theorem dX4_drawn_28 : decode cX4_drawn 28 = .ok (.bipush 41, 2) := dk_16 41 (dk_at dksX4_drawn_1 4 rfl rfl)
theorem dX4_drawn_30 : decode cX4_drawn 30 = .ok (.irem, 1) := dk_112 (dk_at dksX4_drawn_1 6 rfl rfl)
theorem dX4_drawn_31 : decode cX4_drawn 31 = .ok (.bipush 20, 2) := dk_16 20 (dk_at dksX4_drawn_1 7 rfl rfl)
theorem dX4_drawn_33 : decode cX4_drawn 33 = .ok (.isub, 1) := dk_100 (dk_at dksX4_drawn_1 9 rfl rfl)
theorem dX4_drawn_34 : decode cX4_drawn 34 = .ok (.invokevirtual 130, 3) := dk_182 0 130 (dk_at dksX4_drawn_1 10 rfl rfl)
theorem dX4_drawn_37 : decode cX4_drawn 37 = .ok (.aload_n 0, 1) := dk_42 (dk_at dksX4_drawn_1 13 rfl rfl)
theorem dX4_drawn_38 : decode cX4_drawn 38 = .ok (.iload_n 1, 1) := dk_27 (dk_at dksX4_drawn_1 14 rfl rfl)
theorem dX4_drawn_39 : decode cX4_drawn 39 = .ok (.iconst 5, 1) := dk_8 (dk_at dksX4_drawn_1 15 rfl rfl)
theorem dX4_drawn_40 : decode cX4_drawn 40 = .ok (.iconst 1, 1) := dk_4 (dk_at dksX4_drawn_1 16 rfl rfl)
theorem dX4_drawn_41 : decode cX4_drawn 41 = .ok (.invokevirtual 130, 3) := dk_182 0 130 (dk_at dksX4_drawn_1 17 rfl rfl)
theorem dX4_drawn_44 : decode cX4_drawn 44 = .ok (.aload_n 0, 1) := dk_42 (dk_at dksX4_drawn_1 20 rfl rfl)
theorem dX4_drawn_45 : decode cX4_drawn 45 = .ok (.invokevirtual 212, 3) := dk_182 0 212 (dk_at dksX4_drawn_1 21 rfl rfl)
theorem dX4_drawn_48 : decode cX4_drawn 48 = .ok (.return_, 1) := dk_177 (dk_at dksX4_drawn_2 0 rfl rfl)
abbrev cX4_draw : ByteArray := prog_19_method_60_code
def yX4_draw : MethodName := ⟨RX4, "draw", "()I"⟩
def dkwX4_draw_1 : List UInt8 := [46, 16, 8, 124, 172]
abbrev dktX4_draw_1 : List UInt8 := dkwX4_draw_1 ++ []
def dkwX4_draw_0 : List UInt8 := [42, 180, 0, 9, 4, 42, 180, 0, 9, 4, 46, 18, 221, 104, 17, 48, 57, 96, 79, 42, 180, 0, 9, 4]
abbrev dktX4_draw_0 : List UInt8 := dkwX4_draw_0 ++ dktX4_draw_1
theorem dksX4_draw_0 : cX4_draw.data.toList.drop 0 = dktX4_draw_0 := by decide +kernel
theorem dksX4_draw_1 : cX4_draw.data.toList.drop 24 = dktX4_draw_1 := dk_seg dksX4_draw_0 24 rfl rfl
theorem dX4_draw_0 : decode cX4_draw 0 = .ok (.aload_n 0, 1) := dk_42 (dk_at dksX4_draw_0 0 rfl rfl)
theorem dX4_draw_1 : decode cX4_draw 1 = .ok (.getfield 9, 3) := dk_180 0 9 (dk_at dksX4_draw_0 1 rfl rfl)
theorem dX4_draw_4 : decode cX4_draw 4 = .ok (.iconst 1, 1) := dk_4 (dk_at dksX4_draw_0 4 rfl rfl)
theorem dX4_draw_5 : decode cX4_draw 5 = .ok (.aload_n 0, 1) := dk_42 (dk_at dksX4_draw_0 5 rfl rfl)
theorem dX4_draw_6 : decode cX4_draw 6 = .ok (.getfield 9, 3) := dk_180 0 9 (dk_at dksX4_draw_0 6 rfl rfl)
theorem dX4_draw_9 : decode cX4_draw 9 = .ok (.iconst 1, 1) := dk_4 (dk_at dksX4_draw_0 9 rfl rfl)
theorem dX4_draw_10 : decode cX4_draw 10 = .ok (.iaload, 1) := dk_46 (dk_at dksX4_draw_0 10 rfl rfl)
theorem dX4_draw_11 : decode cX4_draw 11 = .ok (.ldc 221, 2) := dk_18 221 (dk_at dksX4_draw_0 11 rfl rfl)
theorem dX4_draw_13 : decode cX4_draw 13 = .ok (.imul, 1) := dk_104 (dk_at dksX4_draw_0 13 rfl rfl)
theorem dX4_draw_14 : decode cX4_draw 14 = .ok (.sipush 12345, 3) := dk_17 48 57 (dk_at dksX4_draw_0 14 rfl rfl)
theorem dX4_draw_17 : decode cX4_draw 17 = .ok (.iadd, 1) := dk_96 (dk_at dksX4_draw_0 17 rfl rfl)
theorem dX4_draw_18 : decode cX4_draw 18 = .ok (.iastore, 1) := dk_79 (dk_at dksX4_draw_0 18 rfl rfl)
theorem dX4_draw_19 : decode cX4_draw 19 = .ok (.aload_n 0, 1) := dk_42 (dk_at dksX4_draw_0 19 rfl rfl)
theorem dX4_draw_20 : decode cX4_draw 20 = .ok (.getfield 9, 3) := dk_180 0 9 (dk_at dksX4_draw_0 20 rfl rfl)
theorem dX4_draw_23 : decode cX4_draw 23 = .ok (.iconst 1, 1) := dk_4 (dk_at dksX4_draw_0 23 rfl rfl)
theorem dX4_draw_24 : decode cX4_draw 24 = .ok (.iaload, 1) := dk_46 (dk_at dksX4_draw_1 0 rfl rfl)
theorem dX4_draw_25 : decode cX4_draw 25 = .ok (.bipush 8, 2) := dk_16 8 (dk_at dksX4_draw_1 1 rfl rfl)
theorem dX4_draw_27 : decode cX4_draw 27 = .ok (.iushr, 1) := dk_124 (dk_at dksX4_draw_1 3 rfl rfl)
theorem dX4_draw_28 : decode cX4_draw 28 = .ok (.ireturn, 1) := dk_172 (dk_at dksX4_draw_1 4 rfl rfl)
abbrev cX4_round : ByteArray := prog_19_method_63_code
def yX4_round : MethodName := ⟨RX4, "round", "(I)I"⟩
def dkwX4_round_1 : List UInt8 := [182, 0, 126, 172]
abbrev dktX4_round_1 : List UInt8 := dkwX4_round_1 ++ []
def dkwX4_round_0 : List UInt8 := [27, 3, 17, 39, 15, 184, 0, 61, 153, 0, 12, 42, 3, 27, 182, 0, 137, 167, 0, 9, 42, 18, 125]
abbrev dktX4_round_0 : List UInt8 := dkwX4_round_0 ++ dktX4_round_1
theorem dksX4_round_0 : cX4_round.data.toList.drop 0 = dktX4_round_0 := by decide +kernel
theorem dksX4_round_1 : cX4_round.data.toList.drop 23 = dktX4_round_1 := dk_seg dksX4_round_0 23 rfl rfl
theorem dX4_round_0 : decode cX4_round 0 = .ok (.iload_n 1, 1) := dk_27 (dk_at dksX4_round_0 0 rfl rfl)
theorem dX4_round_1 : decode cX4_round 1 = .ok (.iconst 0, 1) := dk_3 (dk_at dksX4_round_0 1 rfl rfl)
theorem dX4_round_2 : decode cX4_round 2 = .ok (.sipush 9999, 3) := dk_17 39 15 (dk_at dksX4_round_0 2 rfl rfl)
theorem dX4_round_5 : decode cX4_round 5 = .ok (.invokestatic 61, 3) := dk_184 0 61 (dk_at dksX4_round_0 5 rfl rfl)
theorem dX4_round_8 : decode cX4_round 8 = .ok (.ifCond .eq 12, 3) := dk_153 0 12 (dk_at dksX4_round_0 8 rfl rfl)
theorem dX4_round_11 : decode cX4_round 11 = .ok (.aload_n 0, 1) := dk_42 (dk_at dksX4_round_0 11 rfl rfl)
theorem dX4_round_12 : decode cX4_round 12 = .ok (.iconst 0, 1) := dk_3 (dk_at dksX4_round_0 12 rfl rfl)
theorem dX4_round_13 : decode cX4_round 13 = .ok (.iload_n 1, 1) := dk_27 (dk_at dksX4_round_0 13 rfl rfl)
theorem dX4_round_14 : decode cX4_round 14 = .ok (.invokevirtual 137, 3) := dk_182 0 137 (dk_at dksX4_round_0 14 rfl rfl)
theorem dX4_round_17 : decode cX4_round 17 = .ok (.goto 9, 3) := dk_167 0 9 (dk_at dksX4_round_0 17 rfl rfl)
theorem dX4_round_20 : decode cX4_round 20 = .ok (.aload_n 0, 1) := dk_42 (dk_at dksX4_round_0 20 rfl rfl)
theorem dX4_round_21 : decode cX4_round 21 = .ok (.ldc 125, 2) := dk_18 125 (dk_at dksX4_round_0 21 rfl rfl)
theorem dX4_round_23 : decode cX4_round 23 = .ok (.invokevirtual 126, 3) := dk_182 0 126 (dk_at dksX4_round_1 0 rfl rfl)
theorem dX4_round_26 : decode cX4_round 26 = .ok (.ireturn, 1) := dk_172 (dk_at dksX4_round_1 3 rfl rfl)
abbrev cX4_seed : ByteArray := prog_19_method_64_code
def yX4_seed : MethodName := ⟨RX4, "seed", "(I)I"⟩
def dkwX4_seed_0 : List UInt8 := [42, 4, 27, 182, 0, 137, 172]
abbrev dktX4_seed_0 : List UInt8 := dkwX4_seed_0 ++ []
theorem dksX4_seed_0 : cX4_seed.data.toList.drop 0 = dktX4_seed_0 := by decide +kernel
theorem dX4_seed_0 : decode cX4_seed 0 = .ok (.aload_n 0, 1) := dk_42 (dk_at dksX4_seed_0 0 rfl rfl)
theorem dX4_seed_1 : decode cX4_seed 1 = .ok (.iconst 1, 1) := dk_4 (dk_at dksX4_seed_0 1 rfl rfl)
theorem dX4_seed_2 : decode cX4_seed 2 = .ok (.iload_n 1, 1) := dk_27 (dk_at dksX4_seed_0 2 rfl rfl)
theorem dX4_seed_3 : decode cX4_seed 3 = .ok (.invokevirtual 137, 3) := dk_182 0 137 (dk_at dksX4_seed_0 3 rfl rfl)
theorem dX4_seed_6 : decode cX4_seed 6 = .ok (.ireturn, 1) := dk_172 (dk_at dksX4_seed_0 6 rfl rfl)
abbrev cX4_place : ByteArray := prog_19_method_66_code
def yX4_place : MethodName := ⟨RX4, "place", "(II)J"⟩
def dkwX4_place_2 : List UInt8 := [18, 141, 182, 0, 126, 133, 173]
abbrev dktX4_place_2 : List UInt8 := dkwX4_place_2 ++ []
def dkwX4_place_1 : List UInt8 := [182, 0, 205, 153, 0, 20, 42, 180, 0, 38, 27, 47, 42, 180, 0, 108, 28, 184, 0, 231, 167, 0, 10, 42]
abbrev dktX4_place_1 : List UInt8 := dkwX4_place_1 ++ dktX4_place_2
def dkwX4_place_0 : List UInt8 := [42, 27, 182, 0, 122, 153, 0, 10, 28, 184, 0, 228, 154, 0, 11, 42, 18, 125, 182, 0, 126, 133, 173, 42]
abbrev dktX4_place_0 : List UInt8 := dkwX4_place_0 ++ dktX4_place_1
theorem dksX4_place_0 : cX4_place.data.toList.drop 0 = dktX4_place_0 := by decide +kernel
theorem dksX4_place_1 : cX4_place.data.toList.drop 24 = dktX4_place_1 := dk_seg dksX4_place_0 24 rfl rfl
theorem dksX4_place_2 : cX4_place.data.toList.drop 48 = dktX4_place_2 := dk_seg dksX4_place_1 24 rfl rfl
theorem dX4_place_0 : decode cX4_place 0 = .ok (.aload_n 0, 1) := dk_42 (dk_at dksX4_place_0 0 rfl rfl)
theorem dX4_place_1 : decode cX4_place 1 = .ok (.iload_n 1, 1) := dk_27 (dk_at dksX4_place_0 1 rfl rfl)
theorem dX4_place_2 : decode cX4_place 2 = .ok (.invokevirtual 122, 3) := dk_182 0 122 (dk_at dksX4_place_0 2 rfl rfl)
theorem dX4_place_5 : decode cX4_place 5 = .ok (.ifCond .eq 10, 3) := dk_153 0 10 (dk_at dksX4_place_0 5 rfl rfl)
theorem dX4_place_8 : decode cX4_place 8 = .ok (.iload_n 2, 1) := dk_28 (dk_at dksX4_place_0 8 rfl rfl)
theorem dX4_place_9 : decode cX4_place 9 = .ok (.invokestatic 228, 3) := dk_184 0 228 (dk_at dksX4_place_0 9 rfl rfl)
theorem dX4_place_12 : decode cX4_place 12 = .ok (.ifCond .ne 11, 3) := dk_154 0 11 (dk_at dksX4_place_0 12 rfl rfl)
theorem dX4_place_15 : decode cX4_place 15 = .ok (.aload_n 0, 1) := dk_42 (dk_at dksX4_place_0 15 rfl rfl)
theorem dX4_place_16 : decode cX4_place 16 = .ok (.ldc 125, 2) := dk_18 125 (dk_at dksX4_place_0 16 rfl rfl)
theorem dX4_place_18 : decode cX4_place 18 = .ok (.invokevirtual 126, 3) := dk_182 0 126 (dk_at dksX4_place_0 18 rfl rfl)
theorem dX4_place_21 : decode cX4_place 21 = .ok (.i2l, 1) := dk_133 (dk_at dksX4_place_0 21 rfl rfl)
theorem dX4_place_22 : decode cX4_place 22 = .ok (.lreturn, 1) := dk_173 (dk_at dksX4_place_0 22 rfl rfl)
theorem dX4_place_23 : decode cX4_place 23 = .ok (.aload_n 0, 1) := dk_42 (dk_at dksX4_place_0 23 rfl rfl)
theorem dX4_place_24 : decode cX4_place 24 = .ok (.invokevirtual 205, 3) := dk_182 0 205 (dk_at dksX4_place_1 0 rfl rfl)
theorem dX4_place_27 : decode cX4_place 27 = .ok (.ifCond .eq 20, 3) := dk_153 0 20 (dk_at dksX4_place_1 3 rfl rfl)
theorem dX4_place_30 : decode cX4_place 30 = .ok (.aload_n 0, 1) := dk_42 (dk_at dksX4_place_1 6 rfl rfl)
theorem dX4_place_31 : decode cX4_place 31 = .ok (.getfield 38, 3) := dk_180 0 38 (dk_at dksX4_place_1 7 rfl rfl)
theorem dX4_place_34 : decode cX4_place 34 = .ok (.iload_n 1, 1) := dk_27 (dk_at dksX4_place_1 10 rfl rfl)
theorem dX4_place_35 : decode cX4_place 35 = .ok (.laload, 1) := dk_47 (dk_at dksX4_place_1 11 rfl rfl)
theorem dX4_place_36 : decode cX4_place 36 = .ok (.aload_n 0, 1) := dk_42 (dk_at dksX4_place_1 12 rfl rfl)
theorem dX4_place_37 : decode cX4_place 37 = .ok (.getfield 108, 3) := dk_180 0 108 (dk_at dksX4_place_1 13 rfl rfl)
theorem dX4_place_40 : decode cX4_place 40 = .ok (.iload_n 2, 1) := dk_28 (dk_at dksX4_place_1 16 rfl rfl)
theorem dX4_place_41 : decode cX4_place 41 = .ok (.invokestatic 231, 3) := dk_184 0 231 (dk_at dksX4_place_1 17 rfl rfl)
theorem dX4_place_44 : decode cX4_place 44 = .ok (.goto 10, 3) := dk_167 0 10 (dk_at dksX4_place_1 20 rfl rfl)
theorem dX4_place_47 : decode cX4_place 47 = .ok (.aload_n 0, 1) := dk_42 (dk_at dksX4_place_1 23 rfl rfl)
theorem dX4_place_48 : decode cX4_place 48 = .ok (.ldc 141, 2) := dk_18 141 (dk_at dksX4_place_2 0 rfl rfl)
theorem dX4_place_50 : decode cX4_place 50 = .ok (.invokevirtual 126, 3) := dk_182 0 126 (dk_at dksX4_place_2 2 rfl rfl)
theorem dX4_place_53 : decode cX4_place 53 = .ok (.i2l, 1) := dk_133 (dk_at dksX4_place_2 5 rfl rfl)
theorem dX4_place_54 : decode cX4_place 54 = .ok (.lreturn, 1) := dk_173 (dk_at dksX4_place_2 6 rfl rfl)
abbrev cX4_isPart : ByteArray := prog_19_method_65_code
def yX4_isPart : MethodName := ⟨RX4, "isPart", "(I)Z"⟩
def dkwX4_isPart_0 : List UInt8 := [26, 3, 4, 184, 0, 61, 172]
abbrev dktX4_isPart_0 : List UInt8 := dkwX4_isPart_0 ++ []
theorem dksX4_isPart_0 : cX4_isPart.data.toList.drop 0 = dktX4_isPart_0 := by decide +kernel
theorem dX4_isPart_0 : decode cX4_isPart 0 = .ok (.iload_n 0, 1) := dk_26 (dk_at dksX4_isPart_0 0 rfl rfl)
theorem dX4_isPart_1 : decode cX4_isPart 1 = .ok (.iconst 0, 1) := dk_3 (dk_at dksX4_isPart_0 1 rfl rfl)
theorem dX4_isPart_2 : decode cX4_isPart 2 = .ok (.iconst 1, 1) := dk_4 (dk_at dksX4_isPart_0 2 rfl rfl)
theorem dX4_isPart_3 : decode cX4_isPart 3 = .ok (.invokestatic 61, 3) := dk_184 0 61 (dk_at dksX4_isPart_0 3 rfl rfl)
theorem dX4_isPart_6 : decode cX4_isPart 6 = .ok (.ireturn, 1) := dk_172 (dk_at dksX4_isPart_0 6 rfl rfl)
abbrev cX4_inTerms : ByteArray := prog_19_method_29_code
def yX4_inTerms : MethodName := ⟨RX4, "inTerms", "(JJI)J"⟩
def dkwX4_inTerms_2 : List UInt8 := [22, 5, 109, 167, 0, 7, 32, 22, 5, 109, 173]
abbrev dktX4_inTerms_2 : List UInt8 := dkwX4_inTerms_2 ++ []
def dkwX4_inTerms_1 : List UInt8 := [22, 5, 22, 7, 113, 55, 9, 22, 7, 55, 5, 22, 9, 55, 7, 167, 255, 234, 21, 4, 154, 0, 10, 30]
abbrev dktX4_inTerms_1 : List UInt8 := dkwX4_inTerms_1 ++ dktX4_inTerms_2
def dkwX4_inTerms_0 : List UInt8 := [30, 9, 148, 156, 0, 8, 30, 117, 167, 0, 4, 30, 55, 5, 32, 55, 7, 22, 7, 9, 148, 153, 0, 21]
abbrev dktX4_inTerms_0 : List UInt8 := dkwX4_inTerms_0 ++ dktX4_inTerms_1
theorem dksX4_inTerms_0 : cX4_inTerms.data.toList.drop 0 = dktX4_inTerms_0 := by decide +kernel
theorem dksX4_inTerms_1 : cX4_inTerms.data.toList.drop 24 = dktX4_inTerms_1 := dk_seg dksX4_inTerms_0 24 rfl rfl
theorem dksX4_inTerms_2 : cX4_inTerms.data.toList.drop 48 = dktX4_inTerms_2 := dk_seg dksX4_inTerms_1 24 rfl rfl
theorem dX4_inTerms_0 : decode cX4_inTerms 0 = .ok (.lload_n 0, 1) := dk_30 (dk_at dksX4_inTerms_0 0 rfl rfl)
theorem dX4_inTerms_1 : decode cX4_inTerms 1 = .ok (.lconst 0, 1) := dk_9 (dk_at dksX4_inTerms_0 1 rfl rfl)
theorem dX4_inTerms_2 : decode cX4_inTerms 2 = .ok (.lcmp, 1) := dk_148 (dk_at dksX4_inTerms_0 2 rfl rfl)
theorem dX4_inTerms_3 : decode cX4_inTerms 3 = .ok (.ifCond .ge 8, 3) := dk_156 0 8 (dk_at dksX4_inTerms_0 3 rfl rfl)
theorem dX4_inTerms_6 : decode cX4_inTerms 6 = .ok (.lload_n 0, 1) := dk_30 (dk_at dksX4_inTerms_0 6 rfl rfl)
theorem dX4_inTerms_7 : decode cX4_inTerms 7 = .ok (.lneg, 1) := dk_117 (dk_at dksX4_inTerms_0 7 rfl rfl)
theorem dX4_inTerms_8 : decode cX4_inTerms 8 = .ok (.goto 4, 3) := dk_167 0 4 (dk_at dksX4_inTerms_0 8 rfl rfl)
theorem dX4_inTerms_11 : decode cX4_inTerms 11 = .ok (.lload_n 0, 1) := dk_30 (dk_at dksX4_inTerms_0 11 rfl rfl)
theorem dX4_inTerms_12 : decode cX4_inTerms 12 = .ok (.lstore 5, 2) := dk_55 5 (dk_at dksX4_inTerms_0 12 rfl rfl)
theorem dX4_inTerms_14 : decode cX4_inTerms 14 = .ok (.lload_n 2, 1) := dk_32 (dk_at dksX4_inTerms_0 14 rfl rfl)
theorem dX4_inTerms_15 : decode cX4_inTerms 15 = .ok (.lstore 7, 2) := dk_55 7 (dk_at dksX4_inTerms_0 15 rfl rfl)
theorem dX4_inTerms_17 : decode cX4_inTerms 17 = .ok (.lload 7, 2) := dk_22 7 (dk_at dksX4_inTerms_0 17 rfl rfl)
theorem dX4_inTerms_19 : decode cX4_inTerms 19 = .ok (.lconst 0, 1) := dk_9 (dk_at dksX4_inTerms_0 19 rfl rfl)
theorem dX4_inTerms_20 : decode cX4_inTerms 20 = .ok (.lcmp, 1) := dk_148 (dk_at dksX4_inTerms_0 20 rfl rfl)
theorem dX4_inTerms_21 : decode cX4_inTerms 21 = .ok (.ifCond .eq 21, 3) := dk_153 0 21 (dk_at dksX4_inTerms_0 21 rfl rfl)
theorem dX4_inTerms_24 : decode cX4_inTerms 24 = .ok (.lload 5, 2) := dk_22 5 (dk_at dksX4_inTerms_1 0 rfl rfl)
theorem dX4_inTerms_26 : decode cX4_inTerms 26 = .ok (.lload 7, 2) := dk_22 7 (dk_at dksX4_inTerms_1 2 rfl rfl)
theorem dX4_inTerms_28 : decode cX4_inTerms 28 = .ok (.lrem, 1) := dk_113 (dk_at dksX4_inTerms_1 4 rfl rfl)
theorem dX4_inTerms_29 : decode cX4_inTerms 29 = .ok (.lstore 9, 2) := dk_55 9 (dk_at dksX4_inTerms_1 5 rfl rfl)
theorem dX4_inTerms_31 : decode cX4_inTerms 31 = .ok (.lload 7, 2) := dk_22 7 (dk_at dksX4_inTerms_1 7 rfl rfl)
theorem dX4_inTerms_33 : decode cX4_inTerms 33 = .ok (.lstore 5, 2) := dk_55 5 (dk_at dksX4_inTerms_1 9 rfl rfl)
theorem dX4_inTerms_35 : decode cX4_inTerms 35 = .ok (.lload 9, 2) := dk_22 9 (dk_at dksX4_inTerms_1 11 rfl rfl)
theorem dX4_inTerms_37 : decode cX4_inTerms 37 = .ok (.lstore 7, 2) := dk_55 7 (dk_at dksX4_inTerms_1 13 rfl rfl)
theorem dX4_inTerms_39 : decode cX4_inTerms 39 = .ok (.goto (-22), 3) := dk_167 255 234 (dk_at dksX4_inTerms_1 15 rfl rfl)
theorem dX4_inTerms_42 : decode cX4_inTerms 42 = .ok (.iload 4, 2) := dk_21 4 (dk_at dksX4_inTerms_1 18 rfl rfl)
theorem dX4_inTerms_44 : decode cX4_inTerms 44 = .ok (.ifCond .ne 10, 3) := dk_154 0 10 (dk_at dksX4_inTerms_1 20 rfl rfl)
theorem dX4_inTerms_47 : decode cX4_inTerms 47 = .ok (.lload_n 0, 1) := dk_30 (dk_at dksX4_inTerms_1 23 rfl rfl)
theorem dX4_inTerms_48 : decode cX4_inTerms 48 = .ok (.lload 5, 2) := dk_22 5 (dk_at dksX4_inTerms_2 0 rfl rfl)
theorem dX4_inTerms_50 : decode cX4_inTerms 50 = .ok (.ldiv, 1) := dk_109 (dk_at dksX4_inTerms_2 2 rfl rfl)
theorem dX4_inTerms_51 : decode cX4_inTerms 51 = .ok (.goto 7, 3) := dk_167 0 7 (dk_at dksX4_inTerms_2 3 rfl rfl)
theorem dX4_inTerms_54 : decode cX4_inTerms 54 = .ok (.lload_n 2, 1) := dk_32 (dk_at dksX4_inTerms_2 6 rfl rfl)
theorem dX4_inTerms_55 : decode cX4_inTerms 55 = .ok (.lload 5, 2) := dk_22 5 (dk_at dksX4_inTerms_2 7 rfl rfl)
theorem dX4_inTerms_57 : decode cX4_inTerms 57 = .ok (.ldiv, 1) := dk_109 (dk_at dksX4_inTerms_2 9 rfl rfl)
theorem dX4_inTerms_58 : decode cX4_inTerms 58 = .ok (.lreturn, 1) := dk_173 (dk_at dksX4_inTerms_2 10 rfl rfl)
abbrev cX4_miss : ByteArray := prog_19_method_67_code
def yX4_miss : MethodName := ⟨RX4, "miss", "(II)J"⟩
def dkwX4_miss_2 : List UInt8 := [18, 141, 182, 0, 126, 133, 173]
abbrev dktX4_miss_2 : List UInt8 := dkwX4_miss_2 ++ []
def dkwX4_miss_1 : List UInt8 := [182, 0, 205, 153, 0, 19, 42, 27, 182, 0, 112, 42, 180, 0, 108, 28, 184, 0, 231, 167, 0, 10, 42]
abbrev dktX4_miss_1 : List UInt8 := dkwX4_miss_1 ++ dktX4_miss_2
def dkwX4_miss_0 : List UInt8 := [42, 27, 182, 0, 134, 153, 0, 10, 28, 184, 0, 228, 154, 0, 11, 42, 18, 125, 182, 0, 126, 133, 173, 42]
abbrev dktX4_miss_0 : List UInt8 := dkwX4_miss_0 ++ dktX4_miss_1
theorem dksX4_miss_0 : cX4_miss.data.toList.drop 0 = dktX4_miss_0 := by decide +kernel
theorem dksX4_miss_1 : cX4_miss.data.toList.drop 24 = dktX4_miss_1 := dk_seg dksX4_miss_0 24 rfl rfl
theorem dksX4_miss_2 : cX4_miss.data.toList.drop 47 = dktX4_miss_2 := dk_seg dksX4_miss_1 23 rfl rfl
theorem dX4_miss_0 : decode cX4_miss 0 = .ok (.aload_n 0, 1) := dk_42 (dk_at dksX4_miss_0 0 rfl rfl)
theorem dX4_miss_1 : decode cX4_miss 1 = .ok (.iload_n 1, 1) := dk_27 (dk_at dksX4_miss_0 1 rfl rfl)
theorem dX4_miss_2 : decode cX4_miss 2 = .ok (.invokevirtual 134, 3) := dk_182 0 134 (dk_at dksX4_miss_0 2 rfl rfl)
theorem dX4_miss_5 : decode cX4_miss 5 = .ok (.ifCond .eq 10, 3) := dk_153 0 10 (dk_at dksX4_miss_0 5 rfl rfl)
theorem dX4_miss_8 : decode cX4_miss 8 = .ok (.iload_n 2, 1) := dk_28 (dk_at dksX4_miss_0 8 rfl rfl)
theorem dX4_miss_9 : decode cX4_miss 9 = .ok (.invokestatic 228, 3) := dk_184 0 228 (dk_at dksX4_miss_0 9 rfl rfl)
theorem dX4_miss_12 : decode cX4_miss 12 = .ok (.ifCond .ne 11, 3) := dk_154 0 11 (dk_at dksX4_miss_0 12 rfl rfl)
theorem dX4_miss_15 : decode cX4_miss 15 = .ok (.aload_n 0, 1) := dk_42 (dk_at dksX4_miss_0 15 rfl rfl)
theorem dX4_miss_16 : decode cX4_miss 16 = .ok (.ldc 125, 2) := dk_18 125 (dk_at dksX4_miss_0 16 rfl rfl)
theorem dX4_miss_18 : decode cX4_miss 18 = .ok (.invokevirtual 126, 3) := dk_182 0 126 (dk_at dksX4_miss_0 18 rfl rfl)
theorem dX4_miss_21 : decode cX4_miss 21 = .ok (.i2l, 1) := dk_133 (dk_at dksX4_miss_0 21 rfl rfl)
theorem dX4_miss_22 : decode cX4_miss 22 = .ok (.lreturn, 1) := dk_173 (dk_at dksX4_miss_0 22 rfl rfl)
theorem dX4_miss_23 : decode cX4_miss 23 = .ok (.aload_n 0, 1) := dk_42 (dk_at dksX4_miss_0 23 rfl rfl)
theorem dX4_miss_24 : decode cX4_miss 24 = .ok (.invokevirtual 205, 3) := dk_182 0 205 (dk_at dksX4_miss_1 0 rfl rfl)
theorem dX4_miss_27 : decode cX4_miss 27 = .ok (.ifCond .eq 19, 3) := dk_153 0 19 (dk_at dksX4_miss_1 3 rfl rfl)
theorem dX4_miss_30 : decode cX4_miss 30 = .ok (.aload_n 0, 1) := dk_42 (dk_at dksX4_miss_1 6 rfl rfl)
theorem dX4_miss_31 : decode cX4_miss 31 = .ok (.iload_n 1, 1) := dk_27 (dk_at dksX4_miss_1 7 rfl rfl)
theorem dX4_miss_32 : decode cX4_miss 32 = .ok (.invokevirtual 112, 3) := dk_182 0 112 (dk_at dksX4_miss_1 8 rfl rfl)
theorem dX4_miss_35 : decode cX4_miss 35 = .ok (.aload_n 0, 1) := dk_42 (dk_at dksX4_miss_1 11 rfl rfl)
theorem dX4_miss_36 : decode cX4_miss 36 = .ok (.getfield 108, 3) := dk_180 0 108 (dk_at dksX4_miss_1 12 rfl rfl)
theorem dX4_miss_39 : decode cX4_miss 39 = .ok (.iload_n 2, 1) := dk_28 (dk_at dksX4_miss_1 15 rfl rfl)
theorem dX4_miss_40 : decode cX4_miss 40 = .ok (.invokestatic 231, 3) := dk_184 0 231 (dk_at dksX4_miss_1 16 rfl rfl)
theorem dX4_miss_43 : decode cX4_miss 43 = .ok (.goto 10, 3) := dk_167 0 10 (dk_at dksX4_miss_1 19 rfl rfl)
theorem dX4_miss_46 : decode cX4_miss 46 = .ok (.aload_n 0, 1) := dk_42 (dk_at dksX4_miss_1 22 rfl rfl)
theorem dX4_miss_47 : decode cX4_miss 47 = .ok (.ldc 141, 2) := dk_18 141 (dk_at dksX4_miss_2 0 rfl rfl)
theorem dX4_miss_49 : decode cX4_miss 49 = .ok (.invokevirtual 126, 3) := dk_182 0 126 (dk_at dksX4_miss_2 2 rfl rfl)
theorem dX4_miss_52 : decode cX4_miss 52 = .ok (.i2l, 1) := dk_133 (dk_at dksX4_miss_2 5 rfl rfl)
theorem dX4_miss_53 : decode cX4_miss 53 = .ok (.lreturn, 1) := dk_173 (dk_at dksX4_miss_2 6 rfl rfl)
abbrev cX4_sum : ByteArray := prog_19_method_68_code
def yX4_sum : MethodName := ⟨RX4, "sum", "(I)J"⟩
def dkwX4_sum_2 : List UInt8 := [182, 0, 126, 133, 173]
abbrev dktX4_sum_2 : List UInt8 := dkwX4_sum_2 ++ []
def dkwX4_sum_1 : List UInt8 := [182, 0, 235, 42, 180, 0, 108, 42, 180, 0, 108, 105, 27, 184, 0, 231, 167, 0, 10, 42, 18, 141]
abbrev dktX4_sum_1 : List UInt8 := dkwX4_sum_1 ++ dktX4_sum_2
def dkwX4_sum_0 : List UInt8 := [27, 184, 0, 228, 154, 0, 11, 42, 18, 125, 182, 0, 126, 133, 173, 42, 182, 0, 205, 153, 0, 23, 42]
abbrev dktX4_sum_0 : List UInt8 := dkwX4_sum_0 ++ dktX4_sum_1
theorem dksX4_sum_0 : cX4_sum.data.toList.drop 0 = dktX4_sum_0 := by decide +kernel
theorem dksX4_sum_1 : cX4_sum.data.toList.drop 23 = dktX4_sum_1 := dk_seg dksX4_sum_0 23 rfl rfl
theorem dksX4_sum_2 : cX4_sum.data.toList.drop 45 = dktX4_sum_2 := dk_seg dksX4_sum_1 22 rfl rfl
theorem dX4_sum_0 : decode cX4_sum 0 = .ok (.iload_n 1, 1) := dk_27 (dk_at dksX4_sum_0 0 rfl rfl)
theorem dX4_sum_1 : decode cX4_sum 1 = .ok (.invokestatic 228, 3) := dk_184 0 228 (dk_at dksX4_sum_0 1 rfl rfl)
theorem dX4_sum_4 : decode cX4_sum 4 = .ok (.ifCond .ne 11, 3) := dk_154 0 11 (dk_at dksX4_sum_0 4 rfl rfl)
theorem dX4_sum_7 : decode cX4_sum 7 = .ok (.aload_n 0, 1) := dk_42 (dk_at dksX4_sum_0 7 rfl rfl)
theorem dX4_sum_8 : decode cX4_sum 8 = .ok (.ldc 125, 2) := dk_18 125 (dk_at dksX4_sum_0 8 rfl rfl)
theorem dX4_sum_10 : decode cX4_sum 10 = .ok (.invokevirtual 126, 3) := dk_182 0 126 (dk_at dksX4_sum_0 10 rfl rfl)
theorem dX4_sum_13 : decode cX4_sum 13 = .ok (.i2l, 1) := dk_133 (dk_at dksX4_sum_0 13 rfl rfl)
theorem dX4_sum_14 : decode cX4_sum 14 = .ok (.lreturn, 1) := dk_173 (dk_at dksX4_sum_0 14 rfl rfl)
theorem dX4_sum_15 : decode cX4_sum 15 = .ok (.aload_n 0, 1) := dk_42 (dk_at dksX4_sum_0 15 rfl rfl)
theorem dX4_sum_16 : decode cX4_sum 16 = .ok (.invokevirtual 205, 3) := dk_182 0 205 (dk_at dksX4_sum_0 16 rfl rfl)
theorem dX4_sum_19 : decode cX4_sum 19 = .ok (.ifCond .eq 23, 3) := dk_153 0 23 (dk_at dksX4_sum_0 19 rfl rfl)
theorem dX4_sum_22 : decode cX4_sum 22 = .ok (.aload_n 0, 1) := dk_42 (dk_at dksX4_sum_0 22 rfl rfl)
theorem dX4_sum_23 : decode cX4_sum 23 = .ok (.invokevirtual 235, 3) := dk_182 0 235 (dk_at dksX4_sum_1 0 rfl rfl)
theorem dX4_sum_26 : decode cX4_sum 26 = .ok (.aload_n 0, 1) := dk_42 (dk_at dksX4_sum_1 3 rfl rfl)
theorem dX4_sum_27 : decode cX4_sum 27 = .ok (.getfield 108, 3) := dk_180 0 108 (dk_at dksX4_sum_1 4 rfl rfl)
theorem dX4_sum_30 : decode cX4_sum 30 = .ok (.aload_n 0, 1) := dk_42 (dk_at dksX4_sum_1 7 rfl rfl)
theorem dX4_sum_31 : decode cX4_sum 31 = .ok (.getfield 108, 3) := dk_180 0 108 (dk_at dksX4_sum_1 8 rfl rfl)
theorem dX4_sum_34 : decode cX4_sum 34 = .ok (.lmul, 1) := dk_105 (dk_at dksX4_sum_1 11 rfl rfl)
theorem dX4_sum_35 : decode cX4_sum 35 = .ok (.iload_n 1, 1) := dk_27 (dk_at dksX4_sum_1 12 rfl rfl)
theorem dX4_sum_36 : decode cX4_sum 36 = .ok (.invokestatic 231, 3) := dk_184 0 231 (dk_at dksX4_sum_1 13 rfl rfl)
theorem dX4_sum_39 : decode cX4_sum 39 = .ok (.goto 10, 3) := dk_167 0 10 (dk_at dksX4_sum_1 16 rfl rfl)
theorem dX4_sum_42 : decode cX4_sum 42 = .ok (.aload_n 0, 1) := dk_42 (dk_at dksX4_sum_1 19 rfl rfl)
theorem dX4_sum_43 : decode cX4_sum 43 = .ok (.ldc 141, 2) := dk_18 141 (dk_at dksX4_sum_1 20 rfl rfl)
theorem dX4_sum_45 : decode cX4_sum 45 = .ok (.invokevirtual 126, 3) := dk_182 0 126 (dk_at dksX4_sum_2 0 rfl rfl)
theorem dX4_sum_48 : decode cX4_sum 48 = .ok (.i2l, 1) := dk_133 (dk_at dksX4_sum_2 3 rfl rfl)
theorem dX4_sum_49 : decode cX4_sum 49 = .ok (.lreturn, 1) := dk_173 (dk_at dksX4_sum_2 4 rfl rfl)
abbrev cX4_allMiss : ByteArray := prog_19_method_28_code
def yX4_allMiss : MethodName := ⟨RX4, "allMiss", "()J"⟩
def dkwX4_allMiss_2 : List UInt8 := [9, 97, 64, 132, 3, 1, 167, 255, 208, 31, 173]
abbrev dktX4_allMiss_2 : List UInt8 := dkwX4_allMiss_2 ++ []
def dkwX4_allMiss_1 : List UInt8 := [160, 0, 24, 42, 29, 182, 0, 90, 133, 42, 29, 182, 0, 112, 105, 42, 29, 182, 0, 112, 105, 167, 0, 4]
abbrev dktX4_allMiss_1 : List UInt8 := dkwX4_allMiss_1 ++ dktX4_allMiss_2
def dkwX4_allMiss_0 : List UInt8 := [9, 64, 3, 62, 29, 42, 180, 0, 9, 5, 46, 162, 0, 44, 31, 42, 29, 8, 182, 0, 65, 4]
abbrev dktX4_allMiss_0 : List UInt8 := dkwX4_allMiss_0 ++ dktX4_allMiss_1
theorem dksX4_allMiss_0 : cX4_allMiss.data.toList.drop 0 = dktX4_allMiss_0 := by decide +kernel
theorem dksX4_allMiss_1 : cX4_allMiss.data.toList.drop 22 = dktX4_allMiss_1 := dk_seg dksX4_allMiss_0 22 rfl rfl
theorem dksX4_allMiss_2 : cX4_allMiss.data.toList.drop 46 = dktX4_allMiss_2 := dk_seg dksX4_allMiss_1 24 rfl rfl
theorem dX4_allMiss_0 : decode cX4_allMiss 0 = .ok (.lconst 0, 1) := dk_9 (dk_at dksX4_allMiss_0 0 rfl rfl)
theorem dX4_allMiss_1 : decode cX4_allMiss 1 = .ok (.lstore_n 1, 1) := dk_64 (dk_at dksX4_allMiss_0 1 rfl rfl)
theorem dX4_allMiss_2 : decode cX4_allMiss 2 = .ok (.iconst 0, 1) := dk_3 (dk_at dksX4_allMiss_0 2 rfl rfl)
theorem dX4_allMiss_3 : decode cX4_allMiss 3 = .ok (.istore_n 3, 1) := dk_62 (dk_at dksX4_allMiss_0 3 rfl rfl)
theorem dX4_allMiss_4 : decode cX4_allMiss 4 = .ok (.iload_n 3, 1) := dk_29 (dk_at dksX4_allMiss_0 4 rfl rfl)
theorem dX4_allMiss_5 : decode cX4_allMiss 5 = .ok (.aload_n 0, 1) := dk_42 (dk_at dksX4_allMiss_0 5 rfl rfl)
theorem dX4_allMiss_6 : decode cX4_allMiss 6 = .ok (.getfield 9, 3) := dk_180 0 9 (dk_at dksX4_allMiss_0 6 rfl rfl)
theorem dX4_allMiss_9 : decode cX4_allMiss 9 = .ok (.iconst 2, 1) := dk_5 (dk_at dksX4_allMiss_0 9 rfl rfl)
theorem dX4_allMiss_10 : decode cX4_allMiss 10 = .ok (.iaload, 1) := dk_46 (dk_at dksX4_allMiss_0 10 rfl rfl)
theorem dX4_allMiss_11 : decode cX4_allMiss 11 = .ok (.if_icmp .ge 44, 3) := dk_162 0 44 (dk_at dksX4_allMiss_0 11 rfl rfl)
theorem dX4_allMiss_14 : decode cX4_allMiss 14 = .ok (.lload_n 1, 1) := dk_31 (dk_at dksX4_allMiss_0 14 rfl rfl)
theorem dX4_allMiss_15 : decode cX4_allMiss 15 = .ok (.aload_n 0, 1) := dk_42 (dk_at dksX4_allMiss_0 15 rfl rfl)
theorem dX4_allMiss_16 : decode cX4_allMiss 16 = .ok (.iload_n 3, 1) := dk_29 (dk_at dksX4_allMiss_0 16 rfl rfl)
theorem dX4_allMiss_17 : decode cX4_allMiss 17 = .ok (.iconst 5, 1) := dk_8 (dk_at dksX4_allMiss_0 17 rfl rfl)
theorem dX4_allMiss_18 : decode cX4_allMiss 18 = .ok (.invokevirtual 65, 3) := dk_182 0 65 (dk_at dksX4_allMiss_0 18 rfl rfl)
theorem dX4_allMiss_21 : decode cX4_allMiss 21 = .ok (.iconst 1, 1) := dk_4 (dk_at dksX4_allMiss_0 21 rfl rfl)
theorem dX4_allMiss_22 : decode cX4_allMiss 22 = .ok (.if_icmp .ne 24, 3) := dk_160 0 24 (dk_at dksX4_allMiss_1 0 rfl rfl)
theorem dX4_allMiss_25 : decode cX4_allMiss 25 = .ok (.aload_n 0, 1) := dk_42 (dk_at dksX4_allMiss_1 3 rfl rfl)
theorem dX4_allMiss_26 : decode cX4_allMiss 26 = .ok (.iload_n 3, 1) := dk_29 (dk_at dksX4_allMiss_1 4 rfl rfl)
theorem dX4_allMiss_27 : decode cX4_allMiss 27 = .ok (.invokevirtual 90, 3) := dk_182 0 90 (dk_at dksX4_allMiss_1 5 rfl rfl)
theorem dX4_allMiss_30 : decode cX4_allMiss 30 = .ok (.i2l, 1) := dk_133 (dk_at dksX4_allMiss_1 8 rfl rfl)
theorem dX4_allMiss_31 : decode cX4_allMiss 31 = .ok (.aload_n 0, 1) := dk_42 (dk_at dksX4_allMiss_1 9 rfl rfl)
theorem dX4_allMiss_32 : decode cX4_allMiss 32 = .ok (.iload_n 3, 1) := dk_29 (dk_at dksX4_allMiss_1 10 rfl rfl)
theorem dX4_allMiss_33 : decode cX4_allMiss 33 = .ok (.invokevirtual 112, 3) := dk_182 0 112 (dk_at dksX4_allMiss_1 11 rfl rfl)
theorem dX4_allMiss_36 : decode cX4_allMiss 36 = .ok (.lmul, 1) := dk_105 (dk_at dksX4_allMiss_1 14 rfl rfl)
theorem dX4_allMiss_37 : decode cX4_allMiss 37 = .ok (.aload_n 0, 1) := dk_42 (dk_at dksX4_allMiss_1 15 rfl rfl)
theorem dX4_allMiss_38 : decode cX4_allMiss 38 = .ok (.iload_n 3, 1) := dk_29 (dk_at dksX4_allMiss_1 16 rfl rfl)
theorem dX4_allMiss_39 : decode cX4_allMiss 39 = .ok (.invokevirtual 112, 3) := dk_182 0 112 (dk_at dksX4_allMiss_1 17 rfl rfl)
theorem dX4_allMiss_42 : decode cX4_allMiss 42 = .ok (.lmul, 1) := dk_105 (dk_at dksX4_allMiss_1 20 rfl rfl)
theorem dX4_allMiss_43 : decode cX4_allMiss 43 = .ok (.goto 4, 3) := dk_167 0 4 (dk_at dksX4_allMiss_1 21 rfl rfl)
theorem dX4_allMiss_46 : decode cX4_allMiss 46 = .ok (.lconst 0, 1) := dk_9 (dk_at dksX4_allMiss_2 0 rfl rfl)
theorem dX4_allMiss_47 : decode cX4_allMiss 47 = .ok (.ladd, 1) := dk_97 (dk_at dksX4_allMiss_2 1 rfl rfl)
theorem dX4_allMiss_48 : decode cX4_allMiss 48 = .ok (.lstore_n 1, 1) := dk_64 (dk_at dksX4_allMiss_2 2 rfl rfl)
theorem dX4_allMiss_49 : decode cX4_allMiss 49 = .ok (.iinc 3 1, 3) := dk_132 3 1 (dk_at dksX4_allMiss_2 3 rfl rfl)
theorem dX4_allMiss_52 : decode cX4_allMiss 52 = .ok (.goto (-48), 3) := dk_167 255 208 (dk_at dksX4_allMiss_2 6 rfl rfl)
theorem dX4_allMiss_55 : decode cX4_allMiss 55 = .ok (.lload_n 1, 1) := dk_31 (dk_at dksX4_allMiss_2 9 rfl rfl)
theorem dX4_allMiss_56 : decode cX4_allMiss 56 = .ok (.lreturn, 1) := dk_173 (dk_at dksX4_allMiss_2 10 rfl rfl)
abbrev cX4_doubted : ByteArray := prog_19_method_69_code
def yX4_doubted : MethodName := ⟨RX4, "doubted", "()I"⟩
def dkwX4_doubted_0 : List UInt8 := [42, 182, 0, 205, 153, 0, 10, 42, 182, 0, 209, 167, 0, 9, 42, 18, 141, 182, 0, 126, 172]
abbrev dktX4_doubted_0 : List UInt8 := dkwX4_doubted_0 ++ []
theorem dksX4_doubted_0 : cX4_doubted.data.toList.drop 0 = dktX4_doubted_0 := by decide +kernel
theorem dX4_doubted_0 : decode cX4_doubted 0 = .ok (.aload_n 0, 1) := dk_42 (dk_at dksX4_doubted_0 0 rfl rfl)
theorem dX4_doubted_1 : decode cX4_doubted 1 = .ok (.invokevirtual 205, 3) := dk_182 0 205 (dk_at dksX4_doubted_0 1 rfl rfl)
theorem dX4_doubted_4 : decode cX4_doubted 4 = .ok (.ifCond .eq 10, 3) := dk_153 0 10 (dk_at dksX4_doubted_0 4 rfl rfl)
theorem dX4_doubted_7 : decode cX4_doubted 7 = .ok (.aload_n 0, 1) := dk_42 (dk_at dksX4_doubted_0 7 rfl rfl)
theorem dX4_doubted_8 : decode cX4_doubted 8 = .ok (.invokevirtual 209, 3) := dk_182 0 209 (dk_at dksX4_doubted_0 8 rfl rfl)
theorem dX4_doubted_11 : decode cX4_doubted 11 = .ok (.goto 9, 3) := dk_167 0 9 (dk_at dksX4_doubted_0 11 rfl rfl)
theorem dX4_doubted_14 : decode cX4_doubted 14 = .ok (.aload_n 0, 1) := dk_42 (dk_at dksX4_doubted_0 14 rfl rfl)
theorem dX4_doubted_15 : decode cX4_doubted 15 = .ok (.ldc 141, 2) := dk_18 141 (dk_at dksX4_doubted_0 15 rfl rfl)
theorem dX4_doubted_17 : decode cX4_doubted 17 = .ok (.invokevirtual 126, 3) := dk_182 0 126 (dk_at dksX4_doubted_0 17 rfl rfl)
theorem dX4_doubted_20 : decode cX4_doubted 20 = .ok (.ireturn, 1) := dk_172 (dk_at dksX4_doubted_0 20 rfl rfl)
abbrev cX4_needed : ByteArray := prog_19_method_70_code
def yX4_needed : MethodName := ⟨RX4, "needed", "()I"⟩
def dkwX4_needed_3 : List UInt8 := [167, 255, 210, 28, 172]
abbrev dktX4_needed_3 : List UInt8 := dkwX4_needed_3 ++ []
def dkwX4_needed_2 : List UInt8 := [120, 2, 130, 126, 182, 0, 100, 154, 0, 9, 4, 29, 120, 167, 0, 4, 3, 128, 61, 132, 3, 1]
abbrev dktX4_needed_2 : List UInt8 := dkwX4_needed_2 ++ dktX4_needed_3
def dkwX4_needed_1 : List UInt8 := [29, 42, 180, 0, 9, 5, 46, 162, 0, 42, 28, 27, 29, 122, 4, 126, 4, 160, 0, 23, 42, 27, 4, 29]
abbrev dktX4_needed_1 : List UInt8 := dkwX4_needed_1 ++ dktX4_needed_2
def dkwX4_needed_0 : List UInt8 := [42, 182, 0, 96, 60, 42, 27, 182, 0, 100, 154, 0, 10, 42, 18, 141, 182, 0, 126, 172, 3, 61, 3, 62]
abbrev dktX4_needed_0 : List UInt8 := dkwX4_needed_0 ++ dktX4_needed_1
theorem dksX4_needed_0 : cX4_needed.data.toList.drop 0 = dktX4_needed_0 := by decide +kernel
theorem dksX4_needed_1 : cX4_needed.data.toList.drop 24 = dktX4_needed_1 := dk_seg dksX4_needed_0 24 rfl rfl
theorem dksX4_needed_2 : cX4_needed.data.toList.drop 48 = dktX4_needed_2 := dk_seg dksX4_needed_1 24 rfl rfl
theorem dksX4_needed_3 : cX4_needed.data.toList.drop 70 = dktX4_needed_3 := dk_seg dksX4_needed_2 22 rfl rfl
theorem dX4_needed_0 : decode cX4_needed 0 = .ok (.aload_n 0, 1) := dk_42 (dk_at dksX4_needed_0 0 rfl rfl)
theorem dX4_needed_1 : decode cX4_needed 1 = .ok (.invokevirtual 96, 3) := dk_182 0 96 (dk_at dksX4_needed_0 1 rfl rfl)
theorem dX4_needed_4 : decode cX4_needed 4 = .ok (.istore_n 1, 1) := dk_60 (dk_at dksX4_needed_0 4 rfl rfl)
theorem dX4_needed_5 : decode cX4_needed 5 = .ok (.aload_n 0, 1) := dk_42 (dk_at dksX4_needed_0 5 rfl rfl)
theorem dX4_needed_6 : decode cX4_needed 6 = .ok (.iload_n 1, 1) := dk_27 (dk_at dksX4_needed_0 6 rfl rfl)
theorem dX4_needed_7 : decode cX4_needed 7 = .ok (.invokevirtual 100, 3) := dk_182 0 100 (dk_at dksX4_needed_0 7 rfl rfl)
theorem dX4_needed_10 : decode cX4_needed 10 = .ok (.ifCond .ne 10, 3) := dk_154 0 10 (dk_at dksX4_needed_0 10 rfl rfl)
theorem dX4_needed_13 : decode cX4_needed 13 = .ok (.aload_n 0, 1) := dk_42 (dk_at dksX4_needed_0 13 rfl rfl)
theorem dX4_needed_14 : decode cX4_needed 14 = .ok (.ldc 141, 2) := dk_18 141 (dk_at dksX4_needed_0 14 rfl rfl)
theorem dX4_needed_16 : decode cX4_needed 16 = .ok (.invokevirtual 126, 3) := dk_182 0 126 (dk_at dksX4_needed_0 16 rfl rfl)
theorem dX4_needed_19 : decode cX4_needed 19 = .ok (.ireturn, 1) := dk_172 (dk_at dksX4_needed_0 19 rfl rfl)
theorem dX4_needed_20 : decode cX4_needed 20 = .ok (.iconst 0, 1) := dk_3 (dk_at dksX4_needed_0 20 rfl rfl)
theorem dX4_needed_21 : decode cX4_needed 21 = .ok (.istore_n 2, 1) := dk_61 (dk_at dksX4_needed_0 21 rfl rfl)
theorem dX4_needed_22 : decode cX4_needed 22 = .ok (.iconst 0, 1) := dk_3 (dk_at dksX4_needed_0 22 rfl rfl)
theorem dX4_needed_23 : decode cX4_needed 23 = .ok (.istore_n 3, 1) := dk_62 (dk_at dksX4_needed_0 23 rfl rfl)
theorem dX4_needed_24 : decode cX4_needed 24 = .ok (.iload_n 3, 1) := dk_29 (dk_at dksX4_needed_1 0 rfl rfl)
theorem dX4_needed_25 : decode cX4_needed 25 = .ok (.aload_n 0, 1) := dk_42 (dk_at dksX4_needed_1 1 rfl rfl)
theorem dX4_needed_26 : decode cX4_needed 26 = .ok (.getfield 9, 3) := dk_180 0 9 (dk_at dksX4_needed_1 2 rfl rfl)
theorem dX4_needed_29 : decode cX4_needed 29 = .ok (.iconst 2, 1) := dk_5 (dk_at dksX4_needed_1 5 rfl rfl)
theorem dX4_needed_30 : decode cX4_needed 30 = .ok (.iaload, 1) := dk_46 (dk_at dksX4_needed_1 6 rfl rfl)
theorem dX4_needed_31 : decode cX4_needed 31 = .ok (.if_icmp .ge 42, 3) := dk_162 0 42 (dk_at dksX4_needed_1 7 rfl rfl)
theorem dX4_needed_34 : decode cX4_needed 34 = .ok (.iload_n 2, 1) := dk_28 (dk_at dksX4_needed_1 10 rfl rfl)
theorem dX4_needed_35 : decode cX4_needed 35 = .ok (.iload_n 1, 1) := dk_27 (dk_at dksX4_needed_1 11 rfl rfl)
theorem dX4_needed_36 : decode cX4_needed 36 = .ok (.iload_n 3, 1) := dk_29 (dk_at dksX4_needed_1 12 rfl rfl)
theorem dX4_needed_37 : decode cX4_needed 37 = .ok (.ishr, 1) := dk_122 (dk_at dksX4_needed_1 13 rfl rfl)
theorem dX4_needed_38 : decode cX4_needed 38 = .ok (.iconst 1, 1) := dk_4 (dk_at dksX4_needed_1 14 rfl rfl)
theorem dX4_needed_39 : decode cX4_needed 39 = .ok (.iand, 1) := dk_126 (dk_at dksX4_needed_1 15 rfl rfl)
theorem dX4_needed_40 : decode cX4_needed 40 = .ok (.iconst 1, 1) := dk_4 (dk_at dksX4_needed_1 16 rfl rfl)
theorem dX4_needed_41 : decode cX4_needed 41 = .ok (.if_icmp .ne 23, 3) := dk_160 0 23 (dk_at dksX4_needed_1 17 rfl rfl)
theorem dX4_needed_44 : decode cX4_needed 44 = .ok (.aload_n 0, 1) := dk_42 (dk_at dksX4_needed_1 20 rfl rfl)
theorem dX4_needed_45 : decode cX4_needed 45 = .ok (.iload_n 1, 1) := dk_27 (dk_at dksX4_needed_1 21 rfl rfl)
theorem dX4_needed_46 : decode cX4_needed 46 = .ok (.iconst 1, 1) := dk_4 (dk_at dksX4_needed_1 22 rfl rfl)
theorem dX4_needed_47 : decode cX4_needed 47 = .ok (.iload_n 3, 1) := dk_29 (dk_at dksX4_needed_1 23 rfl rfl)
theorem dX4_needed_48 : decode cX4_needed 48 = .ok (.ishl, 1) := dk_120 (dk_at dksX4_needed_2 0 rfl rfl)
theorem dX4_needed_49 : decode cX4_needed 49 = .ok (.iconst (-1), 1) := dk_2 (dk_at dksX4_needed_2 1 rfl rfl)
theorem dX4_needed_50 : decode cX4_needed 50 = .ok (.ixor, 1) := dk_130 (dk_at dksX4_needed_2 2 rfl rfl)
theorem dX4_needed_51 : decode cX4_needed 51 = .ok (.iand, 1) := dk_126 (dk_at dksX4_needed_2 3 rfl rfl)
theorem dX4_needed_52 : decode cX4_needed 52 = .ok (.invokevirtual 100, 3) := dk_182 0 100 (dk_at dksX4_needed_2 4 rfl rfl)
theorem dX4_needed_55 : decode cX4_needed 55 = .ok (.ifCond .ne 9, 3) := dk_154 0 9 (dk_at dksX4_needed_2 7 rfl rfl)
theorem dX4_needed_58 : decode cX4_needed 58 = .ok (.iconst 1, 1) := dk_4 (dk_at dksX4_needed_2 10 rfl rfl)
theorem dX4_needed_59 : decode cX4_needed 59 = .ok (.iload_n 3, 1) := dk_29 (dk_at dksX4_needed_2 11 rfl rfl)
theorem dX4_needed_60 : decode cX4_needed 60 = .ok (.ishl, 1) := dk_120 (dk_at dksX4_needed_2 12 rfl rfl)
theorem dX4_needed_61 : decode cX4_needed 61 = .ok (.goto 4, 3) := dk_167 0 4 (dk_at dksX4_needed_2 13 rfl rfl)
theorem dX4_needed_64 : decode cX4_needed 64 = .ok (.iconst 0, 1) := dk_3 (dk_at dksX4_needed_2 16 rfl rfl)
theorem dX4_needed_65 : decode cX4_needed 65 = .ok (.ior, 1) := dk_128 (dk_at dksX4_needed_2 17 rfl rfl)
theorem dX4_needed_66 : decode cX4_needed 66 = .ok (.istore_n 2, 1) := dk_61 (dk_at dksX4_needed_2 18 rfl rfl)
theorem dX4_needed_67 : decode cX4_needed 67 = .ok (.iinc 3 1, 3) := dk_132 3 1 (dk_at dksX4_needed_2 19 rfl rfl)
theorem dX4_needed_70 : decode cX4_needed 70 = .ok (.goto (-46), 3) := dk_167 255 210 (dk_at dksX4_needed_3 0 rfl rfl)
theorem dX4_needed_73 : decode cX4_needed 73 = .ok (.iload_n 2, 1) := dk_28 (dk_at dksX4_needed_3 3 rfl rfl)
theorem dX4_needed_74 : decode cX4_needed 74 = .ok (.ireturn, 1) := dk_172 (dk_at dksX4_needed_3 4 rfl rfl)
abbrev cX4_spine : ByteArray := prog_19_method_72_code
def yX4_spine : MethodName := ⟨RX4, "spine", "()I"⟩
def dkwX4_spine_4 : List UInt8 := [61, 132, 3, 255, 167, 255, 180, 28, 172]
abbrev dktX4_spine_4 : List UInt8 := dkwX4_spine_4 ++ []
def dkwX4_spine_3 : List UInt8 := [184, 0, 218, 161, 0, 16, 42, 29, 182, 0, 239, 42, 28, 182, 0, 239, 161, 0, 7, 29, 167, 0, 4, 28]
abbrev dktX4_spine_3 : List UInt8 := dkwX4_spine_3 ++ dktX4_spine_4
def dkwX4_spine_2 : List UInt8 := [29, 182, 0, 100, 153, 0, 7, 4, 167, 0, 4, 3, 54, 4, 21, 4, 153, 0, 31, 29, 184, 0, 218, 28]
abbrev dktX4_spine_2 : List UInt8 := dkwX4_spine_2 ++ dktX4_spine_3
def dkwX4_spine_1 : List UInt8 := [29, 155, 0, 78, 29, 27, 2, 130, 126, 154, 0, 26, 29, 184, 0, 218, 28, 184, 0, 218, 163, 0, 15, 42]
abbrev dktX4_spine_1 : List UInt8 := dkwX4_spine_1 ++ dktX4_spine_2
def dkwX4_spine_0 : List UInt8 := [42, 182, 0, 96, 60, 42, 27, 182, 0, 100, 154, 0, 10, 42, 18, 141, 182, 0, 126, 172, 27, 61, 27, 62]
abbrev dktX4_spine_0 : List UInt8 := dkwX4_spine_0 ++ dktX4_spine_1
theorem dksX4_spine_0 : cX4_spine.data.toList.drop 0 = dktX4_spine_0 := by decide +kernel
theorem dksX4_spine_1 : cX4_spine.data.toList.drop 24 = dktX4_spine_1 := dk_seg dksX4_spine_0 24 rfl rfl
theorem dksX4_spine_2 : cX4_spine.data.toList.drop 48 = dktX4_spine_2 := dk_seg dksX4_spine_1 24 rfl rfl
theorem dksX4_spine_3 : cX4_spine.data.toList.drop 72 = dktX4_spine_3 := dk_seg dksX4_spine_2 24 rfl rfl
theorem dksX4_spine_4 : cX4_spine.data.toList.drop 96 = dktX4_spine_4 := dk_seg dksX4_spine_3 24 rfl rfl
theorem dX4_spine_0 : decode cX4_spine 0 = .ok (.aload_n 0, 1) := dk_42 (dk_at dksX4_spine_0 0 rfl rfl)
theorem dX4_spine_1 : decode cX4_spine 1 = .ok (.invokevirtual 96, 3) := dk_182 0 96 (dk_at dksX4_spine_0 1 rfl rfl)
theorem dX4_spine_4 : decode cX4_spine 4 = .ok (.istore_n 1, 1) := dk_60 (dk_at dksX4_spine_0 4 rfl rfl)
theorem dX4_spine_5 : decode cX4_spine 5 = .ok (.aload_n 0, 1) := dk_42 (dk_at dksX4_spine_0 5 rfl rfl)
theorem dX4_spine_6 : decode cX4_spine 6 = .ok (.iload_n 1, 1) := dk_27 (dk_at dksX4_spine_0 6 rfl rfl)
theorem dX4_spine_7 : decode cX4_spine 7 = .ok (.invokevirtual 100, 3) := dk_182 0 100 (dk_at dksX4_spine_0 7 rfl rfl)
theorem dX4_spine_10 : decode cX4_spine 10 = .ok (.ifCond .ne 10, 3) := dk_154 0 10 (dk_at dksX4_spine_0 10 rfl rfl)
theorem dX4_spine_13 : decode cX4_spine 13 = .ok (.aload_n 0, 1) := dk_42 (dk_at dksX4_spine_0 13 rfl rfl)
theorem dX4_spine_14 : decode cX4_spine 14 = .ok (.ldc 141, 2) := dk_18 141 (dk_at dksX4_spine_0 14 rfl rfl)
theorem dX4_spine_16 : decode cX4_spine 16 = .ok (.invokevirtual 126, 3) := dk_182 0 126 (dk_at dksX4_spine_0 16 rfl rfl)
theorem dX4_spine_19 : decode cX4_spine 19 = .ok (.ireturn, 1) := dk_172 (dk_at dksX4_spine_0 19 rfl rfl)
theorem dX4_spine_20 : decode cX4_spine 20 = .ok (.iload_n 1, 1) := dk_27 (dk_at dksX4_spine_0 20 rfl rfl)
theorem dX4_spine_21 : decode cX4_spine 21 = .ok (.istore_n 2, 1) := dk_61 (dk_at dksX4_spine_0 21 rfl rfl)
theorem dX4_spine_22 : decode cX4_spine 22 = .ok (.iload_n 1, 1) := dk_27 (dk_at dksX4_spine_0 22 rfl rfl)
theorem dX4_spine_23 : decode cX4_spine 23 = .ok (.istore_n 3, 1) := dk_62 (dk_at dksX4_spine_0 23 rfl rfl)
theorem dX4_spine_24 : decode cX4_spine 24 = .ok (.iload_n 3, 1) := dk_29 (dk_at dksX4_spine_1 0 rfl rfl)
theorem dX4_spine_25 : decode cX4_spine 25 = .ok (.ifCond .lt 78, 3) := dk_155 0 78 (dk_at dksX4_spine_1 1 rfl rfl)
theorem dX4_spine_28 : decode cX4_spine 28 = .ok (.iload_n 3, 1) := dk_29 (dk_at dksX4_spine_1 4 rfl rfl)
theorem dX4_spine_29 : decode cX4_spine 29 = .ok (.iload_n 1, 1) := dk_27 (dk_at dksX4_spine_1 5 rfl rfl)
theorem dX4_spine_30 : decode cX4_spine 30 = .ok (.iconst (-1), 1) := dk_2 (dk_at dksX4_spine_1 6 rfl rfl)
theorem dX4_spine_31 : decode cX4_spine 31 = .ok (.ixor, 1) := dk_130 (dk_at dksX4_spine_1 7 rfl rfl)
theorem dX4_spine_32 : decode cX4_spine 32 = .ok (.iand, 1) := dk_126 (dk_at dksX4_spine_1 8 rfl rfl)
theorem dX4_spine_33 : decode cX4_spine 33 = .ok (.ifCond .ne 26, 3) := dk_154 0 26 (dk_at dksX4_spine_1 9 rfl rfl)
theorem dX4_spine_36 : decode cX4_spine 36 = .ok (.iload_n 3, 1) := dk_29 (dk_at dksX4_spine_1 12 rfl rfl)
theorem dX4_spine_37 : decode cX4_spine 37 = .ok (.invokestatic 218, 3) := dk_184 0 218 (dk_at dksX4_spine_1 13 rfl rfl)
theorem dX4_spine_40 : decode cX4_spine 40 = .ok (.iload_n 2, 1) := dk_28 (dk_at dksX4_spine_1 16 rfl rfl)
theorem dX4_spine_41 : decode cX4_spine 41 = .ok (.invokestatic 218, 3) := dk_184 0 218 (dk_at dksX4_spine_1 17 rfl rfl)
theorem dX4_spine_44 : decode cX4_spine 44 = .ok (.if_icmp .gt 15, 3) := dk_163 0 15 (dk_at dksX4_spine_1 20 rfl rfl)
theorem dX4_spine_47 : decode cX4_spine 47 = .ok (.aload_n 0, 1) := dk_42 (dk_at dksX4_spine_1 23 rfl rfl)
theorem dX4_spine_48 : decode cX4_spine 48 = .ok (.iload_n 3, 1) := dk_29 (dk_at dksX4_spine_2 0 rfl rfl)
theorem dX4_spine_49 : decode cX4_spine 49 = .ok (.invokevirtual 100, 3) := dk_182 0 100 (dk_at dksX4_spine_2 1 rfl rfl)
theorem dX4_spine_52 : decode cX4_spine 52 = .ok (.ifCond .eq 7, 3) := dk_153 0 7 (dk_at dksX4_spine_2 4 rfl rfl)
theorem dX4_spine_55 : decode cX4_spine 55 = .ok (.iconst 1, 1) := dk_4 (dk_at dksX4_spine_2 7 rfl rfl)
theorem dX4_spine_56 : decode cX4_spine 56 = .ok (.goto 4, 3) := dk_167 0 4 (dk_at dksX4_spine_2 8 rfl rfl)
theorem dX4_spine_59 : decode cX4_spine 59 = .ok (.iconst 0, 1) := dk_3 (dk_at dksX4_spine_2 11 rfl rfl)
theorem dX4_spine_60 : decode cX4_spine 60 = .ok (.istore 4, 2) := dk_54 4 (dk_at dksX4_spine_2 12 rfl rfl)
theorem dX4_spine_62 : decode cX4_spine 62 = .ok (.iload 4, 2) := dk_21 4 (dk_at dksX4_spine_2 14 rfl rfl)
theorem dX4_spine_64 : decode cX4_spine 64 = .ok (.ifCond .eq 31, 3) := dk_153 0 31 (dk_at dksX4_spine_2 16 rfl rfl)
theorem dX4_spine_67 : decode cX4_spine 67 = .ok (.iload_n 3, 1) := dk_29 (dk_at dksX4_spine_2 19 rfl rfl)
theorem dX4_spine_68 : decode cX4_spine 68 = .ok (.invokestatic 218, 3) := dk_184 0 218 (dk_at dksX4_spine_2 20 rfl rfl)
theorem dX4_spine_71 : decode cX4_spine 71 = .ok (.iload_n 2, 1) := dk_28 (dk_at dksX4_spine_2 23 rfl rfl)
theorem dX4_spine_72 : decode cX4_spine 72 = .ok (.invokestatic 218, 3) := dk_184 0 218 (dk_at dksX4_spine_3 0 rfl rfl)
theorem dX4_spine_75 : decode cX4_spine 75 = .ok (.if_icmp .lt 16, 3) := dk_161 0 16 (dk_at dksX4_spine_3 3 rfl rfl)
theorem dX4_spine_78 : decode cX4_spine 78 = .ok (.aload_n 0, 1) := dk_42 (dk_at dksX4_spine_3 6 rfl rfl)
theorem dX4_spine_79 : decode cX4_spine 79 = .ok (.iload_n 3, 1) := dk_29 (dk_at dksX4_spine_3 7 rfl rfl)
theorem dX4_spine_80 : decode cX4_spine 80 = .ok (.invokevirtual 239, 3) := dk_182 0 239 (dk_at dksX4_spine_3 8 rfl rfl)
theorem dX4_spine_83 : decode cX4_spine 83 = .ok (.aload_n 0, 1) := dk_42 (dk_at dksX4_spine_3 11 rfl rfl)
theorem dX4_spine_84 : decode cX4_spine 84 = .ok (.iload_n 2, 1) := dk_28 (dk_at dksX4_spine_3 12 rfl rfl)
theorem dX4_spine_85 : decode cX4_spine 85 = .ok (.invokevirtual 239, 3) := dk_182 0 239 (dk_at dksX4_spine_3 13 rfl rfl)
theorem dX4_spine_88 : decode cX4_spine 88 = .ok (.if_icmp .lt 7, 3) := dk_161 0 7 (dk_at dksX4_spine_3 16 rfl rfl)
theorem dX4_spine_91 : decode cX4_spine 91 = .ok (.iload_n 3, 1) := dk_29 (dk_at dksX4_spine_3 19 rfl rfl)
theorem dX4_spine_92 : decode cX4_spine 92 = .ok (.goto 4, 3) := dk_167 0 4 (dk_at dksX4_spine_3 20 rfl rfl)
theorem dX4_spine_95 : decode cX4_spine 95 = .ok (.iload_n 2, 1) := dk_28 (dk_at dksX4_spine_3 23 rfl rfl)
theorem dX4_spine_96 : decode cX4_spine 96 = .ok (.istore_n 2, 1) := dk_61 (dk_at dksX4_spine_4 0 rfl rfl)
theorem dX4_spine_97 : decode cX4_spine 97 = .ok (.iinc 3 (-1), 3) := dk_132 3 255 (dk_at dksX4_spine_4 1 rfl rfl)
theorem dX4_spine_100 : decode cX4_spine 100 = .ok (.goto (-76), 3) := dk_167 255 180 (dk_at dksX4_spine_4 4 rfl rfl)
theorem dX4_spine_103 : decode cX4_spine 103 = .ok (.iload_n 2, 1) := dk_28 (dk_at dksX4_spine_4 7 rfl rfl)
theorem dX4_spine_104 : decode cX4_spine 104 = .ok (.ireturn, 1) := dk_172 (dk_at dksX4_spine_4 8 rfl rfl)
abbrev cX4_weightOf : ByteArray := prog_19_method_71_code
def yX4_weightOf : MethodName := ⟨RX4, "weightOf", "(I)I"⟩
def dkwX4_weightOf_1 : List UInt8 := [42, 29, 182, 0, 90, 167, 0, 4, 3, 96, 61, 132, 3, 1, 167, 255, 222, 28, 172]
abbrev dktX4_weightOf_1 : List UInt8 := dkwX4_weightOf_1 ++ []
def dkwX4_weightOf_0 : List UInt8 := [3, 61, 3, 62, 29, 42, 180, 0, 9, 5, 46, 162, 0, 30, 28, 27, 29, 122, 4, 126, 4, 160, 0, 11]
abbrev dktX4_weightOf_0 : List UInt8 := dkwX4_weightOf_0 ++ dktX4_weightOf_1
theorem dksX4_weightOf_0 : cX4_weightOf.data.toList.drop 0 = dktX4_weightOf_0 := by decide +kernel
theorem dksX4_weightOf_1 : cX4_weightOf.data.toList.drop 24 = dktX4_weightOf_1 := dk_seg dksX4_weightOf_0 24 rfl rfl
theorem dX4_weightOf_0 : decode cX4_weightOf 0 = .ok (.iconst 0, 1) := dk_3 (dk_at dksX4_weightOf_0 0 rfl rfl)
theorem dX4_weightOf_1 : decode cX4_weightOf 1 = .ok (.istore_n 2, 1) := dk_61 (dk_at dksX4_weightOf_0 1 rfl rfl)
theorem dX4_weightOf_2 : decode cX4_weightOf 2 = .ok (.iconst 0, 1) := dk_3 (dk_at dksX4_weightOf_0 2 rfl rfl)
theorem dX4_weightOf_3 : decode cX4_weightOf 3 = .ok (.istore_n 3, 1) := dk_62 (dk_at dksX4_weightOf_0 3 rfl rfl)
theorem dX4_weightOf_4 : decode cX4_weightOf 4 = .ok (.iload_n 3, 1) := dk_29 (dk_at dksX4_weightOf_0 4 rfl rfl)
theorem dX4_weightOf_5 : decode cX4_weightOf 5 = .ok (.aload_n 0, 1) := dk_42 (dk_at dksX4_weightOf_0 5 rfl rfl)
theorem dX4_weightOf_6 : decode cX4_weightOf 6 = .ok (.getfield 9, 3) := dk_180 0 9 (dk_at dksX4_weightOf_0 6 rfl rfl)
theorem dX4_weightOf_9 : decode cX4_weightOf 9 = .ok (.iconst 2, 1) := dk_5 (dk_at dksX4_weightOf_0 9 rfl rfl)
theorem dX4_weightOf_10 : decode cX4_weightOf 10 = .ok (.iaload, 1) := dk_46 (dk_at dksX4_weightOf_0 10 rfl rfl)
theorem dX4_weightOf_11 : decode cX4_weightOf 11 = .ok (.if_icmp .ge 30, 3) := dk_162 0 30 (dk_at dksX4_weightOf_0 11 rfl rfl)
theorem dX4_weightOf_14 : decode cX4_weightOf 14 = .ok (.iload_n 2, 1) := dk_28 (dk_at dksX4_weightOf_0 14 rfl rfl)
theorem dX4_weightOf_15 : decode cX4_weightOf 15 = .ok (.iload_n 1, 1) := dk_27 (dk_at dksX4_weightOf_0 15 rfl rfl)
theorem dX4_weightOf_16 : decode cX4_weightOf 16 = .ok (.iload_n 3, 1) := dk_29 (dk_at dksX4_weightOf_0 16 rfl rfl)
theorem dX4_weightOf_17 : decode cX4_weightOf 17 = .ok (.ishr, 1) := dk_122 (dk_at dksX4_weightOf_0 17 rfl rfl)
theorem dX4_weightOf_18 : decode cX4_weightOf 18 = .ok (.iconst 1, 1) := dk_4 (dk_at dksX4_weightOf_0 18 rfl rfl)
theorem dX4_weightOf_19 : decode cX4_weightOf 19 = .ok (.iand, 1) := dk_126 (dk_at dksX4_weightOf_0 19 rfl rfl)
theorem dX4_weightOf_20 : decode cX4_weightOf 20 = .ok (.iconst 1, 1) := dk_4 (dk_at dksX4_weightOf_0 20 rfl rfl)
theorem dX4_weightOf_21 : decode cX4_weightOf 21 = .ok (.if_icmp .ne 11, 3) := dk_160 0 11 (dk_at dksX4_weightOf_0 21 rfl rfl)
theorem dX4_weightOf_24 : decode cX4_weightOf 24 = .ok (.aload_n 0, 1) := dk_42 (dk_at dksX4_weightOf_1 0 rfl rfl)
theorem dX4_weightOf_25 : decode cX4_weightOf 25 = .ok (.iload_n 3, 1) := dk_29 (dk_at dksX4_weightOf_1 1 rfl rfl)
theorem dX4_weightOf_26 : decode cX4_weightOf 26 = .ok (.invokevirtual 90, 3) := dk_182 0 90 (dk_at dksX4_weightOf_1 2 rfl rfl)
theorem dX4_weightOf_29 : decode cX4_weightOf 29 = .ok (.goto 4, 3) := dk_167 0 4 (dk_at dksX4_weightOf_1 5 rfl rfl)
theorem dX4_weightOf_32 : decode cX4_weightOf 32 = .ok (.iconst 0, 1) := dk_3 (dk_at dksX4_weightOf_1 8 rfl rfl)
theorem dX4_weightOf_33 : decode cX4_weightOf 33 = .ok (.iadd, 1) := dk_96 (dk_at dksX4_weightOf_1 9 rfl rfl)
theorem dX4_weightOf_34 : decode cX4_weightOf 34 = .ok (.istore_n 2, 1) := dk_61 (dk_at dksX4_weightOf_1 10 rfl rfl)
theorem dX4_weightOf_35 : decode cX4_weightOf 35 = .ok (.iinc 3 1, 3) := dk_132 3 1 (dk_at dksX4_weightOf_1 11 rfl rfl)
theorem dX4_weightOf_38 : decode cX4_weightOf 38 = .ok (.goto (-34), 3) := dk_167 255 222 (dk_at dksX4_weightOf_1 14 rfl rfl)
theorem dX4_weightOf_41 : decode cX4_weightOf 41 = .ok (.iload_n 2, 1) := dk_28 (dk_at dksX4_weightOf_1 17 rfl rfl)
theorem dX4_weightOf_42 : decode cX4_weightOf 42 = .ok (.ireturn, 1) := dk_172 (dk_at dksX4_weightOf_1 18 rfl rfl)
abbrev cX4_then : ByteArray := prog_19_method_73_code
def yX4_then : MethodName := ⟨RX4, "then", "(II)I"⟩
def dkwX4_then_3 : List UInt8 := [182, 0, 245, 29, 172]
abbrev dktX4_then_3 : List UInt8 := dkwX4_then_3 ++ []
def dkwX4_then_2 : List UInt8 := [167, 0, 22, 28, 4, 160, 0, 10, 42, 182, 0, 96, 167, 0, 10, 42, 182, 0, 96, 184, 0, 218, 62, 42]
abbrev dktX4_then_2 : List UInt8 := dkwX4_then_2 ++ dktX4_then_3
def dkwX4_then_1 : List UInt8 := [182, 0, 126, 172, 42, 182, 0, 242, 42, 27, 182, 0, 215, 28, 5, 160, 0, 12, 42, 180, 0, 9, 8, 46]
abbrev dktX4_then_1 : List UInt8 := dkwX4_then_1 ++ dktX4_then_2
def dkwX4_then_0 : List UInt8 := [27, 3, 16, 60, 184, 0, 61, 153, 0, 12, 28, 3, 5, 184, 0, 61, 154, 0, 10, 42, 18, 125]
abbrev dktX4_then_0 : List UInt8 := dkwX4_then_0 ++ dktX4_then_1
theorem dksX4_then_0 : cX4_then.data.toList.drop 0 = dktX4_then_0 := by decide +kernel
theorem dksX4_then_1 : cX4_then.data.toList.drop 22 = dktX4_then_1 := dk_seg dksX4_then_0 22 rfl rfl
theorem dksX4_then_2 : cX4_then.data.toList.drop 46 = dktX4_then_2 := dk_seg dksX4_then_1 24 rfl rfl
theorem dksX4_then_3 : cX4_then.data.toList.drop 70 = dktX4_then_3 := dk_seg dksX4_then_2 24 rfl rfl
theorem dX4_then_0 : decode cX4_then 0 = .ok (.iload_n 1, 1) := dk_27 (dk_at dksX4_then_0 0 rfl rfl)
theorem dX4_then_1 : decode cX4_then 1 = .ok (.iconst 0, 1) := dk_3 (dk_at dksX4_then_0 1 rfl rfl)
theorem dX4_then_2 : decode cX4_then 2 = .ok (.bipush 60, 2) := dk_16 60 (dk_at dksX4_then_0 2 rfl rfl)
theorem dX4_then_4 : decode cX4_then 4 = .ok (.invokestatic 61, 3) := dk_184 0 61 (dk_at dksX4_then_0 4 rfl rfl)
theorem dX4_then_7 : decode cX4_then 7 = .ok (.ifCond .eq 12, 3) := dk_153 0 12 (dk_at dksX4_then_0 7 rfl rfl)
theorem dX4_then_10 : decode cX4_then 10 = .ok (.iload_n 2, 1) := dk_28 (dk_at dksX4_then_0 10 rfl rfl)
theorem dX4_then_11 : decode cX4_then 11 = .ok (.iconst 0, 1) := dk_3 (dk_at dksX4_then_0 11 rfl rfl)
theorem dX4_then_12 : decode cX4_then 12 = .ok (.iconst 2, 1) := dk_5 (dk_at dksX4_then_0 12 rfl rfl)
theorem dX4_then_13 : decode cX4_then 13 = .ok (.invokestatic 61, 3) := dk_184 0 61 (dk_at dksX4_then_0 13 rfl rfl)
theorem dX4_then_16 : decode cX4_then 16 = .ok (.ifCond .ne 10, 3) := dk_154 0 10 (dk_at dksX4_then_0 16 rfl rfl)
theorem dX4_then_19 : decode cX4_then 19 = .ok (.aload_n 0, 1) := dk_42 (dk_at dksX4_then_0 19 rfl rfl)
theorem dX4_then_20 : decode cX4_then 20 = .ok (.ldc 125, 2) := dk_18 125 (dk_at dksX4_then_0 20 rfl rfl)
theorem dX4_then_22 : decode cX4_then 22 = .ok (.invokevirtual 126, 3) := dk_182 0 126 (dk_at dksX4_then_1 0 rfl rfl)
theorem dX4_then_25 : decode cX4_then 25 = .ok (.ireturn, 1) := dk_172 (dk_at dksX4_then_1 3 rfl rfl)
theorem dX4_then_26 : decode cX4_then 26 = .ok (.aload_n 0, 1) := dk_42 (dk_at dksX4_then_1 4 rfl rfl)
theorem dX4_then_27 : decode cX4_then 27 = .ok (.invokevirtual 242, 3) := dk_182 0 242 (dk_at dksX4_then_1 5 rfl rfl)
theorem dX4_then_30 : decode cX4_then 30 = .ok (.aload_n 0, 1) := dk_42 (dk_at dksX4_then_1 8 rfl rfl)
theorem dX4_then_31 : decode cX4_then 31 = .ok (.iload_n 1, 1) := dk_27 (dk_at dksX4_then_1 9 rfl rfl)
theorem dX4_then_32 : decode cX4_then 32 = .ok (.invokevirtual 215, 3) := dk_182 0 215 (dk_at dksX4_then_1 10 rfl rfl)
theorem dX4_then_35 : decode cX4_then 35 = .ok (.iload_n 2, 1) := dk_28 (dk_at dksX4_then_1 13 rfl rfl)
theorem dX4_then_36 : decode cX4_then 36 = .ok (.iconst 2, 1) := dk_5 (dk_at dksX4_then_1 14 rfl rfl)
theorem dX4_then_37 : decode cX4_then 37 = .ok (.if_icmp .ne 12, 3) := dk_160 0 12 (dk_at dksX4_then_1 15 rfl rfl)
theorem dX4_then_40 : decode cX4_then 40 = .ok (.aload_n 0, 1) := dk_42 (dk_at dksX4_then_1 18 rfl rfl)
theorem dX4_then_41 : decode cX4_then 41 = .ok (.getfield 9, 3) := dk_180 0 9 (dk_at dksX4_then_1 19 rfl rfl)
theorem dX4_then_44 : decode cX4_then 44 = .ok (.iconst 5, 1) := dk_8 (dk_at dksX4_then_1 22 rfl rfl)
theorem dX4_then_45 : decode cX4_then 45 = .ok (.iaload, 1) := dk_46 (dk_at dksX4_then_1 23 rfl rfl)
theorem dX4_then_46 : decode cX4_then 46 = .ok (.goto 22, 3) := dk_167 0 22 (dk_at dksX4_then_2 0 rfl rfl)
theorem dX4_then_49 : decode cX4_then 49 = .ok (.iload_n 2, 1) := dk_28 (dk_at dksX4_then_2 3 rfl rfl)
theorem dX4_then_50 : decode cX4_then 50 = .ok (.iconst 1, 1) := dk_4 (dk_at dksX4_then_2 4 rfl rfl)
theorem dX4_then_51 : decode cX4_then 51 = .ok (.if_icmp .ne 10, 3) := dk_160 0 10 (dk_at dksX4_then_2 5 rfl rfl)
theorem dX4_then_54 : decode cX4_then 54 = .ok (.aload_n 0, 1) := dk_42 (dk_at dksX4_then_2 8 rfl rfl)
theorem dX4_then_55 : decode cX4_then 55 = .ok (.invokevirtual 96, 3) := dk_182 0 96 (dk_at dksX4_then_2 9 rfl rfl)
theorem dX4_then_58 : decode cX4_then 58 = .ok (.goto 10, 3) := dk_167 0 10 (dk_at dksX4_then_2 12 rfl rfl)
theorem dX4_then_61 : decode cX4_then 61 = .ok (.aload_n 0, 1) := dk_42 (dk_at dksX4_then_2 15 rfl rfl)
theorem dX4_then_62 : decode cX4_then 62 = .ok (.invokevirtual 96, 3) := dk_182 0 96 (dk_at dksX4_then_2 16 rfl rfl)
theorem dX4_then_65 : decode cX4_then 65 = .ok (.invokestatic 218, 3) := dk_184 0 218 (dk_at dksX4_then_2 19 rfl rfl)
theorem dX4_then_68 : decode cX4_then 68 = .ok (.istore_n 3, 1) := dk_62 (dk_at dksX4_then_2 22 rfl rfl)
theorem dX4_then_69 : decode cX4_then 69 = .ok (.aload_n 0, 1) := dk_42 (dk_at dksX4_then_2 23 rfl rfl)
theorem dX4_then_70 : decode cX4_then 70 = .ok (.invokevirtual 245, 3) := dk_182 0 245 (dk_at dksX4_then_3 0 rfl rfl)
theorem dX4_then_73 : decode cX4_then 73 = .ok (.iload_n 3, 1) := dk_29 (dk_at dksX4_then_3 3 rfl rfl)
theorem dX4_then_74 : decode cX4_then 74 = .ok (.ireturn, 1) := dk_172 (dk_at dksX4_then_3 4 rfl rfl)
abbrev cX4_thinks : ByteArray := prog_19_method_6_code
def yX4_thinks : MethodName := ⟨RX4, "thinks", "()V"⟩
def dkwX4_thinks_0 : List UInt8 := [42, 180, 0, 9, 42, 180, 0, 16, 184, 0, 57, 177]
abbrev dktX4_thinks_0 : List UInt8 := dkwX4_thinks_0 ++ []
theorem dksX4_thinks_0 : cX4_thinks.data.toList.drop 0 = dktX4_thinks_0 := by decide +kernel
theorem dX4_thinks_0 : decode cX4_thinks 0 = .ok (.aload_n 0, 1) := dk_42 (dk_at dksX4_thinks_0 0 rfl rfl)
theorem dX4_thinks_1 : decode cX4_thinks 1 = .ok (.getfield 9, 3) := dk_180 0 9 (dk_at dksX4_thinks_0 1 rfl rfl)
theorem dX4_thinks_4 : decode cX4_thinks 4 = .ok (.aload_n 0, 1) := dk_42 (dk_at dksX4_thinks_0 4 rfl rfl)
theorem dX4_thinks_5 : decode cX4_thinks 5 = .ok (.getfield 16, 3) := dk_180 0 16 (dk_at dksX4_thinks_0 5 rfl rfl)
theorem dX4_thinks_8 : decode cX4_thinks 8 = .ok (.invokestatic 57, 3) := dk_184 0 57 (dk_at dksX4_thinks_0 8 rfl rfl)
theorem dX4_thinks_11 : decode cX4_thinks 11 = .ok (.return_, 1) := dk_177 (dk_at dksX4_thinks_0 11 rfl rfl)
abbrev cX4_copyAll : ByteArray := prog_19_method_5_code
def yX4_copyAll : MethodName := ⟨RX4, "copyAll", "([I[I)V"⟩
def dkwX4_copyAll_0 : List UInt8 := [3, 61, 28, 17, 1, 126, 162, 0, 15, 43, 28, 42, 28, 46, 79, 132, 2, 1, 167, 255, 240, 177]
abbrev dktX4_copyAll_0 : List UInt8 := dkwX4_copyAll_0 ++ []
theorem dksX4_copyAll_0 : cX4_copyAll.data.toList.drop 0 = dktX4_copyAll_0 := by decide +kernel
theorem dX4_copyAll_0 : decode cX4_copyAll 0 = .ok (.iconst 0, 1) := dk_3 (dk_at dksX4_copyAll_0 0 rfl rfl)
theorem dX4_copyAll_1 : decode cX4_copyAll 1 = .ok (.istore_n 2, 1) := dk_61 (dk_at dksX4_copyAll_0 1 rfl rfl)
theorem dX4_copyAll_2 : decode cX4_copyAll 2 = .ok (.iload_n 2, 1) := dk_28 (dk_at dksX4_copyAll_0 2 rfl rfl)
theorem dX4_copyAll_3 : decode cX4_copyAll 3 = .ok (.sipush 382, 3) := dk_17 1 126 (dk_at dksX4_copyAll_0 3 rfl rfl)
theorem dX4_copyAll_6 : decode cX4_copyAll 6 = .ok (.if_icmp .ge 15, 3) := dk_162 0 15 (dk_at dksX4_copyAll_0 6 rfl rfl)
theorem dX4_copyAll_9 : decode cX4_copyAll 9 = .ok (.aload_n 1, 1) := dk_43 (dk_at dksX4_copyAll_0 9 rfl rfl)
theorem dX4_copyAll_10 : decode cX4_copyAll 10 = .ok (.iload_n 2, 1) := dk_28 (dk_at dksX4_copyAll_0 10 rfl rfl)
theorem dX4_copyAll_11 : decode cX4_copyAll 11 = .ok (.aload_n 0, 1) := dk_42 (dk_at dksX4_copyAll_0 11 rfl rfl)
theorem dX4_copyAll_12 : decode cX4_copyAll 12 = .ok (.iload_n 2, 1) := dk_28 (dk_at dksX4_copyAll_0 12 rfl rfl)
theorem dX4_copyAll_13 : decode cX4_copyAll 13 = .ok (.iaload, 1) := dk_46 (dk_at dksX4_copyAll_0 13 rfl rfl)
theorem dX4_copyAll_14 : decode cX4_copyAll 14 = .ok (.iastore, 1) := dk_79 (dk_at dksX4_copyAll_0 14 rfl rfl)
theorem dX4_copyAll_15 : decode cX4_copyAll 15 = .ok (.iinc 2 1, 3) := dk_132 2 1 (dk_at dksX4_copyAll_0 15 rfl rfl)
theorem dX4_copyAll_18 : decode cX4_copyAll 18 = .ok (.goto (-16), 3) := dk_167 255 240 (dk_at dksX4_copyAll_0 18 rfl rfl)
theorem dX4_copyAll_21 : decode cX4_copyAll 21 = .ok (.return_, 1) := dk_177 (dk_at dksX4_copyAll_0 21 rfl rfl)
abbrev cX4_putsBack : ByteArray := prog_19_method_7_code
def yX4_putsBack : MethodName := ⟨RX4, "putsBack", "()V"⟩
def dkwX4_putsBack_0 : List UInt8 := [42, 180, 0, 16, 42, 180, 0, 9, 184, 0, 57, 177]
abbrev dktX4_putsBack_0 : List UInt8 := dkwX4_putsBack_0 ++ []
theorem dksX4_putsBack_0 : cX4_putsBack.data.toList.drop 0 = dktX4_putsBack_0 := by decide +kernel
theorem dX4_putsBack_0 : decode cX4_putsBack 0 = .ok (.aload_n 0, 1) := dk_42 (dk_at dksX4_putsBack_0 0 rfl rfl)
theorem dX4_putsBack_1 : decode cX4_putsBack 1 = .ok (.getfield 16, 3) := dk_180 0 16 (dk_at dksX4_putsBack_0 1 rfl rfl)
theorem dX4_putsBack_4 : decode cX4_putsBack 4 = .ok (.aload_n 0, 1) := dk_42 (dk_at dksX4_putsBack_0 4 rfl rfl)
theorem dX4_putsBack_5 : decode cX4_putsBack 5 = .ok (.getfield 9, 3) := dk_180 0 9 (dk_at dksX4_putsBack_0 5 rfl rfl)
theorem dX4_putsBack_8 : decode cX4_putsBack 8 = .ok (.invokestatic 57, 3) := dk_184 0 57 (dk_at dksX4_putsBack_0 8 rfl rfl)
theorem dX4_putsBack_11 : decode cX4_putsBack 11 = .ok (.return_, 1) := dk_177 (dk_at dksX4_putsBack_0 11 rfl rfl)
abbrev cX4_soonest : ByteArray := prog_19_method_74_code
def yX4_soonest : MethodName := ⟨RX4, "soonest", "(I)I"⟩
def dkwX4_soonest_2 : List UInt8 := [182, 0, 245, 28, 16, 60, 164, 0, 12, 42, 18, 248, 182, 0, 126, 167, 0, 4, 28, 172]
abbrev dktX4_soonest_2 : List UInt8 := dkwX4_soonest_2 ++ []
def dkwX4_soonest_1 : List UInt8 := [163, 0, 23, 42, 27, 8, 182, 0, 65, 4, 160, 0, 13, 42, 182, 0, 212, 132, 2, 1, 167, 255, 233, 42]
abbrev dktX4_soonest_1 : List UInt8 := dkwX4_soonest_1 ++ dktX4_soonest_2
def dkwX4_soonest_0 : List UInt8 := [42, 27, 182, 0, 134, 154, 0, 10, 42, 18, 125, 182, 0, 126, 172, 42, 182, 0, 242, 3, 61, 28, 16, 60]
abbrev dktX4_soonest_0 : List UInt8 := dkwX4_soonest_0 ++ dktX4_soonest_1
theorem dksX4_soonest_0 : cX4_soonest.data.toList.drop 0 = dktX4_soonest_0 := by decide +kernel
theorem dksX4_soonest_1 : cX4_soonest.data.toList.drop 24 = dktX4_soonest_1 := dk_seg dksX4_soonest_0 24 rfl rfl
theorem dksX4_soonest_2 : cX4_soonest.data.toList.drop 48 = dktX4_soonest_2 := dk_seg dksX4_soonest_1 24 rfl rfl
theorem dX4_soonest_0 : decode cX4_soonest 0 = .ok (.aload_n 0, 1) := dk_42 (dk_at dksX4_soonest_0 0 rfl rfl)
theorem dX4_soonest_1 : decode cX4_soonest 1 = .ok (.iload_n 1, 1) := dk_27 (dk_at dksX4_soonest_0 1 rfl rfl)
theorem dX4_soonest_2 : decode cX4_soonest 2 = .ok (.invokevirtual 134, 3) := dk_182 0 134 (dk_at dksX4_soonest_0 2 rfl rfl)
theorem dX4_soonest_5 : decode cX4_soonest 5 = .ok (.ifCond .ne 10, 3) := dk_154 0 10 (dk_at dksX4_soonest_0 5 rfl rfl)
theorem dX4_soonest_8 : decode cX4_soonest 8 = .ok (.aload_n 0, 1) := dk_42 (dk_at dksX4_soonest_0 8 rfl rfl)
theorem dX4_soonest_9 : decode cX4_soonest 9 = .ok (.ldc 125, 2) := dk_18 125 (dk_at dksX4_soonest_0 9 rfl rfl)
theorem dX4_soonest_11 : decode cX4_soonest 11 = .ok (.invokevirtual 126, 3) := dk_182 0 126 (dk_at dksX4_soonest_0 11 rfl rfl)
theorem dX4_soonest_14 : decode cX4_soonest 14 = .ok (.ireturn, 1) := dk_172 (dk_at dksX4_soonest_0 14 rfl rfl)
theorem dX4_soonest_15 : decode cX4_soonest 15 = .ok (.aload_n 0, 1) := dk_42 (dk_at dksX4_soonest_0 15 rfl rfl)
theorem dX4_soonest_16 : decode cX4_soonest 16 = .ok (.invokevirtual 242, 3) := dk_182 0 242 (dk_at dksX4_soonest_0 16 rfl rfl)
theorem dX4_soonest_19 : decode cX4_soonest 19 = .ok (.iconst 0, 1) := dk_3 (dk_at dksX4_soonest_0 19 rfl rfl)
theorem dX4_soonest_20 : decode cX4_soonest 20 = .ok (.istore_n 2, 1) := dk_61 (dk_at dksX4_soonest_0 20 rfl rfl)
theorem dX4_soonest_21 : decode cX4_soonest 21 = .ok (.iload_n 2, 1) := dk_28 (dk_at dksX4_soonest_0 21 rfl rfl)
theorem dX4_soonest_22 : decode cX4_soonest 22 = .ok (.bipush 60, 2) := dk_16 60 (dk_at dksX4_soonest_0 22 rfl rfl)
theorem dX4_soonest_24 : decode cX4_soonest 24 = .ok (.if_icmp .gt 23, 3) := dk_163 0 23 (dk_at dksX4_soonest_1 0 rfl rfl)
theorem dX4_soonest_27 : decode cX4_soonest 27 = .ok (.aload_n 0, 1) := dk_42 (dk_at dksX4_soonest_1 3 rfl rfl)
theorem dX4_soonest_28 : decode cX4_soonest 28 = .ok (.iload_n 1, 1) := dk_27 (dk_at dksX4_soonest_1 4 rfl rfl)
theorem dX4_soonest_29 : decode cX4_soonest 29 = .ok (.iconst 5, 1) := dk_8 (dk_at dksX4_soonest_1 5 rfl rfl)
theorem dX4_soonest_30 : decode cX4_soonest 30 = .ok (.invokevirtual 65, 3) := dk_182 0 65 (dk_at dksX4_soonest_1 6 rfl rfl)
theorem dX4_soonest_33 : decode cX4_soonest 33 = .ok (.iconst 1, 1) := dk_4 (dk_at dksX4_soonest_1 9 rfl rfl)
theorem dX4_soonest_34 : decode cX4_soonest 34 = .ok (.if_icmp .ne 13, 3) := dk_160 0 13 (dk_at dksX4_soonest_1 10 rfl rfl)
theorem dX4_soonest_37 : decode cX4_soonest 37 = .ok (.aload_n 0, 1) := dk_42 (dk_at dksX4_soonest_1 13 rfl rfl)
theorem dX4_soonest_38 : decode cX4_soonest 38 = .ok (.invokevirtual 212, 3) := dk_182 0 212 (dk_at dksX4_soonest_1 14 rfl rfl)
theorem dX4_soonest_41 : decode cX4_soonest 41 = .ok (.iinc 2 1, 3) := dk_132 2 1 (dk_at dksX4_soonest_1 17 rfl rfl)
theorem dX4_soonest_44 : decode cX4_soonest 44 = .ok (.goto (-23), 3) := dk_167 255 233 (dk_at dksX4_soonest_1 20 rfl rfl)
theorem dX4_soonest_47 : decode cX4_soonest 47 = .ok (.aload_n 0, 1) := dk_42 (dk_at dksX4_soonest_1 23 rfl rfl)
theorem dX4_soonest_48 : decode cX4_soonest 48 = .ok (.invokevirtual 245, 3) := dk_182 0 245 (dk_at dksX4_soonest_2 0 rfl rfl)
theorem dX4_soonest_51 : decode cX4_soonest 51 = .ok (.iload_n 2, 1) := dk_28 (dk_at dksX4_soonest_2 3 rfl rfl)
theorem dX4_soonest_52 : decode cX4_soonest 52 = .ok (.bipush 60, 2) := dk_16 60 (dk_at dksX4_soonest_2 4 rfl rfl)
theorem dX4_soonest_54 : decode cX4_soonest 54 = .ok (.if_icmp .le 12, 3) := dk_164 0 12 (dk_at dksX4_soonest_2 6 rfl rfl)
theorem dX4_soonest_57 : decode cX4_soonest 57 = .ok (.aload_n 0, 1) := dk_42 (dk_at dksX4_soonest_2 9 rfl rfl)
theorem dX4_soonest_58 : decode cX4_soonest 58 = .ok (.ldc 248, 2) := dk_18 248 (dk_at dksX4_soonest_2 10 rfl rfl)
theorem dX4_soonest_60 : decode cX4_soonest 60 = .ok (.invokevirtual 126, 3) := dk_182 0 126 (dk_at dksX4_soonest_2 12 rfl rfl)
theorem dX4_soonest_63 : decode cX4_soonest 63 = .ok (.goto 4, 3) := dk_167 0 4 (dk_at dksX4_soonest_2 15 rfl rfl)
theorem dX4_soonest_66 : decode cX4_soonest 66 = .ok (.iload_n 2, 1) := dk_28 (dk_at dksX4_soonest_2 18 rfl rfl)
theorem dX4_soonest_67 : decode cX4_soonest 67 = .ok (.ireturn, 1) := dk_172 (dk_at dksX4_soonest_2 19 rfl rfl)
abbrev cX4_limitFor : ByteArray := prog_19_method_76_code
def yX4_limitFor : MethodName := ⟨RX4, "limitFor", "(I)I"⟩
def dkwX4_limitFor_2 : List UInt8 := [132, 2, 1, 167, 255, 230, 42, 18, 248, 182, 0, 126, 172]
abbrev dktX4_limitFor_2 : List UInt8 := dkwX4_limitFor_2 ++ []
def dkwX4_limitFor_1 : List UInt8 := [16, 99, 163, 0, 26, 42, 180, 0, 9, 7, 28, 79, 42, 27, 182, 0, 249, 153, 0, 5, 28, 172]
abbrev dktX4_limitFor_1 : List UInt8 := dkwX4_limitFor_1 ++ dktX4_limitFor_2
def dkwX4_limitFor_0 : List UInt8 := [27, 3, 16, 40, 184, 0, 61, 154, 0, 10, 42, 18, 125, 182, 0, 126, 172, 42, 182, 0, 242, 3, 61, 28]
abbrev dktX4_limitFor_0 : List UInt8 := dkwX4_limitFor_0 ++ dktX4_limitFor_1
theorem dksX4_limitFor_0 : cX4_limitFor.data.toList.drop 0 = dktX4_limitFor_0 := by decide +kernel
theorem dksX4_limitFor_1 : cX4_limitFor.data.toList.drop 24 = dktX4_limitFor_1 := dk_seg dksX4_limitFor_0 24 rfl rfl
theorem dksX4_limitFor_2 : cX4_limitFor.data.toList.drop 46 = dktX4_limitFor_2 := dk_seg dksX4_limitFor_1 22 rfl rfl
theorem dX4_limitFor_0 : decode cX4_limitFor 0 = .ok (.iload_n 1, 1) := dk_27 (dk_at dksX4_limitFor_0 0 rfl rfl)
theorem dX4_limitFor_1 : decode cX4_limitFor 1 = .ok (.iconst 0, 1) := dk_3 (dk_at dksX4_limitFor_0 1 rfl rfl)
theorem dX4_limitFor_2 : decode cX4_limitFor 2 = .ok (.bipush 40, 2) := dk_16 40 (dk_at dksX4_limitFor_0 2 rfl rfl)
theorem dX4_limitFor_4 : decode cX4_limitFor 4 = .ok (.invokestatic 61, 3) := dk_184 0 61 (dk_at dksX4_limitFor_0 4 rfl rfl)
theorem dX4_limitFor_7 : decode cX4_limitFor 7 = .ok (.ifCond .ne 10, 3) := dk_154 0 10 (dk_at dksX4_limitFor_0 7 rfl rfl)
theorem dX4_limitFor_10 : decode cX4_limitFor 10 = .ok (.aload_n 0, 1) := dk_42 (dk_at dksX4_limitFor_0 10 rfl rfl)
theorem dX4_limitFor_11 : decode cX4_limitFor 11 = .ok (.ldc 125, 2) := dk_18 125 (dk_at dksX4_limitFor_0 11 rfl rfl)
theorem dX4_limitFor_13 : decode cX4_limitFor 13 = .ok (.invokevirtual 126, 3) := dk_182 0 126 (dk_at dksX4_limitFor_0 13 rfl rfl)
theorem dX4_limitFor_16 : decode cX4_limitFor 16 = .ok (.ireturn, 1) := dk_172 (dk_at dksX4_limitFor_0 16 rfl rfl)
theorem dX4_limitFor_17 : decode cX4_limitFor 17 = .ok (.aload_n 0, 1) := dk_42 (dk_at dksX4_limitFor_0 17 rfl rfl)
theorem dX4_limitFor_18 : decode cX4_limitFor 18 = .ok (.invokevirtual 242, 3) := dk_182 0 242 (dk_at dksX4_limitFor_0 18 rfl rfl)
theorem dX4_limitFor_21 : decode cX4_limitFor 21 = .ok (.iconst 0, 1) := dk_3 (dk_at dksX4_limitFor_0 21 rfl rfl)
theorem dX4_limitFor_22 : decode cX4_limitFor 22 = .ok (.istore_n 2, 1) := dk_61 (dk_at dksX4_limitFor_0 22 rfl rfl)
theorem dX4_limitFor_23 : decode cX4_limitFor 23 = .ok (.iload_n 2, 1) := dk_28 (dk_at dksX4_limitFor_0 23 rfl rfl)
theorem dX4_limitFor_24 : decode cX4_limitFor 24 = .ok (.bipush 99, 2) := dk_16 99 (dk_at dksX4_limitFor_1 0 rfl rfl)
theorem dX4_limitFor_26 : decode cX4_limitFor 26 = .ok (.if_icmp .gt 26, 3) := dk_163 0 26 (dk_at dksX4_limitFor_1 2 rfl rfl)
theorem dX4_limitFor_29 : decode cX4_limitFor 29 = .ok (.aload_n 0, 1) := dk_42 (dk_at dksX4_limitFor_1 5 rfl rfl)
theorem dX4_limitFor_30 : decode cX4_limitFor 30 = .ok (.getfield 9, 3) := dk_180 0 9 (dk_at dksX4_limitFor_1 6 rfl rfl)
theorem dX4_limitFor_33 : decode cX4_limitFor 33 = .ok (.iconst 4, 1) := dk_7 (dk_at dksX4_limitFor_1 9 rfl rfl)
theorem dX4_limitFor_34 : decode cX4_limitFor 34 = .ok (.iload_n 2, 1) := dk_28 (dk_at dksX4_limitFor_1 10 rfl rfl)
theorem dX4_limitFor_35 : decode cX4_limitFor 35 = .ok (.iastore, 1) := dk_79 (dk_at dksX4_limitFor_1 11 rfl rfl)
theorem dX4_limitFor_36 : decode cX4_limitFor 36 = .ok (.aload_n 0, 1) := dk_42 (dk_at dksX4_limitFor_1 12 rfl rfl)
theorem dX4_limitFor_37 : decode cX4_limitFor 37 = .ok (.iload_n 1, 1) := dk_27 (dk_at dksX4_limitFor_1 13 rfl rfl)
theorem dX4_limitFor_38 : decode cX4_limitFor 38 = .ok (.invokevirtual 249, 3) := dk_182 0 249 (dk_at dksX4_limitFor_1 14 rfl rfl)
theorem dX4_limitFor_41 : decode cX4_limitFor 41 = .ok (.ifCond .eq 5, 3) := dk_153 0 5 (dk_at dksX4_limitFor_1 17 rfl rfl)
theorem dX4_limitFor_44 : decode cX4_limitFor 44 = .ok (.iload_n 2, 1) := dk_28 (dk_at dksX4_limitFor_1 20 rfl rfl)
theorem dX4_limitFor_45 : decode cX4_limitFor 45 = .ok (.ireturn, 1) := dk_172 (dk_at dksX4_limitFor_1 21 rfl rfl)
theorem dX4_limitFor_46 : decode cX4_limitFor 46 = .ok (.iinc 2 1, 3) := dk_132 2 1 (dk_at dksX4_limitFor_2 0 rfl rfl)
theorem dX4_limitFor_49 : decode cX4_limitFor 49 = .ok (.goto (-26), 3) := dk_167 255 230 (dk_at dksX4_limitFor_2 3 rfl rfl)
theorem dX4_limitFor_52 : decode cX4_limitFor 52 = .ok (.aload_n 0, 1) := dk_42 (dk_at dksX4_limitFor_2 6 rfl rfl)
theorem dX4_limitFor_53 : decode cX4_limitFor 53 = .ok (.ldc 248, 2) := dk_18 248 (dk_at dksX4_limitFor_2 7 rfl rfl)
theorem dX4_limitFor_55 : decode cX4_limitFor 55 = .ok (.invokevirtual 126, 3) := dk_182 0 126 (dk_at dksX4_limitFor_2 9 rfl rfl)
theorem dX4_limitFor_58 : decode cX4_limitFor 58 = .ok (.ireturn, 1) := dk_172 (dk_at dksX4_limitFor_2 12 rfl rfl)
abbrev cX4_doStay : ByteArray := prog_19_method_75_code
def yX4_doStay : MethodName := ⟨RX4, "doStay", "(I)Z"⟩
def dkwX4_doStay_2 : List UInt8 := [182, 0, 245, 29, 172]
abbrev dktX4_doStay_2 : List UInt8 := dkwX4_doStay_2 ++ []
def dkwX4_doStay_1 : List UInt8 := [28, 42, 182, 0, 96, 2, 130, 126, 154, 0, 7, 4, 167, 0, 4, 3, 62, 132, 4, 1, 167, 255, 222, 42]
abbrev dktX4_doStay_1 : List UInt8 := dkwX4_doStay_1 ++ dktX4_doStay_2
def dkwX4_doStay_0 : List UInt8 := [42, 182, 0, 96, 61, 4, 62, 3, 54, 4, 21, 4, 27, 162, 0, 34, 29, 153, 0, 30, 42, 182, 0, 212]
abbrev dktX4_doStay_0 : List UInt8 := dkwX4_doStay_0 ++ dktX4_doStay_1
theorem dksX4_doStay_0 : cX4_doStay.data.toList.drop 0 = dktX4_doStay_0 := by decide +kernel
theorem dksX4_doStay_1 : cX4_doStay.data.toList.drop 24 = dktX4_doStay_1 := dk_seg dksX4_doStay_0 24 rfl rfl
theorem dksX4_doStay_2 : cX4_doStay.data.toList.drop 48 = dktX4_doStay_2 := dk_seg dksX4_doStay_1 24 rfl rfl
theorem dX4_doStay_0 : decode cX4_doStay 0 = .ok (.aload_n 0, 1) := dk_42 (dk_at dksX4_doStay_0 0 rfl rfl)
theorem dX4_doStay_1 : decode cX4_doStay 1 = .ok (.invokevirtual 96, 3) := dk_182 0 96 (dk_at dksX4_doStay_0 1 rfl rfl)
theorem dX4_doStay_4 : decode cX4_doStay 4 = .ok (.istore_n 2, 1) := dk_61 (dk_at dksX4_doStay_0 4 rfl rfl)
theorem dX4_doStay_5 : decode cX4_doStay 5 = .ok (.iconst 1, 1) := dk_4 (dk_at dksX4_doStay_0 5 rfl rfl)
theorem dX4_doStay_6 : decode cX4_doStay 6 = .ok (.istore_n 3, 1) := dk_62 (dk_at dksX4_doStay_0 6 rfl rfl)
theorem dX4_doStay_7 : decode cX4_doStay 7 = .ok (.iconst 0, 1) := dk_3 (dk_at dksX4_doStay_0 7 rfl rfl)
theorem dX4_doStay_8 : decode cX4_doStay 8 = .ok (.istore 4, 2) := dk_54 4 (dk_at dksX4_doStay_0 8 rfl rfl)
theorem dX4_doStay_10 : decode cX4_doStay 10 = .ok (.iload 4, 2) := dk_21 4 (dk_at dksX4_doStay_0 10 rfl rfl)
theorem dX4_doStay_12 : decode cX4_doStay 12 = .ok (.iload_n 1, 1) := dk_27 (dk_at dksX4_doStay_0 12 rfl rfl)
theorem dX4_doStay_13 : decode cX4_doStay 13 = .ok (.if_icmp .ge 34, 3) := dk_162 0 34 (dk_at dksX4_doStay_0 13 rfl rfl)
theorem dX4_doStay_16 : decode cX4_doStay 16 = .ok (.iload_n 3, 1) := dk_29 (dk_at dksX4_doStay_0 16 rfl rfl)
theorem dX4_doStay_17 : decode cX4_doStay 17 = .ok (.ifCond .eq 30, 3) := dk_153 0 30 (dk_at dksX4_doStay_0 17 rfl rfl)
theorem dX4_doStay_20 : decode cX4_doStay 20 = .ok (.aload_n 0, 1) := dk_42 (dk_at dksX4_doStay_0 20 rfl rfl)
theorem dX4_doStay_21 : decode cX4_doStay 21 = .ok (.invokevirtual 212, 3) := dk_182 0 212 (dk_at dksX4_doStay_0 21 rfl rfl)
theorem dX4_doStay_24 : decode cX4_doStay 24 = .ok (.iload_n 2, 1) := dk_28 (dk_at dksX4_doStay_1 0 rfl rfl)
theorem dX4_doStay_25 : decode cX4_doStay 25 = .ok (.aload_n 0, 1) := dk_42 (dk_at dksX4_doStay_1 1 rfl rfl)
theorem dX4_doStay_26 : decode cX4_doStay 26 = .ok (.invokevirtual 96, 3) := dk_182 0 96 (dk_at dksX4_doStay_1 2 rfl rfl)
theorem dX4_doStay_29 : decode cX4_doStay 29 = .ok (.iconst (-1), 1) := dk_2 (dk_at dksX4_doStay_1 5 rfl rfl)
theorem dX4_doStay_30 : decode cX4_doStay 30 = .ok (.ixor, 1) := dk_130 (dk_at dksX4_doStay_1 6 rfl rfl)
theorem dX4_doStay_31 : decode cX4_doStay 31 = .ok (.iand, 1) := dk_126 (dk_at dksX4_doStay_1 7 rfl rfl)
theorem dX4_doStay_32 : decode cX4_doStay 32 = .ok (.ifCond .ne 7, 3) := dk_154 0 7 (dk_at dksX4_doStay_1 8 rfl rfl)
theorem dX4_doStay_35 : decode cX4_doStay 35 = .ok (.iconst 1, 1) := dk_4 (dk_at dksX4_doStay_1 11 rfl rfl)
theorem dX4_doStay_36 : decode cX4_doStay 36 = .ok (.goto 4, 3) := dk_167 0 4 (dk_at dksX4_doStay_1 12 rfl rfl)
theorem dX4_doStay_39 : decode cX4_doStay 39 = .ok (.iconst 0, 1) := dk_3 (dk_at dksX4_doStay_1 15 rfl rfl)
theorem dX4_doStay_40 : decode cX4_doStay 40 = .ok (.istore_n 3, 1) := dk_62 (dk_at dksX4_doStay_1 16 rfl rfl)
theorem dX4_doStay_41 : decode cX4_doStay 41 = .ok (.iinc 4 1, 3) := dk_132 4 1 (dk_at dksX4_doStay_1 17 rfl rfl)
theorem dX4_doStay_44 : decode cX4_doStay 44 = .ok (.goto (-34), 3) := dk_167 255 222 (dk_at dksX4_doStay_1 20 rfl rfl)
theorem dX4_doStay_47 : decode cX4_doStay 47 = .ok (.aload_n 0, 1) := dk_42 (dk_at dksX4_doStay_1 23 rfl rfl)
theorem dX4_doStay_48 : decode cX4_doStay 48 = .ok (.invokevirtual 245, 3) := dk_182 0 245 (dk_at dksX4_doStay_2 0 rfl rfl)
theorem dX4_doStay_51 : decode cX4_doStay 51 = .ok (.iload_n 3, 1) := dk_29 (dk_at dksX4_doStay_2 3 rfl rfl)
theorem dX4_doStay_52 : decode cX4_doStay 52 = .ok (.ireturn, 1) := dk_172 (dk_at dksX4_doStay_2 4 rfl rfl)
abbrev cX4_toldFor : ByteArray := prog_19_method_77_code
def yX4_toldFor : MethodName := ⟨RX4, "toldFor", "(I)I"⟩
def dkwX4_toldFor_5 : List UInt8 := [33, 66, 132, 5, 1, 167, 255, 177, 42, 182, 0, 245, 28, 172]
abbrev dktX4_toldFor_5 : List UInt8 := dkwX4_toldFor_5 ++ []
def dkwX4_toldFor_4 : List UInt8 := [54, 9, 21, 9, 153, 0, 8, 21, 5, 167, 0, 4, 28, 61, 21, 9, 153, 0, 8, 22, 7, 167, 0, 4]
abbrev dktX4_toldFor_4 : List UInt8 := dkwX4_toldFor_4 ++ dktX4_toldFor_5
def dkwX4_toldFor_3 : List UInt8 := [21, 6, 153, 0, 20, 33, 9, 148, 155, 0, 10, 22, 7, 33, 148, 156, 0, 7, 4, 167, 0, 4, 3]
abbrev dktX4_toldFor_3 : List UInt8 := dkwX4_toldFor_3 ++ dktX4_toldFor_4
def dkwX4_toldFor_2 : List UInt8 := [163, 0, 78, 42, 27, 7, 21, 5, 182, 0, 130, 42, 182, 0, 205, 54, 6, 42, 182, 0, 235, 55, 7]
abbrev dktX4_toldFor_2 : List UInt8 := dkwX4_toldFor_2 ++ dktX4_toldFor_3
def dkwX4_toldFor_1 : List UInt8 := [18, 141, 182, 0, 126, 172, 42, 182, 0, 242, 3, 61, 20, 0, 252, 66, 16, 236, 54, 5, 21, 5, 16, 20]
abbrev dktX4_toldFor_1 : List UInt8 := dkwX4_toldFor_1 ++ dktX4_toldFor_2
def dkwX4_toldFor_0 : List UInt8 := [42, 27, 182, 0, 134, 154, 0, 10, 42, 18, 125, 182, 0, 126, 172, 42, 182, 0, 205, 154, 0, 10, 42]
abbrev dktX4_toldFor_0 : List UInt8 := dkwX4_toldFor_0 ++ dktX4_toldFor_1
theorem dksX4_toldFor_0 : cX4_toldFor.data.toList.drop 0 = dktX4_toldFor_0 := by decide +kernel
theorem dksX4_toldFor_1 : cX4_toldFor.data.toList.drop 23 = dktX4_toldFor_1 := dk_seg dksX4_toldFor_0 23 rfl rfl
theorem dksX4_toldFor_2 : cX4_toldFor.data.toList.drop 47 = dktX4_toldFor_2 := dk_seg dksX4_toldFor_1 24 rfl rfl
theorem dksX4_toldFor_3 : cX4_toldFor.data.toList.drop 70 = dktX4_toldFor_3 := dk_seg dksX4_toldFor_2 23 rfl rfl
theorem dksX4_toldFor_4 : cX4_toldFor.data.toList.drop 93 = dktX4_toldFor_4 := dk_seg dksX4_toldFor_3 23 rfl rfl
theorem dksX4_toldFor_5 : cX4_toldFor.data.toList.drop 117 = dktX4_toldFor_5 := dk_seg dksX4_toldFor_4 24 rfl rfl
theorem dX4_toldFor_0 : decode cX4_toldFor 0 = .ok (.aload_n 0, 1) := dk_42 (dk_at dksX4_toldFor_0 0 rfl rfl)
theorem dX4_toldFor_1 : decode cX4_toldFor 1 = .ok (.iload_n 1, 1) := dk_27 (dk_at dksX4_toldFor_0 1 rfl rfl)
theorem dX4_toldFor_2 : decode cX4_toldFor 2 = .ok (.invokevirtual 134, 3) := dk_182 0 134 (dk_at dksX4_toldFor_0 2 rfl rfl)
theorem dX4_toldFor_5 : decode cX4_toldFor 5 = .ok (.ifCond .ne 10, 3) := dk_154 0 10 (dk_at dksX4_toldFor_0 5 rfl rfl)
theorem dX4_toldFor_8 : decode cX4_toldFor 8 = .ok (.aload_n 0, 1) := dk_42 (dk_at dksX4_toldFor_0 8 rfl rfl)
theorem dX4_toldFor_9 : decode cX4_toldFor 9 = .ok (.ldc 125, 2) := dk_18 125 (dk_at dksX4_toldFor_0 9 rfl rfl)
theorem dX4_toldFor_11 : decode cX4_toldFor 11 = .ok (.invokevirtual 126, 3) := dk_182 0 126 (dk_at dksX4_toldFor_0 11 rfl rfl)
theorem dX4_toldFor_14 : decode cX4_toldFor 14 = .ok (.ireturn, 1) := dk_172 (dk_at dksX4_toldFor_0 14 rfl rfl)
theorem dX4_toldFor_15 : decode cX4_toldFor 15 = .ok (.aload_n 0, 1) := dk_42 (dk_at dksX4_toldFor_0 15 rfl rfl)
theorem dX4_toldFor_16 : decode cX4_toldFor 16 = .ok (.invokevirtual 205, 3) := dk_182 0 205 (dk_at dksX4_toldFor_0 16 rfl rfl)
theorem dX4_toldFor_19 : decode cX4_toldFor 19 = .ok (.ifCond .ne 10, 3) := dk_154 0 10 (dk_at dksX4_toldFor_0 19 rfl rfl)
theorem dX4_toldFor_22 : decode cX4_toldFor 22 = .ok (.aload_n 0, 1) := dk_42 (dk_at dksX4_toldFor_0 22 rfl rfl)
theorem dX4_toldFor_23 : decode cX4_toldFor 23 = .ok (.ldc 141, 2) := dk_18 141 (dk_at dksX4_toldFor_1 0 rfl rfl)
theorem dX4_toldFor_25 : decode cX4_toldFor 25 = .ok (.invokevirtual 126, 3) := dk_182 0 126 (dk_at dksX4_toldFor_1 2 rfl rfl)
theorem dX4_toldFor_28 : decode cX4_toldFor 28 = .ok (.ireturn, 1) := dk_172 (dk_at dksX4_toldFor_1 5 rfl rfl)
theorem dX4_toldFor_29 : decode cX4_toldFor 29 = .ok (.aload_n 0, 1) := dk_42 (dk_at dksX4_toldFor_1 6 rfl rfl)
theorem dX4_toldFor_30 : decode cX4_toldFor 30 = .ok (.invokevirtual 242, 3) := dk_182 0 242 (dk_at dksX4_toldFor_1 7 rfl rfl)
theorem dX4_toldFor_33 : decode cX4_toldFor 33 = .ok (.iconst 0, 1) := dk_3 (dk_at dksX4_toldFor_1 10 rfl rfl)
theorem dX4_toldFor_34 : decode cX4_toldFor 34 = .ok (.istore_n 2, 1) := dk_61 (dk_at dksX4_toldFor_1 11 rfl rfl)
theorem dX4_toldFor_35 : decode cX4_toldFor 35 = .ok (.ldc2_w 252, 3) := dk_20 0 252 (dk_at dksX4_toldFor_1 12 rfl rfl)
theorem dX4_toldFor_38 : decode cX4_toldFor 38 = .ok (.lstore_n 3, 1) := dk_66 (dk_at dksX4_toldFor_1 15 rfl rfl)
theorem dX4_toldFor_39 : decode cX4_toldFor 39 = .ok (.bipush (-20), 2) := dk_16 236 (dk_at dksX4_toldFor_1 16 rfl rfl)
theorem dX4_toldFor_41 : decode cX4_toldFor 41 = .ok (.istore 5, 2) := dk_54 5 (dk_at dksX4_toldFor_1 18 rfl rfl)
theorem dX4_toldFor_43 : decode cX4_toldFor 43 = .ok (.iload 5, 2) := dk_21 5 (dk_at dksX4_toldFor_1 20 rfl rfl)
theorem dX4_toldFor_45 : decode cX4_toldFor 45 = .ok (.bipush 20, 2) := dk_16 20 (dk_at dksX4_toldFor_1 22 rfl rfl)
theorem dX4_toldFor_47 : decode cX4_toldFor 47 = .ok (.if_icmp .gt 78, 3) := dk_163 0 78 (dk_at dksX4_toldFor_2 0 rfl rfl)
theorem dX4_toldFor_50 : decode cX4_toldFor 50 = .ok (.aload_n 0, 1) := dk_42 (dk_at dksX4_toldFor_2 3 rfl rfl)
theorem dX4_toldFor_51 : decode cX4_toldFor 51 = .ok (.iload_n 1, 1) := dk_27 (dk_at dksX4_toldFor_2 4 rfl rfl)
theorem dX4_toldFor_52 : decode cX4_toldFor 52 = .ok (.iconst 4, 1) := dk_7 (dk_at dksX4_toldFor_2 5 rfl rfl)
theorem dX4_toldFor_53 : decode cX4_toldFor 53 = .ok (.iload 5, 2) := dk_21 5 (dk_at dksX4_toldFor_2 6 rfl rfl)
theorem dX4_toldFor_55 : decode cX4_toldFor 55 = .ok (.invokevirtual 130, 3) := dk_182 0 130 (dk_at dksX4_toldFor_2 8 rfl rfl)
theorem dX4_toldFor_58 : decode cX4_toldFor 58 = .ok (.aload_n 0, 1) := dk_42 (dk_at dksX4_toldFor_2 11 rfl rfl)
theorem dX4_toldFor_59 : decode cX4_toldFor 59 = .ok (.invokevirtual 205, 3) := dk_182 0 205 (dk_at dksX4_toldFor_2 12 rfl rfl)
theorem dX4_toldFor_62 : decode cX4_toldFor 62 = .ok (.istore 6, 2) := dk_54 6 (dk_at dksX4_toldFor_2 15 rfl rfl)
theorem dX4_toldFor_64 : decode cX4_toldFor 64 = .ok (.aload_n 0, 1) := dk_42 (dk_at dksX4_toldFor_2 17 rfl rfl)
theorem dX4_toldFor_65 : decode cX4_toldFor 65 = .ok (.invokevirtual 235, 3) := dk_182 0 235 (dk_at dksX4_toldFor_2 18 rfl rfl)
theorem dX4_toldFor_68 : decode cX4_toldFor 68 = .ok (.lstore 7, 2) := dk_55 7 (dk_at dksX4_toldFor_2 21 rfl rfl)
theorem dX4_toldFor_70 : decode cX4_toldFor 70 = .ok (.iload 6, 2) := dk_21 6 (dk_at dksX4_toldFor_3 0 rfl rfl)
theorem dX4_toldFor_72 : decode cX4_toldFor 72 = .ok (.ifCond .eq 20, 3) := dk_153 0 20 (dk_at dksX4_toldFor_3 2 rfl rfl)
theorem dX4_toldFor_75 : decode cX4_toldFor 75 = .ok (.lload_n 3, 1) := dk_33 (dk_at dksX4_toldFor_3 5 rfl rfl)
theorem dX4_toldFor_76 : decode cX4_toldFor 76 = .ok (.lconst 0, 1) := dk_9 (dk_at dksX4_toldFor_3 6 rfl rfl)
theorem dX4_toldFor_77 : decode cX4_toldFor 77 = .ok (.lcmp, 1) := dk_148 (dk_at dksX4_toldFor_3 7 rfl rfl)
theorem dX4_toldFor_78 : decode cX4_toldFor 78 = .ok (.ifCond .lt 10, 3) := dk_155 0 10 (dk_at dksX4_toldFor_3 8 rfl rfl)
theorem dX4_toldFor_81 : decode cX4_toldFor 81 = .ok (.lload 7, 2) := dk_22 7 (dk_at dksX4_toldFor_3 11 rfl rfl)
theorem dX4_toldFor_83 : decode cX4_toldFor 83 = .ok (.lload_n 3, 1) := dk_33 (dk_at dksX4_toldFor_3 13 rfl rfl)
theorem dX4_toldFor_84 : decode cX4_toldFor 84 = .ok (.lcmp, 1) := dk_148 (dk_at dksX4_toldFor_3 14 rfl rfl)
theorem dX4_toldFor_85 : decode cX4_toldFor 85 = .ok (.ifCond .ge 7, 3) := dk_156 0 7 (dk_at dksX4_toldFor_3 15 rfl rfl)
theorem dX4_toldFor_88 : decode cX4_toldFor 88 = .ok (.iconst 1, 1) := dk_4 (dk_at dksX4_toldFor_3 18 rfl rfl)
theorem dX4_toldFor_89 : decode cX4_toldFor 89 = .ok (.goto 4, 3) := dk_167 0 4 (dk_at dksX4_toldFor_3 19 rfl rfl)
theorem dX4_toldFor_92 : decode cX4_toldFor 92 = .ok (.iconst 0, 1) := dk_3 (dk_at dksX4_toldFor_3 22 rfl rfl)
theorem dX4_toldFor_93 : decode cX4_toldFor 93 = .ok (.istore 9, 2) := dk_54 9 (dk_at dksX4_toldFor_4 0 rfl rfl)
theorem dX4_toldFor_95 : decode cX4_toldFor 95 = .ok (.iload 9, 2) := dk_21 9 (dk_at dksX4_toldFor_4 2 rfl rfl)
theorem dX4_toldFor_97 : decode cX4_toldFor 97 = .ok (.ifCond .eq 8, 3) := dk_153 0 8 (dk_at dksX4_toldFor_4 4 rfl rfl)
theorem dX4_toldFor_100 : decode cX4_toldFor 100 = .ok (.iload 5, 2) := dk_21 5 (dk_at dksX4_toldFor_4 7 rfl rfl)
theorem dX4_toldFor_102 : decode cX4_toldFor 102 = .ok (.goto 4, 3) := dk_167 0 4 (dk_at dksX4_toldFor_4 9 rfl rfl)
theorem dX4_toldFor_105 : decode cX4_toldFor 105 = .ok (.iload_n 2, 1) := dk_28 (dk_at dksX4_toldFor_4 12 rfl rfl)
theorem dX4_toldFor_106 : decode cX4_toldFor 106 = .ok (.istore_n 2, 1) := dk_61 (dk_at dksX4_toldFor_4 13 rfl rfl)
theorem dX4_toldFor_107 : decode cX4_toldFor 107 = .ok (.iload 9, 2) := dk_21 9 (dk_at dksX4_toldFor_4 14 rfl rfl)
theorem dX4_toldFor_109 : decode cX4_toldFor 109 = .ok (.ifCond .eq 8, 3) := dk_153 0 8 (dk_at dksX4_toldFor_4 16 rfl rfl)
theorem dX4_toldFor_112 : decode cX4_toldFor 112 = .ok (.lload 7, 2) := dk_22 7 (dk_at dksX4_toldFor_4 19 rfl rfl)
theorem dX4_toldFor_114 : decode cX4_toldFor 114 = .ok (.goto 4, 3) := dk_167 0 4 (dk_at dksX4_toldFor_4 21 rfl rfl)
theorem dX4_toldFor_117 : decode cX4_toldFor 117 = .ok (.lload_n 3, 1) := dk_33 (dk_at dksX4_toldFor_5 0 rfl rfl)
theorem dX4_toldFor_118 : decode cX4_toldFor 118 = .ok (.lstore_n 3, 1) := dk_66 (dk_at dksX4_toldFor_5 1 rfl rfl)
theorem dX4_toldFor_119 : decode cX4_toldFor 119 = .ok (.iinc 5 1, 3) := dk_132 5 1 (dk_at dksX4_toldFor_5 2 rfl rfl)
theorem dX4_toldFor_122 : decode cX4_toldFor 122 = .ok (.goto (-79), 3) := dk_167 255 177 (dk_at dksX4_toldFor_5 5 rfl rfl)
theorem dX4_toldFor_125 : decode cX4_toldFor 125 = .ok (.aload_n 0, 1) := dk_42 (dk_at dksX4_toldFor_5 8 rfl rfl)
theorem dX4_toldFor_126 : decode cX4_toldFor 126 = .ok (.invokevirtual 245, 3) := dk_182 0 245 (dk_at dksX4_toldFor_5 9 rfl rfl)
theorem dX4_toldFor_129 : decode cX4_toldFor 129 = .ok (.iload_n 2, 1) := dk_28 (dk_at dksX4_toldFor_5 12 rfl rfl)
theorem dX4_toldFor_130 : decode cX4_toldFor 130 = .ok (.ireturn, 1) := dk_172 (dk_at dksX4_toldFor_5 13 rfl rfl)
abbrev cX4_odds : ByteArray := prog_19_method_78_code
def yX4_odds : MethodName := ⟨RX4, "odds", "(III)I"⟩
def dkwX4_odds_4 : List UInt8 := [184, 0, 231, 136, 172]
abbrev dktX4_odds_4 : List UInt8 := dkwX4_odds_4 ++ []
def dkwX4_odds_3 : List UInt8 := [182, 0, 65, 133, 97, 55, 4, 42, 182, 0, 245, 132, 6, 1, 167, 255, 217, 22, 4, 20, 0, 254, 29]
abbrev dktX4_odds_3 : List UInt8 := dkwX4_odds_3 ++ dktX4_odds_4
def dkwX4_odds_2 : List UInt8 := [16, 20, 163, 0, 38, 42, 27, 7, 21, 6, 182, 0, 130, 42, 28, 182, 0, 215, 22, 4, 42, 27, 8]
abbrev dktX4_odds_2 : List UInt8 := dkwX4_odds_2 ++ dktX4_odds_3
def dkwX4_odds_1 : List UInt8 := [154, 0, 10, 42, 18, 125, 182, 0, 126, 172, 42, 182, 0, 242, 9, 55, 4, 16, 236, 54, 6, 21, 6]
abbrev dktX4_odds_1 : List UInt8 := dkwX4_odds_1 ++ dktX4_odds_2
def dkwX4_odds_0 : List UInt8 := [42, 27, 182, 0, 134, 153, 0, 20, 28, 3, 16, 40, 184, 0, 61, 153, 0, 10, 29, 184, 0, 228]
abbrev dktX4_odds_0 : List UInt8 := dkwX4_odds_0 ++ dktX4_odds_1
theorem dksX4_odds_0 : cX4_odds.data.toList.drop 0 = dktX4_odds_0 := by decide +kernel
theorem dksX4_odds_1 : cX4_odds.data.toList.drop 22 = dktX4_odds_1 := dk_seg dksX4_odds_0 22 rfl rfl
theorem dksX4_odds_2 : cX4_odds.data.toList.drop 45 = dktX4_odds_2 := dk_seg dksX4_odds_1 23 rfl rfl
theorem dksX4_odds_3 : cX4_odds.data.toList.drop 68 = dktX4_odds_3 := dk_seg dksX4_odds_2 23 rfl rfl
theorem dksX4_odds_4 : cX4_odds.data.toList.drop 91 = dktX4_odds_4 := dk_seg dksX4_odds_3 23 rfl rfl
theorem dX4_odds_0 : decode cX4_odds 0 = .ok (.aload_n 0, 1) := dk_42 (dk_at dksX4_odds_0 0 rfl rfl)
theorem dX4_odds_1 : decode cX4_odds 1 = .ok (.iload_n 1, 1) := dk_27 (dk_at dksX4_odds_0 1 rfl rfl)
theorem dX4_odds_2 : decode cX4_odds 2 = .ok (.invokevirtual 134, 3) := dk_182 0 134 (dk_at dksX4_odds_0 2 rfl rfl)
theorem dX4_odds_5 : decode cX4_odds 5 = .ok (.ifCond .eq 20, 3) := dk_153 0 20 (dk_at dksX4_odds_0 5 rfl rfl)
theorem dX4_odds_8 : decode cX4_odds 8 = .ok (.iload_n 2, 1) := dk_28 (dk_at dksX4_odds_0 8 rfl rfl)
theorem dX4_odds_9 : decode cX4_odds 9 = .ok (.iconst 0, 1) := dk_3 (dk_at dksX4_odds_0 9 rfl rfl)
theorem dX4_odds_10 : decode cX4_odds 10 = .ok (.bipush 40, 2) := dk_16 40 (dk_at dksX4_odds_0 10 rfl rfl)
theorem dX4_odds_12 : decode cX4_odds 12 = .ok (.invokestatic 61, 3) := dk_184 0 61 (dk_at dksX4_odds_0 12 rfl rfl)
theorem dX4_odds_15 : decode cX4_odds 15 = .ok (.ifCond .eq 10, 3) := dk_153 0 10 (dk_at dksX4_odds_0 15 rfl rfl)
theorem dX4_odds_18 : decode cX4_odds 18 = .ok (.iload_n 3, 1) := dk_29 (dk_at dksX4_odds_0 18 rfl rfl)
theorem dX4_odds_19 : decode cX4_odds 19 = .ok (.invokestatic 228, 3) := dk_184 0 228 (dk_at dksX4_odds_0 19 rfl rfl)
theorem dX4_odds_22 : decode cX4_odds 22 = .ok (.ifCond .ne 10, 3) := dk_154 0 10 (dk_at dksX4_odds_1 0 rfl rfl)
theorem dX4_odds_25 : decode cX4_odds 25 = .ok (.aload_n 0, 1) := dk_42 (dk_at dksX4_odds_1 3 rfl rfl)
theorem dX4_odds_26 : decode cX4_odds 26 = .ok (.ldc 125, 2) := dk_18 125 (dk_at dksX4_odds_1 4 rfl rfl)
theorem dX4_odds_28 : decode cX4_odds 28 = .ok (.invokevirtual 126, 3) := dk_182 0 126 (dk_at dksX4_odds_1 6 rfl rfl)
theorem dX4_odds_31 : decode cX4_odds 31 = .ok (.ireturn, 1) := dk_172 (dk_at dksX4_odds_1 9 rfl rfl)
theorem dX4_odds_32 : decode cX4_odds 32 = .ok (.aload_n 0, 1) := dk_42 (dk_at dksX4_odds_1 10 rfl rfl)
theorem dX4_odds_33 : decode cX4_odds 33 = .ok (.invokevirtual 242, 3) := dk_182 0 242 (dk_at dksX4_odds_1 11 rfl rfl)
theorem dX4_odds_36 : decode cX4_odds 36 = .ok (.lconst 0, 1) := dk_9 (dk_at dksX4_odds_1 14 rfl rfl)
theorem dX4_odds_37 : decode cX4_odds 37 = .ok (.lstore 4, 2) := dk_55 4 (dk_at dksX4_odds_1 15 rfl rfl)
theorem dX4_odds_39 : decode cX4_odds 39 = .ok (.bipush (-20), 2) := dk_16 236 (dk_at dksX4_odds_1 17 rfl rfl)
theorem dX4_odds_41 : decode cX4_odds 41 = .ok (.istore 6, 2) := dk_54 6 (dk_at dksX4_odds_1 19 rfl rfl)
theorem dX4_odds_43 : decode cX4_odds 43 = .ok (.iload 6, 2) := dk_21 6 (dk_at dksX4_odds_1 21 rfl rfl)
theorem dX4_odds_45 : decode cX4_odds 45 = .ok (.bipush 20, 2) := dk_16 20 (dk_at dksX4_odds_2 0 rfl rfl)
theorem dX4_odds_47 : decode cX4_odds 47 = .ok (.if_icmp .gt 38, 3) := dk_163 0 38 (dk_at dksX4_odds_2 2 rfl rfl)
theorem dX4_odds_50 : decode cX4_odds 50 = .ok (.aload_n 0, 1) := dk_42 (dk_at dksX4_odds_2 5 rfl rfl)
theorem dX4_odds_51 : decode cX4_odds 51 = .ok (.iload_n 1, 1) := dk_27 (dk_at dksX4_odds_2 6 rfl rfl)
theorem dX4_odds_52 : decode cX4_odds 52 = .ok (.iconst 4, 1) := dk_7 (dk_at dksX4_odds_2 7 rfl rfl)
theorem dX4_odds_53 : decode cX4_odds 53 = .ok (.iload 6, 2) := dk_21 6 (dk_at dksX4_odds_2 8 rfl rfl)
theorem dX4_odds_55 : decode cX4_odds 55 = .ok (.invokevirtual 130, 3) := dk_182 0 130 (dk_at dksX4_odds_2 10 rfl rfl)
theorem dX4_odds_58 : decode cX4_odds 58 = .ok (.aload_n 0, 1) := dk_42 (dk_at dksX4_odds_2 13 rfl rfl)
theorem dX4_odds_59 : decode cX4_odds 59 = .ok (.iload_n 2, 1) := dk_28 (dk_at dksX4_odds_2 14 rfl rfl)
theorem dX4_odds_60 : decode cX4_odds 60 = .ok (.invokevirtual 215, 3) := dk_182 0 215 (dk_at dksX4_odds_2 15 rfl rfl)
theorem dX4_odds_63 : decode cX4_odds 63 = .ok (.lload 4, 2) := dk_22 4 (dk_at dksX4_odds_2 18 rfl rfl)
theorem dX4_odds_65 : decode cX4_odds 65 = .ok (.aload_n 0, 1) := dk_42 (dk_at dksX4_odds_2 20 rfl rfl)
theorem dX4_odds_66 : decode cX4_odds 66 = .ok (.iload_n 1, 1) := dk_27 (dk_at dksX4_odds_2 21 rfl rfl)
theorem dX4_odds_67 : decode cX4_odds 67 = .ok (.iconst 5, 1) := dk_8 (dk_at dksX4_odds_2 22 rfl rfl)
theorem dX4_odds_68 : decode cX4_odds 68 = .ok (.invokevirtual 65, 3) := dk_182 0 65 (dk_at dksX4_odds_3 0 rfl rfl)
theorem dX4_odds_71 : decode cX4_odds 71 = .ok (.i2l, 1) := dk_133 (dk_at dksX4_odds_3 3 rfl rfl)
theorem dX4_odds_72 : decode cX4_odds 72 = .ok (.ladd, 1) := dk_97 (dk_at dksX4_odds_3 4 rfl rfl)
theorem dX4_odds_73 : decode cX4_odds 73 = .ok (.lstore 4, 2) := dk_55 4 (dk_at dksX4_odds_3 5 rfl rfl)
theorem dX4_odds_75 : decode cX4_odds 75 = .ok (.aload_n 0, 1) := dk_42 (dk_at dksX4_odds_3 7 rfl rfl)
theorem dX4_odds_76 : decode cX4_odds 76 = .ok (.invokevirtual 245, 3) := dk_182 0 245 (dk_at dksX4_odds_3 8 rfl rfl)
theorem dX4_odds_79 : decode cX4_odds 79 = .ok (.iinc 6 1, 3) := dk_132 6 1 (dk_at dksX4_odds_3 11 rfl rfl)
theorem dX4_odds_82 : decode cX4_odds 82 = .ok (.goto (-39), 3) := dk_167 255 217 (dk_at dksX4_odds_3 14 rfl rfl)
theorem dX4_odds_85 : decode cX4_odds 85 = .ok (.lload 4, 2) := dk_22 4 (dk_at dksX4_odds_3 17 rfl rfl)
theorem dX4_odds_87 : decode cX4_odds 87 = .ok (.ldc2_w 254, 3) := dk_20 0 254 (dk_at dksX4_odds_3 19 rfl rfl)
theorem dX4_odds_90 : decode cX4_odds 90 = .ok (.iload_n 3, 1) := dk_29 (dk_at dksX4_odds_3 22 rfl rfl)
theorem dX4_odds_91 : decode cX4_odds 91 = .ok (.invokestatic 231, 3) := dk_184 0 231 (dk_at dksX4_odds_4 0 rfl rfl)
theorem dX4_odds_94 : decode cX4_odds 94 = .ok (.l2i, 1) := dk_136 (dk_at dksX4_odds_4 3 rfl rfl)
theorem dX4_odds_95 : decode cX4_odds 95 = .ok (.ireturn, 1) := dk_172 (dk_at dksX4_odds_4 4 rfl rfl)
abbrev cX4_fits : ByteArray := prog_19_method_80_code
def yX4_fits : MethodName := ⟨RX4, "fits", "(III)I"⟩
def dkwX4_fits_4 : List UInt8 := [167, 255, 217, 29, 154, 0, 8, 21, 4, 167, 0, 8, 21, 4, 184, 0, 218, 172]
abbrev dktX4_fits_4 : List UInt8 := dkwX4_fits_4 ++ []
def dkwX4_fits_3 : List UInt8 := [21, 4, 42, 27, 182, 1, 3, 153, 0, 10, 4, 21, 5, 120, 167, 0, 4, 3, 128, 54, 4, 132, 5, 1]
abbrev dktX4_fits_3 : List UInt8 := dkwX4_fits_3 ++ dktX4_fits_4
def dkwX4_fits_2 : List UInt8 := [182, 0, 242, 3, 54, 4, 3, 54, 5, 21, 5, 16, 6, 163, 0, 38, 42, 28, 3, 21, 5, 182, 0, 130]
abbrev dktX4_fits_2 : List UInt8 := dkwX4_fits_2 ++ dktX4_fits_3
def dkwX4_fits_1 : List UInt8 := [42, 18, 125, 182, 0, 126, 172, 42, 180, 0, 22, 27, 46, 154, 0, 10, 42, 18, 248, 182, 0, 126, 172, 42]
abbrev dktX4_fits_1 : List UInt8 := dkwX4_fits_1 ++ dktX4_fits_2
def dkwX4_fits_0 : List UInt8 := [27, 184, 1, 0, 153, 0, 20, 42, 28, 182, 0, 134, 153, 0, 12, 29, 3, 4, 184, 0, 61, 154, 0, 10]
abbrev dktX4_fits_0 : List UInt8 := dkwX4_fits_0 ++ dktX4_fits_1
theorem dksX4_fits_0 : cX4_fits.data.toList.drop 0 = dktX4_fits_0 := by decide +kernel
theorem dksX4_fits_1 : cX4_fits.data.toList.drop 24 = dktX4_fits_1 := dk_seg dksX4_fits_0 24 rfl rfl
theorem dksX4_fits_2 : cX4_fits.data.toList.drop 48 = dktX4_fits_2 := dk_seg dksX4_fits_1 24 rfl rfl
theorem dksX4_fits_3 : cX4_fits.data.toList.drop 72 = dktX4_fits_3 := dk_seg dksX4_fits_2 24 rfl rfl
theorem dksX4_fits_4 : cX4_fits.data.toList.drop 96 = dktX4_fits_4 := dk_seg dksX4_fits_3 24 rfl rfl
theorem dX4_fits_0 : decode cX4_fits 0 = .ok (.iload_n 1, 1) := dk_27 (dk_at dksX4_fits_0 0 rfl rfl)
theorem dX4_fits_1 : decode cX4_fits 1 = .ok (.invokestatic 256, 3) := dk_184 1 0 (dk_at dksX4_fits_0 1 rfl rfl)
theorem dX4_fits_4 : decode cX4_fits 4 = .ok (.ifCond .eq 20, 3) := dk_153 0 20 (dk_at dksX4_fits_0 4 rfl rfl)
theorem dX4_fits_7 : decode cX4_fits 7 = .ok (.aload_n 0, 1) := dk_42 (dk_at dksX4_fits_0 7 rfl rfl)
theorem dX4_fits_8 : decode cX4_fits 8 = .ok (.iload_n 2, 1) := dk_28 (dk_at dksX4_fits_0 8 rfl rfl)
theorem dX4_fits_9 : decode cX4_fits 9 = .ok (.invokevirtual 134, 3) := dk_182 0 134 (dk_at dksX4_fits_0 9 rfl rfl)
theorem dX4_fits_12 : decode cX4_fits 12 = .ok (.ifCond .eq 12, 3) := dk_153 0 12 (dk_at dksX4_fits_0 12 rfl rfl)
theorem dX4_fits_15 : decode cX4_fits 15 = .ok (.iload_n 3, 1) := dk_29 (dk_at dksX4_fits_0 15 rfl rfl)
theorem dX4_fits_16 : decode cX4_fits 16 = .ok (.iconst 0, 1) := dk_3 (dk_at dksX4_fits_0 16 rfl rfl)
theorem dX4_fits_17 : decode cX4_fits 17 = .ok (.iconst 1, 1) := dk_4 (dk_at dksX4_fits_0 17 rfl rfl)
theorem dX4_fits_18 : decode cX4_fits 18 = .ok (.invokestatic 61, 3) := dk_184 0 61 (dk_at dksX4_fits_0 18 rfl rfl)
theorem dX4_fits_21 : decode cX4_fits 21 = .ok (.ifCond .ne 10, 3) := dk_154 0 10 (dk_at dksX4_fits_0 21 rfl rfl)
theorem dX4_fits_24 : decode cX4_fits 24 = .ok (.aload_n 0, 1) := dk_42 (dk_at dksX4_fits_1 0 rfl rfl)
theorem dX4_fits_25 : decode cX4_fits 25 = .ok (.ldc 125, 2) := dk_18 125 (dk_at dksX4_fits_1 1 rfl rfl)
theorem dX4_fits_27 : decode cX4_fits 27 = .ok (.invokevirtual 126, 3) := dk_182 0 126 (dk_at dksX4_fits_1 3 rfl rfl)
theorem dX4_fits_30 : decode cX4_fits 30 = .ok (.ireturn, 1) := dk_172 (dk_at dksX4_fits_1 6 rfl rfl)
theorem dX4_fits_31 : decode cX4_fits 31 = .ok (.aload_n 0, 1) := dk_42 (dk_at dksX4_fits_1 7 rfl rfl)
theorem dX4_fits_32 : decode cX4_fits 32 = .ok (.getfield 22, 3) := dk_180 0 22 (dk_at dksX4_fits_1 8 rfl rfl)
theorem dX4_fits_35 : decode cX4_fits 35 = .ok (.iload_n 1, 1) := dk_27 (dk_at dksX4_fits_1 11 rfl rfl)
theorem dX4_fits_36 : decode cX4_fits 36 = .ok (.iaload, 1) := dk_46 (dk_at dksX4_fits_1 12 rfl rfl)
theorem dX4_fits_37 : decode cX4_fits 37 = .ok (.ifCond .ne 10, 3) := dk_154 0 10 (dk_at dksX4_fits_1 13 rfl rfl)
theorem dX4_fits_40 : decode cX4_fits 40 = .ok (.aload_n 0, 1) := dk_42 (dk_at dksX4_fits_1 16 rfl rfl)
theorem dX4_fits_41 : decode cX4_fits 41 = .ok (.ldc 248, 2) := dk_18 248 (dk_at dksX4_fits_1 17 rfl rfl)
theorem dX4_fits_43 : decode cX4_fits 43 = .ok (.invokevirtual 126, 3) := dk_182 0 126 (dk_at dksX4_fits_1 19 rfl rfl)
theorem dX4_fits_46 : decode cX4_fits 46 = .ok (.ireturn, 1) := dk_172 (dk_at dksX4_fits_1 22 rfl rfl)
theorem dX4_fits_47 : decode cX4_fits 47 = .ok (.aload_n 0, 1) := dk_42 (dk_at dksX4_fits_1 23 rfl rfl)
theorem dX4_fits_48 : decode cX4_fits 48 = .ok (.invokevirtual 242, 3) := dk_182 0 242 (dk_at dksX4_fits_2 0 rfl rfl)
theorem dX4_fits_51 : decode cX4_fits 51 = .ok (.iconst 0, 1) := dk_3 (dk_at dksX4_fits_2 3 rfl rfl)
theorem dX4_fits_52 : decode cX4_fits 52 = .ok (.istore 4, 2) := dk_54 4 (dk_at dksX4_fits_2 4 rfl rfl)
theorem dX4_fits_54 : decode cX4_fits 54 = .ok (.iconst 0, 1) := dk_3 (dk_at dksX4_fits_2 6 rfl rfl)
theorem dX4_fits_55 : decode cX4_fits 55 = .ok (.istore 5, 2) := dk_54 5 (dk_at dksX4_fits_2 7 rfl rfl)
theorem dX4_fits_57 : decode cX4_fits 57 = .ok (.iload 5, 2) := dk_21 5 (dk_at dksX4_fits_2 9 rfl rfl)
theorem dX4_fits_59 : decode cX4_fits 59 = .ok (.bipush 6, 2) := dk_16 6 (dk_at dksX4_fits_2 11 rfl rfl)
theorem dX4_fits_61 : decode cX4_fits 61 = .ok (.if_icmp .gt 38, 3) := dk_163 0 38 (dk_at dksX4_fits_2 13 rfl rfl)
theorem dX4_fits_64 : decode cX4_fits 64 = .ok (.aload_n 0, 1) := dk_42 (dk_at dksX4_fits_2 16 rfl rfl)
theorem dX4_fits_65 : decode cX4_fits 65 = .ok (.iload_n 2, 1) := dk_28 (dk_at dksX4_fits_2 17 rfl rfl)
theorem dX4_fits_66 : decode cX4_fits 66 = .ok (.iconst 0, 1) := dk_3 (dk_at dksX4_fits_2 18 rfl rfl)
theorem dX4_fits_67 : decode cX4_fits 67 = .ok (.iload 5, 2) := dk_21 5 (dk_at dksX4_fits_2 19 rfl rfl)
theorem dX4_fits_69 : decode cX4_fits 69 = .ok (.invokevirtual 130, 3) := dk_182 0 130 (dk_at dksX4_fits_2 21 rfl rfl)
theorem dX4_fits_72 : decode cX4_fits 72 = .ok (.iload 4, 2) := dk_21 4 (dk_at dksX4_fits_3 0 rfl rfl)
theorem dX4_fits_74 : decode cX4_fits 74 = .ok (.aload_n 0, 1) := dk_42 (dk_at dksX4_fits_3 2 rfl rfl)
theorem dX4_fits_75 : decode cX4_fits 75 = .ok (.iload_n 1, 1) := dk_27 (dk_at dksX4_fits_3 3 rfl rfl)
theorem dX4_fits_76 : decode cX4_fits 76 = .ok (.invokevirtual 259, 3) := dk_182 1 3 (dk_at dksX4_fits_3 4 rfl rfl)
theorem dX4_fits_79 : decode cX4_fits 79 = .ok (.ifCond .eq 10, 3) := dk_153 0 10 (dk_at dksX4_fits_3 7 rfl rfl)
theorem dX4_fits_82 : decode cX4_fits 82 = .ok (.iconst 1, 1) := dk_4 (dk_at dksX4_fits_3 10 rfl rfl)
theorem dX4_fits_83 : decode cX4_fits 83 = .ok (.iload 5, 2) := dk_21 5 (dk_at dksX4_fits_3 11 rfl rfl)
theorem dX4_fits_85 : decode cX4_fits 85 = .ok (.ishl, 1) := dk_120 (dk_at dksX4_fits_3 13 rfl rfl)
theorem dX4_fits_86 : decode cX4_fits 86 = .ok (.goto 4, 3) := dk_167 0 4 (dk_at dksX4_fits_3 14 rfl rfl)
theorem dX4_fits_89 : decode cX4_fits 89 = .ok (.iconst 0, 1) := dk_3 (dk_at dksX4_fits_3 17 rfl rfl)
theorem dX4_fits_90 : decode cX4_fits 90 = .ok (.ior, 1) := dk_128 (dk_at dksX4_fits_3 18 rfl rfl)
theorem dX4_fits_91 : decode cX4_fits 91 = .ok (.istore 4, 2) := dk_54 4 (dk_at dksX4_fits_3 19 rfl rfl)
theorem dX4_fits_93 : decode cX4_fits 93 = .ok (.iinc 5 1, 3) := dk_132 5 1 (dk_at dksX4_fits_3 21 rfl rfl)
theorem dX4_fits_96 : decode cX4_fits 96 = .ok (.goto (-39), 3) := dk_167 255 217 (dk_at dksX4_fits_4 0 rfl rfl)
theorem dX4_fits_99 : decode cX4_fits 99 = .ok (.iload_n 3, 1) := dk_29 (dk_at dksX4_fits_4 3 rfl rfl)
theorem dX4_fits_100 : decode cX4_fits 100 = .ok (.ifCond .ne 8, 3) := dk_154 0 8 (dk_at dksX4_fits_4 4 rfl rfl)
theorem dX4_fits_103 : decode cX4_fits 103 = .ok (.iload 4, 2) := dk_21 4 (dk_at dksX4_fits_4 7 rfl rfl)
theorem dX4_fits_105 : decode cX4_fits 105 = .ok (.goto 8, 3) := dk_167 0 8 (dk_at dksX4_fits_4 9 rfl rfl)
theorem dX4_fits_108 : decode cX4_fits 108 = .ok (.iload 4, 2) := dk_21 4 (dk_at dksX4_fits_4 12 rfl rfl)
theorem dX4_fits_110 : decode cX4_fits 110 = .ok (.invokestatic 218, 3) := dk_184 0 218 (dk_at dksX4_fits_4 14 rfl rfl)
theorem dX4_fits_113 : decode cX4_fits 113 = .ok (.ireturn, 1) := dk_172 (dk_at dksX4_fits_4 17 rfl rfl)
abbrev cX4_isSheet : ByteArray := prog_19_method_94_code
def yX4_isSheet : MethodName := ⟨RX4, "isSheet", "(I)Z"⟩
def dkwX4_isSheet_0 : List UInt8 := [26, 3, 6, 184, 0, 61, 172]
abbrev dktX4_isSheet_0 : List UInt8 := dkwX4_isSheet_0 ++ []
theorem dksX4_isSheet_0 : cX4_isSheet.data.toList.drop 0 = dktX4_isSheet_0 := by decide +kernel
theorem dX4_isSheet_0 : decode cX4_isSheet 0 = .ok (.iload_n 0, 1) := dk_26 (dk_at dksX4_isSheet_0 0 rfl rfl)
theorem dX4_isSheet_1 : decode cX4_isSheet 1 = .ok (.iconst 0, 1) := dk_3 (dk_at dksX4_isSheet_0 1 rfl rfl)
theorem dX4_isSheet_2 : decode cX4_isSheet 2 = .ok (.iconst 3, 1) := dk_6 (dk_at dksX4_isSheet_0 2 rfl rfl)
theorem dX4_isSheet_3 : decode cX4_isSheet 3 = .ok (.invokestatic 61, 3) := dk_184 0 61 (dk_at dksX4_isSheet_0 3 rfl rfl)
theorem dX4_isSheet_6 : decode cX4_isSheet 6 = .ok (.ireturn, 1) := dk_172 (dk_at dksX4_isSheet_0 6 rfl rfl)
abbrev cX4_isSo : ByteArray := prog_19_method_79_code
def yX4_isSo : MethodName := ⟨RX4, "isSo", "(I)Z"⟩
def dkwX4_isSo_2 : List UInt8 := [132, 3, 1, 167, 255, 211, 42, 182, 0, 245, 28, 172]
abbrev dktX4_isSo_2 : List UInt8 := dkwX4_isSo_2 ++ []
def dkwX4_isSo_1 : List UInt8 := [27, 104, 29, 96, 46, 42, 182, 0, 96, 160, 0, 7, 4, 167, 0, 4, 3, 61, 42, 182, 0, 212]
abbrev dktX4_isSo_1 : List UInt8 := dkwX4_isSo_1 ++ dktX4_isSo_2
def dkwX4_isSo_0 : List UInt8 := [4, 61, 3, 62, 29, 42, 180, 0, 25, 27, 46, 162, 0, 41, 28, 153, 0, 37, 42, 180, 0, 28, 16, 24]
abbrev dktX4_isSo_0 : List UInt8 := dkwX4_isSo_0 ++ dktX4_isSo_1
theorem dksX4_isSo_0 : cX4_isSo.data.toList.drop 0 = dktX4_isSo_0 := by decide +kernel
theorem dksX4_isSo_1 : cX4_isSo.data.toList.drop 24 = dktX4_isSo_1 := dk_seg dksX4_isSo_0 24 rfl rfl
theorem dksX4_isSo_2 : cX4_isSo.data.toList.drop 46 = dktX4_isSo_2 := dk_seg dksX4_isSo_1 22 rfl rfl
theorem dX4_isSo_0 : decode cX4_isSo 0 = .ok (.iconst 1, 1) := dk_4 (dk_at dksX4_isSo_0 0 rfl rfl)
theorem dX4_isSo_1 : decode cX4_isSo 1 = .ok (.istore_n 2, 1) := dk_61 (dk_at dksX4_isSo_0 1 rfl rfl)
theorem dX4_isSo_2 : decode cX4_isSo 2 = .ok (.iconst 0, 1) := dk_3 (dk_at dksX4_isSo_0 2 rfl rfl)
theorem dX4_isSo_3 : decode cX4_isSo 3 = .ok (.istore_n 3, 1) := dk_62 (dk_at dksX4_isSo_0 3 rfl rfl)
theorem dX4_isSo_4 : decode cX4_isSo 4 = .ok (.iload_n 3, 1) := dk_29 (dk_at dksX4_isSo_0 4 rfl rfl)
theorem dX4_isSo_5 : decode cX4_isSo 5 = .ok (.aload_n 0, 1) := dk_42 (dk_at dksX4_isSo_0 5 rfl rfl)
theorem dX4_isSo_6 : decode cX4_isSo 6 = .ok (.getfield 25, 3) := dk_180 0 25 (dk_at dksX4_isSo_0 6 rfl rfl)
theorem dX4_isSo_9 : decode cX4_isSo 9 = .ok (.iload_n 1, 1) := dk_27 (dk_at dksX4_isSo_0 9 rfl rfl)
theorem dX4_isSo_10 : decode cX4_isSo 10 = .ok (.iaload, 1) := dk_46 (dk_at dksX4_isSo_0 10 rfl rfl)
theorem dX4_isSo_11 : decode cX4_isSo 11 = .ok (.if_icmp .ge 41, 3) := dk_162 0 41 (dk_at dksX4_isSo_0 11 rfl rfl)
theorem dX4_isSo_14 : decode cX4_isSo 14 = .ok (.iload_n 2, 1) := dk_28 (dk_at dksX4_isSo_0 14 rfl rfl)
theorem dX4_isSo_15 : decode cX4_isSo 15 = .ok (.ifCond .eq 37, 3) := dk_153 0 37 (dk_at dksX4_isSo_0 15 rfl rfl)
theorem dX4_isSo_18 : decode cX4_isSo 18 = .ok (.aload_n 0, 1) := dk_42 (dk_at dksX4_isSo_0 18 rfl rfl)
theorem dX4_isSo_19 : decode cX4_isSo 19 = .ok (.getfield 28, 3) := dk_180 0 28 (dk_at dksX4_isSo_0 19 rfl rfl)
theorem dX4_isSo_22 : decode cX4_isSo 22 = .ok (.bipush 24, 2) := dk_16 24 (dk_at dksX4_isSo_0 22 rfl rfl)
theorem dX4_isSo_24 : decode cX4_isSo 24 = .ok (.iload_n 1, 1) := dk_27 (dk_at dksX4_isSo_1 0 rfl rfl)
theorem dX4_isSo_25 : decode cX4_isSo 25 = .ok (.imul, 1) := dk_104 (dk_at dksX4_isSo_1 1 rfl rfl)
theorem dX4_isSo_26 : decode cX4_isSo 26 = .ok (.iload_n 3, 1) := dk_29 (dk_at dksX4_isSo_1 2 rfl rfl)
theorem dX4_isSo_27 : decode cX4_isSo 27 = .ok (.iadd, 1) := dk_96 (dk_at dksX4_isSo_1 3 rfl rfl)
theorem dX4_isSo_28 : decode cX4_isSo 28 = .ok (.iaload, 1) := dk_46 (dk_at dksX4_isSo_1 4 rfl rfl)
theorem dX4_isSo_29 : decode cX4_isSo 29 = .ok (.aload_n 0, 1) := dk_42 (dk_at dksX4_isSo_1 5 rfl rfl)
theorem dX4_isSo_30 : decode cX4_isSo 30 = .ok (.invokevirtual 96, 3) := dk_182 0 96 (dk_at dksX4_isSo_1 6 rfl rfl)
theorem dX4_isSo_33 : decode cX4_isSo 33 = .ok (.if_icmp .ne 7, 3) := dk_160 0 7 (dk_at dksX4_isSo_1 9 rfl rfl)
theorem dX4_isSo_36 : decode cX4_isSo 36 = .ok (.iconst 1, 1) := dk_4 (dk_at dksX4_isSo_1 12 rfl rfl)
theorem dX4_isSo_37 : decode cX4_isSo 37 = .ok (.goto 4, 3) := dk_167 0 4 (dk_at dksX4_isSo_1 13 rfl rfl)
theorem dX4_isSo_40 : decode cX4_isSo 40 = .ok (.iconst 0, 1) := dk_3 (dk_at dksX4_isSo_1 16 rfl rfl)
theorem dX4_isSo_41 : decode cX4_isSo 41 = .ok (.istore_n 2, 1) := dk_61 (dk_at dksX4_isSo_1 17 rfl rfl)
theorem dX4_isSo_42 : decode cX4_isSo 42 = .ok (.aload_n 0, 1) := dk_42 (dk_at dksX4_isSo_1 18 rfl rfl)
theorem dX4_isSo_43 : decode cX4_isSo 43 = .ok (.invokevirtual 212, 3) := dk_182 0 212 (dk_at dksX4_isSo_1 19 rfl rfl)
theorem dX4_isSo_46 : decode cX4_isSo 46 = .ok (.iinc 3 1, 3) := dk_132 3 1 (dk_at dksX4_isSo_2 0 rfl rfl)
theorem dX4_isSo_49 : decode cX4_isSo 49 = .ok (.goto (-45), 3) := dk_167 255 211 (dk_at dksX4_isSo_2 3 rfl rfl)
theorem dX4_isSo_52 : decode cX4_isSo 52 = .ok (.aload_n 0, 1) := dk_42 (dk_at dksX4_isSo_2 6 rfl rfl)
theorem dX4_isSo_53 : decode cX4_isSo 53 = .ok (.invokevirtual 245, 3) := dk_182 0 245 (dk_at dksX4_isSo_2 7 rfl rfl)
theorem dX4_isSo_56 : decode cX4_isSo 56 = .ok (.iload_n 2, 1) := dk_28 (dk_at dksX4_isSo_2 10 rfl rfl)
theorem dX4_isSo_57 : decode cX4_isSo 57 = .ok (.ireturn, 1) := dk_172 (dk_at dksX4_isSo_2 11 rfl rfl)
abbrev cX4_voice : ByteArray := prog_19_method_92_code
def yX4_voice : MethodName := ⟨RX4, "voice", "(III)I"⟩
def dkwX4_voice_4 : List UInt8 := [182, 0, 126, 167, 0, 5, 21, 4, 172]
abbrev dktX4_voice_4 : List UInt8 := dkwX4_voice_4 ++ []
def dkwX4_voice_3 : List UInt8 := [167, 0, 9, 42, 27, 29, 182, 1, 42, 54, 4, 42, 180, 1, 33, 153, 0, 13, 42, 19, 1, 45]
abbrev dktX4_voice_3 : List UInt8 := dkwX4_voice_3 ++ dktX4_voice_4
def dkwX4_voice_2 : List UInt8 := [4, 160, 0, 12, 42, 27, 29, 182, 1, 27, 167, 0, 23, 28, 5, 160, 0, 12, 42, 27, 29, 182, 1, 39]
abbrev dktX4_voice_2 : List UInt8 := dkwX4_voice_2 ++ dktX4_voice_3
def dkwX4_voice_1 : List UInt8 := [42, 3, 181, 1, 6, 42, 3, 181, 1, 33, 28, 154, 0, 12, 42, 27, 29, 182, 1, 18, 167, 0, 37, 28]
abbrev dktX4_voice_1 : List UInt8 := dkwX4_voice_1 ++ dktX4_voice_2
def dkwX4_voice_0 : List UInt8 := [42, 27, 182, 0, 134, 153, 0, 12, 28, 3, 6, 184, 0, 61, 154, 0, 10, 42, 18, 125, 182, 0, 126, 172]
abbrev dktX4_voice_0 : List UInt8 := dkwX4_voice_0 ++ dktX4_voice_1
theorem dksX4_voice_0 : cX4_voice.data.toList.drop 0 = dktX4_voice_0 := by decide +kernel
theorem dksX4_voice_1 : cX4_voice.data.toList.drop 24 = dktX4_voice_1 := dk_seg dksX4_voice_0 24 rfl rfl
theorem dksX4_voice_2 : cX4_voice.data.toList.drop 48 = dktX4_voice_2 := dk_seg dksX4_voice_1 24 rfl rfl
theorem dksX4_voice_3 : cX4_voice.data.toList.drop 72 = dktX4_voice_3 := dk_seg dksX4_voice_2 24 rfl rfl
theorem dksX4_voice_4 : cX4_voice.data.toList.drop 94 = dktX4_voice_4 := dk_seg dksX4_voice_3 22 rfl rfl
theorem dX4_voice_0 : decode cX4_voice 0 = .ok (.aload_n 0, 1) := dk_42 (dk_at dksX4_voice_0 0 rfl rfl)
theorem dX4_voice_1 : decode cX4_voice 1 = .ok (.iload_n 1, 1) := dk_27 (dk_at dksX4_voice_0 1 rfl rfl)
theorem dX4_voice_2 : decode cX4_voice 2 = .ok (.invokevirtual 134, 3) := dk_182 0 134 (dk_at dksX4_voice_0 2 rfl rfl)
theorem dX4_voice_5 : decode cX4_voice 5 = .ok (.ifCond .eq 12, 3) := dk_153 0 12 (dk_at dksX4_voice_0 5 rfl rfl)
theorem dX4_voice_8 : decode cX4_voice 8 = .ok (.iload_n 2, 1) := dk_28 (dk_at dksX4_voice_0 8 rfl rfl)
theorem dX4_voice_9 : decode cX4_voice 9 = .ok (.iconst 0, 1) := dk_3 (dk_at dksX4_voice_0 9 rfl rfl)
theorem dX4_voice_10 : decode cX4_voice 10 = .ok (.iconst 3, 1) := dk_6 (dk_at dksX4_voice_0 10 rfl rfl)
theorem dX4_voice_11 : decode cX4_voice 11 = .ok (.invokestatic 61, 3) := dk_184 0 61 (dk_at dksX4_voice_0 11 rfl rfl)
theorem dX4_voice_14 : decode cX4_voice 14 = .ok (.ifCond .ne 10, 3) := dk_154 0 10 (dk_at dksX4_voice_0 14 rfl rfl)
theorem dX4_voice_17 : decode cX4_voice 17 = .ok (.aload_n 0, 1) := dk_42 (dk_at dksX4_voice_0 17 rfl rfl)
theorem dX4_voice_18 : decode cX4_voice 18 = .ok (.ldc 125, 2) := dk_18 125 (dk_at dksX4_voice_0 18 rfl rfl)
theorem dX4_voice_20 : decode cX4_voice 20 = .ok (.invokevirtual 126, 3) := dk_182 0 126 (dk_at dksX4_voice_0 20 rfl rfl)
theorem dX4_voice_23 : decode cX4_voice 23 = .ok (.ireturn, 1) := dk_172 (dk_at dksX4_voice_0 23 rfl rfl)
theorem dX4_voice_24 : decode cX4_voice 24 = .ok (.aload_n 0, 1) := dk_42 (dk_at dksX4_voice_1 0 rfl rfl)
theorem dX4_voice_25 : decode cX4_voice 25 = .ok (.iconst 0, 1) := dk_3 (dk_at dksX4_voice_1 1 rfl rfl)
theorem dX4_voice_26 : decode cX4_voice 26 = .ok (.putfield 262, 3) := dk_181 1 6 (dk_at dksX4_voice_1 2 rfl rfl)
theorem dX4_voice_29 : decode cX4_voice 29 = .ok (.aload_n 0, 1) := dk_42 (dk_at dksX4_voice_1 5 rfl rfl)
theorem dX4_voice_30 : decode cX4_voice 30 = .ok (.iconst 0, 1) := dk_3 (dk_at dksX4_voice_1 6 rfl rfl)
theorem dX4_voice_31 : decode cX4_voice 31 = .ok (.putfield 289, 3) := dk_181 1 33 (dk_at dksX4_voice_1 7 rfl rfl)
theorem dX4_voice_34 : decode cX4_voice 34 = .ok (.iload_n 2, 1) := dk_28 (dk_at dksX4_voice_1 10 rfl rfl)
theorem dX4_voice_35 : decode cX4_voice 35 = .ok (.ifCond .ne 12, 3) := dk_154 0 12 (dk_at dksX4_voice_1 11 rfl rfl)
theorem dX4_voice_38 : decode cX4_voice 38 = .ok (.aload_n 0, 1) := dk_42 (dk_at dksX4_voice_1 14 rfl rfl)
theorem dX4_voice_39 : decode cX4_voice 39 = .ok (.iload_n 1, 1) := dk_27 (dk_at dksX4_voice_1 15 rfl rfl)
theorem dX4_voice_40 : decode cX4_voice 40 = .ok (.iload_n 3, 1) := dk_29 (dk_at dksX4_voice_1 16 rfl rfl)
theorem dX4_voice_41 : decode cX4_voice 41 = .ok (.invokevirtual 274, 3) := dk_182 1 18 (dk_at dksX4_voice_1 17 rfl rfl)
theorem dX4_voice_44 : decode cX4_voice 44 = .ok (.goto 37, 3) := dk_167 0 37 (dk_at dksX4_voice_1 20 rfl rfl)
theorem dX4_voice_47 : decode cX4_voice 47 = .ok (.iload_n 2, 1) := dk_28 (dk_at dksX4_voice_1 23 rfl rfl)
theorem dX4_voice_48 : decode cX4_voice 48 = .ok (.iconst 1, 1) := dk_4 (dk_at dksX4_voice_2 0 rfl rfl)
theorem dX4_voice_49 : decode cX4_voice 49 = .ok (.if_icmp .ne 12, 3) := dk_160 0 12 (dk_at dksX4_voice_2 1 rfl rfl)
theorem dX4_voice_52 : decode cX4_voice 52 = .ok (.aload_n 0, 1) := dk_42 (dk_at dksX4_voice_2 4 rfl rfl)
theorem dX4_voice_53 : decode cX4_voice 53 = .ok (.iload_n 1, 1) := dk_27 (dk_at dksX4_voice_2 5 rfl rfl)
theorem dX4_voice_54 : decode cX4_voice 54 = .ok (.iload_n 3, 1) := dk_29 (dk_at dksX4_voice_2 6 rfl rfl)
theorem dX4_voice_55 : decode cX4_voice 55 = .ok (.invokevirtual 283, 3) := dk_182 1 27 (dk_at dksX4_voice_2 7 rfl rfl)
theorem dX4_voice_58 : decode cX4_voice 58 = .ok (.goto 23, 3) := dk_167 0 23 (dk_at dksX4_voice_2 10 rfl rfl)
theorem dX4_voice_61 : decode cX4_voice 61 = .ok (.iload_n 2, 1) := dk_28 (dk_at dksX4_voice_2 13 rfl rfl)
theorem dX4_voice_62 : decode cX4_voice 62 = .ok (.iconst 2, 1) := dk_5 (dk_at dksX4_voice_2 14 rfl rfl)
theorem dX4_voice_63 : decode cX4_voice 63 = .ok (.if_icmp .ne 12, 3) := dk_160 0 12 (dk_at dksX4_voice_2 15 rfl rfl)
theorem dX4_voice_66 : decode cX4_voice 66 = .ok (.aload_n 0, 1) := dk_42 (dk_at dksX4_voice_2 18 rfl rfl)
theorem dX4_voice_67 : decode cX4_voice 67 = .ok (.iload_n 1, 1) := dk_27 (dk_at dksX4_voice_2 19 rfl rfl)
theorem dX4_voice_68 : decode cX4_voice 68 = .ok (.iload_n 3, 1) := dk_29 (dk_at dksX4_voice_2 20 rfl rfl)
theorem dX4_voice_69 : decode cX4_voice 69 = .ok (.invokevirtual 295, 3) := dk_182 1 39 (dk_at dksX4_voice_2 21 rfl rfl)
theorem dX4_voice_72 : decode cX4_voice 72 = .ok (.goto 9, 3) := dk_167 0 9 (dk_at dksX4_voice_3 0 rfl rfl)
theorem dX4_voice_75 : decode cX4_voice 75 = .ok (.aload_n 0, 1) := dk_42 (dk_at dksX4_voice_3 3 rfl rfl)
theorem dX4_voice_76 : decode cX4_voice 76 = .ok (.iload_n 1, 1) := dk_27 (dk_at dksX4_voice_3 4 rfl rfl)
theorem dX4_voice_77 : decode cX4_voice 77 = .ok (.iload_n 3, 1) := dk_29 (dk_at dksX4_voice_3 5 rfl rfl)
theorem dX4_voice_78 : decode cX4_voice 78 = .ok (.invokevirtual 298, 3) := dk_182 1 42 (dk_at dksX4_voice_3 6 rfl rfl)
theorem dX4_voice_81 : decode cX4_voice 81 = .ok (.istore 4, 2) := dk_54 4 (dk_at dksX4_voice_3 9 rfl rfl)
theorem dX4_voice_83 : decode cX4_voice 83 = .ok (.aload_n 0, 1) := dk_42 (dk_at dksX4_voice_3 11 rfl rfl)
theorem dX4_voice_84 : decode cX4_voice 84 = .ok (.getfield 289, 3) := dk_180 1 33 (dk_at dksX4_voice_3 12 rfl rfl)
theorem dX4_voice_87 : decode cX4_voice 87 = .ok (.ifCond .eq 13, 3) := dk_153 0 13 (dk_at dksX4_voice_3 15 rfl rfl)
theorem dX4_voice_90 : decode cX4_voice 90 = .ok (.aload_n 0, 1) := dk_42 (dk_at dksX4_voice_3 18 rfl rfl)
theorem dX4_voice_91 : decode cX4_voice 91 = .ok (.ldc_w 301, 3) := dk_19 1 45 (dk_at dksX4_voice_3 19 rfl rfl)
theorem dX4_voice_94 : decode cX4_voice 94 = .ok (.invokevirtual 126, 3) := dk_182 0 126 (dk_at dksX4_voice_4 0 rfl rfl)
theorem dX4_voice_97 : decode cX4_voice 97 = .ok (.goto 5, 3) := dk_167 0 5 (dk_at dksX4_voice_4 3 rfl rfl)
theorem dX4_voice_100 : decode cX4_voice 100 = .ok (.iload 4, 2) := dk_21 4 (dk_at dksX4_voice_4 6 rfl rfl)
theorem dX4_voice_102 : decode cX4_voice 102 = .ok (.ireturn, 1) := dk_172 (dk_at dksX4_voice_4 8 rfl rfl)
abbrev cX4_weighs : ByteArray := prog_19_method_84_code
def yX4_weighs : MethodName := ⟨RX4, "weighs", "(II)I"⟩
def dkwX4_weighs_3 : List UInt8 := [16, 70, 182, 1, 9, 16, 9, 172, 42, 27, 28, 182, 1, 12, 172]
abbrev dktX4_weighs_3 : List UInt8 := dkwX4_weighs_3 ++ []
def dkwX4_weighs_2 : List UInt8 := [42, 27, 28, 182, 1, 15, 172, 42, 16, 50, 182, 1, 9, 42, 27, 28, 182, 1, 15, 6, 104, 172, 42]
abbrev dktX4_weighs_2 : List UInt8 := dkwX4_weighs_2 ++ dktX4_weighs_3
def dkwX4_weighs_1 : List UInt8 := [171, 0, 0, 0, 0, 65, 0, 0, 0, 3, 0, 0, 0, 1, 0, 0, 0, 34, 0, 0, 0, 4, 0, 0, 0, 41, 0, 0, 0, 6, 0, 0, 0, 56]
abbrev dktX4_weighs_1 : List UInt8 := dkwX4_weighs_1 ++ dktX4_weighs_2
def dkwX4_weighs_0 : List UInt8 := [42, 27, 3, 182, 0, 65]
abbrev dktX4_weighs_0 : List UInt8 := dkwX4_weighs_0 ++ dktX4_weighs_1
theorem dksX4_weighs_0 : cX4_weighs.data.toList.drop 0 = dktX4_weighs_0 := by decide +kernel
theorem dksX4_weighs_1 : cX4_weighs.data.toList.drop 6 = dktX4_weighs_1 := dk_seg dksX4_weighs_0 6 rfl rfl
theorem dksX4_weighs_2 : cX4_weighs.data.toList.drop 40 = dktX4_weighs_2 := dk_seg dksX4_weighs_1 34 rfl rfl
theorem dksX4_weighs_3 : cX4_weighs.data.toList.drop 63 = dktX4_weighs_3 := dk_seg dksX4_weighs_2 23 rfl rfl
theorem dX4_weighs_0 : decode cX4_weighs 0 = .ok (.aload_n 0, 1) := dk_42 (dk_at dksX4_weighs_0 0 rfl rfl)
theorem dX4_weighs_1 : decode cX4_weighs 1 = .ok (.iload_n 1, 1) := dk_27 (dk_at dksX4_weighs_0 1 rfl rfl)
theorem dX4_weighs_2 : decode cX4_weighs 2 = .ok (.iconst 0, 1) := dk_3 (dk_at dksX4_weighs_0 2 rfl rfl)
theorem dX4_weighs_3 : decode cX4_weighs 3 = .ok (.invokevirtual 65, 3) := dk_182 0 65 (dk_at dksX4_weighs_0 3 rfl rfl)
theorem dX4_weighs_6 : decode cX4_weighs 6 = .ok (.lookupswitch 65 #[(1, 34), (4, 41), (6, 56)], 34) := by decide +kernel
theorem dX4_weighs_40 : decode cX4_weighs 40 = .ok (.aload_n 0, 1) := dk_42 (dk_at dksX4_weighs_2 0 rfl rfl)
theorem dX4_weighs_41 : decode cX4_weighs 41 = .ok (.iload_n 1, 1) := dk_27 (dk_at dksX4_weighs_2 1 rfl rfl)
theorem dX4_weighs_42 : decode cX4_weighs 42 = .ok (.iload_n 2, 1) := dk_28 (dk_at dksX4_weighs_2 2 rfl rfl)
theorem dX4_weighs_43 : decode cX4_weighs 43 = .ok (.invokevirtual 271, 3) := dk_182 1 15 (dk_at dksX4_weighs_2 3 rfl rfl)
theorem dX4_weighs_46 : decode cX4_weighs 46 = .ok (.ireturn, 1) := dk_172 (dk_at dksX4_weighs_2 6 rfl rfl)
theorem dX4_weighs_47 : decode cX4_weighs 47 = .ok (.aload_n 0, 1) := dk_42 (dk_at dksX4_weighs_2 7 rfl rfl)
theorem dX4_weighs_48 : decode cX4_weighs 48 = .ok (.bipush 50, 2) := dk_16 50 (dk_at dksX4_weighs_2 8 rfl rfl)
theorem dX4_weighs_50 : decode cX4_weighs 50 = .ok (.invokevirtual 265, 3) := dk_182 1 9 (dk_at dksX4_weighs_2 10 rfl rfl)
theorem dX4_weighs_53 : decode cX4_weighs 53 = .ok (.aload_n 0, 1) := dk_42 (dk_at dksX4_weighs_2 13 rfl rfl)
theorem dX4_weighs_54 : decode cX4_weighs 54 = .ok (.iload_n 1, 1) := dk_27 (dk_at dksX4_weighs_2 14 rfl rfl)
theorem dX4_weighs_55 : decode cX4_weighs 55 = .ok (.iload_n 2, 1) := dk_28 (dk_at dksX4_weighs_2 15 rfl rfl)
theorem dX4_weighs_56 : decode cX4_weighs 56 = .ok (.invokevirtual 271, 3) := dk_182 1 15 (dk_at dksX4_weighs_2 16 rfl rfl)
theorem dX4_weighs_59 : decode cX4_weighs 59 = .ok (.iconst 3, 1) := dk_6 (dk_at dksX4_weighs_2 19 rfl rfl)
theorem dX4_weighs_60 : decode cX4_weighs 60 = .ok (.imul, 1) := dk_104 (dk_at dksX4_weighs_2 20 rfl rfl)
theorem dX4_weighs_61 : decode cX4_weighs 61 = .ok (.ireturn, 1) := dk_172 (dk_at dksX4_weighs_2 21 rfl rfl)
theorem dX4_weighs_62 : decode cX4_weighs 62 = .ok (.aload_n 0, 1) := dk_42 (dk_at dksX4_weighs_2 22 rfl rfl)
theorem dX4_weighs_63 : decode cX4_weighs 63 = .ok (.bipush 70, 2) := dk_16 70 (dk_at dksX4_weighs_3 0 rfl rfl)
theorem dX4_weighs_65 : decode cX4_weighs 65 = .ok (.invokevirtual 265, 3) := dk_182 1 9 (dk_at dksX4_weighs_3 2 rfl rfl)
theorem dX4_weighs_68 : decode cX4_weighs 68 = .ok (.bipush 9, 2) := dk_16 9 (dk_at dksX4_weighs_3 5 rfl rfl)
theorem dX4_weighs_70 : decode cX4_weighs 70 = .ok (.ireturn, 1) := dk_172 (dk_at dksX4_weighs_3 7 rfl rfl)
theorem dX4_weighs_71 : decode cX4_weighs 71 = .ok (.aload_n 0, 1) := dk_42 (dk_at dksX4_weighs_3 8 rfl rfl)
theorem dX4_weighs_72 : decode cX4_weighs 72 = .ok (.iload_n 1, 1) := dk_27 (dk_at dksX4_weighs_3 9 rfl rfl)
theorem dX4_weighs_73 : decode cX4_weighs 73 = .ok (.iload_n 2, 1) := dk_28 (dk_at dksX4_weighs_3 10 rfl rfl)
theorem dX4_weighs_74 : decode cX4_weighs 74 = .ok (.invokevirtual 268, 3) := dk_182 1 12 (dk_at dksX4_weighs_3 11 rfl rfl)
theorem dX4_weighs_77 : decode cX4_weighs 77 = .ok (.ireturn, 1) := dk_172 (dk_at dksX4_weighs_3 14 rfl rfl)
abbrev cX4_flatWeighs : ByteArray := prog_19_method_83_code
def yX4_flatWeighs : MethodName := ⟨RX4, "flatWeighs", "(II)I"⟩
def dkwX4_flatWeighs_0 : List UInt8 := [42, 16, 20, 182, 1, 9, 42, 27, 28, 182, 1, 12, 7, 100, 172]
abbrev dktX4_flatWeighs_0 : List UInt8 := dkwX4_flatWeighs_0 ++ []
theorem dksX4_flatWeighs_0 : cX4_flatWeighs.data.toList.drop 0 = dktX4_flatWeighs_0 := by decide +kernel
theorem dX4_flatWeighs_0 : decode cX4_flatWeighs 0 = .ok (.aload_n 0, 1) := dk_42 (dk_at dksX4_flatWeighs_0 0 rfl rfl)
theorem dX4_flatWeighs_1 : decode cX4_flatWeighs 1 = .ok (.bipush 20, 2) := dk_16 20 (dk_at dksX4_flatWeighs_0 1 rfl rfl)
theorem dX4_flatWeighs_3 : decode cX4_flatWeighs 3 = .ok (.invokevirtual 265, 3) := dk_182 1 9 (dk_at dksX4_flatWeighs_0 3 rfl rfl)
theorem dX4_flatWeighs_6 : decode cX4_flatWeighs 6 = .ok (.aload_n 0, 1) := dk_42 (dk_at dksX4_flatWeighs_0 6 rfl rfl)
theorem dX4_flatWeighs_7 : decode cX4_flatWeighs 7 = .ok (.iload_n 1, 1) := dk_27 (dk_at dksX4_flatWeighs_0 7 rfl rfl)
theorem dX4_flatWeighs_8 : decode cX4_flatWeighs 8 = .ok (.iload_n 2, 1) := dk_28 (dk_at dksX4_flatWeighs_0 8 rfl rfl)
theorem dX4_flatWeighs_9 : decode cX4_flatWeighs 9 = .ok (.invokevirtual 268, 3) := dk_182 1 12 (dk_at dksX4_flatWeighs_0 9 rfl rfl)
theorem dX4_flatWeighs_12 : decode cX4_flatWeighs 12 = .ok (.iconst 4, 1) := dk_7 (dk_at dksX4_flatWeighs_0 12 rfl rfl)
theorem dX4_flatWeighs_13 : decode cX4_flatWeighs 13 = .ok (.isub, 1) := dk_100 (dk_at dksX4_flatWeighs_0 13 rfl rfl)
theorem dX4_flatWeighs_14 : decode cX4_flatWeighs 14 = .ok (.ireturn, 1) := dk_172 (dk_at dksX4_flatWeighs_0 14 rfl rfl)
abbrev cX4_begins : ByteArray := prog_19_method_81_code
def yX4_begins : MethodName := ⟨RX4, "begins", "(I)V"⟩
def dkwX4_begins_1 : List UInt8 := [4, 96, 181, 1, 6, 177]
abbrev dktX4_begins_1 : List UInt8 := dkwX4_begins_1 ++ []
def dkwX4_begins_0 : List UInt8 := [42, 180, 1, 6, 16, 30, 162, 0, 23, 42, 180, 0, 53, 42, 180, 1, 6, 27, 79, 42, 89, 180, 1, 6]
abbrev dktX4_begins_0 : List UInt8 := dkwX4_begins_0 ++ dktX4_begins_1
theorem dksX4_begins_0 : cX4_begins.data.toList.drop 0 = dktX4_begins_0 := by decide +kernel
theorem dksX4_begins_1 : cX4_begins.data.toList.drop 24 = dktX4_begins_1 := dk_seg dksX4_begins_0 24 rfl rfl
theorem dX4_begins_0 : decode cX4_begins 0 = .ok (.aload_n 0, 1) := dk_42 (dk_at dksX4_begins_0 0 rfl rfl)
theorem dX4_begins_1 : decode cX4_begins 1 = .ok (.getfield 262, 3) := dk_180 1 6 (dk_at dksX4_begins_0 1 rfl rfl)
theorem dX4_begins_4 : decode cX4_begins 4 = .ok (.bipush 30, 2) := dk_16 30 (dk_at dksX4_begins_0 4 rfl rfl)
theorem dX4_begins_6 : decode cX4_begins 6 = .ok (.if_icmp .ge 23, 3) := dk_162 0 23 (dk_at dksX4_begins_0 6 rfl rfl)
theorem dX4_begins_9 : decode cX4_begins 9 = .ok (.aload_n 0, 1) := dk_42 (dk_at dksX4_begins_0 9 rfl rfl)
theorem dX4_begins_10 : decode cX4_begins 10 = .ok (.getfield 53, 3) := dk_180 0 53 (dk_at dksX4_begins_0 10 rfl rfl)
theorem dX4_begins_13 : decode cX4_begins 13 = .ok (.aload_n 0, 1) := dk_42 (dk_at dksX4_begins_0 13 rfl rfl)
theorem dX4_begins_14 : decode cX4_begins 14 = .ok (.getfield 262, 3) := dk_180 1 6 (dk_at dksX4_begins_0 14 rfl rfl)
theorem dX4_begins_17 : decode cX4_begins 17 = .ok (.iload_n 1, 1) := dk_27 (dk_at dksX4_begins_0 17 rfl rfl)
theorem dX4_begins_18 : decode cX4_begins 18 = .ok (.iastore, 1) := dk_79 (dk_at dksX4_begins_0 18 rfl rfl)
theorem dX4_begins_19 : decode cX4_begins 19 = .ok (.aload_n 0, 1) := dk_42 (dk_at dksX4_begins_0 19 rfl rfl)
theorem dX4_begins_20 : decode cX4_begins 20 = .ok (.dup, 1) := dk_89 (dk_at dksX4_begins_0 20 rfl rfl)
theorem dX4_begins_21 : decode cX4_begins 21 = .ok (.getfield 262, 3) := dk_180 1 6 (dk_at dksX4_begins_0 21 rfl rfl)
theorem dX4_begins_24 : decode cX4_begins 24 = .ok (.iconst 1, 1) := dk_4 (dk_at dksX4_begins_1 0 rfl rfl)
theorem dX4_begins_25 : decode cX4_begins 25 = .ok (.iadd, 1) := dk_96 (dk_at dksX4_begins_1 1 rfl rfl)
theorem dX4_begins_26 : decode cX4_begins 26 = .ok (.putfield 262, 3) := dk_181 1 6 (dk_at dksX4_begins_1 2 rfl rfl)
theorem dX4_begins_29 : decode cX4_begins 29 = .ok (.return_, 1) := dk_177 (dk_at dksX4_begins_1 5 rfl rfl)
abbrev cX4_plainWeighs : ByteArray := prog_19_method_82_code
def yX4_plainWeighs : MethodName := ⟨RX4, "plainWeighs", "(II)I"⟩
def dkwX4_plainWeighs_0 : List UInt8 := [42, 16, 10, 182, 1, 9, 28, 27, 96, 172]
abbrev dktX4_plainWeighs_0 : List UInt8 := dkwX4_plainWeighs_0 ++ []
theorem dksX4_plainWeighs_0 : cX4_plainWeighs.data.toList.drop 0 = dktX4_plainWeighs_0 := by decide +kernel
theorem dX4_plainWeighs_0 : decode cX4_plainWeighs 0 = .ok (.aload_n 0, 1) := dk_42 (dk_at dksX4_plainWeighs_0 0 rfl rfl)
theorem dX4_plainWeighs_1 : decode cX4_plainWeighs 1 = .ok (.bipush 10, 2) := dk_16 10 (dk_at dksX4_plainWeighs_0 1 rfl rfl)
theorem dX4_plainWeighs_3 : decode cX4_plainWeighs 3 = .ok (.invokevirtual 265, 3) := dk_182 1 9 (dk_at dksX4_plainWeighs_0 3 rfl rfl)
theorem dX4_plainWeighs_6 : decode cX4_plainWeighs 6 = .ok (.iload_n 2, 1) := dk_28 (dk_at dksX4_plainWeighs_0 6 rfl rfl)
theorem dX4_plainWeighs_7 : decode cX4_plainWeighs 7 = .ok (.iload_n 1, 1) := dk_27 (dk_at dksX4_plainWeighs_0 7 rfl rfl)
theorem dX4_plainWeighs_8 : decode cX4_plainWeighs 8 = .ok (.iadd, 1) := dk_96 (dk_at dksX4_plainWeighs_0 8 rfl rfl)
theorem dX4_plainWeighs_9 : decode cX4_plainWeighs 9 = .ok (.ireturn, 1) := dk_172 (dk_at dksX4_plainWeighs_0 9 rfl rfl)
abbrev cX4_says : ByteArray := prog_19_method_87_code
def yX4_says : MethodName := ⟨RX4, "says", "(II)I"⟩
def dkwX4_says_4 : List UInt8 := [182, 1, 21, 172]
abbrev dktX4_says_4 : List UInt8 := dkwX4_says_4 ++ []
def dkwX4_says_3 : List UInt8 := [16, 71, 182, 1, 9, 42, 27, 28, 182, 1, 21, 42, 27, 4, 182, 0, 65, 96, 172, 42, 27, 28]
abbrev dktX4_says_3 : List UInt8 := dkwX4_says_3 ++ dktX4_says_4
def dkwX4_says_2 : List UInt8 := [42, 27, 28, 182, 1, 24, 172, 42, 16, 60, 182, 1, 9, 42, 27, 28, 4, 96, 182, 1, 24, 172, 42]
abbrev dktX4_says_2 : List UInt8 := dkwX4_says_2 ++ dktX4_says_3
def dkwX4_says_1 : List UInt8 := [170, 0, 0, 0, 0, 76, 0, 0, 0, 2, 0, 0, 0, 6, 0, 0, 0, 34, 0, 0, 0, 76, 0, 0, 0, 76, 0, 0, 0, 41, 0, 0, 0, 56]
abbrev dktX4_says_1 : List UInt8 := dkwX4_says_1 ++ dktX4_says_2
def dkwX4_says_0 : List UInt8 := [42, 27, 3, 182, 0, 65]
abbrev dktX4_says_0 : List UInt8 := dkwX4_says_0 ++ dktX4_says_1
theorem dksX4_says_0 : cX4_says.data.toList.drop 0 = dktX4_says_0 := by decide +kernel
theorem dksX4_says_1 : cX4_says.data.toList.drop 6 = dktX4_says_1 := dk_seg dksX4_says_0 6 rfl rfl
theorem dksX4_says_2 : cX4_says.data.toList.drop 40 = dktX4_says_2 := dk_seg dksX4_says_1 34 rfl rfl
theorem dksX4_says_3 : cX4_says.data.toList.drop 63 = dktX4_says_3 := dk_seg dksX4_says_2 23 rfl rfl
theorem dksX4_says_4 : cX4_says.data.toList.drop 85 = dktX4_says_4 := dk_seg dksX4_says_3 22 rfl rfl
theorem dX4_says_0 : decode cX4_says 0 = .ok (.aload_n 0, 1) := dk_42 (dk_at dksX4_says_0 0 rfl rfl)
theorem dX4_says_1 : decode cX4_says 1 = .ok (.iload_n 1, 1) := dk_27 (dk_at dksX4_says_0 1 rfl rfl)
theorem dX4_says_2 : decode cX4_says 2 = .ok (.iconst 0, 1) := dk_3 (dk_at dksX4_says_0 2 rfl rfl)
theorem dX4_says_3 : decode cX4_says 3 = .ok (.invokevirtual 65, 3) := dk_182 0 65 (dk_at dksX4_says_0 3 rfl rfl)
theorem dX4_says_6 : decode cX4_says 6 = .ok (.tableswitch 76 2 6 #[34, 76, 76, 41, 56], 34) := by decide +kernel
theorem dX4_says_40 : decode cX4_says 40 = .ok (.aload_n 0, 1) := dk_42 (dk_at dksX4_says_2 0 rfl rfl)
theorem dX4_says_41 : decode cX4_says 41 = .ok (.iload_n 1, 1) := dk_27 (dk_at dksX4_says_2 1 rfl rfl)
theorem dX4_says_42 : decode cX4_says 42 = .ok (.iload_n 2, 1) := dk_28 (dk_at dksX4_says_2 2 rfl rfl)
theorem dX4_says_43 : decode cX4_says 43 = .ok (.invokevirtual 280, 3) := dk_182 1 24 (dk_at dksX4_says_2 3 rfl rfl)
theorem dX4_says_46 : decode cX4_says 46 = .ok (.ireturn, 1) := dk_172 (dk_at dksX4_says_2 6 rfl rfl)
theorem dX4_says_47 : decode cX4_says 47 = .ok (.aload_n 0, 1) := dk_42 (dk_at dksX4_says_2 7 rfl rfl)
theorem dX4_says_48 : decode cX4_says 48 = .ok (.bipush 60, 2) := dk_16 60 (dk_at dksX4_says_2 8 rfl rfl)
theorem dX4_says_50 : decode cX4_says 50 = .ok (.invokevirtual 265, 3) := dk_182 1 9 (dk_at dksX4_says_2 10 rfl rfl)
theorem dX4_says_53 : decode cX4_says 53 = .ok (.aload_n 0, 1) := dk_42 (dk_at dksX4_says_2 13 rfl rfl)
theorem dX4_says_54 : decode cX4_says 54 = .ok (.iload_n 1, 1) := dk_27 (dk_at dksX4_says_2 14 rfl rfl)
theorem dX4_says_55 : decode cX4_says 55 = .ok (.iload_n 2, 1) := dk_28 (dk_at dksX4_says_2 15 rfl rfl)
theorem dX4_says_56 : decode cX4_says 56 = .ok (.iconst 1, 1) := dk_4 (dk_at dksX4_says_2 16 rfl rfl)
theorem dX4_says_57 : decode cX4_says 57 = .ok (.iadd, 1) := dk_96 (dk_at dksX4_says_2 17 rfl rfl)
theorem dX4_says_58 : decode cX4_says 58 = .ok (.invokevirtual 280, 3) := dk_182 1 24 (dk_at dksX4_says_2 18 rfl rfl)
theorem dX4_says_61 : decode cX4_says 61 = .ok (.ireturn, 1) := dk_172 (dk_at dksX4_says_2 21 rfl rfl)
theorem dX4_says_62 : decode cX4_says 62 = .ok (.aload_n 0, 1) := dk_42 (dk_at dksX4_says_2 22 rfl rfl)
theorem dX4_says_63 : decode cX4_says 63 = .ok (.bipush 71, 2) := dk_16 71 (dk_at dksX4_says_3 0 rfl rfl)
theorem dX4_says_65 : decode cX4_says 65 = .ok (.invokevirtual 265, 3) := dk_182 1 9 (dk_at dksX4_says_3 2 rfl rfl)
theorem dX4_says_68 : decode cX4_says 68 = .ok (.aload_n 0, 1) := dk_42 (dk_at dksX4_says_3 5 rfl rfl)
theorem dX4_says_69 : decode cX4_says 69 = .ok (.iload_n 1, 1) := dk_27 (dk_at dksX4_says_3 6 rfl rfl)
theorem dX4_says_70 : decode cX4_says 70 = .ok (.iload_n 2, 1) := dk_28 (dk_at dksX4_says_3 7 rfl rfl)
theorem dX4_says_71 : decode cX4_says 71 = .ok (.invokevirtual 277, 3) := dk_182 1 21 (dk_at dksX4_says_3 8 rfl rfl)
theorem dX4_says_74 : decode cX4_says 74 = .ok (.aload_n 0, 1) := dk_42 (dk_at dksX4_says_3 11 rfl rfl)
theorem dX4_says_75 : decode cX4_says 75 = .ok (.iload_n 1, 1) := dk_27 (dk_at dksX4_says_3 12 rfl rfl)
theorem dX4_says_76 : decode cX4_says 76 = .ok (.iconst 1, 1) := dk_4 (dk_at dksX4_says_3 13 rfl rfl)
theorem dX4_says_77 : decode cX4_says 77 = .ok (.invokevirtual 65, 3) := dk_182 0 65 (dk_at dksX4_says_3 14 rfl rfl)
theorem dX4_says_80 : decode cX4_says 80 = .ok (.iadd, 1) := dk_96 (dk_at dksX4_says_3 17 rfl rfl)
theorem dX4_says_81 : decode cX4_says 81 = .ok (.ireturn, 1) := dk_172 (dk_at dksX4_says_3 18 rfl rfl)
theorem dX4_says_82 : decode cX4_says 82 = .ok (.aload_n 0, 1) := dk_42 (dk_at dksX4_says_3 19 rfl rfl)
theorem dX4_says_83 : decode cX4_says 83 = .ok (.iload_n 1, 1) := dk_27 (dk_at dksX4_says_3 20 rfl rfl)
theorem dX4_says_84 : decode cX4_says 84 = .ok (.iload_n 2, 1) := dk_28 (dk_at dksX4_says_3 21 rfl rfl)
theorem dX4_says_85 : decode cX4_says 85 = .ok (.invokevirtual 277, 3) := dk_182 1 21 (dk_at dksX4_says_4 0 rfl rfl)
theorem dX4_says_88 : decode cX4_says 88 = .ok (.ireturn, 1) := dk_172 (dk_at dksX4_says_4 3 rfl rfl)
abbrev cX4_starSays : ByteArray := prog_19_method_86_code
def yX4_starSays : MethodName := ⟨RX4, "starSays", "(II)I"⟩
def dkwX4_starSays_0 : List UInt8 := [42, 16, 30, 182, 1, 9, 42, 27, 28, 182, 1, 21, 116, 172]
abbrev dktX4_starSays_0 : List UInt8 := dkwX4_starSays_0 ++ []
theorem dksX4_starSays_0 : cX4_starSays.data.toList.drop 0 = dktX4_starSays_0 := by decide +kernel
theorem dX4_starSays_0 : decode cX4_starSays 0 = .ok (.aload_n 0, 1) := dk_42 (dk_at dksX4_starSays_0 0 rfl rfl)
theorem dX4_starSays_1 : decode cX4_starSays 1 = .ok (.bipush 30, 2) := dk_16 30 (dk_at dksX4_starSays_0 1 rfl rfl)
theorem dX4_starSays_3 : decode cX4_starSays 3 = .ok (.invokevirtual 265, 3) := dk_182 1 9 (dk_at dksX4_starSays_0 3 rfl rfl)
theorem dX4_starSays_6 : decode cX4_starSays 6 = .ok (.aload_n 0, 1) := dk_42 (dk_at dksX4_starSays_0 6 rfl rfl)
theorem dX4_starSays_7 : decode cX4_starSays 7 = .ok (.iload_n 1, 1) := dk_27 (dk_at dksX4_starSays_0 7 rfl rfl)
theorem dX4_starSays_8 : decode cX4_starSays 8 = .ok (.iload_n 2, 1) := dk_28 (dk_at dksX4_starSays_0 8 rfl rfl)
theorem dX4_starSays_9 : decode cX4_starSays 9 = .ok (.invokevirtual 277, 3) := dk_182 1 21 (dk_at dksX4_starSays_0 9 rfl rfl)
theorem dX4_starSays_12 : decode cX4_starSays 12 = .ok (.ineg, 1) := dk_116 (dk_at dksX4_starSays_0 12 rfl rfl)
theorem dX4_starSays_13 : decode cX4_starSays 13 = .ok (.ireturn, 1) := dk_172 (dk_at dksX4_starSays_0 13 rfl rfl)
abbrev cX4_plainSays : ByteArray := prog_19_method_85_code
def yX4_plainSays : MethodName := ⟨RX4, "plainSays", "(II)I"⟩
def dkwX4_plainSays_0 : List UInt8 := [42, 16, 11, 182, 1, 9, 42, 27, 28, 182, 1, 18, 5, 104, 172]
abbrev dktX4_plainSays_0 : List UInt8 := dkwX4_plainSays_0 ++ []
theorem dksX4_plainSays_0 : cX4_plainSays.data.toList.drop 0 = dktX4_plainSays_0 := by decide +kernel
theorem dX4_plainSays_0 : decode cX4_plainSays 0 = .ok (.aload_n 0, 1) := dk_42 (dk_at dksX4_plainSays_0 0 rfl rfl)
theorem dX4_plainSays_1 : decode cX4_plainSays 1 = .ok (.bipush 11, 2) := dk_16 11 (dk_at dksX4_plainSays_0 1 rfl rfl)
theorem dX4_plainSays_3 : decode cX4_plainSays 3 = .ok (.invokevirtual 265, 3) := dk_182 1 9 (dk_at dksX4_plainSays_0 3 rfl rfl)
theorem dX4_plainSays_6 : decode cX4_plainSays 6 = .ok (.aload_n 0, 1) := dk_42 (dk_at dksX4_plainSays_0 6 rfl rfl)
theorem dX4_plainSays_7 : decode cX4_plainSays 7 = .ok (.iload_n 1, 1) := dk_27 (dk_at dksX4_plainSays_0 7 rfl rfl)
theorem dX4_plainSays_8 : decode cX4_plainSays 8 = .ok (.iload_n 2, 1) := dk_28 (dk_at dksX4_plainSays_0 8 rfl rfl)
theorem dX4_plainSays_9 : decode cX4_plainSays 9 = .ok (.invokevirtual 274, 3) := dk_182 1 18 (dk_at dksX4_plainSays_0 9 rfl rfl)
theorem dX4_plainSays_12 : decode cX4_plainSays 12 = .ok (.iconst 2, 1) := dk_5 (dk_at dksX4_plainSays_0 12 rfl rfl)
theorem dX4_plainSays_13 : decode cX4_plainSays 13 = .ok (.imul, 1) := dk_104 (dk_at dksX4_plainSays_0 13 rfl rfl)
theorem dX4_plainSays_14 : decode cX4_plainSays 14 = .ok (.ireturn, 1) := dk_172 (dk_at dksX4_plainSays_0 14 rfl rfl)
abbrev cX4_ties : ByteArray := prog_19_method_89_code
def yX4_ties : MethodName := ⟨RX4, "ties", "(II)I"⟩
def dkwX4_ties_3 : List UInt8 := [182, 1, 30, 27, 130, 172, 42, 27, 28, 182, 1, 30, 172]
abbrev dktX4_ties_3 : List UInt8 := dkwX4_ties_3 ++ []
def dkwX4_ties_2 : List UInt8 := [42, 16, 40, 182, 1, 9, 42, 27, 28, 5, 108, 182, 1, 30, 172, 42, 16, 51, 182, 1, 9, 42, 27, 28]
abbrev dktX4_ties_2 : List UInt8 := dkwX4_ties_2 ++ dktX4_ties_3
def dkwX4_ties_1 : List UInt8 := [171, 0, 0, 0, 0, 56, 0, 0, 0, 2, 0, 0, 0, 3, 0, 0, 0, 26, 0, 0, 0, 4, 0, 0, 0, 41]
abbrev dktX4_ties_1 : List UInt8 := dkwX4_ties_1 ++ dktX4_ties_2
def dkwX4_ties_0 : List UInt8 := [42, 27, 3, 182, 0, 65]
abbrev dktX4_ties_0 : List UInt8 := dkwX4_ties_0 ++ dktX4_ties_1
theorem dksX4_ties_0 : cX4_ties.data.toList.drop 0 = dktX4_ties_0 := by decide +kernel
theorem dksX4_ties_1 : cX4_ties.data.toList.drop 6 = dktX4_ties_1 := dk_seg dksX4_ties_0 6 rfl rfl
theorem dksX4_ties_2 : cX4_ties.data.toList.drop 32 = dktX4_ties_2 := dk_seg dksX4_ties_1 26 rfl rfl
theorem dksX4_ties_3 : cX4_ties.data.toList.drop 56 = dktX4_ties_3 := dk_seg dksX4_ties_2 24 rfl rfl
theorem dX4_ties_0 : decode cX4_ties 0 = .ok (.aload_n 0, 1) := dk_42 (dk_at dksX4_ties_0 0 rfl rfl)
theorem dX4_ties_1 : decode cX4_ties 1 = .ok (.iload_n 1, 1) := dk_27 (dk_at dksX4_ties_0 1 rfl rfl)
theorem dX4_ties_2 : decode cX4_ties 2 = .ok (.iconst 0, 1) := dk_3 (dk_at dksX4_ties_0 2 rfl rfl)
theorem dX4_ties_3 : decode cX4_ties 3 = .ok (.invokevirtual 65, 3) := dk_182 0 65 (dk_at dksX4_ties_0 3 rfl rfl)
theorem dX4_ties_6 : decode cX4_ties 6 = .ok (.lookupswitch 56 #[(3, 26), (4, 41)], 26) := by decide +kernel
theorem dX4_ties_32 : decode cX4_ties 32 = .ok (.aload_n 0, 1) := dk_42 (dk_at dksX4_ties_2 0 rfl rfl)
theorem dX4_ties_33 : decode cX4_ties 33 = .ok (.bipush 40, 2) := dk_16 40 (dk_at dksX4_ties_2 1 rfl rfl)
theorem dX4_ties_35 : decode cX4_ties 35 = .ok (.invokevirtual 265, 3) := dk_182 1 9 (dk_at dksX4_ties_2 3 rfl rfl)
theorem dX4_ties_38 : decode cX4_ties 38 = .ok (.aload_n 0, 1) := dk_42 (dk_at dksX4_ties_2 6 rfl rfl)
theorem dX4_ties_39 : decode cX4_ties 39 = .ok (.iload_n 1, 1) := dk_27 (dk_at dksX4_ties_2 7 rfl rfl)
theorem dX4_ties_40 : decode cX4_ties 40 = .ok (.iload_n 2, 1) := dk_28 (dk_at dksX4_ties_2 8 rfl rfl)
theorem dX4_ties_41 : decode cX4_ties 41 = .ok (.iconst 2, 1) := dk_5 (dk_at dksX4_ties_2 9 rfl rfl)
theorem dX4_ties_42 : decode cX4_ties 42 = .ok (.idiv, 1) := dk_108 (dk_at dksX4_ties_2 10 rfl rfl)
theorem dX4_ties_43 : decode cX4_ties 43 = .ok (.invokevirtual 286, 3) := dk_182 1 30 (dk_at dksX4_ties_2 11 rfl rfl)
theorem dX4_ties_46 : decode cX4_ties 46 = .ok (.ireturn, 1) := dk_172 (dk_at dksX4_ties_2 14 rfl rfl)
theorem dX4_ties_47 : decode cX4_ties 47 = .ok (.aload_n 0, 1) := dk_42 (dk_at dksX4_ties_2 15 rfl rfl)
theorem dX4_ties_48 : decode cX4_ties 48 = .ok (.bipush 51, 2) := dk_16 51 (dk_at dksX4_ties_2 16 rfl rfl)
theorem dX4_ties_50 : decode cX4_ties 50 = .ok (.invokevirtual 265, 3) := dk_182 1 9 (dk_at dksX4_ties_2 18 rfl rfl)
theorem dX4_ties_53 : decode cX4_ties 53 = .ok (.aload_n 0, 1) := dk_42 (dk_at dksX4_ties_2 21 rfl rfl)
theorem dX4_ties_54 : decode cX4_ties 54 = .ok (.iload_n 1, 1) := dk_27 (dk_at dksX4_ties_2 22 rfl rfl)
theorem dX4_ties_55 : decode cX4_ties 55 = .ok (.iload_n 2, 1) := dk_28 (dk_at dksX4_ties_2 23 rfl rfl)
theorem dX4_ties_56 : decode cX4_ties 56 = .ok (.invokevirtual 286, 3) := dk_182 1 30 (dk_at dksX4_ties_3 0 rfl rfl)
theorem dX4_ties_59 : decode cX4_ties 59 = .ok (.iload_n 1, 1) := dk_27 (dk_at dksX4_ties_3 3 rfl rfl)
theorem dX4_ties_60 : decode cX4_ties 60 = .ok (.ixor, 1) := dk_130 (dk_at dksX4_ties_3 4 rfl rfl)
theorem dX4_ties_61 : decode cX4_ties 61 = .ok (.ireturn, 1) := dk_172 (dk_at dksX4_ties_3 5 rfl rfl)
theorem dX4_ties_62 : decode cX4_ties 62 = .ok (.aload_n 0, 1) := dk_42 (dk_at dksX4_ties_3 6 rfl rfl)
theorem dX4_ties_63 : decode cX4_ties 63 = .ok (.iload_n 1, 1) := dk_27 (dk_at dksX4_ties_3 7 rfl rfl)
theorem dX4_ties_64 : decode cX4_ties 64 = .ok (.iload_n 2, 1) := dk_28 (dk_at dksX4_ties_3 8 rfl rfl)
theorem dX4_ties_65 : decode cX4_ties 65 = .ok (.invokevirtual 286, 3) := dk_182 1 30 (dk_at dksX4_ties_3 9 rfl rfl)
theorem dX4_ties_68 : decode cX4_ties 68 = .ok (.ireturn, 1) := dk_172 (dk_at dksX4_ties_3 12 rfl rfl)
abbrev cX4_plainTies : ByteArray := prog_19_method_88_code
def yX4_plainTies : MethodName := ⟨RX4, "plainTies", "(II)I"⟩
def dkwX4_plainTies_0 : List UInt8 := [42, 16, 12, 182, 1, 9, 42, 27, 28, 182, 1, 27, 42, 27, 4, 182, 0, 65, 100, 172]
abbrev dktX4_plainTies_0 : List UInt8 := dkwX4_plainTies_0 ++ []
theorem dksX4_plainTies_0 : cX4_plainTies.data.toList.drop 0 = dktX4_plainTies_0 := by decide +kernel
theorem dX4_plainTies_0 : decode cX4_plainTies 0 = .ok (.aload_n 0, 1) := dk_42 (dk_at dksX4_plainTies_0 0 rfl rfl)
theorem dX4_plainTies_1 : decode cX4_plainTies 1 = .ok (.bipush 12, 2) := dk_16 12 (dk_at dksX4_plainTies_0 1 rfl rfl)
theorem dX4_plainTies_3 : decode cX4_plainTies 3 = .ok (.invokevirtual 265, 3) := dk_182 1 9 (dk_at dksX4_plainTies_0 3 rfl rfl)
theorem dX4_plainTies_6 : decode cX4_plainTies 6 = .ok (.aload_n 0, 1) := dk_42 (dk_at dksX4_plainTies_0 6 rfl rfl)
theorem dX4_plainTies_7 : decode cX4_plainTies 7 = .ok (.iload_n 1, 1) := dk_27 (dk_at dksX4_plainTies_0 7 rfl rfl)
theorem dX4_plainTies_8 : decode cX4_plainTies 8 = .ok (.iload_n 2, 1) := dk_28 (dk_at dksX4_plainTies_0 8 rfl rfl)
theorem dX4_plainTies_9 : decode cX4_plainTies 9 = .ok (.invokevirtual 283, 3) := dk_182 1 27 (dk_at dksX4_plainTies_0 9 rfl rfl)
theorem dX4_plainTies_12 : decode cX4_plainTies 12 = .ok (.aload_n 0, 1) := dk_42 (dk_at dksX4_plainTies_0 12 rfl rfl)
theorem dX4_plainTies_13 : decode cX4_plainTies 13 = .ok (.iload_n 1, 1) := dk_27 (dk_at dksX4_plainTies_0 13 rfl rfl)
theorem dX4_plainTies_14 : decode cX4_plainTies 14 = .ok (.iconst 1, 1) := dk_4 (dk_at dksX4_plainTies_0 14 rfl rfl)
theorem dX4_plainTies_15 : decode cX4_plainTies 15 = .ok (.invokevirtual 65, 3) := dk_182 0 65 (dk_at dksX4_plainTies_0 15 rfl rfl)
theorem dX4_plainTies_18 : decode cX4_plainTies 18 = .ok (.isub, 1) := dk_100 (dk_at dksX4_plainTies_0 18 rfl rfl)
theorem dX4_plainTies_19 : decode cX4_plainTies 19 = .ok (.ireturn, 1) := dk_172 (dk_at dksX4_plainTies_0 19 rfl rfl)
abbrev cX4_partsBy : ByteArray := prog_19_method_91_code
def yX4_partsBy : MethodName := ⟨RX4, "partsBy", "(II)I"⟩
def dkwX4_partsBy_2 : List UInt8 := [4, 182, 1, 27, 96, 172, 42, 27, 28, 182, 1, 36, 172]
abbrev dktX4_partsBy_2 : List UInt8 := dkwX4_partsBy_2 ++ []
def dkwX4_partsBy_1 : List UInt8 := [182, 1, 9, 42, 27, 28, 182, 1, 36, 62, 42, 180, 1, 33, 153, 0, 7, 3, 167, 0, 11, 29, 42, 27]
abbrev dktX4_partsBy_1 : List UInt8 := dkwX4_partsBy_1 ++ dktX4_partsBy_2
def dkwX4_partsBy_0 : List UInt8 := [42, 27, 3, 182, 0, 65, 4, 159, 0, 13, 42, 27, 3, 182, 0, 65, 7, 160, 0, 36, 42, 16, 21]
abbrev dktX4_partsBy_0 : List UInt8 := dkwX4_partsBy_0 ++ dktX4_partsBy_1
theorem dksX4_partsBy_0 : cX4_partsBy.data.toList.drop 0 = dktX4_partsBy_0 := by decide +kernel
theorem dksX4_partsBy_1 : cX4_partsBy.data.toList.drop 23 = dktX4_partsBy_1 := dk_seg dksX4_partsBy_0 23 rfl rfl
theorem dksX4_partsBy_2 : cX4_partsBy.data.toList.drop 47 = dktX4_partsBy_2 := dk_seg dksX4_partsBy_1 24 rfl rfl
theorem dX4_partsBy_0 : decode cX4_partsBy 0 = .ok (.aload_n 0, 1) := dk_42 (dk_at dksX4_partsBy_0 0 rfl rfl)
theorem dX4_partsBy_1 : decode cX4_partsBy 1 = .ok (.iload_n 1, 1) := dk_27 (dk_at dksX4_partsBy_0 1 rfl rfl)
theorem dX4_partsBy_2 : decode cX4_partsBy 2 = .ok (.iconst 0, 1) := dk_3 (dk_at dksX4_partsBy_0 2 rfl rfl)
theorem dX4_partsBy_3 : decode cX4_partsBy 3 = .ok (.invokevirtual 65, 3) := dk_182 0 65 (dk_at dksX4_partsBy_0 3 rfl rfl)
theorem dX4_partsBy_6 : decode cX4_partsBy 6 = .ok (.iconst 1, 1) := dk_4 (dk_at dksX4_partsBy_0 6 rfl rfl)
theorem dX4_partsBy_7 : decode cX4_partsBy 7 = .ok (.if_icmp .eq 13, 3) := dk_159 0 13 (dk_at dksX4_partsBy_0 7 rfl rfl)
theorem dX4_partsBy_10 : decode cX4_partsBy 10 = .ok (.aload_n 0, 1) := dk_42 (dk_at dksX4_partsBy_0 10 rfl rfl)
theorem dX4_partsBy_11 : decode cX4_partsBy 11 = .ok (.iload_n 1, 1) := dk_27 (dk_at dksX4_partsBy_0 11 rfl rfl)
theorem dX4_partsBy_12 : decode cX4_partsBy 12 = .ok (.iconst 0, 1) := dk_3 (dk_at dksX4_partsBy_0 12 rfl rfl)
theorem dX4_partsBy_13 : decode cX4_partsBy 13 = .ok (.invokevirtual 65, 3) := dk_182 0 65 (dk_at dksX4_partsBy_0 13 rfl rfl)
theorem dX4_partsBy_16 : decode cX4_partsBy 16 = .ok (.iconst 4, 1) := dk_7 (dk_at dksX4_partsBy_0 16 rfl rfl)
theorem dX4_partsBy_17 : decode cX4_partsBy 17 = .ok (.if_icmp .ne 36, 3) := dk_160 0 36 (dk_at dksX4_partsBy_0 17 rfl rfl)
theorem dX4_partsBy_20 : decode cX4_partsBy 20 = .ok (.aload_n 0, 1) := dk_42 (dk_at dksX4_partsBy_0 20 rfl rfl)
theorem dX4_partsBy_21 : decode cX4_partsBy 21 = .ok (.bipush 21, 2) := dk_16 21 (dk_at dksX4_partsBy_0 21 rfl rfl)
theorem dX4_partsBy_23 : decode cX4_partsBy 23 = .ok (.invokevirtual 265, 3) := dk_182 1 9 (dk_at dksX4_partsBy_1 0 rfl rfl)
theorem dX4_partsBy_26 : decode cX4_partsBy 26 = .ok (.aload_n 0, 1) := dk_42 (dk_at dksX4_partsBy_1 3 rfl rfl)
theorem dX4_partsBy_27 : decode cX4_partsBy 27 = .ok (.iload_n 1, 1) := dk_27 (dk_at dksX4_partsBy_1 4 rfl rfl)
theorem dX4_partsBy_28 : decode cX4_partsBy 28 = .ok (.iload_n 2, 1) := dk_28 (dk_at dksX4_partsBy_1 5 rfl rfl)
theorem dX4_partsBy_29 : decode cX4_partsBy 29 = .ok (.invokevirtual 292, 3) := dk_182 1 36 (dk_at dksX4_partsBy_1 6 rfl rfl)
theorem dX4_partsBy_32 : decode cX4_partsBy 32 = .ok (.istore_n 3, 1) := dk_62 (dk_at dksX4_partsBy_1 9 rfl rfl)
theorem dX4_partsBy_33 : decode cX4_partsBy 33 = .ok (.aload_n 0, 1) := dk_42 (dk_at dksX4_partsBy_1 10 rfl rfl)
theorem dX4_partsBy_34 : decode cX4_partsBy 34 = .ok (.getfield 289, 3) := dk_180 1 33 (dk_at dksX4_partsBy_1 11 rfl rfl)
theorem dX4_partsBy_37 : decode cX4_partsBy 37 = .ok (.ifCond .eq 7, 3) := dk_153 0 7 (dk_at dksX4_partsBy_1 14 rfl rfl)
theorem dX4_partsBy_40 : decode cX4_partsBy 40 = .ok (.iconst 0, 1) := dk_3 (dk_at dksX4_partsBy_1 17 rfl rfl)
theorem dX4_partsBy_41 : decode cX4_partsBy 41 = .ok (.goto 11, 3) := dk_167 0 11 (dk_at dksX4_partsBy_1 18 rfl rfl)
theorem dX4_partsBy_44 : decode cX4_partsBy 44 = .ok (.iload_n 3, 1) := dk_29 (dk_at dksX4_partsBy_1 21 rfl rfl)
theorem dX4_partsBy_45 : decode cX4_partsBy 45 = .ok (.aload_n 0, 1) := dk_42 (dk_at dksX4_partsBy_1 22 rfl rfl)
theorem dX4_partsBy_46 : decode cX4_partsBy 46 = .ok (.iload_n 1, 1) := dk_27 (dk_at dksX4_partsBy_1 23 rfl rfl)
theorem dX4_partsBy_47 : decode cX4_partsBy 47 = .ok (.iconst 1, 1) := dk_4 (dk_at dksX4_partsBy_2 0 rfl rfl)
theorem dX4_partsBy_48 : decode cX4_partsBy 48 = .ok (.invokevirtual 283, 3) := dk_182 1 27 (dk_at dksX4_partsBy_2 1 rfl rfl)
theorem dX4_partsBy_51 : decode cX4_partsBy 51 = .ok (.iadd, 1) := dk_96 (dk_at dksX4_partsBy_2 4 rfl rfl)
theorem dX4_partsBy_52 : decode cX4_partsBy 52 = .ok (.ireturn, 1) := dk_172 (dk_at dksX4_partsBy_2 5 rfl rfl)
theorem dX4_partsBy_53 : decode cX4_partsBy 53 = .ok (.aload_n 0, 1) := dk_42 (dk_at dksX4_partsBy_2 6 rfl rfl)
theorem dX4_partsBy_54 : decode cX4_partsBy 54 = .ok (.iload_n 1, 1) := dk_27 (dk_at dksX4_partsBy_2 7 rfl rfl)
theorem dX4_partsBy_55 : decode cX4_partsBy 55 = .ok (.iload_n 2, 1) := dk_28 (dk_at dksX4_partsBy_2 8 rfl rfl)
theorem dX4_partsBy_56 : decode cX4_partsBy 56 = .ok (.invokevirtual 292, 3) := dk_182 1 36 (dk_at dksX4_partsBy_2 9 rfl rfl)
theorem dX4_partsBy_59 : decode cX4_partsBy 59 = .ok (.ireturn, 1) := dk_172 (dk_at dksX4_partsBy_2 12 rfl rfl)
abbrev cX4_plainParts : ByteArray := prog_19_method_90_code
def yX4_plainParts : MethodName := ⟨RX4, "plainParts", "(II)I"⟩
def dkwX4_plainParts_1 : List UInt8 := [3, 181, 1, 33, 42, 180, 1, 33, 153, 0, 7, 3, 167, 0, 6, 28, 29, 108, 172]
abbrev dktX4_plainParts_1 : List UInt8 := dkwX4_plainParts_1 ++ []
def dkwX4_plainParts_0 : List UInt8 := [42, 16, 13, 182, 1, 9, 42, 27, 4, 182, 0, 65, 27, 100, 62, 42, 29, 154, 0, 7, 4, 167, 0, 4]
abbrev dktX4_plainParts_0 : List UInt8 := dkwX4_plainParts_0 ++ dktX4_plainParts_1
theorem dksX4_plainParts_0 : cX4_plainParts.data.toList.drop 0 = dktX4_plainParts_0 := by decide +kernel
theorem dksX4_plainParts_1 : cX4_plainParts.data.toList.drop 24 = dktX4_plainParts_1 := dk_seg dksX4_plainParts_0 24 rfl rfl
theorem dX4_plainParts_0 : decode cX4_plainParts 0 = .ok (.aload_n 0, 1) := dk_42 (dk_at dksX4_plainParts_0 0 rfl rfl)
theorem dX4_plainParts_1 : decode cX4_plainParts 1 = .ok (.bipush 13, 2) := dk_16 13 (dk_at dksX4_plainParts_0 1 rfl rfl)
theorem dX4_plainParts_3 : decode cX4_plainParts 3 = .ok (.invokevirtual 265, 3) := dk_182 1 9 (dk_at dksX4_plainParts_0 3 rfl rfl)
theorem dX4_plainParts_6 : decode cX4_plainParts 6 = .ok (.aload_n 0, 1) := dk_42 (dk_at dksX4_plainParts_0 6 rfl rfl)
theorem dX4_plainParts_7 : decode cX4_plainParts 7 = .ok (.iload_n 1, 1) := dk_27 (dk_at dksX4_plainParts_0 7 rfl rfl)
theorem dX4_plainParts_8 : decode cX4_plainParts 8 = .ok (.iconst 1, 1) := dk_4 (dk_at dksX4_plainParts_0 8 rfl rfl)
theorem dX4_plainParts_9 : decode cX4_plainParts 9 = .ok (.invokevirtual 65, 3) := dk_182 0 65 (dk_at dksX4_plainParts_0 9 rfl rfl)
theorem dX4_plainParts_12 : decode cX4_plainParts 12 = .ok (.iload_n 1, 1) := dk_27 (dk_at dksX4_plainParts_0 12 rfl rfl)
theorem dX4_plainParts_13 : decode cX4_plainParts 13 = .ok (.isub, 1) := dk_100 (dk_at dksX4_plainParts_0 13 rfl rfl)
theorem dX4_plainParts_14 : decode cX4_plainParts 14 = .ok (.istore_n 3, 1) := dk_62 (dk_at dksX4_plainParts_0 14 rfl rfl)
theorem dX4_plainParts_15 : decode cX4_plainParts 15 = .ok (.aload_n 0, 1) := dk_42 (dk_at dksX4_plainParts_0 15 rfl rfl)
theorem dX4_plainParts_16 : decode cX4_plainParts 16 = .ok (.iload_n 3, 1) := dk_29 (dk_at dksX4_plainParts_0 16 rfl rfl)
theorem dX4_plainParts_17 : decode cX4_plainParts 17 = .ok (.ifCond .ne 7, 3) := dk_154 0 7 (dk_at dksX4_plainParts_0 17 rfl rfl)
theorem dX4_plainParts_20 : decode cX4_plainParts 20 = .ok (.iconst 1, 1) := dk_4 (dk_at dksX4_plainParts_0 20 rfl rfl)
theorem dX4_plainParts_21 : decode cX4_plainParts 21 = .ok (.goto 4, 3) := dk_167 0 4 (dk_at dksX4_plainParts_0 21 rfl rfl)
theorem dX4_plainParts_24 : decode cX4_plainParts 24 = .ok (.iconst 0, 1) := dk_3 (dk_at dksX4_plainParts_1 0 rfl rfl)
theorem dX4_plainParts_25 : decode cX4_plainParts 25 = .ok (.putfield 289, 3) := dk_181 1 33 (dk_at dksX4_plainParts_1 1 rfl rfl)
theorem dX4_plainParts_28 : decode cX4_plainParts 28 = .ok (.aload_n 0, 1) := dk_42 (dk_at dksX4_plainParts_1 4 rfl rfl)
theorem dX4_plainParts_29 : decode cX4_plainParts 29 = .ok (.getfield 289, 3) := dk_180 1 33 (dk_at dksX4_plainParts_1 5 rfl rfl)
theorem dX4_plainParts_32 : decode cX4_plainParts 32 = .ok (.ifCond .eq 7, 3) := dk_153 0 7 (dk_at dksX4_plainParts_1 8 rfl rfl)
theorem dX4_plainParts_35 : decode cX4_plainParts 35 = .ok (.iconst 0, 1) := dk_3 (dk_at dksX4_plainParts_1 11 rfl rfl)
theorem dX4_plainParts_36 : decode cX4_plainParts 36 = .ok (.goto 6, 3) := dk_167 0 6 (dk_at dksX4_plainParts_1 12 rfl rfl)
theorem dX4_plainParts_39 : decode cX4_plainParts 39 = .ok (.iload_n 2, 1) := dk_28 (dk_at dksX4_plainParts_1 15 rfl rfl)
theorem dX4_plainParts_40 : decode cX4_plainParts 40 = .ok (.iload_n 3, 1) := dk_29 (dk_at dksX4_plainParts_1 16 rfl rfl)
theorem dX4_plainParts_41 : decode cX4_plainParts 41 = .ok (.idiv, 1) := dk_108 (dk_at dksX4_plainParts_1 17 rfl rfl)
theorem dX4_plainParts_42 : decode cX4_plainParts 42 = .ok (.ireturn, 1) := dk_172 (dk_at dksX4_plainParts_1 18 rfl rfl)
abbrev cX4_body : ByteArray := prog_19_method_93_code
def yX4_body : MethodName := ⟨RX4, "body", "(I)I"⟩
def dkwX4_body_1 : List UInt8 := [18, 248, 182, 0, 126, 172]
abbrev dktX4_body_1 : List UInt8 := dkwX4_body_1 ++ []
def dkwX4_body_0 : List UInt8 := [27, 3, 42, 180, 1, 6, 4, 100, 184, 0, 61, 153, 0, 12, 42, 180, 0, 53, 27, 46, 167, 0, 9, 42]
abbrev dktX4_body_0 : List UInt8 := dkwX4_body_0 ++ dktX4_body_1
theorem dksX4_body_0 : cX4_body.data.toList.drop 0 = dktX4_body_0 := by decide +kernel
theorem dksX4_body_1 : cX4_body.data.toList.drop 24 = dktX4_body_1 := dk_seg dksX4_body_0 24 rfl rfl
theorem dX4_body_0 : decode cX4_body 0 = .ok (.iload_n 1, 1) := dk_27 (dk_at dksX4_body_0 0 rfl rfl)
theorem dX4_body_1 : decode cX4_body 1 = .ok (.iconst 0, 1) := dk_3 (dk_at dksX4_body_0 1 rfl rfl)
theorem dX4_body_2 : decode cX4_body 2 = .ok (.aload_n 0, 1) := dk_42 (dk_at dksX4_body_0 2 rfl rfl)
theorem dX4_body_3 : decode cX4_body 3 = .ok (.getfield 262, 3) := dk_180 1 6 (dk_at dksX4_body_0 3 rfl rfl)
theorem dX4_body_6 : decode cX4_body 6 = .ok (.iconst 1, 1) := dk_4 (dk_at dksX4_body_0 6 rfl rfl)
theorem dX4_body_7 : decode cX4_body 7 = .ok (.isub, 1) := dk_100 (dk_at dksX4_body_0 7 rfl rfl)
theorem dX4_body_8 : decode cX4_body 8 = .ok (.invokestatic 61, 3) := dk_184 0 61 (dk_at dksX4_body_0 8 rfl rfl)
theorem dX4_body_11 : decode cX4_body 11 = .ok (.ifCond .eq 12, 3) := dk_153 0 12 (dk_at dksX4_body_0 11 rfl rfl)
theorem dX4_body_14 : decode cX4_body 14 = .ok (.aload_n 0, 1) := dk_42 (dk_at dksX4_body_0 14 rfl rfl)
theorem dX4_body_15 : decode cX4_body 15 = .ok (.getfield 53, 3) := dk_180 0 53 (dk_at dksX4_body_0 15 rfl rfl)
theorem dX4_body_18 : decode cX4_body 18 = .ok (.iload_n 1, 1) := dk_27 (dk_at dksX4_body_0 18 rfl rfl)
theorem dX4_body_19 : decode cX4_body 19 = .ok (.iaload, 1) := dk_46 (dk_at dksX4_body_0 19 rfl rfl)
theorem dX4_body_20 : decode cX4_body 20 = .ok (.goto 9, 3) := dk_167 0 9 (dk_at dksX4_body_0 20 rfl rfl)
theorem dX4_body_23 : decode cX4_body 23 = .ok (.aload_n 0, 1) := dk_42 (dk_at dksX4_body_0 23 rfl rfl)
theorem dX4_body_24 : decode cX4_body 24 = .ok (.ldc 248, 2) := dk_18 248 (dk_at dksX4_body_1 0 rfl rfl)
theorem dX4_body_26 : decode cX4_body 26 = .ok (.invokevirtual 126, 3) := dk_182 0 126 (dk_at dksX4_body_1 2 rfl rfl)
theorem dX4_body_29 : decode cX4_body 29 = .ok (.ireturn, 1) := dk_172 (dk_at dksX4_body_1 5 rfl rfl)
abbrev cX4_sheet : ByteArray := prog_19_method_95_code
def yX4_sheet : MethodName := ⟨RX4, "sheet", "(III)I"⟩
def dkwX4_sheet_5 : List UInt8 := [167, 255, 233, 4, 172]
abbrev dktX4_sheet_5 : List UInt8 := dkwX4_sheet_5 ++ []
def dkwX4_sheet_4 : List UInt8 := [21, 4, 16, 24, 162, 0, 22, 42, 180, 0, 28, 16, 24, 27, 104, 21, 4, 96, 3, 79, 132, 4, 1]
abbrev dktX4_sheet_4 : List UInt8 := dkwX4_sheet_4 ++ dktX4_sheet_5
def dkwX4_sheet_3 : List UInt8 := [180, 0, 22, 27, 28, 79, 42, 180, 0, 25, 27, 28, 154, 0, 7, 3, 167, 0, 4, 29, 79, 3, 54, 4]
abbrev dktX4_sheet_3 : List UInt8 := dkwX4_sheet_3 ++ dktX4_sheet_4
def dkwX4_sheet_2 : List UInt8 := [182, 0, 126, 172, 28, 158, 0, 16, 29, 16, 24, 164, 0, 10, 42, 18, 125, 182, 0, 126, 172, 42]
abbrev dktX4_sheet_2 : List UInt8 := dkwX4_sheet_2 ++ dktX4_sheet_3
def dkwX4_sheet_1 : List UInt8 := [16, 32, 159, 0, 10, 42, 18, 125, 182, 0, 126, 172, 28, 158, 0, 14, 29, 156, 0, 10, 42, 18, 141]
abbrev dktX4_sheet_1 : List UInt8 := dkwX4_sheet_1 ++ dktX4_sheet_2
def dkwX4_sheet_0 : List UInt8 := [27, 184, 1, 0, 153, 0, 25, 28, 153, 0, 28, 28, 16, 8, 159, 0, 22, 28, 16, 16, 159, 0, 16, 28]
abbrev dktX4_sheet_0 : List UInt8 := dkwX4_sheet_0 ++ dktX4_sheet_1
theorem dksX4_sheet_0 : cX4_sheet.data.toList.drop 0 = dktX4_sheet_0 := by decide +kernel
theorem dksX4_sheet_1 : cX4_sheet.data.toList.drop 24 = dktX4_sheet_1 := dk_seg dksX4_sheet_0 24 rfl rfl
theorem dksX4_sheet_2 : cX4_sheet.data.toList.drop 47 = dktX4_sheet_2 := dk_seg dksX4_sheet_1 23 rfl rfl
theorem dksX4_sheet_3 : cX4_sheet.data.toList.drop 69 = dktX4_sheet_3 := dk_seg dksX4_sheet_2 22 rfl rfl
theorem dksX4_sheet_4 : cX4_sheet.data.toList.drop 93 = dktX4_sheet_4 := dk_seg dksX4_sheet_3 24 rfl rfl
theorem dksX4_sheet_5 : cX4_sheet.data.toList.drop 116 = dktX4_sheet_5 := dk_seg dksX4_sheet_4 23 rfl rfl
theorem dX4_sheet_0 : decode cX4_sheet 0 = .ok (.iload_n 1, 1) := dk_27 (dk_at dksX4_sheet_0 0 rfl rfl)
theorem dX4_sheet_1 : decode cX4_sheet 1 = .ok (.invokestatic 256, 3) := dk_184 1 0 (dk_at dksX4_sheet_0 1 rfl rfl)
theorem dX4_sheet_4 : decode cX4_sheet 4 = .ok (.ifCond .eq 25, 3) := dk_153 0 25 (dk_at dksX4_sheet_0 4 rfl rfl)
theorem dX4_sheet_7 : decode cX4_sheet 7 = .ok (.iload_n 2, 1) := dk_28 (dk_at dksX4_sheet_0 7 rfl rfl)
theorem dX4_sheet_8 : decode cX4_sheet 8 = .ok (.ifCond .eq 28, 3) := dk_153 0 28 (dk_at dksX4_sheet_0 8 rfl rfl)
theorem dX4_sheet_11 : decode cX4_sheet 11 = .ok (.iload_n 2, 1) := dk_28 (dk_at dksX4_sheet_0 11 rfl rfl)
theorem dX4_sheet_12 : decode cX4_sheet 12 = .ok (.bipush 8, 2) := dk_16 8 (dk_at dksX4_sheet_0 12 rfl rfl)
theorem dX4_sheet_14 : decode cX4_sheet 14 = .ok (.if_icmp .eq 22, 3) := dk_159 0 22 (dk_at dksX4_sheet_0 14 rfl rfl)
theorem dX4_sheet_17 : decode cX4_sheet 17 = .ok (.iload_n 2, 1) := dk_28 (dk_at dksX4_sheet_0 17 rfl rfl)
theorem dX4_sheet_18 : decode cX4_sheet 18 = .ok (.bipush 16, 2) := dk_16 16 (dk_at dksX4_sheet_0 18 rfl rfl)
theorem dX4_sheet_20 : decode cX4_sheet 20 = .ok (.if_icmp .eq 16, 3) := dk_159 0 16 (dk_at dksX4_sheet_0 20 rfl rfl)
theorem dX4_sheet_23 : decode cX4_sheet 23 = .ok (.iload_n 2, 1) := dk_28 (dk_at dksX4_sheet_0 23 rfl rfl)
theorem dX4_sheet_24 : decode cX4_sheet 24 = .ok (.bipush 32, 2) := dk_16 32 (dk_at dksX4_sheet_1 0 rfl rfl)
theorem dX4_sheet_26 : decode cX4_sheet 26 = .ok (.if_icmp .eq 10, 3) := dk_159 0 10 (dk_at dksX4_sheet_1 2 rfl rfl)
theorem dX4_sheet_29 : decode cX4_sheet 29 = .ok (.aload_n 0, 1) := dk_42 (dk_at dksX4_sheet_1 5 rfl rfl)
theorem dX4_sheet_30 : decode cX4_sheet 30 = .ok (.ldc 125, 2) := dk_18 125 (dk_at dksX4_sheet_1 6 rfl rfl)
theorem dX4_sheet_32 : decode cX4_sheet 32 = .ok (.invokevirtual 126, 3) := dk_182 0 126 (dk_at dksX4_sheet_1 8 rfl rfl)
theorem dX4_sheet_35 : decode cX4_sheet 35 = .ok (.ireturn, 1) := dk_172 (dk_at dksX4_sheet_1 11 rfl rfl)
theorem dX4_sheet_36 : decode cX4_sheet 36 = .ok (.iload_n 2, 1) := dk_28 (dk_at dksX4_sheet_1 12 rfl rfl)
theorem dX4_sheet_37 : decode cX4_sheet 37 = .ok (.ifCond .le 14, 3) := dk_158 0 14 (dk_at dksX4_sheet_1 13 rfl rfl)
theorem dX4_sheet_40 : decode cX4_sheet 40 = .ok (.iload_n 3, 1) := dk_29 (dk_at dksX4_sheet_1 16 rfl rfl)
theorem dX4_sheet_41 : decode cX4_sheet 41 = .ok (.ifCond .ge 10, 3) := dk_156 0 10 (dk_at dksX4_sheet_1 17 rfl rfl)
theorem dX4_sheet_44 : decode cX4_sheet 44 = .ok (.aload_n 0, 1) := dk_42 (dk_at dksX4_sheet_1 20 rfl rfl)
theorem dX4_sheet_45 : decode cX4_sheet 45 = .ok (.ldc 141, 2) := dk_18 141 (dk_at dksX4_sheet_1 21 rfl rfl)
theorem dX4_sheet_47 : decode cX4_sheet 47 = .ok (.invokevirtual 126, 3) := dk_182 0 126 (dk_at dksX4_sheet_2 0 rfl rfl)
theorem dX4_sheet_50 : decode cX4_sheet 50 = .ok (.ireturn, 1) := dk_172 (dk_at dksX4_sheet_2 3 rfl rfl)
theorem dX4_sheet_51 : decode cX4_sheet 51 = .ok (.iload_n 2, 1) := dk_28 (dk_at dksX4_sheet_2 4 rfl rfl)
theorem dX4_sheet_52 : decode cX4_sheet 52 = .ok (.ifCond .le 16, 3) := dk_158 0 16 (dk_at dksX4_sheet_2 5 rfl rfl)
theorem dX4_sheet_55 : decode cX4_sheet 55 = .ok (.iload_n 3, 1) := dk_29 (dk_at dksX4_sheet_2 8 rfl rfl)
theorem dX4_sheet_56 : decode cX4_sheet 56 = .ok (.bipush 24, 2) := dk_16 24 (dk_at dksX4_sheet_2 9 rfl rfl)
theorem dX4_sheet_58 : decode cX4_sheet 58 = .ok (.if_icmp .le 10, 3) := dk_164 0 10 (dk_at dksX4_sheet_2 11 rfl rfl)
theorem dX4_sheet_61 : decode cX4_sheet 61 = .ok (.aload_n 0, 1) := dk_42 (dk_at dksX4_sheet_2 14 rfl rfl)
theorem dX4_sheet_62 : decode cX4_sheet 62 = .ok (.ldc 125, 2) := dk_18 125 (dk_at dksX4_sheet_2 15 rfl rfl)
theorem dX4_sheet_64 : decode cX4_sheet 64 = .ok (.invokevirtual 126, 3) := dk_182 0 126 (dk_at dksX4_sheet_2 17 rfl rfl)
theorem dX4_sheet_67 : decode cX4_sheet 67 = .ok (.ireturn, 1) := dk_172 (dk_at dksX4_sheet_2 20 rfl rfl)
theorem dX4_sheet_68 : decode cX4_sheet 68 = .ok (.aload_n 0, 1) := dk_42 (dk_at dksX4_sheet_2 21 rfl rfl)
theorem dX4_sheet_69 : decode cX4_sheet 69 = .ok (.getfield 22, 3) := dk_180 0 22 (dk_at dksX4_sheet_3 0 rfl rfl)
theorem dX4_sheet_72 : decode cX4_sheet 72 = .ok (.iload_n 1, 1) := dk_27 (dk_at dksX4_sheet_3 3 rfl rfl)
theorem dX4_sheet_73 : decode cX4_sheet 73 = .ok (.iload_n 2, 1) := dk_28 (dk_at dksX4_sheet_3 4 rfl rfl)
theorem dX4_sheet_74 : decode cX4_sheet 74 = .ok (.iastore, 1) := dk_79 (dk_at dksX4_sheet_3 5 rfl rfl)
theorem dX4_sheet_75 : decode cX4_sheet 75 = .ok (.aload_n 0, 1) := dk_42 (dk_at dksX4_sheet_3 6 rfl rfl)
theorem dX4_sheet_76 : decode cX4_sheet 76 = .ok (.getfield 25, 3) := dk_180 0 25 (dk_at dksX4_sheet_3 7 rfl rfl)
theorem dX4_sheet_79 : decode cX4_sheet 79 = .ok (.iload_n 1, 1) := dk_27 (dk_at dksX4_sheet_3 10 rfl rfl)
theorem dX4_sheet_80 : decode cX4_sheet 80 = .ok (.iload_n 2, 1) := dk_28 (dk_at dksX4_sheet_3 11 rfl rfl)
theorem dX4_sheet_81 : decode cX4_sheet 81 = .ok (.ifCond .ne 7, 3) := dk_154 0 7 (dk_at dksX4_sheet_3 12 rfl rfl)
theorem dX4_sheet_84 : decode cX4_sheet 84 = .ok (.iconst 0, 1) := dk_3 (dk_at dksX4_sheet_3 15 rfl rfl)
theorem dX4_sheet_85 : decode cX4_sheet 85 = .ok (.goto 4, 3) := dk_167 0 4 (dk_at dksX4_sheet_3 16 rfl rfl)
theorem dX4_sheet_88 : decode cX4_sheet 88 = .ok (.iload_n 3, 1) := dk_29 (dk_at dksX4_sheet_3 19 rfl rfl)
theorem dX4_sheet_89 : decode cX4_sheet 89 = .ok (.iastore, 1) := dk_79 (dk_at dksX4_sheet_3 20 rfl rfl)
theorem dX4_sheet_90 : decode cX4_sheet 90 = .ok (.iconst 0, 1) := dk_3 (dk_at dksX4_sheet_3 21 rfl rfl)
theorem dX4_sheet_91 : decode cX4_sheet 91 = .ok (.istore 4, 2) := dk_54 4 (dk_at dksX4_sheet_3 22 rfl rfl)
theorem dX4_sheet_93 : decode cX4_sheet 93 = .ok (.iload 4, 2) := dk_21 4 (dk_at dksX4_sheet_4 0 rfl rfl)
theorem dX4_sheet_95 : decode cX4_sheet 95 = .ok (.bipush 24, 2) := dk_16 24 (dk_at dksX4_sheet_4 2 rfl rfl)
theorem dX4_sheet_97 : decode cX4_sheet 97 = .ok (.if_icmp .ge 22, 3) := dk_162 0 22 (dk_at dksX4_sheet_4 4 rfl rfl)
theorem dX4_sheet_100 : decode cX4_sheet 100 = .ok (.aload_n 0, 1) := dk_42 (dk_at dksX4_sheet_4 7 rfl rfl)
theorem dX4_sheet_101 : decode cX4_sheet 101 = .ok (.getfield 28, 3) := dk_180 0 28 (dk_at dksX4_sheet_4 8 rfl rfl)
theorem dX4_sheet_104 : decode cX4_sheet 104 = .ok (.bipush 24, 2) := dk_16 24 (dk_at dksX4_sheet_4 11 rfl rfl)
theorem dX4_sheet_106 : decode cX4_sheet 106 = .ok (.iload_n 1, 1) := dk_27 (dk_at dksX4_sheet_4 13 rfl rfl)
theorem dX4_sheet_107 : decode cX4_sheet 107 = .ok (.imul, 1) := dk_104 (dk_at dksX4_sheet_4 14 rfl rfl)
theorem dX4_sheet_108 : decode cX4_sheet 108 = .ok (.iload 4, 2) := dk_21 4 (dk_at dksX4_sheet_4 15 rfl rfl)
theorem dX4_sheet_110 : decode cX4_sheet 110 = .ok (.iadd, 1) := dk_96 (dk_at dksX4_sheet_4 17 rfl rfl)
theorem dX4_sheet_111 : decode cX4_sheet 111 = .ok (.iconst 0, 1) := dk_3 (dk_at dksX4_sheet_4 18 rfl rfl)
theorem dX4_sheet_112 : decode cX4_sheet 112 = .ok (.iastore, 1) := dk_79 (dk_at dksX4_sheet_4 19 rfl rfl)
theorem dX4_sheet_113 : decode cX4_sheet 113 = .ok (.iinc 4 1, 3) := dk_132 4 1 (dk_at dksX4_sheet_4 20 rfl rfl)
theorem dX4_sheet_116 : decode cX4_sheet 116 = .ok (.goto (-23), 3) := dk_167 255 233 (dk_at dksX4_sheet_5 0 rfl rfl)
theorem dX4_sheet_119 : decode cX4_sheet 119 = .ok (.iconst 1, 1) := dk_4 (dk_at dksX4_sheet_5 3 rfl rfl)
theorem dX4_sheet_120 : decode cX4_sheet 120 = .ok (.ireturn, 1) := dk_172 (dk_at dksX4_sheet_5 4 rfl rfl)
abbrev cX4_put : ByteArray := prog_19_method_97_code
def yX4_put : MethodName := ⟨RX4, "put", "(III)I"⟩
def dkwX4_put_4 : List UInt8 := [29, 79, 4, 172]
abbrev dktX4_put_4 : List UInt8 := dkwX4_put_4 ++ []
def dkwX4_put_3 : List UInt8 := [160, 0, 8, 29, 145, 167, 0, 20, 42, 180, 0, 22, 27, 46, 16, 16, 160, 0, 8, 29, 147, 167, 0, 4]
abbrev dktX4_put_3 : List UInt8 := dkwX4_put_3 ++ dktX4_put_4
def dkwX4_put_2 : List UInt8 := [182, 0, 126, 172, 42, 180, 0, 28, 16, 24, 27, 104, 28, 96, 42, 180, 0, 22, 27, 46, 16, 8]
abbrev dktX4_put_2 : List UInt8 := dkwX4_put_2 ++ dktX4_put_3
def dkwX4_put_1 : List UInt8 := [184, 0, 61, 154, 0, 8, 18, 125, 167, 0, 5, 21, 4, 54, 4, 21, 4, 153, 0, 10, 42, 21, 4]
abbrev dktX4_put_1 : List UInt8 := dkwX4_put_1 ++ dktX4_put_2
def dkwX4_put_0 : List UInt8 := [42, 27, 182, 1, 46, 54, 4, 21, 4, 154, 0, 24, 28, 3, 42, 180, 0, 25, 27, 46, 4, 100]
abbrev dktX4_put_0 : List UInt8 := dkwX4_put_0 ++ dktX4_put_1
theorem dksX4_put_0 : cX4_put.data.toList.drop 0 = dktX4_put_0 := by decide +kernel
theorem dksX4_put_1 : cX4_put.data.toList.drop 22 = dktX4_put_1 := dk_seg dksX4_put_0 22 rfl rfl
theorem dksX4_put_2 : cX4_put.data.toList.drop 45 = dktX4_put_2 := dk_seg dksX4_put_1 23 rfl rfl
theorem dksX4_put_3 : cX4_put.data.toList.drop 67 = dktX4_put_3 := dk_seg dksX4_put_2 22 rfl rfl
theorem dksX4_put_4 : cX4_put.data.toList.drop 91 = dktX4_put_4 := dk_seg dksX4_put_3 24 rfl rfl
theorem dX4_put_0 : decode cX4_put 0 = .ok (.aload_n 0, 1) := dk_42 (dk_at dksX4_put_0 0 rfl rfl)
theorem dX4_put_1 : decode cX4_put 1 = .ok (.iload_n 1, 1) := dk_27 (dk_at dksX4_put_0 1 rfl rfl)
theorem dX4_put_2 : decode cX4_put 2 = .ok (.invokevirtual 302, 3) := dk_182 1 46 (dk_at dksX4_put_0 2 rfl rfl)
theorem dX4_put_5 : decode cX4_put 5 = .ok (.istore 4, 2) := dk_54 4 (dk_at dksX4_put_0 5 rfl rfl)
theorem dX4_put_7 : decode cX4_put 7 = .ok (.iload 4, 2) := dk_21 4 (dk_at dksX4_put_0 7 rfl rfl)
theorem dX4_put_9 : decode cX4_put 9 = .ok (.ifCond .ne 24, 3) := dk_154 0 24 (dk_at dksX4_put_0 9 rfl rfl)
theorem dX4_put_12 : decode cX4_put 12 = .ok (.iload_n 2, 1) := dk_28 (dk_at dksX4_put_0 12 rfl rfl)
theorem dX4_put_13 : decode cX4_put 13 = .ok (.iconst 0, 1) := dk_3 (dk_at dksX4_put_0 13 rfl rfl)
theorem dX4_put_14 : decode cX4_put 14 = .ok (.aload_n 0, 1) := dk_42 (dk_at dksX4_put_0 14 rfl rfl)
theorem dX4_put_15 : decode cX4_put 15 = .ok (.getfield 25, 3) := dk_180 0 25 (dk_at dksX4_put_0 15 rfl rfl)
theorem dX4_put_18 : decode cX4_put 18 = .ok (.iload_n 1, 1) := dk_27 (dk_at dksX4_put_0 18 rfl rfl)
theorem dX4_put_19 : decode cX4_put 19 = .ok (.iaload, 1) := dk_46 (dk_at dksX4_put_0 19 rfl rfl)
theorem dX4_put_20 : decode cX4_put 20 = .ok (.iconst 1, 1) := dk_4 (dk_at dksX4_put_0 20 rfl rfl)
theorem dX4_put_21 : decode cX4_put 21 = .ok (.isub, 1) := dk_100 (dk_at dksX4_put_0 21 rfl rfl)
theorem dX4_put_22 : decode cX4_put 22 = .ok (.invokestatic 61, 3) := dk_184 0 61 (dk_at dksX4_put_1 0 rfl rfl)
theorem dX4_put_25 : decode cX4_put 25 = .ok (.ifCond .ne 8, 3) := dk_154 0 8 (dk_at dksX4_put_1 3 rfl rfl)
theorem dX4_put_28 : decode cX4_put 28 = .ok (.ldc 125, 2) := dk_18 125 (dk_at dksX4_put_1 6 rfl rfl)
theorem dX4_put_30 : decode cX4_put 30 = .ok (.goto 5, 3) := dk_167 0 5 (dk_at dksX4_put_1 8 rfl rfl)
theorem dX4_put_33 : decode cX4_put 33 = .ok (.iload 4, 2) := dk_21 4 (dk_at dksX4_put_1 11 rfl rfl)
theorem dX4_put_35 : decode cX4_put 35 = .ok (.istore 4, 2) := dk_54 4 (dk_at dksX4_put_1 13 rfl rfl)
theorem dX4_put_37 : decode cX4_put 37 = .ok (.iload 4, 2) := dk_21 4 (dk_at dksX4_put_1 15 rfl rfl)
theorem dX4_put_39 : decode cX4_put 39 = .ok (.ifCond .eq 10, 3) := dk_153 0 10 (dk_at dksX4_put_1 17 rfl rfl)
theorem dX4_put_42 : decode cX4_put 42 = .ok (.aload_n 0, 1) := dk_42 (dk_at dksX4_put_1 20 rfl rfl)
theorem dX4_put_43 : decode cX4_put 43 = .ok (.iload 4, 2) := dk_21 4 (dk_at dksX4_put_1 21 rfl rfl)
theorem dX4_put_45 : decode cX4_put 45 = .ok (.invokevirtual 126, 3) := dk_182 0 126 (dk_at dksX4_put_2 0 rfl rfl)
theorem dX4_put_48 : decode cX4_put 48 = .ok (.ireturn, 1) := dk_172 (dk_at dksX4_put_2 3 rfl rfl)
theorem dX4_put_49 : decode cX4_put 49 = .ok (.aload_n 0, 1) := dk_42 (dk_at dksX4_put_2 4 rfl rfl)
theorem dX4_put_50 : decode cX4_put 50 = .ok (.getfield 28, 3) := dk_180 0 28 (dk_at dksX4_put_2 5 rfl rfl)
theorem dX4_put_53 : decode cX4_put 53 = .ok (.bipush 24, 2) := dk_16 24 (dk_at dksX4_put_2 8 rfl rfl)
theorem dX4_put_55 : decode cX4_put 55 = .ok (.iload_n 1, 1) := dk_27 (dk_at dksX4_put_2 10 rfl rfl)
theorem dX4_put_56 : decode cX4_put 56 = .ok (.imul, 1) := dk_104 (dk_at dksX4_put_2 11 rfl rfl)
theorem dX4_put_57 : decode cX4_put 57 = .ok (.iload_n 2, 1) := dk_28 (dk_at dksX4_put_2 12 rfl rfl)
theorem dX4_put_58 : decode cX4_put 58 = .ok (.iadd, 1) := dk_96 (dk_at dksX4_put_2 13 rfl rfl)
theorem dX4_put_59 : decode cX4_put 59 = .ok (.aload_n 0, 1) := dk_42 (dk_at dksX4_put_2 14 rfl rfl)
theorem dX4_put_60 : decode cX4_put 60 = .ok (.getfield 22, 3) := dk_180 0 22 (dk_at dksX4_put_2 15 rfl rfl)
theorem dX4_put_63 : decode cX4_put 63 = .ok (.iload_n 1, 1) := dk_27 (dk_at dksX4_put_2 18 rfl rfl)
theorem dX4_put_64 : decode cX4_put 64 = .ok (.iaload, 1) := dk_46 (dk_at dksX4_put_2 19 rfl rfl)
theorem dX4_put_65 : decode cX4_put 65 = .ok (.bipush 8, 2) := dk_16 8 (dk_at dksX4_put_2 20 rfl rfl)
theorem dX4_put_67 : decode cX4_put 67 = .ok (.if_icmp .ne 8, 3) := dk_160 0 8 (dk_at dksX4_put_3 0 rfl rfl)
theorem dX4_put_70 : decode cX4_put 70 = .ok (.iload_n 3, 1) := dk_29 (dk_at dksX4_put_3 3 rfl rfl)
theorem dX4_put_71 : decode cX4_put 71 = .ok (.i2b, 1) := dk_145 (dk_at dksX4_put_3 4 rfl rfl)
theorem dX4_put_72 : decode cX4_put 72 = .ok (.goto 20, 3) := dk_167 0 20 (dk_at dksX4_put_3 5 rfl rfl)
theorem dX4_put_75 : decode cX4_put 75 = .ok (.aload_n 0, 1) := dk_42 (dk_at dksX4_put_3 8 rfl rfl)
theorem dX4_put_76 : decode cX4_put 76 = .ok (.getfield 22, 3) := dk_180 0 22 (dk_at dksX4_put_3 9 rfl rfl)
theorem dX4_put_79 : decode cX4_put 79 = .ok (.iload_n 1, 1) := dk_27 (dk_at dksX4_put_3 12 rfl rfl)
theorem dX4_put_80 : decode cX4_put 80 = .ok (.iaload, 1) := dk_46 (dk_at dksX4_put_3 13 rfl rfl)
theorem dX4_put_81 : decode cX4_put 81 = .ok (.bipush 16, 2) := dk_16 16 (dk_at dksX4_put_3 14 rfl rfl)
theorem dX4_put_83 : decode cX4_put 83 = .ok (.if_icmp .ne 8, 3) := dk_160 0 8 (dk_at dksX4_put_3 16 rfl rfl)
theorem dX4_put_86 : decode cX4_put 86 = .ok (.iload_n 3, 1) := dk_29 (dk_at dksX4_put_3 19 rfl rfl)
theorem dX4_put_87 : decode cX4_put 87 = .ok (.i2s, 1) := dk_147 (dk_at dksX4_put_3 20 rfl rfl)
theorem dX4_put_88 : decode cX4_put 88 = .ok (.goto 4, 3) := dk_167 0 4 (dk_at dksX4_put_3 21 rfl rfl)
theorem dX4_put_91 : decode cX4_put 91 = .ok (.iload_n 3, 1) := dk_29 (dk_at dksX4_put_4 0 rfl rfl)
theorem dX4_put_92 : decode cX4_put 92 = .ok (.iastore, 1) := dk_79 (dk_at dksX4_put_4 1 rfl rfl)
theorem dX4_put_93 : decode cX4_put 93 = .ok (.iconst 1, 1) := dk_4 (dk_at dksX4_put_4 2 rfl rfl)
theorem dX4_put_94 : decode cX4_put 94 = .ok (.ireturn, 1) := dk_172 (dk_at dksX4_put_4 3 rfl rfl)
abbrev cX4_notThere : ByteArray := prog_19_method_96_code
def yX4_notThere : MethodName := ⟨RX4, "notThere", "(I)I"⟩
def dkwX4_notThere_1 : List UInt8 := [167, 0, 4, 3, 172]
abbrev dktX4_notThere_1 : List UInt8 := dkwX4_notThere_1 ++ []
def dkwX4_notThere_0 : List UInt8 := [27, 184, 1, 0, 154, 0, 8, 18, 125, 167, 0, 18, 42, 180, 0, 22, 27, 46, 154, 0, 8, 18, 248]
abbrev dktX4_notThere_0 : List UInt8 := dkwX4_notThere_0 ++ dktX4_notThere_1
theorem dksX4_notThere_0 : cX4_notThere.data.toList.drop 0 = dktX4_notThere_0 := by decide +kernel
theorem dksX4_notThere_1 : cX4_notThere.data.toList.drop 23 = dktX4_notThere_1 := dk_seg dksX4_notThere_0 23 rfl rfl
theorem dX4_notThere_0 : decode cX4_notThere 0 = .ok (.iload_n 1, 1) := dk_27 (dk_at dksX4_notThere_0 0 rfl rfl)
theorem dX4_notThere_1 : decode cX4_notThere 1 = .ok (.invokestatic 256, 3) := dk_184 1 0 (dk_at dksX4_notThere_0 1 rfl rfl)
theorem dX4_notThere_4 : decode cX4_notThere 4 = .ok (.ifCond .ne 8, 3) := dk_154 0 8 (dk_at dksX4_notThere_0 4 rfl rfl)
theorem dX4_notThere_7 : decode cX4_notThere 7 = .ok (.ldc 125, 2) := dk_18 125 (dk_at dksX4_notThere_0 7 rfl rfl)
theorem dX4_notThere_9 : decode cX4_notThere 9 = .ok (.goto 18, 3) := dk_167 0 18 (dk_at dksX4_notThere_0 9 rfl rfl)
theorem dX4_notThere_12 : decode cX4_notThere 12 = .ok (.aload_n 0, 1) := dk_42 (dk_at dksX4_notThere_0 12 rfl rfl)
theorem dX4_notThere_13 : decode cX4_notThere 13 = .ok (.getfield 22, 3) := dk_180 0 22 (dk_at dksX4_notThere_0 13 rfl rfl)
theorem dX4_notThere_16 : decode cX4_notThere 16 = .ok (.iload_n 1, 1) := dk_27 (dk_at dksX4_notThere_0 16 rfl rfl)
theorem dX4_notThere_17 : decode cX4_notThere 17 = .ok (.iaload, 1) := dk_46 (dk_at dksX4_notThere_0 17 rfl rfl)
theorem dX4_notThere_18 : decode cX4_notThere 18 = .ok (.ifCond .ne 8, 3) := dk_154 0 8 (dk_at dksX4_notThere_0 18 rfl rfl)
theorem dX4_notThere_21 : decode cX4_notThere 21 = .ok (.ldc 248, 2) := dk_18 248 (dk_at dksX4_notThere_0 21 rfl rfl)
theorem dX4_notThere_23 : decode cX4_notThere 23 = .ok (.goto 4, 3) := dk_167 0 4 (dk_at dksX4_notThere_1 0 rfl rfl)
theorem dX4_notThere_26 : decode cX4_notThere 26 = .ok (.iconst 0, 1) := dk_3 (dk_at dksX4_notThere_1 3 rfl rfl)
theorem dX4_notThere_27 : decode cX4_notThere 27 = .ok (.ireturn, 1) := dk_172 (dk_at dksX4_notThere_1 4 rfl rfl)
abbrev cX4_move : ByteArray := prog_19_method_99_code
def yX4_move : MethodName := ⟨RX4, "move", "(IIIII)I"⟩
def dkwX4_move_3 : List UInt8 := [180, 0, 28, 16, 24, 27, 104, 28, 96, 21, 8, 96, 46, 79, 132, 7, 1, 167, 255, 197, 21, 5, 172]
abbrev dktX4_move_3 : List UInt8 := dkwX4_move_3 ++ []
def dkwX4_move_2 : List UInt8 := [167, 0, 5, 21, 7, 54, 8, 42, 180, 0, 28, 16, 24, 29, 104, 21, 4, 96, 21, 8, 96, 42]
abbrev dktX4_move_2 : List UInt8 := dkwX4_move_2 ++ dktX4_move_3
def dkwX4_move_1 : List UInt8 := [172, 3, 54, 7, 21, 7, 21, 5, 162, 0, 58, 28, 21, 4, 162, 0, 13, 21, 5, 4, 100, 21, 7, 100]
abbrev dktX4_move_1 : List UInt8 := dkwX4_move_1 ++ dktX4_move_2
def dkwX4_move_0 : List UInt8 := [42, 27, 28, 29, 21, 4, 21, 5, 182, 1, 49, 54, 6, 21, 6, 153, 0, 10, 42, 21, 6, 182, 0, 126]
abbrev dktX4_move_0 : List UInt8 := dkwX4_move_0 ++ dktX4_move_1
theorem dksX4_move_0 : cX4_move.data.toList.drop 0 = dktX4_move_0 := by decide +kernel
theorem dksX4_move_1 : cX4_move.data.toList.drop 24 = dktX4_move_1 := dk_seg dksX4_move_0 24 rfl rfl
theorem dksX4_move_2 : cX4_move.data.toList.drop 48 = dktX4_move_2 := dk_seg dksX4_move_1 24 rfl rfl
theorem dksX4_move_3 : cX4_move.data.toList.drop 70 = dktX4_move_3 := dk_seg dksX4_move_2 22 rfl rfl
theorem dX4_move_0 : decode cX4_move 0 = .ok (.aload_n 0, 1) := dk_42 (dk_at dksX4_move_0 0 rfl rfl)
theorem dX4_move_1 : decode cX4_move 1 = .ok (.iload_n 1, 1) := dk_27 (dk_at dksX4_move_0 1 rfl rfl)
theorem dX4_move_2 : decode cX4_move 2 = .ok (.iload_n 2, 1) := dk_28 (dk_at dksX4_move_0 2 rfl rfl)
theorem dX4_move_3 : decode cX4_move 3 = .ok (.iload_n 3, 1) := dk_29 (dk_at dksX4_move_0 3 rfl rfl)
theorem dX4_move_4 : decode cX4_move 4 = .ok (.iload 4, 2) := dk_21 4 (dk_at dksX4_move_0 4 rfl rfl)
theorem dX4_move_6 : decode cX4_move 6 = .ok (.iload 5, 2) := dk_21 5 (dk_at dksX4_move_0 6 rfl rfl)
theorem dX4_move_8 : decode cX4_move 8 = .ok (.invokevirtual 305, 3) := dk_182 1 49 (dk_at dksX4_move_0 8 rfl rfl)
theorem dX4_move_11 : decode cX4_move 11 = .ok (.istore 6, 2) := dk_54 6 (dk_at dksX4_move_0 11 rfl rfl)
theorem dX4_move_13 : decode cX4_move 13 = .ok (.iload 6, 2) := dk_21 6 (dk_at dksX4_move_0 13 rfl rfl)
theorem dX4_move_15 : decode cX4_move 15 = .ok (.ifCond .eq 10, 3) := dk_153 0 10 (dk_at dksX4_move_0 15 rfl rfl)
theorem dX4_move_18 : decode cX4_move 18 = .ok (.aload_n 0, 1) := dk_42 (dk_at dksX4_move_0 18 rfl rfl)
theorem dX4_move_19 : decode cX4_move 19 = .ok (.iload 6, 2) := dk_21 6 (dk_at dksX4_move_0 19 rfl rfl)
theorem dX4_move_21 : decode cX4_move 21 = .ok (.invokevirtual 126, 3) := dk_182 0 126 (dk_at dksX4_move_0 21 rfl rfl)
theorem dX4_move_24 : decode cX4_move 24 = .ok (.ireturn, 1) := dk_172 (dk_at dksX4_move_1 0 rfl rfl)
theorem dX4_move_25 : decode cX4_move 25 = .ok (.iconst 0, 1) := dk_3 (dk_at dksX4_move_1 1 rfl rfl)
theorem dX4_move_26 : decode cX4_move 26 = .ok (.istore 7, 2) := dk_54 7 (dk_at dksX4_move_1 2 rfl rfl)
theorem dX4_move_28 : decode cX4_move 28 = .ok (.iload 7, 2) := dk_21 7 (dk_at dksX4_move_1 4 rfl rfl)
theorem dX4_move_30 : decode cX4_move 30 = .ok (.iload 5, 2) := dk_21 5 (dk_at dksX4_move_1 6 rfl rfl)
theorem dX4_move_32 : decode cX4_move 32 = .ok (.if_icmp .ge 58, 3) := dk_162 0 58 (dk_at dksX4_move_1 8 rfl rfl)
theorem dX4_move_35 : decode cX4_move 35 = .ok (.iload_n 2, 1) := dk_28 (dk_at dksX4_move_1 11 rfl rfl)
theorem dX4_move_36 : decode cX4_move 36 = .ok (.iload 4, 2) := dk_21 4 (dk_at dksX4_move_1 12 rfl rfl)
theorem dX4_move_38 : decode cX4_move 38 = .ok (.if_icmp .ge 13, 3) := dk_162 0 13 (dk_at dksX4_move_1 14 rfl rfl)
theorem dX4_move_41 : decode cX4_move 41 = .ok (.iload 5, 2) := dk_21 5 (dk_at dksX4_move_1 17 rfl rfl)
theorem dX4_move_43 : decode cX4_move 43 = .ok (.iconst 1, 1) := dk_4 (dk_at dksX4_move_1 19 rfl rfl)
theorem dX4_move_44 : decode cX4_move 44 = .ok (.isub, 1) := dk_100 (dk_at dksX4_move_1 20 rfl rfl)
theorem dX4_move_45 : decode cX4_move 45 = .ok (.iload 7, 2) := dk_21 7 (dk_at dksX4_move_1 21 rfl rfl)
theorem dX4_move_47 : decode cX4_move 47 = .ok (.isub, 1) := dk_100 (dk_at dksX4_move_1 23 rfl rfl)
theorem dX4_move_48 : decode cX4_move 48 = .ok (.goto 5, 3) := dk_167 0 5 (dk_at dksX4_move_2 0 rfl rfl)
theorem dX4_move_51 : decode cX4_move 51 = .ok (.iload 7, 2) := dk_21 7 (dk_at dksX4_move_2 3 rfl rfl)
theorem dX4_move_53 : decode cX4_move 53 = .ok (.istore 8, 2) := dk_54 8 (dk_at dksX4_move_2 5 rfl rfl)
theorem dX4_move_55 : decode cX4_move 55 = .ok (.aload_n 0, 1) := dk_42 (dk_at dksX4_move_2 7 rfl rfl)
theorem dX4_move_56 : decode cX4_move 56 = .ok (.getfield 28, 3) := dk_180 0 28 (dk_at dksX4_move_2 8 rfl rfl)
theorem dX4_move_59 : decode cX4_move 59 = .ok (.bipush 24, 2) := dk_16 24 (dk_at dksX4_move_2 11 rfl rfl)
theorem dX4_move_61 : decode cX4_move 61 = .ok (.iload_n 3, 1) := dk_29 (dk_at dksX4_move_2 13 rfl rfl)
theorem dX4_move_62 : decode cX4_move 62 = .ok (.imul, 1) := dk_104 (dk_at dksX4_move_2 14 rfl rfl)
theorem dX4_move_63 : decode cX4_move 63 = .ok (.iload 4, 2) := dk_21 4 (dk_at dksX4_move_2 15 rfl rfl)
theorem dX4_move_65 : decode cX4_move 65 = .ok (.iadd, 1) := dk_96 (dk_at dksX4_move_2 17 rfl rfl)
theorem dX4_move_66 : decode cX4_move 66 = .ok (.iload 8, 2) := dk_21 8 (dk_at dksX4_move_2 18 rfl rfl)
theorem dX4_move_68 : decode cX4_move 68 = .ok (.iadd, 1) := dk_96 (dk_at dksX4_move_2 20 rfl rfl)
theorem dX4_move_69 : decode cX4_move 69 = .ok (.aload_n 0, 1) := dk_42 (dk_at dksX4_move_2 21 rfl rfl)
theorem dX4_move_70 : decode cX4_move 70 = .ok (.getfield 28, 3) := dk_180 0 28 (dk_at dksX4_move_3 0 rfl rfl)
theorem dX4_move_73 : decode cX4_move 73 = .ok (.bipush 24, 2) := dk_16 24 (dk_at dksX4_move_3 3 rfl rfl)
theorem dX4_move_75 : decode cX4_move 75 = .ok (.iload_n 1, 1) := dk_27 (dk_at dksX4_move_3 5 rfl rfl)
theorem dX4_move_76 : decode cX4_move 76 = .ok (.imul, 1) := dk_104 (dk_at dksX4_move_3 6 rfl rfl)
theorem dX4_move_77 : decode cX4_move 77 = .ok (.iload_n 2, 1) := dk_28 (dk_at dksX4_move_3 7 rfl rfl)
theorem dX4_move_78 : decode cX4_move 78 = .ok (.iadd, 1) := dk_96 (dk_at dksX4_move_3 8 rfl rfl)
theorem dX4_move_79 : decode cX4_move 79 = .ok (.iload 8, 2) := dk_21 8 (dk_at dksX4_move_3 9 rfl rfl)
theorem dX4_move_81 : decode cX4_move 81 = .ok (.iadd, 1) := dk_96 (dk_at dksX4_move_3 11 rfl rfl)
theorem dX4_move_82 : decode cX4_move 82 = .ok (.iaload, 1) := dk_46 (dk_at dksX4_move_3 12 rfl rfl)
theorem dX4_move_83 : decode cX4_move 83 = .ok (.iastore, 1) := dk_79 (dk_at dksX4_move_3 13 rfl rfl)
theorem dX4_move_84 : decode cX4_move 84 = .ok (.iinc 7 1, 3) := dk_132 7 1 (dk_at dksX4_move_3 14 rfl rfl)
theorem dX4_move_87 : decode cX4_move 87 = .ok (.goto (-59), 3) := dk_167 255 197 (dk_at dksX4_move_3 17 rfl rfl)
theorem dX4_move_90 : decode cX4_move 90 = .ok (.iload 5, 2) := dk_21 5 (dk_at dksX4_move_3 20 rfl rfl)
theorem dX4_move_92 : decode cX4_move 92 = .ok (.ireturn, 1) := dk_172 (dk_at dksX4_move_3 22 rfl rfl)
abbrev cX4_notMoved : ByteArray := prog_19_method_98_code
def yX4_notMoved : MethodName := ⟨RX4, "notMoved", "(IIIII)I"⟩
def dkwX4_notMoved_5 : List UInt8 := [172]
abbrev dktX4_notMoved_5 : List UInt8 := dkwX4_notMoved_5 ++ []
def dkwX4_notMoved_4 : List UInt8 := [21, 4, 100, 163, 0, 7, 4, 167, 0, 4, 3, 54, 6, 21, 6, 153, 0, 7, 3, 167, 0, 5, 18, 125]
abbrev dktX4_notMoved_4 : List UInt8 := dkwX4_notMoved_4 ++ dktX4_notMoved_5
def dkwX4_notMoved_3 : List UInt8 := [155, 0, 34, 21, 5, 42, 180, 0, 25, 27, 46, 28, 100, 163, 0, 21, 21, 5, 42, 180, 0, 25, 29, 46]
abbrev dktX4_notMoved_3 : List UInt8 := dkwX4_notMoved_3 ++ dktX4_notMoved_4
def dkwX4_notMoved_2 : List UInt8 := [180, 0, 22, 29, 46, 159, 0, 6, 18, 140, 172, 21, 5, 155, 0, 43, 28, 155, 0, 39, 21, 4]
abbrev dktX4_notMoved_2 : List UInt8 := dkwX4_notMoved_2 ++ dktX4_notMoved_3
def dkwX4_notMoved_1 : List UInt8 := [153, 0, 12, 42, 180, 0, 22, 29, 46, 154, 0, 6, 18, 248, 172, 42, 180, 0, 22, 27, 46, 42]
abbrev dktX4_notMoved_1 : List UInt8 := dkwX4_notMoved_1 ++ dktX4_notMoved_2
def dkwX4_notMoved_0 : List UInt8 := [27, 184, 1, 0, 153, 0, 10, 29, 184, 1, 0, 154, 0, 6, 18, 125, 172, 42, 180, 0, 22, 27, 46]
abbrev dktX4_notMoved_0 : List UInt8 := dkwX4_notMoved_0 ++ dktX4_notMoved_1
theorem dksX4_notMoved_0 : cX4_notMoved.data.toList.drop 0 = dktX4_notMoved_0 := by decide +kernel
theorem dksX4_notMoved_1 : cX4_notMoved.data.toList.drop 23 = dktX4_notMoved_1 := dk_seg dksX4_notMoved_0 23 rfl rfl
theorem dksX4_notMoved_2 : cX4_notMoved.data.toList.drop 45 = dktX4_notMoved_2 := dk_seg dksX4_notMoved_1 22 rfl rfl
theorem dksX4_notMoved_3 : cX4_notMoved.data.toList.drop 67 = dktX4_notMoved_3 := dk_seg dksX4_notMoved_2 22 rfl rfl
theorem dksX4_notMoved_4 : cX4_notMoved.data.toList.drop 91 = dktX4_notMoved_4 := dk_seg dksX4_notMoved_3 24 rfl rfl
theorem dksX4_notMoved_5 : cX4_notMoved.data.toList.drop 115 = dktX4_notMoved_5 := dk_seg dksX4_notMoved_4 24 rfl rfl
theorem dX4_notMoved_0 : decode cX4_notMoved 0 = .ok (.iload_n 1, 1) := dk_27 (dk_at dksX4_notMoved_0 0 rfl rfl)
theorem dX4_notMoved_1 : decode cX4_notMoved 1 = .ok (.invokestatic 256, 3) := dk_184 1 0 (dk_at dksX4_notMoved_0 1 rfl rfl)
theorem dX4_notMoved_4 : decode cX4_notMoved 4 = .ok (.ifCond .eq 10, 3) := dk_153 0 10 (dk_at dksX4_notMoved_0 4 rfl rfl)
theorem dX4_notMoved_7 : decode cX4_notMoved 7 = .ok (.iload_n 3, 1) := dk_29 (dk_at dksX4_notMoved_0 7 rfl rfl)
theorem dX4_notMoved_8 : decode cX4_notMoved 8 = .ok (.invokestatic 256, 3) := dk_184 1 0 (dk_at dksX4_notMoved_0 8 rfl rfl)
theorem dX4_notMoved_11 : decode cX4_notMoved 11 = .ok (.ifCond .ne 6, 3) := dk_154 0 6 (dk_at dksX4_notMoved_0 11 rfl rfl)
theorem dX4_notMoved_14 : decode cX4_notMoved 14 = .ok (.ldc 125, 2) := dk_18 125 (dk_at dksX4_notMoved_0 14 rfl rfl)
theorem dX4_notMoved_16 : decode cX4_notMoved 16 = .ok (.ireturn, 1) := dk_172 (dk_at dksX4_notMoved_0 16 rfl rfl)
theorem dX4_notMoved_17 : decode cX4_notMoved 17 = .ok (.aload_n 0, 1) := dk_42 (dk_at dksX4_notMoved_0 17 rfl rfl)
theorem dX4_notMoved_18 : decode cX4_notMoved 18 = .ok (.getfield 22, 3) := dk_180 0 22 (dk_at dksX4_notMoved_0 18 rfl rfl)
theorem dX4_notMoved_21 : decode cX4_notMoved 21 = .ok (.iload_n 1, 1) := dk_27 (dk_at dksX4_notMoved_0 21 rfl rfl)
theorem dX4_notMoved_22 : decode cX4_notMoved 22 = .ok (.iaload, 1) := dk_46 (dk_at dksX4_notMoved_0 22 rfl rfl)
theorem dX4_notMoved_23 : decode cX4_notMoved 23 = .ok (.ifCond .eq 12, 3) := dk_153 0 12 (dk_at dksX4_notMoved_1 0 rfl rfl)
theorem dX4_notMoved_26 : decode cX4_notMoved 26 = .ok (.aload_n 0, 1) := dk_42 (dk_at dksX4_notMoved_1 3 rfl rfl)
theorem dX4_notMoved_27 : decode cX4_notMoved 27 = .ok (.getfield 22, 3) := dk_180 0 22 (dk_at dksX4_notMoved_1 4 rfl rfl)
theorem dX4_notMoved_30 : decode cX4_notMoved 30 = .ok (.iload_n 3, 1) := dk_29 (dk_at dksX4_notMoved_1 7 rfl rfl)
theorem dX4_notMoved_31 : decode cX4_notMoved 31 = .ok (.iaload, 1) := dk_46 (dk_at dksX4_notMoved_1 8 rfl rfl)
theorem dX4_notMoved_32 : decode cX4_notMoved 32 = .ok (.ifCond .ne 6, 3) := dk_154 0 6 (dk_at dksX4_notMoved_1 9 rfl rfl)
theorem dX4_notMoved_35 : decode cX4_notMoved 35 = .ok (.ldc 248, 2) := dk_18 248 (dk_at dksX4_notMoved_1 12 rfl rfl)
theorem dX4_notMoved_37 : decode cX4_notMoved 37 = .ok (.ireturn, 1) := dk_172 (dk_at dksX4_notMoved_1 14 rfl rfl)
theorem dX4_notMoved_38 : decode cX4_notMoved 38 = .ok (.aload_n 0, 1) := dk_42 (dk_at dksX4_notMoved_1 15 rfl rfl)
theorem dX4_notMoved_39 : decode cX4_notMoved 39 = .ok (.getfield 22, 3) := dk_180 0 22 (dk_at dksX4_notMoved_1 16 rfl rfl)
theorem dX4_notMoved_42 : decode cX4_notMoved 42 = .ok (.iload_n 1, 1) := dk_27 (dk_at dksX4_notMoved_1 19 rfl rfl)
theorem dX4_notMoved_43 : decode cX4_notMoved 43 = .ok (.iaload, 1) := dk_46 (dk_at dksX4_notMoved_1 20 rfl rfl)
theorem dX4_notMoved_44 : decode cX4_notMoved 44 = .ok (.aload_n 0, 1) := dk_42 (dk_at dksX4_notMoved_1 21 rfl rfl)
theorem dX4_notMoved_45 : decode cX4_notMoved 45 = .ok (.getfield 22, 3) := dk_180 0 22 (dk_at dksX4_notMoved_2 0 rfl rfl)
theorem dX4_notMoved_48 : decode cX4_notMoved 48 = .ok (.iload_n 3, 1) := dk_29 (dk_at dksX4_notMoved_2 3 rfl rfl)
theorem dX4_notMoved_49 : decode cX4_notMoved 49 = .ok (.iaload, 1) := dk_46 (dk_at dksX4_notMoved_2 4 rfl rfl)
theorem dX4_notMoved_50 : decode cX4_notMoved 50 = .ok (.if_icmp .eq 6, 3) := dk_159 0 6 (dk_at dksX4_notMoved_2 5 rfl rfl)
theorem dX4_notMoved_53 : decode cX4_notMoved 53 = .ok (.ldc 140, 2) := dk_18 140 (dk_at dksX4_notMoved_2 8 rfl rfl)
theorem dX4_notMoved_55 : decode cX4_notMoved 55 = .ok (.ireturn, 1) := dk_172 (dk_at dksX4_notMoved_2 10 rfl rfl)
theorem dX4_notMoved_56 : decode cX4_notMoved 56 = .ok (.iload 5, 2) := dk_21 5 (dk_at dksX4_notMoved_2 11 rfl rfl)
theorem dX4_notMoved_58 : decode cX4_notMoved 58 = .ok (.ifCond .lt 43, 3) := dk_155 0 43 (dk_at dksX4_notMoved_2 13 rfl rfl)
theorem dX4_notMoved_61 : decode cX4_notMoved 61 = .ok (.iload_n 2, 1) := dk_28 (dk_at dksX4_notMoved_2 16 rfl rfl)
theorem dX4_notMoved_62 : decode cX4_notMoved 62 = .ok (.ifCond .lt 39, 3) := dk_155 0 39 (dk_at dksX4_notMoved_2 17 rfl rfl)
theorem dX4_notMoved_65 : decode cX4_notMoved 65 = .ok (.iload 4, 2) := dk_21 4 (dk_at dksX4_notMoved_2 20 rfl rfl)
theorem dX4_notMoved_67 : decode cX4_notMoved 67 = .ok (.ifCond .lt 34, 3) := dk_155 0 34 (dk_at dksX4_notMoved_3 0 rfl rfl)
theorem dX4_notMoved_70 : decode cX4_notMoved 70 = .ok (.iload 5, 2) := dk_21 5 (dk_at dksX4_notMoved_3 3 rfl rfl)
theorem dX4_notMoved_72 : decode cX4_notMoved 72 = .ok (.aload_n 0, 1) := dk_42 (dk_at dksX4_notMoved_3 5 rfl rfl)
theorem dX4_notMoved_73 : decode cX4_notMoved 73 = .ok (.getfield 25, 3) := dk_180 0 25 (dk_at dksX4_notMoved_3 6 rfl rfl)
theorem dX4_notMoved_76 : decode cX4_notMoved 76 = .ok (.iload_n 1, 1) := dk_27 (dk_at dksX4_notMoved_3 9 rfl rfl)
theorem dX4_notMoved_77 : decode cX4_notMoved 77 = .ok (.iaload, 1) := dk_46 (dk_at dksX4_notMoved_3 10 rfl rfl)
theorem dX4_notMoved_78 : decode cX4_notMoved 78 = .ok (.iload_n 2, 1) := dk_28 (dk_at dksX4_notMoved_3 11 rfl rfl)
theorem dX4_notMoved_79 : decode cX4_notMoved 79 = .ok (.isub, 1) := dk_100 (dk_at dksX4_notMoved_3 12 rfl rfl)
theorem dX4_notMoved_80 : decode cX4_notMoved 80 = .ok (.if_icmp .gt 21, 3) := dk_163 0 21 (dk_at dksX4_notMoved_3 13 rfl rfl)
theorem dX4_notMoved_83 : decode cX4_notMoved 83 = .ok (.iload 5, 2) := dk_21 5 (dk_at dksX4_notMoved_3 16 rfl rfl)
theorem dX4_notMoved_85 : decode cX4_notMoved 85 = .ok (.aload_n 0, 1) := dk_42 (dk_at dksX4_notMoved_3 18 rfl rfl)
theorem dX4_notMoved_86 : decode cX4_notMoved 86 = .ok (.getfield 25, 3) := dk_180 0 25 (dk_at dksX4_notMoved_3 19 rfl rfl)
theorem dX4_notMoved_89 : decode cX4_notMoved 89 = .ok (.iload_n 3, 1) := dk_29 (dk_at dksX4_notMoved_3 22 rfl rfl)
theorem dX4_notMoved_90 : decode cX4_notMoved 90 = .ok (.iaload, 1) := dk_46 (dk_at dksX4_notMoved_3 23 rfl rfl)
theorem dX4_notMoved_91 : decode cX4_notMoved 91 = .ok (.iload 4, 2) := dk_21 4 (dk_at dksX4_notMoved_4 0 rfl rfl)
theorem dX4_notMoved_93 : decode cX4_notMoved 93 = .ok (.isub, 1) := dk_100 (dk_at dksX4_notMoved_4 2 rfl rfl)
theorem dX4_notMoved_94 : decode cX4_notMoved 94 = .ok (.if_icmp .gt 7, 3) := dk_163 0 7 (dk_at dksX4_notMoved_4 3 rfl rfl)
theorem dX4_notMoved_97 : decode cX4_notMoved 97 = .ok (.iconst 1, 1) := dk_4 (dk_at dksX4_notMoved_4 6 rfl rfl)
theorem dX4_notMoved_98 : decode cX4_notMoved 98 = .ok (.goto 4, 3) := dk_167 0 4 (dk_at dksX4_notMoved_4 7 rfl rfl)
theorem dX4_notMoved_101 : decode cX4_notMoved 101 = .ok (.iconst 0, 1) := dk_3 (dk_at dksX4_notMoved_4 10 rfl rfl)
theorem dX4_notMoved_102 : decode cX4_notMoved 102 = .ok (.istore 6, 2) := dk_54 6 (dk_at dksX4_notMoved_4 11 rfl rfl)
theorem dX4_notMoved_104 : decode cX4_notMoved 104 = .ok (.iload 6, 2) := dk_21 6 (dk_at dksX4_notMoved_4 13 rfl rfl)
theorem dX4_notMoved_106 : decode cX4_notMoved 106 = .ok (.ifCond .eq 7, 3) := dk_153 0 7 (dk_at dksX4_notMoved_4 15 rfl rfl)
theorem dX4_notMoved_109 : decode cX4_notMoved 109 = .ok (.iconst 0, 1) := dk_3 (dk_at dksX4_notMoved_4 18 rfl rfl)
theorem dX4_notMoved_110 : decode cX4_notMoved 110 = .ok (.goto 5, 3) := dk_167 0 5 (dk_at dksX4_notMoved_4 19 rfl rfl)
theorem dX4_notMoved_113 : decode cX4_notMoved 113 = .ok (.ldc 125, 2) := dk_18 125 (dk_at dksX4_notMoved_4 22 rfl rfl)
theorem dX4_notMoved_115 : decode cX4_notMoved 115 = .ok (.ireturn, 1) := dk_172 (dk_at dksX4_notMoved_5 0 rfl rfl)
abbrev cX4_tells : ByteArray := prog_19_method_100_code
def yX4_tells : MethodName := ⟨RX4, "tells", "(I)I"⟩
def dkwX4_tells_3 : List UInt8 := [46, 182, 0, 130, 132, 3, 1, 167, 255, 195, 29, 172]
abbrev dktX4_tells_3 : List UInt8 := dkwX4_tells_3 ++ []
def dkwX4_tells_2 : List UInt8 := [46, 16, 236, 16, 20, 184, 0, 61, 153, 0, 26, 42, 29, 7, 42, 180, 0, 28, 16, 24, 27, 104, 29, 96]
abbrev dktX4_tells_2 : List UInt8 := dkwX4_tells_2 ++ dktX4_tells_3
def dkwX4_tells_1 : List UInt8 := [46, 162, 0, 57, 29, 42, 180, 0, 9, 5, 46, 162, 0, 47, 42, 180, 0, 28, 16, 24, 27, 104, 29, 96]
abbrev dktX4_tells_1 : List UInt8 := dkwX4_tells_1 ++ dktX4_tells_2
def dkwX4_tells_0 : List UInt8 := [42, 27, 182, 1, 46, 61, 28, 153, 0, 9, 42, 28, 182, 0, 126, 172, 3, 62, 29, 42, 180, 0, 25, 27]
abbrev dktX4_tells_0 : List UInt8 := dkwX4_tells_0 ++ dktX4_tells_1
theorem dksX4_tells_0 : cX4_tells.data.toList.drop 0 = dktX4_tells_0 := by decide +kernel
theorem dksX4_tells_1 : cX4_tells.data.toList.drop 24 = dktX4_tells_1 := dk_seg dksX4_tells_0 24 rfl rfl
theorem dksX4_tells_2 : cX4_tells.data.toList.drop 48 = dktX4_tells_2 := dk_seg dksX4_tells_1 24 rfl rfl
theorem dksX4_tells_3 : cX4_tells.data.toList.drop 72 = dktX4_tells_3 := dk_seg dksX4_tells_2 24 rfl rfl
theorem dX4_tells_0 : decode cX4_tells 0 = .ok (.aload_n 0, 1) := dk_42 (dk_at dksX4_tells_0 0 rfl rfl)
theorem dX4_tells_1 : decode cX4_tells 1 = .ok (.iload_n 1, 1) := dk_27 (dk_at dksX4_tells_0 1 rfl rfl)
theorem dX4_tells_2 : decode cX4_tells 2 = .ok (.invokevirtual 302, 3) := dk_182 1 46 (dk_at dksX4_tells_0 2 rfl rfl)
theorem dX4_tells_5 : decode cX4_tells 5 = .ok (.istore_n 2, 1) := dk_61 (dk_at dksX4_tells_0 5 rfl rfl)
theorem dX4_tells_6 : decode cX4_tells 6 = .ok (.iload_n 2, 1) := dk_28 (dk_at dksX4_tells_0 6 rfl rfl)
theorem dX4_tells_7 : decode cX4_tells 7 = .ok (.ifCond .eq 9, 3) := dk_153 0 9 (dk_at dksX4_tells_0 7 rfl rfl)
theorem dX4_tells_10 : decode cX4_tells 10 = .ok (.aload_n 0, 1) := dk_42 (dk_at dksX4_tells_0 10 rfl rfl)
theorem dX4_tells_11 : decode cX4_tells 11 = .ok (.iload_n 2, 1) := dk_28 (dk_at dksX4_tells_0 11 rfl rfl)
theorem dX4_tells_12 : decode cX4_tells 12 = .ok (.invokevirtual 126, 3) := dk_182 0 126 (dk_at dksX4_tells_0 12 rfl rfl)
theorem dX4_tells_15 : decode cX4_tells 15 = .ok (.ireturn, 1) := dk_172 (dk_at dksX4_tells_0 15 rfl rfl)
theorem dX4_tells_16 : decode cX4_tells 16 = .ok (.iconst 0, 1) := dk_3 (dk_at dksX4_tells_0 16 rfl rfl)
theorem dX4_tells_17 : decode cX4_tells 17 = .ok (.istore_n 3, 1) := dk_62 (dk_at dksX4_tells_0 17 rfl rfl)
theorem dX4_tells_18 : decode cX4_tells 18 = .ok (.iload_n 3, 1) := dk_29 (dk_at dksX4_tells_0 18 rfl rfl)
theorem dX4_tells_19 : decode cX4_tells 19 = .ok (.aload_n 0, 1) := dk_42 (dk_at dksX4_tells_0 19 rfl rfl)
theorem dX4_tells_20 : decode cX4_tells 20 = .ok (.getfield 25, 3) := dk_180 0 25 (dk_at dksX4_tells_0 20 rfl rfl)
theorem dX4_tells_23 : decode cX4_tells 23 = .ok (.iload_n 1, 1) := dk_27 (dk_at dksX4_tells_0 23 rfl rfl)
theorem dX4_tells_24 : decode cX4_tells 24 = .ok (.iaload, 1) := dk_46 (dk_at dksX4_tells_1 0 rfl rfl)
theorem dX4_tells_25 : decode cX4_tells 25 = .ok (.if_icmp .ge 57, 3) := dk_162 0 57 (dk_at dksX4_tells_1 1 rfl rfl)
theorem dX4_tells_28 : decode cX4_tells 28 = .ok (.iload_n 3, 1) := dk_29 (dk_at dksX4_tells_1 4 rfl rfl)
theorem dX4_tells_29 : decode cX4_tells 29 = .ok (.aload_n 0, 1) := dk_42 (dk_at dksX4_tells_1 5 rfl rfl)
theorem dX4_tells_30 : decode cX4_tells 30 = .ok (.getfield 9, 3) := dk_180 0 9 (dk_at dksX4_tells_1 6 rfl rfl)
theorem dX4_tells_33 : decode cX4_tells 33 = .ok (.iconst 2, 1) := dk_5 (dk_at dksX4_tells_1 9 rfl rfl)
theorem dX4_tells_34 : decode cX4_tells 34 = .ok (.iaload, 1) := dk_46 (dk_at dksX4_tells_1 10 rfl rfl)
theorem dX4_tells_35 : decode cX4_tells 35 = .ok (.if_icmp .ge 47, 3) := dk_162 0 47 (dk_at dksX4_tells_1 11 rfl rfl)
theorem dX4_tells_38 : decode cX4_tells 38 = .ok (.aload_n 0, 1) := dk_42 (dk_at dksX4_tells_1 14 rfl rfl)
theorem dX4_tells_39 : decode cX4_tells 39 = .ok (.getfield 28, 3) := dk_180 0 28 (dk_at dksX4_tells_1 15 rfl rfl)
theorem dX4_tells_42 : decode cX4_tells 42 = .ok (.bipush 24, 2) := dk_16 24 (dk_at dksX4_tells_1 18 rfl rfl)
theorem dX4_tells_44 : decode cX4_tells 44 = .ok (.iload_n 1, 1) := dk_27 (dk_at dksX4_tells_1 20 rfl rfl)
theorem dX4_tells_45 : decode cX4_tells 45 = .ok (.imul, 1) := dk_104 (dk_at dksX4_tells_1 21 rfl rfl)
theorem dX4_tells_46 : decode cX4_tells 46 = .ok (.iload_n 3, 1) := dk_29 (dk_at dksX4_tells_1 22 rfl rfl)
theorem dX4_tells_47 : decode cX4_tells 47 = .ok (.iadd, 1) := dk_96 (dk_at dksX4_tells_1 23 rfl rfl)
theorem dX4_tells_48 : decode cX4_tells 48 = .ok (.iaload, 1) := dk_46 (dk_at dksX4_tells_2 0 rfl rfl)
theorem dX4_tells_49 : decode cX4_tells 49 = .ok (.bipush (-20), 2) := dk_16 236 (dk_at dksX4_tells_2 1 rfl rfl)
theorem dX4_tells_51 : decode cX4_tells 51 = .ok (.bipush 20, 2) := dk_16 20 (dk_at dksX4_tells_2 3 rfl rfl)
theorem dX4_tells_53 : decode cX4_tells 53 = .ok (.invokestatic 61, 3) := dk_184 0 61 (dk_at dksX4_tells_2 5 rfl rfl)
theorem dX4_tells_56 : decode cX4_tells 56 = .ok (.ifCond .eq 26, 3) := dk_153 0 26 (dk_at dksX4_tells_2 8 rfl rfl)
theorem dX4_tells_59 : decode cX4_tells 59 = .ok (.aload_n 0, 1) := dk_42 (dk_at dksX4_tells_2 11 rfl rfl)
theorem dX4_tells_60 : decode cX4_tells 60 = .ok (.iload_n 3, 1) := dk_29 (dk_at dksX4_tells_2 12 rfl rfl)
theorem dX4_tells_61 : decode cX4_tells 61 = .ok (.iconst 4, 1) := dk_7 (dk_at dksX4_tells_2 13 rfl rfl)
theorem dX4_tells_62 : decode cX4_tells 62 = .ok (.aload_n 0, 1) := dk_42 (dk_at dksX4_tells_2 14 rfl rfl)
theorem dX4_tells_63 : decode cX4_tells 63 = .ok (.getfield 28, 3) := dk_180 0 28 (dk_at dksX4_tells_2 15 rfl rfl)
theorem dX4_tells_66 : decode cX4_tells 66 = .ok (.bipush 24, 2) := dk_16 24 (dk_at dksX4_tells_2 18 rfl rfl)
theorem dX4_tells_68 : decode cX4_tells 68 = .ok (.iload_n 1, 1) := dk_27 (dk_at dksX4_tells_2 20 rfl rfl)
theorem dX4_tells_69 : decode cX4_tells 69 = .ok (.imul, 1) := dk_104 (dk_at dksX4_tells_2 21 rfl rfl)
theorem dX4_tells_70 : decode cX4_tells 70 = .ok (.iload_n 3, 1) := dk_29 (dk_at dksX4_tells_2 22 rfl rfl)
theorem dX4_tells_71 : decode cX4_tells 71 = .ok (.iadd, 1) := dk_96 (dk_at dksX4_tells_2 23 rfl rfl)
theorem dX4_tells_72 : decode cX4_tells 72 = .ok (.iaload, 1) := dk_46 (dk_at dksX4_tells_3 0 rfl rfl)
theorem dX4_tells_73 : decode cX4_tells 73 = .ok (.invokevirtual 130, 3) := dk_182 0 130 (dk_at dksX4_tells_3 1 rfl rfl)
theorem dX4_tells_76 : decode cX4_tells 76 = .ok (.iinc 3 1, 3) := dk_132 3 1 (dk_at dksX4_tells_3 4 rfl rfl)
theorem dX4_tells_79 : decode cX4_tells 79 = .ok (.goto (-61), 3) := dk_167 255 195 (dk_at dksX4_tells_3 7 rfl rfl)
theorem dX4_tells_82 : decode cX4_tells 82 = .ok (.iload_n 3, 1) := dk_29 (dk_at dksX4_tells_3 10 rfl rfl)
theorem dX4_tells_83 : decode cX4_tells 83 = .ok (.ireturn, 1) := dk_172 (dk_at dksX4_tells_3 11 rfl rfl)
abbrev cX4_judge : ByteArray := prog_19_method_101_code
def yX4_judge : MethodName := ⟨RX4, "judge", "(I)I"⟩
def dkwX4_judge_2 : List UInt8 := [46, 42, 29, 7, 182, 0, 65, 160, 0, 9, 132, 3, 1, 167, 255, 213, 29, 172]
abbrev dktX4_judge_2 : List UInt8 := dkwX4_judge_2 ++ []
def dkwX4_judge_1 : List UInt8 := [46, 162, 0, 39, 29, 42, 180, 0, 9, 5, 46, 162, 0, 29, 42, 180, 0, 28, 16, 24, 27, 104, 29, 96]
abbrev dktX4_judge_1 : List UInt8 := dkwX4_judge_1 ++ dktX4_judge_2
def dkwX4_judge_0 : List UInt8 := [42, 27, 182, 1, 46, 61, 28, 153, 0, 9, 42, 28, 182, 0, 126, 172, 3, 62, 29, 42, 180, 0, 25, 27]
abbrev dktX4_judge_0 : List UInt8 := dkwX4_judge_0 ++ dktX4_judge_1
theorem dksX4_judge_0 : cX4_judge.data.toList.drop 0 = dktX4_judge_0 := by decide +kernel
theorem dksX4_judge_1 : cX4_judge.data.toList.drop 24 = dktX4_judge_1 := dk_seg dksX4_judge_0 24 rfl rfl
theorem dksX4_judge_2 : cX4_judge.data.toList.drop 48 = dktX4_judge_2 := dk_seg dksX4_judge_1 24 rfl rfl
theorem dX4_judge_0 : decode cX4_judge 0 = .ok (.aload_n 0, 1) := dk_42 (dk_at dksX4_judge_0 0 rfl rfl)
theorem dX4_judge_1 : decode cX4_judge 1 = .ok (.iload_n 1, 1) := dk_27 (dk_at dksX4_judge_0 1 rfl rfl)
theorem dX4_judge_2 : decode cX4_judge 2 = .ok (.invokevirtual 302, 3) := dk_182 1 46 (dk_at dksX4_judge_0 2 rfl rfl)
theorem dX4_judge_5 : decode cX4_judge 5 = .ok (.istore_n 2, 1) := dk_61 (dk_at dksX4_judge_0 5 rfl rfl)
theorem dX4_judge_6 : decode cX4_judge 6 = .ok (.iload_n 2, 1) := dk_28 (dk_at dksX4_judge_0 6 rfl rfl)
theorem dX4_judge_7 : decode cX4_judge 7 = .ok (.ifCond .eq 9, 3) := dk_153 0 9 (dk_at dksX4_judge_0 7 rfl rfl)
theorem dX4_judge_10 : decode cX4_judge 10 = .ok (.aload_n 0, 1) := dk_42 (dk_at dksX4_judge_0 10 rfl rfl)
theorem dX4_judge_11 : decode cX4_judge 11 = .ok (.iload_n 2, 1) := dk_28 (dk_at dksX4_judge_0 11 rfl rfl)
theorem dX4_judge_12 : decode cX4_judge 12 = .ok (.invokevirtual 126, 3) := dk_182 0 126 (dk_at dksX4_judge_0 12 rfl rfl)
theorem dX4_judge_15 : decode cX4_judge 15 = .ok (.ireturn, 1) := dk_172 (dk_at dksX4_judge_0 15 rfl rfl)
theorem dX4_judge_16 : decode cX4_judge 16 = .ok (.iconst 0, 1) := dk_3 (dk_at dksX4_judge_0 16 rfl rfl)
theorem dX4_judge_17 : decode cX4_judge 17 = .ok (.istore_n 3, 1) := dk_62 (dk_at dksX4_judge_0 17 rfl rfl)
theorem dX4_judge_18 : decode cX4_judge 18 = .ok (.iload_n 3, 1) := dk_29 (dk_at dksX4_judge_0 18 rfl rfl)
theorem dX4_judge_19 : decode cX4_judge 19 = .ok (.aload_n 0, 1) := dk_42 (dk_at dksX4_judge_0 19 rfl rfl)
theorem dX4_judge_20 : decode cX4_judge 20 = .ok (.getfield 25, 3) := dk_180 0 25 (dk_at dksX4_judge_0 20 rfl rfl)
theorem dX4_judge_23 : decode cX4_judge 23 = .ok (.iload_n 1, 1) := dk_27 (dk_at dksX4_judge_0 23 rfl rfl)
theorem dX4_judge_24 : decode cX4_judge 24 = .ok (.iaload, 1) := dk_46 (dk_at dksX4_judge_1 0 rfl rfl)
theorem dX4_judge_25 : decode cX4_judge 25 = .ok (.if_icmp .ge 39, 3) := dk_162 0 39 (dk_at dksX4_judge_1 1 rfl rfl)
theorem dX4_judge_28 : decode cX4_judge 28 = .ok (.iload_n 3, 1) := dk_29 (dk_at dksX4_judge_1 4 rfl rfl)
theorem dX4_judge_29 : decode cX4_judge 29 = .ok (.aload_n 0, 1) := dk_42 (dk_at dksX4_judge_1 5 rfl rfl)
theorem dX4_judge_30 : decode cX4_judge 30 = .ok (.getfield 9, 3) := dk_180 0 9 (dk_at dksX4_judge_1 6 rfl rfl)
theorem dX4_judge_33 : decode cX4_judge 33 = .ok (.iconst 2, 1) := dk_5 (dk_at dksX4_judge_1 9 rfl rfl)
theorem dX4_judge_34 : decode cX4_judge 34 = .ok (.iaload, 1) := dk_46 (dk_at dksX4_judge_1 10 rfl rfl)
theorem dX4_judge_35 : decode cX4_judge 35 = .ok (.if_icmp .ge 29, 3) := dk_162 0 29 (dk_at dksX4_judge_1 11 rfl rfl)
theorem dX4_judge_38 : decode cX4_judge 38 = .ok (.aload_n 0, 1) := dk_42 (dk_at dksX4_judge_1 14 rfl rfl)
theorem dX4_judge_39 : decode cX4_judge 39 = .ok (.getfield 28, 3) := dk_180 0 28 (dk_at dksX4_judge_1 15 rfl rfl)
theorem dX4_judge_42 : decode cX4_judge 42 = .ok (.bipush 24, 2) := dk_16 24 (dk_at dksX4_judge_1 18 rfl rfl)
theorem dX4_judge_44 : decode cX4_judge 44 = .ok (.iload_n 1, 1) := dk_27 (dk_at dksX4_judge_1 20 rfl rfl)
theorem dX4_judge_45 : decode cX4_judge 45 = .ok (.imul, 1) := dk_104 (dk_at dksX4_judge_1 21 rfl rfl)
theorem dX4_judge_46 : decode cX4_judge 46 = .ok (.iload_n 3, 1) := dk_29 (dk_at dksX4_judge_1 22 rfl rfl)
theorem dX4_judge_47 : decode cX4_judge 47 = .ok (.iadd, 1) := dk_96 (dk_at dksX4_judge_1 23 rfl rfl)
theorem dX4_judge_48 : decode cX4_judge 48 = .ok (.iaload, 1) := dk_46 (dk_at dksX4_judge_2 0 rfl rfl)
theorem dX4_judge_49 : decode cX4_judge 49 = .ok (.aload_n 0, 1) := dk_42 (dk_at dksX4_judge_2 1 rfl rfl)
theorem dX4_judge_50 : decode cX4_judge 50 = .ok (.iload_n 3, 1) := dk_29 (dk_at dksX4_judge_2 2 rfl rfl)
theorem dX4_judge_51 : decode cX4_judge 51 = .ok (.iconst 4, 1) := dk_7 (dk_at dksX4_judge_2 3 rfl rfl)
theorem dX4_judge_52 : decode cX4_judge 52 = .ok (.invokevirtual 65, 3) := dk_182 0 65 (dk_at dksX4_judge_2 4 rfl rfl)
theorem dX4_judge_55 : decode cX4_judge 55 = .ok (.if_icmp .ne 9, 3) := dk_160 0 9 (dk_at dksX4_judge_2 7 rfl rfl)
theorem dX4_judge_58 : decode cX4_judge 58 = .ok (.iinc 3 1, 3) := dk_132 3 1 (dk_at dksX4_judge_2 10 rfl rfl)
theorem dX4_judge_61 : decode cX4_judge 61 = .ok (.goto (-43), 3) := dk_167 255 213 (dk_at dksX4_judge_2 13 rfl rfl)
theorem dX4_judge_64 : decode cX4_judge 64 = .ok (.iload_n 3, 1) := dk_29 (dk_at dksX4_judge_2 16 rfl rfl)
theorem dX4_judge_65 : decode cX4_judge 65 = .ok (.ireturn, 1) := dk_172 (dk_at dksX4_judge_2 17 rfl rfl)
abbrev cX4_image : ByteArray := prog_19_method_102_code
def yX4_image : MethodName := ⟨RX4, "image", "()I"⟩
def dkwX4_image_1 : List UInt8 := [180, 1, 53, 172]
abbrev dktX4_image_1 : List UInt8 := dkwX4_image_1 ++ []
def dkwX4_image_0 : List UInt8 := [42, 180, 0, 9, 42, 180, 0, 13, 184, 0, 57, 42, 89, 180, 1, 53, 4, 96, 181, 1, 53, 42]
abbrev dktX4_image_0 : List UInt8 := dkwX4_image_0 ++ dktX4_image_1
theorem dksX4_image_0 : cX4_image.data.toList.drop 0 = dktX4_image_0 := by decide +kernel
theorem dksX4_image_1 : cX4_image.data.toList.drop 22 = dktX4_image_1 := dk_seg dksX4_image_0 22 rfl rfl
theorem dX4_image_0 : decode cX4_image 0 = .ok (.aload_n 0, 1) := dk_42 (dk_at dksX4_image_0 0 rfl rfl)
theorem dX4_image_1 : decode cX4_image 1 = .ok (.getfield 9, 3) := dk_180 0 9 (dk_at dksX4_image_0 1 rfl rfl)
theorem dX4_image_4 : decode cX4_image 4 = .ok (.aload_n 0, 1) := dk_42 (dk_at dksX4_image_0 4 rfl rfl)
theorem dX4_image_5 : decode cX4_image 5 = .ok (.getfield 13, 3) := dk_180 0 13 (dk_at dksX4_image_0 5 rfl rfl)
theorem dX4_image_8 : decode cX4_image 8 = .ok (.invokestatic 57, 3) := dk_184 0 57 (dk_at dksX4_image_0 8 rfl rfl)
theorem dX4_image_11 : decode cX4_image 11 = .ok (.aload_n 0, 1) := dk_42 (dk_at dksX4_image_0 11 rfl rfl)
theorem dX4_image_12 : decode cX4_image 12 = .ok (.dup, 1) := dk_89 (dk_at dksX4_image_0 12 rfl rfl)
theorem dX4_image_13 : decode cX4_image 13 = .ok (.getfield 309, 3) := dk_180 1 53 (dk_at dksX4_image_0 13 rfl rfl)
theorem dX4_image_16 : decode cX4_image 16 = .ok (.iconst 1, 1) := dk_4 (dk_at dksX4_image_0 16 rfl rfl)
theorem dX4_image_17 : decode cX4_image 17 = .ok (.iadd, 1) := dk_96 (dk_at dksX4_image_0 17 rfl rfl)
theorem dX4_image_18 : decode cX4_image 18 = .ok (.putfield 309, 3) := dk_181 1 53 (dk_at dksX4_image_0 18 rfl rfl)
theorem dX4_image_21 : decode cX4_image 21 = .ok (.aload_n 0, 1) := dk_42 (dk_at dksX4_image_0 21 rfl rfl)
theorem dX4_image_22 : decode cX4_image 22 = .ok (.getfield 309, 3) := dk_180 1 53 (dk_at dksX4_image_1 0 rfl rfl)
theorem dX4_image_25 : decode cX4_image 25 = .ok (.ireturn, 1) := dk_172 (dk_at dksX4_image_1 3 rfl rfl)
abbrev cX4_restore : ByteArray := prog_19_method_103_code
def yX4_restore : MethodName := ⟨RX4, "restore", "()I"⟩
def dkwX4_restore_1 : List UInt8 := [184, 0, 57, 42, 180, 0, 9, 3, 46, 172]
abbrev dktX4_restore_1 : List UInt8 := dkwX4_restore_1 ++ []
def dkwX4_restore_0 : List UInt8 := [42, 180, 1, 53, 154, 0, 10, 42, 18, 248, 182, 0, 126, 172, 42, 180, 0, 13, 42, 180, 0, 9]
abbrev dktX4_restore_0 : List UInt8 := dkwX4_restore_0 ++ dktX4_restore_1
theorem dksX4_restore_0 : cX4_restore.data.toList.drop 0 = dktX4_restore_0 := by decide +kernel
theorem dksX4_restore_1 : cX4_restore.data.toList.drop 22 = dktX4_restore_1 := dk_seg dksX4_restore_0 22 rfl rfl
theorem dX4_restore_0 : decode cX4_restore 0 = .ok (.aload_n 0, 1) := dk_42 (dk_at dksX4_restore_0 0 rfl rfl)
theorem dX4_restore_1 : decode cX4_restore 1 = .ok (.getfield 309, 3) := dk_180 1 53 (dk_at dksX4_restore_0 1 rfl rfl)
theorem dX4_restore_4 : decode cX4_restore 4 = .ok (.ifCond .ne 10, 3) := dk_154 0 10 (dk_at dksX4_restore_0 4 rfl rfl)
theorem dX4_restore_7 : decode cX4_restore 7 = .ok (.aload_n 0, 1) := dk_42 (dk_at dksX4_restore_0 7 rfl rfl)
theorem dX4_restore_8 : decode cX4_restore 8 = .ok (.ldc 248, 2) := dk_18 248 (dk_at dksX4_restore_0 8 rfl rfl)
theorem dX4_restore_10 : decode cX4_restore 10 = .ok (.invokevirtual 126, 3) := dk_182 0 126 (dk_at dksX4_restore_0 10 rfl rfl)
theorem dX4_restore_13 : decode cX4_restore 13 = .ok (.ireturn, 1) := dk_172 (dk_at dksX4_restore_0 13 rfl rfl)
theorem dX4_restore_14 : decode cX4_restore 14 = .ok (.aload_n 0, 1) := dk_42 (dk_at dksX4_restore_0 14 rfl rfl)
theorem dX4_restore_15 : decode cX4_restore 15 = .ok (.getfield 13, 3) := dk_180 0 13 (dk_at dksX4_restore_0 15 rfl rfl)
theorem dX4_restore_18 : decode cX4_restore 18 = .ok (.aload_n 0, 1) := dk_42 (dk_at dksX4_restore_0 18 rfl rfl)
theorem dX4_restore_19 : decode cX4_restore 19 = .ok (.getfield 9, 3) := dk_180 0 9 (dk_at dksX4_restore_0 19 rfl rfl)
theorem dX4_restore_22 : decode cX4_restore 22 = .ok (.invokestatic 57, 3) := dk_184 0 57 (dk_at dksX4_restore_1 0 rfl rfl)
theorem dX4_restore_25 : decode cX4_restore 25 = .ok (.aload_n 0, 1) := dk_42 (dk_at dksX4_restore_1 3 rfl rfl)
theorem dX4_restore_26 : decode cX4_restore 26 = .ok (.getfield 9, 3) := dk_180 0 9 (dk_at dksX4_restore_1 4 rfl rfl)
theorem dX4_restore_29 : decode cX4_restore 29 = .ok (.iconst 0, 1) := dk_3 (dk_at dksX4_restore_1 7 rfl rfl)
theorem dX4_restore_30 : decode cX4_restore 30 = .ok (.iaload, 1) := dk_46 (dk_at dksX4_restore_1 8 rfl rfl)
theorem dX4_restore_31 : decode cX4_restore 31 = .ok (.ireturn, 1) := dk_172 (dk_at dksX4_restore_1 9 rfl rfl)
abbrev cX4_tell : ByteArray := prog_19_method_104_code
def yX4_tell : MethodName := ⟨RX4, "tell", "(I)I"⟩
def dkwX4_tell_2 : List UInt8 := [180, 0, 9, 16, 7, 46, 172]
abbrev dktX4_tell_2 : List UInt8 := dkwX4_tell_2 ++ []
def dkwX4_tell_1 : List UInt8 := [16, 116, 42, 180, 0, 9, 16, 7, 46, 96, 27, 79, 42, 180, 0, 9, 16, 7, 92, 46, 4, 96, 79, 42]
abbrev dktX4_tell_1 : List UInt8 := dkwX4_tell_1 ++ dktX4_tell_2
def dkwX4_tell_0 : List UInt8 := [42, 180, 0, 9, 16, 7, 46, 16, 24, 160, 0, 10, 42, 18, 129, 182, 0, 126, 172, 42, 180, 0, 9]
abbrev dktX4_tell_0 : List UInt8 := dkwX4_tell_0 ++ dktX4_tell_1
theorem dksX4_tell_0 : cX4_tell.data.toList.drop 0 = dktX4_tell_0 := by decide +kernel
theorem dksX4_tell_1 : cX4_tell.data.toList.drop 23 = dktX4_tell_1 := dk_seg dksX4_tell_0 23 rfl rfl
theorem dksX4_tell_2 : cX4_tell.data.toList.drop 47 = dktX4_tell_2 := dk_seg dksX4_tell_1 24 rfl rfl
theorem dX4_tell_0 : decode cX4_tell 0 = .ok (.aload_n 0, 1) := dk_42 (dk_at dksX4_tell_0 0 rfl rfl)
theorem dX4_tell_1 : decode cX4_tell 1 = .ok (.getfield 9, 3) := dk_180 0 9 (dk_at dksX4_tell_0 1 rfl rfl)
theorem dX4_tell_4 : decode cX4_tell 4 = .ok (.bipush 7, 2) := dk_16 7 (dk_at dksX4_tell_0 4 rfl rfl)
theorem dX4_tell_6 : decode cX4_tell 6 = .ok (.iaload, 1) := dk_46 (dk_at dksX4_tell_0 6 rfl rfl)
theorem dX4_tell_7 : decode cX4_tell 7 = .ok (.bipush 24, 2) := dk_16 24 (dk_at dksX4_tell_0 7 rfl rfl)
theorem dX4_tell_9 : decode cX4_tell 9 = .ok (.if_icmp .ne 10, 3) := dk_160 0 10 (dk_at dksX4_tell_0 9 rfl rfl)
theorem dX4_tell_12 : decode cX4_tell 12 = .ok (.aload_n 0, 1) := dk_42 (dk_at dksX4_tell_0 12 rfl rfl)
theorem dX4_tell_13 : decode cX4_tell 13 = .ok (.ldc 129, 2) := dk_18 129 (dk_at dksX4_tell_0 13 rfl rfl)
theorem dX4_tell_15 : decode cX4_tell 15 = .ok (.invokevirtual 126, 3) := dk_182 0 126 (dk_at dksX4_tell_0 15 rfl rfl)
theorem dX4_tell_18 : decode cX4_tell 18 = .ok (.ireturn, 1) := dk_172 (dk_at dksX4_tell_0 18 rfl rfl)
theorem dX4_tell_19 : decode cX4_tell 19 = .ok (.aload_n 0, 1) := dk_42 (dk_at dksX4_tell_0 19 rfl rfl)
theorem dX4_tell_20 : decode cX4_tell 20 = .ok (.getfield 9, 3) := dk_180 0 9 (dk_at dksX4_tell_0 20 rfl rfl)
theorem dX4_tell_23 : decode cX4_tell 23 = .ok (.bipush 116, 2) := dk_16 116 (dk_at dksX4_tell_1 0 rfl rfl)
theorem dX4_tell_25 : decode cX4_tell 25 = .ok (.aload_n 0, 1) := dk_42 (dk_at dksX4_tell_1 2 rfl rfl)
theorem dX4_tell_26 : decode cX4_tell 26 = .ok (.getfield 9, 3) := dk_180 0 9 (dk_at dksX4_tell_1 3 rfl rfl)
theorem dX4_tell_29 : decode cX4_tell 29 = .ok (.bipush 7, 2) := dk_16 7 (dk_at dksX4_tell_1 6 rfl rfl)
theorem dX4_tell_31 : decode cX4_tell 31 = .ok (.iaload, 1) := dk_46 (dk_at dksX4_tell_1 8 rfl rfl)
theorem dX4_tell_32 : decode cX4_tell 32 = .ok (.iadd, 1) := dk_96 (dk_at dksX4_tell_1 9 rfl rfl)
theorem dX4_tell_33 : decode cX4_tell 33 = .ok (.iload_n 1, 1) := dk_27 (dk_at dksX4_tell_1 10 rfl rfl)
theorem dX4_tell_34 : decode cX4_tell 34 = .ok (.iastore, 1) := dk_79 (dk_at dksX4_tell_1 11 rfl rfl)
theorem dX4_tell_35 : decode cX4_tell 35 = .ok (.aload_n 0, 1) := dk_42 (dk_at dksX4_tell_1 12 rfl rfl)
theorem dX4_tell_36 : decode cX4_tell 36 = .ok (.getfield 9, 3) := dk_180 0 9 (dk_at dksX4_tell_1 13 rfl rfl)
theorem dX4_tell_39 : decode cX4_tell 39 = .ok (.bipush 7, 2) := dk_16 7 (dk_at dksX4_tell_1 16 rfl rfl)
theorem dX4_tell_41 : decode cX4_tell 41 = .ok (.dup2, 1) := dk_92 (dk_at dksX4_tell_1 18 rfl rfl)
theorem dX4_tell_42 : decode cX4_tell 42 = .ok (.iaload, 1) := dk_46 (dk_at dksX4_tell_1 19 rfl rfl)
theorem dX4_tell_43 : decode cX4_tell 43 = .ok (.iconst 1, 1) := dk_4 (dk_at dksX4_tell_1 20 rfl rfl)
theorem dX4_tell_44 : decode cX4_tell 44 = .ok (.iadd, 1) := dk_96 (dk_at dksX4_tell_1 21 rfl rfl)
theorem dX4_tell_45 : decode cX4_tell 45 = .ok (.iastore, 1) := dk_79 (dk_at dksX4_tell_1 22 rfl rfl)
theorem dX4_tell_46 : decode cX4_tell 46 = .ok (.aload_n 0, 1) := dk_42 (dk_at dksX4_tell_1 23 rfl rfl)
theorem dX4_tell_47 : decode cX4_tell 47 = .ok (.getfield 9, 3) := dk_180 0 9 (dk_at dksX4_tell_2 0 rfl rfl)
theorem dX4_tell_50 : decode cX4_tell 50 = .ok (.bipush 7, 2) := dk_16 7 (dk_at dksX4_tell_2 3 rfl rfl)
theorem dX4_tell_52 : decode cX4_tell 52 = .ok (.iaload, 1) := dk_46 (dk_at dksX4_tell_2 5 rfl rfl)
theorem dX4_tell_53 : decode cX4_tell 53 = .ok (.ireturn, 1) := dk_172 (dk_at dksX4_tell_2 6 rfl rfl)
abbrev cX4_check : ByteArray := prog_19_method_105_code
def yX4_check : MethodName := ⟨RX4, "check", "()I"⟩
def dkwX4_check_2 : List UInt8 := [4, 28, 96, 172, 132, 2, 1, 167, 255, 219, 3, 172]
abbrev dktX4_check_2 : List UInt8 := dkwX4_check_2 ++ []
def dkwX4_check_1 : List UInt8 := [28, 182, 0, 134, 153, 0, 20, 42, 180, 0, 9, 16, 116, 28, 96, 46, 42, 28, 182, 0, 93, 159, 0, 7]
abbrev dktX4_check_1 : List UInt8 := dkwX4_check_1 ++ dktX4_check_2
def dkwX4_check_0 : List UInt8 := [42, 180, 0, 9, 16, 7, 46, 60, 42, 180, 0, 9, 16, 7, 3, 79, 3, 61, 28, 27, 162, 0, 38, 42]
abbrev dktX4_check_0 : List UInt8 := dkwX4_check_0 ++ dktX4_check_1
theorem dksX4_check_0 : cX4_check.data.toList.drop 0 = dktX4_check_0 := by decide +kernel
theorem dksX4_check_1 : cX4_check.data.toList.drop 24 = dktX4_check_1 := dk_seg dksX4_check_0 24 rfl rfl
theorem dksX4_check_2 : cX4_check.data.toList.drop 48 = dktX4_check_2 := dk_seg dksX4_check_1 24 rfl rfl
theorem dX4_check_0 : decode cX4_check 0 = .ok (.aload_n 0, 1) := dk_42 (dk_at dksX4_check_0 0 rfl rfl)
theorem dX4_check_1 : decode cX4_check 1 = .ok (.getfield 9, 3) := dk_180 0 9 (dk_at dksX4_check_0 1 rfl rfl)
theorem dX4_check_4 : decode cX4_check 4 = .ok (.bipush 7, 2) := dk_16 7 (dk_at dksX4_check_0 4 rfl rfl)
theorem dX4_check_6 : decode cX4_check 6 = .ok (.iaload, 1) := dk_46 (dk_at dksX4_check_0 6 rfl rfl)
theorem dX4_check_7 : decode cX4_check 7 = .ok (.istore_n 1, 1) := dk_60 (dk_at dksX4_check_0 7 rfl rfl)
theorem dX4_check_8 : decode cX4_check 8 = .ok (.aload_n 0, 1) := dk_42 (dk_at dksX4_check_0 8 rfl rfl)
theorem dX4_check_9 : decode cX4_check 9 = .ok (.getfield 9, 3) := dk_180 0 9 (dk_at dksX4_check_0 9 rfl rfl)
theorem dX4_check_12 : decode cX4_check 12 = .ok (.bipush 7, 2) := dk_16 7 (dk_at dksX4_check_0 12 rfl rfl)
theorem dX4_check_14 : decode cX4_check 14 = .ok (.iconst 0, 1) := dk_3 (dk_at dksX4_check_0 14 rfl rfl)
theorem dX4_check_15 : decode cX4_check 15 = .ok (.iastore, 1) := dk_79 (dk_at dksX4_check_0 15 rfl rfl)
theorem dX4_check_16 : decode cX4_check 16 = .ok (.iconst 0, 1) := dk_3 (dk_at dksX4_check_0 16 rfl rfl)
theorem dX4_check_17 : decode cX4_check 17 = .ok (.istore_n 2, 1) := dk_61 (dk_at dksX4_check_0 17 rfl rfl)
theorem dX4_check_18 : decode cX4_check 18 = .ok (.iload_n 2, 1) := dk_28 (dk_at dksX4_check_0 18 rfl rfl)
theorem dX4_check_19 : decode cX4_check 19 = .ok (.iload_n 1, 1) := dk_27 (dk_at dksX4_check_0 19 rfl rfl)
theorem dX4_check_20 : decode cX4_check 20 = .ok (.if_icmp .ge 38, 3) := dk_162 0 38 (dk_at dksX4_check_0 20 rfl rfl)
theorem dX4_check_23 : decode cX4_check 23 = .ok (.aload_n 0, 1) := dk_42 (dk_at dksX4_check_0 23 rfl rfl)
theorem dX4_check_24 : decode cX4_check 24 = .ok (.iload_n 2, 1) := dk_28 (dk_at dksX4_check_1 0 rfl rfl)
theorem dX4_check_25 : decode cX4_check 25 = .ok (.invokevirtual 134, 3) := dk_182 0 134 (dk_at dksX4_check_1 1 rfl rfl)
theorem dX4_check_28 : decode cX4_check 28 = .ok (.ifCond .eq 20, 3) := dk_153 0 20 (dk_at dksX4_check_1 4 rfl rfl)
theorem dX4_check_31 : decode cX4_check 31 = .ok (.aload_n 0, 1) := dk_42 (dk_at dksX4_check_1 7 rfl rfl)
theorem dX4_check_32 : decode cX4_check 32 = .ok (.getfield 9, 3) := dk_180 0 9 (dk_at dksX4_check_1 8 rfl rfl)
theorem dX4_check_35 : decode cX4_check 35 = .ok (.bipush 116, 2) := dk_16 116 (dk_at dksX4_check_1 11 rfl rfl)
theorem dX4_check_37 : decode cX4_check 37 = .ok (.iload_n 2, 1) := dk_28 (dk_at dksX4_check_1 13 rfl rfl)
theorem dX4_check_38 : decode cX4_check 38 = .ok (.iadd, 1) := dk_96 (dk_at dksX4_check_1 14 rfl rfl)
theorem dX4_check_39 : decode cX4_check 39 = .ok (.iaload, 1) := dk_46 (dk_at dksX4_check_1 15 rfl rfl)
theorem dX4_check_40 : decode cX4_check 40 = .ok (.aload_n 0, 1) := dk_42 (dk_at dksX4_check_1 16 rfl rfl)
theorem dX4_check_41 : decode cX4_check 41 = .ok (.iload_n 2, 1) := dk_28 (dk_at dksX4_check_1 17 rfl rfl)
theorem dX4_check_42 : decode cX4_check 42 = .ok (.invokevirtual 93, 3) := dk_182 0 93 (dk_at dksX4_check_1 18 rfl rfl)
theorem dX4_check_45 : decode cX4_check 45 = .ok (.if_icmp .eq 7, 3) := dk_159 0 7 (dk_at dksX4_check_1 21 rfl rfl)
theorem dX4_check_48 : decode cX4_check 48 = .ok (.iconst 1, 1) := dk_4 (dk_at dksX4_check_2 0 rfl rfl)
theorem dX4_check_49 : decode cX4_check 49 = .ok (.iload_n 2, 1) := dk_28 (dk_at dksX4_check_2 1 rfl rfl)
theorem dX4_check_50 : decode cX4_check 50 = .ok (.iadd, 1) := dk_96 (dk_at dksX4_check_2 2 rfl rfl)
theorem dX4_check_51 : decode cX4_check 51 = .ok (.ireturn, 1) := dk_172 (dk_at dksX4_check_2 3 rfl rfl)
theorem dX4_check_52 : decode cX4_check 52 = .ok (.iinc 2 1, 3) := dk_132 2 1 (dk_at dksX4_check_2 4 rfl rfl)
theorem dX4_check_55 : decode cX4_check 55 = .ok (.goto (-37), 3) := dk_167 255 219 (dk_at dksX4_check_2 7 rfl rfl)
theorem dX4_check_58 : decode cX4_check 58 = .ok (.iconst 0, 1) := dk_3 (dk_at dksX4_check_2 10 rfl rfl)
theorem dX4_check_59 : decode cX4_check 59 = .ok (.ireturn, 1) := dk_172 (dk_at dksX4_check_2 11 rfl rfl)
abbrev cX4_count : ByteArray := prog_19_method_106_code
def yX4_count : MethodName := ⟨RX4, "count", "(I)I"⟩
def dkwX4_count_5 : List UInt8 := [180, 0, 9, 4, 46, 172, 42, 18, 125, 182, 0, 126, 172]
abbrev dktX4_count_5 : List UInt8 := dkwX4_count_5 ++ []
def dkwX4_count_4 : List UInt8 := [42, 180, 0, 9, 16, 6, 46, 172, 42, 180, 0, 9, 16, 7, 46, 172, 42, 180, 1, 6, 172, 42]
abbrev dktX4_count_4 : List UInt8 := dkwX4_count_4 ++ dktX4_count_5
def dkwX4_count_3 : List UInt8 := [180, 0, 9, 7, 27, 96, 6, 100, 46, 172, 42, 182, 0, 96, 172, 42, 42, 182, 0, 96, 182, 0, 83, 172]
abbrev dktX4_count_3 : List UInt8 := dkwX4_count_3 ++ dktX4_count_4
def dkwX4_count_2 : List UInt8 := [42, 180, 0, 9, 5, 46, 172, 42, 180, 0, 9, 6, 46, 172, 42, 180, 0, 9, 3, 46, 172, 42]
abbrev dktX4_count_2 : List UInt8 := dkwX4_count_2 ++ dktX4_count_3
def dkwX4_count_1 : List UInt8 := [170, 0, 0, 0, 0, 0, 133, 0, 0, 0, 0, 0, 0, 0, 10, 0, 0, 0, 59, 0, 0, 0, 66, 0, 0, 0, 73, 0, 0, 0, 80, 0, 0, 0, 80, 0, 0, 0, 91, 0, 0, 0, 96, 0, 0, 0, 105, 0, 0, 0, 113, 0, 0, 0, 121, 0, 0, 0, 126]
abbrev dktX4_count_1 : List UInt8 := dkwX4_count_1 ++ dktX4_count_2
def dkwX4_count_0 : List UInt8 := [27]
abbrev dktX4_count_0 : List UInt8 := dkwX4_count_0 ++ dktX4_count_1
theorem dksX4_count_0 : cX4_count.data.toList.drop 0 = dktX4_count_0 := by decide +kernel
theorem dksX4_count_1 : cX4_count.data.toList.drop 1 = dktX4_count_1 := dk_seg dksX4_count_0 1 rfl rfl
theorem dksX4_count_2 : cX4_count.data.toList.drop 60 = dktX4_count_2 := dk_seg dksX4_count_1 59 rfl rfl
theorem dksX4_count_3 : cX4_count.data.toList.drop 82 = dktX4_count_3 := dk_seg dksX4_count_2 22 rfl rfl
theorem dksX4_count_4 : cX4_count.data.toList.drop 106 = dktX4_count_4 := dk_seg dksX4_count_3 24 rfl rfl
theorem dksX4_count_5 : cX4_count.data.toList.drop 128 = dktX4_count_5 := dk_seg dksX4_count_4 22 rfl rfl
theorem dX4_count_0 : decode cX4_count 0 = .ok (.iload_n 1, 1) := dk_27 (dk_at dksX4_count_0 0 rfl rfl)
theorem dX4_count_1 : decode cX4_count 1 = .ok (.tableswitch 133 0 10 #[59, 66, 73, 80, 80, 91, 96, 105, 113, 121, 126], 59) := by decide +kernel
theorem dX4_count_60 : decode cX4_count 60 = .ok (.aload_n 0, 1) := dk_42 (dk_at dksX4_count_2 0 rfl rfl)
theorem dX4_count_61 : decode cX4_count 61 = .ok (.getfield 9, 3) := dk_180 0 9 (dk_at dksX4_count_2 1 rfl rfl)
theorem dX4_count_64 : decode cX4_count 64 = .ok (.iconst 2, 1) := dk_5 (dk_at dksX4_count_2 4 rfl rfl)
theorem dX4_count_65 : decode cX4_count 65 = .ok (.iaload, 1) := dk_46 (dk_at dksX4_count_2 5 rfl rfl)
theorem dX4_count_66 : decode cX4_count 66 = .ok (.ireturn, 1) := dk_172 (dk_at dksX4_count_2 6 rfl rfl)
theorem dX4_count_67 : decode cX4_count 67 = .ok (.aload_n 0, 1) := dk_42 (dk_at dksX4_count_2 7 rfl rfl)
theorem dX4_count_68 : decode cX4_count 68 = .ok (.getfield 9, 3) := dk_180 0 9 (dk_at dksX4_count_2 8 rfl rfl)
theorem dX4_count_71 : decode cX4_count 71 = .ok (.iconst 3, 1) := dk_6 (dk_at dksX4_count_2 11 rfl rfl)
theorem dX4_count_72 : decode cX4_count 72 = .ok (.iaload, 1) := dk_46 (dk_at dksX4_count_2 12 rfl rfl)
theorem dX4_count_73 : decode cX4_count 73 = .ok (.ireturn, 1) := dk_172 (dk_at dksX4_count_2 13 rfl rfl)
theorem dX4_count_74 : decode cX4_count 74 = .ok (.aload_n 0, 1) := dk_42 (dk_at dksX4_count_2 14 rfl rfl)
theorem dX4_count_75 : decode cX4_count 75 = .ok (.getfield 9, 3) := dk_180 0 9 (dk_at dksX4_count_2 15 rfl rfl)
theorem dX4_count_78 : decode cX4_count 78 = .ok (.iconst 0, 1) := dk_3 (dk_at dksX4_count_2 18 rfl rfl)
theorem dX4_count_79 : decode cX4_count 79 = .ok (.iaload, 1) := dk_46 (dk_at dksX4_count_2 19 rfl rfl)
theorem dX4_count_80 : decode cX4_count 80 = .ok (.ireturn, 1) := dk_172 (dk_at dksX4_count_2 20 rfl rfl)
theorem dX4_count_81 : decode cX4_count 81 = .ok (.aload_n 0, 1) := dk_42 (dk_at dksX4_count_2 21 rfl rfl)
theorem dX4_count_82 : decode cX4_count 82 = .ok (.getfield 9, 3) := dk_180 0 9 (dk_at dksX4_count_3 0 rfl rfl)
theorem dX4_count_85 : decode cX4_count 85 = .ok (.iconst 4, 1) := dk_7 (dk_at dksX4_count_3 3 rfl rfl)
theorem dX4_count_86 : decode cX4_count 86 = .ok (.iload_n 1, 1) := dk_27 (dk_at dksX4_count_3 4 rfl rfl)
theorem dX4_count_87 : decode cX4_count 87 = .ok (.iadd, 1) := dk_96 (dk_at dksX4_count_3 5 rfl rfl)
theorem dX4_count_88 : decode cX4_count 88 = .ok (.iconst 3, 1) := dk_6 (dk_at dksX4_count_3 6 rfl rfl)
theorem dX4_count_89 : decode cX4_count 89 = .ok (.isub, 1) := dk_100 (dk_at dksX4_count_3 7 rfl rfl)
theorem dX4_count_90 : decode cX4_count 90 = .ok (.iaload, 1) := dk_46 (dk_at dksX4_count_3 8 rfl rfl)
theorem dX4_count_91 : decode cX4_count 91 = .ok (.ireturn, 1) := dk_172 (dk_at dksX4_count_3 9 rfl rfl)
theorem dX4_count_92 : decode cX4_count 92 = .ok (.aload_n 0, 1) := dk_42 (dk_at dksX4_count_3 10 rfl rfl)
theorem dX4_count_93 : decode cX4_count 93 = .ok (.invokevirtual 96, 3) := dk_182 0 96 (dk_at dksX4_count_3 11 rfl rfl)
theorem dX4_count_96 : decode cX4_count 96 = .ok (.ireturn, 1) := dk_172 (dk_at dksX4_count_3 14 rfl rfl)
theorem dX4_count_97 : decode cX4_count 97 = .ok (.aload_n 0, 1) := dk_42 (dk_at dksX4_count_3 15 rfl rfl)
theorem dX4_count_98 : decode cX4_count 98 = .ok (.aload_n 0, 1) := dk_42 (dk_at dksX4_count_3 16 rfl rfl)
theorem dX4_count_99 : decode cX4_count 99 = .ok (.invokevirtual 96, 3) := dk_182 0 96 (dk_at dksX4_count_3 17 rfl rfl)
theorem dX4_count_102 : decode cX4_count 102 = .ok (.invokevirtual 83, 3) := dk_182 0 83 (dk_at dksX4_count_3 20 rfl rfl)
theorem dX4_count_105 : decode cX4_count 105 = .ok (.ireturn, 1) := dk_172 (dk_at dksX4_count_3 23 rfl rfl)
theorem dX4_count_106 : decode cX4_count 106 = .ok (.aload_n 0, 1) := dk_42 (dk_at dksX4_count_4 0 rfl rfl)
theorem dX4_count_107 : decode cX4_count 107 = .ok (.getfield 9, 3) := dk_180 0 9 (dk_at dksX4_count_4 1 rfl rfl)
theorem dX4_count_110 : decode cX4_count 110 = .ok (.bipush 6, 2) := dk_16 6 (dk_at dksX4_count_4 4 rfl rfl)
theorem dX4_count_112 : decode cX4_count 112 = .ok (.iaload, 1) := dk_46 (dk_at dksX4_count_4 6 rfl rfl)
theorem dX4_count_113 : decode cX4_count 113 = .ok (.ireturn, 1) := dk_172 (dk_at dksX4_count_4 7 rfl rfl)
theorem dX4_count_114 : decode cX4_count 114 = .ok (.aload_n 0, 1) := dk_42 (dk_at dksX4_count_4 8 rfl rfl)
theorem dX4_count_115 : decode cX4_count 115 = .ok (.getfield 9, 3) := dk_180 0 9 (dk_at dksX4_count_4 9 rfl rfl)
theorem dX4_count_118 : decode cX4_count 118 = .ok (.bipush 7, 2) := dk_16 7 (dk_at dksX4_count_4 12 rfl rfl)
theorem dX4_count_120 : decode cX4_count 120 = .ok (.iaload, 1) := dk_46 (dk_at dksX4_count_4 14 rfl rfl)
theorem dX4_count_121 : decode cX4_count 121 = .ok (.ireturn, 1) := dk_172 (dk_at dksX4_count_4 15 rfl rfl)
theorem dX4_count_122 : decode cX4_count 122 = .ok (.aload_n 0, 1) := dk_42 (dk_at dksX4_count_4 16 rfl rfl)
theorem dX4_count_123 : decode cX4_count 123 = .ok (.getfield 262, 3) := dk_180 1 6 (dk_at dksX4_count_4 17 rfl rfl)
theorem dX4_count_126 : decode cX4_count 126 = .ok (.ireturn, 1) := dk_172 (dk_at dksX4_count_4 20 rfl rfl)
theorem dX4_count_127 : decode cX4_count 127 = .ok (.aload_n 0, 1) := dk_42 (dk_at dksX4_count_4 21 rfl rfl)
theorem dX4_count_128 : decode cX4_count 128 = .ok (.getfield 9, 3) := dk_180 0 9 (dk_at dksX4_count_5 0 rfl rfl)
theorem dX4_count_131 : decode cX4_count 131 = .ok (.iconst 1, 1) := dk_4 (dk_at dksX4_count_5 3 rfl rfl)
theorem dX4_count_132 : decode cX4_count 132 = .ok (.iaload, 1) := dk_46 (dk_at dksX4_count_5 4 rfl rfl)
theorem dX4_count_133 : decode cX4_count 133 = .ok (.ireturn, 1) := dk_172 (dk_at dksX4_count_5 5 rfl rfl)
theorem dX4_count_134 : decode cX4_count 134 = .ok (.aload_n 0, 1) := dk_42 (dk_at dksX4_count_5 6 rfl rfl)
theorem dX4_count_135 : decode cX4_count 135 = .ok (.ldc 125, 2) := dk_18 125 (dk_at dksX4_count_5 7 rfl rfl)
theorem dX4_count_137 : decode cX4_count 137 = .ok (.invokevirtual 126, 3) := dk_182 0 126 (dk_at dksX4_count_5 9 rfl rfl)
theorem dX4_count_140 : decode cX4_count 140 = .ok (.ireturn, 1) := dk_172 (dk_at dksX4_count_5 12 rfl rfl)
abbrev cX4_told : ByteArray := prog_19_method_107_code
def yX4_told : MethodName := ⟨RX4, "told", "(I)I"⟩
def dkwX4_told_1 : List UInt8 := [182, 0, 126, 172]
abbrev dktX4_told_1 : List UInt8 := dkwX4_told_1 ++ []
def dkwX4_told_0 : List UInt8 := [27, 4, 16, 6, 184, 0, 61, 153, 0, 12, 42, 180, 0, 19, 27, 46, 167, 0, 9, 42, 18, 125]
abbrev dktX4_told_0 : List UInt8 := dkwX4_told_0 ++ dktX4_told_1
theorem dksX4_told_0 : cX4_told.data.toList.drop 0 = dktX4_told_0 := by decide +kernel
theorem dksX4_told_1 : cX4_told.data.toList.drop 22 = dktX4_told_1 := dk_seg dksX4_told_0 22 rfl rfl
theorem dX4_told_0 : decode cX4_told 0 = .ok (.iload_n 1, 1) := dk_27 (dk_at dksX4_told_0 0 rfl rfl)
theorem dX4_told_1 : decode cX4_told 1 = .ok (.iconst 1, 1) := dk_4 (dk_at dksX4_told_0 1 rfl rfl)
theorem dX4_told_2 : decode cX4_told 2 = .ok (.bipush 6, 2) := dk_16 6 (dk_at dksX4_told_0 2 rfl rfl)
theorem dX4_told_4 : decode cX4_told 4 = .ok (.invokestatic 61, 3) := dk_184 0 61 (dk_at dksX4_told_0 4 rfl rfl)
theorem dX4_told_7 : decode cX4_told 7 = .ok (.ifCond .eq 12, 3) := dk_153 0 12 (dk_at dksX4_told_0 7 rfl rfl)
theorem dX4_told_10 : decode cX4_told 10 = .ok (.aload_n 0, 1) := dk_42 (dk_at dksX4_told_0 10 rfl rfl)
theorem dX4_told_11 : decode cX4_told 11 = .ok (.getfield 19, 3) := dk_180 0 19 (dk_at dksX4_told_0 11 rfl rfl)
theorem dX4_told_14 : decode cX4_told 14 = .ok (.iload_n 1, 1) := dk_27 (dk_at dksX4_told_0 14 rfl rfl)
theorem dX4_told_15 : decode cX4_told 15 = .ok (.iaload, 1) := dk_46 (dk_at dksX4_told_0 15 rfl rfl)
theorem dX4_told_16 : decode cX4_told 16 = .ok (.goto 9, 3) := dk_167 0 9 (dk_at dksX4_told_0 16 rfl rfl)
theorem dX4_told_19 : decode cX4_told 19 = .ok (.aload_n 0, 1) := dk_42 (dk_at dksX4_told_0 19 rfl rfl)
theorem dX4_told_20 : decode cX4_told 20 = .ok (.ldc 125, 2) := dk_18 125 (dk_at dksX4_told_0 20 rfl rfl)
theorem dX4_told_22 : decode cX4_told 22 = .ok (.invokevirtual 126, 3) := dk_182 0 126 (dk_at dksX4_told_1 0 rfl rfl)
theorem dX4_told_25 : decode cX4_told 25 = .ok (.ireturn, 1) := dk_172 (dk_at dksX4_told_1 3 rfl rfl)
theorem q90 : (Jvm.Cond.initialized "PictureBlockModel") ∈ lw_all := lw_g (lw_at lw_m1 5 rfl) rfl
theorem q1244 : (Jvm.Cond.instantiable "PictureBlockModel" (24 : Nat)) ∈ lw_all := lw_g (lw_at lw_m5 199 rfl) rfl
theorem q1246 : (Jvm.Cond.instanceMethod ({ cls := "PictureBlockModel", name := "<init>", desc := "()V" } : Jvm.MethodName)) ∈ lw_all := lw_g (lw_at lw_m5 201 rfl) rfl
theorem q1247 : (Jvm.Cond.code ({ cls := "PictureBlockModel", name := "<init>", desc := "()V" } : Jvm.MethodName) prog_19_method_1_code (1 : Nat) (Option.none : Option Jvm.ClassFile.FieldType)) ∈ lw_all := lw_g (lw_at lw_m5 202 rfl) rfl
theorem q1248 : (Jvm.Cond.methodLink "PictureBlockModel" (3 : Nat) ({ cls := "java/lang/Object", name := "<init>", desc := "()V" } : Jvm.MethodName)) ∈ lw_all := lw_g (lw_at lw_m5 203 rfl) rfl
theorem q1249 : (Jvm.Cond.fieldLink "PictureBlockModel" (9 : Nat) "PictureBlockModel" "row" "[I") ∈ lw_all := lw_g (lw_at lw_m5 204 rfl) rfl
theorem q1250 : (Jvm.Cond.fieldLink "PictureBlockModel" (13 : Nat) "PictureBlockModel" "kept" "[I") ∈ lw_all := lw_g (lw_at lw_m5 205 rfl) rfl
theorem q1251 : (Jvm.Cond.fieldLink "PictureBlockModel" (16 : Nat) "PictureBlockModel" "before" "[I") ∈ lw_all := lw_g (lw_at lw_m5 206 rfl) rfl
theorem q1252 : (Jvm.Cond.fieldLink "PictureBlockModel" (309 : Nat) "PictureBlockModel" "images" "I") ∈ lw_all := lw_g (lw_at lw_m5 207 rfl) rfl
theorem q1253 : (Jvm.Cond.fieldLink "PictureBlockModel" (19 : Nat) "PictureBlockModel" "errors" "[I") ∈ lw_all := lw_g (lw_at lw_m5 208 rfl) rfl
theorem q1254 : (Jvm.Cond.fieldLink "PictureBlockModel" (22 : Nat) "PictureBlockModel" "bitsOf" "[I") ∈ lw_all := lw_g (lw_at lw_m5 209 rfl) rfl
theorem q1255 : (Jvm.Cond.fieldLink "PictureBlockModel" (25 : Nat) "PictureBlockModel" "sizeOf" "[I") ∈ lw_all := lw_g (lw_at lw_m5 210 rfl) rfl
theorem q1256 : (Jvm.Cond.fieldLink "PictureBlockModel" (28 : Nat) "PictureBlockModel" "cells" "[I") ∈ lw_all := lw_g (lw_at lw_m5 211 rfl) rfl
theorem q1257 : (Jvm.Cond.fieldLink "PictureBlockModel" (31 : Nat) "PictureBlockModel" "square" "[J") ∈ lw_all := lw_g (lw_at lw_m5 212 rfl) rfl
theorem q1258 : (Jvm.Cond.fieldLink "PictureBlockModel" (35 : Nat) "PictureBlockModel" "right" "[J") ∈ lw_all := lw_g (lw_at lw_m5 213 rfl) rfl
theorem q1259 : (Jvm.Cond.fieldLink "PictureBlockModel" (38 : Nat) "PictureBlockModel" "above" "[J") ∈ lw_all := lw_g (lw_at lw_m5 214 rfl) rfl
theorem q1260 : (Jvm.Cond.fieldLink "PictureBlockModel" (108 : Nat) "PictureBlockModel" "line" "J") ∈ lw_all := lw_g (lw_at lw_m5 215 rfl) rfl
theorem q1261 : (Jvm.Cond.fieldLink "PictureBlockModel" (41 : Nat) "PictureBlockModel" "act" "[I") ∈ lw_all := lw_g (lw_at lw_m5 216 rfl) rfl
theorem q1262 : (Jvm.Cond.fieldLink "PictureBlockModel" (44 : Nat) "PictureBlockModel" "with" "[I") ∈ lw_all := lw_g (lw_at lw_m5 217 rfl) rfl
theorem q1263 : (Jvm.Cond.fieldLink "PictureBlockModel" (47 : Nat) "PictureBlockModel" "facts" "[I") ∈ lw_all := lw_g (lw_at lw_m5 218 rfl) rfl
theorem q1264 : (Jvm.Cond.fieldLink "PictureBlockModel" (50 : Nat) "PictureBlockModel" "pile" "[I") ∈ lw_all := lw_g (lw_at lw_m5 219 rfl) rfl
theorem q1265 : (Jvm.Cond.fieldLink "PictureBlockModel" (148 : Nat) "PictureBlockModel" "laid" "I") ∈ lw_all := lw_g (lw_at lw_m5 220 rfl) rfl
theorem q1266 : (Jvm.Cond.fieldLink "PictureBlockModel" (144 : Nat) "PictureBlockModel" "here" "I") ∈ lw_all := lw_g (lw_at lw_m5 221 rfl) rfl
theorem q1267 : (Jvm.Cond.fieldLink "PictureBlockModel" (165 : Nat) "PictureBlockModel" "opened" "I") ∈ lw_all := lw_g (lw_at lw_m5 222 rfl) rfl
theorem q1268 : (Jvm.Cond.fieldLink "PictureBlockModel" (157 : Nat) "PictureBlockModel" "bad" "Z") ∈ lw_all := lw_g (lw_at lw_m5 223 rfl) rfl
theorem q1269 : (Jvm.Cond.fieldLink "PictureBlockModel" (151 : Nat) "PictureBlockModel" "using" "I") ∈ lw_all := lw_g (lw_at lw_m5 224 rfl) rfl
theorem q1270 : (Jvm.Cond.fieldLink "PictureBlockModel" (53 : Nat) "PictureBlockModel" "trace" "[I") ∈ lw_all := lw_g (lw_at lw_m5 225 rfl) rfl
theorem q1271 : (Jvm.Cond.fieldLink "PictureBlockModel" (262 : Nat) "PictureBlockModel" "traced" "I") ∈ lw_all := lw_g (lw_at lw_m5 226 rfl) rfl
theorem q1272 : (Jvm.Cond.fieldLink "PictureBlockModel" (289 : Nat) "PictureBlockModel" "isParted" "Z") ∈ lw_all := lw_g (lw_at lw_m5 227 rfl) rfl
theorem q1273 : (Jvm.Cond.laysFinal "PictureBlockModel" "PictureBlockModel" "row" "[I") ∈ lw_all := lw_g (lw_at lw_m5 228 rfl) rfl
theorem q1274 : (Jvm.Cond.soleField "PictureBlockModel" "row") ∈ lw_all := lw_g (lw_at lw_m5 229 rfl) rfl
theorem q1275 : (Jvm.Cond.laysFinal "PictureBlockModel" "PictureBlockModel" "kept" "[I") ∈ lw_all := lw_g (lw_at lw_m5 230 rfl) rfl
theorem q1276 : (Jvm.Cond.soleField "PictureBlockModel" "kept") ∈ lw_all := lw_g (lw_at lw_m5 231 rfl) rfl
theorem q1277 : (Jvm.Cond.laysFinal "PictureBlockModel" "PictureBlockModel" "before" "[I") ∈ lw_all := lw_g (lw_at lw_m5 232 rfl) rfl
theorem q1278 : (Jvm.Cond.soleField "PictureBlockModel" "before") ∈ lw_all := lw_g (lw_at lw_m5 233 rfl) rfl
theorem q1279 : (Jvm.Cond.lays "PictureBlockModel" "PictureBlockModel" "images" "I") ∈ lw_all := lw_g (lw_at lw_m5 234 rfl) rfl
theorem q1280 : (Jvm.Cond.soleField "PictureBlockModel" "images") ∈ lw_all := lw_g (lw_at lw_m5 235 rfl) rfl
theorem q1281 : (Jvm.Cond.laysFinal "PictureBlockModel" "PictureBlockModel" "errors" "[I") ∈ lw_all := lw_g (lw_at lw_m5 236 rfl) rfl
theorem q1282 : (Jvm.Cond.soleField "PictureBlockModel" "errors") ∈ lw_all := lw_g (lw_at lw_m5 237 rfl) rfl
theorem q1283 : (Jvm.Cond.laysFinal "PictureBlockModel" "PictureBlockModel" "bitsOf" "[I") ∈ lw_all := lw_g (lw_at lw_m5 238 rfl) rfl
theorem q1284 : (Jvm.Cond.soleField "PictureBlockModel" "bitsOf") ∈ lw_all := lw_g (lw_at lw_m5 239 rfl) rfl
theorem q1285 : (Jvm.Cond.laysFinal "PictureBlockModel" "PictureBlockModel" "sizeOf" "[I") ∈ lw_all := lw_g (lw_at lw_m6 0 rfl) rfl
theorem q1286 : (Jvm.Cond.soleField "PictureBlockModel" "sizeOf") ∈ lw_all := lw_g (lw_at lw_m6 1 rfl) rfl
theorem q1287 : (Jvm.Cond.laysFinal "PictureBlockModel" "PictureBlockModel" "cells" "[I") ∈ lw_all := lw_g (lw_at lw_m6 2 rfl) rfl
theorem q1288 : (Jvm.Cond.soleField "PictureBlockModel" "cells") ∈ lw_all := lw_g (lw_at lw_m6 3 rfl) rfl
theorem q1289 : (Jvm.Cond.laysFinal "PictureBlockModel" "PictureBlockModel" "square" "[J") ∈ lw_all := lw_g (lw_at lw_m6 4 rfl) rfl
theorem q1290 : (Jvm.Cond.soleField "PictureBlockModel" "square") ∈ lw_all := lw_g (lw_at lw_m6 5 rfl) rfl
theorem q1291 : (Jvm.Cond.laysFinal "PictureBlockModel" "PictureBlockModel" "right" "[J") ∈ lw_all := lw_g (lw_at lw_m6 6 rfl) rfl
theorem q1292 : (Jvm.Cond.soleField "PictureBlockModel" "right") ∈ lw_all := lw_g (lw_at lw_m6 7 rfl) rfl
theorem q1293 : (Jvm.Cond.laysFinal "PictureBlockModel" "PictureBlockModel" "above" "[J") ∈ lw_all := lw_g (lw_at lw_m6 8 rfl) rfl
theorem q1294 : (Jvm.Cond.soleField "PictureBlockModel" "above") ∈ lw_all := lw_g (lw_at lw_m6 9 rfl) rfl
theorem q1295 : (Jvm.Cond.lays "PictureBlockModel" "PictureBlockModel" "line" "J") ∈ lw_all := lw_g (lw_at lw_m6 10 rfl) rfl
theorem q1296 : (Jvm.Cond.soleField "PictureBlockModel" "line") ∈ lw_all := lw_g (lw_at lw_m6 11 rfl) rfl
theorem q1297 : (Jvm.Cond.laysFinal "PictureBlockModel" "PictureBlockModel" "act" "[I") ∈ lw_all := lw_g (lw_at lw_m6 12 rfl) rfl
theorem q1298 : (Jvm.Cond.soleField "PictureBlockModel" "act") ∈ lw_all := lw_g (lw_at lw_m6 13 rfl) rfl
theorem q1299 : (Jvm.Cond.laysFinal "PictureBlockModel" "PictureBlockModel" "with" "[I") ∈ lw_all := lw_g (lw_at lw_m6 14 rfl) rfl
theorem q1300 : (Jvm.Cond.soleField "PictureBlockModel" "with") ∈ lw_all := lw_g (lw_at lw_m6 15 rfl) rfl
theorem q1301 : (Jvm.Cond.laysFinal "PictureBlockModel" "PictureBlockModel" "facts" "[I") ∈ lw_all := lw_g (lw_at lw_m6 16 rfl) rfl
theorem q1302 : (Jvm.Cond.soleField "PictureBlockModel" "facts") ∈ lw_all := lw_g (lw_at lw_m6 17 rfl) rfl
theorem q1303 : (Jvm.Cond.laysFinal "PictureBlockModel" "PictureBlockModel" "pile" "[I") ∈ lw_all := lw_g (lw_at lw_m6 18 rfl) rfl
theorem q1304 : (Jvm.Cond.soleField "PictureBlockModel" "pile") ∈ lw_all := lw_g (lw_at lw_m6 19 rfl) rfl
theorem q1305 : (Jvm.Cond.lays "PictureBlockModel" "PictureBlockModel" "laid" "I") ∈ lw_all := lw_g (lw_at lw_m6 20 rfl) rfl
theorem q1306 : (Jvm.Cond.soleField "PictureBlockModel" "laid") ∈ lw_all := lw_g (lw_at lw_m6 21 rfl) rfl
theorem q1307 : (Jvm.Cond.lays "PictureBlockModel" "PictureBlockModel" "here" "I") ∈ lw_all := lw_g (lw_at lw_m6 22 rfl) rfl
theorem q1308 : (Jvm.Cond.soleField "PictureBlockModel" "here") ∈ lw_all := lw_g (lw_at lw_m6 23 rfl) rfl
theorem q1309 : (Jvm.Cond.lays "PictureBlockModel" "PictureBlockModel" "opened" "I") ∈ lw_all := lw_g (lw_at lw_m6 24 rfl) rfl
theorem q1310 : (Jvm.Cond.soleField "PictureBlockModel" "opened") ∈ lw_all := lw_g (lw_at lw_m6 25 rfl) rfl
theorem q1311 : (Jvm.Cond.lays "PictureBlockModel" "PictureBlockModel" "bad" "Z") ∈ lw_all := lw_g (lw_at lw_m6 26 rfl) rfl
theorem q1312 : (Jvm.Cond.soleField "PictureBlockModel" "bad") ∈ lw_all := lw_g (lw_at lw_m6 27 rfl) rfl
theorem q1313 : (Jvm.Cond.lays "PictureBlockModel" "PictureBlockModel" "using" "I") ∈ lw_all := lw_g (lw_at lw_m6 28 rfl) rfl
theorem q1314 : (Jvm.Cond.soleField "PictureBlockModel" "using") ∈ lw_all := lw_g (lw_at lw_m6 29 rfl) rfl
theorem q1315 : (Jvm.Cond.laysFinal "PictureBlockModel" "PictureBlockModel" "trace" "[I") ∈ lw_all := lw_g (lw_at lw_m6 30 rfl) rfl
theorem q1316 : (Jvm.Cond.soleField "PictureBlockModel" "trace") ∈ lw_all := lw_g (lw_at lw_m6 31 rfl) rfl
theorem q1317 : (Jvm.Cond.lays "PictureBlockModel" "PictureBlockModel" "traced" "I") ∈ lw_all := lw_g (lw_at lw_m6 32 rfl) rfl
theorem q1318 : (Jvm.Cond.soleField "PictureBlockModel" "traced") ∈ lw_all := lw_g (lw_at lw_m6 33 rfl) rfl
theorem q1319 : (Jvm.Cond.lays "PictureBlockModel" "PictureBlockModel" "isParted" "Z") ∈ lw_all := lw_g (lw_at lw_m6 34 rfl) rfl
theorem q1320 : (Jvm.Cond.soleField "PictureBlockModel" "isParted") ∈ lw_all := lw_g (lw_at lw_m6 35 rfl) rfl
theorem q1321 : (Jvm.Cond.superclass "PictureBlockModel" "java/lang/Object") ∈ lw_all := lw_g (lw_at lw_m6 36 rfl) rfl
theorem q1323 : (Jvm.Cond.instanceMethod ({ cls := "PictureBlockModel", name := "mark", desc := "(IIII)I" } : Jvm.MethodName)) ∈ lw_all := lw_g (lw_at lw_m6 38 rfl) rfl
theorem q1324 : (Jvm.Cond.selects "PictureBlockModel" ({ cls := "PictureBlockModel", name := "mark", desc := "(IIII)I" } : Jvm.MethodName) ({ cls := "PictureBlockModel", name := "mark", desc := "(IIII)I" } : Jvm.MethodName)) ∈ lw_all := lw_g (lw_at lw_m6 39 rfl) rfl
theorem q1325 : (Jvm.Cond.code ({ cls := "PictureBlockModel", name := "mark", desc := "(IIII)I" } : Jvm.MethodName) prog_19_method_31_code (6 : Nat) (Option.some Jvm.ClassFile.FieldType.int)) ∈ lw_all := lw_g (lw_at lw_m6 40 rfl) rfl
theorem q1326 : (Jvm.Cond.methodLink "PictureBlockModel" (119 : Nat) ({ cls := "PictureBlockModel", name := "isKm", desc := "(I)Z" } : Jvm.MethodName)) ∈ lw_all := lw_g (lw_at lw_m6 41 rfl) rfl
theorem q1327 : (Jvm.Cond.static ({ cls := "PictureBlockModel", name := "isKm", desc := "(I)Z" } : Jvm.MethodName)) ∈ lw_all := lw_g (lw_at lw_m6 42 rfl) rfl
theorem q1328 : (Jvm.Cond.code ({ cls := "PictureBlockModel", name := "isKm", desc := "(I)Z" } : Jvm.MethodName) prog_19_method_30_code (1 : Nat) (Option.some Jvm.ClassFile.FieldType.boolean)) ∈ lw_all := lw_g (lw_at lw_m6 43 rfl) rfl
theorem q1329 : (Jvm.Cond.methodLink "PictureBlockModel" (61 : Nat) ({ cls := "PictureBlockModel", name := "in", desc := "(III)Z" } : Jvm.MethodName)) ∈ lw_all := lw_g (lw_at lw_m6 44 rfl) rfl
theorem q1330 : (Jvm.Cond.static ({ cls := "PictureBlockModel", name := "in", desc := "(III)Z" } : Jvm.MethodName)) ∈ lw_all := lw_g (lw_at lw_m6 45 rfl) rfl
theorem q1331 : (Jvm.Cond.code ({ cls := "PictureBlockModel", name := "in", desc := "(III)Z" } : Jvm.MethodName) prog_19_method_3_code (3 : Nat) (Option.some Jvm.ClassFile.FieldType.boolean)) ∈ lw_all := lw_g (lw_at lw_m6 46 rfl) rfl
theorem q1332 : (Jvm.Cond.methodLink "PictureBlockModel" (122 : Nat) ({ cls := "PictureBlockModel", name := "isPicture", desc := "(I)Z" } : Jvm.MethodName)) ∈ lw_all := lw_g (lw_at lw_m6 47 rfl) rfl
theorem q1333 : (Jvm.Cond.privateMethod ({ cls := "PictureBlockModel", name := "isPicture", desc := "(I)Z" } : Jvm.MethodName)) ∈ lw_tbl := lw_at lw_m6 48 rfl
theorem q1334 : (Jvm.Cond.instanceMethod ({ cls := "PictureBlockModel", name := "isPicture", desc := "(I)Z" } : Jvm.MethodName)) ∈ lw_all := lw_g (lw_at lw_m6 49 rfl) rfl
theorem q1335 : (Jvm.Cond.code ({ cls := "PictureBlockModel", name := "isPicture", desc := "(I)Z" } : Jvm.MethodName) prog_19_method_10_code (2 : Nat) (Option.some Jvm.ClassFile.FieldType.boolean)) ∈ lw_all := lw_g (lw_at lw_m6 50 rfl) rfl
theorem q1336 : (Jvm.Cond.constant "PictureBlockModel" (125 : Nat) (-1000000001 : Int32)) ∈ lw_all := lw_g (lw_at lw_m6 51 rfl) rfl
theorem q1337 : (Jvm.Cond.methodLink "PictureBlockModel" (126 : Nat) ({ cls := "PictureBlockModel", name := "error", desc := "(I)I" } : Jvm.MethodName)) ∈ lw_all := lw_g (lw_at lw_m6 52 rfl) rfl
theorem q1338 : (Jvm.Cond.privateMethod ({ cls := "PictureBlockModel", name := "error", desc := "(I)I" } : Jvm.MethodName)) ∈ lw_tbl := lw_at lw_m6 53 rfl
theorem q1339 : (Jvm.Cond.instanceMethod ({ cls := "PictureBlockModel", name := "error", desc := "(I)I" } : Jvm.MethodName)) ∈ lw_all := lw_g (lw_at lw_m6 54 rfl) rfl
theorem q1340 : (Jvm.Cond.code ({ cls := "PictureBlockModel", name := "error", desc := "(I)I" } : Jvm.MethodName) prog_19_method_2_code (2 : Nat) (Option.some Jvm.ClassFile.FieldType.int)) ∈ lw_all := lw_g (lw_at lw_m6 55 rfl) rfl
theorem q1341 : (Jvm.Cond.constant "PictureBlockModel" (56 : Nat) (-1000000000 : Int32)) ∈ lw_all := lw_g (lw_at lw_m6 56 rfl) rfl
theorem q1342 : (Jvm.Cond.constant "PictureBlockModel" (129 : Nat) (-1000000004 : Int32)) ∈ lw_all := lw_g (lw_at lw_m6 57 rfl) rfl
theorem q1343 : (Jvm.Cond.methodLink "PictureBlockModel" (130 : Nat) ({ cls := "PictureBlockModel", name := "puts", desc := "(III)V" } : Jvm.MethodName)) ∈ lw_all := lw_g (lw_at lw_m6 58 rfl) rfl
theorem q1344 : (Jvm.Cond.privateMethod ({ cls := "PictureBlockModel", name := "puts", desc := "(III)V" } : Jvm.MethodName)) ∈ lw_tbl := lw_at lw_m6 59 rfl
theorem q1345 : (Jvm.Cond.instanceMethod ({ cls := "PictureBlockModel", name := "puts", desc := "(III)V" } : Jvm.MethodName)) ∈ lw_all := lw_g (lw_at lw_m6 60 rfl) rfl
theorem q1346 : (Jvm.Cond.code ({ cls := "PictureBlockModel", name := "puts", desc := "(III)V" } : Jvm.MethodName) prog_19_method_13_code (4 : Nat) (Option.none : Option Jvm.ClassFile.FieldType)) ∈ lw_all := lw_g (lw_at lw_m6 61 rfl) rfl
theorem q1348 : (Jvm.Cond.instanceMethod ({ cls := "PictureBlockModel", name := "markIs", desc := "(II)I" } : Jvm.MethodName)) ∈ lw_all := lw_g (lw_at lw_m6 63 rfl) rfl
theorem q1349 : (Jvm.Cond.selects "PictureBlockModel" ({ cls := "PictureBlockModel", name := "markIs", desc := "(II)I" } : Jvm.MethodName) ({ cls := "PictureBlockModel", name := "markIs", desc := "(II)I" } : Jvm.MethodName)) ∈ lw_all := lw_g (lw_at lw_m6 64 rfl) rfl
theorem q1350 : (Jvm.Cond.code ({ cls := "PictureBlockModel", name := "markIs", desc := "(II)I" } : Jvm.MethodName) prog_19_method_32_code (3 : Nat) (Option.some Jvm.ClassFile.FieldType.int)) ∈ lw_all := lw_g (lw_at lw_m6 65 rfl) rfl
theorem q1351 : (Jvm.Cond.methodLink "PictureBlockModel" (134 : Nat) ({ cls := "PictureBlockModel", name := "isMark", desc := "(I)Z" } : Jvm.MethodName)) ∈ lw_all := lw_g (lw_at lw_m6 66 rfl) rfl
theorem q1352 : (Jvm.Cond.privateMethod ({ cls := "PictureBlockModel", name := "isMark", desc := "(I)Z" } : Jvm.MethodName)) ∈ lw_tbl := lw_at lw_m6 67 rfl
theorem q1353 : (Jvm.Cond.instanceMethod ({ cls := "PictureBlockModel", name := "isMark", desc := "(I)Z" } : Jvm.MethodName)) ∈ lw_all := lw_g (lw_at lw_m6 68 rfl) rfl
theorem q1354 : (Jvm.Cond.code ({ cls := "PictureBlockModel", name := "isMark", desc := "(I)Z" } : Jvm.MethodName) prog_19_method_9_code (2 : Nat) (Option.some Jvm.ClassFile.FieldType.boolean)) ∈ lw_all := lw_g (lw_at lw_m6 69 rfl) rfl
theorem q1355 : (Jvm.Cond.methodLink "PictureBlockModel" (65 : Nat) ({ cls := "PictureBlockModel", name := "of", desc := "(II)I" } : Jvm.MethodName)) ∈ lw_all := lw_g (lw_at lw_m6 70 rfl) rfl
theorem q1356 : (Jvm.Cond.privateMethod ({ cls := "PictureBlockModel", name := "of", desc := "(II)I" } : Jvm.MethodName)) ∈ lw_tbl := lw_at lw_m6 71 rfl
theorem q1357 : (Jvm.Cond.instanceMethod ({ cls := "PictureBlockModel", name := "of", desc := "(II)I" } : Jvm.MethodName)) ∈ lw_all := lw_g (lw_at lw_m6 72 rfl) rfl
theorem q1358 : (Jvm.Cond.code ({ cls := "PictureBlockModel", name := "of", desc := "(II)I" } : Jvm.MethodName) prog_19_method_12_code (3 : Nat) (Option.some Jvm.ClassFile.FieldType.int)) ∈ lw_all := lw_g (lw_at lw_m6 73 rfl) rfl
theorem q1359 : (Jvm.Cond.methodLink "PictureBlockModel" (90 : Nat) ({ cls := "PictureBlockModel", name := "weight", desc := "(I)I" } : Jvm.MethodName)) ∈ lw_all := lw_g (lw_at lw_m6 74 rfl) rfl
theorem q1360 : (Jvm.Cond.privateMethod ({ cls := "PictureBlockModel", name := "weight", desc := "(I)I" } : Jvm.MethodName)) ∈ lw_tbl := lw_at lw_m6 75 rfl
theorem q1361 : (Jvm.Cond.instanceMethod ({ cls := "PictureBlockModel", name := "weight", desc := "(I)I" } : Jvm.MethodName)) ∈ lw_all := lw_g (lw_at lw_m6 76 rfl) rfl
theorem q1362 : (Jvm.Cond.code ({ cls := "PictureBlockModel", name := "weight", desc := "(I)I" } : Jvm.MethodName) prog_19_method_18_code (2 : Nat) (Option.some Jvm.ClassFile.FieldType.int)) ∈ lw_all := lw_g (lw_at lw_m6 77 rfl) rfl
theorem q1363 : (Jvm.Cond.methodLink "PictureBlockModel" (73 : Nat) ({ cls := "PictureBlockModel", name := "weighsBy", desc := "(I)I" } : Jvm.MethodName)) ∈ lw_all := lw_g (lw_at lw_m6 78 rfl) rfl
theorem q1364 : (Jvm.Cond.privateMethod ({ cls := "PictureBlockModel", name := "weighsBy", desc := "(I)I" } : Jvm.MethodName)) ∈ lw_tbl := lw_at lw_m6 79 rfl
theorem q1365 : (Jvm.Cond.instanceMethod ({ cls := "PictureBlockModel", name := "weighsBy", desc := "(I)I" } : Jvm.MethodName)) ∈ lw_all := lw_g (lw_at lw_m6 80 rfl) rfl
theorem q1366 : (Jvm.Cond.code ({ cls := "PictureBlockModel", name := "weighsBy", desc := "(I)I" } : Jvm.MethodName) prog_19_method_16_code (3 : Nat) (Option.some Jvm.ClassFile.FieldType.int)) ∈ lw_all := lw_g (lw_at lw_m6 81 rfl) rfl
theorem q1367 : (Jvm.Cond.methodLink "PictureBlockModel" (69 : Nat) ({ cls := "PictureBlockModel", name := "touching", desc := "(I)I" } : Jvm.MethodName)) ∈ lw_all := lw_g (lw_at lw_m6 82 rfl) rfl
theorem q1368 : (Jvm.Cond.privateMethod ({ cls := "PictureBlockModel", name := "touching", desc := "(I)I" } : Jvm.MethodName)) ∈ lw_tbl := lw_at lw_m6 83 rfl
theorem q1369 : (Jvm.Cond.instanceMethod ({ cls := "PictureBlockModel", name := "touching", desc := "(I)I" } : Jvm.MethodName)) ∈ lw_all := lw_g (lw_at lw_m6 84 rfl) rfl
theorem q1370 : (Jvm.Cond.code ({ cls := "PictureBlockModel", name := "touching", desc := "(I)I" } : Jvm.MethodName) prog_19_method_15_code (5 : Nat) (Option.some Jvm.ClassFile.FieldType.int)) ∈ lw_all := lw_g (lw_at lw_m6 85 rfl) rfl
theorem q1371 : (Jvm.Cond.methodLink "PictureBlockModel" (76 : Nat) ({ cls := "PictureBlockModel", name := "gives", desc := "(IIII)I" } : Jvm.MethodName)) ∈ lw_all := lw_g (lw_at lw_m6 86 rfl) rfl
theorem q1372 : (Jvm.Cond.privateMethod ({ cls := "PictureBlockModel", name := "gives", desc := "(IIII)I" } : Jvm.MethodName)) ∈ lw_tbl := lw_at lw_m6 87 rfl
theorem q1373 : (Jvm.Cond.instanceMethod ({ cls := "PictureBlockModel", name := "gives", desc := "(IIII)I" } : Jvm.MethodName)) ∈ lw_all := lw_g (lw_at lw_m6 88 rfl) rfl
theorem q1374 : (Jvm.Cond.code ({ cls := "PictureBlockModel", name := "gives", desc := "(IIII)I" } : Jvm.MethodName) prog_19_method_55_code (7 : Nat) (Option.some Jvm.ClassFile.FieldType.int)) ∈ lw_all := lw_g (lw_at lw_m6 89 rfl) rfl
theorem q1375 : (Jvm.Cond.methodLink "PictureBlockModel" (199 : Nat) ({ cls := "PictureBlockModel", name := "works", desc := "(I)I" } : Jvm.MethodName)) ∈ lw_all := lw_g (lw_at lw_m6 90 rfl) rfl
theorem q1376 : (Jvm.Cond.privateMethod ({ cls := "PictureBlockModel", name := "works", desc := "(I)I" } : Jvm.MethodName)) ∈ lw_tbl := lw_at lw_m6 91 rfl
theorem q1377 : (Jvm.Cond.instanceMethod ({ cls := "PictureBlockModel", name := "works", desc := "(I)I" } : Jvm.MethodName)) ∈ lw_all := lw_g (lw_at lw_m6 92 rfl) rfl
theorem q1378 : (Jvm.Cond.code ({ cls := "PictureBlockModel", name := "works", desc := "(I)I" } : Jvm.MethodName) prog_19_method_54_code (5 : Nat) (Option.some Jvm.ClassFile.FieldType.int)) ∈ lw_all := lw_g (lw_at lw_m6 93 rfl) rfl
theorem q1379 : (Jvm.Cond.methodLink "PictureBlockModel" (195 : Nat) ({ cls := "PictureBlockModel", name := "twoOf", desc := "(III)I" } : Jvm.MethodName)) ∈ lw_all := lw_g (lw_at lw_m6 94 rfl) rfl
theorem q1380 : (Jvm.Cond.static ({ cls := "PictureBlockModel", name := "twoOf", desc := "(III)I" } : Jvm.MethodName)) ∈ lw_all := lw_g (lw_at lw_m6 95 rfl) rfl
theorem q1381 : (Jvm.Cond.code ({ cls := "PictureBlockModel", name := "twoOf", desc := "(III)I" } : Jvm.MethodName) prog_19_method_53_code (3 : Nat) (Option.some Jvm.ClassFile.FieldType.int)) ∈ lw_all := lw_g (lw_at lw_m6 96 rfl) rfl
theorem q1382 : (Jvm.Cond.methodLink "PictureBlockModel" (202 : Nat) ({ cls := "PictureBlockModel", name := "held", desc := "(III)I" } : Jvm.MethodName)) ∈ lw_all := lw_g (lw_at lw_m6 97 rfl) rfl
theorem q1383 : (Jvm.Cond.static ({ cls := "PictureBlockModel", name := "held", desc := "(III)I" } : Jvm.MethodName)) ∈ lw_all := lw_g (lw_at lw_m6 98 rfl) rfl
theorem q1384 : (Jvm.Cond.code ({ cls := "PictureBlockModel", name := "held", desc := "(III)I" } : Jvm.MethodName) prog_19_method_4_code (3 : Nat) (Option.some Jvm.ClassFile.FieldType.int)) ∈ lw_all := lw_g (lw_at lw_m6 99 rfl) rfl
theorem q1385 : (Jvm.Cond.methodLink "PictureBlockModel" (93 : Nat) ({ cls := "PictureBlockModel", name := "saysOf", desc := "(I)I" } : Jvm.MethodName)) ∈ lw_all := lw_g (lw_at lw_m6 100 rfl) rfl
theorem q1386 : (Jvm.Cond.privateMethod ({ cls := "PictureBlockModel", name := "saysOf", desc := "(I)I" } : Jvm.MethodName)) ∈ lw_tbl := lw_at lw_m6 101 rfl
theorem q1387 : (Jvm.Cond.instanceMethod ({ cls := "PictureBlockModel", name := "saysOf", desc := "(I)I" } : Jvm.MethodName)) ∈ lw_all := lw_g (lw_at lw_m6 102 rfl) rfl
theorem q1388 : (Jvm.Cond.code ({ cls := "PictureBlockModel", name := "saysOf", desc := "(I)I" } : Jvm.MethodName) prog_19_method_19_code (2 : Nat) (Option.some Jvm.ClassFile.FieldType.int)) ∈ lw_all := lw_g (lw_at lw_m6 103 rfl) rfl
theorem q1389 : (Jvm.Cond.methodLink "PictureBlockModel" (80 : Nat) ({ cls := "PictureBlockModel", name := "readBy", desc := "(I)I" } : Jvm.MethodName)) ∈ lw_all := lw_g (lw_at lw_m6 104 rfl) rfl
theorem q1390 : (Jvm.Cond.privateMethod ({ cls := "PictureBlockModel", name := "readBy", desc := "(I)I" } : Jvm.MethodName)) ∈ lw_tbl := lw_at lw_m6 105 rfl
theorem q1391 : (Jvm.Cond.instanceMethod ({ cls := "PictureBlockModel", name := "readBy", desc := "(I)I" } : Jvm.MethodName)) ∈ lw_all := lw_g (lw_at lw_m6 106 rfl) rfl
theorem q1392 : (Jvm.Cond.code ({ cls := "PictureBlockModel", name := "readBy", desc := "(I)I" } : Jvm.MethodName) prog_19_method_17_code (3 : Nat) (Option.some Jvm.ClassFile.FieldType.int)) ∈ lw_all := lw_g (lw_at lw_m6 107 rfl) rfl
theorem q1394 : (Jvm.Cond.instanceMethod ({ cls := "PictureBlockModel", name := "become", desc := "(II)I" } : Jvm.MethodName)) ∈ lw_all := lw_g (lw_at lw_m6 109 rfl) rfl
theorem q1395 : (Jvm.Cond.selects "PictureBlockModel" ({ cls := "PictureBlockModel", name := "become", desc := "(II)I" } : Jvm.MethodName) ({ cls := "PictureBlockModel", name := "become", desc := "(II)I" } : Jvm.MethodName)) ∈ lw_all := lw_g (lw_at lw_m6 110 rfl) rfl
theorem q1396 : (Jvm.Cond.code ({ cls := "PictureBlockModel", name := "become", desc := "(II)I" } : Jvm.MethodName) prog_19_method_33_code (3 : Nat) (Option.some Jvm.ClassFile.FieldType.int)) ∈ lw_all := lw_g (lw_at lw_m6 111 rfl) rfl
theorem q1397 : (Jvm.Cond.methodLink "PictureBlockModel" (137 : Nat) ({ cls := "PictureBlockModel", name := "becomes", desc := "(II)I" } : Jvm.MethodName)) ∈ lw_all := lw_g (lw_at lw_m6 112 rfl) rfl
theorem q1398 : (Jvm.Cond.privateMethod ({ cls := "PictureBlockModel", name := "becomes", desc := "(II)I" } : Jvm.MethodName)) ∈ lw_tbl := lw_at lw_m6 113 rfl
theorem q1399 : (Jvm.Cond.instanceMethod ({ cls := "PictureBlockModel", name := "becomes", desc := "(II)I" } : Jvm.MethodName)) ∈ lw_all := lw_g (lw_at lw_m6 114 rfl) rfl
theorem q1400 : (Jvm.Cond.code ({ cls := "PictureBlockModel", name := "becomes", desc := "(II)I" } : Jvm.MethodName) prog_19_method_11_code (4 : Nat) (Option.some Jvm.ClassFile.FieldType.int)) ∈ lw_all := lw_g (lw_at lw_m6 115 rfl) rfl
theorem q1402 : (Jvm.Cond.instanceMethod ({ cls := "PictureBlockModel", name := "as", desc := "(II)I" } : Jvm.MethodName)) ∈ lw_all := lw_g (lw_at lw_m6 117 rfl) rfl
theorem q1403 : (Jvm.Cond.selects "PictureBlockModel" ({ cls := "PictureBlockModel", name := "as", desc := "(II)I" } : Jvm.MethodName) ({ cls := "PictureBlockModel", name := "as", desc := "(II)I" } : Jvm.MethodName)) ∈ lw_all := lw_g (lw_at lw_m6 118 rfl) rfl
theorem q1404 : (Jvm.Cond.code ({ cls := "PictureBlockModel", name := "as", desc := "(II)I" } : Jvm.MethodName) prog_19_method_34_code (5 : Nat) (Option.some Jvm.ClassFile.FieldType.int)) ∈ lw_all := lw_g (lw_at lw_m6 119 rfl) rfl
theorem q1405 : (Jvm.Cond.constant "PictureBlockModel" (140 : Nat) (-1000000005 : Int32)) ∈ lw_all := lw_g (lw_at lw_m6 120 rfl) rfl
theorem q1407 : (Jvm.Cond.instanceMethod ({ cls := "PictureBlockModel", name := "measure", desc := "(II)I" } : Jvm.MethodName)) ∈ lw_all := lw_g (lw_at lw_m6 122 rfl) rfl
theorem q1408 : (Jvm.Cond.selects "PictureBlockModel" ({ cls := "PictureBlockModel", name := "measure", desc := "(II)I" } : Jvm.MethodName) ({ cls := "PictureBlockModel", name := "measure", desc := "(II)I" } : Jvm.MethodName)) ∈ lw_all := lw_g (lw_at lw_m6 123 rfl) rfl
theorem q1409 : (Jvm.Cond.code ({ cls := "PictureBlockModel", name := "measure", desc := "(II)I" } : Jvm.MethodName) prog_19_method_35_code (3 : Nat) (Option.some Jvm.ClassFile.FieldType.int)) ∈ lw_all := lw_g (lw_at lw_m6 124 rfl) rfl
theorem q1411 : (Jvm.Cond.instanceMethod ({ cls := "PictureBlockModel", name := "on", desc := "(II)I" } : Jvm.MethodName)) ∈ lw_all := lw_g (lw_at lw_m6 126 rfl) rfl
theorem q1412 : (Jvm.Cond.selects "PictureBlockModel" ({ cls := "PictureBlockModel", name := "on", desc := "(II)I" } : Jvm.MethodName) ({ cls := "PictureBlockModel", name := "on", desc := "(II)I" } : Jvm.MethodName)) ∈ lw_all := lw_g (lw_at lw_m6 127 rfl) rfl
theorem q1413 : (Jvm.Cond.code ({ cls := "PictureBlockModel", name := "on", desc := "(II)I" } : Jvm.MethodName) prog_19_method_36_code (3 : Nat) (Option.some Jvm.ClassFile.FieldType.int)) ∈ lw_all := lw_g (lw_at lw_m6 128 rfl) rfl
theorem q1415 : (Jvm.Cond.instanceMethod ({ cls := "PictureBlockModel", name := "pictures", desc := "(I)I" } : Jvm.MethodName)) ∈ lw_all := lw_g (lw_at lw_m6 130 rfl) rfl
theorem q1416 : (Jvm.Cond.selects "PictureBlockModel" ({ cls := "PictureBlockModel", name := "pictures", desc := "(I)I" } : Jvm.MethodName) ({ cls := "PictureBlockModel", name := "pictures", desc := "(I)I" } : Jvm.MethodName)) ∈ lw_all := lw_g (lw_at lw_m6 131 rfl) rfl
theorem q1417 : (Jvm.Cond.code ({ cls := "PictureBlockModel", name := "pictures", desc := "(I)I" } : Jvm.MethodName) prog_19_method_37_code (4 : Nat) (Option.some Jvm.ClassFile.FieldType.int)) ∈ lw_all := lw_g (lw_at lw_m6 132 rfl) rfl
theorem q1418 : (Jvm.Cond.constant "PictureBlockModel" (141 : Nat) (-1000000003 : Int32)) ∈ lw_all := lw_g (lw_at lw_m6 133 rfl) rfl
theorem q1420 : (Jvm.Cond.instanceMethod ({ cls := "PictureBlockModel", name := "limit", desc := "(I)I" } : Jvm.MethodName)) ∈ lw_all := lw_g (lw_at lw_m6 135 rfl) rfl
theorem q1421 : (Jvm.Cond.selects "PictureBlockModel" ({ cls := "PictureBlockModel", name := "limit", desc := "(I)I" } : Jvm.MethodName) ({ cls := "PictureBlockModel", name := "limit", desc := "(I)I" } : Jvm.MethodName)) ∈ lw_all := lw_g (lw_at lw_m6 136 rfl) rfl
theorem q1422 : (Jvm.Cond.code ({ cls := "PictureBlockModel", name := "limit", desc := "(I)I" } : Jvm.MethodName) prog_19_method_38_code (2 : Nat) (Option.some Jvm.ClassFile.FieldType.int)) ∈ lw_all := lw_g (lw_at lw_m6 137 rfl) rfl
theorem q1424 : (Jvm.Cond.instanceMethod ({ cls := "PictureBlockModel", name := "feed", desc := "(JI)I" } : Jvm.MethodName)) ∈ lw_all := lw_g (lw_at lw_m6 139 rfl) rfl
theorem q1425 : (Jvm.Cond.selects "PictureBlockModel" ({ cls := "PictureBlockModel", name := "feed", desc := "(JI)I" } : Jvm.MethodName) ({ cls := "PictureBlockModel", name := "feed", desc := "(JI)I" } : Jvm.MethodName)) ∈ lw_all := lw_g (lw_at lw_m6 140 rfl) rfl
theorem q1426 : (Jvm.Cond.code ({ cls := "PictureBlockModel", name := "feed", desc := "(JI)I" } : Jvm.MethodName) prog_19_method_39_code (5 : Nat) (Option.some Jvm.ClassFile.FieldType.int)) ∈ lw_all := lw_g (lw_at lw_m6 141 rfl) rfl
theorem q1427 : (Jvm.Cond.constantLong "PictureBlockModel" (142 : Nat) (255 : Int64)) ∈ lw_all := lw_g (lw_at lw_m6 142 rfl) rfl
theorem q1429 : (Jvm.Cond.instanceMethod ({ cls := "PictureBlockModel", name := "text", desc := "(I)I" } : Jvm.MethodName)) ∈ lw_all := lw_g (lw_at lw_m6 144 rfl) rfl
theorem q1430 : (Jvm.Cond.selects "PictureBlockModel" ({ cls := "PictureBlockModel", name := "text", desc := "(I)I" } : Jvm.MethodName) ({ cls := "PictureBlockModel", name := "text", desc := "(I)I" } : Jvm.MethodName)) ∈ lw_all := lw_g (lw_at lw_m6 145 rfl) rfl
theorem q1431 : (Jvm.Cond.code ({ cls := "PictureBlockModel", name := "text", desc := "(I)I" } : Jvm.MethodName) prog_19_method_51_code (4 : Nat) (Option.some Jvm.ClassFile.FieldType.int)) ∈ lw_all := lw_g (lw_at lw_m6 146 rfl) rfl
theorem q1432 : (Jvm.Cond.methodLink "PictureBlockModel" (171 : Nat) ({ cls := "PictureBlockModel", name := "any", desc := "()V" } : Jvm.MethodName)) ∈ lw_all := lw_g (lw_at lw_m6 147 rfl) rfl
theorem q1433 : (Jvm.Cond.privateMethod ({ cls := "PictureBlockModel", name := "any", desc := "()V" } : Jvm.MethodName)) ∈ lw_tbl := lw_at lw_m6 148 rfl
theorem q1434 : (Jvm.Cond.instanceMethod ({ cls := "PictureBlockModel", name := "any", desc := "()V" } : Jvm.MethodName)) ∈ lw_all := lw_g (lw_at lw_m6 149 rfl) rfl
theorem q1435 : (Jvm.Cond.code ({ cls := "PictureBlockModel", name := "any", desc := "()V" } : Jvm.MethodName) prog_19_method_50_code (1 : Nat) (Option.none : Option Jvm.ClassFile.FieldType)) ∈ lw_all := lw_g (lw_at lw_m6 150 rfl) rfl
theorem q1436 : (Jvm.Cond.methodLink "PictureBlockModel" (192 : Nat) ({ cls := "PictureBlockModel", name := "all", desc := "()V" } : Jvm.MethodName)) ∈ lw_all := lw_g (lw_at lw_m6 151 rfl) rfl
theorem q1437 : (Jvm.Cond.privateMethod ({ cls := "PictureBlockModel", name := "all", desc := "()V" } : Jvm.MethodName)) ∈ lw_tbl := lw_at lw_m6 152 rfl
theorem q1438 : (Jvm.Cond.instanceMethod ({ cls := "PictureBlockModel", name := "all", desc := "()V" } : Jvm.MethodName)) ∈ lw_all := lw_g (lw_at lw_m6 153 rfl) rfl
theorem q1439 : (Jvm.Cond.code ({ cls := "PictureBlockModel", name := "all", desc := "()V" } : Jvm.MethodName) prog_19_method_49_code (1 : Nat) (Option.none : Option Jvm.ClassFile.FieldType)) ∈ lw_all := lw_g (lw_at lw_m6 154 rfl) rfl
theorem q1440 : (Jvm.Cond.methodLink "PictureBlockModel" (189 : Nat) ({ cls := "PictureBlockModel", name := "compares", desc := "()V" } : Jvm.MethodName)) ∈ lw_all := lw_g (lw_at lw_m6 155 rfl) rfl
theorem q1441 : (Jvm.Cond.privateMethod ({ cls := "PictureBlockModel", name := "compares", desc := "()V" } : Jvm.MethodName)) ∈ lw_tbl := lw_at lw_m6 156 rfl
theorem q1442 : (Jvm.Cond.instanceMethod ({ cls := "PictureBlockModel", name := "compares", desc := "()V" } : Jvm.MethodName)) ∈ lw_all := lw_g (lw_at lw_m6 157 rfl) rfl
theorem q1443 : (Jvm.Cond.code ({ cls := "PictureBlockModel", name := "compares", desc := "()V" } : Jvm.MethodName) prog_19_method_48_code (2 : Nat) (Option.none : Option Jvm.ClassFile.FieldType)) ∈ lw_all := lw_g (lw_at lw_m6 158 rfl) rfl
theorem q1444 : (Jvm.Cond.methodLink "PictureBlockModel" (186 : Nat) ({ cls := "PictureBlockModel", name := "sumBy", desc := "()V" } : Jvm.MethodName)) ∈ lw_all := lw_g (lw_at lw_m6 159 rfl) rfl
theorem q1445 : (Jvm.Cond.privateMethod ({ cls := "PictureBlockModel", name := "sumBy", desc := "()V" } : Jvm.MethodName)) ∈ lw_tbl := lw_at lw_m6 160 rfl
theorem q1446 : (Jvm.Cond.instanceMethod ({ cls := "PictureBlockModel", name := "sumBy", desc := "()V" } : Jvm.MethodName)) ∈ lw_all := lw_g (lw_at lw_m6 161 rfl) rfl
theorem q1447 : (Jvm.Cond.code ({ cls := "PictureBlockModel", name := "sumBy", desc := "()V" } : Jvm.MethodName) prog_19_method_47_code (2 : Nat) (Option.none : Option Jvm.ClassFile.FieldType)) ∈ lw_all := lw_g (lw_at lw_m6 162 rfl) rfl
theorem q1448 : (Jvm.Cond.methodLink "PictureBlockModel" (183 : Nat) ({ cls := "PictureBlockModel", name := "times", desc := "()V" } : Jvm.MethodName)) ∈ lw_all := lw_g (lw_at lw_m6 163 rfl) rfl
theorem q1449 : (Jvm.Cond.privateMethod ({ cls := "PictureBlockModel", name := "times", desc := "()V" } : Jvm.MethodName)) ∈ lw_tbl := lw_at lw_m6 164 rfl
theorem q1450 : (Jvm.Cond.instanceMethod ({ cls := "PictureBlockModel", name := "times", desc := "()V" } : Jvm.MethodName)) ∈ lw_all := lw_g (lw_at lw_m6 165 rfl) rfl
theorem q1451 : (Jvm.Cond.code ({ cls := "PictureBlockModel", name := "times", desc := "()V" } : Jvm.MethodName) prog_19_method_46_code (2 : Nat) (Option.none : Option Jvm.ClassFile.FieldType)) ∈ lw_all := lw_g (lw_at lw_m6 166 rfl) rfl
theorem q1452 : (Jvm.Cond.methodLink "PictureBlockModel" (168 : Nat) ({ cls := "PictureBlockModel", name := "one", desc := "()V" } : Jvm.MethodName)) ∈ lw_all := lw_g (lw_at lw_m6 167 rfl) rfl
theorem q1453 : (Jvm.Cond.privateMethod ({ cls := "PictureBlockModel", name := "one", desc := "()V" } : Jvm.MethodName)) ∈ lw_tbl := lw_at lw_m6 168 rfl
theorem q1454 : (Jvm.Cond.instanceMethod ({ cls := "PictureBlockModel", name := "one", desc := "()V" } : Jvm.MethodName)) ∈ lw_all := lw_g (lw_at lw_m6 169 rfl) rfl
theorem q1455 : (Jvm.Cond.code ({ cls := "PictureBlockModel", name := "one", desc := "()V" } : Jvm.MethodName) prog_19_method_45_code (3 : Nat) (Option.none : Option Jvm.ClassFile.FieldType)) ∈ lw_all := lw_g (lw_at lw_m6 170 rfl) rfl
theorem q1456 : (Jvm.Cond.methodLink "PictureBlockModel" (154 : Nat) ({ cls := "PictureBlockModel", name := "look", desc := "()I" } : Jvm.MethodName)) ∈ lw_all := lw_g (lw_at lw_m6 171 rfl) rfl
theorem q1457 : (Jvm.Cond.privateMethod ({ cls := "PictureBlockModel", name := "look", desc := "()I" } : Jvm.MethodName)) ∈ lw_tbl := lw_at lw_m6 172 rfl
theorem q1458 : (Jvm.Cond.instanceMethod ({ cls := "PictureBlockModel", name := "look", desc := "()I" } : Jvm.MethodName)) ∈ lw_all := lw_g (lw_at lw_m6 173 rfl) rfl
theorem q1459 : (Jvm.Cond.code ({ cls := "PictureBlockModel", name := "look", desc := "()I" } : Jvm.MethodName) prog_19_method_40_code (1 : Nat) (Option.some Jvm.ClassFile.FieldType.int)) ∈ lw_all := lw_g (lw_at lw_m6 174 rfl) rfl
theorem q1460 : (Jvm.Cond.methodLink "PictureBlockModel" (174 : Nat) ({ cls := "PictureBlockModel", name := "nameOf", desc := "(I)I" } : Jvm.MethodName)) ∈ lw_all := lw_g (lw_at lw_m6 175 rfl) rfl
theorem q1461 : (Jvm.Cond.privateMethod ({ cls := "PictureBlockModel", name := "nameOf", desc := "(I)I" } : Jvm.MethodName)) ∈ lw_tbl := lw_at lw_m6 176 rfl
theorem q1462 : (Jvm.Cond.instanceMethod ({ cls := "PictureBlockModel", name := "nameOf", desc := "(I)I" } : Jvm.MethodName)) ∈ lw_all := lw_g (lw_at lw_m6 177 rfl) rfl
theorem q1463 : (Jvm.Cond.code ({ cls := "PictureBlockModel", name := "nameOf", desc := "(I)I" } : Jvm.MethodName) prog_19_method_42_code (2 : Nat) (Option.some Jvm.ClassFile.FieldType.int)) ∈ lw_all := lw_g (lw_at lw_m6 178 rfl) rfl
theorem q1464 : (Jvm.Cond.methodLink "PictureBlockModel" (161 : Nat) ({ cls := "PictureBlockModel", name := "lays", desc := "(II)V" } : Jvm.MethodName)) ∈ lw_all := lw_g (lw_at lw_m6 179 rfl) rfl
theorem q1465 : (Jvm.Cond.privateMethod ({ cls := "PictureBlockModel", name := "lays", desc := "(II)V" } : Jvm.MethodName)) ∈ lw_tbl := lw_at lw_m6 180 rfl
theorem q1466 : (Jvm.Cond.instanceMethod ({ cls := "PictureBlockModel", name := "lays", desc := "(II)V" } : Jvm.MethodName)) ∈ lw_all := lw_g (lw_at lw_m6 181 rfl) rfl
theorem q1467 : (Jvm.Cond.code ({ cls := "PictureBlockModel", name := "lays", desc := "(II)V" } : Jvm.MethodName) prog_19_method_41_code (3 : Nat) (Option.none : Option Jvm.ClassFile.FieldType)) ∈ lw_all := lw_g (lw_at lw_m6 182 rfl) rfl
theorem q1468 : (Jvm.Cond.methodLink "PictureBlockModel" (177 : Nat) ({ cls := "PictureBlockModel", name := "opens", desc := "(I)V" } : Jvm.MethodName)) ∈ lw_all := lw_g (lw_at lw_m6 183 rfl) rfl
theorem q1469 : (Jvm.Cond.privateMethod ({ cls := "PictureBlockModel", name := "opens", desc := "(I)V" } : Jvm.MethodName)) ∈ lw_tbl := lw_at lw_m6 184 rfl
theorem q1470 : (Jvm.Cond.instanceMethod ({ cls := "PictureBlockModel", name := "opens", desc := "(I)V" } : Jvm.MethodName)) ∈ lw_all := lw_g (lw_at lw_m6 185 rfl) rfl
theorem q1471 : (Jvm.Cond.code ({ cls := "PictureBlockModel", name := "opens", desc := "(I)V" } : Jvm.MethodName) prog_19_method_44_code (2 : Nat) (Option.none : Option Jvm.ClassFile.FieldType)) ∈ lw_all := lw_g (lw_at lw_m6 186 rfl) rfl
theorem q1472 : (Jvm.Cond.methodLink "PictureBlockModel" (180 : Nat) ({ cls := "PictureBlockModel", name := "number", desc := "()V" } : Jvm.MethodName)) ∈ lw_all := lw_g (lw_at lw_m6 187 rfl) rfl
theorem q1473 : (Jvm.Cond.privateMethod ({ cls := "PictureBlockModel", name := "number", desc := "()V" } : Jvm.MethodName)) ∈ lw_tbl := lw_at lw_m6 188 rfl
theorem q1474 : (Jvm.Cond.instanceMethod ({ cls := "PictureBlockModel", name := "number", desc := "()V" } : Jvm.MethodName)) ∈ lw_all := lw_g (lw_at lw_m6 189 rfl) rfl
theorem q1475 : (Jvm.Cond.code ({ cls := "PictureBlockModel", name := "number", desc := "()V" } : Jvm.MethodName) prog_19_method_43_code (3 : Nat) (Option.none : Option Jvm.ClassFile.FieldType)) ∈ lw_all := lw_g (lw_at lw_m6 190 rfl) rfl
theorem q1477 : (Jvm.Cond.instanceMethod ({ cls := "PictureBlockModel", name := "untell", desc := "(I)I" } : Jvm.MethodName)) ∈ lw_all := lw_g (lw_at lw_m6 192 rfl) rfl
theorem q1478 : (Jvm.Cond.selects "PictureBlockModel" ({ cls := "PictureBlockModel", name := "untell", desc := "(I)I" } : Jvm.MethodName) ({ cls := "PictureBlockModel", name := "untell", desc := "(I)I" } : Jvm.MethodName)) ∈ lw_all := lw_g (lw_at lw_m6 193 rfl) rfl
theorem q1479 : (Jvm.Cond.code ({ cls := "PictureBlockModel", name := "untell", desc := "(I)I" } : Jvm.MethodName) prog_19_method_52_code (2 : Nat) (Option.some Jvm.ClassFile.FieldType.int)) ∈ lw_all := lw_g (lw_at lw_m6 194 rfl) rfl
theorem q1481 : (Jvm.Cond.instanceMethod ({ cls := "PictureBlockModel", name := "law", desc := "(IIII)I" } : Jvm.MethodName)) ∈ lw_all := lw_g (lw_at lw_m6 196 rfl) rfl
theorem q1482 : (Jvm.Cond.selects "PictureBlockModel" ({ cls := "PictureBlockModel", name := "law", desc := "(IIII)I" } : Jvm.MethodName) ({ cls := "PictureBlockModel", name := "law", desc := "(IIII)I" } : Jvm.MethodName)) ∈ lw_all := lw_g (lw_at lw_m6 197 rfl) rfl
theorem q1483 : (Jvm.Cond.code ({ cls := "PictureBlockModel", name := "law", desc := "(IIII)I" } : Jvm.MethodName) prog_19_method_56_code (5 : Nat) (Option.some Jvm.ClassFile.FieldType.int)) ∈ lw_all := lw_g (lw_at lw_m6 198 rfl) rfl
theorem q1485 : (Jvm.Cond.instanceMethod ({ cls := "PictureBlockModel", name := "rounds", desc := "(I)I" } : Jvm.MethodName)) ∈ lw_all := lw_g (lw_at lw_m6 200 rfl) rfl
theorem q1486 : (Jvm.Cond.selects "PictureBlockModel" ({ cls := "PictureBlockModel", name := "rounds", desc := "(I)I" } : Jvm.MethodName) ({ cls := "PictureBlockModel", name := "rounds", desc := "(I)I" } : Jvm.MethodName)) ∈ lw_all := lw_g (lw_at lw_m6 201 rfl) rfl
theorem q1487 : (Jvm.Cond.code ({ cls := "PictureBlockModel", name := "rounds", desc := "(I)I" } : Jvm.MethodName) prog_19_method_59_code (2 : Nat) (Option.some Jvm.ClassFile.FieldType.int)) ∈ lw_all := lw_g (lw_at lw_m6 202 rfl) rfl
theorem q1488 : (Jvm.Cond.methodLink "PictureBlockModel" (215 : Nat) ({ cls := "PictureBlockModel", name := "goesFor", desc := "(I)V" } : Jvm.MethodName)) ∈ lw_all := lw_g (lw_at lw_m6 203 rfl) rfl
theorem q1489 : (Jvm.Cond.privateMethod ({ cls := "PictureBlockModel", name := "goesFor", desc := "(I)V" } : Jvm.MethodName)) ∈ lw_tbl := lw_at lw_m6 204 rfl
theorem q1490 : (Jvm.Cond.instanceMethod ({ cls := "PictureBlockModel", name := "goesFor", desc := "(I)V" } : Jvm.MethodName)) ∈ lw_all := lw_g (lw_at lw_m6 205 rfl) rfl
theorem q1491 : (Jvm.Cond.code ({ cls := "PictureBlockModel", name := "goesFor", desc := "(I)V" } : Jvm.MethodName) prog_19_method_58_code (3 : Nat) (Option.none : Option Jvm.ClassFile.FieldType)) ∈ lw_all := lw_g (lw_at lw_m6 206 rfl) rfl
theorem q1492 : (Jvm.Cond.methodLink "PictureBlockModel" (212 : Nat) ({ cls := "PictureBlockModel", name := "goes", desc := "()V" } : Jvm.MethodName)) ∈ lw_all := lw_g (lw_at lw_m6 207 rfl) rfl
theorem q1493 : (Jvm.Cond.privateMethod ({ cls := "PictureBlockModel", name := "goes", desc := "()V" } : Jvm.MethodName)) ∈ lw_tbl := lw_at lw_m6 208 rfl
theorem q1494 : (Jvm.Cond.instanceMethod ({ cls := "PictureBlockModel", name := "goes", desc := "()V" } : Jvm.MethodName)) ∈ lw_all := lw_g (lw_at lw_m6 209 rfl) rfl
theorem q1495 : (Jvm.Cond.code ({ cls := "PictureBlockModel", name := "goes", desc := "()V" } : Jvm.MethodName) prog_19_method_57_code (2 : Nat) (Option.none : Option Jvm.ClassFile.FieldType)) ∈ lw_all := lw_g (lw_at lw_m6 210 rfl) rfl
theorem q1496 : (Jvm.Cond.methodLink "PictureBlockModel" (205 : Nat) ({ cls := "PictureBlockModel", name := "isSolved", desc := "()Z" } : Jvm.MethodName)) ∈ lw_all := lw_g (lw_at lw_m6 211 rfl) rfl
theorem q1497 : (Jvm.Cond.privateMethod ({ cls := "PictureBlockModel", name := "isSolved", desc := "()Z" } : Jvm.MethodName)) ∈ lw_tbl := lw_at lw_m6 212 rfl
theorem q1498 : (Jvm.Cond.instanceMethod ({ cls := "PictureBlockModel", name := "isSolved", desc := "()Z" } : Jvm.MethodName)) ∈ lw_all := lw_g (lw_at lw_m6 213 rfl) rfl
theorem q1499 : (Jvm.Cond.code ({ cls := "PictureBlockModel", name := "isSolved", desc := "()Z" } : Jvm.MethodName) prog_19_method_24_code (2 : Nat) (Option.some Jvm.ClassFile.FieldType.boolean)) ∈ lw_all := lw_g (lw_at lw_m6 214 rfl) rfl
theorem q1500 : (Jvm.Cond.methodLink "PictureBlockModel" (96 : Nat) ({ cls := "PictureBlockModel", name := "onOnes", desc := "()I" } : Jvm.MethodName)) ∈ lw_all := lw_g (lw_at lw_m6 215 rfl) rfl
theorem q1501 : (Jvm.Cond.privateMethod ({ cls := "PictureBlockModel", name := "onOnes", desc := "()I" } : Jvm.MethodName)) ∈ lw_tbl := lw_at lw_m6 216 rfl
theorem q1502 : (Jvm.Cond.instanceMethod ({ cls := "PictureBlockModel", name := "onOnes", desc := "()I" } : Jvm.MethodName)) ∈ lw_all := lw_g (lw_at lw_m6 217 rfl) rfl
theorem q1503 : (Jvm.Cond.code ({ cls := "PictureBlockModel", name := "onOnes", desc := "()I" } : Jvm.MethodName) prog_19_method_14_code (3 : Nat) (Option.some Jvm.ClassFile.FieldType.int)) ∈ lw_all := lw_g (lw_at lw_m6 218 rfl) rfl
theorem q1504 : (Jvm.Cond.methodLink "PictureBlockModel" (100 : Nat) ({ cls := "PictureBlockModel", name := "doesHold", desc := "(I)Z" } : Jvm.MethodName)) ∈ lw_all := lw_g (lw_at lw_m6 219 rfl) rfl
theorem q1505 : (Jvm.Cond.privateMethod ({ cls := "PictureBlockModel", name := "doesHold", desc := "(I)Z" } : Jvm.MethodName)) ∈ lw_tbl := lw_at lw_m6 220 rfl
theorem q1506 : (Jvm.Cond.instanceMethod ({ cls := "PictureBlockModel", name := "doesHold", desc := "(I)Z" } : Jvm.MethodName)) ∈ lw_all := lw_g (lw_at lw_m6 221 rfl) rfl
theorem q1507 : (Jvm.Cond.code ({ cls := "PictureBlockModel", name := "doesHold", desc := "(I)Z" } : Jvm.MethodName) prog_19_method_21_code (2 : Nat) (Option.some Jvm.ClassFile.FieldType.boolean)) ∈ lw_all := lw_g (lw_at lw_m6 222 rfl) rfl
theorem q1508 : (Jvm.Cond.methodLink "PictureBlockModel" (83 : Nat) ({ cls := "PictureBlockModel", name := "tiedBy", desc := "(I)I" } : Jvm.MethodName)) ∈ lw_all := lw_g (lw_at lw_m6 223 rfl) rfl
theorem q1509 : (Jvm.Cond.privateMethod ({ cls := "PictureBlockModel", name := "tiedBy", desc := "(I)I" } : Jvm.MethodName)) ∈ lw_tbl := lw_at lw_m6 224 rfl
theorem q1510 : (Jvm.Cond.instanceMethod ({ cls := "PictureBlockModel", name := "tiedBy", desc := "(I)I" } : Jvm.MethodName)) ∈ lw_all := lw_g (lw_at lw_m6 225 rfl) rfl
theorem q1511 : (Jvm.Cond.code ({ cls := "PictureBlockModel", name := "tiedBy", desc := "(I)I" } : Jvm.MethodName) prog_19_method_20_code (7 : Nat) (Option.some Jvm.ClassFile.FieldType.int)) ∈ lw_all := lw_g (lw_at lw_m6 226 rfl) rfl
theorem q1512 : (Jvm.Cond.methodLink "PictureBlockModel" (104 : Nat) ({ cls := "PictureBlockModel", name := "adds", desc := "(I)V" } : Jvm.MethodName)) ∈ lw_all := lw_g (lw_at lw_m6 227 rfl) rfl
theorem q1513 : (Jvm.Cond.privateMethod ({ cls := "PictureBlockModel", name := "adds", desc := "(I)V" } : Jvm.MethodName)) ∈ lw_tbl := lw_at lw_m6 228 rfl
theorem q1514 : (Jvm.Cond.instanceMethod ({ cls := "PictureBlockModel", name := "adds", desc := "(I)V" } : Jvm.MethodName)) ∈ lw_all := lw_g (lw_at lw_m6 229 rfl) rfl
theorem q1515 : (Jvm.Cond.code ({ cls := "PictureBlockModel", name := "adds", desc := "(I)V" } : Jvm.MethodName) prog_19_method_23_code (6 : Nat) (Option.none : Option Jvm.ClassFile.FieldType)) ∈ lw_all := lw_g (lw_at lw_m6 230 rfl) rfl
theorem q1516 : (Jvm.Cond.methodLink "PictureBlockModel" (86 : Nat) ({ cls := "PictureBlockModel", name := "det", desc := "(III)J" } : Jvm.MethodName)) ∈ lw_all := lw_g (lw_at lw_m6 231 rfl) rfl
theorem q1517 : (Jvm.Cond.privateMethod ({ cls := "PictureBlockModel", name := "det", desc := "(III)J" } : Jvm.MethodName)) ∈ lw_tbl := lw_at lw_m6 232 rfl
theorem q1518 : (Jvm.Cond.instanceMethod ({ cls := "PictureBlockModel", name := "det", desc := "(III)J" } : Jvm.MethodName)) ∈ lw_all := lw_g (lw_at lw_m6 233 rfl) rfl
theorem q1519 : (Jvm.Cond.code ({ cls := "PictureBlockModel", name := "det", desc := "(III)J" } : Jvm.MethodName) prog_19_method_22_code (12 : Nat) (Option.some Jvm.ClassFile.FieldType.long)) ∈ lw_all := lw_g (lw_at lw_m6 234 rfl) rfl
theorem q1520 : (Jvm.Cond.methodLink "PictureBlockModel" (209 : Nat) ({ cls := "PictureBlockModel", name := "mostDoubted", desc := "()I" } : Jvm.MethodName)) ∈ lw_all := lw_g (lw_at lw_m6 235 rfl) rfl
theorem q1521 : (Jvm.Cond.privateMethod ({ cls := "PictureBlockModel", name := "mostDoubted", desc := "()I" } : Jvm.MethodName)) ∈ lw_tbl := lw_at lw_m6 236 rfl
theorem q1522 : (Jvm.Cond.instanceMethod ({ cls := "PictureBlockModel", name := "mostDoubted", desc := "()I" } : Jvm.MethodName)) ∈ lw_all := lw_g (lw_at lw_m6 237 rfl) rfl
theorem q1523 : (Jvm.Cond.code ({ cls := "PictureBlockModel", name := "mostDoubted", desc := "()I" } : Jvm.MethodName) prog_19_method_27_code (3 : Nat) (Option.some Jvm.ClassFile.FieldType.int)) ∈ lw_all := lw_g (lw_at lw_m6 238 rfl) rfl
theorem q1524 : (Jvm.Cond.methodLink "PictureBlockModel" (116 : Nat) ({ cls := "PictureBlockModel", name := "doubt", desc := "(I)J" } : Jvm.MethodName)) ∈ lw_all := lw_g (lw_at lw_m6 239 rfl) rfl
theorem q1525 : (Jvm.Cond.privateMethod ({ cls := "PictureBlockModel", name := "doubt", desc := "(I)J" } : Jvm.MethodName)) ∈ lw_tbl := lw_at lw_m7 0 rfl
theorem q1526 : (Jvm.Cond.instanceMethod ({ cls := "PictureBlockModel", name := "doubt", desc := "(I)J" } : Jvm.MethodName)) ∈ lw_all := lw_g (lw_at lw_m7 1 rfl) rfl
theorem q1527 : (Jvm.Cond.code ({ cls := "PictureBlockModel", name := "doubt", desc := "(I)J" } : Jvm.MethodName) prog_19_method_26_code (4 : Nat) (Option.some Jvm.ClassFile.FieldType.long)) ∈ lw_all := lw_g (lw_at lw_m7 2 rfl) rfl
theorem q1528 : (Jvm.Cond.methodLink "PictureBlockModel" (112 : Nat) ({ cls := "PictureBlockModel", name := "missOf", desc := "(I)J" } : Jvm.MethodName)) ∈ lw_all := lw_g (lw_at lw_m7 3 rfl) rfl
theorem q1529 : (Jvm.Cond.privateMethod ({ cls := "PictureBlockModel", name := "missOf", desc := "(I)J" } : Jvm.MethodName)) ∈ lw_tbl := lw_at lw_m7 4 rfl
theorem q1530 : (Jvm.Cond.instanceMethod ({ cls := "PictureBlockModel", name := "missOf", desc := "(I)J" } : Jvm.MethodName)) ∈ lw_all := lw_g (lw_at lw_m7 5 rfl) rfl
theorem q1531 : (Jvm.Cond.code ({ cls := "PictureBlockModel", name := "missOf", desc := "(I)J" } : Jvm.MethodName) prog_19_method_25_code (4 : Nat) (Option.some Jvm.ClassFile.FieldType.long)) ∈ lw_all := lw_g (lw_at lw_m7 6 rfl) rfl
theorem q1532 : (Jvm.Cond.methodLink "PictureBlockModel" (218 : Nat) ({ cls := "PictureBlockModel", name := "bits", desc := "(I)I" } : Jvm.MethodName)) ∈ lw_all := lw_g (lw_at lw_m7 7 rfl) rfl
theorem q1533 : (Jvm.Cond.static ({ cls := "PictureBlockModel", name := "bits", desc := "(I)I" } : Jvm.MethodName)) ∈ lw_all := lw_g (lw_at lw_m7 8 rfl) rfl
theorem q1534 : (Jvm.Cond.code ({ cls := "PictureBlockModel", name := "bits", desc := "(I)I" } : Jvm.MethodName) prog_19_method_8_code (3 : Nat) (Option.some Jvm.ClassFile.FieldType.int)) ∈ lw_all := lw_g (lw_at lw_m7 9 rfl) rfl
theorem q1536 : (Jvm.Cond.instanceMethod ({ cls := "PictureBlockModel", name := "loose", desc := "(I)I" } : Jvm.MethodName)) ∈ lw_all := lw_g (lw_at lw_m7 11 rfl) rfl
theorem q1537 : (Jvm.Cond.selects "PictureBlockModel" ({ cls := "PictureBlockModel", name := "loose", desc := "(I)I" } : Jvm.MethodName) ({ cls := "PictureBlockModel", name := "loose", desc := "(I)I" } : Jvm.MethodName)) ∈ lw_all := lw_g (lw_at lw_m7 12 rfl) rfl
theorem q1538 : (Jvm.Cond.code ({ cls := "PictureBlockModel", name := "loose", desc := "(I)I" } : Jvm.MethodName) prog_19_method_62_code (3 : Nat) (Option.some Jvm.ClassFile.FieldType.int)) ∈ lw_all := lw_g (lw_at lw_m7 13 rfl) rfl
theorem q1539 : (Jvm.Cond.methodLink "PictureBlockModel" (225 : Nat) ({ cls := "PictureBlockModel", name := "drawn", desc := "()V" } : Jvm.MethodName)) ∈ lw_all := lw_g (lw_at lw_m7 14 rfl) rfl
theorem q1540 : (Jvm.Cond.privateMethod ({ cls := "PictureBlockModel", name := "drawn", desc := "()V" } : Jvm.MethodName)) ∈ lw_tbl := lw_at lw_m7 15 rfl
theorem q1541 : (Jvm.Cond.instanceMethod ({ cls := "PictureBlockModel", name := "drawn", desc := "()V" } : Jvm.MethodName)) ∈ lw_all := lw_g (lw_at lw_m7 16 rfl) rfl
theorem q1542 : (Jvm.Cond.code ({ cls := "PictureBlockModel", name := "drawn", desc := "()V" } : Jvm.MethodName) prog_19_method_61_code (2 : Nat) (Option.none : Option Jvm.ClassFile.FieldType)) ∈ lw_all := lw_g (lw_at lw_m7 17 rfl) rfl
theorem q1543 : (Jvm.Cond.methodLink "PictureBlockModel" (222 : Nat) ({ cls := "PictureBlockModel", name := "draw", desc := "()I" } : Jvm.MethodName)) ∈ lw_all := lw_g (lw_at lw_m7 18 rfl) rfl
theorem q1544 : (Jvm.Cond.privateMethod ({ cls := "PictureBlockModel", name := "draw", desc := "()I" } : Jvm.MethodName)) ∈ lw_tbl := lw_at lw_m7 19 rfl
theorem q1545 : (Jvm.Cond.instanceMethod ({ cls := "PictureBlockModel", name := "draw", desc := "()I" } : Jvm.MethodName)) ∈ lw_all := lw_g (lw_at lw_m7 20 rfl) rfl
theorem q1546 : (Jvm.Cond.code ({ cls := "PictureBlockModel", name := "draw", desc := "()I" } : Jvm.MethodName) prog_19_method_60_code (1 : Nat) (Option.some Jvm.ClassFile.FieldType.int)) ∈ lw_all := lw_g (lw_at lw_m7 21 rfl) rfl
theorem q1547 : (Jvm.Cond.constant "PictureBlockModel" (221 : Nat) (1103515245 : Int32)) ∈ lw_all := lw_g (lw_at lw_m7 22 rfl) rfl
theorem q1549 : (Jvm.Cond.instanceMethod ({ cls := "PictureBlockModel", name := "round", desc := "(I)I" } : Jvm.MethodName)) ∈ lw_all := lw_g (lw_at lw_m7 24 rfl) rfl
theorem q1550 : (Jvm.Cond.selects "PictureBlockModel" ({ cls := "PictureBlockModel", name := "round", desc := "(I)I" } : Jvm.MethodName) ({ cls := "PictureBlockModel", name := "round", desc := "(I)I" } : Jvm.MethodName)) ∈ lw_all := lw_g (lw_at lw_m7 25 rfl) rfl
theorem q1551 : (Jvm.Cond.code ({ cls := "PictureBlockModel", name := "round", desc := "(I)I" } : Jvm.MethodName) prog_19_method_63_code (2 : Nat) (Option.some Jvm.ClassFile.FieldType.int)) ∈ lw_all := lw_g (lw_at lw_m7 26 rfl) rfl
theorem q1553 : (Jvm.Cond.instanceMethod ({ cls := "PictureBlockModel", name := "seed", desc := "(I)I" } : Jvm.MethodName)) ∈ lw_all := lw_g (lw_at lw_m7 28 rfl) rfl
theorem q1554 : (Jvm.Cond.selects "PictureBlockModel" ({ cls := "PictureBlockModel", name := "seed", desc := "(I)I" } : Jvm.MethodName) ({ cls := "PictureBlockModel", name := "seed", desc := "(I)I" } : Jvm.MethodName)) ∈ lw_all := lw_g (lw_at lw_m7 29 rfl) rfl
theorem q1555 : (Jvm.Cond.code ({ cls := "PictureBlockModel", name := "seed", desc := "(I)I" } : Jvm.MethodName) prog_19_method_64_code (2 : Nat) (Option.some Jvm.ClassFile.FieldType.int)) ∈ lw_all := lw_g (lw_at lw_m7 30 rfl) rfl
theorem q1557 : (Jvm.Cond.instanceMethod ({ cls := "PictureBlockModel", name := "place", desc := "(II)J" } : Jvm.MethodName)) ∈ lw_all := lw_g (lw_at lw_m7 32 rfl) rfl
theorem q1558 : (Jvm.Cond.selects "PictureBlockModel" ({ cls := "PictureBlockModel", name := "place", desc := "(II)J" } : Jvm.MethodName) ({ cls := "PictureBlockModel", name := "place", desc := "(II)J" } : Jvm.MethodName)) ∈ lw_all := lw_g (lw_at lw_m7 33 rfl) rfl
theorem q1559 : (Jvm.Cond.code ({ cls := "PictureBlockModel", name := "place", desc := "(II)J" } : Jvm.MethodName) prog_19_method_66_code (3 : Nat) (Option.some Jvm.ClassFile.FieldType.long)) ∈ lw_all := lw_g (lw_at lw_m7 34 rfl) rfl
theorem q1560 : (Jvm.Cond.methodLink "PictureBlockModel" (228 : Nat) ({ cls := "PictureBlockModel", name := "isPart", desc := "(I)Z" } : Jvm.MethodName)) ∈ lw_all := lw_g (lw_at lw_m7 35 rfl) rfl
theorem q1561 : (Jvm.Cond.static ({ cls := "PictureBlockModel", name := "isPart", desc := "(I)Z" } : Jvm.MethodName)) ∈ lw_all := lw_g (lw_at lw_m7 36 rfl) rfl
theorem q1562 : (Jvm.Cond.code ({ cls := "PictureBlockModel", name := "isPart", desc := "(I)Z" } : Jvm.MethodName) prog_19_method_65_code (1 : Nat) (Option.some Jvm.ClassFile.FieldType.boolean)) ∈ lw_all := lw_g (lw_at lw_m7 37 rfl) rfl
theorem q1563 : (Jvm.Cond.methodLink "PictureBlockModel" (231 : Nat) ({ cls := "PictureBlockModel", name := "inTerms", desc := "(JJI)J" } : Jvm.MethodName)) ∈ lw_all := lw_g (lw_at lw_m7 38 rfl) rfl
theorem q1564 : (Jvm.Cond.static ({ cls := "PictureBlockModel", name := "inTerms", desc := "(JJI)J" } : Jvm.MethodName)) ∈ lw_all := lw_g (lw_at lw_m7 39 rfl) rfl
theorem q1565 : (Jvm.Cond.code ({ cls := "PictureBlockModel", name := "inTerms", desc := "(JJI)J" } : Jvm.MethodName) prog_19_method_29_code (11 : Nat) (Option.some Jvm.ClassFile.FieldType.long)) ∈ lw_all := lw_g (lw_at lw_m7 40 rfl) rfl
theorem q1567 : (Jvm.Cond.instanceMethod ({ cls := "PictureBlockModel", name := "miss", desc := "(II)J" } : Jvm.MethodName)) ∈ lw_all := lw_g (lw_at lw_m7 42 rfl) rfl
theorem q1568 : (Jvm.Cond.selects "PictureBlockModel" ({ cls := "PictureBlockModel", name := "miss", desc := "(II)J" } : Jvm.MethodName) ({ cls := "PictureBlockModel", name := "miss", desc := "(II)J" } : Jvm.MethodName)) ∈ lw_all := lw_g (lw_at lw_m7 43 rfl) rfl
theorem q1569 : (Jvm.Cond.code ({ cls := "PictureBlockModel", name := "miss", desc := "(II)J" } : Jvm.MethodName) prog_19_method_67_code (3 : Nat) (Option.some Jvm.ClassFile.FieldType.long)) ∈ lw_all := lw_g (lw_at lw_m7 44 rfl) rfl
theorem q1571 : (Jvm.Cond.instanceMethod ({ cls := "PictureBlockModel", name := "sum", desc := "(I)J" } : Jvm.MethodName)) ∈ lw_all := lw_g (lw_at lw_m7 46 rfl) rfl
theorem q1572 : (Jvm.Cond.selects "PictureBlockModel" ({ cls := "PictureBlockModel", name := "sum", desc := "(I)J" } : Jvm.MethodName) ({ cls := "PictureBlockModel", name := "sum", desc := "(I)J" } : Jvm.MethodName)) ∈ lw_all := lw_g (lw_at lw_m7 47 rfl) rfl
theorem q1573 : (Jvm.Cond.code ({ cls := "PictureBlockModel", name := "sum", desc := "(I)J" } : Jvm.MethodName) prog_19_method_68_code (2 : Nat) (Option.some Jvm.ClassFile.FieldType.long)) ∈ lw_all := lw_g (lw_at lw_m7 48 rfl) rfl
theorem q1574 : (Jvm.Cond.methodLink "PictureBlockModel" (235 : Nat) ({ cls := "PictureBlockModel", name := "allMiss", desc := "()J" } : Jvm.MethodName)) ∈ lw_all := lw_g (lw_at lw_m7 49 rfl) rfl
theorem q1575 : (Jvm.Cond.privateMethod ({ cls := "PictureBlockModel", name := "allMiss", desc := "()J" } : Jvm.MethodName)) ∈ lw_tbl := lw_at lw_m7 50 rfl
theorem q1576 : (Jvm.Cond.instanceMethod ({ cls := "PictureBlockModel", name := "allMiss", desc := "()J" } : Jvm.MethodName)) ∈ lw_all := lw_g (lw_at lw_m7 51 rfl) rfl
theorem q1577 : (Jvm.Cond.code ({ cls := "PictureBlockModel", name := "allMiss", desc := "()J" } : Jvm.MethodName) prog_19_method_28_code (4 : Nat) (Option.some Jvm.ClassFile.FieldType.long)) ∈ lw_all := lw_g (lw_at lw_m7 52 rfl) rfl
theorem q1579 : (Jvm.Cond.instanceMethod ({ cls := "PictureBlockModel", name := "doubted", desc := "()I" } : Jvm.MethodName)) ∈ lw_all := lw_g (lw_at lw_m7 54 rfl) rfl
theorem q1580 : (Jvm.Cond.selects "PictureBlockModel" ({ cls := "PictureBlockModel", name := "doubted", desc := "()I" } : Jvm.MethodName) ({ cls := "PictureBlockModel", name := "doubted", desc := "()I" } : Jvm.MethodName)) ∈ lw_all := lw_g (lw_at lw_m7 55 rfl) rfl
theorem q1581 : (Jvm.Cond.code ({ cls := "PictureBlockModel", name := "doubted", desc := "()I" } : Jvm.MethodName) prog_19_method_69_code (1 : Nat) (Option.some Jvm.ClassFile.FieldType.int)) ∈ lw_all := lw_g (lw_at lw_m7 56 rfl) rfl
theorem q1583 : (Jvm.Cond.instanceMethod ({ cls := "PictureBlockModel", name := "needed", desc := "()I" } : Jvm.MethodName)) ∈ lw_all := lw_g (lw_at lw_m7 58 rfl) rfl
theorem q1584 : (Jvm.Cond.selects "PictureBlockModel" ({ cls := "PictureBlockModel", name := "needed", desc := "()I" } : Jvm.MethodName) ({ cls := "PictureBlockModel", name := "needed", desc := "()I" } : Jvm.MethodName)) ∈ lw_all := lw_g (lw_at lw_m7 59 rfl) rfl
theorem q1585 : (Jvm.Cond.code ({ cls := "PictureBlockModel", name := "needed", desc := "()I" } : Jvm.MethodName) prog_19_method_70_code (4 : Nat) (Option.some Jvm.ClassFile.FieldType.int)) ∈ lw_all := lw_g (lw_at lw_m7 60 rfl) rfl
theorem q1587 : (Jvm.Cond.instanceMethod ({ cls := "PictureBlockModel", name := "spine", desc := "()I" } : Jvm.MethodName)) ∈ lw_all := lw_g (lw_at lw_m7 62 rfl) rfl
theorem q1588 : (Jvm.Cond.selects "PictureBlockModel" ({ cls := "PictureBlockModel", name := "spine", desc := "()I" } : Jvm.MethodName) ({ cls := "PictureBlockModel", name := "spine", desc := "()I" } : Jvm.MethodName)) ∈ lw_all := lw_g (lw_at lw_m7 63 rfl) rfl
theorem q1589 : (Jvm.Cond.code ({ cls := "PictureBlockModel", name := "spine", desc := "()I" } : Jvm.MethodName) prog_19_method_72_code (5 : Nat) (Option.some Jvm.ClassFile.FieldType.int)) ∈ lw_all := lw_g (lw_at lw_m7 64 rfl) rfl
theorem q1590 : (Jvm.Cond.methodLink "PictureBlockModel" (239 : Nat) ({ cls := "PictureBlockModel", name := "weightOf", desc := "(I)I" } : Jvm.MethodName)) ∈ lw_all := lw_g (lw_at lw_m7 65 rfl) rfl
theorem q1591 : (Jvm.Cond.privateMethod ({ cls := "PictureBlockModel", name := "weightOf", desc := "(I)I" } : Jvm.MethodName)) ∈ lw_tbl := lw_at lw_m7 66 rfl
theorem q1592 : (Jvm.Cond.instanceMethod ({ cls := "PictureBlockModel", name := "weightOf", desc := "(I)I" } : Jvm.MethodName)) ∈ lw_all := lw_g (lw_at lw_m7 67 rfl) rfl
theorem q1593 : (Jvm.Cond.code ({ cls := "PictureBlockModel", name := "weightOf", desc := "(I)I" } : Jvm.MethodName) prog_19_method_71_code (4 : Nat) (Option.some Jvm.ClassFile.FieldType.int)) ∈ lw_all := lw_g (lw_at lw_m7 68 rfl) rfl
theorem q1595 : (Jvm.Cond.instanceMethod ({ cls := "PictureBlockModel", name := "then", desc := "(II)I" } : Jvm.MethodName)) ∈ lw_all := lw_g (lw_at lw_m7 70 rfl) rfl
theorem q1596 : (Jvm.Cond.selects "PictureBlockModel" ({ cls := "PictureBlockModel", name := "then", desc := "(II)I" } : Jvm.MethodName) ({ cls := "PictureBlockModel", name := "then", desc := "(II)I" } : Jvm.MethodName)) ∈ lw_all := lw_g (lw_at lw_m7 71 rfl) rfl
theorem q1597 : (Jvm.Cond.code ({ cls := "PictureBlockModel", name := "then", desc := "(II)I" } : Jvm.MethodName) prog_19_method_73_code (4 : Nat) (Option.some Jvm.ClassFile.FieldType.int)) ∈ lw_all := lw_g (lw_at lw_m7 72 rfl) rfl
theorem q1598 : (Jvm.Cond.methodLink "PictureBlockModel" (242 : Nat) ({ cls := "PictureBlockModel", name := "thinks", desc := "()V" } : Jvm.MethodName)) ∈ lw_all := lw_g (lw_at lw_m7 73 rfl) rfl
theorem q1599 : (Jvm.Cond.privateMethod ({ cls := "PictureBlockModel", name := "thinks", desc := "()V" } : Jvm.MethodName)) ∈ lw_tbl := lw_at lw_m7 74 rfl
theorem q1600 : (Jvm.Cond.instanceMethod ({ cls := "PictureBlockModel", name := "thinks", desc := "()V" } : Jvm.MethodName)) ∈ lw_all := lw_g (lw_at lw_m7 75 rfl) rfl
theorem q1601 : (Jvm.Cond.code ({ cls := "PictureBlockModel", name := "thinks", desc := "()V" } : Jvm.MethodName) prog_19_method_6_code (1 : Nat) (Option.none : Option Jvm.ClassFile.FieldType)) ∈ lw_all := lw_g (lw_at lw_m7 76 rfl) rfl
theorem q1602 : (Jvm.Cond.methodLink "PictureBlockModel" (57 : Nat) ({ cls := "PictureBlockModel", name := "copyAll", desc := "([I[I)V" } : Jvm.MethodName)) ∈ lw_all := lw_g (lw_at lw_m7 77 rfl) rfl
theorem q1603 : (Jvm.Cond.static ({ cls := "PictureBlockModel", name := "copyAll", desc := "([I[I)V" } : Jvm.MethodName)) ∈ lw_all := lw_g (lw_at lw_m7 78 rfl) rfl
theorem q1604 : (Jvm.Cond.code ({ cls := "PictureBlockModel", name := "copyAll", desc := "([I[I)V" } : Jvm.MethodName) prog_19_method_5_code (3 : Nat) (Option.none : Option Jvm.ClassFile.FieldType)) ∈ lw_all := lw_g (lw_at lw_m7 79 rfl) rfl
theorem q1605 : (Jvm.Cond.methodLink "PictureBlockModel" (245 : Nat) ({ cls := "PictureBlockModel", name := "putsBack", desc := "()V" } : Jvm.MethodName)) ∈ lw_all := lw_g (lw_at lw_m7 80 rfl) rfl
theorem q1606 : (Jvm.Cond.privateMethod ({ cls := "PictureBlockModel", name := "putsBack", desc := "()V" } : Jvm.MethodName)) ∈ lw_tbl := lw_at lw_m7 81 rfl
theorem q1607 : (Jvm.Cond.instanceMethod ({ cls := "PictureBlockModel", name := "putsBack", desc := "()V" } : Jvm.MethodName)) ∈ lw_all := lw_g (lw_at lw_m7 82 rfl) rfl
theorem q1608 : (Jvm.Cond.code ({ cls := "PictureBlockModel", name := "putsBack", desc := "()V" } : Jvm.MethodName) prog_19_method_7_code (1 : Nat) (Option.none : Option Jvm.ClassFile.FieldType)) ∈ lw_all := lw_g (lw_at lw_m7 83 rfl) rfl
theorem q1610 : (Jvm.Cond.instanceMethod ({ cls := "PictureBlockModel", name := "soonest", desc := "(I)I" } : Jvm.MethodName)) ∈ lw_all := lw_g (lw_at lw_m7 85 rfl) rfl
theorem q1611 : (Jvm.Cond.selects "PictureBlockModel" ({ cls := "PictureBlockModel", name := "soonest", desc := "(I)I" } : Jvm.MethodName) ({ cls := "PictureBlockModel", name := "soonest", desc := "(I)I" } : Jvm.MethodName)) ∈ lw_all := lw_g (lw_at lw_m7 86 rfl) rfl
theorem q1612 : (Jvm.Cond.code ({ cls := "PictureBlockModel", name := "soonest", desc := "(I)I" } : Jvm.MethodName) prog_19_method_74_code (3 : Nat) (Option.some Jvm.ClassFile.FieldType.int)) ∈ lw_all := lw_g (lw_at lw_m7 87 rfl) rfl
theorem q1613 : (Jvm.Cond.constant "PictureBlockModel" (248 : Nat) (-1000000002 : Int32)) ∈ lw_all := lw_g (lw_at lw_m7 88 rfl) rfl
theorem q1615 : (Jvm.Cond.instanceMethod ({ cls := "PictureBlockModel", name := "limitFor", desc := "(I)I" } : Jvm.MethodName)) ∈ lw_all := lw_g (lw_at lw_m7 90 rfl) rfl
theorem q1616 : (Jvm.Cond.selects "PictureBlockModel" ({ cls := "PictureBlockModel", name := "limitFor", desc := "(I)I" } : Jvm.MethodName) ({ cls := "PictureBlockModel", name := "limitFor", desc := "(I)I" } : Jvm.MethodName)) ∈ lw_all := lw_g (lw_at lw_m7 91 rfl) rfl
theorem q1617 : (Jvm.Cond.code ({ cls := "PictureBlockModel", name := "limitFor", desc := "(I)I" } : Jvm.MethodName) prog_19_method_76_code (3 : Nat) (Option.some Jvm.ClassFile.FieldType.int)) ∈ lw_all := lw_g (lw_at lw_m7 92 rfl) rfl
theorem q1618 : (Jvm.Cond.methodLink "PictureBlockModel" (249 : Nat) ({ cls := "PictureBlockModel", name := "doStay", desc := "(I)Z" } : Jvm.MethodName)) ∈ lw_all := lw_g (lw_at lw_m7 93 rfl) rfl
theorem q1619 : (Jvm.Cond.privateMethod ({ cls := "PictureBlockModel", name := "doStay", desc := "(I)Z" } : Jvm.MethodName)) ∈ lw_tbl := lw_at lw_m7 94 rfl
theorem q1620 : (Jvm.Cond.instanceMethod ({ cls := "PictureBlockModel", name := "doStay", desc := "(I)Z" } : Jvm.MethodName)) ∈ lw_all := lw_g (lw_at lw_m7 95 rfl) rfl
theorem q1621 : (Jvm.Cond.code ({ cls := "PictureBlockModel", name := "doStay", desc := "(I)Z" } : Jvm.MethodName) prog_19_method_75_code (5 : Nat) (Option.some Jvm.ClassFile.FieldType.boolean)) ∈ lw_all := lw_g (lw_at lw_m7 96 rfl) rfl
theorem q1623 : (Jvm.Cond.instanceMethod ({ cls := "PictureBlockModel", name := "toldFor", desc := "(I)I" } : Jvm.MethodName)) ∈ lw_all := lw_g (lw_at lw_m7 98 rfl) rfl
theorem q1624 : (Jvm.Cond.selects "PictureBlockModel" ({ cls := "PictureBlockModel", name := "toldFor", desc := "(I)I" } : Jvm.MethodName) ({ cls := "PictureBlockModel", name := "toldFor", desc := "(I)I" } : Jvm.MethodName)) ∈ lw_all := lw_g (lw_at lw_m7 99 rfl) rfl
theorem q1625 : (Jvm.Cond.code ({ cls := "PictureBlockModel", name := "toldFor", desc := "(I)I" } : Jvm.MethodName) prog_19_method_77_code (10 : Nat) (Option.some Jvm.ClassFile.FieldType.int)) ∈ lw_all := lw_g (lw_at lw_m7 100 rfl) rfl
theorem q1626 : (Jvm.Cond.constantLong "PictureBlockModel" (252 : Nat) (-1 : Int64)) ∈ lw_all := lw_g (lw_at lw_m7 101 rfl) rfl
theorem q1628 : (Jvm.Cond.instanceMethod ({ cls := "PictureBlockModel", name := "odds", desc := "(III)I" } : Jvm.MethodName)) ∈ lw_all := lw_g (lw_at lw_m7 103 rfl) rfl
theorem q1629 : (Jvm.Cond.selects "PictureBlockModel" ({ cls := "PictureBlockModel", name := "odds", desc := "(III)I" } : Jvm.MethodName) ({ cls := "PictureBlockModel", name := "odds", desc := "(III)I" } : Jvm.MethodName)) ∈ lw_all := lw_g (lw_at lw_m7 104 rfl) rfl
theorem q1630 : (Jvm.Cond.code ({ cls := "PictureBlockModel", name := "odds", desc := "(III)I" } : Jvm.MethodName) prog_19_method_78_code (7 : Nat) (Option.some Jvm.ClassFile.FieldType.int)) ∈ lw_all := lw_g (lw_at lw_m7 105 rfl) rfl
theorem q1631 : (Jvm.Cond.constantLong "PictureBlockModel" (254 : Nat) (41 : Int64)) ∈ lw_all := lw_g (lw_at lw_m7 106 rfl) rfl
theorem q1633 : (Jvm.Cond.instanceMethod ({ cls := "PictureBlockModel", name := "fits", desc := "(III)I" } : Jvm.MethodName)) ∈ lw_all := lw_g (lw_at lw_m7 108 rfl) rfl
theorem q1634 : (Jvm.Cond.selects "PictureBlockModel" ({ cls := "PictureBlockModel", name := "fits", desc := "(III)I" } : Jvm.MethodName) ({ cls := "PictureBlockModel", name := "fits", desc := "(III)I" } : Jvm.MethodName)) ∈ lw_all := lw_g (lw_at lw_m7 109 rfl) rfl
theorem q1635 : (Jvm.Cond.code ({ cls := "PictureBlockModel", name := "fits", desc := "(III)I" } : Jvm.MethodName) prog_19_method_80_code (6 : Nat) (Option.some Jvm.ClassFile.FieldType.int)) ∈ lw_all := lw_g (lw_at lw_m7 110 rfl) rfl
theorem q1636 : (Jvm.Cond.methodLink "PictureBlockModel" (256 : Nat) ({ cls := "PictureBlockModel", name := "isSheet", desc := "(I)Z" } : Jvm.MethodName)) ∈ lw_all := lw_g (lw_at lw_m7 111 rfl) rfl
theorem q1637 : (Jvm.Cond.static ({ cls := "PictureBlockModel", name := "isSheet", desc := "(I)Z" } : Jvm.MethodName)) ∈ lw_all := lw_g (lw_at lw_m7 112 rfl) rfl
theorem q1638 : (Jvm.Cond.code ({ cls := "PictureBlockModel", name := "isSheet", desc := "(I)Z" } : Jvm.MethodName) prog_19_method_94_code (1 : Nat) (Option.some Jvm.ClassFile.FieldType.boolean)) ∈ lw_all := lw_g (lw_at lw_m7 113 rfl) rfl
theorem q1639 : (Jvm.Cond.methodLink "PictureBlockModel" (259 : Nat) ({ cls := "PictureBlockModel", name := "isSo", desc := "(I)Z" } : Jvm.MethodName)) ∈ lw_all := lw_g (lw_at lw_m7 114 rfl) rfl
theorem q1640 : (Jvm.Cond.privateMethod ({ cls := "PictureBlockModel", name := "isSo", desc := "(I)Z" } : Jvm.MethodName)) ∈ lw_tbl := lw_at lw_m7 115 rfl
theorem q1641 : (Jvm.Cond.instanceMethod ({ cls := "PictureBlockModel", name := "isSo", desc := "(I)Z" } : Jvm.MethodName)) ∈ lw_all := lw_g (lw_at lw_m7 116 rfl) rfl
theorem q1642 : (Jvm.Cond.code ({ cls := "PictureBlockModel", name := "isSo", desc := "(I)Z" } : Jvm.MethodName) prog_19_method_79_code (4 : Nat) (Option.some Jvm.ClassFile.FieldType.boolean)) ∈ lw_all := lw_g (lw_at lw_m7 117 rfl) rfl
theorem q1644 : (Jvm.Cond.instanceMethod ({ cls := "PictureBlockModel", name := "voice", desc := "(III)I" } : Jvm.MethodName)) ∈ lw_all := lw_g (lw_at lw_m7 119 rfl) rfl
theorem q1645 : (Jvm.Cond.selects "PictureBlockModel" ({ cls := "PictureBlockModel", name := "voice", desc := "(III)I" } : Jvm.MethodName) ({ cls := "PictureBlockModel", name := "voice", desc := "(III)I" } : Jvm.MethodName)) ∈ lw_all := lw_g (lw_at lw_m7 120 rfl) rfl
theorem q1646 : (Jvm.Cond.code ({ cls := "PictureBlockModel", name := "voice", desc := "(III)I" } : Jvm.MethodName) prog_19_method_92_code (5 : Nat) (Option.some Jvm.ClassFile.FieldType.int)) ∈ lw_all := lw_g (lw_at lw_m7 121 rfl) rfl
theorem q1647 : (Jvm.Cond.methodLink "PictureBlockModel" (274 : Nat) ({ cls := "PictureBlockModel", name := "weighs", desc := "(II)I" } : Jvm.MethodName)) ∈ lw_all := lw_g (lw_at lw_m7 122 rfl) rfl
theorem q1648 : (Jvm.Cond.privateMethod ({ cls := "PictureBlockModel", name := "weighs", desc := "(II)I" } : Jvm.MethodName)) ∈ lw_tbl := lw_at lw_m7 123 rfl
theorem q1649 : (Jvm.Cond.instanceMethod ({ cls := "PictureBlockModel", name := "weighs", desc := "(II)I" } : Jvm.MethodName)) ∈ lw_all := lw_g (lw_at lw_m7 124 rfl) rfl
theorem q1650 : (Jvm.Cond.code ({ cls := "PictureBlockModel", name := "weighs", desc := "(II)I" } : Jvm.MethodName) prog_19_method_84_code (3 : Nat) (Option.some Jvm.ClassFile.FieldType.int)) ∈ lw_all := lw_g (lw_at lw_m7 125 rfl) rfl
theorem q1651 : (Jvm.Cond.methodLink "PictureBlockModel" (271 : Nat) ({ cls := "PictureBlockModel", name := "flatWeighs", desc := "(II)I" } : Jvm.MethodName)) ∈ lw_all := lw_g (lw_at lw_m7 126 rfl) rfl
theorem q1652 : (Jvm.Cond.privateMethod ({ cls := "PictureBlockModel", name := "flatWeighs", desc := "(II)I" } : Jvm.MethodName)) ∈ lw_tbl := lw_at lw_m7 127 rfl
theorem q1653 : (Jvm.Cond.instanceMethod ({ cls := "PictureBlockModel", name := "flatWeighs", desc := "(II)I" } : Jvm.MethodName)) ∈ lw_all := lw_g (lw_at lw_m7 128 rfl) rfl
theorem q1654 : (Jvm.Cond.code ({ cls := "PictureBlockModel", name := "flatWeighs", desc := "(II)I" } : Jvm.MethodName) prog_19_method_83_code (3 : Nat) (Option.some Jvm.ClassFile.FieldType.int)) ∈ lw_all := lw_g (lw_at lw_m7 129 rfl) rfl
theorem q1655 : (Jvm.Cond.methodLink "PictureBlockModel" (265 : Nat) ({ cls := "PictureBlockModel", name := "begins", desc := "(I)V" } : Jvm.MethodName)) ∈ lw_all := lw_g (lw_at lw_m7 130 rfl) rfl
theorem q1656 : (Jvm.Cond.privateMethod ({ cls := "PictureBlockModel", name := "begins", desc := "(I)V" } : Jvm.MethodName)) ∈ lw_tbl := lw_at lw_m7 131 rfl
theorem q1657 : (Jvm.Cond.instanceMethod ({ cls := "PictureBlockModel", name := "begins", desc := "(I)V" } : Jvm.MethodName)) ∈ lw_all := lw_g (lw_at lw_m7 132 rfl) rfl
theorem q1658 : (Jvm.Cond.code ({ cls := "PictureBlockModel", name := "begins", desc := "(I)V" } : Jvm.MethodName) prog_19_method_81_code (2 : Nat) (Option.none : Option Jvm.ClassFile.FieldType)) ∈ lw_all := lw_g (lw_at lw_m7 133 rfl) rfl
theorem q1659 : (Jvm.Cond.methodLink "PictureBlockModel" (268 : Nat) ({ cls := "PictureBlockModel", name := "plainWeighs", desc := "(II)I" } : Jvm.MethodName)) ∈ lw_all := lw_g (lw_at lw_m7 134 rfl) rfl
theorem q1660 : (Jvm.Cond.privateMethod ({ cls := "PictureBlockModel", name := "plainWeighs", desc := "(II)I" } : Jvm.MethodName)) ∈ lw_tbl := lw_at lw_m7 135 rfl
theorem q1661 : (Jvm.Cond.instanceMethod ({ cls := "PictureBlockModel", name := "plainWeighs", desc := "(II)I" } : Jvm.MethodName)) ∈ lw_all := lw_g (lw_at lw_m7 136 rfl) rfl
theorem q1662 : (Jvm.Cond.code ({ cls := "PictureBlockModel", name := "plainWeighs", desc := "(II)I" } : Jvm.MethodName) prog_19_method_82_code (3 : Nat) (Option.some Jvm.ClassFile.FieldType.int)) ∈ lw_all := lw_g (lw_at lw_m7 137 rfl) rfl
theorem q1663 : (Jvm.Cond.methodLink "PictureBlockModel" (283 : Nat) ({ cls := "PictureBlockModel", name := "says", desc := "(II)I" } : Jvm.MethodName)) ∈ lw_all := lw_g (lw_at lw_m7 138 rfl) rfl
theorem q1664 : (Jvm.Cond.privateMethod ({ cls := "PictureBlockModel", name := "says", desc := "(II)I" } : Jvm.MethodName)) ∈ lw_tbl := lw_at lw_m7 139 rfl
theorem q1665 : (Jvm.Cond.instanceMethod ({ cls := "PictureBlockModel", name := "says", desc := "(II)I" } : Jvm.MethodName)) ∈ lw_all := lw_g (lw_at lw_m7 140 rfl) rfl
theorem q1666 : (Jvm.Cond.code ({ cls := "PictureBlockModel", name := "says", desc := "(II)I" } : Jvm.MethodName) prog_19_method_87_code (3 : Nat) (Option.some Jvm.ClassFile.FieldType.int)) ∈ lw_all := lw_g (lw_at lw_m7 141 rfl) rfl
theorem q1667 : (Jvm.Cond.methodLink "PictureBlockModel" (280 : Nat) ({ cls := "PictureBlockModel", name := "starSays", desc := "(II)I" } : Jvm.MethodName)) ∈ lw_all := lw_g (lw_at lw_m7 142 rfl) rfl
theorem q1668 : (Jvm.Cond.privateMethod ({ cls := "PictureBlockModel", name := "starSays", desc := "(II)I" } : Jvm.MethodName)) ∈ lw_tbl := lw_at lw_m7 143 rfl
theorem q1669 : (Jvm.Cond.instanceMethod ({ cls := "PictureBlockModel", name := "starSays", desc := "(II)I" } : Jvm.MethodName)) ∈ lw_all := lw_g (lw_at lw_m7 144 rfl) rfl
theorem q1670 : (Jvm.Cond.code ({ cls := "PictureBlockModel", name := "starSays", desc := "(II)I" } : Jvm.MethodName) prog_19_method_86_code (3 : Nat) (Option.some Jvm.ClassFile.FieldType.int)) ∈ lw_all := lw_g (lw_at lw_m7 145 rfl) rfl
theorem q1671 : (Jvm.Cond.methodLink "PictureBlockModel" (277 : Nat) ({ cls := "PictureBlockModel", name := "plainSays", desc := "(II)I" } : Jvm.MethodName)) ∈ lw_all := lw_g (lw_at lw_m7 146 rfl) rfl
theorem q1672 : (Jvm.Cond.privateMethod ({ cls := "PictureBlockModel", name := "plainSays", desc := "(II)I" } : Jvm.MethodName)) ∈ lw_tbl := lw_at lw_m7 147 rfl
theorem q1673 : (Jvm.Cond.instanceMethod ({ cls := "PictureBlockModel", name := "plainSays", desc := "(II)I" } : Jvm.MethodName)) ∈ lw_all := lw_g (lw_at lw_m7 148 rfl) rfl
theorem q1674 : (Jvm.Cond.code ({ cls := "PictureBlockModel", name := "plainSays", desc := "(II)I" } : Jvm.MethodName) prog_19_method_85_code (3 : Nat) (Option.some Jvm.ClassFile.FieldType.int)) ∈ lw_all := lw_g (lw_at lw_m7 149 rfl) rfl
theorem q1675 : (Jvm.Cond.methodLink "PictureBlockModel" (295 : Nat) ({ cls := "PictureBlockModel", name := "ties", desc := "(II)I" } : Jvm.MethodName)) ∈ lw_all := lw_g (lw_at lw_m7 150 rfl) rfl
theorem q1676 : (Jvm.Cond.privateMethod ({ cls := "PictureBlockModel", name := "ties", desc := "(II)I" } : Jvm.MethodName)) ∈ lw_tbl := lw_at lw_m7 151 rfl
theorem q1677 : (Jvm.Cond.instanceMethod ({ cls := "PictureBlockModel", name := "ties", desc := "(II)I" } : Jvm.MethodName)) ∈ lw_all := lw_g (lw_at lw_m7 152 rfl) rfl
theorem q1678 : (Jvm.Cond.code ({ cls := "PictureBlockModel", name := "ties", desc := "(II)I" } : Jvm.MethodName) prog_19_method_89_code (3 : Nat) (Option.some Jvm.ClassFile.FieldType.int)) ∈ lw_all := lw_g (lw_at lw_m7 153 rfl) rfl
theorem q1679 : (Jvm.Cond.methodLink "PictureBlockModel" (286 : Nat) ({ cls := "PictureBlockModel", name := "plainTies", desc := "(II)I" } : Jvm.MethodName)) ∈ lw_all := lw_g (lw_at lw_m7 154 rfl) rfl
theorem q1680 : (Jvm.Cond.privateMethod ({ cls := "PictureBlockModel", name := "plainTies", desc := "(II)I" } : Jvm.MethodName)) ∈ lw_tbl := lw_at lw_m7 155 rfl
theorem q1681 : (Jvm.Cond.instanceMethod ({ cls := "PictureBlockModel", name := "plainTies", desc := "(II)I" } : Jvm.MethodName)) ∈ lw_all := lw_g (lw_at lw_m7 156 rfl) rfl
theorem q1682 : (Jvm.Cond.code ({ cls := "PictureBlockModel", name := "plainTies", desc := "(II)I" } : Jvm.MethodName) prog_19_method_88_code (3 : Nat) (Option.some Jvm.ClassFile.FieldType.int)) ∈ lw_all := lw_g (lw_at lw_m7 157 rfl) rfl
theorem q1683 : (Jvm.Cond.methodLink "PictureBlockModel" (298 : Nat) ({ cls := "PictureBlockModel", name := "partsBy", desc := "(II)I" } : Jvm.MethodName)) ∈ lw_all := lw_g (lw_at lw_m7 158 rfl) rfl
theorem q1684 : (Jvm.Cond.privateMethod ({ cls := "PictureBlockModel", name := "partsBy", desc := "(II)I" } : Jvm.MethodName)) ∈ lw_tbl := lw_at lw_m7 159 rfl
theorem q1685 : (Jvm.Cond.instanceMethod ({ cls := "PictureBlockModel", name := "partsBy", desc := "(II)I" } : Jvm.MethodName)) ∈ lw_all := lw_g (lw_at lw_m7 160 rfl) rfl
theorem q1686 : (Jvm.Cond.code ({ cls := "PictureBlockModel", name := "partsBy", desc := "(II)I" } : Jvm.MethodName) prog_19_method_91_code (4 : Nat) (Option.some Jvm.ClassFile.FieldType.int)) ∈ lw_all := lw_g (lw_at lw_m7 161 rfl) rfl
theorem q1687 : (Jvm.Cond.methodLink "PictureBlockModel" (292 : Nat) ({ cls := "PictureBlockModel", name := "plainParts", desc := "(II)I" } : Jvm.MethodName)) ∈ lw_all := lw_g (lw_at lw_m7 162 rfl) rfl
theorem q1688 : (Jvm.Cond.privateMethod ({ cls := "PictureBlockModel", name := "plainParts", desc := "(II)I" } : Jvm.MethodName)) ∈ lw_tbl := lw_at lw_m7 163 rfl
theorem q1689 : (Jvm.Cond.instanceMethod ({ cls := "PictureBlockModel", name := "plainParts", desc := "(II)I" } : Jvm.MethodName)) ∈ lw_all := lw_g (lw_at lw_m7 164 rfl) rfl
theorem q1690 : (Jvm.Cond.code ({ cls := "PictureBlockModel", name := "plainParts", desc := "(II)I" } : Jvm.MethodName) prog_19_method_90_code (4 : Nat) (Option.some Jvm.ClassFile.FieldType.int)) ∈ lw_all := lw_g (lw_at lw_m7 165 rfl) rfl
theorem q1691 : (Jvm.Cond.constant "PictureBlockModel" (301 : Nat) (-1000000006 : Int32)) ∈ lw_all := lw_g (lw_at lw_m7 166 rfl) rfl
theorem q1693 : (Jvm.Cond.instanceMethod ({ cls := "PictureBlockModel", name := "body", desc := "(I)I" } : Jvm.MethodName)) ∈ lw_all := lw_g (lw_at lw_m7 168 rfl) rfl
theorem q1694 : (Jvm.Cond.selects "PictureBlockModel" ({ cls := "PictureBlockModel", name := "body", desc := "(I)I" } : Jvm.MethodName) ({ cls := "PictureBlockModel", name := "body", desc := "(I)I" } : Jvm.MethodName)) ∈ lw_all := lw_g (lw_at lw_m7 169 rfl) rfl
theorem q1695 : (Jvm.Cond.code ({ cls := "PictureBlockModel", name := "body", desc := "(I)I" } : Jvm.MethodName) prog_19_method_93_code (2 : Nat) (Option.some Jvm.ClassFile.FieldType.int)) ∈ lw_all := lw_g (lw_at lw_m7 170 rfl) rfl
theorem q1697 : (Jvm.Cond.instanceMethod ({ cls := "PictureBlockModel", name := "sheet", desc := "(III)I" } : Jvm.MethodName)) ∈ lw_all := lw_g (lw_at lw_m7 172 rfl) rfl
theorem q1698 : (Jvm.Cond.selects "PictureBlockModel" ({ cls := "PictureBlockModel", name := "sheet", desc := "(III)I" } : Jvm.MethodName) ({ cls := "PictureBlockModel", name := "sheet", desc := "(III)I" } : Jvm.MethodName)) ∈ lw_all := lw_g (lw_at lw_m7 173 rfl) rfl
theorem q1699 : (Jvm.Cond.code ({ cls := "PictureBlockModel", name := "sheet", desc := "(III)I" } : Jvm.MethodName) prog_19_method_95_code (5 : Nat) (Option.some Jvm.ClassFile.FieldType.int)) ∈ lw_all := lw_g (lw_at lw_m7 174 rfl) rfl
theorem q1701 : (Jvm.Cond.instanceMethod ({ cls := "PictureBlockModel", name := "put", desc := "(III)I" } : Jvm.MethodName)) ∈ lw_all := lw_g (lw_at lw_m7 176 rfl) rfl
theorem q1702 : (Jvm.Cond.selects "PictureBlockModel" ({ cls := "PictureBlockModel", name := "put", desc := "(III)I" } : Jvm.MethodName) ({ cls := "PictureBlockModel", name := "put", desc := "(III)I" } : Jvm.MethodName)) ∈ lw_all := lw_g (lw_at lw_m7 177 rfl) rfl
theorem q1703 : (Jvm.Cond.code ({ cls := "PictureBlockModel", name := "put", desc := "(III)I" } : Jvm.MethodName) prog_19_method_97_code (5 : Nat) (Option.some Jvm.ClassFile.FieldType.int)) ∈ lw_all := lw_g (lw_at lw_m7 178 rfl) rfl
theorem q1704 : (Jvm.Cond.methodLink "PictureBlockModel" (302 : Nat) ({ cls := "PictureBlockModel", name := "notThere", desc := "(I)I" } : Jvm.MethodName)) ∈ lw_all := lw_g (lw_at lw_m7 179 rfl) rfl
theorem q1705 : (Jvm.Cond.privateMethod ({ cls := "PictureBlockModel", name := "notThere", desc := "(I)I" } : Jvm.MethodName)) ∈ lw_tbl := lw_at lw_m7 180 rfl
theorem q1706 : (Jvm.Cond.instanceMethod ({ cls := "PictureBlockModel", name := "notThere", desc := "(I)I" } : Jvm.MethodName)) ∈ lw_all := lw_g (lw_at lw_m7 181 rfl) rfl
theorem q1707 : (Jvm.Cond.code ({ cls := "PictureBlockModel", name := "notThere", desc := "(I)I" } : Jvm.MethodName) prog_19_method_96_code (2 : Nat) (Option.some Jvm.ClassFile.FieldType.int)) ∈ lw_all := lw_g (lw_at lw_m7 182 rfl) rfl
theorem q1709 : (Jvm.Cond.instanceMethod ({ cls := "PictureBlockModel", name := "move", desc := "(IIIII)I" } : Jvm.MethodName)) ∈ lw_all := lw_g (lw_at lw_m7 184 rfl) rfl
theorem q1710 : (Jvm.Cond.selects "PictureBlockModel" ({ cls := "PictureBlockModel", name := "move", desc := "(IIIII)I" } : Jvm.MethodName) ({ cls := "PictureBlockModel", name := "move", desc := "(IIIII)I" } : Jvm.MethodName)) ∈ lw_all := lw_g (lw_at lw_m7 185 rfl) rfl
theorem q1711 : (Jvm.Cond.code ({ cls := "PictureBlockModel", name := "move", desc := "(IIIII)I" } : Jvm.MethodName) prog_19_method_99_code (9 : Nat) (Option.some Jvm.ClassFile.FieldType.int)) ∈ lw_all := lw_g (lw_at lw_m7 186 rfl) rfl
theorem q1712 : (Jvm.Cond.methodLink "PictureBlockModel" (305 : Nat) ({ cls := "PictureBlockModel", name := "notMoved", desc := "(IIIII)I" } : Jvm.MethodName)) ∈ lw_all := lw_g (lw_at lw_m7 187 rfl) rfl
theorem q1713 : (Jvm.Cond.privateMethod ({ cls := "PictureBlockModel", name := "notMoved", desc := "(IIIII)I" } : Jvm.MethodName)) ∈ lw_tbl := lw_at lw_m7 188 rfl
theorem q1714 : (Jvm.Cond.instanceMethod ({ cls := "PictureBlockModel", name := "notMoved", desc := "(IIIII)I" } : Jvm.MethodName)) ∈ lw_all := lw_g (lw_at lw_m7 189 rfl) rfl
theorem q1715 : (Jvm.Cond.code ({ cls := "PictureBlockModel", name := "notMoved", desc := "(IIIII)I" } : Jvm.MethodName) prog_19_method_98_code (7 : Nat) (Option.some Jvm.ClassFile.FieldType.int)) ∈ lw_all := lw_g (lw_at lw_m7 190 rfl) rfl
theorem q1717 : (Jvm.Cond.instanceMethod ({ cls := "PictureBlockModel", name := "tells", desc := "(I)I" } : Jvm.MethodName)) ∈ lw_all := lw_g (lw_at lw_m7 192 rfl) rfl
theorem q1718 : (Jvm.Cond.selects "PictureBlockModel" ({ cls := "PictureBlockModel", name := "tells", desc := "(I)I" } : Jvm.MethodName) ({ cls := "PictureBlockModel", name := "tells", desc := "(I)I" } : Jvm.MethodName)) ∈ lw_all := lw_g (lw_at lw_m7 193 rfl) rfl
theorem q1719 : (Jvm.Cond.code ({ cls := "PictureBlockModel", name := "tells", desc := "(I)I" } : Jvm.MethodName) prog_19_method_100_code (4 : Nat) (Option.some Jvm.ClassFile.FieldType.int)) ∈ lw_all := lw_g (lw_at lw_m7 194 rfl) rfl
theorem q1721 : (Jvm.Cond.instanceMethod ({ cls := "PictureBlockModel", name := "judge", desc := "(I)I" } : Jvm.MethodName)) ∈ lw_all := lw_g (lw_at lw_m7 196 rfl) rfl
theorem q1722 : (Jvm.Cond.selects "PictureBlockModel" ({ cls := "PictureBlockModel", name := "judge", desc := "(I)I" } : Jvm.MethodName) ({ cls := "PictureBlockModel", name := "judge", desc := "(I)I" } : Jvm.MethodName)) ∈ lw_all := lw_g (lw_at lw_m7 197 rfl) rfl
theorem q1723 : (Jvm.Cond.code ({ cls := "PictureBlockModel", name := "judge", desc := "(I)I" } : Jvm.MethodName) prog_19_method_101_code (4 : Nat) (Option.some Jvm.ClassFile.FieldType.int)) ∈ lw_all := lw_g (lw_at lw_m7 198 rfl) rfl
theorem q1725 : (Jvm.Cond.instanceMethod ({ cls := "PictureBlockModel", name := "image", desc := "()I" } : Jvm.MethodName)) ∈ lw_all := lw_g (lw_at lw_m7 200 rfl) rfl
theorem q1726 : (Jvm.Cond.selects "PictureBlockModel" ({ cls := "PictureBlockModel", name := "image", desc := "()I" } : Jvm.MethodName) ({ cls := "PictureBlockModel", name := "image", desc := "()I" } : Jvm.MethodName)) ∈ lw_all := lw_g (lw_at lw_m7 201 rfl) rfl
theorem q1727 : (Jvm.Cond.code ({ cls := "PictureBlockModel", name := "image", desc := "()I" } : Jvm.MethodName) prog_19_method_102_code (1 : Nat) (Option.some Jvm.ClassFile.FieldType.int)) ∈ lw_all := lw_g (lw_at lw_m7 202 rfl) rfl
theorem q1729 : (Jvm.Cond.instanceMethod ({ cls := "PictureBlockModel", name := "restore", desc := "()I" } : Jvm.MethodName)) ∈ lw_all := lw_g (lw_at lw_m7 204 rfl) rfl
theorem q1730 : (Jvm.Cond.selects "PictureBlockModel" ({ cls := "PictureBlockModel", name := "restore", desc := "()I" } : Jvm.MethodName) ({ cls := "PictureBlockModel", name := "restore", desc := "()I" } : Jvm.MethodName)) ∈ lw_all := lw_g (lw_at lw_m7 205 rfl) rfl
theorem q1731 : (Jvm.Cond.code ({ cls := "PictureBlockModel", name := "restore", desc := "()I" } : Jvm.MethodName) prog_19_method_103_code (1 : Nat) (Option.some Jvm.ClassFile.FieldType.int)) ∈ lw_all := lw_g (lw_at lw_m7 206 rfl) rfl
theorem q1733 : (Jvm.Cond.instanceMethod ({ cls := "PictureBlockModel", name := "tell", desc := "(I)I" } : Jvm.MethodName)) ∈ lw_all := lw_g (lw_at lw_m7 208 rfl) rfl
theorem q1734 : (Jvm.Cond.selects "PictureBlockModel" ({ cls := "PictureBlockModel", name := "tell", desc := "(I)I" } : Jvm.MethodName) ({ cls := "PictureBlockModel", name := "tell", desc := "(I)I" } : Jvm.MethodName)) ∈ lw_all := lw_g (lw_at lw_m7 209 rfl) rfl
theorem q1735 : (Jvm.Cond.code ({ cls := "PictureBlockModel", name := "tell", desc := "(I)I" } : Jvm.MethodName) prog_19_method_104_code (2 : Nat) (Option.some Jvm.ClassFile.FieldType.int)) ∈ lw_all := lw_g (lw_at lw_m7 210 rfl) rfl
theorem q1737 : (Jvm.Cond.instanceMethod ({ cls := "PictureBlockModel", name := "check", desc := "()I" } : Jvm.MethodName)) ∈ lw_all := lw_g (lw_at lw_m7 212 rfl) rfl
theorem q1738 : (Jvm.Cond.selects "PictureBlockModel" ({ cls := "PictureBlockModel", name := "check", desc := "()I" } : Jvm.MethodName) ({ cls := "PictureBlockModel", name := "check", desc := "()I" } : Jvm.MethodName)) ∈ lw_all := lw_g (lw_at lw_m7 213 rfl) rfl
theorem q1739 : (Jvm.Cond.code ({ cls := "PictureBlockModel", name := "check", desc := "()I" } : Jvm.MethodName) prog_19_method_105_code (3 : Nat) (Option.some Jvm.ClassFile.FieldType.int)) ∈ lw_all := lw_g (lw_at lw_m7 214 rfl) rfl
theorem q1741 : (Jvm.Cond.instanceMethod ({ cls := "PictureBlockModel", name := "count", desc := "(I)I" } : Jvm.MethodName)) ∈ lw_all := lw_g (lw_at lw_m7 216 rfl) rfl
theorem q1742 : (Jvm.Cond.selects "PictureBlockModel" ({ cls := "PictureBlockModel", name := "count", desc := "(I)I" } : Jvm.MethodName) ({ cls := "PictureBlockModel", name := "count", desc := "(I)I" } : Jvm.MethodName)) ∈ lw_all := lw_g (lw_at lw_m7 217 rfl) rfl
theorem q1743 : (Jvm.Cond.code ({ cls := "PictureBlockModel", name := "count", desc := "(I)I" } : Jvm.MethodName) prog_19_method_106_code (2 : Nat) (Option.some Jvm.ClassFile.FieldType.int)) ∈ lw_all := lw_g (lw_at lw_m7 218 rfl) rfl
theorem q1745 : (Jvm.Cond.instanceMethod ({ cls := "PictureBlockModel", name := "told", desc := "(I)I" } : Jvm.MethodName)) ∈ lw_all := lw_g (lw_at lw_m7 220 rfl) rfl
theorem q1746 : (Jvm.Cond.selects "PictureBlockModel" ({ cls := "PictureBlockModel", name := "told", desc := "(I)I" } : Jvm.MethodName) ({ cls := "PictureBlockModel", name := "told", desc := "(I)I" } : Jvm.MethodName)) ∈ lw_all := lw_g (lw_at lw_m7 221 rfl) rfl
theorem q1747 : (Jvm.Cond.code ({ cls := "PictureBlockModel", name := "told", desc := "(I)I" } : Jvm.MethodName) prog_19_method_107_code (2 : Nat) (Option.some Jvm.ClassFile.FieldType.int)) ∈ lw_all := lw_g (lw_at lw_m7 222 rfl) rfl
theorem in_X4 : ∀ w ∈ wsX40, w ∈ lw_all := lw_in wsX40 [1273, 1275, 1277, 1279, 1281, 1283, 1285, 1287, 1289, 1291, 1293, 1295, 1297, 1299, 1301, 1303, 1305, 1307, 1309, 1311, 1313, 1315, 1317, 1319] (by decide +kernel) (by decide +kernel)
